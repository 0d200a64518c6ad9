/-! THE ABSTRACT MACHINE: runs of a method's body, over any state S and any further instructions X -/
set_option maxRecDepth 100000
abbrev zw_F (S : Type) : Type := Nat × zc_L × List Value × S
abbrev zw_X (S : Type) : Type := Instr → Nat → Nat → zc_L → List Value → S → (zw_F S → Prop) → Prop
/-- a method's end: what is on the stack, and what it answers -/
def zw_ret (rt : Option FieldType) (i : Instr) (len : Nat) (st : List Value) (v : Option Value) : Prop :=
  (∃ x ty, i = .ireturn ∧ len = 1 ∧ st = [.int x] ∧ rt = some ty ∧ ty ≠ .long ∧ narrow ty (.int x) = .int x ∧ v = some (.int x)) ∨
  (∃ x, i = .lreturn ∧ len = 1 ∧ st = [.long x] ∧ rt = some .long ∧ v = some (.long x)) ∨
  (i = .return_ ∧ len = 1 ∧ st = [] ∧ rt = none ∧ v = none)
def zw_step {S : Type} (X : zw_X S) (rt : Option FieldType) (cc : ByteArray) (Q : Option Value → S → Prop) (rec : zw_F S → Prop) (f : zw_F S) : Prop :=
  ∃ i len, decode cc f.1 = .ok (i, len) ∧
    ((∃ pc' lv' st', zc_next i len f.1 f.2.1 f.2.2.1 = some (pc', lv', st') ∧ rec (pc', lv', st', f.2.2.2)) ∨
     (∃ cnd t st', zc_br i len f.1 f.2.2.1 = some (cnd, t, st') ∧ (cnd → rec (t, f.2.1, st', f.2.2.2)) ∧ (¬ cnd → rec (f.1 + 3, f.2.1, st', f.2.2.2))) ∨
     (∃ g st', zc_gd i len f.2.2.1 = some (g, st') ∧ g ∧ rec (f.1 + 1, f.2.1, st', f.2.2.2)) ∨
     (∃ off t st', zc_sw i f.1 f.2.2.1 = some (off, st') ∧ zc_tgt f.1 off = some t ∧ rec (t, f.2.1, st', f.2.2.2)) ∨
     (∃ v, zw_ret rt i len f.2.2.1 v ∧ Q v f.2.2.2) ∨
     X i len f.1 f.2.1 f.2.2.1 f.2.2.2 rec)
def zw_P {S : Type} (X : zw_X S) (rt : Option FieldType) (cc : ByteArray) (Q : Option Value → S → Prop) (f : zw_F S) : Prop :=
  ∀ P : zw_F S → Prop, (∀ g, zw_step X rt cc Q P g → P g) → P f
def zw_mono {S : Type} (X : zw_X S) : Prop := ∀ (P P' : zw_F S → Prop), (∀ g, P g → P' g) → ∀ i len pc lv st σ, X i len pc lv st σ P → X i len pc lv st σ P'
theorem zw_step_mono {S : Type} {X : zw_X S} (hm : zw_mono X) {rt : Option FieldType} {cc : ByteArray} {Q Q' : Option Value → S → Prop} (hQ : ∀ v u, Q v u → Q' v u) {P P' : zw_F S → Prop} (h : ∀ g, P g → P' g) {f : zw_F S} (hs : zw_step X rt cc Q P f) : zw_step X rt cc Q' P' f := by
  obtain ⟨i, len, hd, hs⟩ := hs
  refine ⟨i, len, hd, ?_⟩
  rcases hs with ⟨pc', lv', st', h1, h2⟩ | ⟨cnd, t, st', h1, h2, h3⟩ | ⟨g, st', h1, h2, h3⟩ | ⟨off, t, st', h1, h2, h3⟩ | ⟨v, h1, h2⟩ | hx
  · exact Or.inl ⟨pc', lv', st', h1, h _ h2⟩
  · exact Or.inr (Or.inl ⟨cnd, t, st', h1, fun q => h _ (h2 q), fun q => h _ (h3 q)⟩)
  · exact Or.inr (Or.inr (Or.inl ⟨g, st', h1, h2, h _ h3⟩))
  · exact Or.inr (Or.inr (Or.inr (Or.inl ⟨off, t, st', h1, h2, h _ h3⟩)))
  · exact Or.inr (Or.inr (Or.inr (Or.inr (Or.inl ⟨v, h1, hQ _ _ h2⟩))))
  · exact Or.inr (Or.inr (Or.inr (Or.inr (Or.inr (hm P P' h _ _ _ _ _ _ hx)))))
theorem zw_in {S : Type} {X : zw_X S} (hm : zw_mono X) {rt : Option FieldType} {cc : ByteArray} {Q : Option Value → S → Prop} {f : zw_F S} (h : zw_step X rt cc Q (zw_P X rt cc Q) f) : zw_P X rt cc Q f := by
  intro P hP
  exact hP f (zw_step_mono hm (fun _ _ q => q) (fun g hg => hg P hP) h)
theorem zw_cq {S : Type} {X : zw_X S} (hm : zw_mono X) {rt : Option FieldType} {cc : ByteArray} {Q Q' : Option Value → S → Prop} (hQ : ∀ v u, Q v u → Q' v u) {f : zw_F S} (h : zw_P X rt cc Q f) : zw_P X rt cc Q' f :=
  h (zw_P X rt cc Q') (fun _ hg => zw_in hm (zw_step_mono hm hQ (fun _ q => q) hg))
section ZW
variable {S : Type} {X : zw_X S} {rt : Option FieldType} {cc : ByteArray} {Q : Option Value → S → Prop} {i : Instr} {len pc : Nat} {lv : zc_L} {st : List Value} {σ : S}
theorem zw_n (hm : zw_mono X) (hd : decode cc pc = .ok (i, len)) {pc' : Nat} {lv' : zc_L} {st' : List Value} (hn : zc_next i len pc lv st = some (pc', lv', st')) (k : zw_P X rt cc Q (pc', lv', st', σ)) : zw_P X rt cc Q (pc, lv, st, σ) :=
  zw_in hm ⟨i, len, hd, Or.inl ⟨pc', lv', st', hn, k⟩⟩
theorem zw_b (hm : zw_mono X) (hd : decode cc pc = .ok (i, len)) {cnd : Prop} {t : Nat} {st' : List Value} (hn : zc_br i len pc st = some (cnd, t, st')) (kt : cnd → zw_P X rt cc Q (t, lv, st', σ)) (kf : ¬ cnd → zw_P X rt cc Q (pc + 3, lv, st', σ)) : zw_P X rt cc Q (pc, lv, st, σ) :=
  zw_in hm ⟨i, len, hd, Or.inr (Or.inl ⟨cnd, t, st', hn, kt, kf⟩)⟩
theorem zw_g (hm : zw_mono X) (hd : decode cc pc = .ok (i, len)) {g : Prop} {st' : List Value} (hn : zc_gd i len st = some (g, st')) (hg : g) (k : zw_P X rt cc Q (pc + 1, lv, st', σ)) : zw_P X rt cc Q (pc, lv, st, σ) :=
  zw_in hm ⟨i, len, hd, Or.inr (Or.inr (Or.inl ⟨g, st', hn, hg, k⟩))⟩
theorem zw_s (hm : zw_mono X) (hd : decode cc pc = .ok (i, len)) {off : Int} {st' : List Value} (hn : zc_sw i pc st = some (off, st')) (t : Nat) (ht : zc_tgt pc off = some t) (k : zw_P X rt cc Q (t, lv, st', σ)) : zw_P X rt cc Q (pc, lv, st, σ) :=
  zw_in hm ⟨i, len, hd, Or.inr (Or.inr (Or.inr (Or.inl ⟨off, t, st', hn, ht, k⟩)))⟩
theorem zw_ri (hm : zw_mono X) (hd : decode cc pc = .ok (.ireturn, 1)) {x : Int32} (k : Q (some (.int x)) σ) : zw_P X (some .int) cc Q (pc, lv, [.int x], σ) :=
  zw_in hm ⟨_, _, hd, Or.inr (Or.inr (Or.inr (Or.inr (Or.inl ⟨_, Or.inl ⟨x, .int, rfl, rfl, rfl, rfl, by decide, rfl, rfl⟩, k⟩))))⟩
theorem zw_rz (hm : zw_mono X) (hd : decode cc pc = .ok (.ireturn, 1)) {x : Int32} (hz : narrow .boolean (.int x) = .int x) (k : Q (some (.int x)) σ) : zw_P X (some .boolean) cc Q (pc, lv, [.int x], σ) :=
  zw_in hm ⟨_, _, hd, Or.inr (Or.inr (Or.inr (Or.inr (Or.inl ⟨_, Or.inl ⟨x, .boolean, rfl, rfl, rfl, rfl, by decide, hz, rfl⟩, k⟩))))⟩
theorem zw_rl (hm : zw_mono X) (hd : decode cc pc = .ok (.lreturn, 1)) {x : Int64} (k : Q (some (.long x)) σ) : zw_P X (some .long) cc Q (pc, lv, [.long x], σ) :=
  zw_in hm ⟨_, _, hd, Or.inr (Or.inr (Or.inr (Or.inr (Or.inl ⟨_, Or.inr (Or.inl ⟨x, rfl, rfl, rfl, rfl, rfl⟩), k⟩))))⟩
theorem zw_rv (hm : zw_mono X) (hd : decode cc pc = .ok (.return_, 1)) (k : Q none σ) : zw_P X none cc Q (pc, lv, [], σ) :=
  zw_in hm ⟨_, _, hd, Or.inr (Or.inr (Or.inr (Or.inr (Or.inl ⟨_, Or.inr (Or.inr ⟨rfl, rfl, rfl, rfl, rfl⟩), k⟩))))⟩
theorem zw_x (hm : zw_mono X) (hd : decode cc pc = .ok (i, len)) (k : X i len pc lv st σ (zw_P X rt cc Q)) : zw_P X rt cc Q (pc, lv, st, σ) :=
  zw_in hm ⟨i, len, hd, Or.inr (Or.inr (Or.inr (Or.inr (Or.inr k))))⟩
end ZW
section ZS
variable {p : Program} {l : Launch} {e : Env} {R : Room} {s : State} {m : MethodId} {args : Array Value} {below : List Frame} {meth : Method} {c : Code} {QQ : State → Prop}
variable {cc : ByteArray} {nL : Nat} {ad : Nat → Nat} {S : Type}
/-- what a state of the abstract machine stands for -/
def zw_Snd (p : Program) (l : Launch) (e : Env) (R : Room) (s : State) (m : MethodId) (args : Array Value) (below : List Frame) (meth : Method) (c : Code) (QQ : State → Prop) (ad : Nat → Nat) (nL : Nat) (Rp : S → Heap → List Loc → Nat → Nat → Prop) (f : zw_F S) : Prop :=
  ∀ (H : Heap) (locs : List Loc) (cells slots : Nat) (ls : Array Slot), Rp f.2.2.2 H locs cells slots → zc_ok ad nL f.2.1 ls → W p l e R s m args below meth c H locs cells slots QQ (F0 m f.1 ls (f.2.2.1.map (zc_cv ad)))
theorem zw_sound {X : zw_X S} {rt : Option FieldType} {Q : Option Value → S → Prop} {Rp : S → Heap → List Loc → Nat → Nat → Prop} (hx : p.tables.exec = Jvm.exec) (hb : c.code = cc)
    (hX : ∀ i len pc lv st σ (rec : zw_F S → Prop), decode cc pc = .ok (i, len) → X i len pc lv st σ rec → (∀ g, rec g → zw_Snd p l e R s m args below meth c QQ ad nL Rp g) → zw_Snd p l e R s m args below meth c QQ ad nL Rp (pc, lv, st, σ))
    (hR : ∀ i len pc st σ v, decode cc pc = .ok (i, len) → zw_ret rt i len st v → Q v σ → ∀ (H : Heap) (locs : List Loc) (cells slots : Nat) (ls : Array Slot), Rp σ H locs cells slots → W p l e R s m args below meth c H locs cells slots QQ (F0 m pc ls (st.map (zc_cv ad))))
    {f : zw_F S} (h : zw_P X rt cc Q f) : zw_Snd p l e R s m args below meth c QQ ad nL Rp f := by
  refine h (zw_Snd p l e R s m args below meth c QQ ad nL Rp) ?_
  intro g hg
  obtain ⟨pc, lv, st, σ⟩ := g
  obtain ⟨i, len, hd, hs⟩ := hg
  dsimp only at hd hs
  rcases hs with ⟨pc', lv', st', h1, h2⟩ | ⟨cnd, t, st', h1, h2, h3⟩ | ⟨g, st', h1, h2, h3⟩ | ⟨off, t, st', h1, h2, h3⟩ | ⟨v, h1, h2⟩ | hxx
  · intro H locs cells slots ls hRp hl
    exact zc_next_s hx hb hl hd h1 (fun ls' hl' => h2 H locs cells slots ls' hRp hl')
  · intro H locs cells slots ls hRp hl
    exact zc_br_s hx hb hl hd h1 (fun q => h2 q H locs cells slots ls hRp hl) (fun q => h3 q H locs cells slots ls hRp hl)
  · intro H locs cells slots ls hRp hl
    exact zc_gd_s hx hb hl hd h1 h2 (h3 H locs cells slots ls hRp hl)
  · intro H locs cells slots ls hRp hl
    exact zc_sw_s hx hb hl hd h1 h2 (h3 H locs cells slots ls hRp hl)
  · intro H locs cells slots ls hRp hl
    exact hR i len pc st σ v hd h1 h2 H locs cells slots ls hRp
  · exact hX i len pc lv st σ _ hd hxx (fun g hg => hg)
end ZS
/-! a method's entry: its arguments as locals -/
def zc_cats : List Bool → List Value → Bool
  | [], [] => true
  | b :: bs, v :: vs => (v.category == (cond b 2 1)) && zc_cats bs vs
  | _, _ => false
def zc_ent : List Bool → List Value → zc_L
  | true :: bs, v :: vs => some (some v) :: some none :: zc_ent bs vs
  | false :: bs, v :: vs => some (some v) :: zc_ent bs vs
  | _, _ => []
def zc_pad (n : Nat) (l : zc_L) : zc_L := l ++ List.replicate (n - l.length) none
theorem zc_nth_app_none (l : zc_L) (n k : Nat) : zc_nth (l ++ List.replicate n none) k = zc_nth l k := by
  induction l generalizing k with
  | nil =>
    induction n generalizing k with
    | zero => rfl
    | succ n ih => cases k with
      | zero => rfl
      | succ k => simpa [List.replicate_succ, zc_nth] using ih k
  | cons a t ih => cases k with
    | zero => rfl
    | succ k => simpa [zc_nth] using ih k
theorem zc_ent_s (ad : Nat → Nat) : ∀ (bs : List Bool) (vs : List Value), zc_cats bs vs = true → (zc_ent bs vs).length = (lg_sl (vs.map (zc_cv ad))).length ∧
    (∀ k v, zc_nth (zc_ent bs vs) k = some (some v) → (lg_sl (vs.map (zc_cv ad)))[k]? = some (.val (zc_cv ad v))) ∧ ∀ k v, zc_nth (zc_ent bs vs) k = some (some v) → v.category = 2 → zc_nth (zc_ent bs vs) (k + 1) = some none := by
  intro bs
  induction bs with
  | nil =>
    intro vs h
    cases vs with
    | nil => exact ⟨rfl, fun k v h => by simp [zc_ent, zc_nth] at h, fun k v h => by simp [zc_ent, zc_nth] at h⟩
    | cons v vs => simp [zc_cats] at h
  | cons b bs ih =>
    intro vs h
    cases vs with
    | nil => simp [zc_cats] at h
    | cons v vs =>
      simp only [zc_cats, Bool.and_eq_true, beq_iff_eq] at h
      obtain ⟨h1, h2, h3⟩ := ih vs h.2
      cases b with
      | true =>
        have hc : v.category = 2 := h.1
        have e : lg_sl ((v :: vs).map (zc_cv ad)) = .val (zc_cv ad v) :: .second :: lg_sl (vs.map (zc_cv ad)) := by
          simp [lg_sl, zc_cv_cat, hc]
        rw [e]
        refine ⟨by simp [zc_ent, h1], fun k w hk => ?_, fun k w hk hw => ?_⟩
        · match k, hk with
          | 0, hk => simp only [zc_ent, zc_nth] at hk; cases hk; rfl
          | 1, hk => simp only [zc_ent, zc_nth] at hk; cases hk
          | k + 2, hk => simp only [zc_ent, zc_nth] at hk; simpa using h2 k w hk
        · match k, hk with
          | 0, hk => rfl
          | 1, hk => simp only [zc_ent, zc_nth] at hk; cases hk
          | k + 2, hk => simp only [zc_ent, zc_nth] at hk ⊢; exact h3 k w hk hw
      | false =>
        have hc : v.category = 1 := h.1
        have e : lg_sl ((v :: vs).map (zc_cv ad)) = .val (zc_cv ad v) :: lg_sl (vs.map (zc_cv ad)) := by
          simp [lg_sl, zc_cv_cat, hc]
        rw [e]
        refine ⟨by simp [zc_ent, h1], fun k w hk => ?_, fun k w hk hw => ?_⟩
        · match k, hk with
          | 0, hk => simp only [zc_ent, zc_nth] at hk; cases hk; rfl
          | k + 1, hk => simp only [zc_ent, zc_nth] at hk; simpa using h2 k w hk
        · match k, hk with
          | 0, hk => simp only [zc_ent, zc_nth] at hk; cases hk; omega
          | k + 1, hk => simp only [zc_ent, zc_nth] at hk ⊢; exact h3 k w hk hw
theorem zc_entry (ad : Nat → Nat) {bs : List Bool} {vs : List Value} {n : Nat} (h : zc_cats bs vs = true) (hn : (zc_ent bs vs).length ≤ n) :
    zc_ok ad n (zc_pad n (zc_ent bs vs)) ((lg_sl (vs.map (zc_cv ad)) ++ List.replicate (n - (lg_sl (vs.map (zc_cv ad))).length) Slot.unset).toArray) := by
  obtain ⟨h1, h2, h3⟩ := zc_ent_s ad bs vs h
  have he := lv_entry (vs.map (zc_cv ad)) (n := n) (by rw [← h1]; exact hn)
  refine ⟨by simp [zc_pad]; omega, he.1, he.2.1, fun k v hk => ?_, fun k v hk hv => ?_⟩
  · rw [zc_pad, zc_nth_app_none] at hk
    have h4 := h2 k v hk
    have h5 : k < (lg_sl (vs.map (zc_cv ad))).length := (List.getElem?_eq_some_iff.mp h4).1
    rw [List.getElem?_toArray, List.getElem?_append_left h5]
    exact h4
  · rw [zc_pad, zc_nth_app_none] at hk ⊢
    exact h3 k v hk hv
