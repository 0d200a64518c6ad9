/-! THE ABSTRACT MACHINE: runs of a method's body, over any state S and any further instructions X -/
set_option maxRecDepth 100000
/-- how a method ends: with an answer, or with a thrown object -/
abbrev yo : Type := Option zv ⊕ zv
abbrev yw_F (S : Type) : Type := Nat × yc_L × List zv × S
abbrev yw_X (S : Type) : Type := Instr → Nat → Nat → yc_L → List zv → S → (yw_F S → Prop) → (zv → S → Prop) → Prop
/-- a method's end: what is on the stack, and what it answers -/
def yw_ret (rt : Option FieldType) (i : Instr) (len : Nat) (st : List zv) (v : Option zv) : Prop :=
  (∃ x ty, i = .ireturn ∧ len = 1 ∧ st = [.inl (.int x)] ∧ rt = some ty ∧ narrow ty (.int x) = .int x ∧ v = some (.inl (.int x))) ∨
  (∃ q ty, i = .areturn ∧ len = 1 ∧ st = [q] ∧ rt = some ty ∧ ((∃ n, ty = .object n) ∨ ∃ t, ty = .array t) ∧ ((∃ z, q = .inr z) ∨ (∃ z, q = .inl (.ref z)) ∨ q = .inl .null) ∧ v = some q) ∨
  (i = .return_ ∧ len = 1 ∧ st = [] ∧ rt = none ∧ v = none)
def yw_step {S : Type} (X : yw_X S) (rt : Option FieldType) (cc : ByteArray) (Q : yo → S → Prop) (rec : yw_F S → Prop) (f : yw_F S) : Prop :=
  ∃ i len, decode cc f.1 = .ok (i, len) ∧
    ((∃ pc' lv' st', yc_next i len f.1 f.2.1 f.2.2.1 = some (pc', lv', st') ∧ rec (pc', lv', st', f.2.2.2)) ∨
     (∃ cnd t st', yc_br i len f.1 f.2.2.1 = some (cnd, t, st') ∧ (cnd → rec (t, f.2.1, st', f.2.2.2)) ∧ (¬ cnd → rec (f.1 + 3, f.2.1, st', f.2.2.2))) ∨
     (∃ g st', yc_gd i len f.2.2.1 = some (g, st') ∧ g ∧ rec (f.1 + 1, f.2.1, st', f.2.2.2)) ∨
     (∃ off t st', yc_sw i f.1 f.2.2.1 = some (off, st') ∧ zc_tgt f.1 off = some t ∧ rec (t, f.2.1, st', f.2.2.2)) ∨
     (∃ v, yw_ret rt i len f.2.2.1 v ∧ Q (.inl v) f.2.2.2) ∨
     X i len f.1 f.2.1 f.2.2.1 f.2.2.2 rec (fun q u => Q (.inr q) u))
def yw_P {S : Type} (X : yw_X S) (rt : Option FieldType) (cc : ByteArray) (Q : yo → S → Prop) (f : yw_F S) : Prop :=
  ∀ P : yw_F S → Prop, (∀ g, yw_step X rt cc Q P g → P g) → P f
def yw_mono {S : Type} (X : yw_X S) : Prop := ∀ (P P' : yw_F S → Prop), (∀ g, P g → P' g) → ∀ (T T' : zv → S → Prop), (∀ q u, T q u → T' q u) → ∀ i len pc lv st σ, X i len pc lv st σ P T → X i len pc lv st σ P' T'
theorem yw_step_mono {S : Type} {X : yw_X S} (hm : yw_mono X) {rt : Option FieldType} {cc : ByteArray} {Q Q' : yo → S → Prop} (hQ : ∀ v u, Q v u → Q' v u) {P P' : yw_F S → Prop} (h : ∀ g, P g → P' g) {f : yw_F S} (hs : yw_step X rt cc Q P f) : yw_step X rt cc Q' P' f := by
  obtain ⟨i, len, hd, hs⟩ := hs
  refine ⟨i, len, hd, ?_⟩
  rcases hs with ⟨pc', lv', st', h1, h2⟩ | ⟨cnd, t, st', h1, h2, h3⟩ | ⟨g, st', h1, h2, h3⟩ | ⟨off, t, st', h1, h2, h3⟩ | ⟨v, h1, h2⟩ | hx
  · exact Or.inl ⟨pc', lv', st', h1, h _ h2⟩
  · exact Or.inr (Or.inl ⟨cnd, t, st', h1, fun q => h _ (h2 q), fun q => h _ (h3 q)⟩)
  · exact Or.inr (Or.inr (Or.inl ⟨g, st', h1, h2, h _ h3⟩))
  · exact Or.inr (Or.inr (Or.inr (Or.inl ⟨off, t, st', h1, h2, h _ h3⟩)))
  · exact Or.inr (Or.inr (Or.inr (Or.inr (Or.inl ⟨v, h1, hQ _ _ h2⟩))))
  · exact Or.inr (Or.inr (Or.inr (Or.inr (Or.inr (hm P P' h _ _ (fun q u w => hQ _ _ w) _ _ _ _ _ _ hx)))))
theorem yw_in {S : Type} {X : yw_X S} (hm : yw_mono X) {rt : Option FieldType} {cc : ByteArray} {Q : yo → S → Prop} {f : yw_F S} (h : yw_step X rt cc Q (yw_P X rt cc Q) f) : yw_P X rt cc Q f := by
  intro P hP
  exact hP f (yw_step_mono hm (fun _ _ q => q) (fun g hg => hg P hP) h)
theorem yw_cq {S : Type} {X : yw_X S} (hm : yw_mono X) {rt : Option FieldType} {cc : ByteArray} {Q Q' : yo → S → Prop} (hQ : ∀ v u, Q v u → Q' v u) {f : yw_F S} (h : yw_P X rt cc Q f) : yw_P X rt cc Q' f :=
  h (yw_P X rt cc Q') (fun _ hg => yw_in hm (yw_step_mono hm hQ (fun _ q => q) hg))
section ZW
variable {S : Type} {X : yw_X S} {rt : Option FieldType} {cc : ByteArray} {Q : yo → S → Prop} {i : Instr} {len pc : Nat} {lv : yc_L} {st : List zv} {σ : S}
theorem yw_n (hm : yw_mono X) (hd : decode cc pc = .ok (i, len)) {pc' : Nat} {lv' : yc_L} {st' : List zv} (hn : yc_next i len pc lv st = some (pc', lv', st')) (k : yw_P X rt cc Q (pc', lv', st', σ)) : yw_P X rt cc Q (pc, lv, st, σ) :=
  yw_in hm ⟨i, len, hd, Or.inl ⟨pc', lv', st', hn, k⟩⟩
theorem yw_b (hm : yw_mono X) (hd : decode cc pc = .ok (i, len)) {cnd : Prop} {t : Nat} {st' : List zv} (hn : yc_br i len pc st = some (cnd, t, st')) (kt : cnd → yw_P X rt cc Q (t, lv, st', σ)) (kf : ¬ cnd → yw_P X rt cc Q (pc + 3, lv, st', σ)) : yw_P X rt cc Q (pc, lv, st, σ) :=
  yw_in hm ⟨i, len, hd, Or.inr (Or.inl ⟨cnd, t, st', hn, kt, kf⟩)⟩
theorem yw_g (hm : yw_mono X) (hd : decode cc pc = .ok (i, len)) {g : Prop} {st' : List zv} (hn : yc_gd i len st = some (g, st')) (hg : g) (k : yw_P X rt cc Q (pc + 1, lv, st', σ)) : yw_P X rt cc Q (pc, lv, st, σ) :=
  yw_in hm ⟨i, len, hd, Or.inr (Or.inr (Or.inl ⟨g, st', hn, hg, k⟩))⟩
theorem yw_s (hm : yw_mono X) (hd : decode cc pc = .ok (i, len)) {off : Int} {st' : List zv} (hn : yc_sw i pc st = some (off, st')) (t : Nat) (ht : zc_tgt pc off = some t) (k : yw_P X rt cc Q (t, lv, st', σ)) : yw_P X rt cc Q (pc, lv, st, σ) :=
  yw_in hm ⟨i, len, hd, Or.inr (Or.inr (Or.inr (Or.inl ⟨off, t, st', hn, ht, k⟩)))⟩
theorem yw_ri (hm : yw_mono X) (hd : decode cc pc = .ok (.ireturn, 1)) {x : Int32} (k : Q (.inl (some (.inl (.int x)))) σ) : yw_P X (some .int) cc Q (pc, lv, [.inl (.int x)], σ) :=
  yw_in hm ⟨_, _, hd, Or.inr (Or.inr (Or.inr (Or.inr (Or.inl ⟨_, Or.inl ⟨x, .int, rfl, rfl, rfl, rfl, rfl, rfl⟩, k⟩))))⟩
theorem yw_rz (hm : yw_mono X) (hd : decode cc pc = .ok (.ireturn, 1)) {x : Int32} {ty : FieldType} (hz : narrow ty (.int x) = .int x) (k : Q (.inl (some (.inl (.int x)))) σ) : yw_P X (some ty) cc Q (pc, lv, [.inl (.int x)], σ) :=
  yw_in hm ⟨_, _, hd, Or.inr (Or.inr (Or.inr (Or.inr (Or.inl ⟨_, Or.inl ⟨x, ty, rfl, rfl, rfl, rfl, hz, rfl⟩, k⟩))))⟩
theorem yw_ra (hm : yw_mono X) (hd : decode cc pc = .ok (.areturn, 1)) {q : zv} {ty : FieldType} (hq : (∃ z, q = .inr z) ∨ (∃ z, q = .inl (.ref z)) ∨ q = .inl .null) (hty : (∃ n, ty = .object n) ∨ ∃ t, ty = .array t) (k : Q (.inl (some q)) σ) : yw_P X (some ty) cc Q (pc, lv, [q], σ) :=
  yw_in hm ⟨_, _, hd, Or.inr (Or.inr (Or.inr (Or.inr (Or.inl ⟨_, Or.inr (Or.inl ⟨q, ty, rfl, rfl, rfl, rfl, hty, hq, rfl⟩), k⟩))))⟩
theorem yw_rv (hm : yw_mono X) (hd : decode cc pc = .ok (.return_, 1)) (k : Q (.inl none) σ) : yw_P X none cc Q (pc, lv, [], σ) :=
  yw_in hm ⟨_, _, hd, Or.inr (Or.inr (Or.inr (Or.inr (Or.inl ⟨_, Or.inr (Or.inr ⟨rfl, rfl, rfl, rfl, rfl⟩), k⟩))))⟩
theorem yw_x (hm : yw_mono X) (hd : decode cc pc = .ok (i, len)) (k : X i len pc lv st σ (yw_P X rt cc Q) (fun q u => Q (.inr q) u)) : yw_P X rt cc Q (pc, lv, st, σ) :=
  yw_in hm ⟨i, len, hd, Or.inr (Or.inr (Or.inr (Or.inr (Or.inr k))))⟩
end ZW
section ZS
variable {p : Program} {l : Launch} {e : Env} {R : Room} {s : State} {m : MethodId} {args : Array Value} {below : List Frame} {meth : Method} {c : Code} {QQ : State → Prop}
variable {cc : ByteArray} {nL : Nat} {ad : Nat × Nat → Nat} {S : Type}
/-- what a state of the abstract machine stands for -/
def yw_Snd (p : Program) (l : Launch) (e : Env) (R : Room) (s : State) (m : MethodId) (args : Array Value) (below : List Frame) (meth : Method) (c : Code) (QQ : State → Prop) (ad : Nat × Nat → Nat) (nL : Nat) (Rp : S → Heap → List Loc → Nat → Nat → Prop) (f : yw_F S) : Prop :=
  ∀ (H : Heap) (locs : List Loc) (cells slots : Nat) (ls : Array Slot), Rp f.2.2.2 H locs cells slots → yc_ok ad nL f.2.1 ls → W p l e R s m args below meth c H locs cells slots QQ (F0 m f.1 ls (f.2.2.1.map (yc_cv ad)))
theorem yw_sound {X : yw_X S} {rt : Option FieldType} {Q : yo → S → Prop} {Rp : S → Heap → List Loc → Nat → Nat → Prop} (hx : p.tables.exec = Jvm.exec) (hb : c.code = cc)
    (hX : ∀ i len pc lv st σ (rec : yw_F S → Prop) (thr : zv → S → Prop), decode cc pc = .ok (i, len) → X i len pc lv st σ rec thr → (∀ q u, thr q u → Q (.inr q) u) → (∀ g, rec g → yw_Snd p l e R s m args below meth c QQ ad nL Rp g) → yw_Snd p l e R s m args below meth c QQ ad nL Rp (pc, lv, st, σ))
    (hR : ∀ i len pc st σ v, decode cc pc = .ok (i, len) → yw_ret rt i len st v → Q (.inl v) σ → ∀ (H : Heap) (locs : List Loc) (cells slots : Nat) (ls : Array Slot), Rp σ H locs cells slots → W p l e R s m args below meth c H locs cells slots QQ (F0 m pc ls (st.map (yc_cv ad))))
    {f : yw_F S} (h : yw_P X rt cc Q f) : yw_Snd p l e R s m args below meth c QQ ad nL Rp f := by
  refine h (yw_Snd p l e R s m args below meth c QQ ad nL Rp) ?_
  intro g hg
  obtain ⟨pc, lv, st, σ⟩ := g
  obtain ⟨i, len, hd, hs⟩ := hg
  dsimp only at hd hs
  rcases hs with ⟨pc', lv', st', h1, h2⟩ | ⟨cnd, t, st', h1, h2, h3⟩ | ⟨g, st', h1, h2, h3⟩ | ⟨off, t, st', h1, h2, h3⟩ | ⟨v, h1, h2⟩ | hxx
  · intro H locs cells slots ls hRp hl
    exact yc_next_s hx hb hl hd h1 (fun ls' hl' => h2 H locs cells slots ls' hRp hl')
  · intro H locs cells slots ls hRp hl
    exact yc_br_s hx hb hl hd h1 (fun q => h2 q H locs cells slots ls hRp hl) (fun q => h3 q H locs cells slots ls hRp hl)
  · intro H locs cells slots ls hRp hl
    exact yc_gd_s hx hb hl hd h1 h2 (h3 H locs cells slots ls hRp hl)
  · intro H locs cells slots ls hRp hl
    exact yc_sw_s hx hb hl hd h1 h2 (h3 H locs cells slots ls hRp hl)
  · intro H locs cells slots ls hRp hl
    exact hR i len pc st σ v hd h1 h2 H locs cells slots ls hRp
  · exact hX i len pc lv st σ _ _ hd hxx (fun _ _ w => w) (fun g hg => hg)
end ZS
/-! a method's entry: its arguments as locals -/
def yc_cats : List Bool → List zv → Bool
  | [], [] => true
  | b :: bs, v :: vs => (yc_cat v == (cond b 2 1)) && yc_cats bs vs
  | _, _ => false
def yc_ent : List Bool → List zv → yc_L
  | true :: bs, v :: vs => some (some v) :: some none :: yc_ent bs vs
  | false :: bs, v :: vs => some (some v) :: yc_ent bs vs
  | _, _ => []
def yc_pad (n : Nat) (l : yc_L) : yc_L := l ++ List.replicate (n - l.length) none
theorem yc_nth_app_none (l : yc_L) (n k : Nat) : yc_nth (l ++ List.replicate n none) k = yc_nth l k := by
  induction l generalizing k with
  | nil =>
    induction n generalizing k with
    | zero => rfl
    | succ n ih => cases k with
      | zero => rfl
      | succ k => simpa [List.replicate_succ, yc_nth] using ih k
  | cons a t ih => cases k with
    | zero => rfl
    | succ k => simpa [yc_nth] using ih k
theorem yc_ent_s (ad : Nat × Nat → Nat) : ∀ (bs : List Bool) (vs : List zv), yc_cats bs vs = true → (yc_ent bs vs).length = (lg_sl (vs.map (yc_cv ad))).length ∧
    (∀ k v, yc_nth (yc_ent bs vs) k = some (some v) → (lg_sl (vs.map (yc_cv ad)))[k]? = some (.val (yc_cv ad v))) ∧ ∀ k v, yc_nth (yc_ent bs vs) k = some (some v) → yc_cat v = 2 → yc_nth (yc_ent bs vs) (k + 1) = some none := by
  intro bs
  induction bs with
  | nil =>
    intro vs h
    cases vs with
    | nil => exact ⟨rfl, fun k v h => by simp [yc_ent, yc_nth] at h, fun k v h => by simp [yc_ent, yc_nth] at h⟩
    | cons v vs => simp [yc_cats] at h
  | cons b bs ih =>
    intro vs h
    cases vs with
    | nil => simp [yc_cats] at h
    | cons v vs =>
      simp only [yc_cats, Bool.and_eq_true, beq_iff_eq] at h
      obtain ⟨h1, h2, h3⟩ := ih vs h.2
      cases b with
      | true =>
        have hc : yc_cat v = 2 := h.1
        have e : lg_sl ((v :: vs).map (yc_cv ad)) = .val (yc_cv ad v) :: .second :: lg_sl (vs.map (yc_cv ad)) := by
          simp [lg_sl, yc_cv_cat, hc]
        rw [e]
        refine ⟨by simp [yc_ent, h1], fun k w hk => ?_, fun k w hk hw => ?_⟩
        · match k, hk with
          | 0, hk => simp only [yc_ent, yc_nth] at hk; cases hk; rfl
          | 1, hk => simp only [yc_ent, yc_nth] at hk; cases hk
          | k + 2, hk => simp only [yc_ent, yc_nth] at hk; simpa using h2 k w hk
        · match k, hk with
          | 0, hk => rfl
          | 1, hk => simp only [yc_ent, yc_nth] at hk; cases hk
          | k + 2, hk => simp only [yc_ent, yc_nth] at hk ⊢; exact h3 k w hk hw
      | false =>
        have hc : yc_cat v = 1 := h.1
        have e : lg_sl ((v :: vs).map (yc_cv ad)) = .val (yc_cv ad v) :: lg_sl (vs.map (yc_cv ad)) := by
          simp [lg_sl, yc_cv_cat, hc]
        rw [e]
        refine ⟨by simp [yc_ent, h1], fun k w hk => ?_, fun k w hk hw => ?_⟩
        · match k, hk with
          | 0, hk => simp only [yc_ent, yc_nth] at hk; cases hk; rfl
          | k + 1, hk => simp only [yc_ent, yc_nth] at hk; simpa using h2 k w hk
        · match k, hk with
          | 0, hk => simp only [yc_ent, yc_nth] at hk; cases hk; omega
          | k + 1, hk => simp only [yc_ent, yc_nth] at hk ⊢; exact h3 k w hk hw
theorem yc_entry (ad : Nat × Nat → Nat) {bs : List Bool} {vs : List zv} {n : Nat} (h : yc_cats bs vs = true) (hn : (yc_ent bs vs).length ≤ n) :
    yc_ok ad n (yc_pad n (yc_ent bs vs)) ((lg_sl (vs.map (yc_cv ad)) ++ List.replicate (n - (lg_sl (vs.map (yc_cv ad))).length) Slot.unset).toArray) := by
  obtain ⟨h1, h2, h3⟩ := yc_ent_s ad bs vs h
  have he := lv_entry (vs.map (yc_cv ad)) (n := n) (by rw [← h1]; exact hn)
  refine ⟨by simp [yc_pad]; omega, he.1, he.2.1, fun k v hk => ?_, fun k v hk hv => ?_⟩
  · rw [yc_pad, yc_nth_app_none] at hk
    have h4 := h2 k v hk
    have h5 : k < (lg_sl (vs.map (yc_cv ad))).length := (List.getElem?_eq_some_iff.mp h4).1
    rw [List.getElem?_toArray, List.getElem?_append_left h5]
    exact h4
  · rw [yc_pad, yc_nth_app_none] at hk ⊢
    exact h3 k v hk hv
