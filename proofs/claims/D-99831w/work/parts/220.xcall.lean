/-! THE SYSTEM's MACHINE: calls -/
set_option maxRecDepth 100000
def xw_A (ad : Nat × Nat → Nat) (L : List xid) (sz : Nat) : Nat → Prop := fun q => (∃ i ∈ L, q = xw_ad ad i) ∨ sz ≤ q
def zx_rm (d mc ms : Nat) : Room := { frames := d, cells := mc, slots := ms, locals := 60 * d }
def zx_Pc (D : va_G) (cA : Nat → ClassId) (ad : Nat × Nat → Nat) (L : List xid) (sz : Nat) (a : List zv) (h : xH) : Array Value → State → Prop := va_Pc (a.map (yc_cv ad)) (fun U => U.heap.size = sz ∧ va_P D x_cl (xw_ws cA ad L h) U.heap ∧ va_D (fun _ => True) (xw_ws cA ad L h) ∧ xw_K D cA U)
def zx_Qc (D : va_G) (cA : Nat → ClassId) (ad : Nat × Nat → Nat) (A : Nat → Prop) (Q : yo → xH → Prop) : Array Value → State → Outcome → State → Prop := fun _ st oc t =>
  (∃ (o : Option zv) (u : xH) (L' : List xid), oc = .returned (o.map (yc_cv ad)) ∧ Q (.inl o) u ∧ xw_ok L' u ∧ va_P D x_cl (xw_ws cA ad L' u) t.heap ∧ va_D A (xw_ws cA ad L' u)) ∧ va_F A st t
def zx_XC (D : va_G) (cA : Nat → ClassId) (ad : Nat × Nat → Nat) (A : Nat → Prop) (Q : yo → xH → Prop) : String → Addr → State → State → Prop := fun E q st t =>
  (∃ (u : xH) (L' : List xid) (fs : List zv), E = RX6 ∧ Q (.inr (.inl (.ref q))) u ∧ u.2.2.2.2.2 q = some (.inl (9, fs)) ∧ xw_ok L' u ∧ va_P D x_cl (xw_ws cA ad L' u) t.heap ∧ va_D A (xw_ws cA ad L' u)) ∧ va_F A st t
def zx_Met (l : Launch) (D : va_G) (cA : Nat → ClassId) (ad : Nat × Nat → Nat) (d : Nat) (t : x_T) (mc ms : Nat) (a : List zv) (h : xH) (Q : yo → xH → Prop) : Prop :=
  ∀ (L : List xid) (sz : Nat), xw_ok L h → vx_Met l t.1 (ws_ t.1 t.2.1 t.2.2.1 t.2.2.2.1) (zx_rm d mc ms) (zx_Pc D cA ad L sz a h) (zx_Qc D cA ad (xw_A ad L sz) Q) (zx_XC D cA ad (xw_A ad L sz) Q) mc ms (xw_A ad L sz)
abbrev zx_C : Type := Nat → Nat → Nat → List zv → xH → (yo → xH → Prop) → Prop
def ypops : Nat → List zv → List zv → Option (List zv × List zv)
  | 0, acc, st => some (acc, st)
  | n + 1, acc, v :: st => ypops n (v :: acc) st
  | _ + 1, _, [] => none
theorem ypops_of : ∀ (n : Nat) (acc st a r : List zv), ypops n acc st = some (a, r) → a.reverse ++ r = acc.reverse ++ st ∧ a.length = n + acc.length := by
  intro n
  induction n with
  | zero => intro acc st a r h; simp only [ypops] at h; cases h; exact ⟨rfl, by omega⟩
  | succ n ih =>
    intro acc st a r h
    cases st with
    | nil => simp [ypops] at h
    | cons v st =>
      simp only [ypops] at h
      obtain ⟨h1, h2⟩ := ih _ _ _ _ h
      exact ⟨by rw [h1]; simp, by rw [h2]; simp; omega⟩
theorem ypops_map {n : Nat} {a r st : List zv} (ad : Nat × Nat → Nat) (h : ypops n [] st = some (a, r)) : st.map (yc_cv ad) = (a.map (yc_cv ad)).reverse ++ r.map (yc_cv ad) ∧ a.length = n := by
  obtain ⟨h1, h2⟩ := ypops_of n [] st a r h
  refine ⟨?_, by simpa using h2⟩
  have h3 : st = a.reverse ++ r := by simpa using h1.symm
  rw [h3]
  simp
theorem y_cat_le (ad : Nat × Nat → Nat) (r : List zv) (h : r.length ≤ 4) : ((r.map (yc_cv ad)).map fun v => v.category).sum ≤ 8 := by
  have h1 : ∀ v : Value, v.category ≤ 2 := fun v => by cases v <;> simp [Value.category]
  have h2 : ∀ q : List Value, (q.map fun v => v.category).sum ≤ 2 * q.length := by
    intro q
    induction q with
    | nil => simp
    | cons v t ih =>
      simp only [List.map_cons, List.sum_cons, List.length_cons]
      have := h1 v
      omega
  have := h2 (r.map (yc_cv ad))
  simp only [List.length_map] at this
  omega
def ypsh (v : Option zv) (r : List zv) : List zv := match v with
  | some v => v :: r
  | none => r
/-- what is called: method, class of the receiver (99: none asked), arguments, rest -/
def x_inv (own : Nat) (i : Instr) (len : Nat) (st : List zv) : Option (Nat × Nat × Nat × List zv × List zv) := match i, len with
  | .invokevirtual idx, 3 => match x_l2 x_lkV own idx with
    | some (y, n, ci) => match ypops n [] st with
      | some (a, v :: r) => cond (Nat.ble r.length 4) (some (0, y, ci, v :: a, r)) none
      | _ => none
    | _ => none
  | .invokestatic idx, 3 => match x_l2 x_lkS own idx with
    | some (y, n, _) => match ypops n [] st with
      | some (a, r) => cond (Nat.ble r.length 4) (some (1, y, 99, a, r)) none
      | _ => none
    | _ => none
  | .invokespecial idx, 3 => match x_l2 x_lkI own idx with
    | some (y, n, _) => match ypops n [] st with
      | some (a, .inl (.ref b) :: r) => cond (Nat.ble r.length 4) (some (2, y, 99, .inl (.ref b) :: a, r)) none
      | _ => none
    | _ => none
  | _, _ => none
/-- the receiver is of this class -/
def x_rc (h : xH) (v : zv) (ci : Nat) : Prop := (v = .inr (0, 0) ∧ ci = 0) ∨ (∃ j, j < 46 ∧ v = .inr (1, j) ∧ ci = 1) ∨ (∃ a fs, v = .inl (.ref a) ∧ h.2.2.2.2.2 a = some (.inl (ci, fs)))
def xx_call (own mc ms : Nat) (C : zx_C) : yw_X xS := fun i len pc lv st σ rec thr =>
  ∃ how y ci kc ks a r, x_inv own i len st = some (how, y, ci, a, r) ∧ (how = 0 → ∃ v a', a = v :: a' ∧ x_rc σ.1 v ci) ∧ σ.2.1 + kc ≤ mc ∧ σ.2.2 + ks ≤ ms ∧
    C y kc ks a σ.1 (fun o h' => match o with
      | .inl v => rec (pc + 3, lv, ypsh v r, (h', σ.2.1 + kc, σ.2.2 + ks))
      | .inr q => thr q (h', σ.2.1 + kc, σ.2.2 + ks))
theorem xx_call_mono {own mc ms : Nat} {C : zx_C} (hC : ∀ y kc ks a h Q Q', (∀ o u, Q o u → Q' o u) → C y kc ks a h Q → C y kc ks a h Q') : yw_mono (xx_call own mc ms C) := by
  intro P P' h T T' hT i len pc lv st σ hs
  obtain ⟨how, y, ci, kc, ks, a, r, h1, h2, h3, h4, h5⟩ := hs
  refine ⟨how, y, ci, kc, ks, a, r, h1, h2, h3, h4, hC _ _ _ _ _ _ _ ?_ h5⟩
  intro o u
  cases o with
  | inl v => exact h _
  | inr q => exact hT _ _
/-- Object's own constructor -/
def xx_obj (own : Nat) : yw_X xS := fun i len pc lv st σ rec _ => ∃ idx a r, i = .invokespecial idx ∧ len = 3 ∧ x_l2 x_lkO own idx = some 0 ∧ st = .inl (.ref a) :: r ∧ r.length ≤ 4 ∧ rec (pc + 3, lv, r, σ)
theorem xx_obj_mono (own : Nat) : yw_mono (xx_obj own) := by
  intro P P' h T T' hT i len pc lv st σ hs
  obtain ⟨idx, a, r, h1, h2, h3, h4, h5, h6⟩ := hs
  exact ⟨idx, a, r, h1, h2, h3, h4, h5, h _ h6⟩
section XC1
variable {p : Program} {l : Launch} {e : Env} {R : Room} {s : State} {m : MethodId} {args : Array Value} {below : List Frame} {meth : Method} {c : Code} {QQ : State → Prop}
variable {cc : ByteArray} {nL : Nat} {ad : Nat × Nat → Nat} {D : va_G} {cA : Nat → ClassId} {A : Nat → Prop} {i : Instr} {len pc own mc ms : Nat} {lv : yc_L} {st : List zv} {σ : xS} {rec : yw_F xS → Prop} {thr : zv → xS → Prop}
theorem xx_obj_s (hx : p.tables.exec = Jvm.exec) (hb : c.code = cc) (hml : c.maxLocals = nL) (hts : ∀ w ∈ lw_all, w.before args s = true) (hown : s.vm.findClass (xo own) = some m.cls) (hfr : 1 ≤ R.frames) (hlo : 20 ≤ R.locals) (hd : decode cc pc = .ok (i, len)) (h : xx_obj own i len pc lv st σ rec thr)
    (hrec : ∀ g, rec g → yw_Snd p l e R s m args below meth c QQ ad nL (x_Rp D cA ad A s) g) : yw_Snd p l e R s m args below meth c QQ ad nL (x_Rp D cA ad A s) (pc, lv, st, σ) := by
  intro H locs cells slots ls hRp hl
  obtain ⟨idx, a, r, rfl, rfl, h3, rfl, h5, h6⟩ := h
  obtain ⟨t, ht1, ht2⟩ := x_l2_mem h3
  have hlk := x_lkO_ok _ ht1 _ ht2
  have hc := y_cat_le ad r h5
  refine W.objInit hx hb hown (hts _ hlk) (hts _ q163) (hts _ q164) rfl (by rw [hml]; exact hl.2.1) rfl hd hfr ?_ (hrec _ h6 H locs cells slots ls hRp hl)
  have : 2 * (F0 m pc ls (((.inl (.ref a) : zv) :: r).map (yc_cv ad))).monitorRoom = 0 := rfl
  rw [this]
  have h9 : ((r.map (yc_cv ad)).map fun v => v.category).sum ≤ 8 := hc
  omega
theorem x_sub_A {L : List xid} {h : xH} {H H0 : Heap} {locs : List Loc} (hD : va_D A (xw_ws cA ad L h)) (hS : va_S A H0 H locs) (hA : ∀ q, H0.size ≤ q → A q) : ∀ q, xw_A ad L H.size q → A q := by
  intro q hq
  rcases hq with ⟨i, hi, rfl⟩ | hq
  · obtain ⟨q0, -, hw⟩ := xw_at (cA := cA) (ad := ad) (h := h) hi
    exact hD.2 q0 _ hw
  · exact hA q (Nat.le_trans hS.1 hq)
/-- behind a call: it returned, or it threw -/
theorem zx_back {kc ks : Nat} {L : List xid} {H : Heap} {locs : List Loc} {ls : Array Slot} {st0 : List Value} {r : List zv} {a' : Array Value} {Q : yo → xH → Prop}
    (hrun : vx_Run p l e R s m args below meth c H locs σ.2.1 σ.2.2 kc ks (F0 m pc ls st0) (r.map (yc_cv ad)) (zx_Qc D cA ad (xw_A ad L H.size) Q a') (zx_XC D cA ad (xw_A ad L H.size) Q) (xw_A ad L H.size))
    (hA : ∀ q, s.heap.size ≤ q → A q) (hD : va_D A (xw_ws cA ad L σ.1)) (hS : va_S A s.heap H locs) (hl : yc_ok ad nL lv ls)
    (hQr : ∀ v u, Q (.inl v) u → rec (pc + 3, lv, ypsh v r, (u, σ.2.1 + kc, σ.2.2 + ks))) (hQt : ∀ q u, Q (.inr q) u → thr q (u, σ.2.1 + kc, σ.2.2 + ks)) (hthr : x_Thr p l e R s m args below meth c QQ D cA ad A thr)
    (hrec : ∀ g, rec g → yw_Snd p l e R s m args below meth c QQ ad nL (x_Rp D cA ad A s) g) : W p l e R s m args below meth c H locs σ.2.1 σ.2.2 QQ (F0 m pc ls st0) := by
  have hsub := x_sub_A (ad := ad) (cA := cA) hD hS hA
  intro T hT X
  rcases hrun T hT X with ⟨v, st₀, t, T', Lc, h0, X', hL, e1, e2, ⟨⟨o, u, L', hv, hq, hok', hP', hD'⟩, hF⟩, st⟩ | ⟨q, st₀, t, T', Lc, E, ce, h0, X', hL, e1, e2, ⟨⟨u, L', fs, hE, hq, hdy, hok', hP', hD'⟩, hF⟩, hce, hcv, hcl, st⟩
  · obtain ⟨k1, k2, k3⟩ := vx_keep h0 e1 hS (fun q _ hq => hsub q hq) hsub hL hF
    have hv' : v = o.map (yc_cv ad) := by cases hv; rfl
    have hR : x_Rp D cA ad A s (u, σ.2.1 + kc, σ.2.2 + ks) T'.heap (locs ++ Lc) (σ.2.1 + kc) (σ.2.2 + ks) := ⟨L', hok', by rw [e1]; exact hP', hD'.weaken (fun _ _ _ h => hsub _ h), k3, rfl, rfl⟩
    have key := hrec _ (hQr o u hq) T'.heap (locs ++ Lc) _ _ ls hR hl T' rfl X'
    obtain ⟨t2, a1, b1⟩ := key
    refine ⟨t2, st t2 ?_, b1⟩
    have : v.toList ++ r.map (yc_cv ad) = (ypsh o r).map (yc_cv ad) := by rw [hv']; cases o <;> rfl
    rw [this]
    exact a1
  · obtain ⟨k1, k2, k3⟩ := vx_keep h0 e1 hS (fun q _ hq => hsub q hq) hsub hL hF
    have hR : x_Rp D cA ad A s (u, σ.2.1 + kc, σ.2.2 + ks) T'.heap (locs ++ Lc) (σ.2.1 + kc) (σ.2.2 + ks) := ⟨L', hok', by rw [e1]; exact hP', hD'.weaken (fun _ _ _ h => hsub _ h), k3, rfl, rfl⟩
    obtain ⟨t2, a1, b1⟩ := hthr q fs _ (hQt _ u hq) hdy T'.heap (locs ++ Lc) _ _ pc ls (r.map (yc_cv ad)) hR T' rfl X'
    exact ⟨t2, st.trans a1, b1⟩
end XC1
