/-! THE MODEL's MACHINE: its instructions, and that they are the real ones -/
set_option maxRecDepth 100000
def zm_sI (σ : mS) (k : Nat) (x : Int32) : mS := (upd σ.1 k x, σ.2)
def zm_sJ (σ : mS) (k : Nat) (x : Int64) : mS := (σ.1, vp_updL σ.2.1 k x, σ.2.2)
def zm_sA (σ : mS) (j k : Nat) (x : Int32) : mS := (σ.1, σ.2.1, (fun a => if a = j then upd (σ.2.2.1 j) k x else σ.2.2.1 a), σ.2.2.2)
def zm_sB (σ : mS) (j k : Nat) (x : Int64) : mS := (σ.1, σ.2.1, σ.2.2.1, fun a => if a = j then vp_updL (σ.2.2.2 j) k x else σ.2.2.2 a)
def zm_get (i : Instr) (len : Nat) (st : List Value) (σ : mS) : Option (List Value) := match i, len, st with
  | .getfield idx, 3, .ref 0 :: r => match zc_look zm_ft idx with
    | some (0, k, _) => some (.int (σ.1 k) :: r)
    | some (1, k, _) => some (.long (σ.2.1 k) :: r)
    | some (_, _, j) => some (.ref j :: r)
    | none => none
  | _, _, _ => none
def zm_put (i : Instr) (len : Nat) (st : List Value) (σ : mS) : Option (List Value × mS) := match i, len, st with
  | .putfield idx, 3, .int x :: .ref 0 :: r => match zc_look zm_ft idx with
    | some (0, k, _) => some (r, zm_sI σ k x)
    | _ => none
  | .putfield idx, 3, .long x :: .ref 0 :: r => match zc_look zm_ft idx with
    | some (1, k, _) => some (r, zm_sJ σ k x)
    | _ => none
  | _, _, _ => none
def zm_ld (i : Instr) (len : Nat) (st : List Value) (σ : mS) : Option (Prop × List Value) := match i, len, st with
  | .iaload, 1, .int x :: .ref j :: r => match zc_look zm_at j with
    | some (0, n) => some (vp_in x n, .int (σ.2.2.1 j x.toNatClampNeg) :: r)
    | _ => none
  | .baload, 1, .int x :: .ref j :: r => match zc_look zm_at j with
    | some (1, n) => some (vp_in x n, .int (σ.2.2.1 j x.toNatClampNeg) :: r)
    | some (2, n) => some (vp_in x n, .int (σ.2.2.1 j x.toNatClampNeg) :: r)
    | _ => none
  | .laload, 1, .int x :: .ref j :: r => match zc_look zm_at j with
    | some (3, n) => some (vp_in x n, .long (σ.2.2.2 j x.toNatClampNeg) :: r)
    | _ => none
  | _, _, _ => none
def zm_so (i : Instr) (len : Nat) (st : List Value) (σ : mS) : Option (Prop × List Value × mS) := match i, len, st with
  | .iastore, 1, .int v :: .int x :: .ref j :: r => match zc_look zm_at j with
    | some (0, n) => some (vp_in x n, r, zm_sA σ j x.toNatClampNeg v)
    | _ => none
  | .bastore, 1, .int v :: .int x :: .ref j :: r => match zc_look zm_at j with
    | some (1, n) => some (vp_in x n, r, zm_sA σ j x.toNatClampNeg (vp_nar .byte v))
    | some (2, n) => some (vp_in x n, r, zm_sA σ j x.toNatClampNeg (vp_nar .boolean v))
    | _ => none
  | .lastore, 1, .long v :: .int x :: .ref j :: r => match zc_look zm_at j with
    | some (3, n) => some (vp_in x n, r, zm_sB σ j x.toNatClampNeg v)
    | _ => none
  | _, _, _ => none
def zm_ldc (i : Instr) (len : Nat) (st : List Value) : Option (List Value) := match i, len with
  | .ldc idx, 2 => match zc_look zm_ci idx with
    | some v => some (.int v :: st)
    | none => none
  | .ldc_w idx, 3 => match zc_look zm_ci idx with
    | some v => some (.int v :: st)
    | none => none
  | .ldc2_w idx, 3 => match zc_look zm_cl2 idx with
    | some v => some (.long v :: st)
    | none => none
  | _, _ => none
def zc_pops : Nat → List Value → List Value → Option (List Value × List Value)
  | 0, acc, st => some (acc, st)
  | n + 1, acc, v :: st => zc_pops n (v :: acc) st
  | _ + 1, _, [] => none
theorem zc_pops_of : ∀ (n : Nat) (acc st a r : List Value), zc_pops n acc st = some (a, r) → a.reverse ++ r = acc.reverse ++ st ∧ a.length = n + acc.length := by
  intro n
  induction n with
  | zero => intro acc st a r h; simp only [zc_pops] at h; cases h; exact ⟨rfl, by omega⟩
  | succ n ih =>
    intro acc st a r h
    cases st with
    | nil => simp [zc_pops] at h
    | cons v st =>
      simp only [zc_pops] at h
      obtain ⟨h1, h2⟩ := ih _ _ _ _ h
      exact ⟨by rw [h1]; simp, by rw [h2]; simp; omega⟩
def zm_inv (i : Instr) (len : Nat) (st : List Value) : Option (Nat × List Value × List Value) := match i, len with
  | .invokevirtual idx, 3 => match zc_look zm_lk idx with
    | some (y, n, false) => match zc_pops n [] st with
      | some (a, .ref 0 :: r) => cond (Nat.ble r.length 4) (some (y, .ref 0 :: a, r)) none
      | _ => none
    | _ => none
  | .invokestatic idx, 3 => match zc_look zm_lk idx with
    | some (y, n, true) => match zc_pops n [] st with
      | some (a, r) => cond (Nat.ble r.length 4) (some (y, a, r)) none
      | _ => none
    | _ => none
  | _, _ => none
def zc_psh (v : Option Value) (r : List Value) : List Value := match v with
  | some v => v :: r
  | none => r
abbrev zm_C : Type := Nat → List Value → mS → (Option Value → mS → Prop) → Prop
def zm_X (C : zm_C) : zw_X mS := fun i len pc lv st σ rec =>
  (∃ st', zm_get i len st σ = some st' ∧ rec (pc + 3, lv, st', σ)) ∨
  (∃ st' σ', zm_put i len st σ = some (st', σ') ∧ rec (pc + 3, lv, st', σ')) ∨
  (∃ g st', zm_ld i len st σ = some (g, st') ∧ g ∧ rec (pc + 1, lv, st', σ)) ∨
  (∃ g st' σ', zm_so i len st σ = some (g, st', σ') ∧ g ∧ rec (pc + 1, lv, st', σ')) ∨
  (∃ st', zm_ldc i len st = some st' ∧ rec (pc + len, lv, st', σ)) ∨
  (∃ y a r, zm_inv i len st = some (y, a, r) ∧ C y a σ (fun v σ' => rec (pc + 3, lv, zc_psh v r, σ')))
/-- a call of method y at depth d: what must hold that it ends with Q -/
def zm_call : Nat → zm_C
  | 0, _, _, _, _ => False
  | d + 1, y, a, σ, Q => ∃ t, zc_look zm_tab y = some t ∧ zc_cats t.2.2.2.2.1 a = true ∧ zw_P (zm_X (zm_call d)) t.2.2.2.1 t.2.1 Q (0, zc_pad t.2.2.1 (zc_ent t.2.2.2.2.1 a), [], σ)
theorem zm_X_mono {C : zm_C} (hC : ∀ y a σ Q Q', (∀ v u, Q v u → Q' v u) → C y a σ Q → C y a σ Q') : zw_mono (zm_X C) := by
  intro P P' h i len pc lv st σ hs
  rcases hs with ⟨st', h1, h2⟩ | ⟨st', σ', h1, h2⟩ | ⟨g, st', h1, h2, h3⟩ | ⟨g, st', σ', h1, h2, h3⟩ | ⟨st', h1, h2⟩ | ⟨y, a, r, h1, h2⟩
  · exact Or.inl ⟨st', h1, h _ h2⟩
  · exact Or.inr (Or.inl ⟨st', σ', h1, h _ h2⟩)
  · exact Or.inr (Or.inr (Or.inl ⟨g, st', h1, h2, h _ h3⟩))
  · exact Or.inr (Or.inr (Or.inr (Or.inl ⟨g, st', σ', h1, h2, h _ h3⟩)))
  · exact Or.inr (Or.inr (Or.inr (Or.inr (Or.inl ⟨st', h1, h _ h2⟩))))
  · exact Or.inr (Or.inr (Or.inr (Or.inr (Or.inr ⟨y, a, r, h1, hC _ _ _ _ _ (fun v u q => h _ q) h2⟩))))
theorem zm_call_mono : ∀ (d y : Nat) (a : List Value) (σ : mS) (Q Q' : Option Value → mS → Prop), (∀ v u, Q v u → Q' v u) → zm_call d y a σ Q → zm_call d y a σ Q' := by
  intro d
  induction d with
  | zero => intro y a σ Q Q' _ h; exact h
  | succ d ih =>
    intro y a σ Q Q' hQ h
    obtain ⟨t, h1, h2, h3⟩ := h
    exact ⟨t, h1, h2, zw_cq (zm_X_mono ih) hQ h3⟩
theorem zm_m (d : Nat) : zw_mono (zm_X (zm_call d)) := zm_X_mono (zm_call_mono d)
/-! the world of the model: cells -/
abbrev zm_cl : List vw_C := [(RX4, TX4, 65)]
def zm_tys (cA : Nat → ClassId) : List (ClassId × FieldType) := [(cA 0, .int), (cA 1, .byte), (cA 2, .boolean), (cA 3, .long)]
def zm_fv (σ : mS) (k : Nat) : Value := match zm_kd k with
  | (0, _) => .int (σ.1 k)
  | (1, _) => .long (σ.2.1 k)
  | (_, j) => .ref j
def zm_fs (ad : Nat → Nat) (σ : mS) : List Value := (List.range 65).map (fun k => zc_cv ad (zm_fv σ k))
def zm_en (cA : Nat → ClassId) (ad : Nat → Nat) (σ : mS) (j : Nat) : va_E := match j with
  | 0 => .inr (0, zm_fs ad σ)
  | j + 1 => match zm_tn (j + 1) with
    | (3, n) => .inl (cA 3, n, .inr (.inl (σ.2.2.2 (j + 1))))
    | (t, n) => .inl (cA t, n, .inl (σ.2.2.1 (j + 1)))
def zm_ws (cA : Nat → ClassId) (ad : Nat → Nat) (σ : mS) : va_W := (List.range 43).map (fun j => (ad j, zm_en cA ad σ j))
def zm_A (ad : Nat → Nat) : Nat → Prop := fun q => ∃ j, j < 43 ∧ q = ad j
def zm_inj (ad : Nat → Nat) : Prop := ∀ i j, i < 43 → j < 43 → ad i = ad j → i = j
theorem zm_ws_at (cA : Nat → ClassId) (ad : Nat → Nat) (σ : mS) {j : Nat} (h : j < 43) : (zm_ws cA ad σ)[j]? = some (ad j, zm_en cA ad σ j) := by
  simp [zm_ws, List.getElem?_range h]
theorem zm_D {ad : Nat → Nat} (hi : zm_inj ad) (cA : Nat → ClassId) (σ : mS) : va_D (zm_A ad) (zm_ws cA ad σ) := by
  have h0 : ∀ (k : Nat) (q : Nat × va_E), (zm_ws cA ad σ)[k]? = some q → k < 43 ∧ q.1 = ad k := by
    intro k q h
    have hk : k < 43 := by
      have := (List.getElem?_eq_some_iff.mp h).1
      simpa [zm_ws] using this
    rw [zm_ws_at cA ad σ hk] at h
    cases h
    exact ⟨hk, rfl⟩
  refine ⟨fun i j p q h1 h2 e => ?_, fun k q h => ?_⟩
  · obtain ⟨a1, a2⟩ := h0 i p h1
    obtain ⟨b1, b2⟩ := h0 j q h2
    exact hi i j a1 b1 (by rw [← a2, ← b2]; exact e)
  · obtain ⟨a1, a2⟩ := h0 k q h
    exact ⟨k, a1, a2⟩
theorem zm_ws_set {cA : Nat → ClassId} {ad : Nat → Nat} {σ σ' : mS} {j : Nat} (hj : j < 43) (ho : ∀ k, k < 43 → k ≠ j → zm_en cA ad σ' k = zm_en cA ad σ k) {x : va_E} (hx : zm_en cA ad σ' j = x) : (zm_ws cA ad σ).set j (ad j, x) = zm_ws cA ad σ' := by
  apply List.ext_getElem?
  intro k
  by_cases hk : k < 43
  · rw [zm_ws_at cA ad σ' hk, List.getElem?_set]
    by_cases e : j = k
    · subst e
      rw [if_pos rfl, if_pos (by simpa [zm_ws] using hj), hx]
    · rw [if_neg e, zm_ws_at cA ad σ hk, ho k hk (fun q => e q.symm)]
  · rw [List.getElem?_eq_none (by simp [zm_ws]; omega), List.getElem?_eq_none (by simp [zm_ws]; omega)]
theorem zm_fs_at (ad : Nat → Nat) (σ : mS) {k : Nat} (h : k < 65) : (zm_fs ad σ)[k]? = some (zc_cv ad (zm_fv σ k)) := by
  simp [zm_fs, List.getElem?_range h]
theorem zm_fs_set {ad : Nat → Nat} {σ σ' : mS} {k : Nat} (hk : k < 65) (ho : ∀ j, j < 65 → j ≠ k → zm_fv σ' j = zm_fv σ j) {v : Value} (hv : zc_cv ad (zm_fv σ' k) = v) : (zm_fs ad σ).set k v = zm_fs ad σ' := by
  apply List.ext_getElem?
  intro j
  by_cases hj : j < 65
  · rw [zm_fs_at ad σ' hj, List.getElem?_set]
    by_cases e : k = j
    · subst e
      rw [if_pos rfl, if_pos (by simpa [zm_fs] using hk), hv]
    · rw [if_neg e, zm_fs_at ad σ hj, ho j hj (fun q => e q.symm)]
  · rw [List.getElem?_eq_none (by simp [zm_fs]; omega), List.getElem?_eq_none (by simp [zm_fs]; omega)]
theorem zm_fv0 {σ : mS} {k a : Nat} (h : zm_kd k = (0, a)) : zm_fv σ k = .int (σ.1 k) := by unfold zm_fv; rw [h]; rfl
theorem zm_fv1 {σ : mS} {k a : Nat} (h : zm_kd k = (1, a)) : zm_fv σ k = .long (σ.2.1 k) := by unfold zm_fv; rw [h]; rfl
theorem zm_fv2 {σ : mS} {k a t : Nat} (h : zm_kd k = (t, a)) (h0 : t ≠ 0) (h1 : t ≠ 1) : zm_fv σ k = .ref a := by
  unfold zm_fv
  rw [h]
  match t, h0, h1 with
  | t + 2, _, _ => rfl
theorem zm_fv_I {σ : mS} {k j : Nat} {x : Int32} (h : j ≠ k) : zm_fv (zm_sI σ k x) j = zm_fv σ j := by
  unfold zm_fv
  have : (zm_sI σ k x).1 j = σ.1 j := by simp [zm_sI, upd, h]
  split <;> simp_all [zm_sI]
theorem zm_fv_J {σ : mS} {k j : Nat} {x : Int64} (h : j ≠ k) : zm_fv (zm_sJ σ k x) j = zm_fv σ j := by
  unfold zm_fv
  have : (zm_sJ σ k x).2.1 j = σ.2.1 j := by simp [zm_sJ, vp_updL, h]
  split <;> simp_all [zm_sJ]
theorem zm_en0 (cA : Nat → ClassId) (ad : Nat → Nat) (σ : mS) : zm_en cA ad σ 0 = .inr (0, zm_fs ad σ) := rfl
theorem zm_enA {cA : Nat → ClassId} {ad : Nat → Nat} {σ : mS} {j t n : Nat} (h0 : 0 < j) (h : zm_tn j = (t, n)) (h3 : t ≠ 3) : zm_en cA ad σ j = .inl (cA t, n, .inl (σ.2.2.1 j)) := by
  match j, h0 with
  | j + 1, _ =>
    show (match zm_tn (j + 1) with
      | (3, n) => (.inl (cA 3, n, .inr (.inl (σ.2.2.2 (j + 1)))) : va_E)
      | (t, n) => .inl (cA t, n, .inl (σ.2.2.1 (j + 1)))) = _
    rw [h]
    split
    · rename_i q; cases q; exact absurd rfl h3
    · rename_i q; cases q; rfl
theorem zm_enB {cA : Nat → ClassId} {ad : Nat → Nat} {σ : mS} {j n : Nat} (h0 : 0 < j) (h : zm_tn j = (3, n)) : zm_en cA ad σ j = .inl (cA 3, n, .inr (.inl (σ.2.2.2 j))) := by
  match j, h0 with
  | j + 1, _ =>
    show (match zm_tn (j + 1) with
      | (3, n) => (.inl (cA 3, n, .inr (.inl (σ.2.2.2 (j + 1)))) : va_E)
      | (t, n) => .inl (cA t, n, .inl (σ.2.2.1 (j + 1)))) = _
    rw [h]
    rfl
theorem zm_en_ext {cA : Nat → ClassId} {ad : Nat → Nat} {σ σ' : mS} {j : Nat} (h0 : j = 0 → zm_fs ad σ' = zm_fs ad σ) (h1 : σ'.2.2.1 j = σ.2.2.1 j) (h2 : σ'.2.2.2 j = σ.2.2.2 j) : zm_en cA ad σ' j = zm_en cA ad σ j := by
  match j, h0, h1, h2 with
  | 0, h0, _, _ => rw [zm_en0, zm_en0, h0 rfl]
  | j + 1, _, h1, h2 =>
    show (match zm_tn (j + 1) with
      | (3, n) => (.inl (cA 3, n, .inr (.inl (σ'.2.2.2 (j + 1)))) : va_E)
      | (t, n) => .inl (cA t, n, .inl (σ'.2.2.1 (j + 1)))) = (match zm_tn (j + 1) with
      | (3, n) => .inl (cA 3, n, .inr (.inl (σ.2.2.2 (j + 1))))
      | (t, n) => .inl (cA t, n, .inl (σ.2.2.1 (j + 1))))
    rw [h1, h2]
theorem zm_fs_A {ad : Nat → Nat} {σ : mS} {j k : Nat} {x : Int32} : zm_fs ad (zm_sA σ j k x) = zm_fs ad σ := rfl
theorem zm_fs_B {ad : Nat → Nat} {σ : mS} {j k : Nat} {x : Int64} : zm_fs ad (zm_sB σ j k x) = zm_fs ad σ := rfl
theorem zm_ws_I {cA : Nat → ClassId} {ad : Nat → Nat} {σ : mS} {k a : Nat} {x : Int32} (hk : k < 65) (hd : zm_kd k = (0, a)) : (zm_ws cA ad σ).set 0 (ad 0, .inr (0, (zm_fs ad σ).set k (.int x))) = zm_ws cA ad (zm_sI σ k x) := by
  refine zm_ws_set (σ' := zm_sI σ k x) (by decide) (fun j _ hj => zm_en_ext (fun q => absurd q hj) rfl rfl) ?_
  rw [zm_en0, zm_fs_set hk (fun j _ hj => zm_fv_I hj)]
  rw [zm_fv0 hd]
  simp [zm_sI, upd, zc_cv]
theorem zm_ws_J {cA : Nat → ClassId} {ad : Nat → Nat} {σ : mS} {k a : Nat} {x : Int64} (hk : k < 65) (hd : zm_kd k = (1, a)) : (zm_ws cA ad σ).set 0 (ad 0, .inr (0, (zm_fs ad σ).set k (.long x))) = zm_ws cA ad (zm_sJ σ k x) := by
  refine zm_ws_set (σ' := zm_sJ σ k x) (by decide) (fun j _ hj => zm_en_ext (fun q => absurd q hj) rfl rfl) ?_
  rw [zm_en0, zm_fs_set hk (fun j _ hj => zm_fv_J hj)]
  rw [zm_fv1 hd]
  simp [zm_sJ, vp_updL, zc_cv]
theorem zm_ws_A {cA : Nat → ClassId} {ad : Nat → Nat} {σ : mS} {j k t n : Nat} {x : Int32} (hj : j < 43) (h0 : 0 < j) (h : zm_tn j = (t, n)) (h3 : t ≠ 3) : (zm_ws cA ad σ).set j (ad j, .inl (cA t, n, .inl (upd (σ.2.2.1 j) k x))) = zm_ws cA ad (zm_sA σ j k x) := by
  refine zm_ws_set hj (fun i _ hi => zm_en_ext (fun _ => zm_fs_A) (by simp [zm_sA, hi]) rfl) ?_
  rw [zm_enA h0 h h3]
  simp [zm_sA]
theorem zm_ws_B {cA : Nat → ClassId} {ad : Nat → Nat} {σ : mS} {j k n : Nat} {x : Int64} (hj : j < 43) (h0 : 0 < j) (h : zm_tn j = (3, n)) : (zm_ws cA ad σ).set j (ad j, .inl (cA 3, n, .inr (.inl (vp_updL (σ.2.2.2 j) k x)))) = zm_ws cA ad (zm_sB σ j k x) := by
  refine zm_ws_set hj (fun i _ hi => zm_en_ext (fun _ => zm_fs_B) rfl (by simp [zm_sB, hi])) ?_
  rw [zm_enB h0 h]
  simp [zm_sB]
theorem zm_T1 : ∀ k, k < 65 → (TX4 k).1 = RX4 := by decide +kernel
/-! contracts -/
def zm_rm (d : Nat) : Room := { frames := d, cells := 0, slots := 0, locals := 40 * d }
def zm_Pc (D : va_G) (cA : Nat → ClassId) (ad : Nat → Nat) (a : List Value) (σ : mS) : Array Value → State → Prop := va_Pc (a.map (zc_cv ad)) (fun U => va_P D zm_cl (zm_ws cA ad σ) U.heap ∧ va_K D zm_cl (zm_tys cA) U)
def zm_B (D : va_G) (cA : Nat → ClassId) (ad : Nat → Nat) (u : mS) (t : State) : Prop := va_P D zm_cl (zm_ws cA ad u) t.heap ∧ va_K D zm_cl (zm_tys cA) t
def zm_Qc (rt : Option FieldType) (Q : Option Value → mS → Prop) (B : mS → State → Prop) (A : Nat → Prop) : Array Value → State → Outcome → State → Prop := match rt with
  | none => va_Qv (fun u => Q none u) B A
  | some .long => va_Ql (fun r u => Q (some (.long r)) u) B A
  | some _ => va_Qi (fun r u => Q (some (.int r)) u) B A
theorem zm_Qc_i {ty : FieldType} (h : ty ≠ .long) (Q : Option Value → mS → Prop) (B : mS → State → Prop) (A : Nat → Prop) : zm_Qc (some ty) Q B A = va_Qi (fun r u => Q (some (.int r)) u) B A := by
  unfold zm_Qc
  split
  · rename_i h9; cases h9
  · rename_i h9; cases h9; exact absurd rfl h
  · rfl
def zm_Met (l : Launch) (D : va_G) (cA : Nat → ClassId) (ad : Nat → Nat) (d : Nat) (t : zm_T) (a : List Value) (σ : mS) (Q : Option Value → mS → Prop) : Prop :=
  Met l t.1 (ws_ t.1 t.2.1 t.2.2.1 t.2.2.2.1) (zm_rm d) (zm_Pc D cA ad a σ) (zm_Qc t.2.2.2.1 Q (zm_B D cA ad) (zm_A ad)) 0 0 (zm_A ad)
def zm_Rp (D : va_G) (cA : Nat → ClassId) (ad : Nat → Nat) (s : State) (σ : mS) (H : Heap) (locs : List Loc) (cells slots : Nat) : Prop := va_P D zm_cl (zm_ws cA ad σ) H ∧ va_S (zm_A ad) s.heap H locs ∧ cells = 0 ∧ slots = 0
section ZM
variable {p : Program} {l : Launch} {e : Env} {R : Room} {s : State} {m : MethodId} {args : Array Value} {below : List Frame} {meth : Method} {c : Code} {QQ : State → Prop}
variable {cc : ByteArray} {nL : Nat} {ad : Nat → Nat} {D : va_G} {cA : Nat → ClassId} {i : Instr} {len pc : Nat} {lv : zc_L} {st : List Value} {σ : mS} {rec : zw_F mS → Prop}
theorem zm_get_s (hx : p.tables.exec = Jvm.exec) (hb : c.code = cc) (hts : ∀ w ∈ lw_all, w.before args s = true) (hown : s.vm.findClass RX4 = some m.cls) (hK : va_K D zm_cl (zm_tys cA) s) (hd : decode cc pc = .ok (i, len)) {st' : List Value} (h : zm_get i len st σ = some st')
    (k : zw_Snd p l e R s m args below meth c QQ ad nL (zm_Rp D cA ad s) (pc + 3, lv, st', σ)) : zw_Snd p l e R s m args below meth c QQ ad nL (zm_Rp D cA ad s) (pc, lv, st, σ) := by
  intro H locs cells slots ls hRp hl
  unfold zm_get at h
  split at h
  · rename_i idx r
    cases hq : zc_look zm_ft idx with
    | none => rw [hq] at h; cases h
    | some q =>
      obtain ⟨t, kf, j⟩ := q
      obtain ⟨hlink, hkd, hk⟩ := zm_ft_ok _ (zc_look_mem hq)
      dsimp only at hlink hkd hk
      have key : st' = zm_fv σ kf :: r := by
        rw [hq] at h
        split at h
        · rename_i q2; cases q2; cases h; rw [zm_fv0 hkd]
        · rename_i q2; cases q2; cases h; rw [zm_fv1 hkd]
        · rename_i q1 q2 q3; cases q3; cases h
          rw [zm_fv2 hkd (fun q => q1 q) (fun q => q2 q)]
        · rename_i q2; cases q2
      subst key
      exact va_get (D := D) (ci := 0) (C := RX4) (T := TX4) (N := 65) hx hb hts in_X4 hown hK hRp.1 0 (zm_ws_at cA ad σ (by decide)) rfl kf hk (hts _ hlink) (fun _ h9 => by rw [zm_T1 kf hk] at h9; exact h9) (zm_fs_at ad σ hk) hd (k H locs cells slots ls hRp hl)
  · cases h
theorem zm_put_s (hi : zm_inj ad) (hx : p.tables.exec = Jvm.exec) (hb : c.code = cc) (hts : ∀ w ∈ lw_all, w.before args s = true) (hown : s.vm.findClass RX4 = some m.cls) (hK : va_K D zm_cl (zm_tys cA) s) (hd : decode cc pc = .ok (i, len)) {st' : List Value} {σ' : mS} (h : zm_put i len st σ = some (st', σ'))
    (k : zw_Snd p l e R s m args below meth c QQ ad nL (zm_Rp D cA ad s) (pc + 3, lv, st', σ')) : zw_Snd p l e R s m args below meth c QQ ad nL (zm_Rp D cA ad s) (pc, lv, st, σ) := by
  intro H locs cells slots ls hRp hl
  unfold zm_put at h
  split at h
  · rename_i idx x r
    split at h
    · rename_i kf j hq
      obtain ⟨hlink, hkd, hk⟩ := zm_ft_ok _ (zc_look_mem hq)
      dsimp only at hlink hkd hk
      cases h
      obtain ⟨hfin, hty⟩ := zm_kd_int kf hk (by rw [hkd])
      exact va_put (D := D) (ci := 0) (v := .int x) (ty := .int) (C := RX4) (T := TX4) (N := 65) hx hb hts in_X4 tyX4 tyX4_ok nmX4 hown hK hRp.1 (zm_D hi cA σ) hRp.2.1 0 (zm_ws_at cA ad σ (by decide)) rfl kf hk (hts _ hlink) (fun _ h9 => by rw [zm_T1 kf hk] at h9; exact h9) hfin (by rw [tyX4_ok kf hk, hty]) rfl rfl (by simpa [zm_fs] using hk) hd
        (fun H1 locs1 hP1 _ hS1 => k H1 locs1 cells slots ls ⟨by rw [← zm_ws_I hk hkd]; exact hP1, hS1, hRp.2.2⟩ hl)
    · cases h
  · rename_i idx x r
    split at h
    · rename_i kf j hq
      obtain ⟨hlink, hkd, hk⟩ := zm_ft_ok _ (zc_look_mem hq)
      dsimp only at hlink hkd hk
      cases h
      obtain ⟨hfin, hty⟩ := zm_kd_long kf hk (by rw [hkd])
      exact va_put (D := D) (ci := 0) (v := .long x) (ty := .long) (C := RX4) (T := TX4) (N := 65) hx hb hts in_X4 tyX4 tyX4_ok nmX4 hown hK hRp.1 (zm_D hi cA σ) hRp.2.1 0 (zm_ws_at cA ad σ (by decide)) rfl kf hk (hts _ hlink) (fun _ h9 => by rw [zm_T1 kf hk] at h9; exact h9) hfin (by rw [tyX4_ok kf hk, hty]) rfl rfl (by simpa [zm_fs] using hk) hd
        (fun H1 locs1 hP1 _ hS1 => k H1 locs1 cells slots ls ⟨by rw [← zm_ws_J hk hkd]; exact hP1, hS1, hRp.2.2⟩ hl)
    · cases h
  · cases h
theorem zm_ld_s (hx : p.tables.exec = Jvm.exec) (hb : c.code = cc) (hK : va_K D zm_cl (zm_tys cA) s) (hd : decode cc pc = .ok (i, len)) {g : Prop} {st' : List Value} (h : zm_ld i len st σ = some (g, st')) (hg : g)
    (k : zw_Snd p l e R s m args below meth c QQ ad nL (zm_Rp D cA ad s) (pc + 1, lv, st', σ)) : zw_Snd p l e R s m args below meth c QQ ad nL (zm_Rp D cA ad s) (pc, lv, st, σ) := by
  intro H locs cells slots ls hRp hl
  unfold zm_ld at h
  split at h
  · rename_i x j r
    split at h
    · rename_i n hq
      obtain ⟨h1, h2, h3⟩ := zm_at_ok _ (zc_look_mem hq)
      cases h
      exact va_iald hx hb hK hRp.1 j 0 (by rw [zm_ws_at cA ad σ h1, zm_enA h2 h3 (by decide)]) rfl hg hd (k H locs cells slots ls hRp hl)
    · cases h
  · rename_i x j r
    split at h
    · rename_i n hq
      obtain ⟨h1, h2, h3⟩ := zm_at_ok _ (zc_look_mem hq)
      cases h
      exact va_bald hx hb hK hRp.1 j 1 (by rw [zm_ws_at cA ad σ h1, zm_enA h2 h3 (by decide)]) rfl hg hd (k H locs cells slots ls hRp hl)
    · rename_i n hq
      obtain ⟨h1, h2, h3⟩ := zm_at_ok _ (zc_look_mem hq)
      cases h
      exact va_zald hx hb hK hRp.1 j 2 (by rw [zm_ws_at cA ad σ h1, zm_enA h2 h3 (by decide)]) rfl hg hd (k H locs cells slots ls hRp hl)
    · cases h
  · rename_i x j r
    split at h
    · rename_i n hq
      obtain ⟨h1, h2, h3⟩ := zm_at_ok _ (zc_look_mem hq)
      cases h
      exact va_lald hx hb hK hRp.1 j 3 (by rw [zm_ws_at cA ad σ h1, zm_enB h2 h3]) rfl hg hd (k H locs cells slots ls hRp hl)
    · cases h
  · cases h
theorem zm_so_s (hi : zm_inj ad) (hx : p.tables.exec = Jvm.exec) (hb : c.code = cc) (hK : va_K D zm_cl (zm_tys cA) s) (hd : decode cc pc = .ok (i, len)) {g : Prop} {st' : List Value} {σ' : mS} (h : zm_so i len st σ = some (g, st', σ')) (hg : g)
    (k : zw_Snd p l e R s m args below meth c QQ ad nL (zm_Rp D cA ad s) (pc + 1, lv, st', σ')) : zw_Snd p l e R s m args below meth c QQ ad nL (zm_Rp D cA ad s) (pc, lv, st, σ) := by
  intro H locs cells slots ls hRp hl
  unfold zm_so at h
  split at h
  · rename_i v x j r
    split at h
    · rename_i n hq
      obtain ⟨h1, h2, h3⟩ := zm_at_ok _ (zc_look_mem hq)
      cases h
      exact va_iast hx hb hK hRp.1 (zm_D hi cA σ) hRp.2.1 j 0 (by rw [zm_ws_at cA ad σ h1, zm_enA h2 h3 (by decide)]) rfl hg hd
        (fun H1 locs1 hP1 _ hS1 => k H1 locs1 cells slots ls ⟨by rw [← zm_ws_A h1 h2 h3 (by decide)]; exact hP1, hS1, hRp.2.2⟩ hl)
    · cases h
  · rename_i v x j r
    split at h
    · rename_i n hq
      obtain ⟨h1, h2, h3⟩ := zm_at_ok _ (zc_look_mem hq)
      cases h
      exact va_bast hx hb hK hRp.1 (zm_D hi cA σ) hRp.2.1 j 1 (by rw [zm_ws_at cA ad σ h1, zm_enA h2 h3 (by decide)]) rfl hg hd
        (fun H1 locs1 hP1 _ hS1 => k H1 locs1 cells slots ls ⟨by rw [← zm_ws_A h1 h2 h3 (by decide)]; exact hP1, hS1, hRp.2.2⟩ hl)
    · rename_i n hq
      obtain ⟨h1, h2, h3⟩ := zm_at_ok _ (zc_look_mem hq)
      cases h
      exact va_zast hx hb hK hRp.1 (zm_D hi cA σ) hRp.2.1 j 2 (by rw [zm_ws_at cA ad σ h1, zm_enA h2 h3 (by decide)]) rfl hg hd
        (fun H1 locs1 hP1 _ hS1 => k H1 locs1 cells slots ls ⟨by rw [← zm_ws_A h1 h2 h3 (by decide)]; exact hP1, hS1, hRp.2.2⟩ hl)
    · cases h
  · rename_i v x j r
    split at h
    · rename_i n hq
      obtain ⟨h1, h2, h3⟩ := zm_at_ok _ (zc_look_mem hq)
      cases h
      exact va_last hx hb hK hRp.1 (zm_D hi cA σ) hRp.2.1 j 3 (by rw [zm_ws_at cA ad σ h1, zm_enB h2 h3]) rfl hg hd
        (fun H1 locs1 hP1 _ hS1 => k H1 locs1 cells slots ls ⟨by rw [← zm_ws_B h1 h2 h3]; exact hP1, hS1, hRp.2.2⟩ hl)
    · cases h
  · cases h
theorem zm_ldc_s (hx : p.tables.exec = Jvm.exec) (hb : c.code = cc) (hts : ∀ w ∈ lw_all, w.before args s = true) (hown : s.vm.findClass RX4 = some m.cls) (hd : decode cc pc = .ok (i, len)) {st' : List Value} (h : zm_ldc i len st = some st')
    (k : zw_Snd p l e R s m args below meth c QQ ad nL (zm_Rp D cA ad s) (pc + len, lv, st', σ)) : zw_Snd p l e R s m args below meth c QQ ad nL (zm_Rp D cA ad s) (pc, lv, st, σ) := by
  intro H locs cells slots ls hRp hl
  unfold zm_ldc at h
  split at h
  · split at h
    · rename_i v hq
      cases h
      exact lv_ldc hx hb hown (hts _ (zm_ci_ok _ (zc_look_mem hq))) hd (k H locs cells slots ls hRp hl)
    · cases h
  · split at h
    · rename_i v hq
      cases h
      exact lv_ldcw hx hb hown (hts _ (zm_ci_ok _ (zc_look_mem hq))) hd (k H locs cells slots ls hRp hl)
    · cases h
  · split at h
    · rename_i v hq
      cases h
      exact lv_ldc2 hx hb hown (hts _ (zm_cl2_ok _ (zc_look_mem hq))) hd (k H locs cells slots ls hRp hl)
    · cases h
  · cases h
end ZM
