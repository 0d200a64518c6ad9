/-! THE SYSTEM's MACHINE: fields and arrays -/
set_option maxRecDepth 100000
abbrev xS : Type := xH × Nat × Nat
def xs_inb (k j : Nat) : Bool := match zc_look xs_ct k with
  | some n => Nat.blt j n
  | none => false
theorem xs_inb_mem {k j : Nat} (h : xs_inb k j = true) : (k, j) ∈ xs_ids := by
  unfold xs_inb at h
  split at h
  · rename_i n hn
    exact xs_ids_mem hn (by simpa [Nat.blt_eq] using h)
  · cases h
/-- a standing object's field -/
def x_gs (own : Nat) (i : Instr) (len : Nat) (st : List zv) (h : xH) : Option (Nat × List zv) := match i, len, st with
  | .getfield idx, 3, .inr (0, 0) :: r => match xf own idx with
    | some (0, k, _) => match xs_wk.getD k (0, 0, 0) with
      | (0, _, _) => some (0, .inl (.int (h.1 k)) :: r)
      | (1, _, _) => some (0, .inl (.ref (h.2.1 k)) :: r)
      | (_, a, b) => some (0, .inr (a, b) :: r)
    | _ => none
  | .getfield idx, 3, .inr (1, j) :: r => match xf own idx with
    | some (1, 0, _) => some (j, .inr (30, j) :: r)
    | some (1, 1, _) => some (j, .inr (31, j) :: r)
    | some (1, 2, _) => some (j, .inr (32, j) :: r)
    | some (1, 3, _) => some (j, .inr (33, j) :: r)
    | some (1, k, _) => some (j, .inl (.int (h.2.2.1 k j)) :: r)
    | _ => none
  | _, _, _ => none
/-- a made object's field: address, class, field, rest -/
def x_gd (own : Nat) (i : Instr) (len : Nat) (st : List zv) : Option (Nat × Nat × Nat × List zv) := match i, len, st with
  | .getfield idx, 3, .inl (.ref a) :: r => match xf own idx with
    | some (ci, k, _) => some (a, ci, k, r)
    | none => none
  | _, _, _ => none
def xx_get (own : Nat) : yw_X xS := fun i len pc lv st σ rec _ =>
  (∃ j st', x_gs own i len st σ.1 = some (j, st') ∧ j < 46 ∧ rec (pc + 3, lv, st', σ)) ∨
  (∃ a ci k r fs v, x_gd own i len st = some (a, ci, k, r) ∧ σ.1.2.2.2.2.2 a = some (.inl (ci, fs)) ∧ fs[k]? = some v ∧ rec (pc + 3, lv, v :: r, σ))
theorem xx_get_mono (own : Nat) : yw_mono (xx_get own) := by
  intro P P' h T T' hT i len pc lv st σ hs
  rcases hs with ⟨j, st', h1, h2, h3⟩ | ⟨a, ci, k, r, fs, v, h1, h2, h3, h4⟩
  · exact Or.inl ⟨j, st', h1, h2, h _ h3⟩
  · exact Or.inr ⟨a, ci, k, r, fs, v, h1, h2, h3, h _ h4⟩
def x_Rp (D : va_G) (cA : Nat → ClassId) (ad : Nat × Nat → Nat) (A : Nat → Prop) (s : State) (σ : xS) (H : Heap) (locs : List Loc) (cells slots : Nat) : Prop :=
  ∃ L, xw_ok L σ.1 ∧ va_P D x_cl (xw_ws cA ad L σ.1) H ∧ va_D A (xw_ws cA ad L σ.1) ∧ va_S A s.heap H locs ∧ cells = σ.2.1 ∧ slots = σ.2.2
theorem xs_en0 (cA : Nat → ClassId) (ad : Nat × Nat → Nat) (h : xH) (j : Nat) : xs_en cA ad h (0, j) = .inr (0, (List.range 25).map (fun k => yc_cv ad (xs_wf h k))) := rfl
theorem xs_en1 (cA : Nat → ClassId) (ad : Nat × Nat → Nat) (h : xH) (j : Nat) : xs_en cA ad h (1, j) = .inr (1, (List.range 10).map (fun k => yc_cv ad (xs_cf h j k))) := rfl
theorem xs_wf_at (ad : Nat × Nat → Nat) (h : xH) {k : Nat} (hk : k < 25) : ((List.range 25).map (fun k => yc_cv ad (xs_wf h k)))[k]? = some (yc_cv ad (xs_wf h k)) := by simp [List.getElem?_range hk]
theorem xs_cf_at (ad : Nat × Nat → Nat) (h : xH) (j : Nat) {k : Nat} (hk : k < 10) : ((List.range 10).map (fun k => yc_cv ad (xs_cf h j k)))[k]? = some (yc_cv ad (xs_cf h j k)) := by simp [List.getElem?_range hk]
theorem xf_lt0 {own idx k ne : Nat} (h : xf own idx = some (0, k, ne)) : k < 25 := by
  obtain ⟨r, ref, hr, hk, -, -⟩ := xf_ok h
  cases hr
  exact hk
theorem xf_lt1 {own idx k ne : Nat} (h : xf own idx = some (1, k, ne)) : k < 10 := by
  obtain ⟨r, ref, hr, hk, -, -⟩ := xf_ok h
  cases hr
  exact hk
theorem xs_wf_0 {h : xH} {k a b : Nat} (hw : xs_wk.getD k (0, 0, 0) = (0, a, b)) : xs_wf h k = .inl (.int (h.1 k)) := by unfold xs_wf; rw [hw]; rfl
theorem xs_wf_1 {h : xH} {k a b : Nat} (hw : xs_wk.getD k (0, 0, 0) = (1, a, b)) : xs_wf h k = .inl (.ref (h.2.1 k)) := by unfold xs_wf; rw [hw]; rfl
theorem xs_wf_2 {h : xH} {k t a b : Nat} (hw : xs_wk.getD k (0, 0, 0) = (t, a, b)) (h0 : t ≠ 0) (h1 : t ≠ 1) : xs_wf h k = .inr (a, b) := by
  unfold xs_wf
  rw [hw]
  match t, h0, h1 with
  | t + 2, _, _ => rfl
section XG
variable {p : Program} {l : Launch} {e : Env} {R : Room} {s : State} {m : MethodId} {args : Array Value} {below : List Frame} {meth : Method} {c : Code} {QQ : State → Prop}
variable {cc : ByteArray} {nL : Nat} {ad : Nat × Nat → Nat} {D : va_G} {cA : Nat → ClassId} {A : Nat → Prop} {i : Instr} {len pc own : Nat} {lv : yc_L} {st : List zv} {σ : xS} {rec : yw_F xS → Prop} {thr : zv → xS → Prop}
theorem xx_get_s (hx : p.tables.exec = Jvm.exec) (hb : c.code = cc) (hts : ∀ w ∈ lw_all, w.before args s = true) (hown : s.vm.findClass (xo own) = some m.cls) (hK : xw_K D cA s) (hd : decode cc pc = .ok (i, len)) (h : xx_get own i len pc lv st σ rec thr)
    (hrec : ∀ g, rec g → yw_Snd p l e R s m args below meth c QQ ad nL (x_Rp D cA ad A s) g) : yw_Snd p l e R s m args below meth c QQ ad nL (x_Rp D cA ad A s) (pc, lv, st, σ) := by
  intro H locs cells slots ls hRp hl
  have hRp0 := hRp
  obtain ⟨L, hok, hP, hD, hS, rfl, rfl⟩ := hRp
  rcases h with ⟨j, st', h1, h2, h3⟩ | ⟨a, ci, k, r, fs, v, h1, h2, h3, h4⟩
  · have kk := hrec _ h3 H locs _ _ ls hRp0 hl
    unfold x_gs at h1
    split at h1
    · rename_i idx r
      have hm : (.inl (0, 0) : xid) ∈ L := (hok.2.1 _).mpr (xs_inb_mem rfl)
      split at h1
      · rename_i k ne hf
        have hk := xf_lt0 hf
        have key : st' = xs_wf σ.1 k :: r := by
          split at h1
          · rename_i a b hw; cases h1; rw [xs_wf_0 hw]
          · rename_i a b hw; cases h1; rw [xs_wf_1 hw]
          · rename_i t a b q0 q1 hw; cases h1; rw [xs_wf_2 hw (fun q => q0 q) (fun q => q1 q)]
        subst key
        exact x_get_row hx hb hts hown hK hP hm (xs_en0 cA ad σ.1 0) hf (xs_wf_at ad σ.1 hk) hd kk
      · cases h1
    · rename_i idx jj r
      have hj : jj < 46 → (.inl (1, jj) : xid) ∈ L := fun hj => (hok.2.1 _).mpr (xs_ids_mem (n := 46) rfl hj)
      split at h1
      · rename_i ne hf; cases h1
        exact x_get_row hx hb hts hown hK hP (hj h2) (xs_en1 cA ad σ.1 j) hf (xs_cf_at ad σ.1 j (xf_lt1 hf)) hd kk
      · rename_i ne hf; cases h1
        exact x_get_row hx hb hts hown hK hP (hj h2) (xs_en1 cA ad σ.1 j) hf (xs_cf_at ad σ.1 j (xf_lt1 hf)) hd kk
      · rename_i ne hf; cases h1
        exact x_get_row hx hb hts hown hK hP (hj h2) (xs_en1 cA ad σ.1 j) hf (xs_cf_at ad σ.1 j (xf_lt1 hf)) hd kk
      · rename_i ne hf; cases h1
        exact x_get_row hx hb hts hown hK hP (hj h2) (xs_en1 cA ad σ.1 j) hf (xs_cf_at ad σ.1 j (xf_lt1 hf)) hd kk
      · rename_i k ne n0 n1 n2 n3 hf
        cases h1
        have hk4 : Nat.blt k 4 = false := by
          rw [Bool.eq_false_iff, Ne, Nat.blt_eq]
          intro q
          have : k = 0 ∨ k = 1 ∨ k = 2 ∨ k = 3 := by omega
          rcases this with q | q | q | q
          · exact n0 q
          · exact n1 q
          · exact n2 q
          · exact n3 q
        have hv : xs_cf σ.1 j k = .inl (.int (σ.1.2.2.1 k j)) := by unfold xs_cf; rw [hk4]
        refine x_get_row hx hb hts hown hK hP (hj h2) (xs_en1 cA ad σ.1 j) hf (xs_cf_at ad σ.1 j (xf_lt1 hf)) hd ?_
        rw [hv]
        exact kk
      · cases h1
    · cases h1
  · have kk := hrec _ h4 H locs _ _ ls hRp0 hl
    unfold x_gd at h1
    split at h1
    · rename_i idx a' r'
      split at h1
      · rename_i ci' k' ne hf
        cases h1
        have hm : (.inr a : xid) ∈ L := (hok.2.2 a).mpr (by rw [h2]; simp)
        exact x_get_row (iid := .inr a) hx hb hts hown hK hP hm (by simp only [xw_en, h2]; rfl) hf (by rw [List.getElem?_map, h3]; rfl) hd kk
      · cases h1
    · cases h1
end XG
