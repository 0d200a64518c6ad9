/-! THE SYSTEM's WORLD: a standing part (the desk, its arrays, its 46 courts), by kinds and numbers, and what is made on the way, by addresses -/
set_option maxRecDepth 100000
abbrev xE : Type := (Nat × List zv) ⊕ ((Nat × Nat × (Nat → Int32)) ⊕ (Nat × Nat × (Nat → Option Nat)))
/-- the desk's ints; its book and cries; courts' ints (field, court); int arrays (kind, number, place); who were; what was made -/
abbrev xH : Type := (Nat → Int32) × (Nat → Nat) × (Nat → Nat → Int32) × (Nat → Nat → Nat → Int32) × (Nat → Nat) × (Nat → Option xE)
def xsI (h : xH) (k : Nat) (v : Int32) : xH := (upd h.1 k v, h.2)
def xsR (h : xH) (k a : Nat) : xH := (h.1, va_up h.2.1 k a, h.2.2)
def xsC (h : xH) (f j : Nat) (v : Int32) : xH := (h.1, h.2.1, (fun g => if g = f then upd (h.2.2.1 f) j v else h.2.2.1 g), h.2.2.2)
def xsA (h : xH) (k j i : Nat) (v : Int32) : xH := (h.1, h.2.1, h.2.2.1, (fun g => if g = k then (fun n => if n = j then upd (h.2.2.2.1 k j) i v else h.2.2.2.1 k n) else h.2.2.2.1 g), h.2.2.2.2)
def xsF (h : xH) (k j : Nat) (f : Nat → Int32) : xH := (h.1, h.2.1, h.2.2.1, (fun g => if g = k then (fun n => if n = j then f else h.2.2.2.1 k n) else h.2.2.2.1 g), h.2.2.2.2)
def xsW (h : xH) (f : Nat → Nat) : xH := (h.1, h.2.1, h.2.2.1, h.2.2.2.1, f, h.2.2.2.2.2)
def xsD (h : xH) (a : Nat) (e : xE) : xH := (h.1, h.2.1, h.2.2.1, h.2.2.2.1, h.2.2.2.2.1, va_up h.2.2.2.2.2 a (some e))
abbrev x_cl : List vw_C := [(RX0, TX0, 25), (RX3, TX3, 10), (RX1, TX1, 10), (RX2, TX2, 6), (RJ2, TJ2, 3), (RX7, TX7, 3), (RX8, TX8, 3), (RX12, TX12, 6), (RX5, TX5, 12), (RX6, TX6, 8), (RX10, TX10, 1), (RX9, TX9, 1), (RX11, TX11, 3), (RJ7, TJ7, 4), (RJ6, TJ6, 4), (RJ15, TJ15, 4)]
def x_ty (ci : Nat) : Nat → FieldType := match ci with
  | 0 => tyX0
  | 1 => tyX3
  | 2 => tyX1
  | 3 => tyX2
  | 4 => tyJ2
  | 5 => tyX7
  | 6 => tyX8
  | 7 => tyX12
  | 8 => tyX5
  | 9 => tyX6
  | 10 => tyX10
  | 11 => tyX9
  | 12 => tyX11
  | 13 => tyJ7
  | 14 => tyJ6
  | _ => tyJ15
def x_cfact (r : vw_C) (ty : Nat → FieldType) : Prop := (∀ w ∈ u_ws r.1 r.2.1 r.2.2, w ∈ lw_all) ∧ (∀ k, k < r.2.2 → parseFieldDescriptor (r.2.1 k).2.2.1 = some (ty k)) ∧ ∀ a, a < r.2.2 → ∀ b, b < r.2.2 → a ≠ b → (r.2.1 a).2.1 ≠ (r.2.1 b).2.1
theorem x_cok : ∀ (ci : Nat) (r : vw_C), x_cl[ci]? = some r → x_cfact r (x_ty ci) := by
  intro ci r h
  match ci, h with
  | 0, h => cases h; exact ⟨in_X0, tyX0_ok, nmX0⟩
  | 1, h => cases h; exact ⟨in_X3, tyX3_ok, nmX3⟩
  | 2, h => cases h; exact ⟨in_X1, tyX1_ok, nmX1⟩
  | 3, h => cases h; exact ⟨in_X2, tyX2_ok, nmX2⟩
  | 4, h => cases h; exact ⟨in_J2, tyJ2_ok, nmJ2⟩
  | 5, h => cases h; exact ⟨in_X7, tyX7_ok, nmX7⟩
  | 6, h => cases h; exact ⟨in_X8, tyX8_ok, nmX8⟩
  | 7, h => cases h; exact ⟨in_X12, tyX12_ok, nmX12⟩
  | 8, h => cases h; exact ⟨in_X5, tyX5_ok, nmX5⟩
  | 9, h => cases h; exact ⟨in_X6, tyX6_ok, nmX6⟩
  | 10, h => cases h; exact ⟨in_X10, tyX10_ok, nmX10⟩
  | 11, h => cases h; exact ⟨in_X9, tyX9_ok, nmX9⟩
  | 12, h => cases h; exact ⟨in_X11, tyX11_ok, nmX11⟩
  | 13, h => cases h; exact ⟨in_J7, tyJ7_ok, nmJ7⟩
  | 14, h => cases h; exact ⟨in_J6, tyJ6_ok, nmJ6⟩
  | 15, h => cases h; exact ⟨in_J15, tyJ15_ok, nmJ15⟩
  | n + 16, h => simp [x_cl] at h
def x_tys (cA : Nat → ClassId) : List (ClassId × FieldType) := [(cA 0, .int), (cA 1, .byte), (cA 2, .boolean), (cA 3, .object "WebCourt$Court"), (cA 4, .object "java/lang/Object"), (cA 5, .array .int)]
/-- the desk's fields: 0 an int, 1 made on the way, 2 standing (kind, number) -/
def xs_wk : List (Nat × Nat × Nat) := [(2, 24, 0), (0, 0, 0), (0, 0, 0), (0, 0, 0), (1, 0, 0), (2, 1, 0), (2, 1, 1), (2, 1, 2), (0, 0, 0), (2, 10, 0), (0, 0, 0), (0, 0, 0), (2, 11, 0), (2, 12, 0), (2, 20, 0), (2, 21, 0), (0, 0, 0), (2, 13, 0), (0, 0, 0), (0, 0, 0), (1, 0, 0), (2, 14, 0), (2, 22, 0), (2, 15, 0), (2, 23, 0)]
def xs_wf (h : xH) (k : Nat) : zv := match xs_wk.getD k (0, 0, 0) with
  | (0, _, _) => .inl (.int (h.1 k))
  | (1, _, _) => .inl (.ref (h.2.1 k))
  | (_, a, b) => .inr (a, b)
def xs_cf (h : xH) (j k : Nat) : zv := match Nat.blt k 4 with
  | true => .inr (30 + k, j)
  | false => .inl (.int (h.2.2.1 k j))
/-- standing arrays: kind, (type, length, 0 ints 1 references) -/
def xs_ak : List (Nat × Nat × Nat × Nat) := [(10, 3, 40, 1), (11, 5, 8, 1), (12, 5, 8, 1), (13, 5, 8, 1), (14, 5, 31, 1), (15, 3, 3, 1), (20, 0, 8, 0), (21, 0, 6, 0), (22, 2, 31, 0), (23, 2, 3, 0), (24, 1, 1600, 0), (30, 0, 6, 0), (31, 0, 6, 0), (32, 0, 6, 0), (33, 0, 6, 0), (34, 0, 8, 0), (35, 0, 8, 0), (36, 0, 8, 0), (37, 0, 6, 0)]
def xs_el (h : xH) (k i : Nat) : Nat × Nat := match k with
  | 10 => (1, h.2.2.2.2.1 i)
  | 11 => (34, i)
  | 12 => (35, i)
  | 13 => (36, i)
  | 14 => (37, i)
  | _ => (1, 43 + i)
def xs_en (cA : Nat → ClassId) (ad : Nat × Nat → Nat) (h : xH) (q : Nat × Nat) : va_E := match q.1 with
  | 0 => .inr (0, (List.range 25).map (fun k => yc_cv ad (xs_wf h k)))
  | 1 => .inr (1, (List.range 10).map (fun k => yc_cv ad (xs_cf h q.2 k)))
  | _ => match zc_look xs_ak q.1 with
    | some (t, n, 0) => .inl (cA t, n, .inl (h.2.2.2.1 q.1 q.2))
    | some (t, n, _) => .inl (cA t, n, .inr (.inr (.inr (.inr (fun i => some (ad (xs_el h q.1 i)))))))
    | none => .inl (0, 0, .inl (fun _ => 0))
/-- how many there are of a kind -/
def xs_ct : List (Nat × Nat) := [(0, 1), (1, 46), (10, 1), (11, 1), (12, 1), (13, 1), (14, 1), (15, 1), (20, 1), (21, 1), (22, 1), (23, 1), (24, 1), (30, 46), (31, 46), (32, 46), (33, 46), (34, 8), (35, 8), (36, 8), (37, 31)]
def xs_ids : List (Nat × Nat) := xs_ct.flatMap (fun p => (List.range p.2).map (fun j => (p.1, j)))
theorem xs_ids_mem {k n j : Nat} (h : zc_look xs_ct k = some n) (hj : j < n) : (k, j) ∈ xs_ids :=
  List.mem_flatMap.mpr ⟨(k, n), zc_look_mem h, List.mem_map.mpr ⟨j, List.mem_range.mpr hj, rfl⟩⟩
theorem xs_ids_nodup : xs_ids.Nodup := by decide +kernel
def xd_en (cA : Nat → ClassId) (ad : Nat × Nat → Nat) (e : xE) : va_E := match e with
  | .inl (ci, fs) => .inr (ci, fs.map (yc_cv ad))
  | .inr (.inl (t, n, f)) => .inl (cA t, n, .inl f)
  | .inr (.inr (t, n, f)) => .inl (cA t, n, .inr (.inr (.inr (.inr f))))
abbrev xid : Type := (Nat × Nat) ⊕ Nat
def xw_ad (ad : Nat × Nat → Nat) (i : xid) : Nat := match i with
  | .inl q => ad q
  | .inr a => a
def xw_en (cA : Nat → ClassId) (ad : Nat × Nat → Nat) (h : xH) (i : xid) : va_E := match i with
  | .inl q => xs_en cA ad h q
  | .inr a => match h.2.2.2.2.2 a with
    | some e => xd_en cA ad e
    | none => .inl (0, 0, .inl (fun _ => 0))
def xw_ws (cA : Nat → ClassId) (ad : Nat × Nat → Nat) (L : List xid) (h : xH) : va_W := L.map (fun i => (xw_ad ad i, xw_en cA ad h i))
/-- the list of cells fits the state -/
def xw_ok (L : List xid) (h : xH) : Prop := L.Nodup ∧ (∀ q, .inl q ∈ L ↔ q ∈ xs_ids) ∧ ∀ a, .inr a ∈ L ↔ h.2.2.2.2.2 a ≠ none
theorem xw_at {cA : Nat → ClassId} {ad : Nat × Nat → Nat} {L : List xid} {h : xH} {i : xid} (hi : i ∈ L) : ∃ q0 : Nat, L[q0]? = some i ∧ (xw_ws cA ad L h)[q0]? = some (xw_ad ad i, xw_en cA ad h i) := by
  obtain ⟨q0, hq⟩ := List.getElem?_of_mem hi
  exact ⟨q0, hq, by simp [xw_ws, hq]⟩
theorem xw_set {cA : Nat → ClassId} {ad : Nat × Nat → Nat} {L : List xid} {h h' : xH} {i : xid} {q0 : Nat} (hn : L.Nodup) (hq : L[q0]? = some i) {x : va_E} (hx : xw_en cA ad h' i = x) (ho : ∀ j, j ∈ L → j ≠ i → xw_en cA ad h' j = xw_en cA ad h j) : (xw_ws cA ad L h).set q0 (xw_ad ad i, x) = xw_ws cA ad L h' := by
  apply List.ext_getElem?
  intro k
  have hlt : q0 < L.length := (List.getElem?_eq_some_iff.mp hq).1
  rw [List.getElem?_set]
  by_cases e : q0 = k
  · subst e
    rw [if_pos rfl, if_pos (by simpa [xw_ws] using hlt)]
    simp [xw_ws, hq, hx]
  · rw [if_neg e]
    cases hk : L[k]? with
    | none => simp [xw_ws, hk]
    | some j =>
      have hj : j ≠ i := by
        intro q
        subst q
        have h1 := (List.getElem?_eq_some_iff.mp hq)
        have h2 := (List.getElem?_eq_some_iff.mp hk)
        obtain ⟨a1, a2⟩ := h1
        obtain ⟨b1, b2⟩ := h2
        have hp := List.pairwise_iff_getElem.mp hn
        rcases Nat.lt_or_gt_of_ne e with g | g
        · exact hp q0 k a1 b1 g (a2.trans b2.symm)
        · exact hp k q0 b1 a1 g (b2.trans a2.symm)
      simp [xw_ws, hk, ho j (List.mem_of_getElem? hk) hj]
