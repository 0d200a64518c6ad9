abbrev zv : Type := Value ⊕ (Nat × Nat)
/-! THE ABSTRACT MACHINE, core: locals, stack, numbers, branches; any state type -/
set_option maxRecDepth 100000
/-- locals: none: not set; some none: second half of a long; some (some v): the value v -/
abbrev yc_L : Type := List (Option (Option zv))
def yc_nth : yc_L → Nat → Option (Option zv)
  | [], _ => none
  | a :: _, 0 => a
  | _ :: t, k + 1 => yc_nth t k
def yc_upd : yc_L → Nat → Option (Option zv) → yc_L
  | [], _, _ => []
  | _ :: t, 0, v => v :: t
  | a :: t, k + 1, v => a :: yc_upd t k v
def yc_cat : zv → Nat
  | .inl v => v.category
  | .inr _ => 1
def yc_cv (ad : Nat × Nat → Nat) : zv → Value
  | .inl v => v
  | .inr q => .ref (ad q)
theorem yc_cv_cat (ad : Nat × Nat → Nat) (v : zv) : (yc_cv ad v).category = yc_cat v := by cases v <;> rfl
theorem yc_upd_len (lv : yc_L) (k : Nat) (v : Option (Option zv)) : (yc_upd lv k v).length = lv.length := by
  induction lv generalizing k with
  | nil => rfl
  | cons a t ih => cases k with
    | zero => rfl
    | succ k => simp [yc_upd, ih]
theorem yc_nth_upd (lv : yc_L) (k j : Nat) (v : Option (Option zv)) : yc_nth (yc_upd lv k v) j = if j = k ∧ k < lv.length then v else yc_nth lv j := by
  induction lv generalizing k j with
  | nil => simp [yc_upd, yc_nth]
  | cons a t ih => cases k with
    | zero => cases j with
      | zero => simp [yc_upd, yc_nth]
      | succ j => simp [yc_upd, yc_nth]
    | succ k => cases j with
      | zero => simp [yc_upd, yc_nth]
      | succ j => simp [yc_upd, yc_nth, ih]
theorem yc_nth_lt {lv : yc_L} {k : Nat} {v : Option zv} (h : yc_nth lv k = some v) : k < lv.length := by
  induction lv generalizing k with
  | nil => simp [yc_nth] at h
  | cons a t ih => cases k with
    | zero => simp
    | succ k => simp only [yc_nth] at h; simpa using ih h
def yc_ok (ad : Nat × Nat → Nat) (nL : Nat) (lv : yc_L) (ls : Array Slot) : Prop :=
  lv.length = nL ∧ ls.size = nL ∧ lv_wf ls ∧ (∀ k v, yc_nth lv k = some (some v) → ls[k]? = some (.val (yc_cv ad v))) ∧ ∀ k v, yc_nth lv k = some (some v) → yc_cat v = 2 → yc_nth lv (k + 1) = some none
def yc_as (ad : Nat × Nat → Nat) (lv : yc_L) : List (Nat × Value) := (List.range lv.length).filterMap (fun k => match yc_nth lv k with
  | some (some v) => some (k, yc_cv ad v)
  | _ => none)
theorem yc_as_mem {ad : Nat × Nat → Nat} {lv : yc_L} {k : Nat} {v : zv} (h : yc_nth lv k = some (some v)) : (k, yc_cv ad v) ∈ yc_as ad lv := by
  refine List.mem_filterMap.mpr ⟨k, List.mem_range.mpr (yc_nth_lt h), ?_⟩
  rw [h]
theorem yc_as_of {ad : Nat × Nat → Nat} {lv : yc_L} {q : Nat × Value} (h : q ∈ yc_as ad lv) : ∃ v, yc_nth lv q.1 = some (some v) ∧ q.2 = yc_cv ad v := by
  obtain ⟨k, -, hk⟩ := List.mem_filterMap.mp h
  cases e : yc_nth lv k with
  | none => rw [e] at hk; cases hk
  | some o => cases o with
    | none => rw [e] at hk; cases hk
    | some v =>
      rw [e] at hk
      cases hk
      exact ⟨v, e, rfl⟩
theorem yc_ok.has {ad : Nat × Nat → Nat} {nL : Nat} {lv : yc_L} {ls : Array Slot} (h : yc_ok ad nL lv ls) : lv_has ls nL (yc_as ad lv) := by
  refine ⟨h.2.1, h.2.2.1, fun q hq => ?_⟩
  obtain ⟨v, h1, h2⟩ := yc_as_of hq
  rw [h2]
  exact h.2.2.2.1 _ _ h1
/-- store of a value of one slot -/
def yc_st1 (lv : yc_L) (k : Nat) (v : zv) : Option yc_L := match yc_nth lv k with
  | some none => none
  | _ => cond (Nat.blt k lv.length) (some (yc_upd lv k (some (some v)))) none
def yc_st2 (lv : yc_L) (k : Nat) (v : zv) : Option yc_L := match yc_nth lv k with
  | some none => none
  | _ => cond (Nat.blt (k + 1) lv.length) (some (yc_upd (yc_upd lv k (some (some v))) (k + 1) (some none))) none
theorem yc_st1_of {lv lv' : yc_L} {k : Nat} {v : zv} (h : yc_st1 lv k v = some lv') : yc_nth lv k ≠ some none ∧ k < lv.length ∧ lv' = yc_upd lv k (some (some v)) := by
  unfold yc_st1 at h
  split at h
  · cases h
  · rename_i hne
    cases e : Nat.blt k lv.length with
    | false => rw [e] at h; cases h
    | true =>
      rw [e] at h
      cases h
      exact ⟨fun h => hne h, by simpa [Nat.blt_eq] using e, rfl⟩
theorem yc_st2_of {lv lv' : yc_L} {k : Nat} {v : zv} (h : yc_st2 lv k v = some lv') : yc_nth lv k ≠ some none ∧ k + 1 < lv.length ∧ lv' = yc_upd (yc_upd lv k (some (some v))) (k + 1) (some none) := by
  unfold yc_st2 at h
  split at h
  · cases h
  · rename_i hne
    cases e : Nat.blt (k + 1) lv.length with
    | false => rw [e] at h; cases h
    | true =>
      rw [e] at h
      cases h
      exact ⟨fun h => hne h, by simpa [Nat.blt_eq] using e, rfl⟩
theorem yc_ok.st1 {ad : Nat × Nat → Nat} {nL : Nat} {lv lv' : yc_L} {ls ls' : Array Slot} {k : Nat} {v : zv} (h : yc_ok ad nL lv ls) (hs : yc_st1 lv k v = some lv') (hc : yc_cat v = 1)
    (h' : lv_has ls' nL ((k, yc_cv ad v) :: (yc_as ad lv).filter (fun q => !(q.1 == k) && !(q.1 + 1 == k && q.2.category == 2)))) : yc_ok ad nL lv' ls' := by
  obtain ⟨hne, hlt, rfl⟩ := yc_st1_of hs
  obtain ⟨h1, h2, h3, h4, h5⟩ := h
  refine ⟨by rw [yc_upd_len]; exact h1, h'.1, h'.2.1, fun j w hj => ?_, fun j w hj hw => ?_⟩
  · rw [yc_nth_upd] at hj
    by_cases e : j = k ∧ k < lv.length
    · rw [if_pos e] at hj
      cases hj
      rw [e.1]
      exact h'.2.2 (k, yc_cv ad v) List.mem_cons_self
    · rw [if_neg e] at hj
      refine h'.2.2 (j, yc_cv ad w) (List.mem_cons_of_mem _ (List.mem_filter.mpr ⟨yc_as_mem hj, ?_⟩))
      have e1 : ¬ j = k := fun q => e ⟨q, hlt⟩
      have e2 : ¬ (j + 1 = k ∧ yc_cat w = 2) := fun q => hne (by rw [← q.1]; exact h5 j w hj q.2)
      simp only [yc_cv_cat, Bool.and_eq_true, Bool.not_eq_true', Bool.and_eq_false_iff, beq_eq_false_iff_ne, ne_eq]
      refine ⟨e1, ?_⟩
      by_cases e3 : j + 1 = k
      · exact Or.inr fun q => e2 ⟨e3, q⟩
      · exact Or.inl e3
  · rw [yc_nth_upd] at hj
    by_cases e : j = k ∧ k < lv.length
    · rw [if_pos e] at hj
      cases hj
      omega
    · rw [if_neg e] at hj
      have hm := h5 j w hj hw
      rw [yc_nth_upd]
      by_cases e3 : j + 1 = k ∧ k < lv.length
      · exact absurd (by rw [← e3.1]; exact hm) hne
      · rw [if_neg e3]; exact hm
theorem yc_ok.st2 {ad : Nat × Nat → Nat} {nL : Nat} {lv lv' : yc_L} {ls ls' : Array Slot} {k : Nat} {v : zv} (h : yc_ok ad nL lv ls) (hs : yc_st2 lv k v = some lv')
    (h' : lv_has ls' nL ((k, yc_cv ad v) :: (yc_as ad lv).filter (fun q => !(q.1 == k) && (!(q.1 == k + 1) && !(q.1 + 1 == k && q.2.category == 2))))) : yc_ok ad nL lv' ls' := by
  obtain ⟨hne, hlt, rfl⟩ := yc_st2_of hs
  obtain ⟨h1, h2, h3, h4, h5⟩ := h
  refine ⟨by rw [yc_upd_len, yc_upd_len]; exact h1, h'.1, h'.2.1, fun j w hj => ?_, fun j w hj hw => ?_⟩
  · rw [yc_nth_upd, yc_nth_upd, yc_upd_len] at hj
    by_cases e0 : j = k + 1 ∧ k + 1 < lv.length
    · rw [if_pos e0] at hj; cases hj
    rw [if_neg e0] at hj
    by_cases e : j = k ∧ k < lv.length
    · rw [if_pos e] at hj
      cases hj
      rw [e.1]
      exact h'.2.2 (k, yc_cv ad v) List.mem_cons_self
    · rw [if_neg e] at hj
      refine h'.2.2 (j, yc_cv ad w) (List.mem_cons_of_mem _ (List.mem_filter.mpr ⟨yc_as_mem hj, ?_⟩))
      have e1 : ¬ j = k := fun q => e ⟨q, by omega⟩
      have e4 : ¬ j = k + 1 := fun q => e0 ⟨q, hlt⟩
      have e2 : ¬ (j + 1 = k ∧ yc_cat w = 2) := fun q => hne (by rw [← q.1]; exact h5 j w hj q.2)
      simp only [yc_cv_cat, Bool.and_eq_true, Bool.not_eq_true', Bool.and_eq_false_iff, beq_eq_false_iff_ne, ne_eq]
      refine ⟨e1, e4, ?_⟩
      by_cases e3 : j + 1 = k
      · exact Or.inr fun q => e2 ⟨e3, q⟩
      · exact Or.inl e3
  · rw [yc_nth_upd, yc_nth_upd, yc_upd_len] at hj
    rw [yc_nth_upd, yc_nth_upd, yc_upd_len]
    by_cases e0 : j = k + 1 ∧ k + 1 < lv.length
    · rw [if_pos e0] at hj; cases hj
    rw [if_neg e0] at hj
    by_cases e : j = k ∧ k < lv.length
    · rw [if_pos ⟨by omega, hlt⟩]
    · rw [if_neg e] at hj
      have hm := h5 j w hj hw
      by_cases e3 : j + 1 = k
      · exact absurd (by rw [← e3]; exact hm) hne
      · rw [if_neg (by omega), if_neg (by omega)]; exact hm
abbrev yc_R : Type := Option (Nat × yc_L × List zv)
section ZC
variable {p : Program} {l : Launch} {e : Env} {R : Room} {s : State} {m : MethodId} {args : Array Value} {below : List Frame} {meth : Method} {c : Code} {H : Heap} {locs : List Loc} {cells slots : Nat} {Q : State → Prop}
variable {cc : ByteArray} {pc pc' len nL : Nat} {ls : Array Slot} {lv lv' : yc_L} {st st' : List zv} {ad : Nat × Nat → Nat}

def yc_iconst (n : Int) (len pc : Nat) (lv : yc_L) (st : List zv) : yc_R := match len, zc_icv n with
  | 1, some v => some (pc + 1, lv, .inl (.int v) :: st)
  | _, _ => none
theorem yc_iconst_s (n : Int) (hx : p.tables.exec = Jvm.exec) (hb : c.code = cc) (hl : yc_ok ad nL lv ls) (hd : decode cc pc = .ok (.iconst n, len)) (hn : yc_iconst n len pc lv st = some (pc', lv', st')) (k : ∀ ls' : Array Slot, yc_ok ad nL lv' ls' → W p l e R s m args below meth c H locs cells slots Q (F0 m pc' ls' (st'.map (yc_cv ad)))) : W p l e R s m args below meth c H locs cells slots Q (F0 m pc ls (st.map (yc_cv ad))) := by
  unfold yc_iconst at hn
  split at hn
  · rename_i v e
    cases hn; exact lv_iconst hx hb hd (zc_icv_of e) (k ls hl)
  · cases hn
def yc_bipush (n : Int) (len pc : Nat) (lv : yc_L) (st : List zv) : yc_R := match len, zc_bip n with
  | 2, some v => some (pc + 2, lv, .inl (.int v) :: st)
  | _, _ => none
theorem yc_bipush_s (n : Int) (hx : p.tables.exec = Jvm.exec) (hb : c.code = cc) (hl : yc_ok ad nL lv ls) (hd : decode cc pc = .ok (.bipush n, len)) (hn : yc_bipush n len pc lv st = some (pc', lv', st')) (k : ∀ ls' : Array Slot, yc_ok ad nL lv' ls' → W p l e R s m args below meth c H locs cells slots Q (F0 m pc' ls' (st'.map (yc_cv ad)))) : W p l e R s m args below meth c H locs cells slots Q (F0 m pc ls (st.map (yc_cv ad))) := by
  unfold yc_bipush at hn
  split at hn
  · rename_i v e
    cases hn; exact lv_bipush hx hb hd (zc_bip_of e) (k ls hl)
  · cases hn
def yc_sipush (n : Int) (len pc : Nat) (lv : yc_L) (st : List zv) : yc_R := match len, zc_sip n with
  | 3, some v => some (pc + 3, lv, .inl (.int v) :: st)
  | _, _ => none
theorem yc_sipush_s (n : Int) (hx : p.tables.exec = Jvm.exec) (hb : c.code = cc) (hl : yc_ok ad nL lv ls) (hd : decode cc pc = .ok (.sipush n, len)) (hn : yc_sipush n len pc lv st = some (pc', lv', st')) (k : ∀ ls' : Array Slot, yc_ok ad nL lv' ls' → W p l e R s m args below meth c H locs cells slots Q (F0 m pc' ls' (st'.map (yc_cv ad)))) : W p l e R s m args below meth c H locs cells slots Q (F0 m pc ls (st.map (yc_cv ad))) := by
  unfold yc_sipush at hn
  split at hn
  · rename_i v e
    cases hn; exact lv_sipush hx hb hd (zc_sip_of e) (k ls hl)
  · cases hn
def yc_lconst (n : Fin 2) (len pc : Nat) (lv : yc_L) (st : List zv) : yc_R := match len, st with
  | 1, r => some (pc + 1, lv, .inl (.long (lN (n : Nat))) :: r)
  | _, _ => none
theorem yc_lconst_s (n : Fin 2) (hx : p.tables.exec = Jvm.exec) (hb : c.code = cc) (hl : yc_ok ad nL lv ls) (hd : decode cc pc = .ok (.lconst n, len)) (hn : yc_lconst n len pc lv st = some (pc', lv', st')) (k : ∀ ls' : Array Slot, yc_ok ad nL lv' ls' → W p l e R s m args below meth c H locs cells slots Q (F0 m pc' ls' (st'.map (yc_cv ad)))) : W p l e R s m args below meth c H locs cells slots Q (F0 m pc ls (st.map (yc_cv ad))) := by
  unfold yc_lconst at hn
  split at hn
  · cases hn; exact lv_lconst hx hb hd rfl (k ls hl)
  · cases hn
def yc_null  (len pc : Nat) (lv : yc_L) (st : List zv) : yc_R := match len, st with
  | 1, r => some (pc + 1, lv, .inl .null :: r)
  | _, _ => none
theorem yc_null_s  (hx : p.tables.exec = Jvm.exec) (hb : c.code = cc) (hl : yc_ok ad nL lv ls) (hd : decode cc pc = .ok (.aconst_null, len)) (hn : yc_null  len pc lv st = some (pc', lv', st')) (k : ∀ ls' : Array Slot, yc_ok ad nL lv' ls' → W p l e R s m args below meth c H locs cells slots Q (F0 m pc' ls' (st'.map (yc_cv ad)))) : W p l e R s m args below meth c H locs cells slots Q (F0 m pc ls (st.map (yc_cv ad))) := by
  unfold yc_null at hn
  split at hn
  · cases hn; exact lv_null hx hb hd (k ls hl)
  · cases hn
def yc_iload_n (n : Fin 4) (len pc : Nat) (lv : yc_L) (st : List zv) : yc_R := match len, yc_nth lv n with
  | 1, some (some (.inl (.int x))) => some (pc + 1, lv, .inl (.int x) :: st)
  | _, _ => none
theorem yc_iload_n_s (n : Fin 4) (hx : p.tables.exec = Jvm.exec) (hb : c.code = cc) (hl : yc_ok ad nL lv ls) (hd : decode cc pc = .ok (.iload_n n, len)) (hn : yc_iload_n n len pc lv st = some (pc', lv', st')) (k : ∀ ls' : Array Slot, yc_ok ad nL lv' ls' → W p l e R s m args below meth c H locs cells slots Q (F0 m pc' ls' (st'.map (yc_cv ad)))) : W p l e R s m args below meth c H locs cells slots Q (F0 m pc ls (st.map (yc_cv ad))) := by
  unfold yc_iload_n at hn
  split at hn
  · rename_i x e
    cases hn; exact lv_iload_n hx hb hd rfl (hl.2.2.2.1 _ _ e) (k ls hl)
  · cases hn
def yc_iload (n : Nat) (len pc : Nat) (lv : yc_L) (st : List zv) : yc_R := match len, yc_nth lv n with
  | 2, some (some (.inl (.int x))) => some (pc + 2, lv, .inl (.int x) :: st)
  | _, _ => none
theorem yc_iload_s (n : Nat) (hx : p.tables.exec = Jvm.exec) (hb : c.code = cc) (hl : yc_ok ad nL lv ls) (hd : decode cc pc = .ok (.iload n, len)) (hn : yc_iload n len pc lv st = some (pc', lv', st')) (k : ∀ ls' : Array Slot, yc_ok ad nL lv' ls' → W p l e R s m args below meth c H locs cells slots Q (F0 m pc' ls' (st'.map (yc_cv ad)))) : W p l e R s m args below meth c H locs cells slots Q (F0 m pc ls (st.map (yc_cv ad))) := by
  unfold yc_iload at hn
  split at hn
  · rename_i x e
    cases hn; exact lv_iload hx hb hd (hl.2.2.2.1 _ _ e) (k ls hl)
  · cases hn
def yc_lload_n (n : Fin 4) (len pc : Nat) (lv : yc_L) (st : List zv) : yc_R := match len, yc_nth lv n with
  | 1, some (some (.inl (.long x))) => some (pc + 1, lv, .inl (.long x) :: st)
  | _, _ => none
theorem yc_lload_n_s (n : Fin 4) (hx : p.tables.exec = Jvm.exec) (hb : c.code = cc) (hl : yc_ok ad nL lv ls) (hd : decode cc pc = .ok (.lload_n n, len)) (hn : yc_lload_n n len pc lv st = some (pc', lv', st')) (k : ∀ ls' : Array Slot, yc_ok ad nL lv' ls' → W p l e R s m args below meth c H locs cells slots Q (F0 m pc' ls' (st'.map (yc_cv ad)))) : W p l e R s m args below meth c H locs cells slots Q (F0 m pc ls (st.map (yc_cv ad))) := by
  unfold yc_lload_n at hn
  split at hn
  · rename_i x e
    cases hn; exact lv_lload_n hx hb hd rfl (hl.2.2.2.1 _ _ e) (k ls hl)
  · cases hn
def yc_lload (n : Nat) (len pc : Nat) (lv : yc_L) (st : List zv) : yc_R := match len, yc_nth lv n with
  | 2, some (some (.inl (.long x))) => some (pc + 2, lv, .inl (.long x) :: st)
  | _, _ => none
theorem yc_lload_s (n : Nat) (hx : p.tables.exec = Jvm.exec) (hb : c.code = cc) (hl : yc_ok ad nL lv ls) (hd : decode cc pc = .ok (.lload n, len)) (hn : yc_lload n len pc lv st = some (pc', lv', st')) (k : ∀ ls' : Array Slot, yc_ok ad nL lv' ls' → W p l e R s m args below meth c H locs cells slots Q (F0 m pc' ls' (st'.map (yc_cv ad)))) : W p l e R s m args below meth c H locs cells slots Q (F0 m pc ls (st.map (yc_cv ad))) := by
  unfold yc_lload at hn
  split at hn
  · rename_i x e
    cases hn; exact lv_lload hx hb hd (hl.2.2.2.1 _ _ e) (k ls hl)
  · cases hn
def yc_aload_n (n : Fin 4) (len pc : Nat) (lv : yc_L) (st : List zv) : yc_R := match len, yc_nth lv n with
  | 1, some (some (.inr x)) => some (pc + 1, lv, .inr x :: st)
  | 1, some (some (.inl (.ref x))) => some (pc + 1, lv, .inl (.ref x) :: st)
  | 1, some (some (.inl .null)) => some (pc + 1, lv, .inl .null :: st)
  | _, _ => none
theorem yc_aload_n_s (n : Fin 4) (hx : p.tables.exec = Jvm.exec) (hb : c.code = cc) (hl : yc_ok ad nL lv ls) (hd : decode cc pc = .ok (.aload_n n, len)) (hn : yc_aload_n n len pc lv st = some (pc', lv', st')) (k : ∀ ls' : Array Slot, yc_ok ad nL lv' ls' → W p l e R s m args below meth c H locs cells slots Q (F0 m pc' ls' (st'.map (yc_cv ad)))) : W p l e R s m args below meth c H locs cells slots Q (F0 m pc ls (st.map (yc_cv ad))) := by
  unfold yc_aload_n at hn
  split at hn
  · rename_i x e
    cases hn; exact lv_aload_n hx hb hd rfl (hl.2.2.2.1 _ _ e) (k ls hl)
  · rename_i x e
    cases hn; exact lv_aload_n hx hb hd rfl (hl.2.2.2.1 _ _ e) (k ls hl)
  · rename_i e
    cases hn; exact lv_aload_nN hx hb hd rfl (hl.2.2.2.1 _ _ e) (k ls hl)
  · cases hn
def yc_aload (n : Nat) (len pc : Nat) (lv : yc_L) (st : List zv) : yc_R := match len, yc_nth lv n with
  | 2, some (some (.inr x)) => some (pc + 2, lv, .inr x :: st)
  | 2, some (some (.inl (.ref x))) => some (pc + 2, lv, .inl (.ref x) :: st)
  | 2, some (some (.inl .null)) => some (pc + 2, lv, .inl .null :: st)
  | _, _ => none
theorem yc_aload_s (n : Nat) (hx : p.tables.exec = Jvm.exec) (hb : c.code = cc) (hl : yc_ok ad nL lv ls) (hd : decode cc pc = .ok (.aload n, len)) (hn : yc_aload n len pc lv st = some (pc', lv', st')) (k : ∀ ls' : Array Slot, yc_ok ad nL lv' ls' → W p l e R s m args below meth c H locs cells slots Q (F0 m pc' ls' (st'.map (yc_cv ad)))) : W p l e R s m args below meth c H locs cells slots Q (F0 m pc ls (st.map (yc_cv ad))) := by
  unfold yc_aload at hn
  split at hn
  · rename_i x e
    cases hn; exact lv_aload hx hb hd (hl.2.2.2.1 _ _ e) (k ls hl)
  · rename_i x e
    cases hn; exact lv_aload hx hb hd (hl.2.2.2.1 _ _ e) (k ls hl)
  · rename_i e
    cases hn; exact lv_aloadN hx hb hd (hl.2.2.2.1 _ _ e) (k ls hl)
  · cases hn
def yc_istore_n (n : Fin 4) (len pc : Nat) (lv : yc_L) (st : List zv) : yc_R := match len, st with
  | 1, .inl (.int x) :: r => match yc_st1 lv n (.inl (.int x)) with
    | some lv2 => some (pc + 1, lv2, r)
    | none => none
  | _, _ => none
theorem yc_istore_n_s (n : Fin 4) (hx : p.tables.exec = Jvm.exec) (hb : c.code = cc) (hl : yc_ok ad nL lv ls) (hd : decode cc pc = .ok (.istore_n n, len)) (hn : yc_istore_n n len pc lv st = some (pc', lv', st')) (k : ∀ ls' : Array Slot, yc_ok ad nL lv' ls' → W p l e R s m args below meth c H locs cells slots Q (F0 m pc' ls' (st'.map (yc_cv ad)))) : W p l e R s m args below meth c H locs cells slots Q (F0 m pc ls (st.map (yc_cv ad))) := by
  unfold yc_istore_n at hn
  split at hn
  · split at hn
    · rename_i lv2 e2
      cases hn
      exact lv_istore_n hx hb hd rfl hl.has (by have := (yc_st1_of e2).2.1; rw [hl.1] at this; exact this) rfl (fun ls' hls => k ls' (hl.st1 e2 rfl hls))
    · cases hn
  · cases hn
def yc_istore (n : Nat) (len pc : Nat) (lv : yc_L) (st : List zv) : yc_R := match len, st with
  | 2, .inl (.int x) :: r => match yc_st1 lv n (.inl (.int x)) with
    | some lv2 => some (pc + 2, lv2, r)
    | none => none
  | _, _ => none
theorem yc_istore_s (n : Nat) (hx : p.tables.exec = Jvm.exec) (hb : c.code = cc) (hl : yc_ok ad nL lv ls) (hd : decode cc pc = .ok (.istore n, len)) (hn : yc_istore n len pc lv st = some (pc', lv', st')) (k : ∀ ls' : Array Slot, yc_ok ad nL lv' ls' → W p l e R s m args below meth c H locs cells slots Q (F0 m pc' ls' (st'.map (yc_cv ad)))) : W p l e R s m args below meth c H locs cells slots Q (F0 m pc ls (st.map (yc_cv ad))) := by
  unfold yc_istore at hn
  split at hn
  · split at hn
    · rename_i lv2 e2
      cases hn
      exact lv_istore hx hb hd hl.has (by have := (yc_st1_of e2).2.1; rw [hl.1] at this; exact this) rfl (fun ls' hls => k ls' (hl.st1 e2 rfl hls))
    · cases hn
  · cases hn
def yc_lstore_n (n : Fin 4) (len pc : Nat) (lv : yc_L) (st : List zv) : yc_R := match len, st with
  | 1, .inl (.long x) :: r => match yc_st2 lv n (.inl (.long x)) with
    | some lv2 => some (pc + 1, lv2, r)
    | none => none
  | _, _ => none
theorem yc_lstore_n_s (n : Fin 4) (hx : p.tables.exec = Jvm.exec) (hb : c.code = cc) (hl : yc_ok ad nL lv ls) (hd : decode cc pc = .ok (.lstore_n n, len)) (hn : yc_lstore_n n len pc lv st = some (pc', lv', st')) (k : ∀ ls' : Array Slot, yc_ok ad nL lv' ls' → W p l e R s m args below meth c H locs cells slots Q (F0 m pc' ls' (st'.map (yc_cv ad)))) : W p l e R s m args below meth c H locs cells slots Q (F0 m pc ls (st.map (yc_cv ad))) := by
  unfold yc_lstore_n at hn
  split at hn
  · split at hn
    · rename_i lv2 e2
      cases hn
      exact lv_lstore_n hx hb hd rfl hl.has (by have := (yc_st2_of e2).2.1; rw [hl.1] at this; exact this) rfl (fun ls' hls => k ls' (hl.st2 e2 hls))
    · cases hn
  · cases hn
def yc_lstore (n : Nat) (len pc : Nat) (lv : yc_L) (st : List zv) : yc_R := match len, st with
  | 2, .inl (.long x) :: r => match yc_st2 lv n (.inl (.long x)) with
    | some lv2 => some (pc + 2, lv2, r)
    | none => none
  | _, _ => none
theorem yc_lstore_s (n : Nat) (hx : p.tables.exec = Jvm.exec) (hb : c.code = cc) (hl : yc_ok ad nL lv ls) (hd : decode cc pc = .ok (.lstore n, len)) (hn : yc_lstore n len pc lv st = some (pc', lv', st')) (k : ∀ ls' : Array Slot, yc_ok ad nL lv' ls' → W p l e R s m args below meth c H locs cells slots Q (F0 m pc' ls' (st'.map (yc_cv ad)))) : W p l e R s m args below meth c H locs cells slots Q (F0 m pc ls (st.map (yc_cv ad))) := by
  unfold yc_lstore at hn
  split at hn
  · split at hn
    · rename_i lv2 e2
      cases hn
      exact lv_lstore hx hb hd hl.has (by have := (yc_st2_of e2).2.1; rw [hl.1] at this; exact this) rfl (fun ls' hls => k ls' (hl.st2 e2 hls))
    · cases hn
  · cases hn
def yc_astore_n (n : Fin 4) (len pc : Nat) (lv : yc_L) (st : List zv) : yc_R := match len, st with
  | 1, .inr x :: r => match yc_st1 lv n (.inr x) with
    | some lv2 => some (pc + 1, lv2, r)
    | none => none
  | 1, .inl (.ref x) :: r => match yc_st1 lv n (.inl (.ref x)) with
    | some lv2 => some (pc + 1, lv2, r)
    | none => none
  | 1, .inl .null :: r => match yc_st1 lv n (.inl .null) with
    | some lv2 => some (pc + 1, lv2, r)
    | none => none
  | _, _ => none
theorem yc_astore_n_s (n : Fin 4) (hx : p.tables.exec = Jvm.exec) (hb : c.code = cc) (hl : yc_ok ad nL lv ls) (hd : decode cc pc = .ok (.astore_n n, len)) (hn : yc_astore_n n len pc lv st = some (pc', lv', st')) (k : ∀ ls' : Array Slot, yc_ok ad nL lv' ls' → W p l e R s m args below meth c H locs cells slots Q (F0 m pc' ls' (st'.map (yc_cv ad)))) : W p l e R s m args below meth c H locs cells slots Q (F0 m pc ls (st.map (yc_cv ad))) := by
  unfold yc_astore_n at hn
  split at hn
  · split at hn
    · rename_i lv2 e2
      cases hn
      exact lv_astore_n hx hb hd rfl hl.has (by have := (yc_st1_of e2).2.1; rw [hl.1] at this; exact this) rfl (fun ls' hls => k ls' (hl.st1 e2 rfl hls))
    · cases hn
  · split at hn
    · rename_i lv2 e2
      cases hn
      exact lv_astore_n hx hb hd rfl hl.has (by have := (yc_st1_of e2).2.1; rw [hl.1] at this; exact this) rfl (fun ls' hls => k ls' (hl.st1 e2 rfl hls))
    · cases hn
  · split at hn
    · rename_i lv2 e2
      cases hn
      exact lv_astore_nN hx hb hd rfl hl.has (by have := (yc_st1_of e2).2.1; rw [hl.1] at this; exact this) rfl (fun ls' hls => k ls' (hl.st1 e2 rfl hls))
    · cases hn
  · cases hn
def yc_astore (n : Nat) (len pc : Nat) (lv : yc_L) (st : List zv) : yc_R := match len, st with
  | 2, .inr x :: r => match yc_st1 lv n (.inr x) with
    | some lv2 => some (pc + 2, lv2, r)
    | none => none
  | 2, .inl (.ref x) :: r => match yc_st1 lv n (.inl (.ref x)) with
    | some lv2 => some (pc + 2, lv2, r)
    | none => none
  | 2, .inl .null :: r => match yc_st1 lv n (.inl .null) with
    | some lv2 => some (pc + 2, lv2, r)
    | none => none
  | _, _ => none
theorem yc_astore_s (n : Nat) (hx : p.tables.exec = Jvm.exec) (hb : c.code = cc) (hl : yc_ok ad nL lv ls) (hd : decode cc pc = .ok (.astore n, len)) (hn : yc_astore n len pc lv st = some (pc', lv', st')) (k : ∀ ls' : Array Slot, yc_ok ad nL lv' ls' → W p l e R s m args below meth c H locs cells slots Q (F0 m pc' ls' (st'.map (yc_cv ad)))) : W p l e R s m args below meth c H locs cells slots Q (F0 m pc ls (st.map (yc_cv ad))) := by
  unfold yc_astore at hn
  split at hn
  · split at hn
    · rename_i lv2 e2
      cases hn
      exact lv_astore hx hb hd hl.has (by have := (yc_st1_of e2).2.1; rw [hl.1] at this; exact this) rfl (fun ls' hls => k ls' (hl.st1 e2 rfl hls))
    · cases hn
  · split at hn
    · rename_i lv2 e2
      cases hn
      exact lv_astore hx hb hd hl.has (by have := (yc_st1_of e2).2.1; rw [hl.1] at this; exact this) rfl (fun ls' hls => k ls' (hl.st1 e2 rfl hls))
    · cases hn
  · split at hn
    · rename_i lv2 e2
      cases hn
      exact lv_astoreN hx hb hd hl.has (by have := (yc_st1_of e2).2.1; rw [hl.1] at this; exact this) rfl (fun ls' hls => k ls' (hl.st1 e2 rfl hls))
    · cases hn
  · cases hn
theorem yc_as_nth {ad : Nat × Nat → Nat} {lv : yc_L} {k : Nat} {v : zv} (h : yc_nth lv k = some (some v)) : ∃ j : Nat, (yc_as ad lv)[j]? = some (k, yc_cv ad v) := List.getElem?_of_mem (yc_as_mem h)
def yc_iinc (n : Nat) (a : Int) (len pc : Nat) (lv : yc_L) (st : List zv) : yc_R := match len, yc_nth lv n, zc_icv a with
  | 3, some (some (.inl (.int x))), some v => match yc_st1 lv n (.inl (.int (x + v))) with
    | some lv2 => some (pc + 3, lv2, st)
    | none => none
  | _, _, _ => none
theorem yc_iinc_s (n : Nat) (a : Int) (hx : p.tables.exec = Jvm.exec) (hb : c.code = cc) (hl : yc_ok ad nL lv ls) (hd : decode cc pc = .ok (.iinc n a, len)) (hn : yc_iinc n a len pc lv st = some (pc', lv', st')) (k : ∀ ls' : Array Slot, yc_ok ad nL lv' ls' → W p l e R s m args below meth c H locs cells slots Q (F0 m pc' ls' (st'.map (yc_cv ad)))) : W p l e R s m args below meth c H locs cells slots Q (F0 m pc ls (st.map (yc_cv ad))) := by
  unfold yc_iinc at hn
  split at hn
  · rename_i x v e e0
    split at hn
    · rename_i lv2 e2
      cases hn
      obtain ⟨j, hj⟩ := yc_as_nth (ad := ad) e
      exact lv_iinc hx hb hd hl.has hj (by rw [zc_icv_of e0]) (by have := (yc_st1_of e2).2.1; rw [hl.1] at this; exact this) rfl (fun ls' hls => k ls' (hl.st1 e2 rfl hls))
    · cases hn
  · cases hn
def yc_iadd  (len pc : Nat) (lv : yc_L) (st : List zv) : yc_R := match len, st with
  | 1, .inl (.int y) :: .inl (.int x) :: r => some (pc + 1, lv, .inl (.int (x + y)) :: r)
  | _, _ => none
theorem yc_iadd_s  (hx : p.tables.exec = Jvm.exec) (hb : c.code = cc) (hl : yc_ok ad nL lv ls) (hd : decode cc pc = .ok (.iadd, len)) (hn : yc_iadd  len pc lv st = some (pc', lv', st')) (k : ∀ ls' : Array Slot, yc_ok ad nL lv' ls' → W p l e R s m args below meth c H locs cells slots Q (F0 m pc' ls' (st'.map (yc_cv ad)))) : W p l e R s m args below meth c H locs cells slots Q (F0 m pc ls (st.map (yc_cv ad))) := by
  unfold yc_iadd at hn
  split at hn
  · cases hn; exact lv_iadd hx hb hd (k ls hl)
  · cases hn
def yc_isub  (len pc : Nat) (lv : yc_L) (st : List zv) : yc_R := match len, st with
  | 1, .inl (.int y) :: .inl (.int x) :: r => some (pc + 1, lv, .inl (.int (x - y)) :: r)
  | _, _ => none
theorem yc_isub_s  (hx : p.tables.exec = Jvm.exec) (hb : c.code = cc) (hl : yc_ok ad nL lv ls) (hd : decode cc pc = .ok (.isub, len)) (hn : yc_isub  len pc lv st = some (pc', lv', st')) (k : ∀ ls' : Array Slot, yc_ok ad nL lv' ls' → W p l e R s m args below meth c H locs cells slots Q (F0 m pc' ls' (st'.map (yc_cv ad)))) : W p l e R s m args below meth c H locs cells slots Q (F0 m pc ls (st.map (yc_cv ad))) := by
  unfold yc_isub at hn
  split at hn
  · cases hn; exact lv_isub hx hb hd (k ls hl)
  · cases hn
def yc_imul  (len pc : Nat) (lv : yc_L) (st : List zv) : yc_R := match len, st with
  | 1, .inl (.int y) :: .inl (.int x) :: r => some (pc + 1, lv, .inl (.int (x * y)) :: r)
  | _, _ => none
theorem yc_imul_s  (hx : p.tables.exec = Jvm.exec) (hb : c.code = cc) (hl : yc_ok ad nL lv ls) (hd : decode cc pc = .ok (.imul, len)) (hn : yc_imul  len pc lv st = some (pc', lv', st')) (k : ∀ ls' : Array Slot, yc_ok ad nL lv' ls' → W p l e R s m args below meth c H locs cells slots Q (F0 m pc' ls' (st'.map (yc_cv ad)))) : W p l e R s m args below meth c H locs cells slots Q (F0 m pc ls (st.map (yc_cv ad))) := by
  unfold yc_imul at hn
  split at hn
  · cases hn; exact lv_imul hx hb hd (k ls hl)
  · cases hn
def yc_iand  (len pc : Nat) (lv : yc_L) (st : List zv) : yc_R := match len, st with
  | 1, .inl (.int y) :: .inl (.int x) :: r => some (pc + 1, lv, .inl (.int (x &&& y)) :: r)
  | _, _ => none
theorem yc_iand_s  (hx : p.tables.exec = Jvm.exec) (hb : c.code = cc) (hl : yc_ok ad nL lv ls) (hd : decode cc pc = .ok (.iand, len)) (hn : yc_iand  len pc lv st = some (pc', lv', st')) (k : ∀ ls' : Array Slot, yc_ok ad nL lv' ls' → W p l e R s m args below meth c H locs cells slots Q (F0 m pc' ls' (st'.map (yc_cv ad)))) : W p l e R s m args below meth c H locs cells slots Q (F0 m pc ls (st.map (yc_cv ad))) := by
  unfold yc_iand at hn
  split at hn
  · cases hn; exact lv_iand hx hb hd (k ls hl)
  · cases hn
def yc_ior  (len pc : Nat) (lv : yc_L) (st : List zv) : yc_R := match len, st with
  | 1, .inl (.int y) :: .inl (.int x) :: r => some (pc + 1, lv, .inl (.int (x ||| y)) :: r)
  | _, _ => none
theorem yc_ior_s  (hx : p.tables.exec = Jvm.exec) (hb : c.code = cc) (hl : yc_ok ad nL lv ls) (hd : decode cc pc = .ok (.ior, len)) (hn : yc_ior  len pc lv st = some (pc', lv', st')) (k : ∀ ls' : Array Slot, yc_ok ad nL lv' ls' → W p l e R s m args below meth c H locs cells slots Q (F0 m pc' ls' (st'.map (yc_cv ad)))) : W p l e R s m args below meth c H locs cells slots Q (F0 m pc ls (st.map (yc_cv ad))) := by
  unfold yc_ior at hn
  split at hn
  · cases hn; exact lv_ior hx hb hd (k ls hl)
  · cases hn
def yc_ixor  (len pc : Nat) (lv : yc_L) (st : List zv) : yc_R := match len, st with
  | 1, .inl (.int y) :: .inl (.int x) :: r => some (pc + 1, lv, .inl (.int (x ^^^ y)) :: r)
  | _, _ => none
theorem yc_ixor_s  (hx : p.tables.exec = Jvm.exec) (hb : c.code = cc) (hl : yc_ok ad nL lv ls) (hd : decode cc pc = .ok (.ixor, len)) (hn : yc_ixor  len pc lv st = some (pc', lv', st')) (k : ∀ ls' : Array Slot, yc_ok ad nL lv' ls' → W p l e R s m args below meth c H locs cells slots Q (F0 m pc' ls' (st'.map (yc_cv ad)))) : W p l e R s m args below meth c H locs cells slots Q (F0 m pc ls (st.map (yc_cv ad))) := by
  unfold yc_ixor at hn
  split at hn
  · cases hn; exact lv_ixor hx hb hd (k ls hl)
  · cases hn
def yc_ishl  (len pc : Nat) (lv : yc_L) (st : List zv) : yc_R := match len, st with
  | 1, .inl (.int y) :: .inl (.int x) :: r => some (pc + 1, lv, .inl (.int (x <<< (y &&& 31))) :: r)
  | _, _ => none
theorem yc_ishl_s  (hx : p.tables.exec = Jvm.exec) (hb : c.code = cc) (hl : yc_ok ad nL lv ls) (hd : decode cc pc = .ok (.ishl, len)) (hn : yc_ishl  len pc lv st = some (pc', lv', st')) (k : ∀ ls' : Array Slot, yc_ok ad nL lv' ls' → W p l e R s m args below meth c H locs cells slots Q (F0 m pc' ls' (st'.map (yc_cv ad)))) : W p l e R s m args below meth c H locs cells slots Q (F0 m pc ls (st.map (yc_cv ad))) := by
  unfold yc_ishl at hn
  split at hn
  · cases hn; exact lv_ishl hx hb hd (k ls hl)
  · cases hn
def yc_ishr  (len pc : Nat) (lv : yc_L) (st : List zv) : yc_R := match len, st with
  | 1, .inl (.int y) :: .inl (.int x) :: r => some (pc + 1, lv, .inl (.int (x >>> (y &&& 31))) :: r)
  | _, _ => none
theorem yc_ishr_s  (hx : p.tables.exec = Jvm.exec) (hb : c.code = cc) (hl : yc_ok ad nL lv ls) (hd : decode cc pc = .ok (.ishr, len)) (hn : yc_ishr  len pc lv st = some (pc', lv', st')) (k : ∀ ls' : Array Slot, yc_ok ad nL lv' ls' → W p l e R s m args below meth c H locs cells slots Q (F0 m pc' ls' (st'.map (yc_cv ad)))) : W p l e R s m args below meth c H locs cells slots Q (F0 m pc ls (st.map (yc_cv ad))) := by
  unfold yc_ishr at hn
  split at hn
  · cases hn; exact lv_ishr hx hb hd (k ls hl)
  · cases hn
def yc_iushr  (len pc : Nat) (lv : yc_L) (st : List zv) : yc_R := match len, st with
  | 1, .inl (.int y) :: .inl (.int x) :: r => some (pc + 1, lv, .inl (.int ((x.toUInt32 >>> (y.toUInt32 &&& Int32.toUInt32 31)).toInt32)) :: r)
  | _, _ => none
theorem yc_iushr_s  (hx : p.tables.exec = Jvm.exec) (hb : c.code = cc) (hl : yc_ok ad nL lv ls) (hd : decode cc pc = .ok (.iushr, len)) (hn : yc_iushr  len pc lv st = some (pc', lv', st')) (k : ∀ ls' : Array Slot, yc_ok ad nL lv' ls' → W p l e R s m args below meth c H locs cells slots Q (F0 m pc' ls' (st'.map (yc_cv ad)))) : W p l e R s m args below meth c H locs cells slots Q (F0 m pc ls (st.map (yc_cv ad))) := by
  unfold yc_iushr at hn
  split at hn
  · cases hn; exact lv_iushr hx hb hd rfl (k ls hl)
  · cases hn
def yc_lor  (len pc : Nat) (lv : yc_L) (st : List zv) : yc_R := match len, st with
  | 1, .inl (.long y) :: .inl (.long x) :: r => some (pc + 1, lv, .inl (.long (x ||| y)) :: r)
  | _, _ => none
theorem yc_lor_s  (hx : p.tables.exec = Jvm.exec) (hb : c.code = cc) (hl : yc_ok ad nL lv ls) (hd : decode cc pc = .ok (.lor, len)) (hn : yc_lor  len pc lv st = some (pc', lv', st')) (k : ∀ ls' : Array Slot, yc_ok ad nL lv' ls' → W p l e R s m args below meth c H locs cells slots Q (F0 m pc' ls' (st'.map (yc_cv ad)))) : W p l e R s m args below meth c H locs cells slots Q (F0 m pc ls (st.map (yc_cv ad))) := by
  unfold yc_lor at hn
  split at hn
  · cases hn; exact lv_lor hx hb hd (k ls hl)
  · cases hn
def yc_ladd  (len pc : Nat) (lv : yc_L) (st : List zv) : yc_R := match len, st with
  | 1, .inl (.long y) :: .inl (.long x) :: r => some (pc + 1, lv, .inl (.long (x + y)) :: r)
  | _, _ => none
theorem yc_ladd_s  (hx : p.tables.exec = Jvm.exec) (hb : c.code = cc) (hl : yc_ok ad nL lv ls) (hd : decode cc pc = .ok (.ladd, len)) (hn : yc_ladd  len pc lv st = some (pc', lv', st')) (k : ∀ ls' : Array Slot, yc_ok ad nL lv' ls' → W p l e R s m args below meth c H locs cells slots Q (F0 m pc' ls' (st'.map (yc_cv ad)))) : W p l e R s m args below meth c H locs cells slots Q (F0 m pc ls (st.map (yc_cv ad))) := by
  unfold yc_ladd at hn
  split at hn
  · cases hn; exact lv_ladd hx hb hd (k ls hl)
  · cases hn
def yc_lsub  (len pc : Nat) (lv : yc_L) (st : List zv) : yc_R := match len, st with
  | 1, .inl (.long y) :: .inl (.long x) :: r => some (pc + 1, lv, .inl (.long (x - y)) :: r)
  | _, _ => none
theorem yc_lsub_s  (hx : p.tables.exec = Jvm.exec) (hb : c.code = cc) (hl : yc_ok ad nL lv ls) (hd : decode cc pc = .ok (.lsub, len)) (hn : yc_lsub  len pc lv st = some (pc', lv', st')) (k : ∀ ls' : Array Slot, yc_ok ad nL lv' ls' → W p l e R s m args below meth c H locs cells slots Q (F0 m pc' ls' (st'.map (yc_cv ad)))) : W p l e R s m args below meth c H locs cells slots Q (F0 m pc ls (st.map (yc_cv ad))) := by
  unfold yc_lsub at hn
  split at hn
  · cases hn; exact lv_lsub hx hb hd (k ls hl)
  · cases hn
def yc_land  (len pc : Nat) (lv : yc_L) (st : List zv) : yc_R := match len, st with
  | 1, .inl (.long y) :: .inl (.long x) :: r => some (pc + 1, lv, .inl (.long (x &&& y)) :: r)
  | _, _ => none
theorem yc_land_s  (hx : p.tables.exec = Jvm.exec) (hb : c.code = cc) (hl : yc_ok ad nL lv ls) (hd : decode cc pc = .ok (.land, len)) (hn : yc_land  len pc lv st = some (pc', lv', st')) (k : ∀ ls' : Array Slot, yc_ok ad nL lv' ls' → W p l e R s m args below meth c H locs cells slots Q (F0 m pc' ls' (st'.map (yc_cv ad)))) : W p l e R s m args below meth c H locs cells slots Q (F0 m pc ls (st.map (yc_cv ad))) := by
  unfold yc_land at hn
  split at hn
  · cases hn; exact lv_land hx hb hd (k ls hl)
  · cases hn
def yc_ineg  (len pc : Nat) (lv : yc_L) (st : List zv) : yc_R := match len, st with
  | 1, .inl (.int x) :: r => some (pc + 1, lv, .inl (.int (-x)) :: r)
  | _, _ => none
theorem yc_ineg_s  (hx : p.tables.exec = Jvm.exec) (hb : c.code = cc) (hl : yc_ok ad nL lv ls) (hd : decode cc pc = .ok (.ineg, len)) (hn : yc_ineg  len pc lv st = some (pc', lv', st')) (k : ∀ ls' : Array Slot, yc_ok ad nL lv' ls' → W p l e R s m args below meth c H locs cells slots Q (F0 m pc' ls' (st'.map (yc_cv ad)))) : W p l e R s m args below meth c H locs cells slots Q (F0 m pc ls (st.map (yc_cv ad))) := by
  unfold yc_ineg at hn
  split at hn
  · cases hn; exact lv_ineg hx hb hd (k ls hl)
  · cases hn
def yc_lshl  (len pc : Nat) (lv : yc_L) (st : List zv) : yc_R := match len, st with
  | 1, .inl (.int y) :: .inl (.long x) :: r => some (pc + 1, lv, .inl (.long (x <<< (y.toInt64 &&& 63))) :: r)
  | _, _ => none
theorem yc_lshl_s  (hx : p.tables.exec = Jvm.exec) (hb : c.code = cc) (hl : yc_ok ad nL lv ls) (hd : decode cc pc = .ok (.lshl, len)) (hn : yc_lshl  len pc lv st = some (pc', lv', st')) (k : ∀ ls' : Array Slot, yc_ok ad nL lv' ls' → W p l e R s m args below meth c H locs cells slots Q (F0 m pc' ls' (st'.map (yc_cv ad)))) : W p l e R s m args below meth c H locs cells slots Q (F0 m pc ls (st.map (yc_cv ad))) := by
  unfold yc_lshl at hn
  split at hn
  · cases hn; exact lv_lshl hx hb hd rfl (k ls hl)
  · cases hn
def yc_i2l  (len pc : Nat) (lv : yc_L) (st : List zv) : yc_R := match len, st with
  | 1, .inl (.int x) :: r => some (pc + 1, lv, .inl (.long (x.toInt64)) :: r)
  | _, _ => none
theorem yc_i2l_s  (hx : p.tables.exec = Jvm.exec) (hb : c.code = cc) (hl : yc_ok ad nL lv ls) (hd : decode cc pc = .ok (.i2l, len)) (hn : yc_i2l  len pc lv st = some (pc', lv', st')) (k : ∀ ls' : Array Slot, yc_ok ad nL lv' ls' → W p l e R s m args below meth c H locs cells slots Q (F0 m pc' ls' (st'.map (yc_cv ad)))) : W p l e R s m args below meth c H locs cells slots Q (F0 m pc ls (st.map (yc_cv ad))) := by
  unfold yc_i2l at hn
  split at hn
  · cases hn; exact lv_i2l hx hb hd rfl (k ls hl)
  · cases hn
def yc_i2b  (len pc : Nat) (lv : yc_L) (st : List zv) : yc_R := match len, st with
  | 1, .inl (.int x) :: r => some (pc + 1, lv, .inl (.int (x.toInt8.toInt32)) :: r)
  | _, _ => none
theorem yc_i2b_s  (hx : p.tables.exec = Jvm.exec) (hb : c.code = cc) (hl : yc_ok ad nL lv ls) (hd : decode cc pc = .ok (.i2b, len)) (hn : yc_i2b  len pc lv st = some (pc', lv', st')) (k : ∀ ls' : Array Slot, yc_ok ad nL lv' ls' → W p l e R s m args below meth c H locs cells slots Q (F0 m pc' ls' (st'.map (yc_cv ad)))) : W p l e R s m args below meth c H locs cells slots Q (F0 m pc ls (st.map (yc_cv ad))) := by
  unfold yc_i2b at hn
  split at hn
  · cases hn; exact lv_i2b hx hb hd rfl (k ls hl)
  · cases hn
def yc_i2c  (len pc : Nat) (lv : yc_L) (st : List zv) : yc_R := match len, st with
  | 1, .inl (.int x) :: r => some (pc + 1, lv, .inl (.int ((x.toUInt32 % 65536).toInt32)) :: r)
  | _, _ => none
theorem yc_i2c_s  (hx : p.tables.exec = Jvm.exec) (hb : c.code = cc) (hl : yc_ok ad nL lv ls) (hd : decode cc pc = .ok (.i2c, len)) (hn : yc_i2c  len pc lv st = some (pc', lv', st')) (k : ∀ ls' : Array Slot, yc_ok ad nL lv' ls' → W p l e R s m args below meth c H locs cells slots Q (F0 m pc' ls' (st'.map (yc_cv ad)))) : W p l e R s m args below meth c H locs cells slots Q (F0 m pc ls (st.map (yc_cv ad))) := by
  unfold yc_i2c at hn
  split at hn
  · cases hn; exact lv_i2c hx hb hd rfl (k ls hl)
  · cases hn
def yc_lcmp  (len pc : Nat) (lv : yc_L) (st : List zv) : yc_R := match len, st with
  | 1, .inl (.long y) :: .inl (.long x) :: r => some (pc + 1, lv, .inl (.int (lg_cmp x y)) :: r)
  | _, _ => none
theorem yc_lcmp_s  (hx : p.tables.exec = Jvm.exec) (hb : c.code = cc) (hl : yc_ok ad nL lv ls) (hd : decode cc pc = .ok (.lcmp, len)) (hn : yc_lcmp  len pc lv st = some (pc', lv', st')) (k : ∀ ls' : Array Slot, yc_ok ad nL lv' ls' → W p l e R s m args below meth c H locs cells slots Q (F0 m pc' ls' (st'.map (yc_cv ad)))) : W p l e R s m args below meth c H locs cells slots Q (F0 m pc ls (st.map (yc_cv ad))) := by
  unfold yc_lcmp at hn
  split at hn
  · cases hn; exact W.lcmp hx hb hd (k ls hl)
  · cases hn
def yc_dup (len pc : Nat) (lv : yc_L) (st : List zv) : yc_R := match len, st with
  | 1, .inl (.int x) :: r => some (pc + 1, lv, .inl (.int x) :: .inl (.int x) :: r)
  | 1, .inr x :: r => some (pc + 1, lv, .inr x :: .inr x :: r)
  | 1, .inl (.ref x) :: r => some (pc + 1, lv, .inl (.ref x) :: .inl (.ref x) :: r)
  | 1, .inl .null :: r => some (pc + 1, lv, .inl .null :: .inl .null :: r)
  | _, _ => none
theorem yc_dup_s (hx : p.tables.exec = Jvm.exec) (hb : c.code = cc) (hl : yc_ok ad nL lv ls) (hd : decode cc pc = .ok (.dup, len)) (hn : yc_dup len pc lv st = some (pc', lv', st')) (k : ∀ ls' : Array Slot, yc_ok ad nL lv' ls' → W p l e R s m args below meth c H locs cells slots Q (F0 m pc' ls' (st'.map (yc_cv ad)))) : W p l e R s m args below meth c H locs cells slots Q (F0 m pc ls (st.map (yc_cv ad))) := by
  unfold yc_dup at hn
  split at hn
  · cases hn; exact lv_dup hx hb hd rfl (k ls hl)
  · cases hn; exact lv_dup hx hb hd rfl (k ls hl)
  · cases hn; exact lv_dup hx hb hd rfl (k ls hl)
  · cases hn; exact lv_dup hx hb hd rfl (k ls hl)
  · cases hn
def yc_dup_x1 (len pc : Nat) (lv : yc_L) (st : List zv) : yc_R := match len, st with
  | 1, .inl (.int x) :: .inr y :: r => some (pc + 1, lv, .inl (.int x) :: .inr y :: .inl (.int x) :: r)
  | 1, .inl (.int x) :: .inl (.ref y) :: r => some (pc + 1, lv, .inl (.int x) :: .inl (.ref y) :: .inl (.int x) :: r)
  | 1, .inr x :: .inr y :: r => some (pc + 1, lv, .inr x :: .inr y :: .inr x :: r)
  | 1, .inr x :: .inl (.ref y) :: r => some (pc + 1, lv, .inr x :: .inl (.ref y) :: .inr x :: r)
  | 1, .inl (.ref x) :: .inr y :: r => some (pc + 1, lv, .inl (.ref x) :: .inr y :: .inl (.ref x) :: r)
  | 1, .inl (.ref x) :: .inl (.ref y) :: r => some (pc + 1, lv, .inl (.ref x) :: .inl (.ref y) :: .inl (.ref x) :: r)
  | 1, .inl .null :: .inr y :: r => some (pc + 1, lv, .inl .null :: .inr y :: .inl .null :: r)
  | 1, .inl .null :: .inl (.ref y) :: r => some (pc + 1, lv, .inl .null :: .inl (.ref y) :: .inl .null :: r)
  | _, _ => none
theorem yc_dup_x1_s (hx : p.tables.exec = Jvm.exec) (hb : c.code = cc) (hl : yc_ok ad nL lv ls) (hd : decode cc pc = .ok (.dup_x1, len)) (hn : yc_dup_x1 len pc lv st = some (pc', lv', st')) (k : ∀ ls' : Array Slot, yc_ok ad nL lv' ls' → W p l e R s m args below meth c H locs cells slots Q (F0 m pc' ls' (st'.map (yc_cv ad)))) : W p l e R s m args below meth c H locs cells slots Q (F0 m pc ls (st.map (yc_cv ad))) := by
  unfold yc_dup_x1 at hn
  split at hn
  · cases hn; exact lv_dup_x1 hx hb hd rfl rfl (k ls hl)
  · cases hn; exact lv_dup_x1 hx hb hd rfl rfl (k ls hl)
  · cases hn; exact lv_dup_x1 hx hb hd rfl rfl (k ls hl)
  · cases hn; exact lv_dup_x1 hx hb hd rfl rfl (k ls hl)
  · cases hn; exact lv_dup_x1 hx hb hd rfl rfl (k ls hl)
  · cases hn; exact lv_dup_x1 hx hb hd rfl rfl (k ls hl)
  · cases hn; exact lv_dup_x1 hx hb hd rfl rfl (k ls hl)
  · cases hn; exact lv_dup_x1 hx hb hd rfl rfl (k ls hl)
  · cases hn
def yc_dup2 (len pc : Nat) (lv : yc_L) (st : List zv) : yc_R := match len, st with
  | 1, .inl (.int x) :: .inr y :: r => some (pc + 1, lv, .inl (.int x) :: .inr y :: .inl (.int x) :: .inr y :: r)
  | 1, .inl (.int x) :: .inl (.ref y) :: r => some (pc + 1, lv, .inl (.int x) :: .inl (.ref y) :: .inl (.int x) :: .inl (.ref y) :: r)
  | _, _ => none
theorem yc_dup2_s (hx : p.tables.exec = Jvm.exec) (hb : c.code = cc) (hl : yc_ok ad nL lv ls) (hd : decode cc pc = .ok (.dup2, len)) (hn : yc_dup2 len pc lv st = some (pc', lv', st')) (k : ∀ ls' : Array Slot, yc_ok ad nL lv' ls' → W p l e R s m args below meth c H locs cells slots Q (F0 m pc' ls' (st'.map (yc_cv ad)))) : W p l e R s m args below meth c H locs cells slots Q (F0 m pc ls (st.map (yc_cv ad))) := by
  unfold yc_dup2 at hn
  split at hn
  · cases hn; exact lv_dup2_11 hx hb hd rfl rfl (k ls hl)
  · cases hn; exact lv_dup2_11 hx hb hd rfl rfl (k ls hl)
  · cases hn
def yc_pop (len pc : Nat) (lv : yc_L) (st : List zv) : yc_R := match len, st with
  | 1, .inl (.int x) :: r => some (pc + 1, lv, r)
  | 1, .inr x :: r => some (pc + 1, lv, r)
  | 1, .inl (.ref x) :: r => some (pc + 1, lv, r)
  | 1, .inl .null :: r => some (pc + 1, lv, r)
  | _, _ => none
theorem yc_pop_s (hx : p.tables.exec = Jvm.exec) (hb : c.code = cc) (hl : yc_ok ad nL lv ls) (hd : decode cc pc = .ok (.pop, len)) (hn : yc_pop len pc lv st = some (pc', lv', st')) (k : ∀ ls' : Array Slot, yc_ok ad nL lv' ls' → W p l e R s m args below meth c H locs cells slots Q (F0 m pc' ls' (st'.map (yc_cv ad)))) : W p l e R s m args below meth c H locs cells slots Q (F0 m pc ls (st.map (yc_cv ad))) := by
  unfold yc_pop at hn
  split at hn
  · cases hn; exact lv_pop hx hb hd rfl (k ls hl)
  · cases hn; exact lv_pop hx hb hd rfl (k ls hl)
  · cases hn; exact lv_pop hx hb hd rfl (k ls hl)
  · cases hn; exact lv_pop hx hb hd rfl (k ls hl)
  · cases hn
def yc_goto (off : Int) (len pc : Nat) (lv : yc_L) (st : List zv) : yc_R := match len, zc_tgt pc off with
  | 3, some t => some (t, lv, st)
  | _, _ => none
theorem yc_goto_s (off : Int) (hx : p.tables.exec = Jvm.exec) (hb : c.code = cc) (hl : yc_ok ad nL lv ls) (hd : decode cc pc = .ok (.goto off, len)) (hn : yc_goto off len pc lv st = some (pc', lv', st')) (k : ∀ ls' : Array Slot, yc_ok ad nL lv' ls' → W p l e R s m args below meth c H locs cells slots Q (F0 m pc' ls' (st'.map (yc_cv ad)))) : W p l e R s m args below meth c H locs cells slots Q (F0 m pc ls (st.map (yc_cv ad))) := by
  unfold yc_goto at hn
  split at hn
  · rename_i t e
    cases hn
    exact lv_goto hx hb hd (zc_tgt_of e) (k ls hl)
  · cases hn
def yc_ifnull (off : Int) (len pc : Nat) (lv : yc_L) (st : List zv) : yc_R := match len, st with
  | 3, .inr _ :: r => some (pc + 3, lv, r)
  | 3, .inl (.ref _) :: r => some (pc + 3, lv, r)
  | 3, .inl .null :: r => match zc_tgt pc off with
    | some t => some (t, lv, r)
    | none => none
  | _, _ => none
theorem yc_ifnull_s (off : Int) (hx : p.tables.exec = Jvm.exec) (hb : c.code = cc) (hl : yc_ok ad nL lv ls) (hd : decode cc pc = .ok (.ifnull off, len)) (hn : yc_ifnull off len pc lv st = some (pc', lv', st')) (k : ∀ ls' : Array Slot, yc_ok ad nL lv' ls' → W p l e R s m args below meth c H locs cells slots Q (F0 m pc' ls' (st'.map (yc_cv ad)))) : W p l e R s m args below meth c H locs cells slots Q (F0 m pc ls (st.map (yc_cv ad))) := by
  unfold yc_ifnull at hn
  split at hn
  · cases hn; exact lv_ifnull hx hb hd (k ls hl)
  · cases hn; exact lv_ifnull hx hb hd (k ls hl)
  · split at hn
    · rename_i t e
      cases hn; exact lv_ifnullN hx hb hd (zc_tgt_of e) (k ls hl)
    · cases hn
  · cases hn
def yc_ifnonnull (off : Int) (len pc : Nat) (lv : yc_L) (st : List zv) : yc_R := match len, st with
  | 3, .inr _ :: r => match zc_tgt pc off with
    | some t => some (t, lv, r)
    | none => none
  | 3, .inl (.ref _) :: r => match zc_tgt pc off with
    | some t => some (t, lv, r)
    | none => none
  | 3, .inl .null :: r => some (pc + 3, lv, r)
  | _, _ => none
theorem yc_ifnonnull_s (off : Int) (hx : p.tables.exec = Jvm.exec) (hb : c.code = cc) (hl : yc_ok ad nL lv ls) (hd : decode cc pc = .ok (.ifnonnull off, len)) (hn : yc_ifnonnull off len pc lv st = some (pc', lv', st')) (k : ∀ ls' : Array Slot, yc_ok ad nL lv' ls' → W p l e R s m args below meth c H locs cells slots Q (F0 m pc' ls' (st'.map (yc_cv ad)))) : W p l e R s m args below meth c H locs cells slots Q (F0 m pc ls (st.map (yc_cv ad))) := by
  unfold yc_ifnonnull at hn
  split at hn
  · split at hn
    · rename_i t e
      cases hn; exact lv_ifnonnull hx hb hd (zc_tgt_of e) (k ls hl)
    · cases hn
  · split at hn
    · rename_i t e
      cases hn; exact lv_ifnonnull hx hb hd (zc_tgt_of e) (k ls hl)
    · cases hn
  · cases hn; exact lv_ifnonnullN hx hb hd (k ls hl)
  · cases hn
def yc_next (i : Instr) (len pc : Nat) (lv : yc_L) (st : List zv) : yc_R := match i with
  | .iconst n => yc_iconst n len pc lv st
  | .bipush n => yc_bipush n len pc lv st
  | .sipush n => yc_sipush n len pc lv st
  | .lconst n => yc_lconst n len pc lv st
  | .aconst_null => yc_null  len pc lv st
  | .iload_n n => yc_iload_n n len pc lv st
  | .iload n => yc_iload n len pc lv st
  | .lload_n n => yc_lload_n n len pc lv st
  | .lload n => yc_lload n len pc lv st
  | .aload_n n => yc_aload_n n len pc lv st
  | .aload n => yc_aload n len pc lv st
  | .istore_n n => yc_istore_n n len pc lv st
  | .istore n => yc_istore n len pc lv st
  | .lstore_n n => yc_lstore_n n len pc lv st
  | .lstore n => yc_lstore n len pc lv st
  | .astore_n n => yc_astore_n n len pc lv st
  | .astore n => yc_astore n len pc lv st
  | .iinc n a => yc_iinc n a len pc lv st
  | .iadd => yc_iadd  len pc lv st
  | .isub => yc_isub  len pc lv st
  | .imul => yc_imul  len pc lv st
  | .iand => yc_iand  len pc lv st
  | .ior => yc_ior  len pc lv st
  | .ixor => yc_ixor  len pc lv st
  | .ishl => yc_ishl  len pc lv st
  | .ishr => yc_ishr  len pc lv st
  | .iushr => yc_iushr  len pc lv st
  | .lor => yc_lor  len pc lv st
  | .ladd => yc_ladd  len pc lv st
  | .lsub => yc_lsub  len pc lv st
  | .land => yc_land  len pc lv st
  | .ineg => yc_ineg  len pc lv st
  | .lshl => yc_lshl  len pc lv st
  | .i2l => yc_i2l  len pc lv st
  | .i2b => yc_i2b  len pc lv st
  | .i2c => yc_i2c  len pc lv st
  | .lcmp => yc_lcmp  len pc lv st
  | .dup => yc_dup  len pc lv st
  | .dup_x1 => yc_dup_x1  len pc lv st
  | .dup2 => yc_dup2  len pc lv st
  | .pop => yc_pop  len pc lv st
  | .goto off => yc_goto off len pc lv st
  | .ifnull off => yc_ifnull off len pc lv st
  | .ifnonnull off => yc_ifnonnull off len pc lv st
  | _ => none
theorem yc_next_s {i : Instr} (hx : p.tables.exec = Jvm.exec) (hb : c.code = cc) (hl : yc_ok ad nL lv ls) (hd : decode cc pc = .ok (i, len)) (hn : yc_next i len pc lv st = some (pc', lv', st')) (k : ∀ ls' : Array Slot, yc_ok ad nL lv' ls' → W p l e R s m args below meth c H locs cells slots Q (F0 m pc' ls' (st'.map (yc_cv ad)))) : W p l e R s m args below meth c H locs cells slots Q (F0 m pc ls (st.map (yc_cv ad))) := by
  cases i with
  | iconst n => exact yc_iconst_s n hx hb hl hd hn k
  | bipush n => exact yc_bipush_s n hx hb hl hd hn k
  | sipush n => exact yc_sipush_s n hx hb hl hd hn k
  | lconst n => exact yc_lconst_s n hx hb hl hd hn k
  | aconst_null => exact yc_null_s  hx hb hl hd hn k
  | iload_n n => exact yc_iload_n_s n hx hb hl hd hn k
  | iload n => exact yc_iload_s n hx hb hl hd hn k
  | lload_n n => exact yc_lload_n_s n hx hb hl hd hn k
  | lload n => exact yc_lload_s n hx hb hl hd hn k
  | aload_n n => exact yc_aload_n_s n hx hb hl hd hn k
  | aload n => exact yc_aload_s n hx hb hl hd hn k
  | istore_n n => exact yc_istore_n_s n hx hb hl hd hn k
  | istore n => exact yc_istore_s n hx hb hl hd hn k
  | lstore_n n => exact yc_lstore_n_s n hx hb hl hd hn k
  | lstore n => exact yc_lstore_s n hx hb hl hd hn k
  | astore_n n => exact yc_astore_n_s n hx hb hl hd hn k
  | astore n => exact yc_astore_s n hx hb hl hd hn k
  | iinc n a => exact yc_iinc_s n a hx hb hl hd hn k
  | iadd => exact yc_iadd_s  hx hb hl hd hn k
  | isub => exact yc_isub_s  hx hb hl hd hn k
  | imul => exact yc_imul_s  hx hb hl hd hn k
  | iand => exact yc_iand_s  hx hb hl hd hn k
  | ior => exact yc_ior_s  hx hb hl hd hn k
  | ixor => exact yc_ixor_s  hx hb hl hd hn k
  | ishl => exact yc_ishl_s  hx hb hl hd hn k
  | ishr => exact yc_ishr_s  hx hb hl hd hn k
  | iushr => exact yc_iushr_s  hx hb hl hd hn k
  | lor => exact yc_lor_s  hx hb hl hd hn k
  | ladd => exact yc_ladd_s  hx hb hl hd hn k
  | lsub => exact yc_lsub_s  hx hb hl hd hn k
  | land => exact yc_land_s  hx hb hl hd hn k
  | ineg => exact yc_ineg_s  hx hb hl hd hn k
  | lshl => exact yc_lshl_s  hx hb hl hd hn k
  | i2l => exact yc_i2l_s  hx hb hl hd hn k
  | i2b => exact yc_i2b_s  hx hb hl hd hn k
  | i2c => exact yc_i2c_s  hx hb hl hd hn k
  | lcmp => exact yc_lcmp_s  hx hb hl hd hn k
  | dup => exact yc_dup_s  hx hb hl hd hn k
  | dup_x1 => exact yc_dup_x1_s  hx hb hl hd hn k
  | dup2 => exact yc_dup2_s  hx hb hl hd hn k
  | pop => exact yc_pop_s  hx hb hl hd hn k
  | goto off => exact yc_goto_s off hx hb hl hd hn k
  | ifnull off => exact yc_ifnull_s off hx hb hl hd hn k
  | ifnonnull off => exact yc_ifnonnull_s off hx hb hl hd hn k
  | _ => cases hn
def yc_if_eq (off : Int) (len pc : Nat) (st : List zv) : Option (Prop × Nat × List zv) := match len, st, zc_tgt pc off with
  | 3, .inl (.int x) :: r, some t => some (x = 0, t, r)
  | _, _, _ => none
theorem yc_if_eq_s (off : Int) {cnd : Prop} {t : Nat} (hx : p.tables.exec = Jvm.exec) (hb : c.code = cc) (hl : yc_ok ad nL lv ls) (hd : decode cc pc = .ok (.ifCond .eq off, len)) (hn : yc_if_eq off len pc st = some (cnd, t, st')) (kt : cnd → W p l e R s m args below meth c H locs cells slots Q (F0 m t ls (st'.map (yc_cv ad)))) (kf : ¬ cnd → W p l e R s m args below meth c H locs cells slots Q (F0 m (pc + 3) ls (st'.map (yc_cv ad)))) : W p l e R s m args below meth c H locs cells slots Q (F0 m pc ls (st.map (yc_cv ad))) := by
  unfold yc_if_eq at hn
  split at hn
  · rename_i e
    cases hn
    exact lv_if_eq hx hb hd (zc_tgt_of e) kt kf
  · cases hn
def yc_if_ne (off : Int) (len pc : Nat) (st : List zv) : Option (Prop × Nat × List zv) := match len, st, zc_tgt pc off with
  | 3, .inl (.int x) :: r, some t => some (¬ x = 0, t, r)
  | _, _, _ => none
theorem yc_if_ne_s (off : Int) {cnd : Prop} {t : Nat} (hx : p.tables.exec = Jvm.exec) (hb : c.code = cc) (hl : yc_ok ad nL lv ls) (hd : decode cc pc = .ok (.ifCond .ne off, len)) (hn : yc_if_ne off len pc st = some (cnd, t, st')) (kt : cnd → W p l e R s m args below meth c H locs cells slots Q (F0 m t ls (st'.map (yc_cv ad)))) (kf : ¬ cnd → W p l e R s m args below meth c H locs cells slots Q (F0 m (pc + 3) ls (st'.map (yc_cv ad)))) : W p l e R s m args below meth c H locs cells slots Q (F0 m pc ls (st.map (yc_cv ad))) := by
  unfold yc_if_ne at hn
  split at hn
  · rename_i e
    cases hn
    exact lv_if_ne hx hb hd (zc_tgt_of e) kt (fun q => kf (fun q2 => q2 q))
  · cases hn
def yc_if_lt (off : Int) (len pc : Nat) (st : List zv) : Option (Prop × Nat × List zv) := match len, st, zc_tgt pc off with
  | 3, .inl (.int x) :: r, some t => some (x < 0, t, r)
  | _, _, _ => none
theorem yc_if_lt_s (off : Int) {cnd : Prop} {t : Nat} (hx : p.tables.exec = Jvm.exec) (hb : c.code = cc) (hl : yc_ok ad nL lv ls) (hd : decode cc pc = .ok (.ifCond .lt off, len)) (hn : yc_if_lt off len pc st = some (cnd, t, st')) (kt : cnd → W p l e R s m args below meth c H locs cells slots Q (F0 m t ls (st'.map (yc_cv ad)))) (kf : ¬ cnd → W p l e R s m args below meth c H locs cells slots Q (F0 m (pc + 3) ls (st'.map (yc_cv ad)))) : W p l e R s m args below meth c H locs cells slots Q (F0 m pc ls (st.map (yc_cv ad))) := by
  unfold yc_if_lt at hn
  split at hn
  · rename_i e
    cases hn
    exact lv_if_lt hx hb hd (zc_tgt_of e) kt kf
  · cases hn
def yc_if_ge (off : Int) (len pc : Nat) (st : List zv) : Option (Prop × Nat × List zv) := match len, st, zc_tgt pc off with
  | 3, .inl (.int x) :: r, some t => some (0 ≤ x, t, r)
  | _, _, _ => none
theorem yc_if_ge_s (off : Int) {cnd : Prop} {t : Nat} (hx : p.tables.exec = Jvm.exec) (hb : c.code = cc) (hl : yc_ok ad nL lv ls) (hd : decode cc pc = .ok (.ifCond .ge off, len)) (hn : yc_if_ge off len pc st = some (cnd, t, st')) (kt : cnd → W p l e R s m args below meth c H locs cells slots Q (F0 m t ls (st'.map (yc_cv ad)))) (kf : ¬ cnd → W p l e R s m args below meth c H locs cells slots Q (F0 m (pc + 3) ls (st'.map (yc_cv ad)))) : W p l e R s m args below meth c H locs cells slots Q (F0 m pc ls (st.map (yc_cv ad))) := by
  unfold yc_if_ge at hn
  split at hn
  · rename_i e
    cases hn
    exact lv_if_ge hx hb hd (zc_tgt_of e) kt kf
  · cases hn
def yc_if_gt (off : Int) (len pc : Nat) (st : List zv) : Option (Prop × Nat × List zv) := match len, st, zc_tgt pc off with
  | 3, .inl (.int x) :: r, some t => some (0 < x, t, r)
  | _, _, _ => none
theorem yc_if_gt_s (off : Int) {cnd : Prop} {t : Nat} (hx : p.tables.exec = Jvm.exec) (hb : c.code = cc) (hl : yc_ok ad nL lv ls) (hd : decode cc pc = .ok (.ifCond .gt off, len)) (hn : yc_if_gt off len pc st = some (cnd, t, st')) (kt : cnd → W p l e R s m args below meth c H locs cells slots Q (F0 m t ls (st'.map (yc_cv ad)))) (kf : ¬ cnd → W p l e R s m args below meth c H locs cells slots Q (F0 m (pc + 3) ls (st'.map (yc_cv ad)))) : W p l e R s m args below meth c H locs cells slots Q (F0 m pc ls (st.map (yc_cv ad))) := by
  unfold yc_if_gt at hn
  split at hn
  · rename_i e
    cases hn
    exact lv_if_gt hx hb hd (zc_tgt_of e) kt kf
  · cases hn
def yc_if_le (off : Int) (len pc : Nat) (st : List zv) : Option (Prop × Nat × List zv) := match len, st, zc_tgt pc off with
  | 3, .inl (.int x) :: r, some t => some (x ≤ 0, t, r)
  | _, _, _ => none
theorem yc_if_le_s (off : Int) {cnd : Prop} {t : Nat} (hx : p.tables.exec = Jvm.exec) (hb : c.code = cc) (hl : yc_ok ad nL lv ls) (hd : decode cc pc = .ok (.ifCond .le off, len)) (hn : yc_if_le off len pc st = some (cnd, t, st')) (kt : cnd → W p l e R s m args below meth c H locs cells slots Q (F0 m t ls (st'.map (yc_cv ad)))) (kf : ¬ cnd → W p l e R s m args below meth c H locs cells slots Q (F0 m (pc + 3) ls (st'.map (yc_cv ad)))) : W p l e R s m args below meth c H locs cells slots Q (F0 m pc ls (st.map (yc_cv ad))) := by
  unfold yc_if_le at hn
  split at hn
  · rename_i e
    cases hn
    exact lv_if_le hx hb hd (zc_tgt_of e) kt kf
  · cases hn
def yc_ic_eq (off : Int) (len pc : Nat) (st : List zv) : Option (Prop × Nat × List zv) := match len, st, zc_tgt pc off with
  | 3, .inl (.int y) :: .inl (.int x) :: r, some t => some (x = y, t, r)
  | _, _, _ => none
theorem yc_ic_eq_s (off : Int) {cnd : Prop} {t : Nat} (hx : p.tables.exec = Jvm.exec) (hb : c.code = cc) (hl : yc_ok ad nL lv ls) (hd : decode cc pc = .ok (.if_icmp .eq off, len)) (hn : yc_ic_eq off len pc st = some (cnd, t, st')) (kt : cnd → W p l e R s m args below meth c H locs cells slots Q (F0 m t ls (st'.map (yc_cv ad)))) (kf : ¬ cnd → W p l e R s m args below meth c H locs cells slots Q (F0 m (pc + 3) ls (st'.map (yc_cv ad)))) : W p l e R s m args below meth c H locs cells slots Q (F0 m pc ls (st.map (yc_cv ad))) := by
  unfold yc_ic_eq at hn
  split at hn
  · rename_i e
    cases hn
    exact lv_icmp_eq hx hb hd (zc_tgt_of e) kt kf
  · cases hn
def yc_ic_ne (off : Int) (len pc : Nat) (st : List zv) : Option (Prop × Nat × List zv) := match len, st, zc_tgt pc off with
  | 3, .inl (.int y) :: .inl (.int x) :: r, some t => some (¬ x = y, t, r)
  | _, _, _ => none
theorem yc_ic_ne_s (off : Int) {cnd : Prop} {t : Nat} (hx : p.tables.exec = Jvm.exec) (hb : c.code = cc) (hl : yc_ok ad nL lv ls) (hd : decode cc pc = .ok (.if_icmp .ne off, len)) (hn : yc_ic_ne off len pc st = some (cnd, t, st')) (kt : cnd → W p l e R s m args below meth c H locs cells slots Q (F0 m t ls (st'.map (yc_cv ad)))) (kf : ¬ cnd → W p l e R s m args below meth c H locs cells slots Q (F0 m (pc + 3) ls (st'.map (yc_cv ad)))) : W p l e R s m args below meth c H locs cells slots Q (F0 m pc ls (st.map (yc_cv ad))) := by
  unfold yc_ic_ne at hn
  split at hn
  · rename_i e
    cases hn
    exact lv_icmp_ne hx hb hd (zc_tgt_of e) kt (fun q => kf (fun q2 => q2 q))
  · cases hn
def yc_ic_lt (off : Int) (len pc : Nat) (st : List zv) : Option (Prop × Nat × List zv) := match len, st, zc_tgt pc off with
  | 3, .inl (.int y) :: .inl (.int x) :: r, some t => some (x < y, t, r)
  | _, _, _ => none
theorem yc_ic_lt_s (off : Int) {cnd : Prop} {t : Nat} (hx : p.tables.exec = Jvm.exec) (hb : c.code = cc) (hl : yc_ok ad nL lv ls) (hd : decode cc pc = .ok (.if_icmp .lt off, len)) (hn : yc_ic_lt off len pc st = some (cnd, t, st')) (kt : cnd → W p l e R s m args below meth c H locs cells slots Q (F0 m t ls (st'.map (yc_cv ad)))) (kf : ¬ cnd → W p l e R s m args below meth c H locs cells slots Q (F0 m (pc + 3) ls (st'.map (yc_cv ad)))) : W p l e R s m args below meth c H locs cells slots Q (F0 m pc ls (st.map (yc_cv ad))) := by
  unfold yc_ic_lt at hn
  split at hn
  · rename_i e
    cases hn
    exact lv_icmp_lt hx hb hd (zc_tgt_of e) kt kf
  · cases hn
def yc_ic_ge (off : Int) (len pc : Nat) (st : List zv) : Option (Prop × Nat × List zv) := match len, st, zc_tgt pc off with
  | 3, .inl (.int y) :: .inl (.int x) :: r, some t => some (y ≤ x, t, r)
  | _, _, _ => none
theorem yc_ic_ge_s (off : Int) {cnd : Prop} {t : Nat} (hx : p.tables.exec = Jvm.exec) (hb : c.code = cc) (hl : yc_ok ad nL lv ls) (hd : decode cc pc = .ok (.if_icmp .ge off, len)) (hn : yc_ic_ge off len pc st = some (cnd, t, st')) (kt : cnd → W p l e R s m args below meth c H locs cells slots Q (F0 m t ls (st'.map (yc_cv ad)))) (kf : ¬ cnd → W p l e R s m args below meth c H locs cells slots Q (F0 m (pc + 3) ls (st'.map (yc_cv ad)))) : W p l e R s m args below meth c H locs cells slots Q (F0 m pc ls (st.map (yc_cv ad))) := by
  unfold yc_ic_ge at hn
  split at hn
  · rename_i e
    cases hn
    exact lv_icmp_ge hx hb hd (zc_tgt_of e) kt kf
  · cases hn
def yc_ic_gt (off : Int) (len pc : Nat) (st : List zv) : Option (Prop × Nat × List zv) := match len, st, zc_tgt pc off with
  | 3, .inl (.int y) :: .inl (.int x) :: r, some t => some (y < x, t, r)
  | _, _, _ => none
theorem yc_ic_gt_s (off : Int) {cnd : Prop} {t : Nat} (hx : p.tables.exec = Jvm.exec) (hb : c.code = cc) (hl : yc_ok ad nL lv ls) (hd : decode cc pc = .ok (.if_icmp .gt off, len)) (hn : yc_ic_gt off len pc st = some (cnd, t, st')) (kt : cnd → W p l e R s m args below meth c H locs cells slots Q (F0 m t ls (st'.map (yc_cv ad)))) (kf : ¬ cnd → W p l e R s m args below meth c H locs cells slots Q (F0 m (pc + 3) ls (st'.map (yc_cv ad)))) : W p l e R s m args below meth c H locs cells slots Q (F0 m pc ls (st.map (yc_cv ad))) := by
  unfold yc_ic_gt at hn
  split at hn
  · rename_i e
    cases hn
    exact lv_icmp_gt hx hb hd (zc_tgt_of e) kt kf
  · cases hn
def yc_ic_le (off : Int) (len pc : Nat) (st : List zv) : Option (Prop × Nat × List zv) := match len, st, zc_tgt pc off with
  | 3, .inl (.int y) :: .inl (.int x) :: r, some t => some (x ≤ y, t, r)
  | _, _, _ => none
theorem yc_ic_le_s (off : Int) {cnd : Prop} {t : Nat} (hx : p.tables.exec = Jvm.exec) (hb : c.code = cc) (hl : yc_ok ad nL lv ls) (hd : decode cc pc = .ok (.if_icmp .le off, len)) (hn : yc_ic_le off len pc st = some (cnd, t, st')) (kt : cnd → W p l e R s m args below meth c H locs cells slots Q (F0 m t ls (st'.map (yc_cv ad)))) (kf : ¬ cnd → W p l e R s m args below meth c H locs cells slots Q (F0 m (pc + 3) ls (st'.map (yc_cv ad)))) : W p l e R s m args below meth c H locs cells slots Q (F0 m pc ls (st.map (yc_cv ad))) := by
  unfold yc_ic_le at hn
  split at hn
  · rename_i e
    cases hn
    exact lv_icmp_le hx hb hd (zc_tgt_of e) kt kf
  · cases hn
def yc_br (i : Instr) (len pc : Nat) (st : List zv) : Option (Prop × Nat × List zv) := match i with
  | .ifCond .eq off => yc_if_eq off len pc st
  | .ifCond .ne off => yc_if_ne off len pc st
  | .ifCond .lt off => yc_if_lt off len pc st
  | .ifCond .ge off => yc_if_ge off len pc st
  | .ifCond .gt off => yc_if_gt off len pc st
  | .ifCond .le off => yc_if_le off len pc st
  | .if_icmp .eq off => yc_ic_eq off len pc st
  | .if_icmp .ne off => yc_ic_ne off len pc st
  | .if_icmp .lt off => yc_ic_lt off len pc st
  | .if_icmp .ge off => yc_ic_ge off len pc st
  | .if_icmp .gt off => yc_ic_gt off len pc st
  | .if_icmp .le off => yc_ic_le off len pc st
  | _ => none
theorem yc_br_s {i : Instr} {cnd : Prop} {t : Nat} (hx : p.tables.exec = Jvm.exec) (hb : c.code = cc) (hl : yc_ok ad nL lv ls) (hd : decode cc pc = .ok (i, len)) (hn : yc_br i len pc st = some (cnd, t, st')) (kt : cnd → W p l e R s m args below meth c H locs cells slots Q (F0 m t ls (st'.map (yc_cv ad)))) (kf : ¬ cnd → W p l e R s m args below meth c H locs cells slots Q (F0 m (pc + 3) ls (st'.map (yc_cv ad)))) : W p l e R s m args below meth c H locs cells slots Q (F0 m pc ls (st.map (yc_cv ad))) := by
  cases i with
  | ifCond cn off => cases cn with
    | eq => exact yc_if_eq_s off hx hb hl hd hn kt kf
    | ne => exact yc_if_ne_s off hx hb hl hd hn kt kf
    | lt => exact yc_if_lt_s off hx hb hl hd hn kt kf
    | ge => exact yc_if_ge_s off hx hb hl hd hn kt kf
    | gt => exact yc_if_gt_s off hx hb hl hd hn kt kf
    | le => exact yc_if_le_s off hx hb hl hd hn kt kf
  | if_icmp cn off => cases cn with
    | eq => exact yc_ic_eq_s off hx hb hl hd hn kt kf
    | ne => exact yc_ic_ne_s off hx hb hl hd hn kt kf
    | lt => exact yc_ic_lt_s off hx hb hl hd hn kt kf
    | ge => exact yc_ic_ge_s off hx hb hl hd hn kt kf
    | gt => exact yc_ic_gt_s off hx hb hl hd hn kt kf
    | le => exact yc_ic_le_s off hx hb hl hd hn kt kf
  | _ => cases hn
def yc_gd (i : Instr) (len : Nat) (st : List zv) : Option (Prop × List zv) := match i, len, st with
  | .idiv, 1, .inl (.int y) :: .inl (.int x) :: r => some (¬ y = 0, .inl (.int (x / y)) :: r)
  | .irem, 1, .inl (.int y) :: .inl (.int x) :: r => some (¬ y = 0, .inl (.int (x - x / y * y)) :: r)
  | _, _, _ => none
theorem yc_gd_s {i : Instr} {g : Prop} (hx : p.tables.exec = Jvm.exec) (hb : c.code = cc) (hl : yc_ok ad nL lv ls) (hd : decode cc pc = .ok (i, len)) (hn : yc_gd i len st = some (g, st')) (hg : g) (k : W p l e R s m args below meth c H locs cells slots Q (F0 m (pc + 1) ls (st'.map (yc_cv ad)))) : W p l e R s m args below meth c H locs cells slots Q (F0 m pc ls (st.map (yc_cv ad))) := by
  unfold yc_gd at hn
  split at hn
  · cases hn; exact lv_idiv hx hb hd hg k
  · cases hn; exact lv_irem hx hb hd hg k
  · cases hn
def yc_sw (i : Instr) (pc : Nat) (st : List zv) : Option (Int × List zv) := match i, st with
  | .tableswitch d lo hi offs, .inl (.int x) :: r => cond (decide (-1000 ≤ lo ∧ hi ≤ 1000 ∧ lo + offs.toList.length = hi + 1)) (some (zc_tsel x lo offs.toList d, r)) none
  | _, _ => none
theorem yc_sw_s {i : Instr} {off : Int} {t : Nat} (hx : p.tables.exec = Jvm.exec) (hb : c.code = cc) (hl : yc_ok ad nL lv ls) (hd : decode cc pc = .ok (i, len)) (hn : yc_sw i pc st = some (off, st')) (ht : zc_tgt pc off = some t) (k : W p l e R s m args below meth c H locs cells slots Q (F0 m t ls (st'.map (yc_cv ad)))) : W p l e R s m args below meth c H locs cells slots Q (F0 m pc ls (st.map (yc_cv ad))) := by
  unfold yc_sw at hn
  split at hn
  · rename_i d lo hi offs x r
    cases hc : decide (-1000 ≤ lo ∧ hi ≤ 1000 ∧ lo + offs.toList.length = hi + 1) with
    | false => rw [hc] at hn; cases hn
    | true =>
      rw [hc] at hn
      cases hn
      obtain ⟨c1, c2, c3⟩ := of_decide_eq_true hc
      by_cases ho : x.toInt < lo ∨ hi < x.toInt
      · rw [zc_tsel_out offs.toList lo d c1 (by omega) (by omega)] at ht
        exact lv_tableOut hx hb hd ho (zc_tgt_of ht) k
      · have h1 : ¬ x.toInt < lo := fun q => ho (Or.inl q)
        have h2 : ¬ hi < x.toInt := fun q => ho (Or.inr q)
        have h3 := zc_tsel_in (x := x) offs.toList lo d c1 (by omega) h1 (by omega)
        rw [Array.getElem?_toList] at h3
        exact lv_tableIn hx hb hd h1 h2 h3 (zc_tgt_of ht) k
  · cases hn
end ZC

