/-! THE ABSTRACT MACHINE, core: locals, stack, numbers, branches; any state type -/
set_option maxRecDepth 100000
/-- locals: none: not set; some none: second half of a long; some (some v): the value v -/
abbrev zc_L : Type := List (Option (Option Value))
def zc_nth : zc_L → Nat → Option (Option Value)
  | [], _ => none
  | a :: _, 0 => a
  | _ :: t, k + 1 => zc_nth t k
def zc_upd : zc_L → Nat → Option (Option Value) → zc_L
  | [], _, _ => []
  | _ :: t, 0, v => v :: t
  | a :: t, k + 1, v => a :: zc_upd t k v
/-- concrete value of an abstract one: references by the map ad -/
def zc_cv (ad : Nat → Nat) : Value → Value
  | .ref a => .ref (ad a)
  | .int x => .int x
  | .long x => .long x
  | .float x => .float x
  | .double x => .double x
  | .null => .null
  | .retAddr x => .retAddr x
theorem zc_cv_cat (ad : Nat → Nat) (v : Value) : (zc_cv ad v).category = v.category := by cases v <;> rfl
theorem zc_upd_len (lv : zc_L) (k : Nat) (v : Option (Option Value)) : (zc_upd lv k v).length = lv.length := by
  induction lv generalizing k with
  | nil => rfl
  | cons a t ih => cases k with
    | zero => rfl
    | succ k => simp [zc_upd, ih]
theorem zc_nth_upd (lv : zc_L) (k j : Nat) (v : Option (Option Value)) : zc_nth (zc_upd lv k v) j = if j = k ∧ k < lv.length then v else zc_nth lv j := by
  induction lv generalizing k j with
  | nil => simp [zc_upd, zc_nth]
  | cons a t ih => cases k with
    | zero => cases j with
      | zero => simp [zc_upd, zc_nth]
      | succ j => simp [zc_upd, zc_nth]
    | succ k => cases j with
      | zero => simp [zc_upd, zc_nth]
      | succ j => simp [zc_upd, zc_nth, ih]
theorem zc_nth_lt {lv : zc_L} {k : Nat} {v : Option Value} (h : zc_nth lv k = some v) : k < lv.length := by
  induction lv generalizing k with
  | nil => simp [zc_nth] at h
  | cons a t ih => cases k with
    | zero => simp
    | succ k => simp only [zc_nth] at h; simpa using ih h
def zc_ok (ad : Nat → Nat) (nL : Nat) (lv : zc_L) (ls : Array Slot) : Prop :=
  lv.length = nL ∧ ls.size = nL ∧ lv_wf ls ∧ (∀ k v, zc_nth lv k = some (some v) → ls[k]? = some (.val (zc_cv ad v))) ∧ ∀ k v, zc_nth lv k = some (some v) → v.category = 2 → zc_nth lv (k + 1) = some none
def zc_as (ad : Nat → Nat) (lv : zc_L) : List (Nat × Value) := (List.range lv.length).filterMap (fun k => match zc_nth lv k with
  | some (some v) => some (k, zc_cv ad v)
  | _ => none)
theorem zc_as_mem {ad : Nat → Nat} {lv : zc_L} {k : Nat} {v : Value} (h : zc_nth lv k = some (some v)) : (k, zc_cv ad v) ∈ zc_as ad lv := by
  refine List.mem_filterMap.mpr ⟨k, List.mem_range.mpr (zc_nth_lt h), ?_⟩
  rw [h]
theorem zc_as_of {ad : Nat → Nat} {lv : zc_L} {q : Nat × Value} (h : q ∈ zc_as ad lv) : ∃ v, zc_nth lv q.1 = some (some v) ∧ q.2 = zc_cv ad v := by
  obtain ⟨k, -, hk⟩ := List.mem_filterMap.mp h
  cases e : zc_nth lv k with
  | none => rw [e] at hk; cases hk
  | some o => cases o with
    | none => rw [e] at hk; cases hk
    | some v =>
      rw [e] at hk
      cases hk
      exact ⟨v, e, rfl⟩
theorem zc_ok.has {ad : Nat → Nat} {nL : Nat} {lv : zc_L} {ls : Array Slot} (h : zc_ok ad nL lv ls) : lv_has ls nL (zc_as ad lv) := by
  refine ⟨h.2.1, h.2.2.1, fun q hq => ?_⟩
  obtain ⟨v, h1, h2⟩ := zc_as_of hq
  rw [h2]
  exact h.2.2.2.1 _ _ h1
/-- store of a value of one slot -/
def zc_st1 (lv : zc_L) (k : Nat) (v : Value) : Option zc_L := match zc_nth lv k with
  | some none => none
  | _ => cond (Nat.blt k lv.length) (some (zc_upd lv k (some (some v)))) none
def zc_st2 (lv : zc_L) (k : Nat) (v : Value) : Option zc_L := match zc_nth lv k with
  | some none => none
  | _ => cond (Nat.blt (k + 1) lv.length) (some (zc_upd (zc_upd lv k (some (some v))) (k + 1) (some none))) none
theorem zc_st1_of {lv lv' : zc_L} {k : Nat} {v : Value} (h : zc_st1 lv k v = some lv') : zc_nth lv k ≠ some none ∧ k < lv.length ∧ lv' = zc_upd lv k (some (some v)) := by
  unfold zc_st1 at h
  split at h
  · cases h
  · rename_i hne
    cases e : Nat.blt k lv.length with
    | false => rw [e] at h; cases h
    | true =>
      rw [e] at h
      cases h
      exact ⟨fun h => hne h, by simpa [Nat.blt_eq] using e, rfl⟩
theorem zc_st2_of {lv lv' : zc_L} {k : Nat} {v : Value} (h : zc_st2 lv k v = some lv') : zc_nth lv k ≠ some none ∧ k + 1 < lv.length ∧ lv' = zc_upd (zc_upd lv k (some (some v))) (k + 1) (some none) := by
  unfold zc_st2 at h
  split at h
  · cases h
  · rename_i hne
    cases e : Nat.blt (k + 1) lv.length with
    | false => rw [e] at h; cases h
    | true =>
      rw [e] at h
      cases h
      exact ⟨fun h => hne h, by simpa [Nat.blt_eq] using e, rfl⟩
theorem zc_ok.st1 {ad : Nat → Nat} {nL : Nat} {lv lv' : zc_L} {ls ls' : Array Slot} {k : Nat} {v : Value} (h : zc_ok ad nL lv ls) (hs : zc_st1 lv k v = some lv') (hc : v.category = 1)
    (h' : lv_has ls' nL ((k, zc_cv ad v) :: (zc_as ad lv).filter (fun q => !(q.1 == k) && !(q.1 + 1 == k && q.2.category == 2)))) : zc_ok ad nL lv' ls' := by
  obtain ⟨hne, hlt, rfl⟩ := zc_st1_of hs
  obtain ⟨h1, h2, h3, h4, h5⟩ := h
  refine ⟨by rw [zc_upd_len]; exact h1, h'.1, h'.2.1, fun j w hj => ?_, fun j w hj hw => ?_⟩
  · rw [zc_nth_upd] at hj
    by_cases e : j = k ∧ k < lv.length
    · rw [if_pos e] at hj
      cases hj
      rw [e.1]
      exact h'.2.2 (k, zc_cv ad v) List.mem_cons_self
    · rw [if_neg e] at hj
      refine h'.2.2 (j, zc_cv ad w) (List.mem_cons_of_mem _ (List.mem_filter.mpr ⟨zc_as_mem hj, ?_⟩))
      have e1 : ¬ j = k := fun q => e ⟨q, hlt⟩
      have e2 : ¬ (j + 1 = k ∧ w.category = 2) := fun q => hne (by rw [← q.1]; exact h5 j w hj q.2)
      simp only [zc_cv_cat, Bool.and_eq_true, Bool.not_eq_true', Bool.and_eq_false_iff, beq_eq_false_iff_ne, ne_eq]
      refine ⟨e1, ?_⟩
      by_cases e3 : j + 1 = k
      · exact Or.inr fun q => e2 ⟨e3, q⟩
      · exact Or.inl e3
  · rw [zc_nth_upd] at hj
    by_cases e : j = k ∧ k < lv.length
    · rw [if_pos e] at hj
      cases hj
      omega
    · rw [if_neg e] at hj
      have hm := h5 j w hj hw
      rw [zc_nth_upd]
      by_cases e3 : j + 1 = k ∧ k < lv.length
      · exact absurd (by rw [← e3.1]; exact hm) hne
      · rw [if_neg e3]; exact hm
theorem zc_ok.st2 {ad : Nat → Nat} {nL : Nat} {lv lv' : zc_L} {ls ls' : Array Slot} {k : Nat} {v : Value} (h : zc_ok ad nL lv ls) (hs : zc_st2 lv k v = some lv')
    (h' : lv_has ls' nL ((k, zc_cv ad v) :: (zc_as ad lv).filter (fun q => !(q.1 == k) && (!(q.1 == k + 1) && !(q.1 + 1 == k && q.2.category == 2))))) : zc_ok ad nL lv' ls' := by
  obtain ⟨hne, hlt, rfl⟩ := zc_st2_of hs
  obtain ⟨h1, h2, h3, h4, h5⟩ := h
  refine ⟨by rw [zc_upd_len, zc_upd_len]; exact h1, h'.1, h'.2.1, fun j w hj => ?_, fun j w hj hw => ?_⟩
  · rw [zc_nth_upd, zc_nth_upd, zc_upd_len] at hj
    by_cases e0 : j = k + 1 ∧ k + 1 < lv.length
    · rw [if_pos e0] at hj; cases hj
    rw [if_neg e0] at hj
    by_cases e : j = k ∧ k < lv.length
    · rw [if_pos e] at hj
      cases hj
      rw [e.1]
      exact h'.2.2 (k, zc_cv ad v) List.mem_cons_self
    · rw [if_neg e] at hj
      refine h'.2.2 (j, zc_cv ad w) (List.mem_cons_of_mem _ (List.mem_filter.mpr ⟨zc_as_mem hj, ?_⟩))
      have e1 : ¬ j = k := fun q => e ⟨q, by omega⟩
      have e4 : ¬ j = k + 1 := fun q => e0 ⟨q, hlt⟩
      have e2 : ¬ (j + 1 = k ∧ w.category = 2) := fun q => hne (by rw [← q.1]; exact h5 j w hj q.2)
      simp only [zc_cv_cat, Bool.and_eq_true, Bool.not_eq_true', Bool.and_eq_false_iff, beq_eq_false_iff_ne, ne_eq]
      refine ⟨e1, e4, ?_⟩
      by_cases e3 : j + 1 = k
      · exact Or.inr fun q => e2 ⟨e3, q⟩
      · exact Or.inl e3
  · rw [zc_nth_upd, zc_nth_upd, zc_upd_len] at hj
    rw [zc_nth_upd, zc_nth_upd, zc_upd_len]
    by_cases e0 : j = k + 1 ∧ k + 1 < lv.length
    · rw [if_pos e0] at hj; cases hj
    rw [if_neg e0] at hj
    by_cases e : j = k ∧ k < lv.length
    · rw [if_pos ⟨by omega, hlt⟩]
    · rw [if_neg e] at hj
      have hm := h5 j w hj hw
      by_cases e3 : j + 1 = k
      · exact absurd (by rw [← e3]; exact hm) hne
      · rw [if_neg (by omega), if_neg (by omega)]; exact hm
/-- constants -/
def zc_lit (n : Int) : Int32 := match n with
  | .ofNat k => nI k
  | .negSucc k => -(nI (k + 1))
theorem zc_lit_eq (n : Int) : Int32.ofInt n = zc_lit n := by
  cases n with
  | ofNat k => rfl
  | negSucc k =>
    show Int32.ofInt (Int.negSucc k) = -(Int32.ofNat (k + 1))
    rw [Int.negSucc_eq, Int32.ofInt_neg]
    rfl
theorem zc_lit8 (k : Nat) (h : k < 128) : (Int8.ofInt (Int.ofNat k)).toInt32 = nI k ∧ (Int8.ofInt (Int.negSucc k)).toInt32 = -(nI (k + 1)) := by
  have : ∀ j : Fin 128, (Int8.ofInt (Int.ofNat j.1)).toInt32 = nI j.1 ∧ (Int8.ofInt (Int.negSucc j.1)).toInt32 = -(nI (j.1 + 1)) := by decide +kernel
  exact this ⟨k, h⟩
theorem zc_lit16 (k : Nat) (h : k < 32768) : (Int16.ofInt (Int.ofNat k)).toInt32 = nI k := by
  apply Int32.toInt_inj.mp
  rw [nI_toInt (by omega), Int16.toInt_toInt32, Int16.toInt_ofInt]
  simp [Int.bmod]
  omega
def zc_tgt (pc : Nat) (off : Int) : Option Nat := match (pc : Int) + off with
  | .ofNat t => some t
  | .negSucc _ => none
theorem zc_tgt_of {pc t : Nat} {off : Int} (h : zc_tgt pc off = some t) : (pc : Int) + off = (t : Int) := by
  unfold zc_tgt at h
  split at h
  · rename_i e; cases h; exact e
  · cases h
abbrev zc_R : Type := Option (Nat × zc_L × List Value)
section ZC
variable {p : Program} {l : Launch} {e : Env} {R : Room} {s : State} {m : MethodId} {args : Array Value} {below : List Frame} {meth : Method} {c : Code} {H : Heap} {locs : List Loc} {cells slots : Nat} {Q : State → Prop}
variable {cc : ByteArray} {pc pc' len nL : Nat} {ls : Array Slot} {lv lv' : zc_L} {st st' : List Value} {ad : Nat → Nat}

def zc_icv (n : Int) : Option Int32 := match n with
  | .ofNat k => some (nI (@OfNat.ofNat Nat k (instOfNatNat k)))
  | .negSucc 0 => some (-(nI 1))
  | .negSucc k => some (-(nI (@OfNat.ofNat Nat k (instOfNatNat k) + 1)))
theorem zc_icv_of {n : Int} {v : Int32} (h : zc_icv n = some v) : Int32.ofInt n = v := by
  rw [zc_lit_eq]
  unfold zc_icv at h
  split at h
  · exact Option.some.inj h
  · exact Option.some.inj h
  · exact Option.some.inj h
def zc_bip (n : Int) : Option Int32 := match n with
  | .ofNat k => cond (Nat.blt k 128) (some (nI (@OfNat.ofNat Nat k (instOfNatNat k)))) none
  | .negSucc k => cond (Nat.blt k 128) (some (-(nI (@OfNat.ofNat Nat k (instOfNatNat k) + 1)))) none
theorem zc_bip_of {n : Int} {v : Int32} (h : zc_bip n = some v) : (Int8.ofInt n).toInt32 = v := by
  unfold zc_bip at h
  split at h
  · rename_i k
    cases e : Nat.blt k 128 with
    | false => rw [e] at h; cases h
    | true => rw [e] at h; cases h; exact (zc_lit8 k (by simpa [Nat.blt_eq] using e)).1
  · rename_i k
    cases e : Nat.blt k 128 with
    | false => rw [e] at h; cases h
    | true => rw [e] at h; cases h; exact (zc_lit8 k (by simpa [Nat.blt_eq] using e)).2
def zc_sip (n : Int) : Option Int32 := match n with
  | .ofNat k => cond (Nat.blt k 32768) (some (nI (@OfNat.ofNat Nat k (instOfNatNat k)))) none
  | .negSucc _ => some ((Int16.ofInt n).toInt32)
theorem zc_sip_of {n : Int} {v : Int32} (h : zc_sip n = some v) : (Int16.ofInt n).toInt32 = v := by
  unfold zc_sip at h
  split at h
  · rename_i k
    cases e : Nat.blt k 32768 with
    | false => rw [e] at h; cases h
    | true => rw [e] at h; cases h; exact zc_lit16 k (by simpa [Nat.blt_eq] using e)
  · exact Option.some.inj h
def zc_iconst (n : Int) (len pc : Nat) (lv : zc_L) (st : List Value) : zc_R := match len, zc_icv n with
  | 1, some v => some (pc + 1, lv, .int v :: st)
  | _, _ => none
theorem zc_iconst_s (n : Int) (hx : p.tables.exec = Jvm.exec) (hb : c.code = cc) (hl : zc_ok ad nL lv ls) (hd : decode cc pc = .ok (.iconst n, len)) (hn : zc_iconst n len pc lv st = some (pc', lv', st')) (k : ∀ ls' : Array Slot, zc_ok ad nL lv' ls' → W p l e R s m args below meth c H locs cells slots Q (F0 m pc' ls' (st'.map (zc_cv ad)))) : W p l e R s m args below meth c H locs cells slots Q (F0 m pc ls (st.map (zc_cv ad))) := by
  unfold zc_iconst at hn
  split at hn
  · rename_i v e
    cases hn; exact lv_iconst hx hb hd (zc_icv_of e) (k ls hl)
  · cases hn
def zc_bipush (n : Int) (len pc : Nat) (lv : zc_L) (st : List Value) : zc_R := match len, zc_bip n with
  | 2, some v => some (pc + 2, lv, .int v :: st)
  | _, _ => none
theorem zc_bipush_s (n : Int) (hx : p.tables.exec = Jvm.exec) (hb : c.code = cc) (hl : zc_ok ad nL lv ls) (hd : decode cc pc = .ok (.bipush n, len)) (hn : zc_bipush n len pc lv st = some (pc', lv', st')) (k : ∀ ls' : Array Slot, zc_ok ad nL lv' ls' → W p l e R s m args below meth c H locs cells slots Q (F0 m pc' ls' (st'.map (zc_cv ad)))) : W p l e R s m args below meth c H locs cells slots Q (F0 m pc ls (st.map (zc_cv ad))) := by
  unfold zc_bipush at hn
  split at hn
  · rename_i v e
    cases hn; exact lv_bipush hx hb hd (zc_bip_of e) (k ls hl)
  · cases hn
def zc_sipush (n : Int) (len pc : Nat) (lv : zc_L) (st : List Value) : zc_R := match len, zc_sip n with
  | 3, some v => some (pc + 3, lv, .int v :: st)
  | _, _ => none
theorem zc_sipush_s (n : Int) (hx : p.tables.exec = Jvm.exec) (hb : c.code = cc) (hl : zc_ok ad nL lv ls) (hd : decode cc pc = .ok (.sipush n, len)) (hn : zc_sipush n len pc lv st = some (pc', lv', st')) (k : ∀ ls' : Array Slot, zc_ok ad nL lv' ls' → W p l e R s m args below meth c H locs cells slots Q (F0 m pc' ls' (st'.map (zc_cv ad)))) : W p l e R s m args below meth c H locs cells slots Q (F0 m pc ls (st.map (zc_cv ad))) := by
  unfold zc_sipush at hn
  split at hn
  · rename_i v e
    cases hn; exact lv_sipush hx hb hd (zc_sip_of e) (k ls hl)
  · cases hn
def zc_lconst (n : Fin 2) (len pc : Nat) (lv : zc_L) (st : List Value) : zc_R := match len, st with
  | 1, r => some (pc + 1, lv, .long (lN (n : Nat)) :: r)
  | _, _ => none
theorem zc_lconst_s (n : Fin 2) (hx : p.tables.exec = Jvm.exec) (hb : c.code = cc) (hl : zc_ok ad nL lv ls) (hd : decode cc pc = .ok (.lconst n, len)) (hn : zc_lconst n len pc lv st = some (pc', lv', st')) (k : ∀ ls' : Array Slot, zc_ok ad nL lv' ls' → W p l e R s m args below meth c H locs cells slots Q (F0 m pc' ls' (st'.map (zc_cv ad)))) : W p l e R s m args below meth c H locs cells slots Q (F0 m pc ls (st.map (zc_cv ad))) := by
  unfold zc_lconst at hn
  split at hn
  · cases hn; exact lv_lconst hx hb hd rfl (k ls hl)
  · cases hn
def zc_null  (len pc : Nat) (lv : zc_L) (st : List Value) : zc_R := match len, st with
  | 1, r => some (pc + 1, lv, .null :: r)
  | _, _ => none
theorem zc_null_s  (hx : p.tables.exec = Jvm.exec) (hb : c.code = cc) (hl : zc_ok ad nL lv ls) (hd : decode cc pc = .ok (.aconst_null, len)) (hn : zc_null  len pc lv st = some (pc', lv', st')) (k : ∀ ls' : Array Slot, zc_ok ad nL lv' ls' → W p l e R s m args below meth c H locs cells slots Q (F0 m pc' ls' (st'.map (zc_cv ad)))) : W p l e R s m args below meth c H locs cells slots Q (F0 m pc ls (st.map (zc_cv ad))) := by
  unfold zc_null at hn
  split at hn
  · cases hn; exact lv_null hx hb hd (k ls hl)
  · cases hn
def zc_iload_n (n : Fin 4) (len pc : Nat) (lv : zc_L) (st : List Value) : zc_R := match len, zc_nth lv n with
  | 1, some (some (.int x)) => some (pc + 1, lv, .int x :: st)
  | _, _ => none
theorem zc_iload_n_s (n : Fin 4) (hx : p.tables.exec = Jvm.exec) (hb : c.code = cc) (hl : zc_ok ad nL lv ls) (hd : decode cc pc = .ok (.iload_n n, len)) (hn : zc_iload_n n len pc lv st = some (pc', lv', st')) (k : ∀ ls' : Array Slot, zc_ok ad nL lv' ls' → W p l e R s m args below meth c H locs cells slots Q (F0 m pc' ls' (st'.map (zc_cv ad)))) : W p l e R s m args below meth c H locs cells slots Q (F0 m pc ls (st.map (zc_cv ad))) := by
  unfold zc_iload_n at hn
  split at hn
  · rename_i x e
    cases hn; exact lv_iload_n hx hb hd rfl (hl.2.2.2.1 _ _ e) (k ls hl)
  · cases hn
def zc_iload (n : Nat) (len pc : Nat) (lv : zc_L) (st : List Value) : zc_R := match len, zc_nth lv n with
  | 2, some (some (.int x)) => some (pc + 2, lv, .int x :: st)
  | _, _ => none
theorem zc_iload_s (n : Nat) (hx : p.tables.exec = Jvm.exec) (hb : c.code = cc) (hl : zc_ok ad nL lv ls) (hd : decode cc pc = .ok (.iload n, len)) (hn : zc_iload n len pc lv st = some (pc', lv', st')) (k : ∀ ls' : Array Slot, zc_ok ad nL lv' ls' → W p l e R s m args below meth c H locs cells slots Q (F0 m pc' ls' (st'.map (zc_cv ad)))) : W p l e R s m args below meth c H locs cells slots Q (F0 m pc ls (st.map (zc_cv ad))) := by
  unfold zc_iload at hn
  split at hn
  · rename_i x e
    cases hn; exact lv_iload hx hb hd (hl.2.2.2.1 _ _ e) (k ls hl)
  · cases hn
def zc_lload_n (n : Fin 4) (len pc : Nat) (lv : zc_L) (st : List Value) : zc_R := match len, zc_nth lv n with
  | 1, some (some (.long x)) => some (pc + 1, lv, .long x :: st)
  | _, _ => none
theorem zc_lload_n_s (n : Fin 4) (hx : p.tables.exec = Jvm.exec) (hb : c.code = cc) (hl : zc_ok ad nL lv ls) (hd : decode cc pc = .ok (.lload_n n, len)) (hn : zc_lload_n n len pc lv st = some (pc', lv', st')) (k : ∀ ls' : Array Slot, zc_ok ad nL lv' ls' → W p l e R s m args below meth c H locs cells slots Q (F0 m pc' ls' (st'.map (zc_cv ad)))) : W p l e R s m args below meth c H locs cells slots Q (F0 m pc ls (st.map (zc_cv ad))) := by
  unfold zc_lload_n at hn
  split at hn
  · rename_i x e
    cases hn; exact lv_lload_n hx hb hd rfl (hl.2.2.2.1 _ _ e) (k ls hl)
  · cases hn
def zc_lload (n : Nat) (len pc : Nat) (lv : zc_L) (st : List Value) : zc_R := match len, zc_nth lv n with
  | 2, some (some (.long x)) => some (pc + 2, lv, .long x :: st)
  | _, _ => none
theorem zc_lload_s (n : Nat) (hx : p.tables.exec = Jvm.exec) (hb : c.code = cc) (hl : zc_ok ad nL lv ls) (hd : decode cc pc = .ok (.lload n, len)) (hn : zc_lload n len pc lv st = some (pc', lv', st')) (k : ∀ ls' : Array Slot, zc_ok ad nL lv' ls' → W p l e R s m args below meth c H locs cells slots Q (F0 m pc' ls' (st'.map (zc_cv ad)))) : W p l e R s m args below meth c H locs cells slots Q (F0 m pc ls (st.map (zc_cv ad))) := by
  unfold zc_lload at hn
  split at hn
  · rename_i x e
    cases hn; exact lv_lload hx hb hd (hl.2.2.2.1 _ _ e) (k ls hl)
  · cases hn
def zc_aload_n (n : Fin 4) (len pc : Nat) (lv : zc_L) (st : List Value) : zc_R := match len, zc_nth lv n with
  | 1, some (some (.ref x)) => some (pc + 1, lv, .ref x :: st)
  | _, _ => none
theorem zc_aload_n_s (n : Fin 4) (hx : p.tables.exec = Jvm.exec) (hb : c.code = cc) (hl : zc_ok ad nL lv ls) (hd : decode cc pc = .ok (.aload_n n, len)) (hn : zc_aload_n n len pc lv st = some (pc', lv', st')) (k : ∀ ls' : Array Slot, zc_ok ad nL lv' ls' → W p l e R s m args below meth c H locs cells slots Q (F0 m pc' ls' (st'.map (zc_cv ad)))) : W p l e R s m args below meth c H locs cells slots Q (F0 m pc ls (st.map (zc_cv ad))) := by
  unfold zc_aload_n at hn
  split at hn
  · rename_i x e
    cases hn; exact lv_aload_n hx hb hd rfl (hl.2.2.2.1 _ _ e) (k ls hl)
  · cases hn
def zc_aload (n : Nat) (len pc : Nat) (lv : zc_L) (st : List Value) : zc_R := match len, zc_nth lv n with
  | 2, some (some (.ref x)) => some (pc + 2, lv, .ref x :: st)
  | _, _ => none
theorem zc_aload_s (n : Nat) (hx : p.tables.exec = Jvm.exec) (hb : c.code = cc) (hl : zc_ok ad nL lv ls) (hd : decode cc pc = .ok (.aload n, len)) (hn : zc_aload n len pc lv st = some (pc', lv', st')) (k : ∀ ls' : Array Slot, zc_ok ad nL lv' ls' → W p l e R s m args below meth c H locs cells slots Q (F0 m pc' ls' (st'.map (zc_cv ad)))) : W p l e R s m args below meth c H locs cells slots Q (F0 m pc ls (st.map (zc_cv ad))) := by
  unfold zc_aload at hn
  split at hn
  · rename_i x e
    cases hn; exact lv_aload hx hb hd (hl.2.2.2.1 _ _ e) (k ls hl)
  · cases hn
def zc_istore_n (n : Fin 4) (len pc : Nat) (lv : zc_L) (st : List Value) : zc_R := match len, st with
  | 1, .int x :: r => match zc_st1 lv n (.int x) with
    | some lv2 => some (pc + 1, lv2, r)
    | none => none
  | _, _ => none
theorem zc_istore_n_s (n : Fin 4) (hx : p.tables.exec = Jvm.exec) (hb : c.code = cc) (hl : zc_ok ad nL lv ls) (hd : decode cc pc = .ok (.istore_n n, len)) (hn : zc_istore_n n len pc lv st = some (pc', lv', st')) (k : ∀ ls' : Array Slot, zc_ok ad nL lv' ls' → W p l e R s m args below meth c H locs cells slots Q (F0 m pc' ls' (st'.map (zc_cv ad)))) : W p l e R s m args below meth c H locs cells slots Q (F0 m pc ls (st.map (zc_cv ad))) := by
  unfold zc_istore_n at hn
  split at hn
  · split at hn
    · rename_i lv2 e2
      cases hn
      exact lv_istore_n hx hb hd rfl hl.has (by have := (zc_st1_of e2).2.1; rw [hl.1] at this; exact this) rfl (fun ls' hls => k ls' (hl.st1 e2 rfl hls))
    · cases hn
  · cases hn
def zc_istore (n : Nat) (len pc : Nat) (lv : zc_L) (st : List Value) : zc_R := match len, st with
  | 2, .int x :: r => match zc_st1 lv n (.int x) with
    | some lv2 => some (pc + 2, lv2, r)
    | none => none
  | _, _ => none
theorem zc_istore_s (n : Nat) (hx : p.tables.exec = Jvm.exec) (hb : c.code = cc) (hl : zc_ok ad nL lv ls) (hd : decode cc pc = .ok (.istore n, len)) (hn : zc_istore n len pc lv st = some (pc', lv', st')) (k : ∀ ls' : Array Slot, zc_ok ad nL lv' ls' → W p l e R s m args below meth c H locs cells slots Q (F0 m pc' ls' (st'.map (zc_cv ad)))) : W p l e R s m args below meth c H locs cells slots Q (F0 m pc ls (st.map (zc_cv ad))) := by
  unfold zc_istore at hn
  split at hn
  · split at hn
    · rename_i lv2 e2
      cases hn
      exact lv_istore hx hb hd hl.has (by have := (zc_st1_of e2).2.1; rw [hl.1] at this; exact this) rfl (fun ls' hls => k ls' (hl.st1 e2 rfl hls))
    · cases hn
  · cases hn
def zc_lstore_n (n : Fin 4) (len pc : Nat) (lv : zc_L) (st : List Value) : zc_R := match len, st with
  | 1, .long x :: r => match zc_st2 lv n (.long x) with
    | some lv2 => some (pc + 1, lv2, r)
    | none => none
  | _, _ => none
theorem zc_lstore_n_s (n : Fin 4) (hx : p.tables.exec = Jvm.exec) (hb : c.code = cc) (hl : zc_ok ad nL lv ls) (hd : decode cc pc = .ok (.lstore_n n, len)) (hn : zc_lstore_n n len pc lv st = some (pc', lv', st')) (k : ∀ ls' : Array Slot, zc_ok ad nL lv' ls' → W p l e R s m args below meth c H locs cells slots Q (F0 m pc' ls' (st'.map (zc_cv ad)))) : W p l e R s m args below meth c H locs cells slots Q (F0 m pc ls (st.map (zc_cv ad))) := by
  unfold zc_lstore_n at hn
  split at hn
  · split at hn
    · rename_i lv2 e2
      cases hn
      exact lv_lstore_n hx hb hd rfl hl.has (by have := (zc_st2_of e2).2.1; rw [hl.1] at this; exact this) rfl (fun ls' hls => k ls' (hl.st2 e2 hls))
    · cases hn
  · cases hn
def zc_lstore (n : Nat) (len pc : Nat) (lv : zc_L) (st : List Value) : zc_R := match len, st with
  | 2, .long x :: r => match zc_st2 lv n (.long x) with
    | some lv2 => some (pc + 2, lv2, r)
    | none => none
  | _, _ => none
theorem zc_lstore_s (n : Nat) (hx : p.tables.exec = Jvm.exec) (hb : c.code = cc) (hl : zc_ok ad nL lv ls) (hd : decode cc pc = .ok (.lstore n, len)) (hn : zc_lstore n len pc lv st = some (pc', lv', st')) (k : ∀ ls' : Array Slot, zc_ok ad nL lv' ls' → W p l e R s m args below meth c H locs cells slots Q (F0 m pc' ls' (st'.map (zc_cv ad)))) : W p l e R s m args below meth c H locs cells slots Q (F0 m pc ls (st.map (zc_cv ad))) := by
  unfold zc_lstore at hn
  split at hn
  · split at hn
    · rename_i lv2 e2
      cases hn
      exact lv_lstore hx hb hd hl.has (by have := (zc_st2_of e2).2.1; rw [hl.1] at this; exact this) rfl (fun ls' hls => k ls' (hl.st2 e2 hls))
    · cases hn
  · cases hn
def zc_astore_n (n : Fin 4) (len pc : Nat) (lv : zc_L) (st : List Value) : zc_R := match len, st with
  | 1, .ref x :: r => match zc_st1 lv n (.ref x) with
    | some lv2 => some (pc + 1, lv2, r)
    | none => none
  | _, _ => none
theorem zc_astore_n_s (n : Fin 4) (hx : p.tables.exec = Jvm.exec) (hb : c.code = cc) (hl : zc_ok ad nL lv ls) (hd : decode cc pc = .ok (.astore_n n, len)) (hn : zc_astore_n n len pc lv st = some (pc', lv', st')) (k : ∀ ls' : Array Slot, zc_ok ad nL lv' ls' → W p l e R s m args below meth c H locs cells slots Q (F0 m pc' ls' (st'.map (zc_cv ad)))) : W p l e R s m args below meth c H locs cells slots Q (F0 m pc ls (st.map (zc_cv ad))) := by
  unfold zc_astore_n at hn
  split at hn
  · split at hn
    · rename_i lv2 e2
      cases hn
      exact lv_astore_n hx hb hd rfl hl.has (by have := (zc_st1_of e2).2.1; rw [hl.1] at this; exact this) rfl (fun ls' hls => k ls' (hl.st1 e2 rfl hls))
    · cases hn
  · cases hn
def zc_astore (n : Nat) (len pc : Nat) (lv : zc_L) (st : List Value) : zc_R := match len, st with
  | 2, .ref x :: r => match zc_st1 lv n (.ref x) with
    | some lv2 => some (pc + 2, lv2, r)
    | none => none
  | _, _ => none
theorem zc_astore_s (n : Nat) (hx : p.tables.exec = Jvm.exec) (hb : c.code = cc) (hl : zc_ok ad nL lv ls) (hd : decode cc pc = .ok (.astore n, len)) (hn : zc_astore n len pc lv st = some (pc', lv', st')) (k : ∀ ls' : Array Slot, zc_ok ad nL lv' ls' → W p l e R s m args below meth c H locs cells slots Q (F0 m pc' ls' (st'.map (zc_cv ad)))) : W p l e R s m args below meth c H locs cells slots Q (F0 m pc ls (st.map (zc_cv ad))) := by
  unfold zc_astore at hn
  split at hn
  · split at hn
    · rename_i lv2 e2
      cases hn
      exact lv_astore hx hb hd hl.has (by have := (zc_st1_of e2).2.1; rw [hl.1] at this; exact this) rfl (fun ls' hls => k ls' (hl.st1 e2 rfl hls))
    · cases hn
  · cases hn
theorem zc_as_nth {ad : Nat → Nat} {lv : zc_L} {k : Nat} {v : Value} (h : zc_nth lv k = some (some v)) : ∃ j : Nat, (zc_as ad lv)[j]? = some (k, zc_cv ad v) := List.getElem?_of_mem (zc_as_mem h)
def zc_iinc (n : Nat) (a : Int) (len pc : Nat) (lv : zc_L) (st : List Value) : zc_R := match len, zc_nth lv n, zc_icv a with
  | 3, some (some (.int x)), some v => match zc_st1 lv n (.int (x + v)) with
    | some lv2 => some (pc + 3, lv2, st)
    | none => none
  | _, _, _ => none
theorem zc_iinc_s (n : Nat) (a : Int) (hx : p.tables.exec = Jvm.exec) (hb : c.code = cc) (hl : zc_ok ad nL lv ls) (hd : decode cc pc = .ok (.iinc n a, len)) (hn : zc_iinc n a len pc lv st = some (pc', lv', st')) (k : ∀ ls' : Array Slot, zc_ok ad nL lv' ls' → W p l e R s m args below meth c H locs cells slots Q (F0 m pc' ls' (st'.map (zc_cv ad)))) : W p l e R s m args below meth c H locs cells slots Q (F0 m pc ls (st.map (zc_cv ad))) := by
  unfold zc_iinc at hn
  split at hn
  · rename_i x v e e0
    split at hn
    · rename_i lv2 e2
      cases hn
      obtain ⟨j, hj⟩ := zc_as_nth (ad := ad) e
      exact lv_iinc hx hb hd hl.has hj (by rw [zc_icv_of e0]) (by have := (zc_st1_of e2).2.1; rw [hl.1] at this; exact this) rfl (fun ls' hls => k ls' (hl.st1 e2 rfl hls))
    · cases hn
  · cases hn
def zc_iadd  (len pc : Nat) (lv : zc_L) (st : List Value) : zc_R := match len, st with
  | 1, .int y :: .int x :: r => some (pc + 1, lv, .int (x + y) :: r)
  | _, _ => none
theorem zc_iadd_s  (hx : p.tables.exec = Jvm.exec) (hb : c.code = cc) (hl : zc_ok ad nL lv ls) (hd : decode cc pc = .ok (.iadd, len)) (hn : zc_iadd  len pc lv st = some (pc', lv', st')) (k : ∀ ls' : Array Slot, zc_ok ad nL lv' ls' → W p l e R s m args below meth c H locs cells slots Q (F0 m pc' ls' (st'.map (zc_cv ad)))) : W p l e R s m args below meth c H locs cells slots Q (F0 m pc ls (st.map (zc_cv ad))) := by
  unfold zc_iadd at hn
  split at hn
  · cases hn; exact lv_iadd hx hb hd (k ls hl)
  · cases hn
def zc_isub  (len pc : Nat) (lv : zc_L) (st : List Value) : zc_R := match len, st with
  | 1, .int y :: .int x :: r => some (pc + 1, lv, .int (x - y) :: r)
  | _, _ => none
theorem zc_isub_s  (hx : p.tables.exec = Jvm.exec) (hb : c.code = cc) (hl : zc_ok ad nL lv ls) (hd : decode cc pc = .ok (.isub, len)) (hn : zc_isub  len pc lv st = some (pc', lv', st')) (k : ∀ ls' : Array Slot, zc_ok ad nL lv' ls' → W p l e R s m args below meth c H locs cells slots Q (F0 m pc' ls' (st'.map (zc_cv ad)))) : W p l e R s m args below meth c H locs cells slots Q (F0 m pc ls (st.map (zc_cv ad))) := by
  unfold zc_isub at hn
  split at hn
  · cases hn; exact lv_isub hx hb hd (k ls hl)
  · cases hn
def zc_imul  (len pc : Nat) (lv : zc_L) (st : List Value) : zc_R := match len, st with
  | 1, .int y :: .int x :: r => some (pc + 1, lv, .int (x * y) :: r)
  | _, _ => none
theorem zc_imul_s  (hx : p.tables.exec = Jvm.exec) (hb : c.code = cc) (hl : zc_ok ad nL lv ls) (hd : decode cc pc = .ok (.imul, len)) (hn : zc_imul  len pc lv st = some (pc', lv', st')) (k : ∀ ls' : Array Slot, zc_ok ad nL lv' ls' → W p l e R s m args below meth c H locs cells slots Q (F0 m pc' ls' (st'.map (zc_cv ad)))) : W p l e R s m args below meth c H locs cells slots Q (F0 m pc ls (st.map (zc_cv ad))) := by
  unfold zc_imul at hn
  split at hn
  · cases hn; exact lv_imul hx hb hd (k ls hl)
  · cases hn
def zc_iand  (len pc : Nat) (lv : zc_L) (st : List Value) : zc_R := match len, st with
  | 1, .int y :: .int x :: r => some (pc + 1, lv, .int (x &&& y) :: r)
  | _, _ => none
theorem zc_iand_s  (hx : p.tables.exec = Jvm.exec) (hb : c.code = cc) (hl : zc_ok ad nL lv ls) (hd : decode cc pc = .ok (.iand, len)) (hn : zc_iand  len pc lv st = some (pc', lv', st')) (k : ∀ ls' : Array Slot, zc_ok ad nL lv' ls' → W p l e R s m args below meth c H locs cells slots Q (F0 m pc' ls' (st'.map (zc_cv ad)))) : W p l e R s m args below meth c H locs cells slots Q (F0 m pc ls (st.map (zc_cv ad))) := by
  unfold zc_iand at hn
  split at hn
  · cases hn; exact lv_iand hx hb hd (k ls hl)
  · cases hn
def zc_ior  (len pc : Nat) (lv : zc_L) (st : List Value) : zc_R := match len, st with
  | 1, .int y :: .int x :: r => some (pc + 1, lv, .int (x ||| y) :: r)
  | _, _ => none
theorem zc_ior_s  (hx : p.tables.exec = Jvm.exec) (hb : c.code = cc) (hl : zc_ok ad nL lv ls) (hd : decode cc pc = .ok (.ior, len)) (hn : zc_ior  len pc lv st = some (pc', lv', st')) (k : ∀ ls' : Array Slot, zc_ok ad nL lv' ls' → W p l e R s m args below meth c H locs cells slots Q (F0 m pc' ls' (st'.map (zc_cv ad)))) : W p l e R s m args below meth c H locs cells slots Q (F0 m pc ls (st.map (zc_cv ad))) := by
  unfold zc_ior at hn
  split at hn
  · cases hn; exact lv_ior hx hb hd (k ls hl)
  · cases hn
def zc_ixor  (len pc : Nat) (lv : zc_L) (st : List Value) : zc_R := match len, st with
  | 1, .int y :: .int x :: r => some (pc + 1, lv, .int (x ^^^ y) :: r)
  | _, _ => none
theorem zc_ixor_s  (hx : p.tables.exec = Jvm.exec) (hb : c.code = cc) (hl : zc_ok ad nL lv ls) (hd : decode cc pc = .ok (.ixor, len)) (hn : zc_ixor  len pc lv st = some (pc', lv', st')) (k : ∀ ls' : Array Slot, zc_ok ad nL lv' ls' → W p l e R s m args below meth c H locs cells slots Q (F0 m pc' ls' (st'.map (zc_cv ad)))) : W p l e R s m args below meth c H locs cells slots Q (F0 m pc ls (st.map (zc_cv ad))) := by
  unfold zc_ixor at hn
  split at hn
  · cases hn; exact lv_ixor hx hb hd (k ls hl)
  · cases hn
def zc_ishl  (len pc : Nat) (lv : zc_L) (st : List Value) : zc_R := match len, st with
  | 1, .int y :: .int x :: r => some (pc + 1, lv, .int (x <<< (y &&& 31)) :: r)
  | _, _ => none
theorem zc_ishl_s  (hx : p.tables.exec = Jvm.exec) (hb : c.code = cc) (hl : zc_ok ad nL lv ls) (hd : decode cc pc = .ok (.ishl, len)) (hn : zc_ishl  len pc lv st = some (pc', lv', st')) (k : ∀ ls' : Array Slot, zc_ok ad nL lv' ls' → W p l e R s m args below meth c H locs cells slots Q (F0 m pc' ls' (st'.map (zc_cv ad)))) : W p l e R s m args below meth c H locs cells slots Q (F0 m pc ls (st.map (zc_cv ad))) := by
  unfold zc_ishl at hn
  split at hn
  · cases hn; exact lv_ishl hx hb hd (k ls hl)
  · cases hn
def zc_ishr  (len pc : Nat) (lv : zc_L) (st : List Value) : zc_R := match len, st with
  | 1, .int y :: .int x :: r => some (pc + 1, lv, .int (x >>> (y &&& 31)) :: r)
  | _, _ => none
theorem zc_ishr_s  (hx : p.tables.exec = Jvm.exec) (hb : c.code = cc) (hl : zc_ok ad nL lv ls) (hd : decode cc pc = .ok (.ishr, len)) (hn : zc_ishr  len pc lv st = some (pc', lv', st')) (k : ∀ ls' : Array Slot, zc_ok ad nL lv' ls' → W p l e R s m args below meth c H locs cells slots Q (F0 m pc' ls' (st'.map (zc_cv ad)))) : W p l e R s m args below meth c H locs cells slots Q (F0 m pc ls (st.map (zc_cv ad))) := by
  unfold zc_ishr at hn
  split at hn
  · cases hn; exact lv_ishr hx hb hd (k ls hl)
  · cases hn
def zc_iushr  (len pc : Nat) (lv : zc_L) (st : List Value) : zc_R := match len, st with
  | 1, .int y :: .int x :: r => some (pc + 1, lv, .int ((x.toUInt32 >>> (y.toUInt32 &&& Int32.toUInt32 31)).toInt32) :: r)
  | _, _ => none
theorem zc_iushr_s  (hx : p.tables.exec = Jvm.exec) (hb : c.code = cc) (hl : zc_ok ad nL lv ls) (hd : decode cc pc = .ok (.iushr, len)) (hn : zc_iushr  len pc lv st = some (pc', lv', st')) (k : ∀ ls' : Array Slot, zc_ok ad nL lv' ls' → W p l e R s m args below meth c H locs cells slots Q (F0 m pc' ls' (st'.map (zc_cv ad)))) : W p l e R s m args below meth c H locs cells slots Q (F0 m pc ls (st.map (zc_cv ad))) := by
  unfold zc_iushr at hn
  split at hn
  · cases hn; exact lv_iushr hx hb hd rfl (k ls hl)
  · cases hn
def zc_lor  (len pc : Nat) (lv : zc_L) (st : List Value) : zc_R := match len, st with
  | 1, .long y :: .long x :: r => some (pc + 1, lv, .long (x ||| y) :: r)
  | _, _ => none
theorem zc_lor_s  (hx : p.tables.exec = Jvm.exec) (hb : c.code = cc) (hl : zc_ok ad nL lv ls) (hd : decode cc pc = .ok (.lor, len)) (hn : zc_lor  len pc lv st = some (pc', lv', st')) (k : ∀ ls' : Array Slot, zc_ok ad nL lv' ls' → W p l e R s m args below meth c H locs cells slots Q (F0 m pc' ls' (st'.map (zc_cv ad)))) : W p l e R s m args below meth c H locs cells slots Q (F0 m pc ls (st.map (zc_cv ad))) := by
  unfold zc_lor at hn
  split at hn
  · cases hn; exact lv_lor hx hb hd (k ls hl)
  · cases hn
def zc_ladd  (len pc : Nat) (lv : zc_L) (st : List Value) : zc_R := match len, st with
  | 1, .long y :: .long x :: r => some (pc + 1, lv, .long (x + y) :: r)
  | _, _ => none
theorem zc_ladd_s  (hx : p.tables.exec = Jvm.exec) (hb : c.code = cc) (hl : zc_ok ad nL lv ls) (hd : decode cc pc = .ok (.ladd, len)) (hn : zc_ladd  len pc lv st = some (pc', lv', st')) (k : ∀ ls' : Array Slot, zc_ok ad nL lv' ls' → W p l e R s m args below meth c H locs cells slots Q (F0 m pc' ls' (st'.map (zc_cv ad)))) : W p l e R s m args below meth c H locs cells slots Q (F0 m pc ls (st.map (zc_cv ad))) := by
  unfold zc_ladd at hn
  split at hn
  · cases hn; exact lv_ladd hx hb hd (k ls hl)
  · cases hn
def zc_lsub  (len pc : Nat) (lv : zc_L) (st : List Value) : zc_R := match len, st with
  | 1, .long y :: .long x :: r => some (pc + 1, lv, .long (x - y) :: r)
  | _, _ => none
theorem zc_lsub_s  (hx : p.tables.exec = Jvm.exec) (hb : c.code = cc) (hl : zc_ok ad nL lv ls) (hd : decode cc pc = .ok (.lsub, len)) (hn : zc_lsub  len pc lv st = some (pc', lv', st')) (k : ∀ ls' : Array Slot, zc_ok ad nL lv' ls' → W p l e R s m args below meth c H locs cells slots Q (F0 m pc' ls' (st'.map (zc_cv ad)))) : W p l e R s m args below meth c H locs cells slots Q (F0 m pc ls (st.map (zc_cv ad))) := by
  unfold zc_lsub at hn
  split at hn
  · cases hn; exact lv_lsub hx hb hd (k ls hl)
  · cases hn
def zc_land  (len pc : Nat) (lv : zc_L) (st : List Value) : zc_R := match len, st with
  | 1, .long y :: .long x :: r => some (pc + 1, lv, .long (x &&& y) :: r)
  | _, _ => none
theorem zc_land_s  (hx : p.tables.exec = Jvm.exec) (hb : c.code = cc) (hl : zc_ok ad nL lv ls) (hd : decode cc pc = .ok (.land, len)) (hn : zc_land  len pc lv st = some (pc', lv', st')) (k : ∀ ls' : Array Slot, zc_ok ad nL lv' ls' → W p l e R s m args below meth c H locs cells slots Q (F0 m pc' ls' (st'.map (zc_cv ad)))) : W p l e R s m args below meth c H locs cells slots Q (F0 m pc ls (st.map (zc_cv ad))) := by
  unfold zc_land at hn
  split at hn
  · cases hn; exact lv_land hx hb hd (k ls hl)
  · cases hn
def zc_ineg  (len pc : Nat) (lv : zc_L) (st : List Value) : zc_R := match len, st with
  | 1, .int x :: r => some (pc + 1, lv, .int (-x) :: r)
  | _, _ => none
theorem zc_ineg_s  (hx : p.tables.exec = Jvm.exec) (hb : c.code = cc) (hl : zc_ok ad nL lv ls) (hd : decode cc pc = .ok (.ineg, len)) (hn : zc_ineg  len pc lv st = some (pc', lv', st')) (k : ∀ ls' : Array Slot, zc_ok ad nL lv' ls' → W p l e R s m args below meth c H locs cells slots Q (F0 m pc' ls' (st'.map (zc_cv ad)))) : W p l e R s m args below meth c H locs cells slots Q (F0 m pc ls (st.map (zc_cv ad))) := by
  unfold zc_ineg at hn
  split at hn
  · cases hn; exact lv_ineg hx hb hd (k ls hl)
  · cases hn
def zc_lshl  (len pc : Nat) (lv : zc_L) (st : List Value) : zc_R := match len, st with
  | 1, .int y :: .long x :: r => some (pc + 1, lv, .long (x <<< (y.toInt64 &&& 63)) :: r)
  | _, _ => none
theorem zc_lshl_s  (hx : p.tables.exec = Jvm.exec) (hb : c.code = cc) (hl : zc_ok ad nL lv ls) (hd : decode cc pc = .ok (.lshl, len)) (hn : zc_lshl  len pc lv st = some (pc', lv', st')) (k : ∀ ls' : Array Slot, zc_ok ad nL lv' ls' → W p l e R s m args below meth c H locs cells slots Q (F0 m pc' ls' (st'.map (zc_cv ad)))) : W p l e R s m args below meth c H locs cells slots Q (F0 m pc ls (st.map (zc_cv ad))) := by
  unfold zc_lshl at hn
  split at hn
  · cases hn; exact lv_lshl hx hb hd rfl (k ls hl)
  · cases hn
def zc_i2l  (len pc : Nat) (lv : zc_L) (st : List Value) : zc_R := match len, st with
  | 1, .int x :: r => some (pc + 1, lv, .long (x.toInt64) :: r)
  | _, _ => none
theorem zc_i2l_s  (hx : p.tables.exec = Jvm.exec) (hb : c.code = cc) (hl : zc_ok ad nL lv ls) (hd : decode cc pc = .ok (.i2l, len)) (hn : zc_i2l  len pc lv st = some (pc', lv', st')) (k : ∀ ls' : Array Slot, zc_ok ad nL lv' ls' → W p l e R s m args below meth c H locs cells slots Q (F0 m pc' ls' (st'.map (zc_cv ad)))) : W p l e R s m args below meth c H locs cells slots Q (F0 m pc ls (st.map (zc_cv ad))) := by
  unfold zc_i2l at hn
  split at hn
  · cases hn; exact lv_i2l hx hb hd rfl (k ls hl)
  · cases hn
def zc_i2b  (len pc : Nat) (lv : zc_L) (st : List Value) : zc_R := match len, st with
  | 1, .int x :: r => some (pc + 1, lv, .int (x.toInt8.toInt32) :: r)
  | _, _ => none
theorem zc_i2b_s  (hx : p.tables.exec = Jvm.exec) (hb : c.code = cc) (hl : zc_ok ad nL lv ls) (hd : decode cc pc = .ok (.i2b, len)) (hn : zc_i2b  len pc lv st = some (pc', lv', st')) (k : ∀ ls' : Array Slot, zc_ok ad nL lv' ls' → W p l e R s m args below meth c H locs cells slots Q (F0 m pc' ls' (st'.map (zc_cv ad)))) : W p l e R s m args below meth c H locs cells slots Q (F0 m pc ls (st.map (zc_cv ad))) := by
  unfold zc_i2b at hn
  split at hn
  · cases hn; exact lv_i2b hx hb hd rfl (k ls hl)
  · cases hn
def zc_i2c  (len pc : Nat) (lv : zc_L) (st : List Value) : zc_R := match len, st with
  | 1, .int x :: r => some (pc + 1, lv, .int ((x.toUInt32 % 65536).toInt32) :: r)
  | _, _ => none
theorem zc_i2c_s  (hx : p.tables.exec = Jvm.exec) (hb : c.code = cc) (hl : zc_ok ad nL lv ls) (hd : decode cc pc = .ok (.i2c, len)) (hn : zc_i2c  len pc lv st = some (pc', lv', st')) (k : ∀ ls' : Array Slot, zc_ok ad nL lv' ls' → W p l e R s m args below meth c H locs cells slots Q (F0 m pc' ls' (st'.map (zc_cv ad)))) : W p l e R s m args below meth c H locs cells slots Q (F0 m pc ls (st.map (zc_cv ad))) := by
  unfold zc_i2c at hn
  split at hn
  · cases hn; exact lv_i2c hx hb hd rfl (k ls hl)
  · cases hn
def zc_lcmp  (len pc : Nat) (lv : zc_L) (st : List Value) : zc_R := match len, st with
  | 1, .long y :: .long x :: r => some (pc + 1, lv, .int (lg_cmp x y) :: r)
  | _, _ => none
theorem zc_lcmp_s  (hx : p.tables.exec = Jvm.exec) (hb : c.code = cc) (hl : zc_ok ad nL lv ls) (hd : decode cc pc = .ok (.lcmp, len)) (hn : zc_lcmp  len pc lv st = some (pc', lv', st')) (k : ∀ ls' : Array Slot, zc_ok ad nL lv' ls' → W p l e R s m args below meth c H locs cells slots Q (F0 m pc' ls' (st'.map (zc_cv ad)))) : W p l e R s m args below meth c H locs cells slots Q (F0 m pc ls (st.map (zc_cv ad))) := by
  unfold zc_lcmp at hn
  split at hn
  · cases hn; exact W.lcmp hx hb hd (k ls hl)
  · cases hn
def zc_dup  (len pc : Nat) (lv : zc_L) (st : List Value) : zc_R := match len, st with
  | 1, .int x :: r => some (pc + 1, lv, .int x :: .int x :: r)
  | 1, .ref x :: r => some (pc + 1, lv, .ref x :: .ref x :: r)
  | _, _ => none
theorem zc_dup_s  (hx : p.tables.exec = Jvm.exec) (hb : c.code = cc) (hl : zc_ok ad nL lv ls) (hd : decode cc pc = .ok (.dup, len)) (hn : zc_dup  len pc lv st = some (pc', lv', st')) (k : ∀ ls' : Array Slot, zc_ok ad nL lv' ls' → W p l e R s m args below meth c H locs cells slots Q (F0 m pc' ls' (st'.map (zc_cv ad)))) : W p l e R s m args below meth c H locs cells slots Q (F0 m pc ls (st.map (zc_cv ad))) := by
  unfold zc_dup at hn
  split at hn
  · cases hn; exact lv_dup hx hb hd rfl (k ls hl)
  · cases hn; exact lv_dup hx hb hd rfl (k ls hl)
  · cases hn
def zc_dup_x1  (len pc : Nat) (lv : zc_L) (st : List Value) : zc_R := match len, st with
  | 1, .int x :: .ref y :: r => some (pc + 1, lv, .int x :: .ref y :: .int x :: r)
  | 1, .ref x :: .ref y :: r => some (pc + 1, lv, .ref x :: .ref y :: .ref x :: r)
  | _, _ => none
theorem zc_dup_x1_s  (hx : p.tables.exec = Jvm.exec) (hb : c.code = cc) (hl : zc_ok ad nL lv ls) (hd : decode cc pc = .ok (.dup_x1, len)) (hn : zc_dup_x1  len pc lv st = some (pc', lv', st')) (k : ∀ ls' : Array Slot, zc_ok ad nL lv' ls' → W p l e R s m args below meth c H locs cells slots Q (F0 m pc' ls' (st'.map (zc_cv ad)))) : W p l e R s m args below meth c H locs cells slots Q (F0 m pc ls (st.map (zc_cv ad))) := by
  unfold zc_dup_x1 at hn
  split at hn
  · cases hn; exact lv_dup_x1 hx hb hd rfl rfl (k ls hl)
  · cases hn; exact lv_dup_x1 hx hb hd rfl rfl (k ls hl)
  · cases hn
def zc_dup2  (len pc : Nat) (lv : zc_L) (st : List Value) : zc_R := match len, st with
  | 1, .int x :: .ref y :: r => some (pc + 1, lv, .int x :: .ref y :: .int x :: .ref y :: r)
  | _, _ => none
theorem zc_dup2_s  (hx : p.tables.exec = Jvm.exec) (hb : c.code = cc) (hl : zc_ok ad nL lv ls) (hd : decode cc pc = .ok (.dup2, len)) (hn : zc_dup2  len pc lv st = some (pc', lv', st')) (k : ∀ ls' : Array Slot, zc_ok ad nL lv' ls' → W p l e R s m args below meth c H locs cells slots Q (F0 m pc' ls' (st'.map (zc_cv ad)))) : W p l e R s m args below meth c H locs cells slots Q (F0 m pc ls (st.map (zc_cv ad))) := by
  unfold zc_dup2 at hn
  split at hn
  · cases hn; exact lv_dup2_11 hx hb hd rfl rfl (k ls hl)
  · cases hn
def zc_pop  (len pc : Nat) (lv : zc_L) (st : List Value) : zc_R := match len, st with
  | 1, .int x :: r => some (pc + 1, lv, r)
  | 1, .ref x :: r => some (pc + 1, lv, r)
  | _, _ => none
theorem zc_pop_s  (hx : p.tables.exec = Jvm.exec) (hb : c.code = cc) (hl : zc_ok ad nL lv ls) (hd : decode cc pc = .ok (.pop, len)) (hn : zc_pop  len pc lv st = some (pc', lv', st')) (k : ∀ ls' : Array Slot, zc_ok ad nL lv' ls' → W p l e R s m args below meth c H locs cells slots Q (F0 m pc' ls' (st'.map (zc_cv ad)))) : W p l e R s m args below meth c H locs cells slots Q (F0 m pc ls (st.map (zc_cv ad))) := by
  unfold zc_pop at hn
  split at hn
  · cases hn; exact lv_pop hx hb hd rfl (k ls hl)
  · cases hn; exact lv_pop hx hb hd rfl (k ls hl)
  · cases hn
def zc_goto (off : Int) (len pc : Nat) (lv : zc_L) (st : List Value) : zc_R := match len, zc_tgt pc off with
  | 3, some t => some (t, lv, st)
  | _, _ => none
theorem zc_goto_s (off : Int) (hx : p.tables.exec = Jvm.exec) (hb : c.code = cc) (hl : zc_ok ad nL lv ls) (hd : decode cc pc = .ok (.goto off, len)) (hn : zc_goto off len pc lv st = some (pc', lv', st')) (k : ∀ ls' : Array Slot, zc_ok ad nL lv' ls' → W p l e R s m args below meth c H locs cells slots Q (F0 m pc' ls' (st'.map (zc_cv ad)))) : W p l e R s m args below meth c H locs cells slots Q (F0 m pc ls (st.map (zc_cv ad))) := by
  unfold zc_goto at hn
  split at hn
  · rename_i t e
    cases hn
    exact lv_goto hx hb hd (zc_tgt_of e) (k ls hl)
  · cases hn
/-- a table of a switch: where x goes -/
def zc_tsel (x : Int32) : Int → List Int → Int → Int
  | _, [], d => d
  | lo, o :: t, d => if x = zc_lit lo then o else zc_tsel x (lo + 1) t d
def zc_next (i : Instr) (len pc : Nat) (lv : zc_L) (st : List Value) : zc_R := match i with
  | .iconst n => zc_iconst n len pc lv st
  | .bipush n => zc_bipush n len pc lv st
  | .sipush n => zc_sipush n len pc lv st
  | .lconst n => zc_lconst n len pc lv st
  | .aconst_null => zc_null  len pc lv st
  | .iload_n n => zc_iload_n n len pc lv st
  | .iload n => zc_iload n len pc lv st
  | .lload_n n => zc_lload_n n len pc lv st
  | .lload n => zc_lload n len pc lv st
  | .aload_n n => zc_aload_n n len pc lv st
  | .aload n => zc_aload n len pc lv st
  | .istore_n n => zc_istore_n n len pc lv st
  | .istore n => zc_istore n len pc lv st
  | .lstore_n n => zc_lstore_n n len pc lv st
  | .lstore n => zc_lstore n len pc lv st
  | .astore_n n => zc_astore_n n len pc lv st
  | .astore n => zc_astore n len pc lv st
  | .iinc n a => zc_iinc n a len pc lv st
  | .iadd => zc_iadd  len pc lv st
  | .isub => zc_isub  len pc lv st
  | .imul => zc_imul  len pc lv st
  | .iand => zc_iand  len pc lv st
  | .ior => zc_ior  len pc lv st
  | .ixor => zc_ixor  len pc lv st
  | .ishl => zc_ishl  len pc lv st
  | .ishr => zc_ishr  len pc lv st
  | .iushr => zc_iushr  len pc lv st
  | .lor => zc_lor  len pc lv st
  | .ladd => zc_ladd  len pc lv st
  | .lsub => zc_lsub  len pc lv st
  | .land => zc_land  len pc lv st
  | .ineg => zc_ineg  len pc lv st
  | .lshl => zc_lshl  len pc lv st
  | .i2l => zc_i2l  len pc lv st
  | .i2b => zc_i2b  len pc lv st
  | .i2c => zc_i2c  len pc lv st
  | .lcmp => zc_lcmp  len pc lv st
  | .dup => zc_dup  len pc lv st
  | .dup_x1 => zc_dup_x1  len pc lv st
  | .dup2 => zc_dup2  len pc lv st
  | .pop => zc_pop  len pc lv st
  | .goto off => zc_goto off len pc lv st
  | _ => none
theorem zc_next_s {i : Instr} (hx : p.tables.exec = Jvm.exec) (hb : c.code = cc) (hl : zc_ok ad nL lv ls) (hd : decode cc pc = .ok (i, len)) (hn : zc_next i len pc lv st = some (pc', lv', st')) (k : ∀ ls' : Array Slot, zc_ok ad nL lv' ls' → W p l e R s m args below meth c H locs cells slots Q (F0 m pc' ls' (st'.map (zc_cv ad)))) : W p l e R s m args below meth c H locs cells slots Q (F0 m pc ls (st.map (zc_cv ad))) := by
  cases i with
  | iconst n => exact zc_iconst_s n hx hb hl hd hn k
  | bipush n => exact zc_bipush_s n hx hb hl hd hn k
  | sipush n => exact zc_sipush_s n hx hb hl hd hn k
  | lconst n => exact zc_lconst_s n hx hb hl hd hn k
  | aconst_null => exact zc_null_s  hx hb hl hd hn k
  | iload_n n => exact zc_iload_n_s n hx hb hl hd hn k
  | iload n => exact zc_iload_s n hx hb hl hd hn k
  | lload_n n => exact zc_lload_n_s n hx hb hl hd hn k
  | lload n => exact zc_lload_s n hx hb hl hd hn k
  | aload_n n => exact zc_aload_n_s n hx hb hl hd hn k
  | aload n => exact zc_aload_s n hx hb hl hd hn k
  | istore_n n => exact zc_istore_n_s n hx hb hl hd hn k
  | istore n => exact zc_istore_s n hx hb hl hd hn k
  | lstore_n n => exact zc_lstore_n_s n hx hb hl hd hn k
  | lstore n => exact zc_lstore_s n hx hb hl hd hn k
  | astore_n n => exact zc_astore_n_s n hx hb hl hd hn k
  | astore n => exact zc_astore_s n hx hb hl hd hn k
  | iinc n a => exact zc_iinc_s n a hx hb hl hd hn k
  | iadd => exact zc_iadd_s  hx hb hl hd hn k
  | isub => exact zc_isub_s  hx hb hl hd hn k
  | imul => exact zc_imul_s  hx hb hl hd hn k
  | iand => exact zc_iand_s  hx hb hl hd hn k
  | ior => exact zc_ior_s  hx hb hl hd hn k
  | ixor => exact zc_ixor_s  hx hb hl hd hn k
  | ishl => exact zc_ishl_s  hx hb hl hd hn k
  | ishr => exact zc_ishr_s  hx hb hl hd hn k
  | iushr => exact zc_iushr_s  hx hb hl hd hn k
  | lor => exact zc_lor_s  hx hb hl hd hn k
  | ladd => exact zc_ladd_s  hx hb hl hd hn k
  | lsub => exact zc_lsub_s  hx hb hl hd hn k
  | land => exact zc_land_s  hx hb hl hd hn k
  | ineg => exact zc_ineg_s  hx hb hl hd hn k
  | lshl => exact zc_lshl_s  hx hb hl hd hn k
  | i2l => exact zc_i2l_s  hx hb hl hd hn k
  | i2b => exact zc_i2b_s  hx hb hl hd hn k
  | i2c => exact zc_i2c_s  hx hb hl hd hn k
  | lcmp => exact zc_lcmp_s  hx hb hl hd hn k
  | dup => exact zc_dup_s  hx hb hl hd hn k
  | dup_x1 => exact zc_dup_x1_s  hx hb hl hd hn k
  | dup2 => exact zc_dup2_s  hx hb hl hd hn k
  | pop => exact zc_pop_s  hx hb hl hd hn k
  | goto off => exact zc_goto_s off hx hb hl hd hn k
  | _ => cases hn
def zc_if_eq (off : Int) (len pc : Nat) (st : List Value) : Option (Prop × Nat × List Value) := match len, st, zc_tgt pc off with
  | 3, .int x :: r, some t => some (x = 0, t, r)
  | _, _, _ => none
theorem zc_if_eq_s (off : Int) {cnd : Prop} {t : Nat} (hx : p.tables.exec = Jvm.exec) (hb : c.code = cc) (hl : zc_ok ad nL lv ls) (hd : decode cc pc = .ok (.ifCond .eq off, len)) (hn : zc_if_eq off len pc st = some (cnd, t, st')) (kt : cnd → W p l e R s m args below meth c H locs cells slots Q (F0 m t ls (st'.map (zc_cv ad)))) (kf : ¬ cnd → W p l e R s m args below meth c H locs cells slots Q (F0 m (pc + 3) ls (st'.map (zc_cv ad)))) : W p l e R s m args below meth c H locs cells slots Q (F0 m pc ls (st.map (zc_cv ad))) := by
  unfold zc_if_eq at hn
  split at hn
  · rename_i e
    cases hn
    exact lv_if_eq hx hb hd (zc_tgt_of e) kt kf
  · cases hn
def zc_if_ne (off : Int) (len pc : Nat) (st : List Value) : Option (Prop × Nat × List Value) := match len, st, zc_tgt pc off with
  | 3, .int x :: r, some t => some (¬ x = 0, t, r)
  | _, _, _ => none
theorem zc_if_ne_s (off : Int) {cnd : Prop} {t : Nat} (hx : p.tables.exec = Jvm.exec) (hb : c.code = cc) (hl : zc_ok ad nL lv ls) (hd : decode cc pc = .ok (.ifCond .ne off, len)) (hn : zc_if_ne off len pc st = some (cnd, t, st')) (kt : cnd → W p l e R s m args below meth c H locs cells slots Q (F0 m t ls (st'.map (zc_cv ad)))) (kf : ¬ cnd → W p l e R s m args below meth c H locs cells slots Q (F0 m (pc + 3) ls (st'.map (zc_cv ad)))) : W p l e R s m args below meth c H locs cells slots Q (F0 m pc ls (st.map (zc_cv ad))) := by
  unfold zc_if_ne at hn
  split at hn
  · rename_i e
    cases hn
    exact lv_if_ne hx hb hd (zc_tgt_of e) kt (fun q => kf (fun q2 => q2 q))
  · cases hn
def zc_if_lt (off : Int) (len pc : Nat) (st : List Value) : Option (Prop × Nat × List Value) := match len, st, zc_tgt pc off with
  | 3, .int x :: r, some t => some (x < 0, t, r)
  | _, _, _ => none
theorem zc_if_lt_s (off : Int) {cnd : Prop} {t : Nat} (hx : p.tables.exec = Jvm.exec) (hb : c.code = cc) (hl : zc_ok ad nL lv ls) (hd : decode cc pc = .ok (.ifCond .lt off, len)) (hn : zc_if_lt off len pc st = some (cnd, t, st')) (kt : cnd → W p l e R s m args below meth c H locs cells slots Q (F0 m t ls (st'.map (zc_cv ad)))) (kf : ¬ cnd → W p l e R s m args below meth c H locs cells slots Q (F0 m (pc + 3) ls (st'.map (zc_cv ad)))) : W p l e R s m args below meth c H locs cells slots Q (F0 m pc ls (st.map (zc_cv ad))) := by
  unfold zc_if_lt at hn
  split at hn
  · rename_i e
    cases hn
    exact lv_if_lt hx hb hd (zc_tgt_of e) kt kf
  · cases hn
def zc_if_ge (off : Int) (len pc : Nat) (st : List Value) : Option (Prop × Nat × List Value) := match len, st, zc_tgt pc off with
  | 3, .int x :: r, some t => some (0 ≤ x, t, r)
  | _, _, _ => none
theorem zc_if_ge_s (off : Int) {cnd : Prop} {t : Nat} (hx : p.tables.exec = Jvm.exec) (hb : c.code = cc) (hl : zc_ok ad nL lv ls) (hd : decode cc pc = .ok (.ifCond .ge off, len)) (hn : zc_if_ge off len pc st = some (cnd, t, st')) (kt : cnd → W p l e R s m args below meth c H locs cells slots Q (F0 m t ls (st'.map (zc_cv ad)))) (kf : ¬ cnd → W p l e R s m args below meth c H locs cells slots Q (F0 m (pc + 3) ls (st'.map (zc_cv ad)))) : W p l e R s m args below meth c H locs cells slots Q (F0 m pc ls (st.map (zc_cv ad))) := by
  unfold zc_if_ge at hn
  split at hn
  · rename_i e
    cases hn
    exact lv_if_ge hx hb hd (zc_tgt_of e) kt kf
  · cases hn
def zc_if_gt (off : Int) (len pc : Nat) (st : List Value) : Option (Prop × Nat × List Value) := match len, st, zc_tgt pc off with
  | 3, .int x :: r, some t => some (0 < x, t, r)
  | _, _, _ => none
theorem zc_if_gt_s (off : Int) {cnd : Prop} {t : Nat} (hx : p.tables.exec = Jvm.exec) (hb : c.code = cc) (hl : zc_ok ad nL lv ls) (hd : decode cc pc = .ok (.ifCond .gt off, len)) (hn : zc_if_gt off len pc st = some (cnd, t, st')) (kt : cnd → W p l e R s m args below meth c H locs cells slots Q (F0 m t ls (st'.map (zc_cv ad)))) (kf : ¬ cnd → W p l e R s m args below meth c H locs cells slots Q (F0 m (pc + 3) ls (st'.map (zc_cv ad)))) : W p l e R s m args below meth c H locs cells slots Q (F0 m pc ls (st.map (zc_cv ad))) := by
  unfold zc_if_gt at hn
  split at hn
  · rename_i e
    cases hn
    exact lv_if_gt hx hb hd (zc_tgt_of e) kt kf
  · cases hn
def zc_if_le (off : Int) (len pc : Nat) (st : List Value) : Option (Prop × Nat × List Value) := match len, st, zc_tgt pc off with
  | 3, .int x :: r, some t => some (x ≤ 0, t, r)
  | _, _, _ => none
theorem zc_if_le_s (off : Int) {cnd : Prop} {t : Nat} (hx : p.tables.exec = Jvm.exec) (hb : c.code = cc) (hl : zc_ok ad nL lv ls) (hd : decode cc pc = .ok (.ifCond .le off, len)) (hn : zc_if_le off len pc st = some (cnd, t, st')) (kt : cnd → W p l e R s m args below meth c H locs cells slots Q (F0 m t ls (st'.map (zc_cv ad)))) (kf : ¬ cnd → W p l e R s m args below meth c H locs cells slots Q (F0 m (pc + 3) ls (st'.map (zc_cv ad)))) : W p l e R s m args below meth c H locs cells slots Q (F0 m pc ls (st.map (zc_cv ad))) := by
  unfold zc_if_le at hn
  split at hn
  · rename_i e
    cases hn
    exact lv_if_le hx hb hd (zc_tgt_of e) kt kf
  · cases hn
def zc_ic_eq (off : Int) (len pc : Nat) (st : List Value) : Option (Prop × Nat × List Value) := match len, st, zc_tgt pc off with
  | 3, .int y :: .int x :: r, some t => some (x = y, t, r)
  | _, _, _ => none
theorem zc_ic_eq_s (off : Int) {cnd : Prop} {t : Nat} (hx : p.tables.exec = Jvm.exec) (hb : c.code = cc) (hl : zc_ok ad nL lv ls) (hd : decode cc pc = .ok (.if_icmp .eq off, len)) (hn : zc_ic_eq off len pc st = some (cnd, t, st')) (kt : cnd → W p l e R s m args below meth c H locs cells slots Q (F0 m t ls (st'.map (zc_cv ad)))) (kf : ¬ cnd → W p l e R s m args below meth c H locs cells slots Q (F0 m (pc + 3) ls (st'.map (zc_cv ad)))) : W p l e R s m args below meth c H locs cells slots Q (F0 m pc ls (st.map (zc_cv ad))) := by
  unfold zc_ic_eq at hn
  split at hn
  · rename_i e
    cases hn
    exact lv_icmp_eq hx hb hd (zc_tgt_of e) kt kf
  · cases hn
def zc_ic_ne (off : Int) (len pc : Nat) (st : List Value) : Option (Prop × Nat × List Value) := match len, st, zc_tgt pc off with
  | 3, .int y :: .int x :: r, some t => some (¬ x = y, t, r)
  | _, _, _ => none
theorem zc_ic_ne_s (off : Int) {cnd : Prop} {t : Nat} (hx : p.tables.exec = Jvm.exec) (hb : c.code = cc) (hl : zc_ok ad nL lv ls) (hd : decode cc pc = .ok (.if_icmp .ne off, len)) (hn : zc_ic_ne off len pc st = some (cnd, t, st')) (kt : cnd → W p l e R s m args below meth c H locs cells slots Q (F0 m t ls (st'.map (zc_cv ad)))) (kf : ¬ cnd → W p l e R s m args below meth c H locs cells slots Q (F0 m (pc + 3) ls (st'.map (zc_cv ad)))) : W p l e R s m args below meth c H locs cells slots Q (F0 m pc ls (st.map (zc_cv ad))) := by
  unfold zc_ic_ne at hn
  split at hn
  · rename_i e
    cases hn
    exact lv_icmp_ne hx hb hd (zc_tgt_of e) kt (fun q => kf (fun q2 => q2 q))
  · cases hn
def zc_ic_lt (off : Int) (len pc : Nat) (st : List Value) : Option (Prop × Nat × List Value) := match len, st, zc_tgt pc off with
  | 3, .int y :: .int x :: r, some t => some (x < y, t, r)
  | _, _, _ => none
theorem zc_ic_lt_s (off : Int) {cnd : Prop} {t : Nat} (hx : p.tables.exec = Jvm.exec) (hb : c.code = cc) (hl : zc_ok ad nL lv ls) (hd : decode cc pc = .ok (.if_icmp .lt off, len)) (hn : zc_ic_lt off len pc st = some (cnd, t, st')) (kt : cnd → W p l e R s m args below meth c H locs cells slots Q (F0 m t ls (st'.map (zc_cv ad)))) (kf : ¬ cnd → W p l e R s m args below meth c H locs cells slots Q (F0 m (pc + 3) ls (st'.map (zc_cv ad)))) : W p l e R s m args below meth c H locs cells slots Q (F0 m pc ls (st.map (zc_cv ad))) := by
  unfold zc_ic_lt at hn
  split at hn
  · rename_i e
    cases hn
    exact lv_icmp_lt hx hb hd (zc_tgt_of e) kt kf
  · cases hn
def zc_ic_ge (off : Int) (len pc : Nat) (st : List Value) : Option (Prop × Nat × List Value) := match len, st, zc_tgt pc off with
  | 3, .int y :: .int x :: r, some t => some (y ≤ x, t, r)
  | _, _, _ => none
theorem zc_ic_ge_s (off : Int) {cnd : Prop} {t : Nat} (hx : p.tables.exec = Jvm.exec) (hb : c.code = cc) (hl : zc_ok ad nL lv ls) (hd : decode cc pc = .ok (.if_icmp .ge off, len)) (hn : zc_ic_ge off len pc st = some (cnd, t, st')) (kt : cnd → W p l e R s m args below meth c H locs cells slots Q (F0 m t ls (st'.map (zc_cv ad)))) (kf : ¬ cnd → W p l e R s m args below meth c H locs cells slots Q (F0 m (pc + 3) ls (st'.map (zc_cv ad)))) : W p l e R s m args below meth c H locs cells slots Q (F0 m pc ls (st.map (zc_cv ad))) := by
  unfold zc_ic_ge at hn
  split at hn
  · rename_i e
    cases hn
    exact lv_icmp_ge hx hb hd (zc_tgt_of e) kt kf
  · cases hn
def zc_ic_gt (off : Int) (len pc : Nat) (st : List Value) : Option (Prop × Nat × List Value) := match len, st, zc_tgt pc off with
  | 3, .int y :: .int x :: r, some t => some (y < x, t, r)
  | _, _, _ => none
theorem zc_ic_gt_s (off : Int) {cnd : Prop} {t : Nat} (hx : p.tables.exec = Jvm.exec) (hb : c.code = cc) (hl : zc_ok ad nL lv ls) (hd : decode cc pc = .ok (.if_icmp .gt off, len)) (hn : zc_ic_gt off len pc st = some (cnd, t, st')) (kt : cnd → W p l e R s m args below meth c H locs cells slots Q (F0 m t ls (st'.map (zc_cv ad)))) (kf : ¬ cnd → W p l e R s m args below meth c H locs cells slots Q (F0 m (pc + 3) ls (st'.map (zc_cv ad)))) : W p l e R s m args below meth c H locs cells slots Q (F0 m pc ls (st.map (zc_cv ad))) := by
  unfold zc_ic_gt at hn
  split at hn
  · rename_i e
    cases hn
    exact lv_icmp_gt hx hb hd (zc_tgt_of e) kt kf
  · cases hn
def zc_ic_le (off : Int) (len pc : Nat) (st : List Value) : Option (Prop × Nat × List Value) := match len, st, zc_tgt pc off with
  | 3, .int y :: .int x :: r, some t => some (x ≤ y, t, r)
  | _, _, _ => none
theorem zc_ic_le_s (off : Int) {cnd : Prop} {t : Nat} (hx : p.tables.exec = Jvm.exec) (hb : c.code = cc) (hl : zc_ok ad nL lv ls) (hd : decode cc pc = .ok (.if_icmp .le off, len)) (hn : zc_ic_le off len pc st = some (cnd, t, st')) (kt : cnd → W p l e R s m args below meth c H locs cells slots Q (F0 m t ls (st'.map (zc_cv ad)))) (kf : ¬ cnd → W p l e R s m args below meth c H locs cells slots Q (F0 m (pc + 3) ls (st'.map (zc_cv ad)))) : W p l e R s m args below meth c H locs cells slots Q (F0 m pc ls (st.map (zc_cv ad))) := by
  unfold zc_ic_le at hn
  split at hn
  · rename_i e
    cases hn
    exact lv_icmp_le hx hb hd (zc_tgt_of e) kt kf
  · cases hn
def zc_br (i : Instr) (len pc : Nat) (st : List Value) : Option (Prop × Nat × List Value) := match i with
  | .ifCond .eq off => zc_if_eq off len pc st
  | .ifCond .ne off => zc_if_ne off len pc st
  | .ifCond .lt off => zc_if_lt off len pc st
  | .ifCond .ge off => zc_if_ge off len pc st
  | .ifCond .gt off => zc_if_gt off len pc st
  | .ifCond .le off => zc_if_le off len pc st
  | .if_icmp .eq off => zc_ic_eq off len pc st
  | .if_icmp .ne off => zc_ic_ne off len pc st
  | .if_icmp .lt off => zc_ic_lt off len pc st
  | .if_icmp .ge off => zc_ic_ge off len pc st
  | .if_icmp .gt off => zc_ic_gt off len pc st
  | .if_icmp .le off => zc_ic_le off len pc st
  | _ => none
theorem zc_br_s {i : Instr} {cnd : Prop} {t : Nat} (hx : p.tables.exec = Jvm.exec) (hb : c.code = cc) (hl : zc_ok ad nL lv ls) (hd : decode cc pc = .ok (i, len)) (hn : zc_br i len pc st = some (cnd, t, st')) (kt : cnd → W p l e R s m args below meth c H locs cells slots Q (F0 m t ls (st'.map (zc_cv ad)))) (kf : ¬ cnd → W p l e R s m args below meth c H locs cells slots Q (F0 m (pc + 3) ls (st'.map (zc_cv ad)))) : W p l e R s m args below meth c H locs cells slots Q (F0 m pc ls (st.map (zc_cv ad))) := by
  cases i with
  | ifCond cn off => cases cn with
    | eq => exact zc_if_eq_s off hx hb hl hd hn kt kf
    | ne => exact zc_if_ne_s off hx hb hl hd hn kt kf
    | lt => exact zc_if_lt_s off hx hb hl hd hn kt kf
    | ge => exact zc_if_ge_s off hx hb hl hd hn kt kf
    | gt => exact zc_if_gt_s off hx hb hl hd hn kt kf
    | le => exact zc_if_le_s off hx hb hl hd hn kt kf
  | if_icmp cn off => cases cn with
    | eq => exact zc_ic_eq_s off hx hb hl hd hn kt kf
    | ne => exact zc_ic_ne_s off hx hb hl hd hn kt kf
    | lt => exact zc_ic_lt_s off hx hb hl hd hn kt kf
    | ge => exact zc_ic_ge_s off hx hb hl hd hn kt kf
    | gt => exact zc_ic_gt_s off hx hb hl hd hn kt kf
    | le => exact zc_ic_le_s off hx hb hl hd hn kt kf
  | _ => cases hn
def zc_gd (i : Instr) (len : Nat) (st : List Value) : Option (Prop × List Value) := match i, len, st with
  | .idiv, 1, .int y :: .int x :: r => some (¬ y = 0, .int (x / y) :: r)
  | .irem, 1, .int y :: .int x :: r => some (¬ y = 0, .int (x - x / y * y) :: r)
  | _, _, _ => none
theorem zc_gd_s {i : Instr} {g : Prop} (hx : p.tables.exec = Jvm.exec) (hb : c.code = cc) (hl : zc_ok ad nL lv ls) (hd : decode cc pc = .ok (i, len)) (hn : zc_gd i len st = some (g, st')) (hg : g) (k : W p l e R s m args below meth c H locs cells slots Q (F0 m (pc + 1) ls (st'.map (zc_cv ad)))) : W p l e R s m args below meth c H locs cells slots Q (F0 m pc ls (st.map (zc_cv ad))) := by
  unfold zc_gd at hn
  split at hn
  · cases hn; exact lv_idiv hx hb hd hg k
  · cases hn; exact lv_irem hx hb hd hg k
  · cases hn
def zc_sw (i : Instr) (pc : Nat) (st : List Value) : Option (Int × List Value) := match i, st with
  | .tableswitch d lo hi offs, .int x :: r => cond (decide (-1000 ≤ lo ∧ hi ≤ 1000 ∧ lo + offs.toList.length = hi + 1)) (some (zc_tsel x lo offs.toList d, r)) none
  | _, _ => none
theorem zc_tsel_out {x : Int32} : ∀ (os : List Int) (lo d : Int), -1000 ≤ lo → lo + os.length ≤ 1001 → (x.toInt < lo ∨ lo + os.length ≤ x.toInt) → zc_tsel x lo os d = d := by
  intro os
  induction os with
  | nil => intro lo d _ _ _; rfl
  | cons o t ih =>
    intro lo d h1 h2 h3
    have hl : (zc_lit lo).toInt = lo := by
      rw [← zc_lit_eq, Int32.toInt_ofInt]
      simp only [List.length_cons] at h2
      simp [Int.bmod]
      omega
    simp only [List.length_cons] at h2 h3
    have hne : ¬ x = zc_lit lo := by
      intro q
      rw [q, hl] at h3
      omega
    rw [zc_tsel, if_neg hne]
    exact ih (lo + 1) d (by omega) (by omega) (by omega)
theorem zc_tsel_in {x : Int32} : ∀ (os : List Int) (lo d : Int), -1000 ≤ lo → lo + os.length ≤ 1001 → ¬ x.toInt < lo → ¬ lo + os.length ≤ x.toInt → os[(x.toInt - lo).toNat]? = some (zc_tsel x lo os d) := by
  intro os
  induction os with
  | nil => intro lo d _ _ h1 h2; simp at h2; omega
  | cons o t ih =>
    intro lo d h1 h2 h3 h4
    have hl : (zc_lit lo).toInt = lo := by
      rw [← zc_lit_eq, Int32.toInt_ofInt]
      simp only [List.length_cons] at h2
      simp [Int.bmod]
      omega
    simp only [List.length_cons] at h2 h4
    rw [zc_tsel]
    by_cases q : x = zc_lit lo
    · rw [if_pos q]
      have : (x.toInt - lo).toNat = 0 := by rw [q, hl]; omega
      rw [this]; rfl
    · rw [if_neg q]
      have hx : x.toInt ≠ lo := fun z => q (Int32.toInt_inj.mp (by rw [hl]; exact z))
      have h5 := ih (lo + 1) d (by omega) (by omega) (by omega) (by omega)
      have : (x.toInt - lo).toNat = (x.toInt - (lo + 1)).toNat + 1 := by omega
      rw [this, List.getElem?_cons_succ]
      exact h5
theorem zc_sw_s {i : Instr} {off : Int} {t : Nat} (hx : p.tables.exec = Jvm.exec) (hb : c.code = cc) (hl : zc_ok ad nL lv ls) (hd : decode cc pc = .ok (i, len)) (hn : zc_sw i pc st = some (off, st')) (ht : zc_tgt pc off = some t) (k : W p l e R s m args below meth c H locs cells slots Q (F0 m t ls (st'.map (zc_cv ad)))) : W p l e R s m args below meth c H locs cells slots Q (F0 m pc ls (st.map (zc_cv ad))) := by
  unfold zc_sw at hn
  split at hn
  · rename_i d lo hi offs x r
    cases hc : decide (-1000 ≤ lo ∧ hi ≤ 1000 ∧ lo + offs.toList.length = hi + 1) with
    | false => rw [hc] at hn; cases hn
    | true =>
      rw [hc] at hn
      cases hn
      obtain ⟨c1, c2, c3⟩ := of_decide_eq_true hc
      by_cases ho : x.toInt < lo ∨ hi < x.toInt
      · rw [zc_tsel_out offs.toList lo d c1 (by omega) (by omega)] at ht
        exact lv_tableOut hx hb hd ho (zc_tgt_of ht) k
      · have h1 : ¬ x.toInt < lo := fun q => ho (Or.inl q)
        have h2 : ¬ hi < x.toInt := fun q => ho (Or.inr q)
        have h3 := zc_tsel_in (x := x) offs.toList lo d c1 (by omega) h1 (by omega)
        rw [Array.getElem?_toList] at h3
        exact lv_tableIn hx hb hd h1 h2 h3 (zc_tgt_of ht) k
  · cases hn
end ZC
