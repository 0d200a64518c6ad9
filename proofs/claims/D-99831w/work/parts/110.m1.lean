/-! THE MODEL: small methods -/
set_option maxRecDepth 100000
theorem m_many {d : Nat} {B : zBk} {σ : mS} {Q : Option Value → mS → Prop} (hB : mRb B σ) (k : Q (some (.int (nI (B.1 3)))) σ) : zm_call (d + 1) 4 [.ref 0] σ Q := by
  refine ⟨_, rfl, rfl, ?_⟩
  show zm_W d (some .int) cX4_many Q (0, [some (some (.ref 0))], [], σ)
  obtain ⟨b, hb, e1, e3, e4, e5, e6, -⟩ := hB
  refine zm_n dX4_many_0 rfl (zm_f dX4_many_1 rfl (zm_n dX4_many_4 rfl (zm_f dX4_many_5 rfl ?_)))
  refine zm_a dX4_many_8 rfl (by rw [e1]; exact vp_in_nI hb (by omega)) ?_
  exact zm_ri dX4_many_9 (by rw [e1, nI_clamp (by omega), e6]; exact k)
theorem m_pleads {d : Nat} {B : zBk} {σ : mS} {Q : Option Value → mS → Prop} (hB : mRb B σ) (k : Q (some (.int (nI (B.1 2)))) σ) : zm_call (d + 1) 51 [.ref 0] σ Q := by
  refine ⟨_, rfl, rfl, ?_⟩
  show zm_W d (some .int) cX4_pleads Q (0, [some (some (.ref 0))], [], σ)
  obtain ⟨b, hb, e1, e3, e4, e5, e6, -⟩ := hB
  refine zm_n dX4_pleads_0 rfl (zm_f dX4_pleads_1 rfl (zm_n dX4_pleads_4 rfl (zm_f dX4_pleads_5 rfl ?_)))
  refine zm_a dX4_pleads_8 rfl (by rw [e1]; exact vp_in_nI hb (by omega)) ?_
  exact zm_ri dX4_pleads_9 (by rw [e1, nI_clamp (by omega), e5]; exact k)
theorem m_spots {d : Nat} {B : zBk} {σ : mS} {Q : Option Value → mS → Prop} (hB : mRb B σ) (k : Q (some (.int (nI (B.1 0)))) σ) : zm_call (d + 1) 5 [.ref 0] σ Q := by
  refine ⟨_, rfl, rfl, ?_⟩
  show zm_W d (some .int) cX4_spots Q (0, [some (some (.ref 0))], [], σ)
  obtain ⟨b, hb, e1, e3, e4, e5, e6, -⟩ := hB
  refine zm_n dX4_spots_0 rfl (zm_f dX4_spots_1 rfl (zm_n dX4_spots_4 rfl (zm_f dX4_spots_5 rfl ?_)))
  refine zm_a dX4_spots_8 rfl (by rw [e1]; exact vp_in_nI hb (by omega)) ?_
  exact zm_ri dX4_spots_9 (by rw [e1, nI_clamp (by omega), e3]; exact k)
theorem m_isIn {d : Nat} {v a b : Int32} {σ : mS} {Q : Option Value → mS → Prop} (k : Q (some (.int (zb (decide (a ≤ v ∧ v ≤ b))))) σ) : zm_call (d + 1) 45 [.int v, .int a, .int b] σ Q := by
  refine ⟨_, rfl, rfl, ?_⟩
  show zm_W d (some .boolean) cX4_isIn Q (0, [some (some (.int v)), some (some (.int a)), some (some (.int b))], [], σ)
  refine zm_n dX4_isIn_0 rfl (zm_n dX4_isIn_1 rfl ?_)
  refine zm_b dX4_isIn_2 rfl (fun h2 => ?_) (fun h2 => ?_)
  · refine zm_n dX4_isIn_14 rfl ?_
    exact zm_rz dX4_isIn_15 (zb_nar false) (by rw [decide_eq_false (fun q => absurd q.1 (by simpa using h2))] at k; exact k)
  · refine zm_n dX4_isIn_5 rfl (zm_n dX4_isIn_6 rfl ?_)
    refine zm_b dX4_isIn_7 rfl (fun h7 => ?_) (fun h7 => ?_)
    · refine zm_n dX4_isIn_14 rfl ?_
      exact zm_rz dX4_isIn_15 (zb_nar false) (by rw [decide_eq_false (fun q => absurd q.2 (by simpa using h7))] at k; exact k)
    · refine zm_n dX4_isIn_10 rfl (zm_n dX4_isIn_11 rfl ?_)
      exact zm_rz dX4_isIn_15 (zb_nar true) (by rw [decide_eq_true ⟨by simpa using h2, by simpa using h7⟩] at k; exact k)
theorem m_isCase {d : Nat} {B : zBk} {c : Int32} {σ : mS} {Q : Option Value → mS → Prop} (hB : mRb B σ) (k : Q (some (.int (zb (zI c (B.1 3))))) σ) : zm_call (d + 2) 53 [.ref 0, .int c] σ Q := by
  refine ⟨_, rfl, rfl, ?_⟩
  show zm_W (d + 1) (some .boolean) cX4_isCase Q (0, [some (some (.ref 0)), some (some (.int c))], [], σ)
  have hn : B.1 3 < 2 ^ 31 := by obtain ⟨b, hb, e1, e3, e4, e5, e6, g0, g1, g2, g3, -⟩ := hB; omega
  refine zm_n dX4_isCase_0 rfl (zm_n dX4_isCase_1 rfl (zm_n dX4_isCase_2 rfl ?_))
  refine zm_c dX4_isCase_3 rfl ?_
  refine m_many hB ?_
  refine zm_n dX4_isCase_6 rfl (zm_n dX4_isCase_7 rfl ?_)
  refine zm_c dX4_isCase_8 rfl ?_
  refine m_isIn ?_
  exact zm_rz dX4_isCase_11 (zb_nar _) (by rw [show decide (nI 0 ≤ c ∧ c ≤ nI (B.1 3) - nI 1) = zI c (B.1 3) from by rw [Bool.eq_iff_iff, decide_eq_true_iff]; exact zI_dec hn]; exact k)
theorem m_isPlea {d : Nat} {B : zBk} {c : Int32} {σ : mS} {Q : Option Value → mS → Prop} (hB : mRb B σ) (k : Q (some (.int (zb (zI c (B.1 2))))) σ) : zm_call (d + 2) 50 [.ref 0, .int c] σ Q := by
  refine ⟨_, rfl, rfl, ?_⟩
  show zm_W (d + 1) (some .boolean) cX4_isPlea Q (0, [some (some (.ref 0)), some (some (.int c))], [], σ)
  have hn : B.1 2 < 2 ^ 31 := by obtain ⟨b, hb, e1, e3, e4, e5, e6, g0, g1, g2, g3, -⟩ := hB; omega
  refine zm_n dX4_isPlea_0 rfl (zm_n dX4_isPlea_1 rfl (zm_n dX4_isPlea_2 rfl ?_))
  refine zm_c dX4_isPlea_3 rfl ?_
  refine m_pleads hB ?_
  refine zm_n dX4_isPlea_6 rfl (zm_n dX4_isPlea_7 rfl ?_)
  refine zm_c dX4_isPlea_8 rfl ?_
  refine m_isIn ?_
  exact zm_rz dX4_isPlea_11 (zb_nar _) (by rw [show decide (nI 0 ≤ c ∧ c ≤ nI (B.1 2) - nI 1) = zI c (B.1 2) from by rw [Bool.eq_iff_iff, decide_eq_true_iff]; exact zI_dec hn]; exact k)
theorem m_isKnot {d : Nat} {B : zBk} {c : Int32} {σ : mS} {Q : Option Value → mS → Prop} (hB : mRb B σ) (k : Q (some (.int (zb (zI c (B.1 0))))) σ) : zm_call (d + 2) 44 [.ref 0, .int c] σ Q := by
  refine ⟨_, rfl, rfl, ?_⟩
  show zm_W (d + 1) (some .boolean) cX4_isKnot Q (0, [some (some (.ref 0)), some (some (.int c))], [], σ)
  have hn : B.1 0 < 2 ^ 31 := by obtain ⟨b, hb, e1, e3, e4, e5, e6, g0, g1, g2, g3, -⟩ := hB; omega
  refine zm_n dX4_isKnot_0 rfl (zm_n dX4_isKnot_1 rfl (zm_n dX4_isKnot_2 rfl ?_))
  refine zm_c dX4_isKnot_3 rfl ?_
  refine m_spots hB ?_
  refine zm_n dX4_isKnot_6 rfl (zm_n dX4_isKnot_7 rfl ?_)
  refine zm_c dX4_isKnot_8 rfl ?_
  refine m_isIn ?_
  exact zm_rz dX4_isKnot_11 (zb_nar _) (by rw [show decide (nI 0 ≤ c ∧ c ≤ nI (B.1 0) - nI 1) = zI c (B.1 0) from by rw [Bool.eq_iff_iff, decide_eq_true_iff]; exact zI_dec hn]; exact k)
theorem m_placeOf {d : Nat} {B : zBk} {i : Nat} {σ : mS} {Q : Option Value → mS → Prop} (hB : mRb B σ) (hi : i < B.1 3) (k : Q (some (.int (B.2.2.1 3 i))) σ) : zm_call (d + 1) 48 [.ref 0, .int (nI i)] σ Q := by
  refine ⟨_, rfl, rfl, ?_⟩
  show zm_W d (some .int) cX4_placeOf Q (0, [some (some (.ref 0)), some (some (.int (nI i)))], [], σ)
  obtain ⟨b, hb, e1, e3, e4, e5, e6, g0, g1, g2, g3, f1, f2, f3, f4, f5, r1, r2, r3⟩ := hB
  have e : nI 6 * σ.1 36 + nI i = nI (6 * b + i) := by rw [e1, pk_mul, nI_add]
  refine zm_n dX4_placeOf_0 rfl (zm_f dX4_placeOf_1 rfl (zm_n dX4_placeOf_4 rfl (zm_n dX4_placeOf_6 rfl (zm_f dX4_placeOf_7 rfl (zm_n dX4_placeOf_10 rfl (zm_n dX4_placeOf_11 rfl (zm_n dX4_placeOf_12 rfl ?_)))))))
  refine zm_a dX4_placeOf_13 rfl (by rw [e]; exact vp_in_nI (by omega) (by omega)) ?_
  exact zm_ri dX4_placeOf_14 (by rw [e, nI_clamp (by omega), (r3 i hi).1]; exact k)
/-- the set of those held -/
def sHeld (B : zBk) (a : Nat → Int32) : Int32 := bset (fun c => decide (a c = 0)) (B.1 3)
theorem m_heldNow {d : Nat} {B : zBk} {a : Nat → Int32} {σ : mS} {Q : Option Value → mS → Prop} (hB : mRb B σ) (ha : mRa a σ) (k : Q (some (.int (sHeld B a))) σ) : zm_call (d + 2) 75 [.ref 0] σ Q := by
  refine ⟨_, rfl, rfl, ?_⟩
  show zm_W (d + 1) (some .int) cX4_heldNow Q (0, [some (some (.ref 0)), none, none], [], σ)
  have hn : B.1 3 ≤ 6 := by obtain ⟨b, hb, e1, e3, e4, e5, e6, g0, g1, g2, g3, -⟩ := hB; omega
  have loop : ∀ i, i ≤ B.1 3 → zm_W (d + 1) (some .int) cX4_heldNow Q (4, [some (some (.ref 0)), some (some (.int (bset (fun c => decide (a c = 0)) i))), some (some (.int (nI i)))], [], σ) := by
    refine zl_up (fun i hi ih => ?_)
    refine zm_n dX4_heldNow_4 rfl (zm_n dX4_heldNow_5 rfl ?_)
    refine zm_c dX4_heldNow_6 rfl ?_
    refine m_many hB ?_
    refine zm_b dX4_heldNow_9 rfl (fun h9 => ?_) (fun h9 => ?_)
    · have e9 : i = B.1 3 := by
        rcases Nat.lt_or_ge i (B.1 3) with q | q
        · exact absurd h9 (nI_ge q (by omega))
        · omega
      refine zm_n dX4_heldNow_35 rfl ?_
      exact zm_ri dX4_heldNow_36 (by rw [e9]; exact k)
    · have hlt : i < B.1 3 := by
        rcases Nat.lt_or_ge i (B.1 3) with q | q
        · exact q
        · exact absurd (nI_le q (by omega)) h9
      have ih := ih hlt
      refine zm_n dX4_heldNow_12 rfl (zm_f dX4_heldNow_13 rfl (zm_n dX4_heldNow_16 rfl (zm_n dX4_heldNow_17 rfl (zm_n dX4_heldNow_18 rfl ?_))))
      refine zm_a dX4_heldNow_19 rfl (by rw [nI_add]; exact vp_in_nI (by omega) (by omega)) ?_
      refine zm_b dX4_heldNow_20 rfl (fun h20 => ?_) (fun h20 => ?_)
      · rw [nI_add, nI_clamp (by omega), ha _ (by omega)] at h20
        refine zm_n dX4_heldNow_29 rfl (zm_n dX4_heldNow_32 rfl ?_)
        rw [bset_f (by simpa using h20)] at ih
        rw [show nI i + nI 1 = nI (i + 1) from nI_add i 1]
        exact ih
      · rw [nI_add, nI_clamp (by omega), ha _ (by omega)] at h20
        refine zm_n dX4_heldNow_23 rfl (zm_n dX4_heldNow_24 rfl (zm_n dX4_heldNow_25 rfl (zm_n dX4_heldNow_26 rfl (zm_n dX4_heldNow_27 rfl (zm_n dX4_heldNow_28 rfl (zm_n dX4_heldNow_29 rfl (zm_n dX4_heldNow_32 rfl ?_)))))))
        rw [bset_t (by simpa using h20)] at ih
        rw [show nI i + nI 1 = nI (i + 1) from nI_add i 1]
        exact ih
  refine zm_n dX4_heldNow_0 rfl (zm_n dX4_heldNow_1 rfl (zm_n dX4_heldNow_2 rfl (zm_n dX4_heldNow_3 rfl ?_)))
  exact loop 0 (by omega)
