/-! THE SYSTEM's MACHINE: arrays -/
set_option maxRecDepth 100000
def x_as (i : Instr) (len : Nat) (st : List zv) (h : xH) : Option (Prop × Nat × Nat × List zv) := match i, len, st with
  | .iaload, 1, .inl (.int x) :: .inr (k, j) :: r => match zc_look xs_ak k with
    | some (0, n, 0) => some (vp_in x n, k, j, .inl (.int (h.2.2.2.1 k j x.toNatClampNeg)) :: r)
    | _ => none
  | .baload, 1, .inl (.int x) :: .inr (k, j) :: r => match zc_look xs_ak k with
    | some (1, n, 0) => some (vp_in x n, k, j, .inl (.int (h.2.2.2.1 k j x.toNatClampNeg)) :: r)
    | some (2, n, 0) => some (vp_in x n, k, j, .inl (.int (h.2.2.2.1 k j x.toNatClampNeg)) :: r)
    | _ => none
  | .aaload, 1, .inl (.int x) :: .inr (k, j) :: r => match zc_look xs_ak k with
    | some (3, n, 1) => some (vp_in x n, k, j, .inr (xs_el h k x.toNatClampNeg) :: r)
    | some (5, n, 1) => some (vp_in x n, k, j, .inr (xs_el h k x.toNatClampNeg) :: r)
    | _ => none
  | .arraylength, 1, .inr (k, j) :: r => match zc_look xs_ak k with
    | some (_, n, _) => some (True, k, j, .inl (.int (nI n)) :: r)
    | none => none
  | _, _, _ => none
def x_ss (i : Instr) (len : Nat) (st : List zv) (h : xH) : Option (Prop × Nat × Nat × List zv × xH) := match i, len, st with
  | .iastore, 1, .inl (.int v) :: .inl (.int x) :: .inr (k, j) :: r => match zc_look xs_ak k with
    | some (0, n, 0) => some (vp_in x n, k, j, r, xsA h k j x.toNatClampNeg v)
    | _ => none
  | .bastore, 1, .inl (.int v) :: .inl (.int x) :: .inr (k, j) :: r => match zc_look xs_ak k with
    | some (1, n, 0) => some (vp_in x n, k, j, r, xsA h k j x.toNatClampNeg (vp_nar .byte v))
    | some (2, n, 0) => some (vp_in x n, k, j, r, xsA h k j x.toNatClampNeg (vp_nar .boolean v))
    | _ => none
  | .aastore, 1, .inr (1, b) :: .inl (.int x) :: .inr (10, 0) :: r => some (vp_in x 40 ∧ b < 46, 10, 0, r, xsW h (va_up h.2.2.2.2.1 x.toNatClampNeg b))
  | _, _, _ => none
def x_rv (o : Option Nat) : zv := match o with
  | some b => .inl (.ref b)
  | none => .inl .null
theorem x_rv_cv (ad : Nat × Nat → Nat) (o : Option Nat) : yc_cv ad (x_rv o) = va_rf o := by cases o <;> rfl
def xx_arr : yw_X xS := fun i len pc lv st σ rec _ =>
  (∃ g k j st', x_as i len st σ.1 = some (g, k, j, st') ∧ g ∧ xs_inb k j = true ∧ rec (pc + 1, lv, st', σ)) ∨
  (∃ g k j st' h', x_ss i len st σ.1 = some (g, k, j, st', h') ∧ g ∧ xs_inb k j = true ∧ rec (pc + 1, lv, st', (h', σ.2))) ∨
  (∃ a x r t n f, len = 1 ∧ st = .inl (.int x) :: .inl (.ref a) :: r ∧ ((i = .iaload ∧ t = 0) ∨ (i = .baload ∧ t = 1)) ∧ σ.1.2.2.2.2.2 a = some (.inr (.inl (t, n, f))) ∧ vp_in x n ∧ rec (pc + 1, lv, .inl (.int (f x.toNatClampNeg)) :: r, σ)) ∨
  (∃ a x v y r t n f, len = 1 ∧ st = .inl (.int v) :: .inl (.int x) :: .inl (.ref a) :: r ∧ ((i = .iastore ∧ t = 0 ∧ y = v) ∨ (i = .bastore ∧ t = 1 ∧ y = vp_nar .byte v)) ∧ σ.1.2.2.2.2.2 a = some (.inr (.inl (t, n, f))) ∧ vp_in x n ∧ rec (pc + 1, lv, r, (xsD σ.1 a (.inr (.inl (t, n, upd f x.toNatClampNeg y))), σ.2))) ∨
  (∃ a r t n, len = 1 ∧ i = .arraylength ∧ st = .inl (.ref a) :: r ∧ t < 6 ∧ ((∃ f, σ.1.2.2.2.2.2 a = some (.inr (.inl (t, n, f)))) ∨ ∃ f, σ.1.2.2.2.2.2 a = some (.inr (.inr (t, n, f)))) ∧ rec (pc + 1, lv, .inl (.int (nI n)) :: r, σ)) ∨
  (∃ a x r n f, len = 1 ∧ i = .aaload ∧ st = .inl (.int x) :: .inl (.ref a) :: r ∧ σ.1.2.2.2.2.2 a = some (.inr (.inr (4, n, f))) ∧ vp_in x n ∧ rec (pc + 1, lv, x_rv (f x.toNatClampNeg) :: r, σ)) ∨
  (∃ a b x r n f cb fb, len = 1 ∧ i = .aastore ∧ st = .inl (.ref b) :: .inl (.int x) :: .inl (.ref a) :: r ∧ σ.1.2.2.2.2.2 a = some (.inr (.inr (4, n, f))) ∧ σ.1.2.2.2.2.2 b = some (.inl (cb, fb)) ∧ cb < 16 ∧ vp_in x n ∧ rec (pc + 1, lv, r, (xsD σ.1 a (.inr (.inr (4, n, va_up f x.toNatClampNeg (some b)))), σ.2))) ∨
  (∃ a x r n f, len = 1 ∧ i = .aastore ∧ st = .inl .null :: .inl (.int x) :: .inl (.ref a) :: r ∧ σ.1.2.2.2.2.2 a = some (.inr (.inr (4, n, f))) ∧ vp_in x n ∧ rec (pc + 1, lv, r, (xsD σ.1 a (.inr (.inr (4, n, va_up f x.toNatClampNeg none))), σ.2)))
theorem xx_arr_mono : yw_mono xx_arr := by
  intro P P' h T T' hT i len pc lv st σ hs
  rcases hs with ⟨g, k, j, st', h1, h2, h3, h4⟩ | ⟨g, k, j, st', h', h1, h2, h3, h4⟩ | ⟨a, x, r, t, n, f, h1, h2, h3, h4, h5, h6⟩ | ⟨a, x, v, y, r, t, n, f, h1, h2, h3, h4, h5, h6⟩ | ⟨a, r, t, n, h1, h2, h3, h4, h5, h6⟩ | ⟨a, x, r, n, f, h1, h2, h3, h4, h5, h6⟩ | ⟨a, b, x, r, n, f, cb, fb, h1, h2, h3, h4, h5, h6, h7, h8⟩ | ⟨a, x, r, n, f, h1, h2, h3, h4, h5, h6⟩
  · exact Or.inl ⟨g, k, j, st', h1, h2, h3, h _ h4⟩
  · exact Or.inr (Or.inl ⟨g, k, j, st', h', h1, h2, h3, h _ h4⟩)
  · exact Or.inr (Or.inr (Or.inl ⟨a, x, r, t, n, f, h1, h2, h3, h4, h5, h _ h6⟩))
  · exact Or.inr (Or.inr (Or.inr (Or.inl ⟨a, x, v, y, r, t, n, f, h1, h2, h3, h4, h5, h _ h6⟩)))
  · exact Or.inr (Or.inr (Or.inr (Or.inr (Or.inl ⟨a, r, t, n, h1, h2, h3, h4, h5, h _ h6⟩))))
  · exact Or.inr (Or.inr (Or.inr (Or.inr (Or.inr (Or.inl ⟨a, x, r, n, f, h1, h2, h3, h4, h5, h _ h6⟩)))))
  · exact Or.inr (Or.inr (Or.inr (Or.inr (Or.inr (Or.inr (Or.inl ⟨a, b, x, r, n, f, cb, fb, h1, h2, h3, h4, h5, h6, h7, h _ h8⟩))))))
  · exact Or.inr (Or.inr (Or.inr (Or.inr (Or.inr (Or.inr (Or.inr ⟨a, x, r, n, f, h1, h2, h3, h4, h5, h _ h6⟩))))))
theorem xs_ak_no : zc_look xs_ak 0 = none ∧ zc_look xs_ak 1 = none := ⟨rfl, rfl⟩
theorem xs_enA {cA : Nat → ClassId} {ad : Nat × Nat → Nat} {h : xH} {k j t n : Nat} (hk : zc_look xs_ak k = some (t, n, 0)) : xs_en cA ad h (k, j) = .inl (cA t, n, .inl (h.2.2.2.1 k j)) := by
  match k, hk with
  | 0, hk => rw [xs_ak_no.1] at hk; cases hk
  | 1, hk => rw [xs_ak_no.2] at hk; cases hk
  | k + 2, hk => simp only [xs_en, hk]
theorem xs_enR {cA : Nat → ClassId} {ad : Nat × Nat → Nat} {h : xH} {k j t n z : Nat} (hk : zc_look xs_ak k = some (t, n, z + 1)) : xs_en cA ad h (k, j) = .inl (cA t, n, .inr (.inr (.inr (.inr (fun i => some (ad (xs_el h k i))))))) := by
  match k, hk with
  | 0, hk => rw [xs_ak_no.1] at hk; cases hk
  | 1, hk => rw [xs_ak_no.2] at hk; cases hk
  | k + 2, hk => simp only [xs_en, hk]
theorem xs_ak_t : ∀ e ∈ xs_ak, e.2.1 < 6 := by decide
theorem x_castO : ∀ cb, cb < 16 → ∃ r, x_cl[cb]? = some r ∧ (r.1, "java/lang/Object") ∈ x_nC := by
  intro cb h
  match cb, h with
  | 0, _ => exact ⟨_, rfl, by decide +kernel⟩
  | 1, _ => exact ⟨_, rfl, by decide +kernel⟩
  | 2, _ => exact ⟨_, rfl, by decide +kernel⟩
  | 3, _ => exact ⟨_, rfl, by decide +kernel⟩
  | 4, _ => exact ⟨_, rfl, by decide +kernel⟩
  | 5, _ => exact ⟨_, rfl, by decide +kernel⟩
  | 6, _ => exact ⟨_, rfl, by decide +kernel⟩
  | 7, _ => exact ⟨_, rfl, by decide +kernel⟩
  | 8, _ => exact ⟨_, rfl, by decide +kernel⟩
  | 9, _ => exact ⟨_, rfl, by decide +kernel⟩
  | 10, _ => exact ⟨_, rfl, by decide +kernel⟩
  | 11, _ => exact ⟨_, rfl, by decide +kernel⟩
  | 12, _ => exact ⟨_, rfl, by decide +kernel⟩
  | 13, _ => exact ⟨_, rfl, by decide +kernel⟩
  | 14, _ => exact ⟨_, rfl, by decide +kernel⟩
  | 15, _ => exact ⟨_, rfl, by decide +kernel⟩
  | n + 16, h => exact absurd h (by omega)
theorem xs_en_A {cA : Nat → ClassId} {ad : Nat × Nat → Nat} {h : xH} {k j i : Nat} {v : Int32} {q : xid} (hq : q ≠ .inl (k, j)) : xw_en cA ad (xsA h k j i v) q = xw_en cA ad h q := by
  cases q with
  | inr b => rfl
  | inl z =>
    obtain ⟨z1, z2⟩ := z
    refine xs_en_ext (fun _ _ => rfl) (fun _ _ => rfl) ?_ rfl
    by_cases e : z1 = k
    · have : z2 ≠ j := fun e2 => hq (by rw [e, e2])
      simp [xsA, e, this]
    · simp [xsA, e]
theorem xs_en_W {cA : Nat → ClassId} {ad : Nat × Nat → Nat} {h : xH} {f : Nat → Nat} {q : xid} (hq : ∀ j, q ≠ .inl (10, j)) : xw_en cA ad (xsW h f) q = xw_en cA ad h q := by
  cases q with
  | inr b => rfl
  | inl z =>
    obtain ⟨z1, z2⟩ := z
    have h10 : z1 ≠ 10 := fun e => hq z2 (by rw [e])
    match z1, h10 with
    | 0, _ => rfl
    | 1, _ => rfl
    | z + 2, h10 =>
      have hel : ∀ i, xs_el (xsW h f) (z + 2) i = xs_el h (z + 2) i := by
        intro i
        unfold xs_el
        split <;> first | rfl | (rename_i e; exact absurd e h10)
      show xs_en cA ad (xsW h f) (z + 2, z2) = xs_en cA ad h (z + 2, z2)
      simp only [xs_en, hel]
      rfl
theorem xs_en_Dn {cA : Nat → ClassId} {ad : Nat × Nat → Nat} {h : xH} {a : Nat} {e : xE} {q : xid} (hq : q ≠ .inr a) : xw_en cA ad (xsD h a e) q = xw_en cA ad h q := by
  cases q with
  | inl z => rfl
  | inr b =>
    have : b ≠ a := fun e => hq (by rw [e])
    simp [xw_en, xsD, va_up, this]
theorem xs_en_Ds {cA : Nat → ClassId} {ad : Nat × Nat → Nat} {h : xH} {a : Nat} {e : xE} : xw_en cA ad (xsD h a e) (.inr a) = xd_en cA ad e := by
  simp [xw_en, xsD, va_up]
theorem xw_ok.setD {L : List xid} {h : xH} {a : Nat} {e : xE} (hk : xw_ok L h) (h2 : h.2.2.2.2.2 a ≠ none) : xw_ok L (xsD h a e) := hk.same (fun b => by
  by_cases q : b = a
  · subst q; simp [xsD, va_up, h2]
  · simp [xsD, va_up, q])
section XA
variable {p : Program} {l : Launch} {e : Env} {R : Room} {s : State} {m : MethodId} {args : Array Value} {below : List Frame} {meth : Method} {c : Code} {QQ : State → Prop}
variable {cc : ByteArray} {nL : Nat} {ad : Nat × Nat → Nat} {D : va_G} {cA : Nat → ClassId} {A : Nat → Prop} {i : Instr} {len pc : Nat} {lv : yc_L} {st : List zv} {σ : xS} {rec : yw_F xS → Prop} {thr : zv → xS → Prop}
theorem xx_arr_s (hx : p.tables.exec = Jvm.exec) (hb : c.code = cc) (hK : xw_K D cA s) (hd : decode cc pc = .ok (i, len)) (h : xx_arr i len pc lv st σ rec thr)
    (hrec : ∀ g, rec g → yw_Snd p l e R s m args below meth c QQ ad nL (x_Rp D cA ad A s) g) : yw_Snd p l e R s m args below meth c QQ ad nL (x_Rp D cA ad A s) (pc, lv, st, σ) := by
  intro H locs cells slots ls hRp hl
  have hRp0 := hRp
  obtain ⟨L, hok, hP, hD, hS, rfl, rfl⟩ := hRp
  rcases h with ⟨g, k, j, st', h1, hg, h2, h3⟩ | ⟨g, k, j, st', h', h1, hg, h2, h3⟩ | ⟨a, x, r, t, n, f, rfl, rfl, h3, h4, h5, h6⟩ | ⟨a, x, v, y, r, t, n, f, rfl, rfl, h3, h4, h5, h6⟩ | ⟨a, r, t, n, rfl, rfl, rfl, h4, h5, h6⟩ | ⟨a, x, r, n, f, rfl, rfl, rfl, h4, h5, h6⟩ | ⟨a, b, x, r, n, f, cb, fb, rfl, rfl, rfl, h4, h5, h6, h7, h8⟩ | ⟨a, x, r, n, f, rfl, rfl, rfl, h4, h5, h6⟩
  · have kk := hrec _ h3 H locs _ _ ls hRp0 hl
    have hm : (.inl (k, j) : xid) ∈ L := (hok.2.1 _).mpr (xs_inb_mem h2)
    unfold x_as at h1
    split at h1
    · split at h1
      · rename_i n hq
        cases h1
        exact x_ald_row (t := 0) hx hb hK hP hm (xs_enA hq) (Or.inl ⟨rfl, rfl⟩) hg hd kk
      · cases h1
    · split at h1
      · rename_i n hq
        cases h1
        exact x_ald_row (t := 1) hx hb hK hP hm (xs_enA hq) (Or.inr (Or.inl ⟨rfl, rfl⟩)) hg hd kk
      · rename_i n hq
        cases h1
        exact x_ald_row (t := 2) hx hb hK hP hm (xs_enA hq) (Or.inr (Or.inr ⟨rfl, rfl⟩)) hg hd kk
      · cases h1
    · split at h1
      · rename_i n hq
        cases h1
        exact x_aald_row (t := 3) hx hb hK hP hm (xs_enR (z := 0) hq) (Or.inl rfl) hg hd kk
      · rename_i n hq
        cases h1
        exact x_aald_row (t := 5) hx hb hK hP hm (xs_enR (z := 0) hq) (Or.inr (Or.inr rfl)) hg hd kk
      · cases h1
    · split at h1
      · rename_i t n z hq
        cases h1
        have ht : t < 6 := xs_ak_t _ (zc_look_mem hq)
        cases z with
        | zero => exact x_alen_row (t := t) (y := (n, _)) hx hb hK hP hm (xs_enA hq) ht hd kk
        | succ z => exact x_alen_row (t := t) (y := (n, _)) hx hb hK hP hm (xs_enR hq) ht hd kk
      · cases h1
    · cases h1
  · have kk := hrec _ h3
    have hm : (.inl (k, j) : xid) ∈ L := (hok.2.1 _).mpr (xs_inb_mem h2)
    unfold x_ss at h1
    split at h1
    · rename_i v x k' j' r
      split at h1
      · rename_i n hq
        cases h1
        refine x_ast_row (t := 0) (y := v) (h' := xsA σ.1 k j x.toNatClampNeg v) hx hb hK hok hP hD hS hm (xs_enA hq) (Or.inl ⟨rfl, rfl, rfl⟩) hg hd ?_ (fun q _ hq => xs_en_A hq) (fun H1 locs1 g1 g2 g3 => kk H1 locs1 _ _ ls ⟨L, hok.same (fun _ => Iff.rfl), g1, g2, g3, rfl, rfl⟩ hl)
        show xs_en cA ad (xsA σ.1 k j x.toNatClampNeg v) (k, j) = _
        rw [xs_enA hq]; simp [xsA]
      · cases h1
    · rename_i v x k' j' r
      split at h1
      · rename_i n hq
        cases h1
        refine x_ast_row (t := 1) (y := vp_nar .byte v) (h' := xsA σ.1 k j x.toNatClampNeg (vp_nar .byte v)) hx hb hK hok hP hD hS hm (xs_enA hq) (Or.inr (Or.inl ⟨rfl, rfl, rfl⟩)) hg hd ?_ (fun q _ hq => xs_en_A hq) (fun H1 locs1 g1 g2 g3 => kk H1 locs1 _ _ ls ⟨L, hok.same (fun _ => Iff.rfl), g1, g2, g3, rfl, rfl⟩ hl)
        show xs_en cA ad (xsA σ.1 k j x.toNatClampNeg (vp_nar .byte v)) (k, j) = _
        rw [xs_enA hq]; simp [xsA]
      · rename_i n hq
        cases h1
        refine x_ast_row (t := 2) (y := vp_nar .boolean v) (h' := xsA σ.1 k j x.toNatClampNeg (vp_nar .boolean v)) hx hb hK hok hP hD hS hm (xs_enA hq) (Or.inr (Or.inr ⟨rfl, rfl, rfl⟩)) hg hd ?_ (fun q _ hq => xs_en_A hq) (fun H1 locs1 g1 g2 g3 => kk H1 locs1 _ _ ls ⟨L, hok.same (fun _ => Iff.rfl), g1, g2, g3, rfl, rfl⟩ hl)
        show xs_en cA ad (xsA σ.1 k j x.toNatClampNeg (vp_nar .boolean v)) (k, j) = _
        rw [xs_enA hq]; simp [xsA]
      · cases h1
    · rename_i b x r
      cases h1
      obtain ⟨q0, hq, hw⟩ := xw_at (cA := cA) (ad := ad) (h := σ.1) hm
      obtain ⟨qb, hqb, hwb⟩ := xw_at (cA := cA) (ad := ad) (h := σ.1) ((hok.2.1 (1, b)).mpr (xs_ids_mem (n := 46) rfl hg.2))
      have hset := xw_set (cA := cA) (ad := ad) (h := σ.1) (h' := xsW σ.1 (va_up σ.1.2.2.2.2.1 x.toNatClampNeg b)) (i := .inl (10, 0)) (x := .inl (cA 3, 40, .inr (.inr (.inr (.inr (va_up (fun i => some (ad (xs_el σ.1 10 i))) x.toNatClampNeg (some (ad (1, b))))))))) hok.1 hq (by
          show xs_en cA ad _ (10, 0) = _
          rw [xs_enR (t := 3) (n := 40) (z := 0) rfl]
          congr 7
          funext i9
          by_cases e9 : i9 = x.toNatClampNeg
          · simp [xs_el, xsW, va_up, e9]
          · simp [xs_el, xsW, va_up, e9]) (fun q hq2 hne => xs_en_W (fun j9 hj9 => hne (by
            rw [hj9] at hq2 ⊢
            have hz := (hok.2.1 _).mp hq2
            have : ∀ z ∈ xs_ids, z.1 = 10 → z = (10, 0) := by decide +kernel
            rw [this _ hz rfl])))
      rw [show xw_en cA ad σ.1 (.inl (10, 0)) = .inl (cA 3, 40, .inr (.inr (.inr (.inr (fun i => some (ad (xs_el σ.1 10 i))))))) from xs_enR (k := 10) (j := 0) (t := 3) (n := 40) (z := 0) rfl] at hw
      exact va_astq (r := (RX3, TX3, 10)) hx hb hK.1 hP hD hS q0 3 qb 1 hw rfl hwb rfl hg.1 hd (fun H1 locs1 g1 g2 g3 => kk H1 locs1 _ _ ls ⟨L, hok.same (fun _ => Iff.rfl), by rw [← hset]; exact g1, by rw [← hset]; exact g2, g3, rfl, rfl⟩ hl)
    · cases h1
  · have kk := hrec _ h6 H locs _ _ ls hRp0 hl
    have hm : (.inr a : xid) ∈ L := (hok.2.2 a).mpr (by rw [h4]; simp)
    refine x_ald_row (iid := .inr a) (t := t) hx hb hK hP hm (by simp only [xw_en, h4]; rfl) ?_ h5 hd kk
    rcases h3 with ⟨rfl, rfl⟩ | ⟨rfl, rfl⟩
    · exact Or.inl ⟨rfl, rfl⟩
    · exact Or.inr (Or.inl ⟨rfl, rfl⟩)
  · have kk := hrec _ h6
    have hm : (.inr a : xid) ∈ L := (hok.2.2 a).mpr (by rw [h4]; simp)
    refine x_ast_row (iid := .inr a) (t := t) (y := y) (h' := xsD σ.1 a (.inr (.inl (t, n, upd f x.toNatClampNeg y)))) hx hb hK hok hP hD hS hm (by simp only [xw_en, h4]; rfl) ?_ h5 hd xs_en_Ds (fun q _ hq => xs_en_Dn hq) (fun H1 locs1 g1 g2 g3 => kk H1 locs1 _ _ ls ⟨L, hok.setD (by rw [h4]; simp), g1, g2, g3, rfl, rfl⟩ hl)
    rcases h3 with ⟨rfl, rfl, rfl⟩ | ⟨rfl, rfl, rfl⟩
    · exact Or.inl ⟨rfl, rfl, rfl⟩
    · exact Or.inr (Or.inl ⟨rfl, rfl, rfl⟩)
  · have kk := hrec _ h6 H locs _ _ ls hRp0 hl
    rcases h5 with ⟨f, h5⟩ | ⟨f, h5⟩
    · have hm : (.inr a : xid) ∈ L := (hok.2.2 a).mpr (by rw [h5]; simp)
      exact x_alen_row (iid := .inr a) (t := t) (y := (n, _)) hx hb hK hP hm (by simp only [xw_en, h5]; rfl) h4 hd kk
    · have hm : (.inr a : xid) ∈ L := (hok.2.2 a).mpr (by rw [h5]; simp)
      exact x_alen_row (iid := .inr a) (t := t) (y := (n, _)) hx hb hK hP hm (by simp only [xw_en, h5]; rfl) h4 hd kk
  · have kk := hrec _ h6 H locs _ _ ls hRp0 hl
    have hm : (.inr a : xid) ∈ L := (hok.2.2 a).mpr (by rw [h4]; simp)
    refine x_aald_row (iid := .inr a) (t := 4) hx hb hK hP hm (by simp only [xw_en, h4]; rfl) (Or.inr (Or.inl rfl)) h5 hd ?_
    rw [← x_rv_cv ad]
    exact kk
  · have kk := hrec _ h8
    have hm : (.inr a : xid) ∈ L := (hok.2.2 a).mpr (by rw [h4]; simp)
    have hmb : (.inr b : xid) ∈ L := (hok.2.2 b).mpr (by rw [h5]; simp)
    obtain ⟨q0, hq, hw⟩ := xw_at (cA := cA) (ad := ad) (h := σ.1) hm
    obtain ⟨qb, hqb, hwb⟩ := xw_at (cA := cA) (ad := ad) (h := σ.1) hmb
    rw [show xw_en cA ad σ.1 (.inr a) = .inl (cA 4, n, .inr (.inr (.inr (.inr f)))) by simp only [xw_en, h4]; rfl] at hw
    rw [show xw_en cA ad σ.1 (.inr b) = .inr (cb, fb.map (yc_cv ad)) by simp only [xw_en, h5]; rfl] at hwb
    obtain ⟨rc, hrc, hin⟩ := x_castO cb h6
    have hset := xw_set (cA := cA) (ad := ad) (h := σ.1) (h' := xsD σ.1 a (.inr (.inr (4, n, va_up f x.toNatClampNeg (some b))))) hok.1 hq xs_en_Ds (fun q _ hq => xs_en_Dn hq)
    exact va_astqM hx hb hK.1 hP hD hS q0 4 hw rfl (va_rAny hK.1 hP hwb hrc (vb_asgC (hK.2.2.1 _ hin))) h7 hd (fun H1 locs1 g1 g2 g3 => kk H1 locs1 _ _ ls ⟨L, hok.setD (by rw [h4]; simp), by rw [← hset]; exact g1, by rw [← hset]; exact g2, g3, rfl, rfl⟩ hl)
  · have kk := hrec _ h6
    have hm : (.inr a : xid) ∈ L := (hok.2.2 a).mpr (by rw [h4]; simp)
    obtain ⟨q0, hq, hw⟩ := xw_at (cA := cA) (ad := ad) (h := σ.1) hm
    rw [show xw_en cA ad σ.1 (.inr a) = .inl (cA 4, n, .inr (.inr (.inr (.inr f)))) by simp only [xw_en, h4]; rfl] at hw
    have hset := xw_set (cA := cA) (ad := ad) (h := σ.1) (h' := xsD σ.1 a (.inr (.inr (4, n, va_up f x.toNatClampNeg none)))) hok.1 hq xs_en_Ds (fun q _ hq => xs_en_Dn hq)
    exact va_astqN hx hb hK.1 hP hD hS q0 4 hw rfl h5 hd (fun H1 locs1 g1 g2 g3 => kk H1 locs1 _ _ ls ⟨L, hok.setD (by rw [h4]; simp), by rw [← hset]; exact g1, by rw [← hset]; exact g2, g3, rfl, rfl⟩ hl)
end XA
