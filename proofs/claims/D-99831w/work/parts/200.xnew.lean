/-! THE SYSTEM's MACHINE: new cells, constants, casts, throws -/
set_option maxRecDepth 100000
def xx_new (own mc ms : Nat) : yw_X xS := fun i len pc lv st σ rec _ =>
  (∃ idx ci N, i = .new idx ∧ len = 3 ∧ x_l2 x_nw own idx = some (ci, N) ∧ σ.2.1 + 1 ≤ mc ∧ σ.2.2 + N ≤ ms ∧ ∀ q, σ.1.2.2.2.2.2 q = none → rec (pc + 3, lv, .inl (.ref q) :: st, (xsD σ.1 q (.inl (ci, x_dflt ci N)), σ.2.1 + 1, σ.2.2 + N))) ∨
  (∃ at0 t x N r, i = .newarray at0 ∧ len = 2 ∧ ((t = 0 ∧ at0 = .int) ∨ (t = 1 ∧ at0 = .byte)) ∧ st = .inl (.int x) :: r ∧ ¬ x < 0 ∧ x.toNatClampNeg = N ∧ N ≤ 100000 ∧ σ.2.1 + 1 ≤ mc ∧ σ.2.2 + N ≤ ms ∧ ∀ q, σ.1.2.2.2.2.2 q = none → rec (pc + 2, lv, .inl (.ref q) :: r, (xsD σ.1 q (.inr (.inl (t, N, fun _ => 0))), σ.2.1 + 1, σ.2.2 + N))) ∨
  (∃ idx x N r, i = .anewarray idx ∧ len = 3 ∧ Cond.classLink (xo own) idx "java/lang/Object" ∈ lw_all ∧ st = .inl (.int x) :: r ∧ ¬ x < 0 ∧ x.toNatClampNeg = N ∧ N ≤ 100000 ∧ σ.2.1 + 1 ≤ mc ∧ σ.2.2 + N ≤ ms ∧ ∀ q, σ.1.2.2.2.2.2 q = none → rec (pc + 3, lv, .inl (.ref q) :: r, (xsD σ.1 q (.inr (.inr (4, N, fun _ => none))), σ.2.1 + 1, σ.2.2 + N)))
theorem xx_new_mono (own mc ms : Nat) : yw_mono (xx_new own mc ms) := by
  intro P P' h T T' hT i len pc lv st σ hs
  rcases hs with ⟨idx, ci, N, h1, h2, h3, h4, h5, h6⟩ | ⟨at0, t, x, N, r, h1, h2, h3, h4, h5, h6, h7, h8, h9, h10⟩ | ⟨idx, x, N, r, h1, h2, h3, h4, h5, h6, h7, h8, h9, h10⟩
  · exact Or.inl ⟨idx, ci, N, h1, h2, h3, h4, h5, fun q hq => h _ (h6 q hq)⟩
  · exact Or.inr (Or.inl ⟨at0, t, x, N, r, h1, h2, h3, h4, h5, h6, h7, h8, h9, fun q hq => h _ (h10 q hq)⟩)
  · exact Or.inr (Or.inr ⟨idx, x, N, r, h1, h2, h3, h4, h5, h6, h7, h8, h9, fun q hq => h _ (h10 q hq)⟩)
def x_cst1 (own : Nat) (i : Instr) (len : Nat) : Option Int32 := match i, len with
  | .ldc idx, 2 => x_l2 x_cst own idx
  | .ldc_w idx, 3 => x_l2 x_cst own idx
  | _, _ => none
def xx_misc (own : Nat) : yw_X xS := fun i len pc lv st σ rec thr =>
  (∃ v, x_cst1 own i len = some v ∧ rec (pc + len, lv, .inl (.int v) :: st, σ)) ∨
  (∃ idx a r ci fs, i = .checkcast idx ∧ len = 3 ∧ st = .inl (.ref a) :: r ∧ x_l2 x_ck own idx = some ci ∧ σ.1.2.2.2.2.2 a = some (.inl (ci, fs)) ∧ rec (pc + 3, lv, st, σ)) ∨
  (∃ q r fs, i = .athrow ∧ len = 1 ∧ st = .inl (.ref q) :: r ∧ σ.1.2.2.2.2.2 q = some (.inl (9, fs)) ∧ thr (.inl (.ref q)) σ)
theorem xx_misc_mono (own : Nat) : yw_mono (xx_misc own) := by
  intro P P' h T T' hT i len pc lv st σ hs
  rcases hs with ⟨v, h1, h2⟩ | ⟨idx, a, r, ci, fs, h1, h2, h3, h4, h5, h6⟩ | ⟨q, r, fs, h1, h2, h3, h4, h5⟩
  · exact Or.inl ⟨v, h1, h _ h2⟩
  · exact Or.inr (Or.inl ⟨idx, a, r, ci, fs, h1, h2, h3, h4, h5, h _ h6⟩)
  · exact Or.inr (Or.inr ⟨q, r, fs, h1, h2, h3, h4, hT _ _ h5⟩)
section XN
variable {p : Program} {l : Launch} {e : Env} {R : Room} {s : State} {m : MethodId} {args : Array Value} {below : List Frame} {meth : Method} {c : Code} {QQ : State → Prop}
variable {cc : ByteArray} {nL : Nat} {ad : Nat × Nat → Nat} {D : va_G} {cA : Nat → ClassId} {A : Nat → Prop} {i : Instr} {len pc own mc ms : Nat} {lv : yc_L} {st : List zv} {σ : xS} {rec : yw_F xS → Prop} {thr : zv → xS → Prop}
theorem xx_new_s (hx : p.tables.exec = Jvm.exec) (hb : c.code = cc) (hts : ∀ w ∈ lw_all, w.before args s = true) (hown : s.vm.findClass (xo own) = some m.cls) (hK : xw_K D cA s) (hA : ∀ q, s.heap.size ≤ q → A q) (hR : R.cells = mc ∧ R.slots = ms) (hd : decode cc pc = .ok (i, len)) (h : xx_new own mc ms i len pc lv st σ rec thr)
    (hrec : ∀ g, rec g → yw_Snd p l e R s m args below meth c QQ ad nL (x_Rp D cA ad A s) g) : yw_Snd p l e R s m args below meth c QQ ad nL (x_Rp D cA ad A s) (pc, lv, st, σ) := by
  obtain ⟨hR1, hR2⟩ := hR
  intro H locs cells slots ls hRp hl
  obtain ⟨L, hok, hP, hD, hS, rfl, rfl⟩ := hRp
  rcases h with ⟨idx, ci, N, rfl, rfl, h3, h4, h5, h6⟩ | ⟨at0, t, x, N, r, rfl, rfl, h3, rfl, h5, h6, h7, h8, h9, h10⟩ | ⟨idx, x, N, r, rfl, rfl, h3, rfl, h5, h6, h7, h8, h9, h10⟩
  · obtain ⟨t, ht1, ht2⟩ := x_l2_mem h3
    obtain ⟨C, T, g1, g2, g3, g4⟩ := x_nw_ok _ ht1 _ ht2
    exact x_new_row hx hb hts hown hK hok hP hD hS hA g1 g2 g3 g4 (by rw [hR1]; exact h4) (by rw [hR2]; exact h5) hd (fun q H1 k1 k2 k3 k4 k5 => hrec _ (h6 q k1) H1 locs _ _ ls ⟨_, k2, k3, k4, k5, rfl, rfl⟩ hl)
  · exact x_newa_row hx hb hts hK hok hP hD hS hA h3 h5 h6 h7 (by rw [hR1]; exact h8) (by rw [hR2]; exact h9) hd (fun q H1 k1 k2 k3 k4 k5 => hrec _ (h10 q k1) H1 locs _ _ ls ⟨_, k2, k3, k4, k5, rfl, rfl⟩ hl)
  · exact x_newq_row hx hb hts hown hK hok hP hD hS hA h3 h5 h6 h7 (by rw [hR1]; exact h8) (by rw [hR2]; exact h9) hd (fun q H1 k1 k2 k3 k4 k5 => hrec _ (h10 q k1) H1 locs _ _ ls ⟨_, k2, k3, k4, k5, rfl, rfl⟩ hl)
/-- what a thrown object comes to, where no handler stands -/
def x_Thr (p : Program) (l : Launch) (e : Env) (R : Room) (s : State) (m : MethodId) (args : Array Value) (below : List Frame) (meth : Method) (c : Code) (QQ : State → Prop) (D : va_G) (cA : Nat → ClassId) (ad : Nat × Nat → Nat) (A : Nat → Prop) (thr : zv → xS → Prop) : Prop :=
  ∀ (q : Nat) (fs : List zv) (u : xS), thr (.inl (.ref q)) u → u.1.2.2.2.2.2 q = some (.inl (9, fs)) → ∀ (H : Heap) (locs : List Loc) (cells slots pc : Nat) (ls : Array Slot) (rest : List Value), x_Rp D cA ad A s u H locs cells slots → vx_W p l e R s m args below meth c H locs cells slots QQ (F0 m pc ls rest) q
theorem x_recvD {L : List xid} {h : xH} {H : Heap} {a ci : Nat} {fs : List zv} {r : vw_C} (hK : xw_K D cA s) (hok : xw_ok L h) (hP : va_P D x_cl (xw_ws cA ad L h) H) (ha : h.2.2.2.2.2 a = some (.inl (ci, fs))) (hr : x_cl[ci]? = some r) : ∃ cell : Cell, H[a]? = some cell ∧ cell.vm.isStatics = false ∧ s.vm.findClass r.1 = some cell.cls := by
  have hm : (.inr a : xid) ∈ L := (hok.2.2 a).mpr (by rw [ha]; simp)
  obtain ⟨q0, -, hw⟩ := xw_at (cA := cA) (ad := ad) (h := h) hm
  rw [show xw_en cA ad h (.inr a) = .inr (ci, fs.map (yc_cv ad)) by simp only [xw_en, ha]; rfl] at hw
  exact va_recv hK.1 hP hr hw
theorem xx_misc_s (hx : p.tables.exec = Jvm.exec) (hb : c.code = cc) (hts : ∀ w ∈ lw_all, w.before args s = true) (hown : s.vm.findClass (xo own) = some m.cls) (hK : xw_K D cA s) (hd : decode cc pc = .ok (i, len)) (h : xx_misc own i len pc lv st σ rec thr) (hthr : x_Thr p l e R s m args below meth c QQ D cA ad A thr)
    (hrec : ∀ g, rec g → yw_Snd p l e R s m args below meth c QQ ad nL (x_Rp D cA ad A s) g) : yw_Snd p l e R s m args below meth c QQ ad nL (x_Rp D cA ad A s) (pc, lv, st, σ) := by
  intro H locs cells slots ls hRp hl
  have hRp0 := hRp
  obtain ⟨L, hok, hP, hD, hS, rfl, rfl⟩ := hRp
  rcases h with ⟨v, h1, h2⟩ | ⟨idx, a, r, ci, fs, rfl, rfl, rfl, h4, h5, h6⟩ | ⟨q, r, fs, rfl, rfl, rfl, h4, h5⟩
  · have kk := hrec _ h2 H locs _ _ ls hRp0 hl
    unfold x_cst1 at h1
    split at h1
    · obtain ⟨t, ht1, ht2⟩ := x_l2_mem h1
      exact lv_ldc hx hb hown (hts _ (x_cst_ok _ ht1 _ ht2)) hd kk
    · obtain ⟨t, ht1, ht2⟩ := x_l2_mem h1
      exact lv_ldcw hx hb hown (hts _ (x_cst_ok _ ht1 _ ht2)) hd kk
    · cases h1
  · have kk := hrec _ h6 H locs _ _ ls hRp0 hl
    obtain ⟨t, ht1, ht2⟩ := x_l2_mem h4
    obtain ⟨rc, g1, g2⟩ := x_ck_ok _ ht1 _ ht2
    exact va_castE hx hb hown (hts _ g2) (x_recvD (ad := ad) hK hok hP h5 g1) hd kk
  · exact vx_athrow hx hb hd (hthr q fs σ h5 h4 H locs _ _ _ ls _ hRp0)
end XN
