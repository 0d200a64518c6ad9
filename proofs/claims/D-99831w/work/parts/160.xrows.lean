/-! THE SYSTEM's MACHINE: rows for cells of the world, standing or made -/
set_option maxRecDepth 100000
/-- what is known of the classes all through a run -/
def xw_K (D : va_G) (cA : Nat → ClassId) (U : State) : Prop := va_K D x_cl (x_tys cA) U ∧ (∀ f ∈ x_nF, va_Nw (x_cF f) U) ∧ (∀ f ∈ x_nC, va_Nw (.castable f.1 f.2) U) ∧ (∀ f ∈ x_nM, va_Nw (.methodLinkNest f.1 f.2.1 f.2.2.1 f.2.2.2) U) ∧ (∀ f ∈ x_nI, va_Fw f.1 f.2.1 f.2.2 U) ∧ va_AO "java/lang/Object" U
theorem xw_K.warm {D : va_G} {cA : Nat → ClassId} {s U : State} (hW : s.WarmedH U.vm) (h : xw_K D cA s) : xw_K D cA U :=
  ⟨va_K.moved hW.alike h.1, fun f hf => va_Nw.warmF hW (h.2.1 f hf), fun f hf => va_Nw.warmC hW (h.2.2.1 f hf), fun f hf => va_Nw.warmM hW (h.2.2.2.1 f hf), fun f hf => va_Fw.moved (x_nI_tbl f hf).2.2.2.2.2 hW.alike (h.2.2.2.2.1 f hf), va_AO.moved hW.alike h.2.2.2.2.2⟩
theorem xw_K.same {D : va_G} {cA : Nat → ClassId} {u U : State} (hv : u.vm = U.vm) (h : xw_K D cA u) : xw_K D cA U := by
  have ha : u.vm.Alike U.vm := by rw [hv]; exact Vm.Alike.refl U.vm
  exact ⟨va_K.moved ha h.1, fun f hf => va_Nw.same rfl hv (h.2.1 f hf), fun f hf => va_Nw.same rfl hv (h.2.2.1 f hf), fun f hf => va_Nw.same rfl hv (h.2.2.2.1 f hf), fun f hf => va_Fw.moved (x_nI_tbl f hf).2.2.2.2.2 ha (h.2.2.2.2.1 f hf), va_AO.moved ha h.2.2.2.2.2⟩
section XR
variable {p : Program} {l : Launch} {e : Env} {R : Room} {s : State} {m : MethodId} {args : Array Value} {below : List Frame} {meth : Method} {c : Code} {H : Heap} {locs : List Loc} {cells slots : Nat} {Q : State → Prop}
variable {cc : ByteArray} {pc : Nat} {ls : Array Slot} {rest : List Value} {D : va_G} {cA : Nat → ClassId} {ad : Nat × Nat → Nat} {A : Nat → Prop} {L : List xid} {h : xH} {own idx ci k ne : Nat} {iid : xid} {fs : List Value} {v : Value} {H0 : Heap}
theorem x_same {r : vw_C} {ref : String} (hts : ∀ w ∈ lw_all, w.before args s = true) (hsm : ref = (r.2.1 k).1 ∨ Cond.sameField ref (r.2.1 k).1 (r.2.1 k).2.1 (r.2.1 k).2.2.1 ∈ lw_all) : ∀ x, s.fieldFound? (r.2.1 k).1 (r.2.1 k).2.1 (r.2.1 k).2.2.1 = some x → s.fieldFound? ref (r.2.1 k).2.1 (r.2.1 k).2.2.1 = some x := by
  intro x hx
  rcases hsm with q | q
  · rw [q]; exact hx
  · exact u_same (hts _ q) x hx
theorem x_get_row (hx : p.tables.exec = Jvm.exec) (hb : c.code = cc) (hts : ∀ w ∈ lw_all, w.before args s = true) (hown : s.vm.findClass (xo own) = some m.cls) (hK : xw_K D cA s) (hP : va_P D x_cl (xw_ws cA ad L h) H) (hm : iid ∈ L) (he : xw_en cA ad h iid = .inr (ci, fs)) (hf : xf own idx = some (ci, k, ne)) (hv : fs[k]? = some v) (hd : decode cc pc = .ok (.getfield idx, 3))
    (kk : W p l e R s m args below meth c H locs cells slots Q (F0 m (pc + 3) ls (v :: rest))) : W p l e R s m args below meth c H locs cells slots Q (F0 m pc ls (.ref (xw_ad ad iid) :: rest)) := by
  obtain ⟨q0, -, hw⟩ := xw_at (cA := cA) (ad := ad) (h := h) hm
  rw [he] at hw
  obtain ⟨r, ref, hr, hk, hlk, hsm⟩ := xf_ok hf
  dsimp only at hr hk hlk hsm
  obtain ⟨f1, f2, f3⟩ := x_cok ci r hr
  rcases hlk with ⟨-, hl1⟩ | ⟨-, f, hf, hf2⟩
  · exact va_get (D := D) (ci := ci) (C := r.1) (T := r.2.1) (N := r.2.2) hx hb hts f1 hown hK.1 hP q0 hw hr k hk (hts _ hl1) (x_same hts hsm) hv hd kk
  · have hn := hK.2.1 f hf
    rw [hf2] at hn
    exact va_getN (D := D) (ci := ci) (C := r.1) (T := r.2.1) (N := r.2.2) hx hb hts f1 hown hK.1 hP q0 hw hr k hk (va_Nw.use rfl hn) (x_same hts hsm) hv hd kk
/-- may the field be written here: it isn't final, or this is a constructor of its class -/
def x_may (own ci k : Nat) (init : Prop) : Prop := ∀ r, x_cl[ci]? = some r → (r.2.1 k).2.2.2 = false ∨ ((r.2.1 k).2.2.2 = true ∧ init ∧ (r.2.1 k).1 = xo own)
theorem x_put_row (hx : p.tables.exec = Jvm.exec) (hb : c.code = cc) (hts : ∀ w ∈ lw_all, w.before args s = true) (hown : s.vm.findClass (xo own) = some m.cls) (hK : xw_K D cA s) (hok : xw_ok L h) (hP : va_P D x_cl (xw_ws cA ad L h) H) (hD : va_D A (xw_ws cA ad L h)) (hS : va_S A H0 H locs) (hm : iid ∈ L) (he : xw_en cA ad h iid = .inr (ci, fs)) (hf : xf own idx = some (ci, k, ne)) (hmay : x_may own ci k (meth.name = "<init>" ∧ ne = 0)) (hnar : narrow (x_ty ci k) v = v) (hfit : fits (x_ty ci k) v = true) (hlen : k < fs.length) (hd : decode cc pc = .ok (.putfield idx, 3))
    {h' : xH} (he' : xw_en cA ad h' iid = .inr (ci, fs.set k v)) (ho : ∀ j, j ∈ L → j ≠ iid → xw_en cA ad h' j = xw_en cA ad h j)
    (kk : ∀ (H1 : Heap) (locs1 : List Loc), va_P D x_cl (xw_ws cA ad L h') H1 → va_D A (xw_ws cA ad L h') → va_S A H0 H1 locs1 → W p l e R s m args below meth c H1 locs1 cells slots Q (F0 m (pc + 3) ls rest)) : W p l e R s m args below meth c H locs cells slots Q (F0 m pc ls (v :: .ref (xw_ad ad iid) :: rest)) := by
  obtain ⟨q0, hq, hw⟩ := xw_at (cA := cA) (ad := ad) (h := h) hm
  rw [he] at hw
  obtain ⟨r, ref, hr, hk, hlk, hsm⟩ := xf_ok hf
  dsimp only at hr hk hlk hsm
  obtain ⟨f1, f2, f3⟩ := x_cok ci r hr
  have hset := xw_set (cA := cA) (ad := ad) (h := h) (h' := h') hok.1 hq he' ho
  have hpf : parseFieldDescriptor (r.2.1 k).2.2.1 = some (x_ty ci k) := f2 k hk
  rcases hmay r hr with hfin | ⟨hfin, hini, hdecl⟩
  · rcases hlk with ⟨-, hl1⟩ | ⟨-, f, hf, hf2⟩
    · exact va_put (D := D) (ci := ci) (C := r.1) (T := r.2.1) (N := r.2.2) hx hb hts f1 (x_ty ci) f2 f3 hown hK.1 hP hD hS q0 hw hr k hk (hts _ hl1) (x_same hts hsm) hfin hpf hnar hfit hlen hd (fun H1 locs1 h1 h2 h3 => kk H1 locs1 (by rw [← hset]; exact h1) (by rw [← hset]; exact h2) h3)
    · have hn := hK.2.1 f hf
      rw [hf2] at hn
      exact va_putN (D := D) (ci := ci) (C := r.1) (T := r.2.1) (N := r.2.2) hx hb hts f1 (x_ty ci) f2 f3 hown hK.1 hP hD hS q0 hw hr k hk (va_Nw.use rfl hn) (x_same hts hsm) hfin hpf hnar hfit hlen hd (fun H1 locs1 h1 h2 h3 => kk H1 locs1 (by rw [← hset]; exact h1) (by rw [← hset]; exact h2) h3)
  · rcases hlk with ⟨-, hl1⟩ | ⟨hne, -⟩
    · exact va_putF (D := D) (ci := ci) (C := r.1) (T := r.2.1) (N := r.2.2) hx hb hts f1 (x_ty ci) f2 f3 hown hK.1 hP hD hS q0 hw hr k hk (hts _ hl1) (x_same hts hsm) hfin hini.1 hdecl hpf hnar hfit hlen hd (fun H1 locs1 h1 h2 h3 => kk H1 locs1 (by rw [← hset]; exact h1) (by rw [← hset]; exact h2) h3)
    · rw [hini.2] at hne; cases hne
variable {n t : Nat} {f : Nat → Int32} {i x : Int32}
theorem x_ald_row (hx : p.tables.exec = Jvm.exec) (hb : c.code = cc) (hK : xw_K D cA s) (hP : va_P D x_cl (xw_ws cA ad L h) H) (hm : iid ∈ L) (he : xw_en cA ad h iid = .inl (cA t, n, .inl f)) {op : Instr} (hop : (t = 0 ∧ op = .iaload) ∨ (t = 1 ∧ op = .baload) ∨ (t = 2 ∧ op = .baload)) (hin : vp_in i n) (hd : decode cc pc = .ok (op, 1))
    (kk : W p l e R s m args below meth c H locs cells slots Q (F0 m (pc + 1) ls (.int (f i.toNatClampNeg) :: rest))) : W p l e R s m args below meth c H locs cells slots Q (F0 m pc ls (.int i :: .ref (xw_ad ad iid) :: rest)) := by
  obtain ⟨q0, -, hw⟩ := xw_at (cA := cA) (ad := ad) (h := h) hm
  rw [he] at hw
  rcases hop with ⟨rfl, rfl⟩ | ⟨rfl, rfl⟩ | ⟨rfl, rfl⟩
  · exact va_iald hx hb hK.1 hP q0 0 hw rfl hin hd kk
  · exact va_bald hx hb hK.1 hP q0 1 hw rfl hin hd kk
  · exact va_zald hx hb hK.1 hP q0 2 hw rfl hin hd kk
theorem x_ast_row (hx : p.tables.exec = Jvm.exec) (hb : c.code = cc) (hK : xw_K D cA s) (hok : xw_ok L h) (hP : va_P D x_cl (xw_ws cA ad L h) H) (hD : va_D A (xw_ws cA ad L h)) (hS : va_S A H0 H locs) (hm : iid ∈ L) (he : xw_en cA ad h iid = .inl (cA t, n, .inl f)) {op : Instr} {y : Int32} (hop : (t = 0 ∧ op = .iastore ∧ y = x) ∨ (t = 1 ∧ op = .bastore ∧ y = vp_nar .byte x) ∨ (t = 2 ∧ op = .bastore ∧ y = vp_nar .boolean x)) (hin : vp_in i n) (hd : decode cc pc = .ok (op, 1))
    {h' : xH} (he' : xw_en cA ad h' iid = .inl (cA t, n, .inl (upd f i.toNatClampNeg y))) (ho : ∀ j, j ∈ L → j ≠ iid → xw_en cA ad h' j = xw_en cA ad h j)
    (kk : ∀ (H1 : Heap) (locs1 : List Loc), va_P D x_cl (xw_ws cA ad L h') H1 → va_D A (xw_ws cA ad L h') → va_S A H0 H1 locs1 → W p l e R s m args below meth c H1 locs1 cells slots Q (F0 m (pc + 1) ls rest)) : W p l e R s m args below meth c H locs cells slots Q (F0 m pc ls (.int x :: .int i :: .ref (xw_ad ad iid) :: rest)) := by
  obtain ⟨q0, hq, hw⟩ := xw_at (cA := cA) (ad := ad) (h := h) hm
  rw [he] at hw
  have hset := xw_set (cA := cA) (ad := ad) (h := h) (h' := h') hok.1 hq he' ho
  rcases hop with ⟨rfl, rfl, rfl⟩ | ⟨rfl, rfl, rfl⟩ | ⟨rfl, rfl, rfl⟩
  · exact va_iast hx hb hK.1 hP hD hS q0 0 hw rfl hin hd (fun H1 locs1 h1 h2 h3 => kk H1 locs1 (by rw [← hset]; exact h1) (by rw [← hset]; exact h2) h3)
  · exact va_bast hx hb hK.1 hP hD hS q0 1 hw rfl hin hd (fun H1 locs1 h1 h2 h3 => kk H1 locs1 (by rw [← hset]; exact h1) (by rw [← hset]; exact h2) h3)
  · exact va_zast hx hb hK.1 hP hD hS q0 2 hw rfl hin hd (fun H1 locs1 h1 h2 h3 => kk H1 locs1 (by rw [← hset]; exact h1) (by rw [← hset]; exact h2) h3)
theorem x_alen_row {y : vp_A} (hx : p.tables.exec = Jvm.exec) (hb : c.code = cc) (hK : xw_K D cA s) (hP : va_P D x_cl (xw_ws cA ad L h) H) (hm : iid ∈ L) (he : xw_en cA ad h iid = .inl (cA t, y)) (ht : t < 6) (hd : decode cc pc = .ok (.arraylength, 1))
    (kk : W p l e R s m args below meth c H locs cells slots Q (F0 m (pc + 1) ls (.int (nI y.1) :: rest))) : W p l e R s m args below meth c H locs cells slots Q (F0 m pc ls (.ref (xw_ad ad iid) :: rest)) := by
  obtain ⟨q0, -, hw⟩ := xw_at (cA := cA) (ad := ad) (h := h) hm
  rw [he] at hw
  obtain ⟨ty, hty⟩ : ∃ ty, (x_tys cA)[t]? = some (cA t, ty) := by
    match t, ht with
    | 0, _ => exact ⟨_, rfl⟩
    | 1, _ => exact ⟨_, rfl⟩
    | 2, _ => exact ⟨_, rfl⟩
    | 3, _ => exact ⟨_, rfl⟩
    | 4, _ => exact ⟨_, rfl⟩
    | 5, _ => exact ⟨_, rfl⟩
  exact va_alen (v := nI y.1) hx hb hK.1 hP q0 t hw hty rfl hd kk
theorem x_aald_row {g : Nat → Option Nat} (hx : p.tables.exec = Jvm.exec) (hb : c.code = cc) (hK : xw_K D cA s) (hP : va_P D x_cl (xw_ws cA ad L h) H) (hm : iid ∈ L) (he : xw_en cA ad h iid = .inl (cA t, n, .inr (.inr (.inr (.inr g))))) (ht : t = 3 ∨ t = 4 ∨ t = 5) (hin : vp_in i n) (hd : decode cc pc = .ok (.aaload, 1))
    (kk : W p l e R s m args below meth c H locs cells slots Q (F0 m (pc + 1) ls (va_rf (g i.toNatClampNeg) :: rest))) : W p l e R s m args below meth c H locs cells slots Q (F0 m pc ls (.int i :: .ref (xw_ad ad iid) :: rest)) := by
  obtain ⟨q0, -, hw⟩ := xw_at (cA := cA) (ad := ad) (h := h) hm
  rw [he] at hw
  have hlt : i.toNatClampNeg < n := Nat.not_le.mp fun q => hin (Or.inr q)
  rcases ht with rfl | rfl | rfl
  · exact va_aldq hx hb hK.1 hP q0 3 hw rfl hin hd kk
  · exact va_aldq hx hb hK.1 hP q0 4 hw rfl hin hd kk
  · exact W.aald (v := va_rf (g i.toNatClampNeg)) (ty := .array .int) hx hb (hP q0 _ hw) ((hK.1.2 5 _ rfl).1 n (fun j => va_rf (g j))) rfl (fun q => by cases q) (by show ¬ (i < 0 ∨ (arrV _ _ _).slots.size ≤ _); rw [arrV_size]; exact hin) (by show (arrV _ _ _).slots[_]? = _; rw [arrV_read _ _ hlt]) rfl rfl hd kk
variable {fz : List zv} {N : Nat}
/-- a new cell: the list of cells grows -/
theorem xw_push {e0 : xE} {q : Nat} (hok : xw_ok L h) (hD : va_D A (xw_ws cA ad L h ++ [(q, xd_en cA ad e0)])) : h.2.2.2.2.2 q = none ∧ xw_ws cA ad L h ++ [(q, xd_en cA ad e0)] = xw_ws cA ad (L ++ [.inr q]) (xsD h q e0) ∧ xw_ok (L ++ [.inr q]) (xsD h q e0) := by
  have hn : (.inr q : xid) ∉ L := by
    intro hm
    obtain ⟨q0, hq, hw⟩ := xw_at (cA := cA) (ad := ad) (h := h) hm
    have hlt : q0 < (xw_ws cA ad L h).length := (List.getElem?_eq_some_iff.mp hw).1
    have h1 : (xw_ws cA ad L h ++ [(q, xd_en cA ad e0)])[q0]? = some (q, xw_en cA ad h (.inr q)) := by rw [List.getElem?_append_left hlt]; exact hw
    have h2 : (xw_ws cA ad L h ++ [(q, xd_en cA ad e0)])[(xw_ws cA ad L h).length]? = some (q, xd_en cA ad e0) := by rw [List.getElem?_append_right (Nat.le_refl _)]; simp
    have := hD.1 _ _ _ _ h1 h2 rfl
    omega
  have hdy : h.2.2.2.2.2 q = none := by
    cases hc : h.2.2.2.2.2 q with
    | none => rfl
    | some z => exact absurd ((hok.2.2 q).mpr (by rw [hc]; simp)) hn
  have hself : xw_en cA ad (xsD h q e0) (.inr q) = xd_en cA ad e0 := by simp [xw_en, xsD, va_up]
  have hoth : ∀ j, j ∈ L → xw_en cA ad (xsD h q e0) j = xw_en cA ad h j := by
    intro j hj
    cases j with
    | inl z => rfl
    | inr b =>
      have : b ≠ q := fun e => hn (by rw [← e]; exact hj)
      simp [xw_en, xsD, va_up, this]
  refine ⟨hdy, ?_, ?_, ?_, ?_⟩
  · unfold xw_ws
    rw [List.map_append]
    congr 1
    · apply List.map_congr_left
      intro j hj
      rw [hoth j hj]
    · simp only [List.map_cons, List.map_nil, xw_ad, hself]
  · rw [List.nodup_append]
    refine ⟨hok.1, by simp, ?_⟩
    intro a ha b hb hab
    simp only [List.mem_cons, List.not_mem_nil, or_false] at hb
    subst hb
    subst hab
    exact hn ha
  · intro z
    rw [List.mem_append, hok.2.1]
    simp
  · intro b
    rw [List.mem_append, hok.2.2]
    simp only [xsD, va_up, List.mem_cons, List.not_mem_nil, or_false, Sum.inr.injEq]
    by_cases e : b = q
    · subst e; simp
    · simp [e]
def x_dflt (ci N : Nat) : List zv := (List.range N).map (fun k => .inl (defaultValue (x_ty ci k)))
theorem x_new_row {C : String} {T : u_T} (hx : p.tables.exec = Jvm.exec) (hb : c.code = cc) (hts : ∀ w ∈ lw_all, w.before args s = true) (hown : s.vm.findClass (xo own) = some m.cls) (hK : xw_K D cA s) (hok : xw_ok L h) (hP : va_P D x_cl (xw_ws cA ad L h) H) (hD : va_D A (xw_ws cA ad L h)) (hS : va_S A H0 H locs) (hA : ∀ q, H0.size ≤ q → A q)
    (hc : x_cl[ci]? = some (C, T, N)) (hl : Cond.classLink (xo own) idx C ∈ lw_all) (hi : Cond.instantiable C N ∈ lw_all) (hn : Cond.initialized C ∈ lw_all) (hcells : cells + 1 ≤ R.cells) (hslots : slots + N ≤ R.slots) (hd : decode cc pc = .ok (.new idx, 3))
    (kk : ∀ (q : Nat) (H1 : Heap), h.2.2.2.2.2 q = none → xw_ok (L ++ [.inr q]) (xsD h q (.inl (ci, x_dflt ci N))) → va_P D x_cl (xw_ws cA ad (L ++ [.inr q]) (xsD h q (.inl (ci, x_dflt ci N)))) H1 → va_D A (xw_ws cA ad (L ++ [.inr q]) (xsD h q (.inl (ci, x_dflt ci N)))) → va_S A H0 H1 locs → W p l e R s m args below meth c H1 locs (cells + 1) (slots + N) Q (F0 m (pc + 3) ls (.ref q :: rest))) : W p l e R s m args below meth c H locs cells slots Q (F0 m pc ls rest) := by
  obtain ⟨f1, f2, f3⟩ := x_cok ci _ hc
  refine va_new (D := D) (ci := ci) (fs := (x_dflt ci N).map (yc_cv ad)) (C := C) (T := T) (N := N) hx hb hts f1 (x_ty ci) f2 hown (hts _ hl) (hts _ hi) (hts _ hn) hK.1 hP hD hS hA hc ?_ hcells hslots hd ?_
  · intro j hj
    simp [vp_V, x_dflt, yc_cv, List.getElem?_range hj]
  · intro q H1 h1 h2 h3
    obtain ⟨g1, g2, g3⟩ := xw_push (cA := cA) (ad := ad) (e0 := .inl (ci, x_dflt ci N)) hok h2
    exact kk q H1 g1 g3 (by rw [← g2]; exact h1) (by rw [← g2]; exact h2) h3
theorem x_cA_eq {D : va_G} {cl : List vw_C} {tys : List (ClassId × FieldType)} {cB : ClassId} {ty : FieldType} {U : State} (hK : va_K D cl (tys ++ [(cB, ty)]) U) {t0 : Nat} {cT : ClassId} (ht : tys[t0]? = some (cT, ty)) : cB = cT := by
  have h1 := (hK.2 tys.length (cB, ty) (by simp)).2
  have h2 := (hK.2 t0 (cT, ty) (by rw [List.getElem?_append_left (List.getElem?_eq_some_iff.mp ht).1]; exact ht)).2
  cases ty with
  | object C =>
    obtain ⟨_, _, _, _, _, a4⟩ := h1
    obtain ⟨_, _, _, _, _, b4⟩ := h2
    exact Option.some.inj (a4.symm.trans b4)
  | _ => exact Option.some.inj (h1.symm.trans h2)
theorem x_newa_row (hx : p.tables.exec = Jvm.exec) (hb : c.code = cc) (hts : ∀ w ∈ lw_all, w.before args s = true) (hK : xw_K D cA s) (hok : xw_ok L h) (hP : va_P D x_cl (xw_ws cA ad L h) H) (hD : va_D A (xw_ws cA ad L h)) (hS : va_S A H0 H locs) (hA : ∀ q, H0.size ≤ q → A q)
    {atype : ArrayType} (ht : (t = 0 ∧ atype = .int) ∨ (t = 1 ∧ atype = .byte)) (hi : ¬ i < 0) (hN : i.toNatClampNeg = N) (hb9 : N ≤ 100000) (hcells : cells + 1 ≤ R.cells) (hslots : slots + N ≤ R.slots) (hd : decode cc pc = .ok (.newarray atype, 2))
    (kk : ∀ (q : Nat) (H1 : Heap), h.2.2.2.2.2 q = none → xw_ok (L ++ [.inr q]) (xsD h q (.inr (.inl (t, N, fun _ => 0)))) → va_P D x_cl (xw_ws cA ad (L ++ [.inr q]) (xsD h q (.inr (.inl (t, N, fun _ => 0))))) H1 → va_D A (xw_ws cA ad (L ++ [.inr q]) (xsD h q (.inr (.inl (t, N, fun _ => 0))))) → va_S A H0 H1 locs → W p l e R s m args below meth c H1 locs (cells + 1) (slots + N) Q (F0 m (pc + 2) ls (.ref q :: rest))) : W p l e R s m args below meth c H locs cells slots Q (F0 m pc ls (.int i :: rest)) := by
  rcases ht with ⟨rfl, rfl⟩ | ⟨rfl, rfl⟩
  · refine va_newa (atype := .int) (ty := .int) (a0 := (N, .inl (fun _ => 0))) hx hb (hts _ q330) rfl hK.1 hP hD hS hA (fun _ => rfl) hi hN (by simp only [componentBytes]; omega) hcells hslots hd (fun q cB H1 h0 h1 h2 h3 => ?_)
    have e0 := x_cA_eq (t0 := 0) h0 rfl
    subst e0
    obtain ⟨g1, g2, g3⟩ := xw_push (cA := cA) (ad := ad) (e0 := .inr (.inl (0, N, fun _ => 0))) hok h2
    exact kk q H1 g1 g3 (by rw [← g2]; exact h1) (by rw [← g2]; exact h2) h3
  · refine va_newa (atype := .byte) (ty := .byte) (a0 := (N, .inl (fun _ => 0))) hx hb (hts _ q202) rfl hK.1 hP hD hS hA (fun _ => rfl) hi hN (by simp only [componentBytes]; omega) hcells hslots hd (fun q cB H1 h0 h1 h2 h3 => ?_)
    have e0 := x_cA_eq (t0 := 1) h0 rfl
    subst e0
    obtain ⟨g1, g2, g3⟩ := xw_push (cA := cA) (ad := ad) (e0 := .inr (.inl (1, N, fun _ => 0))) hok h2
    exact kk q H1 g1 g3 (by rw [← g2]; exact h1) (by rw [← g2]; exact h2) h3
theorem x_newq_row (hx : p.tables.exec = Jvm.exec) (hb : c.code = cc) (hts : ∀ w ∈ lw_all, w.before args s = true) (hown : s.vm.findClass (xo own) = some m.cls) (hK : xw_K D cA s) (hok : xw_ok L h) (hP : va_P D x_cl (xw_ws cA ad L h) H) (hD : va_D A (xw_ws cA ad L h)) (hS : va_S A H0 H locs) (hA : ∀ q, H0.size ≤ q → A q)
    (hl : Cond.classLink (xo own) idx "java/lang/Object" ∈ lw_all) (hi : ¬ i < 0) (hN : i.toNatClampNeg = N) (hb9 : N ≤ 100000) (hcells : cells + 1 ≤ R.cells) (hslots : slots + N ≤ R.slots) (hd : decode cc pc = .ok (.anewarray idx, 3))
    (kk : ∀ (q : Nat) (H1 : Heap), h.2.2.2.2.2 q = none → xw_ok (L ++ [.inr q]) (xsD h q (.inr (.inr (4, N, fun _ => none)))) → va_P D x_cl (xw_ws cA ad (L ++ [.inr q]) (xsD h q (.inr (.inr (4, N, fun _ => none))))) H1 → va_D A (xw_ws cA ad (L ++ [.inr q]) (xsD h q (.inr (.inr (4, N, fun _ => none))))) → va_S A H0 H1 locs → W p l e R s m args below meth c H1 locs (cells + 1) (slots + N) Q (F0 m (pc + 3) ls (.ref q :: rest))) : W p l e R s m args below meth c H locs cells slots Q (F0 m pc ls (.int i :: rest)) := by
  refine va_newq hx hb hown (hts _ hl) hK.2.2.2.2.2 hK.1 hP hD hS hA hi hN (by omega) hcells hslots hd (fun q cB H1 h0 h1 h2 h3 => ?_)
  have e0 := x_cA_eq (t0 := 4) h0 rfl
  subst e0
  obtain ⟨g1, g2, g3⟩ := xw_push (cA := cA) (ad := ad) (e0 := .inr (.inr (4, N, fun _ => none))) hok h2
  exact kk q H1 g1 g3 (by rw [← g2]; exact h1) (by rw [← g2]; exact h2) h3
end XR
