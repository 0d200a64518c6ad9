/-! THE SYSTEM's MACHINE: the whole -/
set_option maxRecDepth 100000
section XC2
variable {p : Program} {l : Launch} {e : Env} {s : State} {m : MethodId} {args : Array Value} {below : List Frame} {meth : Method} {c : Code} {QQ : State → Prop}
variable {cc : ByteArray} {nL : Nat} {ad : Nat × Nat → Nat} {D : va_G} {cA : Nat → ClassId} {A : Nat → Prop} {i : Instr} {len pc own mc ms d : Nat} {lv : yc_L} {st : List zv} {σ : xS} {rec : yw_F xS → Prop} {thr : zv → xS → Prop}
theorem zx_blind (L : List xid) (sz : Nat) (a : List zv) (h : xH) : FrameBlind (zx_Pc D cA ad L sz a h) := by
  intro a1 U g mk q
  obtain ⟨q0, q1, qP, qD, qK⟩ := q
  exact ⟨q0, q1, qP, qD, xw_K.same rfl qK⟩
theorem x_recv {L : List xid} {h : xH} {H : Heap} {ci : Nat} {v : zv} {r : vw_C} (hK : xw_K D cA s) (hok : xw_ok L h) (hP : va_P D x_cl (xw_ws cA ad L h) H) (hv : x_rc h v ci) (hr : x_cl[ci]? = some r) : ∃ b, yc_cv ad v = .ref b ∧ ∃ cell : Cell, H[b]? = some cell ∧ cell.vm.isStatics = false ∧ s.vm.findClass r.1 = some cell.cls := by
  rcases hv with ⟨rfl, rfl⟩ | ⟨j, hj, rfl, rfl⟩ | ⟨a, fs, rfl, ha⟩
  · obtain ⟨q0, -, hw⟩ := xw_at (cA := cA) (ad := ad) (h := h) ((hok.2.1 (0, 0)).mpr (xs_inb_mem rfl))
    exact ⟨ad (0, 0), rfl, va_recv hK.1 hP hr hw⟩
  · obtain ⟨q0, -, hw⟩ := xw_at (cA := cA) (ad := ad) (h := h) ((hok.2.1 (1, j)).mpr (xs_ids_mem (n := 46) rfl hj))
    exact ⟨ad (1, j), rfl, va_recv hK.1 hP hr hw⟩
  · exact ⟨a, rfl, x_recvD (ad := ad) hK hok hP ha hr⟩
theorem xx_call_s {C : zx_C} (hCt : ∀ y kc ks a h Q, C y kc ks a h Q → ∃ t, zc_look x_tab y = some t) (hx : p.tables.exec = Jvm.exec) (hb : c.code = cc) (hml : c.maxLocals = nL) (hts : ∀ w ∈ lw_all, w.before args s = true) (hown : s.vm.findClass (xo own) = some m.cls) (hK : xw_K D cA s) (hA : ∀ q, s.heap.size ≤ q → A q)
    (ih : ∀ y kc ks a h Q t, zc_look x_tab y = some t → C y kc ks a h Q → zx_Met l D cA ad d t kc ks a h Q)
    (hd : decode cc pc = .ok (i, len)) (h : xx_call own mc ms C i len pc lv st σ rec thr) (hthr : x_Thr p l e (zx_rm (d + 1) mc ms) s m args below meth c QQ D cA ad A thr)
    (hrec : ∀ g, rec g → yw_Snd p l e (zx_rm (d + 1) mc ms) s m args below meth c QQ ad nL (x_Rp D cA ad A s) g) : yw_Snd p l e (zx_rm (d + 1) mc ms) s m args below meth c QQ ad nL (x_Rp D cA ad A s) (pc, lv, st, σ) := by
  obtain ⟨how, y, ci, kc, ks, a, r, h1, h2, h3, h4, h5⟩ := h
  obtain ⟨t, hyt⟩ := hCt _ _ _ _ _ _ h5
  have hM := ih _ _ _ _ _ _ t hyt h5
  obtain ⟨f1, f2, f3, f4, f5, f6, f7, f8⟩ := x_tab_ok _ (zc_look_mem hyt)
  dsimp only at f1 f2 f3 f4 f5 f6 f7 f8
  intro H locs cells slots ls hRp hl
  obtain ⟨L, hok, hP, hD, hS, rfl, rfl⟩ := hRp
  have hM := hM L H.size hok
  have hroom : (zx_rm d kc ks).frames + 1 ≤ (zx_rm (d + 1) mc ms).frames ∧ 8 + (t.2.2.1 + 11) + (zx_rm d kc ks).locals ≤ (zx_rm (d + 1) mc ms).locals := by
    simp only [zx_rm]
    omega
  have hfit : σ.2.1 + kc ≤ (zx_rm (d + 1) mc ms).cells ∧ σ.2.2 + ks ≤ (zx_rm (d + 1) mc ms).slots := ⟨h3, h4⟩
  have hDt : va_D (fun _ => True) (xw_ws cA ad L σ.1) := hD.weaken (fun _ _ _ _ => trivial)
  unfold x_inv at h1
  split at h1
  · rename_i idx
    split at h1
    · rename_i y' n ci' hq
      split at h1
      · rename_i a' v r' hp
        cases hr : Nat.ble r'.length 4 with
        | false => rw [hr] at h1; cases h1
        | true =>
          rw [hr] at h1
          cases h1
          obtain ⟨tt, ht1, ht2⟩ := x_l2_mem hq
          obtain ⟨rc, hrc, hcls, ⟨g1, g2, g3⟩, g4⟩ := x_lkV_ok _ ht1 _ ht2 t hyt
          dsimp only at g1 g4 hrc
          obtain ⟨v2, a2, he, hv⟩ := h2 rfl
          cases he
          obtain ⟨b, hvb, hrv⟩ := x_recv (ad := ad) hK hok hP hv hrc
          obtain ⟨hst, hlen⟩ := ypops_map ad hp
          rw [List.map_cons, hvb] at hst
          refine zx_back (lv := lv) (r := r) (L := L) (σ := σ) (thr := thr) (rec := rec) (kc := kc) (ks := ks) (vx_runV (As := a'.map (yc_cv ad)) (b := b) (C := rc.1) ⟨hx, hb, hml, hown, hts⟩ hM
            (cwV n hts (lw_V g1 g2 g3 (by rw [← hcls]; exact f4) f3) rfl rfl rfl ⟨hcls, f5.1, f5.2, g4⟩ hroom)
            ⟨zx_blind _ _ _ _, hrv, fun U hU hW => ⟨by rw [List.map_cons, hvb], by rw [hU], by rw [hU]; exact hP, hDt, xw_K.warm hW hK⟩⟩ rfl (by simpa using hlen) hl.2.1 hst
            (lv_room (y_cat_le ad _ (Nat.le_of_ble_eq_true hr))) hd hfit) hA hD hS hl (fun v u q => q) (fun q u w => w) hthr hrec
      · cases h1
    · cases h1
  · rename_i idx
    split at h1
    · rename_i y' n ne hq
      split at h1
      · rename_i a' r' hp
        cases hr : Nat.ble r'.length 4 with
        | false => rw [hr] at h1; cases h1
        | true =>
          rw [hr] at h1
          cases h1
          obtain ⟨tt, ht1, ht2⟩ := x_l2_mem hq
          obtain ⟨g0, g4⟩ := x_lkS_ok _ ht1 _ ht2 t hyt
          dsimp only at g0 g4
          obtain ⟨hst, hlen⟩ := ypops_map ad hp
          rcases g0 with ⟨-, g1, g2⟩ | ⟨-, f, hf, hfe, g2⟩
          · refine zx_back (lv := lv) (r := r) (L := L) (σ := σ) (thr := thr) (rec := rec) (kc := kc) (ks := ks) (vx_runS (As := a.map (yc_cv ad)) ⟨hx, hb, hml, hown, hts⟩ hM
              (va_cwS n hts (lw_S g1 g2 f4 f3) rfl rfl rfl ⟨f5.1, f5.2, g4⟩ hroom)
              ⟨zx_blind _ _ _ _, fun U hU hW => ⟨rfl, by rw [hU], by rw [hU]; exact hP, hDt, xw_K.warm hW hK⟩⟩ rfl (by simpa using hlen) hl.2.1 hst
              (lv_room (y_cat_le ad _ (Nat.le_of_ble_eq_true hr))) hd hfit) hA hD hS hl (fun v u q => q) (fun q u w => w) hthr hrec
          · have hn := hK.2.2.2.1 f hf
            rw [hfe] at hn
            refine zx_back (lv := lv) (r := r) (L := L) (σ := σ) (thr := thr) (rec := rec) (kc := kc) (ks := ks) (vx_runSN (As := a.map (yc_cv ad)) (host := f.2.2.2) ⟨hx, hb, hml, hown, hts⟩ hM
              ⟨va_cnB n hts (lw_meth f3) rfl rfl rfl hn (hts _ f4) ⟨f5.1, f5.2, g4⟩ hroom, hts _ g2, trivial⟩
              ⟨zx_blind _ _ _ _, fun U hU hW => ⟨rfl, by rw [hU], by rw [hU]; exact hP, hDt, xw_K.warm hW hK⟩⟩ rfl (by simpa using hlen) hl.2.1 hst
              (lv_room (y_cat_le ad _ (Nat.le_of_ble_eq_true hr))) hd hfit) hA hD hS hl (fun v u q => q) (fun q u w => w) hthr hrec
      · cases h1
    · cases h1
  · rename_i idx
    split at h1
    · rename_i y' n ne hq
      split at h1
      · rename_i a' b r' hp
        cases hr : Nat.ble r'.length 4 with
        | false => rw [hr] at h1; cases h1
        | true =>
          rw [hr] at h1
          cases h1
          obtain ⟨tt, ht1, ht2⟩ := x_l2_mem hq
          obtain ⟨g0, gi, gn, g4⟩ := x_lkI_ok _ ht1 _ ht2 t hyt
          dsimp only at g0 g4
          obtain ⟨hst, hlen⟩ := ypops_map ad hp
          obtain ⟨N, cd, mL, rt, cats, o9, ini⟩ := t
          dsimp only at gi gn hM f1 f2 f3 f4 f5 f6 f7 f8 hroom g0 g4
          subst gn
          rcases g0 with ⟨-, g1, g2⟩ | ⟨-, f, hf, hfe, g2⟩
          · refine zx_back (lv := lv) (r := r) (L := L) (σ := σ) (thr := thr) (rec := rec) (kc := kc) (ks := ks) (vx_runI (As := a'.map (yc_cv ad)) (b := b) ⟨hx, hb, hml, hown, hts⟩ hM
              (cwI n hts (lw_meth f3) rfl rfl rfl (hts _ f4) (hts _ g1) (hts _ g2) (f8 gi) ⟨f5.1, f5.2, g4⟩ hroom)
              ⟨zx_blind _ _ _ _, fun U hU hW => ⟨rfl, by rw [hU], by rw [hU]; exact hP, hDt, xw_K.warm hW hK⟩⟩ rfl (by simpa using hlen) hl.2.1 hst
              (lv_room (y_cat_le ad _ (Nat.le_of_ble_eq_true hr))) hd hfit) hA hD hS hl (fun v u q => q) (fun q u w => w) hthr hrec
          · have hn := hK.2.2.2.1 f hf
            rw [hfe] at hn
            refine zx_back (lv := lv) (r := r) (L := L) (σ := σ) (thr := thr) (rec := rec) (kc := kc) (ks := ks) (vx_runIN (As := a'.map (yc_cv ad)) (b := b) (host := f.2.2.2) ⟨hx, hb, hml, hown, hts⟩ hM
              ⟨va_cnB n hts (lw_meth f3) rfl rfl rfl hn (hts _ f4) ⟨f5.1, f5.2, g4⟩ hroom, f8 gi, hts _ g2⟩
              ⟨zx_blind _ _ _ _, fun U hU hW => ⟨rfl, by rw [hU], by rw [hU]; exact hP, hDt, xw_K.warm hW hK⟩⟩ rfl (by simpa using hlen) hl.2.1 hst
              (lv_room (y_cat_le ad _ (Nat.le_of_ble_eq_true hr))) hd hfit) hA hD hS hl (fun v u q => q) (fun q u w => w) hthr hrec
      · cases h1
    · cases h1
  · cases h1
end XC2
/-- all instructions of the system's machine beyond the core -/
def zx_X (own : Nat) (ini : Bool) (mc ms : Nat) (C : zx_C) : yw_X xS := fun i len pc lv st σ rec thr =>
  xx_get own i len pc lv st σ rec thr ∨ xx_put own ini i len pc lv st σ rec thr ∨ xx_arr i len pc lv st σ rec thr ∨ xx_new own mc ms i len pc lv st σ rec thr ∨ xx_misc own i len pc lv st σ rec thr ∨ xx_call own mc ms C i len pc lv st σ rec thr ∨ xx_obj own i len pc lv st σ rec thr
theorem zx_X_mono {own mc ms : Nat} {ini : Bool} {C : zx_C} (hC : ∀ y kc ks a h Q Q', (∀ o u, Q o u → Q' o u) → C y kc ks a h Q → C y kc ks a h Q') : yw_mono (zx_X own ini mc ms C) := by
  intro P P' h T T' hT i len pc lv st σ hs
  rcases hs with h1 | h1 | h1 | h1 | h1 | h1 | h1
  · exact Or.inl (xx_get_mono own P P' h T T' hT _ _ _ _ _ _ h1)
  · exact Or.inr (Or.inl (xx_put_mono own ini P P' h T T' hT _ _ _ _ _ _ h1))
  · exact Or.inr (Or.inr (Or.inl (xx_arr_mono P P' h T T' hT _ _ _ _ _ _ h1)))
  · exact Or.inr (Or.inr (Or.inr (Or.inl (xx_new_mono own mc ms P P' h T T' hT _ _ _ _ _ _ h1))))
  · exact Or.inr (Or.inr (Or.inr (Or.inr (Or.inl (xx_misc_mono own P P' h T T' hT _ _ _ _ _ _ h1)))))
  · exact Or.inr (Or.inr (Or.inr (Or.inr (Or.inr (Or.inl (xx_call_mono hC P P' h T T' hT _ _ _ _ _ _ h1))))))
  · exact Or.inr (Or.inr (Or.inr (Or.inr (Or.inr (Or.inr (xx_obj_mono own P P' h T T' hT _ _ _ _ _ _ h1))))))
/-- a call of method y at depth d, that may make kc cells of ks slots -/
def zx_call : Nat → zx_C
  | 0, _, _, _, _, _, _ => False
  | d + 1, y, mc, ms, a, h, Q => ∃ t, zc_look x_tab y = some t ∧ yc_cats t.2.2.2.2.1 a = true ∧ yw_P (zx_X t.2.2.2.2.2.1 t.2.2.2.2.2.2 mc ms (zx_call d)) t.2.2.2.1 t.2.1 (fun o u => Q o u.1) (0, yc_pad t.2.2.1 (yc_ent t.2.2.2.2.1 a), [], (h, 0, 0))
theorem zx_call_mono : ∀ (d y kc ks : Nat) (a : List zv) (h : xH) (Q Q' : yo → xH → Prop), (∀ o u, Q o u → Q' o u) → zx_call d y kc ks a h Q → zx_call d y kc ks a h Q' := by
  intro d
  induction d with
  | zero => intro y kc ks a h Q Q' _ q; exact q
  | succ d ih =>
    intro y kc ks a h Q Q' hQ q
    obtain ⟨t, h1, h2, h3⟩ := q
    exact ⟨t, h1, h2, yw_cq (zx_X_mono ih) (fun o u => hQ o u.1) h3⟩
theorem zx_m (own : Nat) (ini : Bool) (mc ms d : Nat) : yw_mono (zx_X own ini mc ms (zx_call d)) := zx_X_mono (zx_call_mono d)
theorem zx_call_t {d y kc ks : Nat} {a : List zv} {h : xH} {Q : yo → xH → Prop} (hc : zx_call d y kc ks a h Q) : ∃ t, zc_look x_tab y = some t := by
  cases d with
  | zero => exact hc.elim
  | succ d => obtain ⟨t, h1, -⟩ := hc; exact ⟨t, h1⟩
theorem yc_ent_len : ∀ (bs : List Bool) (vs : List zv), yc_cats bs vs = true → (yc_ent bs vs).length = (bs.map (fun b => cond b 2 1)).sum := by
  intro bs
  induction bs with
  | nil => intro vs h; cases vs <;> rfl
  | cons b bs ih =>
    intro vs h
    cases vs with
    | nil => simp [yc_cats] at h
    | cons v vs =>
      simp only [yc_cats, Bool.and_eq_true] at h
      have := ih vs h.2
      cases b <;> simp [yc_ent, this] <;> omega
theorem xw_D0 {cA : Nat → ClassId} {ad : Nat × Nat → Nat} {L : List xid} {h : xH} {sz : Nat} (hD : va_D (fun _ => True) (xw_ws cA ad L h)) : va_D (xw_A ad L sz) (xw_ws cA ad L h) := by
  refine ⟨hD.1, fun k q hk => ?_⟩
  simp only [xw_ws, List.getElem?_map, Option.map_eq_some_iff] at hk
  obtain ⟨i, hi, rfl⟩ := hk
  exact Or.inl ⟨i, List.mem_of_getElem? hi, rfl⟩
set_option maxHeartbeats 4000000 in
/-- A RUN OF THE SYSTEM's MACHINE IS A CONTRACT -/
theorem zx_sound (l : Launch) (D : va_G) (cA : Nat → ClassId) (ad : Nat × Nat → Nat) : ∀ (d y mc ms : Nat) (a : List zv) (h : xH) (Q : yo → xH → Prop) (t : x_T), zc_look x_tab y = some t → zx_call d y mc ms a h Q → zx_Met l D cA ad d t mc ms a h Q := by
  intro d
  induction d with
  | zero => intro y mc ms a h Q t _ hc; exact hc.elim
  | succ d ih =>
    intro y mc ms a h Q t0 ht0 hc L sz hok
    obtain ⟨t, ht, hcats, hrun⟩ := hc
    have e0 : t0 = t := Option.some.inj (ht0.symm.trans ht)
    subst e0
    obtain ⟨f1, f2, f3, f4, f5, f6, f7, f8⟩ := x_tab_ok _ (zc_look_mem ht0)
    dsimp only at f1 f2 f3 f4 f5 f6 f7 f8
    refine vx_ofW (cc := t0.2.1) (maxL := t0.2.2.1) (ret := t0.2.2.2.1) f2 rfl ?_
    intro p e s m args below meth c s₁ B hml htab hv
    obtain ⟨rfl, hsz, hP, hD0, hK⟩ := hv
    have hx := B.exec
    have hb := B.bytes
    have hr := B.returns
    have hts := atoms_spec (ws := ws_ t0.1 t0.2.1 t0.2.2.1 t0.2.2.2.1) B.pre
    have hts : ∀ w ∈ lw_all, w.before _ s = true := fun w h => hts w (List.mem_cons_of_mem _ h)
    have hown : s.vm.findClass (xo t0.2.2.2.2.2.1) = some m.cls := by rw [← f1]; exact findClass_of_methodNamed B.named
    have hlocks := B.notSynchronized
    have hini : t0.2.2.2.2.2.2 = true → meth.name = "<init>" := fun q => by rw [(name_of_methodNamed B.named B.method).1]; exact f8 q
    subst hsz
    have hA : ∀ q, s.heap.size ≤ q → xw_A ad L s.heap.size q := fun q hq => Or.inr hq
    have hDA : va_D (xw_A ad L s.heap.size) (xw_ws cA ad L h) := xw_D0 hD0
    rw [lg_entry_eq]
    have hthr : x_Thr p l e (zx_rm (d + 1) mc ms) s m ((a.map (yc_cv ad)).toArray) below meth c (vx_MQ below (zx_Qc D cA ad (xw_A ad L s.heap.size) Q) (zx_XC D cA ad (xw_A ad L s.heap.size) Q) ((a.map (yc_cv ad)).toArray) s mc ms (xw_A ad L s.heap.size)) D cA ad (xw_A ad L s.heap.size) (fun q u => u.2.1 ≤ mc ∧ u.2.2 ≤ ms ∧ Q (.inr q) u.1) := by
      intro q fs u hu hdy H locs cells slots pc ls rest hRp
      obtain ⟨L', hok', hP', hD', hS', rfl, rfl⟩ := hRp
      obtain ⟨hu1, hu2, hu3⟩ := hu
      obtain ⟨cell, hc1, hc2, hc3⟩ := x_recvD (ad := ad) (r := (RX6, TX6, 8)) hK hok' hP' hdy rfl
      exact vx_out (E := RX6) (fun x hx9 => (htab x hx9).elim) hlocks hc1 (by sorry) hc3 (fun t9 ht9 hW9 => ⟨⟨u.1, L', fs, rfl, hu3, hdy, hok', by rw [ht9]; exact hP', hD'⟩, hS'.F ht9⟩) hS'.2.2 hu1 hu2
    sorry
