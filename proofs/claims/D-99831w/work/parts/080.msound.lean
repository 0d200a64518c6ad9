/-! THE MODEL's MACHINE: calls, and the whole: a run of the abstract machine is a contract of the real one -/
set_option maxRecDepth 100000
theorem zm_pops_map {n : Nat} {a r st : List Value} (ad : Nat → Nat) (h : zc_pops n [] st = some (a, r)) : st.map (zc_cv ad) = (a.map (zc_cv ad)).reverse ++ r.map (zc_cv ad) ∧ a.length = n := by
  obtain ⟨h1, h2⟩ := zc_pops_of n [] st a r h
  refine ⟨?_, by simpa using h2⟩
  have h3 : st = a.reverse ++ r := by simpa using h1.symm
  rw [h3]
  simp
theorem zm_cat_le (ad : Nat → Nat) (r : List Value) (h : r.length ≤ 4) : ((r.map (zc_cv ad)).map fun v => v.category).sum ≤ 8 := by
  have h1 : ∀ v : Value, v.category ≤ 2 := fun v => by cases v <;> simp [Value.category]
  have h2 : ∀ q : List Value, (q.map fun v => v.category).sum ≤ 2 * q.length := by
    intro q
    induction q with
    | nil => simp
    | cons v t ih =>
      simp only [List.map_cons, List.sum_cons, List.length_cons]
      have := h1 v
      omega
  have := h2 (r.map (zc_cv ad))
  simp only [List.length_map] at this
  omega
section ZMC
variable {p : Program} {l : Launch} {e : Env} {s : State} {m : MethodId} {args : Array Value} {below : List Frame} {meth : Method} {c : Code} {QQ : State → Prop}
variable {cc : ByteArray} {nL : Nat} {ad : Nat → Nat} {D : va_G} {cA : Nat → ClassId} {i : Instr} {len pc : Nat} {lv : zc_L} {st : List Value} {σ : mS} {rec : zw_F mS → Prop} {d : Nat} {Rr : Room}
theorem zm_back {t : zm_T} {r : List Value} {st0 : List Value} {H : Heap} {locs : List Loc} {ls : Array Slot} {args' : Array Value}
    (hrun : va_Run p l e Rr s m args below meth c H locs 0 0 0 0 (F0 m pc ls st0) (r.map (zc_cv ad)) (zm_Qc t.2.2.2.1 (fun v σ' => rec (pc + 3, lv, zc_psh v r, σ')) (zm_B D cA ad) (zm_A ad) args') (zm_A ad))
    (hS : va_S (zm_A ad) s.heap H locs) (hl : zc_ok ad nL lv ls) (hrec : ∀ g, rec g → zw_Snd p l e Rr s m args below meth c QQ ad nL (zm_Rp D cA ad s) g) : W p l e Rr s m args below meth c H locs 0 0 QQ (F0 m pc ls st0) := by
  cases hrt : t.2.2.2.1 with
  | none =>
    rw [hrt] at hrun
    refine va_callv (a := args') hrun hS (fun q _ h => h) (fun q h => h) (fun u t1 H1 locs1 ht hvm hw hB hz hk hS1 => ?_)
    exact hrec _ hw H1 locs1 0 0 ls ⟨by rw [← ht]; exact hB.1, hS1, rfl, rfl⟩ hl
  | some ty =>
    rw [hrt] at hrun
    by_cases hty : ty = .long
    · subst hty
      refine va_calll (a := args') hrun hS (fun q _ h => h) (fun q h => h) (fun x u t1 H1 locs1 ht hvm hw hB hz hk hS1 => ?_)
      exact hrec _ hw H1 locs1 0 0 ls ⟨by rw [← ht]; exact hB.1, hS1, rfl, rfl⟩ hl
    · rw [zm_Qc_i hty] at hrun
      refine va_calli (a := args') hrun hS (fun q _ h => h) (fun q h => h) (fun x u t1 H1 locs1 ht hvm hw hB hz hk hS1 => ?_)
      exact hrec _ hw H1 locs1 0 0 ls ⟨by rw [← ht]; exact hB.1, hS1, rfl, rfl⟩ hl
theorem zm_blind (a : List Value) (σ : mS) : FrameBlind (zm_Pc D cA ad a σ) := by
  intro a1 U g mk q
  obtain ⟨q0, qP, qK⟩ := q
  exact ⟨q0, qP, va_K.moved (u := U) (U := U.calling g mk a1) (Vm.Alike.refl U.vm) qK⟩
theorem zm_inv_s (hx : p.tables.exec = Jvm.exec) (hb : c.code = cc) (hml : c.maxLocals = nL) (hts : ∀ w ∈ lw_all, w.before args s = true) (hown : s.vm.findClass RX4 = some m.cls) (hK : va_K D zm_cl (zm_tys cA) s)
    (ih : ∀ y a σ Q t, zc_look zm_tab y = some t → zm_call d y a σ Q → zm_Met l D cA ad d t a σ Q)
    (hd : decode cc pc = .ok (i, len)) {y : Nat} {a r : List Value} (h : zm_inv i len st = some (y, a, r)) (hC : zm_call d y a σ (fun v σ' => rec (pc + 3, lv, zc_psh v r, σ')))
    (hrec : ∀ g, rec g → zw_Snd p l e (zm_rm (d + 1)) s m args below meth c QQ ad nL (zm_Rp D cA ad s) g) : zw_Snd p l e (zm_rm (d + 1)) s m args below meth c QQ ad nL (zm_Rp D cA ad s) (pc, lv, st, σ) := by
  have hyt : ∃ t, zc_look zm_tab y = some t := by
    cases d with
    | zero => exact hC.elim
    | succ d => obtain ⟨t, h1, _⟩ := hC; exact ⟨t, h1⟩
  obtain ⟨t, hyt⟩ := hyt
  have hM := ih _ _ _ _ t hyt hC
  obtain ⟨f1, f2, f3, f4, f5, f6, f7⟩ := zm_tab_ok _ (zc_look_mem hyt)
  dsimp only at f1 f2 f3 f4 f5 f6 f7
  intro H locs cells slots ls hRp hl
  obtain ⟨hP, hS, rfl, rfl⟩ := hRp
  have hroom : (zm_rm d).frames + 1 ≤ (zm_rm (d + 1)).frames ∧ 8 + (t.2.2.1 + 11) + (zm_rm d).locals ≤ (zm_rm (d + 1)).locals := by
    simp only [zm_rm]
    omega
  unfold zm_inv at h
  split at h
  · rename_i idx
    split at h
    · rename_i y' n hq
      split at h
      · rename_i a' r' hp
        cases hr : Nat.ble r'.length 4 with
        | false => rw [hr] at h; cases h
        | true =>
          rw [hr] at h
          cases h
          obtain ⟨g1, g2, g3⟩ := zm_lk_ok _ (zc_look_mem hq) t hyt
          dsimp only at g1 g2 g3
          obtain ⟨hst, hlen⟩ := zm_pops_map ad hp
          have f4' : Cond.instanceMethod t.1 ∈ lw_all ∧ Cond.selects RX4 t.1 t.1 ∈ lw_all := by
            rcases f4 with q | q
            · rw [g2] at q; exact absurd q.1 (by decide)
            · exact q.2
          have hn : t.2.2.2.2.1.length - 1 = n := by rw [g2] at g3; exact g3
          refine zm_back (ad := ad) (D := D) (cA := cA) (rec := rec) (lv := lv) (r := r) (t := t) (va_runV (As := a'.map (zc_cv ad)) (b := ad 0) (C := RX4) ⟨hx, hb, hml, hown, hts⟩ hM
            (cwV n hts (lw_V g1 f4'.1 f4'.2 q133 f3) rfl rfl rfl ⟨f1, f5.1, f5.2.1, by rw [f5.2.2, g2]; exact congrArg some hn⟩ hroom)
            ⟨zm_blind _ _, va_recv hK hP (ci := 0) (q0 := 0) (q := (RX4, TX4, 65)) rfl (zm_ws_at cA ad σ (j := 0) (by decide)), fun U hU hW => ⟨rfl, by rw [hU]; exact hP, va_K.moved hW.alike hK⟩⟩ rfl (by simpa using hlen) hl.2.1 hst
            (lv_room (zm_cat_le ad _ (Nat.le_of_ble_eq_true hr))) hd ⟨Nat.le_refl _, Nat.le_refl _⟩) hS hl hrec
      · cases h
    · cases h
  · rename_i idx
    split at h
    · rename_i y' n hq
      split at h
      · rename_i a' r' hp
        cases hr : Nat.ble r'.length 4 with
        | false => rw [hr] at h; cases h
        | true =>
          rw [hr] at h
          cases h
          obtain ⟨g1, g2, g3⟩ := zm_lk_ok _ (zc_look_mem hq) t hyt
          dsimp only at g1 g2 g3
          obtain ⟨hst, hlen⟩ := zm_pops_map ad hp
          have f4' : Cond.static t.1 ∈ lw_all := by
            rcases f4 with q | q
            · exact q.2
            · rw [g2] at q; exact absurd q.1 (by decide)
          have hn : t.2.2.2.2.1.length = n := by rw [g2] at g3; exact g3
          refine zm_back (ad := ad) (D := D) (cA := cA) (rec := rec) (lv := lv) (r := r) (t := t) (va_runS (As := a.map (zc_cv ad)) ⟨hx, hb, hml, hown, hts⟩ hM
            (va_cwS n hts (lw_S g1 f4' (by rw [f1]; exact q133) f3) rfl rfl rfl ⟨f5.1, f5.2.1, by rw [f5.2.2, g2]; exact congrArg some hn⟩ hroom)
            ⟨zm_blind _ _, fun U hU hW => ⟨rfl, by rw [hU]; exact hP, va_K.moved hW.alike hK⟩⟩ rfl (by simpa using hlen) hl.2.1 hst
            (lv_room (zm_cat_le ad _ (Nat.le_of_ble_eq_true hr))) hd ⟨Nat.le_refl _, Nat.le_refl _⟩) hS hl hrec
      · cases h
    · cases h
  · cases h
end ZMC
theorem zc_ent_len : ∀ (bs : List Bool) (vs : List Value), zc_cats bs vs = true → (zc_ent bs vs).length = (bs.map (fun b => cond b 2 1)).sum := by
  intro bs
  induction bs with
  | nil => intro vs h; cases vs <;> rfl
  | cons b bs ih =>
    intro vs h
    cases vs with
    | nil => simp [zc_cats] at h
    | cons v vs =>
      simp only [zc_cats, Bool.and_eq_true] at h
      have := ih vs h.2
      cases b <;> simp [zc_ent, this] <;> omega
set_option maxHeartbeats 4000000 in
/-- A RUN OF THE MODEL's MACHINE IS A CONTRACT -/
theorem zm_sound (l : Launch) (D : va_G) (cA : Nat → ClassId) (ad : Nat → Nat) (hi : zm_inj ad) : ∀ (d y : Nat) (a : List Value) (σ : mS) (Q : Option Value → mS → Prop) (t : zm_T), zc_look zm_tab y = some t → zm_call d y a σ Q → zm_Met l D cA ad d t a σ Q := by
  intro d
  induction d with
  | zero => intro y a σ Q t _ h; exact h.elim
  | succ d ih =>
    intro y a σ Q t0 ht0 h
    obtain ⟨t, ht, hcats, hrun⟩ := h
    have e0 : t0 = t := Option.some.inj (ht0.symm.trans ht)
    subst e0
    obtain ⟨f1, f2, f3, f4, f5, f6, f7⟩ := zm_tab_ok _ (zc_look_mem ht0)
    dsimp only at f1 f2 f3 f4 f5 f6 f7
    refine Met.ofW (cc := t0.2.1) (maxL := t0.2.2.1) (ret := t0.2.2.2.1) f2 rfl ?_
    intro p e s m args below meth c s₁ B hml hv
    obtain ⟨rfl, hP, hK⟩ := hv
    have hx := B.exec
    have hb := B.bytes
    have hr := B.returns
    have hts := atoms_spec (ws := ws_ t0.1 t0.2.1 t0.2.2.1 t0.2.2.2.1) B.pre
    have hts : ∀ w ∈ lw_all, w.before _ s = true := fun w h => hts w (List.mem_cons_of_mem _ h)
    have hown : s.vm.findClass RX4 = some m.cls := by rw [← f1]; exact findClass_of_methodNamed B.named
    have hlocks := B.notSynchronized
    rw [lg_entry_eq]
    refine zw_sound (X := zm_X (zm_call d)) (rt := t0.2.2.2.1) (Q := Q) (Rp := zm_Rp D cA ad s) (ad := ad) (nL := t0.2.2.1) hx hb ?_ ?_ hrun s.heap [] 0 0 _ ⟨hP, va_S.rf, rfl, rfl⟩ (zc_entry ad hcats (by rw [zc_ent_len _ _ hcats]; exact f7))
    · intro i len pc lv st σ1 rec hd hX hrec
      rcases hX with ⟨st', h1, h2⟩ | ⟨st', σ', h1, h2⟩ | ⟨g, st', h1, h2, h3⟩ | ⟨g, st', σ', h1, h2, h3⟩ | ⟨st', h1, h2⟩ | ⟨y1, a1, r1, h1, h2⟩
      · exact zm_get_s hx hb hts hown hK hd h1 (hrec _ h2)
      · exact zm_put_s hi hx hb hts hown hK hd h1 (hrec _ h2)
      · exact zm_ld_s hx hb hK hd h1 h2 (hrec _ h3)
      · exact zm_so_s hi hx hb hK hd h1 h2 (hrec _ h3)
      · exact zm_ldc_s hx hb hts hown hd h1 (hrec _ h2)
      · exact zm_inv_s hx hb hml hts hown hK ih hd h1 h2 hrec
    · intro i len pc st σ1 v hd hret hQ H locs cells slots ls hRp
      obtain ⟨hP1, hS, rfl, rfl⟩ := hRp
      rcases hret with ⟨x, ty, rfl, rfl, rfl, hrt, hne, hnar, rfl⟩ | ⟨x, rfl, rfl, rfl, hrt, rfl⟩ | ⟨rfl, rfl, rfl, hrt, rfl⟩
      · rw [hrt] at hr ⊢
        rw [zm_Qc_i hne]
        exact W.zret (v := x) hx hb hr hnar (fun t1 ht1 hW => ⟨⟨x, σ1, rfl, hQ, by rw [ht1]; exact hP1, va_K.moved hW.alike hK⟩, hS.F ht1⟩) hS.2.2 hd
      · rw [hrt] at hr ⊢
        exact W.lret (v := x) hx hb hr (fun t1 ht1 hW => ⟨⟨x, σ1, rfl, hQ, by rw [ht1]; exact hP1, va_K.moved hW.alike hK⟩, hS.F ht1⟩) hS.2.2 hd
      · rw [hrt] at hr ⊢
        exact W.vret hx hb hr (fun t1 ht1 hW => ⟨⟨σ1, rfl, hQ, by rw [ht1]; exact hP1, va_K.moved hW.alike hK⟩, hS.F ht1⟩) hS.2.2 hd
