/-! THE SYSTEM's MACHINE: writes of fields -/
set_option maxRecDepth 100000
def x_ps (own : Nat) (i : Instr) (len : Nat) (st : List zv) (h : xH) : Option (Prop × Nat × List zv × xH) := match i, len, st with
  | .putfield idx, 3, .inl (.int x) :: .inr (0, 0) :: r => match xf own idx with
    | some (0, k, _) => match xs_wk.getD k (0, 0, 0) with
      | (0, _, _) => some (True, 0, r, xsI h k x)
      | _ => none
    | _ => none
  | .putfield idx, 3, .inl (.ref a) :: .inr (0, 0) :: r => match xf own idx with
    | some (0, 4, _) => some (True, 0, r, xsR h 4 a)
    | _ => none
  | .putfield idx, 3, .inl (.int x) :: .inr (1, j) :: r => match xf own idx with
    | some (1, 9, _) => some (narrow .boolean (.int x) = .int x ∧ fits .boolean (.int x) = true, j, r, xsC h 9 j x)
    | some (1, k, _) => cond (Nat.blt k 4) none (some (True, j, r, xsC h k j x))
    | _ => none
  | _, _, _ => none
def x_pd (own : Nat) (i : Instr) (len : Nat) (st : List zv) : Option (Nat × Nat × Nat × Nat × zv × List zv) := match i, len, st with
  | .putfield idx, 3, v :: .inl (.ref a) :: r => match xf own idx with
    | some (ci, k, ne) => some (a, ci, k, ne, v, r)
    | none => none
  | _, _, _ => none
def x_mayb (own : Nat) (ini : Bool) (ci k ne : Nat) : Bool := match x_fin ci k with
  | none => true
  | some o => ini && (Nat.beq o own && Nat.beq ne 0)
def x_fit (ty : FieldType) (v : zv) : Prop := match v with
  | .inl w => narrow ty w = w ∧ fits ty w = true
  | .inr _ => (∃ n, ty = .object n) ∨ ∃ t, ty = .array t
theorem x_fit_cv {ty : FieldType} {v : zv} (ad : Nat × Nat → Nat) (h : x_fit ty v) : narrow ty (yc_cv ad v) = yc_cv ad v ∧ fits ty (yc_cv ad v) = true := by
  cases v with
  | inl w => exact h
  | inr q =>
    rcases h with ⟨n, rfl⟩ | ⟨t, rfl⟩
    · exact ⟨rfl, rfl⟩
    · exact ⟨rfl, rfl⟩
theorem x_mayb_s {own ci k ne : Nat} {ini : Bool} {P : Prop} (hi : ini = true → P) (hk : ∀ r, x_cl[ci]? = some r → k < r.2.2) (h : x_mayb own ini ci k ne = true) : x_may own ci k (P ∧ ne = 0) := by
  intro r hr
  have hf := x_fin_ok ci r hr k (hk r hr)
  unfold x_finok at hf
  unfold x_mayb at h
  cases e : x_fin ci k with
  | none => rw [e] at hf; exact Or.inl (by simpa using hf)
  | some o =>
    rw [e] at hf h
    simp only [Bool.and_eq_true, decide_eq_true_iff] at hf h
    exact Or.inr ⟨hf.1, ⟨hi h.1, Nat.eq_of_beq_eq_true h.2.2⟩, by rw [hf.2, Nat.eq_of_beq_eq_true h.2.1]⟩
def xx_put (own : Nat) (ini : Bool) : yw_X xS := fun i len pc lv st σ rec _ =>
  (∃ g j st' h', x_ps own i len st σ.1 = some (g, j, st', h') ∧ g ∧ j < 46 ∧ rec (pc + 3, lv, st', (h', σ.2))) ∨
  (∃ a ci k ne v r fs, x_pd own i len st = some (a, ci, k, ne, v, r) ∧ σ.1.2.2.2.2.2 a = some (.inl (ci, fs)) ∧ k < fs.length ∧ x_mayb own ini ci k ne = true ∧ x_fit (x_ty ci k) v ∧ rec (pc + 3, lv, r, (xsD σ.1 a (.inl (ci, fs.set k v)), σ.2)))
theorem xx_put_mono (own : Nat) (ini : Bool) : yw_mono (xx_put own ini) := by
  intro P P' h T T' hT i len pc lv st σ hs
  rcases hs with ⟨g, j, st', h', h1, h2, h3, h4⟩ | ⟨a, ci, k, ne, v, r, fs, h1, h2, h3, h4, h5, h6⟩
  · exact Or.inl ⟨g, j, st', h', h1, h2, h3, h _ h4⟩
  · exact Or.inr ⟨a, ci, k, ne, v, r, fs, h1, h2, h3, h4, h5, h _ h6⟩
theorem xs_en_ext {cA : Nat → ClassId} {ad : Nat × Nat → Nat} {h h' : xH} {q : Nat × Nat} (h0 : q.1 = 0 → ∀ k, xs_wf h' k = xs_wf h k) (h1 : q.1 = 1 → ∀ k, xs_cf h' q.2 k = xs_cf h q.2 k) (h2 : h'.2.2.2.1 q.1 q.2 = h.2.2.2.1 q.1 q.2) (h3 : h'.2.2.2.2.1 = h.2.2.2.2.1) : xs_en cA ad h' q = xs_en cA ad h q := by
  obtain ⟨a, b⟩ := q
  match a, h0, h1, h2 with
  | 0, h0, _, _ => rw [xs_en0, xs_en0]; simp only [h0 rfl]
  | 1, _, h1, _ => rw [xs_en1, xs_en1]; simp only [h1 rfl]
  | a + 2, _, _, h2 =>
    have hel : ∀ i, xs_el h' (a + 2) i = xs_el h (a + 2) i := fun i => by unfold xs_el; rw [h3]
    dsimp only at h2
    simp only [xs_en, h2, hel]
theorem x_lset {α : Type} {N k : Nat} {f g : Nat → α} {v : α} (hk : k < N) (hv : g k = v) (ho : ∀ j, j ≠ k → g j = f j) : ((List.range N).map f).set k v = (List.range N).map g := by
  apply List.ext_getElem?
  intro j
  rw [List.getElem?_set]
  by_cases e : k = j
  · subst e
    rw [if_pos rfl, if_pos (by simpa using hk)]
    simp [List.getElem?_range hk, hv]
  · rw [if_neg e]
    by_cases hj : j < N
    · simp [List.getElem?_range hj, ho j (fun q => e q.symm)]
    · rw [List.getElem?_eq_none (by simp; omega), List.getElem?_eq_none (by simp; omega)]
theorem xs_wk_int : ∀ k, k < 25 → (xs_wk.getD k (0, 0, 0)).1 = 0 → (TX0 k).2.2.2 = false ∧ x_ty 0 k = .int := by decide +kernel
theorem xs_cf_int : ∀ k, k < 10 → 4 ≤ k → k ≠ 9 → (TX3 k).2.2.2 = false ∧ x_ty 1 k = .int := by decide +kernel
theorem xs_wf_I {h : xH} {k j : Nat} {x : Int32} (hj : j ≠ k) : xs_wf (xsI h k x) j = xs_wf h j := by
  unfold xs_wf
  have : (xsI h k x).1 j = h.1 j := by simp [xsI, upd, hj]
  split <;> simp_all [xsI]
theorem xs_wf_R {h : xH} {k j a : Nat} (hj : j ≠ k) : xs_wf (xsR h k a) j = xs_wf h j := by
  unfold xs_wf
  have : (xsR h k a).2.1 j = h.2.1 j := by simp [xsR, va_up, hj]
  split <;> simp_all [xsR]
theorem xs_cf_C {h : xH} {f j k b : Nat} {x : Int32} (hj : ¬ (k = f ∧ b = j)) : xs_cf (xsC h f j x) b k = xs_cf h b k := by
  unfold xs_cf
  split
  · rfl
  · by_cases e : k = f
    · have : b ≠ j := fun q => hj ⟨e, q⟩
      simp [xsC, e, upd, this]
    · simp [xsC, e]
section XP
variable {p : Program} {l : Launch} {e : Env} {R : Room} {s : State} {m : MethodId} {args : Array Value} {below : List Frame} {meth : Method} {c : Code} {QQ : State → Prop}
variable {cc : ByteArray} {nL : Nat} {ad : Nat × Nat → Nat} {D : va_G} {cA : Nat → ClassId} {A : Nat → Prop} {i : Instr} {len pc own : Nat} {ini : Bool} {lv : yc_L} {st : List zv} {σ : xS} {rec : yw_F xS → Prop} {thr : zv → xS → Prop}
theorem xw_ok.same {L : List xid} {h h' : xH} (hk : xw_ok L h) (hd : ∀ a, (h'.2.2.2.2.2 a ≠ none) ↔ (h.2.2.2.2.2 a ≠ none)) : xw_ok L h' := ⟨hk.1, hk.2.1, fun a => (hk.2.2 a).trans (hd a).symm⟩
theorem xx_put_s (hx : p.tables.exec = Jvm.exec) (hb : c.code = cc) (hts : ∀ w ∈ lw_all, w.before args s = true) (hown : s.vm.findClass (xo own) = some m.cls) (hK : xw_K D cA s) (hini : ini = true → meth.name = "<init>") (hd : decode cc pc = .ok (i, len)) (h : xx_put own ini i len pc lv st σ rec thr)
    (hrec : ∀ g, rec g → yw_Snd p l e R s m args below meth c QQ ad nL (x_Rp D cA ad A s) g) : yw_Snd p l e R s m args below meth c QQ ad nL (x_Rp D cA ad A s) (pc, lv, st, σ) := by
  intro H locs cells slots ls hRp hl
  obtain ⟨L, hok, hP, hD, hS, rfl, rfl⟩ := hRp
  rcases h with ⟨g, j, st', h', h1, hg, h2, h3⟩ | ⟨a, ci, k, ne, v, r, fs, h1, h2, h3, h4, h5, h6⟩
  · have kk := hrec _ h3
    unfold x_ps at h1
    split at h1
    · rename_i idx x r
      have hm : (.inl (0, 0) : xid) ∈ L := (hok.2.1 _).mpr (xs_inb_mem rfl)
      split at h1
      · rename_i k ne hf
        have hk := xf_lt0 hf
        split at h1
        · rename_i b1 b2 hw
          cases h1
          obtain ⟨hfin, hty⟩ := xs_wk_int k hk (by rw [hw])
          refine x_put_row (h' := xsI σ.1 k x) hx hb hts hown hK hok hP hD hS hm (xs_en0 cA ad σ.1 0) hf (fun r hr => by cases hr; exact Or.inl hfin) (by rw [hty]; rfl) (by rw [hty]; rfl) (by simpa using hk) hd ?_ ?_ (fun H1 locs1 g1 g2 g3 => kk H1 locs1 _ _ ls ⟨L, hok.same (fun _ => Iff.rfl), g1, g2, g3, rfl, rfl⟩ hl)
          · show xs_en cA ad (xsI σ.1 k x) (0, 0) = _
            rw [xs_en0, x_lset (g := fun k9 => yc_cv ad (xs_wf (xsI σ.1 k x) k9)) hk ?_ (fun j hj => by rw [xs_wf_I hj])]
            rw [xs_wf_0 hw]; simp [xsI, upd, yc_cv]
          · intro q hq hne
            cases q with
            | inl z =>
              obtain ⟨z1, z2⟩ := z
              refine xs_en_ext (fun q0 => ?_) (fun _ _ => rfl) rfl rfl
              have : z2 = 0 := by
                have hz := (hok.2.1 _).mp hq
                obtain ⟨w, hw1, hw2⟩ := List.mem_flatMap.mp hz
                obtain ⟨j9, hj9, e9⟩ := List.mem_map.mp hw2
                cases e9
                have hw3 : w = (0, 1) := by
                  have : ∀ w ∈ xs_ct, w.1 = 0 → w = (0, 1) := by decide +kernel
                  exact this w hw1 q0
                rw [hw3] at hj9
                simpa using hj9
              exact absurd (by rw [show z1 = 0 from q0, this]) hne
            | inr b => rfl
        · cases h1
      · cases h1
    · rename_i idx a r
      have hm : (.inl (0, 0) : xid) ∈ L := (hok.2.1 _).mpr (xs_inb_mem rfl)
      split at h1
      · rename_i ne hf
        cases h1
        refine x_put_row (h' := xsR σ.1 4 a) hx hb hts hown hK hok hP hD hS hm (xs_en0 cA ad σ.1 0) hf (fun r hr => by cases hr; exact Or.inl rfl) rfl rfl (by simp) hd ?_ ?_ (fun H1 locs1 g1 g2 g3 => kk H1 locs1 _ _ ls ⟨L, hok.same (fun _ => Iff.rfl), g1, g2, g3, rfl, rfl⟩ hl)
        · show xs_en cA ad (xsR σ.1 4 a) (0, 0) = _
          rw [xs_en0, x_lset (g := fun k9 => yc_cv ad (xs_wf (xsR σ.1 4 a) k9)) (by decide) ?_ (fun j hj => by rw [xs_wf_R hj])]
          rw [xs_wf_1 (a := 0) (b := 0) rfl]; simp [xsR, va_up, yc_cv]
        · intro q hq hne
          cases q with
          | inl z =>
            obtain ⟨z1, z2⟩ := z
            refine xs_en_ext (fun q0 => ?_) (fun _ _ => rfl) rfl rfl
            have : z2 = 0 := by
              have hz := (hok.2.1 _).mp hq
              obtain ⟨w, hw1, hw2⟩ := List.mem_flatMap.mp hz
              obtain ⟨j9, hj9, e9⟩ := List.mem_map.mp hw2
              cases e9
              have hw3 : w = (0, 1) := by
                have : ∀ w ∈ xs_ct, w.1 = 0 → w = (0, 1) := by decide +kernel
                exact this w hw1 q0
              rw [hw3] at hj9
              simpa using hj9
            exact absurd (by rw [show z1 = 0 from q0, this]) hne
          | inr b => rfl
      · cases h1
    · rename_i idx x jj r
      have hm : jj < 46 → (.inl (1, jj) : xid) ∈ L := fun hj => (hok.2.1 _).mpr (xs_ids_mem (n := 46) rfl hj)
      have core : ∀ k ne, xf own idx = some (1, k, ne) → 4 ≤ k → jj < 46 → narrow (x_ty 1 k) (.int x) = .int x → fits (x_ty 1 k) (.int x) = true → (TX3 k).2.2.2 = false → rec (pc + 3, lv, r, (xsC σ.1 k jj x, σ.2)) → W p l e R s m args below meth c H locs σ.2.1 σ.2.2 QQ (F0 m pc ls ((.inl (.int x) :: .inr (1, jj) :: r : List zv).map (yc_cv ad))) := by
        intro k ne hf hk4 hjj hnar hfit hfin hr
        have hk := xf_lt1 hf
        have hk9 : Nat.blt k 4 = false := by
          rw [Bool.eq_false_iff, Ne, Nat.blt_eq]; omega
        refine x_put_row (h' := xsC σ.1 k jj x) hx hb hts hown hK hok hP hD hS (hm hjj) (xs_en1 cA ad σ.1 jj) hf (fun r hr => by cases hr; exact Or.inl hfin) hnar hfit (by simpa using hk) hd ?_ ?_ (fun H1 locs1 g1 g2 g3 => hrec _ hr H1 locs1 _ _ ls ⟨L, hok.same (fun _ => Iff.rfl), g1, g2, g3, rfl, rfl⟩ hl)
        · show xs_en cA ad (xsC σ.1 k jj x) (1, jj) = _
          rw [xs_en1, x_lset (g := fun k9 => yc_cv ad (xs_cf (xsC σ.1 k jj x) jj k9)) hk ?_ (fun b hb => by rw [xs_cf_C (fun q => hb q.1)])]
          simp [xs_cf, hk9, xsC, upd, yc_cv]
        · intro q hq hne
          cases q with
          | inl z =>
            obtain ⟨z1, z2⟩ := z
            refine xs_en_ext (fun _ _ => rfl) (fun q1 b => xs_cf_C (fun q => hne ?_)) rfl rfl
            rw [show z1 = 1 from q1, show z2 = jj from q.2]
          | inr b => rfl
      split at h1
      · rename_i ne hf
        cases h1
        exact core 9 ne hf (by decide) h2 hg.1 hg.2 rfl h3
      · rename_i k ne hne hf
        cases e4 : Nat.blt k 4 with
        | true => rw [e4] at h1; cases h1
        | false =>
          rw [e4] at h1
          cases h1
          have hk4 : 4 ≤ k := by
            rw [Bool.eq_false_iff, Ne, Nat.blt_eq] at e4; omega
          obtain ⟨hfin, hty⟩ := xs_cf_int k (xf_lt1 hf) hk4 (fun q => hne q)
          exact core k ne hf hk4 h2 (by rw [hty]; rfl) (by rw [hty]; rfl) hfin h3
      · cases h1
    · cases h1
  · have kk := hrec _ h6
    unfold x_pd at h1
    split at h1
    · rename_i idx v' a' r'
      split at h1
      · rename_i ci' k' ne' hf
        cases h1
        have hm : (.inr a : xid) ∈ L := (hok.2.2 a).mpr (by rw [h2]; simp)
        obtain ⟨c1, c2⟩ := x_fit_cv ad h5
        refine x_put_row (iid := .inr a) (h' := xsD σ.1 a (.inl (ci, fs.set k v))) hx hb hts hown hK hok hP hD hS hm (by simp only [xw_en, h2]; rfl) hf (x_mayb_s hini (fun r hr => by obtain ⟨r9, ref, hr9, hk9, -⟩ := xf_ok hf; dsimp only at hr9 hk9; cases hr.symm.trans hr9; exact hk9) h4) c1 c2 (by simpa using h3) hd ?_ ?_ (fun H1 locs1 g1 g2 g3 => kk H1 locs1 _ _ ls ⟨L, hok.same (fun b => ?_), g1, g2, g3, rfl, rfl⟩ hl)
        · simp only [xw_en, xsD, va_up, if_pos]
          simp [xd_en, List.map_set]
        · intro q hq hne
          cases q with
          | inl z => rfl
          | inr b =>
            have : b ≠ a := fun e => hne (by rw [e])
            simp [xw_en, xsD, va_up, this]
        · by_cases e : b = a
          · subst e; simp [xsD, va_up, h2]
          · simp [xsD, va_up, e]
      · cases h1
    · cases h1
end XP
