/-! ROWS OF THE MODEL's MACHINE -/
set_option maxRecDepth 100000
abbrev zm_W (d : Nat) (rt : Option FieldType) (cc : ByteArray) (Q : Option Value → mS → Prop) (f : zw_F mS) : Prop := zw_P (zm_X (zm_call d)) rt cc Q f
section ZR
variable {d : Nat} {rt : Option FieldType} {cc : ByteArray} {Q : Option Value → mS → Prop} {i : Instr} {len pc : Nat} {lv : zc_L} {st : List Value} {σ : mS}
theorem zm_n (hd : decode cc pc = .ok (i, len)) {pc' : Nat} {lv' : zc_L} {st' : List Value} (hn : zc_next i len pc lv st = some (pc', lv', st')) (k : zm_W d rt cc Q (pc', lv', st', σ)) : zm_W d rt cc Q (pc, lv, st, σ) := zw_n (zm_m d) hd hn k
theorem zm_b (hd : decode cc pc = .ok (i, len)) {cnd : Prop} {t : Nat} {st' : List Value} (hn : zc_br i len pc st = some (cnd, t, st')) (kt : cnd → zm_W d rt cc Q (t, lv, st', σ)) (kf : ¬ cnd → zm_W d rt cc Q (pc + 3, lv, st', σ)) : zm_W d rt cc Q (pc, lv, st, σ) := zw_b (zm_m d) hd hn kt kf
theorem zm_g (hd : decode cc pc = .ok (i, len)) {g : Prop} {st' : List Value} (hn : zc_gd i len st = some (g, st')) (hg : g) (k : zm_W d rt cc Q (pc + 1, lv, st', σ)) : zm_W d rt cc Q (pc, lv, st, σ) := zw_g (zm_m d) hd hn hg k
theorem zm_s (hd : decode cc pc = .ok (i, len)) {off : Int} {st' : List Value} (hn : zc_sw i pc st = some (off, st')) (t : Nat) (ht : zc_tgt pc off = some t) (k : zm_W d rt cc Q (t, lv, st', σ)) : zm_W d rt cc Q (pc, lv, st, σ) := zw_s (zm_m d) hd hn t ht k
theorem zm_ri (hd : decode cc pc = .ok (.ireturn, 1)) {x : Int32} (k : Q (some (.int x)) σ) : zm_W d (some .int) cc Q (pc, lv, [.int x], σ) := zw_ri (zm_m d) hd k
theorem zm_rz (hd : decode cc pc = .ok (.ireturn, 1)) {x : Int32} (hz : narrow .boolean (.int x) = .int x) (k : Q (some (.int x)) σ) : zm_W d (some .boolean) cc Q (pc, lv, [.int x], σ) := zw_rz (zm_m d) hd hz k
theorem zm_rl (hd : decode cc pc = .ok (.lreturn, 1)) {x : Int64} (k : Q (some (.long x)) σ) : zm_W d (some .long) cc Q (pc, lv, [.long x], σ) := zw_rl (zm_m d) hd k
theorem zm_rv (hd : decode cc pc = .ok (.return_, 1)) (k : Q none σ) : zm_W d none cc Q (pc, lv, [], σ) := zw_rv (zm_m d) hd k
theorem zm_f (hd : decode cc pc = .ok (i, len)) {st' : List Value} (hn : zm_get i len st σ = some st') (k : zm_W d rt cc Q (pc + 3, lv, st', σ)) : zm_W d rt cc Q (pc, lv, st, σ) := zw_x (zm_m d) hd (Or.inl ⟨st', hn, k⟩)
theorem zm_p (hd : decode cc pc = .ok (i, len)) {st' : List Value} {σ' : mS} (hn : zm_put i len st σ = some (st', σ')) (k : zm_W d rt cc Q (pc + 3, lv, st', σ')) : zm_W d rt cc Q (pc, lv, st, σ) := zw_x (zm_m d) hd (Or.inr (Or.inl ⟨st', σ', hn, k⟩))
theorem zm_a (hd : decode cc pc = .ok (i, len)) {g : Prop} {st' : List Value} (hn : zm_ld i len st σ = some (g, st')) (hg : g) (k : zm_W d rt cc Q (pc + 1, lv, st', σ)) : zm_W d rt cc Q (pc, lv, st, σ) := zw_x (zm_m d) hd (Or.inr (Or.inr (Or.inl ⟨g, st', hn, hg, k⟩)))
theorem zm_t (hd : decode cc pc = .ok (i, len)) {g : Prop} {st' : List Value} {σ' : mS} (hn : zm_so i len st σ = some (g, st', σ')) (hg : g) (k : zm_W d rt cc Q (pc + 1, lv, st', σ')) : zm_W d rt cc Q (pc, lv, st, σ) := zw_x (zm_m d) hd (Or.inr (Or.inr (Or.inr (Or.inl ⟨g, st', σ', hn, hg, k⟩))))
theorem zm_k (hd : decode cc pc = .ok (i, len)) {st' : List Value} (hn : zm_ldc i len st = some st') (k : zm_W d rt cc Q (pc + len, lv, st', σ)) : zm_W d rt cc Q (pc, lv, st, σ) := zw_x (zm_m d) hd (Or.inr (Or.inr (Or.inr (Or.inr (Or.inl ⟨st', hn, k⟩)))))
theorem zm_c (hd : decode cc pc = .ok (i, len)) {y : Nat} {a r : List Value} (hn : zm_inv i len st = some (y, a, r)) (k : zm_call d y a σ (fun v σ' => zm_W d rt cc Q (pc + 3, lv, zc_psh v r, σ'))) : zm_W d rt cc Q (pc, lv, st, σ) := zw_x (zm_m d) hd (Or.inr (Or.inr (Or.inr (Or.inr (Or.inr ⟨y, a, r, hn, k⟩)))))
end ZR
/-- a boolean answer -/
def zb (b : Bool) : Int32 := cond b (nI 1) (nI 0)
theorem zb_nar (b : Bool) : narrow .boolean (.int (zb b)) = .int (zb b) := by cases b <;> rfl
theorem zb_ne (b : Bool) : (¬ zb b = 0) ↔ b = true := by cases b <;> decide
theorem zb_eq (b : Bool) : zb b = 0 ↔ b = false := by cases b <;> decide
