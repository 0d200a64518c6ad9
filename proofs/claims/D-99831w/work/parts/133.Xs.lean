/-! WebCourt$Book -/
set_option maxRecDepth 100000
def RX1 : String := "WebCourt$Book"
def TX1 : u_T := fun k => match k with
  | 0 => ("WebCourt$Book", "knots", "Ljava/util/ArrayList;", true)
  | 1 => ("WebCourt$Book", "pleas", "Ljava/util/ArrayList;", true)
  | 2 => ("WebCourt$Book", "cases", "Ljava/util/ArrayList;", true)
  | 3 => ("WebCourt$Book", "lines", "Ljava/util/ArrayList;", true)
  | 4 => ("WebCourt$Book", "ask", "LWebCourt$Ask;", true)
  | 5 => ("WebCourt$Book", "law", "LWebCourt$Node;", false)
  | 6 => ("WebCourt$Book", "bench", "I", false)
  | 7 => ("WebCourt$Book", "back", "I", false)
  | 8 => ("WebCourt$Book", "seed", "I", false)
  | _ => ("WebCourt$Book", "units", "I", false)
def tyX1 : Nat → FieldType := fun k => match k with
  | 0 => .object "java/util/ArrayList"
  | 1 => .object "java/util/ArrayList"
  | 2 => .object "java/util/ArrayList"
  | 3 => .object "java/util/ArrayList"
  | 4 => .object "WebCourt$Ask"
  | 5 => .object "WebCourt$Node"
  | 6 => .int
  | 7 => .int
  | 8 => .int
  | _ => .int
abbrev wsX10 : List Cond := u_ws RX1 TX1 10
theorem nmX1 : ∀ a, a < 10 → ∀ b, b < 10 → a ≠ b → (TX1 a).2.1 ≠ (TX1 b).2.1 := by decide +kernel
theorem tyX1_ok : ∀ k, k < 10 → parseFieldDescriptor (TX1 k).2.2.1 = some (tyX1 k) := by decide +kernel
abbrev cX1_init : ByteArray := prog_10_method_1_code
def yX1_init : MethodName := ⟨RX1, "<init>", "()V"⟩
def dkwX1_init_2 : List UInt8 := [183, 0, 9, 181, 0, 24, 42, 187, 0, 27, 89, 183, 0, 29, 181, 0, 30, 177]
abbrev dktX1_init_2 : List UInt8 := dkwX1_init_2 ++ []
def dkwX1_init_1 : List UInt8 := [183, 0, 9, 181, 0, 18, 42, 187, 0, 7, 89, 5, 183, 0, 9, 181, 0, 21, 42, 187, 0, 7, 89, 5]
abbrev dktX1_init_1 : List UInt8 := dkwX1_init_1 ++ dktX1_init_2
def dkwX1_init_0 : List UInt8 := [42, 183, 0, 1, 42, 187, 0, 7, 89, 5, 183, 0, 9, 181, 0, 12, 42, 187, 0, 7, 89, 5]
abbrev dktX1_init_0 : List UInt8 := dkwX1_init_0 ++ dktX1_init_1
theorem dksX1_init_0 : cX1_init.data.toList.drop 0 = dktX1_init_0 := by decide +kernel
theorem dksX1_init_1 : cX1_init.data.toList.drop 22 = dktX1_init_1 := dk_seg dksX1_init_0 22 rfl rfl
theorem dksX1_init_2 : cX1_init.data.toList.drop 46 = dktX1_init_2 := dk_seg dksX1_init_1 24 rfl rfl
theorem dX1_init_0 : decode cX1_init 0 = .ok (.aload_n 0, 1) := dk_42 (dk_at dksX1_init_0 0 rfl rfl)
theorem dX1_init_1 : decode cX1_init 1 = .ok (.invokespecial 1, 3) := dk_183 0 1 (dk_at dksX1_init_0 1 rfl rfl)
theorem dX1_init_4 : decode cX1_init 4 = .ok (.aload_n 0, 1) := dk_42 (dk_at dksX1_init_0 4 rfl rfl)
theorem dX1_init_5 : decode cX1_init 5 = .ok (.new 7, 3) := dk_187 0 7 (dk_at dksX1_init_0 5 rfl rfl)
theorem dX1_init_8 : decode cX1_init 8 = .ok (.dup, 1) := dk_89 (dk_at dksX1_init_0 8 rfl rfl)
theorem dX1_init_9 : decode cX1_init 9 = .ok (.iconst 2, 1) := dk_5 (dk_at dksX1_init_0 9 rfl rfl)
theorem dX1_init_10 : decode cX1_init 10 = .ok (.invokespecial 9, 3) := dk_183 0 9 (dk_at dksX1_init_0 10 rfl rfl)
theorem dX1_init_13 : decode cX1_init 13 = .ok (.putfield 12, 3) := dk_181 0 12 (dk_at dksX1_init_0 13 rfl rfl)
theorem dX1_init_16 : decode cX1_init 16 = .ok (.aload_n 0, 1) := dk_42 (dk_at dksX1_init_0 16 rfl rfl)
theorem dX1_init_17 : decode cX1_init 17 = .ok (.new 7, 3) := dk_187 0 7 (dk_at dksX1_init_0 17 rfl rfl)
theorem dX1_init_20 : decode cX1_init 20 = .ok (.dup, 1) := dk_89 (dk_at dksX1_init_0 20 rfl rfl)
theorem dX1_init_21 : decode cX1_init 21 = .ok (.iconst 2, 1) := dk_5 (dk_at dksX1_init_0 21 rfl rfl)
theorem dX1_init_22 : decode cX1_init 22 = .ok (.invokespecial 9, 3) := dk_183 0 9 (dk_at dksX1_init_1 0 rfl rfl)
theorem dX1_init_25 : decode cX1_init 25 = .ok (.putfield 18, 3) := dk_181 0 18 (dk_at dksX1_init_1 3 rfl rfl)
theorem dX1_init_28 : decode cX1_init 28 = .ok (.aload_n 0, 1) := dk_42 (dk_at dksX1_init_1 6 rfl rfl)
theorem dX1_init_29 : decode cX1_init 29 = .ok (.new 7, 3) := dk_187 0 7 (dk_at dksX1_init_1 7 rfl rfl)
theorem dX1_init_32 : decode cX1_init 32 = .ok (.dup, 1) := dk_89 (dk_at dksX1_init_1 10 rfl rfl)
theorem dX1_init_33 : decode cX1_init 33 = .ok (.iconst 2, 1) := dk_5 (dk_at dksX1_init_1 11 rfl rfl)
theorem dX1_init_34 : decode cX1_init 34 = .ok (.invokespecial 9, 3) := dk_183 0 9 (dk_at dksX1_init_1 12 rfl rfl)
theorem dX1_init_37 : decode cX1_init 37 = .ok (.putfield 21, 3) := dk_181 0 21 (dk_at dksX1_init_1 15 rfl rfl)
theorem dX1_init_40 : decode cX1_init 40 = .ok (.aload_n 0, 1) := dk_42 (dk_at dksX1_init_1 18 rfl rfl)
theorem dX1_init_41 : decode cX1_init 41 = .ok (.new 7, 3) := dk_187 0 7 (dk_at dksX1_init_1 19 rfl rfl)
theorem dX1_init_44 : decode cX1_init 44 = .ok (.dup, 1) := dk_89 (dk_at dksX1_init_1 22 rfl rfl)
theorem dX1_init_45 : decode cX1_init 45 = .ok (.iconst 2, 1) := dk_5 (dk_at dksX1_init_1 23 rfl rfl)
theorem dX1_init_46 : decode cX1_init 46 = .ok (.invokespecial 9, 3) := dk_183 0 9 (dk_at dksX1_init_2 0 rfl rfl)
theorem dX1_init_49 : decode cX1_init 49 = .ok (.putfield 24, 3) := dk_181 0 24 (dk_at dksX1_init_2 3 rfl rfl)
theorem dX1_init_52 : decode cX1_init 52 = .ok (.aload_n 0, 1) := dk_42 (dk_at dksX1_init_2 6 rfl rfl)
theorem dX1_init_53 : decode cX1_init 53 = .ok (.new 27, 3) := dk_187 0 27 (dk_at dksX1_init_2 7 rfl rfl)
theorem dX1_init_56 : decode cX1_init 56 = .ok (.dup, 1) := dk_89 (dk_at dksX1_init_2 10 rfl rfl)
theorem dX1_init_57 : decode cX1_init 57 = .ok (.invokespecial 29, 3) := dk_183 0 29 (dk_at dksX1_init_2 11 rfl rfl)
theorem dX1_init_60 : decode cX1_init 60 = .ok (.putfield 30, 3) := dk_181 0 30 (dk_at dksX1_init_2 14 rfl rfl)
theorem dX1_init_63 : decode cX1_init 63 = .ok (.return_, 1) := dk_177 (dk_at dksX1_init_2 17 rfl rfl)
abbrev cX1_areTied : ByteArray := prog_10_method_3_code
def yX1_areTied : MethodName := ⟨RX1, "areTied", "(II)Z"⟩
def dkwX1_areTied_2 : List UInt8 := [4, 167, 0, 4, 3, 62, 167, 255, 214, 29, 172]
abbrev dktX1_areTied_2 : List UInt8 := dkwX1_areTied_2 ++ []
def dkwX1_areTied_1 : List UInt8 := [185, 0, 54, 1, 0, 192, 0, 58, 58, 5, 29, 154, 0, 13, 25, 5, 27, 182, 0, 60, 28, 160, 0, 7]
abbrev dktX1_areTied_1 : List UInt8 := dkwX1_areTied_1 ++ dktX1_areTied_2
def dkwX1_areTied_0 : List UInt8 := [3, 62, 42, 180, 0, 24, 182, 0, 44, 58, 4, 25, 4, 185, 0, 48, 1, 0, 153, 0, 38, 25, 4]
abbrev dktX1_areTied_0 : List UInt8 := dkwX1_areTied_0 ++ dktX1_areTied_1
theorem dksX1_areTied_0 : cX1_areTied.data.toList.drop 0 = dktX1_areTied_0 := by decide +kernel
theorem dksX1_areTied_1 : cX1_areTied.data.toList.drop 23 = dktX1_areTied_1 := dk_seg dksX1_areTied_0 23 rfl rfl
theorem dksX1_areTied_2 : cX1_areTied.data.toList.drop 47 = dktX1_areTied_2 := dk_seg dksX1_areTied_1 24 rfl rfl
theorem dX1_areTied_0 : decode cX1_areTied 0 = .ok (.iconst 0, 1) := dk_3 (dk_at dksX1_areTied_0 0 rfl rfl)
theorem dX1_areTied_1 : decode cX1_areTied 1 = .ok (.istore_n 3, 1) := dk_62 (dk_at dksX1_areTied_0 1 rfl rfl)
theorem dX1_areTied_2 : decode cX1_areTied 2 = .ok (.aload_n 0, 1) := dk_42 (dk_at dksX1_areTied_0 2 rfl rfl)
theorem dX1_areTied_3 : decode cX1_areTied 3 = .ok (.getfield 24, 3) := dk_180 0 24 (dk_at dksX1_areTied_0 3 rfl rfl)
theorem dX1_areTied_6 : decode cX1_areTied 6 = .ok (.invokevirtual 44, 3) := dk_182 0 44 (dk_at dksX1_areTied_0 6 rfl rfl)
theorem dX1_areTied_9 : decode cX1_areTied 9 = .ok (.astore 4, 2) := dk_58 4 (dk_at dksX1_areTied_0 9 rfl rfl)
theorem dX1_areTied_11 : decode cX1_areTied 11 = .ok (.aload 4, 2) := dk_25 4 (dk_at dksX1_areTied_0 11 rfl rfl)
theorem dX1_areTied_13 : decode cX1_areTied 13 = .ok (.invokeinterface 48 1, 5) := by decide +kernel
theorem dX1_areTied_18 : decode cX1_areTied 18 = .ok (.ifCond .eq 38, 3) := dk_153 0 38 (dk_at dksX1_areTied_0 18 rfl rfl)
theorem dX1_areTied_21 : decode cX1_areTied 21 = .ok (.aload 4, 2) := dk_25 4 (dk_at dksX1_areTied_0 21 rfl rfl)
theorem dX1_areTied_23 : decode cX1_areTied 23 = .ok (.invokeinterface 54 1, 5) := by decide +kernel
theorem dX1_areTied_28 : decode cX1_areTied 28 = .ok (.checkcast 58, 3) := dk_192 0 58 (dk_at dksX1_areTied_1 5 rfl rfl)
theorem dX1_areTied_31 : decode cX1_areTied 31 = .ok (.astore 5, 2) := dk_58 5 (dk_at dksX1_areTied_1 8 rfl rfl)
theorem dX1_areTied_33 : decode cX1_areTied 33 = .ok (.iload_n 3, 1) := dk_29 (dk_at dksX1_areTied_1 10 rfl rfl)
theorem dX1_areTied_34 : decode cX1_areTied 34 = .ok (.ifCond .ne 13, 3) := dk_154 0 13 (dk_at dksX1_areTied_1 11 rfl rfl)
theorem dX1_areTied_37 : decode cX1_areTied 37 = .ok (.aload 5, 2) := dk_25 5 (dk_at dksX1_areTied_1 14 rfl rfl)
theorem dX1_areTied_39 : decode cX1_areTied 39 = .ok (.iload_n 1, 1) := dk_27 (dk_at dksX1_areTied_1 16 rfl rfl)
theorem dX1_areTied_40 : decode cX1_areTied 40 = .ok (.invokevirtual 60, 3) := dk_182 0 60 (dk_at dksX1_areTied_1 17 rfl rfl)
theorem dX1_areTied_43 : decode cX1_areTied 43 = .ok (.iload_n 2, 1) := dk_28 (dk_at dksX1_areTied_1 20 rfl rfl)
theorem dX1_areTied_44 : decode cX1_areTied 44 = .ok (.if_icmp .ne 7, 3) := dk_160 0 7 (dk_at dksX1_areTied_1 21 rfl rfl)
theorem dX1_areTied_47 : decode cX1_areTied 47 = .ok (.iconst 1, 1) := dk_4 (dk_at dksX1_areTied_2 0 rfl rfl)
theorem dX1_areTied_48 : decode cX1_areTied 48 = .ok (.goto 4, 3) := dk_167 0 4 (dk_at dksX1_areTied_2 1 rfl rfl)
theorem dX1_areTied_51 : decode cX1_areTied 51 = .ok (.iconst 0, 1) := dk_3 (dk_at dksX1_areTied_2 4 rfl rfl)
theorem dX1_areTied_52 : decode cX1_areTied 52 = .ok (.istore_n 3, 1) := dk_62 (dk_at dksX1_areTied_2 5 rfl rfl)
theorem dX1_areTied_53 : decode cX1_areTied 53 = .ok (.goto (-42), 3) := dk_167 255 214 (dk_at dksX1_areTied_2 6 rfl rfl)
theorem dX1_areTied_56 : decode cX1_areTied 56 = .ok (.iload_n 3, 1) := dk_29 (dk_at dksX1_areTied_2 9 rfl rfl)
theorem dX1_areTied_57 : decode cX1_areTied 57 = .ok (.ireturn, 1) := dk_172 (dk_at dksX1_areTied_2 10 rfl rfl)
abbrev cX1_knot : ByteArray := prog_10_method_2_code
def yX1_knot : MethodName := ⟨RX1, "knot", "(I)I"⟩
def dkwX1_knot_0 : List UInt8 := [42, 180, 0, 21, 27, 182, 0, 34, 192, 0, 38, 180, 0, 40, 172]
abbrev dktX1_knot_0 : List UInt8 := dkwX1_knot_0 ++ []
theorem dksX1_knot_0 : cX1_knot.data.toList.drop 0 = dktX1_knot_0 := by decide +kernel
theorem dX1_knot_0 : decode cX1_knot 0 = .ok (.aload_n 0, 1) := dk_42 (dk_at dksX1_knot_0 0 rfl rfl)
theorem dX1_knot_1 : decode cX1_knot 1 = .ok (.getfield 21, 3) := dk_180 0 21 (dk_at dksX1_knot_0 1 rfl rfl)
theorem dX1_knot_4 : decode cX1_knot 4 = .ok (.iload_n 1, 1) := dk_27 (dk_at dksX1_knot_0 4 rfl rfl)
theorem dX1_knot_5 : decode cX1_knot 5 = .ok (.invokevirtual 34, 3) := dk_182 0 34 (dk_at dksX1_knot_0 5 rfl rfl)
theorem dX1_knot_8 : decode cX1_knot 8 = .ok (.checkcast 38, 3) := dk_192 0 38 (dk_at dksX1_knot_0 8 rfl rfl)
theorem dX1_knot_11 : decode cX1_knot 11 = .ok (.getfield 40, 3) := dk_180 0 40 (dk_at dksX1_knot_0 11 rfl rfl)
theorem dX1_knot_14 : decode cX1_knot 14 = .ok (.ireturn, 1) := dk_172 (dk_at dksX1_knot_0 14 rfl rfl)
abbrev cX1_strength : ByteArray := prog_10_method_4_code
def yX1_strength : MethodName := ⟨RX1, "strength", "(II)I"⟩
def dkwX1_strength_3 : List UInt8 := [132, 4, 1, 167, 255, 188, 29, 172]
abbrev dktX1_strength_3 : List UInt8 := dkwX1_strength_3 ++ []
def dkwX1_strength_2 : List UInt8 := [160, 0, 7, 28, 167, 0, 18, 42, 180, 0, 18, 21, 4, 182, 0, 34, 192, 0, 38, 180, 0, 40, 96, 62]
abbrev dktX1_strength_2 : List UInt8 := dkwX1_strength_2 ++ dktX1_strength_3
def dkwX1_strength_1 : List UInt8 := [154, 0, 7, 3, 167, 0, 40, 28, 155, 0, 21, 21, 4, 42, 180, 0, 18, 182, 0, 64, 4, 100]
abbrev dktX1_strength_1 : List UInt8 := dkwX1_strength_1 ++ dktX1_strength_2
def dkwX1_strength_0 : List UInt8 := [3, 62, 3, 54, 4, 21, 4, 42, 180, 0, 18, 182, 0, 64, 162, 0, 62, 29, 27, 21, 4, 122, 4, 126]
abbrev dktX1_strength_0 : List UInt8 := dkwX1_strength_0 ++ dktX1_strength_1
theorem dksX1_strength_0 : cX1_strength.data.toList.drop 0 = dktX1_strength_0 := by decide +kernel
theorem dksX1_strength_1 : cX1_strength.data.toList.drop 24 = dktX1_strength_1 := dk_seg dksX1_strength_0 24 rfl rfl
theorem dksX1_strength_2 : cX1_strength.data.toList.drop 46 = dktX1_strength_2 := dk_seg dksX1_strength_1 22 rfl rfl
theorem dksX1_strength_3 : cX1_strength.data.toList.drop 70 = dktX1_strength_3 := dk_seg dksX1_strength_2 24 rfl rfl
theorem dX1_strength_0 : decode cX1_strength 0 = .ok (.iconst 0, 1) := dk_3 (dk_at dksX1_strength_0 0 rfl rfl)
theorem dX1_strength_1 : decode cX1_strength 1 = .ok (.istore_n 3, 1) := dk_62 (dk_at dksX1_strength_0 1 rfl rfl)
theorem dX1_strength_2 : decode cX1_strength 2 = .ok (.iconst 0, 1) := dk_3 (dk_at dksX1_strength_0 2 rfl rfl)
theorem dX1_strength_3 : decode cX1_strength 3 = .ok (.istore 4, 2) := dk_54 4 (dk_at dksX1_strength_0 3 rfl rfl)
theorem dX1_strength_5 : decode cX1_strength 5 = .ok (.iload 4, 2) := dk_21 4 (dk_at dksX1_strength_0 5 rfl rfl)
theorem dX1_strength_7 : decode cX1_strength 7 = .ok (.aload_n 0, 1) := dk_42 (dk_at dksX1_strength_0 7 rfl rfl)
theorem dX1_strength_8 : decode cX1_strength 8 = .ok (.getfield 18, 3) := dk_180 0 18 (dk_at dksX1_strength_0 8 rfl rfl)
theorem dX1_strength_11 : decode cX1_strength 11 = .ok (.invokevirtual 64, 3) := dk_182 0 64 (dk_at dksX1_strength_0 11 rfl rfl)
theorem dX1_strength_14 : decode cX1_strength 14 = .ok (.if_icmp .ge 62, 3) := dk_162 0 62 (dk_at dksX1_strength_0 14 rfl rfl)
theorem dX1_strength_17 : decode cX1_strength 17 = .ok (.iload_n 3, 1) := dk_29 (dk_at dksX1_strength_0 17 rfl rfl)
theorem dX1_strength_18 : decode cX1_strength 18 = .ok (.iload_n 1, 1) := dk_27 (dk_at dksX1_strength_0 18 rfl rfl)
theorem dX1_strength_19 : decode cX1_strength 19 = .ok (.iload 4, 2) := dk_21 4 (dk_at dksX1_strength_0 19 rfl rfl)
theorem dX1_strength_21 : decode cX1_strength 21 = .ok (.ishr, 1) := dk_122 (dk_at dksX1_strength_0 21 rfl rfl)
theorem dX1_strength_22 : decode cX1_strength 22 = .ok (.iconst 1, 1) := dk_4 (dk_at dksX1_strength_0 22 rfl rfl)
theorem dX1_strength_23 : decode cX1_strength 23 = .ok (.iand, 1) := dk_126 (dk_at dksX1_strength_0 23 rfl rfl)
theorem dX1_strength_24 : decode cX1_strength 24 = .ok (.ifCond .ne 7, 3) := dk_154 0 7 (dk_at dksX1_strength_1 0 rfl rfl)
theorem dX1_strength_27 : decode cX1_strength 27 = .ok (.iconst 0, 1) := dk_3 (dk_at dksX1_strength_1 3 rfl rfl)
theorem dX1_strength_28 : decode cX1_strength 28 = .ok (.goto 40, 3) := dk_167 0 40 (dk_at dksX1_strength_1 4 rfl rfl)
theorem dX1_strength_31 : decode cX1_strength 31 = .ok (.iload_n 2, 1) := dk_28 (dk_at dksX1_strength_1 7 rfl rfl)
theorem dX1_strength_32 : decode cX1_strength 32 = .ok (.ifCond .lt 21, 3) := dk_155 0 21 (dk_at dksX1_strength_1 8 rfl rfl)
theorem dX1_strength_35 : decode cX1_strength 35 = .ok (.iload 4, 2) := dk_21 4 (dk_at dksX1_strength_1 11 rfl rfl)
theorem dX1_strength_37 : decode cX1_strength 37 = .ok (.aload_n 0, 1) := dk_42 (dk_at dksX1_strength_1 13 rfl rfl)
theorem dX1_strength_38 : decode cX1_strength 38 = .ok (.getfield 18, 3) := dk_180 0 18 (dk_at dksX1_strength_1 14 rfl rfl)
theorem dX1_strength_41 : decode cX1_strength 41 = .ok (.invokevirtual 64, 3) := dk_182 0 64 (dk_at dksX1_strength_1 17 rfl rfl)
theorem dX1_strength_44 : decode cX1_strength 44 = .ok (.iconst 1, 1) := dk_4 (dk_at dksX1_strength_1 20 rfl rfl)
theorem dX1_strength_45 : decode cX1_strength 45 = .ok (.isub, 1) := dk_100 (dk_at dksX1_strength_1 21 rfl rfl)
theorem dX1_strength_46 : decode cX1_strength 46 = .ok (.if_icmp .ne 7, 3) := dk_160 0 7 (dk_at dksX1_strength_2 0 rfl rfl)
theorem dX1_strength_49 : decode cX1_strength 49 = .ok (.iload_n 2, 1) := dk_28 (dk_at dksX1_strength_2 3 rfl rfl)
theorem dX1_strength_50 : decode cX1_strength 50 = .ok (.goto 18, 3) := dk_167 0 18 (dk_at dksX1_strength_2 4 rfl rfl)
theorem dX1_strength_53 : decode cX1_strength 53 = .ok (.aload_n 0, 1) := dk_42 (dk_at dksX1_strength_2 7 rfl rfl)
theorem dX1_strength_54 : decode cX1_strength 54 = .ok (.getfield 18, 3) := dk_180 0 18 (dk_at dksX1_strength_2 8 rfl rfl)
theorem dX1_strength_57 : decode cX1_strength 57 = .ok (.iload 4, 2) := dk_21 4 (dk_at dksX1_strength_2 11 rfl rfl)
theorem dX1_strength_59 : decode cX1_strength 59 = .ok (.invokevirtual 34, 3) := dk_182 0 34 (dk_at dksX1_strength_2 13 rfl rfl)
theorem dX1_strength_62 : decode cX1_strength 62 = .ok (.checkcast 38, 3) := dk_192 0 38 (dk_at dksX1_strength_2 16 rfl rfl)
theorem dX1_strength_65 : decode cX1_strength 65 = .ok (.getfield 40, 3) := dk_180 0 40 (dk_at dksX1_strength_2 19 rfl rfl)
theorem dX1_strength_68 : decode cX1_strength 68 = .ok (.iadd, 1) := dk_96 (dk_at dksX1_strength_2 22 rfl rfl)
theorem dX1_strength_69 : decode cX1_strength 69 = .ok (.istore_n 3, 1) := dk_62 (dk_at dksX1_strength_2 23 rfl rfl)
theorem dX1_strength_70 : decode cX1_strength 70 = .ok (.iinc 4 1, 3) := dk_132 4 1 (dk_at dksX1_strength_3 0 rfl rfl)
theorem dX1_strength_73 : decode cX1_strength 73 = .ok (.goto (-68), 3) := dk_167 255 188 (dk_at dksX1_strength_3 3 rfl rfl)
theorem dX1_strength_76 : decode cX1_strength 76 = .ok (.iload_n 3, 1) := dk_29 (dk_at dksX1_strength_3 6 rfl rfl)
theorem dX1_strength_77 : decode cX1_strength 77 = .ok (.ireturn, 1) := dk_172 (dk_at dksX1_strength_3 7 rfl rfl)
abbrev cX1_all : ByteArray := prog_10_method_5_code
def yX1_all : MethodName := ⟨RX1, "all", "()I"⟩
def dkwX1_all_0 : List UInt8 := [4, 42, 180, 0, 18, 182, 0, 64, 120, 4, 100, 172]
abbrev dktX1_all_0 : List UInt8 := dkwX1_all_0 ++ []
theorem dksX1_all_0 : cX1_all.data.toList.drop 0 = dktX1_all_0 := by decide +kernel
theorem dX1_all_0 : decode cX1_all 0 = .ok (.iconst 1, 1) := dk_4 (dk_at dksX1_all_0 0 rfl rfl)
theorem dX1_all_1 : decode cX1_all 1 = .ok (.aload_n 0, 1) := dk_42 (dk_at dksX1_all_0 1 rfl rfl)
theorem dX1_all_2 : decode cX1_all 2 = .ok (.getfield 18, 3) := dk_180 0 18 (dk_at dksX1_all_0 2 rfl rfl)
theorem dX1_all_5 : decode cX1_all 5 = .ok (.invokevirtual 64, 3) := dk_182 0 64 (dk_at dksX1_all_0 5 rfl rfl)
theorem dX1_all_8 : decode cX1_all 8 = .ok (.ishl, 1) := dk_120 (dk_at dksX1_all_0 8 rfl rfl)
theorem dX1_all_9 : decode cX1_all 9 = .ok (.iconst 1, 1) := dk_4 (dk_at dksX1_all_0 9 rfl rfl)
theorem dX1_all_10 : decode cX1_all 10 = .ok (.isub, 1) := dk_100 (dk_at dksX1_all_0 10 rfl rfl)
theorem dX1_all_11 : decode cX1_all 11 = .ok (.ireturn, 1) := dk_172 (dk_at dksX1_all_0 11 rfl rfl)
theorem q125 : (Jvm.Cond.initialized "WebCourt$Book") ∈ lw_all := lw_g (lw_at lw_m1 2 rfl) rfl
theorem q166 : (Jvm.Cond.instantiable "WebCourt$Book" (10 : Nat)) ∈ lw_all := lw_g (lw_at lw_m1 43 rfl) rfl
theorem q168 : (Jvm.Cond.instanceMethod ({ cls := "WebCourt$Book", name := "<init>", desc := "()V" } : Jvm.MethodName)) ∈ lw_all := lw_g (lw_at lw_m1 45 rfl) rfl
theorem q169 : (Jvm.Cond.code ({ cls := "WebCourt$Book", name := "<init>", desc := "()V" } : Jvm.MethodName) prog_10_method_1_code (1 : Nat) (Option.none : Option Jvm.ClassFile.FieldType)) ∈ lw_all := lw_g (lw_at lw_m1 46 rfl) rfl
theorem q170 : (Jvm.Cond.methodLink "WebCourt$Book" (1 : Nat) ({ cls := "java/lang/Object", name := "<init>", desc := "()V" } : Jvm.MethodName)) ∈ lw_all := lw_g (lw_at lw_m1 47 rfl) rfl
theorem q171 : (Jvm.Cond.classLink "WebCourt$Book" (7 : Nat) "java/util/ArrayList") ∈ lw_all := lw_g (lw_at lw_m1 48 rfl) rfl
theorem q173 : (Jvm.Cond.methodLink "WebCourt$Book" (9 : Nat) ({ cls := "java/util/ArrayList", name := "<init>", desc := "(I)V" } : Jvm.MethodName)) ∈ lw_all := lw_g (lw_at lw_m1 50 rfl) rfl
theorem q203 : (Jvm.Cond.classLink "WebCourt$Book" (27 : Nat) "WebCourt$Ask") ∈ lw_all := lw_g (lw_at lw_m1 80 rfl) rfl
theorem q205 : (Jvm.Cond.methodLinkNest "WebCourt$Book" (29 : Nat) ({ cls := "WebCourt$Ask", name := "<init>", desc := "()V" } : Jvm.MethodName) "WebCourt") ∈ lw_tbl := lw_at lw_m1 82 rfl
theorem q234 : (Jvm.Cond.fieldLink "WebCourt$Book" (12 : Nat) "WebCourt$Book" "knots" "Ljava/util/ArrayList;") ∈ lw_all := lw_g (lw_at lw_m1 111 rfl) rfl
theorem q238 : (Jvm.Cond.fieldLink "WebCourt$Book" (18 : Nat) "WebCourt$Book" "pleas" "Ljava/util/ArrayList;") ∈ lw_all := lw_g (lw_at lw_m1 115 rfl) rfl
theorem q241 : (Jvm.Cond.fieldLink "WebCourt$Book" (21 : Nat) "WebCourt$Book" "cases" "Ljava/util/ArrayList;") ∈ lw_all := lw_g (lw_at lw_m1 118 rfl) rfl
theorem q245 : (Jvm.Cond.fieldLink "WebCourt$Book" (24 : Nat) "WebCourt$Book" "lines" "Ljava/util/ArrayList;") ∈ lw_all := lw_g (lw_at lw_m1 122 rfl) rfl
theorem q249 : (Jvm.Cond.fieldLink "WebCourt$Book" (30 : Nat) "WebCourt$Book" "ask" "LWebCourt$Ask;") ∈ lw_all := lw_g (lw_at lw_m1 126 rfl) rfl
theorem q262 : (Jvm.Cond.laysFinal "WebCourt$Book" "WebCourt$Book" "knots" "Ljava/util/ArrayList;") ∈ lw_all := lw_g (lw_at lw_m1 139 rfl) rfl
theorem q263 : (Jvm.Cond.soleField "WebCourt$Book" "knots") ∈ lw_all := lw_g (lw_at lw_m1 140 rfl) rfl
theorem q264 : (Jvm.Cond.laysFinal "WebCourt$Book" "WebCourt$Book" "pleas" "Ljava/util/ArrayList;") ∈ lw_all := lw_g (lw_at lw_m1 141 rfl) rfl
theorem q265 : (Jvm.Cond.soleField "WebCourt$Book" "pleas") ∈ lw_all := lw_g (lw_at lw_m1 142 rfl) rfl
theorem q266 : (Jvm.Cond.laysFinal "WebCourt$Book" "WebCourt$Book" "cases" "Ljava/util/ArrayList;") ∈ lw_all := lw_g (lw_at lw_m1 143 rfl) rfl
theorem q267 : (Jvm.Cond.soleField "WebCourt$Book" "cases") ∈ lw_all := lw_g (lw_at lw_m1 144 rfl) rfl
theorem q268 : (Jvm.Cond.laysFinal "WebCourt$Book" "WebCourt$Book" "lines" "Ljava/util/ArrayList;") ∈ lw_all := lw_g (lw_at lw_m1 145 rfl) rfl
theorem q269 : (Jvm.Cond.soleField "WebCourt$Book" "lines") ∈ lw_all := lw_g (lw_at lw_m1 146 rfl) rfl
theorem q270 : (Jvm.Cond.laysFinal "WebCourt$Book" "WebCourt$Book" "ask" "LWebCourt$Ask;") ∈ lw_all := lw_g (lw_at lw_m1 147 rfl) rfl
theorem q271 : (Jvm.Cond.soleField "WebCourt$Book" "ask") ∈ lw_all := lw_g (lw_at lw_m1 148 rfl) rfl
theorem q272 : (Jvm.Cond.lays "WebCourt$Book" "WebCourt$Book" "law" "LWebCourt$Node;") ∈ lw_all := lw_g (lw_at lw_m1 149 rfl) rfl
theorem q273 : (Jvm.Cond.soleField "WebCourt$Book" "law") ∈ lw_all := lw_g (lw_at lw_m1 150 rfl) rfl
theorem q274 : (Jvm.Cond.lays "WebCourt$Book" "WebCourt$Book" "bench" "I") ∈ lw_all := lw_g (lw_at lw_m1 151 rfl) rfl
theorem q275 : (Jvm.Cond.soleField "WebCourt$Book" "bench") ∈ lw_all := lw_g (lw_at lw_m1 152 rfl) rfl
theorem q276 : (Jvm.Cond.lays "WebCourt$Book" "WebCourt$Book" "back" "I") ∈ lw_all := lw_g (lw_at lw_m1 153 rfl) rfl
theorem q277 : (Jvm.Cond.soleField "WebCourt$Book" "back") ∈ lw_all := lw_g (lw_at lw_m1 154 rfl) rfl
theorem q278 : (Jvm.Cond.lays "WebCourt$Book" "WebCourt$Book" "seed" "I") ∈ lw_all := lw_g (lw_at lw_m1 155 rfl) rfl
theorem q279 : (Jvm.Cond.soleField "WebCourt$Book" "seed") ∈ lw_all := lw_g (lw_at lw_m1 156 rfl) rfl
theorem q280 : (Jvm.Cond.lays "WebCourt$Book" "WebCourt$Book" "units" "I") ∈ lw_all := lw_g (lw_at lw_m1 157 rfl) rfl
theorem q281 : (Jvm.Cond.soleField "WebCourt$Book" "units") ∈ lw_all := lw_g (lw_at lw_m1 158 rfl) rfl
theorem q282 : (Jvm.Cond.superclass "WebCourt$Book" "java/lang/Object") ∈ lw_all := lw_g (lw_at lw_m1 159 rfl) rfl
theorem q894 : (Jvm.Cond.fieldLink "WebCourt$Book" (40 : Nat) "WebCourt$Named" "number" "I") ∈ lw_all := lw_g (lw_at lw_m4 51 rfl) rfl
theorem q940 : (Jvm.Cond.selects "WebCourt$Book" ({ cls := "java/lang/Object", name := "getClass", desc := "()Ljava/lang/Class;" } : Jvm.MethodName) ({ cls := "java/lang/Object", name := "getClass", desc := "()Ljava/lang/Class;" } : Jvm.MethodName)) ∈ lw_all := lw_g (lw_at lw_m4 97 rfl) rfl
theorem q976 : (Jvm.Cond.instanceMethod ({ cls := "WebCourt$Book", name := "areTied", desc := "(II)Z" } : Jvm.MethodName)) ∈ lw_all := lw_g (lw_at lw_m4 133 rfl) rfl
theorem q977 : (Jvm.Cond.selects "WebCourt$Book" ({ cls := "WebCourt$Book", name := "areTied", desc := "(II)Z" } : Jvm.MethodName) ({ cls := "WebCourt$Book", name := "areTied", desc := "(II)Z" } : Jvm.MethodName)) ∈ lw_all := lw_g (lw_at lw_m4 134 rfl) rfl
theorem q978 : (Jvm.Cond.code ({ cls := "WebCourt$Book", name := "areTied", desc := "(II)Z" } : Jvm.MethodName) prog_10_method_3_code (6 : Nat) (Option.some Jvm.ClassFile.FieldType.boolean)) ∈ lw_all := lw_g (lw_at lw_m4 135 rfl) rfl
theorem q979 : (Jvm.Cond.methodLink "WebCourt$Book" (44 : Nat) ({ cls := "java/util/ArrayList", name := "iterator", desc := "()Ljava/util/Iterator;" } : Jvm.MethodName)) ∈ lw_all := lw_g (lw_at lw_m4 136 rfl) rfl
theorem q1002 : (Jvm.Cond.interfaceEntry "WebCourt$Book" (48 : Nat)) ∈ lw_tbl := lw_at lw_m4 159 rfl
theorem q1003 : (Jvm.Cond.methodLink "WebCourt$Book" (48 : Nat) ({ cls := "java/util/Iterator", name := "hasNext", desc := "()Z" } : Jvm.MethodName)) ∈ lw_all := lw_g (lw_at lw_m4 160 rfl) rfl
theorem q1012 : (Jvm.Cond.interfaceEntry "WebCourt$Book" (54 : Nat)) ∈ lw_tbl := lw_at lw_m4 169 rfl
theorem q1013 : (Jvm.Cond.methodLink "WebCourt$Book" (54 : Nat) ({ cls := "java/util/Iterator", name := "next", desc := "()Ljava/lang/Object;" } : Jvm.MethodName)) ∈ lw_all := lw_g (lw_at lw_m4 170 rfl) rfl
theorem q1025 : (Jvm.Cond.classLink "WebCourt$Book" (58 : Nat) "WebCourt$Line") ∈ lw_all := lw_g (lw_at lw_m4 182 rfl) rfl
theorem q1026 : (Jvm.Cond.methodLink "WebCourt$Book" (60 : Nat) ({ cls := "WebCourt$Line", name := "from", desc := "(I)I" } : Jvm.MethodName)) ∈ lw_all := lw_g (lw_at lw_m4 183 rfl) rfl
theorem q1220 : (Jvm.Cond.instanceMethod ({ cls := "WebCourt$Book", name := "knot", desc := "(I)I" } : Jvm.MethodName)) ∈ lw_all := lw_g (lw_at lw_m5 137 rfl) rfl
theorem q1221 : (Jvm.Cond.selects "WebCourt$Book" ({ cls := "WebCourt$Book", name := "knot", desc := "(I)I" } : Jvm.MethodName) ({ cls := "WebCourt$Book", name := "knot", desc := "(I)I" } : Jvm.MethodName)) ∈ lw_all := lw_g (lw_at lw_m5 138 rfl) rfl
theorem q1222 : (Jvm.Cond.code ({ cls := "WebCourt$Book", name := "knot", desc := "(I)I" } : Jvm.MethodName) prog_10_method_2_code (2 : Nat) (Option.some Jvm.ClassFile.FieldType.int)) ∈ lw_all := lw_g (lw_at lw_m5 139 rfl) rfl
theorem q1223 : (Jvm.Cond.methodLink "WebCourt$Book" (34 : Nat) ({ cls := "java/util/ArrayList", name := "get", desc := "(I)Ljava/lang/Object;" } : Jvm.MethodName)) ∈ lw_all := lw_g (lw_at lw_m5 140 rfl) rfl
theorem q1224 : (Jvm.Cond.classLink "WebCourt$Book" (38 : Nat) "WebCourt$Named") ∈ lw_all := lw_g (lw_at lw_m5 141 rfl) rfl
theorem q1259 : (Jvm.Cond.instanceMethod ({ cls := "WebCourt$Book", name := "strength", desc := "(II)I" } : Jvm.MethodName)) ∈ lw_all := lw_g (lw_at lw_m5 176 rfl) rfl
theorem q1260 : (Jvm.Cond.selects "WebCourt$Book" ({ cls := "WebCourt$Book", name := "strength", desc := "(II)I" } : Jvm.MethodName) ({ cls := "WebCourt$Book", name := "strength", desc := "(II)I" } : Jvm.MethodName)) ∈ lw_all := lw_g (lw_at lw_m5 177 rfl) rfl
theorem q1261 : (Jvm.Cond.code ({ cls := "WebCourt$Book", name := "strength", desc := "(II)I" } : Jvm.MethodName) prog_10_method_4_code (5 : Nat) (Option.some Jvm.ClassFile.FieldType.int)) ∈ lw_all := lw_g (lw_at lw_m5 178 rfl) rfl
theorem q1262 : (Jvm.Cond.methodLink "WebCourt$Book" (64 : Nat) ({ cls := "java/util/ArrayList", name := "size", desc := "()I" } : Jvm.MethodName)) ∈ lw_all := lw_g (lw_at lw_m5 179 rfl) rfl
theorem q1412 : (Jvm.Cond.instanceMethod ({ cls := "WebCourt$Book", name := "all", desc := "()I" } : Jvm.MethodName)) ∈ lw_all := lw_g (lw_at lw_m6 89 rfl) rfl
theorem q1413 : (Jvm.Cond.selects "WebCourt$Book" ({ cls := "WebCourt$Book", name := "all", desc := "()I" } : Jvm.MethodName) ({ cls := "WebCourt$Book", name := "all", desc := "()I" } : Jvm.MethodName)) ∈ lw_all := lw_g (lw_at lw_m6 90 rfl) rfl
theorem q1414 : (Jvm.Cond.code ({ cls := "WebCourt$Book", name := "all", desc := "()I" } : Jvm.MethodName) prog_10_method_5_code (1 : Nat) (Option.some Jvm.ClassFile.FieldType.int)) ∈ lw_all := lw_g (lw_at lw_m6 91 rfl) rfl
theorem q2340 : (Jvm.Cond.castable "WebCourt$Book" "java/lang/Object") ∈ lw_tbl := lw_at lw_m10 57 rfl
theorem in_X1 : ∀ w ∈ wsX10, w ∈ lw_all := lw_in wsX10 [262, 264, 266, 268, 270, 272, 274, 276, 278, 280] (by decide +kernel) (by decide +kernel)
/-! WebCourt$Ask -/
set_option maxRecDepth 100000
def RX2 : String := "WebCourt$Ask"
def TX2 : u_T := fun k => match k with
  | 0 => ("WebCourt$Ask", "pleads", "I", false)
  | 1 => ("WebCourt$Ask", "many", "I", false)
  | 2 => ("WebCourt$Ask", "before", "I", false)
  | 3 => ("WebCourt$Ask", "stays", "I", false)
  | 4 => ("WebCourt$Ask", "kin", "I", false)
  | _ => ("WebCourt$Ask", "hour", "I", false)
def tyX2 : Nat → FieldType := fun k => match k with
  | 0 => .int
  | 1 => .int
  | 2 => .int
  | 3 => .int
  | 4 => .int
  | _ => .int
abbrev wsX20 : List Cond := u_ws RX2 TX2 6
theorem nmX2 : ∀ a, a < 6 → ∀ b, b < 6 → a ≠ b → (TX2 a).2.1 ≠ (TX2 b).2.1 := by decide +kernel
theorem tyX2_ok : ∀ k, k < 6 → parseFieldDescriptor (TX2 k).2.2.1 = some (tyX2 k) := by decide +kernel
abbrev cX2_init : ByteArray := prog_2_method_1_code
def yX2_init : MethodName := ⟨RX2, "<init>", "()V"⟩
theorem dX2_init_0 : decode cX2_init 0 = .ok (.aload_n 0, 1) := by decide +kernel
theorem dX2_init_1 : decode cX2_init 1 = .ok (.invokespecial 1, 3) := by decide +kernel
theorem dX2_init_4 : decode cX2_init 4 = .ok (.return_, 1) := by decide +kernel
theorem q129 : (Jvm.Cond.initialized "WebCourt$Ask") ∈ lw_all := lw_g (lw_at lw_m1 6 rfl) rfl
theorem q204 : (Jvm.Cond.instantiable "WebCourt$Ask" (6 : Nat)) ∈ lw_all := lw_g (lw_at lw_m1 81 rfl) rfl
theorem q206 : (Jvm.Cond.instanceMethod ({ cls := "WebCourt$Ask", name := "<init>", desc := "()V" } : Jvm.MethodName)) ∈ lw_all := lw_g (lw_at lw_m1 83 rfl) rfl
theorem q207 : (Jvm.Cond.code ({ cls := "WebCourt$Ask", name := "<init>", desc := "()V" } : Jvm.MethodName) prog_2_method_1_code (1 : Nat) (Option.none : Option Jvm.ClassFile.FieldType)) ∈ lw_all := lw_g (lw_at lw_m1 84 rfl) rfl
theorem q208 : (Jvm.Cond.methodLink "WebCourt$Ask" (1 : Nat) ({ cls := "java/lang/Object", name := "<init>", desc := "()V" } : Jvm.MethodName)) ∈ lw_all := lw_g (lw_at lw_m1 85 rfl) rfl
theorem q221 : (Jvm.Cond.lays "WebCourt$Ask" "WebCourt$Ask" "pleads" "I") ∈ lw_all := lw_g (lw_at lw_m1 98 rfl) rfl
theorem q222 : (Jvm.Cond.soleField "WebCourt$Ask" "pleads") ∈ lw_all := lw_g (lw_at lw_m1 99 rfl) rfl
theorem q223 : (Jvm.Cond.lays "WebCourt$Ask" "WebCourt$Ask" "many" "I") ∈ lw_all := lw_g (lw_at lw_m1 100 rfl) rfl
theorem q224 : (Jvm.Cond.soleField "WebCourt$Ask" "many") ∈ lw_all := lw_g (lw_at lw_m1 101 rfl) rfl
theorem q225 : (Jvm.Cond.lays "WebCourt$Ask" "WebCourt$Ask" "before" "I") ∈ lw_all := lw_g (lw_at lw_m1 102 rfl) rfl
theorem q226 : (Jvm.Cond.soleField "WebCourt$Ask" "before") ∈ lw_all := lw_g (lw_at lw_m1 103 rfl) rfl
theorem q227 : (Jvm.Cond.lays "WebCourt$Ask" "WebCourt$Ask" "stays" "I") ∈ lw_all := lw_g (lw_at lw_m1 104 rfl) rfl
theorem q228 : (Jvm.Cond.soleField "WebCourt$Ask" "stays") ∈ lw_all := lw_g (lw_at lw_m1 105 rfl) rfl
theorem q229 : (Jvm.Cond.lays "WebCourt$Ask" "WebCourt$Ask" "kin" "I") ∈ lw_all := lw_g (lw_at lw_m1 106 rfl) rfl
theorem q230 : (Jvm.Cond.soleField "WebCourt$Ask" "kin") ∈ lw_all := lw_g (lw_at lw_m1 107 rfl) rfl
theorem q231 : (Jvm.Cond.lays "WebCourt$Ask" "WebCourt$Ask" "hour" "I") ∈ lw_all := lw_g (lw_at lw_m1 108 rfl) rfl
theorem q232 : (Jvm.Cond.soleField "WebCourt$Ask" "hour") ∈ lw_all := lw_g (lw_at lw_m1 109 rfl) rfl
theorem q233 : (Jvm.Cond.superclass "WebCourt$Ask" "java/lang/Object") ∈ lw_all := lw_g (lw_at lw_m1 110 rfl) rfl
theorem q933 : (Jvm.Cond.selects "WebCourt$Ask" ({ cls := "java/lang/Object", name := "getClass", desc := "()Ljava/lang/Class;" } : Jvm.MethodName) ({ cls := "java/lang/Object", name := "getClass", desc := "()Ljava/lang/Class;" } : Jvm.MethodName)) ∈ lw_all := lw_g (lw_at lw_m4 90 rfl) rfl
theorem q2342 : (Jvm.Cond.castable "WebCourt$Ask" "java/lang/Object") ∈ lw_tbl := lw_at lw_m10 59 rfl
theorem in_X2 : ∀ w ∈ wsX20, w ∈ lw_all := lw_in wsX20 [221, 223, 225, 227, 229, 231] (by decide +kernel) (by decide +kernel)
/-! WebCourt$Court -/
set_option maxRecDepth 100000
def RX3 : String := "WebCourt$Court"
def TX3 : u_T := fun k => match k with
  | 0 => ("WebCourt$Court", "state", "[I", true)
  | 1 => ("WebCourt$Court", "pleas", "[I", true)
  | 2 => ("WebCourt$Court", "before", "[I", true)
  | 3 => ("WebCourt$Court", "stays", "[I", true)
  | 4 => ("WebCourt$Court", "last", "I", false)
  | 5 => ("WebCourt$Court", "at", "I", false)
  | 6 => ("WebCourt$Court", "hour", "I", false)
  | 7 => ("WebCourt$Court", "seed", "I", false)
  | 8 => ("WebCourt$Court", "sticky", "I", false)
  | _ => ("WebCourt$Court", "hasHeard", "Z", false)
def tyX3 : Nat → FieldType := fun k => match k with
  | 0 => .array .int
  | 1 => .array .int
  | 2 => .array .int
  | 3 => .array .int
  | 4 => .int
  | 5 => .int
  | 6 => .int
  | 7 => .int
  | 8 => .int
  | _ => .boolean
abbrev wsX30 : List Cond := u_ws RX3 TX3 10
theorem nmX3 : ∀ a, a < 10 → ∀ b, b < 10 → a ≠ b → (TX3 a).2.1 ≠ (TX3 b).2.1 := by decide +kernel
theorem tyX3_ok : ∀ k, k < 10 → parseFieldDescriptor (TX3 k).2.2.1 = some (tyX3 k) := by decide +kernel
abbrev cX3_init : ByteArray := prog_11_method_1_code
def yX3_init : MethodName := ⟨RX3, "<init>", "()V"⟩
def dkwX3_init_1 : List UInt8 := [188, 10, 181, 0, 18, 42, 16, 6, 188, 10, 181, 0, 21, 42, 2, 181, 0, 24, 177]
abbrev dktX3_init_1 : List UInt8 := dkwX3_init_1 ++ []
def dkwX3_init_0 : List UInt8 := [42, 183, 0, 3, 42, 16, 6, 188, 10, 181, 0, 9, 42, 16, 6, 188, 10, 181, 0, 15, 42, 16, 6]
abbrev dktX3_init_0 : List UInt8 := dkwX3_init_0 ++ dktX3_init_1
theorem dksX3_init_0 : cX3_init.data.toList.drop 0 = dktX3_init_0 := by decide +kernel
theorem dksX3_init_1 : cX3_init.data.toList.drop 23 = dktX3_init_1 := dk_seg dksX3_init_0 23 rfl rfl
theorem dX3_init_0 : decode cX3_init 0 = .ok (.aload_n 0, 1) := dk_42 (dk_at dksX3_init_0 0 rfl rfl)
theorem dX3_init_1 : decode cX3_init 1 = .ok (.invokespecial 3, 3) := dk_183 0 3 (dk_at dksX3_init_0 1 rfl rfl)
theorem dX3_init_4 : decode cX3_init 4 = .ok (.aload_n 0, 1) := dk_42 (dk_at dksX3_init_0 4 rfl rfl)
theorem dX3_init_5 : decode cX3_init 5 = .ok (.bipush 6, 2) := dk_16 6 (dk_at dksX3_init_0 5 rfl rfl)
theorem dX3_init_7 : decode cX3_init 7 = .ok (.newarray .int, 2) := dk_188_10 (dk_at dksX3_init_0 7 rfl rfl)
theorem dX3_init_9 : decode cX3_init 9 = .ok (.putfield 9, 3) := dk_181 0 9 (dk_at dksX3_init_0 9 rfl rfl)
theorem dX3_init_12 : decode cX3_init 12 = .ok (.aload_n 0, 1) := dk_42 (dk_at dksX3_init_0 12 rfl rfl)
theorem dX3_init_13 : decode cX3_init 13 = .ok (.bipush 6, 2) := dk_16 6 (dk_at dksX3_init_0 13 rfl rfl)
theorem dX3_init_15 : decode cX3_init 15 = .ok (.newarray .int, 2) := dk_188_10 (dk_at dksX3_init_0 15 rfl rfl)
theorem dX3_init_17 : decode cX3_init 17 = .ok (.putfield 15, 3) := dk_181 0 15 (dk_at dksX3_init_0 17 rfl rfl)
theorem dX3_init_20 : decode cX3_init 20 = .ok (.aload_n 0, 1) := dk_42 (dk_at dksX3_init_0 20 rfl rfl)
theorem dX3_init_21 : decode cX3_init 21 = .ok (.bipush 6, 2) := dk_16 6 (dk_at dksX3_init_0 21 rfl rfl)
theorem dX3_init_23 : decode cX3_init 23 = .ok (.newarray .int, 2) := dk_188_10 (dk_at dksX3_init_1 0 rfl rfl)
theorem dX3_init_25 : decode cX3_init 25 = .ok (.putfield 18, 3) := dk_181 0 18 (dk_at dksX3_init_1 2 rfl rfl)
theorem dX3_init_28 : decode cX3_init 28 = .ok (.aload_n 0, 1) := dk_42 (dk_at dksX3_init_1 5 rfl rfl)
theorem dX3_init_29 : decode cX3_init 29 = .ok (.bipush 6, 2) := dk_16 6 (dk_at dksX3_init_1 6 rfl rfl)
theorem dX3_init_31 : decode cX3_init 31 = .ok (.newarray .int, 2) := dk_188_10 (dk_at dksX3_init_1 8 rfl rfl)
theorem dX3_init_33 : decode cX3_init 33 = .ok (.putfield 21, 3) := dk_181 0 21 (dk_at dksX3_init_1 10 rfl rfl)
theorem dX3_init_36 : decode cX3_init 36 = .ok (.aload_n 0, 1) := dk_42 (dk_at dksX3_init_1 13 rfl rfl)
theorem dX3_init_37 : decode cX3_init 37 = .ok (.iconst (-1), 1) := dk_2 (dk_at dksX3_init_1 14 rfl rfl)
theorem dX3_init_38 : decode cX3_init 38 = .ok (.putfield 24, 3) := dk_181 0 24 (dk_at dksX3_init_1 15 rfl rfl)
theorem dX3_init_41 : decode cX3_init 41 = .ok (.return_, 1) := dk_177 (dk_at dksX3_init_1 18 rfl rfl)
abbrev cX3_begin : ByteArray := prog_11_method_2_code
def yX3_begin : MethodName := ⟨RX3, "begin", "(LWebCourt$Book;)LWebCourt$Court;"⟩
def dkwX3_begin_7 : List UInt8 := [132, 2, 1, 167, 255, 209, 42, 3, 181, 0, 75, 42, 176]
abbrev dktX3_begin_7 : List UInt8 := dkwX3_begin_7 ++ []
def dkwX3_begin_6 : List UInt8 := [182, 0, 40, 192, 0, 70, 180, 0, 72, 153, 0, 9, 4, 28, 120, 167, 0, 4, 3, 128, 181, 0, 64]
abbrev dktX3_begin_6 : List UInt8 := dkwX3_begin_6 ++ dktX3_begin_7
def dkwX3_begin_5 : List UInt8 := [3, 61, 28, 43, 180, 0, 67, 182, 0, 34, 162, 0, 42, 42, 89, 180, 0, 64, 43, 180, 0, 67, 28]
abbrev dktX3_begin_5 : List UInt8 := dkwX3_begin_5 ++ dktX3_begin_6
def dkwX3_begin_4 : List UInt8 := [180, 0, 51, 181, 0, 54, 42, 3, 181, 0, 57, 42, 43, 180, 0, 60, 181, 0, 63, 42, 3, 181, 0, 64]
abbrev dktX3_begin_4 : List UInt8 := dkwX3_begin_4 ++ dktX3_begin_5
def dkwX3_begin_3 : List UInt8 := [167, 255, 191, 42, 2, 181, 0, 24, 42, 43, 180, 0, 48, 182, 0, 34, 154, 0, 7, 2, 167, 0, 7, 43]
abbrev dktX3_begin_3 : List UInt8 := dkwX3_begin_3 ++ dktX3_begin_4
def dkwX3_begin_2 : List UInt8 := [167, 0, 4, 3, 79, 42, 180, 0, 18, 28, 3, 79, 42, 180, 0, 21, 28, 3, 79, 132, 2, 1]
abbrev dktX3_begin_2 : List UInt8 := dkwX3_begin_2 ++ dktX3_begin_3
def dkwX3_begin_1 : List UInt8 := [180, 0, 28, 182, 0, 34, 162, 0, 20, 43, 180, 0, 28, 28, 182, 0, 40, 192, 0, 44, 180, 0, 46]
abbrev dktX3_begin_1 : List UInt8 := dkwX3_begin_1 ++ dktX3_begin_2
def dkwX3_begin_0 : List UInt8 := [3, 61, 28, 16, 6, 162, 0, 65, 42, 180, 0, 9, 28, 3, 79, 42, 180, 0, 15, 28, 28, 43]
abbrev dktX3_begin_0 : List UInt8 := dkwX3_begin_0 ++ dktX3_begin_1
theorem dksX3_begin_0 : cX3_begin.data.toList.drop 0 = dktX3_begin_0 := by decide +kernel
theorem dksX3_begin_1 : cX3_begin.data.toList.drop 22 = dktX3_begin_1 := dk_seg dksX3_begin_0 22 rfl rfl
theorem dksX3_begin_2 : cX3_begin.data.toList.drop 45 = dktX3_begin_2 := dk_seg dksX3_begin_1 23 rfl rfl
theorem dksX3_begin_3 : cX3_begin.data.toList.drop 67 = dktX3_begin_3 := dk_seg dksX3_begin_2 22 rfl rfl
theorem dksX3_begin_4 : cX3_begin.data.toList.drop 91 = dktX3_begin_4 := dk_seg dksX3_begin_3 24 rfl rfl
theorem dksX3_begin_5 : cX3_begin.data.toList.drop 115 = dktX3_begin_5 := dk_seg dksX3_begin_4 24 rfl rfl
theorem dksX3_begin_6 : cX3_begin.data.toList.drop 138 = dktX3_begin_6 := dk_seg dksX3_begin_5 23 rfl rfl
theorem dksX3_begin_7 : cX3_begin.data.toList.drop 161 = dktX3_begin_7 := dk_seg dksX3_begin_6 23 rfl rfl
theorem dX3_begin_0 : decode cX3_begin 0 = .ok (.iconst 0, 1) := dk_3 (dk_at dksX3_begin_0 0 rfl rfl)
theorem dX3_begin_1 : decode cX3_begin 1 = .ok (.istore_n 2, 1) := dk_61 (dk_at dksX3_begin_0 1 rfl rfl)
theorem dX3_begin_2 : decode cX3_begin 2 = .ok (.iload_n 2, 1) := dk_28 (dk_at dksX3_begin_0 2 rfl rfl)
theorem dX3_begin_3 : decode cX3_begin 3 = .ok (.bipush 6, 2) := dk_16 6 (dk_at dksX3_begin_0 3 rfl rfl)
theorem dX3_begin_5 : decode cX3_begin 5 = .ok (.if_icmp .ge 65, 3) := dk_162 0 65 (dk_at dksX3_begin_0 5 rfl rfl)
theorem dX3_begin_8 : decode cX3_begin 8 = .ok (.aload_n 0, 1) := dk_42 (dk_at dksX3_begin_0 8 rfl rfl)
theorem dX3_begin_9 : decode cX3_begin 9 = .ok (.getfield 9, 3) := dk_180 0 9 (dk_at dksX3_begin_0 9 rfl rfl)
theorem dX3_begin_12 : decode cX3_begin 12 = .ok (.iload_n 2, 1) := dk_28 (dk_at dksX3_begin_0 12 rfl rfl)
theorem dX3_begin_13 : decode cX3_begin 13 = .ok (.iconst 0, 1) := dk_3 (dk_at dksX3_begin_0 13 rfl rfl)
theorem dX3_begin_14 : decode cX3_begin 14 = .ok (.iastore, 1) := dk_79 (dk_at dksX3_begin_0 14 rfl rfl)
theorem dX3_begin_15 : decode cX3_begin 15 = .ok (.aload_n 0, 1) := dk_42 (dk_at dksX3_begin_0 15 rfl rfl)
theorem dX3_begin_16 : decode cX3_begin 16 = .ok (.getfield 15, 3) := dk_180 0 15 (dk_at dksX3_begin_0 16 rfl rfl)
theorem dX3_begin_19 : decode cX3_begin 19 = .ok (.iload_n 2, 1) := dk_28 (dk_at dksX3_begin_0 19 rfl rfl)
theorem dX3_begin_20 : decode cX3_begin 20 = .ok (.iload_n 2, 1) := dk_28 (dk_at dksX3_begin_0 20 rfl rfl)
theorem dX3_begin_21 : decode cX3_begin 21 = .ok (.aload_n 1, 1) := dk_43 (dk_at dksX3_begin_0 21 rfl rfl)
theorem dX3_begin_22 : decode cX3_begin 22 = .ok (.getfield 28, 3) := dk_180 0 28 (dk_at dksX3_begin_1 0 rfl rfl)
theorem dX3_begin_25 : decode cX3_begin 25 = .ok (.invokevirtual 34, 3) := dk_182 0 34 (dk_at dksX3_begin_1 3 rfl rfl)
theorem dX3_begin_28 : decode cX3_begin 28 = .ok (.if_icmp .ge 20, 3) := dk_162 0 20 (dk_at dksX3_begin_1 6 rfl rfl)
theorem dX3_begin_31 : decode cX3_begin 31 = .ok (.aload_n 1, 1) := dk_43 (dk_at dksX3_begin_1 9 rfl rfl)
theorem dX3_begin_32 : decode cX3_begin 32 = .ok (.getfield 28, 3) := dk_180 0 28 (dk_at dksX3_begin_1 10 rfl rfl)
theorem dX3_begin_35 : decode cX3_begin 35 = .ok (.iload_n 2, 1) := dk_28 (dk_at dksX3_begin_1 13 rfl rfl)
theorem dX3_begin_36 : decode cX3_begin 36 = .ok (.invokevirtual 40, 3) := dk_182 0 40 (dk_at dksX3_begin_1 14 rfl rfl)
theorem dX3_begin_39 : decode cX3_begin 39 = .ok (.checkcast 44, 3) := dk_192 0 44 (dk_at dksX3_begin_1 17 rfl rfl)
theorem dX3_begin_42 : decode cX3_begin 42 = .ok (.getfield 46, 3) := dk_180 0 46 (dk_at dksX3_begin_1 20 rfl rfl)
theorem dX3_begin_45 : decode cX3_begin 45 = .ok (.goto 4, 3) := dk_167 0 4 (dk_at dksX3_begin_2 0 rfl rfl)
theorem dX3_begin_48 : decode cX3_begin 48 = .ok (.iconst 0, 1) := dk_3 (dk_at dksX3_begin_2 3 rfl rfl)
theorem dX3_begin_49 : decode cX3_begin 49 = .ok (.iastore, 1) := dk_79 (dk_at dksX3_begin_2 4 rfl rfl)
theorem dX3_begin_50 : decode cX3_begin 50 = .ok (.aload_n 0, 1) := dk_42 (dk_at dksX3_begin_2 5 rfl rfl)
theorem dX3_begin_51 : decode cX3_begin 51 = .ok (.getfield 18, 3) := dk_180 0 18 (dk_at dksX3_begin_2 6 rfl rfl)
theorem dX3_begin_54 : decode cX3_begin 54 = .ok (.iload_n 2, 1) := dk_28 (dk_at dksX3_begin_2 9 rfl rfl)
theorem dX3_begin_55 : decode cX3_begin 55 = .ok (.iconst 0, 1) := dk_3 (dk_at dksX3_begin_2 10 rfl rfl)
theorem dX3_begin_56 : decode cX3_begin 56 = .ok (.iastore, 1) := dk_79 (dk_at dksX3_begin_2 11 rfl rfl)
theorem dX3_begin_57 : decode cX3_begin 57 = .ok (.aload_n 0, 1) := dk_42 (dk_at dksX3_begin_2 12 rfl rfl)
theorem dX3_begin_58 : decode cX3_begin 58 = .ok (.getfield 21, 3) := dk_180 0 21 (dk_at dksX3_begin_2 13 rfl rfl)
theorem dX3_begin_61 : decode cX3_begin 61 = .ok (.iload_n 2, 1) := dk_28 (dk_at dksX3_begin_2 16 rfl rfl)
theorem dX3_begin_62 : decode cX3_begin 62 = .ok (.iconst 0, 1) := dk_3 (dk_at dksX3_begin_2 17 rfl rfl)
theorem dX3_begin_63 : decode cX3_begin 63 = .ok (.iastore, 1) := dk_79 (dk_at dksX3_begin_2 18 rfl rfl)
theorem dX3_begin_64 : decode cX3_begin 64 = .ok (.iinc 2 1, 3) := dk_132 2 1 (dk_at dksX3_begin_2 19 rfl rfl)
theorem dX3_begin_67 : decode cX3_begin 67 = .ok (.goto (-65), 3) := dk_167 255 191 (dk_at dksX3_begin_3 0 rfl rfl)
theorem dX3_begin_70 : decode cX3_begin 70 = .ok (.aload_n 0, 1) := dk_42 (dk_at dksX3_begin_3 3 rfl rfl)
theorem dX3_begin_71 : decode cX3_begin 71 = .ok (.iconst (-1), 1) := dk_2 (dk_at dksX3_begin_3 4 rfl rfl)
theorem dX3_begin_72 : decode cX3_begin 72 = .ok (.putfield 24, 3) := dk_181 0 24 (dk_at dksX3_begin_3 5 rfl rfl)
theorem dX3_begin_75 : decode cX3_begin 75 = .ok (.aload_n 0, 1) := dk_42 (dk_at dksX3_begin_3 8 rfl rfl)
theorem dX3_begin_76 : decode cX3_begin 76 = .ok (.aload_n 1, 1) := dk_43 (dk_at dksX3_begin_3 9 rfl rfl)
theorem dX3_begin_77 : decode cX3_begin 77 = .ok (.getfield 48, 3) := dk_180 0 48 (dk_at dksX3_begin_3 10 rfl rfl)
theorem dX3_begin_80 : decode cX3_begin 80 = .ok (.invokevirtual 34, 3) := dk_182 0 34 (dk_at dksX3_begin_3 13 rfl rfl)
theorem dX3_begin_83 : decode cX3_begin 83 = .ok (.ifCond .ne 7, 3) := dk_154 0 7 (dk_at dksX3_begin_3 16 rfl rfl)
theorem dX3_begin_86 : decode cX3_begin 86 = .ok (.iconst (-1), 1) := dk_2 (dk_at dksX3_begin_3 19 rfl rfl)
theorem dX3_begin_87 : decode cX3_begin 87 = .ok (.goto 7, 3) := dk_167 0 7 (dk_at dksX3_begin_3 20 rfl rfl)
theorem dX3_begin_90 : decode cX3_begin 90 = .ok (.aload_n 1, 1) := dk_43 (dk_at dksX3_begin_3 23 rfl rfl)
theorem dX3_begin_91 : decode cX3_begin 91 = .ok (.getfield 51, 3) := dk_180 0 51 (dk_at dksX3_begin_4 0 rfl rfl)
theorem dX3_begin_94 : decode cX3_begin 94 = .ok (.putfield 54, 3) := dk_181 0 54 (dk_at dksX3_begin_4 3 rfl rfl)
theorem dX3_begin_97 : decode cX3_begin 97 = .ok (.aload_n 0, 1) := dk_42 (dk_at dksX3_begin_4 6 rfl rfl)
theorem dX3_begin_98 : decode cX3_begin 98 = .ok (.iconst 0, 1) := dk_3 (dk_at dksX3_begin_4 7 rfl rfl)
theorem dX3_begin_99 : decode cX3_begin 99 = .ok (.putfield 57, 3) := dk_181 0 57 (dk_at dksX3_begin_4 8 rfl rfl)
theorem dX3_begin_102 : decode cX3_begin 102 = .ok (.aload_n 0, 1) := dk_42 (dk_at dksX3_begin_4 11 rfl rfl)
theorem dX3_begin_103 : decode cX3_begin 103 = .ok (.aload_n 1, 1) := dk_43 (dk_at dksX3_begin_4 12 rfl rfl)
theorem dX3_begin_104 : decode cX3_begin 104 = .ok (.getfield 60, 3) := dk_180 0 60 (dk_at dksX3_begin_4 13 rfl rfl)
theorem dX3_begin_107 : decode cX3_begin 107 = .ok (.putfield 63, 3) := dk_181 0 63 (dk_at dksX3_begin_4 16 rfl rfl)
theorem dX3_begin_110 : decode cX3_begin 110 = .ok (.aload_n 0, 1) := dk_42 (dk_at dksX3_begin_4 19 rfl rfl)
theorem dX3_begin_111 : decode cX3_begin 111 = .ok (.iconst 0, 1) := dk_3 (dk_at dksX3_begin_4 20 rfl rfl)
theorem dX3_begin_112 : decode cX3_begin 112 = .ok (.putfield 64, 3) := dk_181 0 64 (dk_at dksX3_begin_4 21 rfl rfl)
theorem dX3_begin_115 : decode cX3_begin 115 = .ok (.iconst 0, 1) := dk_3 (dk_at dksX3_begin_5 0 rfl rfl)
theorem dX3_begin_116 : decode cX3_begin 116 = .ok (.istore_n 2, 1) := dk_61 (dk_at dksX3_begin_5 1 rfl rfl)
theorem dX3_begin_117 : decode cX3_begin 117 = .ok (.iload_n 2, 1) := dk_28 (dk_at dksX3_begin_5 2 rfl rfl)
theorem dX3_begin_118 : decode cX3_begin 118 = .ok (.aload_n 1, 1) := dk_43 (dk_at dksX3_begin_5 3 rfl rfl)
theorem dX3_begin_119 : decode cX3_begin 119 = .ok (.getfield 67, 3) := dk_180 0 67 (dk_at dksX3_begin_5 4 rfl rfl)
theorem dX3_begin_122 : decode cX3_begin 122 = .ok (.invokevirtual 34, 3) := dk_182 0 34 (dk_at dksX3_begin_5 7 rfl rfl)
theorem dX3_begin_125 : decode cX3_begin 125 = .ok (.if_icmp .ge 42, 3) := dk_162 0 42 (dk_at dksX3_begin_5 10 rfl rfl)
theorem dX3_begin_128 : decode cX3_begin 128 = .ok (.aload_n 0, 1) := dk_42 (dk_at dksX3_begin_5 13 rfl rfl)
theorem dX3_begin_129 : decode cX3_begin 129 = .ok (.dup, 1) := dk_89 (dk_at dksX3_begin_5 14 rfl rfl)
theorem dX3_begin_130 : decode cX3_begin 130 = .ok (.getfield 64, 3) := dk_180 0 64 (dk_at dksX3_begin_5 15 rfl rfl)
theorem dX3_begin_133 : decode cX3_begin 133 = .ok (.aload_n 1, 1) := dk_43 (dk_at dksX3_begin_5 18 rfl rfl)
theorem dX3_begin_134 : decode cX3_begin 134 = .ok (.getfield 67, 3) := dk_180 0 67 (dk_at dksX3_begin_5 19 rfl rfl)
theorem dX3_begin_137 : decode cX3_begin 137 = .ok (.iload_n 2, 1) := dk_28 (dk_at dksX3_begin_5 22 rfl rfl)
theorem dX3_begin_138 : decode cX3_begin 138 = .ok (.invokevirtual 40, 3) := dk_182 0 40 (dk_at dksX3_begin_6 0 rfl rfl)
theorem dX3_begin_141 : decode cX3_begin 141 = .ok (.checkcast 70, 3) := dk_192 0 70 (dk_at dksX3_begin_6 3 rfl rfl)
theorem dX3_begin_144 : decode cX3_begin 144 = .ok (.getfield 72, 3) := dk_180 0 72 (dk_at dksX3_begin_6 6 rfl rfl)
theorem dX3_begin_147 : decode cX3_begin 147 = .ok (.ifCond .eq 9, 3) := dk_153 0 9 (dk_at dksX3_begin_6 9 rfl rfl)
theorem dX3_begin_150 : decode cX3_begin 150 = .ok (.iconst 1, 1) := dk_4 (dk_at dksX3_begin_6 12 rfl rfl)
theorem dX3_begin_151 : decode cX3_begin 151 = .ok (.iload_n 2, 1) := dk_28 (dk_at dksX3_begin_6 13 rfl rfl)
theorem dX3_begin_152 : decode cX3_begin 152 = .ok (.ishl, 1) := dk_120 (dk_at dksX3_begin_6 14 rfl rfl)
theorem dX3_begin_153 : decode cX3_begin 153 = .ok (.goto 4, 3) := dk_167 0 4 (dk_at dksX3_begin_6 15 rfl rfl)
theorem dX3_begin_156 : decode cX3_begin 156 = .ok (.iconst 0, 1) := dk_3 (dk_at dksX3_begin_6 18 rfl rfl)
theorem dX3_begin_157 : decode cX3_begin 157 = .ok (.ior, 1) := dk_128 (dk_at dksX3_begin_6 19 rfl rfl)
theorem dX3_begin_158 : decode cX3_begin 158 = .ok (.putfield 64, 3) := dk_181 0 64 (dk_at dksX3_begin_6 20 rfl rfl)
theorem dX3_begin_161 : decode cX3_begin 161 = .ok (.iinc 2 1, 3) := dk_132 2 1 (dk_at dksX3_begin_7 0 rfl rfl)
theorem dX3_begin_164 : decode cX3_begin 164 = .ok (.goto (-47), 3) := dk_167 255 209 (dk_at dksX3_begin_7 3 rfl rfl)
theorem dX3_begin_167 : decode cX3_begin 167 = .ok (.aload_n 0, 1) := dk_42 (dk_at dksX3_begin_7 6 rfl rfl)
theorem dX3_begin_168 : decode cX3_begin 168 = .ok (.iconst 0, 1) := dk_3 (dk_at dksX3_begin_7 7 rfl rfl)
theorem dX3_begin_169 : decode cX3_begin 169 = .ok (.putfield 75, 3) := dk_181 0 75 (dk_at dksX3_begin_7 8 rfl rfl)
theorem dX3_begin_172 : decode cX3_begin 172 = .ok (.aload_n 0, 1) := dk_42 (dk_at dksX3_begin_7 11 rfl rfl)
theorem dX3_begin_173 : decode cX3_begin 173 = .ok (.areturn, 1) := dk_176 (dk_at dksX3_begin_7 12 rfl rfl)
abbrev cX3_next : ByteArray := prog_11_method_6_code
def yX3_next : MethodName := ⟨RX3, "next", "(LWebCourt$Book;IZ)I"⟩
def dkwX3_next_3 : List UInt8 := [3, 128, 54, 4, 132, 5, 1, 167, 255, 185, 21, 4, 172]
abbrev dktX3_next_3 : List UInt8 := dkwX3_next_3 ++ []
def dkwX3_next_2 : List UInt8 := [155, 0, 24, 4, 43, 180, 0, 67, 21, 5, 182, 0, 40, 192, 0, 70, 28, 182, 0, 88, 120, 167, 0, 4]
abbrev dktX3_next_2 : List UInt8 := dkwX3_next_2 ++ dktX3_next_3
def dkwX3_next_1 : List UInt8 := [182, 0, 84, 29, 160, 0, 43, 43, 180, 0, 67, 21, 5, 182, 0, 40, 192, 0, 70, 28, 182, 0, 88]
abbrev dktX3_next_1 : List UInt8 := dkwX3_next_1 ++ dktX3_next_2
def dkwX3_next_0 : List UInt8 := [3, 54, 4, 3, 54, 5, 21, 5, 43, 180, 0, 67, 182, 0, 34, 162, 0, 65, 21, 4, 42, 21, 5]
abbrev dktX3_next_0 : List UInt8 := dkwX3_next_0 ++ dktX3_next_1
theorem dksX3_next_0 : cX3_next.data.toList.drop 0 = dktX3_next_0 := by decide +kernel
theorem dksX3_next_1 : cX3_next.data.toList.drop 23 = dktX3_next_1 := dk_seg dksX3_next_0 23 rfl rfl
theorem dksX3_next_2 : cX3_next.data.toList.drop 46 = dktX3_next_2 := dk_seg dksX3_next_1 23 rfl rfl
theorem dksX3_next_3 : cX3_next.data.toList.drop 70 = dktX3_next_3 := dk_seg dksX3_next_2 24 rfl rfl
theorem dX3_next_0 : decode cX3_next 0 = .ok (.iconst 0, 1) := dk_3 (dk_at dksX3_next_0 0 rfl rfl)
theorem dX3_next_1 : decode cX3_next 1 = .ok (.istore 4, 2) := dk_54 4 (dk_at dksX3_next_0 1 rfl rfl)
theorem dX3_next_3 : decode cX3_next 3 = .ok (.iconst 0, 1) := dk_3 (dk_at dksX3_next_0 3 rfl rfl)
theorem dX3_next_4 : decode cX3_next 4 = .ok (.istore 5, 2) := dk_54 5 (dk_at dksX3_next_0 4 rfl rfl)
theorem dX3_next_6 : decode cX3_next 6 = .ok (.iload 5, 2) := dk_21 5 (dk_at dksX3_next_0 6 rfl rfl)
theorem dX3_next_8 : decode cX3_next 8 = .ok (.aload_n 1, 1) := dk_43 (dk_at dksX3_next_0 8 rfl rfl)
theorem dX3_next_9 : decode cX3_next 9 = .ok (.getfield 67, 3) := dk_180 0 67 (dk_at dksX3_next_0 9 rfl rfl)
theorem dX3_next_12 : decode cX3_next 12 = .ok (.invokevirtual 34, 3) := dk_182 0 34 (dk_at dksX3_next_0 12 rfl rfl)
theorem dX3_next_15 : decode cX3_next 15 = .ok (.if_icmp .ge 65, 3) := dk_162 0 65 (dk_at dksX3_next_0 15 rfl rfl)
theorem dX3_next_18 : decode cX3_next 18 = .ok (.iload 4, 2) := dk_21 4 (dk_at dksX3_next_0 18 rfl rfl)
theorem dX3_next_20 : decode cX3_next 20 = .ok (.aload_n 0, 1) := dk_42 (dk_at dksX3_next_0 20 rfl rfl)
theorem dX3_next_21 : decode cX3_next 21 = .ok (.iload 5, 2) := dk_21 5 (dk_at dksX3_next_0 21 rfl rfl)
theorem dX3_next_23 : decode cX3_next 23 = .ok (.invokevirtual 84, 3) := dk_182 0 84 (dk_at dksX3_next_1 0 rfl rfl)
theorem dX3_next_26 : decode cX3_next 26 = .ok (.iload_n 3, 1) := dk_29 (dk_at dksX3_next_1 3 rfl rfl)
theorem dX3_next_27 : decode cX3_next 27 = .ok (.if_icmp .ne 43, 3) := dk_160 0 43 (dk_at dksX3_next_1 4 rfl rfl)
theorem dX3_next_30 : decode cX3_next 30 = .ok (.aload_n 1, 1) := dk_43 (dk_at dksX3_next_1 7 rfl rfl)
theorem dX3_next_31 : decode cX3_next 31 = .ok (.getfield 67, 3) := dk_180 0 67 (dk_at dksX3_next_1 8 rfl rfl)
theorem dX3_next_34 : decode cX3_next 34 = .ok (.iload 5, 2) := dk_21 5 (dk_at dksX3_next_1 11 rfl rfl)
theorem dX3_next_36 : decode cX3_next 36 = .ok (.invokevirtual 40, 3) := dk_182 0 40 (dk_at dksX3_next_1 13 rfl rfl)
theorem dX3_next_39 : decode cX3_next 39 = .ok (.checkcast 70, 3) := dk_192 0 70 (dk_at dksX3_next_1 16 rfl rfl)
theorem dX3_next_42 : decode cX3_next 42 = .ok (.iload_n 2, 1) := dk_28 (dk_at dksX3_next_1 19 rfl rfl)
theorem dX3_next_43 : decode cX3_next 43 = .ok (.invokevirtual 88, 3) := dk_182 0 88 (dk_at dksX3_next_1 20 rfl rfl)
theorem dX3_next_46 : decode cX3_next 46 = .ok (.ifCond .lt 24, 3) := dk_155 0 24 (dk_at dksX3_next_2 0 rfl rfl)
theorem dX3_next_49 : decode cX3_next 49 = .ok (.iconst 1, 1) := dk_4 (dk_at dksX3_next_2 3 rfl rfl)
theorem dX3_next_50 : decode cX3_next 50 = .ok (.aload_n 1, 1) := dk_43 (dk_at dksX3_next_2 4 rfl rfl)
theorem dX3_next_51 : decode cX3_next 51 = .ok (.getfield 67, 3) := dk_180 0 67 (dk_at dksX3_next_2 5 rfl rfl)
theorem dX3_next_54 : decode cX3_next 54 = .ok (.iload 5, 2) := dk_21 5 (dk_at dksX3_next_2 8 rfl rfl)
theorem dX3_next_56 : decode cX3_next 56 = .ok (.invokevirtual 40, 3) := dk_182 0 40 (dk_at dksX3_next_2 10 rfl rfl)
theorem dX3_next_59 : decode cX3_next 59 = .ok (.checkcast 70, 3) := dk_192 0 70 (dk_at dksX3_next_2 13 rfl rfl)
theorem dX3_next_62 : decode cX3_next 62 = .ok (.iload_n 2, 1) := dk_28 (dk_at dksX3_next_2 16 rfl rfl)
theorem dX3_next_63 : decode cX3_next 63 = .ok (.invokevirtual 88, 3) := dk_182 0 88 (dk_at dksX3_next_2 17 rfl rfl)
theorem dX3_next_66 : decode cX3_next 66 = .ok (.ishl, 1) := dk_120 (dk_at dksX3_next_2 20 rfl rfl)
theorem dX3_next_67 : decode cX3_next 67 = .ok (.goto 4, 3) := dk_167 0 4 (dk_at dksX3_next_2 21 rfl rfl)
theorem dX3_next_70 : decode cX3_next 70 = .ok (.iconst 0, 1) := dk_3 (dk_at dksX3_next_3 0 rfl rfl)
theorem dX3_next_71 : decode cX3_next 71 = .ok (.ior, 1) := dk_128 (dk_at dksX3_next_3 1 rfl rfl)
theorem dX3_next_72 : decode cX3_next 72 = .ok (.istore 4, 2) := dk_54 4 (dk_at dksX3_next_3 2 rfl rfl)
theorem dX3_next_74 : decode cX3_next 74 = .ok (.iinc 5 1, 3) := dk_132 5 1 (dk_at dksX3_next_3 4 rfl rfl)
theorem dX3_next_77 : decode cX3_next 77 = .ok (.goto (-71), 3) := dk_167 255 185 (dk_at dksX3_next_3 7 rfl rfl)
theorem dX3_next_80 : decode cX3_next 80 = .ok (.iload 4, 2) := dk_21 4 (dk_at dksX3_next_3 10 rfl rfl)
theorem dX3_next_82 : decode cX3_next 82 = .ok (.ireturn, 1) := dk_172 (dk_at dksX3_next_3 12 rfl rfl)
abbrev cX3_isSticky : ByteArray := prog_11_method_5_code
def yX3_isSticky : MethodName := ⟨RX3, "isSticky", "(I)Z"⟩
def dkwX3_isSticky_0 : List UInt8 := [42, 180, 0, 64, 27, 122, 4, 126, 4, 160, 0, 7, 4, 167, 0, 4, 3, 172]
abbrev dktX3_isSticky_0 : List UInt8 := dkwX3_isSticky_0 ++ []
theorem dksX3_isSticky_0 : cX3_isSticky.data.toList.drop 0 = dktX3_isSticky_0 := by decide +kernel
theorem dX3_isSticky_0 : decode cX3_isSticky 0 = .ok (.aload_n 0, 1) := dk_42 (dk_at dksX3_isSticky_0 0 rfl rfl)
theorem dX3_isSticky_1 : decode cX3_isSticky 1 = .ok (.getfield 64, 3) := dk_180 0 64 (dk_at dksX3_isSticky_0 1 rfl rfl)
theorem dX3_isSticky_4 : decode cX3_isSticky 4 = .ok (.iload_n 1, 1) := dk_27 (dk_at dksX3_isSticky_0 4 rfl rfl)
theorem dX3_isSticky_5 : decode cX3_isSticky 5 = .ok (.ishr, 1) := dk_122 (dk_at dksX3_isSticky_0 5 rfl rfl)
theorem dX3_isSticky_6 : decode cX3_isSticky 6 = .ok (.iconst 1, 1) := dk_4 (dk_at dksX3_isSticky_0 6 rfl rfl)
theorem dX3_isSticky_7 : decode cX3_isSticky 7 = .ok (.iand, 1) := dk_126 (dk_at dksX3_isSticky_0 7 rfl rfl)
theorem dX3_isSticky_8 : decode cX3_isSticky 8 = .ok (.iconst 1, 1) := dk_4 (dk_at dksX3_isSticky_0 8 rfl rfl)
theorem dX3_isSticky_9 : decode cX3_isSticky 9 = .ok (.if_icmp .ne 7, 3) := dk_160 0 7 (dk_at dksX3_isSticky_0 9 rfl rfl)
theorem dX3_isSticky_12 : decode cX3_isSticky 12 = .ok (.iconst 1, 1) := dk_4 (dk_at dksX3_isSticky_0 12 rfl rfl)
theorem dX3_isSticky_13 : decode cX3_isSticky 13 = .ok (.goto 4, 3) := dk_167 0 4 (dk_at dksX3_isSticky_0 13 rfl rfl)
theorem dX3_isSticky_16 : decode cX3_isSticky 16 = .ok (.iconst 0, 1) := dk_3 (dk_at dksX3_isSticky_0 16 rfl rfl)
theorem dX3_isSticky_17 : decode cX3_isSticky 17 = .ok (.ireturn, 1) := dk_172 (dk_at dksX3_isSticky_0 17 rfl rfl)
abbrev cX3_heldAt : ByteArray := prog_11_method_7_code
def yX3_heldAt : MethodName := ⟨RX3, "heldAt", "(LWebCourt$Book;I)I"⟩
def dkwX3_heldAt_2 : List UInt8 := [132, 4, 1, 167, 255, 211, 29, 172]
abbrev dktX3_heldAt_2 : List UInt8 := dkwX3_heldAt_2 ++ []
def dkwX3_heldAt_1 : List UInt8 := [153, 0, 20, 43, 21, 4, 182, 0, 95, 28, 160, 0, 10, 4, 21, 4, 120, 167, 0, 4, 3, 128, 62]
abbrev dktX3_heldAt_1 : List UInt8 := dkwX3_heldAt_1 ++ dktX3_heldAt_2
def dkwX3_heldAt_0 : List UInt8 := [3, 62, 3, 54, 4, 21, 4, 43, 180, 0, 28, 182, 0, 34, 162, 0, 39, 29, 42, 21, 4, 182, 0, 92]
abbrev dktX3_heldAt_0 : List UInt8 := dkwX3_heldAt_0 ++ dktX3_heldAt_1
theorem dksX3_heldAt_0 : cX3_heldAt.data.toList.drop 0 = dktX3_heldAt_0 := by decide +kernel
theorem dksX3_heldAt_1 : cX3_heldAt.data.toList.drop 24 = dktX3_heldAt_1 := dk_seg dksX3_heldAt_0 24 rfl rfl
theorem dksX3_heldAt_2 : cX3_heldAt.data.toList.drop 47 = dktX3_heldAt_2 := dk_seg dksX3_heldAt_1 23 rfl rfl
theorem dX3_heldAt_0 : decode cX3_heldAt 0 = .ok (.iconst 0, 1) := dk_3 (dk_at dksX3_heldAt_0 0 rfl rfl)
theorem dX3_heldAt_1 : decode cX3_heldAt 1 = .ok (.istore_n 3, 1) := dk_62 (dk_at dksX3_heldAt_0 1 rfl rfl)
theorem dX3_heldAt_2 : decode cX3_heldAt 2 = .ok (.iconst 0, 1) := dk_3 (dk_at dksX3_heldAt_0 2 rfl rfl)
theorem dX3_heldAt_3 : decode cX3_heldAt 3 = .ok (.istore 4, 2) := dk_54 4 (dk_at dksX3_heldAt_0 3 rfl rfl)
theorem dX3_heldAt_5 : decode cX3_heldAt 5 = .ok (.iload 4, 2) := dk_21 4 (dk_at dksX3_heldAt_0 5 rfl rfl)
theorem dX3_heldAt_7 : decode cX3_heldAt 7 = .ok (.aload_n 1, 1) := dk_43 (dk_at dksX3_heldAt_0 7 rfl rfl)
theorem dX3_heldAt_8 : decode cX3_heldAt 8 = .ok (.getfield 28, 3) := dk_180 0 28 (dk_at dksX3_heldAt_0 8 rfl rfl)
theorem dX3_heldAt_11 : decode cX3_heldAt 11 = .ok (.invokevirtual 34, 3) := dk_182 0 34 (dk_at dksX3_heldAt_0 11 rfl rfl)
theorem dX3_heldAt_14 : decode cX3_heldAt 14 = .ok (.if_icmp .ge 39, 3) := dk_162 0 39 (dk_at dksX3_heldAt_0 14 rfl rfl)
theorem dX3_heldAt_17 : decode cX3_heldAt 17 = .ok (.iload_n 3, 1) := dk_29 (dk_at dksX3_heldAt_0 17 rfl rfl)
theorem dX3_heldAt_18 : decode cX3_heldAt 18 = .ok (.aload_n 0, 1) := dk_42 (dk_at dksX3_heldAt_0 18 rfl rfl)
theorem dX3_heldAt_19 : decode cX3_heldAt 19 = .ok (.iload 4, 2) := dk_21 4 (dk_at dksX3_heldAt_0 19 rfl rfl)
theorem dX3_heldAt_21 : decode cX3_heldAt 21 = .ok (.invokevirtual 92, 3) := dk_182 0 92 (dk_at dksX3_heldAt_0 21 rfl rfl)
theorem dX3_heldAt_24 : decode cX3_heldAt 24 = .ok (.ifCond .eq 20, 3) := dk_153 0 20 (dk_at dksX3_heldAt_1 0 rfl rfl)
theorem dX3_heldAt_27 : decode cX3_heldAt 27 = .ok (.aload_n 1, 1) := dk_43 (dk_at dksX3_heldAt_1 3 rfl rfl)
theorem dX3_heldAt_28 : decode cX3_heldAt 28 = .ok (.iload 4, 2) := dk_21 4 (dk_at dksX3_heldAt_1 4 rfl rfl)
theorem dX3_heldAt_30 : decode cX3_heldAt 30 = .ok (.invokevirtual 95, 3) := dk_182 0 95 (dk_at dksX3_heldAt_1 6 rfl rfl)
theorem dX3_heldAt_33 : decode cX3_heldAt 33 = .ok (.iload_n 2, 1) := dk_28 (dk_at dksX3_heldAt_1 9 rfl rfl)
theorem dX3_heldAt_34 : decode cX3_heldAt 34 = .ok (.if_icmp .ne 10, 3) := dk_160 0 10 (dk_at dksX3_heldAt_1 10 rfl rfl)
theorem dX3_heldAt_37 : decode cX3_heldAt 37 = .ok (.iconst 1, 1) := dk_4 (dk_at dksX3_heldAt_1 13 rfl rfl)
theorem dX3_heldAt_38 : decode cX3_heldAt 38 = .ok (.iload 4, 2) := dk_21 4 (dk_at dksX3_heldAt_1 14 rfl rfl)
theorem dX3_heldAt_40 : decode cX3_heldAt 40 = .ok (.ishl, 1) := dk_120 (dk_at dksX3_heldAt_1 16 rfl rfl)
theorem dX3_heldAt_41 : decode cX3_heldAt 41 = .ok (.goto 4, 3) := dk_167 0 4 (dk_at dksX3_heldAt_1 17 rfl rfl)
theorem dX3_heldAt_44 : decode cX3_heldAt 44 = .ok (.iconst 0, 1) := dk_3 (dk_at dksX3_heldAt_1 20 rfl rfl)
theorem dX3_heldAt_45 : decode cX3_heldAt 45 = .ok (.ior, 1) := dk_128 (dk_at dksX3_heldAt_1 21 rfl rfl)
theorem dX3_heldAt_46 : decode cX3_heldAt 46 = .ok (.istore_n 3, 1) := dk_62 (dk_at dksX3_heldAt_1 22 rfl rfl)
theorem dX3_heldAt_47 : decode cX3_heldAt 47 = .ok (.iinc 4 1, 3) := dk_132 4 1 (dk_at dksX3_heldAt_2 0 rfl rfl)
theorem dX3_heldAt_50 : decode cX3_heldAt 50 = .ok (.goto (-45), 3) := dk_167 255 211 (dk_at dksX3_heldAt_2 3 rfl rfl)
theorem dX3_heldAt_53 : decode cX3_heldAt 53 = .ok (.iload_n 3, 1) := dk_29 (dk_at dksX3_heldAt_2 6 rfl rfl)
theorem dX3_heldAt_54 : decode cX3_heldAt 54 = .ok (.ireturn, 1) := dk_172 (dk_at dksX3_heldAt_2 7 rfl rfl)
abbrev cX3_isHeld : ByteArray := prog_11_method_4_code
def yX3_isHeld : MethodName := ⟨RX3, "isHeld", "(I)Z"⟩
def dkwX3_isHeld_0 : List UInt8 := [42, 180, 0, 9, 27, 46, 154, 0, 7, 4, 167, 0, 4, 3, 172]
abbrev dktX3_isHeld_0 : List UInt8 := dkwX3_isHeld_0 ++ []
theorem dksX3_isHeld_0 : cX3_isHeld.data.toList.drop 0 = dktX3_isHeld_0 := by decide +kernel
theorem dX3_isHeld_0 : decode cX3_isHeld 0 = .ok (.aload_n 0, 1) := dk_42 (dk_at dksX3_isHeld_0 0 rfl rfl)
theorem dX3_isHeld_1 : decode cX3_isHeld 1 = .ok (.getfield 9, 3) := dk_180 0 9 (dk_at dksX3_isHeld_0 1 rfl rfl)
theorem dX3_isHeld_4 : decode cX3_isHeld 4 = .ok (.iload_n 1, 1) := dk_27 (dk_at dksX3_isHeld_0 4 rfl rfl)
theorem dX3_isHeld_5 : decode cX3_isHeld 5 = .ok (.iaload, 1) := dk_46 (dk_at dksX3_isHeld_0 5 rfl rfl)
theorem dX3_isHeld_6 : decode cX3_isHeld 6 = .ok (.ifCond .ne 7, 3) := dk_154 0 7 (dk_at dksX3_isHeld_0 6 rfl rfl)
theorem dX3_isHeld_9 : decode cX3_isHeld 9 = .ok (.iconst 1, 1) := dk_4 (dk_at dksX3_isHeld_0 9 rfl rfl)
theorem dX3_isHeld_10 : decode cX3_isHeld 10 = .ok (.goto 4, 3) := dk_167 0 4 (dk_at dksX3_isHeld_0 10 rfl rfl)
theorem dX3_isHeld_13 : decode cX3_isHeld 13 = .ok (.iconst 0, 1) := dk_3 (dk_at dksX3_isHeld_0 13 rfl rfl)
theorem dX3_isHeld_14 : decode cX3_isHeld 14 = .ok (.ireturn, 1) := dk_172 (dk_at dksX3_isHeld_0 14 rfl rfl)
abbrev cX3_verdict : ByteArray := prog_11_method_9_code
def yX3_verdict : MethodName := ⟨RX3, "verdict", "(LWebCourt$Book;I)I"⟩
def dkwX3_verdict_0 : List UInt8 := [42, 43, 28, 42, 180, 0, 15, 28, 46, 182, 0, 141, 172]
abbrev dktX3_verdict_0 : List UInt8 := dkwX3_verdict_0 ++ []
theorem dksX3_verdict_0 : cX3_verdict.data.toList.drop 0 = dktX3_verdict_0 := by decide +kernel
theorem dX3_verdict_0 : decode cX3_verdict 0 = .ok (.aload_n 0, 1) := dk_42 (dk_at dksX3_verdict_0 0 rfl rfl)
theorem dX3_verdict_1 : decode cX3_verdict 1 = .ok (.aload_n 1, 1) := dk_43 (dk_at dksX3_verdict_0 1 rfl rfl)
theorem dX3_verdict_2 : decode cX3_verdict 2 = .ok (.iload_n 2, 1) := dk_28 (dk_at dksX3_verdict_0 2 rfl rfl)
theorem dX3_verdict_3 : decode cX3_verdict 3 = .ok (.aload_n 0, 1) := dk_42 (dk_at dksX3_verdict_0 3 rfl rfl)
theorem dX3_verdict_4 : decode cX3_verdict 4 = .ok (.getfield 15, 3) := dk_180 0 15 (dk_at dksX3_verdict_0 4 rfl rfl)
theorem dX3_verdict_7 : decode cX3_verdict 7 = .ok (.iload_n 2, 1) := dk_28 (dk_at dksX3_verdict_0 7 rfl rfl)
theorem dX3_verdict_8 : decode cX3_verdict 8 = .ok (.iaload, 1) := dk_46 (dk_at dksX3_verdict_0 8 rfl rfl)
theorem dX3_verdict_9 : decode cX3_verdict 9 = .ok (.invokevirtual 141, 3) := dk_182 0 141 (dk_at dksX3_verdict_0 9 rfl rfl)
theorem dX3_verdict_12 : decode cX3_verdict 12 = .ok (.ireturn, 1) := dk_172 (dk_at dksX3_verdict_0 12 rfl rfl)
abbrev cX3_verdict_2 : ByteArray := prog_11_method_8_code
def yX3_verdict_2 : MethodName := ⟨RX3, "verdict", "(LWebCourt$Book;II)I"⟩
def dkwX3_verdict_2_5 : List UInt8 := [185, 0, 135, 2, 0, 172]
abbrev dktX3_verdict_2_5 : List UInt8 := dkwX3_verdict_2_5 ++ []
def dkwX3_verdict_2_4 : List UInt8 := [180, 0, 106, 8, 100, 5, 25, 4, 180, 0, 119, 104, 100, 167, 0, 14, 43, 180, 0, 131, 25, 4]
abbrev dktX3_verdict_2_4 : List UInt8 := dkwX3_verdict_2_4 ++ dktX3_verdict_2_5
def dkwX3_verdict_2_3 : List UInt8 := [184, 0, 111, 181, 0, 127, 25, 4, 42, 180, 0, 57, 181, 0, 130, 43, 180, 0, 131, 199, 0, 21, 25, 4]
abbrev dktX3_verdict_2_3 : List UInt8 := dkwX3_verdict_2_3 ++ dktX3_verdict_2_4
def dkwX3_verdict_2_2 : List UInt8 := [46, 181, 0, 121, 25, 4, 42, 43, 43, 28, 182, 0, 95, 182, 0, 123, 4, 28, 120, 2, 130, 126]
abbrev dktX3_verdict_2_2 : List UInt8 := dkwX3_verdict_2_2 ++ dktX3_verdict_2_3
def dkwX3_verdict_2_1 : List UInt8 := [184, 0, 111, 181, 0, 116, 25, 4, 42, 180, 0, 18, 28, 46, 181, 0, 119, 25, 4, 42, 180, 0, 21, 28]
abbrev dktX3_verdict_2_1 : List UInt8 := dkwX3_verdict_2_1 ++ dktX3_verdict_2_2
def dkwX3_verdict_2_0 : List UInt8 := [43, 180, 0, 98, 58, 4, 25, 4, 43, 29, 42, 180, 0, 24, 182, 0, 102, 181, 0, 106, 25, 4, 29]
abbrev dktX3_verdict_2_0 : List UInt8 := dkwX3_verdict_2_0 ++ dktX3_verdict_2_1
theorem dksX3_verdict_2_0 : cX3_verdict_2.data.toList.drop 0 = dktX3_verdict_2_0 := by decide +kernel
theorem dksX3_verdict_2_1 : cX3_verdict_2.data.toList.drop 23 = dktX3_verdict_2_1 := dk_seg dksX3_verdict_2_0 23 rfl rfl
theorem dksX3_verdict_2_2 : cX3_verdict_2.data.toList.drop 47 = dktX3_verdict_2_2 := dk_seg dksX3_verdict_2_1 24 rfl rfl
theorem dksX3_verdict_2_3 : cX3_verdict_2.data.toList.drop 69 = dktX3_verdict_2_3 := dk_seg dksX3_verdict_2_2 22 rfl rfl
theorem dksX3_verdict_2_4 : cX3_verdict_2.data.toList.drop 93 = dktX3_verdict_2_4 := dk_seg dksX3_verdict_2_3 24 rfl rfl
theorem dksX3_verdict_2_5 : cX3_verdict_2.data.toList.drop 115 = dktX3_verdict_2_5 := dk_seg dksX3_verdict_2_4 22 rfl rfl
theorem dX3_verdict_2_0 : decode cX3_verdict_2 0 = .ok (.aload_n 1, 1) := dk_43 (dk_at dksX3_verdict_2_0 0 rfl rfl)
theorem dX3_verdict_2_1 : decode cX3_verdict_2 1 = .ok (.getfield 98, 3) := dk_180 0 98 (dk_at dksX3_verdict_2_0 1 rfl rfl)
theorem dX3_verdict_2_4 : decode cX3_verdict_2 4 = .ok (.astore 4, 2) := dk_58 4 (dk_at dksX3_verdict_2_0 4 rfl rfl)
theorem dX3_verdict_2_6 : decode cX3_verdict_2 6 = .ok (.aload 4, 2) := dk_25 4 (dk_at dksX3_verdict_2_0 6 rfl rfl)
theorem dX3_verdict_2_8 : decode cX3_verdict_2 8 = .ok (.aload_n 1, 1) := dk_43 (dk_at dksX3_verdict_2_0 8 rfl rfl)
theorem dX3_verdict_2_9 : decode cX3_verdict_2 9 = .ok (.iload_n 3, 1) := dk_29 (dk_at dksX3_verdict_2_0 9 rfl rfl)
theorem dX3_verdict_2_10 : decode cX3_verdict_2 10 = .ok (.aload_n 0, 1) := dk_42 (dk_at dksX3_verdict_2_0 10 rfl rfl)
theorem dX3_verdict_2_11 : decode cX3_verdict_2 11 = .ok (.getfield 24, 3) := dk_180 0 24 (dk_at dksX3_verdict_2_0 11 rfl rfl)
theorem dX3_verdict_2_14 : decode cX3_verdict_2 14 = .ok (.invokevirtual 102, 3) := dk_182 0 102 (dk_at dksX3_verdict_2_0 14 rfl rfl)
theorem dX3_verdict_2_17 : decode cX3_verdict_2 17 = .ok (.putfield 106, 3) := dk_181 0 106 (dk_at dksX3_verdict_2_0 17 rfl rfl)
theorem dX3_verdict_2_20 : decode cX3_verdict_2 20 = .ok (.aload 4, 2) := dk_25 4 (dk_at dksX3_verdict_2_0 20 rfl rfl)
theorem dX3_verdict_2_22 : decode cX3_verdict_2 22 = .ok (.iload_n 3, 1) := dk_29 (dk_at dksX3_verdict_2_0 22 rfl rfl)
theorem dX3_verdict_2_23 : decode cX3_verdict_2 23 = .ok (.invokestatic 111, 3) := dk_184 0 111 (dk_at dksX3_verdict_2_1 0 rfl rfl)
theorem dX3_verdict_2_26 : decode cX3_verdict_2 26 = .ok (.putfield 116, 3) := dk_181 0 116 (dk_at dksX3_verdict_2_1 3 rfl rfl)
theorem dX3_verdict_2_29 : decode cX3_verdict_2 29 = .ok (.aload 4, 2) := dk_25 4 (dk_at dksX3_verdict_2_1 6 rfl rfl)
theorem dX3_verdict_2_31 : decode cX3_verdict_2 31 = .ok (.aload_n 0, 1) := dk_42 (dk_at dksX3_verdict_2_1 8 rfl rfl)
theorem dX3_verdict_2_32 : decode cX3_verdict_2 32 = .ok (.getfield 18, 3) := dk_180 0 18 (dk_at dksX3_verdict_2_1 9 rfl rfl)
theorem dX3_verdict_2_35 : decode cX3_verdict_2 35 = .ok (.iload_n 2, 1) := dk_28 (dk_at dksX3_verdict_2_1 12 rfl rfl)
theorem dX3_verdict_2_36 : decode cX3_verdict_2 36 = .ok (.iaload, 1) := dk_46 (dk_at dksX3_verdict_2_1 13 rfl rfl)
theorem dX3_verdict_2_37 : decode cX3_verdict_2 37 = .ok (.putfield 119, 3) := dk_181 0 119 (dk_at dksX3_verdict_2_1 14 rfl rfl)
theorem dX3_verdict_2_40 : decode cX3_verdict_2 40 = .ok (.aload 4, 2) := dk_25 4 (dk_at dksX3_verdict_2_1 17 rfl rfl)
theorem dX3_verdict_2_42 : decode cX3_verdict_2 42 = .ok (.aload_n 0, 1) := dk_42 (dk_at dksX3_verdict_2_1 19 rfl rfl)
theorem dX3_verdict_2_43 : decode cX3_verdict_2 43 = .ok (.getfield 21, 3) := dk_180 0 21 (dk_at dksX3_verdict_2_1 20 rfl rfl)
theorem dX3_verdict_2_46 : decode cX3_verdict_2 46 = .ok (.iload_n 2, 1) := dk_28 (dk_at dksX3_verdict_2_1 23 rfl rfl)
theorem dX3_verdict_2_47 : decode cX3_verdict_2 47 = .ok (.iaload, 1) := dk_46 (dk_at dksX3_verdict_2_2 0 rfl rfl)
theorem dX3_verdict_2_48 : decode cX3_verdict_2 48 = .ok (.putfield 121, 3) := dk_181 0 121 (dk_at dksX3_verdict_2_2 1 rfl rfl)
theorem dX3_verdict_2_51 : decode cX3_verdict_2 51 = .ok (.aload 4, 2) := dk_25 4 (dk_at dksX3_verdict_2_2 4 rfl rfl)
theorem dX3_verdict_2_53 : decode cX3_verdict_2 53 = .ok (.aload_n 0, 1) := dk_42 (dk_at dksX3_verdict_2_2 6 rfl rfl)
theorem dX3_verdict_2_54 : decode cX3_verdict_2 54 = .ok (.aload_n 1, 1) := dk_43 (dk_at dksX3_verdict_2_2 7 rfl rfl)
theorem dX3_verdict_2_55 : decode cX3_verdict_2 55 = .ok (.aload_n 1, 1) := dk_43 (dk_at dksX3_verdict_2_2 8 rfl rfl)
theorem dX3_verdict_2_56 : decode cX3_verdict_2 56 = .ok (.iload_n 2, 1) := dk_28 (dk_at dksX3_verdict_2_2 9 rfl rfl)
theorem dX3_verdict_2_57 : decode cX3_verdict_2 57 = .ok (.invokevirtual 95, 3) := dk_182 0 95 (dk_at dksX3_verdict_2_2 10 rfl rfl)
theorem dX3_verdict_2_60 : decode cX3_verdict_2 60 = .ok (.invokevirtual 123, 3) := dk_182 0 123 (dk_at dksX3_verdict_2_2 13 rfl rfl)
theorem dX3_verdict_2_63 : decode cX3_verdict_2 63 = .ok (.iconst 1, 1) := dk_4 (dk_at dksX3_verdict_2_2 16 rfl rfl)
theorem dX3_verdict_2_64 : decode cX3_verdict_2 64 = .ok (.iload_n 2, 1) := dk_28 (dk_at dksX3_verdict_2_2 17 rfl rfl)
theorem dX3_verdict_2_65 : decode cX3_verdict_2 65 = .ok (.ishl, 1) := dk_120 (dk_at dksX3_verdict_2_2 18 rfl rfl)
theorem dX3_verdict_2_66 : decode cX3_verdict_2 66 = .ok (.iconst (-1), 1) := dk_2 (dk_at dksX3_verdict_2_2 19 rfl rfl)
theorem dX3_verdict_2_67 : decode cX3_verdict_2 67 = .ok (.ixor, 1) := dk_130 (dk_at dksX3_verdict_2_2 20 rfl rfl)
theorem dX3_verdict_2_68 : decode cX3_verdict_2 68 = .ok (.iand, 1) := dk_126 (dk_at dksX3_verdict_2_2 21 rfl rfl)
theorem dX3_verdict_2_69 : decode cX3_verdict_2 69 = .ok (.invokestatic 111, 3) := dk_184 0 111 (dk_at dksX3_verdict_2_3 0 rfl rfl)
theorem dX3_verdict_2_72 : decode cX3_verdict_2 72 = .ok (.putfield 127, 3) := dk_181 0 127 (dk_at dksX3_verdict_2_3 3 rfl rfl)
theorem dX3_verdict_2_75 : decode cX3_verdict_2 75 = .ok (.aload 4, 2) := dk_25 4 (dk_at dksX3_verdict_2_3 6 rfl rfl)
theorem dX3_verdict_2_77 : decode cX3_verdict_2 77 = .ok (.aload_n 0, 1) := dk_42 (dk_at dksX3_verdict_2_3 8 rfl rfl)
theorem dX3_verdict_2_78 : decode cX3_verdict_2 78 = .ok (.getfield 57, 3) := dk_180 0 57 (dk_at dksX3_verdict_2_3 9 rfl rfl)
theorem dX3_verdict_2_81 : decode cX3_verdict_2 81 = .ok (.putfield 130, 3) := dk_181 0 130 (dk_at dksX3_verdict_2_3 12 rfl rfl)
theorem dX3_verdict_2_84 : decode cX3_verdict_2 84 = .ok (.aload_n 1, 1) := dk_43 (dk_at dksX3_verdict_2_3 15 rfl rfl)
theorem dX3_verdict_2_85 : decode cX3_verdict_2 85 = .ok (.getfield 131, 3) := dk_180 0 131 (dk_at dksX3_verdict_2_3 16 rfl rfl)
theorem dX3_verdict_2_88 : decode cX3_verdict_2 88 = .ok (.ifnonnull 21, 3) := dk_199 0 21 (dk_at dksX3_verdict_2_3 19 rfl rfl)
theorem dX3_verdict_2_91 : decode cX3_verdict_2 91 = .ok (.aload 4, 2) := dk_25 4 (dk_at dksX3_verdict_2_3 22 rfl rfl)
theorem dX3_verdict_2_93 : decode cX3_verdict_2 93 = .ok (.getfield 106, 3) := dk_180 0 106 (dk_at dksX3_verdict_2_4 0 rfl rfl)
theorem dX3_verdict_2_96 : decode cX3_verdict_2 96 = .ok (.iconst 5, 1) := dk_8 (dk_at dksX3_verdict_2_4 3 rfl rfl)
theorem dX3_verdict_2_97 : decode cX3_verdict_2 97 = .ok (.isub, 1) := dk_100 (dk_at dksX3_verdict_2_4 4 rfl rfl)
theorem dX3_verdict_2_98 : decode cX3_verdict_2 98 = .ok (.iconst 2, 1) := dk_5 (dk_at dksX3_verdict_2_4 5 rfl rfl)
theorem dX3_verdict_2_99 : decode cX3_verdict_2 99 = .ok (.aload 4, 2) := dk_25 4 (dk_at dksX3_verdict_2_4 6 rfl rfl)
theorem dX3_verdict_2_101 : decode cX3_verdict_2 101 = .ok (.getfield 119, 3) := dk_180 0 119 (dk_at dksX3_verdict_2_4 8 rfl rfl)
theorem dX3_verdict_2_104 : decode cX3_verdict_2 104 = .ok (.imul, 1) := dk_104 (dk_at dksX3_verdict_2_4 11 rfl rfl)
theorem dX3_verdict_2_105 : decode cX3_verdict_2 105 = .ok (.isub, 1) := dk_100 (dk_at dksX3_verdict_2_4 12 rfl rfl)
theorem dX3_verdict_2_106 : decode cX3_verdict_2 106 = .ok (.goto 14, 3) := dk_167 0 14 (dk_at dksX3_verdict_2_4 13 rfl rfl)
theorem dX3_verdict_2_109 : decode cX3_verdict_2 109 = .ok (.aload_n 1, 1) := dk_43 (dk_at dksX3_verdict_2_4 16 rfl rfl)
theorem dX3_verdict_2_110 : decode cX3_verdict_2 110 = .ok (.getfield 131, 3) := dk_180 0 131 (dk_at dksX3_verdict_2_4 17 rfl rfl)
theorem dX3_verdict_2_113 : decode cX3_verdict_2 113 = .ok (.aload 4, 2) := dk_25 4 (dk_at dksX3_verdict_2_4 20 rfl rfl)
theorem dX3_verdict_2_115 : decode cX3_verdict_2 115 = .ok (.invokeinterface 135 2, 5) := by decide +kernel
theorem dX3_verdict_2_120 : decode cX3_verdict_2 120 = .ok (.ireturn, 1) := dk_172 (dk_at dksX3_verdict_2_5 5 rfl rfl)
abbrev cX3_copy : ByteArray := prog_11_method_3_code
def yX3_copy : MethodName := ⟨RX3, "copy", "(LWebCourt$Court;)LWebCourt$Court;"⟩
def dkwX3_copy_4 : List UInt8 := [181, 0, 64, 42, 43, 180, 0, 75, 181, 0, 75, 42, 176]
abbrev dktX3_copy_4 : List UInt8 := dkwX3_copy_4 ++ []
def dkwX3_copy_3 : List UInt8 := [181, 0, 54, 42, 43, 180, 0, 57, 181, 0, 57, 42, 43, 180, 0, 63, 181, 0, 63, 42, 43, 180, 0, 64]
abbrev dktX3_copy_3 : List UInt8 := dkwX3_copy_3 ++ dktX3_copy_4
def dkwX3_copy_2 : List UInt8 := [180, 0, 21, 3, 42, 180, 0, 21, 3, 16, 6, 184, 0, 78, 42, 2, 181, 0, 24, 42, 43, 180, 0, 54]
abbrev dktX3_copy_2 : List UInt8 := dkwX3_copy_2 ++ dktX3_copy_3
def dkwX3_copy_1 : List UInt8 := [3, 16, 6, 184, 0, 78, 43, 180, 0, 18, 3, 42, 180, 0, 18, 3, 16, 6, 184, 0, 78, 43]
abbrev dktX3_copy_1 : List UInt8 := dkwX3_copy_1 ++ dktX3_copy_2
def dkwX3_copy_0 : List UInt8 := [43, 180, 0, 9, 3, 42, 180, 0, 9, 3, 16, 6, 184, 0, 78, 43, 180, 0, 15, 3, 42, 180, 0, 15]
abbrev dktX3_copy_0 : List UInt8 := dkwX3_copy_0 ++ dktX3_copy_1
theorem dksX3_copy_0 : cX3_copy.data.toList.drop 0 = dktX3_copy_0 := by decide +kernel
theorem dksX3_copy_1 : cX3_copy.data.toList.drop 24 = dktX3_copy_1 := dk_seg dksX3_copy_0 24 rfl rfl
theorem dksX3_copy_2 : cX3_copy.data.toList.drop 46 = dktX3_copy_2 := dk_seg dksX3_copy_1 22 rfl rfl
theorem dksX3_copy_3 : cX3_copy.data.toList.drop 70 = dktX3_copy_3 := dk_seg dksX3_copy_2 24 rfl rfl
theorem dksX3_copy_4 : cX3_copy.data.toList.drop 94 = dktX3_copy_4 := dk_seg dksX3_copy_3 24 rfl rfl
theorem dX3_copy_0 : decode cX3_copy 0 = .ok (.aload_n 1, 1) := dk_43 (dk_at dksX3_copy_0 0 rfl rfl)
theorem dX3_copy_1 : decode cX3_copy 1 = .ok (.getfield 9, 3) := dk_180 0 9 (dk_at dksX3_copy_0 1 rfl rfl)
theorem dX3_copy_4 : decode cX3_copy 4 = .ok (.iconst 0, 1) := dk_3 (dk_at dksX3_copy_0 4 rfl rfl)
theorem dX3_copy_5 : decode cX3_copy 5 = .ok (.aload_n 0, 1) := dk_42 (dk_at dksX3_copy_0 5 rfl rfl)
theorem dX3_copy_6 : decode cX3_copy 6 = .ok (.getfield 9, 3) := dk_180 0 9 (dk_at dksX3_copy_0 6 rfl rfl)
theorem dX3_copy_9 : decode cX3_copy 9 = .ok (.iconst 0, 1) := dk_3 (dk_at dksX3_copy_0 9 rfl rfl)
theorem dX3_copy_10 : decode cX3_copy 10 = .ok (.bipush 6, 2) := dk_16 6 (dk_at dksX3_copy_0 10 rfl rfl)
theorem dX3_copy_12 : decode cX3_copy 12 = .ok (.invokestatic 78, 3) := dk_184 0 78 (dk_at dksX3_copy_0 12 rfl rfl)
theorem dX3_copy_15 : decode cX3_copy 15 = .ok (.aload_n 1, 1) := dk_43 (dk_at dksX3_copy_0 15 rfl rfl)
theorem dX3_copy_16 : decode cX3_copy 16 = .ok (.getfield 15, 3) := dk_180 0 15 (dk_at dksX3_copy_0 16 rfl rfl)
theorem dX3_copy_19 : decode cX3_copy 19 = .ok (.iconst 0, 1) := dk_3 (dk_at dksX3_copy_0 19 rfl rfl)
theorem dX3_copy_20 : decode cX3_copy 20 = .ok (.aload_n 0, 1) := dk_42 (dk_at dksX3_copy_0 20 rfl rfl)
theorem dX3_copy_21 : decode cX3_copy 21 = .ok (.getfield 15, 3) := dk_180 0 15 (dk_at dksX3_copy_0 21 rfl rfl)
theorem dX3_copy_24 : decode cX3_copy 24 = .ok (.iconst 0, 1) := dk_3 (dk_at dksX3_copy_1 0 rfl rfl)
theorem dX3_copy_25 : decode cX3_copy 25 = .ok (.bipush 6, 2) := dk_16 6 (dk_at dksX3_copy_1 1 rfl rfl)
theorem dX3_copy_27 : decode cX3_copy 27 = .ok (.invokestatic 78, 3) := dk_184 0 78 (dk_at dksX3_copy_1 3 rfl rfl)
theorem dX3_copy_30 : decode cX3_copy 30 = .ok (.aload_n 1, 1) := dk_43 (dk_at dksX3_copy_1 6 rfl rfl)
theorem dX3_copy_31 : decode cX3_copy 31 = .ok (.getfield 18, 3) := dk_180 0 18 (dk_at dksX3_copy_1 7 rfl rfl)
theorem dX3_copy_34 : decode cX3_copy 34 = .ok (.iconst 0, 1) := dk_3 (dk_at dksX3_copy_1 10 rfl rfl)
theorem dX3_copy_35 : decode cX3_copy 35 = .ok (.aload_n 0, 1) := dk_42 (dk_at dksX3_copy_1 11 rfl rfl)
theorem dX3_copy_36 : decode cX3_copy 36 = .ok (.getfield 18, 3) := dk_180 0 18 (dk_at dksX3_copy_1 12 rfl rfl)
theorem dX3_copy_39 : decode cX3_copy 39 = .ok (.iconst 0, 1) := dk_3 (dk_at dksX3_copy_1 15 rfl rfl)
theorem dX3_copy_40 : decode cX3_copy 40 = .ok (.bipush 6, 2) := dk_16 6 (dk_at dksX3_copy_1 16 rfl rfl)
theorem dX3_copy_42 : decode cX3_copy 42 = .ok (.invokestatic 78, 3) := dk_184 0 78 (dk_at dksX3_copy_1 18 rfl rfl)
theorem dX3_copy_45 : decode cX3_copy 45 = .ok (.aload_n 1, 1) := dk_43 (dk_at dksX3_copy_1 21 rfl rfl)
theorem dX3_copy_46 : decode cX3_copy 46 = .ok (.getfield 21, 3) := dk_180 0 21 (dk_at dksX3_copy_2 0 rfl rfl)
theorem dX3_copy_49 : decode cX3_copy 49 = .ok (.iconst 0, 1) := dk_3 (dk_at dksX3_copy_2 3 rfl rfl)
theorem dX3_copy_50 : decode cX3_copy 50 = .ok (.aload_n 0, 1) := dk_42 (dk_at dksX3_copy_2 4 rfl rfl)
theorem dX3_copy_51 : decode cX3_copy 51 = .ok (.getfield 21, 3) := dk_180 0 21 (dk_at dksX3_copy_2 5 rfl rfl)
theorem dX3_copy_54 : decode cX3_copy 54 = .ok (.iconst 0, 1) := dk_3 (dk_at dksX3_copy_2 8 rfl rfl)
theorem dX3_copy_55 : decode cX3_copy 55 = .ok (.bipush 6, 2) := dk_16 6 (dk_at dksX3_copy_2 9 rfl rfl)
theorem dX3_copy_57 : decode cX3_copy 57 = .ok (.invokestatic 78, 3) := dk_184 0 78 (dk_at dksX3_copy_2 11 rfl rfl)
theorem dX3_copy_60 : decode cX3_copy 60 = .ok (.aload_n 0, 1) := dk_42 (dk_at dksX3_copy_2 14 rfl rfl)
theorem dX3_copy_61 : decode cX3_copy 61 = .ok (.iconst (-1), 1) := dk_2 (dk_at dksX3_copy_2 15 rfl rfl)
theorem dX3_copy_62 : decode cX3_copy 62 = .ok (.putfield 24, 3) := dk_181 0 24 (dk_at dksX3_copy_2 16 rfl rfl)
theorem dX3_copy_65 : decode cX3_copy 65 = .ok (.aload_n 0, 1) := dk_42 (dk_at dksX3_copy_2 19 rfl rfl)
theorem dX3_copy_66 : decode cX3_copy 66 = .ok (.aload_n 1, 1) := dk_43 (dk_at dksX3_copy_2 20 rfl rfl)
theorem dX3_copy_67 : decode cX3_copy 67 = .ok (.getfield 54, 3) := dk_180 0 54 (dk_at dksX3_copy_2 21 rfl rfl)
theorem dX3_copy_70 : decode cX3_copy 70 = .ok (.putfield 54, 3) := dk_181 0 54 (dk_at dksX3_copy_3 0 rfl rfl)
theorem dX3_copy_73 : decode cX3_copy 73 = .ok (.aload_n 0, 1) := dk_42 (dk_at dksX3_copy_3 3 rfl rfl)
theorem dX3_copy_74 : decode cX3_copy 74 = .ok (.aload_n 1, 1) := dk_43 (dk_at dksX3_copy_3 4 rfl rfl)
theorem dX3_copy_75 : decode cX3_copy 75 = .ok (.getfield 57, 3) := dk_180 0 57 (dk_at dksX3_copy_3 5 rfl rfl)
theorem dX3_copy_78 : decode cX3_copy 78 = .ok (.putfield 57, 3) := dk_181 0 57 (dk_at dksX3_copy_3 8 rfl rfl)
theorem dX3_copy_81 : decode cX3_copy 81 = .ok (.aload_n 0, 1) := dk_42 (dk_at dksX3_copy_3 11 rfl rfl)
theorem dX3_copy_82 : decode cX3_copy 82 = .ok (.aload_n 1, 1) := dk_43 (dk_at dksX3_copy_3 12 rfl rfl)
theorem dX3_copy_83 : decode cX3_copy 83 = .ok (.getfield 63, 3) := dk_180 0 63 (dk_at dksX3_copy_3 13 rfl rfl)
theorem dX3_copy_86 : decode cX3_copy 86 = .ok (.putfield 63, 3) := dk_181 0 63 (dk_at dksX3_copy_3 16 rfl rfl)
theorem dX3_copy_89 : decode cX3_copy 89 = .ok (.aload_n 0, 1) := dk_42 (dk_at dksX3_copy_3 19 rfl rfl)
theorem dX3_copy_90 : decode cX3_copy 90 = .ok (.aload_n 1, 1) := dk_43 (dk_at dksX3_copy_3 20 rfl rfl)
theorem dX3_copy_91 : decode cX3_copy 91 = .ok (.getfield 64, 3) := dk_180 0 64 (dk_at dksX3_copy_3 21 rfl rfl)
theorem dX3_copy_94 : decode cX3_copy 94 = .ok (.putfield 64, 3) := dk_181 0 64 (dk_at dksX3_copy_4 0 rfl rfl)
theorem dX3_copy_97 : decode cX3_copy 97 = .ok (.aload_n 0, 1) := dk_42 (dk_at dksX3_copy_4 3 rfl rfl)
theorem dX3_copy_98 : decode cX3_copy 98 = .ok (.aload_n 1, 1) := dk_43 (dk_at dksX3_copy_4 4 rfl rfl)
theorem dX3_copy_99 : decode cX3_copy 99 = .ok (.getfield 75, 3) := dk_180 0 75 (dk_at dksX3_copy_4 5 rfl rfl)
theorem dX3_copy_102 : decode cX3_copy 102 = .ok (.putfield 75, 3) := dk_181 0 75 (dk_at dksX3_copy_4 8 rfl rfl)
theorem dX3_copy_105 : decode cX3_copy 105 = .ok (.aload_n 0, 1) := dk_42 (dk_at dksX3_copy_4 11 rfl rfl)
theorem dX3_copy_106 : decode cX3_copy 106 = .ok (.areturn, 1) := dk_176 (dk_at dksX3_copy_4 12 rfl rfl)
abbrev cX3_comeBack : ByteArray := prog_11_method_11_code
def yX3_comeBack : MethodName := ⟨RX3, "comeBack", "(LWebCourt$Book;)I"⟩
def dkwX3_comeBack_3 : List UInt8 := [29, 3, 79, 28, 4, 29, 120, 128, 61, 132, 3, 1, 167, 255, 180, 28, 172]
abbrev dktX3_comeBack_3 : List UInt8 := dkwX3_comeBack_3 ++ []
def dkwX3_comeBack_2 : List UInt8 := [181, 0, 63, 42, 180, 0, 63, 16, 100, 112, 43, 180, 0, 152, 161, 0, 6, 167, 0, 16, 42, 180, 0, 9]
abbrev dktX3_comeBack_2 : List UInt8 := dkwX3_comeBack_2 ++ dktX3_comeBack_3
def dkwX3_comeBack_1 : List UInt8 := [159, 0, 6, 167, 0, 52, 42, 42, 180, 0, 63, 17, 0, 137, 104, 16, 71, 96, 17, 3, 232, 112]
abbrev dktX3_comeBack_1 : List UInt8 := dkwX3_comeBack_1 ++ dktX3_comeBack_2
def dkwX3_comeBack_0 : List UInt8 := [3, 61, 3, 62, 29, 43, 180, 0, 28, 182, 0, 34, 162, 0, 71, 42, 180, 0, 9, 29, 46, 4]
abbrev dktX3_comeBack_0 : List UInt8 := dkwX3_comeBack_0 ++ dktX3_comeBack_1
theorem dksX3_comeBack_0 : cX3_comeBack.data.toList.drop 0 = dktX3_comeBack_0 := by decide +kernel
theorem dksX3_comeBack_1 : cX3_comeBack.data.toList.drop 22 = dktX3_comeBack_1 := dk_seg dksX3_comeBack_0 22 rfl rfl
theorem dksX3_comeBack_2 : cX3_comeBack.data.toList.drop 44 = dktX3_comeBack_2 := dk_seg dksX3_comeBack_1 22 rfl rfl
theorem dksX3_comeBack_3 : cX3_comeBack.data.toList.drop 68 = dktX3_comeBack_3 := dk_seg dksX3_comeBack_2 24 rfl rfl
theorem dX3_comeBack_0 : decode cX3_comeBack 0 = .ok (.iconst 0, 1) := dk_3 (dk_at dksX3_comeBack_0 0 rfl rfl)
theorem dX3_comeBack_1 : decode cX3_comeBack 1 = .ok (.istore_n 2, 1) := dk_61 (dk_at dksX3_comeBack_0 1 rfl rfl)
theorem dX3_comeBack_2 : decode cX3_comeBack 2 = .ok (.iconst 0, 1) := dk_3 (dk_at dksX3_comeBack_0 2 rfl rfl)
theorem dX3_comeBack_3 : decode cX3_comeBack 3 = .ok (.istore_n 3, 1) := dk_62 (dk_at dksX3_comeBack_0 3 rfl rfl)
theorem dX3_comeBack_4 : decode cX3_comeBack 4 = .ok (.iload_n 3, 1) := dk_29 (dk_at dksX3_comeBack_0 4 rfl rfl)
theorem dX3_comeBack_5 : decode cX3_comeBack 5 = .ok (.aload_n 1, 1) := dk_43 (dk_at dksX3_comeBack_0 5 rfl rfl)
theorem dX3_comeBack_6 : decode cX3_comeBack 6 = .ok (.getfield 28, 3) := dk_180 0 28 (dk_at dksX3_comeBack_0 6 rfl rfl)
theorem dX3_comeBack_9 : decode cX3_comeBack 9 = .ok (.invokevirtual 34, 3) := dk_182 0 34 (dk_at dksX3_comeBack_0 9 rfl rfl)
theorem dX3_comeBack_12 : decode cX3_comeBack 12 = .ok (.if_icmp .ge 71, 3) := dk_162 0 71 (dk_at dksX3_comeBack_0 12 rfl rfl)
theorem dX3_comeBack_15 : decode cX3_comeBack 15 = .ok (.aload_n 0, 1) := dk_42 (dk_at dksX3_comeBack_0 15 rfl rfl)
theorem dX3_comeBack_16 : decode cX3_comeBack 16 = .ok (.getfield 9, 3) := dk_180 0 9 (dk_at dksX3_comeBack_0 16 rfl rfl)
theorem dX3_comeBack_19 : decode cX3_comeBack 19 = .ok (.iload_n 3, 1) := dk_29 (dk_at dksX3_comeBack_0 19 rfl rfl)
theorem dX3_comeBack_20 : decode cX3_comeBack 20 = .ok (.iaload, 1) := dk_46 (dk_at dksX3_comeBack_0 20 rfl rfl)
theorem dX3_comeBack_21 : decode cX3_comeBack 21 = .ok (.iconst 1, 1) := dk_4 (dk_at dksX3_comeBack_0 21 rfl rfl)
theorem dX3_comeBack_22 : decode cX3_comeBack 22 = .ok (.if_icmp .eq 6, 3) := dk_159 0 6 (dk_at dksX3_comeBack_1 0 rfl rfl)
theorem dX3_comeBack_25 : decode cX3_comeBack 25 = .ok (.goto 52, 3) := dk_167 0 52 (dk_at dksX3_comeBack_1 3 rfl rfl)
theorem dX3_comeBack_28 : decode cX3_comeBack 28 = .ok (.aload_n 0, 1) := dk_42 (dk_at dksX3_comeBack_1 6 rfl rfl)
theorem dX3_comeBack_29 : decode cX3_comeBack 29 = .ok (.aload_n 0, 1) := dk_42 (dk_at dksX3_comeBack_1 7 rfl rfl)
theorem dX3_comeBack_30 : decode cX3_comeBack 30 = .ok (.getfield 63, 3) := dk_180 0 63 (dk_at dksX3_comeBack_1 8 rfl rfl)
theorem dX3_comeBack_33 : decode cX3_comeBack 33 = .ok (.sipush 137, 3) := dk_17 0 137 (dk_at dksX3_comeBack_1 11 rfl rfl)
theorem dX3_comeBack_36 : decode cX3_comeBack 36 = .ok (.imul, 1) := dk_104 (dk_at dksX3_comeBack_1 14 rfl rfl)
theorem dX3_comeBack_37 : decode cX3_comeBack 37 = .ok (.bipush 71, 2) := dk_16 71 (dk_at dksX3_comeBack_1 15 rfl rfl)
theorem dX3_comeBack_39 : decode cX3_comeBack 39 = .ok (.iadd, 1) := dk_96 (dk_at dksX3_comeBack_1 17 rfl rfl)
theorem dX3_comeBack_40 : decode cX3_comeBack 40 = .ok (.sipush 1000, 3) := dk_17 3 232 (dk_at dksX3_comeBack_1 18 rfl rfl)
theorem dX3_comeBack_43 : decode cX3_comeBack 43 = .ok (.irem, 1) := dk_112 (dk_at dksX3_comeBack_1 21 rfl rfl)
theorem dX3_comeBack_44 : decode cX3_comeBack 44 = .ok (.putfield 63, 3) := dk_181 0 63 (dk_at dksX3_comeBack_2 0 rfl rfl)
theorem dX3_comeBack_47 : decode cX3_comeBack 47 = .ok (.aload_n 0, 1) := dk_42 (dk_at dksX3_comeBack_2 3 rfl rfl)
theorem dX3_comeBack_48 : decode cX3_comeBack 48 = .ok (.getfield 63, 3) := dk_180 0 63 (dk_at dksX3_comeBack_2 4 rfl rfl)
theorem dX3_comeBack_51 : decode cX3_comeBack 51 = .ok (.bipush 100, 2) := dk_16 100 (dk_at dksX3_comeBack_2 7 rfl rfl)
theorem dX3_comeBack_53 : decode cX3_comeBack 53 = .ok (.irem, 1) := dk_112 (dk_at dksX3_comeBack_2 9 rfl rfl)
theorem dX3_comeBack_54 : decode cX3_comeBack 54 = .ok (.aload_n 1, 1) := dk_43 (dk_at dksX3_comeBack_2 10 rfl rfl)
theorem dX3_comeBack_55 : decode cX3_comeBack 55 = .ok (.getfield 152, 3) := dk_180 0 152 (dk_at dksX3_comeBack_2 11 rfl rfl)
theorem dX3_comeBack_58 : decode cX3_comeBack 58 = .ok (.if_icmp .lt 6, 3) := dk_161 0 6 (dk_at dksX3_comeBack_2 14 rfl rfl)
theorem dX3_comeBack_61 : decode cX3_comeBack 61 = .ok (.goto 16, 3) := dk_167 0 16 (dk_at dksX3_comeBack_2 17 rfl rfl)
theorem dX3_comeBack_64 : decode cX3_comeBack 64 = .ok (.aload_n 0, 1) := dk_42 (dk_at dksX3_comeBack_2 20 rfl rfl)
theorem dX3_comeBack_65 : decode cX3_comeBack 65 = .ok (.getfield 9, 3) := dk_180 0 9 (dk_at dksX3_comeBack_2 21 rfl rfl)
theorem dX3_comeBack_68 : decode cX3_comeBack 68 = .ok (.iload_n 3, 1) := dk_29 (dk_at dksX3_comeBack_3 0 rfl rfl)
theorem dX3_comeBack_69 : decode cX3_comeBack 69 = .ok (.iconst 0, 1) := dk_3 (dk_at dksX3_comeBack_3 1 rfl rfl)
theorem dX3_comeBack_70 : decode cX3_comeBack 70 = .ok (.iastore, 1) := dk_79 (dk_at dksX3_comeBack_3 2 rfl rfl)
theorem dX3_comeBack_71 : decode cX3_comeBack 71 = .ok (.iload_n 2, 1) := dk_28 (dk_at dksX3_comeBack_3 3 rfl rfl)
theorem dX3_comeBack_72 : decode cX3_comeBack 72 = .ok (.iconst 1, 1) := dk_4 (dk_at dksX3_comeBack_3 4 rfl rfl)
theorem dX3_comeBack_73 : decode cX3_comeBack 73 = .ok (.iload_n 3, 1) := dk_29 (dk_at dksX3_comeBack_3 5 rfl rfl)
theorem dX3_comeBack_74 : decode cX3_comeBack 74 = .ok (.ishl, 1) := dk_120 (dk_at dksX3_comeBack_3 6 rfl rfl)
theorem dX3_comeBack_75 : decode cX3_comeBack 75 = .ok (.ior, 1) := dk_128 (dk_at dksX3_comeBack_3 7 rfl rfl)
theorem dX3_comeBack_76 : decode cX3_comeBack 76 = .ok (.istore_n 2, 1) := dk_61 (dk_at dksX3_comeBack_3 8 rfl rfl)
theorem dX3_comeBack_77 : decode cX3_comeBack 77 = .ok (.iinc 3 1, 3) := dk_132 3 1 (dk_at dksX3_comeBack_3 9 rfl rfl)
theorem dX3_comeBack_80 : decode cX3_comeBack 80 = .ok (.goto (-76), 3) := dk_167 255 180 (dk_at dksX3_comeBack_3 12 rfl rfl)
theorem dX3_comeBack_83 : decode cX3_comeBack 83 = .ok (.iload_n 2, 1) := dk_28 (dk_at dksX3_comeBack_3 15 rfl rfl)
theorem dX3_comeBack_84 : decode cX3_comeBack 84 = .ok (.ireturn, 1) := dk_172 (dk_at dksX3_comeBack_3 16 rfl rfl)
abbrev cX3_hear : ByteArray := prog_11_method_10_code
def yX3_hear : MethodName := ⟨RX3, "hear", "(LWebCourt$Book;I)I"⟩
def dkwX3_hear_3 : List UInt8 := [29, 158, 0, 7, 4, 167, 0, 4, 5, 79, 42, 180, 0, 9, 28, 46, 172]
abbrev dktX3_hear_3 : List UInt8 := dkwX3_hear_3 ++ []
def dkwX3_hear_2 : List UInt8 := [180, 0, 18, 28, 46, 4, 96, 184, 0, 147, 79, 42, 180, 0, 9, 28, 29, 154, 0, 7, 3, 167, 0, 12]
abbrev dktX3_hear_2 : List UInt8 := dkwX3_hear_2 ++ dktX3_hear_3
def dkwX3_hear_1 : List UInt8 := [180, 0, 21, 28, 46, 4, 96, 184, 0, 147, 79, 29, 158, 0, 22, 42, 180, 0, 18, 28, 16, 99, 42]
abbrev dktX3_hear_1 : List UInt8 := dkwX3_hear_1 ++ dktX3_hear_2
def dkwX3_hear_0 : List UInt8 := [42, 43, 28, 182, 0, 145, 62, 42, 4, 181, 0, 75, 29, 154, 0, 22, 42, 180, 0, 21, 28, 16, 99, 42]
abbrev dktX3_hear_0 : List UInt8 := dkwX3_hear_0 ++ dktX3_hear_1
theorem dksX3_hear_0 : cX3_hear.data.toList.drop 0 = dktX3_hear_0 := by decide +kernel
theorem dksX3_hear_1 : cX3_hear.data.toList.drop 24 = dktX3_hear_1 := dk_seg dksX3_hear_0 24 rfl rfl
theorem dksX3_hear_2 : cX3_hear.data.toList.drop 47 = dktX3_hear_2 := dk_seg dksX3_hear_1 23 rfl rfl
theorem dksX3_hear_3 : cX3_hear.data.toList.drop 71 = dktX3_hear_3 := dk_seg dksX3_hear_2 24 rfl rfl
theorem dX3_hear_0 : decode cX3_hear 0 = .ok (.aload_n 0, 1) := dk_42 (dk_at dksX3_hear_0 0 rfl rfl)
theorem dX3_hear_1 : decode cX3_hear 1 = .ok (.aload_n 1, 1) := dk_43 (dk_at dksX3_hear_0 1 rfl rfl)
theorem dX3_hear_2 : decode cX3_hear 2 = .ok (.iload_n 2, 1) := dk_28 (dk_at dksX3_hear_0 2 rfl rfl)
theorem dX3_hear_3 : decode cX3_hear 3 = .ok (.invokevirtual 145, 3) := dk_182 0 145 (dk_at dksX3_hear_0 3 rfl rfl)
theorem dX3_hear_6 : decode cX3_hear 6 = .ok (.istore_n 3, 1) := dk_62 (dk_at dksX3_hear_0 6 rfl rfl)
theorem dX3_hear_7 : decode cX3_hear 7 = .ok (.aload_n 0, 1) := dk_42 (dk_at dksX3_hear_0 7 rfl rfl)
theorem dX3_hear_8 : decode cX3_hear 8 = .ok (.iconst 1, 1) := dk_4 (dk_at dksX3_hear_0 8 rfl rfl)
theorem dX3_hear_9 : decode cX3_hear 9 = .ok (.putfield 75, 3) := dk_181 0 75 (dk_at dksX3_hear_0 9 rfl rfl)
theorem dX3_hear_12 : decode cX3_hear 12 = .ok (.iload_n 3, 1) := dk_29 (dk_at dksX3_hear_0 12 rfl rfl)
theorem dX3_hear_13 : decode cX3_hear 13 = .ok (.ifCond .ne 22, 3) := dk_154 0 22 (dk_at dksX3_hear_0 13 rfl rfl)
theorem dX3_hear_16 : decode cX3_hear 16 = .ok (.aload_n 0, 1) := dk_42 (dk_at dksX3_hear_0 16 rfl rfl)
theorem dX3_hear_17 : decode cX3_hear 17 = .ok (.getfield 21, 3) := dk_180 0 21 (dk_at dksX3_hear_0 17 rfl rfl)
theorem dX3_hear_20 : decode cX3_hear 20 = .ok (.iload_n 2, 1) := dk_28 (dk_at dksX3_hear_0 20 rfl rfl)
theorem dX3_hear_21 : decode cX3_hear 21 = .ok (.bipush 99, 2) := dk_16 99 (dk_at dksX3_hear_0 21 rfl rfl)
theorem dX3_hear_23 : decode cX3_hear 23 = .ok (.aload_n 0, 1) := dk_42 (dk_at dksX3_hear_0 23 rfl rfl)
theorem dX3_hear_24 : decode cX3_hear 24 = .ok (.getfield 21, 3) := dk_180 0 21 (dk_at dksX3_hear_1 0 rfl rfl)
theorem dX3_hear_27 : decode cX3_hear 27 = .ok (.iload_n 2, 1) := dk_28 (dk_at dksX3_hear_1 3 rfl rfl)
theorem dX3_hear_28 : decode cX3_hear 28 = .ok (.iaload, 1) := dk_46 (dk_at dksX3_hear_1 4 rfl rfl)
theorem dX3_hear_29 : decode cX3_hear 29 = .ok (.iconst 1, 1) := dk_4 (dk_at dksX3_hear_1 5 rfl rfl)
theorem dX3_hear_30 : decode cX3_hear 30 = .ok (.iadd, 1) := dk_96 (dk_at dksX3_hear_1 6 rfl rfl)
theorem dX3_hear_31 : decode cX3_hear 31 = .ok (.invokestatic 147, 3) := dk_184 0 147 (dk_at dksX3_hear_1 7 rfl rfl)
theorem dX3_hear_34 : decode cX3_hear 34 = .ok (.iastore, 1) := dk_79 (dk_at dksX3_hear_1 10 rfl rfl)
theorem dX3_hear_35 : decode cX3_hear 35 = .ok (.iload_n 3, 1) := dk_29 (dk_at dksX3_hear_1 11 rfl rfl)
theorem dX3_hear_36 : decode cX3_hear 36 = .ok (.ifCond .le 22, 3) := dk_158 0 22 (dk_at dksX3_hear_1 12 rfl rfl)
theorem dX3_hear_39 : decode cX3_hear 39 = .ok (.aload_n 0, 1) := dk_42 (dk_at dksX3_hear_1 15 rfl rfl)
theorem dX3_hear_40 : decode cX3_hear 40 = .ok (.getfield 18, 3) := dk_180 0 18 (dk_at dksX3_hear_1 16 rfl rfl)
theorem dX3_hear_43 : decode cX3_hear 43 = .ok (.iload_n 2, 1) := dk_28 (dk_at dksX3_hear_1 19 rfl rfl)
theorem dX3_hear_44 : decode cX3_hear 44 = .ok (.bipush 99, 2) := dk_16 99 (dk_at dksX3_hear_1 20 rfl rfl)
theorem dX3_hear_46 : decode cX3_hear 46 = .ok (.aload_n 0, 1) := dk_42 (dk_at dksX3_hear_1 22 rfl rfl)
theorem dX3_hear_47 : decode cX3_hear 47 = .ok (.getfield 18, 3) := dk_180 0 18 (dk_at dksX3_hear_2 0 rfl rfl)
theorem dX3_hear_50 : decode cX3_hear 50 = .ok (.iload_n 2, 1) := dk_28 (dk_at dksX3_hear_2 3 rfl rfl)
theorem dX3_hear_51 : decode cX3_hear 51 = .ok (.iaload, 1) := dk_46 (dk_at dksX3_hear_2 4 rfl rfl)
theorem dX3_hear_52 : decode cX3_hear 52 = .ok (.iconst 1, 1) := dk_4 (dk_at dksX3_hear_2 5 rfl rfl)
theorem dX3_hear_53 : decode cX3_hear 53 = .ok (.iadd, 1) := dk_96 (dk_at dksX3_hear_2 6 rfl rfl)
theorem dX3_hear_54 : decode cX3_hear 54 = .ok (.invokestatic 147, 3) := dk_184 0 147 (dk_at dksX3_hear_2 7 rfl rfl)
theorem dX3_hear_57 : decode cX3_hear 57 = .ok (.iastore, 1) := dk_79 (dk_at dksX3_hear_2 10 rfl rfl)
theorem dX3_hear_58 : decode cX3_hear 58 = .ok (.aload_n 0, 1) := dk_42 (dk_at dksX3_hear_2 11 rfl rfl)
theorem dX3_hear_59 : decode cX3_hear 59 = .ok (.getfield 9, 3) := dk_180 0 9 (dk_at dksX3_hear_2 12 rfl rfl)
theorem dX3_hear_62 : decode cX3_hear 62 = .ok (.iload_n 2, 1) := dk_28 (dk_at dksX3_hear_2 15 rfl rfl)
theorem dX3_hear_63 : decode cX3_hear 63 = .ok (.iload_n 3, 1) := dk_29 (dk_at dksX3_hear_2 16 rfl rfl)
theorem dX3_hear_64 : decode cX3_hear 64 = .ok (.ifCond .ne 7, 3) := dk_154 0 7 (dk_at dksX3_hear_2 17 rfl rfl)
theorem dX3_hear_67 : decode cX3_hear 67 = .ok (.iconst 0, 1) := dk_3 (dk_at dksX3_hear_2 20 rfl rfl)
theorem dX3_hear_68 : decode cX3_hear 68 = .ok (.goto 12, 3) := dk_167 0 12 (dk_at dksX3_hear_2 21 rfl rfl)
theorem dX3_hear_71 : decode cX3_hear 71 = .ok (.iload_n 3, 1) := dk_29 (dk_at dksX3_hear_3 0 rfl rfl)
theorem dX3_hear_72 : decode cX3_hear 72 = .ok (.ifCond .le 7, 3) := dk_158 0 7 (dk_at dksX3_hear_3 1 rfl rfl)
theorem dX3_hear_75 : decode cX3_hear 75 = .ok (.iconst 1, 1) := dk_4 (dk_at dksX3_hear_3 4 rfl rfl)
theorem dX3_hear_76 : decode cX3_hear 76 = .ok (.goto 4, 3) := dk_167 0 4 (dk_at dksX3_hear_3 5 rfl rfl)
theorem dX3_hear_79 : decode cX3_hear 79 = .ok (.iconst 2, 1) := dk_5 (dk_at dksX3_hear_3 8 rfl rfl)
theorem dX3_hear_80 : decode cX3_hear 80 = .ok (.iastore, 1) := dk_79 (dk_at dksX3_hear_3 9 rfl rfl)
theorem dX3_hear_81 : decode cX3_hear 81 = .ok (.aload_n 0, 1) := dk_42 (dk_at dksX3_hear_3 10 rfl rfl)
theorem dX3_hear_82 : decode cX3_hear 82 = .ok (.getfield 9, 3) := dk_180 0 9 (dk_at dksX3_hear_3 11 rfl rfl)
theorem dX3_hear_85 : decode cX3_hear 85 = .ok (.iload_n 2, 1) := dk_28 (dk_at dksX3_hear_3 14 rfl rfl)
theorem dX3_hear_86 : decode cX3_hear 86 = .ok (.iaload, 1) := dk_46 (dk_at dksX3_hear_3 15 rfl rfl)
theorem dX3_hear_87 : decode cX3_hear 87 = .ok (.ireturn, 1) := dk_172 (dk_at dksX3_hear_3 16 rfl rfl)
abbrev cX3_held : ByteArray := prog_11_method_12_code
def yX3_held : MethodName := ⟨RX3, "held", "(LWebCourt$Book;)I"⟩
def dkwX3_held_1 : List UInt8 := [4, 29, 120, 167, 0, 4, 3, 128, 61, 132, 3, 1, 167, 255, 224, 28, 172]
abbrev dktX3_held_1 : List UInt8 := dkwX3_held_1 ++ []
def dkwX3_held_0 : List UInt8 := [3, 61, 3, 62, 29, 43, 180, 0, 28, 182, 0, 34, 162, 0, 27, 28, 42, 29, 182, 0, 92, 153, 0, 9]
abbrev dktX3_held_0 : List UInt8 := dkwX3_held_0 ++ dktX3_held_1
theorem dksX3_held_0 : cX3_held.data.toList.drop 0 = dktX3_held_0 := by decide +kernel
theorem dksX3_held_1 : cX3_held.data.toList.drop 24 = dktX3_held_1 := dk_seg dksX3_held_0 24 rfl rfl
theorem dX3_held_0 : decode cX3_held 0 = .ok (.iconst 0, 1) := dk_3 (dk_at dksX3_held_0 0 rfl rfl)
theorem dX3_held_1 : decode cX3_held 1 = .ok (.istore_n 2, 1) := dk_61 (dk_at dksX3_held_0 1 rfl rfl)
theorem dX3_held_2 : decode cX3_held 2 = .ok (.iconst 0, 1) := dk_3 (dk_at dksX3_held_0 2 rfl rfl)
theorem dX3_held_3 : decode cX3_held 3 = .ok (.istore_n 3, 1) := dk_62 (dk_at dksX3_held_0 3 rfl rfl)
theorem dX3_held_4 : decode cX3_held 4 = .ok (.iload_n 3, 1) := dk_29 (dk_at dksX3_held_0 4 rfl rfl)
theorem dX3_held_5 : decode cX3_held 5 = .ok (.aload_n 1, 1) := dk_43 (dk_at dksX3_held_0 5 rfl rfl)
theorem dX3_held_6 : decode cX3_held 6 = .ok (.getfield 28, 3) := dk_180 0 28 (dk_at dksX3_held_0 6 rfl rfl)
theorem dX3_held_9 : decode cX3_held 9 = .ok (.invokevirtual 34, 3) := dk_182 0 34 (dk_at dksX3_held_0 9 rfl rfl)
theorem dX3_held_12 : decode cX3_held 12 = .ok (.if_icmp .ge 27, 3) := dk_162 0 27 (dk_at dksX3_held_0 12 rfl rfl)
theorem dX3_held_15 : decode cX3_held 15 = .ok (.iload_n 2, 1) := dk_28 (dk_at dksX3_held_0 15 rfl rfl)
theorem dX3_held_16 : decode cX3_held 16 = .ok (.aload_n 0, 1) := dk_42 (dk_at dksX3_held_0 16 rfl rfl)
theorem dX3_held_17 : decode cX3_held 17 = .ok (.iload_n 3, 1) := dk_29 (dk_at dksX3_held_0 17 rfl rfl)
theorem dX3_held_18 : decode cX3_held 18 = .ok (.invokevirtual 92, 3) := dk_182 0 92 (dk_at dksX3_held_0 18 rfl rfl)
theorem dX3_held_21 : decode cX3_held 21 = .ok (.ifCond .eq 9, 3) := dk_153 0 9 (dk_at dksX3_held_0 21 rfl rfl)
theorem dX3_held_24 : decode cX3_held 24 = .ok (.iconst 1, 1) := dk_4 (dk_at dksX3_held_1 0 rfl rfl)
theorem dX3_held_25 : decode cX3_held 25 = .ok (.iload_n 3, 1) := dk_29 (dk_at dksX3_held_1 1 rfl rfl)
theorem dX3_held_26 : decode cX3_held 26 = .ok (.ishl, 1) := dk_120 (dk_at dksX3_held_1 2 rfl rfl)
theorem dX3_held_27 : decode cX3_held 27 = .ok (.goto 4, 3) := dk_167 0 4 (dk_at dksX3_held_1 3 rfl rfl)
theorem dX3_held_30 : decode cX3_held 30 = .ok (.iconst 0, 1) := dk_3 (dk_at dksX3_held_1 6 rfl rfl)
theorem dX3_held_31 : decode cX3_held 31 = .ok (.ior, 1) := dk_128 (dk_at dksX3_held_1 7 rfl rfl)
theorem dX3_held_32 : decode cX3_held 32 = .ok (.istore_n 2, 1) := dk_61 (dk_at dksX3_held_1 8 rfl rfl)
theorem dX3_held_33 : decode cX3_held 33 = .ok (.iinc 3 1, 3) := dk_132 3 1 (dk_at dksX3_held_1 9 rfl rfl)
theorem dX3_held_36 : decode cX3_held 36 = .ok (.goto (-32), 3) := dk_167 255 224 (dk_at dksX3_held_1 12 rfl rfl)
theorem dX3_held_39 : decode cX3_held 39 = .ok (.iload_n 2, 1) := dk_28 (dk_at dksX3_held_1 15 rfl rfl)
theorem dX3_held_40 : decode cX3_held 40 = .ok (.ireturn, 1) := dk_172 (dk_at dksX3_held_1 16 rfl rfl)
theorem q130 : (Jvm.Cond.initialized "WebCourt$Court") ∈ lw_all := lw_g (lw_at lw_m1 7 rfl) rfl
theorem q210 : (Jvm.Cond.fieldLink "WebCourt$Court" (106 : Nat) "WebCourt$Ask" "pleads" "I") ∈ lw_all := lw_g (lw_at lw_m1 87 rfl) rfl
theorem q212 : (Jvm.Cond.fieldLink "WebCourt$Court" (116 : Nat) "WebCourt$Ask" "many" "I") ∈ lw_all := lw_g (lw_at lw_m1 89 rfl) rfl
theorem q214 : (Jvm.Cond.fieldLink "WebCourt$Court" (119 : Nat) "WebCourt$Ask" "before" "I") ∈ lw_all := lw_g (lw_at lw_m1 91 rfl) rfl
theorem q216 : (Jvm.Cond.fieldLink "WebCourt$Court" (121 : Nat) "WebCourt$Ask" "stays" "I") ∈ lw_all := lw_g (lw_at lw_m1 93 rfl) rfl
theorem q218 : (Jvm.Cond.fieldLink "WebCourt$Court" (127 : Nat) "WebCourt$Ask" "kin" "I") ∈ lw_all := lw_g (lw_at lw_m1 95 rfl) rfl
theorem q220 : (Jvm.Cond.fieldLink "WebCourt$Court" (130 : Nat) "WebCourt$Ask" "hour" "I") ∈ lw_all := lw_g (lw_at lw_m1 97 rfl) rfl
theorem q235 : (Jvm.Cond.fieldLink "WebCourt$Court" (48 : Nat) "WebCourt$Book" "knots" "Ljava/util/ArrayList;") ∈ lw_all := lw_g (lw_at lw_m1 112 rfl) rfl
theorem q242 : (Jvm.Cond.fieldLink "WebCourt$Court" (28 : Nat) "WebCourt$Book" "cases" "Ljava/util/ArrayList;") ∈ lw_all := lw_g (lw_at lw_m1 119 rfl) rfl
theorem q246 : (Jvm.Cond.fieldLink "WebCourt$Court" (67 : Nat) "WebCourt$Book" "lines" "Ljava/util/ArrayList;") ∈ lw_all := lw_g (lw_at lw_m1 123 rfl) rfl
theorem q250 : (Jvm.Cond.fieldLink "WebCourt$Court" (98 : Nat) "WebCourt$Book" "ask" "LWebCourt$Ask;") ∈ lw_all := lw_g (lw_at lw_m1 127 rfl) rfl
theorem q251 : (Jvm.Cond.fieldLink "WebCourt$Court" (131 : Nat) "WebCourt$Book" "law" "LWebCourt$Node;") ∈ lw_all := lw_g (lw_at lw_m1 128 rfl) rfl
theorem q253 : (Jvm.Cond.fieldLink "WebCourt$Court" (51 : Nat) "WebCourt$Book" "bench" "I") ∈ lw_all := lw_g (lw_at lw_m1 130 rfl) rfl
theorem q255 : (Jvm.Cond.fieldLink "WebCourt$Court" (152 : Nat) "WebCourt$Book" "back" "I") ∈ lw_all := lw_g (lw_at lw_m1 132 rfl) rfl
theorem q258 : (Jvm.Cond.fieldLink "WebCourt$Court" (60 : Nat) "WebCourt$Book" "seed" "I") ∈ lw_all := lw_g (lw_at lw_m1 135 rfl) rfl
theorem q284 : (Jvm.Cond.instantiable "WebCourt$Court" (10 : Nat)) ∈ lw_all := lw_g (lw_at lw_m1 161 rfl) rfl
theorem q286 : (Jvm.Cond.instanceMethod ({ cls := "WebCourt$Court", name := "<init>", desc := "()V" } : Jvm.MethodName)) ∈ lw_all := lw_g (lw_at lw_m1 163 rfl) rfl
theorem q287 : (Jvm.Cond.code ({ cls := "WebCourt$Court", name := "<init>", desc := "()V" } : Jvm.MethodName) prog_11_method_1_code (1 : Nat) (Option.none : Option Jvm.ClassFile.FieldType)) ∈ lw_all := lw_g (lw_at lw_m1 164 rfl) rfl
theorem q288 : (Jvm.Cond.methodLink "WebCourt$Court" (3 : Nat) ({ cls := "java/lang/Object", name := "<init>", desc := "()V" } : Jvm.MethodName)) ∈ lw_all := lw_g (lw_at lw_m1 165 rfl) rfl
theorem q289 : (Jvm.Cond.fieldLink "WebCourt$Court" (9 : Nat) "WebCourt$Court" "state" "[I") ∈ lw_all := lw_g (lw_at lw_m1 166 rfl) rfl
theorem q291 : (Jvm.Cond.fieldLink "WebCourt$Court" (15 : Nat) "WebCourt$Court" "pleas" "[I") ∈ lw_all := lw_g (lw_at lw_m1 168 rfl) rfl
theorem q293 : (Jvm.Cond.fieldLink "WebCourt$Court" (18 : Nat) "WebCourt$Court" "before" "[I") ∈ lw_all := lw_g (lw_at lw_m1 170 rfl) rfl
theorem q295 : (Jvm.Cond.fieldLink "WebCourt$Court" (21 : Nat) "WebCourt$Court" "stays" "[I") ∈ lw_all := lw_g (lw_at lw_m1 172 rfl) rfl
theorem q297 : (Jvm.Cond.fieldLink "WebCourt$Court" (24 : Nat) "WebCourt$Court" "last" "I") ∈ lw_all := lw_g (lw_at lw_m1 174 rfl) rfl
theorem q299 : (Jvm.Cond.fieldLink "WebCourt$Court" (54 : Nat) "WebCourt$Court" "at" "I") ∈ lw_all := lw_g (lw_at lw_m1 176 rfl) rfl
theorem q301 : (Jvm.Cond.fieldLink "WebCourt$Court" (57 : Nat) "WebCourt$Court" "hour" "I") ∈ lw_all := lw_g (lw_at lw_m1 178 rfl) rfl
theorem q303 : (Jvm.Cond.fieldLink "WebCourt$Court" (63 : Nat) "WebCourt$Court" "seed" "I") ∈ lw_all := lw_g (lw_at lw_m1 180 rfl) rfl
theorem q305 : (Jvm.Cond.fieldLink "WebCourt$Court" (64 : Nat) "WebCourt$Court" "sticky" "I") ∈ lw_all := lw_g (lw_at lw_m1 182 rfl) rfl
theorem q307 : (Jvm.Cond.fieldLink "WebCourt$Court" (75 : Nat) "WebCourt$Court" "hasHeard" "Z") ∈ lw_all := lw_g (lw_at lw_m1 184 rfl) rfl
theorem q309 : (Jvm.Cond.laysFinal "WebCourt$Court" "WebCourt$Court" "state" "[I") ∈ lw_all := lw_g (lw_at lw_m1 186 rfl) rfl
theorem q310 : (Jvm.Cond.soleField "WebCourt$Court" "state") ∈ lw_all := lw_g (lw_at lw_m1 187 rfl) rfl
theorem q311 : (Jvm.Cond.laysFinal "WebCourt$Court" "WebCourt$Court" "pleas" "[I") ∈ lw_all := lw_g (lw_at lw_m1 188 rfl) rfl
theorem q312 : (Jvm.Cond.soleField "WebCourt$Court" "pleas") ∈ lw_all := lw_g (lw_at lw_m1 189 rfl) rfl
theorem q313 : (Jvm.Cond.laysFinal "WebCourt$Court" "WebCourt$Court" "before" "[I") ∈ lw_all := lw_g (lw_at lw_m1 190 rfl) rfl
theorem q314 : (Jvm.Cond.soleField "WebCourt$Court" "before") ∈ lw_all := lw_g (lw_at lw_m1 191 rfl) rfl
theorem q315 : (Jvm.Cond.laysFinal "WebCourt$Court" "WebCourt$Court" "stays" "[I") ∈ lw_all := lw_g (lw_at lw_m1 192 rfl) rfl
theorem q316 : (Jvm.Cond.soleField "WebCourt$Court" "stays") ∈ lw_all := lw_g (lw_at lw_m1 193 rfl) rfl
theorem q317 : (Jvm.Cond.lays "WebCourt$Court" "WebCourt$Court" "last" "I") ∈ lw_all := lw_g (lw_at lw_m1 194 rfl) rfl
theorem q318 : (Jvm.Cond.soleField "WebCourt$Court" "last") ∈ lw_all := lw_g (lw_at lw_m1 195 rfl) rfl
theorem q319 : (Jvm.Cond.lays "WebCourt$Court" "WebCourt$Court" "at" "I") ∈ lw_all := lw_g (lw_at lw_m1 196 rfl) rfl
theorem q320 : (Jvm.Cond.soleField "WebCourt$Court" "at") ∈ lw_all := lw_g (lw_at lw_m1 197 rfl) rfl
theorem q321 : (Jvm.Cond.lays "WebCourt$Court" "WebCourt$Court" "hour" "I") ∈ lw_all := lw_g (lw_at lw_m1 198 rfl) rfl
theorem q322 : (Jvm.Cond.soleField "WebCourt$Court" "hour") ∈ lw_all := lw_g (lw_at lw_m1 199 rfl) rfl
theorem q323 : (Jvm.Cond.lays "WebCourt$Court" "WebCourt$Court" "seed" "I") ∈ lw_all := lw_g (lw_at lw_m1 200 rfl) rfl
theorem q324 : (Jvm.Cond.soleField "WebCourt$Court" "seed") ∈ lw_all := lw_g (lw_at lw_m1 201 rfl) rfl
theorem q325 : (Jvm.Cond.lays "WebCourt$Court" "WebCourt$Court" "sticky" "I") ∈ lw_all := lw_g (lw_at lw_m1 202 rfl) rfl
theorem q326 : (Jvm.Cond.soleField "WebCourt$Court" "sticky") ∈ lw_all := lw_g (lw_at lw_m1 203 rfl) rfl
theorem q327 : (Jvm.Cond.lays "WebCourt$Court" "WebCourt$Court" "hasHeard" "Z") ∈ lw_all := lw_g (lw_at lw_m1 204 rfl) rfl
theorem q328 : (Jvm.Cond.soleField "WebCourt$Court" "hasHeard") ∈ lw_all := lw_g (lw_at lw_m1 205 rfl) rfl
theorem q329 : (Jvm.Cond.superclass "WebCourt$Court" "java/lang/Object") ∈ lw_all := lw_g (lw_at lw_m1 206 rfl) rfl
theorem q332 : (Jvm.Cond.instanceMethod ({ cls := "WebCourt$Court", name := "begin", desc := "(LWebCourt$Book;)LWebCourt$Court;" } : Jvm.MethodName)) ∈ lw_all := lw_g (lw_at lw_m1 209 rfl) rfl
theorem q333 : (Jvm.Cond.selects "WebCourt$Court" ({ cls := "WebCourt$Court", name := "begin", desc := "(LWebCourt$Book;)LWebCourt$Court;" } : Jvm.MethodName) ({ cls := "WebCourt$Court", name := "begin", desc := "(LWebCourt$Book;)LWebCourt$Court;" } : Jvm.MethodName)) ∈ lw_all := lw_g (lw_at lw_m1 210 rfl) rfl
theorem q334 : (Jvm.Cond.code ({ cls := "WebCourt$Court", name := "begin", desc := "(LWebCourt$Book;)LWebCourt$Court;" } : Jvm.MethodName) prog_11_method_2_code (3 : Nat) (Option.some (Jvm.ClassFile.FieldType.object "WebCourt$Court"))) ∈ lw_all := lw_g (lw_at lw_m1 211 rfl) rfl
theorem q335 : (Jvm.Cond.methodLink "WebCourt$Court" (34 : Nat) ({ cls := "java/util/ArrayList", name := "size", desc := "()I" } : Jvm.MethodName)) ∈ lw_all := lw_g (lw_at lw_m1 212 rfl) rfl
theorem q339 : (Jvm.Cond.methodLink "WebCourt$Court" (40 : Nat) ({ cls := "java/util/ArrayList", name := "get", desc := "(I)Ljava/lang/Object;" } : Jvm.MethodName)) ∈ lw_all := lw_g (lw_at lw_m1 216 rfl) rfl
theorem q353 : (Jvm.Cond.classLink "WebCourt$Court" (44 : Nat) "WebCourt$Named") ∈ lw_all := lw_g (lw_at lw_m1 230 rfl) rfl
theorem q354 : (Jvm.Cond.classLink "WebCourt$Court" (70 : Nat) "WebCourt$Line") ∈ lw_all := lw_g (lw_at lw_m1 231 rfl) rfl
theorem q897 : (Jvm.Cond.fieldLink "WebCourt$Court" (46 : Nat) "WebCourt$Named" "pleas" "I") ∈ lw_all := lw_g (lw_at lw_m4 54 rfl) rfl
theorem q941 : (Jvm.Cond.selects "WebCourt$Court" ({ cls := "java/lang/Object", name := "getClass", desc := "()Ljava/lang/Class;" } : Jvm.MethodName) ({ cls := "java/lang/Object", name := "getClass", desc := "()Ljava/lang/Class;" } : Jvm.MethodName)) ∈ lw_all := lw_g (lw_at lw_m4 98 rfl) rfl
theorem q1040 : (Jvm.Cond.fieldLink "WebCourt$Court" (72 : Nat) "WebCourt$Line" "sticky" "Z") ∈ lw_all := lw_g (lw_at lw_m4 197 rfl) rfl
theorem q1203 : (Jvm.Cond.instanceMethod ({ cls := "WebCourt$Court", name := "next", desc := "(LWebCourt$Book;IZ)I" } : Jvm.MethodName)) ∈ lw_all := lw_g (lw_at lw_m5 120 rfl) rfl
theorem q1204 : (Jvm.Cond.selects "WebCourt$Court" ({ cls := "WebCourt$Court", name := "next", desc := "(LWebCourt$Book;IZ)I" } : Jvm.MethodName) ({ cls := "WebCourt$Court", name := "next", desc := "(LWebCourt$Book;IZ)I" } : Jvm.MethodName)) ∈ lw_all := lw_g (lw_at lw_m5 121 rfl) rfl
theorem q1205 : (Jvm.Cond.code ({ cls := "WebCourt$Court", name := "next", desc := "(LWebCourt$Book;IZ)I" } : Jvm.MethodName) prog_11_method_6_code (6 : Nat) (Option.some Jvm.ClassFile.FieldType.int)) ∈ lw_all := lw_g (lw_at lw_m5 122 rfl) rfl
theorem q1206 : (Jvm.Cond.methodLink "WebCourt$Court" (84 : Nat) ({ cls := "WebCourt$Court", name := "isSticky", desc := "(I)Z" } : Jvm.MethodName)) ∈ lw_all := lw_g (lw_at lw_m5 123 rfl) rfl
theorem q1207 : (Jvm.Cond.instanceMethod ({ cls := "WebCourt$Court", name := "isSticky", desc := "(I)Z" } : Jvm.MethodName)) ∈ lw_all := lw_g (lw_at lw_m5 124 rfl) rfl
theorem q1208 : (Jvm.Cond.selects "WebCourt$Court" ({ cls := "WebCourt$Court", name := "isSticky", desc := "(I)Z" } : Jvm.MethodName) ({ cls := "WebCourt$Court", name := "isSticky", desc := "(I)Z" } : Jvm.MethodName)) ∈ lw_all := lw_g (lw_at lw_m5 125 rfl) rfl
theorem q1209 : (Jvm.Cond.code ({ cls := "WebCourt$Court", name := "isSticky", desc := "(I)Z" } : Jvm.MethodName) prog_11_method_5_code (2 : Nat) (Option.some Jvm.ClassFile.FieldType.boolean)) ∈ lw_all := lw_g (lw_at lw_m5 126 rfl) rfl
theorem q1210 : (Jvm.Cond.methodLink "WebCourt$Court" (88 : Nat) ({ cls := "WebCourt$Line", name := "from", desc := "(I)I" } : Jvm.MethodName)) ∈ lw_all := lw_g (lw_at lw_m5 127 rfl) rfl
theorem q1212 : (Jvm.Cond.instanceMethod ({ cls := "WebCourt$Court", name := "heldAt", desc := "(LWebCourt$Book;I)I" } : Jvm.MethodName)) ∈ lw_all := lw_g (lw_at lw_m5 129 rfl) rfl
theorem q1213 : (Jvm.Cond.selects "WebCourt$Court" ({ cls := "WebCourt$Court", name := "heldAt", desc := "(LWebCourt$Book;I)I" } : Jvm.MethodName) ({ cls := "WebCourt$Court", name := "heldAt", desc := "(LWebCourt$Book;I)I" } : Jvm.MethodName)) ∈ lw_all := lw_g (lw_at lw_m5 130 rfl) rfl
theorem q1214 : (Jvm.Cond.code ({ cls := "WebCourt$Court", name := "heldAt", desc := "(LWebCourt$Book;I)I" } : Jvm.MethodName) prog_11_method_7_code (5 : Nat) (Option.some Jvm.ClassFile.FieldType.int)) ∈ lw_all := lw_g (lw_at lw_m5 131 rfl) rfl
theorem q1215 : (Jvm.Cond.methodLink "WebCourt$Court" (92 : Nat) ({ cls := "WebCourt$Court", name := "isHeld", desc := "(I)Z" } : Jvm.MethodName)) ∈ lw_all := lw_g (lw_at lw_m5 132 rfl) rfl
theorem q1216 : (Jvm.Cond.instanceMethod ({ cls := "WebCourt$Court", name := "isHeld", desc := "(I)Z" } : Jvm.MethodName)) ∈ lw_all := lw_g (lw_at lw_m5 133 rfl) rfl
theorem q1217 : (Jvm.Cond.selects "WebCourt$Court" ({ cls := "WebCourt$Court", name := "isHeld", desc := "(I)Z" } : Jvm.MethodName) ({ cls := "WebCourt$Court", name := "isHeld", desc := "(I)Z" } : Jvm.MethodName)) ∈ lw_all := lw_g (lw_at lw_m5 134 rfl) rfl
theorem q1218 : (Jvm.Cond.code ({ cls := "WebCourt$Court", name := "isHeld", desc := "(I)Z" } : Jvm.MethodName) prog_11_method_4_code (2 : Nat) (Option.some Jvm.ClassFile.FieldType.boolean)) ∈ lw_all := lw_g (lw_at lw_m5 135 rfl) rfl
theorem q1219 : (Jvm.Cond.methodLink "WebCourt$Court" (95 : Nat) ({ cls := "WebCourt$Book", name := "knot", desc := "(I)I" } : Jvm.MethodName)) ∈ lw_all := lw_g (lw_at lw_m5 136 rfl) rfl
theorem q1251 : (Jvm.Cond.instanceMethod ({ cls := "WebCourt$Court", name := "verdict", desc := "(LWebCourt$Book;I)I" } : Jvm.MethodName)) ∈ lw_all := lw_g (lw_at lw_m5 168 rfl) rfl
theorem q1252 : (Jvm.Cond.selects "WebCourt$Court" ({ cls := "WebCourt$Court", name := "verdict", desc := "(LWebCourt$Book;I)I" } : Jvm.MethodName) ({ cls := "WebCourt$Court", name := "verdict", desc := "(LWebCourt$Book;I)I" } : Jvm.MethodName)) ∈ lw_all := lw_g (lw_at lw_m5 169 rfl) rfl
theorem q1253 : (Jvm.Cond.code ({ cls := "WebCourt$Court", name := "verdict", desc := "(LWebCourt$Book;I)I" } : Jvm.MethodName) prog_11_method_9_code (3 : Nat) (Option.some Jvm.ClassFile.FieldType.int)) ∈ lw_all := lw_g (lw_at lw_m5 170 rfl) rfl
theorem q1254 : (Jvm.Cond.methodLink "WebCourt$Court" (141 : Nat) ({ cls := "WebCourt$Court", name := "verdict", desc := "(LWebCourt$Book;II)I" } : Jvm.MethodName)) ∈ lw_all := lw_g (lw_at lw_m5 171 rfl) rfl
theorem q1255 : (Jvm.Cond.instanceMethod ({ cls := "WebCourt$Court", name := "verdict", desc := "(LWebCourt$Book;II)I" } : Jvm.MethodName)) ∈ lw_all := lw_g (lw_at lw_m5 172 rfl) rfl
theorem q1256 : (Jvm.Cond.selects "WebCourt$Court" ({ cls := "WebCourt$Court", name := "verdict", desc := "(LWebCourt$Book;II)I" } : Jvm.MethodName) ({ cls := "WebCourt$Court", name := "verdict", desc := "(LWebCourt$Book;II)I" } : Jvm.MethodName)) ∈ lw_all := lw_g (lw_at lw_m5 173 rfl) rfl
theorem q1257 : (Jvm.Cond.code ({ cls := "WebCourt$Court", name := "verdict", desc := "(LWebCourt$Book;II)I" } : Jvm.MethodName) prog_11_method_8_code (5 : Nat) (Option.some Jvm.ClassFile.FieldType.int)) ∈ lw_all := lw_g (lw_at lw_m5 174 rfl) rfl
theorem q1258 : (Jvm.Cond.methodLink "WebCourt$Court" (102 : Nat) ({ cls := "WebCourt$Book", name := "strength", desc := "(II)I" } : Jvm.MethodName)) ∈ lw_all := lw_g (lw_at lw_m5 175 rfl) rfl
theorem q1263 : (Jvm.Cond.methodLink "WebCourt$Court" (111 : Nat) ({ cls := "java/lang/Integer", name := "bitCount", desc := "(I)I" } : Jvm.MethodName)) ∈ lw_all := lw_g (lw_at lw_m5 180 rfl) rfl
theorem q1264 : (Jvm.Cond.methodLink "WebCourt$Court" (123 : Nat) ({ cls := "WebCourt$Court", name := "heldAt", desc := "(LWebCourt$Book;I)I" } : Jvm.MethodName)) ∈ lw_all := lw_g (lw_at lw_m5 181 rfl) rfl
theorem q1265 : (Jvm.Cond.interfaceEntry "WebCourt$Court" (135 : Nat)) ∈ lw_tbl := lw_at lw_m5 182 rfl
theorem q1266 : (Jvm.Cond.methodLink "WebCourt$Court" (135 : Nat) ({ cls := "WebCourt$Node", name := "of", desc := "(LWebCourt$Ask;)I" } : Jvm.MethodName)) ∈ lw_all := lw_g (lw_at lw_m5 183 rfl) rfl
theorem q1338 : (Jvm.Cond.instanceMethod ({ cls := "WebCourt$Court", name := "copy", desc := "(LWebCourt$Court;)LWebCourt$Court;" } : Jvm.MethodName)) ∈ lw_all := lw_g (lw_at lw_m6 15 rfl) rfl
theorem q1339 : (Jvm.Cond.selects "WebCourt$Court" ({ cls := "WebCourt$Court", name := "copy", desc := "(LWebCourt$Court;)LWebCourt$Court;" } : Jvm.MethodName) ({ cls := "WebCourt$Court", name := "copy", desc := "(LWebCourt$Court;)LWebCourt$Court;" } : Jvm.MethodName)) ∈ lw_all := lw_g (lw_at lw_m6 16 rfl) rfl
theorem q1340 : (Jvm.Cond.code ({ cls := "WebCourt$Court", name := "copy", desc := "(LWebCourt$Court;)LWebCourt$Court;" } : Jvm.MethodName) prog_11_method_3_code (2 : Nat) (Option.some (Jvm.ClassFile.FieldType.object "WebCourt$Court"))) ∈ lw_all := lw_g (lw_at lw_m6 17 rfl) rfl
theorem q1341 : (Jvm.Cond.methodLink "WebCourt$Court" (78 : Nat) ({ cls := "java/lang/System", name := "arraycopy", desc := "(Ljava/lang/Object;ILjava/lang/Object;II)V" } : Jvm.MethodName)) ∈ lw_all := lw_g (lw_at lw_m6 18 rfl) rfl
theorem q1343 : (Jvm.Cond.instanceMethod ({ cls := "WebCourt$Court", name := "comeBack", desc := "(LWebCourt$Book;)I" } : Jvm.MethodName)) ∈ lw_all := lw_g (lw_at lw_m6 20 rfl) rfl
theorem q1344 : (Jvm.Cond.selects "WebCourt$Court" ({ cls := "WebCourt$Court", name := "comeBack", desc := "(LWebCourt$Book;)I" } : Jvm.MethodName) ({ cls := "WebCourt$Court", name := "comeBack", desc := "(LWebCourt$Book;)I" } : Jvm.MethodName)) ∈ lw_all := lw_g (lw_at lw_m6 21 rfl) rfl
theorem q1345 : (Jvm.Cond.code ({ cls := "WebCourt$Court", name := "comeBack", desc := "(LWebCourt$Book;)I" } : Jvm.MethodName) prog_11_method_11_code (4 : Nat) (Option.some Jvm.ClassFile.FieldType.int)) ∈ lw_all := lw_g (lw_at lw_m6 22 rfl) rfl
theorem q1356 : (Jvm.Cond.instanceMethod ({ cls := "WebCourt$Court", name := "hear", desc := "(LWebCourt$Book;I)I" } : Jvm.MethodName)) ∈ lw_all := lw_g (lw_at lw_m6 33 rfl) rfl
theorem q1357 : (Jvm.Cond.selects "WebCourt$Court" ({ cls := "WebCourt$Court", name := "hear", desc := "(LWebCourt$Book;I)I" } : Jvm.MethodName) ({ cls := "WebCourt$Court", name := "hear", desc := "(LWebCourt$Book;I)I" } : Jvm.MethodName)) ∈ lw_all := lw_g (lw_at lw_m6 34 rfl) rfl
theorem q1358 : (Jvm.Cond.code ({ cls := "WebCourt$Court", name := "hear", desc := "(LWebCourt$Book;I)I" } : Jvm.MethodName) prog_11_method_10_code (4 : Nat) (Option.some Jvm.ClassFile.FieldType.int)) ∈ lw_all := lw_g (lw_at lw_m6 35 rfl) rfl
theorem q1359 : (Jvm.Cond.methodLink "WebCourt$Court" (145 : Nat) ({ cls := "WebCourt$Court", name := "verdict", desc := "(LWebCourt$Book;I)I" } : Jvm.MethodName)) ∈ lw_all := lw_g (lw_at lw_m6 36 rfl) rfl
theorem q1360 : (Jvm.Cond.methodLink "WebCourt$Court" (147 : Nat) ({ cls := "java/lang/Math", name := "min", desc := "(II)I" } : Jvm.MethodName)) ∈ lw_all := lw_g (lw_at lw_m6 37 rfl) rfl
theorem q1383 : (Jvm.Cond.instanceMethod ({ cls := "WebCourt$Court", name := "held", desc := "(LWebCourt$Book;)I" } : Jvm.MethodName)) ∈ lw_all := lw_g (lw_at lw_m6 60 rfl) rfl
theorem q1384 : (Jvm.Cond.selects "WebCourt$Court" ({ cls := "WebCourt$Court", name := "held", desc := "(LWebCourt$Book;)I" } : Jvm.MethodName) ({ cls := "WebCourt$Court", name := "held", desc := "(LWebCourt$Book;)I" } : Jvm.MethodName)) ∈ lw_all := lw_g (lw_at lw_m6 61 rfl) rfl
theorem q1385 : (Jvm.Cond.code ({ cls := "WebCourt$Court", name := "held", desc := "(LWebCourt$Book;)I" } : Jvm.MethodName) prog_11_method_12_code (4 : Nat) (Option.some Jvm.ClassFile.FieldType.int)) ∈ lw_all := lw_g (lw_at lw_m6 62 rfl) rfl
theorem q2338 : (Jvm.Cond.castable "WebCourt$Court" "java/lang/Object") ∈ lw_tbl := lw_at lw_m10 55 rfl
theorem in_X3 : ∀ w ∈ wsX30, w ∈ lw_all := lw_in wsX30 [309, 311, 313, 315, 317, 319, 321, 323, 325, 327] (by decide +kernel) (by decide +kernel)
/-! WebCourt$Wrong -/
set_option maxRecDepth 100000
def RX6 : String := "WebCourt$Wrong"
def TX6 : u_T := fun k => match k with
  | 0 => ("java/lang/Throwable", "cause", "Ljava/lang/Throwable;", false)
  | 1 => ("java/lang/Throwable", "stackTrace", "[Ljava/lang/StackTraceElement;", false)
  | 2 => ("java/lang/Throwable", "suppressedExceptions", "Ljava/util/List;", false)
  | 3 => ("java/lang/Throwable", "detailMessage", "Ljava/lang/String;", false)
  | 4 => ("java/lang/Throwable", "backtrace", "Ljava/lang/Object;", false)
  | 5 => ("java/lang/Throwable", "depth", "I", false)
  | 6 => ("WebCourt$Wrong", "kind", "I", true)
  | _ => ("WebCourt$Wrong", "place", "I", true)
def tyX6 : Nat → FieldType := fun k => match k with
  | 0 => .object "java/lang/Throwable"
  | 1 => .array (.object "java/lang/StackTraceElement")
  | 2 => .object "java/util/List"
  | 3 => .object "java/lang/String"
  | 4 => .object "java/lang/Object"
  | 5 => .int
  | 6 => .int
  | _ => .int
abbrev wsX60 : List Cond := u_ws RX6 TX6 8
theorem nmX6 : ∀ a, a < 8 → ∀ b, b < 8 → a ≠ b → (TX6 a).2.1 ≠ (TX6 b).2.1 := by decide +kernel
theorem tyX6_ok : ∀ k, k < 8 → parseFieldDescriptor (TX6 k).2.2.1 = some (tyX6 k) := by decide +kernel
abbrev cX6_init : ByteArray := prog_20_method_1_code
def yX6_init : MethodName := ⟨RX6, "<init>", "(II)V"⟩
def dkwX6_init_0 : List UInt8 := [42, 1, 1, 3, 3, 183, 0, 1, 42, 27, 181, 0, 7, 42, 28, 181, 0, 13, 177]
abbrev dktX6_init_0 : List UInt8 := dkwX6_init_0 ++ []
theorem dksX6_init_0 : cX6_init.data.toList.drop 0 = dktX6_init_0 := by decide +kernel
theorem dX6_init_0 : decode cX6_init 0 = .ok (.aload_n 0, 1) := dk_42 (dk_at dksX6_init_0 0 rfl rfl)
theorem dX6_init_1 : decode cX6_init 1 = .ok (.aconst_null, 1) := dk_1 (dk_at dksX6_init_0 1 rfl rfl)
theorem dX6_init_2 : decode cX6_init 2 = .ok (.aconst_null, 1) := dk_1 (dk_at dksX6_init_0 2 rfl rfl)
theorem dX6_init_3 : decode cX6_init 3 = .ok (.iconst 0, 1) := dk_3 (dk_at dksX6_init_0 3 rfl rfl)
theorem dX6_init_4 : decode cX6_init 4 = .ok (.iconst 0, 1) := dk_3 (dk_at dksX6_init_0 4 rfl rfl)
theorem dX6_init_5 : decode cX6_init 5 = .ok (.invokespecial 1, 3) := dk_183 0 1 (dk_at dksX6_init_0 5 rfl rfl)
theorem dX6_init_8 : decode cX6_init 8 = .ok (.aload_n 0, 1) := dk_42 (dk_at dksX6_init_0 8 rfl rfl)
theorem dX6_init_9 : decode cX6_init 9 = .ok (.iload_n 1, 1) := dk_27 (dk_at dksX6_init_0 9 rfl rfl)
theorem dX6_init_10 : decode cX6_init 10 = .ok (.putfield 7, 3) := dk_181 0 7 (dk_at dksX6_init_0 10 rfl rfl)
theorem dX6_init_13 : decode cX6_init 13 = .ok (.aload_n 0, 1) := dk_42 (dk_at dksX6_init_0 13 rfl rfl)
theorem dX6_init_14 : decode cX6_init 14 = .ok (.iload_n 2, 1) := dk_28 (dk_at dksX6_init_0 14 rfl rfl)
theorem dX6_init_15 : decode cX6_init 15 = .ok (.putfield 13, 3) := dk_181 0 13 (dk_at dksX6_init_0 15 rfl rfl)
theorem dX6_init_18 : decode cX6_init 18 = .ok (.return_, 1) := dk_177 (dk_at dksX6_init_0 18 rfl rfl)
theorem q146 : (Jvm.Cond.initialized "WebCourt$Wrong") ∈ lw_all := lw_g (lw_at lw_m1 23 rfl) rfl
theorem q813 : (Jvm.Cond.instantiable "WebCourt$Wrong" (8 : Nat)) ∈ lw_all := lw_g (lw_at lw_m3 210 rfl) rfl
theorem q814 : (Jvm.Cond.castable "WebCourt$Wrong" "WebCourt$Wrong") ∈ lw_tbl := lw_at lw_m3 211 rfl
theorem q819 : (Jvm.Cond.selects "WebCourt$Wrong" ({ cls := "java/lang/Throwable", name := "fillInStackTrace", desc := "(I)Ljava/lang/Throwable;" } : Jvm.MethodName) ({ cls := "java/lang/Throwable", name := "fillInStackTrace", desc := "(I)Ljava/lang/Throwable;" } : Jvm.MethodName)) ∈ lw_all := lw_g (lw_at lw_m3 216 rfl) rfl
theorem q820 : (Jvm.Cond.selects "WebCourt$Wrong" ({ cls := "java/lang/Throwable", name := "fillInStackTrace", desc := "()Ljava/lang/Throwable;" } : Jvm.MethodName) ({ cls := "java/lang/Throwable", name := "fillInStackTrace", desc := "()Ljava/lang/Throwable;" } : Jvm.MethodName)) ∈ lw_all := lw_g (lw_at lw_m3 217 rfl) rfl
theorem q821 : (Jvm.Cond.lays "WebCourt$Wrong" "java/lang/Throwable" "cause" "Ljava/lang/Throwable;") ∈ lw_all := lw_g (lw_at lw_m3 218 rfl) rfl
theorem q823 : (Jvm.Cond.lays "WebCourt$Wrong" "java/lang/Throwable" "stackTrace" "[Ljava/lang/StackTraceElement;") ∈ lw_all := lw_g (lw_at lw_m3 220 rfl) rfl
theorem q825 : (Jvm.Cond.lays "WebCourt$Wrong" "java/lang/Throwable" "suppressedExceptions" "Ljava/util/List;") ∈ lw_all := lw_g (lw_at lw_m3 222 rfl) rfl
theorem q827 : (Jvm.Cond.lays "WebCourt$Wrong" "java/lang/Throwable" "detailMessage" "Ljava/lang/String;") ∈ lw_all := lw_g (lw_at lw_m3 224 rfl) rfl
theorem q829 : (Jvm.Cond.lays "WebCourt$Wrong" "java/lang/Throwable" "backtrace" "Ljava/lang/Object;") ∈ lw_all := lw_g (lw_at lw_m3 226 rfl) rfl
theorem q850 : (Jvm.Cond.instanceMethod ({ cls := "WebCourt$Wrong", name := "<init>", desc := "(II)V" } : Jvm.MethodName)) ∈ lw_all := lw_g (lw_at lw_m4 7 rfl) rfl
theorem q851 : (Jvm.Cond.code ({ cls := "WebCourt$Wrong", name := "<init>", desc := "(II)V" } : Jvm.MethodName) prog_20_method_1_code (3 : Nat) (Option.none : Option Jvm.ClassFile.FieldType)) ∈ lw_all := lw_g (lw_at lw_m4 8 rfl) rfl
theorem q852 : (Jvm.Cond.methodLink "WebCourt$Wrong" (1 : Nat) ({ cls := "java/lang/Exception", name := "<init>", desc := "(Ljava/lang/String;Ljava/lang/Throwable;ZZ)V" } : Jvm.MethodName)) ∈ lw_all := lw_g (lw_at lw_m4 9 rfl) rfl
theorem q858 : (Jvm.Cond.fieldLink "WebCourt$Wrong" (7 : Nat) "WebCourt$Wrong" "kind" "I") ∈ lw_all := lw_g (lw_at lw_m4 15 rfl) rfl
theorem q860 : (Jvm.Cond.fieldLink "WebCourt$Wrong" (13 : Nat) "WebCourt$Wrong" "place" "I") ∈ lw_all := lw_g (lw_at lw_m4 17 rfl) rfl
theorem q867 : (Jvm.Cond.laysFinal "WebCourt$Wrong" "WebCourt$Wrong" "kind" "I") ∈ lw_all := lw_g (lw_at lw_m4 24 rfl) rfl
theorem q868 : (Jvm.Cond.soleField "WebCourt$Wrong" "kind") ∈ lw_all := lw_g (lw_at lw_m4 25 rfl) rfl
theorem q869 : (Jvm.Cond.laysFinal "WebCourt$Wrong" "WebCourt$Wrong" "place" "I") ∈ lw_all := lw_g (lw_at lw_m4 26 rfl) rfl
theorem q870 : (Jvm.Cond.soleField "WebCourt$Wrong" "place") ∈ lw_all := lw_g (lw_at lw_m4 27 rfl) rfl
theorem q875 : (Jvm.Cond.lays "WebCourt$Wrong" "java/lang/Throwable" "depth" "I") ∈ lw_all := lw_g (lw_at lw_m4 32 rfl) rfl
theorem q878 : (Jvm.Cond.superclass "WebCourt$Wrong" "java/lang/Exception") ∈ lw_all := lw_g (lw_at lw_m4 35 rfl) rfl
theorem q949 : (Jvm.Cond.selects "WebCourt$Wrong" ({ cls := "java/lang/Object", name := "getClass", desc := "()Ljava/lang/Class;" } : Jvm.MethodName) ({ cls := "java/lang/Object", name := "getClass", desc := "()Ljava/lang/Class;" } : Jvm.MethodName)) ∈ lw_all := lw_g (lw_at lw_m4 106 rfl) rfl
theorem q2348 : (Jvm.Cond.castable "WebCourt$Wrong" "java/lang/Object") ∈ lw_tbl := lw_at lw_m10 65 rfl
theorem in_X6 : ∀ w ∈ wsX60, w ∈ lw_all := lw_in wsX60 [821, 823, 825, 827, 829, 875, 867, 869] (by decide +kernel) (by decide +kernel)
/-! WebCourt$Named -/
set_option maxRecDepth 100000
def RX7 : String := "WebCourt$Named"
def TX7 : u_T := fun k => match k with
  | 0 => ("WebCourt$Named", "name", "Ljava/lang/String;", true)
  | 1 => ("WebCourt$Named", "number", "I", false)
  | _ => ("WebCourt$Named", "pleas", "I", false)
def tyX7 : Nat → FieldType := fun k => match k with
  | 0 => .object "java/lang/String"
  | 1 => .int
  | _ => .int
abbrev wsX70 : List Cond := u_ws RX7 TX7 3
theorem nmX7 : ∀ a, a < 3 → ∀ b, b < 3 → a ≠ b → (TX7 a).2.1 ≠ (TX7 b).2.1 := by decide +kernel
theorem tyX7_ok : ∀ k, k < 3 → parseFieldDescriptor (TX7 k).2.2.1 = some (tyX7 k) := by decide +kernel
abbrev cX7_init : ByteArray := prog_14_method_1_code
def yX7_init : MethodName := ⟨RX7, "<init>", "(Ljava/lang/String;)V"⟩
def dkwX7_init_0 : List UInt8 := [42, 183, 0, 1, 42, 43, 181, 0, 7, 177]
abbrev dktX7_init_0 : List UInt8 := dkwX7_init_0 ++ []
theorem dksX7_init_0 : cX7_init.data.toList.drop 0 = dktX7_init_0 := by decide +kernel
theorem dX7_init_0 : decode cX7_init 0 = .ok (.aload_n 0, 1) := dk_42 (dk_at dksX7_init_0 0 rfl rfl)
theorem dX7_init_1 : decode cX7_init 1 = .ok (.invokespecial 1, 3) := dk_183 0 1 (dk_at dksX7_init_0 1 rfl rfl)
theorem dX7_init_4 : decode cX7_init 4 = .ok (.aload_n 0, 1) := dk_42 (dk_at dksX7_init_0 4 rfl rfl)
theorem dX7_init_5 : decode cX7_init 5 = .ok (.aload_n 1, 1) := dk_43 (dk_at dksX7_init_0 5 rfl rfl)
theorem dX7_init_6 : decode cX7_init 6 = .ok (.putfield 7, 3) := dk_181 0 7 (dk_at dksX7_init_0 6 rfl rfl)
theorem dX7_init_9 : decode cX7_init 9 = .ok (.return_, 1) := dk_177 (dk_at dksX7_init_0 9 rfl rfl)
theorem q147 : (Jvm.Cond.initialized "WebCourt$Named") ∈ lw_all := lw_g (lw_at lw_m1 24 rfl) rfl
theorem q887 : (Jvm.Cond.instantiable "WebCourt$Named" (3 : Nat)) ∈ lw_all := lw_g (lw_at lw_m4 44 rfl) rfl
theorem q889 : (Jvm.Cond.instanceMethod ({ cls := "WebCourt$Named", name := "<init>", desc := "(Ljava/lang/String;)V" } : Jvm.MethodName)) ∈ lw_all := lw_g (lw_at lw_m4 46 rfl) rfl
theorem q890 : (Jvm.Cond.code ({ cls := "WebCourt$Named", name := "<init>", desc := "(Ljava/lang/String;)V" } : Jvm.MethodName) prog_14_method_1_code (2 : Nat) (Option.none : Option Jvm.ClassFile.FieldType)) ∈ lw_all := lw_g (lw_at lw_m4 47 rfl) rfl
theorem q891 : (Jvm.Cond.methodLink "WebCourt$Named" (1 : Nat) ({ cls := "java/lang/Object", name := "<init>", desc := "()V" } : Jvm.MethodName)) ∈ lw_all := lw_g (lw_at lw_m4 48 rfl) rfl
theorem q892 : (Jvm.Cond.fieldLink "WebCourt$Named" (7 : Nat) "WebCourt$Named" "name" "Ljava/lang/String;") ∈ lw_all := lw_g (lw_at lw_m4 49 rfl) rfl
theorem q900 : (Jvm.Cond.laysFinal "WebCourt$Named" "WebCourt$Named" "name" "Ljava/lang/String;") ∈ lw_all := lw_g (lw_at lw_m4 57 rfl) rfl
theorem q901 : (Jvm.Cond.soleField "WebCourt$Named" "name") ∈ lw_all := lw_g (lw_at lw_m4 58 rfl) rfl
theorem q902 : (Jvm.Cond.lays "WebCourt$Named" "WebCourt$Named" "number" "I") ∈ lw_all := lw_g (lw_at lw_m4 59 rfl) rfl
theorem q903 : (Jvm.Cond.soleField "WebCourt$Named" "number") ∈ lw_all := lw_g (lw_at lw_m4 60 rfl) rfl
theorem q904 : (Jvm.Cond.lays "WebCourt$Named" "WebCourt$Named" "pleas" "I") ∈ lw_all := lw_g (lw_at lw_m4 61 rfl) rfl
theorem q905 : (Jvm.Cond.soleField "WebCourt$Named" "pleas") ∈ lw_all := lw_g (lw_at lw_m4 62 rfl) rfl
theorem q906 : (Jvm.Cond.superclass "WebCourt$Named" "java/lang/Object") ∈ lw_all := lw_g (lw_at lw_m4 63 rfl) rfl
theorem q944 : (Jvm.Cond.selects "WebCourt$Named" ({ cls := "java/lang/Object", name := "getClass", desc := "()Ljava/lang/Class;" } : Jvm.MethodName) ({ cls := "java/lang/Object", name := "getClass", desc := "()Ljava/lang/Class;" } : Jvm.MethodName)) ∈ lw_all := lw_g (lw_at lw_m4 101 rfl) rfl
theorem q2349 : (Jvm.Cond.castable "WebCourt$Named" "java/lang/Object") ∈ lw_tbl := lw_at lw_m10 66 rfl
theorem in_X7 : ∀ w ∈ wsX70, w ∈ lw_all := lw_in wsX70 [900, 902, 904] (by decide +kernel) (by decide +kernel)
/-! WebCourt$Line -/
set_option maxRecDepth 100000
def RX8 : String := "WebCourt$Line"
def TX8 : u_T := fun k => match k with
  | 0 => ("WebCourt$Line", "one", "I", true)
  | 1 => ("WebCourt$Line", "two", "I", true)
  | _ => ("WebCourt$Line", "sticky", "Z", false)
def tyX8 : Nat → FieldType := fun k => match k with
  | 0 => .int
  | 1 => .int
  | _ => .boolean
abbrev wsX80 : List Cond := u_ws RX8 TX8 3
theorem nmX8 : ∀ a, a < 3 → ∀ b, b < 3 → a ≠ b → (TX8 a).2.1 ≠ (TX8 b).2.1 := by decide +kernel
theorem tyX8_ok : ∀ k, k < 3 → parseFieldDescriptor (TX8 k).2.2.1 = some (tyX8 k) := by decide +kernel
abbrev cX8_from : ByteArray := prog_13_method_2_code
def yX8_from : MethodName := ⟨RX8, "from", "(I)I"⟩
def dkwX8_from_1 : List UInt8 := [180, 0, 9, 167, 0, 4, 2, 172]
abbrev dktX8_from_1 : List UInt8 := dkwX8_from_1 ++ []
def dkwX8_from_0 : List UInt8 := [27, 42, 180, 0, 9, 160, 0, 10, 42, 180, 0, 15, 167, 0, 19, 27, 42, 180, 0, 15, 160, 0, 10, 42]
abbrev dktX8_from_0 : List UInt8 := dkwX8_from_0 ++ dktX8_from_1
theorem dksX8_from_0 : cX8_from.data.toList.drop 0 = dktX8_from_0 := by decide +kernel
theorem dksX8_from_1 : cX8_from.data.toList.drop 24 = dktX8_from_1 := dk_seg dksX8_from_0 24 rfl rfl
theorem dX8_from_0 : decode cX8_from 0 = .ok (.iload_n 1, 1) := dk_27 (dk_at dksX8_from_0 0 rfl rfl)
theorem dX8_from_1 : decode cX8_from 1 = .ok (.aload_n 0, 1) := dk_42 (dk_at dksX8_from_0 1 rfl rfl)
theorem dX8_from_2 : decode cX8_from 2 = .ok (.getfield 9, 3) := dk_180 0 9 (dk_at dksX8_from_0 2 rfl rfl)
theorem dX8_from_5 : decode cX8_from 5 = .ok (.if_icmp .ne 10, 3) := dk_160 0 10 (dk_at dksX8_from_0 5 rfl rfl)
theorem dX8_from_8 : decode cX8_from 8 = .ok (.aload_n 0, 1) := dk_42 (dk_at dksX8_from_0 8 rfl rfl)
theorem dX8_from_9 : decode cX8_from 9 = .ok (.getfield 15, 3) := dk_180 0 15 (dk_at dksX8_from_0 9 rfl rfl)
theorem dX8_from_12 : decode cX8_from 12 = .ok (.goto 19, 3) := dk_167 0 19 (dk_at dksX8_from_0 12 rfl rfl)
theorem dX8_from_15 : decode cX8_from 15 = .ok (.iload_n 1, 1) := dk_27 (dk_at dksX8_from_0 15 rfl rfl)
theorem dX8_from_16 : decode cX8_from 16 = .ok (.aload_n 0, 1) := dk_42 (dk_at dksX8_from_0 16 rfl rfl)
theorem dX8_from_17 : decode cX8_from 17 = .ok (.getfield 15, 3) := dk_180 0 15 (dk_at dksX8_from_0 17 rfl rfl)
theorem dX8_from_20 : decode cX8_from 20 = .ok (.if_icmp .ne 10, 3) := dk_160 0 10 (dk_at dksX8_from_0 20 rfl rfl)
theorem dX8_from_23 : decode cX8_from 23 = .ok (.aload_n 0, 1) := dk_42 (dk_at dksX8_from_0 23 rfl rfl)
theorem dX8_from_24 : decode cX8_from 24 = .ok (.getfield 9, 3) := dk_180 0 9 (dk_at dksX8_from_1 0 rfl rfl)
theorem dX8_from_27 : decode cX8_from 27 = .ok (.goto 4, 3) := dk_167 0 4 (dk_at dksX8_from_1 3 rfl rfl)
theorem dX8_from_30 : decode cX8_from 30 = .ok (.iconst (-1), 1) := dk_2 (dk_at dksX8_from_1 6 rfl rfl)
theorem dX8_from_31 : decode cX8_from 31 = .ok (.ireturn, 1) := dk_172 (dk_at dksX8_from_1 7 rfl rfl)
abbrev cX8_init : ByteArray := prog_13_method_1_code
def yX8_init : MethodName := ⟨RX8, "<init>", "(II)V"⟩
def dkwX8_init_0 : List UInt8 := [42, 183, 0, 3, 42, 27, 181, 0, 9, 42, 28, 181, 0, 15, 177]
abbrev dktX8_init_0 : List UInt8 := dkwX8_init_0 ++ []
theorem dksX8_init_0 : cX8_init.data.toList.drop 0 = dktX8_init_0 := by decide +kernel
theorem dX8_init_0 : decode cX8_init 0 = .ok (.aload_n 0, 1) := dk_42 (dk_at dksX8_init_0 0 rfl rfl)
theorem dX8_init_1 : decode cX8_init 1 = .ok (.invokespecial 3, 3) := dk_183 0 3 (dk_at dksX8_init_0 1 rfl rfl)
theorem dX8_init_4 : decode cX8_init 4 = .ok (.aload_n 0, 1) := dk_42 (dk_at dksX8_init_0 4 rfl rfl)
theorem dX8_init_5 : decode cX8_init 5 = .ok (.iload_n 1, 1) := dk_27 (dk_at dksX8_init_0 5 rfl rfl)
theorem dX8_init_6 : decode cX8_init 6 = .ok (.putfield 9, 3) := dk_181 0 9 (dk_at dksX8_init_0 6 rfl rfl)
theorem dX8_init_9 : decode cX8_init 9 = .ok (.aload_n 0, 1) := dk_42 (dk_at dksX8_init_0 9 rfl rfl)
theorem dX8_init_10 : decode cX8_init 10 = .ok (.iload_n 2, 1) := dk_28 (dk_at dksX8_init_0 10 rfl rfl)
theorem dX8_init_11 : decode cX8_init 11 = .ok (.putfield 15, 3) := dk_181 0 15 (dk_at dksX8_init_0 11 rfl rfl)
theorem dX8_init_14 : decode cX8_init 14 = .ok (.return_, 1) := dk_177 (dk_at dksX8_init_0 14 rfl rfl)
theorem q149 : (Jvm.Cond.initialized "WebCourt$Line") ∈ lw_all := lw_g (lw_at lw_m1 26 rfl) rfl
theorem q943 : (Jvm.Cond.selects "WebCourt$Line" ({ cls := "java/lang/Object", name := "getClass", desc := "()Ljava/lang/Class;" } : Jvm.MethodName) ({ cls := "java/lang/Object", name := "getClass", desc := "()Ljava/lang/Class;" } : Jvm.MethodName)) ∈ lw_all := lw_g (lw_at lw_m4 100 rfl) rfl
theorem q1027 : (Jvm.Cond.instanceMethod ({ cls := "WebCourt$Line", name := "from", desc := "(I)I" } : Jvm.MethodName)) ∈ lw_all := lw_g (lw_at lw_m4 184 rfl) rfl
theorem q1028 : (Jvm.Cond.selects "WebCourt$Line" ({ cls := "WebCourt$Line", name := "from", desc := "(I)I" } : Jvm.MethodName) ({ cls := "WebCourt$Line", name := "from", desc := "(I)I" } : Jvm.MethodName)) ∈ lw_all := lw_g (lw_at lw_m4 185 rfl) rfl
theorem q1029 : (Jvm.Cond.code ({ cls := "WebCourt$Line", name := "from", desc := "(I)I" } : Jvm.MethodName) prog_13_method_2_code (2 : Nat) (Option.some Jvm.ClassFile.FieldType.int)) ∈ lw_all := lw_g (lw_at lw_m4 186 rfl) rfl
theorem q1031 : (Jvm.Cond.instantiable "WebCourt$Line" (3 : Nat)) ∈ lw_all := lw_g (lw_at lw_m4 188 rfl) rfl
theorem q1033 : (Jvm.Cond.instanceMethod ({ cls := "WebCourt$Line", name := "<init>", desc := "(II)V" } : Jvm.MethodName)) ∈ lw_all := lw_g (lw_at lw_m4 190 rfl) rfl
theorem q1034 : (Jvm.Cond.code ({ cls := "WebCourt$Line", name := "<init>", desc := "(II)V" } : Jvm.MethodName) prog_13_method_1_code (3 : Nat) (Option.none : Option Jvm.ClassFile.FieldType)) ∈ lw_all := lw_g (lw_at lw_m4 191 rfl) rfl
theorem q1035 : (Jvm.Cond.methodLink "WebCourt$Line" (3 : Nat) ({ cls := "java/lang/Object", name := "<init>", desc := "()V" } : Jvm.MethodName)) ∈ lw_all := lw_g (lw_at lw_m4 192 rfl) rfl
theorem q1036 : (Jvm.Cond.fieldLink "WebCourt$Line" (9 : Nat) "WebCourt$Line" "one" "I") ∈ lw_all := lw_g (lw_at lw_m4 193 rfl) rfl
theorem q1038 : (Jvm.Cond.fieldLink "WebCourt$Line" (15 : Nat) "WebCourt$Line" "two" "I") ∈ lw_all := lw_g (lw_at lw_m4 195 rfl) rfl
theorem q1042 : (Jvm.Cond.laysFinal "WebCourt$Line" "WebCourt$Line" "one" "I") ∈ lw_all := lw_g (lw_at lw_m4 199 rfl) rfl
theorem q1043 : (Jvm.Cond.soleField "WebCourt$Line" "one") ∈ lw_all := lw_g (lw_at lw_m4 200 rfl) rfl
theorem q1044 : (Jvm.Cond.laysFinal "WebCourt$Line" "WebCourt$Line" "two" "I") ∈ lw_all := lw_g (lw_at lw_m4 201 rfl) rfl
theorem q1045 : (Jvm.Cond.soleField "WebCourt$Line" "two") ∈ lw_all := lw_g (lw_at lw_m4 202 rfl) rfl
theorem q1046 : (Jvm.Cond.lays "WebCourt$Line" "WebCourt$Line" "sticky" "Z") ∈ lw_all := lw_g (lw_at lw_m4 203 rfl) rfl
theorem q1047 : (Jvm.Cond.soleField "WebCourt$Line" "sticky") ∈ lw_all := lw_g (lw_at lw_m4 204 rfl) rfl
theorem q1048 : (Jvm.Cond.superclass "WebCourt$Line" "java/lang/Object") ∈ lw_all := lw_g (lw_at lw_m4 205 rfl) rfl
theorem q2351 : (Jvm.Cond.castable "WebCourt$Line" "java/lang/Object") ∈ lw_tbl := lw_at lw_m10 68 rfl
theorem in_X8 : ∀ w ∈ wsX80, w ∈ lw_all := lw_in wsX80 [1042, 1044, 1046] (by decide +kernel) (by decide +kernel)
/-! WebCourt$Not -/
set_option maxRecDepth 100000
def RX9 : String := "WebCourt$Not"
def TX9 : u_T := fun k => match k with
  | _ => ("WebCourt$Not", "n", "LWebCourt$Node;", true)
def tyX9 : Nat → FieldType := fun k => match k with
  | _ => .object "WebCourt$Node"
abbrev wsX90 : List Cond := u_ws RX9 TX9 1
theorem nmX9 : ∀ a, a < 1 → ∀ b, b < 1 → a ≠ b → (TX9 a).2.1 ≠ (TX9 b).2.1 := by decide +kernel
theorem tyX9_ok : ∀ k, k < 1 → parseFieldDescriptor (TX9 k).2.2.1 = some (tyX9 k) := by decide +kernel
abbrev cX9_init : ByteArray := prog_16_method_1_code
def yX9_init : MethodName := ⟨RX9, "<init>", "(LWebCourt$Node;)V"⟩
def dkwX9_init_0 : List UInt8 := [42, 183, 0, 1, 42, 43, 181, 0, 7, 177]
abbrev dktX9_init_0 : List UInt8 := dkwX9_init_0 ++ []
theorem dksX9_init_0 : cX9_init.data.toList.drop 0 = dktX9_init_0 := by decide +kernel
theorem dX9_init_0 : decode cX9_init 0 = .ok (.aload_n 0, 1) := dk_42 (dk_at dksX9_init_0 0 rfl rfl)
theorem dX9_init_1 : decode cX9_init 1 = .ok (.invokespecial 1, 3) := dk_183 0 1 (dk_at dksX9_init_0 1 rfl rfl)
theorem dX9_init_4 : decode cX9_init 4 = .ok (.aload_n 0, 1) := dk_42 (dk_at dksX9_init_0 4 rfl rfl)
theorem dX9_init_5 : decode cX9_init 5 = .ok (.aload_n 1, 1) := dk_43 (dk_at dksX9_init_0 5 rfl rfl)
theorem dX9_init_6 : decode cX9_init 6 = .ok (.putfield 7, 3) := dk_181 0 7 (dk_at dksX9_init_0 6 rfl rfl)
theorem dX9_init_9 : decode cX9_init 9 = .ok (.return_, 1) := dk_177 (dk_at dksX9_init_0 9 rfl rfl)
abbrev cX9_of : ByteArray := prog_16_method_2_code
def yX9_of : MethodName := ⟨RX9, "of", "(LWebCourt$Ask;)I"⟩
def dkwX9_of_0 : List UInt8 := [42, 180, 0, 7, 43, 185, 0, 13, 2, 0, 154, 0, 7, 4, 167, 0, 4, 3, 172]
abbrev dktX9_of_0 : List UInt8 := dkwX9_of_0 ++ []
theorem dksX9_of_0 : cX9_of.data.toList.drop 0 = dktX9_of_0 := by decide +kernel
theorem dX9_of_0 : decode cX9_of 0 = .ok (.aload_n 0, 1) := dk_42 (dk_at dksX9_of_0 0 rfl rfl)
theorem dX9_of_1 : decode cX9_of 1 = .ok (.getfield 7, 3) := dk_180 0 7 (dk_at dksX9_of_0 1 rfl rfl)
theorem dX9_of_4 : decode cX9_of 4 = .ok (.aload_n 1, 1) := dk_43 (dk_at dksX9_of_0 4 rfl rfl)
theorem dX9_of_5 : decode cX9_of 5 = .ok (.invokeinterface 13 2, 5) := by decide +kernel
theorem dX9_of_10 : decode cX9_of 10 = .ok (.ifCond .ne 7, 3) := dk_154 0 7 (dk_at dksX9_of_0 10 rfl rfl)
theorem dX9_of_13 : decode cX9_of 13 = .ok (.iconst 1, 1) := dk_4 (dk_at dksX9_of_0 13 rfl rfl)
theorem dX9_of_14 : decode cX9_of 14 = .ok (.goto 4, 3) := dk_167 0 4 (dk_at dksX9_of_0 14 rfl rfl)
theorem dX9_of_17 : decode cX9_of 17 = .ok (.iconst 0, 1) := dk_3 (dk_at dksX9_of_0 17 rfl rfl)
theorem dX9_of_18 : decode cX9_of 18 = .ok (.ireturn, 1) := dk_172 (dk_at dksX9_of_0 18 rfl rfl)
theorem q151 : (Jvm.Cond.initialized "WebCourt$Not") ∈ lw_all := lw_g (lw_at lw_m1 28 rfl) rfl
theorem q945 : (Jvm.Cond.selects "WebCourt$Not" ({ cls := "java/lang/Object", name := "getClass", desc := "()Ljava/lang/Class;" } : Jvm.MethodName) ({ cls := "java/lang/Object", name := "getClass", desc := "()Ljava/lang/Class;" } : Jvm.MethodName)) ∈ lw_all := lw_g (lw_at lw_m4 102 rfl) rfl
theorem q1104 : (Jvm.Cond.instantiable "WebCourt$Not" (1 : Nat)) ∈ lw_all := lw_g (lw_at lw_m5 21 rfl) rfl
theorem q1106 : (Jvm.Cond.instanceMethod ({ cls := "WebCourt$Not", name := "<init>", desc := "(LWebCourt$Node;)V" } : Jvm.MethodName)) ∈ lw_all := lw_g (lw_at lw_m5 23 rfl) rfl
theorem q1107 : (Jvm.Cond.code ({ cls := "WebCourt$Not", name := "<init>", desc := "(LWebCourt$Node;)V" } : Jvm.MethodName) prog_16_method_1_code (2 : Nat) (Option.none : Option Jvm.ClassFile.FieldType)) ∈ lw_all := lw_g (lw_at lw_m5 24 rfl) rfl
theorem q1108 : (Jvm.Cond.methodLink "WebCourt$Not" (1 : Nat) ({ cls := "java/lang/Object", name := "<init>", desc := "()V" } : Jvm.MethodName)) ∈ lw_all := lw_g (lw_at lw_m5 25 rfl) rfl
theorem q1109 : (Jvm.Cond.fieldLink "WebCourt$Not" (7 : Nat) "WebCourt$Not" "n" "LWebCourt$Node;") ∈ lw_all := lw_g (lw_at lw_m5 26 rfl) rfl
theorem q1110 : (Jvm.Cond.laysFinal "WebCourt$Not" "WebCourt$Not" "n" "LWebCourt$Node;") ∈ lw_all := lw_g (lw_at lw_m5 27 rfl) rfl
theorem q1111 : (Jvm.Cond.soleField "WebCourt$Not" "n") ∈ lw_all := lw_g (lw_at lw_m5 28 rfl) rfl
theorem q1112 : (Jvm.Cond.superclass "WebCourt$Not" "java/lang/Object") ∈ lw_all := lw_g (lw_at lw_m5 29 rfl) rfl
theorem q1305 : (Jvm.Cond.castable "WebCourt$Not" "WebCourt$Node") ∈ lw_tbl := lw_at lw_m5 222 rfl
theorem q1306 : (Jvm.Cond.selects "WebCourt$Not" ({ cls := "WebCourt$Node", name := "of", desc := "(LWebCourt$Ask;)I" } : Jvm.MethodName) ({ cls := "WebCourt$Not", name := "of", desc := "(LWebCourt$Ask;)I" } : Jvm.MethodName)) ∈ lw_all := lw_g (lw_at lw_m5 223 rfl) rfl
theorem q1307 : (Jvm.Cond.unhidden "WebCourt$Not" "of" "(LWebCourt$Ask;)I") ∈ lw_tbl := lw_at lw_m5 224 rfl
theorem q1308 : (Jvm.Cond.instanceMethod ({ cls := "WebCourt$Not", name := "of", desc := "(LWebCourt$Ask;)I" } : Jvm.MethodName)) ∈ lw_all := lw_g (lw_at lw_m5 225 rfl) rfl
theorem q1309 : (Jvm.Cond.publicMethod ({ cls := "WebCourt$Not", name := "of", desc := "(LWebCourt$Ask;)I" } : Jvm.MethodName)) ∈ lw_tbl := lw_at lw_m5 226 rfl
theorem q1310 : (Jvm.Cond.code ({ cls := "WebCourt$Not", name := "of", desc := "(LWebCourt$Ask;)I" } : Jvm.MethodName) prog_16_method_2_code (2 : Nat) (Option.some Jvm.ClassFile.FieldType.int)) ∈ lw_all := lw_g (lw_at lw_m5 227 rfl) rfl
theorem q1311 : (Jvm.Cond.interfaceEntry "WebCourt$Not" (13 : Nat)) ∈ lw_tbl := lw_at lw_m5 228 rfl
theorem q1312 : (Jvm.Cond.methodLink "WebCourt$Not" (13 : Nat) ({ cls := "WebCourt$Node", name := "of", desc := "(LWebCourt$Ask;)I" } : Jvm.MethodName)) ∈ lw_all := lw_g (lw_at lw_m5 229 rfl) rfl
theorem q2352 : (Jvm.Cond.castable "WebCourt$Not" "java/lang/Object") ∈ lw_tbl := lw_at lw_m10 69 rfl
theorem in_X9 : ∀ w ∈ wsX90, w ∈ lw_all := lw_in wsX90 [1110] (by decide +kernel) (by decide +kernel)
/-! WebCourt$Value -/
set_option maxRecDepth 100000
def RX10 : String := "WebCourt$Value"
def TX10 : u_T := fun k => match k with
  | _ => ("WebCourt$Value", "v", "I", true)
def tyX10 : Nat → FieldType := fun k => match k with
  | _ => .int
abbrev wsX100 : List Cond := u_ws RX10 TX10 1
theorem nmX10 : ∀ a, a < 1 → ∀ b, b < 1 → a ≠ b → (TX10 a).2.1 ≠ (TX10 b).2.1 := by decide +kernel
theorem tyX10_ok : ∀ k, k < 1 → parseFieldDescriptor (TX10 k).2.2.1 = some (tyX10 k) := by decide +kernel
abbrev cX10_init : ByteArray := prog_19_method_1_code
def yX10_init : MethodName := ⟨RX10, "<init>", "(I)V"⟩
def dkwX10_init_0 : List UInt8 := [42, 183, 0, 1, 42, 27, 181, 0, 7, 177]
abbrev dktX10_init_0 : List UInt8 := dkwX10_init_0 ++ []
theorem dksX10_init_0 : cX10_init.data.toList.drop 0 = dktX10_init_0 := by decide +kernel
theorem dX10_init_0 : decode cX10_init 0 = .ok (.aload_n 0, 1) := dk_42 (dk_at dksX10_init_0 0 rfl rfl)
theorem dX10_init_1 : decode cX10_init 1 = .ok (.invokespecial 1, 3) := dk_183 0 1 (dk_at dksX10_init_0 1 rfl rfl)
theorem dX10_init_4 : decode cX10_init 4 = .ok (.aload_n 0, 1) := dk_42 (dk_at dksX10_init_0 4 rfl rfl)
theorem dX10_init_5 : decode cX10_init 5 = .ok (.iload_n 1, 1) := dk_27 (dk_at dksX10_init_0 5 rfl rfl)
theorem dX10_init_6 : decode cX10_init 6 = .ok (.putfield 7, 3) := dk_181 0 7 (dk_at dksX10_init_0 6 rfl rfl)
theorem dX10_init_9 : decode cX10_init 9 = .ok (.return_, 1) := dk_177 (dk_at dksX10_init_0 9 rfl rfl)
abbrev cX10_of : ByteArray := prog_19_method_2_code
def yX10_of : MethodName := ⟨RX10, "of", "(LWebCourt$Ask;)I"⟩
theorem dX10_of_0 : decode cX10_of 0 = .ok (.aload_n 0, 1) := by decide +kernel
theorem dX10_of_1 : decode cX10_of 1 = .ok (.getfield 7, 3) := by decide +kernel
theorem dX10_of_4 : decode cX10_of 4 = .ok (.ireturn, 1) := by decide +kernel
theorem q154 : (Jvm.Cond.initialized "WebCourt$Value") ∈ lw_all := lw_g (lw_at lw_m1 31 rfl) rfl
theorem q948 : (Jvm.Cond.selects "WebCourt$Value" ({ cls := "java/lang/Object", name := "getClass", desc := "()Ljava/lang/Class;" } : Jvm.MethodName) ({ cls := "java/lang/Object", name := "getClass", desc := "()Ljava/lang/Class;" } : Jvm.MethodName)) ∈ lw_all := lw_g (lw_at lw_m4 105 rfl) rfl
theorem q1142 : (Jvm.Cond.instantiable "WebCourt$Value" (1 : Nat)) ∈ lw_all := lw_g (lw_at lw_m5 59 rfl) rfl
theorem q1144 : (Jvm.Cond.instanceMethod ({ cls := "WebCourt$Value", name := "<init>", desc := "(I)V" } : Jvm.MethodName)) ∈ lw_all := lw_g (lw_at lw_m5 61 rfl) rfl
theorem q1145 : (Jvm.Cond.code ({ cls := "WebCourt$Value", name := "<init>", desc := "(I)V" } : Jvm.MethodName) prog_19_method_1_code (2 : Nat) (Option.none : Option Jvm.ClassFile.FieldType)) ∈ lw_all := lw_g (lw_at lw_m5 62 rfl) rfl
theorem q1146 : (Jvm.Cond.methodLink "WebCourt$Value" (1 : Nat) ({ cls := "java/lang/Object", name := "<init>", desc := "()V" } : Jvm.MethodName)) ∈ lw_all := lw_g (lw_at lw_m5 63 rfl) rfl
theorem q1147 : (Jvm.Cond.fieldLink "WebCourt$Value" (7 : Nat) "WebCourt$Value" "v" "I") ∈ lw_all := lw_g (lw_at lw_m5 64 rfl) rfl
theorem q1148 : (Jvm.Cond.laysFinal "WebCourt$Value" "WebCourt$Value" "v" "I") ∈ lw_all := lw_g (lw_at lw_m5 65 rfl) rfl
theorem q1149 : (Jvm.Cond.soleField "WebCourt$Value" "v") ∈ lw_all := lw_g (lw_at lw_m5 66 rfl) rfl
theorem q1150 : (Jvm.Cond.superclass "WebCourt$Value" "java/lang/Object") ∈ lw_all := lw_g (lw_at lw_m5 67 rfl) rfl
theorem q1321 : (Jvm.Cond.castable "WebCourt$Value" "WebCourt$Node") ∈ lw_tbl := lw_at lw_m5 238 rfl
theorem q1322 : (Jvm.Cond.selects "WebCourt$Value" ({ cls := "WebCourt$Node", name := "of", desc := "(LWebCourt$Ask;)I" } : Jvm.MethodName) ({ cls := "WebCourt$Value", name := "of", desc := "(LWebCourt$Ask;)I" } : Jvm.MethodName)) ∈ lw_all := lw_g (lw_at lw_m5 239 rfl) rfl
theorem q1323 : (Jvm.Cond.unhidden "WebCourt$Value" "of" "(LWebCourt$Ask;)I") ∈ lw_tbl := lw_at lw_m6 0 rfl
theorem q1324 : (Jvm.Cond.instanceMethod ({ cls := "WebCourt$Value", name := "of", desc := "(LWebCourt$Ask;)I" } : Jvm.MethodName)) ∈ lw_all := lw_g (lw_at lw_m6 1 rfl) rfl
theorem q1325 : (Jvm.Cond.publicMethod ({ cls := "WebCourt$Value", name := "of", desc := "(LWebCourt$Ask;)I" } : Jvm.MethodName)) ∈ lw_tbl := lw_at lw_m6 2 rfl
theorem q1326 : (Jvm.Cond.code ({ cls := "WebCourt$Value", name := "of", desc := "(LWebCourt$Ask;)I" } : Jvm.MethodName) prog_19_method_2_code (2 : Nat) (Option.some Jvm.ClassFile.FieldType.int)) ∈ lw_all := lw_g (lw_at lw_m6 3 rfl) rfl
theorem q2359 : (Jvm.Cond.castable "WebCourt$Value" "java/lang/Object") ∈ lw_tbl := lw_at lw_m10 76 rfl
theorem in_X10 : ∀ w ∈ wsX100, w ∈ lw_all := lw_in wsX100 [1148] (by decide +kernel) (by decide +kernel)
/-! WebCourt$Pair -/
set_option maxRecDepth 100000
def RX11 : String := "WebCourt$Pair"
def TX11 : u_T := fun k => match k with
  | 0 => ("WebCourt$Pair", "left", "LWebCourt$Node;", true)
  | 1 => ("WebCourt$Pair", "right", "LWebCourt$Node;", true)
  | _ => ("WebCourt$Pair", "sign", "C", true)
def tyX11 : Nat → FieldType := fun k => match k with
  | 0 => .object "WebCourt$Node"
  | 1 => .object "WebCourt$Node"
  | _ => .char
abbrev wsX110 : List Cond := u_ws RX11 TX11 3
theorem nmX11 : ∀ a, a < 3 → ∀ b, b < 3 → a ≠ b → (TX11 a).2.1 ≠ (TX11 b).2.1 := by decide +kernel
theorem tyX11_ok : ∀ k, k < 3 → parseFieldDescriptor (TX11 k).2.2.1 = some (tyX11 k) := by decide +kernel
abbrev cX11_init : ByteArray := prog_17_method_1_code
def yX11_init : MethodName := ⟨RX11, "<init>", "(LWebCourt$Node;LWebCourt$Node;C)V"⟩
def dkwX11_init_0 : List UInt8 := [42, 183, 0, 1, 42, 43, 181, 0, 7, 42, 44, 181, 0, 13, 42, 29, 181, 0, 16, 177]
abbrev dktX11_init_0 : List UInt8 := dkwX11_init_0 ++ []
theorem dksX11_init_0 : cX11_init.data.toList.drop 0 = dktX11_init_0 := by decide +kernel
theorem dX11_init_0 : decode cX11_init 0 = .ok (.aload_n 0, 1) := dk_42 (dk_at dksX11_init_0 0 rfl rfl)
theorem dX11_init_1 : decode cX11_init 1 = .ok (.invokespecial 1, 3) := dk_183 0 1 (dk_at dksX11_init_0 1 rfl rfl)
theorem dX11_init_4 : decode cX11_init 4 = .ok (.aload_n 0, 1) := dk_42 (dk_at dksX11_init_0 4 rfl rfl)
theorem dX11_init_5 : decode cX11_init 5 = .ok (.aload_n 1, 1) := dk_43 (dk_at dksX11_init_0 5 rfl rfl)
theorem dX11_init_6 : decode cX11_init 6 = .ok (.putfield 7, 3) := dk_181 0 7 (dk_at dksX11_init_0 6 rfl rfl)
theorem dX11_init_9 : decode cX11_init 9 = .ok (.aload_n 0, 1) := dk_42 (dk_at dksX11_init_0 9 rfl rfl)
theorem dX11_init_10 : decode cX11_init 10 = .ok (.aload_n 2, 1) := dk_44 (dk_at dksX11_init_0 10 rfl rfl)
theorem dX11_init_11 : decode cX11_init 11 = .ok (.putfield 13, 3) := dk_181 0 13 (dk_at dksX11_init_0 11 rfl rfl)
theorem dX11_init_14 : decode cX11_init 14 = .ok (.aload_n 0, 1) := dk_42 (dk_at dksX11_init_0 14 rfl rfl)
theorem dX11_init_15 : decode cX11_init 15 = .ok (.iload_n 3, 1) := dk_29 (dk_at dksX11_init_0 15 rfl rfl)
theorem dX11_init_16 : decode cX11_init 16 = .ok (.putfield 16, 3) := dk_181 0 16 (dk_at dksX11_init_0 16 rfl rfl)
theorem dX11_init_19 : decode cX11_init 19 = .ok (.return_, 1) := dk_177 (dk_at dksX11_init_0 19 rfl rfl)
abbrev cX11_of : ByteArray := prog_17_method_2_code
def yX11_of : MethodName := ⟨RX11, "of", "(LWebCourt$Ask;)I"⟩
def dkwX11_of_7 : List UInt8 := [167, 0, 4, 3, 172]
abbrev dktX11_of_7 : List UInt8 := dkwX11_of_7 ++ []
def dkwX11_of_6 : List UInt8 := [153, 0, 11, 29, 153, 0, 7, 4, 167, 0, 4, 3, 172, 28, 154, 0, 7, 29, 153, 0, 7, 4]
abbrev dktX11_of_6 : List UInt8 := dkwX11_of_6 ++ dktX11_of_7
def dkwX11_of_5 : List UInt8 := [29, 164, 0, 7, 4, 167, 0, 4, 3, 172, 28, 29, 160, 0, 7, 4, 167, 0, 4, 3, 172, 28]
abbrev dktX11_of_5 : List UInt8 := dkwX11_of_5 ++ dktX11_of_6
def dkwX11_of_4 : List UInt8 := [29, 154, 0, 7, 3, 167, 0, 6, 28, 29, 112, 172, 28, 29, 162, 0, 7, 4, 167, 0, 4, 3, 172, 28]
abbrev dktX11_of_4 : List UInt8 := dkwX11_of_4 ++ dktX11_of_5
def dkwX11_of_3 : List UInt8 := [28, 29, 96, 172, 28, 29, 100, 172, 28, 29, 104, 172, 29, 154, 0, 7, 3, 167, 0, 6, 28, 29, 108, 172]
abbrev dktX11_of_3 : List UInt8 := dkwX11_of_3 ++ dktX11_of_4
def dkwX11_of_2 : List UInt8 := [170, 0, 0, 0, 0, 201, 0, 0, 0, 37, 0, 0, 0, 62, 0, 0, 0, 142, 0, 0, 0, 187, 0, 0, 0, 201, 0, 0, 0, 201, 0, 0, 0, 201, 0, 0, 0, 126, 0, 0, 0, 118, 0, 0, 0, 201, 0, 0, 0, 122, 0, 0, 0, 201, 0, 0, 0, 130, 0, 0, 0, 201, 0, 0, 0, 201, 0, 0, 0, 201, 0, 0, 0, 201, 0, 0, 0, 201, 0, 0, 0, 201, 0, 0, 0, 201, 0, 0, 0, 201, 0, 0, 0, 201, 0, 0, 0, 201, 0, 0, 0, 201, 0, 0, 0, 201, 0, 0, 0, 154, 0, 0, 0, 176, 0, 0, 0, 165]
abbrev dktX11_of_2 : List UInt8 := dkwX11_of_2 ++ dktX11_of_3
def dkwX11_of_1 : List UInt8 := [180, 0, 16]
abbrev dktX11_of_1 : List UInt8 := dkwX11_of_1 ++ dktX11_of_2
def dkwX11_of_0 : List UInt8 := [42, 180, 0, 7, 43, 185, 0, 20, 2, 0, 61, 42, 180, 0, 13, 43, 185, 0, 20, 2, 0, 62, 42]
abbrev dktX11_of_0 : List UInt8 := dkwX11_of_0 ++ dktX11_of_1
theorem dksX11_of_0 : cX11_of.data.toList.drop 0 = dktX11_of_0 := by decide +kernel
theorem dksX11_of_1 : cX11_of.data.toList.drop 23 = dktX11_of_1 := dk_seg dksX11_of_0 23 rfl rfl
theorem dksX11_of_2 : cX11_of.data.toList.drop 26 = dktX11_of_2 := dk_seg dksX11_of_1 3 rfl rfl
theorem dksX11_of_3 : cX11_of.data.toList.drop 144 = dktX11_of_3 := dk_seg dksX11_of_2 118 rfl rfl
theorem dksX11_of_4 : cX11_of.data.toList.drop 168 = dktX11_of_4 := dk_seg dksX11_of_3 24 rfl rfl
theorem dksX11_of_5 : cX11_of.data.toList.drop 192 = dktX11_of_5 := dk_seg dksX11_of_4 24 rfl rfl
theorem dksX11_of_6 : cX11_of.data.toList.drop 214 = dktX11_of_6 := dk_seg dksX11_of_5 22 rfl rfl
theorem dksX11_of_7 : cX11_of.data.toList.drop 236 = dktX11_of_7 := dk_seg dksX11_of_6 22 rfl rfl
theorem dX11_of_0 : decode cX11_of 0 = .ok (.aload_n 0, 1) := dk_42 (dk_at dksX11_of_0 0 rfl rfl)
theorem dX11_of_1 : decode cX11_of 1 = .ok (.getfield 7, 3) := dk_180 0 7 (dk_at dksX11_of_0 1 rfl rfl)
theorem dX11_of_4 : decode cX11_of 4 = .ok (.aload_n 1, 1) := dk_43 (dk_at dksX11_of_0 4 rfl rfl)
theorem dX11_of_5 : decode cX11_of 5 = .ok (.invokeinterface 20 2, 5) := by decide +kernel
theorem dX11_of_10 : decode cX11_of 10 = .ok (.istore_n 2, 1) := dk_61 (dk_at dksX11_of_0 10 rfl rfl)
theorem dX11_of_11 : decode cX11_of 11 = .ok (.aload_n 0, 1) := dk_42 (dk_at dksX11_of_0 11 rfl rfl)
theorem dX11_of_12 : decode cX11_of 12 = .ok (.getfield 13, 3) := dk_180 0 13 (dk_at dksX11_of_0 12 rfl rfl)
theorem dX11_of_15 : decode cX11_of 15 = .ok (.aload_n 1, 1) := dk_43 (dk_at dksX11_of_0 15 rfl rfl)
theorem dX11_of_16 : decode cX11_of 16 = .ok (.invokeinterface 20 2, 5) := by decide +kernel
theorem dX11_of_21 : decode cX11_of 21 = .ok (.istore_n 3, 1) := dk_62 (dk_at dksX11_of_0 21 rfl rfl)
theorem dX11_of_22 : decode cX11_of 22 = .ok (.aload_n 0, 1) := dk_42 (dk_at dksX11_of_0 22 rfl rfl)
theorem dX11_of_23 : decode cX11_of 23 = .ok (.getfield 16, 3) := dk_180 0 16 (dk_at dksX11_of_1 0 rfl rfl)
theorem dX11_of_26 : decode cX11_of 26 = .ok (.tableswitch 201 37 62 #[142, 187, 201, 201, 201, 126, 118, 201, 122, 201, 130, 201, 201, 201, 201, 201, 201, 201, 201, 201, 201, 201, 201, 154, 176, 165], 118) := by decide +kernel
theorem dX11_of_144 : decode cX11_of 144 = .ok (.iload_n 2, 1) := dk_28 (dk_at dksX11_of_3 0 rfl rfl)
theorem dX11_of_145 : decode cX11_of 145 = .ok (.iload_n 3, 1) := dk_29 (dk_at dksX11_of_3 1 rfl rfl)
theorem dX11_of_146 : decode cX11_of 146 = .ok (.iadd, 1) := dk_96 (dk_at dksX11_of_3 2 rfl rfl)
theorem dX11_of_147 : decode cX11_of 147 = .ok (.ireturn, 1) := dk_172 (dk_at dksX11_of_3 3 rfl rfl)
theorem dX11_of_148 : decode cX11_of 148 = .ok (.iload_n 2, 1) := dk_28 (dk_at dksX11_of_3 4 rfl rfl)
theorem dX11_of_149 : decode cX11_of 149 = .ok (.iload_n 3, 1) := dk_29 (dk_at dksX11_of_3 5 rfl rfl)
theorem dX11_of_150 : decode cX11_of 150 = .ok (.isub, 1) := dk_100 (dk_at dksX11_of_3 6 rfl rfl)
theorem dX11_of_151 : decode cX11_of 151 = .ok (.ireturn, 1) := dk_172 (dk_at dksX11_of_3 7 rfl rfl)
theorem dX11_of_152 : decode cX11_of 152 = .ok (.iload_n 2, 1) := dk_28 (dk_at dksX11_of_3 8 rfl rfl)
theorem dX11_of_153 : decode cX11_of 153 = .ok (.iload_n 3, 1) := dk_29 (dk_at dksX11_of_3 9 rfl rfl)
theorem dX11_of_154 : decode cX11_of 154 = .ok (.imul, 1) := dk_104 (dk_at dksX11_of_3 10 rfl rfl)
theorem dX11_of_155 : decode cX11_of 155 = .ok (.ireturn, 1) := dk_172 (dk_at dksX11_of_3 11 rfl rfl)
theorem dX11_of_156 : decode cX11_of 156 = .ok (.iload_n 3, 1) := dk_29 (dk_at dksX11_of_3 12 rfl rfl)
theorem dX11_of_157 : decode cX11_of 157 = .ok (.ifCond .ne 7, 3) := dk_154 0 7 (dk_at dksX11_of_3 13 rfl rfl)
theorem dX11_of_160 : decode cX11_of 160 = .ok (.iconst 0, 1) := dk_3 (dk_at dksX11_of_3 16 rfl rfl)
theorem dX11_of_161 : decode cX11_of 161 = .ok (.goto 6, 3) := dk_167 0 6 (dk_at dksX11_of_3 17 rfl rfl)
theorem dX11_of_164 : decode cX11_of 164 = .ok (.iload_n 2, 1) := dk_28 (dk_at dksX11_of_3 20 rfl rfl)
theorem dX11_of_165 : decode cX11_of 165 = .ok (.iload_n 3, 1) := dk_29 (dk_at dksX11_of_3 21 rfl rfl)
theorem dX11_of_166 : decode cX11_of 166 = .ok (.idiv, 1) := dk_108 (dk_at dksX11_of_3 22 rfl rfl)
theorem dX11_of_167 : decode cX11_of 167 = .ok (.ireturn, 1) := dk_172 (dk_at dksX11_of_3 23 rfl rfl)
theorem dX11_of_168 : decode cX11_of 168 = .ok (.iload_n 3, 1) := dk_29 (dk_at dksX11_of_4 0 rfl rfl)
theorem dX11_of_169 : decode cX11_of 169 = .ok (.ifCond .ne 7, 3) := dk_154 0 7 (dk_at dksX11_of_4 1 rfl rfl)
theorem dX11_of_172 : decode cX11_of 172 = .ok (.iconst 0, 1) := dk_3 (dk_at dksX11_of_4 4 rfl rfl)
theorem dX11_of_173 : decode cX11_of 173 = .ok (.goto 6, 3) := dk_167 0 6 (dk_at dksX11_of_4 5 rfl rfl)
theorem dX11_of_176 : decode cX11_of 176 = .ok (.iload_n 2, 1) := dk_28 (dk_at dksX11_of_4 8 rfl rfl)
theorem dX11_of_177 : decode cX11_of 177 = .ok (.iload_n 3, 1) := dk_29 (dk_at dksX11_of_4 9 rfl rfl)
theorem dX11_of_178 : decode cX11_of 178 = .ok (.irem, 1) := dk_112 (dk_at dksX11_of_4 10 rfl rfl)
theorem dX11_of_179 : decode cX11_of 179 = .ok (.ireturn, 1) := dk_172 (dk_at dksX11_of_4 11 rfl rfl)
theorem dX11_of_180 : decode cX11_of 180 = .ok (.iload_n 2, 1) := dk_28 (dk_at dksX11_of_4 12 rfl rfl)
theorem dX11_of_181 : decode cX11_of 181 = .ok (.iload_n 3, 1) := dk_29 (dk_at dksX11_of_4 13 rfl rfl)
theorem dX11_of_182 : decode cX11_of 182 = .ok (.if_icmp .ge 7, 3) := dk_162 0 7 (dk_at dksX11_of_4 14 rfl rfl)
theorem dX11_of_185 : decode cX11_of 185 = .ok (.iconst 1, 1) := dk_4 (dk_at dksX11_of_4 17 rfl rfl)
theorem dX11_of_186 : decode cX11_of 186 = .ok (.goto 4, 3) := dk_167 0 4 (dk_at dksX11_of_4 18 rfl rfl)
theorem dX11_of_189 : decode cX11_of 189 = .ok (.iconst 0, 1) := dk_3 (dk_at dksX11_of_4 21 rfl rfl)
theorem dX11_of_190 : decode cX11_of 190 = .ok (.ireturn, 1) := dk_172 (dk_at dksX11_of_4 22 rfl rfl)
theorem dX11_of_191 : decode cX11_of 191 = .ok (.iload_n 2, 1) := dk_28 (dk_at dksX11_of_4 23 rfl rfl)
theorem dX11_of_192 : decode cX11_of 192 = .ok (.iload_n 3, 1) := dk_29 (dk_at dksX11_of_5 0 rfl rfl)
theorem dX11_of_193 : decode cX11_of 193 = .ok (.if_icmp .le 7, 3) := dk_164 0 7 (dk_at dksX11_of_5 1 rfl rfl)
theorem dX11_of_196 : decode cX11_of 196 = .ok (.iconst 1, 1) := dk_4 (dk_at dksX11_of_5 4 rfl rfl)
theorem dX11_of_197 : decode cX11_of 197 = .ok (.goto 4, 3) := dk_167 0 4 (dk_at dksX11_of_5 5 rfl rfl)
theorem dX11_of_200 : decode cX11_of 200 = .ok (.iconst 0, 1) := dk_3 (dk_at dksX11_of_5 8 rfl rfl)
theorem dX11_of_201 : decode cX11_of 201 = .ok (.ireturn, 1) := dk_172 (dk_at dksX11_of_5 9 rfl rfl)
theorem dX11_of_202 : decode cX11_of 202 = .ok (.iload_n 2, 1) := dk_28 (dk_at dksX11_of_5 10 rfl rfl)
theorem dX11_of_203 : decode cX11_of 203 = .ok (.iload_n 3, 1) := dk_29 (dk_at dksX11_of_5 11 rfl rfl)
theorem dX11_of_204 : decode cX11_of 204 = .ok (.if_icmp .ne 7, 3) := dk_160 0 7 (dk_at dksX11_of_5 12 rfl rfl)
theorem dX11_of_207 : decode cX11_of 207 = .ok (.iconst 1, 1) := dk_4 (dk_at dksX11_of_5 15 rfl rfl)
theorem dX11_of_208 : decode cX11_of 208 = .ok (.goto 4, 3) := dk_167 0 4 (dk_at dksX11_of_5 16 rfl rfl)
theorem dX11_of_211 : decode cX11_of 211 = .ok (.iconst 0, 1) := dk_3 (dk_at dksX11_of_5 19 rfl rfl)
theorem dX11_of_212 : decode cX11_of 212 = .ok (.ireturn, 1) := dk_172 (dk_at dksX11_of_5 20 rfl rfl)
theorem dX11_of_213 : decode cX11_of 213 = .ok (.iload_n 2, 1) := dk_28 (dk_at dksX11_of_5 21 rfl rfl)
theorem dX11_of_214 : decode cX11_of 214 = .ok (.ifCond .eq 11, 3) := dk_153 0 11 (dk_at dksX11_of_6 0 rfl rfl)
theorem dX11_of_217 : decode cX11_of 217 = .ok (.iload_n 3, 1) := dk_29 (dk_at dksX11_of_6 3 rfl rfl)
theorem dX11_of_218 : decode cX11_of 218 = .ok (.ifCond .eq 7, 3) := dk_153 0 7 (dk_at dksX11_of_6 4 rfl rfl)
theorem dX11_of_221 : decode cX11_of 221 = .ok (.iconst 1, 1) := dk_4 (dk_at dksX11_of_6 7 rfl rfl)
theorem dX11_of_222 : decode cX11_of 222 = .ok (.goto 4, 3) := dk_167 0 4 (dk_at dksX11_of_6 8 rfl rfl)
theorem dX11_of_225 : decode cX11_of 225 = .ok (.iconst 0, 1) := dk_3 (dk_at dksX11_of_6 11 rfl rfl)
theorem dX11_of_226 : decode cX11_of 226 = .ok (.ireturn, 1) := dk_172 (dk_at dksX11_of_6 12 rfl rfl)
theorem dX11_of_227 : decode cX11_of 227 = .ok (.iload_n 2, 1) := dk_28 (dk_at dksX11_of_6 13 rfl rfl)
theorem dX11_of_228 : decode cX11_of 228 = .ok (.ifCond .ne 7, 3) := dk_154 0 7 (dk_at dksX11_of_6 14 rfl rfl)
theorem dX11_of_231 : decode cX11_of 231 = .ok (.iload_n 3, 1) := dk_29 (dk_at dksX11_of_6 17 rfl rfl)
theorem dX11_of_232 : decode cX11_of 232 = .ok (.ifCond .eq 7, 3) := dk_153 0 7 (dk_at dksX11_of_6 18 rfl rfl)
theorem dX11_of_235 : decode cX11_of 235 = .ok (.iconst 1, 1) := dk_4 (dk_at dksX11_of_6 21 rfl rfl)
theorem dX11_of_236 : decode cX11_of 236 = .ok (.goto 4, 3) := dk_167 0 4 (dk_at dksX11_of_7 0 rfl rfl)
theorem dX11_of_239 : decode cX11_of 239 = .ok (.iconst 0, 1) := dk_3 (dk_at dksX11_of_7 3 rfl rfl)
theorem dX11_of_240 : decode cX11_of 240 = .ok (.ireturn, 1) := dk_172 (dk_at dksX11_of_7 4 rfl rfl)
theorem q155 : (Jvm.Cond.initialized "WebCourt$Pair") ∈ lw_all := lw_g (lw_at lw_m1 32 rfl) rfl
theorem q946 : (Jvm.Cond.selects "WebCourt$Pair" ({ cls := "java/lang/Object", name := "getClass", desc := "()Ljava/lang/Class;" } : Jvm.MethodName) ({ cls := "java/lang/Object", name := "getClass", desc := "()Ljava/lang/Class;" } : Jvm.MethodName)) ∈ lw_all := lw_g (lw_at lw_m4 103 rfl) rfl
theorem q1152 : (Jvm.Cond.instantiable "WebCourt$Pair" (3 : Nat)) ∈ lw_all := lw_g (lw_at lw_m5 69 rfl) rfl
theorem q1154 : (Jvm.Cond.instanceMethod ({ cls := "WebCourt$Pair", name := "<init>", desc := "(LWebCourt$Node;LWebCourt$Node;C)V" } : Jvm.MethodName)) ∈ lw_all := lw_g (lw_at lw_m5 71 rfl) rfl
theorem q1155 : (Jvm.Cond.code ({ cls := "WebCourt$Pair", name := "<init>", desc := "(LWebCourt$Node;LWebCourt$Node;C)V" } : Jvm.MethodName) prog_17_method_1_code (4 : Nat) (Option.none : Option Jvm.ClassFile.FieldType)) ∈ lw_all := lw_g (lw_at lw_m5 72 rfl) rfl
theorem q1156 : (Jvm.Cond.methodLink "WebCourt$Pair" (1 : Nat) ({ cls := "java/lang/Object", name := "<init>", desc := "()V" } : Jvm.MethodName)) ∈ lw_all := lw_g (lw_at lw_m5 73 rfl) rfl
theorem q1157 : (Jvm.Cond.fieldLink "WebCourt$Pair" (7 : Nat) "WebCourt$Pair" "left" "LWebCourt$Node;") ∈ lw_all := lw_g (lw_at lw_m5 74 rfl) rfl
theorem q1158 : (Jvm.Cond.fieldLink "WebCourt$Pair" (13 : Nat) "WebCourt$Pair" "right" "LWebCourt$Node;") ∈ lw_all := lw_g (lw_at lw_m5 75 rfl) rfl
theorem q1159 : (Jvm.Cond.fieldLink "WebCourt$Pair" (16 : Nat) "WebCourt$Pair" "sign" "C") ∈ lw_all := lw_g (lw_at lw_m5 76 rfl) rfl
theorem q1160 : (Jvm.Cond.laysFinal "WebCourt$Pair" "WebCourt$Pair" "left" "LWebCourt$Node;") ∈ lw_all := lw_g (lw_at lw_m5 77 rfl) rfl
theorem q1161 : (Jvm.Cond.soleField "WebCourt$Pair" "left") ∈ lw_all := lw_g (lw_at lw_m5 78 rfl) rfl
theorem q1162 : (Jvm.Cond.laysFinal "WebCourt$Pair" "WebCourt$Pair" "right" "LWebCourt$Node;") ∈ lw_all := lw_g (lw_at lw_m5 79 rfl) rfl
theorem q1163 : (Jvm.Cond.soleField "WebCourt$Pair" "right") ∈ lw_all := lw_g (lw_at lw_m5 80 rfl) rfl
theorem q1164 : (Jvm.Cond.laysFinal "WebCourt$Pair" "WebCourt$Pair" "sign" "C") ∈ lw_all := lw_g (lw_at lw_m5 81 rfl) rfl
theorem q1165 : (Jvm.Cond.soleField "WebCourt$Pair" "sign") ∈ lw_all := lw_g (lw_at lw_m5 82 rfl) rfl
theorem q1166 : (Jvm.Cond.superclass "WebCourt$Pair" "java/lang/Object") ∈ lw_all := lw_g (lw_at lw_m5 83 rfl) rfl
theorem q1313 : (Jvm.Cond.castable "WebCourt$Pair" "WebCourt$Node") ∈ lw_tbl := lw_at lw_m5 230 rfl
theorem q1314 : (Jvm.Cond.selects "WebCourt$Pair" ({ cls := "WebCourt$Node", name := "of", desc := "(LWebCourt$Ask;)I" } : Jvm.MethodName) ({ cls := "WebCourt$Pair", name := "of", desc := "(LWebCourt$Ask;)I" } : Jvm.MethodName)) ∈ lw_all := lw_g (lw_at lw_m5 231 rfl) rfl
theorem q1315 : (Jvm.Cond.unhidden "WebCourt$Pair" "of" "(LWebCourt$Ask;)I") ∈ lw_tbl := lw_at lw_m5 232 rfl
theorem q1316 : (Jvm.Cond.instanceMethod ({ cls := "WebCourt$Pair", name := "of", desc := "(LWebCourt$Ask;)I" } : Jvm.MethodName)) ∈ lw_all := lw_g (lw_at lw_m5 233 rfl) rfl
theorem q1317 : (Jvm.Cond.publicMethod ({ cls := "WebCourt$Pair", name := "of", desc := "(LWebCourt$Ask;)I" } : Jvm.MethodName)) ∈ lw_tbl := lw_at lw_m5 234 rfl
theorem q1318 : (Jvm.Cond.code ({ cls := "WebCourt$Pair", name := "of", desc := "(LWebCourt$Ask;)I" } : Jvm.MethodName) prog_17_method_2_code (4 : Nat) (Option.some Jvm.ClassFile.FieldType.int)) ∈ lw_all := lw_g (lw_at lw_m5 235 rfl) rfl
theorem q1319 : (Jvm.Cond.interfaceEntry "WebCourt$Pair" (20 : Nat)) ∈ lw_tbl := lw_at lw_m5 236 rfl
theorem q1320 : (Jvm.Cond.methodLink "WebCourt$Pair" (20 : Nat) ({ cls := "WebCourt$Node", name := "of", desc := "(LWebCourt$Ask;)I" } : Jvm.MethodName)) ∈ lw_all := lw_g (lw_at lw_m5 237 rfl) rfl
theorem q2360 : (Jvm.Cond.castable "WebCourt$Pair" "java/lang/Object") ∈ lw_tbl := lw_at lw_m10 77 rfl
theorem in_X11 : ∀ w ∈ wsX110, w ∈ lw_all := lw_in wsX110 [1160, 1162, 1164] (by decide +kernel) (by decide +kernel)
/-! WebCourt$Cry -/
set_option maxRecDepth 100000
def RX12 : String := "WebCourt$Cry"
def TX12 : u_T := fun k => match k with
  | 0 => ("WebCourt$Cry", "item", "I", true)
  | 1 => ("WebCourt$Cry", "verdict", "I", true)
  | 2 => ("WebCourt$Cry", "told", "I", true)
  | 3 => ("WebCourt$Cry", "is", "Z", true)
  | 4 => ("WebCourt$Cry", "untold", "I", false)
  | _ => ("WebCourt$Cry", "this$0", "LWebCourt;", true)
def tyX12 : Nat → FieldType := fun k => match k with
  | 0 => .int
  | 1 => .int
  | 2 => .int
  | 3 => .boolean
  | 4 => .int
  | _ => .object "WebCourt"
abbrev wsX120 : List Cond := u_ws RX12 TX12 6
theorem nmX12 : ∀ a, a < 6 → ∀ b, b < 6 → a ≠ b → (TX12 a).2.1 ≠ (TX12 b).2.1 := by decide +kernel
theorem tyX12_ok : ∀ k, k < 6 → parseFieldDescriptor (TX12 k).2.2.1 = some (tyX12 k) := by decide +kernel
abbrev cX12_init : ByteArray := prog_12_method_1_code
def yX12_init : MethodName := ⟨RX12, "<init>", "(LWebCourt;IIZ)V"⟩
def dkwX12_init_1 : List UInt8 := [42, 21, 4, 181, 0, 25, 42, 43, 180, 0, 29, 181, 0, 32, 177]
abbrev dktX12_init_1 : List UInt8 := dkwX12_init_1 ++ []
def dkwX12_init_0 : List UInt8 := [42, 43, 181, 0, 3, 42, 183, 0, 9, 42, 2, 181, 0, 15, 42, 28, 181, 0, 19, 42, 29, 181, 0, 22]
abbrev dktX12_init_0 : List UInt8 := dkwX12_init_0 ++ dktX12_init_1
theorem dksX12_init_0 : cX12_init.data.toList.drop 0 = dktX12_init_0 := by decide +kernel
theorem dksX12_init_1 : cX12_init.data.toList.drop 24 = dktX12_init_1 := dk_seg dksX12_init_0 24 rfl rfl
theorem dX12_init_0 : decode cX12_init 0 = .ok (.aload_n 0, 1) := dk_42 (dk_at dksX12_init_0 0 rfl rfl)
theorem dX12_init_1 : decode cX12_init 1 = .ok (.aload_n 1, 1) := dk_43 (dk_at dksX12_init_0 1 rfl rfl)
theorem dX12_init_2 : decode cX12_init 2 = .ok (.putfield 3, 3) := dk_181 0 3 (dk_at dksX12_init_0 2 rfl rfl)
theorem dX12_init_5 : decode cX12_init 5 = .ok (.aload_n 0, 1) := dk_42 (dk_at dksX12_init_0 5 rfl rfl)
theorem dX12_init_6 : decode cX12_init 6 = .ok (.invokespecial 9, 3) := dk_183 0 9 (dk_at dksX12_init_0 6 rfl rfl)
theorem dX12_init_9 : decode cX12_init 9 = .ok (.aload_n 0, 1) := dk_42 (dk_at dksX12_init_0 9 rfl rfl)
theorem dX12_init_10 : decode cX12_init 10 = .ok (.iconst (-1), 1) := dk_2 (dk_at dksX12_init_0 10 rfl rfl)
theorem dX12_init_11 : decode cX12_init 11 = .ok (.putfield 15, 3) := dk_181 0 15 (dk_at dksX12_init_0 11 rfl rfl)
theorem dX12_init_14 : decode cX12_init 14 = .ok (.aload_n 0, 1) := dk_42 (dk_at dksX12_init_0 14 rfl rfl)
theorem dX12_init_15 : decode cX12_init 15 = .ok (.iload_n 2, 1) := dk_28 (dk_at dksX12_init_0 15 rfl rfl)
theorem dX12_init_16 : decode cX12_init 16 = .ok (.putfield 19, 3) := dk_181 0 19 (dk_at dksX12_init_0 16 rfl rfl)
theorem dX12_init_19 : decode cX12_init 19 = .ok (.aload_n 0, 1) := dk_42 (dk_at dksX12_init_0 19 rfl rfl)
theorem dX12_init_20 : decode cX12_init 20 = .ok (.iload_n 3, 1) := dk_29 (dk_at dksX12_init_0 20 rfl rfl)
theorem dX12_init_21 : decode cX12_init 21 = .ok (.putfield 22, 3) := dk_181 0 22 (dk_at dksX12_init_0 21 rfl rfl)
theorem dX12_init_24 : decode cX12_init 24 = .ok (.aload_n 0, 1) := dk_42 (dk_at dksX12_init_1 0 rfl rfl)
theorem dX12_init_25 : decode cX12_init 25 = .ok (.iload 4, 2) := dk_21 4 (dk_at dksX12_init_1 1 rfl rfl)
theorem dX12_init_27 : decode cX12_init 27 = .ok (.putfield 25, 3) := dk_181 0 25 (dk_at dksX12_init_1 3 rfl rfl)
theorem dX12_init_30 : decode cX12_init 30 = .ok (.aload_n 0, 1) := dk_42 (dk_at dksX12_init_1 6 rfl rfl)
theorem dX12_init_31 : decode cX12_init 31 = .ok (.aload_n 1, 1) := dk_43 (dk_at dksX12_init_1 7 rfl rfl)
theorem dX12_init_32 : decode cX12_init 32 = .ok (.getfield 29, 3) := dk_180 0 29 (dk_at dksX12_init_1 8 rfl rfl)
theorem dX12_init_35 : decode cX12_init 35 = .ok (.putfield 32, 3) := dk_181 0 32 (dk_at dksX12_init_1 11 rfl rfl)
theorem dX12_init_38 : decode cX12_init 38 = .ok (.return_, 1) := dk_177 (dk_at dksX12_init_1 14 rfl rfl)
abbrev cX12_untell : ByteArray := prog_12_method_2_code
def yX12_untell : MethodName := ⟨RX12, "untell", "()Z"⟩
def dkwX12_untell_0 : List UInt8 := [42, 180, 0, 15, 155, 0, 5, 3, 172, 42, 42, 180, 0, 3, 180, 0, 29, 181, 0, 15, 4, 172]
abbrev dktX12_untell_0 : List UInt8 := dkwX12_untell_0 ++ []
theorem dksX12_untell_0 : cX12_untell.data.toList.drop 0 = dktX12_untell_0 := by decide +kernel
theorem dX12_untell_0 : decode cX12_untell 0 = .ok (.aload_n 0, 1) := dk_42 (dk_at dksX12_untell_0 0 rfl rfl)
theorem dX12_untell_1 : decode cX12_untell 1 = .ok (.getfield 15, 3) := dk_180 0 15 (dk_at dksX12_untell_0 1 rfl rfl)
theorem dX12_untell_4 : decode cX12_untell 4 = .ok (.ifCond .lt 5, 3) := dk_155 0 5 (dk_at dksX12_untell_0 4 rfl rfl)
theorem dX12_untell_7 : decode cX12_untell 7 = .ok (.iconst 0, 1) := dk_3 (dk_at dksX12_untell_0 7 rfl rfl)
theorem dX12_untell_8 : decode cX12_untell 8 = .ok (.ireturn, 1) := dk_172 (dk_at dksX12_untell_0 8 rfl rfl)
theorem dX12_untell_9 : decode cX12_untell 9 = .ok (.aload_n 0, 1) := dk_42 (dk_at dksX12_untell_0 9 rfl rfl)
theorem dX12_untell_10 : decode cX12_untell 10 = .ok (.aload_n 0, 1) := dk_42 (dk_at dksX12_untell_0 10 rfl rfl)
theorem dX12_untell_11 : decode cX12_untell 11 = .ok (.getfield 3, 3) := dk_180 0 3 (dk_at dksX12_untell_0 11 rfl rfl)
theorem dX12_untell_14 : decode cX12_untell 14 = .ok (.getfield 29, 3) := dk_180 0 29 (dk_at dksX12_untell_0 14 rfl rfl)
theorem dX12_untell_17 : decode cX12_untell 17 = .ok (.putfield 15, 3) := dk_181 0 15 (dk_at dksX12_untell_0 17 rfl rfl)
theorem dX12_untell_20 : decode cX12_untell 20 = .ok (.iconst 1, 1) := dk_4 (dk_at dksX12_untell_0 20 rfl rfl)
theorem dX12_untell_21 : decode cX12_untell 21 = .ok (.ireturn, 1) := dk_172 (dk_at dksX12_untell_0 21 rfl rfl)
abbrev cX12_allows : ByteArray := prog_12_method_3_code
def yX12_allows : MethodName := ⟨RX12, "allows", "(II)Z"⟩
def dkwX12_allows_2 : List UInt8 := [3, 42, 180, 0, 25, 160, 0, 7, 4, 167, 0, 4, 3, 172]
abbrev dktX12_allows_2 : List UInt8 := dkwX12_allows_2 ++ []
def dkwX12_allows_1 : List UInt8 := [180, 0, 3, 180, 0, 35, 27, 50, 42, 180, 0, 19, 46, 42, 180, 0, 22, 161, 0, 7, 4, 167, 0, 4]
abbrev dktX12_allows_1 : List UInt8 := dkwX12_allows_1 ++ dktX12_allows_2
def dkwX12_allows_0 : List UInt8 := [42, 180, 0, 32, 28, 163, 0, 51, 42, 180, 0, 15, 155, 0, 11, 42, 180, 0, 15, 28, 164, 0, 36, 42]
abbrev dktX12_allows_0 : List UInt8 := dkwX12_allows_0 ++ dktX12_allows_1
theorem dksX12_allows_0 : cX12_allows.data.toList.drop 0 = dktX12_allows_0 := by decide +kernel
theorem dksX12_allows_1 : cX12_allows.data.toList.drop 24 = dktX12_allows_1 := dk_seg dksX12_allows_0 24 rfl rfl
theorem dksX12_allows_2 : cX12_allows.data.toList.drop 48 = dktX12_allows_2 := dk_seg dksX12_allows_1 24 rfl rfl
theorem dX12_allows_0 : decode cX12_allows 0 = .ok (.aload_n 0, 1) := dk_42 (dk_at dksX12_allows_0 0 rfl rfl)
theorem dX12_allows_1 : decode cX12_allows 1 = .ok (.getfield 32, 3) := dk_180 0 32 (dk_at dksX12_allows_0 1 rfl rfl)
theorem dX12_allows_4 : decode cX12_allows 4 = .ok (.iload_n 2, 1) := dk_28 (dk_at dksX12_allows_0 4 rfl rfl)
theorem dX12_allows_5 : decode cX12_allows 5 = .ok (.if_icmp .gt 51, 3) := dk_163 0 51 (dk_at dksX12_allows_0 5 rfl rfl)
theorem dX12_allows_8 : decode cX12_allows 8 = .ok (.aload_n 0, 1) := dk_42 (dk_at dksX12_allows_0 8 rfl rfl)
theorem dX12_allows_9 : decode cX12_allows 9 = .ok (.getfield 15, 3) := dk_180 0 15 (dk_at dksX12_allows_0 9 rfl rfl)
theorem dX12_allows_12 : decode cX12_allows 12 = .ok (.ifCond .lt 11, 3) := dk_155 0 11 (dk_at dksX12_allows_0 12 rfl rfl)
theorem dX12_allows_15 : decode cX12_allows 15 = .ok (.aload_n 0, 1) := dk_42 (dk_at dksX12_allows_0 15 rfl rfl)
theorem dX12_allows_16 : decode cX12_allows 16 = .ok (.getfield 15, 3) := dk_180 0 15 (dk_at dksX12_allows_0 16 rfl rfl)
theorem dX12_allows_19 : decode cX12_allows 19 = .ok (.iload_n 2, 1) := dk_28 (dk_at dksX12_allows_0 19 rfl rfl)
theorem dX12_allows_20 : decode cX12_allows 20 = .ok (.if_icmp .le 36, 3) := dk_164 0 36 (dk_at dksX12_allows_0 20 rfl rfl)
theorem dX12_allows_23 : decode cX12_allows 23 = .ok (.aload_n 0, 1) := dk_42 (dk_at dksX12_allows_0 23 rfl rfl)
theorem dX12_allows_24 : decode cX12_allows 24 = .ok (.getfield 3, 3) := dk_180 0 3 (dk_at dksX12_allows_1 0 rfl rfl)
theorem dX12_allows_27 : decode cX12_allows 27 = .ok (.getfield 35, 3) := dk_180 0 35 (dk_at dksX12_allows_1 3 rfl rfl)
theorem dX12_allows_30 : decode cX12_allows 30 = .ok (.iload_n 1, 1) := dk_27 (dk_at dksX12_allows_1 6 rfl rfl)
theorem dX12_allows_31 : decode cX12_allows 31 = .ok (.aaload, 1) := dk_50 (dk_at dksX12_allows_1 7 rfl rfl)
theorem dX12_allows_32 : decode cX12_allows 32 = .ok (.aload_n 0, 1) := dk_42 (dk_at dksX12_allows_1 8 rfl rfl)
theorem dX12_allows_33 : decode cX12_allows 33 = .ok (.getfield 19, 3) := dk_180 0 19 (dk_at dksX12_allows_1 9 rfl rfl)
theorem dX12_allows_36 : decode cX12_allows 36 = .ok (.iaload, 1) := dk_46 (dk_at dksX12_allows_1 12 rfl rfl)
theorem dX12_allows_37 : decode cX12_allows 37 = .ok (.aload_n 0, 1) := dk_42 (dk_at dksX12_allows_1 13 rfl rfl)
theorem dX12_allows_38 : decode cX12_allows 38 = .ok (.getfield 22, 3) := dk_180 0 22 (dk_at dksX12_allows_1 14 rfl rfl)
theorem dX12_allows_41 : decode cX12_allows 41 = .ok (.if_icmp .lt 7, 3) := dk_161 0 7 (dk_at dksX12_allows_1 17 rfl rfl)
theorem dX12_allows_44 : decode cX12_allows 44 = .ok (.iconst 1, 1) := dk_4 (dk_at dksX12_allows_1 20 rfl rfl)
theorem dX12_allows_45 : decode cX12_allows 45 = .ok (.goto 4, 3) := dk_167 0 4 (dk_at dksX12_allows_1 21 rfl rfl)
theorem dX12_allows_48 : decode cX12_allows 48 = .ok (.iconst 0, 1) := dk_3 (dk_at dksX12_allows_2 0 rfl rfl)
theorem dX12_allows_49 : decode cX12_allows 49 = .ok (.aload_n 0, 1) := dk_42 (dk_at dksX12_allows_2 1 rfl rfl)
theorem dX12_allows_50 : decode cX12_allows 50 = .ok (.getfield 25, 3) := dk_180 0 25 (dk_at dksX12_allows_2 2 rfl rfl)
theorem dX12_allows_53 : decode cX12_allows 53 = .ok (.if_icmp .ne 7, 3) := dk_160 0 7 (dk_at dksX12_allows_2 5 rfl rfl)
theorem dX12_allows_56 : decode cX12_allows 56 = .ok (.iconst 1, 1) := dk_4 (dk_at dksX12_allows_2 8 rfl rfl)
theorem dX12_allows_57 : decode cX12_allows 57 = .ok (.goto 4, 3) := dk_167 0 4 (dk_at dksX12_allows_2 9 rfl rfl)
theorem dX12_allows_60 : decode cX12_allows 60 = .ok (.iconst 0, 1) := dk_3 (dk_at dksX12_allows_2 12 rfl rfl)
theorem dX12_allows_61 : decode cX12_allows 61 = .ok (.ireturn, 1) := dk_172 (dk_at dksX12_allows_2 13 rfl rfl)
theorem q156 : (Jvm.Cond.initialized "WebCourt$Cry") ∈ lw_all := lw_g (lw_at lw_m1 33 rfl) rfl
theorem q370 : (Jvm.Cond.fieldLinkNest "WebCourt$Cry" (29 : Nat) "WebCourt" "time" "I" "WebCourt") ∈ lw_tbl := lw_at lw_m2 7 rfl
theorem q384 : (Jvm.Cond.fieldLinkNest "WebCourt$Cry" (35 : Nat) "WebCourt" "verdicts" "[[I" "WebCourt") ∈ lw_tbl := lw_at lw_m2 21 rfl
theorem q942 : (Jvm.Cond.selects "WebCourt$Cry" ({ cls := "java/lang/Object", name := "getClass", desc := "()Ljava/lang/Class;" } : Jvm.MethodName) ({ cls := "java/lang/Object", name := "getClass", desc := "()Ljava/lang/Class;" } : Jvm.MethodName)) ∈ lw_all := lw_g (lw_at lw_m4 99 rfl) rfl
theorem q1548 : (Jvm.Cond.instantiable "WebCourt$Cry" (6 : Nat)) ∈ lw_all := lw_g (lw_at lw_m6 225 rfl) rfl
theorem q1550 : (Jvm.Cond.instanceMethod ({ cls := "WebCourt$Cry", name := "<init>", desc := "(LWebCourt;IIZ)V" } : Jvm.MethodName)) ∈ lw_all := lw_g (lw_at lw_m6 227 rfl) rfl
theorem q1551 : (Jvm.Cond.code ({ cls := "WebCourt$Cry", name := "<init>", desc := "(LWebCourt;IIZ)V" } : Jvm.MethodName) prog_12_method_1_code (5 : Nat) (Option.none : Option Jvm.ClassFile.FieldType)) ∈ lw_all := lw_g (lw_at lw_m6 228 rfl) rfl
theorem q1552 : (Jvm.Cond.methodLink "WebCourt$Cry" (9 : Nat) ({ cls := "java/lang/Object", name := "<init>", desc := "()V" } : Jvm.MethodName)) ∈ lw_all := lw_g (lw_at lw_m6 229 rfl) rfl
theorem q1553 : (Jvm.Cond.fieldLink "WebCourt$Cry" (19 : Nat) "WebCourt$Cry" "item" "I") ∈ lw_all := lw_g (lw_at lw_m6 230 rfl) rfl
theorem q1554 : (Jvm.Cond.fieldLink "WebCourt$Cry" (22 : Nat) "WebCourt$Cry" "verdict" "I") ∈ lw_all := lw_g (lw_at lw_m6 231 rfl) rfl
theorem q1555 : (Jvm.Cond.fieldLink "WebCourt$Cry" (32 : Nat) "WebCourt$Cry" "told" "I") ∈ lw_all := lw_g (lw_at lw_m6 232 rfl) rfl
theorem q1556 : (Jvm.Cond.fieldLink "WebCourt$Cry" (25 : Nat) "WebCourt$Cry" "is" "Z") ∈ lw_all := lw_g (lw_at lw_m6 233 rfl) rfl
theorem q1557 : (Jvm.Cond.fieldLink "WebCourt$Cry" (15 : Nat) "WebCourt$Cry" "untold" "I") ∈ lw_all := lw_g (lw_at lw_m6 234 rfl) rfl
theorem q1558 : (Jvm.Cond.fieldLink "WebCourt$Cry" (3 : Nat) "WebCourt$Cry" "this$0" "LWebCourt;") ∈ lw_all := lw_g (lw_at lw_m6 235 rfl) rfl
theorem q1559 : (Jvm.Cond.laysFinal "WebCourt$Cry" "WebCourt$Cry" "item" "I") ∈ lw_all := lw_g (lw_at lw_m6 236 rfl) rfl
theorem q1560 : (Jvm.Cond.soleField "WebCourt$Cry" "item") ∈ lw_all := lw_g (lw_at lw_m6 237 rfl) rfl
theorem q1561 : (Jvm.Cond.laysFinal "WebCourt$Cry" "WebCourt$Cry" "verdict" "I") ∈ lw_all := lw_g (lw_at lw_m6 238 rfl) rfl
theorem q1562 : (Jvm.Cond.soleField "WebCourt$Cry" "verdict") ∈ lw_all := lw_g (lw_at lw_m6 239 rfl) rfl
theorem q1563 : (Jvm.Cond.laysFinal "WebCourt$Cry" "WebCourt$Cry" "told" "I") ∈ lw_all := lw_g (lw_at lw_m7 0 rfl) rfl
theorem q1564 : (Jvm.Cond.soleField "WebCourt$Cry" "told") ∈ lw_all := lw_g (lw_at lw_m7 1 rfl) rfl
theorem q1565 : (Jvm.Cond.laysFinal "WebCourt$Cry" "WebCourt$Cry" "is" "Z") ∈ lw_all := lw_g (lw_at lw_m7 2 rfl) rfl
theorem q1566 : (Jvm.Cond.soleField "WebCourt$Cry" "is") ∈ lw_all := lw_g (lw_at lw_m7 3 rfl) rfl
theorem q1567 : (Jvm.Cond.lays "WebCourt$Cry" "WebCourt$Cry" "untold" "I") ∈ lw_all := lw_g (lw_at lw_m7 4 rfl) rfl
theorem q1568 : (Jvm.Cond.soleField "WebCourt$Cry" "untold") ∈ lw_all := lw_g (lw_at lw_m7 5 rfl) rfl
theorem q1569 : (Jvm.Cond.laysFinal "WebCourt$Cry" "WebCourt$Cry" "this$0" "LWebCourt;") ∈ lw_all := lw_g (lw_at lw_m7 6 rfl) rfl
theorem q1570 : (Jvm.Cond.soleField "WebCourt$Cry" "this$0") ∈ lw_all := lw_g (lw_at lw_m7 7 rfl) rfl
theorem q1571 : (Jvm.Cond.superclass "WebCourt$Cry" "java/lang/Object") ∈ lw_all := lw_g (lw_at lw_m7 8 rfl) rfl
theorem q1578 : (Jvm.Cond.instanceMethod ({ cls := "WebCourt$Cry", name := "untell", desc := "()Z" } : Jvm.MethodName)) ∈ lw_all := lw_g (lw_at lw_m7 15 rfl) rfl
theorem q1579 : (Jvm.Cond.selects "WebCourt$Cry" ({ cls := "WebCourt$Cry", name := "untell", desc := "()Z" } : Jvm.MethodName) ({ cls := "WebCourt$Cry", name := "untell", desc := "()Z" } : Jvm.MethodName)) ∈ lw_all := lw_g (lw_at lw_m7 16 rfl) rfl
theorem q1580 : (Jvm.Cond.code ({ cls := "WebCourt$Cry", name := "untell", desc := "()Z" } : Jvm.MethodName) prog_12_method_2_code (1 : Nat) (Option.some Jvm.ClassFile.FieldType.boolean)) ∈ lw_all := lw_g (lw_at lw_m7 17 rfl) rfl
theorem q1595 : (Jvm.Cond.instanceMethod ({ cls := "WebCourt$Cry", name := "allows", desc := "(II)Z" } : Jvm.MethodName)) ∈ lw_all := lw_g (lw_at lw_m7 32 rfl) rfl
theorem q1596 : (Jvm.Cond.selects "WebCourt$Cry" ({ cls := "WebCourt$Cry", name := "allows", desc := "(II)Z" } : Jvm.MethodName) ({ cls := "WebCourt$Cry", name := "allows", desc := "(II)Z" } : Jvm.MethodName)) ∈ lw_all := lw_g (lw_at lw_m7 33 rfl) rfl
theorem q1597 : (Jvm.Cond.code ({ cls := "WebCourt$Cry", name := "allows", desc := "(II)Z" } : Jvm.MethodName) prog_12_method_3_code (3 : Nat) (Option.some Jvm.ClassFile.FieldType.boolean)) ∈ lw_all := lw_g (lw_at lw_m7 34 rfl) rfl
theorem q2361 : (Jvm.Cond.castable "WebCourt$Cry" "java/lang/Object") ∈ lw_tbl := lw_at lw_m10 78 rfl
theorem in_X12 : ∀ w ∈ wsX120, w ∈ lw_all := lw_in wsX120 [1559, 1561, 1563, 1565, 1567, 1569] (by decide +kernel) (by decide +kernel)
/-! WebCourt$Asked$1 -/
set_option maxRecDepth 100000
def RX13 : String := "WebCourt$Asked$1"
abbrev cX13_of : ByteArray := prog_4_method_2_code
def yX13_of : MethodName := ⟨RX13, "of", "(LWebCourt$Ask;)I"⟩
theorem dX13_of_0 : decode cX13_of 0 = .ok (.aload_n 1, 1) := by decide +kernel
theorem dX13_of_1 : decode cX13_of 1 = .ok (.getfield 7, 3) := by decide +kernel
theorem dX13_of_4 : decode cX13_of 4 = .ok (.ireturn, 1) := by decide +kernel
theorem q209 : (Jvm.Cond.fieldLink "WebCourt$Asked$1" (7 : Nat) "WebCourt$Ask" "pleads" "I") ∈ lw_all := lw_g (lw_at lw_m1 86 rfl) rfl
theorem q934 : (Jvm.Cond.selects "WebCourt$Asked$1" ({ cls := "java/lang/Object", name := "getClass", desc := "()Ljava/lang/Class;" } : Jvm.MethodName) ({ cls := "java/lang/Object", name := "getClass", desc := "()Ljava/lang/Class;" } : Jvm.MethodName)) ∈ lw_all := lw_g (lw_at lw_m4 91 rfl) rfl
theorem q1269 : (Jvm.Cond.castable "WebCourt$Asked$1" "WebCourt$Node") ∈ lw_tbl := lw_at lw_m5 186 rfl
theorem q1270 : (Jvm.Cond.selects "WebCourt$Asked$1" ({ cls := "WebCourt$Node", name := "of", desc := "(LWebCourt$Ask;)I" } : Jvm.MethodName) ({ cls := "WebCourt$Asked$1", name := "of", desc := "(LWebCourt$Ask;)I" } : Jvm.MethodName)) ∈ lw_all := lw_g (lw_at lw_m5 187 rfl) rfl
theorem q1271 : (Jvm.Cond.unhidden "WebCourt$Asked$1" "of" "(LWebCourt$Ask;)I") ∈ lw_tbl := lw_at lw_m5 188 rfl
theorem q1272 : (Jvm.Cond.instanceMethod ({ cls := "WebCourt$Asked$1", name := "of", desc := "(LWebCourt$Ask;)I" } : Jvm.MethodName)) ∈ lw_all := lw_g (lw_at lw_m5 189 rfl) rfl
theorem q1273 : (Jvm.Cond.publicMethod ({ cls := "WebCourt$Asked$1", name := "of", desc := "(LWebCourt$Ask;)I" } : Jvm.MethodName)) ∈ lw_tbl := lw_at lw_m5 190 rfl
theorem q1274 : (Jvm.Cond.code ({ cls := "WebCourt$Asked$1", name := "of", desc := "(LWebCourt$Ask;)I" } : Jvm.MethodName) prog_4_method_2_code (2 : Nat) (Option.some Jvm.ClassFile.FieldType.int)) ∈ lw_all := lw_g (lw_at lw_m5 191 rfl) rfl
theorem q2353 : (Jvm.Cond.castable "WebCourt$Asked$1" "java/lang/Object") ∈ lw_tbl := lw_at lw_m10 70 rfl
/-! WebCourt$Asked$2 -/
set_option maxRecDepth 100000
def RX14 : String := "WebCourt$Asked$2"
abbrev cX14_of : ByteArray := prog_5_method_2_code
def yX14_of : MethodName := ⟨RX14, "of", "(LWebCourt$Ask;)I"⟩
theorem dX14_of_0 : decode cX14_of 0 = .ok (.aload_n 1, 1) := by decide +kernel
theorem dX14_of_1 : decode cX14_of 1 = .ok (.getfield 7, 3) := by decide +kernel
theorem dX14_of_4 : decode cX14_of 4 = .ok (.ireturn, 1) := by decide +kernel
theorem q211 : (Jvm.Cond.fieldLink "WebCourt$Asked$2" (7 : Nat) "WebCourt$Ask" "many" "I") ∈ lw_all := lw_g (lw_at lw_m1 88 rfl) rfl
theorem q935 : (Jvm.Cond.selects "WebCourt$Asked$2" ({ cls := "java/lang/Object", name := "getClass", desc := "()Ljava/lang/Class;" } : Jvm.MethodName) ({ cls := "java/lang/Object", name := "getClass", desc := "()Ljava/lang/Class;" } : Jvm.MethodName)) ∈ lw_all := lw_g (lw_at lw_m4 92 rfl) rfl
theorem q1275 : (Jvm.Cond.castable "WebCourt$Asked$2" "WebCourt$Node") ∈ lw_tbl := lw_at lw_m5 192 rfl
theorem q1276 : (Jvm.Cond.selects "WebCourt$Asked$2" ({ cls := "WebCourt$Node", name := "of", desc := "(LWebCourt$Ask;)I" } : Jvm.MethodName) ({ cls := "WebCourt$Asked$2", name := "of", desc := "(LWebCourt$Ask;)I" } : Jvm.MethodName)) ∈ lw_all := lw_g (lw_at lw_m5 193 rfl) rfl
theorem q1277 : (Jvm.Cond.unhidden "WebCourt$Asked$2" "of" "(LWebCourt$Ask;)I") ∈ lw_tbl := lw_at lw_m5 194 rfl
theorem q1278 : (Jvm.Cond.instanceMethod ({ cls := "WebCourt$Asked$2", name := "of", desc := "(LWebCourt$Ask;)I" } : Jvm.MethodName)) ∈ lw_all := lw_g (lw_at lw_m5 195 rfl) rfl
theorem q1279 : (Jvm.Cond.publicMethod ({ cls := "WebCourt$Asked$2", name := "of", desc := "(LWebCourt$Ask;)I" } : Jvm.MethodName)) ∈ lw_tbl := lw_at lw_m5 196 rfl
theorem q1280 : (Jvm.Cond.code ({ cls := "WebCourt$Asked$2", name := "of", desc := "(LWebCourt$Ask;)I" } : Jvm.MethodName) prog_5_method_2_code (2 : Nat) (Option.some Jvm.ClassFile.FieldType.int)) ∈ lw_all := lw_g (lw_at lw_m5 197 rfl) rfl
theorem q2354 : (Jvm.Cond.castable "WebCourt$Asked$2" "java/lang/Object") ∈ lw_tbl := lw_at lw_m10 71 rfl
/-! WebCourt$Asked$3 -/
set_option maxRecDepth 100000
def RX15 : String := "WebCourt$Asked$3"
abbrev cX15_of : ByteArray := prog_6_method_2_code
def yX15_of : MethodName := ⟨RX15, "of", "(LWebCourt$Ask;)I"⟩
theorem dX15_of_0 : decode cX15_of 0 = .ok (.aload_n 1, 1) := by decide +kernel
theorem dX15_of_1 : decode cX15_of 1 = .ok (.getfield 7, 3) := by decide +kernel
theorem dX15_of_4 : decode cX15_of 4 = .ok (.ireturn, 1) := by decide +kernel
theorem q213 : (Jvm.Cond.fieldLink "WebCourt$Asked$3" (7 : Nat) "WebCourt$Ask" "before" "I") ∈ lw_all := lw_g (lw_at lw_m1 90 rfl) rfl
theorem q936 : (Jvm.Cond.selects "WebCourt$Asked$3" ({ cls := "java/lang/Object", name := "getClass", desc := "()Ljava/lang/Class;" } : Jvm.MethodName) ({ cls := "java/lang/Object", name := "getClass", desc := "()Ljava/lang/Class;" } : Jvm.MethodName)) ∈ lw_all := lw_g (lw_at lw_m4 93 rfl) rfl
theorem q1281 : (Jvm.Cond.castable "WebCourt$Asked$3" "WebCourt$Node") ∈ lw_tbl := lw_at lw_m5 198 rfl
theorem q1282 : (Jvm.Cond.selects "WebCourt$Asked$3" ({ cls := "WebCourt$Node", name := "of", desc := "(LWebCourt$Ask;)I" } : Jvm.MethodName) ({ cls := "WebCourt$Asked$3", name := "of", desc := "(LWebCourt$Ask;)I" } : Jvm.MethodName)) ∈ lw_all := lw_g (lw_at lw_m5 199 rfl) rfl
theorem q1283 : (Jvm.Cond.unhidden "WebCourt$Asked$3" "of" "(LWebCourt$Ask;)I") ∈ lw_tbl := lw_at lw_m5 200 rfl
theorem q1284 : (Jvm.Cond.instanceMethod ({ cls := "WebCourt$Asked$3", name := "of", desc := "(LWebCourt$Ask;)I" } : Jvm.MethodName)) ∈ lw_all := lw_g (lw_at lw_m5 201 rfl) rfl
theorem q1285 : (Jvm.Cond.publicMethod ({ cls := "WebCourt$Asked$3", name := "of", desc := "(LWebCourt$Ask;)I" } : Jvm.MethodName)) ∈ lw_tbl := lw_at lw_m5 202 rfl
theorem q1286 : (Jvm.Cond.code ({ cls := "WebCourt$Asked$3", name := "of", desc := "(LWebCourt$Ask;)I" } : Jvm.MethodName) prog_6_method_2_code (2 : Nat) (Option.some Jvm.ClassFile.FieldType.int)) ∈ lw_all := lw_g (lw_at lw_m5 203 rfl) rfl
theorem q2355 : (Jvm.Cond.castable "WebCourt$Asked$3" "java/lang/Object") ∈ lw_tbl := lw_at lw_m10 72 rfl
/-! WebCourt$Asked$4 -/
set_option maxRecDepth 100000
def RX16 : String := "WebCourt$Asked$4"
abbrev cX16_of : ByteArray := prog_7_method_2_code
def yX16_of : MethodName := ⟨RX16, "of", "(LWebCourt$Ask;)I"⟩
theorem dX16_of_0 : decode cX16_of 0 = .ok (.aload_n 1, 1) := by decide +kernel
theorem dX16_of_1 : decode cX16_of 1 = .ok (.getfield 7, 3) := by decide +kernel
theorem dX16_of_4 : decode cX16_of 4 = .ok (.ireturn, 1) := by decide +kernel
theorem q215 : (Jvm.Cond.fieldLink "WebCourt$Asked$4" (7 : Nat) "WebCourt$Ask" "stays" "I") ∈ lw_all := lw_g (lw_at lw_m1 92 rfl) rfl
theorem q937 : (Jvm.Cond.selects "WebCourt$Asked$4" ({ cls := "java/lang/Object", name := "getClass", desc := "()Ljava/lang/Class;" } : Jvm.MethodName) ({ cls := "java/lang/Object", name := "getClass", desc := "()Ljava/lang/Class;" } : Jvm.MethodName)) ∈ lw_all := lw_g (lw_at lw_m4 94 rfl) rfl
theorem q1287 : (Jvm.Cond.castable "WebCourt$Asked$4" "WebCourt$Node") ∈ lw_tbl := lw_at lw_m5 204 rfl
theorem q1288 : (Jvm.Cond.selects "WebCourt$Asked$4" ({ cls := "WebCourt$Node", name := "of", desc := "(LWebCourt$Ask;)I" } : Jvm.MethodName) ({ cls := "WebCourt$Asked$4", name := "of", desc := "(LWebCourt$Ask;)I" } : Jvm.MethodName)) ∈ lw_all := lw_g (lw_at lw_m5 205 rfl) rfl
theorem q1289 : (Jvm.Cond.unhidden "WebCourt$Asked$4" "of" "(LWebCourt$Ask;)I") ∈ lw_tbl := lw_at lw_m5 206 rfl
theorem q1290 : (Jvm.Cond.instanceMethod ({ cls := "WebCourt$Asked$4", name := "of", desc := "(LWebCourt$Ask;)I" } : Jvm.MethodName)) ∈ lw_all := lw_g (lw_at lw_m5 207 rfl) rfl
theorem q1291 : (Jvm.Cond.publicMethod ({ cls := "WebCourt$Asked$4", name := "of", desc := "(LWebCourt$Ask;)I" } : Jvm.MethodName)) ∈ lw_tbl := lw_at lw_m5 208 rfl
theorem q1292 : (Jvm.Cond.code ({ cls := "WebCourt$Asked$4", name := "of", desc := "(LWebCourt$Ask;)I" } : Jvm.MethodName) prog_7_method_2_code (2 : Nat) (Option.some Jvm.ClassFile.FieldType.int)) ∈ lw_all := lw_g (lw_at lw_m5 209 rfl) rfl
theorem q2356 : (Jvm.Cond.castable "WebCourt$Asked$4" "java/lang/Object") ∈ lw_tbl := lw_at lw_m10 73 rfl
/-! WebCourt$Asked$5 -/
set_option maxRecDepth 100000
def RX17 : String := "WebCourt$Asked$5"
abbrev cX17_of : ByteArray := prog_8_method_2_code
def yX17_of : MethodName := ⟨RX17, "of", "(LWebCourt$Ask;)I"⟩
theorem dX17_of_0 : decode cX17_of 0 = .ok (.aload_n 1, 1) := by decide +kernel
theorem dX17_of_1 : decode cX17_of 1 = .ok (.getfield 7, 3) := by decide +kernel
theorem dX17_of_4 : decode cX17_of 4 = .ok (.ireturn, 1) := by decide +kernel
theorem q217 : (Jvm.Cond.fieldLink "WebCourt$Asked$5" (7 : Nat) "WebCourt$Ask" "kin" "I") ∈ lw_all := lw_g (lw_at lw_m1 94 rfl) rfl
theorem q938 : (Jvm.Cond.selects "WebCourt$Asked$5" ({ cls := "java/lang/Object", name := "getClass", desc := "()Ljava/lang/Class;" } : Jvm.MethodName) ({ cls := "java/lang/Object", name := "getClass", desc := "()Ljava/lang/Class;" } : Jvm.MethodName)) ∈ lw_all := lw_g (lw_at lw_m4 95 rfl) rfl
theorem q1293 : (Jvm.Cond.castable "WebCourt$Asked$5" "WebCourt$Node") ∈ lw_tbl := lw_at lw_m5 210 rfl
theorem q1294 : (Jvm.Cond.selects "WebCourt$Asked$5" ({ cls := "WebCourt$Node", name := "of", desc := "(LWebCourt$Ask;)I" } : Jvm.MethodName) ({ cls := "WebCourt$Asked$5", name := "of", desc := "(LWebCourt$Ask;)I" } : Jvm.MethodName)) ∈ lw_all := lw_g (lw_at lw_m5 211 rfl) rfl
theorem q1295 : (Jvm.Cond.unhidden "WebCourt$Asked$5" "of" "(LWebCourt$Ask;)I") ∈ lw_tbl := lw_at lw_m5 212 rfl
theorem q1296 : (Jvm.Cond.instanceMethod ({ cls := "WebCourt$Asked$5", name := "of", desc := "(LWebCourt$Ask;)I" } : Jvm.MethodName)) ∈ lw_all := lw_g (lw_at lw_m5 213 rfl) rfl
theorem q1297 : (Jvm.Cond.publicMethod ({ cls := "WebCourt$Asked$5", name := "of", desc := "(LWebCourt$Ask;)I" } : Jvm.MethodName)) ∈ lw_tbl := lw_at lw_m5 214 rfl
theorem q1298 : (Jvm.Cond.code ({ cls := "WebCourt$Asked$5", name := "of", desc := "(LWebCourt$Ask;)I" } : Jvm.MethodName) prog_8_method_2_code (2 : Nat) (Option.some Jvm.ClassFile.FieldType.int)) ∈ lw_all := lw_g (lw_at lw_m5 215 rfl) rfl
theorem q2357 : (Jvm.Cond.castable "WebCourt$Asked$5" "java/lang/Object") ∈ lw_tbl := lw_at lw_m10 74 rfl
/-! WebCourt$Asked$6 -/
set_option maxRecDepth 100000
def RX18 : String := "WebCourt$Asked$6"
abbrev cX18_of : ByteArray := prog_9_method_2_code
def yX18_of : MethodName := ⟨RX18, "of", "(LWebCourt$Ask;)I"⟩
theorem dX18_of_0 : decode cX18_of 0 = .ok (.aload_n 1, 1) := by decide +kernel
theorem dX18_of_1 : decode cX18_of 1 = .ok (.getfield 7, 3) := by decide +kernel
theorem dX18_of_4 : decode cX18_of 4 = .ok (.ireturn, 1) := by decide +kernel
theorem q219 : (Jvm.Cond.fieldLink "WebCourt$Asked$6" (7 : Nat) "WebCourt$Ask" "hour" "I") ∈ lw_all := lw_g (lw_at lw_m1 96 rfl) rfl
theorem q939 : (Jvm.Cond.selects "WebCourt$Asked$6" ({ cls := "java/lang/Object", name := "getClass", desc := "()Ljava/lang/Class;" } : Jvm.MethodName) ({ cls := "java/lang/Object", name := "getClass", desc := "()Ljava/lang/Class;" } : Jvm.MethodName)) ∈ lw_all := lw_g (lw_at lw_m4 96 rfl) rfl
theorem q1299 : (Jvm.Cond.castable "WebCourt$Asked$6" "WebCourt$Node") ∈ lw_tbl := lw_at lw_m5 216 rfl
theorem q1300 : (Jvm.Cond.selects "WebCourt$Asked$6" ({ cls := "WebCourt$Node", name := "of", desc := "(LWebCourt$Ask;)I" } : Jvm.MethodName) ({ cls := "WebCourt$Asked$6", name := "of", desc := "(LWebCourt$Ask;)I" } : Jvm.MethodName)) ∈ lw_all := lw_g (lw_at lw_m5 217 rfl) rfl
theorem q1301 : (Jvm.Cond.unhidden "WebCourt$Asked$6" "of" "(LWebCourt$Ask;)I") ∈ lw_tbl := lw_at lw_m5 218 rfl
theorem q1302 : (Jvm.Cond.instanceMethod ({ cls := "WebCourt$Asked$6", name := "of", desc := "(LWebCourt$Ask;)I" } : Jvm.MethodName)) ∈ lw_all := lw_g (lw_at lw_m5 219 rfl) rfl
theorem q1303 : (Jvm.Cond.publicMethod ({ cls := "WebCourt$Asked$6", name := "of", desc := "(LWebCourt$Ask;)I" } : Jvm.MethodName)) ∈ lw_tbl := lw_at lw_m5 220 rfl
theorem q1304 : (Jvm.Cond.code ({ cls := "WebCourt$Asked$6", name := "of", desc := "(LWebCourt$Ask;)I" } : Jvm.MethodName) prog_9_method_2_code (2 : Nat) (Option.some Jvm.ClassFile.FieldType.int)) ∈ lw_all := lw_g (lw_at lw_m5 221 rfl) rfl
theorem q2358 : (Jvm.Cond.castable "WebCourt$Asked$6" "java/lang/Object") ∈ lw_tbl := lw_at lw_m10 75 rfl
