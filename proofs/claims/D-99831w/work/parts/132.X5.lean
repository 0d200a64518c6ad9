/-! WebCourt$Reader -/
set_option maxRecDepth 100000
def RX5 : String := "WebCourt$Reader"
def TX5 : u_T := fun k => match k with
  | 0 => ("WebCourt$Reader", "at", "I", false)
  | 1 => ("WebCourt$Reader", "sort", "I", false)
  | 2 => ("WebCourt$Reader", "place", "I", false)
  | 3 => ("WebCourt$Reader", "number", "I", false)
  | 4 => ("WebCourt$Reader", "deep", "I", false)
  | 5 => ("WebCourt$Reader", "own", "I", false)
  | 6 => ("WebCourt$Reader", "hasBench", "Z", false)
  | 7 => ("WebCourt$Reader", "hasBack", "Z", false)
  | 8 => ("WebCourt$Reader", "hasDraw", "Z", false)
  | 9 => ("WebCourt$Reader", "word", "Ljava/lang/String;", false)
  | 10 => ("WebCourt$Reader", "made", "LWebCourt$Book;", true)
  | _ => ("WebCourt$Reader", "this$0", "LWebCourt;", true)
def tyX5 : Nat → FieldType := fun k => match k with
  | 0 => .int
  | 1 => .int
  | 2 => .int
  | 3 => .int
  | 4 => .int
  | 5 => .int
  | 6 => .boolean
  | 7 => .boolean
  | 8 => .boolean
  | 9 => .object "java/lang/String"
  | 10 => .object "WebCourt$Book"
  | _ => .object "WebCourt"
abbrev wsX50 : List Cond := u_ws RX5 TX5 12
theorem nmX5 : ∀ a, a < 12 → ∀ b, b < 12 → a ≠ b → (TX5 a).2.1 ≠ (TX5 b).2.1 := by decide +kernel
theorem tyX5_ok : ∀ k, k < 12 → parseFieldDescriptor (TX5 k).2.2.1 = some (tyX5 k) := by decide +kernel
abbrev cX5_init : ByteArray := prog_18_method_1_code
def yX5_init : MethodName := ⟨RX5, "<init>", "(LWebCourt;)V"⟩
def dkwX5_init_1 : List UInt8 := [181, 0, 24, 177]
abbrev dktX5_init_1 : List UInt8 := dkwX5_init_1 ++ []
def dkwX5_init_0 : List UInt8 := [42, 43, 181, 0, 3, 42, 183, 0, 9, 42, 18, 15, 181, 0, 17, 42, 187, 0, 21, 89, 183, 0, 23]
abbrev dktX5_init_0 : List UInt8 := dkwX5_init_0 ++ dktX5_init_1
theorem dksX5_init_0 : cX5_init.data.toList.drop 0 = dktX5_init_0 := by decide +kernel
theorem dksX5_init_1 : cX5_init.data.toList.drop 23 = dktX5_init_1 := dk_seg dksX5_init_0 23 rfl rfl
theorem dX5_init_0 : decode cX5_init 0 = .ok (.aload_n 0, 1) := dk_42 (dk_at dksX5_init_0 0 rfl rfl)
theorem dX5_init_1 : decode cX5_init 1 = .ok (.aload_n 1, 1) := dk_43 (dk_at dksX5_init_0 1 rfl rfl)
theorem dX5_init_2 : decode cX5_init 2 = .ok (.putfield 3, 3) := dk_181 0 3 (dk_at dksX5_init_0 2 rfl rfl)
theorem dX5_init_5 : decode cX5_init 5 = .ok (.aload_n 0, 1) := dk_42 (dk_at dksX5_init_0 5 rfl rfl)
theorem dX5_init_6 : decode cX5_init 6 = .ok (.invokespecial 9, 3) := dk_183 0 9 (dk_at dksX5_init_0 6 rfl rfl)
theorem dX5_init_9 : decode cX5_init 9 = .ok (.aload_n 0, 1) := dk_42 (dk_at dksX5_init_0 9 rfl rfl)
theorem dX5_init_10 : decode cX5_init 10 = .ok (.ldc 15, 2) := dk_18 15 (dk_at dksX5_init_0 10 rfl rfl)
theorem dX5_init_12 : decode cX5_init 12 = .ok (.putfield 17, 3) := dk_181 0 17 (dk_at dksX5_init_0 12 rfl rfl)
theorem dX5_init_15 : decode cX5_init 15 = .ok (.aload_n 0, 1) := dk_42 (dk_at dksX5_init_0 15 rfl rfl)
theorem dX5_init_16 : decode cX5_init 16 = .ok (.new 21, 3) := dk_187 0 21 (dk_at dksX5_init_0 16 rfl rfl)
theorem dX5_init_19 : decode cX5_init 19 = .ok (.dup, 1) := dk_89 (dk_at dksX5_init_0 19 rfl rfl)
theorem dX5_init_20 : decode cX5_init 20 = .ok (.invokespecial 23, 3) := dk_183 0 23 (dk_at dksX5_init_0 20 rfl rfl)
theorem dX5_init_23 : decode cX5_init 23 = .ok (.putfield 24, 3) := dk_181 0 24 (dk_at dksX5_init_1 0 rfl rfl)
theorem dX5_init_26 : decode cX5_init 26 = .ok (.return_, 1) := dk_177 (dk_at dksX5_init_1 3 rfl rfl)
abbrev cX5_text : ByteArray := prog_18_method_17_code
def yX5_text : MethodName := ⟨RX5, "text", "()LWebCourt$Book;"⟩
def dkwX5_text_1 : List UInt8 := [42, 182, 0, 96, 191, 42, 182, 0, 90, 167, 255, 227, 42, 180, 0, 24, 176]
abbrev dktX5_text_1 : List UInt8 := dkwX5_text_1 ++ []
def dkwX5_text_0 : List UInt8 := [42, 182, 0, 90, 42, 180, 0, 46, 153, 0, 28, 42, 182, 0, 166, 42, 180, 0, 46, 16, 59, 159, 0, 8]
abbrev dktX5_text_0 : List UInt8 := dkwX5_text_0 ++ dktX5_text_1
theorem dksX5_text_0 : cX5_text.data.toList.drop 0 = dktX5_text_0 := by decide +kernel
theorem dksX5_text_1 : cX5_text.data.toList.drop 24 = dktX5_text_1 := dk_seg dksX5_text_0 24 rfl rfl
theorem dX5_text_0 : decode cX5_text 0 = .ok (.aload_n 0, 1) := dk_42 (dk_at dksX5_text_0 0 rfl rfl)
theorem dX5_text_1 : decode cX5_text 1 = .ok (.invokevirtual 90, 3) := dk_182 0 90 (dk_at dksX5_text_0 1 rfl rfl)
theorem dX5_text_4 : decode cX5_text 4 = .ok (.aload_n 0, 1) := dk_42 (dk_at dksX5_text_0 4 rfl rfl)
theorem dX5_text_5 : decode cX5_text 5 = .ok (.getfield 46, 3) := dk_180 0 46 (dk_at dksX5_text_0 5 rfl rfl)
theorem dX5_text_8 : decode cX5_text 8 = .ok (.ifCond .eq 28, 3) := dk_153 0 28 (dk_at dksX5_text_0 8 rfl rfl)
theorem dX5_text_11 : decode cX5_text 11 = .ok (.aload_n 0, 1) := dk_42 (dk_at dksX5_text_0 11 rfl rfl)
theorem dX5_text_12 : decode cX5_text 12 = .ok (.invokevirtual 166, 3) := dk_182 0 166 (dk_at dksX5_text_0 12 rfl rfl)
theorem dX5_text_15 : decode cX5_text 15 = .ok (.aload_n 0, 1) := dk_42 (dk_at dksX5_text_0 15 rfl rfl)
theorem dX5_text_16 : decode cX5_text 16 = .ok (.getfield 46, 3) := dk_180 0 46 (dk_at dksX5_text_0 16 rfl rfl)
theorem dX5_text_19 : decode cX5_text 19 = .ok (.bipush 59, 2) := dk_16 59 (dk_at dksX5_text_0 19 rfl rfl)
theorem dX5_text_21 : decode cX5_text 21 = .ok (.if_icmp .eq 8, 3) := dk_159 0 8 (dk_at dksX5_text_0 21 rfl rfl)
theorem dX5_text_24 : decode cX5_text 24 = .ok (.aload_n 0, 1) := dk_42 (dk_at dksX5_text_1 0 rfl rfl)
theorem dX5_text_25 : decode cX5_text 25 = .ok (.invokevirtual 96, 3) := dk_182 0 96 (dk_at dksX5_text_1 1 rfl rfl)
theorem dX5_text_28 : decode cX5_text 28 = .ok (.athrow, 1) := dk_191 (dk_at dksX5_text_1 4 rfl rfl)
theorem dX5_text_29 : decode cX5_text 29 = .ok (.aload_n 0, 1) := dk_42 (dk_at dksX5_text_1 5 rfl rfl)
theorem dX5_text_30 : decode cX5_text 30 = .ok (.invokevirtual 90, 3) := dk_182 0 90 (dk_at dksX5_text_1 6 rfl rfl)
theorem dX5_text_33 : decode cX5_text 33 = .ok (.goto (-29), 3) := dk_167 255 227 (dk_at dksX5_text_1 9 rfl rfl)
theorem dX5_text_36 : decode cX5_text 36 = .ok (.aload_n 0, 1) := dk_42 (dk_at dksX5_text_1 12 rfl rfl)
theorem dX5_text_37 : decode cX5_text 37 = .ok (.getfield 24, 3) := dk_180 0 24 (dk_at dksX5_text_1 13 rfl rfl)
theorem dX5_text_40 : decode cX5_text 40 = .ok (.areturn, 1) := dk_176 (dk_at dksX5_text_1 16 rfl rfl)
abbrev cX5_go : ByteArray := prog_18_method_6_code
def yX5_go : MethodName := ⟨RX5, "go", "()V"⟩
def dkwX5_go_10 : List UInt8 := [181, 0, 28, 177]
abbrev dktX5_go_10 : List UInt8 := dkwX5_go_10 ++ []
def dkwX5_go_9 : List UInt8 := [167, 0, 17, 27, 184, 0, 72, 153, 0, 10, 42, 27, 181, 0, 46, 4, 61, 42, 89, 180, 0, 28, 28, 96]
abbrev dktX5_go_9 : List UInt8 := dkwX5_go_9 ++ dktX5_go_10
def dkwX5_go_8 : List UInt8 := [167, 255, 220, 28, 7, 163, 0, 11, 42, 28, 182, 0, 49, 153, 0, 4, 177, 42, 5, 181, 0, 46]
abbrev dktX5_go_8 : List UInt8 := dkwX5_go_8 ++ dktX5_go_9
def dkwX5_go_7 : List UInt8 := [42, 16, 10, 42, 180, 0, 69, 104, 42, 28, 182, 0, 39, 96, 16, 48, 100, 181, 0, 69, 132, 2, 1]
abbrev dktX5_go_7 : List UInt8 := dkwX5_go_7 ++ dktX5_go_8
def dkwX5_go_6 : List UInt8 := [182, 0, 66, 153, 0, 69, 42, 3, 181, 0, 69, 42, 28, 182, 0, 66, 153, 0, 34, 28, 7, 162, 0, 23]
abbrev dktX5_go_6 : List UInt8 := dkwX5_go_6 ++ dktX5_go_7
def dkwX5_go_5 : List UInt8 := [16, 8, 164, 0, 4, 177, 42, 45, 182, 0, 62, 181, 0, 17, 42, 4, 181, 0, 46, 167, 0, 91, 42, 3]
abbrev dktX5_go_5 : List UInt8 := dkwX5_go_5 ++ dktX5_go_6
def dkwX5_go_4 : List UInt8 := [28, 16, 8, 162, 0, 14, 45, 42, 28, 182, 0, 39, 146, 182, 0, 58, 87, 132, 2, 1, 167, 255, 228, 28]
abbrev dktX5_go_4 : List UInt8 := dkwX5_go_4 ++ dktX5_go_5
def dkwX5_go_3 : List UInt8 := [182, 0, 49, 153, 0, 67, 187, 0, 53, 89, 16, 8, 183, 0, 55, 78, 42, 28, 182, 0, 49, 153, 0, 26]
abbrev dktX5_go_3 : List UInt8 := dkwX5_go_3 ++ dktX5_go_4
def dkwX5_go_2 : List UInt8 := [60, 3, 61, 42, 6, 181, 0, 46, 27, 156, 0, 11, 42, 3, 181, 0, 46, 167, 0, 163, 42, 3]
abbrev dktX5_go_2 : List UInt8 := dkwX5_go_2 ++ dktX5_go_3
def dkwX5_go_1 : List UInt8 := [180, 0, 28, 4, 96, 181, 0, 28, 167, 255, 226, 42, 42, 180, 0, 28, 181, 0, 43, 42, 3, 182, 0, 39]
abbrev dktX5_go_1 : List UInt8 := dkwX5_go_1 ++ dktX5_go_2
def dkwX5_go_0 : List UInt8 := [42, 3, 182, 0, 39, 16, 32, 159, 0, 13, 42, 3, 182, 0, 39, 16, 10, 160, 0, 16, 42, 89]
abbrev dktX5_go_0 : List UInt8 := dkwX5_go_0 ++ dktX5_go_1
theorem dksX5_go_0 : cX5_go.data.toList.drop 0 = dktX5_go_0 := by decide +kernel
theorem dksX5_go_1 : cX5_go.data.toList.drop 22 = dktX5_go_1 := dk_seg dksX5_go_0 22 rfl rfl
theorem dksX5_go_2 : cX5_go.data.toList.drop 46 = dktX5_go_2 := dk_seg dksX5_go_1 24 rfl rfl
theorem dksX5_go_3 : cX5_go.data.toList.drop 68 = dktX5_go_3 := dk_seg dksX5_go_2 22 rfl rfl
theorem dksX5_go_4 : cX5_go.data.toList.drop 92 = dktX5_go_4 := dk_seg dksX5_go_3 24 rfl rfl
theorem dksX5_go_5 : cX5_go.data.toList.drop 116 = dktX5_go_5 := dk_seg dksX5_go_4 24 rfl rfl
theorem dksX5_go_6 : cX5_go.data.toList.drop 140 = dktX5_go_6 := dk_seg dksX5_go_5 24 rfl rfl
theorem dksX5_go_7 : cX5_go.data.toList.drop 164 = dktX5_go_7 := dk_seg dksX5_go_6 24 rfl rfl
theorem dksX5_go_8 : cX5_go.data.toList.drop 187 = dktX5_go_8 := dk_seg dksX5_go_7 23 rfl rfl
theorem dksX5_go_9 : cX5_go.data.toList.drop 209 = dktX5_go_9 := dk_seg dksX5_go_8 22 rfl rfl
theorem dksX5_go_10 : cX5_go.data.toList.drop 233 = dktX5_go_10 := dk_seg dksX5_go_9 24 rfl rfl
theorem dX5_go_0 : decode cX5_go 0 = .ok (.aload_n 0, 1) := dk_42 (dk_at dksX5_go_0 0 rfl rfl)
theorem dX5_go_1 : decode cX5_go 1 = .ok (.iconst 0, 1) := dk_3 (dk_at dksX5_go_0 1 rfl rfl)
theorem dX5_go_2 : decode cX5_go 2 = .ok (.invokevirtual 39, 3) := dk_182 0 39 (dk_at dksX5_go_0 2 rfl rfl)
theorem dX5_go_5 : decode cX5_go 5 = .ok (.bipush 32, 2) := dk_16 32 (dk_at dksX5_go_0 5 rfl rfl)
theorem dX5_go_7 : decode cX5_go 7 = .ok (.if_icmp .eq 13, 3) := dk_159 0 13 (dk_at dksX5_go_0 7 rfl rfl)
theorem dX5_go_10 : decode cX5_go 10 = .ok (.aload_n 0, 1) := dk_42 (dk_at dksX5_go_0 10 rfl rfl)
theorem dX5_go_11 : decode cX5_go 11 = .ok (.iconst 0, 1) := dk_3 (dk_at dksX5_go_0 11 rfl rfl)
theorem dX5_go_12 : decode cX5_go 12 = .ok (.invokevirtual 39, 3) := dk_182 0 39 (dk_at dksX5_go_0 12 rfl rfl)
theorem dX5_go_15 : decode cX5_go 15 = .ok (.bipush 10, 2) := dk_16 10 (dk_at dksX5_go_0 15 rfl rfl)
theorem dX5_go_17 : decode cX5_go 17 = .ok (.if_icmp .ne 16, 3) := dk_160 0 16 (dk_at dksX5_go_0 17 rfl rfl)
theorem dX5_go_20 : decode cX5_go 20 = .ok (.aload_n 0, 1) := dk_42 (dk_at dksX5_go_0 20 rfl rfl)
theorem dX5_go_21 : decode cX5_go 21 = .ok (.dup, 1) := dk_89 (dk_at dksX5_go_0 21 rfl rfl)
theorem dX5_go_22 : decode cX5_go 22 = .ok (.getfield 28, 3) := dk_180 0 28 (dk_at dksX5_go_1 0 rfl rfl)
theorem dX5_go_25 : decode cX5_go 25 = .ok (.iconst 1, 1) := dk_4 (dk_at dksX5_go_1 3 rfl rfl)
theorem dX5_go_26 : decode cX5_go 26 = .ok (.iadd, 1) := dk_96 (dk_at dksX5_go_1 4 rfl rfl)
theorem dX5_go_27 : decode cX5_go 27 = .ok (.putfield 28, 3) := dk_181 0 28 (dk_at dksX5_go_1 5 rfl rfl)
theorem dX5_go_30 : decode cX5_go 30 = .ok (.goto (-30), 3) := dk_167 255 226 (dk_at dksX5_go_1 8 rfl rfl)
theorem dX5_go_33 : decode cX5_go 33 = .ok (.aload_n 0, 1) := dk_42 (dk_at dksX5_go_1 11 rfl rfl)
theorem dX5_go_34 : decode cX5_go 34 = .ok (.aload_n 0, 1) := dk_42 (dk_at dksX5_go_1 12 rfl rfl)
theorem dX5_go_35 : decode cX5_go 35 = .ok (.getfield 28, 3) := dk_180 0 28 (dk_at dksX5_go_1 13 rfl rfl)
theorem dX5_go_38 : decode cX5_go 38 = .ok (.putfield 43, 3) := dk_181 0 43 (dk_at dksX5_go_1 16 rfl rfl)
theorem dX5_go_41 : decode cX5_go 41 = .ok (.aload_n 0, 1) := dk_42 (dk_at dksX5_go_1 19 rfl rfl)
theorem dX5_go_42 : decode cX5_go 42 = .ok (.iconst 0, 1) := dk_3 (dk_at dksX5_go_1 20 rfl rfl)
theorem dX5_go_43 : decode cX5_go 43 = .ok (.invokevirtual 39, 3) := dk_182 0 39 (dk_at dksX5_go_1 21 rfl rfl)
theorem dX5_go_46 : decode cX5_go 46 = .ok (.istore_n 1, 1) := dk_60 (dk_at dksX5_go_2 0 rfl rfl)
theorem dX5_go_47 : decode cX5_go 47 = .ok (.iconst 0, 1) := dk_3 (dk_at dksX5_go_2 1 rfl rfl)
theorem dX5_go_48 : decode cX5_go 48 = .ok (.istore_n 2, 1) := dk_61 (dk_at dksX5_go_2 2 rfl rfl)
theorem dX5_go_49 : decode cX5_go 49 = .ok (.aload_n 0, 1) := dk_42 (dk_at dksX5_go_2 3 rfl rfl)
theorem dX5_go_50 : decode cX5_go 50 = .ok (.iconst 3, 1) := dk_6 (dk_at dksX5_go_2 4 rfl rfl)
theorem dX5_go_51 : decode cX5_go 51 = .ok (.putfield 46, 3) := dk_181 0 46 (dk_at dksX5_go_2 5 rfl rfl)
theorem dX5_go_54 : decode cX5_go 54 = .ok (.iload_n 1, 1) := dk_27 (dk_at dksX5_go_2 8 rfl rfl)
theorem dX5_go_55 : decode cX5_go 55 = .ok (.ifCond .ge 11, 3) := dk_156 0 11 (dk_at dksX5_go_2 9 rfl rfl)
theorem dX5_go_58 : decode cX5_go 58 = .ok (.aload_n 0, 1) := dk_42 (dk_at dksX5_go_2 12 rfl rfl)
theorem dX5_go_59 : decode cX5_go 59 = .ok (.iconst 0, 1) := dk_3 (dk_at dksX5_go_2 13 rfl rfl)
theorem dX5_go_60 : decode cX5_go 60 = .ok (.putfield 46, 3) := dk_181 0 46 (dk_at dksX5_go_2 14 rfl rfl)
theorem dX5_go_63 : decode cX5_go 63 = .ok (.goto 163, 3) := dk_167 0 163 (dk_at dksX5_go_2 17 rfl rfl)
theorem dX5_go_66 : decode cX5_go 66 = .ok (.aload_n 0, 1) := dk_42 (dk_at dksX5_go_2 20 rfl rfl)
theorem dX5_go_67 : decode cX5_go 67 = .ok (.iconst 0, 1) := dk_3 (dk_at dksX5_go_2 21 rfl rfl)
theorem dX5_go_68 : decode cX5_go 68 = .ok (.invokevirtual 49, 3) := dk_182 0 49 (dk_at dksX5_go_3 0 rfl rfl)
theorem dX5_go_71 : decode cX5_go 71 = .ok (.ifCond .eq 67, 3) := dk_153 0 67 (dk_at dksX5_go_3 3 rfl rfl)
theorem dX5_go_74 : decode cX5_go 74 = .ok (.new 53, 3) := dk_187 0 53 (dk_at dksX5_go_3 6 rfl rfl)
theorem dX5_go_77 : decode cX5_go 77 = .ok (.dup, 1) := dk_89 (dk_at dksX5_go_3 9 rfl rfl)
theorem dX5_go_78 : decode cX5_go 78 = .ok (.bipush 8, 2) := dk_16 8 (dk_at dksX5_go_3 10 rfl rfl)
theorem dX5_go_80 : decode cX5_go 80 = .ok (.invokespecial 55, 3) := dk_183 0 55 (dk_at dksX5_go_3 12 rfl rfl)
theorem dX5_go_83 : decode cX5_go 83 = .ok (.astore_n 3, 1) := dk_78 (dk_at dksX5_go_3 15 rfl rfl)
theorem dX5_go_84 : decode cX5_go 84 = .ok (.aload_n 0, 1) := dk_42 (dk_at dksX5_go_3 16 rfl rfl)
theorem dX5_go_85 : decode cX5_go 85 = .ok (.iload_n 2, 1) := dk_28 (dk_at dksX5_go_3 17 rfl rfl)
theorem dX5_go_86 : decode cX5_go 86 = .ok (.invokevirtual 49, 3) := dk_182 0 49 (dk_at dksX5_go_3 18 rfl rfl)
theorem dX5_go_89 : decode cX5_go 89 = .ok (.ifCond .eq 26, 3) := dk_153 0 26 (dk_at dksX5_go_3 21 rfl rfl)
theorem dX5_go_92 : decode cX5_go 92 = .ok (.iload_n 2, 1) := dk_28 (dk_at dksX5_go_4 0 rfl rfl)
theorem dX5_go_93 : decode cX5_go 93 = .ok (.bipush 8, 2) := dk_16 8 (dk_at dksX5_go_4 1 rfl rfl)
theorem dX5_go_95 : decode cX5_go 95 = .ok (.if_icmp .ge 14, 3) := dk_162 0 14 (dk_at dksX5_go_4 3 rfl rfl)
theorem dX5_go_98 : decode cX5_go 98 = .ok (.aload_n 3, 1) := dk_45 (dk_at dksX5_go_4 6 rfl rfl)
theorem dX5_go_99 : decode cX5_go 99 = .ok (.aload_n 0, 1) := dk_42 (dk_at dksX5_go_4 7 rfl rfl)
theorem dX5_go_100 : decode cX5_go 100 = .ok (.iload_n 2, 1) := dk_28 (dk_at dksX5_go_4 8 rfl rfl)
theorem dX5_go_101 : decode cX5_go 101 = .ok (.invokevirtual 39, 3) := dk_182 0 39 (dk_at dksX5_go_4 9 rfl rfl)
theorem dX5_go_104 : decode cX5_go 104 = .ok (.i2c, 1) := dk_146 (dk_at dksX5_go_4 12 rfl rfl)
theorem dX5_go_105 : decode cX5_go 105 = .ok (.invokevirtual 58, 3) := dk_182 0 58 (dk_at dksX5_go_4 13 rfl rfl)
theorem dX5_go_108 : decode cX5_go 108 = .ok (.pop, 1) := dk_87 (dk_at dksX5_go_4 16 rfl rfl)
theorem dX5_go_109 : decode cX5_go 109 = .ok (.iinc 2 1, 3) := dk_132 2 1 (dk_at dksX5_go_4 17 rfl rfl)
theorem dX5_go_112 : decode cX5_go 112 = .ok (.goto (-28), 3) := dk_167 255 228 (dk_at dksX5_go_4 20 rfl rfl)
theorem dX5_go_115 : decode cX5_go 115 = .ok (.iload_n 2, 1) := dk_28 (dk_at dksX5_go_4 23 rfl rfl)
theorem dX5_go_116 : decode cX5_go 116 = .ok (.bipush 8, 2) := dk_16 8 (dk_at dksX5_go_5 0 rfl rfl)
theorem dX5_go_118 : decode cX5_go 118 = .ok (.if_icmp .le 4, 3) := dk_164 0 4 (dk_at dksX5_go_5 2 rfl rfl)
theorem dX5_go_121 : decode cX5_go 121 = .ok (.return_, 1) := dk_177 (dk_at dksX5_go_5 5 rfl rfl)
theorem dX5_go_122 : decode cX5_go 122 = .ok (.aload_n 0, 1) := dk_42 (dk_at dksX5_go_5 6 rfl rfl)
theorem dX5_go_123 : decode cX5_go 123 = .ok (.aload_n 3, 1) := dk_45 (dk_at dksX5_go_5 7 rfl rfl)
theorem dX5_go_124 : decode cX5_go 124 = .ok (.invokevirtual 62, 3) := dk_182 0 62 (dk_at dksX5_go_5 8 rfl rfl)
theorem dX5_go_127 : decode cX5_go 127 = .ok (.putfield 17, 3) := dk_181 0 17 (dk_at dksX5_go_5 11 rfl rfl)
theorem dX5_go_130 : decode cX5_go 130 = .ok (.aload_n 0, 1) := dk_42 (dk_at dksX5_go_5 14 rfl rfl)
theorem dX5_go_131 : decode cX5_go 131 = .ok (.iconst 1, 1) := dk_4 (dk_at dksX5_go_5 15 rfl rfl)
theorem dX5_go_132 : decode cX5_go 132 = .ok (.putfield 46, 3) := dk_181 0 46 (dk_at dksX5_go_5 16 rfl rfl)
theorem dX5_go_135 : decode cX5_go 135 = .ok (.goto 91, 3) := dk_167 0 91 (dk_at dksX5_go_5 19 rfl rfl)
theorem dX5_go_138 : decode cX5_go 138 = .ok (.aload_n 0, 1) := dk_42 (dk_at dksX5_go_5 22 rfl rfl)
theorem dX5_go_139 : decode cX5_go 139 = .ok (.iconst 0, 1) := dk_3 (dk_at dksX5_go_5 23 rfl rfl)
theorem dX5_go_140 : decode cX5_go 140 = .ok (.invokevirtual 66, 3) := dk_182 0 66 (dk_at dksX5_go_6 0 rfl rfl)
theorem dX5_go_143 : decode cX5_go 143 = .ok (.ifCond .eq 69, 3) := dk_153 0 69 (dk_at dksX5_go_6 3 rfl rfl)
theorem dX5_go_146 : decode cX5_go 146 = .ok (.aload_n 0, 1) := dk_42 (dk_at dksX5_go_6 6 rfl rfl)
theorem dX5_go_147 : decode cX5_go 147 = .ok (.iconst 0, 1) := dk_3 (dk_at dksX5_go_6 7 rfl rfl)
theorem dX5_go_148 : decode cX5_go 148 = .ok (.putfield 69, 3) := dk_181 0 69 (dk_at dksX5_go_6 8 rfl rfl)
theorem dX5_go_151 : decode cX5_go 151 = .ok (.aload_n 0, 1) := dk_42 (dk_at dksX5_go_6 11 rfl rfl)
theorem dX5_go_152 : decode cX5_go 152 = .ok (.iload_n 2, 1) := dk_28 (dk_at dksX5_go_6 12 rfl rfl)
theorem dX5_go_153 : decode cX5_go 153 = .ok (.invokevirtual 66, 3) := dk_182 0 66 (dk_at dksX5_go_6 13 rfl rfl)
theorem dX5_go_156 : decode cX5_go 156 = .ok (.ifCond .eq 34, 3) := dk_153 0 34 (dk_at dksX5_go_6 16 rfl rfl)
theorem dX5_go_159 : decode cX5_go 159 = .ok (.iload_n 2, 1) := dk_28 (dk_at dksX5_go_6 19 rfl rfl)
theorem dX5_go_160 : decode cX5_go 160 = .ok (.iconst 4, 1) := dk_7 (dk_at dksX5_go_6 20 rfl rfl)
theorem dX5_go_161 : decode cX5_go 161 = .ok (.if_icmp .ge 23, 3) := dk_162 0 23 (dk_at dksX5_go_6 21 rfl rfl)
theorem dX5_go_164 : decode cX5_go 164 = .ok (.aload_n 0, 1) := dk_42 (dk_at dksX5_go_7 0 rfl rfl)
theorem dX5_go_165 : decode cX5_go 165 = .ok (.bipush 10, 2) := dk_16 10 (dk_at dksX5_go_7 1 rfl rfl)
theorem dX5_go_167 : decode cX5_go 167 = .ok (.aload_n 0, 1) := dk_42 (dk_at dksX5_go_7 3 rfl rfl)
theorem dX5_go_168 : decode cX5_go 168 = .ok (.getfield 69, 3) := dk_180 0 69 (dk_at dksX5_go_7 4 rfl rfl)
theorem dX5_go_171 : decode cX5_go 171 = .ok (.imul, 1) := dk_104 (dk_at dksX5_go_7 7 rfl rfl)
theorem dX5_go_172 : decode cX5_go 172 = .ok (.aload_n 0, 1) := dk_42 (dk_at dksX5_go_7 8 rfl rfl)
theorem dX5_go_173 : decode cX5_go 173 = .ok (.iload_n 2, 1) := dk_28 (dk_at dksX5_go_7 9 rfl rfl)
theorem dX5_go_174 : decode cX5_go 174 = .ok (.invokevirtual 39, 3) := dk_182 0 39 (dk_at dksX5_go_7 10 rfl rfl)
theorem dX5_go_177 : decode cX5_go 177 = .ok (.iadd, 1) := dk_96 (dk_at dksX5_go_7 13 rfl rfl)
theorem dX5_go_178 : decode cX5_go 178 = .ok (.bipush 48, 2) := dk_16 48 (dk_at dksX5_go_7 14 rfl rfl)
theorem dX5_go_180 : decode cX5_go 180 = .ok (.isub, 1) := dk_100 (dk_at dksX5_go_7 16 rfl rfl)
theorem dX5_go_181 : decode cX5_go 181 = .ok (.putfield 69, 3) := dk_181 0 69 (dk_at dksX5_go_7 17 rfl rfl)
theorem dX5_go_184 : decode cX5_go 184 = .ok (.iinc 2 1, 3) := dk_132 2 1 (dk_at dksX5_go_7 20 rfl rfl)
theorem dX5_go_187 : decode cX5_go 187 = .ok (.goto (-36), 3) := dk_167 255 220 (dk_at dksX5_go_8 0 rfl rfl)
theorem dX5_go_190 : decode cX5_go 190 = .ok (.iload_n 2, 1) := dk_28 (dk_at dksX5_go_8 3 rfl rfl)
theorem dX5_go_191 : decode cX5_go 191 = .ok (.iconst 4, 1) := dk_7 (dk_at dksX5_go_8 4 rfl rfl)
theorem dX5_go_192 : decode cX5_go 192 = .ok (.if_icmp .gt 11, 3) := dk_163 0 11 (dk_at dksX5_go_8 5 rfl rfl)
theorem dX5_go_195 : decode cX5_go 195 = .ok (.aload_n 0, 1) := dk_42 (dk_at dksX5_go_8 8 rfl rfl)
theorem dX5_go_196 : decode cX5_go 196 = .ok (.iload_n 2, 1) := dk_28 (dk_at dksX5_go_8 9 rfl rfl)
theorem dX5_go_197 : decode cX5_go 197 = .ok (.invokevirtual 49, 3) := dk_182 0 49 (dk_at dksX5_go_8 10 rfl rfl)
theorem dX5_go_200 : decode cX5_go 200 = .ok (.ifCond .eq 4, 3) := dk_153 0 4 (dk_at dksX5_go_8 13 rfl rfl)
theorem dX5_go_203 : decode cX5_go 203 = .ok (.return_, 1) := dk_177 (dk_at dksX5_go_8 16 rfl rfl)
theorem dX5_go_204 : decode cX5_go 204 = .ok (.aload_n 0, 1) := dk_42 (dk_at dksX5_go_8 17 rfl rfl)
theorem dX5_go_205 : decode cX5_go 205 = .ok (.iconst 2, 1) := dk_5 (dk_at dksX5_go_8 18 rfl rfl)
theorem dX5_go_206 : decode cX5_go 206 = .ok (.putfield 46, 3) := dk_181 0 46 (dk_at dksX5_go_8 19 rfl rfl)
theorem dX5_go_209 : decode cX5_go 209 = .ok (.goto 17, 3) := dk_167 0 17 (dk_at dksX5_go_9 0 rfl rfl)
theorem dX5_go_212 : decode cX5_go 212 = .ok (.iload_n 1, 1) := dk_27 (dk_at dksX5_go_9 3 rfl rfl)
theorem dX5_go_213 : decode cX5_go 213 = .ok (.invokestatic 72, 3) := dk_184 0 72 (dk_at dksX5_go_9 4 rfl rfl)
theorem dX5_go_216 : decode cX5_go 216 = .ok (.ifCond .eq 10, 3) := dk_153 0 10 (dk_at dksX5_go_9 7 rfl rfl)
theorem dX5_go_219 : decode cX5_go 219 = .ok (.aload_n 0, 1) := dk_42 (dk_at dksX5_go_9 10 rfl rfl)
theorem dX5_go_220 : decode cX5_go 220 = .ok (.iload_n 1, 1) := dk_27 (dk_at dksX5_go_9 11 rfl rfl)
theorem dX5_go_221 : decode cX5_go 221 = .ok (.putfield 46, 3) := dk_181 0 46 (dk_at dksX5_go_9 12 rfl rfl)
theorem dX5_go_224 : decode cX5_go 224 = .ok (.iconst 1, 1) := dk_4 (dk_at dksX5_go_9 15 rfl rfl)
theorem dX5_go_225 : decode cX5_go 225 = .ok (.istore_n 2, 1) := dk_61 (dk_at dksX5_go_9 16 rfl rfl)
theorem dX5_go_226 : decode cX5_go 226 = .ok (.aload_n 0, 1) := dk_42 (dk_at dksX5_go_9 17 rfl rfl)
theorem dX5_go_227 : decode cX5_go 227 = .ok (.dup, 1) := dk_89 (dk_at dksX5_go_9 18 rfl rfl)
theorem dX5_go_228 : decode cX5_go 228 = .ok (.getfield 28, 3) := dk_180 0 28 (dk_at dksX5_go_9 19 rfl rfl)
theorem dX5_go_231 : decode cX5_go 231 = .ok (.iload_n 2, 1) := dk_28 (dk_at dksX5_go_9 22 rfl rfl)
theorem dX5_go_232 : decode cX5_go 232 = .ok (.iadd, 1) := dk_96 (dk_at dksX5_go_9 23 rfl rfl)
theorem dX5_go_233 : decode cX5_go 233 = .ok (.putfield 28, 3) := dk_181 0 28 (dk_at dksX5_go_10 0 rfl rfl)
theorem dX5_go_236 : decode cX5_go 236 = .ok (.return_, 1) := dk_177 (dk_at dksX5_go_10 3 rfl rfl)
abbrev cX5_here : ByteArray := prog_18_method_2_code
def yX5_here : MethodName := ⟨RX5, "here", "(I)I"⟩
def dkwX5_here_1 : List UInt8 := [180, 0, 28, 27, 96, 51, 17, 0, 255, 126, 167, 0, 4, 2, 172]
abbrev dktX5_here_1 : List UInt8 := dkwX5_here_1 ++ []
def dkwX5_here_0 : List UInt8 := [42, 180, 0, 28, 27, 96, 42, 180, 0, 3, 180, 0, 32, 162, 0, 24, 42, 180, 0, 3, 180, 0, 35, 42]
abbrev dktX5_here_0 : List UInt8 := dkwX5_here_0 ++ dktX5_here_1
theorem dksX5_here_0 : cX5_here.data.toList.drop 0 = dktX5_here_0 := by decide +kernel
theorem dksX5_here_1 : cX5_here.data.toList.drop 24 = dktX5_here_1 := dk_seg dksX5_here_0 24 rfl rfl
theorem dX5_here_0 : decode cX5_here 0 = .ok (.aload_n 0, 1) := dk_42 (dk_at dksX5_here_0 0 rfl rfl)
theorem dX5_here_1 : decode cX5_here 1 = .ok (.getfield 28, 3) := dk_180 0 28 (dk_at dksX5_here_0 1 rfl rfl)
theorem dX5_here_4 : decode cX5_here 4 = .ok (.iload_n 1, 1) := dk_27 (dk_at dksX5_here_0 4 rfl rfl)
theorem dX5_here_5 : decode cX5_here 5 = .ok (.iadd, 1) := dk_96 (dk_at dksX5_here_0 5 rfl rfl)
theorem dX5_here_6 : decode cX5_here 6 = .ok (.aload_n 0, 1) := dk_42 (dk_at dksX5_here_0 6 rfl rfl)
theorem dX5_here_7 : decode cX5_here 7 = .ok (.getfield 3, 3) := dk_180 0 3 (dk_at dksX5_here_0 7 rfl rfl)
theorem dX5_here_10 : decode cX5_here 10 = .ok (.getfield 32, 3) := dk_180 0 32 (dk_at dksX5_here_0 10 rfl rfl)
theorem dX5_here_13 : decode cX5_here 13 = .ok (.if_icmp .ge 24, 3) := dk_162 0 24 (dk_at dksX5_here_0 13 rfl rfl)
theorem dX5_here_16 : decode cX5_here 16 = .ok (.aload_n 0, 1) := dk_42 (dk_at dksX5_here_0 16 rfl rfl)
theorem dX5_here_17 : decode cX5_here 17 = .ok (.getfield 3, 3) := dk_180 0 3 (dk_at dksX5_here_0 17 rfl rfl)
theorem dX5_here_20 : decode cX5_here 20 = .ok (.getfield 35, 3) := dk_180 0 35 (dk_at dksX5_here_0 20 rfl rfl)
theorem dX5_here_23 : decode cX5_here 23 = .ok (.aload_n 0, 1) := dk_42 (dk_at dksX5_here_0 23 rfl rfl)
theorem dX5_here_24 : decode cX5_here 24 = .ok (.getfield 28, 3) := dk_180 0 28 (dk_at dksX5_here_1 0 rfl rfl)
theorem dX5_here_27 : decode cX5_here 27 = .ok (.iload_n 1, 1) := dk_27 (dk_at dksX5_here_1 3 rfl rfl)
theorem dX5_here_28 : decode cX5_here 28 = .ok (.iadd, 1) := dk_96 (dk_at dksX5_here_1 4 rfl rfl)
theorem dX5_here_29 : decode cX5_here 29 = .ok (.baload, 1) := dk_51 (dk_at dksX5_here_1 5 rfl rfl)
theorem dX5_here_30 : decode cX5_here 30 = .ok (.sipush 255, 3) := dk_17 0 255 (dk_at dksX5_here_1 6 rfl rfl)
theorem dX5_here_33 : decode cX5_here 33 = .ok (.iand, 1) := dk_126 (dk_at dksX5_here_1 9 rfl rfl)
theorem dX5_here_34 : decode cX5_here 34 = .ok (.goto 4, 3) := dk_167 0 4 (dk_at dksX5_here_1 10 rfl rfl)
theorem dX5_here_37 : decode cX5_here 37 = .ok (.iconst (-1), 1) := dk_2 (dk_at dksX5_here_1 13 rfl rfl)
theorem dX5_here_38 : decode cX5_here 38 = .ok (.ireturn, 1) := dk_172 (dk_at dksX5_here_1 14 rfl rfl)
abbrev cX5_isLetter : ByteArray := prog_18_method_3_code
def yX5_isLetter : MethodName := ⟨RX5, "isLetter", "(I)Z"⟩
def dkwX5_isLetter_1 : List UInt8 := [3, 172]
abbrev dktX5_isLetter_1 : List UInt8 := dkwX5_isLetter_1 ++ []
def dkwX5_isLetter_0 : List UInt8 := [42, 27, 182, 0, 39, 16, 97, 161, 0, 17, 42, 27, 182, 0, 39, 16, 122, 163, 0, 7, 4, 167, 0, 4]
abbrev dktX5_isLetter_0 : List UInt8 := dkwX5_isLetter_0 ++ dktX5_isLetter_1
theorem dksX5_isLetter_0 : cX5_isLetter.data.toList.drop 0 = dktX5_isLetter_0 := by decide +kernel
theorem dksX5_isLetter_1 : cX5_isLetter.data.toList.drop 24 = dktX5_isLetter_1 := dk_seg dksX5_isLetter_0 24 rfl rfl
theorem dX5_isLetter_0 : decode cX5_isLetter 0 = .ok (.aload_n 0, 1) := dk_42 (dk_at dksX5_isLetter_0 0 rfl rfl)
theorem dX5_isLetter_1 : decode cX5_isLetter 1 = .ok (.iload_n 1, 1) := dk_27 (dk_at dksX5_isLetter_0 1 rfl rfl)
theorem dX5_isLetter_2 : decode cX5_isLetter 2 = .ok (.invokevirtual 39, 3) := dk_182 0 39 (dk_at dksX5_isLetter_0 2 rfl rfl)
theorem dX5_isLetter_5 : decode cX5_isLetter 5 = .ok (.bipush 97, 2) := dk_16 97 (dk_at dksX5_isLetter_0 5 rfl rfl)
theorem dX5_isLetter_7 : decode cX5_isLetter 7 = .ok (.if_icmp .lt 17, 3) := dk_161 0 17 (dk_at dksX5_isLetter_0 7 rfl rfl)
theorem dX5_isLetter_10 : decode cX5_isLetter 10 = .ok (.aload_n 0, 1) := dk_42 (dk_at dksX5_isLetter_0 10 rfl rfl)
theorem dX5_isLetter_11 : decode cX5_isLetter 11 = .ok (.iload_n 1, 1) := dk_27 (dk_at dksX5_isLetter_0 11 rfl rfl)
theorem dX5_isLetter_12 : decode cX5_isLetter 12 = .ok (.invokevirtual 39, 3) := dk_182 0 39 (dk_at dksX5_isLetter_0 12 rfl rfl)
theorem dX5_isLetter_15 : decode cX5_isLetter 15 = .ok (.bipush 122, 2) := dk_16 122 (dk_at dksX5_isLetter_0 15 rfl rfl)
theorem dX5_isLetter_17 : decode cX5_isLetter 17 = .ok (.if_icmp .gt 7, 3) := dk_163 0 7 (dk_at dksX5_isLetter_0 17 rfl rfl)
theorem dX5_isLetter_20 : decode cX5_isLetter 20 = .ok (.iconst 1, 1) := dk_4 (dk_at dksX5_isLetter_0 20 rfl rfl)
theorem dX5_isLetter_21 : decode cX5_isLetter 21 = .ok (.goto 4, 3) := dk_167 0 4 (dk_at dksX5_isLetter_0 21 rfl rfl)
theorem dX5_isLetter_24 : decode cX5_isLetter 24 = .ok (.iconst 0, 1) := dk_3 (dk_at dksX5_isLetter_1 0 rfl rfl)
theorem dX5_isLetter_25 : decode cX5_isLetter 25 = .ok (.ireturn, 1) := dk_172 (dk_at dksX5_isLetter_1 1 rfl rfl)
abbrev cX5_isDigit : ByteArray := prog_18_method_4_code
def yX5_isDigit : MethodName := ⟨RX5, "isDigit", "(I)Z"⟩
def dkwX5_isDigit_1 : List UInt8 := [3, 172]
abbrev dktX5_isDigit_1 : List UInt8 := dkwX5_isDigit_1 ++ []
def dkwX5_isDigit_0 : List UInt8 := [42, 27, 182, 0, 39, 16, 48, 161, 0, 17, 42, 27, 182, 0, 39, 16, 57, 163, 0, 7, 4, 167, 0, 4]
abbrev dktX5_isDigit_0 : List UInt8 := dkwX5_isDigit_0 ++ dktX5_isDigit_1
theorem dksX5_isDigit_0 : cX5_isDigit.data.toList.drop 0 = dktX5_isDigit_0 := by decide +kernel
theorem dksX5_isDigit_1 : cX5_isDigit.data.toList.drop 24 = dktX5_isDigit_1 := dk_seg dksX5_isDigit_0 24 rfl rfl
theorem dX5_isDigit_0 : decode cX5_isDigit 0 = .ok (.aload_n 0, 1) := dk_42 (dk_at dksX5_isDigit_0 0 rfl rfl)
theorem dX5_isDigit_1 : decode cX5_isDigit 1 = .ok (.iload_n 1, 1) := dk_27 (dk_at dksX5_isDigit_0 1 rfl rfl)
theorem dX5_isDigit_2 : decode cX5_isDigit 2 = .ok (.invokevirtual 39, 3) := dk_182 0 39 (dk_at dksX5_isDigit_0 2 rfl rfl)
theorem dX5_isDigit_5 : decode cX5_isDigit 5 = .ok (.bipush 48, 2) := dk_16 48 (dk_at dksX5_isDigit_0 5 rfl rfl)
theorem dX5_isDigit_7 : decode cX5_isDigit 7 = .ok (.if_icmp .lt 17, 3) := dk_161 0 17 (dk_at dksX5_isDigit_0 7 rfl rfl)
theorem dX5_isDigit_10 : decode cX5_isDigit 10 = .ok (.aload_n 0, 1) := dk_42 (dk_at dksX5_isDigit_0 10 rfl rfl)
theorem dX5_isDigit_11 : decode cX5_isDigit 11 = .ok (.iload_n 1, 1) := dk_27 (dk_at dksX5_isDigit_0 11 rfl rfl)
theorem dX5_isDigit_12 : decode cX5_isDigit 12 = .ok (.invokevirtual 39, 3) := dk_182 0 39 (dk_at dksX5_isDigit_0 12 rfl rfl)
theorem dX5_isDigit_15 : decode cX5_isDigit 15 = .ok (.bipush 57, 2) := dk_16 57 (dk_at dksX5_isDigit_0 15 rfl rfl)
theorem dX5_isDigit_17 : decode cX5_isDigit 17 = .ok (.if_icmp .gt 7, 3) := dk_163 0 7 (dk_at dksX5_isDigit_0 17 rfl rfl)
theorem dX5_isDigit_20 : decode cX5_isDigit 20 = .ok (.iconst 1, 1) := dk_4 (dk_at dksX5_isDigit_0 20 rfl rfl)
theorem dX5_isDigit_21 : decode cX5_isDigit 21 = .ok (.goto 4, 3) := dk_167 0 4 (dk_at dksX5_isDigit_0 21 rfl rfl)
theorem dX5_isDigit_24 : decode cX5_isDigit 24 = .ok (.iconst 0, 1) := dk_3 (dk_at dksX5_isDigit_1 0 rfl rfl)
theorem dX5_isDigit_25 : decode cX5_isDigit 25 = .ok (.ireturn, 1) := dk_172 (dk_at dksX5_isDigit_1 1 rfl rfl)
abbrev cX5_isSign : ByteArray := prog_18_method_5_code
def yX5_isSign : MethodName := ⟨RX5, "isSign", "(I)Z"⟩
def dkwX5_isSign_2 : List UInt8 := [26, 16, 42, 159, 0, 15, 26, 16, 47, 159, 0, 9, 26, 16, 37, 160, 0, 7, 4, 167, 0, 4, 3, 172]
abbrev dktX5_isSign_2 : List UInt8 := dkwX5_isSign_2 ++ []
def dkwX5_isSign_1 : List UInt8 := [26, 16, 62, 159, 0, 39, 26, 16, 61, 159, 0, 33, 26, 16, 43, 159, 0, 27, 26, 16, 45, 159, 0, 21]
abbrev dktX5_isSign_1 : List UInt8 := dkwX5_isSign_1 ++ dktX5_isSign_2
def dkwX5_isSign_0 : List UInt8 := [26, 16, 59, 159, 0, 63, 26, 16, 40, 159, 0, 57, 26, 16, 41, 159, 0, 51, 26, 16, 60, 159, 0, 45]
abbrev dktX5_isSign_0 : List UInt8 := dkwX5_isSign_0 ++ dktX5_isSign_1
theorem dksX5_isSign_0 : cX5_isSign.data.toList.drop 0 = dktX5_isSign_0 := by decide +kernel
theorem dksX5_isSign_1 : cX5_isSign.data.toList.drop 24 = dktX5_isSign_1 := dk_seg dksX5_isSign_0 24 rfl rfl
theorem dksX5_isSign_2 : cX5_isSign.data.toList.drop 48 = dktX5_isSign_2 := dk_seg dksX5_isSign_1 24 rfl rfl
theorem dX5_isSign_0 : decode cX5_isSign 0 = .ok (.iload_n 0, 1) := dk_26 (dk_at dksX5_isSign_0 0 rfl rfl)
theorem dX5_isSign_1 : decode cX5_isSign 1 = .ok (.bipush 59, 2) := dk_16 59 (dk_at dksX5_isSign_0 1 rfl rfl)
theorem dX5_isSign_3 : decode cX5_isSign 3 = .ok (.if_icmp .eq 63, 3) := dk_159 0 63 (dk_at dksX5_isSign_0 3 rfl rfl)
theorem dX5_isSign_6 : decode cX5_isSign 6 = .ok (.iload_n 0, 1) := dk_26 (dk_at dksX5_isSign_0 6 rfl rfl)
theorem dX5_isSign_7 : decode cX5_isSign 7 = .ok (.bipush 40, 2) := dk_16 40 (dk_at dksX5_isSign_0 7 rfl rfl)
theorem dX5_isSign_9 : decode cX5_isSign 9 = .ok (.if_icmp .eq 57, 3) := dk_159 0 57 (dk_at dksX5_isSign_0 9 rfl rfl)
theorem dX5_isSign_12 : decode cX5_isSign 12 = .ok (.iload_n 0, 1) := dk_26 (dk_at dksX5_isSign_0 12 rfl rfl)
theorem dX5_isSign_13 : decode cX5_isSign 13 = .ok (.bipush 41, 2) := dk_16 41 (dk_at dksX5_isSign_0 13 rfl rfl)
theorem dX5_isSign_15 : decode cX5_isSign 15 = .ok (.if_icmp .eq 51, 3) := dk_159 0 51 (dk_at dksX5_isSign_0 15 rfl rfl)
theorem dX5_isSign_18 : decode cX5_isSign 18 = .ok (.iload_n 0, 1) := dk_26 (dk_at dksX5_isSign_0 18 rfl rfl)
theorem dX5_isSign_19 : decode cX5_isSign 19 = .ok (.bipush 60, 2) := dk_16 60 (dk_at dksX5_isSign_0 19 rfl rfl)
theorem dX5_isSign_21 : decode cX5_isSign 21 = .ok (.if_icmp .eq 45, 3) := dk_159 0 45 (dk_at dksX5_isSign_0 21 rfl rfl)
theorem dX5_isSign_24 : decode cX5_isSign 24 = .ok (.iload_n 0, 1) := dk_26 (dk_at dksX5_isSign_1 0 rfl rfl)
theorem dX5_isSign_25 : decode cX5_isSign 25 = .ok (.bipush 62, 2) := dk_16 62 (dk_at dksX5_isSign_1 1 rfl rfl)
theorem dX5_isSign_27 : decode cX5_isSign 27 = .ok (.if_icmp .eq 39, 3) := dk_159 0 39 (dk_at dksX5_isSign_1 3 rfl rfl)
theorem dX5_isSign_30 : decode cX5_isSign 30 = .ok (.iload_n 0, 1) := dk_26 (dk_at dksX5_isSign_1 6 rfl rfl)
theorem dX5_isSign_31 : decode cX5_isSign 31 = .ok (.bipush 61, 2) := dk_16 61 (dk_at dksX5_isSign_1 7 rfl rfl)
theorem dX5_isSign_33 : decode cX5_isSign 33 = .ok (.if_icmp .eq 33, 3) := dk_159 0 33 (dk_at dksX5_isSign_1 9 rfl rfl)
theorem dX5_isSign_36 : decode cX5_isSign 36 = .ok (.iload_n 0, 1) := dk_26 (dk_at dksX5_isSign_1 12 rfl rfl)
theorem dX5_isSign_37 : decode cX5_isSign 37 = .ok (.bipush 43, 2) := dk_16 43 (dk_at dksX5_isSign_1 13 rfl rfl)
theorem dX5_isSign_39 : decode cX5_isSign 39 = .ok (.if_icmp .eq 27, 3) := dk_159 0 27 (dk_at dksX5_isSign_1 15 rfl rfl)
theorem dX5_isSign_42 : decode cX5_isSign 42 = .ok (.iload_n 0, 1) := dk_26 (dk_at dksX5_isSign_1 18 rfl rfl)
theorem dX5_isSign_43 : decode cX5_isSign 43 = .ok (.bipush 45, 2) := dk_16 45 (dk_at dksX5_isSign_1 19 rfl rfl)
theorem dX5_isSign_45 : decode cX5_isSign 45 = .ok (.if_icmp .eq 21, 3) := dk_159 0 21 (dk_at dksX5_isSign_1 21 rfl rfl)
theorem dX5_isSign_48 : decode cX5_isSign 48 = .ok (.iload_n 0, 1) := dk_26 (dk_at dksX5_isSign_2 0 rfl rfl)
theorem dX5_isSign_49 : decode cX5_isSign 49 = .ok (.bipush 42, 2) := dk_16 42 (dk_at dksX5_isSign_2 1 rfl rfl)
theorem dX5_isSign_51 : decode cX5_isSign 51 = .ok (.if_icmp .eq 15, 3) := dk_159 0 15 (dk_at dksX5_isSign_2 3 rfl rfl)
theorem dX5_isSign_54 : decode cX5_isSign 54 = .ok (.iload_n 0, 1) := dk_26 (dk_at dksX5_isSign_2 6 rfl rfl)
theorem dX5_isSign_55 : decode cX5_isSign 55 = .ok (.bipush 47, 2) := dk_16 47 (dk_at dksX5_isSign_2 7 rfl rfl)
theorem dX5_isSign_57 : decode cX5_isSign 57 = .ok (.if_icmp .eq 9, 3) := dk_159 0 9 (dk_at dksX5_isSign_2 9 rfl rfl)
theorem dX5_isSign_60 : decode cX5_isSign 60 = .ok (.iload_n 0, 1) := dk_26 (dk_at dksX5_isSign_2 12 rfl rfl)
theorem dX5_isSign_61 : decode cX5_isSign 61 = .ok (.bipush 37, 2) := dk_16 37 (dk_at dksX5_isSign_2 13 rfl rfl)
theorem dX5_isSign_63 : decode cX5_isSign 63 = .ok (.if_icmp .ne 7, 3) := dk_160 0 7 (dk_at dksX5_isSign_2 15 rfl rfl)
theorem dX5_isSign_66 : decode cX5_isSign 66 = .ok (.iconst 1, 1) := dk_4 (dk_at dksX5_isSign_2 18 rfl rfl)
theorem dX5_isSign_67 : decode cX5_isSign 67 = .ok (.goto 4, 3) := dk_167 0 4 (dk_at dksX5_isSign_2 19 rfl rfl)
theorem dX5_isSign_70 : decode cX5_isSign 70 = .ok (.iconst 0, 1) := dk_3 (dk_at dksX5_isSign_2 22 rfl rfl)
theorem dX5_isSign_71 : decode cX5_isSign 71 = .ok (.ireturn, 1) := dk_172 (dk_at dksX5_isSign_2 23 rfl rfl)
abbrev cX5_line : ByteArray := prog_18_method_18_code
def yX5_line : MethodName := ⟨RX5, "line", "()V"⟩
def dkwX5_line_10 : List UInt8 := [182, 0, 220, 167, 0, 8, 42, 182, 0, 96, 191, 177]
abbrev dktX5_line_10 : List UInt8 := dkwX5_line_10 ++ []
def dkwX5_line_9 : List UInt8 := [182, 0, 215, 167, 0, 31, 42, 18, 132, 182, 0, 86, 153, 0, 17, 42, 180, 0, 217, 154, 0, 10, 42]
abbrev dktX5_line_9 : List UInt8 := dkwX5_line_9 ++ dktX5_line_10
def dkwX5_line_8 : List UInt8 := [182, 0, 210, 167, 0, 54, 42, 18, 130, 182, 0, 86, 153, 0, 17, 42, 180, 0, 212, 154, 0, 10, 42]
abbrev dktX5_line_8 : List UInt8 := dkwX5_line_8 ++ dktX5_line_9
def dkwX5_line_7 : List UInt8 := [167, 0, 80, 42, 18, 128, 182, 0, 86, 153, 0, 20, 42, 180, 0, 24, 180, 0, 207, 199, 0, 10, 42]
abbrev dktX5_line_7 : List UInt8 := dkwX5_line_7 ++ dktX5_line_8
def dkwX5_line_6 : List UInt8 := [167, 0, 103, 42, 18, 126, 182, 0, 86, 153, 0, 17, 42, 180, 0, 201, 154, 0, 10, 42, 182, 0, 205]
abbrev dktX5_line_6 : List UInt8 := dkwX5_line_6 ++ dktX5_line_7
def dkwX5_line_5 : List UInt8 := [153, 0, 25, 42, 180, 0, 24, 180, 0, 195, 182, 0, 172, 16, 6, 162, 0, 10, 42, 182, 0, 198]
abbrev dktX5_line_5 : List UInt8 := dkwX5_line_5 ++ dktX5_line_6
def dkwX5_line_4 : List UInt8 := [180, 0, 190, 182, 0, 172, 16, 8, 162, 0, 10, 42, 182, 0, 193, 167, 0, 134, 42, 18, 121, 182, 0, 86]
abbrev dktX5_line_4 : List UInt8 := dkwX5_line_4 ++ dktX5_line_5
def dkwX5_line_3 : List UInt8 := [162, 0, 10, 42, 182, 0, 187, 167, 0, 165, 42, 18, 117, 182, 0, 86, 153, 0, 25, 42, 180, 0, 24]
abbrev dktX5_line_3 : List UInt8 := dkwX5_line_3 ++ dktX5_line_4
def dkwX5_line_2 : List UInt8 := [167, 0, 196, 42, 18, 113, 182, 0, 86, 153, 0, 25, 42, 180, 0, 24, 180, 0, 184, 182, 0, 172, 16, 14]
abbrev dktX5_line_2 : List UInt8 := dkwX5_line_2 ++ dktX5_line_3
def dkwX5_line_1 : List UInt8 := [42, 180, 0, 24, 180, 0, 168, 42, 42, 180, 0, 24, 180, 0, 168, 182, 0, 177, 182, 0, 181, 87]
abbrev dktX5_line_1 : List UInt8 := dkwX5_line_1 ++ dktX5_line_2
def dkwX5_line_0 : List UInt8 := [42, 18, 111, 182, 0, 86, 153, 0, 43, 42, 180, 0, 24, 180, 0, 168, 182, 0, 172, 16, 8, 162, 0, 28]
abbrev dktX5_line_0 : List UInt8 := dkwX5_line_0 ++ dktX5_line_1
theorem dksX5_line_0 : cX5_line.data.toList.drop 0 = dktX5_line_0 := by decide +kernel
theorem dksX5_line_1 : cX5_line.data.toList.drop 24 = dktX5_line_1 := dk_seg dksX5_line_0 24 rfl rfl
theorem dksX5_line_2 : cX5_line.data.toList.drop 46 = dktX5_line_2 := dk_seg dksX5_line_1 22 rfl rfl
theorem dksX5_line_3 : cX5_line.data.toList.drop 70 = dktX5_line_3 := dk_seg dksX5_line_2 24 rfl rfl
theorem dksX5_line_4 : cX5_line.data.toList.drop 93 = dktX5_line_4 := dk_seg dksX5_line_3 23 rfl rfl
theorem dksX5_line_5 : cX5_line.data.toList.drop 117 = dktX5_line_5 := dk_seg dksX5_line_4 24 rfl rfl
theorem dksX5_line_6 : cX5_line.data.toList.drop 139 = dktX5_line_6 := dk_seg dksX5_line_5 22 rfl rfl
theorem dksX5_line_7 : cX5_line.data.toList.drop 162 = dktX5_line_7 := dk_seg dksX5_line_6 23 rfl rfl
theorem dksX5_line_8 : cX5_line.data.toList.drop 185 = dktX5_line_8 := dk_seg dksX5_line_7 23 rfl rfl
theorem dksX5_line_9 : cX5_line.data.toList.drop 208 = dktX5_line_9 := dk_seg dksX5_line_8 23 rfl rfl
theorem dksX5_line_10 : cX5_line.data.toList.drop 231 = dktX5_line_10 := dk_seg dksX5_line_9 23 rfl rfl
theorem dX5_line_0 : decode cX5_line 0 = .ok (.aload_n 0, 1) := dk_42 (dk_at dksX5_line_0 0 rfl rfl)
theorem dX5_line_1 : decode cX5_line 1 = .ok (.ldc 111, 2) := dk_18 111 (dk_at dksX5_line_0 1 rfl rfl)
theorem dX5_line_3 : decode cX5_line 3 = .ok (.invokevirtual 86, 3) := dk_182 0 86 (dk_at dksX5_line_0 3 rfl rfl)
theorem dX5_line_6 : decode cX5_line 6 = .ok (.ifCond .eq 43, 3) := dk_153 0 43 (dk_at dksX5_line_0 6 rfl rfl)
theorem dX5_line_9 : decode cX5_line 9 = .ok (.aload_n 0, 1) := dk_42 (dk_at dksX5_line_0 9 rfl rfl)
theorem dX5_line_10 : decode cX5_line 10 = .ok (.getfield 24, 3) := dk_180 0 24 (dk_at dksX5_line_0 10 rfl rfl)
theorem dX5_line_13 : decode cX5_line 13 = .ok (.getfield 168, 3) := dk_180 0 168 (dk_at dksX5_line_0 13 rfl rfl)
theorem dX5_line_16 : decode cX5_line 16 = .ok (.invokevirtual 172, 3) := dk_182 0 172 (dk_at dksX5_line_0 16 rfl rfl)
theorem dX5_line_19 : decode cX5_line 19 = .ok (.bipush 8, 2) := dk_16 8 (dk_at dksX5_line_0 19 rfl rfl)
theorem dX5_line_21 : decode cX5_line 21 = .ok (.if_icmp .ge 28, 3) := dk_162 0 28 (dk_at dksX5_line_0 21 rfl rfl)
theorem dX5_line_24 : decode cX5_line 24 = .ok (.aload_n 0, 1) := dk_42 (dk_at dksX5_line_1 0 rfl rfl)
theorem dX5_line_25 : decode cX5_line 25 = .ok (.getfield 24, 3) := dk_180 0 24 (dk_at dksX5_line_1 1 rfl rfl)
theorem dX5_line_28 : decode cX5_line 28 = .ok (.getfield 168, 3) := dk_180 0 168 (dk_at dksX5_line_1 4 rfl rfl)
theorem dX5_line_31 : decode cX5_line 31 = .ok (.aload_n 0, 1) := dk_42 (dk_at dksX5_line_1 7 rfl rfl)
theorem dX5_line_32 : decode cX5_line 32 = .ok (.aload_n 0, 1) := dk_42 (dk_at dksX5_line_1 8 rfl rfl)
theorem dX5_line_33 : decode cX5_line 33 = .ok (.getfield 24, 3) := dk_180 0 24 (dk_at dksX5_line_1 9 rfl rfl)
theorem dX5_line_36 : decode cX5_line 36 = .ok (.getfield 168, 3) := dk_180 0 168 (dk_at dksX5_line_1 12 rfl rfl)
theorem dX5_line_39 : decode cX5_line 39 = .ok (.invokevirtual 177, 3) := dk_182 0 177 (dk_at dksX5_line_1 15 rfl rfl)
theorem dX5_line_42 : decode cX5_line 42 = .ok (.invokevirtual 181, 3) := dk_182 0 181 (dk_at dksX5_line_1 18 rfl rfl)
theorem dX5_line_45 : decode cX5_line 45 = .ok (.pop, 1) := dk_87 (dk_at dksX5_line_1 21 rfl rfl)
theorem dX5_line_46 : decode cX5_line 46 = .ok (.goto 196, 3) := dk_167 0 196 (dk_at dksX5_line_2 0 rfl rfl)
theorem dX5_line_49 : decode cX5_line 49 = .ok (.aload_n 0, 1) := dk_42 (dk_at dksX5_line_2 3 rfl rfl)
theorem dX5_line_50 : decode cX5_line 50 = .ok (.ldc 113, 2) := dk_18 113 (dk_at dksX5_line_2 4 rfl rfl)
theorem dX5_line_52 : decode cX5_line 52 = .ok (.invokevirtual 86, 3) := dk_182 0 86 (dk_at dksX5_line_2 6 rfl rfl)
theorem dX5_line_55 : decode cX5_line 55 = .ok (.ifCond .eq 25, 3) := dk_153 0 25 (dk_at dksX5_line_2 9 rfl rfl)
theorem dX5_line_58 : decode cX5_line 58 = .ok (.aload_n 0, 1) := dk_42 (dk_at dksX5_line_2 12 rfl rfl)
theorem dX5_line_59 : decode cX5_line 59 = .ok (.getfield 24, 3) := dk_180 0 24 (dk_at dksX5_line_2 13 rfl rfl)
theorem dX5_line_62 : decode cX5_line 62 = .ok (.getfield 184, 3) := dk_180 0 184 (dk_at dksX5_line_2 16 rfl rfl)
theorem dX5_line_65 : decode cX5_line 65 = .ok (.invokevirtual 172, 3) := dk_182 0 172 (dk_at dksX5_line_2 19 rfl rfl)
theorem dX5_line_68 : decode cX5_line 68 = .ok (.bipush 14, 2) := dk_16 14 (dk_at dksX5_line_2 22 rfl rfl)
theorem dX5_line_70 : decode cX5_line 70 = .ok (.if_icmp .ge 10, 3) := dk_162 0 10 (dk_at dksX5_line_3 0 rfl rfl)
theorem dX5_line_73 : decode cX5_line 73 = .ok (.aload_n 0, 1) := dk_42 (dk_at dksX5_line_3 3 rfl rfl)
theorem dX5_line_74 : decode cX5_line 74 = .ok (.invokevirtual 187, 3) := dk_182 0 187 (dk_at dksX5_line_3 4 rfl rfl)
theorem dX5_line_77 : decode cX5_line 77 = .ok (.goto 165, 3) := dk_167 0 165 (dk_at dksX5_line_3 7 rfl rfl)
theorem dX5_line_80 : decode cX5_line 80 = .ok (.aload_n 0, 1) := dk_42 (dk_at dksX5_line_3 10 rfl rfl)
theorem dX5_line_81 : decode cX5_line 81 = .ok (.ldc 117, 2) := dk_18 117 (dk_at dksX5_line_3 11 rfl rfl)
theorem dX5_line_83 : decode cX5_line 83 = .ok (.invokevirtual 86, 3) := dk_182 0 86 (dk_at dksX5_line_3 13 rfl rfl)
theorem dX5_line_86 : decode cX5_line 86 = .ok (.ifCond .eq 25, 3) := dk_153 0 25 (dk_at dksX5_line_3 16 rfl rfl)
theorem dX5_line_89 : decode cX5_line 89 = .ok (.aload_n 0, 1) := dk_42 (dk_at dksX5_line_3 19 rfl rfl)
theorem dX5_line_90 : decode cX5_line 90 = .ok (.getfield 24, 3) := dk_180 0 24 (dk_at dksX5_line_3 20 rfl rfl)
theorem dX5_line_93 : decode cX5_line 93 = .ok (.getfield 190, 3) := dk_180 0 190 (dk_at dksX5_line_4 0 rfl rfl)
theorem dX5_line_96 : decode cX5_line 96 = .ok (.invokevirtual 172, 3) := dk_182 0 172 (dk_at dksX5_line_4 3 rfl rfl)
theorem dX5_line_99 : decode cX5_line 99 = .ok (.bipush 8, 2) := dk_16 8 (dk_at dksX5_line_4 6 rfl rfl)
theorem dX5_line_101 : decode cX5_line 101 = .ok (.if_icmp .ge 10, 3) := dk_162 0 10 (dk_at dksX5_line_4 8 rfl rfl)
theorem dX5_line_104 : decode cX5_line 104 = .ok (.aload_n 0, 1) := dk_42 (dk_at dksX5_line_4 11 rfl rfl)
theorem dX5_line_105 : decode cX5_line 105 = .ok (.invokevirtual 193, 3) := dk_182 0 193 (dk_at dksX5_line_4 12 rfl rfl)
theorem dX5_line_108 : decode cX5_line 108 = .ok (.goto 134, 3) := dk_167 0 134 (dk_at dksX5_line_4 15 rfl rfl)
theorem dX5_line_111 : decode cX5_line 111 = .ok (.aload_n 0, 1) := dk_42 (dk_at dksX5_line_4 18 rfl rfl)
theorem dX5_line_112 : decode cX5_line 112 = .ok (.ldc 121, 2) := dk_18 121 (dk_at dksX5_line_4 19 rfl rfl)
theorem dX5_line_114 : decode cX5_line 114 = .ok (.invokevirtual 86, 3) := dk_182 0 86 (dk_at dksX5_line_4 21 rfl rfl)
theorem dX5_line_117 : decode cX5_line 117 = .ok (.ifCond .eq 25, 3) := dk_153 0 25 (dk_at dksX5_line_5 0 rfl rfl)
theorem dX5_line_120 : decode cX5_line 120 = .ok (.aload_n 0, 1) := dk_42 (dk_at dksX5_line_5 3 rfl rfl)
theorem dX5_line_121 : decode cX5_line 121 = .ok (.getfield 24, 3) := dk_180 0 24 (dk_at dksX5_line_5 4 rfl rfl)
theorem dX5_line_124 : decode cX5_line 124 = .ok (.getfield 195, 3) := dk_180 0 195 (dk_at dksX5_line_5 7 rfl rfl)
theorem dX5_line_127 : decode cX5_line 127 = .ok (.invokevirtual 172, 3) := dk_182 0 172 (dk_at dksX5_line_5 10 rfl rfl)
theorem dX5_line_130 : decode cX5_line 130 = .ok (.bipush 6, 2) := dk_16 6 (dk_at dksX5_line_5 13 rfl rfl)
theorem dX5_line_132 : decode cX5_line 132 = .ok (.if_icmp .ge 10, 3) := dk_162 0 10 (dk_at dksX5_line_5 15 rfl rfl)
theorem dX5_line_135 : decode cX5_line 135 = .ok (.aload_n 0, 1) := dk_42 (dk_at dksX5_line_5 18 rfl rfl)
theorem dX5_line_136 : decode cX5_line 136 = .ok (.invokevirtual 198, 3) := dk_182 0 198 (dk_at dksX5_line_5 19 rfl rfl)
theorem dX5_line_139 : decode cX5_line 139 = .ok (.goto 103, 3) := dk_167 0 103 (dk_at dksX5_line_6 0 rfl rfl)
theorem dX5_line_142 : decode cX5_line 142 = .ok (.aload_n 0, 1) := dk_42 (dk_at dksX5_line_6 3 rfl rfl)
theorem dX5_line_143 : decode cX5_line 143 = .ok (.ldc 126, 2) := dk_18 126 (dk_at dksX5_line_6 4 rfl rfl)
theorem dX5_line_145 : decode cX5_line 145 = .ok (.invokevirtual 86, 3) := dk_182 0 86 (dk_at dksX5_line_6 6 rfl rfl)
theorem dX5_line_148 : decode cX5_line 148 = .ok (.ifCond .eq 17, 3) := dk_153 0 17 (dk_at dksX5_line_6 9 rfl rfl)
theorem dX5_line_151 : decode cX5_line 151 = .ok (.aload_n 0, 1) := dk_42 (dk_at dksX5_line_6 12 rfl rfl)
theorem dX5_line_152 : decode cX5_line 152 = .ok (.getfield 201, 3) := dk_180 0 201 (dk_at dksX5_line_6 13 rfl rfl)
theorem dX5_line_155 : decode cX5_line 155 = .ok (.ifCond .ne 10, 3) := dk_154 0 10 (dk_at dksX5_line_6 16 rfl rfl)
theorem dX5_line_158 : decode cX5_line 158 = .ok (.aload_n 0, 1) := dk_42 (dk_at dksX5_line_6 19 rfl rfl)
theorem dX5_line_159 : decode cX5_line 159 = .ok (.invokevirtual 205, 3) := dk_182 0 205 (dk_at dksX5_line_6 20 rfl rfl)
theorem dX5_line_162 : decode cX5_line 162 = .ok (.goto 80, 3) := dk_167 0 80 (dk_at dksX5_line_7 0 rfl rfl)
theorem dX5_line_165 : decode cX5_line 165 = .ok (.aload_n 0, 1) := dk_42 (dk_at dksX5_line_7 3 rfl rfl)
theorem dX5_line_166 : decode cX5_line 166 = .ok (.ldc 128, 2) := dk_18 128 (dk_at dksX5_line_7 4 rfl rfl)
theorem dX5_line_168 : decode cX5_line 168 = .ok (.invokevirtual 86, 3) := dk_182 0 86 (dk_at dksX5_line_7 6 rfl rfl)
theorem dX5_line_171 : decode cX5_line 171 = .ok (.ifCond .eq 20, 3) := dk_153 0 20 (dk_at dksX5_line_7 9 rfl rfl)
theorem dX5_line_174 : decode cX5_line 174 = .ok (.aload_n 0, 1) := dk_42 (dk_at dksX5_line_7 12 rfl rfl)
theorem dX5_line_175 : decode cX5_line 175 = .ok (.getfield 24, 3) := dk_180 0 24 (dk_at dksX5_line_7 13 rfl rfl)
theorem dX5_line_178 : decode cX5_line 178 = .ok (.getfield 207, 3) := dk_180 0 207 (dk_at dksX5_line_7 16 rfl rfl)
theorem dX5_line_181 : decode cX5_line 181 = .ok (.ifnonnull 10, 3) := dk_199 0 10 (dk_at dksX5_line_7 19 rfl rfl)
theorem dX5_line_184 : decode cX5_line 184 = .ok (.aload_n 0, 1) := dk_42 (dk_at dksX5_line_7 22 rfl rfl)
theorem dX5_line_185 : decode cX5_line 185 = .ok (.invokevirtual 210, 3) := dk_182 0 210 (dk_at dksX5_line_8 0 rfl rfl)
theorem dX5_line_188 : decode cX5_line 188 = .ok (.goto 54, 3) := dk_167 0 54 (dk_at dksX5_line_8 3 rfl rfl)
theorem dX5_line_191 : decode cX5_line 191 = .ok (.aload_n 0, 1) := dk_42 (dk_at dksX5_line_8 6 rfl rfl)
theorem dX5_line_192 : decode cX5_line 192 = .ok (.ldc 130, 2) := dk_18 130 (dk_at dksX5_line_8 7 rfl rfl)
theorem dX5_line_194 : decode cX5_line 194 = .ok (.invokevirtual 86, 3) := dk_182 0 86 (dk_at dksX5_line_8 9 rfl rfl)
theorem dX5_line_197 : decode cX5_line 197 = .ok (.ifCond .eq 17, 3) := dk_153 0 17 (dk_at dksX5_line_8 12 rfl rfl)
theorem dX5_line_200 : decode cX5_line 200 = .ok (.aload_n 0, 1) := dk_42 (dk_at dksX5_line_8 15 rfl rfl)
theorem dX5_line_201 : decode cX5_line 201 = .ok (.getfield 212, 3) := dk_180 0 212 (dk_at dksX5_line_8 16 rfl rfl)
theorem dX5_line_204 : decode cX5_line 204 = .ok (.ifCond .ne 10, 3) := dk_154 0 10 (dk_at dksX5_line_8 19 rfl rfl)
theorem dX5_line_207 : decode cX5_line 207 = .ok (.aload_n 0, 1) := dk_42 (dk_at dksX5_line_8 22 rfl rfl)
theorem dX5_line_208 : decode cX5_line 208 = .ok (.invokevirtual 215, 3) := dk_182 0 215 (dk_at dksX5_line_9 0 rfl rfl)
theorem dX5_line_211 : decode cX5_line 211 = .ok (.goto 31, 3) := dk_167 0 31 (dk_at dksX5_line_9 3 rfl rfl)
theorem dX5_line_214 : decode cX5_line 214 = .ok (.aload_n 0, 1) := dk_42 (dk_at dksX5_line_9 6 rfl rfl)
theorem dX5_line_215 : decode cX5_line 215 = .ok (.ldc 132, 2) := dk_18 132 (dk_at dksX5_line_9 7 rfl rfl)
theorem dX5_line_217 : decode cX5_line 217 = .ok (.invokevirtual 86, 3) := dk_182 0 86 (dk_at dksX5_line_9 9 rfl rfl)
theorem dX5_line_220 : decode cX5_line 220 = .ok (.ifCond .eq 17, 3) := dk_153 0 17 (dk_at dksX5_line_9 12 rfl rfl)
theorem dX5_line_223 : decode cX5_line 223 = .ok (.aload_n 0, 1) := dk_42 (dk_at dksX5_line_9 15 rfl rfl)
theorem dX5_line_224 : decode cX5_line 224 = .ok (.getfield 217, 3) := dk_180 0 217 (dk_at dksX5_line_9 16 rfl rfl)
theorem dX5_line_227 : decode cX5_line 227 = .ok (.ifCond .ne 10, 3) := dk_154 0 10 (dk_at dksX5_line_9 19 rfl rfl)
theorem dX5_line_230 : decode cX5_line 230 = .ok (.aload_n 0, 1) := dk_42 (dk_at dksX5_line_9 22 rfl rfl)
theorem dX5_line_231 : decode cX5_line 231 = .ok (.invokevirtual 220, 3) := dk_182 0 220 (dk_at dksX5_line_10 0 rfl rfl)
theorem dX5_line_234 : decode cX5_line 234 = .ok (.goto 8, 3) := dk_167 0 8 (dk_at dksX5_line_10 3 rfl rfl)
theorem dX5_line_237 : decode cX5_line 237 = .ok (.aload_n 0, 1) := dk_42 (dk_at dksX5_line_10 6 rfl rfl)
theorem dX5_line_238 : decode cX5_line 238 = .ok (.invokevirtual 96, 3) := dk_182 0 96 (dk_at dksX5_line_10 7 rfl rfl)
theorem dX5_line_241 : decode cX5_line 241 = .ok (.athrow, 1) := dk_191 (dk_at dksX5_line_10 10 rfl rfl)
theorem dX5_line_242 : decode cX5_line 242 = .ok (.return_, 1) := dk_177 (dk_at dksX5_line_10 11 rfl rfl)
abbrev cX5_is : ByteArray := prog_18_method_8_code
def yX5_is : MethodName := ⟨RX5, "is", "(Ljava/lang/String;)Z"⟩
def dkwX5_is_1 : List UInt8 := [172]
abbrev dktX5_is_1 : List UInt8 := dkwX5_is_1 ++ []
def dkwX5_is_0 : List UInt8 := [42, 180, 0, 46, 4, 160, 0, 18, 42, 180, 0, 17, 43, 182, 0, 80, 153, 0, 7, 4, 167, 0, 4, 3]
abbrev dktX5_is_0 : List UInt8 := dkwX5_is_0 ++ dktX5_is_1
theorem dksX5_is_0 : cX5_is.data.toList.drop 0 = dktX5_is_0 := by decide +kernel
theorem dksX5_is_1 : cX5_is.data.toList.drop 24 = dktX5_is_1 := dk_seg dksX5_is_0 24 rfl rfl
theorem dX5_is_0 : decode cX5_is 0 = .ok (.aload_n 0, 1) := dk_42 (dk_at dksX5_is_0 0 rfl rfl)
theorem dX5_is_1 : decode cX5_is 1 = .ok (.getfield 46, 3) := dk_180 0 46 (dk_at dksX5_is_0 1 rfl rfl)
theorem dX5_is_4 : decode cX5_is 4 = .ok (.iconst 1, 1) := dk_4 (dk_at dksX5_is_0 4 rfl rfl)
theorem dX5_is_5 : decode cX5_is 5 = .ok (.if_icmp .ne 18, 3) := dk_160 0 18 (dk_at dksX5_is_0 5 rfl rfl)
theorem dX5_is_8 : decode cX5_is 8 = .ok (.aload_n 0, 1) := dk_42 (dk_at dksX5_is_0 8 rfl rfl)
theorem dX5_is_9 : decode cX5_is 9 = .ok (.getfield 17, 3) := dk_180 0 17 (dk_at dksX5_is_0 9 rfl rfl)
theorem dX5_is_12 : decode cX5_is 12 = .ok (.aload_n 1, 1) := dk_43 (dk_at dksX5_is_0 12 rfl rfl)
theorem dX5_is_13 : decode cX5_is 13 = .ok (.invokevirtual 80, 3) := dk_182 0 80 (dk_at dksX5_is_0 13 rfl rfl)
theorem dX5_is_16 : decode cX5_is 16 = .ok (.ifCond .eq 7, 3) := dk_153 0 7 (dk_at dksX5_is_0 16 rfl rfl)
theorem dX5_is_19 : decode cX5_is 19 = .ok (.iconst 1, 1) := dk_4 (dk_at dksX5_is_0 19 rfl rfl)
theorem dX5_is_20 : decode cX5_is 20 = .ok (.goto 4, 3) := dk_167 0 4 (dk_at dksX5_is_0 20 rfl rfl)
theorem dX5_is_23 : decode cX5_is 23 = .ok (.iconst 0, 1) := dk_3 (dk_at dksX5_is_0 23 rfl rfl)
theorem dX5_is_24 : decode cX5_is 24 = .ok (.ireturn, 1) := dk_172 (dk_at dksX5_is_1 0 rfl rfl)
abbrev cX5_newNamed : ByteArray := prog_18_method_14_code
def yX5_newNamed : MethodName := ⟨RX5, "newNamed", "(Ljava/util/ArrayList;)LWebCourt$Named;"⟩
def dkwX5_newNamed_2 : List UInt8 := [183, 0, 160, 77, 42, 182, 0, 90, 44, 176]
abbrev dktX5_newNamed_2 : List UInt8 := dkwX5_newNamed_2 ++ []
def dkwX5_newNamed_1 : List UInt8 := [155, 0, 16, 187, 0, 75, 89, 6, 42, 180, 0, 43, 183, 0, 77, 191, 187, 0, 158, 89, 42, 180, 0, 17]
abbrev dktX5_newNamed_1 : List UInt8 := dkwX5_newNamed_1 ++ dktX5_newNamed_2
def dkwX5_newNamed_0 : List UInt8 := [42, 182, 0, 90, 42, 182, 0, 150, 154, 0, 8, 42, 182, 0, 96, 191, 43, 42, 180, 0, 17, 184, 0, 154]
abbrev dktX5_newNamed_0 : List UInt8 := dkwX5_newNamed_0 ++ dktX5_newNamed_1
theorem dksX5_newNamed_0 : cX5_newNamed.data.toList.drop 0 = dktX5_newNamed_0 := by decide +kernel
theorem dksX5_newNamed_1 : cX5_newNamed.data.toList.drop 24 = dktX5_newNamed_1 := dk_seg dksX5_newNamed_0 24 rfl rfl
theorem dksX5_newNamed_2 : cX5_newNamed.data.toList.drop 48 = dktX5_newNamed_2 := dk_seg dksX5_newNamed_1 24 rfl rfl
theorem dX5_newNamed_0 : decode cX5_newNamed 0 = .ok (.aload_n 0, 1) := dk_42 (dk_at dksX5_newNamed_0 0 rfl rfl)
theorem dX5_newNamed_1 : decode cX5_newNamed 1 = .ok (.invokevirtual 90, 3) := dk_182 0 90 (dk_at dksX5_newNamed_0 1 rfl rfl)
theorem dX5_newNamed_4 : decode cX5_newNamed 4 = .ok (.aload_n 0, 1) := dk_42 (dk_at dksX5_newNamed_0 4 rfl rfl)
theorem dX5_newNamed_5 : decode cX5_newNamed 5 = .ok (.invokevirtual 150, 3) := dk_182 0 150 (dk_at dksX5_newNamed_0 5 rfl rfl)
theorem dX5_newNamed_8 : decode cX5_newNamed 8 = .ok (.ifCond .ne 8, 3) := dk_154 0 8 (dk_at dksX5_newNamed_0 8 rfl rfl)
theorem dX5_newNamed_11 : decode cX5_newNamed 11 = .ok (.aload_n 0, 1) := dk_42 (dk_at dksX5_newNamed_0 11 rfl rfl)
theorem dX5_newNamed_12 : decode cX5_newNamed 12 = .ok (.invokevirtual 96, 3) := dk_182 0 96 (dk_at dksX5_newNamed_0 12 rfl rfl)
theorem dX5_newNamed_15 : decode cX5_newNamed 15 = .ok (.athrow, 1) := dk_191 (dk_at dksX5_newNamed_0 15 rfl rfl)
theorem dX5_newNamed_16 : decode cX5_newNamed 16 = .ok (.aload_n 1, 1) := dk_43 (dk_at dksX5_newNamed_0 16 rfl rfl)
theorem dX5_newNamed_17 : decode cX5_newNamed 17 = .ok (.aload_n 0, 1) := dk_42 (dk_at dksX5_newNamed_0 17 rfl rfl)
theorem dX5_newNamed_18 : decode cX5_newNamed 18 = .ok (.getfield 17, 3) := dk_180 0 17 (dk_at dksX5_newNamed_0 18 rfl rfl)
theorem dX5_newNamed_21 : decode cX5_newNamed 21 = .ok (.invokestatic 154, 3) := dk_184 0 154 (dk_at dksX5_newNamed_0 21 rfl rfl)
theorem dX5_newNamed_24 : decode cX5_newNamed 24 = .ok (.ifCond .lt 16, 3) := dk_155 0 16 (dk_at dksX5_newNamed_1 0 rfl rfl)
theorem dX5_newNamed_27 : decode cX5_newNamed 27 = .ok (.new 75, 3) := dk_187 0 75 (dk_at dksX5_newNamed_1 3 rfl rfl)
theorem dX5_newNamed_30 : decode cX5_newNamed 30 = .ok (.dup, 1) := dk_89 (dk_at dksX5_newNamed_1 6 rfl rfl)
theorem dX5_newNamed_31 : decode cX5_newNamed 31 = .ok (.iconst 3, 1) := dk_6 (dk_at dksX5_newNamed_1 7 rfl rfl)
theorem dX5_newNamed_32 : decode cX5_newNamed 32 = .ok (.aload_n 0, 1) := dk_42 (dk_at dksX5_newNamed_1 8 rfl rfl)
theorem dX5_newNamed_33 : decode cX5_newNamed 33 = .ok (.getfield 43, 3) := dk_180 0 43 (dk_at dksX5_newNamed_1 9 rfl rfl)
theorem dX5_newNamed_36 : decode cX5_newNamed 36 = .ok (.invokespecial 77, 3) := dk_183 0 77 (dk_at dksX5_newNamed_1 12 rfl rfl)
theorem dX5_newNamed_39 : decode cX5_newNamed 39 = .ok (.athrow, 1) := dk_191 (dk_at dksX5_newNamed_1 15 rfl rfl)
theorem dX5_newNamed_40 : decode cX5_newNamed 40 = .ok (.new 158, 3) := dk_187 0 158 (dk_at dksX5_newNamed_1 16 rfl rfl)
theorem dX5_newNamed_43 : decode cX5_newNamed 43 = .ok (.dup, 1) := dk_89 (dk_at dksX5_newNamed_1 19 rfl rfl)
theorem dX5_newNamed_44 : decode cX5_newNamed 44 = .ok (.aload_n 0, 1) := dk_42 (dk_at dksX5_newNamed_1 20 rfl rfl)
theorem dX5_newNamed_45 : decode cX5_newNamed 45 = .ok (.getfield 17, 3) := dk_180 0 17 (dk_at dksX5_newNamed_1 21 rfl rfl)
theorem dX5_newNamed_48 : decode cX5_newNamed 48 = .ok (.invokespecial 160, 3) := dk_183 0 160 (dk_at dksX5_newNamed_2 0 rfl rfl)
theorem dX5_newNamed_51 : decode cX5_newNamed 51 = .ok (.astore_n 2, 1) := dk_77 (dk_at dksX5_newNamed_2 3 rfl rfl)
theorem dX5_newNamed_52 : decode cX5_newNamed 52 = .ok (.aload_n 0, 1) := dk_42 (dk_at dksX5_newNamed_2 4 rfl rfl)
theorem dX5_newNamed_53 : decode cX5_newNamed 53 = .ok (.invokevirtual 90, 3) := dk_182 0 90 (dk_at dksX5_newNamed_2 5 rfl rfl)
theorem dX5_newNamed_56 : decode cX5_newNamed 56 = .ok (.aload_n 2, 1) := dk_44 (dk_at dksX5_newNamed_2 8 rfl rfl)
theorem dX5_newNamed_57 : decode cX5_newNamed 57 = .ok (.areturn, 1) := dk_176 (dk_at dksX5_newNamed_2 9 rfl rfl)
abbrev cX5_isName : ByteArray := prog_18_method_13_code
def yX5_isName : MethodName := ⟨RX5, "isName", "()Z"⟩
def dkwX5_isName_16 : List UInt8 := [3, 172, 4, 172]
abbrev dktX5_isName_16 : List UInt8 := dkwX5_isName_16 ++ []
def dkwX5_isName_15 : List UInt8 := [170, 0, 0, 0, 0, 0, 0, 98, 0, 0, 0, 0, 0, 0, 0, 19, 0, 0, 0, 96, 0, 0, 0, 96, 0, 0, 0, 96, 0, 0, 0, 96, 0, 0, 0, 96, 0, 0, 0, 96, 0, 0, 0, 96, 0, 0, 0, 96, 0, 0, 0, 96, 0, 0, 0, 96, 0, 0, 0, 96, 0, 0, 0, 96, 0, 0, 0, 96, 0, 0, 0, 96, 0, 0, 0, 96, 0, 0, 0, 96, 0, 0, 0, 96, 0, 0, 0, 96, 0, 0, 0, 96, 0, 0, 0, 96]
abbrev dktX5_isName_15 : List UInt8 := dkwX5_isName_15 ++ dktX5_isName_16
def dkwX5_isName_14 : List UInt8 := [153, 0, 6, 16, 19, 61, 28]
abbrev dktX5_isName_14 : List UInt8 := dkwX5_isName_14 ++ dktX5_isName_15
def dkwX5_isName_13 : List UInt8 := [167, 0, 30, 43, 18, 146, 182, 0, 80, 153, 0, 21, 16, 18, 61, 167, 0, 15, 43, 18, 148, 182, 0, 80]
abbrev dktX5_isName_13 : List UInt8 := dkwX5_isName_13 ++ dktX5_isName_14
def dkwX5_isName_12 : List UInt8 := [182, 0, 80, 153, 0, 51, 16, 16, 61, 167, 0, 45, 43, 18, 144, 182, 0, 80, 153, 0, 36, 16, 17, 61]
abbrev dktX5_isName_12 : List UInt8 := dkwX5_isName_12 ++ dktX5_isName_13
def dkwX5_isName_11 : List UInt8 := [16, 14, 61, 167, 0, 75, 43, 18, 140, 182, 0, 80, 153, 0, 66, 16, 15, 61, 167, 0, 60, 43, 18, 142]
abbrev dktX5_isName_11 : List UInt8 := dkwX5_isName_11 ++ dktX5_isName_12
def dkwX5_isName_10 : List UInt8 := [43, 18, 136, 182, 0, 80, 153, 0, 96, 16, 13, 61, 167, 0, 90, 43, 18, 138, 182, 0, 80, 153, 0, 81]
abbrev dktX5_isName_10 : List UInt8 := dkwX5_isName_10 ++ dktX5_isName_11
def dkwX5_isName_9 : List UInt8 := [153, 0, 126, 16, 11, 61, 167, 0, 120, 43, 18, 134, 182, 0, 80, 153, 0, 111, 16, 12, 61, 167, 0, 105]
abbrev dktX5_isName_9 : List UInt8 := dkwX5_isName_9 ++ dktX5_isName_10
def dkwX5_isName_8 : List UInt8 := [167, 0, 150, 43, 18, 130, 182, 0, 80, 153, 0, 141, 16, 10, 61, 167, 0, 135, 43, 18, 132, 182, 0, 80]
abbrev dktX5_isName_8 : List UInt8 := dkwX5_isName_8 ++ dktX5_isName_9
def dkwX5_isName_7 : List UInt8 := [182, 0, 80, 153, 0, 171, 16, 8, 61, 167, 0, 165, 43, 18, 128, 182, 0, 80, 153, 0, 156, 16, 9, 61]
abbrev dktX5_isName_7 : List UInt8 := dkwX5_isName_7 ++ dktX5_isName_8
def dkwX5_isName_6 : List UInt8 := [61, 167, 0, 195, 43, 18, 124, 182, 0, 80, 153, 0, 186, 16, 7, 61, 167, 0, 180, 43, 18, 126]
abbrev dktX5_isName_6 : List UInt8 := dkwX5_isName_6 ++ dktX5_isName_7
def dkwX5_isName_5 : List UInt8 := [18, 121, 182, 0, 80, 153, 0, 215, 8, 61, 167, 0, 210, 43, 18, 123, 182, 0, 80, 153, 0, 201, 16, 6]
abbrev dktX5_isName_5 : List UInt8 := dkwX5_isName_5 ++ dktX5_isName_6
def dkwX5_isName_4 : List UInt8 := [153, 0, 243, 6, 61, 167, 0, 238, 43, 18, 119, 182, 0, 80, 153, 0, 229, 7, 61, 167, 0, 224, 43]
abbrev dktX5_isName_4 : List UInt8 := dkwX5_isName_4 ++ dktX5_isName_5
def dkwX5_isName_3 : List UInt8 := [61, 167, 1, 10, 43, 18, 115, 182, 0, 80, 153, 1, 1, 5, 61, 167, 0, 252, 43, 18, 117, 182, 0, 80]
abbrev dktX5_isName_3 : List UInt8 := dkwX5_isName_3 ++ dktX5_isName_4
def dkwX5_isName_2 : List UInt8 := [43, 18, 111, 182, 0, 80, 153, 1, 29, 3, 61, 167, 1, 24, 43, 18, 113, 182, 0, 80, 153, 1, 15, 4]
abbrev dktX5_isName_2 : List UInt8 := dkwX5_isName_2 ++ dktX5_isName_3
def dkwX5_isName_1 : List UInt8 := [171, 0, 0, 0, 0, 1, 206, 0, 0, 0, 20, 172, 250, 63, 127, 0, 0, 1, 104, 197, 64, 18, 39, 0, 0, 1, 14, 202, 209, 49, 233, 0, 0, 0, 199, 202, 213, 118, 151, 0, 0, 0, 227, 0, 0, 12, 51, 0, 0, 0, 255, 0, 0, 13, 227, 0, 0, 1, 179, 0, 1, 121, 215, 0, 0, 1, 164, 0, 1, 158, 208, 0, 0, 1, 134, 0, 1, 161, 162, 0, 0, 1, 44, 0, 1, 170, 211, 0, 0, 1, 194, 0, 46, 4, 231, 0, 0, 1, 59, 0, 46, 123, 48, 0, 0, 0, 241, 0, 47, 45, 68, 0, 0, 1, 74, 0, 48, 245, 228, 0, 0, 1, 149, 0, 50, 78, 136, 0, 0, 0, 171, 0, 50, 175, 244, 0, 0, 0, 185, 0, 51, 6, 95, 0, 0, 1, 89, 0, 52, 139, 152, 0, 0, 0, 213, 5, 148, 146, 48, 0, 0, 1, 29, 6, 138, 197, 58, 0, 0, 1, 119]
abbrev dktX5_isName_1 : List UInt8 := dkwX5_isName_1 ++ dktX5_isName_2
def dkwX5_isName_0 : List UInt8 := [42, 180, 0, 46, 4, 159, 0, 5, 3, 172, 42, 180, 0, 17, 76, 2, 61, 43, 182, 0, 107]
abbrev dktX5_isName_0 : List UInt8 := dkwX5_isName_0 ++ dktX5_isName_1
theorem dksX5_isName_0 : cX5_isName.data.toList.drop 0 = dktX5_isName_0 := by decide +kernel
theorem dksX5_isName_1 : cX5_isName.data.toList.drop 21 = dktX5_isName_1 := dk_seg dksX5_isName_0 21 rfl rfl
theorem dksX5_isName_2 : cX5_isName.data.toList.drop 192 = dktX5_isName_2 := dk_seg dksX5_isName_1 171 rfl rfl
theorem dksX5_isName_3 : cX5_isName.data.toList.drop 216 = dktX5_isName_3 := dk_seg dksX5_isName_2 24 rfl rfl
theorem dksX5_isName_4 : cX5_isName.data.toList.drop 240 = dktX5_isName_4 := dk_seg dksX5_isName_3 24 rfl rfl
theorem dksX5_isName_5 : cX5_isName.data.toList.drop 263 = dktX5_isName_5 := dk_seg dksX5_isName_4 23 rfl rfl
theorem dksX5_isName_6 : cX5_isName.data.toList.drop 287 = dktX5_isName_6 := dk_seg dksX5_isName_5 24 rfl rfl
theorem dksX5_isName_7 : cX5_isName.data.toList.drop 309 = dktX5_isName_7 := dk_seg dksX5_isName_6 22 rfl rfl
theorem dksX5_isName_8 : cX5_isName.data.toList.drop 333 = dktX5_isName_8 := dk_seg dksX5_isName_7 24 rfl rfl
theorem dksX5_isName_9 : cX5_isName.data.toList.drop 357 = dktX5_isName_9 := dk_seg dksX5_isName_8 24 rfl rfl
theorem dksX5_isName_10 : cX5_isName.data.toList.drop 381 = dktX5_isName_10 := dk_seg dksX5_isName_9 24 rfl rfl
theorem dksX5_isName_11 : cX5_isName.data.toList.drop 405 = dktX5_isName_11 := dk_seg dksX5_isName_10 24 rfl rfl
theorem dksX5_isName_12 : cX5_isName.data.toList.drop 429 = dktX5_isName_12 := dk_seg dksX5_isName_11 24 rfl rfl
theorem dksX5_isName_13 : cX5_isName.data.toList.drop 453 = dktX5_isName_13 := dk_seg dksX5_isName_12 24 rfl rfl
theorem dksX5_isName_14 : cX5_isName.data.toList.drop 477 = dktX5_isName_14 := dk_seg dksX5_isName_13 24 rfl rfl
theorem dksX5_isName_15 : cX5_isName.data.toList.drop 484 = dktX5_isName_15 := dk_seg dksX5_isName_14 7 rfl rfl
theorem dksX5_isName_16 : cX5_isName.data.toList.drop 580 = dktX5_isName_16 := dk_seg dksX5_isName_15 96 rfl rfl
theorem dX5_isName_0 : decode cX5_isName 0 = .ok (.aload_n 0, 1) := dk_42 (dk_at dksX5_isName_0 0 rfl rfl)
theorem dX5_isName_1 : decode cX5_isName 1 = .ok (.getfield 46, 3) := dk_180 0 46 (dk_at dksX5_isName_0 1 rfl rfl)
theorem dX5_isName_4 : decode cX5_isName 4 = .ok (.iconst 1, 1) := dk_4 (dk_at dksX5_isName_0 4 rfl rfl)
theorem dX5_isName_5 : decode cX5_isName 5 = .ok (.if_icmp .eq 5, 3) := dk_159 0 5 (dk_at dksX5_isName_0 5 rfl rfl)
theorem dX5_isName_8 : decode cX5_isName 8 = .ok (.iconst 0, 1) := dk_3 (dk_at dksX5_isName_0 8 rfl rfl)
theorem dX5_isName_9 : decode cX5_isName 9 = .ok (.ireturn, 1) := dk_172 (dk_at dksX5_isName_0 9 rfl rfl)
theorem dX5_isName_10 : decode cX5_isName 10 = .ok (.aload_n 0, 1) := dk_42 (dk_at dksX5_isName_0 10 rfl rfl)
theorem dX5_isName_11 : decode cX5_isName 11 = .ok (.getfield 17, 3) := dk_180 0 17 (dk_at dksX5_isName_0 11 rfl rfl)
theorem dX5_isName_14 : decode cX5_isName 14 = .ok (.astore_n 1, 1) := dk_76 (dk_at dksX5_isName_0 14 rfl rfl)
theorem dX5_isName_15 : decode cX5_isName 15 = .ok (.iconst (-1), 1) := dk_2 (dk_at dksX5_isName_0 15 rfl rfl)
theorem dX5_isName_16 : decode cX5_isName 16 = .ok (.istore_n 2, 1) := dk_61 (dk_at dksX5_isName_0 16 rfl rfl)
theorem dX5_isName_17 : decode cX5_isName 17 = .ok (.aload_n 1, 1) := dk_43 (dk_at dksX5_isName_0 17 rfl rfl)
theorem dX5_isName_18 : decode cX5_isName 18 = .ok (.invokevirtual 107, 3) := dk_182 0 107 (dk_at dksX5_isName_0 18 rfl rfl)
theorem dX5_isName_21 : decode cX5_isName 21 = .ok (.lookupswitch 462 #[(-1392885889, 360), (-985656793, 270), (-892259863, 199), (-891980137, 227), (3123, 255), (3555, 435), (96727, 420), (106192, 390), (106914, 300), (109267, 450), (3015911, 315), (3046192, 241), (3091780, 330), (3208676, 405), (3296904, 171), (3321844, 185), (3343967, 345), (3443608, 213), (93622832, 285), (109757754, 375)], 171) := by decide +kernel
theorem dX5_isName_192 : decode cX5_isName 192 = .ok (.aload_n 1, 1) := dk_43 (dk_at dksX5_isName_2 0 rfl rfl)
theorem dX5_isName_193 : decode cX5_isName 193 = .ok (.ldc 111, 2) := dk_18 111 (dk_at dksX5_isName_2 1 rfl rfl)
theorem dX5_isName_195 : decode cX5_isName 195 = .ok (.invokevirtual 80, 3) := dk_182 0 80 (dk_at dksX5_isName_2 3 rfl rfl)
theorem dX5_isName_198 : decode cX5_isName 198 = .ok (.ifCond .eq 285, 3) := dk_153 1 29 (dk_at dksX5_isName_2 6 rfl rfl)
theorem dX5_isName_201 : decode cX5_isName 201 = .ok (.iconst 0, 1) := dk_3 (dk_at dksX5_isName_2 9 rfl rfl)
theorem dX5_isName_202 : decode cX5_isName 202 = .ok (.istore_n 2, 1) := dk_61 (dk_at dksX5_isName_2 10 rfl rfl)
theorem dX5_isName_203 : decode cX5_isName 203 = .ok (.goto 280, 3) := dk_167 1 24 (dk_at dksX5_isName_2 11 rfl rfl)
theorem dX5_isName_206 : decode cX5_isName 206 = .ok (.aload_n 1, 1) := dk_43 (dk_at dksX5_isName_2 14 rfl rfl)
theorem dX5_isName_207 : decode cX5_isName 207 = .ok (.ldc 113, 2) := dk_18 113 (dk_at dksX5_isName_2 15 rfl rfl)
theorem dX5_isName_209 : decode cX5_isName 209 = .ok (.invokevirtual 80, 3) := dk_182 0 80 (dk_at dksX5_isName_2 17 rfl rfl)
theorem dX5_isName_212 : decode cX5_isName 212 = .ok (.ifCond .eq 271, 3) := dk_153 1 15 (dk_at dksX5_isName_2 20 rfl rfl)
theorem dX5_isName_215 : decode cX5_isName 215 = .ok (.iconst 1, 1) := dk_4 (dk_at dksX5_isName_2 23 rfl rfl)
theorem dX5_isName_216 : decode cX5_isName 216 = .ok (.istore_n 2, 1) := dk_61 (dk_at dksX5_isName_3 0 rfl rfl)
theorem dX5_isName_217 : decode cX5_isName 217 = .ok (.goto 266, 3) := dk_167 1 10 (dk_at dksX5_isName_3 1 rfl rfl)
theorem dX5_isName_220 : decode cX5_isName 220 = .ok (.aload_n 1, 1) := dk_43 (dk_at dksX5_isName_3 4 rfl rfl)
theorem dX5_isName_221 : decode cX5_isName 221 = .ok (.ldc 115, 2) := dk_18 115 (dk_at dksX5_isName_3 5 rfl rfl)
theorem dX5_isName_223 : decode cX5_isName 223 = .ok (.invokevirtual 80, 3) := dk_182 0 80 (dk_at dksX5_isName_3 7 rfl rfl)
theorem dX5_isName_226 : decode cX5_isName 226 = .ok (.ifCond .eq 257, 3) := dk_153 1 1 (dk_at dksX5_isName_3 10 rfl rfl)
theorem dX5_isName_229 : decode cX5_isName 229 = .ok (.iconst 2, 1) := dk_5 (dk_at dksX5_isName_3 13 rfl rfl)
theorem dX5_isName_230 : decode cX5_isName 230 = .ok (.istore_n 2, 1) := dk_61 (dk_at dksX5_isName_3 14 rfl rfl)
theorem dX5_isName_231 : decode cX5_isName 231 = .ok (.goto 252, 3) := dk_167 0 252 (dk_at dksX5_isName_3 15 rfl rfl)
theorem dX5_isName_234 : decode cX5_isName 234 = .ok (.aload_n 1, 1) := dk_43 (dk_at dksX5_isName_3 18 rfl rfl)
theorem dX5_isName_235 : decode cX5_isName 235 = .ok (.ldc 117, 2) := dk_18 117 (dk_at dksX5_isName_3 19 rfl rfl)
theorem dX5_isName_237 : decode cX5_isName 237 = .ok (.invokevirtual 80, 3) := dk_182 0 80 (dk_at dksX5_isName_3 21 rfl rfl)
theorem dX5_isName_240 : decode cX5_isName 240 = .ok (.ifCond .eq 243, 3) := dk_153 0 243 (dk_at dksX5_isName_4 0 rfl rfl)
theorem dX5_isName_243 : decode cX5_isName 243 = .ok (.iconst 3, 1) := dk_6 (dk_at dksX5_isName_4 3 rfl rfl)
theorem dX5_isName_244 : decode cX5_isName 244 = .ok (.istore_n 2, 1) := dk_61 (dk_at dksX5_isName_4 4 rfl rfl)
theorem dX5_isName_245 : decode cX5_isName 245 = .ok (.goto 238, 3) := dk_167 0 238 (dk_at dksX5_isName_4 5 rfl rfl)
theorem dX5_isName_248 : decode cX5_isName 248 = .ok (.aload_n 1, 1) := dk_43 (dk_at dksX5_isName_4 8 rfl rfl)
theorem dX5_isName_249 : decode cX5_isName 249 = .ok (.ldc 119, 2) := dk_18 119 (dk_at dksX5_isName_4 9 rfl rfl)
theorem dX5_isName_251 : decode cX5_isName 251 = .ok (.invokevirtual 80, 3) := dk_182 0 80 (dk_at dksX5_isName_4 11 rfl rfl)
theorem dX5_isName_254 : decode cX5_isName 254 = .ok (.ifCond .eq 229, 3) := dk_153 0 229 (dk_at dksX5_isName_4 14 rfl rfl)
theorem dX5_isName_257 : decode cX5_isName 257 = .ok (.iconst 4, 1) := dk_7 (dk_at dksX5_isName_4 17 rfl rfl)
theorem dX5_isName_258 : decode cX5_isName 258 = .ok (.istore_n 2, 1) := dk_61 (dk_at dksX5_isName_4 18 rfl rfl)
theorem dX5_isName_259 : decode cX5_isName 259 = .ok (.goto 224, 3) := dk_167 0 224 (dk_at dksX5_isName_4 19 rfl rfl)
theorem dX5_isName_262 : decode cX5_isName 262 = .ok (.aload_n 1, 1) := dk_43 (dk_at dksX5_isName_4 22 rfl rfl)
theorem dX5_isName_263 : decode cX5_isName 263 = .ok (.ldc 121, 2) := dk_18 121 (dk_at dksX5_isName_5 0 rfl rfl)
theorem dX5_isName_265 : decode cX5_isName 265 = .ok (.invokevirtual 80, 3) := dk_182 0 80 (dk_at dksX5_isName_5 2 rfl rfl)
theorem dX5_isName_268 : decode cX5_isName 268 = .ok (.ifCond .eq 215, 3) := dk_153 0 215 (dk_at dksX5_isName_5 5 rfl rfl)
theorem dX5_isName_271 : decode cX5_isName 271 = .ok (.iconst 5, 1) := dk_8 (dk_at dksX5_isName_5 8 rfl rfl)
theorem dX5_isName_272 : decode cX5_isName 272 = .ok (.istore_n 2, 1) := dk_61 (dk_at dksX5_isName_5 9 rfl rfl)
theorem dX5_isName_273 : decode cX5_isName 273 = .ok (.goto 210, 3) := dk_167 0 210 (dk_at dksX5_isName_5 10 rfl rfl)
theorem dX5_isName_276 : decode cX5_isName 276 = .ok (.aload_n 1, 1) := dk_43 (dk_at dksX5_isName_5 13 rfl rfl)
theorem dX5_isName_277 : decode cX5_isName 277 = .ok (.ldc 123, 2) := dk_18 123 (dk_at dksX5_isName_5 14 rfl rfl)
theorem dX5_isName_279 : decode cX5_isName 279 = .ok (.invokevirtual 80, 3) := dk_182 0 80 (dk_at dksX5_isName_5 16 rfl rfl)
theorem dX5_isName_282 : decode cX5_isName 282 = .ok (.ifCond .eq 201, 3) := dk_153 0 201 (dk_at dksX5_isName_5 19 rfl rfl)
theorem dX5_isName_285 : decode cX5_isName 285 = .ok (.bipush 6, 2) := dk_16 6 (dk_at dksX5_isName_5 22 rfl rfl)
theorem dX5_isName_287 : decode cX5_isName 287 = .ok (.istore_n 2, 1) := dk_61 (dk_at dksX5_isName_6 0 rfl rfl)
theorem dX5_isName_288 : decode cX5_isName 288 = .ok (.goto 195, 3) := dk_167 0 195 (dk_at dksX5_isName_6 1 rfl rfl)
theorem dX5_isName_291 : decode cX5_isName 291 = .ok (.aload_n 1, 1) := dk_43 (dk_at dksX5_isName_6 4 rfl rfl)
theorem dX5_isName_292 : decode cX5_isName 292 = .ok (.ldc 124, 2) := dk_18 124 (dk_at dksX5_isName_6 5 rfl rfl)
theorem dX5_isName_294 : decode cX5_isName 294 = .ok (.invokevirtual 80, 3) := dk_182 0 80 (dk_at dksX5_isName_6 7 rfl rfl)
theorem dX5_isName_297 : decode cX5_isName 297 = .ok (.ifCond .eq 186, 3) := dk_153 0 186 (dk_at dksX5_isName_6 10 rfl rfl)
theorem dX5_isName_300 : decode cX5_isName 300 = .ok (.bipush 7, 2) := dk_16 7 (dk_at dksX5_isName_6 13 rfl rfl)
theorem dX5_isName_302 : decode cX5_isName 302 = .ok (.istore_n 2, 1) := dk_61 (dk_at dksX5_isName_6 15 rfl rfl)
theorem dX5_isName_303 : decode cX5_isName 303 = .ok (.goto 180, 3) := dk_167 0 180 (dk_at dksX5_isName_6 16 rfl rfl)
theorem dX5_isName_306 : decode cX5_isName 306 = .ok (.aload_n 1, 1) := dk_43 (dk_at dksX5_isName_6 19 rfl rfl)
theorem dX5_isName_307 : decode cX5_isName 307 = .ok (.ldc 126, 2) := dk_18 126 (dk_at dksX5_isName_6 20 rfl rfl)
theorem dX5_isName_309 : decode cX5_isName 309 = .ok (.invokevirtual 80, 3) := dk_182 0 80 (dk_at dksX5_isName_7 0 rfl rfl)
theorem dX5_isName_312 : decode cX5_isName 312 = .ok (.ifCond .eq 171, 3) := dk_153 0 171 (dk_at dksX5_isName_7 3 rfl rfl)
theorem dX5_isName_315 : decode cX5_isName 315 = .ok (.bipush 8, 2) := dk_16 8 (dk_at dksX5_isName_7 6 rfl rfl)
theorem dX5_isName_317 : decode cX5_isName 317 = .ok (.istore_n 2, 1) := dk_61 (dk_at dksX5_isName_7 8 rfl rfl)
theorem dX5_isName_318 : decode cX5_isName 318 = .ok (.goto 165, 3) := dk_167 0 165 (dk_at dksX5_isName_7 9 rfl rfl)
theorem dX5_isName_321 : decode cX5_isName 321 = .ok (.aload_n 1, 1) := dk_43 (dk_at dksX5_isName_7 12 rfl rfl)
theorem dX5_isName_322 : decode cX5_isName 322 = .ok (.ldc 128, 2) := dk_18 128 (dk_at dksX5_isName_7 13 rfl rfl)
theorem dX5_isName_324 : decode cX5_isName 324 = .ok (.invokevirtual 80, 3) := dk_182 0 80 (dk_at dksX5_isName_7 15 rfl rfl)
theorem dX5_isName_327 : decode cX5_isName 327 = .ok (.ifCond .eq 156, 3) := dk_153 0 156 (dk_at dksX5_isName_7 18 rfl rfl)
theorem dX5_isName_330 : decode cX5_isName 330 = .ok (.bipush 9, 2) := dk_16 9 (dk_at dksX5_isName_7 21 rfl rfl)
theorem dX5_isName_332 : decode cX5_isName 332 = .ok (.istore_n 2, 1) := dk_61 (dk_at dksX5_isName_7 23 rfl rfl)
theorem dX5_isName_333 : decode cX5_isName 333 = .ok (.goto 150, 3) := dk_167 0 150 (dk_at dksX5_isName_8 0 rfl rfl)
theorem dX5_isName_336 : decode cX5_isName 336 = .ok (.aload_n 1, 1) := dk_43 (dk_at dksX5_isName_8 3 rfl rfl)
theorem dX5_isName_337 : decode cX5_isName 337 = .ok (.ldc 130, 2) := dk_18 130 (dk_at dksX5_isName_8 4 rfl rfl)
theorem dX5_isName_339 : decode cX5_isName 339 = .ok (.invokevirtual 80, 3) := dk_182 0 80 (dk_at dksX5_isName_8 6 rfl rfl)
theorem dX5_isName_342 : decode cX5_isName 342 = .ok (.ifCond .eq 141, 3) := dk_153 0 141 (dk_at dksX5_isName_8 9 rfl rfl)
theorem dX5_isName_345 : decode cX5_isName 345 = .ok (.bipush 10, 2) := dk_16 10 (dk_at dksX5_isName_8 12 rfl rfl)
theorem dX5_isName_347 : decode cX5_isName 347 = .ok (.istore_n 2, 1) := dk_61 (dk_at dksX5_isName_8 14 rfl rfl)
theorem dX5_isName_348 : decode cX5_isName 348 = .ok (.goto 135, 3) := dk_167 0 135 (dk_at dksX5_isName_8 15 rfl rfl)
theorem dX5_isName_351 : decode cX5_isName 351 = .ok (.aload_n 1, 1) := dk_43 (dk_at dksX5_isName_8 18 rfl rfl)
theorem dX5_isName_352 : decode cX5_isName 352 = .ok (.ldc 132, 2) := dk_18 132 (dk_at dksX5_isName_8 19 rfl rfl)
theorem dX5_isName_354 : decode cX5_isName 354 = .ok (.invokevirtual 80, 3) := dk_182 0 80 (dk_at dksX5_isName_8 21 rfl rfl)
theorem dX5_isName_357 : decode cX5_isName 357 = .ok (.ifCond .eq 126, 3) := dk_153 0 126 (dk_at dksX5_isName_9 0 rfl rfl)
theorem dX5_isName_360 : decode cX5_isName 360 = .ok (.bipush 11, 2) := dk_16 11 (dk_at dksX5_isName_9 3 rfl rfl)
theorem dX5_isName_362 : decode cX5_isName 362 = .ok (.istore_n 2, 1) := dk_61 (dk_at dksX5_isName_9 5 rfl rfl)
theorem dX5_isName_363 : decode cX5_isName 363 = .ok (.goto 120, 3) := dk_167 0 120 (dk_at dksX5_isName_9 6 rfl rfl)
theorem dX5_isName_366 : decode cX5_isName 366 = .ok (.aload_n 1, 1) := dk_43 (dk_at dksX5_isName_9 9 rfl rfl)
theorem dX5_isName_367 : decode cX5_isName 367 = .ok (.ldc 134, 2) := dk_18 134 (dk_at dksX5_isName_9 10 rfl rfl)
theorem dX5_isName_369 : decode cX5_isName 369 = .ok (.invokevirtual 80, 3) := dk_182 0 80 (dk_at dksX5_isName_9 12 rfl rfl)
theorem dX5_isName_372 : decode cX5_isName 372 = .ok (.ifCond .eq 111, 3) := dk_153 0 111 (dk_at dksX5_isName_9 15 rfl rfl)
theorem dX5_isName_375 : decode cX5_isName 375 = .ok (.bipush 12, 2) := dk_16 12 (dk_at dksX5_isName_9 18 rfl rfl)
theorem dX5_isName_377 : decode cX5_isName 377 = .ok (.istore_n 2, 1) := dk_61 (dk_at dksX5_isName_9 20 rfl rfl)
theorem dX5_isName_378 : decode cX5_isName 378 = .ok (.goto 105, 3) := dk_167 0 105 (dk_at dksX5_isName_9 21 rfl rfl)
theorem dX5_isName_381 : decode cX5_isName 381 = .ok (.aload_n 1, 1) := dk_43 (dk_at dksX5_isName_10 0 rfl rfl)
theorem dX5_isName_382 : decode cX5_isName 382 = .ok (.ldc 136, 2) := dk_18 136 (dk_at dksX5_isName_10 1 rfl rfl)
theorem dX5_isName_384 : decode cX5_isName 384 = .ok (.invokevirtual 80, 3) := dk_182 0 80 (dk_at dksX5_isName_10 3 rfl rfl)
theorem dX5_isName_387 : decode cX5_isName 387 = .ok (.ifCond .eq 96, 3) := dk_153 0 96 (dk_at dksX5_isName_10 6 rfl rfl)
theorem dX5_isName_390 : decode cX5_isName 390 = .ok (.bipush 13, 2) := dk_16 13 (dk_at dksX5_isName_10 9 rfl rfl)
theorem dX5_isName_392 : decode cX5_isName 392 = .ok (.istore_n 2, 1) := dk_61 (dk_at dksX5_isName_10 11 rfl rfl)
theorem dX5_isName_393 : decode cX5_isName 393 = .ok (.goto 90, 3) := dk_167 0 90 (dk_at dksX5_isName_10 12 rfl rfl)
theorem dX5_isName_396 : decode cX5_isName 396 = .ok (.aload_n 1, 1) := dk_43 (dk_at dksX5_isName_10 15 rfl rfl)
theorem dX5_isName_397 : decode cX5_isName 397 = .ok (.ldc 138, 2) := dk_18 138 (dk_at dksX5_isName_10 16 rfl rfl)
theorem dX5_isName_399 : decode cX5_isName 399 = .ok (.invokevirtual 80, 3) := dk_182 0 80 (dk_at dksX5_isName_10 18 rfl rfl)
theorem dX5_isName_402 : decode cX5_isName 402 = .ok (.ifCond .eq 81, 3) := dk_153 0 81 (dk_at dksX5_isName_10 21 rfl rfl)
theorem dX5_isName_405 : decode cX5_isName 405 = .ok (.bipush 14, 2) := dk_16 14 (dk_at dksX5_isName_11 0 rfl rfl)
theorem dX5_isName_407 : decode cX5_isName 407 = .ok (.istore_n 2, 1) := dk_61 (dk_at dksX5_isName_11 2 rfl rfl)
theorem dX5_isName_408 : decode cX5_isName 408 = .ok (.goto 75, 3) := dk_167 0 75 (dk_at dksX5_isName_11 3 rfl rfl)
theorem dX5_isName_411 : decode cX5_isName 411 = .ok (.aload_n 1, 1) := dk_43 (dk_at dksX5_isName_11 6 rfl rfl)
theorem dX5_isName_412 : decode cX5_isName 412 = .ok (.ldc 140, 2) := dk_18 140 (dk_at dksX5_isName_11 7 rfl rfl)
theorem dX5_isName_414 : decode cX5_isName 414 = .ok (.invokevirtual 80, 3) := dk_182 0 80 (dk_at dksX5_isName_11 9 rfl rfl)
theorem dX5_isName_417 : decode cX5_isName 417 = .ok (.ifCond .eq 66, 3) := dk_153 0 66 (dk_at dksX5_isName_11 12 rfl rfl)
theorem dX5_isName_420 : decode cX5_isName 420 = .ok (.bipush 15, 2) := dk_16 15 (dk_at dksX5_isName_11 15 rfl rfl)
theorem dX5_isName_422 : decode cX5_isName 422 = .ok (.istore_n 2, 1) := dk_61 (dk_at dksX5_isName_11 17 rfl rfl)
theorem dX5_isName_423 : decode cX5_isName 423 = .ok (.goto 60, 3) := dk_167 0 60 (dk_at dksX5_isName_11 18 rfl rfl)
theorem dX5_isName_426 : decode cX5_isName 426 = .ok (.aload_n 1, 1) := dk_43 (dk_at dksX5_isName_11 21 rfl rfl)
theorem dX5_isName_427 : decode cX5_isName 427 = .ok (.ldc 142, 2) := dk_18 142 (dk_at dksX5_isName_11 22 rfl rfl)
theorem dX5_isName_429 : decode cX5_isName 429 = .ok (.invokevirtual 80, 3) := dk_182 0 80 (dk_at dksX5_isName_12 0 rfl rfl)
theorem dX5_isName_432 : decode cX5_isName 432 = .ok (.ifCond .eq 51, 3) := dk_153 0 51 (dk_at dksX5_isName_12 3 rfl rfl)
theorem dX5_isName_435 : decode cX5_isName 435 = .ok (.bipush 16, 2) := dk_16 16 (dk_at dksX5_isName_12 6 rfl rfl)
theorem dX5_isName_437 : decode cX5_isName 437 = .ok (.istore_n 2, 1) := dk_61 (dk_at dksX5_isName_12 8 rfl rfl)
theorem dX5_isName_438 : decode cX5_isName 438 = .ok (.goto 45, 3) := dk_167 0 45 (dk_at dksX5_isName_12 9 rfl rfl)
theorem dX5_isName_441 : decode cX5_isName 441 = .ok (.aload_n 1, 1) := dk_43 (dk_at dksX5_isName_12 12 rfl rfl)
theorem dX5_isName_442 : decode cX5_isName 442 = .ok (.ldc 144, 2) := dk_18 144 (dk_at dksX5_isName_12 13 rfl rfl)
theorem dX5_isName_444 : decode cX5_isName 444 = .ok (.invokevirtual 80, 3) := dk_182 0 80 (dk_at dksX5_isName_12 15 rfl rfl)
theorem dX5_isName_447 : decode cX5_isName 447 = .ok (.ifCond .eq 36, 3) := dk_153 0 36 (dk_at dksX5_isName_12 18 rfl rfl)
theorem dX5_isName_450 : decode cX5_isName 450 = .ok (.bipush 17, 2) := dk_16 17 (dk_at dksX5_isName_12 21 rfl rfl)
theorem dX5_isName_452 : decode cX5_isName 452 = .ok (.istore_n 2, 1) := dk_61 (dk_at dksX5_isName_12 23 rfl rfl)
theorem dX5_isName_453 : decode cX5_isName 453 = .ok (.goto 30, 3) := dk_167 0 30 (dk_at dksX5_isName_13 0 rfl rfl)
theorem dX5_isName_456 : decode cX5_isName 456 = .ok (.aload_n 1, 1) := dk_43 (dk_at dksX5_isName_13 3 rfl rfl)
theorem dX5_isName_457 : decode cX5_isName 457 = .ok (.ldc 146, 2) := dk_18 146 (dk_at dksX5_isName_13 4 rfl rfl)
theorem dX5_isName_459 : decode cX5_isName 459 = .ok (.invokevirtual 80, 3) := dk_182 0 80 (dk_at dksX5_isName_13 6 rfl rfl)
theorem dX5_isName_462 : decode cX5_isName 462 = .ok (.ifCond .eq 21, 3) := dk_153 0 21 (dk_at dksX5_isName_13 9 rfl rfl)
theorem dX5_isName_465 : decode cX5_isName 465 = .ok (.bipush 18, 2) := dk_16 18 (dk_at dksX5_isName_13 12 rfl rfl)
theorem dX5_isName_467 : decode cX5_isName 467 = .ok (.istore_n 2, 1) := dk_61 (dk_at dksX5_isName_13 14 rfl rfl)
theorem dX5_isName_468 : decode cX5_isName 468 = .ok (.goto 15, 3) := dk_167 0 15 (dk_at dksX5_isName_13 15 rfl rfl)
theorem dX5_isName_471 : decode cX5_isName 471 = .ok (.aload_n 1, 1) := dk_43 (dk_at dksX5_isName_13 18 rfl rfl)
theorem dX5_isName_472 : decode cX5_isName 472 = .ok (.ldc 148, 2) := dk_18 148 (dk_at dksX5_isName_13 19 rfl rfl)
theorem dX5_isName_474 : decode cX5_isName 474 = .ok (.invokevirtual 80, 3) := dk_182 0 80 (dk_at dksX5_isName_13 21 rfl rfl)
theorem dX5_isName_477 : decode cX5_isName 477 = .ok (.ifCond .eq 6, 3) := dk_153 0 6 (dk_at dksX5_isName_14 0 rfl rfl)
theorem dX5_isName_480 : decode cX5_isName 480 = .ok (.bipush 19, 2) := dk_16 19 (dk_at dksX5_isName_14 3 rfl rfl)
theorem dX5_isName_482 : decode cX5_isName 482 = .ok (.istore_n 2, 1) := dk_61 (dk_at dksX5_isName_14 5 rfl rfl)
theorem dX5_isName_483 : decode cX5_isName 483 = .ok (.iload_n 2, 1) := dk_28 (dk_at dksX5_isName_14 6 rfl rfl)
theorem dX5_isName_484 : decode cX5_isName 484 = .ok (.tableswitch 98 0 19 #[96, 96, 96, 96, 96, 96, 96, 96, 96, 96, 96, 96, 96, 96, 96, 96, 96, 96, 96, 96], 96) := by decide +kernel
theorem dX5_isName_580 : decode cX5_isName 580 = .ok (.iconst 0, 1) := dk_3 (dk_at dksX5_isName_16 0 rfl rfl)
theorem dX5_isName_581 : decode cX5_isName 581 = .ok (.ireturn, 1) := dk_172 (dk_at dksX5_isName_16 1 rfl rfl)
theorem dX5_isName_582 : decode cX5_isName 582 = .ok (.iconst 1, 1) := dk_4 (dk_at dksX5_isName_16 2 rfl rfl)
theorem dX5_isName_583 : decode cX5_isName 583 = .ok (.ireturn, 1) := dk_172 (dk_at dksX5_isName_16 3 rfl rfl)
abbrev cX5_wrong : ByteArray := prog_18_method_7_code
def yX5_wrong : MethodName := ⟨RX5, "wrong", "()LWebCourt$Wrong;"⟩
def dkwX5_wrong_1 : List UInt8 := [176]
abbrev dktX5_wrong_1 : List UInt8 := dkwX5_wrong_1 ++ []
def dkwX5_wrong_0 : List UInt8 := [187, 0, 75, 89, 42, 180, 0, 46, 6, 160, 0, 7, 4, 167, 0, 4, 5, 42, 180, 0, 43, 183, 0, 77]
abbrev dktX5_wrong_0 : List UInt8 := dkwX5_wrong_0 ++ dktX5_wrong_1
theorem dksX5_wrong_0 : cX5_wrong.data.toList.drop 0 = dktX5_wrong_0 := by decide +kernel
theorem dksX5_wrong_1 : cX5_wrong.data.toList.drop 24 = dktX5_wrong_1 := dk_seg dksX5_wrong_0 24 rfl rfl
theorem dX5_wrong_0 : decode cX5_wrong 0 = .ok (.new 75, 3) := dk_187 0 75 (dk_at dksX5_wrong_0 0 rfl rfl)
theorem dX5_wrong_3 : decode cX5_wrong 3 = .ok (.dup, 1) := dk_89 (dk_at dksX5_wrong_0 3 rfl rfl)
theorem dX5_wrong_4 : decode cX5_wrong 4 = .ok (.aload_n 0, 1) := dk_42 (dk_at dksX5_wrong_0 4 rfl rfl)
theorem dX5_wrong_5 : decode cX5_wrong 5 = .ok (.getfield 46, 3) := dk_180 0 46 (dk_at dksX5_wrong_0 5 rfl rfl)
theorem dX5_wrong_8 : decode cX5_wrong 8 = .ok (.iconst 3, 1) := dk_6 (dk_at dksX5_wrong_0 8 rfl rfl)
theorem dX5_wrong_9 : decode cX5_wrong 9 = .ok (.if_icmp .ne 7, 3) := dk_160 0 7 (dk_at dksX5_wrong_0 9 rfl rfl)
theorem dX5_wrong_12 : decode cX5_wrong 12 = .ok (.iconst 1, 1) := dk_4 (dk_at dksX5_wrong_0 12 rfl rfl)
theorem dX5_wrong_13 : decode cX5_wrong 13 = .ok (.goto 4, 3) := dk_167 0 4 (dk_at dksX5_wrong_0 13 rfl rfl)
theorem dX5_wrong_16 : decode cX5_wrong 16 = .ok (.iconst 2, 1) := dk_5 (dk_at dksX5_wrong_0 16 rfl rfl)
theorem dX5_wrong_17 : decode cX5_wrong 17 = .ok (.aload_n 0, 1) := dk_42 (dk_at dksX5_wrong_0 17 rfl rfl)
theorem dX5_wrong_18 : decode cX5_wrong 18 = .ok (.getfield 43, 3) := dk_180 0 43 (dk_at dksX5_wrong_0 18 rfl rfl)
theorem dX5_wrong_21 : decode cX5_wrong 21 = .ok (.invokespecial 77, 3) := dk_183 0 77 (dk_at dksX5_wrong_0 21 rfl rfl)
theorem dX5_wrong_24 : decode cX5_wrong 24 = .ok (.areturn, 1) := dk_176 (dk_at dksX5_wrong_1 0 rfl rfl)
abbrev cX5_thread : ByteArray := prog_18_method_19_code
def yX5_thread : MethodName := ⟨RX5, "thread", "()V"⟩
def dkwX5_thread_3 : List UInt8 := [45, 42, 18, 115, 182, 0, 93, 181, 0, 232, 42, 180, 0, 24, 180, 0, 184, 45, 182, 0, 181, 87, 177]
abbrev dktX5_thread_3 : List UInt8 := dkwX5_thread_3 ++ []
def dkwX5_thread_2 : List UInt8 := [89, 6, 42, 180, 0, 43, 183, 0, 77, 191, 42, 182, 0, 90, 187, 0, 229, 89, 27, 28, 183, 0, 231, 78]
abbrev dktX5_thread_2 : List UInt8 := dkwX5_thread_2 ++ dktX5_thread_3
def dkwX5_thread_1 : List UInt8 := [182, 0, 162, 61, 27, 28, 159, 0, 15, 42, 180, 0, 24, 27, 28, 182, 0, 225, 153, 0, 16, 187, 0, 75]
abbrev dktX5_thread_1 : List UInt8 := dkwX5_thread_1 ++ dktX5_thread_2
def dkwX5_thread_0 : List UInt8 := [42, 182, 0, 90, 42, 42, 180, 0, 24, 180, 0, 168, 182, 0, 222, 60, 42, 42, 180, 0, 24, 180, 0, 168]
abbrev dktX5_thread_0 : List UInt8 := dkwX5_thread_0 ++ dktX5_thread_1
theorem dksX5_thread_0 : cX5_thread.data.toList.drop 0 = dktX5_thread_0 := by decide +kernel
theorem dksX5_thread_1 : cX5_thread.data.toList.drop 24 = dktX5_thread_1 := dk_seg dksX5_thread_0 24 rfl rfl
theorem dksX5_thread_2 : cX5_thread.data.toList.drop 48 = dktX5_thread_2 := dk_seg dksX5_thread_1 24 rfl rfl
theorem dksX5_thread_3 : cX5_thread.data.toList.drop 72 = dktX5_thread_3 := dk_seg dksX5_thread_2 24 rfl rfl
theorem dX5_thread_0 : decode cX5_thread 0 = .ok (.aload_n 0, 1) := dk_42 (dk_at dksX5_thread_0 0 rfl rfl)
theorem dX5_thread_1 : decode cX5_thread 1 = .ok (.invokevirtual 90, 3) := dk_182 0 90 (dk_at dksX5_thread_0 1 rfl rfl)
theorem dX5_thread_4 : decode cX5_thread 4 = .ok (.aload_n 0, 1) := dk_42 (dk_at dksX5_thread_0 4 rfl rfl)
theorem dX5_thread_5 : decode cX5_thread 5 = .ok (.aload_n 0, 1) := dk_42 (dk_at dksX5_thread_0 5 rfl rfl)
theorem dX5_thread_6 : decode cX5_thread 6 = .ok (.getfield 24, 3) := dk_180 0 24 (dk_at dksX5_thread_0 6 rfl rfl)
theorem dX5_thread_9 : decode cX5_thread 9 = .ok (.getfield 168, 3) := dk_180 0 168 (dk_at dksX5_thread_0 9 rfl rfl)
theorem dX5_thread_12 : decode cX5_thread 12 = .ok (.invokevirtual 222, 3) := dk_182 0 222 (dk_at dksX5_thread_0 12 rfl rfl)
theorem dX5_thread_15 : decode cX5_thread 15 = .ok (.istore_n 1, 1) := dk_60 (dk_at dksX5_thread_0 15 rfl rfl)
theorem dX5_thread_16 : decode cX5_thread 16 = .ok (.aload_n 0, 1) := dk_42 (dk_at dksX5_thread_0 16 rfl rfl)
theorem dX5_thread_17 : decode cX5_thread 17 = .ok (.aload_n 0, 1) := dk_42 (dk_at dksX5_thread_0 17 rfl rfl)
theorem dX5_thread_18 : decode cX5_thread 18 = .ok (.getfield 24, 3) := dk_180 0 24 (dk_at dksX5_thread_0 18 rfl rfl)
theorem dX5_thread_21 : decode cX5_thread 21 = .ok (.getfield 168, 3) := dk_180 0 168 (dk_at dksX5_thread_0 21 rfl rfl)
theorem dX5_thread_24 : decode cX5_thread 24 = .ok (.invokevirtual 162, 3) := dk_182 0 162 (dk_at dksX5_thread_1 0 rfl rfl)
theorem dX5_thread_27 : decode cX5_thread 27 = .ok (.istore_n 2, 1) := dk_61 (dk_at dksX5_thread_1 3 rfl rfl)
theorem dX5_thread_28 : decode cX5_thread 28 = .ok (.iload_n 1, 1) := dk_27 (dk_at dksX5_thread_1 4 rfl rfl)
theorem dX5_thread_29 : decode cX5_thread 29 = .ok (.iload_n 2, 1) := dk_28 (dk_at dksX5_thread_1 5 rfl rfl)
theorem dX5_thread_30 : decode cX5_thread 30 = .ok (.if_icmp .eq 15, 3) := dk_159 0 15 (dk_at dksX5_thread_1 6 rfl rfl)
theorem dX5_thread_33 : decode cX5_thread 33 = .ok (.aload_n 0, 1) := dk_42 (dk_at dksX5_thread_1 9 rfl rfl)
theorem dX5_thread_34 : decode cX5_thread 34 = .ok (.getfield 24, 3) := dk_180 0 24 (dk_at dksX5_thread_1 10 rfl rfl)
theorem dX5_thread_37 : decode cX5_thread 37 = .ok (.iload_n 1, 1) := dk_27 (dk_at dksX5_thread_1 13 rfl rfl)
theorem dX5_thread_38 : decode cX5_thread 38 = .ok (.iload_n 2, 1) := dk_28 (dk_at dksX5_thread_1 14 rfl rfl)
theorem dX5_thread_39 : decode cX5_thread 39 = .ok (.invokevirtual 225, 3) := dk_182 0 225 (dk_at dksX5_thread_1 15 rfl rfl)
theorem dX5_thread_42 : decode cX5_thread 42 = .ok (.ifCond .eq 16, 3) := dk_153 0 16 (dk_at dksX5_thread_1 18 rfl rfl)
theorem dX5_thread_45 : decode cX5_thread 45 = .ok (.new 75, 3) := dk_187 0 75 (dk_at dksX5_thread_1 21 rfl rfl)
theorem dX5_thread_48 : decode cX5_thread 48 = .ok (.dup, 1) := dk_89 (dk_at dksX5_thread_2 0 rfl rfl)
theorem dX5_thread_49 : decode cX5_thread 49 = .ok (.iconst 3, 1) := dk_6 (dk_at dksX5_thread_2 1 rfl rfl)
theorem dX5_thread_50 : decode cX5_thread 50 = .ok (.aload_n 0, 1) := dk_42 (dk_at dksX5_thread_2 2 rfl rfl)
theorem dX5_thread_51 : decode cX5_thread 51 = .ok (.getfield 43, 3) := dk_180 0 43 (dk_at dksX5_thread_2 3 rfl rfl)
theorem dX5_thread_54 : decode cX5_thread 54 = .ok (.invokespecial 77, 3) := dk_183 0 77 (dk_at dksX5_thread_2 6 rfl rfl)
theorem dX5_thread_57 : decode cX5_thread 57 = .ok (.athrow, 1) := dk_191 (dk_at dksX5_thread_2 9 rfl rfl)
theorem dX5_thread_58 : decode cX5_thread 58 = .ok (.aload_n 0, 1) := dk_42 (dk_at dksX5_thread_2 10 rfl rfl)
theorem dX5_thread_59 : decode cX5_thread 59 = .ok (.invokevirtual 90, 3) := dk_182 0 90 (dk_at dksX5_thread_2 11 rfl rfl)
theorem dX5_thread_62 : decode cX5_thread 62 = .ok (.new 229, 3) := dk_187 0 229 (dk_at dksX5_thread_2 14 rfl rfl)
theorem dX5_thread_65 : decode cX5_thread 65 = .ok (.dup, 1) := dk_89 (dk_at dksX5_thread_2 17 rfl rfl)
theorem dX5_thread_66 : decode cX5_thread 66 = .ok (.iload_n 1, 1) := dk_27 (dk_at dksX5_thread_2 18 rfl rfl)
theorem dX5_thread_67 : decode cX5_thread 67 = .ok (.iload_n 2, 1) := dk_28 (dk_at dksX5_thread_2 19 rfl rfl)
theorem dX5_thread_68 : decode cX5_thread 68 = .ok (.invokespecial 231, 3) := dk_183 0 231 (dk_at dksX5_thread_2 20 rfl rfl)
theorem dX5_thread_71 : decode cX5_thread 71 = .ok (.astore_n 3, 1) := dk_78 (dk_at dksX5_thread_2 23 rfl rfl)
theorem dX5_thread_72 : decode cX5_thread 72 = .ok (.aload_n 3, 1) := dk_45 (dk_at dksX5_thread_3 0 rfl rfl)
theorem dX5_thread_73 : decode cX5_thread 73 = .ok (.aload_n 0, 1) := dk_42 (dk_at dksX5_thread_3 1 rfl rfl)
theorem dX5_thread_74 : decode cX5_thread 74 = .ok (.ldc 115, 2) := dk_18 115 (dk_at dksX5_thread_3 2 rfl rfl)
theorem dX5_thread_76 : decode cX5_thread 76 = .ok (.invokevirtual 93, 3) := dk_182 0 93 (dk_at dksX5_thread_3 4 rfl rfl)
theorem dX5_thread_79 : decode cX5_thread 79 = .ok (.putfield 232, 3) := dk_181 0 232 (dk_at dksX5_thread_3 7 rfl rfl)
theorem dX5_thread_82 : decode cX5_thread 82 = .ok (.aload_n 0, 1) := dk_42 (dk_at dksX5_thread_3 10 rfl rfl)
theorem dX5_thread_83 : decode cX5_thread 83 = .ok (.getfield 24, 3) := dk_180 0 24 (dk_at dksX5_thread_3 11 rfl rfl)
theorem dX5_thread_86 : decode cX5_thread 86 = .ok (.getfield 184, 3) := dk_180 0 184 (dk_at dksX5_thread_3 14 rfl rfl)
theorem dX5_thread_89 : decode cX5_thread 89 = .ok (.aload_n 3, 1) := dk_45 (dk_at dksX5_thread_3 17 rfl rfl)
theorem dX5_thread_90 : decode cX5_thread 90 = .ok (.invokevirtual 181, 3) := dk_182 0 181 (dk_at dksX5_thread_3 18 rfl rfl)
theorem dX5_thread_93 : decode cX5_thread 93 = .ok (.pop, 1) := dk_87 (dk_at dksX5_thread_3 21 rfl rfl)
theorem dX5_thread_94 : decode cX5_thread 94 = .ok (.return_, 1) := dk_177 (dk_at dksX5_thread_3 22 rfl rfl)
abbrev cX5_takeName : ByteArray := prog_18_method_16_code
def yX5_takeName : MethodName := ⟨RX5, "takeName", "(Ljava/util/ArrayList;)I"⟩
def dkwX5_takeName_0 : List UInt8 := [42, 43, 182, 0, 162, 61, 42, 182, 0, 90, 28, 172]
abbrev dktX5_takeName_0 : List UInt8 := dkwX5_takeName_0 ++ []
theorem dksX5_takeName_0 : cX5_takeName.data.toList.drop 0 = dktX5_takeName_0 := by decide +kernel
theorem dX5_takeName_0 : decode cX5_takeName 0 = .ok (.aload_n 0, 1) := dk_42 (dk_at dksX5_takeName_0 0 rfl rfl)
theorem dX5_takeName_1 : decode cX5_takeName 1 = .ok (.aload_n 1, 1) := dk_43 (dk_at dksX5_takeName_0 1 rfl rfl)
theorem dX5_takeName_2 : decode cX5_takeName 2 = .ok (.invokevirtual 162, 3) := dk_182 0 162 (dk_at dksX5_takeName_0 2 rfl rfl)
theorem dX5_takeName_5 : decode cX5_takeName 5 = .ok (.istore_n 2, 1) := dk_61 (dk_at dksX5_takeName_0 5 rfl rfl)
theorem dX5_takeName_6 : decode cX5_takeName 6 = .ok (.aload_n 0, 1) := dk_42 (dk_at dksX5_takeName_0 6 rfl rfl)
theorem dX5_takeName_7 : decode cX5_takeName 7 = .ok (.invokevirtual 90, 3) := dk_182 0 90 (dk_at dksX5_takeName_0 7 rfl rfl)
theorem dX5_takeName_10 : decode cX5_takeName 10 = .ok (.iload_n 2, 1) := dk_28 (dk_at dksX5_takeName_0 10 rfl rfl)
theorem dX5_takeName_11 : decode cX5_takeName 11 = .ok (.ireturn, 1) := dk_172 (dk_at dksX5_takeName_0 11 rfl rfl)
abbrev cX5_oldName : ByteArray := prog_18_method_15_code
def yX5_oldName : MethodName := ⟨RX5, "oldName", "(Ljava/util/ArrayList;)I"⟩
def dkwX5_oldName_1 : List UInt8 := [187, 0, 75, 89, 8, 42, 180, 0, 43, 183, 0, 77, 191, 43, 42, 180, 0, 17, 184, 0, 154, 172]
abbrev dktX5_oldName_1 : List UInt8 := dkwX5_oldName_1 ++ []
def dkwX5_oldName_0 : List UInt8 := [42, 182, 0, 150, 154, 0, 8, 42, 182, 0, 96, 191, 43, 42, 180, 0, 17, 184, 0, 154, 156, 0, 16]
abbrev dktX5_oldName_0 : List UInt8 := dkwX5_oldName_0 ++ dktX5_oldName_1
theorem dksX5_oldName_0 : cX5_oldName.data.toList.drop 0 = dktX5_oldName_0 := by decide +kernel
theorem dksX5_oldName_1 : cX5_oldName.data.toList.drop 23 = dktX5_oldName_1 := dk_seg dksX5_oldName_0 23 rfl rfl
theorem dX5_oldName_0 : decode cX5_oldName 0 = .ok (.aload_n 0, 1) := dk_42 (dk_at dksX5_oldName_0 0 rfl rfl)
theorem dX5_oldName_1 : decode cX5_oldName 1 = .ok (.invokevirtual 150, 3) := dk_182 0 150 (dk_at dksX5_oldName_0 1 rfl rfl)
theorem dX5_oldName_4 : decode cX5_oldName 4 = .ok (.ifCond .ne 8, 3) := dk_154 0 8 (dk_at dksX5_oldName_0 4 rfl rfl)
theorem dX5_oldName_7 : decode cX5_oldName 7 = .ok (.aload_n 0, 1) := dk_42 (dk_at dksX5_oldName_0 7 rfl rfl)
theorem dX5_oldName_8 : decode cX5_oldName 8 = .ok (.invokevirtual 96, 3) := dk_182 0 96 (dk_at dksX5_oldName_0 8 rfl rfl)
theorem dX5_oldName_11 : decode cX5_oldName 11 = .ok (.athrow, 1) := dk_191 (dk_at dksX5_oldName_0 11 rfl rfl)
theorem dX5_oldName_12 : decode cX5_oldName 12 = .ok (.aload_n 1, 1) := dk_43 (dk_at dksX5_oldName_0 12 rfl rfl)
theorem dX5_oldName_13 : decode cX5_oldName 13 = .ok (.aload_n 0, 1) := dk_42 (dk_at dksX5_oldName_0 13 rfl rfl)
theorem dX5_oldName_14 : decode cX5_oldName 14 = .ok (.getfield 17, 3) := dk_180 0 17 (dk_at dksX5_oldName_0 14 rfl rfl)
theorem dX5_oldName_17 : decode cX5_oldName 17 = .ok (.invokestatic 154, 3) := dk_184 0 154 (dk_at dksX5_oldName_0 17 rfl rfl)
theorem dX5_oldName_20 : decode cX5_oldName 20 = .ok (.ifCond .ge 16, 3) := dk_156 0 16 (dk_at dksX5_oldName_0 20 rfl rfl)
theorem dX5_oldName_23 : decode cX5_oldName 23 = .ok (.new 75, 3) := dk_187 0 75 (dk_at dksX5_oldName_1 0 rfl rfl)
theorem dX5_oldName_26 : decode cX5_oldName 26 = .ok (.dup, 1) := dk_89 (dk_at dksX5_oldName_1 3 rfl rfl)
theorem dX5_oldName_27 : decode cX5_oldName 27 = .ok (.iconst 5, 1) := dk_8 (dk_at dksX5_oldName_1 4 rfl rfl)
theorem dX5_oldName_28 : decode cX5_oldName 28 = .ok (.aload_n 0, 1) := dk_42 (dk_at dksX5_oldName_1 5 rfl rfl)
theorem dX5_oldName_29 : decode cX5_oldName 29 = .ok (.getfield 43, 3) := dk_180 0 43 (dk_at dksX5_oldName_1 6 rfl rfl)
theorem dX5_oldName_32 : decode cX5_oldName 32 = .ok (.invokespecial 77, 3) := dk_183 0 77 (dk_at dksX5_oldName_1 9 rfl rfl)
theorem dX5_oldName_35 : decode cX5_oldName 35 = .ok (.athrow, 1) := dk_191 (dk_at dksX5_oldName_1 12 rfl rfl)
theorem dX5_oldName_36 : decode cX5_oldName 36 = .ok (.aload_n 1, 1) := dk_43 (dk_at dksX5_oldName_1 13 rfl rfl)
theorem dX5_oldName_37 : decode cX5_oldName 37 = .ok (.aload_n 0, 1) := dk_42 (dk_at dksX5_oldName_1 14 rfl rfl)
theorem dX5_oldName_38 : decode cX5_oldName 38 = .ok (.getfield 17, 3) := dk_180 0 17 (dk_at dksX5_oldName_1 15 rfl rfl)
theorem dX5_oldName_41 : decode cX5_oldName 41 = .ok (.invokestatic 154, 3) := dk_184 0 154 (dk_at dksX5_oldName_1 18 rfl rfl)
theorem dX5_oldName_44 : decode cX5_oldName 44 = .ok (.ireturn, 1) := dk_172 (dk_at dksX5_oldName_1 21 rfl rfl)
abbrev cX5_takes : ByteArray := prog_18_method_9_code
def yX5_takes : MethodName := ⟨RX5, "takes", "(Ljava/lang/String;)Z"⟩
def dkwX5_takes_0 : List UInt8 := [42, 43, 182, 0, 86, 61, 28, 153, 0, 7, 42, 182, 0, 90, 28, 172]
abbrev dktX5_takes_0 : List UInt8 := dkwX5_takes_0 ++ []
theorem dksX5_takes_0 : cX5_takes.data.toList.drop 0 = dktX5_takes_0 := by decide +kernel
theorem dX5_takes_0 : decode cX5_takes 0 = .ok (.aload_n 0, 1) := dk_42 (dk_at dksX5_takes_0 0 rfl rfl)
theorem dX5_takes_1 : decode cX5_takes 1 = .ok (.aload_n 1, 1) := dk_43 (dk_at dksX5_takes_0 1 rfl rfl)
theorem dX5_takes_2 : decode cX5_takes 2 = .ok (.invokevirtual 86, 3) := dk_182 0 86 (dk_at dksX5_takes_0 2 rfl rfl)
theorem dX5_takes_5 : decode cX5_takes 5 = .ok (.istore_n 2, 1) := dk_61 (dk_at dksX5_takes_0 5 rfl rfl)
theorem dX5_takes_6 : decode cX5_takes 6 = .ok (.iload_n 2, 1) := dk_28 (dk_at dksX5_takes_0 6 rfl rfl)
theorem dX5_takes_7 : decode cX5_takes 7 = .ok (.ifCond .eq 7, 3) := dk_153 0 7 (dk_at dksX5_takes_0 7 rfl rfl)
theorem dX5_takes_10 : decode cX5_takes 10 = .ok (.aload_n 0, 1) := dk_42 (dk_at dksX5_takes_0 10 rfl rfl)
theorem dX5_takes_11 : decode cX5_takes 11 = .ok (.invokevirtual 90, 3) := dk_182 0 90 (dk_at dksX5_takes_0 11 rfl rfl)
theorem dX5_takes_14 : decode cX5_takes 14 = .ok (.iload_n 2, 1) := dk_28 (dk_at dksX5_takes_0 14 rfl rfl)
theorem dX5_takes_15 : decode cX5_takes 15 = .ok (.ireturn, 1) := dk_172 (dk_at dksX5_takes_0 15 rfl rfl)
abbrev cX5_plea : ByteArray := prog_18_method_20_code
def yX5_plea : MethodName := ⟨RX5, "plea", "()V"⟩
def dkwX5_plea_1 : List UInt8 := [181, 0, 238, 42, 180, 0, 24, 180, 0, 190, 43, 182, 0, 181, 87, 177]
abbrev dktX5_plea_1 : List UInt8 := dkwX5_plea_1 ++ []
def dkwX5_plea_0 : List UInt8 := [42, 42, 180, 0, 24, 180, 0, 190, 182, 0, 177, 76, 43, 42, 18, 119, 3, 16, 20, 182, 0, 234]
abbrev dktX5_plea_0 : List UInt8 := dkwX5_plea_0 ++ dktX5_plea_1
theorem dksX5_plea_0 : cX5_plea.data.toList.drop 0 = dktX5_plea_0 := by decide +kernel
theorem dksX5_plea_1 : cX5_plea.data.toList.drop 22 = dktX5_plea_1 := dk_seg dksX5_plea_0 22 rfl rfl
theorem dX5_plea_0 : decode cX5_plea 0 = .ok (.aload_n 0, 1) := dk_42 (dk_at dksX5_plea_0 0 rfl rfl)
theorem dX5_plea_1 : decode cX5_plea 1 = .ok (.aload_n 0, 1) := dk_42 (dk_at dksX5_plea_0 1 rfl rfl)
theorem dX5_plea_2 : decode cX5_plea 2 = .ok (.getfield 24, 3) := dk_180 0 24 (dk_at dksX5_plea_0 2 rfl rfl)
theorem dX5_plea_5 : decode cX5_plea 5 = .ok (.getfield 190, 3) := dk_180 0 190 (dk_at dksX5_plea_0 5 rfl rfl)
theorem dX5_plea_8 : decode cX5_plea 8 = .ok (.invokevirtual 177, 3) := dk_182 0 177 (dk_at dksX5_plea_0 8 rfl rfl)
theorem dX5_plea_11 : decode cX5_plea 11 = .ok (.astore_n 1, 1) := dk_76 (dk_at dksX5_plea_0 11 rfl rfl)
theorem dX5_plea_12 : decode cX5_plea 12 = .ok (.aload_n 1, 1) := dk_43 (dk_at dksX5_plea_0 12 rfl rfl)
theorem dX5_plea_13 : decode cX5_plea 13 = .ok (.aload_n 0, 1) := dk_42 (dk_at dksX5_plea_0 13 rfl rfl)
theorem dX5_plea_14 : decode cX5_plea 14 = .ok (.ldc 119, 2) := dk_18 119 (dk_at dksX5_plea_0 14 rfl rfl)
theorem dX5_plea_16 : decode cX5_plea 16 = .ok (.iconst 0, 1) := dk_3 (dk_at dksX5_plea_0 16 rfl rfl)
theorem dX5_plea_17 : decode cX5_plea 17 = .ok (.bipush 20, 2) := dk_16 20 (dk_at dksX5_plea_0 17 rfl rfl)
theorem dX5_plea_19 : decode cX5_plea 19 = .ok (.invokevirtual 234, 3) := dk_182 0 234 (dk_at dksX5_plea_0 19 rfl rfl)
theorem dX5_plea_22 : decode cX5_plea 22 = .ok (.putfield 238, 3) := dk_181 0 238 (dk_at dksX5_plea_1 0 rfl rfl)
theorem dX5_plea_25 : decode cX5_plea 25 = .ok (.aload_n 0, 1) := dk_42 (dk_at dksX5_plea_1 3 rfl rfl)
theorem dX5_plea_26 : decode cX5_plea 26 = .ok (.getfield 24, 3) := dk_180 0 24 (dk_at dksX5_plea_1 4 rfl rfl)
theorem dX5_plea_29 : decode cX5_plea 29 = .ok (.getfield 190, 3) := dk_180 0 190 (dk_at dksX5_plea_1 7 rfl rfl)
theorem dX5_plea_32 : decode cX5_plea 32 = .ok (.aload_n 1, 1) := dk_43 (dk_at dksX5_plea_1 10 rfl rfl)
theorem dX5_plea_33 : decode cX5_plea 33 = .ok (.invokevirtual 181, 3) := dk_182 0 181 (dk_at dksX5_plea_1 11 rfl rfl)
theorem dX5_plea_36 : decode cX5_plea 36 = .ok (.pop, 1) := dk_87 (dk_at dksX5_plea_1 14 rfl rfl)
theorem dX5_plea_37 : decode cX5_plea 37 = .ok (.return_, 1) := dk_177 (dk_at dksX5_plea_1 15 rfl rfl)
abbrev cX5_told : ByteArray := prog_18_method_12_code
def yX5_told : MethodName := ⟨RX5, "told", "(Ljava/lang/String;II)I"⟩
def dkwX5_told_0 : List UInt8 := [42, 43, 182, 0, 100, 42, 28, 29, 182, 0, 104, 172]
abbrev dktX5_told_0 : List UInt8 := dkwX5_told_0 ++ []
theorem dksX5_told_0 : cX5_told.data.toList.drop 0 = dktX5_told_0 := by decide +kernel
theorem dX5_told_0 : decode cX5_told 0 = .ok (.aload_n 0, 1) := dk_42 (dk_at dksX5_told_0 0 rfl rfl)
theorem dX5_told_1 : decode cX5_told 1 = .ok (.aload_n 1, 1) := dk_43 (dk_at dksX5_told_0 1 rfl rfl)
theorem dX5_told_2 : decode cX5_told 2 = .ok (.invokevirtual 100, 3) := dk_182 0 100 (dk_at dksX5_told_0 2 rfl rfl)
theorem dX5_told_5 : decode cX5_told 5 = .ok (.aload_n 0, 1) := dk_42 (dk_at dksX5_told_0 5 rfl rfl)
theorem dX5_told_6 : decode cX5_told 6 = .ok (.iload_n 2, 1) := dk_28 (dk_at dksX5_told_0 6 rfl rfl)
theorem dX5_told_7 : decode cX5_told 7 = .ok (.iload_n 3, 1) := dk_29 (dk_at dksX5_told_0 7 rfl rfl)
theorem dX5_told_8 : decode cX5_told 8 = .ok (.invokevirtual 104, 3) := dk_182 0 104 (dk_at dksX5_told_0 8 rfl rfl)
theorem dX5_told_11 : decode cX5_told 11 = .ok (.ireturn, 1) := dk_172 (dk_at dksX5_told_0 11 rfl rfl)
abbrev cX5_key : ByteArray := prog_18_method_10_code
def yX5_key : MethodName := ⟨RX5, "key", "(Ljava/lang/String;)V"⟩
def dkwX5_key_0 : List UInt8 := [42, 43, 182, 0, 93, 154, 0, 8, 42, 182, 0, 96, 191, 177]
abbrev dktX5_key_0 : List UInt8 := dkwX5_key_0 ++ []
theorem dksX5_key_0 : cX5_key.data.toList.drop 0 = dktX5_key_0 := by decide +kernel
theorem dX5_key_0 : decode cX5_key 0 = .ok (.aload_n 0, 1) := dk_42 (dk_at dksX5_key_0 0 rfl rfl)
theorem dX5_key_1 : decode cX5_key 1 = .ok (.aload_n 1, 1) := dk_43 (dk_at dksX5_key_0 1 rfl rfl)
theorem dX5_key_2 : decode cX5_key 2 = .ok (.invokevirtual 93, 3) := dk_182 0 93 (dk_at dksX5_key_0 2 rfl rfl)
theorem dX5_key_5 : decode cX5_key 5 = .ok (.ifCond .ne 8, 3) := dk_154 0 8 (dk_at dksX5_key_0 5 rfl rfl)
theorem dX5_key_8 : decode cX5_key 8 = .ok (.aload_n 0, 1) := dk_42 (dk_at dksX5_key_0 8 rfl rfl)
theorem dX5_key_9 : decode cX5_key 9 = .ok (.invokevirtual 96, 3) := dk_182 0 96 (dk_at dksX5_key_0 9 rfl rfl)
theorem dX5_key_12 : decode cX5_key 12 = .ok (.athrow, 1) := dk_191 (dk_at dksX5_key_0 12 rfl rfl)
theorem dX5_key_13 : decode cX5_key 13 = .ok (.return_, 1) := dk_177 (dk_at dksX5_key_0 13 rfl rfl)
abbrev cX5_number : ByteArray := prog_18_method_11_code
def yX5_number : MethodName := ⟨RX5, "number", "(II)I"⟩
def dkwX5_number_2 : List UInt8 := [62, 42, 182, 0, 90, 29, 172]
abbrev dktX5_number_2 : List UInt8 := dkwX5_number_2 ++ []
def dkwX5_number_1 : List UInt8 := [180, 0, 69, 28, 164, 0, 16, 187, 0, 75, 89, 7, 42, 180, 0, 43, 183, 0, 77, 191, 42, 180, 0, 69]
abbrev dktX5_number_1 : List UInt8 := dkwX5_number_1 ++ dktX5_number_2
def dkwX5_number_0 : List UInt8 := [42, 180, 0, 46, 5, 159, 0, 8, 42, 182, 0, 96, 191, 42, 180, 0, 69, 27, 161, 0, 11, 42]
abbrev dktX5_number_0 : List UInt8 := dkwX5_number_0 ++ dktX5_number_1
theorem dksX5_number_0 : cX5_number.data.toList.drop 0 = dktX5_number_0 := by decide +kernel
theorem dksX5_number_1 : cX5_number.data.toList.drop 22 = dktX5_number_1 := dk_seg dksX5_number_0 22 rfl rfl
theorem dksX5_number_2 : cX5_number.data.toList.drop 46 = dktX5_number_2 := dk_seg dksX5_number_1 24 rfl rfl
theorem dX5_number_0 : decode cX5_number 0 = .ok (.aload_n 0, 1) := dk_42 (dk_at dksX5_number_0 0 rfl rfl)
theorem dX5_number_1 : decode cX5_number 1 = .ok (.getfield 46, 3) := dk_180 0 46 (dk_at dksX5_number_0 1 rfl rfl)
theorem dX5_number_4 : decode cX5_number 4 = .ok (.iconst 2, 1) := dk_5 (dk_at dksX5_number_0 4 rfl rfl)
theorem dX5_number_5 : decode cX5_number 5 = .ok (.if_icmp .eq 8, 3) := dk_159 0 8 (dk_at dksX5_number_0 5 rfl rfl)
theorem dX5_number_8 : decode cX5_number 8 = .ok (.aload_n 0, 1) := dk_42 (dk_at dksX5_number_0 8 rfl rfl)
theorem dX5_number_9 : decode cX5_number 9 = .ok (.invokevirtual 96, 3) := dk_182 0 96 (dk_at dksX5_number_0 9 rfl rfl)
theorem dX5_number_12 : decode cX5_number 12 = .ok (.athrow, 1) := dk_191 (dk_at dksX5_number_0 12 rfl rfl)
theorem dX5_number_13 : decode cX5_number 13 = .ok (.aload_n 0, 1) := dk_42 (dk_at dksX5_number_0 13 rfl rfl)
theorem dX5_number_14 : decode cX5_number 14 = .ok (.getfield 69, 3) := dk_180 0 69 (dk_at dksX5_number_0 14 rfl rfl)
theorem dX5_number_17 : decode cX5_number 17 = .ok (.iload_n 1, 1) := dk_27 (dk_at dksX5_number_0 17 rfl rfl)
theorem dX5_number_18 : decode cX5_number 18 = .ok (.if_icmp .lt 11, 3) := dk_161 0 11 (dk_at dksX5_number_0 18 rfl rfl)
theorem dX5_number_21 : decode cX5_number 21 = .ok (.aload_n 0, 1) := dk_42 (dk_at dksX5_number_0 21 rfl rfl)
theorem dX5_number_22 : decode cX5_number 22 = .ok (.getfield 69, 3) := dk_180 0 69 (dk_at dksX5_number_1 0 rfl rfl)
theorem dX5_number_25 : decode cX5_number 25 = .ok (.iload_n 2, 1) := dk_28 (dk_at dksX5_number_1 3 rfl rfl)
theorem dX5_number_26 : decode cX5_number 26 = .ok (.if_icmp .le 16, 3) := dk_164 0 16 (dk_at dksX5_number_1 4 rfl rfl)
theorem dX5_number_29 : decode cX5_number 29 = .ok (.new 75, 3) := dk_187 0 75 (dk_at dksX5_number_1 7 rfl rfl)
theorem dX5_number_32 : decode cX5_number 32 = .ok (.dup, 1) := dk_89 (dk_at dksX5_number_1 10 rfl rfl)
theorem dX5_number_33 : decode cX5_number 33 = .ok (.iconst 4, 1) := dk_7 (dk_at dksX5_number_1 11 rfl rfl)
theorem dX5_number_34 : decode cX5_number 34 = .ok (.aload_n 0, 1) := dk_42 (dk_at dksX5_number_1 12 rfl rfl)
theorem dX5_number_35 : decode cX5_number 35 = .ok (.getfield 43, 3) := dk_180 0 43 (dk_at dksX5_number_1 13 rfl rfl)
theorem dX5_number_38 : decode cX5_number 38 = .ok (.invokespecial 77, 3) := dk_183 0 77 (dk_at dksX5_number_1 16 rfl rfl)
theorem dX5_number_41 : decode cX5_number 41 = .ok (.athrow, 1) := dk_191 (dk_at dksX5_number_1 19 rfl rfl)
theorem dX5_number_42 : decode cX5_number 42 = .ok (.aload_n 0, 1) := dk_42 (dk_at dksX5_number_1 20 rfl rfl)
theorem dX5_number_43 : decode cX5_number 43 = .ok (.getfield 69, 3) := dk_180 0 69 (dk_at dksX5_number_1 21 rfl rfl)
theorem dX5_number_46 : decode cX5_number 46 = .ok (.istore_n 3, 1) := dk_62 (dk_at dksX5_number_2 0 rfl rfl)
theorem dX5_number_47 : decode cX5_number 47 = .ok (.aload_n 0, 1) := dk_42 (dk_at dksX5_number_2 1 rfl rfl)
theorem dX5_number_48 : decode cX5_number 48 = .ok (.invokevirtual 90, 3) := dk_182 0 90 (dk_at dksX5_number_2 2 rfl rfl)
theorem dX5_number_51 : decode cX5_number 51 = .ok (.iload_n 3, 1) := dk_29 (dk_at dksX5_number_2 5 rfl rfl)
theorem dX5_number_52 : decode cX5_number 52 = .ok (.ireturn, 1) := dk_172 (dk_at dksX5_number_2 6 rfl rfl)
abbrev cX5_item : ByteArray := prog_18_method_21_code
def yX5_item : MethodName := ⟨RX5, "item", "()V"⟩
def dkwX5_item_5 : List UInt8 := [180, 0, 24, 180, 0, 195, 43, 182, 0, 181, 87, 177]
abbrev dktX5_item_5 : List UInt8 := dkwX5_item_5 ++ []
def dkwX5_item_4 : List UInt8 := [180, 0, 239, 4, 28, 120, 128, 181, 0, 239, 42, 182, 0, 90, 42, 182, 0, 150, 154, 255, 183, 42]
abbrev dktX5_item_4 : List UInt8 := dkwX5_item_4 ++ dktX5_item_5
def dkwX5_item_3 : List UInt8 := [28, 122, 4, 126, 4, 160, 0, 16, 187, 0, 75, 89, 6, 42, 180, 0, 43, 183, 0, 77, 191, 43, 89]
abbrev dktX5_item_3 : List UInt8 := dkwX5_item_3 ++ dktX5_item_4
def dkwX5_item_2 : List UInt8 := [160, 0, 8, 42, 182, 0, 96, 191, 42, 42, 180, 0, 24, 180, 0, 190, 182, 0, 162, 61, 43, 180, 0, 239]
abbrev dktX5_item_2 : List UInt8 := dkwX5_item_2 ++ dktX5_item_3
def dkwX5_item_1 : List UInt8 := [180, 0, 168, 182, 0, 222, 181, 0, 238, 42, 18, 124, 182, 0, 100, 43, 180, 0, 239, 184, 0, 241, 7]
abbrev dktX5_item_1 : List UInt8 := dkwX5_item_1 ++ dktX5_item_2
def dkwX5_item_0 : List UInt8 := [42, 42, 180, 0, 24, 180, 0, 195, 182, 0, 177, 76, 42, 18, 123, 182, 0, 100, 43, 42, 42, 180, 0, 24]
abbrev dktX5_item_0 : List UInt8 := dkwX5_item_0 ++ dktX5_item_1
theorem dksX5_item_0 : cX5_item.data.toList.drop 0 = dktX5_item_0 := by decide +kernel
theorem dksX5_item_1 : cX5_item.data.toList.drop 24 = dktX5_item_1 := dk_seg dksX5_item_0 24 rfl rfl
theorem dksX5_item_2 : cX5_item.data.toList.drop 47 = dktX5_item_2 := dk_seg dksX5_item_1 23 rfl rfl
theorem dksX5_item_3 : cX5_item.data.toList.drop 71 = dktX5_item_3 := dk_seg dksX5_item_2 24 rfl rfl
theorem dksX5_item_4 : cX5_item.data.toList.drop 94 = dktX5_item_4 := dk_seg dksX5_item_3 23 rfl rfl
theorem dksX5_item_5 : cX5_item.data.toList.drop 116 = dktX5_item_5 := dk_seg dksX5_item_4 22 rfl rfl
theorem dX5_item_0 : decode cX5_item 0 = .ok (.aload_n 0, 1) := dk_42 (dk_at dksX5_item_0 0 rfl rfl)
theorem dX5_item_1 : decode cX5_item 1 = .ok (.aload_n 0, 1) := dk_42 (dk_at dksX5_item_0 1 rfl rfl)
theorem dX5_item_2 : decode cX5_item 2 = .ok (.getfield 24, 3) := dk_180 0 24 (dk_at dksX5_item_0 2 rfl rfl)
theorem dX5_item_5 : decode cX5_item 5 = .ok (.getfield 195, 3) := dk_180 0 195 (dk_at dksX5_item_0 5 rfl rfl)
theorem dX5_item_8 : decode cX5_item 8 = .ok (.invokevirtual 177, 3) := dk_182 0 177 (dk_at dksX5_item_0 8 rfl rfl)
theorem dX5_item_11 : decode cX5_item 11 = .ok (.astore_n 1, 1) := dk_76 (dk_at dksX5_item_0 11 rfl rfl)
theorem dX5_item_12 : decode cX5_item 12 = .ok (.aload_n 0, 1) := dk_42 (dk_at dksX5_item_0 12 rfl rfl)
theorem dX5_item_13 : decode cX5_item 13 = .ok (.ldc 123, 2) := dk_18 123 (dk_at dksX5_item_0 13 rfl rfl)
theorem dX5_item_15 : decode cX5_item 15 = .ok (.invokevirtual 100, 3) := dk_182 0 100 (dk_at dksX5_item_0 15 rfl rfl)
theorem dX5_item_18 : decode cX5_item 18 = .ok (.aload_n 1, 1) := dk_43 (dk_at dksX5_item_0 18 rfl rfl)
theorem dX5_item_19 : decode cX5_item 19 = .ok (.aload_n 0, 1) := dk_42 (dk_at dksX5_item_0 19 rfl rfl)
theorem dX5_item_20 : decode cX5_item 20 = .ok (.aload_n 0, 1) := dk_42 (dk_at dksX5_item_0 20 rfl rfl)
theorem dX5_item_21 : decode cX5_item 21 = .ok (.getfield 24, 3) := dk_180 0 24 (dk_at dksX5_item_0 21 rfl rfl)
theorem dX5_item_24 : decode cX5_item 24 = .ok (.getfield 168, 3) := dk_180 0 168 (dk_at dksX5_item_1 0 rfl rfl)
theorem dX5_item_27 : decode cX5_item 27 = .ok (.invokevirtual 222, 3) := dk_182 0 222 (dk_at dksX5_item_1 3 rfl rfl)
theorem dX5_item_30 : decode cX5_item 30 = .ok (.putfield 238, 3) := dk_181 0 238 (dk_at dksX5_item_1 6 rfl rfl)
theorem dX5_item_33 : decode cX5_item 33 = .ok (.aload_n 0, 1) := dk_42 (dk_at dksX5_item_1 9 rfl rfl)
theorem dX5_item_34 : decode cX5_item 34 = .ok (.ldc 124, 2) := dk_18 124 (dk_at dksX5_item_1 10 rfl rfl)
theorem dX5_item_36 : decode cX5_item 36 = .ok (.invokevirtual 100, 3) := dk_182 0 100 (dk_at dksX5_item_1 12 rfl rfl)
theorem dX5_item_39 : decode cX5_item 39 = .ok (.aload_n 1, 1) := dk_43 (dk_at dksX5_item_1 15 rfl rfl)
theorem dX5_item_40 : decode cX5_item 40 = .ok (.getfield 239, 3) := dk_180 0 239 (dk_at dksX5_item_1 16 rfl rfl)
theorem dX5_item_43 : decode cX5_item 43 = .ok (.invokestatic 241, 3) := dk_184 0 241 (dk_at dksX5_item_1 19 rfl rfl)
theorem dX5_item_46 : decode cX5_item 46 = .ok (.iconst 4, 1) := dk_7 (dk_at dksX5_item_1 22 rfl rfl)
theorem dX5_item_47 : decode cX5_item 47 = .ok (.if_icmp .ne 8, 3) := dk_160 0 8 (dk_at dksX5_item_2 0 rfl rfl)
theorem dX5_item_50 : decode cX5_item 50 = .ok (.aload_n 0, 1) := dk_42 (dk_at dksX5_item_2 3 rfl rfl)
theorem dX5_item_51 : decode cX5_item 51 = .ok (.invokevirtual 96, 3) := dk_182 0 96 (dk_at dksX5_item_2 4 rfl rfl)
theorem dX5_item_54 : decode cX5_item 54 = .ok (.athrow, 1) := dk_191 (dk_at dksX5_item_2 7 rfl rfl)
theorem dX5_item_55 : decode cX5_item 55 = .ok (.aload_n 0, 1) := dk_42 (dk_at dksX5_item_2 8 rfl rfl)
theorem dX5_item_56 : decode cX5_item 56 = .ok (.aload_n 0, 1) := dk_42 (dk_at dksX5_item_2 9 rfl rfl)
theorem dX5_item_57 : decode cX5_item 57 = .ok (.getfield 24, 3) := dk_180 0 24 (dk_at dksX5_item_2 10 rfl rfl)
theorem dX5_item_60 : decode cX5_item 60 = .ok (.getfield 190, 3) := dk_180 0 190 (dk_at dksX5_item_2 13 rfl rfl)
theorem dX5_item_63 : decode cX5_item 63 = .ok (.invokevirtual 162, 3) := dk_182 0 162 (dk_at dksX5_item_2 16 rfl rfl)
theorem dX5_item_66 : decode cX5_item 66 = .ok (.istore_n 2, 1) := dk_61 (dk_at dksX5_item_2 19 rfl rfl)
theorem dX5_item_67 : decode cX5_item 67 = .ok (.aload_n 1, 1) := dk_43 (dk_at dksX5_item_2 20 rfl rfl)
theorem dX5_item_68 : decode cX5_item 68 = .ok (.getfield 239, 3) := dk_180 0 239 (dk_at dksX5_item_2 21 rfl rfl)
theorem dX5_item_71 : decode cX5_item 71 = .ok (.iload_n 2, 1) := dk_28 (dk_at dksX5_item_3 0 rfl rfl)
theorem dX5_item_72 : decode cX5_item 72 = .ok (.ishr, 1) := dk_122 (dk_at dksX5_item_3 1 rfl rfl)
theorem dX5_item_73 : decode cX5_item 73 = .ok (.iconst 1, 1) := dk_4 (dk_at dksX5_item_3 2 rfl rfl)
theorem dX5_item_74 : decode cX5_item 74 = .ok (.iand, 1) := dk_126 (dk_at dksX5_item_3 3 rfl rfl)
theorem dX5_item_75 : decode cX5_item 75 = .ok (.iconst 1, 1) := dk_4 (dk_at dksX5_item_3 4 rfl rfl)
theorem dX5_item_76 : decode cX5_item 76 = .ok (.if_icmp .ne 16, 3) := dk_160 0 16 (dk_at dksX5_item_3 5 rfl rfl)
theorem dX5_item_79 : decode cX5_item 79 = .ok (.new 75, 3) := dk_187 0 75 (dk_at dksX5_item_3 8 rfl rfl)
theorem dX5_item_82 : decode cX5_item 82 = .ok (.dup, 1) := dk_89 (dk_at dksX5_item_3 11 rfl rfl)
theorem dX5_item_83 : decode cX5_item 83 = .ok (.iconst 3, 1) := dk_6 (dk_at dksX5_item_3 12 rfl rfl)
theorem dX5_item_84 : decode cX5_item 84 = .ok (.aload_n 0, 1) := dk_42 (dk_at dksX5_item_3 13 rfl rfl)
theorem dX5_item_85 : decode cX5_item 85 = .ok (.getfield 43, 3) := dk_180 0 43 (dk_at dksX5_item_3 14 rfl rfl)
theorem dX5_item_88 : decode cX5_item 88 = .ok (.invokespecial 77, 3) := dk_183 0 77 (dk_at dksX5_item_3 17 rfl rfl)
theorem dX5_item_91 : decode cX5_item 91 = .ok (.athrow, 1) := dk_191 (dk_at dksX5_item_3 20 rfl rfl)
theorem dX5_item_92 : decode cX5_item 92 = .ok (.aload_n 1, 1) := dk_43 (dk_at dksX5_item_3 21 rfl rfl)
theorem dX5_item_93 : decode cX5_item 93 = .ok (.dup, 1) := dk_89 (dk_at dksX5_item_3 22 rfl rfl)
theorem dX5_item_94 : decode cX5_item 94 = .ok (.getfield 239, 3) := dk_180 0 239 (dk_at dksX5_item_4 0 rfl rfl)
theorem dX5_item_97 : decode cX5_item 97 = .ok (.iconst 1, 1) := dk_4 (dk_at dksX5_item_4 3 rfl rfl)
theorem dX5_item_98 : decode cX5_item 98 = .ok (.iload_n 2, 1) := dk_28 (dk_at dksX5_item_4 4 rfl rfl)
theorem dX5_item_99 : decode cX5_item 99 = .ok (.ishl, 1) := dk_120 (dk_at dksX5_item_4 5 rfl rfl)
theorem dX5_item_100 : decode cX5_item 100 = .ok (.ior, 1) := dk_128 (dk_at dksX5_item_4 6 rfl rfl)
theorem dX5_item_101 : decode cX5_item 101 = .ok (.putfield 239, 3) := dk_181 0 239 (dk_at dksX5_item_4 7 rfl rfl)
theorem dX5_item_104 : decode cX5_item 104 = .ok (.aload_n 0, 1) := dk_42 (dk_at dksX5_item_4 10 rfl rfl)
theorem dX5_item_105 : decode cX5_item 105 = .ok (.invokevirtual 90, 3) := dk_182 0 90 (dk_at dksX5_item_4 11 rfl rfl)
theorem dX5_item_108 : decode cX5_item 108 = .ok (.aload_n 0, 1) := dk_42 (dk_at dksX5_item_4 14 rfl rfl)
theorem dX5_item_109 : decode cX5_item 109 = .ok (.invokevirtual 150, 3) := dk_182 0 150 (dk_at dksX5_item_4 15 rfl rfl)
theorem dX5_item_112 : decode cX5_item 112 = .ok (.ifCond .ne (-73), 3) := dk_154 255 183 (dk_at dksX5_item_4 18 rfl rfl)
theorem dX5_item_115 : decode cX5_item 115 = .ok (.aload_n 0, 1) := dk_42 (dk_at dksX5_item_4 21 rfl rfl)
theorem dX5_item_116 : decode cX5_item 116 = .ok (.getfield 24, 3) := dk_180 0 24 (dk_at dksX5_item_5 0 rfl rfl)
theorem dX5_item_119 : decode cX5_item 119 = .ok (.getfield 195, 3) := dk_180 0 195 (dk_at dksX5_item_5 3 rfl rfl)
theorem dX5_item_122 : decode cX5_item 122 = .ok (.aload_n 1, 1) := dk_43 (dk_at dksX5_item_5 6 rfl rfl)
theorem dX5_item_123 : decode cX5_item 123 = .ok (.invokevirtual 181, 3) := dk_182 0 181 (dk_at dksX5_item_5 7 rfl rfl)
theorem dX5_item_126 : decode cX5_item 126 = .ok (.pop, 1) := dk_87 (dk_at dksX5_item_5 10 rfl rfl)
theorem dX5_item_127 : decode cX5_item 127 = .ok (.return_, 1) := dk_177 (dk_at dksX5_item_5 11 rfl rfl)
abbrev cX5_bench : ByteArray := prog_18_method_22_code
def yX5_bench : MethodName := ⟨RX5, "bench", "()V"⟩
def dkwX5_bench_1 : List UInt8 := [181, 0, 246, 177]
abbrev dktX5_bench_1 : List UInt8 := dkwX5_bench_1 ++ []
def dkwX5_bench_0 : List UInt8 := [42, 182, 0, 90, 42, 4, 181, 0, 201, 42, 180, 0, 24, 42, 42, 180, 0, 24, 180, 0, 168, 182, 0, 222]
abbrev dktX5_bench_0 : List UInt8 := dkwX5_bench_0 ++ dktX5_bench_1
theorem dksX5_bench_0 : cX5_bench.data.toList.drop 0 = dktX5_bench_0 := by decide +kernel
theorem dksX5_bench_1 : cX5_bench.data.toList.drop 24 = dktX5_bench_1 := dk_seg dksX5_bench_0 24 rfl rfl
theorem dX5_bench_0 : decode cX5_bench 0 = .ok (.aload_n 0, 1) := dk_42 (dk_at dksX5_bench_0 0 rfl rfl)
theorem dX5_bench_1 : decode cX5_bench 1 = .ok (.invokevirtual 90, 3) := dk_182 0 90 (dk_at dksX5_bench_0 1 rfl rfl)
theorem dX5_bench_4 : decode cX5_bench 4 = .ok (.aload_n 0, 1) := dk_42 (dk_at dksX5_bench_0 4 rfl rfl)
theorem dX5_bench_5 : decode cX5_bench 5 = .ok (.iconst 1, 1) := dk_4 (dk_at dksX5_bench_0 5 rfl rfl)
theorem dX5_bench_6 : decode cX5_bench 6 = .ok (.putfield 201, 3) := dk_181 0 201 (dk_at dksX5_bench_0 6 rfl rfl)
theorem dX5_bench_9 : decode cX5_bench 9 = .ok (.aload_n 0, 1) := dk_42 (dk_at dksX5_bench_0 9 rfl rfl)
theorem dX5_bench_10 : decode cX5_bench 10 = .ok (.getfield 24, 3) := dk_180 0 24 (dk_at dksX5_bench_0 10 rfl rfl)
theorem dX5_bench_13 : decode cX5_bench 13 = .ok (.aload_n 0, 1) := dk_42 (dk_at dksX5_bench_0 13 rfl rfl)
theorem dX5_bench_14 : decode cX5_bench 14 = .ok (.aload_n 0, 1) := dk_42 (dk_at dksX5_bench_0 14 rfl rfl)
theorem dX5_bench_15 : decode cX5_bench 15 = .ok (.getfield 24, 3) := dk_180 0 24 (dk_at dksX5_bench_0 15 rfl rfl)
theorem dX5_bench_18 : decode cX5_bench 18 = .ok (.getfield 168, 3) := dk_180 0 168 (dk_at dksX5_bench_0 18 rfl rfl)
theorem dX5_bench_21 : decode cX5_bench 21 = .ok (.invokevirtual 222, 3) := dk_182 0 222 (dk_at dksX5_bench_0 21 rfl rfl)
theorem dX5_bench_24 : decode cX5_bench 24 = .ok (.putfield 246, 3) := dk_181 0 246 (dk_at dksX5_bench_1 0 rfl rfl)
theorem dX5_bench_27 : decode cX5_bench 27 = .ok (.return_, 1) := dk_177 (dk_at dksX5_bench_1 3 rfl rfl)
abbrev cX5_law : ByteArray := prog_18_method_23_code
def yX5_law : MethodName := ⟨RX5, "law", "()V"⟩
def dkwX5_law_0 : List UInt8 := [42, 182, 0, 90, 42, 180, 0, 24, 42, 182, 0, 248, 181, 0, 207, 177]
abbrev dktX5_law_0 : List UInt8 := dkwX5_law_0 ++ []
theorem dksX5_law_0 : cX5_law.data.toList.drop 0 = dktX5_law_0 := by decide +kernel
theorem dX5_law_0 : decode cX5_law 0 = .ok (.aload_n 0, 1) := dk_42 (dk_at dksX5_law_0 0 rfl rfl)
theorem dX5_law_1 : decode cX5_law 1 = .ok (.invokevirtual 90, 3) := dk_182 0 90 (dk_at dksX5_law_0 1 rfl rfl)
theorem dX5_law_4 : decode cX5_law 4 = .ok (.aload_n 0, 1) := dk_42 (dk_at dksX5_law_0 4 rfl rfl)
theorem dX5_law_5 : decode cX5_law 5 = .ok (.getfield 24, 3) := dk_180 0 24 (dk_at dksX5_law_0 5 rfl rfl)
theorem dX5_law_8 : decode cX5_law 8 = .ok (.aload_n 0, 1) := dk_42 (dk_at dksX5_law_0 8 rfl rfl)
theorem dX5_law_9 : decode cX5_law 9 = .ok (.invokevirtual 248, 3) := dk_182 0 248 (dk_at dksX5_law_0 9 rfl rfl)
theorem dX5_law_12 : decode cX5_law 12 = .ok (.putfield 207, 3) := dk_181 0 207 (dk_at dksX5_law_0 12 rfl rfl)
theorem dX5_law_15 : decode cX5_law 15 = .ok (.return_, 1) := dk_177 (dk_at dksX5_law_0 15 rfl rfl)
abbrev cX5_e : ByteArray := prog_18_method_26_code
def yX5_e : MethodName := ⟨RX5, "e", "()LWebCourt$Node;"⟩
def dkwX5_e_0 : List UInt8 := [42, 3, 181, 1, 1, 42, 3, 181, 1, 4, 42, 182, 1, 7, 176]
abbrev dktX5_e_0 : List UInt8 := dkwX5_e_0 ++ []
theorem dksX5_e_0 : cX5_e.data.toList.drop 0 = dktX5_e_0 := by decide +kernel
theorem dX5_e_0 : decode cX5_e 0 = .ok (.aload_n 0, 1) := dk_42 (dk_at dksX5_e_0 0 rfl rfl)
theorem dX5_e_1 : decode cX5_e 1 = .ok (.iconst 0, 1) := dk_3 (dk_at dksX5_e_0 1 rfl rfl)
theorem dX5_e_2 : decode cX5_e 2 = .ok (.putfield 257, 3) := dk_181 1 1 (dk_at dksX5_e_0 2 rfl rfl)
theorem dX5_e_5 : decode cX5_e 5 = .ok (.aload_n 0, 1) := dk_42 (dk_at dksX5_e_0 5 rfl rfl)
theorem dX5_e_6 : decode cX5_e 6 = .ok (.iconst 0, 1) := dk_3 (dk_at dksX5_e_0 6 rfl rfl)
theorem dX5_e_7 : decode cX5_e 7 = .ok (.putfield 260, 3) := dk_181 1 4 (dk_at dksX5_e_0 7 rfl rfl)
theorem dX5_e_10 : decode cX5_e 10 = .ok (.aload_n 0, 1) := dk_42 (dk_at dksX5_e_0 10 rfl rfl)
theorem dX5_e_11 : decode cX5_e 11 = .ok (.invokevirtual 263, 3) := dk_182 1 7 (dk_at dksX5_e_0 11 rfl rfl)
theorem dX5_e_14 : decode cX5_e 14 = .ok (.areturn, 1) := dk_176 (dk_at dksX5_e_0 14 rfl rfl)
abbrev cX5_both : ByteArray := prog_18_method_27_code
def yX5_both : MethodName := ⟨RX5, "both", "()LWebCourt$Node;"⟩
def dkwX5_both_1 : List UInt8 := [16, 124, 183, 1, 15, 76, 167, 255, 232, 43, 176]
abbrev dktX5_both_1 : List UInt8 := dkwX5_both_1 ++ []
def dkwX5_both_0 : List UInt8 := [42, 182, 1, 10, 76, 42, 18, 146, 182, 0, 93, 153, 0, 21, 187, 1, 13, 89, 43, 42, 182, 1, 10]
abbrev dktX5_both_0 : List UInt8 := dkwX5_both_0 ++ dktX5_both_1
theorem dksX5_both_0 : cX5_both.data.toList.drop 0 = dktX5_both_0 := by decide +kernel
theorem dksX5_both_1 : cX5_both.data.toList.drop 23 = dktX5_both_1 := dk_seg dksX5_both_0 23 rfl rfl
theorem dX5_both_0 : decode cX5_both 0 = .ok (.aload_n 0, 1) := dk_42 (dk_at dksX5_both_0 0 rfl rfl)
theorem dX5_both_1 : decode cX5_both 1 = .ok (.invokevirtual 266, 3) := dk_182 1 10 (dk_at dksX5_both_0 1 rfl rfl)
theorem dX5_both_4 : decode cX5_both 4 = .ok (.astore_n 1, 1) := dk_76 (dk_at dksX5_both_0 4 rfl rfl)
theorem dX5_both_5 : decode cX5_both 5 = .ok (.aload_n 0, 1) := dk_42 (dk_at dksX5_both_0 5 rfl rfl)
theorem dX5_both_6 : decode cX5_both 6 = .ok (.ldc 146, 2) := dk_18 146 (dk_at dksX5_both_0 6 rfl rfl)
theorem dX5_both_8 : decode cX5_both 8 = .ok (.invokevirtual 93, 3) := dk_182 0 93 (dk_at dksX5_both_0 8 rfl rfl)
theorem dX5_both_11 : decode cX5_both 11 = .ok (.ifCond .eq 21, 3) := dk_153 0 21 (dk_at dksX5_both_0 11 rfl rfl)
theorem dX5_both_14 : decode cX5_both 14 = .ok (.new 269, 3) := dk_187 1 13 (dk_at dksX5_both_0 14 rfl rfl)
theorem dX5_both_17 : decode cX5_both 17 = .ok (.dup, 1) := dk_89 (dk_at dksX5_both_0 17 rfl rfl)
theorem dX5_both_18 : decode cX5_both 18 = .ok (.aload_n 1, 1) := dk_43 (dk_at dksX5_both_0 18 rfl rfl)
theorem dX5_both_19 : decode cX5_both 19 = .ok (.aload_n 0, 1) := dk_42 (dk_at dksX5_both_0 19 rfl rfl)
theorem dX5_both_20 : decode cX5_both 20 = .ok (.invokevirtual 266, 3) := dk_182 1 10 (dk_at dksX5_both_0 20 rfl rfl)
theorem dX5_both_23 : decode cX5_both 23 = .ok (.bipush 124, 2) := dk_16 124 (dk_at dksX5_both_1 0 rfl rfl)
theorem dX5_both_25 : decode cX5_both 25 = .ok (.invokespecial 271, 3) := dk_183 1 15 (dk_at dksX5_both_1 2 rfl rfl)
theorem dX5_both_28 : decode cX5_both 28 = .ok (.astore_n 1, 1) := dk_76 (dk_at dksX5_both_1 5 rfl rfl)
theorem dX5_both_29 : decode cX5_both 29 = .ok (.goto (-24), 3) := dk_167 255 232 (dk_at dksX5_both_1 6 rfl rfl)
theorem dX5_both_32 : decode cX5_both 32 = .ok (.aload_n 1, 1) := dk_43 (dk_at dksX5_both_1 9 rfl rfl)
theorem dX5_both_33 : decode cX5_both 33 = .ok (.areturn, 1) := dk_176 (dk_at dksX5_both_1 10 rfl rfl)
abbrev cX5_all : ByteArray := prog_18_method_28_code
def yX5_all : MethodName := ⟨RX5, "all", "()LWebCourt$Node;"⟩
def dkwX5_all_1 : List UInt8 := [16, 38, 183, 1, 15, 76, 167, 255, 232, 43, 176]
abbrev dktX5_all_1 : List UInt8 := dkwX5_all_1 ++ []
def dkwX5_all_0 : List UInt8 := [42, 182, 1, 18, 76, 42, 18, 144, 182, 0, 93, 153, 0, 21, 187, 1, 13, 89, 43, 42, 182, 1, 18]
abbrev dktX5_all_0 : List UInt8 := dkwX5_all_0 ++ dktX5_all_1
theorem dksX5_all_0 : cX5_all.data.toList.drop 0 = dktX5_all_0 := by decide +kernel
theorem dksX5_all_1 : cX5_all.data.toList.drop 23 = dktX5_all_1 := dk_seg dksX5_all_0 23 rfl rfl
theorem dX5_all_0 : decode cX5_all 0 = .ok (.aload_n 0, 1) := dk_42 (dk_at dksX5_all_0 0 rfl rfl)
theorem dX5_all_1 : decode cX5_all 1 = .ok (.invokevirtual 274, 3) := dk_182 1 18 (dk_at dksX5_all_0 1 rfl rfl)
theorem dX5_all_4 : decode cX5_all 4 = .ok (.astore_n 1, 1) := dk_76 (dk_at dksX5_all_0 4 rfl rfl)
theorem dX5_all_5 : decode cX5_all 5 = .ok (.aload_n 0, 1) := dk_42 (dk_at dksX5_all_0 5 rfl rfl)
theorem dX5_all_6 : decode cX5_all 6 = .ok (.ldc 144, 2) := dk_18 144 (dk_at dksX5_all_0 6 rfl rfl)
theorem dX5_all_8 : decode cX5_all 8 = .ok (.invokevirtual 93, 3) := dk_182 0 93 (dk_at dksX5_all_0 8 rfl rfl)
theorem dX5_all_11 : decode cX5_all 11 = .ok (.ifCond .eq 21, 3) := dk_153 0 21 (dk_at dksX5_all_0 11 rfl rfl)
theorem dX5_all_14 : decode cX5_all 14 = .ok (.new 269, 3) := dk_187 1 13 (dk_at dksX5_all_0 14 rfl rfl)
theorem dX5_all_17 : decode cX5_all 17 = .ok (.dup, 1) := dk_89 (dk_at dksX5_all_0 17 rfl rfl)
theorem dX5_all_18 : decode cX5_all 18 = .ok (.aload_n 1, 1) := dk_43 (dk_at dksX5_all_0 18 rfl rfl)
theorem dX5_all_19 : decode cX5_all 19 = .ok (.aload_n 0, 1) := dk_42 (dk_at dksX5_all_0 19 rfl rfl)
theorem dX5_all_20 : decode cX5_all 20 = .ok (.invokevirtual 274, 3) := dk_182 1 18 (dk_at dksX5_all_0 20 rfl rfl)
theorem dX5_all_23 : decode cX5_all 23 = .ok (.bipush 38, 2) := dk_16 38 (dk_at dksX5_all_1 0 rfl rfl)
theorem dX5_all_25 : decode cX5_all 25 = .ok (.invokespecial 271, 3) := dk_183 1 15 (dk_at dksX5_all_1 2 rfl rfl)
theorem dX5_all_28 : decode cX5_all 28 = .ok (.astore_n 1, 1) := dk_76 (dk_at dksX5_all_1 5 rfl rfl)
theorem dX5_all_29 : decode cX5_all 29 = .ok (.goto (-24), 3) := dk_167 255 232 (dk_at dksX5_all_1 6 rfl rfl)
theorem dX5_all_32 : decode cX5_all 32 = .ok (.aload_n 1, 1) := dk_43 (dk_at dksX5_all_1 9 rfl rfl)
theorem dX5_all_33 : decode cX5_all 33 = .ok (.areturn, 1) := dk_176 (dk_at dksX5_all_1 10 rfl rfl)
abbrev cX5_one : ByteArray := prog_18_method_29_code
def yX5_one : MethodName := ⟨RX5, "one", "()LWebCourt$Node;"⟩
def dkwX5_one_4 : List UInt8 := [180, 0, 46, 146, 61, 42, 182, 0, 90, 187, 1, 13, 89, 43, 42, 182, 1, 26, 28, 183, 1, 15, 176]
abbrev dktX5_one_4 : List UInt8 := dkwX5_one_4 ++ []
def dkwX5_one_3 : List UInt8 := [159, 0, 23, 42, 180, 0, 46, 16, 62, 159, 0, 14, 42, 180, 0, 46, 16, 61, 159, 0, 5, 43, 176, 42]
abbrev dktX5_one_3 : List UInt8 := dkwX5_one_3 ++ dktX5_one_4
def dkwX5_one_2 : List UInt8 := [76, 42, 89, 180, 1, 1, 4, 100, 181, 1, 1, 43, 176, 42, 182, 1, 26, 76, 42, 180, 0, 46, 16, 60]
abbrev dktX5_one_2 : List UInt8 := dkwX5_one_2 ++ dktX5_one_3
def dkwX5_one_1 : List UInt8 := [89, 180, 1, 1, 4, 96, 181, 1, 1, 42, 182, 0, 90, 187, 1, 21, 89, 42, 182, 1, 18, 183, 1, 23]
abbrev dktX5_one_1 : List UInt8 := dkwX5_one_1 ++ dktX5_one_2
def dkwX5_one_0 : List UInt8 := [42, 18, 148, 182, 0, 86, 153, 0, 55, 42, 180, 1, 1, 16, 6, 164, 0, 8, 42, 182, 0, 96, 191, 42]
abbrev dktX5_one_0 : List UInt8 := dkwX5_one_0 ++ dktX5_one_1
theorem dksX5_one_0 : cX5_one.data.toList.drop 0 = dktX5_one_0 := by decide +kernel
theorem dksX5_one_1 : cX5_one.data.toList.drop 24 = dktX5_one_1 := dk_seg dksX5_one_0 24 rfl rfl
theorem dksX5_one_2 : cX5_one.data.toList.drop 48 = dktX5_one_2 := dk_seg dksX5_one_1 24 rfl rfl
theorem dksX5_one_3 : cX5_one.data.toList.drop 72 = dktX5_one_3 := dk_seg dksX5_one_2 24 rfl rfl
theorem dksX5_one_4 : cX5_one.data.toList.drop 96 = dktX5_one_4 := dk_seg dksX5_one_3 24 rfl rfl
theorem dX5_one_0 : decode cX5_one 0 = .ok (.aload_n 0, 1) := dk_42 (dk_at dksX5_one_0 0 rfl rfl)
theorem dX5_one_1 : decode cX5_one 1 = .ok (.ldc 148, 2) := dk_18 148 (dk_at dksX5_one_0 1 rfl rfl)
theorem dX5_one_3 : decode cX5_one 3 = .ok (.invokevirtual 86, 3) := dk_182 0 86 (dk_at dksX5_one_0 3 rfl rfl)
theorem dX5_one_6 : decode cX5_one 6 = .ok (.ifCond .eq 55, 3) := dk_153 0 55 (dk_at dksX5_one_0 6 rfl rfl)
theorem dX5_one_9 : decode cX5_one 9 = .ok (.aload_n 0, 1) := dk_42 (dk_at dksX5_one_0 9 rfl rfl)
theorem dX5_one_10 : decode cX5_one 10 = .ok (.getfield 257, 3) := dk_180 1 1 (dk_at dksX5_one_0 10 rfl rfl)
theorem dX5_one_13 : decode cX5_one 13 = .ok (.bipush 6, 2) := dk_16 6 (dk_at dksX5_one_0 13 rfl rfl)
theorem dX5_one_15 : decode cX5_one 15 = .ok (.if_icmp .le 8, 3) := dk_164 0 8 (dk_at dksX5_one_0 15 rfl rfl)
theorem dX5_one_18 : decode cX5_one 18 = .ok (.aload_n 0, 1) := dk_42 (dk_at dksX5_one_0 18 rfl rfl)
theorem dX5_one_19 : decode cX5_one 19 = .ok (.invokevirtual 96, 3) := dk_182 0 96 (dk_at dksX5_one_0 19 rfl rfl)
theorem dX5_one_22 : decode cX5_one 22 = .ok (.athrow, 1) := dk_191 (dk_at dksX5_one_0 22 rfl rfl)
theorem dX5_one_23 : decode cX5_one 23 = .ok (.aload_n 0, 1) := dk_42 (dk_at dksX5_one_0 23 rfl rfl)
theorem dX5_one_24 : decode cX5_one 24 = .ok (.dup, 1) := dk_89 (dk_at dksX5_one_1 0 rfl rfl)
theorem dX5_one_25 : decode cX5_one 25 = .ok (.getfield 257, 3) := dk_180 1 1 (dk_at dksX5_one_1 1 rfl rfl)
theorem dX5_one_28 : decode cX5_one 28 = .ok (.iconst 1, 1) := dk_4 (dk_at dksX5_one_1 4 rfl rfl)
theorem dX5_one_29 : decode cX5_one 29 = .ok (.iadd, 1) := dk_96 (dk_at dksX5_one_1 5 rfl rfl)
theorem dX5_one_30 : decode cX5_one 30 = .ok (.putfield 257, 3) := dk_181 1 1 (dk_at dksX5_one_1 6 rfl rfl)
theorem dX5_one_33 : decode cX5_one 33 = .ok (.aload_n 0, 1) := dk_42 (dk_at dksX5_one_1 9 rfl rfl)
theorem dX5_one_34 : decode cX5_one 34 = .ok (.invokevirtual 90, 3) := dk_182 0 90 (dk_at dksX5_one_1 10 rfl rfl)
theorem dX5_one_37 : decode cX5_one 37 = .ok (.new 277, 3) := dk_187 1 21 (dk_at dksX5_one_1 13 rfl rfl)
theorem dX5_one_40 : decode cX5_one 40 = .ok (.dup, 1) := dk_89 (dk_at dksX5_one_1 16 rfl rfl)
theorem dX5_one_41 : decode cX5_one 41 = .ok (.aload_n 0, 1) := dk_42 (dk_at dksX5_one_1 17 rfl rfl)
theorem dX5_one_42 : decode cX5_one 42 = .ok (.invokevirtual 274, 3) := dk_182 1 18 (dk_at dksX5_one_1 18 rfl rfl)
theorem dX5_one_45 : decode cX5_one 45 = .ok (.invokespecial 279, 3) := dk_183 1 23 (dk_at dksX5_one_1 21 rfl rfl)
theorem dX5_one_48 : decode cX5_one 48 = .ok (.astore_n 1, 1) := dk_76 (dk_at dksX5_one_2 0 rfl rfl)
theorem dX5_one_49 : decode cX5_one 49 = .ok (.aload_n 0, 1) := dk_42 (dk_at dksX5_one_2 1 rfl rfl)
theorem dX5_one_50 : decode cX5_one 50 = .ok (.dup, 1) := dk_89 (dk_at dksX5_one_2 2 rfl rfl)
theorem dX5_one_51 : decode cX5_one 51 = .ok (.getfield 257, 3) := dk_180 1 1 (dk_at dksX5_one_2 3 rfl rfl)
theorem dX5_one_54 : decode cX5_one 54 = .ok (.iconst 1, 1) := dk_4 (dk_at dksX5_one_2 6 rfl rfl)
theorem dX5_one_55 : decode cX5_one 55 = .ok (.isub, 1) := dk_100 (dk_at dksX5_one_2 7 rfl rfl)
theorem dX5_one_56 : decode cX5_one 56 = .ok (.putfield 257, 3) := dk_181 1 1 (dk_at dksX5_one_2 8 rfl rfl)
theorem dX5_one_59 : decode cX5_one 59 = .ok (.aload_n 1, 1) := dk_43 (dk_at dksX5_one_2 11 rfl rfl)
theorem dX5_one_60 : decode cX5_one 60 = .ok (.areturn, 1) := dk_176 (dk_at dksX5_one_2 12 rfl rfl)
theorem dX5_one_61 : decode cX5_one 61 = .ok (.aload_n 0, 1) := dk_42 (dk_at dksX5_one_2 13 rfl rfl)
theorem dX5_one_62 : decode cX5_one 62 = .ok (.invokevirtual 282, 3) := dk_182 1 26 (dk_at dksX5_one_2 14 rfl rfl)
theorem dX5_one_65 : decode cX5_one 65 = .ok (.astore_n 1, 1) := dk_76 (dk_at dksX5_one_2 17 rfl rfl)
theorem dX5_one_66 : decode cX5_one 66 = .ok (.aload_n 0, 1) := dk_42 (dk_at dksX5_one_2 18 rfl rfl)
theorem dX5_one_67 : decode cX5_one 67 = .ok (.getfield 46, 3) := dk_180 0 46 (dk_at dksX5_one_2 19 rfl rfl)
theorem dX5_one_70 : decode cX5_one 70 = .ok (.bipush 60, 2) := dk_16 60 (dk_at dksX5_one_2 22 rfl rfl)
theorem dX5_one_72 : decode cX5_one 72 = .ok (.if_icmp .eq 23, 3) := dk_159 0 23 (dk_at dksX5_one_3 0 rfl rfl)
theorem dX5_one_75 : decode cX5_one 75 = .ok (.aload_n 0, 1) := dk_42 (dk_at dksX5_one_3 3 rfl rfl)
theorem dX5_one_76 : decode cX5_one 76 = .ok (.getfield 46, 3) := dk_180 0 46 (dk_at dksX5_one_3 4 rfl rfl)
theorem dX5_one_79 : decode cX5_one 79 = .ok (.bipush 62, 2) := dk_16 62 (dk_at dksX5_one_3 7 rfl rfl)
theorem dX5_one_81 : decode cX5_one 81 = .ok (.if_icmp .eq 14, 3) := dk_159 0 14 (dk_at dksX5_one_3 9 rfl rfl)
theorem dX5_one_84 : decode cX5_one 84 = .ok (.aload_n 0, 1) := dk_42 (dk_at dksX5_one_3 12 rfl rfl)
theorem dX5_one_85 : decode cX5_one 85 = .ok (.getfield 46, 3) := dk_180 0 46 (dk_at dksX5_one_3 13 rfl rfl)
theorem dX5_one_88 : decode cX5_one 88 = .ok (.bipush 61, 2) := dk_16 61 (dk_at dksX5_one_3 16 rfl rfl)
theorem dX5_one_90 : decode cX5_one 90 = .ok (.if_icmp .eq 5, 3) := dk_159 0 5 (dk_at dksX5_one_3 18 rfl rfl)
theorem dX5_one_93 : decode cX5_one 93 = .ok (.aload_n 1, 1) := dk_43 (dk_at dksX5_one_3 21 rfl rfl)
theorem dX5_one_94 : decode cX5_one 94 = .ok (.areturn, 1) := dk_176 (dk_at dksX5_one_3 22 rfl rfl)
theorem dX5_one_95 : decode cX5_one 95 = .ok (.aload_n 0, 1) := dk_42 (dk_at dksX5_one_3 23 rfl rfl)
theorem dX5_one_96 : decode cX5_one 96 = .ok (.getfield 46, 3) := dk_180 0 46 (dk_at dksX5_one_4 0 rfl rfl)
theorem dX5_one_99 : decode cX5_one 99 = .ok (.i2c, 1) := dk_146 (dk_at dksX5_one_4 3 rfl rfl)
theorem dX5_one_100 : decode cX5_one 100 = .ok (.istore_n 2, 1) := dk_61 (dk_at dksX5_one_4 4 rfl rfl)
theorem dX5_one_101 : decode cX5_one 101 = .ok (.aload_n 0, 1) := dk_42 (dk_at dksX5_one_4 5 rfl rfl)
theorem dX5_one_102 : decode cX5_one 102 = .ok (.invokevirtual 90, 3) := dk_182 0 90 (dk_at dksX5_one_4 6 rfl rfl)
theorem dX5_one_105 : decode cX5_one 105 = .ok (.new 269, 3) := dk_187 1 13 (dk_at dksX5_one_4 9 rfl rfl)
theorem dX5_one_108 : decode cX5_one 108 = .ok (.dup, 1) := dk_89 (dk_at dksX5_one_4 12 rfl rfl)
theorem dX5_one_109 : decode cX5_one 109 = .ok (.aload_n 1, 1) := dk_43 (dk_at dksX5_one_4 13 rfl rfl)
theorem dX5_one_110 : decode cX5_one 110 = .ok (.aload_n 0, 1) := dk_42 (dk_at dksX5_one_4 14 rfl rfl)
theorem dX5_one_111 : decode cX5_one 111 = .ok (.invokevirtual 282, 3) := dk_182 1 26 (dk_at dksX5_one_4 15 rfl rfl)
theorem dX5_one_114 : decode cX5_one 114 = .ok (.iload_n 2, 1) := dk_28 (dk_at dksX5_one_4 18 rfl rfl)
theorem dX5_one_115 : decode cX5_one 115 = .ok (.invokespecial 271, 3) := dk_183 1 15 (dk_at dksX5_one_4 19 rfl rfl)
theorem dX5_one_118 : decode cX5_one 118 = .ok (.areturn, 1) := dk_176 (dk_at dksX5_one_4 22 rfl rfl)
abbrev cX5_sum : ByteArray := prog_18_method_30_code
def yX5_sum : MethodName := ⟨RX5, "sum", "()LWebCourt$Node;"⟩
def dkwX5_sum_2 : List UInt8 := [167, 255, 214, 43, 176]
abbrev dktX5_sum_2 : List UInt8 := dkwX5_sum_2 ++ []
def dkwX5_sum_1 : List UInt8 := [180, 0, 46, 146, 61, 42, 182, 0, 90, 187, 1, 13, 89, 43, 42, 182, 1, 29, 28, 183, 1, 15, 76]
abbrev dktX5_sum_1 : List UInt8 := dkwX5_sum_1 ++ dktX5_sum_2
def dkwX5_sum_0 : List UInt8 := [42, 182, 1, 29, 76, 42, 180, 0, 46, 16, 43, 159, 0, 12, 42, 180, 0, 46, 16, 45, 160, 0, 30, 42]
abbrev dktX5_sum_0 : List UInt8 := dkwX5_sum_0 ++ dktX5_sum_1
theorem dksX5_sum_0 : cX5_sum.data.toList.drop 0 = dktX5_sum_0 := by decide +kernel
theorem dksX5_sum_1 : cX5_sum.data.toList.drop 24 = dktX5_sum_1 := dk_seg dksX5_sum_0 24 rfl rfl
theorem dksX5_sum_2 : cX5_sum.data.toList.drop 47 = dktX5_sum_2 := dk_seg dksX5_sum_1 23 rfl rfl
theorem dX5_sum_0 : decode cX5_sum 0 = .ok (.aload_n 0, 1) := dk_42 (dk_at dksX5_sum_0 0 rfl rfl)
theorem dX5_sum_1 : decode cX5_sum 1 = .ok (.invokevirtual 285, 3) := dk_182 1 29 (dk_at dksX5_sum_0 1 rfl rfl)
theorem dX5_sum_4 : decode cX5_sum 4 = .ok (.astore_n 1, 1) := dk_76 (dk_at dksX5_sum_0 4 rfl rfl)
theorem dX5_sum_5 : decode cX5_sum 5 = .ok (.aload_n 0, 1) := dk_42 (dk_at dksX5_sum_0 5 rfl rfl)
theorem dX5_sum_6 : decode cX5_sum 6 = .ok (.getfield 46, 3) := dk_180 0 46 (dk_at dksX5_sum_0 6 rfl rfl)
theorem dX5_sum_9 : decode cX5_sum 9 = .ok (.bipush 43, 2) := dk_16 43 (dk_at dksX5_sum_0 9 rfl rfl)
theorem dX5_sum_11 : decode cX5_sum 11 = .ok (.if_icmp .eq 12, 3) := dk_159 0 12 (dk_at dksX5_sum_0 11 rfl rfl)
theorem dX5_sum_14 : decode cX5_sum 14 = .ok (.aload_n 0, 1) := dk_42 (dk_at dksX5_sum_0 14 rfl rfl)
theorem dX5_sum_15 : decode cX5_sum 15 = .ok (.getfield 46, 3) := dk_180 0 46 (dk_at dksX5_sum_0 15 rfl rfl)
theorem dX5_sum_18 : decode cX5_sum 18 = .ok (.bipush 45, 2) := dk_16 45 (dk_at dksX5_sum_0 18 rfl rfl)
theorem dX5_sum_20 : decode cX5_sum 20 = .ok (.if_icmp .ne 30, 3) := dk_160 0 30 (dk_at dksX5_sum_0 20 rfl rfl)
theorem dX5_sum_23 : decode cX5_sum 23 = .ok (.aload_n 0, 1) := dk_42 (dk_at dksX5_sum_0 23 rfl rfl)
theorem dX5_sum_24 : decode cX5_sum 24 = .ok (.getfield 46, 3) := dk_180 0 46 (dk_at dksX5_sum_1 0 rfl rfl)
theorem dX5_sum_27 : decode cX5_sum 27 = .ok (.i2c, 1) := dk_146 (dk_at dksX5_sum_1 3 rfl rfl)
theorem dX5_sum_28 : decode cX5_sum 28 = .ok (.istore_n 2, 1) := dk_61 (dk_at dksX5_sum_1 4 rfl rfl)
theorem dX5_sum_29 : decode cX5_sum 29 = .ok (.aload_n 0, 1) := dk_42 (dk_at dksX5_sum_1 5 rfl rfl)
theorem dX5_sum_30 : decode cX5_sum 30 = .ok (.invokevirtual 90, 3) := dk_182 0 90 (dk_at dksX5_sum_1 6 rfl rfl)
theorem dX5_sum_33 : decode cX5_sum 33 = .ok (.new 269, 3) := dk_187 1 13 (dk_at dksX5_sum_1 9 rfl rfl)
theorem dX5_sum_36 : decode cX5_sum 36 = .ok (.dup, 1) := dk_89 (dk_at dksX5_sum_1 12 rfl rfl)
theorem dX5_sum_37 : decode cX5_sum 37 = .ok (.aload_n 1, 1) := dk_43 (dk_at dksX5_sum_1 13 rfl rfl)
theorem dX5_sum_38 : decode cX5_sum 38 = .ok (.aload_n 0, 1) := dk_42 (dk_at dksX5_sum_1 14 rfl rfl)
theorem dX5_sum_39 : decode cX5_sum 39 = .ok (.invokevirtual 285, 3) := dk_182 1 29 (dk_at dksX5_sum_1 15 rfl rfl)
theorem dX5_sum_42 : decode cX5_sum 42 = .ok (.iload_n 2, 1) := dk_28 (dk_at dksX5_sum_1 18 rfl rfl)
theorem dX5_sum_43 : decode cX5_sum 43 = .ok (.invokespecial 271, 3) := dk_183 1 15 (dk_at dksX5_sum_1 19 rfl rfl)
theorem dX5_sum_46 : decode cX5_sum 46 = .ok (.astore_n 1, 1) := dk_76 (dk_at dksX5_sum_1 22 rfl rfl)
theorem dX5_sum_47 : decode cX5_sum 47 = .ok (.goto (-42), 3) := dk_167 255 214 (dk_at dksX5_sum_2 0 rfl rfl)
theorem dX5_sum_50 : decode cX5_sum 50 = .ok (.aload_n 1, 1) := dk_43 (dk_at dksX5_sum_2 3 rfl rfl)
theorem dX5_sum_51 : decode cX5_sum 51 = .ok (.areturn, 1) := dk_176 (dk_at dksX5_sum_2 4 rfl rfl)
abbrev cX5_term : ByteArray := prog_18_method_31_code
def yX5_term : MethodName := ⟨RX5, "term", "()LWebCourt$Node;"⟩
def dkwX5_term_2 : List UInt8 := [182, 1, 32, 28, 183, 1, 15, 76, 167, 255, 205, 43, 176]
abbrev dktX5_term_2 : List UInt8 := dkwX5_term_2 ++ []
def dkwX5_term_1 : List UInt8 := [180, 0, 46, 16, 37, 160, 0, 30, 42, 180, 0, 46, 146, 61, 42, 182, 0, 90, 187, 1, 13, 89, 43, 42]
abbrev dktX5_term_1 : List UInt8 := dkwX5_term_1 ++ dktX5_term_2
def dkwX5_term_0 : List UInt8 := [42, 182, 1, 32, 76, 42, 180, 0, 46, 16, 42, 159, 0, 21, 42, 180, 0, 46, 16, 47, 159, 0, 12, 42]
abbrev dktX5_term_0 : List UInt8 := dkwX5_term_0 ++ dktX5_term_1
theorem dksX5_term_0 : cX5_term.data.toList.drop 0 = dktX5_term_0 := by decide +kernel
theorem dksX5_term_1 : cX5_term.data.toList.drop 24 = dktX5_term_1 := dk_seg dksX5_term_0 24 rfl rfl
theorem dksX5_term_2 : cX5_term.data.toList.drop 48 = dktX5_term_2 := dk_seg dksX5_term_1 24 rfl rfl
theorem dX5_term_0 : decode cX5_term 0 = .ok (.aload_n 0, 1) := dk_42 (dk_at dksX5_term_0 0 rfl rfl)
theorem dX5_term_1 : decode cX5_term 1 = .ok (.invokevirtual 288, 3) := dk_182 1 32 (dk_at dksX5_term_0 1 rfl rfl)
theorem dX5_term_4 : decode cX5_term 4 = .ok (.astore_n 1, 1) := dk_76 (dk_at dksX5_term_0 4 rfl rfl)
theorem dX5_term_5 : decode cX5_term 5 = .ok (.aload_n 0, 1) := dk_42 (dk_at dksX5_term_0 5 rfl rfl)
theorem dX5_term_6 : decode cX5_term 6 = .ok (.getfield 46, 3) := dk_180 0 46 (dk_at dksX5_term_0 6 rfl rfl)
theorem dX5_term_9 : decode cX5_term 9 = .ok (.bipush 42, 2) := dk_16 42 (dk_at dksX5_term_0 9 rfl rfl)
theorem dX5_term_11 : decode cX5_term 11 = .ok (.if_icmp .eq 21, 3) := dk_159 0 21 (dk_at dksX5_term_0 11 rfl rfl)
theorem dX5_term_14 : decode cX5_term 14 = .ok (.aload_n 0, 1) := dk_42 (dk_at dksX5_term_0 14 rfl rfl)
theorem dX5_term_15 : decode cX5_term 15 = .ok (.getfield 46, 3) := dk_180 0 46 (dk_at dksX5_term_0 15 rfl rfl)
theorem dX5_term_18 : decode cX5_term 18 = .ok (.bipush 47, 2) := dk_16 47 (dk_at dksX5_term_0 18 rfl rfl)
theorem dX5_term_20 : decode cX5_term 20 = .ok (.if_icmp .eq 12, 3) := dk_159 0 12 (dk_at dksX5_term_0 20 rfl rfl)
theorem dX5_term_23 : decode cX5_term 23 = .ok (.aload_n 0, 1) := dk_42 (dk_at dksX5_term_0 23 rfl rfl)
theorem dX5_term_24 : decode cX5_term 24 = .ok (.getfield 46, 3) := dk_180 0 46 (dk_at dksX5_term_1 0 rfl rfl)
theorem dX5_term_27 : decode cX5_term 27 = .ok (.bipush 37, 2) := dk_16 37 (dk_at dksX5_term_1 3 rfl rfl)
theorem dX5_term_29 : decode cX5_term 29 = .ok (.if_icmp .ne 30, 3) := dk_160 0 30 (dk_at dksX5_term_1 5 rfl rfl)
theorem dX5_term_32 : decode cX5_term 32 = .ok (.aload_n 0, 1) := dk_42 (dk_at dksX5_term_1 8 rfl rfl)
theorem dX5_term_33 : decode cX5_term 33 = .ok (.getfield 46, 3) := dk_180 0 46 (dk_at dksX5_term_1 9 rfl rfl)
theorem dX5_term_36 : decode cX5_term 36 = .ok (.i2c, 1) := dk_146 (dk_at dksX5_term_1 12 rfl rfl)
theorem dX5_term_37 : decode cX5_term 37 = .ok (.istore_n 2, 1) := dk_61 (dk_at dksX5_term_1 13 rfl rfl)
theorem dX5_term_38 : decode cX5_term 38 = .ok (.aload_n 0, 1) := dk_42 (dk_at dksX5_term_1 14 rfl rfl)
theorem dX5_term_39 : decode cX5_term 39 = .ok (.invokevirtual 90, 3) := dk_182 0 90 (dk_at dksX5_term_1 15 rfl rfl)
theorem dX5_term_42 : decode cX5_term 42 = .ok (.new 269, 3) := dk_187 1 13 (dk_at dksX5_term_1 18 rfl rfl)
theorem dX5_term_45 : decode cX5_term 45 = .ok (.dup, 1) := dk_89 (dk_at dksX5_term_1 21 rfl rfl)
theorem dX5_term_46 : decode cX5_term 46 = .ok (.aload_n 1, 1) := dk_43 (dk_at dksX5_term_1 22 rfl rfl)
theorem dX5_term_47 : decode cX5_term 47 = .ok (.aload_n 0, 1) := dk_42 (dk_at dksX5_term_1 23 rfl rfl)
theorem dX5_term_48 : decode cX5_term 48 = .ok (.invokevirtual 288, 3) := dk_182 1 32 (dk_at dksX5_term_2 0 rfl rfl)
theorem dX5_term_51 : decode cX5_term 51 = .ok (.iload_n 2, 1) := dk_28 (dk_at dksX5_term_2 3 rfl rfl)
theorem dX5_term_52 : decode cX5_term 52 = .ok (.invokespecial 271, 3) := dk_183 1 15 (dk_at dksX5_term_2 4 rfl rfl)
theorem dX5_term_55 : decode cX5_term 55 = .ok (.astore_n 1, 1) := dk_76 (dk_at dksX5_term_2 7 rfl rfl)
theorem dX5_term_56 : decode cX5_term 56 = .ok (.goto (-51), 3) := dk_167 255 205 (dk_at dksX5_term_2 8 rfl rfl)
theorem dX5_term_59 : decode cX5_term 59 = .ok (.aload_n 1, 1) := dk_43 (dk_at dksX5_term_2 11 rfl rfl)
theorem dX5_term_60 : decode cX5_term 60 = .ok (.areturn, 1) := dk_176 (dk_at dksX5_term_2 12 rfl rfl)
abbrev cX5_unit : ByteArray := prog_18_method_33_code
def yX5_unit : MethodName := ⟨RX5, "unit", "()LWebCourt$Node;"⟩
def dkwX5_unit_7 : List UInt8 := [183, 1, 64, 167, 0, 4, 43, 77, 42, 182, 0, 90, 44, 176]
abbrev dktX5_unit_7 : List UInt8 := dkwX5_unit_7 ++ []
def dkwX5_unit_6 : List UInt8 := [100, 181, 1, 1, 42, 182, 0, 90, 44, 176, 43, 199, 0, 17, 187, 1, 62, 89, 42, 180, 0, 69]
abbrev dktX5_unit_6 : List UInt8 := dkwX5_unit_6 ++ dktX5_unit_7
def dkwX5_unit_5 : List UInt8 := [182, 1, 7, 77, 42, 180, 0, 46, 16, 41, 159, 0, 8, 42, 182, 0, 96, 191, 42, 89, 180, 1, 1, 4]
abbrev dktX5_unit_5 : List UInt8 := dkwX5_unit_5 ++ dktX5_unit_6
def dkwX5_unit_4 : List UInt8 := [180, 0, 46, 16, 40, 160, 0, 52, 42, 89, 180, 1, 1, 4, 96, 181, 1, 1, 42, 182, 0, 90, 42]
abbrev dktX5_unit_4 : List UInt8 := dkwX5_unit_4 ++ dktX5_unit_5
def dkwX5_unit_3 : List UInt8 := [180, 0, 24, 89, 180, 1, 59, 4, 96, 181, 1, 59, 42, 89, 180, 1, 4, 4, 96, 181, 1, 4, 42]
abbrev dktX5_unit_3 : List UInt8 := dkwX5_unit_3 ++ dktX5_unit_4
def dkwX5_unit_2 : List UInt8 := [42, 180, 0, 46, 16, 40, 160, 0, 17, 42, 180, 1, 1, 16, 6, 164, 0, 8, 42, 182, 0, 96, 191, 42]
abbrev dktX5_unit_2 : List UInt8 := dkwX5_unit_2 ++ dktX5_unit_3
def dkwX5_unit_1 : List UInt8 := [198, 0, 42, 42, 180, 0, 24, 180, 1, 59, 16, 60, 159, 0, 30, 42, 180, 1, 4, 16, 30, 159, 0, 21]
abbrev dktX5_unit_1 : List UInt8 := dkwX5_unit_1 ++ dktX5_unit_2
def dkwX5_unit_0 : List UInt8 := [42, 182, 1, 56, 76, 42, 180, 0, 46, 5, 159, 0, 16, 42, 180, 0, 46, 16, 40, 159, 0, 7, 43]
abbrev dktX5_unit_0 : List UInt8 := dkwX5_unit_0 ++ dktX5_unit_1
theorem dksX5_unit_0 : cX5_unit.data.toList.drop 0 = dktX5_unit_0 := by decide +kernel
theorem dksX5_unit_1 : cX5_unit.data.toList.drop 23 = dktX5_unit_1 := dk_seg dksX5_unit_0 23 rfl rfl
theorem dksX5_unit_2 : cX5_unit.data.toList.drop 47 = dktX5_unit_2 := dk_seg dksX5_unit_1 24 rfl rfl
theorem dksX5_unit_3 : cX5_unit.data.toList.drop 71 = dktX5_unit_3 := dk_seg dksX5_unit_2 24 rfl rfl
theorem dksX5_unit_4 : cX5_unit.data.toList.drop 94 = dktX5_unit_4 := dk_seg dksX5_unit_3 23 rfl rfl
theorem dksX5_unit_5 : cX5_unit.data.toList.drop 117 = dktX5_unit_5 := dk_seg dksX5_unit_4 23 rfl rfl
theorem dksX5_unit_6 : cX5_unit.data.toList.drop 141 = dktX5_unit_6 := dk_seg dksX5_unit_5 24 rfl rfl
theorem dksX5_unit_7 : cX5_unit.data.toList.drop 163 = dktX5_unit_7 := dk_seg dksX5_unit_6 22 rfl rfl
theorem dX5_unit_0 : decode cX5_unit 0 = .ok (.aload_n 0, 1) := dk_42 (dk_at dksX5_unit_0 0 rfl rfl)
theorem dX5_unit_1 : decode cX5_unit 1 = .ok (.invokevirtual 312, 3) := dk_182 1 56 (dk_at dksX5_unit_0 1 rfl rfl)
theorem dX5_unit_4 : decode cX5_unit 4 = .ok (.astore_n 1, 1) := dk_76 (dk_at dksX5_unit_0 4 rfl rfl)
theorem dX5_unit_5 : decode cX5_unit 5 = .ok (.aload_n 0, 1) := dk_42 (dk_at dksX5_unit_0 5 rfl rfl)
theorem dX5_unit_6 : decode cX5_unit 6 = .ok (.getfield 46, 3) := dk_180 0 46 (dk_at dksX5_unit_0 6 rfl rfl)
theorem dX5_unit_9 : decode cX5_unit 9 = .ok (.iconst 2, 1) := dk_5 (dk_at dksX5_unit_0 9 rfl rfl)
theorem dX5_unit_10 : decode cX5_unit 10 = .ok (.if_icmp .eq 16, 3) := dk_159 0 16 (dk_at dksX5_unit_0 10 rfl rfl)
theorem dX5_unit_13 : decode cX5_unit 13 = .ok (.aload_n 0, 1) := dk_42 (dk_at dksX5_unit_0 13 rfl rfl)
theorem dX5_unit_14 : decode cX5_unit 14 = .ok (.getfield 46, 3) := dk_180 0 46 (dk_at dksX5_unit_0 14 rfl rfl)
theorem dX5_unit_17 : decode cX5_unit 17 = .ok (.bipush 40, 2) := dk_16 40 (dk_at dksX5_unit_0 17 rfl rfl)
theorem dX5_unit_19 : decode cX5_unit 19 = .ok (.if_icmp .eq 7, 3) := dk_159 0 7 (dk_at dksX5_unit_0 19 rfl rfl)
theorem dX5_unit_22 : decode cX5_unit 22 = .ok (.aload_n 1, 1) := dk_43 (dk_at dksX5_unit_0 22 rfl rfl)
theorem dX5_unit_23 : decode cX5_unit 23 = .ok (.ifnull 42, 3) := dk_198 0 42 (dk_at dksX5_unit_1 0 rfl rfl)
theorem dX5_unit_26 : decode cX5_unit 26 = .ok (.aload_n 0, 1) := dk_42 (dk_at dksX5_unit_1 3 rfl rfl)
theorem dX5_unit_27 : decode cX5_unit 27 = .ok (.getfield 24, 3) := dk_180 0 24 (dk_at dksX5_unit_1 4 rfl rfl)
theorem dX5_unit_30 : decode cX5_unit 30 = .ok (.getfield 315, 3) := dk_180 1 59 (dk_at dksX5_unit_1 7 rfl rfl)
theorem dX5_unit_33 : decode cX5_unit 33 = .ok (.bipush 60, 2) := dk_16 60 (dk_at dksX5_unit_1 10 rfl rfl)
theorem dX5_unit_35 : decode cX5_unit 35 = .ok (.if_icmp .eq 30, 3) := dk_159 0 30 (dk_at dksX5_unit_1 12 rfl rfl)
theorem dX5_unit_38 : decode cX5_unit 38 = .ok (.aload_n 0, 1) := dk_42 (dk_at dksX5_unit_1 15 rfl rfl)
theorem dX5_unit_39 : decode cX5_unit 39 = .ok (.getfield 260, 3) := dk_180 1 4 (dk_at dksX5_unit_1 16 rfl rfl)
theorem dX5_unit_42 : decode cX5_unit 42 = .ok (.bipush 30, 2) := dk_16 30 (dk_at dksX5_unit_1 19 rfl rfl)
theorem dX5_unit_44 : decode cX5_unit 44 = .ok (.if_icmp .eq 21, 3) := dk_159 0 21 (dk_at dksX5_unit_1 21 rfl rfl)
theorem dX5_unit_47 : decode cX5_unit 47 = .ok (.aload_n 0, 1) := dk_42 (dk_at dksX5_unit_2 0 rfl rfl)
theorem dX5_unit_48 : decode cX5_unit 48 = .ok (.getfield 46, 3) := dk_180 0 46 (dk_at dksX5_unit_2 1 rfl rfl)
theorem dX5_unit_51 : decode cX5_unit 51 = .ok (.bipush 40, 2) := dk_16 40 (dk_at dksX5_unit_2 4 rfl rfl)
theorem dX5_unit_53 : decode cX5_unit 53 = .ok (.if_icmp .ne 17, 3) := dk_160 0 17 (dk_at dksX5_unit_2 6 rfl rfl)
theorem dX5_unit_56 : decode cX5_unit 56 = .ok (.aload_n 0, 1) := dk_42 (dk_at dksX5_unit_2 9 rfl rfl)
theorem dX5_unit_57 : decode cX5_unit 57 = .ok (.getfield 257, 3) := dk_180 1 1 (dk_at dksX5_unit_2 10 rfl rfl)
theorem dX5_unit_60 : decode cX5_unit 60 = .ok (.bipush 6, 2) := dk_16 6 (dk_at dksX5_unit_2 13 rfl rfl)
theorem dX5_unit_62 : decode cX5_unit 62 = .ok (.if_icmp .le 8, 3) := dk_164 0 8 (dk_at dksX5_unit_2 15 rfl rfl)
theorem dX5_unit_65 : decode cX5_unit 65 = .ok (.aload_n 0, 1) := dk_42 (dk_at dksX5_unit_2 18 rfl rfl)
theorem dX5_unit_66 : decode cX5_unit 66 = .ok (.invokevirtual 96, 3) := dk_182 0 96 (dk_at dksX5_unit_2 19 rfl rfl)
theorem dX5_unit_69 : decode cX5_unit 69 = .ok (.athrow, 1) := dk_191 (dk_at dksX5_unit_2 22 rfl rfl)
theorem dX5_unit_70 : decode cX5_unit 70 = .ok (.aload_n 0, 1) := dk_42 (dk_at dksX5_unit_2 23 rfl rfl)
theorem dX5_unit_71 : decode cX5_unit 71 = .ok (.getfield 24, 3) := dk_180 0 24 (dk_at dksX5_unit_3 0 rfl rfl)
theorem dX5_unit_74 : decode cX5_unit 74 = .ok (.dup, 1) := dk_89 (dk_at dksX5_unit_3 3 rfl rfl)
theorem dX5_unit_75 : decode cX5_unit 75 = .ok (.getfield 315, 3) := dk_180 1 59 (dk_at dksX5_unit_3 4 rfl rfl)
theorem dX5_unit_78 : decode cX5_unit 78 = .ok (.iconst 1, 1) := dk_4 (dk_at dksX5_unit_3 7 rfl rfl)
theorem dX5_unit_79 : decode cX5_unit 79 = .ok (.iadd, 1) := dk_96 (dk_at dksX5_unit_3 8 rfl rfl)
theorem dX5_unit_80 : decode cX5_unit 80 = .ok (.putfield 315, 3) := dk_181 1 59 (dk_at dksX5_unit_3 9 rfl rfl)
theorem dX5_unit_83 : decode cX5_unit 83 = .ok (.aload_n 0, 1) := dk_42 (dk_at dksX5_unit_3 12 rfl rfl)
theorem dX5_unit_84 : decode cX5_unit 84 = .ok (.dup, 1) := dk_89 (dk_at dksX5_unit_3 13 rfl rfl)
theorem dX5_unit_85 : decode cX5_unit 85 = .ok (.getfield 260, 3) := dk_180 1 4 (dk_at dksX5_unit_3 14 rfl rfl)
theorem dX5_unit_88 : decode cX5_unit 88 = .ok (.iconst 1, 1) := dk_4 (dk_at dksX5_unit_3 17 rfl rfl)
theorem dX5_unit_89 : decode cX5_unit 89 = .ok (.iadd, 1) := dk_96 (dk_at dksX5_unit_3 18 rfl rfl)
theorem dX5_unit_90 : decode cX5_unit 90 = .ok (.putfield 260, 3) := dk_181 1 4 (dk_at dksX5_unit_3 19 rfl rfl)
theorem dX5_unit_93 : decode cX5_unit 93 = .ok (.aload_n 0, 1) := dk_42 (dk_at dksX5_unit_3 22 rfl rfl)
theorem dX5_unit_94 : decode cX5_unit 94 = .ok (.getfield 46, 3) := dk_180 0 46 (dk_at dksX5_unit_4 0 rfl rfl)
theorem dX5_unit_97 : decode cX5_unit 97 = .ok (.bipush 40, 2) := dk_16 40 (dk_at dksX5_unit_4 3 rfl rfl)
theorem dX5_unit_99 : decode cX5_unit 99 = .ok (.if_icmp .ne 52, 3) := dk_160 0 52 (dk_at dksX5_unit_4 5 rfl rfl)
theorem dX5_unit_102 : decode cX5_unit 102 = .ok (.aload_n 0, 1) := dk_42 (dk_at dksX5_unit_4 8 rfl rfl)
theorem dX5_unit_103 : decode cX5_unit 103 = .ok (.dup, 1) := dk_89 (dk_at dksX5_unit_4 9 rfl rfl)
theorem dX5_unit_104 : decode cX5_unit 104 = .ok (.getfield 257, 3) := dk_180 1 1 (dk_at dksX5_unit_4 10 rfl rfl)
theorem dX5_unit_107 : decode cX5_unit 107 = .ok (.iconst 1, 1) := dk_4 (dk_at dksX5_unit_4 13 rfl rfl)
theorem dX5_unit_108 : decode cX5_unit 108 = .ok (.iadd, 1) := dk_96 (dk_at dksX5_unit_4 14 rfl rfl)
theorem dX5_unit_109 : decode cX5_unit 109 = .ok (.putfield 257, 3) := dk_181 1 1 (dk_at dksX5_unit_4 15 rfl rfl)
theorem dX5_unit_112 : decode cX5_unit 112 = .ok (.aload_n 0, 1) := dk_42 (dk_at dksX5_unit_4 18 rfl rfl)
theorem dX5_unit_113 : decode cX5_unit 113 = .ok (.invokevirtual 90, 3) := dk_182 0 90 (dk_at dksX5_unit_4 19 rfl rfl)
theorem dX5_unit_116 : decode cX5_unit 116 = .ok (.aload_n 0, 1) := dk_42 (dk_at dksX5_unit_4 22 rfl rfl)
theorem dX5_unit_117 : decode cX5_unit 117 = .ok (.invokevirtual 263, 3) := dk_182 1 7 (dk_at dksX5_unit_5 0 rfl rfl)
theorem dX5_unit_120 : decode cX5_unit 120 = .ok (.astore_n 2, 1) := dk_77 (dk_at dksX5_unit_5 3 rfl rfl)
theorem dX5_unit_121 : decode cX5_unit 121 = .ok (.aload_n 0, 1) := dk_42 (dk_at dksX5_unit_5 4 rfl rfl)
theorem dX5_unit_122 : decode cX5_unit 122 = .ok (.getfield 46, 3) := dk_180 0 46 (dk_at dksX5_unit_5 5 rfl rfl)
theorem dX5_unit_125 : decode cX5_unit 125 = .ok (.bipush 41, 2) := dk_16 41 (dk_at dksX5_unit_5 8 rfl rfl)
theorem dX5_unit_127 : decode cX5_unit 127 = .ok (.if_icmp .eq 8, 3) := dk_159 0 8 (dk_at dksX5_unit_5 10 rfl rfl)
theorem dX5_unit_130 : decode cX5_unit 130 = .ok (.aload_n 0, 1) := dk_42 (dk_at dksX5_unit_5 13 rfl rfl)
theorem dX5_unit_131 : decode cX5_unit 131 = .ok (.invokevirtual 96, 3) := dk_182 0 96 (dk_at dksX5_unit_5 14 rfl rfl)
theorem dX5_unit_134 : decode cX5_unit 134 = .ok (.athrow, 1) := dk_191 (dk_at dksX5_unit_5 17 rfl rfl)
theorem dX5_unit_135 : decode cX5_unit 135 = .ok (.aload_n 0, 1) := dk_42 (dk_at dksX5_unit_5 18 rfl rfl)
theorem dX5_unit_136 : decode cX5_unit 136 = .ok (.dup, 1) := dk_89 (dk_at dksX5_unit_5 19 rfl rfl)
theorem dX5_unit_137 : decode cX5_unit 137 = .ok (.getfield 257, 3) := dk_180 1 1 (dk_at dksX5_unit_5 20 rfl rfl)
theorem dX5_unit_140 : decode cX5_unit 140 = .ok (.iconst 1, 1) := dk_4 (dk_at dksX5_unit_5 23 rfl rfl)
theorem dX5_unit_141 : decode cX5_unit 141 = .ok (.isub, 1) := dk_100 (dk_at dksX5_unit_6 0 rfl rfl)
theorem dX5_unit_142 : decode cX5_unit 142 = .ok (.putfield 257, 3) := dk_181 1 1 (dk_at dksX5_unit_6 1 rfl rfl)
theorem dX5_unit_145 : decode cX5_unit 145 = .ok (.aload_n 0, 1) := dk_42 (dk_at dksX5_unit_6 4 rfl rfl)
theorem dX5_unit_146 : decode cX5_unit 146 = .ok (.invokevirtual 90, 3) := dk_182 0 90 (dk_at dksX5_unit_6 5 rfl rfl)
theorem dX5_unit_149 : decode cX5_unit 149 = .ok (.aload_n 2, 1) := dk_44 (dk_at dksX5_unit_6 8 rfl rfl)
theorem dX5_unit_150 : decode cX5_unit 150 = .ok (.areturn, 1) := dk_176 (dk_at dksX5_unit_6 9 rfl rfl)
theorem dX5_unit_151 : decode cX5_unit 151 = .ok (.aload_n 1, 1) := dk_43 (dk_at dksX5_unit_6 10 rfl rfl)
theorem dX5_unit_152 : decode cX5_unit 152 = .ok (.ifnonnull 17, 3) := dk_199 0 17 (dk_at dksX5_unit_6 11 rfl rfl)
theorem dX5_unit_155 : decode cX5_unit 155 = .ok (.new 318, 3) := dk_187 1 62 (dk_at dksX5_unit_6 14 rfl rfl)
theorem dX5_unit_158 : decode cX5_unit 158 = .ok (.dup, 1) := dk_89 (dk_at dksX5_unit_6 17 rfl rfl)
theorem dX5_unit_159 : decode cX5_unit 159 = .ok (.aload_n 0, 1) := dk_42 (dk_at dksX5_unit_6 18 rfl rfl)
theorem dX5_unit_160 : decode cX5_unit 160 = .ok (.getfield 69, 3) := dk_180 0 69 (dk_at dksX5_unit_6 19 rfl rfl)
theorem dX5_unit_163 : decode cX5_unit 163 = .ok (.invokespecial 320, 3) := dk_183 1 64 (dk_at dksX5_unit_7 0 rfl rfl)
theorem dX5_unit_166 : decode cX5_unit 166 = .ok (.goto 4, 3) := dk_167 0 4 (dk_at dksX5_unit_7 3 rfl rfl)
theorem dX5_unit_169 : decode cX5_unit 169 = .ok (.aload_n 1, 1) := dk_43 (dk_at dksX5_unit_7 6 rfl rfl)
theorem dX5_unit_170 : decode cX5_unit 170 = .ok (.astore_n 2, 1) := dk_77 (dk_at dksX5_unit_7 7 rfl rfl)
theorem dX5_unit_171 : decode cX5_unit 171 = .ok (.aload_n 0, 1) := dk_42 (dk_at dksX5_unit_7 8 rfl rfl)
theorem dX5_unit_172 : decode cX5_unit 172 = .ok (.invokevirtual 90, 3) := dk_182 0 90 (dk_at dksX5_unit_7 9 rfl rfl)
theorem dX5_unit_175 : decode cX5_unit 175 = .ok (.aload_n 2, 1) := dk_44 (dk_at dksX5_unit_7 12 rfl rfl)
theorem dX5_unit_176 : decode cX5_unit 176 = .ok (.areturn, 1) := dk_176 (dk_at dksX5_unit_7 13 rfl rfl)
abbrev cX5_asked : ByteArray := prog_18_method_32_code
def yX5_asked : MethodName := ⟨RX5, "asked", "()LWebCourt$Node;"⟩
def dkwX5_asked_8 : List UInt8 := [1, 176]
abbrev dktX5_asked_8 : List UInt8 := dkwX5_asked_8 ++ []
def dkwX5_asked_7 : List UInt8 := [178, 1, 35, 176, 178, 1, 41, 176, 178, 1, 44, 176, 178, 1, 47, 176, 178, 1, 50, 176, 178, 1, 53, 176]
abbrev dktX5_asked_7 : List UInt8 := dkwX5_asked_7 ++ dktX5_asked_8
def dkwX5_asked_6 : List UInt8 := [170, 0, 0, 0, 0, 62, 0, 0, 0, 0, 0, 0, 0, 5, 0, 0, 0, 38, 0, 0, 0, 42, 0, 0, 0, 46, 0, 0, 0, 50, 0, 0, 0, 54, 0, 0, 0, 58]
abbrev dktX5_asked_6 : List UInt8 := dkwX5_asked_6 ++ dktX5_asked_7
def dkwX5_asked_5 : List UInt8 := [18, 142, 182, 0, 80, 153, 0, 5, 8, 61, 28]
abbrev dktX5_asked_5 : List UInt8 := dkwX5_asked_5 ++ dktX5_asked_6
def dkwX5_asked_4 : List UInt8 := [153, 0, 33, 6, 61, 167, 0, 28, 43, 18, 140, 182, 0, 80, 153, 0, 19, 7, 61, 167, 0, 14, 43]
abbrev dktX5_asked_4 : List UInt8 := dkwX5_asked_4 ++ dktX5_asked_5
def dkwX5_asked_3 : List UInt8 := [61, 167, 0, 56, 43, 18, 136, 182, 0, 80, 153, 0, 47, 5, 61, 167, 0, 42, 43, 18, 138, 182, 0, 80]
abbrev dktX5_asked_3 : List UInt8 := dkwX5_asked_3 ++ dktX5_asked_4
def dkwX5_asked_2 : List UInt8 := [43, 18, 124, 182, 0, 80, 153, 0, 75, 3, 61, 167, 0, 70, 43, 18, 134, 182, 0, 80, 153, 0, 61, 4]
abbrev dktX5_asked_2 : List UInt8 := dkwX5_asked_2 ++ dktX5_asked_3
def dkwX5_asked_1 : List UInt8 := [171, 0, 0, 0, 0, 0, 140, 0, 0, 0, 6, 172, 250, 63, 127, 0, 0, 0, 87, 197, 64, 18, 39, 0, 0, 0, 59, 0, 1, 158, 208, 0, 0, 0, 115, 0, 48, 245, 228, 0, 0, 0, 129, 0, 51, 6, 95, 0, 0, 0, 73, 6, 138, 197, 58, 0, 0, 0, 101]
abbrev dktX5_asked_1 : List UInt8 := dkwX5_asked_1 ++ dktX5_asked_2
def dkwX5_asked_0 : List UInt8 := [42, 180, 0, 46, 4, 159, 0, 5, 1, 176, 42, 180, 0, 17, 76, 2, 61, 43, 182, 0, 107]
abbrev dktX5_asked_0 : List UInt8 := dkwX5_asked_0 ++ dktX5_asked_1
theorem dksX5_asked_0 : cX5_asked.data.toList.drop 0 = dktX5_asked_0 := by decide +kernel
theorem dksX5_asked_1 : cX5_asked.data.toList.drop 21 = dktX5_asked_1 := dk_seg dksX5_asked_0 21 rfl rfl
theorem dksX5_asked_2 : cX5_asked.data.toList.drop 80 = dktX5_asked_2 := dk_seg dksX5_asked_1 59 rfl rfl
theorem dksX5_asked_3 : cX5_asked.data.toList.drop 104 = dktX5_asked_3 := dk_seg dksX5_asked_2 24 rfl rfl
theorem dksX5_asked_4 : cX5_asked.data.toList.drop 128 = dktX5_asked_4 := dk_seg dksX5_asked_3 24 rfl rfl
theorem dksX5_asked_5 : cX5_asked.data.toList.drop 151 = dktX5_asked_5 := dk_seg dksX5_asked_4 23 rfl rfl
theorem dksX5_asked_6 : cX5_asked.data.toList.drop 162 = dktX5_asked_6 := dk_seg dksX5_asked_5 11 rfl rfl
theorem dksX5_asked_7 : cX5_asked.data.toList.drop 200 = dktX5_asked_7 := dk_seg dksX5_asked_6 38 rfl rfl
theorem dksX5_asked_8 : cX5_asked.data.toList.drop 224 = dktX5_asked_8 := dk_seg dksX5_asked_7 24 rfl rfl
theorem dX5_asked_0 : decode cX5_asked 0 = .ok (.aload_n 0, 1) := dk_42 (dk_at dksX5_asked_0 0 rfl rfl)
theorem dX5_asked_1 : decode cX5_asked 1 = .ok (.getfield 46, 3) := dk_180 0 46 (dk_at dksX5_asked_0 1 rfl rfl)
theorem dX5_asked_4 : decode cX5_asked 4 = .ok (.iconst 1, 1) := dk_4 (dk_at dksX5_asked_0 4 rfl rfl)
theorem dX5_asked_5 : decode cX5_asked 5 = .ok (.if_icmp .eq 5, 3) := dk_159 0 5 (dk_at dksX5_asked_0 5 rfl rfl)
theorem dX5_asked_8 : decode cX5_asked 8 = .ok (.aconst_null, 1) := dk_1 (dk_at dksX5_asked_0 8 rfl rfl)
theorem dX5_asked_9 : decode cX5_asked 9 = .ok (.areturn, 1) := dk_176 (dk_at dksX5_asked_0 9 rfl rfl)
theorem dX5_asked_10 : decode cX5_asked 10 = .ok (.aload_n 0, 1) := dk_42 (dk_at dksX5_asked_0 10 rfl rfl)
theorem dX5_asked_11 : decode cX5_asked 11 = .ok (.getfield 17, 3) := dk_180 0 17 (dk_at dksX5_asked_0 11 rfl rfl)
theorem dX5_asked_14 : decode cX5_asked 14 = .ok (.astore_n 1, 1) := dk_76 (dk_at dksX5_asked_0 14 rfl rfl)
theorem dX5_asked_15 : decode cX5_asked 15 = .ok (.iconst (-1), 1) := dk_2 (dk_at dksX5_asked_0 15 rfl rfl)
theorem dX5_asked_16 : decode cX5_asked 16 = .ok (.istore_n 2, 1) := dk_61 (dk_at dksX5_asked_0 16 rfl rfl)
theorem dX5_asked_17 : decode cX5_asked 17 = .ok (.aload_n 1, 1) := dk_43 (dk_at dksX5_asked_0 17 rfl rfl)
theorem dX5_asked_18 : decode cX5_asked 18 = .ok (.invokevirtual 107, 3) := dk_182 0 107 (dk_at dksX5_asked_0 18 rfl rfl)
theorem dX5_asked_21 : decode cX5_asked 21 = .ok (.lookupswitch 140 #[(-1392885889, 87), (-985656793, 59), (106192, 115), (3208676, 129), (3343967, 73), (109757754, 101)], 59) := by decide +kernel
theorem dX5_asked_80 : decode cX5_asked 80 = .ok (.aload_n 1, 1) := dk_43 (dk_at dksX5_asked_2 0 rfl rfl)
theorem dX5_asked_81 : decode cX5_asked 81 = .ok (.ldc 124, 2) := dk_18 124 (dk_at dksX5_asked_2 1 rfl rfl)
theorem dX5_asked_83 : decode cX5_asked 83 = .ok (.invokevirtual 80, 3) := dk_182 0 80 (dk_at dksX5_asked_2 3 rfl rfl)
theorem dX5_asked_86 : decode cX5_asked 86 = .ok (.ifCond .eq 75, 3) := dk_153 0 75 (dk_at dksX5_asked_2 6 rfl rfl)
theorem dX5_asked_89 : decode cX5_asked 89 = .ok (.iconst 0, 1) := dk_3 (dk_at dksX5_asked_2 9 rfl rfl)
theorem dX5_asked_90 : decode cX5_asked 90 = .ok (.istore_n 2, 1) := dk_61 (dk_at dksX5_asked_2 10 rfl rfl)
theorem dX5_asked_91 : decode cX5_asked 91 = .ok (.goto 70, 3) := dk_167 0 70 (dk_at dksX5_asked_2 11 rfl rfl)
theorem dX5_asked_94 : decode cX5_asked 94 = .ok (.aload_n 1, 1) := dk_43 (dk_at dksX5_asked_2 14 rfl rfl)
theorem dX5_asked_95 : decode cX5_asked 95 = .ok (.ldc 134, 2) := dk_18 134 (dk_at dksX5_asked_2 15 rfl rfl)
theorem dX5_asked_97 : decode cX5_asked 97 = .ok (.invokevirtual 80, 3) := dk_182 0 80 (dk_at dksX5_asked_2 17 rfl rfl)
theorem dX5_asked_100 : decode cX5_asked 100 = .ok (.ifCond .eq 61, 3) := dk_153 0 61 (dk_at dksX5_asked_2 20 rfl rfl)
theorem dX5_asked_103 : decode cX5_asked 103 = .ok (.iconst 1, 1) := dk_4 (dk_at dksX5_asked_2 23 rfl rfl)
theorem dX5_asked_104 : decode cX5_asked 104 = .ok (.istore_n 2, 1) := dk_61 (dk_at dksX5_asked_3 0 rfl rfl)
theorem dX5_asked_105 : decode cX5_asked 105 = .ok (.goto 56, 3) := dk_167 0 56 (dk_at dksX5_asked_3 1 rfl rfl)
theorem dX5_asked_108 : decode cX5_asked 108 = .ok (.aload_n 1, 1) := dk_43 (dk_at dksX5_asked_3 4 rfl rfl)
theorem dX5_asked_109 : decode cX5_asked 109 = .ok (.ldc 136, 2) := dk_18 136 (dk_at dksX5_asked_3 5 rfl rfl)
theorem dX5_asked_111 : decode cX5_asked 111 = .ok (.invokevirtual 80, 3) := dk_182 0 80 (dk_at dksX5_asked_3 7 rfl rfl)
theorem dX5_asked_114 : decode cX5_asked 114 = .ok (.ifCond .eq 47, 3) := dk_153 0 47 (dk_at dksX5_asked_3 10 rfl rfl)
theorem dX5_asked_117 : decode cX5_asked 117 = .ok (.iconst 2, 1) := dk_5 (dk_at dksX5_asked_3 13 rfl rfl)
theorem dX5_asked_118 : decode cX5_asked 118 = .ok (.istore_n 2, 1) := dk_61 (dk_at dksX5_asked_3 14 rfl rfl)
theorem dX5_asked_119 : decode cX5_asked 119 = .ok (.goto 42, 3) := dk_167 0 42 (dk_at dksX5_asked_3 15 rfl rfl)
theorem dX5_asked_122 : decode cX5_asked 122 = .ok (.aload_n 1, 1) := dk_43 (dk_at dksX5_asked_3 18 rfl rfl)
theorem dX5_asked_123 : decode cX5_asked 123 = .ok (.ldc 138, 2) := dk_18 138 (dk_at dksX5_asked_3 19 rfl rfl)
theorem dX5_asked_125 : decode cX5_asked 125 = .ok (.invokevirtual 80, 3) := dk_182 0 80 (dk_at dksX5_asked_3 21 rfl rfl)
theorem dX5_asked_128 : decode cX5_asked 128 = .ok (.ifCond .eq 33, 3) := dk_153 0 33 (dk_at dksX5_asked_4 0 rfl rfl)
theorem dX5_asked_131 : decode cX5_asked 131 = .ok (.iconst 3, 1) := dk_6 (dk_at dksX5_asked_4 3 rfl rfl)
theorem dX5_asked_132 : decode cX5_asked 132 = .ok (.istore_n 2, 1) := dk_61 (dk_at dksX5_asked_4 4 rfl rfl)
theorem dX5_asked_133 : decode cX5_asked 133 = .ok (.goto 28, 3) := dk_167 0 28 (dk_at dksX5_asked_4 5 rfl rfl)
theorem dX5_asked_136 : decode cX5_asked 136 = .ok (.aload_n 1, 1) := dk_43 (dk_at dksX5_asked_4 8 rfl rfl)
theorem dX5_asked_137 : decode cX5_asked 137 = .ok (.ldc 140, 2) := dk_18 140 (dk_at dksX5_asked_4 9 rfl rfl)
theorem dX5_asked_139 : decode cX5_asked 139 = .ok (.invokevirtual 80, 3) := dk_182 0 80 (dk_at dksX5_asked_4 11 rfl rfl)
theorem dX5_asked_142 : decode cX5_asked 142 = .ok (.ifCond .eq 19, 3) := dk_153 0 19 (dk_at dksX5_asked_4 14 rfl rfl)
theorem dX5_asked_145 : decode cX5_asked 145 = .ok (.iconst 4, 1) := dk_7 (dk_at dksX5_asked_4 17 rfl rfl)
theorem dX5_asked_146 : decode cX5_asked 146 = .ok (.istore_n 2, 1) := dk_61 (dk_at dksX5_asked_4 18 rfl rfl)
theorem dX5_asked_147 : decode cX5_asked 147 = .ok (.goto 14, 3) := dk_167 0 14 (dk_at dksX5_asked_4 19 rfl rfl)
theorem dX5_asked_150 : decode cX5_asked 150 = .ok (.aload_n 1, 1) := dk_43 (dk_at dksX5_asked_4 22 rfl rfl)
theorem dX5_asked_151 : decode cX5_asked 151 = .ok (.ldc 142, 2) := dk_18 142 (dk_at dksX5_asked_5 0 rfl rfl)
theorem dX5_asked_153 : decode cX5_asked 153 = .ok (.invokevirtual 80, 3) := dk_182 0 80 (dk_at dksX5_asked_5 2 rfl rfl)
theorem dX5_asked_156 : decode cX5_asked 156 = .ok (.ifCond .eq 5, 3) := dk_153 0 5 (dk_at dksX5_asked_5 5 rfl rfl)
theorem dX5_asked_159 : decode cX5_asked 159 = .ok (.iconst 5, 1) := dk_8 (dk_at dksX5_asked_5 8 rfl rfl)
theorem dX5_asked_160 : decode cX5_asked 160 = .ok (.istore_n 2, 1) := dk_61 (dk_at dksX5_asked_5 9 rfl rfl)
theorem dX5_asked_161 : decode cX5_asked 161 = .ok (.iload_n 2, 1) := dk_28 (dk_at dksX5_asked_5 10 rfl rfl)
theorem dX5_asked_162 : decode cX5_asked 162 = .ok (.tableswitch 62 0 5 #[38, 42, 46, 50, 54, 58], 38) := by decide +kernel
theorem dX5_asked_200 : decode cX5_asked 200 = .ok (.getstatic 291, 3) := dk_178 1 35 (dk_at dksX5_asked_7 0 rfl rfl)
theorem dX5_asked_203 : decode cX5_asked 203 = .ok (.areturn, 1) := dk_176 (dk_at dksX5_asked_7 3 rfl rfl)
theorem dX5_asked_204 : decode cX5_asked 204 = .ok (.getstatic 297, 3) := dk_178 1 41 (dk_at dksX5_asked_7 4 rfl rfl)
theorem dX5_asked_207 : decode cX5_asked 207 = .ok (.areturn, 1) := dk_176 (dk_at dksX5_asked_7 7 rfl rfl)
theorem dX5_asked_208 : decode cX5_asked 208 = .ok (.getstatic 300, 3) := dk_178 1 44 (dk_at dksX5_asked_7 8 rfl rfl)
theorem dX5_asked_211 : decode cX5_asked 211 = .ok (.areturn, 1) := dk_176 (dk_at dksX5_asked_7 11 rfl rfl)
theorem dX5_asked_212 : decode cX5_asked 212 = .ok (.getstatic 303, 3) := dk_178 1 47 (dk_at dksX5_asked_7 12 rfl rfl)
theorem dX5_asked_215 : decode cX5_asked 215 = .ok (.areturn, 1) := dk_176 (dk_at dksX5_asked_7 15 rfl rfl)
theorem dX5_asked_216 : decode cX5_asked 216 = .ok (.getstatic 306, 3) := dk_178 1 50 (dk_at dksX5_asked_7 16 rfl rfl)
theorem dX5_asked_219 : decode cX5_asked 219 = .ok (.areturn, 1) := dk_176 (dk_at dksX5_asked_7 19 rfl rfl)
theorem dX5_asked_220 : decode cX5_asked 220 = .ok (.getstatic 309, 3) := dk_178 1 53 (dk_at dksX5_asked_7 20 rfl rfl)
theorem dX5_asked_223 : decode cX5_asked 223 = .ok (.areturn, 1) := dk_176 (dk_at dksX5_asked_7 23 rfl rfl)
theorem dX5_asked_224 : decode cX5_asked 224 = .ok (.aconst_null, 1) := dk_1 (dk_at dksX5_asked_8 0 rfl rfl)
theorem dX5_asked_225 : decode cX5_asked 225 = .ok (.areturn, 1) := dk_176 (dk_at dksX5_asked_8 1 rfl rfl)
abbrev cX5_back : ByteArray := prog_18_method_24_code
def yX5_back : MethodName := ⟨RX5, "back", "()V"⟩
def dkwX5_back_0 : List UInt8 := [42, 182, 0, 90, 42, 4, 181, 0, 212, 42, 180, 0, 24, 42, 3, 16, 100, 182, 0, 104, 181, 0, 252, 177]
abbrev dktX5_back_0 : List UInt8 := dkwX5_back_0 ++ []
theorem dksX5_back_0 : cX5_back.data.toList.drop 0 = dktX5_back_0 := by decide +kernel
theorem dX5_back_0 : decode cX5_back 0 = .ok (.aload_n 0, 1) := dk_42 (dk_at dksX5_back_0 0 rfl rfl)
theorem dX5_back_1 : decode cX5_back 1 = .ok (.invokevirtual 90, 3) := dk_182 0 90 (dk_at dksX5_back_0 1 rfl rfl)
theorem dX5_back_4 : decode cX5_back 4 = .ok (.aload_n 0, 1) := dk_42 (dk_at dksX5_back_0 4 rfl rfl)
theorem dX5_back_5 : decode cX5_back 5 = .ok (.iconst 1, 1) := dk_4 (dk_at dksX5_back_0 5 rfl rfl)
theorem dX5_back_6 : decode cX5_back 6 = .ok (.putfield 212, 3) := dk_181 0 212 (dk_at dksX5_back_0 6 rfl rfl)
theorem dX5_back_9 : decode cX5_back 9 = .ok (.aload_n 0, 1) := dk_42 (dk_at dksX5_back_0 9 rfl rfl)
theorem dX5_back_10 : decode cX5_back 10 = .ok (.getfield 24, 3) := dk_180 0 24 (dk_at dksX5_back_0 10 rfl rfl)
theorem dX5_back_13 : decode cX5_back 13 = .ok (.aload_n 0, 1) := dk_42 (dk_at dksX5_back_0 13 rfl rfl)
theorem dX5_back_14 : decode cX5_back 14 = .ok (.iconst 0, 1) := dk_3 (dk_at dksX5_back_0 14 rfl rfl)
theorem dX5_back_15 : decode cX5_back 15 = .ok (.bipush 100, 2) := dk_16 100 (dk_at dksX5_back_0 15 rfl rfl)
theorem dX5_back_17 : decode cX5_back 17 = .ok (.invokevirtual 104, 3) := dk_182 0 104 (dk_at dksX5_back_0 17 rfl rfl)
theorem dX5_back_20 : decode cX5_back 20 = .ok (.putfield 252, 3) := dk_181 0 252 (dk_at dksX5_back_0 20 rfl rfl)
theorem dX5_back_23 : decode cX5_back 23 = .ok (.return_, 1) := dk_177 (dk_at dksX5_back_0 23 rfl rfl)
abbrev cX5_draw : ByteArray := prog_18_method_25_code
def yX5_draw : MethodName := ⟨RX5, "draw", "()V"⟩
def dkwX5_draw_1 : List UInt8 := [177]
abbrev dktX5_draw_1 : List UInt8 := dkwX5_draw_1 ++ []
def dkwX5_draw_0 : List UInt8 := [42, 182, 0, 90, 42, 4, 181, 0, 217, 42, 180, 0, 24, 42, 3, 17, 3, 231, 182, 0, 104, 181, 0, 254]
abbrev dktX5_draw_0 : List UInt8 := dkwX5_draw_0 ++ dktX5_draw_1
theorem dksX5_draw_0 : cX5_draw.data.toList.drop 0 = dktX5_draw_0 := by decide +kernel
theorem dksX5_draw_1 : cX5_draw.data.toList.drop 24 = dktX5_draw_1 := dk_seg dksX5_draw_0 24 rfl rfl
theorem dX5_draw_0 : decode cX5_draw 0 = .ok (.aload_n 0, 1) := dk_42 (dk_at dksX5_draw_0 0 rfl rfl)
theorem dX5_draw_1 : decode cX5_draw 1 = .ok (.invokevirtual 90, 3) := dk_182 0 90 (dk_at dksX5_draw_0 1 rfl rfl)
theorem dX5_draw_4 : decode cX5_draw 4 = .ok (.aload_n 0, 1) := dk_42 (dk_at dksX5_draw_0 4 rfl rfl)
theorem dX5_draw_5 : decode cX5_draw 5 = .ok (.iconst 1, 1) := dk_4 (dk_at dksX5_draw_0 5 rfl rfl)
theorem dX5_draw_6 : decode cX5_draw 6 = .ok (.putfield 217, 3) := dk_181 0 217 (dk_at dksX5_draw_0 6 rfl rfl)
theorem dX5_draw_9 : decode cX5_draw 9 = .ok (.aload_n 0, 1) := dk_42 (dk_at dksX5_draw_0 9 rfl rfl)
theorem dX5_draw_10 : decode cX5_draw 10 = .ok (.getfield 24, 3) := dk_180 0 24 (dk_at dksX5_draw_0 10 rfl rfl)
theorem dX5_draw_13 : decode cX5_draw 13 = .ok (.aload_n 0, 1) := dk_42 (dk_at dksX5_draw_0 13 rfl rfl)
theorem dX5_draw_14 : decode cX5_draw 14 = .ok (.iconst 0, 1) := dk_3 (dk_at dksX5_draw_0 14 rfl rfl)
theorem dX5_draw_15 : decode cX5_draw 15 = .ok (.sipush 999, 3) := dk_17 3 231 (dk_at dksX5_draw_0 15 rfl rfl)
theorem dX5_draw_18 : decode cX5_draw 18 = .ok (.invokevirtual 104, 3) := dk_182 0 104 (dk_at dksX5_draw_0 18 rfl rfl)
theorem dX5_draw_21 : decode cX5_draw 21 = .ok (.putfield 254, 3) := dk_181 0 254 (dk_at dksX5_draw_0 21 rfl rfl)
theorem dX5_draw_24 : decode cX5_draw 24 = .ok (.return_, 1) := dk_177 (dk_at dksX5_draw_1 0 rfl rfl)
theorem q134 : (Jvm.Cond.initialized "WebCourt$Reader") ∈ lw_all := lw_g (lw_at lw_m1 11 rfl) rfl
theorem q237 : (Jvm.Cond.fieldLink "WebCourt$Reader" (168 : Nat) "WebCourt$Book" "knots" "Ljava/util/ArrayList;") ∈ lw_all := lw_g (lw_at lw_m1 114 rfl) rfl
theorem q240 : (Jvm.Cond.fieldLink "WebCourt$Reader" (190 : Nat) "WebCourt$Book" "pleas" "Ljava/util/ArrayList;") ∈ lw_all := lw_g (lw_at lw_m1 117 rfl) rfl
theorem q244 : (Jvm.Cond.fieldLink "WebCourt$Reader" (195 : Nat) "WebCourt$Book" "cases" "Ljava/util/ArrayList;") ∈ lw_all := lw_g (lw_at lw_m1 121 rfl) rfl
theorem q248 : (Jvm.Cond.fieldLink "WebCourt$Reader" (184 : Nat) "WebCourt$Book" "lines" "Ljava/util/ArrayList;") ∈ lw_all := lw_g (lw_at lw_m1 125 rfl) rfl
theorem q252 : (Jvm.Cond.fieldLink "WebCourt$Reader" (207 : Nat) "WebCourt$Book" "law" "LWebCourt$Node;") ∈ lw_all := lw_g (lw_at lw_m1 129 rfl) rfl
theorem q254 : (Jvm.Cond.fieldLink "WebCourt$Reader" (246 : Nat) "WebCourt$Book" "bench" "I") ∈ lw_all := lw_g (lw_at lw_m1 131 rfl) rfl
theorem q256 : (Jvm.Cond.fieldLink "WebCourt$Reader" (252 : Nat) "WebCourt$Book" "back" "I") ∈ lw_all := lw_g (lw_at lw_m1 133 rfl) rfl
theorem q259 : (Jvm.Cond.fieldLink "WebCourt$Reader" (254 : Nat) "WebCourt$Book" "seed" "I") ∈ lw_all := lw_g (lw_at lw_m1 136 rfl) rfl
theorem q260 : (Jvm.Cond.fieldLink "WebCourt$Reader" (315 : Nat) "WebCourt$Book" "units" "I") ∈ lw_all := lw_g (lw_at lw_m1 137 rfl) rfl
theorem q360 : (Jvm.Cond.fieldLinkNest "WebCourt$Reader" (35 : Nat) "WebCourt" "tape" "[B" "WebCourt") ∈ lw_tbl := lw_at lw_m1 237 rfl
theorem q362 : (Jvm.Cond.fieldLinkNest "WebCourt$Reader" (32 : Nat) "WebCourt" "taped" "I" "WebCourt") ∈ lw_tbl := lw_at lw_m1 239 rfl
theorem q455 : (Jvm.Cond.instantiable "WebCourt$Reader" (12 : Nat)) ∈ lw_all := lw_g (lw_at lw_m2 92 rfl) rfl
theorem q457 : (Jvm.Cond.instanceMethod ({ cls := "WebCourt$Reader", name := "<init>", desc := "(LWebCourt;)V" } : Jvm.MethodName)) ∈ lw_all := lw_g (lw_at lw_m2 94 rfl) rfl
theorem q458 : (Jvm.Cond.code ({ cls := "WebCourt$Reader", name := "<init>", desc := "(LWebCourt;)V" } : Jvm.MethodName) prog_18_method_1_code (2 : Nat) (Option.none : Option Jvm.ClassFile.FieldType)) ∈ lw_all := lw_g (lw_at lw_m2 95 rfl) rfl
theorem q459 : (Jvm.Cond.methodLink "WebCourt$Reader" (9 : Nat) ({ cls := "java/lang/Object", name := "<init>", desc := "()V" } : Jvm.MethodName)) ∈ lw_all := lw_g (lw_at lw_m2 96 rfl) rfl
theorem q460 : (Jvm.Cond.stringRef "WebCourt$Reader" (15 : Nat) "") ∈ lw_tbl := lw_at lw_m2 97 rfl
theorem q461 : (Jvm.Cond.classLink "WebCourt$Reader" (21 : Nat) "WebCourt$Book") ∈ lw_all := lw_g (lw_at lw_m2 98 rfl) rfl
theorem q462 : (Jvm.Cond.methodLinkNest "WebCourt$Reader" (23 : Nat) ({ cls := "WebCourt$Book", name := "<init>", desc := "()V" } : Jvm.MethodName) "WebCourt") ∈ lw_tbl := lw_at lw_m2 99 rfl
theorem q463 : (Jvm.Cond.fieldLink "WebCourt$Reader" (28 : Nat) "WebCourt$Reader" "at" "I") ∈ lw_all := lw_g (lw_at lw_m2 100 rfl) rfl
theorem q464 : (Jvm.Cond.fieldLink "WebCourt$Reader" (46 : Nat) "WebCourt$Reader" "sort" "I") ∈ lw_all := lw_g (lw_at lw_m2 101 rfl) rfl
theorem q465 : (Jvm.Cond.fieldLink "WebCourt$Reader" (43 : Nat) "WebCourt$Reader" "place" "I") ∈ lw_all := lw_g (lw_at lw_m2 102 rfl) rfl
theorem q466 : (Jvm.Cond.fieldLink "WebCourt$Reader" (69 : Nat) "WebCourt$Reader" "number" "I") ∈ lw_all := lw_g (lw_at lw_m2 103 rfl) rfl
theorem q467 : (Jvm.Cond.fieldLink "WebCourt$Reader" (257 : Nat) "WebCourt$Reader" "deep" "I") ∈ lw_all := lw_g (lw_at lw_m2 104 rfl) rfl
theorem q468 : (Jvm.Cond.fieldLink "WebCourt$Reader" (260 : Nat) "WebCourt$Reader" "own" "I") ∈ lw_all := lw_g (lw_at lw_m2 105 rfl) rfl
theorem q469 : (Jvm.Cond.fieldLink "WebCourt$Reader" (201 : Nat) "WebCourt$Reader" "hasBench" "Z") ∈ lw_all := lw_g (lw_at lw_m2 106 rfl) rfl
theorem q470 : (Jvm.Cond.fieldLink "WebCourt$Reader" (212 : Nat) "WebCourt$Reader" "hasBack" "Z") ∈ lw_all := lw_g (lw_at lw_m2 107 rfl) rfl
theorem q471 : (Jvm.Cond.fieldLink "WebCourt$Reader" (217 : Nat) "WebCourt$Reader" "hasDraw" "Z") ∈ lw_all := lw_g (lw_at lw_m2 108 rfl) rfl
theorem q472 : (Jvm.Cond.fieldLink "WebCourt$Reader" (17 : Nat) "WebCourt$Reader" "word" "Ljava/lang/String;") ∈ lw_all := lw_g (lw_at lw_m2 109 rfl) rfl
theorem q473 : (Jvm.Cond.fieldLink "WebCourt$Reader" (24 : Nat) "WebCourt$Reader" "made" "LWebCourt$Book;") ∈ lw_all := lw_g (lw_at lw_m2 110 rfl) rfl
theorem q474 : (Jvm.Cond.fieldLink "WebCourt$Reader" (3 : Nat) "WebCourt$Reader" "this$0" "LWebCourt;") ∈ lw_all := lw_g (lw_at lw_m2 111 rfl) rfl
theorem q475 : (Jvm.Cond.lays "WebCourt$Reader" "WebCourt$Reader" "at" "I") ∈ lw_all := lw_g (lw_at lw_m2 112 rfl) rfl
theorem q476 : (Jvm.Cond.soleField "WebCourt$Reader" "at") ∈ lw_all := lw_g (lw_at lw_m2 113 rfl) rfl
theorem q477 : (Jvm.Cond.lays "WebCourt$Reader" "WebCourt$Reader" "sort" "I") ∈ lw_all := lw_g (lw_at lw_m2 114 rfl) rfl
theorem q478 : (Jvm.Cond.soleField "WebCourt$Reader" "sort") ∈ lw_all := lw_g (lw_at lw_m2 115 rfl) rfl
theorem q479 : (Jvm.Cond.lays "WebCourt$Reader" "WebCourt$Reader" "place" "I") ∈ lw_all := lw_g (lw_at lw_m2 116 rfl) rfl
theorem q480 : (Jvm.Cond.soleField "WebCourt$Reader" "place") ∈ lw_all := lw_g (lw_at lw_m2 117 rfl) rfl
theorem q481 : (Jvm.Cond.lays "WebCourt$Reader" "WebCourt$Reader" "number" "I") ∈ lw_all := lw_g (lw_at lw_m2 118 rfl) rfl
theorem q482 : (Jvm.Cond.soleField "WebCourt$Reader" "number") ∈ lw_all := lw_g (lw_at lw_m2 119 rfl) rfl
theorem q483 : (Jvm.Cond.lays "WebCourt$Reader" "WebCourt$Reader" "deep" "I") ∈ lw_all := lw_g (lw_at lw_m2 120 rfl) rfl
theorem q484 : (Jvm.Cond.soleField "WebCourt$Reader" "deep") ∈ lw_all := lw_g (lw_at lw_m2 121 rfl) rfl
theorem q485 : (Jvm.Cond.lays "WebCourt$Reader" "WebCourt$Reader" "own" "I") ∈ lw_all := lw_g (lw_at lw_m2 122 rfl) rfl
theorem q486 : (Jvm.Cond.soleField "WebCourt$Reader" "own") ∈ lw_all := lw_g (lw_at lw_m2 123 rfl) rfl
theorem q487 : (Jvm.Cond.lays "WebCourt$Reader" "WebCourt$Reader" "hasBench" "Z") ∈ lw_all := lw_g (lw_at lw_m2 124 rfl) rfl
theorem q488 : (Jvm.Cond.soleField "WebCourt$Reader" "hasBench") ∈ lw_all := lw_g (lw_at lw_m2 125 rfl) rfl
theorem q489 : (Jvm.Cond.lays "WebCourt$Reader" "WebCourt$Reader" "hasBack" "Z") ∈ lw_all := lw_g (lw_at lw_m2 126 rfl) rfl
theorem q490 : (Jvm.Cond.soleField "WebCourt$Reader" "hasBack") ∈ lw_all := lw_g (lw_at lw_m2 127 rfl) rfl
theorem q491 : (Jvm.Cond.lays "WebCourt$Reader" "WebCourt$Reader" "hasDraw" "Z") ∈ lw_all := lw_g (lw_at lw_m2 128 rfl) rfl
theorem q492 : (Jvm.Cond.soleField "WebCourt$Reader" "hasDraw") ∈ lw_all := lw_g (lw_at lw_m2 129 rfl) rfl
theorem q493 : (Jvm.Cond.lays "WebCourt$Reader" "WebCourt$Reader" "word" "Ljava/lang/String;") ∈ lw_all := lw_g (lw_at lw_m2 130 rfl) rfl
theorem q494 : (Jvm.Cond.soleField "WebCourt$Reader" "word") ∈ lw_all := lw_g (lw_at lw_m2 131 rfl) rfl
theorem q495 : (Jvm.Cond.laysFinal "WebCourt$Reader" "WebCourt$Reader" "made" "LWebCourt$Book;") ∈ lw_all := lw_g (lw_at lw_m2 132 rfl) rfl
theorem q496 : (Jvm.Cond.soleField "WebCourt$Reader" "made") ∈ lw_all := lw_g (lw_at lw_m2 133 rfl) rfl
theorem q497 : (Jvm.Cond.laysFinal "WebCourt$Reader" "WebCourt$Reader" "this$0" "LWebCourt;") ∈ lw_all := lw_g (lw_at lw_m2 134 rfl) rfl
theorem q498 : (Jvm.Cond.soleField "WebCourt$Reader" "this$0") ∈ lw_all := lw_g (lw_at lw_m2 135 rfl) rfl
theorem q499 : (Jvm.Cond.superclass "WebCourt$Reader" "java/lang/Object") ∈ lw_all := lw_g (lw_at lw_m2 136 rfl) rfl
theorem q501 : (Jvm.Cond.instanceMethod ({ cls := "WebCourt$Reader", name := "text", desc := "()LWebCourt$Book;" } : Jvm.MethodName)) ∈ lw_all := lw_g (lw_at lw_m2 138 rfl) rfl
theorem q502 : (Jvm.Cond.selects "WebCourt$Reader" ({ cls := "WebCourt$Reader", name := "text", desc := "()LWebCourt$Book;" } : Jvm.MethodName) ({ cls := "WebCourt$Reader", name := "text", desc := "()LWebCourt$Book;" } : Jvm.MethodName)) ∈ lw_all := lw_g (lw_at lw_m2 139 rfl) rfl
theorem q503 : (Jvm.Cond.code ({ cls := "WebCourt$Reader", name := "text", desc := "()LWebCourt$Book;" } : Jvm.MethodName) prog_18_method_17_code (1 : Nat) (Option.some (Jvm.ClassFile.FieldType.object "WebCourt$Book"))) ∈ lw_all := lw_g (lw_at lw_m2 140 rfl) rfl
theorem q504 : (Jvm.Cond.methodLink "WebCourt$Reader" (90 : Nat) ({ cls := "WebCourt$Reader", name := "go", desc := "()V" } : Jvm.MethodName)) ∈ lw_all := lw_g (lw_at lw_m2 141 rfl) rfl
theorem q505 : (Jvm.Cond.privateMethod ({ cls := "WebCourt$Reader", name := "go", desc := "()V" } : Jvm.MethodName)) ∈ lw_tbl := lw_at lw_m2 142 rfl
theorem q506 : (Jvm.Cond.instanceMethod ({ cls := "WebCourt$Reader", name := "go", desc := "()V" } : Jvm.MethodName)) ∈ lw_all := lw_g (lw_at lw_m2 143 rfl) rfl
theorem q507 : (Jvm.Cond.code ({ cls := "WebCourt$Reader", name := "go", desc := "()V" } : Jvm.MethodName) prog_18_method_6_code (4 : Nat) (Option.none : Option Jvm.ClassFile.FieldType)) ∈ lw_all := lw_g (lw_at lw_m2 144 rfl) rfl
theorem q508 : (Jvm.Cond.methodLink "WebCourt$Reader" (39 : Nat) ({ cls := "WebCourt$Reader", name := "here", desc := "(I)I" } : Jvm.MethodName)) ∈ lw_all := lw_g (lw_at lw_m2 145 rfl) rfl
theorem q509 : (Jvm.Cond.privateMethod ({ cls := "WebCourt$Reader", name := "here", desc := "(I)I" } : Jvm.MethodName)) ∈ lw_tbl := lw_at lw_m2 146 rfl
theorem q510 : (Jvm.Cond.instanceMethod ({ cls := "WebCourt$Reader", name := "here", desc := "(I)I" } : Jvm.MethodName)) ∈ lw_all := lw_g (lw_at lw_m2 147 rfl) rfl
theorem q511 : (Jvm.Cond.code ({ cls := "WebCourt$Reader", name := "here", desc := "(I)I" } : Jvm.MethodName) prog_18_method_2_code (2 : Nat) (Option.some Jvm.ClassFile.FieldType.int)) ∈ lw_all := lw_g (lw_at lw_m2 148 rfl) rfl
theorem q512 : (Jvm.Cond.methodLink "WebCourt$Reader" (49 : Nat) ({ cls := "WebCourt$Reader", name := "isLetter", desc := "(I)Z" } : Jvm.MethodName)) ∈ lw_all := lw_g (lw_at lw_m2 149 rfl) rfl
theorem q513 : (Jvm.Cond.privateMethod ({ cls := "WebCourt$Reader", name := "isLetter", desc := "(I)Z" } : Jvm.MethodName)) ∈ lw_tbl := lw_at lw_m2 150 rfl
theorem q514 : (Jvm.Cond.instanceMethod ({ cls := "WebCourt$Reader", name := "isLetter", desc := "(I)Z" } : Jvm.MethodName)) ∈ lw_all := lw_g (lw_at lw_m2 151 rfl) rfl
theorem q515 : (Jvm.Cond.code ({ cls := "WebCourt$Reader", name := "isLetter", desc := "(I)Z" } : Jvm.MethodName) prog_18_method_3_code (2 : Nat) (Option.some Jvm.ClassFile.FieldType.boolean)) ∈ lw_all := lw_g (lw_at lw_m2 152 rfl) rfl
theorem q516 : (Jvm.Cond.classLink "WebCourt$Reader" (53 : Nat) "java/lang/StringBuilder") ∈ lw_all := lw_g (lw_at lw_m2 153 rfl) rfl
theorem q518 : (Jvm.Cond.methodLink "WebCourt$Reader" (55 : Nat) ({ cls := "java/lang/StringBuilder", name := "<init>", desc := "(I)V" } : Jvm.MethodName)) ∈ lw_all := lw_g (lw_at lw_m2 155 rfl) rfl
theorem q547 : (Jvm.Cond.methodLink "WebCourt$Reader" (58 : Nat) ({ cls := "java/lang/StringBuilder", name := "append", desc := "(C)Ljava/lang/StringBuilder;" } : Jvm.MethodName)) ∈ lw_all := lw_g (lw_at lw_m2 184 rfl) rfl
theorem q640 : (Jvm.Cond.methodLink "WebCourt$Reader" (62 : Nat) ({ cls := "java/lang/StringBuilder", name := "toString", desc := "()Ljava/lang/String;" } : Jvm.MethodName)) ∈ lw_all := lw_g (lw_at lw_m3 37 rfl) rfl
theorem q703 : (Jvm.Cond.methodLink "WebCourt$Reader" (66 : Nat) ({ cls := "WebCourt$Reader", name := "isDigit", desc := "(I)Z" } : Jvm.MethodName)) ∈ lw_all := lw_g (lw_at lw_m3 100 rfl) rfl
theorem q704 : (Jvm.Cond.privateMethod ({ cls := "WebCourt$Reader", name := "isDigit", desc := "(I)Z" } : Jvm.MethodName)) ∈ lw_tbl := lw_at lw_m3 101 rfl
theorem q705 : (Jvm.Cond.instanceMethod ({ cls := "WebCourt$Reader", name := "isDigit", desc := "(I)Z" } : Jvm.MethodName)) ∈ lw_all := lw_g (lw_at lw_m3 102 rfl) rfl
theorem q706 : (Jvm.Cond.code ({ cls := "WebCourt$Reader", name := "isDigit", desc := "(I)Z" } : Jvm.MethodName) prog_18_method_4_code (2 : Nat) (Option.some Jvm.ClassFile.FieldType.boolean)) ∈ lw_all := lw_g (lw_at lw_m3 103 rfl) rfl
theorem q707 : (Jvm.Cond.methodLink "WebCourt$Reader" (72 : Nat) ({ cls := "WebCourt$Reader", name := "isSign", desc := "(I)Z" } : Jvm.MethodName)) ∈ lw_all := lw_g (lw_at lw_m3 104 rfl) rfl
theorem q708 : (Jvm.Cond.static ({ cls := "WebCourt$Reader", name := "isSign", desc := "(I)Z" } : Jvm.MethodName)) ∈ lw_all := lw_g (lw_at lw_m3 105 rfl) rfl
theorem q709 : (Jvm.Cond.code ({ cls := "WebCourt$Reader", name := "isSign", desc := "(I)Z" } : Jvm.MethodName) prog_18_method_5_code (1 : Nat) (Option.some Jvm.ClassFile.FieldType.boolean)) ∈ lw_all := lw_g (lw_at lw_m3 106 rfl) rfl
theorem q710 : (Jvm.Cond.methodLink "WebCourt$Reader" (166 : Nat) ({ cls := "WebCourt$Reader", name := "line", desc := "()V" } : Jvm.MethodName)) ∈ lw_all := lw_g (lw_at lw_m3 107 rfl) rfl
theorem q711 : (Jvm.Cond.privateMethod ({ cls := "WebCourt$Reader", name := "line", desc := "()V" } : Jvm.MethodName)) ∈ lw_tbl := lw_at lw_m3 108 rfl
theorem q712 : (Jvm.Cond.instanceMethod ({ cls := "WebCourt$Reader", name := "line", desc := "()V" } : Jvm.MethodName)) ∈ lw_all := lw_g (lw_at lw_m3 109 rfl) rfl
theorem q713 : (Jvm.Cond.code ({ cls := "WebCourt$Reader", name := "line", desc := "()V" } : Jvm.MethodName) prog_18_method_18_code (1 : Nat) (Option.none : Option Jvm.ClassFile.FieldType)) ∈ lw_all := lw_g (lw_at lw_m3 110 rfl) rfl
theorem q714 : (Jvm.Cond.stringRef "WebCourt$Reader" (111 : Nat) "knot") ∈ lw_tbl := lw_at lw_m3 111 rfl
theorem q715 : (Jvm.Cond.methodLink "WebCourt$Reader" (86 : Nat) ({ cls := "WebCourt$Reader", name := "is", desc := "(Ljava/lang/String;)Z" } : Jvm.MethodName)) ∈ lw_all := lw_g (lw_at lw_m3 112 rfl) rfl
theorem q716 : (Jvm.Cond.privateMethod ({ cls := "WebCourt$Reader", name := "is", desc := "(Ljava/lang/String;)Z" } : Jvm.MethodName)) ∈ lw_tbl := lw_at lw_m3 113 rfl
theorem q717 : (Jvm.Cond.instanceMethod ({ cls := "WebCourt$Reader", name := "is", desc := "(Ljava/lang/String;)Z" } : Jvm.MethodName)) ∈ lw_all := lw_g (lw_at lw_m3 114 rfl) rfl
theorem q718 : (Jvm.Cond.code ({ cls := "WebCourt$Reader", name := "is", desc := "(Ljava/lang/String;)Z" } : Jvm.MethodName) prog_18_method_8_code (2 : Nat) (Option.some Jvm.ClassFile.FieldType.boolean)) ∈ lw_all := lw_g (lw_at lw_m3 115 rfl) rfl
theorem q719 : (Jvm.Cond.methodLink "WebCourt$Reader" (80 : Nat) ({ cls := "java/lang/String", name := "equals", desc := "(Ljava/lang/Object;)Z" } : Jvm.MethodName)) ∈ lw_all := lw_g (lw_at lw_m3 116 rfl) rfl
theorem q727 : (Jvm.Cond.methodLink "WebCourt$Reader" (172 : Nat) ({ cls := "java/util/ArrayList", name := "size", desc := "()I" } : Jvm.MethodName)) ∈ lw_all := lw_g (lw_at lw_m3 124 rfl) rfl
theorem q728 : (Jvm.Cond.methodLink "WebCourt$Reader" (177 : Nat) ({ cls := "WebCourt$Reader", name := "newNamed", desc := "(Ljava/util/ArrayList;)LWebCourt$Named;" } : Jvm.MethodName)) ∈ lw_all := lw_g (lw_at lw_m3 125 rfl) rfl
theorem q729 : (Jvm.Cond.privateMethod ({ cls := "WebCourt$Reader", name := "newNamed", desc := "(Ljava/util/ArrayList;)LWebCourt$Named;" } : Jvm.MethodName)) ∈ lw_tbl := lw_at lw_m3 126 rfl
theorem q730 : (Jvm.Cond.instanceMethod ({ cls := "WebCourt$Reader", name := "newNamed", desc := "(Ljava/util/ArrayList;)LWebCourt$Named;" } : Jvm.MethodName)) ∈ lw_all := lw_g (lw_at lw_m3 127 rfl) rfl
theorem q731 : (Jvm.Cond.code ({ cls := "WebCourt$Reader", name := "newNamed", desc := "(Ljava/util/ArrayList;)LWebCourt$Named;" } : Jvm.MethodName) prog_18_method_14_code (3 : Nat) (Option.some (Jvm.ClassFile.FieldType.object "WebCourt$Named"))) ∈ lw_all := lw_g (lw_at lw_m3 128 rfl) rfl
theorem q732 : (Jvm.Cond.methodLink "WebCourt$Reader" (150 : Nat) ({ cls := "WebCourt$Reader", name := "isName", desc := "()Z" } : Jvm.MethodName)) ∈ lw_all := lw_g (lw_at lw_m3 129 rfl) rfl
theorem q733 : (Jvm.Cond.privateMethod ({ cls := "WebCourt$Reader", name := "isName", desc := "()Z" } : Jvm.MethodName)) ∈ lw_tbl := lw_at lw_m3 130 rfl
theorem q734 : (Jvm.Cond.instanceMethod ({ cls := "WebCourt$Reader", name := "isName", desc := "()Z" } : Jvm.MethodName)) ∈ lw_all := lw_g (lw_at lw_m3 131 rfl) rfl
theorem q735 : (Jvm.Cond.code ({ cls := "WebCourt$Reader", name := "isName", desc := "()Z" } : Jvm.MethodName) prog_18_method_13_code (3 : Nat) (Option.some Jvm.ClassFile.FieldType.boolean)) ∈ lw_all := lw_g (lw_at lw_m3 132 rfl) rfl
theorem q736 : (Jvm.Cond.methodLink "WebCourt$Reader" (107 : Nat) ({ cls := "java/lang/String", name := "hashCode", desc := "()I" } : Jvm.MethodName)) ∈ lw_all := lw_g (lw_at lw_m3 133 rfl) rfl
theorem q789 : (Jvm.Cond.stringRef "WebCourt$Reader" (113 : Nat) "line") ∈ lw_tbl := lw_at lw_m3 186 rfl
theorem q790 : (Jvm.Cond.stringRef "WebCourt$Reader" (115 : Nat) "sticky") ∈ lw_tbl := lw_at lw_m3 187 rfl
theorem q791 : (Jvm.Cond.stringRef "WebCourt$Reader" (117 : Nat) "plea") ∈ lw_tbl := lw_at lw_m3 188 rfl
theorem q792 : (Jvm.Cond.stringRef "WebCourt$Reader" (119 : Nat) "strong") ∈ lw_tbl := lw_at lw_m3 189 rfl
theorem q793 : (Jvm.Cond.stringRef "WebCourt$Reader" (121 : Nat) "case") ∈ lw_tbl := lw_at lw_m3 190 rfl
theorem q794 : (Jvm.Cond.stringRef "WebCourt$Reader" (123 : Nat) "at") ∈ lw_tbl := lw_at lw_m3 191 rfl
theorem q795 : (Jvm.Cond.stringRef "WebCourt$Reader" (124 : Nat) "pleads") ∈ lw_tbl := lw_at lw_m3 192 rfl
theorem q796 : (Jvm.Cond.stringRef "WebCourt$Reader" (126 : Nat) "bench") ∈ lw_tbl := lw_at lw_m3 193 rfl
theorem q797 : (Jvm.Cond.stringRef "WebCourt$Reader" (128 : Nat) "law") ∈ lw_tbl := lw_at lw_m3 194 rfl
theorem q798 : (Jvm.Cond.stringRef "WebCourt$Reader" (130 : Nat) "back") ∈ lw_tbl := lw_at lw_m3 195 rfl
theorem q799 : (Jvm.Cond.stringRef "WebCourt$Reader" (132 : Nat) "draw") ∈ lw_tbl := lw_at lw_m3 196 rfl
theorem q800 : (Jvm.Cond.stringRef "WebCourt$Reader" (134 : Nat) "many") ∈ lw_tbl := lw_at lw_m3 197 rfl
theorem q801 : (Jvm.Cond.stringRef "WebCourt$Reader" (136 : Nat) "before") ∈ lw_tbl := lw_at lw_m3 198 rfl
theorem q802 : (Jvm.Cond.stringRef "WebCourt$Reader" (138 : Nat) "stays") ∈ lw_tbl := lw_at lw_m3 199 rfl
theorem q803 : (Jvm.Cond.stringRef "WebCourt$Reader" (140 : Nat) "kin") ∈ lw_tbl := lw_at lw_m3 200 rfl
theorem q804 : (Jvm.Cond.stringRef "WebCourt$Reader" (142 : Nat) "hour") ∈ lw_tbl := lw_at lw_m3 201 rfl
theorem q805 : (Jvm.Cond.stringRef "WebCourt$Reader" (144 : Nat) "and") ∈ lw_tbl := lw_at lw_m3 202 rfl
theorem q806 : (Jvm.Cond.stringRef "WebCourt$Reader" (146 : Nat) "or") ∈ lw_tbl := lw_at lw_m3 203 rfl
theorem q807 : (Jvm.Cond.stringRef "WebCourt$Reader" (148 : Nat) "not") ∈ lw_tbl := lw_at lw_m3 204 rfl
theorem q808 : (Jvm.Cond.methodLink "WebCourt$Reader" (96 : Nat) ({ cls := "WebCourt$Reader", name := "wrong", desc := "()LWebCourt$Wrong;" } : Jvm.MethodName)) ∈ lw_all := lw_g (lw_at lw_m3 205 rfl) rfl
theorem q809 : (Jvm.Cond.privateMethod ({ cls := "WebCourt$Reader", name := "wrong", desc := "()LWebCourt$Wrong;" } : Jvm.MethodName)) ∈ lw_tbl := lw_at lw_m3 206 rfl
theorem q810 : (Jvm.Cond.instanceMethod ({ cls := "WebCourt$Reader", name := "wrong", desc := "()LWebCourt$Wrong;" } : Jvm.MethodName)) ∈ lw_all := lw_g (lw_at lw_m3 207 rfl) rfl
theorem q811 : (Jvm.Cond.code ({ cls := "WebCourt$Reader", name := "wrong", desc := "()LWebCourt$Wrong;" } : Jvm.MethodName) prog_18_method_7_code (1 : Nat) (Option.some (Jvm.ClassFile.FieldType.object "WebCourt$Wrong"))) ∈ lw_all := lw_g (lw_at lw_m3 208 rfl) rfl
theorem q812 : (Jvm.Cond.classLink "WebCourt$Reader" (75 : Nat) "WebCourt$Wrong") ∈ lw_all := lw_g (lw_at lw_m3 209 rfl) rfl
theorem q849 : (Jvm.Cond.methodLink "WebCourt$Reader" (77 : Nat) ({ cls := "WebCourt$Wrong", name := "<init>", desc := "(II)V" } : Jvm.MethodName)) ∈ lw_all := lw_g (lw_at lw_m4 6 rfl) rfl
theorem q879 : (Jvm.Cond.methodLinkNest "WebCourt$Reader" (154 : Nat) ({ cls := "WebCourt", name := "find", desc := "(Ljava/util/ArrayList;Ljava/lang/String;)I" } : Jvm.MethodName) "WebCourt") ∈ lw_tbl := lw_at lw_m4 36 rfl
theorem q886 : (Jvm.Cond.classLink "WebCourt$Reader" (158 : Nat) "WebCourt$Named") ∈ lw_all := lw_g (lw_at lw_m4 43 rfl) rfl
theorem q888 : (Jvm.Cond.methodLink "WebCourt$Reader" (160 : Nat) ({ cls := "WebCourt$Named", name := "<init>", desc := "(Ljava/lang/String;)V" } : Jvm.MethodName)) ∈ lw_all := lw_g (lw_at lw_m4 45 rfl) rfl
theorem q896 : (Jvm.Cond.fieldLink "WebCourt$Reader" (238 : Nat) "WebCourt$Named" "number" "I") ∈ lw_all := lw_g (lw_at lw_m4 53 rfl) rfl
theorem q899 : (Jvm.Cond.fieldLink "WebCourt$Reader" (239 : Nat) "WebCourt$Named" "pleas" "I") ∈ lw_all := lw_g (lw_at lw_m4 56 rfl) rfl
theorem q907 : (Jvm.Cond.methodLink "WebCourt$Reader" (181 : Nat) ({ cls := "java/util/ArrayList", name := "add", desc := "(Ljava/lang/Object;)Z" } : Jvm.MethodName)) ∈ lw_all := lw_g (lw_at lw_m4 64 rfl) rfl
theorem q947 : (Jvm.Cond.selects "WebCourt$Reader" ({ cls := "java/lang/Object", name := "getClass", desc := "()Ljava/lang/Class;" } : Jvm.MethodName) ({ cls := "java/lang/Object", name := "getClass", desc := "()Ljava/lang/Class;" } : Jvm.MethodName)) ∈ lw_all := lw_g (lw_at lw_m4 104 rfl) rfl
theorem q963 : (Jvm.Cond.methodLink "WebCourt$Reader" (187 : Nat) ({ cls := "WebCourt$Reader", name := "thread", desc := "()V" } : Jvm.MethodName)) ∈ lw_all := lw_g (lw_at lw_m4 120 rfl) rfl
theorem q964 : (Jvm.Cond.privateMethod ({ cls := "WebCourt$Reader", name := "thread", desc := "()V" } : Jvm.MethodName)) ∈ lw_tbl := lw_at lw_m4 121 rfl
theorem q965 : (Jvm.Cond.instanceMethod ({ cls := "WebCourt$Reader", name := "thread", desc := "()V" } : Jvm.MethodName)) ∈ lw_all := lw_g (lw_at lw_m4 122 rfl) rfl
theorem q966 : (Jvm.Cond.code ({ cls := "WebCourt$Reader", name := "thread", desc := "()V" } : Jvm.MethodName) prog_18_method_19_code (4 : Nat) (Option.none : Option Jvm.ClassFile.FieldType)) ∈ lw_all := lw_g (lw_at lw_m4 123 rfl) rfl
theorem q967 : (Jvm.Cond.methodLink "WebCourt$Reader" (222 : Nat) ({ cls := "WebCourt$Reader", name := "takeName", desc := "(Ljava/util/ArrayList;)I" } : Jvm.MethodName)) ∈ lw_all := lw_g (lw_at lw_m4 124 rfl) rfl
theorem q968 : (Jvm.Cond.privateMethod ({ cls := "WebCourt$Reader", name := "takeName", desc := "(Ljava/util/ArrayList;)I" } : Jvm.MethodName)) ∈ lw_tbl := lw_at lw_m4 125 rfl
theorem q969 : (Jvm.Cond.instanceMethod ({ cls := "WebCourt$Reader", name := "takeName", desc := "(Ljava/util/ArrayList;)I" } : Jvm.MethodName)) ∈ lw_all := lw_g (lw_at lw_m4 126 rfl) rfl
theorem q970 : (Jvm.Cond.code ({ cls := "WebCourt$Reader", name := "takeName", desc := "(Ljava/util/ArrayList;)I" } : Jvm.MethodName) prog_18_method_16_code (3 : Nat) (Option.some Jvm.ClassFile.FieldType.int)) ∈ lw_all := lw_g (lw_at lw_m4 127 rfl) rfl
theorem q971 : (Jvm.Cond.methodLink "WebCourt$Reader" (162 : Nat) ({ cls := "WebCourt$Reader", name := "oldName", desc := "(Ljava/util/ArrayList;)I" } : Jvm.MethodName)) ∈ lw_all := lw_g (lw_at lw_m4 128 rfl) rfl
theorem q972 : (Jvm.Cond.privateMethod ({ cls := "WebCourt$Reader", name := "oldName", desc := "(Ljava/util/ArrayList;)I" } : Jvm.MethodName)) ∈ lw_tbl := lw_at lw_m4 129 rfl
theorem q973 : (Jvm.Cond.instanceMethod ({ cls := "WebCourt$Reader", name := "oldName", desc := "(Ljava/util/ArrayList;)I" } : Jvm.MethodName)) ∈ lw_all := lw_g (lw_at lw_m4 130 rfl) rfl
theorem q974 : (Jvm.Cond.code ({ cls := "WebCourt$Reader", name := "oldName", desc := "(Ljava/util/ArrayList;)I" } : Jvm.MethodName) prog_18_method_15_code (2 : Nat) (Option.some Jvm.ClassFile.FieldType.int)) ∈ lw_all := lw_g (lw_at lw_m4 131 rfl) rfl
theorem q975 : (Jvm.Cond.methodLink "WebCourt$Reader" (225 : Nat) ({ cls := "WebCourt$Book", name := "areTied", desc := "(II)Z" } : Jvm.MethodName)) ∈ lw_all := lw_g (lw_at lw_m4 132 rfl) rfl
theorem q1030 : (Jvm.Cond.classLink "WebCourt$Reader" (229 : Nat) "WebCourt$Line") ∈ lw_all := lw_g (lw_at lw_m4 187 rfl) rfl
theorem q1032 : (Jvm.Cond.methodLink "WebCourt$Reader" (231 : Nat) ({ cls := "WebCourt$Line", name := "<init>", desc := "(II)V" } : Jvm.MethodName)) ∈ lw_all := lw_g (lw_at lw_m4 189 rfl) rfl
theorem q1041 : (Jvm.Cond.fieldLink "WebCourt$Reader" (232 : Nat) "WebCourt$Line" "sticky" "Z") ∈ lw_all := lw_g (lw_at lw_m4 198 rfl) rfl
theorem q1049 : (Jvm.Cond.methodLink "WebCourt$Reader" (93 : Nat) ({ cls := "WebCourt$Reader", name := "takes", desc := "(Ljava/lang/String;)Z" } : Jvm.MethodName)) ∈ lw_all := lw_g (lw_at lw_m4 206 rfl) rfl
theorem q1050 : (Jvm.Cond.privateMethod ({ cls := "WebCourt$Reader", name := "takes", desc := "(Ljava/lang/String;)Z" } : Jvm.MethodName)) ∈ lw_tbl := lw_at lw_m4 207 rfl
theorem q1051 : (Jvm.Cond.instanceMethod ({ cls := "WebCourt$Reader", name := "takes", desc := "(Ljava/lang/String;)Z" } : Jvm.MethodName)) ∈ lw_all := lw_g (lw_at lw_m4 208 rfl) rfl
theorem q1052 : (Jvm.Cond.code ({ cls := "WebCourt$Reader", name := "takes", desc := "(Ljava/lang/String;)Z" } : Jvm.MethodName) prog_18_method_9_code (3 : Nat) (Option.some Jvm.ClassFile.FieldType.boolean)) ∈ lw_all := lw_g (lw_at lw_m4 209 rfl) rfl
theorem q1053 : (Jvm.Cond.methodLink "WebCourt$Reader" (193 : Nat) ({ cls := "WebCourt$Reader", name := "plea", desc := "()V" } : Jvm.MethodName)) ∈ lw_all := lw_g (lw_at lw_m4 210 rfl) rfl
theorem q1054 : (Jvm.Cond.privateMethod ({ cls := "WebCourt$Reader", name := "plea", desc := "()V" } : Jvm.MethodName)) ∈ lw_tbl := lw_at lw_m4 211 rfl
theorem q1055 : (Jvm.Cond.instanceMethod ({ cls := "WebCourt$Reader", name := "plea", desc := "()V" } : Jvm.MethodName)) ∈ lw_all := lw_g (lw_at lw_m4 212 rfl) rfl
theorem q1056 : (Jvm.Cond.code ({ cls := "WebCourt$Reader", name := "plea", desc := "()V" } : Jvm.MethodName) prog_18_method_20_code (2 : Nat) (Option.none : Option Jvm.ClassFile.FieldType)) ∈ lw_all := lw_g (lw_at lw_m4 213 rfl) rfl
theorem q1057 : (Jvm.Cond.methodLink "WebCourt$Reader" (234 : Nat) ({ cls := "WebCourt$Reader", name := "told", desc := "(Ljava/lang/String;II)I" } : Jvm.MethodName)) ∈ lw_all := lw_g (lw_at lw_m4 214 rfl) rfl
theorem q1058 : (Jvm.Cond.privateMethod ({ cls := "WebCourt$Reader", name := "told", desc := "(Ljava/lang/String;II)I" } : Jvm.MethodName)) ∈ lw_tbl := lw_at lw_m4 215 rfl
theorem q1059 : (Jvm.Cond.instanceMethod ({ cls := "WebCourt$Reader", name := "told", desc := "(Ljava/lang/String;II)I" } : Jvm.MethodName)) ∈ lw_all := lw_g (lw_at lw_m4 216 rfl) rfl
theorem q1060 : (Jvm.Cond.code ({ cls := "WebCourt$Reader", name := "told", desc := "(Ljava/lang/String;II)I" } : Jvm.MethodName) prog_18_method_12_code (4 : Nat) (Option.some Jvm.ClassFile.FieldType.int)) ∈ lw_all := lw_g (lw_at lw_m4 217 rfl) rfl
theorem q1061 : (Jvm.Cond.methodLink "WebCourt$Reader" (100 : Nat) ({ cls := "WebCourt$Reader", name := "key", desc := "(Ljava/lang/String;)V" } : Jvm.MethodName)) ∈ lw_all := lw_g (lw_at lw_m4 218 rfl) rfl
theorem q1062 : (Jvm.Cond.privateMethod ({ cls := "WebCourt$Reader", name := "key", desc := "(Ljava/lang/String;)V" } : Jvm.MethodName)) ∈ lw_tbl := lw_at lw_m4 219 rfl
theorem q1063 : (Jvm.Cond.instanceMethod ({ cls := "WebCourt$Reader", name := "key", desc := "(Ljava/lang/String;)V" } : Jvm.MethodName)) ∈ lw_all := lw_g (lw_at lw_m4 220 rfl) rfl
theorem q1064 : (Jvm.Cond.code ({ cls := "WebCourt$Reader", name := "key", desc := "(Ljava/lang/String;)V" } : Jvm.MethodName) prog_18_method_10_code (2 : Nat) (Option.none : Option Jvm.ClassFile.FieldType)) ∈ lw_all := lw_g (lw_at lw_m4 221 rfl) rfl
theorem q1065 : (Jvm.Cond.methodLink "WebCourt$Reader" (104 : Nat) ({ cls := "WebCourt$Reader", name := "number", desc := "(II)I" } : Jvm.MethodName)) ∈ lw_all := lw_g (lw_at lw_m4 222 rfl) rfl
theorem q1066 : (Jvm.Cond.privateMethod ({ cls := "WebCourt$Reader", name := "number", desc := "(II)I" } : Jvm.MethodName)) ∈ lw_tbl := lw_at lw_m4 223 rfl
theorem q1067 : (Jvm.Cond.instanceMethod ({ cls := "WebCourt$Reader", name := "number", desc := "(II)I" } : Jvm.MethodName)) ∈ lw_all := lw_g (lw_at lw_m4 224 rfl) rfl
theorem q1068 : (Jvm.Cond.code ({ cls := "WebCourt$Reader", name := "number", desc := "(II)I" } : Jvm.MethodName) prog_18_method_11_code (4 : Nat) (Option.some Jvm.ClassFile.FieldType.int)) ∈ lw_all := lw_g (lw_at lw_m4 225 rfl) rfl
theorem q1069 : (Jvm.Cond.methodLink "WebCourt$Reader" (198 : Nat) ({ cls := "WebCourt$Reader", name := "item", desc := "()V" } : Jvm.MethodName)) ∈ lw_all := lw_g (lw_at lw_m4 226 rfl) rfl
theorem q1070 : (Jvm.Cond.privateMethod ({ cls := "WebCourt$Reader", name := "item", desc := "()V" } : Jvm.MethodName)) ∈ lw_tbl := lw_at lw_m4 227 rfl
theorem q1071 : (Jvm.Cond.instanceMethod ({ cls := "WebCourt$Reader", name := "item", desc := "()V" } : Jvm.MethodName)) ∈ lw_all := lw_g (lw_at lw_m4 228 rfl) rfl
theorem q1072 : (Jvm.Cond.code ({ cls := "WebCourt$Reader", name := "item", desc := "()V" } : Jvm.MethodName) prog_18_method_21_code (3 : Nat) (Option.none : Option Jvm.ClassFile.FieldType)) ∈ lw_all := lw_g (lw_at lw_m4 229 rfl) rfl
theorem q1073 : (Jvm.Cond.methodLink "WebCourt$Reader" (241 : Nat) ({ cls := "java/lang/Integer", name := "bitCount", desc := "(I)I" } : Jvm.MethodName)) ∈ lw_all := lw_g (lw_at lw_m4 230 rfl) rfl
theorem q1079 : (Jvm.Cond.methodLink "WebCourt$Reader" (205 : Nat) ({ cls := "WebCourt$Reader", name := "bench", desc := "()V" } : Jvm.MethodName)) ∈ lw_all := lw_g (lw_at lw_m4 236 rfl) rfl
theorem q1080 : (Jvm.Cond.privateMethod ({ cls := "WebCourt$Reader", name := "bench", desc := "()V" } : Jvm.MethodName)) ∈ lw_tbl := lw_at lw_m4 237 rfl
theorem q1081 : (Jvm.Cond.instanceMethod ({ cls := "WebCourt$Reader", name := "bench", desc := "()V" } : Jvm.MethodName)) ∈ lw_all := lw_g (lw_at lw_m4 238 rfl) rfl
theorem q1082 : (Jvm.Cond.code ({ cls := "WebCourt$Reader", name := "bench", desc := "()V" } : Jvm.MethodName) prog_18_method_22_code (1 : Nat) (Option.none : Option Jvm.ClassFile.FieldType)) ∈ lw_all := lw_g (lw_at lw_m4 239 rfl) rfl
theorem q1083 : (Jvm.Cond.methodLink "WebCourt$Reader" (210 : Nat) ({ cls := "WebCourt$Reader", name := "law", desc := "()V" } : Jvm.MethodName)) ∈ lw_all := lw_g (lw_at lw_m5 0 rfl) rfl
theorem q1084 : (Jvm.Cond.privateMethod ({ cls := "WebCourt$Reader", name := "law", desc := "()V" } : Jvm.MethodName)) ∈ lw_tbl := lw_at lw_m5 1 rfl
theorem q1085 : (Jvm.Cond.instanceMethod ({ cls := "WebCourt$Reader", name := "law", desc := "()V" } : Jvm.MethodName)) ∈ lw_all := lw_g (lw_at lw_m5 2 rfl) rfl
theorem q1086 : (Jvm.Cond.code ({ cls := "WebCourt$Reader", name := "law", desc := "()V" } : Jvm.MethodName) prog_18_method_23_code (1 : Nat) (Option.none : Option Jvm.ClassFile.FieldType)) ∈ lw_all := lw_g (lw_at lw_m5 3 rfl) rfl
theorem q1087 : (Jvm.Cond.methodLink "WebCourt$Reader" (248 : Nat) ({ cls := "WebCourt$Reader", name := "e", desc := "()LWebCourt$Node;" } : Jvm.MethodName)) ∈ lw_all := lw_g (lw_at lw_m5 4 rfl) rfl
theorem q1088 : (Jvm.Cond.privateMethod ({ cls := "WebCourt$Reader", name := "e", desc := "()LWebCourt$Node;" } : Jvm.MethodName)) ∈ lw_tbl := lw_at lw_m5 5 rfl
theorem q1089 : (Jvm.Cond.instanceMethod ({ cls := "WebCourt$Reader", name := "e", desc := "()LWebCourt$Node;" } : Jvm.MethodName)) ∈ lw_all := lw_g (lw_at lw_m5 6 rfl) rfl
theorem q1090 : (Jvm.Cond.code ({ cls := "WebCourt$Reader", name := "e", desc := "()LWebCourt$Node;" } : Jvm.MethodName) prog_18_method_26_code (1 : Nat) (Option.some (Jvm.ClassFile.FieldType.object "WebCourt$Node"))) ∈ lw_all := lw_g (lw_at lw_m5 7 rfl) rfl
theorem q1091 : (Jvm.Cond.methodLink "WebCourt$Reader" (263 : Nat) ({ cls := "WebCourt$Reader", name := "both", desc := "()LWebCourt$Node;" } : Jvm.MethodName)) ∈ lw_all := lw_g (lw_at lw_m5 8 rfl) rfl
theorem q1092 : (Jvm.Cond.privateMethod ({ cls := "WebCourt$Reader", name := "both", desc := "()LWebCourt$Node;" } : Jvm.MethodName)) ∈ lw_tbl := lw_at lw_m5 9 rfl
theorem q1093 : (Jvm.Cond.instanceMethod ({ cls := "WebCourt$Reader", name := "both", desc := "()LWebCourt$Node;" } : Jvm.MethodName)) ∈ lw_all := lw_g (lw_at lw_m5 10 rfl) rfl
theorem q1094 : (Jvm.Cond.code ({ cls := "WebCourt$Reader", name := "both", desc := "()LWebCourt$Node;" } : Jvm.MethodName) prog_18_method_27_code (2 : Nat) (Option.some (Jvm.ClassFile.FieldType.object "WebCourt$Node"))) ∈ lw_all := lw_g (lw_at lw_m5 11 rfl) rfl
theorem q1095 : (Jvm.Cond.methodLink "WebCourt$Reader" (266 : Nat) ({ cls := "WebCourt$Reader", name := "all", desc := "()LWebCourt$Node;" } : Jvm.MethodName)) ∈ lw_all := lw_g (lw_at lw_m5 12 rfl) rfl
theorem q1096 : (Jvm.Cond.privateMethod ({ cls := "WebCourt$Reader", name := "all", desc := "()LWebCourt$Node;" } : Jvm.MethodName)) ∈ lw_tbl := lw_at lw_m5 13 rfl
theorem q1097 : (Jvm.Cond.instanceMethod ({ cls := "WebCourt$Reader", name := "all", desc := "()LWebCourt$Node;" } : Jvm.MethodName)) ∈ lw_all := lw_g (lw_at lw_m5 14 rfl) rfl
theorem q1098 : (Jvm.Cond.code ({ cls := "WebCourt$Reader", name := "all", desc := "()LWebCourt$Node;" } : Jvm.MethodName) prog_18_method_28_code (2 : Nat) (Option.some (Jvm.ClassFile.FieldType.object "WebCourt$Node"))) ∈ lw_all := lw_g (lw_at lw_m5 15 rfl) rfl
theorem q1099 : (Jvm.Cond.methodLink "WebCourt$Reader" (274 : Nat) ({ cls := "WebCourt$Reader", name := "one", desc := "()LWebCourt$Node;" } : Jvm.MethodName)) ∈ lw_all := lw_g (lw_at lw_m5 16 rfl) rfl
theorem q1100 : (Jvm.Cond.privateMethod ({ cls := "WebCourt$Reader", name := "one", desc := "()LWebCourt$Node;" } : Jvm.MethodName)) ∈ lw_tbl := lw_at lw_m5 17 rfl
theorem q1101 : (Jvm.Cond.instanceMethod ({ cls := "WebCourt$Reader", name := "one", desc := "()LWebCourt$Node;" } : Jvm.MethodName)) ∈ lw_all := lw_g (lw_at lw_m5 18 rfl) rfl
theorem q1102 : (Jvm.Cond.code ({ cls := "WebCourt$Reader", name := "one", desc := "()LWebCourt$Node;" } : Jvm.MethodName) prog_18_method_29_code (3 : Nat) (Option.some (Jvm.ClassFile.FieldType.object "WebCourt$Node"))) ∈ lw_all := lw_g (lw_at lw_m5 19 rfl) rfl
theorem q1103 : (Jvm.Cond.classLink "WebCourt$Reader" (277 : Nat) "WebCourt$Not") ∈ lw_all := lw_g (lw_at lw_m5 20 rfl) rfl
theorem q1105 : (Jvm.Cond.methodLink "WebCourt$Reader" (279 : Nat) ({ cls := "WebCourt$Not", name := "<init>", desc := "(LWebCourt$Node;)V" } : Jvm.MethodName)) ∈ lw_all := lw_g (lw_at lw_m5 22 rfl) rfl
theorem q1113 : (Jvm.Cond.methodLink "WebCourt$Reader" (282 : Nat) ({ cls := "WebCourt$Reader", name := "sum", desc := "()LWebCourt$Node;" } : Jvm.MethodName)) ∈ lw_all := lw_g (lw_at lw_m5 30 rfl) rfl
theorem q1114 : (Jvm.Cond.privateMethod ({ cls := "WebCourt$Reader", name := "sum", desc := "()LWebCourt$Node;" } : Jvm.MethodName)) ∈ lw_tbl := lw_at lw_m5 31 rfl
theorem q1115 : (Jvm.Cond.instanceMethod ({ cls := "WebCourt$Reader", name := "sum", desc := "()LWebCourt$Node;" } : Jvm.MethodName)) ∈ lw_all := lw_g (lw_at lw_m5 32 rfl) rfl
theorem q1116 : (Jvm.Cond.code ({ cls := "WebCourt$Reader", name := "sum", desc := "()LWebCourt$Node;" } : Jvm.MethodName) prog_18_method_30_code (3 : Nat) (Option.some (Jvm.ClassFile.FieldType.object "WebCourt$Node"))) ∈ lw_all := lw_g (lw_at lw_m5 33 rfl) rfl
theorem q1117 : (Jvm.Cond.methodLink "WebCourt$Reader" (285 : Nat) ({ cls := "WebCourt$Reader", name := "term", desc := "()LWebCourt$Node;" } : Jvm.MethodName)) ∈ lw_all := lw_g (lw_at lw_m5 34 rfl) rfl
theorem q1118 : (Jvm.Cond.privateMethod ({ cls := "WebCourt$Reader", name := "term", desc := "()LWebCourt$Node;" } : Jvm.MethodName)) ∈ lw_tbl := lw_at lw_m5 35 rfl
theorem q1119 : (Jvm.Cond.instanceMethod ({ cls := "WebCourt$Reader", name := "term", desc := "()LWebCourt$Node;" } : Jvm.MethodName)) ∈ lw_all := lw_g (lw_at lw_m5 36 rfl) rfl
theorem q1120 : (Jvm.Cond.code ({ cls := "WebCourt$Reader", name := "term", desc := "()LWebCourt$Node;" } : Jvm.MethodName) prog_18_method_31_code (3 : Nat) (Option.some (Jvm.ClassFile.FieldType.object "WebCourt$Node"))) ∈ lw_all := lw_g (lw_at lw_m5 37 rfl) rfl
theorem q1121 : (Jvm.Cond.methodLink "WebCourt$Reader" (288 : Nat) ({ cls := "WebCourt$Reader", name := "unit", desc := "()LWebCourt$Node;" } : Jvm.MethodName)) ∈ lw_all := lw_g (lw_at lw_m5 38 rfl) rfl
theorem q1122 : (Jvm.Cond.privateMethod ({ cls := "WebCourt$Reader", name := "unit", desc := "()LWebCourt$Node;" } : Jvm.MethodName)) ∈ lw_tbl := lw_at lw_m5 39 rfl
theorem q1123 : (Jvm.Cond.instanceMethod ({ cls := "WebCourt$Reader", name := "unit", desc := "()LWebCourt$Node;" } : Jvm.MethodName)) ∈ lw_all := lw_g (lw_at lw_m5 40 rfl) rfl
theorem q1124 : (Jvm.Cond.code ({ cls := "WebCourt$Reader", name := "unit", desc := "()LWebCourt$Node;" } : Jvm.MethodName) prog_18_method_33_code (3 : Nat) (Option.some (Jvm.ClassFile.FieldType.object "WebCourt$Node"))) ∈ lw_all := lw_g (lw_at lw_m5 41 rfl) rfl
theorem q1125 : (Jvm.Cond.methodLink "WebCourt$Reader" (312 : Nat) ({ cls := "WebCourt$Reader", name := "asked", desc := "()LWebCourt$Node;" } : Jvm.MethodName)) ∈ lw_all := lw_g (lw_at lw_m5 42 rfl) rfl
theorem q1126 : (Jvm.Cond.privateMethod ({ cls := "WebCourt$Reader", name := "asked", desc := "()LWebCourt$Node;" } : Jvm.MethodName)) ∈ lw_tbl := lw_at lw_m5 43 rfl
theorem q1127 : (Jvm.Cond.instanceMethod ({ cls := "WebCourt$Reader", name := "asked", desc := "()LWebCourt$Node;" } : Jvm.MethodName)) ∈ lw_all := lw_g (lw_at lw_m5 44 rfl) rfl
theorem q1128 : (Jvm.Cond.code ({ cls := "WebCourt$Reader", name := "asked", desc := "()LWebCourt$Node;" } : Jvm.MethodName) prog_18_method_32_code (3 : Nat) (Option.some (Jvm.ClassFile.FieldType.object "WebCourt$Node"))) ∈ lw_all := lw_g (lw_at lw_m5 45 rfl) rfl
theorem q1129 : (Jvm.Cond.fieldLink "WebCourt$Reader" (291 : Nat) "WebCourt$Asked" "HOW_STRONG" "LWebCourt$Asked;") ∈ lw_all := lw_g (lw_at lw_m5 46 rfl) rfl
theorem q1131 : (Jvm.Cond.fieldLink "WebCourt$Reader" (297 : Nat) "WebCourt$Asked" "HOW_MANY" "LWebCourt$Asked;") ∈ lw_all := lw_g (lw_at lw_m5 48 rfl) rfl
theorem q1133 : (Jvm.Cond.fieldLink "WebCourt$Reader" (300 : Nat) "WebCourt$Asked" "HOW_OFTEN" "LWebCourt$Asked;") ∈ lw_all := lw_g (lw_at lw_m5 50 rfl) rfl
theorem q1135 : (Jvm.Cond.fieldLink "WebCourt$Reader" (303 : Nat) "WebCourt$Asked" "HOW_STAYED" "LWebCourt$Asked;") ∈ lw_all := lw_g (lw_at lw_m5 52 rfl) rfl
theorem q1137 : (Jvm.Cond.fieldLink "WebCourt$Reader" (306 : Nat) "WebCourt$Asked" "WHO_ELSE" "LWebCourt$Asked;") ∈ lw_all := lw_g (lw_at lw_m5 54 rfl) rfl
theorem q1139 : (Jvm.Cond.fieldLink "WebCourt$Reader" (309 : Nat) "WebCourt$Asked" "AN_HOUR" "LWebCourt$Asked;") ∈ lw_all := lw_g (lw_at lw_m5 56 rfl) rfl
theorem q1141 : (Jvm.Cond.classLink "WebCourt$Reader" (318 : Nat) "WebCourt$Value") ∈ lw_all := lw_g (lw_at lw_m5 58 rfl) rfl
theorem q1143 : (Jvm.Cond.methodLink "WebCourt$Reader" (320 : Nat) ({ cls := "WebCourt$Value", name := "<init>", desc := "(I)V" } : Jvm.MethodName)) ∈ lw_all := lw_g (lw_at lw_m5 60 rfl) rfl
theorem q1151 : (Jvm.Cond.classLink "WebCourt$Reader" (269 : Nat) "WebCourt$Pair") ∈ lw_all := lw_g (lw_at lw_m5 68 rfl) rfl
theorem q1153 : (Jvm.Cond.methodLink "WebCourt$Reader" (271 : Nat) ({ cls := "WebCourt$Pair", name := "<init>", desc := "(LWebCourt$Node;LWebCourt$Node;C)V" } : Jvm.MethodName)) ∈ lw_all := lw_g (lw_at lw_m5 70 rfl) rfl
theorem q1167 : (Jvm.Cond.methodLink "WebCourt$Reader" (215 : Nat) ({ cls := "WebCourt$Reader", name := "back", desc := "()V" } : Jvm.MethodName)) ∈ lw_all := lw_g (lw_at lw_m5 84 rfl) rfl
theorem q1168 : (Jvm.Cond.privateMethod ({ cls := "WebCourt$Reader", name := "back", desc := "()V" } : Jvm.MethodName)) ∈ lw_tbl := lw_at lw_m5 85 rfl
theorem q1169 : (Jvm.Cond.instanceMethod ({ cls := "WebCourt$Reader", name := "back", desc := "()V" } : Jvm.MethodName)) ∈ lw_all := lw_g (lw_at lw_m5 86 rfl) rfl
theorem q1170 : (Jvm.Cond.code ({ cls := "WebCourt$Reader", name := "back", desc := "()V" } : Jvm.MethodName) prog_18_method_24_code (1 : Nat) (Option.none : Option Jvm.ClassFile.FieldType)) ∈ lw_all := lw_g (lw_at lw_m5 87 rfl) rfl
theorem q1171 : (Jvm.Cond.methodLink "WebCourt$Reader" (220 : Nat) ({ cls := "WebCourt$Reader", name := "draw", desc := "()V" } : Jvm.MethodName)) ∈ lw_all := lw_g (lw_at lw_m5 88 rfl) rfl
theorem q1172 : (Jvm.Cond.privateMethod ({ cls := "WebCourt$Reader", name := "draw", desc := "()V" } : Jvm.MethodName)) ∈ lw_tbl := lw_at lw_m5 89 rfl
theorem q1173 : (Jvm.Cond.instanceMethod ({ cls := "WebCourt$Reader", name := "draw", desc := "()V" } : Jvm.MethodName)) ∈ lw_all := lw_g (lw_at lw_m5 90 rfl) rfl
theorem q1174 : (Jvm.Cond.code ({ cls := "WebCourt$Reader", name := "draw", desc := "()V" } : Jvm.MethodName) prog_18_method_25_code (1 : Nat) (Option.none : Option Jvm.ClassFile.FieldType)) ∈ lw_all := lw_g (lw_at lw_m5 91 rfl) rfl
theorem q2344 : (Jvm.Cond.castable "WebCourt$Reader" "java/lang/Object") ∈ lw_tbl := lw_at lw_m10 61 rfl
theorem in_X5 : ∀ w ∈ wsX50, w ∈ lw_all := lw_in wsX50 [475, 477, 479, 481, 483, 485, 487, 489, 491, 493, 495, 497] (by decide +kernel) (by decide +kernel)
