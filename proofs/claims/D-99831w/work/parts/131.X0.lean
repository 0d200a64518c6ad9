/-! WebCourt -/
set_option maxRecDepth 100000
def RX0 : String := "WebCourt"
def TX0 : u_T := fun k => match k with
  | 0 => ("WebCourt", "tape", "[B", true)
  | 1 => ("WebCourt", "taped", "I", false)
  | 2 => ("WebCourt", "faultKind", "I", false)
  | 3 => ("WebCourt", "faultPlace", "I", false)
  | 4 => ("WebCourt", "book", "LWebCourt$Book;", false)
  | 5 => ("WebCourt", "now", "LWebCourt$Court;", true)
  | 6 => ("WebCourt", "spare", "LWebCourt$Court;", true)
  | 7 => ("WebCourt", "tried", "LWebCourt$Court;", true)
  | 8 => ("WebCourt", "time", "I", false)
  | 9 => ("WebCourt", "were", "[LWebCourt$Court;", true)
  | 10 => ("WebCourt", "acts", "I", false)
  | 11 => ("WebCourt", "undone", "I", false)
  | 12 => ("WebCourt", "ones", "[[I", true)
  | 13 => ("WebCourt", "others", "[[I", true)
  | 14 => ("WebCourt", "lies", "[I", true)
  | 15 => ("WebCourt", "row", "[I", true)
  | 16 => ("WebCourt", "lain", "I", false)
  | 17 => ("WebCourt", "far", "[[I", true)
  | 18 => ("WebCourt", "least", "I", false)
  | 19 => ("WebCourt", "most", "I", false)
  | 20 => ("WebCourt", "cries", "Ljava/util/ArrayList;", true)
  | 21 => ("WebCourt", "verdicts", "[[I", true)
  | 22 => ("WebCourt", "isFit", "[Z", true)
  | 23 => ("WebCourt", "boxes", "[LWebCourt$Court;", true)
  | _ => ("WebCourt", "isThere", "[Z", true)
def tyX0 : Nat → FieldType := fun k => match k with
  | 0 => .array .byte
  | 1 => .int
  | 2 => .int
  | 3 => .int
  | 4 => .object "WebCourt$Book"
  | 5 => .object "WebCourt$Court"
  | 6 => .object "WebCourt$Court"
  | 7 => .object "WebCourt$Court"
  | 8 => .int
  | 9 => .array (.object "WebCourt$Court")
  | 10 => .int
  | 11 => .int
  | 12 => .array (.array .int)
  | 13 => .array (.array .int)
  | 14 => .array .int
  | 15 => .array .int
  | 16 => .int
  | 17 => .array (.array .int)
  | 18 => .int
  | 19 => .int
  | 20 => .object "java/util/ArrayList"
  | 21 => .array (.array .int)
  | 22 => .array .boolean
  | 23 => .array (.object "WebCourt$Court")
  | _ => .array .boolean
abbrev wsX00 : List Cond := u_ws RX0 TX0 25
set_option maxRecDepth 100000 in
theorem nmX0 : ∀ a, a < 25 → ∀ b, b < 25 → a ≠ b → (TX0 a).2.1 ≠ (TX0 b).2.1 := by decide +kernel
set_option maxRecDepth 100000 in
theorem tyX0_ok : ∀ k, k < 25 → parseFieldDescriptor (TX0 k).2.2.1 = some (tyX0 k) := by decide +kernel
abbrev cX0_init : ByteArray := prog_1_method_3_code
def yX0_init : MethodName := ⟨RX0, "<init>", "()V"⟩
def dkwX0_init_9 : List UInt8 := [162, 0, 22, 42, 180, 0, 99, 27, 187, 0, 46, 89, 183, 0, 48, 83, 132, 1, 1, 167, 255, 235, 177]
abbrev dktX0_init_9 : List UInt8 := dkwX0_init_9 ++ []
def dkwX0_init_8 : List UInt8 := [180, 0, 63, 27, 187, 0, 46, 89, 183, 0, 48, 83, 132, 1, 1, 167, 255, 234, 3, 60, 27, 6]
abbrev dktX0_init_8 : List UInt8 := dkwX0_init_8 ++ dktX0_init_9
def dkwX0_init_7 : List UInt8 := [6, 189, 0, 46, 181, 0, 99, 42, 6, 188, 4, 181, 0, 102, 3, 60, 27, 16, 40, 162, 0, 22, 42]
abbrev dktX0_init_7 : List UInt8 := dkwX0_init_7 ++ dktX0_init_8
def dkwX0_init_6 : List UInt8 := [181, 0, 88, 42, 16, 31, 16, 6, 197, 0, 67, 2, 181, 0, 92, 42, 16, 31, 188, 4, 181, 0, 95, 42]
abbrev dktX0_init_6 : List UInt8 := dkwX0_init_6 ++ dktX0_init_7
def dkwX0_init_5 : List UInt8 := [181, 0, 79, 42, 16, 8, 16, 8, 197, 0, 67, 2, 181, 0, 82, 42, 187, 0, 4, 89, 5, 183, 0, 85]
abbrev dktX0_init_5 : List UInt8 := dkwX0_init_5 ++ dktX0_init_6
def dkwX0_init_4 : List UInt8 := [16, 8, 197, 0, 67, 2, 181, 0, 72, 42, 16, 8, 188, 10, 181, 0, 75, 42, 16, 6, 188, 10]
abbrev dktX0_init_4 : List UInt8 := dkwX0_init_4 ++ dktX0_init_5
def dkwX0_init_3 : List UInt8 := [16, 40, 189, 0, 46, 181, 0, 63, 42, 16, 8, 16, 8, 197, 0, 67, 2, 181, 0, 69, 42, 16, 8]
abbrev dktX0_init_3 : List UInt8 := dkwX0_init_3 ++ dktX0_init_4
def dkwX0_init_2 : List UInt8 := [42, 187, 0, 46, 89, 183, 0, 48, 181, 0, 57, 42, 187, 0, 46, 89, 183, 0, 48, 181, 0, 60, 42]
abbrev dktX0_init_2 : List UInt8 := dkwX0_init_2 ++ dktX0_init_3
def dkwX0_init_1 : List UInt8 := [183, 0, 41, 181, 0, 42, 42, 187, 0, 46, 89, 183, 0, 48, 42, 180, 0, 42, 182, 0, 49, 181, 0, 53]
abbrev dktX0_init_1 : List UInt8 := dkwX0_init_1 ++ dktX0_init_2
def dkwX0_init_0 : List UInt8 := [42, 183, 0, 25, 42, 17, 6, 64, 188, 8, 181, 0, 31, 42, 2, 181, 0, 35, 42, 187, 0, 39, 89]
abbrev dktX0_init_0 : List UInt8 := dkwX0_init_0 ++ dktX0_init_1
theorem dksX0_init_0 : cX0_init.data.toList.drop 0 = dktX0_init_0 := by decide +kernel
theorem dksX0_init_1 : cX0_init.data.toList.drop 23 = dktX0_init_1 := dk_seg dksX0_init_0 23 rfl rfl
theorem dksX0_init_2 : cX0_init.data.toList.drop 47 = dktX0_init_2 := dk_seg dksX0_init_1 24 rfl rfl
theorem dksX0_init_3 : cX0_init.data.toList.drop 70 = dktX0_init_3 := dk_seg dksX0_init_2 23 rfl rfl
theorem dksX0_init_4 : cX0_init.data.toList.drop 93 = dktX0_init_4 := dk_seg dksX0_init_3 23 rfl rfl
theorem dksX0_init_5 : cX0_init.data.toList.drop 115 = dktX0_init_5 := dk_seg dksX0_init_4 22 rfl rfl
theorem dksX0_init_6 : cX0_init.data.toList.drop 139 = dktX0_init_6 := dk_seg dksX0_init_5 24 rfl rfl
theorem dksX0_init_7 : cX0_init.data.toList.drop 163 = dktX0_init_7 := dk_seg dksX0_init_6 24 rfl rfl
theorem dksX0_init_8 : cX0_init.data.toList.drop 186 = dktX0_init_8 := dk_seg dksX0_init_7 23 rfl rfl
theorem dksX0_init_9 : cX0_init.data.toList.drop 208 = dktX0_init_9 := dk_seg dksX0_init_8 22 rfl rfl
theorem dX0_init_0 : decode cX0_init 0 = .ok (.aload_n 0, 1) := dk_42 (dk_at dksX0_init_0 0 rfl rfl)
theorem dX0_init_1 : decode cX0_init 1 = .ok (.invokespecial 25, 3) := dk_183 0 25 (dk_at dksX0_init_0 1 rfl rfl)
theorem dX0_init_4 : decode cX0_init 4 = .ok (.aload_n 0, 1) := dk_42 (dk_at dksX0_init_0 4 rfl rfl)
theorem dX0_init_5 : decode cX0_init 5 = .ok (.sipush 1600, 3) := dk_17 6 64 (dk_at dksX0_init_0 5 rfl rfl)
theorem dX0_init_8 : decode cX0_init 8 = .ok (.newarray .byte, 2) := dk_188_8 (dk_at dksX0_init_0 8 rfl rfl)
theorem dX0_init_10 : decode cX0_init 10 = .ok (.putfield 31, 3) := dk_181 0 31 (dk_at dksX0_init_0 10 rfl rfl)
theorem dX0_init_13 : decode cX0_init 13 = .ok (.aload_n 0, 1) := dk_42 (dk_at dksX0_init_0 13 rfl rfl)
theorem dX0_init_14 : decode cX0_init 14 = .ok (.iconst (-1), 1) := dk_2 (dk_at dksX0_init_0 14 rfl rfl)
theorem dX0_init_15 : decode cX0_init 15 = .ok (.putfield 35, 3) := dk_181 0 35 (dk_at dksX0_init_0 15 rfl rfl)
theorem dX0_init_18 : decode cX0_init 18 = .ok (.aload_n 0, 1) := dk_42 (dk_at dksX0_init_0 18 rfl rfl)
theorem dX0_init_19 : decode cX0_init 19 = .ok (.new 39, 3) := dk_187 0 39 (dk_at dksX0_init_0 19 rfl rfl)
theorem dX0_init_22 : decode cX0_init 22 = .ok (.dup, 1) := dk_89 (dk_at dksX0_init_0 22 rfl rfl)
theorem dX0_init_23 : decode cX0_init 23 = .ok (.invokespecial 41, 3) := dk_183 0 41 (dk_at dksX0_init_1 0 rfl rfl)
theorem dX0_init_26 : decode cX0_init 26 = .ok (.putfield 42, 3) := dk_181 0 42 (dk_at dksX0_init_1 3 rfl rfl)
theorem dX0_init_29 : decode cX0_init 29 = .ok (.aload_n 0, 1) := dk_42 (dk_at dksX0_init_1 6 rfl rfl)
theorem dX0_init_30 : decode cX0_init 30 = .ok (.new 46, 3) := dk_187 0 46 (dk_at dksX0_init_1 7 rfl rfl)
theorem dX0_init_33 : decode cX0_init 33 = .ok (.dup, 1) := dk_89 (dk_at dksX0_init_1 10 rfl rfl)
theorem dX0_init_34 : decode cX0_init 34 = .ok (.invokespecial 48, 3) := dk_183 0 48 (dk_at dksX0_init_1 11 rfl rfl)
theorem dX0_init_37 : decode cX0_init 37 = .ok (.aload_n 0, 1) := dk_42 (dk_at dksX0_init_1 14 rfl rfl)
theorem dX0_init_38 : decode cX0_init 38 = .ok (.getfield 42, 3) := dk_180 0 42 (dk_at dksX0_init_1 15 rfl rfl)
theorem dX0_init_41 : decode cX0_init 41 = .ok (.invokevirtual 49, 3) := dk_182 0 49 (dk_at dksX0_init_1 18 rfl rfl)
theorem dX0_init_44 : decode cX0_init 44 = .ok (.putfield 53, 3) := dk_181 0 53 (dk_at dksX0_init_1 21 rfl rfl)
theorem dX0_init_47 : decode cX0_init 47 = .ok (.aload_n 0, 1) := dk_42 (dk_at dksX0_init_2 0 rfl rfl)
theorem dX0_init_48 : decode cX0_init 48 = .ok (.new 46, 3) := dk_187 0 46 (dk_at dksX0_init_2 1 rfl rfl)
theorem dX0_init_51 : decode cX0_init 51 = .ok (.dup, 1) := dk_89 (dk_at dksX0_init_2 4 rfl rfl)
theorem dX0_init_52 : decode cX0_init 52 = .ok (.invokespecial 48, 3) := dk_183 0 48 (dk_at dksX0_init_2 5 rfl rfl)
theorem dX0_init_55 : decode cX0_init 55 = .ok (.putfield 57, 3) := dk_181 0 57 (dk_at dksX0_init_2 8 rfl rfl)
theorem dX0_init_58 : decode cX0_init 58 = .ok (.aload_n 0, 1) := dk_42 (dk_at dksX0_init_2 11 rfl rfl)
theorem dX0_init_59 : decode cX0_init 59 = .ok (.new 46, 3) := dk_187 0 46 (dk_at dksX0_init_2 12 rfl rfl)
theorem dX0_init_62 : decode cX0_init 62 = .ok (.dup, 1) := dk_89 (dk_at dksX0_init_2 15 rfl rfl)
theorem dX0_init_63 : decode cX0_init 63 = .ok (.invokespecial 48, 3) := dk_183 0 48 (dk_at dksX0_init_2 16 rfl rfl)
theorem dX0_init_66 : decode cX0_init 66 = .ok (.putfield 60, 3) := dk_181 0 60 (dk_at dksX0_init_2 19 rfl rfl)
theorem dX0_init_69 : decode cX0_init 69 = .ok (.aload_n 0, 1) := dk_42 (dk_at dksX0_init_2 22 rfl rfl)
theorem dX0_init_70 : decode cX0_init 70 = .ok (.bipush 40, 2) := dk_16 40 (dk_at dksX0_init_3 0 rfl rfl)
theorem dX0_init_72 : decode cX0_init 72 = .ok (.anewarray 46, 3) := dk_189 0 46 (dk_at dksX0_init_3 2 rfl rfl)
theorem dX0_init_75 : decode cX0_init 75 = .ok (.putfield 63, 3) := dk_181 0 63 (dk_at dksX0_init_3 5 rfl rfl)
theorem dX0_init_78 : decode cX0_init 78 = .ok (.aload_n 0, 1) := dk_42 (dk_at dksX0_init_3 8 rfl rfl)
theorem dX0_init_79 : decode cX0_init 79 = .ok (.bipush 8, 2) := dk_16 8 (dk_at dksX0_init_3 9 rfl rfl)
theorem dX0_init_81 : decode cX0_init 81 = .ok (.bipush 8, 2) := dk_16 8 (dk_at dksX0_init_3 11 rfl rfl)
theorem dX0_init_83 : decode cX0_init 83 = .ok (.multianewarray 67 2, 4) := by decide +kernel
theorem dX0_init_87 : decode cX0_init 87 = .ok (.putfield 69, 3) := dk_181 0 69 (dk_at dksX0_init_3 17 rfl rfl)
theorem dX0_init_90 : decode cX0_init 90 = .ok (.aload_n 0, 1) := dk_42 (dk_at dksX0_init_3 20 rfl rfl)
theorem dX0_init_91 : decode cX0_init 91 = .ok (.bipush 8, 2) := dk_16 8 (dk_at dksX0_init_3 21 rfl rfl)
theorem dX0_init_93 : decode cX0_init 93 = .ok (.bipush 8, 2) := dk_16 8 (dk_at dksX0_init_4 0 rfl rfl)
theorem dX0_init_95 : decode cX0_init 95 = .ok (.multianewarray 67 2, 4) := by decide +kernel
theorem dX0_init_99 : decode cX0_init 99 = .ok (.putfield 72, 3) := dk_181 0 72 (dk_at dksX0_init_4 6 rfl rfl)
theorem dX0_init_102 : decode cX0_init 102 = .ok (.aload_n 0, 1) := dk_42 (dk_at dksX0_init_4 9 rfl rfl)
theorem dX0_init_103 : decode cX0_init 103 = .ok (.bipush 8, 2) := dk_16 8 (dk_at dksX0_init_4 10 rfl rfl)
theorem dX0_init_105 : decode cX0_init 105 = .ok (.newarray .int, 2) := dk_188_10 (dk_at dksX0_init_4 12 rfl rfl)
theorem dX0_init_107 : decode cX0_init 107 = .ok (.putfield 75, 3) := dk_181 0 75 (dk_at dksX0_init_4 14 rfl rfl)
theorem dX0_init_110 : decode cX0_init 110 = .ok (.aload_n 0, 1) := dk_42 (dk_at dksX0_init_4 17 rfl rfl)
theorem dX0_init_111 : decode cX0_init 111 = .ok (.bipush 6, 2) := dk_16 6 (dk_at dksX0_init_4 18 rfl rfl)
theorem dX0_init_113 : decode cX0_init 113 = .ok (.newarray .int, 2) := dk_188_10 (dk_at dksX0_init_4 20 rfl rfl)
theorem dX0_init_115 : decode cX0_init 115 = .ok (.putfield 79, 3) := dk_181 0 79 (dk_at dksX0_init_5 0 rfl rfl)
theorem dX0_init_118 : decode cX0_init 118 = .ok (.aload_n 0, 1) := dk_42 (dk_at dksX0_init_5 3 rfl rfl)
theorem dX0_init_119 : decode cX0_init 119 = .ok (.bipush 8, 2) := dk_16 8 (dk_at dksX0_init_5 4 rfl rfl)
theorem dX0_init_121 : decode cX0_init 121 = .ok (.bipush 8, 2) := dk_16 8 (dk_at dksX0_init_5 6 rfl rfl)
theorem dX0_init_123 : decode cX0_init 123 = .ok (.multianewarray 67 2, 4) := by decide +kernel
theorem dX0_init_127 : decode cX0_init 127 = .ok (.putfield 82, 3) := dk_181 0 82 (dk_at dksX0_init_5 12 rfl rfl)
theorem dX0_init_130 : decode cX0_init 130 = .ok (.aload_n 0, 1) := dk_42 (dk_at dksX0_init_5 15 rfl rfl)
theorem dX0_init_131 : decode cX0_init 131 = .ok (.new 4, 3) := dk_187 0 4 (dk_at dksX0_init_5 16 rfl rfl)
theorem dX0_init_134 : decode cX0_init 134 = .ok (.dup, 1) := dk_89 (dk_at dksX0_init_5 19 rfl rfl)
theorem dX0_init_135 : decode cX0_init 135 = .ok (.iconst 2, 1) := dk_5 (dk_at dksX0_init_5 20 rfl rfl)
theorem dX0_init_136 : decode cX0_init 136 = .ok (.invokespecial 85, 3) := dk_183 0 85 (dk_at dksX0_init_5 21 rfl rfl)
theorem dX0_init_139 : decode cX0_init 139 = .ok (.putfield 88, 3) := dk_181 0 88 (dk_at dksX0_init_6 0 rfl rfl)
theorem dX0_init_142 : decode cX0_init 142 = .ok (.aload_n 0, 1) := dk_42 (dk_at dksX0_init_6 3 rfl rfl)
theorem dX0_init_143 : decode cX0_init 143 = .ok (.bipush 31, 2) := dk_16 31 (dk_at dksX0_init_6 4 rfl rfl)
theorem dX0_init_145 : decode cX0_init 145 = .ok (.bipush 6, 2) := dk_16 6 (dk_at dksX0_init_6 6 rfl rfl)
theorem dX0_init_147 : decode cX0_init 147 = .ok (.multianewarray 67 2, 4) := by decide +kernel
theorem dX0_init_151 : decode cX0_init 151 = .ok (.putfield 92, 3) := dk_181 0 92 (dk_at dksX0_init_6 12 rfl rfl)
theorem dX0_init_154 : decode cX0_init 154 = .ok (.aload_n 0, 1) := dk_42 (dk_at dksX0_init_6 15 rfl rfl)
theorem dX0_init_155 : decode cX0_init 155 = .ok (.bipush 31, 2) := dk_16 31 (dk_at dksX0_init_6 16 rfl rfl)
theorem dX0_init_157 : decode cX0_init 157 = .ok (.newarray .boolean, 2) := dk_188_4 (dk_at dksX0_init_6 18 rfl rfl)
theorem dX0_init_159 : decode cX0_init 159 = .ok (.putfield 95, 3) := dk_181 0 95 (dk_at dksX0_init_6 20 rfl rfl)
theorem dX0_init_162 : decode cX0_init 162 = .ok (.aload_n 0, 1) := dk_42 (dk_at dksX0_init_6 23 rfl rfl)
theorem dX0_init_163 : decode cX0_init 163 = .ok (.iconst 3, 1) := dk_6 (dk_at dksX0_init_7 0 rfl rfl)
theorem dX0_init_164 : decode cX0_init 164 = .ok (.anewarray 46, 3) := dk_189 0 46 (dk_at dksX0_init_7 1 rfl rfl)
theorem dX0_init_167 : decode cX0_init 167 = .ok (.putfield 99, 3) := dk_181 0 99 (dk_at dksX0_init_7 4 rfl rfl)
theorem dX0_init_170 : decode cX0_init 170 = .ok (.aload_n 0, 1) := dk_42 (dk_at dksX0_init_7 7 rfl rfl)
theorem dX0_init_171 : decode cX0_init 171 = .ok (.iconst 3, 1) := dk_6 (dk_at dksX0_init_7 8 rfl rfl)
theorem dX0_init_172 : decode cX0_init 172 = .ok (.newarray .boolean, 2) := dk_188_4 (dk_at dksX0_init_7 9 rfl rfl)
theorem dX0_init_174 : decode cX0_init 174 = .ok (.putfield 102, 3) := dk_181 0 102 (dk_at dksX0_init_7 11 rfl rfl)
theorem dX0_init_177 : decode cX0_init 177 = .ok (.iconst 0, 1) := dk_3 (dk_at dksX0_init_7 14 rfl rfl)
theorem dX0_init_178 : decode cX0_init 178 = .ok (.istore_n 1, 1) := dk_60 (dk_at dksX0_init_7 15 rfl rfl)
theorem dX0_init_179 : decode cX0_init 179 = .ok (.iload_n 1, 1) := dk_27 (dk_at dksX0_init_7 16 rfl rfl)
theorem dX0_init_180 : decode cX0_init 180 = .ok (.bipush 40, 2) := dk_16 40 (dk_at dksX0_init_7 17 rfl rfl)
theorem dX0_init_182 : decode cX0_init 182 = .ok (.if_icmp .ge 22, 3) := dk_162 0 22 (dk_at dksX0_init_7 19 rfl rfl)
theorem dX0_init_185 : decode cX0_init 185 = .ok (.aload_n 0, 1) := dk_42 (dk_at dksX0_init_7 22 rfl rfl)
theorem dX0_init_186 : decode cX0_init 186 = .ok (.getfield 63, 3) := dk_180 0 63 (dk_at dksX0_init_8 0 rfl rfl)
theorem dX0_init_189 : decode cX0_init 189 = .ok (.iload_n 1, 1) := dk_27 (dk_at dksX0_init_8 3 rfl rfl)
theorem dX0_init_190 : decode cX0_init 190 = .ok (.new 46, 3) := dk_187 0 46 (dk_at dksX0_init_8 4 rfl rfl)
theorem dX0_init_193 : decode cX0_init 193 = .ok (.dup, 1) := dk_89 (dk_at dksX0_init_8 7 rfl rfl)
theorem dX0_init_194 : decode cX0_init 194 = .ok (.invokespecial 48, 3) := dk_183 0 48 (dk_at dksX0_init_8 8 rfl rfl)
theorem dX0_init_197 : decode cX0_init 197 = .ok (.aastore, 1) := dk_83 (dk_at dksX0_init_8 11 rfl rfl)
theorem dX0_init_198 : decode cX0_init 198 = .ok (.iinc 1 1, 3) := dk_132 1 1 (dk_at dksX0_init_8 12 rfl rfl)
theorem dX0_init_201 : decode cX0_init 201 = .ok (.goto (-22), 3) := dk_167 255 234 (dk_at dksX0_init_8 15 rfl rfl)
theorem dX0_init_204 : decode cX0_init 204 = .ok (.iconst 0, 1) := dk_3 (dk_at dksX0_init_8 18 rfl rfl)
theorem dX0_init_205 : decode cX0_init 205 = .ok (.istore_n 1, 1) := dk_60 (dk_at dksX0_init_8 19 rfl rfl)
theorem dX0_init_206 : decode cX0_init 206 = .ok (.iload_n 1, 1) := dk_27 (dk_at dksX0_init_8 20 rfl rfl)
theorem dX0_init_207 : decode cX0_init 207 = .ok (.iconst 3, 1) := dk_6 (dk_at dksX0_init_8 21 rfl rfl)
theorem dX0_init_208 : decode cX0_init 208 = .ok (.if_icmp .ge 22, 3) := dk_162 0 22 (dk_at dksX0_init_9 0 rfl rfl)
theorem dX0_init_211 : decode cX0_init 211 = .ok (.aload_n 0, 1) := dk_42 (dk_at dksX0_init_9 3 rfl rfl)
theorem dX0_init_212 : decode cX0_init 212 = .ok (.getfield 99, 3) := dk_180 0 99 (dk_at dksX0_init_9 4 rfl rfl)
theorem dX0_init_215 : decode cX0_init 215 = .ok (.iload_n 1, 1) := dk_27 (dk_at dksX0_init_9 7 rfl rfl)
theorem dX0_init_216 : decode cX0_init 216 = .ok (.new 46, 3) := dk_187 0 46 (dk_at dksX0_init_9 8 rfl rfl)
theorem dX0_init_219 : decode cX0_init 219 = .ok (.dup, 1) := dk_89 (dk_at dksX0_init_9 11 rfl rfl)
theorem dX0_init_220 : decode cX0_init 220 = .ok (.invokespecial 48, 3) := dk_183 0 48 (dk_at dksX0_init_9 12 rfl rfl)
theorem dX0_init_223 : decode cX0_init 223 = .ok (.aastore, 1) := dk_83 (dk_at dksX0_init_9 15 rfl rfl)
theorem dX0_init_224 : decode cX0_init 224 = .ok (.iinc 1 1, 3) := dk_132 1 1 (dk_at dksX0_init_9 16 rfl rfl)
theorem dX0_init_227 : decode cX0_init 227 = .ok (.goto (-21), 3) := dk_167 255 235 (dk_at dksX0_init_9 19 rfl rfl)
theorem dX0_init_230 : decode cX0_init 230 = .ok (.return_, 1) := dk_177 (dk_at dksX0_init_9 22 rfl rfl)
abbrev cX0_feed : ByteArray := prog_1_method_4_code
def yX0_feed : MethodName := ⟨RX0, "feed", "(IIIII)I"⟩
def dkwX0_feed_5 : List UInt8 := [172]
abbrev dktX0_feed_5 : List UInt8 := dkwX0_feed_5 ++ []
def dkwX0_feed_4 : List UInt8 := [180, 0, 105, 4, 96, 181, 0, 105, 132, 11, 248, 167, 255, 223, 132, 9, 1, 167, 255, 199, 42, 180, 0, 105]
abbrev dktX0_feed_4 : List UInt8 := dkwX0_feed_4 ++ dktX0_feed_5
def dkwX0_feed_3 : List UInt8 := [21, 11, 155, 0, 34, 42, 180, 0, 31, 42, 180, 0, 105, 21, 10, 21, 11, 122, 145, 84, 42, 89]
abbrev dktX0_feed_3 : List UInt8 := dkwX0_feed_3 ++ dktX0_feed_4
def dkwX0_feed_2 : List UInt8 := [190, 54, 8, 3, 54, 9, 21, 9, 21, 8, 162, 0, 56, 25, 7, 21, 9, 46, 54, 10, 16, 24, 54, 11]
abbrev dktX0_feed_2 : List UInt8 := dkwX0_feed_2 ++ dktX0_feed_3
def dkwX0_feed_1 : List UInt8 := [28, 79, 89, 5, 29, 79, 89, 6, 21, 4, 79, 89, 7, 21, 5, 79, 58, 6, 25, 6, 58, 7, 25, 7]
abbrev dktX0_feed_1 : List UInt8 := dkwX0_feed_1 ++ dktX0_feed_2
def dkwX0_feed_0 : List UInt8 := [42, 180, 0, 105, 16, 20, 96, 17, 6, 64, 164, 0, 5, 2, 172, 8, 188, 10, 89, 3, 27, 79, 89, 4]
abbrev dktX0_feed_0 : List UInt8 := dkwX0_feed_0 ++ dktX0_feed_1
theorem dksX0_feed_0 : cX0_feed.data.toList.drop 0 = dktX0_feed_0 := by decide +kernel
theorem dksX0_feed_1 : cX0_feed.data.toList.drop 24 = dktX0_feed_1 := dk_seg dksX0_feed_0 24 rfl rfl
theorem dksX0_feed_2 : cX0_feed.data.toList.drop 48 = dktX0_feed_2 := dk_seg dksX0_feed_1 24 rfl rfl
theorem dksX0_feed_3 : cX0_feed.data.toList.drop 72 = dktX0_feed_3 := dk_seg dksX0_feed_2 24 rfl rfl
theorem dksX0_feed_4 : cX0_feed.data.toList.drop 94 = dktX0_feed_4 := dk_seg dksX0_feed_3 22 rfl rfl
theorem dksX0_feed_5 : cX0_feed.data.toList.drop 118 = dktX0_feed_5 := dk_seg dksX0_feed_4 24 rfl rfl
theorem dX0_feed_0 : decode cX0_feed 0 = .ok (.aload_n 0, 1) := dk_42 (dk_at dksX0_feed_0 0 rfl rfl)
theorem dX0_feed_1 : decode cX0_feed 1 = .ok (.getfield 105, 3) := dk_180 0 105 (dk_at dksX0_feed_0 1 rfl rfl)
theorem dX0_feed_4 : decode cX0_feed 4 = .ok (.bipush 20, 2) := dk_16 20 (dk_at dksX0_feed_0 4 rfl rfl)
theorem dX0_feed_6 : decode cX0_feed 6 = .ok (.iadd, 1) := dk_96 (dk_at dksX0_feed_0 6 rfl rfl)
theorem dX0_feed_7 : decode cX0_feed 7 = .ok (.sipush 1600, 3) := dk_17 6 64 (dk_at dksX0_feed_0 7 rfl rfl)
theorem dX0_feed_10 : decode cX0_feed 10 = .ok (.if_icmp .le 5, 3) := dk_164 0 5 (dk_at dksX0_feed_0 10 rfl rfl)
theorem dX0_feed_13 : decode cX0_feed 13 = .ok (.iconst (-1), 1) := dk_2 (dk_at dksX0_feed_0 13 rfl rfl)
theorem dX0_feed_14 : decode cX0_feed 14 = .ok (.ireturn, 1) := dk_172 (dk_at dksX0_feed_0 14 rfl rfl)
theorem dX0_feed_15 : decode cX0_feed 15 = .ok (.iconst 5, 1) := dk_8 (dk_at dksX0_feed_0 15 rfl rfl)
theorem dX0_feed_16 : decode cX0_feed 16 = .ok (.newarray .int, 2) := dk_188_10 (dk_at dksX0_feed_0 16 rfl rfl)
theorem dX0_feed_18 : decode cX0_feed 18 = .ok (.dup, 1) := dk_89 (dk_at dksX0_feed_0 18 rfl rfl)
theorem dX0_feed_19 : decode cX0_feed 19 = .ok (.iconst 0, 1) := dk_3 (dk_at dksX0_feed_0 19 rfl rfl)
theorem dX0_feed_20 : decode cX0_feed 20 = .ok (.iload_n 1, 1) := dk_27 (dk_at dksX0_feed_0 20 rfl rfl)
theorem dX0_feed_21 : decode cX0_feed 21 = .ok (.iastore, 1) := dk_79 (dk_at dksX0_feed_0 21 rfl rfl)
theorem dX0_feed_22 : decode cX0_feed 22 = .ok (.dup, 1) := dk_89 (dk_at dksX0_feed_0 22 rfl rfl)
theorem dX0_feed_23 : decode cX0_feed 23 = .ok (.iconst 1, 1) := dk_4 (dk_at dksX0_feed_0 23 rfl rfl)
theorem dX0_feed_24 : decode cX0_feed 24 = .ok (.iload_n 2, 1) := dk_28 (dk_at dksX0_feed_1 0 rfl rfl)
theorem dX0_feed_25 : decode cX0_feed 25 = .ok (.iastore, 1) := dk_79 (dk_at dksX0_feed_1 1 rfl rfl)
theorem dX0_feed_26 : decode cX0_feed 26 = .ok (.dup, 1) := dk_89 (dk_at dksX0_feed_1 2 rfl rfl)
theorem dX0_feed_27 : decode cX0_feed 27 = .ok (.iconst 2, 1) := dk_5 (dk_at dksX0_feed_1 3 rfl rfl)
theorem dX0_feed_28 : decode cX0_feed 28 = .ok (.iload_n 3, 1) := dk_29 (dk_at dksX0_feed_1 4 rfl rfl)
theorem dX0_feed_29 : decode cX0_feed 29 = .ok (.iastore, 1) := dk_79 (dk_at dksX0_feed_1 5 rfl rfl)
theorem dX0_feed_30 : decode cX0_feed 30 = .ok (.dup, 1) := dk_89 (dk_at dksX0_feed_1 6 rfl rfl)
theorem dX0_feed_31 : decode cX0_feed 31 = .ok (.iconst 3, 1) := dk_6 (dk_at dksX0_feed_1 7 rfl rfl)
theorem dX0_feed_32 : decode cX0_feed 32 = .ok (.iload 4, 2) := dk_21 4 (dk_at dksX0_feed_1 8 rfl rfl)
theorem dX0_feed_34 : decode cX0_feed 34 = .ok (.iastore, 1) := dk_79 (dk_at dksX0_feed_1 10 rfl rfl)
theorem dX0_feed_35 : decode cX0_feed 35 = .ok (.dup, 1) := dk_89 (dk_at dksX0_feed_1 11 rfl rfl)
theorem dX0_feed_36 : decode cX0_feed 36 = .ok (.iconst 4, 1) := dk_7 (dk_at dksX0_feed_1 12 rfl rfl)
theorem dX0_feed_37 : decode cX0_feed 37 = .ok (.iload 5, 2) := dk_21 5 (dk_at dksX0_feed_1 13 rfl rfl)
theorem dX0_feed_39 : decode cX0_feed 39 = .ok (.iastore, 1) := dk_79 (dk_at dksX0_feed_1 15 rfl rfl)
theorem dX0_feed_40 : decode cX0_feed 40 = .ok (.astore 6, 2) := dk_58 6 (dk_at dksX0_feed_1 16 rfl rfl)
theorem dX0_feed_42 : decode cX0_feed 42 = .ok (.aload 6, 2) := dk_25 6 (dk_at dksX0_feed_1 18 rfl rfl)
theorem dX0_feed_44 : decode cX0_feed 44 = .ok (.astore 7, 2) := dk_58 7 (dk_at dksX0_feed_1 20 rfl rfl)
theorem dX0_feed_46 : decode cX0_feed 46 = .ok (.aload 7, 2) := dk_25 7 (dk_at dksX0_feed_1 22 rfl rfl)
theorem dX0_feed_48 : decode cX0_feed 48 = .ok (.arraylength, 1) := dk_190 (dk_at dksX0_feed_2 0 rfl rfl)
theorem dX0_feed_49 : decode cX0_feed 49 = .ok (.istore 8, 2) := dk_54 8 (dk_at dksX0_feed_2 1 rfl rfl)
theorem dX0_feed_51 : decode cX0_feed 51 = .ok (.iconst 0, 1) := dk_3 (dk_at dksX0_feed_2 3 rfl rfl)
theorem dX0_feed_52 : decode cX0_feed 52 = .ok (.istore 9, 2) := dk_54 9 (dk_at dksX0_feed_2 4 rfl rfl)
theorem dX0_feed_54 : decode cX0_feed 54 = .ok (.iload 9, 2) := dk_21 9 (dk_at dksX0_feed_2 6 rfl rfl)
theorem dX0_feed_56 : decode cX0_feed 56 = .ok (.iload 8, 2) := dk_21 8 (dk_at dksX0_feed_2 8 rfl rfl)
theorem dX0_feed_58 : decode cX0_feed 58 = .ok (.if_icmp .ge 56, 3) := dk_162 0 56 (dk_at dksX0_feed_2 10 rfl rfl)
theorem dX0_feed_61 : decode cX0_feed 61 = .ok (.aload 7, 2) := dk_25 7 (dk_at dksX0_feed_2 13 rfl rfl)
theorem dX0_feed_63 : decode cX0_feed 63 = .ok (.iload 9, 2) := dk_21 9 (dk_at dksX0_feed_2 15 rfl rfl)
theorem dX0_feed_65 : decode cX0_feed 65 = .ok (.iaload, 1) := dk_46 (dk_at dksX0_feed_2 17 rfl rfl)
theorem dX0_feed_66 : decode cX0_feed 66 = .ok (.istore 10, 2) := dk_54 10 (dk_at dksX0_feed_2 18 rfl rfl)
theorem dX0_feed_68 : decode cX0_feed 68 = .ok (.bipush 24, 2) := dk_16 24 (dk_at dksX0_feed_2 20 rfl rfl)
theorem dX0_feed_70 : decode cX0_feed 70 = .ok (.istore 11, 2) := dk_54 11 (dk_at dksX0_feed_2 22 rfl rfl)
theorem dX0_feed_72 : decode cX0_feed 72 = .ok (.iload 11, 2) := dk_21 11 (dk_at dksX0_feed_3 0 rfl rfl)
theorem dX0_feed_74 : decode cX0_feed 74 = .ok (.ifCond .lt 34, 3) := dk_155 0 34 (dk_at dksX0_feed_3 2 rfl rfl)
theorem dX0_feed_77 : decode cX0_feed 77 = .ok (.aload_n 0, 1) := dk_42 (dk_at dksX0_feed_3 5 rfl rfl)
theorem dX0_feed_78 : decode cX0_feed 78 = .ok (.getfield 31, 3) := dk_180 0 31 (dk_at dksX0_feed_3 6 rfl rfl)
theorem dX0_feed_81 : decode cX0_feed 81 = .ok (.aload_n 0, 1) := dk_42 (dk_at dksX0_feed_3 9 rfl rfl)
theorem dX0_feed_82 : decode cX0_feed 82 = .ok (.getfield 105, 3) := dk_180 0 105 (dk_at dksX0_feed_3 10 rfl rfl)
theorem dX0_feed_85 : decode cX0_feed 85 = .ok (.iload 10, 2) := dk_21 10 (dk_at dksX0_feed_3 13 rfl rfl)
theorem dX0_feed_87 : decode cX0_feed 87 = .ok (.iload 11, 2) := dk_21 11 (dk_at dksX0_feed_3 15 rfl rfl)
theorem dX0_feed_89 : decode cX0_feed 89 = .ok (.ishr, 1) := dk_122 (dk_at dksX0_feed_3 17 rfl rfl)
theorem dX0_feed_90 : decode cX0_feed 90 = .ok (.i2b, 1) := dk_145 (dk_at dksX0_feed_3 18 rfl rfl)
theorem dX0_feed_91 : decode cX0_feed 91 = .ok (.bastore, 1) := dk_84 (dk_at dksX0_feed_3 19 rfl rfl)
theorem dX0_feed_92 : decode cX0_feed 92 = .ok (.aload_n 0, 1) := dk_42 (dk_at dksX0_feed_3 20 rfl rfl)
theorem dX0_feed_93 : decode cX0_feed 93 = .ok (.dup, 1) := dk_89 (dk_at dksX0_feed_3 21 rfl rfl)
theorem dX0_feed_94 : decode cX0_feed 94 = .ok (.getfield 105, 3) := dk_180 0 105 (dk_at dksX0_feed_4 0 rfl rfl)
theorem dX0_feed_97 : decode cX0_feed 97 = .ok (.iconst 1, 1) := dk_4 (dk_at dksX0_feed_4 3 rfl rfl)
theorem dX0_feed_98 : decode cX0_feed 98 = .ok (.iadd, 1) := dk_96 (dk_at dksX0_feed_4 4 rfl rfl)
theorem dX0_feed_99 : decode cX0_feed 99 = .ok (.putfield 105, 3) := dk_181 0 105 (dk_at dksX0_feed_4 5 rfl rfl)
theorem dX0_feed_102 : decode cX0_feed 102 = .ok (.iinc 11 (-8), 3) := dk_132 11 248 (dk_at dksX0_feed_4 8 rfl rfl)
theorem dX0_feed_105 : decode cX0_feed 105 = .ok (.goto (-33), 3) := dk_167 255 223 (dk_at dksX0_feed_4 11 rfl rfl)
theorem dX0_feed_108 : decode cX0_feed 108 = .ok (.iinc 9 1, 3) := dk_132 9 1 (dk_at dksX0_feed_4 14 rfl rfl)
theorem dX0_feed_111 : decode cX0_feed 111 = .ok (.goto (-57), 3) := dk_167 255 199 (dk_at dksX0_feed_4 17 rfl rfl)
theorem dX0_feed_114 : decode cX0_feed 114 = .ok (.aload_n 0, 1) := dk_42 (dk_at dksX0_feed_4 20 rfl rfl)
theorem dX0_feed_115 : decode cX0_feed 115 = .ok (.getfield 105, 3) := dk_180 0 105 (dk_at dksX0_feed_4 21 rfl rfl)
theorem dX0_feed_118 : decode cX0_feed 118 = .ok (.ireturn, 1) := dk_172 (dk_at dksX0_feed_5 0 rfl rfl)
abbrev cX0_end : ByteArray := prog_1_method_5_code
def yX0_end : MethodName := ⟨RX0, "end", "(I)I"⟩
def dkwX0_end_0 : List UInt8 := [27, 155, 0, 11, 27, 42, 180, 0, 105, 164, 0, 5, 2, 172, 42, 27, 181, 0, 105, 27, 172]
abbrev dktX0_end_0 : List UInt8 := dkwX0_end_0 ++ []
theorem dksX0_end_0 : cX0_end.data.toList.drop 0 = dktX0_end_0 := by decide +kernel
theorem dX0_end_0 : decode cX0_end 0 = .ok (.iload_n 1, 1) := dk_27 (dk_at dksX0_end_0 0 rfl rfl)
theorem dX0_end_1 : decode cX0_end 1 = .ok (.ifCond .lt 11, 3) := dk_155 0 11 (dk_at dksX0_end_0 1 rfl rfl)
theorem dX0_end_4 : decode cX0_end 4 = .ok (.iload_n 1, 1) := dk_27 (dk_at dksX0_end_0 4 rfl rfl)
theorem dX0_end_5 : decode cX0_end 5 = .ok (.aload_n 0, 1) := dk_42 (dk_at dksX0_end_0 5 rfl rfl)
theorem dX0_end_6 : decode cX0_end 6 = .ok (.getfield 105, 3) := dk_180 0 105 (dk_at dksX0_end_0 6 rfl rfl)
theorem dX0_end_9 : decode cX0_end 9 = .ok (.if_icmp .le 5, 3) := dk_164 0 5 (dk_at dksX0_end_0 9 rfl rfl)
theorem dX0_end_12 : decode cX0_end 12 = .ok (.iconst (-1), 1) := dk_2 (dk_at dksX0_end_0 12 rfl rfl)
theorem dX0_end_13 : decode cX0_end 13 = .ok (.ireturn, 1) := dk_172 (dk_at dksX0_end_0 13 rfl rfl)
theorem dX0_end_14 : decode cX0_end 14 = .ok (.aload_n 0, 1) := dk_42 (dk_at dksX0_end_0 14 rfl rfl)
theorem dX0_end_15 : decode cX0_end 15 = .ok (.iload_n 1, 1) := dk_27 (dk_at dksX0_end_0 15 rfl rfl)
theorem dX0_end_16 : decode cX0_end 16 = .ok (.putfield 105, 3) := dk_181 0 105 (dk_at dksX0_end_0 16 rfl rfl)
theorem dX0_end_19 : decode cX0_end 19 = .ok (.iload_n 1, 1) := dk_27 (dk_at dksX0_end_0 19 rfl rfl)
theorem dX0_end_20 : decode cX0_end 20 = .ok (.ireturn, 1) := dk_172 (dk_at dksX0_end_0 20 rfl rfl)
abbrev cX0_web : ByteArray := prog_1_method_6_code
def yX0_web : MethodName := ⟨RX0, "web", "()I"⟩
def dkwX0_web_5 : List UInt8 := [43, 199, 0, 10, 42, 182, 0, 140, 167, 0, 4, 2, 172]
abbrev dktX0_web_5 : List UInt8 := dkwX0_web_5 ++ []
def dkwX0_web_4 : List UInt8 := [181, 0, 134, 42, 43, 199, 0, 7, 2, 167, 0, 7, 43, 180, 0, 137, 181, 0, 35, 42, 3, 181, 0, 105]
abbrev dktX0_web_4 : List UInt8 := dkwX0_web_4 ++ dktX0_web_5
def dkwX0_web_3 : List UInt8 := [167, 255, 241, 167, 0, 6, 77, 44, 76, 42, 43, 199, 0, 7, 3, 167, 0, 7, 43, 180, 0, 131]
abbrev dktX0_web_3 : List UInt8 := dkwX0_web_3 ++ dktX0_web_4
def dkwX0_web_2 : List UInt8 := [180, 0, 88, 182, 0, 126, 3, 61, 28, 6, 162, 0, 16, 42, 180, 0, 102, 28, 3, 84, 132, 2, 1]
abbrev dktX0_web_2 : List UInt8 := dkwX0_web_2 ++ dktX0_web_3
def dkwX0_web_1 : List UInt8 := [180, 0, 42, 182, 0, 49, 87, 42, 3, 181, 0, 117, 42, 3, 181, 0, 120, 42, 3, 181, 0, 123, 42]
abbrev dktX0_web_1 : List UInt8 := dkwX0_web_1 ++ dktX0_web_2
def dkwX0_web_0 : List UInt8 := [1, 76, 42, 187, 0, 108, 89, 42, 183, 0, 110, 182, 0, 113, 181, 0, 42, 42, 180, 0, 53, 42]
abbrev dktX0_web_0 : List UInt8 := dkwX0_web_0 ++ dktX0_web_1
theorem dksX0_web_0 : cX0_web.data.toList.drop 0 = dktX0_web_0 := by decide +kernel
theorem dksX0_web_1 : cX0_web.data.toList.drop 22 = dktX0_web_1 := dk_seg dksX0_web_0 22 rfl rfl
theorem dksX0_web_2 : cX0_web.data.toList.drop 45 = dktX0_web_2 := dk_seg dksX0_web_1 23 rfl rfl
theorem dksX0_web_3 : cX0_web.data.toList.drop 68 = dktX0_web_3 := dk_seg dksX0_web_2 23 rfl rfl
theorem dksX0_web_4 : cX0_web.data.toList.drop 90 = dktX0_web_4 := dk_seg dksX0_web_3 22 rfl rfl
theorem dksX0_web_5 : cX0_web.data.toList.drop 114 = dktX0_web_5 := dk_seg dksX0_web_4 24 rfl rfl
theorem dX0_web_0 : decode cX0_web 0 = .ok (.aconst_null, 1) := dk_1 (dk_at dksX0_web_0 0 rfl rfl)
theorem dX0_web_1 : decode cX0_web 1 = .ok (.astore_n 1, 1) := dk_76 (dk_at dksX0_web_0 1 rfl rfl)
theorem dX0_web_2 : decode cX0_web 2 = .ok (.aload_n 0, 1) := dk_42 (dk_at dksX0_web_0 2 rfl rfl)
theorem dX0_web_3 : decode cX0_web 3 = .ok (.new 108, 3) := dk_187 0 108 (dk_at dksX0_web_0 3 rfl rfl)
theorem dX0_web_6 : decode cX0_web 6 = .ok (.dup, 1) := dk_89 (dk_at dksX0_web_0 6 rfl rfl)
theorem dX0_web_7 : decode cX0_web 7 = .ok (.aload_n 0, 1) := dk_42 (dk_at dksX0_web_0 7 rfl rfl)
theorem dX0_web_8 : decode cX0_web 8 = .ok (.invokespecial 110, 3) := dk_183 0 110 (dk_at dksX0_web_0 8 rfl rfl)
theorem dX0_web_11 : decode cX0_web 11 = .ok (.invokevirtual 113, 3) := dk_182 0 113 (dk_at dksX0_web_0 11 rfl rfl)
theorem dX0_web_14 : decode cX0_web 14 = .ok (.putfield 42, 3) := dk_181 0 42 (dk_at dksX0_web_0 14 rfl rfl)
theorem dX0_web_17 : decode cX0_web 17 = .ok (.aload_n 0, 1) := dk_42 (dk_at dksX0_web_0 17 rfl rfl)
theorem dX0_web_18 : decode cX0_web 18 = .ok (.getfield 53, 3) := dk_180 0 53 (dk_at dksX0_web_0 18 rfl rfl)
theorem dX0_web_21 : decode cX0_web 21 = .ok (.aload_n 0, 1) := dk_42 (dk_at dksX0_web_0 21 rfl rfl)
theorem dX0_web_22 : decode cX0_web 22 = .ok (.getfield 42, 3) := dk_180 0 42 (dk_at dksX0_web_1 0 rfl rfl)
theorem dX0_web_25 : decode cX0_web 25 = .ok (.invokevirtual 49, 3) := dk_182 0 49 (dk_at dksX0_web_1 3 rfl rfl)
theorem dX0_web_28 : decode cX0_web 28 = .ok (.pop, 1) := dk_87 (dk_at dksX0_web_1 6 rfl rfl)
theorem dX0_web_29 : decode cX0_web 29 = .ok (.aload_n 0, 1) := dk_42 (dk_at dksX0_web_1 7 rfl rfl)
theorem dX0_web_30 : decode cX0_web 30 = .ok (.iconst 0, 1) := dk_3 (dk_at dksX0_web_1 8 rfl rfl)
theorem dX0_web_31 : decode cX0_web 31 = .ok (.putfield 117, 3) := dk_181 0 117 (dk_at dksX0_web_1 9 rfl rfl)
theorem dX0_web_34 : decode cX0_web 34 = .ok (.aload_n 0, 1) := dk_42 (dk_at dksX0_web_1 12 rfl rfl)
theorem dX0_web_35 : decode cX0_web 35 = .ok (.iconst 0, 1) := dk_3 (dk_at dksX0_web_1 13 rfl rfl)
theorem dX0_web_36 : decode cX0_web 36 = .ok (.putfield 120, 3) := dk_181 0 120 (dk_at dksX0_web_1 14 rfl rfl)
theorem dX0_web_39 : decode cX0_web 39 = .ok (.aload_n 0, 1) := dk_42 (dk_at dksX0_web_1 17 rfl rfl)
theorem dX0_web_40 : decode cX0_web 40 = .ok (.iconst 0, 1) := dk_3 (dk_at dksX0_web_1 18 rfl rfl)
theorem dX0_web_41 : decode cX0_web 41 = .ok (.putfield 123, 3) := dk_181 0 123 (dk_at dksX0_web_1 19 rfl rfl)
theorem dX0_web_44 : decode cX0_web 44 = .ok (.aload_n 0, 1) := dk_42 (dk_at dksX0_web_1 22 rfl rfl)
theorem dX0_web_45 : decode cX0_web 45 = .ok (.getfield 88, 3) := dk_180 0 88 (dk_at dksX0_web_2 0 rfl rfl)
theorem dX0_web_48 : decode cX0_web 48 = .ok (.invokevirtual 126, 3) := dk_182 0 126 (dk_at dksX0_web_2 3 rfl rfl)
theorem dX0_web_51 : decode cX0_web 51 = .ok (.iconst 0, 1) := dk_3 (dk_at dksX0_web_2 6 rfl rfl)
theorem dX0_web_52 : decode cX0_web 52 = .ok (.istore_n 2, 1) := dk_61 (dk_at dksX0_web_2 7 rfl rfl)
theorem dX0_web_53 : decode cX0_web 53 = .ok (.iload_n 2, 1) := dk_28 (dk_at dksX0_web_2 8 rfl rfl)
theorem dX0_web_54 : decode cX0_web 54 = .ok (.iconst 3, 1) := dk_6 (dk_at dksX0_web_2 9 rfl rfl)
theorem dX0_web_55 : decode cX0_web 55 = .ok (.if_icmp .ge 16, 3) := dk_162 0 16 (dk_at dksX0_web_2 10 rfl rfl)
theorem dX0_web_58 : decode cX0_web 58 = .ok (.aload_n 0, 1) := dk_42 (dk_at dksX0_web_2 13 rfl rfl)
theorem dX0_web_59 : decode cX0_web 59 = .ok (.getfield 102, 3) := dk_180 0 102 (dk_at dksX0_web_2 14 rfl rfl)
theorem dX0_web_62 : decode cX0_web 62 = .ok (.iload_n 2, 1) := dk_28 (dk_at dksX0_web_2 17 rfl rfl)
theorem dX0_web_63 : decode cX0_web 63 = .ok (.iconst 0, 1) := dk_3 (dk_at dksX0_web_2 18 rfl rfl)
theorem dX0_web_64 : decode cX0_web 64 = .ok (.bastore, 1) := dk_84 (dk_at dksX0_web_2 19 rfl rfl)
theorem dX0_web_65 : decode cX0_web 65 = .ok (.iinc 2 1, 3) := dk_132 2 1 (dk_at dksX0_web_2 20 rfl rfl)
theorem dX0_web_68 : decode cX0_web 68 = .ok (.goto (-15), 3) := dk_167 255 241 (dk_at dksX0_web_3 0 rfl rfl)
theorem dX0_web_71 : decode cX0_web 71 = .ok (.goto 6, 3) := dk_167 0 6 (dk_at dksX0_web_3 3 rfl rfl)
theorem dX0_web_74 : decode cX0_web 74 = .ok (.astore_n 2, 1) := dk_77 (dk_at dksX0_web_3 6 rfl rfl)
theorem dX0_web_75 : decode cX0_web 75 = .ok (.aload_n 2, 1) := dk_44 (dk_at dksX0_web_3 7 rfl rfl)
theorem dX0_web_76 : decode cX0_web 76 = .ok (.astore_n 1, 1) := dk_76 (dk_at dksX0_web_3 8 rfl rfl)
theorem dX0_web_77 : decode cX0_web 77 = .ok (.aload_n 0, 1) := dk_42 (dk_at dksX0_web_3 9 rfl rfl)
theorem dX0_web_78 : decode cX0_web 78 = .ok (.aload_n 1, 1) := dk_43 (dk_at dksX0_web_3 10 rfl rfl)
theorem dX0_web_79 : decode cX0_web 79 = .ok (.ifnonnull 7, 3) := dk_199 0 7 (dk_at dksX0_web_3 11 rfl rfl)
theorem dX0_web_82 : decode cX0_web 82 = .ok (.iconst 0, 1) := dk_3 (dk_at dksX0_web_3 14 rfl rfl)
theorem dX0_web_83 : decode cX0_web 83 = .ok (.goto 7, 3) := dk_167 0 7 (dk_at dksX0_web_3 15 rfl rfl)
theorem dX0_web_86 : decode cX0_web 86 = .ok (.aload_n 1, 1) := dk_43 (dk_at dksX0_web_3 18 rfl rfl)
theorem dX0_web_87 : decode cX0_web 87 = .ok (.getfield 131, 3) := dk_180 0 131 (dk_at dksX0_web_3 19 rfl rfl)
theorem dX0_web_90 : decode cX0_web 90 = .ok (.putfield 134, 3) := dk_181 0 134 (dk_at dksX0_web_4 0 rfl rfl)
theorem dX0_web_93 : decode cX0_web 93 = .ok (.aload_n 0, 1) := dk_42 (dk_at dksX0_web_4 3 rfl rfl)
theorem dX0_web_94 : decode cX0_web 94 = .ok (.aload_n 1, 1) := dk_43 (dk_at dksX0_web_4 4 rfl rfl)
theorem dX0_web_95 : decode cX0_web 95 = .ok (.ifnonnull 7, 3) := dk_199 0 7 (dk_at dksX0_web_4 5 rfl rfl)
theorem dX0_web_98 : decode cX0_web 98 = .ok (.iconst (-1), 1) := dk_2 (dk_at dksX0_web_4 8 rfl rfl)
theorem dX0_web_99 : decode cX0_web 99 = .ok (.goto 7, 3) := dk_167 0 7 (dk_at dksX0_web_4 9 rfl rfl)
theorem dX0_web_102 : decode cX0_web 102 = .ok (.aload_n 1, 1) := dk_43 (dk_at dksX0_web_4 12 rfl rfl)
theorem dX0_web_103 : decode cX0_web 103 = .ok (.getfield 137, 3) := dk_180 0 137 (dk_at dksX0_web_4 13 rfl rfl)
theorem dX0_web_106 : decode cX0_web 106 = .ok (.putfield 35, 3) := dk_181 0 35 (dk_at dksX0_web_4 16 rfl rfl)
theorem dX0_web_109 : decode cX0_web 109 = .ok (.aload_n 0, 1) := dk_42 (dk_at dksX0_web_4 19 rfl rfl)
theorem dX0_web_110 : decode cX0_web 110 = .ok (.iconst 0, 1) := dk_3 (dk_at dksX0_web_4 20 rfl rfl)
theorem dX0_web_111 : decode cX0_web 111 = .ok (.putfield 105, 3) := dk_181 0 105 (dk_at dksX0_web_4 21 rfl rfl)
theorem dX0_web_114 : decode cX0_web 114 = .ok (.aload_n 1, 1) := dk_43 (dk_at dksX0_web_5 0 rfl rfl)
theorem dX0_web_115 : decode cX0_web 115 = .ok (.ifnonnull 10, 3) := dk_199 0 10 (dk_at dksX0_web_5 1 rfl rfl)
theorem dX0_web_118 : decode cX0_web 118 = .ok (.aload_n 0, 1) := dk_42 (dk_at dksX0_web_5 4 rfl rfl)
theorem dX0_web_119 : decode cX0_web 119 = .ok (.invokevirtual 140, 3) := dk_182 0 140 (dk_at dksX0_web_5 5 rfl rfl)
theorem dX0_web_122 : decode cX0_web 122 = .ok (.goto 4, 3) := dk_167 0 4 (dk_at dksX0_web_5 8 rfl rfl)
theorem dX0_web_125 : decode cX0_web 125 = .ok (.iconst (-1), 1) := dk_2 (dk_at dksX0_web_5 11 rfl rfl)
theorem dX0_web_126 : decode cX0_web 126 = .ok (.ireturn, 1) := dk_172 (dk_at dksX0_web_5 12 rfl rfl)
abbrev cX0_find : ByteArray := prog_1_method_1_code
def yX0_find : MethodName := ⟨RX0, "find", "(Ljava/util/ArrayList;Ljava/lang/String;)I"⟩
def dkwX0_find_1 : List UInt8 := [182, 0, 19, 153, 0, 7, 29, 167, 0, 4, 28, 61, 132, 3, 1, 167, 255, 221, 28, 172]
abbrev dktX0_find_1 : List UInt8 := dkwX0_find_1 ++ []
def dkwX0_find_0 : List UInt8 := [2, 61, 3, 62, 29, 42, 182, 0, 3, 162, 0, 33, 42, 29, 182, 0, 9, 192, 0, 13, 180, 0, 15, 43]
abbrev dktX0_find_0 : List UInt8 := dkwX0_find_0 ++ dktX0_find_1
theorem dksX0_find_0 : cX0_find.data.toList.drop 0 = dktX0_find_0 := by decide +kernel
theorem dksX0_find_1 : cX0_find.data.toList.drop 24 = dktX0_find_1 := dk_seg dksX0_find_0 24 rfl rfl
theorem dX0_find_0 : decode cX0_find 0 = .ok (.iconst (-1), 1) := dk_2 (dk_at dksX0_find_0 0 rfl rfl)
theorem dX0_find_1 : decode cX0_find 1 = .ok (.istore_n 2, 1) := dk_61 (dk_at dksX0_find_0 1 rfl rfl)
theorem dX0_find_2 : decode cX0_find 2 = .ok (.iconst 0, 1) := dk_3 (dk_at dksX0_find_0 2 rfl rfl)
theorem dX0_find_3 : decode cX0_find 3 = .ok (.istore_n 3, 1) := dk_62 (dk_at dksX0_find_0 3 rfl rfl)
theorem dX0_find_4 : decode cX0_find 4 = .ok (.iload_n 3, 1) := dk_29 (dk_at dksX0_find_0 4 rfl rfl)
theorem dX0_find_5 : decode cX0_find 5 = .ok (.aload_n 0, 1) := dk_42 (dk_at dksX0_find_0 5 rfl rfl)
theorem dX0_find_6 : decode cX0_find 6 = .ok (.invokevirtual 3, 3) := dk_182 0 3 (dk_at dksX0_find_0 6 rfl rfl)
theorem dX0_find_9 : decode cX0_find 9 = .ok (.if_icmp .ge 33, 3) := dk_162 0 33 (dk_at dksX0_find_0 9 rfl rfl)
theorem dX0_find_12 : decode cX0_find 12 = .ok (.aload_n 0, 1) := dk_42 (dk_at dksX0_find_0 12 rfl rfl)
theorem dX0_find_13 : decode cX0_find 13 = .ok (.iload_n 3, 1) := dk_29 (dk_at dksX0_find_0 13 rfl rfl)
theorem dX0_find_14 : decode cX0_find 14 = .ok (.invokevirtual 9, 3) := dk_182 0 9 (dk_at dksX0_find_0 14 rfl rfl)
theorem dX0_find_17 : decode cX0_find 17 = .ok (.checkcast 13, 3) := dk_192 0 13 (dk_at dksX0_find_0 17 rfl rfl)
theorem dX0_find_20 : decode cX0_find 20 = .ok (.getfield 15, 3) := dk_180 0 15 (dk_at dksX0_find_0 20 rfl rfl)
theorem dX0_find_23 : decode cX0_find 23 = .ok (.aload_n 1, 1) := dk_43 (dk_at dksX0_find_0 23 rfl rfl)
theorem dX0_find_24 : decode cX0_find 24 = .ok (.invokevirtual 19, 3) := dk_182 0 19 (dk_at dksX0_find_1 0 rfl rfl)
theorem dX0_find_27 : decode cX0_find 27 = .ok (.ifCond .eq 7, 3) := dk_153 0 7 (dk_at dksX0_find_1 3 rfl rfl)
theorem dX0_find_30 : decode cX0_find 30 = .ok (.iload_n 3, 1) := dk_29 (dk_at dksX0_find_1 6 rfl rfl)
theorem dX0_find_31 : decode cX0_find 31 = .ok (.goto 4, 3) := dk_167 0 4 (dk_at dksX0_find_1 7 rfl rfl)
theorem dX0_find_34 : decode cX0_find 34 = .ok (.iload_n 2, 1) := dk_28 (dk_at dksX0_find_1 10 rfl rfl)
theorem dX0_find_35 : decode cX0_find 35 = .ok (.istore_n 2, 1) := dk_61 (dk_at dksX0_find_1 11 rfl rfl)
theorem dX0_find_36 : decode cX0_find 36 = .ok (.iinc 3 1, 3) := dk_132 3 1 (dk_at dksX0_find_1 12 rfl rfl)
theorem dX0_find_39 : decode cX0_find 39 = .ok (.goto (-35), 3) := dk_167 255 221 (dk_at dksX0_find_1 15 rfl rfl)
theorem dX0_find_42 : decode cX0_find 42 = .ok (.iload_n 2, 1) := dk_28 (dk_at dksX0_find_1 18 rfl rfl)
theorem dX0_find_43 : decode cX0_find 43 = .ok (.ireturn, 1) := dk_172 (dk_at dksX0_find_1 19 rfl rfl)
abbrev cX0_cases : ByteArray := prog_1_method_8_code
def yX0_cases : MethodName := ⟨RX0, "cases", "()I"⟩
def dkwX0_cases_0 : List UInt8 := [42, 180, 0, 42, 180, 0, 143, 182, 0, 3, 172]
abbrev dktX0_cases_0 : List UInt8 := dkwX0_cases_0 ++ []
theorem dksX0_cases_0 : cX0_cases.data.toList.drop 0 = dktX0_cases_0 := by decide +kernel
theorem dX0_cases_0 : decode cX0_cases 0 = .ok (.aload_n 0, 1) := dk_42 (dk_at dksX0_cases_0 0 rfl rfl)
theorem dX0_cases_1 : decode cX0_cases 1 = .ok (.getfield 42, 3) := dk_180 0 42 (dk_at dksX0_cases_0 1 rfl rfl)
theorem dX0_cases_4 : decode cX0_cases 4 = .ok (.getfield 143, 3) := dk_180 0 143 (dk_at dksX0_cases_0 4 rfl rfl)
theorem dX0_cases_7 : decode cX0_cases 7 = .ok (.invokevirtual 3, 3) := dk_182 0 3 (dk_at dksX0_cases_0 7 rfl rfl)
theorem dX0_cases_10 : decode cX0_cases 10 = .ok (.ireturn, 1) := dk_172 (dk_at dksX0_cases_0 10 rfl rfl)
abbrev cX0_fault : ByteArray := prog_1_method_7_code
def yX0_fault : MethodName := ⟨RX0, "fault", "(I)I"⟩
def dkwX0_fault_1 : List UInt8 := [172]
abbrev dktX0_fault_1 : List UInt8 := dkwX0_fault_1 ++ []
def dkwX0_fault_0 : List UInt8 := [27, 154, 0, 10, 42, 180, 0, 134, 167, 0, 16, 27, 4, 160, 0, 10, 42, 180, 0, 35, 167, 0, 4, 2]
abbrev dktX0_fault_0 : List UInt8 := dkwX0_fault_0 ++ dktX0_fault_1
theorem dksX0_fault_0 : cX0_fault.data.toList.drop 0 = dktX0_fault_0 := by decide +kernel
theorem dksX0_fault_1 : cX0_fault.data.toList.drop 24 = dktX0_fault_1 := dk_seg dksX0_fault_0 24 rfl rfl
theorem dX0_fault_0 : decode cX0_fault 0 = .ok (.iload_n 1, 1) := dk_27 (dk_at dksX0_fault_0 0 rfl rfl)
theorem dX0_fault_1 : decode cX0_fault 1 = .ok (.ifCond .ne 10, 3) := dk_154 0 10 (dk_at dksX0_fault_0 1 rfl rfl)
theorem dX0_fault_4 : decode cX0_fault 4 = .ok (.aload_n 0, 1) := dk_42 (dk_at dksX0_fault_0 4 rfl rfl)
theorem dX0_fault_5 : decode cX0_fault 5 = .ok (.getfield 134, 3) := dk_180 0 134 (dk_at dksX0_fault_0 5 rfl rfl)
theorem dX0_fault_8 : decode cX0_fault 8 = .ok (.goto 16, 3) := dk_167 0 16 (dk_at dksX0_fault_0 8 rfl rfl)
theorem dX0_fault_11 : decode cX0_fault 11 = .ok (.iload_n 1, 1) := dk_27 (dk_at dksX0_fault_0 11 rfl rfl)
theorem dX0_fault_12 : decode cX0_fault 12 = .ok (.iconst 1, 1) := dk_4 (dk_at dksX0_fault_0 12 rfl rfl)
theorem dX0_fault_13 : decode cX0_fault 13 = .ok (.if_icmp .ne 10, 3) := dk_160 0 10 (dk_at dksX0_fault_0 13 rfl rfl)
theorem dX0_fault_16 : decode cX0_fault 16 = .ok (.aload_n 0, 1) := dk_42 (dk_at dksX0_fault_0 16 rfl rfl)
theorem dX0_fault_17 : decode cX0_fault 17 = .ok (.getfield 35, 3) := dk_180 0 35 (dk_at dksX0_fault_0 17 rfl rfl)
theorem dX0_fault_20 : decode cX0_fault 20 = .ok (.goto 4, 3) := dk_167 0 4 (dk_at dksX0_fault_0 20 rfl rfl)
theorem dX0_fault_23 : decode cX0_fault 23 = .ok (.iconst (-1), 1) := dk_2 (dk_at dksX0_fault_0 23 rfl rfl)
theorem dX0_fault_24 : decode cX0_fault 24 = .ok (.ireturn, 1) := dk_172 (dk_at dksX0_fault_1 0 rfl rfl)
abbrev cX0_knot : ByteArray := prog_1_method_17_code
def yX0_knot : MethodName := ⟨RX0, "knot", "(II)I"⟩
def dkwX0_knot_2 : List UInt8 := [182, 0, 174, 167, 0, 15, 42, 180, 0, 53, 42, 180, 0, 42, 27, 182, 0, 178, 172]
abbrev dktX0_knot_2 : List UInt8 := dkwX0_knot_2 ++ []
def dkwX0_knot_1 : List UInt8 := [162, 0, 28, 42, 180, 0, 53, 42, 180, 0, 42, 27, 28, 4, 160, 0, 7, 4, 167, 0, 4, 3]
abbrev dktX0_knot_1 : List UInt8 := dkwX0_knot_1 ++ dktX0_knot_2
def dkwX0_knot_0 : List UInt8 := [42, 27, 182, 0, 171, 153, 0, 12, 28, 3, 5, 184, 0, 154, 154, 0, 7, 2, 167, 0, 45, 28, 5]
abbrev dktX0_knot_0 : List UInt8 := dkwX0_knot_0 ++ dktX0_knot_1
theorem dksX0_knot_0 : cX0_knot.data.toList.drop 0 = dktX0_knot_0 := by decide +kernel
theorem dksX0_knot_1 : cX0_knot.data.toList.drop 23 = dktX0_knot_1 := dk_seg dksX0_knot_0 23 rfl rfl
theorem dksX0_knot_2 : cX0_knot.data.toList.drop 45 = dktX0_knot_2 := dk_seg dksX0_knot_1 22 rfl rfl
theorem dX0_knot_0 : decode cX0_knot 0 = .ok (.aload_n 0, 1) := dk_42 (dk_at dksX0_knot_0 0 rfl rfl)
theorem dX0_knot_1 : decode cX0_knot 1 = .ok (.iload_n 1, 1) := dk_27 (dk_at dksX0_knot_0 1 rfl rfl)
theorem dX0_knot_2 : decode cX0_knot 2 = .ok (.invokevirtual 171, 3) := dk_182 0 171 (dk_at dksX0_knot_0 2 rfl rfl)
theorem dX0_knot_5 : decode cX0_knot 5 = .ok (.ifCond .eq 12, 3) := dk_153 0 12 (dk_at dksX0_knot_0 5 rfl rfl)
theorem dX0_knot_8 : decode cX0_knot 8 = .ok (.iload_n 2, 1) := dk_28 (dk_at dksX0_knot_0 8 rfl rfl)
theorem dX0_knot_9 : decode cX0_knot 9 = .ok (.iconst 0, 1) := dk_3 (dk_at dksX0_knot_0 9 rfl rfl)
theorem dX0_knot_10 : decode cX0_knot 10 = .ok (.iconst 2, 1) := dk_5 (dk_at dksX0_knot_0 10 rfl rfl)
theorem dX0_knot_11 : decode cX0_knot 11 = .ok (.invokestatic 154, 3) := dk_184 0 154 (dk_at dksX0_knot_0 11 rfl rfl)
theorem dX0_knot_14 : decode cX0_knot 14 = .ok (.ifCond .ne 7, 3) := dk_154 0 7 (dk_at dksX0_knot_0 14 rfl rfl)
theorem dX0_knot_17 : decode cX0_knot 17 = .ok (.iconst (-1), 1) := dk_2 (dk_at dksX0_knot_0 17 rfl rfl)
theorem dX0_knot_18 : decode cX0_knot 18 = .ok (.goto 45, 3) := dk_167 0 45 (dk_at dksX0_knot_0 18 rfl rfl)
theorem dX0_knot_21 : decode cX0_knot 21 = .ok (.iload_n 2, 1) := dk_28 (dk_at dksX0_knot_0 21 rfl rfl)
theorem dX0_knot_22 : decode cX0_knot 22 = .ok (.iconst 2, 1) := dk_5 (dk_at dksX0_knot_0 22 rfl rfl)
theorem dX0_knot_23 : decode cX0_knot 23 = .ok (.if_icmp .ge 28, 3) := dk_162 0 28 (dk_at dksX0_knot_1 0 rfl rfl)
theorem dX0_knot_26 : decode cX0_knot 26 = .ok (.aload_n 0, 1) := dk_42 (dk_at dksX0_knot_1 3 rfl rfl)
theorem dX0_knot_27 : decode cX0_knot 27 = .ok (.getfield 53, 3) := dk_180 0 53 (dk_at dksX0_knot_1 4 rfl rfl)
theorem dX0_knot_30 : decode cX0_knot 30 = .ok (.aload_n 0, 1) := dk_42 (dk_at dksX0_knot_1 7 rfl rfl)
theorem dX0_knot_31 : decode cX0_knot 31 = .ok (.getfield 42, 3) := dk_180 0 42 (dk_at dksX0_knot_1 8 rfl rfl)
theorem dX0_knot_34 : decode cX0_knot 34 = .ok (.iload_n 1, 1) := dk_27 (dk_at dksX0_knot_1 11 rfl rfl)
theorem dX0_knot_35 : decode cX0_knot 35 = .ok (.iload_n 2, 1) := dk_28 (dk_at dksX0_knot_1 12 rfl rfl)
theorem dX0_knot_36 : decode cX0_knot 36 = .ok (.iconst 1, 1) := dk_4 (dk_at dksX0_knot_1 13 rfl rfl)
theorem dX0_knot_37 : decode cX0_knot 37 = .ok (.if_icmp .ne 7, 3) := dk_160 0 7 (dk_at dksX0_knot_1 14 rfl rfl)
theorem dX0_knot_40 : decode cX0_knot 40 = .ok (.iconst 1, 1) := dk_4 (dk_at dksX0_knot_1 17 rfl rfl)
theorem dX0_knot_41 : decode cX0_knot 41 = .ok (.goto 4, 3) := dk_167 0 4 (dk_at dksX0_knot_1 18 rfl rfl)
theorem dX0_knot_44 : decode cX0_knot 44 = .ok (.iconst 0, 1) := dk_3 (dk_at dksX0_knot_1 21 rfl rfl)
theorem dX0_knot_45 : decode cX0_knot 45 = .ok (.invokevirtual 174, 3) := dk_182 0 174 (dk_at dksX0_knot_2 0 rfl rfl)
theorem dX0_knot_48 : decode cX0_knot 48 = .ok (.goto 15, 3) := dk_167 0 15 (dk_at dksX0_knot_2 3 rfl rfl)
theorem dX0_knot_51 : decode cX0_knot 51 = .ok (.aload_n 0, 1) := dk_42 (dk_at dksX0_knot_2 6 rfl rfl)
theorem dX0_knot_52 : decode cX0_knot 52 = .ok (.getfield 53, 3) := dk_180 0 53 (dk_at dksX0_knot_2 7 rfl rfl)
theorem dX0_knot_55 : decode cX0_knot 55 = .ok (.aload_n 0, 1) := dk_42 (dk_at dksX0_knot_2 10 rfl rfl)
theorem dX0_knot_56 : decode cX0_knot 56 = .ok (.getfield 42, 3) := dk_180 0 42 (dk_at dksX0_knot_2 11 rfl rfl)
theorem dX0_knot_59 : decode cX0_knot 59 = .ok (.iload_n 1, 1) := dk_27 (dk_at dksX0_knot_2 14 rfl rfl)
theorem dX0_knot_60 : decode cX0_knot 60 = .ok (.invokevirtual 178, 3) := dk_182 0 178 (dk_at dksX0_knot_2 15 rfl rfl)
theorem dX0_knot_63 : decode cX0_knot 63 = .ok (.ireturn, 1) := dk_172 (dk_at dksX0_knot_2 18 rfl rfl)
abbrev cX0_isKnot : ByteArray := prog_1_method_14_code
def yX0_isKnot : MethodName := ⟨RX0, "isKnot", "(I)Z"⟩
def dkwX0_isKnot_0 : List UInt8 := [27, 3, 42, 182, 0, 165, 4, 100, 184, 0, 154, 172]
abbrev dktX0_isKnot_0 : List UInt8 := dkwX0_isKnot_0 ++ []
theorem dksX0_isKnot_0 : cX0_isKnot.data.toList.drop 0 = dktX0_isKnot_0 := by decide +kernel
theorem dX0_isKnot_0 : decode cX0_isKnot 0 = .ok (.iload_n 1, 1) := dk_27 (dk_at dksX0_isKnot_0 0 rfl rfl)
theorem dX0_isKnot_1 : decode cX0_isKnot 1 = .ok (.iconst 0, 1) := dk_3 (dk_at dksX0_isKnot_0 1 rfl rfl)
theorem dX0_isKnot_2 : decode cX0_isKnot 2 = .ok (.aload_n 0, 1) := dk_42 (dk_at dksX0_isKnot_0 2 rfl rfl)
theorem dX0_isKnot_3 : decode cX0_isKnot 3 = .ok (.invokevirtual 165, 3) := dk_182 0 165 (dk_at dksX0_isKnot_0 3 rfl rfl)
theorem dX0_isKnot_6 : decode cX0_isKnot 6 = .ok (.iconst 1, 1) := dk_4 (dk_at dksX0_isKnot_0 6 rfl rfl)
theorem dX0_isKnot_7 : decode cX0_isKnot 7 = .ok (.isub, 1) := dk_100 (dk_at dksX0_isKnot_0 7 rfl rfl)
theorem dX0_isKnot_8 : decode cX0_isKnot 8 = .ok (.invokestatic 154, 3) := dk_184 0 154 (dk_at dksX0_isKnot_0 8 rfl rfl)
theorem dX0_isKnot_11 : decode cX0_isKnot 11 = .ok (.ireturn, 1) := dk_172 (dk_at dksX0_isKnot_0 11 rfl rfl)
abbrev cX0_knots : ByteArray := prog_1_method_9_code
def yX0_knots : MethodName := ⟨RX0, "knots", "()I"⟩
def dkwX0_knots_0 : List UInt8 := [42, 180, 0, 42, 180, 0, 145, 182, 0, 3, 172]
abbrev dktX0_knots_0 : List UInt8 := dkwX0_knots_0 ++ []
theorem dksX0_knots_0 : cX0_knots.data.toList.drop 0 = dktX0_knots_0 := by decide +kernel
theorem dX0_knots_0 : decode cX0_knots 0 = .ok (.aload_n 0, 1) := dk_42 (dk_at dksX0_knots_0 0 rfl rfl)
theorem dX0_knots_1 : decode cX0_knots 1 = .ok (.getfield 42, 3) := dk_180 0 42 (dk_at dksX0_knots_0 1 rfl rfl)
theorem dX0_knots_4 : decode cX0_knots 4 = .ok (.getfield 145, 3) := dk_180 0 145 (dk_at dksX0_knots_0 4 rfl rfl)
theorem dX0_knots_7 : decode cX0_knots 7 = .ok (.invokevirtual 3, 3) := dk_182 0 3 (dk_at dksX0_knots_0 7 rfl rfl)
theorem dX0_knots_10 : decode cX0_knots 10 = .ok (.ireturn, 1) := dk_172 (dk_at dksX0_knots_0 10 rfl rfl)
abbrev cX0_isIn : ByteArray := prog_1_method_2_code
def yX0_isIn : MethodName := ⟨RX0, "isIn", "(III)Z"⟩
def dkwX0_isIn_0 : List UInt8 := [26, 27, 161, 0, 12, 26, 28, 163, 0, 7, 4, 167, 0, 4, 3, 172]
abbrev dktX0_isIn_0 : List UInt8 := dkwX0_isIn_0 ++ []
theorem dksX0_isIn_0 : cX0_isIn.data.toList.drop 0 = dktX0_isIn_0 := by decide +kernel
theorem dX0_isIn_0 : decode cX0_isIn 0 = .ok (.iload_n 0, 1) := dk_26 (dk_at dksX0_isIn_0 0 rfl rfl)
theorem dX0_isIn_1 : decode cX0_isIn 1 = .ok (.iload_n 1, 1) := dk_27 (dk_at dksX0_isIn_0 1 rfl rfl)
theorem dX0_isIn_2 : decode cX0_isIn 2 = .ok (.if_icmp .lt 12, 3) := dk_161 0 12 (dk_at dksX0_isIn_0 2 rfl rfl)
theorem dX0_isIn_5 : decode cX0_isIn 5 = .ok (.iload_n 0, 1) := dk_26 (dk_at dksX0_isIn_0 5 rfl rfl)
theorem dX0_isIn_6 : decode cX0_isIn 6 = .ok (.iload_n 2, 1) := dk_28 (dk_at dksX0_isIn_0 6 rfl rfl)
theorem dX0_isIn_7 : decode cX0_isIn 7 = .ok (.if_icmp .gt 7, 3) := dk_163 0 7 (dk_at dksX0_isIn_0 7 rfl rfl)
theorem dX0_isIn_10 : decode cX0_isIn 10 = .ok (.iconst 1, 1) := dk_4 (dk_at dksX0_isIn_0 10 rfl rfl)
theorem dX0_isIn_11 : decode cX0_isIn 11 = .ok (.goto 4, 3) := dk_167 0 4 (dk_at dksX0_isIn_0 11 rfl rfl)
theorem dX0_isIn_14 : decode cX0_isIn 14 = .ok (.iconst 0, 1) := dk_3 (dk_at dksX0_isIn_0 14 rfl rfl)
theorem dX0_isIn_15 : decode cX0_isIn 15 = .ok (.ireturn, 1) := dk_172 (dk_at dksX0_isIn_0 15 rfl rfl)
abbrev cX0_plea : ByteArray := prog_1_method_18_code
def yX0_plea : MethodName := ⟨RX0, "plea", "(I)I"⟩
def dkwX0_plea_1 : List UInt8 := [180, 0, 185, 167, 0, 4, 2, 172]
abbrev dktX0_plea_1 : List UInt8 := dkwX0_plea_1 ++ []
def dkwX0_plea_0 : List UInt8 := [42, 27, 182, 0, 182, 153, 0, 23, 42, 180, 0, 42, 180, 0, 148, 27, 182, 0, 9, 192, 0, 13]
abbrev dktX0_plea_0 : List UInt8 := dkwX0_plea_0 ++ dktX0_plea_1
theorem dksX0_plea_0 : cX0_plea.data.toList.drop 0 = dktX0_plea_0 := by decide +kernel
theorem dksX0_plea_1 : cX0_plea.data.toList.drop 22 = dktX0_plea_1 := dk_seg dksX0_plea_0 22 rfl rfl
theorem dX0_plea_0 : decode cX0_plea 0 = .ok (.aload_n 0, 1) := dk_42 (dk_at dksX0_plea_0 0 rfl rfl)
theorem dX0_plea_1 : decode cX0_plea 1 = .ok (.iload_n 1, 1) := dk_27 (dk_at dksX0_plea_0 1 rfl rfl)
theorem dX0_plea_2 : decode cX0_plea 2 = .ok (.invokevirtual 182, 3) := dk_182 0 182 (dk_at dksX0_plea_0 2 rfl rfl)
theorem dX0_plea_5 : decode cX0_plea 5 = .ok (.ifCond .eq 23, 3) := dk_153 0 23 (dk_at dksX0_plea_0 5 rfl rfl)
theorem dX0_plea_8 : decode cX0_plea 8 = .ok (.aload_n 0, 1) := dk_42 (dk_at dksX0_plea_0 8 rfl rfl)
theorem dX0_plea_9 : decode cX0_plea 9 = .ok (.getfield 42, 3) := dk_180 0 42 (dk_at dksX0_plea_0 9 rfl rfl)
theorem dX0_plea_12 : decode cX0_plea 12 = .ok (.getfield 148, 3) := dk_180 0 148 (dk_at dksX0_plea_0 12 rfl rfl)
theorem dX0_plea_15 : decode cX0_plea 15 = .ok (.iload_n 1, 1) := dk_27 (dk_at dksX0_plea_0 15 rfl rfl)
theorem dX0_plea_16 : decode cX0_plea 16 = .ok (.invokevirtual 9, 3) := dk_182 0 9 (dk_at dksX0_plea_0 16 rfl rfl)
theorem dX0_plea_19 : decode cX0_plea 19 = .ok (.checkcast 13, 3) := dk_192 0 13 (dk_at dksX0_plea_0 19 rfl rfl)
theorem dX0_plea_22 : decode cX0_plea 22 = .ok (.getfield 185, 3) := dk_180 0 185 (dk_at dksX0_plea_1 0 rfl rfl)
theorem dX0_plea_25 : decode cX0_plea 25 = .ok (.goto 4, 3) := dk_167 0 4 (dk_at dksX0_plea_1 3 rfl rfl)
theorem dX0_plea_28 : decode cX0_plea 28 = .ok (.iconst (-1), 1) := dk_2 (dk_at dksX0_plea_1 6 rfl rfl)
theorem dX0_plea_29 : decode cX0_plea 29 = .ok (.ireturn, 1) := dk_172 (dk_at dksX0_plea_1 7 rfl rfl)
abbrev cX0_isPlea : ByteArray := prog_1_method_15_code
def yX0_isPlea : MethodName := ⟨RX0, "isPlea", "(I)Z"⟩
def dkwX0_isPlea_0 : List UInt8 := [27, 3, 42, 182, 0, 167, 4, 100, 184, 0, 154, 172]
abbrev dktX0_isPlea_0 : List UInt8 := dkwX0_isPlea_0 ++ []
theorem dksX0_isPlea_0 : cX0_isPlea.data.toList.drop 0 = dktX0_isPlea_0 := by decide +kernel
theorem dX0_isPlea_0 : decode cX0_isPlea 0 = .ok (.iload_n 1, 1) := dk_27 (dk_at dksX0_isPlea_0 0 rfl rfl)
theorem dX0_isPlea_1 : decode cX0_isPlea 1 = .ok (.iconst 0, 1) := dk_3 (dk_at dksX0_isPlea_0 1 rfl rfl)
theorem dX0_isPlea_2 : decode cX0_isPlea 2 = .ok (.aload_n 0, 1) := dk_42 (dk_at dksX0_isPlea_0 2 rfl rfl)
theorem dX0_isPlea_3 : decode cX0_isPlea 3 = .ok (.invokevirtual 167, 3) := dk_182 0 167 (dk_at dksX0_isPlea_0 3 rfl rfl)
theorem dX0_isPlea_6 : decode cX0_isPlea 6 = .ok (.iconst 1, 1) := dk_4 (dk_at dksX0_isPlea_0 6 rfl rfl)
theorem dX0_isPlea_7 : decode cX0_isPlea 7 = .ok (.isub, 1) := dk_100 (dk_at dksX0_isPlea_0 7 rfl rfl)
theorem dX0_isPlea_8 : decode cX0_isPlea 8 = .ok (.invokestatic 154, 3) := dk_184 0 154 (dk_at dksX0_isPlea_0 8 rfl rfl)
theorem dX0_isPlea_11 : decode cX0_isPlea 11 = .ok (.ireturn, 1) := dk_172 (dk_at dksX0_isPlea_0 11 rfl rfl)
abbrev cX0_pleas : ByteArray := prog_1_method_10_code
def yX0_pleas : MethodName := ⟨RX0, "pleas", "()I"⟩
def dkwX0_pleas_0 : List UInt8 := [42, 180, 0, 42, 180, 0, 148, 182, 0, 3, 172]
abbrev dktX0_pleas_0 : List UInt8 := dkwX0_pleas_0 ++ []
theorem dksX0_pleas_0 : cX0_pleas.data.toList.drop 0 = dktX0_pleas_0 := by decide +kernel
theorem dX0_pleas_0 : decode cX0_pleas 0 = .ok (.aload_n 0, 1) := dk_42 (dk_at dksX0_pleas_0 0 rfl rfl)
theorem dX0_pleas_1 : decode cX0_pleas 1 = .ok (.getfield 42, 3) := dk_180 0 42 (dk_at dksX0_pleas_0 1 rfl rfl)
theorem dX0_pleas_4 : decode cX0_pleas 4 = .ok (.getfield 148, 3) := dk_180 0 148 (dk_at dksX0_pleas_0 4 rfl rfl)
theorem dX0_pleas_7 : decode cX0_pleas 7 = .ok (.invokevirtual 3, 3) := dk_182 0 3 (dk_at dksX0_pleas_0 7 rfl rfl)
theorem dX0_pleas_10 : decode cX0_pleas 10 = .ok (.ireturn, 1) := dk_172 (dk_at dksX0_pleas_0 10 rfl rfl)
abbrev cX0_item : ByteArray := prog_1_method_19_code
def yX0_item : MethodName := ⟨RX0, "item", "(II)I"⟩
def dkwX0_item_4 : List UInt8 := [42, 180, 0, 53, 180, 0, 197, 27, 46, 172, 42, 180, 0, 53, 180, 0, 200, 27, 46, 172, 2, 172]
abbrev dktX0_item_4 : List UInt8 := dkwX0_item_4 ++ []
def dkwX0_item_3 : List UInt8 := [180, 0, 169, 27, 46, 172, 42, 180, 0, 42, 180, 0, 143, 27, 182, 0, 9, 192, 0, 13, 180, 0, 195, 172]
abbrev dktX0_item_3 : List UInt8 := dkwX0_item_3 ++ dktX0_item_4
def dkwX0_item_2 : List UInt8 := [42, 180, 0, 42, 27, 182, 0, 188, 172, 42, 180, 0, 53, 180, 0, 192, 27, 46, 172, 42, 180, 0, 53]
abbrev dktX0_item_2 : List UInt8 := dkwX0_item_2 ++ dktX0_item_3
def dkwX0_item_1 : List UInt8 := [170, 0, 0, 0, 104, 0, 0, 0, 0, 0, 0, 0, 5, 0, 0, 0, 37, 0, 0, 0, 46, 0, 0, 0, 56, 0, 0, 0, 66, 0, 0, 0, 84, 0, 0, 0, 94]
abbrev dktX0_item_1 : List UInt8 := dkwX0_item_1 ++ dktX0_item_2
def dkwX0_item_0 : List UInt8 := [42, 27, 182, 0, 158, 154, 0, 5, 2, 172, 28]
abbrev dktX0_item_0 : List UInt8 := dkwX0_item_0 ++ dktX0_item_1
theorem dksX0_item_0 : cX0_item.data.toList.drop 0 = dktX0_item_0 := by decide +kernel
theorem dksX0_item_1 : cX0_item.data.toList.drop 11 = dktX0_item_1 := dk_seg dksX0_item_0 11 rfl rfl
theorem dksX0_item_2 : cX0_item.data.toList.drop 48 = dktX0_item_2 := dk_seg dksX0_item_1 37 rfl rfl
theorem dksX0_item_3 : cX0_item.data.toList.drop 71 = dktX0_item_3 := dk_seg dksX0_item_2 23 rfl rfl
theorem dksX0_item_4 : cX0_item.data.toList.drop 95 = dktX0_item_4 := dk_seg dksX0_item_3 24 rfl rfl
theorem dX0_item_0 : decode cX0_item 0 = .ok (.aload_n 0, 1) := dk_42 (dk_at dksX0_item_0 0 rfl rfl)
theorem dX0_item_1 : decode cX0_item 1 = .ok (.iload_n 1, 1) := dk_27 (dk_at dksX0_item_0 1 rfl rfl)
theorem dX0_item_2 : decode cX0_item 2 = .ok (.invokevirtual 158, 3) := dk_182 0 158 (dk_at dksX0_item_0 2 rfl rfl)
theorem dX0_item_5 : decode cX0_item 5 = .ok (.ifCond .ne 5, 3) := dk_154 0 5 (dk_at dksX0_item_0 5 rfl rfl)
theorem dX0_item_8 : decode cX0_item 8 = .ok (.iconst (-1), 1) := dk_2 (dk_at dksX0_item_0 8 rfl rfl)
theorem dX0_item_9 : decode cX0_item 9 = .ok (.ireturn, 1) := dk_172 (dk_at dksX0_item_0 9 rfl rfl)
theorem dX0_item_10 : decode cX0_item 10 = .ok (.iload_n 2, 1) := dk_28 (dk_at dksX0_item_0 10 rfl rfl)
theorem dX0_item_11 : decode cX0_item 11 = .ok (.tableswitch 104 0 5 #[37, 46, 56, 66, 84, 94], 37) := by decide +kernel
theorem dX0_item_48 : decode cX0_item 48 = .ok (.aload_n 0, 1) := dk_42 (dk_at dksX0_item_2 0 rfl rfl)
theorem dX0_item_49 : decode cX0_item 49 = .ok (.getfield 42, 3) := dk_180 0 42 (dk_at dksX0_item_2 1 rfl rfl)
theorem dX0_item_52 : decode cX0_item 52 = .ok (.iload_n 1, 1) := dk_27 (dk_at dksX0_item_2 4 rfl rfl)
theorem dX0_item_53 : decode cX0_item 53 = .ok (.invokevirtual 188, 3) := dk_182 0 188 (dk_at dksX0_item_2 5 rfl rfl)
theorem dX0_item_56 : decode cX0_item 56 = .ok (.ireturn, 1) := dk_172 (dk_at dksX0_item_2 8 rfl rfl)
theorem dX0_item_57 : decode cX0_item 57 = .ok (.aload_n 0, 1) := dk_42 (dk_at dksX0_item_2 9 rfl rfl)
theorem dX0_item_58 : decode cX0_item 58 = .ok (.getfield 53, 3) := dk_180 0 53 (dk_at dksX0_item_2 10 rfl rfl)
theorem dX0_item_61 : decode cX0_item 61 = .ok (.getfield 192, 3) := dk_180 0 192 (dk_at dksX0_item_2 13 rfl rfl)
theorem dX0_item_64 : decode cX0_item 64 = .ok (.iload_n 1, 1) := dk_27 (dk_at dksX0_item_2 16 rfl rfl)
theorem dX0_item_65 : decode cX0_item 65 = .ok (.iaload, 1) := dk_46 (dk_at dksX0_item_2 17 rfl rfl)
theorem dX0_item_66 : decode cX0_item 66 = .ok (.ireturn, 1) := dk_172 (dk_at dksX0_item_2 18 rfl rfl)
theorem dX0_item_67 : decode cX0_item 67 = .ok (.aload_n 0, 1) := dk_42 (dk_at dksX0_item_2 19 rfl rfl)
theorem dX0_item_68 : decode cX0_item 68 = .ok (.getfield 53, 3) := dk_180 0 53 (dk_at dksX0_item_2 20 rfl rfl)
theorem dX0_item_71 : decode cX0_item 71 = .ok (.getfield 169, 3) := dk_180 0 169 (dk_at dksX0_item_3 0 rfl rfl)
theorem dX0_item_74 : decode cX0_item 74 = .ok (.iload_n 1, 1) := dk_27 (dk_at dksX0_item_3 3 rfl rfl)
theorem dX0_item_75 : decode cX0_item 75 = .ok (.iaload, 1) := dk_46 (dk_at dksX0_item_3 4 rfl rfl)
theorem dX0_item_76 : decode cX0_item 76 = .ok (.ireturn, 1) := dk_172 (dk_at dksX0_item_3 5 rfl rfl)
theorem dX0_item_77 : decode cX0_item 77 = .ok (.aload_n 0, 1) := dk_42 (dk_at dksX0_item_3 6 rfl rfl)
theorem dX0_item_78 : decode cX0_item 78 = .ok (.getfield 42, 3) := dk_180 0 42 (dk_at dksX0_item_3 7 rfl rfl)
theorem dX0_item_81 : decode cX0_item 81 = .ok (.getfield 143, 3) := dk_180 0 143 (dk_at dksX0_item_3 10 rfl rfl)
theorem dX0_item_84 : decode cX0_item 84 = .ok (.iload_n 1, 1) := dk_27 (dk_at dksX0_item_3 13 rfl rfl)
theorem dX0_item_85 : decode cX0_item 85 = .ok (.invokevirtual 9, 3) := dk_182 0 9 (dk_at dksX0_item_3 14 rfl rfl)
theorem dX0_item_88 : decode cX0_item 88 = .ok (.checkcast 13, 3) := dk_192 0 13 (dk_at dksX0_item_3 17 rfl rfl)
theorem dX0_item_91 : decode cX0_item 91 = .ok (.getfield 195, 3) := dk_180 0 195 (dk_at dksX0_item_3 20 rfl rfl)
theorem dX0_item_94 : decode cX0_item 94 = .ok (.ireturn, 1) := dk_172 (dk_at dksX0_item_3 23 rfl rfl)
theorem dX0_item_95 : decode cX0_item 95 = .ok (.aload_n 0, 1) := dk_42 (dk_at dksX0_item_4 0 rfl rfl)
theorem dX0_item_96 : decode cX0_item 96 = .ok (.getfield 53, 3) := dk_180 0 53 (dk_at dksX0_item_4 1 rfl rfl)
theorem dX0_item_99 : decode cX0_item 99 = .ok (.getfield 197, 3) := dk_180 0 197 (dk_at dksX0_item_4 4 rfl rfl)
theorem dX0_item_102 : decode cX0_item 102 = .ok (.iload_n 1, 1) := dk_27 (dk_at dksX0_item_4 7 rfl rfl)
theorem dX0_item_103 : decode cX0_item 103 = .ok (.iaload, 1) := dk_46 (dk_at dksX0_item_4 8 rfl rfl)
theorem dX0_item_104 : decode cX0_item 104 = .ok (.ireturn, 1) := dk_172 (dk_at dksX0_item_4 9 rfl rfl)
theorem dX0_item_105 : decode cX0_item 105 = .ok (.aload_n 0, 1) := dk_42 (dk_at dksX0_item_4 10 rfl rfl)
theorem dX0_item_106 : decode cX0_item 106 = .ok (.getfield 53, 3) := dk_180 0 53 (dk_at dksX0_item_4 11 rfl rfl)
theorem dX0_item_109 : decode cX0_item 109 = .ok (.getfield 200, 3) := dk_180 0 200 (dk_at dksX0_item_4 14 rfl rfl)
theorem dX0_item_112 : decode cX0_item 112 = .ok (.iload_n 1, 1) := dk_27 (dk_at dksX0_item_4 17 rfl rfl)
theorem dX0_item_113 : decode cX0_item 113 = .ok (.iaload, 1) := dk_46 (dk_at dksX0_item_4 18 rfl rfl)
theorem dX0_item_114 : decode cX0_item 114 = .ok (.ireturn, 1) := dk_172 (dk_at dksX0_item_4 19 rfl rfl)
theorem dX0_item_115 : decode cX0_item 115 = .ok (.iconst (-1), 1) := dk_2 (dk_at dksX0_item_4 20 rfl rfl)
theorem dX0_item_116 : decode cX0_item 116 = .ok (.ireturn, 1) := dk_172 (dk_at dksX0_item_4 21 rfl rfl)
abbrev cX0_isCase : ByteArray := prog_1_method_12_code
def yX0_isCase : MethodName := ⟨RX0, "isCase", "(I)Z"⟩
def dkwX0_isCase_0 : List UInt8 := [27, 3, 42, 182, 0, 140, 4, 100, 184, 0, 154, 172]
abbrev dktX0_isCase_0 : List UInt8 := dkwX0_isCase_0 ++ []
theorem dksX0_isCase_0 : cX0_isCase.data.toList.drop 0 = dktX0_isCase_0 := by decide +kernel
theorem dX0_isCase_0 : decode cX0_isCase 0 = .ok (.iload_n 1, 1) := dk_27 (dk_at dksX0_isCase_0 0 rfl rfl)
theorem dX0_isCase_1 : decode cX0_isCase 1 = .ok (.iconst 0, 1) := dk_3 (dk_at dksX0_isCase_0 1 rfl rfl)
theorem dX0_isCase_2 : decode cX0_isCase 2 = .ok (.aload_n 0, 1) := dk_42 (dk_at dksX0_isCase_0 2 rfl rfl)
theorem dX0_isCase_3 : decode cX0_isCase 3 = .ok (.invokevirtual 140, 3) := dk_182 0 140 (dk_at dksX0_isCase_0 3 rfl rfl)
theorem dX0_isCase_6 : decode cX0_isCase 6 = .ok (.iconst 1, 1) := dk_4 (dk_at dksX0_isCase_0 6 rfl rfl)
theorem dX0_isCase_7 : decode cX0_isCase 7 = .ok (.isub, 1) := dk_100 (dk_at dksX0_isCase_0 7 rfl rfl)
theorem dX0_isCase_8 : decode cX0_isCase 8 = .ok (.invokestatic 154, 3) := dk_184 0 154 (dk_at dksX0_isCase_0 8 rfl rfl)
theorem dX0_isCase_11 : decode cX0_isCase 11 = .ok (.ireturn, 1) := dk_172 (dk_at dksX0_isCase_0 11 rfl rfl)
abbrev cX0_verdict : ByteArray := prog_1_method_20_code
def yX0_verdict : MethodName := ⟨RX0, "verdict", "(I)I"⟩
def dkwX0_verdict_1 : List UInt8 := [18, 206, 172]
abbrev dktX0_verdict_1 : List UInt8 := dkwX0_verdict_1 ++ []
def dkwX0_verdict_0 : List UInt8 := [42, 27, 182, 0, 158, 153, 0, 18, 42, 180, 0, 53, 42, 180, 0, 42, 27, 182, 0, 203, 167, 0, 5]
abbrev dktX0_verdict_0 : List UInt8 := dkwX0_verdict_0 ++ dktX0_verdict_1
theorem dksX0_verdict_0 : cX0_verdict.data.toList.drop 0 = dktX0_verdict_0 := by decide +kernel
theorem dksX0_verdict_1 : cX0_verdict.data.toList.drop 23 = dktX0_verdict_1 := dk_seg dksX0_verdict_0 23 rfl rfl
theorem dX0_verdict_0 : decode cX0_verdict 0 = .ok (.aload_n 0, 1) := dk_42 (dk_at dksX0_verdict_0 0 rfl rfl)
theorem dX0_verdict_1 : decode cX0_verdict 1 = .ok (.iload_n 1, 1) := dk_27 (dk_at dksX0_verdict_0 1 rfl rfl)
theorem dX0_verdict_2 : decode cX0_verdict 2 = .ok (.invokevirtual 158, 3) := dk_182 0 158 (dk_at dksX0_verdict_0 2 rfl rfl)
theorem dX0_verdict_5 : decode cX0_verdict 5 = .ok (.ifCond .eq 18, 3) := dk_153 0 18 (dk_at dksX0_verdict_0 5 rfl rfl)
theorem dX0_verdict_8 : decode cX0_verdict 8 = .ok (.aload_n 0, 1) := dk_42 (dk_at dksX0_verdict_0 8 rfl rfl)
theorem dX0_verdict_9 : decode cX0_verdict 9 = .ok (.getfield 53, 3) := dk_180 0 53 (dk_at dksX0_verdict_0 9 rfl rfl)
theorem dX0_verdict_12 : decode cX0_verdict 12 = .ok (.aload_n 0, 1) := dk_42 (dk_at dksX0_verdict_0 12 rfl rfl)
theorem dX0_verdict_13 : decode cX0_verdict 13 = .ok (.getfield 42, 3) := dk_180 0 42 (dk_at dksX0_verdict_0 13 rfl rfl)
theorem dX0_verdict_16 : decode cX0_verdict 16 = .ok (.iload_n 1, 1) := dk_27 (dk_at dksX0_verdict_0 16 rfl rfl)
theorem dX0_verdict_17 : decode cX0_verdict 17 = .ok (.invokevirtual 203, 3) := dk_182 0 203 (dk_at dksX0_verdict_0 17 rfl rfl)
theorem dX0_verdict_20 : decode cX0_verdict 20 = .ok (.goto 5, 3) := dk_167 0 5 (dk_at dksX0_verdict_0 20 rfl rfl)
theorem dX0_verdict_23 : decode cX0_verdict 23 = .ok (.ldc 206, 2) := dk_18 206 (dk_at dksX0_verdict_1 0 rfl rfl)
theorem dX0_verdict_25 : decode cX0_verdict 25 = .ok (.ireturn, 1) := dk_172 (dk_at dksX0_verdict_1 2 rfl rfl)
abbrev cX0_hour : ByteArray := prog_1_method_23_code
def yX0_hour : MethodName := ⟨RX0, "hour", "(I)I"⟩
def dkwX0_hour_4 : List UInt8 := [42, 180, 0, 53, 42, 180, 0, 42, 182, 0, 230, 172]
abbrev dktX0_hour_4 : List UInt8 := dkwX0_hour_4 ++ []
def dkwX0_hour_3 : List UInt8 := [181, 0, 220, 42, 180, 0, 53, 89, 180, 0, 217, 4, 96, 181, 0, 217, 42, 180, 0, 53, 3, 181, 0, 226]
abbrev dktX0_hour_3 : List UInt8 := dkwX0_hour_3 ++ dktX0_hour_4
def dkwX0_hour_2 : List UInt8 := [3, 182, 0, 174, 27, 122, 4, 126, 154, 0, 5, 2, 172, 42, 182, 0, 223, 42, 180, 0, 53, 27]
abbrev dktX0_hour_2 : List UInt8 := dkwX0_hour_2 ++ dktX0_hour_3
def dkwX0_hour_1 : List UInt8 := [180, 0, 53, 180, 0, 220, 159, 0, 31, 42, 180, 0, 53, 42, 180, 0, 42, 42, 180, 0, 53, 180, 0, 220]
abbrev dktX0_hour_1 : List UInt8 := dkwX0_hour_1 ++ dktX0_hour_2
def dkwX0_hour_0 : List UInt8 := [42, 27, 182, 0, 171, 153, 0, 53, 42, 180, 0, 53, 180, 0, 217, 17, 3, 231, 159, 0, 40, 27, 42]
abbrev dktX0_hour_0 : List UInt8 := dkwX0_hour_0 ++ dktX0_hour_1
theorem dksX0_hour_0 : cX0_hour.data.toList.drop 0 = dktX0_hour_0 := by decide +kernel
theorem dksX0_hour_1 : cX0_hour.data.toList.drop 23 = dktX0_hour_1 := dk_seg dksX0_hour_0 23 rfl rfl
theorem dksX0_hour_2 : cX0_hour.data.toList.drop 47 = dktX0_hour_2 := dk_seg dksX0_hour_1 24 rfl rfl
theorem dksX0_hour_3 : cX0_hour.data.toList.drop 69 = dktX0_hour_3 := dk_seg dksX0_hour_2 22 rfl rfl
theorem dksX0_hour_4 : cX0_hour.data.toList.drop 93 = dktX0_hour_4 := dk_seg dksX0_hour_3 24 rfl rfl
theorem dX0_hour_0 : decode cX0_hour 0 = .ok (.aload_n 0, 1) := dk_42 (dk_at dksX0_hour_0 0 rfl rfl)
theorem dX0_hour_1 : decode cX0_hour 1 = .ok (.iload_n 1, 1) := dk_27 (dk_at dksX0_hour_0 1 rfl rfl)
theorem dX0_hour_2 : decode cX0_hour 2 = .ok (.invokevirtual 171, 3) := dk_182 0 171 (dk_at dksX0_hour_0 2 rfl rfl)
theorem dX0_hour_5 : decode cX0_hour 5 = .ok (.ifCond .eq 53, 3) := dk_153 0 53 (dk_at dksX0_hour_0 5 rfl rfl)
theorem dX0_hour_8 : decode cX0_hour 8 = .ok (.aload_n 0, 1) := dk_42 (dk_at dksX0_hour_0 8 rfl rfl)
theorem dX0_hour_9 : decode cX0_hour 9 = .ok (.getfield 53, 3) := dk_180 0 53 (dk_at dksX0_hour_0 9 rfl rfl)
theorem dX0_hour_12 : decode cX0_hour 12 = .ok (.getfield 217, 3) := dk_180 0 217 (dk_at dksX0_hour_0 12 rfl rfl)
theorem dX0_hour_15 : decode cX0_hour 15 = .ok (.sipush 999, 3) := dk_17 3 231 (dk_at dksX0_hour_0 15 rfl rfl)
theorem dX0_hour_18 : decode cX0_hour 18 = .ok (.if_icmp .eq 40, 3) := dk_159 0 40 (dk_at dksX0_hour_0 18 rfl rfl)
theorem dX0_hour_21 : decode cX0_hour 21 = .ok (.iload_n 1, 1) := dk_27 (dk_at dksX0_hour_0 21 rfl rfl)
theorem dX0_hour_22 : decode cX0_hour 22 = .ok (.aload_n 0, 1) := dk_42 (dk_at dksX0_hour_0 22 rfl rfl)
theorem dX0_hour_23 : decode cX0_hour 23 = .ok (.getfield 53, 3) := dk_180 0 53 (dk_at dksX0_hour_1 0 rfl rfl)
theorem dX0_hour_26 : decode cX0_hour 26 = .ok (.getfield 220, 3) := dk_180 0 220 (dk_at dksX0_hour_1 3 rfl rfl)
theorem dX0_hour_29 : decode cX0_hour 29 = .ok (.if_icmp .eq 31, 3) := dk_159 0 31 (dk_at dksX0_hour_1 6 rfl rfl)
theorem dX0_hour_32 : decode cX0_hour 32 = .ok (.aload_n 0, 1) := dk_42 (dk_at dksX0_hour_1 9 rfl rfl)
theorem dX0_hour_33 : decode cX0_hour 33 = .ok (.getfield 53, 3) := dk_180 0 53 (dk_at dksX0_hour_1 10 rfl rfl)
theorem dX0_hour_36 : decode cX0_hour 36 = .ok (.aload_n 0, 1) := dk_42 (dk_at dksX0_hour_1 13 rfl rfl)
theorem dX0_hour_37 : decode cX0_hour 37 = .ok (.getfield 42, 3) := dk_180 0 42 (dk_at dksX0_hour_1 14 rfl rfl)
theorem dX0_hour_40 : decode cX0_hour 40 = .ok (.aload_n 0, 1) := dk_42 (dk_at dksX0_hour_1 17 rfl rfl)
theorem dX0_hour_41 : decode cX0_hour 41 = .ok (.getfield 53, 3) := dk_180 0 53 (dk_at dksX0_hour_1 18 rfl rfl)
theorem dX0_hour_44 : decode cX0_hour 44 = .ok (.getfield 220, 3) := dk_180 0 220 (dk_at dksX0_hour_1 21 rfl rfl)
theorem dX0_hour_47 : decode cX0_hour 47 = .ok (.iconst 0, 1) := dk_3 (dk_at dksX0_hour_2 0 rfl rfl)
theorem dX0_hour_48 : decode cX0_hour 48 = .ok (.invokevirtual 174, 3) := dk_182 0 174 (dk_at dksX0_hour_2 1 rfl rfl)
theorem dX0_hour_51 : decode cX0_hour 51 = .ok (.iload_n 1, 1) := dk_27 (dk_at dksX0_hour_2 4 rfl rfl)
theorem dX0_hour_52 : decode cX0_hour 52 = .ok (.ishr, 1) := dk_122 (dk_at dksX0_hour_2 5 rfl rfl)
theorem dX0_hour_53 : decode cX0_hour 53 = .ok (.iconst 1, 1) := dk_4 (dk_at dksX0_hour_2 6 rfl rfl)
theorem dX0_hour_54 : decode cX0_hour 54 = .ok (.iand, 1) := dk_126 (dk_at dksX0_hour_2 7 rfl rfl)
theorem dX0_hour_55 : decode cX0_hour 55 = .ok (.ifCond .ne 5, 3) := dk_154 0 5 (dk_at dksX0_hour_2 8 rfl rfl)
theorem dX0_hour_58 : decode cX0_hour 58 = .ok (.iconst (-1), 1) := dk_2 (dk_at dksX0_hour_2 11 rfl rfl)
theorem dX0_hour_59 : decode cX0_hour 59 = .ok (.ireturn, 1) := dk_172 (dk_at dksX0_hour_2 12 rfl rfl)
theorem dX0_hour_60 : decode cX0_hour 60 = .ok (.aload_n 0, 1) := dk_42 (dk_at dksX0_hour_2 13 rfl rfl)
theorem dX0_hour_61 : decode cX0_hour 61 = .ok (.invokevirtual 223, 3) := dk_182 0 223 (dk_at dksX0_hour_2 14 rfl rfl)
theorem dX0_hour_64 : decode cX0_hour 64 = .ok (.aload_n 0, 1) := dk_42 (dk_at dksX0_hour_2 17 rfl rfl)
theorem dX0_hour_65 : decode cX0_hour 65 = .ok (.getfield 53, 3) := dk_180 0 53 (dk_at dksX0_hour_2 18 rfl rfl)
theorem dX0_hour_68 : decode cX0_hour 68 = .ok (.iload_n 1, 1) := dk_27 (dk_at dksX0_hour_2 21 rfl rfl)
theorem dX0_hour_69 : decode cX0_hour 69 = .ok (.putfield 220, 3) := dk_181 0 220 (dk_at dksX0_hour_3 0 rfl rfl)
theorem dX0_hour_72 : decode cX0_hour 72 = .ok (.aload_n 0, 1) := dk_42 (dk_at dksX0_hour_3 3 rfl rfl)
theorem dX0_hour_73 : decode cX0_hour 73 = .ok (.getfield 53, 3) := dk_180 0 53 (dk_at dksX0_hour_3 4 rfl rfl)
theorem dX0_hour_76 : decode cX0_hour 76 = .ok (.dup, 1) := dk_89 (dk_at dksX0_hour_3 7 rfl rfl)
theorem dX0_hour_77 : decode cX0_hour 77 = .ok (.getfield 217, 3) := dk_180 0 217 (dk_at dksX0_hour_3 8 rfl rfl)
theorem dX0_hour_80 : decode cX0_hour 80 = .ok (.iconst 1, 1) := dk_4 (dk_at dksX0_hour_3 11 rfl rfl)
theorem dX0_hour_81 : decode cX0_hour 81 = .ok (.iadd, 1) := dk_96 (dk_at dksX0_hour_3 12 rfl rfl)
theorem dX0_hour_82 : decode cX0_hour 82 = .ok (.putfield 217, 3) := dk_181 0 217 (dk_at dksX0_hour_3 13 rfl rfl)
theorem dX0_hour_85 : decode cX0_hour 85 = .ok (.aload_n 0, 1) := dk_42 (dk_at dksX0_hour_3 16 rfl rfl)
theorem dX0_hour_86 : decode cX0_hour 86 = .ok (.getfield 53, 3) := dk_180 0 53 (dk_at dksX0_hour_3 17 rfl rfl)
theorem dX0_hour_89 : decode cX0_hour 89 = .ok (.iconst 0, 1) := dk_3 (dk_at dksX0_hour_3 20 rfl rfl)
theorem dX0_hour_90 : decode cX0_hour 90 = .ok (.putfield 226, 3) := dk_181 0 226 (dk_at dksX0_hour_3 21 rfl rfl)
theorem dX0_hour_93 : decode cX0_hour 93 = .ok (.aload_n 0, 1) := dk_42 (dk_at dksX0_hour_4 0 rfl rfl)
theorem dX0_hour_94 : decode cX0_hour 94 = .ok (.getfield 53, 3) := dk_180 0 53 (dk_at dksX0_hour_4 1 rfl rfl)
theorem dX0_hour_97 : decode cX0_hour 97 = .ok (.aload_n 0, 1) := dk_42 (dk_at dksX0_hour_4 4 rfl rfl)
theorem dX0_hour_98 : decode cX0_hour 98 = .ok (.getfield 42, 3) := dk_180 0 42 (dk_at dksX0_hour_4 5 rfl rfl)
theorem dX0_hour_101 : decode cX0_hour 101 = .ok (.invokevirtual 230, 3) := dk_182 0 230 (dk_at dksX0_hour_4 8 rfl rfl)
theorem dX0_hour_104 : decode cX0_hour 104 = .ok (.ireturn, 1) := dk_172 (dk_at dksX0_hour_4 11 rfl rfl)
abbrev cX0_act : ByteArray := prog_1_method_21_code
def yX0_act : MethodName := ⟨RX0, "act", "()V"⟩
def dkwX0_act_3 : List UInt8 := [180, 0, 117, 4, 96, 181, 0, 117, 42, 3, 181, 0, 120, 177]
abbrev dktX0_act_3 : List UInt8 := dkwX0_act_3 ++ []
def dkwX0_act_2 : List UInt8 := [181, 0, 117, 42, 180, 0, 63, 42, 180, 0, 117, 50, 42, 180, 0, 53, 182, 0, 213, 87, 42, 89]
abbrev dktX0_act_2 : List UInt8 := dkwX0_act_2 ++ dktX0_act_3
def dkwX0_act_1 : List UInt8 := [180, 0, 63, 3, 16, 39, 184, 0, 207, 42, 180, 0, 63, 16, 39, 43, 83, 42, 89, 180, 0, 117, 4, 100]
abbrev dktX0_act_1 : List UInt8 := dkwX0_act_1 ++ dktX0_act_2
def dkwX0_act_0 : List UInt8 := [42, 180, 0, 117, 16, 40, 160, 0, 43, 42, 180, 0, 63, 3, 50, 76, 42, 180, 0, 63, 4, 42]
abbrev dktX0_act_0 : List UInt8 := dkwX0_act_0 ++ dktX0_act_1
theorem dksX0_act_0 : cX0_act.data.toList.drop 0 = dktX0_act_0 := by decide +kernel
theorem dksX0_act_1 : cX0_act.data.toList.drop 22 = dktX0_act_1 := dk_seg dksX0_act_0 22 rfl rfl
theorem dksX0_act_2 : cX0_act.data.toList.drop 46 = dktX0_act_2 := dk_seg dksX0_act_1 24 rfl rfl
theorem dksX0_act_3 : cX0_act.data.toList.drop 68 = dktX0_act_3 := dk_seg dksX0_act_2 22 rfl rfl
theorem dX0_act_0 : decode cX0_act 0 = .ok (.aload_n 0, 1) := dk_42 (dk_at dksX0_act_0 0 rfl rfl)
theorem dX0_act_1 : decode cX0_act 1 = .ok (.getfield 117, 3) := dk_180 0 117 (dk_at dksX0_act_0 1 rfl rfl)
theorem dX0_act_4 : decode cX0_act 4 = .ok (.bipush 40, 2) := dk_16 40 (dk_at dksX0_act_0 4 rfl rfl)
theorem dX0_act_6 : decode cX0_act 6 = .ok (.if_icmp .ne 43, 3) := dk_160 0 43 (dk_at dksX0_act_0 6 rfl rfl)
theorem dX0_act_9 : decode cX0_act 9 = .ok (.aload_n 0, 1) := dk_42 (dk_at dksX0_act_0 9 rfl rfl)
theorem dX0_act_10 : decode cX0_act 10 = .ok (.getfield 63, 3) := dk_180 0 63 (dk_at dksX0_act_0 10 rfl rfl)
theorem dX0_act_13 : decode cX0_act 13 = .ok (.iconst 0, 1) := dk_3 (dk_at dksX0_act_0 13 rfl rfl)
theorem dX0_act_14 : decode cX0_act 14 = .ok (.aaload, 1) := dk_50 (dk_at dksX0_act_0 14 rfl rfl)
theorem dX0_act_15 : decode cX0_act 15 = .ok (.astore_n 1, 1) := dk_76 (dk_at dksX0_act_0 15 rfl rfl)
theorem dX0_act_16 : decode cX0_act 16 = .ok (.aload_n 0, 1) := dk_42 (dk_at dksX0_act_0 16 rfl rfl)
theorem dX0_act_17 : decode cX0_act 17 = .ok (.getfield 63, 3) := dk_180 0 63 (dk_at dksX0_act_0 17 rfl rfl)
theorem dX0_act_20 : decode cX0_act 20 = .ok (.iconst 1, 1) := dk_4 (dk_at dksX0_act_0 20 rfl rfl)
theorem dX0_act_21 : decode cX0_act 21 = .ok (.aload_n 0, 1) := dk_42 (dk_at dksX0_act_0 21 rfl rfl)
theorem dX0_act_22 : decode cX0_act 22 = .ok (.getfield 63, 3) := dk_180 0 63 (dk_at dksX0_act_1 0 rfl rfl)
theorem dX0_act_25 : decode cX0_act 25 = .ok (.iconst 0, 1) := dk_3 (dk_at dksX0_act_1 3 rfl rfl)
theorem dX0_act_26 : decode cX0_act 26 = .ok (.bipush 39, 2) := dk_16 39 (dk_at dksX0_act_1 4 rfl rfl)
theorem dX0_act_28 : decode cX0_act 28 = .ok (.invokestatic 207, 3) := dk_184 0 207 (dk_at dksX0_act_1 6 rfl rfl)
theorem dX0_act_31 : decode cX0_act 31 = .ok (.aload_n 0, 1) := dk_42 (dk_at dksX0_act_1 9 rfl rfl)
theorem dX0_act_32 : decode cX0_act 32 = .ok (.getfield 63, 3) := dk_180 0 63 (dk_at dksX0_act_1 10 rfl rfl)
theorem dX0_act_35 : decode cX0_act 35 = .ok (.bipush 39, 2) := dk_16 39 (dk_at dksX0_act_1 13 rfl rfl)
theorem dX0_act_37 : decode cX0_act 37 = .ok (.aload_n 1, 1) := dk_43 (dk_at dksX0_act_1 15 rfl rfl)
theorem dX0_act_38 : decode cX0_act 38 = .ok (.aastore, 1) := dk_83 (dk_at dksX0_act_1 16 rfl rfl)
theorem dX0_act_39 : decode cX0_act 39 = .ok (.aload_n 0, 1) := dk_42 (dk_at dksX0_act_1 17 rfl rfl)
theorem dX0_act_40 : decode cX0_act 40 = .ok (.dup, 1) := dk_89 (dk_at dksX0_act_1 18 rfl rfl)
theorem dX0_act_41 : decode cX0_act 41 = .ok (.getfield 117, 3) := dk_180 0 117 (dk_at dksX0_act_1 19 rfl rfl)
theorem dX0_act_44 : decode cX0_act 44 = .ok (.iconst 1, 1) := dk_4 (dk_at dksX0_act_1 22 rfl rfl)
theorem dX0_act_45 : decode cX0_act 45 = .ok (.isub, 1) := dk_100 (dk_at dksX0_act_1 23 rfl rfl)
theorem dX0_act_46 : decode cX0_act 46 = .ok (.putfield 117, 3) := dk_181 0 117 (dk_at dksX0_act_2 0 rfl rfl)
theorem dX0_act_49 : decode cX0_act 49 = .ok (.aload_n 0, 1) := dk_42 (dk_at dksX0_act_2 3 rfl rfl)
theorem dX0_act_50 : decode cX0_act 50 = .ok (.getfield 63, 3) := dk_180 0 63 (dk_at dksX0_act_2 4 rfl rfl)
theorem dX0_act_53 : decode cX0_act 53 = .ok (.aload_n 0, 1) := dk_42 (dk_at dksX0_act_2 7 rfl rfl)
theorem dX0_act_54 : decode cX0_act 54 = .ok (.getfield 117, 3) := dk_180 0 117 (dk_at dksX0_act_2 8 rfl rfl)
theorem dX0_act_57 : decode cX0_act 57 = .ok (.aaload, 1) := dk_50 (dk_at dksX0_act_2 11 rfl rfl)
theorem dX0_act_58 : decode cX0_act 58 = .ok (.aload_n 0, 1) := dk_42 (dk_at dksX0_act_2 12 rfl rfl)
theorem dX0_act_59 : decode cX0_act 59 = .ok (.getfield 53, 3) := dk_180 0 53 (dk_at dksX0_act_2 13 rfl rfl)
theorem dX0_act_62 : decode cX0_act 62 = .ok (.invokevirtual 213, 3) := dk_182 0 213 (dk_at dksX0_act_2 16 rfl rfl)
theorem dX0_act_65 : decode cX0_act 65 = .ok (.pop, 1) := dk_87 (dk_at dksX0_act_2 19 rfl rfl)
theorem dX0_act_66 : decode cX0_act 66 = .ok (.aload_n 0, 1) := dk_42 (dk_at dksX0_act_2 20 rfl rfl)
theorem dX0_act_67 : decode cX0_act 67 = .ok (.dup, 1) := dk_89 (dk_at dksX0_act_2 21 rfl rfl)
theorem dX0_act_68 : decode cX0_act 68 = .ok (.getfield 117, 3) := dk_180 0 117 (dk_at dksX0_act_3 0 rfl rfl)
theorem dX0_act_71 : decode cX0_act 71 = .ok (.iconst 1, 1) := dk_4 (dk_at dksX0_act_3 3 rfl rfl)
theorem dX0_act_72 : decode cX0_act 72 = .ok (.iadd, 1) := dk_96 (dk_at dksX0_act_3 4 rfl rfl)
theorem dX0_act_73 : decode cX0_act 73 = .ok (.putfield 117, 3) := dk_181 0 117 (dk_at dksX0_act_3 5 rfl rfl)
theorem dX0_act_76 : decode cX0_act 76 = .ok (.aload_n 0, 1) := dk_42 (dk_at dksX0_act_3 8 rfl rfl)
theorem dX0_act_77 : decode cX0_act 77 = .ok (.iconst 0, 1) := dk_3 (dk_at dksX0_act_3 9 rfl rfl)
theorem dX0_act_78 : decode cX0_act 78 = .ok (.putfield 120, 3) := dk_181 0 120 (dk_at dksX0_act_3 10 rfl rfl)
theorem dX0_act_81 : decode cX0_act 81 = .ok (.return_, 1) := dk_177 (dk_at dksX0_act_3 13 rfl rfl)
abbrev cX0_hear : ByteArray := prog_1_method_24_code
def yX0_hear : MethodName := ⟨RX0, "hear", "(I)I"⟩
def dkwX0_hear_2 : List UInt8 := [180, 0, 42, 27, 182, 0, 235, 172]
abbrev dktX0_hear_2 : List UInt8 := dkwX0_hear_2 ++ []
def dkwX0_hear_1 : List UInt8 := [160, 0, 13, 42, 180, 0, 53, 180, 0, 226, 153, 0, 5, 2, 172, 42, 182, 0, 223, 42, 180, 0, 53, 42]
abbrev dktX0_hear_1 : List UInt8 := dkwX0_hear_1 ++ dktX0_hear_2
def dkwX0_hear_0 : List UInt8 := [42, 27, 182, 0, 234, 153, 0, 31, 42, 180, 0, 42, 27, 182, 0, 188, 42, 180, 0, 53, 180, 0, 220]
abbrev dktX0_hear_0 : List UInt8 := dkwX0_hear_0 ++ dktX0_hear_1
theorem dksX0_hear_0 : cX0_hear.data.toList.drop 0 = dktX0_hear_0 := by decide +kernel
theorem dksX0_hear_1 : cX0_hear.data.toList.drop 23 = dktX0_hear_1 := dk_seg dksX0_hear_0 23 rfl rfl
theorem dksX0_hear_2 : cX0_hear.data.toList.drop 47 = dktX0_hear_2 := dk_seg dksX0_hear_1 24 rfl rfl
theorem dX0_hear_0 : decode cX0_hear 0 = .ok (.aload_n 0, 1) := dk_42 (dk_at dksX0_hear_0 0 rfl rfl)
theorem dX0_hear_1 : decode cX0_hear 1 = .ok (.iload_n 1, 1) := dk_27 (dk_at dksX0_hear_0 1 rfl rfl)
theorem dX0_hear_2 : decode cX0_hear 2 = .ok (.invokevirtual 234, 3) := dk_182 0 234 (dk_at dksX0_hear_0 2 rfl rfl)
theorem dX0_hear_5 : decode cX0_hear 5 = .ok (.ifCond .eq 31, 3) := dk_153 0 31 (dk_at dksX0_hear_0 5 rfl rfl)
theorem dX0_hear_8 : decode cX0_hear 8 = .ok (.aload_n 0, 1) := dk_42 (dk_at dksX0_hear_0 8 rfl rfl)
theorem dX0_hear_9 : decode cX0_hear 9 = .ok (.getfield 42, 3) := dk_180 0 42 (dk_at dksX0_hear_0 9 rfl rfl)
theorem dX0_hear_12 : decode cX0_hear 12 = .ok (.iload_n 1, 1) := dk_27 (dk_at dksX0_hear_0 12 rfl rfl)
theorem dX0_hear_13 : decode cX0_hear 13 = .ok (.invokevirtual 188, 3) := dk_182 0 188 (dk_at dksX0_hear_0 13 rfl rfl)
theorem dX0_hear_16 : decode cX0_hear 16 = .ok (.aload_n 0, 1) := dk_42 (dk_at dksX0_hear_0 16 rfl rfl)
theorem dX0_hear_17 : decode cX0_hear 17 = .ok (.getfield 53, 3) := dk_180 0 53 (dk_at dksX0_hear_0 17 rfl rfl)
theorem dX0_hear_20 : decode cX0_hear 20 = .ok (.getfield 220, 3) := dk_180 0 220 (dk_at dksX0_hear_0 20 rfl rfl)
theorem dX0_hear_23 : decode cX0_hear 23 = .ok (.if_icmp .ne 13, 3) := dk_160 0 13 (dk_at dksX0_hear_1 0 rfl rfl)
theorem dX0_hear_26 : decode cX0_hear 26 = .ok (.aload_n 0, 1) := dk_42 (dk_at dksX0_hear_1 3 rfl rfl)
theorem dX0_hear_27 : decode cX0_hear 27 = .ok (.getfield 53, 3) := dk_180 0 53 (dk_at dksX0_hear_1 4 rfl rfl)
theorem dX0_hear_30 : decode cX0_hear 30 = .ok (.getfield 226, 3) := dk_180 0 226 (dk_at dksX0_hear_1 7 rfl rfl)
theorem dX0_hear_33 : decode cX0_hear 33 = .ok (.ifCond .eq 5, 3) := dk_153 0 5 (dk_at dksX0_hear_1 10 rfl rfl)
theorem dX0_hear_36 : decode cX0_hear 36 = .ok (.iconst (-1), 1) := dk_2 (dk_at dksX0_hear_1 13 rfl rfl)
theorem dX0_hear_37 : decode cX0_hear 37 = .ok (.ireturn, 1) := dk_172 (dk_at dksX0_hear_1 14 rfl rfl)
theorem dX0_hear_38 : decode cX0_hear 38 = .ok (.aload_n 0, 1) := dk_42 (dk_at dksX0_hear_1 15 rfl rfl)
theorem dX0_hear_39 : decode cX0_hear 39 = .ok (.invokevirtual 223, 3) := dk_182 0 223 (dk_at dksX0_hear_1 16 rfl rfl)
theorem dX0_hear_42 : decode cX0_hear 42 = .ok (.aload_n 0, 1) := dk_42 (dk_at dksX0_hear_1 19 rfl rfl)
theorem dX0_hear_43 : decode cX0_hear 43 = .ok (.getfield 53, 3) := dk_180 0 53 (dk_at dksX0_hear_1 20 rfl rfl)
theorem dX0_hear_46 : decode cX0_hear 46 = .ok (.aload_n 0, 1) := dk_42 (dk_at dksX0_hear_1 23 rfl rfl)
theorem dX0_hear_47 : decode cX0_hear 47 = .ok (.getfield 42, 3) := dk_180 0 42 (dk_at dksX0_hear_2 0 rfl rfl)
theorem dX0_hear_50 : decode cX0_hear 50 = .ok (.iload_n 1, 1) := dk_27 (dk_at dksX0_hear_2 3 rfl rfl)
theorem dX0_hear_51 : decode cX0_hear 51 = .ok (.invokevirtual 235, 3) := dk_182 0 235 (dk_at dksX0_hear_2 4 rfl rfl)
theorem dX0_hear_54 : decode cX0_hear 54 = .ok (.ireturn, 1) := dk_172 (dk_at dksX0_hear_2 7 rfl rfl)
abbrev cX0_isHeld : ByteArray := prog_1_method_13_code
def yX0_isHeld : MethodName := ⟨RX0, "isHeld", "(I)Z"⟩
def dkwX0_isHeld_1 : List UInt8 := [172]
abbrev dktX0_isHeld_1 : List UInt8 := dkwX0_isHeld_1 ++ []
def dkwX0_isHeld_0 : List UInt8 := [42, 27, 182, 0, 158, 153, 0, 18, 42, 180, 0, 53, 27, 182, 0, 162, 153, 0, 7, 4, 167, 0, 4, 3]
abbrev dktX0_isHeld_0 : List UInt8 := dkwX0_isHeld_0 ++ dktX0_isHeld_1
theorem dksX0_isHeld_0 : cX0_isHeld.data.toList.drop 0 = dktX0_isHeld_0 := by decide +kernel
theorem dksX0_isHeld_1 : cX0_isHeld.data.toList.drop 24 = dktX0_isHeld_1 := dk_seg dksX0_isHeld_0 24 rfl rfl
theorem dX0_isHeld_0 : decode cX0_isHeld 0 = .ok (.aload_n 0, 1) := dk_42 (dk_at dksX0_isHeld_0 0 rfl rfl)
theorem dX0_isHeld_1 : decode cX0_isHeld 1 = .ok (.iload_n 1, 1) := dk_27 (dk_at dksX0_isHeld_0 1 rfl rfl)
theorem dX0_isHeld_2 : decode cX0_isHeld 2 = .ok (.invokevirtual 158, 3) := dk_182 0 158 (dk_at dksX0_isHeld_0 2 rfl rfl)
theorem dX0_isHeld_5 : decode cX0_isHeld 5 = .ok (.ifCond .eq 18, 3) := dk_153 0 18 (dk_at dksX0_isHeld_0 5 rfl rfl)
theorem dX0_isHeld_8 : decode cX0_isHeld 8 = .ok (.aload_n 0, 1) := dk_42 (dk_at dksX0_isHeld_0 8 rfl rfl)
theorem dX0_isHeld_9 : decode cX0_isHeld 9 = .ok (.getfield 53, 3) := dk_180 0 53 (dk_at dksX0_isHeld_0 9 rfl rfl)
theorem dX0_isHeld_12 : decode cX0_isHeld 12 = .ok (.iload_n 1, 1) := dk_27 (dk_at dksX0_isHeld_0 12 rfl rfl)
theorem dX0_isHeld_13 : decode cX0_isHeld 13 = .ok (.invokevirtual 162, 3) := dk_182 0 162 (dk_at dksX0_isHeld_0 13 rfl rfl)
theorem dX0_isHeld_16 : decode cX0_isHeld 16 = .ok (.ifCond .eq 7, 3) := dk_153 0 7 (dk_at dksX0_isHeld_0 16 rfl rfl)
theorem dX0_isHeld_19 : decode cX0_isHeld 19 = .ok (.iconst 1, 1) := dk_4 (dk_at dksX0_isHeld_0 19 rfl rfl)
theorem dX0_isHeld_20 : decode cX0_isHeld 20 = .ok (.goto 4, 3) := dk_167 0 4 (dk_at dksX0_isHeld_0 20 rfl rfl)
theorem dX0_isHeld_23 : decode cX0_isHeld 23 = .ok (.iconst 0, 1) := dk_3 (dk_at dksX0_isHeld_0 23 rfl rfl)
theorem dX0_isHeld_24 : decode cX0_isHeld 24 = .ok (.ireturn, 1) := dk_172 (dk_at dksX0_isHeld_1 0 rfl rfl)
abbrev cX0_plead : ByteArray := prog_1_method_26_code
def yX0_plead : MethodName := ⟨RX0, "plead", "(II)I"⟩
def dkwX0_plead_2 : List UInt8 := [42, 27, 28, 182, 0, 247, 172]
abbrev dktX0_plead_2 : List UInt8 := dkwX0_plead_2 ++ []
def dkwX0_plead_1 : List UInt8 := [154, 0, 19, 42, 180, 0, 53, 180, 0, 169, 27, 46, 184, 0, 242, 7, 160, 0, 8, 18, 206, 167, 0, 9]
abbrev dktX0_plead_1 : List UInt8 := dkwX0_plead_1 ++ dktX0_plead_2
def dkwX0_plead_0 : List UInt8 := [42, 27, 182, 0, 158, 153, 0, 36, 42, 28, 182, 0, 182, 153, 0, 28, 42, 27, 28, 182, 0, 238]
abbrev dktX0_plead_0 : List UInt8 := dkwX0_plead_0 ++ dktX0_plead_1
theorem dksX0_plead_0 : cX0_plead.data.toList.drop 0 = dktX0_plead_0 := by decide +kernel
theorem dksX0_plead_1 : cX0_plead.data.toList.drop 22 = dktX0_plead_1 := dk_seg dksX0_plead_0 22 rfl rfl
theorem dksX0_plead_2 : cX0_plead.data.toList.drop 46 = dktX0_plead_2 := dk_seg dksX0_plead_1 24 rfl rfl
theorem dX0_plead_0 : decode cX0_plead 0 = .ok (.aload_n 0, 1) := dk_42 (dk_at dksX0_plead_0 0 rfl rfl)
theorem dX0_plead_1 : decode cX0_plead 1 = .ok (.iload_n 1, 1) := dk_27 (dk_at dksX0_plead_0 1 rfl rfl)
theorem dX0_plead_2 : decode cX0_plead 2 = .ok (.invokevirtual 158, 3) := dk_182 0 158 (dk_at dksX0_plead_0 2 rfl rfl)
theorem dX0_plead_5 : decode cX0_plead 5 = .ok (.ifCond .eq 36, 3) := dk_153 0 36 (dk_at dksX0_plead_0 5 rfl rfl)
theorem dX0_plead_8 : decode cX0_plead 8 = .ok (.aload_n 0, 1) := dk_42 (dk_at dksX0_plead_0 8 rfl rfl)
theorem dX0_plead_9 : decode cX0_plead 9 = .ok (.iload_n 2, 1) := dk_28 (dk_at dksX0_plead_0 9 rfl rfl)
theorem dX0_plead_10 : decode cX0_plead 10 = .ok (.invokevirtual 182, 3) := dk_182 0 182 (dk_at dksX0_plead_0 10 rfl rfl)
theorem dX0_plead_13 : decode cX0_plead 13 = .ok (.ifCond .eq 28, 3) := dk_153 0 28 (dk_at dksX0_plead_0 13 rfl rfl)
theorem dX0_plead_16 : decode cX0_plead 16 = .ok (.aload_n 0, 1) := dk_42 (dk_at dksX0_plead_0 16 rfl rfl)
theorem dX0_plead_17 : decode cX0_plead 17 = .ok (.iload_n 1, 1) := dk_27 (dk_at dksX0_plead_0 17 rfl rfl)
theorem dX0_plead_18 : decode cX0_plead 18 = .ok (.iload_n 2, 1) := dk_28 (dk_at dksX0_plead_0 18 rfl rfl)
theorem dX0_plead_19 : decode cX0_plead 19 = .ok (.invokevirtual 238, 3) := dk_182 0 238 (dk_at dksX0_plead_0 19 rfl rfl)
theorem dX0_plead_22 : decode cX0_plead 22 = .ok (.ifCond .ne 19, 3) := dk_154 0 19 (dk_at dksX0_plead_1 0 rfl rfl)
theorem dX0_plead_25 : decode cX0_plead 25 = .ok (.aload_n 0, 1) := dk_42 (dk_at dksX0_plead_1 3 rfl rfl)
theorem dX0_plead_26 : decode cX0_plead 26 = .ok (.getfield 53, 3) := dk_180 0 53 (dk_at dksX0_plead_1 4 rfl rfl)
theorem dX0_plead_29 : decode cX0_plead 29 = .ok (.getfield 169, 3) := dk_180 0 169 (dk_at dksX0_plead_1 7 rfl rfl)
theorem dX0_plead_32 : decode cX0_plead 32 = .ok (.iload_n 1, 1) := dk_27 (dk_at dksX0_plead_1 10 rfl rfl)
theorem dX0_plead_33 : decode cX0_plead 33 = .ok (.iaload, 1) := dk_46 (dk_at dksX0_plead_1 11 rfl rfl)
theorem dX0_plead_34 : decode cX0_plead 34 = .ok (.invokestatic 242, 3) := dk_184 0 242 (dk_at dksX0_plead_1 12 rfl rfl)
theorem dX0_plead_37 : decode cX0_plead 37 = .ok (.iconst 4, 1) := dk_7 (dk_at dksX0_plead_1 15 rfl rfl)
theorem dX0_plead_38 : decode cX0_plead 38 = .ok (.if_icmp .ne 8, 3) := dk_160 0 8 (dk_at dksX0_plead_1 16 rfl rfl)
theorem dX0_plead_41 : decode cX0_plead 41 = .ok (.ldc 206, 2) := dk_18 206 (dk_at dksX0_plead_1 19 rfl rfl)
theorem dX0_plead_43 : decode cX0_plead 43 = .ok (.goto 9, 3) := dk_167 0 9 (dk_at dksX0_plead_1 21 rfl rfl)
theorem dX0_plead_46 : decode cX0_plead 46 = .ok (.aload_n 0, 1) := dk_42 (dk_at dksX0_plead_2 0 rfl rfl)
theorem dX0_plead_47 : decode cX0_plead 47 = .ok (.iload_n 1, 1) := dk_27 (dk_at dksX0_plead_2 1 rfl rfl)
theorem dX0_plead_48 : decode cX0_plead 48 = .ok (.iload_n 2, 1) := dk_28 (dk_at dksX0_plead_2 2 rfl rfl)
theorem dX0_plead_49 : decode cX0_plead 49 = .ok (.invokevirtual 247, 3) := dk_182 0 247 (dk_at dksX0_plead_2 3 rfl rfl)
theorem dX0_plead_52 : decode cX0_plead 52 = .ok (.ireturn, 1) := dk_172 (dk_at dksX0_plead_2 6 rfl rfl)
abbrev cX0_has : ByteArray := prog_1_method_16_code
def yX0_has : MethodName := ⟨RX0, "has", "(II)Z"⟩
def dkwX0_has_0 : List UInt8 := [42, 180, 0, 53, 180, 0, 169, 27, 46, 28, 122, 4, 126, 4, 160, 0, 7, 4, 167, 0, 4, 3, 172]
abbrev dktX0_has_0 : List UInt8 := dkwX0_has_0 ++ []
theorem dksX0_has_0 : cX0_has.data.toList.drop 0 = dktX0_has_0 := by decide +kernel
theorem dX0_has_0 : decode cX0_has 0 = .ok (.aload_n 0, 1) := dk_42 (dk_at dksX0_has_0 0 rfl rfl)
theorem dX0_has_1 : decode cX0_has 1 = .ok (.getfield 53, 3) := dk_180 0 53 (dk_at dksX0_has_0 1 rfl rfl)
theorem dX0_has_4 : decode cX0_has 4 = .ok (.getfield 169, 3) := dk_180 0 169 (dk_at dksX0_has_0 4 rfl rfl)
theorem dX0_has_7 : decode cX0_has 7 = .ok (.iload_n 1, 1) := dk_27 (dk_at dksX0_has_0 7 rfl rfl)
theorem dX0_has_8 : decode cX0_has 8 = .ok (.iaload, 1) := dk_46 (dk_at dksX0_has_0 8 rfl rfl)
theorem dX0_has_9 : decode cX0_has 9 = .ok (.iload_n 2, 1) := dk_28 (dk_at dksX0_has_0 9 rfl rfl)
theorem dX0_has_10 : decode cX0_has 10 = .ok (.ishr, 1) := dk_122 (dk_at dksX0_has_0 10 rfl rfl)
theorem dX0_has_11 : decode cX0_has 11 = .ok (.iconst 1, 1) := dk_4 (dk_at dksX0_has_0 11 rfl rfl)
theorem dX0_has_12 : decode cX0_has 12 = .ok (.iand, 1) := dk_126 (dk_at dksX0_has_0 12 rfl rfl)
theorem dX0_has_13 : decode cX0_has 13 = .ok (.iconst 1, 1) := dk_4 (dk_at dksX0_has_0 13 rfl rfl)
theorem dX0_has_14 : decode cX0_has 14 = .ok (.if_icmp .ne 7, 3) := dk_160 0 7 (dk_at dksX0_has_0 14 rfl rfl)
theorem dX0_has_17 : decode cX0_has 17 = .ok (.iconst 1, 1) := dk_4 (dk_at dksX0_has_0 17 rfl rfl)
theorem dX0_has_18 : decode cX0_has 18 = .ok (.goto 4, 3) := dk_167 0 4 (dk_at dksX0_has_0 18 rfl rfl)
theorem dX0_has_21 : decode cX0_has 21 = .ok (.iconst 0, 1) := dk_3 (dk_at dksX0_has_0 21 rfl rfl)
theorem dX0_has_22 : decode cX0_has 22 = .ok (.ireturn, 1) := dk_172 (dk_at dksX0_has_0 22 rfl rfl)
abbrev cX0_changes : ByteArray := prog_1_method_25_code
def yX0_changes : MethodName := ⟨RX0, "changes", "(II)I"⟩
def dkwX0_changes_1 : List UInt8 := [180, 0, 42, 27, 182, 0, 203, 172]
abbrev dktX0_changes_1 : List UInt8 := dkwX0_changes_1 ++ []
def dkwX0_changes_0 : List UInt8 := [42, 182, 0, 223, 42, 180, 0, 53, 180, 0, 169, 27, 92, 46, 4, 28, 120, 130, 79, 42, 180, 0, 53, 42]
abbrev dktX0_changes_0 : List UInt8 := dkwX0_changes_0 ++ dktX0_changes_1
theorem dksX0_changes_0 : cX0_changes.data.toList.drop 0 = dktX0_changes_0 := by decide +kernel
theorem dksX0_changes_1 : cX0_changes.data.toList.drop 24 = dktX0_changes_1 := dk_seg dksX0_changes_0 24 rfl rfl
theorem dX0_changes_0 : decode cX0_changes 0 = .ok (.aload_n 0, 1) := dk_42 (dk_at dksX0_changes_0 0 rfl rfl)
theorem dX0_changes_1 : decode cX0_changes 1 = .ok (.invokevirtual 223, 3) := dk_182 0 223 (dk_at dksX0_changes_0 1 rfl rfl)
theorem dX0_changes_4 : decode cX0_changes 4 = .ok (.aload_n 0, 1) := dk_42 (dk_at dksX0_changes_0 4 rfl rfl)
theorem dX0_changes_5 : decode cX0_changes 5 = .ok (.getfield 53, 3) := dk_180 0 53 (dk_at dksX0_changes_0 5 rfl rfl)
theorem dX0_changes_8 : decode cX0_changes 8 = .ok (.getfield 169, 3) := dk_180 0 169 (dk_at dksX0_changes_0 8 rfl rfl)
theorem dX0_changes_11 : decode cX0_changes 11 = .ok (.iload_n 1, 1) := dk_27 (dk_at dksX0_changes_0 11 rfl rfl)
theorem dX0_changes_12 : decode cX0_changes 12 = .ok (.dup2, 1) := dk_92 (dk_at dksX0_changes_0 12 rfl rfl)
theorem dX0_changes_13 : decode cX0_changes 13 = .ok (.iaload, 1) := dk_46 (dk_at dksX0_changes_0 13 rfl rfl)
theorem dX0_changes_14 : decode cX0_changes 14 = .ok (.iconst 1, 1) := dk_4 (dk_at dksX0_changes_0 14 rfl rfl)
theorem dX0_changes_15 : decode cX0_changes 15 = .ok (.iload_n 2, 1) := dk_28 (dk_at dksX0_changes_0 15 rfl rfl)
theorem dX0_changes_16 : decode cX0_changes 16 = .ok (.ishl, 1) := dk_120 (dk_at dksX0_changes_0 16 rfl rfl)
theorem dX0_changes_17 : decode cX0_changes 17 = .ok (.ixor, 1) := dk_130 (dk_at dksX0_changes_0 17 rfl rfl)
theorem dX0_changes_18 : decode cX0_changes 18 = .ok (.iastore, 1) := dk_79 (dk_at dksX0_changes_0 18 rfl rfl)
theorem dX0_changes_19 : decode cX0_changes 19 = .ok (.aload_n 0, 1) := dk_42 (dk_at dksX0_changes_0 19 rfl rfl)
theorem dX0_changes_20 : decode cX0_changes 20 = .ok (.getfield 53, 3) := dk_180 0 53 (dk_at dksX0_changes_0 20 rfl rfl)
theorem dX0_changes_23 : decode cX0_changes 23 = .ok (.aload_n 0, 1) := dk_42 (dk_at dksX0_changes_0 23 rfl rfl)
theorem dX0_changes_24 : decode cX0_changes 24 = .ok (.getfield 42, 3) := dk_180 0 42 (dk_at dksX0_changes_1 0 rfl rfl)
theorem dX0_changes_27 : decode cX0_changes 27 = .ok (.iload_n 1, 1) := dk_27 (dk_at dksX0_changes_1 3 rfl rfl)
theorem dX0_changes_28 : decode cX0_changes 28 = .ok (.invokevirtual 203, 3) := dk_182 0 203 (dk_at dksX0_changes_1 4 rfl rfl)
theorem dX0_changes_31 : decode cX0_changes 31 = .ok (.ireturn, 1) := dk_172 (dk_at dksX0_changes_1 7 rfl rfl)
abbrev cX0_drop : ByteArray := prog_1_method_27_code
def yX0_drop : MethodName := ⟨RX0, "drop", "(II)I"⟩
def dkwX0_drop_2 : List UInt8 := [42, 27, 28, 182, 0, 247, 172]
abbrev dktX0_drop_2 : List UInt8 := dkwX0_drop_2 ++ []
def dkwX0_drop_1 : List UInt8 := [153, 0, 19, 42, 180, 0, 53, 180, 0, 169, 27, 46, 184, 0, 242, 4, 160, 0, 8, 18, 206, 167, 0, 9]
abbrev dktX0_drop_1 : List UInt8 := dkwX0_drop_1 ++ dktX0_drop_2
def dkwX0_drop_0 : List UInt8 := [42, 27, 182, 0, 158, 153, 0, 36, 42, 28, 182, 0, 182, 153, 0, 28, 42, 27, 28, 182, 0, 238]
abbrev dktX0_drop_0 : List UInt8 := dkwX0_drop_0 ++ dktX0_drop_1
theorem dksX0_drop_0 : cX0_drop.data.toList.drop 0 = dktX0_drop_0 := by decide +kernel
theorem dksX0_drop_1 : cX0_drop.data.toList.drop 22 = dktX0_drop_1 := dk_seg dksX0_drop_0 22 rfl rfl
theorem dksX0_drop_2 : cX0_drop.data.toList.drop 46 = dktX0_drop_2 := dk_seg dksX0_drop_1 24 rfl rfl
theorem dX0_drop_0 : decode cX0_drop 0 = .ok (.aload_n 0, 1) := dk_42 (dk_at dksX0_drop_0 0 rfl rfl)
theorem dX0_drop_1 : decode cX0_drop 1 = .ok (.iload_n 1, 1) := dk_27 (dk_at dksX0_drop_0 1 rfl rfl)
theorem dX0_drop_2 : decode cX0_drop 2 = .ok (.invokevirtual 158, 3) := dk_182 0 158 (dk_at dksX0_drop_0 2 rfl rfl)
theorem dX0_drop_5 : decode cX0_drop 5 = .ok (.ifCond .eq 36, 3) := dk_153 0 36 (dk_at dksX0_drop_0 5 rfl rfl)
theorem dX0_drop_8 : decode cX0_drop 8 = .ok (.aload_n 0, 1) := dk_42 (dk_at dksX0_drop_0 8 rfl rfl)
theorem dX0_drop_9 : decode cX0_drop 9 = .ok (.iload_n 2, 1) := dk_28 (dk_at dksX0_drop_0 9 rfl rfl)
theorem dX0_drop_10 : decode cX0_drop 10 = .ok (.invokevirtual 182, 3) := dk_182 0 182 (dk_at dksX0_drop_0 10 rfl rfl)
theorem dX0_drop_13 : decode cX0_drop 13 = .ok (.ifCond .eq 28, 3) := dk_153 0 28 (dk_at dksX0_drop_0 13 rfl rfl)
theorem dX0_drop_16 : decode cX0_drop 16 = .ok (.aload_n 0, 1) := dk_42 (dk_at dksX0_drop_0 16 rfl rfl)
theorem dX0_drop_17 : decode cX0_drop 17 = .ok (.iload_n 1, 1) := dk_27 (dk_at dksX0_drop_0 17 rfl rfl)
theorem dX0_drop_18 : decode cX0_drop 18 = .ok (.iload_n 2, 1) := dk_28 (dk_at dksX0_drop_0 18 rfl rfl)
theorem dX0_drop_19 : decode cX0_drop 19 = .ok (.invokevirtual 238, 3) := dk_182 0 238 (dk_at dksX0_drop_0 19 rfl rfl)
theorem dX0_drop_22 : decode cX0_drop 22 = .ok (.ifCond .eq 19, 3) := dk_153 0 19 (dk_at dksX0_drop_1 0 rfl rfl)
theorem dX0_drop_25 : decode cX0_drop 25 = .ok (.aload_n 0, 1) := dk_42 (dk_at dksX0_drop_1 3 rfl rfl)
theorem dX0_drop_26 : decode cX0_drop 26 = .ok (.getfield 53, 3) := dk_180 0 53 (dk_at dksX0_drop_1 4 rfl rfl)
theorem dX0_drop_29 : decode cX0_drop 29 = .ok (.getfield 169, 3) := dk_180 0 169 (dk_at dksX0_drop_1 7 rfl rfl)
theorem dX0_drop_32 : decode cX0_drop 32 = .ok (.iload_n 1, 1) := dk_27 (dk_at dksX0_drop_1 10 rfl rfl)
theorem dX0_drop_33 : decode cX0_drop 33 = .ok (.iaload, 1) := dk_46 (dk_at dksX0_drop_1 11 rfl rfl)
theorem dX0_drop_34 : decode cX0_drop 34 = .ok (.invokestatic 242, 3) := dk_184 0 242 (dk_at dksX0_drop_1 12 rfl rfl)
theorem dX0_drop_37 : decode cX0_drop 37 = .ok (.iconst 1, 1) := dk_4 (dk_at dksX0_drop_1 15 rfl rfl)
theorem dX0_drop_38 : decode cX0_drop 38 = .ok (.if_icmp .ne 8, 3) := dk_160 0 8 (dk_at dksX0_drop_1 16 rfl rfl)
theorem dX0_drop_41 : decode cX0_drop 41 = .ok (.ldc 206, 2) := dk_18 206 (dk_at dksX0_drop_1 19 rfl rfl)
theorem dX0_drop_43 : decode cX0_drop 43 = .ok (.goto 9, 3) := dk_167 0 9 (dk_at dksX0_drop_1 21 rfl rfl)
theorem dX0_drop_46 : decode cX0_drop 46 = .ok (.aload_n 0, 1) := dk_42 (dk_at dksX0_drop_2 0 rfl rfl)
theorem dX0_drop_47 : decode cX0_drop 47 = .ok (.iload_n 1, 1) := dk_27 (dk_at dksX0_drop_2 1 rfl rfl)
theorem dX0_drop_48 : decode cX0_drop 48 = .ok (.iload_n 2, 1) := dk_28 (dk_at dksX0_drop_2 2 rfl rfl)
theorem dX0_drop_49 : decode cX0_drop 49 = .ok (.invokevirtual 247, 3) := dk_182 0 247 (dk_at dksX0_drop_2 3 rfl rfl)
theorem dX0_drop_52 : decode cX0_drop 52 = .ok (.ireturn, 1) := dk_172 (dk_at dksX0_drop_2 6 rfl rfl)
abbrev cX0_grab : ByteArray := prog_1_method_28_code
def yX0_grab : MethodName := ⟨RX0, "grab", "(I)I"⟩
def dkwX0_grab_2 : List UInt8 := [184, 0, 242, 172]
abbrev dktX0_grab_2 : List UInt8 := dkwX0_grab_2 ++ []
def dkwX0_grab_1 : List UInt8 := [182, 0, 223, 42, 180, 0, 53, 180, 0, 192, 27, 3, 79, 42, 180, 0, 53, 42, 180, 0, 42, 182, 0, 251]
abbrev dktX0_grab_1 : List UInt8 := dkwX0_grab_1 ++ dktX0_grab_2
def dkwX0_grab_0 : List UInt8 := [42, 27, 182, 0, 158, 153, 0, 14, 42, 180, 0, 53, 27, 182, 0, 162, 153, 0, 5, 2, 172, 42]
abbrev dktX0_grab_0 : List UInt8 := dkwX0_grab_0 ++ dktX0_grab_1
theorem dksX0_grab_0 : cX0_grab.data.toList.drop 0 = dktX0_grab_0 := by decide +kernel
theorem dksX0_grab_1 : cX0_grab.data.toList.drop 22 = dktX0_grab_1 := dk_seg dksX0_grab_0 22 rfl rfl
theorem dksX0_grab_2 : cX0_grab.data.toList.drop 46 = dktX0_grab_2 := dk_seg dksX0_grab_1 24 rfl rfl
theorem dX0_grab_0 : decode cX0_grab 0 = .ok (.aload_n 0, 1) := dk_42 (dk_at dksX0_grab_0 0 rfl rfl)
theorem dX0_grab_1 : decode cX0_grab 1 = .ok (.iload_n 1, 1) := dk_27 (dk_at dksX0_grab_0 1 rfl rfl)
theorem dX0_grab_2 : decode cX0_grab 2 = .ok (.invokevirtual 158, 3) := dk_182 0 158 (dk_at dksX0_grab_0 2 rfl rfl)
theorem dX0_grab_5 : decode cX0_grab 5 = .ok (.ifCond .eq 14, 3) := dk_153 0 14 (dk_at dksX0_grab_0 5 rfl rfl)
theorem dX0_grab_8 : decode cX0_grab 8 = .ok (.aload_n 0, 1) := dk_42 (dk_at dksX0_grab_0 8 rfl rfl)
theorem dX0_grab_9 : decode cX0_grab 9 = .ok (.getfield 53, 3) := dk_180 0 53 (dk_at dksX0_grab_0 9 rfl rfl)
theorem dX0_grab_12 : decode cX0_grab 12 = .ok (.iload_n 1, 1) := dk_27 (dk_at dksX0_grab_0 12 rfl rfl)
theorem dX0_grab_13 : decode cX0_grab 13 = .ok (.invokevirtual 162, 3) := dk_182 0 162 (dk_at dksX0_grab_0 13 rfl rfl)
theorem dX0_grab_16 : decode cX0_grab 16 = .ok (.ifCond .eq 5, 3) := dk_153 0 5 (dk_at dksX0_grab_0 16 rfl rfl)
theorem dX0_grab_19 : decode cX0_grab 19 = .ok (.iconst (-1), 1) := dk_2 (dk_at dksX0_grab_0 19 rfl rfl)
theorem dX0_grab_20 : decode cX0_grab 20 = .ok (.ireturn, 1) := dk_172 (dk_at dksX0_grab_0 20 rfl rfl)
theorem dX0_grab_21 : decode cX0_grab 21 = .ok (.aload_n 0, 1) := dk_42 (dk_at dksX0_grab_0 21 rfl rfl)
theorem dX0_grab_22 : decode cX0_grab 22 = .ok (.invokevirtual 223, 3) := dk_182 0 223 (dk_at dksX0_grab_1 0 rfl rfl)
theorem dX0_grab_25 : decode cX0_grab 25 = .ok (.aload_n 0, 1) := dk_42 (dk_at dksX0_grab_1 3 rfl rfl)
theorem dX0_grab_26 : decode cX0_grab 26 = .ok (.getfield 53, 3) := dk_180 0 53 (dk_at dksX0_grab_1 4 rfl rfl)
theorem dX0_grab_29 : decode cX0_grab 29 = .ok (.getfield 192, 3) := dk_180 0 192 (dk_at dksX0_grab_1 7 rfl rfl)
theorem dX0_grab_32 : decode cX0_grab 32 = .ok (.iload_n 1, 1) := dk_27 (dk_at dksX0_grab_1 10 rfl rfl)
theorem dX0_grab_33 : decode cX0_grab 33 = .ok (.iconst 0, 1) := dk_3 (dk_at dksX0_grab_1 11 rfl rfl)
theorem dX0_grab_34 : decode cX0_grab 34 = .ok (.iastore, 1) := dk_79 (dk_at dksX0_grab_1 12 rfl rfl)
theorem dX0_grab_35 : decode cX0_grab 35 = .ok (.aload_n 0, 1) := dk_42 (dk_at dksX0_grab_1 13 rfl rfl)
theorem dX0_grab_36 : decode cX0_grab 36 = .ok (.getfield 53, 3) := dk_180 0 53 (dk_at dksX0_grab_1 14 rfl rfl)
theorem dX0_grab_39 : decode cX0_grab 39 = .ok (.aload_n 0, 1) := dk_42 (dk_at dksX0_grab_1 17 rfl rfl)
theorem dX0_grab_40 : decode cX0_grab 40 = .ok (.getfield 42, 3) := dk_180 0 42 (dk_at dksX0_grab_1 18 rfl rfl)
theorem dX0_grab_43 : decode cX0_grab 43 = .ok (.invokevirtual 251, 3) := dk_182 0 251 (dk_at dksX0_grab_1 21 rfl rfl)
theorem dX0_grab_46 : decode cX0_grab 46 = .ok (.invokestatic 242, 3) := dk_184 0 242 (dk_at dksX0_grab_2 0 rfl rfl)
theorem dX0_grab_49 : decode cX0_grab 49 = .ok (.ireturn, 1) := dk_172 (dk_at dksX0_grab_2 3 rfl rfl)
abbrev cX0_spin : ByteArray := prog_1_method_29_code
def yX0_spin : MethodName := ⟨RX0, "spin", "(I)I"⟩
def dkwX0_spin_2 : List UInt8 := [167, 0, 4, 3, 172]
abbrev dktX0_spin_2 : List UInt8 := dkwX0_spin_2 ++ []
def dkwX0_spin_1 : List UInt8 := [89, 180, 1, 0, 4, 27, 120, 130, 181, 1, 0, 42, 180, 0, 53, 27, 182, 1, 3, 153, 0, 7, 4]
abbrev dktX0_spin_1 : List UInt8 := dkwX0_spin_1 ++ dktX0_spin_2
def dkwX0_spin_0 : List UInt8 := [27, 3, 42, 182, 0, 254, 4, 100, 184, 0, 154, 154, 0, 5, 2, 172, 42, 182, 0, 223, 42, 180, 0, 53]
abbrev dktX0_spin_0 : List UInt8 := dkwX0_spin_0 ++ dktX0_spin_1
theorem dksX0_spin_0 : cX0_spin.data.toList.drop 0 = dktX0_spin_0 := by decide +kernel
theorem dksX0_spin_1 : cX0_spin.data.toList.drop 24 = dktX0_spin_1 := dk_seg dksX0_spin_0 24 rfl rfl
theorem dksX0_spin_2 : cX0_spin.data.toList.drop 47 = dktX0_spin_2 := dk_seg dksX0_spin_1 23 rfl rfl
theorem dX0_spin_0 : decode cX0_spin 0 = .ok (.iload_n 1, 1) := dk_27 (dk_at dksX0_spin_0 0 rfl rfl)
theorem dX0_spin_1 : decode cX0_spin 1 = .ok (.iconst 0, 1) := dk_3 (dk_at dksX0_spin_0 1 rfl rfl)
theorem dX0_spin_2 : decode cX0_spin 2 = .ok (.aload_n 0, 1) := dk_42 (dk_at dksX0_spin_0 2 rfl rfl)
theorem dX0_spin_3 : decode cX0_spin 3 = .ok (.invokevirtual 254, 3) := dk_182 0 254 (dk_at dksX0_spin_0 3 rfl rfl)
theorem dX0_spin_6 : decode cX0_spin 6 = .ok (.iconst 1, 1) := dk_4 (dk_at dksX0_spin_0 6 rfl rfl)
theorem dX0_spin_7 : decode cX0_spin 7 = .ok (.isub, 1) := dk_100 (dk_at dksX0_spin_0 7 rfl rfl)
theorem dX0_spin_8 : decode cX0_spin 8 = .ok (.invokestatic 154, 3) := dk_184 0 154 (dk_at dksX0_spin_0 8 rfl rfl)
theorem dX0_spin_11 : decode cX0_spin 11 = .ok (.ifCond .ne 5, 3) := dk_154 0 5 (dk_at dksX0_spin_0 11 rfl rfl)
theorem dX0_spin_14 : decode cX0_spin 14 = .ok (.iconst (-1), 1) := dk_2 (dk_at dksX0_spin_0 14 rfl rfl)
theorem dX0_spin_15 : decode cX0_spin 15 = .ok (.ireturn, 1) := dk_172 (dk_at dksX0_spin_0 15 rfl rfl)
theorem dX0_spin_16 : decode cX0_spin 16 = .ok (.aload_n 0, 1) := dk_42 (dk_at dksX0_spin_0 16 rfl rfl)
theorem dX0_spin_17 : decode cX0_spin 17 = .ok (.invokevirtual 223, 3) := dk_182 0 223 (dk_at dksX0_spin_0 17 rfl rfl)
theorem dX0_spin_20 : decode cX0_spin 20 = .ok (.aload_n 0, 1) := dk_42 (dk_at dksX0_spin_0 20 rfl rfl)
theorem dX0_spin_21 : decode cX0_spin 21 = .ok (.getfield 53, 3) := dk_180 0 53 (dk_at dksX0_spin_0 21 rfl rfl)
theorem dX0_spin_24 : decode cX0_spin 24 = .ok (.dup, 1) := dk_89 (dk_at dksX0_spin_1 0 rfl rfl)
theorem dX0_spin_25 : decode cX0_spin 25 = .ok (.getfield 256, 3) := dk_180 1 0 (dk_at dksX0_spin_1 1 rfl rfl)
theorem dX0_spin_28 : decode cX0_spin 28 = .ok (.iconst 1, 1) := dk_4 (dk_at dksX0_spin_1 4 rfl rfl)
theorem dX0_spin_29 : decode cX0_spin 29 = .ok (.iload_n 1, 1) := dk_27 (dk_at dksX0_spin_1 5 rfl rfl)
theorem dX0_spin_30 : decode cX0_spin 30 = .ok (.ishl, 1) := dk_120 (dk_at dksX0_spin_1 6 rfl rfl)
theorem dX0_spin_31 : decode cX0_spin 31 = .ok (.ixor, 1) := dk_130 (dk_at dksX0_spin_1 7 rfl rfl)
theorem dX0_spin_32 : decode cX0_spin 32 = .ok (.putfield 256, 3) := dk_181 1 0 (dk_at dksX0_spin_1 8 rfl rfl)
theorem dX0_spin_35 : decode cX0_spin 35 = .ok (.aload_n 0, 1) := dk_42 (dk_at dksX0_spin_1 11 rfl rfl)
theorem dX0_spin_36 : decode cX0_spin 36 = .ok (.getfield 53, 3) := dk_180 0 53 (dk_at dksX0_spin_1 12 rfl rfl)
theorem dX0_spin_39 : decode cX0_spin 39 = .ok (.iload_n 1, 1) := dk_27 (dk_at dksX0_spin_1 15 rfl rfl)
theorem dX0_spin_40 : decode cX0_spin 40 = .ok (.invokevirtual 259, 3) := dk_182 1 3 (dk_at dksX0_spin_1 16 rfl rfl)
theorem dX0_spin_43 : decode cX0_spin 43 = .ok (.ifCond .eq 7, 3) := dk_153 0 7 (dk_at dksX0_spin_1 19 rfl rfl)
theorem dX0_spin_46 : decode cX0_spin 46 = .ok (.iconst 1, 1) := dk_4 (dk_at dksX0_spin_1 22 rfl rfl)
theorem dX0_spin_47 : decode cX0_spin 47 = .ok (.goto 4, 3) := dk_167 0 4 (dk_at dksX0_spin_2 0 rfl rfl)
theorem dX0_spin_50 : decode cX0_spin 50 = .ok (.iconst 0, 1) := dk_3 (dk_at dksX0_spin_2 3 rfl rfl)
theorem dX0_spin_51 : decode cX0_spin 51 = .ok (.ireturn, 1) := dk_172 (dk_at dksX0_spin_2 4 rfl rfl)
abbrev cX0_lines : ByteArray := prog_1_method_11_code
def yX0_lines : MethodName := ⟨RX0, "lines", "()I"⟩
def dkwX0_lines_0 : List UInt8 := [42, 180, 0, 42, 180, 0, 151, 182, 0, 3, 172]
abbrev dktX0_lines_0 : List UInt8 := dkwX0_lines_0 ++ []
theorem dksX0_lines_0 : cX0_lines.data.toList.drop 0 = dktX0_lines_0 := by decide +kernel
theorem dX0_lines_0 : decode cX0_lines 0 = .ok (.aload_n 0, 1) := dk_42 (dk_at dksX0_lines_0 0 rfl rfl)
theorem dX0_lines_1 : decode cX0_lines 1 = .ok (.getfield 42, 3) := dk_180 0 42 (dk_at dksX0_lines_0 1 rfl rfl)
theorem dX0_lines_4 : decode cX0_lines 4 = .ok (.getfield 151, 3) := dk_180 0 151 (dk_at dksX0_lines_0 4 rfl rfl)
theorem dX0_lines_7 : decode cX0_lines 7 = .ok (.invokevirtual 3, 3) := dk_182 0 3 (dk_at dksX0_lines_0 7 rfl rfl)
theorem dX0_lines_10 : decode cX0_lines 10 = .ok (.ireturn, 1) := dk_172 (dk_at dksX0_lines_0 10 rfl rfl)
abbrev cX0_undo : ByteArray := prog_1_method_30_code
def yX0_undo : MethodName := ⟨RX0, "undo", "()Z"⟩
def dkwX0_undo_1 : List UInt8 := [4, 96, 181, 0, 120, 42, 42, 180, 0, 63, 42, 180, 0, 117, 50, 182, 1, 6, 4, 172]
abbrev dktX0_undo_1 : List UInt8 := dkwX0_undo_1 ++ []
def dkwX0_undo_0 : List UInt8 := [42, 180, 0, 117, 154, 0, 5, 3, 172, 42, 89, 180, 0, 117, 4, 100, 181, 0, 117, 42, 89, 180, 0, 120]
abbrev dktX0_undo_0 : List UInt8 := dkwX0_undo_0 ++ dktX0_undo_1
theorem dksX0_undo_0 : cX0_undo.data.toList.drop 0 = dktX0_undo_0 := by decide +kernel
theorem dksX0_undo_1 : cX0_undo.data.toList.drop 24 = dktX0_undo_1 := dk_seg dksX0_undo_0 24 rfl rfl
theorem dX0_undo_0 : decode cX0_undo 0 = .ok (.aload_n 0, 1) := dk_42 (dk_at dksX0_undo_0 0 rfl rfl)
theorem dX0_undo_1 : decode cX0_undo 1 = .ok (.getfield 117, 3) := dk_180 0 117 (dk_at dksX0_undo_0 1 rfl rfl)
theorem dX0_undo_4 : decode cX0_undo 4 = .ok (.ifCond .ne 5, 3) := dk_154 0 5 (dk_at dksX0_undo_0 4 rfl rfl)
theorem dX0_undo_7 : decode cX0_undo 7 = .ok (.iconst 0, 1) := dk_3 (dk_at dksX0_undo_0 7 rfl rfl)
theorem dX0_undo_8 : decode cX0_undo 8 = .ok (.ireturn, 1) := dk_172 (dk_at dksX0_undo_0 8 rfl rfl)
theorem dX0_undo_9 : decode cX0_undo 9 = .ok (.aload_n 0, 1) := dk_42 (dk_at dksX0_undo_0 9 rfl rfl)
theorem dX0_undo_10 : decode cX0_undo 10 = .ok (.dup, 1) := dk_89 (dk_at dksX0_undo_0 10 rfl rfl)
theorem dX0_undo_11 : decode cX0_undo 11 = .ok (.getfield 117, 3) := dk_180 0 117 (dk_at dksX0_undo_0 11 rfl rfl)
theorem dX0_undo_14 : decode cX0_undo 14 = .ok (.iconst 1, 1) := dk_4 (dk_at dksX0_undo_0 14 rfl rfl)
theorem dX0_undo_15 : decode cX0_undo 15 = .ok (.isub, 1) := dk_100 (dk_at dksX0_undo_0 15 rfl rfl)
theorem dX0_undo_16 : decode cX0_undo 16 = .ok (.putfield 117, 3) := dk_181 0 117 (dk_at dksX0_undo_0 16 rfl rfl)
theorem dX0_undo_19 : decode cX0_undo 19 = .ok (.aload_n 0, 1) := dk_42 (dk_at dksX0_undo_0 19 rfl rfl)
theorem dX0_undo_20 : decode cX0_undo 20 = .ok (.dup, 1) := dk_89 (dk_at dksX0_undo_0 20 rfl rfl)
theorem dX0_undo_21 : decode cX0_undo 21 = .ok (.getfield 120, 3) := dk_180 0 120 (dk_at dksX0_undo_0 21 rfl rfl)
theorem dX0_undo_24 : decode cX0_undo 24 = .ok (.iconst 1, 1) := dk_4 (dk_at dksX0_undo_1 0 rfl rfl)
theorem dX0_undo_25 : decode cX0_undo 25 = .ok (.iadd, 1) := dk_96 (dk_at dksX0_undo_1 1 rfl rfl)
theorem dX0_undo_26 : decode cX0_undo 26 = .ok (.putfield 120, 3) := dk_181 0 120 (dk_at dksX0_undo_1 2 rfl rfl)
theorem dX0_undo_29 : decode cX0_undo 29 = .ok (.aload_n 0, 1) := dk_42 (dk_at dksX0_undo_1 5 rfl rfl)
theorem dX0_undo_30 : decode cX0_undo 30 = .ok (.aload_n 0, 1) := dk_42 (dk_at dksX0_undo_1 6 rfl rfl)
theorem dX0_undo_31 : decode cX0_undo 31 = .ok (.getfield 63, 3) := dk_180 0 63 (dk_at dksX0_undo_1 7 rfl rfl)
theorem dX0_undo_34 : decode cX0_undo 34 = .ok (.aload_n 0, 1) := dk_42 (dk_at dksX0_undo_1 10 rfl rfl)
theorem dX0_undo_35 : decode cX0_undo 35 = .ok (.getfield 117, 3) := dk_180 0 117 (dk_at dksX0_undo_1 11 rfl rfl)
theorem dX0_undo_38 : decode cX0_undo 38 = .ok (.aaload, 1) := dk_50 (dk_at dksX0_undo_1 14 rfl rfl)
theorem dX0_undo_39 : decode cX0_undo 39 = .ok (.invokevirtual 262, 3) := dk_182 1 6 (dk_at dksX0_undo_1 15 rfl rfl)
theorem dX0_undo_42 : decode cX0_undo 42 = .ok (.iconst 1, 1) := dk_4 (dk_at dksX0_undo_1 18 rfl rfl)
theorem dX0_undo_43 : decode cX0_undo 43 = .ok (.ireturn, 1) := dk_172 (dk_at dksX0_undo_1 19 rfl rfl)
abbrev cX0_turnAbout : ByteArray := prog_1_method_22_code
def yX0_turnAbout : MethodName := ⟨RX0, "turnAbout", "(LWebCourt$Court;)V"⟩
def dkwX0_turnAbout_1 : List UInt8 := [180, 0, 57, 182, 0, 213, 87, 177]
abbrev dktX0_turnAbout_1 : List UInt8 := dkwX0_turnAbout_1 ++ []
def dkwX0_turnAbout_0 : List UInt8 := [42, 180, 0, 57, 43, 182, 0, 213, 87, 43, 42, 180, 0, 53, 182, 0, 213, 87, 42, 180, 0, 53, 42]
abbrev dktX0_turnAbout_0 : List UInt8 := dkwX0_turnAbout_0 ++ dktX0_turnAbout_1
theorem dksX0_turnAbout_0 : cX0_turnAbout.data.toList.drop 0 = dktX0_turnAbout_0 := by decide +kernel
theorem dksX0_turnAbout_1 : cX0_turnAbout.data.toList.drop 23 = dktX0_turnAbout_1 := dk_seg dksX0_turnAbout_0 23 rfl rfl
theorem dX0_turnAbout_0 : decode cX0_turnAbout 0 = .ok (.aload_n 0, 1) := dk_42 (dk_at dksX0_turnAbout_0 0 rfl rfl)
theorem dX0_turnAbout_1 : decode cX0_turnAbout 1 = .ok (.getfield 57, 3) := dk_180 0 57 (dk_at dksX0_turnAbout_0 1 rfl rfl)
theorem dX0_turnAbout_4 : decode cX0_turnAbout 4 = .ok (.aload_n 1, 1) := dk_43 (dk_at dksX0_turnAbout_0 4 rfl rfl)
theorem dX0_turnAbout_5 : decode cX0_turnAbout 5 = .ok (.invokevirtual 213, 3) := dk_182 0 213 (dk_at dksX0_turnAbout_0 5 rfl rfl)
theorem dX0_turnAbout_8 : decode cX0_turnAbout 8 = .ok (.pop, 1) := dk_87 (dk_at dksX0_turnAbout_0 8 rfl rfl)
theorem dX0_turnAbout_9 : decode cX0_turnAbout 9 = .ok (.aload_n 1, 1) := dk_43 (dk_at dksX0_turnAbout_0 9 rfl rfl)
theorem dX0_turnAbout_10 : decode cX0_turnAbout 10 = .ok (.aload_n 0, 1) := dk_42 (dk_at dksX0_turnAbout_0 10 rfl rfl)
theorem dX0_turnAbout_11 : decode cX0_turnAbout 11 = .ok (.getfield 53, 3) := dk_180 0 53 (dk_at dksX0_turnAbout_0 11 rfl rfl)
theorem dX0_turnAbout_14 : decode cX0_turnAbout 14 = .ok (.invokevirtual 213, 3) := dk_182 0 213 (dk_at dksX0_turnAbout_0 14 rfl rfl)
theorem dX0_turnAbout_17 : decode cX0_turnAbout 17 = .ok (.pop, 1) := dk_87 (dk_at dksX0_turnAbout_0 17 rfl rfl)
theorem dX0_turnAbout_18 : decode cX0_turnAbout 18 = .ok (.aload_n 0, 1) := dk_42 (dk_at dksX0_turnAbout_0 18 rfl rfl)
theorem dX0_turnAbout_19 : decode cX0_turnAbout 19 = .ok (.getfield 53, 3) := dk_180 0 53 (dk_at dksX0_turnAbout_0 19 rfl rfl)
theorem dX0_turnAbout_22 : decode cX0_turnAbout 22 = .ok (.aload_n 0, 1) := dk_42 (dk_at dksX0_turnAbout_0 22 rfl rfl)
theorem dX0_turnAbout_23 : decode cX0_turnAbout 23 = .ok (.getfield 57, 3) := dk_180 0 57 (dk_at dksX0_turnAbout_1 0 rfl rfl)
theorem dX0_turnAbout_26 : decode cX0_turnAbout 26 = .ok (.invokevirtual 213, 3) := dk_182 0 213 (dk_at dksX0_turnAbout_1 3 rfl rfl)
theorem dX0_turnAbout_29 : decode cX0_turnAbout 29 = .ok (.pop, 1) := dk_87 (dk_at dksX0_turnAbout_1 6 rfl rfl)
theorem dX0_turnAbout_30 : decode cX0_turnAbout 30 = .ok (.return_, 1) := dk_177 (dk_at dksX0_turnAbout_1 7 rfl rfl)
abbrev cX0_redo : ByteArray := prog_1_method_31_code
def yX0_redo : MethodName := ⟨RX0, "redo", "()Z"⟩
def dkwX0_redo_1 : List UInt8 := [180, 0, 117, 4, 96, 181, 0, 117, 42, 89, 180, 0, 120, 4, 100, 181, 0, 120, 4, 172]
abbrev dktX0_redo_1 : List UInt8 := dkwX0_redo_1 ++ []
def dkwX0_redo_0 : List UInt8 := [42, 180, 0, 120, 154, 0, 5, 3, 172, 42, 42, 180, 0, 63, 42, 180, 0, 117, 50, 182, 1, 6, 42, 89]
abbrev dktX0_redo_0 : List UInt8 := dkwX0_redo_0 ++ dktX0_redo_1
theorem dksX0_redo_0 : cX0_redo.data.toList.drop 0 = dktX0_redo_0 := by decide +kernel
theorem dksX0_redo_1 : cX0_redo.data.toList.drop 24 = dktX0_redo_1 := dk_seg dksX0_redo_0 24 rfl rfl
theorem dX0_redo_0 : decode cX0_redo 0 = .ok (.aload_n 0, 1) := dk_42 (dk_at dksX0_redo_0 0 rfl rfl)
theorem dX0_redo_1 : decode cX0_redo 1 = .ok (.getfield 120, 3) := dk_180 0 120 (dk_at dksX0_redo_0 1 rfl rfl)
theorem dX0_redo_4 : decode cX0_redo 4 = .ok (.ifCond .ne 5, 3) := dk_154 0 5 (dk_at dksX0_redo_0 4 rfl rfl)
theorem dX0_redo_7 : decode cX0_redo 7 = .ok (.iconst 0, 1) := dk_3 (dk_at dksX0_redo_0 7 rfl rfl)
theorem dX0_redo_8 : decode cX0_redo 8 = .ok (.ireturn, 1) := dk_172 (dk_at dksX0_redo_0 8 rfl rfl)
theorem dX0_redo_9 : decode cX0_redo 9 = .ok (.aload_n 0, 1) := dk_42 (dk_at dksX0_redo_0 9 rfl rfl)
theorem dX0_redo_10 : decode cX0_redo 10 = .ok (.aload_n 0, 1) := dk_42 (dk_at dksX0_redo_0 10 rfl rfl)
theorem dX0_redo_11 : decode cX0_redo 11 = .ok (.getfield 63, 3) := dk_180 0 63 (dk_at dksX0_redo_0 11 rfl rfl)
theorem dX0_redo_14 : decode cX0_redo 14 = .ok (.aload_n 0, 1) := dk_42 (dk_at dksX0_redo_0 14 rfl rfl)
theorem dX0_redo_15 : decode cX0_redo 15 = .ok (.getfield 117, 3) := dk_180 0 117 (dk_at dksX0_redo_0 15 rfl rfl)
theorem dX0_redo_18 : decode cX0_redo 18 = .ok (.aaload, 1) := dk_50 (dk_at dksX0_redo_0 18 rfl rfl)
theorem dX0_redo_19 : decode cX0_redo 19 = .ok (.invokevirtual 262, 3) := dk_182 1 6 (dk_at dksX0_redo_0 19 rfl rfl)
theorem dX0_redo_22 : decode cX0_redo 22 = .ok (.aload_n 0, 1) := dk_42 (dk_at dksX0_redo_0 22 rfl rfl)
theorem dX0_redo_23 : decode cX0_redo 23 = .ok (.dup, 1) := dk_89 (dk_at dksX0_redo_0 23 rfl rfl)
theorem dX0_redo_24 : decode cX0_redo 24 = .ok (.getfield 117, 3) := dk_180 0 117 (dk_at dksX0_redo_1 0 rfl rfl)
theorem dX0_redo_27 : decode cX0_redo 27 = .ok (.iconst 1, 1) := dk_4 (dk_at dksX0_redo_1 3 rfl rfl)
theorem dX0_redo_28 : decode cX0_redo 28 = .ok (.iadd, 1) := dk_96 (dk_at dksX0_redo_1 4 rfl rfl)
theorem dX0_redo_29 : decode cX0_redo 29 = .ok (.putfield 117, 3) := dk_181 0 117 (dk_at dksX0_redo_1 5 rfl rfl)
theorem dX0_redo_32 : decode cX0_redo 32 = .ok (.aload_n 0, 1) := dk_42 (dk_at dksX0_redo_1 8 rfl rfl)
theorem dX0_redo_33 : decode cX0_redo 33 = .ok (.dup, 1) := dk_89 (dk_at dksX0_redo_1 9 rfl rfl)
theorem dX0_redo_34 : decode cX0_redo 34 = .ok (.getfield 120, 3) := dk_180 0 120 (dk_at dksX0_redo_1 10 rfl rfl)
theorem dX0_redo_37 : decode cX0_redo 37 = .ok (.iconst 1, 1) := dk_4 (dk_at dksX0_redo_1 13 rfl rfl)
theorem dX0_redo_38 : decode cX0_redo 38 = .ok (.isub, 1) := dk_100 (dk_at dksX0_redo_1 14 rfl rfl)
theorem dX0_redo_39 : decode cX0_redo 39 = .ok (.putfield 120, 3) := dk_181 0 120 (dk_at dksX0_redo_1 15 rfl rfl)
theorem dX0_redo_42 : decode cX0_redo 42 = .ok (.iconst 1, 1) := dk_4 (dk_at dksX0_redo_1 18 rfl rfl)
theorem dX0_redo_43 : decode cX0_redo 43 = .ok (.ireturn, 1) := dk_172 (dk_at dksX0_redo_1 19 rfl rfl)
abbrev cX0_shortest : ByteArray := prog_1_method_34_code
def yX0_shortest : MethodName := ⟨RX0, "shortest", "(II)I"⟩
def dkwX0_shortest_1 : List UInt8 := [182, 1, 13, 182, 1, 16, 28, 184, 1, 19, 167, 0, 4, 2, 172]
abbrev dktX0_shortest_1 : List UInt8 := dkwX0_shortest_1 ++ []
def dkwX0_shortest_0 : List UInt8 := [42, 27, 182, 0, 234, 153, 0, 31, 28, 3, 4, 184, 0, 154, 153, 0, 22, 42, 27, 42, 180, 0, 42]
abbrev dktX0_shortest_0 : List UInt8 := dkwX0_shortest_0 ++ dktX0_shortest_1
theorem dksX0_shortest_0 : cX0_shortest.data.toList.drop 0 = dktX0_shortest_0 := by decide +kernel
theorem dksX0_shortest_1 : cX0_shortest.data.toList.drop 23 = dktX0_shortest_1 := dk_seg dksX0_shortest_0 23 rfl rfl
theorem dX0_shortest_0 : decode cX0_shortest 0 = .ok (.aload_n 0, 1) := dk_42 (dk_at dksX0_shortest_0 0 rfl rfl)
theorem dX0_shortest_1 : decode cX0_shortest 1 = .ok (.iload_n 1, 1) := dk_27 (dk_at dksX0_shortest_0 1 rfl rfl)
theorem dX0_shortest_2 : decode cX0_shortest 2 = .ok (.invokevirtual 234, 3) := dk_182 0 234 (dk_at dksX0_shortest_0 2 rfl rfl)
theorem dX0_shortest_5 : decode cX0_shortest 5 = .ok (.ifCond .eq 31, 3) := dk_153 0 31 (dk_at dksX0_shortest_0 5 rfl rfl)
theorem dX0_shortest_8 : decode cX0_shortest 8 = .ok (.iload_n 2, 1) := dk_28 (dk_at dksX0_shortest_0 8 rfl rfl)
theorem dX0_shortest_9 : decode cX0_shortest 9 = .ok (.iconst 0, 1) := dk_3 (dk_at dksX0_shortest_0 9 rfl rfl)
theorem dX0_shortest_10 : decode cX0_shortest 10 = .ok (.iconst 1, 1) := dk_4 (dk_at dksX0_shortest_0 10 rfl rfl)
theorem dX0_shortest_11 : decode cX0_shortest 11 = .ok (.invokestatic 154, 3) := dk_184 0 154 (dk_at dksX0_shortest_0 11 rfl rfl)
theorem dX0_shortest_14 : decode cX0_shortest 14 = .ok (.ifCond .eq 22, 3) := dk_153 0 22 (dk_at dksX0_shortest_0 14 rfl rfl)
theorem dX0_shortest_17 : decode cX0_shortest 17 = .ok (.aload_n 0, 1) := dk_42 (dk_at dksX0_shortest_0 17 rfl rfl)
theorem dX0_shortest_18 : decode cX0_shortest 18 = .ok (.iload_n 1, 1) := dk_27 (dk_at dksX0_shortest_0 18 rfl rfl)
theorem dX0_shortest_19 : decode cX0_shortest 19 = .ok (.aload_n 0, 1) := dk_42 (dk_at dksX0_shortest_0 19 rfl rfl)
theorem dX0_shortest_20 : decode cX0_shortest 20 = .ok (.getfield 42, 3) := dk_180 0 42 (dk_at dksX0_shortest_0 20 rfl rfl)
theorem dX0_shortest_23 : decode cX0_shortest 23 = .ok (.invokevirtual 269, 3) := dk_182 1 13 (dk_at dksX0_shortest_1 0 rfl rfl)
theorem dX0_shortest_26 : decode cX0_shortest 26 = .ok (.invokevirtual 272, 3) := dk_182 1 16 (dk_at dksX0_shortest_1 3 rfl rfl)
theorem dX0_shortest_29 : decode cX0_shortest 29 = .ok (.iload_n 2, 1) := dk_28 (dk_at dksX0_shortest_1 6 rfl rfl)
theorem dX0_shortest_30 : decode cX0_shortest 30 = .ok (.invokestatic 275, 3) := dk_184 1 19 (dk_at dksX0_shortest_1 7 rfl rfl)
theorem dX0_shortest_33 : decode cX0_shortest 33 = .ok (.goto 4, 3) := dk_167 0 4 (dk_at dksX0_shortest_1 10 rfl rfl)
theorem dX0_shortest_36 : decode cX0_shortest 36 = .ok (.iconst (-1), 1) := dk_2 (dk_at dksX0_shortest_1 13 rfl rfl)
theorem dX0_shortest_37 : decode cX0_shortest 37 = .ok (.ireturn, 1) := dk_172 (dk_at dksX0_shortest_1 14 rfl rfl)
abbrev cX0_fewest : ByteArray := prog_1_method_32_code
def yX0_fewest : MethodName := ⟨RX0, "fewest", "(II)I"⟩
def dkwX0_fewest_3 : List UInt8 := [182, 1, 10, 158, 0, 6, 21, 4, 62, 132, 4, 1, 167, 255, 181, 29, 172]
abbrev dktX0_fewest_3 : List UInt8 := dkwX0_fewest_3 ++ []
def dkwX0_fewest_2 : List UInt8 := [167, 0, 4, 3, 54, 5, 21, 5, 153, 0, 23, 42, 180, 0, 53, 42, 180, 0, 42, 27, 21, 4]
abbrev dktX0_fewest_2 : List UInt8 := dkwX0_fewest_2 ++ dktX0_fewest_3
def dkwX0_fewest_1 : List UInt8 := [184, 0, 242, 7, 163, 0, 23, 29, 155, 0, 15, 21, 4, 184, 0, 242, 29, 184, 0, 242, 162, 0, 7, 4]
abbrev dktX0_fewest_1 : List UInt8 := dkwX0_fewest_1 ++ dktX0_fewest_2
def dkwX0_fewest_0 : List UInt8 := [2, 62, 4, 54, 4, 21, 4, 28, 163, 0, 75, 21, 4, 28, 2, 130, 126, 154, 0, 32, 21, 4]
abbrev dktX0_fewest_0 : List UInt8 := dkwX0_fewest_0 ++ dktX0_fewest_1
theorem dksX0_fewest_0 : cX0_fewest.data.toList.drop 0 = dktX0_fewest_0 := by decide +kernel
theorem dksX0_fewest_1 : cX0_fewest.data.toList.drop 22 = dktX0_fewest_1 := dk_seg dksX0_fewest_0 22 rfl rfl
theorem dksX0_fewest_2 : cX0_fewest.data.toList.drop 46 = dktX0_fewest_2 := dk_seg dksX0_fewest_1 24 rfl rfl
theorem dksX0_fewest_3 : cX0_fewest.data.toList.drop 68 = dktX0_fewest_3 := dk_seg dksX0_fewest_2 22 rfl rfl
theorem dX0_fewest_0 : decode cX0_fewest 0 = .ok (.iconst (-1), 1) := dk_2 (dk_at dksX0_fewest_0 0 rfl rfl)
theorem dX0_fewest_1 : decode cX0_fewest 1 = .ok (.istore_n 3, 1) := dk_62 (dk_at dksX0_fewest_0 1 rfl rfl)
theorem dX0_fewest_2 : decode cX0_fewest 2 = .ok (.iconst 1, 1) := dk_4 (dk_at dksX0_fewest_0 2 rfl rfl)
theorem dX0_fewest_3 : decode cX0_fewest 3 = .ok (.istore 4, 2) := dk_54 4 (dk_at dksX0_fewest_0 3 rfl rfl)
theorem dX0_fewest_5 : decode cX0_fewest 5 = .ok (.iload 4, 2) := dk_21 4 (dk_at dksX0_fewest_0 5 rfl rfl)
theorem dX0_fewest_7 : decode cX0_fewest 7 = .ok (.iload_n 2, 1) := dk_28 (dk_at dksX0_fewest_0 7 rfl rfl)
theorem dX0_fewest_8 : decode cX0_fewest 8 = .ok (.if_icmp .gt 75, 3) := dk_163 0 75 (dk_at dksX0_fewest_0 8 rfl rfl)
theorem dX0_fewest_11 : decode cX0_fewest 11 = .ok (.iload 4, 2) := dk_21 4 (dk_at dksX0_fewest_0 11 rfl rfl)
theorem dX0_fewest_13 : decode cX0_fewest 13 = .ok (.iload_n 2, 1) := dk_28 (dk_at dksX0_fewest_0 13 rfl rfl)
theorem dX0_fewest_14 : decode cX0_fewest 14 = .ok (.iconst (-1), 1) := dk_2 (dk_at dksX0_fewest_0 14 rfl rfl)
theorem dX0_fewest_15 : decode cX0_fewest 15 = .ok (.ixor, 1) := dk_130 (dk_at dksX0_fewest_0 15 rfl rfl)
theorem dX0_fewest_16 : decode cX0_fewest 16 = .ok (.iand, 1) := dk_126 (dk_at dksX0_fewest_0 16 rfl rfl)
theorem dX0_fewest_17 : decode cX0_fewest 17 = .ok (.ifCond .ne 32, 3) := dk_154 0 32 (dk_at dksX0_fewest_0 17 rfl rfl)
theorem dX0_fewest_20 : decode cX0_fewest 20 = .ok (.iload 4, 2) := dk_21 4 (dk_at dksX0_fewest_0 20 rfl rfl)
theorem dX0_fewest_22 : decode cX0_fewest 22 = .ok (.invokestatic 242, 3) := dk_184 0 242 (dk_at dksX0_fewest_1 0 rfl rfl)
theorem dX0_fewest_25 : decode cX0_fewest 25 = .ok (.iconst 4, 1) := dk_7 (dk_at dksX0_fewest_1 3 rfl rfl)
theorem dX0_fewest_26 : decode cX0_fewest 26 = .ok (.if_icmp .gt 23, 3) := dk_163 0 23 (dk_at dksX0_fewest_1 4 rfl rfl)
theorem dX0_fewest_29 : decode cX0_fewest 29 = .ok (.iload_n 3, 1) := dk_29 (dk_at dksX0_fewest_1 7 rfl rfl)
theorem dX0_fewest_30 : decode cX0_fewest 30 = .ok (.ifCond .lt 15, 3) := dk_155 0 15 (dk_at dksX0_fewest_1 8 rfl rfl)
theorem dX0_fewest_33 : decode cX0_fewest 33 = .ok (.iload 4, 2) := dk_21 4 (dk_at dksX0_fewest_1 11 rfl rfl)
theorem dX0_fewest_35 : decode cX0_fewest 35 = .ok (.invokestatic 242, 3) := dk_184 0 242 (dk_at dksX0_fewest_1 13 rfl rfl)
theorem dX0_fewest_38 : decode cX0_fewest 38 = .ok (.iload_n 3, 1) := dk_29 (dk_at dksX0_fewest_1 16 rfl rfl)
theorem dX0_fewest_39 : decode cX0_fewest 39 = .ok (.invokestatic 242, 3) := dk_184 0 242 (dk_at dksX0_fewest_1 17 rfl rfl)
theorem dX0_fewest_42 : decode cX0_fewest 42 = .ok (.if_icmp .ge 7, 3) := dk_162 0 7 (dk_at dksX0_fewest_1 20 rfl rfl)
theorem dX0_fewest_45 : decode cX0_fewest 45 = .ok (.iconst 1, 1) := dk_4 (dk_at dksX0_fewest_1 23 rfl rfl)
theorem dX0_fewest_46 : decode cX0_fewest 46 = .ok (.goto 4, 3) := dk_167 0 4 (dk_at dksX0_fewest_2 0 rfl rfl)
theorem dX0_fewest_49 : decode cX0_fewest 49 = .ok (.iconst 0, 1) := dk_3 (dk_at dksX0_fewest_2 3 rfl rfl)
theorem dX0_fewest_50 : decode cX0_fewest 50 = .ok (.istore 5, 2) := dk_54 5 (dk_at dksX0_fewest_2 4 rfl rfl)
theorem dX0_fewest_52 : decode cX0_fewest 52 = .ok (.iload 5, 2) := dk_21 5 (dk_at dksX0_fewest_2 6 rfl rfl)
theorem dX0_fewest_54 : decode cX0_fewest 54 = .ok (.ifCond .eq 23, 3) := dk_153 0 23 (dk_at dksX0_fewest_2 8 rfl rfl)
theorem dX0_fewest_57 : decode cX0_fewest 57 = .ok (.aload_n 0, 1) := dk_42 (dk_at dksX0_fewest_2 11 rfl rfl)
theorem dX0_fewest_58 : decode cX0_fewest 58 = .ok (.getfield 53, 3) := dk_180 0 53 (dk_at dksX0_fewest_2 12 rfl rfl)
theorem dX0_fewest_61 : decode cX0_fewest 61 = .ok (.aload_n 0, 1) := dk_42 (dk_at dksX0_fewest_2 15 rfl rfl)
theorem dX0_fewest_62 : decode cX0_fewest 62 = .ok (.getfield 42, 3) := dk_180 0 42 (dk_at dksX0_fewest_2 16 rfl rfl)
theorem dX0_fewest_65 : decode cX0_fewest 65 = .ok (.iload_n 1, 1) := dk_27 (dk_at dksX0_fewest_2 19 rfl rfl)
theorem dX0_fewest_66 : decode cX0_fewest 66 = .ok (.iload 4, 2) := dk_21 4 (dk_at dksX0_fewest_2 20 rfl rfl)
theorem dX0_fewest_68 : decode cX0_fewest 68 = .ok (.invokevirtual 266, 3) := dk_182 1 10 (dk_at dksX0_fewest_3 0 rfl rfl)
theorem dX0_fewest_71 : decode cX0_fewest 71 = .ok (.ifCond .le 6, 3) := dk_158 0 6 (dk_at dksX0_fewest_3 3 rfl rfl)
theorem dX0_fewest_74 : decode cX0_fewest 74 = .ok (.iload 4, 2) := dk_21 4 (dk_at dksX0_fewest_3 6 rfl rfl)
theorem dX0_fewest_76 : decode cX0_fewest 76 = .ok (.istore_n 3, 1) := dk_62 (dk_at dksX0_fewest_3 8 rfl rfl)
theorem dX0_fewest_77 : decode cX0_fewest 77 = .ok (.iinc 4 1, 3) := dk_132 4 1 (dk_at dksX0_fewest_3 9 rfl rfl)
theorem dX0_fewest_80 : decode cX0_fewest 80 = .ok (.goto (-75), 3) := dk_167 255 181 (dk_at dksX0_fewest_3 12 rfl rfl)
theorem dX0_fewest_83 : decode cX0_fewest 83 = .ok (.iload_n 3, 1) := dk_29 (dk_at dksX0_fewest_3 15 rfl rfl)
theorem dX0_fewest_84 : decode cX0_fewest 84 = .ok (.ireturn, 1) := dk_172 (dk_at dksX0_fewest_3 16 rfl rfl)
abbrev cX0_told : ByteArray := prog_1_method_33_code
def yX0_told : MethodName := ⟨RX0, "told", "(II)I"⟩
def dkwX0_told_0 : List UInt8 := [26, 156, 0, 7, 2, 167, 0, 15, 27, 154, 0, 10, 26, 184, 0, 242, 167, 0, 4, 26, 172]
abbrev dktX0_told_0 : List UInt8 := dkwX0_told_0 ++ []
theorem dksX0_told_0 : cX0_told.data.toList.drop 0 = dktX0_told_0 := by decide +kernel
theorem dX0_told_0 : decode cX0_told 0 = .ok (.iload_n 0, 1) := dk_26 (dk_at dksX0_told_0 0 rfl rfl)
theorem dX0_told_1 : decode cX0_told 1 = .ok (.ifCond .ge 7, 3) := dk_156 0 7 (dk_at dksX0_told_0 1 rfl rfl)
theorem dX0_told_4 : decode cX0_told 4 = .ok (.iconst (-1), 1) := dk_2 (dk_at dksX0_told_0 4 rfl rfl)
theorem dX0_told_5 : decode cX0_told 5 = .ok (.goto 15, 3) := dk_167 0 15 (dk_at dksX0_told_0 5 rfl rfl)
theorem dX0_told_8 : decode cX0_told 8 = .ok (.iload_n 1, 1) := dk_27 (dk_at dksX0_told_0 8 rfl rfl)
theorem dX0_told_9 : decode cX0_told 9 = .ok (.ifCond .ne 10, 3) := dk_154 0 10 (dk_at dksX0_told_0 9 rfl rfl)
theorem dX0_told_12 : decode cX0_told 12 = .ok (.iload_n 0, 1) := dk_26 (dk_at dksX0_told_0 12 rfl rfl)
theorem dX0_told_13 : decode cX0_told 13 = .ok (.invokestatic 242, 3) := dk_184 0 242 (dk_at dksX0_told_0 13 rfl rfl)
theorem dX0_told_16 : decode cX0_told 16 = .ok (.goto 4, 3) := dk_167 0 4 (dk_at dksX0_told_0 16 rfl rfl)
theorem dX0_told_19 : decode cX0_told 19 = .ok (.iload_n 0, 1) := dk_26 (dk_at dksX0_told_0 19 rfl rfl)
theorem dX0_told_20 : decode cX0_told 20 = .ok (.ireturn, 1) := dk_172 (dk_at dksX0_told_0 20 rfl rfl)
abbrev cX0_honest : ByteArray := prog_1_method_35_code
def yX0_honest : MethodName := ⟨RX0, "honest", "(II)I"⟩
def dkwX0_honest_2 : List UInt8 := [172]
abbrev dktX0_honest_2 : List UInt8 := dkwX0_honest_2 ++ []
def dkwX0_honest_1 : List UInt8 := [180, 0, 143, 27, 182, 0, 9, 192, 0, 13, 180, 0, 195, 182, 1, 16, 28, 184, 1, 19, 167, 0, 4, 2]
abbrev dktX0_honest_1 : List UInt8 := dkwX0_honest_1 ++ dktX0_honest_2
def dkwX0_honest_0 : List UInt8 := [42, 27, 182, 0, 234, 153, 0, 41, 28, 3, 4, 184, 0, 154, 153, 0, 32, 42, 27, 42, 180, 0, 42]
abbrev dktX0_honest_0 : List UInt8 := dkwX0_honest_0 ++ dktX0_honest_1
theorem dksX0_honest_0 : cX0_honest.data.toList.drop 0 = dktX0_honest_0 := by decide +kernel
theorem dksX0_honest_1 : cX0_honest.data.toList.drop 23 = dktX0_honest_1 := dk_seg dksX0_honest_0 23 rfl rfl
theorem dksX0_honest_2 : cX0_honest.data.toList.drop 47 = dktX0_honest_2 := dk_seg dksX0_honest_1 24 rfl rfl
theorem dX0_honest_0 : decode cX0_honest 0 = .ok (.aload_n 0, 1) := dk_42 (dk_at dksX0_honest_0 0 rfl rfl)
theorem dX0_honest_1 : decode cX0_honest 1 = .ok (.iload_n 1, 1) := dk_27 (dk_at dksX0_honest_0 1 rfl rfl)
theorem dX0_honest_2 : decode cX0_honest 2 = .ok (.invokevirtual 234, 3) := dk_182 0 234 (dk_at dksX0_honest_0 2 rfl rfl)
theorem dX0_honest_5 : decode cX0_honest 5 = .ok (.ifCond .eq 41, 3) := dk_153 0 41 (dk_at dksX0_honest_0 5 rfl rfl)
theorem dX0_honest_8 : decode cX0_honest 8 = .ok (.iload_n 2, 1) := dk_28 (dk_at dksX0_honest_0 8 rfl rfl)
theorem dX0_honest_9 : decode cX0_honest 9 = .ok (.iconst 0, 1) := dk_3 (dk_at dksX0_honest_0 9 rfl rfl)
theorem dX0_honest_10 : decode cX0_honest 10 = .ok (.iconst 1, 1) := dk_4 (dk_at dksX0_honest_0 10 rfl rfl)
theorem dX0_honest_11 : decode cX0_honest 11 = .ok (.invokestatic 154, 3) := dk_184 0 154 (dk_at dksX0_honest_0 11 rfl rfl)
theorem dX0_honest_14 : decode cX0_honest 14 = .ok (.ifCond .eq 32, 3) := dk_153 0 32 (dk_at dksX0_honest_0 14 rfl rfl)
theorem dX0_honest_17 : decode cX0_honest 17 = .ok (.aload_n 0, 1) := dk_42 (dk_at dksX0_honest_0 17 rfl rfl)
theorem dX0_honest_18 : decode cX0_honest 18 = .ok (.iload_n 1, 1) := dk_27 (dk_at dksX0_honest_0 18 rfl rfl)
theorem dX0_honest_19 : decode cX0_honest 19 = .ok (.aload_n 0, 1) := dk_42 (dk_at dksX0_honest_0 19 rfl rfl)
theorem dX0_honest_20 : decode cX0_honest 20 = .ok (.getfield 42, 3) := dk_180 0 42 (dk_at dksX0_honest_0 20 rfl rfl)
theorem dX0_honest_23 : decode cX0_honest 23 = .ok (.getfield 143, 3) := dk_180 0 143 (dk_at dksX0_honest_1 0 rfl rfl)
theorem dX0_honest_26 : decode cX0_honest 26 = .ok (.iload_n 1, 1) := dk_27 (dk_at dksX0_honest_1 3 rfl rfl)
theorem dX0_honest_27 : decode cX0_honest 27 = .ok (.invokevirtual 9, 3) := dk_182 0 9 (dk_at dksX0_honest_1 4 rfl rfl)
theorem dX0_honest_30 : decode cX0_honest 30 = .ok (.checkcast 13, 3) := dk_192 0 13 (dk_at dksX0_honest_1 7 rfl rfl)
theorem dX0_honest_33 : decode cX0_honest 33 = .ok (.getfield 195, 3) := dk_180 0 195 (dk_at dksX0_honest_1 10 rfl rfl)
theorem dX0_honest_36 : decode cX0_honest 36 = .ok (.invokevirtual 272, 3) := dk_182 1 16 (dk_at dksX0_honest_1 13 rfl rfl)
theorem dX0_honest_39 : decode cX0_honest 39 = .ok (.iload_n 2, 1) := dk_28 (dk_at dksX0_honest_1 16 rfl rfl)
theorem dX0_honest_40 : decode cX0_honest 40 = .ok (.invokestatic 275, 3) := dk_184 1 19 (dk_at dksX0_honest_1 17 rfl rfl)
theorem dX0_honest_43 : decode cX0_honest 43 = .ok (.goto 4, 3) := dk_167 0 4 (dk_at dksX0_honest_1 20 rfl rfl)
theorem dX0_honest_46 : decode cX0_honest 46 = .ok (.iconst (-1), 1) := dk_2 (dk_at dksX0_honest_1 23 rfl rfl)
theorem dX0_honest_47 : decode cX0_honest 47 = .ok (.ireturn, 1) := dk_172 (dk_at dksX0_honest_2 0 rfl rfl)
abbrev cX0_hopeless : ByteArray := prog_1_method_36_code
def yX0_hopeless : MethodName := ⟨RX0, "hopeless", "()I"⟩
def dkwX0_hopeless_2 : List UInt8 := [132, 2, 1, 167, 255, 209, 27, 172]
abbrev dktX0_hopeless_2 : List UInt8 := dkwX0_hopeless_2 ++ []
def dkwX0_hopeless_1 : List UInt8 := [42, 28, 42, 180, 0, 42, 182, 1, 13, 182, 1, 16, 156, 0, 9, 4, 28, 120, 167, 0, 4, 3, 128, 60]
abbrev dktX0_hopeless_1 : List UInt8 := dkwX0_hopeless_1 ++ dktX0_hopeless_2
def dkwX0_hopeless_0 : List UInt8 := [3, 60, 3, 61, 28, 42, 182, 0, 140, 162, 0, 45, 27, 42, 180, 0, 53, 28, 182, 0, 162, 153, 0, 24]
abbrev dktX0_hopeless_0 : List UInt8 := dkwX0_hopeless_0 ++ dktX0_hopeless_1
theorem dksX0_hopeless_0 : cX0_hopeless.data.toList.drop 0 = dktX0_hopeless_0 := by decide +kernel
theorem dksX0_hopeless_1 : cX0_hopeless.data.toList.drop 24 = dktX0_hopeless_1 := dk_seg dksX0_hopeless_0 24 rfl rfl
theorem dksX0_hopeless_2 : cX0_hopeless.data.toList.drop 48 = dktX0_hopeless_2 := dk_seg dksX0_hopeless_1 24 rfl rfl
theorem dX0_hopeless_0 : decode cX0_hopeless 0 = .ok (.iconst 0, 1) := dk_3 (dk_at dksX0_hopeless_0 0 rfl rfl)
theorem dX0_hopeless_1 : decode cX0_hopeless 1 = .ok (.istore_n 1, 1) := dk_60 (dk_at dksX0_hopeless_0 1 rfl rfl)
theorem dX0_hopeless_2 : decode cX0_hopeless 2 = .ok (.iconst 0, 1) := dk_3 (dk_at dksX0_hopeless_0 2 rfl rfl)
theorem dX0_hopeless_3 : decode cX0_hopeless 3 = .ok (.istore_n 2, 1) := dk_61 (dk_at dksX0_hopeless_0 3 rfl rfl)
theorem dX0_hopeless_4 : decode cX0_hopeless 4 = .ok (.iload_n 2, 1) := dk_28 (dk_at dksX0_hopeless_0 4 rfl rfl)
theorem dX0_hopeless_5 : decode cX0_hopeless 5 = .ok (.aload_n 0, 1) := dk_42 (dk_at dksX0_hopeless_0 5 rfl rfl)
theorem dX0_hopeless_6 : decode cX0_hopeless 6 = .ok (.invokevirtual 140, 3) := dk_182 0 140 (dk_at dksX0_hopeless_0 6 rfl rfl)
theorem dX0_hopeless_9 : decode cX0_hopeless 9 = .ok (.if_icmp .ge 45, 3) := dk_162 0 45 (dk_at dksX0_hopeless_0 9 rfl rfl)
theorem dX0_hopeless_12 : decode cX0_hopeless 12 = .ok (.iload_n 1, 1) := dk_27 (dk_at dksX0_hopeless_0 12 rfl rfl)
theorem dX0_hopeless_13 : decode cX0_hopeless 13 = .ok (.aload_n 0, 1) := dk_42 (dk_at dksX0_hopeless_0 13 rfl rfl)
theorem dX0_hopeless_14 : decode cX0_hopeless 14 = .ok (.getfield 53, 3) := dk_180 0 53 (dk_at dksX0_hopeless_0 14 rfl rfl)
theorem dX0_hopeless_17 : decode cX0_hopeless 17 = .ok (.iload_n 2, 1) := dk_28 (dk_at dksX0_hopeless_0 17 rfl rfl)
theorem dX0_hopeless_18 : decode cX0_hopeless 18 = .ok (.invokevirtual 162, 3) := dk_182 0 162 (dk_at dksX0_hopeless_0 18 rfl rfl)
theorem dX0_hopeless_21 : decode cX0_hopeless 21 = .ok (.ifCond .eq 24, 3) := dk_153 0 24 (dk_at dksX0_hopeless_0 21 rfl rfl)
theorem dX0_hopeless_24 : decode cX0_hopeless 24 = .ok (.aload_n 0, 1) := dk_42 (dk_at dksX0_hopeless_1 0 rfl rfl)
theorem dX0_hopeless_25 : decode cX0_hopeless 25 = .ok (.iload_n 2, 1) := dk_28 (dk_at dksX0_hopeless_1 1 rfl rfl)
theorem dX0_hopeless_26 : decode cX0_hopeless 26 = .ok (.aload_n 0, 1) := dk_42 (dk_at dksX0_hopeless_1 2 rfl rfl)
theorem dX0_hopeless_27 : decode cX0_hopeless 27 = .ok (.getfield 42, 3) := dk_180 0 42 (dk_at dksX0_hopeless_1 3 rfl rfl)
theorem dX0_hopeless_30 : decode cX0_hopeless 30 = .ok (.invokevirtual 269, 3) := dk_182 1 13 (dk_at dksX0_hopeless_1 6 rfl rfl)
theorem dX0_hopeless_33 : decode cX0_hopeless 33 = .ok (.invokevirtual 272, 3) := dk_182 1 16 (dk_at dksX0_hopeless_1 9 rfl rfl)
theorem dX0_hopeless_36 : decode cX0_hopeless 36 = .ok (.ifCond .ge 9, 3) := dk_156 0 9 (dk_at dksX0_hopeless_1 12 rfl rfl)
theorem dX0_hopeless_39 : decode cX0_hopeless 39 = .ok (.iconst 1, 1) := dk_4 (dk_at dksX0_hopeless_1 15 rfl rfl)
theorem dX0_hopeless_40 : decode cX0_hopeless 40 = .ok (.iload_n 2, 1) := dk_28 (dk_at dksX0_hopeless_1 16 rfl rfl)
theorem dX0_hopeless_41 : decode cX0_hopeless 41 = .ok (.ishl, 1) := dk_120 (dk_at dksX0_hopeless_1 17 rfl rfl)
theorem dX0_hopeless_42 : decode cX0_hopeless 42 = .ok (.goto 4, 3) := dk_167 0 4 (dk_at dksX0_hopeless_1 18 rfl rfl)
theorem dX0_hopeless_45 : decode cX0_hopeless 45 = .ok (.iconst 0, 1) := dk_3 (dk_at dksX0_hopeless_1 21 rfl rfl)
theorem dX0_hopeless_46 : decode cX0_hopeless 46 = .ok (.ior, 1) := dk_128 (dk_at dksX0_hopeless_1 22 rfl rfl)
theorem dX0_hopeless_47 : decode cX0_hopeless 47 = .ok (.istore_n 1, 1) := dk_60 (dk_at dksX0_hopeless_1 23 rfl rfl)
theorem dX0_hopeless_48 : decode cX0_hopeless 48 = .ok (.iinc 2 1, 3) := dk_132 2 1 (dk_at dksX0_hopeless_2 0 rfl rfl)
theorem dX0_hopeless_51 : decode cX0_hopeless 51 = .ok (.goto (-47), 3) := dk_167 255 209 (dk_at dksX0_hopeless_2 3 rfl rfl)
theorem dX0_hopeless_54 : decode cX0_hopeless 54 = .ok (.iload_n 1, 1) := dk_27 (dk_at dksX0_hopeless_2 6 rfl rfl)
theorem dX0_hopeless_55 : decode cX0_hopeless 55 = .ok (.ireturn, 1) := dk_172 (dk_at dksX0_hopeless_2 7 rfl rfl)
abbrev cX0_free : ByteArray := prog_1_method_37_code
def yX0_free : MethodName := ⟨RX0, "free", "()I"⟩
def dkwX0_free_2 : List UInt8 := [132, 2, 1, 167, 255, 209, 27, 172]
abbrev dktX0_free_2 : List UInt8 := dkwX0_free_2 ++ []
def dkwX0_free_1 : List UInt8 := [42, 180, 0, 53, 42, 180, 0, 42, 28, 182, 0, 203, 158, 0, 9, 4, 28, 120, 167, 0, 4, 3, 128, 60]
abbrev dktX0_free_1 : List UInt8 := dkwX0_free_1 ++ dktX0_free_2
def dkwX0_free_0 : List UInt8 := [3, 60, 3, 61, 28, 42, 182, 0, 140, 162, 0, 45, 27, 42, 180, 0, 53, 28, 182, 0, 162, 153, 0, 24]
abbrev dktX0_free_0 : List UInt8 := dkwX0_free_0 ++ dktX0_free_1
theorem dksX0_free_0 : cX0_free.data.toList.drop 0 = dktX0_free_0 := by decide +kernel
theorem dksX0_free_1 : cX0_free.data.toList.drop 24 = dktX0_free_1 := dk_seg dksX0_free_0 24 rfl rfl
theorem dksX0_free_2 : cX0_free.data.toList.drop 48 = dktX0_free_2 := dk_seg dksX0_free_1 24 rfl rfl
theorem dX0_free_0 : decode cX0_free 0 = .ok (.iconst 0, 1) := dk_3 (dk_at dksX0_free_0 0 rfl rfl)
theorem dX0_free_1 : decode cX0_free 1 = .ok (.istore_n 1, 1) := dk_60 (dk_at dksX0_free_0 1 rfl rfl)
theorem dX0_free_2 : decode cX0_free 2 = .ok (.iconst 0, 1) := dk_3 (dk_at dksX0_free_0 2 rfl rfl)
theorem dX0_free_3 : decode cX0_free 3 = .ok (.istore_n 2, 1) := dk_61 (dk_at dksX0_free_0 3 rfl rfl)
theorem dX0_free_4 : decode cX0_free 4 = .ok (.iload_n 2, 1) := dk_28 (dk_at dksX0_free_0 4 rfl rfl)
theorem dX0_free_5 : decode cX0_free 5 = .ok (.aload_n 0, 1) := dk_42 (dk_at dksX0_free_0 5 rfl rfl)
theorem dX0_free_6 : decode cX0_free 6 = .ok (.invokevirtual 140, 3) := dk_182 0 140 (dk_at dksX0_free_0 6 rfl rfl)
theorem dX0_free_9 : decode cX0_free 9 = .ok (.if_icmp .ge 45, 3) := dk_162 0 45 (dk_at dksX0_free_0 9 rfl rfl)
theorem dX0_free_12 : decode cX0_free 12 = .ok (.iload_n 1, 1) := dk_27 (dk_at dksX0_free_0 12 rfl rfl)
theorem dX0_free_13 : decode cX0_free 13 = .ok (.aload_n 0, 1) := dk_42 (dk_at dksX0_free_0 13 rfl rfl)
theorem dX0_free_14 : decode cX0_free 14 = .ok (.getfield 53, 3) := dk_180 0 53 (dk_at dksX0_free_0 14 rfl rfl)
theorem dX0_free_17 : decode cX0_free 17 = .ok (.iload_n 2, 1) := dk_28 (dk_at dksX0_free_0 17 rfl rfl)
theorem dX0_free_18 : decode cX0_free 18 = .ok (.invokevirtual 162, 3) := dk_182 0 162 (dk_at dksX0_free_0 18 rfl rfl)
theorem dX0_free_21 : decode cX0_free 21 = .ok (.ifCond .eq 24, 3) := dk_153 0 24 (dk_at dksX0_free_0 21 rfl rfl)
theorem dX0_free_24 : decode cX0_free 24 = .ok (.aload_n 0, 1) := dk_42 (dk_at dksX0_free_1 0 rfl rfl)
theorem dX0_free_25 : decode cX0_free 25 = .ok (.getfield 53, 3) := dk_180 0 53 (dk_at dksX0_free_1 1 rfl rfl)
theorem dX0_free_28 : decode cX0_free 28 = .ok (.aload_n 0, 1) := dk_42 (dk_at dksX0_free_1 4 rfl rfl)
theorem dX0_free_29 : decode cX0_free 29 = .ok (.getfield 42, 3) := dk_180 0 42 (dk_at dksX0_free_1 5 rfl rfl)
theorem dX0_free_32 : decode cX0_free 32 = .ok (.iload_n 2, 1) := dk_28 (dk_at dksX0_free_1 8 rfl rfl)
theorem dX0_free_33 : decode cX0_free 33 = .ok (.invokevirtual 203, 3) := dk_182 0 203 (dk_at dksX0_free_1 9 rfl rfl)
theorem dX0_free_36 : decode cX0_free 36 = .ok (.ifCond .le 9, 3) := dk_158 0 9 (dk_at dksX0_free_1 12 rfl rfl)
theorem dX0_free_39 : decode cX0_free 39 = .ok (.iconst 1, 1) := dk_4 (dk_at dksX0_free_1 15 rfl rfl)
theorem dX0_free_40 : decode cX0_free 40 = .ok (.iload_n 2, 1) := dk_28 (dk_at dksX0_free_1 16 rfl rfl)
theorem dX0_free_41 : decode cX0_free 41 = .ok (.ishl, 1) := dk_120 (dk_at dksX0_free_1 17 rfl rfl)
theorem dX0_free_42 : decode cX0_free 42 = .ok (.goto 4, 3) := dk_167 0 4 (dk_at dksX0_free_1 18 rfl rfl)
theorem dX0_free_45 : decode cX0_free 45 = .ok (.iconst 0, 1) := dk_3 (dk_at dksX0_free_1 21 rfl rfl)
theorem dX0_free_46 : decode cX0_free 46 = .ok (.ior, 1) := dk_128 (dk_at dksX0_free_1 22 rfl rfl)
theorem dX0_free_47 : decode cX0_free 47 = .ok (.istore_n 1, 1) := dk_60 (dk_at dksX0_free_1 23 rfl rfl)
theorem dX0_free_48 : decode cX0_free 48 = .ok (.iinc 2 1, 3) := dk_132 2 1 (dk_at dksX0_free_2 0 rfl rfl)
theorem dX0_free_51 : decode cX0_free 51 = .ok (.goto (-47), 3) := dk_167 255 209 (dk_at dksX0_free_2 3 rfl rfl)
theorem dX0_free_54 : decode cX0_free 54 = .ok (.iload_n 1, 1) := dk_27 (dk_at dksX0_free_2 6 rfl rfl)
theorem dX0_free_55 : decode cX0_free 55 = .ok (.ireturn, 1) := dk_172 (dk_at dksX0_free_2 7 rfl rfl)
abbrev cX0_swap : ByteArray := prog_1_method_39_code
def yX0_swap : MethodName := ⟨RX0, "swap", "(I)I"⟩
def dkwX0_swap_8 : List UInt8 := [172]
abbrev dktX0_swap_8 : List UInt8 := dkwX0_swap_8 ++ []
def dkwX0_swap_7 : List UInt8 := [28, 167, 0, 23, 27, 4, 160, 0, 7, 29, 167, 0, 14, 27, 5, 160, 0, 8, 21, 4, 167, 0, 4, 2]
abbrev dktX0_swap_7 : List UInt8 := dkwX0_swap_7 ++ dktX0_swap_8
def dkwX0_swap_6 : List UInt8 := [132, 6, 1, 167, 255, 146, 132, 5, 1, 167, 255, 125, 28, 156, 0, 7, 2, 167, 0, 31, 27, 154, 0, 7]
abbrev dktX0_swap_6 : List UInt8 := dkwX0_swap_6 ++ dktX0_swap_7
def dkwX0_swap_5 : List UInt8 := [182, 1, 25, 21, 4, 163, 0, 6, 167, 0, 15, 21, 5, 61, 21, 6, 62, 42, 182, 1, 25, 54, 4]
abbrev dktX0_swap_5 : List UInt8 := dkwX0_swap_5 ++ dktX0_swap_6
def dkwX0_swap_4 : List UInt8 := [46, 79, 42, 180, 0, 60, 180, 0, 169, 21, 6, 42, 180, 0, 53, 180, 0, 169, 21, 5, 46, 79, 42]
abbrev dktX0_swap_4 : List UInt8 := dkwX0_swap_4 ++ dktX0_swap_5
def dkwX0_swap_3 : List UInt8 := [180, 0, 60, 42, 180, 0, 53, 182, 0, 213, 180, 0, 169, 21, 5, 42, 180, 0, 53, 180, 0, 169, 21, 6]
abbrev dktX0_swap_3 : List UInt8 := dkwX0_swap_3 ++ dktX0_swap_4
def dkwX0_swap_2 : List UInt8 := [182, 0, 162, 153, 0, 89, 42, 180, 0, 53, 21, 6, 182, 0, 162, 154, 0, 6, 167, 0, 74, 42]
abbrev dktX0_swap_2 : List UInt8 := dkwX0_swap_2 ++ dktX0_swap_3
def dkwX0_swap_1 : List UInt8 := [162, 0, 128, 21, 5, 4, 96, 54, 6, 21, 6, 42, 182, 0, 140, 162, 0, 107, 42, 180, 0, 53, 21, 5]
abbrev dktX0_swap_1 : List UInt8 := dkwX0_swap_1 ++ dktX0_swap_2
def dkwX0_swap_0 : List UInt8 := [2, 61, 2, 62, 42, 182, 1, 22, 184, 0, 242, 54, 4, 3, 54, 5, 21, 5, 42, 182, 0, 140]
abbrev dktX0_swap_0 : List UInt8 := dkwX0_swap_0 ++ dktX0_swap_1
theorem dksX0_swap_0 : cX0_swap.data.toList.drop 0 = dktX0_swap_0 := by decide +kernel
theorem dksX0_swap_1 : cX0_swap.data.toList.drop 22 = dktX0_swap_1 := dk_seg dksX0_swap_0 22 rfl rfl
theorem dksX0_swap_2 : cX0_swap.data.toList.drop 46 = dktX0_swap_2 := dk_seg dksX0_swap_1 24 rfl rfl
theorem dksX0_swap_3 : cX0_swap.data.toList.drop 68 = dktX0_swap_3 := dk_seg dksX0_swap_2 22 rfl rfl
theorem dksX0_swap_4 : cX0_swap.data.toList.drop 92 = dktX0_swap_4 := dk_seg dksX0_swap_3 24 rfl rfl
theorem dksX0_swap_5 : cX0_swap.data.toList.drop 115 = dktX0_swap_5 := dk_seg dksX0_swap_4 23 rfl rfl
theorem dksX0_swap_6 : cX0_swap.data.toList.drop 138 = dktX0_swap_6 := dk_seg dksX0_swap_5 23 rfl rfl
theorem dksX0_swap_7 : cX0_swap.data.toList.drop 162 = dktX0_swap_7 := dk_seg dksX0_swap_6 24 rfl rfl
theorem dksX0_swap_8 : cX0_swap.data.toList.drop 186 = dktX0_swap_8 := dk_seg dksX0_swap_7 24 rfl rfl
theorem dX0_swap_0 : decode cX0_swap 0 = .ok (.iconst (-1), 1) := dk_2 (dk_at dksX0_swap_0 0 rfl rfl)
theorem dX0_swap_1 : decode cX0_swap 1 = .ok (.istore_n 2, 1) := dk_61 (dk_at dksX0_swap_0 1 rfl rfl)
theorem dX0_swap_2 : decode cX0_swap 2 = .ok (.iconst (-1), 1) := dk_2 (dk_at dksX0_swap_0 2 rfl rfl)
theorem dX0_swap_3 : decode cX0_swap 3 = .ok (.istore_n 3, 1) := dk_62 (dk_at dksX0_swap_0 3 rfl rfl)
theorem dX0_swap_4 : decode cX0_swap 4 = .ok (.aload_n 0, 1) := dk_42 (dk_at dksX0_swap_0 4 rfl rfl)
theorem dX0_swap_5 : decode cX0_swap 5 = .ok (.invokevirtual 278, 3) := dk_182 1 22 (dk_at dksX0_swap_0 5 rfl rfl)
theorem dX0_swap_8 : decode cX0_swap 8 = .ok (.invokestatic 242, 3) := dk_184 0 242 (dk_at dksX0_swap_0 8 rfl rfl)
theorem dX0_swap_11 : decode cX0_swap 11 = .ok (.istore 4, 2) := dk_54 4 (dk_at dksX0_swap_0 11 rfl rfl)
theorem dX0_swap_13 : decode cX0_swap 13 = .ok (.iconst 0, 1) := dk_3 (dk_at dksX0_swap_0 13 rfl rfl)
theorem dX0_swap_14 : decode cX0_swap 14 = .ok (.istore 5, 2) := dk_54 5 (dk_at dksX0_swap_0 14 rfl rfl)
theorem dX0_swap_16 : decode cX0_swap 16 = .ok (.iload 5, 2) := dk_21 5 (dk_at dksX0_swap_0 16 rfl rfl)
theorem dX0_swap_18 : decode cX0_swap 18 = .ok (.aload_n 0, 1) := dk_42 (dk_at dksX0_swap_0 18 rfl rfl)
theorem dX0_swap_19 : decode cX0_swap 19 = .ok (.invokevirtual 140, 3) := dk_182 0 140 (dk_at dksX0_swap_0 19 rfl rfl)
theorem dX0_swap_22 : decode cX0_swap 22 = .ok (.if_icmp .ge 128, 3) := dk_162 0 128 (dk_at dksX0_swap_1 0 rfl rfl)
theorem dX0_swap_25 : decode cX0_swap 25 = .ok (.iload 5, 2) := dk_21 5 (dk_at dksX0_swap_1 3 rfl rfl)
theorem dX0_swap_27 : decode cX0_swap 27 = .ok (.iconst 1, 1) := dk_4 (dk_at dksX0_swap_1 5 rfl rfl)
theorem dX0_swap_28 : decode cX0_swap 28 = .ok (.iadd, 1) := dk_96 (dk_at dksX0_swap_1 6 rfl rfl)
theorem dX0_swap_29 : decode cX0_swap 29 = .ok (.istore 6, 2) := dk_54 6 (dk_at dksX0_swap_1 7 rfl rfl)
theorem dX0_swap_31 : decode cX0_swap 31 = .ok (.iload 6, 2) := dk_21 6 (dk_at dksX0_swap_1 9 rfl rfl)
theorem dX0_swap_33 : decode cX0_swap 33 = .ok (.aload_n 0, 1) := dk_42 (dk_at dksX0_swap_1 11 rfl rfl)
theorem dX0_swap_34 : decode cX0_swap 34 = .ok (.invokevirtual 140, 3) := dk_182 0 140 (dk_at dksX0_swap_1 12 rfl rfl)
theorem dX0_swap_37 : decode cX0_swap 37 = .ok (.if_icmp .ge 107, 3) := dk_162 0 107 (dk_at dksX0_swap_1 15 rfl rfl)
theorem dX0_swap_40 : decode cX0_swap 40 = .ok (.aload_n 0, 1) := dk_42 (dk_at dksX0_swap_1 18 rfl rfl)
theorem dX0_swap_41 : decode cX0_swap 41 = .ok (.getfield 53, 3) := dk_180 0 53 (dk_at dksX0_swap_1 19 rfl rfl)
theorem dX0_swap_44 : decode cX0_swap 44 = .ok (.iload 5, 2) := dk_21 5 (dk_at dksX0_swap_1 22 rfl rfl)
theorem dX0_swap_46 : decode cX0_swap 46 = .ok (.invokevirtual 162, 3) := dk_182 0 162 (dk_at dksX0_swap_2 0 rfl rfl)
theorem dX0_swap_49 : decode cX0_swap 49 = .ok (.ifCond .eq 89, 3) := dk_153 0 89 (dk_at dksX0_swap_2 3 rfl rfl)
theorem dX0_swap_52 : decode cX0_swap 52 = .ok (.aload_n 0, 1) := dk_42 (dk_at dksX0_swap_2 6 rfl rfl)
theorem dX0_swap_53 : decode cX0_swap 53 = .ok (.getfield 53, 3) := dk_180 0 53 (dk_at dksX0_swap_2 7 rfl rfl)
theorem dX0_swap_56 : decode cX0_swap 56 = .ok (.iload 6, 2) := dk_21 6 (dk_at dksX0_swap_2 10 rfl rfl)
theorem dX0_swap_58 : decode cX0_swap 58 = .ok (.invokevirtual 162, 3) := dk_182 0 162 (dk_at dksX0_swap_2 12 rfl rfl)
theorem dX0_swap_61 : decode cX0_swap 61 = .ok (.ifCond .ne 6, 3) := dk_154 0 6 (dk_at dksX0_swap_2 15 rfl rfl)
theorem dX0_swap_64 : decode cX0_swap 64 = .ok (.goto 74, 3) := dk_167 0 74 (dk_at dksX0_swap_2 18 rfl rfl)
theorem dX0_swap_67 : decode cX0_swap 67 = .ok (.aload_n 0, 1) := dk_42 (dk_at dksX0_swap_2 21 rfl rfl)
theorem dX0_swap_68 : decode cX0_swap 68 = .ok (.getfield 60, 3) := dk_180 0 60 (dk_at dksX0_swap_3 0 rfl rfl)
theorem dX0_swap_71 : decode cX0_swap 71 = .ok (.aload_n 0, 1) := dk_42 (dk_at dksX0_swap_3 3 rfl rfl)
theorem dX0_swap_72 : decode cX0_swap 72 = .ok (.getfield 53, 3) := dk_180 0 53 (dk_at dksX0_swap_3 4 rfl rfl)
theorem dX0_swap_75 : decode cX0_swap 75 = .ok (.invokevirtual 213, 3) := dk_182 0 213 (dk_at dksX0_swap_3 7 rfl rfl)
theorem dX0_swap_78 : decode cX0_swap 78 = .ok (.getfield 169, 3) := dk_180 0 169 (dk_at dksX0_swap_3 10 rfl rfl)
theorem dX0_swap_81 : decode cX0_swap 81 = .ok (.iload 5, 2) := dk_21 5 (dk_at dksX0_swap_3 13 rfl rfl)
theorem dX0_swap_83 : decode cX0_swap 83 = .ok (.aload_n 0, 1) := dk_42 (dk_at dksX0_swap_3 15 rfl rfl)
theorem dX0_swap_84 : decode cX0_swap 84 = .ok (.getfield 53, 3) := dk_180 0 53 (dk_at dksX0_swap_3 16 rfl rfl)
theorem dX0_swap_87 : decode cX0_swap 87 = .ok (.getfield 169, 3) := dk_180 0 169 (dk_at dksX0_swap_3 19 rfl rfl)
theorem dX0_swap_90 : decode cX0_swap 90 = .ok (.iload 6, 2) := dk_21 6 (dk_at dksX0_swap_3 22 rfl rfl)
theorem dX0_swap_92 : decode cX0_swap 92 = .ok (.iaload, 1) := dk_46 (dk_at dksX0_swap_4 0 rfl rfl)
theorem dX0_swap_93 : decode cX0_swap 93 = .ok (.iastore, 1) := dk_79 (dk_at dksX0_swap_4 1 rfl rfl)
theorem dX0_swap_94 : decode cX0_swap 94 = .ok (.aload_n 0, 1) := dk_42 (dk_at dksX0_swap_4 2 rfl rfl)
theorem dX0_swap_95 : decode cX0_swap 95 = .ok (.getfield 60, 3) := dk_180 0 60 (dk_at dksX0_swap_4 3 rfl rfl)
theorem dX0_swap_98 : decode cX0_swap 98 = .ok (.getfield 169, 3) := dk_180 0 169 (dk_at dksX0_swap_4 6 rfl rfl)
theorem dX0_swap_101 : decode cX0_swap 101 = .ok (.iload 6, 2) := dk_21 6 (dk_at dksX0_swap_4 9 rfl rfl)
theorem dX0_swap_103 : decode cX0_swap 103 = .ok (.aload_n 0, 1) := dk_42 (dk_at dksX0_swap_4 11 rfl rfl)
theorem dX0_swap_104 : decode cX0_swap 104 = .ok (.getfield 53, 3) := dk_180 0 53 (dk_at dksX0_swap_4 12 rfl rfl)
theorem dX0_swap_107 : decode cX0_swap 107 = .ok (.getfield 169, 3) := dk_180 0 169 (dk_at dksX0_swap_4 15 rfl rfl)
theorem dX0_swap_110 : decode cX0_swap 110 = .ok (.iload 5, 2) := dk_21 5 (dk_at dksX0_swap_4 18 rfl rfl)
theorem dX0_swap_112 : decode cX0_swap 112 = .ok (.iaload, 1) := dk_46 (dk_at dksX0_swap_4 20 rfl rfl)
theorem dX0_swap_113 : decode cX0_swap 113 = .ok (.iastore, 1) := dk_79 (dk_at dksX0_swap_4 21 rfl rfl)
theorem dX0_swap_114 : decode cX0_swap 114 = .ok (.aload_n 0, 1) := dk_42 (dk_at dksX0_swap_4 22 rfl rfl)
theorem dX0_swap_115 : decode cX0_swap 115 = .ok (.invokevirtual 281, 3) := dk_182 1 25 (dk_at dksX0_swap_5 0 rfl rfl)
theorem dX0_swap_118 : decode cX0_swap 118 = .ok (.iload 4, 2) := dk_21 4 (dk_at dksX0_swap_5 3 rfl rfl)
theorem dX0_swap_120 : decode cX0_swap 120 = .ok (.if_icmp .gt 6, 3) := dk_163 0 6 (dk_at dksX0_swap_5 5 rfl rfl)
theorem dX0_swap_123 : decode cX0_swap 123 = .ok (.goto 15, 3) := dk_167 0 15 (dk_at dksX0_swap_5 8 rfl rfl)
theorem dX0_swap_126 : decode cX0_swap 126 = .ok (.iload 5, 2) := dk_21 5 (dk_at dksX0_swap_5 11 rfl rfl)
theorem dX0_swap_128 : decode cX0_swap 128 = .ok (.istore_n 2, 1) := dk_61 (dk_at dksX0_swap_5 13 rfl rfl)
theorem dX0_swap_129 : decode cX0_swap 129 = .ok (.iload 6, 2) := dk_21 6 (dk_at dksX0_swap_5 14 rfl rfl)
theorem dX0_swap_131 : decode cX0_swap 131 = .ok (.istore_n 3, 1) := dk_62 (dk_at dksX0_swap_5 16 rfl rfl)
theorem dX0_swap_132 : decode cX0_swap 132 = .ok (.aload_n 0, 1) := dk_42 (dk_at dksX0_swap_5 17 rfl rfl)
theorem dX0_swap_133 : decode cX0_swap 133 = .ok (.invokevirtual 281, 3) := dk_182 1 25 (dk_at dksX0_swap_5 18 rfl rfl)
theorem dX0_swap_136 : decode cX0_swap 136 = .ok (.istore 4, 2) := dk_54 4 (dk_at dksX0_swap_5 21 rfl rfl)
theorem dX0_swap_138 : decode cX0_swap 138 = .ok (.iinc 6 1, 3) := dk_132 6 1 (dk_at dksX0_swap_6 0 rfl rfl)
theorem dX0_swap_141 : decode cX0_swap 141 = .ok (.goto (-110), 3) := dk_167 255 146 (dk_at dksX0_swap_6 3 rfl rfl)
theorem dX0_swap_144 : decode cX0_swap 144 = .ok (.iinc 5 1, 3) := dk_132 5 1 (dk_at dksX0_swap_6 6 rfl rfl)
theorem dX0_swap_147 : decode cX0_swap 147 = .ok (.goto (-131), 3) := dk_167 255 125 (dk_at dksX0_swap_6 9 rfl rfl)
theorem dX0_swap_150 : decode cX0_swap 150 = .ok (.iload_n 2, 1) := dk_28 (dk_at dksX0_swap_6 12 rfl rfl)
theorem dX0_swap_151 : decode cX0_swap 151 = .ok (.ifCond .ge 7, 3) := dk_156 0 7 (dk_at dksX0_swap_6 13 rfl rfl)
theorem dX0_swap_154 : decode cX0_swap 154 = .ok (.iconst (-1), 1) := dk_2 (dk_at dksX0_swap_6 16 rfl rfl)
theorem dX0_swap_155 : decode cX0_swap 155 = .ok (.goto 31, 3) := dk_167 0 31 (dk_at dksX0_swap_6 17 rfl rfl)
theorem dX0_swap_158 : decode cX0_swap 158 = .ok (.iload_n 1, 1) := dk_27 (dk_at dksX0_swap_6 20 rfl rfl)
theorem dX0_swap_159 : decode cX0_swap 159 = .ok (.ifCond .ne 7, 3) := dk_154 0 7 (dk_at dksX0_swap_6 21 rfl rfl)
theorem dX0_swap_162 : decode cX0_swap 162 = .ok (.iload_n 2, 1) := dk_28 (dk_at dksX0_swap_7 0 rfl rfl)
theorem dX0_swap_163 : decode cX0_swap 163 = .ok (.goto 23, 3) := dk_167 0 23 (dk_at dksX0_swap_7 1 rfl rfl)
theorem dX0_swap_166 : decode cX0_swap 166 = .ok (.iload_n 1, 1) := dk_27 (dk_at dksX0_swap_7 4 rfl rfl)
theorem dX0_swap_167 : decode cX0_swap 167 = .ok (.iconst 1, 1) := dk_4 (dk_at dksX0_swap_7 5 rfl rfl)
theorem dX0_swap_168 : decode cX0_swap 168 = .ok (.if_icmp .ne 7, 3) := dk_160 0 7 (dk_at dksX0_swap_7 6 rfl rfl)
theorem dX0_swap_171 : decode cX0_swap 171 = .ok (.iload_n 3, 1) := dk_29 (dk_at dksX0_swap_7 9 rfl rfl)
theorem dX0_swap_172 : decode cX0_swap 172 = .ok (.goto 14, 3) := dk_167 0 14 (dk_at dksX0_swap_7 10 rfl rfl)
theorem dX0_swap_175 : decode cX0_swap 175 = .ok (.iload_n 1, 1) := dk_27 (dk_at dksX0_swap_7 13 rfl rfl)
theorem dX0_swap_176 : decode cX0_swap 176 = .ok (.iconst 2, 1) := dk_5 (dk_at dksX0_swap_7 14 rfl rfl)
theorem dX0_swap_177 : decode cX0_swap 177 = .ok (.if_icmp .ne 8, 3) := dk_160 0 8 (dk_at dksX0_swap_7 15 rfl rfl)
theorem dX0_swap_180 : decode cX0_swap 180 = .ok (.iload 4, 2) := dk_21 4 (dk_at dksX0_swap_7 18 rfl rfl)
theorem dX0_swap_182 : decode cX0_swap 182 = .ok (.goto 4, 3) := dk_167 0 4 (dk_at dksX0_swap_7 20 rfl rfl)
theorem dX0_swap_185 : decode cX0_swap 185 = .ok (.iconst (-1), 1) := dk_2 (dk_at dksX0_swap_7 23 rfl rfl)
theorem dX0_swap_186 : decode cX0_swap 186 = .ok (.ireturn, 1) := dk_172 (dk_at dksX0_swap_8 0 rfl rfl)
abbrev cX0_freeTried : ByteArray := prog_1_method_38_code
def yX0_freeTried : MethodName := ⟨RX0, "freeTried", "()I"⟩
def dkwX0_freeTried_2 : List UInt8 := [132, 2, 1, 167, 255, 211, 27, 172]
abbrev dktX0_freeTried_2 : List UInt8 := dkwX0_freeTried_2 ++ []
def dkwX0_freeTried_1 : List UInt8 := [42, 180, 0, 60, 42, 180, 0, 42, 28, 182, 0, 203, 158, 0, 7, 4, 167, 0, 4, 3, 96, 60]
abbrev dktX0_freeTried_1 : List UInt8 := dkwX0_freeTried_1 ++ dktX0_freeTried_2
def dkwX0_freeTried_0 : List UInt8 := [3, 60, 3, 61, 28, 42, 182, 0, 140, 162, 0, 43, 27, 42, 180, 0, 60, 28, 182, 0, 162, 153, 0, 22]
abbrev dktX0_freeTried_0 : List UInt8 := dkwX0_freeTried_0 ++ dktX0_freeTried_1
theorem dksX0_freeTried_0 : cX0_freeTried.data.toList.drop 0 = dktX0_freeTried_0 := by decide +kernel
theorem dksX0_freeTried_1 : cX0_freeTried.data.toList.drop 24 = dktX0_freeTried_1 := dk_seg dksX0_freeTried_0 24 rfl rfl
theorem dksX0_freeTried_2 : cX0_freeTried.data.toList.drop 46 = dktX0_freeTried_2 := dk_seg dksX0_freeTried_1 22 rfl rfl
theorem dX0_freeTried_0 : decode cX0_freeTried 0 = .ok (.iconst 0, 1) := dk_3 (dk_at dksX0_freeTried_0 0 rfl rfl)
theorem dX0_freeTried_1 : decode cX0_freeTried 1 = .ok (.istore_n 1, 1) := dk_60 (dk_at dksX0_freeTried_0 1 rfl rfl)
theorem dX0_freeTried_2 : decode cX0_freeTried 2 = .ok (.iconst 0, 1) := dk_3 (dk_at dksX0_freeTried_0 2 rfl rfl)
theorem dX0_freeTried_3 : decode cX0_freeTried 3 = .ok (.istore_n 2, 1) := dk_61 (dk_at dksX0_freeTried_0 3 rfl rfl)
theorem dX0_freeTried_4 : decode cX0_freeTried 4 = .ok (.iload_n 2, 1) := dk_28 (dk_at dksX0_freeTried_0 4 rfl rfl)
theorem dX0_freeTried_5 : decode cX0_freeTried 5 = .ok (.aload_n 0, 1) := dk_42 (dk_at dksX0_freeTried_0 5 rfl rfl)
theorem dX0_freeTried_6 : decode cX0_freeTried 6 = .ok (.invokevirtual 140, 3) := dk_182 0 140 (dk_at dksX0_freeTried_0 6 rfl rfl)
theorem dX0_freeTried_9 : decode cX0_freeTried 9 = .ok (.if_icmp .ge 43, 3) := dk_162 0 43 (dk_at dksX0_freeTried_0 9 rfl rfl)
theorem dX0_freeTried_12 : decode cX0_freeTried 12 = .ok (.iload_n 1, 1) := dk_27 (dk_at dksX0_freeTried_0 12 rfl rfl)
theorem dX0_freeTried_13 : decode cX0_freeTried 13 = .ok (.aload_n 0, 1) := dk_42 (dk_at dksX0_freeTried_0 13 rfl rfl)
theorem dX0_freeTried_14 : decode cX0_freeTried 14 = .ok (.getfield 60, 3) := dk_180 0 60 (dk_at dksX0_freeTried_0 14 rfl rfl)
theorem dX0_freeTried_17 : decode cX0_freeTried 17 = .ok (.iload_n 2, 1) := dk_28 (dk_at dksX0_freeTried_0 17 rfl rfl)
theorem dX0_freeTried_18 : decode cX0_freeTried 18 = .ok (.invokevirtual 162, 3) := dk_182 0 162 (dk_at dksX0_freeTried_0 18 rfl rfl)
theorem dX0_freeTried_21 : decode cX0_freeTried 21 = .ok (.ifCond .eq 22, 3) := dk_153 0 22 (dk_at dksX0_freeTried_0 21 rfl rfl)
theorem dX0_freeTried_24 : decode cX0_freeTried 24 = .ok (.aload_n 0, 1) := dk_42 (dk_at dksX0_freeTried_1 0 rfl rfl)
theorem dX0_freeTried_25 : decode cX0_freeTried 25 = .ok (.getfield 60, 3) := dk_180 0 60 (dk_at dksX0_freeTried_1 1 rfl rfl)
theorem dX0_freeTried_28 : decode cX0_freeTried 28 = .ok (.aload_n 0, 1) := dk_42 (dk_at dksX0_freeTried_1 4 rfl rfl)
theorem dX0_freeTried_29 : decode cX0_freeTried 29 = .ok (.getfield 42, 3) := dk_180 0 42 (dk_at dksX0_freeTried_1 5 rfl rfl)
theorem dX0_freeTried_32 : decode cX0_freeTried 32 = .ok (.iload_n 2, 1) := dk_28 (dk_at dksX0_freeTried_1 8 rfl rfl)
theorem dX0_freeTried_33 : decode cX0_freeTried 33 = .ok (.invokevirtual 203, 3) := dk_182 0 203 (dk_at dksX0_freeTried_1 9 rfl rfl)
theorem dX0_freeTried_36 : decode cX0_freeTried 36 = .ok (.ifCond .le 7, 3) := dk_158 0 7 (dk_at dksX0_freeTried_1 12 rfl rfl)
theorem dX0_freeTried_39 : decode cX0_freeTried 39 = .ok (.iconst 1, 1) := dk_4 (dk_at dksX0_freeTried_1 15 rfl rfl)
theorem dX0_freeTried_40 : decode cX0_freeTried 40 = .ok (.goto 4, 3) := dk_167 0 4 (dk_at dksX0_freeTried_1 16 rfl rfl)
theorem dX0_freeTried_43 : decode cX0_freeTried 43 = .ok (.iconst 0, 1) := dk_3 (dk_at dksX0_freeTried_1 19 rfl rfl)
theorem dX0_freeTried_44 : decode cX0_freeTried 44 = .ok (.iadd, 1) := dk_96 (dk_at dksX0_freeTried_1 20 rfl rfl)
theorem dX0_freeTried_45 : decode cX0_freeTried 45 = .ok (.istore_n 1, 1) := dk_60 (dk_at dksX0_freeTried_1 21 rfl rfl)
theorem dX0_freeTried_46 : decode cX0_freeTried 46 = .ok (.iinc 2 1, 3) := dk_132 2 1 (dk_at dksX0_freeTried_2 0 rfl rfl)
theorem dX0_freeTried_49 : decode cX0_freeTried 49 = .ok (.goto (-45), 3) := dk_167 255 211 (dk_at dksX0_freeTried_2 3 rfl rfl)
theorem dX0_freeTried_52 : decode cX0_freeTried 52 = .ok (.iload_n 1, 1) := dk_27 (dk_at dksX0_freeTried_2 6 rfl rfl)
theorem dX0_freeTried_53 : decode cX0_freeTried 53 = .ok (.ireturn, 1) := dk_172 (dk_at dksX0_freeTried_2 7 rfl rfl)
abbrev cX0_advice : ByteArray := prog_1_method_40_code
def yX0_advice : MethodName := ⟨RX0, "advice", "(II)I"⟩
def dkwX0_advice_5 : List UInt8 := [156, 0, 8, 18, 206, 167, 0, 13, 28, 154, 0, 7, 29, 167, 0, 5, 21, 4, 172]
abbrev dktX0_advice_5 : List UInt8 := dkwX0_advice_5 ++ []
def dkwX0_advice_4 : List UInt8 := [21, 6, 21, 4, 163, 0, 6, 167, 0, 10, 21, 5, 62, 21, 6, 54, 4, 132, 5, 1, 167, 255, 185, 29]
abbrev dktX0_advice_4 : List UInt8 := dkwX0_advice_4 ++ dktX0_advice_5
def dkwX0_advice_3 : List UInt8 := [4, 21, 5, 120, 128, 182, 1, 10, 54, 6, 42, 27, 21, 5, 182, 0, 238, 154, 0, 24, 29, 155, 0, 13]
abbrev dktX0_advice_3 : List UInt8 := dkwX0_advice_3 ++ dktX0_advice_4
def dkwX0_advice_2 : List UInt8 := [182, 0, 167, 162, 0, 68, 42, 180, 0, 53, 42, 180, 0, 42, 27, 42, 180, 0, 53, 180, 0, 169, 27, 46]
abbrev dktX0_advice_2 : List UInt8 := dkwX0_advice_2 ++ dktX0_advice_3
def dkwX0_advice_1 : List UInt8 := [27, 46, 184, 0, 242, 7, 160, 0, 6, 18, 206, 172, 2, 62, 3, 54, 4, 3, 54, 5, 21, 5, 42]
abbrev dktX0_advice_1 : List UInt8 := dkwX0_advice_1 ++ dktX0_advice_2
def dkwX0_advice_0 : List UInt8 := [42, 27, 182, 0, 234, 153, 0, 28, 28, 3, 4, 184, 0, 154, 153, 0, 19, 42, 180, 0, 53, 180, 0, 169]
abbrev dktX0_advice_0 : List UInt8 := dkwX0_advice_0 ++ dktX0_advice_1
theorem dksX0_advice_0 : cX0_advice.data.toList.drop 0 = dktX0_advice_0 := by decide +kernel
theorem dksX0_advice_1 : cX0_advice.data.toList.drop 24 = dktX0_advice_1 := dk_seg dksX0_advice_0 24 rfl rfl
theorem dksX0_advice_2 : cX0_advice.data.toList.drop 47 = dktX0_advice_2 := dk_seg dksX0_advice_1 23 rfl rfl
theorem dksX0_advice_3 : cX0_advice.data.toList.drop 71 = dktX0_advice_3 := dk_seg dksX0_advice_2 24 rfl rfl
theorem dksX0_advice_4 : cX0_advice.data.toList.drop 95 = dktX0_advice_4 := dk_seg dksX0_advice_3 24 rfl rfl
theorem dksX0_advice_5 : cX0_advice.data.toList.drop 119 = dktX0_advice_5 := dk_seg dksX0_advice_4 24 rfl rfl
theorem dX0_advice_0 : decode cX0_advice 0 = .ok (.aload_n 0, 1) := dk_42 (dk_at dksX0_advice_0 0 rfl rfl)
theorem dX0_advice_1 : decode cX0_advice 1 = .ok (.iload_n 1, 1) := dk_27 (dk_at dksX0_advice_0 1 rfl rfl)
theorem dX0_advice_2 : decode cX0_advice 2 = .ok (.invokevirtual 234, 3) := dk_182 0 234 (dk_at dksX0_advice_0 2 rfl rfl)
theorem dX0_advice_5 : decode cX0_advice 5 = .ok (.ifCond .eq 28, 3) := dk_153 0 28 (dk_at dksX0_advice_0 5 rfl rfl)
theorem dX0_advice_8 : decode cX0_advice 8 = .ok (.iload_n 2, 1) := dk_28 (dk_at dksX0_advice_0 8 rfl rfl)
theorem dX0_advice_9 : decode cX0_advice 9 = .ok (.iconst 0, 1) := dk_3 (dk_at dksX0_advice_0 9 rfl rfl)
theorem dX0_advice_10 : decode cX0_advice 10 = .ok (.iconst 1, 1) := dk_4 (dk_at dksX0_advice_0 10 rfl rfl)
theorem dX0_advice_11 : decode cX0_advice 11 = .ok (.invokestatic 154, 3) := dk_184 0 154 (dk_at dksX0_advice_0 11 rfl rfl)
theorem dX0_advice_14 : decode cX0_advice 14 = .ok (.ifCond .eq 19, 3) := dk_153 0 19 (dk_at dksX0_advice_0 14 rfl rfl)
theorem dX0_advice_17 : decode cX0_advice 17 = .ok (.aload_n 0, 1) := dk_42 (dk_at dksX0_advice_0 17 rfl rfl)
theorem dX0_advice_18 : decode cX0_advice 18 = .ok (.getfield 53, 3) := dk_180 0 53 (dk_at dksX0_advice_0 18 rfl rfl)
theorem dX0_advice_21 : decode cX0_advice 21 = .ok (.getfield 169, 3) := dk_180 0 169 (dk_at dksX0_advice_0 21 rfl rfl)
theorem dX0_advice_24 : decode cX0_advice 24 = .ok (.iload_n 1, 1) := dk_27 (dk_at dksX0_advice_1 0 rfl rfl)
theorem dX0_advice_25 : decode cX0_advice 25 = .ok (.iaload, 1) := dk_46 (dk_at dksX0_advice_1 1 rfl rfl)
theorem dX0_advice_26 : decode cX0_advice 26 = .ok (.invokestatic 242, 3) := dk_184 0 242 (dk_at dksX0_advice_1 2 rfl rfl)
theorem dX0_advice_29 : decode cX0_advice 29 = .ok (.iconst 4, 1) := dk_7 (dk_at dksX0_advice_1 5 rfl rfl)
theorem dX0_advice_30 : decode cX0_advice 30 = .ok (.if_icmp .ne 6, 3) := dk_160 0 6 (dk_at dksX0_advice_1 6 rfl rfl)
theorem dX0_advice_33 : decode cX0_advice 33 = .ok (.ldc 206, 2) := dk_18 206 (dk_at dksX0_advice_1 9 rfl rfl)
theorem dX0_advice_35 : decode cX0_advice 35 = .ok (.ireturn, 1) := dk_172 (dk_at dksX0_advice_1 11 rfl rfl)
theorem dX0_advice_36 : decode cX0_advice 36 = .ok (.iconst (-1), 1) := dk_2 (dk_at dksX0_advice_1 12 rfl rfl)
theorem dX0_advice_37 : decode cX0_advice 37 = .ok (.istore_n 3, 1) := dk_62 (dk_at dksX0_advice_1 13 rfl rfl)
theorem dX0_advice_38 : decode cX0_advice 38 = .ok (.iconst 0, 1) := dk_3 (dk_at dksX0_advice_1 14 rfl rfl)
theorem dX0_advice_39 : decode cX0_advice 39 = .ok (.istore 4, 2) := dk_54 4 (dk_at dksX0_advice_1 15 rfl rfl)
theorem dX0_advice_41 : decode cX0_advice 41 = .ok (.iconst 0, 1) := dk_3 (dk_at dksX0_advice_1 17 rfl rfl)
theorem dX0_advice_42 : decode cX0_advice 42 = .ok (.istore 5, 2) := dk_54 5 (dk_at dksX0_advice_1 18 rfl rfl)
theorem dX0_advice_44 : decode cX0_advice 44 = .ok (.iload 5, 2) := dk_21 5 (dk_at dksX0_advice_1 20 rfl rfl)
theorem dX0_advice_46 : decode cX0_advice 46 = .ok (.aload_n 0, 1) := dk_42 (dk_at dksX0_advice_1 22 rfl rfl)
theorem dX0_advice_47 : decode cX0_advice 47 = .ok (.invokevirtual 167, 3) := dk_182 0 167 (dk_at dksX0_advice_2 0 rfl rfl)
theorem dX0_advice_50 : decode cX0_advice 50 = .ok (.if_icmp .ge 68, 3) := dk_162 0 68 (dk_at dksX0_advice_2 3 rfl rfl)
theorem dX0_advice_53 : decode cX0_advice 53 = .ok (.aload_n 0, 1) := dk_42 (dk_at dksX0_advice_2 6 rfl rfl)
theorem dX0_advice_54 : decode cX0_advice 54 = .ok (.getfield 53, 3) := dk_180 0 53 (dk_at dksX0_advice_2 7 rfl rfl)
theorem dX0_advice_57 : decode cX0_advice 57 = .ok (.aload_n 0, 1) := dk_42 (dk_at dksX0_advice_2 10 rfl rfl)
theorem dX0_advice_58 : decode cX0_advice 58 = .ok (.getfield 42, 3) := dk_180 0 42 (dk_at dksX0_advice_2 11 rfl rfl)
theorem dX0_advice_61 : decode cX0_advice 61 = .ok (.iload_n 1, 1) := dk_27 (dk_at dksX0_advice_2 14 rfl rfl)
theorem dX0_advice_62 : decode cX0_advice 62 = .ok (.aload_n 0, 1) := dk_42 (dk_at dksX0_advice_2 15 rfl rfl)
theorem dX0_advice_63 : decode cX0_advice 63 = .ok (.getfield 53, 3) := dk_180 0 53 (dk_at dksX0_advice_2 16 rfl rfl)
theorem dX0_advice_66 : decode cX0_advice 66 = .ok (.getfield 169, 3) := dk_180 0 169 (dk_at dksX0_advice_2 19 rfl rfl)
theorem dX0_advice_69 : decode cX0_advice 69 = .ok (.iload_n 1, 1) := dk_27 (dk_at dksX0_advice_2 22 rfl rfl)
theorem dX0_advice_70 : decode cX0_advice 70 = .ok (.iaload, 1) := dk_46 (dk_at dksX0_advice_2 23 rfl rfl)
theorem dX0_advice_71 : decode cX0_advice 71 = .ok (.iconst 1, 1) := dk_4 (dk_at dksX0_advice_3 0 rfl rfl)
theorem dX0_advice_72 : decode cX0_advice 72 = .ok (.iload 5, 2) := dk_21 5 (dk_at dksX0_advice_3 1 rfl rfl)
theorem dX0_advice_74 : decode cX0_advice 74 = .ok (.ishl, 1) := dk_120 (dk_at dksX0_advice_3 3 rfl rfl)
theorem dX0_advice_75 : decode cX0_advice 75 = .ok (.ior, 1) := dk_128 (dk_at dksX0_advice_3 4 rfl rfl)
theorem dX0_advice_76 : decode cX0_advice 76 = .ok (.invokevirtual 266, 3) := dk_182 1 10 (dk_at dksX0_advice_3 5 rfl rfl)
theorem dX0_advice_79 : decode cX0_advice 79 = .ok (.istore 6, 2) := dk_54 6 (dk_at dksX0_advice_3 8 rfl rfl)
theorem dX0_advice_81 : decode cX0_advice 81 = .ok (.aload_n 0, 1) := dk_42 (dk_at dksX0_advice_3 10 rfl rfl)
theorem dX0_advice_82 : decode cX0_advice 82 = .ok (.iload_n 1, 1) := dk_27 (dk_at dksX0_advice_3 11 rfl rfl)
theorem dX0_advice_83 : decode cX0_advice 83 = .ok (.iload 5, 2) := dk_21 5 (dk_at dksX0_advice_3 12 rfl rfl)
theorem dX0_advice_85 : decode cX0_advice 85 = .ok (.invokevirtual 238, 3) := dk_182 0 238 (dk_at dksX0_advice_3 14 rfl rfl)
theorem dX0_advice_88 : decode cX0_advice 88 = .ok (.ifCond .ne 24, 3) := dk_154 0 24 (dk_at dksX0_advice_3 17 rfl rfl)
theorem dX0_advice_91 : decode cX0_advice 91 = .ok (.iload_n 3, 1) := dk_29 (dk_at dksX0_advice_3 20 rfl rfl)
theorem dX0_advice_92 : decode cX0_advice 92 = .ok (.ifCond .lt 13, 3) := dk_155 0 13 (dk_at dksX0_advice_3 21 rfl rfl)
theorem dX0_advice_95 : decode cX0_advice 95 = .ok (.iload 6, 2) := dk_21 6 (dk_at dksX0_advice_4 0 rfl rfl)
theorem dX0_advice_97 : decode cX0_advice 97 = .ok (.iload 4, 2) := dk_21 4 (dk_at dksX0_advice_4 2 rfl rfl)
theorem dX0_advice_99 : decode cX0_advice 99 = .ok (.if_icmp .gt 6, 3) := dk_163 0 6 (dk_at dksX0_advice_4 4 rfl rfl)
theorem dX0_advice_102 : decode cX0_advice 102 = .ok (.goto 10, 3) := dk_167 0 10 (dk_at dksX0_advice_4 7 rfl rfl)
theorem dX0_advice_105 : decode cX0_advice 105 = .ok (.iload 5, 2) := dk_21 5 (dk_at dksX0_advice_4 10 rfl rfl)
theorem dX0_advice_107 : decode cX0_advice 107 = .ok (.istore_n 3, 1) := dk_62 (dk_at dksX0_advice_4 12 rfl rfl)
theorem dX0_advice_108 : decode cX0_advice 108 = .ok (.iload 6, 2) := dk_21 6 (dk_at dksX0_advice_4 13 rfl rfl)
theorem dX0_advice_110 : decode cX0_advice 110 = .ok (.istore 4, 2) := dk_54 4 (dk_at dksX0_advice_4 15 rfl rfl)
theorem dX0_advice_112 : decode cX0_advice 112 = .ok (.iinc 5 1, 3) := dk_132 5 1 (dk_at dksX0_advice_4 17 rfl rfl)
theorem dX0_advice_115 : decode cX0_advice 115 = .ok (.goto (-71), 3) := dk_167 255 185 (dk_at dksX0_advice_4 20 rfl rfl)
theorem dX0_advice_118 : decode cX0_advice 118 = .ok (.iload_n 3, 1) := dk_29 (dk_at dksX0_advice_4 23 rfl rfl)
theorem dX0_advice_119 : decode cX0_advice 119 = .ok (.ifCond .ge 8, 3) := dk_156 0 8 (dk_at dksX0_advice_5 0 rfl rfl)
theorem dX0_advice_122 : decode cX0_advice 122 = .ok (.ldc 206, 2) := dk_18 206 (dk_at dksX0_advice_5 3 rfl rfl)
theorem dX0_advice_124 : decode cX0_advice 124 = .ok (.goto 13, 3) := dk_167 0 13 (dk_at dksX0_advice_5 5 rfl rfl)
theorem dX0_advice_127 : decode cX0_advice 127 = .ok (.iload_n 2, 1) := dk_28 (dk_at dksX0_advice_5 8 rfl rfl)
theorem dX0_advice_128 : decode cX0_advice 128 = .ok (.ifCond .ne 7, 3) := dk_154 0 7 (dk_at dksX0_advice_5 9 rfl rfl)
theorem dX0_advice_131 : decode cX0_advice 131 = .ok (.iload_n 3, 1) := dk_29 (dk_at dksX0_advice_5 12 rfl rfl)
theorem dX0_advice_132 : decode cX0_advice 132 = .ok (.goto 5, 3) := dk_167 0 5 (dk_at dksX0_advice_5 13 rfl rfl)
theorem dX0_advice_135 : decode cX0_advice 135 = .ok (.iload 4, 2) := dk_21 4 (dk_at dksX0_advice_5 16 rfl rfl)
theorem dX0_advice_137 : decode cX0_advice 137 = .ok (.ireturn, 1) := dk_172 (dk_at dksX0_advice_5 18 rfl rfl)
abbrev cX0_leave : ByteArray := prog_1_method_41_code
def yX0_leave : MethodName := ⟨RX0, "leave", "(I)I"⟩
def dkwX0_leave_3 : List UInt8 := [132, 2, 1, 167, 255, 206, 2, 172]
abbrev dktX0_leave_3 : List UInt8 := dkwX0_leave_3 ++ []
def dkwX0_leave_2 : List UInt8 := [4, 160, 0, 7, 28, 167, 0, 4, 2, 172, 42, 180, 0, 60, 89, 180, 0, 217, 4, 96, 181, 0, 217]
abbrev dktX0_leave_2 : List UInt8 := dkwX0_leave_2 ++ dktX0_leave_3
def dkwX0_leave_1 : List UInt8 := [28, 16, 30, 163, 0, 50, 42, 180, 0, 60, 42, 180, 0, 42, 27, 182, 0, 235, 62, 29, 153, 0, 14, 29]
abbrev dktX0_leave_1 : List UInt8 := dkwX0_leave_1 ++ dktX0_leave_2
def dkwX0_leave_0 : List UInt8 := [42, 27, 182, 0, 234, 154, 0, 5, 2, 172, 42, 180, 0, 60, 42, 180, 0, 53, 182, 0, 213, 87, 4, 61]
abbrev dktX0_leave_0 : List UInt8 := dkwX0_leave_0 ++ dktX0_leave_1
theorem dksX0_leave_0 : cX0_leave.data.toList.drop 0 = dktX0_leave_0 := by decide +kernel
theorem dksX0_leave_1 : cX0_leave.data.toList.drop 24 = dktX0_leave_1 := dk_seg dksX0_leave_0 24 rfl rfl
theorem dksX0_leave_2 : cX0_leave.data.toList.drop 48 = dktX0_leave_2 := dk_seg dksX0_leave_1 24 rfl rfl
theorem dksX0_leave_3 : cX0_leave.data.toList.drop 71 = dktX0_leave_3 := dk_seg dksX0_leave_2 23 rfl rfl
theorem dX0_leave_0 : decode cX0_leave 0 = .ok (.aload_n 0, 1) := dk_42 (dk_at dksX0_leave_0 0 rfl rfl)
theorem dX0_leave_1 : decode cX0_leave 1 = .ok (.iload_n 1, 1) := dk_27 (dk_at dksX0_leave_0 1 rfl rfl)
theorem dX0_leave_2 : decode cX0_leave 2 = .ok (.invokevirtual 234, 3) := dk_182 0 234 (dk_at dksX0_leave_0 2 rfl rfl)
theorem dX0_leave_5 : decode cX0_leave 5 = .ok (.ifCond .ne 5, 3) := dk_154 0 5 (dk_at dksX0_leave_0 5 rfl rfl)
theorem dX0_leave_8 : decode cX0_leave 8 = .ok (.iconst (-1), 1) := dk_2 (dk_at dksX0_leave_0 8 rfl rfl)
theorem dX0_leave_9 : decode cX0_leave 9 = .ok (.ireturn, 1) := dk_172 (dk_at dksX0_leave_0 9 rfl rfl)
theorem dX0_leave_10 : decode cX0_leave 10 = .ok (.aload_n 0, 1) := dk_42 (dk_at dksX0_leave_0 10 rfl rfl)
theorem dX0_leave_11 : decode cX0_leave 11 = .ok (.getfield 60, 3) := dk_180 0 60 (dk_at dksX0_leave_0 11 rfl rfl)
theorem dX0_leave_14 : decode cX0_leave 14 = .ok (.aload_n 0, 1) := dk_42 (dk_at dksX0_leave_0 14 rfl rfl)
theorem dX0_leave_15 : decode cX0_leave 15 = .ok (.getfield 53, 3) := dk_180 0 53 (dk_at dksX0_leave_0 15 rfl rfl)
theorem dX0_leave_18 : decode cX0_leave 18 = .ok (.invokevirtual 213, 3) := dk_182 0 213 (dk_at dksX0_leave_0 18 rfl rfl)
theorem dX0_leave_21 : decode cX0_leave 21 = .ok (.pop, 1) := dk_87 (dk_at dksX0_leave_0 21 rfl rfl)
theorem dX0_leave_22 : decode cX0_leave 22 = .ok (.iconst 1, 1) := dk_4 (dk_at dksX0_leave_0 22 rfl rfl)
theorem dX0_leave_23 : decode cX0_leave 23 = .ok (.istore_n 2, 1) := dk_61 (dk_at dksX0_leave_0 23 rfl rfl)
theorem dX0_leave_24 : decode cX0_leave 24 = .ok (.iload_n 2, 1) := dk_28 (dk_at dksX0_leave_1 0 rfl rfl)
theorem dX0_leave_25 : decode cX0_leave 25 = .ok (.bipush 30, 2) := dk_16 30 (dk_at dksX0_leave_1 1 rfl rfl)
theorem dX0_leave_27 : decode cX0_leave 27 = .ok (.if_icmp .gt 50, 3) := dk_163 0 50 (dk_at dksX0_leave_1 3 rfl rfl)
theorem dX0_leave_30 : decode cX0_leave 30 = .ok (.aload_n 0, 1) := dk_42 (dk_at dksX0_leave_1 6 rfl rfl)
theorem dX0_leave_31 : decode cX0_leave 31 = .ok (.getfield 60, 3) := dk_180 0 60 (dk_at dksX0_leave_1 7 rfl rfl)
theorem dX0_leave_34 : decode cX0_leave 34 = .ok (.aload_n 0, 1) := dk_42 (dk_at dksX0_leave_1 10 rfl rfl)
theorem dX0_leave_35 : decode cX0_leave 35 = .ok (.getfield 42, 3) := dk_180 0 42 (dk_at dksX0_leave_1 11 rfl rfl)
theorem dX0_leave_38 : decode cX0_leave 38 = .ok (.iload_n 1, 1) := dk_27 (dk_at dksX0_leave_1 14 rfl rfl)
theorem dX0_leave_39 : decode cX0_leave 39 = .ok (.invokevirtual 235, 3) := dk_182 0 235 (dk_at dksX0_leave_1 15 rfl rfl)
theorem dX0_leave_42 : decode cX0_leave 42 = .ok (.istore_n 3, 1) := dk_62 (dk_at dksX0_leave_1 18 rfl rfl)
theorem dX0_leave_43 : decode cX0_leave 43 = .ok (.iload_n 3, 1) := dk_29 (dk_at dksX0_leave_1 19 rfl rfl)
theorem dX0_leave_44 : decode cX0_leave 44 = .ok (.ifCond .eq 14, 3) := dk_153 0 14 (dk_at dksX0_leave_1 20 rfl rfl)
theorem dX0_leave_47 : decode cX0_leave 47 = .ok (.iload_n 3, 1) := dk_29 (dk_at dksX0_leave_1 23 rfl rfl)
theorem dX0_leave_48 : decode cX0_leave 48 = .ok (.iconst 1, 1) := dk_4 (dk_at dksX0_leave_2 0 rfl rfl)
theorem dX0_leave_49 : decode cX0_leave 49 = .ok (.if_icmp .ne 7, 3) := dk_160 0 7 (dk_at dksX0_leave_2 1 rfl rfl)
theorem dX0_leave_52 : decode cX0_leave 52 = .ok (.iload_n 2, 1) := dk_28 (dk_at dksX0_leave_2 4 rfl rfl)
theorem dX0_leave_53 : decode cX0_leave 53 = .ok (.goto 4, 3) := dk_167 0 4 (dk_at dksX0_leave_2 5 rfl rfl)
theorem dX0_leave_56 : decode cX0_leave 56 = .ok (.iconst (-1), 1) := dk_2 (dk_at dksX0_leave_2 8 rfl rfl)
theorem dX0_leave_57 : decode cX0_leave 57 = .ok (.ireturn, 1) := dk_172 (dk_at dksX0_leave_2 9 rfl rfl)
theorem dX0_leave_58 : decode cX0_leave 58 = .ok (.aload_n 0, 1) := dk_42 (dk_at dksX0_leave_2 10 rfl rfl)
theorem dX0_leave_59 : decode cX0_leave 59 = .ok (.getfield 60, 3) := dk_180 0 60 (dk_at dksX0_leave_2 11 rfl rfl)
theorem dX0_leave_62 : decode cX0_leave 62 = .ok (.dup, 1) := dk_89 (dk_at dksX0_leave_2 14 rfl rfl)
theorem dX0_leave_63 : decode cX0_leave 63 = .ok (.getfield 217, 3) := dk_180 0 217 (dk_at dksX0_leave_2 15 rfl rfl)
theorem dX0_leave_66 : decode cX0_leave 66 = .ok (.iconst 1, 1) := dk_4 (dk_at dksX0_leave_2 18 rfl rfl)
theorem dX0_leave_67 : decode cX0_leave 67 = .ok (.iadd, 1) := dk_96 (dk_at dksX0_leave_2 19 rfl rfl)
theorem dX0_leave_68 : decode cX0_leave 68 = .ok (.putfield 217, 3) := dk_181 0 217 (dk_at dksX0_leave_2 20 rfl rfl)
theorem dX0_leave_71 : decode cX0_leave 71 = .ok (.iinc 2 1, 3) := dk_132 2 1 (dk_at dksX0_leave_3 0 rfl rfl)
theorem dX0_leave_74 : decode cX0_leave 74 = .ok (.goto (-50), 3) := dk_167 255 206 (dk_at dksX0_leave_3 3 rfl rfl)
theorem dX0_leave_77 : decode cX0_leave 77 = .ok (.iconst (-1), 1) := dk_2 (dk_at dksX0_leave_3 6 rfl rfl)
theorem dX0_leave_78 : decode cX0_leave 78 = .ok (.ireturn, 1) := dk_172 (dk_at dksX0_leave_3 7 rfl rfl)
abbrev cX0_loophole : ByteArray := prog_1_method_42_code
def yX0_loophole : MethodName := ⟨RX0, "loophole", "(I)I"⟩
def dkwX0_loophole_2 : List UInt8 := [182, 0, 203, 158, 0, 5, 28, 172, 132, 2, 1, 167, 255, 222, 2, 172]
abbrev dktX0_loophole_2 : List UInt8 := dkwX0_loophole_2 ++ []
def dkwX0_loophole_1 : List UInt8 := [28, 16, 99, 163, 0, 34, 42, 180, 0, 60, 28, 181, 0, 217, 42, 180, 0, 60, 42, 180, 0, 42, 27]
abbrev dktX0_loophole_1 : List UInt8 := dkwX0_loophole_1 ++ dktX0_loophole_2
def dkwX0_loophole_0 : List UInt8 := [42, 27, 182, 0, 234, 154, 0, 5, 2, 172, 42, 180, 0, 60, 42, 180, 0, 53, 182, 0, 213, 87, 3, 61]
abbrev dktX0_loophole_0 : List UInt8 := dkwX0_loophole_0 ++ dktX0_loophole_1
theorem dksX0_loophole_0 : cX0_loophole.data.toList.drop 0 = dktX0_loophole_0 := by decide +kernel
theorem dksX0_loophole_1 : cX0_loophole.data.toList.drop 24 = dktX0_loophole_1 := dk_seg dksX0_loophole_0 24 rfl rfl
theorem dksX0_loophole_2 : cX0_loophole.data.toList.drop 47 = dktX0_loophole_2 := dk_seg dksX0_loophole_1 23 rfl rfl
theorem dX0_loophole_0 : decode cX0_loophole 0 = .ok (.aload_n 0, 1) := dk_42 (dk_at dksX0_loophole_0 0 rfl rfl)
theorem dX0_loophole_1 : decode cX0_loophole 1 = .ok (.iload_n 1, 1) := dk_27 (dk_at dksX0_loophole_0 1 rfl rfl)
theorem dX0_loophole_2 : decode cX0_loophole 2 = .ok (.invokevirtual 234, 3) := dk_182 0 234 (dk_at dksX0_loophole_0 2 rfl rfl)
theorem dX0_loophole_5 : decode cX0_loophole 5 = .ok (.ifCond .ne 5, 3) := dk_154 0 5 (dk_at dksX0_loophole_0 5 rfl rfl)
theorem dX0_loophole_8 : decode cX0_loophole 8 = .ok (.iconst (-1), 1) := dk_2 (dk_at dksX0_loophole_0 8 rfl rfl)
theorem dX0_loophole_9 : decode cX0_loophole 9 = .ok (.ireturn, 1) := dk_172 (dk_at dksX0_loophole_0 9 rfl rfl)
theorem dX0_loophole_10 : decode cX0_loophole 10 = .ok (.aload_n 0, 1) := dk_42 (dk_at dksX0_loophole_0 10 rfl rfl)
theorem dX0_loophole_11 : decode cX0_loophole 11 = .ok (.getfield 60, 3) := dk_180 0 60 (dk_at dksX0_loophole_0 11 rfl rfl)
theorem dX0_loophole_14 : decode cX0_loophole 14 = .ok (.aload_n 0, 1) := dk_42 (dk_at dksX0_loophole_0 14 rfl rfl)
theorem dX0_loophole_15 : decode cX0_loophole 15 = .ok (.getfield 53, 3) := dk_180 0 53 (dk_at dksX0_loophole_0 15 rfl rfl)
theorem dX0_loophole_18 : decode cX0_loophole 18 = .ok (.invokevirtual 213, 3) := dk_182 0 213 (dk_at dksX0_loophole_0 18 rfl rfl)
theorem dX0_loophole_21 : decode cX0_loophole 21 = .ok (.pop, 1) := dk_87 (dk_at dksX0_loophole_0 21 rfl rfl)
theorem dX0_loophole_22 : decode cX0_loophole 22 = .ok (.iconst 0, 1) := dk_3 (dk_at dksX0_loophole_0 22 rfl rfl)
theorem dX0_loophole_23 : decode cX0_loophole 23 = .ok (.istore_n 2, 1) := dk_61 (dk_at dksX0_loophole_0 23 rfl rfl)
theorem dX0_loophole_24 : decode cX0_loophole 24 = .ok (.iload_n 2, 1) := dk_28 (dk_at dksX0_loophole_1 0 rfl rfl)
theorem dX0_loophole_25 : decode cX0_loophole 25 = .ok (.bipush 99, 2) := dk_16 99 (dk_at dksX0_loophole_1 1 rfl rfl)
theorem dX0_loophole_27 : decode cX0_loophole 27 = .ok (.if_icmp .gt 34, 3) := dk_163 0 34 (dk_at dksX0_loophole_1 3 rfl rfl)
theorem dX0_loophole_30 : decode cX0_loophole 30 = .ok (.aload_n 0, 1) := dk_42 (dk_at dksX0_loophole_1 6 rfl rfl)
theorem dX0_loophole_31 : decode cX0_loophole 31 = .ok (.getfield 60, 3) := dk_180 0 60 (dk_at dksX0_loophole_1 7 rfl rfl)
theorem dX0_loophole_34 : decode cX0_loophole 34 = .ok (.iload_n 2, 1) := dk_28 (dk_at dksX0_loophole_1 10 rfl rfl)
theorem dX0_loophole_35 : decode cX0_loophole 35 = .ok (.putfield 217, 3) := dk_181 0 217 (dk_at dksX0_loophole_1 11 rfl rfl)
theorem dX0_loophole_38 : decode cX0_loophole 38 = .ok (.aload_n 0, 1) := dk_42 (dk_at dksX0_loophole_1 14 rfl rfl)
theorem dX0_loophole_39 : decode cX0_loophole 39 = .ok (.getfield 60, 3) := dk_180 0 60 (dk_at dksX0_loophole_1 15 rfl rfl)
theorem dX0_loophole_42 : decode cX0_loophole 42 = .ok (.aload_n 0, 1) := dk_42 (dk_at dksX0_loophole_1 18 rfl rfl)
theorem dX0_loophole_43 : decode cX0_loophole 43 = .ok (.getfield 42, 3) := dk_180 0 42 (dk_at dksX0_loophole_1 19 rfl rfl)
theorem dX0_loophole_46 : decode cX0_loophole 46 = .ok (.iload_n 1, 1) := dk_27 (dk_at dksX0_loophole_1 22 rfl rfl)
theorem dX0_loophole_47 : decode cX0_loophole 47 = .ok (.invokevirtual 203, 3) := dk_182 0 203 (dk_at dksX0_loophole_2 0 rfl rfl)
theorem dX0_loophole_50 : decode cX0_loophole 50 = .ok (.ifCond .le 5, 3) := dk_158 0 5 (dk_at dksX0_loophole_2 3 rfl rfl)
theorem dX0_loophole_53 : decode cX0_loophole 53 = .ok (.iload_n 2, 1) := dk_28 (dk_at dksX0_loophole_2 6 rfl rfl)
theorem dX0_loophole_54 : decode cX0_loophole 54 = .ok (.ireturn, 1) := dk_172 (dk_at dksX0_loophole_2 7 rfl rfl)
theorem dX0_loophole_55 : decode cX0_loophole 55 = .ok (.iinc 2 1, 3) := dk_132 2 1 (dk_at dksX0_loophole_2 8 rfl rfl)
theorem dX0_loophole_58 : decode cX0_loophole 58 = .ok (.goto (-34), 3) := dk_167 255 222 (dk_at dksX0_loophole_2 11 rfl rfl)
theorem dX0_loophole_61 : decode cX0_loophole 61 = .ok (.iconst (-1), 1) := dk_2 (dk_at dksX0_loophole_2 14 rfl rfl)
theorem dX0_loophole_62 : decode cX0_loophole 62 = .ok (.ireturn, 1) := dk_172 (dk_at dksX0_loophole_2 15 rfl rfl)
abbrev cX0_precedent : ByteArray := prog_1_method_43_code
def yX0_precedent : MethodName := ⟨RX0, "precedent", "(I)I"⟩
def dkwX0_precedent_2 : List UInt8 := [167, 255, 235, 42, 182, 1, 25, 172]
abbrev dktX0_precedent_2 : List UInt8 := dkwX0_precedent_2 ++ []
def dkwX0_precedent_1 : List UInt8 := [3, 61, 28, 42, 182, 0, 140, 162, 0, 19, 42, 180, 0, 60, 180, 0, 197, 28, 27, 79, 132, 2, 1]
abbrev dktX0_precedent_1 : List UInt8 := dkwX0_precedent_1 ++ dktX0_precedent_2
def dkwX0_precedent_0 : List UInt8 := [27, 3, 16, 99, 184, 0, 154, 154, 0, 5, 2, 172, 42, 180, 0, 60, 42, 180, 0, 53, 182, 0, 213, 87]
abbrev dktX0_precedent_0 : List UInt8 := dkwX0_precedent_0 ++ dktX0_precedent_1
theorem dksX0_precedent_0 : cX0_precedent.data.toList.drop 0 = dktX0_precedent_0 := by decide +kernel
theorem dksX0_precedent_1 : cX0_precedent.data.toList.drop 24 = dktX0_precedent_1 := dk_seg dksX0_precedent_0 24 rfl rfl
theorem dksX0_precedent_2 : cX0_precedent.data.toList.drop 47 = dktX0_precedent_2 := dk_seg dksX0_precedent_1 23 rfl rfl
theorem dX0_precedent_0 : decode cX0_precedent 0 = .ok (.iload_n 1, 1) := dk_27 (dk_at dksX0_precedent_0 0 rfl rfl)
theorem dX0_precedent_1 : decode cX0_precedent 1 = .ok (.iconst 0, 1) := dk_3 (dk_at dksX0_precedent_0 1 rfl rfl)
theorem dX0_precedent_2 : decode cX0_precedent 2 = .ok (.bipush 99, 2) := dk_16 99 (dk_at dksX0_precedent_0 2 rfl rfl)
theorem dX0_precedent_4 : decode cX0_precedent 4 = .ok (.invokestatic 154, 3) := dk_184 0 154 (dk_at dksX0_precedent_0 4 rfl rfl)
theorem dX0_precedent_7 : decode cX0_precedent 7 = .ok (.ifCond .ne 5, 3) := dk_154 0 5 (dk_at dksX0_precedent_0 7 rfl rfl)
theorem dX0_precedent_10 : decode cX0_precedent 10 = .ok (.iconst (-1), 1) := dk_2 (dk_at dksX0_precedent_0 10 rfl rfl)
theorem dX0_precedent_11 : decode cX0_precedent 11 = .ok (.ireturn, 1) := dk_172 (dk_at dksX0_precedent_0 11 rfl rfl)
theorem dX0_precedent_12 : decode cX0_precedent 12 = .ok (.aload_n 0, 1) := dk_42 (dk_at dksX0_precedent_0 12 rfl rfl)
theorem dX0_precedent_13 : decode cX0_precedent 13 = .ok (.getfield 60, 3) := dk_180 0 60 (dk_at dksX0_precedent_0 13 rfl rfl)
theorem dX0_precedent_16 : decode cX0_precedent 16 = .ok (.aload_n 0, 1) := dk_42 (dk_at dksX0_precedent_0 16 rfl rfl)
theorem dX0_precedent_17 : decode cX0_precedent 17 = .ok (.getfield 53, 3) := dk_180 0 53 (dk_at dksX0_precedent_0 17 rfl rfl)
theorem dX0_precedent_20 : decode cX0_precedent 20 = .ok (.invokevirtual 213, 3) := dk_182 0 213 (dk_at dksX0_precedent_0 20 rfl rfl)
theorem dX0_precedent_23 : decode cX0_precedent 23 = .ok (.pop, 1) := dk_87 (dk_at dksX0_precedent_0 23 rfl rfl)
theorem dX0_precedent_24 : decode cX0_precedent 24 = .ok (.iconst 0, 1) := dk_3 (dk_at dksX0_precedent_1 0 rfl rfl)
theorem dX0_precedent_25 : decode cX0_precedent 25 = .ok (.istore_n 2, 1) := dk_61 (dk_at dksX0_precedent_1 1 rfl rfl)
theorem dX0_precedent_26 : decode cX0_precedent 26 = .ok (.iload_n 2, 1) := dk_28 (dk_at dksX0_precedent_1 2 rfl rfl)
theorem dX0_precedent_27 : decode cX0_precedent 27 = .ok (.aload_n 0, 1) := dk_42 (dk_at dksX0_precedent_1 3 rfl rfl)
theorem dX0_precedent_28 : decode cX0_precedent 28 = .ok (.invokevirtual 140, 3) := dk_182 0 140 (dk_at dksX0_precedent_1 4 rfl rfl)
theorem dX0_precedent_31 : decode cX0_precedent 31 = .ok (.if_icmp .ge 19, 3) := dk_162 0 19 (dk_at dksX0_precedent_1 7 rfl rfl)
theorem dX0_precedent_34 : decode cX0_precedent 34 = .ok (.aload_n 0, 1) := dk_42 (dk_at dksX0_precedent_1 10 rfl rfl)
theorem dX0_precedent_35 : decode cX0_precedent 35 = .ok (.getfield 60, 3) := dk_180 0 60 (dk_at dksX0_precedent_1 11 rfl rfl)
theorem dX0_precedent_38 : decode cX0_precedent 38 = .ok (.getfield 197, 3) := dk_180 0 197 (dk_at dksX0_precedent_1 14 rfl rfl)
theorem dX0_precedent_41 : decode cX0_precedent 41 = .ok (.iload_n 2, 1) := dk_28 (dk_at dksX0_precedent_1 17 rfl rfl)
theorem dX0_precedent_42 : decode cX0_precedent 42 = .ok (.iload_n 1, 1) := dk_27 (dk_at dksX0_precedent_1 18 rfl rfl)
theorem dX0_precedent_43 : decode cX0_precedent 43 = .ok (.iastore, 1) := dk_79 (dk_at dksX0_precedent_1 19 rfl rfl)
theorem dX0_precedent_44 : decode cX0_precedent 44 = .ok (.iinc 2 1, 3) := dk_132 2 1 (dk_at dksX0_precedent_1 20 rfl rfl)
theorem dX0_precedent_47 : decode cX0_precedent 47 = .ok (.goto (-21), 3) := dk_167 255 235 (dk_at dksX0_precedent_2 0 rfl rfl)
theorem dX0_precedent_50 : decode cX0_precedent 50 = .ok (.aload_n 0, 1) := dk_42 (dk_at dksX0_precedent_2 3 rfl rfl)
theorem dX0_precedent_51 : decode cX0_precedent 51 = .ok (.invokevirtual 281, 3) := dk_182 1 25 (dk_at dksX0_precedent_2 4 rfl rfl)
theorem dX0_precedent_54 : decode cX0_precedent 54 = .ok (.ireturn, 1) := dk_172 (dk_at dksX0_precedent_2 7 rfl rfl)
abbrev cX0_forbid : ByteArray := prog_1_method_45_code
def yX0_forbid : MethodName := ⟨RX0, "forbid", "(I)I"⟩
def dkwX0_forbid_2 : List UInt8 := [61, 132, 3, 1, 167, 255, 226, 27, 154, 0, 7, 28, 167, 0, 8, 42, 28, 182, 1, 28, 172]
abbrev dktX0_forbid_2 : List UInt8 := dkwX0_forbid_2 ++ []
def dkwX0_forbid_1 : List UInt8 := [182, 0, 167, 162, 0, 28, 42, 29, 182, 1, 28, 42, 28, 182, 1, 28, 162, 0, 7, 29, 167, 0, 4, 28]
abbrev dktX0_forbid_1 : List UInt8 := dkwX0_forbid_1 ++ dktX0_forbid_2
def dkwX0_forbid_0 : List UInt8 := [27, 3, 4, 184, 0, 154, 153, 0, 10, 42, 182, 0, 167, 154, 0, 5, 2, 172, 3, 61, 4, 62, 29, 42]
abbrev dktX0_forbid_0 : List UInt8 := dkwX0_forbid_0 ++ dktX0_forbid_1
theorem dksX0_forbid_0 : cX0_forbid.data.toList.drop 0 = dktX0_forbid_0 := by decide +kernel
theorem dksX0_forbid_1 : cX0_forbid.data.toList.drop 24 = dktX0_forbid_1 := dk_seg dksX0_forbid_0 24 rfl rfl
theorem dksX0_forbid_2 : cX0_forbid.data.toList.drop 48 = dktX0_forbid_2 := dk_seg dksX0_forbid_1 24 rfl rfl
theorem dX0_forbid_0 : decode cX0_forbid 0 = .ok (.iload_n 1, 1) := dk_27 (dk_at dksX0_forbid_0 0 rfl rfl)
theorem dX0_forbid_1 : decode cX0_forbid 1 = .ok (.iconst 0, 1) := dk_3 (dk_at dksX0_forbid_0 1 rfl rfl)
theorem dX0_forbid_2 : decode cX0_forbid 2 = .ok (.iconst 1, 1) := dk_4 (dk_at dksX0_forbid_0 2 rfl rfl)
theorem dX0_forbid_3 : decode cX0_forbid 3 = .ok (.invokestatic 154, 3) := dk_184 0 154 (dk_at dksX0_forbid_0 3 rfl rfl)
theorem dX0_forbid_6 : decode cX0_forbid 6 = .ok (.ifCond .eq 10, 3) := dk_153 0 10 (dk_at dksX0_forbid_0 6 rfl rfl)
theorem dX0_forbid_9 : decode cX0_forbid 9 = .ok (.aload_n 0, 1) := dk_42 (dk_at dksX0_forbid_0 9 rfl rfl)
theorem dX0_forbid_10 : decode cX0_forbid 10 = .ok (.invokevirtual 167, 3) := dk_182 0 167 (dk_at dksX0_forbid_0 10 rfl rfl)
theorem dX0_forbid_13 : decode cX0_forbid 13 = .ok (.ifCond .ne 5, 3) := dk_154 0 5 (dk_at dksX0_forbid_0 13 rfl rfl)
theorem dX0_forbid_16 : decode cX0_forbid 16 = .ok (.iconst (-1), 1) := dk_2 (dk_at dksX0_forbid_0 16 rfl rfl)
theorem dX0_forbid_17 : decode cX0_forbid 17 = .ok (.ireturn, 1) := dk_172 (dk_at dksX0_forbid_0 17 rfl rfl)
theorem dX0_forbid_18 : decode cX0_forbid 18 = .ok (.iconst 0, 1) := dk_3 (dk_at dksX0_forbid_0 18 rfl rfl)
theorem dX0_forbid_19 : decode cX0_forbid 19 = .ok (.istore_n 2, 1) := dk_61 (dk_at dksX0_forbid_0 19 rfl rfl)
theorem dX0_forbid_20 : decode cX0_forbid 20 = .ok (.iconst 1, 1) := dk_4 (dk_at dksX0_forbid_0 20 rfl rfl)
theorem dX0_forbid_21 : decode cX0_forbid 21 = .ok (.istore_n 3, 1) := dk_62 (dk_at dksX0_forbid_0 21 rfl rfl)
theorem dX0_forbid_22 : decode cX0_forbid 22 = .ok (.iload_n 3, 1) := dk_29 (dk_at dksX0_forbid_0 22 rfl rfl)
theorem dX0_forbid_23 : decode cX0_forbid 23 = .ok (.aload_n 0, 1) := dk_42 (dk_at dksX0_forbid_0 23 rfl rfl)
theorem dX0_forbid_24 : decode cX0_forbid 24 = .ok (.invokevirtual 167, 3) := dk_182 0 167 (dk_at dksX0_forbid_1 0 rfl rfl)
theorem dX0_forbid_27 : decode cX0_forbid 27 = .ok (.if_icmp .ge 28, 3) := dk_162 0 28 (dk_at dksX0_forbid_1 3 rfl rfl)
theorem dX0_forbid_30 : decode cX0_forbid 30 = .ok (.aload_n 0, 1) := dk_42 (dk_at dksX0_forbid_1 6 rfl rfl)
theorem dX0_forbid_31 : decode cX0_forbid 31 = .ok (.iload_n 3, 1) := dk_29 (dk_at dksX0_forbid_1 7 rfl rfl)
theorem dX0_forbid_32 : decode cX0_forbid 32 = .ok (.invokevirtual 284, 3) := dk_182 1 28 (dk_at dksX0_forbid_1 8 rfl rfl)
theorem dX0_forbid_35 : decode cX0_forbid 35 = .ok (.aload_n 0, 1) := dk_42 (dk_at dksX0_forbid_1 11 rfl rfl)
theorem dX0_forbid_36 : decode cX0_forbid 36 = .ok (.iload_n 2, 1) := dk_28 (dk_at dksX0_forbid_1 12 rfl rfl)
theorem dX0_forbid_37 : decode cX0_forbid 37 = .ok (.invokevirtual 284, 3) := dk_182 1 28 (dk_at dksX0_forbid_1 13 rfl rfl)
theorem dX0_forbid_40 : decode cX0_forbid 40 = .ok (.if_icmp .ge 7, 3) := dk_162 0 7 (dk_at dksX0_forbid_1 16 rfl rfl)
theorem dX0_forbid_43 : decode cX0_forbid 43 = .ok (.iload_n 3, 1) := dk_29 (dk_at dksX0_forbid_1 19 rfl rfl)
theorem dX0_forbid_44 : decode cX0_forbid 44 = .ok (.goto 4, 3) := dk_167 0 4 (dk_at dksX0_forbid_1 20 rfl rfl)
theorem dX0_forbid_47 : decode cX0_forbid 47 = .ok (.iload_n 2, 1) := dk_28 (dk_at dksX0_forbid_1 23 rfl rfl)
theorem dX0_forbid_48 : decode cX0_forbid 48 = .ok (.istore_n 2, 1) := dk_61 (dk_at dksX0_forbid_2 0 rfl rfl)
theorem dX0_forbid_49 : decode cX0_forbid 49 = .ok (.iinc 3 1, 3) := dk_132 3 1 (dk_at dksX0_forbid_2 1 rfl rfl)
theorem dX0_forbid_52 : decode cX0_forbid 52 = .ok (.goto (-30), 3) := dk_167 255 226 (dk_at dksX0_forbid_2 4 rfl rfl)
theorem dX0_forbid_55 : decode cX0_forbid 55 = .ok (.iload_n 1, 1) := dk_27 (dk_at dksX0_forbid_2 7 rfl rfl)
theorem dX0_forbid_56 : decode cX0_forbid 56 = .ok (.ifCond .ne 7, 3) := dk_154 0 7 (dk_at dksX0_forbid_2 8 rfl rfl)
theorem dX0_forbid_59 : decode cX0_forbid 59 = .ok (.iload_n 2, 1) := dk_28 (dk_at dksX0_forbid_2 11 rfl rfl)
theorem dX0_forbid_60 : decode cX0_forbid 60 = .ok (.goto 8, 3) := dk_167 0 8 (dk_at dksX0_forbid_2 12 rfl rfl)
theorem dX0_forbid_63 : decode cX0_forbid 63 = .ok (.aload_n 0, 1) := dk_42 (dk_at dksX0_forbid_2 15 rfl rfl)
theorem dX0_forbid_64 : decode cX0_forbid 64 = .ok (.iload_n 2, 1) := dk_28 (dk_at dksX0_forbid_2 16 rfl rfl)
theorem dX0_forbid_65 : decode cX0_forbid 65 = .ok (.invokevirtual 284, 3) := dk_182 1 28 (dk_at dksX0_forbid_2 17 rfl rfl)
theorem dX0_forbid_68 : decode cX0_forbid 68 = .ok (.ireturn, 1) := dk_172 (dk_at dksX0_forbid_2 20 rfl rfl)
abbrev cX0_freedWithout : ByteArray := prog_1_method_44_code
def yX0_freedWithout : MethodName := ⟨RX0, "freedWithout", "(I)I"⟩
def dkwX0_freedWithout_2 : List UInt8 := [182, 1, 10, 158, 0, 7, 4, 167, 0, 4, 3, 96, 61, 132, 3, 1, 167, 255, 196, 28, 172]
abbrev dktX0_freedWithout_2 : List UInt8 := dkwX0_freedWithout_2 ++ []
def dkwX0_freedWithout_1 : List UInt8 := [42, 180, 0, 53, 42, 180, 0, 42, 29, 42, 180, 0, 53, 180, 0, 169, 29, 46, 4, 27, 120, 2, 130, 126]
abbrev dktX0_freedWithout_1 : List UInt8 := dkwX0_freedWithout_1 ++ dktX0_freedWithout_2
def dkwX0_freedWithout_0 : List UInt8 := [3, 61, 3, 62, 29, 42, 182, 0, 140, 162, 0, 58, 28, 42, 180, 0, 53, 29, 182, 0, 162, 153, 0, 37]
abbrev dktX0_freedWithout_0 : List UInt8 := dkwX0_freedWithout_0 ++ dktX0_freedWithout_1
theorem dksX0_freedWithout_0 : cX0_freedWithout.data.toList.drop 0 = dktX0_freedWithout_0 := by decide +kernel
theorem dksX0_freedWithout_1 : cX0_freedWithout.data.toList.drop 24 = dktX0_freedWithout_1 := dk_seg dksX0_freedWithout_0 24 rfl rfl
theorem dksX0_freedWithout_2 : cX0_freedWithout.data.toList.drop 48 = dktX0_freedWithout_2 := dk_seg dksX0_freedWithout_1 24 rfl rfl
theorem dX0_freedWithout_0 : decode cX0_freedWithout 0 = .ok (.iconst 0, 1) := dk_3 (dk_at dksX0_freedWithout_0 0 rfl rfl)
theorem dX0_freedWithout_1 : decode cX0_freedWithout 1 = .ok (.istore_n 2, 1) := dk_61 (dk_at dksX0_freedWithout_0 1 rfl rfl)
theorem dX0_freedWithout_2 : decode cX0_freedWithout 2 = .ok (.iconst 0, 1) := dk_3 (dk_at dksX0_freedWithout_0 2 rfl rfl)
theorem dX0_freedWithout_3 : decode cX0_freedWithout 3 = .ok (.istore_n 3, 1) := dk_62 (dk_at dksX0_freedWithout_0 3 rfl rfl)
theorem dX0_freedWithout_4 : decode cX0_freedWithout 4 = .ok (.iload_n 3, 1) := dk_29 (dk_at dksX0_freedWithout_0 4 rfl rfl)
theorem dX0_freedWithout_5 : decode cX0_freedWithout 5 = .ok (.aload_n 0, 1) := dk_42 (dk_at dksX0_freedWithout_0 5 rfl rfl)
theorem dX0_freedWithout_6 : decode cX0_freedWithout 6 = .ok (.invokevirtual 140, 3) := dk_182 0 140 (dk_at dksX0_freedWithout_0 6 rfl rfl)
theorem dX0_freedWithout_9 : decode cX0_freedWithout 9 = .ok (.if_icmp .ge 58, 3) := dk_162 0 58 (dk_at dksX0_freedWithout_0 9 rfl rfl)
theorem dX0_freedWithout_12 : decode cX0_freedWithout 12 = .ok (.iload_n 2, 1) := dk_28 (dk_at dksX0_freedWithout_0 12 rfl rfl)
theorem dX0_freedWithout_13 : decode cX0_freedWithout 13 = .ok (.aload_n 0, 1) := dk_42 (dk_at dksX0_freedWithout_0 13 rfl rfl)
theorem dX0_freedWithout_14 : decode cX0_freedWithout 14 = .ok (.getfield 53, 3) := dk_180 0 53 (dk_at dksX0_freedWithout_0 14 rfl rfl)
theorem dX0_freedWithout_17 : decode cX0_freedWithout 17 = .ok (.iload_n 3, 1) := dk_29 (dk_at dksX0_freedWithout_0 17 rfl rfl)
theorem dX0_freedWithout_18 : decode cX0_freedWithout 18 = .ok (.invokevirtual 162, 3) := dk_182 0 162 (dk_at dksX0_freedWithout_0 18 rfl rfl)
theorem dX0_freedWithout_21 : decode cX0_freedWithout 21 = .ok (.ifCond .eq 37, 3) := dk_153 0 37 (dk_at dksX0_freedWithout_0 21 rfl rfl)
theorem dX0_freedWithout_24 : decode cX0_freedWithout 24 = .ok (.aload_n 0, 1) := dk_42 (dk_at dksX0_freedWithout_1 0 rfl rfl)
theorem dX0_freedWithout_25 : decode cX0_freedWithout 25 = .ok (.getfield 53, 3) := dk_180 0 53 (dk_at dksX0_freedWithout_1 1 rfl rfl)
theorem dX0_freedWithout_28 : decode cX0_freedWithout 28 = .ok (.aload_n 0, 1) := dk_42 (dk_at dksX0_freedWithout_1 4 rfl rfl)
theorem dX0_freedWithout_29 : decode cX0_freedWithout 29 = .ok (.getfield 42, 3) := dk_180 0 42 (dk_at dksX0_freedWithout_1 5 rfl rfl)
theorem dX0_freedWithout_32 : decode cX0_freedWithout 32 = .ok (.iload_n 3, 1) := dk_29 (dk_at dksX0_freedWithout_1 8 rfl rfl)
theorem dX0_freedWithout_33 : decode cX0_freedWithout 33 = .ok (.aload_n 0, 1) := dk_42 (dk_at dksX0_freedWithout_1 9 rfl rfl)
theorem dX0_freedWithout_34 : decode cX0_freedWithout 34 = .ok (.getfield 53, 3) := dk_180 0 53 (dk_at dksX0_freedWithout_1 10 rfl rfl)
theorem dX0_freedWithout_37 : decode cX0_freedWithout 37 = .ok (.getfield 169, 3) := dk_180 0 169 (dk_at dksX0_freedWithout_1 13 rfl rfl)
theorem dX0_freedWithout_40 : decode cX0_freedWithout 40 = .ok (.iload_n 3, 1) := dk_29 (dk_at dksX0_freedWithout_1 16 rfl rfl)
theorem dX0_freedWithout_41 : decode cX0_freedWithout 41 = .ok (.iaload, 1) := dk_46 (dk_at dksX0_freedWithout_1 17 rfl rfl)
theorem dX0_freedWithout_42 : decode cX0_freedWithout 42 = .ok (.iconst 1, 1) := dk_4 (dk_at dksX0_freedWithout_1 18 rfl rfl)
theorem dX0_freedWithout_43 : decode cX0_freedWithout 43 = .ok (.iload_n 1, 1) := dk_27 (dk_at dksX0_freedWithout_1 19 rfl rfl)
theorem dX0_freedWithout_44 : decode cX0_freedWithout 44 = .ok (.ishl, 1) := dk_120 (dk_at dksX0_freedWithout_1 20 rfl rfl)
theorem dX0_freedWithout_45 : decode cX0_freedWithout 45 = .ok (.iconst (-1), 1) := dk_2 (dk_at dksX0_freedWithout_1 21 rfl rfl)
theorem dX0_freedWithout_46 : decode cX0_freedWithout 46 = .ok (.ixor, 1) := dk_130 (dk_at dksX0_freedWithout_1 22 rfl rfl)
theorem dX0_freedWithout_47 : decode cX0_freedWithout 47 = .ok (.iand, 1) := dk_126 (dk_at dksX0_freedWithout_1 23 rfl rfl)
theorem dX0_freedWithout_48 : decode cX0_freedWithout 48 = .ok (.invokevirtual 266, 3) := dk_182 1 10 (dk_at dksX0_freedWithout_2 0 rfl rfl)
theorem dX0_freedWithout_51 : decode cX0_freedWithout 51 = .ok (.ifCond .le 7, 3) := dk_158 0 7 (dk_at dksX0_freedWithout_2 3 rfl rfl)
theorem dX0_freedWithout_54 : decode cX0_freedWithout 54 = .ok (.iconst 1, 1) := dk_4 (dk_at dksX0_freedWithout_2 6 rfl rfl)
theorem dX0_freedWithout_55 : decode cX0_freedWithout 55 = .ok (.goto 4, 3) := dk_167 0 4 (dk_at dksX0_freedWithout_2 7 rfl rfl)
theorem dX0_freedWithout_58 : decode cX0_freedWithout 58 = .ok (.iconst 0, 1) := dk_3 (dk_at dksX0_freedWithout_2 10 rfl rfl)
theorem dX0_freedWithout_59 : decode cX0_freedWithout 59 = .ok (.iadd, 1) := dk_96 (dk_at dksX0_freedWithout_2 11 rfl rfl)
theorem dX0_freedWithout_60 : decode cX0_freedWithout 60 = .ok (.istore_n 2, 1) := dk_61 (dk_at dksX0_freedWithout_2 12 rfl rfl)
theorem dX0_freedWithout_61 : decode cX0_freedWithout 61 = .ok (.iinc 3 1, 3) := dk_132 3 1 (dk_at dksX0_freedWithout_2 13 rfl rfl)
theorem dX0_freedWithout_64 : decode cX0_freedWithout 64 = .ok (.goto (-60), 3) := dk_167 255 196 (dk_at dksX0_freedWithout_2 16 rfl rfl)
theorem dX0_freedWithout_67 : decode cX0_freedWithout 67 = .ok (.iload_n 2, 1) := dk_28 (dk_at dksX0_freedWithout_2 19 rfl rfl)
theorem dX0_freedWithout_68 : decode cX0_freedWithout 68 = .ok (.ireturn, 1) := dk_172 (dk_at dksX0_freedWithout_2 20 rfl rfl)
abbrev cX0_fashion : ByteArray := prog_1_method_46_code
def yX0_fashion : MethodName := ⟨RX0, "fashion", "()I"⟩
def dkwX0_fashion_3 : List UInt8 := [163, 0, 6, 167, 0, 8, 29, 60, 21, 4, 61, 132, 3, 1, 167, 255, 178, 27, 172]
abbrev dktX0_fashion_3 : List UInt8 := dkwX0_fashion_3 ++ []
def dkwX0_fashion_2 : List UInt8 := [182, 0, 238, 153, 0, 7, 4, 167, 0, 4, 3, 96, 54, 4, 132, 5, 1, 167, 255, 212, 21, 4, 28]
abbrev dktX0_fashion_2 : List UInt8 := dkwX0_fashion_2 ++ dktX0_fashion_3
def dkwX0_fashion_1 : List UInt8 := [182, 0, 140, 162, 0, 41, 21, 4, 42, 180, 0, 53, 21, 5, 182, 0, 162, 153, 0, 17, 42, 21, 5, 29]
abbrev dktX0_fashion_1 : List UInt8 := dkwX0_fashion_1 ++ dktX0_fashion_2
def dkwX0_fashion_0 : List UInt8 := [2, 60, 2, 61, 3, 62, 29, 42, 182, 0, 167, 162, 0, 76, 3, 54, 4, 3, 54, 5, 21, 5, 42]
abbrev dktX0_fashion_0 : List UInt8 := dkwX0_fashion_0 ++ dktX0_fashion_1
theorem dksX0_fashion_0 : cX0_fashion.data.toList.drop 0 = dktX0_fashion_0 := by decide +kernel
theorem dksX0_fashion_1 : cX0_fashion.data.toList.drop 23 = dktX0_fashion_1 := dk_seg dksX0_fashion_0 23 rfl rfl
theorem dksX0_fashion_2 : cX0_fashion.data.toList.drop 47 = dktX0_fashion_2 := dk_seg dksX0_fashion_1 24 rfl rfl
theorem dksX0_fashion_3 : cX0_fashion.data.toList.drop 70 = dktX0_fashion_3 := dk_seg dksX0_fashion_2 23 rfl rfl
theorem dX0_fashion_0 : decode cX0_fashion 0 = .ok (.iconst (-1), 1) := dk_2 (dk_at dksX0_fashion_0 0 rfl rfl)
theorem dX0_fashion_1 : decode cX0_fashion 1 = .ok (.istore_n 1, 1) := dk_60 (dk_at dksX0_fashion_0 1 rfl rfl)
theorem dX0_fashion_2 : decode cX0_fashion 2 = .ok (.iconst (-1), 1) := dk_2 (dk_at dksX0_fashion_0 2 rfl rfl)
theorem dX0_fashion_3 : decode cX0_fashion 3 = .ok (.istore_n 2, 1) := dk_61 (dk_at dksX0_fashion_0 3 rfl rfl)
theorem dX0_fashion_4 : decode cX0_fashion 4 = .ok (.iconst 0, 1) := dk_3 (dk_at dksX0_fashion_0 4 rfl rfl)
theorem dX0_fashion_5 : decode cX0_fashion 5 = .ok (.istore_n 3, 1) := dk_62 (dk_at dksX0_fashion_0 5 rfl rfl)
theorem dX0_fashion_6 : decode cX0_fashion 6 = .ok (.iload_n 3, 1) := dk_29 (dk_at dksX0_fashion_0 6 rfl rfl)
theorem dX0_fashion_7 : decode cX0_fashion 7 = .ok (.aload_n 0, 1) := dk_42 (dk_at dksX0_fashion_0 7 rfl rfl)
theorem dX0_fashion_8 : decode cX0_fashion 8 = .ok (.invokevirtual 167, 3) := dk_182 0 167 (dk_at dksX0_fashion_0 8 rfl rfl)
theorem dX0_fashion_11 : decode cX0_fashion 11 = .ok (.if_icmp .ge 76, 3) := dk_162 0 76 (dk_at dksX0_fashion_0 11 rfl rfl)
theorem dX0_fashion_14 : decode cX0_fashion 14 = .ok (.iconst 0, 1) := dk_3 (dk_at dksX0_fashion_0 14 rfl rfl)
theorem dX0_fashion_15 : decode cX0_fashion 15 = .ok (.istore 4, 2) := dk_54 4 (dk_at dksX0_fashion_0 15 rfl rfl)
theorem dX0_fashion_17 : decode cX0_fashion 17 = .ok (.iconst 0, 1) := dk_3 (dk_at dksX0_fashion_0 17 rfl rfl)
theorem dX0_fashion_18 : decode cX0_fashion 18 = .ok (.istore 5, 2) := dk_54 5 (dk_at dksX0_fashion_0 18 rfl rfl)
theorem dX0_fashion_20 : decode cX0_fashion 20 = .ok (.iload 5, 2) := dk_21 5 (dk_at dksX0_fashion_0 20 rfl rfl)
theorem dX0_fashion_22 : decode cX0_fashion 22 = .ok (.aload_n 0, 1) := dk_42 (dk_at dksX0_fashion_0 22 rfl rfl)
theorem dX0_fashion_23 : decode cX0_fashion 23 = .ok (.invokevirtual 140, 3) := dk_182 0 140 (dk_at dksX0_fashion_1 0 rfl rfl)
theorem dX0_fashion_26 : decode cX0_fashion 26 = .ok (.if_icmp .ge 41, 3) := dk_162 0 41 (dk_at dksX0_fashion_1 3 rfl rfl)
theorem dX0_fashion_29 : decode cX0_fashion 29 = .ok (.iload 4, 2) := dk_21 4 (dk_at dksX0_fashion_1 6 rfl rfl)
theorem dX0_fashion_31 : decode cX0_fashion 31 = .ok (.aload_n 0, 1) := dk_42 (dk_at dksX0_fashion_1 8 rfl rfl)
theorem dX0_fashion_32 : decode cX0_fashion 32 = .ok (.getfield 53, 3) := dk_180 0 53 (dk_at dksX0_fashion_1 9 rfl rfl)
theorem dX0_fashion_35 : decode cX0_fashion 35 = .ok (.iload 5, 2) := dk_21 5 (dk_at dksX0_fashion_1 12 rfl rfl)
theorem dX0_fashion_37 : decode cX0_fashion 37 = .ok (.invokevirtual 162, 3) := dk_182 0 162 (dk_at dksX0_fashion_1 14 rfl rfl)
theorem dX0_fashion_40 : decode cX0_fashion 40 = .ok (.ifCond .eq 17, 3) := dk_153 0 17 (dk_at dksX0_fashion_1 17 rfl rfl)
theorem dX0_fashion_43 : decode cX0_fashion 43 = .ok (.aload_n 0, 1) := dk_42 (dk_at dksX0_fashion_1 20 rfl rfl)
theorem dX0_fashion_44 : decode cX0_fashion 44 = .ok (.iload 5, 2) := dk_21 5 (dk_at dksX0_fashion_1 21 rfl rfl)
theorem dX0_fashion_46 : decode cX0_fashion 46 = .ok (.iload_n 3, 1) := dk_29 (dk_at dksX0_fashion_1 23 rfl rfl)
theorem dX0_fashion_47 : decode cX0_fashion 47 = .ok (.invokevirtual 238, 3) := dk_182 0 238 (dk_at dksX0_fashion_2 0 rfl rfl)
theorem dX0_fashion_50 : decode cX0_fashion 50 = .ok (.ifCond .eq 7, 3) := dk_153 0 7 (dk_at dksX0_fashion_2 3 rfl rfl)
theorem dX0_fashion_53 : decode cX0_fashion 53 = .ok (.iconst 1, 1) := dk_4 (dk_at dksX0_fashion_2 6 rfl rfl)
theorem dX0_fashion_54 : decode cX0_fashion 54 = .ok (.goto 4, 3) := dk_167 0 4 (dk_at dksX0_fashion_2 7 rfl rfl)
theorem dX0_fashion_57 : decode cX0_fashion 57 = .ok (.iconst 0, 1) := dk_3 (dk_at dksX0_fashion_2 10 rfl rfl)
theorem dX0_fashion_58 : decode cX0_fashion 58 = .ok (.iadd, 1) := dk_96 (dk_at dksX0_fashion_2 11 rfl rfl)
theorem dX0_fashion_59 : decode cX0_fashion 59 = .ok (.istore 4, 2) := dk_54 4 (dk_at dksX0_fashion_2 12 rfl rfl)
theorem dX0_fashion_61 : decode cX0_fashion 61 = .ok (.iinc 5 1, 3) := dk_132 5 1 (dk_at dksX0_fashion_2 14 rfl rfl)
theorem dX0_fashion_64 : decode cX0_fashion 64 = .ok (.goto (-44), 3) := dk_167 255 212 (dk_at dksX0_fashion_2 17 rfl rfl)
theorem dX0_fashion_67 : decode cX0_fashion 67 = .ok (.iload 4, 2) := dk_21 4 (dk_at dksX0_fashion_2 20 rfl rfl)
theorem dX0_fashion_69 : decode cX0_fashion 69 = .ok (.iload_n 2, 1) := dk_28 (dk_at dksX0_fashion_2 22 rfl rfl)
theorem dX0_fashion_70 : decode cX0_fashion 70 = .ok (.if_icmp .gt 6, 3) := dk_163 0 6 (dk_at dksX0_fashion_3 0 rfl rfl)
theorem dX0_fashion_73 : decode cX0_fashion 73 = .ok (.goto 8, 3) := dk_167 0 8 (dk_at dksX0_fashion_3 3 rfl rfl)
theorem dX0_fashion_76 : decode cX0_fashion 76 = .ok (.iload_n 3, 1) := dk_29 (dk_at dksX0_fashion_3 6 rfl rfl)
theorem dX0_fashion_77 : decode cX0_fashion 77 = .ok (.istore_n 1, 1) := dk_60 (dk_at dksX0_fashion_3 7 rfl rfl)
theorem dX0_fashion_78 : decode cX0_fashion 78 = .ok (.iload 4, 2) := dk_21 4 (dk_at dksX0_fashion_3 8 rfl rfl)
theorem dX0_fashion_80 : decode cX0_fashion 80 = .ok (.istore_n 2, 1) := dk_61 (dk_at dksX0_fashion_3 10 rfl rfl)
theorem dX0_fashion_81 : decode cX0_fashion 81 = .ok (.iinc 3 1, 3) := dk_132 3 1 (dk_at dksX0_fashion_3 11 rfl rfl)
theorem dX0_fashion_84 : decode cX0_fashion 84 = .ok (.goto (-78), 3) := dk_167 255 178 (dk_at dksX0_fashion_3 14 rfl rfl)
theorem dX0_fashion_87 : decode cX0_fashion 87 = .ok (.iload_n 1, 1) := dk_27 (dk_at dksX0_fashion_3 17 rfl rfl)
theorem dX0_fashion_88 : decode cX0_fashion 88 = .ok (.ireturn, 1) := dk_172 (dk_at dksX0_fashion_3 18 rfl rfl)
abbrev cX0_contrary : ByteArray := prog_1_method_48_code
def yX0_contrary : MethodName := ⟨RX0, "contrary", "(I)I"⟩
def dkwX0_contrary_4 : List UInt8 := [29, 167, 0, 4, 2, 172, 132, 3, 1, 167, 255, 170, 132, 2, 1, 167, 255, 152, 2, 172]
abbrev dktX0_contrary_4 : List UInt8 := dkwX0_contrary_4 ++ []
def dkwX0_contrary_3 : List UInt8 := [182, 1, 31, 42, 29, 182, 1, 31, 159, 0, 22, 27, 154, 0, 7, 28, 167, 0, 13, 27, 4, 160, 0, 7]
abbrev dktX0_contrary_3 : List UInt8 := dkwX0_contrary_3 ++ dktX0_contrary_4
def dkwX0_contrary_2 : List UInt8 := [180, 0, 53, 180, 0, 169, 28, 46, 42, 180, 0, 53, 180, 0, 169, 29, 46, 160, 0, 35, 42, 28]
abbrev dktX0_contrary_2 : List UInt8 := dkwX0_contrary_2 ++ dktX0_contrary_3
def dkwX0_contrary_1 : List UInt8 := [180, 0, 53, 28, 182, 0, 162, 153, 0, 67, 42, 180, 0, 53, 29, 182, 0, 162, 153, 0, 56, 42]
abbrev dktX0_contrary_1 : List UInt8 := dkwX0_contrary_1 ++ dktX0_contrary_2
def dkwX0_contrary_0 : List UInt8 := [3, 61, 28, 42, 182, 0, 140, 162, 0, 102, 28, 4, 96, 62, 29, 42, 182, 0, 140, 162, 0, 84, 42]
abbrev dktX0_contrary_0 : List UInt8 := dkwX0_contrary_0 ++ dktX0_contrary_1
theorem dksX0_contrary_0 : cX0_contrary.data.toList.drop 0 = dktX0_contrary_0 := by decide +kernel
theorem dksX0_contrary_1 : cX0_contrary.data.toList.drop 23 = dktX0_contrary_1 := dk_seg dksX0_contrary_0 23 rfl rfl
theorem dksX0_contrary_2 : cX0_contrary.data.toList.drop 45 = dktX0_contrary_2 := dk_seg dksX0_contrary_1 22 rfl rfl
theorem dksX0_contrary_3 : cX0_contrary.data.toList.drop 67 = dktX0_contrary_3 := dk_seg dksX0_contrary_2 22 rfl rfl
theorem dksX0_contrary_4 : cX0_contrary.data.toList.drop 91 = dktX0_contrary_4 := dk_seg dksX0_contrary_3 24 rfl rfl
theorem dX0_contrary_0 : decode cX0_contrary 0 = .ok (.iconst 0, 1) := dk_3 (dk_at dksX0_contrary_0 0 rfl rfl)
theorem dX0_contrary_1 : decode cX0_contrary 1 = .ok (.istore_n 2, 1) := dk_61 (dk_at dksX0_contrary_0 1 rfl rfl)
theorem dX0_contrary_2 : decode cX0_contrary 2 = .ok (.iload_n 2, 1) := dk_28 (dk_at dksX0_contrary_0 2 rfl rfl)
theorem dX0_contrary_3 : decode cX0_contrary 3 = .ok (.aload_n 0, 1) := dk_42 (dk_at dksX0_contrary_0 3 rfl rfl)
theorem dX0_contrary_4 : decode cX0_contrary 4 = .ok (.invokevirtual 140, 3) := dk_182 0 140 (dk_at dksX0_contrary_0 4 rfl rfl)
theorem dX0_contrary_7 : decode cX0_contrary 7 = .ok (.if_icmp .ge 102, 3) := dk_162 0 102 (dk_at dksX0_contrary_0 7 rfl rfl)
theorem dX0_contrary_10 : decode cX0_contrary 10 = .ok (.iload_n 2, 1) := dk_28 (dk_at dksX0_contrary_0 10 rfl rfl)
theorem dX0_contrary_11 : decode cX0_contrary 11 = .ok (.iconst 1, 1) := dk_4 (dk_at dksX0_contrary_0 11 rfl rfl)
theorem dX0_contrary_12 : decode cX0_contrary 12 = .ok (.iadd, 1) := dk_96 (dk_at dksX0_contrary_0 12 rfl rfl)
theorem dX0_contrary_13 : decode cX0_contrary 13 = .ok (.istore_n 3, 1) := dk_62 (dk_at dksX0_contrary_0 13 rfl rfl)
theorem dX0_contrary_14 : decode cX0_contrary 14 = .ok (.iload_n 3, 1) := dk_29 (dk_at dksX0_contrary_0 14 rfl rfl)
theorem dX0_contrary_15 : decode cX0_contrary 15 = .ok (.aload_n 0, 1) := dk_42 (dk_at dksX0_contrary_0 15 rfl rfl)
theorem dX0_contrary_16 : decode cX0_contrary 16 = .ok (.invokevirtual 140, 3) := dk_182 0 140 (dk_at dksX0_contrary_0 16 rfl rfl)
theorem dX0_contrary_19 : decode cX0_contrary 19 = .ok (.if_icmp .ge 84, 3) := dk_162 0 84 (dk_at dksX0_contrary_0 19 rfl rfl)
theorem dX0_contrary_22 : decode cX0_contrary 22 = .ok (.aload_n 0, 1) := dk_42 (dk_at dksX0_contrary_0 22 rfl rfl)
theorem dX0_contrary_23 : decode cX0_contrary 23 = .ok (.getfield 53, 3) := dk_180 0 53 (dk_at dksX0_contrary_1 0 rfl rfl)
theorem dX0_contrary_26 : decode cX0_contrary 26 = .ok (.iload_n 2, 1) := dk_28 (dk_at dksX0_contrary_1 3 rfl rfl)
theorem dX0_contrary_27 : decode cX0_contrary 27 = .ok (.invokevirtual 162, 3) := dk_182 0 162 (dk_at dksX0_contrary_1 4 rfl rfl)
theorem dX0_contrary_30 : decode cX0_contrary 30 = .ok (.ifCond .eq 67, 3) := dk_153 0 67 (dk_at dksX0_contrary_1 7 rfl rfl)
theorem dX0_contrary_33 : decode cX0_contrary 33 = .ok (.aload_n 0, 1) := dk_42 (dk_at dksX0_contrary_1 10 rfl rfl)
theorem dX0_contrary_34 : decode cX0_contrary 34 = .ok (.getfield 53, 3) := dk_180 0 53 (dk_at dksX0_contrary_1 11 rfl rfl)
theorem dX0_contrary_37 : decode cX0_contrary 37 = .ok (.iload_n 3, 1) := dk_29 (dk_at dksX0_contrary_1 14 rfl rfl)
theorem dX0_contrary_38 : decode cX0_contrary 38 = .ok (.invokevirtual 162, 3) := dk_182 0 162 (dk_at dksX0_contrary_1 15 rfl rfl)
theorem dX0_contrary_41 : decode cX0_contrary 41 = .ok (.ifCond .eq 56, 3) := dk_153 0 56 (dk_at dksX0_contrary_1 18 rfl rfl)
theorem dX0_contrary_44 : decode cX0_contrary 44 = .ok (.aload_n 0, 1) := dk_42 (dk_at dksX0_contrary_1 21 rfl rfl)
theorem dX0_contrary_45 : decode cX0_contrary 45 = .ok (.getfield 53, 3) := dk_180 0 53 (dk_at dksX0_contrary_2 0 rfl rfl)
theorem dX0_contrary_48 : decode cX0_contrary 48 = .ok (.getfield 169, 3) := dk_180 0 169 (dk_at dksX0_contrary_2 3 rfl rfl)
theorem dX0_contrary_51 : decode cX0_contrary 51 = .ok (.iload_n 2, 1) := dk_28 (dk_at dksX0_contrary_2 6 rfl rfl)
theorem dX0_contrary_52 : decode cX0_contrary 52 = .ok (.iaload, 1) := dk_46 (dk_at dksX0_contrary_2 7 rfl rfl)
theorem dX0_contrary_53 : decode cX0_contrary 53 = .ok (.aload_n 0, 1) := dk_42 (dk_at dksX0_contrary_2 8 rfl rfl)
theorem dX0_contrary_54 : decode cX0_contrary 54 = .ok (.getfield 53, 3) := dk_180 0 53 (dk_at dksX0_contrary_2 9 rfl rfl)
theorem dX0_contrary_57 : decode cX0_contrary 57 = .ok (.getfield 169, 3) := dk_180 0 169 (dk_at dksX0_contrary_2 12 rfl rfl)
theorem dX0_contrary_60 : decode cX0_contrary 60 = .ok (.iload_n 3, 1) := dk_29 (dk_at dksX0_contrary_2 15 rfl rfl)
theorem dX0_contrary_61 : decode cX0_contrary 61 = .ok (.iaload, 1) := dk_46 (dk_at dksX0_contrary_2 16 rfl rfl)
theorem dX0_contrary_62 : decode cX0_contrary 62 = .ok (.if_icmp .ne 35, 3) := dk_160 0 35 (dk_at dksX0_contrary_2 17 rfl rfl)
theorem dX0_contrary_65 : decode cX0_contrary 65 = .ok (.aload_n 0, 1) := dk_42 (dk_at dksX0_contrary_2 20 rfl rfl)
theorem dX0_contrary_66 : decode cX0_contrary 66 = .ok (.iload_n 2, 1) := dk_28 (dk_at dksX0_contrary_2 21 rfl rfl)
theorem dX0_contrary_67 : decode cX0_contrary 67 = .ok (.invokevirtual 287, 3) := dk_182 1 31 (dk_at dksX0_contrary_3 0 rfl rfl)
theorem dX0_contrary_70 : decode cX0_contrary 70 = .ok (.aload_n 0, 1) := dk_42 (dk_at dksX0_contrary_3 3 rfl rfl)
theorem dX0_contrary_71 : decode cX0_contrary 71 = .ok (.iload_n 3, 1) := dk_29 (dk_at dksX0_contrary_3 4 rfl rfl)
theorem dX0_contrary_72 : decode cX0_contrary 72 = .ok (.invokevirtual 287, 3) := dk_182 1 31 (dk_at dksX0_contrary_3 5 rfl rfl)
theorem dX0_contrary_75 : decode cX0_contrary 75 = .ok (.if_icmp .eq 22, 3) := dk_159 0 22 (dk_at dksX0_contrary_3 8 rfl rfl)
theorem dX0_contrary_78 : decode cX0_contrary 78 = .ok (.iload_n 1, 1) := dk_27 (dk_at dksX0_contrary_3 11 rfl rfl)
theorem dX0_contrary_79 : decode cX0_contrary 79 = .ok (.ifCond .ne 7, 3) := dk_154 0 7 (dk_at dksX0_contrary_3 12 rfl rfl)
theorem dX0_contrary_82 : decode cX0_contrary 82 = .ok (.iload_n 2, 1) := dk_28 (dk_at dksX0_contrary_3 15 rfl rfl)
theorem dX0_contrary_83 : decode cX0_contrary 83 = .ok (.goto 13, 3) := dk_167 0 13 (dk_at dksX0_contrary_3 16 rfl rfl)
theorem dX0_contrary_86 : decode cX0_contrary 86 = .ok (.iload_n 1, 1) := dk_27 (dk_at dksX0_contrary_3 19 rfl rfl)
theorem dX0_contrary_87 : decode cX0_contrary 87 = .ok (.iconst 1, 1) := dk_4 (dk_at dksX0_contrary_3 20 rfl rfl)
theorem dX0_contrary_88 : decode cX0_contrary 88 = .ok (.if_icmp .ne 7, 3) := dk_160 0 7 (dk_at dksX0_contrary_3 21 rfl rfl)
theorem dX0_contrary_91 : decode cX0_contrary 91 = .ok (.iload_n 3, 1) := dk_29 (dk_at dksX0_contrary_4 0 rfl rfl)
theorem dX0_contrary_92 : decode cX0_contrary 92 = .ok (.goto 4, 3) := dk_167 0 4 (dk_at dksX0_contrary_4 1 rfl rfl)
theorem dX0_contrary_95 : decode cX0_contrary 95 = .ok (.iconst (-1), 1) := dk_2 (dk_at dksX0_contrary_4 4 rfl rfl)
theorem dX0_contrary_96 : decode cX0_contrary 96 = .ok (.ireturn, 1) := dk_172 (dk_at dksX0_contrary_4 5 rfl rfl)
theorem dX0_contrary_97 : decode cX0_contrary 97 = .ok (.iinc 3 1, 3) := dk_132 3 1 (dk_at dksX0_contrary_4 6 rfl rfl)
theorem dX0_contrary_100 : decode cX0_contrary 100 = .ok (.goto (-86), 3) := dk_167 255 170 (dk_at dksX0_contrary_4 9 rfl rfl)
theorem dX0_contrary_103 : decode cX0_contrary 103 = .ok (.iinc 2 1, 3) := dk_132 2 1 (dk_at dksX0_contrary_4 12 rfl rfl)
theorem dX0_contrary_106 : decode cX0_contrary 106 = .ok (.goto (-104), 3) := dk_167 255 152 (dk_at dksX0_contrary_4 15 rfl rfl)
theorem dX0_contrary_109 : decode cX0_contrary 109 = .ok (.iconst (-1), 1) := dk_2 (dk_at dksX0_contrary_4 18 rfl rfl)
theorem dX0_contrary_110 : decode cX0_contrary 110 = .ok (.ireturn, 1) := dk_172 (dk_at dksX0_contrary_4 19 rfl rfl)
abbrev cX0_rankOf : ByteArray := prog_1_method_47_code
def yX0_rankOf : MethodName := ⟨RX0, "rankOf", "(I)I"⟩
def dkwX0_rankOf_1 : List UInt8 := [180, 0, 42, 27, 182, 0, 203, 154, 0, 7, 3, 167, 0, 4, 5, 172]
abbrev dktX0_rankOf_1 : List UInt8 := dkwX0_rankOf_1 ++ []
def dkwX0_rankOf_0 : List UInt8 := [42, 180, 0, 53, 42, 180, 0, 42, 27, 182, 0, 203, 158, 0, 7, 4, 167, 0, 23, 42, 180, 0, 53, 42]
abbrev dktX0_rankOf_0 : List UInt8 := dkwX0_rankOf_0 ++ dktX0_rankOf_1
theorem dksX0_rankOf_0 : cX0_rankOf.data.toList.drop 0 = dktX0_rankOf_0 := by decide +kernel
theorem dksX0_rankOf_1 : cX0_rankOf.data.toList.drop 24 = dktX0_rankOf_1 := dk_seg dksX0_rankOf_0 24 rfl rfl
theorem dX0_rankOf_0 : decode cX0_rankOf 0 = .ok (.aload_n 0, 1) := dk_42 (dk_at dksX0_rankOf_0 0 rfl rfl)
theorem dX0_rankOf_1 : decode cX0_rankOf 1 = .ok (.getfield 53, 3) := dk_180 0 53 (dk_at dksX0_rankOf_0 1 rfl rfl)
theorem dX0_rankOf_4 : decode cX0_rankOf 4 = .ok (.aload_n 0, 1) := dk_42 (dk_at dksX0_rankOf_0 4 rfl rfl)
theorem dX0_rankOf_5 : decode cX0_rankOf 5 = .ok (.getfield 42, 3) := dk_180 0 42 (dk_at dksX0_rankOf_0 5 rfl rfl)
theorem dX0_rankOf_8 : decode cX0_rankOf 8 = .ok (.iload_n 1, 1) := dk_27 (dk_at dksX0_rankOf_0 8 rfl rfl)
theorem dX0_rankOf_9 : decode cX0_rankOf 9 = .ok (.invokevirtual 203, 3) := dk_182 0 203 (dk_at dksX0_rankOf_0 9 rfl rfl)
theorem dX0_rankOf_12 : decode cX0_rankOf 12 = .ok (.ifCond .le 7, 3) := dk_158 0 7 (dk_at dksX0_rankOf_0 12 rfl rfl)
theorem dX0_rankOf_15 : decode cX0_rankOf 15 = .ok (.iconst 1, 1) := dk_4 (dk_at dksX0_rankOf_0 15 rfl rfl)
theorem dX0_rankOf_16 : decode cX0_rankOf 16 = .ok (.goto 23, 3) := dk_167 0 23 (dk_at dksX0_rankOf_0 16 rfl rfl)
theorem dX0_rankOf_19 : decode cX0_rankOf 19 = .ok (.aload_n 0, 1) := dk_42 (dk_at dksX0_rankOf_0 19 rfl rfl)
theorem dX0_rankOf_20 : decode cX0_rankOf 20 = .ok (.getfield 53, 3) := dk_180 0 53 (dk_at dksX0_rankOf_0 20 rfl rfl)
theorem dX0_rankOf_23 : decode cX0_rankOf 23 = .ok (.aload_n 0, 1) := dk_42 (dk_at dksX0_rankOf_0 23 rfl rfl)
theorem dX0_rankOf_24 : decode cX0_rankOf 24 = .ok (.getfield 42, 3) := dk_180 0 42 (dk_at dksX0_rankOf_1 0 rfl rfl)
theorem dX0_rankOf_27 : decode cX0_rankOf 27 = .ok (.iload_n 1, 1) := dk_27 (dk_at dksX0_rankOf_1 3 rfl rfl)
theorem dX0_rankOf_28 : decode cX0_rankOf 28 = .ok (.invokevirtual 203, 3) := dk_182 0 203 (dk_at dksX0_rankOf_1 4 rfl rfl)
theorem dX0_rankOf_31 : decode cX0_rankOf 31 = .ok (.ifCond .ne 7, 3) := dk_154 0 7 (dk_at dksX0_rankOf_1 7 rfl rfl)
theorem dX0_rankOf_34 : decode cX0_rankOf 34 = .ok (.iconst 0, 1) := dk_3 (dk_at dksX0_rankOf_1 10 rfl rfl)
theorem dX0_rankOf_35 : decode cX0_rankOf 35 = .ok (.goto 4, 3) := dk_167 0 4 (dk_at dksX0_rankOf_1 11 rfl rfl)
theorem dX0_rankOf_38 : decode cX0_rankOf 38 = .ok (.iconst 2, 1) := dk_5 (dk_at dksX0_rankOf_1 14 rfl rfl)
theorem dX0_rankOf_39 : decode cX0_rankOf 39 = .ok (.ireturn, 1) := dk_172 (dk_at dksX0_rankOf_1 15 rfl rfl)
abbrev cX0_likeliest : ByteArray := prog_1_method_49_code
def yX0_likeliest : MethodName := ⟨RX0, "likeliest", "()I"⟩
def dkwX0_likeliest_2 : List UInt8 := [182, 0, 203, 164, 0, 5, 28, 60, 132, 2, 1, 167, 255, 201, 27, 172]
abbrev dktX0_likeliest_2 : List UInt8 := dkwX0_likeliest_2 ++ []
def dkwX0_likeliest_1 : List UInt8 := [155, 0, 30, 42, 180, 0, 53, 42, 180, 0, 42, 28, 182, 0, 203, 42, 180, 0, 53, 42, 180, 0, 42, 27]
abbrev dktX0_likeliest_1 : List UInt8 := dkwX0_likeliest_1 ++ dktX0_likeliest_2
def dkwX0_likeliest_0 : List UInt8 := [2, 60, 3, 61, 28, 42, 182, 0, 140, 162, 0, 53, 42, 180, 0, 53, 28, 182, 0, 162, 153, 0, 36, 27]
abbrev dktX0_likeliest_0 : List UInt8 := dkwX0_likeliest_0 ++ dktX0_likeliest_1
theorem dksX0_likeliest_0 : cX0_likeliest.data.toList.drop 0 = dktX0_likeliest_0 := by decide +kernel
theorem dksX0_likeliest_1 : cX0_likeliest.data.toList.drop 24 = dktX0_likeliest_1 := dk_seg dksX0_likeliest_0 24 rfl rfl
theorem dksX0_likeliest_2 : cX0_likeliest.data.toList.drop 48 = dktX0_likeliest_2 := dk_seg dksX0_likeliest_1 24 rfl rfl
theorem dX0_likeliest_0 : decode cX0_likeliest 0 = .ok (.iconst (-1), 1) := dk_2 (dk_at dksX0_likeliest_0 0 rfl rfl)
theorem dX0_likeliest_1 : decode cX0_likeliest 1 = .ok (.istore_n 1, 1) := dk_60 (dk_at dksX0_likeliest_0 1 rfl rfl)
theorem dX0_likeliest_2 : decode cX0_likeliest 2 = .ok (.iconst 0, 1) := dk_3 (dk_at dksX0_likeliest_0 2 rfl rfl)
theorem dX0_likeliest_3 : decode cX0_likeliest 3 = .ok (.istore_n 2, 1) := dk_61 (dk_at dksX0_likeliest_0 3 rfl rfl)
theorem dX0_likeliest_4 : decode cX0_likeliest 4 = .ok (.iload_n 2, 1) := dk_28 (dk_at dksX0_likeliest_0 4 rfl rfl)
theorem dX0_likeliest_5 : decode cX0_likeliest 5 = .ok (.aload_n 0, 1) := dk_42 (dk_at dksX0_likeliest_0 5 rfl rfl)
theorem dX0_likeliest_6 : decode cX0_likeliest 6 = .ok (.invokevirtual 140, 3) := dk_182 0 140 (dk_at dksX0_likeliest_0 6 rfl rfl)
theorem dX0_likeliest_9 : decode cX0_likeliest 9 = .ok (.if_icmp .ge 53, 3) := dk_162 0 53 (dk_at dksX0_likeliest_0 9 rfl rfl)
theorem dX0_likeliest_12 : decode cX0_likeliest 12 = .ok (.aload_n 0, 1) := dk_42 (dk_at dksX0_likeliest_0 12 rfl rfl)
theorem dX0_likeliest_13 : decode cX0_likeliest 13 = .ok (.getfield 53, 3) := dk_180 0 53 (dk_at dksX0_likeliest_0 13 rfl rfl)
theorem dX0_likeliest_16 : decode cX0_likeliest 16 = .ok (.iload_n 2, 1) := dk_28 (dk_at dksX0_likeliest_0 16 rfl rfl)
theorem dX0_likeliest_17 : decode cX0_likeliest 17 = .ok (.invokevirtual 162, 3) := dk_182 0 162 (dk_at dksX0_likeliest_0 17 rfl rfl)
theorem dX0_likeliest_20 : decode cX0_likeliest 20 = .ok (.ifCond .eq 36, 3) := dk_153 0 36 (dk_at dksX0_likeliest_0 20 rfl rfl)
theorem dX0_likeliest_23 : decode cX0_likeliest 23 = .ok (.iload_n 1, 1) := dk_27 (dk_at dksX0_likeliest_0 23 rfl rfl)
theorem dX0_likeliest_24 : decode cX0_likeliest 24 = .ok (.ifCond .lt 30, 3) := dk_155 0 30 (dk_at dksX0_likeliest_1 0 rfl rfl)
theorem dX0_likeliest_27 : decode cX0_likeliest 27 = .ok (.aload_n 0, 1) := dk_42 (dk_at dksX0_likeliest_1 3 rfl rfl)
theorem dX0_likeliest_28 : decode cX0_likeliest 28 = .ok (.getfield 53, 3) := dk_180 0 53 (dk_at dksX0_likeliest_1 4 rfl rfl)
theorem dX0_likeliest_31 : decode cX0_likeliest 31 = .ok (.aload_n 0, 1) := dk_42 (dk_at dksX0_likeliest_1 7 rfl rfl)
theorem dX0_likeliest_32 : decode cX0_likeliest 32 = .ok (.getfield 42, 3) := dk_180 0 42 (dk_at dksX0_likeliest_1 8 rfl rfl)
theorem dX0_likeliest_35 : decode cX0_likeliest 35 = .ok (.iload_n 2, 1) := dk_28 (dk_at dksX0_likeliest_1 11 rfl rfl)
theorem dX0_likeliest_36 : decode cX0_likeliest 36 = .ok (.invokevirtual 203, 3) := dk_182 0 203 (dk_at dksX0_likeliest_1 12 rfl rfl)
theorem dX0_likeliest_39 : decode cX0_likeliest 39 = .ok (.aload_n 0, 1) := dk_42 (dk_at dksX0_likeliest_1 15 rfl rfl)
theorem dX0_likeliest_40 : decode cX0_likeliest 40 = .ok (.getfield 53, 3) := dk_180 0 53 (dk_at dksX0_likeliest_1 16 rfl rfl)
theorem dX0_likeliest_43 : decode cX0_likeliest 43 = .ok (.aload_n 0, 1) := dk_42 (dk_at dksX0_likeliest_1 19 rfl rfl)
theorem dX0_likeliest_44 : decode cX0_likeliest 44 = .ok (.getfield 42, 3) := dk_180 0 42 (dk_at dksX0_likeliest_1 20 rfl rfl)
theorem dX0_likeliest_47 : decode cX0_likeliest 47 = .ok (.iload_n 1, 1) := dk_27 (dk_at dksX0_likeliest_1 23 rfl rfl)
theorem dX0_likeliest_48 : decode cX0_likeliest 48 = .ok (.invokevirtual 203, 3) := dk_182 0 203 (dk_at dksX0_likeliest_2 0 rfl rfl)
theorem dX0_likeliest_51 : decode cX0_likeliest 51 = .ok (.if_icmp .le 5, 3) := dk_164 0 5 (dk_at dksX0_likeliest_2 3 rfl rfl)
theorem dX0_likeliest_54 : decode cX0_likeliest 54 = .ok (.iload_n 2, 1) := dk_28 (dk_at dksX0_likeliest_2 6 rfl rfl)
theorem dX0_likeliest_55 : decode cX0_likeliest 55 = .ok (.istore_n 1, 1) := dk_60 (dk_at dksX0_likeliest_2 7 rfl rfl)
theorem dX0_likeliest_56 : decode cX0_likeliest 56 = .ok (.iinc 2 1, 3) := dk_132 2 1 (dk_at dksX0_likeliest_2 8 rfl rfl)
theorem dX0_likeliest_59 : decode cX0_likeliest 59 = .ok (.goto (-55), 3) := dk_167 255 201 (dk_at dksX0_likeliest_2 11 rfl rfl)
theorem dX0_likeliest_62 : decode cX0_likeliest 62 = .ok (.iload_n 1, 1) := dk_27 (dk_at dksX0_likeliest_2 14 rfl rfl)
theorem dX0_likeliest_63 : decode cX0_likeliest 63 = .ok (.ireturn, 1) := dk_172 (dk_at dksX0_likeliest_2 15 rfl rfl)
abbrev cX0_rivals : ByteArray := prog_1_method_51_code
def yX0_rivals : MethodName := ⟨RX0, "rivals", "(II)I"⟩
def dkwX0_rivals_9 : List UInt8 := [42, 29, 154, 0, 7, 3, 167, 0, 4, 5, 181, 0, 123, 29, 172]
abbrev dktX0_rivals_9 : List UInt8 := dkwX0_rivals_9 ++ []
def dkwX0_rivals_8 : List UInt8 := [3, 21, 4, 79, 42, 180, 0, 75, 4, 21, 5, 79, 132, 5, 255, 167, 255, 215, 132, 4, 255, 167, 255, 196]
abbrev dktX0_rivals_8 : List UInt8 := dkwX0_rivals_8 ++ dktX0_rivals_9
def dkwX0_rivals_7 : List UInt8 := [155, 0, 42, 42, 21, 4, 21, 5, 182, 1, 34, 154, 0, 6, 167, 0, 22, 132, 3, 1, 42, 180, 0, 75]
abbrev dktX0_rivals_7 : List UInt8 := dkwX0_rivals_7 ++ dktX0_rivals_8
def dkwX0_rivals_6 : List UInt8 := [62, 42, 182, 0, 167, 4, 100, 54, 4, 21, 4, 155, 0, 61, 42, 182, 0, 167, 4, 100, 54, 5, 21, 5]
abbrev dktX0_rivals_6 : List UInt8 := dkwX0_rivals_6 ++ dktX0_rivals_7
def dkwX0_rivals_5 : List UInt8 := [167, 0, 7, 4, 21, 4, 120, 182, 1, 10, 79, 132, 4, 1, 167, 255, 175, 132, 3, 1, 167, 255, 158, 3]
abbrev dktX0_rivals_5 : List UInt8 := dkwX0_rivals_5 ++ dktX0_rivals_6
def dkwX0_rivals_4 : List UInt8 := [180, 0, 72, 29, 50, 21, 4, 42, 180, 0, 53, 42, 180, 0, 42, 28, 29, 21, 4, 160, 0, 7, 3]
abbrev dktX0_rivals_4 : List UInt8 := dkwX0_rivals_4 ++ dktX0_rivals_5
def dkwX0_rivals_3 : List UInt8 := [180, 0, 42, 27, 29, 21, 4, 160, 0, 7, 3, 167, 0, 6, 4, 29, 120, 182, 1, 10, 79, 42]
abbrev dktX0_rivals_3 : List UInt8 := dkwX0_rivals_3 ++ dktX0_rivals_4
def dkwX0_rivals_2 : List UInt8 := [54, 4, 21, 4, 42, 182, 0, 167, 162, 0, 78, 42, 180, 0, 69, 29, 50, 21, 4, 42, 180, 0, 53, 42]
abbrev dktX0_rivals_2 : List UInt8 := dkwX0_rivals_2 ++ dktX0_rivals_3
def dkwX0_rivals_1 : List UInt8 := [159, 0, 10, 42, 182, 0, 167, 154, 0, 5, 2, 172, 3, 62, 29, 42, 182, 0, 167, 162, 0, 96, 3]
abbrev dktX0_rivals_1 : List UInt8 := dkwX0_rivals_1 ++ dktX0_rivals_2
def dkwX0_rivals_0 : List UInt8 := [42, 3, 181, 0, 123, 42, 27, 182, 0, 234, 153, 0, 23, 42, 28, 182, 0, 234, 153, 0, 15, 27, 28]
abbrev dktX0_rivals_0 : List UInt8 := dkwX0_rivals_0 ++ dktX0_rivals_1
theorem dksX0_rivals_0 : cX0_rivals.data.toList.drop 0 = dktX0_rivals_0 := by decide +kernel
theorem dksX0_rivals_1 : cX0_rivals.data.toList.drop 23 = dktX0_rivals_1 := dk_seg dksX0_rivals_0 23 rfl rfl
theorem dksX0_rivals_2 : cX0_rivals.data.toList.drop 46 = dktX0_rivals_2 := dk_seg dksX0_rivals_1 23 rfl rfl
theorem dksX0_rivals_3 : cX0_rivals.data.toList.drop 70 = dktX0_rivals_3 := dk_seg dksX0_rivals_2 24 rfl rfl
theorem dksX0_rivals_4 : cX0_rivals.data.toList.drop 92 = dktX0_rivals_4 := dk_seg dksX0_rivals_3 22 rfl rfl
theorem dksX0_rivals_5 : cX0_rivals.data.toList.drop 115 = dktX0_rivals_5 := dk_seg dksX0_rivals_4 23 rfl rfl
theorem dksX0_rivals_6 : cX0_rivals.data.toList.drop 139 = dktX0_rivals_6 := dk_seg dksX0_rivals_5 24 rfl rfl
theorem dksX0_rivals_7 : cX0_rivals.data.toList.drop 163 = dktX0_rivals_7 := dk_seg dksX0_rivals_6 24 rfl rfl
theorem dksX0_rivals_8 : cX0_rivals.data.toList.drop 187 = dktX0_rivals_8 := dk_seg dksX0_rivals_7 24 rfl rfl
theorem dksX0_rivals_9 : cX0_rivals.data.toList.drop 211 = dktX0_rivals_9 := dk_seg dksX0_rivals_8 24 rfl rfl
theorem dX0_rivals_0 : decode cX0_rivals 0 = .ok (.aload_n 0, 1) := dk_42 (dk_at dksX0_rivals_0 0 rfl rfl)
theorem dX0_rivals_1 : decode cX0_rivals 1 = .ok (.iconst 0, 1) := dk_3 (dk_at dksX0_rivals_0 1 rfl rfl)
theorem dX0_rivals_2 : decode cX0_rivals 2 = .ok (.putfield 123, 3) := dk_181 0 123 (dk_at dksX0_rivals_0 2 rfl rfl)
theorem dX0_rivals_5 : decode cX0_rivals 5 = .ok (.aload_n 0, 1) := dk_42 (dk_at dksX0_rivals_0 5 rfl rfl)
theorem dX0_rivals_6 : decode cX0_rivals 6 = .ok (.iload_n 1, 1) := dk_27 (dk_at dksX0_rivals_0 6 rfl rfl)
theorem dX0_rivals_7 : decode cX0_rivals 7 = .ok (.invokevirtual 234, 3) := dk_182 0 234 (dk_at dksX0_rivals_0 7 rfl rfl)
theorem dX0_rivals_10 : decode cX0_rivals 10 = .ok (.ifCond .eq 23, 3) := dk_153 0 23 (dk_at dksX0_rivals_0 10 rfl rfl)
theorem dX0_rivals_13 : decode cX0_rivals 13 = .ok (.aload_n 0, 1) := dk_42 (dk_at dksX0_rivals_0 13 rfl rfl)
theorem dX0_rivals_14 : decode cX0_rivals 14 = .ok (.iload_n 2, 1) := dk_28 (dk_at dksX0_rivals_0 14 rfl rfl)
theorem dX0_rivals_15 : decode cX0_rivals 15 = .ok (.invokevirtual 234, 3) := dk_182 0 234 (dk_at dksX0_rivals_0 15 rfl rfl)
theorem dX0_rivals_18 : decode cX0_rivals 18 = .ok (.ifCond .eq 15, 3) := dk_153 0 15 (dk_at dksX0_rivals_0 18 rfl rfl)
theorem dX0_rivals_21 : decode cX0_rivals 21 = .ok (.iload_n 1, 1) := dk_27 (dk_at dksX0_rivals_0 21 rfl rfl)
theorem dX0_rivals_22 : decode cX0_rivals 22 = .ok (.iload_n 2, 1) := dk_28 (dk_at dksX0_rivals_0 22 rfl rfl)
theorem dX0_rivals_23 : decode cX0_rivals 23 = .ok (.if_icmp .eq 10, 3) := dk_159 0 10 (dk_at dksX0_rivals_1 0 rfl rfl)
theorem dX0_rivals_26 : decode cX0_rivals 26 = .ok (.aload_n 0, 1) := dk_42 (dk_at dksX0_rivals_1 3 rfl rfl)
theorem dX0_rivals_27 : decode cX0_rivals 27 = .ok (.invokevirtual 167, 3) := dk_182 0 167 (dk_at dksX0_rivals_1 4 rfl rfl)
theorem dX0_rivals_30 : decode cX0_rivals 30 = .ok (.ifCond .ne 5, 3) := dk_154 0 5 (dk_at dksX0_rivals_1 7 rfl rfl)
theorem dX0_rivals_33 : decode cX0_rivals 33 = .ok (.iconst (-1), 1) := dk_2 (dk_at dksX0_rivals_1 10 rfl rfl)
theorem dX0_rivals_34 : decode cX0_rivals 34 = .ok (.ireturn, 1) := dk_172 (dk_at dksX0_rivals_1 11 rfl rfl)
theorem dX0_rivals_35 : decode cX0_rivals 35 = .ok (.iconst 0, 1) := dk_3 (dk_at dksX0_rivals_1 12 rfl rfl)
theorem dX0_rivals_36 : decode cX0_rivals 36 = .ok (.istore_n 3, 1) := dk_62 (dk_at dksX0_rivals_1 13 rfl rfl)
theorem dX0_rivals_37 : decode cX0_rivals 37 = .ok (.iload_n 3, 1) := dk_29 (dk_at dksX0_rivals_1 14 rfl rfl)
theorem dX0_rivals_38 : decode cX0_rivals 38 = .ok (.aload_n 0, 1) := dk_42 (dk_at dksX0_rivals_1 15 rfl rfl)
theorem dX0_rivals_39 : decode cX0_rivals 39 = .ok (.invokevirtual 167, 3) := dk_182 0 167 (dk_at dksX0_rivals_1 16 rfl rfl)
theorem dX0_rivals_42 : decode cX0_rivals 42 = .ok (.if_icmp .ge 96, 3) := dk_162 0 96 (dk_at dksX0_rivals_1 19 rfl rfl)
theorem dX0_rivals_45 : decode cX0_rivals 45 = .ok (.iconst 0, 1) := dk_3 (dk_at dksX0_rivals_1 22 rfl rfl)
theorem dX0_rivals_46 : decode cX0_rivals 46 = .ok (.istore 4, 2) := dk_54 4 (dk_at dksX0_rivals_2 0 rfl rfl)
theorem dX0_rivals_48 : decode cX0_rivals 48 = .ok (.iload 4, 2) := dk_21 4 (dk_at dksX0_rivals_2 2 rfl rfl)
theorem dX0_rivals_50 : decode cX0_rivals 50 = .ok (.aload_n 0, 1) := dk_42 (dk_at dksX0_rivals_2 4 rfl rfl)
theorem dX0_rivals_51 : decode cX0_rivals 51 = .ok (.invokevirtual 167, 3) := dk_182 0 167 (dk_at dksX0_rivals_2 5 rfl rfl)
theorem dX0_rivals_54 : decode cX0_rivals 54 = .ok (.if_icmp .ge 78, 3) := dk_162 0 78 (dk_at dksX0_rivals_2 8 rfl rfl)
theorem dX0_rivals_57 : decode cX0_rivals 57 = .ok (.aload_n 0, 1) := dk_42 (dk_at dksX0_rivals_2 11 rfl rfl)
theorem dX0_rivals_58 : decode cX0_rivals 58 = .ok (.getfield 69, 3) := dk_180 0 69 (dk_at dksX0_rivals_2 12 rfl rfl)
theorem dX0_rivals_61 : decode cX0_rivals 61 = .ok (.iload_n 3, 1) := dk_29 (dk_at dksX0_rivals_2 15 rfl rfl)
theorem dX0_rivals_62 : decode cX0_rivals 62 = .ok (.aaload, 1) := dk_50 (dk_at dksX0_rivals_2 16 rfl rfl)
theorem dX0_rivals_63 : decode cX0_rivals 63 = .ok (.iload 4, 2) := dk_21 4 (dk_at dksX0_rivals_2 17 rfl rfl)
theorem dX0_rivals_65 : decode cX0_rivals 65 = .ok (.aload_n 0, 1) := dk_42 (dk_at dksX0_rivals_2 19 rfl rfl)
theorem dX0_rivals_66 : decode cX0_rivals 66 = .ok (.getfield 53, 3) := dk_180 0 53 (dk_at dksX0_rivals_2 20 rfl rfl)
theorem dX0_rivals_69 : decode cX0_rivals 69 = .ok (.aload_n 0, 1) := dk_42 (dk_at dksX0_rivals_2 23 rfl rfl)
theorem dX0_rivals_70 : decode cX0_rivals 70 = .ok (.getfield 42, 3) := dk_180 0 42 (dk_at dksX0_rivals_3 0 rfl rfl)
theorem dX0_rivals_73 : decode cX0_rivals 73 = .ok (.iload_n 1, 1) := dk_27 (dk_at dksX0_rivals_3 3 rfl rfl)
theorem dX0_rivals_74 : decode cX0_rivals 74 = .ok (.iload_n 3, 1) := dk_29 (dk_at dksX0_rivals_3 4 rfl rfl)
theorem dX0_rivals_75 : decode cX0_rivals 75 = .ok (.iload 4, 2) := dk_21 4 (dk_at dksX0_rivals_3 5 rfl rfl)
theorem dX0_rivals_77 : decode cX0_rivals 77 = .ok (.if_icmp .ne 7, 3) := dk_160 0 7 (dk_at dksX0_rivals_3 7 rfl rfl)
theorem dX0_rivals_80 : decode cX0_rivals 80 = .ok (.iconst 0, 1) := dk_3 (dk_at dksX0_rivals_3 10 rfl rfl)
theorem dX0_rivals_81 : decode cX0_rivals 81 = .ok (.goto 6, 3) := dk_167 0 6 (dk_at dksX0_rivals_3 11 rfl rfl)
theorem dX0_rivals_84 : decode cX0_rivals 84 = .ok (.iconst 1, 1) := dk_4 (dk_at dksX0_rivals_3 14 rfl rfl)
theorem dX0_rivals_85 : decode cX0_rivals 85 = .ok (.iload_n 3, 1) := dk_29 (dk_at dksX0_rivals_3 15 rfl rfl)
theorem dX0_rivals_86 : decode cX0_rivals 86 = .ok (.ishl, 1) := dk_120 (dk_at dksX0_rivals_3 16 rfl rfl)
theorem dX0_rivals_87 : decode cX0_rivals 87 = .ok (.invokevirtual 266, 3) := dk_182 1 10 (dk_at dksX0_rivals_3 17 rfl rfl)
theorem dX0_rivals_90 : decode cX0_rivals 90 = .ok (.iastore, 1) := dk_79 (dk_at dksX0_rivals_3 20 rfl rfl)
theorem dX0_rivals_91 : decode cX0_rivals 91 = .ok (.aload_n 0, 1) := dk_42 (dk_at dksX0_rivals_3 21 rfl rfl)
theorem dX0_rivals_92 : decode cX0_rivals 92 = .ok (.getfield 72, 3) := dk_180 0 72 (dk_at dksX0_rivals_4 0 rfl rfl)
theorem dX0_rivals_95 : decode cX0_rivals 95 = .ok (.iload_n 3, 1) := dk_29 (dk_at dksX0_rivals_4 3 rfl rfl)
theorem dX0_rivals_96 : decode cX0_rivals 96 = .ok (.aaload, 1) := dk_50 (dk_at dksX0_rivals_4 4 rfl rfl)
theorem dX0_rivals_97 : decode cX0_rivals 97 = .ok (.iload 4, 2) := dk_21 4 (dk_at dksX0_rivals_4 5 rfl rfl)
theorem dX0_rivals_99 : decode cX0_rivals 99 = .ok (.aload_n 0, 1) := dk_42 (dk_at dksX0_rivals_4 7 rfl rfl)
theorem dX0_rivals_100 : decode cX0_rivals 100 = .ok (.getfield 53, 3) := dk_180 0 53 (dk_at dksX0_rivals_4 8 rfl rfl)
theorem dX0_rivals_103 : decode cX0_rivals 103 = .ok (.aload_n 0, 1) := dk_42 (dk_at dksX0_rivals_4 11 rfl rfl)
theorem dX0_rivals_104 : decode cX0_rivals 104 = .ok (.getfield 42, 3) := dk_180 0 42 (dk_at dksX0_rivals_4 12 rfl rfl)
theorem dX0_rivals_107 : decode cX0_rivals 107 = .ok (.iload_n 2, 1) := dk_28 (dk_at dksX0_rivals_4 15 rfl rfl)
theorem dX0_rivals_108 : decode cX0_rivals 108 = .ok (.iload_n 3, 1) := dk_29 (dk_at dksX0_rivals_4 16 rfl rfl)
theorem dX0_rivals_109 : decode cX0_rivals 109 = .ok (.iload 4, 2) := dk_21 4 (dk_at dksX0_rivals_4 17 rfl rfl)
theorem dX0_rivals_111 : decode cX0_rivals 111 = .ok (.if_icmp .ne 7, 3) := dk_160 0 7 (dk_at dksX0_rivals_4 19 rfl rfl)
theorem dX0_rivals_114 : decode cX0_rivals 114 = .ok (.iconst 0, 1) := dk_3 (dk_at dksX0_rivals_4 22 rfl rfl)
theorem dX0_rivals_115 : decode cX0_rivals 115 = .ok (.goto 7, 3) := dk_167 0 7 (dk_at dksX0_rivals_5 0 rfl rfl)
theorem dX0_rivals_118 : decode cX0_rivals 118 = .ok (.iconst 1, 1) := dk_4 (dk_at dksX0_rivals_5 3 rfl rfl)
theorem dX0_rivals_119 : decode cX0_rivals 119 = .ok (.iload 4, 2) := dk_21 4 (dk_at dksX0_rivals_5 4 rfl rfl)
theorem dX0_rivals_121 : decode cX0_rivals 121 = .ok (.ishl, 1) := dk_120 (dk_at dksX0_rivals_5 6 rfl rfl)
theorem dX0_rivals_122 : decode cX0_rivals 122 = .ok (.invokevirtual 266, 3) := dk_182 1 10 (dk_at dksX0_rivals_5 7 rfl rfl)
theorem dX0_rivals_125 : decode cX0_rivals 125 = .ok (.iastore, 1) := dk_79 (dk_at dksX0_rivals_5 10 rfl rfl)
theorem dX0_rivals_126 : decode cX0_rivals 126 = .ok (.iinc 4 1, 3) := dk_132 4 1 (dk_at dksX0_rivals_5 11 rfl rfl)
theorem dX0_rivals_129 : decode cX0_rivals 129 = .ok (.goto (-81), 3) := dk_167 255 175 (dk_at dksX0_rivals_5 14 rfl rfl)
theorem dX0_rivals_132 : decode cX0_rivals 132 = .ok (.iinc 3 1, 3) := dk_132 3 1 (dk_at dksX0_rivals_5 17 rfl rfl)
theorem dX0_rivals_135 : decode cX0_rivals 135 = .ok (.goto (-98), 3) := dk_167 255 158 (dk_at dksX0_rivals_5 20 rfl rfl)
theorem dX0_rivals_138 : decode cX0_rivals 138 = .ok (.iconst 0, 1) := dk_3 (dk_at dksX0_rivals_5 23 rfl rfl)
theorem dX0_rivals_139 : decode cX0_rivals 139 = .ok (.istore_n 3, 1) := dk_62 (dk_at dksX0_rivals_6 0 rfl rfl)
theorem dX0_rivals_140 : decode cX0_rivals 140 = .ok (.aload_n 0, 1) := dk_42 (dk_at dksX0_rivals_6 1 rfl rfl)
theorem dX0_rivals_141 : decode cX0_rivals 141 = .ok (.invokevirtual 167, 3) := dk_182 0 167 (dk_at dksX0_rivals_6 2 rfl rfl)
theorem dX0_rivals_144 : decode cX0_rivals 144 = .ok (.iconst 1, 1) := dk_4 (dk_at dksX0_rivals_6 5 rfl rfl)
theorem dX0_rivals_145 : decode cX0_rivals 145 = .ok (.isub, 1) := dk_100 (dk_at dksX0_rivals_6 6 rfl rfl)
theorem dX0_rivals_146 : decode cX0_rivals 146 = .ok (.istore 4, 2) := dk_54 4 (dk_at dksX0_rivals_6 7 rfl rfl)
theorem dX0_rivals_148 : decode cX0_rivals 148 = .ok (.iload 4, 2) := dk_21 4 (dk_at dksX0_rivals_6 9 rfl rfl)
theorem dX0_rivals_150 : decode cX0_rivals 150 = .ok (.ifCond .lt 61, 3) := dk_155 0 61 (dk_at dksX0_rivals_6 11 rfl rfl)
theorem dX0_rivals_153 : decode cX0_rivals 153 = .ok (.aload_n 0, 1) := dk_42 (dk_at dksX0_rivals_6 14 rfl rfl)
theorem dX0_rivals_154 : decode cX0_rivals 154 = .ok (.invokevirtual 167, 3) := dk_182 0 167 (dk_at dksX0_rivals_6 15 rfl rfl)
theorem dX0_rivals_157 : decode cX0_rivals 157 = .ok (.iconst 1, 1) := dk_4 (dk_at dksX0_rivals_6 18 rfl rfl)
theorem dX0_rivals_158 : decode cX0_rivals 158 = .ok (.isub, 1) := dk_100 (dk_at dksX0_rivals_6 19 rfl rfl)
theorem dX0_rivals_159 : decode cX0_rivals 159 = .ok (.istore 5, 2) := dk_54 5 (dk_at dksX0_rivals_6 20 rfl rfl)
theorem dX0_rivals_161 : decode cX0_rivals 161 = .ok (.iload 5, 2) := dk_21 5 (dk_at dksX0_rivals_6 22 rfl rfl)
theorem dX0_rivals_163 : decode cX0_rivals 163 = .ok (.ifCond .lt 42, 3) := dk_155 0 42 (dk_at dksX0_rivals_7 0 rfl rfl)
theorem dX0_rivals_166 : decode cX0_rivals 166 = .ok (.aload_n 0, 1) := dk_42 (dk_at dksX0_rivals_7 3 rfl rfl)
theorem dX0_rivals_167 : decode cX0_rivals 167 = .ok (.iload 4, 2) := dk_21 4 (dk_at dksX0_rivals_7 4 rfl rfl)
theorem dX0_rivals_169 : decode cX0_rivals 169 = .ok (.iload 5, 2) := dk_21 5 (dk_at dksX0_rivals_7 6 rfl rfl)
theorem dX0_rivals_171 : decode cX0_rivals 171 = .ok (.invokevirtual 290, 3) := dk_182 1 34 (dk_at dksX0_rivals_7 8 rfl rfl)
theorem dX0_rivals_174 : decode cX0_rivals 174 = .ok (.ifCond .ne 6, 3) := dk_154 0 6 (dk_at dksX0_rivals_7 11 rfl rfl)
theorem dX0_rivals_177 : decode cX0_rivals 177 = .ok (.goto 22, 3) := dk_167 0 22 (dk_at dksX0_rivals_7 14 rfl rfl)
theorem dX0_rivals_180 : decode cX0_rivals 180 = .ok (.iinc 3 1, 3) := dk_132 3 1 (dk_at dksX0_rivals_7 17 rfl rfl)
theorem dX0_rivals_183 : decode cX0_rivals 183 = .ok (.aload_n 0, 1) := dk_42 (dk_at dksX0_rivals_7 20 rfl rfl)
theorem dX0_rivals_184 : decode cX0_rivals 184 = .ok (.getfield 75, 3) := dk_180 0 75 (dk_at dksX0_rivals_7 21 rfl rfl)
theorem dX0_rivals_187 : decode cX0_rivals 187 = .ok (.iconst 0, 1) := dk_3 (dk_at dksX0_rivals_8 0 rfl rfl)
theorem dX0_rivals_188 : decode cX0_rivals 188 = .ok (.iload 4, 2) := dk_21 4 (dk_at dksX0_rivals_8 1 rfl rfl)
theorem dX0_rivals_190 : decode cX0_rivals 190 = .ok (.iastore, 1) := dk_79 (dk_at dksX0_rivals_8 3 rfl rfl)
theorem dX0_rivals_191 : decode cX0_rivals 191 = .ok (.aload_n 0, 1) := dk_42 (dk_at dksX0_rivals_8 4 rfl rfl)
theorem dX0_rivals_192 : decode cX0_rivals 192 = .ok (.getfield 75, 3) := dk_180 0 75 (dk_at dksX0_rivals_8 5 rfl rfl)
theorem dX0_rivals_195 : decode cX0_rivals 195 = .ok (.iconst 1, 1) := dk_4 (dk_at dksX0_rivals_8 8 rfl rfl)
theorem dX0_rivals_196 : decode cX0_rivals 196 = .ok (.iload 5, 2) := dk_21 5 (dk_at dksX0_rivals_8 9 rfl rfl)
theorem dX0_rivals_198 : decode cX0_rivals 198 = .ok (.iastore, 1) := dk_79 (dk_at dksX0_rivals_8 11 rfl rfl)
theorem dX0_rivals_199 : decode cX0_rivals 199 = .ok (.iinc 5 (-1), 3) := dk_132 5 255 (dk_at dksX0_rivals_8 12 rfl rfl)
theorem dX0_rivals_202 : decode cX0_rivals 202 = .ok (.goto (-41), 3) := dk_167 255 215 (dk_at dksX0_rivals_8 15 rfl rfl)
theorem dX0_rivals_205 : decode cX0_rivals 205 = .ok (.iinc 4 (-1), 3) := dk_132 4 255 (dk_at dksX0_rivals_8 18 rfl rfl)
theorem dX0_rivals_208 : decode cX0_rivals 208 = .ok (.goto (-60), 3) := dk_167 255 196 (dk_at dksX0_rivals_8 21 rfl rfl)
theorem dX0_rivals_211 : decode cX0_rivals 211 = .ok (.aload_n 0, 1) := dk_42 (dk_at dksX0_rivals_9 0 rfl rfl)
theorem dX0_rivals_212 : decode cX0_rivals 212 = .ok (.iload_n 3, 1) := dk_29 (dk_at dksX0_rivals_9 1 rfl rfl)
theorem dX0_rivals_213 : decode cX0_rivals 213 = .ok (.ifCond .ne 7, 3) := dk_154 0 7 (dk_at dksX0_rivals_9 2 rfl rfl)
theorem dX0_rivals_216 : decode cX0_rivals 216 = .ok (.iconst 0, 1) := dk_3 (dk_at dksX0_rivals_9 5 rfl rfl)
theorem dX0_rivals_217 : decode cX0_rivals 217 = .ok (.goto 4, 3) := dk_167 0 4 (dk_at dksX0_rivals_9 6 rfl rfl)
theorem dX0_rivals_220 : decode cX0_rivals 220 = .ok (.iconst 2, 1) := dk_5 (dk_at dksX0_rivals_9 9 rfl rfl)
theorem dX0_rivals_221 : decode cX0_rivals 221 = .ok (.putfield 123, 3) := dk_181 0 123 (dk_at dksX0_rivals_9 10 rfl rfl)
theorem dX0_rivals_224 : decode cX0_rivals 224 = .ok (.iload_n 3, 1) := dk_29 (dk_at dksX0_rivals_9 13 rfl rfl)
theorem dX0_rivals_225 : decode cX0_rivals 225 = .ok (.ireturn, 1) := dk_172 (dk_at dksX0_rivals_9 14 rfl rfl)
abbrev cX0_rests : ByteArray := prog_1_method_50_code
def yX0_rests : MethodName := ⟨RX0, "rests", "(II)Z"⟩
def dkwX0_rests_2 : List UInt8 := [180, 0, 72, 27, 50, 28, 46, 163, 0, 7, 4, 167, 0, 4, 3, 62, 132, 4, 1, 167, 255, 194, 29, 172]
abbrev dktX0_rests_2 : List UInt8 := dkwX0_rests_2 ++ []
def dkwX0_rests_1 : List UInt8 := [50, 28, 46, 42, 180, 0, 69, 27, 50, 28, 46, 163, 0, 27, 42, 180, 0, 72, 27, 50, 21, 4, 46, 42]
abbrev dktX0_rests_1 : List UInt8 := dkwX0_rests_1 ++ dktX0_rests_2
def dkwX0_rests_0 : List UInt8 := [4, 62, 3, 54, 4, 21, 4, 42, 182, 0, 167, 162, 0, 59, 29, 153, 0, 47, 42, 180, 0, 69, 21, 4]
abbrev dktX0_rests_0 : List UInt8 := dkwX0_rests_0 ++ dktX0_rests_1
theorem dksX0_rests_0 : cX0_rests.data.toList.drop 0 = dktX0_rests_0 := by decide +kernel
theorem dksX0_rests_1 : cX0_rests.data.toList.drop 24 = dktX0_rests_1 := dk_seg dksX0_rests_0 24 rfl rfl
theorem dksX0_rests_2 : cX0_rests.data.toList.drop 48 = dktX0_rests_2 := dk_seg dksX0_rests_1 24 rfl rfl
theorem dX0_rests_0 : decode cX0_rests 0 = .ok (.iconst 1, 1) := dk_4 (dk_at dksX0_rests_0 0 rfl rfl)
theorem dX0_rests_1 : decode cX0_rests 1 = .ok (.istore_n 3, 1) := dk_62 (dk_at dksX0_rests_0 1 rfl rfl)
theorem dX0_rests_2 : decode cX0_rests 2 = .ok (.iconst 0, 1) := dk_3 (dk_at dksX0_rests_0 2 rfl rfl)
theorem dX0_rests_3 : decode cX0_rests 3 = .ok (.istore 4, 2) := dk_54 4 (dk_at dksX0_rests_0 3 rfl rfl)
theorem dX0_rests_5 : decode cX0_rests 5 = .ok (.iload 4, 2) := dk_21 4 (dk_at dksX0_rests_0 5 rfl rfl)
theorem dX0_rests_7 : decode cX0_rests 7 = .ok (.aload_n 0, 1) := dk_42 (dk_at dksX0_rests_0 7 rfl rfl)
theorem dX0_rests_8 : decode cX0_rests 8 = .ok (.invokevirtual 167, 3) := dk_182 0 167 (dk_at dksX0_rests_0 8 rfl rfl)
theorem dX0_rests_11 : decode cX0_rests 11 = .ok (.if_icmp .ge 59, 3) := dk_162 0 59 (dk_at dksX0_rests_0 11 rfl rfl)
theorem dX0_rests_14 : decode cX0_rests 14 = .ok (.iload_n 3, 1) := dk_29 (dk_at dksX0_rests_0 14 rfl rfl)
theorem dX0_rests_15 : decode cX0_rests 15 = .ok (.ifCond .eq 47, 3) := dk_153 0 47 (dk_at dksX0_rests_0 15 rfl rfl)
theorem dX0_rests_18 : decode cX0_rests 18 = .ok (.aload_n 0, 1) := dk_42 (dk_at dksX0_rests_0 18 rfl rfl)
theorem dX0_rests_19 : decode cX0_rests 19 = .ok (.getfield 69, 3) := dk_180 0 69 (dk_at dksX0_rests_0 19 rfl rfl)
theorem dX0_rests_22 : decode cX0_rests 22 = .ok (.iload 4, 2) := dk_21 4 (dk_at dksX0_rests_0 22 rfl rfl)
theorem dX0_rests_24 : decode cX0_rests 24 = .ok (.aaload, 1) := dk_50 (dk_at dksX0_rests_1 0 rfl rfl)
theorem dX0_rests_25 : decode cX0_rests 25 = .ok (.iload_n 2, 1) := dk_28 (dk_at dksX0_rests_1 1 rfl rfl)
theorem dX0_rests_26 : decode cX0_rests 26 = .ok (.iaload, 1) := dk_46 (dk_at dksX0_rests_1 2 rfl rfl)
theorem dX0_rests_27 : decode cX0_rests 27 = .ok (.aload_n 0, 1) := dk_42 (dk_at dksX0_rests_1 3 rfl rfl)
theorem dX0_rests_28 : decode cX0_rests 28 = .ok (.getfield 69, 3) := dk_180 0 69 (dk_at dksX0_rests_1 4 rfl rfl)
theorem dX0_rests_31 : decode cX0_rests 31 = .ok (.iload_n 1, 1) := dk_27 (dk_at dksX0_rests_1 7 rfl rfl)
theorem dX0_rests_32 : decode cX0_rests 32 = .ok (.aaload, 1) := dk_50 (dk_at dksX0_rests_1 8 rfl rfl)
theorem dX0_rests_33 : decode cX0_rests 33 = .ok (.iload_n 2, 1) := dk_28 (dk_at dksX0_rests_1 9 rfl rfl)
theorem dX0_rests_34 : decode cX0_rests 34 = .ok (.iaload, 1) := dk_46 (dk_at dksX0_rests_1 10 rfl rfl)
theorem dX0_rests_35 : decode cX0_rests 35 = .ok (.if_icmp .gt 27, 3) := dk_163 0 27 (dk_at dksX0_rests_1 11 rfl rfl)
theorem dX0_rests_38 : decode cX0_rests 38 = .ok (.aload_n 0, 1) := dk_42 (dk_at dksX0_rests_1 14 rfl rfl)
theorem dX0_rests_39 : decode cX0_rests 39 = .ok (.getfield 72, 3) := dk_180 0 72 (dk_at dksX0_rests_1 15 rfl rfl)
theorem dX0_rests_42 : decode cX0_rests 42 = .ok (.iload_n 1, 1) := dk_27 (dk_at dksX0_rests_1 18 rfl rfl)
theorem dX0_rests_43 : decode cX0_rests 43 = .ok (.aaload, 1) := dk_50 (dk_at dksX0_rests_1 19 rfl rfl)
theorem dX0_rests_44 : decode cX0_rests 44 = .ok (.iload 4, 2) := dk_21 4 (dk_at dksX0_rests_1 20 rfl rfl)
theorem dX0_rests_46 : decode cX0_rests 46 = .ok (.iaload, 1) := dk_46 (dk_at dksX0_rests_1 22 rfl rfl)
theorem dX0_rests_47 : decode cX0_rests 47 = .ok (.aload_n 0, 1) := dk_42 (dk_at dksX0_rests_1 23 rfl rfl)
theorem dX0_rests_48 : decode cX0_rests 48 = .ok (.getfield 72, 3) := dk_180 0 72 (dk_at dksX0_rests_2 0 rfl rfl)
theorem dX0_rests_51 : decode cX0_rests 51 = .ok (.iload_n 1, 1) := dk_27 (dk_at dksX0_rests_2 3 rfl rfl)
theorem dX0_rests_52 : decode cX0_rests 52 = .ok (.aaload, 1) := dk_50 (dk_at dksX0_rests_2 4 rfl rfl)
theorem dX0_rests_53 : decode cX0_rests 53 = .ok (.iload_n 2, 1) := dk_28 (dk_at dksX0_rests_2 5 rfl rfl)
theorem dX0_rests_54 : decode cX0_rests 54 = .ok (.iaload, 1) := dk_46 (dk_at dksX0_rests_2 6 rfl rfl)
theorem dX0_rests_55 : decode cX0_rests 55 = .ok (.if_icmp .gt 7, 3) := dk_163 0 7 (dk_at dksX0_rests_2 7 rfl rfl)
theorem dX0_rests_58 : decode cX0_rests 58 = .ok (.iconst 1, 1) := dk_4 (dk_at dksX0_rests_2 10 rfl rfl)
theorem dX0_rests_59 : decode cX0_rests 59 = .ok (.goto 4, 3) := dk_167 0 4 (dk_at dksX0_rests_2 11 rfl rfl)
theorem dX0_rests_62 : decode cX0_rests 62 = .ok (.iconst 0, 1) := dk_3 (dk_at dksX0_rests_2 14 rfl rfl)
theorem dX0_rests_63 : decode cX0_rests 63 = .ok (.istore_n 3, 1) := dk_62 (dk_at dksX0_rests_2 15 rfl rfl)
theorem dX0_rests_64 : decode cX0_rests 64 = .ok (.iinc 4 1, 3) := dk_132 4 1 (dk_at dksX0_rests_2 16 rfl rfl)
theorem dX0_rests_67 : decode cX0_rests 67 = .ok (.goto (-62), 3) := dk_167 255 194 (dk_at dksX0_rests_2 19 rfl rfl)
theorem dX0_rests_70 : decode cX0_rests 70 = .ok (.iload_n 3, 1) := dk_29 (dk_at dksX0_rests_2 22 rfl rfl)
theorem dX0_rests_71 : decode cX0_rests 71 = .ok (.ireturn, 1) := dk_172 (dk_at dksX0_rests_2 23 rfl rfl)
abbrev cX0_way : ByteArray := prog_1_method_53_code
def yX0_way : MethodName := ⟨RX0, "way", "(I)I"⟩
def dkwX0_way_5 : List UInt8 := [21, 5, 62, 132, 4, 1, 167, 255, 197, 42, 28, 4, 96, 181, 0, 123, 28, 172]
abbrev dktX0_way_5 : List UInt8 := dkwX0_way_5 ++ []
def dkwX0_way_4 : List UInt8 := [46, 28, 21, 4, 100, 159, 0, 9, 132, 5, 1, 167, 255, 224, 42, 180, 0, 75, 21, 4, 21, 5, 79]
abbrev dktX0_way_4 : List UInt8 := dkwX0_way_4 ++ dktX0_way_5
def dkwX0_way_3 : List UInt8 := [3, 54, 5, 42, 180, 0, 82, 29, 50, 21, 5, 46, 4, 160, 0, 19, 42, 180, 0, 82, 21, 5, 50, 27]
abbrev dktX0_way_3 : List UInt8 := dkwX0_way_3 ++ dktX0_way_4
def dkwX0_way_2 : List UInt8 := [19, 1, 37, 161, 0, 5, 2, 172, 42, 180, 0, 75, 3, 29, 79, 4, 54, 4, 21, 4, 28, 163, 0, 59]
abbrev dktX0_way_2 : List UInt8 := dkwX0_way_2 ++ dktX0_way_3
def dkwX0_way_1 : List UInt8 := [180, 0, 82, 42, 180, 0, 53, 180, 0, 220, 50, 27, 46, 61, 42, 180, 0, 53, 180, 0, 220, 62, 28]
abbrev dktX0_way_1 : List UInt8 := dkwX0_way_1 ++ dktX0_way_2
def dkwX0_way_0 : List UInt8 := [42, 3, 181, 0, 123, 42, 27, 182, 0, 171, 154, 0, 5, 2, 172, 42, 42, 180, 0, 53, 182, 1, 51, 42]
abbrev dktX0_way_0 : List UInt8 := dkwX0_way_0 ++ dktX0_way_1
theorem dksX0_way_0 : cX0_way.data.toList.drop 0 = dktX0_way_0 := by decide +kernel
theorem dksX0_way_1 : cX0_way.data.toList.drop 24 = dktX0_way_1 := dk_seg dksX0_way_0 24 rfl rfl
theorem dksX0_way_2 : cX0_way.data.toList.drop 47 = dktX0_way_2 := dk_seg dksX0_way_1 23 rfl rfl
theorem dksX0_way_3 : cX0_way.data.toList.drop 71 = dktX0_way_3 := dk_seg dksX0_way_2 24 rfl rfl
theorem dksX0_way_4 : cX0_way.data.toList.drop 95 = dktX0_way_4 := dk_seg dksX0_way_3 24 rfl rfl
theorem dksX0_way_5 : cX0_way.data.toList.drop 118 = dktX0_way_5 := dk_seg dksX0_way_4 23 rfl rfl
theorem dX0_way_0 : decode cX0_way 0 = .ok (.aload_n 0, 1) := dk_42 (dk_at dksX0_way_0 0 rfl rfl)
theorem dX0_way_1 : decode cX0_way 1 = .ok (.iconst 0, 1) := dk_3 (dk_at dksX0_way_0 1 rfl rfl)
theorem dX0_way_2 : decode cX0_way 2 = .ok (.putfield 123, 3) := dk_181 0 123 (dk_at dksX0_way_0 2 rfl rfl)
theorem dX0_way_5 : decode cX0_way 5 = .ok (.aload_n 0, 1) := dk_42 (dk_at dksX0_way_0 5 rfl rfl)
theorem dX0_way_6 : decode cX0_way 6 = .ok (.iload_n 1, 1) := dk_27 (dk_at dksX0_way_0 6 rfl rfl)
theorem dX0_way_7 : decode cX0_way 7 = .ok (.invokevirtual 171, 3) := dk_182 0 171 (dk_at dksX0_way_0 7 rfl rfl)
theorem dX0_way_10 : decode cX0_way 10 = .ok (.ifCond .ne 5, 3) := dk_154 0 5 (dk_at dksX0_way_0 10 rfl rfl)
theorem dX0_way_13 : decode cX0_way 13 = .ok (.iconst (-1), 1) := dk_2 (dk_at dksX0_way_0 13 rfl rfl)
theorem dX0_way_14 : decode cX0_way 14 = .ok (.ireturn, 1) := dk_172 (dk_at dksX0_way_0 14 rfl rfl)
theorem dX0_way_15 : decode cX0_way 15 = .ok (.aload_n 0, 1) := dk_42 (dk_at dksX0_way_0 15 rfl rfl)
theorem dX0_way_16 : decode cX0_way 16 = .ok (.aload_n 0, 1) := dk_42 (dk_at dksX0_way_0 16 rfl rfl)
theorem dX0_way_17 : decode cX0_way 17 = .ok (.getfield 53, 3) := dk_180 0 53 (dk_at dksX0_way_0 17 rfl rfl)
theorem dX0_way_20 : decode cX0_way 20 = .ok (.invokevirtual 307, 3) := dk_182 1 51 (dk_at dksX0_way_0 20 rfl rfl)
theorem dX0_way_23 : decode cX0_way 23 = .ok (.aload_n 0, 1) := dk_42 (dk_at dksX0_way_0 23 rfl rfl)
theorem dX0_way_24 : decode cX0_way 24 = .ok (.getfield 82, 3) := dk_180 0 82 (dk_at dksX0_way_1 0 rfl rfl)
theorem dX0_way_27 : decode cX0_way 27 = .ok (.aload_n 0, 1) := dk_42 (dk_at dksX0_way_1 3 rfl rfl)
theorem dX0_way_28 : decode cX0_way 28 = .ok (.getfield 53, 3) := dk_180 0 53 (dk_at dksX0_way_1 4 rfl rfl)
theorem dX0_way_31 : decode cX0_way 31 = .ok (.getfield 220, 3) := dk_180 0 220 (dk_at dksX0_way_1 7 rfl rfl)
theorem dX0_way_34 : decode cX0_way 34 = .ok (.aaload, 1) := dk_50 (dk_at dksX0_way_1 10 rfl rfl)
theorem dX0_way_35 : decode cX0_way 35 = .ok (.iload_n 1, 1) := dk_27 (dk_at dksX0_way_1 11 rfl rfl)
theorem dX0_way_36 : decode cX0_way 36 = .ok (.iaload, 1) := dk_46 (dk_at dksX0_way_1 12 rfl rfl)
theorem dX0_way_37 : decode cX0_way 37 = .ok (.istore_n 2, 1) := dk_61 (dk_at dksX0_way_1 13 rfl rfl)
theorem dX0_way_38 : decode cX0_way 38 = .ok (.aload_n 0, 1) := dk_42 (dk_at dksX0_way_1 14 rfl rfl)
theorem dX0_way_39 : decode cX0_way 39 = .ok (.getfield 53, 3) := dk_180 0 53 (dk_at dksX0_way_1 15 rfl rfl)
theorem dX0_way_42 : decode cX0_way 42 = .ok (.getfield 220, 3) := dk_180 0 220 (dk_at dksX0_way_1 18 rfl rfl)
theorem dX0_way_45 : decode cX0_way 45 = .ok (.istore_n 3, 1) := dk_62 (dk_at dksX0_way_1 21 rfl rfl)
theorem dX0_way_46 : decode cX0_way 46 = .ok (.iload_n 2, 1) := dk_28 (dk_at dksX0_way_1 22 rfl rfl)
theorem dX0_way_47 : decode cX0_way 47 = .ok (.ldc_w 293, 3) := dk_19 1 37 (dk_at dksX0_way_2 0 rfl rfl)
theorem dX0_way_50 : decode cX0_way 50 = .ok (.if_icmp .lt 5, 3) := dk_161 0 5 (dk_at dksX0_way_2 3 rfl rfl)
theorem dX0_way_53 : decode cX0_way 53 = .ok (.iconst (-1), 1) := dk_2 (dk_at dksX0_way_2 6 rfl rfl)
theorem dX0_way_54 : decode cX0_way 54 = .ok (.ireturn, 1) := dk_172 (dk_at dksX0_way_2 7 rfl rfl)
theorem dX0_way_55 : decode cX0_way 55 = .ok (.aload_n 0, 1) := dk_42 (dk_at dksX0_way_2 8 rfl rfl)
theorem dX0_way_56 : decode cX0_way 56 = .ok (.getfield 75, 3) := dk_180 0 75 (dk_at dksX0_way_2 9 rfl rfl)
theorem dX0_way_59 : decode cX0_way 59 = .ok (.iconst 0, 1) := dk_3 (dk_at dksX0_way_2 12 rfl rfl)
theorem dX0_way_60 : decode cX0_way 60 = .ok (.iload_n 3, 1) := dk_29 (dk_at dksX0_way_2 13 rfl rfl)
theorem dX0_way_61 : decode cX0_way 61 = .ok (.iastore, 1) := dk_79 (dk_at dksX0_way_2 14 rfl rfl)
theorem dX0_way_62 : decode cX0_way 62 = .ok (.iconst 1, 1) := dk_4 (dk_at dksX0_way_2 15 rfl rfl)
theorem dX0_way_63 : decode cX0_way 63 = .ok (.istore 4, 2) := dk_54 4 (dk_at dksX0_way_2 16 rfl rfl)
theorem dX0_way_65 : decode cX0_way 65 = .ok (.iload 4, 2) := dk_21 4 (dk_at dksX0_way_2 18 rfl rfl)
theorem dX0_way_67 : decode cX0_way 67 = .ok (.iload_n 2, 1) := dk_28 (dk_at dksX0_way_2 20 rfl rfl)
theorem dX0_way_68 : decode cX0_way 68 = .ok (.if_icmp .gt 59, 3) := dk_163 0 59 (dk_at dksX0_way_2 21 rfl rfl)
theorem dX0_way_71 : decode cX0_way 71 = .ok (.iconst 0, 1) := dk_3 (dk_at dksX0_way_3 0 rfl rfl)
theorem dX0_way_72 : decode cX0_way 72 = .ok (.istore 5, 2) := dk_54 5 (dk_at dksX0_way_3 1 rfl rfl)
theorem dX0_way_74 : decode cX0_way 74 = .ok (.aload_n 0, 1) := dk_42 (dk_at dksX0_way_3 3 rfl rfl)
theorem dX0_way_75 : decode cX0_way 75 = .ok (.getfield 82, 3) := dk_180 0 82 (dk_at dksX0_way_3 4 rfl rfl)
theorem dX0_way_78 : decode cX0_way 78 = .ok (.iload_n 3, 1) := dk_29 (dk_at dksX0_way_3 7 rfl rfl)
theorem dX0_way_79 : decode cX0_way 79 = .ok (.aaload, 1) := dk_50 (dk_at dksX0_way_3 8 rfl rfl)
theorem dX0_way_80 : decode cX0_way 80 = .ok (.iload 5, 2) := dk_21 5 (dk_at dksX0_way_3 9 rfl rfl)
theorem dX0_way_82 : decode cX0_way 82 = .ok (.iaload, 1) := dk_46 (dk_at dksX0_way_3 11 rfl rfl)
theorem dX0_way_83 : decode cX0_way 83 = .ok (.iconst 1, 1) := dk_4 (dk_at dksX0_way_3 12 rfl rfl)
theorem dX0_way_84 : decode cX0_way 84 = .ok (.if_icmp .ne 19, 3) := dk_160 0 19 (dk_at dksX0_way_3 13 rfl rfl)
theorem dX0_way_87 : decode cX0_way 87 = .ok (.aload_n 0, 1) := dk_42 (dk_at dksX0_way_3 16 rfl rfl)
theorem dX0_way_88 : decode cX0_way 88 = .ok (.getfield 82, 3) := dk_180 0 82 (dk_at dksX0_way_3 17 rfl rfl)
theorem dX0_way_91 : decode cX0_way 91 = .ok (.iload 5, 2) := dk_21 5 (dk_at dksX0_way_3 20 rfl rfl)
theorem dX0_way_93 : decode cX0_way 93 = .ok (.aaload, 1) := dk_50 (dk_at dksX0_way_3 22 rfl rfl)
theorem dX0_way_94 : decode cX0_way 94 = .ok (.iload_n 1, 1) := dk_27 (dk_at dksX0_way_3 23 rfl rfl)
theorem dX0_way_95 : decode cX0_way 95 = .ok (.iaload, 1) := dk_46 (dk_at dksX0_way_4 0 rfl rfl)
theorem dX0_way_96 : decode cX0_way 96 = .ok (.iload_n 2, 1) := dk_28 (dk_at dksX0_way_4 1 rfl rfl)
theorem dX0_way_97 : decode cX0_way 97 = .ok (.iload 4, 2) := dk_21 4 (dk_at dksX0_way_4 2 rfl rfl)
theorem dX0_way_99 : decode cX0_way 99 = .ok (.isub, 1) := dk_100 (dk_at dksX0_way_4 4 rfl rfl)
theorem dX0_way_100 : decode cX0_way 100 = .ok (.if_icmp .eq 9, 3) := dk_159 0 9 (dk_at dksX0_way_4 5 rfl rfl)
theorem dX0_way_103 : decode cX0_way 103 = .ok (.iinc 5 1, 3) := dk_132 5 1 (dk_at dksX0_way_4 8 rfl rfl)
theorem dX0_way_106 : decode cX0_way 106 = .ok (.goto (-32), 3) := dk_167 255 224 (dk_at dksX0_way_4 11 rfl rfl)
theorem dX0_way_109 : decode cX0_way 109 = .ok (.aload_n 0, 1) := dk_42 (dk_at dksX0_way_4 14 rfl rfl)
theorem dX0_way_110 : decode cX0_way 110 = .ok (.getfield 75, 3) := dk_180 0 75 (dk_at dksX0_way_4 15 rfl rfl)
theorem dX0_way_113 : decode cX0_way 113 = .ok (.iload 4, 2) := dk_21 4 (dk_at dksX0_way_4 18 rfl rfl)
theorem dX0_way_115 : decode cX0_way 115 = .ok (.iload 5, 2) := dk_21 5 (dk_at dksX0_way_4 20 rfl rfl)
theorem dX0_way_117 : decode cX0_way 117 = .ok (.iastore, 1) := dk_79 (dk_at dksX0_way_4 22 rfl rfl)
theorem dX0_way_118 : decode cX0_way 118 = .ok (.iload 5, 2) := dk_21 5 (dk_at dksX0_way_5 0 rfl rfl)
theorem dX0_way_120 : decode cX0_way 120 = .ok (.istore_n 3, 1) := dk_62 (dk_at dksX0_way_5 2 rfl rfl)
theorem dX0_way_121 : decode cX0_way 121 = .ok (.iinc 4 1, 3) := dk_132 4 1 (dk_at dksX0_way_5 3 rfl rfl)
theorem dX0_way_124 : decode cX0_way 124 = .ok (.goto (-59), 3) := dk_167 255 197 (dk_at dksX0_way_5 6 rfl rfl)
theorem dX0_way_127 : decode cX0_way 127 = .ok (.aload_n 0, 1) := dk_42 (dk_at dksX0_way_5 9 rfl rfl)
theorem dX0_way_128 : decode cX0_way 128 = .ok (.iload_n 2, 1) := dk_28 (dk_at dksX0_way_5 10 rfl rfl)
theorem dX0_way_129 : decode cX0_way 129 = .ok (.iconst 1, 1) := dk_4 (dk_at dksX0_way_5 11 rfl rfl)
theorem dX0_way_130 : decode cX0_way 130 = .ok (.iadd, 1) := dk_96 (dk_at dksX0_way_5 12 rfl rfl)
theorem dX0_way_131 : decode cX0_way 131 = .ok (.putfield 123, 3) := dk_181 0 123 (dk_at dksX0_way_5 13 rfl rfl)
theorem dX0_way_134 : decode cX0_way 134 = .ok (.iload_n 2, 1) := dk_28 (dk_at dksX0_way_5 16 rfl rfl)
theorem dX0_way_135 : decode cX0_way 135 = .ok (.ireturn, 1) := dk_172 (dk_at dksX0_way_5 17 rfl rfl)
abbrev cX0_layFar : ByteArray := prog_1_method_52_code
def yX0_layFar : MethodName := ⟨RX0, "layFar", "(LWebCourt$Court;)V"⟩
def dkwX0_layFar_8 : List UInt8 := [167, 255, 207, 132, 3, 1, 167, 255, 192, 132, 2, 1, 167, 255, 178, 177]
abbrev dktX0_layFar_8 : List UInt8 := dkwX0_layFar_8 ++ []
def dkwX0_layFar_7 : List UInt8 := [180, 0, 82, 29, 50, 28, 46, 42, 180, 0, 82, 28, 50, 21, 4, 46, 96, 184, 1, 46, 79, 132, 4, 1]
abbrev dktX0_layFar_7 : List UInt8 := dkwX0_layFar_7 ++ dktX0_layFar_8
def dkwX0_layFar_6 : List UInt8 := [16, 8, 162, 0, 48, 42, 180, 0, 82, 29, 50, 21, 4, 42, 180, 0, 82, 29, 50, 21, 4, 46, 42]
abbrev dktX0_layFar_6 : List UInt8 := dkwX0_layFar_6 ++ dktX0_layFar_7
def dkwX0_layFar_5 : List UInt8 := [167, 255, 189, 3, 61, 28, 16, 8, 162, 0, 78, 3, 62, 29, 16, 8, 162, 0, 64, 3, 54, 4, 21, 4]
abbrev dktX0_layFar_5 : List UInt8 := dkwX0_layFar_5 ++ dktX0_layFar_6
def dkwX0_layFar_4 : List UInt8 := [180, 1, 43, 4, 79, 42, 180, 0, 82, 45, 180, 1, 43, 50, 45, 180, 1, 40, 4, 79, 132, 2, 1]
abbrev dktX0_layFar_4 : List UInt8 := dkwX0_layFar_4 ++ dktX0_layFar_5
def dkwX0_layFar_3 : List UInt8 := [78, 43, 28, 182, 1, 3, 153, 0, 6, 167, 0, 33, 42, 180, 0, 82, 45, 180, 1, 40, 50, 45]
abbrev dktX0_layFar_3 : List UInt8 := dkwX0_layFar_3 ++ dktX0_layFar_4
def dkwX0_layFar_2 : List UInt8 := [3, 61, 28, 42, 182, 0, 254, 162, 0, 65, 42, 180, 0, 42, 180, 0, 151, 28, 182, 0, 9, 192, 1, 38]
abbrev dktX0_layFar_2 : List UInt8 := dkwX0_layFar_2 ++ dktX0_layFar_3
def dkwX0_layFar_1 : List UInt8 := [29, 160, 0, 7, 3, 167, 0, 6, 19, 1, 37, 79, 132, 3, 1, 167, 255, 227, 132, 2, 1, 167, 255, 213]
abbrev dktX0_layFar_1 : List UInt8 := dkwX0_layFar_1 ++ dktX0_layFar_2
def dkwX0_layFar_0 : List UInt8 := [3, 61, 28, 16, 8, 162, 0, 43, 3, 62, 29, 16, 8, 162, 0, 29, 42, 180, 0, 82, 28, 50, 29, 28]
abbrev dktX0_layFar_0 : List UInt8 := dkwX0_layFar_0 ++ dktX0_layFar_1
theorem dksX0_layFar_0 : cX0_layFar.data.toList.drop 0 = dktX0_layFar_0 := by decide +kernel
theorem dksX0_layFar_1 : cX0_layFar.data.toList.drop 24 = dktX0_layFar_1 := dk_seg dksX0_layFar_0 24 rfl rfl
theorem dksX0_layFar_2 : cX0_layFar.data.toList.drop 48 = dktX0_layFar_2 := dk_seg dksX0_layFar_1 24 rfl rfl
theorem dksX0_layFar_3 : cX0_layFar.data.toList.drop 72 = dktX0_layFar_3 := dk_seg dksX0_layFar_2 24 rfl rfl
theorem dksX0_layFar_4 : cX0_layFar.data.toList.drop 94 = dktX0_layFar_4 := dk_seg dksX0_layFar_3 22 rfl rfl
theorem dksX0_layFar_5 : cX0_layFar.data.toList.drop 117 = dktX0_layFar_5 := dk_seg dksX0_layFar_4 23 rfl rfl
theorem dksX0_layFar_6 : cX0_layFar.data.toList.drop 141 = dktX0_layFar_6 := dk_seg dksX0_layFar_5 24 rfl rfl
theorem dksX0_layFar_7 : cX0_layFar.data.toList.drop 164 = dktX0_layFar_7 := dk_seg dksX0_layFar_6 23 rfl rfl
theorem dksX0_layFar_8 : cX0_layFar.data.toList.drop 188 = dktX0_layFar_8 := dk_seg dksX0_layFar_7 24 rfl rfl
theorem dX0_layFar_0 : decode cX0_layFar 0 = .ok (.iconst 0, 1) := dk_3 (dk_at dksX0_layFar_0 0 rfl rfl)
theorem dX0_layFar_1 : decode cX0_layFar 1 = .ok (.istore_n 2, 1) := dk_61 (dk_at dksX0_layFar_0 1 rfl rfl)
theorem dX0_layFar_2 : decode cX0_layFar 2 = .ok (.iload_n 2, 1) := dk_28 (dk_at dksX0_layFar_0 2 rfl rfl)
theorem dX0_layFar_3 : decode cX0_layFar 3 = .ok (.bipush 8, 2) := dk_16 8 (dk_at dksX0_layFar_0 3 rfl rfl)
theorem dX0_layFar_5 : decode cX0_layFar 5 = .ok (.if_icmp .ge 43, 3) := dk_162 0 43 (dk_at dksX0_layFar_0 5 rfl rfl)
theorem dX0_layFar_8 : decode cX0_layFar 8 = .ok (.iconst 0, 1) := dk_3 (dk_at dksX0_layFar_0 8 rfl rfl)
theorem dX0_layFar_9 : decode cX0_layFar 9 = .ok (.istore_n 3, 1) := dk_62 (dk_at dksX0_layFar_0 9 rfl rfl)
theorem dX0_layFar_10 : decode cX0_layFar 10 = .ok (.iload_n 3, 1) := dk_29 (dk_at dksX0_layFar_0 10 rfl rfl)
theorem dX0_layFar_11 : decode cX0_layFar 11 = .ok (.bipush 8, 2) := dk_16 8 (dk_at dksX0_layFar_0 11 rfl rfl)
theorem dX0_layFar_13 : decode cX0_layFar 13 = .ok (.if_icmp .ge 29, 3) := dk_162 0 29 (dk_at dksX0_layFar_0 13 rfl rfl)
theorem dX0_layFar_16 : decode cX0_layFar 16 = .ok (.aload_n 0, 1) := dk_42 (dk_at dksX0_layFar_0 16 rfl rfl)
theorem dX0_layFar_17 : decode cX0_layFar 17 = .ok (.getfield 82, 3) := dk_180 0 82 (dk_at dksX0_layFar_0 17 rfl rfl)
theorem dX0_layFar_20 : decode cX0_layFar 20 = .ok (.iload_n 2, 1) := dk_28 (dk_at dksX0_layFar_0 20 rfl rfl)
theorem dX0_layFar_21 : decode cX0_layFar 21 = .ok (.aaload, 1) := dk_50 (dk_at dksX0_layFar_0 21 rfl rfl)
theorem dX0_layFar_22 : decode cX0_layFar 22 = .ok (.iload_n 3, 1) := dk_29 (dk_at dksX0_layFar_0 22 rfl rfl)
theorem dX0_layFar_23 : decode cX0_layFar 23 = .ok (.iload_n 2, 1) := dk_28 (dk_at dksX0_layFar_0 23 rfl rfl)
theorem dX0_layFar_24 : decode cX0_layFar 24 = .ok (.iload_n 3, 1) := dk_29 (dk_at dksX0_layFar_1 0 rfl rfl)
theorem dX0_layFar_25 : decode cX0_layFar 25 = .ok (.if_icmp .ne 7, 3) := dk_160 0 7 (dk_at dksX0_layFar_1 1 rfl rfl)
theorem dX0_layFar_28 : decode cX0_layFar 28 = .ok (.iconst 0, 1) := dk_3 (dk_at dksX0_layFar_1 4 rfl rfl)
theorem dX0_layFar_29 : decode cX0_layFar 29 = .ok (.goto 6, 3) := dk_167 0 6 (dk_at dksX0_layFar_1 5 rfl rfl)
theorem dX0_layFar_32 : decode cX0_layFar 32 = .ok (.ldc_w 293, 3) := dk_19 1 37 (dk_at dksX0_layFar_1 8 rfl rfl)
theorem dX0_layFar_35 : decode cX0_layFar 35 = .ok (.iastore, 1) := dk_79 (dk_at dksX0_layFar_1 11 rfl rfl)
theorem dX0_layFar_36 : decode cX0_layFar 36 = .ok (.iinc 3 1, 3) := dk_132 3 1 (dk_at dksX0_layFar_1 12 rfl rfl)
theorem dX0_layFar_39 : decode cX0_layFar 39 = .ok (.goto (-29), 3) := dk_167 255 227 (dk_at dksX0_layFar_1 15 rfl rfl)
theorem dX0_layFar_42 : decode cX0_layFar 42 = .ok (.iinc 2 1, 3) := dk_132 2 1 (dk_at dksX0_layFar_1 18 rfl rfl)
theorem dX0_layFar_45 : decode cX0_layFar 45 = .ok (.goto (-43), 3) := dk_167 255 213 (dk_at dksX0_layFar_1 21 rfl rfl)
theorem dX0_layFar_48 : decode cX0_layFar 48 = .ok (.iconst 0, 1) := dk_3 (dk_at dksX0_layFar_2 0 rfl rfl)
theorem dX0_layFar_49 : decode cX0_layFar 49 = .ok (.istore_n 2, 1) := dk_61 (dk_at dksX0_layFar_2 1 rfl rfl)
theorem dX0_layFar_50 : decode cX0_layFar 50 = .ok (.iload_n 2, 1) := dk_28 (dk_at dksX0_layFar_2 2 rfl rfl)
theorem dX0_layFar_51 : decode cX0_layFar 51 = .ok (.aload_n 0, 1) := dk_42 (dk_at dksX0_layFar_2 3 rfl rfl)
theorem dX0_layFar_52 : decode cX0_layFar 52 = .ok (.invokevirtual 254, 3) := dk_182 0 254 (dk_at dksX0_layFar_2 4 rfl rfl)
theorem dX0_layFar_55 : decode cX0_layFar 55 = .ok (.if_icmp .ge 65, 3) := dk_162 0 65 (dk_at dksX0_layFar_2 7 rfl rfl)
theorem dX0_layFar_58 : decode cX0_layFar 58 = .ok (.aload_n 0, 1) := dk_42 (dk_at dksX0_layFar_2 10 rfl rfl)
theorem dX0_layFar_59 : decode cX0_layFar 59 = .ok (.getfield 42, 3) := dk_180 0 42 (dk_at dksX0_layFar_2 11 rfl rfl)
theorem dX0_layFar_62 : decode cX0_layFar 62 = .ok (.getfield 151, 3) := dk_180 0 151 (dk_at dksX0_layFar_2 14 rfl rfl)
theorem dX0_layFar_65 : decode cX0_layFar 65 = .ok (.iload_n 2, 1) := dk_28 (dk_at dksX0_layFar_2 17 rfl rfl)
theorem dX0_layFar_66 : decode cX0_layFar 66 = .ok (.invokevirtual 9, 3) := dk_182 0 9 (dk_at dksX0_layFar_2 18 rfl rfl)
theorem dX0_layFar_69 : decode cX0_layFar 69 = .ok (.checkcast 294, 3) := dk_192 1 38 (dk_at dksX0_layFar_2 21 rfl rfl)
theorem dX0_layFar_72 : decode cX0_layFar 72 = .ok (.astore_n 3, 1) := dk_78 (dk_at dksX0_layFar_3 0 rfl rfl)
theorem dX0_layFar_73 : decode cX0_layFar 73 = .ok (.aload_n 1, 1) := dk_43 (dk_at dksX0_layFar_3 1 rfl rfl)
theorem dX0_layFar_74 : decode cX0_layFar 74 = .ok (.iload_n 2, 1) := dk_28 (dk_at dksX0_layFar_3 2 rfl rfl)
theorem dX0_layFar_75 : decode cX0_layFar 75 = .ok (.invokevirtual 259, 3) := dk_182 1 3 (dk_at dksX0_layFar_3 3 rfl rfl)
theorem dX0_layFar_78 : decode cX0_layFar 78 = .ok (.ifCond .eq 6, 3) := dk_153 0 6 (dk_at dksX0_layFar_3 6 rfl rfl)
theorem dX0_layFar_81 : decode cX0_layFar 81 = .ok (.goto 33, 3) := dk_167 0 33 (dk_at dksX0_layFar_3 9 rfl rfl)
theorem dX0_layFar_84 : decode cX0_layFar 84 = .ok (.aload_n 0, 1) := dk_42 (dk_at dksX0_layFar_3 12 rfl rfl)
theorem dX0_layFar_85 : decode cX0_layFar 85 = .ok (.getfield 82, 3) := dk_180 0 82 (dk_at dksX0_layFar_3 13 rfl rfl)
theorem dX0_layFar_88 : decode cX0_layFar 88 = .ok (.aload_n 3, 1) := dk_45 (dk_at dksX0_layFar_3 16 rfl rfl)
theorem dX0_layFar_89 : decode cX0_layFar 89 = .ok (.getfield 296, 3) := dk_180 1 40 (dk_at dksX0_layFar_3 17 rfl rfl)
theorem dX0_layFar_92 : decode cX0_layFar 92 = .ok (.aaload, 1) := dk_50 (dk_at dksX0_layFar_3 20 rfl rfl)
theorem dX0_layFar_93 : decode cX0_layFar 93 = .ok (.aload_n 3, 1) := dk_45 (dk_at dksX0_layFar_3 21 rfl rfl)
theorem dX0_layFar_94 : decode cX0_layFar 94 = .ok (.getfield 299, 3) := dk_180 1 43 (dk_at dksX0_layFar_4 0 rfl rfl)
theorem dX0_layFar_97 : decode cX0_layFar 97 = .ok (.iconst 1, 1) := dk_4 (dk_at dksX0_layFar_4 3 rfl rfl)
theorem dX0_layFar_98 : decode cX0_layFar 98 = .ok (.iastore, 1) := dk_79 (dk_at dksX0_layFar_4 4 rfl rfl)
theorem dX0_layFar_99 : decode cX0_layFar 99 = .ok (.aload_n 0, 1) := dk_42 (dk_at dksX0_layFar_4 5 rfl rfl)
theorem dX0_layFar_100 : decode cX0_layFar 100 = .ok (.getfield 82, 3) := dk_180 0 82 (dk_at dksX0_layFar_4 6 rfl rfl)
theorem dX0_layFar_103 : decode cX0_layFar 103 = .ok (.aload_n 3, 1) := dk_45 (dk_at dksX0_layFar_4 9 rfl rfl)
theorem dX0_layFar_104 : decode cX0_layFar 104 = .ok (.getfield 299, 3) := dk_180 1 43 (dk_at dksX0_layFar_4 10 rfl rfl)
theorem dX0_layFar_107 : decode cX0_layFar 107 = .ok (.aaload, 1) := dk_50 (dk_at dksX0_layFar_4 13 rfl rfl)
theorem dX0_layFar_108 : decode cX0_layFar 108 = .ok (.aload_n 3, 1) := dk_45 (dk_at dksX0_layFar_4 14 rfl rfl)
theorem dX0_layFar_109 : decode cX0_layFar 109 = .ok (.getfield 296, 3) := dk_180 1 40 (dk_at dksX0_layFar_4 15 rfl rfl)
theorem dX0_layFar_112 : decode cX0_layFar 112 = .ok (.iconst 1, 1) := dk_4 (dk_at dksX0_layFar_4 18 rfl rfl)
theorem dX0_layFar_113 : decode cX0_layFar 113 = .ok (.iastore, 1) := dk_79 (dk_at dksX0_layFar_4 19 rfl rfl)
theorem dX0_layFar_114 : decode cX0_layFar 114 = .ok (.iinc 2 1, 3) := dk_132 2 1 (dk_at dksX0_layFar_4 20 rfl rfl)
theorem dX0_layFar_117 : decode cX0_layFar 117 = .ok (.goto (-67), 3) := dk_167 255 189 (dk_at dksX0_layFar_5 0 rfl rfl)
theorem dX0_layFar_120 : decode cX0_layFar 120 = .ok (.iconst 0, 1) := dk_3 (dk_at dksX0_layFar_5 3 rfl rfl)
theorem dX0_layFar_121 : decode cX0_layFar 121 = .ok (.istore_n 2, 1) := dk_61 (dk_at dksX0_layFar_5 4 rfl rfl)
theorem dX0_layFar_122 : decode cX0_layFar 122 = .ok (.iload_n 2, 1) := dk_28 (dk_at dksX0_layFar_5 5 rfl rfl)
theorem dX0_layFar_123 : decode cX0_layFar 123 = .ok (.bipush 8, 2) := dk_16 8 (dk_at dksX0_layFar_5 6 rfl rfl)
theorem dX0_layFar_125 : decode cX0_layFar 125 = .ok (.if_icmp .ge 78, 3) := dk_162 0 78 (dk_at dksX0_layFar_5 8 rfl rfl)
theorem dX0_layFar_128 : decode cX0_layFar 128 = .ok (.iconst 0, 1) := dk_3 (dk_at dksX0_layFar_5 11 rfl rfl)
theorem dX0_layFar_129 : decode cX0_layFar 129 = .ok (.istore_n 3, 1) := dk_62 (dk_at dksX0_layFar_5 12 rfl rfl)
theorem dX0_layFar_130 : decode cX0_layFar 130 = .ok (.iload_n 3, 1) := dk_29 (dk_at dksX0_layFar_5 13 rfl rfl)
theorem dX0_layFar_131 : decode cX0_layFar 131 = .ok (.bipush 8, 2) := dk_16 8 (dk_at dksX0_layFar_5 14 rfl rfl)
theorem dX0_layFar_133 : decode cX0_layFar 133 = .ok (.if_icmp .ge 64, 3) := dk_162 0 64 (dk_at dksX0_layFar_5 16 rfl rfl)
theorem dX0_layFar_136 : decode cX0_layFar 136 = .ok (.iconst 0, 1) := dk_3 (dk_at dksX0_layFar_5 19 rfl rfl)
theorem dX0_layFar_137 : decode cX0_layFar 137 = .ok (.istore 4, 2) := dk_54 4 (dk_at dksX0_layFar_5 20 rfl rfl)
theorem dX0_layFar_139 : decode cX0_layFar 139 = .ok (.iload 4, 2) := dk_21 4 (dk_at dksX0_layFar_5 22 rfl rfl)
theorem dX0_layFar_141 : decode cX0_layFar 141 = .ok (.bipush 8, 2) := dk_16 8 (dk_at dksX0_layFar_6 0 rfl rfl)
theorem dX0_layFar_143 : decode cX0_layFar 143 = .ok (.if_icmp .ge 48, 3) := dk_162 0 48 (dk_at dksX0_layFar_6 2 rfl rfl)
theorem dX0_layFar_146 : decode cX0_layFar 146 = .ok (.aload_n 0, 1) := dk_42 (dk_at dksX0_layFar_6 5 rfl rfl)
theorem dX0_layFar_147 : decode cX0_layFar 147 = .ok (.getfield 82, 3) := dk_180 0 82 (dk_at dksX0_layFar_6 6 rfl rfl)
theorem dX0_layFar_150 : decode cX0_layFar 150 = .ok (.iload_n 3, 1) := dk_29 (dk_at dksX0_layFar_6 9 rfl rfl)
theorem dX0_layFar_151 : decode cX0_layFar 151 = .ok (.aaload, 1) := dk_50 (dk_at dksX0_layFar_6 10 rfl rfl)
theorem dX0_layFar_152 : decode cX0_layFar 152 = .ok (.iload 4, 2) := dk_21 4 (dk_at dksX0_layFar_6 11 rfl rfl)
theorem dX0_layFar_154 : decode cX0_layFar 154 = .ok (.aload_n 0, 1) := dk_42 (dk_at dksX0_layFar_6 13 rfl rfl)
theorem dX0_layFar_155 : decode cX0_layFar 155 = .ok (.getfield 82, 3) := dk_180 0 82 (dk_at dksX0_layFar_6 14 rfl rfl)
theorem dX0_layFar_158 : decode cX0_layFar 158 = .ok (.iload_n 3, 1) := dk_29 (dk_at dksX0_layFar_6 17 rfl rfl)
theorem dX0_layFar_159 : decode cX0_layFar 159 = .ok (.aaload, 1) := dk_50 (dk_at dksX0_layFar_6 18 rfl rfl)
theorem dX0_layFar_160 : decode cX0_layFar 160 = .ok (.iload 4, 2) := dk_21 4 (dk_at dksX0_layFar_6 19 rfl rfl)
theorem dX0_layFar_162 : decode cX0_layFar 162 = .ok (.iaload, 1) := dk_46 (dk_at dksX0_layFar_6 21 rfl rfl)
theorem dX0_layFar_163 : decode cX0_layFar 163 = .ok (.aload_n 0, 1) := dk_42 (dk_at dksX0_layFar_6 22 rfl rfl)
theorem dX0_layFar_164 : decode cX0_layFar 164 = .ok (.getfield 82, 3) := dk_180 0 82 (dk_at dksX0_layFar_7 0 rfl rfl)
theorem dX0_layFar_167 : decode cX0_layFar 167 = .ok (.iload_n 3, 1) := dk_29 (dk_at dksX0_layFar_7 3 rfl rfl)
theorem dX0_layFar_168 : decode cX0_layFar 168 = .ok (.aaload, 1) := dk_50 (dk_at dksX0_layFar_7 4 rfl rfl)
theorem dX0_layFar_169 : decode cX0_layFar 169 = .ok (.iload_n 2, 1) := dk_28 (dk_at dksX0_layFar_7 5 rfl rfl)
theorem dX0_layFar_170 : decode cX0_layFar 170 = .ok (.iaload, 1) := dk_46 (dk_at dksX0_layFar_7 6 rfl rfl)
theorem dX0_layFar_171 : decode cX0_layFar 171 = .ok (.aload_n 0, 1) := dk_42 (dk_at dksX0_layFar_7 7 rfl rfl)
theorem dX0_layFar_172 : decode cX0_layFar 172 = .ok (.getfield 82, 3) := dk_180 0 82 (dk_at dksX0_layFar_7 8 rfl rfl)
theorem dX0_layFar_175 : decode cX0_layFar 175 = .ok (.iload_n 2, 1) := dk_28 (dk_at dksX0_layFar_7 11 rfl rfl)
theorem dX0_layFar_176 : decode cX0_layFar 176 = .ok (.aaload, 1) := dk_50 (dk_at dksX0_layFar_7 12 rfl rfl)
theorem dX0_layFar_177 : decode cX0_layFar 177 = .ok (.iload 4, 2) := dk_21 4 (dk_at dksX0_layFar_7 13 rfl rfl)
theorem dX0_layFar_179 : decode cX0_layFar 179 = .ok (.iaload, 1) := dk_46 (dk_at dksX0_layFar_7 15 rfl rfl)
theorem dX0_layFar_180 : decode cX0_layFar 180 = .ok (.iadd, 1) := dk_96 (dk_at dksX0_layFar_7 16 rfl rfl)
theorem dX0_layFar_181 : decode cX0_layFar 181 = .ok (.invokestatic 302, 3) := dk_184 1 46 (dk_at dksX0_layFar_7 17 rfl rfl)
theorem dX0_layFar_184 : decode cX0_layFar 184 = .ok (.iastore, 1) := dk_79 (dk_at dksX0_layFar_7 20 rfl rfl)
theorem dX0_layFar_185 : decode cX0_layFar 185 = .ok (.iinc 4 1, 3) := dk_132 4 1 (dk_at dksX0_layFar_7 21 rfl rfl)
theorem dX0_layFar_188 : decode cX0_layFar 188 = .ok (.goto (-49), 3) := dk_167 255 207 (dk_at dksX0_layFar_8 0 rfl rfl)
theorem dX0_layFar_191 : decode cX0_layFar 191 = .ok (.iinc 3 1, 3) := dk_132 3 1 (dk_at dksX0_layFar_8 3 rfl rfl)
theorem dX0_layFar_194 : decode cX0_layFar 194 = .ok (.goto (-64), 3) := dk_167 255 192 (dk_at dksX0_layFar_8 6 rfl rfl)
theorem dX0_layFar_197 : decode cX0_layFar 197 = .ok (.iinc 2 1, 3) := dk_132 2 1 (dk_at dksX0_layFar_8 9 rfl rfl)
theorem dX0_layFar_200 : decode cX0_layFar 200 = .ok (.goto (-78), 3) := dk_167 255 178 (dk_at dksX0_layFar_8 12 rfl rfl)
theorem dX0_layFar_203 : decode cX0_layFar 203 = .ok (.return_, 1) := dk_177 (dk_at dksX0_layFar_8 15 rfl rfl)
abbrev cX0_reach : ByteArray := prog_1_method_55_code
def yX0_reach : MethodName := ⟨RX0, "reach", "()I"⟩
def dkwX0_reach_0 : List UInt8 := [42, 42, 180, 0, 53, 182, 1, 51, 42, 182, 1, 54, 172]
abbrev dktX0_reach_0 : List UInt8 := dkwX0_reach_0 ++ []
theorem dksX0_reach_0 : cX0_reach.data.toList.drop 0 = dktX0_reach_0 := by decide +kernel
theorem dX0_reach_0 : decode cX0_reach 0 = .ok (.aload_n 0, 1) := dk_42 (dk_at dksX0_reach_0 0 rfl rfl)
theorem dX0_reach_1 : decode cX0_reach 1 = .ok (.aload_n 0, 1) := dk_42 (dk_at dksX0_reach_0 1 rfl rfl)
theorem dX0_reach_2 : decode cX0_reach 2 = .ok (.getfield 53, 3) := dk_180 0 53 (dk_at dksX0_reach_0 2 rfl rfl)
theorem dX0_reach_5 : decode cX0_reach 5 = .ok (.invokevirtual 307, 3) := dk_182 1 51 (dk_at dksX0_reach_0 5 rfl rfl)
theorem dX0_reach_8 : decode cX0_reach 8 = .ok (.aload_n 0, 1) := dk_42 (dk_at dksX0_reach_0 8 rfl rfl)
theorem dX0_reach_9 : decode cX0_reach 9 = .ok (.invokevirtual 310, 3) := dk_182 1 54 (dk_at dksX0_reach_0 9 rfl rfl)
theorem dX0_reach_12 : decode cX0_reach 12 = .ok (.ireturn, 1) := dk_172 (dk_at dksX0_reach_0 12 rfl rfl)
abbrev cX0_reachable : ByteArray := prog_1_method_54_code
def yX0_reachable : MethodName := ⟨RX0, "reachable", "()I"⟩
def dkwX0_reachable_2 : List UInt8 := [27, 172]
abbrev dktX0_reachable_2 : List UInt8 := dkwX0_reachable_2 ++ []
def dkwX0_reachable_1 : List UInt8 := [50, 28, 46, 19, 1, 37, 162, 0, 9, 4, 28, 120, 167, 0, 4, 3, 128, 60, 132, 2, 1, 167, 255, 215]
abbrev dktX0_reachable_1 : List UInt8 := dkwX0_reachable_1 ++ dktX0_reachable_2
def dkwX0_reachable_0 : List UInt8 := [3, 60, 3, 61, 28, 42, 182, 0, 165, 162, 0, 39, 27, 42, 180, 0, 82, 42, 180, 0, 53, 180, 0, 220]
abbrev dktX0_reachable_0 : List UInt8 := dkwX0_reachable_0 ++ dktX0_reachable_1
theorem dksX0_reachable_0 : cX0_reachable.data.toList.drop 0 = dktX0_reachable_0 := by decide +kernel
theorem dksX0_reachable_1 : cX0_reachable.data.toList.drop 24 = dktX0_reachable_1 := dk_seg dksX0_reachable_0 24 rfl rfl
theorem dksX0_reachable_2 : cX0_reachable.data.toList.drop 48 = dktX0_reachable_2 := dk_seg dksX0_reachable_1 24 rfl rfl
theorem dX0_reachable_0 : decode cX0_reachable 0 = .ok (.iconst 0, 1) := dk_3 (dk_at dksX0_reachable_0 0 rfl rfl)
theorem dX0_reachable_1 : decode cX0_reachable 1 = .ok (.istore_n 1, 1) := dk_60 (dk_at dksX0_reachable_0 1 rfl rfl)
theorem dX0_reachable_2 : decode cX0_reachable 2 = .ok (.iconst 0, 1) := dk_3 (dk_at dksX0_reachable_0 2 rfl rfl)
theorem dX0_reachable_3 : decode cX0_reachable 3 = .ok (.istore_n 2, 1) := dk_61 (dk_at dksX0_reachable_0 3 rfl rfl)
theorem dX0_reachable_4 : decode cX0_reachable 4 = .ok (.iload_n 2, 1) := dk_28 (dk_at dksX0_reachable_0 4 rfl rfl)
theorem dX0_reachable_5 : decode cX0_reachable 5 = .ok (.aload_n 0, 1) := dk_42 (dk_at dksX0_reachable_0 5 rfl rfl)
theorem dX0_reachable_6 : decode cX0_reachable 6 = .ok (.invokevirtual 165, 3) := dk_182 0 165 (dk_at dksX0_reachable_0 6 rfl rfl)
theorem dX0_reachable_9 : decode cX0_reachable 9 = .ok (.if_icmp .ge 39, 3) := dk_162 0 39 (dk_at dksX0_reachable_0 9 rfl rfl)
theorem dX0_reachable_12 : decode cX0_reachable 12 = .ok (.iload_n 1, 1) := dk_27 (dk_at dksX0_reachable_0 12 rfl rfl)
theorem dX0_reachable_13 : decode cX0_reachable 13 = .ok (.aload_n 0, 1) := dk_42 (dk_at dksX0_reachable_0 13 rfl rfl)
theorem dX0_reachable_14 : decode cX0_reachable 14 = .ok (.getfield 82, 3) := dk_180 0 82 (dk_at dksX0_reachable_0 14 rfl rfl)
theorem dX0_reachable_17 : decode cX0_reachable 17 = .ok (.aload_n 0, 1) := dk_42 (dk_at dksX0_reachable_0 17 rfl rfl)
theorem dX0_reachable_18 : decode cX0_reachable 18 = .ok (.getfield 53, 3) := dk_180 0 53 (dk_at dksX0_reachable_0 18 rfl rfl)
theorem dX0_reachable_21 : decode cX0_reachable 21 = .ok (.getfield 220, 3) := dk_180 0 220 (dk_at dksX0_reachable_0 21 rfl rfl)
theorem dX0_reachable_24 : decode cX0_reachable 24 = .ok (.aaload, 1) := dk_50 (dk_at dksX0_reachable_1 0 rfl rfl)
theorem dX0_reachable_25 : decode cX0_reachable 25 = .ok (.iload_n 2, 1) := dk_28 (dk_at dksX0_reachable_1 1 rfl rfl)
theorem dX0_reachable_26 : decode cX0_reachable 26 = .ok (.iaload, 1) := dk_46 (dk_at dksX0_reachable_1 2 rfl rfl)
theorem dX0_reachable_27 : decode cX0_reachable 27 = .ok (.ldc_w 293, 3) := dk_19 1 37 (dk_at dksX0_reachable_1 3 rfl rfl)
theorem dX0_reachable_30 : decode cX0_reachable 30 = .ok (.if_icmp .ge 9, 3) := dk_162 0 9 (dk_at dksX0_reachable_1 6 rfl rfl)
theorem dX0_reachable_33 : decode cX0_reachable 33 = .ok (.iconst 1, 1) := dk_4 (dk_at dksX0_reachable_1 9 rfl rfl)
theorem dX0_reachable_34 : decode cX0_reachable 34 = .ok (.iload_n 2, 1) := dk_28 (dk_at dksX0_reachable_1 10 rfl rfl)
theorem dX0_reachable_35 : decode cX0_reachable 35 = .ok (.ishl, 1) := dk_120 (dk_at dksX0_reachable_1 11 rfl rfl)
theorem dX0_reachable_36 : decode cX0_reachable 36 = .ok (.goto 4, 3) := dk_167 0 4 (dk_at dksX0_reachable_1 12 rfl rfl)
theorem dX0_reachable_39 : decode cX0_reachable 39 = .ok (.iconst 0, 1) := dk_3 (dk_at dksX0_reachable_1 15 rfl rfl)
theorem dX0_reachable_40 : decode cX0_reachable 40 = .ok (.ior, 1) := dk_128 (dk_at dksX0_reachable_1 16 rfl rfl)
theorem dX0_reachable_41 : decode cX0_reachable 41 = .ok (.istore_n 1, 1) := dk_60 (dk_at dksX0_reachable_1 17 rfl rfl)
theorem dX0_reachable_42 : decode cX0_reachable 42 = .ok (.iinc 2 1, 3) := dk_132 2 1 (dk_at dksX0_reachable_1 18 rfl rfl)
theorem dX0_reachable_45 : decode cX0_reachable 45 = .ok (.goto (-41), 3) := dk_167 255 215 (dk_at dksX0_reachable_1 21 rfl rfl)
theorem dX0_reachable_48 : decode cX0_reachable 48 = .ok (.iload_n 1, 1) := dk_27 (dk_at dksX0_reachable_2 0 rfl rfl)
theorem dX0_reachable_49 : decode cX0_reachable 49 = .ok (.ireturn, 1) := dk_172 (dk_at dksX0_reachable_2 1 rfl rfl)
abbrev cX0_bridge : ByteArray := prog_1_method_56_code
def yX0_bridge : MethodName := ⟨RX0, "bridge", "(I)I"⟩
def dkwX0_bridge_5 : List UInt8 := [28, 167, 0, 4, 29, 172]
abbrev dktX0_bridge_5 : List UInt8 := dkwX0_bridge_5 ++ []
def dkwX0_bridge_4 : List UInt8 := [21, 4, 61, 21, 5, 62, 132, 4, 1, 167, 255, 174, 28, 156, 0, 7, 2, 167, 0, 12, 27, 154, 0, 7]
abbrev dktX0_bridge_4 : List UInt8 := dkwX0_bridge_4 ++ dktX0_bridge_5
def dkwX0_bridge_3 : List UInt8 := [180, 0, 60, 182, 1, 51, 42, 182, 1, 54, 184, 0, 242, 54, 5, 21, 5, 29, 161, 0, 6, 167, 0, 9]
abbrev dktX0_bridge_3 : List UInt8 := dkwX0_bridge_3 ++ dktX0_bridge_4
def dkwX0_bridge_2 : List UInt8 := [180, 0, 60, 42, 180, 0, 53, 182, 0, 213, 89, 180, 1, 0, 4, 21, 4, 120, 128, 181, 1, 0, 42, 42]
abbrev dktX0_bridge_2 : List UInt8 := dkwX0_bridge_2 ++ dktX0_bridge_3
def dkwX0_bridge_1 : List UInt8 := [182, 0, 254, 162, 0, 79, 42, 180, 0, 53, 21, 4, 182, 1, 3, 153, 0, 6, 167, 0, 58, 42]
abbrev dktX0_bridge_1 : List UInt8 := dkwX0_bridge_1 ++ dktX0_bridge_2
def dkwX0_bridge_0 : List UInt8 := [27, 3, 4, 184, 0, 154, 154, 0, 5, 2, 172, 2, 61, 16, 9, 62, 3, 54, 4, 21, 4, 42]
abbrev dktX0_bridge_0 : List UInt8 := dkwX0_bridge_0 ++ dktX0_bridge_1
theorem dksX0_bridge_0 : cX0_bridge.data.toList.drop 0 = dktX0_bridge_0 := by decide +kernel
theorem dksX0_bridge_1 : cX0_bridge.data.toList.drop 22 = dktX0_bridge_1 := dk_seg dksX0_bridge_0 22 rfl rfl
theorem dksX0_bridge_2 : cX0_bridge.data.toList.drop 44 = dktX0_bridge_2 := dk_seg dksX0_bridge_1 22 rfl rfl
theorem dksX0_bridge_3 : cX0_bridge.data.toList.drop 68 = dktX0_bridge_3 := dk_seg dksX0_bridge_2 24 rfl rfl
theorem dksX0_bridge_4 : cX0_bridge.data.toList.drop 92 = dktX0_bridge_4 := dk_seg dksX0_bridge_3 24 rfl rfl
theorem dksX0_bridge_5 : cX0_bridge.data.toList.drop 116 = dktX0_bridge_5 := dk_seg dksX0_bridge_4 24 rfl rfl
theorem dX0_bridge_0 : decode cX0_bridge 0 = .ok (.iload_n 1, 1) := dk_27 (dk_at dksX0_bridge_0 0 rfl rfl)
theorem dX0_bridge_1 : decode cX0_bridge 1 = .ok (.iconst 0, 1) := dk_3 (dk_at dksX0_bridge_0 1 rfl rfl)
theorem dX0_bridge_2 : decode cX0_bridge 2 = .ok (.iconst 1, 1) := dk_4 (dk_at dksX0_bridge_0 2 rfl rfl)
theorem dX0_bridge_3 : decode cX0_bridge 3 = .ok (.invokestatic 154, 3) := dk_184 0 154 (dk_at dksX0_bridge_0 3 rfl rfl)
theorem dX0_bridge_6 : decode cX0_bridge 6 = .ok (.ifCond .ne 5, 3) := dk_154 0 5 (dk_at dksX0_bridge_0 6 rfl rfl)
theorem dX0_bridge_9 : decode cX0_bridge 9 = .ok (.iconst (-1), 1) := dk_2 (dk_at dksX0_bridge_0 9 rfl rfl)
theorem dX0_bridge_10 : decode cX0_bridge 10 = .ok (.ireturn, 1) := dk_172 (dk_at dksX0_bridge_0 10 rfl rfl)
theorem dX0_bridge_11 : decode cX0_bridge 11 = .ok (.iconst (-1), 1) := dk_2 (dk_at dksX0_bridge_0 11 rfl rfl)
theorem dX0_bridge_12 : decode cX0_bridge 12 = .ok (.istore_n 2, 1) := dk_61 (dk_at dksX0_bridge_0 12 rfl rfl)
theorem dX0_bridge_13 : decode cX0_bridge 13 = .ok (.bipush 9, 2) := dk_16 9 (dk_at dksX0_bridge_0 13 rfl rfl)
theorem dX0_bridge_15 : decode cX0_bridge 15 = .ok (.istore_n 3, 1) := dk_62 (dk_at dksX0_bridge_0 15 rfl rfl)
theorem dX0_bridge_16 : decode cX0_bridge 16 = .ok (.iconst 0, 1) := dk_3 (dk_at dksX0_bridge_0 16 rfl rfl)
theorem dX0_bridge_17 : decode cX0_bridge 17 = .ok (.istore 4, 2) := dk_54 4 (dk_at dksX0_bridge_0 17 rfl rfl)
theorem dX0_bridge_19 : decode cX0_bridge 19 = .ok (.iload 4, 2) := dk_21 4 (dk_at dksX0_bridge_0 19 rfl rfl)
theorem dX0_bridge_21 : decode cX0_bridge 21 = .ok (.aload_n 0, 1) := dk_42 (dk_at dksX0_bridge_0 21 rfl rfl)
theorem dX0_bridge_22 : decode cX0_bridge 22 = .ok (.invokevirtual 254, 3) := dk_182 0 254 (dk_at dksX0_bridge_1 0 rfl rfl)
theorem dX0_bridge_25 : decode cX0_bridge 25 = .ok (.if_icmp .ge 79, 3) := dk_162 0 79 (dk_at dksX0_bridge_1 3 rfl rfl)
theorem dX0_bridge_28 : decode cX0_bridge 28 = .ok (.aload_n 0, 1) := dk_42 (dk_at dksX0_bridge_1 6 rfl rfl)
theorem dX0_bridge_29 : decode cX0_bridge 29 = .ok (.getfield 53, 3) := dk_180 0 53 (dk_at dksX0_bridge_1 7 rfl rfl)
theorem dX0_bridge_32 : decode cX0_bridge 32 = .ok (.iload 4, 2) := dk_21 4 (dk_at dksX0_bridge_1 10 rfl rfl)
theorem dX0_bridge_34 : decode cX0_bridge 34 = .ok (.invokevirtual 259, 3) := dk_182 1 3 (dk_at dksX0_bridge_1 12 rfl rfl)
theorem dX0_bridge_37 : decode cX0_bridge 37 = .ok (.ifCond .eq 6, 3) := dk_153 0 6 (dk_at dksX0_bridge_1 15 rfl rfl)
theorem dX0_bridge_40 : decode cX0_bridge 40 = .ok (.goto 58, 3) := dk_167 0 58 (dk_at dksX0_bridge_1 18 rfl rfl)
theorem dX0_bridge_43 : decode cX0_bridge 43 = .ok (.aload_n 0, 1) := dk_42 (dk_at dksX0_bridge_1 21 rfl rfl)
theorem dX0_bridge_44 : decode cX0_bridge 44 = .ok (.getfield 60, 3) := dk_180 0 60 (dk_at dksX0_bridge_2 0 rfl rfl)
theorem dX0_bridge_47 : decode cX0_bridge 47 = .ok (.aload_n 0, 1) := dk_42 (dk_at dksX0_bridge_2 3 rfl rfl)
theorem dX0_bridge_48 : decode cX0_bridge 48 = .ok (.getfield 53, 3) := dk_180 0 53 (dk_at dksX0_bridge_2 4 rfl rfl)
theorem dX0_bridge_51 : decode cX0_bridge 51 = .ok (.invokevirtual 213, 3) := dk_182 0 213 (dk_at dksX0_bridge_2 7 rfl rfl)
theorem dX0_bridge_54 : decode cX0_bridge 54 = .ok (.dup, 1) := dk_89 (dk_at dksX0_bridge_2 10 rfl rfl)
theorem dX0_bridge_55 : decode cX0_bridge 55 = .ok (.getfield 256, 3) := dk_180 1 0 (dk_at dksX0_bridge_2 11 rfl rfl)
theorem dX0_bridge_58 : decode cX0_bridge 58 = .ok (.iconst 1, 1) := dk_4 (dk_at dksX0_bridge_2 14 rfl rfl)
theorem dX0_bridge_59 : decode cX0_bridge 59 = .ok (.iload 4, 2) := dk_21 4 (dk_at dksX0_bridge_2 15 rfl rfl)
theorem dX0_bridge_61 : decode cX0_bridge 61 = .ok (.ishl, 1) := dk_120 (dk_at dksX0_bridge_2 17 rfl rfl)
theorem dX0_bridge_62 : decode cX0_bridge 62 = .ok (.ior, 1) := dk_128 (dk_at dksX0_bridge_2 18 rfl rfl)
theorem dX0_bridge_63 : decode cX0_bridge 63 = .ok (.putfield 256, 3) := dk_181 1 0 (dk_at dksX0_bridge_2 19 rfl rfl)
theorem dX0_bridge_66 : decode cX0_bridge 66 = .ok (.aload_n 0, 1) := dk_42 (dk_at dksX0_bridge_2 22 rfl rfl)
theorem dX0_bridge_67 : decode cX0_bridge 67 = .ok (.aload_n 0, 1) := dk_42 (dk_at dksX0_bridge_2 23 rfl rfl)
theorem dX0_bridge_68 : decode cX0_bridge 68 = .ok (.getfield 60, 3) := dk_180 0 60 (dk_at dksX0_bridge_3 0 rfl rfl)
theorem dX0_bridge_71 : decode cX0_bridge 71 = .ok (.invokevirtual 307, 3) := dk_182 1 51 (dk_at dksX0_bridge_3 3 rfl rfl)
theorem dX0_bridge_74 : decode cX0_bridge 74 = .ok (.aload_n 0, 1) := dk_42 (dk_at dksX0_bridge_3 6 rfl rfl)
theorem dX0_bridge_75 : decode cX0_bridge 75 = .ok (.invokevirtual 310, 3) := dk_182 1 54 (dk_at dksX0_bridge_3 7 rfl rfl)
theorem dX0_bridge_78 : decode cX0_bridge 78 = .ok (.invokestatic 242, 3) := dk_184 0 242 (dk_at dksX0_bridge_3 10 rfl rfl)
theorem dX0_bridge_81 : decode cX0_bridge 81 = .ok (.istore 5, 2) := dk_54 5 (dk_at dksX0_bridge_3 13 rfl rfl)
theorem dX0_bridge_83 : decode cX0_bridge 83 = .ok (.iload 5, 2) := dk_21 5 (dk_at dksX0_bridge_3 15 rfl rfl)
theorem dX0_bridge_85 : decode cX0_bridge 85 = .ok (.iload_n 3, 1) := dk_29 (dk_at dksX0_bridge_3 17 rfl rfl)
theorem dX0_bridge_86 : decode cX0_bridge 86 = .ok (.if_icmp .lt 6, 3) := dk_161 0 6 (dk_at dksX0_bridge_3 18 rfl rfl)
theorem dX0_bridge_89 : decode cX0_bridge 89 = .ok (.goto 9, 3) := dk_167 0 9 (dk_at dksX0_bridge_3 21 rfl rfl)
theorem dX0_bridge_92 : decode cX0_bridge 92 = .ok (.iload 4, 2) := dk_21 4 (dk_at dksX0_bridge_4 0 rfl rfl)
theorem dX0_bridge_94 : decode cX0_bridge 94 = .ok (.istore_n 2, 1) := dk_61 (dk_at dksX0_bridge_4 2 rfl rfl)
theorem dX0_bridge_95 : decode cX0_bridge 95 = .ok (.iload 5, 2) := dk_21 5 (dk_at dksX0_bridge_4 3 rfl rfl)
theorem dX0_bridge_97 : decode cX0_bridge 97 = .ok (.istore_n 3, 1) := dk_62 (dk_at dksX0_bridge_4 5 rfl rfl)
theorem dX0_bridge_98 : decode cX0_bridge 98 = .ok (.iinc 4 1, 3) := dk_132 4 1 (dk_at dksX0_bridge_4 6 rfl rfl)
theorem dX0_bridge_101 : decode cX0_bridge 101 = .ok (.goto (-82), 3) := dk_167 255 174 (dk_at dksX0_bridge_4 9 rfl rfl)
theorem dX0_bridge_104 : decode cX0_bridge 104 = .ok (.iload_n 2, 1) := dk_28 (dk_at dksX0_bridge_4 12 rfl rfl)
theorem dX0_bridge_105 : decode cX0_bridge 105 = .ok (.ifCond .ge 7, 3) := dk_156 0 7 (dk_at dksX0_bridge_4 13 rfl rfl)
theorem dX0_bridge_108 : decode cX0_bridge 108 = .ok (.iconst (-1), 1) := dk_2 (dk_at dksX0_bridge_4 16 rfl rfl)
theorem dX0_bridge_109 : decode cX0_bridge 109 = .ok (.goto 12, 3) := dk_167 0 12 (dk_at dksX0_bridge_4 17 rfl rfl)
theorem dX0_bridge_112 : decode cX0_bridge 112 = .ok (.iload_n 1, 1) := dk_27 (dk_at dksX0_bridge_4 20 rfl rfl)
theorem dX0_bridge_113 : decode cX0_bridge 113 = .ok (.ifCond .ne 7, 3) := dk_154 0 7 (dk_at dksX0_bridge_4 21 rfl rfl)
theorem dX0_bridge_116 : decode cX0_bridge 116 = .ok (.iload_n 2, 1) := dk_28 (dk_at dksX0_bridge_5 0 rfl rfl)
theorem dX0_bridge_117 : decode cX0_bridge 117 = .ok (.goto 4, 3) := dk_167 0 4 (dk_at dksX0_bridge_5 1 rfl rfl)
theorem dX0_bridge_120 : decode cX0_bridge 120 = .ok (.iload_n 3, 1) := dk_29 (dk_at dksX0_bridge_5 4 rfl rfl)
theorem dX0_bridge_121 : decode cX0_bridge 121 = .ok (.ireturn, 1) := dk_172 (dk_at dksX0_bridge_5 5 rfl rfl)
abbrev cX0_round : ByteArray := prog_1_method_58_code
def yX0_round : MethodName := ⟨RX0, "round", "()I"⟩
def dkwX0_round_3 : List UInt8 := [182, 0, 251, 184, 0, 242, 181, 0, 123, 42, 180, 1, 57, 172]
abbrev dktX0_round_3 : List UInt8 := dkwX0_round_3 ++ []
def dkwX0_round_2 : List UInt8 := [182, 1, 63, 42, 180, 1, 57, 19, 1, 37, 160, 0, 5, 2, 172, 42, 42, 180, 0, 53, 42, 180, 0, 42]
abbrev dktX0_round_2 : List UInt8 := dkwX0_round_2 ++ dktX0_round_3
def dkwX0_round_1 : List UInt8 := [180, 0, 53, 182, 1, 51, 42, 19, 1, 37, 181, 1, 57, 42, 42, 180, 0, 53, 180, 0, 220, 3, 3, 3]
abbrev dktX0_round_1 : List UInt8 := dkwX0_round_1 ++ dktX0_round_2
def dkwX0_round_0 : List UInt8 := [42, 3, 181, 0, 123, 42, 180, 0, 53, 42, 180, 0, 42, 182, 0, 251, 154, 0, 5, 2, 172, 42, 42]
abbrev dktX0_round_0 : List UInt8 := dkwX0_round_0 ++ dktX0_round_1
theorem dksX0_round_0 : cX0_round.data.toList.drop 0 = dktX0_round_0 := by decide +kernel
theorem dksX0_round_1 : cX0_round.data.toList.drop 23 = dktX0_round_1 := dk_seg dksX0_round_0 23 rfl rfl
theorem dksX0_round_2 : cX0_round.data.toList.drop 47 = dktX0_round_2 := dk_seg dksX0_round_1 24 rfl rfl
theorem dksX0_round_3 : cX0_round.data.toList.drop 71 = dktX0_round_3 := dk_seg dksX0_round_2 24 rfl rfl
theorem dX0_round_0 : decode cX0_round 0 = .ok (.aload_n 0, 1) := dk_42 (dk_at dksX0_round_0 0 rfl rfl)
theorem dX0_round_1 : decode cX0_round 1 = .ok (.iconst 0, 1) := dk_3 (dk_at dksX0_round_0 1 rfl rfl)
theorem dX0_round_2 : decode cX0_round 2 = .ok (.putfield 123, 3) := dk_181 0 123 (dk_at dksX0_round_0 2 rfl rfl)
theorem dX0_round_5 : decode cX0_round 5 = .ok (.aload_n 0, 1) := dk_42 (dk_at dksX0_round_0 5 rfl rfl)
theorem dX0_round_6 : decode cX0_round 6 = .ok (.getfield 53, 3) := dk_180 0 53 (dk_at dksX0_round_0 6 rfl rfl)
theorem dX0_round_9 : decode cX0_round 9 = .ok (.aload_n 0, 1) := dk_42 (dk_at dksX0_round_0 9 rfl rfl)
theorem dX0_round_10 : decode cX0_round 10 = .ok (.getfield 42, 3) := dk_180 0 42 (dk_at dksX0_round_0 10 rfl rfl)
theorem dX0_round_13 : decode cX0_round 13 = .ok (.invokevirtual 251, 3) := dk_182 0 251 (dk_at dksX0_round_0 13 rfl rfl)
theorem dX0_round_16 : decode cX0_round 16 = .ok (.ifCond .ne 5, 3) := dk_154 0 5 (dk_at dksX0_round_0 16 rfl rfl)
theorem dX0_round_19 : decode cX0_round 19 = .ok (.iconst (-1), 1) := dk_2 (dk_at dksX0_round_0 19 rfl rfl)
theorem dX0_round_20 : decode cX0_round 20 = .ok (.ireturn, 1) := dk_172 (dk_at dksX0_round_0 20 rfl rfl)
theorem dX0_round_21 : decode cX0_round 21 = .ok (.aload_n 0, 1) := dk_42 (dk_at dksX0_round_0 21 rfl rfl)
theorem dX0_round_22 : decode cX0_round 22 = .ok (.aload_n 0, 1) := dk_42 (dk_at dksX0_round_0 22 rfl rfl)
theorem dX0_round_23 : decode cX0_round 23 = .ok (.getfield 53, 3) := dk_180 0 53 (dk_at dksX0_round_1 0 rfl rfl)
theorem dX0_round_26 : decode cX0_round 26 = .ok (.invokevirtual 307, 3) := dk_182 1 51 (dk_at dksX0_round_1 3 rfl rfl)
theorem dX0_round_29 : decode cX0_round 29 = .ok (.aload_n 0, 1) := dk_42 (dk_at dksX0_round_1 6 rfl rfl)
theorem dX0_round_30 : decode cX0_round 30 = .ok (.ldc_w 293, 3) := dk_19 1 37 (dk_at dksX0_round_1 7 rfl rfl)
theorem dX0_round_33 : decode cX0_round 33 = .ok (.putfield 313, 3) := dk_181 1 57 (dk_at dksX0_round_1 10 rfl rfl)
theorem dX0_round_36 : decode cX0_round 36 = .ok (.aload_n 0, 1) := dk_42 (dk_at dksX0_round_1 13 rfl rfl)
theorem dX0_round_37 : decode cX0_round 37 = .ok (.aload_n 0, 1) := dk_42 (dk_at dksX0_round_1 14 rfl rfl)
theorem dX0_round_38 : decode cX0_round 38 = .ok (.getfield 53, 3) := dk_180 0 53 (dk_at dksX0_round_1 15 rfl rfl)
theorem dX0_round_41 : decode cX0_round 41 = .ok (.getfield 220, 3) := dk_180 0 220 (dk_at dksX0_round_1 18 rfl rfl)
theorem dX0_round_44 : decode cX0_round 44 = .ok (.iconst 0, 1) := dk_3 (dk_at dksX0_round_1 21 rfl rfl)
theorem dX0_round_45 : decode cX0_round 45 = .ok (.iconst 0, 1) := dk_3 (dk_at dksX0_round_1 22 rfl rfl)
theorem dX0_round_46 : decode cX0_round 46 = .ok (.iconst 0, 1) := dk_3 (dk_at dksX0_round_1 23 rfl rfl)
theorem dX0_round_47 : decode cX0_round 47 = .ok (.invokevirtual 319, 3) := dk_182 1 63 (dk_at dksX0_round_2 0 rfl rfl)
theorem dX0_round_50 : decode cX0_round 50 = .ok (.aload_n 0, 1) := dk_42 (dk_at dksX0_round_2 3 rfl rfl)
theorem dX0_round_51 : decode cX0_round 51 = .ok (.getfield 313, 3) := dk_180 1 57 (dk_at dksX0_round_2 4 rfl rfl)
theorem dX0_round_54 : decode cX0_round 54 = .ok (.ldc_w 293, 3) := dk_19 1 37 (dk_at dksX0_round_2 7 rfl rfl)
theorem dX0_round_57 : decode cX0_round 57 = .ok (.if_icmp .ne 5, 3) := dk_160 0 5 (dk_at dksX0_round_2 10 rfl rfl)
theorem dX0_round_60 : decode cX0_round 60 = .ok (.iconst (-1), 1) := dk_2 (dk_at dksX0_round_2 13 rfl rfl)
theorem dX0_round_61 : decode cX0_round 61 = .ok (.ireturn, 1) := dk_172 (dk_at dksX0_round_2 14 rfl rfl)
theorem dX0_round_62 : decode cX0_round 62 = .ok (.aload_n 0, 1) := dk_42 (dk_at dksX0_round_2 15 rfl rfl)
theorem dX0_round_63 : decode cX0_round 63 = .ok (.aload_n 0, 1) := dk_42 (dk_at dksX0_round_2 16 rfl rfl)
theorem dX0_round_64 : decode cX0_round 64 = .ok (.getfield 53, 3) := dk_180 0 53 (dk_at dksX0_round_2 17 rfl rfl)
theorem dX0_round_67 : decode cX0_round 67 = .ok (.aload_n 0, 1) := dk_42 (dk_at dksX0_round_2 20 rfl rfl)
theorem dX0_round_68 : decode cX0_round 68 = .ok (.getfield 42, 3) := dk_180 0 42 (dk_at dksX0_round_2 21 rfl rfl)
theorem dX0_round_71 : decode cX0_round 71 = .ok (.invokevirtual 251, 3) := dk_182 0 251 (dk_at dksX0_round_3 0 rfl rfl)
theorem dX0_round_74 : decode cX0_round 74 = .ok (.invokestatic 242, 3) := dk_184 0 242 (dk_at dksX0_round_3 3 rfl rfl)
theorem dX0_round_77 : decode cX0_round 77 = .ok (.putfield 123, 3) := dk_181 0 123 (dk_at dksX0_round_3 6 rfl rfl)
theorem dX0_round_80 : decode cX0_round 80 = .ok (.aload_n 0, 1) := dk_42 (dk_at dksX0_round_3 9 rfl rfl)
theorem dX0_round_81 : decode cX0_round 81 = .ok (.getfield 313, 3) := dk_180 1 57 (dk_at dksX0_round_3 10 rfl rfl)
theorem dX0_round_84 : decode cX0_round 84 = .ok (.ireturn, 1) := dk_172 (dk_at dksX0_round_3 13 rfl rfl)
abbrev cX0_rounds : ByteArray := prog_1_method_57_code
def yX0_rounds : MethodName := ⟨RX0, "rounds", "(IIII)V"⟩
def dkwX0_rounds_8 : List UInt8 := [177]
abbrev dktX0_rounds_8 : List UInt8 := dkwX0_rounds_8 ++ []
def dkwX0_rounds_7 : List UInt8 := [182, 0, 188, 21, 8, 29, 4, 21, 6, 120, 128, 21, 4, 4, 96, 182, 1, 63, 132, 6, 1, 167, 255, 129]
abbrev dktX0_rounds_7 : List UInt8 := dkwX0_rounds_7 ++ dktX0_rounds_8
def dkwX0_rounds_6 : List UInt8 := [161, 0, 6, 167, 0, 37, 42, 180, 0, 79, 21, 4, 21, 6, 79, 42, 42, 180, 0, 42, 21, 6]
abbrev dktX0_rounds_6 : List UInt8 := dkwX0_rounds_6 ++ dktX0_rounds_7
def dkwX0_rounds_5 : List UInt8 := [154, 0, 8, 21, 7, 167, 0, 9, 4, 21, 7, 184, 1, 60, 96, 54, 8, 21, 8, 42, 180, 1, 57]
abbrev dktX0_rounds_5 : List UInt8 := dkwX0_rounds_5 ++ dktX0_rounds_6
def dkwX0_rounds_4 : List UInt8 := [19, 1, 37, 161, 0, 6, 167, 0, 79, 28, 21, 4, 154, 0, 18, 42, 180, 0, 53, 180, 0, 226]
abbrev dktX0_rounds_4 : List UInt8 := dkwX0_rounds_4 ++ dktX0_rounds_5
def dkwX0_rounds_3 : List UInt8 := [180, 0, 42, 21, 6, 182, 0, 188, 46, 54, 7, 21, 5, 21, 6, 122, 4, 126, 153, 0, 90, 21, 7]
abbrev dktX0_rounds_3 : List UInt8 := dkwX0_rounds_3 ++ dktX0_rounds_4
def dkwX0_rounds_2 : List UInt8 := [184, 0, 207, 3, 54, 6, 21, 6, 42, 182, 0, 140, 162, 0, 124, 42, 180, 0, 82, 27, 50, 42]
abbrev dktX0_rounds_2 : List UInt8 := dkwX0_rounds_2 ++ dktX0_rounds_3
def dkwX0_rounds_1 : List UInt8 := [180, 1, 57, 162, 0, 23, 42, 28, 181, 1, 57, 42, 180, 0, 79, 3, 42, 180, 0, 75, 3, 21, 4]
abbrev dktX0_rounds_1 : List UInt8 := dkwX0_rounds_1 ++ dktX0_rounds_2
def dkwX0_rounds_0 : List UInt8 := [42, 180, 0, 53, 42, 180, 0, 42, 182, 0, 251, 29, 2, 130, 126, 54, 5, 21, 5, 154, 0, 31, 28, 42]
abbrev dktX0_rounds_0 : List UInt8 := dkwX0_rounds_0 ++ dktX0_rounds_1
theorem dksX0_rounds_0 : cX0_rounds.data.toList.drop 0 = dktX0_rounds_0 := by decide +kernel
theorem dksX0_rounds_1 : cX0_rounds.data.toList.drop 24 = dktX0_rounds_1 := dk_seg dksX0_rounds_0 24 rfl rfl
theorem dksX0_rounds_2 : cX0_rounds.data.toList.drop 47 = dktX0_rounds_2 := dk_seg dksX0_rounds_1 23 rfl rfl
theorem dksX0_rounds_3 : cX0_rounds.data.toList.drop 69 = dktX0_rounds_3 := dk_seg dksX0_rounds_2 22 rfl rfl
theorem dksX0_rounds_4 : cX0_rounds.data.toList.drop 92 = dktX0_rounds_4 := dk_seg dksX0_rounds_3 23 rfl rfl
theorem dksX0_rounds_5 : cX0_rounds.data.toList.drop 114 = dktX0_rounds_5 := dk_seg dksX0_rounds_4 22 rfl rfl
theorem dksX0_rounds_6 : cX0_rounds.data.toList.drop 137 = dktX0_rounds_6 := dk_seg dksX0_rounds_5 23 rfl rfl
theorem dksX0_rounds_7 : cX0_rounds.data.toList.drop 159 = dktX0_rounds_7 := dk_seg dksX0_rounds_6 22 rfl rfl
theorem dksX0_rounds_8 : cX0_rounds.data.toList.drop 183 = dktX0_rounds_8 := dk_seg dksX0_rounds_7 24 rfl rfl
theorem dX0_rounds_0 : decode cX0_rounds 0 = .ok (.aload_n 0, 1) := dk_42 (dk_at dksX0_rounds_0 0 rfl rfl)
theorem dX0_rounds_1 : decode cX0_rounds 1 = .ok (.getfield 53, 3) := dk_180 0 53 (dk_at dksX0_rounds_0 1 rfl rfl)
theorem dX0_rounds_4 : decode cX0_rounds 4 = .ok (.aload_n 0, 1) := dk_42 (dk_at dksX0_rounds_0 4 rfl rfl)
theorem dX0_rounds_5 : decode cX0_rounds 5 = .ok (.getfield 42, 3) := dk_180 0 42 (dk_at dksX0_rounds_0 5 rfl rfl)
theorem dX0_rounds_8 : decode cX0_rounds 8 = .ok (.invokevirtual 251, 3) := dk_182 0 251 (dk_at dksX0_rounds_0 8 rfl rfl)
theorem dX0_rounds_11 : decode cX0_rounds 11 = .ok (.iload_n 3, 1) := dk_29 (dk_at dksX0_rounds_0 11 rfl rfl)
theorem dX0_rounds_12 : decode cX0_rounds 12 = .ok (.iconst (-1), 1) := dk_2 (dk_at dksX0_rounds_0 12 rfl rfl)
theorem dX0_rounds_13 : decode cX0_rounds 13 = .ok (.ixor, 1) := dk_130 (dk_at dksX0_rounds_0 13 rfl rfl)
theorem dX0_rounds_14 : decode cX0_rounds 14 = .ok (.iand, 1) := dk_126 (dk_at dksX0_rounds_0 14 rfl rfl)
theorem dX0_rounds_15 : decode cX0_rounds 15 = .ok (.istore 5, 2) := dk_54 5 (dk_at dksX0_rounds_0 15 rfl rfl)
theorem dX0_rounds_17 : decode cX0_rounds 17 = .ok (.iload 5, 2) := dk_21 5 (dk_at dksX0_rounds_0 17 rfl rfl)
theorem dX0_rounds_19 : decode cX0_rounds 19 = .ok (.ifCond .ne 31, 3) := dk_154 0 31 (dk_at dksX0_rounds_0 19 rfl rfl)
theorem dX0_rounds_22 : decode cX0_rounds 22 = .ok (.iload_n 2, 1) := dk_28 (dk_at dksX0_rounds_0 22 rfl rfl)
theorem dX0_rounds_23 : decode cX0_rounds 23 = .ok (.aload_n 0, 1) := dk_42 (dk_at dksX0_rounds_0 23 rfl rfl)
theorem dX0_rounds_24 : decode cX0_rounds 24 = .ok (.getfield 313, 3) := dk_180 1 57 (dk_at dksX0_rounds_1 0 rfl rfl)
theorem dX0_rounds_27 : decode cX0_rounds 27 = .ok (.if_icmp .ge 23, 3) := dk_162 0 23 (dk_at dksX0_rounds_1 3 rfl rfl)
theorem dX0_rounds_30 : decode cX0_rounds 30 = .ok (.aload_n 0, 1) := dk_42 (dk_at dksX0_rounds_1 6 rfl rfl)
theorem dX0_rounds_31 : decode cX0_rounds 31 = .ok (.iload_n 2, 1) := dk_28 (dk_at dksX0_rounds_1 7 rfl rfl)
theorem dX0_rounds_32 : decode cX0_rounds 32 = .ok (.putfield 313, 3) := dk_181 1 57 (dk_at dksX0_rounds_1 8 rfl rfl)
theorem dX0_rounds_35 : decode cX0_rounds 35 = .ok (.aload_n 0, 1) := dk_42 (dk_at dksX0_rounds_1 11 rfl rfl)
theorem dX0_rounds_36 : decode cX0_rounds 36 = .ok (.getfield 79, 3) := dk_180 0 79 (dk_at dksX0_rounds_1 12 rfl rfl)
theorem dX0_rounds_39 : decode cX0_rounds 39 = .ok (.iconst 0, 1) := dk_3 (dk_at dksX0_rounds_1 15 rfl rfl)
theorem dX0_rounds_40 : decode cX0_rounds 40 = .ok (.aload_n 0, 1) := dk_42 (dk_at dksX0_rounds_1 16 rfl rfl)
theorem dX0_rounds_41 : decode cX0_rounds 41 = .ok (.getfield 75, 3) := dk_180 0 75 (dk_at dksX0_rounds_1 17 rfl rfl)
theorem dX0_rounds_44 : decode cX0_rounds 44 = .ok (.iconst 0, 1) := dk_3 (dk_at dksX0_rounds_1 20 rfl rfl)
theorem dX0_rounds_45 : decode cX0_rounds 45 = .ok (.iload 4, 2) := dk_21 4 (dk_at dksX0_rounds_1 21 rfl rfl)
theorem dX0_rounds_47 : decode cX0_rounds 47 = .ok (.invokestatic 207, 3) := dk_184 0 207 (dk_at dksX0_rounds_2 0 rfl rfl)
theorem dX0_rounds_50 : decode cX0_rounds 50 = .ok (.iconst 0, 1) := dk_3 (dk_at dksX0_rounds_2 3 rfl rfl)
theorem dX0_rounds_51 : decode cX0_rounds 51 = .ok (.istore 6, 2) := dk_54 6 (dk_at dksX0_rounds_2 4 rfl rfl)
theorem dX0_rounds_53 : decode cX0_rounds 53 = .ok (.iload 6, 2) := dk_21 6 (dk_at dksX0_rounds_2 6 rfl rfl)
theorem dX0_rounds_55 : decode cX0_rounds 55 = .ok (.aload_n 0, 1) := dk_42 (dk_at dksX0_rounds_2 8 rfl rfl)
theorem dX0_rounds_56 : decode cX0_rounds 56 = .ok (.invokevirtual 140, 3) := dk_182 0 140 (dk_at dksX0_rounds_2 9 rfl rfl)
theorem dX0_rounds_59 : decode cX0_rounds 59 = .ok (.if_icmp .ge 124, 3) := dk_162 0 124 (dk_at dksX0_rounds_2 12 rfl rfl)
theorem dX0_rounds_62 : decode cX0_rounds 62 = .ok (.aload_n 0, 1) := dk_42 (dk_at dksX0_rounds_2 15 rfl rfl)
theorem dX0_rounds_63 : decode cX0_rounds 63 = .ok (.getfield 82, 3) := dk_180 0 82 (dk_at dksX0_rounds_2 16 rfl rfl)
theorem dX0_rounds_66 : decode cX0_rounds 66 = .ok (.iload_n 1, 1) := dk_27 (dk_at dksX0_rounds_2 19 rfl rfl)
theorem dX0_rounds_67 : decode cX0_rounds 67 = .ok (.aaload, 1) := dk_50 (dk_at dksX0_rounds_2 20 rfl rfl)
theorem dX0_rounds_68 : decode cX0_rounds 68 = .ok (.aload_n 0, 1) := dk_42 (dk_at dksX0_rounds_2 21 rfl rfl)
theorem dX0_rounds_69 : decode cX0_rounds 69 = .ok (.getfield 42, 3) := dk_180 0 42 (dk_at dksX0_rounds_3 0 rfl rfl)
theorem dX0_rounds_72 : decode cX0_rounds 72 = .ok (.iload 6, 2) := dk_21 6 (dk_at dksX0_rounds_3 3 rfl rfl)
theorem dX0_rounds_74 : decode cX0_rounds 74 = .ok (.invokevirtual 188, 3) := dk_182 0 188 (dk_at dksX0_rounds_3 5 rfl rfl)
theorem dX0_rounds_77 : decode cX0_rounds 77 = .ok (.iaload, 1) := dk_46 (dk_at dksX0_rounds_3 8 rfl rfl)
theorem dX0_rounds_78 : decode cX0_rounds 78 = .ok (.istore 7, 2) := dk_54 7 (dk_at dksX0_rounds_3 9 rfl rfl)
theorem dX0_rounds_80 : decode cX0_rounds 80 = .ok (.iload 5, 2) := dk_21 5 (dk_at dksX0_rounds_3 11 rfl rfl)
theorem dX0_rounds_82 : decode cX0_rounds 82 = .ok (.iload 6, 2) := dk_21 6 (dk_at dksX0_rounds_3 13 rfl rfl)
theorem dX0_rounds_84 : decode cX0_rounds 84 = .ok (.ishr, 1) := dk_122 (dk_at dksX0_rounds_3 15 rfl rfl)
theorem dX0_rounds_85 : decode cX0_rounds 85 = .ok (.iconst 1, 1) := dk_4 (dk_at dksX0_rounds_3 16 rfl rfl)
theorem dX0_rounds_86 : decode cX0_rounds 86 = .ok (.iand, 1) := dk_126 (dk_at dksX0_rounds_3 17 rfl rfl)
theorem dX0_rounds_87 : decode cX0_rounds 87 = .ok (.ifCond .eq 90, 3) := dk_153 0 90 (dk_at dksX0_rounds_3 18 rfl rfl)
theorem dX0_rounds_90 : decode cX0_rounds 90 = .ok (.iload 7, 2) := dk_21 7 (dk_at dksX0_rounds_3 21 rfl rfl)
theorem dX0_rounds_92 : decode cX0_rounds 92 = .ok (.ldc_w 293, 3) := dk_19 1 37 (dk_at dksX0_rounds_4 0 rfl rfl)
theorem dX0_rounds_95 : decode cX0_rounds 95 = .ok (.if_icmp .lt 6, 3) := dk_161 0 6 (dk_at dksX0_rounds_4 3 rfl rfl)
theorem dX0_rounds_98 : decode cX0_rounds 98 = .ok (.goto 79, 3) := dk_167 0 79 (dk_at dksX0_rounds_4 6 rfl rfl)
theorem dX0_rounds_101 : decode cX0_rounds 101 = .ok (.iload_n 2, 1) := dk_28 (dk_at dksX0_rounds_4 9 rfl rfl)
theorem dX0_rounds_102 : decode cX0_rounds 102 = .ok (.iload 4, 2) := dk_21 4 (dk_at dksX0_rounds_4 10 rfl rfl)
theorem dX0_rounds_104 : decode cX0_rounds 104 = .ok (.ifCond .ne 18, 3) := dk_154 0 18 (dk_at dksX0_rounds_4 12 rfl rfl)
theorem dX0_rounds_107 : decode cX0_rounds 107 = .ok (.aload_n 0, 1) := dk_42 (dk_at dksX0_rounds_4 15 rfl rfl)
theorem dX0_rounds_108 : decode cX0_rounds 108 = .ok (.getfield 53, 3) := dk_180 0 53 (dk_at dksX0_rounds_4 16 rfl rfl)
theorem dX0_rounds_111 : decode cX0_rounds 111 = .ok (.getfield 226, 3) := dk_180 0 226 (dk_at dksX0_rounds_4 19 rfl rfl)
theorem dX0_rounds_114 : decode cX0_rounds 114 = .ok (.ifCond .ne 8, 3) := dk_154 0 8 (dk_at dksX0_rounds_5 0 rfl rfl)
theorem dX0_rounds_117 : decode cX0_rounds 117 = .ok (.iload 7, 2) := dk_21 7 (dk_at dksX0_rounds_5 3 rfl rfl)
theorem dX0_rounds_119 : decode cX0_rounds 119 = .ok (.goto 9, 3) := dk_167 0 9 (dk_at dksX0_rounds_5 5 rfl rfl)
theorem dX0_rounds_122 : decode cX0_rounds 122 = .ok (.iconst 1, 1) := dk_4 (dk_at dksX0_rounds_5 8 rfl rfl)
theorem dX0_rounds_123 : decode cX0_rounds 123 = .ok (.iload 7, 2) := dk_21 7 (dk_at dksX0_rounds_5 9 rfl rfl)
theorem dX0_rounds_125 : decode cX0_rounds 125 = .ok (.invokestatic 316, 3) := dk_184 1 60 (dk_at dksX0_rounds_5 11 rfl rfl)
theorem dX0_rounds_128 : decode cX0_rounds 128 = .ok (.iadd, 1) := dk_96 (dk_at dksX0_rounds_5 14 rfl rfl)
theorem dX0_rounds_129 : decode cX0_rounds 129 = .ok (.istore 8, 2) := dk_54 8 (dk_at dksX0_rounds_5 15 rfl rfl)
theorem dX0_rounds_131 : decode cX0_rounds 131 = .ok (.iload 8, 2) := dk_21 8 (dk_at dksX0_rounds_5 17 rfl rfl)
theorem dX0_rounds_133 : decode cX0_rounds 133 = .ok (.aload_n 0, 1) := dk_42 (dk_at dksX0_rounds_5 19 rfl rfl)
theorem dX0_rounds_134 : decode cX0_rounds 134 = .ok (.getfield 313, 3) := dk_180 1 57 (dk_at dksX0_rounds_5 20 rfl rfl)
theorem dX0_rounds_137 : decode cX0_rounds 137 = .ok (.if_icmp .lt 6, 3) := dk_161 0 6 (dk_at dksX0_rounds_6 0 rfl rfl)
theorem dX0_rounds_140 : decode cX0_rounds 140 = .ok (.goto 37, 3) := dk_167 0 37 (dk_at dksX0_rounds_6 3 rfl rfl)
theorem dX0_rounds_143 : decode cX0_rounds 143 = .ok (.aload_n 0, 1) := dk_42 (dk_at dksX0_rounds_6 6 rfl rfl)
theorem dX0_rounds_144 : decode cX0_rounds 144 = .ok (.getfield 79, 3) := dk_180 0 79 (dk_at dksX0_rounds_6 7 rfl rfl)
theorem dX0_rounds_147 : decode cX0_rounds 147 = .ok (.iload 4, 2) := dk_21 4 (dk_at dksX0_rounds_6 10 rfl rfl)
theorem dX0_rounds_149 : decode cX0_rounds 149 = .ok (.iload 6, 2) := dk_21 6 (dk_at dksX0_rounds_6 12 rfl rfl)
theorem dX0_rounds_151 : decode cX0_rounds 151 = .ok (.iastore, 1) := dk_79 (dk_at dksX0_rounds_6 14 rfl rfl)
theorem dX0_rounds_152 : decode cX0_rounds 152 = .ok (.aload_n 0, 1) := dk_42 (dk_at dksX0_rounds_6 15 rfl rfl)
theorem dX0_rounds_153 : decode cX0_rounds 153 = .ok (.aload_n 0, 1) := dk_42 (dk_at dksX0_rounds_6 16 rfl rfl)
theorem dX0_rounds_154 : decode cX0_rounds 154 = .ok (.getfield 42, 3) := dk_180 0 42 (dk_at dksX0_rounds_6 17 rfl rfl)
theorem dX0_rounds_157 : decode cX0_rounds 157 = .ok (.iload 6, 2) := dk_21 6 (dk_at dksX0_rounds_6 20 rfl rfl)
theorem dX0_rounds_159 : decode cX0_rounds 159 = .ok (.invokevirtual 188, 3) := dk_182 0 188 (dk_at dksX0_rounds_7 0 rfl rfl)
theorem dX0_rounds_162 : decode cX0_rounds 162 = .ok (.iload 8, 2) := dk_21 8 (dk_at dksX0_rounds_7 3 rfl rfl)
theorem dX0_rounds_164 : decode cX0_rounds 164 = .ok (.iload_n 3, 1) := dk_29 (dk_at dksX0_rounds_7 5 rfl rfl)
theorem dX0_rounds_165 : decode cX0_rounds 165 = .ok (.iconst 1, 1) := dk_4 (dk_at dksX0_rounds_7 6 rfl rfl)
theorem dX0_rounds_166 : decode cX0_rounds 166 = .ok (.iload 6, 2) := dk_21 6 (dk_at dksX0_rounds_7 7 rfl rfl)
theorem dX0_rounds_168 : decode cX0_rounds 168 = .ok (.ishl, 1) := dk_120 (dk_at dksX0_rounds_7 9 rfl rfl)
theorem dX0_rounds_169 : decode cX0_rounds 169 = .ok (.ior, 1) := dk_128 (dk_at dksX0_rounds_7 10 rfl rfl)
theorem dX0_rounds_170 : decode cX0_rounds 170 = .ok (.iload 4, 2) := dk_21 4 (dk_at dksX0_rounds_7 11 rfl rfl)
theorem dX0_rounds_172 : decode cX0_rounds 172 = .ok (.iconst 1, 1) := dk_4 (dk_at dksX0_rounds_7 13 rfl rfl)
theorem dX0_rounds_173 : decode cX0_rounds 173 = .ok (.iadd, 1) := dk_96 (dk_at dksX0_rounds_7 14 rfl rfl)
theorem dX0_rounds_174 : decode cX0_rounds 174 = .ok (.invokevirtual 319, 3) := dk_182 1 63 (dk_at dksX0_rounds_7 15 rfl rfl)
theorem dX0_rounds_177 : decode cX0_rounds 177 = .ok (.iinc 6 1, 3) := dk_132 6 1 (dk_at dksX0_rounds_7 18 rfl rfl)
theorem dX0_rounds_180 : decode cX0_rounds 180 = .ok (.goto (-127), 3) := dk_167 255 129 (dk_at dksX0_rounds_7 21 rfl rfl)
theorem dX0_rounds_183 : decode cX0_rounds 183 = .ok (.return_, 1) := dk_177 (dk_at dksX0_rounds_8 0 rfl rfl)
abbrev cX0_term : ByteArray := prog_1_method_60_code
def yX0_term : MethodName := ⟨RX0, "term", "(I)I"⟩
def dkwX0_term_2 : List UInt8 := [42, 180, 1, 67, 172]
abbrev dktX0_term_2 : List UInt8 := dkwX0_term_2 ++ []
def dkwX0_term_1 : List UInt8 := [181, 1, 67, 42, 182, 0, 165, 158, 0, 17, 42, 42, 180, 0, 53, 180, 0, 220, 27, 3, 3, 182, 1, 70]
abbrev dktX0_term_1 : List UInt8 := dkwX0_term_1 ++ dktX0_term_2
def dkwX0_term_0 : List UInt8 := [27, 3, 16, 30, 184, 0, 154, 154, 0, 5, 2, 172, 42, 42, 180, 0, 53, 182, 1, 51, 42, 3]
abbrev dktX0_term_0 : List UInt8 := dkwX0_term_0 ++ dktX0_term_1
theorem dksX0_term_0 : cX0_term.data.toList.drop 0 = dktX0_term_0 := by decide +kernel
theorem dksX0_term_1 : cX0_term.data.toList.drop 22 = dktX0_term_1 := dk_seg dksX0_term_0 22 rfl rfl
theorem dksX0_term_2 : cX0_term.data.toList.drop 46 = dktX0_term_2 := dk_seg dksX0_term_1 24 rfl rfl
theorem dX0_term_0 : decode cX0_term 0 = .ok (.iload_n 1, 1) := dk_27 (dk_at dksX0_term_0 0 rfl rfl)
theorem dX0_term_1 : decode cX0_term 1 = .ok (.iconst 0, 1) := dk_3 (dk_at dksX0_term_0 1 rfl rfl)
theorem dX0_term_2 : decode cX0_term 2 = .ok (.bipush 30, 2) := dk_16 30 (dk_at dksX0_term_0 2 rfl rfl)
theorem dX0_term_4 : decode cX0_term 4 = .ok (.invokestatic 154, 3) := dk_184 0 154 (dk_at dksX0_term_0 4 rfl rfl)
theorem dX0_term_7 : decode cX0_term 7 = .ok (.ifCond .ne 5, 3) := dk_154 0 5 (dk_at dksX0_term_0 7 rfl rfl)
theorem dX0_term_10 : decode cX0_term 10 = .ok (.iconst (-1), 1) := dk_2 (dk_at dksX0_term_0 10 rfl rfl)
theorem dX0_term_11 : decode cX0_term 11 = .ok (.ireturn, 1) := dk_172 (dk_at dksX0_term_0 11 rfl rfl)
theorem dX0_term_12 : decode cX0_term 12 = .ok (.aload_n 0, 1) := dk_42 (dk_at dksX0_term_0 12 rfl rfl)
theorem dX0_term_13 : decode cX0_term 13 = .ok (.aload_n 0, 1) := dk_42 (dk_at dksX0_term_0 13 rfl rfl)
theorem dX0_term_14 : decode cX0_term 14 = .ok (.getfield 53, 3) := dk_180 0 53 (dk_at dksX0_term_0 14 rfl rfl)
theorem dX0_term_17 : decode cX0_term 17 = .ok (.invokevirtual 307, 3) := dk_182 1 51 (dk_at dksX0_term_0 17 rfl rfl)
theorem dX0_term_20 : decode cX0_term 20 = .ok (.aload_n 0, 1) := dk_42 (dk_at dksX0_term_0 20 rfl rfl)
theorem dX0_term_21 : decode cX0_term 21 = .ok (.iconst 0, 1) := dk_3 (dk_at dksX0_term_0 21 rfl rfl)
theorem dX0_term_22 : decode cX0_term 22 = .ok (.putfield 323, 3) := dk_181 1 67 (dk_at dksX0_term_1 0 rfl rfl)
theorem dX0_term_25 : decode cX0_term 25 = .ok (.aload_n 0, 1) := dk_42 (dk_at dksX0_term_1 3 rfl rfl)
theorem dX0_term_26 : decode cX0_term 26 = .ok (.invokevirtual 165, 3) := dk_182 0 165 (dk_at dksX0_term_1 4 rfl rfl)
theorem dX0_term_29 : decode cX0_term 29 = .ok (.ifCond .le 17, 3) := dk_158 0 17 (dk_at dksX0_term_1 7 rfl rfl)
theorem dX0_term_32 : decode cX0_term 32 = .ok (.aload_n 0, 1) := dk_42 (dk_at dksX0_term_1 10 rfl rfl)
theorem dX0_term_33 : decode cX0_term 33 = .ok (.aload_n 0, 1) := dk_42 (dk_at dksX0_term_1 11 rfl rfl)
theorem dX0_term_34 : decode cX0_term 34 = .ok (.getfield 53, 3) := dk_180 0 53 (dk_at dksX0_term_1 12 rfl rfl)
theorem dX0_term_37 : decode cX0_term 37 = .ok (.getfield 220, 3) := dk_180 0 220 (dk_at dksX0_term_1 15 rfl rfl)
theorem dX0_term_40 : decode cX0_term 40 = .ok (.iload_n 1, 1) := dk_27 (dk_at dksX0_term_1 18 rfl rfl)
theorem dX0_term_41 : decode cX0_term 41 = .ok (.iconst 0, 1) := dk_3 (dk_at dksX0_term_1 19 rfl rfl)
theorem dX0_term_42 : decode cX0_term 42 = .ok (.iconst 0, 1) := dk_3 (dk_at dksX0_term_1 20 rfl rfl)
theorem dX0_term_43 : decode cX0_term 43 = .ok (.invokevirtual 326, 3) := dk_182 1 70 (dk_at dksX0_term_1 21 rfl rfl)
theorem dX0_term_46 : decode cX0_term 46 = .ok (.aload_n 0, 1) := dk_42 (dk_at dksX0_term_2 0 rfl rfl)
theorem dX0_term_47 : decode cX0_term 47 = .ok (.getfield 323, 3) := dk_180 1 67 (dk_at dksX0_term_2 1 rfl rfl)
theorem dX0_term_50 : decode cX0_term 50 = .ok (.ireturn, 1) := dk_172 (dk_at dksX0_term_2 4 rfl rfl)
abbrev cX0_terms : ByteArray := prog_1_method_59_code
def yX0_terms : MethodName := ⟨RX0, "terms", "(IIII)V"⟩
def dkwX0_terms_5 : List UInt8 := [21, 7, 100, 29, 4, 21, 5, 120, 128, 21, 4, 4, 96, 182, 1, 70, 132, 5, 1, 167, 255, 139, 177]
abbrev dktX0_terms_5 : List UInt8 := dkwX0_terms_5 ++ []
def dkwX0_terms_4 : List UInt8 := [153, 0, 39, 21, 7, 28, 164, 0, 6, 167, 0, 30, 42, 42, 180, 0, 42, 21, 5, 182, 0, 188, 28]
abbrev dktX0_terms_4 : List UInt8 := dkwX0_terms_4 ++ dktX0_terms_5
def dkwX0_terms_3 : List UInt8 := [54, 7, 42, 180, 0, 53, 42, 180, 0, 42, 182, 0, 251, 29, 2, 130, 126, 4, 21, 5, 120, 126]
abbrev dktX0_terms_3 : List UInt8 := dkwX0_terms_3 ++ dktX0_terms_4
def dkwX0_terms_2 : List UInt8 := [154, 0, 18, 42, 180, 0, 53, 180, 0, 226, 154, 0, 8, 21, 6, 167, 0, 9, 4, 21, 6, 184, 1, 60]
abbrev dktX0_terms_2 : List UInt8 := dkwX0_terms_2 ++ dktX0_terms_3
def dkwX0_terms_1 : List UInt8 := [162, 0, 114, 42, 180, 0, 82, 27, 50, 42, 180, 0, 42, 21, 5, 182, 0, 188, 46, 54, 6, 21, 4]
abbrev dktX0_terms_1 : List UInt8 := dkwX0_terms_1 ++ dktX0_terms_2
def dkwX0_terms_0 : List UInt8 := [42, 42, 180, 1, 67, 21, 4, 184, 1, 60, 181, 1, 67, 3, 54, 5, 21, 5, 42, 182, 0, 140]
abbrev dktX0_terms_0 : List UInt8 := dkwX0_terms_0 ++ dktX0_terms_1
theorem dksX0_terms_0 : cX0_terms.data.toList.drop 0 = dktX0_terms_0 := by decide +kernel
theorem dksX0_terms_1 : cX0_terms.data.toList.drop 22 = dktX0_terms_1 := dk_seg dksX0_terms_0 22 rfl rfl
theorem dksX0_terms_2 : cX0_terms.data.toList.drop 45 = dktX0_terms_2 := dk_seg dksX0_terms_1 23 rfl rfl
theorem dksX0_terms_3 : cX0_terms.data.toList.drop 69 = dktX0_terms_3 := dk_seg dksX0_terms_2 24 rfl rfl
theorem dksX0_terms_4 : cX0_terms.data.toList.drop 91 = dktX0_terms_4 := dk_seg dksX0_terms_3 22 rfl rfl
theorem dksX0_terms_5 : cX0_terms.data.toList.drop 114 = dktX0_terms_5 := dk_seg dksX0_terms_4 23 rfl rfl
theorem dX0_terms_0 : decode cX0_terms 0 = .ok (.aload_n 0, 1) := dk_42 (dk_at dksX0_terms_0 0 rfl rfl)
theorem dX0_terms_1 : decode cX0_terms 1 = .ok (.aload_n 0, 1) := dk_42 (dk_at dksX0_terms_0 1 rfl rfl)
theorem dX0_terms_2 : decode cX0_terms 2 = .ok (.getfield 323, 3) := dk_180 1 67 (dk_at dksX0_terms_0 2 rfl rfl)
theorem dX0_terms_5 : decode cX0_terms 5 = .ok (.iload 4, 2) := dk_21 4 (dk_at dksX0_terms_0 5 rfl rfl)
theorem dX0_terms_7 : decode cX0_terms 7 = .ok (.invokestatic 316, 3) := dk_184 1 60 (dk_at dksX0_terms_0 7 rfl rfl)
theorem dX0_terms_10 : decode cX0_terms 10 = .ok (.putfield 323, 3) := dk_181 1 67 (dk_at dksX0_terms_0 10 rfl rfl)
theorem dX0_terms_13 : decode cX0_terms 13 = .ok (.iconst 0, 1) := dk_3 (dk_at dksX0_terms_0 13 rfl rfl)
theorem dX0_terms_14 : decode cX0_terms 14 = .ok (.istore 5, 2) := dk_54 5 (dk_at dksX0_terms_0 14 rfl rfl)
theorem dX0_terms_16 : decode cX0_terms 16 = .ok (.iload 5, 2) := dk_21 5 (dk_at dksX0_terms_0 16 rfl rfl)
theorem dX0_terms_18 : decode cX0_terms 18 = .ok (.aload_n 0, 1) := dk_42 (dk_at dksX0_terms_0 18 rfl rfl)
theorem dX0_terms_19 : decode cX0_terms 19 = .ok (.invokevirtual 140, 3) := dk_182 0 140 (dk_at dksX0_terms_0 19 rfl rfl)
theorem dX0_terms_22 : decode cX0_terms 22 = .ok (.if_icmp .ge 114, 3) := dk_162 0 114 (dk_at dksX0_terms_1 0 rfl rfl)
theorem dX0_terms_25 : decode cX0_terms 25 = .ok (.aload_n 0, 1) := dk_42 (dk_at dksX0_terms_1 3 rfl rfl)
theorem dX0_terms_26 : decode cX0_terms 26 = .ok (.getfield 82, 3) := dk_180 0 82 (dk_at dksX0_terms_1 4 rfl rfl)
theorem dX0_terms_29 : decode cX0_terms 29 = .ok (.iload_n 1, 1) := dk_27 (dk_at dksX0_terms_1 7 rfl rfl)
theorem dX0_terms_30 : decode cX0_terms 30 = .ok (.aaload, 1) := dk_50 (dk_at dksX0_terms_1 8 rfl rfl)
theorem dX0_terms_31 : decode cX0_terms 31 = .ok (.aload_n 0, 1) := dk_42 (dk_at dksX0_terms_1 9 rfl rfl)
theorem dX0_terms_32 : decode cX0_terms 32 = .ok (.getfield 42, 3) := dk_180 0 42 (dk_at dksX0_terms_1 10 rfl rfl)
theorem dX0_terms_35 : decode cX0_terms 35 = .ok (.iload 5, 2) := dk_21 5 (dk_at dksX0_terms_1 13 rfl rfl)
theorem dX0_terms_37 : decode cX0_terms 37 = .ok (.invokevirtual 188, 3) := dk_182 0 188 (dk_at dksX0_terms_1 15 rfl rfl)
theorem dX0_terms_40 : decode cX0_terms 40 = .ok (.iaload, 1) := dk_46 (dk_at dksX0_terms_1 18 rfl rfl)
theorem dX0_terms_41 : decode cX0_terms 41 = .ok (.istore 6, 2) := dk_54 6 (dk_at dksX0_terms_1 19 rfl rfl)
theorem dX0_terms_43 : decode cX0_terms 43 = .ok (.iload 4, 2) := dk_21 4 (dk_at dksX0_terms_1 21 rfl rfl)
theorem dX0_terms_45 : decode cX0_terms 45 = .ok (.ifCond .ne 18, 3) := dk_154 0 18 (dk_at dksX0_terms_2 0 rfl rfl)
theorem dX0_terms_48 : decode cX0_terms 48 = .ok (.aload_n 0, 1) := dk_42 (dk_at dksX0_terms_2 3 rfl rfl)
theorem dX0_terms_49 : decode cX0_terms 49 = .ok (.getfield 53, 3) := dk_180 0 53 (dk_at dksX0_terms_2 4 rfl rfl)
theorem dX0_terms_52 : decode cX0_terms 52 = .ok (.getfield 226, 3) := dk_180 0 226 (dk_at dksX0_terms_2 7 rfl rfl)
theorem dX0_terms_55 : decode cX0_terms 55 = .ok (.ifCond .ne 8, 3) := dk_154 0 8 (dk_at dksX0_terms_2 10 rfl rfl)
theorem dX0_terms_58 : decode cX0_terms 58 = .ok (.iload 6, 2) := dk_21 6 (dk_at dksX0_terms_2 13 rfl rfl)
theorem dX0_terms_60 : decode cX0_terms 60 = .ok (.goto 9, 3) := dk_167 0 9 (dk_at dksX0_terms_2 15 rfl rfl)
theorem dX0_terms_63 : decode cX0_terms 63 = .ok (.iconst 1, 1) := dk_4 (dk_at dksX0_terms_2 18 rfl rfl)
theorem dX0_terms_64 : decode cX0_terms 64 = .ok (.iload 6, 2) := dk_21 6 (dk_at dksX0_terms_2 19 rfl rfl)
theorem dX0_terms_66 : decode cX0_terms 66 = .ok (.invokestatic 316, 3) := dk_184 1 60 (dk_at dksX0_terms_2 21 rfl rfl)
theorem dX0_terms_69 : decode cX0_terms 69 = .ok (.istore 7, 2) := dk_54 7 (dk_at dksX0_terms_3 0 rfl rfl)
theorem dX0_terms_71 : decode cX0_terms 71 = .ok (.aload_n 0, 1) := dk_42 (dk_at dksX0_terms_3 2 rfl rfl)
theorem dX0_terms_72 : decode cX0_terms 72 = .ok (.getfield 53, 3) := dk_180 0 53 (dk_at dksX0_terms_3 3 rfl rfl)
theorem dX0_terms_75 : decode cX0_terms 75 = .ok (.aload_n 0, 1) := dk_42 (dk_at dksX0_terms_3 6 rfl rfl)
theorem dX0_terms_76 : decode cX0_terms 76 = .ok (.getfield 42, 3) := dk_180 0 42 (dk_at dksX0_terms_3 7 rfl rfl)
theorem dX0_terms_79 : decode cX0_terms 79 = .ok (.invokevirtual 251, 3) := dk_182 0 251 (dk_at dksX0_terms_3 10 rfl rfl)
theorem dX0_terms_82 : decode cX0_terms 82 = .ok (.iload_n 3, 1) := dk_29 (dk_at dksX0_terms_3 13 rfl rfl)
theorem dX0_terms_83 : decode cX0_terms 83 = .ok (.iconst (-1), 1) := dk_2 (dk_at dksX0_terms_3 14 rfl rfl)
theorem dX0_terms_84 : decode cX0_terms 84 = .ok (.ixor, 1) := dk_130 (dk_at dksX0_terms_3 15 rfl rfl)
theorem dX0_terms_85 : decode cX0_terms 85 = .ok (.iand, 1) := dk_126 (dk_at dksX0_terms_3 16 rfl rfl)
theorem dX0_terms_86 : decode cX0_terms 86 = .ok (.iconst 1, 1) := dk_4 (dk_at dksX0_terms_3 17 rfl rfl)
theorem dX0_terms_87 : decode cX0_terms 87 = .ok (.iload 5, 2) := dk_21 5 (dk_at dksX0_terms_3 18 rfl rfl)
theorem dX0_terms_89 : decode cX0_terms 89 = .ok (.ishl, 1) := dk_120 (dk_at dksX0_terms_3 20 rfl rfl)
theorem dX0_terms_90 : decode cX0_terms 90 = .ok (.iand, 1) := dk_126 (dk_at dksX0_terms_3 21 rfl rfl)
theorem dX0_terms_91 : decode cX0_terms 91 = .ok (.ifCond .eq 39, 3) := dk_153 0 39 (dk_at dksX0_terms_4 0 rfl rfl)
theorem dX0_terms_94 : decode cX0_terms 94 = .ok (.iload 7, 2) := dk_21 7 (dk_at dksX0_terms_4 3 rfl rfl)
theorem dX0_terms_96 : decode cX0_terms 96 = .ok (.iload_n 2, 1) := dk_28 (dk_at dksX0_terms_4 5 rfl rfl)
theorem dX0_terms_97 : decode cX0_terms 97 = .ok (.if_icmp .le 6, 3) := dk_164 0 6 (dk_at dksX0_terms_4 6 rfl rfl)
theorem dX0_terms_100 : decode cX0_terms 100 = .ok (.goto 30, 3) := dk_167 0 30 (dk_at dksX0_terms_4 9 rfl rfl)
theorem dX0_terms_103 : decode cX0_terms 103 = .ok (.aload_n 0, 1) := dk_42 (dk_at dksX0_terms_4 12 rfl rfl)
theorem dX0_terms_104 : decode cX0_terms 104 = .ok (.aload_n 0, 1) := dk_42 (dk_at dksX0_terms_4 13 rfl rfl)
theorem dX0_terms_105 : decode cX0_terms 105 = .ok (.getfield 42, 3) := dk_180 0 42 (dk_at dksX0_terms_4 14 rfl rfl)
theorem dX0_terms_108 : decode cX0_terms 108 = .ok (.iload 5, 2) := dk_21 5 (dk_at dksX0_terms_4 17 rfl rfl)
theorem dX0_terms_110 : decode cX0_terms 110 = .ok (.invokevirtual 188, 3) := dk_182 0 188 (dk_at dksX0_terms_4 19 rfl rfl)
theorem dX0_terms_113 : decode cX0_terms 113 = .ok (.iload_n 2, 1) := dk_28 (dk_at dksX0_terms_4 22 rfl rfl)
theorem dX0_terms_114 : decode cX0_terms 114 = .ok (.iload 7, 2) := dk_21 7 (dk_at dksX0_terms_5 0 rfl rfl)
theorem dX0_terms_116 : decode cX0_terms 116 = .ok (.isub, 1) := dk_100 (dk_at dksX0_terms_5 2 rfl rfl)
theorem dX0_terms_117 : decode cX0_terms 117 = .ok (.iload_n 3, 1) := dk_29 (dk_at dksX0_terms_5 3 rfl rfl)
theorem dX0_terms_118 : decode cX0_terms 118 = .ok (.iconst 1, 1) := dk_4 (dk_at dksX0_terms_5 4 rfl rfl)
theorem dX0_terms_119 : decode cX0_terms 119 = .ok (.iload 5, 2) := dk_21 5 (dk_at dksX0_terms_5 5 rfl rfl)
theorem dX0_terms_121 : decode cX0_terms 121 = .ok (.ishl, 1) := dk_120 (dk_at dksX0_terms_5 7 rfl rfl)
theorem dX0_terms_122 : decode cX0_terms 122 = .ok (.ior, 1) := dk_128 (dk_at dksX0_terms_5 8 rfl rfl)
theorem dX0_terms_123 : decode cX0_terms 123 = .ok (.iload 4, 2) := dk_21 4 (dk_at dksX0_terms_5 9 rfl rfl)
theorem dX0_terms_125 : decode cX0_terms 125 = .ok (.iconst 1, 1) := dk_4 (dk_at dksX0_terms_5 11 rfl rfl)
theorem dX0_terms_126 : decode cX0_terms 126 = .ok (.iadd, 1) := dk_96 (dk_at dksX0_terms_5 12 rfl rfl)
theorem dX0_terms_127 : decode cX0_terms 127 = .ok (.invokevirtual 326, 3) := dk_182 1 70 (dk_at dksX0_terms_5 13 rfl rfl)
theorem dX0_terms_130 : decode cX0_terms 130 = .ok (.iinc 5 1, 3) := dk_132 5 1 (dk_at dksX0_terms_5 16 rfl rfl)
theorem dX0_terms_133 : decode cX0_terms 133 = .ok (.goto (-117), 3) := dk_167 255 139 (dk_at dksX0_terms_5 19 rfl rfl)
theorem dX0_terms_136 : decode cX0_terms 136 = .ok (.return_, 1) := dk_177 (dk_at dksX0_terms_5 22 rfl rfl)
abbrev cX0_odds : ByteArray := prog_1_method_62_code
def yX0_odds : MethodName := ⟨RX0, "odds", "(II)I"⟩
def dkwX0_odds_3 : List UInt8 := [21, 4, 29, 184, 1, 76, 108, 172]
abbrev dktX0_odds_3 : List UInt8 := dkwX0_odds_3 ++ []
def dkwX0_odds_2 : List UInt8 := [21, 4, 16, 100, 104, 54, 4, 132, 5, 1, 167, 255, 227, 28, 154, 0, 7, 29, 167, 0, 5, 21, 4]
abbrev dktX0_odds_2 : List UInt8 := dkwX0_odds_2 ++ dktX0_odds_3
def dkwX0_odds_1 : List UInt8 := [54, 4, 3, 54, 5, 21, 5, 27, 162, 0, 29, 29, 16, 100, 42, 180, 0, 42, 180, 1, 73, 100, 104, 62]
abbrev dktX0_odds_1 : List UInt8 := dkwX0_odds_1 ++ dktX0_odds_2
def dkwX0_odds_0 : List UInt8 := [27, 3, 7, 184, 0, 154, 153, 0, 12, 28, 3, 4, 184, 0, 154, 154, 0, 5, 2, 172, 4, 62, 4]
abbrev dktX0_odds_0 : List UInt8 := dkwX0_odds_0 ++ dktX0_odds_1
theorem dksX0_odds_0 : cX0_odds.data.toList.drop 0 = dktX0_odds_0 := by decide +kernel
theorem dksX0_odds_1 : cX0_odds.data.toList.drop 23 = dktX0_odds_1 := dk_seg dksX0_odds_0 23 rfl rfl
theorem dksX0_odds_2 : cX0_odds.data.toList.drop 47 = dktX0_odds_2 := dk_seg dksX0_odds_1 24 rfl rfl
theorem dksX0_odds_3 : cX0_odds.data.toList.drop 70 = dktX0_odds_3 := dk_seg dksX0_odds_2 23 rfl rfl
theorem dX0_odds_0 : decode cX0_odds 0 = .ok (.iload_n 1, 1) := dk_27 (dk_at dksX0_odds_0 0 rfl rfl)
theorem dX0_odds_1 : decode cX0_odds 1 = .ok (.iconst 0, 1) := dk_3 (dk_at dksX0_odds_0 1 rfl rfl)
theorem dX0_odds_2 : decode cX0_odds 2 = .ok (.iconst 4, 1) := dk_7 (dk_at dksX0_odds_0 2 rfl rfl)
theorem dX0_odds_3 : decode cX0_odds 3 = .ok (.invokestatic 154, 3) := dk_184 0 154 (dk_at dksX0_odds_0 3 rfl rfl)
theorem dX0_odds_6 : decode cX0_odds 6 = .ok (.ifCond .eq 12, 3) := dk_153 0 12 (dk_at dksX0_odds_0 6 rfl rfl)
theorem dX0_odds_9 : decode cX0_odds 9 = .ok (.iload_n 2, 1) := dk_28 (dk_at dksX0_odds_0 9 rfl rfl)
theorem dX0_odds_10 : decode cX0_odds 10 = .ok (.iconst 0, 1) := dk_3 (dk_at dksX0_odds_0 10 rfl rfl)
theorem dX0_odds_11 : decode cX0_odds 11 = .ok (.iconst 1, 1) := dk_4 (dk_at dksX0_odds_0 11 rfl rfl)
theorem dX0_odds_12 : decode cX0_odds 12 = .ok (.invokestatic 154, 3) := dk_184 0 154 (dk_at dksX0_odds_0 12 rfl rfl)
theorem dX0_odds_15 : decode cX0_odds 15 = .ok (.ifCond .ne 5, 3) := dk_154 0 5 (dk_at dksX0_odds_0 15 rfl rfl)
theorem dX0_odds_18 : decode cX0_odds 18 = .ok (.iconst (-1), 1) := dk_2 (dk_at dksX0_odds_0 18 rfl rfl)
theorem dX0_odds_19 : decode cX0_odds 19 = .ok (.ireturn, 1) := dk_172 (dk_at dksX0_odds_0 19 rfl rfl)
theorem dX0_odds_20 : decode cX0_odds 20 = .ok (.iconst 1, 1) := dk_4 (dk_at dksX0_odds_0 20 rfl rfl)
theorem dX0_odds_21 : decode cX0_odds 21 = .ok (.istore_n 3, 1) := dk_62 (dk_at dksX0_odds_0 21 rfl rfl)
theorem dX0_odds_22 : decode cX0_odds 22 = .ok (.iconst 1, 1) := dk_4 (dk_at dksX0_odds_0 22 rfl rfl)
theorem dX0_odds_23 : decode cX0_odds 23 = .ok (.istore 4, 2) := dk_54 4 (dk_at dksX0_odds_1 0 rfl rfl)
theorem dX0_odds_25 : decode cX0_odds 25 = .ok (.iconst 0, 1) := dk_3 (dk_at dksX0_odds_1 2 rfl rfl)
theorem dX0_odds_26 : decode cX0_odds 26 = .ok (.istore 5, 2) := dk_54 5 (dk_at dksX0_odds_1 3 rfl rfl)
theorem dX0_odds_28 : decode cX0_odds 28 = .ok (.iload 5, 2) := dk_21 5 (dk_at dksX0_odds_1 5 rfl rfl)
theorem dX0_odds_30 : decode cX0_odds 30 = .ok (.iload_n 1, 1) := dk_27 (dk_at dksX0_odds_1 7 rfl rfl)
theorem dX0_odds_31 : decode cX0_odds 31 = .ok (.if_icmp .ge 29, 3) := dk_162 0 29 (dk_at dksX0_odds_1 8 rfl rfl)
theorem dX0_odds_34 : decode cX0_odds 34 = .ok (.iload_n 3, 1) := dk_29 (dk_at dksX0_odds_1 11 rfl rfl)
theorem dX0_odds_35 : decode cX0_odds 35 = .ok (.bipush 100, 2) := dk_16 100 (dk_at dksX0_odds_1 12 rfl rfl)
theorem dX0_odds_37 : decode cX0_odds 37 = .ok (.aload_n 0, 1) := dk_42 (dk_at dksX0_odds_1 14 rfl rfl)
theorem dX0_odds_38 : decode cX0_odds 38 = .ok (.getfield 42, 3) := dk_180 0 42 (dk_at dksX0_odds_1 15 rfl rfl)
theorem dX0_odds_41 : decode cX0_odds 41 = .ok (.getfield 329, 3) := dk_180 1 73 (dk_at dksX0_odds_1 18 rfl rfl)
theorem dX0_odds_44 : decode cX0_odds 44 = .ok (.isub, 1) := dk_100 (dk_at dksX0_odds_1 21 rfl rfl)
theorem dX0_odds_45 : decode cX0_odds 45 = .ok (.imul, 1) := dk_104 (dk_at dksX0_odds_1 22 rfl rfl)
theorem dX0_odds_46 : decode cX0_odds 46 = .ok (.istore_n 3, 1) := dk_62 (dk_at dksX0_odds_1 23 rfl rfl)
theorem dX0_odds_47 : decode cX0_odds 47 = .ok (.iload 4, 2) := dk_21 4 (dk_at dksX0_odds_2 0 rfl rfl)
theorem dX0_odds_49 : decode cX0_odds 49 = .ok (.bipush 100, 2) := dk_16 100 (dk_at dksX0_odds_2 2 rfl rfl)
theorem dX0_odds_51 : decode cX0_odds 51 = .ok (.imul, 1) := dk_104 (dk_at dksX0_odds_2 4 rfl rfl)
theorem dX0_odds_52 : decode cX0_odds 52 = .ok (.istore 4, 2) := dk_54 4 (dk_at dksX0_odds_2 5 rfl rfl)
theorem dX0_odds_54 : decode cX0_odds 54 = .ok (.iinc 5 1, 3) := dk_132 5 1 (dk_at dksX0_odds_2 7 rfl rfl)
theorem dX0_odds_57 : decode cX0_odds 57 = .ok (.goto (-29), 3) := dk_167 255 227 (dk_at dksX0_odds_2 10 rfl rfl)
theorem dX0_odds_60 : decode cX0_odds 60 = .ok (.iload_n 2, 1) := dk_28 (dk_at dksX0_odds_2 13 rfl rfl)
theorem dX0_odds_61 : decode cX0_odds 61 = .ok (.ifCond .ne 7, 3) := dk_154 0 7 (dk_at dksX0_odds_2 14 rfl rfl)
theorem dX0_odds_64 : decode cX0_odds 64 = .ok (.iload_n 3, 1) := dk_29 (dk_at dksX0_odds_2 17 rfl rfl)
theorem dX0_odds_65 : decode cX0_odds 65 = .ok (.goto 5, 3) := dk_167 0 5 (dk_at dksX0_odds_2 18 rfl rfl)
theorem dX0_odds_68 : decode cX0_odds 68 = .ok (.iload 4, 2) := dk_21 4 (dk_at dksX0_odds_2 21 rfl rfl)
theorem dX0_odds_70 : decode cX0_odds 70 = .ok (.iload 4, 2) := dk_21 4 (dk_at dksX0_odds_3 0 rfl rfl)
theorem dX0_odds_72 : decode cX0_odds 72 = .ok (.iload_n 3, 1) := dk_29 (dk_at dksX0_odds_3 2 rfl rfl)
theorem dX0_odds_73 : decode cX0_odds 73 = .ok (.invokestatic 332, 3) := dk_184 1 76 (dk_at dksX0_odds_3 3 rfl rfl)
theorem dX0_odds_76 : decode cX0_odds 76 = .ok (.idiv, 1) := dk_108 (dk_at dksX0_odds_3 6 rfl rfl)
theorem dX0_odds_77 : decode cX0_odds 77 = .ok (.ireturn, 1) := dk_172 (dk_at dksX0_odds_3 7 rfl rfl)
abbrev cX0_common : ByteArray := prog_1_method_61_code
def yX0_common : MethodName := ⟨RX0, "common", "(II)I"⟩
def dkwX0_common_0 : List UInt8 := [26, 61, 27, 62, 29, 153, 0, 16, 28, 29, 112, 54, 4, 29, 61, 21, 4, 62, 167, 255, 242, 28, 172]
abbrev dktX0_common_0 : List UInt8 := dkwX0_common_0 ++ []
theorem dksX0_common_0 : cX0_common.data.toList.drop 0 = dktX0_common_0 := by decide +kernel
theorem dX0_common_0 : decode cX0_common 0 = .ok (.iload_n 0, 1) := dk_26 (dk_at dksX0_common_0 0 rfl rfl)
theorem dX0_common_1 : decode cX0_common 1 = .ok (.istore_n 2, 1) := dk_61 (dk_at dksX0_common_0 1 rfl rfl)
theorem dX0_common_2 : decode cX0_common 2 = .ok (.iload_n 1, 1) := dk_27 (dk_at dksX0_common_0 2 rfl rfl)
theorem dX0_common_3 : decode cX0_common 3 = .ok (.istore_n 3, 1) := dk_62 (dk_at dksX0_common_0 3 rfl rfl)
theorem dX0_common_4 : decode cX0_common 4 = .ok (.iload_n 3, 1) := dk_29 (dk_at dksX0_common_0 4 rfl rfl)
theorem dX0_common_5 : decode cX0_common 5 = .ok (.ifCond .eq 16, 3) := dk_153 0 16 (dk_at dksX0_common_0 5 rfl rfl)
theorem dX0_common_8 : decode cX0_common 8 = .ok (.iload_n 2, 1) := dk_28 (dk_at dksX0_common_0 8 rfl rfl)
theorem dX0_common_9 : decode cX0_common 9 = .ok (.iload_n 3, 1) := dk_29 (dk_at dksX0_common_0 9 rfl rfl)
theorem dX0_common_10 : decode cX0_common 10 = .ok (.irem, 1) := dk_112 (dk_at dksX0_common_0 10 rfl rfl)
theorem dX0_common_11 : decode cX0_common 11 = .ok (.istore 4, 2) := dk_54 4 (dk_at dksX0_common_0 11 rfl rfl)
theorem dX0_common_13 : decode cX0_common 13 = .ok (.iload_n 3, 1) := dk_29 (dk_at dksX0_common_0 13 rfl rfl)
theorem dX0_common_14 : decode cX0_common 14 = .ok (.istore_n 2, 1) := dk_61 (dk_at dksX0_common_0 14 rfl rfl)
theorem dX0_common_15 : decode cX0_common 15 = .ok (.iload 4, 2) := dk_21 4 (dk_at dksX0_common_0 15 rfl rfl)
theorem dX0_common_17 : decode cX0_common 17 = .ok (.istore_n 3, 1) := dk_62 (dk_at dksX0_common_0 17 rfl rfl)
theorem dX0_common_18 : decode cX0_common 18 = .ok (.goto (-14), 3) := dk_167 255 242 (dk_at dksX0_common_0 18 rfl rfl)
theorem dX0_common_21 : decode cX0_common 21 = .ok (.iload_n 2, 1) := dk_28 (dk_at dksX0_common_0 21 rfl rfl)
theorem dX0_common_22 : decode cX0_common 22 = .ok (.ireturn, 1) := dk_172 (dk_at dksX0_common_0 22 rfl rfl)
abbrev cX0_lies : ByteArray := prog_1_method_63_code
def yX0_lies : MethodName := ⟨RX0, "lies", "(I)I"⟩
def dkwX0_lies_1 : List UInt8 := [172]
abbrev dktX0_lies_1 : List UInt8 := dkwX0_lies_1 ++ []
def dkwX0_lies_0 : List UInt8 := [27, 3, 42, 180, 0, 123, 4, 100, 184, 0, 154, 153, 0, 12, 42, 180, 0, 75, 27, 46, 167, 0, 4, 2]
abbrev dktX0_lies_0 : List UInt8 := dkwX0_lies_0 ++ dktX0_lies_1
theorem dksX0_lies_0 : cX0_lies.data.toList.drop 0 = dktX0_lies_0 := by decide +kernel
theorem dksX0_lies_1 : cX0_lies.data.toList.drop 24 = dktX0_lies_1 := dk_seg dksX0_lies_0 24 rfl rfl
theorem dX0_lies_0 : decode cX0_lies 0 = .ok (.iload_n 1, 1) := dk_27 (dk_at dksX0_lies_0 0 rfl rfl)
theorem dX0_lies_1 : decode cX0_lies 1 = .ok (.iconst 0, 1) := dk_3 (dk_at dksX0_lies_0 1 rfl rfl)
theorem dX0_lies_2 : decode cX0_lies 2 = .ok (.aload_n 0, 1) := dk_42 (dk_at dksX0_lies_0 2 rfl rfl)
theorem dX0_lies_3 : decode cX0_lies 3 = .ok (.getfield 123, 3) := dk_180 0 123 (dk_at dksX0_lies_0 3 rfl rfl)
theorem dX0_lies_6 : decode cX0_lies 6 = .ok (.iconst 1, 1) := dk_4 (dk_at dksX0_lies_0 6 rfl rfl)
theorem dX0_lies_7 : decode cX0_lies 7 = .ok (.isub, 1) := dk_100 (dk_at dksX0_lies_0 7 rfl rfl)
theorem dX0_lies_8 : decode cX0_lies 8 = .ok (.invokestatic 154, 3) := dk_184 0 154 (dk_at dksX0_lies_0 8 rfl rfl)
theorem dX0_lies_11 : decode cX0_lies 11 = .ok (.ifCond .eq 12, 3) := dk_153 0 12 (dk_at dksX0_lies_0 11 rfl rfl)
theorem dX0_lies_14 : decode cX0_lies 14 = .ok (.aload_n 0, 1) := dk_42 (dk_at dksX0_lies_0 14 rfl rfl)
theorem dX0_lies_15 : decode cX0_lies 15 = .ok (.getfield 75, 3) := dk_180 0 75 (dk_at dksX0_lies_0 15 rfl rfl)
theorem dX0_lies_18 : decode cX0_lies 18 = .ok (.iload_n 1, 1) := dk_27 (dk_at dksX0_lies_0 18 rfl rfl)
theorem dX0_lies_19 : decode cX0_lies 19 = .ok (.iaload, 1) := dk_46 (dk_at dksX0_lies_0 19 rfl rfl)
theorem dX0_lies_20 : decode cX0_lies 20 = .ok (.goto 4, 3) := dk_167 0 4 (dk_at dksX0_lies_0 20 rfl rfl)
theorem dX0_lies_23 : decode cX0_lies 23 = .ok (.iconst (-1), 1) := dk_2 (dk_at dksX0_lies_0 23 rfl rfl)
theorem dX0_lies_24 : decode cX0_lies 24 = .ok (.ireturn, 1) := dk_172 (dk_at dksX0_lies_1 0 rfl rfl)
abbrev cX0_heard : ByteArray := prog_1_method_64_code
def yX0_heard : MethodName := ⟨RX0, "heard", "(IIZ)I"⟩
def dkwX0_heard_3 : List UInt8 := [172]
abbrev dktX0_heard_3 : List UInt8 := dkwX0_heard_3 ++ []
def dkwX0_heard_2 : List UInt8 := [187, 1, 79, 89, 42, 27, 28, 29, 183, 1, 81, 182, 1, 84, 87, 42, 180, 0, 88, 182, 0, 3, 4, 100]
abbrev dktX0_heard_2 : List UInt8 := dkwX0_heard_2 ++ dktX0_heard_3
def dkwX0_heard_1 : List UInt8 := [182, 0, 167, 153, 0, 15, 42, 180, 0, 88, 182, 0, 3, 16, 30, 160, 0, 5, 2, 172, 42, 180, 0, 88]
abbrev dktX0_heard_1 : List UInt8 := dkwX0_heard_1 ++ dktX0_heard_2
def dkwX0_heard_0 : List UInt8 := [42, 27, 182, 0, 158, 153, 0, 35, 28, 17, 216, 241, 17, 39, 15, 184, 0, 154, 153, 0, 22, 42]
abbrev dktX0_heard_0 : List UInt8 := dkwX0_heard_0 ++ dktX0_heard_1
theorem dksX0_heard_0 : cX0_heard.data.toList.drop 0 = dktX0_heard_0 := by decide +kernel
theorem dksX0_heard_1 : cX0_heard.data.toList.drop 22 = dktX0_heard_1 := dk_seg dksX0_heard_0 22 rfl rfl
theorem dksX0_heard_2 : cX0_heard.data.toList.drop 46 = dktX0_heard_2 := dk_seg dksX0_heard_1 24 rfl rfl
theorem dksX0_heard_3 : cX0_heard.data.toList.drop 70 = dktX0_heard_3 := dk_seg dksX0_heard_2 24 rfl rfl
theorem dX0_heard_0 : decode cX0_heard 0 = .ok (.aload_n 0, 1) := dk_42 (dk_at dksX0_heard_0 0 rfl rfl)
theorem dX0_heard_1 : decode cX0_heard 1 = .ok (.iload_n 1, 1) := dk_27 (dk_at dksX0_heard_0 1 rfl rfl)
theorem dX0_heard_2 : decode cX0_heard 2 = .ok (.invokevirtual 158, 3) := dk_182 0 158 (dk_at dksX0_heard_0 2 rfl rfl)
theorem dX0_heard_5 : decode cX0_heard 5 = .ok (.ifCond .eq 35, 3) := dk_153 0 35 (dk_at dksX0_heard_0 5 rfl rfl)
theorem dX0_heard_8 : decode cX0_heard 8 = .ok (.iload_n 2, 1) := dk_28 (dk_at dksX0_heard_0 8 rfl rfl)
theorem dX0_heard_9 : decode cX0_heard 9 = .ok (.sipush (-9999), 3) := dk_17 216 241 (dk_at dksX0_heard_0 9 rfl rfl)
theorem dX0_heard_12 : decode cX0_heard 12 = .ok (.sipush 9999, 3) := dk_17 39 15 (dk_at dksX0_heard_0 12 rfl rfl)
theorem dX0_heard_15 : decode cX0_heard 15 = .ok (.invokestatic 154, 3) := dk_184 0 154 (dk_at dksX0_heard_0 15 rfl rfl)
theorem dX0_heard_18 : decode cX0_heard 18 = .ok (.ifCond .eq 22, 3) := dk_153 0 22 (dk_at dksX0_heard_0 18 rfl rfl)
theorem dX0_heard_21 : decode cX0_heard 21 = .ok (.aload_n 0, 1) := dk_42 (dk_at dksX0_heard_0 21 rfl rfl)
theorem dX0_heard_22 : decode cX0_heard 22 = .ok (.invokevirtual 167, 3) := dk_182 0 167 (dk_at dksX0_heard_1 0 rfl rfl)
theorem dX0_heard_25 : decode cX0_heard 25 = .ok (.ifCond .eq 15, 3) := dk_153 0 15 (dk_at dksX0_heard_1 3 rfl rfl)
theorem dX0_heard_28 : decode cX0_heard 28 = .ok (.aload_n 0, 1) := dk_42 (dk_at dksX0_heard_1 6 rfl rfl)
theorem dX0_heard_29 : decode cX0_heard 29 = .ok (.getfield 88, 3) := dk_180 0 88 (dk_at dksX0_heard_1 7 rfl rfl)
theorem dX0_heard_32 : decode cX0_heard 32 = .ok (.invokevirtual 3, 3) := dk_182 0 3 (dk_at dksX0_heard_1 10 rfl rfl)
theorem dX0_heard_35 : decode cX0_heard 35 = .ok (.bipush 30, 2) := dk_16 30 (dk_at dksX0_heard_1 13 rfl rfl)
theorem dX0_heard_37 : decode cX0_heard 37 = .ok (.if_icmp .ne 5, 3) := dk_160 0 5 (dk_at dksX0_heard_1 15 rfl rfl)
theorem dX0_heard_40 : decode cX0_heard 40 = .ok (.iconst (-1), 1) := dk_2 (dk_at dksX0_heard_1 18 rfl rfl)
theorem dX0_heard_41 : decode cX0_heard 41 = .ok (.ireturn, 1) := dk_172 (dk_at dksX0_heard_1 19 rfl rfl)
theorem dX0_heard_42 : decode cX0_heard 42 = .ok (.aload_n 0, 1) := dk_42 (dk_at dksX0_heard_1 20 rfl rfl)
theorem dX0_heard_43 : decode cX0_heard 43 = .ok (.getfield 88, 3) := dk_180 0 88 (dk_at dksX0_heard_1 21 rfl rfl)
theorem dX0_heard_46 : decode cX0_heard 46 = .ok (.new 335, 3) := dk_187 1 79 (dk_at dksX0_heard_2 0 rfl rfl)
theorem dX0_heard_49 : decode cX0_heard 49 = .ok (.dup, 1) := dk_89 (dk_at dksX0_heard_2 3 rfl rfl)
theorem dX0_heard_50 : decode cX0_heard 50 = .ok (.aload_n 0, 1) := dk_42 (dk_at dksX0_heard_2 4 rfl rfl)
theorem dX0_heard_51 : decode cX0_heard 51 = .ok (.iload_n 1, 1) := dk_27 (dk_at dksX0_heard_2 5 rfl rfl)
theorem dX0_heard_52 : decode cX0_heard 52 = .ok (.iload_n 2, 1) := dk_28 (dk_at dksX0_heard_2 6 rfl rfl)
theorem dX0_heard_53 : decode cX0_heard 53 = .ok (.iload_n 3, 1) := dk_29 (dk_at dksX0_heard_2 7 rfl rfl)
theorem dX0_heard_54 : decode cX0_heard 54 = .ok (.invokespecial 337, 3) := dk_183 1 81 (dk_at dksX0_heard_2 8 rfl rfl)
theorem dX0_heard_57 : decode cX0_heard 57 = .ok (.invokevirtual 340, 3) := dk_182 1 84 (dk_at dksX0_heard_2 11 rfl rfl)
theorem dX0_heard_60 : decode cX0_heard 60 = .ok (.pop, 1) := dk_87 (dk_at dksX0_heard_2 14 rfl rfl)
theorem dX0_heard_61 : decode cX0_heard 61 = .ok (.aload_n 0, 1) := dk_42 (dk_at dksX0_heard_2 15 rfl rfl)
theorem dX0_heard_62 : decode cX0_heard 62 = .ok (.getfield 88, 3) := dk_180 0 88 (dk_at dksX0_heard_2 16 rfl rfl)
theorem dX0_heard_65 : decode cX0_heard 65 = .ok (.invokevirtual 3, 3) := dk_182 0 3 (dk_at dksX0_heard_2 19 rfl rfl)
theorem dX0_heard_68 : decode cX0_heard 68 = .ok (.iconst 1, 1) := dk_4 (dk_at dksX0_heard_2 22 rfl rfl)
theorem dX0_heard_69 : decode cX0_heard 69 = .ok (.isub, 1) := dk_100 (dk_at dksX0_heard_2 23 rfl rfl)
theorem dX0_heard_70 : decode cX0_heard 70 = .ok (.ireturn, 1) := dk_172 (dk_at dksX0_heard_3 0 rfl rfl)
abbrev cX0_untell : ByteArray := prog_1_method_65_code
def yX0_untell : MethodName := ⟨RX0, "untell", "(I)Z"⟩
def dkwX0_untell_1 : List UInt8 := [182, 0, 9, 192, 1, 79, 182, 1, 87, 153, 0, 7, 4, 167, 0, 4, 3, 172]
abbrev dktX0_untell_1 : List UInt8 := dkwX0_untell_1 ++ []
def dkwX0_untell_0 : List UInt8 := [27, 3, 42, 180, 0, 88, 182, 0, 3, 4, 100, 184, 0, 154, 153, 0, 24, 42, 180, 0, 88, 27]
abbrev dktX0_untell_0 : List UInt8 := dkwX0_untell_0 ++ dktX0_untell_1
theorem dksX0_untell_0 : cX0_untell.data.toList.drop 0 = dktX0_untell_0 := by decide +kernel
theorem dksX0_untell_1 : cX0_untell.data.toList.drop 22 = dktX0_untell_1 := dk_seg dksX0_untell_0 22 rfl rfl
theorem dX0_untell_0 : decode cX0_untell 0 = .ok (.iload_n 1, 1) := dk_27 (dk_at dksX0_untell_0 0 rfl rfl)
theorem dX0_untell_1 : decode cX0_untell 1 = .ok (.iconst 0, 1) := dk_3 (dk_at dksX0_untell_0 1 rfl rfl)
theorem dX0_untell_2 : decode cX0_untell 2 = .ok (.aload_n 0, 1) := dk_42 (dk_at dksX0_untell_0 2 rfl rfl)
theorem dX0_untell_3 : decode cX0_untell 3 = .ok (.getfield 88, 3) := dk_180 0 88 (dk_at dksX0_untell_0 3 rfl rfl)
theorem dX0_untell_6 : decode cX0_untell 6 = .ok (.invokevirtual 3, 3) := dk_182 0 3 (dk_at dksX0_untell_0 6 rfl rfl)
theorem dX0_untell_9 : decode cX0_untell 9 = .ok (.iconst 1, 1) := dk_4 (dk_at dksX0_untell_0 9 rfl rfl)
theorem dX0_untell_10 : decode cX0_untell 10 = .ok (.isub, 1) := dk_100 (dk_at dksX0_untell_0 10 rfl rfl)
theorem dX0_untell_11 : decode cX0_untell 11 = .ok (.invokestatic 154, 3) := dk_184 0 154 (dk_at dksX0_untell_0 11 rfl rfl)
theorem dX0_untell_14 : decode cX0_untell 14 = .ok (.ifCond .eq 24, 3) := dk_153 0 24 (dk_at dksX0_untell_0 14 rfl rfl)
theorem dX0_untell_17 : decode cX0_untell 17 = .ok (.aload_n 0, 1) := dk_42 (dk_at dksX0_untell_0 17 rfl rfl)
theorem dX0_untell_18 : decode cX0_untell 18 = .ok (.getfield 88, 3) := dk_180 0 88 (dk_at dksX0_untell_0 18 rfl rfl)
theorem dX0_untell_21 : decode cX0_untell 21 = .ok (.iload_n 1, 1) := dk_27 (dk_at dksX0_untell_0 21 rfl rfl)
theorem dX0_untell_22 : decode cX0_untell 22 = .ok (.invokevirtual 9, 3) := dk_182 0 9 (dk_at dksX0_untell_1 0 rfl rfl)
theorem dX0_untell_25 : decode cX0_untell 25 = .ok (.checkcast 335, 3) := dk_192 1 79 (dk_at dksX0_untell_1 3 rfl rfl)
theorem dX0_untell_28 : decode cX0_untell 28 = .ok (.invokevirtual 343, 3) := dk_182 1 87 (dk_at dksX0_untell_1 6 rfl rfl)
theorem dX0_untell_31 : decode cX0_untell 31 = .ok (.ifCond .eq 7, 3) := dk_153 0 7 (dk_at dksX0_untell_1 9 rfl rfl)
theorem dX0_untell_34 : decode cX0_untell 34 = .ok (.iconst 1, 1) := dk_4 (dk_at dksX0_untell_1 12 rfl rfl)
theorem dX0_untell_35 : decode cX0_untell 35 = .ok (.goto 4, 3) := dk_167 0 4 (dk_at dksX0_untell_1 13 rfl rfl)
theorem dX0_untell_38 : decode cX0_untell 38 = .ok (.iconst 0, 1) := dk_3 (dk_at dksX0_untell_1 16 rfl rfl)
theorem dX0_untell_39 : decode cX0_untell 39 = .ok (.ireturn, 1) := dk_172 (dk_at dksX0_untell_1 17 rfl rfl)
abbrev cX0_later : ByteArray := prog_1_method_66_code
def yX0_later : MethodName := ⟨RX0, "later", "(I)I"⟩
def dkwX0_later_1 : List UInt8 := [172, 42, 89, 180, 1, 91, 27, 96, 181, 1, 91, 42, 180, 1, 91, 172]
abbrev dktX0_later_1 : List UInt8 := dkwX0_later_1 ++ []
def dkwX0_later_0 : List UInt8 := [27, 155, 0, 22, 27, 17, 3, 232, 163, 0, 15, 42, 180, 1, 91, 27, 96, 19, 1, 94, 164, 0, 5, 2]
abbrev dktX0_later_0 : List UInt8 := dkwX0_later_0 ++ dktX0_later_1
theorem dksX0_later_0 : cX0_later.data.toList.drop 0 = dktX0_later_0 := by decide +kernel
theorem dksX0_later_1 : cX0_later.data.toList.drop 24 = dktX0_later_1 := dk_seg dksX0_later_0 24 rfl rfl
theorem dX0_later_0 : decode cX0_later 0 = .ok (.iload_n 1, 1) := dk_27 (dk_at dksX0_later_0 0 rfl rfl)
theorem dX0_later_1 : decode cX0_later 1 = .ok (.ifCond .lt 22, 3) := dk_155 0 22 (dk_at dksX0_later_0 1 rfl rfl)
theorem dX0_later_4 : decode cX0_later 4 = .ok (.iload_n 1, 1) := dk_27 (dk_at dksX0_later_0 4 rfl rfl)
theorem dX0_later_5 : decode cX0_later 5 = .ok (.sipush 1000, 3) := dk_17 3 232 (dk_at dksX0_later_0 5 rfl rfl)
theorem dX0_later_8 : decode cX0_later 8 = .ok (.if_icmp .gt 15, 3) := dk_163 0 15 (dk_at dksX0_later_0 8 rfl rfl)
theorem dX0_later_11 : decode cX0_later 11 = .ok (.aload_n 0, 1) := dk_42 (dk_at dksX0_later_0 11 rfl rfl)
theorem dX0_later_12 : decode cX0_later 12 = .ok (.getfield 347, 3) := dk_180 1 91 (dk_at dksX0_later_0 12 rfl rfl)
theorem dX0_later_15 : decode cX0_later 15 = .ok (.iload_n 1, 1) := dk_27 (dk_at dksX0_later_0 15 rfl rfl)
theorem dX0_later_16 : decode cX0_later 16 = .ok (.iadd, 1) := dk_96 (dk_at dksX0_later_0 16 rfl rfl)
theorem dX0_later_17 : decode cX0_later 17 = .ok (.ldc_w 350, 3) := dk_19 1 94 (dk_at dksX0_later_0 17 rfl rfl)
theorem dX0_later_20 : decode cX0_later 20 = .ok (.if_icmp .le 5, 3) := dk_164 0 5 (dk_at dksX0_later_0 20 rfl rfl)
theorem dX0_later_23 : decode cX0_later 23 = .ok (.iconst (-1), 1) := dk_2 (dk_at dksX0_later_0 23 rfl rfl)
theorem dX0_later_24 : decode cX0_later 24 = .ok (.ireturn, 1) := dk_172 (dk_at dksX0_later_1 0 rfl rfl)
theorem dX0_later_25 : decode cX0_later 25 = .ok (.aload_n 0, 1) := dk_42 (dk_at dksX0_later_1 1 rfl rfl)
theorem dX0_later_26 : decode cX0_later 26 = .ok (.dup, 1) := dk_89 (dk_at dksX0_later_1 2 rfl rfl)
theorem dX0_later_27 : decode cX0_later 27 = .ok (.getfield 347, 3) := dk_180 1 91 (dk_at dksX0_later_1 3 rfl rfl)
theorem dX0_later_30 : decode cX0_later 30 = .ok (.iload_n 1, 1) := dk_27 (dk_at dksX0_later_1 6 rfl rfl)
theorem dX0_later_31 : decode cX0_later 31 = .ok (.iadd, 1) := dk_96 (dk_at dksX0_later_1 7 rfl rfl)
theorem dX0_later_32 : decode cX0_later 32 = .ok (.putfield 347, 3) := dk_181 1 91 (dk_at dksX0_later_1 8 rfl rfl)
theorem dX0_later_35 : decode cX0_later 35 = .ok (.aload_n 0, 1) := dk_42 (dk_at dksX0_later_1 11 rfl rfl)
theorem dX0_later_36 : decode cX0_later 36 = .ok (.getfield 347, 3) := dk_180 1 91 (dk_at dksX0_later_1 12 rfl rfl)
theorem dX0_later_39 : decode cX0_later 39 = .ok (.ireturn, 1) := dk_172 (dk_at dksX0_later_1 15 rfl rfl)
abbrev cX0_fits : ByteArray := prog_1_method_68_code
def yX0_fits : MethodName := ⟨RX0, "fits", "(I)I"⟩
def dkwX0_fits_0 : List UInt8 := [42, 27, 182, 1, 101, 172]
abbrev dktX0_fits_0 : List UInt8 := dkwX0_fits_0 ++ []
theorem dksX0_fits_0 : cX0_fits.data.toList.drop 0 = dktX0_fits_0 := by decide +kernel
theorem dX0_fits_0 : decode cX0_fits 0 = .ok (.aload_n 0, 1) := dk_42 (dk_at dksX0_fits_0 0 rfl rfl)
theorem dX0_fits_1 : decode cX0_fits 1 = .ok (.iload_n 1, 1) := dk_27 (dk_at dksX0_fits_0 1 rfl rfl)
theorem dX0_fits_2 : decode cX0_fits 2 = .ok (.invokevirtual 357, 3) := dk_182 1 101 (dk_at dksX0_fits_0 2 rfl rfl)
theorem dX0_fits_5 : decode cX0_fits 5 = .ok (.ireturn, 1) := dk_172 (dk_at dksX0_fits_0 5 rfl rfl)
abbrev cX0_layFits : ByteArray := prog_1_method_67_code
def yX0_layFits : MethodName := ⟨RX0, "layFits", "(I)I"⟩
def dkwX0_layFits_6 : List UInt8 := [51, 153, 0, 7, 4, 167, 0, 4, 3, 96, 61, 132, 3, 1, 167, 255, 108, 28, 172]
abbrev dktX0_layFits_6 : List UInt8 := dkwX0_layFits_6 ++ []
def dkwX0_layFits_5 : List UInt8 := [182, 0, 9, 192, 1, 79, 29, 27, 182, 1, 98, 84, 132, 4, 1, 167, 255, 209, 28, 42, 180, 0, 95, 29]
abbrev dktX0_layFits_5 : List UInt8 := dkwX0_layFits_5 ++ dktX0_layFits_6
def dkwX0_layFits_4 : List UInt8 := [162, 0, 41, 42, 180, 0, 95, 29, 51, 153, 0, 32, 42, 180, 0, 95, 29, 42, 180, 0, 88, 21, 4]
abbrev dktX0_layFits_4 : List UInt8 := dkwX0_layFits_4 ++ dktX0_layFits_5
def dkwX0_layFits_3 : List UInt8 := [167, 255, 222, 42, 180, 0, 95, 29, 4, 84, 3, 54, 4, 21, 4, 42, 180, 0, 88, 182, 0, 3]
abbrev dktX0_layFits_3 : List UInt8 := dkwX0_layFits_3 ++ dktX0_layFits_4
def dkwX0_layFits_2 : List UInt8 := [180, 0, 92, 29, 50, 21, 4, 42, 180, 0, 60, 42, 180, 0, 42, 21, 4, 182, 0, 203, 79, 132, 4, 1]
abbrev dktX0_layFits_2 : List UInt8 := dkwX0_layFits_2 ++ dktX0_layFits_3
def dkwX0_layFits_1 : List UInt8 := [180, 0, 42, 182, 0, 49, 29, 181, 1, 95, 3, 54, 4, 21, 4, 42, 182, 0, 140, 162, 0, 31, 42]
abbrev dktX0_layFits_1 : List UInt8 := dkwX0_layFits_1 ++ dktX0_layFits_2
def dkwX0_layFits_0 : List UInt8 := [3, 61, 3, 62, 29, 16, 30, 163, 0, 148, 42, 182, 0, 167, 158, 0, 141, 42, 180, 0, 60, 42]
abbrev dktX0_layFits_0 : List UInt8 := dkwX0_layFits_0 ++ dktX0_layFits_1
theorem dksX0_layFits_0 : cX0_layFits.data.toList.drop 0 = dktX0_layFits_0 := by decide +kernel
theorem dksX0_layFits_1 : cX0_layFits.data.toList.drop 22 = dktX0_layFits_1 := dk_seg dksX0_layFits_0 22 rfl rfl
theorem dksX0_layFits_2 : cX0_layFits.data.toList.drop 45 = dktX0_layFits_2 := dk_seg dksX0_layFits_1 23 rfl rfl
theorem dksX0_layFits_3 : cX0_layFits.data.toList.drop 69 = dktX0_layFits_3 := dk_seg dksX0_layFits_2 24 rfl rfl
theorem dksX0_layFits_4 : cX0_layFits.data.toList.drop 91 = dktX0_layFits_4 := dk_seg dksX0_layFits_3 22 rfl rfl
theorem dksX0_layFits_5 : cX0_layFits.data.toList.drop 114 = dktX0_layFits_5 := dk_seg dksX0_layFits_4 23 rfl rfl
theorem dksX0_layFits_6 : cX0_layFits.data.toList.drop 138 = dktX0_layFits_6 := dk_seg dksX0_layFits_5 24 rfl rfl
theorem dX0_layFits_0 : decode cX0_layFits 0 = .ok (.iconst 0, 1) := dk_3 (dk_at dksX0_layFits_0 0 rfl rfl)
theorem dX0_layFits_1 : decode cX0_layFits 1 = .ok (.istore_n 2, 1) := dk_61 (dk_at dksX0_layFits_0 1 rfl rfl)
theorem dX0_layFits_2 : decode cX0_layFits 2 = .ok (.iconst 0, 1) := dk_3 (dk_at dksX0_layFits_0 2 rfl rfl)
theorem dX0_layFits_3 : decode cX0_layFits 3 = .ok (.istore_n 3, 1) := dk_62 (dk_at dksX0_layFits_0 3 rfl rfl)
theorem dX0_layFits_4 : decode cX0_layFits 4 = .ok (.iload_n 3, 1) := dk_29 (dk_at dksX0_layFits_0 4 rfl rfl)
theorem dX0_layFits_5 : decode cX0_layFits 5 = .ok (.bipush 30, 2) := dk_16 30 (dk_at dksX0_layFits_0 5 rfl rfl)
theorem dX0_layFits_7 : decode cX0_layFits 7 = .ok (.if_icmp .gt 148, 3) := dk_163 0 148 (dk_at dksX0_layFits_0 7 rfl rfl)
theorem dX0_layFits_10 : decode cX0_layFits 10 = .ok (.aload_n 0, 1) := dk_42 (dk_at dksX0_layFits_0 10 rfl rfl)
theorem dX0_layFits_11 : decode cX0_layFits 11 = .ok (.invokevirtual 167, 3) := dk_182 0 167 (dk_at dksX0_layFits_0 11 rfl rfl)
theorem dX0_layFits_14 : decode cX0_layFits 14 = .ok (.ifCond .le 141, 3) := dk_158 0 141 (dk_at dksX0_layFits_0 14 rfl rfl)
theorem dX0_layFits_17 : decode cX0_layFits 17 = .ok (.aload_n 0, 1) := dk_42 (dk_at dksX0_layFits_0 17 rfl rfl)
theorem dX0_layFits_18 : decode cX0_layFits 18 = .ok (.getfield 60, 3) := dk_180 0 60 (dk_at dksX0_layFits_0 18 rfl rfl)
theorem dX0_layFits_21 : decode cX0_layFits 21 = .ok (.aload_n 0, 1) := dk_42 (dk_at dksX0_layFits_0 21 rfl rfl)
theorem dX0_layFits_22 : decode cX0_layFits 22 = .ok (.getfield 42, 3) := dk_180 0 42 (dk_at dksX0_layFits_1 0 rfl rfl)
theorem dX0_layFits_25 : decode cX0_layFits 25 = .ok (.invokevirtual 49, 3) := dk_182 0 49 (dk_at dksX0_layFits_1 3 rfl rfl)
theorem dX0_layFits_28 : decode cX0_layFits 28 = .ok (.iload_n 3, 1) := dk_29 (dk_at dksX0_layFits_1 6 rfl rfl)
theorem dX0_layFits_29 : decode cX0_layFits 29 = .ok (.putfield 351, 3) := dk_181 1 95 (dk_at dksX0_layFits_1 7 rfl rfl)
theorem dX0_layFits_32 : decode cX0_layFits 32 = .ok (.iconst 0, 1) := dk_3 (dk_at dksX0_layFits_1 10 rfl rfl)
theorem dX0_layFits_33 : decode cX0_layFits 33 = .ok (.istore 4, 2) := dk_54 4 (dk_at dksX0_layFits_1 11 rfl rfl)
theorem dX0_layFits_35 : decode cX0_layFits 35 = .ok (.iload 4, 2) := dk_21 4 (dk_at dksX0_layFits_1 13 rfl rfl)
theorem dX0_layFits_37 : decode cX0_layFits 37 = .ok (.aload_n 0, 1) := dk_42 (dk_at dksX0_layFits_1 15 rfl rfl)
theorem dX0_layFits_38 : decode cX0_layFits 38 = .ok (.invokevirtual 140, 3) := dk_182 0 140 (dk_at dksX0_layFits_1 16 rfl rfl)
theorem dX0_layFits_41 : decode cX0_layFits 41 = .ok (.if_icmp .ge 31, 3) := dk_162 0 31 (dk_at dksX0_layFits_1 19 rfl rfl)
theorem dX0_layFits_44 : decode cX0_layFits 44 = .ok (.aload_n 0, 1) := dk_42 (dk_at dksX0_layFits_1 22 rfl rfl)
theorem dX0_layFits_45 : decode cX0_layFits 45 = .ok (.getfield 92, 3) := dk_180 0 92 (dk_at dksX0_layFits_2 0 rfl rfl)
theorem dX0_layFits_48 : decode cX0_layFits 48 = .ok (.iload_n 3, 1) := dk_29 (dk_at dksX0_layFits_2 3 rfl rfl)
theorem dX0_layFits_49 : decode cX0_layFits 49 = .ok (.aaload, 1) := dk_50 (dk_at dksX0_layFits_2 4 rfl rfl)
theorem dX0_layFits_50 : decode cX0_layFits 50 = .ok (.iload 4, 2) := dk_21 4 (dk_at dksX0_layFits_2 5 rfl rfl)
theorem dX0_layFits_52 : decode cX0_layFits 52 = .ok (.aload_n 0, 1) := dk_42 (dk_at dksX0_layFits_2 7 rfl rfl)
theorem dX0_layFits_53 : decode cX0_layFits 53 = .ok (.getfield 60, 3) := dk_180 0 60 (dk_at dksX0_layFits_2 8 rfl rfl)
theorem dX0_layFits_56 : decode cX0_layFits 56 = .ok (.aload_n 0, 1) := dk_42 (dk_at dksX0_layFits_2 11 rfl rfl)
theorem dX0_layFits_57 : decode cX0_layFits 57 = .ok (.getfield 42, 3) := dk_180 0 42 (dk_at dksX0_layFits_2 12 rfl rfl)
theorem dX0_layFits_60 : decode cX0_layFits 60 = .ok (.iload 4, 2) := dk_21 4 (dk_at dksX0_layFits_2 15 rfl rfl)
theorem dX0_layFits_62 : decode cX0_layFits 62 = .ok (.invokevirtual 203, 3) := dk_182 0 203 (dk_at dksX0_layFits_2 17 rfl rfl)
theorem dX0_layFits_65 : decode cX0_layFits 65 = .ok (.iastore, 1) := dk_79 (dk_at dksX0_layFits_2 20 rfl rfl)
theorem dX0_layFits_66 : decode cX0_layFits 66 = .ok (.iinc 4 1, 3) := dk_132 4 1 (dk_at dksX0_layFits_2 21 rfl rfl)
theorem dX0_layFits_69 : decode cX0_layFits 69 = .ok (.goto (-34), 3) := dk_167 255 222 (dk_at dksX0_layFits_3 0 rfl rfl)
theorem dX0_layFits_72 : decode cX0_layFits 72 = .ok (.aload_n 0, 1) := dk_42 (dk_at dksX0_layFits_3 3 rfl rfl)
theorem dX0_layFits_73 : decode cX0_layFits 73 = .ok (.getfield 95, 3) := dk_180 0 95 (dk_at dksX0_layFits_3 4 rfl rfl)
theorem dX0_layFits_76 : decode cX0_layFits 76 = .ok (.iload_n 3, 1) := dk_29 (dk_at dksX0_layFits_3 7 rfl rfl)
theorem dX0_layFits_77 : decode cX0_layFits 77 = .ok (.iconst 1, 1) := dk_4 (dk_at dksX0_layFits_3 8 rfl rfl)
theorem dX0_layFits_78 : decode cX0_layFits 78 = .ok (.bastore, 1) := dk_84 (dk_at dksX0_layFits_3 9 rfl rfl)
theorem dX0_layFits_79 : decode cX0_layFits 79 = .ok (.iconst 0, 1) := dk_3 (dk_at dksX0_layFits_3 10 rfl rfl)
theorem dX0_layFits_80 : decode cX0_layFits 80 = .ok (.istore 4, 2) := dk_54 4 (dk_at dksX0_layFits_3 11 rfl rfl)
theorem dX0_layFits_82 : decode cX0_layFits 82 = .ok (.iload 4, 2) := dk_21 4 (dk_at dksX0_layFits_3 13 rfl rfl)
theorem dX0_layFits_84 : decode cX0_layFits 84 = .ok (.aload_n 0, 1) := dk_42 (dk_at dksX0_layFits_3 15 rfl rfl)
theorem dX0_layFits_85 : decode cX0_layFits 85 = .ok (.getfield 88, 3) := dk_180 0 88 (dk_at dksX0_layFits_3 16 rfl rfl)
theorem dX0_layFits_88 : decode cX0_layFits 88 = .ok (.invokevirtual 3, 3) := dk_182 0 3 (dk_at dksX0_layFits_3 19 rfl rfl)
theorem dX0_layFits_91 : decode cX0_layFits 91 = .ok (.if_icmp .ge 41, 3) := dk_162 0 41 (dk_at dksX0_layFits_4 0 rfl rfl)
theorem dX0_layFits_94 : decode cX0_layFits 94 = .ok (.aload_n 0, 1) := dk_42 (dk_at dksX0_layFits_4 3 rfl rfl)
theorem dX0_layFits_95 : decode cX0_layFits 95 = .ok (.getfield 95, 3) := dk_180 0 95 (dk_at dksX0_layFits_4 4 rfl rfl)
theorem dX0_layFits_98 : decode cX0_layFits 98 = .ok (.iload_n 3, 1) := dk_29 (dk_at dksX0_layFits_4 7 rfl rfl)
theorem dX0_layFits_99 : decode cX0_layFits 99 = .ok (.baload, 1) := dk_51 (dk_at dksX0_layFits_4 8 rfl rfl)
theorem dX0_layFits_100 : decode cX0_layFits 100 = .ok (.ifCond .eq 32, 3) := dk_153 0 32 (dk_at dksX0_layFits_4 9 rfl rfl)
theorem dX0_layFits_103 : decode cX0_layFits 103 = .ok (.aload_n 0, 1) := dk_42 (dk_at dksX0_layFits_4 12 rfl rfl)
theorem dX0_layFits_104 : decode cX0_layFits 104 = .ok (.getfield 95, 3) := dk_180 0 95 (dk_at dksX0_layFits_4 13 rfl rfl)
theorem dX0_layFits_107 : decode cX0_layFits 107 = .ok (.iload_n 3, 1) := dk_29 (dk_at dksX0_layFits_4 16 rfl rfl)
theorem dX0_layFits_108 : decode cX0_layFits 108 = .ok (.aload_n 0, 1) := dk_42 (dk_at dksX0_layFits_4 17 rfl rfl)
theorem dX0_layFits_109 : decode cX0_layFits 109 = .ok (.getfield 88, 3) := dk_180 0 88 (dk_at dksX0_layFits_4 18 rfl rfl)
theorem dX0_layFits_112 : decode cX0_layFits 112 = .ok (.iload 4, 2) := dk_21 4 (dk_at dksX0_layFits_4 21 rfl rfl)
theorem dX0_layFits_114 : decode cX0_layFits 114 = .ok (.invokevirtual 9, 3) := dk_182 0 9 (dk_at dksX0_layFits_5 0 rfl rfl)
theorem dX0_layFits_117 : decode cX0_layFits 117 = .ok (.checkcast 335, 3) := dk_192 1 79 (dk_at dksX0_layFits_5 3 rfl rfl)
theorem dX0_layFits_120 : decode cX0_layFits 120 = .ok (.iload_n 3, 1) := dk_29 (dk_at dksX0_layFits_5 6 rfl rfl)
theorem dX0_layFits_121 : decode cX0_layFits 121 = .ok (.iload_n 1, 1) := dk_27 (dk_at dksX0_layFits_5 7 rfl rfl)
theorem dX0_layFits_122 : decode cX0_layFits 122 = .ok (.invokevirtual 354, 3) := dk_182 1 98 (dk_at dksX0_layFits_5 8 rfl rfl)
theorem dX0_layFits_125 : decode cX0_layFits 125 = .ok (.bastore, 1) := dk_84 (dk_at dksX0_layFits_5 11 rfl rfl)
theorem dX0_layFits_126 : decode cX0_layFits 126 = .ok (.iinc 4 1, 3) := dk_132 4 1 (dk_at dksX0_layFits_5 12 rfl rfl)
theorem dX0_layFits_129 : decode cX0_layFits 129 = .ok (.goto (-47), 3) := dk_167 255 209 (dk_at dksX0_layFits_5 15 rfl rfl)
theorem dX0_layFits_132 : decode cX0_layFits 132 = .ok (.iload_n 2, 1) := dk_28 (dk_at dksX0_layFits_5 18 rfl rfl)
theorem dX0_layFits_133 : decode cX0_layFits 133 = .ok (.aload_n 0, 1) := dk_42 (dk_at dksX0_layFits_5 19 rfl rfl)
theorem dX0_layFits_134 : decode cX0_layFits 134 = .ok (.getfield 95, 3) := dk_180 0 95 (dk_at dksX0_layFits_5 20 rfl rfl)
theorem dX0_layFits_137 : decode cX0_layFits 137 = .ok (.iload_n 3, 1) := dk_29 (dk_at dksX0_layFits_5 23 rfl rfl)
theorem dX0_layFits_138 : decode cX0_layFits 138 = .ok (.baload, 1) := dk_51 (dk_at dksX0_layFits_6 0 rfl rfl)
theorem dX0_layFits_139 : decode cX0_layFits 139 = .ok (.ifCond .eq 7, 3) := dk_153 0 7 (dk_at dksX0_layFits_6 1 rfl rfl)
theorem dX0_layFits_142 : decode cX0_layFits 142 = .ok (.iconst 1, 1) := dk_4 (dk_at dksX0_layFits_6 4 rfl rfl)
theorem dX0_layFits_143 : decode cX0_layFits 143 = .ok (.goto 4, 3) := dk_167 0 4 (dk_at dksX0_layFits_6 5 rfl rfl)
theorem dX0_layFits_146 : decode cX0_layFits 146 = .ok (.iconst 0, 1) := dk_3 (dk_at dksX0_layFits_6 8 rfl rfl)
theorem dX0_layFits_147 : decode cX0_layFits 147 = .ok (.iadd, 1) := dk_96 (dk_at dksX0_layFits_6 9 rfl rfl)
theorem dX0_layFits_148 : decode cX0_layFits 148 = .ok (.istore_n 2, 1) := dk_61 (dk_at dksX0_layFits_6 10 rfl rfl)
theorem dX0_layFits_149 : decode cX0_layFits 149 = .ok (.iinc 3 1, 3) := dk_132 3 1 (dk_at dksX0_layFits_6 11 rfl rfl)
theorem dX0_layFits_152 : decode cX0_layFits 152 = .ok (.goto (-148), 3) := dk_167 255 108 (dk_at dksX0_layFits_6 14 rfl rfl)
theorem dX0_layFits_155 : decode cX0_layFits 155 = .ok (.iload_n 2, 1) := dk_28 (dk_at dksX0_layFits_6 17 rfl rfl)
theorem dX0_layFits_156 : decode cX0_layFits 156 = .ok (.ireturn, 1) := dk_172 (dk_at dksX0_layFits_6 18 rfl rfl)
abbrev cX0_sure : ByteArray := prog_1_method_69_code
def yX0_sure : MethodName := ⟨RX0, "sure", "(II)I"⟩
def dkwX0_sure_2 : List UInt8 := [160, 0, 6, 21, 4, 62, 132, 4, 1, 167, 255, 224, 29, 172]
abbrev dktX0_sure_2 : List UInt8 := dkwX0_sure_2 ++ []
def dkwX0_sure_1 : List UInt8 := [21, 4, 16, 30, 163, 0, 31, 42, 180, 0, 95, 21, 4, 51, 153, 0, 15, 29, 155, 0, 8, 27, 4]
abbrev dktX0_sure_1 : List UInt8 := dkwX0_sure_1 ++ dktX0_sure_2
def dkwX0_sure_0 : List UInt8 := [27, 3, 4, 184, 0, 154, 153, 0, 11, 42, 28, 182, 1, 101, 154, 0, 5, 2, 172, 2, 62, 3, 54, 4]
abbrev dktX0_sure_0 : List UInt8 := dkwX0_sure_0 ++ dktX0_sure_1
theorem dksX0_sure_0 : cX0_sure.data.toList.drop 0 = dktX0_sure_0 := by decide +kernel
theorem dksX0_sure_1 : cX0_sure.data.toList.drop 24 = dktX0_sure_1 := dk_seg dksX0_sure_0 24 rfl rfl
theorem dksX0_sure_2 : cX0_sure.data.toList.drop 47 = dktX0_sure_2 := dk_seg dksX0_sure_1 23 rfl rfl
theorem dX0_sure_0 : decode cX0_sure 0 = .ok (.iload_n 1, 1) := dk_27 (dk_at dksX0_sure_0 0 rfl rfl)
theorem dX0_sure_1 : decode cX0_sure 1 = .ok (.iconst 0, 1) := dk_3 (dk_at dksX0_sure_0 1 rfl rfl)
theorem dX0_sure_2 : decode cX0_sure 2 = .ok (.iconst 1, 1) := dk_4 (dk_at dksX0_sure_0 2 rfl rfl)
theorem dX0_sure_3 : decode cX0_sure 3 = .ok (.invokestatic 154, 3) := dk_184 0 154 (dk_at dksX0_sure_0 3 rfl rfl)
theorem dX0_sure_6 : decode cX0_sure 6 = .ok (.ifCond .eq 11, 3) := dk_153 0 11 (dk_at dksX0_sure_0 6 rfl rfl)
theorem dX0_sure_9 : decode cX0_sure 9 = .ok (.aload_n 0, 1) := dk_42 (dk_at dksX0_sure_0 9 rfl rfl)
theorem dX0_sure_10 : decode cX0_sure 10 = .ok (.iload_n 2, 1) := dk_28 (dk_at dksX0_sure_0 10 rfl rfl)
theorem dX0_sure_11 : decode cX0_sure 11 = .ok (.invokevirtual 357, 3) := dk_182 1 101 (dk_at dksX0_sure_0 11 rfl rfl)
theorem dX0_sure_14 : decode cX0_sure 14 = .ok (.ifCond .ne 5, 3) := dk_154 0 5 (dk_at dksX0_sure_0 14 rfl rfl)
theorem dX0_sure_17 : decode cX0_sure 17 = .ok (.iconst (-1), 1) := dk_2 (dk_at dksX0_sure_0 17 rfl rfl)
theorem dX0_sure_18 : decode cX0_sure 18 = .ok (.ireturn, 1) := dk_172 (dk_at dksX0_sure_0 18 rfl rfl)
theorem dX0_sure_19 : decode cX0_sure 19 = .ok (.iconst (-1), 1) := dk_2 (dk_at dksX0_sure_0 19 rfl rfl)
theorem dX0_sure_20 : decode cX0_sure 20 = .ok (.istore_n 3, 1) := dk_62 (dk_at dksX0_sure_0 20 rfl rfl)
theorem dX0_sure_21 : decode cX0_sure 21 = .ok (.iconst 0, 1) := dk_3 (dk_at dksX0_sure_0 21 rfl rfl)
theorem dX0_sure_22 : decode cX0_sure 22 = .ok (.istore 4, 2) := dk_54 4 (dk_at dksX0_sure_0 22 rfl rfl)
theorem dX0_sure_24 : decode cX0_sure 24 = .ok (.iload 4, 2) := dk_21 4 (dk_at dksX0_sure_1 0 rfl rfl)
theorem dX0_sure_26 : decode cX0_sure 26 = .ok (.bipush 30, 2) := dk_16 30 (dk_at dksX0_sure_1 2 rfl rfl)
theorem dX0_sure_28 : decode cX0_sure 28 = .ok (.if_icmp .gt 31, 3) := dk_163 0 31 (dk_at dksX0_sure_1 4 rfl rfl)
theorem dX0_sure_31 : decode cX0_sure 31 = .ok (.aload_n 0, 1) := dk_42 (dk_at dksX0_sure_1 7 rfl rfl)
theorem dX0_sure_32 : decode cX0_sure 32 = .ok (.getfield 95, 3) := dk_180 0 95 (dk_at dksX0_sure_1 8 rfl rfl)
theorem dX0_sure_35 : decode cX0_sure 35 = .ok (.iload 4, 2) := dk_21 4 (dk_at dksX0_sure_1 11 rfl rfl)
theorem dX0_sure_37 : decode cX0_sure 37 = .ok (.baload, 1) := dk_51 (dk_at dksX0_sure_1 13 rfl rfl)
theorem dX0_sure_38 : decode cX0_sure 38 = .ok (.ifCond .eq 15, 3) := dk_153 0 15 (dk_at dksX0_sure_1 14 rfl rfl)
theorem dX0_sure_41 : decode cX0_sure 41 = .ok (.iload_n 3, 1) := dk_29 (dk_at dksX0_sure_1 17 rfl rfl)
theorem dX0_sure_42 : decode cX0_sure 42 = .ok (.ifCond .lt 8, 3) := dk_155 0 8 (dk_at dksX0_sure_1 18 rfl rfl)
theorem dX0_sure_45 : decode cX0_sure 45 = .ok (.iload_n 1, 1) := dk_27 (dk_at dksX0_sure_1 21 rfl rfl)
theorem dX0_sure_46 : decode cX0_sure 46 = .ok (.iconst 1, 1) := dk_4 (dk_at dksX0_sure_1 22 rfl rfl)
theorem dX0_sure_47 : decode cX0_sure 47 = .ok (.if_icmp .ne 6, 3) := dk_160 0 6 (dk_at dksX0_sure_2 0 rfl rfl)
theorem dX0_sure_50 : decode cX0_sure 50 = .ok (.iload 4, 2) := dk_21 4 (dk_at dksX0_sure_2 3 rfl rfl)
theorem dX0_sure_52 : decode cX0_sure 52 = .ok (.istore_n 3, 1) := dk_62 (dk_at dksX0_sure_2 5 rfl rfl)
theorem dX0_sure_53 : decode cX0_sure 53 = .ok (.iinc 4 1, 3) := dk_132 4 1 (dk_at dksX0_sure_2 6 rfl rfl)
theorem dX0_sure_56 : decode cX0_sure 56 = .ok (.goto (-32), 3) := dk_167 255 224 (dk_at dksX0_sure_2 9 rfl rfl)
theorem dX0_sure_59 : decode cX0_sure 59 = .ok (.iload_n 3, 1) := dk_29 (dk_at dksX0_sure_2 12 rfl rfl)
theorem dX0_sure_60 : decode cX0_sure 60 = .ok (.ireturn, 1) := dk_172 (dk_at dksX0_sure_2 13 rfl rfl)
abbrev cX0_ask : ByteArray := prog_1_method_71_code
def yX0_ask : MethodName := ⟨RX0, "ask", "(II)I"⟩
def dkwX0_ask_3 : List UInt8 := [167, 0, 8, 42, 29, 182, 1, 104, 172]
abbrev dktX0_ask_3 : List UInt8 := dkwX0_ask_3 ++ []
def dkwX0_ask_2 : List UInt8 := [182, 1, 104, 162, 0, 8, 21, 4, 167, 0, 4, 29, 62, 132, 4, 1, 167, 255, 223, 27, 154, 0, 7, 29]
abbrev dktX0_ask_2 : List UInt8 := dkwX0_ask_2 ++ dktX0_ask_3
def dkwX0_ask_1 : List UInt8 := [2, 172, 3, 62, 4, 54, 4, 21, 4, 42, 182, 0, 140, 162, 0, 30, 42, 21, 4, 182, 1, 104, 42, 29]
abbrev dktX0_ask_1 : List UInt8 := dkwX0_ask_1 ++ dktX0_ask_2
def dkwX0_ask_0 : List UInt8 := [27, 3, 4, 184, 0, 154, 153, 0, 18, 42, 182, 0, 140, 153, 0, 11, 42, 28, 182, 1, 101, 154, 0, 5]
abbrev dktX0_ask_0 : List UInt8 := dkwX0_ask_0 ++ dktX0_ask_1
theorem dksX0_ask_0 : cX0_ask.data.toList.drop 0 = dktX0_ask_0 := by decide +kernel
theorem dksX0_ask_1 : cX0_ask.data.toList.drop 24 = dktX0_ask_1 := dk_seg dksX0_ask_0 24 rfl rfl
theorem dksX0_ask_2 : cX0_ask.data.toList.drop 48 = dktX0_ask_2 := dk_seg dksX0_ask_1 24 rfl rfl
theorem dksX0_ask_3 : cX0_ask.data.toList.drop 72 = dktX0_ask_3 := dk_seg dksX0_ask_2 24 rfl rfl
theorem dX0_ask_0 : decode cX0_ask 0 = .ok (.iload_n 1, 1) := dk_27 (dk_at dksX0_ask_0 0 rfl rfl)
theorem dX0_ask_1 : decode cX0_ask 1 = .ok (.iconst 0, 1) := dk_3 (dk_at dksX0_ask_0 1 rfl rfl)
theorem dX0_ask_2 : decode cX0_ask 2 = .ok (.iconst 1, 1) := dk_4 (dk_at dksX0_ask_0 2 rfl rfl)
theorem dX0_ask_3 : decode cX0_ask 3 = .ok (.invokestatic 154, 3) := dk_184 0 154 (dk_at dksX0_ask_0 3 rfl rfl)
theorem dX0_ask_6 : decode cX0_ask 6 = .ok (.ifCond .eq 18, 3) := dk_153 0 18 (dk_at dksX0_ask_0 6 rfl rfl)
theorem dX0_ask_9 : decode cX0_ask 9 = .ok (.aload_n 0, 1) := dk_42 (dk_at dksX0_ask_0 9 rfl rfl)
theorem dX0_ask_10 : decode cX0_ask 10 = .ok (.invokevirtual 140, 3) := dk_182 0 140 (dk_at dksX0_ask_0 10 rfl rfl)
theorem dX0_ask_13 : decode cX0_ask 13 = .ok (.ifCond .eq 11, 3) := dk_153 0 11 (dk_at dksX0_ask_0 13 rfl rfl)
theorem dX0_ask_16 : decode cX0_ask 16 = .ok (.aload_n 0, 1) := dk_42 (dk_at dksX0_ask_0 16 rfl rfl)
theorem dX0_ask_17 : decode cX0_ask 17 = .ok (.iload_n 2, 1) := dk_28 (dk_at dksX0_ask_0 17 rfl rfl)
theorem dX0_ask_18 : decode cX0_ask 18 = .ok (.invokevirtual 357, 3) := dk_182 1 101 (dk_at dksX0_ask_0 18 rfl rfl)
theorem dX0_ask_21 : decode cX0_ask 21 = .ok (.ifCond .ne 5, 3) := dk_154 0 5 (dk_at dksX0_ask_0 21 rfl rfl)
theorem dX0_ask_24 : decode cX0_ask 24 = .ok (.iconst (-1), 1) := dk_2 (dk_at dksX0_ask_1 0 rfl rfl)
theorem dX0_ask_25 : decode cX0_ask 25 = .ok (.ireturn, 1) := dk_172 (dk_at dksX0_ask_1 1 rfl rfl)
theorem dX0_ask_26 : decode cX0_ask 26 = .ok (.iconst 0, 1) := dk_3 (dk_at dksX0_ask_1 2 rfl rfl)
theorem dX0_ask_27 : decode cX0_ask 27 = .ok (.istore_n 3, 1) := dk_62 (dk_at dksX0_ask_1 3 rfl rfl)
theorem dX0_ask_28 : decode cX0_ask 28 = .ok (.iconst 1, 1) := dk_4 (dk_at dksX0_ask_1 4 rfl rfl)
theorem dX0_ask_29 : decode cX0_ask 29 = .ok (.istore 4, 2) := dk_54 4 (dk_at dksX0_ask_1 5 rfl rfl)
theorem dX0_ask_31 : decode cX0_ask 31 = .ok (.iload 4, 2) := dk_21 4 (dk_at dksX0_ask_1 7 rfl rfl)
theorem dX0_ask_33 : decode cX0_ask 33 = .ok (.aload_n 0, 1) := dk_42 (dk_at dksX0_ask_1 9 rfl rfl)
theorem dX0_ask_34 : decode cX0_ask 34 = .ok (.invokevirtual 140, 3) := dk_182 0 140 (dk_at dksX0_ask_1 10 rfl rfl)
theorem dX0_ask_37 : decode cX0_ask 37 = .ok (.if_icmp .ge 30, 3) := dk_162 0 30 (dk_at dksX0_ask_1 13 rfl rfl)
theorem dX0_ask_40 : decode cX0_ask 40 = .ok (.aload_n 0, 1) := dk_42 (dk_at dksX0_ask_1 16 rfl rfl)
theorem dX0_ask_41 : decode cX0_ask 41 = .ok (.iload 4, 2) := dk_21 4 (dk_at dksX0_ask_1 17 rfl rfl)
theorem dX0_ask_43 : decode cX0_ask 43 = .ok (.invokevirtual 360, 3) := dk_182 1 104 (dk_at dksX0_ask_1 19 rfl rfl)
theorem dX0_ask_46 : decode cX0_ask 46 = .ok (.aload_n 0, 1) := dk_42 (dk_at dksX0_ask_1 22 rfl rfl)
theorem dX0_ask_47 : decode cX0_ask 47 = .ok (.iload_n 3, 1) := dk_29 (dk_at dksX0_ask_1 23 rfl rfl)
theorem dX0_ask_48 : decode cX0_ask 48 = .ok (.invokevirtual 360, 3) := dk_182 1 104 (dk_at dksX0_ask_2 0 rfl rfl)
theorem dX0_ask_51 : decode cX0_ask 51 = .ok (.if_icmp .ge 8, 3) := dk_162 0 8 (dk_at dksX0_ask_2 3 rfl rfl)
theorem dX0_ask_54 : decode cX0_ask 54 = .ok (.iload 4, 2) := dk_21 4 (dk_at dksX0_ask_2 6 rfl rfl)
theorem dX0_ask_56 : decode cX0_ask 56 = .ok (.goto 4, 3) := dk_167 0 4 (dk_at dksX0_ask_2 8 rfl rfl)
theorem dX0_ask_59 : decode cX0_ask 59 = .ok (.iload_n 3, 1) := dk_29 (dk_at dksX0_ask_2 11 rfl rfl)
theorem dX0_ask_60 : decode cX0_ask 60 = .ok (.istore_n 3, 1) := dk_62 (dk_at dksX0_ask_2 12 rfl rfl)
theorem dX0_ask_61 : decode cX0_ask 61 = .ok (.iinc 4 1, 3) := dk_132 4 1 (dk_at dksX0_ask_2 13 rfl rfl)
theorem dX0_ask_64 : decode cX0_ask 64 = .ok (.goto (-33), 3) := dk_167 255 223 (dk_at dksX0_ask_2 16 rfl rfl)
theorem dX0_ask_67 : decode cX0_ask 67 = .ok (.iload_n 1, 1) := dk_27 (dk_at dksX0_ask_2 19 rfl rfl)
theorem dX0_ask_68 : decode cX0_ask 68 = .ok (.ifCond .ne 7, 3) := dk_154 0 7 (dk_at dksX0_ask_2 20 rfl rfl)
theorem dX0_ask_71 : decode cX0_ask 71 = .ok (.iload_n 3, 1) := dk_29 (dk_at dksX0_ask_2 23 rfl rfl)
theorem dX0_ask_72 : decode cX0_ask 72 = .ok (.goto 8, 3) := dk_167 0 8 (dk_at dksX0_ask_3 0 rfl rfl)
theorem dX0_ask_75 : decode cX0_ask 75 = .ok (.aload_n 0, 1) := dk_42 (dk_at dksX0_ask_3 3 rfl rfl)
theorem dX0_ask_76 : decode cX0_ask 76 = .ok (.iload_n 3, 1) := dk_29 (dk_at dksX0_ask_3 4 rfl rfl)
theorem dX0_ask_77 : decode cX0_ask 77 = .ok (.invokevirtual 360, 3) := dk_182 1 104 (dk_at dksX0_ask_3 5 rfl rfl)
theorem dX0_ask_80 : decode cX0_ask 80 = .ok (.ireturn, 1) := dk_172 (dk_at dksX0_ask_3 8 rfl rfl)
abbrev cX0_leftBy : ByteArray := prog_1_method_70_code
def yX0_leftBy : MethodName := ⟨RX0, "leftBy", "(I)I"⟩
def dkwX0_leftBy_4 : List UInt8 := [167, 255, 171, 28, 29, 21, 4, 184, 1, 60, 184, 1, 60, 172]
abbrev dktX0_leftBy_4 : List UInt8 := dkwX0_leftBy_4 ++ []
def dkwX0_leftBy_3 : List UInt8 := [42, 180, 0, 92, 21, 5, 50, 27, 46, 156, 0, 7, 4, 167, 0, 4, 3, 96, 54, 4, 132, 5, 1]
abbrev dktX0_leftBy_3 : List UInt8 := dkwX0_leftBy_3 ++ dktX0_leftBy_4
def dkwX0_leftBy_2 : List UInt8 := [96, 61, 29, 42, 180, 0, 92, 21, 5, 50, 27, 46, 154, 0, 7, 4, 167, 0, 4, 3, 96, 62, 21, 4]
abbrev dktX0_leftBy_2 : List UInt8 := dkwX0_leftBy_2 ++ dktX0_leftBy_3
def dkwX0_leftBy_1 : List UInt8 := [154, 0, 6, 167, 0, 65, 28, 42, 180, 0, 92, 21, 5, 50, 27, 46, 158, 0, 7, 4, 167, 0, 4, 3]
abbrev dktX0_leftBy_1 : List UInt8 := dkwX0_leftBy_1 ++ dktX0_leftBy_2
def dkwX0_leftBy_0 : List UInt8 := [3, 61, 3, 62, 3, 54, 4, 3, 54, 5, 21, 5, 16, 30, 163, 0, 84, 42, 180, 0, 95, 21, 5, 51]
abbrev dktX0_leftBy_0 : List UInt8 := dkwX0_leftBy_0 ++ dktX0_leftBy_1
theorem dksX0_leftBy_0 : cX0_leftBy.data.toList.drop 0 = dktX0_leftBy_0 := by decide +kernel
theorem dksX0_leftBy_1 : cX0_leftBy.data.toList.drop 24 = dktX0_leftBy_1 := dk_seg dksX0_leftBy_0 24 rfl rfl
theorem dksX0_leftBy_2 : cX0_leftBy.data.toList.drop 48 = dktX0_leftBy_2 := dk_seg dksX0_leftBy_1 24 rfl rfl
theorem dksX0_leftBy_3 : cX0_leftBy.data.toList.drop 72 = dktX0_leftBy_3 := dk_seg dksX0_leftBy_2 24 rfl rfl
theorem dksX0_leftBy_4 : cX0_leftBy.data.toList.drop 95 = dktX0_leftBy_4 := dk_seg dksX0_leftBy_3 23 rfl rfl
theorem dX0_leftBy_0 : decode cX0_leftBy 0 = .ok (.iconst 0, 1) := dk_3 (dk_at dksX0_leftBy_0 0 rfl rfl)
theorem dX0_leftBy_1 : decode cX0_leftBy 1 = .ok (.istore_n 2, 1) := dk_61 (dk_at dksX0_leftBy_0 1 rfl rfl)
theorem dX0_leftBy_2 : decode cX0_leftBy 2 = .ok (.iconst 0, 1) := dk_3 (dk_at dksX0_leftBy_0 2 rfl rfl)
theorem dX0_leftBy_3 : decode cX0_leftBy 3 = .ok (.istore_n 3, 1) := dk_62 (dk_at dksX0_leftBy_0 3 rfl rfl)
theorem dX0_leftBy_4 : decode cX0_leftBy 4 = .ok (.iconst 0, 1) := dk_3 (dk_at dksX0_leftBy_0 4 rfl rfl)
theorem dX0_leftBy_5 : decode cX0_leftBy 5 = .ok (.istore 4, 2) := dk_54 4 (dk_at dksX0_leftBy_0 5 rfl rfl)
theorem dX0_leftBy_7 : decode cX0_leftBy 7 = .ok (.iconst 0, 1) := dk_3 (dk_at dksX0_leftBy_0 7 rfl rfl)
theorem dX0_leftBy_8 : decode cX0_leftBy 8 = .ok (.istore 5, 2) := dk_54 5 (dk_at dksX0_leftBy_0 8 rfl rfl)
theorem dX0_leftBy_10 : decode cX0_leftBy 10 = .ok (.iload 5, 2) := dk_21 5 (dk_at dksX0_leftBy_0 10 rfl rfl)
theorem dX0_leftBy_12 : decode cX0_leftBy 12 = .ok (.bipush 30, 2) := dk_16 30 (dk_at dksX0_leftBy_0 12 rfl rfl)
theorem dX0_leftBy_14 : decode cX0_leftBy 14 = .ok (.if_icmp .gt 84, 3) := dk_163 0 84 (dk_at dksX0_leftBy_0 14 rfl rfl)
theorem dX0_leftBy_17 : decode cX0_leftBy 17 = .ok (.aload_n 0, 1) := dk_42 (dk_at dksX0_leftBy_0 17 rfl rfl)
theorem dX0_leftBy_18 : decode cX0_leftBy 18 = .ok (.getfield 95, 3) := dk_180 0 95 (dk_at dksX0_leftBy_0 18 rfl rfl)
theorem dX0_leftBy_21 : decode cX0_leftBy 21 = .ok (.iload 5, 2) := dk_21 5 (dk_at dksX0_leftBy_0 21 rfl rfl)
theorem dX0_leftBy_23 : decode cX0_leftBy 23 = .ok (.baload, 1) := dk_51 (dk_at dksX0_leftBy_0 23 rfl rfl)
theorem dX0_leftBy_24 : decode cX0_leftBy 24 = .ok (.ifCond .ne 6, 3) := dk_154 0 6 (dk_at dksX0_leftBy_1 0 rfl rfl)
theorem dX0_leftBy_27 : decode cX0_leftBy 27 = .ok (.goto 65, 3) := dk_167 0 65 (dk_at dksX0_leftBy_1 3 rfl rfl)
theorem dX0_leftBy_30 : decode cX0_leftBy 30 = .ok (.iload_n 2, 1) := dk_28 (dk_at dksX0_leftBy_1 6 rfl rfl)
theorem dX0_leftBy_31 : decode cX0_leftBy 31 = .ok (.aload_n 0, 1) := dk_42 (dk_at dksX0_leftBy_1 7 rfl rfl)
theorem dX0_leftBy_32 : decode cX0_leftBy 32 = .ok (.getfield 92, 3) := dk_180 0 92 (dk_at dksX0_leftBy_1 8 rfl rfl)
theorem dX0_leftBy_35 : decode cX0_leftBy 35 = .ok (.iload 5, 2) := dk_21 5 (dk_at dksX0_leftBy_1 11 rfl rfl)
theorem dX0_leftBy_37 : decode cX0_leftBy 37 = .ok (.aaload, 1) := dk_50 (dk_at dksX0_leftBy_1 13 rfl rfl)
theorem dX0_leftBy_38 : decode cX0_leftBy 38 = .ok (.iload_n 1, 1) := dk_27 (dk_at dksX0_leftBy_1 14 rfl rfl)
theorem dX0_leftBy_39 : decode cX0_leftBy 39 = .ok (.iaload, 1) := dk_46 (dk_at dksX0_leftBy_1 15 rfl rfl)
theorem dX0_leftBy_40 : decode cX0_leftBy 40 = .ok (.ifCond .le 7, 3) := dk_158 0 7 (dk_at dksX0_leftBy_1 16 rfl rfl)
theorem dX0_leftBy_43 : decode cX0_leftBy 43 = .ok (.iconst 1, 1) := dk_4 (dk_at dksX0_leftBy_1 19 rfl rfl)
theorem dX0_leftBy_44 : decode cX0_leftBy 44 = .ok (.goto 4, 3) := dk_167 0 4 (dk_at dksX0_leftBy_1 20 rfl rfl)
theorem dX0_leftBy_47 : decode cX0_leftBy 47 = .ok (.iconst 0, 1) := dk_3 (dk_at dksX0_leftBy_1 23 rfl rfl)
theorem dX0_leftBy_48 : decode cX0_leftBy 48 = .ok (.iadd, 1) := dk_96 (dk_at dksX0_leftBy_2 0 rfl rfl)
theorem dX0_leftBy_49 : decode cX0_leftBy 49 = .ok (.istore_n 2, 1) := dk_61 (dk_at dksX0_leftBy_2 1 rfl rfl)
theorem dX0_leftBy_50 : decode cX0_leftBy 50 = .ok (.iload_n 3, 1) := dk_29 (dk_at dksX0_leftBy_2 2 rfl rfl)
theorem dX0_leftBy_51 : decode cX0_leftBy 51 = .ok (.aload_n 0, 1) := dk_42 (dk_at dksX0_leftBy_2 3 rfl rfl)
theorem dX0_leftBy_52 : decode cX0_leftBy 52 = .ok (.getfield 92, 3) := dk_180 0 92 (dk_at dksX0_leftBy_2 4 rfl rfl)
theorem dX0_leftBy_55 : decode cX0_leftBy 55 = .ok (.iload 5, 2) := dk_21 5 (dk_at dksX0_leftBy_2 7 rfl rfl)
theorem dX0_leftBy_57 : decode cX0_leftBy 57 = .ok (.aaload, 1) := dk_50 (dk_at dksX0_leftBy_2 9 rfl rfl)
theorem dX0_leftBy_58 : decode cX0_leftBy 58 = .ok (.iload_n 1, 1) := dk_27 (dk_at dksX0_leftBy_2 10 rfl rfl)
theorem dX0_leftBy_59 : decode cX0_leftBy 59 = .ok (.iaload, 1) := dk_46 (dk_at dksX0_leftBy_2 11 rfl rfl)
theorem dX0_leftBy_60 : decode cX0_leftBy 60 = .ok (.ifCond .ne 7, 3) := dk_154 0 7 (dk_at dksX0_leftBy_2 12 rfl rfl)
theorem dX0_leftBy_63 : decode cX0_leftBy 63 = .ok (.iconst 1, 1) := dk_4 (dk_at dksX0_leftBy_2 15 rfl rfl)
theorem dX0_leftBy_64 : decode cX0_leftBy 64 = .ok (.goto 4, 3) := dk_167 0 4 (dk_at dksX0_leftBy_2 16 rfl rfl)
theorem dX0_leftBy_67 : decode cX0_leftBy 67 = .ok (.iconst 0, 1) := dk_3 (dk_at dksX0_leftBy_2 19 rfl rfl)
theorem dX0_leftBy_68 : decode cX0_leftBy 68 = .ok (.iadd, 1) := dk_96 (dk_at dksX0_leftBy_2 20 rfl rfl)
theorem dX0_leftBy_69 : decode cX0_leftBy 69 = .ok (.istore_n 3, 1) := dk_62 (dk_at dksX0_leftBy_2 21 rfl rfl)
theorem dX0_leftBy_70 : decode cX0_leftBy 70 = .ok (.iload 4, 2) := dk_21 4 (dk_at dksX0_leftBy_2 22 rfl rfl)
theorem dX0_leftBy_72 : decode cX0_leftBy 72 = .ok (.aload_n 0, 1) := dk_42 (dk_at dksX0_leftBy_3 0 rfl rfl)
theorem dX0_leftBy_73 : decode cX0_leftBy 73 = .ok (.getfield 92, 3) := dk_180 0 92 (dk_at dksX0_leftBy_3 1 rfl rfl)
theorem dX0_leftBy_76 : decode cX0_leftBy 76 = .ok (.iload 5, 2) := dk_21 5 (dk_at dksX0_leftBy_3 4 rfl rfl)
theorem dX0_leftBy_78 : decode cX0_leftBy 78 = .ok (.aaload, 1) := dk_50 (dk_at dksX0_leftBy_3 6 rfl rfl)
theorem dX0_leftBy_79 : decode cX0_leftBy 79 = .ok (.iload_n 1, 1) := dk_27 (dk_at dksX0_leftBy_3 7 rfl rfl)
theorem dX0_leftBy_80 : decode cX0_leftBy 80 = .ok (.iaload, 1) := dk_46 (dk_at dksX0_leftBy_3 8 rfl rfl)
theorem dX0_leftBy_81 : decode cX0_leftBy 81 = .ok (.ifCond .ge 7, 3) := dk_156 0 7 (dk_at dksX0_leftBy_3 9 rfl rfl)
theorem dX0_leftBy_84 : decode cX0_leftBy 84 = .ok (.iconst 1, 1) := dk_4 (dk_at dksX0_leftBy_3 12 rfl rfl)
theorem dX0_leftBy_85 : decode cX0_leftBy 85 = .ok (.goto 4, 3) := dk_167 0 4 (dk_at dksX0_leftBy_3 13 rfl rfl)
theorem dX0_leftBy_88 : decode cX0_leftBy 88 = .ok (.iconst 0, 1) := dk_3 (dk_at dksX0_leftBy_3 16 rfl rfl)
theorem dX0_leftBy_89 : decode cX0_leftBy 89 = .ok (.iadd, 1) := dk_96 (dk_at dksX0_leftBy_3 17 rfl rfl)
theorem dX0_leftBy_90 : decode cX0_leftBy 90 = .ok (.istore 4, 2) := dk_54 4 (dk_at dksX0_leftBy_3 18 rfl rfl)
theorem dX0_leftBy_92 : decode cX0_leftBy 92 = .ok (.iinc 5 1, 3) := dk_132 5 1 (dk_at dksX0_leftBy_3 20 rfl rfl)
theorem dX0_leftBy_95 : decode cX0_leftBy 95 = .ok (.goto (-85), 3) := dk_167 255 171 (dk_at dksX0_leftBy_4 0 rfl rfl)
theorem dX0_leftBy_98 : decode cX0_leftBy 98 = .ok (.iload_n 2, 1) := dk_28 (dk_at dksX0_leftBy_4 3 rfl rfl)
theorem dX0_leftBy_99 : decode cX0_leftBy 99 = .ok (.iload_n 3, 1) := dk_29 (dk_at dksX0_leftBy_4 4 rfl rfl)
theorem dX0_leftBy_100 : decode cX0_leftBy 100 = .ok (.iload 4, 2) := dk_21 4 (dk_at dksX0_leftBy_4 5 rfl rfl)
theorem dX0_leftBy_102 : decode cX0_leftBy 102 = .ok (.invokestatic 316, 3) := dk_184 1 60 (dk_at dksX0_leftBy_4 7 rfl rfl)
theorem dX0_leftBy_105 : decode cX0_leftBy 105 = .ok (.invokestatic 316, 3) := dk_184 1 60 (dk_at dksX0_leftBy_4 10 rfl rfl)
theorem dX0_leftBy_108 : decode cX0_leftBy 108 = .ok (.ireturn, 1) := dk_172 (dk_at dksX0_leftBy_4 13 rfl rfl)
abbrev cX0_image : ByteArray := prog_1_method_73_code
def yX0_image : MethodName := ⟨RX0, "image", "(I)I"⟩
def dkwX0_image_1 : List UInt8 := [180, 0, 102, 27, 4, 84, 42, 180, 0, 53, 180, 0, 217, 172]
abbrev dktX0_image_1 : List UInt8 := dkwX0_image_1 ++ []
def dkwX0_image_0 : List UInt8 := [27, 184, 1, 107, 154, 0, 5, 2, 172, 42, 180, 0, 99, 27, 50, 42, 180, 0, 53, 182, 0, 213, 87, 42]
abbrev dktX0_image_0 : List UInt8 := dkwX0_image_0 ++ dktX0_image_1
theorem dksX0_image_0 : cX0_image.data.toList.drop 0 = dktX0_image_0 := by decide +kernel
theorem dksX0_image_1 : cX0_image.data.toList.drop 24 = dktX0_image_1 := dk_seg dksX0_image_0 24 rfl rfl
theorem dX0_image_0 : decode cX0_image 0 = .ok (.iload_n 1, 1) := dk_27 (dk_at dksX0_image_0 0 rfl rfl)
theorem dX0_image_1 : decode cX0_image 1 = .ok (.invokestatic 363, 3) := dk_184 1 107 (dk_at dksX0_image_0 1 rfl rfl)
theorem dX0_image_4 : decode cX0_image 4 = .ok (.ifCond .ne 5, 3) := dk_154 0 5 (dk_at dksX0_image_0 4 rfl rfl)
theorem dX0_image_7 : decode cX0_image 7 = .ok (.iconst (-1), 1) := dk_2 (dk_at dksX0_image_0 7 rfl rfl)
theorem dX0_image_8 : decode cX0_image 8 = .ok (.ireturn, 1) := dk_172 (dk_at dksX0_image_0 8 rfl rfl)
theorem dX0_image_9 : decode cX0_image 9 = .ok (.aload_n 0, 1) := dk_42 (dk_at dksX0_image_0 9 rfl rfl)
theorem dX0_image_10 : decode cX0_image 10 = .ok (.getfield 99, 3) := dk_180 0 99 (dk_at dksX0_image_0 10 rfl rfl)
theorem dX0_image_13 : decode cX0_image 13 = .ok (.iload_n 1, 1) := dk_27 (dk_at dksX0_image_0 13 rfl rfl)
theorem dX0_image_14 : decode cX0_image 14 = .ok (.aaload, 1) := dk_50 (dk_at dksX0_image_0 14 rfl rfl)
theorem dX0_image_15 : decode cX0_image 15 = .ok (.aload_n 0, 1) := dk_42 (dk_at dksX0_image_0 15 rfl rfl)
theorem dX0_image_16 : decode cX0_image 16 = .ok (.getfield 53, 3) := dk_180 0 53 (dk_at dksX0_image_0 16 rfl rfl)
theorem dX0_image_19 : decode cX0_image 19 = .ok (.invokevirtual 213, 3) := dk_182 0 213 (dk_at dksX0_image_0 19 rfl rfl)
theorem dX0_image_22 : decode cX0_image 22 = .ok (.pop, 1) := dk_87 (dk_at dksX0_image_0 22 rfl rfl)
theorem dX0_image_23 : decode cX0_image 23 = .ok (.aload_n 0, 1) := dk_42 (dk_at dksX0_image_0 23 rfl rfl)
theorem dX0_image_24 : decode cX0_image 24 = .ok (.getfield 102, 3) := dk_180 0 102 (dk_at dksX0_image_1 0 rfl rfl)
theorem dX0_image_27 : decode cX0_image 27 = .ok (.iload_n 1, 1) := dk_27 (dk_at dksX0_image_1 3 rfl rfl)
theorem dX0_image_28 : decode cX0_image 28 = .ok (.iconst 1, 1) := dk_4 (dk_at dksX0_image_1 4 rfl rfl)
theorem dX0_image_29 : decode cX0_image 29 = .ok (.bastore, 1) := dk_84 (dk_at dksX0_image_1 5 rfl rfl)
theorem dX0_image_30 : decode cX0_image 30 = .ok (.aload_n 0, 1) := dk_42 (dk_at dksX0_image_1 6 rfl rfl)
theorem dX0_image_31 : decode cX0_image 31 = .ok (.getfield 53, 3) := dk_180 0 53 (dk_at dksX0_image_1 7 rfl rfl)
theorem dX0_image_34 : decode cX0_image 34 = .ok (.getfield 217, 3) := dk_180 0 217 (dk_at dksX0_image_1 10 rfl rfl)
theorem dX0_image_37 : decode cX0_image 37 = .ok (.ireturn, 1) := dk_172 (dk_at dksX0_image_1 13 rfl rfl)
abbrev cX0_isBox : ByteArray := prog_1_method_72_code
def yX0_isBox : MethodName := ⟨RX0, "isBox", "(I)Z"⟩
def dkwX0_isBox_0 : List UInt8 := [26, 3, 5, 184, 0, 154, 172]
abbrev dktX0_isBox_0 : List UInt8 := dkwX0_isBox_0 ++ []
theorem dksX0_isBox_0 : cX0_isBox.data.toList.drop 0 = dktX0_isBox_0 := by decide +kernel
theorem dX0_isBox_0 : decode cX0_isBox 0 = .ok (.iload_n 0, 1) := dk_26 (dk_at dksX0_isBox_0 0 rfl rfl)
theorem dX0_isBox_1 : decode cX0_isBox 1 = .ok (.iconst 0, 1) := dk_3 (dk_at dksX0_isBox_0 1 rfl rfl)
theorem dX0_isBox_2 : decode cX0_isBox 2 = .ok (.iconst 2, 1) := dk_5 (dk_at dksX0_isBox_0 2 rfl rfl)
theorem dX0_isBox_3 : decode cX0_isBox 3 = .ok (.invokestatic 154, 3) := dk_184 0 154 (dk_at dksX0_isBox_0 3 rfl rfl)
theorem dX0_isBox_6 : decode cX0_isBox 6 = .ok (.ireturn, 1) := dk_172 (dk_at dksX0_isBox_0 6 rfl rfl)
abbrev cX0_restore : ByteArray := prog_1_method_74_code
def yX0_restore : MethodName := ⟨RX0, "restore", "(I)I"⟩
def dkwX0_restore_2 : List UInt8 := [180, 0, 217, 172]
abbrev dktX0_restore_2 : List UInt8 := dkwX0_restore_2 ++ []
def dkwX0_restore_1 : List UInt8 := [180, 0, 99, 27, 50, 182, 0, 213, 87, 42, 3, 181, 0, 117, 42, 3, 181, 0, 120, 42, 180, 0, 53]
abbrev dktX0_restore_1 : List UInt8 := dkwX0_restore_1 ++ dktX0_restore_2
def dkwX0_restore_0 : List UInt8 := [27, 184, 1, 107, 153, 0, 12, 42, 180, 0, 102, 27, 51, 154, 0, 5, 2, 172, 42, 180, 0, 53, 42]
abbrev dktX0_restore_0 : List UInt8 := dkwX0_restore_0 ++ dktX0_restore_1
theorem dksX0_restore_0 : cX0_restore.data.toList.drop 0 = dktX0_restore_0 := by decide +kernel
theorem dksX0_restore_1 : cX0_restore.data.toList.drop 23 = dktX0_restore_1 := dk_seg dksX0_restore_0 23 rfl rfl
theorem dksX0_restore_2 : cX0_restore.data.toList.drop 46 = dktX0_restore_2 := dk_seg dksX0_restore_1 23 rfl rfl
theorem dX0_restore_0 : decode cX0_restore 0 = .ok (.iload_n 1, 1) := dk_27 (dk_at dksX0_restore_0 0 rfl rfl)
theorem dX0_restore_1 : decode cX0_restore 1 = .ok (.invokestatic 363, 3) := dk_184 1 107 (dk_at dksX0_restore_0 1 rfl rfl)
theorem dX0_restore_4 : decode cX0_restore 4 = .ok (.ifCond .eq 12, 3) := dk_153 0 12 (dk_at dksX0_restore_0 4 rfl rfl)
theorem dX0_restore_7 : decode cX0_restore 7 = .ok (.aload_n 0, 1) := dk_42 (dk_at dksX0_restore_0 7 rfl rfl)
theorem dX0_restore_8 : decode cX0_restore 8 = .ok (.getfield 102, 3) := dk_180 0 102 (dk_at dksX0_restore_0 8 rfl rfl)
theorem dX0_restore_11 : decode cX0_restore 11 = .ok (.iload_n 1, 1) := dk_27 (dk_at dksX0_restore_0 11 rfl rfl)
theorem dX0_restore_12 : decode cX0_restore 12 = .ok (.baload, 1) := dk_51 (dk_at dksX0_restore_0 12 rfl rfl)
theorem dX0_restore_13 : decode cX0_restore 13 = .ok (.ifCond .ne 5, 3) := dk_154 0 5 (dk_at dksX0_restore_0 13 rfl rfl)
theorem dX0_restore_16 : decode cX0_restore 16 = .ok (.iconst (-1), 1) := dk_2 (dk_at dksX0_restore_0 16 rfl rfl)
theorem dX0_restore_17 : decode cX0_restore 17 = .ok (.ireturn, 1) := dk_172 (dk_at dksX0_restore_0 17 rfl rfl)
theorem dX0_restore_18 : decode cX0_restore 18 = .ok (.aload_n 0, 1) := dk_42 (dk_at dksX0_restore_0 18 rfl rfl)
theorem dX0_restore_19 : decode cX0_restore 19 = .ok (.getfield 53, 3) := dk_180 0 53 (dk_at dksX0_restore_0 19 rfl rfl)
theorem dX0_restore_22 : decode cX0_restore 22 = .ok (.aload_n 0, 1) := dk_42 (dk_at dksX0_restore_0 22 rfl rfl)
theorem dX0_restore_23 : decode cX0_restore 23 = .ok (.getfield 99, 3) := dk_180 0 99 (dk_at dksX0_restore_1 0 rfl rfl)
theorem dX0_restore_26 : decode cX0_restore 26 = .ok (.iload_n 1, 1) := dk_27 (dk_at dksX0_restore_1 3 rfl rfl)
theorem dX0_restore_27 : decode cX0_restore 27 = .ok (.aaload, 1) := dk_50 (dk_at dksX0_restore_1 4 rfl rfl)
theorem dX0_restore_28 : decode cX0_restore 28 = .ok (.invokevirtual 213, 3) := dk_182 0 213 (dk_at dksX0_restore_1 5 rfl rfl)
theorem dX0_restore_31 : decode cX0_restore 31 = .ok (.pop, 1) := dk_87 (dk_at dksX0_restore_1 8 rfl rfl)
theorem dX0_restore_32 : decode cX0_restore 32 = .ok (.aload_n 0, 1) := dk_42 (dk_at dksX0_restore_1 9 rfl rfl)
theorem dX0_restore_33 : decode cX0_restore 33 = .ok (.iconst 0, 1) := dk_3 (dk_at dksX0_restore_1 10 rfl rfl)
theorem dX0_restore_34 : decode cX0_restore 34 = .ok (.putfield 117, 3) := dk_181 0 117 (dk_at dksX0_restore_1 11 rfl rfl)
theorem dX0_restore_37 : decode cX0_restore 37 = .ok (.aload_n 0, 1) := dk_42 (dk_at dksX0_restore_1 14 rfl rfl)
theorem dX0_restore_38 : decode cX0_restore 38 = .ok (.iconst 0, 1) := dk_3 (dk_at dksX0_restore_1 15 rfl rfl)
theorem dX0_restore_39 : decode cX0_restore 39 = .ok (.putfield 120, 3) := dk_181 0 120 (dk_at dksX0_restore_1 16 rfl rfl)
theorem dX0_restore_42 : decode cX0_restore 42 = .ok (.aload_n 0, 1) := dk_42 (dk_at dksX0_restore_1 19 rfl rfl)
theorem dX0_restore_43 : decode cX0_restore 43 = .ok (.getfield 53, 3) := dk_180 0 53 (dk_at dksX0_restore_1 20 rfl rfl)
theorem dX0_restore_46 : decode cX0_restore 46 = .ok (.getfield 217, 3) := dk_180 0 217 (dk_at dksX0_restore_2 0 rfl rfl)
theorem dX0_restore_49 : decode cX0_restore 49 = .ok (.ireturn, 1) := dk_172 (dk_at dksX0_restore_2 3 rfl rfl)
abbrev cX0_about : ByteArray := prog_1_method_75_code
def yX0_about : MethodName := ⟨RX0, "about", "(I)I"⟩
def dkwX0_about_6 : List UInt8 := [172, 42, 180, 0, 123, 172, 42, 180, 0, 53, 180, 1, 0, 172, 2, 172]
abbrev dktX0_about_6 : List UInt8 := dkwX0_about_6 ++ []
def dkwX0_about_5 : List UInt8 := [180, 0, 88, 182, 0, 3, 172, 42, 180, 1, 91, 172, 42, 180, 0, 105, 172, 42, 180, 0, 42, 180, 1, 113]
abbrev dktX0_about_5 : List UInt8 := dkwX0_about_5 ++ dktX0_about_6
def dkwX0_about_4 : List UInt8 := [167, 0, 4, 3, 172, 42, 180, 0, 53, 180, 1, 110, 172, 42, 180, 0, 117, 172, 42, 180, 0, 120, 172, 42]
abbrev dktX0_about_4 : List UInt8 := dkwX0_about_4 ++ dktX0_about_5
def dkwX0_about_3 : List UInt8 := [180, 0, 220, 172, 42, 180, 0, 53, 180, 0, 217, 172, 42, 180, 0, 53, 180, 0, 226, 153, 0, 7, 4]
abbrev dktX0_about_3 : List UInt8 := dkwX0_about_3 ++ dktX0_about_4
def dkwX0_about_2 : List UInt8 := [42, 182, 0, 140, 172, 42, 182, 0, 165, 172, 42, 182, 0, 254, 172, 42, 182, 0, 167, 172, 42, 180, 0, 53]
abbrev dktX0_about_2 : List UInt8 := dkwX0_about_2 ++ dktX0_about_3
def dkwX0_about_1 : List UInt8 := [170, 0, 0, 0, 0, 0, 188, 0, 0, 0, 0, 0, 0, 0, 15, 0, 0, 0, 79, 0, 0, 0, 84, 0, 0, 0, 89, 0, 0, 0, 94, 0, 0, 0, 99, 0, 0, 0, 107, 0, 0, 0, 115, 0, 0, 0, 131, 0, 0, 0, 139, 0, 0, 0, 144, 0, 0, 0, 149, 0, 0, 0, 157, 0, 0, 0, 162, 0, 0, 0, 167, 0, 0, 0, 175, 0, 0, 0, 180]
abbrev dktX0_about_1 : List UInt8 := dkwX0_about_1 ++ dktX0_about_2
def dkwX0_about_0 : List UInt8 := [27]
abbrev dktX0_about_0 : List UInt8 := dkwX0_about_0 ++ dktX0_about_1
theorem dksX0_about_0 : cX0_about.data.toList.drop 0 = dktX0_about_0 := by decide +kernel
theorem dksX0_about_1 : cX0_about.data.toList.drop 1 = dktX0_about_1 := dk_seg dksX0_about_0 1 rfl rfl
theorem dksX0_about_2 : cX0_about.data.toList.drop 80 = dktX0_about_2 := dk_seg dksX0_about_1 79 rfl rfl
theorem dksX0_about_3 : cX0_about.data.toList.drop 104 = dktX0_about_3 := dk_seg dksX0_about_2 24 rfl rfl
theorem dksX0_about_4 : cX0_about.data.toList.drop 127 = dktX0_about_4 := dk_seg dksX0_about_3 23 rfl rfl
theorem dksX0_about_5 : cX0_about.data.toList.drop 151 = dktX0_about_5 := dk_seg dksX0_about_4 24 rfl rfl
theorem dksX0_about_6 : cX0_about.data.toList.drop 175 = dktX0_about_6 := dk_seg dksX0_about_5 24 rfl rfl
theorem dX0_about_0 : decode cX0_about 0 = .ok (.iload_n 1, 1) := dk_27 (dk_at dksX0_about_0 0 rfl rfl)
theorem dX0_about_1 : decode cX0_about 1 = .ok (.tableswitch 188 0 15 #[79, 84, 89, 94, 99, 107, 115, 131, 139, 144, 149, 157, 162, 167, 175, 180], 79) := by decide +kernel
theorem dX0_about_80 : decode cX0_about 80 = .ok (.aload_n 0, 1) := dk_42 (dk_at dksX0_about_2 0 rfl rfl)
theorem dX0_about_81 : decode cX0_about 81 = .ok (.invokevirtual 140, 3) := dk_182 0 140 (dk_at dksX0_about_2 1 rfl rfl)
theorem dX0_about_84 : decode cX0_about 84 = .ok (.ireturn, 1) := dk_172 (dk_at dksX0_about_2 4 rfl rfl)
theorem dX0_about_85 : decode cX0_about 85 = .ok (.aload_n 0, 1) := dk_42 (dk_at dksX0_about_2 5 rfl rfl)
theorem dX0_about_86 : decode cX0_about 86 = .ok (.invokevirtual 165, 3) := dk_182 0 165 (dk_at dksX0_about_2 6 rfl rfl)
theorem dX0_about_89 : decode cX0_about 89 = .ok (.ireturn, 1) := dk_172 (dk_at dksX0_about_2 9 rfl rfl)
theorem dX0_about_90 : decode cX0_about 90 = .ok (.aload_n 0, 1) := dk_42 (dk_at dksX0_about_2 10 rfl rfl)
theorem dX0_about_91 : decode cX0_about 91 = .ok (.invokevirtual 254, 3) := dk_182 0 254 (dk_at dksX0_about_2 11 rfl rfl)
theorem dX0_about_94 : decode cX0_about 94 = .ok (.ireturn, 1) := dk_172 (dk_at dksX0_about_2 14 rfl rfl)
theorem dX0_about_95 : decode cX0_about 95 = .ok (.aload_n 0, 1) := dk_42 (dk_at dksX0_about_2 15 rfl rfl)
theorem dX0_about_96 : decode cX0_about 96 = .ok (.invokevirtual 167, 3) := dk_182 0 167 (dk_at dksX0_about_2 16 rfl rfl)
theorem dX0_about_99 : decode cX0_about 99 = .ok (.ireturn, 1) := dk_172 (dk_at dksX0_about_2 19 rfl rfl)
theorem dX0_about_100 : decode cX0_about 100 = .ok (.aload_n 0, 1) := dk_42 (dk_at dksX0_about_2 20 rfl rfl)
theorem dX0_about_101 : decode cX0_about 101 = .ok (.getfield 53, 3) := dk_180 0 53 (dk_at dksX0_about_2 21 rfl rfl)
theorem dX0_about_104 : decode cX0_about 104 = .ok (.getfield 220, 3) := dk_180 0 220 (dk_at dksX0_about_3 0 rfl rfl)
theorem dX0_about_107 : decode cX0_about 107 = .ok (.ireturn, 1) := dk_172 (dk_at dksX0_about_3 3 rfl rfl)
theorem dX0_about_108 : decode cX0_about 108 = .ok (.aload_n 0, 1) := dk_42 (dk_at dksX0_about_3 4 rfl rfl)
theorem dX0_about_109 : decode cX0_about 109 = .ok (.getfield 53, 3) := dk_180 0 53 (dk_at dksX0_about_3 5 rfl rfl)
theorem dX0_about_112 : decode cX0_about 112 = .ok (.getfield 217, 3) := dk_180 0 217 (dk_at dksX0_about_3 8 rfl rfl)
theorem dX0_about_115 : decode cX0_about 115 = .ok (.ireturn, 1) := dk_172 (dk_at dksX0_about_3 11 rfl rfl)
theorem dX0_about_116 : decode cX0_about 116 = .ok (.aload_n 0, 1) := dk_42 (dk_at dksX0_about_3 12 rfl rfl)
theorem dX0_about_117 : decode cX0_about 117 = .ok (.getfield 53, 3) := dk_180 0 53 (dk_at dksX0_about_3 13 rfl rfl)
theorem dX0_about_120 : decode cX0_about 120 = .ok (.getfield 226, 3) := dk_180 0 226 (dk_at dksX0_about_3 16 rfl rfl)
theorem dX0_about_123 : decode cX0_about 123 = .ok (.ifCond .eq 7, 3) := dk_153 0 7 (dk_at dksX0_about_3 19 rfl rfl)
theorem dX0_about_126 : decode cX0_about 126 = .ok (.iconst 1, 1) := dk_4 (dk_at dksX0_about_3 22 rfl rfl)
theorem dX0_about_127 : decode cX0_about 127 = .ok (.goto 4, 3) := dk_167 0 4 (dk_at dksX0_about_4 0 rfl rfl)
theorem dX0_about_130 : decode cX0_about 130 = .ok (.iconst 0, 1) := dk_3 (dk_at dksX0_about_4 3 rfl rfl)
theorem dX0_about_131 : decode cX0_about 131 = .ok (.ireturn, 1) := dk_172 (dk_at dksX0_about_4 4 rfl rfl)
theorem dX0_about_132 : decode cX0_about 132 = .ok (.aload_n 0, 1) := dk_42 (dk_at dksX0_about_4 5 rfl rfl)
theorem dX0_about_133 : decode cX0_about 133 = .ok (.getfield 53, 3) := dk_180 0 53 (dk_at dksX0_about_4 6 rfl rfl)
theorem dX0_about_136 : decode cX0_about 136 = .ok (.getfield 366, 3) := dk_180 1 110 (dk_at dksX0_about_4 9 rfl rfl)
theorem dX0_about_139 : decode cX0_about 139 = .ok (.ireturn, 1) := dk_172 (dk_at dksX0_about_4 12 rfl rfl)
theorem dX0_about_140 : decode cX0_about 140 = .ok (.aload_n 0, 1) := dk_42 (dk_at dksX0_about_4 13 rfl rfl)
theorem dX0_about_141 : decode cX0_about 141 = .ok (.getfield 117, 3) := dk_180 0 117 (dk_at dksX0_about_4 14 rfl rfl)
theorem dX0_about_144 : decode cX0_about 144 = .ok (.ireturn, 1) := dk_172 (dk_at dksX0_about_4 17 rfl rfl)
theorem dX0_about_145 : decode cX0_about 145 = .ok (.aload_n 0, 1) := dk_42 (dk_at dksX0_about_4 18 rfl rfl)
theorem dX0_about_146 : decode cX0_about 146 = .ok (.getfield 120, 3) := dk_180 0 120 (dk_at dksX0_about_4 19 rfl rfl)
theorem dX0_about_149 : decode cX0_about 149 = .ok (.ireturn, 1) := dk_172 (dk_at dksX0_about_4 22 rfl rfl)
theorem dX0_about_150 : decode cX0_about 150 = .ok (.aload_n 0, 1) := dk_42 (dk_at dksX0_about_4 23 rfl rfl)
theorem dX0_about_151 : decode cX0_about 151 = .ok (.getfield 88, 3) := dk_180 0 88 (dk_at dksX0_about_5 0 rfl rfl)
theorem dX0_about_154 : decode cX0_about 154 = .ok (.invokevirtual 3, 3) := dk_182 0 3 (dk_at dksX0_about_5 3 rfl rfl)
theorem dX0_about_157 : decode cX0_about 157 = .ok (.ireturn, 1) := dk_172 (dk_at dksX0_about_5 6 rfl rfl)
theorem dX0_about_158 : decode cX0_about 158 = .ok (.aload_n 0, 1) := dk_42 (dk_at dksX0_about_5 7 rfl rfl)
theorem dX0_about_159 : decode cX0_about 159 = .ok (.getfield 347, 3) := dk_180 1 91 (dk_at dksX0_about_5 8 rfl rfl)
theorem dX0_about_162 : decode cX0_about 162 = .ok (.ireturn, 1) := dk_172 (dk_at dksX0_about_5 11 rfl rfl)
theorem dX0_about_163 : decode cX0_about 163 = .ok (.aload_n 0, 1) := dk_42 (dk_at dksX0_about_5 12 rfl rfl)
theorem dX0_about_164 : decode cX0_about 164 = .ok (.getfield 105, 3) := dk_180 0 105 (dk_at dksX0_about_5 13 rfl rfl)
theorem dX0_about_167 : decode cX0_about 167 = .ok (.ireturn, 1) := dk_172 (dk_at dksX0_about_5 16 rfl rfl)
theorem dX0_about_168 : decode cX0_about 168 = .ok (.aload_n 0, 1) := dk_42 (dk_at dksX0_about_5 17 rfl rfl)
theorem dX0_about_169 : decode cX0_about 169 = .ok (.getfield 42, 3) := dk_180 0 42 (dk_at dksX0_about_5 18 rfl rfl)
theorem dX0_about_172 : decode cX0_about 172 = .ok (.getfield 369, 3) := dk_180 1 113 (dk_at dksX0_about_5 21 rfl rfl)
theorem dX0_about_175 : decode cX0_about 175 = .ok (.ireturn, 1) := dk_172 (dk_at dksX0_about_6 0 rfl rfl)
theorem dX0_about_176 : decode cX0_about 176 = .ok (.aload_n 0, 1) := dk_42 (dk_at dksX0_about_6 1 rfl rfl)
theorem dX0_about_177 : decode cX0_about 177 = .ok (.getfield 123, 3) := dk_180 0 123 (dk_at dksX0_about_6 2 rfl rfl)
theorem dX0_about_180 : decode cX0_about 180 = .ok (.ireturn, 1) := dk_172 (dk_at dksX0_about_6 5 rfl rfl)
theorem dX0_about_181 : decode cX0_about 181 = .ok (.aload_n 0, 1) := dk_42 (dk_at dksX0_about_6 6 rfl rfl)
theorem dX0_about_182 : decode cX0_about 182 = .ok (.getfield 53, 3) := dk_180 0 53 (dk_at dksX0_about_6 7 rfl rfl)
theorem dX0_about_185 : decode cX0_about 185 = .ok (.getfield 256, 3) := dk_180 1 0 (dk_at dksX0_about_6 10 rfl rfl)
theorem dX0_about_188 : decode cX0_about 188 = .ok (.ireturn, 1) := dk_172 (dk_at dksX0_about_6 13 rfl rfl)
theorem dX0_about_189 : decode cX0_about 189 = .ok (.iconst (-1), 1) := dk_2 (dk_at dksX0_about_6 14 rfl rfl)
theorem dX0_about_190 : decode cX0_about 190 = .ok (.ireturn, 1) := dk_172 (dk_at dksX0_about_6 15 rfl rfl)
theorem q124 : (Jvm.Cond.initialized "WebCourt") ∈ lw_all := lw_g (lw_at lw_m1 1 rfl) rfl
theorem q158 : (Jvm.Cond.instantiable "WebCourt" (25 : Nat)) ∈ lw_all := lw_g (lw_at lw_m1 35 rfl) rfl
theorem q160 : (Jvm.Cond.instanceMethod ({ cls := "WebCourt", name := "<init>", desc := "()V" } : Jvm.MethodName)) ∈ lw_all := lw_g (lw_at lw_m1 37 rfl) rfl
theorem q161 : (Jvm.Cond.code ({ cls := "WebCourt", name := "<init>", desc := "()V" } : Jvm.MethodName) prog_1_method_3_code (2 : Nat) (Option.none : Option Jvm.ClassFile.FieldType)) ∈ lw_all := lw_g (lw_at lw_m1 38 rfl) rfl
theorem q162 : (Jvm.Cond.methodLink "WebCourt" (25 : Nat) ({ cls := "java/lang/Object", name := "<init>", desc := "()V" } : Jvm.MethodName)) ∈ lw_all := lw_g (lw_at lw_m1 39 rfl) rfl
theorem q165 : (Jvm.Cond.classLink "WebCourt" (39 : Nat) "WebCourt$Book") ∈ lw_all := lw_g (lw_at lw_m1 42 rfl) rfl
theorem q167 : (Jvm.Cond.methodLinkNest "WebCourt" (41 : Nat) ({ cls := "WebCourt$Book", name := "<init>", desc := "()V" } : Jvm.MethodName) "WebCourt") ∈ lw_tbl := lw_at lw_m1 44 rfl
theorem q236 : (Jvm.Cond.fieldLink "WebCourt" (145 : Nat) "WebCourt$Book" "knots" "Ljava/util/ArrayList;") ∈ lw_all := lw_g (lw_at lw_m1 113 rfl) rfl
theorem q239 : (Jvm.Cond.fieldLink "WebCourt" (148 : Nat) "WebCourt$Book" "pleas" "Ljava/util/ArrayList;") ∈ lw_all := lw_g (lw_at lw_m1 116 rfl) rfl
theorem q243 : (Jvm.Cond.fieldLink "WebCourt" (143 : Nat) "WebCourt$Book" "cases" "Ljava/util/ArrayList;") ∈ lw_all := lw_g (lw_at lw_m1 120 rfl) rfl
theorem q247 : (Jvm.Cond.fieldLink "WebCourt" (151 : Nat) "WebCourt$Book" "lines" "Ljava/util/ArrayList;") ∈ lw_all := lw_g (lw_at lw_m1 124 rfl) rfl
theorem q257 : (Jvm.Cond.fieldLink "WebCourt" (329 : Nat) "WebCourt$Book" "back" "I") ∈ lw_all := lw_g (lw_at lw_m1 134 rfl) rfl
theorem q261 : (Jvm.Cond.fieldLink "WebCourt" (369 : Nat) "WebCourt$Book" "units" "I") ∈ lw_all := lw_g (lw_at lw_m1 138 rfl) rfl
theorem q283 : (Jvm.Cond.classLink "WebCourt" (46 : Nat) "WebCourt$Court") ∈ lw_all := lw_g (lw_at lw_m1 160 rfl) rfl
theorem q285 : (Jvm.Cond.methodLinkNest "WebCourt" (48 : Nat) ({ cls := "WebCourt$Court", name := "<init>", desc := "()V" } : Jvm.MethodName) "WebCourt") ∈ lw_tbl := lw_at lw_m1 162 rfl
theorem q290 : (Jvm.Cond.fieldLink "WebCourt" (192 : Nat) "WebCourt$Court" "state" "[I") ∈ lw_all := lw_g (lw_at lw_m1 167 rfl) rfl
theorem q292 : (Jvm.Cond.fieldLink "WebCourt" (169 : Nat) "WebCourt$Court" "pleas" "[I") ∈ lw_all := lw_g (lw_at lw_m1 169 rfl) rfl
theorem q294 : (Jvm.Cond.fieldLink "WebCourt" (197 : Nat) "WebCourt$Court" "before" "[I") ∈ lw_all := lw_g (lw_at lw_m1 171 rfl) rfl
theorem q296 : (Jvm.Cond.fieldLink "WebCourt" (200 : Nat) "WebCourt$Court" "stays" "[I") ∈ lw_all := lw_g (lw_at lw_m1 173 rfl) rfl
theorem q298 : (Jvm.Cond.fieldLink "WebCourt" (351 : Nat) "WebCourt$Court" "last" "I") ∈ lw_all := lw_g (lw_at lw_m1 175 rfl) rfl
theorem q300 : (Jvm.Cond.fieldLink "WebCourt" (220 : Nat) "WebCourt$Court" "at" "I") ∈ lw_all := lw_g (lw_at lw_m1 177 rfl) rfl
theorem q302 : (Jvm.Cond.fieldLink "WebCourt" (217 : Nat) "WebCourt$Court" "hour" "I") ∈ lw_all := lw_g (lw_at lw_m1 179 rfl) rfl
theorem q304 : (Jvm.Cond.fieldLink "WebCourt" (366 : Nat) "WebCourt$Court" "seed" "I") ∈ lw_all := lw_g (lw_at lw_m1 181 rfl) rfl
theorem q306 : (Jvm.Cond.fieldLink "WebCourt" (256 : Nat) "WebCourt$Court" "sticky" "I") ∈ lw_all := lw_g (lw_at lw_m1 183 rfl) rfl
theorem q308 : (Jvm.Cond.fieldLink "WebCourt" (226 : Nat) "WebCourt$Court" "hasHeard" "Z") ∈ lw_all := lw_g (lw_at lw_m1 185 rfl) rfl
theorem q331 : (Jvm.Cond.methodLink "WebCourt" (49 : Nat) ({ cls := "WebCourt$Court", name := "begin", desc := "(LWebCourt$Book;)LWebCourt$Court;" } : Jvm.MethodName)) ∈ lw_all := lw_g (lw_at lw_m1 208 rfl) rfl
theorem q356 : (Jvm.Cond.classLink "WebCourt" (67 : Nat) "[[I") ∈ lw_all := lw_g (lw_at lw_m1 233 rfl) rfl
theorem q358 : (Jvm.Cond.classLink "WebCourt" (4 : Nat) "java/util/ArrayList") ∈ lw_all := lw_g (lw_at lw_m1 235 rfl) rfl
theorem q359 : (Jvm.Cond.methodLink "WebCourt" (85 : Nat) ({ cls := "java/util/ArrayList", name := "<init>", desc := "(I)V" } : Jvm.MethodName)) ∈ lw_all := lw_g (lw_at lw_m1 236 rfl) rfl
theorem q361 : (Jvm.Cond.fieldLink "WebCourt" (31 : Nat) "WebCourt" "tape" "[B") ∈ lw_all := lw_g (lw_at lw_m1 238 rfl) rfl
theorem q363 : (Jvm.Cond.fieldLink "WebCourt" (105 : Nat) "WebCourt" "taped" "I") ∈ lw_all := lw_g (lw_at lw_m2 0 rfl) rfl
theorem q364 : (Jvm.Cond.fieldLink "WebCourt" (134 : Nat) "WebCourt" "faultKind" "I") ∈ lw_all := lw_g (lw_at lw_m2 1 rfl) rfl
theorem q365 : (Jvm.Cond.fieldLink "WebCourt" (35 : Nat) "WebCourt" "faultPlace" "I") ∈ lw_all := lw_g (lw_at lw_m2 2 rfl) rfl
theorem q366 : (Jvm.Cond.fieldLink "WebCourt" (42 : Nat) "WebCourt" "book" "LWebCourt$Book;") ∈ lw_all := lw_g (lw_at lw_m2 3 rfl) rfl
theorem q367 : (Jvm.Cond.fieldLink "WebCourt" (53 : Nat) "WebCourt" "now" "LWebCourt$Court;") ∈ lw_all := lw_g (lw_at lw_m2 4 rfl) rfl
theorem q368 : (Jvm.Cond.fieldLink "WebCourt" (57 : Nat) "WebCourt" "spare" "LWebCourt$Court;") ∈ lw_all := lw_g (lw_at lw_m2 5 rfl) rfl
theorem q369 : (Jvm.Cond.fieldLink "WebCourt" (60 : Nat) "WebCourt" "tried" "LWebCourt$Court;") ∈ lw_all := lw_g (lw_at lw_m2 6 rfl) rfl
theorem q371 : (Jvm.Cond.fieldLink "WebCourt" (347 : Nat) "WebCourt" "time" "I") ∈ lw_all := lw_g (lw_at lw_m2 8 rfl) rfl
theorem q372 : (Jvm.Cond.fieldLink "WebCourt" (63 : Nat) "WebCourt" "were" "[LWebCourt$Court;") ∈ lw_all := lw_g (lw_at lw_m2 9 rfl) rfl
theorem q373 : (Jvm.Cond.fieldLink "WebCourt" (117 : Nat) "WebCourt" "acts" "I") ∈ lw_all := lw_g (lw_at lw_m2 10 rfl) rfl
theorem q374 : (Jvm.Cond.fieldLink "WebCourt" (120 : Nat) "WebCourt" "undone" "I") ∈ lw_all := lw_g (lw_at lw_m2 11 rfl) rfl
theorem q375 : (Jvm.Cond.fieldLink "WebCourt" (69 : Nat) "WebCourt" "ones" "[[I") ∈ lw_all := lw_g (lw_at lw_m2 12 rfl) rfl
theorem q376 : (Jvm.Cond.fieldLink "WebCourt" (72 : Nat) "WebCourt" "others" "[[I") ∈ lw_all := lw_g (lw_at lw_m2 13 rfl) rfl
theorem q377 : (Jvm.Cond.fieldLink "WebCourt" (75 : Nat) "WebCourt" "lies" "[I") ∈ lw_all := lw_g (lw_at lw_m2 14 rfl) rfl
theorem q378 : (Jvm.Cond.fieldLink "WebCourt" (79 : Nat) "WebCourt" "row" "[I") ∈ lw_all := lw_g (lw_at lw_m2 15 rfl) rfl
theorem q379 : (Jvm.Cond.fieldLink "WebCourt" (123 : Nat) "WebCourt" "lain" "I") ∈ lw_all := lw_g (lw_at lw_m2 16 rfl) rfl
theorem q380 : (Jvm.Cond.fieldLink "WebCourt" (82 : Nat) "WebCourt" "far" "[[I") ∈ lw_all := lw_g (lw_at lw_m2 17 rfl) rfl
theorem q381 : (Jvm.Cond.fieldLink "WebCourt" (313 : Nat) "WebCourt" "least" "I") ∈ lw_all := lw_g (lw_at lw_m2 18 rfl) rfl
theorem q382 : (Jvm.Cond.fieldLink "WebCourt" (323 : Nat) "WebCourt" "most" "I") ∈ lw_all := lw_g (lw_at lw_m2 19 rfl) rfl
theorem q383 : (Jvm.Cond.fieldLink "WebCourt" (88 : Nat) "WebCourt" "cries" "Ljava/util/ArrayList;") ∈ lw_all := lw_g (lw_at lw_m2 20 rfl) rfl
theorem q385 : (Jvm.Cond.fieldLink "WebCourt" (92 : Nat) "WebCourt" "verdicts" "[[I") ∈ lw_all := lw_g (lw_at lw_m2 22 rfl) rfl
theorem q386 : (Jvm.Cond.fieldLink "WebCourt" (95 : Nat) "WebCourt" "isFit" "[Z") ∈ lw_all := lw_g (lw_at lw_m2 23 rfl) rfl
theorem q387 : (Jvm.Cond.fieldLink "WebCourt" (99 : Nat) "WebCourt" "boxes" "[LWebCourt$Court;") ∈ lw_all := lw_g (lw_at lw_m2 24 rfl) rfl
theorem q388 : (Jvm.Cond.fieldLink "WebCourt" (102 : Nat) "WebCourt" "isThere" "[Z") ∈ lw_all := lw_g (lw_at lw_m2 25 rfl) rfl
theorem q389 : (Jvm.Cond.laysFinal "WebCourt" "WebCourt" "tape" "[B") ∈ lw_all := lw_g (lw_at lw_m2 26 rfl) rfl
theorem q390 : (Jvm.Cond.soleField "WebCourt" "tape") ∈ lw_all := lw_g (lw_at lw_m2 27 rfl) rfl
theorem q391 : (Jvm.Cond.lays "WebCourt" "WebCourt" "taped" "I") ∈ lw_all := lw_g (lw_at lw_m2 28 rfl) rfl
theorem q392 : (Jvm.Cond.soleField "WebCourt" "taped") ∈ lw_all := lw_g (lw_at lw_m2 29 rfl) rfl
theorem q393 : (Jvm.Cond.lays "WebCourt" "WebCourt" "faultKind" "I") ∈ lw_all := lw_g (lw_at lw_m2 30 rfl) rfl
theorem q394 : (Jvm.Cond.soleField "WebCourt" "faultKind") ∈ lw_all := lw_g (lw_at lw_m2 31 rfl) rfl
theorem q395 : (Jvm.Cond.lays "WebCourt" "WebCourt" "faultPlace" "I") ∈ lw_all := lw_g (lw_at lw_m2 32 rfl) rfl
theorem q396 : (Jvm.Cond.soleField "WebCourt" "faultPlace") ∈ lw_all := lw_g (lw_at lw_m2 33 rfl) rfl
theorem q397 : (Jvm.Cond.lays "WebCourt" "WebCourt" "book" "LWebCourt$Book;") ∈ lw_all := lw_g (lw_at lw_m2 34 rfl) rfl
theorem q398 : (Jvm.Cond.soleField "WebCourt" "book") ∈ lw_all := lw_g (lw_at lw_m2 35 rfl) rfl
theorem q399 : (Jvm.Cond.laysFinal "WebCourt" "WebCourt" "now" "LWebCourt$Court;") ∈ lw_all := lw_g (lw_at lw_m2 36 rfl) rfl
theorem q400 : (Jvm.Cond.soleField "WebCourt" "now") ∈ lw_all := lw_g (lw_at lw_m2 37 rfl) rfl
theorem q401 : (Jvm.Cond.laysFinal "WebCourt" "WebCourt" "spare" "LWebCourt$Court;") ∈ lw_all := lw_g (lw_at lw_m2 38 rfl) rfl
theorem q402 : (Jvm.Cond.soleField "WebCourt" "spare") ∈ lw_all := lw_g (lw_at lw_m2 39 rfl) rfl
theorem q403 : (Jvm.Cond.laysFinal "WebCourt" "WebCourt" "tried" "LWebCourt$Court;") ∈ lw_all := lw_g (lw_at lw_m2 40 rfl) rfl
theorem q404 : (Jvm.Cond.soleField "WebCourt" "tried") ∈ lw_all := lw_g (lw_at lw_m2 41 rfl) rfl
theorem q405 : (Jvm.Cond.lays "WebCourt" "WebCourt" "time" "I") ∈ lw_all := lw_g (lw_at lw_m2 42 rfl) rfl
theorem q406 : (Jvm.Cond.soleField "WebCourt" "time") ∈ lw_all := lw_g (lw_at lw_m2 43 rfl) rfl
theorem q407 : (Jvm.Cond.laysFinal "WebCourt" "WebCourt" "were" "[LWebCourt$Court;") ∈ lw_all := lw_g (lw_at lw_m2 44 rfl) rfl
theorem q408 : (Jvm.Cond.soleField "WebCourt" "were") ∈ lw_all := lw_g (lw_at lw_m2 45 rfl) rfl
theorem q409 : (Jvm.Cond.lays "WebCourt" "WebCourt" "acts" "I") ∈ lw_all := lw_g (lw_at lw_m2 46 rfl) rfl
theorem q410 : (Jvm.Cond.soleField "WebCourt" "acts") ∈ lw_all := lw_g (lw_at lw_m2 47 rfl) rfl
theorem q411 : (Jvm.Cond.lays "WebCourt" "WebCourt" "undone" "I") ∈ lw_all := lw_g (lw_at lw_m2 48 rfl) rfl
theorem q412 : (Jvm.Cond.soleField "WebCourt" "undone") ∈ lw_all := lw_g (lw_at lw_m2 49 rfl) rfl
theorem q413 : (Jvm.Cond.laysFinal "WebCourt" "WebCourt" "ones" "[[I") ∈ lw_all := lw_g (lw_at lw_m2 50 rfl) rfl
theorem q414 : (Jvm.Cond.soleField "WebCourt" "ones") ∈ lw_all := lw_g (lw_at lw_m2 51 rfl) rfl
theorem q415 : (Jvm.Cond.laysFinal "WebCourt" "WebCourt" "others" "[[I") ∈ lw_all := lw_g (lw_at lw_m2 52 rfl) rfl
theorem q416 : (Jvm.Cond.soleField "WebCourt" "others") ∈ lw_all := lw_g (lw_at lw_m2 53 rfl) rfl
theorem q417 : (Jvm.Cond.laysFinal "WebCourt" "WebCourt" "lies" "[I") ∈ lw_all := lw_g (lw_at lw_m2 54 rfl) rfl
theorem q418 : (Jvm.Cond.soleField "WebCourt" "lies") ∈ lw_all := lw_g (lw_at lw_m2 55 rfl) rfl
theorem q419 : (Jvm.Cond.laysFinal "WebCourt" "WebCourt" "row" "[I") ∈ lw_all := lw_g (lw_at lw_m2 56 rfl) rfl
theorem q420 : (Jvm.Cond.soleField "WebCourt" "row") ∈ lw_all := lw_g (lw_at lw_m2 57 rfl) rfl
theorem q421 : (Jvm.Cond.lays "WebCourt" "WebCourt" "lain" "I") ∈ lw_all := lw_g (lw_at lw_m2 58 rfl) rfl
theorem q422 : (Jvm.Cond.soleField "WebCourt" "lain") ∈ lw_all := lw_g (lw_at lw_m2 59 rfl) rfl
theorem q423 : (Jvm.Cond.laysFinal "WebCourt" "WebCourt" "far" "[[I") ∈ lw_all := lw_g (lw_at lw_m2 60 rfl) rfl
theorem q424 : (Jvm.Cond.soleField "WebCourt" "far") ∈ lw_all := lw_g (lw_at lw_m2 61 rfl) rfl
theorem q425 : (Jvm.Cond.lays "WebCourt" "WebCourt" "least" "I") ∈ lw_all := lw_g (lw_at lw_m2 62 rfl) rfl
theorem q426 : (Jvm.Cond.soleField "WebCourt" "least") ∈ lw_all := lw_g (lw_at lw_m2 63 rfl) rfl
theorem q427 : (Jvm.Cond.lays "WebCourt" "WebCourt" "most" "I") ∈ lw_all := lw_g (lw_at lw_m2 64 rfl) rfl
theorem q428 : (Jvm.Cond.soleField "WebCourt" "most") ∈ lw_all := lw_g (lw_at lw_m2 65 rfl) rfl
theorem q429 : (Jvm.Cond.laysFinal "WebCourt" "WebCourt" "cries" "Ljava/util/ArrayList;") ∈ lw_all := lw_g (lw_at lw_m2 66 rfl) rfl
theorem q430 : (Jvm.Cond.soleField "WebCourt" "cries") ∈ lw_all := lw_g (lw_at lw_m2 67 rfl) rfl
theorem q431 : (Jvm.Cond.laysFinal "WebCourt" "WebCourt" "verdicts" "[[I") ∈ lw_all := lw_g (lw_at lw_m2 68 rfl) rfl
theorem q432 : (Jvm.Cond.soleField "WebCourt" "verdicts") ∈ lw_all := lw_g (lw_at lw_m2 69 rfl) rfl
theorem q433 : (Jvm.Cond.laysFinal "WebCourt" "WebCourt" "isFit" "[Z") ∈ lw_all := lw_g (lw_at lw_m2 70 rfl) rfl
theorem q434 : (Jvm.Cond.soleField "WebCourt" "isFit") ∈ lw_all := lw_g (lw_at lw_m2 71 rfl) rfl
theorem q435 : (Jvm.Cond.laysFinal "WebCourt" "WebCourt" "boxes" "[LWebCourt$Court;") ∈ lw_all := lw_g (lw_at lw_m2 72 rfl) rfl
theorem q436 : (Jvm.Cond.soleField "WebCourt" "boxes") ∈ lw_all := lw_g (lw_at lw_m2 73 rfl) rfl
theorem q437 : (Jvm.Cond.laysFinal "WebCourt" "WebCourt" "isThere" "[Z") ∈ lw_all := lw_g (lw_at lw_m2 74 rfl) rfl
theorem q438 : (Jvm.Cond.soleField "WebCourt" "isThere") ∈ lw_all := lw_g (lw_at lw_m2 75 rfl) rfl
theorem q439 : (Jvm.Cond.superclass "WebCourt" "java/lang/Object") ∈ lw_all := lw_g (lw_at lw_m2 76 rfl) rfl
theorem q442 : (Jvm.Cond.instanceMethod ({ cls := "WebCourt", name := "feed", desc := "(IIIII)I" } : Jvm.MethodName)) ∈ lw_all := lw_g (lw_at lw_m2 79 rfl) rfl
theorem q443 : (Jvm.Cond.selects "WebCourt" ({ cls := "WebCourt", name := "feed", desc := "(IIIII)I" } : Jvm.MethodName) ({ cls := "WebCourt", name := "feed", desc := "(IIIII)I" } : Jvm.MethodName)) ∈ lw_all := lw_g (lw_at lw_m2 80 rfl) rfl
theorem q444 : (Jvm.Cond.code ({ cls := "WebCourt", name := "feed", desc := "(IIIII)I" } : Jvm.MethodName) prog_1_method_4_code (12 : Nat) (Option.some Jvm.ClassFile.FieldType.int)) ∈ lw_all := lw_g (lw_at lw_m2 81 rfl) rfl
theorem q446 : (Jvm.Cond.instanceMethod ({ cls := "WebCourt", name := "end", desc := "(I)I" } : Jvm.MethodName)) ∈ lw_all := lw_g (lw_at lw_m2 83 rfl) rfl
theorem q447 : (Jvm.Cond.selects "WebCourt" ({ cls := "WebCourt", name := "end", desc := "(I)I" } : Jvm.MethodName) ({ cls := "WebCourt", name := "end", desc := "(I)I" } : Jvm.MethodName)) ∈ lw_all := lw_g (lw_at lw_m2 84 rfl) rfl
theorem q448 : (Jvm.Cond.code ({ cls := "WebCourt", name := "end", desc := "(I)I" } : Jvm.MethodName) prog_1_method_5_code (2 : Nat) (Option.some Jvm.ClassFile.FieldType.int)) ∈ lw_all := lw_g (lw_at lw_m2 85 rfl) rfl
theorem q450 : (Jvm.Cond.instanceMethod ({ cls := "WebCourt", name := "web", desc := "()I" } : Jvm.MethodName)) ∈ lw_all := lw_g (lw_at lw_m2 87 rfl) rfl
theorem q451 : (Jvm.Cond.selects "WebCourt" ({ cls := "WebCourt", name := "web", desc := "()I" } : Jvm.MethodName) ({ cls := "WebCourt", name := "web", desc := "()I" } : Jvm.MethodName)) ∈ lw_all := lw_g (lw_at lw_m2 88 rfl) rfl
theorem q452 : (Jvm.Cond.codeWith ({ cls := "WebCourt", name := "web", desc := "()I" } : Jvm.MethodName) prog_1_method_6_code (3 : Nat) (Option.some Jvm.ClassFile.FieldType.int) [((2 : Nat), (71 : Nat), (74 : Nat), (129 : Nat))]) ∈ lw_all := lw_g (lw_at lw_m2 89 rfl) rfl
theorem q453 : (Jvm.Cond.classLink "WebCourt" (129 : Nat) "WebCourt$Wrong") ∈ lw_all := lw_g (lw_at lw_m2 90 rfl) rfl
theorem q454 : (Jvm.Cond.classLink "WebCourt" (108 : Nat) "WebCourt$Reader") ∈ lw_all := lw_g (lw_at lw_m2 91 rfl) rfl
theorem q456 : (Jvm.Cond.methodLinkNest "WebCourt" (110 : Nat) ({ cls := "WebCourt$Reader", name := "<init>", desc := "(LWebCourt;)V" } : Jvm.MethodName) "WebCourt") ∈ lw_tbl := lw_at lw_m2 93 rfl
theorem q500 : (Jvm.Cond.methodLink "WebCourt" (113 : Nat) ({ cls := "WebCourt$Reader", name := "text", desc := "()LWebCourt$Book;" } : Jvm.MethodName)) ∈ lw_all := lw_g (lw_at lw_m2 137 rfl) rfl
theorem q859 : (Jvm.Cond.fieldLink "WebCourt" (131 : Nat) "WebCourt$Wrong" "kind" "I") ∈ lw_all := lw_g (lw_at lw_m4 16 rfl) rfl
theorem q861 : (Jvm.Cond.fieldLink "WebCourt" (137 : Nat) "WebCourt$Wrong" "place" "I") ∈ lw_all := lw_g (lw_at lw_m4 18 rfl) rfl
theorem q880 : (Jvm.Cond.static ({ cls := "WebCourt", name := "find", desc := "(Ljava/util/ArrayList;Ljava/lang/String;)I" } : Jvm.MethodName)) ∈ lw_all := lw_g (lw_at lw_m4 37 rfl) rfl
theorem q881 : (Jvm.Cond.code ({ cls := "WebCourt", name := "find", desc := "(Ljava/util/ArrayList;Ljava/lang/String;)I" } : Jvm.MethodName) prog_1_method_1_code (4 : Nat) (Option.some Jvm.ClassFile.FieldType.int)) ∈ lw_all := lw_g (lw_at lw_m4 38 rfl) rfl
theorem q882 : (Jvm.Cond.methodLink "WebCourt" (3 : Nat) ({ cls := "java/util/ArrayList", name := "size", desc := "()I" } : Jvm.MethodName)) ∈ lw_all := lw_g (lw_at lw_m4 39 rfl) rfl
theorem q883 : (Jvm.Cond.methodLink "WebCourt" (9 : Nat) ({ cls := "java/util/ArrayList", name := "get", desc := "(I)Ljava/lang/Object;" } : Jvm.MethodName)) ∈ lw_all := lw_g (lw_at lw_m4 40 rfl) rfl
theorem q884 : (Jvm.Cond.classLink "WebCourt" (13 : Nat) "WebCourt$Named") ∈ lw_all := lw_g (lw_at lw_m4 41 rfl) rfl
theorem q885 : (Jvm.Cond.methodLink "WebCourt" (19 : Nat) ({ cls := "java/lang/String", name := "equals", desc := "(Ljava/lang/Object;)Z" } : Jvm.MethodName)) ∈ lw_all := lw_g (lw_at lw_m4 42 rfl) rfl
theorem q893 : (Jvm.Cond.fieldLink "WebCourt" (15 : Nat) "WebCourt$Named" "name" "Ljava/lang/String;") ∈ lw_all := lw_g (lw_at lw_m4 50 rfl) rfl
theorem q895 : (Jvm.Cond.fieldLink "WebCourt" (185 : Nat) "WebCourt$Named" "number" "I") ∈ lw_all := lw_g (lw_at lw_m4 52 rfl) rfl
theorem q898 : (Jvm.Cond.fieldLink "WebCourt" (195 : Nat) "WebCourt$Named" "pleas" "I") ∈ lw_all := lw_g (lw_at lw_m4 55 rfl) rfl
theorem q932 : (Jvm.Cond.selects "WebCourt" ({ cls := "java/lang/Object", name := "getClass", desc := "()Ljava/lang/Class;" } : Jvm.MethodName) ({ cls := "java/lang/Object", name := "getClass", desc := "()Ljava/lang/Class;" } : Jvm.MethodName)) ∈ lw_all := lw_g (lw_at lw_m4 89 rfl) rfl
theorem q1037 : (Jvm.Cond.fieldLink "WebCourt" (296 : Nat) "WebCourt$Line" "one" "I") ∈ lw_all := lw_g (lw_at lw_m4 194 rfl) rfl
theorem q1039 : (Jvm.Cond.fieldLink "WebCourt" (299 : Nat) "WebCourt$Line" "two" "I") ∈ lw_all := lw_g (lw_at lw_m4 196 rfl) rfl
theorem q1175 : (Jvm.Cond.methodLink "WebCourt" (126 : Nat) ({ cls := "java/util/ArrayList", name := "clear", desc := "()V" } : Jvm.MethodName)) ∈ lw_all := lw_g (lw_at lw_m5 92 rfl) rfl
theorem q1179 : (Jvm.Cond.methodLink "WebCourt" (140 : Nat) ({ cls := "WebCourt", name := "cases", desc := "()I" } : Jvm.MethodName)) ∈ lw_all := lw_g (lw_at lw_m5 96 rfl) rfl
theorem q1180 : (Jvm.Cond.privateMethod ({ cls := "WebCourt", name := "cases", desc := "()I" } : Jvm.MethodName)) ∈ lw_tbl := lw_at lw_m5 97 rfl
theorem q1181 : (Jvm.Cond.instanceMethod ({ cls := "WebCourt", name := "cases", desc := "()I" } : Jvm.MethodName)) ∈ lw_all := lw_g (lw_at lw_m5 98 rfl) rfl
theorem q1182 : (Jvm.Cond.code ({ cls := "WebCourt", name := "cases", desc := "()I" } : Jvm.MethodName) prog_1_method_8_code (1 : Nat) (Option.some Jvm.ClassFile.FieldType.int)) ∈ lw_all := lw_g (lw_at lw_m5 99 rfl) rfl
theorem q1184 : (Jvm.Cond.instanceMethod ({ cls := "WebCourt", name := "fault", desc := "(I)I" } : Jvm.MethodName)) ∈ lw_all := lw_g (lw_at lw_m5 101 rfl) rfl
theorem q1185 : (Jvm.Cond.selects "WebCourt" ({ cls := "WebCourt", name := "fault", desc := "(I)I" } : Jvm.MethodName) ({ cls := "WebCourt", name := "fault", desc := "(I)I" } : Jvm.MethodName)) ∈ lw_all := lw_g (lw_at lw_m5 102 rfl) rfl
theorem q1186 : (Jvm.Cond.code ({ cls := "WebCourt", name := "fault", desc := "(I)I" } : Jvm.MethodName) prog_1_method_7_code (2 : Nat) (Option.some Jvm.ClassFile.FieldType.int)) ∈ lw_all := lw_g (lw_at lw_m5 103 rfl) rfl
theorem q1188 : (Jvm.Cond.instanceMethod ({ cls := "WebCourt", name := "knot", desc := "(II)I" } : Jvm.MethodName)) ∈ lw_all := lw_g (lw_at lw_m5 105 rfl) rfl
theorem q1189 : (Jvm.Cond.selects "WebCourt" ({ cls := "WebCourt", name := "knot", desc := "(II)I" } : Jvm.MethodName) ({ cls := "WebCourt", name := "knot", desc := "(II)I" } : Jvm.MethodName)) ∈ lw_all := lw_g (lw_at lw_m5 106 rfl) rfl
theorem q1190 : (Jvm.Cond.code ({ cls := "WebCourt", name := "knot", desc := "(II)I" } : Jvm.MethodName) prog_1_method_17_code (3 : Nat) (Option.some Jvm.ClassFile.FieldType.int)) ∈ lw_all := lw_g (lw_at lw_m5 107 rfl) rfl
theorem q1191 : (Jvm.Cond.methodLink "WebCourt" (171 : Nat) ({ cls := "WebCourt", name := "isKnot", desc := "(I)Z" } : Jvm.MethodName)) ∈ lw_all := lw_g (lw_at lw_m5 108 rfl) rfl
theorem q1192 : (Jvm.Cond.privateMethod ({ cls := "WebCourt", name := "isKnot", desc := "(I)Z" } : Jvm.MethodName)) ∈ lw_tbl := lw_at lw_m5 109 rfl
theorem q1193 : (Jvm.Cond.instanceMethod ({ cls := "WebCourt", name := "isKnot", desc := "(I)Z" } : Jvm.MethodName)) ∈ lw_all := lw_g (lw_at lw_m5 110 rfl) rfl
theorem q1194 : (Jvm.Cond.code ({ cls := "WebCourt", name := "isKnot", desc := "(I)Z" } : Jvm.MethodName) prog_1_method_14_code (2 : Nat) (Option.some Jvm.ClassFile.FieldType.boolean)) ∈ lw_all := lw_g (lw_at lw_m5 111 rfl) rfl
theorem q1195 : (Jvm.Cond.methodLink "WebCourt" (165 : Nat) ({ cls := "WebCourt", name := "knots", desc := "()I" } : Jvm.MethodName)) ∈ lw_all := lw_g (lw_at lw_m5 112 rfl) rfl
theorem q1196 : (Jvm.Cond.privateMethod ({ cls := "WebCourt", name := "knots", desc := "()I" } : Jvm.MethodName)) ∈ lw_tbl := lw_at lw_m5 113 rfl
theorem q1197 : (Jvm.Cond.instanceMethod ({ cls := "WebCourt", name := "knots", desc := "()I" } : Jvm.MethodName)) ∈ lw_all := lw_g (lw_at lw_m5 114 rfl) rfl
theorem q1198 : (Jvm.Cond.code ({ cls := "WebCourt", name := "knots", desc := "()I" } : Jvm.MethodName) prog_1_method_9_code (1 : Nat) (Option.some Jvm.ClassFile.FieldType.int)) ∈ lw_all := lw_g (lw_at lw_m5 115 rfl) rfl
theorem q1199 : (Jvm.Cond.methodLink "WebCourt" (154 : Nat) ({ cls := "WebCourt", name := "isIn", desc := "(III)Z" } : Jvm.MethodName)) ∈ lw_all := lw_g (lw_at lw_m5 116 rfl) rfl
theorem q1200 : (Jvm.Cond.static ({ cls := "WebCourt", name := "isIn", desc := "(III)Z" } : Jvm.MethodName)) ∈ lw_all := lw_g (lw_at lw_m5 117 rfl) rfl
theorem q1201 : (Jvm.Cond.code ({ cls := "WebCourt", name := "isIn", desc := "(III)Z" } : Jvm.MethodName) prog_1_method_2_code (3 : Nat) (Option.some Jvm.ClassFile.FieldType.boolean)) ∈ lw_all := lw_g (lw_at lw_m5 118 rfl) rfl
theorem q1202 : (Jvm.Cond.methodLink "WebCourt" (174 : Nat) ({ cls := "WebCourt$Court", name := "next", desc := "(LWebCourt$Book;IZ)I" } : Jvm.MethodName)) ∈ lw_all := lw_g (lw_at lw_m5 119 rfl) rfl
theorem q1211 : (Jvm.Cond.methodLink "WebCourt" (178 : Nat) ({ cls := "WebCourt$Court", name := "heldAt", desc := "(LWebCourt$Book;I)I" } : Jvm.MethodName)) ∈ lw_all := lw_g (lw_at lw_m5 128 rfl) rfl
theorem q1226 : (Jvm.Cond.instanceMethod ({ cls := "WebCourt", name := "plea", desc := "(I)I" } : Jvm.MethodName)) ∈ lw_all := lw_g (lw_at lw_m5 143 rfl) rfl
theorem q1227 : (Jvm.Cond.selects "WebCourt" ({ cls := "WebCourt", name := "plea", desc := "(I)I" } : Jvm.MethodName) ({ cls := "WebCourt", name := "plea", desc := "(I)I" } : Jvm.MethodName)) ∈ lw_all := lw_g (lw_at lw_m5 144 rfl) rfl
theorem q1228 : (Jvm.Cond.code ({ cls := "WebCourt", name := "plea", desc := "(I)I" } : Jvm.MethodName) prog_1_method_18_code (2 : Nat) (Option.some Jvm.ClassFile.FieldType.int)) ∈ lw_all := lw_g (lw_at lw_m5 145 rfl) rfl
theorem q1229 : (Jvm.Cond.methodLink "WebCourt" (182 : Nat) ({ cls := "WebCourt", name := "isPlea", desc := "(I)Z" } : Jvm.MethodName)) ∈ lw_all := lw_g (lw_at lw_m5 146 rfl) rfl
theorem q1230 : (Jvm.Cond.privateMethod ({ cls := "WebCourt", name := "isPlea", desc := "(I)Z" } : Jvm.MethodName)) ∈ lw_tbl := lw_at lw_m5 147 rfl
theorem q1231 : (Jvm.Cond.instanceMethod ({ cls := "WebCourt", name := "isPlea", desc := "(I)Z" } : Jvm.MethodName)) ∈ lw_all := lw_g (lw_at lw_m5 148 rfl) rfl
theorem q1232 : (Jvm.Cond.code ({ cls := "WebCourt", name := "isPlea", desc := "(I)Z" } : Jvm.MethodName) prog_1_method_15_code (2 : Nat) (Option.some Jvm.ClassFile.FieldType.boolean)) ∈ lw_all := lw_g (lw_at lw_m5 149 rfl) rfl
theorem q1233 : (Jvm.Cond.methodLink "WebCourt" (167 : Nat) ({ cls := "WebCourt", name := "pleas", desc := "()I" } : Jvm.MethodName)) ∈ lw_all := lw_g (lw_at lw_m5 150 rfl) rfl
theorem q1234 : (Jvm.Cond.privateMethod ({ cls := "WebCourt", name := "pleas", desc := "()I" } : Jvm.MethodName)) ∈ lw_tbl := lw_at lw_m5 151 rfl
theorem q1235 : (Jvm.Cond.instanceMethod ({ cls := "WebCourt", name := "pleas", desc := "()I" } : Jvm.MethodName)) ∈ lw_all := lw_g (lw_at lw_m5 152 rfl) rfl
theorem q1236 : (Jvm.Cond.code ({ cls := "WebCourt", name := "pleas", desc := "()I" } : Jvm.MethodName) prog_1_method_10_code (1 : Nat) (Option.some Jvm.ClassFile.FieldType.int)) ∈ lw_all := lw_g (lw_at lw_m5 153 rfl) rfl
theorem q1238 : (Jvm.Cond.instanceMethod ({ cls := "WebCourt", name := "item", desc := "(II)I" } : Jvm.MethodName)) ∈ lw_all := lw_g (lw_at lw_m5 155 rfl) rfl
theorem q1239 : (Jvm.Cond.selects "WebCourt" ({ cls := "WebCourt", name := "item", desc := "(II)I" } : Jvm.MethodName) ({ cls := "WebCourt", name := "item", desc := "(II)I" } : Jvm.MethodName)) ∈ lw_all := lw_g (lw_at lw_m5 156 rfl) rfl
theorem q1240 : (Jvm.Cond.code ({ cls := "WebCourt", name := "item", desc := "(II)I" } : Jvm.MethodName) prog_1_method_19_code (3 : Nat) (Option.some Jvm.ClassFile.FieldType.int)) ∈ lw_all := lw_g (lw_at lw_m5 157 rfl) rfl
theorem q1241 : (Jvm.Cond.methodLink "WebCourt" (158 : Nat) ({ cls := "WebCourt", name := "isCase", desc := "(I)Z" } : Jvm.MethodName)) ∈ lw_all := lw_g (lw_at lw_m5 158 rfl) rfl
theorem q1242 : (Jvm.Cond.privateMethod ({ cls := "WebCourt", name := "isCase", desc := "(I)Z" } : Jvm.MethodName)) ∈ lw_tbl := lw_at lw_m5 159 rfl
theorem q1243 : (Jvm.Cond.instanceMethod ({ cls := "WebCourt", name := "isCase", desc := "(I)Z" } : Jvm.MethodName)) ∈ lw_all := lw_g (lw_at lw_m5 160 rfl) rfl
theorem q1244 : (Jvm.Cond.code ({ cls := "WebCourt", name := "isCase", desc := "(I)Z" } : Jvm.MethodName) prog_1_method_12_code (2 : Nat) (Option.some Jvm.ClassFile.FieldType.boolean)) ∈ lw_all := lw_g (lw_at lw_m5 161 rfl) rfl
theorem q1245 : (Jvm.Cond.methodLink "WebCourt" (188 : Nat) ({ cls := "WebCourt$Book", name := "knot", desc := "(I)I" } : Jvm.MethodName)) ∈ lw_all := lw_g (lw_at lw_m5 162 rfl) rfl
theorem q1247 : (Jvm.Cond.instanceMethod ({ cls := "WebCourt", name := "verdict", desc := "(I)I" } : Jvm.MethodName)) ∈ lw_all := lw_g (lw_at lw_m5 164 rfl) rfl
theorem q1248 : (Jvm.Cond.selects "WebCourt" ({ cls := "WebCourt", name := "verdict", desc := "(I)I" } : Jvm.MethodName) ({ cls := "WebCourt", name := "verdict", desc := "(I)I" } : Jvm.MethodName)) ∈ lw_all := lw_g (lw_at lw_m5 165 rfl) rfl
theorem q1249 : (Jvm.Cond.code ({ cls := "WebCourt", name := "verdict", desc := "(I)I" } : Jvm.MethodName) prog_1_method_20_code (2 : Nat) (Option.some Jvm.ClassFile.FieldType.int)) ∈ lw_all := lw_g (lw_at lw_m5 166 rfl) rfl
theorem q1250 : (Jvm.Cond.methodLink "WebCourt" (203 : Nat) ({ cls := "WebCourt$Court", name := "verdict", desc := "(LWebCourt$Book;I)I" } : Jvm.MethodName)) ∈ lw_all := lw_g (lw_at lw_m5 167 rfl) rfl
theorem q1327 : (Jvm.Cond.constant "WebCourt" (206 : Nat) (-1000000000 : Int32)) ∈ lw_all := lw_g (lw_at lw_m6 4 rfl) rfl
theorem q1329 : (Jvm.Cond.instanceMethod ({ cls := "WebCourt", name := "hour", desc := "(I)I" } : Jvm.MethodName)) ∈ lw_all := lw_g (lw_at lw_m6 6 rfl) rfl
theorem q1330 : (Jvm.Cond.selects "WebCourt" ({ cls := "WebCourt", name := "hour", desc := "(I)I" } : Jvm.MethodName) ({ cls := "WebCourt", name := "hour", desc := "(I)I" } : Jvm.MethodName)) ∈ lw_all := lw_g (lw_at lw_m6 7 rfl) rfl
theorem q1331 : (Jvm.Cond.code ({ cls := "WebCourt", name := "hour", desc := "(I)I" } : Jvm.MethodName) prog_1_method_23_code (2 : Nat) (Option.some Jvm.ClassFile.FieldType.int)) ∈ lw_all := lw_g (lw_at lw_m6 8 rfl) rfl
theorem q1332 : (Jvm.Cond.methodLink "WebCourt" (223 : Nat) ({ cls := "WebCourt", name := "act", desc := "()V" } : Jvm.MethodName)) ∈ lw_all := lw_g (lw_at lw_m6 9 rfl) rfl
theorem q1333 : (Jvm.Cond.privateMethod ({ cls := "WebCourt", name := "act", desc := "()V" } : Jvm.MethodName)) ∈ lw_tbl := lw_at lw_m6 10 rfl
theorem q1334 : (Jvm.Cond.instanceMethod ({ cls := "WebCourt", name := "act", desc := "()V" } : Jvm.MethodName)) ∈ lw_all := lw_g (lw_at lw_m6 11 rfl) rfl
theorem q1335 : (Jvm.Cond.code ({ cls := "WebCourt", name := "act", desc := "()V" } : Jvm.MethodName) prog_1_method_21_code (2 : Nat) (Option.none : Option Jvm.ClassFile.FieldType)) ∈ lw_all := lw_g (lw_at lw_m6 12 rfl) rfl
theorem q1336 : (Jvm.Cond.methodLink "WebCourt" (207 : Nat) ({ cls := "java/lang/System", name := "arraycopy", desc := "(Ljava/lang/Object;ILjava/lang/Object;II)V" } : Jvm.MethodName)) ∈ lw_all := lw_g (lw_at lw_m6 13 rfl) rfl
theorem q1337 : (Jvm.Cond.methodLink "WebCourt" (213 : Nat) ({ cls := "WebCourt$Court", name := "copy", desc := "(LWebCourt$Court;)LWebCourt$Court;" } : Jvm.MethodName)) ∈ lw_all := lw_g (lw_at lw_m6 14 rfl) rfl
theorem q1342 : (Jvm.Cond.methodLink "WebCourt" (230 : Nat) ({ cls := "WebCourt$Court", name := "comeBack", desc := "(LWebCourt$Book;)I" } : Jvm.MethodName)) ∈ lw_all := lw_g (lw_at lw_m6 19 rfl) rfl
theorem q1347 : (Jvm.Cond.instanceMethod ({ cls := "WebCourt", name := "hear", desc := "(I)I" } : Jvm.MethodName)) ∈ lw_all := lw_g (lw_at lw_m6 24 rfl) rfl
theorem q1348 : (Jvm.Cond.selects "WebCourt" ({ cls := "WebCourt", name := "hear", desc := "(I)I" } : Jvm.MethodName) ({ cls := "WebCourt", name := "hear", desc := "(I)I" } : Jvm.MethodName)) ∈ lw_all := lw_g (lw_at lw_m6 25 rfl) rfl
theorem q1349 : (Jvm.Cond.code ({ cls := "WebCourt", name := "hear", desc := "(I)I" } : Jvm.MethodName) prog_1_method_24_code (2 : Nat) (Option.some Jvm.ClassFile.FieldType.int)) ∈ lw_all := lw_g (lw_at lw_m6 26 rfl) rfl
theorem q1350 : (Jvm.Cond.methodLink "WebCourt" (234 : Nat) ({ cls := "WebCourt", name := "isHeld", desc := "(I)Z" } : Jvm.MethodName)) ∈ lw_all := lw_g (lw_at lw_m6 27 rfl) rfl
theorem q1351 : (Jvm.Cond.privateMethod ({ cls := "WebCourt", name := "isHeld", desc := "(I)Z" } : Jvm.MethodName)) ∈ lw_tbl := lw_at lw_m6 28 rfl
theorem q1352 : (Jvm.Cond.instanceMethod ({ cls := "WebCourt", name := "isHeld", desc := "(I)Z" } : Jvm.MethodName)) ∈ lw_all := lw_g (lw_at lw_m6 29 rfl) rfl
theorem q1353 : (Jvm.Cond.code ({ cls := "WebCourt", name := "isHeld", desc := "(I)Z" } : Jvm.MethodName) prog_1_method_13_code (2 : Nat) (Option.some Jvm.ClassFile.FieldType.boolean)) ∈ lw_all := lw_g (lw_at lw_m6 30 rfl) rfl
theorem q1354 : (Jvm.Cond.methodLink "WebCourt" (162 : Nat) ({ cls := "WebCourt$Court", name := "isHeld", desc := "(I)Z" } : Jvm.MethodName)) ∈ lw_all := lw_g (lw_at lw_m6 31 rfl) rfl
theorem q1355 : (Jvm.Cond.methodLink "WebCourt" (235 : Nat) ({ cls := "WebCourt$Court", name := "hear", desc := "(LWebCourt$Book;I)I" } : Jvm.MethodName)) ∈ lw_all := lw_g (lw_at lw_m6 32 rfl) rfl
theorem q1362 : (Jvm.Cond.instanceMethod ({ cls := "WebCourt", name := "plead", desc := "(II)I" } : Jvm.MethodName)) ∈ lw_all := lw_g (lw_at lw_m6 39 rfl) rfl
theorem q1363 : (Jvm.Cond.selects "WebCourt" ({ cls := "WebCourt", name := "plead", desc := "(II)I" } : Jvm.MethodName) ({ cls := "WebCourt", name := "plead", desc := "(II)I" } : Jvm.MethodName)) ∈ lw_all := lw_g (lw_at lw_m6 40 rfl) rfl
theorem q1364 : (Jvm.Cond.code ({ cls := "WebCourt", name := "plead", desc := "(II)I" } : Jvm.MethodName) prog_1_method_26_code (3 : Nat) (Option.some Jvm.ClassFile.FieldType.int)) ∈ lw_all := lw_g (lw_at lw_m6 41 rfl) rfl
theorem q1365 : (Jvm.Cond.methodLink "WebCourt" (238 : Nat) ({ cls := "WebCourt", name := "has", desc := "(II)Z" } : Jvm.MethodName)) ∈ lw_all := lw_g (lw_at lw_m6 42 rfl) rfl
theorem q1366 : (Jvm.Cond.privateMethod ({ cls := "WebCourt", name := "has", desc := "(II)Z" } : Jvm.MethodName)) ∈ lw_tbl := lw_at lw_m6 43 rfl
theorem q1367 : (Jvm.Cond.instanceMethod ({ cls := "WebCourt", name := "has", desc := "(II)Z" } : Jvm.MethodName)) ∈ lw_all := lw_g (lw_at lw_m6 44 rfl) rfl
theorem q1368 : (Jvm.Cond.code ({ cls := "WebCourt", name := "has", desc := "(II)Z" } : Jvm.MethodName) prog_1_method_16_code (3 : Nat) (Option.some Jvm.ClassFile.FieldType.boolean)) ∈ lw_all := lw_g (lw_at lw_m6 45 rfl) rfl
theorem q1369 : (Jvm.Cond.methodLink "WebCourt" (242 : Nat) ({ cls := "java/lang/Integer", name := "bitCount", desc := "(I)I" } : Jvm.MethodName)) ∈ lw_all := lw_g (lw_at lw_m6 46 rfl) rfl
theorem q1370 : (Jvm.Cond.methodLink "WebCourt" (247 : Nat) ({ cls := "WebCourt", name := "changes", desc := "(II)I" } : Jvm.MethodName)) ∈ lw_all := lw_g (lw_at lw_m6 47 rfl) rfl
theorem q1371 : (Jvm.Cond.privateMethod ({ cls := "WebCourt", name := "changes", desc := "(II)I" } : Jvm.MethodName)) ∈ lw_tbl := lw_at lw_m6 48 rfl
theorem q1372 : (Jvm.Cond.instanceMethod ({ cls := "WebCourt", name := "changes", desc := "(II)I" } : Jvm.MethodName)) ∈ lw_all := lw_g (lw_at lw_m6 49 rfl) rfl
theorem q1373 : (Jvm.Cond.code ({ cls := "WebCourt", name := "changes", desc := "(II)I" } : Jvm.MethodName) prog_1_method_25_code (3 : Nat) (Option.some Jvm.ClassFile.FieldType.int)) ∈ lw_all := lw_g (lw_at lw_m6 50 rfl) rfl
theorem q1375 : (Jvm.Cond.instanceMethod ({ cls := "WebCourt", name := "drop", desc := "(II)I" } : Jvm.MethodName)) ∈ lw_all := lw_g (lw_at lw_m6 52 rfl) rfl
theorem q1376 : (Jvm.Cond.selects "WebCourt" ({ cls := "WebCourt", name := "drop", desc := "(II)I" } : Jvm.MethodName) ({ cls := "WebCourt", name := "drop", desc := "(II)I" } : Jvm.MethodName)) ∈ lw_all := lw_g (lw_at lw_m6 53 rfl) rfl
theorem q1377 : (Jvm.Cond.code ({ cls := "WebCourt", name := "drop", desc := "(II)I" } : Jvm.MethodName) prog_1_method_27_code (3 : Nat) (Option.some Jvm.ClassFile.FieldType.int)) ∈ lw_all := lw_g (lw_at lw_m6 54 rfl) rfl
theorem q1379 : (Jvm.Cond.instanceMethod ({ cls := "WebCourt", name := "grab", desc := "(I)I" } : Jvm.MethodName)) ∈ lw_all := lw_g (lw_at lw_m6 56 rfl) rfl
theorem q1380 : (Jvm.Cond.selects "WebCourt" ({ cls := "WebCourt", name := "grab", desc := "(I)I" } : Jvm.MethodName) ({ cls := "WebCourt", name := "grab", desc := "(I)I" } : Jvm.MethodName)) ∈ lw_all := lw_g (lw_at lw_m6 57 rfl) rfl
theorem q1381 : (Jvm.Cond.code ({ cls := "WebCourt", name := "grab", desc := "(I)I" } : Jvm.MethodName) prog_1_method_28_code (2 : Nat) (Option.some Jvm.ClassFile.FieldType.int)) ∈ lw_all := lw_g (lw_at lw_m6 58 rfl) rfl
theorem q1382 : (Jvm.Cond.methodLink "WebCourt" (251 : Nat) ({ cls := "WebCourt$Court", name := "held", desc := "(LWebCourt$Book;)I" } : Jvm.MethodName)) ∈ lw_all := lw_g (lw_at lw_m6 59 rfl) rfl
theorem q1387 : (Jvm.Cond.instanceMethod ({ cls := "WebCourt", name := "spin", desc := "(I)I" } : Jvm.MethodName)) ∈ lw_all := lw_g (lw_at lw_m6 64 rfl) rfl
theorem q1388 : (Jvm.Cond.selects "WebCourt" ({ cls := "WebCourt", name := "spin", desc := "(I)I" } : Jvm.MethodName) ({ cls := "WebCourt", name := "spin", desc := "(I)I" } : Jvm.MethodName)) ∈ lw_all := lw_g (lw_at lw_m6 65 rfl) rfl
theorem q1389 : (Jvm.Cond.code ({ cls := "WebCourt", name := "spin", desc := "(I)I" } : Jvm.MethodName) prog_1_method_29_code (2 : Nat) (Option.some Jvm.ClassFile.FieldType.int)) ∈ lw_all := lw_g (lw_at lw_m6 66 rfl) rfl
theorem q1390 : (Jvm.Cond.methodLink "WebCourt" (254 : Nat) ({ cls := "WebCourt", name := "lines", desc := "()I" } : Jvm.MethodName)) ∈ lw_all := lw_g (lw_at lw_m6 67 rfl) rfl
theorem q1391 : (Jvm.Cond.privateMethod ({ cls := "WebCourt", name := "lines", desc := "()I" } : Jvm.MethodName)) ∈ lw_tbl := lw_at lw_m6 68 rfl
theorem q1392 : (Jvm.Cond.instanceMethod ({ cls := "WebCourt", name := "lines", desc := "()I" } : Jvm.MethodName)) ∈ lw_all := lw_g (lw_at lw_m6 69 rfl) rfl
theorem q1393 : (Jvm.Cond.code ({ cls := "WebCourt", name := "lines", desc := "()I" } : Jvm.MethodName) prog_1_method_11_code (1 : Nat) (Option.some Jvm.ClassFile.FieldType.int)) ∈ lw_all := lw_g (lw_at lw_m6 70 rfl) rfl
theorem q1394 : (Jvm.Cond.methodLink "WebCourt" (259 : Nat) ({ cls := "WebCourt$Court", name := "isSticky", desc := "(I)Z" } : Jvm.MethodName)) ∈ lw_all := lw_g (lw_at lw_m6 71 rfl) rfl
theorem q1396 : (Jvm.Cond.instanceMethod ({ cls := "WebCourt", name := "undo", desc := "()Z" } : Jvm.MethodName)) ∈ lw_all := lw_g (lw_at lw_m6 73 rfl) rfl
theorem q1397 : (Jvm.Cond.selects "WebCourt" ({ cls := "WebCourt", name := "undo", desc := "()Z" } : Jvm.MethodName) ({ cls := "WebCourt", name := "undo", desc := "()Z" } : Jvm.MethodName)) ∈ lw_all := lw_g (lw_at lw_m6 74 rfl) rfl
theorem q1398 : (Jvm.Cond.code ({ cls := "WebCourt", name := "undo", desc := "()Z" } : Jvm.MethodName) prog_1_method_30_code (1 : Nat) (Option.some Jvm.ClassFile.FieldType.boolean)) ∈ lw_all := lw_g (lw_at lw_m6 75 rfl) rfl
theorem q1399 : (Jvm.Cond.methodLink "WebCourt" (262 : Nat) ({ cls := "WebCourt", name := "turnAbout", desc := "(LWebCourt$Court;)V" } : Jvm.MethodName)) ∈ lw_all := lw_g (lw_at lw_m6 76 rfl) rfl
theorem q1400 : (Jvm.Cond.privateMethod ({ cls := "WebCourt", name := "turnAbout", desc := "(LWebCourt$Court;)V" } : Jvm.MethodName)) ∈ lw_tbl := lw_at lw_m6 77 rfl
theorem q1401 : (Jvm.Cond.instanceMethod ({ cls := "WebCourt", name := "turnAbout", desc := "(LWebCourt$Court;)V" } : Jvm.MethodName)) ∈ lw_all := lw_g (lw_at lw_m6 78 rfl) rfl
theorem q1402 : (Jvm.Cond.code ({ cls := "WebCourt", name := "turnAbout", desc := "(LWebCourt$Court;)V" } : Jvm.MethodName) prog_1_method_22_code (2 : Nat) (Option.none : Option Jvm.ClassFile.FieldType)) ∈ lw_all := lw_g (lw_at lw_m6 79 rfl) rfl
theorem q1404 : (Jvm.Cond.instanceMethod ({ cls := "WebCourt", name := "redo", desc := "()Z" } : Jvm.MethodName)) ∈ lw_all := lw_g (lw_at lw_m6 81 rfl) rfl
theorem q1405 : (Jvm.Cond.selects "WebCourt" ({ cls := "WebCourt", name := "redo", desc := "()Z" } : Jvm.MethodName) ({ cls := "WebCourt", name := "redo", desc := "()Z" } : Jvm.MethodName)) ∈ lw_all := lw_g (lw_at lw_m6 82 rfl) rfl
theorem q1406 : (Jvm.Cond.code ({ cls := "WebCourt", name := "redo", desc := "()Z" } : Jvm.MethodName) prog_1_method_31_code (1 : Nat) (Option.some Jvm.ClassFile.FieldType.boolean)) ∈ lw_all := lw_g (lw_at lw_m6 83 rfl) rfl
theorem q1408 : (Jvm.Cond.instanceMethod ({ cls := "WebCourt", name := "shortest", desc := "(II)I" } : Jvm.MethodName)) ∈ lw_all := lw_g (lw_at lw_m6 85 rfl) rfl
theorem q1409 : (Jvm.Cond.selects "WebCourt" ({ cls := "WebCourt", name := "shortest", desc := "(II)I" } : Jvm.MethodName) ({ cls := "WebCourt", name := "shortest", desc := "(II)I" } : Jvm.MethodName)) ∈ lw_all := lw_g (lw_at lw_m6 86 rfl) rfl
theorem q1410 : (Jvm.Cond.code ({ cls := "WebCourt", name := "shortest", desc := "(II)I" } : Jvm.MethodName) prog_1_method_34_code (3 : Nat) (Option.some Jvm.ClassFile.FieldType.int)) ∈ lw_all := lw_g (lw_at lw_m6 87 rfl) rfl
theorem q1411 : (Jvm.Cond.methodLink "WebCourt" (269 : Nat) ({ cls := "WebCourt$Book", name := "all", desc := "()I" } : Jvm.MethodName)) ∈ lw_all := lw_g (lw_at lw_m6 88 rfl) rfl
theorem q1415 : (Jvm.Cond.methodLink "WebCourt" (272 : Nat) ({ cls := "WebCourt", name := "fewest", desc := "(II)I" } : Jvm.MethodName)) ∈ lw_all := lw_g (lw_at lw_m6 92 rfl) rfl
theorem q1416 : (Jvm.Cond.privateMethod ({ cls := "WebCourt", name := "fewest", desc := "(II)I" } : Jvm.MethodName)) ∈ lw_tbl := lw_at lw_m6 93 rfl
theorem q1417 : (Jvm.Cond.instanceMethod ({ cls := "WebCourt", name := "fewest", desc := "(II)I" } : Jvm.MethodName)) ∈ lw_all := lw_g (lw_at lw_m6 94 rfl) rfl
theorem q1418 : (Jvm.Cond.code ({ cls := "WebCourt", name := "fewest", desc := "(II)I" } : Jvm.MethodName) prog_1_method_32_code (6 : Nat) (Option.some Jvm.ClassFile.FieldType.int)) ∈ lw_all := lw_g (lw_at lw_m6 95 rfl) rfl
theorem q1419 : (Jvm.Cond.methodLink "WebCourt" (266 : Nat) ({ cls := "WebCourt$Court", name := "verdict", desc := "(LWebCourt$Book;II)I" } : Jvm.MethodName)) ∈ lw_all := lw_g (lw_at lw_m6 96 rfl) rfl
theorem q1420 : (Jvm.Cond.methodLink "WebCourt" (275 : Nat) ({ cls := "WebCourt", name := "told", desc := "(II)I" } : Jvm.MethodName)) ∈ lw_all := lw_g (lw_at lw_m6 97 rfl) rfl
theorem q1421 : (Jvm.Cond.static ({ cls := "WebCourt", name := "told", desc := "(II)I" } : Jvm.MethodName)) ∈ lw_all := lw_g (lw_at lw_m6 98 rfl) rfl
theorem q1422 : (Jvm.Cond.code ({ cls := "WebCourt", name := "told", desc := "(II)I" } : Jvm.MethodName) prog_1_method_33_code (2 : Nat) (Option.some Jvm.ClassFile.FieldType.int)) ∈ lw_all := lw_g (lw_at lw_m6 99 rfl) rfl
theorem q1424 : (Jvm.Cond.instanceMethod ({ cls := "WebCourt", name := "honest", desc := "(II)I" } : Jvm.MethodName)) ∈ lw_all := lw_g (lw_at lw_m6 101 rfl) rfl
theorem q1425 : (Jvm.Cond.selects "WebCourt" ({ cls := "WebCourt", name := "honest", desc := "(II)I" } : Jvm.MethodName) ({ cls := "WebCourt", name := "honest", desc := "(II)I" } : Jvm.MethodName)) ∈ lw_all := lw_g (lw_at lw_m6 102 rfl) rfl
theorem q1426 : (Jvm.Cond.code ({ cls := "WebCourt", name := "honest", desc := "(II)I" } : Jvm.MethodName) prog_1_method_35_code (3 : Nat) (Option.some Jvm.ClassFile.FieldType.int)) ∈ lw_all := lw_g (lw_at lw_m6 103 rfl) rfl
theorem q1428 : (Jvm.Cond.instanceMethod ({ cls := "WebCourt", name := "hopeless", desc := "()I" } : Jvm.MethodName)) ∈ lw_all := lw_g (lw_at lw_m6 105 rfl) rfl
theorem q1429 : (Jvm.Cond.selects "WebCourt" ({ cls := "WebCourt", name := "hopeless", desc := "()I" } : Jvm.MethodName) ({ cls := "WebCourt", name := "hopeless", desc := "()I" } : Jvm.MethodName)) ∈ lw_all := lw_g (lw_at lw_m6 106 rfl) rfl
theorem q1430 : (Jvm.Cond.code ({ cls := "WebCourt", name := "hopeless", desc := "()I" } : Jvm.MethodName) prog_1_method_36_code (3 : Nat) (Option.some Jvm.ClassFile.FieldType.int)) ∈ lw_all := lw_g (lw_at lw_m6 107 rfl) rfl
theorem q1432 : (Jvm.Cond.instanceMethod ({ cls := "WebCourt", name := "free", desc := "()I" } : Jvm.MethodName)) ∈ lw_all := lw_g (lw_at lw_m6 109 rfl) rfl
theorem q1433 : (Jvm.Cond.selects "WebCourt" ({ cls := "WebCourt", name := "free", desc := "()I" } : Jvm.MethodName) ({ cls := "WebCourt", name := "free", desc := "()I" } : Jvm.MethodName)) ∈ lw_all := lw_g (lw_at lw_m6 110 rfl) rfl
theorem q1434 : (Jvm.Cond.code ({ cls := "WebCourt", name := "free", desc := "()I" } : Jvm.MethodName) prog_1_method_37_code (3 : Nat) (Option.some Jvm.ClassFile.FieldType.int)) ∈ lw_all := lw_g (lw_at lw_m6 111 rfl) rfl
theorem q1436 : (Jvm.Cond.instanceMethod ({ cls := "WebCourt", name := "swap", desc := "(I)I" } : Jvm.MethodName)) ∈ lw_all := lw_g (lw_at lw_m6 113 rfl) rfl
theorem q1437 : (Jvm.Cond.selects "WebCourt" ({ cls := "WebCourt", name := "swap", desc := "(I)I" } : Jvm.MethodName) ({ cls := "WebCourt", name := "swap", desc := "(I)I" } : Jvm.MethodName)) ∈ lw_all := lw_g (lw_at lw_m6 114 rfl) rfl
theorem q1438 : (Jvm.Cond.code ({ cls := "WebCourt", name := "swap", desc := "(I)I" } : Jvm.MethodName) prog_1_method_39_code (7 : Nat) (Option.some Jvm.ClassFile.FieldType.int)) ∈ lw_all := lw_g (lw_at lw_m6 115 rfl) rfl
theorem q1439 : (Jvm.Cond.methodLink "WebCourt" (278 : Nat) ({ cls := "WebCourt", name := "free", desc := "()I" } : Jvm.MethodName)) ∈ lw_all := lw_g (lw_at lw_m6 116 rfl) rfl
theorem q1440 : (Jvm.Cond.methodLink "WebCourt" (281 : Nat) ({ cls := "WebCourt", name := "freeTried", desc := "()I" } : Jvm.MethodName)) ∈ lw_all := lw_g (lw_at lw_m6 117 rfl) rfl
theorem q1441 : (Jvm.Cond.privateMethod ({ cls := "WebCourt", name := "freeTried", desc := "()I" } : Jvm.MethodName)) ∈ lw_tbl := lw_at lw_m6 118 rfl
theorem q1442 : (Jvm.Cond.instanceMethod ({ cls := "WebCourt", name := "freeTried", desc := "()I" } : Jvm.MethodName)) ∈ lw_all := lw_g (lw_at lw_m6 119 rfl) rfl
theorem q1443 : (Jvm.Cond.code ({ cls := "WebCourt", name := "freeTried", desc := "()I" } : Jvm.MethodName) prog_1_method_38_code (3 : Nat) (Option.some Jvm.ClassFile.FieldType.int)) ∈ lw_all := lw_g (lw_at lw_m6 120 rfl) rfl
theorem q1445 : (Jvm.Cond.instanceMethod ({ cls := "WebCourt", name := "advice", desc := "(II)I" } : Jvm.MethodName)) ∈ lw_all := lw_g (lw_at lw_m6 122 rfl) rfl
theorem q1446 : (Jvm.Cond.selects "WebCourt" ({ cls := "WebCourt", name := "advice", desc := "(II)I" } : Jvm.MethodName) ({ cls := "WebCourt", name := "advice", desc := "(II)I" } : Jvm.MethodName)) ∈ lw_all := lw_g (lw_at lw_m6 123 rfl) rfl
theorem q1447 : (Jvm.Cond.code ({ cls := "WebCourt", name := "advice", desc := "(II)I" } : Jvm.MethodName) prog_1_method_40_code (7 : Nat) (Option.some Jvm.ClassFile.FieldType.int)) ∈ lw_all := lw_g (lw_at lw_m6 124 rfl) rfl
theorem q1449 : (Jvm.Cond.instanceMethod ({ cls := "WebCourt", name := "leave", desc := "(I)I" } : Jvm.MethodName)) ∈ lw_all := lw_g (lw_at lw_m6 126 rfl) rfl
theorem q1450 : (Jvm.Cond.selects "WebCourt" ({ cls := "WebCourt", name := "leave", desc := "(I)I" } : Jvm.MethodName) ({ cls := "WebCourt", name := "leave", desc := "(I)I" } : Jvm.MethodName)) ∈ lw_all := lw_g (lw_at lw_m6 127 rfl) rfl
theorem q1451 : (Jvm.Cond.code ({ cls := "WebCourt", name := "leave", desc := "(I)I" } : Jvm.MethodName) prog_1_method_41_code (4 : Nat) (Option.some Jvm.ClassFile.FieldType.int)) ∈ lw_all := lw_g (lw_at lw_m6 128 rfl) rfl
theorem q1453 : (Jvm.Cond.instanceMethod ({ cls := "WebCourt", name := "loophole", desc := "(I)I" } : Jvm.MethodName)) ∈ lw_all := lw_g (lw_at lw_m6 130 rfl) rfl
theorem q1454 : (Jvm.Cond.selects "WebCourt" ({ cls := "WebCourt", name := "loophole", desc := "(I)I" } : Jvm.MethodName) ({ cls := "WebCourt", name := "loophole", desc := "(I)I" } : Jvm.MethodName)) ∈ lw_all := lw_g (lw_at lw_m6 131 rfl) rfl
theorem q1455 : (Jvm.Cond.code ({ cls := "WebCourt", name := "loophole", desc := "(I)I" } : Jvm.MethodName) prog_1_method_42_code (3 : Nat) (Option.some Jvm.ClassFile.FieldType.int)) ∈ lw_all := lw_g (lw_at lw_m6 132 rfl) rfl
theorem q1457 : (Jvm.Cond.instanceMethod ({ cls := "WebCourt", name := "precedent", desc := "(I)I" } : Jvm.MethodName)) ∈ lw_all := lw_g (lw_at lw_m6 134 rfl) rfl
theorem q1458 : (Jvm.Cond.selects "WebCourt" ({ cls := "WebCourt", name := "precedent", desc := "(I)I" } : Jvm.MethodName) ({ cls := "WebCourt", name := "precedent", desc := "(I)I" } : Jvm.MethodName)) ∈ lw_all := lw_g (lw_at lw_m6 135 rfl) rfl
theorem q1459 : (Jvm.Cond.code ({ cls := "WebCourt", name := "precedent", desc := "(I)I" } : Jvm.MethodName) prog_1_method_43_code (3 : Nat) (Option.some Jvm.ClassFile.FieldType.int)) ∈ lw_all := lw_g (lw_at lw_m6 136 rfl) rfl
theorem q1461 : (Jvm.Cond.instanceMethod ({ cls := "WebCourt", name := "forbid", desc := "(I)I" } : Jvm.MethodName)) ∈ lw_all := lw_g (lw_at lw_m6 138 rfl) rfl
theorem q1462 : (Jvm.Cond.selects "WebCourt" ({ cls := "WebCourt", name := "forbid", desc := "(I)I" } : Jvm.MethodName) ({ cls := "WebCourt", name := "forbid", desc := "(I)I" } : Jvm.MethodName)) ∈ lw_all := lw_g (lw_at lw_m6 139 rfl) rfl
theorem q1463 : (Jvm.Cond.code ({ cls := "WebCourt", name := "forbid", desc := "(I)I" } : Jvm.MethodName) prog_1_method_45_code (4 : Nat) (Option.some Jvm.ClassFile.FieldType.int)) ∈ lw_all := lw_g (lw_at lw_m6 140 rfl) rfl
theorem q1464 : (Jvm.Cond.methodLink "WebCourt" (284 : Nat) ({ cls := "WebCourt", name := "freedWithout", desc := "(I)I" } : Jvm.MethodName)) ∈ lw_all := lw_g (lw_at lw_m6 141 rfl) rfl
theorem q1465 : (Jvm.Cond.privateMethod ({ cls := "WebCourt", name := "freedWithout", desc := "(I)I" } : Jvm.MethodName)) ∈ lw_tbl := lw_at lw_m6 142 rfl
theorem q1466 : (Jvm.Cond.instanceMethod ({ cls := "WebCourt", name := "freedWithout", desc := "(I)I" } : Jvm.MethodName)) ∈ lw_all := lw_g (lw_at lw_m6 143 rfl) rfl
theorem q1467 : (Jvm.Cond.code ({ cls := "WebCourt", name := "freedWithout", desc := "(I)I" } : Jvm.MethodName) prog_1_method_44_code (4 : Nat) (Option.some Jvm.ClassFile.FieldType.int)) ∈ lw_all := lw_g (lw_at lw_m6 144 rfl) rfl
theorem q1469 : (Jvm.Cond.instanceMethod ({ cls := "WebCourt", name := "fashion", desc := "()I" } : Jvm.MethodName)) ∈ lw_all := lw_g (lw_at lw_m6 146 rfl) rfl
theorem q1470 : (Jvm.Cond.selects "WebCourt" ({ cls := "WebCourt", name := "fashion", desc := "()I" } : Jvm.MethodName) ({ cls := "WebCourt", name := "fashion", desc := "()I" } : Jvm.MethodName)) ∈ lw_all := lw_g (lw_at lw_m6 147 rfl) rfl
theorem q1471 : (Jvm.Cond.code ({ cls := "WebCourt", name := "fashion", desc := "()I" } : Jvm.MethodName) prog_1_method_46_code (6 : Nat) (Option.some Jvm.ClassFile.FieldType.int)) ∈ lw_all := lw_g (lw_at lw_m6 148 rfl) rfl
theorem q1473 : (Jvm.Cond.instanceMethod ({ cls := "WebCourt", name := "contrary", desc := "(I)I" } : Jvm.MethodName)) ∈ lw_all := lw_g (lw_at lw_m6 150 rfl) rfl
theorem q1474 : (Jvm.Cond.selects "WebCourt" ({ cls := "WebCourt", name := "contrary", desc := "(I)I" } : Jvm.MethodName) ({ cls := "WebCourt", name := "contrary", desc := "(I)I" } : Jvm.MethodName)) ∈ lw_all := lw_g (lw_at lw_m6 151 rfl) rfl
theorem q1475 : (Jvm.Cond.code ({ cls := "WebCourt", name := "contrary", desc := "(I)I" } : Jvm.MethodName) prog_1_method_48_code (4 : Nat) (Option.some Jvm.ClassFile.FieldType.int)) ∈ lw_all := lw_g (lw_at lw_m6 152 rfl) rfl
theorem q1476 : (Jvm.Cond.methodLink "WebCourt" (287 : Nat) ({ cls := "WebCourt", name := "rankOf", desc := "(I)I" } : Jvm.MethodName)) ∈ lw_all := lw_g (lw_at lw_m6 153 rfl) rfl
theorem q1477 : (Jvm.Cond.privateMethod ({ cls := "WebCourt", name := "rankOf", desc := "(I)I" } : Jvm.MethodName)) ∈ lw_tbl := lw_at lw_m6 154 rfl
theorem q1478 : (Jvm.Cond.instanceMethod ({ cls := "WebCourt", name := "rankOf", desc := "(I)I" } : Jvm.MethodName)) ∈ lw_all := lw_g (lw_at lw_m6 155 rfl) rfl
theorem q1479 : (Jvm.Cond.code ({ cls := "WebCourt", name := "rankOf", desc := "(I)I" } : Jvm.MethodName) prog_1_method_47_code (2 : Nat) (Option.some Jvm.ClassFile.FieldType.int)) ∈ lw_all := lw_g (lw_at lw_m6 156 rfl) rfl
theorem q1481 : (Jvm.Cond.instanceMethod ({ cls := "WebCourt", name := "likeliest", desc := "()I" } : Jvm.MethodName)) ∈ lw_all := lw_g (lw_at lw_m6 158 rfl) rfl
theorem q1482 : (Jvm.Cond.selects "WebCourt" ({ cls := "WebCourt", name := "likeliest", desc := "()I" } : Jvm.MethodName) ({ cls := "WebCourt", name := "likeliest", desc := "()I" } : Jvm.MethodName)) ∈ lw_all := lw_g (lw_at lw_m6 159 rfl) rfl
theorem q1483 : (Jvm.Cond.code ({ cls := "WebCourt", name := "likeliest", desc := "()I" } : Jvm.MethodName) prog_1_method_49_code (3 : Nat) (Option.some Jvm.ClassFile.FieldType.int)) ∈ lw_all := lw_g (lw_at lw_m6 160 rfl) rfl
theorem q1485 : (Jvm.Cond.instanceMethod ({ cls := "WebCourt", name := "rivals", desc := "(II)I" } : Jvm.MethodName)) ∈ lw_all := lw_g (lw_at lw_m6 162 rfl) rfl
theorem q1486 : (Jvm.Cond.selects "WebCourt" ({ cls := "WebCourt", name := "rivals", desc := "(II)I" } : Jvm.MethodName) ({ cls := "WebCourt", name := "rivals", desc := "(II)I" } : Jvm.MethodName)) ∈ lw_all := lw_g (lw_at lw_m6 163 rfl) rfl
theorem q1487 : (Jvm.Cond.code ({ cls := "WebCourt", name := "rivals", desc := "(II)I" } : Jvm.MethodName) prog_1_method_51_code (6 : Nat) (Option.some Jvm.ClassFile.FieldType.int)) ∈ lw_all := lw_g (lw_at lw_m6 164 rfl) rfl
theorem q1488 : (Jvm.Cond.methodLink "WebCourt" (290 : Nat) ({ cls := "WebCourt", name := "rests", desc := "(II)Z" } : Jvm.MethodName)) ∈ lw_all := lw_g (lw_at lw_m6 165 rfl) rfl
theorem q1489 : (Jvm.Cond.privateMethod ({ cls := "WebCourt", name := "rests", desc := "(II)Z" } : Jvm.MethodName)) ∈ lw_tbl := lw_at lw_m6 166 rfl
theorem q1490 : (Jvm.Cond.instanceMethod ({ cls := "WebCourt", name := "rests", desc := "(II)Z" } : Jvm.MethodName)) ∈ lw_all := lw_g (lw_at lw_m6 167 rfl) rfl
theorem q1491 : (Jvm.Cond.code ({ cls := "WebCourt", name := "rests", desc := "(II)Z" } : Jvm.MethodName) prog_1_method_50_code (5 : Nat) (Option.some Jvm.ClassFile.FieldType.boolean)) ∈ lw_all := lw_g (lw_at lw_m6 168 rfl) rfl
theorem q1493 : (Jvm.Cond.instanceMethod ({ cls := "WebCourt", name := "way", desc := "(I)I" } : Jvm.MethodName)) ∈ lw_all := lw_g (lw_at lw_m6 170 rfl) rfl
theorem q1494 : (Jvm.Cond.selects "WebCourt" ({ cls := "WebCourt", name := "way", desc := "(I)I" } : Jvm.MethodName) ({ cls := "WebCourt", name := "way", desc := "(I)I" } : Jvm.MethodName)) ∈ lw_all := lw_g (lw_at lw_m6 171 rfl) rfl
theorem q1495 : (Jvm.Cond.code ({ cls := "WebCourt", name := "way", desc := "(I)I" } : Jvm.MethodName) prog_1_method_53_code (6 : Nat) (Option.some Jvm.ClassFile.FieldType.int)) ∈ lw_all := lw_g (lw_at lw_m6 172 rfl) rfl
theorem q1496 : (Jvm.Cond.methodLink "WebCourt" (307 : Nat) ({ cls := "WebCourt", name := "layFar", desc := "(LWebCourt$Court;)V" } : Jvm.MethodName)) ∈ lw_all := lw_g (lw_at lw_m6 173 rfl) rfl
theorem q1497 : (Jvm.Cond.privateMethod ({ cls := "WebCourt", name := "layFar", desc := "(LWebCourt$Court;)V" } : Jvm.MethodName)) ∈ lw_tbl := lw_at lw_m6 174 rfl
theorem q1498 : (Jvm.Cond.instanceMethod ({ cls := "WebCourt", name := "layFar", desc := "(LWebCourt$Court;)V" } : Jvm.MethodName)) ∈ lw_all := lw_g (lw_at lw_m6 175 rfl) rfl
theorem q1499 : (Jvm.Cond.code ({ cls := "WebCourt", name := "layFar", desc := "(LWebCourt$Court;)V" } : Jvm.MethodName) prog_1_method_52_code (5 : Nat) (Option.none : Option Jvm.ClassFile.FieldType)) ∈ lw_all := lw_g (lw_at lw_m6 176 rfl) rfl
theorem q1500 : (Jvm.Cond.constant "WebCourt" (293 : Nat) (1000000 : Int32)) ∈ lw_all := lw_g (lw_at lw_m6 177 rfl) rfl
theorem q1501 : (Jvm.Cond.classLink "WebCourt" (294 : Nat) "WebCourt$Line") ∈ lw_all := lw_g (lw_at lw_m6 178 rfl) rfl
theorem q1502 : (Jvm.Cond.methodLink "WebCourt" (302 : Nat) ({ cls := "java/lang/Math", name := "min", desc := "(II)I" } : Jvm.MethodName)) ∈ lw_all := lw_g (lw_at lw_m6 179 rfl) rfl
theorem q1504 : (Jvm.Cond.instanceMethod ({ cls := "WebCourt", name := "reach", desc := "()I" } : Jvm.MethodName)) ∈ lw_all := lw_g (lw_at lw_m6 181 rfl) rfl
theorem q1505 : (Jvm.Cond.selects "WebCourt" ({ cls := "WebCourt", name := "reach", desc := "()I" } : Jvm.MethodName) ({ cls := "WebCourt", name := "reach", desc := "()I" } : Jvm.MethodName)) ∈ lw_all := lw_g (lw_at lw_m6 182 rfl) rfl
theorem q1506 : (Jvm.Cond.code ({ cls := "WebCourt", name := "reach", desc := "()I" } : Jvm.MethodName) prog_1_method_55_code (1 : Nat) (Option.some Jvm.ClassFile.FieldType.int)) ∈ lw_all := lw_g (lw_at lw_m6 183 rfl) rfl
theorem q1507 : (Jvm.Cond.methodLink "WebCourt" (310 : Nat) ({ cls := "WebCourt", name := "reachable", desc := "()I" } : Jvm.MethodName)) ∈ lw_all := lw_g (lw_at lw_m6 184 rfl) rfl
theorem q1508 : (Jvm.Cond.privateMethod ({ cls := "WebCourt", name := "reachable", desc := "()I" } : Jvm.MethodName)) ∈ lw_tbl := lw_at lw_m6 185 rfl
theorem q1509 : (Jvm.Cond.instanceMethod ({ cls := "WebCourt", name := "reachable", desc := "()I" } : Jvm.MethodName)) ∈ lw_all := lw_g (lw_at lw_m6 186 rfl) rfl
theorem q1510 : (Jvm.Cond.code ({ cls := "WebCourt", name := "reachable", desc := "()I" } : Jvm.MethodName) prog_1_method_54_code (3 : Nat) (Option.some Jvm.ClassFile.FieldType.int)) ∈ lw_all := lw_g (lw_at lw_m6 187 rfl) rfl
theorem q1512 : (Jvm.Cond.instanceMethod ({ cls := "WebCourt", name := "bridge", desc := "(I)I" } : Jvm.MethodName)) ∈ lw_all := lw_g (lw_at lw_m6 189 rfl) rfl
theorem q1513 : (Jvm.Cond.selects "WebCourt" ({ cls := "WebCourt", name := "bridge", desc := "(I)I" } : Jvm.MethodName) ({ cls := "WebCourt", name := "bridge", desc := "(I)I" } : Jvm.MethodName)) ∈ lw_all := lw_g (lw_at lw_m6 190 rfl) rfl
theorem q1514 : (Jvm.Cond.code ({ cls := "WebCourt", name := "bridge", desc := "(I)I" } : Jvm.MethodName) prog_1_method_56_code (6 : Nat) (Option.some Jvm.ClassFile.FieldType.int)) ∈ lw_all := lw_g (lw_at lw_m6 191 rfl) rfl
theorem q1516 : (Jvm.Cond.instanceMethod ({ cls := "WebCourt", name := "round", desc := "()I" } : Jvm.MethodName)) ∈ lw_all := lw_g (lw_at lw_m6 193 rfl) rfl
theorem q1517 : (Jvm.Cond.selects "WebCourt" ({ cls := "WebCourt", name := "round", desc := "()I" } : Jvm.MethodName) ({ cls := "WebCourt", name := "round", desc := "()I" } : Jvm.MethodName)) ∈ lw_all := lw_g (lw_at lw_m6 194 rfl) rfl
theorem q1518 : (Jvm.Cond.code ({ cls := "WebCourt", name := "round", desc := "()I" } : Jvm.MethodName) prog_1_method_58_code (1 : Nat) (Option.some Jvm.ClassFile.FieldType.int)) ∈ lw_all := lw_g (lw_at lw_m6 195 rfl) rfl
theorem q1519 : (Jvm.Cond.methodLink "WebCourt" (319 : Nat) ({ cls := "WebCourt", name := "rounds", desc := "(IIII)V" } : Jvm.MethodName)) ∈ lw_all := lw_g (lw_at lw_m6 196 rfl) rfl
theorem q1520 : (Jvm.Cond.privateMethod ({ cls := "WebCourt", name := "rounds", desc := "(IIII)V" } : Jvm.MethodName)) ∈ lw_tbl := lw_at lw_m6 197 rfl
theorem q1521 : (Jvm.Cond.instanceMethod ({ cls := "WebCourt", name := "rounds", desc := "(IIII)V" } : Jvm.MethodName)) ∈ lw_all := lw_g (lw_at lw_m6 198 rfl) rfl
theorem q1522 : (Jvm.Cond.code ({ cls := "WebCourt", name := "rounds", desc := "(IIII)V" } : Jvm.MethodName) prog_1_method_57_code (9 : Nat) (Option.none : Option Jvm.ClassFile.FieldType)) ∈ lw_all := lw_g (lw_at lw_m6 199 rfl) rfl
theorem q1523 : (Jvm.Cond.methodLink "WebCourt" (316 : Nat) ({ cls := "java/lang/Math", name := "max", desc := "(II)I" } : Jvm.MethodName)) ∈ lw_all := lw_g (lw_at lw_m6 200 rfl) rfl
theorem q1525 : (Jvm.Cond.instanceMethod ({ cls := "WebCourt", name := "term", desc := "(I)I" } : Jvm.MethodName)) ∈ lw_all := lw_g (lw_at lw_m6 202 rfl) rfl
theorem q1526 : (Jvm.Cond.selects "WebCourt" ({ cls := "WebCourt", name := "term", desc := "(I)I" } : Jvm.MethodName) ({ cls := "WebCourt", name := "term", desc := "(I)I" } : Jvm.MethodName)) ∈ lw_all := lw_g (lw_at lw_m6 203 rfl) rfl
theorem q1527 : (Jvm.Cond.code ({ cls := "WebCourt", name := "term", desc := "(I)I" } : Jvm.MethodName) prog_1_method_60_code (2 : Nat) (Option.some Jvm.ClassFile.FieldType.int)) ∈ lw_all := lw_g (lw_at lw_m6 204 rfl) rfl
theorem q1528 : (Jvm.Cond.methodLink "WebCourt" (326 : Nat) ({ cls := "WebCourt", name := "terms", desc := "(IIII)V" } : Jvm.MethodName)) ∈ lw_all := lw_g (lw_at lw_m6 205 rfl) rfl
theorem q1529 : (Jvm.Cond.privateMethod ({ cls := "WebCourt", name := "terms", desc := "(IIII)V" } : Jvm.MethodName)) ∈ lw_tbl := lw_at lw_m6 206 rfl
theorem q1530 : (Jvm.Cond.instanceMethod ({ cls := "WebCourt", name := "terms", desc := "(IIII)V" } : Jvm.MethodName)) ∈ lw_all := lw_g (lw_at lw_m6 207 rfl) rfl
theorem q1531 : (Jvm.Cond.code ({ cls := "WebCourt", name := "terms", desc := "(IIII)V" } : Jvm.MethodName) prog_1_method_59_code (8 : Nat) (Option.none : Option Jvm.ClassFile.FieldType)) ∈ lw_all := lw_g (lw_at lw_m6 208 rfl) rfl
theorem q1533 : (Jvm.Cond.instanceMethod ({ cls := "WebCourt", name := "odds", desc := "(II)I" } : Jvm.MethodName)) ∈ lw_all := lw_g (lw_at lw_m6 210 rfl) rfl
theorem q1534 : (Jvm.Cond.selects "WebCourt" ({ cls := "WebCourt", name := "odds", desc := "(II)I" } : Jvm.MethodName) ({ cls := "WebCourt", name := "odds", desc := "(II)I" } : Jvm.MethodName)) ∈ lw_all := lw_g (lw_at lw_m6 211 rfl) rfl
theorem q1535 : (Jvm.Cond.code ({ cls := "WebCourt", name := "odds", desc := "(II)I" } : Jvm.MethodName) prog_1_method_62_code (6 : Nat) (Option.some Jvm.ClassFile.FieldType.int)) ∈ lw_all := lw_g (lw_at lw_m6 212 rfl) rfl
theorem q1536 : (Jvm.Cond.methodLink "WebCourt" (332 : Nat) ({ cls := "WebCourt", name := "common", desc := "(II)I" } : Jvm.MethodName)) ∈ lw_all := lw_g (lw_at lw_m6 213 rfl) rfl
theorem q1537 : (Jvm.Cond.static ({ cls := "WebCourt", name := "common", desc := "(II)I" } : Jvm.MethodName)) ∈ lw_all := lw_g (lw_at lw_m6 214 rfl) rfl
theorem q1538 : (Jvm.Cond.code ({ cls := "WebCourt", name := "common", desc := "(II)I" } : Jvm.MethodName) prog_1_method_61_code (5 : Nat) (Option.some Jvm.ClassFile.FieldType.int)) ∈ lw_all := lw_g (lw_at lw_m6 215 rfl) rfl
theorem q1540 : (Jvm.Cond.instanceMethod ({ cls := "WebCourt", name := "lies", desc := "(I)I" } : Jvm.MethodName)) ∈ lw_all := lw_g (lw_at lw_m6 217 rfl) rfl
theorem q1541 : (Jvm.Cond.selects "WebCourt" ({ cls := "WebCourt", name := "lies", desc := "(I)I" } : Jvm.MethodName) ({ cls := "WebCourt", name := "lies", desc := "(I)I" } : Jvm.MethodName)) ∈ lw_all := lw_g (lw_at lw_m6 218 rfl) rfl
theorem q1542 : (Jvm.Cond.code ({ cls := "WebCourt", name := "lies", desc := "(I)I" } : Jvm.MethodName) prog_1_method_63_code (2 : Nat) (Option.some Jvm.ClassFile.FieldType.int)) ∈ lw_all := lw_g (lw_at lw_m6 219 rfl) rfl
theorem q1544 : (Jvm.Cond.instanceMethod ({ cls := "WebCourt", name := "heard", desc := "(IIZ)I" } : Jvm.MethodName)) ∈ lw_all := lw_g (lw_at lw_m6 221 rfl) rfl
theorem q1545 : (Jvm.Cond.selects "WebCourt" ({ cls := "WebCourt", name := "heard", desc := "(IIZ)I" } : Jvm.MethodName) ({ cls := "WebCourt", name := "heard", desc := "(IIZ)I" } : Jvm.MethodName)) ∈ lw_all := lw_g (lw_at lw_m6 222 rfl) rfl
theorem q1546 : (Jvm.Cond.code ({ cls := "WebCourt", name := "heard", desc := "(IIZ)I" } : Jvm.MethodName) prog_1_method_64_code (4 : Nat) (Option.some Jvm.ClassFile.FieldType.int)) ∈ lw_all := lw_g (lw_at lw_m6 223 rfl) rfl
theorem q1547 : (Jvm.Cond.classLink "WebCourt" (335 : Nat) "WebCourt$Cry") ∈ lw_all := lw_g (lw_at lw_m6 224 rfl) rfl
theorem q1549 : (Jvm.Cond.methodLink "WebCourt" (337 : Nat) ({ cls := "WebCourt$Cry", name := "<init>", desc := "(LWebCourt;IIZ)V" } : Jvm.MethodName)) ∈ lw_all := lw_g (lw_at lw_m6 226 rfl) rfl
theorem q1572 : (Jvm.Cond.methodLink "WebCourt" (340 : Nat) ({ cls := "java/util/ArrayList", name := "add", desc := "(Ljava/lang/Object;)Z" } : Jvm.MethodName)) ∈ lw_all := lw_g (lw_at lw_m7 9 rfl) rfl
theorem q1574 : (Jvm.Cond.instanceMethod ({ cls := "WebCourt", name := "untell", desc := "(I)Z" } : Jvm.MethodName)) ∈ lw_all := lw_g (lw_at lw_m7 11 rfl) rfl
theorem q1575 : (Jvm.Cond.selects "WebCourt" ({ cls := "WebCourt", name := "untell", desc := "(I)Z" } : Jvm.MethodName) ({ cls := "WebCourt", name := "untell", desc := "(I)Z" } : Jvm.MethodName)) ∈ lw_all := lw_g (lw_at lw_m7 12 rfl) rfl
theorem q1576 : (Jvm.Cond.code ({ cls := "WebCourt", name := "untell", desc := "(I)Z" } : Jvm.MethodName) prog_1_method_65_code (2 : Nat) (Option.some Jvm.ClassFile.FieldType.boolean)) ∈ lw_all := lw_g (lw_at lw_m7 13 rfl) rfl
theorem q1577 : (Jvm.Cond.methodLink "WebCourt" (343 : Nat) ({ cls := "WebCourt$Cry", name := "untell", desc := "()Z" } : Jvm.MethodName)) ∈ lw_all := lw_g (lw_at lw_m7 14 rfl) rfl
theorem q1582 : (Jvm.Cond.instanceMethod ({ cls := "WebCourt", name := "later", desc := "(I)I" } : Jvm.MethodName)) ∈ lw_all := lw_g (lw_at lw_m7 19 rfl) rfl
theorem q1583 : (Jvm.Cond.selects "WebCourt" ({ cls := "WebCourt", name := "later", desc := "(I)I" } : Jvm.MethodName) ({ cls := "WebCourt", name := "later", desc := "(I)I" } : Jvm.MethodName)) ∈ lw_all := lw_g (lw_at lw_m7 20 rfl) rfl
theorem q1584 : (Jvm.Cond.code ({ cls := "WebCourt", name := "later", desc := "(I)I" } : Jvm.MethodName) prog_1_method_66_code (2 : Nat) (Option.some Jvm.ClassFile.FieldType.int)) ∈ lw_all := lw_g (lw_at lw_m7 21 rfl) rfl
theorem q1585 : (Jvm.Cond.constant "WebCourt" (350 : Nat) (100000 : Int32)) ∈ lw_all := lw_g (lw_at lw_m7 22 rfl) rfl
theorem q1587 : (Jvm.Cond.instanceMethod ({ cls := "WebCourt", name := "fits", desc := "(I)I" } : Jvm.MethodName)) ∈ lw_all := lw_g (lw_at lw_m7 24 rfl) rfl
theorem q1588 : (Jvm.Cond.selects "WebCourt" ({ cls := "WebCourt", name := "fits", desc := "(I)I" } : Jvm.MethodName) ({ cls := "WebCourt", name := "fits", desc := "(I)I" } : Jvm.MethodName)) ∈ lw_all := lw_g (lw_at lw_m7 25 rfl) rfl
theorem q1589 : (Jvm.Cond.code ({ cls := "WebCourt", name := "fits", desc := "(I)I" } : Jvm.MethodName) prog_1_method_68_code (2 : Nat) (Option.some Jvm.ClassFile.FieldType.int)) ∈ lw_all := lw_g (lw_at lw_m7 26 rfl) rfl
theorem q1590 : (Jvm.Cond.methodLink "WebCourt" (357 : Nat) ({ cls := "WebCourt", name := "layFits", desc := "(I)I" } : Jvm.MethodName)) ∈ lw_all := lw_g (lw_at lw_m7 27 rfl) rfl
theorem q1591 : (Jvm.Cond.privateMethod ({ cls := "WebCourt", name := "layFits", desc := "(I)I" } : Jvm.MethodName)) ∈ lw_tbl := lw_at lw_m7 28 rfl
theorem q1592 : (Jvm.Cond.instanceMethod ({ cls := "WebCourt", name := "layFits", desc := "(I)I" } : Jvm.MethodName)) ∈ lw_all := lw_g (lw_at lw_m7 29 rfl) rfl
theorem q1593 : (Jvm.Cond.code ({ cls := "WebCourt", name := "layFits", desc := "(I)I" } : Jvm.MethodName) prog_1_method_67_code (5 : Nat) (Option.some Jvm.ClassFile.FieldType.int)) ∈ lw_all := lw_g (lw_at lw_m7 30 rfl) rfl
theorem q1594 : (Jvm.Cond.methodLink "WebCourt" (354 : Nat) ({ cls := "WebCourt$Cry", name := "allows", desc := "(II)Z" } : Jvm.MethodName)) ∈ lw_all := lw_g (lw_at lw_m7 31 rfl) rfl
theorem q1599 : (Jvm.Cond.instanceMethod ({ cls := "WebCourt", name := "sure", desc := "(II)I" } : Jvm.MethodName)) ∈ lw_all := lw_g (lw_at lw_m7 36 rfl) rfl
theorem q1600 : (Jvm.Cond.selects "WebCourt" ({ cls := "WebCourt", name := "sure", desc := "(II)I" } : Jvm.MethodName) ({ cls := "WebCourt", name := "sure", desc := "(II)I" } : Jvm.MethodName)) ∈ lw_all := lw_g (lw_at lw_m7 37 rfl) rfl
theorem q1601 : (Jvm.Cond.code ({ cls := "WebCourt", name := "sure", desc := "(II)I" } : Jvm.MethodName) prog_1_method_69_code (5 : Nat) (Option.some Jvm.ClassFile.FieldType.int)) ∈ lw_all := lw_g (lw_at lw_m7 38 rfl) rfl
theorem q1603 : (Jvm.Cond.instanceMethod ({ cls := "WebCourt", name := "ask", desc := "(II)I" } : Jvm.MethodName)) ∈ lw_all := lw_g (lw_at lw_m7 40 rfl) rfl
theorem q1604 : (Jvm.Cond.selects "WebCourt" ({ cls := "WebCourt", name := "ask", desc := "(II)I" } : Jvm.MethodName) ({ cls := "WebCourt", name := "ask", desc := "(II)I" } : Jvm.MethodName)) ∈ lw_all := lw_g (lw_at lw_m7 41 rfl) rfl
theorem q1605 : (Jvm.Cond.code ({ cls := "WebCourt", name := "ask", desc := "(II)I" } : Jvm.MethodName) prog_1_method_71_code (5 : Nat) (Option.some Jvm.ClassFile.FieldType.int)) ∈ lw_all := lw_g (lw_at lw_m7 42 rfl) rfl
theorem q1606 : (Jvm.Cond.methodLink "WebCourt" (360 : Nat) ({ cls := "WebCourt", name := "leftBy", desc := "(I)I" } : Jvm.MethodName)) ∈ lw_all := lw_g (lw_at lw_m7 43 rfl) rfl
theorem q1607 : (Jvm.Cond.privateMethod ({ cls := "WebCourt", name := "leftBy", desc := "(I)I" } : Jvm.MethodName)) ∈ lw_tbl := lw_at lw_m7 44 rfl
theorem q1608 : (Jvm.Cond.instanceMethod ({ cls := "WebCourt", name := "leftBy", desc := "(I)I" } : Jvm.MethodName)) ∈ lw_all := lw_g (lw_at lw_m7 45 rfl) rfl
theorem q1609 : (Jvm.Cond.code ({ cls := "WebCourt", name := "leftBy", desc := "(I)I" } : Jvm.MethodName) prog_1_method_70_code (6 : Nat) (Option.some Jvm.ClassFile.FieldType.int)) ∈ lw_all := lw_g (lw_at lw_m7 46 rfl) rfl
theorem q1611 : (Jvm.Cond.instanceMethod ({ cls := "WebCourt", name := "image", desc := "(I)I" } : Jvm.MethodName)) ∈ lw_all := lw_g (lw_at lw_m7 48 rfl) rfl
theorem q1612 : (Jvm.Cond.selects "WebCourt" ({ cls := "WebCourt", name := "image", desc := "(I)I" } : Jvm.MethodName) ({ cls := "WebCourt", name := "image", desc := "(I)I" } : Jvm.MethodName)) ∈ lw_all := lw_g (lw_at lw_m7 49 rfl) rfl
theorem q1613 : (Jvm.Cond.code ({ cls := "WebCourt", name := "image", desc := "(I)I" } : Jvm.MethodName) prog_1_method_73_code (2 : Nat) (Option.some Jvm.ClassFile.FieldType.int)) ∈ lw_all := lw_g (lw_at lw_m7 50 rfl) rfl
theorem q1614 : (Jvm.Cond.methodLink "WebCourt" (363 : Nat) ({ cls := "WebCourt", name := "isBox", desc := "(I)Z" } : Jvm.MethodName)) ∈ lw_all := lw_g (lw_at lw_m7 51 rfl) rfl
theorem q1615 : (Jvm.Cond.static ({ cls := "WebCourt", name := "isBox", desc := "(I)Z" } : Jvm.MethodName)) ∈ lw_all := lw_g (lw_at lw_m7 52 rfl) rfl
theorem q1616 : (Jvm.Cond.code ({ cls := "WebCourt", name := "isBox", desc := "(I)Z" } : Jvm.MethodName) prog_1_method_72_code (1 : Nat) (Option.some Jvm.ClassFile.FieldType.boolean)) ∈ lw_all := lw_g (lw_at lw_m7 53 rfl) rfl
theorem q1618 : (Jvm.Cond.instanceMethod ({ cls := "WebCourt", name := "restore", desc := "(I)I" } : Jvm.MethodName)) ∈ lw_all := lw_g (lw_at lw_m7 55 rfl) rfl
theorem q1619 : (Jvm.Cond.selects "WebCourt" ({ cls := "WebCourt", name := "restore", desc := "(I)I" } : Jvm.MethodName) ({ cls := "WebCourt", name := "restore", desc := "(I)I" } : Jvm.MethodName)) ∈ lw_all := lw_g (lw_at lw_m7 56 rfl) rfl
theorem q1620 : (Jvm.Cond.code ({ cls := "WebCourt", name := "restore", desc := "(I)I" } : Jvm.MethodName) prog_1_method_74_code (2 : Nat) (Option.some Jvm.ClassFile.FieldType.int)) ∈ lw_all := lw_g (lw_at lw_m7 57 rfl) rfl
theorem q1622 : (Jvm.Cond.instanceMethod ({ cls := "WebCourt", name := "about", desc := "(I)I" } : Jvm.MethodName)) ∈ lw_all := lw_g (lw_at lw_m7 59 rfl) rfl
theorem q1623 : (Jvm.Cond.selects "WebCourt" ({ cls := "WebCourt", name := "about", desc := "(I)I" } : Jvm.MethodName) ({ cls := "WebCourt", name := "about", desc := "(I)I" } : Jvm.MethodName)) ∈ lw_all := lw_g (lw_at lw_m7 60 rfl) rfl
theorem q1624 : (Jvm.Cond.code ({ cls := "WebCourt", name := "about", desc := "(I)I" } : Jvm.MethodName) prog_1_method_75_code (2 : Nat) (Option.some Jvm.ClassFile.FieldType.int)) ∈ lw_all := lw_g (lw_at lw_m7 61 rfl) rfl
theorem q2339 : (Jvm.Cond.castable "WebCourt" "java/lang/Object") ∈ lw_tbl := lw_at lw_m10 56 rfl
theorem in_X0 : ∀ w ∈ wsX00, w ∈ lw_all := lw_in wsX00 [389, 391, 393, 395, 397, 399, 401, 403, 405, 407, 409, 411, 413, 415, 417, 419, 421, 423, 425, 427, 429, 431, 433, 435, 437] (by decide +kernel) (by decide +kernel)
