/-! WebCourtModel -/
set_option maxRecDepth 100000
def RX4 : String := "WebCourtModel"
def TX4 : u_T := fun k => match k with
  | 0 => ("WebCourtModel", "tape", "[B", true)
  | 1 => ("WebCourtModel", "text", "[B", true)
  | 2 => ("WebCourtModel", "taped", "I", false)
  | 3 => ("WebCourtModel", "size", "I", false)
  | 4 => ("WebCourtModel", "faultKind", "I", false)
  | 5 => ("WebCourtModel", "faultPlace", "I", false)
  | 6 => ("WebCourtModel", "at", "I", false)
  | 7 => ("WebCourtModel", "end", "I", false)
  | 8 => ("WebCourtModel", "token", "I", false)
  | 9 => ("WebCourtModel", "number", "I", false)
  | 10 => ("WebCourtModel", "name", "J", false)
  | 11 => ("WebCourtModel", "knots", "[I", true)
  | 12 => ("WebCourtModel", "lines", "[I", true)
  | 13 => ("WebCourtModel", "pleas", "[I", true)
  | 14 => ("WebCourtModel", "cases", "[I", true)
  | 15 => ("WebCourtModel", "units", "[I", true)
  | 16 => ("WebCourtModel", "bench", "[I", true)
  | 17 => ("WebCourtModel", "back", "[I", true)
  | 18 => ("WebCourtModel", "draw", "[I", true)
  | 19 => ("WebCourtModel", "told", "[I", true)
  | 20 => ("WebCourtModel", "stickyTold", "[I", true)
  | 21 => ("WebCourtModel", "oneEnd", "[I", true)
  | 22 => ("WebCourtModel", "otherEnd", "[I", true)
  | 23 => ("WebCourtModel", "strong", "[I", true)
  | 24 => ("WebCourtModel", "knotOf", "[I", true)
  | 25 => ("WebCourtModel", "pleaTold", "[I", true)
  | 26 => ("WebCourtModel", "ruleFrom", "[I", true)
  | 27 => ("WebCourtModel", "ruleTo", "[I", true)
  | 28 => ("WebCourtModel", "kName", "[J", true)
  | 29 => ("WebCourtModel", "pName", "[J", true)
  | 30 => ("WebCourtModel", "cName", "[J", true)
  | 31 => ("WebCourtModel", "code", "[I", true)
  | 32 => ("WebCourtModel", "codeNumber", "[I", true)
  | 33 => ("WebCourtModel", "eWhat", "[I", true)
  | 34 => ("WebCourtModel", "eSign", "[I", true)
  | 35 => ("WebCourtModel", "pile", "[I", true)
  | 36 => ("WebCourtModel", "bank", "I", false)
  | 37 => ("WebCourtModel", "rb", "I", false)
  | 38 => ("WebCourtModel", "codes", "I", false)
  | 39 => ("WebCourtModel", "within", "I", false)
  | 40 => ("WebCourtModel", "piled", "I", false)
  | 41 => ("WebCourtModel", "unitsInRule", "I", false)
  | 42 => ("WebCourtModel", "askCase", "I", false)
  | 43 => ("WebCourtModel", "askPleas", "I", false)
  | 44 => ("WebCourtModel", "all", "[I", true)
  | 45 => ("WebCourtModel", "thought", "I", false)
  | 46 => ("WebCourtModel", "was", "[I", true)
  | 47 => ("WebCourtModel", "acts", "I", false)
  | 48 => ("WebCourtModel", "undone", "I", false)
  | 49 => ("WebCourtModel", "laidRow", "[I", true)
  | 50 => ("WebCourtModel", "laid", "I", false)
  | 51 => ("WebCourtModel", "verdicts", "[I", true)
  | 52 => ("WebCourtModel", "far", "[I", true)
  | 53 => ("WebCourtModel", "verdictIf", "[I", true)
  | 54 => ("WebCourtModel", "sCase", "[I", true)
  | 55 => ("WebCourtModel", "sMuch", "[I", true)
  | 56 => ("WebCourtModel", "sIs", "[I", true)
  | 57 => ("WebCourtModel", "sTold", "[I", true)
  | 58 => ("WebCourtModel", "sUntold", "[I", true)
  | 59 => ("WebCourtModel", "parts", "[I", true)
  | 60 => ("WebCourtModel", "kept", "[I", true)
  | 61 => ("WebCourtModel", "heards", "I", false)
  | 62 => ("WebCourtModel", "time", "I", false)
  | 63 => ("WebCourtModel", "boxAll", "[I", true)
  | _ => ("WebCourtModel", "isBoxed", "[Z", true)
def tyX4 : Nat → FieldType := fun k => match k with
  | 0 => .array .byte
  | 1 => .array .byte
  | 2 => .int
  | 3 => .int
  | 4 => .int
  | 5 => .int
  | 6 => .int
  | 7 => .int
  | 8 => .int
  | 9 => .int
  | 10 => .long
  | 11 => .array .int
  | 12 => .array .int
  | 13 => .array .int
  | 14 => .array .int
  | 15 => .array .int
  | 16 => .array .int
  | 17 => .array .int
  | 18 => .array .int
  | 19 => .array .int
  | 20 => .array .int
  | 21 => .array .int
  | 22 => .array .int
  | 23 => .array .int
  | 24 => .array .int
  | 25 => .array .int
  | 26 => .array .int
  | 27 => .array .int
  | 28 => .array .long
  | 29 => .array .long
  | 30 => .array .long
  | 31 => .array .int
  | 32 => .array .int
  | 33 => .array .int
  | 34 => .array .int
  | 35 => .array .int
  | 36 => .int
  | 37 => .int
  | 38 => .int
  | 39 => .int
  | 40 => .int
  | 41 => .int
  | 42 => .int
  | 43 => .int
  | 44 => .array .int
  | 45 => .int
  | 46 => .array .int
  | 47 => .int
  | 48 => .int
  | 49 => .array .int
  | 50 => .int
  | 51 => .array .int
  | 52 => .array .int
  | 53 => .array .int
  | 54 => .array .int
  | 55 => .array .int
  | 56 => .array .int
  | 57 => .array .int
  | 58 => .array .int
  | 59 => .array .int
  | 60 => .array .int
  | 61 => .int
  | 62 => .int
  | 63 => .array .int
  | _ => .array .boolean
abbrev wsX40 : List Cond := u_ws RX4 TX4 65
set_option maxRecDepth 100000 in
theorem nmX4 : ∀ a, a < 65 → ∀ b, b < 65 → a ≠ b → (TX4 a).2.1 ≠ (TX4 b).2.1 := by decide +kernel
set_option maxRecDepth 100000 in
theorem tyX4_ok : ∀ k, k < 65 → parseFieldDescriptor (TX4 k).2.2.1 = some (tyX4 k) := by decide +kernel
abbrev cX4_init : ByteArray := prog_22_method_1_code
def yX4_init : MethodName := ⟨RX4, "<init>", "()V"⟩
def dkwX4_init_14 : List UInt8 := [16, 87, 188, 10, 181, 0, 139, 42, 6, 188, 4, 181, 0, 142, 42, 182, 0, 146, 42, 182, 0, 149, 177]
abbrev dktX4_init_14 : List UInt8 := dkwX4_init_14 ++ []
def dkwX4_init_13 : List UInt8 := [16, 30, 188, 10, 181, 0, 130, 42, 6, 188, 10, 181, 0, 133, 42, 16, 29, 188, 10, 181, 0, 136, 42]
abbrev dktX4_init_13 : List UInt8 := dkwX4_init_13 ++ dktX4_init_14
def dkwX4_init_12 : List UInt8 := [16, 30, 188, 10, 181, 0, 121, 42, 16, 30, 188, 10, 181, 0, 124, 42, 16, 30, 188, 10, 181, 0, 127, 42]
abbrev dktX4_init_12 : List UInt8 := dkwX4_init_12 ++ dktX4_init_13
def dkwX4_init_11 : List UInt8 := [188, 10, 181, 0, 112, 42, 17, 0, 186, 188, 10, 181, 0, 115, 42, 16, 30, 188, 10, 181, 0, 118, 42]
abbrev dktX4_init_11 : List UInt8 := dkwX4_init_11 ++ dktX4_init_12
def dkwX4_init_10 : List UInt8 := [181, 0, 103, 42, 16, 8, 188, 10, 181, 0, 106, 42, 17, 0, 128, 188, 10, 181, 0, 109, 42, 16, 64]
abbrev dktX4_init_10 : List UInt8 := dkwX4_init_10 ++ dktX4_init_11
def dkwX4_init_9 : List UInt8 := [188, 10, 181, 0, 94, 42, 16, 29, 188, 10, 181, 0, 97, 42, 2, 181, 0, 100, 42, 17, 4, 165, 188, 10]
abbrev dktX4_init_9 : List UInt8 := dkwX4_init_9 ++ dktX4_init_10
def dkwX4_init_8 : List UInt8 := [188, 10, 181, 0, 85, 42, 16, 90, 188, 10, 181, 0, 88, 42, 16, 90, 188, 10, 181, 0, 91, 42, 16, 60]
abbrev dktX4_init_8 : List UInt8 := dkwX4_init_8 ++ dktX4_init_9
def dkwX4_init_7 : List UInt8 := [181, 0, 76, 42, 16, 12, 188, 11, 181, 0, 79, 42, 17, 4, 96, 188, 10, 181, 0, 82, 42, 17, 4, 96]
abbrev dktX4_init_7 : List UInt8 := dkwX4_init_7 ++ dktX4_init_8
def dkwX4_init_6 : List UInt8 := [181, 0, 66, 42, 5, 188, 10, 181, 0, 69, 42, 16, 16, 188, 11, 181, 0, 72, 42, 16, 16, 188, 11]
abbrev dktX4_init_6 : List UInt8 := dkwX4_init_6 ++ dktX4_init_7
def dkwX4_init_5 : List UInt8 := [181, 0, 57, 42, 16, 12, 188, 10, 181, 0, 60, 42, 16, 12, 188, 10, 181, 0, 63, 42, 5, 188, 10]
abbrev dktX4_init_5 : List UInt8 := dkwX4_init_5 ++ dktX4_init_6
def dkwX4_init_4 : List UInt8 := [181, 0, 48, 42, 16, 28, 188, 10, 181, 0, 51, 42, 16, 28, 188, 10, 181, 0, 54, 42, 16, 16, 188, 10]
abbrev dktX4_init_4 : List UInt8 := dkwX4_init_4 ++ dktX4_init_5
def dkwX4_init_3 : List UInt8 := [188, 10, 181, 0, 39, 42, 5, 188, 10, 181, 0, 42, 42, 5, 188, 10, 181, 0, 45, 42, 5, 188, 10]
abbrev dktX4_init_3 : List UInt8 := dkwX4_init_3 ++ dktX4_init_4
def dkwX4_init_2 : List UInt8 := [42, 5, 188, 10, 181, 0, 30, 42, 5, 188, 10, 181, 0, 33, 42, 5, 188, 10, 181, 0, 36, 42, 5]
abbrev dktX4_init_2 : List UInt8 := dkwX4_init_2 ++ dktX4_init_3
def dkwX4_init_1 : List UInt8 := [181, 0, 16, 42, 5, 188, 10, 181, 0, 20, 42, 5, 188, 10, 181, 0, 24, 42, 5, 188, 10, 181, 0, 27]
abbrev dktX4_init_1 : List UInt8 := dkwX4_init_1 ++ dktX4_init_2
def dkwX4_init_0 : List UInt8 := [42, 183, 0, 1, 42, 17, 6, 84, 188, 8, 181, 0, 7, 42, 17, 6, 64, 188, 8, 181, 0, 13, 42, 2]
abbrev dktX4_init_0 : List UInt8 := dkwX4_init_0 ++ dktX4_init_1
theorem dksX4_init_0 : cX4_init.data.toList.drop 0 = dktX4_init_0 := by decide +kernel
theorem dksX4_init_1 : cX4_init.data.toList.drop 24 = dktX4_init_1 := dk_seg dksX4_init_0 24 rfl rfl
theorem dksX4_init_2 : cX4_init.data.toList.drop 48 = dktX4_init_2 := dk_seg dksX4_init_1 24 rfl rfl
theorem dksX4_init_3 : cX4_init.data.toList.drop 71 = dktX4_init_3 := dk_seg dksX4_init_2 23 rfl rfl
theorem dksX4_init_4 : cX4_init.data.toList.drop 94 = dktX4_init_4 := dk_seg dksX4_init_3 23 rfl rfl
theorem dksX4_init_5 : cX4_init.data.toList.drop 118 = dktX4_init_5 := dk_seg dksX4_init_4 24 rfl rfl
theorem dksX4_init_6 : cX4_init.data.toList.drop 141 = dktX4_init_6 := dk_seg dksX4_init_5 23 rfl rfl
theorem dksX4_init_7 : cX4_init.data.toList.drop 164 = dktX4_init_7 := dk_seg dksX4_init_6 23 rfl rfl
theorem dksX4_init_8 : cX4_init.data.toList.drop 188 = dktX4_init_8 := dk_seg dksX4_init_7 24 rfl rfl
theorem dksX4_init_9 : cX4_init.data.toList.drop 212 = dktX4_init_9 := dk_seg dksX4_init_8 24 rfl rfl
theorem dksX4_init_10 : cX4_init.data.toList.drop 236 = dktX4_init_10 := dk_seg dksX4_init_9 24 rfl rfl
theorem dksX4_init_11 : cX4_init.data.toList.drop 259 = dktX4_init_11 := dk_seg dksX4_init_10 23 rfl rfl
theorem dksX4_init_12 : cX4_init.data.toList.drop 282 = dktX4_init_12 := dk_seg dksX4_init_11 23 rfl rfl
theorem dksX4_init_13 : cX4_init.data.toList.drop 306 = dktX4_init_13 := dk_seg dksX4_init_12 24 rfl rfl
theorem dksX4_init_14 : cX4_init.data.toList.drop 329 = dktX4_init_14 := dk_seg dksX4_init_13 23 rfl rfl
theorem dX4_init_0 : decode cX4_init 0 = .ok (.aload_n 0, 1) := dk_42 (dk_at dksX4_init_0 0 rfl rfl)
theorem dX4_init_1 : decode cX4_init 1 = .ok (.invokespecial 1, 3) := dk_183 0 1 (dk_at dksX4_init_0 1 rfl rfl)
theorem dX4_init_4 : decode cX4_init 4 = .ok (.aload_n 0, 1) := dk_42 (dk_at dksX4_init_0 4 rfl rfl)
theorem dX4_init_5 : decode cX4_init 5 = .ok (.sipush 1620, 3) := dk_17 6 84 (dk_at dksX4_init_0 5 rfl rfl)
theorem dX4_init_8 : decode cX4_init 8 = .ok (.newarray .byte, 2) := dk_188_8 (dk_at dksX4_init_0 8 rfl rfl)
theorem dX4_init_10 : decode cX4_init 10 = .ok (.putfield 7, 3) := dk_181 0 7 (dk_at dksX4_init_0 10 rfl rfl)
theorem dX4_init_13 : decode cX4_init 13 = .ok (.aload_n 0, 1) := dk_42 (dk_at dksX4_init_0 13 rfl rfl)
theorem dX4_init_14 : decode cX4_init 14 = .ok (.sipush 1600, 3) := dk_17 6 64 (dk_at dksX4_init_0 14 rfl rfl)
theorem dX4_init_17 : decode cX4_init 17 = .ok (.newarray .byte, 2) := dk_188_8 (dk_at dksX4_init_0 17 rfl rfl)
theorem dX4_init_19 : decode cX4_init 19 = .ok (.putfield 13, 3) := dk_181 0 13 (dk_at dksX4_init_0 19 rfl rfl)
theorem dX4_init_22 : decode cX4_init 22 = .ok (.aload_n 0, 1) := dk_42 (dk_at dksX4_init_0 22 rfl rfl)
theorem dX4_init_23 : decode cX4_init 23 = .ok (.iconst (-1), 1) := dk_2 (dk_at dksX4_init_0 23 rfl rfl)
theorem dX4_init_24 : decode cX4_init 24 = .ok (.putfield 16, 3) := dk_181 0 16 (dk_at dksX4_init_1 0 rfl rfl)
theorem dX4_init_27 : decode cX4_init 27 = .ok (.aload_n 0, 1) := dk_42 (dk_at dksX4_init_1 3 rfl rfl)
theorem dX4_init_28 : decode cX4_init 28 = .ok (.iconst 2, 1) := dk_5 (dk_at dksX4_init_1 4 rfl rfl)
theorem dX4_init_29 : decode cX4_init 29 = .ok (.newarray .int, 2) := dk_188_10 (dk_at dksX4_init_1 5 rfl rfl)
theorem dX4_init_31 : decode cX4_init 31 = .ok (.putfield 20, 3) := dk_181 0 20 (dk_at dksX4_init_1 7 rfl rfl)
theorem dX4_init_34 : decode cX4_init 34 = .ok (.aload_n 0, 1) := dk_42 (dk_at dksX4_init_1 10 rfl rfl)
theorem dX4_init_35 : decode cX4_init 35 = .ok (.iconst 2, 1) := dk_5 (dk_at dksX4_init_1 11 rfl rfl)
theorem dX4_init_36 : decode cX4_init 36 = .ok (.newarray .int, 2) := dk_188_10 (dk_at dksX4_init_1 12 rfl rfl)
theorem dX4_init_38 : decode cX4_init 38 = .ok (.putfield 24, 3) := dk_181 0 24 (dk_at dksX4_init_1 14 rfl rfl)
theorem dX4_init_41 : decode cX4_init 41 = .ok (.aload_n 0, 1) := dk_42 (dk_at dksX4_init_1 17 rfl rfl)
theorem dX4_init_42 : decode cX4_init 42 = .ok (.iconst 2, 1) := dk_5 (dk_at dksX4_init_1 18 rfl rfl)
theorem dX4_init_43 : decode cX4_init 43 = .ok (.newarray .int, 2) := dk_188_10 (dk_at dksX4_init_1 19 rfl rfl)
theorem dX4_init_45 : decode cX4_init 45 = .ok (.putfield 27, 3) := dk_181 0 27 (dk_at dksX4_init_1 21 rfl rfl)
theorem dX4_init_48 : decode cX4_init 48 = .ok (.aload_n 0, 1) := dk_42 (dk_at dksX4_init_2 0 rfl rfl)
theorem dX4_init_49 : decode cX4_init 49 = .ok (.iconst 2, 1) := dk_5 (dk_at dksX4_init_2 1 rfl rfl)
theorem dX4_init_50 : decode cX4_init 50 = .ok (.newarray .int, 2) := dk_188_10 (dk_at dksX4_init_2 2 rfl rfl)
theorem dX4_init_52 : decode cX4_init 52 = .ok (.putfield 30, 3) := dk_181 0 30 (dk_at dksX4_init_2 4 rfl rfl)
theorem dX4_init_55 : decode cX4_init 55 = .ok (.aload_n 0, 1) := dk_42 (dk_at dksX4_init_2 7 rfl rfl)
theorem dX4_init_56 : decode cX4_init 56 = .ok (.iconst 2, 1) := dk_5 (dk_at dksX4_init_2 8 rfl rfl)
theorem dX4_init_57 : decode cX4_init 57 = .ok (.newarray .int, 2) := dk_188_10 (dk_at dksX4_init_2 9 rfl rfl)
theorem dX4_init_59 : decode cX4_init 59 = .ok (.putfield 33, 3) := dk_181 0 33 (dk_at dksX4_init_2 11 rfl rfl)
theorem dX4_init_62 : decode cX4_init 62 = .ok (.aload_n 0, 1) := dk_42 (dk_at dksX4_init_2 14 rfl rfl)
theorem dX4_init_63 : decode cX4_init 63 = .ok (.iconst 2, 1) := dk_5 (dk_at dksX4_init_2 15 rfl rfl)
theorem dX4_init_64 : decode cX4_init 64 = .ok (.newarray .int, 2) := dk_188_10 (dk_at dksX4_init_2 16 rfl rfl)
theorem dX4_init_66 : decode cX4_init 66 = .ok (.putfield 36, 3) := dk_181 0 36 (dk_at dksX4_init_2 18 rfl rfl)
theorem dX4_init_69 : decode cX4_init 69 = .ok (.aload_n 0, 1) := dk_42 (dk_at dksX4_init_2 21 rfl rfl)
theorem dX4_init_70 : decode cX4_init 70 = .ok (.iconst 2, 1) := dk_5 (dk_at dksX4_init_2 22 rfl rfl)
theorem dX4_init_71 : decode cX4_init 71 = .ok (.newarray .int, 2) := dk_188_10 (dk_at dksX4_init_3 0 rfl rfl)
theorem dX4_init_73 : decode cX4_init 73 = .ok (.putfield 39, 3) := dk_181 0 39 (dk_at dksX4_init_3 2 rfl rfl)
theorem dX4_init_76 : decode cX4_init 76 = .ok (.aload_n 0, 1) := dk_42 (dk_at dksX4_init_3 5 rfl rfl)
theorem dX4_init_77 : decode cX4_init 77 = .ok (.iconst 2, 1) := dk_5 (dk_at dksX4_init_3 6 rfl rfl)
theorem dX4_init_78 : decode cX4_init 78 = .ok (.newarray .int, 2) := dk_188_10 (dk_at dksX4_init_3 7 rfl rfl)
theorem dX4_init_80 : decode cX4_init 80 = .ok (.putfield 42, 3) := dk_181 0 42 (dk_at dksX4_init_3 9 rfl rfl)
theorem dX4_init_83 : decode cX4_init 83 = .ok (.aload_n 0, 1) := dk_42 (dk_at dksX4_init_3 12 rfl rfl)
theorem dX4_init_84 : decode cX4_init 84 = .ok (.iconst 2, 1) := dk_5 (dk_at dksX4_init_3 13 rfl rfl)
theorem dX4_init_85 : decode cX4_init 85 = .ok (.newarray .int, 2) := dk_188_10 (dk_at dksX4_init_3 14 rfl rfl)
theorem dX4_init_87 : decode cX4_init 87 = .ok (.putfield 45, 3) := dk_181 0 45 (dk_at dksX4_init_3 16 rfl rfl)
theorem dX4_init_90 : decode cX4_init 90 = .ok (.aload_n 0, 1) := dk_42 (dk_at dksX4_init_3 19 rfl rfl)
theorem dX4_init_91 : decode cX4_init 91 = .ok (.iconst 2, 1) := dk_5 (dk_at dksX4_init_3 20 rfl rfl)
theorem dX4_init_92 : decode cX4_init 92 = .ok (.newarray .int, 2) := dk_188_10 (dk_at dksX4_init_3 21 rfl rfl)
theorem dX4_init_94 : decode cX4_init 94 = .ok (.putfield 48, 3) := dk_181 0 48 (dk_at dksX4_init_4 0 rfl rfl)
theorem dX4_init_97 : decode cX4_init 97 = .ok (.aload_n 0, 1) := dk_42 (dk_at dksX4_init_4 3 rfl rfl)
theorem dX4_init_98 : decode cX4_init 98 = .ok (.bipush 28, 2) := dk_16 28 (dk_at dksX4_init_4 4 rfl rfl)
theorem dX4_init_100 : decode cX4_init 100 = .ok (.newarray .int, 2) := dk_188_10 (dk_at dksX4_init_4 6 rfl rfl)
theorem dX4_init_102 : decode cX4_init 102 = .ok (.putfield 51, 3) := dk_181 0 51 (dk_at dksX4_init_4 8 rfl rfl)
theorem dX4_init_105 : decode cX4_init 105 = .ok (.aload_n 0, 1) := dk_42 (dk_at dksX4_init_4 11 rfl rfl)
theorem dX4_init_106 : decode cX4_init 106 = .ok (.bipush 28, 2) := dk_16 28 (dk_at dksX4_init_4 12 rfl rfl)
theorem dX4_init_108 : decode cX4_init 108 = .ok (.newarray .int, 2) := dk_188_10 (dk_at dksX4_init_4 14 rfl rfl)
theorem dX4_init_110 : decode cX4_init 110 = .ok (.putfield 54, 3) := dk_181 0 54 (dk_at dksX4_init_4 16 rfl rfl)
theorem dX4_init_113 : decode cX4_init 113 = .ok (.aload_n 0, 1) := dk_42 (dk_at dksX4_init_4 19 rfl rfl)
theorem dX4_init_114 : decode cX4_init 114 = .ok (.bipush 16, 2) := dk_16 16 (dk_at dksX4_init_4 20 rfl rfl)
theorem dX4_init_116 : decode cX4_init 116 = .ok (.newarray .int, 2) := dk_188_10 (dk_at dksX4_init_4 22 rfl rfl)
theorem dX4_init_118 : decode cX4_init 118 = .ok (.putfield 57, 3) := dk_181 0 57 (dk_at dksX4_init_5 0 rfl rfl)
theorem dX4_init_121 : decode cX4_init 121 = .ok (.aload_n 0, 1) := dk_42 (dk_at dksX4_init_5 3 rfl rfl)
theorem dX4_init_122 : decode cX4_init 122 = .ok (.bipush 12, 2) := dk_16 12 (dk_at dksX4_init_5 4 rfl rfl)
theorem dX4_init_124 : decode cX4_init 124 = .ok (.newarray .int, 2) := dk_188_10 (dk_at dksX4_init_5 6 rfl rfl)
theorem dX4_init_126 : decode cX4_init 126 = .ok (.putfield 60, 3) := dk_181 0 60 (dk_at dksX4_init_5 8 rfl rfl)
theorem dX4_init_129 : decode cX4_init 129 = .ok (.aload_n 0, 1) := dk_42 (dk_at dksX4_init_5 11 rfl rfl)
theorem dX4_init_130 : decode cX4_init 130 = .ok (.bipush 12, 2) := dk_16 12 (dk_at dksX4_init_5 12 rfl rfl)
theorem dX4_init_132 : decode cX4_init 132 = .ok (.newarray .int, 2) := dk_188_10 (dk_at dksX4_init_5 14 rfl rfl)
theorem dX4_init_134 : decode cX4_init 134 = .ok (.putfield 63, 3) := dk_181 0 63 (dk_at dksX4_init_5 16 rfl rfl)
theorem dX4_init_137 : decode cX4_init 137 = .ok (.aload_n 0, 1) := dk_42 (dk_at dksX4_init_5 19 rfl rfl)
theorem dX4_init_138 : decode cX4_init 138 = .ok (.iconst 2, 1) := dk_5 (dk_at dksX4_init_5 20 rfl rfl)
theorem dX4_init_139 : decode cX4_init 139 = .ok (.newarray .int, 2) := dk_188_10 (dk_at dksX4_init_5 21 rfl rfl)
theorem dX4_init_141 : decode cX4_init 141 = .ok (.putfield 66, 3) := dk_181 0 66 (dk_at dksX4_init_6 0 rfl rfl)
theorem dX4_init_144 : decode cX4_init 144 = .ok (.aload_n 0, 1) := dk_42 (dk_at dksX4_init_6 3 rfl rfl)
theorem dX4_init_145 : decode cX4_init 145 = .ok (.iconst 2, 1) := dk_5 (dk_at dksX4_init_6 4 rfl rfl)
theorem dX4_init_146 : decode cX4_init 146 = .ok (.newarray .int, 2) := dk_188_10 (dk_at dksX4_init_6 5 rfl rfl)
theorem dX4_init_148 : decode cX4_init 148 = .ok (.putfield 69, 3) := dk_181 0 69 (dk_at dksX4_init_6 7 rfl rfl)
theorem dX4_init_151 : decode cX4_init 151 = .ok (.aload_n 0, 1) := dk_42 (dk_at dksX4_init_6 10 rfl rfl)
theorem dX4_init_152 : decode cX4_init 152 = .ok (.bipush 16, 2) := dk_16 16 (dk_at dksX4_init_6 11 rfl rfl)
theorem dX4_init_154 : decode cX4_init 154 = .ok (.newarray .long, 2) := dk_188_11 (dk_at dksX4_init_6 13 rfl rfl)
theorem dX4_init_156 : decode cX4_init 156 = .ok (.putfield 72, 3) := dk_181 0 72 (dk_at dksX4_init_6 15 rfl rfl)
theorem dX4_init_159 : decode cX4_init 159 = .ok (.aload_n 0, 1) := dk_42 (dk_at dksX4_init_6 18 rfl rfl)
theorem dX4_init_160 : decode cX4_init 160 = .ok (.bipush 16, 2) := dk_16 16 (dk_at dksX4_init_6 19 rfl rfl)
theorem dX4_init_162 : decode cX4_init 162 = .ok (.newarray .long, 2) := dk_188_11 (dk_at dksX4_init_6 21 rfl rfl)
theorem dX4_init_164 : decode cX4_init 164 = .ok (.putfield 76, 3) := dk_181 0 76 (dk_at dksX4_init_7 0 rfl rfl)
theorem dX4_init_167 : decode cX4_init 167 = .ok (.aload_n 0, 1) := dk_42 (dk_at dksX4_init_7 3 rfl rfl)
theorem dX4_init_168 : decode cX4_init 168 = .ok (.bipush 12, 2) := dk_16 12 (dk_at dksX4_init_7 4 rfl rfl)
theorem dX4_init_170 : decode cX4_init 170 = .ok (.newarray .long, 2) := dk_188_11 (dk_at dksX4_init_7 6 rfl rfl)
theorem dX4_init_172 : decode cX4_init 172 = .ok (.putfield 79, 3) := dk_181 0 79 (dk_at dksX4_init_7 8 rfl rfl)
theorem dX4_init_175 : decode cX4_init 175 = .ok (.aload_n 0, 1) := dk_42 (dk_at dksX4_init_7 11 rfl rfl)
theorem dX4_init_176 : decode cX4_init 176 = .ok (.sipush 1120, 3) := dk_17 4 96 (dk_at dksX4_init_7 12 rfl rfl)
theorem dX4_init_179 : decode cX4_init 179 = .ok (.newarray .int, 2) := dk_188_10 (dk_at dksX4_init_7 15 rfl rfl)
theorem dX4_init_181 : decode cX4_init 181 = .ok (.putfield 82, 3) := dk_181 0 82 (dk_at dksX4_init_7 17 rfl rfl)
theorem dX4_init_184 : decode cX4_init 184 = .ok (.aload_n 0, 1) := dk_42 (dk_at dksX4_init_7 20 rfl rfl)
theorem dX4_init_185 : decode cX4_init 185 = .ok (.sipush 1120, 3) := dk_17 4 96 (dk_at dksX4_init_7 21 rfl rfl)
theorem dX4_init_188 : decode cX4_init 188 = .ok (.newarray .int, 2) := dk_188_10 (dk_at dksX4_init_8 0 rfl rfl)
theorem dX4_init_190 : decode cX4_init 190 = .ok (.putfield 85, 3) := dk_181 0 85 (dk_at dksX4_init_8 2 rfl rfl)
theorem dX4_init_193 : decode cX4_init 193 = .ok (.aload_n 0, 1) := dk_42 (dk_at dksX4_init_8 5 rfl rfl)
theorem dX4_init_194 : decode cX4_init 194 = .ok (.bipush 90, 2) := dk_16 90 (dk_at dksX4_init_8 6 rfl rfl)
theorem dX4_init_196 : decode cX4_init 196 = .ok (.newarray .int, 2) := dk_188_10 (dk_at dksX4_init_8 8 rfl rfl)
theorem dX4_init_198 : decode cX4_init 198 = .ok (.putfield 88, 3) := dk_181 0 88 (dk_at dksX4_init_8 10 rfl rfl)
theorem dX4_init_201 : decode cX4_init 201 = .ok (.aload_n 0, 1) := dk_42 (dk_at dksX4_init_8 13 rfl rfl)
theorem dX4_init_202 : decode cX4_init 202 = .ok (.bipush 90, 2) := dk_16 90 (dk_at dksX4_init_8 14 rfl rfl)
theorem dX4_init_204 : decode cX4_init 204 = .ok (.newarray .int, 2) := dk_188_10 (dk_at dksX4_init_8 16 rfl rfl)
theorem dX4_init_206 : decode cX4_init 206 = .ok (.putfield 91, 3) := dk_181 0 91 (dk_at dksX4_init_8 18 rfl rfl)
theorem dX4_init_209 : decode cX4_init 209 = .ok (.aload_n 0, 1) := dk_42 (dk_at dksX4_init_8 21 rfl rfl)
theorem dX4_init_210 : decode cX4_init 210 = .ok (.bipush 60, 2) := dk_16 60 (dk_at dksX4_init_8 22 rfl rfl)
theorem dX4_init_212 : decode cX4_init 212 = .ok (.newarray .int, 2) := dk_188_10 (dk_at dksX4_init_9 0 rfl rfl)
theorem dX4_init_214 : decode cX4_init 214 = .ok (.putfield 94, 3) := dk_181 0 94 (dk_at dksX4_init_9 2 rfl rfl)
theorem dX4_init_217 : decode cX4_init 217 = .ok (.aload_n 0, 1) := dk_42 (dk_at dksX4_init_9 5 rfl rfl)
theorem dX4_init_218 : decode cX4_init 218 = .ok (.bipush 29, 2) := dk_16 29 (dk_at dksX4_init_9 6 rfl rfl)
theorem dX4_init_220 : decode cX4_init 220 = .ok (.newarray .int, 2) := dk_188_10 (dk_at dksX4_init_9 8 rfl rfl)
theorem dX4_init_222 : decode cX4_init 222 = .ok (.putfield 97, 3) := dk_181 0 97 (dk_at dksX4_init_9 10 rfl rfl)
theorem dX4_init_225 : decode cX4_init 225 = .ok (.aload_n 0, 1) := dk_42 (dk_at dksX4_init_9 13 rfl rfl)
theorem dX4_init_226 : decode cX4_init 226 = .ok (.iconst (-1), 1) := dk_2 (dk_at dksX4_init_9 14 rfl rfl)
theorem dX4_init_227 : decode cX4_init 227 = .ok (.putfield 100, 3) := dk_181 0 100 (dk_at dksX4_init_9 15 rfl rfl)
theorem dX4_init_230 : decode cX4_init 230 = .ok (.aload_n 0, 1) := dk_42 (dk_at dksX4_init_9 18 rfl rfl)
theorem dX4_init_231 : decode cX4_init 231 = .ok (.sipush 1189, 3) := dk_17 4 165 (dk_at dksX4_init_9 19 rfl rfl)
theorem dX4_init_234 : decode cX4_init 234 = .ok (.newarray .int, 2) := dk_188_10 (dk_at dksX4_init_9 22 rfl rfl)
theorem dX4_init_236 : decode cX4_init 236 = .ok (.putfield 103, 3) := dk_181 0 103 (dk_at dksX4_init_10 0 rfl rfl)
theorem dX4_init_239 : decode cX4_init 239 = .ok (.aload_n 0, 1) := dk_42 (dk_at dksX4_init_10 3 rfl rfl)
theorem dX4_init_240 : decode cX4_init 240 = .ok (.bipush 8, 2) := dk_16 8 (dk_at dksX4_init_10 4 rfl rfl)
theorem dX4_init_242 : decode cX4_init 242 = .ok (.newarray .int, 2) := dk_188_10 (dk_at dksX4_init_10 6 rfl rfl)
theorem dX4_init_244 : decode cX4_init 244 = .ok (.putfield 106, 3) := dk_181 0 106 (dk_at dksX4_init_10 8 rfl rfl)
theorem dX4_init_247 : decode cX4_init 247 = .ok (.aload_n 0, 1) := dk_42 (dk_at dksX4_init_10 11 rfl rfl)
theorem dX4_init_248 : decode cX4_init 248 = .ok (.sipush 128, 3) := dk_17 0 128 (dk_at dksX4_init_10 12 rfl rfl)
theorem dX4_init_251 : decode cX4_init 251 = .ok (.newarray .int, 2) := dk_188_10 (dk_at dksX4_init_10 15 rfl rfl)
theorem dX4_init_253 : decode cX4_init 253 = .ok (.putfield 109, 3) := dk_181 0 109 (dk_at dksX4_init_10 17 rfl rfl)
theorem dX4_init_256 : decode cX4_init 256 = .ok (.aload_n 0, 1) := dk_42 (dk_at dksX4_init_10 20 rfl rfl)
theorem dX4_init_257 : decode cX4_init 257 = .ok (.bipush 64, 2) := dk_16 64 (dk_at dksX4_init_10 21 rfl rfl)
theorem dX4_init_259 : decode cX4_init 259 = .ok (.newarray .int, 2) := dk_188_10 (dk_at dksX4_init_11 0 rfl rfl)
theorem dX4_init_261 : decode cX4_init 261 = .ok (.putfield 112, 3) := dk_181 0 112 (dk_at dksX4_init_11 2 rfl rfl)
theorem dX4_init_264 : decode cX4_init 264 = .ok (.aload_n 0, 1) := dk_42 (dk_at dksX4_init_11 5 rfl rfl)
theorem dX4_init_265 : decode cX4_init 265 = .ok (.sipush 186, 3) := dk_17 0 186 (dk_at dksX4_init_11 6 rfl rfl)
theorem dX4_init_268 : decode cX4_init 268 = .ok (.newarray .int, 2) := dk_188_10 (dk_at dksX4_init_11 9 rfl rfl)
theorem dX4_init_270 : decode cX4_init 270 = .ok (.putfield 115, 3) := dk_181 0 115 (dk_at dksX4_init_11 11 rfl rfl)
theorem dX4_init_273 : decode cX4_init 273 = .ok (.aload_n 0, 1) := dk_42 (dk_at dksX4_init_11 14 rfl rfl)
theorem dX4_init_274 : decode cX4_init 274 = .ok (.bipush 30, 2) := dk_16 30 (dk_at dksX4_init_11 15 rfl rfl)
theorem dX4_init_276 : decode cX4_init 276 = .ok (.newarray .int, 2) := dk_188_10 (dk_at dksX4_init_11 17 rfl rfl)
theorem dX4_init_278 : decode cX4_init 278 = .ok (.putfield 118, 3) := dk_181 0 118 (dk_at dksX4_init_11 19 rfl rfl)
theorem dX4_init_281 : decode cX4_init 281 = .ok (.aload_n 0, 1) := dk_42 (dk_at dksX4_init_11 22 rfl rfl)
theorem dX4_init_282 : decode cX4_init 282 = .ok (.bipush 30, 2) := dk_16 30 (dk_at dksX4_init_12 0 rfl rfl)
theorem dX4_init_284 : decode cX4_init 284 = .ok (.newarray .int, 2) := dk_188_10 (dk_at dksX4_init_12 2 rfl rfl)
theorem dX4_init_286 : decode cX4_init 286 = .ok (.putfield 121, 3) := dk_181 0 121 (dk_at dksX4_init_12 4 rfl rfl)
theorem dX4_init_289 : decode cX4_init 289 = .ok (.aload_n 0, 1) := dk_42 (dk_at dksX4_init_12 7 rfl rfl)
theorem dX4_init_290 : decode cX4_init 290 = .ok (.bipush 30, 2) := dk_16 30 (dk_at dksX4_init_12 8 rfl rfl)
theorem dX4_init_292 : decode cX4_init 292 = .ok (.newarray .int, 2) := dk_188_10 (dk_at dksX4_init_12 10 rfl rfl)
theorem dX4_init_294 : decode cX4_init 294 = .ok (.putfield 124, 3) := dk_181 0 124 (dk_at dksX4_init_12 12 rfl rfl)
theorem dX4_init_297 : decode cX4_init 297 = .ok (.aload_n 0, 1) := dk_42 (dk_at dksX4_init_12 15 rfl rfl)
theorem dX4_init_298 : decode cX4_init 298 = .ok (.bipush 30, 2) := dk_16 30 (dk_at dksX4_init_12 16 rfl rfl)
theorem dX4_init_300 : decode cX4_init 300 = .ok (.newarray .int, 2) := dk_188_10 (dk_at dksX4_init_12 18 rfl rfl)
theorem dX4_init_302 : decode cX4_init 302 = .ok (.putfield 127, 3) := dk_181 0 127 (dk_at dksX4_init_12 20 rfl rfl)
theorem dX4_init_305 : decode cX4_init 305 = .ok (.aload_n 0, 1) := dk_42 (dk_at dksX4_init_12 23 rfl rfl)
theorem dX4_init_306 : decode cX4_init 306 = .ok (.bipush 30, 2) := dk_16 30 (dk_at dksX4_init_13 0 rfl rfl)
theorem dX4_init_308 : decode cX4_init 308 = .ok (.newarray .int, 2) := dk_188_10 (dk_at dksX4_init_13 2 rfl rfl)
theorem dX4_init_310 : decode cX4_init 310 = .ok (.putfield 130, 3) := dk_181 0 130 (dk_at dksX4_init_13 4 rfl rfl)
theorem dX4_init_313 : decode cX4_init 313 = .ok (.aload_n 0, 1) := dk_42 (dk_at dksX4_init_13 7 rfl rfl)
theorem dX4_init_314 : decode cX4_init 314 = .ok (.iconst 3, 1) := dk_6 (dk_at dksX4_init_13 8 rfl rfl)
theorem dX4_init_315 : decode cX4_init 315 = .ok (.newarray .int, 2) := dk_188_10 (dk_at dksX4_init_13 9 rfl rfl)
theorem dX4_init_317 : decode cX4_init 317 = .ok (.putfield 133, 3) := dk_181 0 133 (dk_at dksX4_init_13 11 rfl rfl)
theorem dX4_init_320 : decode cX4_init 320 = .ok (.aload_n 0, 1) := dk_42 (dk_at dksX4_init_13 14 rfl rfl)
theorem dX4_init_321 : decode cX4_init 321 = .ok (.bipush 29, 2) := dk_16 29 (dk_at dksX4_init_13 15 rfl rfl)
theorem dX4_init_323 : decode cX4_init 323 = .ok (.newarray .int, 2) := dk_188_10 (dk_at dksX4_init_13 17 rfl rfl)
theorem dX4_init_325 : decode cX4_init 325 = .ok (.putfield 136, 3) := dk_181 0 136 (dk_at dksX4_init_13 19 rfl rfl)
theorem dX4_init_328 : decode cX4_init 328 = .ok (.aload_n 0, 1) := dk_42 (dk_at dksX4_init_13 22 rfl rfl)
theorem dX4_init_329 : decode cX4_init 329 = .ok (.bipush 87, 2) := dk_16 87 (dk_at dksX4_init_14 0 rfl rfl)
theorem dX4_init_331 : decode cX4_init 331 = .ok (.newarray .int, 2) := dk_188_10 (dk_at dksX4_init_14 2 rfl rfl)
theorem dX4_init_333 : decode cX4_init 333 = .ok (.putfield 139, 3) := dk_181 0 139 (dk_at dksX4_init_14 4 rfl rfl)
theorem dX4_init_336 : decode cX4_init 336 = .ok (.aload_n 0, 1) := dk_42 (dk_at dksX4_init_14 7 rfl rfl)
theorem dX4_init_337 : decode cX4_init 337 = .ok (.iconst 3, 1) := dk_6 (dk_at dksX4_init_14 8 rfl rfl)
theorem dX4_init_338 : decode cX4_init 338 = .ok (.newarray .boolean, 2) := dk_188_4 (dk_at dksX4_init_14 9 rfl rfl)
theorem dX4_init_340 : decode cX4_init 340 = .ok (.putfield 142, 3) := dk_181 0 142 (dk_at dksX4_init_14 11 rfl rfl)
theorem dX4_init_343 : decode cX4_init 343 = .ok (.aload_n 0, 1) := dk_42 (dk_at dksX4_init_14 14 rfl rfl)
theorem dX4_init_344 : decode cX4_init 344 = .ok (.invokevirtual 146, 3) := dk_182 0 146 (dk_at dksX4_init_14 15 rfl rfl)
theorem dX4_init_347 : decode cX4_init 347 = .ok (.aload_n 0, 1) := dk_42 (dk_at dksX4_init_14 18 rfl rfl)
theorem dX4_init_348 : decode cX4_init 348 = .ok (.invokevirtual 149, 3) := dk_182 0 149 (dk_at dksX4_init_14 19 rfl rfl)
theorem dX4_init_351 : decode cX4_init 351 = .ok (.return_, 1) := dk_177 (dk_at dksX4_init_14 22 rfl rfl)
abbrev cX4_clearBank : ByteArray := prog_22_method_15_code
def yX4_clearBank : MethodName := ⟨RX4, "clearBank", "()V"⟩
def dkwX4_clearBank_4 : List UInt8 := [180, 0, 246, 3, 79, 42, 17, 2, 48, 42, 180, 0, 246, 104, 181, 0, 249, 177]
abbrev dktX4_clearBank_4 : List UInt8 := dkwX4_clearBank_4 ++ []
def dkwX4_clearBank_3 : List UInt8 := [180, 0, 42, 42, 180, 0, 246, 3, 79, 42, 180, 0, 45, 42, 180, 0, 246, 3, 79, 42, 180, 0, 48, 42]
abbrev dktX4_clearBank_3 : List UInt8 := dkwX4_clearBank_3 ++ dktX4_clearBank_4
def dkwX4_clearBank_2 : List UInt8 := [3, 79, 42, 180, 0, 36, 42, 180, 0, 246, 3, 79, 42, 180, 0, 39, 42, 180, 0, 246, 3, 79, 42]
abbrev dktX4_clearBank_2 : List UInt8 := dkwX4_clearBank_2 ++ dktX4_clearBank_3
def dkwX4_clearBank_1 : List UInt8 := [42, 180, 0, 246, 3, 79, 42, 180, 0, 30, 42, 180, 0, 246, 3, 79, 42, 180, 0, 33, 42, 180, 0, 246]
abbrev dktX4_clearBank_1 : List UInt8 := dkwX4_clearBank_1 ++ dktX4_clearBank_2
def dkwX4_clearBank_0 : List UInt8 := [42, 180, 0, 20, 42, 180, 0, 246, 3, 79, 42, 180, 0, 24, 42, 180, 0, 246, 3, 79, 42, 180, 0, 27]
abbrev dktX4_clearBank_0 : List UInt8 := dkwX4_clearBank_0 ++ dktX4_clearBank_1
theorem dksX4_clearBank_0 : cX4_clearBank.data.toList.drop 0 = dktX4_clearBank_0 := by decide +kernel
theorem dksX4_clearBank_1 : cX4_clearBank.data.toList.drop 24 = dktX4_clearBank_1 := dk_seg dksX4_clearBank_0 24 rfl rfl
theorem dksX4_clearBank_2 : cX4_clearBank.data.toList.drop 48 = dktX4_clearBank_2 := dk_seg dksX4_clearBank_1 24 rfl rfl
theorem dksX4_clearBank_3 : cX4_clearBank.data.toList.drop 71 = dktX4_clearBank_3 := dk_seg dksX4_clearBank_2 23 rfl rfl
theorem dksX4_clearBank_4 : cX4_clearBank.data.toList.drop 95 = dktX4_clearBank_4 := dk_seg dksX4_clearBank_3 24 rfl rfl
theorem dX4_clearBank_0 : decode cX4_clearBank 0 = .ok (.aload_n 0, 1) := dk_42 (dk_at dksX4_clearBank_0 0 rfl rfl)
theorem dX4_clearBank_1 : decode cX4_clearBank 1 = .ok (.getfield 20, 3) := dk_180 0 20 (dk_at dksX4_clearBank_0 1 rfl rfl)
theorem dX4_clearBank_4 : decode cX4_clearBank 4 = .ok (.aload_n 0, 1) := dk_42 (dk_at dksX4_clearBank_0 4 rfl rfl)
theorem dX4_clearBank_5 : decode cX4_clearBank 5 = .ok (.getfield 246, 3) := dk_180 0 246 (dk_at dksX4_clearBank_0 5 rfl rfl)
theorem dX4_clearBank_8 : decode cX4_clearBank 8 = .ok (.iconst 0, 1) := dk_3 (dk_at dksX4_clearBank_0 8 rfl rfl)
theorem dX4_clearBank_9 : decode cX4_clearBank 9 = .ok (.iastore, 1) := dk_79 (dk_at dksX4_clearBank_0 9 rfl rfl)
theorem dX4_clearBank_10 : decode cX4_clearBank 10 = .ok (.aload_n 0, 1) := dk_42 (dk_at dksX4_clearBank_0 10 rfl rfl)
theorem dX4_clearBank_11 : decode cX4_clearBank 11 = .ok (.getfield 24, 3) := dk_180 0 24 (dk_at dksX4_clearBank_0 11 rfl rfl)
theorem dX4_clearBank_14 : decode cX4_clearBank 14 = .ok (.aload_n 0, 1) := dk_42 (dk_at dksX4_clearBank_0 14 rfl rfl)
theorem dX4_clearBank_15 : decode cX4_clearBank 15 = .ok (.getfield 246, 3) := dk_180 0 246 (dk_at dksX4_clearBank_0 15 rfl rfl)
theorem dX4_clearBank_18 : decode cX4_clearBank 18 = .ok (.iconst 0, 1) := dk_3 (dk_at dksX4_clearBank_0 18 rfl rfl)
theorem dX4_clearBank_19 : decode cX4_clearBank 19 = .ok (.iastore, 1) := dk_79 (dk_at dksX4_clearBank_0 19 rfl rfl)
theorem dX4_clearBank_20 : decode cX4_clearBank 20 = .ok (.aload_n 0, 1) := dk_42 (dk_at dksX4_clearBank_0 20 rfl rfl)
theorem dX4_clearBank_21 : decode cX4_clearBank 21 = .ok (.getfield 27, 3) := dk_180 0 27 (dk_at dksX4_clearBank_0 21 rfl rfl)
theorem dX4_clearBank_24 : decode cX4_clearBank 24 = .ok (.aload_n 0, 1) := dk_42 (dk_at dksX4_clearBank_1 0 rfl rfl)
theorem dX4_clearBank_25 : decode cX4_clearBank 25 = .ok (.getfield 246, 3) := dk_180 0 246 (dk_at dksX4_clearBank_1 1 rfl rfl)
theorem dX4_clearBank_28 : decode cX4_clearBank 28 = .ok (.iconst 0, 1) := dk_3 (dk_at dksX4_clearBank_1 4 rfl rfl)
theorem dX4_clearBank_29 : decode cX4_clearBank 29 = .ok (.iastore, 1) := dk_79 (dk_at dksX4_clearBank_1 5 rfl rfl)
theorem dX4_clearBank_30 : decode cX4_clearBank 30 = .ok (.aload_n 0, 1) := dk_42 (dk_at dksX4_clearBank_1 6 rfl rfl)
theorem dX4_clearBank_31 : decode cX4_clearBank 31 = .ok (.getfield 30, 3) := dk_180 0 30 (dk_at dksX4_clearBank_1 7 rfl rfl)
theorem dX4_clearBank_34 : decode cX4_clearBank 34 = .ok (.aload_n 0, 1) := dk_42 (dk_at dksX4_clearBank_1 10 rfl rfl)
theorem dX4_clearBank_35 : decode cX4_clearBank 35 = .ok (.getfield 246, 3) := dk_180 0 246 (dk_at dksX4_clearBank_1 11 rfl rfl)
theorem dX4_clearBank_38 : decode cX4_clearBank 38 = .ok (.iconst 0, 1) := dk_3 (dk_at dksX4_clearBank_1 14 rfl rfl)
theorem dX4_clearBank_39 : decode cX4_clearBank 39 = .ok (.iastore, 1) := dk_79 (dk_at dksX4_clearBank_1 15 rfl rfl)
theorem dX4_clearBank_40 : decode cX4_clearBank 40 = .ok (.aload_n 0, 1) := dk_42 (dk_at dksX4_clearBank_1 16 rfl rfl)
theorem dX4_clearBank_41 : decode cX4_clearBank 41 = .ok (.getfield 33, 3) := dk_180 0 33 (dk_at dksX4_clearBank_1 17 rfl rfl)
theorem dX4_clearBank_44 : decode cX4_clearBank 44 = .ok (.aload_n 0, 1) := dk_42 (dk_at dksX4_clearBank_1 20 rfl rfl)
theorem dX4_clearBank_45 : decode cX4_clearBank 45 = .ok (.getfield 246, 3) := dk_180 0 246 (dk_at dksX4_clearBank_1 21 rfl rfl)
theorem dX4_clearBank_48 : decode cX4_clearBank 48 = .ok (.iconst 0, 1) := dk_3 (dk_at dksX4_clearBank_2 0 rfl rfl)
theorem dX4_clearBank_49 : decode cX4_clearBank 49 = .ok (.iastore, 1) := dk_79 (dk_at dksX4_clearBank_2 1 rfl rfl)
theorem dX4_clearBank_50 : decode cX4_clearBank 50 = .ok (.aload_n 0, 1) := dk_42 (dk_at dksX4_clearBank_2 2 rfl rfl)
theorem dX4_clearBank_51 : decode cX4_clearBank 51 = .ok (.getfield 36, 3) := dk_180 0 36 (dk_at dksX4_clearBank_2 3 rfl rfl)
theorem dX4_clearBank_54 : decode cX4_clearBank 54 = .ok (.aload_n 0, 1) := dk_42 (dk_at dksX4_clearBank_2 6 rfl rfl)
theorem dX4_clearBank_55 : decode cX4_clearBank 55 = .ok (.getfield 246, 3) := dk_180 0 246 (dk_at dksX4_clearBank_2 7 rfl rfl)
theorem dX4_clearBank_58 : decode cX4_clearBank 58 = .ok (.iconst 0, 1) := dk_3 (dk_at dksX4_clearBank_2 10 rfl rfl)
theorem dX4_clearBank_59 : decode cX4_clearBank 59 = .ok (.iastore, 1) := dk_79 (dk_at dksX4_clearBank_2 11 rfl rfl)
theorem dX4_clearBank_60 : decode cX4_clearBank 60 = .ok (.aload_n 0, 1) := dk_42 (dk_at dksX4_clearBank_2 12 rfl rfl)
theorem dX4_clearBank_61 : decode cX4_clearBank 61 = .ok (.getfield 39, 3) := dk_180 0 39 (dk_at dksX4_clearBank_2 13 rfl rfl)
theorem dX4_clearBank_64 : decode cX4_clearBank 64 = .ok (.aload_n 0, 1) := dk_42 (dk_at dksX4_clearBank_2 16 rfl rfl)
theorem dX4_clearBank_65 : decode cX4_clearBank 65 = .ok (.getfield 246, 3) := dk_180 0 246 (dk_at dksX4_clearBank_2 17 rfl rfl)
theorem dX4_clearBank_68 : decode cX4_clearBank 68 = .ok (.iconst 0, 1) := dk_3 (dk_at dksX4_clearBank_2 20 rfl rfl)
theorem dX4_clearBank_69 : decode cX4_clearBank 69 = .ok (.iastore, 1) := dk_79 (dk_at dksX4_clearBank_2 21 rfl rfl)
theorem dX4_clearBank_70 : decode cX4_clearBank 70 = .ok (.aload_n 0, 1) := dk_42 (dk_at dksX4_clearBank_2 22 rfl rfl)
theorem dX4_clearBank_71 : decode cX4_clearBank 71 = .ok (.getfield 42, 3) := dk_180 0 42 (dk_at dksX4_clearBank_3 0 rfl rfl)
theorem dX4_clearBank_74 : decode cX4_clearBank 74 = .ok (.aload_n 0, 1) := dk_42 (dk_at dksX4_clearBank_3 3 rfl rfl)
theorem dX4_clearBank_75 : decode cX4_clearBank 75 = .ok (.getfield 246, 3) := dk_180 0 246 (dk_at dksX4_clearBank_3 4 rfl rfl)
theorem dX4_clearBank_78 : decode cX4_clearBank 78 = .ok (.iconst 0, 1) := dk_3 (dk_at dksX4_clearBank_3 7 rfl rfl)
theorem dX4_clearBank_79 : decode cX4_clearBank 79 = .ok (.iastore, 1) := dk_79 (dk_at dksX4_clearBank_3 8 rfl rfl)
theorem dX4_clearBank_80 : decode cX4_clearBank 80 = .ok (.aload_n 0, 1) := dk_42 (dk_at dksX4_clearBank_3 9 rfl rfl)
theorem dX4_clearBank_81 : decode cX4_clearBank 81 = .ok (.getfield 45, 3) := dk_180 0 45 (dk_at dksX4_clearBank_3 10 rfl rfl)
theorem dX4_clearBank_84 : decode cX4_clearBank 84 = .ok (.aload_n 0, 1) := dk_42 (dk_at dksX4_clearBank_3 13 rfl rfl)
theorem dX4_clearBank_85 : decode cX4_clearBank 85 = .ok (.getfield 246, 3) := dk_180 0 246 (dk_at dksX4_clearBank_3 14 rfl rfl)
theorem dX4_clearBank_88 : decode cX4_clearBank 88 = .ok (.iconst 0, 1) := dk_3 (dk_at dksX4_clearBank_3 17 rfl rfl)
theorem dX4_clearBank_89 : decode cX4_clearBank 89 = .ok (.iastore, 1) := dk_79 (dk_at dksX4_clearBank_3 18 rfl rfl)
theorem dX4_clearBank_90 : decode cX4_clearBank 90 = .ok (.aload_n 0, 1) := dk_42 (dk_at dksX4_clearBank_3 19 rfl rfl)
theorem dX4_clearBank_91 : decode cX4_clearBank 91 = .ok (.getfield 48, 3) := dk_180 0 48 (dk_at dksX4_clearBank_3 20 rfl rfl)
theorem dX4_clearBank_94 : decode cX4_clearBank 94 = .ok (.aload_n 0, 1) := dk_42 (dk_at dksX4_clearBank_3 23 rfl rfl)
theorem dX4_clearBank_95 : decode cX4_clearBank 95 = .ok (.getfield 246, 3) := dk_180 0 246 (dk_at dksX4_clearBank_4 0 rfl rfl)
theorem dX4_clearBank_98 : decode cX4_clearBank 98 = .ok (.iconst 0, 1) := dk_3 (dk_at dksX4_clearBank_4 3 rfl rfl)
theorem dX4_clearBank_99 : decode cX4_clearBank 99 = .ok (.iastore, 1) := dk_79 (dk_at dksX4_clearBank_4 4 rfl rfl)
theorem dX4_clearBank_100 : decode cX4_clearBank 100 = .ok (.aload_n 0, 1) := dk_42 (dk_at dksX4_clearBank_4 5 rfl rfl)
theorem dX4_clearBank_101 : decode cX4_clearBank 101 = .ok (.sipush 560, 3) := dk_17 2 48 (dk_at dksX4_clearBank_4 6 rfl rfl)
theorem dX4_clearBank_104 : decode cX4_clearBank 104 = .ok (.aload_n 0, 1) := dk_42 (dk_at dksX4_clearBank_4 9 rfl rfl)
theorem dX4_clearBank_105 : decode cX4_clearBank 105 = .ok (.getfield 246, 3) := dk_180 0 246 (dk_at dksX4_clearBank_4 10 rfl rfl)
theorem dX4_clearBank_108 : decode cX4_clearBank 108 = .ok (.imul, 1) := dk_104 (dk_at dksX4_clearBank_4 13 rfl rfl)
theorem dX4_clearBank_109 : decode cX4_clearBank 109 = .ok (.putfield 249, 3) := dk_181 0 249 (dk_at dksX4_clearBank_4 14 rfl rfl)
theorem dX4_clearBank_112 : decode cX4_clearBank 112 = .ok (.return_, 1) := dk_177 (dk_at dksX4_clearBank_4 17 rfl rfl)
abbrev cX4_startAnew : ByteArray := prog_22_method_54_code
def yX4_startAnew : MethodName := ⟨RX4, "startAnew", "()V"⟩
def dkwX4_startAnew_1 : List UInt8 := [3, 60, 27, 6, 162, 0, 16, 42, 180, 0, 142, 27, 3, 84, 132, 1, 1, 167, 255, 241, 177]
abbrev dktX4_startAnew_1 : List UInt8 := dkwX4_startAnew_1 ++ []
def dkwX4_startAnew_0 : List UInt8 := [42, 182, 1, 130, 42, 3, 181, 1, 133, 42, 3, 181, 1, 136, 42, 3, 181, 1, 139, 42, 3, 181, 1, 142]
abbrev dktX4_startAnew_0 : List UInt8 := dkwX4_startAnew_0 ++ dktX4_startAnew_1
theorem dksX4_startAnew_0 : cX4_startAnew.data.toList.drop 0 = dktX4_startAnew_0 := by decide +kernel
theorem dksX4_startAnew_1 : cX4_startAnew.data.toList.drop 24 = dktX4_startAnew_1 := dk_seg dksX4_startAnew_0 24 rfl rfl
theorem dX4_startAnew_0 : decode cX4_startAnew 0 = .ok (.aload_n 0, 1) := dk_42 (dk_at dksX4_startAnew_0 0 rfl rfl)
theorem dX4_startAnew_1 : decode cX4_startAnew 1 = .ok (.invokevirtual 386, 3) := dk_182 1 130 (dk_at dksX4_startAnew_0 1 rfl rfl)
theorem dX4_startAnew_4 : decode cX4_startAnew 4 = .ok (.aload_n 0, 1) := dk_42 (dk_at dksX4_startAnew_0 4 rfl rfl)
theorem dX4_startAnew_5 : decode cX4_startAnew 5 = .ok (.iconst 0, 1) := dk_3 (dk_at dksX4_startAnew_0 5 rfl rfl)
theorem dX4_startAnew_6 : decode cX4_startAnew 6 = .ok (.putfield 389, 3) := dk_181 1 133 (dk_at dksX4_startAnew_0 6 rfl rfl)
theorem dX4_startAnew_9 : decode cX4_startAnew 9 = .ok (.aload_n 0, 1) := dk_42 (dk_at dksX4_startAnew_0 9 rfl rfl)
theorem dX4_startAnew_10 : decode cX4_startAnew 10 = .ok (.iconst 0, 1) := dk_3 (dk_at dksX4_startAnew_0 10 rfl rfl)
theorem dX4_startAnew_11 : decode cX4_startAnew 11 = .ok (.putfield 392, 3) := dk_181 1 136 (dk_at dksX4_startAnew_0 11 rfl rfl)
theorem dX4_startAnew_14 : decode cX4_startAnew 14 = .ok (.aload_n 0, 1) := dk_42 (dk_at dksX4_startAnew_0 14 rfl rfl)
theorem dX4_startAnew_15 : decode cX4_startAnew 15 = .ok (.iconst 0, 1) := dk_3 (dk_at dksX4_startAnew_0 15 rfl rfl)
theorem dX4_startAnew_16 : decode cX4_startAnew 16 = .ok (.putfield 395, 3) := dk_181 1 139 (dk_at dksX4_startAnew_0 16 rfl rfl)
theorem dX4_startAnew_19 : decode cX4_startAnew 19 = .ok (.aload_n 0, 1) := dk_42 (dk_at dksX4_startAnew_0 19 rfl rfl)
theorem dX4_startAnew_20 : decode cX4_startAnew 20 = .ok (.iconst 0, 1) := dk_3 (dk_at dksX4_startAnew_0 20 rfl rfl)
theorem dX4_startAnew_21 : decode cX4_startAnew 21 = .ok (.putfield 398, 3) := dk_181 1 142 (dk_at dksX4_startAnew_0 21 rfl rfl)
theorem dX4_startAnew_24 : decode cX4_startAnew 24 = .ok (.iconst 0, 1) := dk_3 (dk_at dksX4_startAnew_1 0 rfl rfl)
theorem dX4_startAnew_25 : decode cX4_startAnew 25 = .ok (.istore_n 1, 1) := dk_60 (dk_at dksX4_startAnew_1 1 rfl rfl)
theorem dX4_startAnew_26 : decode cX4_startAnew 26 = .ok (.iload_n 1, 1) := dk_27 (dk_at dksX4_startAnew_1 2 rfl rfl)
theorem dX4_startAnew_27 : decode cX4_startAnew 27 = .ok (.iconst 3, 1) := dk_6 (dk_at dksX4_startAnew_1 3 rfl rfl)
theorem dX4_startAnew_28 : decode cX4_startAnew 28 = .ok (.if_icmp .ge 16, 3) := dk_162 0 16 (dk_at dksX4_startAnew_1 4 rfl rfl)
theorem dX4_startAnew_31 : decode cX4_startAnew 31 = .ok (.aload_n 0, 1) := dk_42 (dk_at dksX4_startAnew_1 7 rfl rfl)
theorem dX4_startAnew_32 : decode cX4_startAnew 32 = .ok (.getfield 142, 3) := dk_180 0 142 (dk_at dksX4_startAnew_1 8 rfl rfl)
theorem dX4_startAnew_35 : decode cX4_startAnew 35 = .ok (.iload_n 1, 1) := dk_27 (dk_at dksX4_startAnew_1 11 rfl rfl)
theorem dX4_startAnew_36 : decode cX4_startAnew 36 = .ok (.iconst 0, 1) := dk_3 (dk_at dksX4_startAnew_1 12 rfl rfl)
theorem dX4_startAnew_37 : decode cX4_startAnew 37 = .ok (.bastore, 1) := dk_84 (dk_at dksX4_startAnew_1 13 rfl rfl)
theorem dX4_startAnew_38 : decode cX4_startAnew 38 = .ok (.iinc 1 1, 3) := dk_132 1 1 (dk_at dksX4_startAnew_1 14 rfl rfl)
theorem dX4_startAnew_41 : decode cX4_startAnew 41 = .ok (.goto (-15), 3) := dk_167 255 241 (dk_at dksX4_startAnew_1 17 rfl rfl)
theorem dX4_startAnew_44 : decode cX4_startAnew 44 = .ok (.return_, 1) := dk_177 (dk_at dksX4_startAnew_1 20 rfl rfl)
abbrev cX4_layTold : ByteArray := prog_22_method_55_code
def yX4_layTold : MethodName := ⟨RX4, "layTold", "()V"⟩
def dkwX4_layTold_5 : List UInt8 := [79, 177]
abbrev dktX4_layTold_5 : List UInt8 := dkwX4_layTold_5 ++ []
def dkwX4_layTold_4 : List UInt8 := [180, 0, 42, 42, 180, 0, 255, 46, 79, 42, 180, 0, 97, 16, 28, 42, 180, 0, 48, 42, 180, 0, 255, 46]
abbrev dktX4_layTold_4 : List UInt8 := dkwX4_layTold_4 ++ dktX4_layTold_5
def dkwX4_layTold_3 : List UInt8 := [154, 0, 7, 2, 167, 0, 12, 42, 180, 0, 36, 42, 180, 0, 255, 46, 79, 42, 180, 0, 97, 16, 27, 42]
abbrev dktX4_layTold_3 : List UInt8 := dkwX4_layTold_3 ++ dktX4_layTold_4
def dkwX4_layTold_2 : List UInt8 := [180, 0, 255, 104, 27, 96, 46, 79, 132, 1, 1, 167, 255, 222, 42, 180, 0, 97, 16, 24, 42, 182, 1, 124]
abbrev dktX4_layTold_2 : List UInt8 := dkwX4_layTold_2 ++ dktX4_layTold_3
def dkwX4_layTold_1 : List UInt8 := [42, 182, 1, 115, 162, 0, 32, 42, 180, 0, 97, 16, 6, 27, 96, 42, 180, 0, 63, 16, 6, 42]
abbrev dktX4_layTold_1 : List UInt8 := dkwX4_layTold_1 ++ dktX4_layTold_2
def dkwX4_layTold_0 : List UInt8 := [3, 60, 27, 16, 29, 162, 0, 16, 42, 180, 0, 97, 27, 3, 79, 132, 1, 1, 167, 255, 240, 3, 60, 27]
abbrev dktX4_layTold_0 : List UInt8 := dkwX4_layTold_0 ++ dktX4_layTold_1
theorem dksX4_layTold_0 : cX4_layTold.data.toList.drop 0 = dktX4_layTold_0 := by decide +kernel
theorem dksX4_layTold_1 : cX4_layTold.data.toList.drop 24 = dktX4_layTold_1 := dk_seg dksX4_layTold_0 24 rfl rfl
theorem dksX4_layTold_2 : cX4_layTold.data.toList.drop 46 = dktX4_layTold_2 := dk_seg dksX4_layTold_1 22 rfl rfl
theorem dksX4_layTold_3 : cX4_layTold.data.toList.drop 70 = dktX4_layTold_3 := dk_seg dksX4_layTold_2 24 rfl rfl
theorem dksX4_layTold_4 : cX4_layTold.data.toList.drop 94 = dktX4_layTold_4 := dk_seg dksX4_layTold_3 24 rfl rfl
theorem dksX4_layTold_5 : cX4_layTold.data.toList.drop 118 = dktX4_layTold_5 := dk_seg dksX4_layTold_4 24 rfl rfl
theorem dX4_layTold_0 : decode cX4_layTold 0 = .ok (.iconst 0, 1) := dk_3 (dk_at dksX4_layTold_0 0 rfl rfl)
theorem dX4_layTold_1 : decode cX4_layTold 1 = .ok (.istore_n 1, 1) := dk_60 (dk_at dksX4_layTold_0 1 rfl rfl)
theorem dX4_layTold_2 : decode cX4_layTold 2 = .ok (.iload_n 1, 1) := dk_27 (dk_at dksX4_layTold_0 2 rfl rfl)
theorem dX4_layTold_3 : decode cX4_layTold 3 = .ok (.bipush 29, 2) := dk_16 29 (dk_at dksX4_layTold_0 3 rfl rfl)
theorem dX4_layTold_5 : decode cX4_layTold 5 = .ok (.if_icmp .ge 16, 3) := dk_162 0 16 (dk_at dksX4_layTold_0 5 rfl rfl)
theorem dX4_layTold_8 : decode cX4_layTold 8 = .ok (.aload_n 0, 1) := dk_42 (dk_at dksX4_layTold_0 8 rfl rfl)
theorem dX4_layTold_9 : decode cX4_layTold 9 = .ok (.getfield 97, 3) := dk_180 0 97 (dk_at dksX4_layTold_0 9 rfl rfl)
theorem dX4_layTold_12 : decode cX4_layTold 12 = .ok (.iload_n 1, 1) := dk_27 (dk_at dksX4_layTold_0 12 rfl rfl)
theorem dX4_layTold_13 : decode cX4_layTold 13 = .ok (.iconst 0, 1) := dk_3 (dk_at dksX4_layTold_0 13 rfl rfl)
theorem dX4_layTold_14 : decode cX4_layTold 14 = .ok (.iastore, 1) := dk_79 (dk_at dksX4_layTold_0 14 rfl rfl)
theorem dX4_layTold_15 : decode cX4_layTold 15 = .ok (.iinc 1 1, 3) := dk_132 1 1 (dk_at dksX4_layTold_0 15 rfl rfl)
theorem dX4_layTold_18 : decode cX4_layTold 18 = .ok (.goto (-16), 3) := dk_167 255 240 (dk_at dksX4_layTold_0 18 rfl rfl)
theorem dX4_layTold_21 : decode cX4_layTold 21 = .ok (.iconst 0, 1) := dk_3 (dk_at dksX4_layTold_0 21 rfl rfl)
theorem dX4_layTold_22 : decode cX4_layTold 22 = .ok (.istore_n 1, 1) := dk_60 (dk_at dksX4_layTold_0 22 rfl rfl)
theorem dX4_layTold_23 : decode cX4_layTold 23 = .ok (.iload_n 1, 1) := dk_27 (dk_at dksX4_layTold_0 23 rfl rfl)
theorem dX4_layTold_24 : decode cX4_layTold 24 = .ok (.aload_n 0, 1) := dk_42 (dk_at dksX4_layTold_1 0 rfl rfl)
theorem dX4_layTold_25 : decode cX4_layTold 25 = .ok (.invokevirtual 371, 3) := dk_182 1 115 (dk_at dksX4_layTold_1 1 rfl rfl)
theorem dX4_layTold_28 : decode cX4_layTold 28 = .ok (.if_icmp .ge 32, 3) := dk_162 0 32 (dk_at dksX4_layTold_1 4 rfl rfl)
theorem dX4_layTold_31 : decode cX4_layTold 31 = .ok (.aload_n 0, 1) := dk_42 (dk_at dksX4_layTold_1 7 rfl rfl)
theorem dX4_layTold_32 : decode cX4_layTold 32 = .ok (.getfield 97, 3) := dk_180 0 97 (dk_at dksX4_layTold_1 8 rfl rfl)
theorem dX4_layTold_35 : decode cX4_layTold 35 = .ok (.bipush 6, 2) := dk_16 6 (dk_at dksX4_layTold_1 11 rfl rfl)
theorem dX4_layTold_37 : decode cX4_layTold 37 = .ok (.iload_n 1, 1) := dk_27 (dk_at dksX4_layTold_1 13 rfl rfl)
theorem dX4_layTold_38 : decode cX4_layTold 38 = .ok (.iadd, 1) := dk_96 (dk_at dksX4_layTold_1 14 rfl rfl)
theorem dX4_layTold_39 : decode cX4_layTold 39 = .ok (.aload_n 0, 1) := dk_42 (dk_at dksX4_layTold_1 15 rfl rfl)
theorem dX4_layTold_40 : decode cX4_layTold 40 = .ok (.getfield 63, 3) := dk_180 0 63 (dk_at dksX4_layTold_1 16 rfl rfl)
theorem dX4_layTold_43 : decode cX4_layTold 43 = .ok (.bipush 6, 2) := dk_16 6 (dk_at dksX4_layTold_1 19 rfl rfl)
theorem dX4_layTold_45 : decode cX4_layTold 45 = .ok (.aload_n 0, 1) := dk_42 (dk_at dksX4_layTold_1 21 rfl rfl)
theorem dX4_layTold_46 : decode cX4_layTold 46 = .ok (.getfield 255, 3) := dk_180 0 255 (dk_at dksX4_layTold_2 0 rfl rfl)
theorem dX4_layTold_49 : decode cX4_layTold 49 = .ok (.imul, 1) := dk_104 (dk_at dksX4_layTold_2 3 rfl rfl)
theorem dX4_layTold_50 : decode cX4_layTold 50 = .ok (.iload_n 1, 1) := dk_27 (dk_at dksX4_layTold_2 4 rfl rfl)
theorem dX4_layTold_51 : decode cX4_layTold 51 = .ok (.iadd, 1) := dk_96 (dk_at dksX4_layTold_2 5 rfl rfl)
theorem dX4_layTold_52 : decode cX4_layTold 52 = .ok (.iaload, 1) := dk_46 (dk_at dksX4_layTold_2 6 rfl rfl)
theorem dX4_layTold_53 : decode cX4_layTold 53 = .ok (.iastore, 1) := dk_79 (dk_at dksX4_layTold_2 7 rfl rfl)
theorem dX4_layTold_54 : decode cX4_layTold 54 = .ok (.iinc 1 1, 3) := dk_132 1 1 (dk_at dksX4_layTold_2 8 rfl rfl)
theorem dX4_layTold_57 : decode cX4_layTold 57 = .ok (.goto (-34), 3) := dk_167 255 222 (dk_at dksX4_layTold_2 11 rfl rfl)
theorem dX4_layTold_60 : decode cX4_layTold 60 = .ok (.aload_n 0, 1) := dk_42 (dk_at dksX4_layTold_2 14 rfl rfl)
theorem dX4_layTold_61 : decode cX4_layTold 61 = .ok (.getfield 97, 3) := dk_180 0 97 (dk_at dksX4_layTold_2 15 rfl rfl)
theorem dX4_layTold_64 : decode cX4_layTold 64 = .ok (.bipush 24, 2) := dk_16 24 (dk_at dksX4_layTold_2 18 rfl rfl)
theorem dX4_layTold_66 : decode cX4_layTold 66 = .ok (.aload_n 0, 1) := dk_42 (dk_at dksX4_layTold_2 20 rfl rfl)
theorem dX4_layTold_67 : decode cX4_layTold 67 = .ok (.invokevirtual 380, 3) := dk_182 1 124 (dk_at dksX4_layTold_2 21 rfl rfl)
theorem dX4_layTold_70 : decode cX4_layTold 70 = .ok (.ifCond .ne 7, 3) := dk_154 0 7 (dk_at dksX4_layTold_3 0 rfl rfl)
theorem dX4_layTold_73 : decode cX4_layTold 73 = .ok (.iconst (-1), 1) := dk_2 (dk_at dksX4_layTold_3 3 rfl rfl)
theorem dX4_layTold_74 : decode cX4_layTold 74 = .ok (.goto 12, 3) := dk_167 0 12 (dk_at dksX4_layTold_3 4 rfl rfl)
theorem dX4_layTold_77 : decode cX4_layTold 77 = .ok (.aload_n 0, 1) := dk_42 (dk_at dksX4_layTold_3 7 rfl rfl)
theorem dX4_layTold_78 : decode cX4_layTold 78 = .ok (.getfield 36, 3) := dk_180 0 36 (dk_at dksX4_layTold_3 8 rfl rfl)
theorem dX4_layTold_81 : decode cX4_layTold 81 = .ok (.aload_n 0, 1) := dk_42 (dk_at dksX4_layTold_3 11 rfl rfl)
theorem dX4_layTold_82 : decode cX4_layTold 82 = .ok (.getfield 255, 3) := dk_180 0 255 (dk_at dksX4_layTold_3 12 rfl rfl)
theorem dX4_layTold_85 : decode cX4_layTold 85 = .ok (.iaload, 1) := dk_46 (dk_at dksX4_layTold_3 15 rfl rfl)
theorem dX4_layTold_86 : decode cX4_layTold 86 = .ok (.iastore, 1) := dk_79 (dk_at dksX4_layTold_3 16 rfl rfl)
theorem dX4_layTold_87 : decode cX4_layTold 87 = .ok (.aload_n 0, 1) := dk_42 (dk_at dksX4_layTold_3 17 rfl rfl)
theorem dX4_layTold_88 : decode cX4_layTold 88 = .ok (.getfield 97, 3) := dk_180 0 97 (dk_at dksX4_layTold_3 18 rfl rfl)
theorem dX4_layTold_91 : decode cX4_layTold 91 = .ok (.bipush 27, 2) := dk_16 27 (dk_at dksX4_layTold_3 21 rfl rfl)
theorem dX4_layTold_93 : decode cX4_layTold 93 = .ok (.aload_n 0, 1) := dk_42 (dk_at dksX4_layTold_3 23 rfl rfl)
theorem dX4_layTold_94 : decode cX4_layTold 94 = .ok (.getfield 42, 3) := dk_180 0 42 (dk_at dksX4_layTold_4 0 rfl rfl)
theorem dX4_layTold_97 : decode cX4_layTold 97 = .ok (.aload_n 0, 1) := dk_42 (dk_at dksX4_layTold_4 3 rfl rfl)
theorem dX4_layTold_98 : decode cX4_layTold 98 = .ok (.getfield 255, 3) := dk_180 0 255 (dk_at dksX4_layTold_4 4 rfl rfl)
theorem dX4_layTold_101 : decode cX4_layTold 101 = .ok (.iaload, 1) := dk_46 (dk_at dksX4_layTold_4 7 rfl rfl)
theorem dX4_layTold_102 : decode cX4_layTold 102 = .ok (.iastore, 1) := dk_79 (dk_at dksX4_layTold_4 8 rfl rfl)
theorem dX4_layTold_103 : decode cX4_layTold 103 = .ok (.aload_n 0, 1) := dk_42 (dk_at dksX4_layTold_4 9 rfl rfl)
theorem dX4_layTold_104 : decode cX4_layTold 104 = .ok (.getfield 97, 3) := dk_180 0 97 (dk_at dksX4_layTold_4 10 rfl rfl)
theorem dX4_layTold_107 : decode cX4_layTold 107 = .ok (.bipush 28, 2) := dk_16 28 (dk_at dksX4_layTold_4 13 rfl rfl)
theorem dX4_layTold_109 : decode cX4_layTold 109 = .ok (.aload_n 0, 1) := dk_42 (dk_at dksX4_layTold_4 15 rfl rfl)
theorem dX4_layTold_110 : decode cX4_layTold 110 = .ok (.getfield 48, 3) := dk_180 0 48 (dk_at dksX4_layTold_4 16 rfl rfl)
theorem dX4_layTold_113 : decode cX4_layTold 113 = .ok (.aload_n 0, 1) := dk_42 (dk_at dksX4_layTold_4 19 rfl rfl)
theorem dX4_layTold_114 : decode cX4_layTold 114 = .ok (.getfield 255, 3) := dk_180 0 255 (dk_at dksX4_layTold_4 20 rfl rfl)
theorem dX4_layTold_117 : decode cX4_layTold 117 = .ok (.iaload, 1) := dk_46 (dk_at dksX4_layTold_4 23 rfl rfl)
theorem dX4_layTold_118 : decode cX4_layTold 118 = .ok (.iastore, 1) := dk_79 (dk_at dksX4_layTold_5 0 rfl rfl)
theorem dX4_layTold_119 : decode cX4_layTold 119 = .ok (.return_, 1) := dk_177 (dk_at dksX4_layTold_5 1 rfl rfl)
abbrev cX4_many : ByteArray := prog_22_method_46_code
def yX4_many : MethodName := ⟨RX4, "many", "()I"⟩
def dkwX4_many_0 : List UInt8 := [42, 180, 0, 30, 42, 180, 0, 255, 46, 172]
abbrev dktX4_many_0 : List UInt8 := dkwX4_many_0 ++ []
theorem dksX4_many_0 : cX4_many.data.toList.drop 0 = dktX4_many_0 := by decide +kernel
theorem dX4_many_0 : decode cX4_many 0 = .ok (.aload_n 0, 1) := dk_42 (dk_at dksX4_many_0 0 rfl rfl)
theorem dX4_many_1 : decode cX4_many 1 = .ok (.getfield 30, 3) := dk_180 0 30 (dk_at dksX4_many_0 1 rfl rfl)
theorem dX4_many_4 : decode cX4_many 4 = .ok (.aload_n 0, 1) := dk_42 (dk_at dksX4_many_0 4 rfl rfl)
theorem dX4_many_5 : decode cX4_many 5 = .ok (.getfield 255, 3) := dk_180 0 255 (dk_at dksX4_many_0 5 rfl rfl)
theorem dX4_many_8 : decode cX4_many 8 = .ok (.iaload, 1) := dk_46 (dk_at dksX4_many_0 8 rfl rfl)
theorem dX4_many_9 : decode cX4_many 9 = .ok (.ireturn, 1) := dk_172 (dk_at dksX4_many_0 9 rfl rfl)
abbrev cX4_spots : ByteArray := prog_22_method_48_code
def yX4_spots : MethodName := ⟨RX4, "spots", "()I"⟩
def dkwX4_spots_0 : List UInt8 := [42, 180, 0, 20, 42, 180, 0, 255, 46, 172]
abbrev dktX4_spots_0 : List UInt8 := dkwX4_spots_0 ++ []
theorem dksX4_spots_0 : cX4_spots.data.toList.drop 0 = dktX4_spots_0 := by decide +kernel
theorem dX4_spots_0 : decode cX4_spots 0 = .ok (.aload_n 0, 1) := dk_42 (dk_at dksX4_spots_0 0 rfl rfl)
theorem dX4_spots_1 : decode cX4_spots 1 = .ok (.getfield 20, 3) := dk_180 0 20 (dk_at dksX4_spots_0 1 rfl rfl)
theorem dX4_spots_4 : decode cX4_spots 4 = .ok (.aload_n 0, 1) := dk_42 (dk_at dksX4_spots_0 4 rfl rfl)
theorem dX4_spots_5 : decode cX4_spots 5 = .ok (.getfield 255, 3) := dk_180 0 255 (dk_at dksX4_spots_0 5 rfl rfl)
theorem dX4_spots_8 : decode cX4_spots 8 = .ok (.iaload, 1) := dk_46 (dk_at dksX4_spots_0 8 rfl rfl)
theorem dX4_spots_9 : decode cX4_spots 9 = .ok (.ireturn, 1) := dk_172 (dk_at dksX4_spots_0 9 rfl rfl)
abbrev cX4_web : ByteArray := prog_22_method_16_code
def yX4_web : MethodName := ⟨RX4, "web", "()I"⟩
def dkwX4_web_5 : List UInt8 := [42, 180, 0, 30, 42, 180, 0, 255, 46, 172]
abbrev dktX4_web_5 : List UInt8 := dkwX4_web_5 ++ []
def dkwX4_web_4 : List UInt8 := [167, 255, 238, 42, 182, 0, 236, 154, 0, 5, 2, 172, 42, 42, 180, 0, 246, 181, 0, 255, 42, 182, 0, 149]
abbrev dktX4_web_4 : List UInt8 := dkwX4_web_4 ++ dktX4_web_5
def dkwX4_web_3 : List UInt8 := [42, 182, 0, 240, 42, 182, 0, 236, 153, 0, 17, 42, 180, 0, 208, 153, 0, 10, 42, 182, 1, 2]
abbrev dktX4_web_3 : List UInt8 := dkwX4_web_3 ++ dktX4_web_4
def dkwX4_web_2 : List UInt8 := [42, 3, 181, 0, 252, 42, 3, 181, 0, 198, 42, 4, 42, 180, 0, 255, 100, 181, 0, 246, 42, 182, 0, 146]
abbrev dktX4_web_2 : List UInt8 := dkwX4_web_2 ++ dktX4_web_3
def dkwX4_web_1 : List UInt8 := [180, 0, 152, 162, 0, 21, 42, 180, 0, 13, 27, 42, 180, 0, 7, 27, 51, 84, 132, 1, 1, 167, 255, 233]
abbrev dktX4_web_1 : List UInt8 := dkwX4_web_1 ++ dktX4_web_2
def dkwX4_web_0 : List UInt8 := [42, 3, 181, 0, 155, 42, 2, 181, 0, 16, 42, 42, 180, 0, 252, 181, 0, 152, 3, 60, 27, 42]
abbrev dktX4_web_0 : List UInt8 := dkwX4_web_0 ++ dktX4_web_1
theorem dksX4_web_0 : cX4_web.data.toList.drop 0 = dktX4_web_0 := by decide +kernel
theorem dksX4_web_1 : cX4_web.data.toList.drop 22 = dktX4_web_1 := dk_seg dksX4_web_0 22 rfl rfl
theorem dksX4_web_2 : cX4_web.data.toList.drop 46 = dktX4_web_2 := dk_seg dksX4_web_1 24 rfl rfl
theorem dksX4_web_3 : cX4_web.data.toList.drop 70 = dktX4_web_3 := dk_seg dksX4_web_2 24 rfl rfl
theorem dksX4_web_4 : cX4_web.data.toList.drop 92 = dktX4_web_4 := dk_seg dksX4_web_3 22 rfl rfl
theorem dksX4_web_5 : cX4_web.data.toList.drop 116 = dktX4_web_5 := dk_seg dksX4_web_4 24 rfl rfl
theorem dX4_web_0 : decode cX4_web 0 = .ok (.aload_n 0, 1) := dk_42 (dk_at dksX4_web_0 0 rfl rfl)
theorem dX4_web_1 : decode cX4_web 1 = .ok (.iconst 0, 1) := dk_3 (dk_at dksX4_web_0 1 rfl rfl)
theorem dX4_web_2 : decode cX4_web 2 = .ok (.putfield 155, 3) := dk_181 0 155 (dk_at dksX4_web_0 2 rfl rfl)
theorem dX4_web_5 : decode cX4_web 5 = .ok (.aload_n 0, 1) := dk_42 (dk_at dksX4_web_0 5 rfl rfl)
theorem dX4_web_6 : decode cX4_web 6 = .ok (.iconst (-1), 1) := dk_2 (dk_at dksX4_web_0 6 rfl rfl)
theorem dX4_web_7 : decode cX4_web 7 = .ok (.putfield 16, 3) := dk_181 0 16 (dk_at dksX4_web_0 7 rfl rfl)
theorem dX4_web_10 : decode cX4_web 10 = .ok (.aload_n 0, 1) := dk_42 (dk_at dksX4_web_0 10 rfl rfl)
theorem dX4_web_11 : decode cX4_web 11 = .ok (.aload_n 0, 1) := dk_42 (dk_at dksX4_web_0 11 rfl rfl)
theorem dX4_web_12 : decode cX4_web 12 = .ok (.getfield 252, 3) := dk_180 0 252 (dk_at dksX4_web_0 12 rfl rfl)
theorem dX4_web_15 : decode cX4_web 15 = .ok (.putfield 152, 3) := dk_181 0 152 (dk_at dksX4_web_0 15 rfl rfl)
theorem dX4_web_18 : decode cX4_web 18 = .ok (.iconst 0, 1) := dk_3 (dk_at dksX4_web_0 18 rfl rfl)
theorem dX4_web_19 : decode cX4_web 19 = .ok (.istore_n 1, 1) := dk_60 (dk_at dksX4_web_0 19 rfl rfl)
theorem dX4_web_20 : decode cX4_web 20 = .ok (.iload_n 1, 1) := dk_27 (dk_at dksX4_web_0 20 rfl rfl)
theorem dX4_web_21 : decode cX4_web 21 = .ok (.aload_n 0, 1) := dk_42 (dk_at dksX4_web_0 21 rfl rfl)
theorem dX4_web_22 : decode cX4_web 22 = .ok (.getfield 152, 3) := dk_180 0 152 (dk_at dksX4_web_1 0 rfl rfl)
theorem dX4_web_25 : decode cX4_web 25 = .ok (.if_icmp .ge 21, 3) := dk_162 0 21 (dk_at dksX4_web_1 3 rfl rfl)
theorem dX4_web_28 : decode cX4_web 28 = .ok (.aload_n 0, 1) := dk_42 (dk_at dksX4_web_1 6 rfl rfl)
theorem dX4_web_29 : decode cX4_web 29 = .ok (.getfield 13, 3) := dk_180 0 13 (dk_at dksX4_web_1 7 rfl rfl)
theorem dX4_web_32 : decode cX4_web 32 = .ok (.iload_n 1, 1) := dk_27 (dk_at dksX4_web_1 10 rfl rfl)
theorem dX4_web_33 : decode cX4_web 33 = .ok (.aload_n 0, 1) := dk_42 (dk_at dksX4_web_1 11 rfl rfl)
theorem dX4_web_34 : decode cX4_web 34 = .ok (.getfield 7, 3) := dk_180 0 7 (dk_at dksX4_web_1 12 rfl rfl)
theorem dX4_web_37 : decode cX4_web 37 = .ok (.iload_n 1, 1) := dk_27 (dk_at dksX4_web_1 15 rfl rfl)
theorem dX4_web_38 : decode cX4_web 38 = .ok (.baload, 1) := dk_51 (dk_at dksX4_web_1 16 rfl rfl)
theorem dX4_web_39 : decode cX4_web 39 = .ok (.bastore, 1) := dk_84 (dk_at dksX4_web_1 17 rfl rfl)
theorem dX4_web_40 : decode cX4_web 40 = .ok (.iinc 1 1, 3) := dk_132 1 1 (dk_at dksX4_web_1 18 rfl rfl)
theorem dX4_web_43 : decode cX4_web 43 = .ok (.goto (-23), 3) := dk_167 255 233 (dk_at dksX4_web_1 21 rfl rfl)
theorem dX4_web_46 : decode cX4_web 46 = .ok (.aload_n 0, 1) := dk_42 (dk_at dksX4_web_2 0 rfl rfl)
theorem dX4_web_47 : decode cX4_web 47 = .ok (.iconst 0, 1) := dk_3 (dk_at dksX4_web_2 1 rfl rfl)
theorem dX4_web_48 : decode cX4_web 48 = .ok (.putfield 252, 3) := dk_181 0 252 (dk_at dksX4_web_2 2 rfl rfl)
theorem dX4_web_51 : decode cX4_web 51 = .ok (.aload_n 0, 1) := dk_42 (dk_at dksX4_web_2 5 rfl rfl)
theorem dX4_web_52 : decode cX4_web 52 = .ok (.iconst 0, 1) := dk_3 (dk_at dksX4_web_2 6 rfl rfl)
theorem dX4_web_53 : decode cX4_web 53 = .ok (.putfield 198, 3) := dk_181 0 198 (dk_at dksX4_web_2 7 rfl rfl)
theorem dX4_web_56 : decode cX4_web 56 = .ok (.aload_n 0, 1) := dk_42 (dk_at dksX4_web_2 10 rfl rfl)
theorem dX4_web_57 : decode cX4_web 57 = .ok (.iconst 1, 1) := dk_4 (dk_at dksX4_web_2 11 rfl rfl)
theorem dX4_web_58 : decode cX4_web 58 = .ok (.aload_n 0, 1) := dk_42 (dk_at dksX4_web_2 12 rfl rfl)
theorem dX4_web_59 : decode cX4_web 59 = .ok (.getfield 255, 3) := dk_180 0 255 (dk_at dksX4_web_2 13 rfl rfl)
theorem dX4_web_62 : decode cX4_web 62 = .ok (.isub, 1) := dk_100 (dk_at dksX4_web_2 16 rfl rfl)
theorem dX4_web_63 : decode cX4_web 63 = .ok (.putfield 246, 3) := dk_181 0 246 (dk_at dksX4_web_2 17 rfl rfl)
theorem dX4_web_66 : decode cX4_web 66 = .ok (.aload_n 0, 1) := dk_42 (dk_at dksX4_web_2 20 rfl rfl)
theorem dX4_web_67 : decode cX4_web 67 = .ok (.invokevirtual 146, 3) := dk_182 0 146 (dk_at dksX4_web_2 21 rfl rfl)
theorem dX4_web_70 : decode cX4_web 70 = .ok (.aload_n 0, 1) := dk_42 (dk_at dksX4_web_3 0 rfl rfl)
theorem dX4_web_71 : decode cX4_web 71 = .ok (.invokevirtual 240, 3) := dk_182 0 240 (dk_at dksX4_web_3 1 rfl rfl)
theorem dX4_web_74 : decode cX4_web 74 = .ok (.aload_n 0, 1) := dk_42 (dk_at dksX4_web_3 4 rfl rfl)
theorem dX4_web_75 : decode cX4_web 75 = .ok (.invokevirtual 236, 3) := dk_182 0 236 (dk_at dksX4_web_3 5 rfl rfl)
theorem dX4_web_78 : decode cX4_web 78 = .ok (.ifCond .eq 17, 3) := dk_153 0 17 (dk_at dksX4_web_3 8 rfl rfl)
theorem dX4_web_81 : decode cX4_web 81 = .ok (.aload_n 0, 1) := dk_42 (dk_at dksX4_web_3 11 rfl rfl)
theorem dX4_web_82 : decode cX4_web 82 = .ok (.getfield 208, 3) := dk_180 0 208 (dk_at dksX4_web_3 12 rfl rfl)
theorem dX4_web_85 : decode cX4_web 85 = .ok (.ifCond .eq 10, 3) := dk_153 0 10 (dk_at dksX4_web_3 15 rfl rfl)
theorem dX4_web_88 : decode cX4_web 88 = .ok (.aload_n 0, 1) := dk_42 (dk_at dksX4_web_3 18 rfl rfl)
theorem dX4_web_89 : decode cX4_web 89 = .ok (.invokevirtual 258, 3) := dk_182 1 2 (dk_at dksX4_web_3 19 rfl rfl)
theorem dX4_web_92 : decode cX4_web 92 = .ok (.goto (-18), 3) := dk_167 255 238 (dk_at dksX4_web_4 0 rfl rfl)
theorem dX4_web_95 : decode cX4_web 95 = .ok (.aload_n 0, 1) := dk_42 (dk_at dksX4_web_4 3 rfl rfl)
theorem dX4_web_96 : decode cX4_web 96 = .ok (.invokevirtual 236, 3) := dk_182 0 236 (dk_at dksX4_web_4 4 rfl rfl)
theorem dX4_web_99 : decode cX4_web 99 = .ok (.ifCond .ne 5, 3) := dk_154 0 5 (dk_at dksX4_web_4 7 rfl rfl)
theorem dX4_web_102 : decode cX4_web 102 = .ok (.iconst (-1), 1) := dk_2 (dk_at dksX4_web_4 10 rfl rfl)
theorem dX4_web_103 : decode cX4_web 103 = .ok (.ireturn, 1) := dk_172 (dk_at dksX4_web_4 11 rfl rfl)
theorem dX4_web_104 : decode cX4_web 104 = .ok (.aload_n 0, 1) := dk_42 (dk_at dksX4_web_4 12 rfl rfl)
theorem dX4_web_105 : decode cX4_web 105 = .ok (.aload_n 0, 1) := dk_42 (dk_at dksX4_web_4 13 rfl rfl)
theorem dX4_web_106 : decode cX4_web 106 = .ok (.getfield 246, 3) := dk_180 0 246 (dk_at dksX4_web_4 14 rfl rfl)
theorem dX4_web_109 : decode cX4_web 109 = .ok (.putfield 255, 3) := dk_181 0 255 (dk_at dksX4_web_4 17 rfl rfl)
theorem dX4_web_112 : decode cX4_web 112 = .ok (.aload_n 0, 1) := dk_42 (dk_at dksX4_web_4 20 rfl rfl)
theorem dX4_web_113 : decode cX4_web 113 = .ok (.invokevirtual 149, 3) := dk_182 0 149 (dk_at dksX4_web_4 21 rfl rfl)
theorem dX4_web_116 : decode cX4_web 116 = .ok (.aload_n 0, 1) := dk_42 (dk_at dksX4_web_5 0 rfl rfl)
theorem dX4_web_117 : decode cX4_web 117 = .ok (.getfield 30, 3) := dk_180 0 30 (dk_at dksX4_web_5 1 rfl rfl)
theorem dX4_web_120 : decode cX4_web 120 = .ok (.aload_n 0, 1) := dk_42 (dk_at dksX4_web_5 4 rfl rfl)
theorem dX4_web_121 : decode cX4_web 121 = .ok (.getfield 255, 3) := dk_180 0 255 (dk_at dksX4_web_5 5 rfl rfl)
theorem dX4_web_124 : decode cX4_web 124 = .ok (.iaload, 1) := dk_46 (dk_at dksX4_web_5 8 rfl rfl)
theorem dX4_web_125 : decode cX4_web 125 = .ok (.ireturn, 1) := dk_172 (dk_at dksX4_web_5 9 rfl rfl)
abbrev cX4_goOn : ByteArray := prog_22_method_9_code
def yX4_goOn : MethodName := ⟨RX4, "goOn", "()V"⟩
def dkwX4_goOn_16 : List UInt8 := [167, 0, 4, 4, 181, 0, 208, 177]
abbrev dktX4_goOn_16 : List UInt8 := dkwX4_goOn_16 ++ []
def dkwX4_goOn_15 : List UInt8 := [153, 0, 7, 4, 167, 0, 4, 7, 181, 0, 208, 167, 0, 19, 42, 27, 184, 0, 229, 153, 0, 7, 8]
abbrev dktX4_goOn_15 : List UInt8 := dkwX4_goOn_15 ++ dktX4_goOn_16
def dkwX4_goOn_14 : List UInt8 := [180, 0, 198, 42, 180, 0, 201, 100, 7, 163, 0, 17, 42, 42, 180, 0, 198, 182, 0, 204, 184, 0, 211]
abbrev dktX4_goOn_14 : List UInt8 := dkwX4_goOn_14 ++ dktX4_goOn_15
def dkwX4_goOn_13 : List UInt8 := [96, 16, 48, 100, 181, 0, 226, 42, 89, 180, 0, 198, 4, 96, 181, 0, 198, 167, 255, 196, 42, 42]
abbrev dktX4_goOn_13 : List UInt8 := dkwX4_goOn_13 ++ dktX4_goOn_14
def dkwX4_goOn_12 : List UInt8 := [180, 0, 201, 100, 7, 162, 0, 26, 42, 16, 10, 42, 180, 0, 226, 104, 42, 42, 180, 0, 198, 182, 0, 204]
abbrev dktX4_goOn_12 : List UInt8 := dkwX4_goOn_12 ++ dktX4_goOn_13
def dkwX4_goOn_11 : List UInt8 := [181, 0, 198, 42, 42, 180, 0, 198, 182, 0, 204, 184, 0, 223, 153, 0, 52, 42, 180, 0, 198, 42]
abbrev dktX4_goOn_11 : List UInt8 := dkwX4_goOn_11 ++ dktX4_goOn_12
def dkwX4_goOn_10 : List UInt8 := [181, 0, 208, 167, 0, 141, 27, 184, 0, 223, 153, 0, 118, 42, 3, 181, 0, 226, 42, 42, 180, 0, 201]
abbrev dktX4_goOn_10 : List UInt8 := dkwX4_goOn_10 ++ dktX4_goOn_11
def dkwX4_goOn_9 : List UInt8 := [164, 0, 7, 4, 167, 0, 18, 42, 180, 0, 215, 184, 0, 219, 153, 0, 7, 6, 167, 0, 4, 5]
abbrev dktX4_goOn_9 : List UInt8 := dkwX4_goOn_9 ++ dktX4_goOn_10
def dkwX4_goOn_8 : List UInt8 := [133, 129, 181, 0, 215, 132, 2, 1, 167, 255, 216, 42, 42, 180, 0, 198, 42, 180, 0, 201, 100, 16, 8]
abbrev dktX4_goOn_8 : List UInt8 := dkwX4_goOn_8 ++ dktX4_goOn_9
def dkwX4_goOn_7 : List UInt8 := [28, 42, 180, 0, 201, 16, 8, 96, 162, 0, 27, 42, 42, 180, 0, 215, 16, 8, 121, 42, 28, 182, 0, 204]
abbrev dktX4_goOn_7 : List UInt8 := dkwX4_goOn_7 ++ dktX4_goOn_8
def dkwX4_goOn_6 : List UInt8 := [181, 0, 198, 167, 255, 232, 42, 9, 181, 0, 215, 42, 180, 0, 201, 61, 28, 42, 180, 0, 198, 162, 0, 38]
abbrev dktX4_goOn_6 : List UInt8 := dkwX4_goOn_6 ++ dktX4_goOn_7
def dkwX4_goOn_5 : List UInt8 := [153, 0, 123, 42, 42, 180, 0, 198, 182, 0, 204, 184, 0, 211, 153, 0, 16, 42, 89, 180, 0, 198, 4, 96]
abbrev dktX4_goOn_5 : List UInt8 := dkwX4_goOn_5 ++ dktX4_goOn_6
def dkwX4_goOn_4 : List UInt8 := [42, 42, 180, 0, 152, 181, 0, 201, 42, 42, 180, 0, 152, 181, 0, 198, 167, 1, 12, 27, 184, 0, 211]
abbrev dktX4_goOn_4 : List UInt8 := dkwX4_goOn_4 ++ dktX4_goOn_5
def dkwX4_goOn_3 : List UInt8 := [180, 0, 201, 4, 96, 181, 0, 198, 42, 180, 0, 201, 42, 180, 0, 152, 161, 0, 27, 42, 3, 181, 0, 208]
abbrev dktX4_goOn_3 : List UInt8 := dkwX4_goOn_3 ++ dktX4_goOn_4
def dkwX4_goOn_2 : List UInt8 := [180, 0, 201, 4, 96, 181, 0, 201, 167, 255, 209, 42, 42, 180, 0, 201, 182, 0, 204, 60, 42, 42]
abbrev dktX4_goOn_2 : List UInt8 := dkwX4_goOn_2 ++ dktX4_goOn_3
def dkwX4_goOn_1 : List UInt8 := [182, 0, 204, 16, 32, 159, 0, 16, 42, 42, 180, 0, 201, 182, 0, 204, 16, 10, 160, 0, 16, 42, 89]
abbrev dktX4_goOn_1 : List UInt8 := dkwX4_goOn_1 ++ dktX4_goOn_2
def dkwX4_goOn_0 : List UInt8 := [42, 42, 180, 0, 198, 181, 0, 201, 42, 180, 0, 201, 42, 180, 0, 152, 162, 0, 42, 42, 42, 180, 0, 201]
abbrev dktX4_goOn_0 : List UInt8 := dkwX4_goOn_0 ++ dktX4_goOn_1
theorem dksX4_goOn_0 : cX4_goOn.data.toList.drop 0 = dktX4_goOn_0 := by decide +kernel
theorem dksX4_goOn_1 : cX4_goOn.data.toList.drop 24 = dktX4_goOn_1 := dk_seg dksX4_goOn_0 24 rfl rfl
theorem dksX4_goOn_2 : cX4_goOn.data.toList.drop 47 = dktX4_goOn_2 := dk_seg dksX4_goOn_1 23 rfl rfl
theorem dksX4_goOn_3 : cX4_goOn.data.toList.drop 69 = dktX4_goOn_3 := dk_seg dksX4_goOn_2 22 rfl rfl
theorem dksX4_goOn_4 : cX4_goOn.data.toList.drop 93 = dktX4_goOn_4 := dk_seg dksX4_goOn_3 24 rfl rfl
theorem dksX4_goOn_5 : cX4_goOn.data.toList.drop 116 = dktX4_goOn_5 := dk_seg dksX4_goOn_4 23 rfl rfl
theorem dksX4_goOn_6 : cX4_goOn.data.toList.drop 140 = dktX4_goOn_6 := dk_seg dksX4_goOn_5 24 rfl rfl
theorem dksX4_goOn_7 : cX4_goOn.data.toList.drop 164 = dktX4_goOn_7 := dk_seg dksX4_goOn_6 24 rfl rfl
theorem dksX4_goOn_8 : cX4_goOn.data.toList.drop 188 = dktX4_goOn_8 := dk_seg dksX4_goOn_7 24 rfl rfl
theorem dksX4_goOn_9 : cX4_goOn.data.toList.drop 211 = dktX4_goOn_9 := dk_seg dksX4_goOn_8 23 rfl rfl
theorem dksX4_goOn_10 : cX4_goOn.data.toList.drop 233 = dktX4_goOn_10 := dk_seg dksX4_goOn_9 22 rfl rfl
theorem dksX4_goOn_11 : cX4_goOn.data.toList.drop 256 = dktX4_goOn_11 := dk_seg dksX4_goOn_10 23 rfl rfl
theorem dksX4_goOn_12 : cX4_goOn.data.toList.drop 278 = dktX4_goOn_12 := dk_seg dksX4_goOn_11 22 rfl rfl
theorem dksX4_goOn_13 : cX4_goOn.data.toList.drop 302 = dktX4_goOn_13 := dk_seg dksX4_goOn_12 24 rfl rfl
theorem dksX4_goOn_14 : cX4_goOn.data.toList.drop 324 = dktX4_goOn_14 := dk_seg dksX4_goOn_13 22 rfl rfl
theorem dksX4_goOn_15 : cX4_goOn.data.toList.drop 347 = dktX4_goOn_15 := dk_seg dksX4_goOn_14 23 rfl rfl
theorem dksX4_goOn_16 : cX4_goOn.data.toList.drop 370 = dktX4_goOn_16 := dk_seg dksX4_goOn_15 23 rfl rfl
theorem dX4_goOn_0 : decode cX4_goOn 0 = .ok (.aload_n 0, 1) := dk_42 (dk_at dksX4_goOn_0 0 rfl rfl)
theorem dX4_goOn_1 : decode cX4_goOn 1 = .ok (.aload_n 0, 1) := dk_42 (dk_at dksX4_goOn_0 1 rfl rfl)
theorem dX4_goOn_2 : decode cX4_goOn 2 = .ok (.getfield 198, 3) := dk_180 0 198 (dk_at dksX4_goOn_0 2 rfl rfl)
theorem dX4_goOn_5 : decode cX4_goOn 5 = .ok (.putfield 201, 3) := dk_181 0 201 (dk_at dksX4_goOn_0 5 rfl rfl)
theorem dX4_goOn_8 : decode cX4_goOn 8 = .ok (.aload_n 0, 1) := dk_42 (dk_at dksX4_goOn_0 8 rfl rfl)
theorem dX4_goOn_9 : decode cX4_goOn 9 = .ok (.getfield 201, 3) := dk_180 0 201 (dk_at dksX4_goOn_0 9 rfl rfl)
theorem dX4_goOn_12 : decode cX4_goOn 12 = .ok (.aload_n 0, 1) := dk_42 (dk_at dksX4_goOn_0 12 rfl rfl)
theorem dX4_goOn_13 : decode cX4_goOn 13 = .ok (.getfield 152, 3) := dk_180 0 152 (dk_at dksX4_goOn_0 13 rfl rfl)
theorem dX4_goOn_16 : decode cX4_goOn 16 = .ok (.if_icmp .ge 42, 3) := dk_162 0 42 (dk_at dksX4_goOn_0 16 rfl rfl)
theorem dX4_goOn_19 : decode cX4_goOn 19 = .ok (.aload_n 0, 1) := dk_42 (dk_at dksX4_goOn_0 19 rfl rfl)
theorem dX4_goOn_20 : decode cX4_goOn 20 = .ok (.aload_n 0, 1) := dk_42 (dk_at dksX4_goOn_0 20 rfl rfl)
theorem dX4_goOn_21 : decode cX4_goOn 21 = .ok (.getfield 201, 3) := dk_180 0 201 (dk_at dksX4_goOn_0 21 rfl rfl)
theorem dX4_goOn_24 : decode cX4_goOn 24 = .ok (.invokevirtual 204, 3) := dk_182 0 204 (dk_at dksX4_goOn_1 0 rfl rfl)
theorem dX4_goOn_27 : decode cX4_goOn 27 = .ok (.bipush 32, 2) := dk_16 32 (dk_at dksX4_goOn_1 3 rfl rfl)
theorem dX4_goOn_29 : decode cX4_goOn 29 = .ok (.if_icmp .eq 16, 3) := dk_159 0 16 (dk_at dksX4_goOn_1 5 rfl rfl)
theorem dX4_goOn_32 : decode cX4_goOn 32 = .ok (.aload_n 0, 1) := dk_42 (dk_at dksX4_goOn_1 8 rfl rfl)
theorem dX4_goOn_33 : decode cX4_goOn 33 = .ok (.aload_n 0, 1) := dk_42 (dk_at dksX4_goOn_1 9 rfl rfl)
theorem dX4_goOn_34 : decode cX4_goOn 34 = .ok (.getfield 201, 3) := dk_180 0 201 (dk_at dksX4_goOn_1 10 rfl rfl)
theorem dX4_goOn_37 : decode cX4_goOn 37 = .ok (.invokevirtual 204, 3) := dk_182 0 204 (dk_at dksX4_goOn_1 13 rfl rfl)
theorem dX4_goOn_40 : decode cX4_goOn 40 = .ok (.bipush 10, 2) := dk_16 10 (dk_at dksX4_goOn_1 16 rfl rfl)
theorem dX4_goOn_42 : decode cX4_goOn 42 = .ok (.if_icmp .ne 16, 3) := dk_160 0 16 (dk_at dksX4_goOn_1 18 rfl rfl)
theorem dX4_goOn_45 : decode cX4_goOn 45 = .ok (.aload_n 0, 1) := dk_42 (dk_at dksX4_goOn_1 21 rfl rfl)
theorem dX4_goOn_46 : decode cX4_goOn 46 = .ok (.dup, 1) := dk_89 (dk_at dksX4_goOn_1 22 rfl rfl)
theorem dX4_goOn_47 : decode cX4_goOn 47 = .ok (.getfield 201, 3) := dk_180 0 201 (dk_at dksX4_goOn_2 0 rfl rfl)
theorem dX4_goOn_50 : decode cX4_goOn 50 = .ok (.iconst 1, 1) := dk_4 (dk_at dksX4_goOn_2 3 rfl rfl)
theorem dX4_goOn_51 : decode cX4_goOn 51 = .ok (.iadd, 1) := dk_96 (dk_at dksX4_goOn_2 4 rfl rfl)
theorem dX4_goOn_52 : decode cX4_goOn 52 = .ok (.putfield 201, 3) := dk_181 0 201 (dk_at dksX4_goOn_2 5 rfl rfl)
theorem dX4_goOn_55 : decode cX4_goOn 55 = .ok (.goto (-47), 3) := dk_167 255 209 (dk_at dksX4_goOn_2 8 rfl rfl)
theorem dX4_goOn_58 : decode cX4_goOn 58 = .ok (.aload_n 0, 1) := dk_42 (dk_at dksX4_goOn_2 11 rfl rfl)
theorem dX4_goOn_59 : decode cX4_goOn 59 = .ok (.aload_n 0, 1) := dk_42 (dk_at dksX4_goOn_2 12 rfl rfl)
theorem dX4_goOn_60 : decode cX4_goOn 60 = .ok (.getfield 201, 3) := dk_180 0 201 (dk_at dksX4_goOn_2 13 rfl rfl)
theorem dX4_goOn_63 : decode cX4_goOn 63 = .ok (.invokevirtual 204, 3) := dk_182 0 204 (dk_at dksX4_goOn_2 16 rfl rfl)
theorem dX4_goOn_66 : decode cX4_goOn 66 = .ok (.istore_n 1, 1) := dk_60 (dk_at dksX4_goOn_2 19 rfl rfl)
theorem dX4_goOn_67 : decode cX4_goOn 67 = .ok (.aload_n 0, 1) := dk_42 (dk_at dksX4_goOn_2 20 rfl rfl)
theorem dX4_goOn_68 : decode cX4_goOn 68 = .ok (.aload_n 0, 1) := dk_42 (dk_at dksX4_goOn_2 21 rfl rfl)
theorem dX4_goOn_69 : decode cX4_goOn 69 = .ok (.getfield 201, 3) := dk_180 0 201 (dk_at dksX4_goOn_3 0 rfl rfl)
theorem dX4_goOn_72 : decode cX4_goOn 72 = .ok (.iconst 1, 1) := dk_4 (dk_at dksX4_goOn_3 3 rfl rfl)
theorem dX4_goOn_73 : decode cX4_goOn 73 = .ok (.iadd, 1) := dk_96 (dk_at dksX4_goOn_3 4 rfl rfl)
theorem dX4_goOn_74 : decode cX4_goOn 74 = .ok (.putfield 198, 3) := dk_181 0 198 (dk_at dksX4_goOn_3 5 rfl rfl)
theorem dX4_goOn_77 : decode cX4_goOn 77 = .ok (.aload_n 0, 1) := dk_42 (dk_at dksX4_goOn_3 8 rfl rfl)
theorem dX4_goOn_78 : decode cX4_goOn 78 = .ok (.getfield 201, 3) := dk_180 0 201 (dk_at dksX4_goOn_3 9 rfl rfl)
theorem dX4_goOn_81 : decode cX4_goOn 81 = .ok (.aload_n 0, 1) := dk_42 (dk_at dksX4_goOn_3 12 rfl rfl)
theorem dX4_goOn_82 : decode cX4_goOn 82 = .ok (.getfield 152, 3) := dk_180 0 152 (dk_at dksX4_goOn_3 13 rfl rfl)
theorem dX4_goOn_85 : decode cX4_goOn 85 = .ok (.if_icmp .lt 27, 3) := dk_161 0 27 (dk_at dksX4_goOn_3 16 rfl rfl)
theorem dX4_goOn_88 : decode cX4_goOn 88 = .ok (.aload_n 0, 1) := dk_42 (dk_at dksX4_goOn_3 19 rfl rfl)
theorem dX4_goOn_89 : decode cX4_goOn 89 = .ok (.iconst 0, 1) := dk_3 (dk_at dksX4_goOn_3 20 rfl rfl)
theorem dX4_goOn_90 : decode cX4_goOn 90 = .ok (.putfield 208, 3) := dk_181 0 208 (dk_at dksX4_goOn_3 21 rfl rfl)
theorem dX4_goOn_93 : decode cX4_goOn 93 = .ok (.aload_n 0, 1) := dk_42 (dk_at dksX4_goOn_4 0 rfl rfl)
theorem dX4_goOn_94 : decode cX4_goOn 94 = .ok (.aload_n 0, 1) := dk_42 (dk_at dksX4_goOn_4 1 rfl rfl)
theorem dX4_goOn_95 : decode cX4_goOn 95 = .ok (.getfield 152, 3) := dk_180 0 152 (dk_at dksX4_goOn_4 2 rfl rfl)
theorem dX4_goOn_98 : decode cX4_goOn 98 = .ok (.putfield 201, 3) := dk_181 0 201 (dk_at dksX4_goOn_4 5 rfl rfl)
theorem dX4_goOn_101 : decode cX4_goOn 101 = .ok (.aload_n 0, 1) := dk_42 (dk_at dksX4_goOn_4 8 rfl rfl)
theorem dX4_goOn_102 : decode cX4_goOn 102 = .ok (.aload_n 0, 1) := dk_42 (dk_at dksX4_goOn_4 9 rfl rfl)
theorem dX4_goOn_103 : decode cX4_goOn 103 = .ok (.getfield 152, 3) := dk_180 0 152 (dk_at dksX4_goOn_4 10 rfl rfl)
theorem dX4_goOn_106 : decode cX4_goOn 106 = .ok (.putfield 198, 3) := dk_181 0 198 (dk_at dksX4_goOn_4 13 rfl rfl)
theorem dX4_goOn_109 : decode cX4_goOn 109 = .ok (.goto 268, 3) := dk_167 1 12 (dk_at dksX4_goOn_4 16 rfl rfl)
theorem dX4_goOn_112 : decode cX4_goOn 112 = .ok (.iload_n 1, 1) := dk_27 (dk_at dksX4_goOn_4 19 rfl rfl)
theorem dX4_goOn_113 : decode cX4_goOn 113 = .ok (.invokestatic 211, 3) := dk_184 0 211 (dk_at dksX4_goOn_4 20 rfl rfl)
theorem dX4_goOn_116 : decode cX4_goOn 116 = .ok (.ifCond .eq 123, 3) := dk_153 0 123 (dk_at dksX4_goOn_5 0 rfl rfl)
theorem dX4_goOn_119 : decode cX4_goOn 119 = .ok (.aload_n 0, 1) := dk_42 (dk_at dksX4_goOn_5 3 rfl rfl)
theorem dX4_goOn_120 : decode cX4_goOn 120 = .ok (.aload_n 0, 1) := dk_42 (dk_at dksX4_goOn_5 4 rfl rfl)
theorem dX4_goOn_121 : decode cX4_goOn 121 = .ok (.getfield 198, 3) := dk_180 0 198 (dk_at dksX4_goOn_5 5 rfl rfl)
theorem dX4_goOn_124 : decode cX4_goOn 124 = .ok (.invokevirtual 204, 3) := dk_182 0 204 (dk_at dksX4_goOn_5 8 rfl rfl)
theorem dX4_goOn_127 : decode cX4_goOn 127 = .ok (.invokestatic 211, 3) := dk_184 0 211 (dk_at dksX4_goOn_5 11 rfl rfl)
theorem dX4_goOn_130 : decode cX4_goOn 130 = .ok (.ifCond .eq 16, 3) := dk_153 0 16 (dk_at dksX4_goOn_5 14 rfl rfl)
theorem dX4_goOn_133 : decode cX4_goOn 133 = .ok (.aload_n 0, 1) := dk_42 (dk_at dksX4_goOn_5 17 rfl rfl)
theorem dX4_goOn_134 : decode cX4_goOn 134 = .ok (.dup, 1) := dk_89 (dk_at dksX4_goOn_5 18 rfl rfl)
theorem dX4_goOn_135 : decode cX4_goOn 135 = .ok (.getfield 198, 3) := dk_180 0 198 (dk_at dksX4_goOn_5 19 rfl rfl)
theorem dX4_goOn_138 : decode cX4_goOn 138 = .ok (.iconst 1, 1) := dk_4 (dk_at dksX4_goOn_5 22 rfl rfl)
theorem dX4_goOn_139 : decode cX4_goOn 139 = .ok (.iadd, 1) := dk_96 (dk_at dksX4_goOn_5 23 rfl rfl)
theorem dX4_goOn_140 : decode cX4_goOn 140 = .ok (.putfield 198, 3) := dk_181 0 198 (dk_at dksX4_goOn_6 0 rfl rfl)
theorem dX4_goOn_143 : decode cX4_goOn 143 = .ok (.goto (-24), 3) := dk_167 255 232 (dk_at dksX4_goOn_6 3 rfl rfl)
theorem dX4_goOn_146 : decode cX4_goOn 146 = .ok (.aload_n 0, 1) := dk_42 (dk_at dksX4_goOn_6 6 rfl rfl)
theorem dX4_goOn_147 : decode cX4_goOn 147 = .ok (.lconst 0, 1) := dk_9 (dk_at dksX4_goOn_6 7 rfl rfl)
theorem dX4_goOn_148 : decode cX4_goOn 148 = .ok (.putfield 215, 3) := dk_181 0 215 (dk_at dksX4_goOn_6 8 rfl rfl)
theorem dX4_goOn_151 : decode cX4_goOn 151 = .ok (.aload_n 0, 1) := dk_42 (dk_at dksX4_goOn_6 11 rfl rfl)
theorem dX4_goOn_152 : decode cX4_goOn 152 = .ok (.getfield 201, 3) := dk_180 0 201 (dk_at dksX4_goOn_6 12 rfl rfl)
theorem dX4_goOn_155 : decode cX4_goOn 155 = .ok (.istore_n 2, 1) := dk_61 (dk_at dksX4_goOn_6 15 rfl rfl)
theorem dX4_goOn_156 : decode cX4_goOn 156 = .ok (.iload_n 2, 1) := dk_28 (dk_at dksX4_goOn_6 16 rfl rfl)
theorem dX4_goOn_157 : decode cX4_goOn 157 = .ok (.aload_n 0, 1) := dk_42 (dk_at dksX4_goOn_6 17 rfl rfl)
theorem dX4_goOn_158 : decode cX4_goOn 158 = .ok (.getfield 198, 3) := dk_180 0 198 (dk_at dksX4_goOn_6 18 rfl rfl)
theorem dX4_goOn_161 : decode cX4_goOn 161 = .ok (.if_icmp .ge 38, 3) := dk_162 0 38 (dk_at dksX4_goOn_6 21 rfl rfl)
theorem dX4_goOn_164 : decode cX4_goOn 164 = .ok (.iload_n 2, 1) := dk_28 (dk_at dksX4_goOn_7 0 rfl rfl)
theorem dX4_goOn_165 : decode cX4_goOn 165 = .ok (.aload_n 0, 1) := dk_42 (dk_at dksX4_goOn_7 1 rfl rfl)
theorem dX4_goOn_166 : decode cX4_goOn 166 = .ok (.getfield 201, 3) := dk_180 0 201 (dk_at dksX4_goOn_7 2 rfl rfl)
theorem dX4_goOn_169 : decode cX4_goOn 169 = .ok (.bipush 8, 2) := dk_16 8 (dk_at dksX4_goOn_7 5 rfl rfl)
theorem dX4_goOn_171 : decode cX4_goOn 171 = .ok (.iadd, 1) := dk_96 (dk_at dksX4_goOn_7 7 rfl rfl)
theorem dX4_goOn_172 : decode cX4_goOn 172 = .ok (.if_icmp .ge 27, 3) := dk_162 0 27 (dk_at dksX4_goOn_7 8 rfl rfl)
theorem dX4_goOn_175 : decode cX4_goOn 175 = .ok (.aload_n 0, 1) := dk_42 (dk_at dksX4_goOn_7 11 rfl rfl)
theorem dX4_goOn_176 : decode cX4_goOn 176 = .ok (.aload_n 0, 1) := dk_42 (dk_at dksX4_goOn_7 12 rfl rfl)
theorem dX4_goOn_177 : decode cX4_goOn 177 = .ok (.getfield 215, 3) := dk_180 0 215 (dk_at dksX4_goOn_7 13 rfl rfl)
theorem dX4_goOn_180 : decode cX4_goOn 180 = .ok (.bipush 8, 2) := dk_16 8 (dk_at dksX4_goOn_7 16 rfl rfl)
theorem dX4_goOn_182 : decode cX4_goOn 182 = .ok (.lshl, 1) := dk_121 (dk_at dksX4_goOn_7 18 rfl rfl)
theorem dX4_goOn_183 : decode cX4_goOn 183 = .ok (.aload_n 0, 1) := dk_42 (dk_at dksX4_goOn_7 19 rfl rfl)
theorem dX4_goOn_184 : decode cX4_goOn 184 = .ok (.iload_n 2, 1) := dk_28 (dk_at dksX4_goOn_7 20 rfl rfl)
theorem dX4_goOn_185 : decode cX4_goOn 185 = .ok (.invokevirtual 204, 3) := dk_182 0 204 (dk_at dksX4_goOn_7 21 rfl rfl)
theorem dX4_goOn_188 : decode cX4_goOn 188 = .ok (.i2l, 1) := dk_133 (dk_at dksX4_goOn_8 0 rfl rfl)
theorem dX4_goOn_189 : decode cX4_goOn 189 = .ok (.lor, 1) := dk_129 (dk_at dksX4_goOn_8 1 rfl rfl)
theorem dX4_goOn_190 : decode cX4_goOn 190 = .ok (.putfield 215, 3) := dk_181 0 215 (dk_at dksX4_goOn_8 2 rfl rfl)
theorem dX4_goOn_193 : decode cX4_goOn 193 = .ok (.iinc 2 1, 3) := dk_132 2 1 (dk_at dksX4_goOn_8 5 rfl rfl)
theorem dX4_goOn_196 : decode cX4_goOn 196 = .ok (.goto (-40), 3) := dk_167 255 216 (dk_at dksX4_goOn_8 8 rfl rfl)
theorem dX4_goOn_199 : decode cX4_goOn 199 = .ok (.aload_n 0, 1) := dk_42 (dk_at dksX4_goOn_8 11 rfl rfl)
theorem dX4_goOn_200 : decode cX4_goOn 200 = .ok (.aload_n 0, 1) := dk_42 (dk_at dksX4_goOn_8 12 rfl rfl)
theorem dX4_goOn_201 : decode cX4_goOn 201 = .ok (.getfield 198, 3) := dk_180 0 198 (dk_at dksX4_goOn_8 13 rfl rfl)
theorem dX4_goOn_204 : decode cX4_goOn 204 = .ok (.aload_n 0, 1) := dk_42 (dk_at dksX4_goOn_8 16 rfl rfl)
theorem dX4_goOn_205 : decode cX4_goOn 205 = .ok (.getfield 201, 3) := dk_180 0 201 (dk_at dksX4_goOn_8 17 rfl rfl)
theorem dX4_goOn_208 : decode cX4_goOn 208 = .ok (.isub, 1) := dk_100 (dk_at dksX4_goOn_8 20 rfl rfl)
theorem dX4_goOn_209 : decode cX4_goOn 209 = .ok (.bipush 8, 2) := dk_16 8 (dk_at dksX4_goOn_8 21 rfl rfl)
theorem dX4_goOn_211 : decode cX4_goOn 211 = .ok (.if_icmp .le 7, 3) := dk_164 0 7 (dk_at dksX4_goOn_9 0 rfl rfl)
theorem dX4_goOn_214 : decode cX4_goOn 214 = .ok (.iconst 1, 1) := dk_4 (dk_at dksX4_goOn_9 3 rfl rfl)
theorem dX4_goOn_215 : decode cX4_goOn 215 = .ok (.goto 18, 3) := dk_167 0 18 (dk_at dksX4_goOn_9 4 rfl rfl)
theorem dX4_goOn_218 : decode cX4_goOn 218 = .ok (.aload_n 0, 1) := dk_42 (dk_at dksX4_goOn_9 7 rfl rfl)
theorem dX4_goOn_219 : decode cX4_goOn 219 = .ok (.getfield 215, 3) := dk_180 0 215 (dk_at dksX4_goOn_9 8 rfl rfl)
theorem dX4_goOn_222 : decode cX4_goOn 222 = .ok (.invokestatic 219, 3) := dk_184 0 219 (dk_at dksX4_goOn_9 11 rfl rfl)
theorem dX4_goOn_225 : decode cX4_goOn 225 = .ok (.ifCond .eq 7, 3) := dk_153 0 7 (dk_at dksX4_goOn_9 14 rfl rfl)
theorem dX4_goOn_228 : decode cX4_goOn 228 = .ok (.iconst 3, 1) := dk_6 (dk_at dksX4_goOn_9 17 rfl rfl)
theorem dX4_goOn_229 : decode cX4_goOn 229 = .ok (.goto 4, 3) := dk_167 0 4 (dk_at dksX4_goOn_9 18 rfl rfl)
theorem dX4_goOn_232 : decode cX4_goOn 232 = .ok (.iconst 2, 1) := dk_5 (dk_at dksX4_goOn_9 21 rfl rfl)
theorem dX4_goOn_233 : decode cX4_goOn 233 = .ok (.putfield 208, 3) := dk_181 0 208 (dk_at dksX4_goOn_10 0 rfl rfl)
theorem dX4_goOn_236 : decode cX4_goOn 236 = .ok (.goto 141, 3) := dk_167 0 141 (dk_at dksX4_goOn_10 3 rfl rfl)
theorem dX4_goOn_239 : decode cX4_goOn 239 = .ok (.iload_n 1, 1) := dk_27 (dk_at dksX4_goOn_10 6 rfl rfl)
theorem dX4_goOn_240 : decode cX4_goOn 240 = .ok (.invokestatic 223, 3) := dk_184 0 223 (dk_at dksX4_goOn_10 7 rfl rfl)
theorem dX4_goOn_243 : decode cX4_goOn 243 = .ok (.ifCond .eq 118, 3) := dk_153 0 118 (dk_at dksX4_goOn_10 10 rfl rfl)
theorem dX4_goOn_246 : decode cX4_goOn 246 = .ok (.aload_n 0, 1) := dk_42 (dk_at dksX4_goOn_10 13 rfl rfl)
theorem dX4_goOn_247 : decode cX4_goOn 247 = .ok (.iconst 0, 1) := dk_3 (dk_at dksX4_goOn_10 14 rfl rfl)
theorem dX4_goOn_248 : decode cX4_goOn 248 = .ok (.putfield 226, 3) := dk_181 0 226 (dk_at dksX4_goOn_10 15 rfl rfl)
theorem dX4_goOn_251 : decode cX4_goOn 251 = .ok (.aload_n 0, 1) := dk_42 (dk_at dksX4_goOn_10 18 rfl rfl)
theorem dX4_goOn_252 : decode cX4_goOn 252 = .ok (.aload_n 0, 1) := dk_42 (dk_at dksX4_goOn_10 19 rfl rfl)
theorem dX4_goOn_253 : decode cX4_goOn 253 = .ok (.getfield 201, 3) := dk_180 0 201 (dk_at dksX4_goOn_10 20 rfl rfl)
theorem dX4_goOn_256 : decode cX4_goOn 256 = .ok (.putfield 198, 3) := dk_181 0 198 (dk_at dksX4_goOn_11 0 rfl rfl)
theorem dX4_goOn_259 : decode cX4_goOn 259 = .ok (.aload_n 0, 1) := dk_42 (dk_at dksX4_goOn_11 3 rfl rfl)
theorem dX4_goOn_260 : decode cX4_goOn 260 = .ok (.aload_n 0, 1) := dk_42 (dk_at dksX4_goOn_11 4 rfl rfl)
theorem dX4_goOn_261 : decode cX4_goOn 261 = .ok (.getfield 198, 3) := dk_180 0 198 (dk_at dksX4_goOn_11 5 rfl rfl)
theorem dX4_goOn_264 : decode cX4_goOn 264 = .ok (.invokevirtual 204, 3) := dk_182 0 204 (dk_at dksX4_goOn_11 8 rfl rfl)
theorem dX4_goOn_267 : decode cX4_goOn 267 = .ok (.invokestatic 223, 3) := dk_184 0 223 (dk_at dksX4_goOn_11 11 rfl rfl)
theorem dX4_goOn_270 : decode cX4_goOn 270 = .ok (.ifCond .eq 52, 3) := dk_153 0 52 (dk_at dksX4_goOn_11 14 rfl rfl)
theorem dX4_goOn_273 : decode cX4_goOn 273 = .ok (.aload_n 0, 1) := dk_42 (dk_at dksX4_goOn_11 17 rfl rfl)
theorem dX4_goOn_274 : decode cX4_goOn 274 = .ok (.getfield 198, 3) := dk_180 0 198 (dk_at dksX4_goOn_11 18 rfl rfl)
theorem dX4_goOn_277 : decode cX4_goOn 277 = .ok (.aload_n 0, 1) := dk_42 (dk_at dksX4_goOn_11 21 rfl rfl)
theorem dX4_goOn_278 : decode cX4_goOn 278 = .ok (.getfield 201, 3) := dk_180 0 201 (dk_at dksX4_goOn_12 0 rfl rfl)
theorem dX4_goOn_281 : decode cX4_goOn 281 = .ok (.isub, 1) := dk_100 (dk_at dksX4_goOn_12 3 rfl rfl)
theorem dX4_goOn_282 : decode cX4_goOn 282 = .ok (.iconst 4, 1) := dk_7 (dk_at dksX4_goOn_12 4 rfl rfl)
theorem dX4_goOn_283 : decode cX4_goOn 283 = .ok (.if_icmp .ge 26, 3) := dk_162 0 26 (dk_at dksX4_goOn_12 5 rfl rfl)
theorem dX4_goOn_286 : decode cX4_goOn 286 = .ok (.aload_n 0, 1) := dk_42 (dk_at dksX4_goOn_12 8 rfl rfl)
theorem dX4_goOn_287 : decode cX4_goOn 287 = .ok (.bipush 10, 2) := dk_16 10 (dk_at dksX4_goOn_12 9 rfl rfl)
theorem dX4_goOn_289 : decode cX4_goOn 289 = .ok (.aload_n 0, 1) := dk_42 (dk_at dksX4_goOn_12 11 rfl rfl)
theorem dX4_goOn_290 : decode cX4_goOn 290 = .ok (.getfield 226, 3) := dk_180 0 226 (dk_at dksX4_goOn_12 12 rfl rfl)
theorem dX4_goOn_293 : decode cX4_goOn 293 = .ok (.imul, 1) := dk_104 (dk_at dksX4_goOn_12 15 rfl rfl)
theorem dX4_goOn_294 : decode cX4_goOn 294 = .ok (.aload_n 0, 1) := dk_42 (dk_at dksX4_goOn_12 16 rfl rfl)
theorem dX4_goOn_295 : decode cX4_goOn 295 = .ok (.aload_n 0, 1) := dk_42 (dk_at dksX4_goOn_12 17 rfl rfl)
theorem dX4_goOn_296 : decode cX4_goOn 296 = .ok (.getfield 198, 3) := dk_180 0 198 (dk_at dksX4_goOn_12 18 rfl rfl)
theorem dX4_goOn_299 : decode cX4_goOn 299 = .ok (.invokevirtual 204, 3) := dk_182 0 204 (dk_at dksX4_goOn_12 21 rfl rfl)
theorem dX4_goOn_302 : decode cX4_goOn 302 = .ok (.iadd, 1) := dk_96 (dk_at dksX4_goOn_13 0 rfl rfl)
theorem dX4_goOn_303 : decode cX4_goOn 303 = .ok (.bipush 48, 2) := dk_16 48 (dk_at dksX4_goOn_13 1 rfl rfl)
theorem dX4_goOn_305 : decode cX4_goOn 305 = .ok (.isub, 1) := dk_100 (dk_at dksX4_goOn_13 3 rfl rfl)
theorem dX4_goOn_306 : decode cX4_goOn 306 = .ok (.putfield 226, 3) := dk_181 0 226 (dk_at dksX4_goOn_13 4 rfl rfl)
theorem dX4_goOn_309 : decode cX4_goOn 309 = .ok (.aload_n 0, 1) := dk_42 (dk_at dksX4_goOn_13 7 rfl rfl)
theorem dX4_goOn_310 : decode cX4_goOn 310 = .ok (.dup, 1) := dk_89 (dk_at dksX4_goOn_13 8 rfl rfl)
theorem dX4_goOn_311 : decode cX4_goOn 311 = .ok (.getfield 198, 3) := dk_180 0 198 (dk_at dksX4_goOn_13 9 rfl rfl)
theorem dX4_goOn_314 : decode cX4_goOn 314 = .ok (.iconst 1, 1) := dk_4 (dk_at dksX4_goOn_13 12 rfl rfl)
theorem dX4_goOn_315 : decode cX4_goOn 315 = .ok (.iadd, 1) := dk_96 (dk_at dksX4_goOn_13 13 rfl rfl)
theorem dX4_goOn_316 : decode cX4_goOn 316 = .ok (.putfield 198, 3) := dk_181 0 198 (dk_at dksX4_goOn_13 14 rfl rfl)
theorem dX4_goOn_319 : decode cX4_goOn 319 = .ok (.goto (-60), 3) := dk_167 255 196 (dk_at dksX4_goOn_13 17 rfl rfl)
theorem dX4_goOn_322 : decode cX4_goOn 322 = .ok (.aload_n 0, 1) := dk_42 (dk_at dksX4_goOn_13 20 rfl rfl)
theorem dX4_goOn_323 : decode cX4_goOn 323 = .ok (.aload_n 0, 1) := dk_42 (dk_at dksX4_goOn_13 21 rfl rfl)
theorem dX4_goOn_324 : decode cX4_goOn 324 = .ok (.getfield 198, 3) := dk_180 0 198 (dk_at dksX4_goOn_14 0 rfl rfl)
theorem dX4_goOn_327 : decode cX4_goOn 327 = .ok (.aload_n 0, 1) := dk_42 (dk_at dksX4_goOn_14 3 rfl rfl)
theorem dX4_goOn_328 : decode cX4_goOn 328 = .ok (.getfield 201, 3) := dk_180 0 201 (dk_at dksX4_goOn_14 4 rfl rfl)
theorem dX4_goOn_331 : decode cX4_goOn 331 = .ok (.isub, 1) := dk_100 (dk_at dksX4_goOn_14 7 rfl rfl)
theorem dX4_goOn_332 : decode cX4_goOn 332 = .ok (.iconst 4, 1) := dk_7 (dk_at dksX4_goOn_14 8 rfl rfl)
theorem dX4_goOn_333 : decode cX4_goOn 333 = .ok (.if_icmp .gt 17, 3) := dk_163 0 17 (dk_at dksX4_goOn_14 9 rfl rfl)
theorem dX4_goOn_336 : decode cX4_goOn 336 = .ok (.aload_n 0, 1) := dk_42 (dk_at dksX4_goOn_14 12 rfl rfl)
theorem dX4_goOn_337 : decode cX4_goOn 337 = .ok (.aload_n 0, 1) := dk_42 (dk_at dksX4_goOn_14 13 rfl rfl)
theorem dX4_goOn_338 : decode cX4_goOn 338 = .ok (.getfield 198, 3) := dk_180 0 198 (dk_at dksX4_goOn_14 14 rfl rfl)
theorem dX4_goOn_341 : decode cX4_goOn 341 = .ok (.invokevirtual 204, 3) := dk_182 0 204 (dk_at dksX4_goOn_14 17 rfl rfl)
theorem dX4_goOn_344 : decode cX4_goOn 344 = .ok (.invokestatic 211, 3) := dk_184 0 211 (dk_at dksX4_goOn_14 20 rfl rfl)
theorem dX4_goOn_347 : decode cX4_goOn 347 = .ok (.ifCond .eq 7, 3) := dk_153 0 7 (dk_at dksX4_goOn_15 0 rfl rfl)
theorem dX4_goOn_350 : decode cX4_goOn 350 = .ok (.iconst 1, 1) := dk_4 (dk_at dksX4_goOn_15 3 rfl rfl)
theorem dX4_goOn_351 : decode cX4_goOn 351 = .ok (.goto 4, 3) := dk_167 0 4 (dk_at dksX4_goOn_15 4 rfl rfl)
theorem dX4_goOn_354 : decode cX4_goOn 354 = .ok (.iconst 4, 1) := dk_7 (dk_at dksX4_goOn_15 7 rfl rfl)
theorem dX4_goOn_355 : decode cX4_goOn 355 = .ok (.putfield 208, 3) := dk_181 0 208 (dk_at dksX4_goOn_15 8 rfl rfl)
theorem dX4_goOn_358 : decode cX4_goOn 358 = .ok (.goto 19, 3) := dk_167 0 19 (dk_at dksX4_goOn_15 11 rfl rfl)
theorem dX4_goOn_361 : decode cX4_goOn 361 = .ok (.aload_n 0, 1) := dk_42 (dk_at dksX4_goOn_15 14 rfl rfl)
theorem dX4_goOn_362 : decode cX4_goOn 362 = .ok (.iload_n 1, 1) := dk_27 (dk_at dksX4_goOn_15 15 rfl rfl)
theorem dX4_goOn_363 : decode cX4_goOn 363 = .ok (.invokestatic 229, 3) := dk_184 0 229 (dk_at dksX4_goOn_15 16 rfl rfl)
theorem dX4_goOn_366 : decode cX4_goOn 366 = .ok (.ifCond .eq 7, 3) := dk_153 0 7 (dk_at dksX4_goOn_15 19 rfl rfl)
theorem dX4_goOn_369 : decode cX4_goOn 369 = .ok (.iconst 5, 1) := dk_8 (dk_at dksX4_goOn_15 22 rfl rfl)
theorem dX4_goOn_370 : decode cX4_goOn 370 = .ok (.goto 4, 3) := dk_167 0 4 (dk_at dksX4_goOn_16 0 rfl rfl)
theorem dX4_goOn_373 : decode cX4_goOn 373 = .ok (.iconst 1, 1) := dk_4 (dk_at dksX4_goOn_16 3 rfl rfl)
theorem dX4_goOn_374 : decode cX4_goOn 374 = .ok (.putfield 208, 3) := dk_181 0 208 (dk_at dksX4_goOn_16 4 rfl rfl)
theorem dX4_goOn_377 : decode cX4_goOn 377 = .ok (.return_, 1) := dk_177 (dk_at dksX4_goOn_16 7 rfl rfl)
abbrev cX4_sign : ByteArray := prog_22_method_2_code
def yX4_sign : MethodName := ⟨RX4, "sign", "(I)I"⟩
def dkwX4_sign_0 : List UInt8 := [27, 42, 180, 0, 152, 162, 0, 16, 42, 180, 0, 13, 27, 51, 17, 0, 255, 126, 167, 0, 4, 3, 172]
abbrev dktX4_sign_0 : List UInt8 := dkwX4_sign_0 ++ []
theorem dksX4_sign_0 : cX4_sign.data.toList.drop 0 = dktX4_sign_0 := by decide +kernel
theorem dX4_sign_0 : decode cX4_sign 0 = .ok (.iload_n 1, 1) := dk_27 (dk_at dksX4_sign_0 0 rfl rfl)
theorem dX4_sign_1 : decode cX4_sign 1 = .ok (.aload_n 0, 1) := dk_42 (dk_at dksX4_sign_0 1 rfl rfl)
theorem dX4_sign_2 : decode cX4_sign 2 = .ok (.getfield 152, 3) := dk_180 0 152 (dk_at dksX4_sign_0 2 rfl rfl)
theorem dX4_sign_5 : decode cX4_sign 5 = .ok (.if_icmp .ge 16, 3) := dk_162 0 16 (dk_at dksX4_sign_0 5 rfl rfl)
theorem dX4_sign_8 : decode cX4_sign 8 = .ok (.aload_n 0, 1) := dk_42 (dk_at dksX4_sign_0 8 rfl rfl)
theorem dX4_sign_9 : decode cX4_sign 9 = .ok (.getfield 13, 3) := dk_180 0 13 (dk_at dksX4_sign_0 9 rfl rfl)
theorem dX4_sign_12 : decode cX4_sign 12 = .ok (.iload_n 1, 1) := dk_27 (dk_at dksX4_sign_0 12 rfl rfl)
theorem dX4_sign_13 : decode cX4_sign 13 = .ok (.baload, 1) := dk_51 (dk_at dksX4_sign_0 13 rfl rfl)
theorem dX4_sign_14 : decode cX4_sign 14 = .ok (.sipush 255, 3) := dk_17 0 255 (dk_at dksX4_sign_0 14 rfl rfl)
theorem dX4_sign_17 : decode cX4_sign 17 = .ok (.iand, 1) := dk_126 (dk_at dksX4_sign_0 17 rfl rfl)
theorem dX4_sign_18 : decode cX4_sign 18 = .ok (.goto 4, 3) := dk_167 0 4 (dk_at dksX4_sign_0 18 rfl rfl)
theorem dX4_sign_21 : decode cX4_sign 21 = .ok (.iconst 0, 1) := dk_3 (dk_at dksX4_sign_0 21 rfl rfl)
theorem dX4_sign_22 : decode cX4_sign 22 = .ok (.ireturn, 1) := dk_172 (dk_at dksX4_sign_0 22 rfl rfl)
abbrev cX4_isLetter : ByteArray := prog_22_method_3_code
def yX4_isLetter : MethodName := ⟨RX4, "isLetter", "(I)Z"⟩
def dkwX4_isLetter_0 : List UInt8 := [26, 16, 97, 161, 0, 13, 26, 16, 122, 163, 0, 7, 4, 167, 0, 4, 3, 172]
abbrev dktX4_isLetter_0 : List UInt8 := dkwX4_isLetter_0 ++ []
theorem dksX4_isLetter_0 : cX4_isLetter.data.toList.drop 0 = dktX4_isLetter_0 := by decide +kernel
theorem dX4_isLetter_0 : decode cX4_isLetter 0 = .ok (.iload_n 0, 1) := dk_26 (dk_at dksX4_isLetter_0 0 rfl rfl)
theorem dX4_isLetter_1 : decode cX4_isLetter 1 = .ok (.bipush 97, 2) := dk_16 97 (dk_at dksX4_isLetter_0 1 rfl rfl)
theorem dX4_isLetter_3 : decode cX4_isLetter 3 = .ok (.if_icmp .lt 13, 3) := dk_161 0 13 (dk_at dksX4_isLetter_0 3 rfl rfl)
theorem dX4_isLetter_6 : decode cX4_isLetter 6 = .ok (.iload_n 0, 1) := dk_26 (dk_at dksX4_isLetter_0 6 rfl rfl)
theorem dX4_isLetter_7 : decode cX4_isLetter 7 = .ok (.bipush 122, 2) := dk_16 122 (dk_at dksX4_isLetter_0 7 rfl rfl)
theorem dX4_isLetter_9 : decode cX4_isLetter 9 = .ok (.if_icmp .gt 7, 3) := dk_163 0 7 (dk_at dksX4_isLetter_0 9 rfl rfl)
theorem dX4_isLetter_12 : decode cX4_isLetter 12 = .ok (.iconst 1, 1) := dk_4 (dk_at dksX4_isLetter_0 12 rfl rfl)
theorem dX4_isLetter_13 : decode cX4_isLetter 13 = .ok (.goto 4, 3) := dk_167 0 4 (dk_at dksX4_isLetter_0 13 rfl rfl)
theorem dX4_isLetter_16 : decode cX4_isLetter 16 = .ok (.iconst 0, 1) := dk_3 (dk_at dksX4_isLetter_0 16 rfl rfl)
theorem dX4_isLetter_17 : decode cX4_isLetter 17 = .ok (.ireturn, 1) := dk_172 (dk_at dksX4_isLetter_0 17 rfl rfl)
abbrev cX4_isKept : ByteArray := prog_22_method_7_code
def yX4_isKept : MethodName := ⟨RX4, "isKept", "(J)Z"⟩
def dkwX4_isKept_7 : List UInt8 := [154, 0, 7, 4, 167, 0, 4, 3, 172]
abbrev dktX4_isKept_7 : List UInt8 := dkwX4_isKept_7 ++ []
def dkwX4_isKept_6 : List UInt8 := [153, 0, 27, 30, 20, 0, 192, 148, 153, 0, 19, 30, 20, 0, 194, 148, 153, 0, 11, 30, 20, 0, 196, 148]
abbrev dktX4_isKept_6 : List UInt8 := dkwX4_isKept_6 ++ dktX4_isKept_7
def dkwX4_isKept_5 : List UInt8 := [153, 0, 51, 30, 20, 0, 186, 148, 153, 0, 43, 30, 20, 0, 188, 148, 153, 0, 35, 30, 20, 0, 190, 148]
abbrev dktX4_isKept_5 : List UInt8 := dkwX4_isKept_5 ++ dktX4_isKept_6
def dkwX4_isKept_4 : List UInt8 := [153, 0, 75, 30, 20, 0, 180, 148, 153, 0, 67, 30, 20, 0, 182, 148, 153, 0, 59, 30, 20, 0, 184, 148]
abbrev dktX4_isKept_4 : List UInt8 := dkwX4_isKept_4 ++ dktX4_isKept_5
def dkwX4_isKept_3 : List UInt8 := [30, 20, 0, 176, 148, 154, 0, 7, 4, 167, 0, 4, 3, 61, 28, 154, 0, 83, 30, 20, 0, 178, 148]
abbrev dktX4_isKept_3 : List UInt8 := dkwX4_isKept_3 ++ dktX4_isKept_4
def dkwX4_isKept_2 : List UInt8 := [30, 20, 0, 170, 148, 153, 0, 27, 30, 20, 0, 172, 148, 153, 0, 19, 30, 20, 0, 174, 148, 153, 0, 11]
abbrev dktX4_isKept_2 : List UInt8 := dkwX4_isKept_2 ++ dktX4_isKept_3
def dkwX4_isKept_1 : List UInt8 := [30, 20, 0, 164, 148, 153, 0, 51, 30, 20, 0, 166, 148, 153, 0, 43, 30, 20, 0, 168, 148, 153, 0, 35]
abbrev dktX4_isKept_1 : List UInt8 := dkwX4_isKept_1 ++ dktX4_isKept_2
def dkwX4_isKept_0 : List UInt8 := [30, 20, 0, 158, 148, 153, 0, 75, 30, 20, 0, 160, 148, 153, 0, 67, 30, 20, 0, 162, 148, 153, 0, 59]
abbrev dktX4_isKept_0 : List UInt8 := dkwX4_isKept_0 ++ dktX4_isKept_1
theorem dksX4_isKept_0 : cX4_isKept.data.toList.drop 0 = dktX4_isKept_0 := by decide +kernel
theorem dksX4_isKept_1 : cX4_isKept.data.toList.drop 24 = dktX4_isKept_1 := dk_seg dksX4_isKept_0 24 rfl rfl
theorem dksX4_isKept_2 : cX4_isKept.data.toList.drop 48 = dktX4_isKept_2 := dk_seg dksX4_isKept_1 24 rfl rfl
theorem dksX4_isKept_3 : cX4_isKept.data.toList.drop 72 = dktX4_isKept_3 := dk_seg dksX4_isKept_2 24 rfl rfl
theorem dksX4_isKept_4 : cX4_isKept.data.toList.drop 95 = dktX4_isKept_4 := dk_seg dksX4_isKept_3 23 rfl rfl
theorem dksX4_isKept_5 : cX4_isKept.data.toList.drop 119 = dktX4_isKept_5 := dk_seg dksX4_isKept_4 24 rfl rfl
theorem dksX4_isKept_6 : cX4_isKept.data.toList.drop 143 = dktX4_isKept_6 := dk_seg dksX4_isKept_5 24 rfl rfl
theorem dksX4_isKept_7 : cX4_isKept.data.toList.drop 167 = dktX4_isKept_7 := dk_seg dksX4_isKept_6 24 rfl rfl
theorem dX4_isKept_0 : decode cX4_isKept 0 = .ok (.lload_n 0, 1) := dk_30 (dk_at dksX4_isKept_0 0 rfl rfl)
theorem dX4_isKept_1 : decode cX4_isKept 1 = .ok (.ldc2_w 158, 3) := dk_20 0 158 (dk_at dksX4_isKept_0 1 rfl rfl)
theorem dX4_isKept_4 : decode cX4_isKept 4 = .ok (.lcmp, 1) := dk_148 (dk_at dksX4_isKept_0 4 rfl rfl)
theorem dX4_isKept_5 : decode cX4_isKept 5 = .ok (.ifCond .eq 75, 3) := dk_153 0 75 (dk_at dksX4_isKept_0 5 rfl rfl)
theorem dX4_isKept_8 : decode cX4_isKept 8 = .ok (.lload_n 0, 1) := dk_30 (dk_at dksX4_isKept_0 8 rfl rfl)
theorem dX4_isKept_9 : decode cX4_isKept 9 = .ok (.ldc2_w 160, 3) := dk_20 0 160 (dk_at dksX4_isKept_0 9 rfl rfl)
theorem dX4_isKept_12 : decode cX4_isKept 12 = .ok (.lcmp, 1) := dk_148 (dk_at dksX4_isKept_0 12 rfl rfl)
theorem dX4_isKept_13 : decode cX4_isKept 13 = .ok (.ifCond .eq 67, 3) := dk_153 0 67 (dk_at dksX4_isKept_0 13 rfl rfl)
theorem dX4_isKept_16 : decode cX4_isKept 16 = .ok (.lload_n 0, 1) := dk_30 (dk_at dksX4_isKept_0 16 rfl rfl)
theorem dX4_isKept_17 : decode cX4_isKept 17 = .ok (.ldc2_w 162, 3) := dk_20 0 162 (dk_at dksX4_isKept_0 17 rfl rfl)
theorem dX4_isKept_20 : decode cX4_isKept 20 = .ok (.lcmp, 1) := dk_148 (dk_at dksX4_isKept_0 20 rfl rfl)
theorem dX4_isKept_21 : decode cX4_isKept 21 = .ok (.ifCond .eq 59, 3) := dk_153 0 59 (dk_at dksX4_isKept_0 21 rfl rfl)
theorem dX4_isKept_24 : decode cX4_isKept 24 = .ok (.lload_n 0, 1) := dk_30 (dk_at dksX4_isKept_1 0 rfl rfl)
theorem dX4_isKept_25 : decode cX4_isKept 25 = .ok (.ldc2_w 164, 3) := dk_20 0 164 (dk_at dksX4_isKept_1 1 rfl rfl)
theorem dX4_isKept_28 : decode cX4_isKept 28 = .ok (.lcmp, 1) := dk_148 (dk_at dksX4_isKept_1 4 rfl rfl)
theorem dX4_isKept_29 : decode cX4_isKept 29 = .ok (.ifCond .eq 51, 3) := dk_153 0 51 (dk_at dksX4_isKept_1 5 rfl rfl)
theorem dX4_isKept_32 : decode cX4_isKept 32 = .ok (.lload_n 0, 1) := dk_30 (dk_at dksX4_isKept_1 8 rfl rfl)
theorem dX4_isKept_33 : decode cX4_isKept 33 = .ok (.ldc2_w 166, 3) := dk_20 0 166 (dk_at dksX4_isKept_1 9 rfl rfl)
theorem dX4_isKept_36 : decode cX4_isKept 36 = .ok (.lcmp, 1) := dk_148 (dk_at dksX4_isKept_1 12 rfl rfl)
theorem dX4_isKept_37 : decode cX4_isKept 37 = .ok (.ifCond .eq 43, 3) := dk_153 0 43 (dk_at dksX4_isKept_1 13 rfl rfl)
theorem dX4_isKept_40 : decode cX4_isKept 40 = .ok (.lload_n 0, 1) := dk_30 (dk_at dksX4_isKept_1 16 rfl rfl)
theorem dX4_isKept_41 : decode cX4_isKept 41 = .ok (.ldc2_w 168, 3) := dk_20 0 168 (dk_at dksX4_isKept_1 17 rfl rfl)
theorem dX4_isKept_44 : decode cX4_isKept 44 = .ok (.lcmp, 1) := dk_148 (dk_at dksX4_isKept_1 20 rfl rfl)
theorem dX4_isKept_45 : decode cX4_isKept 45 = .ok (.ifCond .eq 35, 3) := dk_153 0 35 (dk_at dksX4_isKept_1 21 rfl rfl)
theorem dX4_isKept_48 : decode cX4_isKept 48 = .ok (.lload_n 0, 1) := dk_30 (dk_at dksX4_isKept_2 0 rfl rfl)
theorem dX4_isKept_49 : decode cX4_isKept 49 = .ok (.ldc2_w 170, 3) := dk_20 0 170 (dk_at dksX4_isKept_2 1 rfl rfl)
theorem dX4_isKept_52 : decode cX4_isKept 52 = .ok (.lcmp, 1) := dk_148 (dk_at dksX4_isKept_2 4 rfl rfl)
theorem dX4_isKept_53 : decode cX4_isKept 53 = .ok (.ifCond .eq 27, 3) := dk_153 0 27 (dk_at dksX4_isKept_2 5 rfl rfl)
theorem dX4_isKept_56 : decode cX4_isKept 56 = .ok (.lload_n 0, 1) := dk_30 (dk_at dksX4_isKept_2 8 rfl rfl)
theorem dX4_isKept_57 : decode cX4_isKept 57 = .ok (.ldc2_w 172, 3) := dk_20 0 172 (dk_at dksX4_isKept_2 9 rfl rfl)
theorem dX4_isKept_60 : decode cX4_isKept 60 = .ok (.lcmp, 1) := dk_148 (dk_at dksX4_isKept_2 12 rfl rfl)
theorem dX4_isKept_61 : decode cX4_isKept 61 = .ok (.ifCond .eq 19, 3) := dk_153 0 19 (dk_at dksX4_isKept_2 13 rfl rfl)
theorem dX4_isKept_64 : decode cX4_isKept 64 = .ok (.lload_n 0, 1) := dk_30 (dk_at dksX4_isKept_2 16 rfl rfl)
theorem dX4_isKept_65 : decode cX4_isKept 65 = .ok (.ldc2_w 174, 3) := dk_20 0 174 (dk_at dksX4_isKept_2 17 rfl rfl)
theorem dX4_isKept_68 : decode cX4_isKept 68 = .ok (.lcmp, 1) := dk_148 (dk_at dksX4_isKept_2 20 rfl rfl)
theorem dX4_isKept_69 : decode cX4_isKept 69 = .ok (.ifCond .eq 11, 3) := dk_153 0 11 (dk_at dksX4_isKept_2 21 rfl rfl)
theorem dX4_isKept_72 : decode cX4_isKept 72 = .ok (.lload_n 0, 1) := dk_30 (dk_at dksX4_isKept_3 0 rfl rfl)
theorem dX4_isKept_73 : decode cX4_isKept 73 = .ok (.ldc2_w 176, 3) := dk_20 0 176 (dk_at dksX4_isKept_3 1 rfl rfl)
theorem dX4_isKept_76 : decode cX4_isKept 76 = .ok (.lcmp, 1) := dk_148 (dk_at dksX4_isKept_3 4 rfl rfl)
theorem dX4_isKept_77 : decode cX4_isKept 77 = .ok (.ifCond .ne 7, 3) := dk_154 0 7 (dk_at dksX4_isKept_3 5 rfl rfl)
theorem dX4_isKept_80 : decode cX4_isKept 80 = .ok (.iconst 1, 1) := dk_4 (dk_at dksX4_isKept_3 8 rfl rfl)
theorem dX4_isKept_81 : decode cX4_isKept 81 = .ok (.goto 4, 3) := dk_167 0 4 (dk_at dksX4_isKept_3 9 rfl rfl)
theorem dX4_isKept_84 : decode cX4_isKept 84 = .ok (.iconst 0, 1) := dk_3 (dk_at dksX4_isKept_3 12 rfl rfl)
theorem dX4_isKept_85 : decode cX4_isKept 85 = .ok (.istore_n 2, 1) := dk_61 (dk_at dksX4_isKept_3 13 rfl rfl)
theorem dX4_isKept_86 : decode cX4_isKept 86 = .ok (.iload_n 2, 1) := dk_28 (dk_at dksX4_isKept_3 14 rfl rfl)
theorem dX4_isKept_87 : decode cX4_isKept 87 = .ok (.ifCond .ne 83, 3) := dk_154 0 83 (dk_at dksX4_isKept_3 15 rfl rfl)
theorem dX4_isKept_90 : decode cX4_isKept 90 = .ok (.lload_n 0, 1) := dk_30 (dk_at dksX4_isKept_3 18 rfl rfl)
theorem dX4_isKept_91 : decode cX4_isKept 91 = .ok (.ldc2_w 178, 3) := dk_20 0 178 (dk_at dksX4_isKept_3 19 rfl rfl)
theorem dX4_isKept_94 : decode cX4_isKept 94 = .ok (.lcmp, 1) := dk_148 (dk_at dksX4_isKept_3 22 rfl rfl)
theorem dX4_isKept_95 : decode cX4_isKept 95 = .ok (.ifCond .eq 75, 3) := dk_153 0 75 (dk_at dksX4_isKept_4 0 rfl rfl)
theorem dX4_isKept_98 : decode cX4_isKept 98 = .ok (.lload_n 0, 1) := dk_30 (dk_at dksX4_isKept_4 3 rfl rfl)
theorem dX4_isKept_99 : decode cX4_isKept 99 = .ok (.ldc2_w 180, 3) := dk_20 0 180 (dk_at dksX4_isKept_4 4 rfl rfl)
theorem dX4_isKept_102 : decode cX4_isKept 102 = .ok (.lcmp, 1) := dk_148 (dk_at dksX4_isKept_4 7 rfl rfl)
theorem dX4_isKept_103 : decode cX4_isKept 103 = .ok (.ifCond .eq 67, 3) := dk_153 0 67 (dk_at dksX4_isKept_4 8 rfl rfl)
theorem dX4_isKept_106 : decode cX4_isKept 106 = .ok (.lload_n 0, 1) := dk_30 (dk_at dksX4_isKept_4 11 rfl rfl)
theorem dX4_isKept_107 : decode cX4_isKept 107 = .ok (.ldc2_w 182, 3) := dk_20 0 182 (dk_at dksX4_isKept_4 12 rfl rfl)
theorem dX4_isKept_110 : decode cX4_isKept 110 = .ok (.lcmp, 1) := dk_148 (dk_at dksX4_isKept_4 15 rfl rfl)
theorem dX4_isKept_111 : decode cX4_isKept 111 = .ok (.ifCond .eq 59, 3) := dk_153 0 59 (dk_at dksX4_isKept_4 16 rfl rfl)
theorem dX4_isKept_114 : decode cX4_isKept 114 = .ok (.lload_n 0, 1) := dk_30 (dk_at dksX4_isKept_4 19 rfl rfl)
theorem dX4_isKept_115 : decode cX4_isKept 115 = .ok (.ldc2_w 184, 3) := dk_20 0 184 (dk_at dksX4_isKept_4 20 rfl rfl)
theorem dX4_isKept_118 : decode cX4_isKept 118 = .ok (.lcmp, 1) := dk_148 (dk_at dksX4_isKept_4 23 rfl rfl)
theorem dX4_isKept_119 : decode cX4_isKept 119 = .ok (.ifCond .eq 51, 3) := dk_153 0 51 (dk_at dksX4_isKept_5 0 rfl rfl)
theorem dX4_isKept_122 : decode cX4_isKept 122 = .ok (.lload_n 0, 1) := dk_30 (dk_at dksX4_isKept_5 3 rfl rfl)
theorem dX4_isKept_123 : decode cX4_isKept 123 = .ok (.ldc2_w 186, 3) := dk_20 0 186 (dk_at dksX4_isKept_5 4 rfl rfl)
theorem dX4_isKept_126 : decode cX4_isKept 126 = .ok (.lcmp, 1) := dk_148 (dk_at dksX4_isKept_5 7 rfl rfl)
theorem dX4_isKept_127 : decode cX4_isKept 127 = .ok (.ifCond .eq 43, 3) := dk_153 0 43 (dk_at dksX4_isKept_5 8 rfl rfl)
theorem dX4_isKept_130 : decode cX4_isKept 130 = .ok (.lload_n 0, 1) := dk_30 (dk_at dksX4_isKept_5 11 rfl rfl)
theorem dX4_isKept_131 : decode cX4_isKept 131 = .ok (.ldc2_w 188, 3) := dk_20 0 188 (dk_at dksX4_isKept_5 12 rfl rfl)
theorem dX4_isKept_134 : decode cX4_isKept 134 = .ok (.lcmp, 1) := dk_148 (dk_at dksX4_isKept_5 15 rfl rfl)
theorem dX4_isKept_135 : decode cX4_isKept 135 = .ok (.ifCond .eq 35, 3) := dk_153 0 35 (dk_at dksX4_isKept_5 16 rfl rfl)
theorem dX4_isKept_138 : decode cX4_isKept 138 = .ok (.lload_n 0, 1) := dk_30 (dk_at dksX4_isKept_5 19 rfl rfl)
theorem dX4_isKept_139 : decode cX4_isKept 139 = .ok (.ldc2_w 190, 3) := dk_20 0 190 (dk_at dksX4_isKept_5 20 rfl rfl)
theorem dX4_isKept_142 : decode cX4_isKept 142 = .ok (.lcmp, 1) := dk_148 (dk_at dksX4_isKept_5 23 rfl rfl)
theorem dX4_isKept_143 : decode cX4_isKept 143 = .ok (.ifCond .eq 27, 3) := dk_153 0 27 (dk_at dksX4_isKept_6 0 rfl rfl)
theorem dX4_isKept_146 : decode cX4_isKept 146 = .ok (.lload_n 0, 1) := dk_30 (dk_at dksX4_isKept_6 3 rfl rfl)
theorem dX4_isKept_147 : decode cX4_isKept 147 = .ok (.ldc2_w 192, 3) := dk_20 0 192 (dk_at dksX4_isKept_6 4 rfl rfl)
theorem dX4_isKept_150 : decode cX4_isKept 150 = .ok (.lcmp, 1) := dk_148 (dk_at dksX4_isKept_6 7 rfl rfl)
theorem dX4_isKept_151 : decode cX4_isKept 151 = .ok (.ifCond .eq 19, 3) := dk_153 0 19 (dk_at dksX4_isKept_6 8 rfl rfl)
theorem dX4_isKept_154 : decode cX4_isKept 154 = .ok (.lload_n 0, 1) := dk_30 (dk_at dksX4_isKept_6 11 rfl rfl)
theorem dX4_isKept_155 : decode cX4_isKept 155 = .ok (.ldc2_w 194, 3) := dk_20 0 194 (dk_at dksX4_isKept_6 12 rfl rfl)
theorem dX4_isKept_158 : decode cX4_isKept 158 = .ok (.lcmp, 1) := dk_148 (dk_at dksX4_isKept_6 15 rfl rfl)
theorem dX4_isKept_159 : decode cX4_isKept 159 = .ok (.ifCond .eq 11, 3) := dk_153 0 11 (dk_at dksX4_isKept_6 16 rfl rfl)
theorem dX4_isKept_162 : decode cX4_isKept 162 = .ok (.lload_n 0, 1) := dk_30 (dk_at dksX4_isKept_6 19 rfl rfl)
theorem dX4_isKept_163 : decode cX4_isKept 163 = .ok (.ldc2_w 196, 3) := dk_20 0 196 (dk_at dksX4_isKept_6 20 rfl rfl)
theorem dX4_isKept_166 : decode cX4_isKept 166 = .ok (.lcmp, 1) := dk_148 (dk_at dksX4_isKept_6 23 rfl rfl)
theorem dX4_isKept_167 : decode cX4_isKept 167 = .ok (.ifCond .ne 7, 3) := dk_154 0 7 (dk_at dksX4_isKept_7 0 rfl rfl)
theorem dX4_isKept_170 : decode cX4_isKept 170 = .ok (.iconst 1, 1) := dk_4 (dk_at dksX4_isKept_7 3 rfl rfl)
theorem dX4_isKept_171 : decode cX4_isKept 171 = .ok (.goto 4, 3) := dk_167 0 4 (dk_at dksX4_isKept_7 4 rfl rfl)
theorem dX4_isKept_174 : decode cX4_isKept 174 = .ok (.iconst 0, 1) := dk_3 (dk_at dksX4_isKept_7 7 rfl rfl)
theorem dX4_isKept_175 : decode cX4_isKept 175 = .ok (.ireturn, 1) := dk_172 (dk_at dksX4_isKept_7 8 rfl rfl)
abbrev cX4_isDigit : ByteArray := prog_22_method_4_code
def yX4_isDigit : MethodName := ⟨RX4, "isDigit", "(I)Z"⟩
def dkwX4_isDigit_0 : List UInt8 := [26, 16, 48, 161, 0, 13, 26, 16, 57, 163, 0, 7, 4, 167, 0, 4, 3, 172]
abbrev dktX4_isDigit_0 : List UInt8 := dkwX4_isDigit_0 ++ []
theorem dksX4_isDigit_0 : cX4_isDigit.data.toList.drop 0 = dktX4_isDigit_0 := by decide +kernel
theorem dX4_isDigit_0 : decode cX4_isDigit 0 = .ok (.iload_n 0, 1) := dk_26 (dk_at dksX4_isDigit_0 0 rfl rfl)
theorem dX4_isDigit_1 : decode cX4_isDigit 1 = .ok (.bipush 48, 2) := dk_16 48 (dk_at dksX4_isDigit_0 1 rfl rfl)
theorem dX4_isDigit_3 : decode cX4_isDigit 3 = .ok (.if_icmp .lt 13, 3) := dk_161 0 13 (dk_at dksX4_isDigit_0 3 rfl rfl)
theorem dX4_isDigit_6 : decode cX4_isDigit 6 = .ok (.iload_n 0, 1) := dk_26 (dk_at dksX4_isDigit_0 6 rfl rfl)
theorem dX4_isDigit_7 : decode cX4_isDigit 7 = .ok (.bipush 57, 2) := dk_16 57 (dk_at dksX4_isDigit_0 7 rfl rfl)
theorem dX4_isDigit_9 : decode cX4_isDigit 9 = .ok (.if_icmp .gt 7, 3) := dk_163 0 7 (dk_at dksX4_isDigit_0 9 rfl rfl)
theorem dX4_isDigit_12 : decode cX4_isDigit 12 = .ok (.iconst 1, 1) := dk_4 (dk_at dksX4_isDigit_0 12 rfl rfl)
theorem dX4_isDigit_13 : decode cX4_isDigit 13 = .ok (.goto 4, 3) := dk_167 0 4 (dk_at dksX4_isDigit_0 13 rfl rfl)
theorem dX4_isDigit_16 : decode cX4_isDigit 16 = .ok (.iconst 0, 1) := dk_3 (dk_at dksX4_isDigit_0 16 rfl rfl)
theorem dX4_isDigit_17 : decode cX4_isDigit 17 = .ok (.ireturn, 1) := dk_172 (dk_at dksX4_isDigit_0 17 rfl rfl)
abbrev cX4_isSign : ByteArray := prog_22_method_8_code
def yX4_isSign : MethodName := ⟨RX4, "isSign", "(I)Z"⟩
def dkwX4_isSign_2 : List UInt8 := [26, 16, 42, 159, 0, 15, 26, 16, 47, 159, 0, 9, 26, 16, 37, 160, 0, 7, 4, 167, 0, 4, 3, 172]
abbrev dktX4_isSign_2 : List UInt8 := dkwX4_isSign_2 ++ []
def dkwX4_isSign_1 : List UInt8 := [26, 16, 62, 159, 0, 39, 26, 16, 61, 159, 0, 33, 26, 16, 43, 159, 0, 27, 26, 16, 45, 159, 0, 21]
abbrev dktX4_isSign_1 : List UInt8 := dkwX4_isSign_1 ++ dktX4_isSign_2
def dkwX4_isSign_0 : List UInt8 := [26, 16, 59, 159, 0, 63, 26, 16, 40, 159, 0, 57, 26, 16, 41, 159, 0, 51, 26, 16, 60, 159, 0, 45]
abbrev dktX4_isSign_0 : List UInt8 := dkwX4_isSign_0 ++ dktX4_isSign_1
theorem dksX4_isSign_0 : cX4_isSign.data.toList.drop 0 = dktX4_isSign_0 := by decide +kernel
theorem dksX4_isSign_1 : cX4_isSign.data.toList.drop 24 = dktX4_isSign_1 := dk_seg dksX4_isSign_0 24 rfl rfl
theorem dksX4_isSign_2 : cX4_isSign.data.toList.drop 48 = dktX4_isSign_2 := dk_seg dksX4_isSign_1 24 rfl rfl
theorem dX4_isSign_0 : decode cX4_isSign 0 = .ok (.iload_n 0, 1) := dk_26 (dk_at dksX4_isSign_0 0 rfl rfl)
theorem dX4_isSign_1 : decode cX4_isSign 1 = .ok (.bipush 59, 2) := dk_16 59 (dk_at dksX4_isSign_0 1 rfl rfl)
theorem dX4_isSign_3 : decode cX4_isSign 3 = .ok (.if_icmp .eq 63, 3) := dk_159 0 63 (dk_at dksX4_isSign_0 3 rfl rfl)
theorem dX4_isSign_6 : decode cX4_isSign 6 = .ok (.iload_n 0, 1) := dk_26 (dk_at dksX4_isSign_0 6 rfl rfl)
theorem dX4_isSign_7 : decode cX4_isSign 7 = .ok (.bipush 40, 2) := dk_16 40 (dk_at dksX4_isSign_0 7 rfl rfl)
theorem dX4_isSign_9 : decode cX4_isSign 9 = .ok (.if_icmp .eq 57, 3) := dk_159 0 57 (dk_at dksX4_isSign_0 9 rfl rfl)
theorem dX4_isSign_12 : decode cX4_isSign 12 = .ok (.iload_n 0, 1) := dk_26 (dk_at dksX4_isSign_0 12 rfl rfl)
theorem dX4_isSign_13 : decode cX4_isSign 13 = .ok (.bipush 41, 2) := dk_16 41 (dk_at dksX4_isSign_0 13 rfl rfl)
theorem dX4_isSign_15 : decode cX4_isSign 15 = .ok (.if_icmp .eq 51, 3) := dk_159 0 51 (dk_at dksX4_isSign_0 15 rfl rfl)
theorem dX4_isSign_18 : decode cX4_isSign 18 = .ok (.iload_n 0, 1) := dk_26 (dk_at dksX4_isSign_0 18 rfl rfl)
theorem dX4_isSign_19 : decode cX4_isSign 19 = .ok (.bipush 60, 2) := dk_16 60 (dk_at dksX4_isSign_0 19 rfl rfl)
theorem dX4_isSign_21 : decode cX4_isSign 21 = .ok (.if_icmp .eq 45, 3) := dk_159 0 45 (dk_at dksX4_isSign_0 21 rfl rfl)
theorem dX4_isSign_24 : decode cX4_isSign 24 = .ok (.iload_n 0, 1) := dk_26 (dk_at dksX4_isSign_1 0 rfl rfl)
theorem dX4_isSign_25 : decode cX4_isSign 25 = .ok (.bipush 62, 2) := dk_16 62 (dk_at dksX4_isSign_1 1 rfl rfl)
theorem dX4_isSign_27 : decode cX4_isSign 27 = .ok (.if_icmp .eq 39, 3) := dk_159 0 39 (dk_at dksX4_isSign_1 3 rfl rfl)
theorem dX4_isSign_30 : decode cX4_isSign 30 = .ok (.iload_n 0, 1) := dk_26 (dk_at dksX4_isSign_1 6 rfl rfl)
theorem dX4_isSign_31 : decode cX4_isSign 31 = .ok (.bipush 61, 2) := dk_16 61 (dk_at dksX4_isSign_1 7 rfl rfl)
theorem dX4_isSign_33 : decode cX4_isSign 33 = .ok (.if_icmp .eq 33, 3) := dk_159 0 33 (dk_at dksX4_isSign_1 9 rfl rfl)
theorem dX4_isSign_36 : decode cX4_isSign 36 = .ok (.iload_n 0, 1) := dk_26 (dk_at dksX4_isSign_1 12 rfl rfl)
theorem dX4_isSign_37 : decode cX4_isSign 37 = .ok (.bipush 43, 2) := dk_16 43 (dk_at dksX4_isSign_1 13 rfl rfl)
theorem dX4_isSign_39 : decode cX4_isSign 39 = .ok (.if_icmp .eq 27, 3) := dk_159 0 27 (dk_at dksX4_isSign_1 15 rfl rfl)
theorem dX4_isSign_42 : decode cX4_isSign 42 = .ok (.iload_n 0, 1) := dk_26 (dk_at dksX4_isSign_1 18 rfl rfl)
theorem dX4_isSign_43 : decode cX4_isSign 43 = .ok (.bipush 45, 2) := dk_16 45 (dk_at dksX4_isSign_1 19 rfl rfl)
theorem dX4_isSign_45 : decode cX4_isSign 45 = .ok (.if_icmp .eq 21, 3) := dk_159 0 21 (dk_at dksX4_isSign_1 21 rfl rfl)
theorem dX4_isSign_48 : decode cX4_isSign 48 = .ok (.iload_n 0, 1) := dk_26 (dk_at dksX4_isSign_2 0 rfl rfl)
theorem dX4_isSign_49 : decode cX4_isSign 49 = .ok (.bipush 42, 2) := dk_16 42 (dk_at dksX4_isSign_2 1 rfl rfl)
theorem dX4_isSign_51 : decode cX4_isSign 51 = .ok (.if_icmp .eq 15, 3) := dk_159 0 15 (dk_at dksX4_isSign_2 3 rfl rfl)
theorem dX4_isSign_54 : decode cX4_isSign 54 = .ok (.iload_n 0, 1) := dk_26 (dk_at dksX4_isSign_2 6 rfl rfl)
theorem dX4_isSign_55 : decode cX4_isSign 55 = .ok (.bipush 47, 2) := dk_16 47 (dk_at dksX4_isSign_2 7 rfl rfl)
theorem dX4_isSign_57 : decode cX4_isSign 57 = .ok (.if_icmp .eq 9, 3) := dk_159 0 9 (dk_at dksX4_isSign_2 9 rfl rfl)
theorem dX4_isSign_60 : decode cX4_isSign 60 = .ok (.iload_n 0, 1) := dk_26 (dk_at dksX4_isSign_2 12 rfl rfl)
theorem dX4_isSign_61 : decode cX4_isSign 61 = .ok (.bipush 37, 2) := dk_16 37 (dk_at dksX4_isSign_2 13 rfl rfl)
theorem dX4_isSign_63 : decode cX4_isSign 63 = .ok (.if_icmp .ne 7, 3) := dk_160 0 7 (dk_at dksX4_isSign_2 15 rfl rfl)
theorem dX4_isSign_66 : decode cX4_isSign 66 = .ok (.iconst 1, 1) := dk_4 (dk_at dksX4_isSign_2 18 rfl rfl)
theorem dX4_isSign_67 : decode cX4_isSign 67 = .ok (.goto 4, 3) := dk_167 0 4 (dk_at dksX4_isSign_2 19 rfl rfl)
theorem dX4_isSign_70 : decode cX4_isSign 70 = .ok (.iconst 0, 1) := dk_3 (dk_at dksX4_isSign_2 22 rfl rfl)
theorem dX4_isSign_71 : decode cX4_isSign 71 = .ok (.ireturn, 1) := dk_172 (dk_at dksX4_isSign_2 23 rfl rfl)
abbrev cX4_isGood : ByteArray := prog_22_method_6_code
def yX4_isGood : MethodName := ⟨RX4, "isGood", "()Z"⟩
def dkwX4_isGood_0 : List UInt8 := [42, 180, 0, 155, 154, 0, 7, 4, 167, 0, 4, 3, 172]
abbrev dktX4_isGood_0 : List UInt8 := dkwX4_isGood_0 ++ []
theorem dksX4_isGood_0 : cX4_isGood.data.toList.drop 0 = dktX4_isGood_0 := by decide +kernel
theorem dX4_isGood_0 : decode cX4_isGood 0 = .ok (.aload_n 0, 1) := dk_42 (dk_at dksX4_isGood_0 0 rfl rfl)
theorem dX4_isGood_1 : decode cX4_isGood 1 = .ok (.getfield 155, 3) := dk_180 0 155 (dk_at dksX4_isGood_0 1 rfl rfl)
theorem dX4_isGood_4 : decode cX4_isGood 4 = .ok (.ifCond .ne 7, 3) := dk_154 0 7 (dk_at dksX4_isGood_0 4 rfl rfl)
theorem dX4_isGood_7 : decode cX4_isGood 7 = .ok (.iconst 1, 1) := dk_4 (dk_at dksX4_isGood_0 7 rfl rfl)
theorem dX4_isGood_8 : decode cX4_isGood 8 = .ok (.goto 4, 3) := dk_167 0 4 (dk_at dksX4_isGood_0 8 rfl rfl)
theorem dX4_isGood_11 : decode cX4_isGood 11 = .ok (.iconst 0, 1) := dk_3 (dk_at dksX4_isGood_0 11 rfl rfl)
theorem dX4_isGood_12 : decode cX4_isGood 12 = .ok (.ireturn, 1) := dk_172 (dk_at dksX4_isGood_0 12 rfl rfl)
abbrev cX4_readLine : ByteArray := prog_22_method_19_code
def yX4_readLine : MethodName := ⟨RX4, "readLine", "()V"⟩
def dkwX4_readLine_13 : List UInt8 := [79, 42, 42, 16, 59, 182, 1, 49, 182, 1, 33, 177]
abbrev dktX4_readLine_13 : List UInt8 := dkwX4_readLine_13 ++ []
def dkwX4_readLine_12 : List UInt8 := [31, 20, 0, 180, 148, 154, 0, 20, 42, 180, 0, 42, 42, 180, 0, 246, 42, 6, 17, 3, 231, 182, 1, 46]
abbrev dktX4_readLine_12 : List UInt8 := dkwX4_readLine_12 ++ dktX4_readLine_13
def dkwX4_readLine_11 : List UInt8 := [31, 20, 0, 178, 148, 154, 0, 19, 42, 180, 0, 39, 42, 180, 0, 246, 42, 5, 16, 100, 182, 1, 46, 79]
abbrev dktX4_readLine_11 : List UInt8 := dkwX4_readLine_11 ++ dktX4_readLine_12
def dkwX4_readLine_10 : List UInt8 := [180, 0, 246, 42, 42, 182, 1, 19, 182, 1, 40, 79, 31, 20, 0, 176, 148, 154, 0, 7, 42, 182, 1, 43]
abbrev dktX4_readLine_10 : List UInt8 := dkwX4_readLine_10 ++ dktX4_readLine_11
def dkwX4_readLine_9 : List UInt8 := [148, 154, 0, 33, 42, 180, 0, 45, 42, 180, 0, 246, 92, 46, 5, 128, 79, 42, 180, 0, 36, 42]
abbrev dktX4_readLine_9 : List UInt8 := dkwX4_readLine_9 ++ dktX4_readLine_10
def dkwX4_readLine_8 : List UInt8 := [180, 0, 246, 92, 46, 4, 96, 79, 31, 20, 0, 168, 148, 154, 0, 7, 42, 182, 1, 37, 31, 20, 0, 174]
abbrev dktX4_readLine_8 : List UInt8 := dkwX4_readLine_8 ++ dktX4_readLine_9
def dkwX4_readLine_7 : List UInt8 := [180, 0, 27, 42, 180, 0, 246, 46, 96, 42, 3, 16, 20, 182, 1, 12, 79, 42, 180, 0, 27, 42]
abbrev dktX4_readLine_7 : List UInt8 := dkwX4_readLine_7 ++ dktX4_readLine_8
def dkwX4_readLine_6 : List UInt8 := [42, 20, 0, 166, 182, 1, 5, 182, 1, 33, 42, 180, 0, 57, 16, 8, 42, 180, 0, 246, 104, 42]
abbrev dktX4_readLine_6 : List UInt8 := dkwX4_readLine_6 ++ dktX4_readLine_7
def dkwX4_readLine_5 : List UInt8 := [180, 0, 246, 104, 42, 180, 0, 27, 42, 180, 0, 246, 46, 96, 42, 42, 182, 1, 30, 182, 1, 23, 80, 42]
abbrev dktX4_readLine_5 : List UInt8 := dkwX4_readLine_5 ++ dktX4_readLine_6
def dkwX4_readLine_4 : List UInt8 := [154, 0, 7, 42, 182, 1, 27, 31, 20, 0, 164, 148, 154, 0, 86, 42, 180, 0, 76, 16, 8, 42]
abbrev dktX4_readLine_4 : List UInt8 := dkwX4_readLine_4 ++ dktX4_readLine_5
def dkwX4_readLine_3 : List UInt8 := [182, 1, 23, 80, 42, 180, 0, 20, 42, 180, 0, 246, 92, 46, 4, 96, 79, 31, 20, 0, 160, 148]
abbrev dktX4_readLine_3 : List UInt8 := dkwX4_readLine_3 ++ dktX4_readLine_4
def dkwX4_readLine_2 : List UInt8 := [16, 8, 42, 180, 0, 246, 104, 42, 180, 0, 20, 42, 180, 0, 246, 46, 96, 42, 42, 182, 1, 19]
abbrev dktX4_readLine_2 : List UInt8 := dkwX4_readLine_2 ++ dktX4_readLine_3
def dkwX4_readLine_1 : List UInt8 := [42, 182, 0, 236, 154, 0, 4, 177, 42, 182, 0, 240, 31, 20, 0, 158, 148, 154, 0, 46, 42, 180, 0, 72]
abbrev dktX4_readLine_1 : List UInt8 := dkwX4_readLine_1 ++ dktX4_readLine_2
def dkwX4_readLine_0 : List UInt8 := [42, 180, 0, 215, 64, 42, 180, 0, 208, 6, 160, 0, 10, 42, 182, 1, 16, 153, 0, 7, 42, 182, 0, 243]
abbrev dktX4_readLine_0 : List UInt8 := dkwX4_readLine_0 ++ dktX4_readLine_1
theorem dksX4_readLine_0 : cX4_readLine.data.toList.drop 0 = dktX4_readLine_0 := by decide +kernel
theorem dksX4_readLine_1 : cX4_readLine.data.toList.drop 24 = dktX4_readLine_1 := dk_seg dksX4_readLine_0 24 rfl rfl
theorem dksX4_readLine_2 : cX4_readLine.data.toList.drop 48 = dktX4_readLine_2 := dk_seg dksX4_readLine_1 24 rfl rfl
theorem dksX4_readLine_3 : cX4_readLine.data.toList.drop 70 = dktX4_readLine_3 := dk_seg dksX4_readLine_2 22 rfl rfl
theorem dksX4_readLine_4 : cX4_readLine.data.toList.drop 92 = dktX4_readLine_4 := dk_seg dksX4_readLine_3 22 rfl rfl
theorem dksX4_readLine_5 : cX4_readLine.data.toList.drop 114 = dktX4_readLine_5 := dk_seg dksX4_readLine_4 22 rfl rfl
theorem dksX4_readLine_6 : cX4_readLine.data.toList.drop 138 = dktX4_readLine_6 := dk_seg dksX4_readLine_5 24 rfl rfl
theorem dksX4_readLine_7 : cX4_readLine.data.toList.drop 160 = dktX4_readLine_7 := dk_seg dksX4_readLine_6 22 rfl rfl
theorem dksX4_readLine_8 : cX4_readLine.data.toList.drop 182 = dktX4_readLine_8 := dk_seg dksX4_readLine_7 22 rfl rfl
theorem dksX4_readLine_9 : cX4_readLine.data.toList.drop 206 = dktX4_readLine_9 := dk_seg dksX4_readLine_8 24 rfl rfl
theorem dksX4_readLine_10 : cX4_readLine.data.toList.drop 228 = dktX4_readLine_10 := dk_seg dksX4_readLine_9 22 rfl rfl
theorem dksX4_readLine_11 : cX4_readLine.data.toList.drop 252 = dktX4_readLine_11 := dk_seg dksX4_readLine_10 24 rfl rfl
theorem dksX4_readLine_12 : cX4_readLine.data.toList.drop 276 = dktX4_readLine_12 := dk_seg dksX4_readLine_11 24 rfl rfl
theorem dksX4_readLine_13 : cX4_readLine.data.toList.drop 300 = dktX4_readLine_13 := dk_seg dksX4_readLine_12 24 rfl rfl
theorem dX4_readLine_0 : decode cX4_readLine 0 = .ok (.aload_n 0, 1) := dk_42 (dk_at dksX4_readLine_0 0 rfl rfl)
theorem dX4_readLine_1 : decode cX4_readLine 1 = .ok (.getfield 215, 3) := dk_180 0 215 (dk_at dksX4_readLine_0 1 rfl rfl)
theorem dX4_readLine_4 : decode cX4_readLine 4 = .ok (.lstore_n 1, 1) := dk_64 (dk_at dksX4_readLine_0 4 rfl rfl)
theorem dX4_readLine_5 : decode cX4_readLine 5 = .ok (.aload_n 0, 1) := dk_42 (dk_at dksX4_readLine_0 5 rfl rfl)
theorem dX4_readLine_6 : decode cX4_readLine 6 = .ok (.getfield 208, 3) := dk_180 0 208 (dk_at dksX4_readLine_0 6 rfl rfl)
theorem dX4_readLine_9 : decode cX4_readLine 9 = .ok (.iconst 3, 1) := dk_6 (dk_at dksX4_readLine_0 9 rfl rfl)
theorem dX4_readLine_10 : decode cX4_readLine 10 = .ok (.if_icmp .ne 10, 3) := dk_160 0 10 (dk_at dksX4_readLine_0 10 rfl rfl)
theorem dX4_readLine_13 : decode cX4_readLine 13 = .ok (.aload_n 0, 1) := dk_42 (dk_at dksX4_readLine_0 13 rfl rfl)
theorem dX4_readLine_14 : decode cX4_readLine 14 = .ok (.invokevirtual 272, 3) := dk_182 1 16 (dk_at dksX4_readLine_0 14 rfl rfl)
theorem dX4_readLine_17 : decode cX4_readLine 17 = .ok (.ifCond .eq 7, 3) := dk_153 0 7 (dk_at dksX4_readLine_0 17 rfl rfl)
theorem dX4_readLine_20 : decode cX4_readLine 20 = .ok (.aload_n 0, 1) := dk_42 (dk_at dksX4_readLine_0 20 rfl rfl)
theorem dX4_readLine_21 : decode cX4_readLine 21 = .ok (.invokevirtual 243, 3) := dk_182 0 243 (dk_at dksX4_readLine_0 21 rfl rfl)
theorem dX4_readLine_24 : decode cX4_readLine 24 = .ok (.aload_n 0, 1) := dk_42 (dk_at dksX4_readLine_1 0 rfl rfl)
theorem dX4_readLine_25 : decode cX4_readLine 25 = .ok (.invokevirtual 236, 3) := dk_182 0 236 (dk_at dksX4_readLine_1 1 rfl rfl)
theorem dX4_readLine_28 : decode cX4_readLine 28 = .ok (.ifCond .ne 4, 3) := dk_154 0 4 (dk_at dksX4_readLine_1 4 rfl rfl)
theorem dX4_readLine_31 : decode cX4_readLine 31 = .ok (.return_, 1) := dk_177 (dk_at dksX4_readLine_1 7 rfl rfl)
theorem dX4_readLine_32 : decode cX4_readLine 32 = .ok (.aload_n 0, 1) := dk_42 (dk_at dksX4_readLine_1 8 rfl rfl)
theorem dX4_readLine_33 : decode cX4_readLine 33 = .ok (.invokevirtual 240, 3) := dk_182 0 240 (dk_at dksX4_readLine_1 9 rfl rfl)
theorem dX4_readLine_36 : decode cX4_readLine 36 = .ok (.lload_n 1, 1) := dk_31 (dk_at dksX4_readLine_1 12 rfl rfl)
theorem dX4_readLine_37 : decode cX4_readLine 37 = .ok (.ldc2_w 158, 3) := dk_20 0 158 (dk_at dksX4_readLine_1 13 rfl rfl)
theorem dX4_readLine_40 : decode cX4_readLine 40 = .ok (.lcmp, 1) := dk_148 (dk_at dksX4_readLine_1 16 rfl rfl)
theorem dX4_readLine_41 : decode cX4_readLine 41 = .ok (.ifCond .ne 46, 3) := dk_154 0 46 (dk_at dksX4_readLine_1 17 rfl rfl)
theorem dX4_readLine_44 : decode cX4_readLine 44 = .ok (.aload_n 0, 1) := dk_42 (dk_at dksX4_readLine_1 20 rfl rfl)
theorem dX4_readLine_45 : decode cX4_readLine 45 = .ok (.getfield 72, 3) := dk_180 0 72 (dk_at dksX4_readLine_1 21 rfl rfl)
theorem dX4_readLine_48 : decode cX4_readLine 48 = .ok (.bipush 8, 2) := dk_16 8 (dk_at dksX4_readLine_2 0 rfl rfl)
theorem dX4_readLine_50 : decode cX4_readLine 50 = .ok (.aload_n 0, 1) := dk_42 (dk_at dksX4_readLine_2 2 rfl rfl)
theorem dX4_readLine_51 : decode cX4_readLine 51 = .ok (.getfield 246, 3) := dk_180 0 246 (dk_at dksX4_readLine_2 3 rfl rfl)
theorem dX4_readLine_54 : decode cX4_readLine 54 = .ok (.imul, 1) := dk_104 (dk_at dksX4_readLine_2 6 rfl rfl)
theorem dX4_readLine_55 : decode cX4_readLine 55 = .ok (.aload_n 0, 1) := dk_42 (dk_at dksX4_readLine_2 7 rfl rfl)
theorem dX4_readLine_56 : decode cX4_readLine 56 = .ok (.getfield 20, 3) := dk_180 0 20 (dk_at dksX4_readLine_2 8 rfl rfl)
theorem dX4_readLine_59 : decode cX4_readLine 59 = .ok (.aload_n 0, 1) := dk_42 (dk_at dksX4_readLine_2 11 rfl rfl)
theorem dX4_readLine_60 : decode cX4_readLine 60 = .ok (.getfield 246, 3) := dk_180 0 246 (dk_at dksX4_readLine_2 12 rfl rfl)
theorem dX4_readLine_63 : decode cX4_readLine 63 = .ok (.iaload, 1) := dk_46 (dk_at dksX4_readLine_2 15 rfl rfl)
theorem dX4_readLine_64 : decode cX4_readLine 64 = .ok (.iadd, 1) := dk_96 (dk_at dksX4_readLine_2 16 rfl rfl)
theorem dX4_readLine_65 : decode cX4_readLine 65 = .ok (.aload_n 0, 1) := dk_42 (dk_at dksX4_readLine_2 17 rfl rfl)
theorem dX4_readLine_66 : decode cX4_readLine 66 = .ok (.aload_n 0, 1) := dk_42 (dk_at dksX4_readLine_2 18 rfl rfl)
theorem dX4_readLine_67 : decode cX4_readLine 67 = .ok (.invokevirtual 275, 3) := dk_182 1 19 (dk_at dksX4_readLine_2 19 rfl rfl)
theorem dX4_readLine_70 : decode cX4_readLine 70 = .ok (.invokevirtual 279, 3) := dk_182 1 23 (dk_at dksX4_readLine_3 0 rfl rfl)
theorem dX4_readLine_73 : decode cX4_readLine 73 = .ok (.lastore, 1) := dk_80 (dk_at dksX4_readLine_3 3 rfl rfl)
theorem dX4_readLine_74 : decode cX4_readLine 74 = .ok (.aload_n 0, 1) := dk_42 (dk_at dksX4_readLine_3 4 rfl rfl)
theorem dX4_readLine_75 : decode cX4_readLine 75 = .ok (.getfield 20, 3) := dk_180 0 20 (dk_at dksX4_readLine_3 5 rfl rfl)
theorem dX4_readLine_78 : decode cX4_readLine 78 = .ok (.aload_n 0, 1) := dk_42 (dk_at dksX4_readLine_3 8 rfl rfl)
theorem dX4_readLine_79 : decode cX4_readLine 79 = .ok (.getfield 246, 3) := dk_180 0 246 (dk_at dksX4_readLine_3 9 rfl rfl)
theorem dX4_readLine_82 : decode cX4_readLine 82 = .ok (.dup2, 1) := dk_92 (dk_at dksX4_readLine_3 12 rfl rfl)
theorem dX4_readLine_83 : decode cX4_readLine 83 = .ok (.iaload, 1) := dk_46 (dk_at dksX4_readLine_3 13 rfl rfl)
theorem dX4_readLine_84 : decode cX4_readLine 84 = .ok (.iconst 1, 1) := dk_4 (dk_at dksX4_readLine_3 14 rfl rfl)
theorem dX4_readLine_85 : decode cX4_readLine 85 = .ok (.iadd, 1) := dk_96 (dk_at dksX4_readLine_3 15 rfl rfl)
theorem dX4_readLine_86 : decode cX4_readLine 86 = .ok (.iastore, 1) := dk_79 (dk_at dksX4_readLine_3 16 rfl rfl)
theorem dX4_readLine_87 : decode cX4_readLine 87 = .ok (.lload_n 1, 1) := dk_31 (dk_at dksX4_readLine_3 17 rfl rfl)
theorem dX4_readLine_88 : decode cX4_readLine 88 = .ok (.ldc2_w 160, 3) := dk_20 0 160 (dk_at dksX4_readLine_3 18 rfl rfl)
theorem dX4_readLine_91 : decode cX4_readLine 91 = .ok (.lcmp, 1) := dk_148 (dk_at dksX4_readLine_3 21 rfl rfl)
theorem dX4_readLine_92 : decode cX4_readLine 92 = .ok (.ifCond .ne 7, 3) := dk_154 0 7 (dk_at dksX4_readLine_4 0 rfl rfl)
theorem dX4_readLine_95 : decode cX4_readLine 95 = .ok (.aload_n 0, 1) := dk_42 (dk_at dksX4_readLine_4 3 rfl rfl)
theorem dX4_readLine_96 : decode cX4_readLine 96 = .ok (.invokevirtual 283, 3) := dk_182 1 27 (dk_at dksX4_readLine_4 4 rfl rfl)
theorem dX4_readLine_99 : decode cX4_readLine 99 = .ok (.lload_n 1, 1) := dk_31 (dk_at dksX4_readLine_4 7 rfl rfl)
theorem dX4_readLine_100 : decode cX4_readLine 100 = .ok (.ldc2_w 164, 3) := dk_20 0 164 (dk_at dksX4_readLine_4 8 rfl rfl)
theorem dX4_readLine_103 : decode cX4_readLine 103 = .ok (.lcmp, 1) := dk_148 (dk_at dksX4_readLine_4 11 rfl rfl)
theorem dX4_readLine_104 : decode cX4_readLine 104 = .ok (.ifCond .ne 86, 3) := dk_154 0 86 (dk_at dksX4_readLine_4 12 rfl rfl)
theorem dX4_readLine_107 : decode cX4_readLine 107 = .ok (.aload_n 0, 1) := dk_42 (dk_at dksX4_readLine_4 15 rfl rfl)
theorem dX4_readLine_108 : decode cX4_readLine 108 = .ok (.getfield 76, 3) := dk_180 0 76 (dk_at dksX4_readLine_4 16 rfl rfl)
theorem dX4_readLine_111 : decode cX4_readLine 111 = .ok (.bipush 8, 2) := dk_16 8 (dk_at dksX4_readLine_4 19 rfl rfl)
theorem dX4_readLine_113 : decode cX4_readLine 113 = .ok (.aload_n 0, 1) := dk_42 (dk_at dksX4_readLine_4 21 rfl rfl)
theorem dX4_readLine_114 : decode cX4_readLine 114 = .ok (.getfield 246, 3) := dk_180 0 246 (dk_at dksX4_readLine_5 0 rfl rfl)
theorem dX4_readLine_117 : decode cX4_readLine 117 = .ok (.imul, 1) := dk_104 (dk_at dksX4_readLine_5 3 rfl rfl)
theorem dX4_readLine_118 : decode cX4_readLine 118 = .ok (.aload_n 0, 1) := dk_42 (dk_at dksX4_readLine_5 4 rfl rfl)
theorem dX4_readLine_119 : decode cX4_readLine 119 = .ok (.getfield 27, 3) := dk_180 0 27 (dk_at dksX4_readLine_5 5 rfl rfl)
theorem dX4_readLine_122 : decode cX4_readLine 122 = .ok (.aload_n 0, 1) := dk_42 (dk_at dksX4_readLine_5 8 rfl rfl)
theorem dX4_readLine_123 : decode cX4_readLine 123 = .ok (.getfield 246, 3) := dk_180 0 246 (dk_at dksX4_readLine_5 9 rfl rfl)
theorem dX4_readLine_126 : decode cX4_readLine 126 = .ok (.iaload, 1) := dk_46 (dk_at dksX4_readLine_5 12 rfl rfl)
theorem dX4_readLine_127 : decode cX4_readLine 127 = .ok (.iadd, 1) := dk_96 (dk_at dksX4_readLine_5 13 rfl rfl)
theorem dX4_readLine_128 : decode cX4_readLine 128 = .ok (.aload_n 0, 1) := dk_42 (dk_at dksX4_readLine_5 14 rfl rfl)
theorem dX4_readLine_129 : decode cX4_readLine 129 = .ok (.aload_n 0, 1) := dk_42 (dk_at dksX4_readLine_5 15 rfl rfl)
theorem dX4_readLine_130 : decode cX4_readLine 130 = .ok (.invokevirtual 286, 3) := dk_182 1 30 (dk_at dksX4_readLine_5 16 rfl rfl)
theorem dX4_readLine_133 : decode cX4_readLine 133 = .ok (.invokevirtual 279, 3) := dk_182 1 23 (dk_at dksX4_readLine_5 19 rfl rfl)
theorem dX4_readLine_136 : decode cX4_readLine 136 = .ok (.lastore, 1) := dk_80 (dk_at dksX4_readLine_5 22 rfl rfl)
theorem dX4_readLine_137 : decode cX4_readLine 137 = .ok (.aload_n 0, 1) := dk_42 (dk_at dksX4_readLine_5 23 rfl rfl)
theorem dX4_readLine_138 : decode cX4_readLine 138 = .ok (.aload_n 0, 1) := dk_42 (dk_at dksX4_readLine_6 0 rfl rfl)
theorem dX4_readLine_139 : decode cX4_readLine 139 = .ok (.ldc2_w 166, 3) := dk_20 0 166 (dk_at dksX4_readLine_6 1 rfl rfl)
theorem dX4_readLine_142 : decode cX4_readLine 142 = .ok (.invokevirtual 261, 3) := dk_182 1 5 (dk_at dksX4_readLine_6 4 rfl rfl)
theorem dX4_readLine_145 : decode cX4_readLine 145 = .ok (.invokevirtual 289, 3) := dk_182 1 33 (dk_at dksX4_readLine_6 7 rfl rfl)
theorem dX4_readLine_148 : decode cX4_readLine 148 = .ok (.aload_n 0, 1) := dk_42 (dk_at dksX4_readLine_6 10 rfl rfl)
theorem dX4_readLine_149 : decode cX4_readLine 149 = .ok (.getfield 57, 3) := dk_180 0 57 (dk_at dksX4_readLine_6 11 rfl rfl)
theorem dX4_readLine_152 : decode cX4_readLine 152 = .ok (.bipush 8, 2) := dk_16 8 (dk_at dksX4_readLine_6 14 rfl rfl)
theorem dX4_readLine_154 : decode cX4_readLine 154 = .ok (.aload_n 0, 1) := dk_42 (dk_at dksX4_readLine_6 16 rfl rfl)
theorem dX4_readLine_155 : decode cX4_readLine 155 = .ok (.getfield 246, 3) := dk_180 0 246 (dk_at dksX4_readLine_6 17 rfl rfl)
theorem dX4_readLine_158 : decode cX4_readLine 158 = .ok (.imul, 1) := dk_104 (dk_at dksX4_readLine_6 20 rfl rfl)
theorem dX4_readLine_159 : decode cX4_readLine 159 = .ok (.aload_n 0, 1) := dk_42 (dk_at dksX4_readLine_6 21 rfl rfl)
theorem dX4_readLine_160 : decode cX4_readLine 160 = .ok (.getfield 27, 3) := dk_180 0 27 (dk_at dksX4_readLine_7 0 rfl rfl)
theorem dX4_readLine_163 : decode cX4_readLine 163 = .ok (.aload_n 0, 1) := dk_42 (dk_at dksX4_readLine_7 3 rfl rfl)
theorem dX4_readLine_164 : decode cX4_readLine 164 = .ok (.getfield 246, 3) := dk_180 0 246 (dk_at dksX4_readLine_7 4 rfl rfl)
theorem dX4_readLine_167 : decode cX4_readLine 167 = .ok (.iaload, 1) := dk_46 (dk_at dksX4_readLine_7 7 rfl rfl)
theorem dX4_readLine_168 : decode cX4_readLine 168 = .ok (.iadd, 1) := dk_96 (dk_at dksX4_readLine_7 8 rfl rfl)
theorem dX4_readLine_169 : decode cX4_readLine 169 = .ok (.aload_n 0, 1) := dk_42 (dk_at dksX4_readLine_7 9 rfl rfl)
theorem dX4_readLine_170 : decode cX4_readLine 170 = .ok (.iconst 0, 1) := dk_3 (dk_at dksX4_readLine_7 10 rfl rfl)
theorem dX4_readLine_171 : decode cX4_readLine 171 = .ok (.bipush 20, 2) := dk_16 20 (dk_at dksX4_readLine_7 11 rfl rfl)
theorem dX4_readLine_173 : decode cX4_readLine 173 = .ok (.invokevirtual 268, 3) := dk_182 1 12 (dk_at dksX4_readLine_7 13 rfl rfl)
theorem dX4_readLine_176 : decode cX4_readLine 176 = .ok (.iastore, 1) := dk_79 (dk_at dksX4_readLine_7 16 rfl rfl)
theorem dX4_readLine_177 : decode cX4_readLine 177 = .ok (.aload_n 0, 1) := dk_42 (dk_at dksX4_readLine_7 17 rfl rfl)
theorem dX4_readLine_178 : decode cX4_readLine 178 = .ok (.getfield 27, 3) := dk_180 0 27 (dk_at dksX4_readLine_7 18 rfl rfl)
theorem dX4_readLine_181 : decode cX4_readLine 181 = .ok (.aload_n 0, 1) := dk_42 (dk_at dksX4_readLine_7 21 rfl rfl)
theorem dX4_readLine_182 : decode cX4_readLine 182 = .ok (.getfield 246, 3) := dk_180 0 246 (dk_at dksX4_readLine_8 0 rfl rfl)
theorem dX4_readLine_185 : decode cX4_readLine 185 = .ok (.dup2, 1) := dk_92 (dk_at dksX4_readLine_8 3 rfl rfl)
theorem dX4_readLine_186 : decode cX4_readLine 186 = .ok (.iaload, 1) := dk_46 (dk_at dksX4_readLine_8 4 rfl rfl)
theorem dX4_readLine_187 : decode cX4_readLine 187 = .ok (.iconst 1, 1) := dk_4 (dk_at dksX4_readLine_8 5 rfl rfl)
theorem dX4_readLine_188 : decode cX4_readLine 188 = .ok (.iadd, 1) := dk_96 (dk_at dksX4_readLine_8 6 rfl rfl)
theorem dX4_readLine_189 : decode cX4_readLine 189 = .ok (.iastore, 1) := dk_79 (dk_at dksX4_readLine_8 7 rfl rfl)
theorem dX4_readLine_190 : decode cX4_readLine 190 = .ok (.lload_n 1, 1) := dk_31 (dk_at dksX4_readLine_8 8 rfl rfl)
theorem dX4_readLine_191 : decode cX4_readLine 191 = .ok (.ldc2_w 168, 3) := dk_20 0 168 (dk_at dksX4_readLine_8 9 rfl rfl)
theorem dX4_readLine_194 : decode cX4_readLine 194 = .ok (.lcmp, 1) := dk_148 (dk_at dksX4_readLine_8 12 rfl rfl)
theorem dX4_readLine_195 : decode cX4_readLine 195 = .ok (.ifCond .ne 7, 3) := dk_154 0 7 (dk_at dksX4_readLine_8 13 rfl rfl)
theorem dX4_readLine_198 : decode cX4_readLine 198 = .ok (.aload_n 0, 1) := dk_42 (dk_at dksX4_readLine_8 16 rfl rfl)
theorem dX4_readLine_199 : decode cX4_readLine 199 = .ok (.invokevirtual 293, 3) := dk_182 1 37 (dk_at dksX4_readLine_8 17 rfl rfl)
theorem dX4_readLine_202 : decode cX4_readLine 202 = .ok (.lload_n 1, 1) := dk_31 (dk_at dksX4_readLine_8 20 rfl rfl)
theorem dX4_readLine_203 : decode cX4_readLine 203 = .ok (.ldc2_w 174, 3) := dk_20 0 174 (dk_at dksX4_readLine_8 21 rfl rfl)
theorem dX4_readLine_206 : decode cX4_readLine 206 = .ok (.lcmp, 1) := dk_148 (dk_at dksX4_readLine_9 0 rfl rfl)
theorem dX4_readLine_207 : decode cX4_readLine 207 = .ok (.ifCond .ne 33, 3) := dk_154 0 33 (dk_at dksX4_readLine_9 1 rfl rfl)
theorem dX4_readLine_210 : decode cX4_readLine 210 = .ok (.aload_n 0, 1) := dk_42 (dk_at dksX4_readLine_9 4 rfl rfl)
theorem dX4_readLine_211 : decode cX4_readLine 211 = .ok (.getfield 45, 3) := dk_180 0 45 (dk_at dksX4_readLine_9 5 rfl rfl)
theorem dX4_readLine_214 : decode cX4_readLine 214 = .ok (.aload_n 0, 1) := dk_42 (dk_at dksX4_readLine_9 8 rfl rfl)
theorem dX4_readLine_215 : decode cX4_readLine 215 = .ok (.getfield 246, 3) := dk_180 0 246 (dk_at dksX4_readLine_9 9 rfl rfl)
theorem dX4_readLine_218 : decode cX4_readLine 218 = .ok (.dup2, 1) := dk_92 (dk_at dksX4_readLine_9 12 rfl rfl)
theorem dX4_readLine_219 : decode cX4_readLine 219 = .ok (.iaload, 1) := dk_46 (dk_at dksX4_readLine_9 13 rfl rfl)
theorem dX4_readLine_220 : decode cX4_readLine 220 = .ok (.iconst 2, 1) := dk_5 (dk_at dksX4_readLine_9 14 rfl rfl)
theorem dX4_readLine_221 : decode cX4_readLine 221 = .ok (.ior, 1) := dk_128 (dk_at dksX4_readLine_9 15 rfl rfl)
theorem dX4_readLine_222 : decode cX4_readLine 222 = .ok (.iastore, 1) := dk_79 (dk_at dksX4_readLine_9 16 rfl rfl)
theorem dX4_readLine_223 : decode cX4_readLine 223 = .ok (.aload_n 0, 1) := dk_42 (dk_at dksX4_readLine_9 17 rfl rfl)
theorem dX4_readLine_224 : decode cX4_readLine 224 = .ok (.getfield 36, 3) := dk_180 0 36 (dk_at dksX4_readLine_9 18 rfl rfl)
theorem dX4_readLine_227 : decode cX4_readLine 227 = .ok (.aload_n 0, 1) := dk_42 (dk_at dksX4_readLine_9 21 rfl rfl)
theorem dX4_readLine_228 : decode cX4_readLine 228 = .ok (.getfield 246, 3) := dk_180 0 246 (dk_at dksX4_readLine_10 0 rfl rfl)
theorem dX4_readLine_231 : decode cX4_readLine 231 = .ok (.aload_n 0, 1) := dk_42 (dk_at dksX4_readLine_10 3 rfl rfl)
theorem dX4_readLine_232 : decode cX4_readLine 232 = .ok (.aload_n 0, 1) := dk_42 (dk_at dksX4_readLine_10 4 rfl rfl)
theorem dX4_readLine_233 : decode cX4_readLine 233 = .ok (.invokevirtual 275, 3) := dk_182 1 19 (dk_at dksX4_readLine_10 5 rfl rfl)
theorem dX4_readLine_236 : decode cX4_readLine 236 = .ok (.invokevirtual 296, 3) := dk_182 1 40 (dk_at dksX4_readLine_10 8 rfl rfl)
theorem dX4_readLine_239 : decode cX4_readLine 239 = .ok (.iastore, 1) := dk_79 (dk_at dksX4_readLine_10 11 rfl rfl)
theorem dX4_readLine_240 : decode cX4_readLine 240 = .ok (.lload_n 1, 1) := dk_31 (dk_at dksX4_readLine_10 12 rfl rfl)
theorem dX4_readLine_241 : decode cX4_readLine 241 = .ok (.ldc2_w 176, 3) := dk_20 0 176 (dk_at dksX4_readLine_10 13 rfl rfl)
theorem dX4_readLine_244 : decode cX4_readLine 244 = .ok (.lcmp, 1) := dk_148 (dk_at dksX4_readLine_10 16 rfl rfl)
theorem dX4_readLine_245 : decode cX4_readLine 245 = .ok (.ifCond .ne 7, 3) := dk_154 0 7 (dk_at dksX4_readLine_10 17 rfl rfl)
theorem dX4_readLine_248 : decode cX4_readLine 248 = .ok (.aload_n 0, 1) := dk_42 (dk_at dksX4_readLine_10 20 rfl rfl)
theorem dX4_readLine_249 : decode cX4_readLine 249 = .ok (.invokevirtual 299, 3) := dk_182 1 43 (dk_at dksX4_readLine_10 21 rfl rfl)
theorem dX4_readLine_252 : decode cX4_readLine 252 = .ok (.lload_n 1, 1) := dk_31 (dk_at dksX4_readLine_11 0 rfl rfl)
theorem dX4_readLine_253 : decode cX4_readLine 253 = .ok (.ldc2_w 178, 3) := dk_20 0 178 (dk_at dksX4_readLine_11 1 rfl rfl)
theorem dX4_readLine_256 : decode cX4_readLine 256 = .ok (.lcmp, 1) := dk_148 (dk_at dksX4_readLine_11 4 rfl rfl)
theorem dX4_readLine_257 : decode cX4_readLine 257 = .ok (.ifCond .ne 19, 3) := dk_154 0 19 (dk_at dksX4_readLine_11 5 rfl rfl)
theorem dX4_readLine_260 : decode cX4_readLine 260 = .ok (.aload_n 0, 1) := dk_42 (dk_at dksX4_readLine_11 8 rfl rfl)
theorem dX4_readLine_261 : decode cX4_readLine 261 = .ok (.getfield 39, 3) := dk_180 0 39 (dk_at dksX4_readLine_11 9 rfl rfl)
theorem dX4_readLine_264 : decode cX4_readLine 264 = .ok (.aload_n 0, 1) := dk_42 (dk_at dksX4_readLine_11 12 rfl rfl)
theorem dX4_readLine_265 : decode cX4_readLine 265 = .ok (.getfield 246, 3) := dk_180 0 246 (dk_at dksX4_readLine_11 13 rfl rfl)
theorem dX4_readLine_268 : decode cX4_readLine 268 = .ok (.aload_n 0, 1) := dk_42 (dk_at dksX4_readLine_11 16 rfl rfl)
theorem dX4_readLine_269 : decode cX4_readLine 269 = .ok (.iconst 2, 1) := dk_5 (dk_at dksX4_readLine_11 17 rfl rfl)
theorem dX4_readLine_270 : decode cX4_readLine 270 = .ok (.bipush 100, 2) := dk_16 100 (dk_at dksX4_readLine_11 18 rfl rfl)
theorem dX4_readLine_272 : decode cX4_readLine 272 = .ok (.invokevirtual 302, 3) := dk_182 1 46 (dk_at dksX4_readLine_11 20 rfl rfl)
theorem dX4_readLine_275 : decode cX4_readLine 275 = .ok (.iastore, 1) := dk_79 (dk_at dksX4_readLine_11 23 rfl rfl)
theorem dX4_readLine_276 : decode cX4_readLine 276 = .ok (.lload_n 1, 1) := dk_31 (dk_at dksX4_readLine_12 0 rfl rfl)
theorem dX4_readLine_277 : decode cX4_readLine 277 = .ok (.ldc2_w 180, 3) := dk_20 0 180 (dk_at dksX4_readLine_12 1 rfl rfl)
theorem dX4_readLine_280 : decode cX4_readLine 280 = .ok (.lcmp, 1) := dk_148 (dk_at dksX4_readLine_12 4 rfl rfl)
theorem dX4_readLine_281 : decode cX4_readLine 281 = .ok (.ifCond .ne 20, 3) := dk_154 0 20 (dk_at dksX4_readLine_12 5 rfl rfl)
theorem dX4_readLine_284 : decode cX4_readLine 284 = .ok (.aload_n 0, 1) := dk_42 (dk_at dksX4_readLine_12 8 rfl rfl)
theorem dX4_readLine_285 : decode cX4_readLine 285 = .ok (.getfield 42, 3) := dk_180 0 42 (dk_at dksX4_readLine_12 9 rfl rfl)
theorem dX4_readLine_288 : decode cX4_readLine 288 = .ok (.aload_n 0, 1) := dk_42 (dk_at dksX4_readLine_12 12 rfl rfl)
theorem dX4_readLine_289 : decode cX4_readLine 289 = .ok (.getfield 246, 3) := dk_180 0 246 (dk_at dksX4_readLine_12 13 rfl rfl)
theorem dX4_readLine_292 : decode cX4_readLine 292 = .ok (.aload_n 0, 1) := dk_42 (dk_at dksX4_readLine_12 16 rfl rfl)
theorem dX4_readLine_293 : decode cX4_readLine 293 = .ok (.iconst 3, 1) := dk_6 (dk_at dksX4_readLine_12 17 rfl rfl)
theorem dX4_readLine_294 : decode cX4_readLine 294 = .ok (.sipush 999, 3) := dk_17 3 231 (dk_at dksX4_readLine_12 18 rfl rfl)
theorem dX4_readLine_297 : decode cX4_readLine 297 = .ok (.invokevirtual 302, 3) := dk_182 1 46 (dk_at dksX4_readLine_12 21 rfl rfl)
theorem dX4_readLine_300 : decode cX4_readLine 300 = .ok (.iastore, 1) := dk_79 (dk_at dksX4_readLine_13 0 rfl rfl)
theorem dX4_readLine_301 : decode cX4_readLine 301 = .ok (.aload_n 0, 1) := dk_42 (dk_at dksX4_readLine_13 1 rfl rfl)
theorem dX4_readLine_302 : decode cX4_readLine 302 = .ok (.aload_n 0, 1) := dk_42 (dk_at dksX4_readLine_13 2 rfl rfl)
theorem dX4_readLine_303 : decode cX4_readLine 303 = .ok (.bipush 59, 2) := dk_16 59 (dk_at dksX4_readLine_13 3 rfl rfl)
theorem dX4_readLine_305 : decode cX4_readLine 305 = .ok (.invokevirtual 305, 3) := dk_182 1 49 (dk_at dksX4_readLine_13 5 rfl rfl)
theorem dX4_readLine_308 : decode cX4_readLine 308 = .ok (.invokevirtual 289, 3) := dk_182 1 33 (dk_at dksX4_readLine_13 8 rfl rfl)
theorem dX4_readLine_311 : decode cX4_readLine 311 = .ok (.return_, 1) := dk_177 (dk_at dksX4_readLine_13 11 rfl rfl)
abbrev cX4_isFull : ByteArray := prog_22_method_17_code
def yX4_isFull : MethodName := ⟨RX4, "isFull", "()Z"⟩
def dkwX4_isFull_9 : List UInt8 := [184, 1, 8, 153, 0, 7, 4, 167, 0, 4, 3, 172]
abbrev dktX4_isFull_9 : List UInt8 := dkwX4_isFull_9 ++ []
def dkwX4_isFull_8 : List UInt8 := [184, 1, 8, 172, 42, 20, 0, 180, 182, 1, 5, 153, 0, 19, 42, 180, 0, 45, 42, 180, 0, 246, 46, 6]
abbrev dktX4_isFull_8 : List UInt8 := dkwX4_isFull_8 ++ dktX4_isFull_9
def dkwX4_isFull_7 : List UInt8 := [184, 1, 8, 172, 42, 20, 0, 178, 182, 1, 5, 153, 0, 17, 42, 180, 0, 45, 42, 180, 0, 246, 46, 5]
abbrev dktX4_isFull_7 : List UInt8 := dkwX4_isFull_7 ++ dktX4_isFull_8
def dkwX4_isFull_6 : List UInt8 := [184, 1, 8, 172, 42, 20, 0, 176, 182, 1, 5, 153, 0, 17, 42, 180, 0, 45, 42, 180, 0, 246, 46, 3]
abbrev dktX4_isFull_6 : List UInt8 := dkwX4_isFull_6 ++ dktX4_isFull_7
def dkwX4_isFull_5 : List UInt8 := [3, 172, 42, 20, 0, 174, 182, 1, 5, 153, 0, 17, 42, 180, 0, 45, 42, 180, 0, 246, 46, 4]
abbrev dktX4_isFull_5 : List UInt8 := dkwX4_isFull_5 ++ dktX4_isFull_6
def dkwX4_isFull_4 : List UInt8 := [182, 1, 5, 153, 0, 23, 42, 180, 0, 30, 42, 180, 0, 246, 46, 16, 6, 160, 0, 7, 4, 167, 0, 4]
abbrev dktX4_isFull_4 : List UInt8 := dkwX4_isFull_4 ++ dktX4_isFull_5
def dkwX4_isFull_3 : List UInt8 := [180, 0, 27, 42, 180, 0, 246, 46, 16, 8, 160, 0, 7, 4, 167, 0, 4, 3, 172, 42, 20, 0, 168]
abbrev dktX4_isFull_3 : List UInt8 := dkwX4_isFull_3 ++ dktX4_isFull_4
def dkwX4_isFull_2 : List UInt8 := [46, 16, 14, 160, 0, 7, 4, 167, 0, 4, 3, 172, 42, 20, 0, 164, 182, 1, 5, 153, 0, 23, 42]
abbrev dktX4_isFull_2 : List UInt8 := dkwX4_isFull_2 ++ dktX4_isFull_3
def dkwX4_isFull_1 : List UInt8 := [4, 167, 0, 4, 3, 172, 42, 20, 0, 160, 182, 1, 5, 153, 0, 23, 42, 180, 0, 24, 42, 180, 0, 246]
abbrev dktX4_isFull_1 : List UInt8 := dkwX4_isFull_1 ++ dktX4_isFull_2
def dkwX4_isFull_0 : List UInt8 := [42, 20, 0, 158, 182, 1, 5, 153, 0, 23, 42, 180, 0, 20, 42, 180, 0, 246, 46, 16, 8, 160, 0, 7]
abbrev dktX4_isFull_0 : List UInt8 := dkwX4_isFull_0 ++ dktX4_isFull_1
theorem dksX4_isFull_0 : cX4_isFull.data.toList.drop 0 = dktX4_isFull_0 := by decide +kernel
theorem dksX4_isFull_1 : cX4_isFull.data.toList.drop 24 = dktX4_isFull_1 := dk_seg dksX4_isFull_0 24 rfl rfl
theorem dksX4_isFull_2 : cX4_isFull.data.toList.drop 48 = dktX4_isFull_2 := dk_seg dksX4_isFull_1 24 rfl rfl
theorem dksX4_isFull_3 : cX4_isFull.data.toList.drop 71 = dktX4_isFull_3 := dk_seg dksX4_isFull_2 23 rfl rfl
theorem dksX4_isFull_4 : cX4_isFull.data.toList.drop 94 = dktX4_isFull_4 := dk_seg dksX4_isFull_3 23 rfl rfl
theorem dksX4_isFull_5 : cX4_isFull.data.toList.drop 118 = dktX4_isFull_5 := dk_seg dksX4_isFull_4 24 rfl rfl
theorem dksX4_isFull_6 : cX4_isFull.data.toList.drop 140 = dktX4_isFull_6 := dk_seg dksX4_isFull_5 22 rfl rfl
theorem dksX4_isFull_7 : cX4_isFull.data.toList.drop 164 = dktX4_isFull_7 := dk_seg dksX4_isFull_6 24 rfl rfl
theorem dksX4_isFull_8 : cX4_isFull.data.toList.drop 188 = dktX4_isFull_8 := dk_seg dksX4_isFull_7 24 rfl rfl
theorem dksX4_isFull_9 : cX4_isFull.data.toList.drop 212 = dktX4_isFull_9 := dk_seg dksX4_isFull_8 24 rfl rfl
theorem dX4_isFull_0 : decode cX4_isFull 0 = .ok (.aload_n 0, 1) := dk_42 (dk_at dksX4_isFull_0 0 rfl rfl)
theorem dX4_isFull_1 : decode cX4_isFull 1 = .ok (.ldc2_w 158, 3) := dk_20 0 158 (dk_at dksX4_isFull_0 1 rfl rfl)
theorem dX4_isFull_4 : decode cX4_isFull 4 = .ok (.invokevirtual 261, 3) := dk_182 1 5 (dk_at dksX4_isFull_0 4 rfl rfl)
theorem dX4_isFull_7 : decode cX4_isFull 7 = .ok (.ifCond .eq 23, 3) := dk_153 0 23 (dk_at dksX4_isFull_0 7 rfl rfl)
theorem dX4_isFull_10 : decode cX4_isFull 10 = .ok (.aload_n 0, 1) := dk_42 (dk_at dksX4_isFull_0 10 rfl rfl)
theorem dX4_isFull_11 : decode cX4_isFull 11 = .ok (.getfield 20, 3) := dk_180 0 20 (dk_at dksX4_isFull_0 11 rfl rfl)
theorem dX4_isFull_14 : decode cX4_isFull 14 = .ok (.aload_n 0, 1) := dk_42 (dk_at dksX4_isFull_0 14 rfl rfl)
theorem dX4_isFull_15 : decode cX4_isFull 15 = .ok (.getfield 246, 3) := dk_180 0 246 (dk_at dksX4_isFull_0 15 rfl rfl)
theorem dX4_isFull_18 : decode cX4_isFull 18 = .ok (.iaload, 1) := dk_46 (dk_at dksX4_isFull_0 18 rfl rfl)
theorem dX4_isFull_19 : decode cX4_isFull 19 = .ok (.bipush 8, 2) := dk_16 8 (dk_at dksX4_isFull_0 19 rfl rfl)
theorem dX4_isFull_21 : decode cX4_isFull 21 = .ok (.if_icmp .ne 7, 3) := dk_160 0 7 (dk_at dksX4_isFull_0 21 rfl rfl)
theorem dX4_isFull_24 : decode cX4_isFull 24 = .ok (.iconst 1, 1) := dk_4 (dk_at dksX4_isFull_1 0 rfl rfl)
theorem dX4_isFull_25 : decode cX4_isFull 25 = .ok (.goto 4, 3) := dk_167 0 4 (dk_at dksX4_isFull_1 1 rfl rfl)
theorem dX4_isFull_28 : decode cX4_isFull 28 = .ok (.iconst 0, 1) := dk_3 (dk_at dksX4_isFull_1 4 rfl rfl)
theorem dX4_isFull_29 : decode cX4_isFull 29 = .ok (.ireturn, 1) := dk_172 (dk_at dksX4_isFull_1 5 rfl rfl)
theorem dX4_isFull_30 : decode cX4_isFull 30 = .ok (.aload_n 0, 1) := dk_42 (dk_at dksX4_isFull_1 6 rfl rfl)
theorem dX4_isFull_31 : decode cX4_isFull 31 = .ok (.ldc2_w 160, 3) := dk_20 0 160 (dk_at dksX4_isFull_1 7 rfl rfl)
theorem dX4_isFull_34 : decode cX4_isFull 34 = .ok (.invokevirtual 261, 3) := dk_182 1 5 (dk_at dksX4_isFull_1 10 rfl rfl)
theorem dX4_isFull_37 : decode cX4_isFull 37 = .ok (.ifCond .eq 23, 3) := dk_153 0 23 (dk_at dksX4_isFull_1 13 rfl rfl)
theorem dX4_isFull_40 : decode cX4_isFull 40 = .ok (.aload_n 0, 1) := dk_42 (dk_at dksX4_isFull_1 16 rfl rfl)
theorem dX4_isFull_41 : decode cX4_isFull 41 = .ok (.getfield 24, 3) := dk_180 0 24 (dk_at dksX4_isFull_1 17 rfl rfl)
theorem dX4_isFull_44 : decode cX4_isFull 44 = .ok (.aload_n 0, 1) := dk_42 (dk_at dksX4_isFull_1 20 rfl rfl)
theorem dX4_isFull_45 : decode cX4_isFull 45 = .ok (.getfield 246, 3) := dk_180 0 246 (dk_at dksX4_isFull_1 21 rfl rfl)
theorem dX4_isFull_48 : decode cX4_isFull 48 = .ok (.iaload, 1) := dk_46 (dk_at dksX4_isFull_2 0 rfl rfl)
theorem dX4_isFull_49 : decode cX4_isFull 49 = .ok (.bipush 14, 2) := dk_16 14 (dk_at dksX4_isFull_2 1 rfl rfl)
theorem dX4_isFull_51 : decode cX4_isFull 51 = .ok (.if_icmp .ne 7, 3) := dk_160 0 7 (dk_at dksX4_isFull_2 3 rfl rfl)
theorem dX4_isFull_54 : decode cX4_isFull 54 = .ok (.iconst 1, 1) := dk_4 (dk_at dksX4_isFull_2 6 rfl rfl)
theorem dX4_isFull_55 : decode cX4_isFull 55 = .ok (.goto 4, 3) := dk_167 0 4 (dk_at dksX4_isFull_2 7 rfl rfl)
theorem dX4_isFull_58 : decode cX4_isFull 58 = .ok (.iconst 0, 1) := dk_3 (dk_at dksX4_isFull_2 10 rfl rfl)
theorem dX4_isFull_59 : decode cX4_isFull 59 = .ok (.ireturn, 1) := dk_172 (dk_at dksX4_isFull_2 11 rfl rfl)
theorem dX4_isFull_60 : decode cX4_isFull 60 = .ok (.aload_n 0, 1) := dk_42 (dk_at dksX4_isFull_2 12 rfl rfl)
theorem dX4_isFull_61 : decode cX4_isFull 61 = .ok (.ldc2_w 164, 3) := dk_20 0 164 (dk_at dksX4_isFull_2 13 rfl rfl)
theorem dX4_isFull_64 : decode cX4_isFull 64 = .ok (.invokevirtual 261, 3) := dk_182 1 5 (dk_at dksX4_isFull_2 16 rfl rfl)
theorem dX4_isFull_67 : decode cX4_isFull 67 = .ok (.ifCond .eq 23, 3) := dk_153 0 23 (dk_at dksX4_isFull_2 19 rfl rfl)
theorem dX4_isFull_70 : decode cX4_isFull 70 = .ok (.aload_n 0, 1) := dk_42 (dk_at dksX4_isFull_2 22 rfl rfl)
theorem dX4_isFull_71 : decode cX4_isFull 71 = .ok (.getfield 27, 3) := dk_180 0 27 (dk_at dksX4_isFull_3 0 rfl rfl)
theorem dX4_isFull_74 : decode cX4_isFull 74 = .ok (.aload_n 0, 1) := dk_42 (dk_at dksX4_isFull_3 3 rfl rfl)
theorem dX4_isFull_75 : decode cX4_isFull 75 = .ok (.getfield 246, 3) := dk_180 0 246 (dk_at dksX4_isFull_3 4 rfl rfl)
theorem dX4_isFull_78 : decode cX4_isFull 78 = .ok (.iaload, 1) := dk_46 (dk_at dksX4_isFull_3 7 rfl rfl)
theorem dX4_isFull_79 : decode cX4_isFull 79 = .ok (.bipush 8, 2) := dk_16 8 (dk_at dksX4_isFull_3 8 rfl rfl)
theorem dX4_isFull_81 : decode cX4_isFull 81 = .ok (.if_icmp .ne 7, 3) := dk_160 0 7 (dk_at dksX4_isFull_3 10 rfl rfl)
theorem dX4_isFull_84 : decode cX4_isFull 84 = .ok (.iconst 1, 1) := dk_4 (dk_at dksX4_isFull_3 13 rfl rfl)
theorem dX4_isFull_85 : decode cX4_isFull 85 = .ok (.goto 4, 3) := dk_167 0 4 (dk_at dksX4_isFull_3 14 rfl rfl)
theorem dX4_isFull_88 : decode cX4_isFull 88 = .ok (.iconst 0, 1) := dk_3 (dk_at dksX4_isFull_3 17 rfl rfl)
theorem dX4_isFull_89 : decode cX4_isFull 89 = .ok (.ireturn, 1) := dk_172 (dk_at dksX4_isFull_3 18 rfl rfl)
theorem dX4_isFull_90 : decode cX4_isFull 90 = .ok (.aload_n 0, 1) := dk_42 (dk_at dksX4_isFull_3 19 rfl rfl)
theorem dX4_isFull_91 : decode cX4_isFull 91 = .ok (.ldc2_w 168, 3) := dk_20 0 168 (dk_at dksX4_isFull_3 20 rfl rfl)
theorem dX4_isFull_94 : decode cX4_isFull 94 = .ok (.invokevirtual 261, 3) := dk_182 1 5 (dk_at dksX4_isFull_4 0 rfl rfl)
theorem dX4_isFull_97 : decode cX4_isFull 97 = .ok (.ifCond .eq 23, 3) := dk_153 0 23 (dk_at dksX4_isFull_4 3 rfl rfl)
theorem dX4_isFull_100 : decode cX4_isFull 100 = .ok (.aload_n 0, 1) := dk_42 (dk_at dksX4_isFull_4 6 rfl rfl)
theorem dX4_isFull_101 : decode cX4_isFull 101 = .ok (.getfield 30, 3) := dk_180 0 30 (dk_at dksX4_isFull_4 7 rfl rfl)
theorem dX4_isFull_104 : decode cX4_isFull 104 = .ok (.aload_n 0, 1) := dk_42 (dk_at dksX4_isFull_4 10 rfl rfl)
theorem dX4_isFull_105 : decode cX4_isFull 105 = .ok (.getfield 246, 3) := dk_180 0 246 (dk_at dksX4_isFull_4 11 rfl rfl)
theorem dX4_isFull_108 : decode cX4_isFull 108 = .ok (.iaload, 1) := dk_46 (dk_at dksX4_isFull_4 14 rfl rfl)
theorem dX4_isFull_109 : decode cX4_isFull 109 = .ok (.bipush 6, 2) := dk_16 6 (dk_at dksX4_isFull_4 15 rfl rfl)
theorem dX4_isFull_111 : decode cX4_isFull 111 = .ok (.if_icmp .ne 7, 3) := dk_160 0 7 (dk_at dksX4_isFull_4 17 rfl rfl)
theorem dX4_isFull_114 : decode cX4_isFull 114 = .ok (.iconst 1, 1) := dk_4 (dk_at dksX4_isFull_4 20 rfl rfl)
theorem dX4_isFull_115 : decode cX4_isFull 115 = .ok (.goto 4, 3) := dk_167 0 4 (dk_at dksX4_isFull_4 21 rfl rfl)
theorem dX4_isFull_118 : decode cX4_isFull 118 = .ok (.iconst 0, 1) := dk_3 (dk_at dksX4_isFull_5 0 rfl rfl)
theorem dX4_isFull_119 : decode cX4_isFull 119 = .ok (.ireturn, 1) := dk_172 (dk_at dksX4_isFull_5 1 rfl rfl)
theorem dX4_isFull_120 : decode cX4_isFull 120 = .ok (.aload_n 0, 1) := dk_42 (dk_at dksX4_isFull_5 2 rfl rfl)
theorem dX4_isFull_121 : decode cX4_isFull 121 = .ok (.ldc2_w 174, 3) := dk_20 0 174 (dk_at dksX4_isFull_5 3 rfl rfl)
theorem dX4_isFull_124 : decode cX4_isFull 124 = .ok (.invokevirtual 261, 3) := dk_182 1 5 (dk_at dksX4_isFull_5 6 rfl rfl)
theorem dX4_isFull_127 : decode cX4_isFull 127 = .ok (.ifCond .eq 17, 3) := dk_153 0 17 (dk_at dksX4_isFull_5 9 rfl rfl)
theorem dX4_isFull_130 : decode cX4_isFull 130 = .ok (.aload_n 0, 1) := dk_42 (dk_at dksX4_isFull_5 12 rfl rfl)
theorem dX4_isFull_131 : decode cX4_isFull 131 = .ok (.getfield 45, 3) := dk_180 0 45 (dk_at dksX4_isFull_5 13 rfl rfl)
theorem dX4_isFull_134 : decode cX4_isFull 134 = .ok (.aload_n 0, 1) := dk_42 (dk_at dksX4_isFull_5 16 rfl rfl)
theorem dX4_isFull_135 : decode cX4_isFull 135 = .ok (.getfield 246, 3) := dk_180 0 246 (dk_at dksX4_isFull_5 17 rfl rfl)
theorem dX4_isFull_138 : decode cX4_isFull 138 = .ok (.iaload, 1) := dk_46 (dk_at dksX4_isFull_5 20 rfl rfl)
theorem dX4_isFull_139 : decode cX4_isFull 139 = .ok (.iconst 1, 1) := dk_4 (dk_at dksX4_isFull_5 21 rfl rfl)
theorem dX4_isFull_140 : decode cX4_isFull 140 = .ok (.invokestatic 264, 3) := dk_184 1 8 (dk_at dksX4_isFull_6 0 rfl rfl)
theorem dX4_isFull_143 : decode cX4_isFull 143 = .ok (.ireturn, 1) := dk_172 (dk_at dksX4_isFull_6 3 rfl rfl)
theorem dX4_isFull_144 : decode cX4_isFull 144 = .ok (.aload_n 0, 1) := dk_42 (dk_at dksX4_isFull_6 4 rfl rfl)
theorem dX4_isFull_145 : decode cX4_isFull 145 = .ok (.ldc2_w 176, 3) := dk_20 0 176 (dk_at dksX4_isFull_6 5 rfl rfl)
theorem dX4_isFull_148 : decode cX4_isFull 148 = .ok (.invokevirtual 261, 3) := dk_182 1 5 (dk_at dksX4_isFull_6 8 rfl rfl)
theorem dX4_isFull_151 : decode cX4_isFull 151 = .ok (.ifCond .eq 17, 3) := dk_153 0 17 (dk_at dksX4_isFull_6 11 rfl rfl)
theorem dX4_isFull_154 : decode cX4_isFull 154 = .ok (.aload_n 0, 1) := dk_42 (dk_at dksX4_isFull_6 14 rfl rfl)
theorem dX4_isFull_155 : decode cX4_isFull 155 = .ok (.getfield 45, 3) := dk_180 0 45 (dk_at dksX4_isFull_6 15 rfl rfl)
theorem dX4_isFull_158 : decode cX4_isFull 158 = .ok (.aload_n 0, 1) := dk_42 (dk_at dksX4_isFull_6 18 rfl rfl)
theorem dX4_isFull_159 : decode cX4_isFull 159 = .ok (.getfield 246, 3) := dk_180 0 246 (dk_at dksX4_isFull_6 19 rfl rfl)
theorem dX4_isFull_162 : decode cX4_isFull 162 = .ok (.iaload, 1) := dk_46 (dk_at dksX4_isFull_6 22 rfl rfl)
theorem dX4_isFull_163 : decode cX4_isFull 163 = .ok (.iconst 0, 1) := dk_3 (dk_at dksX4_isFull_6 23 rfl rfl)
theorem dX4_isFull_164 : decode cX4_isFull 164 = .ok (.invokestatic 264, 3) := dk_184 1 8 (dk_at dksX4_isFull_7 0 rfl rfl)
theorem dX4_isFull_167 : decode cX4_isFull 167 = .ok (.ireturn, 1) := dk_172 (dk_at dksX4_isFull_7 3 rfl rfl)
theorem dX4_isFull_168 : decode cX4_isFull 168 = .ok (.aload_n 0, 1) := dk_42 (dk_at dksX4_isFull_7 4 rfl rfl)
theorem dX4_isFull_169 : decode cX4_isFull 169 = .ok (.ldc2_w 178, 3) := dk_20 0 178 (dk_at dksX4_isFull_7 5 rfl rfl)
theorem dX4_isFull_172 : decode cX4_isFull 172 = .ok (.invokevirtual 261, 3) := dk_182 1 5 (dk_at dksX4_isFull_7 8 rfl rfl)
theorem dX4_isFull_175 : decode cX4_isFull 175 = .ok (.ifCond .eq 17, 3) := dk_153 0 17 (dk_at dksX4_isFull_7 11 rfl rfl)
theorem dX4_isFull_178 : decode cX4_isFull 178 = .ok (.aload_n 0, 1) := dk_42 (dk_at dksX4_isFull_7 14 rfl rfl)
theorem dX4_isFull_179 : decode cX4_isFull 179 = .ok (.getfield 45, 3) := dk_180 0 45 (dk_at dksX4_isFull_7 15 rfl rfl)
theorem dX4_isFull_182 : decode cX4_isFull 182 = .ok (.aload_n 0, 1) := dk_42 (dk_at dksX4_isFull_7 18 rfl rfl)
theorem dX4_isFull_183 : decode cX4_isFull 183 = .ok (.getfield 246, 3) := dk_180 0 246 (dk_at dksX4_isFull_7 19 rfl rfl)
theorem dX4_isFull_186 : decode cX4_isFull 186 = .ok (.iaload, 1) := dk_46 (dk_at dksX4_isFull_7 22 rfl rfl)
theorem dX4_isFull_187 : decode cX4_isFull 187 = .ok (.iconst 2, 1) := dk_5 (dk_at dksX4_isFull_7 23 rfl rfl)
theorem dX4_isFull_188 : decode cX4_isFull 188 = .ok (.invokestatic 264, 3) := dk_184 1 8 (dk_at dksX4_isFull_8 0 rfl rfl)
theorem dX4_isFull_191 : decode cX4_isFull 191 = .ok (.ireturn, 1) := dk_172 (dk_at dksX4_isFull_8 3 rfl rfl)
theorem dX4_isFull_192 : decode cX4_isFull 192 = .ok (.aload_n 0, 1) := dk_42 (dk_at dksX4_isFull_8 4 rfl rfl)
theorem dX4_isFull_193 : decode cX4_isFull 193 = .ok (.ldc2_w 180, 3) := dk_20 0 180 (dk_at dksX4_isFull_8 5 rfl rfl)
theorem dX4_isFull_196 : decode cX4_isFull 196 = .ok (.invokevirtual 261, 3) := dk_182 1 5 (dk_at dksX4_isFull_8 8 rfl rfl)
theorem dX4_isFull_199 : decode cX4_isFull 199 = .ok (.ifCond .eq 19, 3) := dk_153 0 19 (dk_at dksX4_isFull_8 11 rfl rfl)
theorem dX4_isFull_202 : decode cX4_isFull 202 = .ok (.aload_n 0, 1) := dk_42 (dk_at dksX4_isFull_8 14 rfl rfl)
theorem dX4_isFull_203 : decode cX4_isFull 203 = .ok (.getfield 45, 3) := dk_180 0 45 (dk_at dksX4_isFull_8 15 rfl rfl)
theorem dX4_isFull_206 : decode cX4_isFull 206 = .ok (.aload_n 0, 1) := dk_42 (dk_at dksX4_isFull_8 18 rfl rfl)
theorem dX4_isFull_207 : decode cX4_isFull 207 = .ok (.getfield 246, 3) := dk_180 0 246 (dk_at dksX4_isFull_8 19 rfl rfl)
theorem dX4_isFull_210 : decode cX4_isFull 210 = .ok (.iaload, 1) := dk_46 (dk_at dksX4_isFull_8 22 rfl rfl)
theorem dX4_isFull_211 : decode cX4_isFull 211 = .ok (.iconst 3, 1) := dk_6 (dk_at dksX4_isFull_8 23 rfl rfl)
theorem dX4_isFull_212 : decode cX4_isFull 212 = .ok (.invokestatic 264, 3) := dk_184 1 8 (dk_at dksX4_isFull_9 0 rfl rfl)
theorem dX4_isFull_215 : decode cX4_isFull 215 = .ok (.ifCond .eq 7, 3) := dk_153 0 7 (dk_at dksX4_isFull_9 3 rfl rfl)
theorem dX4_isFull_218 : decode cX4_isFull 218 = .ok (.iconst 1, 1) := dk_4 (dk_at dksX4_isFull_9 6 rfl rfl)
theorem dX4_isFull_219 : decode cX4_isFull 219 = .ok (.goto 4, 3) := dk_167 0 4 (dk_at dksX4_isFull_9 7 rfl rfl)
theorem dX4_isFull_222 : decode cX4_isFull 222 = .ok (.iconst 0, 1) := dk_3 (dk_at dksX4_isFull_9 10 rfl rfl)
theorem dX4_isFull_223 : decode cX4_isFull 223 = .ok (.ireturn, 1) := dk_172 (dk_at dksX4_isFull_9 11 rfl rfl)
abbrev cX4_isWord : ByteArray := prog_22_method_11_code
def yX4_isWord : MethodName := ⟨RX4, "isWord", "(J)Z"⟩
def dkwX4_isWord_0 : List UInt8 := [42, 180, 0, 208, 6, 160, 0, 16, 42, 180, 0, 215, 31, 148, 154, 0, 7, 4, 167, 0, 4, 3, 172]
abbrev dktX4_isWord_0 : List UInt8 := dkwX4_isWord_0 ++ []
theorem dksX4_isWord_0 : cX4_isWord.data.toList.drop 0 = dktX4_isWord_0 := by decide +kernel
theorem dX4_isWord_0 : decode cX4_isWord 0 = .ok (.aload_n 0, 1) := dk_42 (dk_at dksX4_isWord_0 0 rfl rfl)
theorem dX4_isWord_1 : decode cX4_isWord 1 = .ok (.getfield 208, 3) := dk_180 0 208 (dk_at dksX4_isWord_0 1 rfl rfl)
theorem dX4_isWord_4 : decode cX4_isWord 4 = .ok (.iconst 3, 1) := dk_6 (dk_at dksX4_isWord_0 4 rfl rfl)
theorem dX4_isWord_5 : decode cX4_isWord 5 = .ok (.if_icmp .ne 16, 3) := dk_160 0 16 (dk_at dksX4_isWord_0 5 rfl rfl)
theorem dX4_isWord_8 : decode cX4_isWord 8 = .ok (.aload_n 0, 1) := dk_42 (dk_at dksX4_isWord_0 8 rfl rfl)
theorem dX4_isWord_9 : decode cX4_isWord 9 = .ok (.getfield 215, 3) := dk_180 0 215 (dk_at dksX4_isWord_0 9 rfl rfl)
theorem dX4_isWord_12 : decode cX4_isWord 12 = .ok (.lload_n 1, 1) := dk_31 (dk_at dksX4_isWord_0 12 rfl rfl)
theorem dX4_isWord_13 : decode cX4_isWord 13 = .ok (.lcmp, 1) := dk_148 (dk_at dksX4_isWord_0 13 rfl rfl)
theorem dX4_isWord_14 : decode cX4_isWord 14 = .ok (.ifCond .ne 7, 3) := dk_154 0 7 (dk_at dksX4_isWord_0 14 rfl rfl)
theorem dX4_isWord_17 : decode cX4_isWord 17 = .ok (.iconst 1, 1) := dk_4 (dk_at dksX4_isWord_0 17 rfl rfl)
theorem dX4_isWord_18 : decode cX4_isWord 18 = .ok (.goto 4, 3) := dk_167 0 4 (dk_at dksX4_isWord_0 18 rfl rfl)
theorem dX4_isWord_21 : decode cX4_isWord 21 = .ok (.iconst 0, 1) := dk_3 (dk_at dksX4_isWord_0 21 rfl rfl)
theorem dX4_isWord_22 : decode cX4_isWord 22 = .ok (.ireturn, 1) := dk_172 (dk_at dksX4_isWord_0 22 rfl rfl)
abbrev cX4_bit : ByteArray := prog_22_method_42_code
def yX4_bit : MethodName := ⟨RX4, "bit", "(II)Z"⟩
def dkwX4_bit_0 : List UInt8 := [26, 27, 122, 4, 126, 4, 160, 0, 7, 4, 167, 0, 4, 3, 172]
abbrev dktX4_bit_0 : List UInt8 := dkwX4_bit_0 ++ []
theorem dksX4_bit_0 : cX4_bit.data.toList.drop 0 = dktX4_bit_0 := by decide +kernel
theorem dX4_bit_0 : decode cX4_bit 0 = .ok (.iload_n 0, 1) := dk_26 (dk_at dksX4_bit_0 0 rfl rfl)
theorem dX4_bit_1 : decode cX4_bit 1 = .ok (.iload_n 1, 1) := dk_27 (dk_at dksX4_bit_0 1 rfl rfl)
theorem dX4_bit_2 : decode cX4_bit 2 = .ok (.ishr, 1) := dk_122 (dk_at dksX4_bit_0 2 rfl rfl)
theorem dX4_bit_3 : decode cX4_bit 3 = .ok (.iconst 1, 1) := dk_4 (dk_at dksX4_bit_0 3 rfl rfl)
theorem dX4_bit_4 : decode cX4_bit 4 = .ok (.iand, 1) := dk_126 (dk_at dksX4_bit_0 4 rfl rfl)
theorem dX4_bit_5 : decode cX4_bit 5 = .ok (.iconst 1, 1) := dk_4 (dk_at dksX4_bit_0 5 rfl rfl)
theorem dX4_bit_6 : decode cX4_bit 6 = .ok (.if_icmp .ne 7, 3) := dk_160 0 7 (dk_at dksX4_bit_0 6 rfl rfl)
theorem dX4_bit_9 : decode cX4_bit 9 = .ok (.iconst 1, 1) := dk_4 (dk_at dksX4_bit_0 9 rfl rfl)
theorem dX4_bit_10 : decode cX4_bit 10 = .ok (.goto 4, 3) := dk_167 0 4 (dk_at dksX4_bit_0 10 rfl rfl)
theorem dX4_bit_13 : decode cX4_bit 13 = .ok (.iconst 0, 1) := dk_3 (dk_at dksX4_bit_0 13 rfl rfl)
theorem dX4_bit_14 : decode cX4_bit 14 = .ok (.ireturn, 1) := dk_172 (dk_at dksX4_bit_0 14 rfl rfl)
abbrev cX4_misplaced : ByteArray := prog_22_method_12_code
def yX4_misplaced : MethodName := ⟨RX4, "misplaced", "()V"⟩
def dkwX4_misplaced_0 : List UInt8 := [42, 42, 180, 0, 208, 4, 160, 0, 7, 4, 167, 0, 4, 5, 42, 180, 0, 201, 182, 0, 232, 177]
abbrev dktX4_misplaced_0 : List UInt8 := dkwX4_misplaced_0 ++ []
theorem dksX4_misplaced_0 : cX4_misplaced.data.toList.drop 0 = dktX4_misplaced_0 := by decide +kernel
theorem dX4_misplaced_0 : decode cX4_misplaced 0 = .ok (.aload_n 0, 1) := dk_42 (dk_at dksX4_misplaced_0 0 rfl rfl)
theorem dX4_misplaced_1 : decode cX4_misplaced 1 = .ok (.aload_n 0, 1) := dk_42 (dk_at dksX4_misplaced_0 1 rfl rfl)
theorem dX4_misplaced_2 : decode cX4_misplaced 2 = .ok (.getfield 208, 3) := dk_180 0 208 (dk_at dksX4_misplaced_0 2 rfl rfl)
theorem dX4_misplaced_5 : decode cX4_misplaced 5 = .ok (.iconst 1, 1) := dk_4 (dk_at dksX4_misplaced_0 5 rfl rfl)
theorem dX4_misplaced_6 : decode cX4_misplaced 6 = .ok (.if_icmp .ne 7, 3) := dk_160 0 7 (dk_at dksX4_misplaced_0 6 rfl rfl)
theorem dX4_misplaced_9 : decode cX4_misplaced 9 = .ok (.iconst 1, 1) := dk_4 (dk_at dksX4_misplaced_0 9 rfl rfl)
theorem dX4_misplaced_10 : decode cX4_misplaced 10 = .ok (.goto 4, 3) := dk_167 0 4 (dk_at dksX4_misplaced_0 10 rfl rfl)
theorem dX4_misplaced_13 : decode cX4_misplaced 13 = .ok (.iconst 2, 1) := dk_5 (dk_at dksX4_misplaced_0 13 rfl rfl)
theorem dX4_misplaced_14 : decode cX4_misplaced 14 = .ok (.aload_n 0, 1) := dk_42 (dk_at dksX4_misplaced_0 14 rfl rfl)
theorem dX4_misplaced_15 : decode cX4_misplaced 15 = .ok (.getfield 201, 3) := dk_180 0 201 (dk_at dksX4_misplaced_0 15 rfl rfl)
theorem dX4_misplaced_18 : decode cX4_misplaced 18 = .ok (.invokevirtual 232, 3) := dk_182 0 232 (dk_at dksX4_misplaced_0 18 rfl rfl)
theorem dX4_misplaced_21 : decode cX4_misplaced 21 = .ok (.return_, 1) := dk_177 (dk_at dksX4_misplaced_0 21 rfl rfl)
abbrev cX4_fails : ByteArray := prog_22_method_5_code
def yX4_fails : MethodName := ⟨RX4, "fails", "(II)V"⟩
def dkwX4_fails_0 : List UInt8 := [42, 180, 0, 155, 158, 0, 4, 177, 42, 27, 181, 0, 155, 42, 28, 181, 0, 16, 177]
abbrev dktX4_fails_0 : List UInt8 := dkwX4_fails_0 ++ []
theorem dksX4_fails_0 : cX4_fails.data.toList.drop 0 = dktX4_fails_0 := by decide +kernel
theorem dX4_fails_0 : decode cX4_fails 0 = .ok (.aload_n 0, 1) := dk_42 (dk_at dksX4_fails_0 0 rfl rfl)
theorem dX4_fails_1 : decode cX4_fails 1 = .ok (.getfield 155, 3) := dk_180 0 155 (dk_at dksX4_fails_0 1 rfl rfl)
theorem dX4_fails_4 : decode cX4_fails 4 = .ok (.ifCond .le 4, 3) := dk_158 0 4 (dk_at dksX4_fails_0 4 rfl rfl)
theorem dX4_fails_7 : decode cX4_fails 7 = .ok (.return_, 1) := dk_177 (dk_at dksX4_fails_0 7 rfl rfl)
theorem dX4_fails_8 : decode cX4_fails 8 = .ok (.aload_n 0, 1) := dk_42 (dk_at dksX4_fails_0 8 rfl rfl)
theorem dX4_fails_9 : decode cX4_fails 9 = .ok (.iload_n 1, 1) := dk_27 (dk_at dksX4_fails_0 9 rfl rfl)
theorem dX4_fails_10 : decode cX4_fails 10 = .ok (.putfield 155, 3) := dk_181 0 155 (dk_at dksX4_fails_0 10 rfl rfl)
theorem dX4_fails_13 : decode cX4_fails 13 = .ok (.aload_n 0, 1) := dk_42 (dk_at dksX4_fails_0 13 rfl rfl)
theorem dX4_fails_14 : decode cX4_fails 14 = .ok (.iload_n 2, 1) := dk_28 (dk_at dksX4_fails_0 14 rfl rfl)
theorem dX4_fails_15 : decode cX4_fails 15 = .ok (.putfield 16, 3) := dk_181 0 16 (dk_at dksX4_fails_0 15 rfl rfl)
theorem dX4_fails_18 : decode cX4_fails 18 = .ok (.return_, 1) := dk_177 (dk_at dksX4_fails_0 18 rfl rfl)
abbrev cX4_knotHere : ByteArray := prog_22_method_21_code
def yX4_knotHere : MethodName := ⟨RX4, "knotHere", "()I"⟩
def dkwX4_knotHere_1 : List UInt8 := [172]
abbrev dktX4_knotHere_1 : List UInt8 := dkwX4_knotHere_1 ++ []
def dkwX4_knotHere_0 : List UInt8 := [42, 42, 180, 0, 72, 16, 8, 42, 180, 0, 246, 104, 42, 180, 0, 20, 42, 180, 0, 246, 46, 182, 1, 52]
abbrev dktX4_knotHere_0 : List UInt8 := dkwX4_knotHere_0 ++ dktX4_knotHere_1
theorem dksX4_knotHere_0 : cX4_knotHere.data.toList.drop 0 = dktX4_knotHere_0 := by decide +kernel
theorem dksX4_knotHere_1 : cX4_knotHere.data.toList.drop 24 = dktX4_knotHere_1 := dk_seg dksX4_knotHere_0 24 rfl rfl
theorem dX4_knotHere_0 : decode cX4_knotHere 0 = .ok (.aload_n 0, 1) := dk_42 (dk_at dksX4_knotHere_0 0 rfl rfl)
theorem dX4_knotHere_1 : decode cX4_knotHere 1 = .ok (.aload_n 0, 1) := dk_42 (dk_at dksX4_knotHere_0 1 rfl rfl)
theorem dX4_knotHere_2 : decode cX4_knotHere 2 = .ok (.getfield 72, 3) := dk_180 0 72 (dk_at dksX4_knotHere_0 2 rfl rfl)
theorem dX4_knotHere_5 : decode cX4_knotHere 5 = .ok (.bipush 8, 2) := dk_16 8 (dk_at dksX4_knotHere_0 5 rfl rfl)
theorem dX4_knotHere_7 : decode cX4_knotHere 7 = .ok (.aload_n 0, 1) := dk_42 (dk_at dksX4_knotHere_0 7 rfl rfl)
theorem dX4_knotHere_8 : decode cX4_knotHere 8 = .ok (.getfield 246, 3) := dk_180 0 246 (dk_at dksX4_knotHere_0 8 rfl rfl)
theorem dX4_knotHere_11 : decode cX4_knotHere 11 = .ok (.imul, 1) := dk_104 (dk_at dksX4_knotHere_0 11 rfl rfl)
theorem dX4_knotHere_12 : decode cX4_knotHere 12 = .ok (.aload_n 0, 1) := dk_42 (dk_at dksX4_knotHere_0 12 rfl rfl)
theorem dX4_knotHere_13 : decode cX4_knotHere 13 = .ok (.getfield 20, 3) := dk_180 0 20 (dk_at dksX4_knotHere_0 13 rfl rfl)
theorem dX4_knotHere_16 : decode cX4_knotHere 16 = .ok (.aload_n 0, 1) := dk_42 (dk_at dksX4_knotHere_0 16 rfl rfl)
theorem dX4_knotHere_17 : decode cX4_knotHere 17 = .ok (.getfield 246, 3) := dk_180 0 246 (dk_at dksX4_knotHere_0 17 rfl rfl)
theorem dX4_knotHere_20 : decode cX4_knotHere 20 = .ok (.iaload, 1) := dk_46 (dk_at dksX4_knotHere_0 20 rfl rfl)
theorem dX4_knotHere_21 : decode cX4_knotHere 21 = .ok (.invokevirtual 308, 3) := dk_182 1 52 (dk_at dksX4_knotHere_0 21 rfl rfl)
theorem dX4_knotHere_24 : decode cX4_knotHere 24 = .ok (.ireturn, 1) := dk_172 (dk_at dksX4_knotHere_1 0 rfl rfl)
abbrev cX4_here : ByteArray := prog_22_method_20_code
def yX4_here : MethodName := ⟨RX4, "here", "([JII)I"⟩
def dkwX4_here_1 : List UInt8 := [180, 0, 215, 148, 154, 0, 6, 21, 4, 172, 132, 4, 1, 167, 255, 222, 2, 172]
abbrev dktX4_here_1 : List UInt8 := dkwX4_here_1 ++ []
def dkwX4_here_0 : List UInt8 := [3, 54, 4, 21, 4, 29, 162, 0, 34, 42, 180, 0, 208, 5, 160, 0, 20, 43, 28, 21, 4, 96, 47, 42]
abbrev dktX4_here_0 : List UInt8 := dkwX4_here_0 ++ dktX4_here_1
theorem dksX4_here_0 : cX4_here.data.toList.drop 0 = dktX4_here_0 := by decide +kernel
theorem dksX4_here_1 : cX4_here.data.toList.drop 24 = dktX4_here_1 := dk_seg dksX4_here_0 24 rfl rfl
theorem dX4_here_0 : decode cX4_here 0 = .ok (.iconst 0, 1) := dk_3 (dk_at dksX4_here_0 0 rfl rfl)
theorem dX4_here_1 : decode cX4_here 1 = .ok (.istore 4, 2) := dk_54 4 (dk_at dksX4_here_0 1 rfl rfl)
theorem dX4_here_3 : decode cX4_here 3 = .ok (.iload 4, 2) := dk_21 4 (dk_at dksX4_here_0 3 rfl rfl)
theorem dX4_here_5 : decode cX4_here 5 = .ok (.iload_n 3, 1) := dk_29 (dk_at dksX4_here_0 5 rfl rfl)
theorem dX4_here_6 : decode cX4_here 6 = .ok (.if_icmp .ge 34, 3) := dk_162 0 34 (dk_at dksX4_here_0 6 rfl rfl)
theorem dX4_here_9 : decode cX4_here 9 = .ok (.aload_n 0, 1) := dk_42 (dk_at dksX4_here_0 9 rfl rfl)
theorem dX4_here_10 : decode cX4_here 10 = .ok (.getfield 208, 3) := dk_180 0 208 (dk_at dksX4_here_0 10 rfl rfl)
theorem dX4_here_13 : decode cX4_here 13 = .ok (.iconst 2, 1) := dk_5 (dk_at dksX4_here_0 13 rfl rfl)
theorem dX4_here_14 : decode cX4_here 14 = .ok (.if_icmp .ne 20, 3) := dk_160 0 20 (dk_at dksX4_here_0 14 rfl rfl)
theorem dX4_here_17 : decode cX4_here 17 = .ok (.aload_n 1, 1) := dk_43 (dk_at dksX4_here_0 17 rfl rfl)
theorem dX4_here_18 : decode cX4_here 18 = .ok (.iload_n 2, 1) := dk_28 (dk_at dksX4_here_0 18 rfl rfl)
theorem dX4_here_19 : decode cX4_here 19 = .ok (.iload 4, 2) := dk_21 4 (dk_at dksX4_here_0 19 rfl rfl)
theorem dX4_here_21 : decode cX4_here 21 = .ok (.iadd, 1) := dk_96 (dk_at dksX4_here_0 21 rfl rfl)
theorem dX4_here_22 : decode cX4_here 22 = .ok (.laload, 1) := dk_47 (dk_at dksX4_here_0 22 rfl rfl)
theorem dX4_here_23 : decode cX4_here 23 = .ok (.aload_n 0, 1) := dk_42 (dk_at dksX4_here_0 23 rfl rfl)
theorem dX4_here_24 : decode cX4_here 24 = .ok (.getfield 215, 3) := dk_180 0 215 (dk_at dksX4_here_1 0 rfl rfl)
theorem dX4_here_27 : decode cX4_here 27 = .ok (.lcmp, 1) := dk_148 (dk_at dksX4_here_1 3 rfl rfl)
theorem dX4_here_28 : decode cX4_here 28 = .ok (.ifCond .ne 6, 3) := dk_154 0 6 (dk_at dksX4_here_1 4 rfl rfl)
theorem dX4_here_31 : decode cX4_here 31 = .ok (.iload 4, 2) := dk_21 4 (dk_at dksX4_here_1 7 rfl rfl)
theorem dX4_here_33 : decode cX4_here 33 = .ok (.ireturn, 1) := dk_172 (dk_at dksX4_here_1 9 rfl rfl)
theorem dX4_here_34 : decode cX4_here 34 = .ok (.iinc 4 1, 3) := dk_132 4 1 (dk_at dksX4_here_1 10 rfl rfl)
theorem dX4_here_37 : decode cX4_here 37 = .ok (.goto (-34), 3) := dk_167 255 222 (dk_at dksX4_here_1 13 rfl rfl)
theorem dX4_here_40 : decode cX4_here 40 = .ok (.iconst (-1), 1) := dk_2 (dk_at dksX4_here_1 16 rfl rfl)
theorem dX4_here_41 : decode cX4_here 41 = .ok (.ireturn, 1) := dk_172 (dk_at dksX4_here_1 17 rfl rfl)
abbrev cX4_fresh : ByteArray := prog_22_method_23_code
def yX4_fresh : MethodName := ⟨RX4, "fresh", "(I)J"⟩
def dkwX4_fresh_2 : List UInt8 := [153, 0, 7, 42, 182, 0, 240, 32, 173]
abbrev dktX4_fresh_2 : List UInt8 := dkwX4_fresh_2 ++ []
def dkwX4_fresh_1 : List UInt8 := [27, 155, 0, 12, 42, 6, 42, 180, 0, 201, 182, 0, 232, 42, 180, 0, 215, 65, 42, 182, 0, 236]
abbrev dktX4_fresh_1 : List UInt8 := dkwX4_fresh_1 ++ dktX4_fresh_2
def dkwX4_fresh_0 : List UInt8 := [42, 182, 0, 236, 154, 0, 5, 9, 173, 42, 180, 0, 208, 5, 159, 0, 10, 42, 182, 0, 243, 167, 0, 16]
abbrev dktX4_fresh_0 : List UInt8 := dkwX4_fresh_0 ++ dktX4_fresh_1
theorem dksX4_fresh_0 : cX4_fresh.data.toList.drop 0 = dktX4_fresh_0 := by decide +kernel
theorem dksX4_fresh_1 : cX4_fresh.data.toList.drop 24 = dktX4_fresh_1 := dk_seg dksX4_fresh_0 24 rfl rfl
theorem dksX4_fresh_2 : cX4_fresh.data.toList.drop 46 = dktX4_fresh_2 := dk_seg dksX4_fresh_1 22 rfl rfl
theorem dX4_fresh_0 : decode cX4_fresh 0 = .ok (.aload_n 0, 1) := dk_42 (dk_at dksX4_fresh_0 0 rfl rfl)
theorem dX4_fresh_1 : decode cX4_fresh 1 = .ok (.invokevirtual 236, 3) := dk_182 0 236 (dk_at dksX4_fresh_0 1 rfl rfl)
theorem dX4_fresh_4 : decode cX4_fresh 4 = .ok (.ifCond .ne 5, 3) := dk_154 0 5 (dk_at dksX4_fresh_0 4 rfl rfl)
theorem dX4_fresh_7 : decode cX4_fresh 7 = .ok (.lconst 0, 1) := dk_9 (dk_at dksX4_fresh_0 7 rfl rfl)
theorem dX4_fresh_8 : decode cX4_fresh 8 = .ok (.lreturn, 1) := dk_173 (dk_at dksX4_fresh_0 8 rfl rfl)
theorem dX4_fresh_9 : decode cX4_fresh 9 = .ok (.aload_n 0, 1) := dk_42 (dk_at dksX4_fresh_0 9 rfl rfl)
theorem dX4_fresh_10 : decode cX4_fresh 10 = .ok (.getfield 208, 3) := dk_180 0 208 (dk_at dksX4_fresh_0 10 rfl rfl)
theorem dX4_fresh_13 : decode cX4_fresh 13 = .ok (.iconst 2, 1) := dk_5 (dk_at dksX4_fresh_0 13 rfl rfl)
theorem dX4_fresh_14 : decode cX4_fresh 14 = .ok (.if_icmp .eq 10, 3) := dk_159 0 10 (dk_at dksX4_fresh_0 14 rfl rfl)
theorem dX4_fresh_17 : decode cX4_fresh 17 = .ok (.aload_n 0, 1) := dk_42 (dk_at dksX4_fresh_0 17 rfl rfl)
theorem dX4_fresh_18 : decode cX4_fresh 18 = .ok (.invokevirtual 243, 3) := dk_182 0 243 (dk_at dksX4_fresh_0 18 rfl rfl)
theorem dX4_fresh_21 : decode cX4_fresh 21 = .ok (.goto 16, 3) := dk_167 0 16 (dk_at dksX4_fresh_0 21 rfl rfl)
theorem dX4_fresh_24 : decode cX4_fresh 24 = .ok (.iload_n 1, 1) := dk_27 (dk_at dksX4_fresh_1 0 rfl rfl)
theorem dX4_fresh_25 : decode cX4_fresh 25 = .ok (.ifCond .lt 12, 3) := dk_155 0 12 (dk_at dksX4_fresh_1 1 rfl rfl)
theorem dX4_fresh_28 : decode cX4_fresh 28 = .ok (.aload_n 0, 1) := dk_42 (dk_at dksX4_fresh_1 4 rfl rfl)
theorem dX4_fresh_29 : decode cX4_fresh 29 = .ok (.iconst 3, 1) := dk_6 (dk_at dksX4_fresh_1 5 rfl rfl)
theorem dX4_fresh_30 : decode cX4_fresh 30 = .ok (.aload_n 0, 1) := dk_42 (dk_at dksX4_fresh_1 6 rfl rfl)
theorem dX4_fresh_31 : decode cX4_fresh 31 = .ok (.getfield 201, 3) := dk_180 0 201 (dk_at dksX4_fresh_1 7 rfl rfl)
theorem dX4_fresh_34 : decode cX4_fresh 34 = .ok (.invokevirtual 232, 3) := dk_182 0 232 (dk_at dksX4_fresh_1 10 rfl rfl)
theorem dX4_fresh_37 : decode cX4_fresh 37 = .ok (.aload_n 0, 1) := dk_42 (dk_at dksX4_fresh_1 13 rfl rfl)
theorem dX4_fresh_38 : decode cX4_fresh 38 = .ok (.getfield 215, 3) := dk_180 0 215 (dk_at dksX4_fresh_1 14 rfl rfl)
theorem dX4_fresh_41 : decode cX4_fresh 41 = .ok (.lstore_n 2, 1) := dk_65 (dk_at dksX4_fresh_1 17 rfl rfl)
theorem dX4_fresh_42 : decode cX4_fresh 42 = .ok (.aload_n 0, 1) := dk_42 (dk_at dksX4_fresh_1 18 rfl rfl)
theorem dX4_fresh_43 : decode cX4_fresh 43 = .ok (.invokevirtual 236, 3) := dk_182 0 236 (dk_at dksX4_fresh_1 19 rfl rfl)
theorem dX4_fresh_46 : decode cX4_fresh 46 = .ok (.ifCond .eq 7, 3) := dk_153 0 7 (dk_at dksX4_fresh_2 0 rfl rfl)
theorem dX4_fresh_49 : decode cX4_fresh 49 = .ok (.aload_n 0, 1) := dk_42 (dk_at dksX4_fresh_2 3 rfl rfl)
theorem dX4_fresh_50 : decode cX4_fresh 50 = .ok (.invokevirtual 240, 3) := dk_182 0 240 (dk_at dksX4_fresh_2 4 rfl rfl)
theorem dX4_fresh_53 : decode cX4_fresh 53 = .ok (.lload_n 2, 1) := dk_32 (dk_at dksX4_fresh_2 7 rfl rfl)
theorem dX4_fresh_54 : decode cX4_fresh 54 = .ok (.lreturn, 1) := dk_173 (dk_at dksX4_fresh_2 8 rfl rfl)
abbrev cX4_readThread : ByteArray := prog_22_method_26_code
def yX4_readThread : MethodName := ⟨RX4, "readThread", "()V"⟩
def dkwX4_readThread_8 : List UInt8 := [177]
abbrev dktX4_readThread_8 : List UInt8 := dkwX4_readThread_8 ++ []
def dkwX4_readThread_7 : List UInt8 := [180, 0, 246, 46, 120, 128, 79, 42, 182, 0, 240, 42, 180, 0, 24, 42, 180, 0, 246, 92, 46, 4, 96, 79]
abbrev dktX4_readThread_7 : List UInt8 := dkwX4_readThread_7 ++ dktX4_readThread_8
def dkwX4_readThread_6 : List UInt8 := [182, 1, 5, 153, 0, 30, 42, 180, 0, 48, 42, 180, 0, 246, 92, 46, 4, 42, 180, 0, 24, 42]
abbrev dktX4_readThread_6 : List UInt8 := dkwX4_readThread_6 ++ dktX4_readThread_7
def dkwX4_readThread_5 : List UInt8 := [180, 0, 246, 46, 96, 42, 28, 182, 1, 40, 79, 42, 182, 0, 236, 153, 0, 40, 42, 20, 0, 162]
abbrev dktX4_readThread_5 : List UInt8 := dkwX4_readThread_5 ++ dktX4_readThread_6
def dkwX4_readThread_4 : List UInt8 := [42, 180, 0, 246, 46, 96, 27, 79, 42, 180, 0, 54, 16, 14, 42, 180, 0, 246, 104, 42, 180, 0, 24, 42]
abbrev dktX4_readThread_4 : List UInt8 := dkwX4_readThread_4 ++ dktX4_readThread_5
def dkwX4_readThread_3 : List UInt8 := [182, 0, 232, 132, 3, 1, 167, 255, 217, 42, 180, 0, 51, 16, 14, 42, 180, 0, 246, 104, 42, 180, 0, 24]
abbrev dktX4_readThread_3 : List UInt8 := dkwX4_readThread_3 ++ dktX4_readThread_4
def dkwX4_readThread_2 : List UInt8 := [162, 0, 32, 28, 155, 0, 22, 42, 29, 27, 28, 182, 1, 56, 153, 0, 12, 42, 6, 42, 180, 0, 201]
abbrev dktX4_readThread_2 : List UInt8 := dkwX4_readThread_2 ++ dktX4_readThread_3
def dkwX4_readThread_1 : List UInt8 := [160, 0, 12, 42, 6, 42, 180, 0, 201, 182, 0, 232, 3, 62, 29, 42, 180, 0, 24, 42, 180, 0, 246, 46]
abbrev dktX4_readThread_1 : List UInt8 := dkwX4_readThread_1 ++ dktX4_readThread_2
def dkwX4_readThread_0 : List UInt8 := [42, 42, 182, 1, 19, 182, 1, 40, 60, 42, 182, 0, 236, 154, 0, 4, 177, 42, 182, 1, 19, 61, 27, 28]
abbrev dktX4_readThread_0 : List UInt8 := dkwX4_readThread_0 ++ dktX4_readThread_1
theorem dksX4_readThread_0 : cX4_readThread.data.toList.drop 0 = dktX4_readThread_0 := by decide +kernel
theorem dksX4_readThread_1 : cX4_readThread.data.toList.drop 24 = dktX4_readThread_1 := dk_seg dksX4_readThread_0 24 rfl rfl
theorem dksX4_readThread_2 : cX4_readThread.data.toList.drop 48 = dktX4_readThread_2 := dk_seg dksX4_readThread_1 24 rfl rfl
theorem dksX4_readThread_3 : cX4_readThread.data.toList.drop 71 = dktX4_readThread_3 := dk_seg dksX4_readThread_2 23 rfl rfl
theorem dksX4_readThread_4 : cX4_readThread.data.toList.drop 95 = dktX4_readThread_4 := dk_seg dksX4_readThread_3 24 rfl rfl
theorem dksX4_readThread_5 : cX4_readThread.data.toList.drop 119 = dktX4_readThread_5 := dk_seg dksX4_readThread_4 24 rfl rfl
theorem dksX4_readThread_6 : cX4_readThread.data.toList.drop 141 = dktX4_readThread_6 := dk_seg dksX4_readThread_5 22 rfl rfl
theorem dksX4_readThread_7 : cX4_readThread.data.toList.drop 163 = dktX4_readThread_7 := dk_seg dksX4_readThread_6 22 rfl rfl
theorem dksX4_readThread_8 : cX4_readThread.data.toList.drop 187 = dktX4_readThread_8 := dk_seg dksX4_readThread_7 24 rfl rfl
theorem dX4_readThread_0 : decode cX4_readThread 0 = .ok (.aload_n 0, 1) := dk_42 (dk_at dksX4_readThread_0 0 rfl rfl)
theorem dX4_readThread_1 : decode cX4_readThread 1 = .ok (.aload_n 0, 1) := dk_42 (dk_at dksX4_readThread_0 1 rfl rfl)
theorem dX4_readThread_2 : decode cX4_readThread 2 = .ok (.invokevirtual 275, 3) := dk_182 1 19 (dk_at dksX4_readThread_0 2 rfl rfl)
theorem dX4_readThread_5 : decode cX4_readThread 5 = .ok (.invokevirtual 296, 3) := dk_182 1 40 (dk_at dksX4_readThread_0 5 rfl rfl)
theorem dX4_readThread_8 : decode cX4_readThread 8 = .ok (.istore_n 1, 1) := dk_60 (dk_at dksX4_readThread_0 8 rfl rfl)
theorem dX4_readThread_9 : decode cX4_readThread 9 = .ok (.aload_n 0, 1) := dk_42 (dk_at dksX4_readThread_0 9 rfl rfl)
theorem dX4_readThread_10 : decode cX4_readThread 10 = .ok (.invokevirtual 236, 3) := dk_182 0 236 (dk_at dksX4_readThread_0 10 rfl rfl)
theorem dX4_readThread_13 : decode cX4_readThread 13 = .ok (.ifCond .ne 4, 3) := dk_154 0 4 (dk_at dksX4_readThread_0 13 rfl rfl)
theorem dX4_readThread_16 : decode cX4_readThread 16 = .ok (.return_, 1) := dk_177 (dk_at dksX4_readThread_0 16 rfl rfl)
theorem dX4_readThread_17 : decode cX4_readThread 17 = .ok (.aload_n 0, 1) := dk_42 (dk_at dksX4_readThread_0 17 rfl rfl)
theorem dX4_readThread_18 : decode cX4_readThread 18 = .ok (.invokevirtual 275, 3) := dk_182 1 19 (dk_at dksX4_readThread_0 18 rfl rfl)
theorem dX4_readThread_21 : decode cX4_readThread 21 = .ok (.istore_n 2, 1) := dk_61 (dk_at dksX4_readThread_0 21 rfl rfl)
theorem dX4_readThread_22 : decode cX4_readThread 22 = .ok (.iload_n 1, 1) := dk_27 (dk_at dksX4_readThread_0 22 rfl rfl)
theorem dX4_readThread_23 : decode cX4_readThread 23 = .ok (.iload_n 2, 1) := dk_28 (dk_at dksX4_readThread_0 23 rfl rfl)
theorem dX4_readThread_24 : decode cX4_readThread 24 = .ok (.if_icmp .ne 12, 3) := dk_160 0 12 (dk_at dksX4_readThread_1 0 rfl rfl)
theorem dX4_readThread_27 : decode cX4_readThread 27 = .ok (.aload_n 0, 1) := dk_42 (dk_at dksX4_readThread_1 3 rfl rfl)
theorem dX4_readThread_28 : decode cX4_readThread 28 = .ok (.iconst 3, 1) := dk_6 (dk_at dksX4_readThread_1 4 rfl rfl)
theorem dX4_readThread_29 : decode cX4_readThread 29 = .ok (.aload_n 0, 1) := dk_42 (dk_at dksX4_readThread_1 5 rfl rfl)
theorem dX4_readThread_30 : decode cX4_readThread 30 = .ok (.getfield 201, 3) := dk_180 0 201 (dk_at dksX4_readThread_1 6 rfl rfl)
theorem dX4_readThread_33 : decode cX4_readThread 33 = .ok (.invokevirtual 232, 3) := dk_182 0 232 (dk_at dksX4_readThread_1 9 rfl rfl)
theorem dX4_readThread_36 : decode cX4_readThread 36 = .ok (.iconst 0, 1) := dk_3 (dk_at dksX4_readThread_1 12 rfl rfl)
theorem dX4_readThread_37 : decode cX4_readThread 37 = .ok (.istore_n 3, 1) := dk_62 (dk_at dksX4_readThread_1 13 rfl rfl)
theorem dX4_readThread_38 : decode cX4_readThread 38 = .ok (.iload_n 3, 1) := dk_29 (dk_at dksX4_readThread_1 14 rfl rfl)
theorem dX4_readThread_39 : decode cX4_readThread 39 = .ok (.aload_n 0, 1) := dk_42 (dk_at dksX4_readThread_1 15 rfl rfl)
theorem dX4_readThread_40 : decode cX4_readThread 40 = .ok (.getfield 24, 3) := dk_180 0 24 (dk_at dksX4_readThread_1 16 rfl rfl)
theorem dX4_readThread_43 : decode cX4_readThread 43 = .ok (.aload_n 0, 1) := dk_42 (dk_at dksX4_readThread_1 19 rfl rfl)
theorem dX4_readThread_44 : decode cX4_readThread 44 = .ok (.getfield 246, 3) := dk_180 0 246 (dk_at dksX4_readThread_1 20 rfl rfl)
theorem dX4_readThread_47 : decode cX4_readThread 47 = .ok (.iaload, 1) := dk_46 (dk_at dksX4_readThread_1 23 rfl rfl)
theorem dX4_readThread_48 : decode cX4_readThread 48 = .ok (.if_icmp .ge 32, 3) := dk_162 0 32 (dk_at dksX4_readThread_2 0 rfl rfl)
theorem dX4_readThread_51 : decode cX4_readThread 51 = .ok (.iload_n 2, 1) := dk_28 (dk_at dksX4_readThread_2 3 rfl rfl)
theorem dX4_readThread_52 : decode cX4_readThread 52 = .ok (.ifCond .lt 22, 3) := dk_155 0 22 (dk_at dksX4_readThread_2 4 rfl rfl)
theorem dX4_readThread_55 : decode cX4_readThread 55 = .ok (.aload_n 0, 1) := dk_42 (dk_at dksX4_readThread_2 7 rfl rfl)
theorem dX4_readThread_56 : decode cX4_readThread 56 = .ok (.iload_n 3, 1) := dk_29 (dk_at dksX4_readThread_2 8 rfl rfl)
theorem dX4_readThread_57 : decode cX4_readThread 57 = .ok (.iload_n 1, 1) := dk_27 (dk_at dksX4_readThread_2 9 rfl rfl)
theorem dX4_readThread_58 : decode cX4_readThread 58 = .ok (.iload_n 2, 1) := dk_28 (dk_at dksX4_readThread_2 10 rfl rfl)
theorem dX4_readThread_59 : decode cX4_readThread 59 = .ok (.invokevirtual 312, 3) := dk_182 1 56 (dk_at dksX4_readThread_2 11 rfl rfl)
theorem dX4_readThread_62 : decode cX4_readThread 62 = .ok (.ifCond .eq 12, 3) := dk_153 0 12 (dk_at dksX4_readThread_2 14 rfl rfl)
theorem dX4_readThread_65 : decode cX4_readThread 65 = .ok (.aload_n 0, 1) := dk_42 (dk_at dksX4_readThread_2 17 rfl rfl)
theorem dX4_readThread_66 : decode cX4_readThread 66 = .ok (.iconst 3, 1) := dk_6 (dk_at dksX4_readThread_2 18 rfl rfl)
theorem dX4_readThread_67 : decode cX4_readThread 67 = .ok (.aload_n 0, 1) := dk_42 (dk_at dksX4_readThread_2 19 rfl rfl)
theorem dX4_readThread_68 : decode cX4_readThread 68 = .ok (.getfield 201, 3) := dk_180 0 201 (dk_at dksX4_readThread_2 20 rfl rfl)
theorem dX4_readThread_71 : decode cX4_readThread 71 = .ok (.invokevirtual 232, 3) := dk_182 0 232 (dk_at dksX4_readThread_3 0 rfl rfl)
theorem dX4_readThread_74 : decode cX4_readThread 74 = .ok (.iinc 3 1, 3) := dk_132 3 1 (dk_at dksX4_readThread_3 3 rfl rfl)
theorem dX4_readThread_77 : decode cX4_readThread 77 = .ok (.goto (-39), 3) := dk_167 255 217 (dk_at dksX4_readThread_3 6 rfl rfl)
theorem dX4_readThread_80 : decode cX4_readThread 80 = .ok (.aload_n 0, 1) := dk_42 (dk_at dksX4_readThread_3 9 rfl rfl)
theorem dX4_readThread_81 : decode cX4_readThread 81 = .ok (.getfield 51, 3) := dk_180 0 51 (dk_at dksX4_readThread_3 10 rfl rfl)
theorem dX4_readThread_84 : decode cX4_readThread 84 = .ok (.bipush 14, 2) := dk_16 14 (dk_at dksX4_readThread_3 13 rfl rfl)
theorem dX4_readThread_86 : decode cX4_readThread 86 = .ok (.aload_n 0, 1) := dk_42 (dk_at dksX4_readThread_3 15 rfl rfl)
theorem dX4_readThread_87 : decode cX4_readThread 87 = .ok (.getfield 246, 3) := dk_180 0 246 (dk_at dksX4_readThread_3 16 rfl rfl)
theorem dX4_readThread_90 : decode cX4_readThread 90 = .ok (.imul, 1) := dk_104 (dk_at dksX4_readThread_3 19 rfl rfl)
theorem dX4_readThread_91 : decode cX4_readThread 91 = .ok (.aload_n 0, 1) := dk_42 (dk_at dksX4_readThread_3 20 rfl rfl)
theorem dX4_readThread_92 : decode cX4_readThread 92 = .ok (.getfield 24, 3) := dk_180 0 24 (dk_at dksX4_readThread_3 21 rfl rfl)
theorem dX4_readThread_95 : decode cX4_readThread 95 = .ok (.aload_n 0, 1) := dk_42 (dk_at dksX4_readThread_4 0 rfl rfl)
theorem dX4_readThread_96 : decode cX4_readThread 96 = .ok (.getfield 246, 3) := dk_180 0 246 (dk_at dksX4_readThread_4 1 rfl rfl)
theorem dX4_readThread_99 : decode cX4_readThread 99 = .ok (.iaload, 1) := dk_46 (dk_at dksX4_readThread_4 4 rfl rfl)
theorem dX4_readThread_100 : decode cX4_readThread 100 = .ok (.iadd, 1) := dk_96 (dk_at dksX4_readThread_4 5 rfl rfl)
theorem dX4_readThread_101 : decode cX4_readThread 101 = .ok (.iload_n 1, 1) := dk_27 (dk_at dksX4_readThread_4 6 rfl rfl)
theorem dX4_readThread_102 : decode cX4_readThread 102 = .ok (.iastore, 1) := dk_79 (dk_at dksX4_readThread_4 7 rfl rfl)
theorem dX4_readThread_103 : decode cX4_readThread 103 = .ok (.aload_n 0, 1) := dk_42 (dk_at dksX4_readThread_4 8 rfl rfl)
theorem dX4_readThread_104 : decode cX4_readThread 104 = .ok (.getfield 54, 3) := dk_180 0 54 (dk_at dksX4_readThread_4 9 rfl rfl)
theorem dX4_readThread_107 : decode cX4_readThread 107 = .ok (.bipush 14, 2) := dk_16 14 (dk_at dksX4_readThread_4 12 rfl rfl)
theorem dX4_readThread_109 : decode cX4_readThread 109 = .ok (.aload_n 0, 1) := dk_42 (dk_at dksX4_readThread_4 14 rfl rfl)
theorem dX4_readThread_110 : decode cX4_readThread 110 = .ok (.getfield 246, 3) := dk_180 0 246 (dk_at dksX4_readThread_4 15 rfl rfl)
theorem dX4_readThread_113 : decode cX4_readThread 113 = .ok (.imul, 1) := dk_104 (dk_at dksX4_readThread_4 18 rfl rfl)
theorem dX4_readThread_114 : decode cX4_readThread 114 = .ok (.aload_n 0, 1) := dk_42 (dk_at dksX4_readThread_4 19 rfl rfl)
theorem dX4_readThread_115 : decode cX4_readThread 115 = .ok (.getfield 24, 3) := dk_180 0 24 (dk_at dksX4_readThread_4 20 rfl rfl)
theorem dX4_readThread_118 : decode cX4_readThread 118 = .ok (.aload_n 0, 1) := dk_42 (dk_at dksX4_readThread_4 23 rfl rfl)
theorem dX4_readThread_119 : decode cX4_readThread 119 = .ok (.getfield 246, 3) := dk_180 0 246 (dk_at dksX4_readThread_5 0 rfl rfl)
theorem dX4_readThread_122 : decode cX4_readThread 122 = .ok (.iaload, 1) := dk_46 (dk_at dksX4_readThread_5 3 rfl rfl)
theorem dX4_readThread_123 : decode cX4_readThread 123 = .ok (.iadd, 1) := dk_96 (dk_at dksX4_readThread_5 4 rfl rfl)
theorem dX4_readThread_124 : decode cX4_readThread 124 = .ok (.aload_n 0, 1) := dk_42 (dk_at dksX4_readThread_5 5 rfl rfl)
theorem dX4_readThread_125 : decode cX4_readThread 125 = .ok (.iload_n 2, 1) := dk_28 (dk_at dksX4_readThread_5 6 rfl rfl)
theorem dX4_readThread_126 : decode cX4_readThread 126 = .ok (.invokevirtual 296, 3) := dk_182 1 40 (dk_at dksX4_readThread_5 7 rfl rfl)
theorem dX4_readThread_129 : decode cX4_readThread 129 = .ok (.iastore, 1) := dk_79 (dk_at dksX4_readThread_5 10 rfl rfl)
theorem dX4_readThread_130 : decode cX4_readThread 130 = .ok (.aload_n 0, 1) := dk_42 (dk_at dksX4_readThread_5 11 rfl rfl)
theorem dX4_readThread_131 : decode cX4_readThread 131 = .ok (.invokevirtual 236, 3) := dk_182 0 236 (dk_at dksX4_readThread_5 12 rfl rfl)
theorem dX4_readThread_134 : decode cX4_readThread 134 = .ok (.ifCond .eq 40, 3) := dk_153 0 40 (dk_at dksX4_readThread_5 15 rfl rfl)
theorem dX4_readThread_137 : decode cX4_readThread 137 = .ok (.aload_n 0, 1) := dk_42 (dk_at dksX4_readThread_5 18 rfl rfl)
theorem dX4_readThread_138 : decode cX4_readThread 138 = .ok (.ldc2_w 162, 3) := dk_20 0 162 (dk_at dksX4_readThread_5 19 rfl rfl)
theorem dX4_readThread_141 : decode cX4_readThread 141 = .ok (.invokevirtual 261, 3) := dk_182 1 5 (dk_at dksX4_readThread_6 0 rfl rfl)
theorem dX4_readThread_144 : decode cX4_readThread 144 = .ok (.ifCond .eq 30, 3) := dk_153 0 30 (dk_at dksX4_readThread_6 3 rfl rfl)
theorem dX4_readThread_147 : decode cX4_readThread 147 = .ok (.aload_n 0, 1) := dk_42 (dk_at dksX4_readThread_6 6 rfl rfl)
theorem dX4_readThread_148 : decode cX4_readThread 148 = .ok (.getfield 48, 3) := dk_180 0 48 (dk_at dksX4_readThread_6 7 rfl rfl)
theorem dX4_readThread_151 : decode cX4_readThread 151 = .ok (.aload_n 0, 1) := dk_42 (dk_at dksX4_readThread_6 10 rfl rfl)
theorem dX4_readThread_152 : decode cX4_readThread 152 = .ok (.getfield 246, 3) := dk_180 0 246 (dk_at dksX4_readThread_6 11 rfl rfl)
theorem dX4_readThread_155 : decode cX4_readThread 155 = .ok (.dup2, 1) := dk_92 (dk_at dksX4_readThread_6 14 rfl rfl)
theorem dX4_readThread_156 : decode cX4_readThread 156 = .ok (.iaload, 1) := dk_46 (dk_at dksX4_readThread_6 15 rfl rfl)
theorem dX4_readThread_157 : decode cX4_readThread 157 = .ok (.iconst 1, 1) := dk_4 (dk_at dksX4_readThread_6 16 rfl rfl)
theorem dX4_readThread_158 : decode cX4_readThread 158 = .ok (.aload_n 0, 1) := dk_42 (dk_at dksX4_readThread_6 17 rfl rfl)
theorem dX4_readThread_159 : decode cX4_readThread 159 = .ok (.getfield 24, 3) := dk_180 0 24 (dk_at dksX4_readThread_6 18 rfl rfl)
theorem dX4_readThread_162 : decode cX4_readThread 162 = .ok (.aload_n 0, 1) := dk_42 (dk_at dksX4_readThread_6 21 rfl rfl)
theorem dX4_readThread_163 : decode cX4_readThread 163 = .ok (.getfield 246, 3) := dk_180 0 246 (dk_at dksX4_readThread_7 0 rfl rfl)
theorem dX4_readThread_166 : decode cX4_readThread 166 = .ok (.iaload, 1) := dk_46 (dk_at dksX4_readThread_7 3 rfl rfl)
theorem dX4_readThread_167 : decode cX4_readThread 167 = .ok (.ishl, 1) := dk_120 (dk_at dksX4_readThread_7 4 rfl rfl)
theorem dX4_readThread_168 : decode cX4_readThread 168 = .ok (.ior, 1) := dk_128 (dk_at dksX4_readThread_7 5 rfl rfl)
theorem dX4_readThread_169 : decode cX4_readThread 169 = .ok (.iastore, 1) := dk_79 (dk_at dksX4_readThread_7 6 rfl rfl)
theorem dX4_readThread_170 : decode cX4_readThread 170 = .ok (.aload_n 0, 1) := dk_42 (dk_at dksX4_readThread_7 7 rfl rfl)
theorem dX4_readThread_171 : decode cX4_readThread 171 = .ok (.invokevirtual 240, 3) := dk_182 0 240 (dk_at dksX4_readThread_7 8 rfl rfl)
theorem dX4_readThread_174 : decode cX4_readThread 174 = .ok (.aload_n 0, 1) := dk_42 (dk_at dksX4_readThread_7 11 rfl rfl)
theorem dX4_readThread_175 : decode cX4_readThread 175 = .ok (.getfield 24, 3) := dk_180 0 24 (dk_at dksX4_readThread_7 12 rfl rfl)
theorem dX4_readThread_178 : decode cX4_readThread 178 = .ok (.aload_n 0, 1) := dk_42 (dk_at dksX4_readThread_7 15 rfl rfl)
theorem dX4_readThread_179 : decode cX4_readThread 179 = .ok (.getfield 246, 3) := dk_180 0 246 (dk_at dksX4_readThread_7 16 rfl rfl)
theorem dX4_readThread_182 : decode cX4_readThread 182 = .ok (.dup2, 1) := dk_92 (dk_at dksX4_readThread_7 19 rfl rfl)
theorem dX4_readThread_183 : decode cX4_readThread 183 = .ok (.iaload, 1) := dk_46 (dk_at dksX4_readThread_7 20 rfl rfl)
theorem dX4_readThread_184 : decode cX4_readThread 184 = .ok (.iconst 1, 1) := dk_4 (dk_at dksX4_readThread_7 21 rfl rfl)
theorem dX4_readThread_185 : decode cX4_readThread 185 = .ok (.iadd, 1) := dk_96 (dk_at dksX4_readThread_7 22 rfl rfl)
theorem dX4_readThread_186 : decode cX4_readThread 186 = .ok (.iastore, 1) := dk_79 (dk_at dksX4_readThread_7 23 rfl rfl)
theorem dX4_readThread_187 : decode cX4_readThread 187 = .ok (.return_, 1) := dk_177 (dk_at dksX4_readThread_8 0 rfl rfl)
abbrev cX4_known : ByteArray := prog_22_method_24_code
def yX4_known : MethodName := ⟨RX4, "known", "(I)I"⟩
def dkwX4_known_2 : List UInt8 := [3, 167, 0, 4, 27, 172]
abbrev dktX4_known_2 : List UInt8 := dkwX4_known_2 ++ []
def dkwX4_known_1 : List UInt8 := [27, 156, 0, 15, 42, 8, 42, 180, 0, 201, 182, 0, 232, 167, 0, 7, 42, 182, 0, 240, 27, 156, 0, 7]
abbrev dktX4_known_1 : List UInt8 := dkwX4_known_1 ++ dktX4_known_2
def dkwX4_known_0 : List UInt8 := [42, 182, 0, 236, 154, 0, 5, 3, 172, 42, 180, 0, 208, 5, 159, 0, 10, 42, 182, 0, 243, 167, 0, 23]
abbrev dktX4_known_0 : List UInt8 := dkwX4_known_0 ++ dktX4_known_1
theorem dksX4_known_0 : cX4_known.data.toList.drop 0 = dktX4_known_0 := by decide +kernel
theorem dksX4_known_1 : cX4_known.data.toList.drop 24 = dktX4_known_1 := dk_seg dksX4_known_0 24 rfl rfl
theorem dksX4_known_2 : cX4_known.data.toList.drop 48 = dktX4_known_2 := dk_seg dksX4_known_1 24 rfl rfl
theorem dX4_known_0 : decode cX4_known 0 = .ok (.aload_n 0, 1) := dk_42 (dk_at dksX4_known_0 0 rfl rfl)
theorem dX4_known_1 : decode cX4_known 1 = .ok (.invokevirtual 236, 3) := dk_182 0 236 (dk_at dksX4_known_0 1 rfl rfl)
theorem dX4_known_4 : decode cX4_known 4 = .ok (.ifCond .ne 5, 3) := dk_154 0 5 (dk_at dksX4_known_0 4 rfl rfl)
theorem dX4_known_7 : decode cX4_known 7 = .ok (.iconst 0, 1) := dk_3 (dk_at dksX4_known_0 7 rfl rfl)
theorem dX4_known_8 : decode cX4_known 8 = .ok (.ireturn, 1) := dk_172 (dk_at dksX4_known_0 8 rfl rfl)
theorem dX4_known_9 : decode cX4_known 9 = .ok (.aload_n 0, 1) := dk_42 (dk_at dksX4_known_0 9 rfl rfl)
theorem dX4_known_10 : decode cX4_known 10 = .ok (.getfield 208, 3) := dk_180 0 208 (dk_at dksX4_known_0 10 rfl rfl)
theorem dX4_known_13 : decode cX4_known 13 = .ok (.iconst 2, 1) := dk_5 (dk_at dksX4_known_0 13 rfl rfl)
theorem dX4_known_14 : decode cX4_known 14 = .ok (.if_icmp .eq 10, 3) := dk_159 0 10 (dk_at dksX4_known_0 14 rfl rfl)
theorem dX4_known_17 : decode cX4_known 17 = .ok (.aload_n 0, 1) := dk_42 (dk_at dksX4_known_0 17 rfl rfl)
theorem dX4_known_18 : decode cX4_known 18 = .ok (.invokevirtual 243, 3) := dk_182 0 243 (dk_at dksX4_known_0 18 rfl rfl)
theorem dX4_known_21 : decode cX4_known 21 = .ok (.goto 23, 3) := dk_167 0 23 (dk_at dksX4_known_0 21 rfl rfl)
theorem dX4_known_24 : decode cX4_known 24 = .ok (.iload_n 1, 1) := dk_27 (dk_at dksX4_known_1 0 rfl rfl)
theorem dX4_known_25 : decode cX4_known 25 = .ok (.ifCond .ge 15, 3) := dk_156 0 15 (dk_at dksX4_known_1 1 rfl rfl)
theorem dX4_known_28 : decode cX4_known 28 = .ok (.aload_n 0, 1) := dk_42 (dk_at dksX4_known_1 4 rfl rfl)
theorem dX4_known_29 : decode cX4_known 29 = .ok (.iconst 5, 1) := dk_8 (dk_at dksX4_known_1 5 rfl rfl)
theorem dX4_known_30 : decode cX4_known 30 = .ok (.aload_n 0, 1) := dk_42 (dk_at dksX4_known_1 6 rfl rfl)
theorem dX4_known_31 : decode cX4_known 31 = .ok (.getfield 201, 3) := dk_180 0 201 (dk_at dksX4_known_1 7 rfl rfl)
theorem dX4_known_34 : decode cX4_known 34 = .ok (.invokevirtual 232, 3) := dk_182 0 232 (dk_at dksX4_known_1 10 rfl rfl)
theorem dX4_known_37 : decode cX4_known 37 = .ok (.goto 7, 3) := dk_167 0 7 (dk_at dksX4_known_1 13 rfl rfl)
theorem dX4_known_40 : decode cX4_known 40 = .ok (.aload_n 0, 1) := dk_42 (dk_at dksX4_known_1 16 rfl rfl)
theorem dX4_known_41 : decode cX4_known 41 = .ok (.invokevirtual 240, 3) := dk_182 0 240 (dk_at dksX4_known_1 17 rfl rfl)
theorem dX4_known_44 : decode cX4_known 44 = .ok (.iload_n 1, 1) := dk_27 (dk_at dksX4_known_1 20 rfl rfl)
theorem dX4_known_45 : decode cX4_known 45 = .ok (.ifCond .ge 7, 3) := dk_156 0 7 (dk_at dksX4_known_1 21 rfl rfl)
theorem dX4_known_48 : decode cX4_known 48 = .ok (.iconst 0, 1) := dk_3 (dk_at dksX4_known_2 0 rfl rfl)
theorem dX4_known_49 : decode cX4_known 49 = .ok (.goto 4, 3) := dk_167 0 4 (dk_at dksX4_known_2 1 rfl rfl)
theorem dX4_known_52 : decode cX4_known 52 = .ok (.iload_n 1, 1) := dk_27 (dk_at dksX4_known_2 4 rfl rfl)
theorem dX4_known_53 : decode cX4_known 53 = .ok (.ireturn, 1) := dk_172 (dk_at dksX4_known_2 5 rfl rfl)
abbrev cX4_isThread : ByteArray := prog_22_method_25_code
def yX4_isThread : MethodName := ⟨RX4, "isThread", "(III)Z"⟩
def dkwX4_isThread_3 : List UInt8 := [4, 167, 0, 4, 3, 172]
abbrev dktX4_isThread_3 : List UInt8 := dkwX4_isThread_3 ++ []
def dkwX4_isThread_2 : List UInt8 := [96, 46, 29, 160, 0, 25, 42, 180, 0, 54, 16, 14, 42, 180, 0, 246, 104, 27, 96, 46, 28, 160, 0, 7]
abbrev dktX4_isThread_2 : List UInt8 := dkwX4_isThread_2 ++ dktX4_isThread_3
def dkwX4_isThread_1 : List UInt8 := [42, 180, 0, 246, 104, 27, 96, 46, 29, 159, 0, 39, 42, 180, 0, 51, 16, 14, 42, 180, 0, 246, 104, 27]
abbrev dktX4_isThread_1 : List UInt8 := dkwX4_isThread_1 ++ dktX4_isThread_2
def dkwX4_isThread_0 : List UInt8 := [42, 180, 0, 51, 16, 14, 42, 180, 0, 246, 104, 27, 96, 46, 28, 160, 0, 21, 42, 180, 0, 54, 16, 14]
abbrev dktX4_isThread_0 : List UInt8 := dkwX4_isThread_0 ++ dktX4_isThread_1
theorem dksX4_isThread_0 : cX4_isThread.data.toList.drop 0 = dktX4_isThread_0 := by decide +kernel
theorem dksX4_isThread_1 : cX4_isThread.data.toList.drop 24 = dktX4_isThread_1 := dk_seg dksX4_isThread_0 24 rfl rfl
theorem dksX4_isThread_2 : cX4_isThread.data.toList.drop 48 = dktX4_isThread_2 := dk_seg dksX4_isThread_1 24 rfl rfl
theorem dksX4_isThread_3 : cX4_isThread.data.toList.drop 72 = dktX4_isThread_3 := dk_seg dksX4_isThread_2 24 rfl rfl
theorem dX4_isThread_0 : decode cX4_isThread 0 = .ok (.aload_n 0, 1) := dk_42 (dk_at dksX4_isThread_0 0 rfl rfl)
theorem dX4_isThread_1 : decode cX4_isThread 1 = .ok (.getfield 51, 3) := dk_180 0 51 (dk_at dksX4_isThread_0 1 rfl rfl)
theorem dX4_isThread_4 : decode cX4_isThread 4 = .ok (.bipush 14, 2) := dk_16 14 (dk_at dksX4_isThread_0 4 rfl rfl)
theorem dX4_isThread_6 : decode cX4_isThread 6 = .ok (.aload_n 0, 1) := dk_42 (dk_at dksX4_isThread_0 6 rfl rfl)
theorem dX4_isThread_7 : decode cX4_isThread 7 = .ok (.getfield 246, 3) := dk_180 0 246 (dk_at dksX4_isThread_0 7 rfl rfl)
theorem dX4_isThread_10 : decode cX4_isThread 10 = .ok (.imul, 1) := dk_104 (dk_at dksX4_isThread_0 10 rfl rfl)
theorem dX4_isThread_11 : decode cX4_isThread 11 = .ok (.iload_n 1, 1) := dk_27 (dk_at dksX4_isThread_0 11 rfl rfl)
theorem dX4_isThread_12 : decode cX4_isThread 12 = .ok (.iadd, 1) := dk_96 (dk_at dksX4_isThread_0 12 rfl rfl)
theorem dX4_isThread_13 : decode cX4_isThread 13 = .ok (.iaload, 1) := dk_46 (dk_at dksX4_isThread_0 13 rfl rfl)
theorem dX4_isThread_14 : decode cX4_isThread 14 = .ok (.iload_n 2, 1) := dk_28 (dk_at dksX4_isThread_0 14 rfl rfl)
theorem dX4_isThread_15 : decode cX4_isThread 15 = .ok (.if_icmp .ne 21, 3) := dk_160 0 21 (dk_at dksX4_isThread_0 15 rfl rfl)
theorem dX4_isThread_18 : decode cX4_isThread 18 = .ok (.aload_n 0, 1) := dk_42 (dk_at dksX4_isThread_0 18 rfl rfl)
theorem dX4_isThread_19 : decode cX4_isThread 19 = .ok (.getfield 54, 3) := dk_180 0 54 (dk_at dksX4_isThread_0 19 rfl rfl)
theorem dX4_isThread_22 : decode cX4_isThread 22 = .ok (.bipush 14, 2) := dk_16 14 (dk_at dksX4_isThread_0 22 rfl rfl)
theorem dX4_isThread_24 : decode cX4_isThread 24 = .ok (.aload_n 0, 1) := dk_42 (dk_at dksX4_isThread_1 0 rfl rfl)
theorem dX4_isThread_25 : decode cX4_isThread 25 = .ok (.getfield 246, 3) := dk_180 0 246 (dk_at dksX4_isThread_1 1 rfl rfl)
theorem dX4_isThread_28 : decode cX4_isThread 28 = .ok (.imul, 1) := dk_104 (dk_at dksX4_isThread_1 4 rfl rfl)
theorem dX4_isThread_29 : decode cX4_isThread 29 = .ok (.iload_n 1, 1) := dk_27 (dk_at dksX4_isThread_1 5 rfl rfl)
theorem dX4_isThread_30 : decode cX4_isThread 30 = .ok (.iadd, 1) := dk_96 (dk_at dksX4_isThread_1 6 rfl rfl)
theorem dX4_isThread_31 : decode cX4_isThread 31 = .ok (.iaload, 1) := dk_46 (dk_at dksX4_isThread_1 7 rfl rfl)
theorem dX4_isThread_32 : decode cX4_isThread 32 = .ok (.iload_n 3, 1) := dk_29 (dk_at dksX4_isThread_1 8 rfl rfl)
theorem dX4_isThread_33 : decode cX4_isThread 33 = .ok (.if_icmp .eq 39, 3) := dk_159 0 39 (dk_at dksX4_isThread_1 9 rfl rfl)
theorem dX4_isThread_36 : decode cX4_isThread 36 = .ok (.aload_n 0, 1) := dk_42 (dk_at dksX4_isThread_1 12 rfl rfl)
theorem dX4_isThread_37 : decode cX4_isThread 37 = .ok (.getfield 51, 3) := dk_180 0 51 (dk_at dksX4_isThread_1 13 rfl rfl)
theorem dX4_isThread_40 : decode cX4_isThread 40 = .ok (.bipush 14, 2) := dk_16 14 (dk_at dksX4_isThread_1 16 rfl rfl)
theorem dX4_isThread_42 : decode cX4_isThread 42 = .ok (.aload_n 0, 1) := dk_42 (dk_at dksX4_isThread_1 18 rfl rfl)
theorem dX4_isThread_43 : decode cX4_isThread 43 = .ok (.getfield 246, 3) := dk_180 0 246 (dk_at dksX4_isThread_1 19 rfl rfl)
theorem dX4_isThread_46 : decode cX4_isThread 46 = .ok (.imul, 1) := dk_104 (dk_at dksX4_isThread_1 22 rfl rfl)
theorem dX4_isThread_47 : decode cX4_isThread 47 = .ok (.iload_n 1, 1) := dk_27 (dk_at dksX4_isThread_1 23 rfl rfl)
theorem dX4_isThread_48 : decode cX4_isThread 48 = .ok (.iadd, 1) := dk_96 (dk_at dksX4_isThread_2 0 rfl rfl)
theorem dX4_isThread_49 : decode cX4_isThread 49 = .ok (.iaload, 1) := dk_46 (dk_at dksX4_isThread_2 1 rfl rfl)
theorem dX4_isThread_50 : decode cX4_isThread 50 = .ok (.iload_n 3, 1) := dk_29 (dk_at dksX4_isThread_2 2 rfl rfl)
theorem dX4_isThread_51 : decode cX4_isThread 51 = .ok (.if_icmp .ne 25, 3) := dk_160 0 25 (dk_at dksX4_isThread_2 3 rfl rfl)
theorem dX4_isThread_54 : decode cX4_isThread 54 = .ok (.aload_n 0, 1) := dk_42 (dk_at dksX4_isThread_2 6 rfl rfl)
theorem dX4_isThread_55 : decode cX4_isThread 55 = .ok (.getfield 54, 3) := dk_180 0 54 (dk_at dksX4_isThread_2 7 rfl rfl)
theorem dX4_isThread_58 : decode cX4_isThread 58 = .ok (.bipush 14, 2) := dk_16 14 (dk_at dksX4_isThread_2 10 rfl rfl)
theorem dX4_isThread_60 : decode cX4_isThread 60 = .ok (.aload_n 0, 1) := dk_42 (dk_at dksX4_isThread_2 12 rfl rfl)
theorem dX4_isThread_61 : decode cX4_isThread 61 = .ok (.getfield 246, 3) := dk_180 0 246 (dk_at dksX4_isThread_2 13 rfl rfl)
theorem dX4_isThread_64 : decode cX4_isThread 64 = .ok (.imul, 1) := dk_104 (dk_at dksX4_isThread_2 16 rfl rfl)
theorem dX4_isThread_65 : decode cX4_isThread 65 = .ok (.iload_n 1, 1) := dk_27 (dk_at dksX4_isThread_2 17 rfl rfl)
theorem dX4_isThread_66 : decode cX4_isThread 66 = .ok (.iadd, 1) := dk_96 (dk_at dksX4_isThread_2 18 rfl rfl)
theorem dX4_isThread_67 : decode cX4_isThread 67 = .ok (.iaload, 1) := dk_46 (dk_at dksX4_isThread_2 19 rfl rfl)
theorem dX4_isThread_68 : decode cX4_isThread 68 = .ok (.iload_n 2, 1) := dk_28 (dk_at dksX4_isThread_2 20 rfl rfl)
theorem dX4_isThread_69 : decode cX4_isThread 69 = .ok (.if_icmp .ne 7, 3) := dk_160 0 7 (dk_at dksX4_isThread_2 21 rfl rfl)
theorem dX4_isThread_72 : decode cX4_isThread 72 = .ok (.iconst 1, 1) := dk_4 (dk_at dksX4_isThread_3 0 rfl rfl)
theorem dX4_isThread_73 : decode cX4_isThread 73 = .ok (.goto 4, 3) := dk_167 0 4 (dk_at dksX4_isThread_3 1 rfl rfl)
theorem dX4_isThread_76 : decode cX4_isThread 76 = .ok (.iconst 0, 1) := dk_3 (dk_at dksX4_isThread_3 4 rfl rfl)
theorem dX4_isThread_77 : decode cX4_isThread 77 = .ok (.ireturn, 1) := dk_172 (dk_at dksX4_isThread_3 5 rfl rfl)
abbrev cX4_pleaHere : ByteArray := prog_22_method_22_code
def yX4_pleaHere : MethodName := ⟨RX4, "pleaHere", "()I"⟩
def dkwX4_pleaHere_1 : List UInt8 := [172]
abbrev dktX4_pleaHere_1 : List UInt8 := dkwX4_pleaHere_1 ++ []
def dkwX4_pleaHere_0 : List UInt8 := [42, 42, 180, 0, 76, 16, 8, 42, 180, 0, 246, 104, 42, 180, 0, 27, 42, 180, 0, 246, 46, 182, 1, 52]
abbrev dktX4_pleaHere_0 : List UInt8 := dkwX4_pleaHere_0 ++ dktX4_pleaHere_1
theorem dksX4_pleaHere_0 : cX4_pleaHere.data.toList.drop 0 = dktX4_pleaHere_0 := by decide +kernel
theorem dksX4_pleaHere_1 : cX4_pleaHere.data.toList.drop 24 = dktX4_pleaHere_1 := dk_seg dksX4_pleaHere_0 24 rfl rfl
theorem dX4_pleaHere_0 : decode cX4_pleaHere 0 = .ok (.aload_n 0, 1) := dk_42 (dk_at dksX4_pleaHere_0 0 rfl rfl)
theorem dX4_pleaHere_1 : decode cX4_pleaHere 1 = .ok (.aload_n 0, 1) := dk_42 (dk_at dksX4_pleaHere_0 1 rfl rfl)
theorem dX4_pleaHere_2 : decode cX4_pleaHere 2 = .ok (.getfield 76, 3) := dk_180 0 76 (dk_at dksX4_pleaHere_0 2 rfl rfl)
theorem dX4_pleaHere_5 : decode cX4_pleaHere 5 = .ok (.bipush 8, 2) := dk_16 8 (dk_at dksX4_pleaHere_0 5 rfl rfl)
theorem dX4_pleaHere_7 : decode cX4_pleaHere 7 = .ok (.aload_n 0, 1) := dk_42 (dk_at dksX4_pleaHere_0 7 rfl rfl)
theorem dX4_pleaHere_8 : decode cX4_pleaHere 8 = .ok (.getfield 246, 3) := dk_180 0 246 (dk_at dksX4_pleaHere_0 8 rfl rfl)
theorem dX4_pleaHere_11 : decode cX4_pleaHere 11 = .ok (.imul, 1) := dk_104 (dk_at dksX4_pleaHere_0 11 rfl rfl)
theorem dX4_pleaHere_12 : decode cX4_pleaHere 12 = .ok (.aload_n 0, 1) := dk_42 (dk_at dksX4_pleaHere_0 12 rfl rfl)
theorem dX4_pleaHere_13 : decode cX4_pleaHere 13 = .ok (.getfield 27, 3) := dk_180 0 27 (dk_at dksX4_pleaHere_0 13 rfl rfl)
theorem dX4_pleaHere_16 : decode cX4_pleaHere 16 = .ok (.aload_n 0, 1) := dk_42 (dk_at dksX4_pleaHere_0 16 rfl rfl)
theorem dX4_pleaHere_17 : decode cX4_pleaHere 17 = .ok (.getfield 246, 3) := dk_180 0 246 (dk_at dksX4_pleaHere_0 17 rfl rfl)
theorem dX4_pleaHere_20 : decode cX4_pleaHere 20 = .ok (.iaload, 1) := dk_46 (dk_at dksX4_pleaHere_0 20 rfl rfl)
theorem dX4_pleaHere_21 : decode cX4_pleaHere 21 = .ok (.invokevirtual 308, 3) := dk_182 1 52 (dk_at dksX4_pleaHere_0 21 rfl rfl)
theorem dX4_pleaHere_24 : decode cX4_pleaHere 24 = .ok (.ireturn, 1) := dk_172 (dk_at dksX4_pleaHere_1 0 rfl rfl)
abbrev cX4_must : ByteArray := prog_22_method_13_code
def yX4_must : MethodName := ⟨RX4, "must", "(Z)V"⟩
def dkwX4_must_0 : List UInt8 := [42, 182, 0, 236, 154, 0, 4, 177, 27, 153, 0, 10, 42, 182, 0, 240, 167, 0, 7, 42, 182, 0, 243, 177]
abbrev dktX4_must_0 : List UInt8 := dkwX4_must_0 ++ []
theorem dksX4_must_0 : cX4_must.data.toList.drop 0 = dktX4_must_0 := by decide +kernel
theorem dX4_must_0 : decode cX4_must 0 = .ok (.aload_n 0, 1) := dk_42 (dk_at dksX4_must_0 0 rfl rfl)
theorem dX4_must_1 : decode cX4_must 1 = .ok (.invokevirtual 236, 3) := dk_182 0 236 (dk_at dksX4_must_0 1 rfl rfl)
theorem dX4_must_4 : decode cX4_must 4 = .ok (.ifCond .ne 4, 3) := dk_154 0 4 (dk_at dksX4_must_0 4 rfl rfl)
theorem dX4_must_7 : decode cX4_must 7 = .ok (.return_, 1) := dk_177 (dk_at dksX4_must_0 7 rfl rfl)
theorem dX4_must_8 : decode cX4_must 8 = .ok (.iload_n 1, 1) := dk_27 (dk_at dksX4_must_0 8 rfl rfl)
theorem dX4_must_9 : decode cX4_must 9 = .ok (.ifCond .eq 10, 3) := dk_153 0 10 (dk_at dksX4_must_0 9 rfl rfl)
theorem dX4_must_12 : decode cX4_must 12 = .ok (.aload_n 0, 1) := dk_42 (dk_at dksX4_must_0 12 rfl rfl)
theorem dX4_must_13 : decode cX4_must 13 = .ok (.invokevirtual 240, 3) := dk_182 0 240 (dk_at dksX4_must_0 13 rfl rfl)
theorem dX4_must_16 : decode cX4_must 16 = .ok (.goto 7, 3) := dk_167 0 7 (dk_at dksX4_must_0 16 rfl rfl)
theorem dX4_must_19 : decode cX4_must 19 = .ok (.aload_n 0, 1) := dk_42 (dk_at dksX4_must_0 19 rfl rfl)
theorem dX4_must_20 : decode cX4_must 20 = .ok (.invokevirtual 243, 3) := dk_182 0 243 (dk_at dksX4_must_0 20 rfl rfl)
theorem dX4_must_23 : decode cX4_must 23 = .ok (.return_, 1) := dk_177 (dk_at dksX4_must_0 23 rfl rfl)
abbrev cX4_numeral : ByteArray := prog_22_method_14_code
def yX4_numeral : MethodName := ⟨RX4, "numeral", "(II)I"⟩
def dkwX4_numeral_3 : List UInt8 := [182, 0, 236, 153, 0, 7, 29, 167, 0, 4, 27, 172]
abbrev dktX4_numeral_3 : List UInt8 := dkwX4_numeral_3 ++ []
def dkwX4_numeral_2 : List UInt8 := [42, 180, 0, 201, 182, 0, 232, 42, 180, 0, 226, 62, 42, 182, 0, 236, 153, 0, 7, 42, 182, 0, 240, 42]
abbrev dktX4_numeral_2 : List UInt8 := dkwX4_numeral_2 ++ dktX4_numeral_3
def dkwX4_numeral_1 : List UInt8 := [182, 0, 236, 153, 0, 28, 42, 180, 0, 226, 27, 161, 0, 11, 42, 180, 0, 226, 28, 164, 0, 12, 42, 7]
abbrev dktX4_numeral_1 : List UInt8 := dkwX4_numeral_1 ++ dktX4_numeral_2
def dkwX4_numeral_0 : List UInt8 := [42, 182, 0, 236, 154, 0, 5, 27, 172, 42, 180, 0, 208, 7, 159, 0, 7, 42, 182, 0, 243, 42]
abbrev dktX4_numeral_0 : List UInt8 := dkwX4_numeral_0 ++ dktX4_numeral_1
theorem dksX4_numeral_0 : cX4_numeral.data.toList.drop 0 = dktX4_numeral_0 := by decide +kernel
theorem dksX4_numeral_1 : cX4_numeral.data.toList.drop 22 = dktX4_numeral_1 := dk_seg dksX4_numeral_0 22 rfl rfl
theorem dksX4_numeral_2 : cX4_numeral.data.toList.drop 46 = dktX4_numeral_2 := dk_seg dksX4_numeral_1 24 rfl rfl
theorem dksX4_numeral_3 : cX4_numeral.data.toList.drop 70 = dktX4_numeral_3 := dk_seg dksX4_numeral_2 24 rfl rfl
theorem dX4_numeral_0 : decode cX4_numeral 0 = .ok (.aload_n 0, 1) := dk_42 (dk_at dksX4_numeral_0 0 rfl rfl)
theorem dX4_numeral_1 : decode cX4_numeral 1 = .ok (.invokevirtual 236, 3) := dk_182 0 236 (dk_at dksX4_numeral_0 1 rfl rfl)
theorem dX4_numeral_4 : decode cX4_numeral 4 = .ok (.ifCond .ne 5, 3) := dk_154 0 5 (dk_at dksX4_numeral_0 4 rfl rfl)
theorem dX4_numeral_7 : decode cX4_numeral 7 = .ok (.iload_n 1, 1) := dk_27 (dk_at dksX4_numeral_0 7 rfl rfl)
theorem dX4_numeral_8 : decode cX4_numeral 8 = .ok (.ireturn, 1) := dk_172 (dk_at dksX4_numeral_0 8 rfl rfl)
theorem dX4_numeral_9 : decode cX4_numeral 9 = .ok (.aload_n 0, 1) := dk_42 (dk_at dksX4_numeral_0 9 rfl rfl)
theorem dX4_numeral_10 : decode cX4_numeral 10 = .ok (.getfield 208, 3) := dk_180 0 208 (dk_at dksX4_numeral_0 10 rfl rfl)
theorem dX4_numeral_13 : decode cX4_numeral 13 = .ok (.iconst 4, 1) := dk_7 (dk_at dksX4_numeral_0 13 rfl rfl)
theorem dX4_numeral_14 : decode cX4_numeral 14 = .ok (.if_icmp .eq 7, 3) := dk_159 0 7 (dk_at dksX4_numeral_0 14 rfl rfl)
theorem dX4_numeral_17 : decode cX4_numeral 17 = .ok (.aload_n 0, 1) := dk_42 (dk_at dksX4_numeral_0 17 rfl rfl)
theorem dX4_numeral_18 : decode cX4_numeral 18 = .ok (.invokevirtual 243, 3) := dk_182 0 243 (dk_at dksX4_numeral_0 18 rfl rfl)
theorem dX4_numeral_21 : decode cX4_numeral 21 = .ok (.aload_n 0, 1) := dk_42 (dk_at dksX4_numeral_0 21 rfl rfl)
theorem dX4_numeral_22 : decode cX4_numeral 22 = .ok (.invokevirtual 236, 3) := dk_182 0 236 (dk_at dksX4_numeral_1 0 rfl rfl)
theorem dX4_numeral_25 : decode cX4_numeral 25 = .ok (.ifCond .eq 28, 3) := dk_153 0 28 (dk_at dksX4_numeral_1 3 rfl rfl)
theorem dX4_numeral_28 : decode cX4_numeral 28 = .ok (.aload_n 0, 1) := dk_42 (dk_at dksX4_numeral_1 6 rfl rfl)
theorem dX4_numeral_29 : decode cX4_numeral 29 = .ok (.getfield 226, 3) := dk_180 0 226 (dk_at dksX4_numeral_1 7 rfl rfl)
theorem dX4_numeral_32 : decode cX4_numeral 32 = .ok (.iload_n 1, 1) := dk_27 (dk_at dksX4_numeral_1 10 rfl rfl)
theorem dX4_numeral_33 : decode cX4_numeral 33 = .ok (.if_icmp .lt 11, 3) := dk_161 0 11 (dk_at dksX4_numeral_1 11 rfl rfl)
theorem dX4_numeral_36 : decode cX4_numeral 36 = .ok (.aload_n 0, 1) := dk_42 (dk_at dksX4_numeral_1 14 rfl rfl)
theorem dX4_numeral_37 : decode cX4_numeral 37 = .ok (.getfield 226, 3) := dk_180 0 226 (dk_at dksX4_numeral_1 15 rfl rfl)
theorem dX4_numeral_40 : decode cX4_numeral 40 = .ok (.iload_n 2, 1) := dk_28 (dk_at dksX4_numeral_1 18 rfl rfl)
theorem dX4_numeral_41 : decode cX4_numeral 41 = .ok (.if_icmp .le 12, 3) := dk_164 0 12 (dk_at dksX4_numeral_1 19 rfl rfl)
theorem dX4_numeral_44 : decode cX4_numeral 44 = .ok (.aload_n 0, 1) := dk_42 (dk_at dksX4_numeral_1 22 rfl rfl)
theorem dX4_numeral_45 : decode cX4_numeral 45 = .ok (.iconst 4, 1) := dk_7 (dk_at dksX4_numeral_1 23 rfl rfl)
theorem dX4_numeral_46 : decode cX4_numeral 46 = .ok (.aload_n 0, 1) := dk_42 (dk_at dksX4_numeral_2 0 rfl rfl)
theorem dX4_numeral_47 : decode cX4_numeral 47 = .ok (.getfield 201, 3) := dk_180 0 201 (dk_at dksX4_numeral_2 1 rfl rfl)
theorem dX4_numeral_50 : decode cX4_numeral 50 = .ok (.invokevirtual 232, 3) := dk_182 0 232 (dk_at dksX4_numeral_2 4 rfl rfl)
theorem dX4_numeral_53 : decode cX4_numeral 53 = .ok (.aload_n 0, 1) := dk_42 (dk_at dksX4_numeral_2 7 rfl rfl)
theorem dX4_numeral_54 : decode cX4_numeral 54 = .ok (.getfield 226, 3) := dk_180 0 226 (dk_at dksX4_numeral_2 8 rfl rfl)
theorem dX4_numeral_57 : decode cX4_numeral 57 = .ok (.istore_n 3, 1) := dk_62 (dk_at dksX4_numeral_2 11 rfl rfl)
theorem dX4_numeral_58 : decode cX4_numeral 58 = .ok (.aload_n 0, 1) := dk_42 (dk_at dksX4_numeral_2 12 rfl rfl)
theorem dX4_numeral_59 : decode cX4_numeral 59 = .ok (.invokevirtual 236, 3) := dk_182 0 236 (dk_at dksX4_numeral_2 13 rfl rfl)
theorem dX4_numeral_62 : decode cX4_numeral 62 = .ok (.ifCond .eq 7, 3) := dk_153 0 7 (dk_at dksX4_numeral_2 16 rfl rfl)
theorem dX4_numeral_65 : decode cX4_numeral 65 = .ok (.aload_n 0, 1) := dk_42 (dk_at dksX4_numeral_2 19 rfl rfl)
theorem dX4_numeral_66 : decode cX4_numeral 66 = .ok (.invokevirtual 240, 3) := dk_182 0 240 (dk_at dksX4_numeral_2 20 rfl rfl)
theorem dX4_numeral_69 : decode cX4_numeral 69 = .ok (.aload_n 0, 1) := dk_42 (dk_at dksX4_numeral_2 23 rfl rfl)
theorem dX4_numeral_70 : decode cX4_numeral 70 = .ok (.invokevirtual 236, 3) := dk_182 0 236 (dk_at dksX4_numeral_3 0 rfl rfl)
theorem dX4_numeral_73 : decode cX4_numeral 73 = .ok (.ifCond .eq 7, 3) := dk_153 0 7 (dk_at dksX4_numeral_3 3 rfl rfl)
theorem dX4_numeral_76 : decode cX4_numeral 76 = .ok (.iload_n 3, 1) := dk_29 (dk_at dksX4_numeral_3 6 rfl rfl)
theorem dX4_numeral_77 : decode cX4_numeral 77 = .ok (.goto 4, 3) := dk_167 0 4 (dk_at dksX4_numeral_3 7 rfl rfl)
theorem dX4_numeral_80 : decode cX4_numeral 80 = .ok (.iload_n 1, 1) := dk_27 (dk_at dksX4_numeral_3 10 rfl rfl)
theorem dX4_numeral_81 : decode cX4_numeral 81 = .ok (.ireturn, 1) := dk_172 (dk_at dksX4_numeral_3 11 rfl rfl)
abbrev cX4_readCase : ByteArray := prog_22_method_27_code
def yX4_readCase : MethodName := ⟨RX4, "readCase", "()V"⟩
def dkwX4_readCase_10 : List UInt8 := [96, 79, 177]
abbrev dktX4_readCase_10 : List UInt8 := dkwX4_readCase_10 ++ []
def dkwX4_readCase_9 : List UInt8 := [5, 160, 0, 7, 4, 167, 0, 4, 3, 61, 167, 255, 132, 42, 180, 0, 30, 42, 180, 0, 246, 92, 46, 4]
abbrev dktX4_readCase_9 : List UInt8 := dkwX4_readCase_9 ++ dktX4_readCase_10
def dkwX4_readCase_8 : List UInt8 := [154, 0, 4, 177, 42, 180, 0, 63, 27, 92, 46, 4, 29, 120, 128, 79, 42, 182, 0, 240, 42, 180, 0, 208]
abbrev dktX4_readCase_8 : List UInt8 := dkwX4_readCase_8 ++ dktX4_readCase_9
def dkwX4_readCase_7 : List UInt8 := [182, 0, 232, 167, 0, 16, 29, 156, 0, 12, 42, 8, 42, 180, 0, 201, 182, 0, 232, 42, 182, 0, 236]
abbrev dktX4_readCase_7 : List UInt8 := dkwX4_readCase_7 ++ dktX4_readCase_8
def dkwX4_readCase_6 : List UInt8 := [155, 0, 28, 42, 180, 0, 63, 27, 46, 29, 184, 1, 8, 153, 0, 15, 42, 6, 42, 180, 0, 201]
abbrev dktX4_readCase_6 : List UInt8 := dkwX4_readCase_6 ++ dktX4_readCase_7
def dkwX4_readCase_5 : List UInt8 := [160, 0, 16, 42, 180, 0, 63, 27, 46, 184, 1, 60, 7, 160, 0, 10, 42, 182, 0, 243, 167, 0, 45, 29]
abbrev dktX4_readCase_5 : List UInt8 := dkwX4_readCase_5 ++ dktX4_readCase_6
def dkwX4_readCase_4 : List UInt8 := [79, 4, 61, 42, 182, 0, 236, 153, 0, 123, 28, 153, 0, 119, 42, 182, 1, 30, 62, 42, 180, 0, 208, 5]
abbrev dktX4_readCase_4 : List UInt8 := dkwX4_readCase_4 ++ dktX4_readCase_5
def dkwX4_readCase_3 : List UInt8 := [182, 1, 19, 182, 1, 40, 79, 42, 42, 20, 0, 172, 182, 1, 5, 182, 1, 33, 42, 180, 0, 63, 27, 3]
abbrev dktX4_readCase_3 : List UInt8 := dkwX4_readCase_3 ++ dktX4_readCase_4
def dkwX4_readCase_2 : List UInt8 := [182, 1, 23, 80, 42, 42, 20, 0, 170, 182, 1, 5, 182, 1, 33, 42, 180, 0, 60, 27, 42, 42]
abbrev dktX4_readCase_2 : List UInt8 := dkwX4_readCase_2 ++ dktX4_readCase_3
def dkwX4_readCase_1 : List UInt8 := [42, 42, 180, 0, 79, 16, 6, 42, 180, 0, 246, 104, 42, 180, 0, 30, 42, 180, 0, 246, 46, 182, 1, 52]
abbrev dktX4_readCase_1 : List UInt8 := dkwX4_readCase_1 ++ dktX4_readCase_2
def dkwX4_readCase_0 : List UInt8 := [16, 6, 42, 180, 0, 246, 104, 42, 180, 0, 30, 42, 180, 0, 246, 46, 96, 60, 42, 180, 0, 79, 27, 42]
abbrev dktX4_readCase_0 : List UInt8 := dkwX4_readCase_0 ++ dktX4_readCase_1
theorem dksX4_readCase_0 : cX4_readCase.data.toList.drop 0 = dktX4_readCase_0 := by decide +kernel
theorem dksX4_readCase_1 : cX4_readCase.data.toList.drop 24 = dktX4_readCase_1 := dk_seg dksX4_readCase_0 24 rfl rfl
theorem dksX4_readCase_2 : cX4_readCase.data.toList.drop 48 = dktX4_readCase_2 := dk_seg dksX4_readCase_1 24 rfl rfl
theorem dksX4_readCase_3 : cX4_readCase.data.toList.drop 70 = dktX4_readCase_3 := dk_seg dksX4_readCase_2 22 rfl rfl
theorem dksX4_readCase_4 : cX4_readCase.data.toList.drop 94 = dktX4_readCase_4 := dk_seg dksX4_readCase_3 24 rfl rfl
theorem dksX4_readCase_5 : cX4_readCase.data.toList.drop 118 = dktX4_readCase_5 := dk_seg dksX4_readCase_4 24 rfl rfl
theorem dksX4_readCase_6 : cX4_readCase.data.toList.drop 142 = dktX4_readCase_6 := dk_seg dksX4_readCase_5 24 rfl rfl
theorem dksX4_readCase_7 : cX4_readCase.data.toList.drop 164 = dktX4_readCase_7 := dk_seg dksX4_readCase_6 22 rfl rfl
theorem dksX4_readCase_8 : cX4_readCase.data.toList.drop 187 = dktX4_readCase_8 := dk_seg dksX4_readCase_7 23 rfl rfl
theorem dksX4_readCase_9 : cX4_readCase.data.toList.drop 211 = dktX4_readCase_9 := dk_seg dksX4_readCase_8 24 rfl rfl
theorem dksX4_readCase_10 : cX4_readCase.data.toList.drop 235 = dktX4_readCase_10 := dk_seg dksX4_readCase_9 24 rfl rfl
theorem dX4_readCase_0 : decode cX4_readCase 0 = .ok (.bipush 6, 2) := dk_16 6 (dk_at dksX4_readCase_0 0 rfl rfl)
theorem dX4_readCase_2 : decode cX4_readCase 2 = .ok (.aload_n 0, 1) := dk_42 (dk_at dksX4_readCase_0 2 rfl rfl)
theorem dX4_readCase_3 : decode cX4_readCase 3 = .ok (.getfield 246, 3) := dk_180 0 246 (dk_at dksX4_readCase_0 3 rfl rfl)
theorem dX4_readCase_6 : decode cX4_readCase 6 = .ok (.imul, 1) := dk_104 (dk_at dksX4_readCase_0 6 rfl rfl)
theorem dX4_readCase_7 : decode cX4_readCase 7 = .ok (.aload_n 0, 1) := dk_42 (dk_at dksX4_readCase_0 7 rfl rfl)
theorem dX4_readCase_8 : decode cX4_readCase 8 = .ok (.getfield 30, 3) := dk_180 0 30 (dk_at dksX4_readCase_0 8 rfl rfl)
theorem dX4_readCase_11 : decode cX4_readCase 11 = .ok (.aload_n 0, 1) := dk_42 (dk_at dksX4_readCase_0 11 rfl rfl)
theorem dX4_readCase_12 : decode cX4_readCase 12 = .ok (.getfield 246, 3) := dk_180 0 246 (dk_at dksX4_readCase_0 12 rfl rfl)
theorem dX4_readCase_15 : decode cX4_readCase 15 = .ok (.iaload, 1) := dk_46 (dk_at dksX4_readCase_0 15 rfl rfl)
theorem dX4_readCase_16 : decode cX4_readCase 16 = .ok (.iadd, 1) := dk_96 (dk_at dksX4_readCase_0 16 rfl rfl)
theorem dX4_readCase_17 : decode cX4_readCase 17 = .ok (.istore_n 1, 1) := dk_60 (dk_at dksX4_readCase_0 17 rfl rfl)
theorem dX4_readCase_18 : decode cX4_readCase 18 = .ok (.aload_n 0, 1) := dk_42 (dk_at dksX4_readCase_0 18 rfl rfl)
theorem dX4_readCase_19 : decode cX4_readCase 19 = .ok (.getfield 79, 3) := dk_180 0 79 (dk_at dksX4_readCase_0 19 rfl rfl)
theorem dX4_readCase_22 : decode cX4_readCase 22 = .ok (.iload_n 1, 1) := dk_27 (dk_at dksX4_readCase_0 22 rfl rfl)
theorem dX4_readCase_23 : decode cX4_readCase 23 = .ok (.aload_n 0, 1) := dk_42 (dk_at dksX4_readCase_0 23 rfl rfl)
theorem dX4_readCase_24 : decode cX4_readCase 24 = .ok (.aload_n 0, 1) := dk_42 (dk_at dksX4_readCase_1 0 rfl rfl)
theorem dX4_readCase_25 : decode cX4_readCase 25 = .ok (.aload_n 0, 1) := dk_42 (dk_at dksX4_readCase_1 1 rfl rfl)
theorem dX4_readCase_26 : decode cX4_readCase 26 = .ok (.getfield 79, 3) := dk_180 0 79 (dk_at dksX4_readCase_1 2 rfl rfl)
theorem dX4_readCase_29 : decode cX4_readCase 29 = .ok (.bipush 6, 2) := dk_16 6 (dk_at dksX4_readCase_1 5 rfl rfl)
theorem dX4_readCase_31 : decode cX4_readCase 31 = .ok (.aload_n 0, 1) := dk_42 (dk_at dksX4_readCase_1 7 rfl rfl)
theorem dX4_readCase_32 : decode cX4_readCase 32 = .ok (.getfield 246, 3) := dk_180 0 246 (dk_at dksX4_readCase_1 8 rfl rfl)
theorem dX4_readCase_35 : decode cX4_readCase 35 = .ok (.imul, 1) := dk_104 (dk_at dksX4_readCase_1 11 rfl rfl)
theorem dX4_readCase_36 : decode cX4_readCase 36 = .ok (.aload_n 0, 1) := dk_42 (dk_at dksX4_readCase_1 12 rfl rfl)
theorem dX4_readCase_37 : decode cX4_readCase 37 = .ok (.getfield 30, 3) := dk_180 0 30 (dk_at dksX4_readCase_1 13 rfl rfl)
theorem dX4_readCase_40 : decode cX4_readCase 40 = .ok (.aload_n 0, 1) := dk_42 (dk_at dksX4_readCase_1 16 rfl rfl)
theorem dX4_readCase_41 : decode cX4_readCase 41 = .ok (.getfield 246, 3) := dk_180 0 246 (dk_at dksX4_readCase_1 17 rfl rfl)
theorem dX4_readCase_44 : decode cX4_readCase 44 = .ok (.iaload, 1) := dk_46 (dk_at dksX4_readCase_1 20 rfl rfl)
theorem dX4_readCase_45 : decode cX4_readCase 45 = .ok (.invokevirtual 308, 3) := dk_182 1 52 (dk_at dksX4_readCase_1 21 rfl rfl)
theorem dX4_readCase_48 : decode cX4_readCase 48 = .ok (.invokevirtual 279, 3) := dk_182 1 23 (dk_at dksX4_readCase_2 0 rfl rfl)
theorem dX4_readCase_51 : decode cX4_readCase 51 = .ok (.lastore, 1) := dk_80 (dk_at dksX4_readCase_2 3 rfl rfl)
theorem dX4_readCase_52 : decode cX4_readCase 52 = .ok (.aload_n 0, 1) := dk_42 (dk_at dksX4_readCase_2 4 rfl rfl)
theorem dX4_readCase_53 : decode cX4_readCase 53 = .ok (.aload_n 0, 1) := dk_42 (dk_at dksX4_readCase_2 5 rfl rfl)
theorem dX4_readCase_54 : decode cX4_readCase 54 = .ok (.ldc2_w 170, 3) := dk_20 0 170 (dk_at dksX4_readCase_2 6 rfl rfl)
theorem dX4_readCase_57 : decode cX4_readCase 57 = .ok (.invokevirtual 261, 3) := dk_182 1 5 (dk_at dksX4_readCase_2 9 rfl rfl)
theorem dX4_readCase_60 : decode cX4_readCase 60 = .ok (.invokevirtual 289, 3) := dk_182 1 33 (dk_at dksX4_readCase_2 12 rfl rfl)
theorem dX4_readCase_63 : decode cX4_readCase 63 = .ok (.aload_n 0, 1) := dk_42 (dk_at dksX4_readCase_2 15 rfl rfl)
theorem dX4_readCase_64 : decode cX4_readCase 64 = .ok (.getfield 60, 3) := dk_180 0 60 (dk_at dksX4_readCase_2 16 rfl rfl)
theorem dX4_readCase_67 : decode cX4_readCase 67 = .ok (.iload_n 1, 1) := dk_27 (dk_at dksX4_readCase_2 19 rfl rfl)
theorem dX4_readCase_68 : decode cX4_readCase 68 = .ok (.aload_n 0, 1) := dk_42 (dk_at dksX4_readCase_2 20 rfl rfl)
theorem dX4_readCase_69 : decode cX4_readCase 69 = .ok (.aload_n 0, 1) := dk_42 (dk_at dksX4_readCase_2 21 rfl rfl)
theorem dX4_readCase_70 : decode cX4_readCase 70 = .ok (.invokevirtual 275, 3) := dk_182 1 19 (dk_at dksX4_readCase_3 0 rfl rfl)
theorem dX4_readCase_73 : decode cX4_readCase 73 = .ok (.invokevirtual 296, 3) := dk_182 1 40 (dk_at dksX4_readCase_3 3 rfl rfl)
theorem dX4_readCase_76 : decode cX4_readCase 76 = .ok (.iastore, 1) := dk_79 (dk_at dksX4_readCase_3 6 rfl rfl)
theorem dX4_readCase_77 : decode cX4_readCase 77 = .ok (.aload_n 0, 1) := dk_42 (dk_at dksX4_readCase_3 7 rfl rfl)
theorem dX4_readCase_78 : decode cX4_readCase 78 = .ok (.aload_n 0, 1) := dk_42 (dk_at dksX4_readCase_3 8 rfl rfl)
theorem dX4_readCase_79 : decode cX4_readCase 79 = .ok (.ldc2_w 172, 3) := dk_20 0 172 (dk_at dksX4_readCase_3 9 rfl rfl)
theorem dX4_readCase_82 : decode cX4_readCase 82 = .ok (.invokevirtual 261, 3) := dk_182 1 5 (dk_at dksX4_readCase_3 12 rfl rfl)
theorem dX4_readCase_85 : decode cX4_readCase 85 = .ok (.invokevirtual 289, 3) := dk_182 1 33 (dk_at dksX4_readCase_3 15 rfl rfl)
theorem dX4_readCase_88 : decode cX4_readCase 88 = .ok (.aload_n 0, 1) := dk_42 (dk_at dksX4_readCase_3 18 rfl rfl)
theorem dX4_readCase_89 : decode cX4_readCase 89 = .ok (.getfield 63, 3) := dk_180 0 63 (dk_at dksX4_readCase_3 19 rfl rfl)
theorem dX4_readCase_92 : decode cX4_readCase 92 = .ok (.iload_n 1, 1) := dk_27 (dk_at dksX4_readCase_3 22 rfl rfl)
theorem dX4_readCase_93 : decode cX4_readCase 93 = .ok (.iconst 0, 1) := dk_3 (dk_at dksX4_readCase_3 23 rfl rfl)
theorem dX4_readCase_94 : decode cX4_readCase 94 = .ok (.iastore, 1) := dk_79 (dk_at dksX4_readCase_4 0 rfl rfl)
theorem dX4_readCase_95 : decode cX4_readCase 95 = .ok (.iconst 1, 1) := dk_4 (dk_at dksX4_readCase_4 1 rfl rfl)
theorem dX4_readCase_96 : decode cX4_readCase 96 = .ok (.istore_n 2, 1) := dk_61 (dk_at dksX4_readCase_4 2 rfl rfl)
theorem dX4_readCase_97 : decode cX4_readCase 97 = .ok (.aload_n 0, 1) := dk_42 (dk_at dksX4_readCase_4 3 rfl rfl)
theorem dX4_readCase_98 : decode cX4_readCase 98 = .ok (.invokevirtual 236, 3) := dk_182 0 236 (dk_at dksX4_readCase_4 4 rfl rfl)
theorem dX4_readCase_101 : decode cX4_readCase 101 = .ok (.ifCond .eq 123, 3) := dk_153 0 123 (dk_at dksX4_readCase_4 7 rfl rfl)
theorem dX4_readCase_104 : decode cX4_readCase 104 = .ok (.iload_n 2, 1) := dk_28 (dk_at dksX4_readCase_4 10 rfl rfl)
theorem dX4_readCase_105 : decode cX4_readCase 105 = .ok (.ifCond .eq 119, 3) := dk_153 0 119 (dk_at dksX4_readCase_4 11 rfl rfl)
theorem dX4_readCase_108 : decode cX4_readCase 108 = .ok (.aload_n 0, 1) := dk_42 (dk_at dksX4_readCase_4 14 rfl rfl)
theorem dX4_readCase_109 : decode cX4_readCase 109 = .ok (.invokevirtual 286, 3) := dk_182 1 30 (dk_at dksX4_readCase_4 15 rfl rfl)
theorem dX4_readCase_112 : decode cX4_readCase 112 = .ok (.istore_n 3, 1) := dk_62 (dk_at dksX4_readCase_4 18 rfl rfl)
theorem dX4_readCase_113 : decode cX4_readCase 113 = .ok (.aload_n 0, 1) := dk_42 (dk_at dksX4_readCase_4 19 rfl rfl)
theorem dX4_readCase_114 : decode cX4_readCase 114 = .ok (.getfield 208, 3) := dk_180 0 208 (dk_at dksX4_readCase_4 20 rfl rfl)
theorem dX4_readCase_117 : decode cX4_readCase 117 = .ok (.iconst 2, 1) := dk_5 (dk_at dksX4_readCase_4 23 rfl rfl)
theorem dX4_readCase_118 : decode cX4_readCase 118 = .ok (.if_icmp .ne 16, 3) := dk_160 0 16 (dk_at dksX4_readCase_5 0 rfl rfl)
theorem dX4_readCase_121 : decode cX4_readCase 121 = .ok (.aload_n 0, 1) := dk_42 (dk_at dksX4_readCase_5 3 rfl rfl)
theorem dX4_readCase_122 : decode cX4_readCase 122 = .ok (.getfield 63, 3) := dk_180 0 63 (dk_at dksX4_readCase_5 4 rfl rfl)
theorem dX4_readCase_125 : decode cX4_readCase 125 = .ok (.iload_n 1, 1) := dk_27 (dk_at dksX4_readCase_5 7 rfl rfl)
theorem dX4_readCase_126 : decode cX4_readCase 126 = .ok (.iaload, 1) := dk_46 (dk_at dksX4_readCase_5 8 rfl rfl)
theorem dX4_readCase_127 : decode cX4_readCase 127 = .ok (.invokestatic 316, 3) := dk_184 1 60 (dk_at dksX4_readCase_5 9 rfl rfl)
theorem dX4_readCase_130 : decode cX4_readCase 130 = .ok (.iconst 4, 1) := dk_7 (dk_at dksX4_readCase_5 12 rfl rfl)
theorem dX4_readCase_131 : decode cX4_readCase 131 = .ok (.if_icmp .ne 10, 3) := dk_160 0 10 (dk_at dksX4_readCase_5 13 rfl rfl)
theorem dX4_readCase_134 : decode cX4_readCase 134 = .ok (.aload_n 0, 1) := dk_42 (dk_at dksX4_readCase_5 16 rfl rfl)
theorem dX4_readCase_135 : decode cX4_readCase 135 = .ok (.invokevirtual 243, 3) := dk_182 0 243 (dk_at dksX4_readCase_5 17 rfl rfl)
theorem dX4_readCase_138 : decode cX4_readCase 138 = .ok (.goto 45, 3) := dk_167 0 45 (dk_at dksX4_readCase_5 20 rfl rfl)
theorem dX4_readCase_141 : decode cX4_readCase 141 = .ok (.iload_n 3, 1) := dk_29 (dk_at dksX4_readCase_5 23 rfl rfl)
theorem dX4_readCase_142 : decode cX4_readCase 142 = .ok (.ifCond .lt 28, 3) := dk_155 0 28 (dk_at dksX4_readCase_6 0 rfl rfl)
theorem dX4_readCase_145 : decode cX4_readCase 145 = .ok (.aload_n 0, 1) := dk_42 (dk_at dksX4_readCase_6 3 rfl rfl)
theorem dX4_readCase_146 : decode cX4_readCase 146 = .ok (.getfield 63, 3) := dk_180 0 63 (dk_at dksX4_readCase_6 4 rfl rfl)
theorem dX4_readCase_149 : decode cX4_readCase 149 = .ok (.iload_n 1, 1) := dk_27 (dk_at dksX4_readCase_6 7 rfl rfl)
theorem dX4_readCase_150 : decode cX4_readCase 150 = .ok (.iaload, 1) := dk_46 (dk_at dksX4_readCase_6 8 rfl rfl)
theorem dX4_readCase_151 : decode cX4_readCase 151 = .ok (.iload_n 3, 1) := dk_29 (dk_at dksX4_readCase_6 9 rfl rfl)
theorem dX4_readCase_152 : decode cX4_readCase 152 = .ok (.invokestatic 264, 3) := dk_184 1 8 (dk_at dksX4_readCase_6 10 rfl rfl)
theorem dX4_readCase_155 : decode cX4_readCase 155 = .ok (.ifCond .eq 15, 3) := dk_153 0 15 (dk_at dksX4_readCase_6 13 rfl rfl)
theorem dX4_readCase_158 : decode cX4_readCase 158 = .ok (.aload_n 0, 1) := dk_42 (dk_at dksX4_readCase_6 16 rfl rfl)
theorem dX4_readCase_159 : decode cX4_readCase 159 = .ok (.iconst 3, 1) := dk_6 (dk_at dksX4_readCase_6 17 rfl rfl)
theorem dX4_readCase_160 : decode cX4_readCase 160 = .ok (.aload_n 0, 1) := dk_42 (dk_at dksX4_readCase_6 18 rfl rfl)
theorem dX4_readCase_161 : decode cX4_readCase 161 = .ok (.getfield 201, 3) := dk_180 0 201 (dk_at dksX4_readCase_6 19 rfl rfl)
theorem dX4_readCase_164 : decode cX4_readCase 164 = .ok (.invokevirtual 232, 3) := dk_182 0 232 (dk_at dksX4_readCase_7 0 rfl rfl)
theorem dX4_readCase_167 : decode cX4_readCase 167 = .ok (.goto 16, 3) := dk_167 0 16 (dk_at dksX4_readCase_7 3 rfl rfl)
theorem dX4_readCase_170 : decode cX4_readCase 170 = .ok (.iload_n 3, 1) := dk_29 (dk_at dksX4_readCase_7 6 rfl rfl)
theorem dX4_readCase_171 : decode cX4_readCase 171 = .ok (.ifCond .ge 12, 3) := dk_156 0 12 (dk_at dksX4_readCase_7 7 rfl rfl)
theorem dX4_readCase_174 : decode cX4_readCase 174 = .ok (.aload_n 0, 1) := dk_42 (dk_at dksX4_readCase_7 10 rfl rfl)
theorem dX4_readCase_175 : decode cX4_readCase 175 = .ok (.iconst 5, 1) := dk_8 (dk_at dksX4_readCase_7 11 rfl rfl)
theorem dX4_readCase_176 : decode cX4_readCase 176 = .ok (.aload_n 0, 1) := dk_42 (dk_at dksX4_readCase_7 12 rfl rfl)
theorem dX4_readCase_177 : decode cX4_readCase 177 = .ok (.getfield 201, 3) := dk_180 0 201 (dk_at dksX4_readCase_7 13 rfl rfl)
theorem dX4_readCase_180 : decode cX4_readCase 180 = .ok (.invokevirtual 232, 3) := dk_182 0 232 (dk_at dksX4_readCase_7 16 rfl rfl)
theorem dX4_readCase_183 : decode cX4_readCase 183 = .ok (.aload_n 0, 1) := dk_42 (dk_at dksX4_readCase_7 19 rfl rfl)
theorem dX4_readCase_184 : decode cX4_readCase 184 = .ok (.invokevirtual 236, 3) := dk_182 0 236 (dk_at dksX4_readCase_7 20 rfl rfl)
theorem dX4_readCase_187 : decode cX4_readCase 187 = .ok (.ifCond .ne 4, 3) := dk_154 0 4 (dk_at dksX4_readCase_8 0 rfl rfl)
theorem dX4_readCase_190 : decode cX4_readCase 190 = .ok (.return_, 1) := dk_177 (dk_at dksX4_readCase_8 3 rfl rfl)
theorem dX4_readCase_191 : decode cX4_readCase 191 = .ok (.aload_n 0, 1) := dk_42 (dk_at dksX4_readCase_8 4 rfl rfl)
theorem dX4_readCase_192 : decode cX4_readCase 192 = .ok (.getfield 63, 3) := dk_180 0 63 (dk_at dksX4_readCase_8 5 rfl rfl)
theorem dX4_readCase_195 : decode cX4_readCase 195 = .ok (.iload_n 1, 1) := dk_27 (dk_at dksX4_readCase_8 8 rfl rfl)
theorem dX4_readCase_196 : decode cX4_readCase 196 = .ok (.dup2, 1) := dk_92 (dk_at dksX4_readCase_8 9 rfl rfl)
theorem dX4_readCase_197 : decode cX4_readCase 197 = .ok (.iaload, 1) := dk_46 (dk_at dksX4_readCase_8 10 rfl rfl)
theorem dX4_readCase_198 : decode cX4_readCase 198 = .ok (.iconst 1, 1) := dk_4 (dk_at dksX4_readCase_8 11 rfl rfl)
theorem dX4_readCase_199 : decode cX4_readCase 199 = .ok (.iload_n 3, 1) := dk_29 (dk_at dksX4_readCase_8 12 rfl rfl)
theorem dX4_readCase_200 : decode cX4_readCase 200 = .ok (.ishl, 1) := dk_120 (dk_at dksX4_readCase_8 13 rfl rfl)
theorem dX4_readCase_201 : decode cX4_readCase 201 = .ok (.ior, 1) := dk_128 (dk_at dksX4_readCase_8 14 rfl rfl)
theorem dX4_readCase_202 : decode cX4_readCase 202 = .ok (.iastore, 1) := dk_79 (dk_at dksX4_readCase_8 15 rfl rfl)
theorem dX4_readCase_203 : decode cX4_readCase 203 = .ok (.aload_n 0, 1) := dk_42 (dk_at dksX4_readCase_8 16 rfl rfl)
theorem dX4_readCase_204 : decode cX4_readCase 204 = .ok (.invokevirtual 240, 3) := dk_182 0 240 (dk_at dksX4_readCase_8 17 rfl rfl)
theorem dX4_readCase_207 : decode cX4_readCase 207 = .ok (.aload_n 0, 1) := dk_42 (dk_at dksX4_readCase_8 20 rfl rfl)
theorem dX4_readCase_208 : decode cX4_readCase 208 = .ok (.getfield 208, 3) := dk_180 0 208 (dk_at dksX4_readCase_8 21 rfl rfl)
theorem dX4_readCase_211 : decode cX4_readCase 211 = .ok (.iconst 2, 1) := dk_5 (dk_at dksX4_readCase_9 0 rfl rfl)
theorem dX4_readCase_212 : decode cX4_readCase 212 = .ok (.if_icmp .ne 7, 3) := dk_160 0 7 (dk_at dksX4_readCase_9 1 rfl rfl)
theorem dX4_readCase_215 : decode cX4_readCase 215 = .ok (.iconst 1, 1) := dk_4 (dk_at dksX4_readCase_9 4 rfl rfl)
theorem dX4_readCase_216 : decode cX4_readCase 216 = .ok (.goto 4, 3) := dk_167 0 4 (dk_at dksX4_readCase_9 5 rfl rfl)
theorem dX4_readCase_219 : decode cX4_readCase 219 = .ok (.iconst 0, 1) := dk_3 (dk_at dksX4_readCase_9 8 rfl rfl)
theorem dX4_readCase_220 : decode cX4_readCase 220 = .ok (.istore_n 2, 1) := dk_61 (dk_at dksX4_readCase_9 9 rfl rfl)
theorem dX4_readCase_221 : decode cX4_readCase 221 = .ok (.goto (-124), 3) := dk_167 255 132 (dk_at dksX4_readCase_9 10 rfl rfl)
theorem dX4_readCase_224 : decode cX4_readCase 224 = .ok (.aload_n 0, 1) := dk_42 (dk_at dksX4_readCase_9 13 rfl rfl)
theorem dX4_readCase_225 : decode cX4_readCase 225 = .ok (.getfield 30, 3) := dk_180 0 30 (dk_at dksX4_readCase_9 14 rfl rfl)
theorem dX4_readCase_228 : decode cX4_readCase 228 = .ok (.aload_n 0, 1) := dk_42 (dk_at dksX4_readCase_9 17 rfl rfl)
theorem dX4_readCase_229 : decode cX4_readCase 229 = .ok (.getfield 246, 3) := dk_180 0 246 (dk_at dksX4_readCase_9 18 rfl rfl)
theorem dX4_readCase_232 : decode cX4_readCase 232 = .ok (.dup2, 1) := dk_92 (dk_at dksX4_readCase_9 21 rfl rfl)
theorem dX4_readCase_233 : decode cX4_readCase 233 = .ok (.iaload, 1) := dk_46 (dk_at dksX4_readCase_9 22 rfl rfl)
theorem dX4_readCase_234 : decode cX4_readCase 234 = .ok (.iconst 1, 1) := dk_4 (dk_at dksX4_readCase_9 23 rfl rfl)
theorem dX4_readCase_235 : decode cX4_readCase 235 = .ok (.iadd, 1) := dk_96 (dk_at dksX4_readCase_10 0 rfl rfl)
theorem dX4_readCase_236 : decode cX4_readCase 236 = .ok (.iastore, 1) := dk_79 (dk_at dksX4_readCase_10 1 rfl rfl)
theorem dX4_readCase_237 : decode cX4_readCase 237 = .ok (.return_, 1) := dk_177 (dk_at dksX4_readCase_10 2 rfl rfl)
abbrev cX4_bitsOf : ByteArray := prog_22_method_43_code
def yX4_bitsOf : MethodName := ⟨RX4, "bitsOf", "(I)I"⟩
def dkwX4_bitsOf_0 : List UInt8 := [3, 60, 26, 61, 28, 153, 0, 15, 132, 1, 1, 28, 28, 4, 100, 126, 61, 167, 255, 243, 27, 172]
abbrev dktX4_bitsOf_0 : List UInt8 := dkwX4_bitsOf_0 ++ []
theorem dksX4_bitsOf_0 : cX4_bitsOf.data.toList.drop 0 = dktX4_bitsOf_0 := by decide +kernel
theorem dX4_bitsOf_0 : decode cX4_bitsOf 0 = .ok (.iconst 0, 1) := dk_3 (dk_at dksX4_bitsOf_0 0 rfl rfl)
theorem dX4_bitsOf_1 : decode cX4_bitsOf 1 = .ok (.istore_n 1, 1) := dk_60 (dk_at dksX4_bitsOf_0 1 rfl rfl)
theorem dX4_bitsOf_2 : decode cX4_bitsOf 2 = .ok (.iload_n 0, 1) := dk_26 (dk_at dksX4_bitsOf_0 2 rfl rfl)
theorem dX4_bitsOf_3 : decode cX4_bitsOf 3 = .ok (.istore_n 2, 1) := dk_61 (dk_at dksX4_bitsOf_0 3 rfl rfl)
theorem dX4_bitsOf_4 : decode cX4_bitsOf 4 = .ok (.iload_n 2, 1) := dk_28 (dk_at dksX4_bitsOf_0 4 rfl rfl)
theorem dX4_bitsOf_5 : decode cX4_bitsOf 5 = .ok (.ifCond .eq 15, 3) := dk_153 0 15 (dk_at dksX4_bitsOf_0 5 rfl rfl)
theorem dX4_bitsOf_8 : decode cX4_bitsOf 8 = .ok (.iinc 1 1, 3) := dk_132 1 1 (dk_at dksX4_bitsOf_0 8 rfl rfl)
theorem dX4_bitsOf_11 : decode cX4_bitsOf 11 = .ok (.iload_n 2, 1) := dk_28 (dk_at dksX4_bitsOf_0 11 rfl rfl)
theorem dX4_bitsOf_12 : decode cX4_bitsOf 12 = .ok (.iload_n 2, 1) := dk_28 (dk_at dksX4_bitsOf_0 12 rfl rfl)
theorem dX4_bitsOf_13 : decode cX4_bitsOf 13 = .ok (.iconst 1, 1) := dk_4 (dk_at dksX4_bitsOf_0 13 rfl rfl)
theorem dX4_bitsOf_14 : decode cX4_bitsOf 14 = .ok (.isub, 1) := dk_100 (dk_at dksX4_bitsOf_0 14 rfl rfl)
theorem dX4_bitsOf_15 : decode cX4_bitsOf 15 = .ok (.iand, 1) := dk_126 (dk_at dksX4_bitsOf_0 15 rfl rfl)
theorem dX4_bitsOf_16 : decode cX4_bitsOf 16 = .ok (.istore_n 2, 1) := dk_61 (dk_at dksX4_bitsOf_0 16 rfl rfl)
theorem dX4_bitsOf_17 : decode cX4_bitsOf 17 = .ok (.goto (-13), 3) := dk_167 255 243 (dk_at dksX4_bitsOf_0 17 rfl rfl)
theorem dX4_bitsOf_20 : decode cX4_bitsOf 20 = .ok (.iload_n 1, 1) := dk_27 (dk_at dksX4_bitsOf_0 20 rfl rfl)
theorem dX4_bitsOf_21 : decode cX4_bitsOf 21 = .ok (.ireturn, 1) := dk_172 (dk_at dksX4_bitsOf_0 21 rfl rfl)
abbrev cX4_readRule : ByteArray := prog_22_method_28_code
def yX4_readRule : MethodName := ⟨RX4, "readRule", "()V"⟩
def dkwX4_readRule_2 : List UInt8 := [79, 177]
abbrev dktX4_readRule_2 : List UInt8 := dkwX4_readRule_2 ++ []
def dkwX4_readRule_1 : List UInt8 := [180, 0, 246, 42, 180, 0, 249, 79, 42, 182, 1, 66, 42, 180, 0, 69, 42, 180, 0, 246, 42, 180, 0, 249]
abbrev dktX4_readRule_1 : List UInt8 := dkwX4_readRule_1 ++ dktX4_readRule_2
def dkwX4_readRule_0 : List UInt8 := [42, 180, 0, 45, 42, 180, 0, 246, 92, 46, 4, 128, 79, 42, 3, 181, 1, 63, 42, 180, 0, 66, 42]
abbrev dktX4_readRule_0 : List UInt8 := dkwX4_readRule_0 ++ dktX4_readRule_1
theorem dksX4_readRule_0 : cX4_readRule.data.toList.drop 0 = dktX4_readRule_0 := by decide +kernel
theorem dksX4_readRule_1 : cX4_readRule.data.toList.drop 23 = dktX4_readRule_1 := dk_seg dksX4_readRule_0 23 rfl rfl
theorem dksX4_readRule_2 : cX4_readRule.data.toList.drop 47 = dktX4_readRule_2 := dk_seg dksX4_readRule_1 24 rfl rfl
theorem dX4_readRule_0 : decode cX4_readRule 0 = .ok (.aload_n 0, 1) := dk_42 (dk_at dksX4_readRule_0 0 rfl rfl)
theorem dX4_readRule_1 : decode cX4_readRule 1 = .ok (.getfield 45, 3) := dk_180 0 45 (dk_at dksX4_readRule_0 1 rfl rfl)
theorem dX4_readRule_4 : decode cX4_readRule 4 = .ok (.aload_n 0, 1) := dk_42 (dk_at dksX4_readRule_0 4 rfl rfl)
theorem dX4_readRule_5 : decode cX4_readRule 5 = .ok (.getfield 246, 3) := dk_180 0 246 (dk_at dksX4_readRule_0 5 rfl rfl)
theorem dX4_readRule_8 : decode cX4_readRule 8 = .ok (.dup2, 1) := dk_92 (dk_at dksX4_readRule_0 8 rfl rfl)
theorem dX4_readRule_9 : decode cX4_readRule 9 = .ok (.iaload, 1) := dk_46 (dk_at dksX4_readRule_0 9 rfl rfl)
theorem dX4_readRule_10 : decode cX4_readRule 10 = .ok (.iconst 1, 1) := dk_4 (dk_at dksX4_readRule_0 10 rfl rfl)
theorem dX4_readRule_11 : decode cX4_readRule 11 = .ok (.ior, 1) := dk_128 (dk_at dksX4_readRule_0 11 rfl rfl)
theorem dX4_readRule_12 : decode cX4_readRule 12 = .ok (.iastore, 1) := dk_79 (dk_at dksX4_readRule_0 12 rfl rfl)
theorem dX4_readRule_13 : decode cX4_readRule 13 = .ok (.aload_n 0, 1) := dk_42 (dk_at dksX4_readRule_0 13 rfl rfl)
theorem dX4_readRule_14 : decode cX4_readRule 14 = .ok (.iconst 0, 1) := dk_3 (dk_at dksX4_readRule_0 14 rfl rfl)
theorem dX4_readRule_15 : decode cX4_readRule 15 = .ok (.putfield 319, 3) := dk_181 1 63 (dk_at dksX4_readRule_0 15 rfl rfl)
theorem dX4_readRule_18 : decode cX4_readRule 18 = .ok (.aload_n 0, 1) := dk_42 (dk_at dksX4_readRule_0 18 rfl rfl)
theorem dX4_readRule_19 : decode cX4_readRule 19 = .ok (.getfield 66, 3) := dk_180 0 66 (dk_at dksX4_readRule_0 19 rfl rfl)
theorem dX4_readRule_22 : decode cX4_readRule 22 = .ok (.aload_n 0, 1) := dk_42 (dk_at dksX4_readRule_0 22 rfl rfl)
theorem dX4_readRule_23 : decode cX4_readRule 23 = .ok (.getfield 246, 3) := dk_180 0 246 (dk_at dksX4_readRule_1 0 rfl rfl)
theorem dX4_readRule_26 : decode cX4_readRule 26 = .ok (.aload_n 0, 1) := dk_42 (dk_at dksX4_readRule_1 3 rfl rfl)
theorem dX4_readRule_27 : decode cX4_readRule 27 = .ok (.getfield 249, 3) := dk_180 0 249 (dk_at dksX4_readRule_1 4 rfl rfl)
theorem dX4_readRule_30 : decode cX4_readRule 30 = .ok (.iastore, 1) := dk_79 (dk_at dksX4_readRule_1 7 rfl rfl)
theorem dX4_readRule_31 : decode cX4_readRule 31 = .ok (.aload_n 0, 1) := dk_42 (dk_at dksX4_readRule_1 8 rfl rfl)
theorem dX4_readRule_32 : decode cX4_readRule 32 = .ok (.invokevirtual 322, 3) := dk_182 1 66 (dk_at dksX4_readRule_1 9 rfl rfl)
theorem dX4_readRule_35 : decode cX4_readRule 35 = .ok (.aload_n 0, 1) := dk_42 (dk_at dksX4_readRule_1 12 rfl rfl)
theorem dX4_readRule_36 : decode cX4_readRule 36 = .ok (.getfield 69, 3) := dk_180 0 69 (dk_at dksX4_readRule_1 13 rfl rfl)
theorem dX4_readRule_39 : decode cX4_readRule 39 = .ok (.aload_n 0, 1) := dk_42 (dk_at dksX4_readRule_1 16 rfl rfl)
theorem dX4_readRule_40 : decode cX4_readRule 40 = .ok (.getfield 246, 3) := dk_180 0 246 (dk_at dksX4_readRule_1 17 rfl rfl)
theorem dX4_readRule_43 : decode cX4_readRule 43 = .ok (.aload_n 0, 1) := dk_42 (dk_at dksX4_readRule_1 20 rfl rfl)
theorem dX4_readRule_44 : decode cX4_readRule 44 = .ok (.getfield 249, 3) := dk_180 0 249 (dk_at dksX4_readRule_1 21 rfl rfl)
theorem dX4_readRule_47 : decode cX4_readRule 47 = .ok (.iastore, 1) := dk_79 (dk_at dksX4_readRule_2 0 rfl rfl)
theorem dX4_readRule_48 : decode cX4_readRule 48 = .ok (.return_, 1) := dk_177 (dk_at dksX4_readRule_2 1 rfl rfl)
abbrev cX4_e : ByteArray := prog_22_method_31_code
def yX4_e : MethodName := ⟨RX4, "e", "()V"⟩
def dkwX4_e_2 : List UInt8 := [182, 1, 81, 60, 167, 255, 226, 177]
abbrev dktX4_e_2 : List UInt8 := dkwX4_e_2 ++ []
def dkwX4_e_1 : List UInt8 := [153, 0, 29, 42, 180, 1, 69, 158, 0, 22, 27, 153, 0, 10, 42, 182, 1, 78, 167, 0, 7, 42]
abbrev dktX4_e_1 : List UInt8 := dkwX4_e_1 ++ dktX4_e_2
def dkwX4_e_0 : List UInt8 := [42, 3, 181, 1, 69, 42, 3, 181, 1, 72, 42, 16, 8, 3, 182, 1, 75, 4, 60, 42, 182, 0, 236]
abbrev dktX4_e_0 : List UInt8 := dkwX4_e_0 ++ dktX4_e_1
theorem dksX4_e_0 : cX4_e.data.toList.drop 0 = dktX4_e_0 := by decide +kernel
theorem dksX4_e_1 : cX4_e.data.toList.drop 23 = dktX4_e_1 := dk_seg dksX4_e_0 23 rfl rfl
theorem dksX4_e_2 : cX4_e.data.toList.drop 45 = dktX4_e_2 := dk_seg dksX4_e_1 22 rfl rfl
theorem dX4_e_0 : decode cX4_e 0 = .ok (.aload_n 0, 1) := dk_42 (dk_at dksX4_e_0 0 rfl rfl)
theorem dX4_e_1 : decode cX4_e 1 = .ok (.iconst 0, 1) := dk_3 (dk_at dksX4_e_0 1 rfl rfl)
theorem dX4_e_2 : decode cX4_e 2 = .ok (.putfield 325, 3) := dk_181 1 69 (dk_at dksX4_e_0 2 rfl rfl)
theorem dX4_e_5 : decode cX4_e 5 = .ok (.aload_n 0, 1) := dk_42 (dk_at dksX4_e_0 5 rfl rfl)
theorem dX4_e_6 : decode cX4_e 6 = .ok (.iconst 0, 1) := dk_3 (dk_at dksX4_e_0 6 rfl rfl)
theorem dX4_e_7 : decode cX4_e 7 = .ok (.putfield 328, 3) := dk_181 1 72 (dk_at dksX4_e_0 7 rfl rfl)
theorem dX4_e_10 : decode cX4_e 10 = .ok (.aload_n 0, 1) := dk_42 (dk_at dksX4_e_0 10 rfl rfl)
theorem dX4_e_11 : decode cX4_e 11 = .ok (.bipush 8, 2) := dk_16 8 (dk_at dksX4_e_0 11 rfl rfl)
theorem dX4_e_13 : decode cX4_e 13 = .ok (.iconst 0, 1) := dk_3 (dk_at dksX4_e_0 13 rfl rfl)
theorem dX4_e_14 : decode cX4_e 14 = .ok (.invokevirtual 331, 3) := dk_182 1 75 (dk_at dksX4_e_0 14 rfl rfl)
theorem dX4_e_17 : decode cX4_e 17 = .ok (.iconst 1, 1) := dk_4 (dk_at dksX4_e_0 17 rfl rfl)
theorem dX4_e_18 : decode cX4_e 18 = .ok (.istore_n 1, 1) := dk_60 (dk_at dksX4_e_0 18 rfl rfl)
theorem dX4_e_19 : decode cX4_e 19 = .ok (.aload_n 0, 1) := dk_42 (dk_at dksX4_e_0 19 rfl rfl)
theorem dX4_e_20 : decode cX4_e 20 = .ok (.invokevirtual 236, 3) := dk_182 0 236 (dk_at dksX4_e_0 20 rfl rfl)
theorem dX4_e_23 : decode cX4_e 23 = .ok (.ifCond .eq 29, 3) := dk_153 0 29 (dk_at dksX4_e_1 0 rfl rfl)
theorem dX4_e_26 : decode cX4_e 26 = .ok (.aload_n 0, 1) := dk_42 (dk_at dksX4_e_1 3 rfl rfl)
theorem dX4_e_27 : decode cX4_e 27 = .ok (.getfield 325, 3) := dk_180 1 69 (dk_at dksX4_e_1 4 rfl rfl)
theorem dX4_e_30 : decode cX4_e 30 = .ok (.ifCond .le 22, 3) := dk_158 0 22 (dk_at dksX4_e_1 7 rfl rfl)
theorem dX4_e_33 : decode cX4_e 33 = .ok (.iload_n 1, 1) := dk_27 (dk_at dksX4_e_1 10 rfl rfl)
theorem dX4_e_34 : decode cX4_e 34 = .ok (.ifCond .eq 10, 3) := dk_153 0 10 (dk_at dksX4_e_1 11 rfl rfl)
theorem dX4_e_37 : decode cX4_e 37 = .ok (.aload_n 0, 1) := dk_42 (dk_at dksX4_e_1 14 rfl rfl)
theorem dX4_e_38 : decode cX4_e 38 = .ok (.invokevirtual 334, 3) := dk_182 1 78 (dk_at dksX4_e_1 15 rfl rfl)
theorem dX4_e_41 : decode cX4_e 41 = .ok (.goto 7, 3) := dk_167 0 7 (dk_at dksX4_e_1 18 rfl rfl)
theorem dX4_e_44 : decode cX4_e 44 = .ok (.aload_n 0, 1) := dk_42 (dk_at dksX4_e_1 21 rfl rfl)
theorem dX4_e_45 : decode cX4_e 45 = .ok (.invokevirtual 337, 3) := dk_182 1 81 (dk_at dksX4_e_2 0 rfl rfl)
theorem dX4_e_48 : decode cX4_e 48 = .ok (.istore_n 1, 1) := dk_60 (dk_at dksX4_e_2 3 rfl rfl)
theorem dX4_e_49 : decode cX4_e 49 = .ok (.goto (-30), 3) := dk_167 255 226 (dk_at dksX4_e_2 4 rfl rfl)
theorem dX4_e_52 : decode cX4_e 52 = .ok (.return_, 1) := dk_177 (dk_at dksX4_e_2 7 rfl rfl)
abbrev cX4_pushE : ByteArray := prog_22_method_30_code
def yX4_pushE : MethodName := ⟨RX4, "pushE", "(II)V"⟩
def dkwX4_pushE_1 : List UInt8 := [180, 1, 69, 4, 96, 181, 1, 69, 177]
abbrev dktX4_pushE_1 : List UInt8 := dkwX4_pushE_1 ++ []
def dkwX4_pushE_0 : List UInt8 := [42, 180, 0, 88, 42, 180, 1, 69, 27, 79, 42, 180, 0, 91, 42, 180, 1, 69, 28, 79, 42, 89]
abbrev dktX4_pushE_0 : List UInt8 := dkwX4_pushE_0 ++ dktX4_pushE_1
theorem dksX4_pushE_0 : cX4_pushE.data.toList.drop 0 = dktX4_pushE_0 := by decide +kernel
theorem dksX4_pushE_1 : cX4_pushE.data.toList.drop 22 = dktX4_pushE_1 := dk_seg dksX4_pushE_0 22 rfl rfl
theorem dX4_pushE_0 : decode cX4_pushE 0 = .ok (.aload_n 0, 1) := dk_42 (dk_at dksX4_pushE_0 0 rfl rfl)
theorem dX4_pushE_1 : decode cX4_pushE 1 = .ok (.getfield 88, 3) := dk_180 0 88 (dk_at dksX4_pushE_0 1 rfl rfl)
theorem dX4_pushE_4 : decode cX4_pushE 4 = .ok (.aload_n 0, 1) := dk_42 (dk_at dksX4_pushE_0 4 rfl rfl)
theorem dX4_pushE_5 : decode cX4_pushE 5 = .ok (.getfield 325, 3) := dk_180 1 69 (dk_at dksX4_pushE_0 5 rfl rfl)
theorem dX4_pushE_8 : decode cX4_pushE 8 = .ok (.iload_n 1, 1) := dk_27 (dk_at dksX4_pushE_0 8 rfl rfl)
theorem dX4_pushE_9 : decode cX4_pushE 9 = .ok (.iastore, 1) := dk_79 (dk_at dksX4_pushE_0 9 rfl rfl)
theorem dX4_pushE_10 : decode cX4_pushE 10 = .ok (.aload_n 0, 1) := dk_42 (dk_at dksX4_pushE_0 10 rfl rfl)
theorem dX4_pushE_11 : decode cX4_pushE 11 = .ok (.getfield 91, 3) := dk_180 0 91 (dk_at dksX4_pushE_0 11 rfl rfl)
theorem dX4_pushE_14 : decode cX4_pushE 14 = .ok (.aload_n 0, 1) := dk_42 (dk_at dksX4_pushE_0 14 rfl rfl)
theorem dX4_pushE_15 : decode cX4_pushE 15 = .ok (.getfield 325, 3) := dk_180 1 69 (dk_at dksX4_pushE_0 15 rfl rfl)
theorem dX4_pushE_18 : decode cX4_pushE 18 = .ok (.iload_n 2, 1) := dk_28 (dk_at dksX4_pushE_0 18 rfl rfl)
theorem dX4_pushE_19 : decode cX4_pushE 19 = .ok (.iastore, 1) := dk_79 (dk_at dksX4_pushE_0 19 rfl rfl)
theorem dX4_pushE_20 : decode cX4_pushE 20 = .ok (.aload_n 0, 1) := dk_42 (dk_at dksX4_pushE_0 20 rfl rfl)
theorem dX4_pushE_21 : decode cX4_pushE 21 = .ok (.dup, 1) := dk_89 (dk_at dksX4_pushE_0 21 rfl rfl)
theorem dX4_pushE_22 : decode cX4_pushE 22 = .ok (.getfield 325, 3) := dk_180 1 69 (dk_at dksX4_pushE_1 0 rfl rfl)
theorem dX4_pushE_25 : decode cX4_pushE 25 = .ok (.iconst 1, 1) := dk_4 (dk_at dksX4_pushE_1 3 rfl rfl)
theorem dX4_pushE_26 : decode cX4_pushE 26 = .ok (.iadd, 1) := dk_96 (dk_at dksX4_pushE_1 4 rfl rfl)
theorem dX4_pushE_27 : decode cX4_pushE 27 = .ok (.putfield 325, 3) := dk_181 1 69 (dk_at dksX4_pushE_1 5 rfl rfl)
theorem dX4_pushE_30 : decode cX4_pushE 30 = .ok (.return_, 1) := dk_177 (dk_at dksX4_pushE_1 8 rfl rfl)
abbrev cX4_unit : ByteArray := prog_22_method_33_code
def yX4_unit : MethodName := ⟨RX4, "unit", "()Z"⟩
def dkwX4_unit_11 : List UInt8 := [167, 0, 5, 21, 4, 21, 6, 182, 1, 87, 3, 172]
abbrev dktX4_unit_11 : List UInt8 := dkwX4_unit_11 ++ []
def dkwX4_unit_10 : List UInt8 := [182, 1, 75, 42, 89, 180, 1, 72, 4, 96, 181, 1, 72, 4, 172, 42, 21, 4, 154, 0, 8, 16, 110]
abbrev dktX4_unit_10 : List UInt8 := dkwX4_unit_10 ++ dktX4_unit_11
def dkwX4_unit_9 : List UInt8 := [182, 0, 240, 28, 154, 0, 7, 29, 153, 0, 31, 42, 28, 153, 0, 7, 6, 167, 0, 5, 16, 7, 16, 126]
abbrev dktX4_unit_9 : List UInt8 := dkwX4_unit_9 ++ dktX4_unit_10
def dkwX4_unit_8 : List UInt8 := [167, 0, 4, 4, 96, 181, 1, 63, 21, 4, 154, 0, 10, 42, 180, 0, 226, 167, 0, 4, 3, 54, 6, 42]
abbrev dktX4_unit_8 : List UInt8 := dkwX4_unit_8 ++ dktX4_unit_9
def dkwX4_unit_7 : List UInt8 := [92, 46, 28, 153, 0, 7, 3, 167, 0, 4, 4, 96, 79, 42, 89, 180, 1, 63, 28, 153, 0, 7, 3]
abbrev dktX4_unit_7 : List UInt8 := dkwX4_unit_7 ++ dktX4_unit_8
def dkwX4_unit_6 : List UInt8 := [160, 0, 7, 42, 182, 0, 243, 42, 182, 0, 236, 154, 0, 5, 4, 172, 42, 180, 0, 33, 42, 180, 0, 246]
abbrev dktX4_unit_6 : List UInt8 := dkwX4_unit_6 ++ dktX4_unit_7
def dkwX4_unit_5 : List UInt8 := [153, 0, 25, 21, 5, 154, 0, 20, 28, 154, 0, 7, 29, 153, 0, 16, 42, 180, 1, 72, 16, 7]
abbrev dktX4_unit_5 : List UInt8 := dkwX4_unit_5 ++ dktX4_unit_6
def dkwX4_unit_4 : List UInt8 := [167, 0, 4, 3, 54, 5, 28, 154, 0, 25, 21, 4, 154, 0, 15, 42, 180, 0, 208, 7, 159, 0, 7, 29]
abbrev dktX4_unit_4 : List UInt8 := dkwX4_unit_4 ++ dktX4_unit_5
def dkwX4_unit_3 : List UInt8 := [180, 0, 33, 42, 180, 0, 246, 46, 16, 60, 159, 0, 12, 42, 180, 1, 63, 16, 30, 160, 0, 7, 4]
abbrev dktX4_unit_3 : List UInt8 := dkwX4_unit_3 ++ dktX4_unit_4
def dkwX4_unit_2 : List UInt8 := [153, 0, 7, 4, 167, 0, 4, 3, 61, 42, 16, 40, 182, 1, 49, 62, 42, 182, 1, 84, 54, 4, 42]
abbrev dktX4_unit_2 : List UInt8 := dkwX4_unit_2 ++ dktX4_unit_3
def dkwX4_unit_1 : List UInt8 := [100, 46, 16, 7, 161, 0, 7, 4, 167, 0, 4, 3, 60, 27, 153, 0, 17, 42, 20, 0, 196, 182, 1, 5]
abbrev dktX4_unit_1 : List UInt8 := dkwX4_unit_1 ++ dktX4_unit_2
def dkwX4_unit_0 : List UInt8 := [42, 180, 0, 88, 42, 180, 1, 69, 4, 100, 46, 6, 164, 0, 19, 42, 180, 0, 88, 42, 180, 1, 69, 4]
abbrev dktX4_unit_0 : List UInt8 := dkwX4_unit_0 ++ dktX4_unit_1
theorem dksX4_unit_0 : cX4_unit.data.toList.drop 0 = dktX4_unit_0 := by decide +kernel
theorem dksX4_unit_1 : cX4_unit.data.toList.drop 24 = dktX4_unit_1 := dk_seg dksX4_unit_0 24 rfl rfl
theorem dksX4_unit_2 : cX4_unit.data.toList.drop 48 = dktX4_unit_2 := dk_seg dksX4_unit_1 24 rfl rfl
theorem dksX4_unit_3 : cX4_unit.data.toList.drop 71 = dktX4_unit_3 := dk_seg dksX4_unit_2 23 rfl rfl
theorem dksX4_unit_4 : cX4_unit.data.toList.drop 94 = dktX4_unit_4 := dk_seg dksX4_unit_3 23 rfl rfl
theorem dksX4_unit_5 : cX4_unit.data.toList.drop 118 = dktX4_unit_5 := dk_seg dksX4_unit_4 24 rfl rfl
theorem dksX4_unit_6 : cX4_unit.data.toList.drop 140 = dktX4_unit_6 := dk_seg dksX4_unit_5 22 rfl rfl
theorem dksX4_unit_7 : cX4_unit.data.toList.drop 164 = dktX4_unit_7 := dk_seg dksX4_unit_6 24 rfl rfl
theorem dksX4_unit_8 : cX4_unit.data.toList.drop 187 = dktX4_unit_8 := dk_seg dksX4_unit_7 23 rfl rfl
theorem dksX4_unit_9 : cX4_unit.data.toList.drop 211 = dktX4_unit_9 := dk_seg dksX4_unit_8 24 rfl rfl
theorem dksX4_unit_10 : cX4_unit.data.toList.drop 235 = dktX4_unit_10 := dk_seg dksX4_unit_9 24 rfl rfl
theorem dksX4_unit_11 : cX4_unit.data.toList.drop 258 = dktX4_unit_11 := dk_seg dksX4_unit_10 23 rfl rfl
theorem dX4_unit_0 : decode cX4_unit 0 = .ok (.aload_n 0, 1) := dk_42 (dk_at dksX4_unit_0 0 rfl rfl)
theorem dX4_unit_1 : decode cX4_unit 1 = .ok (.getfield 88, 3) := dk_180 0 88 (dk_at dksX4_unit_0 1 rfl rfl)
theorem dX4_unit_4 : decode cX4_unit 4 = .ok (.aload_n 0, 1) := dk_42 (dk_at dksX4_unit_0 4 rfl rfl)
theorem dX4_unit_5 : decode cX4_unit 5 = .ok (.getfield 325, 3) := dk_180 1 69 (dk_at dksX4_unit_0 5 rfl rfl)
theorem dX4_unit_8 : decode cX4_unit 8 = .ok (.iconst 1, 1) := dk_4 (dk_at dksX4_unit_0 8 rfl rfl)
theorem dX4_unit_9 : decode cX4_unit 9 = .ok (.isub, 1) := dk_100 (dk_at dksX4_unit_0 9 rfl rfl)
theorem dX4_unit_10 : decode cX4_unit 10 = .ok (.iaload, 1) := dk_46 (dk_at dksX4_unit_0 10 rfl rfl)
theorem dX4_unit_11 : decode cX4_unit 11 = .ok (.iconst 3, 1) := dk_6 (dk_at dksX4_unit_0 11 rfl rfl)
theorem dX4_unit_12 : decode cX4_unit 12 = .ok (.if_icmp .le 19, 3) := dk_164 0 19 (dk_at dksX4_unit_0 12 rfl rfl)
theorem dX4_unit_15 : decode cX4_unit 15 = .ok (.aload_n 0, 1) := dk_42 (dk_at dksX4_unit_0 15 rfl rfl)
theorem dX4_unit_16 : decode cX4_unit 16 = .ok (.getfield 88, 3) := dk_180 0 88 (dk_at dksX4_unit_0 16 rfl rfl)
theorem dX4_unit_19 : decode cX4_unit 19 = .ok (.aload_n 0, 1) := dk_42 (dk_at dksX4_unit_0 19 rfl rfl)
theorem dX4_unit_20 : decode cX4_unit 20 = .ok (.getfield 325, 3) := dk_180 1 69 (dk_at dksX4_unit_0 20 rfl rfl)
theorem dX4_unit_23 : decode cX4_unit 23 = .ok (.iconst 1, 1) := dk_4 (dk_at dksX4_unit_0 23 rfl rfl)
theorem dX4_unit_24 : decode cX4_unit 24 = .ok (.isub, 1) := dk_100 (dk_at dksX4_unit_1 0 rfl rfl)
theorem dX4_unit_25 : decode cX4_unit 25 = .ok (.iaload, 1) := dk_46 (dk_at dksX4_unit_1 1 rfl rfl)
theorem dX4_unit_26 : decode cX4_unit 26 = .ok (.bipush 7, 2) := dk_16 7 (dk_at dksX4_unit_1 2 rfl rfl)
theorem dX4_unit_28 : decode cX4_unit 28 = .ok (.if_icmp .lt 7, 3) := dk_161 0 7 (dk_at dksX4_unit_1 4 rfl rfl)
theorem dX4_unit_31 : decode cX4_unit 31 = .ok (.iconst 1, 1) := dk_4 (dk_at dksX4_unit_1 7 rfl rfl)
theorem dX4_unit_32 : decode cX4_unit 32 = .ok (.goto 4, 3) := dk_167 0 4 (dk_at dksX4_unit_1 8 rfl rfl)
theorem dX4_unit_35 : decode cX4_unit 35 = .ok (.iconst 0, 1) := dk_3 (dk_at dksX4_unit_1 11 rfl rfl)
theorem dX4_unit_36 : decode cX4_unit 36 = .ok (.istore_n 1, 1) := dk_60 (dk_at dksX4_unit_1 12 rfl rfl)
theorem dX4_unit_37 : decode cX4_unit 37 = .ok (.iload_n 1, 1) := dk_27 (dk_at dksX4_unit_1 13 rfl rfl)
theorem dX4_unit_38 : decode cX4_unit 38 = .ok (.ifCond .eq 17, 3) := dk_153 0 17 (dk_at dksX4_unit_1 14 rfl rfl)
theorem dX4_unit_41 : decode cX4_unit 41 = .ok (.aload_n 0, 1) := dk_42 (dk_at dksX4_unit_1 17 rfl rfl)
theorem dX4_unit_42 : decode cX4_unit 42 = .ok (.ldc2_w 196, 3) := dk_20 0 196 (dk_at dksX4_unit_1 18 rfl rfl)
theorem dX4_unit_45 : decode cX4_unit 45 = .ok (.invokevirtual 261, 3) := dk_182 1 5 (dk_at dksX4_unit_1 21 rfl rfl)
theorem dX4_unit_48 : decode cX4_unit 48 = .ok (.ifCond .eq 7, 3) := dk_153 0 7 (dk_at dksX4_unit_2 0 rfl rfl)
theorem dX4_unit_51 : decode cX4_unit 51 = .ok (.iconst 1, 1) := dk_4 (dk_at dksX4_unit_2 3 rfl rfl)
theorem dX4_unit_52 : decode cX4_unit 52 = .ok (.goto 4, 3) := dk_167 0 4 (dk_at dksX4_unit_2 4 rfl rfl)
theorem dX4_unit_55 : decode cX4_unit 55 = .ok (.iconst 0, 1) := dk_3 (dk_at dksX4_unit_2 7 rfl rfl)
theorem dX4_unit_56 : decode cX4_unit 56 = .ok (.istore_n 2, 1) := dk_61 (dk_at dksX4_unit_2 8 rfl rfl)
theorem dX4_unit_57 : decode cX4_unit 57 = .ok (.aload_n 0, 1) := dk_42 (dk_at dksX4_unit_2 9 rfl rfl)
theorem dX4_unit_58 : decode cX4_unit 58 = .ok (.bipush 40, 2) := dk_16 40 (dk_at dksX4_unit_2 10 rfl rfl)
theorem dX4_unit_60 : decode cX4_unit 60 = .ok (.invokevirtual 305, 3) := dk_182 1 49 (dk_at dksX4_unit_2 12 rfl rfl)
theorem dX4_unit_63 : decode cX4_unit 63 = .ok (.istore_n 3, 1) := dk_62 (dk_at dksX4_unit_2 15 rfl rfl)
theorem dX4_unit_64 : decode cX4_unit 64 = .ok (.aload_n 0, 1) := dk_42 (dk_at dksX4_unit_2 16 rfl rfl)
theorem dX4_unit_65 : decode cX4_unit 65 = .ok (.invokevirtual 340, 3) := dk_182 1 84 (dk_at dksX4_unit_2 17 rfl rfl)
theorem dX4_unit_68 : decode cX4_unit 68 = .ok (.istore 4, 2) := dk_54 4 (dk_at dksX4_unit_2 20 rfl rfl)
theorem dX4_unit_70 : decode cX4_unit 70 = .ok (.aload_n 0, 1) := dk_42 (dk_at dksX4_unit_2 22 rfl rfl)
theorem dX4_unit_71 : decode cX4_unit 71 = .ok (.getfield 33, 3) := dk_180 0 33 (dk_at dksX4_unit_3 0 rfl rfl)
theorem dX4_unit_74 : decode cX4_unit 74 = .ok (.aload_n 0, 1) := dk_42 (dk_at dksX4_unit_3 3 rfl rfl)
theorem dX4_unit_75 : decode cX4_unit 75 = .ok (.getfield 246, 3) := dk_180 0 246 (dk_at dksX4_unit_3 4 rfl rfl)
theorem dX4_unit_78 : decode cX4_unit 78 = .ok (.iaload, 1) := dk_46 (dk_at dksX4_unit_3 7 rfl rfl)
theorem dX4_unit_79 : decode cX4_unit 79 = .ok (.bipush 60, 2) := dk_16 60 (dk_at dksX4_unit_3 8 rfl rfl)
theorem dX4_unit_81 : decode cX4_unit 81 = .ok (.if_icmp .eq 12, 3) := dk_159 0 12 (dk_at dksX4_unit_3 10 rfl rfl)
theorem dX4_unit_84 : decode cX4_unit 84 = .ok (.aload_n 0, 1) := dk_42 (dk_at dksX4_unit_3 13 rfl rfl)
theorem dX4_unit_85 : decode cX4_unit 85 = .ok (.getfield 319, 3) := dk_180 1 63 (dk_at dksX4_unit_3 14 rfl rfl)
theorem dX4_unit_88 : decode cX4_unit 88 = .ok (.bipush 30, 2) := dk_16 30 (dk_at dksX4_unit_3 17 rfl rfl)
theorem dX4_unit_90 : decode cX4_unit 90 = .ok (.if_icmp .ne 7, 3) := dk_160 0 7 (dk_at dksX4_unit_3 19 rfl rfl)
theorem dX4_unit_93 : decode cX4_unit 93 = .ok (.iconst 1, 1) := dk_4 (dk_at dksX4_unit_3 22 rfl rfl)
theorem dX4_unit_94 : decode cX4_unit 94 = .ok (.goto 4, 3) := dk_167 0 4 (dk_at dksX4_unit_4 0 rfl rfl)
theorem dX4_unit_97 : decode cX4_unit 97 = .ok (.iconst 0, 1) := dk_3 (dk_at dksX4_unit_4 3 rfl rfl)
theorem dX4_unit_98 : decode cX4_unit 98 = .ok (.istore 5, 2) := dk_54 5 (dk_at dksX4_unit_4 4 rfl rfl)
theorem dX4_unit_100 : decode cX4_unit 100 = .ok (.iload_n 2, 1) := dk_28 (dk_at dksX4_unit_4 6 rfl rfl)
theorem dX4_unit_101 : decode cX4_unit 101 = .ok (.ifCond .ne 25, 3) := dk_154 0 25 (dk_at dksX4_unit_4 7 rfl rfl)
theorem dX4_unit_104 : decode cX4_unit 104 = .ok (.iload 4, 2) := dk_21 4 (dk_at dksX4_unit_4 10 rfl rfl)
theorem dX4_unit_106 : decode cX4_unit 106 = .ok (.ifCond .ne 15, 3) := dk_154 0 15 (dk_at dksX4_unit_4 12 rfl rfl)
theorem dX4_unit_109 : decode cX4_unit 109 = .ok (.aload_n 0, 1) := dk_42 (dk_at dksX4_unit_4 15 rfl rfl)
theorem dX4_unit_110 : decode cX4_unit 110 = .ok (.getfield 208, 3) := dk_180 0 208 (dk_at dksX4_unit_4 16 rfl rfl)
theorem dX4_unit_113 : decode cX4_unit 113 = .ok (.iconst 4, 1) := dk_7 (dk_at dksX4_unit_4 19 rfl rfl)
theorem dX4_unit_114 : decode cX4_unit 114 = .ok (.if_icmp .eq 7, 3) := dk_159 0 7 (dk_at dksX4_unit_4 20 rfl rfl)
theorem dX4_unit_117 : decode cX4_unit 117 = .ok (.iload_n 3, 1) := dk_29 (dk_at dksX4_unit_4 23 rfl rfl)
theorem dX4_unit_118 : decode cX4_unit 118 = .ok (.ifCond .eq 25, 3) := dk_153 0 25 (dk_at dksX4_unit_5 0 rfl rfl)
theorem dX4_unit_121 : decode cX4_unit 121 = .ok (.iload 5, 2) := dk_21 5 (dk_at dksX4_unit_5 3 rfl rfl)
theorem dX4_unit_123 : decode cX4_unit 123 = .ok (.ifCond .ne 20, 3) := dk_154 0 20 (dk_at dksX4_unit_5 5 rfl rfl)
theorem dX4_unit_126 : decode cX4_unit 126 = .ok (.iload_n 2, 1) := dk_28 (dk_at dksX4_unit_5 8 rfl rfl)
theorem dX4_unit_127 : decode cX4_unit 127 = .ok (.ifCond .ne 7, 3) := dk_154 0 7 (dk_at dksX4_unit_5 9 rfl rfl)
theorem dX4_unit_130 : decode cX4_unit 130 = .ok (.iload_n 3, 1) := dk_29 (dk_at dksX4_unit_5 12 rfl rfl)
theorem dX4_unit_131 : decode cX4_unit 131 = .ok (.ifCond .eq 16, 3) := dk_153 0 16 (dk_at dksX4_unit_5 13 rfl rfl)
theorem dX4_unit_134 : decode cX4_unit 134 = .ok (.aload_n 0, 1) := dk_42 (dk_at dksX4_unit_5 16 rfl rfl)
theorem dX4_unit_135 : decode cX4_unit 135 = .ok (.getfield 328, 3) := dk_180 1 72 (dk_at dksX4_unit_5 17 rfl rfl)
theorem dX4_unit_138 : decode cX4_unit 138 = .ok (.bipush 7, 2) := dk_16 7 (dk_at dksX4_unit_5 20 rfl rfl)
theorem dX4_unit_140 : decode cX4_unit 140 = .ok (.if_icmp .ne 7, 3) := dk_160 0 7 (dk_at dksX4_unit_6 0 rfl rfl)
theorem dX4_unit_143 : decode cX4_unit 143 = .ok (.aload_n 0, 1) := dk_42 (dk_at dksX4_unit_6 3 rfl rfl)
theorem dX4_unit_144 : decode cX4_unit 144 = .ok (.invokevirtual 243, 3) := dk_182 0 243 (dk_at dksX4_unit_6 4 rfl rfl)
theorem dX4_unit_147 : decode cX4_unit 147 = .ok (.aload_n 0, 1) := dk_42 (dk_at dksX4_unit_6 7 rfl rfl)
theorem dX4_unit_148 : decode cX4_unit 148 = .ok (.invokevirtual 236, 3) := dk_182 0 236 (dk_at dksX4_unit_6 8 rfl rfl)
theorem dX4_unit_151 : decode cX4_unit 151 = .ok (.ifCond .ne 5, 3) := dk_154 0 5 (dk_at dksX4_unit_6 11 rfl rfl)
theorem dX4_unit_154 : decode cX4_unit 154 = .ok (.iconst 1, 1) := dk_4 (dk_at dksX4_unit_6 14 rfl rfl)
theorem dX4_unit_155 : decode cX4_unit 155 = .ok (.ireturn, 1) := dk_172 (dk_at dksX4_unit_6 15 rfl rfl)
theorem dX4_unit_156 : decode cX4_unit 156 = .ok (.aload_n 0, 1) := dk_42 (dk_at dksX4_unit_6 16 rfl rfl)
theorem dX4_unit_157 : decode cX4_unit 157 = .ok (.getfield 33, 3) := dk_180 0 33 (dk_at dksX4_unit_6 17 rfl rfl)
theorem dX4_unit_160 : decode cX4_unit 160 = .ok (.aload_n 0, 1) := dk_42 (dk_at dksX4_unit_6 20 rfl rfl)
theorem dX4_unit_161 : decode cX4_unit 161 = .ok (.getfield 246, 3) := dk_180 0 246 (dk_at dksX4_unit_6 21 rfl rfl)
theorem dX4_unit_164 : decode cX4_unit 164 = .ok (.dup2, 1) := dk_92 (dk_at dksX4_unit_7 0 rfl rfl)
theorem dX4_unit_165 : decode cX4_unit 165 = .ok (.iaload, 1) := dk_46 (dk_at dksX4_unit_7 1 rfl rfl)
theorem dX4_unit_166 : decode cX4_unit 166 = .ok (.iload_n 2, 1) := dk_28 (dk_at dksX4_unit_7 2 rfl rfl)
theorem dX4_unit_167 : decode cX4_unit 167 = .ok (.ifCond .eq 7, 3) := dk_153 0 7 (dk_at dksX4_unit_7 3 rfl rfl)
theorem dX4_unit_170 : decode cX4_unit 170 = .ok (.iconst 0, 1) := dk_3 (dk_at dksX4_unit_7 6 rfl rfl)
theorem dX4_unit_171 : decode cX4_unit 171 = .ok (.goto 4, 3) := dk_167 0 4 (dk_at dksX4_unit_7 7 rfl rfl)
theorem dX4_unit_174 : decode cX4_unit 174 = .ok (.iconst 1, 1) := dk_4 (dk_at dksX4_unit_7 10 rfl rfl)
theorem dX4_unit_175 : decode cX4_unit 175 = .ok (.iadd, 1) := dk_96 (dk_at dksX4_unit_7 11 rfl rfl)
theorem dX4_unit_176 : decode cX4_unit 176 = .ok (.iastore, 1) := dk_79 (dk_at dksX4_unit_7 12 rfl rfl)
theorem dX4_unit_177 : decode cX4_unit 177 = .ok (.aload_n 0, 1) := dk_42 (dk_at dksX4_unit_7 13 rfl rfl)
theorem dX4_unit_178 : decode cX4_unit 178 = .ok (.dup, 1) := dk_89 (dk_at dksX4_unit_7 14 rfl rfl)
theorem dX4_unit_179 : decode cX4_unit 179 = .ok (.getfield 319, 3) := dk_180 1 63 (dk_at dksX4_unit_7 15 rfl rfl)
theorem dX4_unit_182 : decode cX4_unit 182 = .ok (.iload_n 2, 1) := dk_28 (dk_at dksX4_unit_7 18 rfl rfl)
theorem dX4_unit_183 : decode cX4_unit 183 = .ok (.ifCond .eq 7, 3) := dk_153 0 7 (dk_at dksX4_unit_7 19 rfl rfl)
theorem dX4_unit_186 : decode cX4_unit 186 = .ok (.iconst 0, 1) := dk_3 (dk_at dksX4_unit_7 22 rfl rfl)
theorem dX4_unit_187 : decode cX4_unit 187 = .ok (.goto 4, 3) := dk_167 0 4 (dk_at dksX4_unit_8 0 rfl rfl)
theorem dX4_unit_190 : decode cX4_unit 190 = .ok (.iconst 1, 1) := dk_4 (dk_at dksX4_unit_8 3 rfl rfl)
theorem dX4_unit_191 : decode cX4_unit 191 = .ok (.iadd, 1) := dk_96 (dk_at dksX4_unit_8 4 rfl rfl)
theorem dX4_unit_192 : decode cX4_unit 192 = .ok (.putfield 319, 3) := dk_181 1 63 (dk_at dksX4_unit_8 5 rfl rfl)
theorem dX4_unit_195 : decode cX4_unit 195 = .ok (.iload 4, 2) := dk_21 4 (dk_at dksX4_unit_8 8 rfl rfl)
theorem dX4_unit_197 : decode cX4_unit 197 = .ok (.ifCond .ne 10, 3) := dk_154 0 10 (dk_at dksX4_unit_8 10 rfl rfl)
theorem dX4_unit_200 : decode cX4_unit 200 = .ok (.aload_n 0, 1) := dk_42 (dk_at dksX4_unit_8 13 rfl rfl)
theorem dX4_unit_201 : decode cX4_unit 201 = .ok (.getfield 226, 3) := dk_180 0 226 (dk_at dksX4_unit_8 14 rfl rfl)
theorem dX4_unit_204 : decode cX4_unit 204 = .ok (.goto 4, 3) := dk_167 0 4 (dk_at dksX4_unit_8 17 rfl rfl)
theorem dX4_unit_207 : decode cX4_unit 207 = .ok (.iconst 0, 1) := dk_3 (dk_at dksX4_unit_8 20 rfl rfl)
theorem dX4_unit_208 : decode cX4_unit 208 = .ok (.istore 6, 2) := dk_54 6 (dk_at dksX4_unit_8 21 rfl rfl)
theorem dX4_unit_210 : decode cX4_unit 210 = .ok (.aload_n 0, 1) := dk_42 (dk_at dksX4_unit_8 23 rfl rfl)
theorem dX4_unit_211 : decode cX4_unit 211 = .ok (.invokevirtual 240, 3) := dk_182 0 240 (dk_at dksX4_unit_9 0 rfl rfl)
theorem dX4_unit_214 : decode cX4_unit 214 = .ok (.iload_n 2, 1) := dk_28 (dk_at dksX4_unit_9 3 rfl rfl)
theorem dX4_unit_215 : decode cX4_unit 215 = .ok (.ifCond .ne 7, 3) := dk_154 0 7 (dk_at dksX4_unit_9 4 rfl rfl)
theorem dX4_unit_218 : decode cX4_unit 218 = .ok (.iload_n 3, 1) := dk_29 (dk_at dksX4_unit_9 7 rfl rfl)
theorem dX4_unit_219 : decode cX4_unit 219 = .ok (.ifCond .eq 31, 3) := dk_153 0 31 (dk_at dksX4_unit_9 8 rfl rfl)
theorem dX4_unit_222 : decode cX4_unit 222 = .ok (.aload_n 0, 1) := dk_42 (dk_at dksX4_unit_9 11 rfl rfl)
theorem dX4_unit_223 : decode cX4_unit 223 = .ok (.iload_n 2, 1) := dk_28 (dk_at dksX4_unit_9 12 rfl rfl)
theorem dX4_unit_224 : decode cX4_unit 224 = .ok (.ifCond .eq 7, 3) := dk_153 0 7 (dk_at dksX4_unit_9 13 rfl rfl)
theorem dX4_unit_227 : decode cX4_unit 227 = .ok (.iconst 3, 1) := dk_6 (dk_at dksX4_unit_9 16 rfl rfl)
theorem dX4_unit_228 : decode cX4_unit 228 = .ok (.goto 5, 3) := dk_167 0 5 (dk_at dksX4_unit_9 17 rfl rfl)
theorem dX4_unit_231 : decode cX4_unit 231 = .ok (.bipush 7, 2) := dk_16 7 (dk_at dksX4_unit_9 20 rfl rfl)
theorem dX4_unit_233 : decode cX4_unit 233 = .ok (.bipush 126, 2) := dk_16 126 (dk_at dksX4_unit_9 22 rfl rfl)
theorem dX4_unit_235 : decode cX4_unit 235 = .ok (.invokevirtual 331, 3) := dk_182 1 75 (dk_at dksX4_unit_10 0 rfl rfl)
theorem dX4_unit_238 : decode cX4_unit 238 = .ok (.aload_n 0, 1) := dk_42 (dk_at dksX4_unit_10 3 rfl rfl)
theorem dX4_unit_239 : decode cX4_unit 239 = .ok (.dup, 1) := dk_89 (dk_at dksX4_unit_10 4 rfl rfl)
theorem dX4_unit_240 : decode cX4_unit 240 = .ok (.getfield 328, 3) := dk_180 1 72 (dk_at dksX4_unit_10 5 rfl rfl)
theorem dX4_unit_243 : decode cX4_unit 243 = .ok (.iconst 1, 1) := dk_4 (dk_at dksX4_unit_10 8 rfl rfl)
theorem dX4_unit_244 : decode cX4_unit 244 = .ok (.iadd, 1) := dk_96 (dk_at dksX4_unit_10 9 rfl rfl)
theorem dX4_unit_245 : decode cX4_unit 245 = .ok (.putfield 328, 3) := dk_181 1 72 (dk_at dksX4_unit_10 10 rfl rfl)
theorem dX4_unit_248 : decode cX4_unit 248 = .ok (.iconst 1, 1) := dk_4 (dk_at dksX4_unit_10 13 rfl rfl)
theorem dX4_unit_249 : decode cX4_unit 249 = .ok (.ireturn, 1) := dk_172 (dk_at dksX4_unit_10 14 rfl rfl)
theorem dX4_unit_250 : decode cX4_unit 250 = .ok (.aload_n 0, 1) := dk_42 (dk_at dksX4_unit_10 15 rfl rfl)
theorem dX4_unit_251 : decode cX4_unit 251 = .ok (.iload 4, 2) := dk_21 4 (dk_at dksX4_unit_10 16 rfl rfl)
theorem dX4_unit_253 : decode cX4_unit 253 = .ok (.ifCond .ne 8, 3) := dk_154 0 8 (dk_at dksX4_unit_10 18 rfl rfl)
theorem dX4_unit_256 : decode cX4_unit 256 = .ok (.bipush 110, 2) := dk_16 110 (dk_at dksX4_unit_10 21 rfl rfl)
theorem dX4_unit_258 : decode cX4_unit 258 = .ok (.goto 5, 3) := dk_167 0 5 (dk_at dksX4_unit_11 0 rfl rfl)
theorem dX4_unit_261 : decode cX4_unit 261 = .ok (.iload 4, 2) := dk_21 4 (dk_at dksX4_unit_11 3 rfl rfl)
theorem dX4_unit_263 : decode cX4_unit 263 = .ok (.iload 6, 2) := dk_21 6 (dk_at dksX4_unit_11 5 rfl rfl)
theorem dX4_unit_265 : decode cX4_unit 265 = .ok (.invokevirtual 343, 3) := dk_182 1 87 (dk_at dksX4_unit_11 7 rfl rfl)
theorem dX4_unit_268 : decode cX4_unit 268 = .ok (.iconst 0, 1) := dk_3 (dk_at dksX4_unit_11 10 rfl rfl)
theorem dX4_unit_269 : decode cX4_unit 269 = .ok (.ireturn, 1) := dk_172 (dk_at dksX4_unit_11 11 rfl rfl)
abbrev cX4_isSignHere : ByteArray := prog_22_method_10_code
def yX4_isSignHere : MethodName := ⟨RX4, "isSignHere", "(I)Z"⟩
def dkwX4_isSignHere_1 : List UInt8 := [3, 172]
abbrev dktX4_isSignHere_1 : List UInt8 := dkwX4_isSignHere_1 ++ []
def dkwX4_isSignHere_0 : List UInt8 := [42, 180, 0, 208, 8, 160, 0, 19, 42, 42, 180, 0, 201, 182, 0, 204, 27, 160, 0, 7, 4, 167, 0, 4]
abbrev dktX4_isSignHere_0 : List UInt8 := dkwX4_isSignHere_0 ++ dktX4_isSignHere_1
theorem dksX4_isSignHere_0 : cX4_isSignHere.data.toList.drop 0 = dktX4_isSignHere_0 := by decide +kernel
theorem dksX4_isSignHere_1 : cX4_isSignHere.data.toList.drop 24 = dktX4_isSignHere_1 := dk_seg dksX4_isSignHere_0 24 rfl rfl
theorem dX4_isSignHere_0 : decode cX4_isSignHere 0 = .ok (.aload_n 0, 1) := dk_42 (dk_at dksX4_isSignHere_0 0 rfl rfl)
theorem dX4_isSignHere_1 : decode cX4_isSignHere 1 = .ok (.getfield 208, 3) := dk_180 0 208 (dk_at dksX4_isSignHere_0 1 rfl rfl)
theorem dX4_isSignHere_4 : decode cX4_isSignHere 4 = .ok (.iconst 5, 1) := dk_8 (dk_at dksX4_isSignHere_0 4 rfl rfl)
theorem dX4_isSignHere_5 : decode cX4_isSignHere 5 = .ok (.if_icmp .ne 19, 3) := dk_160 0 19 (dk_at dksX4_isSignHere_0 5 rfl rfl)
theorem dX4_isSignHere_8 : decode cX4_isSignHere 8 = .ok (.aload_n 0, 1) := dk_42 (dk_at dksX4_isSignHere_0 8 rfl rfl)
theorem dX4_isSignHere_9 : decode cX4_isSignHere 9 = .ok (.aload_n 0, 1) := dk_42 (dk_at dksX4_isSignHere_0 9 rfl rfl)
theorem dX4_isSignHere_10 : decode cX4_isSignHere 10 = .ok (.getfield 201, 3) := dk_180 0 201 (dk_at dksX4_isSignHere_0 10 rfl rfl)
theorem dX4_isSignHere_13 : decode cX4_isSignHere 13 = .ok (.invokevirtual 204, 3) := dk_182 0 204 (dk_at dksX4_isSignHere_0 13 rfl rfl)
theorem dX4_isSignHere_16 : decode cX4_isSignHere 16 = .ok (.iload_n 1, 1) := dk_27 (dk_at dksX4_isSignHere_0 16 rfl rfl)
theorem dX4_isSignHere_17 : decode cX4_isSignHere 17 = .ok (.if_icmp .ne 7, 3) := dk_160 0 7 (dk_at dksX4_isSignHere_0 17 rfl rfl)
theorem dX4_isSignHere_20 : decode cX4_isSignHere 20 = .ok (.iconst 1, 1) := dk_4 (dk_at dksX4_isSignHere_0 20 rfl rfl)
theorem dX4_isSignHere_21 : decode cX4_isSignHere 21 = .ok (.goto 4, 3) := dk_167 0 4 (dk_at dksX4_isSignHere_0 21 rfl rfl)
theorem dX4_isSignHere_24 : decode cX4_isSignHere 24 = .ok (.iconst 0, 1) := dk_3 (dk_at dksX4_isSignHere_1 0 rfl rfl)
theorem dX4_isSignHere_25 : decode cX4_isSignHere 25 = .ok (.ireturn, 1) := dk_172 (dk_at dksX4_isSignHere_1 1 rfl rfl)
abbrev cX4_wordHere : ByteArray := prog_22_method_32_code
def yX4_wordHere : MethodName := ⟨RX4, "wordHere", "()I"⟩
def dkwX4_wordHere_3 : List UInt8 := [182, 1, 5, 153, 0, 8, 16, 104, 167, 0, 4, 3, 172]
abbrev dktX4_wordHere_3 : List UInt8 := dkwX4_wordHere_3 ++ []
def dkwX4_wordHere_2 : List UInt8 := [153, 0, 6, 16, 115, 172, 42, 20, 0, 188, 182, 1, 5, 153, 0, 6, 16, 107, 172, 42, 20, 0, 190]
abbrev dktX4_wordHere_2 : List UInt8 := dkwX4_wordHere_2 ++ dktX4_wordHere_3
def dkwX4_wordHere_1 : List UInt8 := [16, 109, 172, 42, 20, 0, 184, 182, 1, 5, 153, 0, 6, 16, 98, 172, 42, 20, 0, 186, 182, 1, 5]
abbrev dktX4_wordHere_1 : List UInt8 := dkwX4_wordHere_1 ++ dktX4_wordHere_2
def dkwX4_wordHere_0 : List UInt8 := [42, 20, 0, 172, 182, 1, 5, 153, 0, 6, 16, 112, 172, 42, 20, 0, 182, 182, 1, 5, 153, 0, 6]
abbrev dktX4_wordHere_0 : List UInt8 := dkwX4_wordHere_0 ++ dktX4_wordHere_1
theorem dksX4_wordHere_0 : cX4_wordHere.data.toList.drop 0 = dktX4_wordHere_0 := by decide +kernel
theorem dksX4_wordHere_1 : cX4_wordHere.data.toList.drop 23 = dktX4_wordHere_1 := dk_seg dksX4_wordHere_0 23 rfl rfl
theorem dksX4_wordHere_2 : cX4_wordHere.data.toList.drop 46 = dktX4_wordHere_2 := dk_seg dksX4_wordHere_1 23 rfl rfl
theorem dksX4_wordHere_3 : cX4_wordHere.data.toList.drop 69 = dktX4_wordHere_3 := dk_seg dksX4_wordHere_2 23 rfl rfl
theorem dX4_wordHere_0 : decode cX4_wordHere 0 = .ok (.aload_n 0, 1) := dk_42 (dk_at dksX4_wordHere_0 0 rfl rfl)
theorem dX4_wordHere_1 : decode cX4_wordHere 1 = .ok (.ldc2_w 172, 3) := dk_20 0 172 (dk_at dksX4_wordHere_0 1 rfl rfl)
theorem dX4_wordHere_4 : decode cX4_wordHere 4 = .ok (.invokevirtual 261, 3) := dk_182 1 5 (dk_at dksX4_wordHere_0 4 rfl rfl)
theorem dX4_wordHere_7 : decode cX4_wordHere 7 = .ok (.ifCond .eq 6, 3) := dk_153 0 6 (dk_at dksX4_wordHere_0 7 rfl rfl)
theorem dX4_wordHere_10 : decode cX4_wordHere 10 = .ok (.bipush 112, 2) := dk_16 112 (dk_at dksX4_wordHere_0 10 rfl rfl)
theorem dX4_wordHere_12 : decode cX4_wordHere 12 = .ok (.ireturn, 1) := dk_172 (dk_at dksX4_wordHere_0 12 rfl rfl)
theorem dX4_wordHere_13 : decode cX4_wordHere 13 = .ok (.aload_n 0, 1) := dk_42 (dk_at dksX4_wordHere_0 13 rfl rfl)
theorem dX4_wordHere_14 : decode cX4_wordHere 14 = .ok (.ldc2_w 182, 3) := dk_20 0 182 (dk_at dksX4_wordHere_0 14 rfl rfl)
theorem dX4_wordHere_17 : decode cX4_wordHere 17 = .ok (.invokevirtual 261, 3) := dk_182 1 5 (dk_at dksX4_wordHere_0 17 rfl rfl)
theorem dX4_wordHere_20 : decode cX4_wordHere 20 = .ok (.ifCond .eq 6, 3) := dk_153 0 6 (dk_at dksX4_wordHere_0 20 rfl rfl)
theorem dX4_wordHere_23 : decode cX4_wordHere 23 = .ok (.bipush 109, 2) := dk_16 109 (dk_at dksX4_wordHere_1 0 rfl rfl)
theorem dX4_wordHere_25 : decode cX4_wordHere 25 = .ok (.ireturn, 1) := dk_172 (dk_at dksX4_wordHere_1 2 rfl rfl)
theorem dX4_wordHere_26 : decode cX4_wordHere 26 = .ok (.aload_n 0, 1) := dk_42 (dk_at dksX4_wordHere_1 3 rfl rfl)
theorem dX4_wordHere_27 : decode cX4_wordHere 27 = .ok (.ldc2_w 184, 3) := dk_20 0 184 (dk_at dksX4_wordHere_1 4 rfl rfl)
theorem dX4_wordHere_30 : decode cX4_wordHere 30 = .ok (.invokevirtual 261, 3) := dk_182 1 5 (dk_at dksX4_wordHere_1 7 rfl rfl)
theorem dX4_wordHere_33 : decode cX4_wordHere 33 = .ok (.ifCond .eq 6, 3) := dk_153 0 6 (dk_at dksX4_wordHere_1 10 rfl rfl)
theorem dX4_wordHere_36 : decode cX4_wordHere 36 = .ok (.bipush 98, 2) := dk_16 98 (dk_at dksX4_wordHere_1 13 rfl rfl)
theorem dX4_wordHere_38 : decode cX4_wordHere 38 = .ok (.ireturn, 1) := dk_172 (dk_at dksX4_wordHere_1 15 rfl rfl)
theorem dX4_wordHere_39 : decode cX4_wordHere 39 = .ok (.aload_n 0, 1) := dk_42 (dk_at dksX4_wordHere_1 16 rfl rfl)
theorem dX4_wordHere_40 : decode cX4_wordHere 40 = .ok (.ldc2_w 186, 3) := dk_20 0 186 (dk_at dksX4_wordHere_1 17 rfl rfl)
theorem dX4_wordHere_43 : decode cX4_wordHere 43 = .ok (.invokevirtual 261, 3) := dk_182 1 5 (dk_at dksX4_wordHere_1 20 rfl rfl)
theorem dX4_wordHere_46 : decode cX4_wordHere 46 = .ok (.ifCond .eq 6, 3) := dk_153 0 6 (dk_at dksX4_wordHere_2 0 rfl rfl)
theorem dX4_wordHere_49 : decode cX4_wordHere 49 = .ok (.bipush 115, 2) := dk_16 115 (dk_at dksX4_wordHere_2 3 rfl rfl)
theorem dX4_wordHere_51 : decode cX4_wordHere 51 = .ok (.ireturn, 1) := dk_172 (dk_at dksX4_wordHere_2 5 rfl rfl)
theorem dX4_wordHere_52 : decode cX4_wordHere 52 = .ok (.aload_n 0, 1) := dk_42 (dk_at dksX4_wordHere_2 6 rfl rfl)
theorem dX4_wordHere_53 : decode cX4_wordHere 53 = .ok (.ldc2_w 188, 3) := dk_20 0 188 (dk_at dksX4_wordHere_2 7 rfl rfl)
theorem dX4_wordHere_56 : decode cX4_wordHere 56 = .ok (.invokevirtual 261, 3) := dk_182 1 5 (dk_at dksX4_wordHere_2 10 rfl rfl)
theorem dX4_wordHere_59 : decode cX4_wordHere 59 = .ok (.ifCond .eq 6, 3) := dk_153 0 6 (dk_at dksX4_wordHere_2 13 rfl rfl)
theorem dX4_wordHere_62 : decode cX4_wordHere 62 = .ok (.bipush 107, 2) := dk_16 107 (dk_at dksX4_wordHere_2 16 rfl rfl)
theorem dX4_wordHere_64 : decode cX4_wordHere 64 = .ok (.ireturn, 1) := dk_172 (dk_at dksX4_wordHere_2 18 rfl rfl)
theorem dX4_wordHere_65 : decode cX4_wordHere 65 = .ok (.aload_n 0, 1) := dk_42 (dk_at dksX4_wordHere_2 19 rfl rfl)
theorem dX4_wordHere_66 : decode cX4_wordHere 66 = .ok (.ldc2_w 190, 3) := dk_20 0 190 (dk_at dksX4_wordHere_2 20 rfl rfl)
theorem dX4_wordHere_69 : decode cX4_wordHere 69 = .ok (.invokevirtual 261, 3) := dk_182 1 5 (dk_at dksX4_wordHere_3 0 rfl rfl)
theorem dX4_wordHere_72 : decode cX4_wordHere 72 = .ok (.ifCond .eq 8, 3) := dk_153 0 8 (dk_at dksX4_wordHere_3 3 rfl rfl)
theorem dX4_wordHere_75 : decode cX4_wordHere 75 = .ok (.bipush 104, 2) := dk_16 104 (dk_at dksX4_wordHere_3 6 rfl rfl)
theorem dX4_wordHere_77 : decode cX4_wordHere 77 = .ok (.goto 4, 3) := dk_167 0 4 (dk_at dksX4_wordHere_3 8 rfl rfl)
theorem dX4_wordHere_80 : decode cX4_wordHere 80 = .ok (.iconst 0, 1) := dk_3 (dk_at dksX4_wordHere_3 11 rfl rfl)
theorem dX4_wordHere_81 : decode cX4_wordHere 81 = .ok (.ireturn, 1) := dk_172 (dk_at dksX4_wordHere_3 12 rfl rfl)
abbrev cX4_emit : ByteArray := prog_22_method_29_code
def yX4_emit : MethodName := ⟨RX4, "emit", "(II)V"⟩
def dkwX4_emit_1 : List UInt8 := [180, 0, 249, 4, 96, 181, 0, 249, 177]
abbrev dktX4_emit_1 : List UInt8 := dkwX4_emit_1 ++ []
def dkwX4_emit_0 : List UInt8 := [42, 180, 0, 82, 42, 180, 0, 249, 27, 79, 42, 180, 0, 85, 42, 180, 0, 249, 28, 79, 42, 89]
abbrev dktX4_emit_0 : List UInt8 := dkwX4_emit_0 ++ dktX4_emit_1
theorem dksX4_emit_0 : cX4_emit.data.toList.drop 0 = dktX4_emit_0 := by decide +kernel
theorem dksX4_emit_1 : cX4_emit.data.toList.drop 22 = dktX4_emit_1 := dk_seg dksX4_emit_0 22 rfl rfl
theorem dX4_emit_0 : decode cX4_emit 0 = .ok (.aload_n 0, 1) := dk_42 (dk_at dksX4_emit_0 0 rfl rfl)
theorem dX4_emit_1 : decode cX4_emit 1 = .ok (.getfield 82, 3) := dk_180 0 82 (dk_at dksX4_emit_0 1 rfl rfl)
theorem dX4_emit_4 : decode cX4_emit 4 = .ok (.aload_n 0, 1) := dk_42 (dk_at dksX4_emit_0 4 rfl rfl)
theorem dX4_emit_5 : decode cX4_emit 5 = .ok (.getfield 249, 3) := dk_180 0 249 (dk_at dksX4_emit_0 5 rfl rfl)
theorem dX4_emit_8 : decode cX4_emit 8 = .ok (.iload_n 1, 1) := dk_27 (dk_at dksX4_emit_0 8 rfl rfl)
theorem dX4_emit_9 : decode cX4_emit 9 = .ok (.iastore, 1) := dk_79 (dk_at dksX4_emit_0 9 rfl rfl)
theorem dX4_emit_10 : decode cX4_emit 10 = .ok (.aload_n 0, 1) := dk_42 (dk_at dksX4_emit_0 10 rfl rfl)
theorem dX4_emit_11 : decode cX4_emit 11 = .ok (.getfield 85, 3) := dk_180 0 85 (dk_at dksX4_emit_0 11 rfl rfl)
theorem dX4_emit_14 : decode cX4_emit 14 = .ok (.aload_n 0, 1) := dk_42 (dk_at dksX4_emit_0 14 rfl rfl)
theorem dX4_emit_15 : decode cX4_emit 15 = .ok (.getfield 249, 3) := dk_180 0 249 (dk_at dksX4_emit_0 15 rfl rfl)
theorem dX4_emit_18 : decode cX4_emit 18 = .ok (.iload_n 2, 1) := dk_28 (dk_at dksX4_emit_0 18 rfl rfl)
theorem dX4_emit_19 : decode cX4_emit 19 = .ok (.iastore, 1) := dk_79 (dk_at dksX4_emit_0 19 rfl rfl)
theorem dX4_emit_20 : decode cX4_emit 20 = .ok (.aload_n 0, 1) := dk_42 (dk_at dksX4_emit_0 20 rfl rfl)
theorem dX4_emit_21 : decode cX4_emit 21 = .ok (.dup, 1) := dk_89 (dk_at dksX4_emit_0 21 rfl rfl)
theorem dX4_emit_22 : decode cX4_emit 22 = .ok (.getfield 249, 3) := dk_180 0 249 (dk_at dksX4_emit_1 0 rfl rfl)
theorem dX4_emit_25 : decode cX4_emit 25 = .ok (.iconst 1, 1) := dk_4 (dk_at dksX4_emit_1 3 rfl rfl)
theorem dX4_emit_26 : decode cX4_emit 26 = .ok (.iadd, 1) := dk_96 (dk_at dksX4_emit_1 4 rfl rfl)
theorem dX4_emit_27 : decode cX4_emit 27 = .ok (.putfield 249, 3) := dk_181 0 249 (dk_at dksX4_emit_1 5 rfl rfl)
theorem dX4_emit_30 : decode cX4_emit 30 = .ok (.return_, 1) := dk_177 (dk_at dksX4_emit_1 8 rfl rfl)
abbrev cX4_behindUnit : ByteArray := prog_22_method_36_code
def yX4_behindUnit : MethodName := ⟨RX4, "behindUnit", "()Z"⟩
def dkwX4_behindUnit_8 : List UInt8 := [182, 1, 33, 3, 172]
abbrev dktX4_behindUnit_8 : List UInt8 := dkwX4_behindUnit_8 ++ []
def dkwX4_behindUnit_7 : List UInt8 := [16, 7, 160, 0, 23, 42, 89, 180, 1, 72, 4, 100, 181, 1, 72, 42, 42, 16, 41, 182, 1, 49]
abbrev dktX4_behindUnit_7 : List UInt8 := dkwX4_behindUnit_7 ++ dktX4_behindUnit_8
def dkwX4_behindUnit_6 : List UInt8 := [182, 0, 240, 4, 172, 42, 89, 180, 1, 69, 4, 100, 181, 1, 69, 42, 180, 0, 88, 42, 180, 1, 69, 46]
abbrev dktX4_behindUnit_6 : List UInt8 := dkwX4_behindUnit_6 ++ dktX4_behindUnit_7
def dkwX4_behindUnit_5 : List UInt8 := [27, 4, 160, 0, 8, 16, 124, 167, 0, 11, 42, 42, 180, 0, 201, 182, 0, 204, 182, 1, 75, 42]
abbrev dktX4_behindUnit_5 : List UInt8 := dkwX4_behindUnit_5 ++ dktX4_behindUnit_6
def dkwX4_behindUnit_4 : List UInt8 := [46, 3, 182, 1, 87, 167, 255, 178, 27, 158, 0, 42, 42, 27, 27, 5, 160, 0, 8, 16, 38, 167, 0, 21]
abbrev dktX4_behindUnit_4 : List UInt8 := dkwX4_behindUnit_4 ++ dktX4_behindUnit_5
def dkwX4_behindUnit_3 : List UInt8 := [46, 6, 160, 0, 13, 42, 89, 180, 1, 72, 4, 100, 181, 1, 72, 42, 42, 180, 0, 91, 42, 180, 1, 69]
abbrev dktX4_behindUnit_3 : List UInt8 := dkwX4_behindUnit_3 ++ dktX4_behindUnit_4
def dkwX4_behindUnit_2 : List UInt8 := [100, 46, 27, 161, 0, 53, 42, 89, 180, 1, 69, 4, 100, 181, 1, 69, 42, 180, 0, 88, 42, 180, 1, 69]
abbrev dktX4_behindUnit_2 : List UInt8 := dkwX4_behindUnit_2 ++ dktX4_behindUnit_3
def dkwX4_behindUnit_1 : List UInt8 := [180, 0, 88, 42, 180, 1, 69, 4, 100, 46, 16, 6, 163, 0, 68, 42, 180, 0, 88, 42, 180, 1, 69, 4]
abbrev dktX4_behindUnit_1 : List UInt8 := dkwX4_behindUnit_1 ++ dktX4_behindUnit_2
def dkwX4_behindUnit_0 : List UInt8 := [42, 182, 1, 90, 60, 27, 7, 160, 0, 16, 42, 182, 1, 93, 153, 0, 9, 42, 182, 0, 243, 4, 172, 42]
abbrev dktX4_behindUnit_0 : List UInt8 := dkwX4_behindUnit_0 ++ dktX4_behindUnit_1
theorem dksX4_behindUnit_0 : cX4_behindUnit.data.toList.drop 0 = dktX4_behindUnit_0 := by decide +kernel
theorem dksX4_behindUnit_1 : cX4_behindUnit.data.toList.drop 24 = dktX4_behindUnit_1 := dk_seg dksX4_behindUnit_0 24 rfl rfl
theorem dksX4_behindUnit_2 : cX4_behindUnit.data.toList.drop 48 = dktX4_behindUnit_2 := dk_seg dksX4_behindUnit_1 24 rfl rfl
theorem dksX4_behindUnit_3 : cX4_behindUnit.data.toList.drop 72 = dktX4_behindUnit_3 := dk_seg dksX4_behindUnit_2 24 rfl rfl
theorem dksX4_behindUnit_4 : cX4_behindUnit.data.toList.drop 96 = dktX4_behindUnit_4 := dk_seg dksX4_behindUnit_3 24 rfl rfl
theorem dksX4_behindUnit_5 : cX4_behindUnit.data.toList.drop 120 = dktX4_behindUnit_5 := dk_seg dksX4_behindUnit_4 24 rfl rfl
theorem dksX4_behindUnit_6 : cX4_behindUnit.data.toList.drop 142 = dktX4_behindUnit_6 := dk_seg dksX4_behindUnit_5 22 rfl rfl
theorem dksX4_behindUnit_7 : cX4_behindUnit.data.toList.drop 166 = dktX4_behindUnit_7 := dk_seg dksX4_behindUnit_6 24 rfl rfl
theorem dksX4_behindUnit_8 : cX4_behindUnit.data.toList.drop 188 = dktX4_behindUnit_8 := dk_seg dksX4_behindUnit_7 22 rfl rfl
theorem dX4_behindUnit_0 : decode cX4_behindUnit 0 = .ok (.aload_n 0, 1) := dk_42 (dk_at dksX4_behindUnit_0 0 rfl rfl)
theorem dX4_behindUnit_1 : decode cX4_behindUnit 1 = .ok (.invokevirtual 346, 3) := dk_182 1 90 (dk_at dksX4_behindUnit_0 1 rfl rfl)
theorem dX4_behindUnit_4 : decode cX4_behindUnit 4 = .ok (.istore_n 1, 1) := dk_60 (dk_at dksX4_behindUnit_0 4 rfl rfl)
theorem dX4_behindUnit_5 : decode cX4_behindUnit 5 = .ok (.iload_n 1, 1) := dk_27 (dk_at dksX4_behindUnit_0 5 rfl rfl)
theorem dX4_behindUnit_6 : decode cX4_behindUnit 6 = .ok (.iconst 4, 1) := dk_7 (dk_at dksX4_behindUnit_0 6 rfl rfl)
theorem dX4_behindUnit_7 : decode cX4_behindUnit 7 = .ok (.if_icmp .ne 16, 3) := dk_160 0 16 (dk_at dksX4_behindUnit_0 7 rfl rfl)
theorem dX4_behindUnit_10 : decode cX4_behindUnit 10 = .ok (.aload_n 0, 1) := dk_42 (dk_at dksX4_behindUnit_0 10 rfl rfl)
theorem dX4_behindUnit_11 : decode cX4_behindUnit 11 = .ok (.invokevirtual 349, 3) := dk_182 1 93 (dk_at dksX4_behindUnit_0 11 rfl rfl)
theorem dX4_behindUnit_14 : decode cX4_behindUnit 14 = .ok (.ifCond .eq 9, 3) := dk_153 0 9 (dk_at dksX4_behindUnit_0 14 rfl rfl)
theorem dX4_behindUnit_17 : decode cX4_behindUnit 17 = .ok (.aload_n 0, 1) := dk_42 (dk_at dksX4_behindUnit_0 17 rfl rfl)
theorem dX4_behindUnit_18 : decode cX4_behindUnit 18 = .ok (.invokevirtual 243, 3) := dk_182 0 243 (dk_at dksX4_behindUnit_0 18 rfl rfl)
theorem dX4_behindUnit_21 : decode cX4_behindUnit 21 = .ok (.iconst 1, 1) := dk_4 (dk_at dksX4_behindUnit_0 21 rfl rfl)
theorem dX4_behindUnit_22 : decode cX4_behindUnit 22 = .ok (.ireturn, 1) := dk_172 (dk_at dksX4_behindUnit_0 22 rfl rfl)
theorem dX4_behindUnit_23 : decode cX4_behindUnit 23 = .ok (.aload_n 0, 1) := dk_42 (dk_at dksX4_behindUnit_0 23 rfl rfl)
theorem dX4_behindUnit_24 : decode cX4_behindUnit 24 = .ok (.getfield 88, 3) := dk_180 0 88 (dk_at dksX4_behindUnit_1 0 rfl rfl)
theorem dX4_behindUnit_27 : decode cX4_behindUnit 27 = .ok (.aload_n 0, 1) := dk_42 (dk_at dksX4_behindUnit_1 3 rfl rfl)
theorem dX4_behindUnit_28 : decode cX4_behindUnit 28 = .ok (.getfield 325, 3) := dk_180 1 69 (dk_at dksX4_behindUnit_1 4 rfl rfl)
theorem dX4_behindUnit_31 : decode cX4_behindUnit 31 = .ok (.iconst 1, 1) := dk_4 (dk_at dksX4_behindUnit_1 7 rfl rfl)
theorem dX4_behindUnit_32 : decode cX4_behindUnit 32 = .ok (.isub, 1) := dk_100 (dk_at dksX4_behindUnit_1 8 rfl rfl)
theorem dX4_behindUnit_33 : decode cX4_behindUnit 33 = .ok (.iaload, 1) := dk_46 (dk_at dksX4_behindUnit_1 9 rfl rfl)
theorem dX4_behindUnit_34 : decode cX4_behindUnit 34 = .ok (.bipush 6, 2) := dk_16 6 (dk_at dksX4_behindUnit_1 10 rfl rfl)
theorem dX4_behindUnit_36 : decode cX4_behindUnit 36 = .ok (.if_icmp .gt 68, 3) := dk_163 0 68 (dk_at dksX4_behindUnit_1 12 rfl rfl)
theorem dX4_behindUnit_39 : decode cX4_behindUnit 39 = .ok (.aload_n 0, 1) := dk_42 (dk_at dksX4_behindUnit_1 15 rfl rfl)
theorem dX4_behindUnit_40 : decode cX4_behindUnit 40 = .ok (.getfield 88, 3) := dk_180 0 88 (dk_at dksX4_behindUnit_1 16 rfl rfl)
theorem dX4_behindUnit_43 : decode cX4_behindUnit 43 = .ok (.aload_n 0, 1) := dk_42 (dk_at dksX4_behindUnit_1 19 rfl rfl)
theorem dX4_behindUnit_44 : decode cX4_behindUnit 44 = .ok (.getfield 325, 3) := dk_180 1 69 (dk_at dksX4_behindUnit_1 20 rfl rfl)
theorem dX4_behindUnit_47 : decode cX4_behindUnit 47 = .ok (.iconst 1, 1) := dk_4 (dk_at dksX4_behindUnit_1 23 rfl rfl)
theorem dX4_behindUnit_48 : decode cX4_behindUnit 48 = .ok (.isub, 1) := dk_100 (dk_at dksX4_behindUnit_2 0 rfl rfl)
theorem dX4_behindUnit_49 : decode cX4_behindUnit 49 = .ok (.iaload, 1) := dk_46 (dk_at dksX4_behindUnit_2 1 rfl rfl)
theorem dX4_behindUnit_50 : decode cX4_behindUnit 50 = .ok (.iload_n 1, 1) := dk_27 (dk_at dksX4_behindUnit_2 2 rfl rfl)
theorem dX4_behindUnit_51 : decode cX4_behindUnit 51 = .ok (.if_icmp .lt 53, 3) := dk_161 0 53 (dk_at dksX4_behindUnit_2 3 rfl rfl)
theorem dX4_behindUnit_54 : decode cX4_behindUnit 54 = .ok (.aload_n 0, 1) := dk_42 (dk_at dksX4_behindUnit_2 6 rfl rfl)
theorem dX4_behindUnit_55 : decode cX4_behindUnit 55 = .ok (.dup, 1) := dk_89 (dk_at dksX4_behindUnit_2 7 rfl rfl)
theorem dX4_behindUnit_56 : decode cX4_behindUnit 56 = .ok (.getfield 325, 3) := dk_180 1 69 (dk_at dksX4_behindUnit_2 8 rfl rfl)
theorem dX4_behindUnit_59 : decode cX4_behindUnit 59 = .ok (.iconst 1, 1) := dk_4 (dk_at dksX4_behindUnit_2 11 rfl rfl)
theorem dX4_behindUnit_60 : decode cX4_behindUnit 60 = .ok (.isub, 1) := dk_100 (dk_at dksX4_behindUnit_2 12 rfl rfl)
theorem dX4_behindUnit_61 : decode cX4_behindUnit 61 = .ok (.putfield 325, 3) := dk_181 1 69 (dk_at dksX4_behindUnit_2 13 rfl rfl)
theorem dX4_behindUnit_64 : decode cX4_behindUnit 64 = .ok (.aload_n 0, 1) := dk_42 (dk_at dksX4_behindUnit_2 16 rfl rfl)
theorem dX4_behindUnit_65 : decode cX4_behindUnit 65 = .ok (.getfield 88, 3) := dk_180 0 88 (dk_at dksX4_behindUnit_2 17 rfl rfl)
theorem dX4_behindUnit_68 : decode cX4_behindUnit 68 = .ok (.aload_n 0, 1) := dk_42 (dk_at dksX4_behindUnit_2 20 rfl rfl)
theorem dX4_behindUnit_69 : decode cX4_behindUnit 69 = .ok (.getfield 325, 3) := dk_180 1 69 (dk_at dksX4_behindUnit_2 21 rfl rfl)
theorem dX4_behindUnit_72 : decode cX4_behindUnit 72 = .ok (.iaload, 1) := dk_46 (dk_at dksX4_behindUnit_3 0 rfl rfl)
theorem dX4_behindUnit_73 : decode cX4_behindUnit 73 = .ok (.iconst 3, 1) := dk_6 (dk_at dksX4_behindUnit_3 1 rfl rfl)
theorem dX4_behindUnit_74 : decode cX4_behindUnit 74 = .ok (.if_icmp .ne 13, 3) := dk_160 0 13 (dk_at dksX4_behindUnit_3 2 rfl rfl)
theorem dX4_behindUnit_77 : decode cX4_behindUnit 77 = .ok (.aload_n 0, 1) := dk_42 (dk_at dksX4_behindUnit_3 5 rfl rfl)
theorem dX4_behindUnit_78 : decode cX4_behindUnit 78 = .ok (.dup, 1) := dk_89 (dk_at dksX4_behindUnit_3 6 rfl rfl)
theorem dX4_behindUnit_79 : decode cX4_behindUnit 79 = .ok (.getfield 328, 3) := dk_180 1 72 (dk_at dksX4_behindUnit_3 7 rfl rfl)
theorem dX4_behindUnit_82 : decode cX4_behindUnit 82 = .ok (.iconst 1, 1) := dk_4 (dk_at dksX4_behindUnit_3 10 rfl rfl)
theorem dX4_behindUnit_83 : decode cX4_behindUnit 83 = .ok (.isub, 1) := dk_100 (dk_at dksX4_behindUnit_3 11 rfl rfl)
theorem dX4_behindUnit_84 : decode cX4_behindUnit 84 = .ok (.putfield 328, 3) := dk_181 1 72 (dk_at dksX4_behindUnit_3 12 rfl rfl)
theorem dX4_behindUnit_87 : decode cX4_behindUnit 87 = .ok (.aload_n 0, 1) := dk_42 (dk_at dksX4_behindUnit_3 15 rfl rfl)
theorem dX4_behindUnit_88 : decode cX4_behindUnit 88 = .ok (.aload_n 0, 1) := dk_42 (dk_at dksX4_behindUnit_3 16 rfl rfl)
theorem dX4_behindUnit_89 : decode cX4_behindUnit 89 = .ok (.getfield 91, 3) := dk_180 0 91 (dk_at dksX4_behindUnit_3 17 rfl rfl)
theorem dX4_behindUnit_92 : decode cX4_behindUnit 92 = .ok (.aload_n 0, 1) := dk_42 (dk_at dksX4_behindUnit_3 20 rfl rfl)
theorem dX4_behindUnit_93 : decode cX4_behindUnit 93 = .ok (.getfield 325, 3) := dk_180 1 69 (dk_at dksX4_behindUnit_3 21 rfl rfl)
theorem dX4_behindUnit_96 : decode cX4_behindUnit 96 = .ok (.iaload, 1) := dk_46 (dk_at dksX4_behindUnit_4 0 rfl rfl)
theorem dX4_behindUnit_97 : decode cX4_behindUnit 97 = .ok (.iconst 0, 1) := dk_3 (dk_at dksX4_behindUnit_4 1 rfl rfl)
theorem dX4_behindUnit_98 : decode cX4_behindUnit 98 = .ok (.invokevirtual 343, 3) := dk_182 1 87 (dk_at dksX4_behindUnit_4 2 rfl rfl)
theorem dX4_behindUnit_101 : decode cX4_behindUnit 101 = .ok (.goto (-78), 3) := dk_167 255 178 (dk_at dksX4_behindUnit_4 5 rfl rfl)
theorem dX4_behindUnit_104 : decode cX4_behindUnit 104 = .ok (.iload_n 1, 1) := dk_27 (dk_at dksX4_behindUnit_4 8 rfl rfl)
theorem dX4_behindUnit_105 : decode cX4_behindUnit 105 = .ok (.ifCond .le 42, 3) := dk_158 0 42 (dk_at dksX4_behindUnit_4 9 rfl rfl)
theorem dX4_behindUnit_108 : decode cX4_behindUnit 108 = .ok (.aload_n 0, 1) := dk_42 (dk_at dksX4_behindUnit_4 12 rfl rfl)
theorem dX4_behindUnit_109 : decode cX4_behindUnit 109 = .ok (.iload_n 1, 1) := dk_27 (dk_at dksX4_behindUnit_4 13 rfl rfl)
theorem dX4_behindUnit_110 : decode cX4_behindUnit 110 = .ok (.iload_n 1, 1) := dk_27 (dk_at dksX4_behindUnit_4 14 rfl rfl)
theorem dX4_behindUnit_111 : decode cX4_behindUnit 111 = .ok (.iconst 2, 1) := dk_5 (dk_at dksX4_behindUnit_4 15 rfl rfl)
theorem dX4_behindUnit_112 : decode cX4_behindUnit 112 = .ok (.if_icmp .ne 8, 3) := dk_160 0 8 (dk_at dksX4_behindUnit_4 16 rfl rfl)
theorem dX4_behindUnit_115 : decode cX4_behindUnit 115 = .ok (.bipush 38, 2) := dk_16 38 (dk_at dksX4_behindUnit_4 19 rfl rfl)
theorem dX4_behindUnit_117 : decode cX4_behindUnit 117 = .ok (.goto 21, 3) := dk_167 0 21 (dk_at dksX4_behindUnit_4 21 rfl rfl)
theorem dX4_behindUnit_120 : decode cX4_behindUnit 120 = .ok (.iload_n 1, 1) := dk_27 (dk_at dksX4_behindUnit_5 0 rfl rfl)
theorem dX4_behindUnit_121 : decode cX4_behindUnit 121 = .ok (.iconst 1, 1) := dk_4 (dk_at dksX4_behindUnit_5 1 rfl rfl)
theorem dX4_behindUnit_122 : decode cX4_behindUnit 122 = .ok (.if_icmp .ne 8, 3) := dk_160 0 8 (dk_at dksX4_behindUnit_5 2 rfl rfl)
theorem dX4_behindUnit_125 : decode cX4_behindUnit 125 = .ok (.bipush 124, 2) := dk_16 124 (dk_at dksX4_behindUnit_5 5 rfl rfl)
theorem dX4_behindUnit_127 : decode cX4_behindUnit 127 = .ok (.goto 11, 3) := dk_167 0 11 (dk_at dksX4_behindUnit_5 7 rfl rfl)
theorem dX4_behindUnit_130 : decode cX4_behindUnit 130 = .ok (.aload_n 0, 1) := dk_42 (dk_at dksX4_behindUnit_5 10 rfl rfl)
theorem dX4_behindUnit_131 : decode cX4_behindUnit 131 = .ok (.aload_n 0, 1) := dk_42 (dk_at dksX4_behindUnit_5 11 rfl rfl)
theorem dX4_behindUnit_132 : decode cX4_behindUnit 132 = .ok (.getfield 201, 3) := dk_180 0 201 (dk_at dksX4_behindUnit_5 12 rfl rfl)
theorem dX4_behindUnit_135 : decode cX4_behindUnit 135 = .ok (.invokevirtual 204, 3) := dk_182 0 204 (dk_at dksX4_behindUnit_5 15 rfl rfl)
theorem dX4_behindUnit_138 : decode cX4_behindUnit 138 = .ok (.invokevirtual 331, 3) := dk_182 1 75 (dk_at dksX4_behindUnit_5 18 rfl rfl)
theorem dX4_behindUnit_141 : decode cX4_behindUnit 141 = .ok (.aload_n 0, 1) := dk_42 (dk_at dksX4_behindUnit_5 21 rfl rfl)
theorem dX4_behindUnit_142 : decode cX4_behindUnit 142 = .ok (.invokevirtual 240, 3) := dk_182 0 240 (dk_at dksX4_behindUnit_6 0 rfl rfl)
theorem dX4_behindUnit_145 : decode cX4_behindUnit 145 = .ok (.iconst 1, 1) := dk_4 (dk_at dksX4_behindUnit_6 3 rfl rfl)
theorem dX4_behindUnit_146 : decode cX4_behindUnit 146 = .ok (.ireturn, 1) := dk_172 (dk_at dksX4_behindUnit_6 4 rfl rfl)
theorem dX4_behindUnit_147 : decode cX4_behindUnit 147 = .ok (.aload_n 0, 1) := dk_42 (dk_at dksX4_behindUnit_6 5 rfl rfl)
theorem dX4_behindUnit_148 : decode cX4_behindUnit 148 = .ok (.dup, 1) := dk_89 (dk_at dksX4_behindUnit_6 6 rfl rfl)
theorem dX4_behindUnit_149 : decode cX4_behindUnit 149 = .ok (.getfield 325, 3) := dk_180 1 69 (dk_at dksX4_behindUnit_6 7 rfl rfl)
theorem dX4_behindUnit_152 : decode cX4_behindUnit 152 = .ok (.iconst 1, 1) := dk_4 (dk_at dksX4_behindUnit_6 10 rfl rfl)
theorem dX4_behindUnit_153 : decode cX4_behindUnit 153 = .ok (.isub, 1) := dk_100 (dk_at dksX4_behindUnit_6 11 rfl rfl)
theorem dX4_behindUnit_154 : decode cX4_behindUnit 154 = .ok (.putfield 325, 3) := dk_181 1 69 (dk_at dksX4_behindUnit_6 12 rfl rfl)
theorem dX4_behindUnit_157 : decode cX4_behindUnit 157 = .ok (.aload_n 0, 1) := dk_42 (dk_at dksX4_behindUnit_6 15 rfl rfl)
theorem dX4_behindUnit_158 : decode cX4_behindUnit 158 = .ok (.getfield 88, 3) := dk_180 0 88 (dk_at dksX4_behindUnit_6 16 rfl rfl)
theorem dX4_behindUnit_161 : decode cX4_behindUnit 161 = .ok (.aload_n 0, 1) := dk_42 (dk_at dksX4_behindUnit_6 19 rfl rfl)
theorem dX4_behindUnit_162 : decode cX4_behindUnit 162 = .ok (.getfield 325, 3) := dk_180 1 69 (dk_at dksX4_behindUnit_6 20 rfl rfl)
theorem dX4_behindUnit_165 : decode cX4_behindUnit 165 = .ok (.iaload, 1) := dk_46 (dk_at dksX4_behindUnit_6 23 rfl rfl)
theorem dX4_behindUnit_166 : decode cX4_behindUnit 166 = .ok (.bipush 7, 2) := dk_16 7 (dk_at dksX4_behindUnit_7 0 rfl rfl)
theorem dX4_behindUnit_168 : decode cX4_behindUnit 168 = .ok (.if_icmp .ne 23, 3) := dk_160 0 23 (dk_at dksX4_behindUnit_7 2 rfl rfl)
theorem dX4_behindUnit_171 : decode cX4_behindUnit 171 = .ok (.aload_n 0, 1) := dk_42 (dk_at dksX4_behindUnit_7 5 rfl rfl)
theorem dX4_behindUnit_172 : decode cX4_behindUnit 172 = .ok (.dup, 1) := dk_89 (dk_at dksX4_behindUnit_7 6 rfl rfl)
theorem dX4_behindUnit_173 : decode cX4_behindUnit 173 = .ok (.getfield 328, 3) := dk_180 1 72 (dk_at dksX4_behindUnit_7 7 rfl rfl)
theorem dX4_behindUnit_176 : decode cX4_behindUnit 176 = .ok (.iconst 1, 1) := dk_4 (dk_at dksX4_behindUnit_7 10 rfl rfl)
theorem dX4_behindUnit_177 : decode cX4_behindUnit 177 = .ok (.isub, 1) := dk_100 (dk_at dksX4_behindUnit_7 11 rfl rfl)
theorem dX4_behindUnit_178 : decode cX4_behindUnit 178 = .ok (.putfield 328, 3) := dk_181 1 72 (dk_at dksX4_behindUnit_7 12 rfl rfl)
theorem dX4_behindUnit_181 : decode cX4_behindUnit 181 = .ok (.aload_n 0, 1) := dk_42 (dk_at dksX4_behindUnit_7 15 rfl rfl)
theorem dX4_behindUnit_182 : decode cX4_behindUnit 182 = .ok (.aload_n 0, 1) := dk_42 (dk_at dksX4_behindUnit_7 16 rfl rfl)
theorem dX4_behindUnit_183 : decode cX4_behindUnit 183 = .ok (.bipush 41, 2) := dk_16 41 (dk_at dksX4_behindUnit_7 17 rfl rfl)
theorem dX4_behindUnit_185 : decode cX4_behindUnit 185 = .ok (.invokevirtual 305, 3) := dk_182 1 49 (dk_at dksX4_behindUnit_7 19 rfl rfl)
theorem dX4_behindUnit_188 : decode cX4_behindUnit 188 = .ok (.invokevirtual 289, 3) := dk_182 1 33 (dk_at dksX4_behindUnit_8 0 rfl rfl)
theorem dX4_behindUnit_191 : decode cX4_behindUnit 191 = .ok (.iconst 0, 1) := dk_3 (dk_at dksX4_behindUnit_8 3 rfl rfl)
theorem dX4_behindUnit_192 : decode cX4_behindUnit 192 = .ok (.ireturn, 1) := dk_172 (dk_at dksX4_behindUnit_8 4 rfl rfl)
abbrev cX4_rankHere : ByteArray := prog_22_method_34_code
def yX4_rankHere : MethodName := ⟨RX4, "rankHere", "()I"⟩
def dkwX4_rankHere_4 : List UInt8 := [182, 1, 49, 153, 0, 8, 16, 6, 167, 0, 4, 3, 172]
abbrev dktX4_rankHere_4 : List UInt8 := dkwX4_rankHere_4 ++ []
def dkwX4_rankHere_3 : List UInt8 := [172, 42, 16, 42, 182, 1, 49, 154, 0, 21, 42, 16, 47, 182, 1, 49, 154, 0, 12, 42, 16, 37]
abbrev dktX4_rankHere_3 : List UInt8 := dkwX4_rankHere_3 ++ dktX4_rankHere_4
def dkwX4_rankHere_2 : List UInt8 := [153, 0, 5, 7, 172, 42, 16, 43, 182, 1, 49, 154, 0, 12, 42, 16, 45, 182, 1, 49, 153, 0, 5, 8]
abbrev dktX4_rankHere_2 : List UInt8 := dkwX4_rankHere_2 ++ dktX4_rankHere_3
def dkwX4_rankHere_1 : List UInt8 := [42, 16, 60, 182, 1, 49, 154, 0, 21, 42, 16, 62, 182, 1, 49, 154, 0, 12, 42, 16, 61, 182, 1, 49]
abbrev dktX4_rankHere_1 : List UInt8 := dkwX4_rankHere_1 ++ dktX4_rankHere_2
def dkwX4_rankHere_0 : List UInt8 := [42, 20, 0, 194, 182, 1, 5, 153, 0, 5, 5, 172, 42, 20, 0, 192, 182, 1, 5, 153, 0, 5, 4, 172]
abbrev dktX4_rankHere_0 : List UInt8 := dkwX4_rankHere_0 ++ dktX4_rankHere_1
theorem dksX4_rankHere_0 : cX4_rankHere.data.toList.drop 0 = dktX4_rankHere_0 := by decide +kernel
theorem dksX4_rankHere_1 : cX4_rankHere.data.toList.drop 24 = dktX4_rankHere_1 := dk_seg dksX4_rankHere_0 24 rfl rfl
theorem dksX4_rankHere_2 : cX4_rankHere.data.toList.drop 48 = dktX4_rankHere_2 := dk_seg dksX4_rankHere_1 24 rfl rfl
theorem dksX4_rankHere_3 : cX4_rankHere.data.toList.drop 72 = dktX4_rankHere_3 := dk_seg dksX4_rankHere_2 24 rfl rfl
theorem dksX4_rankHere_4 : cX4_rankHere.data.toList.drop 94 = dktX4_rankHere_4 := dk_seg dksX4_rankHere_3 22 rfl rfl
theorem dX4_rankHere_0 : decode cX4_rankHere 0 = .ok (.aload_n 0, 1) := dk_42 (dk_at dksX4_rankHere_0 0 rfl rfl)
theorem dX4_rankHere_1 : decode cX4_rankHere 1 = .ok (.ldc2_w 194, 3) := dk_20 0 194 (dk_at dksX4_rankHere_0 1 rfl rfl)
theorem dX4_rankHere_4 : decode cX4_rankHere 4 = .ok (.invokevirtual 261, 3) := dk_182 1 5 (dk_at dksX4_rankHere_0 4 rfl rfl)
theorem dX4_rankHere_7 : decode cX4_rankHere 7 = .ok (.ifCond .eq 5, 3) := dk_153 0 5 (dk_at dksX4_rankHere_0 7 rfl rfl)
theorem dX4_rankHere_10 : decode cX4_rankHere 10 = .ok (.iconst 2, 1) := dk_5 (dk_at dksX4_rankHere_0 10 rfl rfl)
theorem dX4_rankHere_11 : decode cX4_rankHere 11 = .ok (.ireturn, 1) := dk_172 (dk_at dksX4_rankHere_0 11 rfl rfl)
theorem dX4_rankHere_12 : decode cX4_rankHere 12 = .ok (.aload_n 0, 1) := dk_42 (dk_at dksX4_rankHere_0 12 rfl rfl)
theorem dX4_rankHere_13 : decode cX4_rankHere 13 = .ok (.ldc2_w 192, 3) := dk_20 0 192 (dk_at dksX4_rankHere_0 13 rfl rfl)
theorem dX4_rankHere_16 : decode cX4_rankHere 16 = .ok (.invokevirtual 261, 3) := dk_182 1 5 (dk_at dksX4_rankHere_0 16 rfl rfl)
theorem dX4_rankHere_19 : decode cX4_rankHere 19 = .ok (.ifCond .eq 5, 3) := dk_153 0 5 (dk_at dksX4_rankHere_0 19 rfl rfl)
theorem dX4_rankHere_22 : decode cX4_rankHere 22 = .ok (.iconst 1, 1) := dk_4 (dk_at dksX4_rankHere_0 22 rfl rfl)
theorem dX4_rankHere_23 : decode cX4_rankHere 23 = .ok (.ireturn, 1) := dk_172 (dk_at dksX4_rankHere_0 23 rfl rfl)
theorem dX4_rankHere_24 : decode cX4_rankHere 24 = .ok (.aload_n 0, 1) := dk_42 (dk_at dksX4_rankHere_1 0 rfl rfl)
theorem dX4_rankHere_25 : decode cX4_rankHere 25 = .ok (.bipush 60, 2) := dk_16 60 (dk_at dksX4_rankHere_1 1 rfl rfl)
theorem dX4_rankHere_27 : decode cX4_rankHere 27 = .ok (.invokevirtual 305, 3) := dk_182 1 49 (dk_at dksX4_rankHere_1 3 rfl rfl)
theorem dX4_rankHere_30 : decode cX4_rankHere 30 = .ok (.ifCond .ne 21, 3) := dk_154 0 21 (dk_at dksX4_rankHere_1 6 rfl rfl)
theorem dX4_rankHere_33 : decode cX4_rankHere 33 = .ok (.aload_n 0, 1) := dk_42 (dk_at dksX4_rankHere_1 9 rfl rfl)
theorem dX4_rankHere_34 : decode cX4_rankHere 34 = .ok (.bipush 62, 2) := dk_16 62 (dk_at dksX4_rankHere_1 10 rfl rfl)
theorem dX4_rankHere_36 : decode cX4_rankHere 36 = .ok (.invokevirtual 305, 3) := dk_182 1 49 (dk_at dksX4_rankHere_1 12 rfl rfl)
theorem dX4_rankHere_39 : decode cX4_rankHere 39 = .ok (.ifCond .ne 12, 3) := dk_154 0 12 (dk_at dksX4_rankHere_1 15 rfl rfl)
theorem dX4_rankHere_42 : decode cX4_rankHere 42 = .ok (.aload_n 0, 1) := dk_42 (dk_at dksX4_rankHere_1 18 rfl rfl)
theorem dX4_rankHere_43 : decode cX4_rankHere 43 = .ok (.bipush 61, 2) := dk_16 61 (dk_at dksX4_rankHere_1 19 rfl rfl)
theorem dX4_rankHere_45 : decode cX4_rankHere 45 = .ok (.invokevirtual 305, 3) := dk_182 1 49 (dk_at dksX4_rankHere_1 21 rfl rfl)
theorem dX4_rankHere_48 : decode cX4_rankHere 48 = .ok (.ifCond .eq 5, 3) := dk_153 0 5 (dk_at dksX4_rankHere_2 0 rfl rfl)
theorem dX4_rankHere_51 : decode cX4_rankHere 51 = .ok (.iconst 4, 1) := dk_7 (dk_at dksX4_rankHere_2 3 rfl rfl)
theorem dX4_rankHere_52 : decode cX4_rankHere 52 = .ok (.ireturn, 1) := dk_172 (dk_at dksX4_rankHere_2 4 rfl rfl)
theorem dX4_rankHere_53 : decode cX4_rankHere 53 = .ok (.aload_n 0, 1) := dk_42 (dk_at dksX4_rankHere_2 5 rfl rfl)
theorem dX4_rankHere_54 : decode cX4_rankHere 54 = .ok (.bipush 43, 2) := dk_16 43 (dk_at dksX4_rankHere_2 6 rfl rfl)
theorem dX4_rankHere_56 : decode cX4_rankHere 56 = .ok (.invokevirtual 305, 3) := dk_182 1 49 (dk_at dksX4_rankHere_2 8 rfl rfl)
theorem dX4_rankHere_59 : decode cX4_rankHere 59 = .ok (.ifCond .ne 12, 3) := dk_154 0 12 (dk_at dksX4_rankHere_2 11 rfl rfl)
theorem dX4_rankHere_62 : decode cX4_rankHere 62 = .ok (.aload_n 0, 1) := dk_42 (dk_at dksX4_rankHere_2 14 rfl rfl)
theorem dX4_rankHere_63 : decode cX4_rankHere 63 = .ok (.bipush 45, 2) := dk_16 45 (dk_at dksX4_rankHere_2 15 rfl rfl)
theorem dX4_rankHere_65 : decode cX4_rankHere 65 = .ok (.invokevirtual 305, 3) := dk_182 1 49 (dk_at dksX4_rankHere_2 17 rfl rfl)
theorem dX4_rankHere_68 : decode cX4_rankHere 68 = .ok (.ifCond .eq 5, 3) := dk_153 0 5 (dk_at dksX4_rankHere_2 20 rfl rfl)
theorem dX4_rankHere_71 : decode cX4_rankHere 71 = .ok (.iconst 5, 1) := dk_8 (dk_at dksX4_rankHere_2 23 rfl rfl)
theorem dX4_rankHere_72 : decode cX4_rankHere 72 = .ok (.ireturn, 1) := dk_172 (dk_at dksX4_rankHere_3 0 rfl rfl)
theorem dX4_rankHere_73 : decode cX4_rankHere 73 = .ok (.aload_n 0, 1) := dk_42 (dk_at dksX4_rankHere_3 1 rfl rfl)
theorem dX4_rankHere_74 : decode cX4_rankHere 74 = .ok (.bipush 42, 2) := dk_16 42 (dk_at dksX4_rankHere_3 2 rfl rfl)
theorem dX4_rankHere_76 : decode cX4_rankHere 76 = .ok (.invokevirtual 305, 3) := dk_182 1 49 (dk_at dksX4_rankHere_3 4 rfl rfl)
theorem dX4_rankHere_79 : decode cX4_rankHere 79 = .ok (.ifCond .ne 21, 3) := dk_154 0 21 (dk_at dksX4_rankHere_3 7 rfl rfl)
theorem dX4_rankHere_82 : decode cX4_rankHere 82 = .ok (.aload_n 0, 1) := dk_42 (dk_at dksX4_rankHere_3 10 rfl rfl)
theorem dX4_rankHere_83 : decode cX4_rankHere 83 = .ok (.bipush 47, 2) := dk_16 47 (dk_at dksX4_rankHere_3 11 rfl rfl)
theorem dX4_rankHere_85 : decode cX4_rankHere 85 = .ok (.invokevirtual 305, 3) := dk_182 1 49 (dk_at dksX4_rankHere_3 13 rfl rfl)
theorem dX4_rankHere_88 : decode cX4_rankHere 88 = .ok (.ifCond .ne 12, 3) := dk_154 0 12 (dk_at dksX4_rankHere_3 16 rfl rfl)
theorem dX4_rankHere_91 : decode cX4_rankHere 91 = .ok (.aload_n 0, 1) := dk_42 (dk_at dksX4_rankHere_3 19 rfl rfl)
theorem dX4_rankHere_92 : decode cX4_rankHere 92 = .ok (.bipush 37, 2) := dk_16 37 (dk_at dksX4_rankHere_3 20 rfl rfl)
theorem dX4_rankHere_94 : decode cX4_rankHere 94 = .ok (.invokevirtual 305, 3) := dk_182 1 49 (dk_at dksX4_rankHere_4 0 rfl rfl)
theorem dX4_rankHere_97 : decode cX4_rankHere 97 = .ok (.ifCond .eq 8, 3) := dk_153 0 8 (dk_at dksX4_rankHere_4 3 rfl rfl)
theorem dX4_rankHere_100 : decode cX4_rankHere 100 = .ok (.bipush 6, 2) := dk_16 6 (dk_at dksX4_rankHere_4 6 rfl rfl)
theorem dX4_rankHere_102 : decode cX4_rankHere 102 = .ok (.goto 4, 3) := dk_167 0 4 (dk_at dksX4_rankHere_4 8 rfl rfl)
theorem dX4_rankHere_105 : decode cX4_rankHere 105 = .ok (.iconst 0, 1) := dk_3 (dk_at dksX4_rankHere_4 11 rfl rfl)
theorem dX4_rankHere_106 : decode cX4_rankHere 106 = .ok (.ireturn, 1) := dk_172 (dk_at dksX4_rankHere_4 12 rfl rfl)
abbrev cX4_isCompared : ByteArray := prog_22_method_35_code
def yX4_isCompared : MethodName := ⟨RX4, "isCompared", "()Z"⟩
def dkwX4_isCompared_2 : List UInt8 := [167, 0, 4, 3, 172]
abbrev dktX4_isCompared_2 : List UInt8 := dkwX4_isCompared_2 ++ []
def dkwX4_isCompared_1 : List UInt8 := [16, 6, 160, 0, 9, 132, 1, 255, 167, 255, 232, 42, 180, 0, 88, 27, 46, 7, 160, 0, 7, 4]
abbrev dktX4_isCompared_1 : List UInt8 := dkwX4_isCompared_1 ++ dktX4_isCompared_2
def dkwX4_isCompared_0 : List UInt8 := [42, 180, 1, 69, 4, 100, 60, 42, 180, 0, 88, 27, 46, 8, 159, 0, 14, 42, 180, 0, 88, 27, 46]
abbrev dktX4_isCompared_0 : List UInt8 := dkwX4_isCompared_0 ++ dktX4_isCompared_1
theorem dksX4_isCompared_0 : cX4_isCompared.data.toList.drop 0 = dktX4_isCompared_0 := by decide +kernel
theorem dksX4_isCompared_1 : cX4_isCompared.data.toList.drop 23 = dktX4_isCompared_1 := dk_seg dksX4_isCompared_0 23 rfl rfl
theorem dksX4_isCompared_2 : cX4_isCompared.data.toList.drop 45 = dktX4_isCompared_2 := dk_seg dksX4_isCompared_1 22 rfl rfl
theorem dX4_isCompared_0 : decode cX4_isCompared 0 = .ok (.aload_n 0, 1) := dk_42 (dk_at dksX4_isCompared_0 0 rfl rfl)
theorem dX4_isCompared_1 : decode cX4_isCompared 1 = .ok (.getfield 325, 3) := dk_180 1 69 (dk_at dksX4_isCompared_0 1 rfl rfl)
theorem dX4_isCompared_4 : decode cX4_isCompared 4 = .ok (.iconst 1, 1) := dk_4 (dk_at dksX4_isCompared_0 4 rfl rfl)
theorem dX4_isCompared_5 : decode cX4_isCompared 5 = .ok (.isub, 1) := dk_100 (dk_at dksX4_isCompared_0 5 rfl rfl)
theorem dX4_isCompared_6 : decode cX4_isCompared 6 = .ok (.istore_n 1, 1) := dk_60 (dk_at dksX4_isCompared_0 6 rfl rfl)
theorem dX4_isCompared_7 : decode cX4_isCompared 7 = .ok (.aload_n 0, 1) := dk_42 (dk_at dksX4_isCompared_0 7 rfl rfl)
theorem dX4_isCompared_8 : decode cX4_isCompared 8 = .ok (.getfield 88, 3) := dk_180 0 88 (dk_at dksX4_isCompared_0 8 rfl rfl)
theorem dX4_isCompared_11 : decode cX4_isCompared 11 = .ok (.iload_n 1, 1) := dk_27 (dk_at dksX4_isCompared_0 11 rfl rfl)
theorem dX4_isCompared_12 : decode cX4_isCompared 12 = .ok (.iaload, 1) := dk_46 (dk_at dksX4_isCompared_0 12 rfl rfl)
theorem dX4_isCompared_13 : decode cX4_isCompared 13 = .ok (.iconst 5, 1) := dk_8 (dk_at dksX4_isCompared_0 13 rfl rfl)
theorem dX4_isCompared_14 : decode cX4_isCompared 14 = .ok (.if_icmp .eq 14, 3) := dk_159 0 14 (dk_at dksX4_isCompared_0 14 rfl rfl)
theorem dX4_isCompared_17 : decode cX4_isCompared 17 = .ok (.aload_n 0, 1) := dk_42 (dk_at dksX4_isCompared_0 17 rfl rfl)
theorem dX4_isCompared_18 : decode cX4_isCompared 18 = .ok (.getfield 88, 3) := dk_180 0 88 (dk_at dksX4_isCompared_0 18 rfl rfl)
theorem dX4_isCompared_21 : decode cX4_isCompared 21 = .ok (.iload_n 1, 1) := dk_27 (dk_at dksX4_isCompared_0 21 rfl rfl)
theorem dX4_isCompared_22 : decode cX4_isCompared 22 = .ok (.iaload, 1) := dk_46 (dk_at dksX4_isCompared_0 22 rfl rfl)
theorem dX4_isCompared_23 : decode cX4_isCompared 23 = .ok (.bipush 6, 2) := dk_16 6 (dk_at dksX4_isCompared_1 0 rfl rfl)
theorem dX4_isCompared_25 : decode cX4_isCompared 25 = .ok (.if_icmp .ne 9, 3) := dk_160 0 9 (dk_at dksX4_isCompared_1 2 rfl rfl)
theorem dX4_isCompared_28 : decode cX4_isCompared 28 = .ok (.iinc 1 (-1), 3) := dk_132 1 255 (dk_at dksX4_isCompared_1 5 rfl rfl)
theorem dX4_isCompared_31 : decode cX4_isCompared 31 = .ok (.goto (-24), 3) := dk_167 255 232 (dk_at dksX4_isCompared_1 8 rfl rfl)
theorem dX4_isCompared_34 : decode cX4_isCompared 34 = .ok (.aload_n 0, 1) := dk_42 (dk_at dksX4_isCompared_1 11 rfl rfl)
theorem dX4_isCompared_35 : decode cX4_isCompared 35 = .ok (.getfield 88, 3) := dk_180 0 88 (dk_at dksX4_isCompared_1 12 rfl rfl)
theorem dX4_isCompared_38 : decode cX4_isCompared 38 = .ok (.iload_n 1, 1) := dk_27 (dk_at dksX4_isCompared_1 15 rfl rfl)
theorem dX4_isCompared_39 : decode cX4_isCompared 39 = .ok (.iaload, 1) := dk_46 (dk_at dksX4_isCompared_1 16 rfl rfl)
theorem dX4_isCompared_40 : decode cX4_isCompared 40 = .ok (.iconst 4, 1) := dk_7 (dk_at dksX4_isCompared_1 17 rfl rfl)
theorem dX4_isCompared_41 : decode cX4_isCompared 41 = .ok (.if_icmp .ne 7, 3) := dk_160 0 7 (dk_at dksX4_isCompared_1 18 rfl rfl)
theorem dX4_isCompared_44 : decode cX4_isCompared 44 = .ok (.iconst 1, 1) := dk_4 (dk_at dksX4_isCompared_1 21 rfl rfl)
theorem dX4_isCompared_45 : decode cX4_isCompared 45 = .ok (.goto 4, 3) := dk_167 0 4 (dk_at dksX4_isCompared_2 0 rfl rfl)
theorem dX4_isCompared_48 : decode cX4_isCompared 48 = .ok (.iconst 0, 1) := dk_3 (dk_at dksX4_isCompared_2 3 rfl rfl)
theorem dX4_isCompared_49 : decode cX4_isCompared 49 = .ok (.ireturn, 1) := dk_172 (dk_at dksX4_isCompared_2 4 rfl rfl)
abbrev cX4_once : ByteArray := prog_22_method_18_code
def yX4_once : MethodName := ⟨RX4, "once", "(II)I"⟩
def dkwX4_once_0 : List UInt8 := [42, 180, 0, 45, 42, 180, 0, 246, 92, 46, 4, 27, 120, 128, 79, 42, 3, 28, 182, 1, 12, 172]
abbrev dktX4_once_0 : List UInt8 := dkwX4_once_0 ++ []
theorem dksX4_once_0 : cX4_once.data.toList.drop 0 = dktX4_once_0 := by decide +kernel
theorem dX4_once_0 : decode cX4_once 0 = .ok (.aload_n 0, 1) := dk_42 (dk_at dksX4_once_0 0 rfl rfl)
theorem dX4_once_1 : decode cX4_once 1 = .ok (.getfield 45, 3) := dk_180 0 45 (dk_at dksX4_once_0 1 rfl rfl)
theorem dX4_once_4 : decode cX4_once 4 = .ok (.aload_n 0, 1) := dk_42 (dk_at dksX4_once_0 4 rfl rfl)
theorem dX4_once_5 : decode cX4_once 5 = .ok (.getfield 246, 3) := dk_180 0 246 (dk_at dksX4_once_0 5 rfl rfl)
theorem dX4_once_8 : decode cX4_once 8 = .ok (.dup2, 1) := dk_92 (dk_at dksX4_once_0 8 rfl rfl)
theorem dX4_once_9 : decode cX4_once 9 = .ok (.iaload, 1) := dk_46 (dk_at dksX4_once_0 9 rfl rfl)
theorem dX4_once_10 : decode cX4_once 10 = .ok (.iconst 1, 1) := dk_4 (dk_at dksX4_once_0 10 rfl rfl)
theorem dX4_once_11 : decode cX4_once 11 = .ok (.iload_n 1, 1) := dk_27 (dk_at dksX4_once_0 11 rfl rfl)
theorem dX4_once_12 : decode cX4_once 12 = .ok (.ishl, 1) := dk_120 (dk_at dksX4_once_0 12 rfl rfl)
theorem dX4_once_13 : decode cX4_once 13 = .ok (.ior, 1) := dk_128 (dk_at dksX4_once_0 13 rfl rfl)
theorem dX4_once_14 : decode cX4_once 14 = .ok (.iastore, 1) := dk_79 (dk_at dksX4_once_0 14 rfl rfl)
theorem dX4_once_15 : decode cX4_once 15 = .ok (.aload_n 0, 1) := dk_42 (dk_at dksX4_once_0 15 rfl rfl)
theorem dX4_once_16 : decode cX4_once 16 = .ok (.iconst 0, 1) := dk_3 (dk_at dksX4_once_0 16 rfl rfl)
theorem dX4_once_17 : decode cX4_once 17 = .ok (.iload_n 2, 1) := dk_28 (dk_at dksX4_once_0 17 rfl rfl)
theorem dX4_once_18 : decode cX4_once 18 = .ok (.invokevirtual 268, 3) := dk_182 1 12 (dk_at dksX4_once_0 18 rfl rfl)
theorem dX4_once_21 : decode cX4_once 21 = .ok (.ireturn, 1) := dk_172 (dk_at dksX4_once_0 21 rfl rfl)
abbrev cX4_fault : ByteArray := prog_22_method_40_code
def yX4_fault : MethodName := ⟨RX4, "fault", "(I)I"⟩
def dkwX4_fault_1 : List UInt8 := [172]
abbrev dktX4_fault_1 : List UInt8 := dkwX4_fault_1 ++ []
def dkwX4_fault_0 : List UInt8 := [27, 154, 0, 10, 42, 180, 0, 155, 167, 0, 16, 27, 4, 160, 0, 10, 42, 180, 0, 16, 167, 0, 4, 2]
abbrev dktX4_fault_0 : List UInt8 := dkwX4_fault_0 ++ dktX4_fault_1
theorem dksX4_fault_0 : cX4_fault.data.toList.drop 0 = dktX4_fault_0 := by decide +kernel
theorem dksX4_fault_1 : cX4_fault.data.toList.drop 24 = dktX4_fault_1 := dk_seg dksX4_fault_0 24 rfl rfl
theorem dX4_fault_0 : decode cX4_fault 0 = .ok (.iload_n 1, 1) := dk_27 (dk_at dksX4_fault_0 0 rfl rfl)
theorem dX4_fault_1 : decode cX4_fault 1 = .ok (.ifCond .ne 10, 3) := dk_154 0 10 (dk_at dksX4_fault_0 1 rfl rfl)
theorem dX4_fault_4 : decode cX4_fault 4 = .ok (.aload_n 0, 1) := dk_42 (dk_at dksX4_fault_0 4 rfl rfl)
theorem dX4_fault_5 : decode cX4_fault 5 = .ok (.getfield 155, 3) := dk_180 0 155 (dk_at dksX4_fault_0 5 rfl rfl)
theorem dX4_fault_8 : decode cX4_fault 8 = .ok (.goto 16, 3) := dk_167 0 16 (dk_at dksX4_fault_0 8 rfl rfl)
theorem dX4_fault_11 : decode cX4_fault 11 = .ok (.iload_n 1, 1) := dk_27 (dk_at dksX4_fault_0 11 rfl rfl)
theorem dX4_fault_12 : decode cX4_fault 12 = .ok (.iconst 1, 1) := dk_4 (dk_at dksX4_fault_0 12 rfl rfl)
theorem dX4_fault_13 : decode cX4_fault 13 = .ok (.if_icmp .ne 10, 3) := dk_160 0 10 (dk_at dksX4_fault_0 13 rfl rfl)
theorem dX4_fault_16 : decode cX4_fault 16 = .ok (.aload_n 0, 1) := dk_42 (dk_at dksX4_fault_0 16 rfl rfl)
theorem dX4_fault_17 : decode cX4_fault 17 = .ok (.getfield 16, 3) := dk_180 0 16 (dk_at dksX4_fault_0 17 rfl rfl)
theorem dX4_fault_20 : decode cX4_fault 20 = .ok (.goto 4, 3) := dk_167 0 4 (dk_at dksX4_fault_0 20 rfl rfl)
theorem dX4_fault_23 : decode cX4_fault 23 = .ok (.iconst (-1), 1) := dk_2 (dk_at dksX4_fault_0 23 rfl rfl)
theorem dX4_fault_24 : decode cX4_fault 24 = .ok (.ireturn, 1) := dk_172 (dk_at dksX4_fault_1 0 rfl rfl)
abbrev cX4_knot : ByteArray := prog_22_method_65_code
def yX4_knot : MethodName := ⟨RX4, "knot", "(II)I"⟩
def dkwX4_knot_2 : List UInt8 := [42, 27, 3, 182, 1, 166, 172, 42, 27, 4, 182, 1, 166, 172, 42, 27, 182, 1, 148, 172, 2, 172]
abbrev dktX4_knot_2 : List UInt8 := dkwX4_knot_2 ++ []
def dkwX4_knot_1 : List UInt8 := [170, 0, 0, 0, 45, 0, 0, 0, 0, 0, 0, 0, 2, 0, 0, 0, 25, 0, 0, 0, 32, 0, 0, 0, 39]
abbrev dktX4_knot_1 : List UInt8 := dkwX4_knot_1 ++ dktX4_knot_2
def dkwX4_knot_0 : List UInt8 := [42, 27, 182, 1, 163, 154, 0, 5, 2, 172, 28]
abbrev dktX4_knot_0 : List UInt8 := dkwX4_knot_0 ++ dktX4_knot_1
theorem dksX4_knot_0 : cX4_knot.data.toList.drop 0 = dktX4_knot_0 := by decide +kernel
theorem dksX4_knot_1 : cX4_knot.data.toList.drop 11 = dktX4_knot_1 := dk_seg dksX4_knot_0 11 rfl rfl
theorem dksX4_knot_2 : cX4_knot.data.toList.drop 36 = dktX4_knot_2 := dk_seg dksX4_knot_1 25 rfl rfl
theorem dX4_knot_0 : decode cX4_knot 0 = .ok (.aload_n 0, 1) := dk_42 (dk_at dksX4_knot_0 0 rfl rfl)
theorem dX4_knot_1 : decode cX4_knot 1 = .ok (.iload_n 1, 1) := dk_27 (dk_at dksX4_knot_0 1 rfl rfl)
theorem dX4_knot_2 : decode cX4_knot 2 = .ok (.invokevirtual 419, 3) := dk_182 1 163 (dk_at dksX4_knot_0 2 rfl rfl)
theorem dX4_knot_5 : decode cX4_knot 5 = .ok (.ifCond .ne 5, 3) := dk_154 0 5 (dk_at dksX4_knot_0 5 rfl rfl)
theorem dX4_knot_8 : decode cX4_knot 8 = .ok (.iconst (-1), 1) := dk_2 (dk_at dksX4_knot_0 8 rfl rfl)
theorem dX4_knot_9 : decode cX4_knot 9 = .ok (.ireturn, 1) := dk_172 (dk_at dksX4_knot_0 9 rfl rfl)
theorem dX4_knot_10 : decode cX4_knot 10 = .ok (.iload_n 2, 1) := dk_28 (dk_at dksX4_knot_0 10 rfl rfl)
theorem dX4_knot_11 : decode cX4_knot 11 = .ok (.tableswitch 45 0 2 #[25, 32, 39], 25) := by decide +kernel
theorem dX4_knot_36 : decode cX4_knot 36 = .ok (.aload_n 0, 1) := dk_42 (dk_at dksX4_knot_2 0 rfl rfl)
theorem dX4_knot_37 : decode cX4_knot 37 = .ok (.iload_n 1, 1) := dk_27 (dk_at dksX4_knot_2 1 rfl rfl)
theorem dX4_knot_38 : decode cX4_knot 38 = .ok (.iconst 0, 1) := dk_3 (dk_at dksX4_knot_2 2 rfl rfl)
theorem dX4_knot_39 : decode cX4_knot 39 = .ok (.invokevirtual 422, 3) := dk_182 1 166 (dk_at dksX4_knot_2 3 rfl rfl)
theorem dX4_knot_42 : decode cX4_knot 42 = .ok (.ireturn, 1) := dk_172 (dk_at dksX4_knot_2 6 rfl rfl)
theorem dX4_knot_43 : decode cX4_knot 43 = .ok (.aload_n 0, 1) := dk_42 (dk_at dksX4_knot_2 7 rfl rfl)
theorem dX4_knot_44 : decode cX4_knot 44 = .ok (.iload_n 1, 1) := dk_27 (dk_at dksX4_knot_2 8 rfl rfl)
theorem dX4_knot_45 : decode cX4_knot 45 = .ok (.iconst 1, 1) := dk_4 (dk_at dksX4_knot_2 9 rfl rfl)
theorem dX4_knot_46 : decode cX4_knot 46 = .ok (.invokevirtual 422, 3) := dk_182 1 166 (dk_at dksX4_knot_2 10 rfl rfl)
theorem dX4_knot_49 : decode cX4_knot 49 = .ok (.ireturn, 1) := dk_172 (dk_at dksX4_knot_2 13 rfl rfl)
theorem dX4_knot_50 : decode cX4_knot 50 = .ok (.aload_n 0, 1) := dk_42 (dk_at dksX4_knot_2 14 rfl rfl)
theorem dX4_knot_51 : decode cX4_knot 51 = .ok (.iload_n 1, 1) := dk_27 (dk_at dksX4_knot_2 15 rfl rfl)
theorem dX4_knot_52 : decode cX4_knot 52 = .ok (.invokevirtual 404, 3) := dk_182 1 148 (dk_at dksX4_knot_2 16 rfl rfl)
theorem dX4_knot_55 : decode cX4_knot 55 = .ok (.ireturn, 1) := dk_172 (dk_at dksX4_knot_2 19 rfl rfl)
theorem dX4_knot_56 : decode cX4_knot 56 = .ok (.iconst (-1), 1) := dk_2 (dk_at dksX4_knot_2 20 rfl rfl)
theorem dX4_knot_57 : decode cX4_knot 57 = .ok (.ireturn, 1) := dk_172 (dk_at dksX4_knot_2 21 rfl rfl)
abbrev cX4_isKnot : ByteArray := prog_22_method_51_code
def yX4_isKnot : MethodName := ⟨RX4, "isKnot", "(I)Z"⟩
def dkwX4_isKnot_0 : List UInt8 := [27, 3, 42, 182, 1, 124, 4, 100, 184, 1, 118, 172]
abbrev dktX4_isKnot_0 : List UInt8 := dkwX4_isKnot_0 ++ []
theorem dksX4_isKnot_0 : cX4_isKnot.data.toList.drop 0 = dktX4_isKnot_0 := by decide +kernel
theorem dX4_isKnot_0 : decode cX4_isKnot 0 = .ok (.iload_n 1, 1) := dk_27 (dk_at dksX4_isKnot_0 0 rfl rfl)
theorem dX4_isKnot_1 : decode cX4_isKnot 1 = .ok (.iconst 0, 1) := dk_3 (dk_at dksX4_isKnot_0 1 rfl rfl)
theorem dX4_isKnot_2 : decode cX4_isKnot 2 = .ok (.aload_n 0, 1) := dk_42 (dk_at dksX4_isKnot_0 2 rfl rfl)
theorem dX4_isKnot_3 : decode cX4_isKnot 3 = .ok (.invokevirtual 380, 3) := dk_182 1 124 (dk_at dksX4_isKnot_0 3 rfl rfl)
theorem dX4_isKnot_6 : decode cX4_isKnot 6 = .ok (.iconst 1, 1) := dk_4 (dk_at dksX4_isKnot_0 6 rfl rfl)
theorem dX4_isKnot_7 : decode cX4_isKnot 7 = .ok (.isub, 1) := dk_100 (dk_at dksX4_isKnot_0 7 rfl rfl)
theorem dX4_isKnot_8 : decode cX4_isKnot 8 = .ok (.invokestatic 374, 3) := dk_184 1 118 (dk_at dksX4_isKnot_0 8 rfl rfl)
theorem dX4_isKnot_11 : decode cX4_isKnot 11 = .ok (.ireturn, 1) := dk_172 (dk_at dksX4_isKnot_0 11 rfl rfl)
abbrev cX4_isIn : ByteArray := prog_22_method_41_code
def yX4_isIn : MethodName := ⟨RX4, "isIn", "(III)Z"⟩
def dkwX4_isIn_0 : List UInt8 := [26, 27, 161, 0, 12, 26, 28, 163, 0, 7, 4, 167, 0, 4, 3, 172]
abbrev dktX4_isIn_0 : List UInt8 := dkwX4_isIn_0 ++ []
theorem dksX4_isIn_0 : cX4_isIn.data.toList.drop 0 = dktX4_isIn_0 := by decide +kernel
theorem dX4_isIn_0 : decode cX4_isIn 0 = .ok (.iload_n 0, 1) := dk_26 (dk_at dksX4_isIn_0 0 rfl rfl)
theorem dX4_isIn_1 : decode cX4_isIn 1 = .ok (.iload_n 1, 1) := dk_27 (dk_at dksX4_isIn_0 1 rfl rfl)
theorem dX4_isIn_2 : decode cX4_isIn 2 = .ok (.if_icmp .lt 12, 3) := dk_161 0 12 (dk_at dksX4_isIn_0 2 rfl rfl)
theorem dX4_isIn_5 : decode cX4_isIn 5 = .ok (.iload_n 0, 1) := dk_26 (dk_at dksX4_isIn_0 5 rfl rfl)
theorem dX4_isIn_6 : decode cX4_isIn 6 = .ok (.iload_n 2, 1) := dk_28 (dk_at dksX4_isIn_0 6 rfl rfl)
theorem dX4_isIn_7 : decode cX4_isIn 7 = .ok (.if_icmp .gt 7, 3) := dk_163 0 7 (dk_at dksX4_isIn_0 7 rfl rfl)
theorem dX4_isIn_10 : decode cX4_isIn 10 = .ok (.iconst 1, 1) := dk_4 (dk_at dksX4_isIn_0 10 rfl rfl)
theorem dX4_isIn_11 : decode cX4_isIn 11 = .ok (.goto 4, 3) := dk_167 0 4 (dk_at dksX4_isIn_0 11 rfl rfl)
theorem dX4_isIn_14 : decode cX4_isIn 14 = .ok (.iconst 0, 1) := dk_3 (dk_at dksX4_isIn_0 14 rfl rfl)
theorem dX4_isIn_15 : decode cX4_isIn 15 = .ok (.ireturn, 1) := dk_172 (dk_at dksX4_isIn_0 15 rfl rfl)
abbrev cX4_nextTo : ByteArray := prog_22_method_64_code
def yX4_nextTo : MethodName := ⟨RX4, "nextTo", "(IZ)I"⟩
def dkwX4_nextTo_4 : List UInt8 := [21, 5, 46, 120, 128, 62, 132, 4, 1, 167, 255, 162, 29, 172]
abbrev dktX4_nextTo_4 : List UInt8 := dkwX4_nextTo_4 ++ []
def dkwX4_nextTo_3 : List UInt8 := [21, 5, 46, 120, 128, 62, 42, 180, 0, 54, 21, 5, 46, 27, 160, 0, 15, 29, 4, 42, 180, 0, 51]
abbrev dktX4_nextTo_3 : List UInt8 := dkwX4_nextTo_3 ++ dktX4_nextTo_4
def dkwX4_nextTo_2 : List UInt8 := [159, 0, 6, 167, 0, 49, 42, 180, 0, 51, 21, 5, 46, 27, 160, 0, 15, 29, 4, 42, 180, 0, 54]
abbrev dktX4_nextTo_2 : List UInt8 := dkwX4_nextTo_2 ++ dktX4_nextTo_3
def dkwX4_nextTo_1 : List UInt8 := [180, 0, 255, 104, 21, 4, 96, 54, 5, 42, 180, 0, 97, 16, 28, 46, 21, 4, 184, 1, 8, 28]
abbrev dktX4_nextTo_1 : List UInt8 := dkwX4_nextTo_1 ++ dktX4_nextTo_2
def dkwX4_nextTo_0 : List UInt8 := [3, 62, 3, 54, 4, 21, 4, 42, 180, 0, 24, 42, 180, 0, 255, 46, 162, 0, 86, 16, 14, 42]
abbrev dktX4_nextTo_0 : List UInt8 := dkwX4_nextTo_0 ++ dktX4_nextTo_1
theorem dksX4_nextTo_0 : cX4_nextTo.data.toList.drop 0 = dktX4_nextTo_0 := by decide +kernel
theorem dksX4_nextTo_1 : cX4_nextTo.data.toList.drop 22 = dktX4_nextTo_1 := dk_seg dksX4_nextTo_0 22 rfl rfl
theorem dksX4_nextTo_2 : cX4_nextTo.data.toList.drop 44 = dktX4_nextTo_2 := dk_seg dksX4_nextTo_1 22 rfl rfl
theorem dksX4_nextTo_3 : cX4_nextTo.data.toList.drop 67 = dktX4_nextTo_3 := dk_seg dksX4_nextTo_2 23 rfl rfl
theorem dksX4_nextTo_4 : cX4_nextTo.data.toList.drop 90 = dktX4_nextTo_4 := dk_seg dksX4_nextTo_3 23 rfl rfl
theorem dX4_nextTo_0 : decode cX4_nextTo 0 = .ok (.iconst 0, 1) := dk_3 (dk_at dksX4_nextTo_0 0 rfl rfl)
theorem dX4_nextTo_1 : decode cX4_nextTo 1 = .ok (.istore_n 3, 1) := dk_62 (dk_at dksX4_nextTo_0 1 rfl rfl)
theorem dX4_nextTo_2 : decode cX4_nextTo 2 = .ok (.iconst 0, 1) := dk_3 (dk_at dksX4_nextTo_0 2 rfl rfl)
theorem dX4_nextTo_3 : decode cX4_nextTo 3 = .ok (.istore 4, 2) := dk_54 4 (dk_at dksX4_nextTo_0 3 rfl rfl)
theorem dX4_nextTo_5 : decode cX4_nextTo 5 = .ok (.iload 4, 2) := dk_21 4 (dk_at dksX4_nextTo_0 5 rfl rfl)
theorem dX4_nextTo_7 : decode cX4_nextTo 7 = .ok (.aload_n 0, 1) := dk_42 (dk_at dksX4_nextTo_0 7 rfl rfl)
theorem dX4_nextTo_8 : decode cX4_nextTo 8 = .ok (.getfield 24, 3) := dk_180 0 24 (dk_at dksX4_nextTo_0 8 rfl rfl)
theorem dX4_nextTo_11 : decode cX4_nextTo 11 = .ok (.aload_n 0, 1) := dk_42 (dk_at dksX4_nextTo_0 11 rfl rfl)
theorem dX4_nextTo_12 : decode cX4_nextTo 12 = .ok (.getfield 255, 3) := dk_180 0 255 (dk_at dksX4_nextTo_0 12 rfl rfl)
theorem dX4_nextTo_15 : decode cX4_nextTo 15 = .ok (.iaload, 1) := dk_46 (dk_at dksX4_nextTo_0 15 rfl rfl)
theorem dX4_nextTo_16 : decode cX4_nextTo 16 = .ok (.if_icmp .ge 86, 3) := dk_162 0 86 (dk_at dksX4_nextTo_0 16 rfl rfl)
theorem dX4_nextTo_19 : decode cX4_nextTo 19 = .ok (.bipush 14, 2) := dk_16 14 (dk_at dksX4_nextTo_0 19 rfl rfl)
theorem dX4_nextTo_21 : decode cX4_nextTo 21 = .ok (.aload_n 0, 1) := dk_42 (dk_at dksX4_nextTo_0 21 rfl rfl)
theorem dX4_nextTo_22 : decode cX4_nextTo 22 = .ok (.getfield 255, 3) := dk_180 0 255 (dk_at dksX4_nextTo_1 0 rfl rfl)
theorem dX4_nextTo_25 : decode cX4_nextTo 25 = .ok (.imul, 1) := dk_104 (dk_at dksX4_nextTo_1 3 rfl rfl)
theorem dX4_nextTo_26 : decode cX4_nextTo 26 = .ok (.iload 4, 2) := dk_21 4 (dk_at dksX4_nextTo_1 4 rfl rfl)
theorem dX4_nextTo_28 : decode cX4_nextTo 28 = .ok (.iadd, 1) := dk_96 (dk_at dksX4_nextTo_1 6 rfl rfl)
theorem dX4_nextTo_29 : decode cX4_nextTo 29 = .ok (.istore 5, 2) := dk_54 5 (dk_at dksX4_nextTo_1 7 rfl rfl)
theorem dX4_nextTo_31 : decode cX4_nextTo 31 = .ok (.aload_n 0, 1) := dk_42 (dk_at dksX4_nextTo_1 9 rfl rfl)
theorem dX4_nextTo_32 : decode cX4_nextTo 32 = .ok (.getfield 97, 3) := dk_180 0 97 (dk_at dksX4_nextTo_1 10 rfl rfl)
theorem dX4_nextTo_35 : decode cX4_nextTo 35 = .ok (.bipush 28, 2) := dk_16 28 (dk_at dksX4_nextTo_1 13 rfl rfl)
theorem dX4_nextTo_37 : decode cX4_nextTo 37 = .ok (.iaload, 1) := dk_46 (dk_at dksX4_nextTo_1 15 rfl rfl)
theorem dX4_nextTo_38 : decode cX4_nextTo 38 = .ok (.iload 4, 2) := dk_21 4 (dk_at dksX4_nextTo_1 16 rfl rfl)
theorem dX4_nextTo_40 : decode cX4_nextTo 40 = .ok (.invokestatic 264, 3) := dk_184 1 8 (dk_at dksX4_nextTo_1 18 rfl rfl)
theorem dX4_nextTo_43 : decode cX4_nextTo 43 = .ok (.iload_n 2, 1) := dk_28 (dk_at dksX4_nextTo_1 21 rfl rfl)
theorem dX4_nextTo_44 : decode cX4_nextTo 44 = .ok (.if_icmp .eq 6, 3) := dk_159 0 6 (dk_at dksX4_nextTo_2 0 rfl rfl)
theorem dX4_nextTo_47 : decode cX4_nextTo 47 = .ok (.goto 49, 3) := dk_167 0 49 (dk_at dksX4_nextTo_2 3 rfl rfl)
theorem dX4_nextTo_50 : decode cX4_nextTo 50 = .ok (.aload_n 0, 1) := dk_42 (dk_at dksX4_nextTo_2 6 rfl rfl)
theorem dX4_nextTo_51 : decode cX4_nextTo 51 = .ok (.getfield 51, 3) := dk_180 0 51 (dk_at dksX4_nextTo_2 7 rfl rfl)
theorem dX4_nextTo_54 : decode cX4_nextTo 54 = .ok (.iload 5, 2) := dk_21 5 (dk_at dksX4_nextTo_2 10 rfl rfl)
theorem dX4_nextTo_56 : decode cX4_nextTo 56 = .ok (.iaload, 1) := dk_46 (dk_at dksX4_nextTo_2 12 rfl rfl)
theorem dX4_nextTo_57 : decode cX4_nextTo 57 = .ok (.iload_n 1, 1) := dk_27 (dk_at dksX4_nextTo_2 13 rfl rfl)
theorem dX4_nextTo_58 : decode cX4_nextTo 58 = .ok (.if_icmp .ne 15, 3) := dk_160 0 15 (dk_at dksX4_nextTo_2 14 rfl rfl)
theorem dX4_nextTo_61 : decode cX4_nextTo 61 = .ok (.iload_n 3, 1) := dk_29 (dk_at dksX4_nextTo_2 17 rfl rfl)
theorem dX4_nextTo_62 : decode cX4_nextTo 62 = .ok (.iconst 1, 1) := dk_4 (dk_at dksX4_nextTo_2 18 rfl rfl)
theorem dX4_nextTo_63 : decode cX4_nextTo 63 = .ok (.aload_n 0, 1) := dk_42 (dk_at dksX4_nextTo_2 19 rfl rfl)
theorem dX4_nextTo_64 : decode cX4_nextTo 64 = .ok (.getfield 54, 3) := dk_180 0 54 (dk_at dksX4_nextTo_2 20 rfl rfl)
theorem dX4_nextTo_67 : decode cX4_nextTo 67 = .ok (.iload 5, 2) := dk_21 5 (dk_at dksX4_nextTo_3 0 rfl rfl)
theorem dX4_nextTo_69 : decode cX4_nextTo 69 = .ok (.iaload, 1) := dk_46 (dk_at dksX4_nextTo_3 2 rfl rfl)
theorem dX4_nextTo_70 : decode cX4_nextTo 70 = .ok (.ishl, 1) := dk_120 (dk_at dksX4_nextTo_3 3 rfl rfl)
theorem dX4_nextTo_71 : decode cX4_nextTo 71 = .ok (.ior, 1) := dk_128 (dk_at dksX4_nextTo_3 4 rfl rfl)
theorem dX4_nextTo_72 : decode cX4_nextTo 72 = .ok (.istore_n 3, 1) := dk_62 (dk_at dksX4_nextTo_3 5 rfl rfl)
theorem dX4_nextTo_73 : decode cX4_nextTo 73 = .ok (.aload_n 0, 1) := dk_42 (dk_at dksX4_nextTo_3 6 rfl rfl)
theorem dX4_nextTo_74 : decode cX4_nextTo 74 = .ok (.getfield 54, 3) := dk_180 0 54 (dk_at dksX4_nextTo_3 7 rfl rfl)
theorem dX4_nextTo_77 : decode cX4_nextTo 77 = .ok (.iload 5, 2) := dk_21 5 (dk_at dksX4_nextTo_3 10 rfl rfl)
theorem dX4_nextTo_79 : decode cX4_nextTo 79 = .ok (.iaload, 1) := dk_46 (dk_at dksX4_nextTo_3 12 rfl rfl)
theorem dX4_nextTo_80 : decode cX4_nextTo 80 = .ok (.iload_n 1, 1) := dk_27 (dk_at dksX4_nextTo_3 13 rfl rfl)
theorem dX4_nextTo_81 : decode cX4_nextTo 81 = .ok (.if_icmp .ne 15, 3) := dk_160 0 15 (dk_at dksX4_nextTo_3 14 rfl rfl)
theorem dX4_nextTo_84 : decode cX4_nextTo 84 = .ok (.iload_n 3, 1) := dk_29 (dk_at dksX4_nextTo_3 17 rfl rfl)
theorem dX4_nextTo_85 : decode cX4_nextTo 85 = .ok (.iconst 1, 1) := dk_4 (dk_at dksX4_nextTo_3 18 rfl rfl)
theorem dX4_nextTo_86 : decode cX4_nextTo 86 = .ok (.aload_n 0, 1) := dk_42 (dk_at dksX4_nextTo_3 19 rfl rfl)
theorem dX4_nextTo_87 : decode cX4_nextTo 87 = .ok (.getfield 51, 3) := dk_180 0 51 (dk_at dksX4_nextTo_3 20 rfl rfl)
theorem dX4_nextTo_90 : decode cX4_nextTo 90 = .ok (.iload 5, 2) := dk_21 5 (dk_at dksX4_nextTo_4 0 rfl rfl)
theorem dX4_nextTo_92 : decode cX4_nextTo 92 = .ok (.iaload, 1) := dk_46 (dk_at dksX4_nextTo_4 2 rfl rfl)
theorem dX4_nextTo_93 : decode cX4_nextTo 93 = .ok (.ishl, 1) := dk_120 (dk_at dksX4_nextTo_4 3 rfl rfl)
theorem dX4_nextTo_94 : decode cX4_nextTo 94 = .ok (.ior, 1) := dk_128 (dk_at dksX4_nextTo_4 4 rfl rfl)
theorem dX4_nextTo_95 : decode cX4_nextTo 95 = .ok (.istore_n 3, 1) := dk_62 (dk_at dksX4_nextTo_4 5 rfl rfl)
theorem dX4_nextTo_96 : decode cX4_nextTo 96 = .ok (.iinc 4 1, 3) := dk_132 4 1 (dk_at dksX4_nextTo_4 6 rfl rfl)
theorem dX4_nextTo_99 : decode cX4_nextTo 99 = .ok (.goto (-94), 3) := dk_167 255 162 (dk_at dksX4_nextTo_4 9 rfl rfl)
theorem dX4_nextTo_102 : decode cX4_nextTo 102 = .ok (.iload_n 3, 1) := dk_29 (dk_at dksX4_nextTo_4 12 rfl rfl)
theorem dX4_nextTo_103 : decode cX4_nextTo 103 = .ok (.ireturn, 1) := dk_172 (dk_at dksX4_nextTo_4 13 rfl rfl)
abbrev cX4_heldAt : ByteArray := prog_22_method_58_code
def yX4_heldAt : MethodName := ⟨RX4, "heldAt", "(I)I"⟩
def dkwX4_heldAt_1 : List UInt8 := [29, 182, 1, 145, 27, 160, 0, 9, 28, 4, 29, 120, 128, 61, 132, 3, 1, 167, 255, 219, 28, 172]
abbrev dktX4_heldAt_1 : List UInt8 := dkwX4_heldAt_1 ++ []
def dkwX4_heldAt_0 : List UInt8 := [3, 61, 3, 62, 29, 42, 182, 1, 115, 162, 0, 35, 42, 180, 0, 97, 3, 29, 96, 46, 154, 0, 18, 42]
abbrev dktX4_heldAt_0 : List UInt8 := dkwX4_heldAt_0 ++ dktX4_heldAt_1
theorem dksX4_heldAt_0 : cX4_heldAt.data.toList.drop 0 = dktX4_heldAt_0 := by decide +kernel
theorem dksX4_heldAt_1 : cX4_heldAt.data.toList.drop 24 = dktX4_heldAt_1 := dk_seg dksX4_heldAt_0 24 rfl rfl
theorem dX4_heldAt_0 : decode cX4_heldAt 0 = .ok (.iconst 0, 1) := dk_3 (dk_at dksX4_heldAt_0 0 rfl rfl)
theorem dX4_heldAt_1 : decode cX4_heldAt 1 = .ok (.istore_n 2, 1) := dk_61 (dk_at dksX4_heldAt_0 1 rfl rfl)
theorem dX4_heldAt_2 : decode cX4_heldAt 2 = .ok (.iconst 0, 1) := dk_3 (dk_at dksX4_heldAt_0 2 rfl rfl)
theorem dX4_heldAt_3 : decode cX4_heldAt 3 = .ok (.istore_n 3, 1) := dk_62 (dk_at dksX4_heldAt_0 3 rfl rfl)
theorem dX4_heldAt_4 : decode cX4_heldAt 4 = .ok (.iload_n 3, 1) := dk_29 (dk_at dksX4_heldAt_0 4 rfl rfl)
theorem dX4_heldAt_5 : decode cX4_heldAt 5 = .ok (.aload_n 0, 1) := dk_42 (dk_at dksX4_heldAt_0 5 rfl rfl)
theorem dX4_heldAt_6 : decode cX4_heldAt 6 = .ok (.invokevirtual 371, 3) := dk_182 1 115 (dk_at dksX4_heldAt_0 6 rfl rfl)
theorem dX4_heldAt_9 : decode cX4_heldAt 9 = .ok (.if_icmp .ge 35, 3) := dk_162 0 35 (dk_at dksX4_heldAt_0 9 rfl rfl)
theorem dX4_heldAt_12 : decode cX4_heldAt 12 = .ok (.aload_n 0, 1) := dk_42 (dk_at dksX4_heldAt_0 12 rfl rfl)
theorem dX4_heldAt_13 : decode cX4_heldAt 13 = .ok (.getfield 97, 3) := dk_180 0 97 (dk_at dksX4_heldAt_0 13 rfl rfl)
theorem dX4_heldAt_16 : decode cX4_heldAt 16 = .ok (.iconst 0, 1) := dk_3 (dk_at dksX4_heldAt_0 16 rfl rfl)
theorem dX4_heldAt_17 : decode cX4_heldAt 17 = .ok (.iload_n 3, 1) := dk_29 (dk_at dksX4_heldAt_0 17 rfl rfl)
theorem dX4_heldAt_18 : decode cX4_heldAt 18 = .ok (.iadd, 1) := dk_96 (dk_at dksX4_heldAt_0 18 rfl rfl)
theorem dX4_heldAt_19 : decode cX4_heldAt 19 = .ok (.iaload, 1) := dk_46 (dk_at dksX4_heldAt_0 19 rfl rfl)
theorem dX4_heldAt_20 : decode cX4_heldAt 20 = .ok (.ifCond .ne 18, 3) := dk_154 0 18 (dk_at dksX4_heldAt_0 20 rfl rfl)
theorem dX4_heldAt_23 : decode cX4_heldAt 23 = .ok (.aload_n 0, 1) := dk_42 (dk_at dksX4_heldAt_0 23 rfl rfl)
theorem dX4_heldAt_24 : decode cX4_heldAt 24 = .ok (.iload_n 3, 1) := dk_29 (dk_at dksX4_heldAt_1 0 rfl rfl)
theorem dX4_heldAt_25 : decode cX4_heldAt 25 = .ok (.invokevirtual 401, 3) := dk_182 1 145 (dk_at dksX4_heldAt_1 1 rfl rfl)
theorem dX4_heldAt_28 : decode cX4_heldAt 28 = .ok (.iload_n 1, 1) := dk_27 (dk_at dksX4_heldAt_1 4 rfl rfl)
theorem dX4_heldAt_29 : decode cX4_heldAt 29 = .ok (.if_icmp .ne 9, 3) := dk_160 0 9 (dk_at dksX4_heldAt_1 5 rfl rfl)
theorem dX4_heldAt_32 : decode cX4_heldAt 32 = .ok (.iload_n 2, 1) := dk_28 (dk_at dksX4_heldAt_1 8 rfl rfl)
theorem dX4_heldAt_33 : decode cX4_heldAt 33 = .ok (.iconst 1, 1) := dk_4 (dk_at dksX4_heldAt_1 9 rfl rfl)
theorem dX4_heldAt_34 : decode cX4_heldAt 34 = .ok (.iload_n 3, 1) := dk_29 (dk_at dksX4_heldAt_1 10 rfl rfl)
theorem dX4_heldAt_35 : decode cX4_heldAt 35 = .ok (.ishl, 1) := dk_120 (dk_at dksX4_heldAt_1 11 rfl rfl)
theorem dX4_heldAt_36 : decode cX4_heldAt 36 = .ok (.ior, 1) := dk_128 (dk_at dksX4_heldAt_1 12 rfl rfl)
theorem dX4_heldAt_37 : decode cX4_heldAt 37 = .ok (.istore_n 2, 1) := dk_61 (dk_at dksX4_heldAt_1 13 rfl rfl)
theorem dX4_heldAt_38 : decode cX4_heldAt 38 = .ok (.iinc 3 1, 3) := dk_132 3 1 (dk_at dksX4_heldAt_1 14 rfl rfl)
theorem dX4_heldAt_41 : decode cX4_heldAt 41 = .ok (.goto (-37), 3) := dk_167 255 219 (dk_at dksX4_heldAt_1 17 rfl rfl)
theorem dX4_heldAt_44 : decode cX4_heldAt 44 = .ok (.iload_n 2, 1) := dk_28 (dk_at dksX4_heldAt_1 20 rfl rfl)
theorem dX4_heldAt_45 : decode cX4_heldAt 45 = .ok (.ireturn, 1) := dk_172 (dk_at dksX4_heldAt_1 21 rfl rfl)
abbrev cX4_placeOf : ByteArray := prog_22_method_53_code
def yX4_placeOf : MethodName := ⟨RX4, "placeOf", "(I)I"⟩
def dkwX4_placeOf_0 : List UInt8 := [42, 180, 0, 60, 16, 6, 42, 180, 0, 255, 104, 27, 96, 46, 172]
abbrev dktX4_placeOf_0 : List UInt8 := dkwX4_placeOf_0 ++ []
theorem dksX4_placeOf_0 : cX4_placeOf.data.toList.drop 0 = dktX4_placeOf_0 := by decide +kernel
theorem dX4_placeOf_0 : decode cX4_placeOf 0 = .ok (.aload_n 0, 1) := dk_42 (dk_at dksX4_placeOf_0 0 rfl rfl)
theorem dX4_placeOf_1 : decode cX4_placeOf 1 = .ok (.getfield 60, 3) := dk_180 0 60 (dk_at dksX4_placeOf_0 1 rfl rfl)
theorem dX4_placeOf_4 : decode cX4_placeOf 4 = .ok (.bipush 6, 2) := dk_16 6 (dk_at dksX4_placeOf_0 4 rfl rfl)
theorem dX4_placeOf_6 : decode cX4_placeOf 6 = .ok (.aload_n 0, 1) := dk_42 (dk_at dksX4_placeOf_0 6 rfl rfl)
theorem dX4_placeOf_7 : decode cX4_placeOf 7 = .ok (.getfield 255, 3) := dk_180 0 255 (dk_at dksX4_placeOf_0 7 rfl rfl)
theorem dX4_placeOf_10 : decode cX4_placeOf 10 = .ok (.imul, 1) := dk_104 (dk_at dksX4_placeOf_0 10 rfl rfl)
theorem dX4_placeOf_11 : decode cX4_placeOf 11 = .ok (.iload_n 1, 1) := dk_27 (dk_at dksX4_placeOf_0 11 rfl rfl)
theorem dX4_placeOf_12 : decode cX4_placeOf 12 = .ok (.iadd, 1) := dk_96 (dk_at dksX4_placeOf_0 12 rfl rfl)
theorem dX4_placeOf_13 : decode cX4_placeOf 13 = .ok (.iaload, 1) := dk_46 (dk_at dksX4_placeOf_0 13 rfl rfl)
theorem dX4_placeOf_14 : decode cX4_placeOf 14 = .ok (.ireturn, 1) := dk_172 (dk_at dksX4_placeOf_0 14 rfl rfl)
abbrev cX4_plea : ByteArray := prog_22_method_66_code
def yX4_plea : MethodName := ⟨RX4, "plea", "(I)I"⟩
def dkwX4_plea_1 : List UInt8 := [167, 0, 4, 2, 172]
abbrev dktX4_plea_1 : List UInt8 := dkwX4_plea_1 ++ []
def dkwX4_plea_0 : List UInt8 := [42, 27, 182, 1, 170, 153, 0, 20, 42, 180, 0, 57, 16, 8, 42, 180, 0, 255, 104, 27, 96, 46]
abbrev dktX4_plea_0 : List UInt8 := dkwX4_plea_0 ++ dktX4_plea_1
theorem dksX4_plea_0 : cX4_plea.data.toList.drop 0 = dktX4_plea_0 := by decide +kernel
theorem dksX4_plea_1 : cX4_plea.data.toList.drop 22 = dktX4_plea_1 := dk_seg dksX4_plea_0 22 rfl rfl
theorem dX4_plea_0 : decode cX4_plea 0 = .ok (.aload_n 0, 1) := dk_42 (dk_at dksX4_plea_0 0 rfl rfl)
theorem dX4_plea_1 : decode cX4_plea 1 = .ok (.iload_n 1, 1) := dk_27 (dk_at dksX4_plea_0 1 rfl rfl)
theorem dX4_plea_2 : decode cX4_plea 2 = .ok (.invokevirtual 426, 3) := dk_182 1 170 (dk_at dksX4_plea_0 2 rfl rfl)
theorem dX4_plea_5 : decode cX4_plea 5 = .ok (.ifCond .eq 20, 3) := dk_153 0 20 (dk_at dksX4_plea_0 5 rfl rfl)
theorem dX4_plea_8 : decode cX4_plea 8 = .ok (.aload_n 0, 1) := dk_42 (dk_at dksX4_plea_0 8 rfl rfl)
theorem dX4_plea_9 : decode cX4_plea 9 = .ok (.getfield 57, 3) := dk_180 0 57 (dk_at dksX4_plea_0 9 rfl rfl)
theorem dX4_plea_12 : decode cX4_plea 12 = .ok (.bipush 8, 2) := dk_16 8 (dk_at dksX4_plea_0 12 rfl rfl)
theorem dX4_plea_14 : decode cX4_plea 14 = .ok (.aload_n 0, 1) := dk_42 (dk_at dksX4_plea_0 14 rfl rfl)
theorem dX4_plea_15 : decode cX4_plea 15 = .ok (.getfield 255, 3) := dk_180 0 255 (dk_at dksX4_plea_0 15 rfl rfl)
theorem dX4_plea_18 : decode cX4_plea 18 = .ok (.imul, 1) := dk_104 (dk_at dksX4_plea_0 18 rfl rfl)
theorem dX4_plea_19 : decode cX4_plea 19 = .ok (.iload_n 1, 1) := dk_27 (dk_at dksX4_plea_0 19 rfl rfl)
theorem dX4_plea_20 : decode cX4_plea 20 = .ok (.iadd, 1) := dk_96 (dk_at dksX4_plea_0 20 rfl rfl)
theorem dX4_plea_21 : decode cX4_plea 21 = .ok (.iaload, 1) := dk_46 (dk_at dksX4_plea_0 21 rfl rfl)
theorem dX4_plea_22 : decode cX4_plea 22 = .ok (.goto 4, 3) := dk_167 0 4 (dk_at dksX4_plea_1 0 rfl rfl)
theorem dX4_plea_25 : decode cX4_plea 25 = .ok (.iconst (-1), 1) := dk_2 (dk_at dksX4_plea_1 3 rfl rfl)
theorem dX4_plea_26 : decode cX4_plea 26 = .ok (.ireturn, 1) := dk_172 (dk_at dksX4_plea_1 4 rfl rfl)
abbrev cX4_isPlea : ByteArray := prog_22_method_50_code
def yX4_isPlea : MethodName := ⟨RX4, "isPlea", "(I)Z"⟩
def dkwX4_isPlea_0 : List UInt8 := [27, 3, 42, 182, 1, 121, 4, 100, 184, 1, 118, 172]
abbrev dktX4_isPlea_0 : List UInt8 := dkwX4_isPlea_0 ++ []
theorem dksX4_isPlea_0 : cX4_isPlea.data.toList.drop 0 = dktX4_isPlea_0 := by decide +kernel
theorem dX4_isPlea_0 : decode cX4_isPlea 0 = .ok (.iload_n 1, 1) := dk_27 (dk_at dksX4_isPlea_0 0 rfl rfl)
theorem dX4_isPlea_1 : decode cX4_isPlea 1 = .ok (.iconst 0, 1) := dk_3 (dk_at dksX4_isPlea_0 1 rfl rfl)
theorem dX4_isPlea_2 : decode cX4_isPlea 2 = .ok (.aload_n 0, 1) := dk_42 (dk_at dksX4_isPlea_0 2 rfl rfl)
theorem dX4_isPlea_3 : decode cX4_isPlea 3 = .ok (.invokevirtual 377, 3) := dk_182 1 121 (dk_at dksX4_isPlea_0 3 rfl rfl)
theorem dX4_isPlea_6 : decode cX4_isPlea 6 = .ok (.iconst 1, 1) := dk_4 (dk_at dksX4_isPlea_0 6 rfl rfl)
theorem dX4_isPlea_7 : decode cX4_isPlea 7 = .ok (.isub, 1) := dk_100 (dk_at dksX4_isPlea_0 7 rfl rfl)
theorem dX4_isPlea_8 : decode cX4_isPlea 8 = .ok (.invokestatic 374, 3) := dk_184 1 118 (dk_at dksX4_isPlea_0 8 rfl rfl)
theorem dX4_isPlea_11 : decode cX4_isPlea 11 = .ok (.ireturn, 1) := dk_172 (dk_at dksX4_isPlea_0 11 rfl rfl)
abbrev cX4_pleads : ByteArray := prog_22_method_47_code
def yX4_pleads : MethodName := ⟨RX4, "pleads", "()I"⟩
def dkwX4_pleads_0 : List UInt8 := [42, 180, 0, 27, 42, 180, 0, 255, 46, 172]
abbrev dktX4_pleads_0 : List UInt8 := dkwX4_pleads_0 ++ []
theorem dksX4_pleads_0 : cX4_pleads.data.toList.drop 0 = dktX4_pleads_0 := by decide +kernel
theorem dX4_pleads_0 : decode cX4_pleads 0 = .ok (.aload_n 0, 1) := dk_42 (dk_at dksX4_pleads_0 0 rfl rfl)
theorem dX4_pleads_1 : decode cX4_pleads 1 = .ok (.getfield 27, 3) := dk_180 0 27 (dk_at dksX4_pleads_0 1 rfl rfl)
theorem dX4_pleads_4 : decode cX4_pleads 4 = .ok (.aload_n 0, 1) := dk_42 (dk_at dksX4_pleads_0 4 rfl rfl)
theorem dX4_pleads_5 : decode cX4_pleads 5 = .ok (.getfield 255, 3) := dk_180 0 255 (dk_at dksX4_pleads_0 5 rfl rfl)
theorem dX4_pleads_8 : decode cX4_pleads 8 = .ok (.iaload, 1) := dk_46 (dk_at dksX4_pleads_0 8 rfl rfl)
theorem dX4_pleads_9 : decode cX4_pleads 9 = .ok (.ireturn, 1) := dk_172 (dk_at dksX4_pleads_0 9 rfl rfl)
abbrev cX4_item : ByteArray := prog_22_method_67_code
def yX4_item : MethodName := ⟨RX4, "item", "(II)I"⟩
def dkwX4_item_4 : List UInt8 := [46, 172, 42, 180, 0, 97, 16, 18, 27, 96, 46, 172, 2, 172]
abbrev dktX4_item_4 : List UInt8 := dkwX4_item_4 ++ []
def dkwX4_item_3 : List UInt8 := [172, 42, 180, 0, 63, 16, 6, 42, 180, 0, 255, 104, 27, 96, 46, 172, 42, 180, 0, 97, 16, 12, 27, 96]
abbrev dktX4_item_3 : List UInt8 := dkwX4_item_3 ++ dktX4_item_4
def dkwX4_item_2 : List UInt8 := [42, 27, 182, 1, 145, 172, 42, 180, 0, 97, 3, 27, 96, 46, 172, 42, 180, 0, 97, 16, 6, 27, 96, 46]
abbrev dktX4_item_2 : List UInt8 := dkwX4_item_2 ++ dktX4_item_3
def dkwX4_item_1 : List UInt8 := [170, 0, 0, 0, 97, 0, 0, 0, 0, 0, 0, 0, 5, 0, 0, 0, 37, 0, 0, 0, 43, 0, 0, 0, 52, 0, 0, 0, 62, 0, 0, 0, 77, 0, 0, 0, 87]
abbrev dktX4_item_1 : List UInt8 := dkwX4_item_1 ++ dktX4_item_2
def dkwX4_item_0 : List UInt8 := [42, 27, 182, 1, 127, 154, 0, 5, 2, 172, 28]
abbrev dktX4_item_0 : List UInt8 := dkwX4_item_0 ++ dktX4_item_1
theorem dksX4_item_0 : cX4_item.data.toList.drop 0 = dktX4_item_0 := by decide +kernel
theorem dksX4_item_1 : cX4_item.data.toList.drop 11 = dktX4_item_1 := dk_seg dksX4_item_0 11 rfl rfl
theorem dksX4_item_2 : cX4_item.data.toList.drop 48 = dktX4_item_2 := dk_seg dksX4_item_1 37 rfl rfl
theorem dksX4_item_3 : cX4_item.data.toList.drop 72 = dktX4_item_3 := dk_seg dksX4_item_2 24 rfl rfl
theorem dksX4_item_4 : cX4_item.data.toList.drop 96 = dktX4_item_4 := dk_seg dksX4_item_3 24 rfl rfl
theorem dX4_item_0 : decode cX4_item 0 = .ok (.aload_n 0, 1) := dk_42 (dk_at dksX4_item_0 0 rfl rfl)
theorem dX4_item_1 : decode cX4_item 1 = .ok (.iload_n 1, 1) := dk_27 (dk_at dksX4_item_0 1 rfl rfl)
theorem dX4_item_2 : decode cX4_item 2 = .ok (.invokevirtual 383, 3) := dk_182 1 127 (dk_at dksX4_item_0 2 rfl rfl)
theorem dX4_item_5 : decode cX4_item 5 = .ok (.ifCond .ne 5, 3) := dk_154 0 5 (dk_at dksX4_item_0 5 rfl rfl)
theorem dX4_item_8 : decode cX4_item 8 = .ok (.iconst (-1), 1) := dk_2 (dk_at dksX4_item_0 8 rfl rfl)
theorem dX4_item_9 : decode cX4_item 9 = .ok (.ireturn, 1) := dk_172 (dk_at dksX4_item_0 9 rfl rfl)
theorem dX4_item_10 : decode cX4_item 10 = .ok (.iload_n 2, 1) := dk_28 (dk_at dksX4_item_0 10 rfl rfl)
theorem dX4_item_11 : decode cX4_item 11 = .ok (.tableswitch 97 0 5 #[37, 43, 52, 62, 77, 87], 37) := by decide +kernel
theorem dX4_item_48 : decode cX4_item 48 = .ok (.aload_n 0, 1) := dk_42 (dk_at dksX4_item_2 0 rfl rfl)
theorem dX4_item_49 : decode cX4_item 49 = .ok (.iload_n 1, 1) := dk_27 (dk_at dksX4_item_2 1 rfl rfl)
theorem dX4_item_50 : decode cX4_item 50 = .ok (.invokevirtual 401, 3) := dk_182 1 145 (dk_at dksX4_item_2 2 rfl rfl)
theorem dX4_item_53 : decode cX4_item 53 = .ok (.ireturn, 1) := dk_172 (dk_at dksX4_item_2 5 rfl rfl)
theorem dX4_item_54 : decode cX4_item 54 = .ok (.aload_n 0, 1) := dk_42 (dk_at dksX4_item_2 6 rfl rfl)
theorem dX4_item_55 : decode cX4_item 55 = .ok (.getfield 97, 3) := dk_180 0 97 (dk_at dksX4_item_2 7 rfl rfl)
theorem dX4_item_58 : decode cX4_item 58 = .ok (.iconst 0, 1) := dk_3 (dk_at dksX4_item_2 10 rfl rfl)
theorem dX4_item_59 : decode cX4_item 59 = .ok (.iload_n 1, 1) := dk_27 (dk_at dksX4_item_2 11 rfl rfl)
theorem dX4_item_60 : decode cX4_item 60 = .ok (.iadd, 1) := dk_96 (dk_at dksX4_item_2 12 rfl rfl)
theorem dX4_item_61 : decode cX4_item 61 = .ok (.iaload, 1) := dk_46 (dk_at dksX4_item_2 13 rfl rfl)
theorem dX4_item_62 : decode cX4_item 62 = .ok (.ireturn, 1) := dk_172 (dk_at dksX4_item_2 14 rfl rfl)
theorem dX4_item_63 : decode cX4_item 63 = .ok (.aload_n 0, 1) := dk_42 (dk_at dksX4_item_2 15 rfl rfl)
theorem dX4_item_64 : decode cX4_item 64 = .ok (.getfield 97, 3) := dk_180 0 97 (dk_at dksX4_item_2 16 rfl rfl)
theorem dX4_item_67 : decode cX4_item 67 = .ok (.bipush 6, 2) := dk_16 6 (dk_at dksX4_item_2 19 rfl rfl)
theorem dX4_item_69 : decode cX4_item 69 = .ok (.iload_n 1, 1) := dk_27 (dk_at dksX4_item_2 21 rfl rfl)
theorem dX4_item_70 : decode cX4_item 70 = .ok (.iadd, 1) := dk_96 (dk_at dksX4_item_2 22 rfl rfl)
theorem dX4_item_71 : decode cX4_item 71 = .ok (.iaload, 1) := dk_46 (dk_at dksX4_item_2 23 rfl rfl)
theorem dX4_item_72 : decode cX4_item 72 = .ok (.ireturn, 1) := dk_172 (dk_at dksX4_item_3 0 rfl rfl)
theorem dX4_item_73 : decode cX4_item 73 = .ok (.aload_n 0, 1) := dk_42 (dk_at dksX4_item_3 1 rfl rfl)
theorem dX4_item_74 : decode cX4_item 74 = .ok (.getfield 63, 3) := dk_180 0 63 (dk_at dksX4_item_3 2 rfl rfl)
theorem dX4_item_77 : decode cX4_item 77 = .ok (.bipush 6, 2) := dk_16 6 (dk_at dksX4_item_3 5 rfl rfl)
theorem dX4_item_79 : decode cX4_item 79 = .ok (.aload_n 0, 1) := dk_42 (dk_at dksX4_item_3 7 rfl rfl)
theorem dX4_item_80 : decode cX4_item 80 = .ok (.getfield 255, 3) := dk_180 0 255 (dk_at dksX4_item_3 8 rfl rfl)
theorem dX4_item_83 : decode cX4_item 83 = .ok (.imul, 1) := dk_104 (dk_at dksX4_item_3 11 rfl rfl)
theorem dX4_item_84 : decode cX4_item 84 = .ok (.iload_n 1, 1) := dk_27 (dk_at dksX4_item_3 12 rfl rfl)
theorem dX4_item_85 : decode cX4_item 85 = .ok (.iadd, 1) := dk_96 (dk_at dksX4_item_3 13 rfl rfl)
theorem dX4_item_86 : decode cX4_item 86 = .ok (.iaload, 1) := dk_46 (dk_at dksX4_item_3 14 rfl rfl)
theorem dX4_item_87 : decode cX4_item 87 = .ok (.ireturn, 1) := dk_172 (dk_at dksX4_item_3 15 rfl rfl)
theorem dX4_item_88 : decode cX4_item 88 = .ok (.aload_n 0, 1) := dk_42 (dk_at dksX4_item_3 16 rfl rfl)
theorem dX4_item_89 : decode cX4_item 89 = .ok (.getfield 97, 3) := dk_180 0 97 (dk_at dksX4_item_3 17 rfl rfl)
theorem dX4_item_92 : decode cX4_item 92 = .ok (.bipush 12, 2) := dk_16 12 (dk_at dksX4_item_3 20 rfl rfl)
theorem dX4_item_94 : decode cX4_item 94 = .ok (.iload_n 1, 1) := dk_27 (dk_at dksX4_item_3 22 rfl rfl)
theorem dX4_item_95 : decode cX4_item 95 = .ok (.iadd, 1) := dk_96 (dk_at dksX4_item_3 23 rfl rfl)
theorem dX4_item_96 : decode cX4_item 96 = .ok (.iaload, 1) := dk_46 (dk_at dksX4_item_4 0 rfl rfl)
theorem dX4_item_97 : decode cX4_item 97 = .ok (.ireturn, 1) := dk_172 (dk_at dksX4_item_4 1 rfl rfl)
theorem dX4_item_98 : decode cX4_item 98 = .ok (.aload_n 0, 1) := dk_42 (dk_at dksX4_item_4 2 rfl rfl)
theorem dX4_item_99 : decode cX4_item 99 = .ok (.getfield 97, 3) := dk_180 0 97 (dk_at dksX4_item_4 3 rfl rfl)
theorem dX4_item_102 : decode cX4_item 102 = .ok (.bipush 18, 2) := dk_16 18 (dk_at dksX4_item_4 6 rfl rfl)
theorem dX4_item_104 : decode cX4_item 104 = .ok (.iload_n 1, 1) := dk_27 (dk_at dksX4_item_4 8 rfl rfl)
theorem dX4_item_105 : decode cX4_item 105 = .ok (.iadd, 1) := dk_96 (dk_at dksX4_item_4 9 rfl rfl)
theorem dX4_item_106 : decode cX4_item 106 = .ok (.iaload, 1) := dk_46 (dk_at dksX4_item_4 10 rfl rfl)
theorem dX4_item_107 : decode cX4_item 107 = .ok (.ireturn, 1) := dk_172 (dk_at dksX4_item_4 11 rfl rfl)
theorem dX4_item_108 : decode cX4_item 108 = .ok (.iconst (-1), 1) := dk_2 (dk_at dksX4_item_4 12 rfl rfl)
theorem dX4_item_109 : decode cX4_item 109 = .ok (.ireturn, 1) := dk_172 (dk_at dksX4_item_4 13 rfl rfl)
abbrev cX4_isCase : ByteArray := prog_22_method_49_code
def yX4_isCase : MethodName := ⟨RX4, "isCase", "(I)Z"⟩
def dkwX4_isCase_0 : List UInt8 := [27, 3, 42, 182, 1, 115, 4, 100, 184, 1, 118, 172]
abbrev dktX4_isCase_0 : List UInt8 := dkwX4_isCase_0 ++ []
theorem dksX4_isCase_0 : cX4_isCase.data.toList.drop 0 = dktX4_isCase_0 := by decide +kernel
theorem dX4_isCase_0 : decode cX4_isCase 0 = .ok (.iload_n 1, 1) := dk_27 (dk_at dksX4_isCase_0 0 rfl rfl)
theorem dX4_isCase_1 : decode cX4_isCase 1 = .ok (.iconst 0, 1) := dk_3 (dk_at dksX4_isCase_0 1 rfl rfl)
theorem dX4_isCase_2 : decode cX4_isCase 2 = .ok (.aload_n 0, 1) := dk_42 (dk_at dksX4_isCase_0 2 rfl rfl)
theorem dX4_isCase_3 : decode cX4_isCase 3 = .ok (.invokevirtual 371, 3) := dk_182 1 115 (dk_at dksX4_isCase_0 3 rfl rfl)
theorem dX4_isCase_6 : decode cX4_isCase 6 = .ok (.iconst 1, 1) := dk_4 (dk_at dksX4_isCase_0 6 rfl rfl)
theorem dX4_isCase_7 : decode cX4_isCase 7 = .ok (.isub, 1) := dk_100 (dk_at dksX4_isCase_0 7 rfl rfl)
theorem dX4_isCase_8 : decode cX4_isCase 8 = .ok (.invokestatic 374, 3) := dk_184 1 118 (dk_at dksX4_isCase_0 8 rfl rfl)
theorem dX4_isCase_11 : decode cX4_isCase 11 = .ok (.ireturn, 1) := dk_172 (dk_at dksX4_isCase_0 11 rfl rfl)
abbrev cX4_verdict : ByteArray := prog_22_method_68_code
def yX4_verdict : MethodName := ⟨RX4, "verdict", "(I)I"⟩
def dkwX4_verdict_0 : List UInt8 := [42, 27, 182, 1, 127, 153, 0, 11, 42, 27, 182, 1, 160, 167, 0, 6, 19, 1, 173, 172]
abbrev dktX4_verdict_0 : List UInt8 := dkwX4_verdict_0 ++ []
theorem dksX4_verdict_0 : cX4_verdict.data.toList.drop 0 = dktX4_verdict_0 := by decide +kernel
theorem dX4_verdict_0 : decode cX4_verdict 0 = .ok (.aload_n 0, 1) := dk_42 (dk_at dksX4_verdict_0 0 rfl rfl)
theorem dX4_verdict_1 : decode cX4_verdict 1 = .ok (.iload_n 1, 1) := dk_27 (dk_at dksX4_verdict_0 1 rfl rfl)
theorem dX4_verdict_2 : decode cX4_verdict 2 = .ok (.invokevirtual 383, 3) := dk_182 1 127 (dk_at dksX4_verdict_0 2 rfl rfl)
theorem dX4_verdict_5 : decode cX4_verdict 5 = .ok (.ifCond .eq 11, 3) := dk_153 0 11 (dk_at dksX4_verdict_0 5 rfl rfl)
theorem dX4_verdict_8 : decode cX4_verdict 8 = .ok (.aload_n 0, 1) := dk_42 (dk_at dksX4_verdict_0 8 rfl rfl)
theorem dX4_verdict_9 : decode cX4_verdict 9 = .ok (.iload_n 1, 1) := dk_27 (dk_at dksX4_verdict_0 9 rfl rfl)
theorem dX4_verdict_10 : decode cX4_verdict 10 = .ok (.invokevirtual 416, 3) := dk_182 1 160 (dk_at dksX4_verdict_0 10 rfl rfl)
theorem dX4_verdict_13 : decode cX4_verdict 13 = .ok (.goto 6, 3) := dk_167 0 6 (dk_at dksX4_verdict_0 13 rfl rfl)
theorem dX4_verdict_16 : decode cX4_verdict 16 = .ok (.ldc_w 429, 3) := dk_19 1 173 (dk_at dksX4_verdict_0 16 rfl rfl)
theorem dX4_verdict_19 : decode cX4_verdict 19 = .ok (.ireturn, 1) := dk_172 (dk_at dksX4_verdict_0 19 rfl rfl)
abbrev cX4_verdictOf : ByteArray := prog_22_method_61_code
def yX4_verdictOf : MethodName := ⟨RX4, "verdictOf", "(I)I"⟩
def dkwX4_verdictOf_0 : List UInt8 := [42, 27, 42, 180, 0, 97, 16, 6, 27, 96, 46, 182, 1, 154, 172]
abbrev dktX4_verdictOf_0 : List UInt8 := dkwX4_verdictOf_0 ++ []
theorem dksX4_verdictOf_0 : cX4_verdictOf.data.toList.drop 0 = dktX4_verdictOf_0 := by decide +kernel
theorem dX4_verdictOf_0 : decode cX4_verdictOf 0 = .ok (.aload_n 0, 1) := dk_42 (dk_at dksX4_verdictOf_0 0 rfl rfl)
theorem dX4_verdictOf_1 : decode cX4_verdictOf 1 = .ok (.iload_n 1, 1) := dk_27 (dk_at dksX4_verdictOf_0 1 rfl rfl)
theorem dX4_verdictOf_2 : decode cX4_verdictOf 2 = .ok (.aload_n 0, 1) := dk_42 (dk_at dksX4_verdictOf_0 2 rfl rfl)
theorem dX4_verdictOf_3 : decode cX4_verdictOf 3 = .ok (.getfield 97, 3) := dk_180 0 97 (dk_at dksX4_verdictOf_0 3 rfl rfl)
theorem dX4_verdictOf_6 : decode cX4_verdictOf 6 = .ok (.bipush 6, 2) := dk_16 6 (dk_at dksX4_verdictOf_0 6 rfl rfl)
theorem dX4_verdictOf_8 : decode cX4_verdictOf 8 = .ok (.iload_n 1, 1) := dk_27 (dk_at dksX4_verdictOf_0 8 rfl rfl)
theorem dX4_verdictOf_9 : decode cX4_verdictOf 9 = .ok (.iadd, 1) := dk_96 (dk_at dksX4_verdictOf_0 9 rfl rfl)
theorem dX4_verdictOf_10 : decode cX4_verdictOf 10 = .ok (.iaload, 1) := dk_46 (dk_at dksX4_verdictOf_0 10 rfl rfl)
theorem dX4_verdictOf_11 : decode cX4_verdictOf 11 = .ok (.invokevirtual 410, 3) := dk_182 1 154 (dk_at dksX4_verdictOf_0 11 rfl rfl)
theorem dX4_verdictOf_14 : decode cX4_verdictOf 14 = .ok (.ireturn, 1) := dk_172 (dk_at dksX4_verdictOf_0 14 rfl rfl)
abbrev cX4_verdictBy : ByteArray := prog_22_method_60_code
def yX4_verdictBy : MethodName := ⟨RX4, "verdictBy", "(II)I"⟩
def dkwX4_verdictBy_2 : List UInt8 := [96, 46, 5, 104, 100, 172]
abbrev dktX4_verdictBy_2 : List UInt8 := dkwX4_verdictBy_2 ++ []
def dkwX4_verdictBy_1 : List UInt8 := [153, 0, 10, 42, 182, 1, 151, 167, 0, 22, 42, 28, 182, 1, 99, 8, 100, 42, 180, 0, 97, 16, 12, 27]
abbrev dktX4_verdictBy_1 : List UInt8 := dkwX4_verdictBy_1 ++ dktX4_verdictBy_2
def dkwX4_verdictBy_0 : List UInt8 := [42, 27, 181, 1, 102, 42, 28, 181, 1, 96, 42, 180, 0, 45, 42, 180, 0, 255, 46, 3, 184, 1, 8]
abbrev dktX4_verdictBy_0 : List UInt8 := dkwX4_verdictBy_0 ++ dktX4_verdictBy_1
theorem dksX4_verdictBy_0 : cX4_verdictBy.data.toList.drop 0 = dktX4_verdictBy_0 := by decide +kernel
theorem dksX4_verdictBy_1 : cX4_verdictBy.data.toList.drop 23 = dktX4_verdictBy_1 := dk_seg dksX4_verdictBy_0 23 rfl rfl
theorem dksX4_verdictBy_2 : cX4_verdictBy.data.toList.drop 47 = dktX4_verdictBy_2 := dk_seg dksX4_verdictBy_1 24 rfl rfl
theorem dX4_verdictBy_0 : decode cX4_verdictBy 0 = .ok (.aload_n 0, 1) := dk_42 (dk_at dksX4_verdictBy_0 0 rfl rfl)
theorem dX4_verdictBy_1 : decode cX4_verdictBy 1 = .ok (.iload_n 1, 1) := dk_27 (dk_at dksX4_verdictBy_0 1 rfl rfl)
theorem dX4_verdictBy_2 : decode cX4_verdictBy 2 = .ok (.putfield 358, 3) := dk_181 1 102 (dk_at dksX4_verdictBy_0 2 rfl rfl)
theorem dX4_verdictBy_5 : decode cX4_verdictBy 5 = .ok (.aload_n 0, 1) := dk_42 (dk_at dksX4_verdictBy_0 5 rfl rfl)
theorem dX4_verdictBy_6 : decode cX4_verdictBy 6 = .ok (.iload_n 2, 1) := dk_28 (dk_at dksX4_verdictBy_0 6 rfl rfl)
theorem dX4_verdictBy_7 : decode cX4_verdictBy 7 = .ok (.putfield 352, 3) := dk_181 1 96 (dk_at dksX4_verdictBy_0 7 rfl rfl)
theorem dX4_verdictBy_10 : decode cX4_verdictBy 10 = .ok (.aload_n 0, 1) := dk_42 (dk_at dksX4_verdictBy_0 10 rfl rfl)
theorem dX4_verdictBy_11 : decode cX4_verdictBy 11 = .ok (.getfield 45, 3) := dk_180 0 45 (dk_at dksX4_verdictBy_0 11 rfl rfl)
theorem dX4_verdictBy_14 : decode cX4_verdictBy 14 = .ok (.aload_n 0, 1) := dk_42 (dk_at dksX4_verdictBy_0 14 rfl rfl)
theorem dX4_verdictBy_15 : decode cX4_verdictBy 15 = .ok (.getfield 255, 3) := dk_180 0 255 (dk_at dksX4_verdictBy_0 15 rfl rfl)
theorem dX4_verdictBy_18 : decode cX4_verdictBy 18 = .ok (.iaload, 1) := dk_46 (dk_at dksX4_verdictBy_0 18 rfl rfl)
theorem dX4_verdictBy_19 : decode cX4_verdictBy 19 = .ok (.iconst 0, 1) := dk_3 (dk_at dksX4_verdictBy_0 19 rfl rfl)
theorem dX4_verdictBy_20 : decode cX4_verdictBy 20 = .ok (.invokestatic 264, 3) := dk_184 1 8 (dk_at dksX4_verdictBy_0 20 rfl rfl)
theorem dX4_verdictBy_23 : decode cX4_verdictBy 23 = .ok (.ifCond .eq 10, 3) := dk_153 0 10 (dk_at dksX4_verdictBy_1 0 rfl rfl)
theorem dX4_verdictBy_26 : decode cX4_verdictBy 26 = .ok (.aload_n 0, 1) := dk_42 (dk_at dksX4_verdictBy_1 3 rfl rfl)
theorem dX4_verdictBy_27 : decode cX4_verdictBy 27 = .ok (.invokevirtual 407, 3) := dk_182 1 151 (dk_at dksX4_verdictBy_1 4 rfl rfl)
theorem dX4_verdictBy_30 : decode cX4_verdictBy 30 = .ok (.goto 22, 3) := dk_167 0 22 (dk_at dksX4_verdictBy_1 7 rfl rfl)
theorem dX4_verdictBy_33 : decode cX4_verdictBy 33 = .ok (.aload_n 0, 1) := dk_42 (dk_at dksX4_verdictBy_1 10 rfl rfl)
theorem dX4_verdictBy_34 : decode cX4_verdictBy 34 = .ok (.iload_n 2, 1) := dk_28 (dk_at dksX4_verdictBy_1 11 rfl rfl)
theorem dX4_verdictBy_35 : decode cX4_verdictBy 35 = .ok (.invokevirtual 355, 3) := dk_182 1 99 (dk_at dksX4_verdictBy_1 12 rfl rfl)
theorem dX4_verdictBy_38 : decode cX4_verdictBy 38 = .ok (.iconst 5, 1) := dk_8 (dk_at dksX4_verdictBy_1 15 rfl rfl)
theorem dX4_verdictBy_39 : decode cX4_verdictBy 39 = .ok (.isub, 1) := dk_100 (dk_at dksX4_verdictBy_1 16 rfl rfl)
theorem dX4_verdictBy_40 : decode cX4_verdictBy 40 = .ok (.aload_n 0, 1) := dk_42 (dk_at dksX4_verdictBy_1 17 rfl rfl)
theorem dX4_verdictBy_41 : decode cX4_verdictBy 41 = .ok (.getfield 97, 3) := dk_180 0 97 (dk_at dksX4_verdictBy_1 18 rfl rfl)
theorem dX4_verdictBy_44 : decode cX4_verdictBy 44 = .ok (.bipush 12, 2) := dk_16 12 (dk_at dksX4_verdictBy_1 21 rfl rfl)
theorem dX4_verdictBy_46 : decode cX4_verdictBy 46 = .ok (.iload_n 1, 1) := dk_27 (dk_at dksX4_verdictBy_1 23 rfl rfl)
theorem dX4_verdictBy_47 : decode cX4_verdictBy 47 = .ok (.iadd, 1) := dk_96 (dk_at dksX4_verdictBy_2 0 rfl rfl)
theorem dX4_verdictBy_48 : decode cX4_verdictBy 48 = .ok (.iaload, 1) := dk_46 (dk_at dksX4_verdictBy_2 1 rfl rfl)
theorem dX4_verdictBy_49 : decode cX4_verdictBy 49 = .ok (.iconst 2, 1) := dk_5 (dk_at dksX4_verdictBy_2 2 rfl rfl)
theorem dX4_verdictBy_50 : decode cX4_verdictBy 50 = .ok (.imul, 1) := dk_104 (dk_at dksX4_verdictBy_2 3 rfl rfl)
theorem dX4_verdictBy_51 : decode cX4_verdictBy 51 = .ok (.isub, 1) := dk_100 (dk_at dksX4_verdictBy_2 4 rfl rfl)
theorem dX4_verdictBy_52 : decode cX4_verdictBy 52 = .ok (.ireturn, 1) := dk_172 (dk_at dksX4_verdictBy_2 5 rfl rfl)
abbrev cX4_comes : ByteArray := prog_22_method_39_code
def yX4_comes : MethodName := ⟨RX4, "comes", "()I"⟩
def dkwX4_comes_5 : List UInt8 := [180, 0, 94, 27, 46, 184, 1, 111, 79, 132, 2, 1, 167, 255, 141, 42, 180, 0, 94, 3, 46, 172]
abbrev dktX4_comes_5 : List UInt8 := dkwX4_comes_5 ++ []
def dkwX4_comes_4 : List UInt8 := [167, 0, 32, 132, 1, 255, 42, 180, 0, 94, 27, 4, 100, 29, 42, 180, 0, 94, 27, 4, 100, 46, 42]
abbrev dktX4_comes_4 : List UInt8 := dkwX4_comes_4 ++ dktX4_comes_5
def dkwX4_comes_3 : List UInt8 := [153, 0, 26, 42, 180, 0, 94, 27, 42, 29, 42, 180, 0, 85, 28, 46, 182, 1, 108, 79, 132, 1, 1]
abbrev dktX4_comes_3 : List UInt8 := dkwX4_comes_3 ++ dktX4_comes_4
def dkwX4_comes_2 : List UInt8 := [180, 0, 94, 27, 4, 100, 46, 154, 0, 7, 4, 167, 0, 4, 3, 79, 167, 0, 62, 29, 184, 0, 211]
abbrev dktX4_comes_2 : List UInt8 := dkwX4_comes_2 ++ dktX4_comes_3
def dkwX4_comes_1 : List UInt8 := [162, 0, 108, 42, 180, 0, 82, 28, 46, 62, 29, 16, 126, 160, 0, 30, 42, 180, 0, 94, 27, 4, 100, 42]
abbrev dktX4_comes_1 : List UInt8 := dkwX4_comes_1 ++ dktX4_comes_2
def dkwX4_comes_0 : List UInt8 := [3, 60, 42, 180, 0, 66, 42, 180, 0, 255, 46, 61, 28, 42, 180, 0, 69, 42, 180, 0, 255, 46]
abbrev dktX4_comes_0 : List UInt8 := dkwX4_comes_0 ++ dktX4_comes_1
theorem dksX4_comes_0 : cX4_comes.data.toList.drop 0 = dktX4_comes_0 := by decide +kernel
theorem dksX4_comes_1 : cX4_comes.data.toList.drop 22 = dktX4_comes_1 := dk_seg dksX4_comes_0 22 rfl rfl
theorem dksX4_comes_2 : cX4_comes.data.toList.drop 46 = dktX4_comes_2 := dk_seg dksX4_comes_1 24 rfl rfl
theorem dksX4_comes_3 : cX4_comes.data.toList.drop 69 = dktX4_comes_3 := dk_seg dksX4_comes_2 23 rfl rfl
theorem dksX4_comes_4 : cX4_comes.data.toList.drop 92 = dktX4_comes_4 := dk_seg dksX4_comes_3 23 rfl rfl
theorem dksX4_comes_5 : cX4_comes.data.toList.drop 115 = dktX4_comes_5 := dk_seg dksX4_comes_4 23 rfl rfl
theorem dX4_comes_0 : decode cX4_comes 0 = .ok (.iconst 0, 1) := dk_3 (dk_at dksX4_comes_0 0 rfl rfl)
theorem dX4_comes_1 : decode cX4_comes 1 = .ok (.istore_n 1, 1) := dk_60 (dk_at dksX4_comes_0 1 rfl rfl)
theorem dX4_comes_2 : decode cX4_comes 2 = .ok (.aload_n 0, 1) := dk_42 (dk_at dksX4_comes_0 2 rfl rfl)
theorem dX4_comes_3 : decode cX4_comes 3 = .ok (.getfield 66, 3) := dk_180 0 66 (dk_at dksX4_comes_0 3 rfl rfl)
theorem dX4_comes_6 : decode cX4_comes 6 = .ok (.aload_n 0, 1) := dk_42 (dk_at dksX4_comes_0 6 rfl rfl)
theorem dX4_comes_7 : decode cX4_comes 7 = .ok (.getfield 255, 3) := dk_180 0 255 (dk_at dksX4_comes_0 7 rfl rfl)
theorem dX4_comes_10 : decode cX4_comes 10 = .ok (.iaload, 1) := dk_46 (dk_at dksX4_comes_0 10 rfl rfl)
theorem dX4_comes_11 : decode cX4_comes 11 = .ok (.istore_n 2, 1) := dk_61 (dk_at dksX4_comes_0 11 rfl rfl)
theorem dX4_comes_12 : decode cX4_comes 12 = .ok (.iload_n 2, 1) := dk_28 (dk_at dksX4_comes_0 12 rfl rfl)
theorem dX4_comes_13 : decode cX4_comes 13 = .ok (.aload_n 0, 1) := dk_42 (dk_at dksX4_comes_0 13 rfl rfl)
theorem dX4_comes_14 : decode cX4_comes 14 = .ok (.getfield 69, 3) := dk_180 0 69 (dk_at dksX4_comes_0 14 rfl rfl)
theorem dX4_comes_17 : decode cX4_comes 17 = .ok (.aload_n 0, 1) := dk_42 (dk_at dksX4_comes_0 17 rfl rfl)
theorem dX4_comes_18 : decode cX4_comes 18 = .ok (.getfield 255, 3) := dk_180 0 255 (dk_at dksX4_comes_0 18 rfl rfl)
theorem dX4_comes_21 : decode cX4_comes 21 = .ok (.iaload, 1) := dk_46 (dk_at dksX4_comes_0 21 rfl rfl)
theorem dX4_comes_22 : decode cX4_comes 22 = .ok (.if_icmp .ge 108, 3) := dk_162 0 108 (dk_at dksX4_comes_1 0 rfl rfl)
theorem dX4_comes_25 : decode cX4_comes 25 = .ok (.aload_n 0, 1) := dk_42 (dk_at dksX4_comes_1 3 rfl rfl)
theorem dX4_comes_26 : decode cX4_comes 26 = .ok (.getfield 82, 3) := dk_180 0 82 (dk_at dksX4_comes_1 4 rfl rfl)
theorem dX4_comes_29 : decode cX4_comes 29 = .ok (.iload_n 2, 1) := dk_28 (dk_at dksX4_comes_1 7 rfl rfl)
theorem dX4_comes_30 : decode cX4_comes 30 = .ok (.iaload, 1) := dk_46 (dk_at dksX4_comes_1 8 rfl rfl)
theorem dX4_comes_31 : decode cX4_comes 31 = .ok (.istore_n 3, 1) := dk_62 (dk_at dksX4_comes_1 9 rfl rfl)
theorem dX4_comes_32 : decode cX4_comes 32 = .ok (.iload_n 3, 1) := dk_29 (dk_at dksX4_comes_1 10 rfl rfl)
theorem dX4_comes_33 : decode cX4_comes 33 = .ok (.bipush 126, 2) := dk_16 126 (dk_at dksX4_comes_1 11 rfl rfl)
theorem dX4_comes_35 : decode cX4_comes 35 = .ok (.if_icmp .ne 30, 3) := dk_160 0 30 (dk_at dksX4_comes_1 13 rfl rfl)
theorem dX4_comes_38 : decode cX4_comes 38 = .ok (.aload_n 0, 1) := dk_42 (dk_at dksX4_comes_1 16 rfl rfl)
theorem dX4_comes_39 : decode cX4_comes 39 = .ok (.getfield 94, 3) := dk_180 0 94 (dk_at dksX4_comes_1 17 rfl rfl)
theorem dX4_comes_42 : decode cX4_comes 42 = .ok (.iload_n 1, 1) := dk_27 (dk_at dksX4_comes_1 20 rfl rfl)
theorem dX4_comes_43 : decode cX4_comes 43 = .ok (.iconst 1, 1) := dk_4 (dk_at dksX4_comes_1 21 rfl rfl)
theorem dX4_comes_44 : decode cX4_comes 44 = .ok (.isub, 1) := dk_100 (dk_at dksX4_comes_1 22 rfl rfl)
theorem dX4_comes_45 : decode cX4_comes 45 = .ok (.aload_n 0, 1) := dk_42 (dk_at dksX4_comes_1 23 rfl rfl)
theorem dX4_comes_46 : decode cX4_comes 46 = .ok (.getfield 94, 3) := dk_180 0 94 (dk_at dksX4_comes_2 0 rfl rfl)
theorem dX4_comes_49 : decode cX4_comes 49 = .ok (.iload_n 1, 1) := dk_27 (dk_at dksX4_comes_2 3 rfl rfl)
theorem dX4_comes_50 : decode cX4_comes 50 = .ok (.iconst 1, 1) := dk_4 (dk_at dksX4_comes_2 4 rfl rfl)
theorem dX4_comes_51 : decode cX4_comes 51 = .ok (.isub, 1) := dk_100 (dk_at dksX4_comes_2 5 rfl rfl)
theorem dX4_comes_52 : decode cX4_comes 52 = .ok (.iaload, 1) := dk_46 (dk_at dksX4_comes_2 6 rfl rfl)
theorem dX4_comes_53 : decode cX4_comes 53 = .ok (.ifCond .ne 7, 3) := dk_154 0 7 (dk_at dksX4_comes_2 7 rfl rfl)
theorem dX4_comes_56 : decode cX4_comes 56 = .ok (.iconst 1, 1) := dk_4 (dk_at dksX4_comes_2 10 rfl rfl)
theorem dX4_comes_57 : decode cX4_comes 57 = .ok (.goto 4, 3) := dk_167 0 4 (dk_at dksX4_comes_2 11 rfl rfl)
theorem dX4_comes_60 : decode cX4_comes 60 = .ok (.iconst 0, 1) := dk_3 (dk_at dksX4_comes_2 14 rfl rfl)
theorem dX4_comes_61 : decode cX4_comes 61 = .ok (.iastore, 1) := dk_79 (dk_at dksX4_comes_2 15 rfl rfl)
theorem dX4_comes_62 : decode cX4_comes 62 = .ok (.goto 62, 3) := dk_167 0 62 (dk_at dksX4_comes_2 16 rfl rfl)
theorem dX4_comes_65 : decode cX4_comes 65 = .ok (.iload_n 3, 1) := dk_29 (dk_at dksX4_comes_2 19 rfl rfl)
theorem dX4_comes_66 : decode cX4_comes 66 = .ok (.invokestatic 211, 3) := dk_184 0 211 (dk_at dksX4_comes_2 20 rfl rfl)
theorem dX4_comes_69 : decode cX4_comes 69 = .ok (.ifCond .eq 26, 3) := dk_153 0 26 (dk_at dksX4_comes_3 0 rfl rfl)
theorem dX4_comes_72 : decode cX4_comes 72 = .ok (.aload_n 0, 1) := dk_42 (dk_at dksX4_comes_3 3 rfl rfl)
theorem dX4_comes_73 : decode cX4_comes 73 = .ok (.getfield 94, 3) := dk_180 0 94 (dk_at dksX4_comes_3 4 rfl rfl)
theorem dX4_comes_76 : decode cX4_comes 76 = .ok (.iload_n 1, 1) := dk_27 (dk_at dksX4_comes_3 7 rfl rfl)
theorem dX4_comes_77 : decode cX4_comes 77 = .ok (.aload_n 0, 1) := dk_42 (dk_at dksX4_comes_3 8 rfl rfl)
theorem dX4_comes_78 : decode cX4_comes 78 = .ok (.iload_n 3, 1) := dk_29 (dk_at dksX4_comes_3 9 rfl rfl)
theorem dX4_comes_79 : decode cX4_comes 79 = .ok (.aload_n 0, 1) := dk_42 (dk_at dksX4_comes_3 10 rfl rfl)
theorem dX4_comes_80 : decode cX4_comes 80 = .ok (.getfield 85, 3) := dk_180 0 85 (dk_at dksX4_comes_3 11 rfl rfl)
theorem dX4_comes_83 : decode cX4_comes 83 = .ok (.iload_n 2, 1) := dk_28 (dk_at dksX4_comes_3 14 rfl rfl)
theorem dX4_comes_84 : decode cX4_comes 84 = .ok (.iaload, 1) := dk_46 (dk_at dksX4_comes_3 15 rfl rfl)
theorem dX4_comes_85 : decode cX4_comes 85 = .ok (.invokevirtual 364, 3) := dk_182 1 108 (dk_at dksX4_comes_3 16 rfl rfl)
theorem dX4_comes_88 : decode cX4_comes 88 = .ok (.iastore, 1) := dk_79 (dk_at dksX4_comes_3 19 rfl rfl)
theorem dX4_comes_89 : decode cX4_comes 89 = .ok (.iinc 1 1, 3) := dk_132 1 1 (dk_at dksX4_comes_3 20 rfl rfl)
theorem dX4_comes_92 : decode cX4_comes 92 = .ok (.goto 32, 3) := dk_167 0 32 (dk_at dksX4_comes_4 0 rfl rfl)
theorem dX4_comes_95 : decode cX4_comes 95 = .ok (.iinc 1 (-1), 3) := dk_132 1 255 (dk_at dksX4_comes_4 3 rfl rfl)
theorem dX4_comes_98 : decode cX4_comes 98 = .ok (.aload_n 0, 1) := dk_42 (dk_at dksX4_comes_4 6 rfl rfl)
theorem dX4_comes_99 : decode cX4_comes 99 = .ok (.getfield 94, 3) := dk_180 0 94 (dk_at dksX4_comes_4 7 rfl rfl)
theorem dX4_comes_102 : decode cX4_comes 102 = .ok (.iload_n 1, 1) := dk_27 (dk_at dksX4_comes_4 10 rfl rfl)
theorem dX4_comes_103 : decode cX4_comes 103 = .ok (.iconst 1, 1) := dk_4 (dk_at dksX4_comes_4 11 rfl rfl)
theorem dX4_comes_104 : decode cX4_comes 104 = .ok (.isub, 1) := dk_100 (dk_at dksX4_comes_4 12 rfl rfl)
theorem dX4_comes_105 : decode cX4_comes 105 = .ok (.iload_n 3, 1) := dk_29 (dk_at dksX4_comes_4 13 rfl rfl)
theorem dX4_comes_106 : decode cX4_comes 106 = .ok (.aload_n 0, 1) := dk_42 (dk_at dksX4_comes_4 14 rfl rfl)
theorem dX4_comes_107 : decode cX4_comes 107 = .ok (.getfield 94, 3) := dk_180 0 94 (dk_at dksX4_comes_4 15 rfl rfl)
theorem dX4_comes_110 : decode cX4_comes 110 = .ok (.iload_n 1, 1) := dk_27 (dk_at dksX4_comes_4 18 rfl rfl)
theorem dX4_comes_111 : decode cX4_comes 111 = .ok (.iconst 1, 1) := dk_4 (dk_at dksX4_comes_4 19 rfl rfl)
theorem dX4_comes_112 : decode cX4_comes 112 = .ok (.isub, 1) := dk_100 (dk_at dksX4_comes_4 20 rfl rfl)
theorem dX4_comes_113 : decode cX4_comes 113 = .ok (.iaload, 1) := dk_46 (dk_at dksX4_comes_4 21 rfl rfl)
theorem dX4_comes_114 : decode cX4_comes 114 = .ok (.aload_n 0, 1) := dk_42 (dk_at dksX4_comes_4 22 rfl rfl)
theorem dX4_comes_115 : decode cX4_comes 115 = .ok (.getfield 94, 3) := dk_180 0 94 (dk_at dksX4_comes_5 0 rfl rfl)
theorem dX4_comes_118 : decode cX4_comes 118 = .ok (.iload_n 1, 1) := dk_27 (dk_at dksX4_comes_5 3 rfl rfl)
theorem dX4_comes_119 : decode cX4_comes 119 = .ok (.iaload, 1) := dk_46 (dk_at dksX4_comes_5 4 rfl rfl)
theorem dX4_comes_120 : decode cX4_comes 120 = .ok (.invokestatic 367, 3) := dk_184 1 111 (dk_at dksX4_comes_5 5 rfl rfl)
theorem dX4_comes_123 : decode cX4_comes 123 = .ok (.iastore, 1) := dk_79 (dk_at dksX4_comes_5 8 rfl rfl)
theorem dX4_comes_124 : decode cX4_comes 124 = .ok (.iinc 2 1, 3) := dk_132 2 1 (dk_at dksX4_comes_5 9 rfl rfl)
theorem dX4_comes_127 : decode cX4_comes 127 = .ok (.goto (-115), 3) := dk_167 255 141 (dk_at dksX4_comes_5 12 rfl rfl)
theorem dX4_comes_130 : decode cX4_comes 130 = .ok (.aload_n 0, 1) := dk_42 (dk_at dksX4_comes_5 15 rfl rfl)
theorem dX4_comes_131 : decode cX4_comes 131 = .ok (.getfield 94, 3) := dk_180 0 94 (dk_at dksX4_comes_5 16 rfl rfl)
theorem dX4_comes_134 : decode cX4_comes 134 = .ok (.iconst 0, 1) := dk_3 (dk_at dksX4_comes_5 19 rfl rfl)
theorem dX4_comes_135 : decode cX4_comes 135 = .ok (.iaload, 1) := dk_46 (dk_at dksX4_comes_5 20 rfl rfl)
theorem dX4_comes_136 : decode cX4_comes 136 = .ok (.ireturn, 1) := dk_172 (dk_at dksX4_comes_5 21 rfl rfl)
abbrev cX4_asked : ByteArray := prog_22_method_38_code
def yX4_asked : MethodName := ⟨RX4, "asked", "(II)I"⟩
def dkwX4_asked_4 : List UInt8 := [182, 1, 105, 172, 42, 180, 0, 97, 16, 25, 46, 172, 28, 172]
abbrev dktX4_asked_4 : List UInt8 := dkwX4_asked_4 ++ []
def dkwX4_asked_3 : List UInt8 := [180, 1, 102, 96, 46, 172, 42, 180, 0, 97, 16, 18, 42, 180, 1, 102, 96, 46, 172, 42, 42, 180, 1, 102]
abbrev dktX4_asked_3 : List UInt8 := dkwX4_asked_3 ++ dktX4_asked_4
def dkwX4_asked_2 : List UInt8 := [42, 42, 180, 1, 96, 182, 1, 99, 172, 42, 180, 1, 96, 184, 1, 60, 172, 42, 180, 0, 97, 16, 12, 42]
abbrev dktX4_asked_2 : List UInt8 := dkwX4_asked_2 ++ dktX4_asked_3
def dkwX4_asked_1 : List UInt8 := [170, 0, 0, 0, 0, 0, 147, 0, 0, 0, 98, 0, 0, 0, 115, 0, 0, 0, 104, 0, 0, 0, 147, 0, 0, 0, 147, 0, 0, 0, 147, 0, 0, 0, 147, 0, 0, 0, 147, 0, 0, 0, 139, 0, 0, 0, 147, 0, 0, 0, 147, 0, 0, 0, 130, 0, 0, 0, 147, 0, 0, 0, 96, 0, 0, 0, 147, 0, 0, 0, 147, 0, 0, 0, 87, 0, 0, 0, 147, 0, 0, 0, 147, 0, 0, 0, 117]
abbrev dktX4_asked_1 : List UInt8 := dkwX4_asked_1 ++ dktX4_asked_2
def dkwX4_asked_0 : List UInt8 := [27]
abbrev dktX4_asked_0 : List UInt8 := dkwX4_asked_0 ++ dktX4_asked_1
theorem dksX4_asked_0 : cX4_asked.data.toList.drop 0 = dktX4_asked_0 := by decide +kernel
theorem dksX4_asked_1 : cX4_asked.data.toList.drop 1 = dktX4_asked_1 := dk_seg dksX4_asked_0 1 rfl rfl
theorem dksX4_asked_2 : cX4_asked.data.toList.drop 88 = dktX4_asked_2 := dk_seg dksX4_asked_1 87 rfl rfl
theorem dksX4_asked_3 : cX4_asked.data.toList.drop 112 = dktX4_asked_3 := dk_seg dksX4_asked_2 24 rfl rfl
theorem dksX4_asked_4 : cX4_asked.data.toList.drop 136 = dktX4_asked_4 := dk_seg dksX4_asked_3 24 rfl rfl
theorem dX4_asked_0 : decode cX4_asked 0 = .ok (.iload_n 1, 1) := dk_27 (dk_at dksX4_asked_0 0 rfl rfl)
theorem dX4_asked_1 : decode cX4_asked 1 = .ok (.tableswitch 147 98 115 #[104, 147, 147, 147, 147, 147, 139, 147, 147, 130, 147, 96, 147, 147, 87, 147, 147, 117], 87) := by decide +kernel
theorem dX4_asked_88 : decode cX4_asked 88 = .ok (.aload_n 0, 1) := dk_42 (dk_at dksX4_asked_2 0 rfl rfl)
theorem dX4_asked_89 : decode cX4_asked 89 = .ok (.aload_n 0, 1) := dk_42 (dk_at dksX4_asked_2 1 rfl rfl)
theorem dX4_asked_90 : decode cX4_asked 90 = .ok (.getfield 352, 3) := dk_180 1 96 (dk_at dksX4_asked_2 2 rfl rfl)
theorem dX4_asked_93 : decode cX4_asked 93 = .ok (.invokevirtual 355, 3) := dk_182 1 99 (dk_at dksX4_asked_2 5 rfl rfl)
theorem dX4_asked_96 : decode cX4_asked 96 = .ok (.ireturn, 1) := dk_172 (dk_at dksX4_asked_2 8 rfl rfl)
theorem dX4_asked_97 : decode cX4_asked 97 = .ok (.aload_n 0, 1) := dk_42 (dk_at dksX4_asked_2 9 rfl rfl)
theorem dX4_asked_98 : decode cX4_asked 98 = .ok (.getfield 352, 3) := dk_180 1 96 (dk_at dksX4_asked_2 10 rfl rfl)
theorem dX4_asked_101 : decode cX4_asked 101 = .ok (.invokestatic 316, 3) := dk_184 1 60 (dk_at dksX4_asked_2 13 rfl rfl)
theorem dX4_asked_104 : decode cX4_asked 104 = .ok (.ireturn, 1) := dk_172 (dk_at dksX4_asked_2 16 rfl rfl)
theorem dX4_asked_105 : decode cX4_asked 105 = .ok (.aload_n 0, 1) := dk_42 (dk_at dksX4_asked_2 17 rfl rfl)
theorem dX4_asked_106 : decode cX4_asked 106 = .ok (.getfield 97, 3) := dk_180 0 97 (dk_at dksX4_asked_2 18 rfl rfl)
theorem dX4_asked_109 : decode cX4_asked 109 = .ok (.bipush 12, 2) := dk_16 12 (dk_at dksX4_asked_2 21 rfl rfl)
theorem dX4_asked_111 : decode cX4_asked 111 = .ok (.aload_n 0, 1) := dk_42 (dk_at dksX4_asked_2 23 rfl rfl)
theorem dX4_asked_112 : decode cX4_asked 112 = .ok (.getfield 358, 3) := dk_180 1 102 (dk_at dksX4_asked_3 0 rfl rfl)
theorem dX4_asked_115 : decode cX4_asked 115 = .ok (.iadd, 1) := dk_96 (dk_at dksX4_asked_3 3 rfl rfl)
theorem dX4_asked_116 : decode cX4_asked 116 = .ok (.iaload, 1) := dk_46 (dk_at dksX4_asked_3 4 rfl rfl)
theorem dX4_asked_117 : decode cX4_asked 117 = .ok (.ireturn, 1) := dk_172 (dk_at dksX4_asked_3 5 rfl rfl)
theorem dX4_asked_118 : decode cX4_asked 118 = .ok (.aload_n 0, 1) := dk_42 (dk_at dksX4_asked_3 6 rfl rfl)
theorem dX4_asked_119 : decode cX4_asked 119 = .ok (.getfield 97, 3) := dk_180 0 97 (dk_at dksX4_asked_3 7 rfl rfl)
theorem dX4_asked_122 : decode cX4_asked 122 = .ok (.bipush 18, 2) := dk_16 18 (dk_at dksX4_asked_3 10 rfl rfl)
theorem dX4_asked_124 : decode cX4_asked 124 = .ok (.aload_n 0, 1) := dk_42 (dk_at dksX4_asked_3 12 rfl rfl)
theorem dX4_asked_125 : decode cX4_asked 125 = .ok (.getfield 358, 3) := dk_180 1 102 (dk_at dksX4_asked_3 13 rfl rfl)
theorem dX4_asked_128 : decode cX4_asked 128 = .ok (.iadd, 1) := dk_96 (dk_at dksX4_asked_3 16 rfl rfl)
theorem dX4_asked_129 : decode cX4_asked 129 = .ok (.iaload, 1) := dk_46 (dk_at dksX4_asked_3 17 rfl rfl)
theorem dX4_asked_130 : decode cX4_asked 130 = .ok (.ireturn, 1) := dk_172 (dk_at dksX4_asked_3 18 rfl rfl)
theorem dX4_asked_131 : decode cX4_asked 131 = .ok (.aload_n 0, 1) := dk_42 (dk_at dksX4_asked_3 19 rfl rfl)
theorem dX4_asked_132 : decode cX4_asked 132 = .ok (.aload_n 0, 1) := dk_42 (dk_at dksX4_asked_3 20 rfl rfl)
theorem dX4_asked_133 : decode cX4_asked 133 = .ok (.getfield 358, 3) := dk_180 1 102 (dk_at dksX4_asked_3 21 rfl rfl)
theorem dX4_asked_136 : decode cX4_asked 136 = .ok (.invokevirtual 361, 3) := dk_182 1 105 (dk_at dksX4_asked_4 0 rfl rfl)
theorem dX4_asked_139 : decode cX4_asked 139 = .ok (.ireturn, 1) := dk_172 (dk_at dksX4_asked_4 3 rfl rfl)
theorem dX4_asked_140 : decode cX4_asked 140 = .ok (.aload_n 0, 1) := dk_42 (dk_at dksX4_asked_4 4 rfl rfl)
theorem dX4_asked_141 : decode cX4_asked 141 = .ok (.getfield 97, 3) := dk_180 0 97 (dk_at dksX4_asked_4 5 rfl rfl)
theorem dX4_asked_144 : decode cX4_asked 144 = .ok (.bipush 25, 2) := dk_16 25 (dk_at dksX4_asked_4 8 rfl rfl)
theorem dX4_asked_146 : decode cX4_asked 146 = .ok (.iaload, 1) := dk_46 (dk_at dksX4_asked_4 10 rfl rfl)
theorem dX4_asked_147 : decode cX4_asked 147 = .ok (.ireturn, 1) := dk_172 (dk_at dksX4_asked_4 11 rfl rfl)
theorem dX4_asked_148 : decode cX4_asked 148 = .ok (.iload_n 2, 1) := dk_28 (dk_at dksX4_asked_4 12 rfl rfl)
theorem dX4_asked_149 : decode cX4_asked 149 = .ok (.ireturn, 1) := dk_172 (dk_at dksX4_asked_4 13 rfl rfl)
abbrev cX4_strengthOf : ByteArray := prog_22_method_56_code
def yX4_strengthOf : MethodName := ⟨RX4, "strengthOf", "(I)I"⟩
def dkwX4_strengthOf_3 : List UInt8 := [167, 255, 192, 28, 172]
abbrev dktX4_strengthOf_3 : List UInt8 := dkwX4_strengthOf_3 ++ []
def dkwX4_strengthOf_2 : List UInt8 := [167, 0, 17, 42, 180, 0, 57, 16, 8, 42, 180, 0, 255, 104, 29, 96, 46, 96, 61, 132, 3, 1]
abbrev dktX4_strengthOf_2 : List UInt8 := dkwX4_strengthOf_2 ++ dktX4_strengthOf_3
def dkwX4_strengthOf_1 : List UInt8 := [167, 0, 41, 42, 180, 0, 100, 155, 0, 20, 29, 42, 182, 1, 121, 4, 100, 160, 0, 10, 42, 180, 0, 100]
abbrev dktX4_strengthOf_1 : List UInt8 := dkwX4_strengthOf_1 ++ dktX4_strengthOf_2
def dkwX4_strengthOf_0 : List UInt8 := [3, 61, 3, 62, 29, 42, 182, 1, 121, 162, 0, 62, 28, 27, 29, 184, 1, 8, 154, 0, 7, 3]
abbrev dktX4_strengthOf_0 : List UInt8 := dkwX4_strengthOf_0 ++ dktX4_strengthOf_1
theorem dksX4_strengthOf_0 : cX4_strengthOf.data.toList.drop 0 = dktX4_strengthOf_0 := by decide +kernel
theorem dksX4_strengthOf_1 : cX4_strengthOf.data.toList.drop 22 = dktX4_strengthOf_1 := dk_seg dksX4_strengthOf_0 22 rfl rfl
theorem dksX4_strengthOf_2 : cX4_strengthOf.data.toList.drop 46 = dktX4_strengthOf_2 := dk_seg dksX4_strengthOf_1 24 rfl rfl
theorem dksX4_strengthOf_3 : cX4_strengthOf.data.toList.drop 68 = dktX4_strengthOf_3 := dk_seg dksX4_strengthOf_2 22 rfl rfl
theorem dX4_strengthOf_0 : decode cX4_strengthOf 0 = .ok (.iconst 0, 1) := dk_3 (dk_at dksX4_strengthOf_0 0 rfl rfl)
theorem dX4_strengthOf_1 : decode cX4_strengthOf 1 = .ok (.istore_n 2, 1) := dk_61 (dk_at dksX4_strengthOf_0 1 rfl rfl)
theorem dX4_strengthOf_2 : decode cX4_strengthOf 2 = .ok (.iconst 0, 1) := dk_3 (dk_at dksX4_strengthOf_0 2 rfl rfl)
theorem dX4_strengthOf_3 : decode cX4_strengthOf 3 = .ok (.istore_n 3, 1) := dk_62 (dk_at dksX4_strengthOf_0 3 rfl rfl)
theorem dX4_strengthOf_4 : decode cX4_strengthOf 4 = .ok (.iload_n 3, 1) := dk_29 (dk_at dksX4_strengthOf_0 4 rfl rfl)
theorem dX4_strengthOf_5 : decode cX4_strengthOf 5 = .ok (.aload_n 0, 1) := dk_42 (dk_at dksX4_strengthOf_0 5 rfl rfl)
theorem dX4_strengthOf_6 : decode cX4_strengthOf 6 = .ok (.invokevirtual 377, 3) := dk_182 1 121 (dk_at dksX4_strengthOf_0 6 rfl rfl)
theorem dX4_strengthOf_9 : decode cX4_strengthOf 9 = .ok (.if_icmp .ge 62, 3) := dk_162 0 62 (dk_at dksX4_strengthOf_0 9 rfl rfl)
theorem dX4_strengthOf_12 : decode cX4_strengthOf 12 = .ok (.iload_n 2, 1) := dk_28 (dk_at dksX4_strengthOf_0 12 rfl rfl)
theorem dX4_strengthOf_13 : decode cX4_strengthOf 13 = .ok (.iload_n 1, 1) := dk_27 (dk_at dksX4_strengthOf_0 13 rfl rfl)
theorem dX4_strengthOf_14 : decode cX4_strengthOf 14 = .ok (.iload_n 3, 1) := dk_29 (dk_at dksX4_strengthOf_0 14 rfl rfl)
theorem dX4_strengthOf_15 : decode cX4_strengthOf 15 = .ok (.invokestatic 264, 3) := dk_184 1 8 (dk_at dksX4_strengthOf_0 15 rfl rfl)
theorem dX4_strengthOf_18 : decode cX4_strengthOf 18 = .ok (.ifCond .ne 7, 3) := dk_154 0 7 (dk_at dksX4_strengthOf_0 18 rfl rfl)
theorem dX4_strengthOf_21 : decode cX4_strengthOf 21 = .ok (.iconst 0, 1) := dk_3 (dk_at dksX4_strengthOf_0 21 rfl rfl)
theorem dX4_strengthOf_22 : decode cX4_strengthOf 22 = .ok (.goto 41, 3) := dk_167 0 41 (dk_at dksX4_strengthOf_1 0 rfl rfl)
theorem dX4_strengthOf_25 : decode cX4_strengthOf 25 = .ok (.aload_n 0, 1) := dk_42 (dk_at dksX4_strengthOf_1 3 rfl rfl)
theorem dX4_strengthOf_26 : decode cX4_strengthOf 26 = .ok (.getfield 100, 3) := dk_180 0 100 (dk_at dksX4_strengthOf_1 4 rfl rfl)
theorem dX4_strengthOf_29 : decode cX4_strengthOf 29 = .ok (.ifCond .lt 20, 3) := dk_155 0 20 (dk_at dksX4_strengthOf_1 7 rfl rfl)
theorem dX4_strengthOf_32 : decode cX4_strengthOf 32 = .ok (.iload_n 3, 1) := dk_29 (dk_at dksX4_strengthOf_1 10 rfl rfl)
theorem dX4_strengthOf_33 : decode cX4_strengthOf 33 = .ok (.aload_n 0, 1) := dk_42 (dk_at dksX4_strengthOf_1 11 rfl rfl)
theorem dX4_strengthOf_34 : decode cX4_strengthOf 34 = .ok (.invokevirtual 377, 3) := dk_182 1 121 (dk_at dksX4_strengthOf_1 12 rfl rfl)
theorem dX4_strengthOf_37 : decode cX4_strengthOf 37 = .ok (.iconst 1, 1) := dk_4 (dk_at dksX4_strengthOf_1 15 rfl rfl)
theorem dX4_strengthOf_38 : decode cX4_strengthOf 38 = .ok (.isub, 1) := dk_100 (dk_at dksX4_strengthOf_1 16 rfl rfl)
theorem dX4_strengthOf_39 : decode cX4_strengthOf 39 = .ok (.if_icmp .ne 10, 3) := dk_160 0 10 (dk_at dksX4_strengthOf_1 17 rfl rfl)
theorem dX4_strengthOf_42 : decode cX4_strengthOf 42 = .ok (.aload_n 0, 1) := dk_42 (dk_at dksX4_strengthOf_1 20 rfl rfl)
theorem dX4_strengthOf_43 : decode cX4_strengthOf 43 = .ok (.getfield 100, 3) := dk_180 0 100 (dk_at dksX4_strengthOf_1 21 rfl rfl)
theorem dX4_strengthOf_46 : decode cX4_strengthOf 46 = .ok (.goto 17, 3) := dk_167 0 17 (dk_at dksX4_strengthOf_2 0 rfl rfl)
theorem dX4_strengthOf_49 : decode cX4_strengthOf 49 = .ok (.aload_n 0, 1) := dk_42 (dk_at dksX4_strengthOf_2 3 rfl rfl)
theorem dX4_strengthOf_50 : decode cX4_strengthOf 50 = .ok (.getfield 57, 3) := dk_180 0 57 (dk_at dksX4_strengthOf_2 4 rfl rfl)
theorem dX4_strengthOf_53 : decode cX4_strengthOf 53 = .ok (.bipush 8, 2) := dk_16 8 (dk_at dksX4_strengthOf_2 7 rfl rfl)
theorem dX4_strengthOf_55 : decode cX4_strengthOf 55 = .ok (.aload_n 0, 1) := dk_42 (dk_at dksX4_strengthOf_2 9 rfl rfl)
theorem dX4_strengthOf_56 : decode cX4_strengthOf 56 = .ok (.getfield 255, 3) := dk_180 0 255 (dk_at dksX4_strengthOf_2 10 rfl rfl)
theorem dX4_strengthOf_59 : decode cX4_strengthOf 59 = .ok (.imul, 1) := dk_104 (dk_at dksX4_strengthOf_2 13 rfl rfl)
theorem dX4_strengthOf_60 : decode cX4_strengthOf 60 = .ok (.iload_n 3, 1) := dk_29 (dk_at dksX4_strengthOf_2 14 rfl rfl)
theorem dX4_strengthOf_61 : decode cX4_strengthOf 61 = .ok (.iadd, 1) := dk_96 (dk_at dksX4_strengthOf_2 15 rfl rfl)
theorem dX4_strengthOf_62 : decode cX4_strengthOf 62 = .ok (.iaload, 1) := dk_46 (dk_at dksX4_strengthOf_2 16 rfl rfl)
theorem dX4_strengthOf_63 : decode cX4_strengthOf 63 = .ok (.iadd, 1) := dk_96 (dk_at dksX4_strengthOf_2 17 rfl rfl)
theorem dX4_strengthOf_64 : decode cX4_strengthOf 64 = .ok (.istore_n 2, 1) := dk_61 (dk_at dksX4_strengthOf_2 18 rfl rfl)
theorem dX4_strengthOf_65 : decode cX4_strengthOf 65 = .ok (.iinc 3 1, 3) := dk_132 3 1 (dk_at dksX4_strengthOf_2 19 rfl rfl)
theorem dX4_strengthOf_68 : decode cX4_strengthOf 68 = .ok (.goto (-64), 3) := dk_167 255 192 (dk_at dksX4_strengthOf_3 0 rfl rfl)
theorem dX4_strengthOf_71 : decode cX4_strengthOf 71 = .ok (.iload_n 2, 1) := dk_28 (dk_at dksX4_strengthOf_3 3 rfl rfl)
theorem dX4_strengthOf_72 : decode cX4_strengthOf 72 = .ok (.ireturn, 1) := dk_172 (dk_at dksX4_strengthOf_3 4 rfl rfl)
abbrev cX4_kinOf : ByteArray := prog_22_method_59_code
def yX4_kinOf : MethodName := ⟨RX4, "kinOf", "(I)I"⟩
def dkwX4_kinOf_0 : List UInt8 := [42, 42, 27, 182, 1, 145, 182, 1, 148, 4, 27, 120, 2, 130, 126, 184, 1, 60, 172]
abbrev dktX4_kinOf_0 : List UInt8 := dkwX4_kinOf_0 ++ []
theorem dksX4_kinOf_0 : cX4_kinOf.data.toList.drop 0 = dktX4_kinOf_0 := by decide +kernel
theorem dX4_kinOf_0 : decode cX4_kinOf 0 = .ok (.aload_n 0, 1) := dk_42 (dk_at dksX4_kinOf_0 0 rfl rfl)
theorem dX4_kinOf_1 : decode cX4_kinOf 1 = .ok (.aload_n 0, 1) := dk_42 (dk_at dksX4_kinOf_0 1 rfl rfl)
theorem dX4_kinOf_2 : decode cX4_kinOf 2 = .ok (.iload_n 1, 1) := dk_27 (dk_at dksX4_kinOf_0 2 rfl rfl)
theorem dX4_kinOf_3 : decode cX4_kinOf 3 = .ok (.invokevirtual 401, 3) := dk_182 1 145 (dk_at dksX4_kinOf_0 3 rfl rfl)
theorem dX4_kinOf_6 : decode cX4_kinOf 6 = .ok (.invokevirtual 404, 3) := dk_182 1 148 (dk_at dksX4_kinOf_0 6 rfl rfl)
theorem dX4_kinOf_9 : decode cX4_kinOf 9 = .ok (.iconst 1, 1) := dk_4 (dk_at dksX4_kinOf_0 9 rfl rfl)
theorem dX4_kinOf_10 : decode cX4_kinOf 10 = .ok (.iload_n 1, 1) := dk_27 (dk_at dksX4_kinOf_0 10 rfl rfl)
theorem dX4_kinOf_11 : decode cX4_kinOf 11 = .ok (.ishl, 1) := dk_120 (dk_at dksX4_kinOf_0 11 rfl rfl)
theorem dX4_kinOf_12 : decode cX4_kinOf 12 = .ok (.iconst (-1), 1) := dk_2 (dk_at dksX4_kinOf_0 12 rfl rfl)
theorem dX4_kinOf_13 : decode cX4_kinOf 13 = .ok (.ixor, 1) := dk_130 (dk_at dksX4_kinOf_0 13 rfl rfl)
theorem dX4_kinOf_14 : decode cX4_kinOf 14 = .ok (.iand, 1) := dk_126 (dk_at dksX4_kinOf_0 14 rfl rfl)
theorem dX4_kinOf_15 : decode cX4_kinOf 15 = .ok (.invokestatic 316, 3) := dk_184 1 60 (dk_at dksX4_kinOf_0 15 rfl rfl)
theorem dX4_kinOf_18 : decode cX4_kinOf 18 = .ok (.ireturn, 1) := dk_172 (dk_at dksX4_kinOf_0 18 rfl rfl)
abbrev cX4_two : ByteArray := prog_22_method_37_code
def yX4_two : MethodName := ⟨RX4, "two", "(III)I"⟩
def dkwX4_two_6 : List UInt8 := [167, 0, 4, 3, 172]
abbrev dktX4_two_6 : List UInt8 := dkwX4_two_6 ++ []
def dkwX4_two_5 : List UInt8 := [153, 0, 11, 28, 153, 0, 7, 4, 167, 0, 4, 3, 172, 27, 154, 0, 7, 28, 153, 0, 7, 4]
abbrev dktX4_two_5 : List UInt8 := dkwX4_two_5 ++ dktX4_two_6
def dkwX4_two_4 : List UInt8 := [28, 164, 0, 7, 4, 167, 0, 4, 3, 172, 27, 28, 160, 0, 7, 4, 167, 0, 4, 3, 172, 27]
abbrev dktX4_two_4 : List UInt8 := dkwX4_two_4 ++ dktX4_two_5
def dkwX4_two_3 : List UInt8 := [28, 154, 0, 7, 3, 167, 0, 6, 27, 28, 112, 172, 27, 28, 162, 0, 7, 4, 167, 0, 4, 3, 172, 27]
abbrev dktX4_two_3 : List UInt8 := dkwX4_two_3 ++ dktX4_two_4
def dkwX4_two_2 : List UInt8 := [27, 28, 96, 172, 27, 28, 100, 172, 27, 28, 104, 172, 28, 154, 0, 7, 3, 167, 0, 6, 27, 28, 108, 172]
abbrev dktX4_two_2 : List UInt8 := dkwX4_two_2 ++ dktX4_two_3
def dkwX4_two_1 : List UInt8 := [170, 0, 0, 0, 0, 0, 202, 0, 0, 0, 37, 0, 0, 0, 62, 0, 0, 0, 143, 0, 0, 0, 188, 0, 0, 0, 202, 0, 0, 0, 202, 0, 0, 0, 202, 0, 0, 0, 127, 0, 0, 0, 119, 0, 0, 0, 202, 0, 0, 0, 123, 0, 0, 0, 202, 0, 0, 0, 131, 0, 0, 0, 202, 0, 0, 0, 202, 0, 0, 0, 202, 0, 0, 0, 202, 0, 0, 0, 202, 0, 0, 0, 202, 0, 0, 0, 202, 0, 0, 0, 202, 0, 0, 0, 202, 0, 0, 0, 202, 0, 0, 0, 202, 0, 0, 0, 202, 0, 0, 0, 155, 0, 0, 0, 177, 0, 0, 0, 166]
abbrev dktX4_two_1 : List UInt8 := dkwX4_two_1 ++ dktX4_two_2
def dkwX4_two_0 : List UInt8 := [26]
abbrev dktX4_two_0 : List UInt8 := dkwX4_two_0 ++ dktX4_two_1
theorem dksX4_two_0 : cX4_two.data.toList.drop 0 = dktX4_two_0 := by decide +kernel
theorem dksX4_two_1 : cX4_two.data.toList.drop 1 = dktX4_two_1 := dk_seg dksX4_two_0 1 rfl rfl
theorem dksX4_two_2 : cX4_two.data.toList.drop 120 = dktX4_two_2 := dk_seg dksX4_two_1 119 rfl rfl
theorem dksX4_two_3 : cX4_two.data.toList.drop 144 = dktX4_two_3 := dk_seg dksX4_two_2 24 rfl rfl
theorem dksX4_two_4 : cX4_two.data.toList.drop 168 = dktX4_two_4 := dk_seg dksX4_two_3 24 rfl rfl
theorem dksX4_two_5 : cX4_two.data.toList.drop 190 = dktX4_two_5 := dk_seg dksX4_two_4 22 rfl rfl
theorem dksX4_two_6 : cX4_two.data.toList.drop 212 = dktX4_two_6 := dk_seg dksX4_two_5 22 rfl rfl
theorem dX4_two_0 : decode cX4_two 0 = .ok (.iload_n 0, 1) := dk_26 (dk_at dksX4_two_0 0 rfl rfl)
theorem dX4_two_1 : decode cX4_two 1 = .ok (.tableswitch 202 37 62 #[143, 188, 202, 202, 202, 127, 119, 202, 123, 202, 131, 202, 202, 202, 202, 202, 202, 202, 202, 202, 202, 202, 202, 155, 177, 166], 119) := by decide +kernel
theorem dX4_two_120 : decode cX4_two 120 = .ok (.iload_n 1, 1) := dk_27 (dk_at dksX4_two_2 0 rfl rfl)
theorem dX4_two_121 : decode cX4_two 121 = .ok (.iload_n 2, 1) := dk_28 (dk_at dksX4_two_2 1 rfl rfl)
theorem dX4_two_122 : decode cX4_two 122 = .ok (.iadd, 1) := dk_96 (dk_at dksX4_two_2 2 rfl rfl)
theorem dX4_two_123 : decode cX4_two 123 = .ok (.ireturn, 1) := dk_172 (dk_at dksX4_two_2 3 rfl rfl)
theorem dX4_two_124 : decode cX4_two 124 = .ok (.iload_n 1, 1) := dk_27 (dk_at dksX4_two_2 4 rfl rfl)
theorem dX4_two_125 : decode cX4_two 125 = .ok (.iload_n 2, 1) := dk_28 (dk_at dksX4_two_2 5 rfl rfl)
theorem dX4_two_126 : decode cX4_two 126 = .ok (.isub, 1) := dk_100 (dk_at dksX4_two_2 6 rfl rfl)
theorem dX4_two_127 : decode cX4_two 127 = .ok (.ireturn, 1) := dk_172 (dk_at dksX4_two_2 7 rfl rfl)
theorem dX4_two_128 : decode cX4_two 128 = .ok (.iload_n 1, 1) := dk_27 (dk_at dksX4_two_2 8 rfl rfl)
theorem dX4_two_129 : decode cX4_two 129 = .ok (.iload_n 2, 1) := dk_28 (dk_at dksX4_two_2 9 rfl rfl)
theorem dX4_two_130 : decode cX4_two 130 = .ok (.imul, 1) := dk_104 (dk_at dksX4_two_2 10 rfl rfl)
theorem dX4_two_131 : decode cX4_two 131 = .ok (.ireturn, 1) := dk_172 (dk_at dksX4_two_2 11 rfl rfl)
theorem dX4_two_132 : decode cX4_two 132 = .ok (.iload_n 2, 1) := dk_28 (dk_at dksX4_two_2 12 rfl rfl)
theorem dX4_two_133 : decode cX4_two 133 = .ok (.ifCond .ne 7, 3) := dk_154 0 7 (dk_at dksX4_two_2 13 rfl rfl)
theorem dX4_two_136 : decode cX4_two 136 = .ok (.iconst 0, 1) := dk_3 (dk_at dksX4_two_2 16 rfl rfl)
theorem dX4_two_137 : decode cX4_two 137 = .ok (.goto 6, 3) := dk_167 0 6 (dk_at dksX4_two_2 17 rfl rfl)
theorem dX4_two_140 : decode cX4_two 140 = .ok (.iload_n 1, 1) := dk_27 (dk_at dksX4_two_2 20 rfl rfl)
theorem dX4_two_141 : decode cX4_two 141 = .ok (.iload_n 2, 1) := dk_28 (dk_at dksX4_two_2 21 rfl rfl)
theorem dX4_two_142 : decode cX4_two 142 = .ok (.idiv, 1) := dk_108 (dk_at dksX4_two_2 22 rfl rfl)
theorem dX4_two_143 : decode cX4_two 143 = .ok (.ireturn, 1) := dk_172 (dk_at dksX4_two_2 23 rfl rfl)
theorem dX4_two_144 : decode cX4_two 144 = .ok (.iload_n 2, 1) := dk_28 (dk_at dksX4_two_3 0 rfl rfl)
theorem dX4_two_145 : decode cX4_two 145 = .ok (.ifCond .ne 7, 3) := dk_154 0 7 (dk_at dksX4_two_3 1 rfl rfl)
theorem dX4_two_148 : decode cX4_two 148 = .ok (.iconst 0, 1) := dk_3 (dk_at dksX4_two_3 4 rfl rfl)
theorem dX4_two_149 : decode cX4_two 149 = .ok (.goto 6, 3) := dk_167 0 6 (dk_at dksX4_two_3 5 rfl rfl)
theorem dX4_two_152 : decode cX4_two 152 = .ok (.iload_n 1, 1) := dk_27 (dk_at dksX4_two_3 8 rfl rfl)
theorem dX4_two_153 : decode cX4_two 153 = .ok (.iload_n 2, 1) := dk_28 (dk_at dksX4_two_3 9 rfl rfl)
theorem dX4_two_154 : decode cX4_two 154 = .ok (.irem, 1) := dk_112 (dk_at dksX4_two_3 10 rfl rfl)
theorem dX4_two_155 : decode cX4_two 155 = .ok (.ireturn, 1) := dk_172 (dk_at dksX4_two_3 11 rfl rfl)
theorem dX4_two_156 : decode cX4_two 156 = .ok (.iload_n 1, 1) := dk_27 (dk_at dksX4_two_3 12 rfl rfl)
theorem dX4_two_157 : decode cX4_two 157 = .ok (.iload_n 2, 1) := dk_28 (dk_at dksX4_two_3 13 rfl rfl)
theorem dX4_two_158 : decode cX4_two 158 = .ok (.if_icmp .ge 7, 3) := dk_162 0 7 (dk_at dksX4_two_3 14 rfl rfl)
theorem dX4_two_161 : decode cX4_two 161 = .ok (.iconst 1, 1) := dk_4 (dk_at dksX4_two_3 17 rfl rfl)
theorem dX4_two_162 : decode cX4_two 162 = .ok (.goto 4, 3) := dk_167 0 4 (dk_at dksX4_two_3 18 rfl rfl)
theorem dX4_two_165 : decode cX4_two 165 = .ok (.iconst 0, 1) := dk_3 (dk_at dksX4_two_3 21 rfl rfl)
theorem dX4_two_166 : decode cX4_two 166 = .ok (.ireturn, 1) := dk_172 (dk_at dksX4_two_3 22 rfl rfl)
theorem dX4_two_167 : decode cX4_two 167 = .ok (.iload_n 1, 1) := dk_27 (dk_at dksX4_two_3 23 rfl rfl)
theorem dX4_two_168 : decode cX4_two 168 = .ok (.iload_n 2, 1) := dk_28 (dk_at dksX4_two_4 0 rfl rfl)
theorem dX4_two_169 : decode cX4_two 169 = .ok (.if_icmp .le 7, 3) := dk_164 0 7 (dk_at dksX4_two_4 1 rfl rfl)
theorem dX4_two_172 : decode cX4_two 172 = .ok (.iconst 1, 1) := dk_4 (dk_at dksX4_two_4 4 rfl rfl)
theorem dX4_two_173 : decode cX4_two 173 = .ok (.goto 4, 3) := dk_167 0 4 (dk_at dksX4_two_4 5 rfl rfl)
theorem dX4_two_176 : decode cX4_two 176 = .ok (.iconst 0, 1) := dk_3 (dk_at dksX4_two_4 8 rfl rfl)
theorem dX4_two_177 : decode cX4_two 177 = .ok (.ireturn, 1) := dk_172 (dk_at dksX4_two_4 9 rfl rfl)
theorem dX4_two_178 : decode cX4_two 178 = .ok (.iload_n 1, 1) := dk_27 (dk_at dksX4_two_4 10 rfl rfl)
theorem dX4_two_179 : decode cX4_two 179 = .ok (.iload_n 2, 1) := dk_28 (dk_at dksX4_two_4 11 rfl rfl)
theorem dX4_two_180 : decode cX4_two 180 = .ok (.if_icmp .ne 7, 3) := dk_160 0 7 (dk_at dksX4_two_4 12 rfl rfl)
theorem dX4_two_183 : decode cX4_two 183 = .ok (.iconst 1, 1) := dk_4 (dk_at dksX4_two_4 15 rfl rfl)
theorem dX4_two_184 : decode cX4_two 184 = .ok (.goto 4, 3) := dk_167 0 4 (dk_at dksX4_two_4 16 rfl rfl)
theorem dX4_two_187 : decode cX4_two 187 = .ok (.iconst 0, 1) := dk_3 (dk_at dksX4_two_4 19 rfl rfl)
theorem dX4_two_188 : decode cX4_two 188 = .ok (.ireturn, 1) := dk_172 (dk_at dksX4_two_4 20 rfl rfl)
theorem dX4_two_189 : decode cX4_two 189 = .ok (.iload_n 1, 1) := dk_27 (dk_at dksX4_two_4 21 rfl rfl)
theorem dX4_two_190 : decode cX4_two 190 = .ok (.ifCond .eq 11, 3) := dk_153 0 11 (dk_at dksX4_two_5 0 rfl rfl)
theorem dX4_two_193 : decode cX4_two 193 = .ok (.iload_n 2, 1) := dk_28 (dk_at dksX4_two_5 3 rfl rfl)
theorem dX4_two_194 : decode cX4_two 194 = .ok (.ifCond .eq 7, 3) := dk_153 0 7 (dk_at dksX4_two_5 4 rfl rfl)
theorem dX4_two_197 : decode cX4_two 197 = .ok (.iconst 1, 1) := dk_4 (dk_at dksX4_two_5 7 rfl rfl)
theorem dX4_two_198 : decode cX4_two 198 = .ok (.goto 4, 3) := dk_167 0 4 (dk_at dksX4_two_5 8 rfl rfl)
theorem dX4_two_201 : decode cX4_two 201 = .ok (.iconst 0, 1) := dk_3 (dk_at dksX4_two_5 11 rfl rfl)
theorem dX4_two_202 : decode cX4_two 202 = .ok (.ireturn, 1) := dk_172 (dk_at dksX4_two_5 12 rfl rfl)
theorem dX4_two_203 : decode cX4_two 203 = .ok (.iload_n 1, 1) := dk_27 (dk_at dksX4_two_5 13 rfl rfl)
theorem dX4_two_204 : decode cX4_two 204 = .ok (.ifCond .ne 7, 3) := dk_154 0 7 (dk_at dksX4_two_5 14 rfl rfl)
theorem dX4_two_207 : decode cX4_two 207 = .ok (.iload_n 2, 1) := dk_28 (dk_at dksX4_two_5 17 rfl rfl)
theorem dX4_two_208 : decode cX4_two 208 = .ok (.ifCond .eq 7, 3) := dk_153 0 7 (dk_at dksX4_two_5 18 rfl rfl)
theorem dX4_two_211 : decode cX4_two 211 = .ok (.iconst 1, 1) := dk_4 (dk_at dksX4_two_5 21 rfl rfl)
theorem dX4_two_212 : decode cX4_two 212 = .ok (.goto 4, 3) := dk_167 0 4 (dk_at dksX4_two_6 0 rfl rfl)
theorem dX4_two_215 : decode cX4_two 215 = .ok (.iconst 0, 1) := dk_3 (dk_at dksX4_two_6 3 rfl rfl)
theorem dX4_two_216 : decode cX4_two 216 = .ok (.ireturn, 1) := dk_172 (dk_at dksX4_two_6 4 rfl rfl)
abbrev cX4_free : ByteArray := prog_22_method_69_code
def yX4_free : MethodName := ⟨RX4, "free", "()I"⟩
theorem dX4_free_0 : decode cX4_free 0 = .ok (.aload_n 0, 1) := by decide +kernel
theorem dX4_free_1 : decode cX4_free 1 = .ok (.invokevirtual 430, 3) := by decide +kernel
theorem dX4_free_4 : decode cX4_free 4 = .ok (.ireturn, 1) := by decide +kernel
abbrev cX4_freeNow : ByteArray := prog_22_method_63_code
def yX4_freeNow : MethodName := ⟨RX4, "freeNow", "()I"⟩
def dkwX4_freeNow_1 : List UInt8 := [182, 1, 160, 158, 0, 9, 27, 4, 28, 120, 128, 60, 132, 2, 1, 167, 255, 223, 27, 172]
abbrev dktX4_freeNow_1 : List UInt8 := dkwX4_freeNow_1 ++ []
def dkwX4_freeNow_0 : List UInt8 := [3, 60, 3, 61, 28, 42, 182, 1, 115, 162, 0, 31, 42, 28, 182, 1, 157, 153, 0, 17, 42, 28]
abbrev dktX4_freeNow_0 : List UInt8 := dkwX4_freeNow_0 ++ dktX4_freeNow_1
theorem dksX4_freeNow_0 : cX4_freeNow.data.toList.drop 0 = dktX4_freeNow_0 := by decide +kernel
theorem dksX4_freeNow_1 : cX4_freeNow.data.toList.drop 22 = dktX4_freeNow_1 := dk_seg dksX4_freeNow_0 22 rfl rfl
theorem dX4_freeNow_0 : decode cX4_freeNow 0 = .ok (.iconst 0, 1) := dk_3 (dk_at dksX4_freeNow_0 0 rfl rfl)
theorem dX4_freeNow_1 : decode cX4_freeNow 1 = .ok (.istore_n 1, 1) := dk_60 (dk_at dksX4_freeNow_0 1 rfl rfl)
theorem dX4_freeNow_2 : decode cX4_freeNow 2 = .ok (.iconst 0, 1) := dk_3 (dk_at dksX4_freeNow_0 2 rfl rfl)
theorem dX4_freeNow_3 : decode cX4_freeNow 3 = .ok (.istore_n 2, 1) := dk_61 (dk_at dksX4_freeNow_0 3 rfl rfl)
theorem dX4_freeNow_4 : decode cX4_freeNow 4 = .ok (.iload_n 2, 1) := dk_28 (dk_at dksX4_freeNow_0 4 rfl rfl)
theorem dX4_freeNow_5 : decode cX4_freeNow 5 = .ok (.aload_n 0, 1) := dk_42 (dk_at dksX4_freeNow_0 5 rfl rfl)
theorem dX4_freeNow_6 : decode cX4_freeNow 6 = .ok (.invokevirtual 371, 3) := dk_182 1 115 (dk_at dksX4_freeNow_0 6 rfl rfl)
theorem dX4_freeNow_9 : decode cX4_freeNow 9 = .ok (.if_icmp .ge 31, 3) := dk_162 0 31 (dk_at dksX4_freeNow_0 9 rfl rfl)
theorem dX4_freeNow_12 : decode cX4_freeNow 12 = .ok (.aload_n 0, 1) := dk_42 (dk_at dksX4_freeNow_0 12 rfl rfl)
theorem dX4_freeNow_13 : decode cX4_freeNow 13 = .ok (.iload_n 2, 1) := dk_28 (dk_at dksX4_freeNow_0 13 rfl rfl)
theorem dX4_freeNow_14 : decode cX4_freeNow 14 = .ok (.invokevirtual 413, 3) := dk_182 1 157 (dk_at dksX4_freeNow_0 14 rfl rfl)
theorem dX4_freeNow_17 : decode cX4_freeNow 17 = .ok (.ifCond .eq 17, 3) := dk_153 0 17 (dk_at dksX4_freeNow_0 17 rfl rfl)
theorem dX4_freeNow_20 : decode cX4_freeNow 20 = .ok (.aload_n 0, 1) := dk_42 (dk_at dksX4_freeNow_0 20 rfl rfl)
theorem dX4_freeNow_21 : decode cX4_freeNow 21 = .ok (.iload_n 2, 1) := dk_28 (dk_at dksX4_freeNow_0 21 rfl rfl)
theorem dX4_freeNow_22 : decode cX4_freeNow 22 = .ok (.invokevirtual 416, 3) := dk_182 1 160 (dk_at dksX4_freeNow_1 0 rfl rfl)
theorem dX4_freeNow_25 : decode cX4_freeNow 25 = .ok (.ifCond .le 9, 3) := dk_158 0 9 (dk_at dksX4_freeNow_1 3 rfl rfl)
theorem dX4_freeNow_28 : decode cX4_freeNow 28 = .ok (.iload_n 1, 1) := dk_27 (dk_at dksX4_freeNow_1 6 rfl rfl)
theorem dX4_freeNow_29 : decode cX4_freeNow 29 = .ok (.iconst 1, 1) := dk_4 (dk_at dksX4_freeNow_1 7 rfl rfl)
theorem dX4_freeNow_30 : decode cX4_freeNow 30 = .ok (.iload_n 2, 1) := dk_28 (dk_at dksX4_freeNow_1 8 rfl rfl)
theorem dX4_freeNow_31 : decode cX4_freeNow 31 = .ok (.ishl, 1) := dk_120 (dk_at dksX4_freeNow_1 9 rfl rfl)
theorem dX4_freeNow_32 : decode cX4_freeNow 32 = .ok (.ior, 1) := dk_128 (dk_at dksX4_freeNow_1 10 rfl rfl)
theorem dX4_freeNow_33 : decode cX4_freeNow 33 = .ok (.istore_n 1, 1) := dk_60 (dk_at dksX4_freeNow_1 11 rfl rfl)
theorem dX4_freeNow_34 : decode cX4_freeNow 34 = .ok (.iinc 2 1, 3) := dk_132 2 1 (dk_at dksX4_freeNow_1 12 rfl rfl)
theorem dX4_freeNow_37 : decode cX4_freeNow 37 = .ok (.goto (-33), 3) := dk_167 255 223 (dk_at dksX4_freeNow_1 15 rfl rfl)
theorem dX4_freeNow_40 : decode cX4_freeNow 40 = .ok (.iload_n 1, 1) := dk_27 (dk_at dksX4_freeNow_1 18 rfl rfl)
theorem dX4_freeNow_41 : decode cX4_freeNow 41 = .ok (.ireturn, 1) := dk_172 (dk_at dksX4_freeNow_1 19 rfl rfl)
abbrev cX4_isHeld : ByteArray := prog_22_method_52_code
def yX4_isHeld : MethodName := ⟨RX4, "isHeld", "(I)Z"⟩
def dkwX4_isHeld_1 : List UInt8 := [172]
abbrev dktX4_isHeld_1 : List UInt8 := dkwX4_isHeld_1 ++ []
def dkwX4_isHeld_0 : List UInt8 := [42, 27, 182, 1, 127, 153, 0, 18, 42, 180, 0, 97, 3, 27, 96, 46, 154, 0, 7, 4, 167, 0, 4, 3]
abbrev dktX4_isHeld_0 : List UInt8 := dkwX4_isHeld_0 ++ dktX4_isHeld_1
theorem dksX4_isHeld_0 : cX4_isHeld.data.toList.drop 0 = dktX4_isHeld_0 := by decide +kernel
theorem dksX4_isHeld_1 : cX4_isHeld.data.toList.drop 24 = dktX4_isHeld_1 := dk_seg dksX4_isHeld_0 24 rfl rfl
theorem dX4_isHeld_0 : decode cX4_isHeld 0 = .ok (.aload_n 0, 1) := dk_42 (dk_at dksX4_isHeld_0 0 rfl rfl)
theorem dX4_isHeld_1 : decode cX4_isHeld 1 = .ok (.iload_n 1, 1) := dk_27 (dk_at dksX4_isHeld_0 1 rfl rfl)
theorem dX4_isHeld_2 : decode cX4_isHeld 2 = .ok (.invokevirtual 383, 3) := dk_182 1 127 (dk_at dksX4_isHeld_0 2 rfl rfl)
theorem dX4_isHeld_5 : decode cX4_isHeld 5 = .ok (.ifCond .eq 18, 3) := dk_153 0 18 (dk_at dksX4_isHeld_0 5 rfl rfl)
theorem dX4_isHeld_8 : decode cX4_isHeld 8 = .ok (.aload_n 0, 1) := dk_42 (dk_at dksX4_isHeld_0 8 rfl rfl)
theorem dX4_isHeld_9 : decode cX4_isHeld 9 = .ok (.getfield 97, 3) := dk_180 0 97 (dk_at dksX4_isHeld_0 9 rfl rfl)
theorem dX4_isHeld_12 : decode cX4_isHeld 12 = .ok (.iconst 0, 1) := dk_3 (dk_at dksX4_isHeld_0 12 rfl rfl)
theorem dX4_isHeld_13 : decode cX4_isHeld 13 = .ok (.iload_n 1, 1) := dk_27 (dk_at dksX4_isHeld_0 13 rfl rfl)
theorem dX4_isHeld_14 : decode cX4_isHeld 14 = .ok (.iadd, 1) := dk_96 (dk_at dksX4_isHeld_0 14 rfl rfl)
theorem dX4_isHeld_15 : decode cX4_isHeld 15 = .ok (.iaload, 1) := dk_46 (dk_at dksX4_isHeld_0 15 rfl rfl)
theorem dX4_isHeld_16 : decode cX4_isHeld 16 = .ok (.ifCond .ne 7, 3) := dk_154 0 7 (dk_at dksX4_isHeld_0 16 rfl rfl)
theorem dX4_isHeld_19 : decode cX4_isHeld 19 = .ok (.iconst 1, 1) := dk_4 (dk_at dksX4_isHeld_0 19 rfl rfl)
theorem dX4_isHeld_20 : decode cX4_isHeld 20 = .ok (.goto 4, 3) := dk_167 0 4 (dk_at dksX4_isHeld_0 20 rfl rfl)
theorem dX4_isHeld_23 : decode cX4_isHeld 23 = .ok (.iconst 0, 1) := dk_3 (dk_at dksX4_isHeld_0 23 rfl rfl)
theorem dX4_isHeld_24 : decode cX4_isHeld 24 = .ok (.ireturn, 1) := dk_172 (dk_at dksX4_isHeld_1 0 rfl rfl)
abbrev cX4_likeliest : ByteArray := prog_22_method_70_code
def yX4_likeliest : MethodName := ⟨RX4, "likeliest", "()I"⟩
def dkwX4_likeliest_1 : List UInt8 := [42, 28, 182, 1, 160, 42, 27, 182, 1, 160, 164, 0, 5, 28, 60, 132, 2, 1, 167, 255, 218, 27, 172]
abbrev dktX4_likeliest_1 : List UInt8 := dkwX4_likeliest_1 ++ []
def dkwX4_likeliest_0 : List UInt8 := [2, 60, 3, 61, 28, 42, 182, 1, 115, 162, 0, 36, 42, 28, 182, 1, 157, 153, 0, 22, 27, 155, 0, 16]
abbrev dktX4_likeliest_0 : List UInt8 := dkwX4_likeliest_0 ++ dktX4_likeliest_1
theorem dksX4_likeliest_0 : cX4_likeliest.data.toList.drop 0 = dktX4_likeliest_0 := by decide +kernel
theorem dksX4_likeliest_1 : cX4_likeliest.data.toList.drop 24 = dktX4_likeliest_1 := dk_seg dksX4_likeliest_0 24 rfl rfl
theorem dX4_likeliest_0 : decode cX4_likeliest 0 = .ok (.iconst (-1), 1) := dk_2 (dk_at dksX4_likeliest_0 0 rfl rfl)
theorem dX4_likeliest_1 : decode cX4_likeliest 1 = .ok (.istore_n 1, 1) := dk_60 (dk_at dksX4_likeliest_0 1 rfl rfl)
theorem dX4_likeliest_2 : decode cX4_likeliest 2 = .ok (.iconst 0, 1) := dk_3 (dk_at dksX4_likeliest_0 2 rfl rfl)
theorem dX4_likeliest_3 : decode cX4_likeliest 3 = .ok (.istore_n 2, 1) := dk_61 (dk_at dksX4_likeliest_0 3 rfl rfl)
theorem dX4_likeliest_4 : decode cX4_likeliest 4 = .ok (.iload_n 2, 1) := dk_28 (dk_at dksX4_likeliest_0 4 rfl rfl)
theorem dX4_likeliest_5 : decode cX4_likeliest 5 = .ok (.aload_n 0, 1) := dk_42 (dk_at dksX4_likeliest_0 5 rfl rfl)
theorem dX4_likeliest_6 : decode cX4_likeliest 6 = .ok (.invokevirtual 371, 3) := dk_182 1 115 (dk_at dksX4_likeliest_0 6 rfl rfl)
theorem dX4_likeliest_9 : decode cX4_likeliest 9 = .ok (.if_icmp .ge 36, 3) := dk_162 0 36 (dk_at dksX4_likeliest_0 9 rfl rfl)
theorem dX4_likeliest_12 : decode cX4_likeliest 12 = .ok (.aload_n 0, 1) := dk_42 (dk_at dksX4_likeliest_0 12 rfl rfl)
theorem dX4_likeliest_13 : decode cX4_likeliest 13 = .ok (.iload_n 2, 1) := dk_28 (dk_at dksX4_likeliest_0 13 rfl rfl)
theorem dX4_likeliest_14 : decode cX4_likeliest 14 = .ok (.invokevirtual 413, 3) := dk_182 1 157 (dk_at dksX4_likeliest_0 14 rfl rfl)
theorem dX4_likeliest_17 : decode cX4_likeliest 17 = .ok (.ifCond .eq 22, 3) := dk_153 0 22 (dk_at dksX4_likeliest_0 17 rfl rfl)
theorem dX4_likeliest_20 : decode cX4_likeliest 20 = .ok (.iload_n 1, 1) := dk_27 (dk_at dksX4_likeliest_0 20 rfl rfl)
theorem dX4_likeliest_21 : decode cX4_likeliest 21 = .ok (.ifCond .lt 16, 3) := dk_155 0 16 (dk_at dksX4_likeliest_0 21 rfl rfl)
theorem dX4_likeliest_24 : decode cX4_likeliest 24 = .ok (.aload_n 0, 1) := dk_42 (dk_at dksX4_likeliest_1 0 rfl rfl)
theorem dX4_likeliest_25 : decode cX4_likeliest 25 = .ok (.iload_n 2, 1) := dk_28 (dk_at dksX4_likeliest_1 1 rfl rfl)
theorem dX4_likeliest_26 : decode cX4_likeliest 26 = .ok (.invokevirtual 416, 3) := dk_182 1 160 (dk_at dksX4_likeliest_1 2 rfl rfl)
theorem dX4_likeliest_29 : decode cX4_likeliest 29 = .ok (.aload_n 0, 1) := dk_42 (dk_at dksX4_likeliest_1 5 rfl rfl)
theorem dX4_likeliest_30 : decode cX4_likeliest 30 = .ok (.iload_n 1, 1) := dk_27 (dk_at dksX4_likeliest_1 6 rfl rfl)
theorem dX4_likeliest_31 : decode cX4_likeliest 31 = .ok (.invokevirtual 416, 3) := dk_182 1 160 (dk_at dksX4_likeliest_1 7 rfl rfl)
theorem dX4_likeliest_34 : decode cX4_likeliest 34 = .ok (.if_icmp .le 5, 3) := dk_164 0 5 (dk_at dksX4_likeliest_1 10 rfl rfl)
theorem dX4_likeliest_37 : decode cX4_likeliest 37 = .ok (.iload_n 2, 1) := dk_28 (dk_at dksX4_likeliest_1 13 rfl rfl)
theorem dX4_likeliest_38 : decode cX4_likeliest 38 = .ok (.istore_n 1, 1) := dk_60 (dk_at dksX4_likeliest_1 14 rfl rfl)
theorem dX4_likeliest_39 : decode cX4_likeliest 39 = .ok (.iinc 2 1, 3) := dk_132 2 1 (dk_at dksX4_likeliest_1 15 rfl rfl)
theorem dX4_likeliest_42 : decode cX4_likeliest 42 = .ok (.goto (-38), 3) := dk_167 255 218 (dk_at dksX4_likeliest_1 18 rfl rfl)
theorem dX4_likeliest_45 : decode cX4_likeliest 45 = .ok (.iload_n 1, 1) := dk_27 (dk_at dksX4_likeliest_1 21 rfl rfl)
theorem dX4_likeliest_46 : decode cX4_likeliest 46 = .ok (.ireturn, 1) := dk_172 (dk_at dksX4_likeliest_1 22 rfl rfl)
abbrev cX4_fashion : ByteArray := prog_22_method_72_code
def yX4_fashion : MethodName := ⟨RX4, "fashion", "()I"⟩
def dkwX4_fashion_1 : List UInt8 := [182, 1, 177, 164, 0, 5, 28, 60, 132, 2, 1, 167, 255, 226, 27, 172]
abbrev dktX4_fashion_1 : List UInt8 := dkwX4_fashion_1 ++ []
def dkwX4_fashion_0 : List UInt8 := [2, 60, 3, 61, 28, 42, 182, 1, 121, 162, 0, 28, 27, 155, 0, 16, 42, 28, 182, 1, 177, 42, 27]
abbrev dktX4_fashion_0 : List UInt8 := dkwX4_fashion_0 ++ dktX4_fashion_1
theorem dksX4_fashion_0 : cX4_fashion.data.toList.drop 0 = dktX4_fashion_0 := by decide +kernel
theorem dksX4_fashion_1 : cX4_fashion.data.toList.drop 23 = dktX4_fashion_1 := dk_seg dksX4_fashion_0 23 rfl rfl
theorem dX4_fashion_0 : decode cX4_fashion 0 = .ok (.iconst (-1), 1) := dk_2 (dk_at dksX4_fashion_0 0 rfl rfl)
theorem dX4_fashion_1 : decode cX4_fashion 1 = .ok (.istore_n 1, 1) := dk_60 (dk_at dksX4_fashion_0 1 rfl rfl)
theorem dX4_fashion_2 : decode cX4_fashion 2 = .ok (.iconst 0, 1) := dk_3 (dk_at dksX4_fashion_0 2 rfl rfl)
theorem dX4_fashion_3 : decode cX4_fashion 3 = .ok (.istore_n 2, 1) := dk_61 (dk_at dksX4_fashion_0 3 rfl rfl)
theorem dX4_fashion_4 : decode cX4_fashion 4 = .ok (.iload_n 2, 1) := dk_28 (dk_at dksX4_fashion_0 4 rfl rfl)
theorem dX4_fashion_5 : decode cX4_fashion 5 = .ok (.aload_n 0, 1) := dk_42 (dk_at dksX4_fashion_0 5 rfl rfl)
theorem dX4_fashion_6 : decode cX4_fashion 6 = .ok (.invokevirtual 377, 3) := dk_182 1 121 (dk_at dksX4_fashion_0 6 rfl rfl)
theorem dX4_fashion_9 : decode cX4_fashion 9 = .ok (.if_icmp .ge 28, 3) := dk_162 0 28 (dk_at dksX4_fashion_0 9 rfl rfl)
theorem dX4_fashion_12 : decode cX4_fashion 12 = .ok (.iload_n 1, 1) := dk_27 (dk_at dksX4_fashion_0 12 rfl rfl)
theorem dX4_fashion_13 : decode cX4_fashion 13 = .ok (.ifCond .lt 16, 3) := dk_155 0 16 (dk_at dksX4_fashion_0 13 rfl rfl)
theorem dX4_fashion_16 : decode cX4_fashion 16 = .ok (.aload_n 0, 1) := dk_42 (dk_at dksX4_fashion_0 16 rfl rfl)
theorem dX4_fashion_17 : decode cX4_fashion 17 = .ok (.iload_n 2, 1) := dk_28 (dk_at dksX4_fashion_0 17 rfl rfl)
theorem dX4_fashion_18 : decode cX4_fashion 18 = .ok (.invokevirtual 433, 3) := dk_182 1 177 (dk_at dksX4_fashion_0 18 rfl rfl)
theorem dX4_fashion_21 : decode cX4_fashion 21 = .ok (.aload_n 0, 1) := dk_42 (dk_at dksX4_fashion_0 21 rfl rfl)
theorem dX4_fashion_22 : decode cX4_fashion 22 = .ok (.iload_n 1, 1) := dk_27 (dk_at dksX4_fashion_0 22 rfl rfl)
theorem dX4_fashion_23 : decode cX4_fashion 23 = .ok (.invokevirtual 433, 3) := dk_182 1 177 (dk_at dksX4_fashion_1 0 rfl rfl)
theorem dX4_fashion_26 : decode cX4_fashion 26 = .ok (.if_icmp .le 5, 3) := dk_164 0 5 (dk_at dksX4_fashion_1 3 rfl rfl)
theorem dX4_fashion_29 : decode cX4_fashion 29 = .ok (.iload_n 2, 1) := dk_28 (dk_at dksX4_fashion_1 6 rfl rfl)
theorem dX4_fashion_30 : decode cX4_fashion 30 = .ok (.istore_n 1, 1) := dk_60 (dk_at dksX4_fashion_1 7 rfl rfl)
theorem dX4_fashion_31 : decode cX4_fashion 31 = .ok (.iinc 2 1, 3) := dk_132 2 1 (dk_at dksX4_fashion_1 8 rfl rfl)
theorem dX4_fashion_34 : decode cX4_fashion 34 = .ok (.goto (-30), 3) := dk_167 255 226 (dk_at dksX4_fashion_1 11 rfl rfl)
theorem dX4_fashion_37 : decode cX4_fashion 37 = .ok (.iload_n 1, 1) := dk_27 (dk_at dksX4_fashion_1 14 rfl rfl)
theorem dX4_fashion_38 : decode cX4_fashion 38 = .ok (.ireturn, 1) := dk_172 (dk_at dksX4_fashion_1 15 rfl rfl)
abbrev cX4_haveIt : ByteArray := prog_22_method_71_code
def yX4_haveIt : MethodName := ⟨RX4, "haveIt", "(I)I"⟩
def dkwX4_haveIt_2 : List UInt8 := [132, 3, 1, 167, 255, 213, 28, 172]
abbrev dktX4_haveIt_2 : List UInt8 := dkwX4_haveIt_2 ++ []
def dkwX4_haveIt_1 : List UInt8 := [180, 0, 97, 16, 6, 29, 96, 46, 27, 184, 1, 8, 153, 0, 7, 4, 167, 0, 4, 3, 96, 61]
abbrev dktX4_haveIt_1 : List UInt8 := dkwX4_haveIt_1 ++ dktX4_haveIt_2
def dkwX4_haveIt_0 : List UInt8 := [3, 61, 3, 62, 29, 42, 182, 1, 115, 162, 0, 41, 28, 42, 29, 182, 1, 157, 153, 0, 23, 42]
abbrev dktX4_haveIt_0 : List UInt8 := dkwX4_haveIt_0 ++ dktX4_haveIt_1
theorem dksX4_haveIt_0 : cX4_haveIt.data.toList.drop 0 = dktX4_haveIt_0 := by decide +kernel
theorem dksX4_haveIt_1 : cX4_haveIt.data.toList.drop 22 = dktX4_haveIt_1 := dk_seg dksX4_haveIt_0 22 rfl rfl
theorem dksX4_haveIt_2 : cX4_haveIt.data.toList.drop 44 = dktX4_haveIt_2 := dk_seg dksX4_haveIt_1 22 rfl rfl
theorem dX4_haveIt_0 : decode cX4_haveIt 0 = .ok (.iconst 0, 1) := dk_3 (dk_at dksX4_haveIt_0 0 rfl rfl)
theorem dX4_haveIt_1 : decode cX4_haveIt 1 = .ok (.istore_n 2, 1) := dk_61 (dk_at dksX4_haveIt_0 1 rfl rfl)
theorem dX4_haveIt_2 : decode cX4_haveIt 2 = .ok (.iconst 0, 1) := dk_3 (dk_at dksX4_haveIt_0 2 rfl rfl)
theorem dX4_haveIt_3 : decode cX4_haveIt 3 = .ok (.istore_n 3, 1) := dk_62 (dk_at dksX4_haveIt_0 3 rfl rfl)
theorem dX4_haveIt_4 : decode cX4_haveIt 4 = .ok (.iload_n 3, 1) := dk_29 (dk_at dksX4_haveIt_0 4 rfl rfl)
theorem dX4_haveIt_5 : decode cX4_haveIt 5 = .ok (.aload_n 0, 1) := dk_42 (dk_at dksX4_haveIt_0 5 rfl rfl)
theorem dX4_haveIt_6 : decode cX4_haveIt 6 = .ok (.invokevirtual 371, 3) := dk_182 1 115 (dk_at dksX4_haveIt_0 6 rfl rfl)
theorem dX4_haveIt_9 : decode cX4_haveIt 9 = .ok (.if_icmp .ge 41, 3) := dk_162 0 41 (dk_at dksX4_haveIt_0 9 rfl rfl)
theorem dX4_haveIt_12 : decode cX4_haveIt 12 = .ok (.iload_n 2, 1) := dk_28 (dk_at dksX4_haveIt_0 12 rfl rfl)
theorem dX4_haveIt_13 : decode cX4_haveIt 13 = .ok (.aload_n 0, 1) := dk_42 (dk_at dksX4_haveIt_0 13 rfl rfl)
theorem dX4_haveIt_14 : decode cX4_haveIt 14 = .ok (.iload_n 3, 1) := dk_29 (dk_at dksX4_haveIt_0 14 rfl rfl)
theorem dX4_haveIt_15 : decode cX4_haveIt 15 = .ok (.invokevirtual 413, 3) := dk_182 1 157 (dk_at dksX4_haveIt_0 15 rfl rfl)
theorem dX4_haveIt_18 : decode cX4_haveIt 18 = .ok (.ifCond .eq 23, 3) := dk_153 0 23 (dk_at dksX4_haveIt_0 18 rfl rfl)
theorem dX4_haveIt_21 : decode cX4_haveIt 21 = .ok (.aload_n 0, 1) := dk_42 (dk_at dksX4_haveIt_0 21 rfl rfl)
theorem dX4_haveIt_22 : decode cX4_haveIt 22 = .ok (.getfield 97, 3) := dk_180 0 97 (dk_at dksX4_haveIt_1 0 rfl rfl)
theorem dX4_haveIt_25 : decode cX4_haveIt 25 = .ok (.bipush 6, 2) := dk_16 6 (dk_at dksX4_haveIt_1 3 rfl rfl)
theorem dX4_haveIt_27 : decode cX4_haveIt 27 = .ok (.iload_n 3, 1) := dk_29 (dk_at dksX4_haveIt_1 5 rfl rfl)
theorem dX4_haveIt_28 : decode cX4_haveIt 28 = .ok (.iadd, 1) := dk_96 (dk_at dksX4_haveIt_1 6 rfl rfl)
theorem dX4_haveIt_29 : decode cX4_haveIt 29 = .ok (.iaload, 1) := dk_46 (dk_at dksX4_haveIt_1 7 rfl rfl)
theorem dX4_haveIt_30 : decode cX4_haveIt 30 = .ok (.iload_n 1, 1) := dk_27 (dk_at dksX4_haveIt_1 8 rfl rfl)
theorem dX4_haveIt_31 : decode cX4_haveIt 31 = .ok (.invokestatic 264, 3) := dk_184 1 8 (dk_at dksX4_haveIt_1 9 rfl rfl)
theorem dX4_haveIt_34 : decode cX4_haveIt 34 = .ok (.ifCond .eq 7, 3) := dk_153 0 7 (dk_at dksX4_haveIt_1 12 rfl rfl)
theorem dX4_haveIt_37 : decode cX4_haveIt 37 = .ok (.iconst 1, 1) := dk_4 (dk_at dksX4_haveIt_1 15 rfl rfl)
theorem dX4_haveIt_38 : decode cX4_haveIt 38 = .ok (.goto 4, 3) := dk_167 0 4 (dk_at dksX4_haveIt_1 16 rfl rfl)
theorem dX4_haveIt_41 : decode cX4_haveIt 41 = .ok (.iconst 0, 1) := dk_3 (dk_at dksX4_haveIt_1 19 rfl rfl)
theorem dX4_haveIt_42 : decode cX4_haveIt 42 = .ok (.iadd, 1) := dk_96 (dk_at dksX4_haveIt_1 20 rfl rfl)
theorem dX4_haveIt_43 : decode cX4_haveIt 43 = .ok (.istore_n 2, 1) := dk_61 (dk_at dksX4_haveIt_1 21 rfl rfl)
theorem dX4_haveIt_44 : decode cX4_haveIt 44 = .ok (.iinc 3 1, 3) := dk_132 3 1 (dk_at dksX4_haveIt_2 0 rfl rfl)
theorem dX4_haveIt_47 : decode cX4_haveIt 47 = .ok (.goto (-43), 3) := dk_167 255 213 (dk_at dksX4_haveIt_2 3 rfl rfl)
theorem dX4_haveIt_50 : decode cX4_haveIt 50 = .ok (.iload_n 2, 1) := dk_28 (dk_at dksX4_haveIt_2 6 rfl rfl)
theorem dX4_haveIt_51 : decode cX4_haveIt 51 = .ok (.ireturn, 1) := dk_172 (dk_at dksX4_haveIt_2 7 rfl rfl)
abbrev cX4_hour : ByteArray := prog_22_method_75_code
def yX4_hour : MethodName := ⟨RX4, "hour", "(I)I"⟩
def dkwX4_hour_7 : List UInt8 := [180, 0, 97, 3, 29, 96, 3, 79, 28, 4, 29, 120, 128, 61, 132, 3, 1, 167, 255, 165, 28, 172]
abbrev dktX4_hour_7 : List UInt8 := dkwX4_hour_7 ++ []
def dkwX4_hour_6 : List UInt8 := [16, 27, 46, 16, 100, 112, 42, 180, 0, 39, 42, 180, 0, 255, 46, 161, 0, 6, 167, 0, 18, 42]
abbrev dktX4_hour_6 : List UInt8 := dkwX4_hour_6 ++ dktX4_hour_7
def dkwX4_hour_5 : List UInt8 := [17, 0, 137, 42, 180, 0, 97, 16, 27, 46, 104, 16, 71, 96, 17, 3, 232, 112, 79, 42, 180, 0, 97]
abbrev dktX4_hour_5 : List UInt8 := dkwX4_hour_5 ++ dktX4_hour_6
def dkwX4_hour_4 : List UInt8 := [162, 0, 89, 42, 180, 0, 97, 3, 29, 96, 46, 4, 159, 0, 6, 167, 0, 68, 42, 180, 0, 97, 16, 27]
abbrev dktX4_hour_4 : List UInt8 := dkwX4_hour_4 ++ dktX4_hour_5
def dkwX4_hour_3 : List UInt8 := [16, 25, 92, 46, 4, 96, 79, 42, 180, 0, 97, 16, 26, 3, 79, 3, 61, 3, 62, 29, 42, 182, 1, 115]
abbrev dktX4_hour_3 : List UInt8 := dkwX4_hour_3 ++ dktX4_hour_4
def dkwX4_hour_2 : List UInt8 := [184, 1, 8, 154, 0, 5, 2, 172, 42, 182, 1, 180, 42, 180, 0, 97, 16, 24, 27, 79, 42, 180, 0, 97]
abbrev dktX4_hour_2 : List UInt8 := dkwX4_hour_2 ++ dktX4_hour_3
def dkwX4_hour_1 : List UInt8 := [42, 180, 0, 97, 16, 24, 46, 159, 0, 24, 42, 42, 180, 0, 97, 16, 24, 46, 3, 182, 1, 166, 27]
abbrev dktX4_hour_1 : List UInt8 := dkwX4_hour_1 ++ dktX4_hour_2
def dkwX4_hour_0 : List UInt8 := [42, 27, 182, 1, 163, 153, 0, 16, 42, 180, 0, 97, 16, 25, 46, 17, 3, 231, 160, 0, 5, 2, 172, 27]
abbrev dktX4_hour_0 : List UInt8 := dkwX4_hour_0 ++ dktX4_hour_1
theorem dksX4_hour_0 : cX4_hour.data.toList.drop 0 = dktX4_hour_0 := by decide +kernel
theorem dksX4_hour_1 : cX4_hour.data.toList.drop 24 = dktX4_hour_1 := dk_seg dksX4_hour_0 24 rfl rfl
theorem dksX4_hour_2 : cX4_hour.data.toList.drop 47 = dktX4_hour_2 := dk_seg dksX4_hour_1 23 rfl rfl
theorem dksX4_hour_3 : cX4_hour.data.toList.drop 71 = dktX4_hour_3 := dk_seg dksX4_hour_2 24 rfl rfl
theorem dksX4_hour_4 : cX4_hour.data.toList.drop 95 = dktX4_hour_4 := dk_seg dksX4_hour_3 24 rfl rfl
theorem dksX4_hour_5 : cX4_hour.data.toList.drop 119 = dktX4_hour_5 := dk_seg dksX4_hour_4 24 rfl rfl
theorem dksX4_hour_6 : cX4_hour.data.toList.drop 142 = dktX4_hour_6 := dk_seg dksX4_hour_5 23 rfl rfl
theorem dksX4_hour_7 : cX4_hour.data.toList.drop 164 = dktX4_hour_7 := dk_seg dksX4_hour_6 22 rfl rfl
theorem dX4_hour_0 : decode cX4_hour 0 = .ok (.aload_n 0, 1) := dk_42 (dk_at dksX4_hour_0 0 rfl rfl)
theorem dX4_hour_1 : decode cX4_hour 1 = .ok (.iload_n 1, 1) := dk_27 (dk_at dksX4_hour_0 1 rfl rfl)
theorem dX4_hour_2 : decode cX4_hour 2 = .ok (.invokevirtual 419, 3) := dk_182 1 163 (dk_at dksX4_hour_0 2 rfl rfl)
theorem dX4_hour_5 : decode cX4_hour 5 = .ok (.ifCond .eq 16, 3) := dk_153 0 16 (dk_at dksX4_hour_0 5 rfl rfl)
theorem dX4_hour_8 : decode cX4_hour 8 = .ok (.aload_n 0, 1) := dk_42 (dk_at dksX4_hour_0 8 rfl rfl)
theorem dX4_hour_9 : decode cX4_hour 9 = .ok (.getfield 97, 3) := dk_180 0 97 (dk_at dksX4_hour_0 9 rfl rfl)
theorem dX4_hour_12 : decode cX4_hour 12 = .ok (.bipush 25, 2) := dk_16 25 (dk_at dksX4_hour_0 12 rfl rfl)
theorem dX4_hour_14 : decode cX4_hour 14 = .ok (.iaload, 1) := dk_46 (dk_at dksX4_hour_0 14 rfl rfl)
theorem dX4_hour_15 : decode cX4_hour 15 = .ok (.sipush 999, 3) := dk_17 3 231 (dk_at dksX4_hour_0 15 rfl rfl)
theorem dX4_hour_18 : decode cX4_hour 18 = .ok (.if_icmp .ne 5, 3) := dk_160 0 5 (dk_at dksX4_hour_0 18 rfl rfl)
theorem dX4_hour_21 : decode cX4_hour 21 = .ok (.iconst (-1), 1) := dk_2 (dk_at dksX4_hour_0 21 rfl rfl)
theorem dX4_hour_22 : decode cX4_hour 22 = .ok (.ireturn, 1) := dk_172 (dk_at dksX4_hour_0 22 rfl rfl)
theorem dX4_hour_23 : decode cX4_hour 23 = .ok (.iload_n 1, 1) := dk_27 (dk_at dksX4_hour_0 23 rfl rfl)
theorem dX4_hour_24 : decode cX4_hour 24 = .ok (.aload_n 0, 1) := dk_42 (dk_at dksX4_hour_1 0 rfl rfl)
theorem dX4_hour_25 : decode cX4_hour 25 = .ok (.getfield 97, 3) := dk_180 0 97 (dk_at dksX4_hour_1 1 rfl rfl)
theorem dX4_hour_28 : decode cX4_hour 28 = .ok (.bipush 24, 2) := dk_16 24 (dk_at dksX4_hour_1 4 rfl rfl)
theorem dX4_hour_30 : decode cX4_hour 30 = .ok (.iaload, 1) := dk_46 (dk_at dksX4_hour_1 6 rfl rfl)
theorem dX4_hour_31 : decode cX4_hour 31 = .ok (.if_icmp .eq 24, 3) := dk_159 0 24 (dk_at dksX4_hour_1 7 rfl rfl)
theorem dX4_hour_34 : decode cX4_hour 34 = .ok (.aload_n 0, 1) := dk_42 (dk_at dksX4_hour_1 10 rfl rfl)
theorem dX4_hour_35 : decode cX4_hour 35 = .ok (.aload_n 0, 1) := dk_42 (dk_at dksX4_hour_1 11 rfl rfl)
theorem dX4_hour_36 : decode cX4_hour 36 = .ok (.getfield 97, 3) := dk_180 0 97 (dk_at dksX4_hour_1 12 rfl rfl)
theorem dX4_hour_39 : decode cX4_hour 39 = .ok (.bipush 24, 2) := dk_16 24 (dk_at dksX4_hour_1 15 rfl rfl)
theorem dX4_hour_41 : decode cX4_hour 41 = .ok (.iaload, 1) := dk_46 (dk_at dksX4_hour_1 17 rfl rfl)
theorem dX4_hour_42 : decode cX4_hour 42 = .ok (.iconst 0, 1) := dk_3 (dk_at dksX4_hour_1 18 rfl rfl)
theorem dX4_hour_43 : decode cX4_hour 43 = .ok (.invokevirtual 422, 3) := dk_182 1 166 (dk_at dksX4_hour_1 19 rfl rfl)
theorem dX4_hour_46 : decode cX4_hour 46 = .ok (.iload_n 1, 1) := dk_27 (dk_at dksX4_hour_1 22 rfl rfl)
theorem dX4_hour_47 : decode cX4_hour 47 = .ok (.invokestatic 264, 3) := dk_184 1 8 (dk_at dksX4_hour_2 0 rfl rfl)
theorem dX4_hour_50 : decode cX4_hour 50 = .ok (.ifCond .ne 5, 3) := dk_154 0 5 (dk_at dksX4_hour_2 3 rfl rfl)
theorem dX4_hour_53 : decode cX4_hour 53 = .ok (.iconst (-1), 1) := dk_2 (dk_at dksX4_hour_2 6 rfl rfl)
theorem dX4_hour_54 : decode cX4_hour 54 = .ok (.ireturn, 1) := dk_172 (dk_at dksX4_hour_2 7 rfl rfl)
theorem dX4_hour_55 : decode cX4_hour 55 = .ok (.aload_n 0, 1) := dk_42 (dk_at dksX4_hour_2 8 rfl rfl)
theorem dX4_hour_56 : decode cX4_hour 56 = .ok (.invokevirtual 436, 3) := dk_182 1 180 (dk_at dksX4_hour_2 9 rfl rfl)
theorem dX4_hour_59 : decode cX4_hour 59 = .ok (.aload_n 0, 1) := dk_42 (dk_at dksX4_hour_2 12 rfl rfl)
theorem dX4_hour_60 : decode cX4_hour 60 = .ok (.getfield 97, 3) := dk_180 0 97 (dk_at dksX4_hour_2 13 rfl rfl)
theorem dX4_hour_63 : decode cX4_hour 63 = .ok (.bipush 24, 2) := dk_16 24 (dk_at dksX4_hour_2 16 rfl rfl)
theorem dX4_hour_65 : decode cX4_hour 65 = .ok (.iload_n 1, 1) := dk_27 (dk_at dksX4_hour_2 18 rfl rfl)
theorem dX4_hour_66 : decode cX4_hour 66 = .ok (.iastore, 1) := dk_79 (dk_at dksX4_hour_2 19 rfl rfl)
theorem dX4_hour_67 : decode cX4_hour 67 = .ok (.aload_n 0, 1) := dk_42 (dk_at dksX4_hour_2 20 rfl rfl)
theorem dX4_hour_68 : decode cX4_hour 68 = .ok (.getfield 97, 3) := dk_180 0 97 (dk_at dksX4_hour_2 21 rfl rfl)
theorem dX4_hour_71 : decode cX4_hour 71 = .ok (.bipush 25, 2) := dk_16 25 (dk_at dksX4_hour_3 0 rfl rfl)
theorem dX4_hour_73 : decode cX4_hour 73 = .ok (.dup2, 1) := dk_92 (dk_at dksX4_hour_3 2 rfl rfl)
theorem dX4_hour_74 : decode cX4_hour 74 = .ok (.iaload, 1) := dk_46 (dk_at dksX4_hour_3 3 rfl rfl)
theorem dX4_hour_75 : decode cX4_hour 75 = .ok (.iconst 1, 1) := dk_4 (dk_at dksX4_hour_3 4 rfl rfl)
theorem dX4_hour_76 : decode cX4_hour 76 = .ok (.iadd, 1) := dk_96 (dk_at dksX4_hour_3 5 rfl rfl)
theorem dX4_hour_77 : decode cX4_hour 77 = .ok (.iastore, 1) := dk_79 (dk_at dksX4_hour_3 6 rfl rfl)
theorem dX4_hour_78 : decode cX4_hour 78 = .ok (.aload_n 0, 1) := dk_42 (dk_at dksX4_hour_3 7 rfl rfl)
theorem dX4_hour_79 : decode cX4_hour 79 = .ok (.getfield 97, 3) := dk_180 0 97 (dk_at dksX4_hour_3 8 rfl rfl)
theorem dX4_hour_82 : decode cX4_hour 82 = .ok (.bipush 26, 2) := dk_16 26 (dk_at dksX4_hour_3 11 rfl rfl)
theorem dX4_hour_84 : decode cX4_hour 84 = .ok (.iconst 0, 1) := dk_3 (dk_at dksX4_hour_3 13 rfl rfl)
theorem dX4_hour_85 : decode cX4_hour 85 = .ok (.iastore, 1) := dk_79 (dk_at dksX4_hour_3 14 rfl rfl)
theorem dX4_hour_86 : decode cX4_hour 86 = .ok (.iconst 0, 1) := dk_3 (dk_at dksX4_hour_3 15 rfl rfl)
theorem dX4_hour_87 : decode cX4_hour 87 = .ok (.istore_n 2, 1) := dk_61 (dk_at dksX4_hour_3 16 rfl rfl)
theorem dX4_hour_88 : decode cX4_hour 88 = .ok (.iconst 0, 1) := dk_3 (dk_at dksX4_hour_3 17 rfl rfl)
theorem dX4_hour_89 : decode cX4_hour 89 = .ok (.istore_n 3, 1) := dk_62 (dk_at dksX4_hour_3 18 rfl rfl)
theorem dX4_hour_90 : decode cX4_hour 90 = .ok (.iload_n 3, 1) := dk_29 (dk_at dksX4_hour_3 19 rfl rfl)
theorem dX4_hour_91 : decode cX4_hour 91 = .ok (.aload_n 0, 1) := dk_42 (dk_at dksX4_hour_3 20 rfl rfl)
theorem dX4_hour_92 : decode cX4_hour 92 = .ok (.invokevirtual 371, 3) := dk_182 1 115 (dk_at dksX4_hour_3 21 rfl rfl)
theorem dX4_hour_95 : decode cX4_hour 95 = .ok (.if_icmp .ge 89, 3) := dk_162 0 89 (dk_at dksX4_hour_4 0 rfl rfl)
theorem dX4_hour_98 : decode cX4_hour 98 = .ok (.aload_n 0, 1) := dk_42 (dk_at dksX4_hour_4 3 rfl rfl)
theorem dX4_hour_99 : decode cX4_hour 99 = .ok (.getfield 97, 3) := dk_180 0 97 (dk_at dksX4_hour_4 4 rfl rfl)
theorem dX4_hour_102 : decode cX4_hour 102 = .ok (.iconst 0, 1) := dk_3 (dk_at dksX4_hour_4 7 rfl rfl)
theorem dX4_hour_103 : decode cX4_hour 103 = .ok (.iload_n 3, 1) := dk_29 (dk_at dksX4_hour_4 8 rfl rfl)
theorem dX4_hour_104 : decode cX4_hour 104 = .ok (.iadd, 1) := dk_96 (dk_at dksX4_hour_4 9 rfl rfl)
theorem dX4_hour_105 : decode cX4_hour 105 = .ok (.iaload, 1) := dk_46 (dk_at dksX4_hour_4 10 rfl rfl)
theorem dX4_hour_106 : decode cX4_hour 106 = .ok (.iconst 1, 1) := dk_4 (dk_at dksX4_hour_4 11 rfl rfl)
theorem dX4_hour_107 : decode cX4_hour 107 = .ok (.if_icmp .eq 6, 3) := dk_159 0 6 (dk_at dksX4_hour_4 12 rfl rfl)
theorem dX4_hour_110 : decode cX4_hour 110 = .ok (.goto 68, 3) := dk_167 0 68 (dk_at dksX4_hour_4 15 rfl rfl)
theorem dX4_hour_113 : decode cX4_hour 113 = .ok (.aload_n 0, 1) := dk_42 (dk_at dksX4_hour_4 18 rfl rfl)
theorem dX4_hour_114 : decode cX4_hour 114 = .ok (.getfield 97, 3) := dk_180 0 97 (dk_at dksX4_hour_4 19 rfl rfl)
theorem dX4_hour_117 : decode cX4_hour 117 = .ok (.bipush 27, 2) := dk_16 27 (dk_at dksX4_hour_4 22 rfl rfl)
theorem dX4_hour_119 : decode cX4_hour 119 = .ok (.sipush 137, 3) := dk_17 0 137 (dk_at dksX4_hour_5 0 rfl rfl)
theorem dX4_hour_122 : decode cX4_hour 122 = .ok (.aload_n 0, 1) := dk_42 (dk_at dksX4_hour_5 3 rfl rfl)
theorem dX4_hour_123 : decode cX4_hour 123 = .ok (.getfield 97, 3) := dk_180 0 97 (dk_at dksX4_hour_5 4 rfl rfl)
theorem dX4_hour_126 : decode cX4_hour 126 = .ok (.bipush 27, 2) := dk_16 27 (dk_at dksX4_hour_5 7 rfl rfl)
theorem dX4_hour_128 : decode cX4_hour 128 = .ok (.iaload, 1) := dk_46 (dk_at dksX4_hour_5 9 rfl rfl)
theorem dX4_hour_129 : decode cX4_hour 129 = .ok (.imul, 1) := dk_104 (dk_at dksX4_hour_5 10 rfl rfl)
theorem dX4_hour_130 : decode cX4_hour 130 = .ok (.bipush 71, 2) := dk_16 71 (dk_at dksX4_hour_5 11 rfl rfl)
theorem dX4_hour_132 : decode cX4_hour 132 = .ok (.iadd, 1) := dk_96 (dk_at dksX4_hour_5 13 rfl rfl)
theorem dX4_hour_133 : decode cX4_hour 133 = .ok (.sipush 1000, 3) := dk_17 3 232 (dk_at dksX4_hour_5 14 rfl rfl)
theorem dX4_hour_136 : decode cX4_hour 136 = .ok (.irem, 1) := dk_112 (dk_at dksX4_hour_5 17 rfl rfl)
theorem dX4_hour_137 : decode cX4_hour 137 = .ok (.iastore, 1) := dk_79 (dk_at dksX4_hour_5 18 rfl rfl)
theorem dX4_hour_138 : decode cX4_hour 138 = .ok (.aload_n 0, 1) := dk_42 (dk_at dksX4_hour_5 19 rfl rfl)
theorem dX4_hour_139 : decode cX4_hour 139 = .ok (.getfield 97, 3) := dk_180 0 97 (dk_at dksX4_hour_5 20 rfl rfl)
theorem dX4_hour_142 : decode cX4_hour 142 = .ok (.bipush 27, 2) := dk_16 27 (dk_at dksX4_hour_6 0 rfl rfl)
theorem dX4_hour_144 : decode cX4_hour 144 = .ok (.iaload, 1) := dk_46 (dk_at dksX4_hour_6 2 rfl rfl)
theorem dX4_hour_145 : decode cX4_hour 145 = .ok (.bipush 100, 2) := dk_16 100 (dk_at dksX4_hour_6 3 rfl rfl)
theorem dX4_hour_147 : decode cX4_hour 147 = .ok (.irem, 1) := dk_112 (dk_at dksX4_hour_6 5 rfl rfl)
theorem dX4_hour_148 : decode cX4_hour 148 = .ok (.aload_n 0, 1) := dk_42 (dk_at dksX4_hour_6 6 rfl rfl)
theorem dX4_hour_149 : decode cX4_hour 149 = .ok (.getfield 39, 3) := dk_180 0 39 (dk_at dksX4_hour_6 7 rfl rfl)
theorem dX4_hour_152 : decode cX4_hour 152 = .ok (.aload_n 0, 1) := dk_42 (dk_at dksX4_hour_6 10 rfl rfl)
theorem dX4_hour_153 : decode cX4_hour 153 = .ok (.getfield 255, 3) := dk_180 0 255 (dk_at dksX4_hour_6 11 rfl rfl)
theorem dX4_hour_156 : decode cX4_hour 156 = .ok (.iaload, 1) := dk_46 (dk_at dksX4_hour_6 14 rfl rfl)
theorem dX4_hour_157 : decode cX4_hour 157 = .ok (.if_icmp .lt 6, 3) := dk_161 0 6 (dk_at dksX4_hour_6 15 rfl rfl)
theorem dX4_hour_160 : decode cX4_hour 160 = .ok (.goto 18, 3) := dk_167 0 18 (dk_at dksX4_hour_6 18 rfl rfl)
theorem dX4_hour_163 : decode cX4_hour 163 = .ok (.aload_n 0, 1) := dk_42 (dk_at dksX4_hour_6 21 rfl rfl)
theorem dX4_hour_164 : decode cX4_hour 164 = .ok (.getfield 97, 3) := dk_180 0 97 (dk_at dksX4_hour_7 0 rfl rfl)
theorem dX4_hour_167 : decode cX4_hour 167 = .ok (.iconst 0, 1) := dk_3 (dk_at dksX4_hour_7 3 rfl rfl)
theorem dX4_hour_168 : decode cX4_hour 168 = .ok (.iload_n 3, 1) := dk_29 (dk_at dksX4_hour_7 4 rfl rfl)
theorem dX4_hour_169 : decode cX4_hour 169 = .ok (.iadd, 1) := dk_96 (dk_at dksX4_hour_7 5 rfl rfl)
theorem dX4_hour_170 : decode cX4_hour 170 = .ok (.iconst 0, 1) := dk_3 (dk_at dksX4_hour_7 6 rfl rfl)
theorem dX4_hour_171 : decode cX4_hour 171 = .ok (.iastore, 1) := dk_79 (dk_at dksX4_hour_7 7 rfl rfl)
theorem dX4_hour_172 : decode cX4_hour 172 = .ok (.iload_n 2, 1) := dk_28 (dk_at dksX4_hour_7 8 rfl rfl)
theorem dX4_hour_173 : decode cX4_hour 173 = .ok (.iconst 1, 1) := dk_4 (dk_at dksX4_hour_7 9 rfl rfl)
theorem dX4_hour_174 : decode cX4_hour 174 = .ok (.iload_n 3, 1) := dk_29 (dk_at dksX4_hour_7 10 rfl rfl)
theorem dX4_hour_175 : decode cX4_hour 175 = .ok (.ishl, 1) := dk_120 (dk_at dksX4_hour_7 11 rfl rfl)
theorem dX4_hour_176 : decode cX4_hour 176 = .ok (.ior, 1) := dk_128 (dk_at dksX4_hour_7 12 rfl rfl)
theorem dX4_hour_177 : decode cX4_hour 177 = .ok (.istore_n 2, 1) := dk_61 (dk_at dksX4_hour_7 13 rfl rfl)
theorem dX4_hour_178 : decode cX4_hour 178 = .ok (.iinc 3 1, 3) := dk_132 3 1 (dk_at dksX4_hour_7 14 rfl rfl)
theorem dX4_hour_181 : decode cX4_hour 181 = .ok (.goto (-91), 3) := dk_167 255 165 (dk_at dksX4_hour_7 17 rfl rfl)
theorem dX4_hour_184 : decode cX4_hour 184 = .ok (.iload_n 2, 1) := dk_28 (dk_at dksX4_hour_7 20 rfl rfl)
theorem dX4_hour_185 : decode cX4_hour 185 = .ok (.ireturn, 1) := dk_172 (dk_at dksX4_hour_7 21 rfl rfl)
abbrev cX4_keepAct : ByteArray := prog_22_method_73_code
def yX4_keepAct : MethodName := ⟨RX4, "keepAct", "()V"⟩
def dkwX4_keepAct_4 : List UInt8 := [3, 181, 1, 136, 177]
abbrev dktX4_keepAct_4 : List UInt8 := dkwX4_keepAct_4 ++ []
def dkwX4_keepAct_3 : List UInt8 := [42, 180, 0, 97, 27, 46, 79, 132, 1, 1, 167, 255, 227, 42, 89, 180, 1, 133, 4, 96, 181, 1, 133, 42]
abbrev dktX4_keepAct_3 : List UInt8 := dkwX4_keepAct_3 ++ dktX4_keepAct_4
def dkwX4_keepAct_2 : List UInt8 := [181, 1, 133, 3, 60, 27, 16, 29, 162, 0, 29, 42, 180, 0, 103, 16, 29, 42, 180, 1, 133, 104, 27, 96]
abbrev dktX4_keepAct_2 : List UInt8 := dkwX4_keepAct_2 ++ dktX4_keepAct_3
def dkwX4_keepAct_1 : List UInt8 := [180, 0, 103, 27, 16, 29, 96, 46, 79, 132, 1, 1, 167, 255, 231, 42, 89, 180, 1, 133, 4, 100]
abbrev dktX4_keepAct_1 : List UInt8 := dkwX4_keepAct_1 ++ dktX4_keepAct_2
def dkwX4_keepAct_0 : List UInt8 := [42, 180, 1, 133, 16, 40, 160, 0, 43, 3, 60, 27, 17, 4, 136, 162, 0, 24, 42, 180, 0, 103, 27, 42]
abbrev dktX4_keepAct_0 : List UInt8 := dkwX4_keepAct_0 ++ dktX4_keepAct_1
theorem dksX4_keepAct_0 : cX4_keepAct.data.toList.drop 0 = dktX4_keepAct_0 := by decide +kernel
theorem dksX4_keepAct_1 : cX4_keepAct.data.toList.drop 24 = dktX4_keepAct_1 := dk_seg dksX4_keepAct_0 24 rfl rfl
theorem dksX4_keepAct_2 : cX4_keepAct.data.toList.drop 46 = dktX4_keepAct_2 := dk_seg dksX4_keepAct_1 22 rfl rfl
theorem dksX4_keepAct_3 : cX4_keepAct.data.toList.drop 70 = dktX4_keepAct_3 := dk_seg dksX4_keepAct_2 24 rfl rfl
theorem dksX4_keepAct_4 : cX4_keepAct.data.toList.drop 94 = dktX4_keepAct_4 := dk_seg dksX4_keepAct_3 24 rfl rfl
theorem dX4_keepAct_0 : decode cX4_keepAct 0 = .ok (.aload_n 0, 1) := dk_42 (dk_at dksX4_keepAct_0 0 rfl rfl)
theorem dX4_keepAct_1 : decode cX4_keepAct 1 = .ok (.getfield 389, 3) := dk_180 1 133 (dk_at dksX4_keepAct_0 1 rfl rfl)
theorem dX4_keepAct_4 : decode cX4_keepAct 4 = .ok (.bipush 40, 2) := dk_16 40 (dk_at dksX4_keepAct_0 4 rfl rfl)
theorem dX4_keepAct_6 : decode cX4_keepAct 6 = .ok (.if_icmp .ne 43, 3) := dk_160 0 43 (dk_at dksX4_keepAct_0 6 rfl rfl)
theorem dX4_keepAct_9 : decode cX4_keepAct 9 = .ok (.iconst 0, 1) := dk_3 (dk_at dksX4_keepAct_0 9 rfl rfl)
theorem dX4_keepAct_10 : decode cX4_keepAct 10 = .ok (.istore_n 1, 1) := dk_60 (dk_at dksX4_keepAct_0 10 rfl rfl)
theorem dX4_keepAct_11 : decode cX4_keepAct 11 = .ok (.iload_n 1, 1) := dk_27 (dk_at dksX4_keepAct_0 11 rfl rfl)
theorem dX4_keepAct_12 : decode cX4_keepAct 12 = .ok (.sipush 1160, 3) := dk_17 4 136 (dk_at dksX4_keepAct_0 12 rfl rfl)
theorem dX4_keepAct_15 : decode cX4_keepAct 15 = .ok (.if_icmp .ge 24, 3) := dk_162 0 24 (dk_at dksX4_keepAct_0 15 rfl rfl)
theorem dX4_keepAct_18 : decode cX4_keepAct 18 = .ok (.aload_n 0, 1) := dk_42 (dk_at dksX4_keepAct_0 18 rfl rfl)
theorem dX4_keepAct_19 : decode cX4_keepAct 19 = .ok (.getfield 103, 3) := dk_180 0 103 (dk_at dksX4_keepAct_0 19 rfl rfl)
theorem dX4_keepAct_22 : decode cX4_keepAct 22 = .ok (.iload_n 1, 1) := dk_27 (dk_at dksX4_keepAct_0 22 rfl rfl)
theorem dX4_keepAct_23 : decode cX4_keepAct 23 = .ok (.aload_n 0, 1) := dk_42 (dk_at dksX4_keepAct_0 23 rfl rfl)
theorem dX4_keepAct_24 : decode cX4_keepAct 24 = .ok (.getfield 103, 3) := dk_180 0 103 (dk_at dksX4_keepAct_1 0 rfl rfl)
theorem dX4_keepAct_27 : decode cX4_keepAct 27 = .ok (.iload_n 1, 1) := dk_27 (dk_at dksX4_keepAct_1 3 rfl rfl)
theorem dX4_keepAct_28 : decode cX4_keepAct 28 = .ok (.bipush 29, 2) := dk_16 29 (dk_at dksX4_keepAct_1 4 rfl rfl)
theorem dX4_keepAct_30 : decode cX4_keepAct 30 = .ok (.iadd, 1) := dk_96 (dk_at dksX4_keepAct_1 6 rfl rfl)
theorem dX4_keepAct_31 : decode cX4_keepAct 31 = .ok (.iaload, 1) := dk_46 (dk_at dksX4_keepAct_1 7 rfl rfl)
theorem dX4_keepAct_32 : decode cX4_keepAct 32 = .ok (.iastore, 1) := dk_79 (dk_at dksX4_keepAct_1 8 rfl rfl)
theorem dX4_keepAct_33 : decode cX4_keepAct 33 = .ok (.iinc 1 1, 3) := dk_132 1 1 (dk_at dksX4_keepAct_1 9 rfl rfl)
theorem dX4_keepAct_36 : decode cX4_keepAct 36 = .ok (.goto (-25), 3) := dk_167 255 231 (dk_at dksX4_keepAct_1 12 rfl rfl)
theorem dX4_keepAct_39 : decode cX4_keepAct 39 = .ok (.aload_n 0, 1) := dk_42 (dk_at dksX4_keepAct_1 15 rfl rfl)
theorem dX4_keepAct_40 : decode cX4_keepAct 40 = .ok (.dup, 1) := dk_89 (dk_at dksX4_keepAct_1 16 rfl rfl)
theorem dX4_keepAct_41 : decode cX4_keepAct 41 = .ok (.getfield 389, 3) := dk_180 1 133 (dk_at dksX4_keepAct_1 17 rfl rfl)
theorem dX4_keepAct_44 : decode cX4_keepAct 44 = .ok (.iconst 1, 1) := dk_4 (dk_at dksX4_keepAct_1 20 rfl rfl)
theorem dX4_keepAct_45 : decode cX4_keepAct 45 = .ok (.isub, 1) := dk_100 (dk_at dksX4_keepAct_1 21 rfl rfl)
theorem dX4_keepAct_46 : decode cX4_keepAct 46 = .ok (.putfield 389, 3) := dk_181 1 133 (dk_at dksX4_keepAct_2 0 rfl rfl)
theorem dX4_keepAct_49 : decode cX4_keepAct 49 = .ok (.iconst 0, 1) := dk_3 (dk_at dksX4_keepAct_2 3 rfl rfl)
theorem dX4_keepAct_50 : decode cX4_keepAct 50 = .ok (.istore_n 1, 1) := dk_60 (dk_at dksX4_keepAct_2 4 rfl rfl)
theorem dX4_keepAct_51 : decode cX4_keepAct 51 = .ok (.iload_n 1, 1) := dk_27 (dk_at dksX4_keepAct_2 5 rfl rfl)
theorem dX4_keepAct_52 : decode cX4_keepAct 52 = .ok (.bipush 29, 2) := dk_16 29 (dk_at dksX4_keepAct_2 6 rfl rfl)
theorem dX4_keepAct_54 : decode cX4_keepAct 54 = .ok (.if_icmp .ge 29, 3) := dk_162 0 29 (dk_at dksX4_keepAct_2 8 rfl rfl)
theorem dX4_keepAct_57 : decode cX4_keepAct 57 = .ok (.aload_n 0, 1) := dk_42 (dk_at dksX4_keepAct_2 11 rfl rfl)
theorem dX4_keepAct_58 : decode cX4_keepAct 58 = .ok (.getfield 103, 3) := dk_180 0 103 (dk_at dksX4_keepAct_2 12 rfl rfl)
theorem dX4_keepAct_61 : decode cX4_keepAct 61 = .ok (.bipush 29, 2) := dk_16 29 (dk_at dksX4_keepAct_2 15 rfl rfl)
theorem dX4_keepAct_63 : decode cX4_keepAct 63 = .ok (.aload_n 0, 1) := dk_42 (dk_at dksX4_keepAct_2 17 rfl rfl)
theorem dX4_keepAct_64 : decode cX4_keepAct 64 = .ok (.getfield 389, 3) := dk_180 1 133 (dk_at dksX4_keepAct_2 18 rfl rfl)
theorem dX4_keepAct_67 : decode cX4_keepAct 67 = .ok (.imul, 1) := dk_104 (dk_at dksX4_keepAct_2 21 rfl rfl)
theorem dX4_keepAct_68 : decode cX4_keepAct 68 = .ok (.iload_n 1, 1) := dk_27 (dk_at dksX4_keepAct_2 22 rfl rfl)
theorem dX4_keepAct_69 : decode cX4_keepAct 69 = .ok (.iadd, 1) := dk_96 (dk_at dksX4_keepAct_2 23 rfl rfl)
theorem dX4_keepAct_70 : decode cX4_keepAct 70 = .ok (.aload_n 0, 1) := dk_42 (dk_at dksX4_keepAct_3 0 rfl rfl)
theorem dX4_keepAct_71 : decode cX4_keepAct 71 = .ok (.getfield 97, 3) := dk_180 0 97 (dk_at dksX4_keepAct_3 1 rfl rfl)
theorem dX4_keepAct_74 : decode cX4_keepAct 74 = .ok (.iload_n 1, 1) := dk_27 (dk_at dksX4_keepAct_3 4 rfl rfl)
theorem dX4_keepAct_75 : decode cX4_keepAct 75 = .ok (.iaload, 1) := dk_46 (dk_at dksX4_keepAct_3 5 rfl rfl)
theorem dX4_keepAct_76 : decode cX4_keepAct 76 = .ok (.iastore, 1) := dk_79 (dk_at dksX4_keepAct_3 6 rfl rfl)
theorem dX4_keepAct_77 : decode cX4_keepAct 77 = .ok (.iinc 1 1, 3) := dk_132 1 1 (dk_at dksX4_keepAct_3 7 rfl rfl)
theorem dX4_keepAct_80 : decode cX4_keepAct 80 = .ok (.goto (-29), 3) := dk_167 255 227 (dk_at dksX4_keepAct_3 10 rfl rfl)
theorem dX4_keepAct_83 : decode cX4_keepAct 83 = .ok (.aload_n 0, 1) := dk_42 (dk_at dksX4_keepAct_3 13 rfl rfl)
theorem dX4_keepAct_84 : decode cX4_keepAct 84 = .ok (.dup, 1) := dk_89 (dk_at dksX4_keepAct_3 14 rfl rfl)
theorem dX4_keepAct_85 : decode cX4_keepAct 85 = .ok (.getfield 389, 3) := dk_180 1 133 (dk_at dksX4_keepAct_3 15 rfl rfl)
theorem dX4_keepAct_88 : decode cX4_keepAct 88 = .ok (.iconst 1, 1) := dk_4 (dk_at dksX4_keepAct_3 18 rfl rfl)
theorem dX4_keepAct_89 : decode cX4_keepAct 89 = .ok (.iadd, 1) := dk_96 (dk_at dksX4_keepAct_3 19 rfl rfl)
theorem dX4_keepAct_90 : decode cX4_keepAct 90 = .ok (.putfield 389, 3) := dk_181 1 133 (dk_at dksX4_keepAct_3 20 rfl rfl)
theorem dX4_keepAct_93 : decode cX4_keepAct 93 = .ok (.aload_n 0, 1) := dk_42 (dk_at dksX4_keepAct_3 23 rfl rfl)
theorem dX4_keepAct_94 : decode cX4_keepAct 94 = .ok (.iconst 0, 1) := dk_3 (dk_at dksX4_keepAct_4 0 rfl rfl)
theorem dX4_keepAct_95 : decode cX4_keepAct 95 = .ok (.putfield 392, 3) := dk_181 1 136 (dk_at dksX4_keepAct_4 1 rfl rfl)
theorem dX4_keepAct_98 : decode cX4_keepAct 98 = .ok (.return_, 1) := dk_177 (dk_at dksX4_keepAct_4 4 rfl rfl)
abbrev cX4_hear : ByteArray := prog_22_method_76_code
def yX4_hear : MethodName := ⟨RX4, "hear", "(I)I"⟩
def dkwX4_hear_5 : List UInt8 := [16, 18, 27, 96, 92, 46, 4, 96, 79, 28, 172]
abbrev dktX4_hear_5 : List UInt8 := dkwX4_hear_5 ++ []
def dkwX4_hear_4 : List UInt8 := [96, 79, 28, 154, 0, 30, 42, 180, 0, 97, 16, 18, 27, 96, 46, 16, 99, 162, 0, 16, 42, 180, 0, 97]
abbrev dktX4_hear_4 : List UInt8 := dkwX4_hear_4 ++ dktX4_hear_5
def dkwX4_hear_3 : List UInt8 := [180, 0, 97, 16, 12, 27, 96, 46, 16, 99, 162, 0, 16, 42, 180, 0, 97, 16, 12, 27, 96, 92, 46, 4]
abbrev dktX4_hear_3 : List UInt8 := dkwX4_hear_3 ++ dktX4_hear_4
def dkwX4_hear_2 : List UInt8 := [61, 42, 180, 0, 97, 3, 27, 96, 28, 79, 42, 180, 0, 97, 16, 26, 4, 79, 28, 4, 160, 0, 30, 42]
abbrev dktX4_hear_2 : List UInt8 := dkwX4_hear_2 ++ dktX4_hear_3
def dkwX4_hear_1 : List UInt8 := [180, 0, 97, 16, 26, 46, 4, 160, 0, 5, 2, 172, 42, 182, 1, 180, 42, 27, 182, 1, 160, 184, 1, 183]
abbrev dktX4_hear_1 : List UInt8 := dkwX4_hear_1 ++ dktX4_hear_2
def dkwX4_hear_0 : List UInt8 := [42, 27, 182, 1, 157, 153, 0, 29, 42, 27, 182, 1, 145, 42, 180, 0, 97, 16, 24, 46, 160, 0, 14, 42]
abbrev dktX4_hear_0 : List UInt8 := dkwX4_hear_0 ++ dktX4_hear_1
theorem dksX4_hear_0 : cX4_hear.data.toList.drop 0 = dktX4_hear_0 := by decide +kernel
theorem dksX4_hear_1 : cX4_hear.data.toList.drop 24 = dktX4_hear_1 := dk_seg dksX4_hear_0 24 rfl rfl
theorem dksX4_hear_2 : cX4_hear.data.toList.drop 48 = dktX4_hear_2 := dk_seg dksX4_hear_1 24 rfl rfl
theorem dksX4_hear_3 : cX4_hear.data.toList.drop 72 = dktX4_hear_3 := dk_seg dksX4_hear_2 24 rfl rfl
theorem dksX4_hear_4 : cX4_hear.data.toList.drop 96 = dktX4_hear_4 := dk_seg dksX4_hear_3 24 rfl rfl
theorem dksX4_hear_5 : cX4_hear.data.toList.drop 120 = dktX4_hear_5 := dk_seg dksX4_hear_4 24 rfl rfl
theorem dX4_hear_0 : decode cX4_hear 0 = .ok (.aload_n 0, 1) := dk_42 (dk_at dksX4_hear_0 0 rfl rfl)
theorem dX4_hear_1 : decode cX4_hear 1 = .ok (.iload_n 1, 1) := dk_27 (dk_at dksX4_hear_0 1 rfl rfl)
theorem dX4_hear_2 : decode cX4_hear 2 = .ok (.invokevirtual 413, 3) := dk_182 1 157 (dk_at dksX4_hear_0 2 rfl rfl)
theorem dX4_hear_5 : decode cX4_hear 5 = .ok (.ifCond .eq 29, 3) := dk_153 0 29 (dk_at dksX4_hear_0 5 rfl rfl)
theorem dX4_hear_8 : decode cX4_hear 8 = .ok (.aload_n 0, 1) := dk_42 (dk_at dksX4_hear_0 8 rfl rfl)
theorem dX4_hear_9 : decode cX4_hear 9 = .ok (.iload_n 1, 1) := dk_27 (dk_at dksX4_hear_0 9 rfl rfl)
theorem dX4_hear_10 : decode cX4_hear 10 = .ok (.invokevirtual 401, 3) := dk_182 1 145 (dk_at dksX4_hear_0 10 rfl rfl)
theorem dX4_hear_13 : decode cX4_hear 13 = .ok (.aload_n 0, 1) := dk_42 (dk_at dksX4_hear_0 13 rfl rfl)
theorem dX4_hear_14 : decode cX4_hear 14 = .ok (.getfield 97, 3) := dk_180 0 97 (dk_at dksX4_hear_0 14 rfl rfl)
theorem dX4_hear_17 : decode cX4_hear 17 = .ok (.bipush 24, 2) := dk_16 24 (dk_at dksX4_hear_0 17 rfl rfl)
theorem dX4_hear_19 : decode cX4_hear 19 = .ok (.iaload, 1) := dk_46 (dk_at dksX4_hear_0 19 rfl rfl)
theorem dX4_hear_20 : decode cX4_hear 20 = .ok (.if_icmp .ne 14, 3) := dk_160 0 14 (dk_at dksX4_hear_0 20 rfl rfl)
theorem dX4_hear_23 : decode cX4_hear 23 = .ok (.aload_n 0, 1) := dk_42 (dk_at dksX4_hear_0 23 rfl rfl)
theorem dX4_hear_24 : decode cX4_hear 24 = .ok (.getfield 97, 3) := dk_180 0 97 (dk_at dksX4_hear_1 0 rfl rfl)
theorem dX4_hear_27 : decode cX4_hear 27 = .ok (.bipush 26, 2) := dk_16 26 (dk_at dksX4_hear_1 3 rfl rfl)
theorem dX4_hear_29 : decode cX4_hear 29 = .ok (.iaload, 1) := dk_46 (dk_at dksX4_hear_1 5 rfl rfl)
theorem dX4_hear_30 : decode cX4_hear 30 = .ok (.iconst 1, 1) := dk_4 (dk_at dksX4_hear_1 6 rfl rfl)
theorem dX4_hear_31 : decode cX4_hear 31 = .ok (.if_icmp .ne 5, 3) := dk_160 0 5 (dk_at dksX4_hear_1 7 rfl rfl)
theorem dX4_hear_34 : decode cX4_hear 34 = .ok (.iconst (-1), 1) := dk_2 (dk_at dksX4_hear_1 10 rfl rfl)
theorem dX4_hear_35 : decode cX4_hear 35 = .ok (.ireturn, 1) := dk_172 (dk_at dksX4_hear_1 11 rfl rfl)
theorem dX4_hear_36 : decode cX4_hear 36 = .ok (.aload_n 0, 1) := dk_42 (dk_at dksX4_hear_1 12 rfl rfl)
theorem dX4_hear_37 : decode cX4_hear 37 = .ok (.invokevirtual 436, 3) := dk_182 1 180 (dk_at dksX4_hear_1 13 rfl rfl)
theorem dX4_hear_40 : decode cX4_hear 40 = .ok (.aload_n 0, 1) := dk_42 (dk_at dksX4_hear_1 16 rfl rfl)
theorem dX4_hear_41 : decode cX4_hear 41 = .ok (.iload_n 1, 1) := dk_27 (dk_at dksX4_hear_1 17 rfl rfl)
theorem dX4_hear_42 : decode cX4_hear 42 = .ok (.invokevirtual 416, 3) := dk_182 1 160 (dk_at dksX4_hear_1 18 rfl rfl)
theorem dX4_hear_45 : decode cX4_hear 45 = .ok (.invokestatic 439, 3) := dk_184 1 183 (dk_at dksX4_hear_1 21 rfl rfl)
theorem dX4_hear_48 : decode cX4_hear 48 = .ok (.istore_n 2, 1) := dk_61 (dk_at dksX4_hear_2 0 rfl rfl)
theorem dX4_hear_49 : decode cX4_hear 49 = .ok (.aload_n 0, 1) := dk_42 (dk_at dksX4_hear_2 1 rfl rfl)
theorem dX4_hear_50 : decode cX4_hear 50 = .ok (.getfield 97, 3) := dk_180 0 97 (dk_at dksX4_hear_2 2 rfl rfl)
theorem dX4_hear_53 : decode cX4_hear 53 = .ok (.iconst 0, 1) := dk_3 (dk_at dksX4_hear_2 5 rfl rfl)
theorem dX4_hear_54 : decode cX4_hear 54 = .ok (.iload_n 1, 1) := dk_27 (dk_at dksX4_hear_2 6 rfl rfl)
theorem dX4_hear_55 : decode cX4_hear 55 = .ok (.iadd, 1) := dk_96 (dk_at dksX4_hear_2 7 rfl rfl)
theorem dX4_hear_56 : decode cX4_hear 56 = .ok (.iload_n 2, 1) := dk_28 (dk_at dksX4_hear_2 8 rfl rfl)
theorem dX4_hear_57 : decode cX4_hear 57 = .ok (.iastore, 1) := dk_79 (dk_at dksX4_hear_2 9 rfl rfl)
theorem dX4_hear_58 : decode cX4_hear 58 = .ok (.aload_n 0, 1) := dk_42 (dk_at dksX4_hear_2 10 rfl rfl)
theorem dX4_hear_59 : decode cX4_hear 59 = .ok (.getfield 97, 3) := dk_180 0 97 (dk_at dksX4_hear_2 11 rfl rfl)
theorem dX4_hear_62 : decode cX4_hear 62 = .ok (.bipush 26, 2) := dk_16 26 (dk_at dksX4_hear_2 14 rfl rfl)
theorem dX4_hear_64 : decode cX4_hear 64 = .ok (.iconst 1, 1) := dk_4 (dk_at dksX4_hear_2 16 rfl rfl)
theorem dX4_hear_65 : decode cX4_hear 65 = .ok (.iastore, 1) := dk_79 (dk_at dksX4_hear_2 17 rfl rfl)
theorem dX4_hear_66 : decode cX4_hear 66 = .ok (.iload_n 2, 1) := dk_28 (dk_at dksX4_hear_2 18 rfl rfl)
theorem dX4_hear_67 : decode cX4_hear 67 = .ok (.iconst 1, 1) := dk_4 (dk_at dksX4_hear_2 19 rfl rfl)
theorem dX4_hear_68 : decode cX4_hear 68 = .ok (.if_icmp .ne 30, 3) := dk_160 0 30 (dk_at dksX4_hear_2 20 rfl rfl)
theorem dX4_hear_71 : decode cX4_hear 71 = .ok (.aload_n 0, 1) := dk_42 (dk_at dksX4_hear_2 23 rfl rfl)
theorem dX4_hear_72 : decode cX4_hear 72 = .ok (.getfield 97, 3) := dk_180 0 97 (dk_at dksX4_hear_3 0 rfl rfl)
theorem dX4_hear_75 : decode cX4_hear 75 = .ok (.bipush 12, 2) := dk_16 12 (dk_at dksX4_hear_3 3 rfl rfl)
theorem dX4_hear_77 : decode cX4_hear 77 = .ok (.iload_n 1, 1) := dk_27 (dk_at dksX4_hear_3 5 rfl rfl)
theorem dX4_hear_78 : decode cX4_hear 78 = .ok (.iadd, 1) := dk_96 (dk_at dksX4_hear_3 6 rfl rfl)
theorem dX4_hear_79 : decode cX4_hear 79 = .ok (.iaload, 1) := dk_46 (dk_at dksX4_hear_3 7 rfl rfl)
theorem dX4_hear_80 : decode cX4_hear 80 = .ok (.bipush 99, 2) := dk_16 99 (dk_at dksX4_hear_3 8 rfl rfl)
theorem dX4_hear_82 : decode cX4_hear 82 = .ok (.if_icmp .ge 16, 3) := dk_162 0 16 (dk_at dksX4_hear_3 10 rfl rfl)
theorem dX4_hear_85 : decode cX4_hear 85 = .ok (.aload_n 0, 1) := dk_42 (dk_at dksX4_hear_3 13 rfl rfl)
theorem dX4_hear_86 : decode cX4_hear 86 = .ok (.getfield 97, 3) := dk_180 0 97 (dk_at dksX4_hear_3 14 rfl rfl)
theorem dX4_hear_89 : decode cX4_hear 89 = .ok (.bipush 12, 2) := dk_16 12 (dk_at dksX4_hear_3 17 rfl rfl)
theorem dX4_hear_91 : decode cX4_hear 91 = .ok (.iload_n 1, 1) := dk_27 (dk_at dksX4_hear_3 19 rfl rfl)
theorem dX4_hear_92 : decode cX4_hear 92 = .ok (.iadd, 1) := dk_96 (dk_at dksX4_hear_3 20 rfl rfl)
theorem dX4_hear_93 : decode cX4_hear 93 = .ok (.dup2, 1) := dk_92 (dk_at dksX4_hear_3 21 rfl rfl)
theorem dX4_hear_94 : decode cX4_hear 94 = .ok (.iaload, 1) := dk_46 (dk_at dksX4_hear_3 22 rfl rfl)
theorem dX4_hear_95 : decode cX4_hear 95 = .ok (.iconst 1, 1) := dk_4 (dk_at dksX4_hear_3 23 rfl rfl)
theorem dX4_hear_96 : decode cX4_hear 96 = .ok (.iadd, 1) := dk_96 (dk_at dksX4_hear_4 0 rfl rfl)
theorem dX4_hear_97 : decode cX4_hear 97 = .ok (.iastore, 1) := dk_79 (dk_at dksX4_hear_4 1 rfl rfl)
theorem dX4_hear_98 : decode cX4_hear 98 = .ok (.iload_n 2, 1) := dk_28 (dk_at dksX4_hear_4 2 rfl rfl)
theorem dX4_hear_99 : decode cX4_hear 99 = .ok (.ifCond .ne 30, 3) := dk_154 0 30 (dk_at dksX4_hear_4 3 rfl rfl)
theorem dX4_hear_102 : decode cX4_hear 102 = .ok (.aload_n 0, 1) := dk_42 (dk_at dksX4_hear_4 6 rfl rfl)
theorem dX4_hear_103 : decode cX4_hear 103 = .ok (.getfield 97, 3) := dk_180 0 97 (dk_at dksX4_hear_4 7 rfl rfl)
theorem dX4_hear_106 : decode cX4_hear 106 = .ok (.bipush 18, 2) := dk_16 18 (dk_at dksX4_hear_4 10 rfl rfl)
theorem dX4_hear_108 : decode cX4_hear 108 = .ok (.iload_n 1, 1) := dk_27 (dk_at dksX4_hear_4 12 rfl rfl)
theorem dX4_hear_109 : decode cX4_hear 109 = .ok (.iadd, 1) := dk_96 (dk_at dksX4_hear_4 13 rfl rfl)
theorem dX4_hear_110 : decode cX4_hear 110 = .ok (.iaload, 1) := dk_46 (dk_at dksX4_hear_4 14 rfl rfl)
theorem dX4_hear_111 : decode cX4_hear 111 = .ok (.bipush 99, 2) := dk_16 99 (dk_at dksX4_hear_4 15 rfl rfl)
theorem dX4_hear_113 : decode cX4_hear 113 = .ok (.if_icmp .ge 16, 3) := dk_162 0 16 (dk_at dksX4_hear_4 17 rfl rfl)
theorem dX4_hear_116 : decode cX4_hear 116 = .ok (.aload_n 0, 1) := dk_42 (dk_at dksX4_hear_4 20 rfl rfl)
theorem dX4_hear_117 : decode cX4_hear 117 = .ok (.getfield 97, 3) := dk_180 0 97 (dk_at dksX4_hear_4 21 rfl rfl)
theorem dX4_hear_120 : decode cX4_hear 120 = .ok (.bipush 18, 2) := dk_16 18 (dk_at dksX4_hear_5 0 rfl rfl)
theorem dX4_hear_122 : decode cX4_hear 122 = .ok (.iload_n 1, 1) := dk_27 (dk_at dksX4_hear_5 2 rfl rfl)
theorem dX4_hear_123 : decode cX4_hear 123 = .ok (.iadd, 1) := dk_96 (dk_at dksX4_hear_5 3 rfl rfl)
theorem dX4_hear_124 : decode cX4_hear 124 = .ok (.dup2, 1) := dk_92 (dk_at dksX4_hear_5 4 rfl rfl)
theorem dX4_hear_125 : decode cX4_hear 125 = .ok (.iaload, 1) := dk_46 (dk_at dksX4_hear_5 5 rfl rfl)
theorem dX4_hear_126 : decode cX4_hear 126 = .ok (.iconst 1, 1) := dk_4 (dk_at dksX4_hear_5 6 rfl rfl)
theorem dX4_hear_127 : decode cX4_hear 127 = .ok (.iadd, 1) := dk_96 (dk_at dksX4_hear_5 7 rfl rfl)
theorem dX4_hear_128 : decode cX4_hear 128 = .ok (.iastore, 1) := dk_79 (dk_at dksX4_hear_5 8 rfl rfl)
theorem dX4_hear_129 : decode cX4_hear 129 = .ok (.iload_n 2, 1) := dk_28 (dk_at dksX4_hear_5 9 rfl rfl)
theorem dX4_hear_130 : decode cX4_hear 130 = .ok (.ireturn, 1) := dk_172 (dk_at dksX4_hear_5 10 rfl rfl)
abbrev cX4_outcome : ByteArray := prog_22_method_62_code
def yX4_outcome : MethodName := ⟨RX4, "outcome", "(I)I"⟩
def dkwX4_outcome_0 : List UInt8 := [26, 158, 0, 7, 4, 167, 0, 12, 26, 156, 0, 7, 5, 167, 0, 4, 3, 172]
abbrev dktX4_outcome_0 : List UInt8 := dkwX4_outcome_0 ++ []
theorem dksX4_outcome_0 : cX4_outcome.data.toList.drop 0 = dktX4_outcome_0 := by decide +kernel
theorem dX4_outcome_0 : decode cX4_outcome 0 = .ok (.iload_n 0, 1) := dk_26 (dk_at dksX4_outcome_0 0 rfl rfl)
theorem dX4_outcome_1 : decode cX4_outcome 1 = .ok (.ifCond .le 7, 3) := dk_158 0 7 (dk_at dksX4_outcome_0 1 rfl rfl)
theorem dX4_outcome_4 : decode cX4_outcome 4 = .ok (.iconst 1, 1) := dk_4 (dk_at dksX4_outcome_0 4 rfl rfl)
theorem dX4_outcome_5 : decode cX4_outcome 5 = .ok (.goto 12, 3) := dk_167 0 12 (dk_at dksX4_outcome_0 5 rfl rfl)
theorem dX4_outcome_8 : decode cX4_outcome 8 = .ok (.iload_n 0, 1) := dk_26 (dk_at dksX4_outcome_0 8 rfl rfl)
theorem dX4_outcome_9 : decode cX4_outcome 9 = .ok (.ifCond .ge 7, 3) := dk_156 0 7 (dk_at dksX4_outcome_0 9 rfl rfl)
theorem dX4_outcome_12 : decode cX4_outcome 12 = .ok (.iconst 2, 1) := dk_5 (dk_at dksX4_outcome_0 12 rfl rfl)
theorem dX4_outcome_13 : decode cX4_outcome 13 = .ok (.goto 4, 3) := dk_167 0 4 (dk_at dksX4_outcome_0 13 rfl rfl)
theorem dX4_outcome_16 : decode cX4_outcome 16 = .ok (.iconst 0, 1) := dk_3 (dk_at dksX4_outcome_0 16 rfl rfl)
theorem dX4_outcome_17 : decode cX4_outcome 17 = .ok (.ireturn, 1) := dk_172 (dk_at dksX4_outcome_0 17 rfl rfl)
abbrev cX4_plead : ByteArray := prog_22_method_77_code
def yX4_plead : MethodName := ⟨RX4, "plead", "(II)I"⟩
def dkwX4_plead_3 : List UInt8 := [27, 182, 1, 160, 172]
abbrev dktX4_plead_3 : List UInt8 := dkwX4_plead_3 ++ []
def dkwX4_plead_2 : List UInt8 := [19, 1, 173, 172, 42, 182, 1, 180, 42, 180, 0, 97, 16, 6, 27, 96, 92, 46, 4, 28, 120, 128, 79, 42]
abbrev dktX4_plead_2 : List UInt8 := dkwX4_plead_2 ++ dktX4_plead_3
def dkwX4_plead_1 : List UInt8 := [46, 28, 184, 1, 8, 154, 0, 19, 42, 180, 0, 97, 16, 6, 27, 96, 46, 184, 1, 60, 7, 160, 0, 7]
abbrev dktX4_plead_1 : List UInt8 := dkwX4_plead_1 ++ dktX4_plead_2
def dkwX4_plead_0 : List UInt8 := [42, 27, 182, 1, 127, 153, 0, 43, 42, 28, 182, 1, 170, 153, 0, 35, 42, 180, 0, 97, 16, 6, 27, 96]
abbrev dktX4_plead_0 : List UInt8 := dkwX4_plead_0 ++ dktX4_plead_1
theorem dksX4_plead_0 : cX4_plead.data.toList.drop 0 = dktX4_plead_0 := by decide +kernel
theorem dksX4_plead_1 : cX4_plead.data.toList.drop 24 = dktX4_plead_1 := dk_seg dksX4_plead_0 24 rfl rfl
theorem dksX4_plead_2 : cX4_plead.data.toList.drop 48 = dktX4_plead_2 := dk_seg dksX4_plead_1 24 rfl rfl
theorem dksX4_plead_3 : cX4_plead.data.toList.drop 72 = dktX4_plead_3 := dk_seg dksX4_plead_2 24 rfl rfl
theorem dX4_plead_0 : decode cX4_plead 0 = .ok (.aload_n 0, 1) := dk_42 (dk_at dksX4_plead_0 0 rfl rfl)
theorem dX4_plead_1 : decode cX4_plead 1 = .ok (.iload_n 1, 1) := dk_27 (dk_at dksX4_plead_0 1 rfl rfl)
theorem dX4_plead_2 : decode cX4_plead 2 = .ok (.invokevirtual 383, 3) := dk_182 1 127 (dk_at dksX4_plead_0 2 rfl rfl)
theorem dX4_plead_5 : decode cX4_plead 5 = .ok (.ifCond .eq 43, 3) := dk_153 0 43 (dk_at dksX4_plead_0 5 rfl rfl)
theorem dX4_plead_8 : decode cX4_plead 8 = .ok (.aload_n 0, 1) := dk_42 (dk_at dksX4_plead_0 8 rfl rfl)
theorem dX4_plead_9 : decode cX4_plead 9 = .ok (.iload_n 2, 1) := dk_28 (dk_at dksX4_plead_0 9 rfl rfl)
theorem dX4_plead_10 : decode cX4_plead 10 = .ok (.invokevirtual 426, 3) := dk_182 1 170 (dk_at dksX4_plead_0 10 rfl rfl)
theorem dX4_plead_13 : decode cX4_plead 13 = .ok (.ifCond .eq 35, 3) := dk_153 0 35 (dk_at dksX4_plead_0 13 rfl rfl)
theorem dX4_plead_16 : decode cX4_plead 16 = .ok (.aload_n 0, 1) := dk_42 (dk_at dksX4_plead_0 16 rfl rfl)
theorem dX4_plead_17 : decode cX4_plead 17 = .ok (.getfield 97, 3) := dk_180 0 97 (dk_at dksX4_plead_0 17 rfl rfl)
theorem dX4_plead_20 : decode cX4_plead 20 = .ok (.bipush 6, 2) := dk_16 6 (dk_at dksX4_plead_0 20 rfl rfl)
theorem dX4_plead_22 : decode cX4_plead 22 = .ok (.iload_n 1, 1) := dk_27 (dk_at dksX4_plead_0 22 rfl rfl)
theorem dX4_plead_23 : decode cX4_plead 23 = .ok (.iadd, 1) := dk_96 (dk_at dksX4_plead_0 23 rfl rfl)
theorem dX4_plead_24 : decode cX4_plead 24 = .ok (.iaload, 1) := dk_46 (dk_at dksX4_plead_1 0 rfl rfl)
theorem dX4_plead_25 : decode cX4_plead 25 = .ok (.iload_n 2, 1) := dk_28 (dk_at dksX4_plead_1 1 rfl rfl)
theorem dX4_plead_26 : decode cX4_plead 26 = .ok (.invokestatic 264, 3) := dk_184 1 8 (dk_at dksX4_plead_1 2 rfl rfl)
theorem dX4_plead_29 : decode cX4_plead 29 = .ok (.ifCond .ne 19, 3) := dk_154 0 19 (dk_at dksX4_plead_1 5 rfl rfl)
theorem dX4_plead_32 : decode cX4_plead 32 = .ok (.aload_n 0, 1) := dk_42 (dk_at dksX4_plead_1 8 rfl rfl)
theorem dX4_plead_33 : decode cX4_plead 33 = .ok (.getfield 97, 3) := dk_180 0 97 (dk_at dksX4_plead_1 9 rfl rfl)
theorem dX4_plead_36 : decode cX4_plead 36 = .ok (.bipush 6, 2) := dk_16 6 (dk_at dksX4_plead_1 12 rfl rfl)
theorem dX4_plead_38 : decode cX4_plead 38 = .ok (.iload_n 1, 1) := dk_27 (dk_at dksX4_plead_1 14 rfl rfl)
theorem dX4_plead_39 : decode cX4_plead 39 = .ok (.iadd, 1) := dk_96 (dk_at dksX4_plead_1 15 rfl rfl)
theorem dX4_plead_40 : decode cX4_plead 40 = .ok (.iaload, 1) := dk_46 (dk_at dksX4_plead_1 16 rfl rfl)
theorem dX4_plead_41 : decode cX4_plead 41 = .ok (.invokestatic 316, 3) := dk_184 1 60 (dk_at dksX4_plead_1 17 rfl rfl)
theorem dX4_plead_44 : decode cX4_plead 44 = .ok (.iconst 4, 1) := dk_7 (dk_at dksX4_plead_1 20 rfl rfl)
theorem dX4_plead_45 : decode cX4_plead 45 = .ok (.if_icmp .ne 7, 3) := dk_160 0 7 (dk_at dksX4_plead_1 21 rfl rfl)
theorem dX4_plead_48 : decode cX4_plead 48 = .ok (.ldc_w 429, 3) := dk_19 1 173 (dk_at dksX4_plead_2 0 rfl rfl)
theorem dX4_plead_51 : decode cX4_plead 51 = .ok (.ireturn, 1) := dk_172 (dk_at dksX4_plead_2 3 rfl rfl)
theorem dX4_plead_52 : decode cX4_plead 52 = .ok (.aload_n 0, 1) := dk_42 (dk_at dksX4_plead_2 4 rfl rfl)
theorem dX4_plead_53 : decode cX4_plead 53 = .ok (.invokevirtual 436, 3) := dk_182 1 180 (dk_at dksX4_plead_2 5 rfl rfl)
theorem dX4_plead_56 : decode cX4_plead 56 = .ok (.aload_n 0, 1) := dk_42 (dk_at dksX4_plead_2 8 rfl rfl)
theorem dX4_plead_57 : decode cX4_plead 57 = .ok (.getfield 97, 3) := dk_180 0 97 (dk_at dksX4_plead_2 9 rfl rfl)
theorem dX4_plead_60 : decode cX4_plead 60 = .ok (.bipush 6, 2) := dk_16 6 (dk_at dksX4_plead_2 12 rfl rfl)
theorem dX4_plead_62 : decode cX4_plead 62 = .ok (.iload_n 1, 1) := dk_27 (dk_at dksX4_plead_2 14 rfl rfl)
theorem dX4_plead_63 : decode cX4_plead 63 = .ok (.iadd, 1) := dk_96 (dk_at dksX4_plead_2 15 rfl rfl)
theorem dX4_plead_64 : decode cX4_plead 64 = .ok (.dup2, 1) := dk_92 (dk_at dksX4_plead_2 16 rfl rfl)
theorem dX4_plead_65 : decode cX4_plead 65 = .ok (.iaload, 1) := dk_46 (dk_at dksX4_plead_2 17 rfl rfl)
theorem dX4_plead_66 : decode cX4_plead 66 = .ok (.iconst 1, 1) := dk_4 (dk_at dksX4_plead_2 18 rfl rfl)
theorem dX4_plead_67 : decode cX4_plead 67 = .ok (.iload_n 2, 1) := dk_28 (dk_at dksX4_plead_2 19 rfl rfl)
theorem dX4_plead_68 : decode cX4_plead 68 = .ok (.ishl, 1) := dk_120 (dk_at dksX4_plead_2 20 rfl rfl)
theorem dX4_plead_69 : decode cX4_plead 69 = .ok (.ior, 1) := dk_128 (dk_at dksX4_plead_2 21 rfl rfl)
theorem dX4_plead_70 : decode cX4_plead 70 = .ok (.iastore, 1) := dk_79 (dk_at dksX4_plead_2 22 rfl rfl)
theorem dX4_plead_71 : decode cX4_plead 71 = .ok (.aload_n 0, 1) := dk_42 (dk_at dksX4_plead_2 23 rfl rfl)
theorem dX4_plead_72 : decode cX4_plead 72 = .ok (.iload_n 1, 1) := dk_27 (dk_at dksX4_plead_3 0 rfl rfl)
theorem dX4_plead_73 : decode cX4_plead 73 = .ok (.invokevirtual 416, 3) := dk_182 1 160 (dk_at dksX4_plead_3 1 rfl rfl)
theorem dX4_plead_76 : decode cX4_plead 76 = .ok (.ireturn, 1) := dk_172 (dk_at dksX4_plead_3 4 rfl rfl)
abbrev cX4_drop : ByteArray := prog_22_method_78_code
def yX4_drop : MethodName := ⟨RX4, "drop", "(II)I"⟩
def dkwX4_drop_3 : List UInt8 := [79, 42, 27, 182, 1, 160, 172]
abbrev dktX4_drop_3 : List UInt8 := dkwX4_drop_3 ++ []
def dkwX4_drop_2 : List UInt8 := [19, 1, 173, 172, 42, 182, 1, 180, 42, 180, 0, 97, 16, 6, 27, 96, 92, 46, 4, 28, 120, 2, 130, 126]
abbrev dktX4_drop_2 : List UInt8 := dkwX4_drop_2 ++ dktX4_drop_3
def dkwX4_drop_1 : List UInt8 := [46, 28, 184, 1, 8, 153, 0, 19, 42, 180, 0, 97, 16, 6, 27, 96, 46, 184, 1, 60, 4, 160, 0, 7]
abbrev dktX4_drop_1 : List UInt8 := dkwX4_drop_1 ++ dktX4_drop_2
def dkwX4_drop_0 : List UInt8 := [42, 27, 182, 1, 127, 153, 0, 43, 42, 28, 182, 1, 170, 153, 0, 35, 42, 180, 0, 97, 16, 6, 27, 96]
abbrev dktX4_drop_0 : List UInt8 := dkwX4_drop_0 ++ dktX4_drop_1
theorem dksX4_drop_0 : cX4_drop.data.toList.drop 0 = dktX4_drop_0 := by decide +kernel
theorem dksX4_drop_1 : cX4_drop.data.toList.drop 24 = dktX4_drop_1 := dk_seg dksX4_drop_0 24 rfl rfl
theorem dksX4_drop_2 : cX4_drop.data.toList.drop 48 = dktX4_drop_2 := dk_seg dksX4_drop_1 24 rfl rfl
theorem dksX4_drop_3 : cX4_drop.data.toList.drop 72 = dktX4_drop_3 := dk_seg dksX4_drop_2 24 rfl rfl
theorem dX4_drop_0 : decode cX4_drop 0 = .ok (.aload_n 0, 1) := dk_42 (dk_at dksX4_drop_0 0 rfl rfl)
theorem dX4_drop_1 : decode cX4_drop 1 = .ok (.iload_n 1, 1) := dk_27 (dk_at dksX4_drop_0 1 rfl rfl)
theorem dX4_drop_2 : decode cX4_drop 2 = .ok (.invokevirtual 383, 3) := dk_182 1 127 (dk_at dksX4_drop_0 2 rfl rfl)
theorem dX4_drop_5 : decode cX4_drop 5 = .ok (.ifCond .eq 43, 3) := dk_153 0 43 (dk_at dksX4_drop_0 5 rfl rfl)
theorem dX4_drop_8 : decode cX4_drop 8 = .ok (.aload_n 0, 1) := dk_42 (dk_at dksX4_drop_0 8 rfl rfl)
theorem dX4_drop_9 : decode cX4_drop 9 = .ok (.iload_n 2, 1) := dk_28 (dk_at dksX4_drop_0 9 rfl rfl)
theorem dX4_drop_10 : decode cX4_drop 10 = .ok (.invokevirtual 426, 3) := dk_182 1 170 (dk_at dksX4_drop_0 10 rfl rfl)
theorem dX4_drop_13 : decode cX4_drop 13 = .ok (.ifCond .eq 35, 3) := dk_153 0 35 (dk_at dksX4_drop_0 13 rfl rfl)
theorem dX4_drop_16 : decode cX4_drop 16 = .ok (.aload_n 0, 1) := dk_42 (dk_at dksX4_drop_0 16 rfl rfl)
theorem dX4_drop_17 : decode cX4_drop 17 = .ok (.getfield 97, 3) := dk_180 0 97 (dk_at dksX4_drop_0 17 rfl rfl)
theorem dX4_drop_20 : decode cX4_drop 20 = .ok (.bipush 6, 2) := dk_16 6 (dk_at dksX4_drop_0 20 rfl rfl)
theorem dX4_drop_22 : decode cX4_drop 22 = .ok (.iload_n 1, 1) := dk_27 (dk_at dksX4_drop_0 22 rfl rfl)
theorem dX4_drop_23 : decode cX4_drop 23 = .ok (.iadd, 1) := dk_96 (dk_at dksX4_drop_0 23 rfl rfl)
theorem dX4_drop_24 : decode cX4_drop 24 = .ok (.iaload, 1) := dk_46 (dk_at dksX4_drop_1 0 rfl rfl)
theorem dX4_drop_25 : decode cX4_drop 25 = .ok (.iload_n 2, 1) := dk_28 (dk_at dksX4_drop_1 1 rfl rfl)
theorem dX4_drop_26 : decode cX4_drop 26 = .ok (.invokestatic 264, 3) := dk_184 1 8 (dk_at dksX4_drop_1 2 rfl rfl)
theorem dX4_drop_29 : decode cX4_drop 29 = .ok (.ifCond .eq 19, 3) := dk_153 0 19 (dk_at dksX4_drop_1 5 rfl rfl)
theorem dX4_drop_32 : decode cX4_drop 32 = .ok (.aload_n 0, 1) := dk_42 (dk_at dksX4_drop_1 8 rfl rfl)
theorem dX4_drop_33 : decode cX4_drop 33 = .ok (.getfield 97, 3) := dk_180 0 97 (dk_at dksX4_drop_1 9 rfl rfl)
theorem dX4_drop_36 : decode cX4_drop 36 = .ok (.bipush 6, 2) := dk_16 6 (dk_at dksX4_drop_1 12 rfl rfl)
theorem dX4_drop_38 : decode cX4_drop 38 = .ok (.iload_n 1, 1) := dk_27 (dk_at dksX4_drop_1 14 rfl rfl)
theorem dX4_drop_39 : decode cX4_drop 39 = .ok (.iadd, 1) := dk_96 (dk_at dksX4_drop_1 15 rfl rfl)
theorem dX4_drop_40 : decode cX4_drop 40 = .ok (.iaload, 1) := dk_46 (dk_at dksX4_drop_1 16 rfl rfl)
theorem dX4_drop_41 : decode cX4_drop 41 = .ok (.invokestatic 316, 3) := dk_184 1 60 (dk_at dksX4_drop_1 17 rfl rfl)
theorem dX4_drop_44 : decode cX4_drop 44 = .ok (.iconst 1, 1) := dk_4 (dk_at dksX4_drop_1 20 rfl rfl)
theorem dX4_drop_45 : decode cX4_drop 45 = .ok (.if_icmp .ne 7, 3) := dk_160 0 7 (dk_at dksX4_drop_1 21 rfl rfl)
theorem dX4_drop_48 : decode cX4_drop 48 = .ok (.ldc_w 429, 3) := dk_19 1 173 (dk_at dksX4_drop_2 0 rfl rfl)
theorem dX4_drop_51 : decode cX4_drop 51 = .ok (.ireturn, 1) := dk_172 (dk_at dksX4_drop_2 3 rfl rfl)
theorem dX4_drop_52 : decode cX4_drop 52 = .ok (.aload_n 0, 1) := dk_42 (dk_at dksX4_drop_2 4 rfl rfl)
theorem dX4_drop_53 : decode cX4_drop 53 = .ok (.invokevirtual 436, 3) := dk_182 1 180 (dk_at dksX4_drop_2 5 rfl rfl)
theorem dX4_drop_56 : decode cX4_drop 56 = .ok (.aload_n 0, 1) := dk_42 (dk_at dksX4_drop_2 8 rfl rfl)
theorem dX4_drop_57 : decode cX4_drop 57 = .ok (.getfield 97, 3) := dk_180 0 97 (dk_at dksX4_drop_2 9 rfl rfl)
theorem dX4_drop_60 : decode cX4_drop 60 = .ok (.bipush 6, 2) := dk_16 6 (dk_at dksX4_drop_2 12 rfl rfl)
theorem dX4_drop_62 : decode cX4_drop 62 = .ok (.iload_n 1, 1) := dk_27 (dk_at dksX4_drop_2 14 rfl rfl)
theorem dX4_drop_63 : decode cX4_drop 63 = .ok (.iadd, 1) := dk_96 (dk_at dksX4_drop_2 15 rfl rfl)
theorem dX4_drop_64 : decode cX4_drop 64 = .ok (.dup2, 1) := dk_92 (dk_at dksX4_drop_2 16 rfl rfl)
theorem dX4_drop_65 : decode cX4_drop 65 = .ok (.iaload, 1) := dk_46 (dk_at dksX4_drop_2 17 rfl rfl)
theorem dX4_drop_66 : decode cX4_drop 66 = .ok (.iconst 1, 1) := dk_4 (dk_at dksX4_drop_2 18 rfl rfl)
theorem dX4_drop_67 : decode cX4_drop 67 = .ok (.iload_n 2, 1) := dk_28 (dk_at dksX4_drop_2 19 rfl rfl)
theorem dX4_drop_68 : decode cX4_drop 68 = .ok (.ishl, 1) := dk_120 (dk_at dksX4_drop_2 20 rfl rfl)
theorem dX4_drop_69 : decode cX4_drop 69 = .ok (.iconst (-1), 1) := dk_2 (dk_at dksX4_drop_2 21 rfl rfl)
theorem dX4_drop_70 : decode cX4_drop 70 = .ok (.ixor, 1) := dk_130 (dk_at dksX4_drop_2 22 rfl rfl)
theorem dX4_drop_71 : decode cX4_drop 71 = .ok (.iand, 1) := dk_126 (dk_at dksX4_drop_2 23 rfl rfl)
theorem dX4_drop_72 : decode cX4_drop 72 = .ok (.iastore, 1) := dk_79 (dk_at dksX4_drop_3 0 rfl rfl)
theorem dX4_drop_73 : decode cX4_drop 73 = .ok (.aload_n 0, 1) := dk_42 (dk_at dksX4_drop_3 1 rfl rfl)
theorem dX4_drop_74 : decode cX4_drop 74 = .ok (.iload_n 1, 1) := dk_27 (dk_at dksX4_drop_3 2 rfl rfl)
theorem dX4_drop_75 : decode cX4_drop 75 = .ok (.invokevirtual 416, 3) := dk_182 1 160 (dk_at dksX4_drop_3 3 rfl rfl)
theorem dX4_drop_78 : decode cX4_drop 78 = .ok (.ireturn, 1) := dk_172 (dk_at dksX4_drop_3 6 rfl rfl)
abbrev cX4_grab : ByteArray := prog_22_method_79_code
def yX4_grab : MethodName := ⟨RX4, "grab", "(I)I"⟩
def dkwX4_grab_1 : List UInt8 := [180, 0, 97, 3, 27, 96, 3, 79, 42, 182, 1, 186, 184, 1, 60, 172]
abbrev dktX4_grab_1 : List UInt8 := dkwX4_grab_1 ++ []
def dkwX4_grab_0 : List UInt8 := [42, 27, 182, 1, 127, 153, 0, 11, 42, 27, 182, 1, 157, 153, 0, 5, 2, 172, 42, 182, 1, 180, 42]
abbrev dktX4_grab_0 : List UInt8 := dkwX4_grab_0 ++ dktX4_grab_1
theorem dksX4_grab_0 : cX4_grab.data.toList.drop 0 = dktX4_grab_0 := by decide +kernel
theorem dksX4_grab_1 : cX4_grab.data.toList.drop 23 = dktX4_grab_1 := dk_seg dksX4_grab_0 23 rfl rfl
theorem dX4_grab_0 : decode cX4_grab 0 = .ok (.aload_n 0, 1) := dk_42 (dk_at dksX4_grab_0 0 rfl rfl)
theorem dX4_grab_1 : decode cX4_grab 1 = .ok (.iload_n 1, 1) := dk_27 (dk_at dksX4_grab_0 1 rfl rfl)
theorem dX4_grab_2 : decode cX4_grab 2 = .ok (.invokevirtual 383, 3) := dk_182 1 127 (dk_at dksX4_grab_0 2 rfl rfl)
theorem dX4_grab_5 : decode cX4_grab 5 = .ok (.ifCond .eq 11, 3) := dk_153 0 11 (dk_at dksX4_grab_0 5 rfl rfl)
theorem dX4_grab_8 : decode cX4_grab 8 = .ok (.aload_n 0, 1) := dk_42 (dk_at dksX4_grab_0 8 rfl rfl)
theorem dX4_grab_9 : decode cX4_grab 9 = .ok (.iload_n 1, 1) := dk_27 (dk_at dksX4_grab_0 9 rfl rfl)
theorem dX4_grab_10 : decode cX4_grab 10 = .ok (.invokevirtual 413, 3) := dk_182 1 157 (dk_at dksX4_grab_0 10 rfl rfl)
theorem dX4_grab_13 : decode cX4_grab 13 = .ok (.ifCond .eq 5, 3) := dk_153 0 5 (dk_at dksX4_grab_0 13 rfl rfl)
theorem dX4_grab_16 : decode cX4_grab 16 = .ok (.iconst (-1), 1) := dk_2 (dk_at dksX4_grab_0 16 rfl rfl)
theorem dX4_grab_17 : decode cX4_grab 17 = .ok (.ireturn, 1) := dk_172 (dk_at dksX4_grab_0 17 rfl rfl)
theorem dX4_grab_18 : decode cX4_grab 18 = .ok (.aload_n 0, 1) := dk_42 (dk_at dksX4_grab_0 18 rfl rfl)
theorem dX4_grab_19 : decode cX4_grab 19 = .ok (.invokevirtual 436, 3) := dk_182 1 180 (dk_at dksX4_grab_0 19 rfl rfl)
theorem dX4_grab_22 : decode cX4_grab 22 = .ok (.aload_n 0, 1) := dk_42 (dk_at dksX4_grab_0 22 rfl rfl)
theorem dX4_grab_23 : decode cX4_grab 23 = .ok (.getfield 97, 3) := dk_180 0 97 (dk_at dksX4_grab_1 0 rfl rfl)
theorem dX4_grab_26 : decode cX4_grab 26 = .ok (.iconst 0, 1) := dk_3 (dk_at dksX4_grab_1 3 rfl rfl)
theorem dX4_grab_27 : decode cX4_grab 27 = .ok (.iload_n 1, 1) := dk_27 (dk_at dksX4_grab_1 4 rfl rfl)
theorem dX4_grab_28 : decode cX4_grab 28 = .ok (.iadd, 1) := dk_96 (dk_at dksX4_grab_1 5 rfl rfl)
theorem dX4_grab_29 : decode cX4_grab 29 = .ok (.iconst 0, 1) := dk_3 (dk_at dksX4_grab_1 6 rfl rfl)
theorem dX4_grab_30 : decode cX4_grab 30 = .ok (.iastore, 1) := dk_79 (dk_at dksX4_grab_1 7 rfl rfl)
theorem dX4_grab_31 : decode cX4_grab 31 = .ok (.aload_n 0, 1) := dk_42 (dk_at dksX4_grab_1 8 rfl rfl)
theorem dX4_grab_32 : decode cX4_grab 32 = .ok (.invokevirtual 442, 3) := dk_182 1 186 (dk_at dksX4_grab_1 9 rfl rfl)
theorem dX4_grab_35 : decode cX4_grab 35 = .ok (.invokestatic 316, 3) := dk_184 1 60 (dk_at dksX4_grab_1 12 rfl rfl)
theorem dX4_grab_38 : decode cX4_grab 38 = .ok (.ireturn, 1) := dk_172 (dk_at dksX4_grab_1 15 rfl rfl)
abbrev cX4_heldNow : ByteArray := prog_22_method_57_code
def yX4_heldNow : MethodName := ⟨RX4, "heldNow", "()I"⟩
def dkwX4_heldNow_1 : List UInt8 := [4, 28, 120, 128, 60, 132, 2, 1, 167, 255, 228, 27, 172]
abbrev dktX4_heldNow_1 : List UInt8 := dkwX4_heldNow_1 ++ []
def dkwX4_heldNow_0 : List UInt8 := [3, 60, 3, 61, 28, 42, 182, 1, 115, 162, 0, 26, 42, 180, 0, 97, 3, 28, 96, 46, 154, 0, 9, 27]
abbrev dktX4_heldNow_0 : List UInt8 := dkwX4_heldNow_0 ++ dktX4_heldNow_1
theorem dksX4_heldNow_0 : cX4_heldNow.data.toList.drop 0 = dktX4_heldNow_0 := by decide +kernel
theorem dksX4_heldNow_1 : cX4_heldNow.data.toList.drop 24 = dktX4_heldNow_1 := dk_seg dksX4_heldNow_0 24 rfl rfl
theorem dX4_heldNow_0 : decode cX4_heldNow 0 = .ok (.iconst 0, 1) := dk_3 (dk_at dksX4_heldNow_0 0 rfl rfl)
theorem dX4_heldNow_1 : decode cX4_heldNow 1 = .ok (.istore_n 1, 1) := dk_60 (dk_at dksX4_heldNow_0 1 rfl rfl)
theorem dX4_heldNow_2 : decode cX4_heldNow 2 = .ok (.iconst 0, 1) := dk_3 (dk_at dksX4_heldNow_0 2 rfl rfl)
theorem dX4_heldNow_3 : decode cX4_heldNow 3 = .ok (.istore_n 2, 1) := dk_61 (dk_at dksX4_heldNow_0 3 rfl rfl)
theorem dX4_heldNow_4 : decode cX4_heldNow 4 = .ok (.iload_n 2, 1) := dk_28 (dk_at dksX4_heldNow_0 4 rfl rfl)
theorem dX4_heldNow_5 : decode cX4_heldNow 5 = .ok (.aload_n 0, 1) := dk_42 (dk_at dksX4_heldNow_0 5 rfl rfl)
theorem dX4_heldNow_6 : decode cX4_heldNow 6 = .ok (.invokevirtual 371, 3) := dk_182 1 115 (dk_at dksX4_heldNow_0 6 rfl rfl)
theorem dX4_heldNow_9 : decode cX4_heldNow 9 = .ok (.if_icmp .ge 26, 3) := dk_162 0 26 (dk_at dksX4_heldNow_0 9 rfl rfl)
theorem dX4_heldNow_12 : decode cX4_heldNow 12 = .ok (.aload_n 0, 1) := dk_42 (dk_at dksX4_heldNow_0 12 rfl rfl)
theorem dX4_heldNow_13 : decode cX4_heldNow 13 = .ok (.getfield 97, 3) := dk_180 0 97 (dk_at dksX4_heldNow_0 13 rfl rfl)
theorem dX4_heldNow_16 : decode cX4_heldNow 16 = .ok (.iconst 0, 1) := dk_3 (dk_at dksX4_heldNow_0 16 rfl rfl)
theorem dX4_heldNow_17 : decode cX4_heldNow 17 = .ok (.iload_n 2, 1) := dk_28 (dk_at dksX4_heldNow_0 17 rfl rfl)
theorem dX4_heldNow_18 : decode cX4_heldNow 18 = .ok (.iadd, 1) := dk_96 (dk_at dksX4_heldNow_0 18 rfl rfl)
theorem dX4_heldNow_19 : decode cX4_heldNow 19 = .ok (.iaload, 1) := dk_46 (dk_at dksX4_heldNow_0 19 rfl rfl)
theorem dX4_heldNow_20 : decode cX4_heldNow 20 = .ok (.ifCond .ne 9, 3) := dk_154 0 9 (dk_at dksX4_heldNow_0 20 rfl rfl)
theorem dX4_heldNow_23 : decode cX4_heldNow 23 = .ok (.iload_n 1, 1) := dk_27 (dk_at dksX4_heldNow_0 23 rfl rfl)
theorem dX4_heldNow_24 : decode cX4_heldNow 24 = .ok (.iconst 1, 1) := dk_4 (dk_at dksX4_heldNow_1 0 rfl rfl)
theorem dX4_heldNow_25 : decode cX4_heldNow 25 = .ok (.iload_n 2, 1) := dk_28 (dk_at dksX4_heldNow_1 1 rfl rfl)
theorem dX4_heldNow_26 : decode cX4_heldNow 26 = .ok (.ishl, 1) := dk_120 (dk_at dksX4_heldNow_1 2 rfl rfl)
theorem dX4_heldNow_27 : decode cX4_heldNow 27 = .ok (.ior, 1) := dk_128 (dk_at dksX4_heldNow_1 3 rfl rfl)
theorem dX4_heldNow_28 : decode cX4_heldNow 28 = .ok (.istore_n 1, 1) := dk_60 (dk_at dksX4_heldNow_1 4 rfl rfl)
theorem dX4_heldNow_29 : decode cX4_heldNow 29 = .ok (.iinc 2 1, 3) := dk_132 2 1 (dk_at dksX4_heldNow_1 5 rfl rfl)
theorem dX4_heldNow_32 : decode cX4_heldNow 32 = .ok (.goto (-28), 3) := dk_167 255 228 (dk_at dksX4_heldNow_1 8 rfl rfl)
theorem dX4_heldNow_35 : decode cX4_heldNow 35 = .ok (.iload_n 1, 1) := dk_27 (dk_at dksX4_heldNow_1 11 rfl rfl)
theorem dX4_heldNow_36 : decode cX4_heldNow 36 = .ok (.ireturn, 1) := dk_172 (dk_at dksX4_heldNow_1 12 rfl rfl)
abbrev cX4_spin : ByteArray := prog_22_method_80_code
def yX4_spin : MethodName := ⟨RX4, "spin", "(I)I"⟩
def dkwX4_spin_2 : List UInt8 := [122, 4, 126, 172]
abbrev dktX4_spin_2 : List UInt8 := dkwX4_spin_2 ++ []
def dkwX4_spin_1 : List UInt8 := [182, 1, 180, 42, 180, 0, 97, 16, 28, 92, 46, 4, 27, 120, 130, 79, 42, 180, 0, 97, 16, 28, 46, 27]
abbrev dktX4_spin_1 : List UInt8 := dkwX4_spin_1 ++ dktX4_spin_2
def dkwX4_spin_0 : List UInt8 := [27, 3, 42, 180, 0, 24, 42, 180, 0, 255, 46, 4, 100, 184, 1, 118, 154, 0, 5, 2, 172, 42]
abbrev dktX4_spin_0 : List UInt8 := dkwX4_spin_0 ++ dktX4_spin_1
theorem dksX4_spin_0 : cX4_spin.data.toList.drop 0 = dktX4_spin_0 := by decide +kernel
theorem dksX4_spin_1 : cX4_spin.data.toList.drop 22 = dktX4_spin_1 := dk_seg dksX4_spin_0 22 rfl rfl
theorem dksX4_spin_2 : cX4_spin.data.toList.drop 46 = dktX4_spin_2 := dk_seg dksX4_spin_1 24 rfl rfl
theorem dX4_spin_0 : decode cX4_spin 0 = .ok (.iload_n 1, 1) := dk_27 (dk_at dksX4_spin_0 0 rfl rfl)
theorem dX4_spin_1 : decode cX4_spin 1 = .ok (.iconst 0, 1) := dk_3 (dk_at dksX4_spin_0 1 rfl rfl)
theorem dX4_spin_2 : decode cX4_spin 2 = .ok (.aload_n 0, 1) := dk_42 (dk_at dksX4_spin_0 2 rfl rfl)
theorem dX4_spin_3 : decode cX4_spin 3 = .ok (.getfield 24, 3) := dk_180 0 24 (dk_at dksX4_spin_0 3 rfl rfl)
theorem dX4_spin_6 : decode cX4_spin 6 = .ok (.aload_n 0, 1) := dk_42 (dk_at dksX4_spin_0 6 rfl rfl)
theorem dX4_spin_7 : decode cX4_spin 7 = .ok (.getfield 255, 3) := dk_180 0 255 (dk_at dksX4_spin_0 7 rfl rfl)
theorem dX4_spin_10 : decode cX4_spin 10 = .ok (.iaload, 1) := dk_46 (dk_at dksX4_spin_0 10 rfl rfl)
theorem dX4_spin_11 : decode cX4_spin 11 = .ok (.iconst 1, 1) := dk_4 (dk_at dksX4_spin_0 11 rfl rfl)
theorem dX4_spin_12 : decode cX4_spin 12 = .ok (.isub, 1) := dk_100 (dk_at dksX4_spin_0 12 rfl rfl)
theorem dX4_spin_13 : decode cX4_spin 13 = .ok (.invokestatic 374, 3) := dk_184 1 118 (dk_at dksX4_spin_0 13 rfl rfl)
theorem dX4_spin_16 : decode cX4_spin 16 = .ok (.ifCond .ne 5, 3) := dk_154 0 5 (dk_at dksX4_spin_0 16 rfl rfl)
theorem dX4_spin_19 : decode cX4_spin 19 = .ok (.iconst (-1), 1) := dk_2 (dk_at dksX4_spin_0 19 rfl rfl)
theorem dX4_spin_20 : decode cX4_spin 20 = .ok (.ireturn, 1) := dk_172 (dk_at dksX4_spin_0 20 rfl rfl)
theorem dX4_spin_21 : decode cX4_spin 21 = .ok (.aload_n 0, 1) := dk_42 (dk_at dksX4_spin_0 21 rfl rfl)
theorem dX4_spin_22 : decode cX4_spin 22 = .ok (.invokevirtual 436, 3) := dk_182 1 180 (dk_at dksX4_spin_1 0 rfl rfl)
theorem dX4_spin_25 : decode cX4_spin 25 = .ok (.aload_n 0, 1) := dk_42 (dk_at dksX4_spin_1 3 rfl rfl)
theorem dX4_spin_26 : decode cX4_spin 26 = .ok (.getfield 97, 3) := dk_180 0 97 (dk_at dksX4_spin_1 4 rfl rfl)
theorem dX4_spin_29 : decode cX4_spin 29 = .ok (.bipush 28, 2) := dk_16 28 (dk_at dksX4_spin_1 7 rfl rfl)
theorem dX4_spin_31 : decode cX4_spin 31 = .ok (.dup2, 1) := dk_92 (dk_at dksX4_spin_1 9 rfl rfl)
theorem dX4_spin_32 : decode cX4_spin 32 = .ok (.iaload, 1) := dk_46 (dk_at dksX4_spin_1 10 rfl rfl)
theorem dX4_spin_33 : decode cX4_spin 33 = .ok (.iconst 1, 1) := dk_4 (dk_at dksX4_spin_1 11 rfl rfl)
theorem dX4_spin_34 : decode cX4_spin 34 = .ok (.iload_n 1, 1) := dk_27 (dk_at dksX4_spin_1 12 rfl rfl)
theorem dX4_spin_35 : decode cX4_spin 35 = .ok (.ishl, 1) := dk_120 (dk_at dksX4_spin_1 13 rfl rfl)
theorem dX4_spin_36 : decode cX4_spin 36 = .ok (.ixor, 1) := dk_130 (dk_at dksX4_spin_1 14 rfl rfl)
theorem dX4_spin_37 : decode cX4_spin 37 = .ok (.iastore, 1) := dk_79 (dk_at dksX4_spin_1 15 rfl rfl)
theorem dX4_spin_38 : decode cX4_spin 38 = .ok (.aload_n 0, 1) := dk_42 (dk_at dksX4_spin_1 16 rfl rfl)
theorem dX4_spin_39 : decode cX4_spin 39 = .ok (.getfield 97, 3) := dk_180 0 97 (dk_at dksX4_spin_1 17 rfl rfl)
theorem dX4_spin_42 : decode cX4_spin 42 = .ok (.bipush 28, 2) := dk_16 28 (dk_at dksX4_spin_1 20 rfl rfl)
theorem dX4_spin_44 : decode cX4_spin 44 = .ok (.iaload, 1) := dk_46 (dk_at dksX4_spin_1 22 rfl rfl)
theorem dX4_spin_45 : decode cX4_spin 45 = .ok (.iload_n 1, 1) := dk_27 (dk_at dksX4_spin_1 23 rfl rfl)
theorem dX4_spin_46 : decode cX4_spin 46 = .ok (.ishr, 1) := dk_122 (dk_at dksX4_spin_2 0 rfl rfl)
theorem dX4_spin_47 : decode cX4_spin 47 = .ok (.iconst 1, 1) := dk_4 (dk_at dksX4_spin_2 1 rfl rfl)
theorem dX4_spin_48 : decode cX4_spin 48 = .ok (.iand, 1) := dk_126 (dk_at dksX4_spin_2 2 rfl rfl)
theorem dX4_spin_49 : decode cX4_spin 49 = .ok (.ireturn, 1) := dk_172 (dk_at dksX4_spin_2 3 rfl rfl)
abbrev cX4_undo : ByteArray := prog_22_method_81_code
def yX4_undo : MethodName := ⟨RX4, "undo", "()Z"⟩
def dkwX4_undo_1 : List UInt8 := [4, 96, 181, 1, 136, 42, 182, 1, 189, 4, 172]
abbrev dktX4_undo_1 : List UInt8 := dkwX4_undo_1 ++ []
def dkwX4_undo_0 : List UInt8 := [42, 180, 1, 133, 154, 0, 5, 3, 172, 42, 89, 180, 1, 133, 4, 100, 181, 1, 133, 42, 89, 180, 1, 136]
abbrev dktX4_undo_0 : List UInt8 := dkwX4_undo_0 ++ dktX4_undo_1
theorem dksX4_undo_0 : cX4_undo.data.toList.drop 0 = dktX4_undo_0 := by decide +kernel
theorem dksX4_undo_1 : cX4_undo.data.toList.drop 24 = dktX4_undo_1 := dk_seg dksX4_undo_0 24 rfl rfl
theorem dX4_undo_0 : decode cX4_undo 0 = .ok (.aload_n 0, 1) := dk_42 (dk_at dksX4_undo_0 0 rfl rfl)
theorem dX4_undo_1 : decode cX4_undo 1 = .ok (.getfield 389, 3) := dk_180 1 133 (dk_at dksX4_undo_0 1 rfl rfl)
theorem dX4_undo_4 : decode cX4_undo 4 = .ok (.ifCond .ne 5, 3) := dk_154 0 5 (dk_at dksX4_undo_0 4 rfl rfl)
theorem dX4_undo_7 : decode cX4_undo 7 = .ok (.iconst 0, 1) := dk_3 (dk_at dksX4_undo_0 7 rfl rfl)
theorem dX4_undo_8 : decode cX4_undo 8 = .ok (.ireturn, 1) := dk_172 (dk_at dksX4_undo_0 8 rfl rfl)
theorem dX4_undo_9 : decode cX4_undo 9 = .ok (.aload_n 0, 1) := dk_42 (dk_at dksX4_undo_0 9 rfl rfl)
theorem dX4_undo_10 : decode cX4_undo 10 = .ok (.dup, 1) := dk_89 (dk_at dksX4_undo_0 10 rfl rfl)
theorem dX4_undo_11 : decode cX4_undo 11 = .ok (.getfield 389, 3) := dk_180 1 133 (dk_at dksX4_undo_0 11 rfl rfl)
theorem dX4_undo_14 : decode cX4_undo 14 = .ok (.iconst 1, 1) := dk_4 (dk_at dksX4_undo_0 14 rfl rfl)
theorem dX4_undo_15 : decode cX4_undo 15 = .ok (.isub, 1) := dk_100 (dk_at dksX4_undo_0 15 rfl rfl)
theorem dX4_undo_16 : decode cX4_undo 16 = .ok (.putfield 389, 3) := dk_181 1 133 (dk_at dksX4_undo_0 16 rfl rfl)
theorem dX4_undo_19 : decode cX4_undo 19 = .ok (.aload_n 0, 1) := dk_42 (dk_at dksX4_undo_0 19 rfl rfl)
theorem dX4_undo_20 : decode cX4_undo 20 = .ok (.dup, 1) := dk_89 (dk_at dksX4_undo_0 20 rfl rfl)
theorem dX4_undo_21 : decode cX4_undo 21 = .ok (.getfield 392, 3) := dk_180 1 136 (dk_at dksX4_undo_0 21 rfl rfl)
theorem dX4_undo_24 : decode cX4_undo 24 = .ok (.iconst 1, 1) := dk_4 (dk_at dksX4_undo_1 0 rfl rfl)
theorem dX4_undo_25 : decode cX4_undo 25 = .ok (.iadd, 1) := dk_96 (dk_at dksX4_undo_1 1 rfl rfl)
theorem dX4_undo_26 : decode cX4_undo 26 = .ok (.putfield 392, 3) := dk_181 1 136 (dk_at dksX4_undo_1 2 rfl rfl)
theorem dX4_undo_29 : decode cX4_undo 29 = .ok (.aload_n 0, 1) := dk_42 (dk_at dksX4_undo_1 5 rfl rfl)
theorem dX4_undo_30 : decode cX4_undo 30 = .ok (.invokevirtual 445, 3) := dk_182 1 189 (dk_at dksX4_undo_1 6 rfl rfl)
theorem dX4_undo_33 : decode cX4_undo 33 = .ok (.iconst 1, 1) := dk_4 (dk_at dksX4_undo_1 9 rfl rfl)
theorem dX4_undo_34 : decode cX4_undo 34 = .ok (.ireturn, 1) := dk_172 (dk_at dksX4_undo_1 10 rfl rfl)
abbrev cX4_swapAll : ByteArray := prog_22_method_74_code
def yX4_swapAll : MethodName := ⟨RX4, "swapAll", "()V"⟩
def dkwX4_swapAll_2 : List UInt8 := [28, 79, 132, 1, 1, 167, 255, 205, 177]
abbrev dktX4_swapAll_2 : List UInt8 := dkwX4_swapAll_2 ++ []
def dkwX4_swapAll_1 : List UInt8 := [180, 0, 103, 16, 29, 42, 180, 1, 133, 104, 27, 96, 42, 180, 0, 97, 27, 46, 79, 42, 180, 0, 97, 27]
abbrev dktX4_swapAll_1 : List UInt8 := dkwX4_swapAll_1 ++ dktX4_swapAll_2
def dkwX4_swapAll_0 : List UInt8 := [3, 60, 27, 16, 29, 162, 0, 51, 42, 180, 0, 103, 16, 29, 42, 180, 1, 133, 104, 27, 96, 46, 61, 42]
abbrev dktX4_swapAll_0 : List UInt8 := dkwX4_swapAll_0 ++ dktX4_swapAll_1
theorem dksX4_swapAll_0 : cX4_swapAll.data.toList.drop 0 = dktX4_swapAll_0 := by decide +kernel
theorem dksX4_swapAll_1 : cX4_swapAll.data.toList.drop 24 = dktX4_swapAll_1 := dk_seg dksX4_swapAll_0 24 rfl rfl
theorem dksX4_swapAll_2 : cX4_swapAll.data.toList.drop 48 = dktX4_swapAll_2 := dk_seg dksX4_swapAll_1 24 rfl rfl
theorem dX4_swapAll_0 : decode cX4_swapAll 0 = .ok (.iconst 0, 1) := dk_3 (dk_at dksX4_swapAll_0 0 rfl rfl)
theorem dX4_swapAll_1 : decode cX4_swapAll 1 = .ok (.istore_n 1, 1) := dk_60 (dk_at dksX4_swapAll_0 1 rfl rfl)
theorem dX4_swapAll_2 : decode cX4_swapAll 2 = .ok (.iload_n 1, 1) := dk_27 (dk_at dksX4_swapAll_0 2 rfl rfl)
theorem dX4_swapAll_3 : decode cX4_swapAll 3 = .ok (.bipush 29, 2) := dk_16 29 (dk_at dksX4_swapAll_0 3 rfl rfl)
theorem dX4_swapAll_5 : decode cX4_swapAll 5 = .ok (.if_icmp .ge 51, 3) := dk_162 0 51 (dk_at dksX4_swapAll_0 5 rfl rfl)
theorem dX4_swapAll_8 : decode cX4_swapAll 8 = .ok (.aload_n 0, 1) := dk_42 (dk_at dksX4_swapAll_0 8 rfl rfl)
theorem dX4_swapAll_9 : decode cX4_swapAll 9 = .ok (.getfield 103, 3) := dk_180 0 103 (dk_at dksX4_swapAll_0 9 rfl rfl)
theorem dX4_swapAll_12 : decode cX4_swapAll 12 = .ok (.bipush 29, 2) := dk_16 29 (dk_at dksX4_swapAll_0 12 rfl rfl)
theorem dX4_swapAll_14 : decode cX4_swapAll 14 = .ok (.aload_n 0, 1) := dk_42 (dk_at dksX4_swapAll_0 14 rfl rfl)
theorem dX4_swapAll_15 : decode cX4_swapAll 15 = .ok (.getfield 389, 3) := dk_180 1 133 (dk_at dksX4_swapAll_0 15 rfl rfl)
theorem dX4_swapAll_18 : decode cX4_swapAll 18 = .ok (.imul, 1) := dk_104 (dk_at dksX4_swapAll_0 18 rfl rfl)
theorem dX4_swapAll_19 : decode cX4_swapAll 19 = .ok (.iload_n 1, 1) := dk_27 (dk_at dksX4_swapAll_0 19 rfl rfl)
theorem dX4_swapAll_20 : decode cX4_swapAll 20 = .ok (.iadd, 1) := dk_96 (dk_at dksX4_swapAll_0 20 rfl rfl)
theorem dX4_swapAll_21 : decode cX4_swapAll 21 = .ok (.iaload, 1) := dk_46 (dk_at dksX4_swapAll_0 21 rfl rfl)
theorem dX4_swapAll_22 : decode cX4_swapAll 22 = .ok (.istore_n 2, 1) := dk_61 (dk_at dksX4_swapAll_0 22 rfl rfl)
theorem dX4_swapAll_23 : decode cX4_swapAll 23 = .ok (.aload_n 0, 1) := dk_42 (dk_at dksX4_swapAll_0 23 rfl rfl)
theorem dX4_swapAll_24 : decode cX4_swapAll 24 = .ok (.getfield 103, 3) := dk_180 0 103 (dk_at dksX4_swapAll_1 0 rfl rfl)
theorem dX4_swapAll_27 : decode cX4_swapAll 27 = .ok (.bipush 29, 2) := dk_16 29 (dk_at dksX4_swapAll_1 3 rfl rfl)
theorem dX4_swapAll_29 : decode cX4_swapAll 29 = .ok (.aload_n 0, 1) := dk_42 (dk_at dksX4_swapAll_1 5 rfl rfl)
theorem dX4_swapAll_30 : decode cX4_swapAll 30 = .ok (.getfield 389, 3) := dk_180 1 133 (dk_at dksX4_swapAll_1 6 rfl rfl)
theorem dX4_swapAll_33 : decode cX4_swapAll 33 = .ok (.imul, 1) := dk_104 (dk_at dksX4_swapAll_1 9 rfl rfl)
theorem dX4_swapAll_34 : decode cX4_swapAll 34 = .ok (.iload_n 1, 1) := dk_27 (dk_at dksX4_swapAll_1 10 rfl rfl)
theorem dX4_swapAll_35 : decode cX4_swapAll 35 = .ok (.iadd, 1) := dk_96 (dk_at dksX4_swapAll_1 11 rfl rfl)
theorem dX4_swapAll_36 : decode cX4_swapAll 36 = .ok (.aload_n 0, 1) := dk_42 (dk_at dksX4_swapAll_1 12 rfl rfl)
theorem dX4_swapAll_37 : decode cX4_swapAll 37 = .ok (.getfield 97, 3) := dk_180 0 97 (dk_at dksX4_swapAll_1 13 rfl rfl)
theorem dX4_swapAll_40 : decode cX4_swapAll 40 = .ok (.iload_n 1, 1) := dk_27 (dk_at dksX4_swapAll_1 16 rfl rfl)
theorem dX4_swapAll_41 : decode cX4_swapAll 41 = .ok (.iaload, 1) := dk_46 (dk_at dksX4_swapAll_1 17 rfl rfl)
theorem dX4_swapAll_42 : decode cX4_swapAll 42 = .ok (.iastore, 1) := dk_79 (dk_at dksX4_swapAll_1 18 rfl rfl)
theorem dX4_swapAll_43 : decode cX4_swapAll 43 = .ok (.aload_n 0, 1) := dk_42 (dk_at dksX4_swapAll_1 19 rfl rfl)
theorem dX4_swapAll_44 : decode cX4_swapAll 44 = .ok (.getfield 97, 3) := dk_180 0 97 (dk_at dksX4_swapAll_1 20 rfl rfl)
theorem dX4_swapAll_47 : decode cX4_swapAll 47 = .ok (.iload_n 1, 1) := dk_27 (dk_at dksX4_swapAll_1 23 rfl rfl)
theorem dX4_swapAll_48 : decode cX4_swapAll 48 = .ok (.iload_n 2, 1) := dk_28 (dk_at dksX4_swapAll_2 0 rfl rfl)
theorem dX4_swapAll_49 : decode cX4_swapAll 49 = .ok (.iastore, 1) := dk_79 (dk_at dksX4_swapAll_2 1 rfl rfl)
theorem dX4_swapAll_50 : decode cX4_swapAll 50 = .ok (.iinc 1 1, 3) := dk_132 1 1 (dk_at dksX4_swapAll_2 2 rfl rfl)
theorem dX4_swapAll_53 : decode cX4_swapAll 53 = .ok (.goto (-51), 3) := dk_167 255 205 (dk_at dksX4_swapAll_2 5 rfl rfl)
theorem dX4_swapAll_56 : decode cX4_swapAll 56 = .ok (.return_, 1) := dk_177 (dk_at dksX4_swapAll_2 8 rfl rfl)
abbrev cX4_redo : ByteArray := prog_22_method_82_code
def yX4_redo : MethodName := ⟨RX4, "redo", "()Z"⟩
def dkwX4_redo_1 : List UInt8 := [89, 180, 1, 136, 4, 100, 181, 1, 136, 4, 172]
abbrev dktX4_redo_1 : List UInt8 := dkwX4_redo_1 ++ []
def dkwX4_redo_0 : List UInt8 := [42, 180, 1, 136, 154, 0, 5, 3, 172, 42, 182, 1, 189, 42, 89, 180, 1, 133, 4, 96, 181, 1, 133, 42]
abbrev dktX4_redo_0 : List UInt8 := dkwX4_redo_0 ++ dktX4_redo_1
theorem dksX4_redo_0 : cX4_redo.data.toList.drop 0 = dktX4_redo_0 := by decide +kernel
theorem dksX4_redo_1 : cX4_redo.data.toList.drop 24 = dktX4_redo_1 := dk_seg dksX4_redo_0 24 rfl rfl
theorem dX4_redo_0 : decode cX4_redo 0 = .ok (.aload_n 0, 1) := dk_42 (dk_at dksX4_redo_0 0 rfl rfl)
theorem dX4_redo_1 : decode cX4_redo 1 = .ok (.getfield 392, 3) := dk_180 1 136 (dk_at dksX4_redo_0 1 rfl rfl)
theorem dX4_redo_4 : decode cX4_redo 4 = .ok (.ifCond .ne 5, 3) := dk_154 0 5 (dk_at dksX4_redo_0 4 rfl rfl)
theorem dX4_redo_7 : decode cX4_redo 7 = .ok (.iconst 0, 1) := dk_3 (dk_at dksX4_redo_0 7 rfl rfl)
theorem dX4_redo_8 : decode cX4_redo 8 = .ok (.ireturn, 1) := dk_172 (dk_at dksX4_redo_0 8 rfl rfl)
theorem dX4_redo_9 : decode cX4_redo 9 = .ok (.aload_n 0, 1) := dk_42 (dk_at dksX4_redo_0 9 rfl rfl)
theorem dX4_redo_10 : decode cX4_redo 10 = .ok (.invokevirtual 445, 3) := dk_182 1 189 (dk_at dksX4_redo_0 10 rfl rfl)
theorem dX4_redo_13 : decode cX4_redo 13 = .ok (.aload_n 0, 1) := dk_42 (dk_at dksX4_redo_0 13 rfl rfl)
theorem dX4_redo_14 : decode cX4_redo 14 = .ok (.dup, 1) := dk_89 (dk_at dksX4_redo_0 14 rfl rfl)
theorem dX4_redo_15 : decode cX4_redo 15 = .ok (.getfield 389, 3) := dk_180 1 133 (dk_at dksX4_redo_0 15 rfl rfl)
theorem dX4_redo_18 : decode cX4_redo 18 = .ok (.iconst 1, 1) := dk_4 (dk_at dksX4_redo_0 18 rfl rfl)
theorem dX4_redo_19 : decode cX4_redo 19 = .ok (.iadd, 1) := dk_96 (dk_at dksX4_redo_0 19 rfl rfl)
theorem dX4_redo_20 : decode cX4_redo 20 = .ok (.putfield 389, 3) := dk_181 1 133 (dk_at dksX4_redo_0 20 rfl rfl)
theorem dX4_redo_23 : decode cX4_redo 23 = .ok (.aload_n 0, 1) := dk_42 (dk_at dksX4_redo_0 23 rfl rfl)
theorem dX4_redo_24 : decode cX4_redo 24 = .ok (.dup, 1) := dk_89 (dk_at dksX4_redo_1 0 rfl rfl)
theorem dX4_redo_25 : decode cX4_redo 25 = .ok (.getfield 392, 3) := dk_180 1 136 (dk_at dksX4_redo_1 1 rfl rfl)
theorem dX4_redo_28 : decode cX4_redo 28 = .ok (.iconst 1, 1) := dk_4 (dk_at dksX4_redo_1 4 rfl rfl)
theorem dX4_redo_29 : decode cX4_redo 29 = .ok (.isub, 1) := dk_100 (dk_at dksX4_redo_1 5 rfl rfl)
theorem dX4_redo_30 : decode cX4_redo 30 = .ok (.putfield 392, 3) := dk_181 1 136 (dk_at dksX4_redo_1 6 rfl rfl)
theorem dX4_redo_33 : decode cX4_redo 33 = .ok (.iconst 1, 1) := dk_4 (dk_at dksX4_redo_1 9 rfl rfl)
theorem dX4_redo_34 : decode cX4_redo 34 = .ok (.ireturn, 1) := dk_172 (dk_at dksX4_redo_1 10 rfl rfl)
abbrev cX4_lies : ByteArray := prog_22_method_83_code
def yX4_lies : MethodName := ⟨RX4, "lies", "(I)I"⟩
def dkwX4_lies_1 : List UInt8 := [172]
abbrev dktX4_lies_1 : List UInt8 := dkwX4_lies_1 ++ []
def dkwX4_lies_0 : List UInt8 := [27, 3, 42, 180, 1, 142, 4, 100, 184, 1, 118, 153, 0, 12, 42, 180, 0, 106, 27, 46, 167, 0, 4, 2]
abbrev dktX4_lies_0 : List UInt8 := dkwX4_lies_0 ++ dktX4_lies_1
theorem dksX4_lies_0 : cX4_lies.data.toList.drop 0 = dktX4_lies_0 := by decide +kernel
theorem dksX4_lies_1 : cX4_lies.data.toList.drop 24 = dktX4_lies_1 := dk_seg dksX4_lies_0 24 rfl rfl
theorem dX4_lies_0 : decode cX4_lies 0 = .ok (.iload_n 1, 1) := dk_27 (dk_at dksX4_lies_0 0 rfl rfl)
theorem dX4_lies_1 : decode cX4_lies 1 = .ok (.iconst 0, 1) := dk_3 (dk_at dksX4_lies_0 1 rfl rfl)
theorem dX4_lies_2 : decode cX4_lies 2 = .ok (.aload_n 0, 1) := dk_42 (dk_at dksX4_lies_0 2 rfl rfl)
theorem dX4_lies_3 : decode cX4_lies 3 = .ok (.getfield 398, 3) := dk_180 1 142 (dk_at dksX4_lies_0 3 rfl rfl)
theorem dX4_lies_6 : decode cX4_lies 6 = .ok (.iconst 1, 1) := dk_4 (dk_at dksX4_lies_0 6 rfl rfl)
theorem dX4_lies_7 : decode cX4_lies 7 = .ok (.isub, 1) := dk_100 (dk_at dksX4_lies_0 7 rfl rfl)
theorem dX4_lies_8 : decode cX4_lies 8 = .ok (.invokestatic 374, 3) := dk_184 1 118 (dk_at dksX4_lies_0 8 rfl rfl)
theorem dX4_lies_11 : decode cX4_lies 11 = .ok (.ifCond .eq 12, 3) := dk_153 0 12 (dk_at dksX4_lies_0 11 rfl rfl)
theorem dX4_lies_14 : decode cX4_lies 14 = .ok (.aload_n 0, 1) := dk_42 (dk_at dksX4_lies_0 14 rfl rfl)
theorem dX4_lies_15 : decode cX4_lies 15 = .ok (.getfield 106, 3) := dk_180 0 106 (dk_at dksX4_lies_0 15 rfl rfl)
theorem dX4_lies_18 : decode cX4_lies 18 = .ok (.iload_n 1, 1) := dk_27 (dk_at dksX4_lies_0 18 rfl rfl)
theorem dX4_lies_19 : decode cX4_lies 19 = .ok (.iaload, 1) := dk_46 (dk_at dksX4_lies_0 19 rfl rfl)
theorem dX4_lies_20 : decode cX4_lies 20 = .ok (.goto 4, 3) := dk_167 0 4 (dk_at dksX4_lies_0 20 rfl rfl)
theorem dX4_lies_23 : decode cX4_lies 23 = .ok (.iconst (-1), 1) := dk_2 (dk_at dksX4_lies_0 23 rfl rfl)
theorem dX4_lies_24 : decode cX4_lies 24 = .ok (.ireturn, 1) := dk_172 (dk_at dksX4_lies_1 0 rfl rfl)
abbrev cX4_shortest : ByteArray := prog_22_method_87_code
def yX4_shortest : MethodName := ⟨RX4, "shortest", "(II)I"⟩
def dkwX4_shortest_1 : List UInt8 := [182, 1, 195, 28, 182, 1, 198, 167, 0, 4, 2, 172]
abbrev dktX4_shortest_1 : List UInt8 := dkwX4_shortest_1 ++ []
def dkwX4_shortest_0 : List UInt8 := [42, 27, 182, 1, 157, 153, 0, 29, 28, 3, 4, 184, 1, 118, 153, 0, 20, 42, 42, 27, 42, 182, 1, 192]
abbrev dktX4_shortest_0 : List UInt8 := dkwX4_shortest_0 ++ dktX4_shortest_1
theorem dksX4_shortest_0 : cX4_shortest.data.toList.drop 0 = dktX4_shortest_0 := by decide +kernel
theorem dksX4_shortest_1 : cX4_shortest.data.toList.drop 24 = dktX4_shortest_1 := dk_seg dksX4_shortest_0 24 rfl rfl
theorem dX4_shortest_0 : decode cX4_shortest 0 = .ok (.aload_n 0, 1) := dk_42 (dk_at dksX4_shortest_0 0 rfl rfl)
theorem dX4_shortest_1 : decode cX4_shortest 1 = .ok (.iload_n 1, 1) := dk_27 (dk_at dksX4_shortest_0 1 rfl rfl)
theorem dX4_shortest_2 : decode cX4_shortest 2 = .ok (.invokevirtual 413, 3) := dk_182 1 157 (dk_at dksX4_shortest_0 2 rfl rfl)
theorem dX4_shortest_5 : decode cX4_shortest 5 = .ok (.ifCond .eq 29, 3) := dk_153 0 29 (dk_at dksX4_shortest_0 5 rfl rfl)
theorem dX4_shortest_8 : decode cX4_shortest 8 = .ok (.iload_n 2, 1) := dk_28 (dk_at dksX4_shortest_0 8 rfl rfl)
theorem dX4_shortest_9 : decode cX4_shortest 9 = .ok (.iconst 0, 1) := dk_3 (dk_at dksX4_shortest_0 9 rfl rfl)
theorem dX4_shortest_10 : decode cX4_shortest 10 = .ok (.iconst 1, 1) := dk_4 (dk_at dksX4_shortest_0 10 rfl rfl)
theorem dX4_shortest_11 : decode cX4_shortest 11 = .ok (.invokestatic 374, 3) := dk_184 1 118 (dk_at dksX4_shortest_0 11 rfl rfl)
theorem dX4_shortest_14 : decode cX4_shortest 14 = .ok (.ifCond .eq 20, 3) := dk_153 0 20 (dk_at dksX4_shortest_0 14 rfl rfl)
theorem dX4_shortest_17 : decode cX4_shortest 17 = .ok (.aload_n 0, 1) := dk_42 (dk_at dksX4_shortest_0 17 rfl rfl)
theorem dX4_shortest_18 : decode cX4_shortest 18 = .ok (.aload_n 0, 1) := dk_42 (dk_at dksX4_shortest_0 18 rfl rfl)
theorem dX4_shortest_19 : decode cX4_shortest 19 = .ok (.iload_n 1, 1) := dk_27 (dk_at dksX4_shortest_0 19 rfl rfl)
theorem dX4_shortest_20 : decode cX4_shortest 20 = .ok (.aload_n 0, 1) := dk_42 (dk_at dksX4_shortest_0 20 rfl rfl)
theorem dX4_shortest_21 : decode cX4_shortest 21 = .ok (.invokevirtual 448, 3) := dk_182 1 192 (dk_at dksX4_shortest_0 21 rfl rfl)
theorem dX4_shortest_24 : decode cX4_shortest 24 = .ok (.invokevirtual 451, 3) := dk_182 1 195 (dk_at dksX4_shortest_1 0 rfl rfl)
theorem dX4_shortest_27 : decode cX4_shortest 27 = .ok (.iload_n 2, 1) := dk_28 (dk_at dksX4_shortest_1 3 rfl rfl)
theorem dX4_shortest_28 : decode cX4_shortest 28 = .ok (.invokevirtual 454, 3) := dk_182 1 198 (dk_at dksX4_shortest_1 4 rfl rfl)
theorem dX4_shortest_31 : decode cX4_shortest 31 = .ok (.goto 4, 3) := dk_167 0 4 (dk_at dksX4_shortest_1 7 rfl rfl)
theorem dX4_shortest_34 : decode cX4_shortest 34 = .ok (.iconst (-1), 1) := dk_2 (dk_at dksX4_shortest_1 10 rfl rfl)
theorem dX4_shortest_35 : decode cX4_shortest 35 = .ok (.ireturn, 1) := dk_172 (dk_at dksX4_shortest_1 11 rfl rfl)
abbrev cX4_allPleas : ByteArray := prog_22_method_86_code
def yX4_allPleas : MethodName := ⟨RX4, "allPleas", "()I"⟩
def dkwX4_allPleas_0 : List UInt8 := [4, 42, 182, 1, 121, 120, 4, 100, 172]
abbrev dktX4_allPleas_0 : List UInt8 := dkwX4_allPleas_0 ++ []
theorem dksX4_allPleas_0 : cX4_allPleas.data.toList.drop 0 = dktX4_allPleas_0 := by decide +kernel
theorem dX4_allPleas_0 : decode cX4_allPleas 0 = .ok (.iconst 1, 1) := dk_4 (dk_at dksX4_allPleas_0 0 rfl rfl)
theorem dX4_allPleas_1 : decode cX4_allPleas 1 = .ok (.aload_n 0, 1) := dk_42 (dk_at dksX4_allPleas_0 1 rfl rfl)
theorem dX4_allPleas_2 : decode cX4_allPleas 2 = .ok (.invokevirtual 377, 3) := dk_182 1 121 (dk_at dksX4_allPleas_0 2 rfl rfl)
theorem dX4_allPleas_5 : decode cX4_allPleas 5 = .ok (.ishl, 1) := dk_120 (dk_at dksX4_allPleas_0 5 rfl rfl)
theorem dX4_allPleas_6 : decode cX4_allPleas 6 = .ok (.iconst 1, 1) := dk_4 (dk_at dksX4_allPleas_0 6 rfl rfl)
theorem dX4_allPleas_7 : decode cX4_allPleas 7 = .ok (.isub, 1) := dk_100 (dk_at dksX4_allPleas_0 7 rfl rfl)
theorem dX4_allPleas_8 : decode cX4_allPleas 8 = .ok (.ireturn, 1) := dk_172 (dk_at dksX4_allPleas_0 8 rfl rfl)
abbrev cX4_fewestOf : ByteArray := prog_22_method_84_code
def yX4_fewestOf : MethodName := ⟨RX4, "fewestOf", "(II)I"⟩
def dkwX4_fewestOf_2 : List UInt8 := [167, 0, 16, 42, 27, 21, 4, 182, 1, 154, 158, 0, 6, 21, 4, 62, 132, 4, 1, 167, 255, 197, 29, 172]
abbrev dktX4_fewestOf_2 : List UInt8 := dkwX4_fewestOf_2 ++ []
def dkwX4_fewestOf_1 : List UInt8 := [184, 1, 60, 7, 163, 0, 35, 29, 155, 0, 18, 21, 4, 184, 1, 60, 29, 184, 1, 60, 161, 0, 6]
abbrev dktX4_fewestOf_1 : List UInt8 := dkwX4_fewestOf_1 ++ dktX4_fewestOf_2
def dkwX4_fewestOf_0 : List UInt8 := [2, 62, 4, 54, 4, 21, 4, 28, 163, 0, 59, 21, 4, 28, 2, 130, 126, 154, 0, 44, 21, 4]
abbrev dktX4_fewestOf_0 : List UInt8 := dkwX4_fewestOf_0 ++ dktX4_fewestOf_1
theorem dksX4_fewestOf_0 : cX4_fewestOf.data.toList.drop 0 = dktX4_fewestOf_0 := by decide +kernel
theorem dksX4_fewestOf_1 : cX4_fewestOf.data.toList.drop 22 = dktX4_fewestOf_1 := dk_seg dksX4_fewestOf_0 22 rfl rfl
theorem dksX4_fewestOf_2 : cX4_fewestOf.data.toList.drop 45 = dktX4_fewestOf_2 := dk_seg dksX4_fewestOf_1 23 rfl rfl
theorem dX4_fewestOf_0 : decode cX4_fewestOf 0 = .ok (.iconst (-1), 1) := dk_2 (dk_at dksX4_fewestOf_0 0 rfl rfl)
theorem dX4_fewestOf_1 : decode cX4_fewestOf 1 = .ok (.istore_n 3, 1) := dk_62 (dk_at dksX4_fewestOf_0 1 rfl rfl)
theorem dX4_fewestOf_2 : decode cX4_fewestOf 2 = .ok (.iconst 1, 1) := dk_4 (dk_at dksX4_fewestOf_0 2 rfl rfl)
theorem dX4_fewestOf_3 : decode cX4_fewestOf 3 = .ok (.istore 4, 2) := dk_54 4 (dk_at dksX4_fewestOf_0 3 rfl rfl)
theorem dX4_fewestOf_5 : decode cX4_fewestOf 5 = .ok (.iload 4, 2) := dk_21 4 (dk_at dksX4_fewestOf_0 5 rfl rfl)
theorem dX4_fewestOf_7 : decode cX4_fewestOf 7 = .ok (.iload_n 2, 1) := dk_28 (dk_at dksX4_fewestOf_0 7 rfl rfl)
theorem dX4_fewestOf_8 : decode cX4_fewestOf 8 = .ok (.if_icmp .gt 59, 3) := dk_163 0 59 (dk_at dksX4_fewestOf_0 8 rfl rfl)
theorem dX4_fewestOf_11 : decode cX4_fewestOf 11 = .ok (.iload 4, 2) := dk_21 4 (dk_at dksX4_fewestOf_0 11 rfl rfl)
theorem dX4_fewestOf_13 : decode cX4_fewestOf 13 = .ok (.iload_n 2, 1) := dk_28 (dk_at dksX4_fewestOf_0 13 rfl rfl)
theorem dX4_fewestOf_14 : decode cX4_fewestOf 14 = .ok (.iconst (-1), 1) := dk_2 (dk_at dksX4_fewestOf_0 14 rfl rfl)
theorem dX4_fewestOf_15 : decode cX4_fewestOf 15 = .ok (.ixor, 1) := dk_130 (dk_at dksX4_fewestOf_0 15 rfl rfl)
theorem dX4_fewestOf_16 : decode cX4_fewestOf 16 = .ok (.iand, 1) := dk_126 (dk_at dksX4_fewestOf_0 16 rfl rfl)
theorem dX4_fewestOf_17 : decode cX4_fewestOf 17 = .ok (.ifCond .ne 44, 3) := dk_154 0 44 (dk_at dksX4_fewestOf_0 17 rfl rfl)
theorem dX4_fewestOf_20 : decode cX4_fewestOf 20 = .ok (.iload 4, 2) := dk_21 4 (dk_at dksX4_fewestOf_0 20 rfl rfl)
theorem dX4_fewestOf_22 : decode cX4_fewestOf 22 = .ok (.invokestatic 316, 3) := dk_184 1 60 (dk_at dksX4_fewestOf_1 0 rfl rfl)
theorem dX4_fewestOf_25 : decode cX4_fewestOf 25 = .ok (.iconst 4, 1) := dk_7 (dk_at dksX4_fewestOf_1 3 rfl rfl)
theorem dX4_fewestOf_26 : decode cX4_fewestOf 26 = .ok (.if_icmp .gt 35, 3) := dk_163 0 35 (dk_at dksX4_fewestOf_1 4 rfl rfl)
theorem dX4_fewestOf_29 : decode cX4_fewestOf 29 = .ok (.iload_n 3, 1) := dk_29 (dk_at dksX4_fewestOf_1 7 rfl rfl)
theorem dX4_fewestOf_30 : decode cX4_fewestOf 30 = .ok (.ifCond .lt 18, 3) := dk_155 0 18 (dk_at dksX4_fewestOf_1 8 rfl rfl)
theorem dX4_fewestOf_33 : decode cX4_fewestOf 33 = .ok (.iload 4, 2) := dk_21 4 (dk_at dksX4_fewestOf_1 11 rfl rfl)
theorem dX4_fewestOf_35 : decode cX4_fewestOf 35 = .ok (.invokestatic 316, 3) := dk_184 1 60 (dk_at dksX4_fewestOf_1 13 rfl rfl)
theorem dX4_fewestOf_38 : decode cX4_fewestOf 38 = .ok (.iload_n 3, 1) := dk_29 (dk_at dksX4_fewestOf_1 16 rfl rfl)
theorem dX4_fewestOf_39 : decode cX4_fewestOf 39 = .ok (.invokestatic 316, 3) := dk_184 1 60 (dk_at dksX4_fewestOf_1 17 rfl rfl)
theorem dX4_fewestOf_42 : decode cX4_fewestOf 42 = .ok (.if_icmp .lt 6, 3) := dk_161 0 6 (dk_at dksX4_fewestOf_1 20 rfl rfl)
theorem dX4_fewestOf_45 : decode cX4_fewestOf 45 = .ok (.goto 16, 3) := dk_167 0 16 (dk_at dksX4_fewestOf_2 0 rfl rfl)
theorem dX4_fewestOf_48 : decode cX4_fewestOf 48 = .ok (.aload_n 0, 1) := dk_42 (dk_at dksX4_fewestOf_2 3 rfl rfl)
theorem dX4_fewestOf_49 : decode cX4_fewestOf 49 = .ok (.iload_n 1, 1) := dk_27 (dk_at dksX4_fewestOf_2 4 rfl rfl)
theorem dX4_fewestOf_50 : decode cX4_fewestOf 50 = .ok (.iload 4, 2) := dk_21 4 (dk_at dksX4_fewestOf_2 5 rfl rfl)
theorem dX4_fewestOf_52 : decode cX4_fewestOf 52 = .ok (.invokevirtual 410, 3) := dk_182 1 154 (dk_at dksX4_fewestOf_2 7 rfl rfl)
theorem dX4_fewestOf_55 : decode cX4_fewestOf 55 = .ok (.ifCond .le 6, 3) := dk_158 0 6 (dk_at dksX4_fewestOf_2 10 rfl rfl)
theorem dX4_fewestOf_58 : decode cX4_fewestOf 58 = .ok (.iload 4, 2) := dk_21 4 (dk_at dksX4_fewestOf_2 13 rfl rfl)
theorem dX4_fewestOf_60 : decode cX4_fewestOf 60 = .ok (.istore_n 3, 1) := dk_62 (dk_at dksX4_fewestOf_2 15 rfl rfl)
theorem dX4_fewestOf_61 : decode cX4_fewestOf 61 = .ok (.iinc 4 1, 3) := dk_132 4 1 (dk_at dksX4_fewestOf_2 16 rfl rfl)
theorem dX4_fewestOf_64 : decode cX4_fewestOf 64 = .ok (.goto (-59), 3) := dk_167 255 197 (dk_at dksX4_fewestOf_2 19 rfl rfl)
theorem dX4_fewestOf_67 : decode cX4_fewestOf 67 = .ok (.iload_n 3, 1) := dk_29 (dk_at dksX4_fewestOf_2 22 rfl rfl)
theorem dX4_fewestOf_68 : decode cX4_fewestOf 68 = .ok (.ireturn, 1) := dk_172 (dk_at dksX4_fewestOf_2 23 rfl rfl)
abbrev cX4_toldOf : ByteArray := prog_22_method_85_code
def yX4_toldOf : MethodName := ⟨RX4, "toldOf", "(II)I"⟩
def dkwX4_toldOf_0 : List UInt8 := [27, 156, 0, 7, 2, 167, 0, 15, 28, 154, 0, 10, 27, 184, 1, 60, 167, 0, 4, 27, 172]
abbrev dktX4_toldOf_0 : List UInt8 := dkwX4_toldOf_0 ++ []
theorem dksX4_toldOf_0 : cX4_toldOf.data.toList.drop 0 = dktX4_toldOf_0 := by decide +kernel
theorem dX4_toldOf_0 : decode cX4_toldOf 0 = .ok (.iload_n 1, 1) := dk_27 (dk_at dksX4_toldOf_0 0 rfl rfl)
theorem dX4_toldOf_1 : decode cX4_toldOf 1 = .ok (.ifCond .ge 7, 3) := dk_156 0 7 (dk_at dksX4_toldOf_0 1 rfl rfl)
theorem dX4_toldOf_4 : decode cX4_toldOf 4 = .ok (.iconst (-1), 1) := dk_2 (dk_at dksX4_toldOf_0 4 rfl rfl)
theorem dX4_toldOf_5 : decode cX4_toldOf 5 = .ok (.goto 15, 3) := dk_167 0 15 (dk_at dksX4_toldOf_0 5 rfl rfl)
theorem dX4_toldOf_8 : decode cX4_toldOf 8 = .ok (.iload_n 2, 1) := dk_28 (dk_at dksX4_toldOf_0 8 rfl rfl)
theorem dX4_toldOf_9 : decode cX4_toldOf 9 = .ok (.ifCond .ne 10, 3) := dk_154 0 10 (dk_at dksX4_toldOf_0 9 rfl rfl)
theorem dX4_toldOf_12 : decode cX4_toldOf 12 = .ok (.iload_n 1, 1) := dk_27 (dk_at dksX4_toldOf_0 12 rfl rfl)
theorem dX4_toldOf_13 : decode cX4_toldOf 13 = .ok (.invokestatic 316, 3) := dk_184 1 60 (dk_at dksX4_toldOf_0 13 rfl rfl)
theorem dX4_toldOf_16 : decode cX4_toldOf 16 = .ok (.goto 4, 3) := dk_167 0 4 (dk_at dksX4_toldOf_0 16 rfl rfl)
theorem dX4_toldOf_19 : decode cX4_toldOf 19 = .ok (.iload_n 1, 1) := dk_27 (dk_at dksX4_toldOf_0 19 rfl rfl)
theorem dX4_toldOf_20 : decode cX4_toldOf 20 = .ok (.ireturn, 1) := dk_172 (dk_at dksX4_toldOf_0 20 rfl rfl)
abbrev cX4_honest : ByteArray := prog_22_method_88_code
def yX4_honest : MethodName := ⟨RX4, "honest", "(II)I"⟩
def dkwX4_honest_1 : List UInt8 := [16, 6, 42, 180, 0, 255, 104, 27, 96, 46, 182, 1, 195, 28, 182, 1, 198, 167, 0, 4, 2, 172]
abbrev dktX4_honest_1 : List UInt8 := dkwX4_honest_1 ++ []
def dkwX4_honest_0 : List UInt8 := [42, 27, 182, 1, 157, 153, 0, 39, 28, 3, 4, 184, 1, 118, 153, 0, 30, 42, 42, 27, 42, 180, 0, 63]
abbrev dktX4_honest_0 : List UInt8 := dkwX4_honest_0 ++ dktX4_honest_1
theorem dksX4_honest_0 : cX4_honest.data.toList.drop 0 = dktX4_honest_0 := by decide +kernel
theorem dksX4_honest_1 : cX4_honest.data.toList.drop 24 = dktX4_honest_1 := dk_seg dksX4_honest_0 24 rfl rfl
theorem dX4_honest_0 : decode cX4_honest 0 = .ok (.aload_n 0, 1) := dk_42 (dk_at dksX4_honest_0 0 rfl rfl)
theorem dX4_honest_1 : decode cX4_honest 1 = .ok (.iload_n 1, 1) := dk_27 (dk_at dksX4_honest_0 1 rfl rfl)
theorem dX4_honest_2 : decode cX4_honest 2 = .ok (.invokevirtual 413, 3) := dk_182 1 157 (dk_at dksX4_honest_0 2 rfl rfl)
theorem dX4_honest_5 : decode cX4_honest 5 = .ok (.ifCond .eq 39, 3) := dk_153 0 39 (dk_at dksX4_honest_0 5 rfl rfl)
theorem dX4_honest_8 : decode cX4_honest 8 = .ok (.iload_n 2, 1) := dk_28 (dk_at dksX4_honest_0 8 rfl rfl)
theorem dX4_honest_9 : decode cX4_honest 9 = .ok (.iconst 0, 1) := dk_3 (dk_at dksX4_honest_0 9 rfl rfl)
theorem dX4_honest_10 : decode cX4_honest 10 = .ok (.iconst 1, 1) := dk_4 (dk_at dksX4_honest_0 10 rfl rfl)
theorem dX4_honest_11 : decode cX4_honest 11 = .ok (.invokestatic 374, 3) := dk_184 1 118 (dk_at dksX4_honest_0 11 rfl rfl)
theorem dX4_honest_14 : decode cX4_honest 14 = .ok (.ifCond .eq 30, 3) := dk_153 0 30 (dk_at dksX4_honest_0 14 rfl rfl)
theorem dX4_honest_17 : decode cX4_honest 17 = .ok (.aload_n 0, 1) := dk_42 (dk_at dksX4_honest_0 17 rfl rfl)
theorem dX4_honest_18 : decode cX4_honest 18 = .ok (.aload_n 0, 1) := dk_42 (dk_at dksX4_honest_0 18 rfl rfl)
theorem dX4_honest_19 : decode cX4_honest 19 = .ok (.iload_n 1, 1) := dk_27 (dk_at dksX4_honest_0 19 rfl rfl)
theorem dX4_honest_20 : decode cX4_honest 20 = .ok (.aload_n 0, 1) := dk_42 (dk_at dksX4_honest_0 20 rfl rfl)
theorem dX4_honest_21 : decode cX4_honest 21 = .ok (.getfield 63, 3) := dk_180 0 63 (dk_at dksX4_honest_0 21 rfl rfl)
theorem dX4_honest_24 : decode cX4_honest 24 = .ok (.bipush 6, 2) := dk_16 6 (dk_at dksX4_honest_1 0 rfl rfl)
theorem dX4_honest_26 : decode cX4_honest 26 = .ok (.aload_n 0, 1) := dk_42 (dk_at dksX4_honest_1 2 rfl rfl)
theorem dX4_honest_27 : decode cX4_honest 27 = .ok (.getfield 255, 3) := dk_180 0 255 (dk_at dksX4_honest_1 3 rfl rfl)
theorem dX4_honest_30 : decode cX4_honest 30 = .ok (.imul, 1) := dk_104 (dk_at dksX4_honest_1 6 rfl rfl)
theorem dX4_honest_31 : decode cX4_honest 31 = .ok (.iload_n 1, 1) := dk_27 (dk_at dksX4_honest_1 7 rfl rfl)
theorem dX4_honest_32 : decode cX4_honest 32 = .ok (.iadd, 1) := dk_96 (dk_at dksX4_honest_1 8 rfl rfl)
theorem dX4_honest_33 : decode cX4_honest 33 = .ok (.iaload, 1) := dk_46 (dk_at dksX4_honest_1 9 rfl rfl)
theorem dX4_honest_34 : decode cX4_honest 34 = .ok (.invokevirtual 451, 3) := dk_182 1 195 (dk_at dksX4_honest_1 10 rfl rfl)
theorem dX4_honest_37 : decode cX4_honest 37 = .ok (.iload_n 2, 1) := dk_28 (dk_at dksX4_honest_1 13 rfl rfl)
theorem dX4_honest_38 : decode cX4_honest 38 = .ok (.invokevirtual 454, 3) := dk_182 1 198 (dk_at dksX4_honest_1 14 rfl rfl)
theorem dX4_honest_41 : decode cX4_honest 41 = .ok (.goto 4, 3) := dk_167 0 4 (dk_at dksX4_honest_1 17 rfl rfl)
theorem dX4_honest_44 : decode cX4_honest 44 = .ok (.iconst (-1), 1) := dk_2 (dk_at dksX4_honest_1 20 rfl rfl)
theorem dX4_honest_45 : decode cX4_honest 45 = .ok (.ireturn, 1) := dk_172 (dk_at dksX4_honest_1 21 rfl rfl)
abbrev cX4_hopeless : ByteArray := prog_22_method_89_code
def yX4_hopeless : MethodName := ⟨RX4, "hopeless", "()I"⟩
def dkwX4_hopeless_1 : List UInt8 := [182, 1, 192, 182, 1, 195, 156, 0, 9, 27, 4, 28, 120, 128, 60, 132, 2, 1, 167, 255, 219, 27, 172]
abbrev dktX4_hopeless_1 : List UInt8 := dkwX4_hopeless_1 ++ []
def dkwX4_hopeless_0 : List UInt8 := [3, 60, 3, 61, 28, 42, 182, 1, 115, 162, 0, 35, 42, 28, 182, 1, 157, 153, 0, 21, 42, 28, 42]
abbrev dktX4_hopeless_0 : List UInt8 := dkwX4_hopeless_0 ++ dktX4_hopeless_1
theorem dksX4_hopeless_0 : cX4_hopeless.data.toList.drop 0 = dktX4_hopeless_0 := by decide +kernel
theorem dksX4_hopeless_1 : cX4_hopeless.data.toList.drop 23 = dktX4_hopeless_1 := dk_seg dksX4_hopeless_0 23 rfl rfl
theorem dX4_hopeless_0 : decode cX4_hopeless 0 = .ok (.iconst 0, 1) := dk_3 (dk_at dksX4_hopeless_0 0 rfl rfl)
theorem dX4_hopeless_1 : decode cX4_hopeless 1 = .ok (.istore_n 1, 1) := dk_60 (dk_at dksX4_hopeless_0 1 rfl rfl)
theorem dX4_hopeless_2 : decode cX4_hopeless 2 = .ok (.iconst 0, 1) := dk_3 (dk_at dksX4_hopeless_0 2 rfl rfl)
theorem dX4_hopeless_3 : decode cX4_hopeless 3 = .ok (.istore_n 2, 1) := dk_61 (dk_at dksX4_hopeless_0 3 rfl rfl)
theorem dX4_hopeless_4 : decode cX4_hopeless 4 = .ok (.iload_n 2, 1) := dk_28 (dk_at dksX4_hopeless_0 4 rfl rfl)
theorem dX4_hopeless_5 : decode cX4_hopeless 5 = .ok (.aload_n 0, 1) := dk_42 (dk_at dksX4_hopeless_0 5 rfl rfl)
theorem dX4_hopeless_6 : decode cX4_hopeless 6 = .ok (.invokevirtual 371, 3) := dk_182 1 115 (dk_at dksX4_hopeless_0 6 rfl rfl)
theorem dX4_hopeless_9 : decode cX4_hopeless 9 = .ok (.if_icmp .ge 35, 3) := dk_162 0 35 (dk_at dksX4_hopeless_0 9 rfl rfl)
theorem dX4_hopeless_12 : decode cX4_hopeless 12 = .ok (.aload_n 0, 1) := dk_42 (dk_at dksX4_hopeless_0 12 rfl rfl)
theorem dX4_hopeless_13 : decode cX4_hopeless 13 = .ok (.iload_n 2, 1) := dk_28 (dk_at dksX4_hopeless_0 13 rfl rfl)
theorem dX4_hopeless_14 : decode cX4_hopeless 14 = .ok (.invokevirtual 413, 3) := dk_182 1 157 (dk_at dksX4_hopeless_0 14 rfl rfl)
theorem dX4_hopeless_17 : decode cX4_hopeless 17 = .ok (.ifCond .eq 21, 3) := dk_153 0 21 (dk_at dksX4_hopeless_0 17 rfl rfl)
theorem dX4_hopeless_20 : decode cX4_hopeless 20 = .ok (.aload_n 0, 1) := dk_42 (dk_at dksX4_hopeless_0 20 rfl rfl)
theorem dX4_hopeless_21 : decode cX4_hopeless 21 = .ok (.iload_n 2, 1) := dk_28 (dk_at dksX4_hopeless_0 21 rfl rfl)
theorem dX4_hopeless_22 : decode cX4_hopeless 22 = .ok (.aload_n 0, 1) := dk_42 (dk_at dksX4_hopeless_0 22 rfl rfl)
theorem dX4_hopeless_23 : decode cX4_hopeless 23 = .ok (.invokevirtual 448, 3) := dk_182 1 192 (dk_at dksX4_hopeless_1 0 rfl rfl)
theorem dX4_hopeless_26 : decode cX4_hopeless 26 = .ok (.invokevirtual 451, 3) := dk_182 1 195 (dk_at dksX4_hopeless_1 3 rfl rfl)
theorem dX4_hopeless_29 : decode cX4_hopeless 29 = .ok (.ifCond .ge 9, 3) := dk_156 0 9 (dk_at dksX4_hopeless_1 6 rfl rfl)
theorem dX4_hopeless_32 : decode cX4_hopeless 32 = .ok (.iload_n 1, 1) := dk_27 (dk_at dksX4_hopeless_1 9 rfl rfl)
theorem dX4_hopeless_33 : decode cX4_hopeless 33 = .ok (.iconst 1, 1) := dk_4 (dk_at dksX4_hopeless_1 10 rfl rfl)
theorem dX4_hopeless_34 : decode cX4_hopeless 34 = .ok (.iload_n 2, 1) := dk_28 (dk_at dksX4_hopeless_1 11 rfl rfl)
theorem dX4_hopeless_35 : decode cX4_hopeless 35 = .ok (.ishl, 1) := dk_120 (dk_at dksX4_hopeless_1 12 rfl rfl)
theorem dX4_hopeless_36 : decode cX4_hopeless 36 = .ok (.ior, 1) := dk_128 (dk_at dksX4_hopeless_1 13 rfl rfl)
theorem dX4_hopeless_37 : decode cX4_hopeless 37 = .ok (.istore_n 1, 1) := dk_60 (dk_at dksX4_hopeless_1 14 rfl rfl)
theorem dX4_hopeless_38 : decode cX4_hopeless 38 = .ok (.iinc 2 1, 3) := dk_132 2 1 (dk_at dksX4_hopeless_1 15 rfl rfl)
theorem dX4_hopeless_41 : decode cX4_hopeless 41 = .ok (.goto (-37), 3) := dk_167 255 219 (dk_at dksX4_hopeless_1 18 rfl rfl)
theorem dX4_hopeless_44 : decode cX4_hopeless 44 = .ok (.iload_n 1, 1) := dk_27 (dk_at dksX4_hopeless_1 21 rfl rfl)
theorem dX4_hopeless_45 : decode cX4_hopeless 45 = .ok (.ireturn, 1) := dk_172 (dk_at dksX4_hopeless_1 22 rfl rfl)
abbrev cX4_advice : ByteArray := prog_22_method_90_code
def yX4_advice : MethodName := ⟨RX4, "advice", "(II)I"⟩
def dkwX4_advice_5 : List UInt8 := [167, 255, 182, 29, 156, 0, 9, 19, 1, 173, 167, 0, 13, 28, 154, 0, 7, 29, 167, 0, 5, 21, 4, 172]
abbrev dktX4_advice_5 : List UInt8 := dkwX4_advice_5 ++ []
def dkwX4_advice_4 : List UInt8 := [29, 155, 0, 13, 21, 6, 21, 4, 163, 0, 6, 167, 0, 10, 21, 5, 62, 21, 6, 54, 4, 132, 5, 1]
abbrev dktX4_advice_4 : List UInt8 := dkwX4_advice_4 ++ dktX4_advice_5
def dkwX4_advice_3 : List UInt8 := [167, 0, 45, 42, 27, 42, 180, 0, 97, 16, 6, 27, 96, 46, 4, 21, 5, 120, 128, 182, 1, 154, 54, 6]
abbrev dktX4_advice_3 : List UInt8 := dkwX4_advice_3 ++ dktX4_advice_4
def dkwX4_advice_2 : List UInt8 := [182, 1, 121, 162, 0, 71, 42, 180, 0, 97, 16, 6, 27, 96, 46, 21, 5, 184, 1, 8, 153, 0, 6]
abbrev dktX4_advice_2 : List UInt8 := dkwX4_advice_2 ++ dktX4_advice_3
def dkwX4_advice_1 : List UInt8 := [96, 46, 184, 1, 60, 7, 160, 0, 7, 19, 1, 173, 172, 2, 62, 3, 54, 4, 3, 54, 5, 21, 5, 42]
abbrev dktX4_advice_1 : List UInt8 := dkwX4_advice_1 ++ dktX4_advice_2
def dkwX4_advice_0 : List UInt8 := [42, 27, 182, 1, 157, 153, 0, 28, 28, 3, 4, 184, 1, 118, 153, 0, 19, 42, 180, 0, 97, 16, 6, 27]
abbrev dktX4_advice_0 : List UInt8 := dkwX4_advice_0 ++ dktX4_advice_1
theorem dksX4_advice_0 : cX4_advice.data.toList.drop 0 = dktX4_advice_0 := by decide +kernel
theorem dksX4_advice_1 : cX4_advice.data.toList.drop 24 = dktX4_advice_1 := dk_seg dksX4_advice_0 24 rfl rfl
theorem dksX4_advice_2 : cX4_advice.data.toList.drop 48 = dktX4_advice_2 := dk_seg dksX4_advice_1 24 rfl rfl
theorem dksX4_advice_3 : cX4_advice.data.toList.drop 71 = dktX4_advice_3 := dk_seg dksX4_advice_2 23 rfl rfl
theorem dksX4_advice_4 : cX4_advice.data.toList.drop 95 = dktX4_advice_4 := dk_seg dksX4_advice_3 24 rfl rfl
theorem dksX4_advice_5 : cX4_advice.data.toList.drop 119 = dktX4_advice_5 := dk_seg dksX4_advice_4 24 rfl rfl
theorem dX4_advice_0 : decode cX4_advice 0 = .ok (.aload_n 0, 1) := dk_42 (dk_at dksX4_advice_0 0 rfl rfl)
theorem dX4_advice_1 : decode cX4_advice 1 = .ok (.iload_n 1, 1) := dk_27 (dk_at dksX4_advice_0 1 rfl rfl)
theorem dX4_advice_2 : decode cX4_advice 2 = .ok (.invokevirtual 413, 3) := dk_182 1 157 (dk_at dksX4_advice_0 2 rfl rfl)
theorem dX4_advice_5 : decode cX4_advice 5 = .ok (.ifCond .eq 28, 3) := dk_153 0 28 (dk_at dksX4_advice_0 5 rfl rfl)
theorem dX4_advice_8 : decode cX4_advice 8 = .ok (.iload_n 2, 1) := dk_28 (dk_at dksX4_advice_0 8 rfl rfl)
theorem dX4_advice_9 : decode cX4_advice 9 = .ok (.iconst 0, 1) := dk_3 (dk_at dksX4_advice_0 9 rfl rfl)
theorem dX4_advice_10 : decode cX4_advice 10 = .ok (.iconst 1, 1) := dk_4 (dk_at dksX4_advice_0 10 rfl rfl)
theorem dX4_advice_11 : decode cX4_advice 11 = .ok (.invokestatic 374, 3) := dk_184 1 118 (dk_at dksX4_advice_0 11 rfl rfl)
theorem dX4_advice_14 : decode cX4_advice 14 = .ok (.ifCond .eq 19, 3) := dk_153 0 19 (dk_at dksX4_advice_0 14 rfl rfl)
theorem dX4_advice_17 : decode cX4_advice 17 = .ok (.aload_n 0, 1) := dk_42 (dk_at dksX4_advice_0 17 rfl rfl)
theorem dX4_advice_18 : decode cX4_advice 18 = .ok (.getfield 97, 3) := dk_180 0 97 (dk_at dksX4_advice_0 18 rfl rfl)
theorem dX4_advice_21 : decode cX4_advice 21 = .ok (.bipush 6, 2) := dk_16 6 (dk_at dksX4_advice_0 21 rfl rfl)
theorem dX4_advice_23 : decode cX4_advice 23 = .ok (.iload_n 1, 1) := dk_27 (dk_at dksX4_advice_0 23 rfl rfl)
theorem dX4_advice_24 : decode cX4_advice 24 = .ok (.iadd, 1) := dk_96 (dk_at dksX4_advice_1 0 rfl rfl)
theorem dX4_advice_25 : decode cX4_advice 25 = .ok (.iaload, 1) := dk_46 (dk_at dksX4_advice_1 1 rfl rfl)
theorem dX4_advice_26 : decode cX4_advice 26 = .ok (.invokestatic 316, 3) := dk_184 1 60 (dk_at dksX4_advice_1 2 rfl rfl)
theorem dX4_advice_29 : decode cX4_advice 29 = .ok (.iconst 4, 1) := dk_7 (dk_at dksX4_advice_1 5 rfl rfl)
theorem dX4_advice_30 : decode cX4_advice 30 = .ok (.if_icmp .ne 7, 3) := dk_160 0 7 (dk_at dksX4_advice_1 6 rfl rfl)
theorem dX4_advice_33 : decode cX4_advice 33 = .ok (.ldc_w 429, 3) := dk_19 1 173 (dk_at dksX4_advice_1 9 rfl rfl)
theorem dX4_advice_36 : decode cX4_advice 36 = .ok (.ireturn, 1) := dk_172 (dk_at dksX4_advice_1 12 rfl rfl)
theorem dX4_advice_37 : decode cX4_advice 37 = .ok (.iconst (-1), 1) := dk_2 (dk_at dksX4_advice_1 13 rfl rfl)
theorem dX4_advice_38 : decode cX4_advice 38 = .ok (.istore_n 3, 1) := dk_62 (dk_at dksX4_advice_1 14 rfl rfl)
theorem dX4_advice_39 : decode cX4_advice 39 = .ok (.iconst 0, 1) := dk_3 (dk_at dksX4_advice_1 15 rfl rfl)
theorem dX4_advice_40 : decode cX4_advice 40 = .ok (.istore 4, 2) := dk_54 4 (dk_at dksX4_advice_1 16 rfl rfl)
theorem dX4_advice_42 : decode cX4_advice 42 = .ok (.iconst 0, 1) := dk_3 (dk_at dksX4_advice_1 18 rfl rfl)
theorem dX4_advice_43 : decode cX4_advice 43 = .ok (.istore 5, 2) := dk_54 5 (dk_at dksX4_advice_1 19 rfl rfl)
theorem dX4_advice_45 : decode cX4_advice 45 = .ok (.iload 5, 2) := dk_21 5 (dk_at dksX4_advice_1 21 rfl rfl)
theorem dX4_advice_47 : decode cX4_advice 47 = .ok (.aload_n 0, 1) := dk_42 (dk_at dksX4_advice_1 23 rfl rfl)
theorem dX4_advice_48 : decode cX4_advice 48 = .ok (.invokevirtual 377, 3) := dk_182 1 121 (dk_at dksX4_advice_2 0 rfl rfl)
theorem dX4_advice_51 : decode cX4_advice 51 = .ok (.if_icmp .ge 71, 3) := dk_162 0 71 (dk_at dksX4_advice_2 3 rfl rfl)
theorem dX4_advice_54 : decode cX4_advice 54 = .ok (.aload_n 0, 1) := dk_42 (dk_at dksX4_advice_2 6 rfl rfl)
theorem dX4_advice_55 : decode cX4_advice 55 = .ok (.getfield 97, 3) := dk_180 0 97 (dk_at dksX4_advice_2 7 rfl rfl)
theorem dX4_advice_58 : decode cX4_advice 58 = .ok (.bipush 6, 2) := dk_16 6 (dk_at dksX4_advice_2 10 rfl rfl)
theorem dX4_advice_60 : decode cX4_advice 60 = .ok (.iload_n 1, 1) := dk_27 (dk_at dksX4_advice_2 12 rfl rfl)
theorem dX4_advice_61 : decode cX4_advice 61 = .ok (.iadd, 1) := dk_96 (dk_at dksX4_advice_2 13 rfl rfl)
theorem dX4_advice_62 : decode cX4_advice 62 = .ok (.iaload, 1) := dk_46 (dk_at dksX4_advice_2 14 rfl rfl)
theorem dX4_advice_63 : decode cX4_advice 63 = .ok (.iload 5, 2) := dk_21 5 (dk_at dksX4_advice_2 15 rfl rfl)
theorem dX4_advice_65 : decode cX4_advice 65 = .ok (.invokestatic 264, 3) := dk_184 1 8 (dk_at dksX4_advice_2 17 rfl rfl)
theorem dX4_advice_68 : decode cX4_advice 68 = .ok (.ifCond .eq 6, 3) := dk_153 0 6 (dk_at dksX4_advice_2 20 rfl rfl)
theorem dX4_advice_71 : decode cX4_advice 71 = .ok (.goto 45, 3) := dk_167 0 45 (dk_at dksX4_advice_3 0 rfl rfl)
theorem dX4_advice_74 : decode cX4_advice 74 = .ok (.aload_n 0, 1) := dk_42 (dk_at dksX4_advice_3 3 rfl rfl)
theorem dX4_advice_75 : decode cX4_advice 75 = .ok (.iload_n 1, 1) := dk_27 (dk_at dksX4_advice_3 4 rfl rfl)
theorem dX4_advice_76 : decode cX4_advice 76 = .ok (.aload_n 0, 1) := dk_42 (dk_at dksX4_advice_3 5 rfl rfl)
theorem dX4_advice_77 : decode cX4_advice 77 = .ok (.getfield 97, 3) := dk_180 0 97 (dk_at dksX4_advice_3 6 rfl rfl)
theorem dX4_advice_80 : decode cX4_advice 80 = .ok (.bipush 6, 2) := dk_16 6 (dk_at dksX4_advice_3 9 rfl rfl)
theorem dX4_advice_82 : decode cX4_advice 82 = .ok (.iload_n 1, 1) := dk_27 (dk_at dksX4_advice_3 11 rfl rfl)
theorem dX4_advice_83 : decode cX4_advice 83 = .ok (.iadd, 1) := dk_96 (dk_at dksX4_advice_3 12 rfl rfl)
theorem dX4_advice_84 : decode cX4_advice 84 = .ok (.iaload, 1) := dk_46 (dk_at dksX4_advice_3 13 rfl rfl)
theorem dX4_advice_85 : decode cX4_advice 85 = .ok (.iconst 1, 1) := dk_4 (dk_at dksX4_advice_3 14 rfl rfl)
theorem dX4_advice_86 : decode cX4_advice 86 = .ok (.iload 5, 2) := dk_21 5 (dk_at dksX4_advice_3 15 rfl rfl)
theorem dX4_advice_88 : decode cX4_advice 88 = .ok (.ishl, 1) := dk_120 (dk_at dksX4_advice_3 17 rfl rfl)
theorem dX4_advice_89 : decode cX4_advice 89 = .ok (.ior, 1) := dk_128 (dk_at dksX4_advice_3 18 rfl rfl)
theorem dX4_advice_90 : decode cX4_advice 90 = .ok (.invokevirtual 410, 3) := dk_182 1 154 (dk_at dksX4_advice_3 19 rfl rfl)
theorem dX4_advice_93 : decode cX4_advice 93 = .ok (.istore 6, 2) := dk_54 6 (dk_at dksX4_advice_3 22 rfl rfl)
theorem dX4_advice_95 : decode cX4_advice 95 = .ok (.iload_n 3, 1) := dk_29 (dk_at dksX4_advice_4 0 rfl rfl)
theorem dX4_advice_96 : decode cX4_advice 96 = .ok (.ifCond .lt 13, 3) := dk_155 0 13 (dk_at dksX4_advice_4 1 rfl rfl)
theorem dX4_advice_99 : decode cX4_advice 99 = .ok (.iload 6, 2) := dk_21 6 (dk_at dksX4_advice_4 4 rfl rfl)
theorem dX4_advice_101 : decode cX4_advice 101 = .ok (.iload 4, 2) := dk_21 4 (dk_at dksX4_advice_4 6 rfl rfl)
theorem dX4_advice_103 : decode cX4_advice 103 = .ok (.if_icmp .gt 6, 3) := dk_163 0 6 (dk_at dksX4_advice_4 8 rfl rfl)
theorem dX4_advice_106 : decode cX4_advice 106 = .ok (.goto 10, 3) := dk_167 0 10 (dk_at dksX4_advice_4 11 rfl rfl)
theorem dX4_advice_109 : decode cX4_advice 109 = .ok (.iload 5, 2) := dk_21 5 (dk_at dksX4_advice_4 14 rfl rfl)
theorem dX4_advice_111 : decode cX4_advice 111 = .ok (.istore_n 3, 1) := dk_62 (dk_at dksX4_advice_4 16 rfl rfl)
theorem dX4_advice_112 : decode cX4_advice 112 = .ok (.iload 6, 2) := dk_21 6 (dk_at dksX4_advice_4 17 rfl rfl)
theorem dX4_advice_114 : decode cX4_advice 114 = .ok (.istore 4, 2) := dk_54 4 (dk_at dksX4_advice_4 19 rfl rfl)
theorem dX4_advice_116 : decode cX4_advice 116 = .ok (.iinc 5 1, 3) := dk_132 5 1 (dk_at dksX4_advice_4 21 rfl rfl)
theorem dX4_advice_119 : decode cX4_advice 119 = .ok (.goto (-74), 3) := dk_167 255 182 (dk_at dksX4_advice_5 0 rfl rfl)
theorem dX4_advice_122 : decode cX4_advice 122 = .ok (.iload_n 3, 1) := dk_29 (dk_at dksX4_advice_5 3 rfl rfl)
theorem dX4_advice_123 : decode cX4_advice 123 = .ok (.ifCond .ge 9, 3) := dk_156 0 9 (dk_at dksX4_advice_5 4 rfl rfl)
theorem dX4_advice_126 : decode cX4_advice 126 = .ok (.ldc_w 429, 3) := dk_19 1 173 (dk_at dksX4_advice_5 7 rfl rfl)
theorem dX4_advice_129 : decode cX4_advice 129 = .ok (.goto 13, 3) := dk_167 0 13 (dk_at dksX4_advice_5 10 rfl rfl)
theorem dX4_advice_132 : decode cX4_advice 132 = .ok (.iload_n 2, 1) := dk_28 (dk_at dksX4_advice_5 13 rfl rfl)
theorem dX4_advice_133 : decode cX4_advice 133 = .ok (.ifCond .ne 7, 3) := dk_154 0 7 (dk_at dksX4_advice_5 14 rfl rfl)
theorem dX4_advice_136 : decode cX4_advice 136 = .ok (.iload_n 3, 1) := dk_29 (dk_at dksX4_advice_5 17 rfl rfl)
theorem dX4_advice_137 : decode cX4_advice 137 = .ok (.goto 5, 3) := dk_167 0 5 (dk_at dksX4_advice_5 18 rfl rfl)
theorem dX4_advice_140 : decode cX4_advice 140 = .ok (.iload 4, 2) := dk_21 4 (dk_at dksX4_advice_5 21 rfl rfl)
theorem dX4_advice_142 : decode cX4_advice 142 = .ok (.ireturn, 1) := dk_172 (dk_at dksX4_advice_5 23 rfl rfl)
abbrev cX4_forbid : ByteArray := prog_22_method_91_code
def yX4_forbid : MethodName := ⟨RX4, "forbid", "(I)I"⟩
def dkwX4_forbid_5 : List UInt8 := [156, 0, 7, 2, 167, 0, 12, 27, 154, 0, 7, 28, 167, 0, 4, 29, 172]
abbrev dktX4_forbid_5 : List UInt8 := dkwX4_forbid_5 ++ []
def dkwX4_forbid_4 : List UInt8 := [21, 5, 29, 161, 0, 6, 167, 0, 9, 21, 4, 61, 21, 5, 62, 132, 4, 1, 167, 255, 163, 28]
abbrev dktX4_forbid_4 : List UInt8 := dkwX4_forbid_4 ++ dktX4_forbid_5
def dkwX4_forbid_3 : List UInt8 := [120, 2, 130, 126, 182, 1, 154, 158, 0, 7, 4, 167, 0, 4, 3, 96, 54, 5, 132, 6, 1, 167, 255, 199]
abbrev dktX4_forbid_3 : List UInt8 := dkwX4_forbid_3 ++ dktX4_forbid_4
def dkwX4_forbid_2 : List UInt8 := [21, 6, 182, 1, 157, 153, 0, 33, 42, 21, 6, 42, 180, 0, 97, 16, 6, 21, 6, 96, 46, 4, 21, 4]
abbrev dktX4_forbid_2 : List UInt8 := dkwX4_forbid_2 ++ dktX4_forbid_3
def dkwX4_forbid_1 : List UInt8 := [182, 1, 121, 162, 0, 90, 3, 54, 5, 3, 54, 6, 21, 6, 42, 182, 1, 115, 162, 0, 54, 21, 5, 42]
abbrev dktX4_forbid_1 : List UInt8 := dkwX4_forbid_1 ++ dktX4_forbid_2
def dkwX4_forbid_0 : List UInt8 := [27, 3, 4, 184, 1, 118, 154, 0, 5, 2, 172, 2, 61, 17, 3, 232, 62, 3, 54, 4, 21, 4, 42]
abbrev dktX4_forbid_0 : List UInt8 := dkwX4_forbid_0 ++ dktX4_forbid_1
theorem dksX4_forbid_0 : cX4_forbid.data.toList.drop 0 = dktX4_forbid_0 := by decide +kernel
theorem dksX4_forbid_1 : cX4_forbid.data.toList.drop 23 = dktX4_forbid_1 := dk_seg dksX4_forbid_0 23 rfl rfl
theorem dksX4_forbid_2 : cX4_forbid.data.toList.drop 47 = dktX4_forbid_2 := dk_seg dksX4_forbid_1 24 rfl rfl
theorem dksX4_forbid_3 : cX4_forbid.data.toList.drop 71 = dktX4_forbid_3 := dk_seg dksX4_forbid_2 24 rfl rfl
theorem dksX4_forbid_4 : cX4_forbid.data.toList.drop 95 = dktX4_forbid_4 := dk_seg dksX4_forbid_3 24 rfl rfl
theorem dksX4_forbid_5 : cX4_forbid.data.toList.drop 117 = dktX4_forbid_5 := dk_seg dksX4_forbid_4 22 rfl rfl
theorem dX4_forbid_0 : decode cX4_forbid 0 = .ok (.iload_n 1, 1) := dk_27 (dk_at dksX4_forbid_0 0 rfl rfl)
theorem dX4_forbid_1 : decode cX4_forbid 1 = .ok (.iconst 0, 1) := dk_3 (dk_at dksX4_forbid_0 1 rfl rfl)
theorem dX4_forbid_2 : decode cX4_forbid 2 = .ok (.iconst 1, 1) := dk_4 (dk_at dksX4_forbid_0 2 rfl rfl)
theorem dX4_forbid_3 : decode cX4_forbid 3 = .ok (.invokestatic 374, 3) := dk_184 1 118 (dk_at dksX4_forbid_0 3 rfl rfl)
theorem dX4_forbid_6 : decode cX4_forbid 6 = .ok (.ifCond .ne 5, 3) := dk_154 0 5 (dk_at dksX4_forbid_0 6 rfl rfl)
theorem dX4_forbid_9 : decode cX4_forbid 9 = .ok (.iconst (-1), 1) := dk_2 (dk_at dksX4_forbid_0 9 rfl rfl)
theorem dX4_forbid_10 : decode cX4_forbid 10 = .ok (.ireturn, 1) := dk_172 (dk_at dksX4_forbid_0 10 rfl rfl)
theorem dX4_forbid_11 : decode cX4_forbid 11 = .ok (.iconst (-1), 1) := dk_2 (dk_at dksX4_forbid_0 11 rfl rfl)
theorem dX4_forbid_12 : decode cX4_forbid 12 = .ok (.istore_n 2, 1) := dk_61 (dk_at dksX4_forbid_0 12 rfl rfl)
theorem dX4_forbid_13 : decode cX4_forbid 13 = .ok (.sipush 1000, 3) := dk_17 3 232 (dk_at dksX4_forbid_0 13 rfl rfl)
theorem dX4_forbid_16 : decode cX4_forbid 16 = .ok (.istore_n 3, 1) := dk_62 (dk_at dksX4_forbid_0 16 rfl rfl)
theorem dX4_forbid_17 : decode cX4_forbid 17 = .ok (.iconst 0, 1) := dk_3 (dk_at dksX4_forbid_0 17 rfl rfl)
theorem dX4_forbid_18 : decode cX4_forbid 18 = .ok (.istore 4, 2) := dk_54 4 (dk_at dksX4_forbid_0 18 rfl rfl)
theorem dX4_forbid_20 : decode cX4_forbid 20 = .ok (.iload 4, 2) := dk_21 4 (dk_at dksX4_forbid_0 20 rfl rfl)
theorem dX4_forbid_22 : decode cX4_forbid 22 = .ok (.aload_n 0, 1) := dk_42 (dk_at dksX4_forbid_0 22 rfl rfl)
theorem dX4_forbid_23 : decode cX4_forbid 23 = .ok (.invokevirtual 377, 3) := dk_182 1 121 (dk_at dksX4_forbid_1 0 rfl rfl)
theorem dX4_forbid_26 : decode cX4_forbid 26 = .ok (.if_icmp .ge 90, 3) := dk_162 0 90 (dk_at dksX4_forbid_1 3 rfl rfl)
theorem dX4_forbid_29 : decode cX4_forbid 29 = .ok (.iconst 0, 1) := dk_3 (dk_at dksX4_forbid_1 6 rfl rfl)
theorem dX4_forbid_30 : decode cX4_forbid 30 = .ok (.istore 5, 2) := dk_54 5 (dk_at dksX4_forbid_1 7 rfl rfl)
theorem dX4_forbid_32 : decode cX4_forbid 32 = .ok (.iconst 0, 1) := dk_3 (dk_at dksX4_forbid_1 9 rfl rfl)
theorem dX4_forbid_33 : decode cX4_forbid 33 = .ok (.istore 6, 2) := dk_54 6 (dk_at dksX4_forbid_1 10 rfl rfl)
theorem dX4_forbid_35 : decode cX4_forbid 35 = .ok (.iload 6, 2) := dk_21 6 (dk_at dksX4_forbid_1 12 rfl rfl)
theorem dX4_forbid_37 : decode cX4_forbid 37 = .ok (.aload_n 0, 1) := dk_42 (dk_at dksX4_forbid_1 14 rfl rfl)
theorem dX4_forbid_38 : decode cX4_forbid 38 = .ok (.invokevirtual 371, 3) := dk_182 1 115 (dk_at dksX4_forbid_1 15 rfl rfl)
theorem dX4_forbid_41 : decode cX4_forbid 41 = .ok (.if_icmp .ge 54, 3) := dk_162 0 54 (dk_at dksX4_forbid_1 18 rfl rfl)
theorem dX4_forbid_44 : decode cX4_forbid 44 = .ok (.iload 5, 2) := dk_21 5 (dk_at dksX4_forbid_1 21 rfl rfl)
theorem dX4_forbid_46 : decode cX4_forbid 46 = .ok (.aload_n 0, 1) := dk_42 (dk_at dksX4_forbid_1 23 rfl rfl)
theorem dX4_forbid_47 : decode cX4_forbid 47 = .ok (.iload 6, 2) := dk_21 6 (dk_at dksX4_forbid_2 0 rfl rfl)
theorem dX4_forbid_49 : decode cX4_forbid 49 = .ok (.invokevirtual 413, 3) := dk_182 1 157 (dk_at dksX4_forbid_2 2 rfl rfl)
theorem dX4_forbid_52 : decode cX4_forbid 52 = .ok (.ifCond .eq 33, 3) := dk_153 0 33 (dk_at dksX4_forbid_2 5 rfl rfl)
theorem dX4_forbid_55 : decode cX4_forbid 55 = .ok (.aload_n 0, 1) := dk_42 (dk_at dksX4_forbid_2 8 rfl rfl)
theorem dX4_forbid_56 : decode cX4_forbid 56 = .ok (.iload 6, 2) := dk_21 6 (dk_at dksX4_forbid_2 9 rfl rfl)
theorem dX4_forbid_58 : decode cX4_forbid 58 = .ok (.aload_n 0, 1) := dk_42 (dk_at dksX4_forbid_2 11 rfl rfl)
theorem dX4_forbid_59 : decode cX4_forbid 59 = .ok (.getfield 97, 3) := dk_180 0 97 (dk_at dksX4_forbid_2 12 rfl rfl)
theorem dX4_forbid_62 : decode cX4_forbid 62 = .ok (.bipush 6, 2) := dk_16 6 (dk_at dksX4_forbid_2 15 rfl rfl)
theorem dX4_forbid_64 : decode cX4_forbid 64 = .ok (.iload 6, 2) := dk_21 6 (dk_at dksX4_forbid_2 17 rfl rfl)
theorem dX4_forbid_66 : decode cX4_forbid 66 = .ok (.iadd, 1) := dk_96 (dk_at dksX4_forbid_2 19 rfl rfl)
theorem dX4_forbid_67 : decode cX4_forbid 67 = .ok (.iaload, 1) := dk_46 (dk_at dksX4_forbid_2 20 rfl rfl)
theorem dX4_forbid_68 : decode cX4_forbid 68 = .ok (.iconst 1, 1) := dk_4 (dk_at dksX4_forbid_2 21 rfl rfl)
theorem dX4_forbid_69 : decode cX4_forbid 69 = .ok (.iload 4, 2) := dk_21 4 (dk_at dksX4_forbid_2 22 rfl rfl)
theorem dX4_forbid_71 : decode cX4_forbid 71 = .ok (.ishl, 1) := dk_120 (dk_at dksX4_forbid_3 0 rfl rfl)
theorem dX4_forbid_72 : decode cX4_forbid 72 = .ok (.iconst (-1), 1) := dk_2 (dk_at dksX4_forbid_3 1 rfl rfl)
theorem dX4_forbid_73 : decode cX4_forbid 73 = .ok (.ixor, 1) := dk_130 (dk_at dksX4_forbid_3 2 rfl rfl)
theorem dX4_forbid_74 : decode cX4_forbid 74 = .ok (.iand, 1) := dk_126 (dk_at dksX4_forbid_3 3 rfl rfl)
theorem dX4_forbid_75 : decode cX4_forbid 75 = .ok (.invokevirtual 410, 3) := dk_182 1 154 (dk_at dksX4_forbid_3 4 rfl rfl)
theorem dX4_forbid_78 : decode cX4_forbid 78 = .ok (.ifCond .le 7, 3) := dk_158 0 7 (dk_at dksX4_forbid_3 7 rfl rfl)
theorem dX4_forbid_81 : decode cX4_forbid 81 = .ok (.iconst 1, 1) := dk_4 (dk_at dksX4_forbid_3 10 rfl rfl)
theorem dX4_forbid_82 : decode cX4_forbid 82 = .ok (.goto 4, 3) := dk_167 0 4 (dk_at dksX4_forbid_3 11 rfl rfl)
theorem dX4_forbid_85 : decode cX4_forbid 85 = .ok (.iconst 0, 1) := dk_3 (dk_at dksX4_forbid_3 14 rfl rfl)
theorem dX4_forbid_86 : decode cX4_forbid 86 = .ok (.iadd, 1) := dk_96 (dk_at dksX4_forbid_3 15 rfl rfl)
theorem dX4_forbid_87 : decode cX4_forbid 87 = .ok (.istore 5, 2) := dk_54 5 (dk_at dksX4_forbid_3 16 rfl rfl)
theorem dX4_forbid_89 : decode cX4_forbid 89 = .ok (.iinc 6 1, 3) := dk_132 6 1 (dk_at dksX4_forbid_3 18 rfl rfl)
theorem dX4_forbid_92 : decode cX4_forbid 92 = .ok (.goto (-57), 3) := dk_167 255 199 (dk_at dksX4_forbid_3 21 rfl rfl)
theorem dX4_forbid_95 : decode cX4_forbid 95 = .ok (.iload 5, 2) := dk_21 5 (dk_at dksX4_forbid_4 0 rfl rfl)
theorem dX4_forbid_97 : decode cX4_forbid 97 = .ok (.iload_n 3, 1) := dk_29 (dk_at dksX4_forbid_4 2 rfl rfl)
theorem dX4_forbid_98 : decode cX4_forbid 98 = .ok (.if_icmp .lt 6, 3) := dk_161 0 6 (dk_at dksX4_forbid_4 3 rfl rfl)
theorem dX4_forbid_101 : decode cX4_forbid 101 = .ok (.goto 9, 3) := dk_167 0 9 (dk_at dksX4_forbid_4 6 rfl rfl)
theorem dX4_forbid_104 : decode cX4_forbid 104 = .ok (.iload 4, 2) := dk_21 4 (dk_at dksX4_forbid_4 9 rfl rfl)
theorem dX4_forbid_106 : decode cX4_forbid 106 = .ok (.istore_n 2, 1) := dk_61 (dk_at dksX4_forbid_4 11 rfl rfl)
theorem dX4_forbid_107 : decode cX4_forbid 107 = .ok (.iload 5, 2) := dk_21 5 (dk_at dksX4_forbid_4 12 rfl rfl)
theorem dX4_forbid_109 : decode cX4_forbid 109 = .ok (.istore_n 3, 1) := dk_62 (dk_at dksX4_forbid_4 14 rfl rfl)
theorem dX4_forbid_110 : decode cX4_forbid 110 = .ok (.iinc 4 1, 3) := dk_132 4 1 (dk_at dksX4_forbid_4 15 rfl rfl)
theorem dX4_forbid_113 : decode cX4_forbid 113 = .ok (.goto (-93), 3) := dk_167 255 163 (dk_at dksX4_forbid_4 18 rfl rfl)
theorem dX4_forbid_116 : decode cX4_forbid 116 = .ok (.iload_n 2, 1) := dk_28 (dk_at dksX4_forbid_4 21 rfl rfl)
theorem dX4_forbid_117 : decode cX4_forbid 117 = .ok (.ifCond .ge 7, 3) := dk_156 0 7 (dk_at dksX4_forbid_5 0 rfl rfl)
theorem dX4_forbid_120 : decode cX4_forbid 120 = .ok (.iconst (-1), 1) := dk_2 (dk_at dksX4_forbid_5 3 rfl rfl)
theorem dX4_forbid_121 : decode cX4_forbid 121 = .ok (.goto 12, 3) := dk_167 0 12 (dk_at dksX4_forbid_5 4 rfl rfl)
theorem dX4_forbid_124 : decode cX4_forbid 124 = .ok (.iload_n 1, 1) := dk_27 (dk_at dksX4_forbid_5 7 rfl rfl)
theorem dX4_forbid_125 : decode cX4_forbid 125 = .ok (.ifCond .ne 7, 3) := dk_154 0 7 (dk_at dksX4_forbid_5 8 rfl rfl)
theorem dX4_forbid_128 : decode cX4_forbid 128 = .ok (.iload_n 2, 1) := dk_28 (dk_at dksX4_forbid_5 11 rfl rfl)
theorem dX4_forbid_129 : decode cX4_forbid 129 = .ok (.goto 4, 3) := dk_167 0 4 (dk_at dksX4_forbid_5 12 rfl rfl)
theorem dX4_forbid_132 : decode cX4_forbid 132 = .ok (.iload_n 3, 1) := dk_29 (dk_at dksX4_forbid_5 15 rfl rfl)
theorem dX4_forbid_133 : decode cX4_forbid 133 = .ok (.ireturn, 1) := dk_172 (dk_at dksX4_forbid_5 16 rfl rfl)
abbrev cX4_swap : ByteArray := prog_22_method_93_code
def yX4_swap : MethodName := ⟨RX4, "swap", "(I)I"⟩
def dkwX4_swap_5 : List UInt8 := [16, 6, 108, 167, 0, 16, 27, 4, 160, 0, 10, 28, 16, 6, 112, 167, 0, 4, 29, 172]
abbrev dktX4_swap_5 : List UInt8 := dkwX4_swap_5 ++ []
def dkwX4_swap_4 : List UInt8 := [61, 21, 7, 62, 132, 4, 1, 167, 255, 179, 28, 156, 0, 7, 2, 167, 0, 27, 27, 154, 0, 10, 28]
abbrev dktX4_swap_4 : List UInt8 := dkwX4_swap_4 ++ dktX4_swap_5
def dkwX4_swap_3 : List UInt8 := [167, 0, 28, 42, 21, 5, 21, 6, 182, 1, 201, 54, 7, 21, 7, 29, 163, 0, 6, 167, 0, 9, 21, 4]
abbrev dktX4_swap_3 : List UInt8 := dkwX4_swap_3 ++ dktX4_swap_4
def dkwX4_swap_2 : List UInt8 := [21, 6, 162, 0, 49, 42, 21, 5, 182, 1, 157, 153, 0, 40, 42, 21, 6, 182, 1, 157, 154, 0, 6]
abbrev dktX4_swap_2 : List UInt8 := dkwX4_swap_2 ++ dktX4_swap_3
def dkwX4_swap_1 : List UInt8 := [21, 4, 16, 36, 162, 0, 76, 21, 4, 16, 6, 108, 54, 5, 21, 4, 16, 6, 112, 54, 6, 21, 5]
abbrev dktX4_swap_1 : List UInt8 := dkwX4_swap_1 ++ dktX4_swap_2
def dkwX4_swap_0 : List UInt8 := [27, 3, 5, 184, 1, 118, 154, 0, 5, 2, 172, 2, 61, 42, 182, 1, 174, 184, 1, 60, 62, 3, 54, 4]
abbrev dktX4_swap_0 : List UInt8 := dkwX4_swap_0 ++ dktX4_swap_1
theorem dksX4_swap_0 : cX4_swap.data.toList.drop 0 = dktX4_swap_0 := by decide +kernel
theorem dksX4_swap_1 : cX4_swap.data.toList.drop 24 = dktX4_swap_1 := dk_seg dksX4_swap_0 24 rfl rfl
theorem dksX4_swap_2 : cX4_swap.data.toList.drop 47 = dktX4_swap_2 := dk_seg dksX4_swap_1 23 rfl rfl
theorem dksX4_swap_3 : cX4_swap.data.toList.drop 70 = dktX4_swap_3 := dk_seg dksX4_swap_2 23 rfl rfl
theorem dksX4_swap_4 : cX4_swap.data.toList.drop 94 = dktX4_swap_4 := dk_seg dksX4_swap_3 24 rfl rfl
theorem dksX4_swap_5 : cX4_swap.data.toList.drop 117 = dktX4_swap_5 := dk_seg dksX4_swap_4 23 rfl rfl
theorem dX4_swap_0 : decode cX4_swap 0 = .ok (.iload_n 1, 1) := dk_27 (dk_at dksX4_swap_0 0 rfl rfl)
theorem dX4_swap_1 : decode cX4_swap 1 = .ok (.iconst 0, 1) := dk_3 (dk_at dksX4_swap_0 1 rfl rfl)
theorem dX4_swap_2 : decode cX4_swap 2 = .ok (.iconst 2, 1) := dk_5 (dk_at dksX4_swap_0 2 rfl rfl)
theorem dX4_swap_3 : decode cX4_swap 3 = .ok (.invokestatic 374, 3) := dk_184 1 118 (dk_at dksX4_swap_0 3 rfl rfl)
theorem dX4_swap_6 : decode cX4_swap 6 = .ok (.ifCond .ne 5, 3) := dk_154 0 5 (dk_at dksX4_swap_0 6 rfl rfl)
theorem dX4_swap_9 : decode cX4_swap 9 = .ok (.iconst (-1), 1) := dk_2 (dk_at dksX4_swap_0 9 rfl rfl)
theorem dX4_swap_10 : decode cX4_swap 10 = .ok (.ireturn, 1) := dk_172 (dk_at dksX4_swap_0 10 rfl rfl)
theorem dX4_swap_11 : decode cX4_swap 11 = .ok (.iconst (-1), 1) := dk_2 (dk_at dksX4_swap_0 11 rfl rfl)
theorem dX4_swap_12 : decode cX4_swap 12 = .ok (.istore_n 2, 1) := dk_61 (dk_at dksX4_swap_0 12 rfl rfl)
theorem dX4_swap_13 : decode cX4_swap 13 = .ok (.aload_n 0, 1) := dk_42 (dk_at dksX4_swap_0 13 rfl rfl)
theorem dX4_swap_14 : decode cX4_swap 14 = .ok (.invokevirtual 430, 3) := dk_182 1 174 (dk_at dksX4_swap_0 14 rfl rfl)
theorem dX4_swap_17 : decode cX4_swap 17 = .ok (.invokestatic 316, 3) := dk_184 1 60 (dk_at dksX4_swap_0 17 rfl rfl)
theorem dX4_swap_20 : decode cX4_swap 20 = .ok (.istore_n 3, 1) := dk_62 (dk_at dksX4_swap_0 20 rfl rfl)
theorem dX4_swap_21 : decode cX4_swap 21 = .ok (.iconst 0, 1) := dk_3 (dk_at dksX4_swap_0 21 rfl rfl)
theorem dX4_swap_22 : decode cX4_swap 22 = .ok (.istore 4, 2) := dk_54 4 (dk_at dksX4_swap_0 22 rfl rfl)
theorem dX4_swap_24 : decode cX4_swap 24 = .ok (.iload 4, 2) := dk_21 4 (dk_at dksX4_swap_1 0 rfl rfl)
theorem dX4_swap_26 : decode cX4_swap 26 = .ok (.bipush 36, 2) := dk_16 36 (dk_at dksX4_swap_1 2 rfl rfl)
theorem dX4_swap_28 : decode cX4_swap 28 = .ok (.if_icmp .ge 76, 3) := dk_162 0 76 (dk_at dksX4_swap_1 4 rfl rfl)
theorem dX4_swap_31 : decode cX4_swap 31 = .ok (.iload 4, 2) := dk_21 4 (dk_at dksX4_swap_1 7 rfl rfl)
theorem dX4_swap_33 : decode cX4_swap 33 = .ok (.bipush 6, 2) := dk_16 6 (dk_at dksX4_swap_1 9 rfl rfl)
theorem dX4_swap_35 : decode cX4_swap 35 = .ok (.idiv, 1) := dk_108 (dk_at dksX4_swap_1 11 rfl rfl)
theorem dX4_swap_36 : decode cX4_swap 36 = .ok (.istore 5, 2) := dk_54 5 (dk_at dksX4_swap_1 12 rfl rfl)
theorem dX4_swap_38 : decode cX4_swap 38 = .ok (.iload 4, 2) := dk_21 4 (dk_at dksX4_swap_1 14 rfl rfl)
theorem dX4_swap_40 : decode cX4_swap 40 = .ok (.bipush 6, 2) := dk_16 6 (dk_at dksX4_swap_1 16 rfl rfl)
theorem dX4_swap_42 : decode cX4_swap 42 = .ok (.irem, 1) := dk_112 (dk_at dksX4_swap_1 18 rfl rfl)
theorem dX4_swap_43 : decode cX4_swap 43 = .ok (.istore 6, 2) := dk_54 6 (dk_at dksX4_swap_1 19 rfl rfl)
theorem dX4_swap_45 : decode cX4_swap 45 = .ok (.iload 5, 2) := dk_21 5 (dk_at dksX4_swap_1 21 rfl rfl)
theorem dX4_swap_47 : decode cX4_swap 47 = .ok (.iload 6, 2) := dk_21 6 (dk_at dksX4_swap_2 0 rfl rfl)
theorem dX4_swap_49 : decode cX4_swap 49 = .ok (.if_icmp .ge 49, 3) := dk_162 0 49 (dk_at dksX4_swap_2 2 rfl rfl)
theorem dX4_swap_52 : decode cX4_swap 52 = .ok (.aload_n 0, 1) := dk_42 (dk_at dksX4_swap_2 5 rfl rfl)
theorem dX4_swap_53 : decode cX4_swap 53 = .ok (.iload 5, 2) := dk_21 5 (dk_at dksX4_swap_2 6 rfl rfl)
theorem dX4_swap_55 : decode cX4_swap 55 = .ok (.invokevirtual 413, 3) := dk_182 1 157 (dk_at dksX4_swap_2 8 rfl rfl)
theorem dX4_swap_58 : decode cX4_swap 58 = .ok (.ifCond .eq 40, 3) := dk_153 0 40 (dk_at dksX4_swap_2 11 rfl rfl)
theorem dX4_swap_61 : decode cX4_swap 61 = .ok (.aload_n 0, 1) := dk_42 (dk_at dksX4_swap_2 14 rfl rfl)
theorem dX4_swap_62 : decode cX4_swap 62 = .ok (.iload 6, 2) := dk_21 6 (dk_at dksX4_swap_2 15 rfl rfl)
theorem dX4_swap_64 : decode cX4_swap 64 = .ok (.invokevirtual 413, 3) := dk_182 1 157 (dk_at dksX4_swap_2 17 rfl rfl)
theorem dX4_swap_67 : decode cX4_swap 67 = .ok (.ifCond .ne 6, 3) := dk_154 0 6 (dk_at dksX4_swap_2 20 rfl rfl)
theorem dX4_swap_70 : decode cX4_swap 70 = .ok (.goto 28, 3) := dk_167 0 28 (dk_at dksX4_swap_3 0 rfl rfl)
theorem dX4_swap_73 : decode cX4_swap 73 = .ok (.aload_n 0, 1) := dk_42 (dk_at dksX4_swap_3 3 rfl rfl)
theorem dX4_swap_74 : decode cX4_swap 74 = .ok (.iload 5, 2) := dk_21 5 (dk_at dksX4_swap_3 4 rfl rfl)
theorem dX4_swap_76 : decode cX4_swap 76 = .ok (.iload 6, 2) := dk_21 6 (dk_at dksX4_swap_3 6 rfl rfl)
theorem dX4_swap_78 : decode cX4_swap 78 = .ok (.invokevirtual 457, 3) := dk_182 1 201 (dk_at dksX4_swap_3 8 rfl rfl)
theorem dX4_swap_81 : decode cX4_swap 81 = .ok (.istore 7, 2) := dk_54 7 (dk_at dksX4_swap_3 11 rfl rfl)
theorem dX4_swap_83 : decode cX4_swap 83 = .ok (.iload 7, 2) := dk_21 7 (dk_at dksX4_swap_3 13 rfl rfl)
theorem dX4_swap_85 : decode cX4_swap 85 = .ok (.iload_n 3, 1) := dk_29 (dk_at dksX4_swap_3 15 rfl rfl)
theorem dX4_swap_86 : decode cX4_swap 86 = .ok (.if_icmp .gt 6, 3) := dk_163 0 6 (dk_at dksX4_swap_3 16 rfl rfl)
theorem dX4_swap_89 : decode cX4_swap 89 = .ok (.goto 9, 3) := dk_167 0 9 (dk_at dksX4_swap_3 19 rfl rfl)
theorem dX4_swap_92 : decode cX4_swap 92 = .ok (.iload 4, 2) := dk_21 4 (dk_at dksX4_swap_3 22 rfl rfl)
theorem dX4_swap_94 : decode cX4_swap 94 = .ok (.istore_n 2, 1) := dk_61 (dk_at dksX4_swap_4 0 rfl rfl)
theorem dX4_swap_95 : decode cX4_swap 95 = .ok (.iload 7, 2) := dk_21 7 (dk_at dksX4_swap_4 1 rfl rfl)
theorem dX4_swap_97 : decode cX4_swap 97 = .ok (.istore_n 3, 1) := dk_62 (dk_at dksX4_swap_4 3 rfl rfl)
theorem dX4_swap_98 : decode cX4_swap 98 = .ok (.iinc 4 1, 3) := dk_132 4 1 (dk_at dksX4_swap_4 4 rfl rfl)
theorem dX4_swap_101 : decode cX4_swap 101 = .ok (.goto (-77), 3) := dk_167 255 179 (dk_at dksX4_swap_4 7 rfl rfl)
theorem dX4_swap_104 : decode cX4_swap 104 = .ok (.iload_n 2, 1) := dk_28 (dk_at dksX4_swap_4 10 rfl rfl)
theorem dX4_swap_105 : decode cX4_swap 105 = .ok (.ifCond .ge 7, 3) := dk_156 0 7 (dk_at dksX4_swap_4 11 rfl rfl)
theorem dX4_swap_108 : decode cX4_swap 108 = .ok (.iconst (-1), 1) := dk_2 (dk_at dksX4_swap_4 14 rfl rfl)
theorem dX4_swap_109 : decode cX4_swap 109 = .ok (.goto 27, 3) := dk_167 0 27 (dk_at dksX4_swap_4 15 rfl rfl)
theorem dX4_swap_112 : decode cX4_swap 112 = .ok (.iload_n 1, 1) := dk_27 (dk_at dksX4_swap_4 18 rfl rfl)
theorem dX4_swap_113 : decode cX4_swap 113 = .ok (.ifCond .ne 10, 3) := dk_154 0 10 (dk_at dksX4_swap_4 19 rfl rfl)
theorem dX4_swap_116 : decode cX4_swap 116 = .ok (.iload_n 2, 1) := dk_28 (dk_at dksX4_swap_4 22 rfl rfl)
theorem dX4_swap_117 : decode cX4_swap 117 = .ok (.bipush 6, 2) := dk_16 6 (dk_at dksX4_swap_5 0 rfl rfl)
theorem dX4_swap_119 : decode cX4_swap 119 = .ok (.idiv, 1) := dk_108 (dk_at dksX4_swap_5 2 rfl rfl)
theorem dX4_swap_120 : decode cX4_swap 120 = .ok (.goto 16, 3) := dk_167 0 16 (dk_at dksX4_swap_5 3 rfl rfl)
theorem dX4_swap_123 : decode cX4_swap 123 = .ok (.iload_n 1, 1) := dk_27 (dk_at dksX4_swap_5 6 rfl rfl)
theorem dX4_swap_124 : decode cX4_swap 124 = .ok (.iconst 1, 1) := dk_4 (dk_at dksX4_swap_5 7 rfl rfl)
theorem dX4_swap_125 : decode cX4_swap 125 = .ok (.if_icmp .ne 10, 3) := dk_160 0 10 (dk_at dksX4_swap_5 8 rfl rfl)
theorem dX4_swap_128 : decode cX4_swap 128 = .ok (.iload_n 2, 1) := dk_28 (dk_at dksX4_swap_5 11 rfl rfl)
theorem dX4_swap_129 : decode cX4_swap 129 = .ok (.bipush 6, 2) := dk_16 6 (dk_at dksX4_swap_5 12 rfl rfl)
theorem dX4_swap_131 : decode cX4_swap 131 = .ok (.irem, 1) := dk_112 (dk_at dksX4_swap_5 14 rfl rfl)
theorem dX4_swap_132 : decode cX4_swap 132 = .ok (.goto 4, 3) := dk_167 0 4 (dk_at dksX4_swap_5 15 rfl rfl)
theorem dX4_swap_135 : decode cX4_swap 135 = .ok (.iload_n 3, 1) := dk_29 (dk_at dksX4_swap_5 18 rfl rfl)
theorem dX4_swap_136 : decode cX4_swap 136 = .ok (.ireturn, 1) := dk_172 (dk_at dksX4_swap_5 19 rfl rfl)
abbrev cX4_freeWith : ByteArray := prog_22_method_92_code
def yX4_freeWith : MethodName := ⟨RX4, "freeWith", "(II)I"⟩
def dkwX4_freeWith_3 : List UInt8 := [132, 4, 1, 167, 255, 188, 29, 172]
abbrev dktX4_freeWith_3 : List UInt8 := dkwX4_freeWith_3 ++ []
def dkwX4_freeWith_2 : List UInt8 := [160, 0, 7, 27, 167, 0, 5, 21, 4, 96, 46, 182, 1, 154, 158, 0, 7, 4, 167, 0, 4, 3, 96, 62]
abbrev dktX4_freeWith_2 : List UInt8 := dkwX4_freeWith_2 ++ dktX4_freeWith_3
def dkwX4_freeWith_1 : List UInt8 := [42, 21, 4, 42, 180, 0, 97, 16, 6, 21, 4, 27, 160, 0, 7, 28, 167, 0, 15, 21, 4, 28]
abbrev dktX4_freeWith_1 : List UInt8 := dkwX4_freeWith_1 ++ dktX4_freeWith_2
def dkwX4_freeWith_0 : List UInt8 := [3, 62, 3, 54, 4, 21, 4, 42, 182, 1, 115, 162, 0, 65, 29, 42, 21, 4, 182, 1, 157, 153, 0, 46]
abbrev dktX4_freeWith_0 : List UInt8 := dkwX4_freeWith_0 ++ dktX4_freeWith_1
theorem dksX4_freeWith_0 : cX4_freeWith.data.toList.drop 0 = dktX4_freeWith_0 := by decide +kernel
theorem dksX4_freeWith_1 : cX4_freeWith.data.toList.drop 24 = dktX4_freeWith_1 := dk_seg dksX4_freeWith_0 24 rfl rfl
theorem dksX4_freeWith_2 : cX4_freeWith.data.toList.drop 46 = dktX4_freeWith_2 := dk_seg dksX4_freeWith_1 22 rfl rfl
theorem dksX4_freeWith_3 : cX4_freeWith.data.toList.drop 70 = dktX4_freeWith_3 := dk_seg dksX4_freeWith_2 24 rfl rfl
theorem dX4_freeWith_0 : decode cX4_freeWith 0 = .ok (.iconst 0, 1) := dk_3 (dk_at dksX4_freeWith_0 0 rfl rfl)
theorem dX4_freeWith_1 : decode cX4_freeWith 1 = .ok (.istore_n 3, 1) := dk_62 (dk_at dksX4_freeWith_0 1 rfl rfl)
theorem dX4_freeWith_2 : decode cX4_freeWith 2 = .ok (.iconst 0, 1) := dk_3 (dk_at dksX4_freeWith_0 2 rfl rfl)
theorem dX4_freeWith_3 : decode cX4_freeWith 3 = .ok (.istore 4, 2) := dk_54 4 (dk_at dksX4_freeWith_0 3 rfl rfl)
theorem dX4_freeWith_5 : decode cX4_freeWith 5 = .ok (.iload 4, 2) := dk_21 4 (dk_at dksX4_freeWith_0 5 rfl rfl)
theorem dX4_freeWith_7 : decode cX4_freeWith 7 = .ok (.aload_n 0, 1) := dk_42 (dk_at dksX4_freeWith_0 7 rfl rfl)
theorem dX4_freeWith_8 : decode cX4_freeWith 8 = .ok (.invokevirtual 371, 3) := dk_182 1 115 (dk_at dksX4_freeWith_0 8 rfl rfl)
theorem dX4_freeWith_11 : decode cX4_freeWith 11 = .ok (.if_icmp .ge 65, 3) := dk_162 0 65 (dk_at dksX4_freeWith_0 11 rfl rfl)
theorem dX4_freeWith_14 : decode cX4_freeWith 14 = .ok (.iload_n 3, 1) := dk_29 (dk_at dksX4_freeWith_0 14 rfl rfl)
theorem dX4_freeWith_15 : decode cX4_freeWith 15 = .ok (.aload_n 0, 1) := dk_42 (dk_at dksX4_freeWith_0 15 rfl rfl)
theorem dX4_freeWith_16 : decode cX4_freeWith 16 = .ok (.iload 4, 2) := dk_21 4 (dk_at dksX4_freeWith_0 16 rfl rfl)
theorem dX4_freeWith_18 : decode cX4_freeWith 18 = .ok (.invokevirtual 413, 3) := dk_182 1 157 (dk_at dksX4_freeWith_0 18 rfl rfl)
theorem dX4_freeWith_21 : decode cX4_freeWith 21 = .ok (.ifCond .eq 46, 3) := dk_153 0 46 (dk_at dksX4_freeWith_0 21 rfl rfl)
theorem dX4_freeWith_24 : decode cX4_freeWith 24 = .ok (.aload_n 0, 1) := dk_42 (dk_at dksX4_freeWith_1 0 rfl rfl)
theorem dX4_freeWith_25 : decode cX4_freeWith 25 = .ok (.iload 4, 2) := dk_21 4 (dk_at dksX4_freeWith_1 1 rfl rfl)
theorem dX4_freeWith_27 : decode cX4_freeWith 27 = .ok (.aload_n 0, 1) := dk_42 (dk_at dksX4_freeWith_1 3 rfl rfl)
theorem dX4_freeWith_28 : decode cX4_freeWith 28 = .ok (.getfield 97, 3) := dk_180 0 97 (dk_at dksX4_freeWith_1 4 rfl rfl)
theorem dX4_freeWith_31 : decode cX4_freeWith 31 = .ok (.bipush 6, 2) := dk_16 6 (dk_at dksX4_freeWith_1 7 rfl rfl)
theorem dX4_freeWith_33 : decode cX4_freeWith 33 = .ok (.iload 4, 2) := dk_21 4 (dk_at dksX4_freeWith_1 9 rfl rfl)
theorem dX4_freeWith_35 : decode cX4_freeWith 35 = .ok (.iload_n 1, 1) := dk_27 (dk_at dksX4_freeWith_1 11 rfl rfl)
theorem dX4_freeWith_36 : decode cX4_freeWith 36 = .ok (.if_icmp .ne 7, 3) := dk_160 0 7 (dk_at dksX4_freeWith_1 12 rfl rfl)
theorem dX4_freeWith_39 : decode cX4_freeWith 39 = .ok (.iload_n 2, 1) := dk_28 (dk_at dksX4_freeWith_1 15 rfl rfl)
theorem dX4_freeWith_40 : decode cX4_freeWith 40 = .ok (.goto 15, 3) := dk_167 0 15 (dk_at dksX4_freeWith_1 16 rfl rfl)
theorem dX4_freeWith_43 : decode cX4_freeWith 43 = .ok (.iload 4, 2) := dk_21 4 (dk_at dksX4_freeWith_1 19 rfl rfl)
theorem dX4_freeWith_45 : decode cX4_freeWith 45 = .ok (.iload_n 2, 1) := dk_28 (dk_at dksX4_freeWith_1 21 rfl rfl)
theorem dX4_freeWith_46 : decode cX4_freeWith 46 = .ok (.if_icmp .ne 7, 3) := dk_160 0 7 (dk_at dksX4_freeWith_2 0 rfl rfl)
theorem dX4_freeWith_49 : decode cX4_freeWith 49 = .ok (.iload_n 1, 1) := dk_27 (dk_at dksX4_freeWith_2 3 rfl rfl)
theorem dX4_freeWith_50 : decode cX4_freeWith 50 = .ok (.goto 5, 3) := dk_167 0 5 (dk_at dksX4_freeWith_2 4 rfl rfl)
theorem dX4_freeWith_53 : decode cX4_freeWith 53 = .ok (.iload 4, 2) := dk_21 4 (dk_at dksX4_freeWith_2 7 rfl rfl)
theorem dX4_freeWith_55 : decode cX4_freeWith 55 = .ok (.iadd, 1) := dk_96 (dk_at dksX4_freeWith_2 9 rfl rfl)
theorem dX4_freeWith_56 : decode cX4_freeWith 56 = .ok (.iaload, 1) := dk_46 (dk_at dksX4_freeWith_2 10 rfl rfl)
theorem dX4_freeWith_57 : decode cX4_freeWith 57 = .ok (.invokevirtual 410, 3) := dk_182 1 154 (dk_at dksX4_freeWith_2 11 rfl rfl)
theorem dX4_freeWith_60 : decode cX4_freeWith 60 = .ok (.ifCond .le 7, 3) := dk_158 0 7 (dk_at dksX4_freeWith_2 14 rfl rfl)
theorem dX4_freeWith_63 : decode cX4_freeWith 63 = .ok (.iconst 1, 1) := dk_4 (dk_at dksX4_freeWith_2 17 rfl rfl)
theorem dX4_freeWith_64 : decode cX4_freeWith 64 = .ok (.goto 4, 3) := dk_167 0 4 (dk_at dksX4_freeWith_2 18 rfl rfl)
theorem dX4_freeWith_67 : decode cX4_freeWith 67 = .ok (.iconst 0, 1) := dk_3 (dk_at dksX4_freeWith_2 21 rfl rfl)
theorem dX4_freeWith_68 : decode cX4_freeWith 68 = .ok (.iadd, 1) := dk_96 (dk_at dksX4_freeWith_2 22 rfl rfl)
theorem dX4_freeWith_69 : decode cX4_freeWith 69 = .ok (.istore_n 3, 1) := dk_62 (dk_at dksX4_freeWith_2 23 rfl rfl)
theorem dX4_freeWith_70 : decode cX4_freeWith 70 = .ok (.iinc 4 1, 3) := dk_132 4 1 (dk_at dksX4_freeWith_3 0 rfl rfl)
theorem dX4_freeWith_73 : decode cX4_freeWith 73 = .ok (.goto (-68), 3) := dk_167 255 188 (dk_at dksX4_freeWith_3 3 rfl rfl)
theorem dX4_freeWith_76 : decode cX4_freeWith 76 = .ok (.iload_n 3, 1) := dk_29 (dk_at dksX4_freeWith_3 6 rfl rfl)
theorem dX4_freeWith_77 : decode cX4_freeWith 77 = .ok (.ireturn, 1) := dk_172 (dk_at dksX4_freeWith_3 7 rfl rfl)
abbrev cX4_contrary : ByteArray := prog_22_method_94_code
def yX4_contrary : MethodName := ⟨RX4, "contrary", "(I)I"⟩
def dkwX4_contrary_4 : List UInt8 := [159, 0, 14, 27, 154, 0, 7, 29, 167, 0, 5, 21, 4, 172, 132, 2, 1, 167, 255, 157, 2, 172]
abbrev dktX4_contrary_4 : List UInt8 := dkwX4_contrary_4 ++ []
def dkwX4_contrary_3 : List UInt8 := [46, 159, 0, 6, 167, 0, 34, 42, 29, 182, 1, 160, 184, 1, 183, 42, 21, 4, 182, 1, 160, 184, 1, 183]
abbrev dktX4_contrary_3 : List UInt8 := dkwX4_contrary_3 ++ dktX4_contrary_4
def dkwX4_contrary_2 : List UInt8 := [182, 1, 157, 153, 0, 59, 42, 180, 0, 97, 16, 6, 29, 96, 46, 42, 180, 0, 97, 16, 6, 21, 4, 96]
abbrev dktX4_contrary_2 : List UInt8 := dkwX4_contrary_2 ++ dktX4_contrary_3
def dkwX4_contrary_1 : List UInt8 := [28, 16, 6, 112, 54, 4, 29, 21, 4, 162, 0, 76, 42, 29, 182, 1, 157, 153, 0, 68, 42, 21, 4]
abbrev dktX4_contrary_1 : List UInt8 := dkwX4_contrary_1 ++ dktX4_contrary_2
def dkwX4_contrary_0 : List UInt8 := [27, 3, 4, 184, 1, 118, 154, 0, 5, 2, 172, 3, 61, 28, 16, 36, 162, 0, 99, 28, 16, 6, 108, 62]
abbrev dktX4_contrary_0 : List UInt8 := dkwX4_contrary_0 ++ dktX4_contrary_1
theorem dksX4_contrary_0 : cX4_contrary.data.toList.drop 0 = dktX4_contrary_0 := by decide +kernel
theorem dksX4_contrary_1 : cX4_contrary.data.toList.drop 24 = dktX4_contrary_1 := dk_seg dksX4_contrary_0 24 rfl rfl
theorem dksX4_contrary_2 : cX4_contrary.data.toList.drop 47 = dktX4_contrary_2 := dk_seg dksX4_contrary_1 23 rfl rfl
theorem dksX4_contrary_3 : cX4_contrary.data.toList.drop 71 = dktX4_contrary_3 := dk_seg dksX4_contrary_2 24 rfl rfl
theorem dksX4_contrary_4 : cX4_contrary.data.toList.drop 95 = dktX4_contrary_4 := dk_seg dksX4_contrary_3 24 rfl rfl
theorem dX4_contrary_0 : decode cX4_contrary 0 = .ok (.iload_n 1, 1) := dk_27 (dk_at dksX4_contrary_0 0 rfl rfl)
theorem dX4_contrary_1 : decode cX4_contrary 1 = .ok (.iconst 0, 1) := dk_3 (dk_at dksX4_contrary_0 1 rfl rfl)
theorem dX4_contrary_2 : decode cX4_contrary 2 = .ok (.iconst 1, 1) := dk_4 (dk_at dksX4_contrary_0 2 rfl rfl)
theorem dX4_contrary_3 : decode cX4_contrary 3 = .ok (.invokestatic 374, 3) := dk_184 1 118 (dk_at dksX4_contrary_0 3 rfl rfl)
theorem dX4_contrary_6 : decode cX4_contrary 6 = .ok (.ifCond .ne 5, 3) := dk_154 0 5 (dk_at dksX4_contrary_0 6 rfl rfl)
theorem dX4_contrary_9 : decode cX4_contrary 9 = .ok (.iconst (-1), 1) := dk_2 (dk_at dksX4_contrary_0 9 rfl rfl)
theorem dX4_contrary_10 : decode cX4_contrary 10 = .ok (.ireturn, 1) := dk_172 (dk_at dksX4_contrary_0 10 rfl rfl)
theorem dX4_contrary_11 : decode cX4_contrary 11 = .ok (.iconst 0, 1) := dk_3 (dk_at dksX4_contrary_0 11 rfl rfl)
theorem dX4_contrary_12 : decode cX4_contrary 12 = .ok (.istore_n 2, 1) := dk_61 (dk_at dksX4_contrary_0 12 rfl rfl)
theorem dX4_contrary_13 : decode cX4_contrary 13 = .ok (.iload_n 2, 1) := dk_28 (dk_at dksX4_contrary_0 13 rfl rfl)
theorem dX4_contrary_14 : decode cX4_contrary 14 = .ok (.bipush 36, 2) := dk_16 36 (dk_at dksX4_contrary_0 14 rfl rfl)
theorem dX4_contrary_16 : decode cX4_contrary 16 = .ok (.if_icmp .ge 99, 3) := dk_162 0 99 (dk_at dksX4_contrary_0 16 rfl rfl)
theorem dX4_contrary_19 : decode cX4_contrary 19 = .ok (.iload_n 2, 1) := dk_28 (dk_at dksX4_contrary_0 19 rfl rfl)
theorem dX4_contrary_20 : decode cX4_contrary 20 = .ok (.bipush 6, 2) := dk_16 6 (dk_at dksX4_contrary_0 20 rfl rfl)
theorem dX4_contrary_22 : decode cX4_contrary 22 = .ok (.idiv, 1) := dk_108 (dk_at dksX4_contrary_0 22 rfl rfl)
theorem dX4_contrary_23 : decode cX4_contrary 23 = .ok (.istore_n 3, 1) := dk_62 (dk_at dksX4_contrary_0 23 rfl rfl)
theorem dX4_contrary_24 : decode cX4_contrary 24 = .ok (.iload_n 2, 1) := dk_28 (dk_at dksX4_contrary_1 0 rfl rfl)
theorem dX4_contrary_25 : decode cX4_contrary 25 = .ok (.bipush 6, 2) := dk_16 6 (dk_at dksX4_contrary_1 1 rfl rfl)
theorem dX4_contrary_27 : decode cX4_contrary 27 = .ok (.irem, 1) := dk_112 (dk_at dksX4_contrary_1 3 rfl rfl)
theorem dX4_contrary_28 : decode cX4_contrary 28 = .ok (.istore 4, 2) := dk_54 4 (dk_at dksX4_contrary_1 4 rfl rfl)
theorem dX4_contrary_30 : decode cX4_contrary 30 = .ok (.iload_n 3, 1) := dk_29 (dk_at dksX4_contrary_1 6 rfl rfl)
theorem dX4_contrary_31 : decode cX4_contrary 31 = .ok (.iload 4, 2) := dk_21 4 (dk_at dksX4_contrary_1 7 rfl rfl)
theorem dX4_contrary_33 : decode cX4_contrary 33 = .ok (.if_icmp .ge 76, 3) := dk_162 0 76 (dk_at dksX4_contrary_1 9 rfl rfl)
theorem dX4_contrary_36 : decode cX4_contrary 36 = .ok (.aload_n 0, 1) := dk_42 (dk_at dksX4_contrary_1 12 rfl rfl)
theorem dX4_contrary_37 : decode cX4_contrary 37 = .ok (.iload_n 3, 1) := dk_29 (dk_at dksX4_contrary_1 13 rfl rfl)
theorem dX4_contrary_38 : decode cX4_contrary 38 = .ok (.invokevirtual 413, 3) := dk_182 1 157 (dk_at dksX4_contrary_1 14 rfl rfl)
theorem dX4_contrary_41 : decode cX4_contrary 41 = .ok (.ifCond .eq 68, 3) := dk_153 0 68 (dk_at dksX4_contrary_1 17 rfl rfl)
theorem dX4_contrary_44 : decode cX4_contrary 44 = .ok (.aload_n 0, 1) := dk_42 (dk_at dksX4_contrary_1 20 rfl rfl)
theorem dX4_contrary_45 : decode cX4_contrary 45 = .ok (.iload 4, 2) := dk_21 4 (dk_at dksX4_contrary_1 21 rfl rfl)
theorem dX4_contrary_47 : decode cX4_contrary 47 = .ok (.invokevirtual 413, 3) := dk_182 1 157 (dk_at dksX4_contrary_2 0 rfl rfl)
theorem dX4_contrary_50 : decode cX4_contrary 50 = .ok (.ifCond .eq 59, 3) := dk_153 0 59 (dk_at dksX4_contrary_2 3 rfl rfl)
theorem dX4_contrary_53 : decode cX4_contrary 53 = .ok (.aload_n 0, 1) := dk_42 (dk_at dksX4_contrary_2 6 rfl rfl)
theorem dX4_contrary_54 : decode cX4_contrary 54 = .ok (.getfield 97, 3) := dk_180 0 97 (dk_at dksX4_contrary_2 7 rfl rfl)
theorem dX4_contrary_57 : decode cX4_contrary 57 = .ok (.bipush 6, 2) := dk_16 6 (dk_at dksX4_contrary_2 10 rfl rfl)
theorem dX4_contrary_59 : decode cX4_contrary 59 = .ok (.iload_n 3, 1) := dk_29 (dk_at dksX4_contrary_2 12 rfl rfl)
theorem dX4_contrary_60 : decode cX4_contrary 60 = .ok (.iadd, 1) := dk_96 (dk_at dksX4_contrary_2 13 rfl rfl)
theorem dX4_contrary_61 : decode cX4_contrary 61 = .ok (.iaload, 1) := dk_46 (dk_at dksX4_contrary_2 14 rfl rfl)
theorem dX4_contrary_62 : decode cX4_contrary 62 = .ok (.aload_n 0, 1) := dk_42 (dk_at dksX4_contrary_2 15 rfl rfl)
theorem dX4_contrary_63 : decode cX4_contrary 63 = .ok (.getfield 97, 3) := dk_180 0 97 (dk_at dksX4_contrary_2 16 rfl rfl)
theorem dX4_contrary_66 : decode cX4_contrary 66 = .ok (.bipush 6, 2) := dk_16 6 (dk_at dksX4_contrary_2 19 rfl rfl)
theorem dX4_contrary_68 : decode cX4_contrary 68 = .ok (.iload 4, 2) := dk_21 4 (dk_at dksX4_contrary_2 21 rfl rfl)
theorem dX4_contrary_70 : decode cX4_contrary 70 = .ok (.iadd, 1) := dk_96 (dk_at dksX4_contrary_2 23 rfl rfl)
theorem dX4_contrary_71 : decode cX4_contrary 71 = .ok (.iaload, 1) := dk_46 (dk_at dksX4_contrary_3 0 rfl rfl)
theorem dX4_contrary_72 : decode cX4_contrary 72 = .ok (.if_icmp .eq 6, 3) := dk_159 0 6 (dk_at dksX4_contrary_3 1 rfl rfl)
theorem dX4_contrary_75 : decode cX4_contrary 75 = .ok (.goto 34, 3) := dk_167 0 34 (dk_at dksX4_contrary_3 4 rfl rfl)
theorem dX4_contrary_78 : decode cX4_contrary 78 = .ok (.aload_n 0, 1) := dk_42 (dk_at dksX4_contrary_3 7 rfl rfl)
theorem dX4_contrary_79 : decode cX4_contrary 79 = .ok (.iload_n 3, 1) := dk_29 (dk_at dksX4_contrary_3 8 rfl rfl)
theorem dX4_contrary_80 : decode cX4_contrary 80 = .ok (.invokevirtual 416, 3) := dk_182 1 160 (dk_at dksX4_contrary_3 9 rfl rfl)
theorem dX4_contrary_83 : decode cX4_contrary 83 = .ok (.invokestatic 439, 3) := dk_184 1 183 (dk_at dksX4_contrary_3 12 rfl rfl)
theorem dX4_contrary_86 : decode cX4_contrary 86 = .ok (.aload_n 0, 1) := dk_42 (dk_at dksX4_contrary_3 15 rfl rfl)
theorem dX4_contrary_87 : decode cX4_contrary 87 = .ok (.iload 4, 2) := dk_21 4 (dk_at dksX4_contrary_3 16 rfl rfl)
theorem dX4_contrary_89 : decode cX4_contrary 89 = .ok (.invokevirtual 416, 3) := dk_182 1 160 (dk_at dksX4_contrary_3 18 rfl rfl)
theorem dX4_contrary_92 : decode cX4_contrary 92 = .ok (.invokestatic 439, 3) := dk_184 1 183 (dk_at dksX4_contrary_3 21 rfl rfl)
theorem dX4_contrary_95 : decode cX4_contrary 95 = .ok (.if_icmp .eq 14, 3) := dk_159 0 14 (dk_at dksX4_contrary_4 0 rfl rfl)
theorem dX4_contrary_98 : decode cX4_contrary 98 = .ok (.iload_n 1, 1) := dk_27 (dk_at dksX4_contrary_4 3 rfl rfl)
theorem dX4_contrary_99 : decode cX4_contrary 99 = .ok (.ifCond .ne 7, 3) := dk_154 0 7 (dk_at dksX4_contrary_4 4 rfl rfl)
theorem dX4_contrary_102 : decode cX4_contrary 102 = .ok (.iload_n 3, 1) := dk_29 (dk_at dksX4_contrary_4 7 rfl rfl)
theorem dX4_contrary_103 : decode cX4_contrary 103 = .ok (.goto 5, 3) := dk_167 0 5 (dk_at dksX4_contrary_4 8 rfl rfl)
theorem dX4_contrary_106 : decode cX4_contrary 106 = .ok (.iload 4, 2) := dk_21 4 (dk_at dksX4_contrary_4 11 rfl rfl)
theorem dX4_contrary_108 : decode cX4_contrary 108 = .ok (.ireturn, 1) := dk_172 (dk_at dksX4_contrary_4 13 rfl rfl)
theorem dX4_contrary_109 : decode cX4_contrary 109 = .ok (.iinc 2 1, 3) := dk_132 2 1 (dk_at dksX4_contrary_4 14 rfl rfl)
theorem dX4_contrary_112 : decode cX4_contrary 112 = .ok (.goto (-99), 3) := dk_167 255 157 (dk_at dksX4_contrary_4 17 rfl rfl)
theorem dX4_contrary_115 : decode cX4_contrary 115 = .ok (.iconst (-1), 1) := dk_2 (dk_at dksX4_contrary_4 20 rfl rfl)
theorem dX4_contrary_116 : decode cX4_contrary 116 = .ok (.ireturn, 1) := dk_172 (dk_at dksX4_contrary_4 21 rfl rfl)
abbrev cX4_leave : ByteArray := prog_22_method_95_code
def yX4_leave : MethodName := ⟨RX4, "leave", "(I)I"⟩
def dkwX4_leave_5 : List UInt8 := [21, 5, 4, 160, 0, 8, 21, 4, 167, 0, 4, 2, 172]
abbrev dktX4_leave_5 : List UInt8 := dkwX4_leave_5 ++ []
def dkwX4_leave_4 : List UInt8 := [96, 79, 167, 255, 193, 42, 180, 0, 97, 16, 25, 28, 79, 42, 180, 0, 97, 16, 18, 27, 96, 29, 79]
abbrev dktX4_leave_4 : List UInt8 := dkwX4_leave_4 ++ dktX4_leave_5
def dkwX4_leave_3 : List UInt8 := [180, 0, 97, 16, 18, 27, 96, 46, 16, 99, 162, 255, 209, 42, 180, 0, 97, 16, 18, 27, 96, 92, 46, 4]
abbrev dktX4_leave_3 : List UInt8 := dkwX4_leave_3 ++ dktX4_leave_4
def dkwX4_leave_2 : List UInt8 := [182, 1, 160, 184, 1, 183, 54, 5, 132, 4, 1, 42, 180, 0, 97, 16, 25, 92, 46, 4, 96, 79, 42]
abbrev dktX4_leave_2 : List UInt8 := dkwX4_leave_2 ++ dktX4_leave_3
def dkwX4_leave_1 : List UInt8 := [27, 96, 46, 62, 3, 54, 4, 3, 54, 5, 21, 4, 16, 30, 162, 0, 62, 21, 5, 154, 0, 57, 42, 27]
abbrev dktX4_leave_1 : List UInt8 := dkwX4_leave_1 ++ dktX4_leave_2
def dkwX4_leave_0 : List UInt8 := [42, 27, 182, 1, 157, 154, 0, 5, 2, 172, 42, 180, 0, 97, 16, 25, 46, 61, 42, 180, 0, 97, 16, 18]
abbrev dktX4_leave_0 : List UInt8 := dkwX4_leave_0 ++ dktX4_leave_1
theorem dksX4_leave_0 : cX4_leave.data.toList.drop 0 = dktX4_leave_0 := by decide +kernel
theorem dksX4_leave_1 : cX4_leave.data.toList.drop 24 = dktX4_leave_1 := dk_seg dksX4_leave_0 24 rfl rfl
theorem dksX4_leave_2 : cX4_leave.data.toList.drop 48 = dktX4_leave_2 := dk_seg dksX4_leave_1 24 rfl rfl
theorem dksX4_leave_3 : cX4_leave.data.toList.drop 71 = dktX4_leave_3 := dk_seg dksX4_leave_2 23 rfl rfl
theorem dksX4_leave_4 : cX4_leave.data.toList.drop 95 = dktX4_leave_4 := dk_seg dksX4_leave_3 24 rfl rfl
theorem dksX4_leave_5 : cX4_leave.data.toList.drop 118 = dktX4_leave_5 := dk_seg dksX4_leave_4 23 rfl rfl
theorem dX4_leave_0 : decode cX4_leave 0 = .ok (.aload_n 0, 1) := dk_42 (dk_at dksX4_leave_0 0 rfl rfl)
theorem dX4_leave_1 : decode cX4_leave 1 = .ok (.iload_n 1, 1) := dk_27 (dk_at dksX4_leave_0 1 rfl rfl)
theorem dX4_leave_2 : decode cX4_leave 2 = .ok (.invokevirtual 413, 3) := dk_182 1 157 (dk_at dksX4_leave_0 2 rfl rfl)
theorem dX4_leave_5 : decode cX4_leave 5 = .ok (.ifCond .ne 5, 3) := dk_154 0 5 (dk_at dksX4_leave_0 5 rfl rfl)
theorem dX4_leave_8 : decode cX4_leave 8 = .ok (.iconst (-1), 1) := dk_2 (dk_at dksX4_leave_0 8 rfl rfl)
theorem dX4_leave_9 : decode cX4_leave 9 = .ok (.ireturn, 1) := dk_172 (dk_at dksX4_leave_0 9 rfl rfl)
theorem dX4_leave_10 : decode cX4_leave 10 = .ok (.aload_n 0, 1) := dk_42 (dk_at dksX4_leave_0 10 rfl rfl)
theorem dX4_leave_11 : decode cX4_leave 11 = .ok (.getfield 97, 3) := dk_180 0 97 (dk_at dksX4_leave_0 11 rfl rfl)
theorem dX4_leave_14 : decode cX4_leave 14 = .ok (.bipush 25, 2) := dk_16 25 (dk_at dksX4_leave_0 14 rfl rfl)
theorem dX4_leave_16 : decode cX4_leave 16 = .ok (.iaload, 1) := dk_46 (dk_at dksX4_leave_0 16 rfl rfl)
theorem dX4_leave_17 : decode cX4_leave 17 = .ok (.istore_n 2, 1) := dk_61 (dk_at dksX4_leave_0 17 rfl rfl)
theorem dX4_leave_18 : decode cX4_leave 18 = .ok (.aload_n 0, 1) := dk_42 (dk_at dksX4_leave_0 18 rfl rfl)
theorem dX4_leave_19 : decode cX4_leave 19 = .ok (.getfield 97, 3) := dk_180 0 97 (dk_at dksX4_leave_0 19 rfl rfl)
theorem dX4_leave_22 : decode cX4_leave 22 = .ok (.bipush 18, 2) := dk_16 18 (dk_at dksX4_leave_0 22 rfl rfl)
theorem dX4_leave_24 : decode cX4_leave 24 = .ok (.iload_n 1, 1) := dk_27 (dk_at dksX4_leave_1 0 rfl rfl)
theorem dX4_leave_25 : decode cX4_leave 25 = .ok (.iadd, 1) := dk_96 (dk_at dksX4_leave_1 1 rfl rfl)
theorem dX4_leave_26 : decode cX4_leave 26 = .ok (.iaload, 1) := dk_46 (dk_at dksX4_leave_1 2 rfl rfl)
theorem dX4_leave_27 : decode cX4_leave 27 = .ok (.istore_n 3, 1) := dk_62 (dk_at dksX4_leave_1 3 rfl rfl)
theorem dX4_leave_28 : decode cX4_leave 28 = .ok (.iconst 0, 1) := dk_3 (dk_at dksX4_leave_1 4 rfl rfl)
theorem dX4_leave_29 : decode cX4_leave 29 = .ok (.istore 4, 2) := dk_54 4 (dk_at dksX4_leave_1 5 rfl rfl)
theorem dX4_leave_31 : decode cX4_leave 31 = .ok (.iconst 0, 1) := dk_3 (dk_at dksX4_leave_1 7 rfl rfl)
theorem dX4_leave_32 : decode cX4_leave 32 = .ok (.istore 5, 2) := dk_54 5 (dk_at dksX4_leave_1 8 rfl rfl)
theorem dX4_leave_34 : decode cX4_leave 34 = .ok (.iload 4, 2) := dk_21 4 (dk_at dksX4_leave_1 10 rfl rfl)
theorem dX4_leave_36 : decode cX4_leave 36 = .ok (.bipush 30, 2) := dk_16 30 (dk_at dksX4_leave_1 12 rfl rfl)
theorem dX4_leave_38 : decode cX4_leave 38 = .ok (.if_icmp .ge 62, 3) := dk_162 0 62 (dk_at dksX4_leave_1 14 rfl rfl)
theorem dX4_leave_41 : decode cX4_leave 41 = .ok (.iload 5, 2) := dk_21 5 (dk_at dksX4_leave_1 17 rfl rfl)
theorem dX4_leave_43 : decode cX4_leave 43 = .ok (.ifCond .ne 57, 3) := dk_154 0 57 (dk_at dksX4_leave_1 19 rfl rfl)
theorem dX4_leave_46 : decode cX4_leave 46 = .ok (.aload_n 0, 1) := dk_42 (dk_at dksX4_leave_1 22 rfl rfl)
theorem dX4_leave_47 : decode cX4_leave 47 = .ok (.iload_n 1, 1) := dk_27 (dk_at dksX4_leave_1 23 rfl rfl)
theorem dX4_leave_48 : decode cX4_leave 48 = .ok (.invokevirtual 416, 3) := dk_182 1 160 (dk_at dksX4_leave_2 0 rfl rfl)
theorem dX4_leave_51 : decode cX4_leave 51 = .ok (.invokestatic 439, 3) := dk_184 1 183 (dk_at dksX4_leave_2 3 rfl rfl)
theorem dX4_leave_54 : decode cX4_leave 54 = .ok (.istore 5, 2) := dk_54 5 (dk_at dksX4_leave_2 6 rfl rfl)
theorem dX4_leave_56 : decode cX4_leave 56 = .ok (.iinc 4 1, 3) := dk_132 4 1 (dk_at dksX4_leave_2 8 rfl rfl)
theorem dX4_leave_59 : decode cX4_leave 59 = .ok (.aload_n 0, 1) := dk_42 (dk_at dksX4_leave_2 11 rfl rfl)
theorem dX4_leave_60 : decode cX4_leave 60 = .ok (.getfield 97, 3) := dk_180 0 97 (dk_at dksX4_leave_2 12 rfl rfl)
theorem dX4_leave_63 : decode cX4_leave 63 = .ok (.bipush 25, 2) := dk_16 25 (dk_at dksX4_leave_2 15 rfl rfl)
theorem dX4_leave_65 : decode cX4_leave 65 = .ok (.dup2, 1) := dk_92 (dk_at dksX4_leave_2 17 rfl rfl)
theorem dX4_leave_66 : decode cX4_leave 66 = .ok (.iaload, 1) := dk_46 (dk_at dksX4_leave_2 18 rfl rfl)
theorem dX4_leave_67 : decode cX4_leave 67 = .ok (.iconst 1, 1) := dk_4 (dk_at dksX4_leave_2 19 rfl rfl)
theorem dX4_leave_68 : decode cX4_leave 68 = .ok (.iadd, 1) := dk_96 (dk_at dksX4_leave_2 20 rfl rfl)
theorem dX4_leave_69 : decode cX4_leave 69 = .ok (.iastore, 1) := dk_79 (dk_at dksX4_leave_2 21 rfl rfl)
theorem dX4_leave_70 : decode cX4_leave 70 = .ok (.aload_n 0, 1) := dk_42 (dk_at dksX4_leave_2 22 rfl rfl)
theorem dX4_leave_71 : decode cX4_leave 71 = .ok (.getfield 97, 3) := dk_180 0 97 (dk_at dksX4_leave_3 0 rfl rfl)
theorem dX4_leave_74 : decode cX4_leave 74 = .ok (.bipush 18, 2) := dk_16 18 (dk_at dksX4_leave_3 3 rfl rfl)
theorem dX4_leave_76 : decode cX4_leave 76 = .ok (.iload_n 1, 1) := dk_27 (dk_at dksX4_leave_3 5 rfl rfl)
theorem dX4_leave_77 : decode cX4_leave 77 = .ok (.iadd, 1) := dk_96 (dk_at dksX4_leave_3 6 rfl rfl)
theorem dX4_leave_78 : decode cX4_leave 78 = .ok (.iaload, 1) := dk_46 (dk_at dksX4_leave_3 7 rfl rfl)
theorem dX4_leave_79 : decode cX4_leave 79 = .ok (.bipush 99, 2) := dk_16 99 (dk_at dksX4_leave_3 8 rfl rfl)
theorem dX4_leave_81 : decode cX4_leave 81 = .ok (.if_icmp .ge (-47), 3) := dk_162 255 209 (dk_at dksX4_leave_3 10 rfl rfl)
theorem dX4_leave_84 : decode cX4_leave 84 = .ok (.aload_n 0, 1) := dk_42 (dk_at dksX4_leave_3 13 rfl rfl)
theorem dX4_leave_85 : decode cX4_leave 85 = .ok (.getfield 97, 3) := dk_180 0 97 (dk_at dksX4_leave_3 14 rfl rfl)
theorem dX4_leave_88 : decode cX4_leave 88 = .ok (.bipush 18, 2) := dk_16 18 (dk_at dksX4_leave_3 17 rfl rfl)
theorem dX4_leave_90 : decode cX4_leave 90 = .ok (.iload_n 1, 1) := dk_27 (dk_at dksX4_leave_3 19 rfl rfl)
theorem dX4_leave_91 : decode cX4_leave 91 = .ok (.iadd, 1) := dk_96 (dk_at dksX4_leave_3 20 rfl rfl)
theorem dX4_leave_92 : decode cX4_leave 92 = .ok (.dup2, 1) := dk_92 (dk_at dksX4_leave_3 21 rfl rfl)
theorem dX4_leave_93 : decode cX4_leave 93 = .ok (.iaload, 1) := dk_46 (dk_at dksX4_leave_3 22 rfl rfl)
theorem dX4_leave_94 : decode cX4_leave 94 = .ok (.iconst 1, 1) := dk_4 (dk_at dksX4_leave_3 23 rfl rfl)
theorem dX4_leave_95 : decode cX4_leave 95 = .ok (.iadd, 1) := dk_96 (dk_at dksX4_leave_4 0 rfl rfl)
theorem dX4_leave_96 : decode cX4_leave 96 = .ok (.iastore, 1) := dk_79 (dk_at dksX4_leave_4 1 rfl rfl)
theorem dX4_leave_97 : decode cX4_leave 97 = .ok (.goto (-63), 3) := dk_167 255 193 (dk_at dksX4_leave_4 2 rfl rfl)
theorem dX4_leave_100 : decode cX4_leave 100 = .ok (.aload_n 0, 1) := dk_42 (dk_at dksX4_leave_4 5 rfl rfl)
theorem dX4_leave_101 : decode cX4_leave 101 = .ok (.getfield 97, 3) := dk_180 0 97 (dk_at dksX4_leave_4 6 rfl rfl)
theorem dX4_leave_104 : decode cX4_leave 104 = .ok (.bipush 25, 2) := dk_16 25 (dk_at dksX4_leave_4 9 rfl rfl)
theorem dX4_leave_106 : decode cX4_leave 106 = .ok (.iload_n 2, 1) := dk_28 (dk_at dksX4_leave_4 11 rfl rfl)
theorem dX4_leave_107 : decode cX4_leave 107 = .ok (.iastore, 1) := dk_79 (dk_at dksX4_leave_4 12 rfl rfl)
theorem dX4_leave_108 : decode cX4_leave 108 = .ok (.aload_n 0, 1) := dk_42 (dk_at dksX4_leave_4 13 rfl rfl)
theorem dX4_leave_109 : decode cX4_leave 109 = .ok (.getfield 97, 3) := dk_180 0 97 (dk_at dksX4_leave_4 14 rfl rfl)
theorem dX4_leave_112 : decode cX4_leave 112 = .ok (.bipush 18, 2) := dk_16 18 (dk_at dksX4_leave_4 17 rfl rfl)
theorem dX4_leave_114 : decode cX4_leave 114 = .ok (.iload_n 1, 1) := dk_27 (dk_at dksX4_leave_4 19 rfl rfl)
theorem dX4_leave_115 : decode cX4_leave 115 = .ok (.iadd, 1) := dk_96 (dk_at dksX4_leave_4 20 rfl rfl)
theorem dX4_leave_116 : decode cX4_leave 116 = .ok (.iload_n 3, 1) := dk_29 (dk_at dksX4_leave_4 21 rfl rfl)
theorem dX4_leave_117 : decode cX4_leave 117 = .ok (.iastore, 1) := dk_79 (dk_at dksX4_leave_4 22 rfl rfl)
theorem dX4_leave_118 : decode cX4_leave 118 = .ok (.iload 5, 2) := dk_21 5 (dk_at dksX4_leave_5 0 rfl rfl)
theorem dX4_leave_120 : decode cX4_leave 120 = .ok (.iconst 1, 1) := dk_4 (dk_at dksX4_leave_5 2 rfl rfl)
theorem dX4_leave_121 : decode cX4_leave 121 = .ok (.if_icmp .ne 8, 3) := dk_160 0 8 (dk_at dksX4_leave_5 3 rfl rfl)
theorem dX4_leave_124 : decode cX4_leave 124 = .ok (.iload 4, 2) := dk_21 4 (dk_at dksX4_leave_5 6 rfl rfl)
theorem dX4_leave_126 : decode cX4_leave 126 = .ok (.goto 4, 3) := dk_167 0 4 (dk_at dksX4_leave_5 8 rfl rfl)
theorem dX4_leave_129 : decode cX4_leave 129 = .ok (.iconst (-1), 1) := dk_2 (dk_at dksX4_leave_5 11 rfl rfl)
theorem dX4_leave_130 : decode cX4_leave 130 = .ok (.ireturn, 1) := dk_172 (dk_at dksX4_leave_5 12 rfl rfl)
abbrev cX4_loophole : ByteArray := prog_22_method_96_code
def yX4_loophole : MethodName := ⟨RX4, "loophole", "(I)I"⟩
def dkwX4_loophole_2 : List UInt8 := [62, 132, 4, 255, 167, 255, 228, 42, 180, 0, 97, 16, 25, 28, 79, 29, 172]
abbrev dktX4_loophole_2 : List UInt8 := dkwX4_loophole_2 ++ []
def dkwX4_loophole_1 : List UInt8 := [21, 4, 155, 0, 29, 42, 180, 0, 97, 16, 25, 21, 4, 79, 42, 27, 182, 1, 160, 158, 0, 6, 21, 4]
abbrev dktX4_loophole_1 : List UInt8 := dkwX4_loophole_1 ++ dktX4_loophole_2
def dkwX4_loophole_0 : List UInt8 := [42, 27, 182, 1, 157, 154, 0, 5, 2, 172, 42, 180, 0, 97, 16, 25, 46, 61, 2, 62, 16, 99, 54, 4]
abbrev dktX4_loophole_0 : List UInt8 := dkwX4_loophole_0 ++ dktX4_loophole_1
theorem dksX4_loophole_0 : cX4_loophole.data.toList.drop 0 = dktX4_loophole_0 := by decide +kernel
theorem dksX4_loophole_1 : cX4_loophole.data.toList.drop 24 = dktX4_loophole_1 := dk_seg dksX4_loophole_0 24 rfl rfl
theorem dksX4_loophole_2 : cX4_loophole.data.toList.drop 48 = dktX4_loophole_2 := dk_seg dksX4_loophole_1 24 rfl rfl
theorem dX4_loophole_0 : decode cX4_loophole 0 = .ok (.aload_n 0, 1) := dk_42 (dk_at dksX4_loophole_0 0 rfl rfl)
theorem dX4_loophole_1 : decode cX4_loophole 1 = .ok (.iload_n 1, 1) := dk_27 (dk_at dksX4_loophole_0 1 rfl rfl)
theorem dX4_loophole_2 : decode cX4_loophole 2 = .ok (.invokevirtual 413, 3) := dk_182 1 157 (dk_at dksX4_loophole_0 2 rfl rfl)
theorem dX4_loophole_5 : decode cX4_loophole 5 = .ok (.ifCond .ne 5, 3) := dk_154 0 5 (dk_at dksX4_loophole_0 5 rfl rfl)
theorem dX4_loophole_8 : decode cX4_loophole 8 = .ok (.iconst (-1), 1) := dk_2 (dk_at dksX4_loophole_0 8 rfl rfl)
theorem dX4_loophole_9 : decode cX4_loophole 9 = .ok (.ireturn, 1) := dk_172 (dk_at dksX4_loophole_0 9 rfl rfl)
theorem dX4_loophole_10 : decode cX4_loophole 10 = .ok (.aload_n 0, 1) := dk_42 (dk_at dksX4_loophole_0 10 rfl rfl)
theorem dX4_loophole_11 : decode cX4_loophole 11 = .ok (.getfield 97, 3) := dk_180 0 97 (dk_at dksX4_loophole_0 11 rfl rfl)
theorem dX4_loophole_14 : decode cX4_loophole 14 = .ok (.bipush 25, 2) := dk_16 25 (dk_at dksX4_loophole_0 14 rfl rfl)
theorem dX4_loophole_16 : decode cX4_loophole 16 = .ok (.iaload, 1) := dk_46 (dk_at dksX4_loophole_0 16 rfl rfl)
theorem dX4_loophole_17 : decode cX4_loophole 17 = .ok (.istore_n 2, 1) := dk_61 (dk_at dksX4_loophole_0 17 rfl rfl)
theorem dX4_loophole_18 : decode cX4_loophole 18 = .ok (.iconst (-1), 1) := dk_2 (dk_at dksX4_loophole_0 18 rfl rfl)
theorem dX4_loophole_19 : decode cX4_loophole 19 = .ok (.istore_n 3, 1) := dk_62 (dk_at dksX4_loophole_0 19 rfl rfl)
theorem dX4_loophole_20 : decode cX4_loophole 20 = .ok (.bipush 99, 2) := dk_16 99 (dk_at dksX4_loophole_0 20 rfl rfl)
theorem dX4_loophole_22 : decode cX4_loophole 22 = .ok (.istore 4, 2) := dk_54 4 (dk_at dksX4_loophole_0 22 rfl rfl)
theorem dX4_loophole_24 : decode cX4_loophole 24 = .ok (.iload 4, 2) := dk_21 4 (dk_at dksX4_loophole_1 0 rfl rfl)
theorem dX4_loophole_26 : decode cX4_loophole 26 = .ok (.ifCond .lt 29, 3) := dk_155 0 29 (dk_at dksX4_loophole_1 2 rfl rfl)
theorem dX4_loophole_29 : decode cX4_loophole 29 = .ok (.aload_n 0, 1) := dk_42 (dk_at dksX4_loophole_1 5 rfl rfl)
theorem dX4_loophole_30 : decode cX4_loophole 30 = .ok (.getfield 97, 3) := dk_180 0 97 (dk_at dksX4_loophole_1 6 rfl rfl)
theorem dX4_loophole_33 : decode cX4_loophole 33 = .ok (.bipush 25, 2) := dk_16 25 (dk_at dksX4_loophole_1 9 rfl rfl)
theorem dX4_loophole_35 : decode cX4_loophole 35 = .ok (.iload 4, 2) := dk_21 4 (dk_at dksX4_loophole_1 11 rfl rfl)
theorem dX4_loophole_37 : decode cX4_loophole 37 = .ok (.iastore, 1) := dk_79 (dk_at dksX4_loophole_1 13 rfl rfl)
theorem dX4_loophole_38 : decode cX4_loophole 38 = .ok (.aload_n 0, 1) := dk_42 (dk_at dksX4_loophole_1 14 rfl rfl)
theorem dX4_loophole_39 : decode cX4_loophole 39 = .ok (.iload_n 1, 1) := dk_27 (dk_at dksX4_loophole_1 15 rfl rfl)
theorem dX4_loophole_40 : decode cX4_loophole 40 = .ok (.invokevirtual 416, 3) := dk_182 1 160 (dk_at dksX4_loophole_1 16 rfl rfl)
theorem dX4_loophole_43 : decode cX4_loophole 43 = .ok (.ifCond .le 6, 3) := dk_158 0 6 (dk_at dksX4_loophole_1 19 rfl rfl)
theorem dX4_loophole_46 : decode cX4_loophole 46 = .ok (.iload 4, 2) := dk_21 4 (dk_at dksX4_loophole_1 22 rfl rfl)
theorem dX4_loophole_48 : decode cX4_loophole 48 = .ok (.istore_n 3, 1) := dk_62 (dk_at dksX4_loophole_2 0 rfl rfl)
theorem dX4_loophole_49 : decode cX4_loophole 49 = .ok (.iinc 4 (-1), 3) := dk_132 4 255 (dk_at dksX4_loophole_2 1 rfl rfl)
theorem dX4_loophole_52 : decode cX4_loophole 52 = .ok (.goto (-28), 3) := dk_167 255 228 (dk_at dksX4_loophole_2 4 rfl rfl)
theorem dX4_loophole_55 : decode cX4_loophole 55 = .ok (.aload_n 0, 1) := dk_42 (dk_at dksX4_loophole_2 7 rfl rfl)
theorem dX4_loophole_56 : decode cX4_loophole 56 = .ok (.getfield 97, 3) := dk_180 0 97 (dk_at dksX4_loophole_2 8 rfl rfl)
theorem dX4_loophole_59 : decode cX4_loophole 59 = .ok (.bipush 25, 2) := dk_16 25 (dk_at dksX4_loophole_2 11 rfl rfl)
theorem dX4_loophole_61 : decode cX4_loophole 61 = .ok (.iload_n 2, 1) := dk_28 (dk_at dksX4_loophole_2 13 rfl rfl)
theorem dX4_loophole_62 : decode cX4_loophole 62 = .ok (.iastore, 1) := dk_79 (dk_at dksX4_loophole_2 14 rfl rfl)
theorem dX4_loophole_63 : decode cX4_loophole 63 = .ok (.iload_n 3, 1) := dk_29 (dk_at dksX4_loophole_2 15 rfl rfl)
theorem dX4_loophole_64 : decode cX4_loophole 64 = .ok (.ireturn, 1) := dk_172 (dk_at dksX4_loophole_2 16 rfl rfl)
abbrev cX4_precedent : ByteArray := prog_22_method_97_code
def yX4_precedent : MethodName := ⟨RX4, "precedent", "(I)I"⟩
def dkwX4_precedent_3 : List UInt8 := [180, 0, 97, 16, 12, 29, 96, 21, 4, 79, 132, 3, 1, 167, 255, 189, 28, 172]
abbrev dktX4_precedent_3 : List UInt8 := dkwX4_precedent_3 ++ []
def dkwX4_precedent_2 : List UInt8 := [182, 1, 157, 153, 0, 15, 42, 29, 182, 1, 160, 158, 0, 7, 4, 167, 0, 4, 3, 96, 61, 42]
abbrev dktX4_precedent_2 : List UInt8 := dkwX4_precedent_2 ++ dktX4_precedent_3
def dkwX4_precedent_1 : List UInt8 := [42, 180, 0, 97, 16, 12, 29, 96, 46, 54, 4, 42, 180, 0, 97, 16, 12, 29, 96, 27, 79, 28, 42, 29]
abbrev dktX4_precedent_1 : List UInt8 := dkwX4_precedent_1 ++ dktX4_precedent_2
def dkwX4_precedent_0 : List UInt8 := [27, 3, 16, 99, 184, 1, 118, 154, 0, 5, 2, 172, 3, 61, 3, 62, 29, 42, 182, 1, 115, 162, 0, 65]
abbrev dktX4_precedent_0 : List UInt8 := dkwX4_precedent_0 ++ dktX4_precedent_1
theorem dksX4_precedent_0 : cX4_precedent.data.toList.drop 0 = dktX4_precedent_0 := by decide +kernel
theorem dksX4_precedent_1 : cX4_precedent.data.toList.drop 24 = dktX4_precedent_1 := dk_seg dksX4_precedent_0 24 rfl rfl
theorem dksX4_precedent_2 : cX4_precedent.data.toList.drop 48 = dktX4_precedent_2 := dk_seg dksX4_precedent_1 24 rfl rfl
theorem dksX4_precedent_3 : cX4_precedent.data.toList.drop 70 = dktX4_precedent_3 := dk_seg dksX4_precedent_2 22 rfl rfl
theorem dX4_precedent_0 : decode cX4_precedent 0 = .ok (.iload_n 1, 1) := dk_27 (dk_at dksX4_precedent_0 0 rfl rfl)
theorem dX4_precedent_1 : decode cX4_precedent 1 = .ok (.iconst 0, 1) := dk_3 (dk_at dksX4_precedent_0 1 rfl rfl)
theorem dX4_precedent_2 : decode cX4_precedent 2 = .ok (.bipush 99, 2) := dk_16 99 (dk_at dksX4_precedent_0 2 rfl rfl)
theorem dX4_precedent_4 : decode cX4_precedent 4 = .ok (.invokestatic 374, 3) := dk_184 1 118 (dk_at dksX4_precedent_0 4 rfl rfl)
theorem dX4_precedent_7 : decode cX4_precedent 7 = .ok (.ifCond .ne 5, 3) := dk_154 0 5 (dk_at dksX4_precedent_0 7 rfl rfl)
theorem dX4_precedent_10 : decode cX4_precedent 10 = .ok (.iconst (-1), 1) := dk_2 (dk_at dksX4_precedent_0 10 rfl rfl)
theorem dX4_precedent_11 : decode cX4_precedent 11 = .ok (.ireturn, 1) := dk_172 (dk_at dksX4_precedent_0 11 rfl rfl)
theorem dX4_precedent_12 : decode cX4_precedent 12 = .ok (.iconst 0, 1) := dk_3 (dk_at dksX4_precedent_0 12 rfl rfl)
theorem dX4_precedent_13 : decode cX4_precedent 13 = .ok (.istore_n 2, 1) := dk_61 (dk_at dksX4_precedent_0 13 rfl rfl)
theorem dX4_precedent_14 : decode cX4_precedent 14 = .ok (.iconst 0, 1) := dk_3 (dk_at dksX4_precedent_0 14 rfl rfl)
theorem dX4_precedent_15 : decode cX4_precedent 15 = .ok (.istore_n 3, 1) := dk_62 (dk_at dksX4_precedent_0 15 rfl rfl)
theorem dX4_precedent_16 : decode cX4_precedent 16 = .ok (.iload_n 3, 1) := dk_29 (dk_at dksX4_precedent_0 16 rfl rfl)
theorem dX4_precedent_17 : decode cX4_precedent 17 = .ok (.aload_n 0, 1) := dk_42 (dk_at dksX4_precedent_0 17 rfl rfl)
theorem dX4_precedent_18 : decode cX4_precedent 18 = .ok (.invokevirtual 371, 3) := dk_182 1 115 (dk_at dksX4_precedent_0 18 rfl rfl)
theorem dX4_precedent_21 : decode cX4_precedent 21 = .ok (.if_icmp .ge 65, 3) := dk_162 0 65 (dk_at dksX4_precedent_0 21 rfl rfl)
theorem dX4_precedent_24 : decode cX4_precedent 24 = .ok (.aload_n 0, 1) := dk_42 (dk_at dksX4_precedent_1 0 rfl rfl)
theorem dX4_precedent_25 : decode cX4_precedent 25 = .ok (.getfield 97, 3) := dk_180 0 97 (dk_at dksX4_precedent_1 1 rfl rfl)
theorem dX4_precedent_28 : decode cX4_precedent 28 = .ok (.bipush 12, 2) := dk_16 12 (dk_at dksX4_precedent_1 4 rfl rfl)
theorem dX4_precedent_30 : decode cX4_precedent 30 = .ok (.iload_n 3, 1) := dk_29 (dk_at dksX4_precedent_1 6 rfl rfl)
theorem dX4_precedent_31 : decode cX4_precedent 31 = .ok (.iadd, 1) := dk_96 (dk_at dksX4_precedent_1 7 rfl rfl)
theorem dX4_precedent_32 : decode cX4_precedent 32 = .ok (.iaload, 1) := dk_46 (dk_at dksX4_precedent_1 8 rfl rfl)
theorem dX4_precedent_33 : decode cX4_precedent 33 = .ok (.istore 4, 2) := dk_54 4 (dk_at dksX4_precedent_1 9 rfl rfl)
theorem dX4_precedent_35 : decode cX4_precedent 35 = .ok (.aload_n 0, 1) := dk_42 (dk_at dksX4_precedent_1 11 rfl rfl)
theorem dX4_precedent_36 : decode cX4_precedent 36 = .ok (.getfield 97, 3) := dk_180 0 97 (dk_at dksX4_precedent_1 12 rfl rfl)
theorem dX4_precedent_39 : decode cX4_precedent 39 = .ok (.bipush 12, 2) := dk_16 12 (dk_at dksX4_precedent_1 15 rfl rfl)
theorem dX4_precedent_41 : decode cX4_precedent 41 = .ok (.iload_n 3, 1) := dk_29 (dk_at dksX4_precedent_1 17 rfl rfl)
theorem dX4_precedent_42 : decode cX4_precedent 42 = .ok (.iadd, 1) := dk_96 (dk_at dksX4_precedent_1 18 rfl rfl)
theorem dX4_precedent_43 : decode cX4_precedent 43 = .ok (.iload_n 1, 1) := dk_27 (dk_at dksX4_precedent_1 19 rfl rfl)
theorem dX4_precedent_44 : decode cX4_precedent 44 = .ok (.iastore, 1) := dk_79 (dk_at dksX4_precedent_1 20 rfl rfl)
theorem dX4_precedent_45 : decode cX4_precedent 45 = .ok (.iload_n 2, 1) := dk_28 (dk_at dksX4_precedent_1 21 rfl rfl)
theorem dX4_precedent_46 : decode cX4_precedent 46 = .ok (.aload_n 0, 1) := dk_42 (dk_at dksX4_precedent_1 22 rfl rfl)
theorem dX4_precedent_47 : decode cX4_precedent 47 = .ok (.iload_n 3, 1) := dk_29 (dk_at dksX4_precedent_1 23 rfl rfl)
theorem dX4_precedent_48 : decode cX4_precedent 48 = .ok (.invokevirtual 413, 3) := dk_182 1 157 (dk_at dksX4_precedent_2 0 rfl rfl)
theorem dX4_precedent_51 : decode cX4_precedent 51 = .ok (.ifCond .eq 15, 3) := dk_153 0 15 (dk_at dksX4_precedent_2 3 rfl rfl)
theorem dX4_precedent_54 : decode cX4_precedent 54 = .ok (.aload_n 0, 1) := dk_42 (dk_at dksX4_precedent_2 6 rfl rfl)
theorem dX4_precedent_55 : decode cX4_precedent 55 = .ok (.iload_n 3, 1) := dk_29 (dk_at dksX4_precedent_2 7 rfl rfl)
theorem dX4_precedent_56 : decode cX4_precedent 56 = .ok (.invokevirtual 416, 3) := dk_182 1 160 (dk_at dksX4_precedent_2 8 rfl rfl)
theorem dX4_precedent_59 : decode cX4_precedent 59 = .ok (.ifCond .le 7, 3) := dk_158 0 7 (dk_at dksX4_precedent_2 11 rfl rfl)
theorem dX4_precedent_62 : decode cX4_precedent 62 = .ok (.iconst 1, 1) := dk_4 (dk_at dksX4_precedent_2 14 rfl rfl)
theorem dX4_precedent_63 : decode cX4_precedent 63 = .ok (.goto 4, 3) := dk_167 0 4 (dk_at dksX4_precedent_2 15 rfl rfl)
theorem dX4_precedent_66 : decode cX4_precedent 66 = .ok (.iconst 0, 1) := dk_3 (dk_at dksX4_precedent_2 18 rfl rfl)
theorem dX4_precedent_67 : decode cX4_precedent 67 = .ok (.iadd, 1) := dk_96 (dk_at dksX4_precedent_2 19 rfl rfl)
theorem dX4_precedent_68 : decode cX4_precedent 68 = .ok (.istore_n 2, 1) := dk_61 (dk_at dksX4_precedent_2 20 rfl rfl)
theorem dX4_precedent_69 : decode cX4_precedent 69 = .ok (.aload_n 0, 1) := dk_42 (dk_at dksX4_precedent_2 21 rfl rfl)
theorem dX4_precedent_70 : decode cX4_precedent 70 = .ok (.getfield 97, 3) := dk_180 0 97 (dk_at dksX4_precedent_3 0 rfl rfl)
theorem dX4_precedent_73 : decode cX4_precedent 73 = .ok (.bipush 12, 2) := dk_16 12 (dk_at dksX4_precedent_3 3 rfl rfl)
theorem dX4_precedent_75 : decode cX4_precedent 75 = .ok (.iload_n 3, 1) := dk_29 (dk_at dksX4_precedent_3 5 rfl rfl)
theorem dX4_precedent_76 : decode cX4_precedent 76 = .ok (.iadd, 1) := dk_96 (dk_at dksX4_precedent_3 6 rfl rfl)
theorem dX4_precedent_77 : decode cX4_precedent 77 = .ok (.iload 4, 2) := dk_21 4 (dk_at dksX4_precedent_3 7 rfl rfl)
theorem dX4_precedent_79 : decode cX4_precedent 79 = .ok (.iastore, 1) := dk_79 (dk_at dksX4_precedent_3 9 rfl rfl)
theorem dX4_precedent_80 : decode cX4_precedent 80 = .ok (.iinc 3 1, 3) := dk_132 3 1 (dk_at dksX4_precedent_3 10 rfl rfl)
theorem dX4_precedent_83 : decode cX4_precedent 83 = .ok (.goto (-67), 3) := dk_167 255 189 (dk_at dksX4_precedent_3 13 rfl rfl)
theorem dX4_precedent_86 : decode cX4_precedent 86 = .ok (.iload_n 2, 1) := dk_28 (dk_at dksX4_precedent_3 16 rfl rfl)
theorem dX4_precedent_87 : decode cX4_precedent 87 = .ok (.ireturn, 1) := dk_172 (dk_at dksX4_precedent_3 17 rfl rfl)
abbrev cX4_rivals : ByteArray := prog_22_method_100_code
def yX4_rivals : MethodName := ⟨RX4, "rivals", "(II)I"⟩
def dkwX4_rivals_5 : List UInt8 := [181, 1, 142, 132, 3, 1, 132, 4, 1, 167, 255, 176, 29, 172]
abbrev dktX4_rivals_5 : List UInt8 := dkwX4_rivals_5 ++ []
def dkwX4_rivals_4 : List UInt8 := [180, 0, 106, 3, 21, 4, 16, 8, 108, 79, 42, 180, 0, 106, 4, 21, 4, 16, 8, 112, 79, 42, 5]
abbrev dktX4_rivals_4 : List UInt8 := dkwX4_rivals_4 ++ dktX4_rivals_5
def dkwX4_rivals_3 : List UInt8 := [112, 182, 1, 170, 153, 0, 49, 42, 21, 4, 182, 1, 207, 154, 0, 6, 167, 0, 37, 29, 154, 0, 30, 42]
abbrev dktX4_rivals_3 : List UInt8 := dkwX4_rivals_3 ++ dktX4_rivals_4
def dkwX4_rivals_2 : List UInt8 := [21, 4, 16, 64, 162, 0, 79, 42, 21, 4, 16, 8, 108, 182, 1, 170, 153, 0, 61, 42, 21, 4, 16, 8]
abbrev dktX4_rivals_2 : List UInt8 := dkwX4_rivals_2 ++ dktX4_rivals_3
def dkwX4_rivals_1 : List UInt8 := [159, 0, 10, 42, 182, 1, 121, 154, 0, 5, 2, 172, 42, 27, 28, 182, 1, 204, 3, 62, 3, 54, 4]
abbrev dktX4_rivals_1 : List UInt8 := dkwX4_rivals_1 ++ dktX4_rivals_2
def dkwX4_rivals_0 : List UInt8 := [42, 3, 181, 1, 142, 42, 27, 182, 1, 157, 153, 0, 23, 42, 28, 182, 1, 157, 153, 0, 15, 27, 28]
abbrev dktX4_rivals_0 : List UInt8 := dkwX4_rivals_0 ++ dktX4_rivals_1
theorem dksX4_rivals_0 : cX4_rivals.data.toList.drop 0 = dktX4_rivals_0 := by decide +kernel
theorem dksX4_rivals_1 : cX4_rivals.data.toList.drop 23 = dktX4_rivals_1 := dk_seg dksX4_rivals_0 23 rfl rfl
theorem dksX4_rivals_2 : cX4_rivals.data.toList.drop 46 = dktX4_rivals_2 := dk_seg dksX4_rivals_1 23 rfl rfl
theorem dksX4_rivals_3 : cX4_rivals.data.toList.drop 70 = dktX4_rivals_3 := dk_seg dksX4_rivals_2 24 rfl rfl
theorem dksX4_rivals_4 : cX4_rivals.data.toList.drop 94 = dktX4_rivals_4 := dk_seg dksX4_rivals_3 24 rfl rfl
theorem dksX4_rivals_5 : cX4_rivals.data.toList.drop 117 = dktX4_rivals_5 := dk_seg dksX4_rivals_4 23 rfl rfl
theorem dX4_rivals_0 : decode cX4_rivals 0 = .ok (.aload_n 0, 1) := dk_42 (dk_at dksX4_rivals_0 0 rfl rfl)
theorem dX4_rivals_1 : decode cX4_rivals 1 = .ok (.iconst 0, 1) := dk_3 (dk_at dksX4_rivals_0 1 rfl rfl)
theorem dX4_rivals_2 : decode cX4_rivals 2 = .ok (.putfield 398, 3) := dk_181 1 142 (dk_at dksX4_rivals_0 2 rfl rfl)
theorem dX4_rivals_5 : decode cX4_rivals 5 = .ok (.aload_n 0, 1) := dk_42 (dk_at dksX4_rivals_0 5 rfl rfl)
theorem dX4_rivals_6 : decode cX4_rivals 6 = .ok (.iload_n 1, 1) := dk_27 (dk_at dksX4_rivals_0 6 rfl rfl)
theorem dX4_rivals_7 : decode cX4_rivals 7 = .ok (.invokevirtual 413, 3) := dk_182 1 157 (dk_at dksX4_rivals_0 7 rfl rfl)
theorem dX4_rivals_10 : decode cX4_rivals 10 = .ok (.ifCond .eq 23, 3) := dk_153 0 23 (dk_at dksX4_rivals_0 10 rfl rfl)
theorem dX4_rivals_13 : decode cX4_rivals 13 = .ok (.aload_n 0, 1) := dk_42 (dk_at dksX4_rivals_0 13 rfl rfl)
theorem dX4_rivals_14 : decode cX4_rivals 14 = .ok (.iload_n 2, 1) := dk_28 (dk_at dksX4_rivals_0 14 rfl rfl)
theorem dX4_rivals_15 : decode cX4_rivals 15 = .ok (.invokevirtual 413, 3) := dk_182 1 157 (dk_at dksX4_rivals_0 15 rfl rfl)
theorem dX4_rivals_18 : decode cX4_rivals 18 = .ok (.ifCond .eq 15, 3) := dk_153 0 15 (dk_at dksX4_rivals_0 18 rfl rfl)
theorem dX4_rivals_21 : decode cX4_rivals 21 = .ok (.iload_n 1, 1) := dk_27 (dk_at dksX4_rivals_0 21 rfl rfl)
theorem dX4_rivals_22 : decode cX4_rivals 22 = .ok (.iload_n 2, 1) := dk_28 (dk_at dksX4_rivals_0 22 rfl rfl)
theorem dX4_rivals_23 : decode cX4_rivals 23 = .ok (.if_icmp .eq 10, 3) := dk_159 0 10 (dk_at dksX4_rivals_1 0 rfl rfl)
theorem dX4_rivals_26 : decode cX4_rivals 26 = .ok (.aload_n 0, 1) := dk_42 (dk_at dksX4_rivals_1 3 rfl rfl)
theorem dX4_rivals_27 : decode cX4_rivals 27 = .ok (.invokevirtual 377, 3) := dk_182 1 121 (dk_at dksX4_rivals_1 4 rfl rfl)
theorem dX4_rivals_30 : decode cX4_rivals 30 = .ok (.ifCond .ne 5, 3) := dk_154 0 5 (dk_at dksX4_rivals_1 7 rfl rfl)
theorem dX4_rivals_33 : decode cX4_rivals 33 = .ok (.iconst (-1), 1) := dk_2 (dk_at dksX4_rivals_1 10 rfl rfl)
theorem dX4_rivals_34 : decode cX4_rivals 34 = .ok (.ireturn, 1) := dk_172 (dk_at dksX4_rivals_1 11 rfl rfl)
theorem dX4_rivals_35 : decode cX4_rivals 35 = .ok (.aload_n 0, 1) := dk_42 (dk_at dksX4_rivals_1 12 rfl rfl)
theorem dX4_rivals_36 : decode cX4_rivals 36 = .ok (.iload_n 1, 1) := dk_27 (dk_at dksX4_rivals_1 13 rfl rfl)
theorem dX4_rivals_37 : decode cX4_rivals 37 = .ok (.iload_n 2, 1) := dk_28 (dk_at dksX4_rivals_1 14 rfl rfl)
theorem dX4_rivals_38 : decode cX4_rivals 38 = .ok (.invokevirtual 460, 3) := dk_182 1 204 (dk_at dksX4_rivals_1 15 rfl rfl)
theorem dX4_rivals_41 : decode cX4_rivals 41 = .ok (.iconst 0, 1) := dk_3 (dk_at dksX4_rivals_1 18 rfl rfl)
theorem dX4_rivals_42 : decode cX4_rivals 42 = .ok (.istore_n 3, 1) := dk_62 (dk_at dksX4_rivals_1 19 rfl rfl)
theorem dX4_rivals_43 : decode cX4_rivals 43 = .ok (.iconst 0, 1) := dk_3 (dk_at dksX4_rivals_1 20 rfl rfl)
theorem dX4_rivals_44 : decode cX4_rivals 44 = .ok (.istore 4, 2) := dk_54 4 (dk_at dksX4_rivals_1 21 rfl rfl)
theorem dX4_rivals_46 : decode cX4_rivals 46 = .ok (.iload 4, 2) := dk_21 4 (dk_at dksX4_rivals_2 0 rfl rfl)
theorem dX4_rivals_48 : decode cX4_rivals 48 = .ok (.bipush 64, 2) := dk_16 64 (dk_at dksX4_rivals_2 2 rfl rfl)
theorem dX4_rivals_50 : decode cX4_rivals 50 = .ok (.if_icmp .ge 79, 3) := dk_162 0 79 (dk_at dksX4_rivals_2 4 rfl rfl)
theorem dX4_rivals_53 : decode cX4_rivals 53 = .ok (.aload_n 0, 1) := dk_42 (dk_at dksX4_rivals_2 7 rfl rfl)
theorem dX4_rivals_54 : decode cX4_rivals 54 = .ok (.iload 4, 2) := dk_21 4 (dk_at dksX4_rivals_2 8 rfl rfl)
theorem dX4_rivals_56 : decode cX4_rivals 56 = .ok (.bipush 8, 2) := dk_16 8 (dk_at dksX4_rivals_2 10 rfl rfl)
theorem dX4_rivals_58 : decode cX4_rivals 58 = .ok (.idiv, 1) := dk_108 (dk_at dksX4_rivals_2 12 rfl rfl)
theorem dX4_rivals_59 : decode cX4_rivals 59 = .ok (.invokevirtual 426, 3) := dk_182 1 170 (dk_at dksX4_rivals_2 13 rfl rfl)
theorem dX4_rivals_62 : decode cX4_rivals 62 = .ok (.ifCond .eq 61, 3) := dk_153 0 61 (dk_at dksX4_rivals_2 16 rfl rfl)
theorem dX4_rivals_65 : decode cX4_rivals 65 = .ok (.aload_n 0, 1) := dk_42 (dk_at dksX4_rivals_2 19 rfl rfl)
theorem dX4_rivals_66 : decode cX4_rivals 66 = .ok (.iload 4, 2) := dk_21 4 (dk_at dksX4_rivals_2 20 rfl rfl)
theorem dX4_rivals_68 : decode cX4_rivals 68 = .ok (.bipush 8, 2) := dk_16 8 (dk_at dksX4_rivals_2 22 rfl rfl)
theorem dX4_rivals_70 : decode cX4_rivals 70 = .ok (.irem, 1) := dk_112 (dk_at dksX4_rivals_3 0 rfl rfl)
theorem dX4_rivals_71 : decode cX4_rivals 71 = .ok (.invokevirtual 426, 3) := dk_182 1 170 (dk_at dksX4_rivals_3 1 rfl rfl)
theorem dX4_rivals_74 : decode cX4_rivals 74 = .ok (.ifCond .eq 49, 3) := dk_153 0 49 (dk_at dksX4_rivals_3 4 rfl rfl)
theorem dX4_rivals_77 : decode cX4_rivals 77 = .ok (.aload_n 0, 1) := dk_42 (dk_at dksX4_rivals_3 7 rfl rfl)
theorem dX4_rivals_78 : decode cX4_rivals 78 = .ok (.iload 4, 2) := dk_21 4 (dk_at dksX4_rivals_3 8 rfl rfl)
theorem dX4_rivals_80 : decode cX4_rivals 80 = .ok (.invokevirtual 463, 3) := dk_182 1 207 (dk_at dksX4_rivals_3 10 rfl rfl)
theorem dX4_rivals_83 : decode cX4_rivals 83 = .ok (.ifCond .ne 6, 3) := dk_154 0 6 (dk_at dksX4_rivals_3 13 rfl rfl)
theorem dX4_rivals_86 : decode cX4_rivals 86 = .ok (.goto 37, 3) := dk_167 0 37 (dk_at dksX4_rivals_3 16 rfl rfl)
theorem dX4_rivals_89 : decode cX4_rivals 89 = .ok (.iload_n 3, 1) := dk_29 (dk_at dksX4_rivals_3 19 rfl rfl)
theorem dX4_rivals_90 : decode cX4_rivals 90 = .ok (.ifCond .ne 30, 3) := dk_154 0 30 (dk_at dksX4_rivals_3 20 rfl rfl)
theorem dX4_rivals_93 : decode cX4_rivals 93 = .ok (.aload_n 0, 1) := dk_42 (dk_at dksX4_rivals_3 23 rfl rfl)
theorem dX4_rivals_94 : decode cX4_rivals 94 = .ok (.getfield 106, 3) := dk_180 0 106 (dk_at dksX4_rivals_4 0 rfl rfl)
theorem dX4_rivals_97 : decode cX4_rivals 97 = .ok (.iconst 0, 1) := dk_3 (dk_at dksX4_rivals_4 3 rfl rfl)
theorem dX4_rivals_98 : decode cX4_rivals 98 = .ok (.iload 4, 2) := dk_21 4 (dk_at dksX4_rivals_4 4 rfl rfl)
theorem dX4_rivals_100 : decode cX4_rivals 100 = .ok (.bipush 8, 2) := dk_16 8 (dk_at dksX4_rivals_4 6 rfl rfl)
theorem dX4_rivals_102 : decode cX4_rivals 102 = .ok (.idiv, 1) := dk_108 (dk_at dksX4_rivals_4 8 rfl rfl)
theorem dX4_rivals_103 : decode cX4_rivals 103 = .ok (.iastore, 1) := dk_79 (dk_at dksX4_rivals_4 9 rfl rfl)
theorem dX4_rivals_104 : decode cX4_rivals 104 = .ok (.aload_n 0, 1) := dk_42 (dk_at dksX4_rivals_4 10 rfl rfl)
theorem dX4_rivals_105 : decode cX4_rivals 105 = .ok (.getfield 106, 3) := dk_180 0 106 (dk_at dksX4_rivals_4 11 rfl rfl)
theorem dX4_rivals_108 : decode cX4_rivals 108 = .ok (.iconst 1, 1) := dk_4 (dk_at dksX4_rivals_4 14 rfl rfl)
theorem dX4_rivals_109 : decode cX4_rivals 109 = .ok (.iload 4, 2) := dk_21 4 (dk_at dksX4_rivals_4 15 rfl rfl)
theorem dX4_rivals_111 : decode cX4_rivals 111 = .ok (.bipush 8, 2) := dk_16 8 (dk_at dksX4_rivals_4 17 rfl rfl)
theorem dX4_rivals_113 : decode cX4_rivals 113 = .ok (.irem, 1) := dk_112 (dk_at dksX4_rivals_4 19 rfl rfl)
theorem dX4_rivals_114 : decode cX4_rivals 114 = .ok (.iastore, 1) := dk_79 (dk_at dksX4_rivals_4 20 rfl rfl)
theorem dX4_rivals_115 : decode cX4_rivals 115 = .ok (.aload_n 0, 1) := dk_42 (dk_at dksX4_rivals_4 21 rfl rfl)
theorem dX4_rivals_116 : decode cX4_rivals 116 = .ok (.iconst 2, 1) := dk_5 (dk_at dksX4_rivals_4 22 rfl rfl)
theorem dX4_rivals_117 : decode cX4_rivals 117 = .ok (.putfield 398, 3) := dk_181 1 142 (dk_at dksX4_rivals_5 0 rfl rfl)
theorem dX4_rivals_120 : decode cX4_rivals 120 = .ok (.iinc 3 1, 3) := dk_132 3 1 (dk_at dksX4_rivals_5 3 rfl rfl)
theorem dX4_rivals_123 : decode cX4_rivals 123 = .ok (.iinc 4 1, 3) := dk_132 4 1 (dk_at dksX4_rivals_5 6 rfl rfl)
theorem dX4_rivals_126 : decode cX4_rivals 126 = .ok (.goto (-80), 3) := dk_167 255 176 (dk_at dksX4_rivals_5 9 rfl rfl)
theorem dX4_rivals_129 : decode cX4_rivals 129 = .ok (.iload_n 3, 1) := dk_29 (dk_at dksX4_rivals_5 12 rfl rfl)
theorem dX4_rivals_130 : decode cX4_rivals 130 = .ok (.ireturn, 1) := dk_172 (dk_at dksX4_rivals_5 13 rfl rfl)
abbrev cX4_layVerdicts : ByteArray := prog_22_method_98_code
def yX4_layVerdicts : MethodName := ⟨RX4, "layVerdicts", "(II)V"⟩
def dkwX4_layVerdicts_4 : List UInt8 := [79, 132, 3, 1, 167, 255, 159, 177]
abbrev dktX4_layVerdicts_4 : List UInt8 := dkwX4_layVerdicts_4 ++ []
def dkwX4_layVerdicts_3 : List UInt8 := [16, 64, 29, 96, 42, 28, 21, 4, 21, 5, 160, 0, 7, 3, 167, 0, 7, 4, 21, 5, 120, 182, 1, 154]
abbrev dktX4_layVerdicts_3 : List UInt8 := dkwX4_layVerdicts_3 ++ dktX4_layVerdicts_4
def dkwX4_layVerdicts_2 : List UInt8 := [27, 21, 4, 21, 5, 160, 0, 7, 3, 167, 0, 7, 4, 21, 4, 120, 182, 1, 154, 79, 42, 180, 0, 109]
abbrev dktX4_layVerdicts_2 : List UInt8 := dkwX4_layVerdicts_2 ++ dktX4_layVerdicts_3
def dkwX4_layVerdicts_1 : List UInt8 := [182, 1, 170, 153, 0, 70, 42, 21, 5, 182, 1, 170, 154, 0, 6, 167, 0, 58, 42, 180, 0, 109, 29, 42]
abbrev dktX4_layVerdicts_1 : List UInt8 := dkwX4_layVerdicts_1 ++ dktX4_layVerdicts_2
def dkwX4_layVerdicts_0 : List UInt8 := [3, 62, 29, 16, 64, 162, 0, 97, 29, 16, 8, 108, 54, 4, 29, 16, 8, 112, 54, 5, 42, 21, 4]
abbrev dktX4_layVerdicts_0 : List UInt8 := dkwX4_layVerdicts_0 ++ dktX4_layVerdicts_1
theorem dksX4_layVerdicts_0 : cX4_layVerdicts.data.toList.drop 0 = dktX4_layVerdicts_0 := by decide +kernel
theorem dksX4_layVerdicts_1 : cX4_layVerdicts.data.toList.drop 23 = dktX4_layVerdicts_1 := dk_seg dksX4_layVerdicts_0 23 rfl rfl
theorem dksX4_layVerdicts_2 : cX4_layVerdicts.data.toList.drop 47 = dktX4_layVerdicts_2 := dk_seg dksX4_layVerdicts_1 24 rfl rfl
theorem dksX4_layVerdicts_3 : cX4_layVerdicts.data.toList.drop 71 = dktX4_layVerdicts_3 := dk_seg dksX4_layVerdicts_2 24 rfl rfl
theorem dksX4_layVerdicts_4 : cX4_layVerdicts.data.toList.drop 95 = dktX4_layVerdicts_4 := dk_seg dksX4_layVerdicts_3 24 rfl rfl
theorem dX4_layVerdicts_0 : decode cX4_layVerdicts 0 = .ok (.iconst 0, 1) := dk_3 (dk_at dksX4_layVerdicts_0 0 rfl rfl)
theorem dX4_layVerdicts_1 : decode cX4_layVerdicts 1 = .ok (.istore_n 3, 1) := dk_62 (dk_at dksX4_layVerdicts_0 1 rfl rfl)
theorem dX4_layVerdicts_2 : decode cX4_layVerdicts 2 = .ok (.iload_n 3, 1) := dk_29 (dk_at dksX4_layVerdicts_0 2 rfl rfl)
theorem dX4_layVerdicts_3 : decode cX4_layVerdicts 3 = .ok (.bipush 64, 2) := dk_16 64 (dk_at dksX4_layVerdicts_0 3 rfl rfl)
theorem dX4_layVerdicts_5 : decode cX4_layVerdicts 5 = .ok (.if_icmp .ge 97, 3) := dk_162 0 97 (dk_at dksX4_layVerdicts_0 5 rfl rfl)
theorem dX4_layVerdicts_8 : decode cX4_layVerdicts 8 = .ok (.iload_n 3, 1) := dk_29 (dk_at dksX4_layVerdicts_0 8 rfl rfl)
theorem dX4_layVerdicts_9 : decode cX4_layVerdicts 9 = .ok (.bipush 8, 2) := dk_16 8 (dk_at dksX4_layVerdicts_0 9 rfl rfl)
theorem dX4_layVerdicts_11 : decode cX4_layVerdicts 11 = .ok (.idiv, 1) := dk_108 (dk_at dksX4_layVerdicts_0 11 rfl rfl)
theorem dX4_layVerdicts_12 : decode cX4_layVerdicts 12 = .ok (.istore 4, 2) := dk_54 4 (dk_at dksX4_layVerdicts_0 12 rfl rfl)
theorem dX4_layVerdicts_14 : decode cX4_layVerdicts 14 = .ok (.iload_n 3, 1) := dk_29 (dk_at dksX4_layVerdicts_0 14 rfl rfl)
theorem dX4_layVerdicts_15 : decode cX4_layVerdicts 15 = .ok (.bipush 8, 2) := dk_16 8 (dk_at dksX4_layVerdicts_0 15 rfl rfl)
theorem dX4_layVerdicts_17 : decode cX4_layVerdicts 17 = .ok (.irem, 1) := dk_112 (dk_at dksX4_layVerdicts_0 17 rfl rfl)
theorem dX4_layVerdicts_18 : decode cX4_layVerdicts 18 = .ok (.istore 5, 2) := dk_54 5 (dk_at dksX4_layVerdicts_0 18 rfl rfl)
theorem dX4_layVerdicts_20 : decode cX4_layVerdicts 20 = .ok (.aload_n 0, 1) := dk_42 (dk_at dksX4_layVerdicts_0 20 rfl rfl)
theorem dX4_layVerdicts_21 : decode cX4_layVerdicts 21 = .ok (.iload 4, 2) := dk_21 4 (dk_at dksX4_layVerdicts_0 21 rfl rfl)
theorem dX4_layVerdicts_23 : decode cX4_layVerdicts 23 = .ok (.invokevirtual 426, 3) := dk_182 1 170 (dk_at dksX4_layVerdicts_1 0 rfl rfl)
theorem dX4_layVerdicts_26 : decode cX4_layVerdicts 26 = .ok (.ifCond .eq 70, 3) := dk_153 0 70 (dk_at dksX4_layVerdicts_1 3 rfl rfl)
theorem dX4_layVerdicts_29 : decode cX4_layVerdicts 29 = .ok (.aload_n 0, 1) := dk_42 (dk_at dksX4_layVerdicts_1 6 rfl rfl)
theorem dX4_layVerdicts_30 : decode cX4_layVerdicts 30 = .ok (.iload 5, 2) := dk_21 5 (dk_at dksX4_layVerdicts_1 7 rfl rfl)
theorem dX4_layVerdicts_32 : decode cX4_layVerdicts 32 = .ok (.invokevirtual 426, 3) := dk_182 1 170 (dk_at dksX4_layVerdicts_1 9 rfl rfl)
theorem dX4_layVerdicts_35 : decode cX4_layVerdicts 35 = .ok (.ifCond .ne 6, 3) := dk_154 0 6 (dk_at dksX4_layVerdicts_1 12 rfl rfl)
theorem dX4_layVerdicts_38 : decode cX4_layVerdicts 38 = .ok (.goto 58, 3) := dk_167 0 58 (dk_at dksX4_layVerdicts_1 15 rfl rfl)
theorem dX4_layVerdicts_41 : decode cX4_layVerdicts 41 = .ok (.aload_n 0, 1) := dk_42 (dk_at dksX4_layVerdicts_1 18 rfl rfl)
theorem dX4_layVerdicts_42 : decode cX4_layVerdicts 42 = .ok (.getfield 109, 3) := dk_180 0 109 (dk_at dksX4_layVerdicts_1 19 rfl rfl)
theorem dX4_layVerdicts_45 : decode cX4_layVerdicts 45 = .ok (.iload_n 3, 1) := dk_29 (dk_at dksX4_layVerdicts_1 22 rfl rfl)
theorem dX4_layVerdicts_46 : decode cX4_layVerdicts 46 = .ok (.aload_n 0, 1) := dk_42 (dk_at dksX4_layVerdicts_1 23 rfl rfl)
theorem dX4_layVerdicts_47 : decode cX4_layVerdicts 47 = .ok (.iload_n 1, 1) := dk_27 (dk_at dksX4_layVerdicts_2 0 rfl rfl)
theorem dX4_layVerdicts_48 : decode cX4_layVerdicts 48 = .ok (.iload 4, 2) := dk_21 4 (dk_at dksX4_layVerdicts_2 1 rfl rfl)
theorem dX4_layVerdicts_50 : decode cX4_layVerdicts 50 = .ok (.iload 5, 2) := dk_21 5 (dk_at dksX4_layVerdicts_2 3 rfl rfl)
theorem dX4_layVerdicts_52 : decode cX4_layVerdicts 52 = .ok (.if_icmp .ne 7, 3) := dk_160 0 7 (dk_at dksX4_layVerdicts_2 5 rfl rfl)
theorem dX4_layVerdicts_55 : decode cX4_layVerdicts 55 = .ok (.iconst 0, 1) := dk_3 (dk_at dksX4_layVerdicts_2 8 rfl rfl)
theorem dX4_layVerdicts_56 : decode cX4_layVerdicts 56 = .ok (.goto 7, 3) := dk_167 0 7 (dk_at dksX4_layVerdicts_2 9 rfl rfl)
theorem dX4_layVerdicts_59 : decode cX4_layVerdicts 59 = .ok (.iconst 1, 1) := dk_4 (dk_at dksX4_layVerdicts_2 12 rfl rfl)
theorem dX4_layVerdicts_60 : decode cX4_layVerdicts 60 = .ok (.iload 4, 2) := dk_21 4 (dk_at dksX4_layVerdicts_2 13 rfl rfl)
theorem dX4_layVerdicts_62 : decode cX4_layVerdicts 62 = .ok (.ishl, 1) := dk_120 (dk_at dksX4_layVerdicts_2 15 rfl rfl)
theorem dX4_layVerdicts_63 : decode cX4_layVerdicts 63 = .ok (.invokevirtual 410, 3) := dk_182 1 154 (dk_at dksX4_layVerdicts_2 16 rfl rfl)
theorem dX4_layVerdicts_66 : decode cX4_layVerdicts 66 = .ok (.iastore, 1) := dk_79 (dk_at dksX4_layVerdicts_2 19 rfl rfl)
theorem dX4_layVerdicts_67 : decode cX4_layVerdicts 67 = .ok (.aload_n 0, 1) := dk_42 (dk_at dksX4_layVerdicts_2 20 rfl rfl)
theorem dX4_layVerdicts_68 : decode cX4_layVerdicts 68 = .ok (.getfield 109, 3) := dk_180 0 109 (dk_at dksX4_layVerdicts_2 21 rfl rfl)
theorem dX4_layVerdicts_71 : decode cX4_layVerdicts 71 = .ok (.bipush 64, 2) := dk_16 64 (dk_at dksX4_layVerdicts_3 0 rfl rfl)
theorem dX4_layVerdicts_73 : decode cX4_layVerdicts 73 = .ok (.iload_n 3, 1) := dk_29 (dk_at dksX4_layVerdicts_3 2 rfl rfl)
theorem dX4_layVerdicts_74 : decode cX4_layVerdicts 74 = .ok (.iadd, 1) := dk_96 (dk_at dksX4_layVerdicts_3 3 rfl rfl)
theorem dX4_layVerdicts_75 : decode cX4_layVerdicts 75 = .ok (.aload_n 0, 1) := dk_42 (dk_at dksX4_layVerdicts_3 4 rfl rfl)
theorem dX4_layVerdicts_76 : decode cX4_layVerdicts 76 = .ok (.iload_n 2, 1) := dk_28 (dk_at dksX4_layVerdicts_3 5 rfl rfl)
theorem dX4_layVerdicts_77 : decode cX4_layVerdicts 77 = .ok (.iload 4, 2) := dk_21 4 (dk_at dksX4_layVerdicts_3 6 rfl rfl)
theorem dX4_layVerdicts_79 : decode cX4_layVerdicts 79 = .ok (.iload 5, 2) := dk_21 5 (dk_at dksX4_layVerdicts_3 8 rfl rfl)
theorem dX4_layVerdicts_81 : decode cX4_layVerdicts 81 = .ok (.if_icmp .ne 7, 3) := dk_160 0 7 (dk_at dksX4_layVerdicts_3 10 rfl rfl)
theorem dX4_layVerdicts_84 : decode cX4_layVerdicts 84 = .ok (.iconst 0, 1) := dk_3 (dk_at dksX4_layVerdicts_3 13 rfl rfl)
theorem dX4_layVerdicts_85 : decode cX4_layVerdicts 85 = .ok (.goto 7, 3) := dk_167 0 7 (dk_at dksX4_layVerdicts_3 14 rfl rfl)
theorem dX4_layVerdicts_88 : decode cX4_layVerdicts 88 = .ok (.iconst 1, 1) := dk_4 (dk_at dksX4_layVerdicts_3 17 rfl rfl)
theorem dX4_layVerdicts_89 : decode cX4_layVerdicts 89 = .ok (.iload 5, 2) := dk_21 5 (dk_at dksX4_layVerdicts_3 18 rfl rfl)
theorem dX4_layVerdicts_91 : decode cX4_layVerdicts 91 = .ok (.ishl, 1) := dk_120 (dk_at dksX4_layVerdicts_3 20 rfl rfl)
theorem dX4_layVerdicts_92 : decode cX4_layVerdicts 92 = .ok (.invokevirtual 410, 3) := dk_182 1 154 (dk_at dksX4_layVerdicts_3 21 rfl rfl)
theorem dX4_layVerdicts_95 : decode cX4_layVerdicts 95 = .ok (.iastore, 1) := dk_79 (dk_at dksX4_layVerdicts_4 0 rfl rfl)
theorem dX4_layVerdicts_96 : decode cX4_layVerdicts 96 = .ok (.iinc 3 1, 3) := dk_132 3 1 (dk_at dksX4_layVerdicts_4 1 rfl rfl)
theorem dX4_layVerdicts_99 : decode cX4_layVerdicts 99 = .ok (.goto (-97), 3) := dk_167 255 159 (dk_at dksX4_layVerdicts_4 4 rfl rfl)
theorem dX4_layVerdicts_102 : decode cX4_layVerdicts 102 = .ok (.return_, 1) := dk_177 (dk_at dksX4_layVerdicts_4 7 rfl rfl)
abbrev cX4_isRest : ByteArray := prog_22_method_99_code
def yX4_isRest : MethodName := ⟨RX4, "isRest", "(I)Z"⟩
def dkwX4_isRest_2 : List UInt8 := [46, 42, 180, 0, 109, 16, 64, 27, 96, 46, 164, 0, 5, 3, 172, 132, 2, 1, 167, 255, 192, 4, 172]
abbrev dktX4_isRest_2 : List UInt8 := dkwX4_isRest_2 ++ []
def dkwX4_isRest_1 : List UInt8 := [42, 180, 0, 109, 27, 46, 163, 0, 31, 42, 180, 0, 109, 16, 64, 27, 96, 27, 16, 8, 112, 100, 28, 96]
abbrev dktX4_isRest_1 : List UInt8 := dkwX4_isRest_1 ++ dktX4_isRest_2
def dkwX4_isRest_0 : List UInt8 := [3, 61, 28, 42, 182, 1, 121, 162, 0, 62, 42, 180, 0, 109, 16, 8, 28, 104, 27, 16, 8, 112, 96, 46]
abbrev dktX4_isRest_0 : List UInt8 := dkwX4_isRest_0 ++ dktX4_isRest_1
theorem dksX4_isRest_0 : cX4_isRest.data.toList.drop 0 = dktX4_isRest_0 := by decide +kernel
theorem dksX4_isRest_1 : cX4_isRest.data.toList.drop 24 = dktX4_isRest_1 := dk_seg dksX4_isRest_0 24 rfl rfl
theorem dksX4_isRest_2 : cX4_isRest.data.toList.drop 48 = dktX4_isRest_2 := dk_seg dksX4_isRest_1 24 rfl rfl
theorem dX4_isRest_0 : decode cX4_isRest 0 = .ok (.iconst 0, 1) := dk_3 (dk_at dksX4_isRest_0 0 rfl rfl)
theorem dX4_isRest_1 : decode cX4_isRest 1 = .ok (.istore_n 2, 1) := dk_61 (dk_at dksX4_isRest_0 1 rfl rfl)
theorem dX4_isRest_2 : decode cX4_isRest 2 = .ok (.iload_n 2, 1) := dk_28 (dk_at dksX4_isRest_0 2 rfl rfl)
theorem dX4_isRest_3 : decode cX4_isRest 3 = .ok (.aload_n 0, 1) := dk_42 (dk_at dksX4_isRest_0 3 rfl rfl)
theorem dX4_isRest_4 : decode cX4_isRest 4 = .ok (.invokevirtual 377, 3) := dk_182 1 121 (dk_at dksX4_isRest_0 4 rfl rfl)
theorem dX4_isRest_7 : decode cX4_isRest 7 = .ok (.if_icmp .ge 62, 3) := dk_162 0 62 (dk_at dksX4_isRest_0 7 rfl rfl)
theorem dX4_isRest_10 : decode cX4_isRest 10 = .ok (.aload_n 0, 1) := dk_42 (dk_at dksX4_isRest_0 10 rfl rfl)
theorem dX4_isRest_11 : decode cX4_isRest 11 = .ok (.getfield 109, 3) := dk_180 0 109 (dk_at dksX4_isRest_0 11 rfl rfl)
theorem dX4_isRest_14 : decode cX4_isRest 14 = .ok (.bipush 8, 2) := dk_16 8 (dk_at dksX4_isRest_0 14 rfl rfl)
theorem dX4_isRest_16 : decode cX4_isRest 16 = .ok (.iload_n 2, 1) := dk_28 (dk_at dksX4_isRest_0 16 rfl rfl)
theorem dX4_isRest_17 : decode cX4_isRest 17 = .ok (.imul, 1) := dk_104 (dk_at dksX4_isRest_0 17 rfl rfl)
theorem dX4_isRest_18 : decode cX4_isRest 18 = .ok (.iload_n 1, 1) := dk_27 (dk_at dksX4_isRest_0 18 rfl rfl)
theorem dX4_isRest_19 : decode cX4_isRest 19 = .ok (.bipush 8, 2) := dk_16 8 (dk_at dksX4_isRest_0 19 rfl rfl)
theorem dX4_isRest_21 : decode cX4_isRest 21 = .ok (.irem, 1) := dk_112 (dk_at dksX4_isRest_0 21 rfl rfl)
theorem dX4_isRest_22 : decode cX4_isRest 22 = .ok (.iadd, 1) := dk_96 (dk_at dksX4_isRest_0 22 rfl rfl)
theorem dX4_isRest_23 : decode cX4_isRest 23 = .ok (.iaload, 1) := dk_46 (dk_at dksX4_isRest_0 23 rfl rfl)
theorem dX4_isRest_24 : decode cX4_isRest 24 = .ok (.aload_n 0, 1) := dk_42 (dk_at dksX4_isRest_1 0 rfl rfl)
theorem dX4_isRest_25 : decode cX4_isRest 25 = .ok (.getfield 109, 3) := dk_180 0 109 (dk_at dksX4_isRest_1 1 rfl rfl)
theorem dX4_isRest_28 : decode cX4_isRest 28 = .ok (.iload_n 1, 1) := dk_27 (dk_at dksX4_isRest_1 4 rfl rfl)
theorem dX4_isRest_29 : decode cX4_isRest 29 = .ok (.iaload, 1) := dk_46 (dk_at dksX4_isRest_1 5 rfl rfl)
theorem dX4_isRest_30 : decode cX4_isRest 30 = .ok (.if_icmp .gt 31, 3) := dk_163 0 31 (dk_at dksX4_isRest_1 6 rfl rfl)
theorem dX4_isRest_33 : decode cX4_isRest 33 = .ok (.aload_n 0, 1) := dk_42 (dk_at dksX4_isRest_1 9 rfl rfl)
theorem dX4_isRest_34 : decode cX4_isRest 34 = .ok (.getfield 109, 3) := dk_180 0 109 (dk_at dksX4_isRest_1 10 rfl rfl)
theorem dX4_isRest_37 : decode cX4_isRest 37 = .ok (.bipush 64, 2) := dk_16 64 (dk_at dksX4_isRest_1 13 rfl rfl)
theorem dX4_isRest_39 : decode cX4_isRest 39 = .ok (.iload_n 1, 1) := dk_27 (dk_at dksX4_isRest_1 15 rfl rfl)
theorem dX4_isRest_40 : decode cX4_isRest 40 = .ok (.iadd, 1) := dk_96 (dk_at dksX4_isRest_1 16 rfl rfl)
theorem dX4_isRest_41 : decode cX4_isRest 41 = .ok (.iload_n 1, 1) := dk_27 (dk_at dksX4_isRest_1 17 rfl rfl)
theorem dX4_isRest_42 : decode cX4_isRest 42 = .ok (.bipush 8, 2) := dk_16 8 (dk_at dksX4_isRest_1 18 rfl rfl)
theorem dX4_isRest_44 : decode cX4_isRest 44 = .ok (.irem, 1) := dk_112 (dk_at dksX4_isRest_1 20 rfl rfl)
theorem dX4_isRest_45 : decode cX4_isRest 45 = .ok (.isub, 1) := dk_100 (dk_at dksX4_isRest_1 21 rfl rfl)
theorem dX4_isRest_46 : decode cX4_isRest 46 = .ok (.iload_n 2, 1) := dk_28 (dk_at dksX4_isRest_1 22 rfl rfl)
theorem dX4_isRest_47 : decode cX4_isRest 47 = .ok (.iadd, 1) := dk_96 (dk_at dksX4_isRest_1 23 rfl rfl)
theorem dX4_isRest_48 : decode cX4_isRest 48 = .ok (.iaload, 1) := dk_46 (dk_at dksX4_isRest_2 0 rfl rfl)
theorem dX4_isRest_49 : decode cX4_isRest 49 = .ok (.aload_n 0, 1) := dk_42 (dk_at dksX4_isRest_2 1 rfl rfl)
theorem dX4_isRest_50 : decode cX4_isRest 50 = .ok (.getfield 109, 3) := dk_180 0 109 (dk_at dksX4_isRest_2 2 rfl rfl)
theorem dX4_isRest_53 : decode cX4_isRest 53 = .ok (.bipush 64, 2) := dk_16 64 (dk_at dksX4_isRest_2 5 rfl rfl)
theorem dX4_isRest_55 : decode cX4_isRest 55 = .ok (.iload_n 1, 1) := dk_27 (dk_at dksX4_isRest_2 7 rfl rfl)
theorem dX4_isRest_56 : decode cX4_isRest 56 = .ok (.iadd, 1) := dk_96 (dk_at dksX4_isRest_2 8 rfl rfl)
theorem dX4_isRest_57 : decode cX4_isRest 57 = .ok (.iaload, 1) := dk_46 (dk_at dksX4_isRest_2 9 rfl rfl)
theorem dX4_isRest_58 : decode cX4_isRest 58 = .ok (.if_icmp .le 5, 3) := dk_164 0 5 (dk_at dksX4_isRest_2 10 rfl rfl)
theorem dX4_isRest_61 : decode cX4_isRest 61 = .ok (.iconst 0, 1) := dk_3 (dk_at dksX4_isRest_2 13 rfl rfl)
theorem dX4_isRest_62 : decode cX4_isRest 62 = .ok (.ireturn, 1) := dk_172 (dk_at dksX4_isRest_2 14 rfl rfl)
theorem dX4_isRest_63 : decode cX4_isRest 63 = .ok (.iinc 2 1, 3) := dk_132 2 1 (dk_at dksX4_isRest_2 15 rfl rfl)
theorem dX4_isRest_66 : decode cX4_isRest 66 = .ok (.goto (-64), 3) := dk_167 255 192 (dk_at dksX4_isRest_2 18 rfl rfl)
theorem dX4_isRest_69 : decode cX4_isRest 69 = .ok (.iconst 1, 1) := dk_4 (dk_at dksX4_isRest_2 21 rfl rfl)
theorem dX4_isRest_70 : decode cX4_isRest 70 = .ok (.ireturn, 1) := dk_172 (dk_at dksX4_isRest_2 22 rfl rfl)
abbrev cX4_way : ByteArray := prog_22_method_102_code
def yX4_way : MethodName := ⟨RX4, "way", "(I)I"⟩
def dkwX4_way_6 : List UInt8 := [181, 1, 142, 167, 255, 172, 29, 172]
abbrev dktX4_way_6 : List UInt8 := dkwX4_way_6 ++ []
def dkwX4_way_5 : List UInt8 := [167, 255, 215, 21, 5, 61, 42, 180, 0, 106, 42, 180, 1, 142, 21, 5, 79, 42, 89, 180, 1, 142, 4, 96]
abbrev dktX4_way_5 : List UInt8 := dkwX4_way_5 ++ dktX4_way_6
def dkwX4_way_4 : List UInt8 := [27, 96, 46, 42, 180, 0, 112, 16, 8, 28, 104, 27, 96, 46, 4, 100, 159, 0, 9, 132, 5, 1]
abbrev dktX4_way_4 : List UInt8 := dkwX4_way_4 ++ dktX4_way_5
def dkwX4_way_3 : List UInt8 := [54, 4, 3, 54, 5, 21, 4, 21, 5, 184, 1, 8, 153, 0, 31, 42, 180, 0, 112, 16, 8, 21, 5, 104]
abbrev dktX4_way_3 : List UInt8 := dkwX4_way_3 ++ dktX4_way_4
def dkwX4_way_2 : List UInt8 := [172, 42, 180, 0, 106, 3, 28, 79, 42, 4, 181, 1, 142, 28, 27, 159, 0, 85, 42, 28, 3, 182, 1, 166]
abbrev dktX4_way_2 : List UInt8 := dkwX4_way_2 ++ dktX4_way_3
def dkwX4_way_1 : List UInt8 := [16, 24, 46, 61, 42, 180, 0, 112, 16, 8, 28, 104, 27, 96, 46, 62, 29, 17, 3, 232, 160, 0, 5, 2]
abbrev dktX4_way_1 : List UInt8 := dkwX4_way_1 ++ dktX4_way_2
def dkwX4_way_0 : List UInt8 := [42, 3, 181, 1, 142, 42, 27, 182, 1, 163, 154, 0, 5, 2, 172, 42, 182, 1, 210, 42, 180, 0, 97]
abbrev dktX4_way_0 : List UInt8 := dkwX4_way_0 ++ dktX4_way_1
theorem dksX4_way_0 : cX4_way.data.toList.drop 0 = dktX4_way_0 := by decide +kernel
theorem dksX4_way_1 : cX4_way.data.toList.drop 23 = dktX4_way_1 := dk_seg dksX4_way_0 23 rfl rfl
theorem dksX4_way_2 : cX4_way.data.toList.drop 47 = dktX4_way_2 := dk_seg dksX4_way_1 24 rfl rfl
theorem dksX4_way_3 : cX4_way.data.toList.drop 71 = dktX4_way_3 := dk_seg dksX4_way_2 24 rfl rfl
theorem dksX4_way_4 : cX4_way.data.toList.drop 95 = dktX4_way_4 := dk_seg dksX4_way_3 24 rfl rfl
theorem dksX4_way_5 : cX4_way.data.toList.drop 117 = dktX4_way_5 := dk_seg dksX4_way_4 22 rfl rfl
theorem dksX4_way_6 : cX4_way.data.toList.drop 141 = dktX4_way_6 := dk_seg dksX4_way_5 24 rfl rfl
theorem dX4_way_0 : decode cX4_way 0 = .ok (.aload_n 0, 1) := dk_42 (dk_at dksX4_way_0 0 rfl rfl)
theorem dX4_way_1 : decode cX4_way 1 = .ok (.iconst 0, 1) := dk_3 (dk_at dksX4_way_0 1 rfl rfl)
theorem dX4_way_2 : decode cX4_way 2 = .ok (.putfield 398, 3) := dk_181 1 142 (dk_at dksX4_way_0 2 rfl rfl)
theorem dX4_way_5 : decode cX4_way 5 = .ok (.aload_n 0, 1) := dk_42 (dk_at dksX4_way_0 5 rfl rfl)
theorem dX4_way_6 : decode cX4_way 6 = .ok (.iload_n 1, 1) := dk_27 (dk_at dksX4_way_0 6 rfl rfl)
theorem dX4_way_7 : decode cX4_way 7 = .ok (.invokevirtual 419, 3) := dk_182 1 163 (dk_at dksX4_way_0 7 rfl rfl)
theorem dX4_way_10 : decode cX4_way 10 = .ok (.ifCond .ne 5, 3) := dk_154 0 5 (dk_at dksX4_way_0 10 rfl rfl)
theorem dX4_way_13 : decode cX4_way 13 = .ok (.iconst (-1), 1) := dk_2 (dk_at dksX4_way_0 13 rfl rfl)
theorem dX4_way_14 : decode cX4_way 14 = .ok (.ireturn, 1) := dk_172 (dk_at dksX4_way_0 14 rfl rfl)
theorem dX4_way_15 : decode cX4_way 15 = .ok (.aload_n 0, 1) := dk_42 (dk_at dksX4_way_0 15 rfl rfl)
theorem dX4_way_16 : decode cX4_way 16 = .ok (.invokevirtual 466, 3) := dk_182 1 210 (dk_at dksX4_way_0 16 rfl rfl)
theorem dX4_way_19 : decode cX4_way 19 = .ok (.aload_n 0, 1) := dk_42 (dk_at dksX4_way_0 19 rfl rfl)
theorem dX4_way_20 : decode cX4_way 20 = .ok (.getfield 97, 3) := dk_180 0 97 (dk_at dksX4_way_0 20 rfl rfl)
theorem dX4_way_23 : decode cX4_way 23 = .ok (.bipush 24, 2) := dk_16 24 (dk_at dksX4_way_1 0 rfl rfl)
theorem dX4_way_25 : decode cX4_way 25 = .ok (.iaload, 1) := dk_46 (dk_at dksX4_way_1 2 rfl rfl)
theorem dX4_way_26 : decode cX4_way 26 = .ok (.istore_n 2, 1) := dk_61 (dk_at dksX4_way_1 3 rfl rfl)
theorem dX4_way_27 : decode cX4_way 27 = .ok (.aload_n 0, 1) := dk_42 (dk_at dksX4_way_1 4 rfl rfl)
theorem dX4_way_28 : decode cX4_way 28 = .ok (.getfield 112, 3) := dk_180 0 112 (dk_at dksX4_way_1 5 rfl rfl)
theorem dX4_way_31 : decode cX4_way 31 = .ok (.bipush 8, 2) := dk_16 8 (dk_at dksX4_way_1 8 rfl rfl)
theorem dX4_way_33 : decode cX4_way 33 = .ok (.iload_n 2, 1) := dk_28 (dk_at dksX4_way_1 10 rfl rfl)
theorem dX4_way_34 : decode cX4_way 34 = .ok (.imul, 1) := dk_104 (dk_at dksX4_way_1 11 rfl rfl)
theorem dX4_way_35 : decode cX4_way 35 = .ok (.iload_n 1, 1) := dk_27 (dk_at dksX4_way_1 12 rfl rfl)
theorem dX4_way_36 : decode cX4_way 36 = .ok (.iadd, 1) := dk_96 (dk_at dksX4_way_1 13 rfl rfl)
theorem dX4_way_37 : decode cX4_way 37 = .ok (.iaload, 1) := dk_46 (dk_at dksX4_way_1 14 rfl rfl)
theorem dX4_way_38 : decode cX4_way 38 = .ok (.istore_n 3, 1) := dk_62 (dk_at dksX4_way_1 15 rfl rfl)
theorem dX4_way_39 : decode cX4_way 39 = .ok (.iload_n 3, 1) := dk_29 (dk_at dksX4_way_1 16 rfl rfl)
theorem dX4_way_40 : decode cX4_way 40 = .ok (.sipush 1000, 3) := dk_17 3 232 (dk_at dksX4_way_1 17 rfl rfl)
theorem dX4_way_43 : decode cX4_way 43 = .ok (.if_icmp .ne 5, 3) := dk_160 0 5 (dk_at dksX4_way_1 20 rfl rfl)
theorem dX4_way_46 : decode cX4_way 46 = .ok (.iconst (-1), 1) := dk_2 (dk_at dksX4_way_1 23 rfl rfl)
theorem dX4_way_47 : decode cX4_way 47 = .ok (.ireturn, 1) := dk_172 (dk_at dksX4_way_2 0 rfl rfl)
theorem dX4_way_48 : decode cX4_way 48 = .ok (.aload_n 0, 1) := dk_42 (dk_at dksX4_way_2 1 rfl rfl)
theorem dX4_way_49 : decode cX4_way 49 = .ok (.getfield 106, 3) := dk_180 0 106 (dk_at dksX4_way_2 2 rfl rfl)
theorem dX4_way_52 : decode cX4_way 52 = .ok (.iconst 0, 1) := dk_3 (dk_at dksX4_way_2 5 rfl rfl)
theorem dX4_way_53 : decode cX4_way 53 = .ok (.iload_n 2, 1) := dk_28 (dk_at dksX4_way_2 6 rfl rfl)
theorem dX4_way_54 : decode cX4_way 54 = .ok (.iastore, 1) := dk_79 (dk_at dksX4_way_2 7 rfl rfl)
theorem dX4_way_55 : decode cX4_way 55 = .ok (.aload_n 0, 1) := dk_42 (dk_at dksX4_way_2 8 rfl rfl)
theorem dX4_way_56 : decode cX4_way 56 = .ok (.iconst 1, 1) := dk_4 (dk_at dksX4_way_2 9 rfl rfl)
theorem dX4_way_57 : decode cX4_way 57 = .ok (.putfield 398, 3) := dk_181 1 142 (dk_at dksX4_way_2 10 rfl rfl)
theorem dX4_way_60 : decode cX4_way 60 = .ok (.iload_n 2, 1) := dk_28 (dk_at dksX4_way_2 13 rfl rfl)
theorem dX4_way_61 : decode cX4_way 61 = .ok (.iload_n 1, 1) := dk_27 (dk_at dksX4_way_2 14 rfl rfl)
theorem dX4_way_62 : decode cX4_way 62 = .ok (.if_icmp .eq 85, 3) := dk_159 0 85 (dk_at dksX4_way_2 15 rfl rfl)
theorem dX4_way_65 : decode cX4_way 65 = .ok (.aload_n 0, 1) := dk_42 (dk_at dksX4_way_2 18 rfl rfl)
theorem dX4_way_66 : decode cX4_way 66 = .ok (.iload_n 2, 1) := dk_28 (dk_at dksX4_way_2 19 rfl rfl)
theorem dX4_way_67 : decode cX4_way 67 = .ok (.iconst 0, 1) := dk_3 (dk_at dksX4_way_2 20 rfl rfl)
theorem dX4_way_68 : decode cX4_way 68 = .ok (.invokevirtual 422, 3) := dk_182 1 166 (dk_at dksX4_way_2 21 rfl rfl)
theorem dX4_way_71 : decode cX4_way 71 = .ok (.istore 4, 2) := dk_54 4 (dk_at dksX4_way_3 0 rfl rfl)
theorem dX4_way_73 : decode cX4_way 73 = .ok (.iconst 0, 1) := dk_3 (dk_at dksX4_way_3 2 rfl rfl)
theorem dX4_way_74 : decode cX4_way 74 = .ok (.istore 5, 2) := dk_54 5 (dk_at dksX4_way_3 3 rfl rfl)
theorem dX4_way_76 : decode cX4_way 76 = .ok (.iload 4, 2) := dk_21 4 (dk_at dksX4_way_3 5 rfl rfl)
theorem dX4_way_78 : decode cX4_way 78 = .ok (.iload 5, 2) := dk_21 5 (dk_at dksX4_way_3 7 rfl rfl)
theorem dX4_way_80 : decode cX4_way 80 = .ok (.invokestatic 264, 3) := dk_184 1 8 (dk_at dksX4_way_3 9 rfl rfl)
theorem dX4_way_83 : decode cX4_way 83 = .ok (.ifCond .eq 31, 3) := dk_153 0 31 (dk_at dksX4_way_3 12 rfl rfl)
theorem dX4_way_86 : decode cX4_way 86 = .ok (.aload_n 0, 1) := dk_42 (dk_at dksX4_way_3 15 rfl rfl)
theorem dX4_way_87 : decode cX4_way 87 = .ok (.getfield 112, 3) := dk_180 0 112 (dk_at dksX4_way_3 16 rfl rfl)
theorem dX4_way_90 : decode cX4_way 90 = .ok (.bipush 8, 2) := dk_16 8 (dk_at dksX4_way_3 19 rfl rfl)
theorem dX4_way_92 : decode cX4_way 92 = .ok (.iload 5, 2) := dk_21 5 (dk_at dksX4_way_3 21 rfl rfl)
theorem dX4_way_94 : decode cX4_way 94 = .ok (.imul, 1) := dk_104 (dk_at dksX4_way_3 23 rfl rfl)
theorem dX4_way_95 : decode cX4_way 95 = .ok (.iload_n 1, 1) := dk_27 (dk_at dksX4_way_4 0 rfl rfl)
theorem dX4_way_96 : decode cX4_way 96 = .ok (.iadd, 1) := dk_96 (dk_at dksX4_way_4 1 rfl rfl)
theorem dX4_way_97 : decode cX4_way 97 = .ok (.iaload, 1) := dk_46 (dk_at dksX4_way_4 2 rfl rfl)
theorem dX4_way_98 : decode cX4_way 98 = .ok (.aload_n 0, 1) := dk_42 (dk_at dksX4_way_4 3 rfl rfl)
theorem dX4_way_99 : decode cX4_way 99 = .ok (.getfield 112, 3) := dk_180 0 112 (dk_at dksX4_way_4 4 rfl rfl)
theorem dX4_way_102 : decode cX4_way 102 = .ok (.bipush 8, 2) := dk_16 8 (dk_at dksX4_way_4 7 rfl rfl)
theorem dX4_way_104 : decode cX4_way 104 = .ok (.iload_n 2, 1) := dk_28 (dk_at dksX4_way_4 9 rfl rfl)
theorem dX4_way_105 : decode cX4_way 105 = .ok (.imul, 1) := dk_104 (dk_at dksX4_way_4 10 rfl rfl)
theorem dX4_way_106 : decode cX4_way 106 = .ok (.iload_n 1, 1) := dk_27 (dk_at dksX4_way_4 11 rfl rfl)
theorem dX4_way_107 : decode cX4_way 107 = .ok (.iadd, 1) := dk_96 (dk_at dksX4_way_4 12 rfl rfl)
theorem dX4_way_108 : decode cX4_way 108 = .ok (.iaload, 1) := dk_46 (dk_at dksX4_way_4 13 rfl rfl)
theorem dX4_way_109 : decode cX4_way 109 = .ok (.iconst 1, 1) := dk_4 (dk_at dksX4_way_4 14 rfl rfl)
theorem dX4_way_110 : decode cX4_way 110 = .ok (.isub, 1) := dk_100 (dk_at dksX4_way_4 15 rfl rfl)
theorem dX4_way_111 : decode cX4_way 111 = .ok (.if_icmp .eq 9, 3) := dk_159 0 9 (dk_at dksX4_way_4 16 rfl rfl)
theorem dX4_way_114 : decode cX4_way 114 = .ok (.iinc 5 1, 3) := dk_132 5 1 (dk_at dksX4_way_4 19 rfl rfl)
theorem dX4_way_117 : decode cX4_way 117 = .ok (.goto (-41), 3) := dk_167 255 215 (dk_at dksX4_way_5 0 rfl rfl)
theorem dX4_way_120 : decode cX4_way 120 = .ok (.iload 5, 2) := dk_21 5 (dk_at dksX4_way_5 3 rfl rfl)
theorem dX4_way_122 : decode cX4_way 122 = .ok (.istore_n 2, 1) := dk_61 (dk_at dksX4_way_5 5 rfl rfl)
theorem dX4_way_123 : decode cX4_way 123 = .ok (.aload_n 0, 1) := dk_42 (dk_at dksX4_way_5 6 rfl rfl)
theorem dX4_way_124 : decode cX4_way 124 = .ok (.getfield 106, 3) := dk_180 0 106 (dk_at dksX4_way_5 7 rfl rfl)
theorem dX4_way_127 : decode cX4_way 127 = .ok (.aload_n 0, 1) := dk_42 (dk_at dksX4_way_5 10 rfl rfl)
theorem dX4_way_128 : decode cX4_way 128 = .ok (.getfield 398, 3) := dk_180 1 142 (dk_at dksX4_way_5 11 rfl rfl)
theorem dX4_way_131 : decode cX4_way 131 = .ok (.iload 5, 2) := dk_21 5 (dk_at dksX4_way_5 14 rfl rfl)
theorem dX4_way_133 : decode cX4_way 133 = .ok (.iastore, 1) := dk_79 (dk_at dksX4_way_5 16 rfl rfl)
theorem dX4_way_134 : decode cX4_way 134 = .ok (.aload_n 0, 1) := dk_42 (dk_at dksX4_way_5 17 rfl rfl)
theorem dX4_way_135 : decode cX4_way 135 = .ok (.dup, 1) := dk_89 (dk_at dksX4_way_5 18 rfl rfl)
theorem dX4_way_136 : decode cX4_way 136 = .ok (.getfield 398, 3) := dk_180 1 142 (dk_at dksX4_way_5 19 rfl rfl)
theorem dX4_way_139 : decode cX4_way 139 = .ok (.iconst 1, 1) := dk_4 (dk_at dksX4_way_5 22 rfl rfl)
theorem dX4_way_140 : decode cX4_way 140 = .ok (.iadd, 1) := dk_96 (dk_at dksX4_way_5 23 rfl rfl)
theorem dX4_way_141 : decode cX4_way 141 = .ok (.putfield 398, 3) := dk_181 1 142 (dk_at dksX4_way_6 0 rfl rfl)
theorem dX4_way_144 : decode cX4_way 144 = .ok (.goto (-84), 3) := dk_167 255 172 (dk_at dksX4_way_6 3 rfl rfl)
theorem dX4_way_147 : decode cX4_way 147 = .ok (.iload_n 3, 1) := dk_29 (dk_at dksX4_way_6 6 rfl rfl)
theorem dX4_way_148 : decode cX4_way 148 = .ok (.ireturn, 1) := dk_172 (dk_at dksX4_way_6 7 rfl rfl)
abbrev cX4_layFar : ByteArray := prog_22_method_101_code
def yX4_layFar : MethodName := ⟨RX4, "layFar", "()V"⟩
def dkwX4_layFar_7 : List UInt8 := [132, 1, 1, 167, 255, 90, 177]
abbrev dktX4_layFar_7 : List UInt8 := dkwX4_layFar_7 ++ []
def dkwX4_layFar_6 : List UInt8 := [96, 28, 4, 96, 79, 132, 5, 1, 167, 255, 201, 132, 3, 1, 167, 255, 157, 132, 2, 1, 167, 255, 141]
abbrev dktX4_layFar_6 : List UInt8 := dkwX4_layFar_6 ++ dktX4_layFar_7
def dkwX4_layFar_5 : List UInt8 := [16, 8, 27, 104, 21, 5, 96, 46, 17, 3, 232, 160, 0, 18, 42, 180, 0, 112, 16, 8, 27, 104, 21, 5]
abbrev dktX4_layFar_5 : List UInt8 := dkwX4_layFar_5 ++ dktX4_layFar_6
def dkwX4_layFar_4 : List UInt8 := [21, 5, 42, 182, 1, 124, 162, 0, 52, 21, 4, 21, 5, 184, 1, 8, 153, 0, 36, 42, 180, 0, 112]
abbrev dktX4_layFar_4 : List UInt8 := dkwX4_layFar_4 ++ dktX4_layFar_5
def dkwX4_layFar_3 : List UInt8 := [104, 29, 96, 46, 28, 160, 0, 12, 42, 29, 3, 182, 1, 166, 167, 0, 4, 3, 54, 4, 3, 54, 5]
abbrev dktX4_layFar_3 : List UInt8 := dkwX4_layFar_3 ++ dktX4_layFar_4
def dkwX4_layFar_2 : List UInt8 := [42, 182, 1, 124, 162, 0, 113, 3, 62, 29, 42, 182, 1, 124, 162, 0, 97, 42, 180, 0, 112, 16, 8, 27]
abbrev dktX4_layFar_2 : List UInt8 := dkwX4_layFar_2 ++ dktX4_layFar_3
def dkwX4_layFar_1 : List UInt8 := [28, 96, 27, 28, 160, 0, 7, 3, 167, 0, 6, 17, 3, 232, 79, 132, 2, 1, 167, 255, 224, 3, 61, 28]
abbrev dktX4_layFar_1 : List UInt8 := dkwX4_layFar_1 ++ dktX4_layFar_2
def dkwX4_layFar_0 : List UInt8 := [3, 60, 27, 16, 8, 162, 0, 166, 3, 61, 28, 16, 8, 162, 0, 32, 42, 180, 0, 112, 16, 8, 27, 104]
abbrev dktX4_layFar_0 : List UInt8 := dkwX4_layFar_0 ++ dktX4_layFar_1
theorem dksX4_layFar_0 : cX4_layFar.data.toList.drop 0 = dktX4_layFar_0 := by decide +kernel
theorem dksX4_layFar_1 : cX4_layFar.data.toList.drop 24 = dktX4_layFar_1 := dk_seg dksX4_layFar_0 24 rfl rfl
theorem dksX4_layFar_2 : cX4_layFar.data.toList.drop 48 = dktX4_layFar_2 := dk_seg dksX4_layFar_1 24 rfl rfl
theorem dksX4_layFar_3 : cX4_layFar.data.toList.drop 72 = dktX4_layFar_3 := dk_seg dksX4_layFar_2 24 rfl rfl
theorem dksX4_layFar_4 : cX4_layFar.data.toList.drop 95 = dktX4_layFar_4 := dk_seg dksX4_layFar_3 23 rfl rfl
theorem dksX4_layFar_5 : cX4_layFar.data.toList.drop 118 = dktX4_layFar_5 := dk_seg dksX4_layFar_4 23 rfl rfl
theorem dksX4_layFar_6 : cX4_layFar.data.toList.drop 142 = dktX4_layFar_6 := dk_seg dksX4_layFar_5 24 rfl rfl
theorem dksX4_layFar_7 : cX4_layFar.data.toList.drop 165 = dktX4_layFar_7 := dk_seg dksX4_layFar_6 23 rfl rfl
theorem dX4_layFar_0 : decode cX4_layFar 0 = .ok (.iconst 0, 1) := dk_3 (dk_at dksX4_layFar_0 0 rfl rfl)
theorem dX4_layFar_1 : decode cX4_layFar 1 = .ok (.istore_n 1, 1) := dk_60 (dk_at dksX4_layFar_0 1 rfl rfl)
theorem dX4_layFar_2 : decode cX4_layFar 2 = .ok (.iload_n 1, 1) := dk_27 (dk_at dksX4_layFar_0 2 rfl rfl)
theorem dX4_layFar_3 : decode cX4_layFar 3 = .ok (.bipush 8, 2) := dk_16 8 (dk_at dksX4_layFar_0 3 rfl rfl)
theorem dX4_layFar_5 : decode cX4_layFar 5 = .ok (.if_icmp .ge 166, 3) := dk_162 0 166 (dk_at dksX4_layFar_0 5 rfl rfl)
theorem dX4_layFar_8 : decode cX4_layFar 8 = .ok (.iconst 0, 1) := dk_3 (dk_at dksX4_layFar_0 8 rfl rfl)
theorem dX4_layFar_9 : decode cX4_layFar 9 = .ok (.istore_n 2, 1) := dk_61 (dk_at dksX4_layFar_0 9 rfl rfl)
theorem dX4_layFar_10 : decode cX4_layFar 10 = .ok (.iload_n 2, 1) := dk_28 (dk_at dksX4_layFar_0 10 rfl rfl)
theorem dX4_layFar_11 : decode cX4_layFar 11 = .ok (.bipush 8, 2) := dk_16 8 (dk_at dksX4_layFar_0 11 rfl rfl)
theorem dX4_layFar_13 : decode cX4_layFar 13 = .ok (.if_icmp .ge 32, 3) := dk_162 0 32 (dk_at dksX4_layFar_0 13 rfl rfl)
theorem dX4_layFar_16 : decode cX4_layFar 16 = .ok (.aload_n 0, 1) := dk_42 (dk_at dksX4_layFar_0 16 rfl rfl)
theorem dX4_layFar_17 : decode cX4_layFar 17 = .ok (.getfield 112, 3) := dk_180 0 112 (dk_at dksX4_layFar_0 17 rfl rfl)
theorem dX4_layFar_20 : decode cX4_layFar 20 = .ok (.bipush 8, 2) := dk_16 8 (dk_at dksX4_layFar_0 20 rfl rfl)
theorem dX4_layFar_22 : decode cX4_layFar 22 = .ok (.iload_n 1, 1) := dk_27 (dk_at dksX4_layFar_0 22 rfl rfl)
theorem dX4_layFar_23 : decode cX4_layFar 23 = .ok (.imul, 1) := dk_104 (dk_at dksX4_layFar_0 23 rfl rfl)
theorem dX4_layFar_24 : decode cX4_layFar 24 = .ok (.iload_n 2, 1) := dk_28 (dk_at dksX4_layFar_1 0 rfl rfl)
theorem dX4_layFar_25 : decode cX4_layFar 25 = .ok (.iadd, 1) := dk_96 (dk_at dksX4_layFar_1 1 rfl rfl)
theorem dX4_layFar_26 : decode cX4_layFar 26 = .ok (.iload_n 1, 1) := dk_27 (dk_at dksX4_layFar_1 2 rfl rfl)
theorem dX4_layFar_27 : decode cX4_layFar 27 = .ok (.iload_n 2, 1) := dk_28 (dk_at dksX4_layFar_1 3 rfl rfl)
theorem dX4_layFar_28 : decode cX4_layFar 28 = .ok (.if_icmp .ne 7, 3) := dk_160 0 7 (dk_at dksX4_layFar_1 4 rfl rfl)
theorem dX4_layFar_31 : decode cX4_layFar 31 = .ok (.iconst 0, 1) := dk_3 (dk_at dksX4_layFar_1 7 rfl rfl)
theorem dX4_layFar_32 : decode cX4_layFar 32 = .ok (.goto 6, 3) := dk_167 0 6 (dk_at dksX4_layFar_1 8 rfl rfl)
theorem dX4_layFar_35 : decode cX4_layFar 35 = .ok (.sipush 1000, 3) := dk_17 3 232 (dk_at dksX4_layFar_1 11 rfl rfl)
theorem dX4_layFar_38 : decode cX4_layFar 38 = .ok (.iastore, 1) := dk_79 (dk_at dksX4_layFar_1 14 rfl rfl)
theorem dX4_layFar_39 : decode cX4_layFar 39 = .ok (.iinc 2 1, 3) := dk_132 2 1 (dk_at dksX4_layFar_1 15 rfl rfl)
theorem dX4_layFar_42 : decode cX4_layFar 42 = .ok (.goto (-32), 3) := dk_167 255 224 (dk_at dksX4_layFar_1 18 rfl rfl)
theorem dX4_layFar_45 : decode cX4_layFar 45 = .ok (.iconst 0, 1) := dk_3 (dk_at dksX4_layFar_1 21 rfl rfl)
theorem dX4_layFar_46 : decode cX4_layFar 46 = .ok (.istore_n 2, 1) := dk_61 (dk_at dksX4_layFar_1 22 rfl rfl)
theorem dX4_layFar_47 : decode cX4_layFar 47 = .ok (.iload_n 2, 1) := dk_28 (dk_at dksX4_layFar_1 23 rfl rfl)
theorem dX4_layFar_48 : decode cX4_layFar 48 = .ok (.aload_n 0, 1) := dk_42 (dk_at dksX4_layFar_2 0 rfl rfl)
theorem dX4_layFar_49 : decode cX4_layFar 49 = .ok (.invokevirtual 380, 3) := dk_182 1 124 (dk_at dksX4_layFar_2 1 rfl rfl)
theorem dX4_layFar_52 : decode cX4_layFar 52 = .ok (.if_icmp .ge 113, 3) := dk_162 0 113 (dk_at dksX4_layFar_2 4 rfl rfl)
theorem dX4_layFar_55 : decode cX4_layFar 55 = .ok (.iconst 0, 1) := dk_3 (dk_at dksX4_layFar_2 7 rfl rfl)
theorem dX4_layFar_56 : decode cX4_layFar 56 = .ok (.istore_n 3, 1) := dk_62 (dk_at dksX4_layFar_2 8 rfl rfl)
theorem dX4_layFar_57 : decode cX4_layFar 57 = .ok (.iload_n 3, 1) := dk_29 (dk_at dksX4_layFar_2 9 rfl rfl)
theorem dX4_layFar_58 : decode cX4_layFar 58 = .ok (.aload_n 0, 1) := dk_42 (dk_at dksX4_layFar_2 10 rfl rfl)
theorem dX4_layFar_59 : decode cX4_layFar 59 = .ok (.invokevirtual 380, 3) := dk_182 1 124 (dk_at dksX4_layFar_2 11 rfl rfl)
theorem dX4_layFar_62 : decode cX4_layFar 62 = .ok (.if_icmp .ge 97, 3) := dk_162 0 97 (dk_at dksX4_layFar_2 14 rfl rfl)
theorem dX4_layFar_65 : decode cX4_layFar 65 = .ok (.aload_n 0, 1) := dk_42 (dk_at dksX4_layFar_2 17 rfl rfl)
theorem dX4_layFar_66 : decode cX4_layFar 66 = .ok (.getfield 112, 3) := dk_180 0 112 (dk_at dksX4_layFar_2 18 rfl rfl)
theorem dX4_layFar_69 : decode cX4_layFar 69 = .ok (.bipush 8, 2) := dk_16 8 (dk_at dksX4_layFar_2 21 rfl rfl)
theorem dX4_layFar_71 : decode cX4_layFar 71 = .ok (.iload_n 1, 1) := dk_27 (dk_at dksX4_layFar_2 23 rfl rfl)
theorem dX4_layFar_72 : decode cX4_layFar 72 = .ok (.imul, 1) := dk_104 (dk_at dksX4_layFar_3 0 rfl rfl)
theorem dX4_layFar_73 : decode cX4_layFar 73 = .ok (.iload_n 3, 1) := dk_29 (dk_at dksX4_layFar_3 1 rfl rfl)
theorem dX4_layFar_74 : decode cX4_layFar 74 = .ok (.iadd, 1) := dk_96 (dk_at dksX4_layFar_3 2 rfl rfl)
theorem dX4_layFar_75 : decode cX4_layFar 75 = .ok (.iaload, 1) := dk_46 (dk_at dksX4_layFar_3 3 rfl rfl)
theorem dX4_layFar_76 : decode cX4_layFar 76 = .ok (.iload_n 2, 1) := dk_28 (dk_at dksX4_layFar_3 4 rfl rfl)
theorem dX4_layFar_77 : decode cX4_layFar 77 = .ok (.if_icmp .ne 12, 3) := dk_160 0 12 (dk_at dksX4_layFar_3 5 rfl rfl)
theorem dX4_layFar_80 : decode cX4_layFar 80 = .ok (.aload_n 0, 1) := dk_42 (dk_at dksX4_layFar_3 8 rfl rfl)
theorem dX4_layFar_81 : decode cX4_layFar 81 = .ok (.iload_n 3, 1) := dk_29 (dk_at dksX4_layFar_3 9 rfl rfl)
theorem dX4_layFar_82 : decode cX4_layFar 82 = .ok (.iconst 0, 1) := dk_3 (dk_at dksX4_layFar_3 10 rfl rfl)
theorem dX4_layFar_83 : decode cX4_layFar 83 = .ok (.invokevirtual 422, 3) := dk_182 1 166 (dk_at dksX4_layFar_3 11 rfl rfl)
theorem dX4_layFar_86 : decode cX4_layFar 86 = .ok (.goto 4, 3) := dk_167 0 4 (dk_at dksX4_layFar_3 14 rfl rfl)
theorem dX4_layFar_89 : decode cX4_layFar 89 = .ok (.iconst 0, 1) := dk_3 (dk_at dksX4_layFar_3 17 rfl rfl)
theorem dX4_layFar_90 : decode cX4_layFar 90 = .ok (.istore 4, 2) := dk_54 4 (dk_at dksX4_layFar_3 18 rfl rfl)
theorem dX4_layFar_92 : decode cX4_layFar 92 = .ok (.iconst 0, 1) := dk_3 (dk_at dksX4_layFar_3 20 rfl rfl)
theorem dX4_layFar_93 : decode cX4_layFar 93 = .ok (.istore 5, 2) := dk_54 5 (dk_at dksX4_layFar_3 21 rfl rfl)
theorem dX4_layFar_95 : decode cX4_layFar 95 = .ok (.iload 5, 2) := dk_21 5 (dk_at dksX4_layFar_4 0 rfl rfl)
theorem dX4_layFar_97 : decode cX4_layFar 97 = .ok (.aload_n 0, 1) := dk_42 (dk_at dksX4_layFar_4 2 rfl rfl)
theorem dX4_layFar_98 : decode cX4_layFar 98 = .ok (.invokevirtual 380, 3) := dk_182 1 124 (dk_at dksX4_layFar_4 3 rfl rfl)
theorem dX4_layFar_101 : decode cX4_layFar 101 = .ok (.if_icmp .ge 52, 3) := dk_162 0 52 (dk_at dksX4_layFar_4 6 rfl rfl)
theorem dX4_layFar_104 : decode cX4_layFar 104 = .ok (.iload 4, 2) := dk_21 4 (dk_at dksX4_layFar_4 9 rfl rfl)
theorem dX4_layFar_106 : decode cX4_layFar 106 = .ok (.iload 5, 2) := dk_21 5 (dk_at dksX4_layFar_4 11 rfl rfl)
theorem dX4_layFar_108 : decode cX4_layFar 108 = .ok (.invokestatic 264, 3) := dk_184 1 8 (dk_at dksX4_layFar_4 13 rfl rfl)
theorem dX4_layFar_111 : decode cX4_layFar 111 = .ok (.ifCond .eq 36, 3) := dk_153 0 36 (dk_at dksX4_layFar_4 16 rfl rfl)
theorem dX4_layFar_114 : decode cX4_layFar 114 = .ok (.aload_n 0, 1) := dk_42 (dk_at dksX4_layFar_4 19 rfl rfl)
theorem dX4_layFar_115 : decode cX4_layFar 115 = .ok (.getfield 112, 3) := dk_180 0 112 (dk_at dksX4_layFar_4 20 rfl rfl)
theorem dX4_layFar_118 : decode cX4_layFar 118 = .ok (.bipush 8, 2) := dk_16 8 (dk_at dksX4_layFar_5 0 rfl rfl)
theorem dX4_layFar_120 : decode cX4_layFar 120 = .ok (.iload_n 1, 1) := dk_27 (dk_at dksX4_layFar_5 2 rfl rfl)
theorem dX4_layFar_121 : decode cX4_layFar 121 = .ok (.imul, 1) := dk_104 (dk_at dksX4_layFar_5 3 rfl rfl)
theorem dX4_layFar_122 : decode cX4_layFar 122 = .ok (.iload 5, 2) := dk_21 5 (dk_at dksX4_layFar_5 4 rfl rfl)
theorem dX4_layFar_124 : decode cX4_layFar 124 = .ok (.iadd, 1) := dk_96 (dk_at dksX4_layFar_5 6 rfl rfl)
theorem dX4_layFar_125 : decode cX4_layFar 125 = .ok (.iaload, 1) := dk_46 (dk_at dksX4_layFar_5 7 rfl rfl)
theorem dX4_layFar_126 : decode cX4_layFar 126 = .ok (.sipush 1000, 3) := dk_17 3 232 (dk_at dksX4_layFar_5 8 rfl rfl)
theorem dX4_layFar_129 : decode cX4_layFar 129 = .ok (.if_icmp .ne 18, 3) := dk_160 0 18 (dk_at dksX4_layFar_5 11 rfl rfl)
theorem dX4_layFar_132 : decode cX4_layFar 132 = .ok (.aload_n 0, 1) := dk_42 (dk_at dksX4_layFar_5 14 rfl rfl)
theorem dX4_layFar_133 : decode cX4_layFar 133 = .ok (.getfield 112, 3) := dk_180 0 112 (dk_at dksX4_layFar_5 15 rfl rfl)
theorem dX4_layFar_136 : decode cX4_layFar 136 = .ok (.bipush 8, 2) := dk_16 8 (dk_at dksX4_layFar_5 18 rfl rfl)
theorem dX4_layFar_138 : decode cX4_layFar 138 = .ok (.iload_n 1, 1) := dk_27 (dk_at dksX4_layFar_5 20 rfl rfl)
theorem dX4_layFar_139 : decode cX4_layFar 139 = .ok (.imul, 1) := dk_104 (dk_at dksX4_layFar_5 21 rfl rfl)
theorem dX4_layFar_140 : decode cX4_layFar 140 = .ok (.iload 5, 2) := dk_21 5 (dk_at dksX4_layFar_5 22 rfl rfl)
theorem dX4_layFar_142 : decode cX4_layFar 142 = .ok (.iadd, 1) := dk_96 (dk_at dksX4_layFar_6 0 rfl rfl)
theorem dX4_layFar_143 : decode cX4_layFar 143 = .ok (.iload_n 2, 1) := dk_28 (dk_at dksX4_layFar_6 1 rfl rfl)
theorem dX4_layFar_144 : decode cX4_layFar 144 = .ok (.iconst 1, 1) := dk_4 (dk_at dksX4_layFar_6 2 rfl rfl)
theorem dX4_layFar_145 : decode cX4_layFar 145 = .ok (.iadd, 1) := dk_96 (dk_at dksX4_layFar_6 3 rfl rfl)
theorem dX4_layFar_146 : decode cX4_layFar 146 = .ok (.iastore, 1) := dk_79 (dk_at dksX4_layFar_6 4 rfl rfl)
theorem dX4_layFar_147 : decode cX4_layFar 147 = .ok (.iinc 5 1, 3) := dk_132 5 1 (dk_at dksX4_layFar_6 5 rfl rfl)
theorem dX4_layFar_150 : decode cX4_layFar 150 = .ok (.goto (-55), 3) := dk_167 255 201 (dk_at dksX4_layFar_6 8 rfl rfl)
theorem dX4_layFar_153 : decode cX4_layFar 153 = .ok (.iinc 3 1, 3) := dk_132 3 1 (dk_at dksX4_layFar_6 11 rfl rfl)
theorem dX4_layFar_156 : decode cX4_layFar 156 = .ok (.goto (-99), 3) := dk_167 255 157 (dk_at dksX4_layFar_6 14 rfl rfl)
theorem dX4_layFar_159 : decode cX4_layFar 159 = .ok (.iinc 2 1, 3) := dk_132 2 1 (dk_at dksX4_layFar_6 17 rfl rfl)
theorem dX4_layFar_162 : decode cX4_layFar 162 = .ok (.goto (-115), 3) := dk_167 255 141 (dk_at dksX4_layFar_6 20 rfl rfl)
theorem dX4_layFar_165 : decode cX4_layFar 165 = .ok (.iinc 1 1, 3) := dk_132 1 1 (dk_at dksX4_layFar_7 0 rfl rfl)
theorem dX4_layFar_168 : decode cX4_layFar 168 = .ok (.goto (-166), 3) := dk_167 255 90 (dk_at dksX4_layFar_7 3 rfl rfl)
theorem dX4_layFar_171 : decode cX4_layFar 171 = .ok (.return_, 1) := dk_177 (dk_at dksX4_layFar_7 6 rfl rfl)
abbrev cX4_reach : ByteArray := prog_22_method_104_code
def yX4_reach : MethodName := ⟨RX4, "reach", "()I"⟩
theorem dX4_reach_0 : decode cX4_reach 0 = .ok (.aload_n 0, 1) := by decide +kernel
theorem dX4_reach_1 : decode cX4_reach 1 = .ok (.invokevirtual 469, 3) := by decide +kernel
theorem dX4_reach_4 : decode cX4_reach 4 = .ok (.ireturn, 1) := by decide +kernel
abbrev cX4_reached : ByteArray := prog_22_method_103_code
def yX4_reached : MethodName := ⟨RX4, "reached", "()I"⟩
def dkwX4_reached_2 : List UInt8 := [132, 2, 1, 167, 255, 216, 27, 172]
abbrev dktX4_reached_2 : List UInt8 := dkwX4_reached_2 ++ []
def dkwX4_reached_1 : List UInt8 := [180, 0, 97, 16, 24, 46, 104, 28, 96, 46, 17, 3, 232, 162, 0, 9, 27, 4, 28, 120, 128, 60]
abbrev dktX4_reached_1 : List UInt8 := dkwX4_reached_1 ++ dktX4_reached_2
def dkwX4_reached_0 : List UInt8 := [3, 60, 42, 182, 1, 210, 3, 61, 28, 42, 182, 1, 124, 162, 0, 38, 42, 180, 0, 112, 16, 8, 42]
abbrev dktX4_reached_0 : List UInt8 := dkwX4_reached_0 ++ dktX4_reached_1
theorem dksX4_reached_0 : cX4_reached.data.toList.drop 0 = dktX4_reached_0 := by decide +kernel
theorem dksX4_reached_1 : cX4_reached.data.toList.drop 23 = dktX4_reached_1 := dk_seg dksX4_reached_0 23 rfl rfl
theorem dksX4_reached_2 : cX4_reached.data.toList.drop 45 = dktX4_reached_2 := dk_seg dksX4_reached_1 22 rfl rfl
theorem dX4_reached_0 : decode cX4_reached 0 = .ok (.iconst 0, 1) := dk_3 (dk_at dksX4_reached_0 0 rfl rfl)
theorem dX4_reached_1 : decode cX4_reached 1 = .ok (.istore_n 1, 1) := dk_60 (dk_at dksX4_reached_0 1 rfl rfl)
theorem dX4_reached_2 : decode cX4_reached 2 = .ok (.aload_n 0, 1) := dk_42 (dk_at dksX4_reached_0 2 rfl rfl)
theorem dX4_reached_3 : decode cX4_reached 3 = .ok (.invokevirtual 466, 3) := dk_182 1 210 (dk_at dksX4_reached_0 3 rfl rfl)
theorem dX4_reached_6 : decode cX4_reached 6 = .ok (.iconst 0, 1) := dk_3 (dk_at dksX4_reached_0 6 rfl rfl)
theorem dX4_reached_7 : decode cX4_reached 7 = .ok (.istore_n 2, 1) := dk_61 (dk_at dksX4_reached_0 7 rfl rfl)
theorem dX4_reached_8 : decode cX4_reached 8 = .ok (.iload_n 2, 1) := dk_28 (dk_at dksX4_reached_0 8 rfl rfl)
theorem dX4_reached_9 : decode cX4_reached 9 = .ok (.aload_n 0, 1) := dk_42 (dk_at dksX4_reached_0 9 rfl rfl)
theorem dX4_reached_10 : decode cX4_reached 10 = .ok (.invokevirtual 380, 3) := dk_182 1 124 (dk_at dksX4_reached_0 10 rfl rfl)
theorem dX4_reached_13 : decode cX4_reached 13 = .ok (.if_icmp .ge 38, 3) := dk_162 0 38 (dk_at dksX4_reached_0 13 rfl rfl)
theorem dX4_reached_16 : decode cX4_reached 16 = .ok (.aload_n 0, 1) := dk_42 (dk_at dksX4_reached_0 16 rfl rfl)
theorem dX4_reached_17 : decode cX4_reached 17 = .ok (.getfield 112, 3) := dk_180 0 112 (dk_at dksX4_reached_0 17 rfl rfl)
theorem dX4_reached_20 : decode cX4_reached 20 = .ok (.bipush 8, 2) := dk_16 8 (dk_at dksX4_reached_0 20 rfl rfl)
theorem dX4_reached_22 : decode cX4_reached 22 = .ok (.aload_n 0, 1) := dk_42 (dk_at dksX4_reached_0 22 rfl rfl)
theorem dX4_reached_23 : decode cX4_reached 23 = .ok (.getfield 97, 3) := dk_180 0 97 (dk_at dksX4_reached_1 0 rfl rfl)
theorem dX4_reached_26 : decode cX4_reached 26 = .ok (.bipush 24, 2) := dk_16 24 (dk_at dksX4_reached_1 3 rfl rfl)
theorem dX4_reached_28 : decode cX4_reached 28 = .ok (.iaload, 1) := dk_46 (dk_at dksX4_reached_1 5 rfl rfl)
theorem dX4_reached_29 : decode cX4_reached 29 = .ok (.imul, 1) := dk_104 (dk_at dksX4_reached_1 6 rfl rfl)
theorem dX4_reached_30 : decode cX4_reached 30 = .ok (.iload_n 2, 1) := dk_28 (dk_at dksX4_reached_1 7 rfl rfl)
theorem dX4_reached_31 : decode cX4_reached 31 = .ok (.iadd, 1) := dk_96 (dk_at dksX4_reached_1 8 rfl rfl)
theorem dX4_reached_32 : decode cX4_reached 32 = .ok (.iaload, 1) := dk_46 (dk_at dksX4_reached_1 9 rfl rfl)
theorem dX4_reached_33 : decode cX4_reached 33 = .ok (.sipush 1000, 3) := dk_17 3 232 (dk_at dksX4_reached_1 10 rfl rfl)
theorem dX4_reached_36 : decode cX4_reached 36 = .ok (.if_icmp .ge 9, 3) := dk_162 0 9 (dk_at dksX4_reached_1 13 rfl rfl)
theorem dX4_reached_39 : decode cX4_reached 39 = .ok (.iload_n 1, 1) := dk_27 (dk_at dksX4_reached_1 16 rfl rfl)
theorem dX4_reached_40 : decode cX4_reached 40 = .ok (.iconst 1, 1) := dk_4 (dk_at dksX4_reached_1 17 rfl rfl)
theorem dX4_reached_41 : decode cX4_reached 41 = .ok (.iload_n 2, 1) := dk_28 (dk_at dksX4_reached_1 18 rfl rfl)
theorem dX4_reached_42 : decode cX4_reached 42 = .ok (.ishl, 1) := dk_120 (dk_at dksX4_reached_1 19 rfl rfl)
theorem dX4_reached_43 : decode cX4_reached 43 = .ok (.ior, 1) := dk_128 (dk_at dksX4_reached_1 20 rfl rfl)
theorem dX4_reached_44 : decode cX4_reached 44 = .ok (.istore_n 1, 1) := dk_60 (dk_at dksX4_reached_1 21 rfl rfl)
theorem dX4_reached_45 : decode cX4_reached 45 = .ok (.iinc 2 1, 3) := dk_132 2 1 (dk_at dksX4_reached_2 0 rfl rfl)
theorem dX4_reached_48 : decode cX4_reached 48 = .ok (.goto (-40), 3) := dk_167 255 216 (dk_at dksX4_reached_2 3 rfl rfl)
theorem dX4_reached_51 : decode cX4_reached 51 = .ok (.iload_n 1, 1) := dk_27 (dk_at dksX4_reached_2 6 rfl rfl)
theorem dX4_reached_52 : decode cX4_reached 52 = .ok (.ireturn, 1) := dk_172 (dk_at dksX4_reached_2 7 rfl rfl)
abbrev cX4_bridge : ByteArray := prog_22_method_105_code
def yX4_bridge : MethodName := ⟨RX4, "bridge", "(I)I"⟩
def dkwX4_bridge_5 : List UInt8 := [167, 0, 12, 27, 154, 0, 7, 28, 167, 0, 4, 29, 172]
abbrev dktX4_bridge_5 : List UInt8 := dkwX4_bridge_5 ++ []
def dkwX4_bridge_4 : List UInt8 := [161, 0, 6, 167, 0, 9, 21, 4, 61, 21, 5, 62, 132, 4, 1, 167, 255, 167, 28, 156, 0, 7, 2]
abbrev dktX4_bridge_4 : List UInt8 := dkwX4_bridge_4 ++ dktX4_bridge_5
def dkwX4_bridge_3 : List UInt8 := [184, 1, 60, 54, 5, 42, 180, 0, 97, 16, 28, 92, 46, 4, 21, 4, 120, 2, 130, 126, 79, 21, 5, 29]
abbrev dktX4_bridge_3 : List UInt8 := dkwX4_bridge_3 ++ dktX4_bridge_4
def dkwX4_bridge_2 : List UInt8 := [153, 0, 6, 167, 0, 57, 42, 180, 0, 97, 16, 28, 92, 46, 4, 21, 4, 120, 128, 79, 42, 182, 1, 213]
abbrev dktX4_bridge_2 : List UInt8 := dkwX4_bridge_2 ++ dktX4_bridge_3
def dkwX4_bridge_1 : List UInt8 := [180, 0, 24, 42, 180, 0, 255, 46, 162, 0, 81, 42, 180, 0, 97, 16, 28, 46, 21, 4, 184, 1, 8]
abbrev dktX4_bridge_1 : List UInt8 := dkwX4_bridge_1 ++ dktX4_bridge_2
def dkwX4_bridge_0 : List UInt8 := [27, 3, 4, 184, 1, 118, 154, 0, 5, 2, 172, 2, 61, 17, 3, 232, 62, 3, 54, 4, 21, 4, 42]
abbrev dktX4_bridge_0 : List UInt8 := dkwX4_bridge_0 ++ dktX4_bridge_1
theorem dksX4_bridge_0 : cX4_bridge.data.toList.drop 0 = dktX4_bridge_0 := by decide +kernel
theorem dksX4_bridge_1 : cX4_bridge.data.toList.drop 23 = dktX4_bridge_1 := dk_seg dksX4_bridge_0 23 rfl rfl
theorem dksX4_bridge_2 : cX4_bridge.data.toList.drop 46 = dktX4_bridge_2 := dk_seg dksX4_bridge_1 23 rfl rfl
theorem dksX4_bridge_3 : cX4_bridge.data.toList.drop 70 = dktX4_bridge_3 := dk_seg dksX4_bridge_2 24 rfl rfl
theorem dksX4_bridge_4 : cX4_bridge.data.toList.drop 94 = dktX4_bridge_4 := dk_seg dksX4_bridge_3 24 rfl rfl
theorem dksX4_bridge_5 : cX4_bridge.data.toList.drop 117 = dktX4_bridge_5 := dk_seg dksX4_bridge_4 23 rfl rfl
theorem dX4_bridge_0 : decode cX4_bridge 0 = .ok (.iload_n 1, 1) := dk_27 (dk_at dksX4_bridge_0 0 rfl rfl)
theorem dX4_bridge_1 : decode cX4_bridge 1 = .ok (.iconst 0, 1) := dk_3 (dk_at dksX4_bridge_0 1 rfl rfl)
theorem dX4_bridge_2 : decode cX4_bridge 2 = .ok (.iconst 1, 1) := dk_4 (dk_at dksX4_bridge_0 2 rfl rfl)
theorem dX4_bridge_3 : decode cX4_bridge 3 = .ok (.invokestatic 374, 3) := dk_184 1 118 (dk_at dksX4_bridge_0 3 rfl rfl)
theorem dX4_bridge_6 : decode cX4_bridge 6 = .ok (.ifCond .ne 5, 3) := dk_154 0 5 (dk_at dksX4_bridge_0 6 rfl rfl)
theorem dX4_bridge_9 : decode cX4_bridge 9 = .ok (.iconst (-1), 1) := dk_2 (dk_at dksX4_bridge_0 9 rfl rfl)
theorem dX4_bridge_10 : decode cX4_bridge 10 = .ok (.ireturn, 1) := dk_172 (dk_at dksX4_bridge_0 10 rfl rfl)
theorem dX4_bridge_11 : decode cX4_bridge 11 = .ok (.iconst (-1), 1) := dk_2 (dk_at dksX4_bridge_0 11 rfl rfl)
theorem dX4_bridge_12 : decode cX4_bridge 12 = .ok (.istore_n 2, 1) := dk_61 (dk_at dksX4_bridge_0 12 rfl rfl)
theorem dX4_bridge_13 : decode cX4_bridge 13 = .ok (.sipush 1000, 3) := dk_17 3 232 (dk_at dksX4_bridge_0 13 rfl rfl)
theorem dX4_bridge_16 : decode cX4_bridge 16 = .ok (.istore_n 3, 1) := dk_62 (dk_at dksX4_bridge_0 16 rfl rfl)
theorem dX4_bridge_17 : decode cX4_bridge 17 = .ok (.iconst 0, 1) := dk_3 (dk_at dksX4_bridge_0 17 rfl rfl)
theorem dX4_bridge_18 : decode cX4_bridge 18 = .ok (.istore 4, 2) := dk_54 4 (dk_at dksX4_bridge_0 18 rfl rfl)
theorem dX4_bridge_20 : decode cX4_bridge 20 = .ok (.iload 4, 2) := dk_21 4 (dk_at dksX4_bridge_0 20 rfl rfl)
theorem dX4_bridge_22 : decode cX4_bridge 22 = .ok (.aload_n 0, 1) := dk_42 (dk_at dksX4_bridge_0 22 rfl rfl)
theorem dX4_bridge_23 : decode cX4_bridge 23 = .ok (.getfield 24, 3) := dk_180 0 24 (dk_at dksX4_bridge_1 0 rfl rfl)
theorem dX4_bridge_26 : decode cX4_bridge 26 = .ok (.aload_n 0, 1) := dk_42 (dk_at dksX4_bridge_1 3 rfl rfl)
theorem dX4_bridge_27 : decode cX4_bridge 27 = .ok (.getfield 255, 3) := dk_180 0 255 (dk_at dksX4_bridge_1 4 rfl rfl)
theorem dX4_bridge_30 : decode cX4_bridge 30 = .ok (.iaload, 1) := dk_46 (dk_at dksX4_bridge_1 7 rfl rfl)
theorem dX4_bridge_31 : decode cX4_bridge 31 = .ok (.if_icmp .ge 81, 3) := dk_162 0 81 (dk_at dksX4_bridge_1 8 rfl rfl)
theorem dX4_bridge_34 : decode cX4_bridge 34 = .ok (.aload_n 0, 1) := dk_42 (dk_at dksX4_bridge_1 11 rfl rfl)
theorem dX4_bridge_35 : decode cX4_bridge 35 = .ok (.getfield 97, 3) := dk_180 0 97 (dk_at dksX4_bridge_1 12 rfl rfl)
theorem dX4_bridge_38 : decode cX4_bridge 38 = .ok (.bipush 28, 2) := dk_16 28 (dk_at dksX4_bridge_1 15 rfl rfl)
theorem dX4_bridge_40 : decode cX4_bridge 40 = .ok (.iaload, 1) := dk_46 (dk_at dksX4_bridge_1 17 rfl rfl)
theorem dX4_bridge_41 : decode cX4_bridge 41 = .ok (.iload 4, 2) := dk_21 4 (dk_at dksX4_bridge_1 18 rfl rfl)
theorem dX4_bridge_43 : decode cX4_bridge 43 = .ok (.invokestatic 264, 3) := dk_184 1 8 (dk_at dksX4_bridge_1 20 rfl rfl)
theorem dX4_bridge_46 : decode cX4_bridge 46 = .ok (.ifCond .eq 6, 3) := dk_153 0 6 (dk_at dksX4_bridge_2 0 rfl rfl)
theorem dX4_bridge_49 : decode cX4_bridge 49 = .ok (.goto 57, 3) := dk_167 0 57 (dk_at dksX4_bridge_2 3 rfl rfl)
theorem dX4_bridge_52 : decode cX4_bridge 52 = .ok (.aload_n 0, 1) := dk_42 (dk_at dksX4_bridge_2 6 rfl rfl)
theorem dX4_bridge_53 : decode cX4_bridge 53 = .ok (.getfield 97, 3) := dk_180 0 97 (dk_at dksX4_bridge_2 7 rfl rfl)
theorem dX4_bridge_56 : decode cX4_bridge 56 = .ok (.bipush 28, 2) := dk_16 28 (dk_at dksX4_bridge_2 10 rfl rfl)
theorem dX4_bridge_58 : decode cX4_bridge 58 = .ok (.dup2, 1) := dk_92 (dk_at dksX4_bridge_2 12 rfl rfl)
theorem dX4_bridge_59 : decode cX4_bridge 59 = .ok (.iaload, 1) := dk_46 (dk_at dksX4_bridge_2 13 rfl rfl)
theorem dX4_bridge_60 : decode cX4_bridge 60 = .ok (.iconst 1, 1) := dk_4 (dk_at dksX4_bridge_2 14 rfl rfl)
theorem dX4_bridge_61 : decode cX4_bridge 61 = .ok (.iload 4, 2) := dk_21 4 (dk_at dksX4_bridge_2 15 rfl rfl)
theorem dX4_bridge_63 : decode cX4_bridge 63 = .ok (.ishl, 1) := dk_120 (dk_at dksX4_bridge_2 17 rfl rfl)
theorem dX4_bridge_64 : decode cX4_bridge 64 = .ok (.ior, 1) := dk_128 (dk_at dksX4_bridge_2 18 rfl rfl)
theorem dX4_bridge_65 : decode cX4_bridge 65 = .ok (.iastore, 1) := dk_79 (dk_at dksX4_bridge_2 19 rfl rfl)
theorem dX4_bridge_66 : decode cX4_bridge 66 = .ok (.aload_n 0, 1) := dk_42 (dk_at dksX4_bridge_2 20 rfl rfl)
theorem dX4_bridge_67 : decode cX4_bridge 67 = .ok (.invokevirtual 469, 3) := dk_182 1 213 (dk_at dksX4_bridge_2 21 rfl rfl)
theorem dX4_bridge_70 : decode cX4_bridge 70 = .ok (.invokestatic 316, 3) := dk_184 1 60 (dk_at dksX4_bridge_3 0 rfl rfl)
theorem dX4_bridge_73 : decode cX4_bridge 73 = .ok (.istore 5, 2) := dk_54 5 (dk_at dksX4_bridge_3 3 rfl rfl)
theorem dX4_bridge_75 : decode cX4_bridge 75 = .ok (.aload_n 0, 1) := dk_42 (dk_at dksX4_bridge_3 5 rfl rfl)
theorem dX4_bridge_76 : decode cX4_bridge 76 = .ok (.getfield 97, 3) := dk_180 0 97 (dk_at dksX4_bridge_3 6 rfl rfl)
theorem dX4_bridge_79 : decode cX4_bridge 79 = .ok (.bipush 28, 2) := dk_16 28 (dk_at dksX4_bridge_3 9 rfl rfl)
theorem dX4_bridge_81 : decode cX4_bridge 81 = .ok (.dup2, 1) := dk_92 (dk_at dksX4_bridge_3 11 rfl rfl)
theorem dX4_bridge_82 : decode cX4_bridge 82 = .ok (.iaload, 1) := dk_46 (dk_at dksX4_bridge_3 12 rfl rfl)
theorem dX4_bridge_83 : decode cX4_bridge 83 = .ok (.iconst 1, 1) := dk_4 (dk_at dksX4_bridge_3 13 rfl rfl)
theorem dX4_bridge_84 : decode cX4_bridge 84 = .ok (.iload 4, 2) := dk_21 4 (dk_at dksX4_bridge_3 14 rfl rfl)
theorem dX4_bridge_86 : decode cX4_bridge 86 = .ok (.ishl, 1) := dk_120 (dk_at dksX4_bridge_3 16 rfl rfl)
theorem dX4_bridge_87 : decode cX4_bridge 87 = .ok (.iconst (-1), 1) := dk_2 (dk_at dksX4_bridge_3 17 rfl rfl)
theorem dX4_bridge_88 : decode cX4_bridge 88 = .ok (.ixor, 1) := dk_130 (dk_at dksX4_bridge_3 18 rfl rfl)
theorem dX4_bridge_89 : decode cX4_bridge 89 = .ok (.iand, 1) := dk_126 (dk_at dksX4_bridge_3 19 rfl rfl)
theorem dX4_bridge_90 : decode cX4_bridge 90 = .ok (.iastore, 1) := dk_79 (dk_at dksX4_bridge_3 20 rfl rfl)
theorem dX4_bridge_91 : decode cX4_bridge 91 = .ok (.iload 5, 2) := dk_21 5 (dk_at dksX4_bridge_3 21 rfl rfl)
theorem dX4_bridge_93 : decode cX4_bridge 93 = .ok (.iload_n 3, 1) := dk_29 (dk_at dksX4_bridge_3 23 rfl rfl)
theorem dX4_bridge_94 : decode cX4_bridge 94 = .ok (.if_icmp .lt 6, 3) := dk_161 0 6 (dk_at dksX4_bridge_4 0 rfl rfl)
theorem dX4_bridge_97 : decode cX4_bridge 97 = .ok (.goto 9, 3) := dk_167 0 9 (dk_at dksX4_bridge_4 3 rfl rfl)
theorem dX4_bridge_100 : decode cX4_bridge 100 = .ok (.iload 4, 2) := dk_21 4 (dk_at dksX4_bridge_4 6 rfl rfl)
theorem dX4_bridge_102 : decode cX4_bridge 102 = .ok (.istore_n 2, 1) := dk_61 (dk_at dksX4_bridge_4 8 rfl rfl)
theorem dX4_bridge_103 : decode cX4_bridge 103 = .ok (.iload 5, 2) := dk_21 5 (dk_at dksX4_bridge_4 9 rfl rfl)
theorem dX4_bridge_105 : decode cX4_bridge 105 = .ok (.istore_n 3, 1) := dk_62 (dk_at dksX4_bridge_4 11 rfl rfl)
theorem dX4_bridge_106 : decode cX4_bridge 106 = .ok (.iinc 4 1, 3) := dk_132 4 1 (dk_at dksX4_bridge_4 12 rfl rfl)
theorem dX4_bridge_109 : decode cX4_bridge 109 = .ok (.goto (-89), 3) := dk_167 255 167 (dk_at dksX4_bridge_4 15 rfl rfl)
theorem dX4_bridge_112 : decode cX4_bridge 112 = .ok (.iload_n 2, 1) := dk_28 (dk_at dksX4_bridge_4 18 rfl rfl)
theorem dX4_bridge_113 : decode cX4_bridge 113 = .ok (.ifCond .ge 7, 3) := dk_156 0 7 (dk_at dksX4_bridge_4 19 rfl rfl)
theorem dX4_bridge_116 : decode cX4_bridge 116 = .ok (.iconst (-1), 1) := dk_2 (dk_at dksX4_bridge_4 22 rfl rfl)
theorem dX4_bridge_117 : decode cX4_bridge 117 = .ok (.goto 12, 3) := dk_167 0 12 (dk_at dksX4_bridge_5 0 rfl rfl)
theorem dX4_bridge_120 : decode cX4_bridge 120 = .ok (.iload_n 1, 1) := dk_27 (dk_at dksX4_bridge_5 3 rfl rfl)
theorem dX4_bridge_121 : decode cX4_bridge 121 = .ok (.ifCond .ne 7, 3) := dk_154 0 7 (dk_at dksX4_bridge_5 4 rfl rfl)
theorem dX4_bridge_124 : decode cX4_bridge 124 = .ok (.iload_n 2, 1) := dk_28 (dk_at dksX4_bridge_5 7 rfl rfl)
theorem dX4_bridge_125 : decode cX4_bridge 125 = .ok (.goto 4, 3) := dk_167 0 4 (dk_at dksX4_bridge_5 8 rfl rfl)
theorem dX4_bridge_128 : decode cX4_bridge 128 = .ok (.iload_n 3, 1) := dk_29 (dk_at dksX4_bridge_5 11 rfl rfl)
theorem dX4_bridge_129 : decode cX4_bridge 129 = .ok (.ireturn, 1) := dk_172 (dk_at dksX4_bridge_5 12 rfl rfl)
abbrev cX4_round : ByteArray := prog_22_method_108_code
def yX4_round : MethodName := ⟨RX4, "round", "()I"⟩
def dkwX4_round_4 : List UInt8 := [42, 28, 27, 21, 4, 182, 1, 219, 79, 132, 4, 1, 167, 255, 232, 42, 27, 181, 1, 142, 29, 172]
abbrev dktX4_round_4 : List UInt8 := dkwX4_round_4 ++ []
def dkwX4_round_3 : List UInt8 := [167, 255, 216, 28, 156, 0, 5, 2, 172, 3, 54, 4, 21, 4, 27, 162, 0, 24, 42, 180, 0, 106, 21, 4]
abbrev dktX4_round_3 : List UInt8 := dkwX4_round_3 ++ dktX4_round_4
def dkwX4_round_2 : List UInt8 := [27, 182, 1, 222, 54, 5, 21, 5, 29, 161, 0, 6, 167, 0, 9, 21, 4, 61, 21, 5, 62, 132, 4, 1]
abbrev dktX4_round_2 : List UInt8 := dkwX4_round_2 ++ dktX4_round_3
def dkwX4_round_1 : List UInt8 := [61, 17, 3, 232, 62, 3, 54, 4, 21, 4, 42, 182, 1, 115, 27, 184, 1, 216, 162, 0, 33, 42, 21, 4]
abbrev dktX4_round_1 : List UInt8 := dkwX4_round_1 ++ dktX4_round_2
def dkwX4_round_0 : List UInt8 := [42, 3, 181, 1, 142, 42, 182, 1, 186, 184, 1, 60, 60, 27, 154, 0, 5, 2, 172, 42, 182, 1, 210, 2]
abbrev dktX4_round_0 : List UInt8 := dkwX4_round_0 ++ dktX4_round_1
theorem dksX4_round_0 : cX4_round.data.toList.drop 0 = dktX4_round_0 := by decide +kernel
theorem dksX4_round_1 : cX4_round.data.toList.drop 24 = dktX4_round_1 := dk_seg dksX4_round_0 24 rfl rfl
theorem dksX4_round_2 : cX4_round.data.toList.drop 48 = dktX4_round_2 := dk_seg dksX4_round_1 24 rfl rfl
theorem dksX4_round_3 : cX4_round.data.toList.drop 72 = dktX4_round_3 := dk_seg dksX4_round_2 24 rfl rfl
theorem dksX4_round_4 : cX4_round.data.toList.drop 96 = dktX4_round_4 := dk_seg dksX4_round_3 24 rfl rfl
theorem dX4_round_0 : decode cX4_round 0 = .ok (.aload_n 0, 1) := dk_42 (dk_at dksX4_round_0 0 rfl rfl)
theorem dX4_round_1 : decode cX4_round 1 = .ok (.iconst 0, 1) := dk_3 (dk_at dksX4_round_0 1 rfl rfl)
theorem dX4_round_2 : decode cX4_round 2 = .ok (.putfield 398, 3) := dk_181 1 142 (dk_at dksX4_round_0 2 rfl rfl)
theorem dX4_round_5 : decode cX4_round 5 = .ok (.aload_n 0, 1) := dk_42 (dk_at dksX4_round_0 5 rfl rfl)
theorem dX4_round_6 : decode cX4_round 6 = .ok (.invokevirtual 442, 3) := dk_182 1 186 (dk_at dksX4_round_0 6 rfl rfl)
theorem dX4_round_9 : decode cX4_round 9 = .ok (.invokestatic 316, 3) := dk_184 1 60 (dk_at dksX4_round_0 9 rfl rfl)
theorem dX4_round_12 : decode cX4_round 12 = .ok (.istore_n 1, 1) := dk_60 (dk_at dksX4_round_0 12 rfl rfl)
theorem dX4_round_13 : decode cX4_round 13 = .ok (.iload_n 1, 1) := dk_27 (dk_at dksX4_round_0 13 rfl rfl)
theorem dX4_round_14 : decode cX4_round 14 = .ok (.ifCond .ne 5, 3) := dk_154 0 5 (dk_at dksX4_round_0 14 rfl rfl)
theorem dX4_round_17 : decode cX4_round 17 = .ok (.iconst (-1), 1) := dk_2 (dk_at dksX4_round_0 17 rfl rfl)
theorem dX4_round_18 : decode cX4_round 18 = .ok (.ireturn, 1) := dk_172 (dk_at dksX4_round_0 18 rfl rfl)
theorem dX4_round_19 : decode cX4_round 19 = .ok (.aload_n 0, 1) := dk_42 (dk_at dksX4_round_0 19 rfl rfl)
theorem dX4_round_20 : decode cX4_round 20 = .ok (.invokevirtual 466, 3) := dk_182 1 210 (dk_at dksX4_round_0 20 rfl rfl)
theorem dX4_round_23 : decode cX4_round 23 = .ok (.iconst (-1), 1) := dk_2 (dk_at dksX4_round_0 23 rfl rfl)
theorem dX4_round_24 : decode cX4_round 24 = .ok (.istore_n 2, 1) := dk_61 (dk_at dksX4_round_1 0 rfl rfl)
theorem dX4_round_25 : decode cX4_round 25 = .ok (.sipush 1000, 3) := dk_17 3 232 (dk_at dksX4_round_1 1 rfl rfl)
theorem dX4_round_28 : decode cX4_round 28 = .ok (.istore_n 3, 1) := dk_62 (dk_at dksX4_round_1 4 rfl rfl)
theorem dX4_round_29 : decode cX4_round 29 = .ok (.iconst 0, 1) := dk_3 (dk_at dksX4_round_1 5 rfl rfl)
theorem dX4_round_30 : decode cX4_round 30 = .ok (.istore 4, 2) := dk_54 4 (dk_at dksX4_round_1 6 rfl rfl)
theorem dX4_round_32 : decode cX4_round 32 = .ok (.iload 4, 2) := dk_21 4 (dk_at dksX4_round_1 8 rfl rfl)
theorem dX4_round_34 : decode cX4_round 34 = .ok (.aload_n 0, 1) := dk_42 (dk_at dksX4_round_1 10 rfl rfl)
theorem dX4_round_35 : decode cX4_round 35 = .ok (.invokevirtual 371, 3) := dk_182 1 115 (dk_at dksX4_round_1 11 rfl rfl)
theorem dX4_round_38 : decode cX4_round 38 = .ok (.iload_n 1, 1) := dk_27 (dk_at dksX4_round_1 14 rfl rfl)
theorem dX4_round_39 : decode cX4_round 39 = .ok (.invokestatic 472, 3) := dk_184 1 216 (dk_at dksX4_round_1 15 rfl rfl)
theorem dX4_round_42 : decode cX4_round 42 = .ok (.if_icmp .ge 33, 3) := dk_162 0 33 (dk_at dksX4_round_1 18 rfl rfl)
theorem dX4_round_45 : decode cX4_round 45 = .ok (.aload_n 0, 1) := dk_42 (dk_at dksX4_round_1 21 rfl rfl)
theorem dX4_round_46 : decode cX4_round 46 = .ok (.iload 4, 2) := dk_21 4 (dk_at dksX4_round_1 22 rfl rfl)
theorem dX4_round_48 : decode cX4_round 48 = .ok (.iload_n 1, 1) := dk_27 (dk_at dksX4_round_2 0 rfl rfl)
theorem dX4_round_49 : decode cX4_round 49 = .ok (.invokevirtual 478, 3) := dk_182 1 222 (dk_at dksX4_round_2 1 rfl rfl)
theorem dX4_round_52 : decode cX4_round 52 = .ok (.istore 5, 2) := dk_54 5 (dk_at dksX4_round_2 4 rfl rfl)
theorem dX4_round_54 : decode cX4_round 54 = .ok (.iload 5, 2) := dk_21 5 (dk_at dksX4_round_2 6 rfl rfl)
theorem dX4_round_56 : decode cX4_round 56 = .ok (.iload_n 3, 1) := dk_29 (dk_at dksX4_round_2 8 rfl rfl)
theorem dX4_round_57 : decode cX4_round 57 = .ok (.if_icmp .lt 6, 3) := dk_161 0 6 (dk_at dksX4_round_2 9 rfl rfl)
theorem dX4_round_60 : decode cX4_round 60 = .ok (.goto 9, 3) := dk_167 0 9 (dk_at dksX4_round_2 12 rfl rfl)
theorem dX4_round_63 : decode cX4_round 63 = .ok (.iload 4, 2) := dk_21 4 (dk_at dksX4_round_2 15 rfl rfl)
theorem dX4_round_65 : decode cX4_round 65 = .ok (.istore_n 2, 1) := dk_61 (dk_at dksX4_round_2 17 rfl rfl)
theorem dX4_round_66 : decode cX4_round 66 = .ok (.iload 5, 2) := dk_21 5 (dk_at dksX4_round_2 18 rfl rfl)
theorem dX4_round_68 : decode cX4_round 68 = .ok (.istore_n 3, 1) := dk_62 (dk_at dksX4_round_2 20 rfl rfl)
theorem dX4_round_69 : decode cX4_round 69 = .ok (.iinc 4 1, 3) := dk_132 4 1 (dk_at dksX4_round_2 21 rfl rfl)
theorem dX4_round_72 : decode cX4_round 72 = .ok (.goto (-40), 3) := dk_167 255 216 (dk_at dksX4_round_3 0 rfl rfl)
theorem dX4_round_75 : decode cX4_round 75 = .ok (.iload_n 2, 1) := dk_28 (dk_at dksX4_round_3 3 rfl rfl)
theorem dX4_round_76 : decode cX4_round 76 = .ok (.ifCond .ge 5, 3) := dk_156 0 5 (dk_at dksX4_round_3 4 rfl rfl)
theorem dX4_round_79 : decode cX4_round 79 = .ok (.iconst (-1), 1) := dk_2 (dk_at dksX4_round_3 7 rfl rfl)
theorem dX4_round_80 : decode cX4_round 80 = .ok (.ireturn, 1) := dk_172 (dk_at dksX4_round_3 8 rfl rfl)
theorem dX4_round_81 : decode cX4_round 81 = .ok (.iconst 0, 1) := dk_3 (dk_at dksX4_round_3 9 rfl rfl)
theorem dX4_round_82 : decode cX4_round 82 = .ok (.istore 4, 2) := dk_54 4 (dk_at dksX4_round_3 10 rfl rfl)
theorem dX4_round_84 : decode cX4_round 84 = .ok (.iload 4, 2) := dk_21 4 (dk_at dksX4_round_3 12 rfl rfl)
theorem dX4_round_86 : decode cX4_round 86 = .ok (.iload_n 1, 1) := dk_27 (dk_at dksX4_round_3 14 rfl rfl)
theorem dX4_round_87 : decode cX4_round 87 = .ok (.if_icmp .ge 24, 3) := dk_162 0 24 (dk_at dksX4_round_3 15 rfl rfl)
theorem dX4_round_90 : decode cX4_round 90 = .ok (.aload_n 0, 1) := dk_42 (dk_at dksX4_round_3 18 rfl rfl)
theorem dX4_round_91 : decode cX4_round 91 = .ok (.getfield 106, 3) := dk_180 0 106 (dk_at dksX4_round_3 19 rfl rfl)
theorem dX4_round_94 : decode cX4_round 94 = .ok (.iload 4, 2) := dk_21 4 (dk_at dksX4_round_3 22 rfl rfl)
theorem dX4_round_96 : decode cX4_round 96 = .ok (.aload_n 0, 1) := dk_42 (dk_at dksX4_round_4 0 rfl rfl)
theorem dX4_round_97 : decode cX4_round 97 = .ok (.iload_n 2, 1) := dk_28 (dk_at dksX4_round_4 1 rfl rfl)
theorem dX4_round_98 : decode cX4_round 98 = .ok (.iload_n 1, 1) := dk_27 (dk_at dksX4_round_4 2 rfl rfl)
theorem dX4_round_99 : decode cX4_round 99 = .ok (.iload 4, 2) := dk_21 4 (dk_at dksX4_round_4 3 rfl rfl)
theorem dX4_round_101 : decode cX4_round 101 = .ok (.invokevirtual 475, 3) := dk_182 1 219 (dk_at dksX4_round_4 5 rfl rfl)
theorem dX4_round_104 : decode cX4_round 104 = .ok (.iastore, 1) := dk_79 (dk_at dksX4_round_4 8 rfl rfl)
theorem dX4_round_105 : decode cX4_round 105 = .ok (.iinc 4 1, 3) := dk_132 4 1 (dk_at dksX4_round_4 9 rfl rfl)
theorem dX4_round_108 : decode cX4_round 108 = .ok (.goto (-24), 3) := dk_167 255 232 (dk_at dksX4_round_4 12 rfl rfl)
theorem dX4_round_111 : decode cX4_round 111 = .ok (.aload_n 0, 1) := dk_42 (dk_at dksX4_round_4 15 rfl rfl)
theorem dX4_round_112 : decode cX4_round 112 = .ok (.iload_n 1, 1) := dk_27 (dk_at dksX4_round_4 16 rfl rfl)
theorem dX4_round_113 : decode cX4_round 113 = .ok (.putfield 398, 3) := dk_181 1 142 (dk_at dksX4_round_4 17 rfl rfl)
theorem dX4_round_116 : decode cX4_round 116 = .ok (.iload_n 3, 1) := dk_29 (dk_at dksX4_round_4 20 rfl rfl)
theorem dX4_round_117 : decode cX4_round 117 = .ok (.ireturn, 1) := dk_172 (dk_at dksX4_round_4 21 rfl rfl)
abbrev cX4_power : ByteArray := prog_22_method_45_code
def yX4_power : MethodName := ⟨RX4, "power", "(II)I"⟩
def dkwX4_power_0 : List UInt8 := [4, 61, 3, 62, 29, 27, 162, 0, 13, 28, 26, 104, 61, 132, 3, 1, 167, 255, 244, 28, 172]
abbrev dktX4_power_0 : List UInt8 := dkwX4_power_0 ++ []
theorem dksX4_power_0 : cX4_power.data.toList.drop 0 = dktX4_power_0 := by decide +kernel
theorem dX4_power_0 : decode cX4_power 0 = .ok (.iconst 1, 1) := dk_4 (dk_at dksX4_power_0 0 rfl rfl)
theorem dX4_power_1 : decode cX4_power 1 = .ok (.istore_n 2, 1) := dk_61 (dk_at dksX4_power_0 1 rfl rfl)
theorem dX4_power_2 : decode cX4_power 2 = .ok (.iconst 0, 1) := dk_3 (dk_at dksX4_power_0 2 rfl rfl)
theorem dX4_power_3 : decode cX4_power 3 = .ok (.istore_n 3, 1) := dk_62 (dk_at dksX4_power_0 3 rfl rfl)
theorem dX4_power_4 : decode cX4_power 4 = .ok (.iload_n 3, 1) := dk_29 (dk_at dksX4_power_0 4 rfl rfl)
theorem dX4_power_5 : decode cX4_power 5 = .ok (.iload_n 1, 1) := dk_27 (dk_at dksX4_power_0 5 rfl rfl)
theorem dX4_power_6 : decode cX4_power 6 = .ok (.if_icmp .ge 13, 3) := dk_162 0 13 (dk_at dksX4_power_0 6 rfl rfl)
theorem dX4_power_9 : decode cX4_power 9 = .ok (.iload_n 2, 1) := dk_28 (dk_at dksX4_power_0 9 rfl rfl)
theorem dX4_power_10 : decode cX4_power 10 = .ok (.iload_n 0, 1) := dk_26 (dk_at dksX4_power_0 10 rfl rfl)
theorem dX4_power_11 : decode cX4_power 11 = .ok (.imul, 1) := dk_104 (dk_at dksX4_power_0 11 rfl rfl)
theorem dX4_power_12 : decode cX4_power 12 = .ok (.istore_n 2, 1) := dk_61 (dk_at dksX4_power_0 12 rfl rfl)
theorem dX4_power_13 : decode cX4_power 13 = .ok (.iinc 3 1, 3) := dk_132 3 1 (dk_at dksX4_power_0 13 rfl rfl)
theorem dX4_power_16 : decode cX4_power 16 = .ok (.goto (-12), 3) := dk_167 255 244 (dk_at dksX4_power_0 16 rfl rfl)
theorem dX4_power_19 : decode cX4_power 19 = .ok (.iload_n 2, 1) := dk_28 (dk_at dksX4_power_0 19 rfl rfl)
theorem dX4_power_20 : decode cX4_power 20 = .ok (.ireturn, 1) := dk_172 (dk_at dksX4_power_0 20 rfl rfl)
abbrev cX4_lastHeard : ByteArray := prog_22_method_107_code
def yX4_lastHeard : MethodName := ⟨RX4, "lastHeard", "(II)I"⟩
def dkwX4_lastHeard_6 : List UInt8 := [120, 128, 62, 132, 6, 1, 167, 255, 125, 21, 5, 172]
abbrev dktX4_lastHeard_6 : List UInt8 := dkwX4_lastHeard_6 ++ []
def dkwX4_lastHeard_5 : List UInt8 := [21, 8, 17, 3, 232, 160, 0, 7, 17, 3, 232, 172, 42, 21, 7, 182, 1, 145, 54, 4, 29, 4, 21, 7]
abbrev dktX4_lastHeard_5 : List UInt8 := dkwX4_lastHeard_5 ++ dktX4_lastHeard_6
def dkwX4_lastHeard_4 : List UInt8 := [54, 9, 21, 5, 21, 9, 153, 0, 12, 21, 8, 154, 0, 7, 4, 167, 0, 5, 21, 8, 96, 54, 5]
abbrev dktX4_lastHeard_4 : List UInt8 := dkwX4_lastHeard_4 ++ dktX4_lastHeard_5
def dkwX4_lastHeard_3 : List UInt8 := [54, 8, 21, 6, 157, 0, 14, 42, 180, 0, 97, 16, 26, 46, 4, 160, 0, 7, 4, 167, 0, 4, 3]
abbrev dktX4_lastHeard_3 : List UInt8 := dkwX4_lastHeard_3 ++ dktX4_lastHeard_4
def dkwX4_lastHeard_2 : List UInt8 := [154, 0, 7, 17, 3, 232, 172, 42, 180, 0, 112, 16, 8, 21, 4, 104, 42, 21, 7, 182, 1, 145, 96, 46]
abbrev dktX4_lastHeard_2 : List UInt8 := dkwX4_lastHeard_2 ++ dktX4_lastHeard_3
def dkwX4_lastHeard_1 : List UInt8 := [27, 28, 21, 6, 182, 1, 219, 54, 7, 29, 21, 7, 184, 1, 8, 154, 0, 12, 42, 21, 7, 182, 1, 157]
abbrev dktX4_lastHeard_1 : List UInt8 := dkwX4_lastHeard_1 ++ dktX4_lastHeard_2
def dkwX4_lastHeard_0 : List UInt8 := [3, 62, 42, 180, 0, 97, 16, 24, 46, 54, 4, 3, 54, 5, 3, 54, 6, 21, 6, 28, 162, 0, 131, 42]
abbrev dktX4_lastHeard_0 : List UInt8 := dkwX4_lastHeard_0 ++ dktX4_lastHeard_1
theorem dksX4_lastHeard_0 : cX4_lastHeard.data.toList.drop 0 = dktX4_lastHeard_0 := by decide +kernel
theorem dksX4_lastHeard_1 : cX4_lastHeard.data.toList.drop 24 = dktX4_lastHeard_1 := dk_seg dksX4_lastHeard_0 24 rfl rfl
theorem dksX4_lastHeard_2 : cX4_lastHeard.data.toList.drop 48 = dktX4_lastHeard_2 := dk_seg dksX4_lastHeard_1 24 rfl rfl
theorem dksX4_lastHeard_3 : cX4_lastHeard.data.toList.drop 72 = dktX4_lastHeard_3 := dk_seg dksX4_lastHeard_2 24 rfl rfl
theorem dksX4_lastHeard_4 : cX4_lastHeard.data.toList.drop 95 = dktX4_lastHeard_4 := dk_seg dksX4_lastHeard_3 23 rfl rfl
theorem dksX4_lastHeard_5 : cX4_lastHeard.data.toList.drop 118 = dktX4_lastHeard_5 := dk_seg dksX4_lastHeard_4 23 rfl rfl
theorem dksX4_lastHeard_6 : cX4_lastHeard.data.toList.drop 142 = dktX4_lastHeard_6 := dk_seg dksX4_lastHeard_5 24 rfl rfl
theorem dX4_lastHeard_0 : decode cX4_lastHeard 0 = .ok (.iconst 0, 1) := dk_3 (dk_at dksX4_lastHeard_0 0 rfl rfl)
theorem dX4_lastHeard_1 : decode cX4_lastHeard 1 = .ok (.istore_n 3, 1) := dk_62 (dk_at dksX4_lastHeard_0 1 rfl rfl)
theorem dX4_lastHeard_2 : decode cX4_lastHeard 2 = .ok (.aload_n 0, 1) := dk_42 (dk_at dksX4_lastHeard_0 2 rfl rfl)
theorem dX4_lastHeard_3 : decode cX4_lastHeard 3 = .ok (.getfield 97, 3) := dk_180 0 97 (dk_at dksX4_lastHeard_0 3 rfl rfl)
theorem dX4_lastHeard_6 : decode cX4_lastHeard 6 = .ok (.bipush 24, 2) := dk_16 24 (dk_at dksX4_lastHeard_0 6 rfl rfl)
theorem dX4_lastHeard_8 : decode cX4_lastHeard 8 = .ok (.iaload, 1) := dk_46 (dk_at dksX4_lastHeard_0 8 rfl rfl)
theorem dX4_lastHeard_9 : decode cX4_lastHeard 9 = .ok (.istore 4, 2) := dk_54 4 (dk_at dksX4_lastHeard_0 9 rfl rfl)
theorem dX4_lastHeard_11 : decode cX4_lastHeard 11 = .ok (.iconst 0, 1) := dk_3 (dk_at dksX4_lastHeard_0 11 rfl rfl)
theorem dX4_lastHeard_12 : decode cX4_lastHeard 12 = .ok (.istore 5, 2) := dk_54 5 (dk_at dksX4_lastHeard_0 12 rfl rfl)
theorem dX4_lastHeard_14 : decode cX4_lastHeard 14 = .ok (.iconst 0, 1) := dk_3 (dk_at dksX4_lastHeard_0 14 rfl rfl)
theorem dX4_lastHeard_15 : decode cX4_lastHeard 15 = .ok (.istore 6, 2) := dk_54 6 (dk_at dksX4_lastHeard_0 15 rfl rfl)
theorem dX4_lastHeard_17 : decode cX4_lastHeard 17 = .ok (.iload 6, 2) := dk_21 6 (dk_at dksX4_lastHeard_0 17 rfl rfl)
theorem dX4_lastHeard_19 : decode cX4_lastHeard 19 = .ok (.iload_n 2, 1) := dk_28 (dk_at dksX4_lastHeard_0 19 rfl rfl)
theorem dX4_lastHeard_20 : decode cX4_lastHeard 20 = .ok (.if_icmp .ge 131, 3) := dk_162 0 131 (dk_at dksX4_lastHeard_0 20 rfl rfl)
theorem dX4_lastHeard_23 : decode cX4_lastHeard 23 = .ok (.aload_n 0, 1) := dk_42 (dk_at dksX4_lastHeard_0 23 rfl rfl)
theorem dX4_lastHeard_24 : decode cX4_lastHeard 24 = .ok (.iload_n 1, 1) := dk_27 (dk_at dksX4_lastHeard_1 0 rfl rfl)
theorem dX4_lastHeard_25 : decode cX4_lastHeard 25 = .ok (.iload_n 2, 1) := dk_28 (dk_at dksX4_lastHeard_1 1 rfl rfl)
theorem dX4_lastHeard_26 : decode cX4_lastHeard 26 = .ok (.iload 6, 2) := dk_21 6 (dk_at dksX4_lastHeard_1 2 rfl rfl)
theorem dX4_lastHeard_28 : decode cX4_lastHeard 28 = .ok (.invokevirtual 475, 3) := dk_182 1 219 (dk_at dksX4_lastHeard_1 4 rfl rfl)
theorem dX4_lastHeard_31 : decode cX4_lastHeard 31 = .ok (.istore 7, 2) := dk_54 7 (dk_at dksX4_lastHeard_1 7 rfl rfl)
theorem dX4_lastHeard_33 : decode cX4_lastHeard 33 = .ok (.iload_n 3, 1) := dk_29 (dk_at dksX4_lastHeard_1 9 rfl rfl)
theorem dX4_lastHeard_34 : decode cX4_lastHeard 34 = .ok (.iload 7, 2) := dk_21 7 (dk_at dksX4_lastHeard_1 10 rfl rfl)
theorem dX4_lastHeard_36 : decode cX4_lastHeard 36 = .ok (.invokestatic 264, 3) := dk_184 1 8 (dk_at dksX4_lastHeard_1 12 rfl rfl)
theorem dX4_lastHeard_39 : decode cX4_lastHeard 39 = .ok (.ifCond .ne 12, 3) := dk_154 0 12 (dk_at dksX4_lastHeard_1 15 rfl rfl)
theorem dX4_lastHeard_42 : decode cX4_lastHeard 42 = .ok (.aload_n 0, 1) := dk_42 (dk_at dksX4_lastHeard_1 18 rfl rfl)
theorem dX4_lastHeard_43 : decode cX4_lastHeard 43 = .ok (.iload 7, 2) := dk_21 7 (dk_at dksX4_lastHeard_1 19 rfl rfl)
theorem dX4_lastHeard_45 : decode cX4_lastHeard 45 = .ok (.invokevirtual 413, 3) := dk_182 1 157 (dk_at dksX4_lastHeard_1 21 rfl rfl)
theorem dX4_lastHeard_48 : decode cX4_lastHeard 48 = .ok (.ifCond .ne 7, 3) := dk_154 0 7 (dk_at dksX4_lastHeard_2 0 rfl rfl)
theorem dX4_lastHeard_51 : decode cX4_lastHeard 51 = .ok (.sipush 1000, 3) := dk_17 3 232 (dk_at dksX4_lastHeard_2 3 rfl rfl)
theorem dX4_lastHeard_54 : decode cX4_lastHeard 54 = .ok (.ireturn, 1) := dk_172 (dk_at dksX4_lastHeard_2 6 rfl rfl)
theorem dX4_lastHeard_55 : decode cX4_lastHeard 55 = .ok (.aload_n 0, 1) := dk_42 (dk_at dksX4_lastHeard_2 7 rfl rfl)
theorem dX4_lastHeard_56 : decode cX4_lastHeard 56 = .ok (.getfield 112, 3) := dk_180 0 112 (dk_at dksX4_lastHeard_2 8 rfl rfl)
theorem dX4_lastHeard_59 : decode cX4_lastHeard 59 = .ok (.bipush 8, 2) := dk_16 8 (dk_at dksX4_lastHeard_2 11 rfl rfl)
theorem dX4_lastHeard_61 : decode cX4_lastHeard 61 = .ok (.iload 4, 2) := dk_21 4 (dk_at dksX4_lastHeard_2 13 rfl rfl)
theorem dX4_lastHeard_63 : decode cX4_lastHeard 63 = .ok (.imul, 1) := dk_104 (dk_at dksX4_lastHeard_2 15 rfl rfl)
theorem dX4_lastHeard_64 : decode cX4_lastHeard 64 = .ok (.aload_n 0, 1) := dk_42 (dk_at dksX4_lastHeard_2 16 rfl rfl)
theorem dX4_lastHeard_65 : decode cX4_lastHeard 65 = .ok (.iload 7, 2) := dk_21 7 (dk_at dksX4_lastHeard_2 17 rfl rfl)
theorem dX4_lastHeard_67 : decode cX4_lastHeard 67 = .ok (.invokevirtual 401, 3) := dk_182 1 145 (dk_at dksX4_lastHeard_2 19 rfl rfl)
theorem dX4_lastHeard_70 : decode cX4_lastHeard 70 = .ok (.iadd, 1) := dk_96 (dk_at dksX4_lastHeard_2 22 rfl rfl)
theorem dX4_lastHeard_71 : decode cX4_lastHeard 71 = .ok (.iaload, 1) := dk_46 (dk_at dksX4_lastHeard_2 23 rfl rfl)
theorem dX4_lastHeard_72 : decode cX4_lastHeard 72 = .ok (.istore 8, 2) := dk_54 8 (dk_at dksX4_lastHeard_3 0 rfl rfl)
theorem dX4_lastHeard_74 : decode cX4_lastHeard 74 = .ok (.iload 6, 2) := dk_21 6 (dk_at dksX4_lastHeard_3 2 rfl rfl)
theorem dX4_lastHeard_76 : decode cX4_lastHeard 76 = .ok (.ifCond .gt 14, 3) := dk_157 0 14 (dk_at dksX4_lastHeard_3 4 rfl rfl)
theorem dX4_lastHeard_79 : decode cX4_lastHeard 79 = .ok (.aload_n 0, 1) := dk_42 (dk_at dksX4_lastHeard_3 7 rfl rfl)
theorem dX4_lastHeard_80 : decode cX4_lastHeard 80 = .ok (.getfield 97, 3) := dk_180 0 97 (dk_at dksX4_lastHeard_3 8 rfl rfl)
theorem dX4_lastHeard_83 : decode cX4_lastHeard 83 = .ok (.bipush 26, 2) := dk_16 26 (dk_at dksX4_lastHeard_3 11 rfl rfl)
theorem dX4_lastHeard_85 : decode cX4_lastHeard 85 = .ok (.iaload, 1) := dk_46 (dk_at dksX4_lastHeard_3 13 rfl rfl)
theorem dX4_lastHeard_86 : decode cX4_lastHeard 86 = .ok (.iconst 1, 1) := dk_4 (dk_at dksX4_lastHeard_3 14 rfl rfl)
theorem dX4_lastHeard_87 : decode cX4_lastHeard 87 = .ok (.if_icmp .ne 7, 3) := dk_160 0 7 (dk_at dksX4_lastHeard_3 15 rfl rfl)
theorem dX4_lastHeard_90 : decode cX4_lastHeard 90 = .ok (.iconst 1, 1) := dk_4 (dk_at dksX4_lastHeard_3 18 rfl rfl)
theorem dX4_lastHeard_91 : decode cX4_lastHeard 91 = .ok (.goto 4, 3) := dk_167 0 4 (dk_at dksX4_lastHeard_3 19 rfl rfl)
theorem dX4_lastHeard_94 : decode cX4_lastHeard 94 = .ok (.iconst 0, 1) := dk_3 (dk_at dksX4_lastHeard_3 22 rfl rfl)
theorem dX4_lastHeard_95 : decode cX4_lastHeard 95 = .ok (.istore 9, 2) := dk_54 9 (dk_at dksX4_lastHeard_4 0 rfl rfl)
theorem dX4_lastHeard_97 : decode cX4_lastHeard 97 = .ok (.iload 5, 2) := dk_21 5 (dk_at dksX4_lastHeard_4 2 rfl rfl)
theorem dX4_lastHeard_99 : decode cX4_lastHeard 99 = .ok (.iload 9, 2) := dk_21 9 (dk_at dksX4_lastHeard_4 4 rfl rfl)
theorem dX4_lastHeard_101 : decode cX4_lastHeard 101 = .ok (.ifCond .eq 12, 3) := dk_153 0 12 (dk_at dksX4_lastHeard_4 6 rfl rfl)
theorem dX4_lastHeard_104 : decode cX4_lastHeard 104 = .ok (.iload 8, 2) := dk_21 8 (dk_at dksX4_lastHeard_4 9 rfl rfl)
theorem dX4_lastHeard_106 : decode cX4_lastHeard 106 = .ok (.ifCond .ne 7, 3) := dk_154 0 7 (dk_at dksX4_lastHeard_4 11 rfl rfl)
theorem dX4_lastHeard_109 : decode cX4_lastHeard 109 = .ok (.iconst 1, 1) := dk_4 (dk_at dksX4_lastHeard_4 14 rfl rfl)
theorem dX4_lastHeard_110 : decode cX4_lastHeard 110 = .ok (.goto 5, 3) := dk_167 0 5 (dk_at dksX4_lastHeard_4 15 rfl rfl)
theorem dX4_lastHeard_113 : decode cX4_lastHeard 113 = .ok (.iload 8, 2) := dk_21 8 (dk_at dksX4_lastHeard_4 18 rfl rfl)
theorem dX4_lastHeard_115 : decode cX4_lastHeard 115 = .ok (.iadd, 1) := dk_96 (dk_at dksX4_lastHeard_4 20 rfl rfl)
theorem dX4_lastHeard_116 : decode cX4_lastHeard 116 = .ok (.istore 5, 2) := dk_54 5 (dk_at dksX4_lastHeard_4 21 rfl rfl)
theorem dX4_lastHeard_118 : decode cX4_lastHeard 118 = .ok (.iload 8, 2) := dk_21 8 (dk_at dksX4_lastHeard_5 0 rfl rfl)
theorem dX4_lastHeard_120 : decode cX4_lastHeard 120 = .ok (.sipush 1000, 3) := dk_17 3 232 (dk_at dksX4_lastHeard_5 2 rfl rfl)
theorem dX4_lastHeard_123 : decode cX4_lastHeard 123 = .ok (.if_icmp .ne 7, 3) := dk_160 0 7 (dk_at dksX4_lastHeard_5 5 rfl rfl)
theorem dX4_lastHeard_126 : decode cX4_lastHeard 126 = .ok (.sipush 1000, 3) := dk_17 3 232 (dk_at dksX4_lastHeard_5 8 rfl rfl)
theorem dX4_lastHeard_129 : decode cX4_lastHeard 129 = .ok (.ireturn, 1) := dk_172 (dk_at dksX4_lastHeard_5 11 rfl rfl)
theorem dX4_lastHeard_130 : decode cX4_lastHeard 130 = .ok (.aload_n 0, 1) := dk_42 (dk_at dksX4_lastHeard_5 12 rfl rfl)
theorem dX4_lastHeard_131 : decode cX4_lastHeard 131 = .ok (.iload 7, 2) := dk_21 7 (dk_at dksX4_lastHeard_5 13 rfl rfl)
theorem dX4_lastHeard_133 : decode cX4_lastHeard 133 = .ok (.invokevirtual 401, 3) := dk_182 1 145 (dk_at dksX4_lastHeard_5 15 rfl rfl)
theorem dX4_lastHeard_136 : decode cX4_lastHeard 136 = .ok (.istore 4, 2) := dk_54 4 (dk_at dksX4_lastHeard_5 18 rfl rfl)
theorem dX4_lastHeard_138 : decode cX4_lastHeard 138 = .ok (.iload_n 3, 1) := dk_29 (dk_at dksX4_lastHeard_5 20 rfl rfl)
theorem dX4_lastHeard_139 : decode cX4_lastHeard 139 = .ok (.iconst 1, 1) := dk_4 (dk_at dksX4_lastHeard_5 21 rfl rfl)
theorem dX4_lastHeard_140 : decode cX4_lastHeard 140 = .ok (.iload 7, 2) := dk_21 7 (dk_at dksX4_lastHeard_5 22 rfl rfl)
theorem dX4_lastHeard_142 : decode cX4_lastHeard 142 = .ok (.ishl, 1) := dk_120 (dk_at dksX4_lastHeard_6 0 rfl rfl)
theorem dX4_lastHeard_143 : decode cX4_lastHeard 143 = .ok (.ior, 1) := dk_128 (dk_at dksX4_lastHeard_6 1 rfl rfl)
theorem dX4_lastHeard_144 : decode cX4_lastHeard 144 = .ok (.istore_n 3, 1) := dk_62 (dk_at dksX4_lastHeard_6 2 rfl rfl)
theorem dX4_lastHeard_145 : decode cX4_lastHeard 145 = .ok (.iinc 6 1, 3) := dk_132 6 1 (dk_at dksX4_lastHeard_6 3 rfl rfl)
theorem dX4_lastHeard_148 : decode cX4_lastHeard 148 = .ok (.goto (-131), 3) := dk_167 255 125 (dk_at dksX4_lastHeard_6 6 rfl rfl)
theorem dX4_lastHeard_151 : decode cX4_lastHeard 151 = .ok (.iload 5, 2) := dk_21 5 (dk_at dksX4_lastHeard_6 9 rfl rfl)
theorem dX4_lastHeard_153 : decode cX4_lastHeard 153 = .ok (.ireturn, 1) := dk_172 (dk_at dksX4_lastHeard_6 11 rfl rfl)
abbrev cX4_inOrder : ByteArray := prog_22_method_106_code
def yX4_inOrder : MethodName := ⟨RX4, "inOrder", "(III)I"⟩
def dkwX4_inOrder_0 : List UInt8 := [27, 42, 182, 1, 115, 28, 4, 100, 29, 100, 184, 1, 216, 108, 42, 182, 1, 115, 112, 172]
abbrev dktX4_inOrder_0 : List UInt8 := dkwX4_inOrder_0 ++ []
theorem dksX4_inOrder_0 : cX4_inOrder.data.toList.drop 0 = dktX4_inOrder_0 := by decide +kernel
theorem dX4_inOrder_0 : decode cX4_inOrder 0 = .ok (.iload_n 1, 1) := dk_27 (dk_at dksX4_inOrder_0 0 rfl rfl)
theorem dX4_inOrder_1 : decode cX4_inOrder 1 = .ok (.aload_n 0, 1) := dk_42 (dk_at dksX4_inOrder_0 1 rfl rfl)
theorem dX4_inOrder_2 : decode cX4_inOrder 2 = .ok (.invokevirtual 371, 3) := dk_182 1 115 (dk_at dksX4_inOrder_0 2 rfl rfl)
theorem dX4_inOrder_5 : decode cX4_inOrder 5 = .ok (.iload_n 2, 1) := dk_28 (dk_at dksX4_inOrder_0 5 rfl rfl)
theorem dX4_inOrder_6 : decode cX4_inOrder 6 = .ok (.iconst 1, 1) := dk_4 (dk_at dksX4_inOrder_0 6 rfl rfl)
theorem dX4_inOrder_7 : decode cX4_inOrder 7 = .ok (.isub, 1) := dk_100 (dk_at dksX4_inOrder_0 7 rfl rfl)
theorem dX4_inOrder_8 : decode cX4_inOrder 8 = .ok (.iload_n 3, 1) := dk_29 (dk_at dksX4_inOrder_0 8 rfl rfl)
theorem dX4_inOrder_9 : decode cX4_inOrder 9 = .ok (.isub, 1) := dk_100 (dk_at dksX4_inOrder_0 9 rfl rfl)
theorem dX4_inOrder_10 : decode cX4_inOrder 10 = .ok (.invokestatic 472, 3) := dk_184 1 216 (dk_at dksX4_inOrder_0 10 rfl rfl)
theorem dX4_inOrder_13 : decode cX4_inOrder 13 = .ok (.idiv, 1) := dk_108 (dk_at dksX4_inOrder_0 13 rfl rfl)
theorem dX4_inOrder_14 : decode cX4_inOrder 14 = .ok (.aload_n 0, 1) := dk_42 (dk_at dksX4_inOrder_0 14 rfl rfl)
theorem dX4_inOrder_15 : decode cX4_inOrder 15 = .ok (.invokevirtual 371, 3) := dk_182 1 115 (dk_at dksX4_inOrder_0 15 rfl rfl)
theorem dX4_inOrder_18 : decode cX4_inOrder 18 = .ok (.irem, 1) := dk_112 (dk_at dksX4_inOrder_0 18 rfl rfl)
theorem dX4_inOrder_19 : decode cX4_inOrder 19 = .ok (.ireturn, 1) := dk_172 (dk_at dksX4_inOrder_0 19 rfl rfl)
abbrev cX4_term : ByteArray := prog_22_method_109_code
def yX4_term : MethodName := ⟨RX4, "term", "(I)I"⟩
def dkwX4_term_3 : List UInt8 := [132, 2, 255, 167, 255, 217, 3, 172]
abbrev dktX4_term_3 : List UInt8 := dkwX4_term_3 ++ []
def dkwX4_term_2 : List UInt8 := [184, 1, 216, 162, 0, 21, 42, 29, 28, 182, 1, 222, 27, 163, 0, 5, 28, 172, 132, 3, 1, 167, 255, 229]
abbrev dktX4_term_2 : List UInt8 := dkwX4_term_2 ++ dktX4_term_3
def dkwX4_term_1 : List UInt8 := [182, 1, 210, 42, 182, 1, 186, 184, 1, 60, 61, 28, 158, 0, 41, 3, 62, 29, 42, 182, 1, 115, 28]
abbrev dktX4_term_1 : List UInt8 := dkwX4_term_1 ++ dktX4_term_2
def dkwX4_term_0 : List UInt8 := [27, 3, 16, 30, 184, 1, 118, 154, 0, 5, 2, 172, 42, 182, 1, 115, 154, 0, 5, 3, 172, 42]
abbrev dktX4_term_0 : List UInt8 := dkwX4_term_0 ++ dktX4_term_1
theorem dksX4_term_0 : cX4_term.data.toList.drop 0 = dktX4_term_0 := by decide +kernel
theorem dksX4_term_1 : cX4_term.data.toList.drop 22 = dktX4_term_1 := dk_seg dksX4_term_0 22 rfl rfl
theorem dksX4_term_2 : cX4_term.data.toList.drop 45 = dktX4_term_2 := dk_seg dksX4_term_1 23 rfl rfl
theorem dksX4_term_3 : cX4_term.data.toList.drop 69 = dktX4_term_3 := dk_seg dksX4_term_2 24 rfl rfl
theorem dX4_term_0 : decode cX4_term 0 = .ok (.iload_n 1, 1) := dk_27 (dk_at dksX4_term_0 0 rfl rfl)
theorem dX4_term_1 : decode cX4_term 1 = .ok (.iconst 0, 1) := dk_3 (dk_at dksX4_term_0 1 rfl rfl)
theorem dX4_term_2 : decode cX4_term 2 = .ok (.bipush 30, 2) := dk_16 30 (dk_at dksX4_term_0 2 rfl rfl)
theorem dX4_term_4 : decode cX4_term 4 = .ok (.invokestatic 374, 3) := dk_184 1 118 (dk_at dksX4_term_0 4 rfl rfl)
theorem dX4_term_7 : decode cX4_term 7 = .ok (.ifCond .ne 5, 3) := dk_154 0 5 (dk_at dksX4_term_0 7 rfl rfl)
theorem dX4_term_10 : decode cX4_term 10 = .ok (.iconst (-1), 1) := dk_2 (dk_at dksX4_term_0 10 rfl rfl)
theorem dX4_term_11 : decode cX4_term 11 = .ok (.ireturn, 1) := dk_172 (dk_at dksX4_term_0 11 rfl rfl)
theorem dX4_term_12 : decode cX4_term 12 = .ok (.aload_n 0, 1) := dk_42 (dk_at dksX4_term_0 12 rfl rfl)
theorem dX4_term_13 : decode cX4_term 13 = .ok (.invokevirtual 371, 3) := dk_182 1 115 (dk_at dksX4_term_0 13 rfl rfl)
theorem dX4_term_16 : decode cX4_term 16 = .ok (.ifCond .ne 5, 3) := dk_154 0 5 (dk_at dksX4_term_0 16 rfl rfl)
theorem dX4_term_19 : decode cX4_term 19 = .ok (.iconst 0, 1) := dk_3 (dk_at dksX4_term_0 19 rfl rfl)
theorem dX4_term_20 : decode cX4_term 20 = .ok (.ireturn, 1) := dk_172 (dk_at dksX4_term_0 20 rfl rfl)
theorem dX4_term_21 : decode cX4_term 21 = .ok (.aload_n 0, 1) := dk_42 (dk_at dksX4_term_0 21 rfl rfl)
theorem dX4_term_22 : decode cX4_term 22 = .ok (.invokevirtual 466, 3) := dk_182 1 210 (dk_at dksX4_term_1 0 rfl rfl)
theorem dX4_term_25 : decode cX4_term 25 = .ok (.aload_n 0, 1) := dk_42 (dk_at dksX4_term_1 3 rfl rfl)
theorem dX4_term_26 : decode cX4_term 26 = .ok (.invokevirtual 442, 3) := dk_182 1 186 (dk_at dksX4_term_1 4 rfl rfl)
theorem dX4_term_29 : decode cX4_term 29 = .ok (.invokestatic 316, 3) := dk_184 1 60 (dk_at dksX4_term_1 7 rfl rfl)
theorem dX4_term_32 : decode cX4_term 32 = .ok (.istore_n 2, 1) := dk_61 (dk_at dksX4_term_1 10 rfl rfl)
theorem dX4_term_33 : decode cX4_term 33 = .ok (.iload_n 2, 1) := dk_28 (dk_at dksX4_term_1 11 rfl rfl)
theorem dX4_term_34 : decode cX4_term 34 = .ok (.ifCond .le 41, 3) := dk_158 0 41 (dk_at dksX4_term_1 12 rfl rfl)
theorem dX4_term_37 : decode cX4_term 37 = .ok (.iconst 0, 1) := dk_3 (dk_at dksX4_term_1 15 rfl rfl)
theorem dX4_term_38 : decode cX4_term 38 = .ok (.istore_n 3, 1) := dk_62 (dk_at dksX4_term_1 16 rfl rfl)
theorem dX4_term_39 : decode cX4_term 39 = .ok (.iload_n 3, 1) := dk_29 (dk_at dksX4_term_1 17 rfl rfl)
theorem dX4_term_40 : decode cX4_term 40 = .ok (.aload_n 0, 1) := dk_42 (dk_at dksX4_term_1 18 rfl rfl)
theorem dX4_term_41 : decode cX4_term 41 = .ok (.invokevirtual 371, 3) := dk_182 1 115 (dk_at dksX4_term_1 19 rfl rfl)
theorem dX4_term_44 : decode cX4_term 44 = .ok (.iload_n 2, 1) := dk_28 (dk_at dksX4_term_1 22 rfl rfl)
theorem dX4_term_45 : decode cX4_term 45 = .ok (.invokestatic 472, 3) := dk_184 1 216 (dk_at dksX4_term_2 0 rfl rfl)
theorem dX4_term_48 : decode cX4_term 48 = .ok (.if_icmp .ge 21, 3) := dk_162 0 21 (dk_at dksX4_term_2 3 rfl rfl)
theorem dX4_term_51 : decode cX4_term 51 = .ok (.aload_n 0, 1) := dk_42 (dk_at dksX4_term_2 6 rfl rfl)
theorem dX4_term_52 : decode cX4_term 52 = .ok (.iload_n 3, 1) := dk_29 (dk_at dksX4_term_2 7 rfl rfl)
theorem dX4_term_53 : decode cX4_term 53 = .ok (.iload_n 2, 1) := dk_28 (dk_at dksX4_term_2 8 rfl rfl)
theorem dX4_term_54 : decode cX4_term 54 = .ok (.invokevirtual 478, 3) := dk_182 1 222 (dk_at dksX4_term_2 9 rfl rfl)
theorem dX4_term_57 : decode cX4_term 57 = .ok (.iload_n 1, 1) := dk_27 (dk_at dksX4_term_2 12 rfl rfl)
theorem dX4_term_58 : decode cX4_term 58 = .ok (.if_icmp .gt 5, 3) := dk_163 0 5 (dk_at dksX4_term_2 13 rfl rfl)
theorem dX4_term_61 : decode cX4_term 61 = .ok (.iload_n 2, 1) := dk_28 (dk_at dksX4_term_2 16 rfl rfl)
theorem dX4_term_62 : decode cX4_term 62 = .ok (.ireturn, 1) := dk_172 (dk_at dksX4_term_2 17 rfl rfl)
theorem dX4_term_63 : decode cX4_term 63 = .ok (.iinc 3 1, 3) := dk_132 3 1 (dk_at dksX4_term_2 18 rfl rfl)
theorem dX4_term_66 : decode cX4_term 66 = .ok (.goto (-27), 3) := dk_167 255 229 (dk_at dksX4_term_2 21 rfl rfl)
theorem dX4_term_69 : decode cX4_term 69 = .ok (.iinc 2 (-1), 3) := dk_132 2 255 (dk_at dksX4_term_3 0 rfl rfl)
theorem dX4_term_72 : decode cX4_term 72 = .ok (.goto (-39), 3) := dk_167 255 217 (dk_at dksX4_term_3 3 rfl rfl)
theorem dX4_term_75 : decode cX4_term 75 = .ok (.iconst 0, 1) := dk_3 (dk_at dksX4_term_3 6 rfl rfl)
theorem dX4_term_76 : decode cX4_term 76 = .ok (.ireturn, 1) := dk_172 (dk_at dksX4_term_3 7 rfl rfl)
abbrev cX4_odds : ByteArray := prog_22_method_110_code
def yX4_odds : MethodName := ⟨RX4, "odds", "(II)I"⟩
def dkwX4_odds_2 : List UInt8 := [154, 0, 7, 29, 167, 0, 5, 21, 4, 21, 4, 29, 184, 1, 225, 108, 172]
abbrev dktX4_odds_2 : List UInt8 := dkwX4_odds_2 ++ []
def dkwX4_odds_1 : List UInt8 := [180, 0, 39, 42, 180, 0, 255, 46, 100, 27, 184, 1, 216, 62, 16, 100, 27, 184, 1, 216, 54, 4, 28]
abbrev dktX4_odds_1 : List UInt8 := dkwX4_odds_1 ++ dktX4_odds_2
def dkwX4_odds_0 : List UInt8 := [27, 3, 7, 184, 1, 118, 153, 0, 12, 28, 3, 4, 184, 1, 118, 154, 0, 5, 2, 172, 16, 100, 42]
abbrev dktX4_odds_0 : List UInt8 := dkwX4_odds_0 ++ dktX4_odds_1
theorem dksX4_odds_0 : cX4_odds.data.toList.drop 0 = dktX4_odds_0 := by decide +kernel
theorem dksX4_odds_1 : cX4_odds.data.toList.drop 23 = dktX4_odds_1 := dk_seg dksX4_odds_0 23 rfl rfl
theorem dksX4_odds_2 : cX4_odds.data.toList.drop 46 = dktX4_odds_2 := dk_seg dksX4_odds_1 23 rfl rfl
theorem dX4_odds_0 : decode cX4_odds 0 = .ok (.iload_n 1, 1) := dk_27 (dk_at dksX4_odds_0 0 rfl rfl)
theorem dX4_odds_1 : decode cX4_odds 1 = .ok (.iconst 0, 1) := dk_3 (dk_at dksX4_odds_0 1 rfl rfl)
theorem dX4_odds_2 : decode cX4_odds 2 = .ok (.iconst 4, 1) := dk_7 (dk_at dksX4_odds_0 2 rfl rfl)
theorem dX4_odds_3 : decode cX4_odds 3 = .ok (.invokestatic 374, 3) := dk_184 1 118 (dk_at dksX4_odds_0 3 rfl rfl)
theorem dX4_odds_6 : decode cX4_odds 6 = .ok (.ifCond .eq 12, 3) := dk_153 0 12 (dk_at dksX4_odds_0 6 rfl rfl)
theorem dX4_odds_9 : decode cX4_odds 9 = .ok (.iload_n 2, 1) := dk_28 (dk_at dksX4_odds_0 9 rfl rfl)
theorem dX4_odds_10 : decode cX4_odds 10 = .ok (.iconst 0, 1) := dk_3 (dk_at dksX4_odds_0 10 rfl rfl)
theorem dX4_odds_11 : decode cX4_odds 11 = .ok (.iconst 1, 1) := dk_4 (dk_at dksX4_odds_0 11 rfl rfl)
theorem dX4_odds_12 : decode cX4_odds 12 = .ok (.invokestatic 374, 3) := dk_184 1 118 (dk_at dksX4_odds_0 12 rfl rfl)
theorem dX4_odds_15 : decode cX4_odds 15 = .ok (.ifCond .ne 5, 3) := dk_154 0 5 (dk_at dksX4_odds_0 15 rfl rfl)
theorem dX4_odds_18 : decode cX4_odds 18 = .ok (.iconst (-1), 1) := dk_2 (dk_at dksX4_odds_0 18 rfl rfl)
theorem dX4_odds_19 : decode cX4_odds 19 = .ok (.ireturn, 1) := dk_172 (dk_at dksX4_odds_0 19 rfl rfl)
theorem dX4_odds_20 : decode cX4_odds 20 = .ok (.bipush 100, 2) := dk_16 100 (dk_at dksX4_odds_0 20 rfl rfl)
theorem dX4_odds_22 : decode cX4_odds 22 = .ok (.aload_n 0, 1) := dk_42 (dk_at dksX4_odds_0 22 rfl rfl)
theorem dX4_odds_23 : decode cX4_odds 23 = .ok (.getfield 39, 3) := dk_180 0 39 (dk_at dksX4_odds_1 0 rfl rfl)
theorem dX4_odds_26 : decode cX4_odds 26 = .ok (.aload_n 0, 1) := dk_42 (dk_at dksX4_odds_1 3 rfl rfl)
theorem dX4_odds_27 : decode cX4_odds 27 = .ok (.getfield 255, 3) := dk_180 0 255 (dk_at dksX4_odds_1 4 rfl rfl)
theorem dX4_odds_30 : decode cX4_odds 30 = .ok (.iaload, 1) := dk_46 (dk_at dksX4_odds_1 7 rfl rfl)
theorem dX4_odds_31 : decode cX4_odds 31 = .ok (.isub, 1) := dk_100 (dk_at dksX4_odds_1 8 rfl rfl)
theorem dX4_odds_32 : decode cX4_odds 32 = .ok (.iload_n 1, 1) := dk_27 (dk_at dksX4_odds_1 9 rfl rfl)
theorem dX4_odds_33 : decode cX4_odds 33 = .ok (.invokestatic 472, 3) := dk_184 1 216 (dk_at dksX4_odds_1 10 rfl rfl)
theorem dX4_odds_36 : decode cX4_odds 36 = .ok (.istore_n 3, 1) := dk_62 (dk_at dksX4_odds_1 13 rfl rfl)
theorem dX4_odds_37 : decode cX4_odds 37 = .ok (.bipush 100, 2) := dk_16 100 (dk_at dksX4_odds_1 14 rfl rfl)
theorem dX4_odds_39 : decode cX4_odds 39 = .ok (.iload_n 1, 1) := dk_27 (dk_at dksX4_odds_1 16 rfl rfl)
theorem dX4_odds_40 : decode cX4_odds 40 = .ok (.invokestatic 472, 3) := dk_184 1 216 (dk_at dksX4_odds_1 17 rfl rfl)
theorem dX4_odds_43 : decode cX4_odds 43 = .ok (.istore 4, 2) := dk_54 4 (dk_at dksX4_odds_1 20 rfl rfl)
theorem dX4_odds_45 : decode cX4_odds 45 = .ok (.iload_n 2, 1) := dk_28 (dk_at dksX4_odds_1 22 rfl rfl)
theorem dX4_odds_46 : decode cX4_odds 46 = .ok (.ifCond .ne 7, 3) := dk_154 0 7 (dk_at dksX4_odds_2 0 rfl rfl)
theorem dX4_odds_49 : decode cX4_odds 49 = .ok (.iload_n 3, 1) := dk_29 (dk_at dksX4_odds_2 3 rfl rfl)
theorem dX4_odds_50 : decode cX4_odds 50 = .ok (.goto 5, 3) := dk_167 0 5 (dk_at dksX4_odds_2 4 rfl rfl)
theorem dX4_odds_53 : decode cX4_odds 53 = .ok (.iload 4, 2) := dk_21 4 (dk_at dksX4_odds_2 7 rfl rfl)
theorem dX4_odds_55 : decode cX4_odds 55 = .ok (.iload 4, 2) := dk_21 4 (dk_at dksX4_odds_2 9 rfl rfl)
theorem dX4_odds_57 : decode cX4_odds 57 = .ok (.iload_n 3, 1) := dk_29 (dk_at dksX4_odds_2 11 rfl rfl)
theorem dX4_odds_58 : decode cX4_odds 58 = .ok (.invokestatic 481, 3) := dk_184 1 225 (dk_at dksX4_odds_2 12 rfl rfl)
theorem dX4_odds_61 : decode cX4_odds 61 = .ok (.idiv, 1) := dk_108 (dk_at dksX4_odds_2 15 rfl rfl)
theorem dX4_odds_62 : decode cX4_odds 62 = .ok (.ireturn, 1) := dk_172 (dk_at dksX4_odds_2 16 rfl rfl)
abbrev cX4_divisor : ByteArray := prog_22_method_44_code
def yX4_divisor : MethodName := ⟨RX4, "divisor", "(II)I"⟩
def dkwX4_divisor_0 : List UInt8 := [26, 61, 27, 62, 29, 158, 0, 16, 28, 29, 112, 54, 4, 29, 61, 21, 4, 62, 167, 255, 242, 28, 172]
abbrev dktX4_divisor_0 : List UInt8 := dkwX4_divisor_0 ++ []
theorem dksX4_divisor_0 : cX4_divisor.data.toList.drop 0 = dktX4_divisor_0 := by decide +kernel
theorem dX4_divisor_0 : decode cX4_divisor 0 = .ok (.iload_n 0, 1) := dk_26 (dk_at dksX4_divisor_0 0 rfl rfl)
theorem dX4_divisor_1 : decode cX4_divisor 1 = .ok (.istore_n 2, 1) := dk_61 (dk_at dksX4_divisor_0 1 rfl rfl)
theorem dX4_divisor_2 : decode cX4_divisor 2 = .ok (.iload_n 1, 1) := dk_27 (dk_at dksX4_divisor_0 2 rfl rfl)
theorem dX4_divisor_3 : decode cX4_divisor 3 = .ok (.istore_n 3, 1) := dk_62 (dk_at dksX4_divisor_0 3 rfl rfl)
theorem dX4_divisor_4 : decode cX4_divisor 4 = .ok (.iload_n 3, 1) := dk_29 (dk_at dksX4_divisor_0 4 rfl rfl)
theorem dX4_divisor_5 : decode cX4_divisor 5 = .ok (.ifCond .le 16, 3) := dk_158 0 16 (dk_at dksX4_divisor_0 5 rfl rfl)
theorem dX4_divisor_8 : decode cX4_divisor 8 = .ok (.iload_n 2, 1) := dk_28 (dk_at dksX4_divisor_0 8 rfl rfl)
theorem dX4_divisor_9 : decode cX4_divisor 9 = .ok (.iload_n 3, 1) := dk_29 (dk_at dksX4_divisor_0 9 rfl rfl)
theorem dX4_divisor_10 : decode cX4_divisor 10 = .ok (.irem, 1) := dk_112 (dk_at dksX4_divisor_0 10 rfl rfl)
theorem dX4_divisor_11 : decode cX4_divisor 11 = .ok (.istore 4, 2) := dk_54 4 (dk_at dksX4_divisor_0 11 rfl rfl)
theorem dX4_divisor_13 : decode cX4_divisor 13 = .ok (.iload_n 3, 1) := dk_29 (dk_at dksX4_divisor_0 13 rfl rfl)
theorem dX4_divisor_14 : decode cX4_divisor 14 = .ok (.istore_n 2, 1) := dk_61 (dk_at dksX4_divisor_0 14 rfl rfl)
theorem dX4_divisor_15 : decode cX4_divisor 15 = .ok (.iload 4, 2) := dk_21 4 (dk_at dksX4_divisor_0 15 rfl rfl)
theorem dX4_divisor_17 : decode cX4_divisor 17 = .ok (.istore_n 3, 1) := dk_62 (dk_at dksX4_divisor_0 17 rfl rfl)
theorem dX4_divisor_18 : decode cX4_divisor 18 = .ok (.goto (-14), 3) := dk_167 255 242 (dk_at dksX4_divisor_0 18 rfl rfl)
theorem dX4_divisor_21 : decode cX4_divisor 21 = .ok (.iload_n 2, 1) := dk_28 (dk_at dksX4_divisor_0 21 rfl rfl)
theorem dX4_divisor_22 : decode cX4_divisor 22 = .ok (.ireturn, 1) := dk_172 (dk_at dksX4_divisor_0 22 rfl rfl)
abbrev cX4_heard : ByteArray := prog_22_method_111_code
def yX4_heard : MethodName := ⟨RX4, "heard", "(IIZ)I"⟩
def dkwX4_heard_5 : List UInt8 := [100, 172]
abbrev dktX4_heard_5 : List UInt8 := dkwX4_heard_5 ++ []
def dkwX4_heard_4 : List UInt8 := [180, 0, 130, 42, 180, 1, 139, 2, 79, 42, 89, 180, 1, 139, 4, 96, 181, 1, 139, 42, 180, 1, 139, 4]
abbrev dktX4_heard_4 : List UInt8 := dkwX4_heard_4 ++ dktX4_heard_5
def dkwX4_heard_3 : List UInt8 := [153, 0, 7, 4, 167, 0, 4, 3, 79, 42, 180, 0, 127, 42, 180, 1, 139, 42, 180, 1, 228, 79, 42]
abbrev dktX4_heard_3 : List UInt8 := dkwX4_heard_3 ++ dktX4_heard_4
def dkwX4_heard_2 : List UInt8 := [180, 1, 139, 27, 79, 42, 180, 0, 121, 42, 180, 1, 139, 28, 79, 42, 180, 0, 124, 42, 180, 1, 139, 29]
abbrev dktX4_heard_2 : List UInt8 := dkwX4_heard_2 ++ dktX4_heard_3
def dkwX4_heard_1 : List UInt8 := [180, 1, 139, 16, 30, 159, 0, 10, 42, 182, 1, 121, 154, 0, 5, 2, 172, 42, 180, 0, 118, 42]
abbrev dktX4_heard_1 : List UInt8 := dkwX4_heard_1 ++ dktX4_heard_2
def dkwX4_heard_0 : List UInt8 := [42, 27, 182, 1, 127, 153, 0, 32, 28, 17, 216, 241, 17, 39, 15, 184, 1, 118, 153, 0, 19, 42]
abbrev dktX4_heard_0 : List UInt8 := dkwX4_heard_0 ++ dktX4_heard_1
theorem dksX4_heard_0 : cX4_heard.data.toList.drop 0 = dktX4_heard_0 := by decide +kernel
theorem dksX4_heard_1 : cX4_heard.data.toList.drop 22 = dktX4_heard_1 := dk_seg dksX4_heard_0 22 rfl rfl
theorem dksX4_heard_2 : cX4_heard.data.toList.drop 44 = dktX4_heard_2 := dk_seg dksX4_heard_1 22 rfl rfl
theorem dksX4_heard_3 : cX4_heard.data.toList.drop 68 = dktX4_heard_3 := dk_seg dksX4_heard_2 24 rfl rfl
theorem dksX4_heard_4 : cX4_heard.data.toList.drop 91 = dktX4_heard_4 := dk_seg dksX4_heard_3 23 rfl rfl
theorem dksX4_heard_5 : cX4_heard.data.toList.drop 115 = dktX4_heard_5 := dk_seg dksX4_heard_4 24 rfl rfl
theorem dX4_heard_0 : decode cX4_heard 0 = .ok (.aload_n 0, 1) := dk_42 (dk_at dksX4_heard_0 0 rfl rfl)
theorem dX4_heard_1 : decode cX4_heard 1 = .ok (.iload_n 1, 1) := dk_27 (dk_at dksX4_heard_0 1 rfl rfl)
theorem dX4_heard_2 : decode cX4_heard 2 = .ok (.invokevirtual 383, 3) := dk_182 1 127 (dk_at dksX4_heard_0 2 rfl rfl)
theorem dX4_heard_5 : decode cX4_heard 5 = .ok (.ifCond .eq 32, 3) := dk_153 0 32 (dk_at dksX4_heard_0 5 rfl rfl)
theorem dX4_heard_8 : decode cX4_heard 8 = .ok (.iload_n 2, 1) := dk_28 (dk_at dksX4_heard_0 8 rfl rfl)
theorem dX4_heard_9 : decode cX4_heard 9 = .ok (.sipush (-9999), 3) := dk_17 216 241 (dk_at dksX4_heard_0 9 rfl rfl)
theorem dX4_heard_12 : decode cX4_heard 12 = .ok (.sipush 9999, 3) := dk_17 39 15 (dk_at dksX4_heard_0 12 rfl rfl)
theorem dX4_heard_15 : decode cX4_heard 15 = .ok (.invokestatic 374, 3) := dk_184 1 118 (dk_at dksX4_heard_0 15 rfl rfl)
theorem dX4_heard_18 : decode cX4_heard 18 = .ok (.ifCond .eq 19, 3) := dk_153 0 19 (dk_at dksX4_heard_0 18 rfl rfl)
theorem dX4_heard_21 : decode cX4_heard 21 = .ok (.aload_n 0, 1) := dk_42 (dk_at dksX4_heard_0 21 rfl rfl)
theorem dX4_heard_22 : decode cX4_heard 22 = .ok (.getfield 395, 3) := dk_180 1 139 (dk_at dksX4_heard_1 0 rfl rfl)
theorem dX4_heard_25 : decode cX4_heard 25 = .ok (.bipush 30, 2) := dk_16 30 (dk_at dksX4_heard_1 3 rfl rfl)
theorem dX4_heard_27 : decode cX4_heard 27 = .ok (.if_icmp .eq 10, 3) := dk_159 0 10 (dk_at dksX4_heard_1 5 rfl rfl)
theorem dX4_heard_30 : decode cX4_heard 30 = .ok (.aload_n 0, 1) := dk_42 (dk_at dksX4_heard_1 8 rfl rfl)
theorem dX4_heard_31 : decode cX4_heard 31 = .ok (.invokevirtual 377, 3) := dk_182 1 121 (dk_at dksX4_heard_1 9 rfl rfl)
theorem dX4_heard_34 : decode cX4_heard 34 = .ok (.ifCond .ne 5, 3) := dk_154 0 5 (dk_at dksX4_heard_1 12 rfl rfl)
theorem dX4_heard_37 : decode cX4_heard 37 = .ok (.iconst (-1), 1) := dk_2 (dk_at dksX4_heard_1 15 rfl rfl)
theorem dX4_heard_38 : decode cX4_heard 38 = .ok (.ireturn, 1) := dk_172 (dk_at dksX4_heard_1 16 rfl rfl)
theorem dX4_heard_39 : decode cX4_heard 39 = .ok (.aload_n 0, 1) := dk_42 (dk_at dksX4_heard_1 17 rfl rfl)
theorem dX4_heard_40 : decode cX4_heard 40 = .ok (.getfield 118, 3) := dk_180 0 118 (dk_at dksX4_heard_1 18 rfl rfl)
theorem dX4_heard_43 : decode cX4_heard 43 = .ok (.aload_n 0, 1) := dk_42 (dk_at dksX4_heard_1 21 rfl rfl)
theorem dX4_heard_44 : decode cX4_heard 44 = .ok (.getfield 395, 3) := dk_180 1 139 (dk_at dksX4_heard_2 0 rfl rfl)
theorem dX4_heard_47 : decode cX4_heard 47 = .ok (.iload_n 1, 1) := dk_27 (dk_at dksX4_heard_2 3 rfl rfl)
theorem dX4_heard_48 : decode cX4_heard 48 = .ok (.iastore, 1) := dk_79 (dk_at dksX4_heard_2 4 rfl rfl)
theorem dX4_heard_49 : decode cX4_heard 49 = .ok (.aload_n 0, 1) := dk_42 (dk_at dksX4_heard_2 5 rfl rfl)
theorem dX4_heard_50 : decode cX4_heard 50 = .ok (.getfield 121, 3) := dk_180 0 121 (dk_at dksX4_heard_2 6 rfl rfl)
theorem dX4_heard_53 : decode cX4_heard 53 = .ok (.aload_n 0, 1) := dk_42 (dk_at dksX4_heard_2 9 rfl rfl)
theorem dX4_heard_54 : decode cX4_heard 54 = .ok (.getfield 395, 3) := dk_180 1 139 (dk_at dksX4_heard_2 10 rfl rfl)
theorem dX4_heard_57 : decode cX4_heard 57 = .ok (.iload_n 2, 1) := dk_28 (dk_at dksX4_heard_2 13 rfl rfl)
theorem dX4_heard_58 : decode cX4_heard 58 = .ok (.iastore, 1) := dk_79 (dk_at dksX4_heard_2 14 rfl rfl)
theorem dX4_heard_59 : decode cX4_heard 59 = .ok (.aload_n 0, 1) := dk_42 (dk_at dksX4_heard_2 15 rfl rfl)
theorem dX4_heard_60 : decode cX4_heard 60 = .ok (.getfield 124, 3) := dk_180 0 124 (dk_at dksX4_heard_2 16 rfl rfl)
theorem dX4_heard_63 : decode cX4_heard 63 = .ok (.aload_n 0, 1) := dk_42 (dk_at dksX4_heard_2 19 rfl rfl)
theorem dX4_heard_64 : decode cX4_heard 64 = .ok (.getfield 395, 3) := dk_180 1 139 (dk_at dksX4_heard_2 20 rfl rfl)
theorem dX4_heard_67 : decode cX4_heard 67 = .ok (.iload_n 3, 1) := dk_29 (dk_at dksX4_heard_2 23 rfl rfl)
theorem dX4_heard_68 : decode cX4_heard 68 = .ok (.ifCond .eq 7, 3) := dk_153 0 7 (dk_at dksX4_heard_3 0 rfl rfl)
theorem dX4_heard_71 : decode cX4_heard 71 = .ok (.iconst 1, 1) := dk_4 (dk_at dksX4_heard_3 3 rfl rfl)
theorem dX4_heard_72 : decode cX4_heard 72 = .ok (.goto 4, 3) := dk_167 0 4 (dk_at dksX4_heard_3 4 rfl rfl)
theorem dX4_heard_75 : decode cX4_heard 75 = .ok (.iconst 0, 1) := dk_3 (dk_at dksX4_heard_3 7 rfl rfl)
theorem dX4_heard_76 : decode cX4_heard 76 = .ok (.iastore, 1) := dk_79 (dk_at dksX4_heard_3 8 rfl rfl)
theorem dX4_heard_77 : decode cX4_heard 77 = .ok (.aload_n 0, 1) := dk_42 (dk_at dksX4_heard_3 9 rfl rfl)
theorem dX4_heard_78 : decode cX4_heard 78 = .ok (.getfield 127, 3) := dk_180 0 127 (dk_at dksX4_heard_3 10 rfl rfl)
theorem dX4_heard_81 : decode cX4_heard 81 = .ok (.aload_n 0, 1) := dk_42 (dk_at dksX4_heard_3 13 rfl rfl)
theorem dX4_heard_82 : decode cX4_heard 82 = .ok (.getfield 395, 3) := dk_180 1 139 (dk_at dksX4_heard_3 14 rfl rfl)
theorem dX4_heard_85 : decode cX4_heard 85 = .ok (.aload_n 0, 1) := dk_42 (dk_at dksX4_heard_3 17 rfl rfl)
theorem dX4_heard_86 : decode cX4_heard 86 = .ok (.getfield 484, 3) := dk_180 1 228 (dk_at dksX4_heard_3 18 rfl rfl)
theorem dX4_heard_89 : decode cX4_heard 89 = .ok (.iastore, 1) := dk_79 (dk_at dksX4_heard_3 21 rfl rfl)
theorem dX4_heard_90 : decode cX4_heard 90 = .ok (.aload_n 0, 1) := dk_42 (dk_at dksX4_heard_3 22 rfl rfl)
theorem dX4_heard_91 : decode cX4_heard 91 = .ok (.getfield 130, 3) := dk_180 0 130 (dk_at dksX4_heard_4 0 rfl rfl)
theorem dX4_heard_94 : decode cX4_heard 94 = .ok (.aload_n 0, 1) := dk_42 (dk_at dksX4_heard_4 3 rfl rfl)
theorem dX4_heard_95 : decode cX4_heard 95 = .ok (.getfield 395, 3) := dk_180 1 139 (dk_at dksX4_heard_4 4 rfl rfl)
theorem dX4_heard_98 : decode cX4_heard 98 = .ok (.iconst (-1), 1) := dk_2 (dk_at dksX4_heard_4 7 rfl rfl)
theorem dX4_heard_99 : decode cX4_heard 99 = .ok (.iastore, 1) := dk_79 (dk_at dksX4_heard_4 8 rfl rfl)
theorem dX4_heard_100 : decode cX4_heard 100 = .ok (.aload_n 0, 1) := dk_42 (dk_at dksX4_heard_4 9 rfl rfl)
theorem dX4_heard_101 : decode cX4_heard 101 = .ok (.dup, 1) := dk_89 (dk_at dksX4_heard_4 10 rfl rfl)
theorem dX4_heard_102 : decode cX4_heard 102 = .ok (.getfield 395, 3) := dk_180 1 139 (dk_at dksX4_heard_4 11 rfl rfl)
theorem dX4_heard_105 : decode cX4_heard 105 = .ok (.iconst 1, 1) := dk_4 (dk_at dksX4_heard_4 14 rfl rfl)
theorem dX4_heard_106 : decode cX4_heard 106 = .ok (.iadd, 1) := dk_96 (dk_at dksX4_heard_4 15 rfl rfl)
theorem dX4_heard_107 : decode cX4_heard 107 = .ok (.putfield 395, 3) := dk_181 1 139 (dk_at dksX4_heard_4 16 rfl rfl)
theorem dX4_heard_110 : decode cX4_heard 110 = .ok (.aload_n 0, 1) := dk_42 (dk_at dksX4_heard_4 19 rfl rfl)
theorem dX4_heard_111 : decode cX4_heard 111 = .ok (.getfield 395, 3) := dk_180 1 139 (dk_at dksX4_heard_4 20 rfl rfl)
theorem dX4_heard_114 : decode cX4_heard 114 = .ok (.iconst 1, 1) := dk_4 (dk_at dksX4_heard_4 23 rfl rfl)
theorem dX4_heard_115 : decode cX4_heard 115 = .ok (.isub, 1) := dk_100 (dk_at dksX4_heard_5 0 rfl rfl)
theorem dX4_heard_116 : decode cX4_heard 116 = .ok (.ireturn, 1) := dk_172 (dk_at dksX4_heard_5 1 rfl rfl)
abbrev cX4_untell : ByteArray := prog_22_method_112_code
def yX4_untell : MethodName := ⟨RX4, "untell", "(I)Z"⟩
def dkwX4_untell_1 : List UInt8 := [172, 42, 180, 0, 130, 27, 42, 180, 1, 228, 79, 4, 172]
abbrev dktX4_untell_1 : List UInt8 := dkwX4_untell_1 ++ []
def dkwX4_untell_0 : List UInt8 := [27, 3, 42, 180, 1, 139, 4, 100, 184, 1, 118, 153, 0, 12, 42, 180, 0, 130, 27, 46, 155, 0, 5, 3]
abbrev dktX4_untell_0 : List UInt8 := dkwX4_untell_0 ++ dktX4_untell_1
theorem dksX4_untell_0 : cX4_untell.data.toList.drop 0 = dktX4_untell_0 := by decide +kernel
theorem dksX4_untell_1 : cX4_untell.data.toList.drop 24 = dktX4_untell_1 := dk_seg dksX4_untell_0 24 rfl rfl
theorem dX4_untell_0 : decode cX4_untell 0 = .ok (.iload_n 1, 1) := dk_27 (dk_at dksX4_untell_0 0 rfl rfl)
theorem dX4_untell_1 : decode cX4_untell 1 = .ok (.iconst 0, 1) := dk_3 (dk_at dksX4_untell_0 1 rfl rfl)
theorem dX4_untell_2 : decode cX4_untell 2 = .ok (.aload_n 0, 1) := dk_42 (dk_at dksX4_untell_0 2 rfl rfl)
theorem dX4_untell_3 : decode cX4_untell 3 = .ok (.getfield 395, 3) := dk_180 1 139 (dk_at dksX4_untell_0 3 rfl rfl)
theorem dX4_untell_6 : decode cX4_untell 6 = .ok (.iconst 1, 1) := dk_4 (dk_at dksX4_untell_0 6 rfl rfl)
theorem dX4_untell_7 : decode cX4_untell 7 = .ok (.isub, 1) := dk_100 (dk_at dksX4_untell_0 7 rfl rfl)
theorem dX4_untell_8 : decode cX4_untell 8 = .ok (.invokestatic 374, 3) := dk_184 1 118 (dk_at dksX4_untell_0 8 rfl rfl)
theorem dX4_untell_11 : decode cX4_untell 11 = .ok (.ifCond .eq 12, 3) := dk_153 0 12 (dk_at dksX4_untell_0 11 rfl rfl)
theorem dX4_untell_14 : decode cX4_untell 14 = .ok (.aload_n 0, 1) := dk_42 (dk_at dksX4_untell_0 14 rfl rfl)
theorem dX4_untell_15 : decode cX4_untell 15 = .ok (.getfield 130, 3) := dk_180 0 130 (dk_at dksX4_untell_0 15 rfl rfl)
theorem dX4_untell_18 : decode cX4_untell 18 = .ok (.iload_n 1, 1) := dk_27 (dk_at dksX4_untell_0 18 rfl rfl)
theorem dX4_untell_19 : decode cX4_untell 19 = .ok (.iaload, 1) := dk_46 (dk_at dksX4_untell_0 19 rfl rfl)
theorem dX4_untell_20 : decode cX4_untell 20 = .ok (.ifCond .lt 5, 3) := dk_155 0 5 (dk_at dksX4_untell_0 20 rfl rfl)
theorem dX4_untell_23 : decode cX4_untell 23 = .ok (.iconst 0, 1) := dk_3 (dk_at dksX4_untell_0 23 rfl rfl)
theorem dX4_untell_24 : decode cX4_untell 24 = .ok (.ireturn, 1) := dk_172 (dk_at dksX4_untell_1 0 rfl rfl)
theorem dX4_untell_25 : decode cX4_untell 25 = .ok (.aload_n 0, 1) := dk_42 (dk_at dksX4_untell_1 1 rfl rfl)
theorem dX4_untell_26 : decode cX4_untell 26 = .ok (.getfield 130, 3) := dk_180 0 130 (dk_at dksX4_untell_1 2 rfl rfl)
theorem dX4_untell_29 : decode cX4_untell 29 = .ok (.iload_n 1, 1) := dk_27 (dk_at dksX4_untell_1 5 rfl rfl)
theorem dX4_untell_30 : decode cX4_untell 30 = .ok (.aload_n 0, 1) := dk_42 (dk_at dksX4_untell_1 6 rfl rfl)
theorem dX4_untell_31 : decode cX4_untell 31 = .ok (.getfield 484, 3) := dk_180 1 228 (dk_at dksX4_untell_1 7 rfl rfl)
theorem dX4_untell_34 : decode cX4_untell 34 = .ok (.iastore, 1) := dk_79 (dk_at dksX4_untell_1 10 rfl rfl)
theorem dX4_untell_35 : decode cX4_untell 35 = .ok (.iconst 1, 1) := dk_4 (dk_at dksX4_untell_1 11 rfl rfl)
theorem dX4_untell_36 : decode cX4_untell 36 = .ok (.ireturn, 1) := dk_172 (dk_at dksX4_untell_1 12 rfl rfl)
abbrev cX4_later : ByteArray := prog_22_method_113_code
def yX4_later : MethodName := ⟨RX4, "later", "(I)I"⟩
def dkwX4_later_1 : List UInt8 := [172, 42, 89, 180, 1, 228, 27, 96, 181, 1, 228, 42, 180, 1, 228, 172]
abbrev dktX4_later_1 : List UInt8 := dkwX4_later_1 ++ []
def dkwX4_later_0 : List UInt8 := [27, 3, 17, 3, 232, 184, 1, 118, 153, 0, 15, 42, 180, 1, 228, 27, 96, 19, 1, 231, 164, 0, 5, 2]
abbrev dktX4_later_0 : List UInt8 := dkwX4_later_0 ++ dktX4_later_1
theorem dksX4_later_0 : cX4_later.data.toList.drop 0 = dktX4_later_0 := by decide +kernel
theorem dksX4_later_1 : cX4_later.data.toList.drop 24 = dktX4_later_1 := dk_seg dksX4_later_0 24 rfl rfl
theorem dX4_later_0 : decode cX4_later 0 = .ok (.iload_n 1, 1) := dk_27 (dk_at dksX4_later_0 0 rfl rfl)
theorem dX4_later_1 : decode cX4_later 1 = .ok (.iconst 0, 1) := dk_3 (dk_at dksX4_later_0 1 rfl rfl)
theorem dX4_later_2 : decode cX4_later 2 = .ok (.sipush 1000, 3) := dk_17 3 232 (dk_at dksX4_later_0 2 rfl rfl)
theorem dX4_later_5 : decode cX4_later 5 = .ok (.invokestatic 374, 3) := dk_184 1 118 (dk_at dksX4_later_0 5 rfl rfl)
theorem dX4_later_8 : decode cX4_later 8 = .ok (.ifCond .eq 15, 3) := dk_153 0 15 (dk_at dksX4_later_0 8 rfl rfl)
theorem dX4_later_11 : decode cX4_later 11 = .ok (.aload_n 0, 1) := dk_42 (dk_at dksX4_later_0 11 rfl rfl)
theorem dX4_later_12 : decode cX4_later 12 = .ok (.getfield 484, 3) := dk_180 1 228 (dk_at dksX4_later_0 12 rfl rfl)
theorem dX4_later_15 : decode cX4_later 15 = .ok (.iload_n 1, 1) := dk_27 (dk_at dksX4_later_0 15 rfl rfl)
theorem dX4_later_16 : decode cX4_later 16 = .ok (.iadd, 1) := dk_96 (dk_at dksX4_later_0 16 rfl rfl)
theorem dX4_later_17 : decode cX4_later 17 = .ok (.ldc_w 487, 3) := dk_19 1 231 (dk_at dksX4_later_0 17 rfl rfl)
theorem dX4_later_20 : decode cX4_later 20 = .ok (.if_icmp .le 5, 3) := dk_164 0 5 (dk_at dksX4_later_0 20 rfl rfl)
theorem dX4_later_23 : decode cX4_later 23 = .ok (.iconst (-1), 1) := dk_2 (dk_at dksX4_later_0 23 rfl rfl)
theorem dX4_later_24 : decode cX4_later 24 = .ok (.ireturn, 1) := dk_172 (dk_at dksX4_later_1 0 rfl rfl)
theorem dX4_later_25 : decode cX4_later 25 = .ok (.aload_n 0, 1) := dk_42 (dk_at dksX4_later_1 1 rfl rfl)
theorem dX4_later_26 : decode cX4_later 26 = .ok (.dup, 1) := dk_89 (dk_at dksX4_later_1 2 rfl rfl)
theorem dX4_later_27 : decode cX4_later 27 = .ok (.getfield 484, 3) := dk_180 1 228 (dk_at dksX4_later_1 3 rfl rfl)
theorem dX4_later_30 : decode cX4_later 30 = .ok (.iload_n 1, 1) := dk_27 (dk_at dksX4_later_1 6 rfl rfl)
theorem dX4_later_31 : decode cX4_later 31 = .ok (.iadd, 1) := dk_96 (dk_at dksX4_later_1 7 rfl rfl)
theorem dX4_later_32 : decode cX4_later 32 = .ok (.putfield 484, 3) := dk_181 1 228 (dk_at dksX4_later_1 8 rfl rfl)
theorem dX4_later_35 : decode cX4_later 35 = .ok (.aload_n 0, 1) := dk_42 (dk_at dksX4_later_1 11 rfl rfl)
theorem dX4_later_36 : decode cX4_later 36 = .ok (.getfield 484, 3) := dk_180 1 228 (dk_at dksX4_later_1 12 rfl rfl)
theorem dX4_later_39 : decode cX4_later 39 = .ok (.ireturn, 1) := dk_172 (dk_at dksX4_later_1 15 rfl rfl)
abbrev cX4_fits : ByteArray := prog_22_method_116_code
def yX4_fits : MethodName := ⟨RX4, "fits", "(I)I"⟩
def dkwX4_fits_1 : List UInt8 := [42, 29, 27, 182, 1, 235, 153, 0, 7, 4, 167, 0, 4, 3, 96, 61, 132, 3, 1, 167, 255, 230, 28, 172]
abbrev dktX4_fits_1 : List UInt8 := dkwX4_fits_1 ++ []
def dkwX4_fits_0 : List UInt8 := [42, 182, 1, 121, 154, 0, 5, 3, 172, 42, 182, 1, 232, 3, 61, 3, 62, 29, 16, 30, 163, 0, 26, 28]
abbrev dktX4_fits_0 : List UInt8 := dkwX4_fits_0 ++ dktX4_fits_1
theorem dksX4_fits_0 : cX4_fits.data.toList.drop 0 = dktX4_fits_0 := by decide +kernel
theorem dksX4_fits_1 : cX4_fits.data.toList.drop 24 = dktX4_fits_1 := dk_seg dksX4_fits_0 24 rfl rfl
theorem dX4_fits_0 : decode cX4_fits 0 = .ok (.aload_n 0, 1) := dk_42 (dk_at dksX4_fits_0 0 rfl rfl)
theorem dX4_fits_1 : decode cX4_fits 1 = .ok (.invokevirtual 377, 3) := dk_182 1 121 (dk_at dksX4_fits_0 1 rfl rfl)
theorem dX4_fits_4 : decode cX4_fits 4 = .ok (.ifCond .ne 5, 3) := dk_154 0 5 (dk_at dksX4_fits_0 4 rfl rfl)
theorem dX4_fits_7 : decode cX4_fits 7 = .ok (.iconst 0, 1) := dk_3 (dk_at dksX4_fits_0 7 rfl rfl)
theorem dX4_fits_8 : decode cX4_fits 8 = .ok (.ireturn, 1) := dk_172 (dk_at dksX4_fits_0 8 rfl rfl)
theorem dX4_fits_9 : decode cX4_fits 9 = .ok (.aload_n 0, 1) := dk_42 (dk_at dksX4_fits_0 9 rfl rfl)
theorem dX4_fits_10 : decode cX4_fits 10 = .ok (.invokevirtual 488, 3) := dk_182 1 232 (dk_at dksX4_fits_0 10 rfl rfl)
theorem dX4_fits_13 : decode cX4_fits 13 = .ok (.iconst 0, 1) := dk_3 (dk_at dksX4_fits_0 13 rfl rfl)
theorem dX4_fits_14 : decode cX4_fits 14 = .ok (.istore_n 2, 1) := dk_61 (dk_at dksX4_fits_0 14 rfl rfl)
theorem dX4_fits_15 : decode cX4_fits 15 = .ok (.iconst 0, 1) := dk_3 (dk_at dksX4_fits_0 15 rfl rfl)
theorem dX4_fits_16 : decode cX4_fits 16 = .ok (.istore_n 3, 1) := dk_62 (dk_at dksX4_fits_0 16 rfl rfl)
theorem dX4_fits_17 : decode cX4_fits 17 = .ok (.iload_n 3, 1) := dk_29 (dk_at dksX4_fits_0 17 rfl rfl)
theorem dX4_fits_18 : decode cX4_fits 18 = .ok (.bipush 30, 2) := dk_16 30 (dk_at dksX4_fits_0 18 rfl rfl)
theorem dX4_fits_20 : decode cX4_fits 20 = .ok (.if_icmp .gt 26, 3) := dk_163 0 26 (dk_at dksX4_fits_0 20 rfl rfl)
theorem dX4_fits_23 : decode cX4_fits 23 = .ok (.iload_n 2, 1) := dk_28 (dk_at dksX4_fits_0 23 rfl rfl)
theorem dX4_fits_24 : decode cX4_fits 24 = .ok (.aload_n 0, 1) := dk_42 (dk_at dksX4_fits_1 0 rfl rfl)
theorem dX4_fits_25 : decode cX4_fits 25 = .ok (.iload_n 3, 1) := dk_29 (dk_at dksX4_fits_1 1 rfl rfl)
theorem dX4_fits_26 : decode cX4_fits 26 = .ok (.iload_n 1, 1) := dk_27 (dk_at dksX4_fits_1 2 rfl rfl)
theorem dX4_fits_27 : decode cX4_fits 27 = .ok (.invokevirtual 491, 3) := dk_182 1 235 (dk_at dksX4_fits_1 3 rfl rfl)
theorem dX4_fits_30 : decode cX4_fits 30 = .ok (.ifCond .eq 7, 3) := dk_153 0 7 (dk_at dksX4_fits_1 6 rfl rfl)
theorem dX4_fits_33 : decode cX4_fits 33 = .ok (.iconst 1, 1) := dk_4 (dk_at dksX4_fits_1 9 rfl rfl)
theorem dX4_fits_34 : decode cX4_fits 34 = .ok (.goto 4, 3) := dk_167 0 4 (dk_at dksX4_fits_1 10 rfl rfl)
theorem dX4_fits_37 : decode cX4_fits 37 = .ok (.iconst 0, 1) := dk_3 (dk_at dksX4_fits_1 13 rfl rfl)
theorem dX4_fits_38 : decode cX4_fits 38 = .ok (.iadd, 1) := dk_96 (dk_at dksX4_fits_1 14 rfl rfl)
theorem dX4_fits_39 : decode cX4_fits 39 = .ok (.istore_n 2, 1) := dk_61 (dk_at dksX4_fits_1 15 rfl rfl)
theorem dX4_fits_40 : decode cX4_fits 40 = .ok (.iinc 3 1, 3) := dk_132 3 1 (dk_at dksX4_fits_1 16 rfl rfl)
theorem dX4_fits_43 : decode cX4_fits 43 = .ok (.goto (-26), 3) := dk_167 255 230 (dk_at dksX4_fits_1 19 rfl rfl)
theorem dX4_fits_46 : decode cX4_fits 46 = .ok (.iload_n 2, 1) := dk_28 (dk_at dksX4_fits_1 22 rfl rfl)
theorem dX4_fits_47 : decode cX4_fits 47 = .ok (.ireturn, 1) := dk_172 (dk_at dksX4_fits_1 23 rfl rfl)
abbrev cX4_layThought : ByteArray := prog_22_method_114_code
def yX4_layThought : MethodName := ⟨RX4, "layThought", "()V"⟩
def dkwX4_layThought_4 : List UInt8 := [162, 0, 21, 42, 180, 0, 97, 27, 42, 180, 0, 136, 27, 46, 79, 132, 1, 1, 167, 255, 235, 177]
abbrev dktX4_layThought_4 : List UInt8 := dkwX4_layThought_4 ++ []
def dkwX4_layThought_3 : List UInt8 := [132, 2, 1, 167, 255, 229, 132, 1, 1, 167, 255, 210, 42, 2, 181, 0, 100, 3, 60, 27, 16, 29]
abbrev dktX4_layThought_3 : List UInt8 := dkwX4_layThought_3 ++ dktX4_layThought_4
def dkwX4_layThought_2 : List UInt8 := [182, 1, 115, 162, 0, 25, 42, 180, 0, 115, 16, 6, 27, 104, 28, 96, 42, 28, 182, 1, 160, 79]
abbrev dktX4_layThought_2 : List UInt8 := dkwX4_layThought_2 ++ dktX4_layThought_3
def dkwX4_layThought_1 : List UInt8 := [167, 255, 235, 42, 182, 1, 130, 3, 60, 27, 16, 30, 163, 0, 46, 42, 27, 181, 0, 100, 3, 61, 28, 42]
abbrev dktX4_layThought_1 : List UInt8 := dkwX4_layThought_1 ++ dktX4_layThought_2
def dkwX4_layThought_0 : List UInt8 := [3, 60, 27, 16, 29, 162, 0, 21, 42, 180, 0, 136, 27, 42, 180, 0, 97, 27, 46, 79, 132, 1, 1]
abbrev dktX4_layThought_0 : List UInt8 := dkwX4_layThought_0 ++ dktX4_layThought_1
theorem dksX4_layThought_0 : cX4_layThought.data.toList.drop 0 = dktX4_layThought_0 := by decide +kernel
theorem dksX4_layThought_1 : cX4_layThought.data.toList.drop 23 = dktX4_layThought_1 := dk_seg dksX4_layThought_0 23 rfl rfl
theorem dksX4_layThought_2 : cX4_layThought.data.toList.drop 47 = dktX4_layThought_2 := dk_seg dksX4_layThought_1 24 rfl rfl
theorem dksX4_layThought_3 : cX4_layThought.data.toList.drop 69 = dktX4_layThought_3 := dk_seg dksX4_layThought_2 22 rfl rfl
theorem dksX4_layThought_4 : cX4_layThought.data.toList.drop 91 = dktX4_layThought_4 := dk_seg dksX4_layThought_3 22 rfl rfl
theorem dX4_layThought_0 : decode cX4_layThought 0 = .ok (.iconst 0, 1) := dk_3 (dk_at dksX4_layThought_0 0 rfl rfl)
theorem dX4_layThought_1 : decode cX4_layThought 1 = .ok (.istore_n 1, 1) := dk_60 (dk_at dksX4_layThought_0 1 rfl rfl)
theorem dX4_layThought_2 : decode cX4_layThought 2 = .ok (.iload_n 1, 1) := dk_27 (dk_at dksX4_layThought_0 2 rfl rfl)
theorem dX4_layThought_3 : decode cX4_layThought 3 = .ok (.bipush 29, 2) := dk_16 29 (dk_at dksX4_layThought_0 3 rfl rfl)
theorem dX4_layThought_5 : decode cX4_layThought 5 = .ok (.if_icmp .ge 21, 3) := dk_162 0 21 (dk_at dksX4_layThought_0 5 rfl rfl)
theorem dX4_layThought_8 : decode cX4_layThought 8 = .ok (.aload_n 0, 1) := dk_42 (dk_at dksX4_layThought_0 8 rfl rfl)
theorem dX4_layThought_9 : decode cX4_layThought 9 = .ok (.getfield 136, 3) := dk_180 0 136 (dk_at dksX4_layThought_0 9 rfl rfl)
theorem dX4_layThought_12 : decode cX4_layThought 12 = .ok (.iload_n 1, 1) := dk_27 (dk_at dksX4_layThought_0 12 rfl rfl)
theorem dX4_layThought_13 : decode cX4_layThought 13 = .ok (.aload_n 0, 1) := dk_42 (dk_at dksX4_layThought_0 13 rfl rfl)
theorem dX4_layThought_14 : decode cX4_layThought 14 = .ok (.getfield 97, 3) := dk_180 0 97 (dk_at dksX4_layThought_0 14 rfl rfl)
theorem dX4_layThought_17 : decode cX4_layThought 17 = .ok (.iload_n 1, 1) := dk_27 (dk_at dksX4_layThought_0 17 rfl rfl)
theorem dX4_layThought_18 : decode cX4_layThought 18 = .ok (.iaload, 1) := dk_46 (dk_at dksX4_layThought_0 18 rfl rfl)
theorem dX4_layThought_19 : decode cX4_layThought 19 = .ok (.iastore, 1) := dk_79 (dk_at dksX4_layThought_0 19 rfl rfl)
theorem dX4_layThought_20 : decode cX4_layThought 20 = .ok (.iinc 1 1, 3) := dk_132 1 1 (dk_at dksX4_layThought_0 20 rfl rfl)
theorem dX4_layThought_23 : decode cX4_layThought 23 = .ok (.goto (-21), 3) := dk_167 255 235 (dk_at dksX4_layThought_1 0 rfl rfl)
theorem dX4_layThought_26 : decode cX4_layThought 26 = .ok (.aload_n 0, 1) := dk_42 (dk_at dksX4_layThought_1 3 rfl rfl)
theorem dX4_layThought_27 : decode cX4_layThought 27 = .ok (.invokevirtual 386, 3) := dk_182 1 130 (dk_at dksX4_layThought_1 4 rfl rfl)
theorem dX4_layThought_30 : decode cX4_layThought 30 = .ok (.iconst 0, 1) := dk_3 (dk_at dksX4_layThought_1 7 rfl rfl)
theorem dX4_layThought_31 : decode cX4_layThought 31 = .ok (.istore_n 1, 1) := dk_60 (dk_at dksX4_layThought_1 8 rfl rfl)
theorem dX4_layThought_32 : decode cX4_layThought 32 = .ok (.iload_n 1, 1) := dk_27 (dk_at dksX4_layThought_1 9 rfl rfl)
theorem dX4_layThought_33 : decode cX4_layThought 33 = .ok (.bipush 30, 2) := dk_16 30 (dk_at dksX4_layThought_1 10 rfl rfl)
theorem dX4_layThought_35 : decode cX4_layThought 35 = .ok (.if_icmp .gt 46, 3) := dk_163 0 46 (dk_at dksX4_layThought_1 12 rfl rfl)
theorem dX4_layThought_38 : decode cX4_layThought 38 = .ok (.aload_n 0, 1) := dk_42 (dk_at dksX4_layThought_1 15 rfl rfl)
theorem dX4_layThought_39 : decode cX4_layThought 39 = .ok (.iload_n 1, 1) := dk_27 (dk_at dksX4_layThought_1 16 rfl rfl)
theorem dX4_layThought_40 : decode cX4_layThought 40 = .ok (.putfield 100, 3) := dk_181 0 100 (dk_at dksX4_layThought_1 17 rfl rfl)
theorem dX4_layThought_43 : decode cX4_layThought 43 = .ok (.iconst 0, 1) := dk_3 (dk_at dksX4_layThought_1 20 rfl rfl)
theorem dX4_layThought_44 : decode cX4_layThought 44 = .ok (.istore_n 2, 1) := dk_61 (dk_at dksX4_layThought_1 21 rfl rfl)
theorem dX4_layThought_45 : decode cX4_layThought 45 = .ok (.iload_n 2, 1) := dk_28 (dk_at dksX4_layThought_1 22 rfl rfl)
theorem dX4_layThought_46 : decode cX4_layThought 46 = .ok (.aload_n 0, 1) := dk_42 (dk_at dksX4_layThought_1 23 rfl rfl)
theorem dX4_layThought_47 : decode cX4_layThought 47 = .ok (.invokevirtual 371, 3) := dk_182 1 115 (dk_at dksX4_layThought_2 0 rfl rfl)
theorem dX4_layThought_50 : decode cX4_layThought 50 = .ok (.if_icmp .ge 25, 3) := dk_162 0 25 (dk_at dksX4_layThought_2 3 rfl rfl)
theorem dX4_layThought_53 : decode cX4_layThought 53 = .ok (.aload_n 0, 1) := dk_42 (dk_at dksX4_layThought_2 6 rfl rfl)
theorem dX4_layThought_54 : decode cX4_layThought 54 = .ok (.getfield 115, 3) := dk_180 0 115 (dk_at dksX4_layThought_2 7 rfl rfl)
theorem dX4_layThought_57 : decode cX4_layThought 57 = .ok (.bipush 6, 2) := dk_16 6 (dk_at dksX4_layThought_2 10 rfl rfl)
theorem dX4_layThought_59 : decode cX4_layThought 59 = .ok (.iload_n 1, 1) := dk_27 (dk_at dksX4_layThought_2 12 rfl rfl)
theorem dX4_layThought_60 : decode cX4_layThought 60 = .ok (.imul, 1) := dk_104 (dk_at dksX4_layThought_2 13 rfl rfl)
theorem dX4_layThought_61 : decode cX4_layThought 61 = .ok (.iload_n 2, 1) := dk_28 (dk_at dksX4_layThought_2 14 rfl rfl)
theorem dX4_layThought_62 : decode cX4_layThought 62 = .ok (.iadd, 1) := dk_96 (dk_at dksX4_layThought_2 15 rfl rfl)
theorem dX4_layThought_63 : decode cX4_layThought 63 = .ok (.aload_n 0, 1) := dk_42 (dk_at dksX4_layThought_2 16 rfl rfl)
theorem dX4_layThought_64 : decode cX4_layThought 64 = .ok (.iload_n 2, 1) := dk_28 (dk_at dksX4_layThought_2 17 rfl rfl)
theorem dX4_layThought_65 : decode cX4_layThought 65 = .ok (.invokevirtual 416, 3) := dk_182 1 160 (dk_at dksX4_layThought_2 18 rfl rfl)
theorem dX4_layThought_68 : decode cX4_layThought 68 = .ok (.iastore, 1) := dk_79 (dk_at dksX4_layThought_2 21 rfl rfl)
theorem dX4_layThought_69 : decode cX4_layThought 69 = .ok (.iinc 2 1, 3) := dk_132 2 1 (dk_at dksX4_layThought_3 0 rfl rfl)
theorem dX4_layThought_72 : decode cX4_layThought 72 = .ok (.goto (-27), 3) := dk_167 255 229 (dk_at dksX4_layThought_3 3 rfl rfl)
theorem dX4_layThought_75 : decode cX4_layThought 75 = .ok (.iinc 1 1, 3) := dk_132 1 1 (dk_at dksX4_layThought_3 6 rfl rfl)
theorem dX4_layThought_78 : decode cX4_layThought 78 = .ok (.goto (-46), 3) := dk_167 255 210 (dk_at dksX4_layThought_3 9 rfl rfl)
theorem dX4_layThought_81 : decode cX4_layThought 81 = .ok (.aload_n 0, 1) := dk_42 (dk_at dksX4_layThought_3 12 rfl rfl)
theorem dX4_layThought_82 : decode cX4_layThought 82 = .ok (.iconst (-1), 1) := dk_2 (dk_at dksX4_layThought_3 13 rfl rfl)
theorem dX4_layThought_83 : decode cX4_layThought 83 = .ok (.putfield 100, 3) := dk_181 0 100 (dk_at dksX4_layThought_3 14 rfl rfl)
theorem dX4_layThought_86 : decode cX4_layThought 86 = .ok (.iconst 0, 1) := dk_3 (dk_at dksX4_layThought_3 17 rfl rfl)
theorem dX4_layThought_87 : decode cX4_layThought 87 = .ok (.istore_n 1, 1) := dk_60 (dk_at dksX4_layThought_3 18 rfl rfl)
theorem dX4_layThought_88 : decode cX4_layThought 88 = .ok (.iload_n 1, 1) := dk_27 (dk_at dksX4_layThought_3 19 rfl rfl)
theorem dX4_layThought_89 : decode cX4_layThought 89 = .ok (.bipush 29, 2) := dk_16 29 (dk_at dksX4_layThought_3 20 rfl rfl)
theorem dX4_layThought_91 : decode cX4_layThought 91 = .ok (.if_icmp .ge 21, 3) := dk_162 0 21 (dk_at dksX4_layThought_4 0 rfl rfl)
theorem dX4_layThought_94 : decode cX4_layThought 94 = .ok (.aload_n 0, 1) := dk_42 (dk_at dksX4_layThought_4 3 rfl rfl)
theorem dX4_layThought_95 : decode cX4_layThought 95 = .ok (.getfield 97, 3) := dk_180 0 97 (dk_at dksX4_layThought_4 4 rfl rfl)
theorem dX4_layThought_98 : decode cX4_layThought 98 = .ok (.iload_n 1, 1) := dk_27 (dk_at dksX4_layThought_4 7 rfl rfl)
theorem dX4_layThought_99 : decode cX4_layThought 99 = .ok (.aload_n 0, 1) := dk_42 (dk_at dksX4_layThought_4 8 rfl rfl)
theorem dX4_layThought_100 : decode cX4_layThought 100 = .ok (.getfield 136, 3) := dk_180 0 136 (dk_at dksX4_layThought_4 9 rfl rfl)
theorem dX4_layThought_103 : decode cX4_layThought 103 = .ok (.iload_n 1, 1) := dk_27 (dk_at dksX4_layThought_4 12 rfl rfl)
theorem dX4_layThought_104 : decode cX4_layThought 104 = .ok (.iaload, 1) := dk_46 (dk_at dksX4_layThought_4 13 rfl rfl)
theorem dX4_layThought_105 : decode cX4_layThought 105 = .ok (.iastore, 1) := dk_79 (dk_at dksX4_layThought_4 14 rfl rfl)
theorem dX4_layThought_106 : decode cX4_layThought 106 = .ok (.iinc 1 1, 3) := dk_132 1 1 (dk_at dksX4_layThought_4 15 rfl rfl)
theorem dX4_layThought_109 : decode cX4_layThought 109 = .ok (.goto (-21), 3) := dk_167 255 235 (dk_at dksX4_layThought_4 18 rfl rfl)
theorem dX4_layThought_112 : decode cX4_layThought 112 = .ok (.return_, 1) := dk_177 (dk_at dksX4_layThought_4 21 rfl rfl)
abbrev cX4_doesFit : ByteArray := prog_22_method_115_code
def yX4_doesFit : MethodName := ⟨RX4, "doesFit", "(II)Z"⟩
def dkwX4_doesFit_3 : List UInt8 := [54, 4, 21, 4, 42, 180, 0, 124, 29, 46, 159, 0, 5, 3, 172, 132, 3, 1, 167, 255, 168, 4, 172]
abbrev dktX4_doesFit_3 : List UInt8 := dkwX4_doesFit_3 ++ []
def dkwX4_doesFit_2 : List UInt8 := [27, 104, 42, 180, 0, 118, 29, 46, 96, 46, 42, 180, 0, 121, 29, 46, 161, 0, 7, 4, 167, 0, 4, 3]
abbrev dktX4_doesFit_2 : List UInt8 := dkwX4_doesFit_2 ++ dktX4_doesFit_3
def dkwX4_doesFit_1 : List UInt8 := [29, 46, 155, 0, 16, 42, 180, 0, 130, 29, 46, 28, 163, 0, 6, 167, 0, 48, 42, 180, 0, 115, 16, 6]
abbrev dktX4_doesFit_1 : List UInt8 := dkwX4_doesFit_1 ++ dktX4_doesFit_2
def dkwX4_doesFit_0 : List UInt8 := [3, 62, 29, 42, 180, 1, 139, 162, 0, 86, 42, 180, 0, 127, 29, 46, 28, 163, 0, 70, 42, 180, 0, 130]
abbrev dktX4_doesFit_0 : List UInt8 := dkwX4_doesFit_0 ++ dktX4_doesFit_1
theorem dksX4_doesFit_0 : cX4_doesFit.data.toList.drop 0 = dktX4_doesFit_0 := by decide +kernel
theorem dksX4_doesFit_1 : cX4_doesFit.data.toList.drop 24 = dktX4_doesFit_1 := dk_seg dksX4_doesFit_0 24 rfl rfl
theorem dksX4_doesFit_2 : cX4_doesFit.data.toList.drop 48 = dktX4_doesFit_2 := dk_seg dksX4_doesFit_1 24 rfl rfl
theorem dksX4_doesFit_3 : cX4_doesFit.data.toList.drop 72 = dktX4_doesFit_3 := dk_seg dksX4_doesFit_2 24 rfl rfl
theorem dX4_doesFit_0 : decode cX4_doesFit 0 = .ok (.iconst 0, 1) := dk_3 (dk_at dksX4_doesFit_0 0 rfl rfl)
theorem dX4_doesFit_1 : decode cX4_doesFit 1 = .ok (.istore_n 3, 1) := dk_62 (dk_at dksX4_doesFit_0 1 rfl rfl)
theorem dX4_doesFit_2 : decode cX4_doesFit 2 = .ok (.iload_n 3, 1) := dk_29 (dk_at dksX4_doesFit_0 2 rfl rfl)
theorem dX4_doesFit_3 : decode cX4_doesFit 3 = .ok (.aload_n 0, 1) := dk_42 (dk_at dksX4_doesFit_0 3 rfl rfl)
theorem dX4_doesFit_4 : decode cX4_doesFit 4 = .ok (.getfield 395, 3) := dk_180 1 139 (dk_at dksX4_doesFit_0 4 rfl rfl)
theorem dX4_doesFit_7 : decode cX4_doesFit 7 = .ok (.if_icmp .ge 86, 3) := dk_162 0 86 (dk_at dksX4_doesFit_0 7 rfl rfl)
theorem dX4_doesFit_10 : decode cX4_doesFit 10 = .ok (.aload_n 0, 1) := dk_42 (dk_at dksX4_doesFit_0 10 rfl rfl)
theorem dX4_doesFit_11 : decode cX4_doesFit 11 = .ok (.getfield 127, 3) := dk_180 0 127 (dk_at dksX4_doesFit_0 11 rfl rfl)
theorem dX4_doesFit_14 : decode cX4_doesFit 14 = .ok (.iload_n 3, 1) := dk_29 (dk_at dksX4_doesFit_0 14 rfl rfl)
theorem dX4_doesFit_15 : decode cX4_doesFit 15 = .ok (.iaload, 1) := dk_46 (dk_at dksX4_doesFit_0 15 rfl rfl)
theorem dX4_doesFit_16 : decode cX4_doesFit 16 = .ok (.iload_n 2, 1) := dk_28 (dk_at dksX4_doesFit_0 16 rfl rfl)
theorem dX4_doesFit_17 : decode cX4_doesFit 17 = .ok (.if_icmp .gt 70, 3) := dk_163 0 70 (dk_at dksX4_doesFit_0 17 rfl rfl)
theorem dX4_doesFit_20 : decode cX4_doesFit 20 = .ok (.aload_n 0, 1) := dk_42 (dk_at dksX4_doesFit_0 20 rfl rfl)
theorem dX4_doesFit_21 : decode cX4_doesFit 21 = .ok (.getfield 130, 3) := dk_180 0 130 (dk_at dksX4_doesFit_0 21 rfl rfl)
theorem dX4_doesFit_24 : decode cX4_doesFit 24 = .ok (.iload_n 3, 1) := dk_29 (dk_at dksX4_doesFit_1 0 rfl rfl)
theorem dX4_doesFit_25 : decode cX4_doesFit 25 = .ok (.iaload, 1) := dk_46 (dk_at dksX4_doesFit_1 1 rfl rfl)
theorem dX4_doesFit_26 : decode cX4_doesFit 26 = .ok (.ifCond .lt 16, 3) := dk_155 0 16 (dk_at dksX4_doesFit_1 2 rfl rfl)
theorem dX4_doesFit_29 : decode cX4_doesFit 29 = .ok (.aload_n 0, 1) := dk_42 (dk_at dksX4_doesFit_1 5 rfl rfl)
theorem dX4_doesFit_30 : decode cX4_doesFit 30 = .ok (.getfield 130, 3) := dk_180 0 130 (dk_at dksX4_doesFit_1 6 rfl rfl)
theorem dX4_doesFit_33 : decode cX4_doesFit 33 = .ok (.iload_n 3, 1) := dk_29 (dk_at dksX4_doesFit_1 9 rfl rfl)
theorem dX4_doesFit_34 : decode cX4_doesFit 34 = .ok (.iaload, 1) := dk_46 (dk_at dksX4_doesFit_1 10 rfl rfl)
theorem dX4_doesFit_35 : decode cX4_doesFit 35 = .ok (.iload_n 2, 1) := dk_28 (dk_at dksX4_doesFit_1 11 rfl rfl)
theorem dX4_doesFit_36 : decode cX4_doesFit 36 = .ok (.if_icmp .gt 6, 3) := dk_163 0 6 (dk_at dksX4_doesFit_1 12 rfl rfl)
theorem dX4_doesFit_39 : decode cX4_doesFit 39 = .ok (.goto 48, 3) := dk_167 0 48 (dk_at dksX4_doesFit_1 15 rfl rfl)
theorem dX4_doesFit_42 : decode cX4_doesFit 42 = .ok (.aload_n 0, 1) := dk_42 (dk_at dksX4_doesFit_1 18 rfl rfl)
theorem dX4_doesFit_43 : decode cX4_doesFit 43 = .ok (.getfield 115, 3) := dk_180 0 115 (dk_at dksX4_doesFit_1 19 rfl rfl)
theorem dX4_doesFit_46 : decode cX4_doesFit 46 = .ok (.bipush 6, 2) := dk_16 6 (dk_at dksX4_doesFit_1 22 rfl rfl)
theorem dX4_doesFit_48 : decode cX4_doesFit 48 = .ok (.iload_n 1, 1) := dk_27 (dk_at dksX4_doesFit_2 0 rfl rfl)
theorem dX4_doesFit_49 : decode cX4_doesFit 49 = .ok (.imul, 1) := dk_104 (dk_at dksX4_doesFit_2 1 rfl rfl)
theorem dX4_doesFit_50 : decode cX4_doesFit 50 = .ok (.aload_n 0, 1) := dk_42 (dk_at dksX4_doesFit_2 2 rfl rfl)
theorem dX4_doesFit_51 : decode cX4_doesFit 51 = .ok (.getfield 118, 3) := dk_180 0 118 (dk_at dksX4_doesFit_2 3 rfl rfl)
theorem dX4_doesFit_54 : decode cX4_doesFit 54 = .ok (.iload_n 3, 1) := dk_29 (dk_at dksX4_doesFit_2 6 rfl rfl)
theorem dX4_doesFit_55 : decode cX4_doesFit 55 = .ok (.iaload, 1) := dk_46 (dk_at dksX4_doesFit_2 7 rfl rfl)
theorem dX4_doesFit_56 : decode cX4_doesFit 56 = .ok (.iadd, 1) := dk_96 (dk_at dksX4_doesFit_2 8 rfl rfl)
theorem dX4_doesFit_57 : decode cX4_doesFit 57 = .ok (.iaload, 1) := dk_46 (dk_at dksX4_doesFit_2 9 rfl rfl)
theorem dX4_doesFit_58 : decode cX4_doesFit 58 = .ok (.aload_n 0, 1) := dk_42 (dk_at dksX4_doesFit_2 10 rfl rfl)
theorem dX4_doesFit_59 : decode cX4_doesFit 59 = .ok (.getfield 121, 3) := dk_180 0 121 (dk_at dksX4_doesFit_2 11 rfl rfl)
theorem dX4_doesFit_62 : decode cX4_doesFit 62 = .ok (.iload_n 3, 1) := dk_29 (dk_at dksX4_doesFit_2 14 rfl rfl)
theorem dX4_doesFit_63 : decode cX4_doesFit 63 = .ok (.iaload, 1) := dk_46 (dk_at dksX4_doesFit_2 15 rfl rfl)
theorem dX4_doesFit_64 : decode cX4_doesFit 64 = .ok (.if_icmp .lt 7, 3) := dk_161 0 7 (dk_at dksX4_doesFit_2 16 rfl rfl)
theorem dX4_doesFit_67 : decode cX4_doesFit 67 = .ok (.iconst 1, 1) := dk_4 (dk_at dksX4_doesFit_2 19 rfl rfl)
theorem dX4_doesFit_68 : decode cX4_doesFit 68 = .ok (.goto 4, 3) := dk_167 0 4 (dk_at dksX4_doesFit_2 20 rfl rfl)
theorem dX4_doesFit_71 : decode cX4_doesFit 71 = .ok (.iconst 0, 1) := dk_3 (dk_at dksX4_doesFit_2 23 rfl rfl)
theorem dX4_doesFit_72 : decode cX4_doesFit 72 = .ok (.istore 4, 2) := dk_54 4 (dk_at dksX4_doesFit_3 0 rfl rfl)
theorem dX4_doesFit_74 : decode cX4_doesFit 74 = .ok (.iload 4, 2) := dk_21 4 (dk_at dksX4_doesFit_3 2 rfl rfl)
theorem dX4_doesFit_76 : decode cX4_doesFit 76 = .ok (.aload_n 0, 1) := dk_42 (dk_at dksX4_doesFit_3 4 rfl rfl)
theorem dX4_doesFit_77 : decode cX4_doesFit 77 = .ok (.getfield 124, 3) := dk_180 0 124 (dk_at dksX4_doesFit_3 5 rfl rfl)
theorem dX4_doesFit_80 : decode cX4_doesFit 80 = .ok (.iload_n 3, 1) := dk_29 (dk_at dksX4_doesFit_3 8 rfl rfl)
theorem dX4_doesFit_81 : decode cX4_doesFit 81 = .ok (.iaload, 1) := dk_46 (dk_at dksX4_doesFit_3 9 rfl rfl)
theorem dX4_doesFit_82 : decode cX4_doesFit 82 = .ok (.if_icmp .eq 5, 3) := dk_159 0 5 (dk_at dksX4_doesFit_3 10 rfl rfl)
theorem dX4_doesFit_85 : decode cX4_doesFit 85 = .ok (.iconst 0, 1) := dk_3 (dk_at dksX4_doesFit_3 13 rfl rfl)
theorem dX4_doesFit_86 : decode cX4_doesFit 86 = .ok (.ireturn, 1) := dk_172 (dk_at dksX4_doesFit_3 14 rfl rfl)
theorem dX4_doesFit_87 : decode cX4_doesFit 87 = .ok (.iinc 3 1, 3) := dk_132 3 1 (dk_at dksX4_doesFit_3 15 rfl rfl)
theorem dX4_doesFit_90 : decode cX4_doesFit 90 = .ok (.goto (-88), 3) := dk_167 255 168 (dk_at dksX4_doesFit_3 18 rfl rfl)
theorem dX4_doesFit_93 : decode cX4_doesFit 93 = .ok (.iconst 1, 1) := dk_4 (dk_at dksX4_doesFit_3 21 rfl rfl)
theorem dX4_doesFit_94 : decode cX4_doesFit 94 = .ok (.ireturn, 1) := dk_172 (dk_at dksX4_doesFit_3 22 rfl rfl)
abbrev cX4_sure : ByteArray := prog_22_method_117_code
def yX4_sure : MethodName := ⟨RX4, "sure", "(II)I"⟩
def dkwX4_sure_2 : List UInt8 := [2, 96, 62, 167, 255, 235, 29, 172]
abbrev dktX4_sure_2 : List UInt8 := dkwX4_sure_2 ++ []
def dkwX4_sure_1 : List UInt8 := [167, 0, 5, 16, 30, 62, 42, 29, 28, 182, 1, 235, 154, 0, 18, 29, 27, 154, 0, 7, 4, 167, 0, 4]
abbrev dktX4_sure_1 : List UInt8 := dkwX4_sure_1 ++ dktX4_sure_2
def dkwX4_sure_0 : List UInt8 := [27, 3, 4, 184, 1, 118, 153, 0, 11, 42, 28, 182, 1, 238, 154, 0, 5, 2, 172, 27, 154, 0, 7, 3]
abbrev dktX4_sure_0 : List UInt8 := dkwX4_sure_0 ++ dktX4_sure_1
theorem dksX4_sure_0 : cX4_sure.data.toList.drop 0 = dktX4_sure_0 := by decide +kernel
theorem dksX4_sure_1 : cX4_sure.data.toList.drop 24 = dktX4_sure_1 := dk_seg dksX4_sure_0 24 rfl rfl
theorem dksX4_sure_2 : cX4_sure.data.toList.drop 48 = dktX4_sure_2 := dk_seg dksX4_sure_1 24 rfl rfl
theorem dX4_sure_0 : decode cX4_sure 0 = .ok (.iload_n 1, 1) := dk_27 (dk_at dksX4_sure_0 0 rfl rfl)
theorem dX4_sure_1 : decode cX4_sure 1 = .ok (.iconst 0, 1) := dk_3 (dk_at dksX4_sure_0 1 rfl rfl)
theorem dX4_sure_2 : decode cX4_sure 2 = .ok (.iconst 1, 1) := dk_4 (dk_at dksX4_sure_0 2 rfl rfl)
theorem dX4_sure_3 : decode cX4_sure 3 = .ok (.invokestatic 374, 3) := dk_184 1 118 (dk_at dksX4_sure_0 3 rfl rfl)
theorem dX4_sure_6 : decode cX4_sure 6 = .ok (.ifCond .eq 11, 3) := dk_153 0 11 (dk_at dksX4_sure_0 6 rfl rfl)
theorem dX4_sure_9 : decode cX4_sure 9 = .ok (.aload_n 0, 1) := dk_42 (dk_at dksX4_sure_0 9 rfl rfl)
theorem dX4_sure_10 : decode cX4_sure 10 = .ok (.iload_n 2, 1) := dk_28 (dk_at dksX4_sure_0 10 rfl rfl)
theorem dX4_sure_11 : decode cX4_sure 11 = .ok (.invokevirtual 494, 3) := dk_182 1 238 (dk_at dksX4_sure_0 11 rfl rfl)
theorem dX4_sure_14 : decode cX4_sure 14 = .ok (.ifCond .ne 5, 3) := dk_154 0 5 (dk_at dksX4_sure_0 14 rfl rfl)
theorem dX4_sure_17 : decode cX4_sure 17 = .ok (.iconst (-1), 1) := dk_2 (dk_at dksX4_sure_0 17 rfl rfl)
theorem dX4_sure_18 : decode cX4_sure 18 = .ok (.ireturn, 1) := dk_172 (dk_at dksX4_sure_0 18 rfl rfl)
theorem dX4_sure_19 : decode cX4_sure 19 = .ok (.iload_n 1, 1) := dk_27 (dk_at dksX4_sure_0 19 rfl rfl)
theorem dX4_sure_20 : decode cX4_sure 20 = .ok (.ifCond .ne 7, 3) := dk_154 0 7 (dk_at dksX4_sure_0 20 rfl rfl)
theorem dX4_sure_23 : decode cX4_sure 23 = .ok (.iconst 0, 1) := dk_3 (dk_at dksX4_sure_0 23 rfl rfl)
theorem dX4_sure_24 : decode cX4_sure 24 = .ok (.goto 5, 3) := dk_167 0 5 (dk_at dksX4_sure_1 0 rfl rfl)
theorem dX4_sure_27 : decode cX4_sure 27 = .ok (.bipush 30, 2) := dk_16 30 (dk_at dksX4_sure_1 3 rfl rfl)
theorem dX4_sure_29 : decode cX4_sure 29 = .ok (.istore_n 3, 1) := dk_62 (dk_at dksX4_sure_1 5 rfl rfl)
theorem dX4_sure_30 : decode cX4_sure 30 = .ok (.aload_n 0, 1) := dk_42 (dk_at dksX4_sure_1 6 rfl rfl)
theorem dX4_sure_31 : decode cX4_sure 31 = .ok (.iload_n 3, 1) := dk_29 (dk_at dksX4_sure_1 7 rfl rfl)
theorem dX4_sure_32 : decode cX4_sure 32 = .ok (.iload_n 2, 1) := dk_28 (dk_at dksX4_sure_1 8 rfl rfl)
theorem dX4_sure_33 : decode cX4_sure 33 = .ok (.invokevirtual 491, 3) := dk_182 1 235 (dk_at dksX4_sure_1 9 rfl rfl)
theorem dX4_sure_36 : decode cX4_sure 36 = .ok (.ifCond .ne 18, 3) := dk_154 0 18 (dk_at dksX4_sure_1 12 rfl rfl)
theorem dX4_sure_39 : decode cX4_sure 39 = .ok (.iload_n 3, 1) := dk_29 (dk_at dksX4_sure_1 15 rfl rfl)
theorem dX4_sure_40 : decode cX4_sure 40 = .ok (.iload_n 1, 1) := dk_27 (dk_at dksX4_sure_1 16 rfl rfl)
theorem dX4_sure_41 : decode cX4_sure 41 = .ok (.ifCond .ne 7, 3) := dk_154 0 7 (dk_at dksX4_sure_1 17 rfl rfl)
theorem dX4_sure_44 : decode cX4_sure 44 = .ok (.iconst 1, 1) := dk_4 (dk_at dksX4_sure_1 20 rfl rfl)
theorem dX4_sure_45 : decode cX4_sure 45 = .ok (.goto 4, 3) := dk_167 0 4 (dk_at dksX4_sure_1 21 rfl rfl)
theorem dX4_sure_48 : decode cX4_sure 48 = .ok (.iconst (-1), 1) := dk_2 (dk_at dksX4_sure_2 0 rfl rfl)
theorem dX4_sure_49 : decode cX4_sure 49 = .ok (.iadd, 1) := dk_96 (dk_at dksX4_sure_2 1 rfl rfl)
theorem dX4_sure_50 : decode cX4_sure 50 = .ok (.istore_n 3, 1) := dk_62 (dk_at dksX4_sure_2 2 rfl rfl)
theorem dX4_sure_51 : decode cX4_sure 51 = .ok (.goto (-21), 3) := dk_167 255 235 (dk_at dksX4_sure_2 3 rfl rfl)
theorem dX4_sure_54 : decode cX4_sure 54 = .ok (.iload_n 3, 1) := dk_29 (dk_at dksX4_sure_2 6 rfl rfl)
theorem dX4_sure_55 : decode cX4_sure 55 = .ok (.ireturn, 1) := dk_172 (dk_at dksX4_sure_2 7 rfl rfl)
abbrev cX4_ask : ByteArray := prog_22_method_119_code
def yX4_ask : MethodName := ⟨RX4, "ask", "(II)I"⟩
def dkwX4_ask_3 : List UInt8 := [167, 0, 9, 42, 29, 28, 182, 1, 241, 172]
abbrev dktX4_ask_3 : List UInt8 := dkwX4_ask_3 ++ []
def dkwX4_ask_2 : List UInt8 := [29, 28, 182, 1, 241, 162, 0, 6, 21, 4, 62, 132, 4, 1, 167, 255, 225, 27, 154, 0, 7, 29]
abbrev dktX4_ask_2 : List UInt8 := dkwX4_ask_2 ++ dktX4_ask_3
def dkwX4_ask_1 : List UInt8 := [2, 172, 3, 62, 4, 54, 4, 21, 4, 42, 182, 1, 115, 162, 0, 28, 42, 21, 4, 28, 182, 1, 241, 42]
abbrev dktX4_ask_1 : List UInt8 := dkwX4_ask_1 ++ dktX4_ask_2
def dkwX4_ask_0 : List UInt8 := [27, 3, 4, 184, 1, 118, 153, 0, 18, 42, 182, 1, 115, 153, 0, 11, 42, 28, 182, 1, 238, 154, 0, 5]
abbrev dktX4_ask_0 : List UInt8 := dkwX4_ask_0 ++ dktX4_ask_1
theorem dksX4_ask_0 : cX4_ask.data.toList.drop 0 = dktX4_ask_0 := by decide +kernel
theorem dksX4_ask_1 : cX4_ask.data.toList.drop 24 = dktX4_ask_1 := dk_seg dksX4_ask_0 24 rfl rfl
theorem dksX4_ask_2 : cX4_ask.data.toList.drop 48 = dktX4_ask_2 := dk_seg dksX4_ask_1 24 rfl rfl
theorem dksX4_ask_3 : cX4_ask.data.toList.drop 70 = dktX4_ask_3 := dk_seg dksX4_ask_2 22 rfl rfl
theorem dX4_ask_0 : decode cX4_ask 0 = .ok (.iload_n 1, 1) := dk_27 (dk_at dksX4_ask_0 0 rfl rfl)
theorem dX4_ask_1 : decode cX4_ask 1 = .ok (.iconst 0, 1) := dk_3 (dk_at dksX4_ask_0 1 rfl rfl)
theorem dX4_ask_2 : decode cX4_ask 2 = .ok (.iconst 1, 1) := dk_4 (dk_at dksX4_ask_0 2 rfl rfl)
theorem dX4_ask_3 : decode cX4_ask 3 = .ok (.invokestatic 374, 3) := dk_184 1 118 (dk_at dksX4_ask_0 3 rfl rfl)
theorem dX4_ask_6 : decode cX4_ask 6 = .ok (.ifCond .eq 18, 3) := dk_153 0 18 (dk_at dksX4_ask_0 6 rfl rfl)
theorem dX4_ask_9 : decode cX4_ask 9 = .ok (.aload_n 0, 1) := dk_42 (dk_at dksX4_ask_0 9 rfl rfl)
theorem dX4_ask_10 : decode cX4_ask 10 = .ok (.invokevirtual 371, 3) := dk_182 1 115 (dk_at dksX4_ask_0 10 rfl rfl)
theorem dX4_ask_13 : decode cX4_ask 13 = .ok (.ifCond .eq 11, 3) := dk_153 0 11 (dk_at dksX4_ask_0 13 rfl rfl)
theorem dX4_ask_16 : decode cX4_ask 16 = .ok (.aload_n 0, 1) := dk_42 (dk_at dksX4_ask_0 16 rfl rfl)
theorem dX4_ask_17 : decode cX4_ask 17 = .ok (.iload_n 2, 1) := dk_28 (dk_at dksX4_ask_0 17 rfl rfl)
theorem dX4_ask_18 : decode cX4_ask 18 = .ok (.invokevirtual 494, 3) := dk_182 1 238 (dk_at dksX4_ask_0 18 rfl rfl)
theorem dX4_ask_21 : decode cX4_ask 21 = .ok (.ifCond .ne 5, 3) := dk_154 0 5 (dk_at dksX4_ask_0 21 rfl rfl)
theorem dX4_ask_24 : decode cX4_ask 24 = .ok (.iconst (-1), 1) := dk_2 (dk_at dksX4_ask_1 0 rfl rfl)
theorem dX4_ask_25 : decode cX4_ask 25 = .ok (.ireturn, 1) := dk_172 (dk_at dksX4_ask_1 1 rfl rfl)
theorem dX4_ask_26 : decode cX4_ask 26 = .ok (.iconst 0, 1) := dk_3 (dk_at dksX4_ask_1 2 rfl rfl)
theorem dX4_ask_27 : decode cX4_ask 27 = .ok (.istore_n 3, 1) := dk_62 (dk_at dksX4_ask_1 3 rfl rfl)
theorem dX4_ask_28 : decode cX4_ask 28 = .ok (.iconst 1, 1) := dk_4 (dk_at dksX4_ask_1 4 rfl rfl)
theorem dX4_ask_29 : decode cX4_ask 29 = .ok (.istore 4, 2) := dk_54 4 (dk_at dksX4_ask_1 5 rfl rfl)
theorem dX4_ask_31 : decode cX4_ask 31 = .ok (.iload 4, 2) := dk_21 4 (dk_at dksX4_ask_1 7 rfl rfl)
theorem dX4_ask_33 : decode cX4_ask 33 = .ok (.aload_n 0, 1) := dk_42 (dk_at dksX4_ask_1 9 rfl rfl)
theorem dX4_ask_34 : decode cX4_ask 34 = .ok (.invokevirtual 371, 3) := dk_182 1 115 (dk_at dksX4_ask_1 10 rfl rfl)
theorem dX4_ask_37 : decode cX4_ask 37 = .ok (.if_icmp .ge 28, 3) := dk_162 0 28 (dk_at dksX4_ask_1 13 rfl rfl)
theorem dX4_ask_40 : decode cX4_ask 40 = .ok (.aload_n 0, 1) := dk_42 (dk_at dksX4_ask_1 16 rfl rfl)
theorem dX4_ask_41 : decode cX4_ask 41 = .ok (.iload 4, 2) := dk_21 4 (dk_at dksX4_ask_1 17 rfl rfl)
theorem dX4_ask_43 : decode cX4_ask 43 = .ok (.iload_n 2, 1) := dk_28 (dk_at dksX4_ask_1 19 rfl rfl)
theorem dX4_ask_44 : decode cX4_ask 44 = .ok (.invokevirtual 497, 3) := dk_182 1 241 (dk_at dksX4_ask_1 20 rfl rfl)
theorem dX4_ask_47 : decode cX4_ask 47 = .ok (.aload_n 0, 1) := dk_42 (dk_at dksX4_ask_1 23 rfl rfl)
theorem dX4_ask_48 : decode cX4_ask 48 = .ok (.iload_n 3, 1) := dk_29 (dk_at dksX4_ask_2 0 rfl rfl)
theorem dX4_ask_49 : decode cX4_ask 49 = .ok (.iload_n 2, 1) := dk_28 (dk_at dksX4_ask_2 1 rfl rfl)
theorem dX4_ask_50 : decode cX4_ask 50 = .ok (.invokevirtual 497, 3) := dk_182 1 241 (dk_at dksX4_ask_2 2 rfl rfl)
theorem dX4_ask_53 : decode cX4_ask 53 = .ok (.if_icmp .ge 6, 3) := dk_162 0 6 (dk_at dksX4_ask_2 5 rfl rfl)
theorem dX4_ask_56 : decode cX4_ask 56 = .ok (.iload 4, 2) := dk_21 4 (dk_at dksX4_ask_2 8 rfl rfl)
theorem dX4_ask_58 : decode cX4_ask 58 = .ok (.istore_n 3, 1) := dk_62 (dk_at dksX4_ask_2 10 rfl rfl)
theorem dX4_ask_59 : decode cX4_ask 59 = .ok (.iinc 4 1, 3) := dk_132 4 1 (dk_at dksX4_ask_2 11 rfl rfl)
theorem dX4_ask_62 : decode cX4_ask 62 = .ok (.goto (-31), 3) := dk_167 255 225 (dk_at dksX4_ask_2 14 rfl rfl)
theorem dX4_ask_65 : decode cX4_ask 65 = .ok (.iload_n 1, 1) := dk_27 (dk_at dksX4_ask_2 17 rfl rfl)
theorem dX4_ask_66 : decode cX4_ask 66 = .ok (.ifCond .ne 7, 3) := dk_154 0 7 (dk_at dksX4_ask_2 18 rfl rfl)
theorem dX4_ask_69 : decode cX4_ask 69 = .ok (.iload_n 3, 1) := dk_29 (dk_at dksX4_ask_2 21 rfl rfl)
theorem dX4_ask_70 : decode cX4_ask 70 = .ok (.goto 9, 3) := dk_167 0 9 (dk_at dksX4_ask_3 0 rfl rfl)
theorem dX4_ask_73 : decode cX4_ask 73 = .ok (.aload_n 0, 1) := dk_42 (dk_at dksX4_ask_3 3 rfl rfl)
theorem dX4_ask_74 : decode cX4_ask 74 = .ok (.iload_n 3, 1) := dk_29 (dk_at dksX4_ask_3 4 rfl rfl)
theorem dX4_ask_75 : decode cX4_ask 75 = .ok (.iload_n 2, 1) := dk_28 (dk_at dksX4_ask_3 5 rfl rfl)
theorem dX4_ask_76 : decode cX4_ask 76 = .ok (.invokevirtual 497, 3) := dk_182 1 241 (dk_at dksX4_ask_3 6 rfl rfl)
theorem dX4_ask_79 : decode cX4_ask 79 = .ok (.ireturn, 1) := dk_172 (dk_at dksX4_ask_3 9 rfl rfl)
abbrev cX4_mostOf : ByteArray := prog_22_method_118_code
def yX4_mostOf : MethodName := ⟨RX4, "mostOf", "(II)I"⟩
def dkwX4_mostOf_4 : List UInt8 := [132, 4, 1, 167, 255, 186, 29, 172]
abbrev dktX4_mostOf_4 : List UInt8 := dkwX4_mostOf_4 ++ []
def dkwX4_mostOf_3 : List UInt8 := [4, 96, 79, 42, 180, 0, 133, 21, 5, 46, 29, 164, 0, 11, 42, 180, 0, 133, 21, 5, 46, 62]
abbrev dktX4_mostOf_3 : List UInt8 := dkwX4_mostOf_3 ++ dktX4_mostOf_4
def dkwX4_mostOf_2 : List UInt8 := [180, 0, 115, 16, 6, 21, 4, 104, 27, 96, 46, 184, 1, 183, 54, 5, 42, 180, 0, 133, 21, 5, 92, 46]
abbrev dktX4_mostOf_2 : List UInt8 := dkwX4_mostOf_2 ++ dktX4_mostOf_3
def dkwX4_mostOf_1 : List UInt8 := [54, 4, 21, 4, 16, 30, 163, 0, 69, 42, 21, 4, 28, 182, 1, 235, 154, 0, 6, 167, 0, 50, 42]
abbrev dktX4_mostOf_1 : List UInt8 := dkwX4_mostOf_1 ++ dktX4_mostOf_2
def dkwX4_mostOf_0 : List UInt8 := [3, 62, 29, 6, 162, 0, 16, 42, 180, 0, 133, 29, 3, 79, 132, 3, 1, 167, 255, 241, 3, 62, 3]
abbrev dktX4_mostOf_0 : List UInt8 := dkwX4_mostOf_0 ++ dktX4_mostOf_1
theorem dksX4_mostOf_0 : cX4_mostOf.data.toList.drop 0 = dktX4_mostOf_0 := by decide +kernel
theorem dksX4_mostOf_1 : cX4_mostOf.data.toList.drop 23 = dktX4_mostOf_1 := dk_seg dksX4_mostOf_0 23 rfl rfl
theorem dksX4_mostOf_2 : cX4_mostOf.data.toList.drop 46 = dktX4_mostOf_2 := dk_seg dksX4_mostOf_1 23 rfl rfl
theorem dksX4_mostOf_3 : cX4_mostOf.data.toList.drop 70 = dktX4_mostOf_3 := dk_seg dksX4_mostOf_2 24 rfl rfl
theorem dksX4_mostOf_4 : cX4_mostOf.data.toList.drop 92 = dktX4_mostOf_4 := dk_seg dksX4_mostOf_3 22 rfl rfl
theorem dX4_mostOf_0 : decode cX4_mostOf 0 = .ok (.iconst 0, 1) := dk_3 (dk_at dksX4_mostOf_0 0 rfl rfl)
theorem dX4_mostOf_1 : decode cX4_mostOf 1 = .ok (.istore_n 3, 1) := dk_62 (dk_at dksX4_mostOf_0 1 rfl rfl)
theorem dX4_mostOf_2 : decode cX4_mostOf 2 = .ok (.iload_n 3, 1) := dk_29 (dk_at dksX4_mostOf_0 2 rfl rfl)
theorem dX4_mostOf_3 : decode cX4_mostOf 3 = .ok (.iconst 3, 1) := dk_6 (dk_at dksX4_mostOf_0 3 rfl rfl)
theorem dX4_mostOf_4 : decode cX4_mostOf 4 = .ok (.if_icmp .ge 16, 3) := dk_162 0 16 (dk_at dksX4_mostOf_0 4 rfl rfl)
theorem dX4_mostOf_7 : decode cX4_mostOf 7 = .ok (.aload_n 0, 1) := dk_42 (dk_at dksX4_mostOf_0 7 rfl rfl)
theorem dX4_mostOf_8 : decode cX4_mostOf 8 = .ok (.getfield 133, 3) := dk_180 0 133 (dk_at dksX4_mostOf_0 8 rfl rfl)
theorem dX4_mostOf_11 : decode cX4_mostOf 11 = .ok (.iload_n 3, 1) := dk_29 (dk_at dksX4_mostOf_0 11 rfl rfl)
theorem dX4_mostOf_12 : decode cX4_mostOf 12 = .ok (.iconst 0, 1) := dk_3 (dk_at dksX4_mostOf_0 12 rfl rfl)
theorem dX4_mostOf_13 : decode cX4_mostOf 13 = .ok (.iastore, 1) := dk_79 (dk_at dksX4_mostOf_0 13 rfl rfl)
theorem dX4_mostOf_14 : decode cX4_mostOf 14 = .ok (.iinc 3 1, 3) := dk_132 3 1 (dk_at dksX4_mostOf_0 14 rfl rfl)
theorem dX4_mostOf_17 : decode cX4_mostOf 17 = .ok (.goto (-15), 3) := dk_167 255 241 (dk_at dksX4_mostOf_0 17 rfl rfl)
theorem dX4_mostOf_20 : decode cX4_mostOf 20 = .ok (.iconst 0, 1) := dk_3 (dk_at dksX4_mostOf_0 20 rfl rfl)
theorem dX4_mostOf_21 : decode cX4_mostOf 21 = .ok (.istore_n 3, 1) := dk_62 (dk_at dksX4_mostOf_0 21 rfl rfl)
theorem dX4_mostOf_22 : decode cX4_mostOf 22 = .ok (.iconst 0, 1) := dk_3 (dk_at dksX4_mostOf_0 22 rfl rfl)
theorem dX4_mostOf_23 : decode cX4_mostOf 23 = .ok (.istore 4, 2) := dk_54 4 (dk_at dksX4_mostOf_1 0 rfl rfl)
theorem dX4_mostOf_25 : decode cX4_mostOf 25 = .ok (.iload 4, 2) := dk_21 4 (dk_at dksX4_mostOf_1 2 rfl rfl)
theorem dX4_mostOf_27 : decode cX4_mostOf 27 = .ok (.bipush 30, 2) := dk_16 30 (dk_at dksX4_mostOf_1 4 rfl rfl)
theorem dX4_mostOf_29 : decode cX4_mostOf 29 = .ok (.if_icmp .gt 69, 3) := dk_163 0 69 (dk_at dksX4_mostOf_1 6 rfl rfl)
theorem dX4_mostOf_32 : decode cX4_mostOf 32 = .ok (.aload_n 0, 1) := dk_42 (dk_at dksX4_mostOf_1 9 rfl rfl)
theorem dX4_mostOf_33 : decode cX4_mostOf 33 = .ok (.iload 4, 2) := dk_21 4 (dk_at dksX4_mostOf_1 10 rfl rfl)
theorem dX4_mostOf_35 : decode cX4_mostOf 35 = .ok (.iload_n 2, 1) := dk_28 (dk_at dksX4_mostOf_1 12 rfl rfl)
theorem dX4_mostOf_36 : decode cX4_mostOf 36 = .ok (.invokevirtual 491, 3) := dk_182 1 235 (dk_at dksX4_mostOf_1 13 rfl rfl)
theorem dX4_mostOf_39 : decode cX4_mostOf 39 = .ok (.ifCond .ne 6, 3) := dk_154 0 6 (dk_at dksX4_mostOf_1 16 rfl rfl)
theorem dX4_mostOf_42 : decode cX4_mostOf 42 = .ok (.goto 50, 3) := dk_167 0 50 (dk_at dksX4_mostOf_1 19 rfl rfl)
theorem dX4_mostOf_45 : decode cX4_mostOf 45 = .ok (.aload_n 0, 1) := dk_42 (dk_at dksX4_mostOf_1 22 rfl rfl)
theorem dX4_mostOf_46 : decode cX4_mostOf 46 = .ok (.getfield 115, 3) := dk_180 0 115 (dk_at dksX4_mostOf_2 0 rfl rfl)
theorem dX4_mostOf_49 : decode cX4_mostOf 49 = .ok (.bipush 6, 2) := dk_16 6 (dk_at dksX4_mostOf_2 3 rfl rfl)
theorem dX4_mostOf_51 : decode cX4_mostOf 51 = .ok (.iload 4, 2) := dk_21 4 (dk_at dksX4_mostOf_2 5 rfl rfl)
theorem dX4_mostOf_53 : decode cX4_mostOf 53 = .ok (.imul, 1) := dk_104 (dk_at dksX4_mostOf_2 7 rfl rfl)
theorem dX4_mostOf_54 : decode cX4_mostOf 54 = .ok (.iload_n 1, 1) := dk_27 (dk_at dksX4_mostOf_2 8 rfl rfl)
theorem dX4_mostOf_55 : decode cX4_mostOf 55 = .ok (.iadd, 1) := dk_96 (dk_at dksX4_mostOf_2 9 rfl rfl)
theorem dX4_mostOf_56 : decode cX4_mostOf 56 = .ok (.iaload, 1) := dk_46 (dk_at dksX4_mostOf_2 10 rfl rfl)
theorem dX4_mostOf_57 : decode cX4_mostOf 57 = .ok (.invokestatic 439, 3) := dk_184 1 183 (dk_at dksX4_mostOf_2 11 rfl rfl)
theorem dX4_mostOf_60 : decode cX4_mostOf 60 = .ok (.istore 5, 2) := dk_54 5 (dk_at dksX4_mostOf_2 14 rfl rfl)
theorem dX4_mostOf_62 : decode cX4_mostOf 62 = .ok (.aload_n 0, 1) := dk_42 (dk_at dksX4_mostOf_2 16 rfl rfl)
theorem dX4_mostOf_63 : decode cX4_mostOf 63 = .ok (.getfield 133, 3) := dk_180 0 133 (dk_at dksX4_mostOf_2 17 rfl rfl)
theorem dX4_mostOf_66 : decode cX4_mostOf 66 = .ok (.iload 5, 2) := dk_21 5 (dk_at dksX4_mostOf_2 20 rfl rfl)
theorem dX4_mostOf_68 : decode cX4_mostOf 68 = .ok (.dup2, 1) := dk_92 (dk_at dksX4_mostOf_2 22 rfl rfl)
theorem dX4_mostOf_69 : decode cX4_mostOf 69 = .ok (.iaload, 1) := dk_46 (dk_at dksX4_mostOf_2 23 rfl rfl)
theorem dX4_mostOf_70 : decode cX4_mostOf 70 = .ok (.iconst 1, 1) := dk_4 (dk_at dksX4_mostOf_3 0 rfl rfl)
theorem dX4_mostOf_71 : decode cX4_mostOf 71 = .ok (.iadd, 1) := dk_96 (dk_at dksX4_mostOf_3 1 rfl rfl)
theorem dX4_mostOf_72 : decode cX4_mostOf 72 = .ok (.iastore, 1) := dk_79 (dk_at dksX4_mostOf_3 2 rfl rfl)
theorem dX4_mostOf_73 : decode cX4_mostOf 73 = .ok (.aload_n 0, 1) := dk_42 (dk_at dksX4_mostOf_3 3 rfl rfl)
theorem dX4_mostOf_74 : decode cX4_mostOf 74 = .ok (.getfield 133, 3) := dk_180 0 133 (dk_at dksX4_mostOf_3 4 rfl rfl)
theorem dX4_mostOf_77 : decode cX4_mostOf 77 = .ok (.iload 5, 2) := dk_21 5 (dk_at dksX4_mostOf_3 7 rfl rfl)
theorem dX4_mostOf_79 : decode cX4_mostOf 79 = .ok (.iaload, 1) := dk_46 (dk_at dksX4_mostOf_3 9 rfl rfl)
theorem dX4_mostOf_80 : decode cX4_mostOf 80 = .ok (.iload_n 3, 1) := dk_29 (dk_at dksX4_mostOf_3 10 rfl rfl)
theorem dX4_mostOf_81 : decode cX4_mostOf 81 = .ok (.if_icmp .le 11, 3) := dk_164 0 11 (dk_at dksX4_mostOf_3 11 rfl rfl)
theorem dX4_mostOf_84 : decode cX4_mostOf 84 = .ok (.aload_n 0, 1) := dk_42 (dk_at dksX4_mostOf_3 14 rfl rfl)
theorem dX4_mostOf_85 : decode cX4_mostOf 85 = .ok (.getfield 133, 3) := dk_180 0 133 (dk_at dksX4_mostOf_3 15 rfl rfl)
theorem dX4_mostOf_88 : decode cX4_mostOf 88 = .ok (.iload 5, 2) := dk_21 5 (dk_at dksX4_mostOf_3 18 rfl rfl)
theorem dX4_mostOf_90 : decode cX4_mostOf 90 = .ok (.iaload, 1) := dk_46 (dk_at dksX4_mostOf_3 20 rfl rfl)
theorem dX4_mostOf_91 : decode cX4_mostOf 91 = .ok (.istore_n 3, 1) := dk_62 (dk_at dksX4_mostOf_3 21 rfl rfl)
theorem dX4_mostOf_92 : decode cX4_mostOf 92 = .ok (.iinc 4 1, 3) := dk_132 4 1 (dk_at dksX4_mostOf_4 0 rfl rfl)
theorem dX4_mostOf_95 : decode cX4_mostOf 95 = .ok (.goto (-70), 3) := dk_167 255 186 (dk_at dksX4_mostOf_4 3 rfl rfl)
theorem dX4_mostOf_98 : decode cX4_mostOf 98 = .ok (.iload_n 3, 1) := dk_29 (dk_at dksX4_mostOf_4 6 rfl rfl)
theorem dX4_mostOf_99 : decode cX4_mostOf 99 = .ok (.ireturn, 1) := dk_172 (dk_at dksX4_mostOf_4 7 rfl rfl)
abbrev cX4_image : ByteArray := prog_22_method_120_code
def yX4_image : MethodName := ⟨RX4, "image", "(I)I"⟩
def dkwX4_image_2 : List UInt8 := [4, 84, 42, 180, 0, 97, 16, 25, 46, 172]
abbrev dktX4_image_2 : List UInt8 := dkwX4_image_2 ++ []
def dkwX4_image_1 : List UInt8 := [16, 29, 27, 104, 28, 96, 42, 180, 0, 97, 28, 46, 79, 132, 2, 1, 167, 255, 230, 42, 180, 0, 142, 27]
abbrev dktX4_image_1 : List UInt8 := dkwX4_image_1 ++ dktX4_image_2
def dkwX4_image_0 : List UInt8 := [27, 3, 5, 184, 1, 118, 154, 0, 5, 2, 172, 3, 61, 28, 16, 29, 162, 0, 26, 42, 180, 0, 139]
abbrev dktX4_image_0 : List UInt8 := dkwX4_image_0 ++ dktX4_image_1
theorem dksX4_image_0 : cX4_image.data.toList.drop 0 = dktX4_image_0 := by decide +kernel
theorem dksX4_image_1 : cX4_image.data.toList.drop 23 = dktX4_image_1 := dk_seg dksX4_image_0 23 rfl rfl
theorem dksX4_image_2 : cX4_image.data.toList.drop 47 = dktX4_image_2 := dk_seg dksX4_image_1 24 rfl rfl
theorem dX4_image_0 : decode cX4_image 0 = .ok (.iload_n 1, 1) := dk_27 (dk_at dksX4_image_0 0 rfl rfl)
theorem dX4_image_1 : decode cX4_image 1 = .ok (.iconst 0, 1) := dk_3 (dk_at dksX4_image_0 1 rfl rfl)
theorem dX4_image_2 : decode cX4_image 2 = .ok (.iconst 2, 1) := dk_5 (dk_at dksX4_image_0 2 rfl rfl)
theorem dX4_image_3 : decode cX4_image 3 = .ok (.invokestatic 374, 3) := dk_184 1 118 (dk_at dksX4_image_0 3 rfl rfl)
theorem dX4_image_6 : decode cX4_image 6 = .ok (.ifCond .ne 5, 3) := dk_154 0 5 (dk_at dksX4_image_0 6 rfl rfl)
theorem dX4_image_9 : decode cX4_image 9 = .ok (.iconst (-1), 1) := dk_2 (dk_at dksX4_image_0 9 rfl rfl)
theorem dX4_image_10 : decode cX4_image 10 = .ok (.ireturn, 1) := dk_172 (dk_at dksX4_image_0 10 rfl rfl)
theorem dX4_image_11 : decode cX4_image 11 = .ok (.iconst 0, 1) := dk_3 (dk_at dksX4_image_0 11 rfl rfl)
theorem dX4_image_12 : decode cX4_image 12 = .ok (.istore_n 2, 1) := dk_61 (dk_at dksX4_image_0 12 rfl rfl)
theorem dX4_image_13 : decode cX4_image 13 = .ok (.iload_n 2, 1) := dk_28 (dk_at dksX4_image_0 13 rfl rfl)
theorem dX4_image_14 : decode cX4_image 14 = .ok (.bipush 29, 2) := dk_16 29 (dk_at dksX4_image_0 14 rfl rfl)
theorem dX4_image_16 : decode cX4_image 16 = .ok (.if_icmp .ge 26, 3) := dk_162 0 26 (dk_at dksX4_image_0 16 rfl rfl)
theorem dX4_image_19 : decode cX4_image 19 = .ok (.aload_n 0, 1) := dk_42 (dk_at dksX4_image_0 19 rfl rfl)
theorem dX4_image_20 : decode cX4_image 20 = .ok (.getfield 139, 3) := dk_180 0 139 (dk_at dksX4_image_0 20 rfl rfl)
theorem dX4_image_23 : decode cX4_image 23 = .ok (.bipush 29, 2) := dk_16 29 (dk_at dksX4_image_1 0 rfl rfl)
theorem dX4_image_25 : decode cX4_image 25 = .ok (.iload_n 1, 1) := dk_27 (dk_at dksX4_image_1 2 rfl rfl)
theorem dX4_image_26 : decode cX4_image 26 = .ok (.imul, 1) := dk_104 (dk_at dksX4_image_1 3 rfl rfl)
theorem dX4_image_27 : decode cX4_image 27 = .ok (.iload_n 2, 1) := dk_28 (dk_at dksX4_image_1 4 rfl rfl)
theorem dX4_image_28 : decode cX4_image 28 = .ok (.iadd, 1) := dk_96 (dk_at dksX4_image_1 5 rfl rfl)
theorem dX4_image_29 : decode cX4_image 29 = .ok (.aload_n 0, 1) := dk_42 (dk_at dksX4_image_1 6 rfl rfl)
theorem dX4_image_30 : decode cX4_image 30 = .ok (.getfield 97, 3) := dk_180 0 97 (dk_at dksX4_image_1 7 rfl rfl)
theorem dX4_image_33 : decode cX4_image 33 = .ok (.iload_n 2, 1) := dk_28 (dk_at dksX4_image_1 10 rfl rfl)
theorem dX4_image_34 : decode cX4_image 34 = .ok (.iaload, 1) := dk_46 (dk_at dksX4_image_1 11 rfl rfl)
theorem dX4_image_35 : decode cX4_image 35 = .ok (.iastore, 1) := dk_79 (dk_at dksX4_image_1 12 rfl rfl)
theorem dX4_image_36 : decode cX4_image 36 = .ok (.iinc 2 1, 3) := dk_132 2 1 (dk_at dksX4_image_1 13 rfl rfl)
theorem dX4_image_39 : decode cX4_image 39 = .ok (.goto (-26), 3) := dk_167 255 230 (dk_at dksX4_image_1 16 rfl rfl)
theorem dX4_image_42 : decode cX4_image 42 = .ok (.aload_n 0, 1) := dk_42 (dk_at dksX4_image_1 19 rfl rfl)
theorem dX4_image_43 : decode cX4_image 43 = .ok (.getfield 142, 3) := dk_180 0 142 (dk_at dksX4_image_1 20 rfl rfl)
theorem dX4_image_46 : decode cX4_image 46 = .ok (.iload_n 1, 1) := dk_27 (dk_at dksX4_image_1 23 rfl rfl)
theorem dX4_image_47 : decode cX4_image 47 = .ok (.iconst 1, 1) := dk_4 (dk_at dksX4_image_2 0 rfl rfl)
theorem dX4_image_48 : decode cX4_image 48 = .ok (.bastore, 1) := dk_84 (dk_at dksX4_image_2 1 rfl rfl)
theorem dX4_image_49 : decode cX4_image 49 = .ok (.aload_n 0, 1) := dk_42 (dk_at dksX4_image_2 2 rfl rfl)
theorem dX4_image_50 : decode cX4_image 50 = .ok (.getfield 97, 3) := dk_180 0 97 (dk_at dksX4_image_2 3 rfl rfl)
theorem dX4_image_53 : decode cX4_image 53 = .ok (.bipush 25, 2) := dk_16 25 (dk_at dksX4_image_2 6 rfl rfl)
theorem dX4_image_55 : decode cX4_image 55 = .ok (.iaload, 1) := dk_46 (dk_at dksX4_image_2 8 rfl rfl)
theorem dX4_image_56 : decode cX4_image 56 = .ok (.ireturn, 1) := dk_172 (dk_at dksX4_image_2 9 rfl rfl)
abbrev cX4_restore : ByteArray := prog_22_method_121_code
def yX4_restore : MethodName := ⟨RX4, "restore", "(I)I"⟩
def dkwX4_restore_2 : List UInt8 := [132, 2, 1, 167, 255, 230, 42, 3, 181, 1, 133, 42, 3, 181, 1, 136, 42, 180, 0, 97, 16, 25, 46, 172]
abbrev dktX4_restore_2 : List UInt8 := dkwX4_restore_2 ++ []
def dkwX4_restore_1 : List UInt8 := [16, 29, 162, 0, 26, 42, 180, 0, 97, 28, 42, 180, 0, 139, 16, 29, 27, 104, 28, 96, 46, 79]
abbrev dktX4_restore_1 : List UInt8 := dkwX4_restore_1 ++ dktX4_restore_2
def dkwX4_restore_0 : List UInt8 := [27, 3, 5, 184, 1, 118, 153, 0, 12, 42, 180, 0, 142, 27, 51, 154, 0, 5, 2, 172, 3, 61, 28]
abbrev dktX4_restore_0 : List UInt8 := dkwX4_restore_0 ++ dktX4_restore_1
theorem dksX4_restore_0 : cX4_restore.data.toList.drop 0 = dktX4_restore_0 := by decide +kernel
theorem dksX4_restore_1 : cX4_restore.data.toList.drop 23 = dktX4_restore_1 := dk_seg dksX4_restore_0 23 rfl rfl
theorem dksX4_restore_2 : cX4_restore.data.toList.drop 45 = dktX4_restore_2 := dk_seg dksX4_restore_1 22 rfl rfl
theorem dX4_restore_0 : decode cX4_restore 0 = .ok (.iload_n 1, 1) := dk_27 (dk_at dksX4_restore_0 0 rfl rfl)
theorem dX4_restore_1 : decode cX4_restore 1 = .ok (.iconst 0, 1) := dk_3 (dk_at dksX4_restore_0 1 rfl rfl)
theorem dX4_restore_2 : decode cX4_restore 2 = .ok (.iconst 2, 1) := dk_5 (dk_at dksX4_restore_0 2 rfl rfl)
theorem dX4_restore_3 : decode cX4_restore 3 = .ok (.invokestatic 374, 3) := dk_184 1 118 (dk_at dksX4_restore_0 3 rfl rfl)
theorem dX4_restore_6 : decode cX4_restore 6 = .ok (.ifCond .eq 12, 3) := dk_153 0 12 (dk_at dksX4_restore_0 6 rfl rfl)
theorem dX4_restore_9 : decode cX4_restore 9 = .ok (.aload_n 0, 1) := dk_42 (dk_at dksX4_restore_0 9 rfl rfl)
theorem dX4_restore_10 : decode cX4_restore 10 = .ok (.getfield 142, 3) := dk_180 0 142 (dk_at dksX4_restore_0 10 rfl rfl)
theorem dX4_restore_13 : decode cX4_restore 13 = .ok (.iload_n 1, 1) := dk_27 (dk_at dksX4_restore_0 13 rfl rfl)
theorem dX4_restore_14 : decode cX4_restore 14 = .ok (.baload, 1) := dk_51 (dk_at dksX4_restore_0 14 rfl rfl)
theorem dX4_restore_15 : decode cX4_restore 15 = .ok (.ifCond .ne 5, 3) := dk_154 0 5 (dk_at dksX4_restore_0 15 rfl rfl)
theorem dX4_restore_18 : decode cX4_restore 18 = .ok (.iconst (-1), 1) := dk_2 (dk_at dksX4_restore_0 18 rfl rfl)
theorem dX4_restore_19 : decode cX4_restore 19 = .ok (.ireturn, 1) := dk_172 (dk_at dksX4_restore_0 19 rfl rfl)
theorem dX4_restore_20 : decode cX4_restore 20 = .ok (.iconst 0, 1) := dk_3 (dk_at dksX4_restore_0 20 rfl rfl)
theorem dX4_restore_21 : decode cX4_restore 21 = .ok (.istore_n 2, 1) := dk_61 (dk_at dksX4_restore_0 21 rfl rfl)
theorem dX4_restore_22 : decode cX4_restore 22 = .ok (.iload_n 2, 1) := dk_28 (dk_at dksX4_restore_0 22 rfl rfl)
theorem dX4_restore_23 : decode cX4_restore 23 = .ok (.bipush 29, 2) := dk_16 29 (dk_at dksX4_restore_1 0 rfl rfl)
theorem dX4_restore_25 : decode cX4_restore 25 = .ok (.if_icmp .ge 26, 3) := dk_162 0 26 (dk_at dksX4_restore_1 2 rfl rfl)
theorem dX4_restore_28 : decode cX4_restore 28 = .ok (.aload_n 0, 1) := dk_42 (dk_at dksX4_restore_1 5 rfl rfl)
theorem dX4_restore_29 : decode cX4_restore 29 = .ok (.getfield 97, 3) := dk_180 0 97 (dk_at dksX4_restore_1 6 rfl rfl)
theorem dX4_restore_32 : decode cX4_restore 32 = .ok (.iload_n 2, 1) := dk_28 (dk_at dksX4_restore_1 9 rfl rfl)
theorem dX4_restore_33 : decode cX4_restore 33 = .ok (.aload_n 0, 1) := dk_42 (dk_at dksX4_restore_1 10 rfl rfl)
theorem dX4_restore_34 : decode cX4_restore 34 = .ok (.getfield 139, 3) := dk_180 0 139 (dk_at dksX4_restore_1 11 rfl rfl)
theorem dX4_restore_37 : decode cX4_restore 37 = .ok (.bipush 29, 2) := dk_16 29 (dk_at dksX4_restore_1 14 rfl rfl)
theorem dX4_restore_39 : decode cX4_restore 39 = .ok (.iload_n 1, 1) := dk_27 (dk_at dksX4_restore_1 16 rfl rfl)
theorem dX4_restore_40 : decode cX4_restore 40 = .ok (.imul, 1) := dk_104 (dk_at dksX4_restore_1 17 rfl rfl)
theorem dX4_restore_41 : decode cX4_restore 41 = .ok (.iload_n 2, 1) := dk_28 (dk_at dksX4_restore_1 18 rfl rfl)
theorem dX4_restore_42 : decode cX4_restore 42 = .ok (.iadd, 1) := dk_96 (dk_at dksX4_restore_1 19 rfl rfl)
theorem dX4_restore_43 : decode cX4_restore 43 = .ok (.iaload, 1) := dk_46 (dk_at dksX4_restore_1 20 rfl rfl)
theorem dX4_restore_44 : decode cX4_restore 44 = .ok (.iastore, 1) := dk_79 (dk_at dksX4_restore_1 21 rfl rfl)
theorem dX4_restore_45 : decode cX4_restore 45 = .ok (.iinc 2 1, 3) := dk_132 2 1 (dk_at dksX4_restore_2 0 rfl rfl)
theorem dX4_restore_48 : decode cX4_restore 48 = .ok (.goto (-26), 3) := dk_167 255 230 (dk_at dksX4_restore_2 3 rfl rfl)
theorem dX4_restore_51 : decode cX4_restore 51 = .ok (.aload_n 0, 1) := dk_42 (dk_at dksX4_restore_2 6 rfl rfl)
theorem dX4_restore_52 : decode cX4_restore 52 = .ok (.iconst 0, 1) := dk_3 (dk_at dksX4_restore_2 7 rfl rfl)
theorem dX4_restore_53 : decode cX4_restore 53 = .ok (.putfield 389, 3) := dk_181 1 133 (dk_at dksX4_restore_2 8 rfl rfl)
theorem dX4_restore_56 : decode cX4_restore 56 = .ok (.aload_n 0, 1) := dk_42 (dk_at dksX4_restore_2 11 rfl rfl)
theorem dX4_restore_57 : decode cX4_restore 57 = .ok (.iconst 0, 1) := dk_3 (dk_at dksX4_restore_2 12 rfl rfl)
theorem dX4_restore_58 : decode cX4_restore 58 = .ok (.putfield 392, 3) := dk_181 1 136 (dk_at dksX4_restore_2 13 rfl rfl)
theorem dX4_restore_61 : decode cX4_restore 61 = .ok (.aload_n 0, 1) := dk_42 (dk_at dksX4_restore_2 16 rfl rfl)
theorem dX4_restore_62 : decode cX4_restore 62 = .ok (.getfield 97, 3) := dk_180 0 97 (dk_at dksX4_restore_2 17 rfl rfl)
theorem dX4_restore_65 : decode cX4_restore 65 = .ok (.bipush 25, 2) := dk_16 25 (dk_at dksX4_restore_2 20 rfl rfl)
theorem dX4_restore_67 : decode cX4_restore 67 = .ok (.iaload, 1) := dk_46 (dk_at dksX4_restore_2 22 rfl rfl)
theorem dX4_restore_68 : decode cX4_restore 68 = .ok (.ireturn, 1) := dk_172 (dk_at dksX4_restore_2 23 rfl rfl)
abbrev cX4_about : ByteArray := prog_22_method_122_code
def yX4_about : MethodName := ⟨RX4, "about", "(I)I"⟩
def dkwX4_about_6 : List UInt8 := [172, 42, 180, 0, 97, 16, 28, 46, 172, 2, 172]
abbrev dktX4_about_6 : List UInt8 := dkwX4_about_6 ++ []
def dkwX4_about_5 : List UInt8 := [42, 180, 1, 228, 172, 42, 180, 0, 252, 172, 42, 180, 0, 33, 42, 180, 0, 255, 46, 172, 42, 180, 1, 142]
abbrev dktX4_about_5 : List UInt8 := dkwX4_about_5 ++ dktX4_about_6
def dkwX4_about_4 : List UInt8 := [172, 42, 180, 0, 97, 16, 27, 46, 172, 42, 180, 1, 133, 172, 42, 180, 1, 136, 172, 42, 180, 1, 139, 172]
abbrev dktX4_about_4 : List UInt8 := dkwX4_about_4 ++ dktX4_about_5
def dkwX4_about_3 : List UInt8 := [172, 42, 180, 0, 97, 16, 24, 46, 172, 42, 180, 0, 97, 16, 25, 46, 172, 42, 180, 0, 97, 16, 26, 46]
abbrev dktX4_about_3 : List UInt8 := dkwX4_about_3 ++ dktX4_about_4
def dkwX4_about_2 : List UInt8 := [42, 182, 1, 115, 172, 42, 182, 1, 124, 172, 42, 180, 0, 24, 42, 180, 0, 255, 46, 172, 42, 182, 1, 121]
abbrev dktX4_about_2 : List UInt8 := dkwX4_about_2 ++ dktX4_about_3
def dkwX4_about_1 : List UInt8 := [170, 0, 0, 0, 0, 0, 184, 0, 0, 0, 0, 0, 0, 0, 15, 0, 0, 0, 79, 0, 0, 0, 84, 0, 0, 0, 89, 0, 0, 0, 99, 0, 0, 0, 104, 0, 0, 0, 112, 0, 0, 0, 120, 0, 0, 0, 128, 0, 0, 0, 136, 0, 0, 0, 141, 0, 0, 0, 146, 0, 0, 0, 151, 0, 0, 0, 156, 0, 0, 0, 161, 0, 0, 0, 171, 0, 0, 0, 176]
abbrev dktX4_about_1 : List UInt8 := dkwX4_about_1 ++ dktX4_about_2
def dkwX4_about_0 : List UInt8 := [27]
abbrev dktX4_about_0 : List UInt8 := dkwX4_about_0 ++ dktX4_about_1
theorem dksX4_about_0 : cX4_about.data.toList.drop 0 = dktX4_about_0 := by decide +kernel
theorem dksX4_about_1 : cX4_about.data.toList.drop 1 = dktX4_about_1 := dk_seg dksX4_about_0 1 rfl rfl
theorem dksX4_about_2 : cX4_about.data.toList.drop 80 = dktX4_about_2 := dk_seg dksX4_about_1 79 rfl rfl
theorem dksX4_about_3 : cX4_about.data.toList.drop 104 = dktX4_about_3 := dk_seg dksX4_about_2 24 rfl rfl
theorem dksX4_about_4 : cX4_about.data.toList.drop 128 = dktX4_about_4 := dk_seg dksX4_about_3 24 rfl rfl
theorem dksX4_about_5 : cX4_about.data.toList.drop 152 = dktX4_about_5 := dk_seg dksX4_about_4 24 rfl rfl
theorem dksX4_about_6 : cX4_about.data.toList.drop 176 = dktX4_about_6 := dk_seg dksX4_about_5 24 rfl rfl
theorem dX4_about_0 : decode cX4_about 0 = .ok (.iload_n 1, 1) := dk_27 (dk_at dksX4_about_0 0 rfl rfl)
theorem dX4_about_1 : decode cX4_about 1 = .ok (.tableswitch 184 0 15 #[79, 84, 89, 99, 104, 112, 120, 128, 136, 141, 146, 151, 156, 161, 171, 176], 79) := by decide +kernel
theorem dX4_about_80 : decode cX4_about 80 = .ok (.aload_n 0, 1) := dk_42 (dk_at dksX4_about_2 0 rfl rfl)
theorem dX4_about_81 : decode cX4_about 81 = .ok (.invokevirtual 371, 3) := dk_182 1 115 (dk_at dksX4_about_2 1 rfl rfl)
theorem dX4_about_84 : decode cX4_about 84 = .ok (.ireturn, 1) := dk_172 (dk_at dksX4_about_2 4 rfl rfl)
theorem dX4_about_85 : decode cX4_about 85 = .ok (.aload_n 0, 1) := dk_42 (dk_at dksX4_about_2 5 rfl rfl)
theorem dX4_about_86 : decode cX4_about 86 = .ok (.invokevirtual 380, 3) := dk_182 1 124 (dk_at dksX4_about_2 6 rfl rfl)
theorem dX4_about_89 : decode cX4_about 89 = .ok (.ireturn, 1) := dk_172 (dk_at dksX4_about_2 9 rfl rfl)
theorem dX4_about_90 : decode cX4_about 90 = .ok (.aload_n 0, 1) := dk_42 (dk_at dksX4_about_2 10 rfl rfl)
theorem dX4_about_91 : decode cX4_about 91 = .ok (.getfield 24, 3) := dk_180 0 24 (dk_at dksX4_about_2 11 rfl rfl)
theorem dX4_about_94 : decode cX4_about 94 = .ok (.aload_n 0, 1) := dk_42 (dk_at dksX4_about_2 14 rfl rfl)
theorem dX4_about_95 : decode cX4_about 95 = .ok (.getfield 255, 3) := dk_180 0 255 (dk_at dksX4_about_2 15 rfl rfl)
theorem dX4_about_98 : decode cX4_about 98 = .ok (.iaload, 1) := dk_46 (dk_at dksX4_about_2 18 rfl rfl)
theorem dX4_about_99 : decode cX4_about 99 = .ok (.ireturn, 1) := dk_172 (dk_at dksX4_about_2 19 rfl rfl)
theorem dX4_about_100 : decode cX4_about 100 = .ok (.aload_n 0, 1) := dk_42 (dk_at dksX4_about_2 20 rfl rfl)
theorem dX4_about_101 : decode cX4_about 101 = .ok (.invokevirtual 377, 3) := dk_182 1 121 (dk_at dksX4_about_2 21 rfl rfl)
theorem dX4_about_104 : decode cX4_about 104 = .ok (.ireturn, 1) := dk_172 (dk_at dksX4_about_3 0 rfl rfl)
theorem dX4_about_105 : decode cX4_about 105 = .ok (.aload_n 0, 1) := dk_42 (dk_at dksX4_about_3 1 rfl rfl)
theorem dX4_about_106 : decode cX4_about 106 = .ok (.getfield 97, 3) := dk_180 0 97 (dk_at dksX4_about_3 2 rfl rfl)
theorem dX4_about_109 : decode cX4_about 109 = .ok (.bipush 24, 2) := dk_16 24 (dk_at dksX4_about_3 5 rfl rfl)
theorem dX4_about_111 : decode cX4_about 111 = .ok (.iaload, 1) := dk_46 (dk_at dksX4_about_3 7 rfl rfl)
theorem dX4_about_112 : decode cX4_about 112 = .ok (.ireturn, 1) := dk_172 (dk_at dksX4_about_3 8 rfl rfl)
theorem dX4_about_113 : decode cX4_about 113 = .ok (.aload_n 0, 1) := dk_42 (dk_at dksX4_about_3 9 rfl rfl)
theorem dX4_about_114 : decode cX4_about 114 = .ok (.getfield 97, 3) := dk_180 0 97 (dk_at dksX4_about_3 10 rfl rfl)
theorem dX4_about_117 : decode cX4_about 117 = .ok (.bipush 25, 2) := dk_16 25 (dk_at dksX4_about_3 13 rfl rfl)
theorem dX4_about_119 : decode cX4_about 119 = .ok (.iaload, 1) := dk_46 (dk_at dksX4_about_3 15 rfl rfl)
theorem dX4_about_120 : decode cX4_about 120 = .ok (.ireturn, 1) := dk_172 (dk_at dksX4_about_3 16 rfl rfl)
theorem dX4_about_121 : decode cX4_about 121 = .ok (.aload_n 0, 1) := dk_42 (dk_at dksX4_about_3 17 rfl rfl)
theorem dX4_about_122 : decode cX4_about 122 = .ok (.getfield 97, 3) := dk_180 0 97 (dk_at dksX4_about_3 18 rfl rfl)
theorem dX4_about_125 : decode cX4_about 125 = .ok (.bipush 26, 2) := dk_16 26 (dk_at dksX4_about_3 21 rfl rfl)
theorem dX4_about_127 : decode cX4_about 127 = .ok (.iaload, 1) := dk_46 (dk_at dksX4_about_3 23 rfl rfl)
theorem dX4_about_128 : decode cX4_about 128 = .ok (.ireturn, 1) := dk_172 (dk_at dksX4_about_4 0 rfl rfl)
theorem dX4_about_129 : decode cX4_about 129 = .ok (.aload_n 0, 1) := dk_42 (dk_at dksX4_about_4 1 rfl rfl)
theorem dX4_about_130 : decode cX4_about 130 = .ok (.getfield 97, 3) := dk_180 0 97 (dk_at dksX4_about_4 2 rfl rfl)
theorem dX4_about_133 : decode cX4_about 133 = .ok (.bipush 27, 2) := dk_16 27 (dk_at dksX4_about_4 5 rfl rfl)
theorem dX4_about_135 : decode cX4_about 135 = .ok (.iaload, 1) := dk_46 (dk_at dksX4_about_4 7 rfl rfl)
theorem dX4_about_136 : decode cX4_about 136 = .ok (.ireturn, 1) := dk_172 (dk_at dksX4_about_4 8 rfl rfl)
theorem dX4_about_137 : decode cX4_about 137 = .ok (.aload_n 0, 1) := dk_42 (dk_at dksX4_about_4 9 rfl rfl)
theorem dX4_about_138 : decode cX4_about 138 = .ok (.getfield 389, 3) := dk_180 1 133 (dk_at dksX4_about_4 10 rfl rfl)
theorem dX4_about_141 : decode cX4_about 141 = .ok (.ireturn, 1) := dk_172 (dk_at dksX4_about_4 13 rfl rfl)
theorem dX4_about_142 : decode cX4_about 142 = .ok (.aload_n 0, 1) := dk_42 (dk_at dksX4_about_4 14 rfl rfl)
theorem dX4_about_143 : decode cX4_about 143 = .ok (.getfield 392, 3) := dk_180 1 136 (dk_at dksX4_about_4 15 rfl rfl)
theorem dX4_about_146 : decode cX4_about 146 = .ok (.ireturn, 1) := dk_172 (dk_at dksX4_about_4 18 rfl rfl)
theorem dX4_about_147 : decode cX4_about 147 = .ok (.aload_n 0, 1) := dk_42 (dk_at dksX4_about_4 19 rfl rfl)
theorem dX4_about_148 : decode cX4_about 148 = .ok (.getfield 395, 3) := dk_180 1 139 (dk_at dksX4_about_4 20 rfl rfl)
theorem dX4_about_151 : decode cX4_about 151 = .ok (.ireturn, 1) := dk_172 (dk_at dksX4_about_4 23 rfl rfl)
theorem dX4_about_152 : decode cX4_about 152 = .ok (.aload_n 0, 1) := dk_42 (dk_at dksX4_about_5 0 rfl rfl)
theorem dX4_about_153 : decode cX4_about 153 = .ok (.getfield 484, 3) := dk_180 1 228 (dk_at dksX4_about_5 1 rfl rfl)
theorem dX4_about_156 : decode cX4_about 156 = .ok (.ireturn, 1) := dk_172 (dk_at dksX4_about_5 4 rfl rfl)
theorem dX4_about_157 : decode cX4_about 157 = .ok (.aload_n 0, 1) := dk_42 (dk_at dksX4_about_5 5 rfl rfl)
theorem dX4_about_158 : decode cX4_about 158 = .ok (.getfield 252, 3) := dk_180 0 252 (dk_at dksX4_about_5 6 rfl rfl)
theorem dX4_about_161 : decode cX4_about 161 = .ok (.ireturn, 1) := dk_172 (dk_at dksX4_about_5 9 rfl rfl)
theorem dX4_about_162 : decode cX4_about 162 = .ok (.aload_n 0, 1) := dk_42 (dk_at dksX4_about_5 10 rfl rfl)
theorem dX4_about_163 : decode cX4_about 163 = .ok (.getfield 33, 3) := dk_180 0 33 (dk_at dksX4_about_5 11 rfl rfl)
theorem dX4_about_166 : decode cX4_about 166 = .ok (.aload_n 0, 1) := dk_42 (dk_at dksX4_about_5 14 rfl rfl)
theorem dX4_about_167 : decode cX4_about 167 = .ok (.getfield 255, 3) := dk_180 0 255 (dk_at dksX4_about_5 15 rfl rfl)
theorem dX4_about_170 : decode cX4_about 170 = .ok (.iaload, 1) := dk_46 (dk_at dksX4_about_5 18 rfl rfl)
theorem dX4_about_171 : decode cX4_about 171 = .ok (.ireturn, 1) := dk_172 (dk_at dksX4_about_5 19 rfl rfl)
theorem dX4_about_172 : decode cX4_about 172 = .ok (.aload_n 0, 1) := dk_42 (dk_at dksX4_about_5 20 rfl rfl)
theorem dX4_about_173 : decode cX4_about 173 = .ok (.getfield 398, 3) := dk_180 1 142 (dk_at dksX4_about_5 21 rfl rfl)
theorem dX4_about_176 : decode cX4_about 176 = .ok (.ireturn, 1) := dk_172 (dk_at dksX4_about_6 0 rfl rfl)
theorem dX4_about_177 : decode cX4_about 177 = .ok (.aload_n 0, 1) := dk_42 (dk_at dksX4_about_6 1 rfl rfl)
theorem dX4_about_178 : decode cX4_about 178 = .ok (.getfield 97, 3) := dk_180 0 97 (dk_at dksX4_about_6 2 rfl rfl)
theorem dX4_about_181 : decode cX4_about 181 = .ok (.bipush 28, 2) := dk_16 28 (dk_at dksX4_about_6 5 rfl rfl)
theorem dX4_about_183 : decode cX4_about 183 = .ok (.iaload, 1) := dk_46 (dk_at dksX4_about_6 7 rfl rfl)
theorem dX4_about_184 : decode cX4_about 184 = .ok (.ireturn, 1) := dk_172 (dk_at dksX4_about_6 8 rfl rfl)
theorem dX4_about_185 : decode cX4_about 185 = .ok (.iconst (-1), 1) := dk_2 (dk_at dksX4_about_6 9 rfl rfl)
theorem dX4_about_186 : decode cX4_about 186 = .ok (.ireturn, 1) := dk_172 (dk_at dksX4_about_6 10 rfl rfl)
abbrev cX4_feed : ByteArray := prog_22_method_123_code
def yX4_feed : MethodName := ⟨RX4, "feed", "(IIIII)I"⟩
def dkwX4_feed_5 : List UInt8 := [180, 0, 252, 172]
abbrev dktX4_feed_5 : List UInt8 := dkwX4_feed_5 ++ []
def dkwX4_feed_4 : List UInt8 := [126, 104, 100, 122, 145, 84, 132, 6, 1, 167, 255, 172, 42, 89, 180, 0, 252, 16, 20, 96, 181, 0, 252, 42]
abbrev dktX4_feed_4 : List UInt8 := dkwX4_feed_4 ++ dktX4_feed_5
def dkwX4_feed_3 : List UInt8 := [21, 5, 54, 7, 42, 180, 0, 7, 42, 180, 0, 252, 21, 6, 96, 21, 7, 16, 24, 16, 8, 21, 6, 6]
abbrev dktX4_feed_3 : List UInt8 := dkwX4_feed_3 ++ dktX4_feed_4
def dkwX4_feed_2 : List UInt8 := [21, 6, 16, 12, 162, 0, 7, 29, 167, 0, 17, 21, 6, 16, 16, 162, 0, 8, 21, 4, 167, 0, 5]
abbrev dktX4_feed_2 : List UInt8 := dkwX4_feed_2 ++ dktX4_feed_3
def dkwX4_feed_1 : List UInt8 := [162, 0, 83, 21, 6, 7, 162, 0, 7, 27, 167, 0, 39, 21, 6, 16, 8, 162, 0, 7, 28, 167, 0, 28]
abbrev dktX4_feed_1 : List UInt8 := dkwX4_feed_1 ++ dktX4_feed_2
def dkwX4_feed_0 : List UInt8 := [42, 180, 0, 252, 16, 20, 96, 17, 6, 64, 164, 0, 5, 2, 172, 3, 54, 6, 21, 6, 16, 20]
abbrev dktX4_feed_0 : List UInt8 := dkwX4_feed_0 ++ dktX4_feed_1
theorem dksX4_feed_0 : cX4_feed.data.toList.drop 0 = dktX4_feed_0 := by decide +kernel
theorem dksX4_feed_1 : cX4_feed.data.toList.drop 22 = dktX4_feed_1 := dk_seg dksX4_feed_0 22 rfl rfl
theorem dksX4_feed_2 : cX4_feed.data.toList.drop 46 = dktX4_feed_2 := dk_seg dksX4_feed_1 24 rfl rfl
theorem dksX4_feed_3 : cX4_feed.data.toList.drop 69 = dktX4_feed_3 := dk_seg dksX4_feed_2 23 rfl rfl
theorem dksX4_feed_4 : cX4_feed.data.toList.drop 93 = dktX4_feed_4 := dk_seg dksX4_feed_3 24 rfl rfl
theorem dksX4_feed_5 : cX4_feed.data.toList.drop 117 = dktX4_feed_5 := dk_seg dksX4_feed_4 24 rfl rfl
theorem dX4_feed_0 : decode cX4_feed 0 = .ok (.aload_n 0, 1) := dk_42 (dk_at dksX4_feed_0 0 rfl rfl)
theorem dX4_feed_1 : decode cX4_feed 1 = .ok (.getfield 252, 3) := dk_180 0 252 (dk_at dksX4_feed_0 1 rfl rfl)
theorem dX4_feed_4 : decode cX4_feed 4 = .ok (.bipush 20, 2) := dk_16 20 (dk_at dksX4_feed_0 4 rfl rfl)
theorem dX4_feed_6 : decode cX4_feed 6 = .ok (.iadd, 1) := dk_96 (dk_at dksX4_feed_0 6 rfl rfl)
theorem dX4_feed_7 : decode cX4_feed 7 = .ok (.sipush 1600, 3) := dk_17 6 64 (dk_at dksX4_feed_0 7 rfl rfl)
theorem dX4_feed_10 : decode cX4_feed 10 = .ok (.if_icmp .le 5, 3) := dk_164 0 5 (dk_at dksX4_feed_0 10 rfl rfl)
theorem dX4_feed_13 : decode cX4_feed 13 = .ok (.iconst (-1), 1) := dk_2 (dk_at dksX4_feed_0 13 rfl rfl)
theorem dX4_feed_14 : decode cX4_feed 14 = .ok (.ireturn, 1) := dk_172 (dk_at dksX4_feed_0 14 rfl rfl)
theorem dX4_feed_15 : decode cX4_feed 15 = .ok (.iconst 0, 1) := dk_3 (dk_at dksX4_feed_0 15 rfl rfl)
theorem dX4_feed_16 : decode cX4_feed 16 = .ok (.istore 6, 2) := dk_54 6 (dk_at dksX4_feed_0 16 rfl rfl)
theorem dX4_feed_18 : decode cX4_feed 18 = .ok (.iload 6, 2) := dk_21 6 (dk_at dksX4_feed_0 18 rfl rfl)
theorem dX4_feed_20 : decode cX4_feed 20 = .ok (.bipush 20, 2) := dk_16 20 (dk_at dksX4_feed_0 20 rfl rfl)
theorem dX4_feed_22 : decode cX4_feed 22 = .ok (.if_icmp .ge 83, 3) := dk_162 0 83 (dk_at dksX4_feed_1 0 rfl rfl)
theorem dX4_feed_25 : decode cX4_feed 25 = .ok (.iload 6, 2) := dk_21 6 (dk_at dksX4_feed_1 3 rfl rfl)
theorem dX4_feed_27 : decode cX4_feed 27 = .ok (.iconst 4, 1) := dk_7 (dk_at dksX4_feed_1 5 rfl rfl)
theorem dX4_feed_28 : decode cX4_feed 28 = .ok (.if_icmp .ge 7, 3) := dk_162 0 7 (dk_at dksX4_feed_1 6 rfl rfl)
theorem dX4_feed_31 : decode cX4_feed 31 = .ok (.iload_n 1, 1) := dk_27 (dk_at dksX4_feed_1 9 rfl rfl)
theorem dX4_feed_32 : decode cX4_feed 32 = .ok (.goto 39, 3) := dk_167 0 39 (dk_at dksX4_feed_1 10 rfl rfl)
theorem dX4_feed_35 : decode cX4_feed 35 = .ok (.iload 6, 2) := dk_21 6 (dk_at dksX4_feed_1 13 rfl rfl)
theorem dX4_feed_37 : decode cX4_feed 37 = .ok (.bipush 8, 2) := dk_16 8 (dk_at dksX4_feed_1 15 rfl rfl)
theorem dX4_feed_39 : decode cX4_feed 39 = .ok (.if_icmp .ge 7, 3) := dk_162 0 7 (dk_at dksX4_feed_1 17 rfl rfl)
theorem dX4_feed_42 : decode cX4_feed 42 = .ok (.iload_n 2, 1) := dk_28 (dk_at dksX4_feed_1 20 rfl rfl)
theorem dX4_feed_43 : decode cX4_feed 43 = .ok (.goto 28, 3) := dk_167 0 28 (dk_at dksX4_feed_1 21 rfl rfl)
theorem dX4_feed_46 : decode cX4_feed 46 = .ok (.iload 6, 2) := dk_21 6 (dk_at dksX4_feed_2 0 rfl rfl)
theorem dX4_feed_48 : decode cX4_feed 48 = .ok (.bipush 12, 2) := dk_16 12 (dk_at dksX4_feed_2 2 rfl rfl)
theorem dX4_feed_50 : decode cX4_feed 50 = .ok (.if_icmp .ge 7, 3) := dk_162 0 7 (dk_at dksX4_feed_2 4 rfl rfl)
theorem dX4_feed_53 : decode cX4_feed 53 = .ok (.iload_n 3, 1) := dk_29 (dk_at dksX4_feed_2 7 rfl rfl)
theorem dX4_feed_54 : decode cX4_feed 54 = .ok (.goto 17, 3) := dk_167 0 17 (dk_at dksX4_feed_2 8 rfl rfl)
theorem dX4_feed_57 : decode cX4_feed 57 = .ok (.iload 6, 2) := dk_21 6 (dk_at dksX4_feed_2 11 rfl rfl)
theorem dX4_feed_59 : decode cX4_feed 59 = .ok (.bipush 16, 2) := dk_16 16 (dk_at dksX4_feed_2 13 rfl rfl)
theorem dX4_feed_61 : decode cX4_feed 61 = .ok (.if_icmp .ge 8, 3) := dk_162 0 8 (dk_at dksX4_feed_2 15 rfl rfl)
theorem dX4_feed_64 : decode cX4_feed 64 = .ok (.iload 4, 2) := dk_21 4 (dk_at dksX4_feed_2 18 rfl rfl)
theorem dX4_feed_66 : decode cX4_feed 66 = .ok (.goto 5, 3) := dk_167 0 5 (dk_at dksX4_feed_2 20 rfl rfl)
theorem dX4_feed_69 : decode cX4_feed 69 = .ok (.iload 5, 2) := dk_21 5 (dk_at dksX4_feed_3 0 rfl rfl)
theorem dX4_feed_71 : decode cX4_feed 71 = .ok (.istore 7, 2) := dk_54 7 (dk_at dksX4_feed_3 2 rfl rfl)
theorem dX4_feed_73 : decode cX4_feed 73 = .ok (.aload_n 0, 1) := dk_42 (dk_at dksX4_feed_3 4 rfl rfl)
theorem dX4_feed_74 : decode cX4_feed 74 = .ok (.getfield 7, 3) := dk_180 0 7 (dk_at dksX4_feed_3 5 rfl rfl)
theorem dX4_feed_77 : decode cX4_feed 77 = .ok (.aload_n 0, 1) := dk_42 (dk_at dksX4_feed_3 8 rfl rfl)
theorem dX4_feed_78 : decode cX4_feed 78 = .ok (.getfield 252, 3) := dk_180 0 252 (dk_at dksX4_feed_3 9 rfl rfl)
theorem dX4_feed_81 : decode cX4_feed 81 = .ok (.iload 6, 2) := dk_21 6 (dk_at dksX4_feed_3 12 rfl rfl)
theorem dX4_feed_83 : decode cX4_feed 83 = .ok (.iadd, 1) := dk_96 (dk_at dksX4_feed_3 14 rfl rfl)
theorem dX4_feed_84 : decode cX4_feed 84 = .ok (.iload 7, 2) := dk_21 7 (dk_at dksX4_feed_3 15 rfl rfl)
theorem dX4_feed_86 : decode cX4_feed 86 = .ok (.bipush 24, 2) := dk_16 24 (dk_at dksX4_feed_3 17 rfl rfl)
theorem dX4_feed_88 : decode cX4_feed 88 = .ok (.bipush 8, 2) := dk_16 8 (dk_at dksX4_feed_3 19 rfl rfl)
theorem dX4_feed_90 : decode cX4_feed 90 = .ok (.iload 6, 2) := dk_21 6 (dk_at dksX4_feed_3 21 rfl rfl)
theorem dX4_feed_92 : decode cX4_feed 92 = .ok (.iconst 3, 1) := dk_6 (dk_at dksX4_feed_3 23 rfl rfl)
theorem dX4_feed_93 : decode cX4_feed 93 = .ok (.iand, 1) := dk_126 (dk_at dksX4_feed_4 0 rfl rfl)
theorem dX4_feed_94 : decode cX4_feed 94 = .ok (.imul, 1) := dk_104 (dk_at dksX4_feed_4 1 rfl rfl)
theorem dX4_feed_95 : decode cX4_feed 95 = .ok (.isub, 1) := dk_100 (dk_at dksX4_feed_4 2 rfl rfl)
theorem dX4_feed_96 : decode cX4_feed 96 = .ok (.ishr, 1) := dk_122 (dk_at dksX4_feed_4 3 rfl rfl)
theorem dX4_feed_97 : decode cX4_feed 97 = .ok (.i2b, 1) := dk_145 (dk_at dksX4_feed_4 4 rfl rfl)
theorem dX4_feed_98 : decode cX4_feed 98 = .ok (.bastore, 1) := dk_84 (dk_at dksX4_feed_4 5 rfl rfl)
theorem dX4_feed_99 : decode cX4_feed 99 = .ok (.iinc 6 1, 3) := dk_132 6 1 (dk_at dksX4_feed_4 6 rfl rfl)
theorem dX4_feed_102 : decode cX4_feed 102 = .ok (.goto (-84), 3) := dk_167 255 172 (dk_at dksX4_feed_4 9 rfl rfl)
theorem dX4_feed_105 : decode cX4_feed 105 = .ok (.aload_n 0, 1) := dk_42 (dk_at dksX4_feed_4 12 rfl rfl)
theorem dX4_feed_106 : decode cX4_feed 106 = .ok (.dup, 1) := dk_89 (dk_at dksX4_feed_4 13 rfl rfl)
theorem dX4_feed_107 : decode cX4_feed 107 = .ok (.getfield 252, 3) := dk_180 0 252 (dk_at dksX4_feed_4 14 rfl rfl)
theorem dX4_feed_110 : decode cX4_feed 110 = .ok (.bipush 20, 2) := dk_16 20 (dk_at dksX4_feed_4 17 rfl rfl)
theorem dX4_feed_112 : decode cX4_feed 112 = .ok (.iadd, 1) := dk_96 (dk_at dksX4_feed_4 19 rfl rfl)
theorem dX4_feed_113 : decode cX4_feed 113 = .ok (.putfield 252, 3) := dk_181 0 252 (dk_at dksX4_feed_4 20 rfl rfl)
theorem dX4_feed_116 : decode cX4_feed 116 = .ok (.aload_n 0, 1) := dk_42 (dk_at dksX4_feed_4 23 rfl rfl)
theorem dX4_feed_117 : decode cX4_feed 117 = .ok (.getfield 252, 3) := dk_180 0 252 (dk_at dksX4_feed_5 0 rfl rfl)
theorem dX4_feed_120 : decode cX4_feed 120 = .ok (.ireturn, 1) := dk_172 (dk_at dksX4_feed_5 3 rfl rfl)
abbrev cX4_end : ByteArray := prog_22_method_124_code
def yX4_end : MethodName := ⟨RX4, "end", "(I)I"⟩
def dkwX4_end_0 : List UInt8 := [27, 155, 0, 11, 27, 42, 180, 0, 252, 164, 0, 5, 2, 172, 42, 27, 181, 0, 252, 27, 172]
abbrev dktX4_end_0 : List UInt8 := dkwX4_end_0 ++ []
theorem dksX4_end_0 : cX4_end.data.toList.drop 0 = dktX4_end_0 := by decide +kernel
theorem dX4_end_0 : decode cX4_end 0 = .ok (.iload_n 1, 1) := dk_27 (dk_at dksX4_end_0 0 rfl rfl)
theorem dX4_end_1 : decode cX4_end 1 = .ok (.ifCond .lt 11, 3) := dk_155 0 11 (dk_at dksX4_end_0 1 rfl rfl)
theorem dX4_end_4 : decode cX4_end 4 = .ok (.iload_n 1, 1) := dk_27 (dk_at dksX4_end_0 4 rfl rfl)
theorem dX4_end_5 : decode cX4_end 5 = .ok (.aload_n 0, 1) := dk_42 (dk_at dksX4_end_0 5 rfl rfl)
theorem dX4_end_6 : decode cX4_end 6 = .ok (.getfield 252, 3) := dk_180 0 252 (dk_at dksX4_end_0 6 rfl rfl)
theorem dX4_end_9 : decode cX4_end 9 = .ok (.if_icmp .le 5, 3) := dk_164 0 5 (dk_at dksX4_end_0 9 rfl rfl)
theorem dX4_end_12 : decode cX4_end 12 = .ok (.iconst (-1), 1) := dk_2 (dk_at dksX4_end_0 12 rfl rfl)
theorem dX4_end_13 : decode cX4_end 13 = .ok (.ireturn, 1) := dk_172 (dk_at dksX4_end_0 13 rfl rfl)
theorem dX4_end_14 : decode cX4_end 14 = .ok (.aload_n 0, 1) := dk_42 (dk_at dksX4_end_0 14 rfl rfl)
theorem dX4_end_15 : decode cX4_end 15 = .ok (.iload_n 1, 1) := dk_27 (dk_at dksX4_end_0 15 rfl rfl)
theorem dX4_end_16 : decode cX4_end 16 = .ok (.putfield 252, 3) := dk_181 0 252 (dk_at dksX4_end_0 16 rfl rfl)
theorem dX4_end_19 : decode cX4_end 19 = .ok (.iload_n 1, 1) := dk_27 (dk_at dksX4_end_0 19 rfl rfl)
theorem dX4_end_20 : decode cX4_end 20 = .ok (.ireturn, 1) := dk_172 (dk_at dksX4_end_0 20 rfl rfl)
theorem q133 : (Jvm.Cond.initialized "WebCourtModel") ∈ lw_all := lw_g (lw_at lw_m1 10 rfl) rfl
theorem q950 : (Jvm.Cond.selects "WebCourtModel" ({ cls := "java/lang/Object", name := "getClass", desc := "()Ljava/lang/Class;" } : Jvm.MethodName) ({ cls := "java/lang/Object", name := "getClass", desc := "()Ljava/lang/Class;" } : Jvm.MethodName)) ∈ lw_all := lw_g (lw_at lw_m4 107 rfl) rfl
theorem q1626 : (Jvm.Cond.instantiable "WebCourtModel" (65 : Nat)) ∈ lw_all := lw_g (lw_at lw_m7 63 rfl) rfl
theorem q1628 : (Jvm.Cond.instanceMethod ({ cls := "WebCourtModel", name := "<init>", desc := "()V" } : Jvm.MethodName)) ∈ lw_all := lw_g (lw_at lw_m7 65 rfl) rfl
theorem q1629 : (Jvm.Cond.code ({ cls := "WebCourtModel", name := "<init>", desc := "()V" } : Jvm.MethodName) prog_22_method_1_code (1 : Nat) (Option.none : Option Jvm.ClassFile.FieldType)) ∈ lw_all := lw_g (lw_at lw_m7 66 rfl) rfl
theorem q1630 : (Jvm.Cond.methodLink "WebCourtModel" (1 : Nat) ({ cls := "java/lang/Object", name := "<init>", desc := "()V" } : Jvm.MethodName)) ∈ lw_all := lw_g (lw_at lw_m7 67 rfl) rfl
theorem q1631 : (Jvm.Cond.methodLink "WebCourtModel" (146 : Nat) ({ cls := "WebCourtModel", name := "clearBank", desc := "()V" } : Jvm.MethodName)) ∈ lw_all := lw_g (lw_at lw_m7 68 rfl) rfl
theorem q1632 : (Jvm.Cond.privateMethod ({ cls := "WebCourtModel", name := "clearBank", desc := "()V" } : Jvm.MethodName)) ∈ lw_tbl := lw_at lw_m7 69 rfl
theorem q1633 : (Jvm.Cond.instanceMethod ({ cls := "WebCourtModel", name := "clearBank", desc := "()V" } : Jvm.MethodName)) ∈ lw_all := lw_g (lw_at lw_m7 70 rfl) rfl
theorem q1634 : (Jvm.Cond.code ({ cls := "WebCourtModel", name := "clearBank", desc := "()V" } : Jvm.MethodName) prog_22_method_15_code (1 : Nat) (Option.none : Option Jvm.ClassFile.FieldType)) ∈ lw_all := lw_g (lw_at lw_m7 71 rfl) rfl
theorem q1635 : (Jvm.Cond.methodLink "WebCourtModel" (149 : Nat) ({ cls := "WebCourtModel", name := "startAnew", desc := "()V" } : Jvm.MethodName)) ∈ lw_all := lw_g (lw_at lw_m7 72 rfl) rfl
theorem q1636 : (Jvm.Cond.privateMethod ({ cls := "WebCourtModel", name := "startAnew", desc := "()V" } : Jvm.MethodName)) ∈ lw_tbl := lw_at lw_m7 73 rfl
theorem q1637 : (Jvm.Cond.instanceMethod ({ cls := "WebCourtModel", name := "startAnew", desc := "()V" } : Jvm.MethodName)) ∈ lw_all := lw_g (lw_at lw_m7 74 rfl) rfl
theorem q1638 : (Jvm.Cond.code ({ cls := "WebCourtModel", name := "startAnew", desc := "()V" } : Jvm.MethodName) prog_22_method_54_code (2 : Nat) (Option.none : Option Jvm.ClassFile.FieldType)) ∈ lw_all := lw_g (lw_at lw_m7 75 rfl) rfl
theorem q1639 : (Jvm.Cond.methodLink "WebCourtModel" (386 : Nat) ({ cls := "WebCourtModel", name := "layTold", desc := "()V" } : Jvm.MethodName)) ∈ lw_all := lw_g (lw_at lw_m7 76 rfl) rfl
theorem q1640 : (Jvm.Cond.privateMethod ({ cls := "WebCourtModel", name := "layTold", desc := "()V" } : Jvm.MethodName)) ∈ lw_tbl := lw_at lw_m7 77 rfl
theorem q1641 : (Jvm.Cond.instanceMethod ({ cls := "WebCourtModel", name := "layTold", desc := "()V" } : Jvm.MethodName)) ∈ lw_all := lw_g (lw_at lw_m7 78 rfl) rfl
theorem q1642 : (Jvm.Cond.code ({ cls := "WebCourtModel", name := "layTold", desc := "()V" } : Jvm.MethodName) prog_22_method_55_code (2 : Nat) (Option.none : Option Jvm.ClassFile.FieldType)) ∈ lw_all := lw_g (lw_at lw_m7 79 rfl) rfl
theorem q1643 : (Jvm.Cond.methodLink "WebCourtModel" (371 : Nat) ({ cls := "WebCourtModel", name := "many", desc := "()I" } : Jvm.MethodName)) ∈ lw_all := lw_g (lw_at lw_m7 80 rfl) rfl
theorem q1644 : (Jvm.Cond.privateMethod ({ cls := "WebCourtModel", name := "many", desc := "()I" } : Jvm.MethodName)) ∈ lw_tbl := lw_at lw_m7 81 rfl
theorem q1645 : (Jvm.Cond.instanceMethod ({ cls := "WebCourtModel", name := "many", desc := "()I" } : Jvm.MethodName)) ∈ lw_all := lw_g (lw_at lw_m7 82 rfl) rfl
theorem q1646 : (Jvm.Cond.code ({ cls := "WebCourtModel", name := "many", desc := "()I" } : Jvm.MethodName) prog_22_method_46_code (1 : Nat) (Option.some Jvm.ClassFile.FieldType.int)) ∈ lw_all := lw_g (lw_at lw_m7 83 rfl) rfl
theorem q1647 : (Jvm.Cond.methodLink "WebCourtModel" (380 : Nat) ({ cls := "WebCourtModel", name := "spots", desc := "()I" } : Jvm.MethodName)) ∈ lw_all := lw_g (lw_at lw_m7 84 rfl) rfl
theorem q1648 : (Jvm.Cond.privateMethod ({ cls := "WebCourtModel", name := "spots", desc := "()I" } : Jvm.MethodName)) ∈ lw_tbl := lw_at lw_m7 85 rfl
theorem q1649 : (Jvm.Cond.instanceMethod ({ cls := "WebCourtModel", name := "spots", desc := "()I" } : Jvm.MethodName)) ∈ lw_all := lw_g (lw_at lw_m7 86 rfl) rfl
theorem q1650 : (Jvm.Cond.code ({ cls := "WebCourtModel", name := "spots", desc := "()I" } : Jvm.MethodName) prog_22_method_48_code (1 : Nat) (Option.some Jvm.ClassFile.FieldType.int)) ∈ lw_all := lw_g (lw_at lw_m7 87 rfl) rfl
theorem q1651 : (Jvm.Cond.fieldLink "WebCourtModel" (7 : Nat) "WebCourtModel" "tape" "[B") ∈ lw_all := lw_g (lw_at lw_m7 88 rfl) rfl
theorem q1652 : (Jvm.Cond.fieldLink "WebCourtModel" (13 : Nat) "WebCourtModel" "text" "[B") ∈ lw_all := lw_g (lw_at lw_m7 89 rfl) rfl
theorem q1653 : (Jvm.Cond.fieldLink "WebCourtModel" (252 : Nat) "WebCourtModel" "taped" "I") ∈ lw_all := lw_g (lw_at lw_m7 90 rfl) rfl
theorem q1654 : (Jvm.Cond.fieldLink "WebCourtModel" (152 : Nat) "WebCourtModel" "size" "I") ∈ lw_all := lw_g (lw_at lw_m7 91 rfl) rfl
theorem q1655 : (Jvm.Cond.fieldLink "WebCourtModel" (155 : Nat) "WebCourtModel" "faultKind" "I") ∈ lw_all := lw_g (lw_at lw_m7 92 rfl) rfl
theorem q1656 : (Jvm.Cond.fieldLink "WebCourtModel" (16 : Nat) "WebCourtModel" "faultPlace" "I") ∈ lw_all := lw_g (lw_at lw_m7 93 rfl) rfl
theorem q1657 : (Jvm.Cond.fieldLink "WebCourtModel" (201 : Nat) "WebCourtModel" "at" "I") ∈ lw_all := lw_g (lw_at lw_m7 94 rfl) rfl
theorem q1658 : (Jvm.Cond.fieldLink "WebCourtModel" (198 : Nat) "WebCourtModel" "end" "I") ∈ lw_all := lw_g (lw_at lw_m7 95 rfl) rfl
theorem q1659 : (Jvm.Cond.fieldLink "WebCourtModel" (208 : Nat) "WebCourtModel" "token" "I") ∈ lw_all := lw_g (lw_at lw_m7 96 rfl) rfl
theorem q1660 : (Jvm.Cond.fieldLink "WebCourtModel" (226 : Nat) "WebCourtModel" "number" "I") ∈ lw_all := lw_g (lw_at lw_m7 97 rfl) rfl
theorem q1661 : (Jvm.Cond.fieldLink "WebCourtModel" (215 : Nat) "WebCourtModel" "name" "J") ∈ lw_all := lw_g (lw_at lw_m7 98 rfl) rfl
theorem q1662 : (Jvm.Cond.fieldLink "WebCourtModel" (20 : Nat) "WebCourtModel" "knots" "[I") ∈ lw_all := lw_g (lw_at lw_m7 99 rfl) rfl
theorem q1663 : (Jvm.Cond.fieldLink "WebCourtModel" (24 : Nat) "WebCourtModel" "lines" "[I") ∈ lw_all := lw_g (lw_at lw_m7 100 rfl) rfl
theorem q1664 : (Jvm.Cond.fieldLink "WebCourtModel" (27 : Nat) "WebCourtModel" "pleas" "[I") ∈ lw_all := lw_g (lw_at lw_m7 101 rfl) rfl
theorem q1665 : (Jvm.Cond.fieldLink "WebCourtModel" (30 : Nat) "WebCourtModel" "cases" "[I") ∈ lw_all := lw_g (lw_at lw_m7 102 rfl) rfl
theorem q1666 : (Jvm.Cond.fieldLink "WebCourtModel" (33 : Nat) "WebCourtModel" "units" "[I") ∈ lw_all := lw_g (lw_at lw_m7 103 rfl) rfl
theorem q1667 : (Jvm.Cond.fieldLink "WebCourtModel" (36 : Nat) "WebCourtModel" "bench" "[I") ∈ lw_all := lw_g (lw_at lw_m7 104 rfl) rfl
theorem q1668 : (Jvm.Cond.fieldLink "WebCourtModel" (39 : Nat) "WebCourtModel" "back" "[I") ∈ lw_all := lw_g (lw_at lw_m7 105 rfl) rfl
theorem q1669 : (Jvm.Cond.fieldLink "WebCourtModel" (42 : Nat) "WebCourtModel" "draw" "[I") ∈ lw_all := lw_g (lw_at lw_m7 106 rfl) rfl
theorem q1670 : (Jvm.Cond.fieldLink "WebCourtModel" (45 : Nat) "WebCourtModel" "told" "[I") ∈ lw_all := lw_g (lw_at lw_m7 107 rfl) rfl
theorem q1671 : (Jvm.Cond.fieldLink "WebCourtModel" (48 : Nat) "WebCourtModel" "stickyTold" "[I") ∈ lw_all := lw_g (lw_at lw_m7 108 rfl) rfl
theorem q1672 : (Jvm.Cond.fieldLink "WebCourtModel" (51 : Nat) "WebCourtModel" "oneEnd" "[I") ∈ lw_all := lw_g (lw_at lw_m7 109 rfl) rfl
theorem q1673 : (Jvm.Cond.fieldLink "WebCourtModel" (54 : Nat) "WebCourtModel" "otherEnd" "[I") ∈ lw_all := lw_g (lw_at lw_m7 110 rfl) rfl
theorem q1674 : (Jvm.Cond.fieldLink "WebCourtModel" (57 : Nat) "WebCourtModel" "strong" "[I") ∈ lw_all := lw_g (lw_at lw_m7 111 rfl) rfl
theorem q1675 : (Jvm.Cond.fieldLink "WebCourtModel" (60 : Nat) "WebCourtModel" "knotOf" "[I") ∈ lw_all := lw_g (lw_at lw_m7 112 rfl) rfl
theorem q1676 : (Jvm.Cond.fieldLink "WebCourtModel" (63 : Nat) "WebCourtModel" "pleaTold" "[I") ∈ lw_all := lw_g (lw_at lw_m7 113 rfl) rfl
theorem q1677 : (Jvm.Cond.fieldLink "WebCourtModel" (66 : Nat) "WebCourtModel" "ruleFrom" "[I") ∈ lw_all := lw_g (lw_at lw_m7 114 rfl) rfl
theorem q1678 : (Jvm.Cond.fieldLink "WebCourtModel" (69 : Nat) "WebCourtModel" "ruleTo" "[I") ∈ lw_all := lw_g (lw_at lw_m7 115 rfl) rfl
theorem q1679 : (Jvm.Cond.fieldLink "WebCourtModel" (72 : Nat) "WebCourtModel" "kName" "[J") ∈ lw_all := lw_g (lw_at lw_m7 116 rfl) rfl
theorem q1680 : (Jvm.Cond.fieldLink "WebCourtModel" (76 : Nat) "WebCourtModel" "pName" "[J") ∈ lw_all := lw_g (lw_at lw_m7 117 rfl) rfl
theorem q1681 : (Jvm.Cond.fieldLink "WebCourtModel" (79 : Nat) "WebCourtModel" "cName" "[J") ∈ lw_all := lw_g (lw_at lw_m7 118 rfl) rfl
theorem q1682 : (Jvm.Cond.fieldLink "WebCourtModel" (82 : Nat) "WebCourtModel" "code" "[I") ∈ lw_all := lw_g (lw_at lw_m7 119 rfl) rfl
theorem q1683 : (Jvm.Cond.fieldLink "WebCourtModel" (85 : Nat) "WebCourtModel" "codeNumber" "[I") ∈ lw_all := lw_g (lw_at lw_m7 120 rfl) rfl
theorem q1684 : (Jvm.Cond.fieldLink "WebCourtModel" (88 : Nat) "WebCourtModel" "eWhat" "[I") ∈ lw_all := lw_g (lw_at lw_m7 121 rfl) rfl
theorem q1685 : (Jvm.Cond.fieldLink "WebCourtModel" (91 : Nat) "WebCourtModel" "eSign" "[I") ∈ lw_all := lw_g (lw_at lw_m7 122 rfl) rfl
theorem q1686 : (Jvm.Cond.fieldLink "WebCourtModel" (94 : Nat) "WebCourtModel" "pile" "[I") ∈ lw_all := lw_g (lw_at lw_m7 123 rfl) rfl
theorem q1687 : (Jvm.Cond.fieldLink "WebCourtModel" (255 : Nat) "WebCourtModel" "bank" "I") ∈ lw_all := lw_g (lw_at lw_m7 124 rfl) rfl
theorem q1688 : (Jvm.Cond.fieldLink "WebCourtModel" (246 : Nat) "WebCourtModel" "rb" "I") ∈ lw_all := lw_g (lw_at lw_m7 125 rfl) rfl
theorem q1689 : (Jvm.Cond.fieldLink "WebCourtModel" (249 : Nat) "WebCourtModel" "codes" "I") ∈ lw_all := lw_g (lw_at lw_m7 126 rfl) rfl
theorem q1690 : (Jvm.Cond.fieldLink "WebCourtModel" (328 : Nat) "WebCourtModel" "within" "I") ∈ lw_all := lw_g (lw_at lw_m7 127 rfl) rfl
theorem q1691 : (Jvm.Cond.fieldLink "WebCourtModel" (325 : Nat) "WebCourtModel" "piled" "I") ∈ lw_all := lw_g (lw_at lw_m7 128 rfl) rfl
theorem q1692 : (Jvm.Cond.fieldLink "WebCourtModel" (319 : Nat) "WebCourtModel" "unitsInRule" "I") ∈ lw_all := lw_g (lw_at lw_m7 129 rfl) rfl
theorem q1693 : (Jvm.Cond.fieldLink "WebCourtModel" (358 : Nat) "WebCourtModel" "askCase" "I") ∈ lw_all := lw_g (lw_at lw_m7 130 rfl) rfl
theorem q1694 : (Jvm.Cond.fieldLink "WebCourtModel" (352 : Nat) "WebCourtModel" "askPleas" "I") ∈ lw_all := lw_g (lw_at lw_m7 131 rfl) rfl
theorem q1695 : (Jvm.Cond.fieldLink "WebCourtModel" (97 : Nat) "WebCourtModel" "all" "[I") ∈ lw_all := lw_g (lw_at lw_m7 132 rfl) rfl
theorem q1696 : (Jvm.Cond.fieldLink "WebCourtModel" (100 : Nat) "WebCourtModel" "thought" "I") ∈ lw_all := lw_g (lw_at lw_m7 133 rfl) rfl
theorem q1697 : (Jvm.Cond.fieldLink "WebCourtModel" (103 : Nat) "WebCourtModel" "was" "[I") ∈ lw_all := lw_g (lw_at lw_m7 134 rfl) rfl
theorem q1698 : (Jvm.Cond.fieldLink "WebCourtModel" (389 : Nat) "WebCourtModel" "acts" "I") ∈ lw_all := lw_g (lw_at lw_m7 135 rfl) rfl
theorem q1699 : (Jvm.Cond.fieldLink "WebCourtModel" (392 : Nat) "WebCourtModel" "undone" "I") ∈ lw_all := lw_g (lw_at lw_m7 136 rfl) rfl
theorem q1700 : (Jvm.Cond.fieldLink "WebCourtModel" (106 : Nat) "WebCourtModel" "laidRow" "[I") ∈ lw_all := lw_g (lw_at lw_m7 137 rfl) rfl
theorem q1701 : (Jvm.Cond.fieldLink "WebCourtModel" (398 : Nat) "WebCourtModel" "laid" "I") ∈ lw_all := lw_g (lw_at lw_m7 138 rfl) rfl
theorem q1702 : (Jvm.Cond.fieldLink "WebCourtModel" (109 : Nat) "WebCourtModel" "verdicts" "[I") ∈ lw_all := lw_g (lw_at lw_m7 139 rfl) rfl
theorem q1703 : (Jvm.Cond.fieldLink "WebCourtModel" (112 : Nat) "WebCourtModel" "far" "[I") ∈ lw_all := lw_g (lw_at lw_m7 140 rfl) rfl
theorem q1704 : (Jvm.Cond.fieldLink "WebCourtModel" (115 : Nat) "WebCourtModel" "verdictIf" "[I") ∈ lw_all := lw_g (lw_at lw_m7 141 rfl) rfl
theorem q1705 : (Jvm.Cond.fieldLink "WebCourtModel" (118 : Nat) "WebCourtModel" "sCase" "[I") ∈ lw_all := lw_g (lw_at lw_m7 142 rfl) rfl
theorem q1706 : (Jvm.Cond.fieldLink "WebCourtModel" (121 : Nat) "WebCourtModel" "sMuch" "[I") ∈ lw_all := lw_g (lw_at lw_m7 143 rfl) rfl
theorem q1707 : (Jvm.Cond.fieldLink "WebCourtModel" (124 : Nat) "WebCourtModel" "sIs" "[I") ∈ lw_all := lw_g (lw_at lw_m7 144 rfl) rfl
theorem q1708 : (Jvm.Cond.fieldLink "WebCourtModel" (127 : Nat) "WebCourtModel" "sTold" "[I") ∈ lw_all := lw_g (lw_at lw_m7 145 rfl) rfl
theorem q1709 : (Jvm.Cond.fieldLink "WebCourtModel" (130 : Nat) "WebCourtModel" "sUntold" "[I") ∈ lw_all := lw_g (lw_at lw_m7 146 rfl) rfl
theorem q1710 : (Jvm.Cond.fieldLink "WebCourtModel" (133 : Nat) "WebCourtModel" "parts" "[I") ∈ lw_all := lw_g (lw_at lw_m7 147 rfl) rfl
theorem q1711 : (Jvm.Cond.fieldLink "WebCourtModel" (136 : Nat) "WebCourtModel" "kept" "[I") ∈ lw_all := lw_g (lw_at lw_m7 148 rfl) rfl
theorem q1712 : (Jvm.Cond.fieldLink "WebCourtModel" (395 : Nat) "WebCourtModel" "heards" "I") ∈ lw_all := lw_g (lw_at lw_m7 149 rfl) rfl
theorem q1713 : (Jvm.Cond.fieldLink "WebCourtModel" (484 : Nat) "WebCourtModel" "time" "I") ∈ lw_all := lw_g (lw_at lw_m7 150 rfl) rfl
theorem q1714 : (Jvm.Cond.fieldLink "WebCourtModel" (139 : Nat) "WebCourtModel" "boxAll" "[I") ∈ lw_all := lw_g (lw_at lw_m7 151 rfl) rfl
theorem q1715 : (Jvm.Cond.fieldLink "WebCourtModel" (142 : Nat) "WebCourtModel" "isBoxed" "[Z") ∈ lw_all := lw_g (lw_at lw_m7 152 rfl) rfl
theorem q1716 : (Jvm.Cond.laysFinal "WebCourtModel" "WebCourtModel" "tape" "[B") ∈ lw_all := lw_g (lw_at lw_m7 153 rfl) rfl
theorem q1717 : (Jvm.Cond.soleField "WebCourtModel" "tape") ∈ lw_all := lw_g (lw_at lw_m7 154 rfl) rfl
theorem q1718 : (Jvm.Cond.laysFinal "WebCourtModel" "WebCourtModel" "text" "[B") ∈ lw_all := lw_g (lw_at lw_m7 155 rfl) rfl
theorem q1719 : (Jvm.Cond.soleField "WebCourtModel" "text") ∈ lw_all := lw_g (lw_at lw_m7 156 rfl) rfl
theorem q1720 : (Jvm.Cond.lays "WebCourtModel" "WebCourtModel" "taped" "I") ∈ lw_all := lw_g (lw_at lw_m7 157 rfl) rfl
theorem q1721 : (Jvm.Cond.soleField "WebCourtModel" "taped") ∈ lw_all := lw_g (lw_at lw_m7 158 rfl) rfl
theorem q1722 : (Jvm.Cond.lays "WebCourtModel" "WebCourtModel" "size" "I") ∈ lw_all := lw_g (lw_at lw_m7 159 rfl) rfl
theorem q1723 : (Jvm.Cond.soleField "WebCourtModel" "size") ∈ lw_all := lw_g (lw_at lw_m7 160 rfl) rfl
theorem q1724 : (Jvm.Cond.lays "WebCourtModel" "WebCourtModel" "faultKind" "I") ∈ lw_all := lw_g (lw_at lw_m7 161 rfl) rfl
theorem q1725 : (Jvm.Cond.soleField "WebCourtModel" "faultKind") ∈ lw_all := lw_g (lw_at lw_m7 162 rfl) rfl
theorem q1726 : (Jvm.Cond.lays "WebCourtModel" "WebCourtModel" "faultPlace" "I") ∈ lw_all := lw_g (lw_at lw_m7 163 rfl) rfl
theorem q1727 : (Jvm.Cond.soleField "WebCourtModel" "faultPlace") ∈ lw_all := lw_g (lw_at lw_m7 164 rfl) rfl
theorem q1728 : (Jvm.Cond.lays "WebCourtModel" "WebCourtModel" "at" "I") ∈ lw_all := lw_g (lw_at lw_m7 165 rfl) rfl
theorem q1729 : (Jvm.Cond.soleField "WebCourtModel" "at") ∈ lw_all := lw_g (lw_at lw_m7 166 rfl) rfl
theorem q1730 : (Jvm.Cond.lays "WebCourtModel" "WebCourtModel" "end" "I") ∈ lw_all := lw_g (lw_at lw_m7 167 rfl) rfl
theorem q1731 : (Jvm.Cond.soleField "WebCourtModel" "end") ∈ lw_all := lw_g (lw_at lw_m7 168 rfl) rfl
theorem q1732 : (Jvm.Cond.lays "WebCourtModel" "WebCourtModel" "token" "I") ∈ lw_all := lw_g (lw_at lw_m7 169 rfl) rfl
theorem q1733 : (Jvm.Cond.soleField "WebCourtModel" "token") ∈ lw_all := lw_g (lw_at lw_m7 170 rfl) rfl
theorem q1734 : (Jvm.Cond.lays "WebCourtModel" "WebCourtModel" "number" "I") ∈ lw_all := lw_g (lw_at lw_m7 171 rfl) rfl
theorem q1735 : (Jvm.Cond.soleField "WebCourtModel" "number") ∈ lw_all := lw_g (lw_at lw_m7 172 rfl) rfl
theorem q1736 : (Jvm.Cond.lays "WebCourtModel" "WebCourtModel" "name" "J") ∈ lw_all := lw_g (lw_at lw_m7 173 rfl) rfl
theorem q1737 : (Jvm.Cond.soleField "WebCourtModel" "name") ∈ lw_all := lw_g (lw_at lw_m7 174 rfl) rfl
theorem q1738 : (Jvm.Cond.laysFinal "WebCourtModel" "WebCourtModel" "knots" "[I") ∈ lw_all := lw_g (lw_at lw_m7 175 rfl) rfl
theorem q1739 : (Jvm.Cond.soleField "WebCourtModel" "knots") ∈ lw_all := lw_g (lw_at lw_m7 176 rfl) rfl
theorem q1740 : (Jvm.Cond.laysFinal "WebCourtModel" "WebCourtModel" "lines" "[I") ∈ lw_all := lw_g (lw_at lw_m7 177 rfl) rfl
theorem q1741 : (Jvm.Cond.soleField "WebCourtModel" "lines") ∈ lw_all := lw_g (lw_at lw_m7 178 rfl) rfl
theorem q1742 : (Jvm.Cond.laysFinal "WebCourtModel" "WebCourtModel" "pleas" "[I") ∈ lw_all := lw_g (lw_at lw_m7 179 rfl) rfl
theorem q1743 : (Jvm.Cond.soleField "WebCourtModel" "pleas") ∈ lw_all := lw_g (lw_at lw_m7 180 rfl) rfl
theorem q1744 : (Jvm.Cond.laysFinal "WebCourtModel" "WebCourtModel" "cases" "[I") ∈ lw_all := lw_g (lw_at lw_m7 181 rfl) rfl
theorem q1745 : (Jvm.Cond.soleField "WebCourtModel" "cases") ∈ lw_all := lw_g (lw_at lw_m7 182 rfl) rfl
theorem q1746 : (Jvm.Cond.laysFinal "WebCourtModel" "WebCourtModel" "units" "[I") ∈ lw_all := lw_g (lw_at lw_m7 183 rfl) rfl
theorem q1747 : (Jvm.Cond.soleField "WebCourtModel" "units") ∈ lw_all := lw_g (lw_at lw_m7 184 rfl) rfl
theorem q1748 : (Jvm.Cond.laysFinal "WebCourtModel" "WebCourtModel" "bench" "[I") ∈ lw_all := lw_g (lw_at lw_m7 185 rfl) rfl
theorem q1749 : (Jvm.Cond.soleField "WebCourtModel" "bench") ∈ lw_all := lw_g (lw_at lw_m7 186 rfl) rfl
theorem q1750 : (Jvm.Cond.laysFinal "WebCourtModel" "WebCourtModel" "back" "[I") ∈ lw_all := lw_g (lw_at lw_m7 187 rfl) rfl
theorem q1751 : (Jvm.Cond.soleField "WebCourtModel" "back") ∈ lw_all := lw_g (lw_at lw_m7 188 rfl) rfl
theorem q1752 : (Jvm.Cond.laysFinal "WebCourtModel" "WebCourtModel" "draw" "[I") ∈ lw_all := lw_g (lw_at lw_m7 189 rfl) rfl
theorem q1753 : (Jvm.Cond.soleField "WebCourtModel" "draw") ∈ lw_all := lw_g (lw_at lw_m7 190 rfl) rfl
theorem q1754 : (Jvm.Cond.laysFinal "WebCourtModel" "WebCourtModel" "told" "[I") ∈ lw_all := lw_g (lw_at lw_m7 191 rfl) rfl
theorem q1755 : (Jvm.Cond.soleField "WebCourtModel" "told") ∈ lw_all := lw_g (lw_at lw_m7 192 rfl) rfl
theorem q1756 : (Jvm.Cond.laysFinal "WebCourtModel" "WebCourtModel" "stickyTold" "[I") ∈ lw_all := lw_g (lw_at lw_m7 193 rfl) rfl
theorem q1757 : (Jvm.Cond.soleField "WebCourtModel" "stickyTold") ∈ lw_all := lw_g (lw_at lw_m7 194 rfl) rfl
theorem q1758 : (Jvm.Cond.laysFinal "WebCourtModel" "WebCourtModel" "oneEnd" "[I") ∈ lw_all := lw_g (lw_at lw_m7 195 rfl) rfl
theorem q1759 : (Jvm.Cond.soleField "WebCourtModel" "oneEnd") ∈ lw_all := lw_g (lw_at lw_m7 196 rfl) rfl
theorem q1760 : (Jvm.Cond.laysFinal "WebCourtModel" "WebCourtModel" "otherEnd" "[I") ∈ lw_all := lw_g (lw_at lw_m7 197 rfl) rfl
theorem q1761 : (Jvm.Cond.soleField "WebCourtModel" "otherEnd") ∈ lw_all := lw_g (lw_at lw_m7 198 rfl) rfl
theorem q1762 : (Jvm.Cond.laysFinal "WebCourtModel" "WebCourtModel" "strong" "[I") ∈ lw_all := lw_g (lw_at lw_m7 199 rfl) rfl
theorem q1763 : (Jvm.Cond.soleField "WebCourtModel" "strong") ∈ lw_all := lw_g (lw_at lw_m7 200 rfl) rfl
theorem q1764 : (Jvm.Cond.laysFinal "WebCourtModel" "WebCourtModel" "knotOf" "[I") ∈ lw_all := lw_g (lw_at lw_m7 201 rfl) rfl
theorem q1765 : (Jvm.Cond.soleField "WebCourtModel" "knotOf") ∈ lw_all := lw_g (lw_at lw_m7 202 rfl) rfl
theorem q1766 : (Jvm.Cond.laysFinal "WebCourtModel" "WebCourtModel" "pleaTold" "[I") ∈ lw_all := lw_g (lw_at lw_m7 203 rfl) rfl
theorem q1767 : (Jvm.Cond.soleField "WebCourtModel" "pleaTold") ∈ lw_all := lw_g (lw_at lw_m7 204 rfl) rfl
theorem q1768 : (Jvm.Cond.laysFinal "WebCourtModel" "WebCourtModel" "ruleFrom" "[I") ∈ lw_all := lw_g (lw_at lw_m7 205 rfl) rfl
theorem q1769 : (Jvm.Cond.soleField "WebCourtModel" "ruleFrom") ∈ lw_all := lw_g (lw_at lw_m7 206 rfl) rfl
theorem q1770 : (Jvm.Cond.laysFinal "WebCourtModel" "WebCourtModel" "ruleTo" "[I") ∈ lw_all := lw_g (lw_at lw_m7 207 rfl) rfl
theorem q1771 : (Jvm.Cond.soleField "WebCourtModel" "ruleTo") ∈ lw_all := lw_g (lw_at lw_m7 208 rfl) rfl
theorem q1772 : (Jvm.Cond.laysFinal "WebCourtModel" "WebCourtModel" "kName" "[J") ∈ lw_all := lw_g (lw_at lw_m7 209 rfl) rfl
theorem q1773 : (Jvm.Cond.soleField "WebCourtModel" "kName") ∈ lw_all := lw_g (lw_at lw_m7 210 rfl) rfl
theorem q1774 : (Jvm.Cond.laysFinal "WebCourtModel" "WebCourtModel" "pName" "[J") ∈ lw_all := lw_g (lw_at lw_m7 211 rfl) rfl
theorem q1775 : (Jvm.Cond.soleField "WebCourtModel" "pName") ∈ lw_all := lw_g (lw_at lw_m7 212 rfl) rfl
theorem q1776 : (Jvm.Cond.laysFinal "WebCourtModel" "WebCourtModel" "cName" "[J") ∈ lw_all := lw_g (lw_at lw_m7 213 rfl) rfl
theorem q1777 : (Jvm.Cond.soleField "WebCourtModel" "cName") ∈ lw_all := lw_g (lw_at lw_m7 214 rfl) rfl
theorem q1778 : (Jvm.Cond.laysFinal "WebCourtModel" "WebCourtModel" "code" "[I") ∈ lw_all := lw_g (lw_at lw_m7 215 rfl) rfl
theorem q1779 : (Jvm.Cond.soleField "WebCourtModel" "code") ∈ lw_all := lw_g (lw_at lw_m7 216 rfl) rfl
theorem q1780 : (Jvm.Cond.laysFinal "WebCourtModel" "WebCourtModel" "codeNumber" "[I") ∈ lw_all := lw_g (lw_at lw_m7 217 rfl) rfl
theorem q1781 : (Jvm.Cond.soleField "WebCourtModel" "codeNumber") ∈ lw_all := lw_g (lw_at lw_m7 218 rfl) rfl
theorem q1782 : (Jvm.Cond.laysFinal "WebCourtModel" "WebCourtModel" "eWhat" "[I") ∈ lw_all := lw_g (lw_at lw_m7 219 rfl) rfl
theorem q1783 : (Jvm.Cond.soleField "WebCourtModel" "eWhat") ∈ lw_all := lw_g (lw_at lw_m7 220 rfl) rfl
theorem q1784 : (Jvm.Cond.laysFinal "WebCourtModel" "WebCourtModel" "eSign" "[I") ∈ lw_all := lw_g (lw_at lw_m7 221 rfl) rfl
theorem q1785 : (Jvm.Cond.soleField "WebCourtModel" "eSign") ∈ lw_all := lw_g (lw_at lw_m7 222 rfl) rfl
theorem q1786 : (Jvm.Cond.laysFinal "WebCourtModel" "WebCourtModel" "pile" "[I") ∈ lw_all := lw_g (lw_at lw_m7 223 rfl) rfl
theorem q1787 : (Jvm.Cond.soleField "WebCourtModel" "pile") ∈ lw_all := lw_g (lw_at lw_m7 224 rfl) rfl
theorem q1788 : (Jvm.Cond.lays "WebCourtModel" "WebCourtModel" "bank" "I") ∈ lw_all := lw_g (lw_at lw_m7 225 rfl) rfl
theorem q1789 : (Jvm.Cond.soleField "WebCourtModel" "bank") ∈ lw_all := lw_g (lw_at lw_m7 226 rfl) rfl
theorem q1790 : (Jvm.Cond.lays "WebCourtModel" "WebCourtModel" "rb" "I") ∈ lw_all := lw_g (lw_at lw_m7 227 rfl) rfl
theorem q1791 : (Jvm.Cond.soleField "WebCourtModel" "rb") ∈ lw_all := lw_g (lw_at lw_m7 228 rfl) rfl
theorem q1792 : (Jvm.Cond.lays "WebCourtModel" "WebCourtModel" "codes" "I") ∈ lw_all := lw_g (lw_at lw_m7 229 rfl) rfl
theorem q1793 : (Jvm.Cond.soleField "WebCourtModel" "codes") ∈ lw_all := lw_g (lw_at lw_m7 230 rfl) rfl
theorem q1794 : (Jvm.Cond.lays "WebCourtModel" "WebCourtModel" "within" "I") ∈ lw_all := lw_g (lw_at lw_m7 231 rfl) rfl
theorem q1795 : (Jvm.Cond.soleField "WebCourtModel" "within") ∈ lw_all := lw_g (lw_at lw_m7 232 rfl) rfl
theorem q1796 : (Jvm.Cond.lays "WebCourtModel" "WebCourtModel" "piled" "I") ∈ lw_all := lw_g (lw_at lw_m7 233 rfl) rfl
theorem q1797 : (Jvm.Cond.soleField "WebCourtModel" "piled") ∈ lw_all := lw_g (lw_at lw_m7 234 rfl) rfl
theorem q1798 : (Jvm.Cond.lays "WebCourtModel" "WebCourtModel" "unitsInRule" "I") ∈ lw_all := lw_g (lw_at lw_m7 235 rfl) rfl
theorem q1799 : (Jvm.Cond.soleField "WebCourtModel" "unitsInRule") ∈ lw_all := lw_g (lw_at lw_m7 236 rfl) rfl
theorem q1800 : (Jvm.Cond.lays "WebCourtModel" "WebCourtModel" "askCase" "I") ∈ lw_all := lw_g (lw_at lw_m7 237 rfl) rfl
theorem q1801 : (Jvm.Cond.soleField "WebCourtModel" "askCase") ∈ lw_all := lw_g (lw_at lw_m7 238 rfl) rfl
theorem q1802 : (Jvm.Cond.lays "WebCourtModel" "WebCourtModel" "askPleas" "I") ∈ lw_all := lw_g (lw_at lw_m7 239 rfl) rfl
theorem q1803 : (Jvm.Cond.soleField "WebCourtModel" "askPleas") ∈ lw_all := lw_g (lw_at lw_m8 0 rfl) rfl
theorem q1804 : (Jvm.Cond.laysFinal "WebCourtModel" "WebCourtModel" "all" "[I") ∈ lw_all := lw_g (lw_at lw_m8 1 rfl) rfl
theorem q1805 : (Jvm.Cond.soleField "WebCourtModel" "all") ∈ lw_all := lw_g (lw_at lw_m8 2 rfl) rfl
theorem q1806 : (Jvm.Cond.lays "WebCourtModel" "WebCourtModel" "thought" "I") ∈ lw_all := lw_g (lw_at lw_m8 3 rfl) rfl
theorem q1807 : (Jvm.Cond.soleField "WebCourtModel" "thought") ∈ lw_all := lw_g (lw_at lw_m8 4 rfl) rfl
theorem q1808 : (Jvm.Cond.laysFinal "WebCourtModel" "WebCourtModel" "was" "[I") ∈ lw_all := lw_g (lw_at lw_m8 5 rfl) rfl
theorem q1809 : (Jvm.Cond.soleField "WebCourtModel" "was") ∈ lw_all := lw_g (lw_at lw_m8 6 rfl) rfl
theorem q1810 : (Jvm.Cond.lays "WebCourtModel" "WebCourtModel" "acts" "I") ∈ lw_all := lw_g (lw_at lw_m8 7 rfl) rfl
theorem q1811 : (Jvm.Cond.soleField "WebCourtModel" "acts") ∈ lw_all := lw_g (lw_at lw_m8 8 rfl) rfl
theorem q1812 : (Jvm.Cond.lays "WebCourtModel" "WebCourtModel" "undone" "I") ∈ lw_all := lw_g (lw_at lw_m8 9 rfl) rfl
theorem q1813 : (Jvm.Cond.soleField "WebCourtModel" "undone") ∈ lw_all := lw_g (lw_at lw_m8 10 rfl) rfl
theorem q1814 : (Jvm.Cond.laysFinal "WebCourtModel" "WebCourtModel" "laidRow" "[I") ∈ lw_all := lw_g (lw_at lw_m8 11 rfl) rfl
theorem q1815 : (Jvm.Cond.soleField "WebCourtModel" "laidRow") ∈ lw_all := lw_g (lw_at lw_m8 12 rfl) rfl
theorem q1816 : (Jvm.Cond.lays "WebCourtModel" "WebCourtModel" "laid" "I") ∈ lw_all := lw_g (lw_at lw_m8 13 rfl) rfl
theorem q1817 : (Jvm.Cond.soleField "WebCourtModel" "laid") ∈ lw_all := lw_g (lw_at lw_m8 14 rfl) rfl
theorem q1818 : (Jvm.Cond.laysFinal "WebCourtModel" "WebCourtModel" "verdicts" "[I") ∈ lw_all := lw_g (lw_at lw_m8 15 rfl) rfl
theorem q1819 : (Jvm.Cond.soleField "WebCourtModel" "verdicts") ∈ lw_all := lw_g (lw_at lw_m8 16 rfl) rfl
theorem q1820 : (Jvm.Cond.laysFinal "WebCourtModel" "WebCourtModel" "far" "[I") ∈ lw_all := lw_g (lw_at lw_m8 17 rfl) rfl
theorem q1821 : (Jvm.Cond.soleField "WebCourtModel" "far") ∈ lw_all := lw_g (lw_at lw_m8 18 rfl) rfl
theorem q1822 : (Jvm.Cond.laysFinal "WebCourtModel" "WebCourtModel" "verdictIf" "[I") ∈ lw_all := lw_g (lw_at lw_m8 19 rfl) rfl
theorem q1823 : (Jvm.Cond.soleField "WebCourtModel" "verdictIf") ∈ lw_all := lw_g (lw_at lw_m8 20 rfl) rfl
theorem q1824 : (Jvm.Cond.laysFinal "WebCourtModel" "WebCourtModel" "sCase" "[I") ∈ lw_all := lw_g (lw_at lw_m8 21 rfl) rfl
theorem q1825 : (Jvm.Cond.soleField "WebCourtModel" "sCase") ∈ lw_all := lw_g (lw_at lw_m8 22 rfl) rfl
theorem q1826 : (Jvm.Cond.laysFinal "WebCourtModel" "WebCourtModel" "sMuch" "[I") ∈ lw_all := lw_g (lw_at lw_m8 23 rfl) rfl
theorem q1827 : (Jvm.Cond.soleField "WebCourtModel" "sMuch") ∈ lw_all := lw_g (lw_at lw_m8 24 rfl) rfl
theorem q1828 : (Jvm.Cond.laysFinal "WebCourtModel" "WebCourtModel" "sIs" "[I") ∈ lw_all := lw_g (lw_at lw_m8 25 rfl) rfl
theorem q1829 : (Jvm.Cond.soleField "WebCourtModel" "sIs") ∈ lw_all := lw_g (lw_at lw_m8 26 rfl) rfl
theorem q1830 : (Jvm.Cond.laysFinal "WebCourtModel" "WebCourtModel" "sTold" "[I") ∈ lw_all := lw_g (lw_at lw_m8 27 rfl) rfl
theorem q1831 : (Jvm.Cond.soleField "WebCourtModel" "sTold") ∈ lw_all := lw_g (lw_at lw_m8 28 rfl) rfl
theorem q1832 : (Jvm.Cond.laysFinal "WebCourtModel" "WebCourtModel" "sUntold" "[I") ∈ lw_all := lw_g (lw_at lw_m8 29 rfl) rfl
theorem q1833 : (Jvm.Cond.soleField "WebCourtModel" "sUntold") ∈ lw_all := lw_g (lw_at lw_m8 30 rfl) rfl
theorem q1834 : (Jvm.Cond.laysFinal "WebCourtModel" "WebCourtModel" "parts" "[I") ∈ lw_all := lw_g (lw_at lw_m8 31 rfl) rfl
theorem q1835 : (Jvm.Cond.soleField "WebCourtModel" "parts") ∈ lw_all := lw_g (lw_at lw_m8 32 rfl) rfl
theorem q1836 : (Jvm.Cond.laysFinal "WebCourtModel" "WebCourtModel" "kept" "[I") ∈ lw_all := lw_g (lw_at lw_m8 33 rfl) rfl
theorem q1837 : (Jvm.Cond.soleField "WebCourtModel" "kept") ∈ lw_all := lw_g (lw_at lw_m8 34 rfl) rfl
theorem q1838 : (Jvm.Cond.lays "WebCourtModel" "WebCourtModel" "heards" "I") ∈ lw_all := lw_g (lw_at lw_m8 35 rfl) rfl
theorem q1839 : (Jvm.Cond.soleField "WebCourtModel" "heards") ∈ lw_all := lw_g (lw_at lw_m8 36 rfl) rfl
theorem q1840 : (Jvm.Cond.lays "WebCourtModel" "WebCourtModel" "time" "I") ∈ lw_all := lw_g (lw_at lw_m8 37 rfl) rfl
theorem q1841 : (Jvm.Cond.soleField "WebCourtModel" "time") ∈ lw_all := lw_g (lw_at lw_m8 38 rfl) rfl
theorem q1842 : (Jvm.Cond.laysFinal "WebCourtModel" "WebCourtModel" "boxAll" "[I") ∈ lw_all := lw_g (lw_at lw_m8 39 rfl) rfl
theorem q1843 : (Jvm.Cond.soleField "WebCourtModel" "boxAll") ∈ lw_all := lw_g (lw_at lw_m8 40 rfl) rfl
theorem q1844 : (Jvm.Cond.laysFinal "WebCourtModel" "WebCourtModel" "isBoxed" "[Z") ∈ lw_all := lw_g (lw_at lw_m8 41 rfl) rfl
theorem q1845 : (Jvm.Cond.soleField "WebCourtModel" "isBoxed") ∈ lw_all := lw_g (lw_at lw_m8 42 rfl) rfl
theorem q1846 : (Jvm.Cond.superclass "WebCourtModel" "java/lang/Object") ∈ lw_all := lw_g (lw_at lw_m8 43 rfl) rfl
theorem q1849 : (Jvm.Cond.instanceMethod ({ cls := "WebCourtModel", name := "web", desc := "()I" } : Jvm.MethodName)) ∈ lw_all := lw_g (lw_at lw_m8 46 rfl) rfl
theorem q1850 : (Jvm.Cond.selects "WebCourtModel" ({ cls := "WebCourtModel", name := "web", desc := "()I" } : Jvm.MethodName) ({ cls := "WebCourtModel", name := "web", desc := "()I" } : Jvm.MethodName)) ∈ lw_all := lw_g (lw_at lw_m8 47 rfl) rfl
theorem q1851 : (Jvm.Cond.code ({ cls := "WebCourtModel", name := "web", desc := "()I" } : Jvm.MethodName) prog_22_method_16_code (2 : Nat) (Option.some Jvm.ClassFile.FieldType.int)) ∈ lw_all := lw_g (lw_at lw_m8 48 rfl) rfl
theorem q1852 : (Jvm.Cond.methodLink "WebCourtModel" (240 : Nat) ({ cls := "WebCourtModel", name := "goOn", desc := "()V" } : Jvm.MethodName)) ∈ lw_all := lw_g (lw_at lw_m8 49 rfl) rfl
theorem q1853 : (Jvm.Cond.privateMethod ({ cls := "WebCourtModel", name := "goOn", desc := "()V" } : Jvm.MethodName)) ∈ lw_tbl := lw_at lw_m8 50 rfl
theorem q1854 : (Jvm.Cond.instanceMethod ({ cls := "WebCourtModel", name := "goOn", desc := "()V" } : Jvm.MethodName)) ∈ lw_all := lw_g (lw_at lw_m8 51 rfl) rfl
theorem q1855 : (Jvm.Cond.code ({ cls := "WebCourtModel", name := "goOn", desc := "()V" } : Jvm.MethodName) prog_22_method_9_code (3 : Nat) (Option.none : Option Jvm.ClassFile.FieldType)) ∈ lw_all := lw_g (lw_at lw_m8 52 rfl) rfl
theorem q1856 : (Jvm.Cond.methodLink "WebCourtModel" (204 : Nat) ({ cls := "WebCourtModel", name := "sign", desc := "(I)I" } : Jvm.MethodName)) ∈ lw_all := lw_g (lw_at lw_m8 53 rfl) rfl
theorem q1857 : (Jvm.Cond.privateMethod ({ cls := "WebCourtModel", name := "sign", desc := "(I)I" } : Jvm.MethodName)) ∈ lw_tbl := lw_at lw_m8 54 rfl
theorem q1858 : (Jvm.Cond.instanceMethod ({ cls := "WebCourtModel", name := "sign", desc := "(I)I" } : Jvm.MethodName)) ∈ lw_all := lw_g (lw_at lw_m8 55 rfl) rfl
theorem q1859 : (Jvm.Cond.code ({ cls := "WebCourtModel", name := "sign", desc := "(I)I" } : Jvm.MethodName) prog_22_method_2_code (2 : Nat) (Option.some Jvm.ClassFile.FieldType.int)) ∈ lw_all := lw_g (lw_at lw_m8 56 rfl) rfl
theorem q1860 : (Jvm.Cond.methodLink "WebCourtModel" (211 : Nat) ({ cls := "WebCourtModel", name := "isLetter", desc := "(I)Z" } : Jvm.MethodName)) ∈ lw_all := lw_g (lw_at lw_m8 57 rfl) rfl
theorem q1861 : (Jvm.Cond.static ({ cls := "WebCourtModel", name := "isLetter", desc := "(I)Z" } : Jvm.MethodName)) ∈ lw_all := lw_g (lw_at lw_m8 58 rfl) rfl
theorem q1862 : (Jvm.Cond.code ({ cls := "WebCourtModel", name := "isLetter", desc := "(I)Z" } : Jvm.MethodName) prog_22_method_3_code (1 : Nat) (Option.some Jvm.ClassFile.FieldType.boolean)) ∈ lw_all := lw_g (lw_at lw_m8 59 rfl) rfl
theorem q1863 : (Jvm.Cond.methodLink "WebCourtModel" (219 : Nat) ({ cls := "WebCourtModel", name := "isKept", desc := "(J)Z" } : Jvm.MethodName)) ∈ lw_all := lw_g (lw_at lw_m8 60 rfl) rfl
theorem q1864 : (Jvm.Cond.static ({ cls := "WebCourtModel", name := "isKept", desc := "(J)Z" } : Jvm.MethodName)) ∈ lw_all := lw_g (lw_at lw_m8 61 rfl) rfl
theorem q1865 : (Jvm.Cond.code ({ cls := "WebCourtModel", name := "isKept", desc := "(J)Z" } : Jvm.MethodName) prog_22_method_7_code (3 : Nat) (Option.some Jvm.ClassFile.FieldType.boolean)) ∈ lw_all := lw_g (lw_at lw_m8 62 rfl) rfl
theorem q1866 : (Jvm.Cond.constantLong "WebCourtModel" (158 : Nat) (1802399604 : Int64)) ∈ lw_all := lw_g (lw_at lw_m8 63 rfl) rfl
theorem q1867 : (Jvm.Cond.constantLong "WebCourtModel" (160 : Nat) (1818848869 : Int64)) ∈ lw_all := lw_g (lw_at lw_m8 64 rfl) rfl
theorem q1868 : (Jvm.Cond.constantLong "WebCourtModel" (162 : Nat) (126943821523833 : Int64)) ∈ lw_all := lw_g (lw_at lw_m8 65 rfl) rfl
theorem q1869 : (Jvm.Cond.constantLong "WebCourtModel" (164 : Nat) (1886152033 : Int64)) ∈ lw_all := lw_g (lw_at lw_m8 66 rfl) rfl
theorem q1870 : (Jvm.Cond.constantLong "WebCourtModel" (166 : Nat) (126943973305959 : Int64)) ∈ lw_all := lw_g (lw_at lw_m8 67 rfl) rfl
theorem q1871 : (Jvm.Cond.constantLong "WebCourtModel" (168 : Nat) (1667330917 : Int64)) ∈ lw_all := lw_g (lw_at lw_m8 68 rfl) rfl
theorem q1872 : (Jvm.Cond.constantLong "WebCourtModel" (170 : Nat) (24948 : Int64)) ∈ lw_all := lw_g (lw_at lw_m8 69 rfl) rfl
theorem q1873 : (Jvm.Cond.constantLong "WebCourtModel" (172 : Nat) (123610859660403 : Int64)) ∈ lw_all := lw_g (lw_at lw_m8 70 rfl) rfl
theorem q1874 : (Jvm.Cond.constantLong "WebCourtModel" (174 : Nat) (422608528232 : Int64)) ∈ lw_all := lw_g (lw_at lw_m8 71 rfl) rfl
theorem q1875 : (Jvm.Cond.constantLong "WebCourtModel" (176 : Nat) (7102839 : Int64)) ∈ lw_all := lw_g (lw_at lw_m8 72 rfl) rfl
theorem q1876 : (Jvm.Cond.constantLong "WebCourtModel" (178 : Nat) (1650549611 : Int64)) ∈ lw_all := lw_g (lw_at lw_m8 73 rfl) rfl
theorem q1877 : (Jvm.Cond.constantLong "WebCourtModel" (180 : Nat) (1685217655 : Int64)) ∈ lw_all := lw_g (lw_at lw_m8 74 rfl) rfl
theorem q1878 : (Jvm.Cond.constantLong "WebCourtModel" (182 : Nat) (1835101817 : Int64)) ∈ lw_all := lw_g (lw_at lw_m8 75 rfl) rfl
theorem q1879 : (Jvm.Cond.constantLong "WebCourtModel" (184 : Nat) (108187649798757 : Int64)) ∈ lw_all := lw_g (lw_at lw_m8 76 rfl) rfl
theorem q1880 : (Jvm.Cond.constantLong "WebCourtModel" (186 : Nat) (495873784179 : Int64)) ∈ lw_all := lw_g (lw_at lw_m8 77 rfl) rfl
theorem q1881 : (Jvm.Cond.constantLong "WebCourtModel" (188 : Nat) (7039342 : Int64)) ∈ lw_all := lw_g (lw_at lw_m8 78 rfl) rfl
theorem q1882 : (Jvm.Cond.constantLong "WebCourtModel" (190 : Nat) (1752135026 : Int64)) ∈ lw_all := lw_g (lw_at lw_m8 79 rfl) rfl
theorem q1883 : (Jvm.Cond.constantLong "WebCourtModel" (192 : Nat) (28530 : Int64)) ∈ lw_all := lw_g (lw_at lw_m8 80 rfl) rfl
theorem q1884 : (Jvm.Cond.constantLong "WebCourtModel" (194 : Nat) (6385252 : Int64)) ∈ lw_all := lw_g (lw_at lw_m8 81 rfl) rfl
theorem q1885 : (Jvm.Cond.constantLong "WebCourtModel" (196 : Nat) (7237492 : Int64)) ∈ lw_all := lw_g (lw_at lw_m8 82 rfl) rfl
theorem q1886 : (Jvm.Cond.methodLink "WebCourtModel" (223 : Nat) ({ cls := "WebCourtModel", name := "isDigit", desc := "(I)Z" } : Jvm.MethodName)) ∈ lw_all := lw_g (lw_at lw_m8 83 rfl) rfl
theorem q1887 : (Jvm.Cond.static ({ cls := "WebCourtModel", name := "isDigit", desc := "(I)Z" } : Jvm.MethodName)) ∈ lw_all := lw_g (lw_at lw_m8 84 rfl) rfl
theorem q1888 : (Jvm.Cond.code ({ cls := "WebCourtModel", name := "isDigit", desc := "(I)Z" } : Jvm.MethodName) prog_22_method_4_code (1 : Nat) (Option.some Jvm.ClassFile.FieldType.boolean)) ∈ lw_all := lw_g (lw_at lw_m8 85 rfl) rfl
theorem q1889 : (Jvm.Cond.methodLink "WebCourtModel" (229 : Nat) ({ cls := "WebCourtModel", name := "isSign", desc := "(I)Z" } : Jvm.MethodName)) ∈ lw_all := lw_g (lw_at lw_m8 86 rfl) rfl
theorem q1890 : (Jvm.Cond.static ({ cls := "WebCourtModel", name := "isSign", desc := "(I)Z" } : Jvm.MethodName)) ∈ lw_all := lw_g (lw_at lw_m8 87 rfl) rfl
theorem q1891 : (Jvm.Cond.code ({ cls := "WebCourtModel", name := "isSign", desc := "(I)Z" } : Jvm.MethodName) prog_22_method_8_code (1 : Nat) (Option.some Jvm.ClassFile.FieldType.boolean)) ∈ lw_all := lw_g (lw_at lw_m8 88 rfl) rfl
theorem q1892 : (Jvm.Cond.methodLink "WebCourtModel" (236 : Nat) ({ cls := "WebCourtModel", name := "isGood", desc := "()Z" } : Jvm.MethodName)) ∈ lw_all := lw_g (lw_at lw_m8 89 rfl) rfl
theorem q1893 : (Jvm.Cond.privateMethod ({ cls := "WebCourtModel", name := "isGood", desc := "()Z" } : Jvm.MethodName)) ∈ lw_tbl := lw_at lw_m8 90 rfl
theorem q1894 : (Jvm.Cond.instanceMethod ({ cls := "WebCourtModel", name := "isGood", desc := "()Z" } : Jvm.MethodName)) ∈ lw_all := lw_g (lw_at lw_m8 91 rfl) rfl
theorem q1895 : (Jvm.Cond.code ({ cls := "WebCourtModel", name := "isGood", desc := "()Z" } : Jvm.MethodName) prog_22_method_6_code (1 : Nat) (Option.some Jvm.ClassFile.FieldType.boolean)) ∈ lw_all := lw_g (lw_at lw_m8 92 rfl) rfl
theorem q1896 : (Jvm.Cond.methodLink "WebCourtModel" (258 : Nat) ({ cls := "WebCourtModel", name := "readLine", desc := "()V" } : Jvm.MethodName)) ∈ lw_all := lw_g (lw_at lw_m8 93 rfl) rfl
theorem q1897 : (Jvm.Cond.privateMethod ({ cls := "WebCourtModel", name := "readLine", desc := "()V" } : Jvm.MethodName)) ∈ lw_tbl := lw_at lw_m8 94 rfl
theorem q1898 : (Jvm.Cond.instanceMethod ({ cls := "WebCourtModel", name := "readLine", desc := "()V" } : Jvm.MethodName)) ∈ lw_all := lw_g (lw_at lw_m8 95 rfl) rfl
theorem q1899 : (Jvm.Cond.code ({ cls := "WebCourtModel", name := "readLine", desc := "()V" } : Jvm.MethodName) prog_22_method_19_code (3 : Nat) (Option.none : Option Jvm.ClassFile.FieldType)) ∈ lw_all := lw_g (lw_at lw_m8 96 rfl) rfl
theorem q1900 : (Jvm.Cond.methodLink "WebCourtModel" (272 : Nat) ({ cls := "WebCourtModel", name := "isFull", desc := "()Z" } : Jvm.MethodName)) ∈ lw_all := lw_g (lw_at lw_m8 97 rfl) rfl
theorem q1901 : (Jvm.Cond.privateMethod ({ cls := "WebCourtModel", name := "isFull", desc := "()Z" } : Jvm.MethodName)) ∈ lw_tbl := lw_at lw_m8 98 rfl
theorem q1902 : (Jvm.Cond.instanceMethod ({ cls := "WebCourtModel", name := "isFull", desc := "()Z" } : Jvm.MethodName)) ∈ lw_all := lw_g (lw_at lw_m8 99 rfl) rfl
theorem q1903 : (Jvm.Cond.code ({ cls := "WebCourtModel", name := "isFull", desc := "()Z" } : Jvm.MethodName) prog_22_method_17_code (1 : Nat) (Option.some Jvm.ClassFile.FieldType.boolean)) ∈ lw_all := lw_g (lw_at lw_m8 100 rfl) rfl
theorem q1904 : (Jvm.Cond.methodLink "WebCourtModel" (261 : Nat) ({ cls := "WebCourtModel", name := "isWord", desc := "(J)Z" } : Jvm.MethodName)) ∈ lw_all := lw_g (lw_at lw_m8 101 rfl) rfl
theorem q1905 : (Jvm.Cond.privateMethod ({ cls := "WebCourtModel", name := "isWord", desc := "(J)Z" } : Jvm.MethodName)) ∈ lw_tbl := lw_at lw_m8 102 rfl
theorem q1906 : (Jvm.Cond.instanceMethod ({ cls := "WebCourtModel", name := "isWord", desc := "(J)Z" } : Jvm.MethodName)) ∈ lw_all := lw_g (lw_at lw_m8 103 rfl) rfl
theorem q1907 : (Jvm.Cond.code ({ cls := "WebCourtModel", name := "isWord", desc := "(J)Z" } : Jvm.MethodName) prog_22_method_11_code (3 : Nat) (Option.some Jvm.ClassFile.FieldType.boolean)) ∈ lw_all := lw_g (lw_at lw_m8 104 rfl) rfl
theorem q1908 : (Jvm.Cond.methodLink "WebCourtModel" (264 : Nat) ({ cls := "WebCourtModel", name := "bit", desc := "(II)Z" } : Jvm.MethodName)) ∈ lw_all := lw_g (lw_at lw_m8 105 rfl) rfl
theorem q1909 : (Jvm.Cond.static ({ cls := "WebCourtModel", name := "bit", desc := "(II)Z" } : Jvm.MethodName)) ∈ lw_all := lw_g (lw_at lw_m8 106 rfl) rfl
theorem q1910 : (Jvm.Cond.code ({ cls := "WebCourtModel", name := "bit", desc := "(II)Z" } : Jvm.MethodName) prog_22_method_42_code (2 : Nat) (Option.some Jvm.ClassFile.FieldType.boolean)) ∈ lw_all := lw_g (lw_at lw_m8 107 rfl) rfl
theorem q1911 : (Jvm.Cond.methodLink "WebCourtModel" (243 : Nat) ({ cls := "WebCourtModel", name := "misplaced", desc := "()V" } : Jvm.MethodName)) ∈ lw_all := lw_g (lw_at lw_m8 108 rfl) rfl
theorem q1912 : (Jvm.Cond.privateMethod ({ cls := "WebCourtModel", name := "misplaced", desc := "()V" } : Jvm.MethodName)) ∈ lw_tbl := lw_at lw_m8 109 rfl
theorem q1913 : (Jvm.Cond.instanceMethod ({ cls := "WebCourtModel", name := "misplaced", desc := "()V" } : Jvm.MethodName)) ∈ lw_all := lw_g (lw_at lw_m8 110 rfl) rfl
theorem q1914 : (Jvm.Cond.code ({ cls := "WebCourtModel", name := "misplaced", desc := "()V" } : Jvm.MethodName) prog_22_method_12_code (1 : Nat) (Option.none : Option Jvm.ClassFile.FieldType)) ∈ lw_all := lw_g (lw_at lw_m8 111 rfl) rfl
theorem q1915 : (Jvm.Cond.methodLink "WebCourtModel" (232 : Nat) ({ cls := "WebCourtModel", name := "fails", desc := "(II)V" } : Jvm.MethodName)) ∈ lw_all := lw_g (lw_at lw_m8 112 rfl) rfl
theorem q1916 : (Jvm.Cond.privateMethod ({ cls := "WebCourtModel", name := "fails", desc := "(II)V" } : Jvm.MethodName)) ∈ lw_tbl := lw_at lw_m8 113 rfl
theorem q1917 : (Jvm.Cond.instanceMethod ({ cls := "WebCourtModel", name := "fails", desc := "(II)V" } : Jvm.MethodName)) ∈ lw_all := lw_g (lw_at lw_m8 114 rfl) rfl
theorem q1918 : (Jvm.Cond.code ({ cls := "WebCourtModel", name := "fails", desc := "(II)V" } : Jvm.MethodName) prog_22_method_5_code (3 : Nat) (Option.none : Option Jvm.ClassFile.FieldType)) ∈ lw_all := lw_g (lw_at lw_m8 115 rfl) rfl
theorem q1919 : (Jvm.Cond.methodLink "WebCourtModel" (275 : Nat) ({ cls := "WebCourtModel", name := "knotHere", desc := "()I" } : Jvm.MethodName)) ∈ lw_all := lw_g (lw_at lw_m8 116 rfl) rfl
theorem q1920 : (Jvm.Cond.privateMethod ({ cls := "WebCourtModel", name := "knotHere", desc := "()I" } : Jvm.MethodName)) ∈ lw_tbl := lw_at lw_m8 117 rfl
theorem q1921 : (Jvm.Cond.instanceMethod ({ cls := "WebCourtModel", name := "knotHere", desc := "()I" } : Jvm.MethodName)) ∈ lw_all := lw_g (lw_at lw_m8 118 rfl) rfl
theorem q1922 : (Jvm.Cond.code ({ cls := "WebCourtModel", name := "knotHere", desc := "()I" } : Jvm.MethodName) prog_22_method_21_code (1 : Nat) (Option.some Jvm.ClassFile.FieldType.int)) ∈ lw_all := lw_g (lw_at lw_m8 119 rfl) rfl
theorem q1923 : (Jvm.Cond.methodLink "WebCourtModel" (308 : Nat) ({ cls := "WebCourtModel", name := "here", desc := "([JII)I" } : Jvm.MethodName)) ∈ lw_all := lw_g (lw_at lw_m8 120 rfl) rfl
theorem q1924 : (Jvm.Cond.privateMethod ({ cls := "WebCourtModel", name := "here", desc := "([JII)I" } : Jvm.MethodName)) ∈ lw_tbl := lw_at lw_m8 121 rfl
theorem q1925 : (Jvm.Cond.instanceMethod ({ cls := "WebCourtModel", name := "here", desc := "([JII)I" } : Jvm.MethodName)) ∈ lw_all := lw_g (lw_at lw_m8 122 rfl) rfl
theorem q1926 : (Jvm.Cond.code ({ cls := "WebCourtModel", name := "here", desc := "([JII)I" } : Jvm.MethodName) prog_22_method_20_code (5 : Nat) (Option.some Jvm.ClassFile.FieldType.int)) ∈ lw_all := lw_g (lw_at lw_m8 123 rfl) rfl
theorem q1927 : (Jvm.Cond.methodLink "WebCourtModel" (279 : Nat) ({ cls := "WebCourtModel", name := "fresh", desc := "(I)J" } : Jvm.MethodName)) ∈ lw_all := lw_g (lw_at lw_m8 124 rfl) rfl
theorem q1928 : (Jvm.Cond.privateMethod ({ cls := "WebCourtModel", name := "fresh", desc := "(I)J" } : Jvm.MethodName)) ∈ lw_tbl := lw_at lw_m8 125 rfl
theorem q1929 : (Jvm.Cond.instanceMethod ({ cls := "WebCourtModel", name := "fresh", desc := "(I)J" } : Jvm.MethodName)) ∈ lw_all := lw_g (lw_at lw_m8 126 rfl) rfl
theorem q1930 : (Jvm.Cond.code ({ cls := "WebCourtModel", name := "fresh", desc := "(I)J" } : Jvm.MethodName) prog_22_method_23_code (4 : Nat) (Option.some Jvm.ClassFile.FieldType.long)) ∈ lw_all := lw_g (lw_at lw_m8 127 rfl) rfl
theorem q1931 : (Jvm.Cond.methodLink "WebCourtModel" (283 : Nat) ({ cls := "WebCourtModel", name := "readThread", desc := "()V" } : Jvm.MethodName)) ∈ lw_all := lw_g (lw_at lw_m8 128 rfl) rfl
theorem q1932 : (Jvm.Cond.privateMethod ({ cls := "WebCourtModel", name := "readThread", desc := "()V" } : Jvm.MethodName)) ∈ lw_tbl := lw_at lw_m8 129 rfl
theorem q1933 : (Jvm.Cond.instanceMethod ({ cls := "WebCourtModel", name := "readThread", desc := "()V" } : Jvm.MethodName)) ∈ lw_all := lw_g (lw_at lw_m8 130 rfl) rfl
theorem q1934 : (Jvm.Cond.code ({ cls := "WebCourtModel", name := "readThread", desc := "()V" } : Jvm.MethodName) prog_22_method_26_code (4 : Nat) (Option.none : Option Jvm.ClassFile.FieldType)) ∈ lw_all := lw_g (lw_at lw_m8 131 rfl) rfl
theorem q1935 : (Jvm.Cond.methodLink "WebCourtModel" (296 : Nat) ({ cls := "WebCourtModel", name := "known", desc := "(I)I" } : Jvm.MethodName)) ∈ lw_all := lw_g (lw_at lw_m8 132 rfl) rfl
theorem q1936 : (Jvm.Cond.privateMethod ({ cls := "WebCourtModel", name := "known", desc := "(I)I" } : Jvm.MethodName)) ∈ lw_tbl := lw_at lw_m8 133 rfl
theorem q1937 : (Jvm.Cond.instanceMethod ({ cls := "WebCourtModel", name := "known", desc := "(I)I" } : Jvm.MethodName)) ∈ lw_all := lw_g (lw_at lw_m8 134 rfl) rfl
theorem q1938 : (Jvm.Cond.code ({ cls := "WebCourtModel", name := "known", desc := "(I)I" } : Jvm.MethodName) prog_22_method_24_code (2 : Nat) (Option.some Jvm.ClassFile.FieldType.int)) ∈ lw_all := lw_g (lw_at lw_m8 135 rfl) rfl
theorem q1939 : (Jvm.Cond.methodLink "WebCourtModel" (312 : Nat) ({ cls := "WebCourtModel", name := "isThread", desc := "(III)Z" } : Jvm.MethodName)) ∈ lw_all := lw_g (lw_at lw_m8 136 rfl) rfl
theorem q1940 : (Jvm.Cond.privateMethod ({ cls := "WebCourtModel", name := "isThread", desc := "(III)Z" } : Jvm.MethodName)) ∈ lw_tbl := lw_at lw_m8 137 rfl
theorem q1941 : (Jvm.Cond.instanceMethod ({ cls := "WebCourtModel", name := "isThread", desc := "(III)Z" } : Jvm.MethodName)) ∈ lw_all := lw_g (lw_at lw_m8 138 rfl) rfl
theorem q1942 : (Jvm.Cond.code ({ cls := "WebCourtModel", name := "isThread", desc := "(III)Z" } : Jvm.MethodName) prog_22_method_25_code (4 : Nat) (Option.some Jvm.ClassFile.FieldType.boolean)) ∈ lw_all := lw_g (lw_at lw_m8 139 rfl) rfl
theorem q1943 : (Jvm.Cond.methodLink "WebCourtModel" (286 : Nat) ({ cls := "WebCourtModel", name := "pleaHere", desc := "()I" } : Jvm.MethodName)) ∈ lw_all := lw_g (lw_at lw_m8 140 rfl) rfl
theorem q1944 : (Jvm.Cond.privateMethod ({ cls := "WebCourtModel", name := "pleaHere", desc := "()I" } : Jvm.MethodName)) ∈ lw_tbl := lw_at lw_m8 141 rfl
theorem q1945 : (Jvm.Cond.instanceMethod ({ cls := "WebCourtModel", name := "pleaHere", desc := "()I" } : Jvm.MethodName)) ∈ lw_all := lw_g (lw_at lw_m8 142 rfl) rfl
theorem q1946 : (Jvm.Cond.code ({ cls := "WebCourtModel", name := "pleaHere", desc := "()I" } : Jvm.MethodName) prog_22_method_22_code (1 : Nat) (Option.some Jvm.ClassFile.FieldType.int)) ∈ lw_all := lw_g (lw_at lw_m8 143 rfl) rfl
theorem q1947 : (Jvm.Cond.methodLink "WebCourtModel" (289 : Nat) ({ cls := "WebCourtModel", name := "must", desc := "(Z)V" } : Jvm.MethodName)) ∈ lw_all := lw_g (lw_at lw_m8 144 rfl) rfl
theorem q1948 : (Jvm.Cond.privateMethod ({ cls := "WebCourtModel", name := "must", desc := "(Z)V" } : Jvm.MethodName)) ∈ lw_tbl := lw_at lw_m8 145 rfl
theorem q1949 : (Jvm.Cond.instanceMethod ({ cls := "WebCourtModel", name := "must", desc := "(Z)V" } : Jvm.MethodName)) ∈ lw_all := lw_g (lw_at lw_m8 146 rfl) rfl
theorem q1950 : (Jvm.Cond.code ({ cls := "WebCourtModel", name := "must", desc := "(Z)V" } : Jvm.MethodName) prog_22_method_13_code (2 : Nat) (Option.none : Option Jvm.ClassFile.FieldType)) ∈ lw_all := lw_g (lw_at lw_m8 147 rfl) rfl
theorem q1951 : (Jvm.Cond.methodLink "WebCourtModel" (268 : Nat) ({ cls := "WebCourtModel", name := "numeral", desc := "(II)I" } : Jvm.MethodName)) ∈ lw_all := lw_g (lw_at lw_m8 148 rfl) rfl
theorem q1952 : (Jvm.Cond.privateMethod ({ cls := "WebCourtModel", name := "numeral", desc := "(II)I" } : Jvm.MethodName)) ∈ lw_tbl := lw_at lw_m8 149 rfl
theorem q1953 : (Jvm.Cond.instanceMethod ({ cls := "WebCourtModel", name := "numeral", desc := "(II)I" } : Jvm.MethodName)) ∈ lw_all := lw_g (lw_at lw_m8 150 rfl) rfl
theorem q1954 : (Jvm.Cond.code ({ cls := "WebCourtModel", name := "numeral", desc := "(II)I" } : Jvm.MethodName) prog_22_method_14_code (4 : Nat) (Option.some Jvm.ClassFile.FieldType.int)) ∈ lw_all := lw_g (lw_at lw_m8 151 rfl) rfl
theorem q1955 : (Jvm.Cond.methodLink "WebCourtModel" (293 : Nat) ({ cls := "WebCourtModel", name := "readCase", desc := "()V" } : Jvm.MethodName)) ∈ lw_all := lw_g (lw_at lw_m8 152 rfl) rfl
theorem q1956 : (Jvm.Cond.privateMethod ({ cls := "WebCourtModel", name := "readCase", desc := "()V" } : Jvm.MethodName)) ∈ lw_tbl := lw_at lw_m8 153 rfl
theorem q1957 : (Jvm.Cond.instanceMethod ({ cls := "WebCourtModel", name := "readCase", desc := "()V" } : Jvm.MethodName)) ∈ lw_all := lw_g (lw_at lw_m8 154 rfl) rfl
theorem q1958 : (Jvm.Cond.code ({ cls := "WebCourtModel", name := "readCase", desc := "()V" } : Jvm.MethodName) prog_22_method_27_code (4 : Nat) (Option.none : Option Jvm.ClassFile.FieldType)) ∈ lw_all := lw_g (lw_at lw_m8 155 rfl) rfl
theorem q1959 : (Jvm.Cond.methodLink "WebCourtModel" (316 : Nat) ({ cls := "WebCourtModel", name := "bitsOf", desc := "(I)I" } : Jvm.MethodName)) ∈ lw_all := lw_g (lw_at lw_m8 156 rfl) rfl
theorem q1960 : (Jvm.Cond.static ({ cls := "WebCourtModel", name := "bitsOf", desc := "(I)I" } : Jvm.MethodName)) ∈ lw_all := lw_g (lw_at lw_m8 157 rfl) rfl
theorem q1961 : (Jvm.Cond.code ({ cls := "WebCourtModel", name := "bitsOf", desc := "(I)I" } : Jvm.MethodName) prog_22_method_43_code (3 : Nat) (Option.some Jvm.ClassFile.FieldType.int)) ∈ lw_all := lw_g (lw_at lw_m8 158 rfl) rfl
theorem q1962 : (Jvm.Cond.methodLink "WebCourtModel" (299 : Nat) ({ cls := "WebCourtModel", name := "readRule", desc := "()V" } : Jvm.MethodName)) ∈ lw_all := lw_g (lw_at lw_m8 159 rfl) rfl
theorem q1963 : (Jvm.Cond.privateMethod ({ cls := "WebCourtModel", name := "readRule", desc := "()V" } : Jvm.MethodName)) ∈ lw_tbl := lw_at lw_m8 160 rfl
theorem q1964 : (Jvm.Cond.instanceMethod ({ cls := "WebCourtModel", name := "readRule", desc := "()V" } : Jvm.MethodName)) ∈ lw_all := lw_g (lw_at lw_m8 161 rfl) rfl
theorem q1965 : (Jvm.Cond.code ({ cls := "WebCourtModel", name := "readRule", desc := "()V" } : Jvm.MethodName) prog_22_method_28_code (1 : Nat) (Option.none : Option Jvm.ClassFile.FieldType)) ∈ lw_all := lw_g (lw_at lw_m8 162 rfl) rfl
theorem q1966 : (Jvm.Cond.methodLink "WebCourtModel" (322 : Nat) ({ cls := "WebCourtModel", name := "e", desc := "()V" } : Jvm.MethodName)) ∈ lw_all := lw_g (lw_at lw_m8 163 rfl) rfl
theorem q1967 : (Jvm.Cond.privateMethod ({ cls := "WebCourtModel", name := "e", desc := "()V" } : Jvm.MethodName)) ∈ lw_tbl := lw_at lw_m8 164 rfl
theorem q1968 : (Jvm.Cond.instanceMethod ({ cls := "WebCourtModel", name := "e", desc := "()V" } : Jvm.MethodName)) ∈ lw_all := lw_g (lw_at lw_m8 165 rfl) rfl
theorem q1969 : (Jvm.Cond.code ({ cls := "WebCourtModel", name := "e", desc := "()V" } : Jvm.MethodName) prog_22_method_31_code (2 : Nat) (Option.none : Option Jvm.ClassFile.FieldType)) ∈ lw_all := lw_g (lw_at lw_m8 166 rfl) rfl
theorem q1970 : (Jvm.Cond.methodLink "WebCourtModel" (331 : Nat) ({ cls := "WebCourtModel", name := "pushE", desc := "(II)V" } : Jvm.MethodName)) ∈ lw_all := lw_g (lw_at lw_m8 167 rfl) rfl
theorem q1971 : (Jvm.Cond.privateMethod ({ cls := "WebCourtModel", name := "pushE", desc := "(II)V" } : Jvm.MethodName)) ∈ lw_tbl := lw_at lw_m8 168 rfl
theorem q1972 : (Jvm.Cond.instanceMethod ({ cls := "WebCourtModel", name := "pushE", desc := "(II)V" } : Jvm.MethodName)) ∈ lw_all := lw_g (lw_at lw_m8 169 rfl) rfl
theorem q1973 : (Jvm.Cond.code ({ cls := "WebCourtModel", name := "pushE", desc := "(II)V" } : Jvm.MethodName) prog_22_method_30_code (3 : Nat) (Option.none : Option Jvm.ClassFile.FieldType)) ∈ lw_all := lw_g (lw_at lw_m8 170 rfl) rfl
theorem q1974 : (Jvm.Cond.methodLink "WebCourtModel" (334 : Nat) ({ cls := "WebCourtModel", name := "unit", desc := "()Z" } : Jvm.MethodName)) ∈ lw_all := lw_g (lw_at lw_m8 171 rfl) rfl
theorem q1975 : (Jvm.Cond.privateMethod ({ cls := "WebCourtModel", name := "unit", desc := "()Z" } : Jvm.MethodName)) ∈ lw_tbl := lw_at lw_m8 172 rfl
theorem q1976 : (Jvm.Cond.instanceMethod ({ cls := "WebCourtModel", name := "unit", desc := "()Z" } : Jvm.MethodName)) ∈ lw_all := lw_g (lw_at lw_m8 173 rfl) rfl
theorem q1977 : (Jvm.Cond.code ({ cls := "WebCourtModel", name := "unit", desc := "()Z" } : Jvm.MethodName) prog_22_method_33_code (7 : Nat) (Option.some Jvm.ClassFile.FieldType.boolean)) ∈ lw_all := lw_g (lw_at lw_m8 174 rfl) rfl
theorem q1978 : (Jvm.Cond.methodLink "WebCourtModel" (305 : Nat) ({ cls := "WebCourtModel", name := "isSignHere", desc := "(I)Z" } : Jvm.MethodName)) ∈ lw_all := lw_g (lw_at lw_m8 175 rfl) rfl
theorem q1979 : (Jvm.Cond.privateMethod ({ cls := "WebCourtModel", name := "isSignHere", desc := "(I)Z" } : Jvm.MethodName)) ∈ lw_tbl := lw_at lw_m8 176 rfl
theorem q1980 : (Jvm.Cond.instanceMethod ({ cls := "WebCourtModel", name := "isSignHere", desc := "(I)Z" } : Jvm.MethodName)) ∈ lw_all := lw_g (lw_at lw_m8 177 rfl) rfl
theorem q1981 : (Jvm.Cond.code ({ cls := "WebCourtModel", name := "isSignHere", desc := "(I)Z" } : Jvm.MethodName) prog_22_method_10_code (2 : Nat) (Option.some Jvm.ClassFile.FieldType.boolean)) ∈ lw_all := lw_g (lw_at lw_m8 178 rfl) rfl
theorem q1982 : (Jvm.Cond.methodLink "WebCourtModel" (340 : Nat) ({ cls := "WebCourtModel", name := "wordHere", desc := "()I" } : Jvm.MethodName)) ∈ lw_all := lw_g (lw_at lw_m8 179 rfl) rfl
theorem q1983 : (Jvm.Cond.privateMethod ({ cls := "WebCourtModel", name := "wordHere", desc := "()I" } : Jvm.MethodName)) ∈ lw_tbl := lw_at lw_m8 180 rfl
theorem q1984 : (Jvm.Cond.instanceMethod ({ cls := "WebCourtModel", name := "wordHere", desc := "()I" } : Jvm.MethodName)) ∈ lw_all := lw_g (lw_at lw_m8 181 rfl) rfl
theorem q1985 : (Jvm.Cond.code ({ cls := "WebCourtModel", name := "wordHere", desc := "()I" } : Jvm.MethodName) prog_22_method_32_code (1 : Nat) (Option.some Jvm.ClassFile.FieldType.int)) ∈ lw_all := lw_g (lw_at lw_m8 182 rfl) rfl
theorem q1986 : (Jvm.Cond.methodLink "WebCourtModel" (343 : Nat) ({ cls := "WebCourtModel", name := "emit", desc := "(II)V" } : Jvm.MethodName)) ∈ lw_all := lw_g (lw_at lw_m8 183 rfl) rfl
theorem q1987 : (Jvm.Cond.privateMethod ({ cls := "WebCourtModel", name := "emit", desc := "(II)V" } : Jvm.MethodName)) ∈ lw_tbl := lw_at lw_m8 184 rfl
theorem q1988 : (Jvm.Cond.instanceMethod ({ cls := "WebCourtModel", name := "emit", desc := "(II)V" } : Jvm.MethodName)) ∈ lw_all := lw_g (lw_at lw_m8 185 rfl) rfl
theorem q1989 : (Jvm.Cond.code ({ cls := "WebCourtModel", name := "emit", desc := "(II)V" } : Jvm.MethodName) prog_22_method_29_code (3 : Nat) (Option.none : Option Jvm.ClassFile.FieldType)) ∈ lw_all := lw_g (lw_at lw_m8 186 rfl) rfl
theorem q1990 : (Jvm.Cond.methodLink "WebCourtModel" (337 : Nat) ({ cls := "WebCourtModel", name := "behindUnit", desc := "()Z" } : Jvm.MethodName)) ∈ lw_all := lw_g (lw_at lw_m8 187 rfl) rfl
theorem q1991 : (Jvm.Cond.privateMethod ({ cls := "WebCourtModel", name := "behindUnit", desc := "()Z" } : Jvm.MethodName)) ∈ lw_tbl := lw_at lw_m8 188 rfl
theorem q1992 : (Jvm.Cond.instanceMethod ({ cls := "WebCourtModel", name := "behindUnit", desc := "()Z" } : Jvm.MethodName)) ∈ lw_all := lw_g (lw_at lw_m8 189 rfl) rfl
theorem q1993 : (Jvm.Cond.code ({ cls := "WebCourtModel", name := "behindUnit", desc := "()Z" } : Jvm.MethodName) prog_22_method_36_code (2 : Nat) (Option.some Jvm.ClassFile.FieldType.boolean)) ∈ lw_all := lw_g (lw_at lw_m8 190 rfl) rfl
theorem q1994 : (Jvm.Cond.methodLink "WebCourtModel" (346 : Nat) ({ cls := "WebCourtModel", name := "rankHere", desc := "()I" } : Jvm.MethodName)) ∈ lw_all := lw_g (lw_at lw_m8 191 rfl) rfl
theorem q1995 : (Jvm.Cond.privateMethod ({ cls := "WebCourtModel", name := "rankHere", desc := "()I" } : Jvm.MethodName)) ∈ lw_tbl := lw_at lw_m8 192 rfl
theorem q1996 : (Jvm.Cond.instanceMethod ({ cls := "WebCourtModel", name := "rankHere", desc := "()I" } : Jvm.MethodName)) ∈ lw_all := lw_g (lw_at lw_m8 193 rfl) rfl
theorem q1997 : (Jvm.Cond.code ({ cls := "WebCourtModel", name := "rankHere", desc := "()I" } : Jvm.MethodName) prog_22_method_34_code (1 : Nat) (Option.some Jvm.ClassFile.FieldType.int)) ∈ lw_all := lw_g (lw_at lw_m8 194 rfl) rfl
theorem q1998 : (Jvm.Cond.methodLink "WebCourtModel" (349 : Nat) ({ cls := "WebCourtModel", name := "isCompared", desc := "()Z" } : Jvm.MethodName)) ∈ lw_all := lw_g (lw_at lw_m8 195 rfl) rfl
theorem q1999 : (Jvm.Cond.privateMethod ({ cls := "WebCourtModel", name := "isCompared", desc := "()Z" } : Jvm.MethodName)) ∈ lw_tbl := lw_at lw_m8 196 rfl
theorem q2000 : (Jvm.Cond.instanceMethod ({ cls := "WebCourtModel", name := "isCompared", desc := "()Z" } : Jvm.MethodName)) ∈ lw_all := lw_g (lw_at lw_m8 197 rfl) rfl
theorem q2001 : (Jvm.Cond.code ({ cls := "WebCourtModel", name := "isCompared", desc := "()Z" } : Jvm.MethodName) prog_22_method_35_code (2 : Nat) (Option.some Jvm.ClassFile.FieldType.boolean)) ∈ lw_all := lw_g (lw_at lw_m8 198 rfl) rfl
theorem q2002 : (Jvm.Cond.methodLink "WebCourtModel" (302 : Nat) ({ cls := "WebCourtModel", name := "once", desc := "(II)I" } : Jvm.MethodName)) ∈ lw_all := lw_g (lw_at lw_m8 199 rfl) rfl
theorem q2003 : (Jvm.Cond.privateMethod ({ cls := "WebCourtModel", name := "once", desc := "(II)I" } : Jvm.MethodName)) ∈ lw_tbl := lw_at lw_m8 200 rfl
theorem q2004 : (Jvm.Cond.instanceMethod ({ cls := "WebCourtModel", name := "once", desc := "(II)I" } : Jvm.MethodName)) ∈ lw_all := lw_g (lw_at lw_m8 201 rfl) rfl
theorem q2005 : (Jvm.Cond.code ({ cls := "WebCourtModel", name := "once", desc := "(II)I" } : Jvm.MethodName) prog_22_method_18_code (3 : Nat) (Option.some Jvm.ClassFile.FieldType.int)) ∈ lw_all := lw_g (lw_at lw_m8 202 rfl) rfl
theorem q2007 : (Jvm.Cond.instanceMethod ({ cls := "WebCourtModel", name := "fault", desc := "(I)I" } : Jvm.MethodName)) ∈ lw_all := lw_g (lw_at lw_m8 204 rfl) rfl
theorem q2008 : (Jvm.Cond.selects "WebCourtModel" ({ cls := "WebCourtModel", name := "fault", desc := "(I)I" } : Jvm.MethodName) ({ cls := "WebCourtModel", name := "fault", desc := "(I)I" } : Jvm.MethodName)) ∈ lw_all := lw_g (lw_at lw_m8 205 rfl) rfl
theorem q2009 : (Jvm.Cond.code ({ cls := "WebCourtModel", name := "fault", desc := "(I)I" } : Jvm.MethodName) prog_22_method_40_code (2 : Nat) (Option.some Jvm.ClassFile.FieldType.int)) ∈ lw_all := lw_g (lw_at lw_m8 206 rfl) rfl
theorem q2011 : (Jvm.Cond.instanceMethod ({ cls := "WebCourtModel", name := "knot", desc := "(II)I" } : Jvm.MethodName)) ∈ lw_all := lw_g (lw_at lw_m8 208 rfl) rfl
theorem q2012 : (Jvm.Cond.selects "WebCourtModel" ({ cls := "WebCourtModel", name := "knot", desc := "(II)I" } : Jvm.MethodName) ({ cls := "WebCourtModel", name := "knot", desc := "(II)I" } : Jvm.MethodName)) ∈ lw_all := lw_g (lw_at lw_m8 209 rfl) rfl
theorem q2013 : (Jvm.Cond.code ({ cls := "WebCourtModel", name := "knot", desc := "(II)I" } : Jvm.MethodName) prog_22_method_65_code (3 : Nat) (Option.some Jvm.ClassFile.FieldType.int)) ∈ lw_all := lw_g (lw_at lw_m8 210 rfl) rfl
theorem q2014 : (Jvm.Cond.methodLink "WebCourtModel" (419 : Nat) ({ cls := "WebCourtModel", name := "isKnot", desc := "(I)Z" } : Jvm.MethodName)) ∈ lw_all := lw_g (lw_at lw_m8 211 rfl) rfl
theorem q2015 : (Jvm.Cond.privateMethod ({ cls := "WebCourtModel", name := "isKnot", desc := "(I)Z" } : Jvm.MethodName)) ∈ lw_tbl := lw_at lw_m8 212 rfl
theorem q2016 : (Jvm.Cond.instanceMethod ({ cls := "WebCourtModel", name := "isKnot", desc := "(I)Z" } : Jvm.MethodName)) ∈ lw_all := lw_g (lw_at lw_m8 213 rfl) rfl
theorem q2017 : (Jvm.Cond.code ({ cls := "WebCourtModel", name := "isKnot", desc := "(I)Z" } : Jvm.MethodName) prog_22_method_51_code (2 : Nat) (Option.some Jvm.ClassFile.FieldType.boolean)) ∈ lw_all := lw_g (lw_at lw_m8 214 rfl) rfl
theorem q2018 : (Jvm.Cond.methodLink "WebCourtModel" (374 : Nat) ({ cls := "WebCourtModel", name := "isIn", desc := "(III)Z" } : Jvm.MethodName)) ∈ lw_all := lw_g (lw_at lw_m8 215 rfl) rfl
theorem q2019 : (Jvm.Cond.static ({ cls := "WebCourtModel", name := "isIn", desc := "(III)Z" } : Jvm.MethodName)) ∈ lw_all := lw_g (lw_at lw_m8 216 rfl) rfl
theorem q2020 : (Jvm.Cond.code ({ cls := "WebCourtModel", name := "isIn", desc := "(III)Z" } : Jvm.MethodName) prog_22_method_41_code (3 : Nat) (Option.some Jvm.ClassFile.FieldType.boolean)) ∈ lw_all := lw_g (lw_at lw_m8 217 rfl) rfl
theorem q2021 : (Jvm.Cond.methodLink "WebCourtModel" (422 : Nat) ({ cls := "WebCourtModel", name := "nextTo", desc := "(IZ)I" } : Jvm.MethodName)) ∈ lw_all := lw_g (lw_at lw_m8 218 rfl) rfl
theorem q2022 : (Jvm.Cond.privateMethod ({ cls := "WebCourtModel", name := "nextTo", desc := "(IZ)I" } : Jvm.MethodName)) ∈ lw_tbl := lw_at lw_m8 219 rfl
theorem q2023 : (Jvm.Cond.instanceMethod ({ cls := "WebCourtModel", name := "nextTo", desc := "(IZ)I" } : Jvm.MethodName)) ∈ lw_all := lw_g (lw_at lw_m8 220 rfl) rfl
theorem q2024 : (Jvm.Cond.code ({ cls := "WebCourtModel", name := "nextTo", desc := "(IZ)I" } : Jvm.MethodName) prog_22_method_64_code (6 : Nat) (Option.some Jvm.ClassFile.FieldType.int)) ∈ lw_all := lw_g (lw_at lw_m8 221 rfl) rfl
theorem q2025 : (Jvm.Cond.methodLink "WebCourtModel" (404 : Nat) ({ cls := "WebCourtModel", name := "heldAt", desc := "(I)I" } : Jvm.MethodName)) ∈ lw_all := lw_g (lw_at lw_m8 222 rfl) rfl
theorem q2026 : (Jvm.Cond.privateMethod ({ cls := "WebCourtModel", name := "heldAt", desc := "(I)I" } : Jvm.MethodName)) ∈ lw_tbl := lw_at lw_m8 223 rfl
theorem q2027 : (Jvm.Cond.instanceMethod ({ cls := "WebCourtModel", name := "heldAt", desc := "(I)I" } : Jvm.MethodName)) ∈ lw_all := lw_g (lw_at lw_m8 224 rfl) rfl
theorem q2028 : (Jvm.Cond.code ({ cls := "WebCourtModel", name := "heldAt", desc := "(I)I" } : Jvm.MethodName) prog_22_method_58_code (4 : Nat) (Option.some Jvm.ClassFile.FieldType.int)) ∈ lw_all := lw_g (lw_at lw_m8 225 rfl) rfl
theorem q2029 : (Jvm.Cond.methodLink "WebCourtModel" (401 : Nat) ({ cls := "WebCourtModel", name := "placeOf", desc := "(I)I" } : Jvm.MethodName)) ∈ lw_all := lw_g (lw_at lw_m8 226 rfl) rfl
theorem q2030 : (Jvm.Cond.privateMethod ({ cls := "WebCourtModel", name := "placeOf", desc := "(I)I" } : Jvm.MethodName)) ∈ lw_tbl := lw_at lw_m8 227 rfl
theorem q2031 : (Jvm.Cond.instanceMethod ({ cls := "WebCourtModel", name := "placeOf", desc := "(I)I" } : Jvm.MethodName)) ∈ lw_all := lw_g (lw_at lw_m8 228 rfl) rfl
theorem q2032 : (Jvm.Cond.code ({ cls := "WebCourtModel", name := "placeOf", desc := "(I)I" } : Jvm.MethodName) prog_22_method_53_code (2 : Nat) (Option.some Jvm.ClassFile.FieldType.int)) ∈ lw_all := lw_g (lw_at lw_m8 229 rfl) rfl
theorem q2034 : (Jvm.Cond.instanceMethod ({ cls := "WebCourtModel", name := "plea", desc := "(I)I" } : Jvm.MethodName)) ∈ lw_all := lw_g (lw_at lw_m8 231 rfl) rfl
theorem q2035 : (Jvm.Cond.selects "WebCourtModel" ({ cls := "WebCourtModel", name := "plea", desc := "(I)I" } : Jvm.MethodName) ({ cls := "WebCourtModel", name := "plea", desc := "(I)I" } : Jvm.MethodName)) ∈ lw_all := lw_g (lw_at lw_m8 232 rfl) rfl
theorem q2036 : (Jvm.Cond.code ({ cls := "WebCourtModel", name := "plea", desc := "(I)I" } : Jvm.MethodName) prog_22_method_66_code (2 : Nat) (Option.some Jvm.ClassFile.FieldType.int)) ∈ lw_all := lw_g (lw_at lw_m8 233 rfl) rfl
theorem q2037 : (Jvm.Cond.methodLink "WebCourtModel" (426 : Nat) ({ cls := "WebCourtModel", name := "isPlea", desc := "(I)Z" } : Jvm.MethodName)) ∈ lw_all := lw_g (lw_at lw_m8 234 rfl) rfl
theorem q2038 : (Jvm.Cond.privateMethod ({ cls := "WebCourtModel", name := "isPlea", desc := "(I)Z" } : Jvm.MethodName)) ∈ lw_tbl := lw_at lw_m8 235 rfl
theorem q2039 : (Jvm.Cond.instanceMethod ({ cls := "WebCourtModel", name := "isPlea", desc := "(I)Z" } : Jvm.MethodName)) ∈ lw_all := lw_g (lw_at lw_m8 236 rfl) rfl
theorem q2040 : (Jvm.Cond.code ({ cls := "WebCourtModel", name := "isPlea", desc := "(I)Z" } : Jvm.MethodName) prog_22_method_50_code (2 : Nat) (Option.some Jvm.ClassFile.FieldType.boolean)) ∈ lw_all := lw_g (lw_at lw_m8 237 rfl) rfl
theorem q2041 : (Jvm.Cond.methodLink "WebCourtModel" (377 : Nat) ({ cls := "WebCourtModel", name := "pleads", desc := "()I" } : Jvm.MethodName)) ∈ lw_all := lw_g (lw_at lw_m8 238 rfl) rfl
theorem q2042 : (Jvm.Cond.privateMethod ({ cls := "WebCourtModel", name := "pleads", desc := "()I" } : Jvm.MethodName)) ∈ lw_tbl := lw_at lw_m8 239 rfl
theorem q2043 : (Jvm.Cond.instanceMethod ({ cls := "WebCourtModel", name := "pleads", desc := "()I" } : Jvm.MethodName)) ∈ lw_all := lw_g (lw_at lw_m9 0 rfl) rfl
theorem q2044 : (Jvm.Cond.code ({ cls := "WebCourtModel", name := "pleads", desc := "()I" } : Jvm.MethodName) prog_22_method_47_code (1 : Nat) (Option.some Jvm.ClassFile.FieldType.int)) ∈ lw_all := lw_g (lw_at lw_m9 1 rfl) rfl
theorem q2046 : (Jvm.Cond.instanceMethod ({ cls := "WebCourtModel", name := "item", desc := "(II)I" } : Jvm.MethodName)) ∈ lw_all := lw_g (lw_at lw_m9 3 rfl) rfl
theorem q2047 : (Jvm.Cond.selects "WebCourtModel" ({ cls := "WebCourtModel", name := "item", desc := "(II)I" } : Jvm.MethodName) ({ cls := "WebCourtModel", name := "item", desc := "(II)I" } : Jvm.MethodName)) ∈ lw_all := lw_g (lw_at lw_m9 4 rfl) rfl
theorem q2048 : (Jvm.Cond.code ({ cls := "WebCourtModel", name := "item", desc := "(II)I" } : Jvm.MethodName) prog_22_method_67_code (3 : Nat) (Option.some Jvm.ClassFile.FieldType.int)) ∈ lw_all := lw_g (lw_at lw_m9 5 rfl) rfl
theorem q2049 : (Jvm.Cond.methodLink "WebCourtModel" (383 : Nat) ({ cls := "WebCourtModel", name := "isCase", desc := "(I)Z" } : Jvm.MethodName)) ∈ lw_all := lw_g (lw_at lw_m9 6 rfl) rfl
theorem q2050 : (Jvm.Cond.privateMethod ({ cls := "WebCourtModel", name := "isCase", desc := "(I)Z" } : Jvm.MethodName)) ∈ lw_tbl := lw_at lw_m9 7 rfl
theorem q2051 : (Jvm.Cond.instanceMethod ({ cls := "WebCourtModel", name := "isCase", desc := "(I)Z" } : Jvm.MethodName)) ∈ lw_all := lw_g (lw_at lw_m9 8 rfl) rfl
theorem q2052 : (Jvm.Cond.code ({ cls := "WebCourtModel", name := "isCase", desc := "(I)Z" } : Jvm.MethodName) prog_22_method_49_code (2 : Nat) (Option.some Jvm.ClassFile.FieldType.boolean)) ∈ lw_all := lw_g (lw_at lw_m9 9 rfl) rfl
theorem q2054 : (Jvm.Cond.instanceMethod ({ cls := "WebCourtModel", name := "verdict", desc := "(I)I" } : Jvm.MethodName)) ∈ lw_all := lw_g (lw_at lw_m9 11 rfl) rfl
theorem q2055 : (Jvm.Cond.selects "WebCourtModel" ({ cls := "WebCourtModel", name := "verdict", desc := "(I)I" } : Jvm.MethodName) ({ cls := "WebCourtModel", name := "verdict", desc := "(I)I" } : Jvm.MethodName)) ∈ lw_all := lw_g (lw_at lw_m9 12 rfl) rfl
theorem q2056 : (Jvm.Cond.code ({ cls := "WebCourtModel", name := "verdict", desc := "(I)I" } : Jvm.MethodName) prog_22_method_68_code (2 : Nat) (Option.some Jvm.ClassFile.FieldType.int)) ∈ lw_all := lw_g (lw_at lw_m9 13 rfl) rfl
theorem q2057 : (Jvm.Cond.methodLink "WebCourtModel" (416 : Nat) ({ cls := "WebCourtModel", name := "verdictOf", desc := "(I)I" } : Jvm.MethodName)) ∈ lw_all := lw_g (lw_at lw_m9 14 rfl) rfl
theorem q2058 : (Jvm.Cond.privateMethod ({ cls := "WebCourtModel", name := "verdictOf", desc := "(I)I" } : Jvm.MethodName)) ∈ lw_tbl := lw_at lw_m9 15 rfl
theorem q2059 : (Jvm.Cond.instanceMethod ({ cls := "WebCourtModel", name := "verdictOf", desc := "(I)I" } : Jvm.MethodName)) ∈ lw_all := lw_g (lw_at lw_m9 16 rfl) rfl
theorem q2060 : (Jvm.Cond.code ({ cls := "WebCourtModel", name := "verdictOf", desc := "(I)I" } : Jvm.MethodName) prog_22_method_61_code (2 : Nat) (Option.some Jvm.ClassFile.FieldType.int)) ∈ lw_all := lw_g (lw_at lw_m9 17 rfl) rfl
theorem q2061 : (Jvm.Cond.methodLink "WebCourtModel" (410 : Nat) ({ cls := "WebCourtModel", name := "verdictBy", desc := "(II)I" } : Jvm.MethodName)) ∈ lw_all := lw_g (lw_at lw_m9 18 rfl) rfl
theorem q2062 : (Jvm.Cond.privateMethod ({ cls := "WebCourtModel", name := "verdictBy", desc := "(II)I" } : Jvm.MethodName)) ∈ lw_tbl := lw_at lw_m9 19 rfl
theorem q2063 : (Jvm.Cond.instanceMethod ({ cls := "WebCourtModel", name := "verdictBy", desc := "(II)I" } : Jvm.MethodName)) ∈ lw_all := lw_g (lw_at lw_m9 20 rfl) rfl
theorem q2064 : (Jvm.Cond.code ({ cls := "WebCourtModel", name := "verdictBy", desc := "(II)I" } : Jvm.MethodName) prog_22_method_60_code (3 : Nat) (Option.some Jvm.ClassFile.FieldType.int)) ∈ lw_all := lw_g (lw_at lw_m9 21 rfl) rfl
theorem q2065 : (Jvm.Cond.methodLink "WebCourtModel" (407 : Nat) ({ cls := "WebCourtModel", name := "comes", desc := "()I" } : Jvm.MethodName)) ∈ lw_all := lw_g (lw_at lw_m9 22 rfl) rfl
theorem q2066 : (Jvm.Cond.privateMethod ({ cls := "WebCourtModel", name := "comes", desc := "()I" } : Jvm.MethodName)) ∈ lw_tbl := lw_at lw_m9 23 rfl
theorem q2067 : (Jvm.Cond.instanceMethod ({ cls := "WebCourtModel", name := "comes", desc := "()I" } : Jvm.MethodName)) ∈ lw_all := lw_g (lw_at lw_m9 24 rfl) rfl
theorem q2068 : (Jvm.Cond.code ({ cls := "WebCourtModel", name := "comes", desc := "()I" } : Jvm.MethodName) prog_22_method_39_code (4 : Nat) (Option.some Jvm.ClassFile.FieldType.int)) ∈ lw_all := lw_g (lw_at lw_m9 25 rfl) rfl
theorem q2069 : (Jvm.Cond.methodLink "WebCourtModel" (364 : Nat) ({ cls := "WebCourtModel", name := "asked", desc := "(II)I" } : Jvm.MethodName)) ∈ lw_all := lw_g (lw_at lw_m9 26 rfl) rfl
theorem q2070 : (Jvm.Cond.privateMethod ({ cls := "WebCourtModel", name := "asked", desc := "(II)I" } : Jvm.MethodName)) ∈ lw_tbl := lw_at lw_m9 27 rfl
theorem q2071 : (Jvm.Cond.instanceMethod ({ cls := "WebCourtModel", name := "asked", desc := "(II)I" } : Jvm.MethodName)) ∈ lw_all := lw_g (lw_at lw_m9 28 rfl) rfl
theorem q2072 : (Jvm.Cond.code ({ cls := "WebCourtModel", name := "asked", desc := "(II)I" } : Jvm.MethodName) prog_22_method_38_code (3 : Nat) (Option.some Jvm.ClassFile.FieldType.int)) ∈ lw_all := lw_g (lw_at lw_m9 29 rfl) rfl
theorem q2073 : (Jvm.Cond.methodLink "WebCourtModel" (355 : Nat) ({ cls := "WebCourtModel", name := "strengthOf", desc := "(I)I" } : Jvm.MethodName)) ∈ lw_all := lw_g (lw_at lw_m9 30 rfl) rfl
theorem q2074 : (Jvm.Cond.privateMethod ({ cls := "WebCourtModel", name := "strengthOf", desc := "(I)I" } : Jvm.MethodName)) ∈ lw_tbl := lw_at lw_m9 31 rfl
theorem q2075 : (Jvm.Cond.instanceMethod ({ cls := "WebCourtModel", name := "strengthOf", desc := "(I)I" } : Jvm.MethodName)) ∈ lw_all := lw_g (lw_at lw_m9 32 rfl) rfl
theorem q2076 : (Jvm.Cond.code ({ cls := "WebCourtModel", name := "strengthOf", desc := "(I)I" } : Jvm.MethodName) prog_22_method_56_code (4 : Nat) (Option.some Jvm.ClassFile.FieldType.int)) ∈ lw_all := lw_g (lw_at lw_m9 33 rfl) rfl
theorem q2077 : (Jvm.Cond.methodLink "WebCourtModel" (361 : Nat) ({ cls := "WebCourtModel", name := "kinOf", desc := "(I)I" } : Jvm.MethodName)) ∈ lw_all := lw_g (lw_at lw_m9 34 rfl) rfl
theorem q2078 : (Jvm.Cond.privateMethod ({ cls := "WebCourtModel", name := "kinOf", desc := "(I)I" } : Jvm.MethodName)) ∈ lw_tbl := lw_at lw_m9 35 rfl
theorem q2079 : (Jvm.Cond.instanceMethod ({ cls := "WebCourtModel", name := "kinOf", desc := "(I)I" } : Jvm.MethodName)) ∈ lw_all := lw_g (lw_at lw_m9 36 rfl) rfl
theorem q2080 : (Jvm.Cond.code ({ cls := "WebCourtModel", name := "kinOf", desc := "(I)I" } : Jvm.MethodName) prog_22_method_59_code (2 : Nat) (Option.some Jvm.ClassFile.FieldType.int)) ∈ lw_all := lw_g (lw_at lw_m9 37 rfl) rfl
theorem q2081 : (Jvm.Cond.methodLink "WebCourtModel" (367 : Nat) ({ cls := "WebCourtModel", name := "two", desc := "(III)I" } : Jvm.MethodName)) ∈ lw_all := lw_g (lw_at lw_m9 38 rfl) rfl
theorem q2082 : (Jvm.Cond.static ({ cls := "WebCourtModel", name := "two", desc := "(III)I" } : Jvm.MethodName)) ∈ lw_all := lw_g (lw_at lw_m9 39 rfl) rfl
theorem q2083 : (Jvm.Cond.code ({ cls := "WebCourtModel", name := "two", desc := "(III)I" } : Jvm.MethodName) prog_22_method_37_code (3 : Nat) (Option.some Jvm.ClassFile.FieldType.int)) ∈ lw_all := lw_g (lw_at lw_m9 40 rfl) rfl
theorem q2084 : (Jvm.Cond.constant "WebCourtModel" (429 : Nat) (-1000000000 : Int32)) ∈ lw_all := lw_g (lw_at lw_m9 41 rfl) rfl
theorem q2086 : (Jvm.Cond.instanceMethod ({ cls := "WebCourtModel", name := "free", desc := "()I" } : Jvm.MethodName)) ∈ lw_all := lw_g (lw_at lw_m9 43 rfl) rfl
theorem q2087 : (Jvm.Cond.selects "WebCourtModel" ({ cls := "WebCourtModel", name := "free", desc := "()I" } : Jvm.MethodName) ({ cls := "WebCourtModel", name := "free", desc := "()I" } : Jvm.MethodName)) ∈ lw_all := lw_g (lw_at lw_m9 44 rfl) rfl
theorem q2088 : (Jvm.Cond.code ({ cls := "WebCourtModel", name := "free", desc := "()I" } : Jvm.MethodName) prog_22_method_69_code (1 : Nat) (Option.some Jvm.ClassFile.FieldType.int)) ∈ lw_all := lw_g (lw_at lw_m9 45 rfl) rfl
theorem q2089 : (Jvm.Cond.methodLink "WebCourtModel" (430 : Nat) ({ cls := "WebCourtModel", name := "freeNow", desc := "()I" } : Jvm.MethodName)) ∈ lw_all := lw_g (lw_at lw_m9 46 rfl) rfl
theorem q2090 : (Jvm.Cond.privateMethod ({ cls := "WebCourtModel", name := "freeNow", desc := "()I" } : Jvm.MethodName)) ∈ lw_tbl := lw_at lw_m9 47 rfl
theorem q2091 : (Jvm.Cond.instanceMethod ({ cls := "WebCourtModel", name := "freeNow", desc := "()I" } : Jvm.MethodName)) ∈ lw_all := lw_g (lw_at lw_m9 48 rfl) rfl
theorem q2092 : (Jvm.Cond.code ({ cls := "WebCourtModel", name := "freeNow", desc := "()I" } : Jvm.MethodName) prog_22_method_63_code (3 : Nat) (Option.some Jvm.ClassFile.FieldType.int)) ∈ lw_all := lw_g (lw_at lw_m9 49 rfl) rfl
theorem q2093 : (Jvm.Cond.methodLink "WebCourtModel" (413 : Nat) ({ cls := "WebCourtModel", name := "isHeld", desc := "(I)Z" } : Jvm.MethodName)) ∈ lw_all := lw_g (lw_at lw_m9 50 rfl) rfl
theorem q2094 : (Jvm.Cond.privateMethod ({ cls := "WebCourtModel", name := "isHeld", desc := "(I)Z" } : Jvm.MethodName)) ∈ lw_tbl := lw_at lw_m9 51 rfl
theorem q2095 : (Jvm.Cond.instanceMethod ({ cls := "WebCourtModel", name := "isHeld", desc := "(I)Z" } : Jvm.MethodName)) ∈ lw_all := lw_g (lw_at lw_m9 52 rfl) rfl
theorem q2096 : (Jvm.Cond.code ({ cls := "WebCourtModel", name := "isHeld", desc := "(I)Z" } : Jvm.MethodName) prog_22_method_52_code (2 : Nat) (Option.some Jvm.ClassFile.FieldType.boolean)) ∈ lw_all := lw_g (lw_at lw_m9 53 rfl) rfl
theorem q2098 : (Jvm.Cond.instanceMethod ({ cls := "WebCourtModel", name := "likeliest", desc := "()I" } : Jvm.MethodName)) ∈ lw_all := lw_g (lw_at lw_m9 55 rfl) rfl
theorem q2099 : (Jvm.Cond.selects "WebCourtModel" ({ cls := "WebCourtModel", name := "likeliest", desc := "()I" } : Jvm.MethodName) ({ cls := "WebCourtModel", name := "likeliest", desc := "()I" } : Jvm.MethodName)) ∈ lw_all := lw_g (lw_at lw_m9 56 rfl) rfl
theorem q2100 : (Jvm.Cond.code ({ cls := "WebCourtModel", name := "likeliest", desc := "()I" } : Jvm.MethodName) prog_22_method_70_code (3 : Nat) (Option.some Jvm.ClassFile.FieldType.int)) ∈ lw_all := lw_g (lw_at lw_m9 57 rfl) rfl
theorem q2102 : (Jvm.Cond.instanceMethod ({ cls := "WebCourtModel", name := "fashion", desc := "()I" } : Jvm.MethodName)) ∈ lw_all := lw_g (lw_at lw_m9 59 rfl) rfl
theorem q2103 : (Jvm.Cond.selects "WebCourtModel" ({ cls := "WebCourtModel", name := "fashion", desc := "()I" } : Jvm.MethodName) ({ cls := "WebCourtModel", name := "fashion", desc := "()I" } : Jvm.MethodName)) ∈ lw_all := lw_g (lw_at lw_m9 60 rfl) rfl
theorem q2104 : (Jvm.Cond.code ({ cls := "WebCourtModel", name := "fashion", desc := "()I" } : Jvm.MethodName) prog_22_method_72_code (3 : Nat) (Option.some Jvm.ClassFile.FieldType.int)) ∈ lw_all := lw_g (lw_at lw_m9 61 rfl) rfl
theorem q2105 : (Jvm.Cond.methodLink "WebCourtModel" (433 : Nat) ({ cls := "WebCourtModel", name := "haveIt", desc := "(I)I" } : Jvm.MethodName)) ∈ lw_all := lw_g (lw_at lw_m9 62 rfl) rfl
theorem q2106 : (Jvm.Cond.privateMethod ({ cls := "WebCourtModel", name := "haveIt", desc := "(I)I" } : Jvm.MethodName)) ∈ lw_tbl := lw_at lw_m9 63 rfl
theorem q2107 : (Jvm.Cond.instanceMethod ({ cls := "WebCourtModel", name := "haveIt", desc := "(I)I" } : Jvm.MethodName)) ∈ lw_all := lw_g (lw_at lw_m9 64 rfl) rfl
theorem q2108 : (Jvm.Cond.code ({ cls := "WebCourtModel", name := "haveIt", desc := "(I)I" } : Jvm.MethodName) prog_22_method_71_code (4 : Nat) (Option.some Jvm.ClassFile.FieldType.int)) ∈ lw_all := lw_g (lw_at lw_m9 65 rfl) rfl
theorem q2110 : (Jvm.Cond.instanceMethod ({ cls := "WebCourtModel", name := "hour", desc := "(I)I" } : Jvm.MethodName)) ∈ lw_all := lw_g (lw_at lw_m9 67 rfl) rfl
theorem q2111 : (Jvm.Cond.selects "WebCourtModel" ({ cls := "WebCourtModel", name := "hour", desc := "(I)I" } : Jvm.MethodName) ({ cls := "WebCourtModel", name := "hour", desc := "(I)I" } : Jvm.MethodName)) ∈ lw_all := lw_g (lw_at lw_m9 68 rfl) rfl
theorem q2112 : (Jvm.Cond.code ({ cls := "WebCourtModel", name := "hour", desc := "(I)I" } : Jvm.MethodName) prog_22_method_75_code (4 : Nat) (Option.some Jvm.ClassFile.FieldType.int)) ∈ lw_all := lw_g (lw_at lw_m9 69 rfl) rfl
theorem q2113 : (Jvm.Cond.methodLink "WebCourtModel" (436 : Nat) ({ cls := "WebCourtModel", name := "keepAct", desc := "()V" } : Jvm.MethodName)) ∈ lw_all := lw_g (lw_at lw_m9 70 rfl) rfl
theorem q2114 : (Jvm.Cond.privateMethod ({ cls := "WebCourtModel", name := "keepAct", desc := "()V" } : Jvm.MethodName)) ∈ lw_tbl := lw_at lw_m9 71 rfl
theorem q2115 : (Jvm.Cond.instanceMethod ({ cls := "WebCourtModel", name := "keepAct", desc := "()V" } : Jvm.MethodName)) ∈ lw_all := lw_g (lw_at lw_m9 72 rfl) rfl
theorem q2116 : (Jvm.Cond.code ({ cls := "WebCourtModel", name := "keepAct", desc := "()V" } : Jvm.MethodName) prog_22_method_73_code (2 : Nat) (Option.none : Option Jvm.ClassFile.FieldType)) ∈ lw_all := lw_g (lw_at lw_m9 73 rfl) rfl
theorem q2118 : (Jvm.Cond.instanceMethod ({ cls := "WebCourtModel", name := "hear", desc := "(I)I" } : Jvm.MethodName)) ∈ lw_all := lw_g (lw_at lw_m9 75 rfl) rfl
theorem q2119 : (Jvm.Cond.selects "WebCourtModel" ({ cls := "WebCourtModel", name := "hear", desc := "(I)I" } : Jvm.MethodName) ({ cls := "WebCourtModel", name := "hear", desc := "(I)I" } : Jvm.MethodName)) ∈ lw_all := lw_g (lw_at lw_m9 76 rfl) rfl
theorem q2120 : (Jvm.Cond.code ({ cls := "WebCourtModel", name := "hear", desc := "(I)I" } : Jvm.MethodName) prog_22_method_76_code (3 : Nat) (Option.some Jvm.ClassFile.FieldType.int)) ∈ lw_all := lw_g (lw_at lw_m9 77 rfl) rfl
theorem q2121 : (Jvm.Cond.methodLink "WebCourtModel" (439 : Nat) ({ cls := "WebCourtModel", name := "outcome", desc := "(I)I" } : Jvm.MethodName)) ∈ lw_all := lw_g (lw_at lw_m9 78 rfl) rfl
theorem q2122 : (Jvm.Cond.static ({ cls := "WebCourtModel", name := "outcome", desc := "(I)I" } : Jvm.MethodName)) ∈ lw_all := lw_g (lw_at lw_m9 79 rfl) rfl
theorem q2123 : (Jvm.Cond.code ({ cls := "WebCourtModel", name := "outcome", desc := "(I)I" } : Jvm.MethodName) prog_22_method_62_code (1 : Nat) (Option.some Jvm.ClassFile.FieldType.int)) ∈ lw_all := lw_g (lw_at lw_m9 80 rfl) rfl
theorem q2125 : (Jvm.Cond.instanceMethod ({ cls := "WebCourtModel", name := "plead", desc := "(II)I" } : Jvm.MethodName)) ∈ lw_all := lw_g (lw_at lw_m9 82 rfl) rfl
theorem q2126 : (Jvm.Cond.selects "WebCourtModel" ({ cls := "WebCourtModel", name := "plead", desc := "(II)I" } : Jvm.MethodName) ({ cls := "WebCourtModel", name := "plead", desc := "(II)I" } : Jvm.MethodName)) ∈ lw_all := lw_g (lw_at lw_m9 83 rfl) rfl
theorem q2127 : (Jvm.Cond.code ({ cls := "WebCourtModel", name := "plead", desc := "(II)I" } : Jvm.MethodName) prog_22_method_77_code (3 : Nat) (Option.some Jvm.ClassFile.FieldType.int)) ∈ lw_all := lw_g (lw_at lw_m9 84 rfl) rfl
theorem q2129 : (Jvm.Cond.instanceMethod ({ cls := "WebCourtModel", name := "drop", desc := "(II)I" } : Jvm.MethodName)) ∈ lw_all := lw_g (lw_at lw_m9 86 rfl) rfl
theorem q2130 : (Jvm.Cond.selects "WebCourtModel" ({ cls := "WebCourtModel", name := "drop", desc := "(II)I" } : Jvm.MethodName) ({ cls := "WebCourtModel", name := "drop", desc := "(II)I" } : Jvm.MethodName)) ∈ lw_all := lw_g (lw_at lw_m9 87 rfl) rfl
theorem q2131 : (Jvm.Cond.code ({ cls := "WebCourtModel", name := "drop", desc := "(II)I" } : Jvm.MethodName) prog_22_method_78_code (3 : Nat) (Option.some Jvm.ClassFile.FieldType.int)) ∈ lw_all := lw_g (lw_at lw_m9 88 rfl) rfl
theorem q2133 : (Jvm.Cond.instanceMethod ({ cls := "WebCourtModel", name := "grab", desc := "(I)I" } : Jvm.MethodName)) ∈ lw_all := lw_g (lw_at lw_m9 90 rfl) rfl
theorem q2134 : (Jvm.Cond.selects "WebCourtModel" ({ cls := "WebCourtModel", name := "grab", desc := "(I)I" } : Jvm.MethodName) ({ cls := "WebCourtModel", name := "grab", desc := "(I)I" } : Jvm.MethodName)) ∈ lw_all := lw_g (lw_at lw_m9 91 rfl) rfl
theorem q2135 : (Jvm.Cond.code ({ cls := "WebCourtModel", name := "grab", desc := "(I)I" } : Jvm.MethodName) prog_22_method_79_code (2 : Nat) (Option.some Jvm.ClassFile.FieldType.int)) ∈ lw_all := lw_g (lw_at lw_m9 92 rfl) rfl
theorem q2136 : (Jvm.Cond.methodLink "WebCourtModel" (442 : Nat) ({ cls := "WebCourtModel", name := "heldNow", desc := "()I" } : Jvm.MethodName)) ∈ lw_all := lw_g (lw_at lw_m9 93 rfl) rfl
theorem q2137 : (Jvm.Cond.privateMethod ({ cls := "WebCourtModel", name := "heldNow", desc := "()I" } : Jvm.MethodName)) ∈ lw_tbl := lw_at lw_m9 94 rfl
theorem q2138 : (Jvm.Cond.instanceMethod ({ cls := "WebCourtModel", name := "heldNow", desc := "()I" } : Jvm.MethodName)) ∈ lw_all := lw_g (lw_at lw_m9 95 rfl) rfl
theorem q2139 : (Jvm.Cond.code ({ cls := "WebCourtModel", name := "heldNow", desc := "()I" } : Jvm.MethodName) prog_22_method_57_code (3 : Nat) (Option.some Jvm.ClassFile.FieldType.int)) ∈ lw_all := lw_g (lw_at lw_m9 96 rfl) rfl
theorem q2141 : (Jvm.Cond.instanceMethod ({ cls := "WebCourtModel", name := "spin", desc := "(I)I" } : Jvm.MethodName)) ∈ lw_all := lw_g (lw_at lw_m9 98 rfl) rfl
theorem q2142 : (Jvm.Cond.selects "WebCourtModel" ({ cls := "WebCourtModel", name := "spin", desc := "(I)I" } : Jvm.MethodName) ({ cls := "WebCourtModel", name := "spin", desc := "(I)I" } : Jvm.MethodName)) ∈ lw_all := lw_g (lw_at lw_m9 99 rfl) rfl
theorem q2143 : (Jvm.Cond.code ({ cls := "WebCourtModel", name := "spin", desc := "(I)I" } : Jvm.MethodName) prog_22_method_80_code (2 : Nat) (Option.some Jvm.ClassFile.FieldType.int)) ∈ lw_all := lw_g (lw_at lw_m9 100 rfl) rfl
theorem q2145 : (Jvm.Cond.instanceMethod ({ cls := "WebCourtModel", name := "undo", desc := "()Z" } : Jvm.MethodName)) ∈ lw_all := lw_g (lw_at lw_m9 102 rfl) rfl
theorem q2146 : (Jvm.Cond.selects "WebCourtModel" ({ cls := "WebCourtModel", name := "undo", desc := "()Z" } : Jvm.MethodName) ({ cls := "WebCourtModel", name := "undo", desc := "()Z" } : Jvm.MethodName)) ∈ lw_all := lw_g (lw_at lw_m9 103 rfl) rfl
theorem q2147 : (Jvm.Cond.code ({ cls := "WebCourtModel", name := "undo", desc := "()Z" } : Jvm.MethodName) prog_22_method_81_code (1 : Nat) (Option.some Jvm.ClassFile.FieldType.boolean)) ∈ lw_all := lw_g (lw_at lw_m9 104 rfl) rfl
theorem q2148 : (Jvm.Cond.methodLink "WebCourtModel" (445 : Nat) ({ cls := "WebCourtModel", name := "swapAll", desc := "()V" } : Jvm.MethodName)) ∈ lw_all := lw_g (lw_at lw_m9 105 rfl) rfl
theorem q2149 : (Jvm.Cond.privateMethod ({ cls := "WebCourtModel", name := "swapAll", desc := "()V" } : Jvm.MethodName)) ∈ lw_tbl := lw_at lw_m9 106 rfl
theorem q2150 : (Jvm.Cond.instanceMethod ({ cls := "WebCourtModel", name := "swapAll", desc := "()V" } : Jvm.MethodName)) ∈ lw_all := lw_g (lw_at lw_m9 107 rfl) rfl
theorem q2151 : (Jvm.Cond.code ({ cls := "WebCourtModel", name := "swapAll", desc := "()V" } : Jvm.MethodName) prog_22_method_74_code (3 : Nat) (Option.none : Option Jvm.ClassFile.FieldType)) ∈ lw_all := lw_g (lw_at lw_m9 108 rfl) rfl
theorem q2153 : (Jvm.Cond.instanceMethod ({ cls := "WebCourtModel", name := "redo", desc := "()Z" } : Jvm.MethodName)) ∈ lw_all := lw_g (lw_at lw_m9 110 rfl) rfl
theorem q2154 : (Jvm.Cond.selects "WebCourtModel" ({ cls := "WebCourtModel", name := "redo", desc := "()Z" } : Jvm.MethodName) ({ cls := "WebCourtModel", name := "redo", desc := "()Z" } : Jvm.MethodName)) ∈ lw_all := lw_g (lw_at lw_m9 111 rfl) rfl
theorem q2155 : (Jvm.Cond.code ({ cls := "WebCourtModel", name := "redo", desc := "()Z" } : Jvm.MethodName) prog_22_method_82_code (1 : Nat) (Option.some Jvm.ClassFile.FieldType.boolean)) ∈ lw_all := lw_g (lw_at lw_m9 112 rfl) rfl
theorem q2157 : (Jvm.Cond.instanceMethod ({ cls := "WebCourtModel", name := "lies", desc := "(I)I" } : Jvm.MethodName)) ∈ lw_all := lw_g (lw_at lw_m9 114 rfl) rfl
theorem q2158 : (Jvm.Cond.selects "WebCourtModel" ({ cls := "WebCourtModel", name := "lies", desc := "(I)I" } : Jvm.MethodName) ({ cls := "WebCourtModel", name := "lies", desc := "(I)I" } : Jvm.MethodName)) ∈ lw_all := lw_g (lw_at lw_m9 115 rfl) rfl
theorem q2159 : (Jvm.Cond.code ({ cls := "WebCourtModel", name := "lies", desc := "(I)I" } : Jvm.MethodName) prog_22_method_83_code (2 : Nat) (Option.some Jvm.ClassFile.FieldType.int)) ∈ lw_all := lw_g (lw_at lw_m9 116 rfl) rfl
theorem q2161 : (Jvm.Cond.instanceMethod ({ cls := "WebCourtModel", name := "shortest", desc := "(II)I" } : Jvm.MethodName)) ∈ lw_all := lw_g (lw_at lw_m9 118 rfl) rfl
theorem q2162 : (Jvm.Cond.selects "WebCourtModel" ({ cls := "WebCourtModel", name := "shortest", desc := "(II)I" } : Jvm.MethodName) ({ cls := "WebCourtModel", name := "shortest", desc := "(II)I" } : Jvm.MethodName)) ∈ lw_all := lw_g (lw_at lw_m9 119 rfl) rfl
theorem q2163 : (Jvm.Cond.code ({ cls := "WebCourtModel", name := "shortest", desc := "(II)I" } : Jvm.MethodName) prog_22_method_87_code (3 : Nat) (Option.some Jvm.ClassFile.FieldType.int)) ∈ lw_all := lw_g (lw_at lw_m9 120 rfl) rfl
theorem q2164 : (Jvm.Cond.methodLink "WebCourtModel" (448 : Nat) ({ cls := "WebCourtModel", name := "allPleas", desc := "()I" } : Jvm.MethodName)) ∈ lw_all := lw_g (lw_at lw_m9 121 rfl) rfl
theorem q2165 : (Jvm.Cond.privateMethod ({ cls := "WebCourtModel", name := "allPleas", desc := "()I" } : Jvm.MethodName)) ∈ lw_tbl := lw_at lw_m9 122 rfl
theorem q2166 : (Jvm.Cond.instanceMethod ({ cls := "WebCourtModel", name := "allPleas", desc := "()I" } : Jvm.MethodName)) ∈ lw_all := lw_g (lw_at lw_m9 123 rfl) rfl
theorem q2167 : (Jvm.Cond.code ({ cls := "WebCourtModel", name := "allPleas", desc := "()I" } : Jvm.MethodName) prog_22_method_86_code (1 : Nat) (Option.some Jvm.ClassFile.FieldType.int)) ∈ lw_all := lw_g (lw_at lw_m9 124 rfl) rfl
theorem q2168 : (Jvm.Cond.methodLink "WebCourtModel" (451 : Nat) ({ cls := "WebCourtModel", name := "fewestOf", desc := "(II)I" } : Jvm.MethodName)) ∈ lw_all := lw_g (lw_at lw_m9 125 rfl) rfl
theorem q2169 : (Jvm.Cond.privateMethod ({ cls := "WebCourtModel", name := "fewestOf", desc := "(II)I" } : Jvm.MethodName)) ∈ lw_tbl := lw_at lw_m9 126 rfl
theorem q2170 : (Jvm.Cond.instanceMethod ({ cls := "WebCourtModel", name := "fewestOf", desc := "(II)I" } : Jvm.MethodName)) ∈ lw_all := lw_g (lw_at lw_m9 127 rfl) rfl
theorem q2171 : (Jvm.Cond.code ({ cls := "WebCourtModel", name := "fewestOf", desc := "(II)I" } : Jvm.MethodName) prog_22_method_84_code (5 : Nat) (Option.some Jvm.ClassFile.FieldType.int)) ∈ lw_all := lw_g (lw_at lw_m9 128 rfl) rfl
theorem q2172 : (Jvm.Cond.methodLink "WebCourtModel" (454 : Nat) ({ cls := "WebCourtModel", name := "toldOf", desc := "(II)I" } : Jvm.MethodName)) ∈ lw_all := lw_g (lw_at lw_m9 129 rfl) rfl
theorem q2173 : (Jvm.Cond.privateMethod ({ cls := "WebCourtModel", name := "toldOf", desc := "(II)I" } : Jvm.MethodName)) ∈ lw_tbl := lw_at lw_m9 130 rfl
theorem q2174 : (Jvm.Cond.instanceMethod ({ cls := "WebCourtModel", name := "toldOf", desc := "(II)I" } : Jvm.MethodName)) ∈ lw_all := lw_g (lw_at lw_m9 131 rfl) rfl
theorem q2175 : (Jvm.Cond.code ({ cls := "WebCourtModel", name := "toldOf", desc := "(II)I" } : Jvm.MethodName) prog_22_method_85_code (3 : Nat) (Option.some Jvm.ClassFile.FieldType.int)) ∈ lw_all := lw_g (lw_at lw_m9 132 rfl) rfl
theorem q2177 : (Jvm.Cond.instanceMethod ({ cls := "WebCourtModel", name := "honest", desc := "(II)I" } : Jvm.MethodName)) ∈ lw_all := lw_g (lw_at lw_m9 134 rfl) rfl
theorem q2178 : (Jvm.Cond.selects "WebCourtModel" ({ cls := "WebCourtModel", name := "honest", desc := "(II)I" } : Jvm.MethodName) ({ cls := "WebCourtModel", name := "honest", desc := "(II)I" } : Jvm.MethodName)) ∈ lw_all := lw_g (lw_at lw_m9 135 rfl) rfl
theorem q2179 : (Jvm.Cond.code ({ cls := "WebCourtModel", name := "honest", desc := "(II)I" } : Jvm.MethodName) prog_22_method_88_code (3 : Nat) (Option.some Jvm.ClassFile.FieldType.int)) ∈ lw_all := lw_g (lw_at lw_m9 136 rfl) rfl
theorem q2181 : (Jvm.Cond.instanceMethod ({ cls := "WebCourtModel", name := "hopeless", desc := "()I" } : Jvm.MethodName)) ∈ lw_all := lw_g (lw_at lw_m9 138 rfl) rfl
theorem q2182 : (Jvm.Cond.selects "WebCourtModel" ({ cls := "WebCourtModel", name := "hopeless", desc := "()I" } : Jvm.MethodName) ({ cls := "WebCourtModel", name := "hopeless", desc := "()I" } : Jvm.MethodName)) ∈ lw_all := lw_g (lw_at lw_m9 139 rfl) rfl
theorem q2183 : (Jvm.Cond.code ({ cls := "WebCourtModel", name := "hopeless", desc := "()I" } : Jvm.MethodName) prog_22_method_89_code (3 : Nat) (Option.some Jvm.ClassFile.FieldType.int)) ∈ lw_all := lw_g (lw_at lw_m9 140 rfl) rfl
theorem q2185 : (Jvm.Cond.instanceMethod ({ cls := "WebCourtModel", name := "advice", desc := "(II)I" } : Jvm.MethodName)) ∈ lw_all := lw_g (lw_at lw_m9 142 rfl) rfl
theorem q2186 : (Jvm.Cond.selects "WebCourtModel" ({ cls := "WebCourtModel", name := "advice", desc := "(II)I" } : Jvm.MethodName) ({ cls := "WebCourtModel", name := "advice", desc := "(II)I" } : Jvm.MethodName)) ∈ lw_all := lw_g (lw_at lw_m9 143 rfl) rfl
theorem q2187 : (Jvm.Cond.code ({ cls := "WebCourtModel", name := "advice", desc := "(II)I" } : Jvm.MethodName) prog_22_method_90_code (7 : Nat) (Option.some Jvm.ClassFile.FieldType.int)) ∈ lw_all := lw_g (lw_at lw_m9 144 rfl) rfl
theorem q2189 : (Jvm.Cond.instanceMethod ({ cls := "WebCourtModel", name := "forbid", desc := "(I)I" } : Jvm.MethodName)) ∈ lw_all := lw_g (lw_at lw_m9 146 rfl) rfl
theorem q2190 : (Jvm.Cond.selects "WebCourtModel" ({ cls := "WebCourtModel", name := "forbid", desc := "(I)I" } : Jvm.MethodName) ({ cls := "WebCourtModel", name := "forbid", desc := "(I)I" } : Jvm.MethodName)) ∈ lw_all := lw_g (lw_at lw_m9 147 rfl) rfl
theorem q2191 : (Jvm.Cond.code ({ cls := "WebCourtModel", name := "forbid", desc := "(I)I" } : Jvm.MethodName) prog_22_method_91_code (7 : Nat) (Option.some Jvm.ClassFile.FieldType.int)) ∈ lw_all := lw_g (lw_at lw_m9 148 rfl) rfl
theorem q2193 : (Jvm.Cond.instanceMethod ({ cls := "WebCourtModel", name := "swap", desc := "(I)I" } : Jvm.MethodName)) ∈ lw_all := lw_g (lw_at lw_m9 150 rfl) rfl
theorem q2194 : (Jvm.Cond.selects "WebCourtModel" ({ cls := "WebCourtModel", name := "swap", desc := "(I)I" } : Jvm.MethodName) ({ cls := "WebCourtModel", name := "swap", desc := "(I)I" } : Jvm.MethodName)) ∈ lw_all := lw_g (lw_at lw_m9 151 rfl) rfl
theorem q2195 : (Jvm.Cond.code ({ cls := "WebCourtModel", name := "swap", desc := "(I)I" } : Jvm.MethodName) prog_22_method_93_code (8 : Nat) (Option.some Jvm.ClassFile.FieldType.int)) ∈ lw_all := lw_g (lw_at lw_m9 152 rfl) rfl
theorem q2196 : (Jvm.Cond.methodLink "WebCourtModel" (457 : Nat) ({ cls := "WebCourtModel", name := "freeWith", desc := "(II)I" } : Jvm.MethodName)) ∈ lw_all := lw_g (lw_at lw_m9 153 rfl) rfl
theorem q2197 : (Jvm.Cond.privateMethod ({ cls := "WebCourtModel", name := "freeWith", desc := "(II)I" } : Jvm.MethodName)) ∈ lw_tbl := lw_at lw_m9 154 rfl
theorem q2198 : (Jvm.Cond.instanceMethod ({ cls := "WebCourtModel", name := "freeWith", desc := "(II)I" } : Jvm.MethodName)) ∈ lw_all := lw_g (lw_at lw_m9 155 rfl) rfl
theorem q2199 : (Jvm.Cond.code ({ cls := "WebCourtModel", name := "freeWith", desc := "(II)I" } : Jvm.MethodName) prog_22_method_92_code (5 : Nat) (Option.some Jvm.ClassFile.FieldType.int)) ∈ lw_all := lw_g (lw_at lw_m9 156 rfl) rfl
theorem q2201 : (Jvm.Cond.instanceMethod ({ cls := "WebCourtModel", name := "contrary", desc := "(I)I" } : Jvm.MethodName)) ∈ lw_all := lw_g (lw_at lw_m9 158 rfl) rfl
theorem q2202 : (Jvm.Cond.selects "WebCourtModel" ({ cls := "WebCourtModel", name := "contrary", desc := "(I)I" } : Jvm.MethodName) ({ cls := "WebCourtModel", name := "contrary", desc := "(I)I" } : Jvm.MethodName)) ∈ lw_all := lw_g (lw_at lw_m9 159 rfl) rfl
theorem q2203 : (Jvm.Cond.code ({ cls := "WebCourtModel", name := "contrary", desc := "(I)I" } : Jvm.MethodName) prog_22_method_94_code (5 : Nat) (Option.some Jvm.ClassFile.FieldType.int)) ∈ lw_all := lw_g (lw_at lw_m9 160 rfl) rfl
theorem q2205 : (Jvm.Cond.instanceMethod ({ cls := "WebCourtModel", name := "leave", desc := "(I)I" } : Jvm.MethodName)) ∈ lw_all := lw_g (lw_at lw_m9 162 rfl) rfl
theorem q2206 : (Jvm.Cond.selects "WebCourtModel" ({ cls := "WebCourtModel", name := "leave", desc := "(I)I" } : Jvm.MethodName) ({ cls := "WebCourtModel", name := "leave", desc := "(I)I" } : Jvm.MethodName)) ∈ lw_all := lw_g (lw_at lw_m9 163 rfl) rfl
theorem q2207 : (Jvm.Cond.code ({ cls := "WebCourtModel", name := "leave", desc := "(I)I" } : Jvm.MethodName) prog_22_method_95_code (6 : Nat) (Option.some Jvm.ClassFile.FieldType.int)) ∈ lw_all := lw_g (lw_at lw_m9 164 rfl) rfl
theorem q2209 : (Jvm.Cond.instanceMethod ({ cls := "WebCourtModel", name := "loophole", desc := "(I)I" } : Jvm.MethodName)) ∈ lw_all := lw_g (lw_at lw_m9 166 rfl) rfl
theorem q2210 : (Jvm.Cond.selects "WebCourtModel" ({ cls := "WebCourtModel", name := "loophole", desc := "(I)I" } : Jvm.MethodName) ({ cls := "WebCourtModel", name := "loophole", desc := "(I)I" } : Jvm.MethodName)) ∈ lw_all := lw_g (lw_at lw_m9 167 rfl) rfl
theorem q2211 : (Jvm.Cond.code ({ cls := "WebCourtModel", name := "loophole", desc := "(I)I" } : Jvm.MethodName) prog_22_method_96_code (5 : Nat) (Option.some Jvm.ClassFile.FieldType.int)) ∈ lw_all := lw_g (lw_at lw_m9 168 rfl) rfl
theorem q2213 : (Jvm.Cond.instanceMethod ({ cls := "WebCourtModel", name := "precedent", desc := "(I)I" } : Jvm.MethodName)) ∈ lw_all := lw_g (lw_at lw_m9 170 rfl) rfl
theorem q2214 : (Jvm.Cond.selects "WebCourtModel" ({ cls := "WebCourtModel", name := "precedent", desc := "(I)I" } : Jvm.MethodName) ({ cls := "WebCourtModel", name := "precedent", desc := "(I)I" } : Jvm.MethodName)) ∈ lw_all := lw_g (lw_at lw_m9 171 rfl) rfl
theorem q2215 : (Jvm.Cond.code ({ cls := "WebCourtModel", name := "precedent", desc := "(I)I" } : Jvm.MethodName) prog_22_method_97_code (5 : Nat) (Option.some Jvm.ClassFile.FieldType.int)) ∈ lw_all := lw_g (lw_at lw_m9 172 rfl) rfl
theorem q2217 : (Jvm.Cond.instanceMethod ({ cls := "WebCourtModel", name := "rivals", desc := "(II)I" } : Jvm.MethodName)) ∈ lw_all := lw_g (lw_at lw_m9 174 rfl) rfl
theorem q2218 : (Jvm.Cond.selects "WebCourtModel" ({ cls := "WebCourtModel", name := "rivals", desc := "(II)I" } : Jvm.MethodName) ({ cls := "WebCourtModel", name := "rivals", desc := "(II)I" } : Jvm.MethodName)) ∈ lw_all := lw_g (lw_at lw_m9 175 rfl) rfl
theorem q2219 : (Jvm.Cond.code ({ cls := "WebCourtModel", name := "rivals", desc := "(II)I" } : Jvm.MethodName) prog_22_method_100_code (5 : Nat) (Option.some Jvm.ClassFile.FieldType.int)) ∈ lw_all := lw_g (lw_at lw_m9 176 rfl) rfl
theorem q2220 : (Jvm.Cond.methodLink "WebCourtModel" (460 : Nat) ({ cls := "WebCourtModel", name := "layVerdicts", desc := "(II)V" } : Jvm.MethodName)) ∈ lw_all := lw_g (lw_at lw_m9 177 rfl) rfl
theorem q2221 : (Jvm.Cond.privateMethod ({ cls := "WebCourtModel", name := "layVerdicts", desc := "(II)V" } : Jvm.MethodName)) ∈ lw_tbl := lw_at lw_m9 178 rfl
theorem q2222 : (Jvm.Cond.instanceMethod ({ cls := "WebCourtModel", name := "layVerdicts", desc := "(II)V" } : Jvm.MethodName)) ∈ lw_all := lw_g (lw_at lw_m9 179 rfl) rfl
theorem q2223 : (Jvm.Cond.code ({ cls := "WebCourtModel", name := "layVerdicts", desc := "(II)V" } : Jvm.MethodName) prog_22_method_98_code (6 : Nat) (Option.none : Option Jvm.ClassFile.FieldType)) ∈ lw_all := lw_g (lw_at lw_m9 180 rfl) rfl
theorem q2224 : (Jvm.Cond.methodLink "WebCourtModel" (463 : Nat) ({ cls := "WebCourtModel", name := "isRest", desc := "(I)Z" } : Jvm.MethodName)) ∈ lw_all := lw_g (lw_at lw_m9 181 rfl) rfl
theorem q2225 : (Jvm.Cond.privateMethod ({ cls := "WebCourtModel", name := "isRest", desc := "(I)Z" } : Jvm.MethodName)) ∈ lw_tbl := lw_at lw_m9 182 rfl
theorem q2226 : (Jvm.Cond.instanceMethod ({ cls := "WebCourtModel", name := "isRest", desc := "(I)Z" } : Jvm.MethodName)) ∈ lw_all := lw_g (lw_at lw_m9 183 rfl) rfl
theorem q2227 : (Jvm.Cond.code ({ cls := "WebCourtModel", name := "isRest", desc := "(I)Z" } : Jvm.MethodName) prog_22_method_99_code (3 : Nat) (Option.some Jvm.ClassFile.FieldType.boolean)) ∈ lw_all := lw_g (lw_at lw_m9 184 rfl) rfl
theorem q2229 : (Jvm.Cond.instanceMethod ({ cls := "WebCourtModel", name := "way", desc := "(I)I" } : Jvm.MethodName)) ∈ lw_all := lw_g (lw_at lw_m9 186 rfl) rfl
theorem q2230 : (Jvm.Cond.selects "WebCourtModel" ({ cls := "WebCourtModel", name := "way", desc := "(I)I" } : Jvm.MethodName) ({ cls := "WebCourtModel", name := "way", desc := "(I)I" } : Jvm.MethodName)) ∈ lw_all := lw_g (lw_at lw_m9 187 rfl) rfl
theorem q2231 : (Jvm.Cond.code ({ cls := "WebCourtModel", name := "way", desc := "(I)I" } : Jvm.MethodName) prog_22_method_102_code (6 : Nat) (Option.some Jvm.ClassFile.FieldType.int)) ∈ lw_all := lw_g (lw_at lw_m9 188 rfl) rfl
theorem q2232 : (Jvm.Cond.methodLink "WebCourtModel" (466 : Nat) ({ cls := "WebCourtModel", name := "layFar", desc := "()V" } : Jvm.MethodName)) ∈ lw_all := lw_g (lw_at lw_m9 189 rfl) rfl
theorem q2233 : (Jvm.Cond.privateMethod ({ cls := "WebCourtModel", name := "layFar", desc := "()V" } : Jvm.MethodName)) ∈ lw_tbl := lw_at lw_m9 190 rfl
theorem q2234 : (Jvm.Cond.instanceMethod ({ cls := "WebCourtModel", name := "layFar", desc := "()V" } : Jvm.MethodName)) ∈ lw_all := lw_g (lw_at lw_m9 191 rfl) rfl
theorem q2235 : (Jvm.Cond.code ({ cls := "WebCourtModel", name := "layFar", desc := "()V" } : Jvm.MethodName) prog_22_method_101_code (6 : Nat) (Option.none : Option Jvm.ClassFile.FieldType)) ∈ lw_all := lw_g (lw_at lw_m9 192 rfl) rfl
theorem q2237 : (Jvm.Cond.instanceMethod ({ cls := "WebCourtModel", name := "reach", desc := "()I" } : Jvm.MethodName)) ∈ lw_all := lw_g (lw_at lw_m9 194 rfl) rfl
theorem q2238 : (Jvm.Cond.selects "WebCourtModel" ({ cls := "WebCourtModel", name := "reach", desc := "()I" } : Jvm.MethodName) ({ cls := "WebCourtModel", name := "reach", desc := "()I" } : Jvm.MethodName)) ∈ lw_all := lw_g (lw_at lw_m9 195 rfl) rfl
theorem q2239 : (Jvm.Cond.code ({ cls := "WebCourtModel", name := "reach", desc := "()I" } : Jvm.MethodName) prog_22_method_104_code (1 : Nat) (Option.some Jvm.ClassFile.FieldType.int)) ∈ lw_all := lw_g (lw_at lw_m9 196 rfl) rfl
theorem q2240 : (Jvm.Cond.methodLink "WebCourtModel" (469 : Nat) ({ cls := "WebCourtModel", name := "reached", desc := "()I" } : Jvm.MethodName)) ∈ lw_all := lw_g (lw_at lw_m9 197 rfl) rfl
theorem q2241 : (Jvm.Cond.privateMethod ({ cls := "WebCourtModel", name := "reached", desc := "()I" } : Jvm.MethodName)) ∈ lw_tbl := lw_at lw_m9 198 rfl
theorem q2242 : (Jvm.Cond.instanceMethod ({ cls := "WebCourtModel", name := "reached", desc := "()I" } : Jvm.MethodName)) ∈ lw_all := lw_g (lw_at lw_m9 199 rfl) rfl
theorem q2243 : (Jvm.Cond.code ({ cls := "WebCourtModel", name := "reached", desc := "()I" } : Jvm.MethodName) prog_22_method_103_code (3 : Nat) (Option.some Jvm.ClassFile.FieldType.int)) ∈ lw_all := lw_g (lw_at lw_m9 200 rfl) rfl
theorem q2245 : (Jvm.Cond.instanceMethod ({ cls := "WebCourtModel", name := "bridge", desc := "(I)I" } : Jvm.MethodName)) ∈ lw_all := lw_g (lw_at lw_m9 202 rfl) rfl
theorem q2246 : (Jvm.Cond.selects "WebCourtModel" ({ cls := "WebCourtModel", name := "bridge", desc := "(I)I" } : Jvm.MethodName) ({ cls := "WebCourtModel", name := "bridge", desc := "(I)I" } : Jvm.MethodName)) ∈ lw_all := lw_g (lw_at lw_m9 203 rfl) rfl
theorem q2247 : (Jvm.Cond.code ({ cls := "WebCourtModel", name := "bridge", desc := "(I)I" } : Jvm.MethodName) prog_22_method_105_code (6 : Nat) (Option.some Jvm.ClassFile.FieldType.int)) ∈ lw_all := lw_g (lw_at lw_m9 204 rfl) rfl
theorem q2249 : (Jvm.Cond.instanceMethod ({ cls := "WebCourtModel", name := "round", desc := "()I" } : Jvm.MethodName)) ∈ lw_all := lw_g (lw_at lw_m9 206 rfl) rfl
theorem q2250 : (Jvm.Cond.selects "WebCourtModel" ({ cls := "WebCourtModel", name := "round", desc := "()I" } : Jvm.MethodName) ({ cls := "WebCourtModel", name := "round", desc := "()I" } : Jvm.MethodName)) ∈ lw_all := lw_g (lw_at lw_m9 207 rfl) rfl
theorem q2251 : (Jvm.Cond.code ({ cls := "WebCourtModel", name := "round", desc := "()I" } : Jvm.MethodName) prog_22_method_108_code (6 : Nat) (Option.some Jvm.ClassFile.FieldType.int)) ∈ lw_all := lw_g (lw_at lw_m9 208 rfl) rfl
theorem q2252 : (Jvm.Cond.methodLink "WebCourtModel" (472 : Nat) ({ cls := "WebCourtModel", name := "power", desc := "(II)I" } : Jvm.MethodName)) ∈ lw_all := lw_g (lw_at lw_m9 209 rfl) rfl
theorem q2253 : (Jvm.Cond.static ({ cls := "WebCourtModel", name := "power", desc := "(II)I" } : Jvm.MethodName)) ∈ lw_all := lw_g (lw_at lw_m9 210 rfl) rfl
theorem q2254 : (Jvm.Cond.code ({ cls := "WebCourtModel", name := "power", desc := "(II)I" } : Jvm.MethodName) prog_22_method_45_code (4 : Nat) (Option.some Jvm.ClassFile.FieldType.int)) ∈ lw_all := lw_g (lw_at lw_m9 211 rfl) rfl
theorem q2255 : (Jvm.Cond.methodLink "WebCourtModel" (478 : Nat) ({ cls := "WebCourtModel", name := "lastHeard", desc := "(II)I" } : Jvm.MethodName)) ∈ lw_all := lw_g (lw_at lw_m9 212 rfl) rfl
theorem q2256 : (Jvm.Cond.privateMethod ({ cls := "WebCourtModel", name := "lastHeard", desc := "(II)I" } : Jvm.MethodName)) ∈ lw_tbl := lw_at lw_m9 213 rfl
theorem q2257 : (Jvm.Cond.instanceMethod ({ cls := "WebCourtModel", name := "lastHeard", desc := "(II)I" } : Jvm.MethodName)) ∈ lw_all := lw_g (lw_at lw_m9 214 rfl) rfl
theorem q2258 : (Jvm.Cond.code ({ cls := "WebCourtModel", name := "lastHeard", desc := "(II)I" } : Jvm.MethodName) prog_22_method_107_code (10 : Nat) (Option.some Jvm.ClassFile.FieldType.int)) ∈ lw_all := lw_g (lw_at lw_m9 215 rfl) rfl
theorem q2259 : (Jvm.Cond.methodLink "WebCourtModel" (475 : Nat) ({ cls := "WebCourtModel", name := "inOrder", desc := "(III)I" } : Jvm.MethodName)) ∈ lw_all := lw_g (lw_at lw_m9 216 rfl) rfl
theorem q2260 : (Jvm.Cond.privateMethod ({ cls := "WebCourtModel", name := "inOrder", desc := "(III)I" } : Jvm.MethodName)) ∈ lw_tbl := lw_at lw_m9 217 rfl
theorem q2261 : (Jvm.Cond.instanceMethod ({ cls := "WebCourtModel", name := "inOrder", desc := "(III)I" } : Jvm.MethodName)) ∈ lw_all := lw_g (lw_at lw_m9 218 rfl) rfl
theorem q2262 : (Jvm.Cond.code ({ cls := "WebCourtModel", name := "inOrder", desc := "(III)I" } : Jvm.MethodName) prog_22_method_106_code (4 : Nat) (Option.some Jvm.ClassFile.FieldType.int)) ∈ lw_all := lw_g (lw_at lw_m9 219 rfl) rfl
theorem q2264 : (Jvm.Cond.instanceMethod ({ cls := "WebCourtModel", name := "term", desc := "(I)I" } : Jvm.MethodName)) ∈ lw_all := lw_g (lw_at lw_m9 221 rfl) rfl
theorem q2265 : (Jvm.Cond.selects "WebCourtModel" ({ cls := "WebCourtModel", name := "term", desc := "(I)I" } : Jvm.MethodName) ({ cls := "WebCourtModel", name := "term", desc := "(I)I" } : Jvm.MethodName)) ∈ lw_all := lw_g (lw_at lw_m9 222 rfl) rfl
theorem q2266 : (Jvm.Cond.code ({ cls := "WebCourtModel", name := "term", desc := "(I)I" } : Jvm.MethodName) prog_22_method_109_code (4 : Nat) (Option.some Jvm.ClassFile.FieldType.int)) ∈ lw_all := lw_g (lw_at lw_m9 223 rfl) rfl
theorem q2268 : (Jvm.Cond.instanceMethod ({ cls := "WebCourtModel", name := "odds", desc := "(II)I" } : Jvm.MethodName)) ∈ lw_all := lw_g (lw_at lw_m9 225 rfl) rfl
theorem q2269 : (Jvm.Cond.selects "WebCourtModel" ({ cls := "WebCourtModel", name := "odds", desc := "(II)I" } : Jvm.MethodName) ({ cls := "WebCourtModel", name := "odds", desc := "(II)I" } : Jvm.MethodName)) ∈ lw_all := lw_g (lw_at lw_m9 226 rfl) rfl
theorem q2270 : (Jvm.Cond.code ({ cls := "WebCourtModel", name := "odds", desc := "(II)I" } : Jvm.MethodName) prog_22_method_110_code (5 : Nat) (Option.some Jvm.ClassFile.FieldType.int)) ∈ lw_all := lw_g (lw_at lw_m9 227 rfl) rfl
theorem q2271 : (Jvm.Cond.methodLink "WebCourtModel" (481 : Nat) ({ cls := "WebCourtModel", name := "divisor", desc := "(II)I" } : Jvm.MethodName)) ∈ lw_all := lw_g (lw_at lw_m9 228 rfl) rfl
theorem q2272 : (Jvm.Cond.static ({ cls := "WebCourtModel", name := "divisor", desc := "(II)I" } : Jvm.MethodName)) ∈ lw_all := lw_g (lw_at lw_m9 229 rfl) rfl
theorem q2273 : (Jvm.Cond.code ({ cls := "WebCourtModel", name := "divisor", desc := "(II)I" } : Jvm.MethodName) prog_22_method_44_code (5 : Nat) (Option.some Jvm.ClassFile.FieldType.int)) ∈ lw_all := lw_g (lw_at lw_m9 230 rfl) rfl
theorem q2275 : (Jvm.Cond.instanceMethod ({ cls := "WebCourtModel", name := "heard", desc := "(IIZ)I" } : Jvm.MethodName)) ∈ lw_all := lw_g (lw_at lw_m9 232 rfl) rfl
theorem q2276 : (Jvm.Cond.selects "WebCourtModel" ({ cls := "WebCourtModel", name := "heard", desc := "(IIZ)I" } : Jvm.MethodName) ({ cls := "WebCourtModel", name := "heard", desc := "(IIZ)I" } : Jvm.MethodName)) ∈ lw_all := lw_g (lw_at lw_m9 233 rfl) rfl
theorem q2277 : (Jvm.Cond.code ({ cls := "WebCourtModel", name := "heard", desc := "(IIZ)I" } : Jvm.MethodName) prog_22_method_111_code (4 : Nat) (Option.some Jvm.ClassFile.FieldType.int)) ∈ lw_all := lw_g (lw_at lw_m9 234 rfl) rfl
theorem q2279 : (Jvm.Cond.instanceMethod ({ cls := "WebCourtModel", name := "untell", desc := "(I)Z" } : Jvm.MethodName)) ∈ lw_all := lw_g (lw_at lw_m9 236 rfl) rfl
theorem q2280 : (Jvm.Cond.selects "WebCourtModel" ({ cls := "WebCourtModel", name := "untell", desc := "(I)Z" } : Jvm.MethodName) ({ cls := "WebCourtModel", name := "untell", desc := "(I)Z" } : Jvm.MethodName)) ∈ lw_all := lw_g (lw_at lw_m9 237 rfl) rfl
theorem q2281 : (Jvm.Cond.code ({ cls := "WebCourtModel", name := "untell", desc := "(I)Z" } : Jvm.MethodName) prog_22_method_112_code (2 : Nat) (Option.some Jvm.ClassFile.FieldType.boolean)) ∈ lw_all := lw_g (lw_at lw_m9 238 rfl) rfl
theorem q2283 : (Jvm.Cond.instanceMethod ({ cls := "WebCourtModel", name := "later", desc := "(I)I" } : Jvm.MethodName)) ∈ lw_all := lw_g (lw_at lw_m10 0 rfl) rfl
theorem q2284 : (Jvm.Cond.selects "WebCourtModel" ({ cls := "WebCourtModel", name := "later", desc := "(I)I" } : Jvm.MethodName) ({ cls := "WebCourtModel", name := "later", desc := "(I)I" } : Jvm.MethodName)) ∈ lw_all := lw_g (lw_at lw_m10 1 rfl) rfl
theorem q2285 : (Jvm.Cond.code ({ cls := "WebCourtModel", name := "later", desc := "(I)I" } : Jvm.MethodName) prog_22_method_113_code (2 : Nat) (Option.some Jvm.ClassFile.FieldType.int)) ∈ lw_all := lw_g (lw_at lw_m10 2 rfl) rfl
theorem q2286 : (Jvm.Cond.constant "WebCourtModel" (487 : Nat) (100000 : Int32)) ∈ lw_all := lw_g (lw_at lw_m10 3 rfl) rfl
theorem q2288 : (Jvm.Cond.instanceMethod ({ cls := "WebCourtModel", name := "fits", desc := "(I)I" } : Jvm.MethodName)) ∈ lw_all := lw_g (lw_at lw_m10 5 rfl) rfl
theorem q2289 : (Jvm.Cond.selects "WebCourtModel" ({ cls := "WebCourtModel", name := "fits", desc := "(I)I" } : Jvm.MethodName) ({ cls := "WebCourtModel", name := "fits", desc := "(I)I" } : Jvm.MethodName)) ∈ lw_all := lw_g (lw_at lw_m10 6 rfl) rfl
theorem q2290 : (Jvm.Cond.code ({ cls := "WebCourtModel", name := "fits", desc := "(I)I" } : Jvm.MethodName) prog_22_method_116_code (4 : Nat) (Option.some Jvm.ClassFile.FieldType.int)) ∈ lw_all := lw_g (lw_at lw_m10 7 rfl) rfl
theorem q2291 : (Jvm.Cond.methodLink "WebCourtModel" (488 : Nat) ({ cls := "WebCourtModel", name := "layThought", desc := "()V" } : Jvm.MethodName)) ∈ lw_all := lw_g (lw_at lw_m10 8 rfl) rfl
theorem q2292 : (Jvm.Cond.privateMethod ({ cls := "WebCourtModel", name := "layThought", desc := "()V" } : Jvm.MethodName)) ∈ lw_tbl := lw_at lw_m10 9 rfl
theorem q2293 : (Jvm.Cond.instanceMethod ({ cls := "WebCourtModel", name := "layThought", desc := "()V" } : Jvm.MethodName)) ∈ lw_all := lw_g (lw_at lw_m10 10 rfl) rfl
theorem q2294 : (Jvm.Cond.code ({ cls := "WebCourtModel", name := "layThought", desc := "()V" } : Jvm.MethodName) prog_22_method_114_code (3 : Nat) (Option.none : Option Jvm.ClassFile.FieldType)) ∈ lw_all := lw_g (lw_at lw_m10 11 rfl) rfl
theorem q2295 : (Jvm.Cond.methodLink "WebCourtModel" (491 : Nat) ({ cls := "WebCourtModel", name := "doesFit", desc := "(II)Z" } : Jvm.MethodName)) ∈ lw_all := lw_g (lw_at lw_m10 12 rfl) rfl
theorem q2296 : (Jvm.Cond.privateMethod ({ cls := "WebCourtModel", name := "doesFit", desc := "(II)Z" } : Jvm.MethodName)) ∈ lw_tbl := lw_at lw_m10 13 rfl
theorem q2297 : (Jvm.Cond.instanceMethod ({ cls := "WebCourtModel", name := "doesFit", desc := "(II)Z" } : Jvm.MethodName)) ∈ lw_all := lw_g (lw_at lw_m10 14 rfl) rfl
theorem q2298 : (Jvm.Cond.code ({ cls := "WebCourtModel", name := "doesFit", desc := "(II)Z" } : Jvm.MethodName) prog_22_method_115_code (5 : Nat) (Option.some Jvm.ClassFile.FieldType.boolean)) ∈ lw_all := lw_g (lw_at lw_m10 15 rfl) rfl
theorem q2300 : (Jvm.Cond.instanceMethod ({ cls := "WebCourtModel", name := "sure", desc := "(II)I" } : Jvm.MethodName)) ∈ lw_all := lw_g (lw_at lw_m10 17 rfl) rfl
theorem q2301 : (Jvm.Cond.selects "WebCourtModel" ({ cls := "WebCourtModel", name := "sure", desc := "(II)I" } : Jvm.MethodName) ({ cls := "WebCourtModel", name := "sure", desc := "(II)I" } : Jvm.MethodName)) ∈ lw_all := lw_g (lw_at lw_m10 18 rfl) rfl
theorem q2302 : (Jvm.Cond.code ({ cls := "WebCourtModel", name := "sure", desc := "(II)I" } : Jvm.MethodName) prog_22_method_117_code (4 : Nat) (Option.some Jvm.ClassFile.FieldType.int)) ∈ lw_all := lw_g (lw_at lw_m10 19 rfl) rfl
theorem q2303 : (Jvm.Cond.methodLink "WebCourtModel" (494 : Nat) ({ cls := "WebCourtModel", name := "fits", desc := "(I)I" } : Jvm.MethodName)) ∈ lw_all := lw_g (lw_at lw_m10 20 rfl) rfl
theorem q2305 : (Jvm.Cond.instanceMethod ({ cls := "WebCourtModel", name := "ask", desc := "(II)I" } : Jvm.MethodName)) ∈ lw_all := lw_g (lw_at lw_m10 22 rfl) rfl
theorem q2306 : (Jvm.Cond.selects "WebCourtModel" ({ cls := "WebCourtModel", name := "ask", desc := "(II)I" } : Jvm.MethodName) ({ cls := "WebCourtModel", name := "ask", desc := "(II)I" } : Jvm.MethodName)) ∈ lw_all := lw_g (lw_at lw_m10 23 rfl) rfl
theorem q2307 : (Jvm.Cond.code ({ cls := "WebCourtModel", name := "ask", desc := "(II)I" } : Jvm.MethodName) prog_22_method_119_code (5 : Nat) (Option.some Jvm.ClassFile.FieldType.int)) ∈ lw_all := lw_g (lw_at lw_m10 24 rfl) rfl
theorem q2308 : (Jvm.Cond.methodLink "WebCourtModel" (497 : Nat) ({ cls := "WebCourtModel", name := "mostOf", desc := "(II)I" } : Jvm.MethodName)) ∈ lw_all := lw_g (lw_at lw_m10 25 rfl) rfl
theorem q2309 : (Jvm.Cond.privateMethod ({ cls := "WebCourtModel", name := "mostOf", desc := "(II)I" } : Jvm.MethodName)) ∈ lw_tbl := lw_at lw_m10 26 rfl
theorem q2310 : (Jvm.Cond.instanceMethod ({ cls := "WebCourtModel", name := "mostOf", desc := "(II)I" } : Jvm.MethodName)) ∈ lw_all := lw_g (lw_at lw_m10 27 rfl) rfl
theorem q2311 : (Jvm.Cond.code ({ cls := "WebCourtModel", name := "mostOf", desc := "(II)I" } : Jvm.MethodName) prog_22_method_118_code (6 : Nat) (Option.some Jvm.ClassFile.FieldType.int)) ∈ lw_all := lw_g (lw_at lw_m10 28 rfl) rfl
theorem q2313 : (Jvm.Cond.instanceMethod ({ cls := "WebCourtModel", name := "image", desc := "(I)I" } : Jvm.MethodName)) ∈ lw_all := lw_g (lw_at lw_m10 30 rfl) rfl
theorem q2314 : (Jvm.Cond.selects "WebCourtModel" ({ cls := "WebCourtModel", name := "image", desc := "(I)I" } : Jvm.MethodName) ({ cls := "WebCourtModel", name := "image", desc := "(I)I" } : Jvm.MethodName)) ∈ lw_all := lw_g (lw_at lw_m10 31 rfl) rfl
theorem q2315 : (Jvm.Cond.code ({ cls := "WebCourtModel", name := "image", desc := "(I)I" } : Jvm.MethodName) prog_22_method_120_code (3 : Nat) (Option.some Jvm.ClassFile.FieldType.int)) ∈ lw_all := lw_g (lw_at lw_m10 32 rfl) rfl
theorem q2317 : (Jvm.Cond.instanceMethod ({ cls := "WebCourtModel", name := "restore", desc := "(I)I" } : Jvm.MethodName)) ∈ lw_all := lw_g (lw_at lw_m10 34 rfl) rfl
theorem q2318 : (Jvm.Cond.selects "WebCourtModel" ({ cls := "WebCourtModel", name := "restore", desc := "(I)I" } : Jvm.MethodName) ({ cls := "WebCourtModel", name := "restore", desc := "(I)I" } : Jvm.MethodName)) ∈ lw_all := lw_g (lw_at lw_m10 35 rfl) rfl
theorem q2319 : (Jvm.Cond.code ({ cls := "WebCourtModel", name := "restore", desc := "(I)I" } : Jvm.MethodName) prog_22_method_121_code (3 : Nat) (Option.some Jvm.ClassFile.FieldType.int)) ∈ lw_all := lw_g (lw_at lw_m10 36 rfl) rfl
theorem q2321 : (Jvm.Cond.instanceMethod ({ cls := "WebCourtModel", name := "about", desc := "(I)I" } : Jvm.MethodName)) ∈ lw_all := lw_g (lw_at lw_m10 38 rfl) rfl
theorem q2322 : (Jvm.Cond.selects "WebCourtModel" ({ cls := "WebCourtModel", name := "about", desc := "(I)I" } : Jvm.MethodName) ({ cls := "WebCourtModel", name := "about", desc := "(I)I" } : Jvm.MethodName)) ∈ lw_all := lw_g (lw_at lw_m10 39 rfl) rfl
theorem q2323 : (Jvm.Cond.code ({ cls := "WebCourtModel", name := "about", desc := "(I)I" } : Jvm.MethodName) prog_22_method_122_code (2 : Nat) (Option.some Jvm.ClassFile.FieldType.int)) ∈ lw_all := lw_g (lw_at lw_m10 40 rfl) rfl
theorem q2325 : (Jvm.Cond.instanceMethod ({ cls := "WebCourtModel", name := "feed", desc := "(IIIII)I" } : Jvm.MethodName)) ∈ lw_all := lw_g (lw_at lw_m10 42 rfl) rfl
theorem q2326 : (Jvm.Cond.selects "WebCourtModel" ({ cls := "WebCourtModel", name := "feed", desc := "(IIIII)I" } : Jvm.MethodName) ({ cls := "WebCourtModel", name := "feed", desc := "(IIIII)I" } : Jvm.MethodName)) ∈ lw_all := lw_g (lw_at lw_m10 43 rfl) rfl
theorem q2327 : (Jvm.Cond.code ({ cls := "WebCourtModel", name := "feed", desc := "(IIIII)I" } : Jvm.MethodName) prog_22_method_123_code (8 : Nat) (Option.some Jvm.ClassFile.FieldType.int)) ∈ lw_all := lw_g (lw_at lw_m10 44 rfl) rfl
theorem q2329 : (Jvm.Cond.instanceMethod ({ cls := "WebCourtModel", name := "end", desc := "(I)I" } : Jvm.MethodName)) ∈ lw_all := lw_g (lw_at lw_m10 46 rfl) rfl
theorem q2330 : (Jvm.Cond.selects "WebCourtModel" ({ cls := "WebCourtModel", name := "end", desc := "(I)I" } : Jvm.MethodName) ({ cls := "WebCourtModel", name := "end", desc := "(I)I" } : Jvm.MethodName)) ∈ lw_all := lw_g (lw_at lw_m10 47 rfl) rfl
theorem q2331 : (Jvm.Cond.code ({ cls := "WebCourtModel", name := "end", desc := "(I)I" } : Jvm.MethodName) prog_22_method_124_code (2 : Nat) (Option.some Jvm.ClassFile.FieldType.int)) ∈ lw_all := lw_g (lw_at lw_m10 48 rfl) rfl
theorem q2343 : (Jvm.Cond.castable "WebCourtModel" "java/lang/Object") ∈ lw_tbl := lw_at lw_m10 60 rfl
theorem in_X4 : ∀ w ∈ wsX40, w ∈ lw_all := lw_in wsX40 [1716, 1718, 1720, 1722, 1724, 1726, 1728, 1730, 1732, 1734, 1736, 1738, 1740, 1742, 1744, 1746, 1748, 1750, 1752, 1754, 1756, 1758, 1760, 1762, 1764, 1766, 1768, 1770, 1772, 1774, 1776, 1778, 1780, 1782, 1784, 1786, 1788, 1790, 1792, 1794, 1796, 1798, 1800, 1802, 1804, 1806, 1808, 1810, 1812, 1814, 1816, 1818, 1820, 1822, 1824, 1826, 1828, 1830, 1832, 1834, 1836, 1838, 1840, 1842, 1844] (by decide +kernel) (by decide +kernel)
