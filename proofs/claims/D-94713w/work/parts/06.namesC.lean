/-! LetterFormsModel -/
set_option maxRecDepth 100000
def RX11 : String := "LetterFormsModel"
def TX11 : u_T := fun k => match k with
  | 0 => ("LetterFormsModel", "thrown", "I", false)
  | 1 => ("LetterFormsModel", "world", "[I", true)
  | 2 => ("LetterFormsModel", "image", "[I", true)
  | 3 => ("LetterFormsModel", "hasImage", "Z", false)
  | 4 => ("LetterFormsModel", "deg", "[I", true)
  | 5 => ("LetterFormsModel", "num", "[I", true)
  | 6 => ("LetterFormsModel", "ta", "I", false)
  | 7 => ("LetterFormsModel", "tb", "I", false)
  | 8 => ("LetterFormsModel", "tc", "I", false)
  | 9 => ("LetterFormsModel", "td", "I", false)
  | 10 => ("LetterFormsModel", "tape", "[B", true)
  | 11 => ("LetterFormsModel", "taped", "I", false)
  | 12 => ("LetterFormsModel", "point", "I", false)
  | 13 => ("LetterFormsModel", "end", "I", false)
  | 14 => ("LetterFormsModel", "begin", "I", false)
  | 15 => ("LetterFormsModel", "deep", "I", false)
  | 16 => ("LetterFormsModel", "counted", "I", false)
  | 17 => ("LetterFormsModel", "faultAt", "I", false)
  | 18 => ("LetterFormsModel", "five", "[I", true)
  | 19 => ("LetterFormsModel", "steps", "I", false)
  | 20 => ("LetterFormsModel", "ranks", "[I", true)
  | 21 => ("LetterFormsModel", "ways", "[J", true)
  | 22 => ("LetterFormsModel", "rows", "[I", true)
  | 23 => ("LetterFormsModel", "drawn", "[I", true)
  | 24 => ("LetterFormsModel", "longs", "I", false)
  | 25 => ("LetterFormsModel", "valued", "[I", true)
  | 26 => ("LetterFormsModel", "powered", "[I", true)
  | 27 => ("LetterFormsModel", "spot", "[I", true)
  | 28 => ("LetterFormsModel", "factor", "[I", true)
  | 29 => ("LetterFormsModel", "powersMany", "I", false)
  | 30 => ("LetterFormsModel", "wa", "J", false)
  | 31 => ("LetterFormsModel", "wb", "J", false)
  | 32 => ("LetterFormsModel", "wc", "J", false)
  | 33 => ("LetterFormsModel", "changes", "J", false)
  | 34 => ("LetterFormsModel", "whole", "[J", true)
  | 35 => ("LetterFormsModel", "ra", "I", false)
  | 36 => ("LetterFormsModel", "rb", "I", false)
  | _ => ("LetterFormsModel", "rc", "I", false)
def tyX11 : Nat → FieldType := fun k => match k with
  | 0 => .int
  | 1 => .array .int
  | 2 => .array .int
  | 3 => .boolean
  | 4 => .array .int
  | 5 => .array .int
  | 6 => .int
  | 7 => .int
  | 8 => .int
  | 9 => .int
  | 10 => .array .byte
  | 11 => .int
  | 12 => .int
  | 13 => .int
  | 14 => .int
  | 15 => .int
  | 16 => .int
  | 17 => .int
  | 18 => .array .int
  | 19 => .int
  | 20 => .array .int
  | 21 => .array .long
  | 22 => .array .int
  | 23 => .array .int
  | 24 => .int
  | 25 => .array .int
  | 26 => .array .int
  | 27 => .array .int
  | 28 => .array .int
  | 29 => .int
  | 30 => .long
  | 31 => .long
  | 32 => .long
  | 33 => .long
  | 34 => .array .long
  | 35 => .int
  | 36 => .int
  | _ => .int
abbrev wsX110 : List Cond := u_ws RX11 TX11 38
set_option maxRecDepth 100000 in
theorem nmX11 : ∀ a, a < 38 → ∀ b, b < 38 → a ≠ b → (TX11 a).2.1 ≠ (TX11 b).2.1 := by decide +kernel
set_option maxRecDepth 100000 in
theorem tyX11_ok : ∀ k, k < 38 → parseFieldDescriptor (TX11 k).2.2.1 = some (tyX11 k) := by decide +kernel
abbrev cX11_thrown : ByteArray := prog_18_method_1_code
def yX11_thrown : MethodName := ⟨RX11, "thrown", "()I"⟩
theorem dX11_thrown_0 : decode cX11_thrown 0 = .ok (.aload_n 0, 1) := by decide +kernel
theorem dX11_thrown_1 : decode cX11_thrown 1 = .ok (.getfield 3, 3) := by decide +kernel
theorem dX11_thrown_4 : decode cX11_thrown 4 = .ok (.ireturn, 1) := by decide +kernel
abbrev cX11_init : ByteArray := prog_18_method_4_code
def yX11_init : MethodName := ⟨RX11, "<init>", "()V"⟩
def dkwX11_init_6 : List UInt8 := [16, 11, 79, 177]
abbrev dktX11_init_6 : List UInt8 := dkwX11_init_6 ++ []
def dkwX11_init_5 : List UInt8 := [188, 10, 181, 0, 55, 42, 6, 188, 10, 181, 0, 58, 42, 7, 188, 11, 181, 0, 61, 42, 180, 0, 13, 3]
abbrev dktX11_init_5 : List UInt8 := dkwX11_init_5 ++ dktX11_init_6
def dkwX11_init_4 : List UInt8 := [181, 0, 46, 42, 17, 1, 105, 188, 10, 181, 0, 49, 42, 17, 0, 180, 188, 10, 181, 0, 52, 42, 6]
abbrev dktX11_init_4 : List UInt8 := dkwX11_init_4 ++ dktX11_init_5
def dkwX11_init_3 : List UInt8 := [17, 4, 237, 188, 11, 181, 0, 39, 42, 17, 15, 96, 188, 10, 181, 0, 43, 42, 16, 108, 188, 10]
abbrev dktX11_init_3 : List UInt8 := dkwX11_init_3 ++ dktX11_init_4
def dkwX11_init_2 : List UInt8 := [181, 0, 26, 42, 2, 181, 0, 30, 42, 8, 188, 10, 181, 0, 33, 42, 16, 48, 188, 10, 181, 0, 36, 42]
abbrev dktX11_init_2 : List UInt8 := dkwX11_init_2 ++ dktX11_init_3
def dkwX11_init_1 : List UInt8 := [16, 48, 188, 10, 181, 0, 20, 42, 17, 7, 176, 188, 10, 181, 0, 23, 42, 17, 1, 144, 188, 8]
abbrev dktX11_init_1 : List UInt8 := dkwX11_init_1 ++ dktX11_init_2
def dkwX11_init_0 : List UInt8 := [42, 183, 0, 7, 42, 17, 15, 167, 188, 10, 181, 0, 13, 42, 17, 14, 22, 188, 10, 181, 0, 17, 42]
abbrev dktX11_init_0 : List UInt8 := dkwX11_init_0 ++ dktX11_init_1
theorem dksX11_init_0 : cX11_init.data.toList.drop 0 = dktX11_init_0 := by decide +kernel
theorem dksX11_init_1 : cX11_init.data.toList.drop 23 = dktX11_init_1 := dk_seg dksX11_init_0 23 rfl rfl
theorem dksX11_init_2 : cX11_init.data.toList.drop 45 = dktX11_init_2 := dk_seg dksX11_init_1 22 rfl rfl
theorem dksX11_init_3 : cX11_init.data.toList.drop 69 = dktX11_init_3 := dk_seg dksX11_init_2 24 rfl rfl
theorem dksX11_init_4 : cX11_init.data.toList.drop 91 = dktX11_init_4 := dk_seg dksX11_init_3 22 rfl rfl
theorem dksX11_init_5 : cX11_init.data.toList.drop 114 = dktX11_init_5 := dk_seg dksX11_init_4 23 rfl rfl
theorem dksX11_init_6 : cX11_init.data.toList.drop 138 = dktX11_init_6 := dk_seg dksX11_init_5 24 rfl rfl
theorem dX11_init_0 : decode cX11_init 0 = .ok (.aload_n 0, 1) := dk_42 (dk_at dksX11_init_0 0 rfl rfl)
theorem dX11_init_1 : decode cX11_init 1 = .ok (.invokespecial 7, 3) := dk_183 0 7 (dk_at dksX11_init_0 1 rfl rfl)
theorem dX11_init_4 : decode cX11_init 4 = .ok (.aload_n 0, 1) := dk_42 (dk_at dksX11_init_0 4 rfl rfl)
theorem dX11_init_5 : decode cX11_init 5 = .ok (.sipush 4007, 3) := dk_17 15 167 (dk_at dksX11_init_0 5 rfl rfl)
theorem dX11_init_8 : decode cX11_init 8 = .ok (.newarray .int, 2) := dk_188_10 (dk_at dksX11_init_0 8 rfl rfl)
theorem dX11_init_10 : decode cX11_init 10 = .ok (.putfield 13, 3) := dk_181 0 13 (dk_at dksX11_init_0 10 rfl rfl)
theorem dX11_init_13 : decode cX11_init 13 = .ok (.aload_n 0, 1) := dk_42 (dk_at dksX11_init_0 13 rfl rfl)
theorem dX11_init_14 : decode cX11_init 14 = .ok (.sipush 3606, 3) := dk_17 14 22 (dk_at dksX11_init_0 14 rfl rfl)
theorem dX11_init_17 : decode cX11_init 17 = .ok (.newarray .int, 2) := dk_188_10 (dk_at dksX11_init_0 17 rfl rfl)
theorem dX11_init_19 : decode cX11_init 19 = .ok (.putfield 17, 3) := dk_181 0 17 (dk_at dksX11_init_0 19 rfl rfl)
theorem dX11_init_22 : decode cX11_init 22 = .ok (.aload_n 0, 1) := dk_42 (dk_at dksX11_init_0 22 rfl rfl)
theorem dX11_init_23 : decode cX11_init 23 = .ok (.bipush 48, 2) := dk_16 48 (dk_at dksX11_init_1 0 rfl rfl)
theorem dX11_init_25 : decode cX11_init 25 = .ok (.newarray .int, 2) := dk_188_10 (dk_at dksX11_init_1 2 rfl rfl)
theorem dX11_init_27 : decode cX11_init 27 = .ok (.putfield 20, 3) := dk_181 0 20 (dk_at dksX11_init_1 4 rfl rfl)
theorem dX11_init_30 : decode cX11_init 30 = .ok (.aload_n 0, 1) := dk_42 (dk_at dksX11_init_1 7 rfl rfl)
theorem dX11_init_31 : decode cX11_init 31 = .ok (.sipush 1968, 3) := dk_17 7 176 (dk_at dksX11_init_1 8 rfl rfl)
theorem dX11_init_34 : decode cX11_init 34 = .ok (.newarray .int, 2) := dk_188_10 (dk_at dksX11_init_1 11 rfl rfl)
theorem dX11_init_36 : decode cX11_init 36 = .ok (.putfield 23, 3) := dk_181 0 23 (dk_at dksX11_init_1 13 rfl rfl)
theorem dX11_init_39 : decode cX11_init 39 = .ok (.aload_n 0, 1) := dk_42 (dk_at dksX11_init_1 16 rfl rfl)
theorem dX11_init_40 : decode cX11_init 40 = .ok (.sipush 400, 3) := dk_17 1 144 (dk_at dksX11_init_1 17 rfl rfl)
theorem dX11_init_43 : decode cX11_init 43 = .ok (.newarray .byte, 2) := dk_188_8 (dk_at dksX11_init_1 20 rfl rfl)
theorem dX11_init_45 : decode cX11_init 45 = .ok (.putfield 26, 3) := dk_181 0 26 (dk_at dksX11_init_2 0 rfl rfl)
theorem dX11_init_48 : decode cX11_init 48 = .ok (.aload_n 0, 1) := dk_42 (dk_at dksX11_init_2 3 rfl rfl)
theorem dX11_init_49 : decode cX11_init 49 = .ok (.iconst (-1), 1) := dk_2 (dk_at dksX11_init_2 4 rfl rfl)
theorem dX11_init_50 : decode cX11_init 50 = .ok (.putfield 30, 3) := dk_181 0 30 (dk_at dksX11_init_2 5 rfl rfl)
theorem dX11_init_53 : decode cX11_init 53 = .ok (.aload_n 0, 1) := dk_42 (dk_at dksX11_init_2 8 rfl rfl)
theorem dX11_init_54 : decode cX11_init 54 = .ok (.iconst 5, 1) := dk_8 (dk_at dksX11_init_2 9 rfl rfl)
theorem dX11_init_55 : decode cX11_init 55 = .ok (.newarray .int, 2) := dk_188_10 (dk_at dksX11_init_2 10 rfl rfl)
theorem dX11_init_57 : decode cX11_init 57 = .ok (.putfield 33, 3) := dk_181 0 33 (dk_at dksX11_init_2 12 rfl rfl)
theorem dX11_init_60 : decode cX11_init 60 = .ok (.aload_n 0, 1) := dk_42 (dk_at dksX11_init_2 15 rfl rfl)
theorem dX11_init_61 : decode cX11_init 61 = .ok (.bipush 48, 2) := dk_16 48 (dk_at dksX11_init_2 16 rfl rfl)
theorem dX11_init_63 : decode cX11_init 63 = .ok (.newarray .int, 2) := dk_188_10 (dk_at dksX11_init_2 18 rfl rfl)
theorem dX11_init_65 : decode cX11_init 65 = .ok (.putfield 36, 3) := dk_181 0 36 (dk_at dksX11_init_2 20 rfl rfl)
theorem dX11_init_68 : decode cX11_init 68 = .ok (.aload_n 0, 1) := dk_42 (dk_at dksX11_init_2 23 rfl rfl)
theorem dX11_init_69 : decode cX11_init 69 = .ok (.sipush 1261, 3) := dk_17 4 237 (dk_at dksX11_init_3 0 rfl rfl)
theorem dX11_init_72 : decode cX11_init 72 = .ok (.newarray .long, 2) := dk_188_11 (dk_at dksX11_init_3 3 rfl rfl)
theorem dX11_init_74 : decode cX11_init 74 = .ok (.putfield 39, 3) := dk_181 0 39 (dk_at dksX11_init_3 5 rfl rfl)
theorem dX11_init_77 : decode cX11_init 77 = .ok (.aload_n 0, 1) := dk_42 (dk_at dksX11_init_3 8 rfl rfl)
theorem dX11_init_78 : decode cX11_init 78 = .ok (.sipush 3936, 3) := dk_17 15 96 (dk_at dksX11_init_3 9 rfl rfl)
theorem dX11_init_81 : decode cX11_init 81 = .ok (.newarray .int, 2) := dk_188_10 (dk_at dksX11_init_3 12 rfl rfl)
theorem dX11_init_83 : decode cX11_init 83 = .ok (.putfield 43, 3) := dk_181 0 43 (dk_at dksX11_init_3 14 rfl rfl)
theorem dX11_init_86 : decode cX11_init 86 = .ok (.aload_n 0, 1) := dk_42 (dk_at dksX11_init_3 17 rfl rfl)
theorem dX11_init_87 : decode cX11_init 87 = .ok (.bipush 108, 2) := dk_16 108 (dk_at dksX11_init_3 18 rfl rfl)
theorem dX11_init_89 : decode cX11_init 89 = .ok (.newarray .int, 2) := dk_188_10 (dk_at dksX11_init_3 20 rfl rfl)
theorem dX11_init_91 : decode cX11_init 91 = .ok (.putfield 46, 3) := dk_181 0 46 (dk_at dksX11_init_4 0 rfl rfl)
theorem dX11_init_94 : decode cX11_init 94 = .ok (.aload_n 0, 1) := dk_42 (dk_at dksX11_init_4 3 rfl rfl)
theorem dX11_init_95 : decode cX11_init 95 = .ok (.sipush 361, 3) := dk_17 1 105 (dk_at dksX11_init_4 4 rfl rfl)
theorem dX11_init_98 : decode cX11_init 98 = .ok (.newarray .int, 2) := dk_188_10 (dk_at dksX11_init_4 7 rfl rfl)
theorem dX11_init_100 : decode cX11_init 100 = .ok (.putfield 49, 3) := dk_181 0 49 (dk_at dksX11_init_4 9 rfl rfl)
theorem dX11_init_103 : decode cX11_init 103 = .ok (.aload_n 0, 1) := dk_42 (dk_at dksX11_init_4 12 rfl rfl)
theorem dX11_init_104 : decode cX11_init 104 = .ok (.sipush 180, 3) := dk_17 0 180 (dk_at dksX11_init_4 13 rfl rfl)
theorem dX11_init_107 : decode cX11_init 107 = .ok (.newarray .int, 2) := dk_188_10 (dk_at dksX11_init_4 16 rfl rfl)
theorem dX11_init_109 : decode cX11_init 109 = .ok (.putfield 52, 3) := dk_181 0 52 (dk_at dksX11_init_4 18 rfl rfl)
theorem dX11_init_112 : decode cX11_init 112 = .ok (.aload_n 0, 1) := dk_42 (dk_at dksX11_init_4 21 rfl rfl)
theorem dX11_init_113 : decode cX11_init 113 = .ok (.iconst 3, 1) := dk_6 (dk_at dksX11_init_4 22 rfl rfl)
theorem dX11_init_114 : decode cX11_init 114 = .ok (.newarray .int, 2) := dk_188_10 (dk_at dksX11_init_5 0 rfl rfl)
theorem dX11_init_116 : decode cX11_init 116 = .ok (.putfield 55, 3) := dk_181 0 55 (dk_at dksX11_init_5 2 rfl rfl)
theorem dX11_init_119 : decode cX11_init 119 = .ok (.aload_n 0, 1) := dk_42 (dk_at dksX11_init_5 5 rfl rfl)
theorem dX11_init_120 : decode cX11_init 120 = .ok (.iconst 3, 1) := dk_6 (dk_at dksX11_init_5 6 rfl rfl)
theorem dX11_init_121 : decode cX11_init 121 = .ok (.newarray .int, 2) := dk_188_10 (dk_at dksX11_init_5 7 rfl rfl)
theorem dX11_init_123 : decode cX11_init 123 = .ok (.putfield 58, 3) := dk_181 0 58 (dk_at dksX11_init_5 9 rfl rfl)
theorem dX11_init_126 : decode cX11_init 126 = .ok (.aload_n 0, 1) := dk_42 (dk_at dksX11_init_5 12 rfl rfl)
theorem dX11_init_127 : decode cX11_init 127 = .ok (.iconst 4, 1) := dk_7 (dk_at dksX11_init_5 13 rfl rfl)
theorem dX11_init_128 : decode cX11_init 128 = .ok (.newarray .long, 2) := dk_188_11 (dk_at dksX11_init_5 14 rfl rfl)
theorem dX11_init_130 : decode cX11_init 130 = .ok (.putfield 61, 3) := dk_181 0 61 (dk_at dksX11_init_5 16 rfl rfl)
theorem dX11_init_133 : decode cX11_init 133 = .ok (.aload_n 0, 1) := dk_42 (dk_at dksX11_init_5 19 rfl rfl)
theorem dX11_init_134 : decode cX11_init 134 = .ok (.getfield 13, 3) := dk_180 0 13 (dk_at dksX11_init_5 20 rfl rfl)
theorem dX11_init_137 : decode cX11_init 137 = .ok (.iconst 0, 1) := dk_3 (dk_at dksX11_init_5 23 rfl rfl)
theorem dX11_init_138 : decode cX11_init 138 = .ok (.bipush 11, 2) := dk_16 11 (dk_at dksX11_init_6 0 rfl rfl)
theorem dX11_init_140 : decode cX11_init 140 = .ok (.iastore, 1) := dk_79 (dk_at dksX11_init_6 2 rfl rfl)
theorem dX11_init_141 : decode cX11_init 141 = .ok (.return_, 1) := dk_177 (dk_at dksX11_init_6 3 rfl rfl)
abbrev cX11_image : ByteArray := prog_18_method_5_code
def yX11_image : MethodName := ⟨RX11, "image", "()V"⟩
def dkwX11_image_1 : List UInt8 := [46, 79, 132, 1, 1, 167, 255, 234, 42, 4, 181, 0, 64, 177]
abbrev dktX11_image_1 : List UInt8 := dkwX11_image_1 ++ []
def dkwX11_image_0 : List UInt8 := [42, 3, 181, 0, 3, 3, 60, 27, 17, 14, 22, 162, 0, 21, 42, 180, 0, 17, 27, 42, 180, 0, 13, 27]
abbrev dktX11_image_0 : List UInt8 := dkwX11_image_0 ++ dktX11_image_1
theorem dksX11_image_0 : cX11_image.data.toList.drop 0 = dktX11_image_0 := by decide +kernel
theorem dksX11_image_1 : cX11_image.data.toList.drop 24 = dktX11_image_1 := dk_seg dksX11_image_0 24 rfl rfl
theorem dX11_image_0 : decode cX11_image 0 = .ok (.aload_n 0, 1) := dk_42 (dk_at dksX11_image_0 0 rfl rfl)
theorem dX11_image_1 : decode cX11_image 1 = .ok (.iconst 0, 1) := dk_3 (dk_at dksX11_image_0 1 rfl rfl)
theorem dX11_image_2 : decode cX11_image 2 = .ok (.putfield 3, 3) := dk_181 0 3 (dk_at dksX11_image_0 2 rfl rfl)
theorem dX11_image_5 : decode cX11_image 5 = .ok (.iconst 0, 1) := dk_3 (dk_at dksX11_image_0 5 rfl rfl)
theorem dX11_image_6 : decode cX11_image 6 = .ok (.istore_n 1, 1) := dk_60 (dk_at dksX11_image_0 6 rfl rfl)
theorem dX11_image_7 : decode cX11_image 7 = .ok (.iload_n 1, 1) := dk_27 (dk_at dksX11_image_0 7 rfl rfl)
theorem dX11_image_8 : decode cX11_image 8 = .ok (.sipush 3606, 3) := dk_17 14 22 (dk_at dksX11_image_0 8 rfl rfl)
theorem dX11_image_11 : decode cX11_image 11 = .ok (.if_icmp .ge 21, 3) := dk_162 0 21 (dk_at dksX11_image_0 11 rfl rfl)
theorem dX11_image_14 : decode cX11_image 14 = .ok (.aload_n 0, 1) := dk_42 (dk_at dksX11_image_0 14 rfl rfl)
theorem dX11_image_15 : decode cX11_image 15 = .ok (.getfield 17, 3) := dk_180 0 17 (dk_at dksX11_image_0 15 rfl rfl)
theorem dX11_image_18 : decode cX11_image 18 = .ok (.iload_n 1, 1) := dk_27 (dk_at dksX11_image_0 18 rfl rfl)
theorem dX11_image_19 : decode cX11_image 19 = .ok (.aload_n 0, 1) := dk_42 (dk_at dksX11_image_0 19 rfl rfl)
theorem dX11_image_20 : decode cX11_image 20 = .ok (.getfield 13, 3) := dk_180 0 13 (dk_at dksX11_image_0 20 rfl rfl)
theorem dX11_image_23 : decode cX11_image 23 = .ok (.iload_n 1, 1) := dk_27 (dk_at dksX11_image_0 23 rfl rfl)
theorem dX11_image_24 : decode cX11_image 24 = .ok (.iaload, 1) := dk_46 (dk_at dksX11_image_1 0 rfl rfl)
theorem dX11_image_25 : decode cX11_image 25 = .ok (.iastore, 1) := dk_79 (dk_at dksX11_image_1 1 rfl rfl)
theorem dX11_image_26 : decode cX11_image 26 = .ok (.iinc 1 1, 3) := dk_132 1 1 (dk_at dksX11_image_1 2 rfl rfl)
theorem dX11_image_29 : decode cX11_image 29 = .ok (.goto (-22), 3) := dk_167 255 234 (dk_at dksX11_image_1 5 rfl rfl)
theorem dX11_image_32 : decode cX11_image 32 = .ok (.aload_n 0, 1) := dk_42 (dk_at dksX11_image_1 8 rfl rfl)
theorem dX11_image_33 : decode cX11_image 33 = .ok (.iconst 1, 1) := dk_4 (dk_at dksX11_image_1 9 rfl rfl)
theorem dX11_image_34 : decode cX11_image 34 = .ok (.putfield 64, 3) := dk_181 0 64 (dk_at dksX11_image_1 10 rfl rfl)
theorem dX11_image_37 : decode cX11_image 37 = .ok (.return_, 1) := dk_177 (dk_at dksX11_image_1 13 rfl rfl)
abbrev cX11_back : ByteArray := prog_18_method_6_code
def yX11_back : MethodName := ⟨RX11, "back", "()Z"⟩
def dkwX11_back_1 : List UInt8 := [180, 0, 13, 27, 42, 180, 0, 17, 27, 46, 79, 132, 1, 1, 167, 255, 234, 4, 172]
abbrev dktX11_back_1 : List UInt8 := dkwX11_back_1 ++ []
def dkwX11_back_0 : List UInt8 := [42, 3, 181, 0, 3, 42, 180, 0, 64, 154, 0, 5, 3, 172, 3, 60, 27, 17, 14, 22, 162, 0, 21, 42]
abbrev dktX11_back_0 : List UInt8 := dkwX11_back_0 ++ dktX11_back_1
theorem dksX11_back_0 : cX11_back.data.toList.drop 0 = dktX11_back_0 := by decide +kernel
theorem dksX11_back_1 : cX11_back.data.toList.drop 24 = dktX11_back_1 := dk_seg dksX11_back_0 24 rfl rfl
theorem dX11_back_0 : decode cX11_back 0 = .ok (.aload_n 0, 1) := dk_42 (dk_at dksX11_back_0 0 rfl rfl)
theorem dX11_back_1 : decode cX11_back 1 = .ok (.iconst 0, 1) := dk_3 (dk_at dksX11_back_0 1 rfl rfl)
theorem dX11_back_2 : decode cX11_back 2 = .ok (.putfield 3, 3) := dk_181 0 3 (dk_at dksX11_back_0 2 rfl rfl)
theorem dX11_back_5 : decode cX11_back 5 = .ok (.aload_n 0, 1) := dk_42 (dk_at dksX11_back_0 5 rfl rfl)
theorem dX11_back_6 : decode cX11_back 6 = .ok (.getfield 64, 3) := dk_180 0 64 (dk_at dksX11_back_0 6 rfl rfl)
theorem dX11_back_9 : decode cX11_back 9 = .ok (.ifCond .ne 5, 3) := dk_154 0 5 (dk_at dksX11_back_0 9 rfl rfl)
theorem dX11_back_12 : decode cX11_back 12 = .ok (.iconst 0, 1) := dk_3 (dk_at dksX11_back_0 12 rfl rfl)
theorem dX11_back_13 : decode cX11_back 13 = .ok (.ireturn, 1) := dk_172 (dk_at dksX11_back_0 13 rfl rfl)
theorem dX11_back_14 : decode cX11_back 14 = .ok (.iconst 0, 1) := dk_3 (dk_at dksX11_back_0 14 rfl rfl)
theorem dX11_back_15 : decode cX11_back 15 = .ok (.istore_n 1, 1) := dk_60 (dk_at dksX11_back_0 15 rfl rfl)
theorem dX11_back_16 : decode cX11_back 16 = .ok (.iload_n 1, 1) := dk_27 (dk_at dksX11_back_0 16 rfl rfl)
theorem dX11_back_17 : decode cX11_back 17 = .ok (.sipush 3606, 3) := dk_17 14 22 (dk_at dksX11_back_0 17 rfl rfl)
theorem dX11_back_20 : decode cX11_back 20 = .ok (.if_icmp .ge 21, 3) := dk_162 0 21 (dk_at dksX11_back_0 20 rfl rfl)
theorem dX11_back_23 : decode cX11_back 23 = .ok (.aload_n 0, 1) := dk_42 (dk_at dksX11_back_0 23 rfl rfl)
theorem dX11_back_24 : decode cX11_back 24 = .ok (.getfield 13, 3) := dk_180 0 13 (dk_at dksX11_back_1 0 rfl rfl)
theorem dX11_back_27 : decode cX11_back 27 = .ok (.iload_n 1, 1) := dk_27 (dk_at dksX11_back_1 3 rfl rfl)
theorem dX11_back_28 : decode cX11_back 28 = .ok (.aload_n 0, 1) := dk_42 (dk_at dksX11_back_1 4 rfl rfl)
theorem dX11_back_29 : decode cX11_back 29 = .ok (.getfield 17, 3) := dk_180 0 17 (dk_at dksX11_back_1 5 rfl rfl)
theorem dX11_back_32 : decode cX11_back 32 = .ok (.iload_n 1, 1) := dk_27 (dk_at dksX11_back_1 8 rfl rfl)
theorem dX11_back_33 : decode cX11_back 33 = .ok (.iaload, 1) := dk_46 (dk_at dksX11_back_1 9 rfl rfl)
theorem dX11_back_34 : decode cX11_back 34 = .ok (.iastore, 1) := dk_79 (dk_at dksX11_back_1 10 rfl rfl)
theorem dX11_back_35 : decode cX11_back 35 = .ok (.iinc 1 1, 3) := dk_132 1 1 (dk_at dksX11_back_1 11 rfl rfl)
theorem dX11_back_38 : decode cX11_back 38 = .ok (.goto (-22), 3) := dk_167 255 234 (dk_at dksX11_back_1 14 rfl rfl)
theorem dX11_back_41 : decode cX11_back 41 = .ok (.iconst 1, 1) := dk_4 (dk_at dksX11_back_1 17 rfl rfl)
theorem dX11_back_42 : decode cX11_back 42 = .ok (.ireturn, 1) := dk_172 (dk_at dksX11_back_1 18 rfl rfl)
abbrev cX11_feed : ByteArray := prog_18_method_39_code
def yX11_feed : MethodName := ⟨RX11, "feed", "(IIIII)I"⟩
def dkwX11_feed_5 : List UInt8 := [180, 0, 155, 172]
abbrev dktX11_feed_5 : List UInt8 := dkwX11_feed_5 ++ []
def dkwX11_feed_4 : List UInt8 := [100, 122, 145, 84, 132, 6, 1, 167, 255, 213, 42, 89, 180, 0, 155, 16, 20, 96, 181, 0, 155, 42]
abbrev dktX11_feed_4 : List UInt8 := dkwX11_feed_4 ++ dktX11_feed_5
def dkwX11_feed_3 : List UInt8 := [180, 0, 155, 21, 6, 96, 42, 180, 0, 33, 21, 6, 7, 108, 46, 16, 24, 16, 8, 21, 6, 7, 112, 104]
abbrev dktX11_feed_3 : List UInt8 := dkwX11_feed_3 ++ dktX11_feed_4
def dkwX11_feed_2 : List UInt8 := [79, 42, 180, 0, 33, 7, 21, 5, 79, 3, 54, 6, 21, 6, 16, 20, 162, 0, 42, 42, 180, 0, 26, 42]
abbrev dktX11_feed_2 : List UInt8 := dkwX11_feed_2 ++ dktX11_feed_3
def dkwX11_feed_1 : List UInt8 := [3, 27, 79, 42, 180, 0, 33, 4, 28, 79, 42, 180, 0, 33, 5, 29, 79, 42, 180, 0, 33, 6, 21, 4]
abbrev dktX11_feed_1 : List UInt8 := dkwX11_feed_1 ++ dktX11_feed_2
def dkwX11_feed_0 : List UInt8 := [42, 3, 181, 0, 3, 42, 180, 0, 155, 16, 20, 96, 17, 1, 144, 164, 0, 5, 2, 172, 42, 180, 0, 33]
abbrev dktX11_feed_0 : List UInt8 := dkwX11_feed_0 ++ dktX11_feed_1
theorem dksX11_feed_0 : cX11_feed.data.toList.drop 0 = dktX11_feed_0 := by decide +kernel
theorem dksX11_feed_1 : cX11_feed.data.toList.drop 24 = dktX11_feed_1 := dk_seg dksX11_feed_0 24 rfl rfl
theorem dksX11_feed_2 : cX11_feed.data.toList.drop 48 = dktX11_feed_2 := dk_seg dksX11_feed_1 24 rfl rfl
theorem dksX11_feed_3 : cX11_feed.data.toList.drop 72 = dktX11_feed_3 := dk_seg dksX11_feed_2 24 rfl rfl
theorem dksX11_feed_4 : cX11_feed.data.toList.drop 96 = dktX11_feed_4 := dk_seg dksX11_feed_3 24 rfl rfl
theorem dksX11_feed_5 : cX11_feed.data.toList.drop 118 = dktX11_feed_5 := dk_seg dksX11_feed_4 22 rfl rfl
theorem dX11_feed_0 : decode cX11_feed 0 = .ok (.aload_n 0, 1) := dk_42 (dk_at dksX11_feed_0 0 rfl rfl)
theorem dX11_feed_1 : decode cX11_feed 1 = .ok (.iconst 0, 1) := dk_3 (dk_at dksX11_feed_0 1 rfl rfl)
theorem dX11_feed_2 : decode cX11_feed 2 = .ok (.putfield 3, 3) := dk_181 0 3 (dk_at dksX11_feed_0 2 rfl rfl)
theorem dX11_feed_5 : decode cX11_feed 5 = .ok (.aload_n 0, 1) := dk_42 (dk_at dksX11_feed_0 5 rfl rfl)
theorem dX11_feed_6 : decode cX11_feed 6 = .ok (.getfield 155, 3) := dk_180 0 155 (dk_at dksX11_feed_0 6 rfl rfl)
theorem dX11_feed_9 : decode cX11_feed 9 = .ok (.bipush 20, 2) := dk_16 20 (dk_at dksX11_feed_0 9 rfl rfl)
theorem dX11_feed_11 : decode cX11_feed 11 = .ok (.iadd, 1) := dk_96 (dk_at dksX11_feed_0 11 rfl rfl)
theorem dX11_feed_12 : decode cX11_feed 12 = .ok (.sipush 400, 3) := dk_17 1 144 (dk_at dksX11_feed_0 12 rfl rfl)
theorem dX11_feed_15 : decode cX11_feed 15 = .ok (.if_icmp .le 5, 3) := dk_164 0 5 (dk_at dksX11_feed_0 15 rfl rfl)
theorem dX11_feed_18 : decode cX11_feed 18 = .ok (.iconst (-1), 1) := dk_2 (dk_at dksX11_feed_0 18 rfl rfl)
theorem dX11_feed_19 : decode cX11_feed 19 = .ok (.ireturn, 1) := dk_172 (dk_at dksX11_feed_0 19 rfl rfl)
theorem dX11_feed_20 : decode cX11_feed 20 = .ok (.aload_n 0, 1) := dk_42 (dk_at dksX11_feed_0 20 rfl rfl)
theorem dX11_feed_21 : decode cX11_feed 21 = .ok (.getfield 33, 3) := dk_180 0 33 (dk_at dksX11_feed_0 21 rfl rfl)
theorem dX11_feed_24 : decode cX11_feed 24 = .ok (.iconst 0, 1) := dk_3 (dk_at dksX11_feed_1 0 rfl rfl)
theorem dX11_feed_25 : decode cX11_feed 25 = .ok (.iload_n 1, 1) := dk_27 (dk_at dksX11_feed_1 1 rfl rfl)
theorem dX11_feed_26 : decode cX11_feed 26 = .ok (.iastore, 1) := dk_79 (dk_at dksX11_feed_1 2 rfl rfl)
theorem dX11_feed_27 : decode cX11_feed 27 = .ok (.aload_n 0, 1) := dk_42 (dk_at dksX11_feed_1 3 rfl rfl)
theorem dX11_feed_28 : decode cX11_feed 28 = .ok (.getfield 33, 3) := dk_180 0 33 (dk_at dksX11_feed_1 4 rfl rfl)
theorem dX11_feed_31 : decode cX11_feed 31 = .ok (.iconst 1, 1) := dk_4 (dk_at dksX11_feed_1 7 rfl rfl)
theorem dX11_feed_32 : decode cX11_feed 32 = .ok (.iload_n 2, 1) := dk_28 (dk_at dksX11_feed_1 8 rfl rfl)
theorem dX11_feed_33 : decode cX11_feed 33 = .ok (.iastore, 1) := dk_79 (dk_at dksX11_feed_1 9 rfl rfl)
theorem dX11_feed_34 : decode cX11_feed 34 = .ok (.aload_n 0, 1) := dk_42 (dk_at dksX11_feed_1 10 rfl rfl)
theorem dX11_feed_35 : decode cX11_feed 35 = .ok (.getfield 33, 3) := dk_180 0 33 (dk_at dksX11_feed_1 11 rfl rfl)
theorem dX11_feed_38 : decode cX11_feed 38 = .ok (.iconst 2, 1) := dk_5 (dk_at dksX11_feed_1 14 rfl rfl)
theorem dX11_feed_39 : decode cX11_feed 39 = .ok (.iload_n 3, 1) := dk_29 (dk_at dksX11_feed_1 15 rfl rfl)
theorem dX11_feed_40 : decode cX11_feed 40 = .ok (.iastore, 1) := dk_79 (dk_at dksX11_feed_1 16 rfl rfl)
theorem dX11_feed_41 : decode cX11_feed 41 = .ok (.aload_n 0, 1) := dk_42 (dk_at dksX11_feed_1 17 rfl rfl)
theorem dX11_feed_42 : decode cX11_feed 42 = .ok (.getfield 33, 3) := dk_180 0 33 (dk_at dksX11_feed_1 18 rfl rfl)
theorem dX11_feed_45 : decode cX11_feed 45 = .ok (.iconst 3, 1) := dk_6 (dk_at dksX11_feed_1 21 rfl rfl)
theorem dX11_feed_46 : decode cX11_feed 46 = .ok (.iload 4, 2) := dk_21 4 (dk_at dksX11_feed_1 22 rfl rfl)
theorem dX11_feed_48 : decode cX11_feed 48 = .ok (.iastore, 1) := dk_79 (dk_at dksX11_feed_2 0 rfl rfl)
theorem dX11_feed_49 : decode cX11_feed 49 = .ok (.aload_n 0, 1) := dk_42 (dk_at dksX11_feed_2 1 rfl rfl)
theorem dX11_feed_50 : decode cX11_feed 50 = .ok (.getfield 33, 3) := dk_180 0 33 (dk_at dksX11_feed_2 2 rfl rfl)
theorem dX11_feed_53 : decode cX11_feed 53 = .ok (.iconst 4, 1) := dk_7 (dk_at dksX11_feed_2 5 rfl rfl)
theorem dX11_feed_54 : decode cX11_feed 54 = .ok (.iload 5, 2) := dk_21 5 (dk_at dksX11_feed_2 6 rfl rfl)
theorem dX11_feed_56 : decode cX11_feed 56 = .ok (.iastore, 1) := dk_79 (dk_at dksX11_feed_2 8 rfl rfl)
theorem dX11_feed_57 : decode cX11_feed 57 = .ok (.iconst 0, 1) := dk_3 (dk_at dksX11_feed_2 9 rfl rfl)
theorem dX11_feed_58 : decode cX11_feed 58 = .ok (.istore 6, 2) := dk_54 6 (dk_at dksX11_feed_2 10 rfl rfl)
theorem dX11_feed_60 : decode cX11_feed 60 = .ok (.iload 6, 2) := dk_21 6 (dk_at dksX11_feed_2 12 rfl rfl)
theorem dX11_feed_62 : decode cX11_feed 62 = .ok (.bipush 20, 2) := dk_16 20 (dk_at dksX11_feed_2 14 rfl rfl)
theorem dX11_feed_64 : decode cX11_feed 64 = .ok (.if_icmp .ge 42, 3) := dk_162 0 42 (dk_at dksX11_feed_2 16 rfl rfl)
theorem dX11_feed_67 : decode cX11_feed 67 = .ok (.aload_n 0, 1) := dk_42 (dk_at dksX11_feed_2 19 rfl rfl)
theorem dX11_feed_68 : decode cX11_feed 68 = .ok (.getfield 26, 3) := dk_180 0 26 (dk_at dksX11_feed_2 20 rfl rfl)
theorem dX11_feed_71 : decode cX11_feed 71 = .ok (.aload_n 0, 1) := dk_42 (dk_at dksX11_feed_2 23 rfl rfl)
theorem dX11_feed_72 : decode cX11_feed 72 = .ok (.getfield 155, 3) := dk_180 0 155 (dk_at dksX11_feed_3 0 rfl rfl)
theorem dX11_feed_75 : decode cX11_feed 75 = .ok (.iload 6, 2) := dk_21 6 (dk_at dksX11_feed_3 3 rfl rfl)
theorem dX11_feed_77 : decode cX11_feed 77 = .ok (.iadd, 1) := dk_96 (dk_at dksX11_feed_3 5 rfl rfl)
theorem dX11_feed_78 : decode cX11_feed 78 = .ok (.aload_n 0, 1) := dk_42 (dk_at dksX11_feed_3 6 rfl rfl)
theorem dX11_feed_79 : decode cX11_feed 79 = .ok (.getfield 33, 3) := dk_180 0 33 (dk_at dksX11_feed_3 7 rfl rfl)
theorem dX11_feed_82 : decode cX11_feed 82 = .ok (.iload 6, 2) := dk_21 6 (dk_at dksX11_feed_3 10 rfl rfl)
theorem dX11_feed_84 : decode cX11_feed 84 = .ok (.iconst 4, 1) := dk_7 (dk_at dksX11_feed_3 12 rfl rfl)
theorem dX11_feed_85 : decode cX11_feed 85 = .ok (.idiv, 1) := dk_108 (dk_at dksX11_feed_3 13 rfl rfl)
theorem dX11_feed_86 : decode cX11_feed 86 = .ok (.iaload, 1) := dk_46 (dk_at dksX11_feed_3 14 rfl rfl)
theorem dX11_feed_87 : decode cX11_feed 87 = .ok (.bipush 24, 2) := dk_16 24 (dk_at dksX11_feed_3 15 rfl rfl)
theorem dX11_feed_89 : decode cX11_feed 89 = .ok (.bipush 8, 2) := dk_16 8 (dk_at dksX11_feed_3 17 rfl rfl)
theorem dX11_feed_91 : decode cX11_feed 91 = .ok (.iload 6, 2) := dk_21 6 (dk_at dksX11_feed_3 19 rfl rfl)
theorem dX11_feed_93 : decode cX11_feed 93 = .ok (.iconst 4, 1) := dk_7 (dk_at dksX11_feed_3 21 rfl rfl)
theorem dX11_feed_94 : decode cX11_feed 94 = .ok (.irem, 1) := dk_112 (dk_at dksX11_feed_3 22 rfl rfl)
theorem dX11_feed_95 : decode cX11_feed 95 = .ok (.imul, 1) := dk_104 (dk_at dksX11_feed_3 23 rfl rfl)
theorem dX11_feed_96 : decode cX11_feed 96 = .ok (.isub, 1) := dk_100 (dk_at dksX11_feed_4 0 rfl rfl)
theorem dX11_feed_97 : decode cX11_feed 97 = .ok (.ishr, 1) := dk_122 (dk_at dksX11_feed_4 1 rfl rfl)
theorem dX11_feed_98 : decode cX11_feed 98 = .ok (.i2b, 1) := dk_145 (dk_at dksX11_feed_4 2 rfl rfl)
theorem dX11_feed_99 : decode cX11_feed 99 = .ok (.bastore, 1) := dk_84 (dk_at dksX11_feed_4 3 rfl rfl)
theorem dX11_feed_100 : decode cX11_feed 100 = .ok (.iinc 6 1, 3) := dk_132 6 1 (dk_at dksX11_feed_4 4 rfl rfl)
theorem dX11_feed_103 : decode cX11_feed 103 = .ok (.goto (-43), 3) := dk_167 255 213 (dk_at dksX11_feed_4 7 rfl rfl)
theorem dX11_feed_106 : decode cX11_feed 106 = .ok (.aload_n 0, 1) := dk_42 (dk_at dksX11_feed_4 10 rfl rfl)
theorem dX11_feed_107 : decode cX11_feed 107 = .ok (.dup, 1) := dk_89 (dk_at dksX11_feed_4 11 rfl rfl)
theorem dX11_feed_108 : decode cX11_feed 108 = .ok (.getfield 155, 3) := dk_180 0 155 (dk_at dksX11_feed_4 12 rfl rfl)
theorem dX11_feed_111 : decode cX11_feed 111 = .ok (.bipush 20, 2) := dk_16 20 (dk_at dksX11_feed_4 15 rfl rfl)
theorem dX11_feed_113 : decode cX11_feed 113 = .ok (.iadd, 1) := dk_96 (dk_at dksX11_feed_4 17 rfl rfl)
theorem dX11_feed_114 : decode cX11_feed 114 = .ok (.putfield 155, 3) := dk_181 0 155 (dk_at dksX11_feed_4 18 rfl rfl)
theorem dX11_feed_117 : decode cX11_feed 117 = .ok (.aload_n 0, 1) := dk_42 (dk_at dksX11_feed_4 21 rfl rfl)
theorem dX11_feed_118 : decode cX11_feed 118 = .ok (.getfield 155, 3) := dk_180 0 155 (dk_at dksX11_feed_5 0 rfl rfl)
theorem dX11_feed_121 : decode cX11_feed 121 = .ok (.ireturn, 1) := dk_172 (dk_at dksX11_feed_5 3 rfl rfl)
abbrev cX11_end : ByteArray := prog_18_method_40_code
def yX11_end : MethodName := ⟨RX11, "end", "(I)Z"⟩
def dkwX11_end_1 : List UInt8 := [4, 172]
abbrev dktX11_end_1 : List UInt8 := dkwX11_end_1 ++ []
def dkwX11_end_0 : List UInt8 := [42, 3, 181, 0, 3, 27, 155, 0, 11, 27, 42, 180, 0, 155, 164, 0, 5, 3, 172, 42, 27, 181, 0, 155]
abbrev dktX11_end_0 : List UInt8 := dkwX11_end_0 ++ dktX11_end_1
theorem dksX11_end_0 : cX11_end.data.toList.drop 0 = dktX11_end_0 := by decide +kernel
theorem dksX11_end_1 : cX11_end.data.toList.drop 24 = dktX11_end_1 := dk_seg dksX11_end_0 24 rfl rfl
theorem dX11_end_0 : decode cX11_end 0 = .ok (.aload_n 0, 1) := dk_42 (dk_at dksX11_end_0 0 rfl rfl)
theorem dX11_end_1 : decode cX11_end 1 = .ok (.iconst 0, 1) := dk_3 (dk_at dksX11_end_0 1 rfl rfl)
theorem dX11_end_2 : decode cX11_end 2 = .ok (.putfield 3, 3) := dk_181 0 3 (dk_at dksX11_end_0 2 rfl rfl)
theorem dX11_end_5 : decode cX11_end 5 = .ok (.iload_n 1, 1) := dk_27 (dk_at dksX11_end_0 5 rfl rfl)
theorem dX11_end_6 : decode cX11_end 6 = .ok (.ifCond .lt 11, 3) := dk_155 0 11 (dk_at dksX11_end_0 6 rfl rfl)
theorem dX11_end_9 : decode cX11_end 9 = .ok (.iload_n 1, 1) := dk_27 (dk_at dksX11_end_0 9 rfl rfl)
theorem dX11_end_10 : decode cX11_end 10 = .ok (.aload_n 0, 1) := dk_42 (dk_at dksX11_end_0 10 rfl rfl)
theorem dX11_end_11 : decode cX11_end 11 = .ok (.getfield 155, 3) := dk_180 0 155 (dk_at dksX11_end_0 11 rfl rfl)
theorem dX11_end_14 : decode cX11_end 14 = .ok (.if_icmp .le 5, 3) := dk_164 0 5 (dk_at dksX11_end_0 14 rfl rfl)
theorem dX11_end_17 : decode cX11_end 17 = .ok (.iconst 0, 1) := dk_3 (dk_at dksX11_end_0 17 rfl rfl)
theorem dX11_end_18 : decode cX11_end 18 = .ok (.ireturn, 1) := dk_172 (dk_at dksX11_end_0 18 rfl rfl)
theorem dX11_end_19 : decode cX11_end 19 = .ok (.aload_n 0, 1) := dk_42 (dk_at dksX11_end_0 19 rfl rfl)
theorem dX11_end_20 : decode cX11_end 20 = .ok (.iload_n 1, 1) := dk_27 (dk_at dksX11_end_0 20 rfl rfl)
theorem dX11_end_21 : decode cX11_end 21 = .ok (.putfield 155, 3) := dk_181 0 155 (dk_at dksX11_end_0 21 rfl rfl)
theorem dX11_end_24 : decode cX11_end 24 = .ok (.iconst 1, 1) := dk_4 (dk_at dksX11_end_1 0 rfl rfl)
theorem dX11_end_25 : decode cX11_end 25 = .ok (.ireturn, 1) := dk_172 (dk_at dksX11_end_1 1 rfl rfl)
abbrev cX11_fault : ByteArray := prog_18_method_46_code
def yX11_fault : MethodName := ⟨RX11, "fault", "()I"⟩
def dkwX11_fault_0 : List UInt8 := [42, 3, 181, 0, 3, 42, 180, 0, 30, 172]
abbrev dktX11_fault_0 : List UInt8 := dkwX11_fault_0 ++ []
theorem dksX11_fault_0 : cX11_fault.data.toList.drop 0 = dktX11_fault_0 := by decide +kernel
theorem dX11_fault_0 : decode cX11_fault 0 = .ok (.aload_n 0, 1) := dk_42 (dk_at dksX11_fault_0 0 rfl rfl)
theorem dX11_fault_1 : decode cX11_fault 1 = .ok (.iconst 0, 1) := dk_3 (dk_at dksX11_fault_0 1 rfl rfl)
theorem dX11_fault_2 : decode cX11_fault 2 = .ok (.putfield 3, 3) := dk_181 0 3 (dk_at dksX11_fault_0 2 rfl rfl)
theorem dX11_fault_5 : decode cX11_fault 5 = .ok (.aload_n 0, 1) := dk_42 (dk_at dksX11_fault_0 5 rfl rfl)
theorem dX11_fault_6 : decode cX11_fault 6 = .ok (.getfield 30, 3) := dk_180 0 30 (dk_at dksX11_fault_0 6 rfl rfl)
theorem dX11_fault_9 : decode cX11_fault 9 = .ok (.ireturn, 1) := dk_172 (dk_at dksX11_fault_0 9 rfl rfl)
abbrev cX11_signs : ByteArray := prog_18_method_54_code
def yX11_signs : MethodName := ⟨RX11, "signs", "()I"⟩
def dkwX11_signs_7 : List UInt8 := [167, 255, 220, 42, 180, 0, 13, 6, 92, 46, 4, 96, 79, 28, 172]
abbrev dktX11_signs_7 : List UInt8 := dkwX11_signs_7 ++ []
def dkwX11_signs_6 : List UInt8 := [17, 1, 145, 28, 104, 96, 29, 96, 42, 180, 0, 13, 17, 14, 22, 29, 96, 46, 79, 132, 3, 1]
abbrev dktX11_signs_6 : List UInt8 := dkwX11_signs_6 ++ dktX11_signs_7
def dkwX11_signs_5 : List UInt8 := [17, 14, 22, 42, 180, 0, 177, 79, 3, 62, 29, 17, 1, 145, 162, 0, 35, 42, 180, 0, 13, 17, 0, 198]
abbrev dktX11_signs_5 : List UInt8 := dkwX11_signs_5 ++ dktX11_signs_6
def dkwX11_signs_4 : List UInt8 := [167, 0, 4, 3, 5, 182, 0, 215, 153, 0, 5, 3, 172, 42, 180, 0, 13, 6, 46, 61, 42, 180, 0, 13]
abbrev dktX11_signs_4 : List UInt8 := dkwX11_signs_4 ++ dktX11_signs_5
def dkwX11_signs_3 : List UInt8 := [167, 0, 4, 3, 4, 182, 0, 215, 154, 0, 27, 42, 42, 180, 0, 13, 6, 46, 16, 8, 160, 0, 7, 4]
abbrev dktX11_signs_3 : List UInt8 := dkwX11_signs_3 ++ dktX11_signs_4
def dkwX11_signs_2 : List UInt8 := [60, 42, 27, 153, 0, 7, 2, 167, 0, 7, 42, 180, 0, 168, 181, 0, 30, 42, 27, 154, 0, 7, 4]
abbrev dktX11_signs_2 : List UInt8 := dkwX11_signs_2 ++ dktX11_signs_3
def dkwX11_signs_1 : List UInt8 := [27, 153, 0, 24, 42, 182, 0, 171, 42, 180, 0, 158, 42, 180, 0, 161, 160, 0, 7, 4, 167, 0, 4, 3]
abbrev dktX11_signs_1 : List UInt8 := dkwX11_signs_1 ++ dktX11_signs_2
def dkwX11_signs_0 : List UInt8 := [42, 182, 0, 212, 42, 3, 181, 0, 180, 42, 3, 181, 0, 174, 42, 3, 181, 0, 177, 42, 182, 0, 187, 60]
abbrev dktX11_signs_0 : List UInt8 := dkwX11_signs_0 ++ dktX11_signs_1
theorem dksX11_signs_0 : cX11_signs.data.toList.drop 0 = dktX11_signs_0 := by decide +kernel
theorem dksX11_signs_1 : cX11_signs.data.toList.drop 24 = dktX11_signs_1 := dk_seg dksX11_signs_0 24 rfl rfl
theorem dksX11_signs_2 : cX11_signs.data.toList.drop 48 = dktX11_signs_2 := dk_seg dksX11_signs_1 24 rfl rfl
theorem dksX11_signs_3 : cX11_signs.data.toList.drop 71 = dktX11_signs_3 := dk_seg dksX11_signs_2 23 rfl rfl
theorem dksX11_signs_4 : cX11_signs.data.toList.drop 95 = dktX11_signs_4 := dk_seg dksX11_signs_3 24 rfl rfl
theorem dksX11_signs_5 : cX11_signs.data.toList.drop 119 = dktX11_signs_5 := dk_seg dksX11_signs_4 24 rfl rfl
theorem dksX11_signs_6 : cX11_signs.data.toList.drop 143 = dktX11_signs_6 := dk_seg dksX11_signs_5 24 rfl rfl
theorem dksX11_signs_7 : cX11_signs.data.toList.drop 165 = dktX11_signs_7 := dk_seg dksX11_signs_6 22 rfl rfl
theorem dX11_signs_0 : decode cX11_signs 0 = .ok (.aload_n 0, 1) := dk_42 (dk_at dksX11_signs_0 0 rfl rfl)
theorem dX11_signs_1 : decode cX11_signs 1 = .ok (.invokevirtual 212, 3) := dk_182 0 212 (dk_at dksX11_signs_0 1 rfl rfl)
theorem dX11_signs_4 : decode cX11_signs 4 = .ok (.aload_n 0, 1) := dk_42 (dk_at dksX11_signs_0 4 rfl rfl)
theorem dX11_signs_5 : decode cX11_signs 5 = .ok (.iconst 0, 1) := dk_3 (dk_at dksX11_signs_0 5 rfl rfl)
theorem dX11_signs_6 : decode cX11_signs 6 = .ok (.putfield 180, 3) := dk_181 0 180 (dk_at dksX11_signs_0 6 rfl rfl)
theorem dX11_signs_9 : decode cX11_signs 9 = .ok (.aload_n 0, 1) := dk_42 (dk_at dksX11_signs_0 9 rfl rfl)
theorem dX11_signs_10 : decode cX11_signs 10 = .ok (.iconst 0, 1) := dk_3 (dk_at dksX11_signs_0 10 rfl rfl)
theorem dX11_signs_11 : decode cX11_signs 11 = .ok (.putfield 174, 3) := dk_181 0 174 (dk_at dksX11_signs_0 11 rfl rfl)
theorem dX11_signs_14 : decode cX11_signs 14 = .ok (.aload_n 0, 1) := dk_42 (dk_at dksX11_signs_0 14 rfl rfl)
theorem dX11_signs_15 : decode cX11_signs 15 = .ok (.iconst 0, 1) := dk_3 (dk_at dksX11_signs_0 15 rfl rfl)
theorem dX11_signs_16 : decode cX11_signs 16 = .ok (.putfield 177, 3) := dk_181 0 177 (dk_at dksX11_signs_0 16 rfl rfl)
theorem dX11_signs_19 : decode cX11_signs 19 = .ok (.aload_n 0, 1) := dk_42 (dk_at dksX11_signs_0 19 rfl rfl)
theorem dX11_signs_20 : decode cX11_signs 20 = .ok (.invokevirtual 187, 3) := dk_182 0 187 (dk_at dksX11_signs_0 20 rfl rfl)
theorem dX11_signs_23 : decode cX11_signs 23 = .ok (.istore_n 1, 1) := dk_60 (dk_at dksX11_signs_0 23 rfl rfl)
theorem dX11_signs_24 : decode cX11_signs 24 = .ok (.iload_n 1, 1) := dk_27 (dk_at dksX11_signs_1 0 rfl rfl)
theorem dX11_signs_25 : decode cX11_signs 25 = .ok (.ifCond .eq 24, 3) := dk_153 0 24 (dk_at dksX11_signs_1 1 rfl rfl)
theorem dX11_signs_28 : decode cX11_signs 28 = .ok (.aload_n 0, 1) := dk_42 (dk_at dksX11_signs_1 4 rfl rfl)
theorem dX11_signs_29 : decode cX11_signs 29 = .ok (.invokevirtual 171, 3) := dk_182 0 171 (dk_at dksX11_signs_1 5 rfl rfl)
theorem dX11_signs_32 : decode cX11_signs 32 = .ok (.aload_n 0, 1) := dk_42 (dk_at dksX11_signs_1 8 rfl rfl)
theorem dX11_signs_33 : decode cX11_signs 33 = .ok (.getfield 158, 3) := dk_180 0 158 (dk_at dksX11_signs_1 9 rfl rfl)
theorem dX11_signs_36 : decode cX11_signs 36 = .ok (.aload_n 0, 1) := dk_42 (dk_at dksX11_signs_1 12 rfl rfl)
theorem dX11_signs_37 : decode cX11_signs 37 = .ok (.getfield 161, 3) := dk_180 0 161 (dk_at dksX11_signs_1 13 rfl rfl)
theorem dX11_signs_40 : decode cX11_signs 40 = .ok (.if_icmp .ne 7, 3) := dk_160 0 7 (dk_at dksX11_signs_1 16 rfl rfl)
theorem dX11_signs_43 : decode cX11_signs 43 = .ok (.iconst 1, 1) := dk_4 (dk_at dksX11_signs_1 19 rfl rfl)
theorem dX11_signs_44 : decode cX11_signs 44 = .ok (.goto 4, 3) := dk_167 0 4 (dk_at dksX11_signs_1 20 rfl rfl)
theorem dX11_signs_47 : decode cX11_signs 47 = .ok (.iconst 0, 1) := dk_3 (dk_at dksX11_signs_1 23 rfl rfl)
theorem dX11_signs_48 : decode cX11_signs 48 = .ok (.istore_n 1, 1) := dk_60 (dk_at dksX11_signs_2 0 rfl rfl)
theorem dX11_signs_49 : decode cX11_signs 49 = .ok (.aload_n 0, 1) := dk_42 (dk_at dksX11_signs_2 1 rfl rfl)
theorem dX11_signs_50 : decode cX11_signs 50 = .ok (.iload_n 1, 1) := dk_27 (dk_at dksX11_signs_2 2 rfl rfl)
theorem dX11_signs_51 : decode cX11_signs 51 = .ok (.ifCond .eq 7, 3) := dk_153 0 7 (dk_at dksX11_signs_2 3 rfl rfl)
theorem dX11_signs_54 : decode cX11_signs 54 = .ok (.iconst (-1), 1) := dk_2 (dk_at dksX11_signs_2 6 rfl rfl)
theorem dX11_signs_55 : decode cX11_signs 55 = .ok (.goto 7, 3) := dk_167 0 7 (dk_at dksX11_signs_2 7 rfl rfl)
theorem dX11_signs_58 : decode cX11_signs 58 = .ok (.aload_n 0, 1) := dk_42 (dk_at dksX11_signs_2 10 rfl rfl)
theorem dX11_signs_59 : decode cX11_signs 59 = .ok (.getfield 168, 3) := dk_180 0 168 (dk_at dksX11_signs_2 11 rfl rfl)
theorem dX11_signs_62 : decode cX11_signs 62 = .ok (.putfield 30, 3) := dk_181 0 30 (dk_at dksX11_signs_2 14 rfl rfl)
theorem dX11_signs_65 : decode cX11_signs 65 = .ok (.aload_n 0, 1) := dk_42 (dk_at dksX11_signs_2 17 rfl rfl)
theorem dX11_signs_66 : decode cX11_signs 66 = .ok (.iload_n 1, 1) := dk_27 (dk_at dksX11_signs_2 18 rfl rfl)
theorem dX11_signs_67 : decode cX11_signs 67 = .ok (.ifCond .ne 7, 3) := dk_154 0 7 (dk_at dksX11_signs_2 19 rfl rfl)
theorem dX11_signs_70 : decode cX11_signs 70 = .ok (.iconst 1, 1) := dk_4 (dk_at dksX11_signs_2 22 rfl rfl)
theorem dX11_signs_71 : decode cX11_signs 71 = .ok (.goto 4, 3) := dk_167 0 4 (dk_at dksX11_signs_3 0 rfl rfl)
theorem dX11_signs_74 : decode cX11_signs 74 = .ok (.iconst 0, 1) := dk_3 (dk_at dksX11_signs_3 3 rfl rfl)
theorem dX11_signs_75 : decode cX11_signs 75 = .ok (.iconst 1, 1) := dk_4 (dk_at dksX11_signs_3 4 rfl rfl)
theorem dX11_signs_76 : decode cX11_signs 76 = .ok (.invokevirtual 215, 3) := dk_182 0 215 (dk_at dksX11_signs_3 5 rfl rfl)
theorem dX11_signs_79 : decode cX11_signs 79 = .ok (.ifCond .ne 27, 3) := dk_154 0 27 (dk_at dksX11_signs_3 8 rfl rfl)
theorem dX11_signs_82 : decode cX11_signs 82 = .ok (.aload_n 0, 1) := dk_42 (dk_at dksX11_signs_3 11 rfl rfl)
theorem dX11_signs_83 : decode cX11_signs 83 = .ok (.aload_n 0, 1) := dk_42 (dk_at dksX11_signs_3 12 rfl rfl)
theorem dX11_signs_84 : decode cX11_signs 84 = .ok (.getfield 13, 3) := dk_180 0 13 (dk_at dksX11_signs_3 13 rfl rfl)
theorem dX11_signs_87 : decode cX11_signs 87 = .ok (.iconst 3, 1) := dk_6 (dk_at dksX11_signs_3 16 rfl rfl)
theorem dX11_signs_88 : decode cX11_signs 88 = .ok (.iaload, 1) := dk_46 (dk_at dksX11_signs_3 17 rfl rfl)
theorem dX11_signs_89 : decode cX11_signs 89 = .ok (.bipush 8, 2) := dk_16 8 (dk_at dksX11_signs_3 18 rfl rfl)
theorem dX11_signs_91 : decode cX11_signs 91 = .ok (.if_icmp .ne 7, 3) := dk_160 0 7 (dk_at dksX11_signs_3 20 rfl rfl)
theorem dX11_signs_94 : decode cX11_signs 94 = .ok (.iconst 1, 1) := dk_4 (dk_at dksX11_signs_3 23 rfl rfl)
theorem dX11_signs_95 : decode cX11_signs 95 = .ok (.goto 4, 3) := dk_167 0 4 (dk_at dksX11_signs_4 0 rfl rfl)
theorem dX11_signs_98 : decode cX11_signs 98 = .ok (.iconst 0, 1) := dk_3 (dk_at dksX11_signs_4 3 rfl rfl)
theorem dX11_signs_99 : decode cX11_signs 99 = .ok (.iconst 2, 1) := dk_5 (dk_at dksX11_signs_4 4 rfl rfl)
theorem dX11_signs_100 : decode cX11_signs 100 = .ok (.invokevirtual 215, 3) := dk_182 0 215 (dk_at dksX11_signs_4 5 rfl rfl)
theorem dX11_signs_103 : decode cX11_signs 103 = .ok (.ifCond .eq 5, 3) := dk_153 0 5 (dk_at dksX11_signs_4 8 rfl rfl)
theorem dX11_signs_106 : decode cX11_signs 106 = .ok (.iconst 0, 1) := dk_3 (dk_at dksX11_signs_4 11 rfl rfl)
theorem dX11_signs_107 : decode cX11_signs 107 = .ok (.ireturn, 1) := dk_172 (dk_at dksX11_signs_4 12 rfl rfl)
theorem dX11_signs_108 : decode cX11_signs 108 = .ok (.aload_n 0, 1) := dk_42 (dk_at dksX11_signs_4 13 rfl rfl)
theorem dX11_signs_109 : decode cX11_signs 109 = .ok (.getfield 13, 3) := dk_180 0 13 (dk_at dksX11_signs_4 14 rfl rfl)
theorem dX11_signs_112 : decode cX11_signs 112 = .ok (.iconst 3, 1) := dk_6 (dk_at dksX11_signs_4 17 rfl rfl)
theorem dX11_signs_113 : decode cX11_signs 113 = .ok (.iaload, 1) := dk_46 (dk_at dksX11_signs_4 18 rfl rfl)
theorem dX11_signs_114 : decode cX11_signs 114 = .ok (.istore_n 2, 1) := dk_61 (dk_at dksX11_signs_4 19 rfl rfl)
theorem dX11_signs_115 : decode cX11_signs 115 = .ok (.aload_n 0, 1) := dk_42 (dk_at dksX11_signs_4 20 rfl rfl)
theorem dX11_signs_116 : decode cX11_signs 116 = .ok (.getfield 13, 3) := dk_180 0 13 (dk_at dksX11_signs_4 21 rfl rfl)
theorem dX11_signs_119 : decode cX11_signs 119 = .ok (.sipush 3606, 3) := dk_17 14 22 (dk_at dksX11_signs_5 0 rfl rfl)
theorem dX11_signs_122 : decode cX11_signs 122 = .ok (.aload_n 0, 1) := dk_42 (dk_at dksX11_signs_5 3 rfl rfl)
theorem dX11_signs_123 : decode cX11_signs 123 = .ok (.getfield 177, 3) := dk_180 0 177 (dk_at dksX11_signs_5 4 rfl rfl)
theorem dX11_signs_126 : decode cX11_signs 126 = .ok (.iastore, 1) := dk_79 (dk_at dksX11_signs_5 7 rfl rfl)
theorem dX11_signs_127 : decode cX11_signs 127 = .ok (.iconst 0, 1) := dk_3 (dk_at dksX11_signs_5 8 rfl rfl)
theorem dX11_signs_128 : decode cX11_signs 128 = .ok (.istore_n 3, 1) := dk_62 (dk_at dksX11_signs_5 9 rfl rfl)
theorem dX11_signs_129 : decode cX11_signs 129 = .ok (.iload_n 3, 1) := dk_29 (dk_at dksX11_signs_5 10 rfl rfl)
theorem dX11_signs_130 : decode cX11_signs 130 = .ok (.sipush 401, 3) := dk_17 1 145 (dk_at dksX11_signs_5 11 rfl rfl)
theorem dX11_signs_133 : decode cX11_signs 133 = .ok (.if_icmp .ge 35, 3) := dk_162 0 35 (dk_at dksX11_signs_5 14 rfl rfl)
theorem dX11_signs_136 : decode cX11_signs 136 = .ok (.aload_n 0, 1) := dk_42 (dk_at dksX11_signs_5 17 rfl rfl)
theorem dX11_signs_137 : decode cX11_signs 137 = .ok (.getfield 13, 3) := dk_180 0 13 (dk_at dksX11_signs_5 18 rfl rfl)
theorem dX11_signs_140 : decode cX11_signs 140 = .ok (.sipush 198, 3) := dk_17 0 198 (dk_at dksX11_signs_5 21 rfl rfl)
theorem dX11_signs_143 : decode cX11_signs 143 = .ok (.sipush 401, 3) := dk_17 1 145 (dk_at dksX11_signs_6 0 rfl rfl)
theorem dX11_signs_146 : decode cX11_signs 146 = .ok (.iload_n 2, 1) := dk_28 (dk_at dksX11_signs_6 3 rfl rfl)
theorem dX11_signs_147 : decode cX11_signs 147 = .ok (.imul, 1) := dk_104 (dk_at dksX11_signs_6 4 rfl rfl)
theorem dX11_signs_148 : decode cX11_signs 148 = .ok (.iadd, 1) := dk_96 (dk_at dksX11_signs_6 5 rfl rfl)
theorem dX11_signs_149 : decode cX11_signs 149 = .ok (.iload_n 3, 1) := dk_29 (dk_at dksX11_signs_6 6 rfl rfl)
theorem dX11_signs_150 : decode cX11_signs 150 = .ok (.iadd, 1) := dk_96 (dk_at dksX11_signs_6 7 rfl rfl)
theorem dX11_signs_151 : decode cX11_signs 151 = .ok (.aload_n 0, 1) := dk_42 (dk_at dksX11_signs_6 8 rfl rfl)
theorem dX11_signs_152 : decode cX11_signs 152 = .ok (.getfield 13, 3) := dk_180 0 13 (dk_at dksX11_signs_6 9 rfl rfl)
theorem dX11_signs_155 : decode cX11_signs 155 = .ok (.sipush 3606, 3) := dk_17 14 22 (dk_at dksX11_signs_6 12 rfl rfl)
theorem dX11_signs_158 : decode cX11_signs 158 = .ok (.iload_n 3, 1) := dk_29 (dk_at dksX11_signs_6 15 rfl rfl)
theorem dX11_signs_159 : decode cX11_signs 159 = .ok (.iadd, 1) := dk_96 (dk_at dksX11_signs_6 16 rfl rfl)
theorem dX11_signs_160 : decode cX11_signs 160 = .ok (.iaload, 1) := dk_46 (dk_at dksX11_signs_6 17 rfl rfl)
theorem dX11_signs_161 : decode cX11_signs 161 = .ok (.iastore, 1) := dk_79 (dk_at dksX11_signs_6 18 rfl rfl)
theorem dX11_signs_162 : decode cX11_signs 162 = .ok (.iinc 3 1, 3) := dk_132 3 1 (dk_at dksX11_signs_6 19 rfl rfl)
theorem dX11_signs_165 : decode cX11_signs 165 = .ok (.goto (-36), 3) := dk_167 255 220 (dk_at dksX11_signs_7 0 rfl rfl)
theorem dX11_signs_168 : decode cX11_signs 168 = .ok (.aload_n 0, 1) := dk_42 (dk_at dksX11_signs_7 3 rfl rfl)
theorem dX11_signs_169 : decode cX11_signs 169 = .ok (.getfield 13, 3) := dk_180 0 13 (dk_at dksX11_signs_7 4 rfl rfl)
theorem dX11_signs_172 : decode cX11_signs 172 = .ok (.iconst 3, 1) := dk_6 (dk_at dksX11_signs_7 7 rfl rfl)
theorem dX11_signs_173 : decode cX11_signs 173 = .ok (.dup2, 1) := dk_92 (dk_at dksX11_signs_7 8 rfl rfl)
theorem dX11_signs_174 : decode cX11_signs 174 = .ok (.iaload, 1) := dk_46 (dk_at dksX11_signs_7 9 rfl rfl)
theorem dX11_signs_175 : decode cX11_signs 175 = .ok (.iconst 1, 1) := dk_4 (dk_at dksX11_signs_7 10 rfl rfl)
theorem dX11_signs_176 : decode cX11_signs 176 = .ok (.iadd, 1) := dk_96 (dk_at dksX11_signs_7 11 rfl rfl)
theorem dX11_signs_177 : decode cX11_signs 177 = .ok (.iastore, 1) := dk_79 (dk_at dksX11_signs_7 12 rfl rfl)
theorem dX11_signs_178 : decode cX11_signs 178 = .ok (.iload_n 2, 1) := dk_28 (dk_at dksX11_signs_7 13 rfl rfl)
theorem dX11_signs_179 : decode cX11_signs 179 = .ok (.ireturn, 1) := dk_172 (dk_at dksX11_signs_7 14 rfl rfl)
abbrev cX11_uses : ByteArray := prog_18_method_53_code
def yX11_uses : MethodName := ⟨RX11, "uses", "()V"⟩
def dkwX11_uses_0 : List UInt8 := [42, 3, 181, 0, 3, 42, 42, 180, 0, 155, 181, 0, 161, 42, 3, 181, 0, 155, 42, 3, 181, 0, 158, 177]
abbrev dktX11_uses_0 : List UInt8 := dkwX11_uses_0 ++ []
theorem dksX11_uses_0 : cX11_uses.data.toList.drop 0 = dktX11_uses_0 := by decide +kernel
theorem dX11_uses_0 : decode cX11_uses 0 = .ok (.aload_n 0, 1) := dk_42 (dk_at dksX11_uses_0 0 rfl rfl)
theorem dX11_uses_1 : decode cX11_uses 1 = .ok (.iconst 0, 1) := dk_3 (dk_at dksX11_uses_0 1 rfl rfl)
theorem dX11_uses_2 : decode cX11_uses 2 = .ok (.putfield 3, 3) := dk_181 0 3 (dk_at dksX11_uses_0 2 rfl rfl)
theorem dX11_uses_5 : decode cX11_uses 5 = .ok (.aload_n 0, 1) := dk_42 (dk_at dksX11_uses_0 5 rfl rfl)
theorem dX11_uses_6 : decode cX11_uses 6 = .ok (.aload_n 0, 1) := dk_42 (dk_at dksX11_uses_0 6 rfl rfl)
theorem dX11_uses_7 : decode cX11_uses 7 = .ok (.getfield 155, 3) := dk_180 0 155 (dk_at dksX11_uses_0 7 rfl rfl)
theorem dX11_uses_10 : decode cX11_uses 10 = .ok (.putfield 161, 3) := dk_181 0 161 (dk_at dksX11_uses_0 10 rfl rfl)
theorem dX11_uses_13 : decode cX11_uses 13 = .ok (.aload_n 0, 1) := dk_42 (dk_at dksX11_uses_0 13 rfl rfl)
theorem dX11_uses_14 : decode cX11_uses 14 = .ok (.iconst 0, 1) := dk_3 (dk_at dksX11_uses_0 14 rfl rfl)
theorem dX11_uses_15 : decode cX11_uses 15 = .ok (.putfield 155, 3) := dk_181 0 155 (dk_at dksX11_uses_0 15 rfl rfl)
theorem dX11_uses_18 : decode cX11_uses 18 = .ok (.aload_n 0, 1) := dk_42 (dk_at dksX11_uses_0 18 rfl rfl)
theorem dX11_uses_19 : decode cX11_uses 19 = .ok (.iconst 0, 1) := dk_3 (dk_at dksX11_uses_0 19 rfl rfl)
theorem dX11_uses_20 : decode cX11_uses 20 = .ok (.putfield 158, 3) := dk_181 0 158 (dk_at dksX11_uses_0 20 rfl rfl)
theorem dX11_uses_23 : decode cX11_uses 23 = .ok (.return_, 1) := dk_177 (dk_at dksX11_uses_0 23 rfl rfl)
abbrev cX11_readSum : ByteArray := prog_18_method_52_code
def yX11_readSum : MethodName := ⟨RX11, "readSum", "()Z"⟩
def dkwX11_readSum_1 : List UInt8 := [153, 0, 12, 42, 5, 3, 182, 0, 197, 154, 255, 234, 3, 172, 4, 172]
abbrev dktX11_readSum_1 : List UInt8 := dkwX11_readSum_1 ++ []
def dkwX11_readSum_0 : List UInt8 := [42, 182, 0, 209, 154, 0, 5, 3, 172, 42, 16, 43, 182, 0, 206, 153, 0, 21, 42, 182, 0, 209]
abbrev dktX11_readSum_0 : List UInt8 := dkwX11_readSum_0 ++ dktX11_readSum_1
theorem dksX11_readSum_0 : cX11_readSum.data.toList.drop 0 = dktX11_readSum_0 := by decide +kernel
theorem dksX11_readSum_1 : cX11_readSum.data.toList.drop 22 = dktX11_readSum_1 := dk_seg dksX11_readSum_0 22 rfl rfl
theorem dX11_readSum_0 : decode cX11_readSum 0 = .ok (.aload_n 0, 1) := dk_42 (dk_at dksX11_readSum_0 0 rfl rfl)
theorem dX11_readSum_1 : decode cX11_readSum 1 = .ok (.invokevirtual 209, 3) := dk_182 0 209 (dk_at dksX11_readSum_0 1 rfl rfl)
theorem dX11_readSum_4 : decode cX11_readSum 4 = .ok (.ifCond .ne 5, 3) := dk_154 0 5 (dk_at dksX11_readSum_0 4 rfl rfl)
theorem dX11_readSum_7 : decode cX11_readSum 7 = .ok (.iconst 0, 1) := dk_3 (dk_at dksX11_readSum_0 7 rfl rfl)
theorem dX11_readSum_8 : decode cX11_readSum 8 = .ok (.ireturn, 1) := dk_172 (dk_at dksX11_readSum_0 8 rfl rfl)
theorem dX11_readSum_9 : decode cX11_readSum 9 = .ok (.aload_n 0, 1) := dk_42 (dk_at dksX11_readSum_0 9 rfl rfl)
theorem dX11_readSum_10 : decode cX11_readSum 10 = .ok (.bipush 43, 2) := dk_16 43 (dk_at dksX11_readSum_0 10 rfl rfl)
theorem dX11_readSum_12 : decode cX11_readSum 12 = .ok (.invokevirtual 206, 3) := dk_182 0 206 (dk_at dksX11_readSum_0 12 rfl rfl)
theorem dX11_readSum_15 : decode cX11_readSum 15 = .ok (.ifCond .eq 21, 3) := dk_153 0 21 (dk_at dksX11_readSum_0 15 rfl rfl)
theorem dX11_readSum_18 : decode cX11_readSum 18 = .ok (.aload_n 0, 1) := dk_42 (dk_at dksX11_readSum_0 18 rfl rfl)
theorem dX11_readSum_19 : decode cX11_readSum 19 = .ok (.invokevirtual 209, 3) := dk_182 0 209 (dk_at dksX11_readSum_0 19 rfl rfl)
theorem dX11_readSum_22 : decode cX11_readSum 22 = .ok (.ifCond .eq 12, 3) := dk_153 0 12 (dk_at dksX11_readSum_1 0 rfl rfl)
theorem dX11_readSum_25 : decode cX11_readSum 25 = .ok (.aload_n 0, 1) := dk_42 (dk_at dksX11_readSum_1 3 rfl rfl)
theorem dX11_readSum_26 : decode cX11_readSum 26 = .ok (.iconst 2, 1) := dk_5 (dk_at dksX11_readSum_1 4 rfl rfl)
theorem dX11_readSum_27 : decode cX11_readSum 27 = .ok (.iconst 0, 1) := dk_3 (dk_at dksX11_readSum_1 5 rfl rfl)
theorem dX11_readSum_28 : decode cX11_readSum 28 = .ok (.invokevirtual 197, 3) := dk_182 0 197 (dk_at dksX11_readSum_1 6 rfl rfl)
theorem dX11_readSum_31 : decode cX11_readSum 31 = .ok (.ifCond .ne (-22), 3) := dk_154 255 234 (dk_at dksX11_readSum_1 9 rfl rfl)
theorem dX11_readSum_34 : decode cX11_readSum 34 = .ok (.iconst 0, 1) := dk_3 (dk_at dksX11_readSum_1 12 rfl rfl)
theorem dX11_readSum_35 : decode cX11_readSum 35 = .ok (.ireturn, 1) := dk_172 (dk_at dksX11_readSum_1 13 rfl rfl)
theorem dX11_readSum_36 : decode cX11_readSum 36 = .ok (.iconst 1, 1) := dk_4 (dk_at dksX11_readSum_1 14 rfl rfl)
theorem dX11_readSum_37 : decode cX11_readSum 37 = .ok (.ireturn, 1) := dk_172 (dk_at dksX11_readSum_1 15 rfl rfl)
abbrev cX11_readProduct : ByteArray := prog_18_method_51_code
def yX11_readProduct : MethodName := ⟨RX11, "readProduct", "()Z"⟩
def dkwX11_readProduct_1 : List UInt8 := [153, 0, 12, 42, 6, 3, 182, 0, 197, 154, 255, 234, 3, 172, 4, 172]
abbrev dktX11_readProduct_1 : List UInt8 := dkwX11_readProduct_1 ++ []
def dkwX11_readProduct_0 : List UInt8 := [42, 182, 0, 200, 154, 0, 5, 3, 172, 42, 16, 42, 182, 0, 206, 153, 0, 21, 42, 182, 0, 200]
abbrev dktX11_readProduct_0 : List UInt8 := dkwX11_readProduct_0 ++ dktX11_readProduct_1
theorem dksX11_readProduct_0 : cX11_readProduct.data.toList.drop 0 = dktX11_readProduct_0 := by decide +kernel
theorem dksX11_readProduct_1 : cX11_readProduct.data.toList.drop 22 = dktX11_readProduct_1 := dk_seg dksX11_readProduct_0 22 rfl rfl
theorem dX11_readProduct_0 : decode cX11_readProduct 0 = .ok (.aload_n 0, 1) := dk_42 (dk_at dksX11_readProduct_0 0 rfl rfl)
theorem dX11_readProduct_1 : decode cX11_readProduct 1 = .ok (.invokevirtual 200, 3) := dk_182 0 200 (dk_at dksX11_readProduct_0 1 rfl rfl)
theorem dX11_readProduct_4 : decode cX11_readProduct 4 = .ok (.ifCond .ne 5, 3) := dk_154 0 5 (dk_at dksX11_readProduct_0 4 rfl rfl)
theorem dX11_readProduct_7 : decode cX11_readProduct 7 = .ok (.iconst 0, 1) := dk_3 (dk_at dksX11_readProduct_0 7 rfl rfl)
theorem dX11_readProduct_8 : decode cX11_readProduct 8 = .ok (.ireturn, 1) := dk_172 (dk_at dksX11_readProduct_0 8 rfl rfl)
theorem dX11_readProduct_9 : decode cX11_readProduct 9 = .ok (.aload_n 0, 1) := dk_42 (dk_at dksX11_readProduct_0 9 rfl rfl)
theorem dX11_readProduct_10 : decode cX11_readProduct 10 = .ok (.bipush 42, 2) := dk_16 42 (dk_at dksX11_readProduct_0 10 rfl rfl)
theorem dX11_readProduct_12 : decode cX11_readProduct 12 = .ok (.invokevirtual 206, 3) := dk_182 0 206 (dk_at dksX11_readProduct_0 12 rfl rfl)
theorem dX11_readProduct_15 : decode cX11_readProduct 15 = .ok (.ifCond .eq 21, 3) := dk_153 0 21 (dk_at dksX11_readProduct_0 15 rfl rfl)
theorem dX11_readProduct_18 : decode cX11_readProduct 18 = .ok (.aload_n 0, 1) := dk_42 (dk_at dksX11_readProduct_0 18 rfl rfl)
theorem dX11_readProduct_19 : decode cX11_readProduct 19 = .ok (.invokevirtual 200, 3) := dk_182 0 200 (dk_at dksX11_readProduct_0 19 rfl rfl)
theorem dX11_readProduct_22 : decode cX11_readProduct 22 = .ok (.ifCond .eq 12, 3) := dk_153 0 12 (dk_at dksX11_readProduct_1 0 rfl rfl)
theorem dX11_readProduct_25 : decode cX11_readProduct 25 = .ok (.aload_n 0, 1) := dk_42 (dk_at dksX11_readProduct_1 3 rfl rfl)
theorem dX11_readProduct_26 : decode cX11_readProduct 26 = .ok (.iconst 3, 1) := dk_6 (dk_at dksX11_readProduct_1 4 rfl rfl)
theorem dX11_readProduct_27 : decode cX11_readProduct 27 = .ok (.iconst 0, 1) := dk_3 (dk_at dksX11_readProduct_1 5 rfl rfl)
theorem dX11_readProduct_28 : decode cX11_readProduct 28 = .ok (.invokevirtual 197, 3) := dk_182 0 197 (dk_at dksX11_readProduct_1 6 rfl rfl)
theorem dX11_readProduct_31 : decode cX11_readProduct 31 = .ok (.ifCond .ne (-22), 3) := dk_154 255 234 (dk_at dksX11_readProduct_1 9 rfl rfl)
theorem dX11_readProduct_34 : decode cX11_readProduct 34 = .ok (.iconst 0, 1) := dk_3 (dk_at dksX11_readProduct_1 12 rfl rfl)
theorem dX11_readProduct_35 : decode cX11_readProduct 35 = .ok (.ireturn, 1) := dk_172 (dk_at dksX11_readProduct_1 13 rfl rfl)
theorem dX11_readProduct_36 : decode cX11_readProduct 36 = .ok (.iconst 1, 1) := dk_4 (dk_at dksX11_readProduct_1 14 rfl rfl)
theorem dX11_readProduct_37 : decode cX11_readProduct 37 = .ok (.ireturn, 1) := dk_172 (dk_at dksX11_readProduct_1 15 rfl rfl)
abbrev cX11_readUnit : ByteArray := prog_18_method_50_code
def yX11_readUnit : MethodName := ⟨RX11, "readUnit", "()Z"⟩
def dkwX11_readUnit_10 : List UInt8 := [42, 3, 3, 182, 0, 197, 172]
abbrev dktX11_readUnit_10 : List UInt8 := dkwX11_readUnit_10 ++ []
def dkwX11_readUnit_9 : List UInt8 := [160, 0, 12, 42, 180, 0, 174, 16, 40, 160, 0, 5, 3, 172, 42, 89, 180, 0, 174, 4, 96, 181, 0, 174]
abbrev dktX11_readUnit_9 : List UInt8 := dkwX11_readUnit_9 ++ dktX11_readUnit_10
def dkwX11_readUnit_8 : List UInt8 := [180, 0, 158, 42, 180, 0, 168, 100, 4, 160, 0, 26, 42, 180, 0, 26, 42, 180, 0, 168, 51, 16, 102]
abbrev dktX11_readUnit_8 : List UInt8 := dkwX11_readUnit_8 ++ dktX11_readUnit_9
def dkwX11_readUnit_7 : List UInt8 := [16, 122, 182, 0, 164, 153, 0, 16, 42, 89, 180, 0, 158, 4, 96, 181, 0, 158, 167, 255, 235, 42]
abbrev dktX11_readUnit_7 : List UInt8 := dkwX11_readUnit_7 ++ dktX11_readUnit_8
def dkwX11_readUnit_6 : List UInt8 := [60, 27, 155, 0, 16, 42, 4, 27, 182, 0, 197, 153, 0, 7, 4, 167, 0, 4, 3, 172, 42, 16, 97]
abbrev dktX11_readUnit_6 : List UInt8 := dkwX11_readUnit_6 ++ dktX11_readUnit_7
def dkwX11_readUnit_5 : List UInt8 := [16, 40, 160, 0, 5, 3, 172, 42, 89, 180, 0, 174, 4, 96, 181, 0, 174, 42, 17, 3, 231, 182, 0, 194]
abbrev dktX11_readUnit_5 : List UInt8 := dkwX11_readUnit_5 ++ dktX11_readUnit_6
def dkwX11_readUnit_4 : List UInt8 := [182, 0, 203, 172, 42, 182, 0, 171, 42, 16, 48, 16, 57, 182, 0, 164, 153, 0, 51, 42, 180, 0, 174]
abbrev dktX11_readUnit_4 : List UInt8 := dkwX11_readUnit_4 ++ dktX11_readUnit_5
def dkwX11_readUnit_3 : List UInt8 := [4, 100, 181, 0, 180, 42, 16, 41, 182, 0, 190, 172, 42, 16, 91, 182, 0, 190, 153, 0, 8, 42]
abbrev dktX11_readUnit_3 : List UInt8 := dkwX11_readUnit_3 ++ dktX11_readUnit_4
def dkwX11_readUnit_2 : List UInt8 := [153, 0, 36, 42, 182, 0, 183, 153, 0, 10, 42, 182, 0, 187, 154, 0, 5, 3, 172, 42, 89, 180, 0, 180]
abbrev dktX11_readUnit_2 : List UInt8 := dkwX11_readUnit_2 ++ dktX11_readUnit_3
def dkwX11_readUnit_1 : List UInt8 := [172, 42, 89, 180, 0, 180, 4, 100, 181, 0, 180, 42, 8, 3, 182, 0, 197, 172, 42, 16, 40, 182, 0, 190]
abbrev dktX11_readUnit_1 : List UInt8 := dkwX11_readUnit_1 ++ dktX11_readUnit_2
def dkwX11_readUnit_0 : List UInt8 := [42, 16, 45, 182, 0, 190, 153, 0, 36, 42, 182, 0, 183, 153, 0, 10, 42, 182, 0, 200, 154, 0, 5, 3]
abbrev dktX11_readUnit_0 : List UInt8 := dkwX11_readUnit_0 ++ dktX11_readUnit_1
theorem dksX11_readUnit_0 : cX11_readUnit.data.toList.drop 0 = dktX11_readUnit_0 := by decide +kernel
theorem dksX11_readUnit_1 : cX11_readUnit.data.toList.drop 24 = dktX11_readUnit_1 := dk_seg dksX11_readUnit_0 24 rfl rfl
theorem dksX11_readUnit_2 : cX11_readUnit.data.toList.drop 48 = dktX11_readUnit_2 := dk_seg dksX11_readUnit_1 24 rfl rfl
theorem dksX11_readUnit_3 : cX11_readUnit.data.toList.drop 72 = dktX11_readUnit_3 := dk_seg dksX11_readUnit_2 24 rfl rfl
theorem dksX11_readUnit_4 : cX11_readUnit.data.toList.drop 94 = dktX11_readUnit_4 := dk_seg dksX11_readUnit_3 22 rfl rfl
theorem dksX11_readUnit_5 : cX11_readUnit.data.toList.drop 117 = dktX11_readUnit_5 := dk_seg dksX11_readUnit_4 23 rfl rfl
theorem dksX11_readUnit_6 : cX11_readUnit.data.toList.drop 141 = dktX11_readUnit_6 := dk_seg dksX11_readUnit_5 24 rfl rfl
theorem dksX11_readUnit_7 : cX11_readUnit.data.toList.drop 164 = dktX11_readUnit_7 := dk_seg dksX11_readUnit_6 23 rfl rfl
theorem dksX11_readUnit_8 : cX11_readUnit.data.toList.drop 186 = dktX11_readUnit_8 := dk_seg dksX11_readUnit_7 22 rfl rfl
theorem dksX11_readUnit_9 : cX11_readUnit.data.toList.drop 209 = dktX11_readUnit_9 := dk_seg dksX11_readUnit_8 23 rfl rfl
theorem dksX11_readUnit_10 : cX11_readUnit.data.toList.drop 233 = dktX11_readUnit_10 := dk_seg dksX11_readUnit_9 24 rfl rfl
theorem dX11_readUnit_0 : decode cX11_readUnit 0 = .ok (.aload_n 0, 1) := dk_42 (dk_at dksX11_readUnit_0 0 rfl rfl)
theorem dX11_readUnit_1 : decode cX11_readUnit 1 = .ok (.bipush 45, 2) := dk_16 45 (dk_at dksX11_readUnit_0 1 rfl rfl)
theorem dX11_readUnit_3 : decode cX11_readUnit 3 = .ok (.invokevirtual 190, 3) := dk_182 0 190 (dk_at dksX11_readUnit_0 3 rfl rfl)
theorem dX11_readUnit_6 : decode cX11_readUnit 6 = .ok (.ifCond .eq 36, 3) := dk_153 0 36 (dk_at dksX11_readUnit_0 6 rfl rfl)
theorem dX11_readUnit_9 : decode cX11_readUnit 9 = .ok (.aload_n 0, 1) := dk_42 (dk_at dksX11_readUnit_0 9 rfl rfl)
theorem dX11_readUnit_10 : decode cX11_readUnit 10 = .ok (.invokevirtual 183, 3) := dk_182 0 183 (dk_at dksX11_readUnit_0 10 rfl rfl)
theorem dX11_readUnit_13 : decode cX11_readUnit 13 = .ok (.ifCond .eq 10, 3) := dk_153 0 10 (dk_at dksX11_readUnit_0 13 rfl rfl)
theorem dX11_readUnit_16 : decode cX11_readUnit 16 = .ok (.aload_n 0, 1) := dk_42 (dk_at dksX11_readUnit_0 16 rfl rfl)
theorem dX11_readUnit_17 : decode cX11_readUnit 17 = .ok (.invokevirtual 200, 3) := dk_182 0 200 (dk_at dksX11_readUnit_0 17 rfl rfl)
theorem dX11_readUnit_20 : decode cX11_readUnit 20 = .ok (.ifCond .ne 5, 3) := dk_154 0 5 (dk_at dksX11_readUnit_0 20 rfl rfl)
theorem dX11_readUnit_23 : decode cX11_readUnit 23 = .ok (.iconst 0, 1) := dk_3 (dk_at dksX11_readUnit_0 23 rfl rfl)
theorem dX11_readUnit_24 : decode cX11_readUnit 24 = .ok (.ireturn, 1) := dk_172 (dk_at dksX11_readUnit_1 0 rfl rfl)
theorem dX11_readUnit_25 : decode cX11_readUnit 25 = .ok (.aload_n 0, 1) := dk_42 (dk_at dksX11_readUnit_1 1 rfl rfl)
theorem dX11_readUnit_26 : decode cX11_readUnit 26 = .ok (.dup, 1) := dk_89 (dk_at dksX11_readUnit_1 2 rfl rfl)
theorem dX11_readUnit_27 : decode cX11_readUnit 27 = .ok (.getfield 180, 3) := dk_180 0 180 (dk_at dksX11_readUnit_1 3 rfl rfl)
theorem dX11_readUnit_30 : decode cX11_readUnit 30 = .ok (.iconst 1, 1) := dk_4 (dk_at dksX11_readUnit_1 6 rfl rfl)
theorem dX11_readUnit_31 : decode cX11_readUnit 31 = .ok (.isub, 1) := dk_100 (dk_at dksX11_readUnit_1 7 rfl rfl)
theorem dX11_readUnit_32 : decode cX11_readUnit 32 = .ok (.putfield 180, 3) := dk_181 0 180 (dk_at dksX11_readUnit_1 8 rfl rfl)
theorem dX11_readUnit_35 : decode cX11_readUnit 35 = .ok (.aload_n 0, 1) := dk_42 (dk_at dksX11_readUnit_1 11 rfl rfl)
theorem dX11_readUnit_36 : decode cX11_readUnit 36 = .ok (.iconst 5, 1) := dk_8 (dk_at dksX11_readUnit_1 12 rfl rfl)
theorem dX11_readUnit_37 : decode cX11_readUnit 37 = .ok (.iconst 0, 1) := dk_3 (dk_at dksX11_readUnit_1 13 rfl rfl)
theorem dX11_readUnit_38 : decode cX11_readUnit 38 = .ok (.invokevirtual 197, 3) := dk_182 0 197 (dk_at dksX11_readUnit_1 14 rfl rfl)
theorem dX11_readUnit_41 : decode cX11_readUnit 41 = .ok (.ireturn, 1) := dk_172 (dk_at dksX11_readUnit_1 17 rfl rfl)
theorem dX11_readUnit_42 : decode cX11_readUnit 42 = .ok (.aload_n 0, 1) := dk_42 (dk_at dksX11_readUnit_1 18 rfl rfl)
theorem dX11_readUnit_43 : decode cX11_readUnit 43 = .ok (.bipush 40, 2) := dk_16 40 (dk_at dksX11_readUnit_1 19 rfl rfl)
theorem dX11_readUnit_45 : decode cX11_readUnit 45 = .ok (.invokevirtual 190, 3) := dk_182 0 190 (dk_at dksX11_readUnit_1 21 rfl rfl)
theorem dX11_readUnit_48 : decode cX11_readUnit 48 = .ok (.ifCond .eq 36, 3) := dk_153 0 36 (dk_at dksX11_readUnit_2 0 rfl rfl)
theorem dX11_readUnit_51 : decode cX11_readUnit 51 = .ok (.aload_n 0, 1) := dk_42 (dk_at dksX11_readUnit_2 3 rfl rfl)
theorem dX11_readUnit_52 : decode cX11_readUnit 52 = .ok (.invokevirtual 183, 3) := dk_182 0 183 (dk_at dksX11_readUnit_2 4 rfl rfl)
theorem dX11_readUnit_55 : decode cX11_readUnit 55 = .ok (.ifCond .eq 10, 3) := dk_153 0 10 (dk_at dksX11_readUnit_2 7 rfl rfl)
theorem dX11_readUnit_58 : decode cX11_readUnit 58 = .ok (.aload_n 0, 1) := dk_42 (dk_at dksX11_readUnit_2 10 rfl rfl)
theorem dX11_readUnit_59 : decode cX11_readUnit 59 = .ok (.invokevirtual 187, 3) := dk_182 0 187 (dk_at dksX11_readUnit_2 11 rfl rfl)
theorem dX11_readUnit_62 : decode cX11_readUnit 62 = .ok (.ifCond .ne 5, 3) := dk_154 0 5 (dk_at dksX11_readUnit_2 14 rfl rfl)
theorem dX11_readUnit_65 : decode cX11_readUnit 65 = .ok (.iconst 0, 1) := dk_3 (dk_at dksX11_readUnit_2 17 rfl rfl)
theorem dX11_readUnit_66 : decode cX11_readUnit 66 = .ok (.ireturn, 1) := dk_172 (dk_at dksX11_readUnit_2 18 rfl rfl)
theorem dX11_readUnit_67 : decode cX11_readUnit 67 = .ok (.aload_n 0, 1) := dk_42 (dk_at dksX11_readUnit_2 19 rfl rfl)
theorem dX11_readUnit_68 : decode cX11_readUnit 68 = .ok (.dup, 1) := dk_89 (dk_at dksX11_readUnit_2 20 rfl rfl)
theorem dX11_readUnit_69 : decode cX11_readUnit 69 = .ok (.getfield 180, 3) := dk_180 0 180 (dk_at dksX11_readUnit_2 21 rfl rfl)
theorem dX11_readUnit_72 : decode cX11_readUnit 72 = .ok (.iconst 1, 1) := dk_4 (dk_at dksX11_readUnit_3 0 rfl rfl)
theorem dX11_readUnit_73 : decode cX11_readUnit 73 = .ok (.isub, 1) := dk_100 (dk_at dksX11_readUnit_3 1 rfl rfl)
theorem dX11_readUnit_74 : decode cX11_readUnit 74 = .ok (.putfield 180, 3) := dk_181 0 180 (dk_at dksX11_readUnit_3 2 rfl rfl)
theorem dX11_readUnit_77 : decode cX11_readUnit 77 = .ok (.aload_n 0, 1) := dk_42 (dk_at dksX11_readUnit_3 5 rfl rfl)
theorem dX11_readUnit_78 : decode cX11_readUnit 78 = .ok (.bipush 41, 2) := dk_16 41 (dk_at dksX11_readUnit_3 6 rfl rfl)
theorem dX11_readUnit_80 : decode cX11_readUnit 80 = .ok (.invokevirtual 190, 3) := dk_182 0 190 (dk_at dksX11_readUnit_3 8 rfl rfl)
theorem dX11_readUnit_83 : decode cX11_readUnit 83 = .ok (.ireturn, 1) := dk_172 (dk_at dksX11_readUnit_3 11 rfl rfl)
theorem dX11_readUnit_84 : decode cX11_readUnit 84 = .ok (.aload_n 0, 1) := dk_42 (dk_at dksX11_readUnit_3 12 rfl rfl)
theorem dX11_readUnit_85 : decode cX11_readUnit 85 = .ok (.bipush 91, 2) := dk_16 91 (dk_at dksX11_readUnit_3 13 rfl rfl)
theorem dX11_readUnit_87 : decode cX11_readUnit 87 = .ok (.invokevirtual 190, 3) := dk_182 0 190 (dk_at dksX11_readUnit_3 15 rfl rfl)
theorem dX11_readUnit_90 : decode cX11_readUnit 90 = .ok (.ifCond .eq 8, 3) := dk_153 0 8 (dk_at dksX11_readUnit_3 18 rfl rfl)
theorem dX11_readUnit_93 : decode cX11_readUnit 93 = .ok (.aload_n 0, 1) := dk_42 (dk_at dksX11_readUnit_3 21 rfl rfl)
theorem dX11_readUnit_94 : decode cX11_readUnit 94 = .ok (.invokevirtual 203, 3) := dk_182 0 203 (dk_at dksX11_readUnit_4 0 rfl rfl)
theorem dX11_readUnit_97 : decode cX11_readUnit 97 = .ok (.ireturn, 1) := dk_172 (dk_at dksX11_readUnit_4 3 rfl rfl)
theorem dX11_readUnit_98 : decode cX11_readUnit 98 = .ok (.aload_n 0, 1) := dk_42 (dk_at dksX11_readUnit_4 4 rfl rfl)
theorem dX11_readUnit_99 : decode cX11_readUnit 99 = .ok (.invokevirtual 171, 3) := dk_182 0 171 (dk_at dksX11_readUnit_4 5 rfl rfl)
theorem dX11_readUnit_102 : decode cX11_readUnit 102 = .ok (.aload_n 0, 1) := dk_42 (dk_at dksX11_readUnit_4 8 rfl rfl)
theorem dX11_readUnit_103 : decode cX11_readUnit 103 = .ok (.bipush 48, 2) := dk_16 48 (dk_at dksX11_readUnit_4 9 rfl rfl)
theorem dX11_readUnit_105 : decode cX11_readUnit 105 = .ok (.bipush 57, 2) := dk_16 57 (dk_at dksX11_readUnit_4 11 rfl rfl)
theorem dX11_readUnit_107 : decode cX11_readUnit 107 = .ok (.invokevirtual 164, 3) := dk_182 0 164 (dk_at dksX11_readUnit_4 13 rfl rfl)
theorem dX11_readUnit_110 : decode cX11_readUnit 110 = .ok (.ifCond .eq 51, 3) := dk_153 0 51 (dk_at dksX11_readUnit_4 16 rfl rfl)
theorem dX11_readUnit_113 : decode cX11_readUnit 113 = .ok (.aload_n 0, 1) := dk_42 (dk_at dksX11_readUnit_4 19 rfl rfl)
theorem dX11_readUnit_114 : decode cX11_readUnit 114 = .ok (.getfield 174, 3) := dk_180 0 174 (dk_at dksX11_readUnit_4 20 rfl rfl)
theorem dX11_readUnit_117 : decode cX11_readUnit 117 = .ok (.bipush 40, 2) := dk_16 40 (dk_at dksX11_readUnit_5 0 rfl rfl)
theorem dX11_readUnit_119 : decode cX11_readUnit 119 = .ok (.if_icmp .ne 5, 3) := dk_160 0 5 (dk_at dksX11_readUnit_5 2 rfl rfl)
theorem dX11_readUnit_122 : decode cX11_readUnit 122 = .ok (.iconst 0, 1) := dk_3 (dk_at dksX11_readUnit_5 5 rfl rfl)
theorem dX11_readUnit_123 : decode cX11_readUnit 123 = .ok (.ireturn, 1) := dk_172 (dk_at dksX11_readUnit_5 6 rfl rfl)
theorem dX11_readUnit_124 : decode cX11_readUnit 124 = .ok (.aload_n 0, 1) := dk_42 (dk_at dksX11_readUnit_5 7 rfl rfl)
theorem dX11_readUnit_125 : decode cX11_readUnit 125 = .ok (.dup, 1) := dk_89 (dk_at dksX11_readUnit_5 8 rfl rfl)
theorem dX11_readUnit_126 : decode cX11_readUnit 126 = .ok (.getfield 174, 3) := dk_180 0 174 (dk_at dksX11_readUnit_5 9 rfl rfl)
theorem dX11_readUnit_129 : decode cX11_readUnit 129 = .ok (.iconst 1, 1) := dk_4 (dk_at dksX11_readUnit_5 12 rfl rfl)
theorem dX11_readUnit_130 : decode cX11_readUnit 130 = .ok (.iadd, 1) := dk_96 (dk_at dksX11_readUnit_5 13 rfl rfl)
theorem dX11_readUnit_131 : decode cX11_readUnit 131 = .ok (.putfield 174, 3) := dk_181 0 174 (dk_at dksX11_readUnit_5 14 rfl rfl)
theorem dX11_readUnit_134 : decode cX11_readUnit 134 = .ok (.aload_n 0, 1) := dk_42 (dk_at dksX11_readUnit_5 17 rfl rfl)
theorem dX11_readUnit_135 : decode cX11_readUnit 135 = .ok (.sipush 999, 3) := dk_17 3 231 (dk_at dksX11_readUnit_5 18 rfl rfl)
theorem dX11_readUnit_138 : decode cX11_readUnit 138 = .ok (.invokevirtual 194, 3) := dk_182 0 194 (dk_at dksX11_readUnit_5 21 rfl rfl)
theorem dX11_readUnit_141 : decode cX11_readUnit 141 = .ok (.istore_n 1, 1) := dk_60 (dk_at dksX11_readUnit_6 0 rfl rfl)
theorem dX11_readUnit_142 : decode cX11_readUnit 142 = .ok (.iload_n 1, 1) := dk_27 (dk_at dksX11_readUnit_6 1 rfl rfl)
theorem dX11_readUnit_143 : decode cX11_readUnit 143 = .ok (.ifCond .lt 16, 3) := dk_155 0 16 (dk_at dksX11_readUnit_6 2 rfl rfl)
theorem dX11_readUnit_146 : decode cX11_readUnit 146 = .ok (.aload_n 0, 1) := dk_42 (dk_at dksX11_readUnit_6 5 rfl rfl)
theorem dX11_readUnit_147 : decode cX11_readUnit 147 = .ok (.iconst 1, 1) := dk_4 (dk_at dksX11_readUnit_6 6 rfl rfl)
theorem dX11_readUnit_148 : decode cX11_readUnit 148 = .ok (.iload_n 1, 1) := dk_27 (dk_at dksX11_readUnit_6 7 rfl rfl)
theorem dX11_readUnit_149 : decode cX11_readUnit 149 = .ok (.invokevirtual 197, 3) := dk_182 0 197 (dk_at dksX11_readUnit_6 8 rfl rfl)
theorem dX11_readUnit_152 : decode cX11_readUnit 152 = .ok (.ifCond .eq 7, 3) := dk_153 0 7 (dk_at dksX11_readUnit_6 11 rfl rfl)
theorem dX11_readUnit_155 : decode cX11_readUnit 155 = .ok (.iconst 1, 1) := dk_4 (dk_at dksX11_readUnit_6 14 rfl rfl)
theorem dX11_readUnit_156 : decode cX11_readUnit 156 = .ok (.goto 4, 3) := dk_167 0 4 (dk_at dksX11_readUnit_6 15 rfl rfl)
theorem dX11_readUnit_159 : decode cX11_readUnit 159 = .ok (.iconst 0, 1) := dk_3 (dk_at dksX11_readUnit_6 18 rfl rfl)
theorem dX11_readUnit_160 : decode cX11_readUnit 160 = .ok (.ireturn, 1) := dk_172 (dk_at dksX11_readUnit_6 19 rfl rfl)
theorem dX11_readUnit_161 : decode cX11_readUnit 161 = .ok (.aload_n 0, 1) := dk_42 (dk_at dksX11_readUnit_6 20 rfl rfl)
theorem dX11_readUnit_162 : decode cX11_readUnit 162 = .ok (.bipush 97, 2) := dk_16 97 (dk_at dksX11_readUnit_6 21 rfl rfl)
theorem dX11_readUnit_164 : decode cX11_readUnit 164 = .ok (.bipush 122, 2) := dk_16 122 (dk_at dksX11_readUnit_7 0 rfl rfl)
theorem dX11_readUnit_166 : decode cX11_readUnit 166 = .ok (.invokevirtual 164, 3) := dk_182 0 164 (dk_at dksX11_readUnit_7 2 rfl rfl)
theorem dX11_readUnit_169 : decode cX11_readUnit 169 = .ok (.ifCond .eq 16, 3) := dk_153 0 16 (dk_at dksX11_readUnit_7 5 rfl rfl)
theorem dX11_readUnit_172 : decode cX11_readUnit 172 = .ok (.aload_n 0, 1) := dk_42 (dk_at dksX11_readUnit_7 8 rfl rfl)
theorem dX11_readUnit_173 : decode cX11_readUnit 173 = .ok (.dup, 1) := dk_89 (dk_at dksX11_readUnit_7 9 rfl rfl)
theorem dX11_readUnit_174 : decode cX11_readUnit 174 = .ok (.getfield 158, 3) := dk_180 0 158 (dk_at dksX11_readUnit_7 10 rfl rfl)
theorem dX11_readUnit_177 : decode cX11_readUnit 177 = .ok (.iconst 1, 1) := dk_4 (dk_at dksX11_readUnit_7 13 rfl rfl)
theorem dX11_readUnit_178 : decode cX11_readUnit 178 = .ok (.iadd, 1) := dk_96 (dk_at dksX11_readUnit_7 14 rfl rfl)
theorem dX11_readUnit_179 : decode cX11_readUnit 179 = .ok (.putfield 158, 3) := dk_181 0 158 (dk_at dksX11_readUnit_7 15 rfl rfl)
theorem dX11_readUnit_182 : decode cX11_readUnit 182 = .ok (.goto (-21), 3) := dk_167 255 235 (dk_at dksX11_readUnit_7 18 rfl rfl)
theorem dX11_readUnit_185 : decode cX11_readUnit 185 = .ok (.aload_n 0, 1) := dk_42 (dk_at dksX11_readUnit_7 21 rfl rfl)
theorem dX11_readUnit_186 : decode cX11_readUnit 186 = .ok (.getfield 158, 3) := dk_180 0 158 (dk_at dksX11_readUnit_8 0 rfl rfl)
theorem dX11_readUnit_189 : decode cX11_readUnit 189 = .ok (.aload_n 0, 1) := dk_42 (dk_at dksX11_readUnit_8 3 rfl rfl)
theorem dX11_readUnit_190 : decode cX11_readUnit 190 = .ok (.getfield 168, 3) := dk_180 0 168 (dk_at dksX11_readUnit_8 4 rfl rfl)
theorem dX11_readUnit_193 : decode cX11_readUnit 193 = .ok (.isub, 1) := dk_100 (dk_at dksX11_readUnit_8 7 rfl rfl)
theorem dX11_readUnit_194 : decode cX11_readUnit 194 = .ok (.iconst 1, 1) := dk_4 (dk_at dksX11_readUnit_8 8 rfl rfl)
theorem dX11_readUnit_195 : decode cX11_readUnit 195 = .ok (.if_icmp .ne 26, 3) := dk_160 0 26 (dk_at dksX11_readUnit_8 9 rfl rfl)
theorem dX11_readUnit_198 : decode cX11_readUnit 198 = .ok (.aload_n 0, 1) := dk_42 (dk_at dksX11_readUnit_8 12 rfl rfl)
theorem dX11_readUnit_199 : decode cX11_readUnit 199 = .ok (.getfield 26, 3) := dk_180 0 26 (dk_at dksX11_readUnit_8 13 rfl rfl)
theorem dX11_readUnit_202 : decode cX11_readUnit 202 = .ok (.aload_n 0, 1) := dk_42 (dk_at dksX11_readUnit_8 16 rfl rfl)
theorem dX11_readUnit_203 : decode cX11_readUnit 203 = .ok (.getfield 168, 3) := dk_180 0 168 (dk_at dksX11_readUnit_8 17 rfl rfl)
theorem dX11_readUnit_206 : decode cX11_readUnit 206 = .ok (.baload, 1) := dk_51 (dk_at dksX11_readUnit_8 20 rfl rfl)
theorem dX11_readUnit_207 : decode cX11_readUnit 207 = .ok (.bipush 102, 2) := dk_16 102 (dk_at dksX11_readUnit_8 21 rfl rfl)
theorem dX11_readUnit_209 : decode cX11_readUnit 209 = .ok (.if_icmp .ne 12, 3) := dk_160 0 12 (dk_at dksX11_readUnit_9 0 rfl rfl)
theorem dX11_readUnit_212 : decode cX11_readUnit 212 = .ok (.aload_n 0, 1) := dk_42 (dk_at dksX11_readUnit_9 3 rfl rfl)
theorem dX11_readUnit_213 : decode cX11_readUnit 213 = .ok (.getfield 174, 3) := dk_180 0 174 (dk_at dksX11_readUnit_9 4 rfl rfl)
theorem dX11_readUnit_216 : decode cX11_readUnit 216 = .ok (.bipush 40, 2) := dk_16 40 (dk_at dksX11_readUnit_9 7 rfl rfl)
theorem dX11_readUnit_218 : decode cX11_readUnit 218 = .ok (.if_icmp .ne 5, 3) := dk_160 0 5 (dk_at dksX11_readUnit_9 9 rfl rfl)
theorem dX11_readUnit_221 : decode cX11_readUnit 221 = .ok (.iconst 0, 1) := dk_3 (dk_at dksX11_readUnit_9 12 rfl rfl)
theorem dX11_readUnit_222 : decode cX11_readUnit 222 = .ok (.ireturn, 1) := dk_172 (dk_at dksX11_readUnit_9 13 rfl rfl)
theorem dX11_readUnit_223 : decode cX11_readUnit 223 = .ok (.aload_n 0, 1) := dk_42 (dk_at dksX11_readUnit_9 14 rfl rfl)
theorem dX11_readUnit_224 : decode cX11_readUnit 224 = .ok (.dup, 1) := dk_89 (dk_at dksX11_readUnit_9 15 rfl rfl)
theorem dX11_readUnit_225 : decode cX11_readUnit 225 = .ok (.getfield 174, 3) := dk_180 0 174 (dk_at dksX11_readUnit_9 16 rfl rfl)
theorem dX11_readUnit_228 : decode cX11_readUnit 228 = .ok (.iconst 1, 1) := dk_4 (dk_at dksX11_readUnit_9 19 rfl rfl)
theorem dX11_readUnit_229 : decode cX11_readUnit 229 = .ok (.iadd, 1) := dk_96 (dk_at dksX11_readUnit_9 20 rfl rfl)
theorem dX11_readUnit_230 : decode cX11_readUnit 230 = .ok (.putfield 174, 3) := dk_181 0 174 (dk_at dksX11_readUnit_9 21 rfl rfl)
theorem dX11_readUnit_233 : decode cX11_readUnit 233 = .ok (.aload_n 0, 1) := dk_42 (dk_at dksX11_readUnit_10 0 rfl rfl)
theorem dX11_readUnit_234 : decode cX11_readUnit 234 = .ok (.iconst 0, 1) := dk_3 (dk_at dksX11_readUnit_10 1 rfl rfl)
theorem dX11_readUnit_235 : decode cX11_readUnit 235 = .ok (.iconst 0, 1) := dk_3 (dk_at dksX11_readUnit_10 2 rfl rfl)
theorem dX11_readUnit_236 : decode cX11_readUnit 236 = .ok (.invokevirtual 197, 3) := dk_182 0 197 (dk_at dksX11_readUnit_10 3 rfl rfl)
theorem dX11_readUnit_239 : decode cX11_readUnit 239 = .ok (.ireturn, 1) := dk_172 (dk_at dksX11_readUnit_10 6 rfl rfl)
abbrev cX11_has : ByteArray := prog_18_method_43_code
def yX11_has : MethodName := ⟨RX11, "has", "(I)Z"⟩
def dkwX11_has_1 : List UInt8 := [181, 0, 158, 4, 172]
abbrev dktX11_has_1 : List UInt8 := dkwX11_has_1 ++ []
def dkwX11_has_0 : List UInt8 := [42, 182, 0, 171, 42, 27, 27, 182, 0, 164, 154, 0, 5, 3, 172, 42, 89, 180, 0, 158, 4, 96]
abbrev dktX11_has_0 : List UInt8 := dkwX11_has_0 ++ dktX11_has_1
theorem dksX11_has_0 : cX11_has.data.toList.drop 0 = dktX11_has_0 := by decide +kernel
theorem dksX11_has_1 : cX11_has.data.toList.drop 22 = dktX11_has_1 := dk_seg dksX11_has_0 22 rfl rfl
theorem dX11_has_0 : decode cX11_has 0 = .ok (.aload_n 0, 1) := dk_42 (dk_at dksX11_has_0 0 rfl rfl)
theorem dX11_has_1 : decode cX11_has 1 = .ok (.invokevirtual 171, 3) := dk_182 0 171 (dk_at dksX11_has_0 1 rfl rfl)
theorem dX11_has_4 : decode cX11_has 4 = .ok (.aload_n 0, 1) := dk_42 (dk_at dksX11_has_0 4 rfl rfl)
theorem dX11_has_5 : decode cX11_has 5 = .ok (.iload_n 1, 1) := dk_27 (dk_at dksX11_has_0 5 rfl rfl)
theorem dX11_has_6 : decode cX11_has 6 = .ok (.iload_n 1, 1) := dk_27 (dk_at dksX11_has_0 6 rfl rfl)
theorem dX11_has_7 : decode cX11_has 7 = .ok (.invokevirtual 164, 3) := dk_182 0 164 (dk_at dksX11_has_0 7 rfl rfl)
theorem dX11_has_10 : decode cX11_has 10 = .ok (.ifCond .ne 5, 3) := dk_154 0 5 (dk_at dksX11_has_0 10 rfl rfl)
theorem dX11_has_13 : decode cX11_has 13 = .ok (.iconst 0, 1) := dk_3 (dk_at dksX11_has_0 13 rfl rfl)
theorem dX11_has_14 : decode cX11_has 14 = .ok (.ireturn, 1) := dk_172 (dk_at dksX11_has_0 14 rfl rfl)
theorem dX11_has_15 : decode cX11_has 15 = .ok (.aload_n 0, 1) := dk_42 (dk_at dksX11_has_0 15 rfl rfl)
theorem dX11_has_16 : decode cX11_has 16 = .ok (.dup, 1) := dk_89 (dk_at dksX11_has_0 16 rfl rfl)
theorem dX11_has_17 : decode cX11_has 17 = .ok (.getfield 158, 3) := dk_180 0 158 (dk_at dksX11_has_0 17 rfl rfl)
theorem dX11_has_20 : decode cX11_has 20 = .ok (.iconst 1, 1) := dk_4 (dk_at dksX11_has_0 20 rfl rfl)
theorem dX11_has_21 : decode cX11_has 21 = .ok (.iadd, 1) := dk_96 (dk_at dksX11_has_0 21 rfl rfl)
theorem dX11_has_22 : decode cX11_has 22 = .ok (.putfield 158, 3) := dk_181 0 158 (dk_at dksX11_has_1 0 rfl rfl)
theorem dX11_has_25 : decode cX11_has 25 = .ok (.iconst 1, 1) := dk_4 (dk_at dksX11_has_1 3 rfl rfl)
theorem dX11_has_26 : decode cX11_has 26 = .ok (.ireturn, 1) := dk_172 (dk_at dksX11_has_1 4 rfl rfl)
abbrev cX11_blanks : ByteArray := prog_18_method_42_code
def yX11_blanks : MethodName := ⟨RX11, "blanks", "()V"⟩
def dkwX11_blanks_1 : List UInt8 := [42, 42, 180, 0, 158, 181, 0, 168, 177]
abbrev dktX11_blanks_1 : List UInt8 := dkwX11_blanks_1 ++ []
def dkwX11_blanks_0 : List UInt8 := [42, 16, 32, 16, 32, 182, 0, 164, 153, 0, 16, 42, 89, 180, 0, 158, 4, 96, 181, 0, 158, 167, 255, 235]
abbrev dktX11_blanks_0 : List UInt8 := dkwX11_blanks_0 ++ dktX11_blanks_1
theorem dksX11_blanks_0 : cX11_blanks.data.toList.drop 0 = dktX11_blanks_0 := by decide +kernel
theorem dksX11_blanks_1 : cX11_blanks.data.toList.drop 24 = dktX11_blanks_1 := dk_seg dksX11_blanks_0 24 rfl rfl
theorem dX11_blanks_0 : decode cX11_blanks 0 = .ok (.aload_n 0, 1) := dk_42 (dk_at dksX11_blanks_0 0 rfl rfl)
theorem dX11_blanks_1 : decode cX11_blanks 1 = .ok (.bipush 32, 2) := dk_16 32 (dk_at dksX11_blanks_0 1 rfl rfl)
theorem dX11_blanks_3 : decode cX11_blanks 3 = .ok (.bipush 32, 2) := dk_16 32 (dk_at dksX11_blanks_0 3 rfl rfl)
theorem dX11_blanks_5 : decode cX11_blanks 5 = .ok (.invokevirtual 164, 3) := dk_182 0 164 (dk_at dksX11_blanks_0 5 rfl rfl)
theorem dX11_blanks_8 : decode cX11_blanks 8 = .ok (.ifCond .eq 16, 3) := dk_153 0 16 (dk_at dksX11_blanks_0 8 rfl rfl)
theorem dX11_blanks_11 : decode cX11_blanks 11 = .ok (.aload_n 0, 1) := dk_42 (dk_at dksX11_blanks_0 11 rfl rfl)
theorem dX11_blanks_12 : decode cX11_blanks 12 = .ok (.dup, 1) := dk_89 (dk_at dksX11_blanks_0 12 rfl rfl)
theorem dX11_blanks_13 : decode cX11_blanks 13 = .ok (.getfield 158, 3) := dk_180 0 158 (dk_at dksX11_blanks_0 13 rfl rfl)
theorem dX11_blanks_16 : decode cX11_blanks 16 = .ok (.iconst 1, 1) := dk_4 (dk_at dksX11_blanks_0 16 rfl rfl)
theorem dX11_blanks_17 : decode cX11_blanks 17 = .ok (.iadd, 1) := dk_96 (dk_at dksX11_blanks_0 17 rfl rfl)
theorem dX11_blanks_18 : decode cX11_blanks 18 = .ok (.putfield 158, 3) := dk_181 0 158 (dk_at dksX11_blanks_0 18 rfl rfl)
theorem dX11_blanks_21 : decode cX11_blanks 21 = .ok (.goto (-21), 3) := dk_167 255 235 (dk_at dksX11_blanks_0 21 rfl rfl)
theorem dX11_blanks_24 : decode cX11_blanks 24 = .ok (.aload_n 0, 1) := dk_42 (dk_at dksX11_blanks_1 0 rfl rfl)
theorem dX11_blanks_25 : decode cX11_blanks 25 = .ok (.aload_n 0, 1) := dk_42 (dk_at dksX11_blanks_1 1 rfl rfl)
theorem dX11_blanks_26 : decode cX11_blanks 26 = .ok (.getfield 158, 3) := dk_180 0 158 (dk_at dksX11_blanks_1 2 rfl rfl)
theorem dX11_blanks_29 : decode cX11_blanks 29 = .ok (.putfield 168, 3) := dk_181 0 168 (dk_at dksX11_blanks_1 5 rfl rfl)
theorem dX11_blanks_32 : decode cX11_blanks 32 = .ok (.return_, 1) := dk_177 (dk_at dksX11_blanks_1 8 rfl rfl)
abbrev cX11_isAt : ByteArray := prog_18_method_41_code
def yX11_isAt : MethodName := ⟨RX11, "isAt", "(II)Z"⟩
def dkwX11_isAt_1 : List UInt8 := [42, 180, 0, 26, 42, 180, 0, 158, 51, 28, 163, 0, 7, 4, 167, 0, 4, 3, 172]
abbrev dktX11_isAt_1 : List UInt8 := dkwX11_isAt_1 ++ []
def dkwX11_isAt_0 : List UInt8 := [42, 180, 0, 158, 42, 180, 0, 161, 162, 0, 33, 42, 180, 0, 26, 42, 180, 0, 158, 51, 27, 161, 0, 20]
abbrev dktX11_isAt_0 : List UInt8 := dkwX11_isAt_0 ++ dktX11_isAt_1
theorem dksX11_isAt_0 : cX11_isAt.data.toList.drop 0 = dktX11_isAt_0 := by decide +kernel
theorem dksX11_isAt_1 : cX11_isAt.data.toList.drop 24 = dktX11_isAt_1 := dk_seg dksX11_isAt_0 24 rfl rfl
theorem dX11_isAt_0 : decode cX11_isAt 0 = .ok (.aload_n 0, 1) := dk_42 (dk_at dksX11_isAt_0 0 rfl rfl)
theorem dX11_isAt_1 : decode cX11_isAt 1 = .ok (.getfield 158, 3) := dk_180 0 158 (dk_at dksX11_isAt_0 1 rfl rfl)
theorem dX11_isAt_4 : decode cX11_isAt 4 = .ok (.aload_n 0, 1) := dk_42 (dk_at dksX11_isAt_0 4 rfl rfl)
theorem dX11_isAt_5 : decode cX11_isAt 5 = .ok (.getfield 161, 3) := dk_180 0 161 (dk_at dksX11_isAt_0 5 rfl rfl)
theorem dX11_isAt_8 : decode cX11_isAt 8 = .ok (.if_icmp .ge 33, 3) := dk_162 0 33 (dk_at dksX11_isAt_0 8 rfl rfl)
theorem dX11_isAt_11 : decode cX11_isAt 11 = .ok (.aload_n 0, 1) := dk_42 (dk_at dksX11_isAt_0 11 rfl rfl)
theorem dX11_isAt_12 : decode cX11_isAt 12 = .ok (.getfield 26, 3) := dk_180 0 26 (dk_at dksX11_isAt_0 12 rfl rfl)
theorem dX11_isAt_15 : decode cX11_isAt 15 = .ok (.aload_n 0, 1) := dk_42 (dk_at dksX11_isAt_0 15 rfl rfl)
theorem dX11_isAt_16 : decode cX11_isAt 16 = .ok (.getfield 158, 3) := dk_180 0 158 (dk_at dksX11_isAt_0 16 rfl rfl)
theorem dX11_isAt_19 : decode cX11_isAt 19 = .ok (.baload, 1) := dk_51 (dk_at dksX11_isAt_0 19 rfl rfl)
theorem dX11_isAt_20 : decode cX11_isAt 20 = .ok (.iload_n 1, 1) := dk_27 (dk_at dksX11_isAt_0 20 rfl rfl)
theorem dX11_isAt_21 : decode cX11_isAt 21 = .ok (.if_icmp .lt 20, 3) := dk_161 0 20 (dk_at dksX11_isAt_0 21 rfl rfl)
theorem dX11_isAt_24 : decode cX11_isAt 24 = .ok (.aload_n 0, 1) := dk_42 (dk_at dksX11_isAt_1 0 rfl rfl)
theorem dX11_isAt_25 : decode cX11_isAt 25 = .ok (.getfield 26, 3) := dk_180 0 26 (dk_at dksX11_isAt_1 1 rfl rfl)
theorem dX11_isAt_28 : decode cX11_isAt 28 = .ok (.aload_n 0, 1) := dk_42 (dk_at dksX11_isAt_1 4 rfl rfl)
theorem dX11_isAt_29 : decode cX11_isAt 29 = .ok (.getfield 158, 3) := dk_180 0 158 (dk_at dksX11_isAt_1 5 rfl rfl)
theorem dX11_isAt_32 : decode cX11_isAt 32 = .ok (.baload, 1) := dk_51 (dk_at dksX11_isAt_1 8 rfl rfl)
theorem dX11_isAt_33 : decode cX11_isAt 33 = .ok (.iload_n 2, 1) := dk_28 (dk_at dksX11_isAt_1 9 rfl rfl)
theorem dX11_isAt_34 : decode cX11_isAt 34 = .ok (.if_icmp .gt 7, 3) := dk_163 0 7 (dk_at dksX11_isAt_1 10 rfl rfl)
theorem dX11_isAt_37 : decode cX11_isAt 37 = .ok (.iconst 1, 1) := dk_4 (dk_at dksX11_isAt_1 13 rfl rfl)
theorem dX11_isAt_38 : decode cX11_isAt 38 = .ok (.goto 4, 3) := dk_167 0 4 (dk_at dksX11_isAt_1 14 rfl rfl)
theorem dX11_isAt_41 : decode cX11_isAt 41 = .ok (.iconst 0, 1) := dk_3 (dk_at dksX11_isAt_1 17 rfl rfl)
theorem dX11_isAt_42 : decode cX11_isAt 42 = .ok (.ireturn, 1) := dk_172 (dk_at dksX11_isAt_1 18 rfl rfl)
abbrev cX11_deeper : ByteArray := prog_18_method_48_code
def yX11_deeper : MethodName := ⟨RX11, "deeper", "()Z"⟩
def dkwX11_deeper_0 : List UInt8 := [42, 180, 0, 180, 16, 6, 160, 0, 5, 3, 172, 42, 89, 180, 0, 180, 4, 96, 181, 0, 180, 4, 172]
abbrev dktX11_deeper_0 : List UInt8 := dkwX11_deeper_0 ++ []
theorem dksX11_deeper_0 : cX11_deeper.data.toList.drop 0 = dktX11_deeper_0 := by decide +kernel
theorem dX11_deeper_0 : decode cX11_deeper 0 = .ok (.aload_n 0, 1) := dk_42 (dk_at dksX11_deeper_0 0 rfl rfl)
theorem dX11_deeper_1 : decode cX11_deeper 1 = .ok (.getfield 180, 3) := dk_180 0 180 (dk_at dksX11_deeper_0 1 rfl rfl)
theorem dX11_deeper_4 : decode cX11_deeper 4 = .ok (.bipush 6, 2) := dk_16 6 (dk_at dksX11_deeper_0 4 rfl rfl)
theorem dX11_deeper_6 : decode cX11_deeper 6 = .ok (.if_icmp .ne 5, 3) := dk_160 0 5 (dk_at dksX11_deeper_0 6 rfl rfl)
theorem dX11_deeper_9 : decode cX11_deeper 9 = .ok (.iconst 0, 1) := dk_3 (dk_at dksX11_deeper_0 9 rfl rfl)
theorem dX11_deeper_10 : decode cX11_deeper 10 = .ok (.ireturn, 1) := dk_172 (dk_at dksX11_deeper_0 10 rfl rfl)
theorem dX11_deeper_11 : decode cX11_deeper 11 = .ok (.aload_n 0, 1) := dk_42 (dk_at dksX11_deeper_0 11 rfl rfl)
theorem dX11_deeper_12 : decode cX11_deeper 12 = .ok (.dup, 1) := dk_89 (dk_at dksX11_deeper_0 12 rfl rfl)
theorem dX11_deeper_13 : decode cX11_deeper 13 = .ok (.getfield 180, 3) := dk_180 0 180 (dk_at dksX11_deeper_0 13 rfl rfl)
theorem dX11_deeper_16 : decode cX11_deeper 16 = .ok (.iconst 1, 1) := dk_4 (dk_at dksX11_deeper_0 16 rfl rfl)
theorem dX11_deeper_17 : decode cX11_deeper 17 = .ok (.iadd, 1) := dk_96 (dk_at dksX11_deeper_0 17 rfl rfl)
theorem dX11_deeper_18 : decode cX11_deeper 18 = .ok (.putfield 180, 3) := dk_181 0 180 (dk_at dksX11_deeper_0 18 rfl rfl)
theorem dX11_deeper_21 : decode cX11_deeper 21 = .ok (.iconst 1, 1) := dk_4 (dk_at dksX11_deeper_0 21 rfl rfl)
theorem dX11_deeper_22 : decode cX11_deeper 22 = .ok (.ireturn, 1) := dk_172 (dk_at dksX11_deeper_0 22 rfl rfl)
abbrev cX11_emits : ByteArray := prog_18_method_47_code
def yX11_emits : MethodName := ⟨RX11, "emits", "(II)Z"⟩
def dkwX11_emits_1 : List UInt8 := [42, 180, 0, 177, 104, 96, 28, 79, 42, 89, 180, 0, 177, 4, 96, 181, 0, 177, 4, 172]
abbrev dktX11_emits_1 : List UInt8 := dkwX11_emits_1 ++ []
def dkwX11_emits_0 : List UInt8 := [42, 180, 0, 13, 17, 14, 23, 5, 42, 180, 0, 177, 104, 96, 27, 79, 42, 180, 0, 13, 17, 14, 24, 5]
abbrev dktX11_emits_0 : List UInt8 := dkwX11_emits_0 ++ dktX11_emits_1
theorem dksX11_emits_0 : cX11_emits.data.toList.drop 0 = dktX11_emits_0 := by decide +kernel
theorem dksX11_emits_1 : cX11_emits.data.toList.drop 24 = dktX11_emits_1 := dk_seg dksX11_emits_0 24 rfl rfl
theorem dX11_emits_0 : decode cX11_emits 0 = .ok (.aload_n 0, 1) := dk_42 (dk_at dksX11_emits_0 0 rfl rfl)
theorem dX11_emits_1 : decode cX11_emits 1 = .ok (.getfield 13, 3) := dk_180 0 13 (dk_at dksX11_emits_0 1 rfl rfl)
theorem dX11_emits_4 : decode cX11_emits 4 = .ok (.sipush 3607, 3) := dk_17 14 23 (dk_at dksX11_emits_0 4 rfl rfl)
theorem dX11_emits_7 : decode cX11_emits 7 = .ok (.iconst 2, 1) := dk_5 (dk_at dksX11_emits_0 7 rfl rfl)
theorem dX11_emits_8 : decode cX11_emits 8 = .ok (.aload_n 0, 1) := dk_42 (dk_at dksX11_emits_0 8 rfl rfl)
theorem dX11_emits_9 : decode cX11_emits 9 = .ok (.getfield 177, 3) := dk_180 0 177 (dk_at dksX11_emits_0 9 rfl rfl)
theorem dX11_emits_12 : decode cX11_emits 12 = .ok (.imul, 1) := dk_104 (dk_at dksX11_emits_0 12 rfl rfl)
theorem dX11_emits_13 : decode cX11_emits 13 = .ok (.iadd, 1) := dk_96 (dk_at dksX11_emits_0 13 rfl rfl)
theorem dX11_emits_14 : decode cX11_emits 14 = .ok (.iload_n 1, 1) := dk_27 (dk_at dksX11_emits_0 14 rfl rfl)
theorem dX11_emits_15 : decode cX11_emits 15 = .ok (.iastore, 1) := dk_79 (dk_at dksX11_emits_0 15 rfl rfl)
theorem dX11_emits_16 : decode cX11_emits 16 = .ok (.aload_n 0, 1) := dk_42 (dk_at dksX11_emits_0 16 rfl rfl)
theorem dX11_emits_17 : decode cX11_emits 17 = .ok (.getfield 13, 3) := dk_180 0 13 (dk_at dksX11_emits_0 17 rfl rfl)
theorem dX11_emits_20 : decode cX11_emits 20 = .ok (.sipush 3608, 3) := dk_17 14 24 (dk_at dksX11_emits_0 20 rfl rfl)
theorem dX11_emits_23 : decode cX11_emits 23 = .ok (.iconst 2, 1) := dk_5 (dk_at dksX11_emits_0 23 rfl rfl)
theorem dX11_emits_24 : decode cX11_emits 24 = .ok (.aload_n 0, 1) := dk_42 (dk_at dksX11_emits_1 0 rfl rfl)
theorem dX11_emits_25 : decode cX11_emits 25 = .ok (.getfield 177, 3) := dk_180 0 177 (dk_at dksX11_emits_1 1 rfl rfl)
theorem dX11_emits_28 : decode cX11_emits 28 = .ok (.imul, 1) := dk_104 (dk_at dksX11_emits_1 4 rfl rfl)
theorem dX11_emits_29 : decode cX11_emits 29 = .ok (.iadd, 1) := dk_96 (dk_at dksX11_emits_1 5 rfl rfl)
theorem dX11_emits_30 : decode cX11_emits 30 = .ok (.iload_n 2, 1) := dk_28 (dk_at dksX11_emits_1 6 rfl rfl)
theorem dX11_emits_31 : decode cX11_emits 31 = .ok (.iastore, 1) := dk_79 (dk_at dksX11_emits_1 7 rfl rfl)
theorem dX11_emits_32 : decode cX11_emits 32 = .ok (.aload_n 0, 1) := dk_42 (dk_at dksX11_emits_1 8 rfl rfl)
theorem dX11_emits_33 : decode cX11_emits 33 = .ok (.dup, 1) := dk_89 (dk_at dksX11_emits_1 9 rfl rfl)
theorem dX11_emits_34 : decode cX11_emits 34 = .ok (.getfield 177, 3) := dk_180 0 177 (dk_at dksX11_emits_1 10 rfl rfl)
theorem dX11_emits_37 : decode cX11_emits 37 = .ok (.iconst 1, 1) := dk_4 (dk_at dksX11_emits_1 13 rfl rfl)
theorem dX11_emits_38 : decode cX11_emits 38 = .ok (.iadd, 1) := dk_96 (dk_at dksX11_emits_1 14 rfl rfl)
theorem dX11_emits_39 : decode cX11_emits 39 = .ok (.putfield 177, 3) := dk_181 0 177 (dk_at dksX11_emits_1 15 rfl rfl)
theorem dX11_emits_42 : decode cX11_emits 42 = .ok (.iconst 1, 1) := dk_4 (dk_at dksX11_emits_1 18 rfl rfl)
theorem dX11_emits_43 : decode cX11_emits 43 = .ok (.ireturn, 1) := dk_172 (dk_at dksX11_emits_1 19 rfl rfl)
abbrev cX11_readOverlap : ByteArray := prog_18_method_49_code
def yX11_readOverlap : MethodName := ⟨RX11, "readOverlap", "()Z"⟩
def dkwX11_readOverlap_4 : List UInt8 := [3, 172]
abbrev dktX11_readOverlap_4 : List UInt8 := dkwX11_readOverlap_4 ++ []
def dkwX11_readOverlap_3 : List UInt8 := [42, 16, 8, 182, 0, 194, 60, 27, 155, 0, 16, 42, 7, 27, 182, 0, 197, 153, 0, 7, 4, 167, 0, 4]
abbrev dktX11_readOverlap_3 : List UInt8 := dkwX11_readOverlap_3 ++ dktX11_readOverlap_4
def dkwX11_readOverlap_2 : List UInt8 := [153, 0, 12, 42, 16, 93, 182, 0, 190, 154, 0, 5, 3, 172, 42, 89, 180, 0, 180, 4, 100, 181, 0, 180]
abbrev dktX11_readOverlap_2 : List UInt8 := dkwX11_readOverlap_2 ++ dktX11_readOverlap_3
def dkwX11_readOverlap_1 : List UInt8 := [96, 181, 0, 174, 42, 182, 0, 187, 153, 0, 28, 42, 16, 44, 182, 0, 190, 153, 0, 19, 42, 182, 0, 187]
abbrev dktX11_readOverlap_1 : List UInt8 := dkwX11_readOverlap_1 ++ dktX11_readOverlap_2
def dkwX11_readOverlap_0 : List UInt8 := [42, 180, 0, 174, 16, 40, 159, 0, 10, 42, 182, 0, 183, 154, 0, 5, 3, 172, 42, 89, 180, 0, 174, 4]
abbrev dktX11_readOverlap_0 : List UInt8 := dkwX11_readOverlap_0 ++ dktX11_readOverlap_1
theorem dksX11_readOverlap_0 : cX11_readOverlap.data.toList.drop 0 = dktX11_readOverlap_0 := by decide +kernel
theorem dksX11_readOverlap_1 : cX11_readOverlap.data.toList.drop 24 = dktX11_readOverlap_1 := dk_seg dksX11_readOverlap_0 24 rfl rfl
theorem dksX11_readOverlap_2 : cX11_readOverlap.data.toList.drop 48 = dktX11_readOverlap_2 := dk_seg dksX11_readOverlap_1 24 rfl rfl
theorem dksX11_readOverlap_3 : cX11_readOverlap.data.toList.drop 72 = dktX11_readOverlap_3 := dk_seg dksX11_readOverlap_2 24 rfl rfl
theorem dksX11_readOverlap_4 : cX11_readOverlap.data.toList.drop 96 = dktX11_readOverlap_4 := dk_seg dksX11_readOverlap_3 24 rfl rfl
theorem dX11_readOverlap_0 : decode cX11_readOverlap 0 = .ok (.aload_n 0, 1) := dk_42 (dk_at dksX11_readOverlap_0 0 rfl rfl)
theorem dX11_readOverlap_1 : decode cX11_readOverlap 1 = .ok (.getfield 174, 3) := dk_180 0 174 (dk_at dksX11_readOverlap_0 1 rfl rfl)
theorem dX11_readOverlap_4 : decode cX11_readOverlap 4 = .ok (.bipush 40, 2) := dk_16 40 (dk_at dksX11_readOverlap_0 4 rfl rfl)
theorem dX11_readOverlap_6 : decode cX11_readOverlap 6 = .ok (.if_icmp .eq 10, 3) := dk_159 0 10 (dk_at dksX11_readOverlap_0 6 rfl rfl)
theorem dX11_readOverlap_9 : decode cX11_readOverlap 9 = .ok (.aload_n 0, 1) := dk_42 (dk_at dksX11_readOverlap_0 9 rfl rfl)
theorem dX11_readOverlap_10 : decode cX11_readOverlap 10 = .ok (.invokevirtual 183, 3) := dk_182 0 183 (dk_at dksX11_readOverlap_0 10 rfl rfl)
theorem dX11_readOverlap_13 : decode cX11_readOverlap 13 = .ok (.ifCond .ne 5, 3) := dk_154 0 5 (dk_at dksX11_readOverlap_0 13 rfl rfl)
theorem dX11_readOverlap_16 : decode cX11_readOverlap 16 = .ok (.iconst 0, 1) := dk_3 (dk_at dksX11_readOverlap_0 16 rfl rfl)
theorem dX11_readOverlap_17 : decode cX11_readOverlap 17 = .ok (.ireturn, 1) := dk_172 (dk_at dksX11_readOverlap_0 17 rfl rfl)
theorem dX11_readOverlap_18 : decode cX11_readOverlap 18 = .ok (.aload_n 0, 1) := dk_42 (dk_at dksX11_readOverlap_0 18 rfl rfl)
theorem dX11_readOverlap_19 : decode cX11_readOverlap 19 = .ok (.dup, 1) := dk_89 (dk_at dksX11_readOverlap_0 19 rfl rfl)
theorem dX11_readOverlap_20 : decode cX11_readOverlap 20 = .ok (.getfield 174, 3) := dk_180 0 174 (dk_at dksX11_readOverlap_0 20 rfl rfl)
theorem dX11_readOverlap_23 : decode cX11_readOverlap 23 = .ok (.iconst 1, 1) := dk_4 (dk_at dksX11_readOverlap_0 23 rfl rfl)
theorem dX11_readOverlap_24 : decode cX11_readOverlap 24 = .ok (.iadd, 1) := dk_96 (dk_at dksX11_readOverlap_1 0 rfl rfl)
theorem dX11_readOverlap_25 : decode cX11_readOverlap 25 = .ok (.putfield 174, 3) := dk_181 0 174 (dk_at dksX11_readOverlap_1 1 rfl rfl)
theorem dX11_readOverlap_28 : decode cX11_readOverlap 28 = .ok (.aload_n 0, 1) := dk_42 (dk_at dksX11_readOverlap_1 4 rfl rfl)
theorem dX11_readOverlap_29 : decode cX11_readOverlap 29 = .ok (.invokevirtual 187, 3) := dk_182 0 187 (dk_at dksX11_readOverlap_1 5 rfl rfl)
theorem dX11_readOverlap_32 : decode cX11_readOverlap 32 = .ok (.ifCond .eq 28, 3) := dk_153 0 28 (dk_at dksX11_readOverlap_1 8 rfl rfl)
theorem dX11_readOverlap_35 : decode cX11_readOverlap 35 = .ok (.aload_n 0, 1) := dk_42 (dk_at dksX11_readOverlap_1 11 rfl rfl)
theorem dX11_readOverlap_36 : decode cX11_readOverlap 36 = .ok (.bipush 44, 2) := dk_16 44 (dk_at dksX11_readOverlap_1 12 rfl rfl)
theorem dX11_readOverlap_38 : decode cX11_readOverlap 38 = .ok (.invokevirtual 190, 3) := dk_182 0 190 (dk_at dksX11_readOverlap_1 14 rfl rfl)
theorem dX11_readOverlap_41 : decode cX11_readOverlap 41 = .ok (.ifCond .eq 19, 3) := dk_153 0 19 (dk_at dksX11_readOverlap_1 17 rfl rfl)
theorem dX11_readOverlap_44 : decode cX11_readOverlap 44 = .ok (.aload_n 0, 1) := dk_42 (dk_at dksX11_readOverlap_1 20 rfl rfl)
theorem dX11_readOverlap_45 : decode cX11_readOverlap 45 = .ok (.invokevirtual 187, 3) := dk_182 0 187 (dk_at dksX11_readOverlap_1 21 rfl rfl)
theorem dX11_readOverlap_48 : decode cX11_readOverlap 48 = .ok (.ifCond .eq 12, 3) := dk_153 0 12 (dk_at dksX11_readOverlap_2 0 rfl rfl)
theorem dX11_readOverlap_51 : decode cX11_readOverlap 51 = .ok (.aload_n 0, 1) := dk_42 (dk_at dksX11_readOverlap_2 3 rfl rfl)
theorem dX11_readOverlap_52 : decode cX11_readOverlap 52 = .ok (.bipush 93, 2) := dk_16 93 (dk_at dksX11_readOverlap_2 4 rfl rfl)
theorem dX11_readOverlap_54 : decode cX11_readOverlap 54 = .ok (.invokevirtual 190, 3) := dk_182 0 190 (dk_at dksX11_readOverlap_2 6 rfl rfl)
theorem dX11_readOverlap_57 : decode cX11_readOverlap 57 = .ok (.ifCond .ne 5, 3) := dk_154 0 5 (dk_at dksX11_readOverlap_2 9 rfl rfl)
theorem dX11_readOverlap_60 : decode cX11_readOverlap 60 = .ok (.iconst 0, 1) := dk_3 (dk_at dksX11_readOverlap_2 12 rfl rfl)
theorem dX11_readOverlap_61 : decode cX11_readOverlap 61 = .ok (.ireturn, 1) := dk_172 (dk_at dksX11_readOverlap_2 13 rfl rfl)
theorem dX11_readOverlap_62 : decode cX11_readOverlap 62 = .ok (.aload_n 0, 1) := dk_42 (dk_at dksX11_readOverlap_2 14 rfl rfl)
theorem dX11_readOverlap_63 : decode cX11_readOverlap 63 = .ok (.dup, 1) := dk_89 (dk_at dksX11_readOverlap_2 15 rfl rfl)
theorem dX11_readOverlap_64 : decode cX11_readOverlap 64 = .ok (.getfield 180, 3) := dk_180 0 180 (dk_at dksX11_readOverlap_2 16 rfl rfl)
theorem dX11_readOverlap_67 : decode cX11_readOverlap 67 = .ok (.iconst 1, 1) := dk_4 (dk_at dksX11_readOverlap_2 19 rfl rfl)
theorem dX11_readOverlap_68 : decode cX11_readOverlap 68 = .ok (.isub, 1) := dk_100 (dk_at dksX11_readOverlap_2 20 rfl rfl)
theorem dX11_readOverlap_69 : decode cX11_readOverlap 69 = .ok (.putfield 180, 3) := dk_181 0 180 (dk_at dksX11_readOverlap_2 21 rfl rfl)
theorem dX11_readOverlap_72 : decode cX11_readOverlap 72 = .ok (.aload_n 0, 1) := dk_42 (dk_at dksX11_readOverlap_3 0 rfl rfl)
theorem dX11_readOverlap_73 : decode cX11_readOverlap 73 = .ok (.bipush 8, 2) := dk_16 8 (dk_at dksX11_readOverlap_3 1 rfl rfl)
theorem dX11_readOverlap_75 : decode cX11_readOverlap 75 = .ok (.invokevirtual 194, 3) := dk_182 0 194 (dk_at dksX11_readOverlap_3 3 rfl rfl)
theorem dX11_readOverlap_78 : decode cX11_readOverlap 78 = .ok (.istore_n 1, 1) := dk_60 (dk_at dksX11_readOverlap_3 6 rfl rfl)
theorem dX11_readOverlap_79 : decode cX11_readOverlap 79 = .ok (.iload_n 1, 1) := dk_27 (dk_at dksX11_readOverlap_3 7 rfl rfl)
theorem dX11_readOverlap_80 : decode cX11_readOverlap 80 = .ok (.ifCond .lt 16, 3) := dk_155 0 16 (dk_at dksX11_readOverlap_3 8 rfl rfl)
theorem dX11_readOverlap_83 : decode cX11_readOverlap 83 = .ok (.aload_n 0, 1) := dk_42 (dk_at dksX11_readOverlap_3 11 rfl rfl)
theorem dX11_readOverlap_84 : decode cX11_readOverlap 84 = .ok (.iconst 4, 1) := dk_7 (dk_at dksX11_readOverlap_3 12 rfl rfl)
theorem dX11_readOverlap_85 : decode cX11_readOverlap 85 = .ok (.iload_n 1, 1) := dk_27 (dk_at dksX11_readOverlap_3 13 rfl rfl)
theorem dX11_readOverlap_86 : decode cX11_readOverlap 86 = .ok (.invokevirtual 197, 3) := dk_182 0 197 (dk_at dksX11_readOverlap_3 14 rfl rfl)
theorem dX11_readOverlap_89 : decode cX11_readOverlap 89 = .ok (.ifCond .eq 7, 3) := dk_153 0 7 (dk_at dksX11_readOverlap_3 17 rfl rfl)
theorem dX11_readOverlap_92 : decode cX11_readOverlap 92 = .ok (.iconst 1, 1) := dk_4 (dk_at dksX11_readOverlap_3 20 rfl rfl)
theorem dX11_readOverlap_93 : decode cX11_readOverlap 93 = .ok (.goto 4, 3) := dk_167 0 4 (dk_at dksX11_readOverlap_3 21 rfl rfl)
theorem dX11_readOverlap_96 : decode cX11_readOverlap 96 = .ok (.iconst 0, 1) := dk_3 (dk_at dksX11_readOverlap_4 0 rfl rfl)
theorem dX11_readOverlap_97 : decode cX11_readOverlap 97 = .ok (.ireturn, 1) := dk_172 (dk_at dksX11_readOverlap_4 1 rfl rfl)
abbrev cX11_number : ByteArray := prog_18_method_45_code
def yX11_number : MethodName := ⟨RX11, "number", "(I)I"⟩
def dkwX11_number_4 : List UInt8 := [2, 167, 0, 4, 28, 172]
abbrev dktX11_number_4 : List UInt8 := dkwX11_number_4 ++ []
def dkwX11_number_3 : List UInt8 := [180, 0, 168, 159, 0, 21, 42, 180, 0, 158, 42, 180, 0, 168, 100, 6, 163, 0, 8, 28, 27, 164, 0, 7]
abbrev dktX11_number_3 : List UInt8 := dkwX11_number_3 ++ dktX11_number_4
def dkwX11_number_2 : List UInt8 := [100, 167, 0, 4, 28, 61, 42, 89, 180, 0, 158, 4, 96, 181, 0, 158, 167, 255, 200, 42, 180, 0, 158, 42]
abbrev dktX11_number_2 : List UInt8 := dkwX11_number_2 ++ dktX11_number_3
def dkwX11_number_1 : List UInt8 := [180, 0, 168, 100, 6, 162, 0, 23, 16, 10, 28, 104, 42, 180, 0, 26, 42, 180, 0, 158, 51, 96, 16, 48]
abbrev dktX11_number_1 : List UInt8 := dkwX11_number_1 ++ dktX11_number_2
def dkwX11_number_0 : List UInt8 := [42, 182, 0, 171, 3, 61, 42, 16, 48, 16, 57, 182, 0, 164, 153, 0, 51, 42, 180, 0, 158, 42]
abbrev dktX11_number_0 : List UInt8 := dkwX11_number_0 ++ dktX11_number_1
theorem dksX11_number_0 : cX11_number.data.toList.drop 0 = dktX11_number_0 := by decide +kernel
theorem dksX11_number_1 : cX11_number.data.toList.drop 22 = dktX11_number_1 := dk_seg dksX11_number_0 22 rfl rfl
theorem dksX11_number_2 : cX11_number.data.toList.drop 46 = dktX11_number_2 := dk_seg dksX11_number_1 24 rfl rfl
theorem dksX11_number_3 : cX11_number.data.toList.drop 70 = dktX11_number_3 := dk_seg dksX11_number_2 24 rfl rfl
theorem dksX11_number_4 : cX11_number.data.toList.drop 94 = dktX11_number_4 := dk_seg dksX11_number_3 24 rfl rfl
theorem dX11_number_0 : decode cX11_number 0 = .ok (.aload_n 0, 1) := dk_42 (dk_at dksX11_number_0 0 rfl rfl)
theorem dX11_number_1 : decode cX11_number 1 = .ok (.invokevirtual 171, 3) := dk_182 0 171 (dk_at dksX11_number_0 1 rfl rfl)
theorem dX11_number_4 : decode cX11_number 4 = .ok (.iconst 0, 1) := dk_3 (dk_at dksX11_number_0 4 rfl rfl)
theorem dX11_number_5 : decode cX11_number 5 = .ok (.istore_n 2, 1) := dk_61 (dk_at dksX11_number_0 5 rfl rfl)
theorem dX11_number_6 : decode cX11_number 6 = .ok (.aload_n 0, 1) := dk_42 (dk_at dksX11_number_0 6 rfl rfl)
theorem dX11_number_7 : decode cX11_number 7 = .ok (.bipush 48, 2) := dk_16 48 (dk_at dksX11_number_0 7 rfl rfl)
theorem dX11_number_9 : decode cX11_number 9 = .ok (.bipush 57, 2) := dk_16 57 (dk_at dksX11_number_0 9 rfl rfl)
theorem dX11_number_11 : decode cX11_number 11 = .ok (.invokevirtual 164, 3) := dk_182 0 164 (dk_at dksX11_number_0 11 rfl rfl)
theorem dX11_number_14 : decode cX11_number 14 = .ok (.ifCond .eq 51, 3) := dk_153 0 51 (dk_at dksX11_number_0 14 rfl rfl)
theorem dX11_number_17 : decode cX11_number 17 = .ok (.aload_n 0, 1) := dk_42 (dk_at dksX11_number_0 17 rfl rfl)
theorem dX11_number_18 : decode cX11_number 18 = .ok (.getfield 158, 3) := dk_180 0 158 (dk_at dksX11_number_0 18 rfl rfl)
theorem dX11_number_21 : decode cX11_number 21 = .ok (.aload_n 0, 1) := dk_42 (dk_at dksX11_number_0 21 rfl rfl)
theorem dX11_number_22 : decode cX11_number 22 = .ok (.getfield 168, 3) := dk_180 0 168 (dk_at dksX11_number_1 0 rfl rfl)
theorem dX11_number_25 : decode cX11_number 25 = .ok (.isub, 1) := dk_100 (dk_at dksX11_number_1 3 rfl rfl)
theorem dX11_number_26 : decode cX11_number 26 = .ok (.iconst 3, 1) := dk_6 (dk_at dksX11_number_1 4 rfl rfl)
theorem dX11_number_27 : decode cX11_number 27 = .ok (.if_icmp .ge 23, 3) := dk_162 0 23 (dk_at dksX11_number_1 5 rfl rfl)
theorem dX11_number_30 : decode cX11_number 30 = .ok (.bipush 10, 2) := dk_16 10 (dk_at dksX11_number_1 8 rfl rfl)
theorem dX11_number_32 : decode cX11_number 32 = .ok (.iload_n 2, 1) := dk_28 (dk_at dksX11_number_1 10 rfl rfl)
theorem dX11_number_33 : decode cX11_number 33 = .ok (.imul, 1) := dk_104 (dk_at dksX11_number_1 11 rfl rfl)
theorem dX11_number_34 : decode cX11_number 34 = .ok (.aload_n 0, 1) := dk_42 (dk_at dksX11_number_1 12 rfl rfl)
theorem dX11_number_35 : decode cX11_number 35 = .ok (.getfield 26, 3) := dk_180 0 26 (dk_at dksX11_number_1 13 rfl rfl)
theorem dX11_number_38 : decode cX11_number 38 = .ok (.aload_n 0, 1) := dk_42 (dk_at dksX11_number_1 16 rfl rfl)
theorem dX11_number_39 : decode cX11_number 39 = .ok (.getfield 158, 3) := dk_180 0 158 (dk_at dksX11_number_1 17 rfl rfl)
theorem dX11_number_42 : decode cX11_number 42 = .ok (.baload, 1) := dk_51 (dk_at dksX11_number_1 20 rfl rfl)
theorem dX11_number_43 : decode cX11_number 43 = .ok (.iadd, 1) := dk_96 (dk_at dksX11_number_1 21 rfl rfl)
theorem dX11_number_44 : decode cX11_number 44 = .ok (.bipush 48, 2) := dk_16 48 (dk_at dksX11_number_1 22 rfl rfl)
theorem dX11_number_46 : decode cX11_number 46 = .ok (.isub, 1) := dk_100 (dk_at dksX11_number_2 0 rfl rfl)
theorem dX11_number_47 : decode cX11_number 47 = .ok (.goto 4, 3) := dk_167 0 4 (dk_at dksX11_number_2 1 rfl rfl)
theorem dX11_number_50 : decode cX11_number 50 = .ok (.iload_n 2, 1) := dk_28 (dk_at dksX11_number_2 4 rfl rfl)
theorem dX11_number_51 : decode cX11_number 51 = .ok (.istore_n 2, 1) := dk_61 (dk_at dksX11_number_2 5 rfl rfl)
theorem dX11_number_52 : decode cX11_number 52 = .ok (.aload_n 0, 1) := dk_42 (dk_at dksX11_number_2 6 rfl rfl)
theorem dX11_number_53 : decode cX11_number 53 = .ok (.dup, 1) := dk_89 (dk_at dksX11_number_2 7 rfl rfl)
theorem dX11_number_54 : decode cX11_number 54 = .ok (.getfield 158, 3) := dk_180 0 158 (dk_at dksX11_number_2 8 rfl rfl)
theorem dX11_number_57 : decode cX11_number 57 = .ok (.iconst 1, 1) := dk_4 (dk_at dksX11_number_2 11 rfl rfl)
theorem dX11_number_58 : decode cX11_number 58 = .ok (.iadd, 1) := dk_96 (dk_at dksX11_number_2 12 rfl rfl)
theorem dX11_number_59 : decode cX11_number 59 = .ok (.putfield 158, 3) := dk_181 0 158 (dk_at dksX11_number_2 13 rfl rfl)
theorem dX11_number_62 : decode cX11_number 62 = .ok (.goto (-56), 3) := dk_167 255 200 (dk_at dksX11_number_2 16 rfl rfl)
theorem dX11_number_65 : decode cX11_number 65 = .ok (.aload_n 0, 1) := dk_42 (dk_at dksX11_number_2 19 rfl rfl)
theorem dX11_number_66 : decode cX11_number 66 = .ok (.getfield 158, 3) := dk_180 0 158 (dk_at dksX11_number_2 20 rfl rfl)
theorem dX11_number_69 : decode cX11_number 69 = .ok (.aload_n 0, 1) := dk_42 (dk_at dksX11_number_2 23 rfl rfl)
theorem dX11_number_70 : decode cX11_number 70 = .ok (.getfield 168, 3) := dk_180 0 168 (dk_at dksX11_number_3 0 rfl rfl)
theorem dX11_number_73 : decode cX11_number 73 = .ok (.if_icmp .eq 21, 3) := dk_159 0 21 (dk_at dksX11_number_3 3 rfl rfl)
theorem dX11_number_76 : decode cX11_number 76 = .ok (.aload_n 0, 1) := dk_42 (dk_at dksX11_number_3 6 rfl rfl)
theorem dX11_number_77 : decode cX11_number 77 = .ok (.getfield 158, 3) := dk_180 0 158 (dk_at dksX11_number_3 7 rfl rfl)
theorem dX11_number_80 : decode cX11_number 80 = .ok (.aload_n 0, 1) := dk_42 (dk_at dksX11_number_3 10 rfl rfl)
theorem dX11_number_81 : decode cX11_number 81 = .ok (.getfield 168, 3) := dk_180 0 168 (dk_at dksX11_number_3 11 rfl rfl)
theorem dX11_number_84 : decode cX11_number 84 = .ok (.isub, 1) := dk_100 (dk_at dksX11_number_3 14 rfl rfl)
theorem dX11_number_85 : decode cX11_number 85 = .ok (.iconst 3, 1) := dk_6 (dk_at dksX11_number_3 15 rfl rfl)
theorem dX11_number_86 : decode cX11_number 86 = .ok (.if_icmp .gt 8, 3) := dk_163 0 8 (dk_at dksX11_number_3 16 rfl rfl)
theorem dX11_number_89 : decode cX11_number 89 = .ok (.iload_n 2, 1) := dk_28 (dk_at dksX11_number_3 19 rfl rfl)
theorem dX11_number_90 : decode cX11_number 90 = .ok (.iload_n 1, 1) := dk_27 (dk_at dksX11_number_3 20 rfl rfl)
theorem dX11_number_91 : decode cX11_number 91 = .ok (.if_icmp .le 7, 3) := dk_164 0 7 (dk_at dksX11_number_3 21 rfl rfl)
theorem dX11_number_94 : decode cX11_number 94 = .ok (.iconst (-1), 1) := dk_2 (dk_at dksX11_number_4 0 rfl rfl)
theorem dX11_number_95 : decode cX11_number 95 = .ok (.goto 4, 3) := dk_167 0 4 (dk_at dksX11_number_4 1 rfl rfl)
theorem dX11_number_98 : decode cX11_number 98 = .ok (.iload_n 2, 1) := dk_28 (dk_at dksX11_number_4 4 rfl rfl)
theorem dX11_number_99 : decode cX11_number 99 = .ok (.ireturn, 1) := dk_172 (dk_at dksX11_number_4 5 rfl rfl)
abbrev cX11_counts : ByteArray := prog_18_method_44_code
def yX11_counts : MethodName := ⟨RX11, "counts", "(I)Z"⟩
def dkwX11_counts_1 : List UInt8 := [3, 172, 42, 89, 180, 0, 158, 4, 96, 181, 0, 158, 42, 89, 180, 0, 174, 4, 96, 181, 0, 174, 4, 172]
abbrev dktX11_counts_1 : List UInt8 := dkwX11_counts_1 ++ []
def dkwX11_counts_0 : List UInt8 := [42, 182, 0, 171, 42, 27, 27, 182, 0, 164, 154, 0, 5, 3, 172, 42, 180, 0, 174, 16, 40, 160, 0, 5]
abbrev dktX11_counts_0 : List UInt8 := dkwX11_counts_0 ++ dktX11_counts_1
theorem dksX11_counts_0 : cX11_counts.data.toList.drop 0 = dktX11_counts_0 := by decide +kernel
theorem dksX11_counts_1 : cX11_counts.data.toList.drop 24 = dktX11_counts_1 := dk_seg dksX11_counts_0 24 rfl rfl
theorem dX11_counts_0 : decode cX11_counts 0 = .ok (.aload_n 0, 1) := dk_42 (dk_at dksX11_counts_0 0 rfl rfl)
theorem dX11_counts_1 : decode cX11_counts 1 = .ok (.invokevirtual 171, 3) := dk_182 0 171 (dk_at dksX11_counts_0 1 rfl rfl)
theorem dX11_counts_4 : decode cX11_counts 4 = .ok (.aload_n 0, 1) := dk_42 (dk_at dksX11_counts_0 4 rfl rfl)
theorem dX11_counts_5 : decode cX11_counts 5 = .ok (.iload_n 1, 1) := dk_27 (dk_at dksX11_counts_0 5 rfl rfl)
theorem dX11_counts_6 : decode cX11_counts 6 = .ok (.iload_n 1, 1) := dk_27 (dk_at dksX11_counts_0 6 rfl rfl)
theorem dX11_counts_7 : decode cX11_counts 7 = .ok (.invokevirtual 164, 3) := dk_182 0 164 (dk_at dksX11_counts_0 7 rfl rfl)
theorem dX11_counts_10 : decode cX11_counts 10 = .ok (.ifCond .ne 5, 3) := dk_154 0 5 (dk_at dksX11_counts_0 10 rfl rfl)
theorem dX11_counts_13 : decode cX11_counts 13 = .ok (.iconst 0, 1) := dk_3 (dk_at dksX11_counts_0 13 rfl rfl)
theorem dX11_counts_14 : decode cX11_counts 14 = .ok (.ireturn, 1) := dk_172 (dk_at dksX11_counts_0 14 rfl rfl)
theorem dX11_counts_15 : decode cX11_counts 15 = .ok (.aload_n 0, 1) := dk_42 (dk_at dksX11_counts_0 15 rfl rfl)
theorem dX11_counts_16 : decode cX11_counts 16 = .ok (.getfield 174, 3) := dk_180 0 174 (dk_at dksX11_counts_0 16 rfl rfl)
theorem dX11_counts_19 : decode cX11_counts 19 = .ok (.bipush 40, 2) := dk_16 40 (dk_at dksX11_counts_0 19 rfl rfl)
theorem dX11_counts_21 : decode cX11_counts 21 = .ok (.if_icmp .ne 5, 3) := dk_160 0 5 (dk_at dksX11_counts_0 21 rfl rfl)
theorem dX11_counts_24 : decode cX11_counts 24 = .ok (.iconst 0, 1) := dk_3 (dk_at dksX11_counts_1 0 rfl rfl)
theorem dX11_counts_25 : decode cX11_counts 25 = .ok (.ireturn, 1) := dk_172 (dk_at dksX11_counts_1 1 rfl rfl)
theorem dX11_counts_26 : decode cX11_counts 26 = .ok (.aload_n 0, 1) := dk_42 (dk_at dksX11_counts_1 2 rfl rfl)
theorem dX11_counts_27 : decode cX11_counts 27 = .ok (.dup, 1) := dk_89 (dk_at dksX11_counts_1 3 rfl rfl)
theorem dX11_counts_28 : decode cX11_counts 28 = .ok (.getfield 158, 3) := dk_180 0 158 (dk_at dksX11_counts_1 4 rfl rfl)
theorem dX11_counts_31 : decode cX11_counts 31 = .ok (.iconst 1, 1) := dk_4 (dk_at dksX11_counts_1 7 rfl rfl)
theorem dX11_counts_32 : decode cX11_counts 32 = .ok (.iadd, 1) := dk_96 (dk_at dksX11_counts_1 8 rfl rfl)
theorem dX11_counts_33 : decode cX11_counts 33 = .ok (.putfield 158, 3) := dk_181 0 158 (dk_at dksX11_counts_1 9 rfl rfl)
theorem dX11_counts_36 : decode cX11_counts 36 = .ok (.aload_n 0, 1) := dk_42 (dk_at dksX11_counts_1 12 rfl rfl)
theorem dX11_counts_37 : decode cX11_counts 37 = .ok (.dup, 1) := dk_89 (dk_at dksX11_counts_1 13 rfl rfl)
theorem dX11_counts_38 : decode cX11_counts 38 = .ok (.getfield 174, 3) := dk_180 0 174 (dk_at dksX11_counts_1 14 rfl rfl)
theorem dX11_counts_41 : decode cX11_counts 41 = .ok (.iconst 1, 1) := dk_4 (dk_at dksX11_counts_1 17 rfl rfl)
theorem dX11_counts_42 : decode cX11_counts 42 = .ok (.iadd, 1) := dk_96 (dk_at dksX11_counts_1 18 rfl rfl)
theorem dX11_counts_43 : decode cX11_counts 43 = .ok (.putfield 174, 3) := dk_181 0 174 (dk_at dksX11_counts_1 19 rfl rfl)
theorem dX11_counts_46 : decode cX11_counts 46 = .ok (.iconst 1, 1) := dk_4 (dk_at dksX11_counts_1 22 rfl rfl)
theorem dX11_counts_47 : decode cX11_counts 47 = .ok (.ireturn, 1) := dk_172 (dk_at dksX11_counts_1 23 rfl rfl)
abbrev cX11_throwsIf : ByteArray := prog_18_method_2_code
def yX11_throwsIf : MethodName := ⟨RX11, "throwsIf", "(ZI)Z"⟩
def dkwX11_throwsIf_0 : List UInt8 := [27, 153, 0, 8, 42, 28, 181, 0, 3, 27, 172]
abbrev dktX11_throwsIf_0 : List UInt8 := dkwX11_throwsIf_0 ++ []
theorem dksX11_throwsIf_0 : cX11_throwsIf.data.toList.drop 0 = dktX11_throwsIf_0 := by decide +kernel
theorem dX11_throwsIf_0 : decode cX11_throwsIf 0 = .ok (.iload_n 1, 1) := dk_27 (dk_at dksX11_throwsIf_0 0 rfl rfl)
theorem dX11_throwsIf_1 : decode cX11_throwsIf 1 = .ok (.ifCond .eq 8, 3) := dk_153 0 8 (dk_at dksX11_throwsIf_0 1 rfl rfl)
theorem dX11_throwsIf_4 : decode cX11_throwsIf 4 = .ok (.aload_n 0, 1) := dk_42 (dk_at dksX11_throwsIf_0 4 rfl rfl)
theorem dX11_throwsIf_5 : decode cX11_throwsIf 5 = .ok (.iload_n 2, 1) := dk_28 (dk_at dksX11_throwsIf_0 5 rfl rfl)
theorem dX11_throwsIf_6 : decode cX11_throwsIf 6 = .ok (.putfield 3, 3) := dk_181 0 3 (dk_at dksX11_throwsIf_0 6 rfl rfl)
theorem dX11_throwsIf_9 : decode cX11_throwsIf 9 = .ok (.iload_n 1, 1) := dk_27 (dk_at dksX11_throwsIf_0 9 rfl rfl)
theorem dX11_throwsIf_10 : decode cX11_throwsIf 10 = .ok (.ireturn, 1) := dk_172 (dk_at dksX11_throwsIf_0 10 rfl rfl)
abbrev cX11_field : ByteArray := prog_18_method_55_code
def yX11_field : MethodName := ⟨RX11, "field", "(I)V"⟩
def dkwX11_field_3 : List UInt8 := [42, 180, 0, 13, 3, 27, 79, 177]
abbrev dktX11_field_3 : List UInt8 := dkwX11_field_3 ++ []
def dkwX11_field_2 : List UInt8 := [46, 42, 180, 0, 13, 5, 46, 96, 158, 0, 7, 4, 167, 0, 4, 3, 5, 182, 0, 215, 153, 0, 4, 177]
abbrev dktX11_field_2 : List UInt8 := dkwX11_field_2 ++ dktX11_field_3
def dkwX11_field_1 : List UInt8 := [27, 16, 19, 159, 0, 7, 4, 167, 0, 4, 3, 4, 182, 0, 215, 154, 0, 32, 42, 42, 180, 0, 13, 4]
abbrev dktX11_field_1 : List UInt8 := dkwX11_field_1 ++ dktX11_field_2
def dkwX11_field_0 : List UInt8 := [42, 3, 181, 0, 3, 42, 27, 16, 11, 159, 0, 25, 27, 16, 13, 159, 0, 19, 27, 16, 17, 159, 0, 13]
abbrev dktX11_field_0 : List UInt8 := dkwX11_field_0 ++ dktX11_field_1
theorem dksX11_field_0 : cX11_field.data.toList.drop 0 = dktX11_field_0 := by decide +kernel
theorem dksX11_field_1 : cX11_field.data.toList.drop 24 = dktX11_field_1 := dk_seg dksX11_field_0 24 rfl rfl
theorem dksX11_field_2 : cX11_field.data.toList.drop 48 = dktX11_field_2 := dk_seg dksX11_field_1 24 rfl rfl
theorem dksX11_field_3 : cX11_field.data.toList.drop 72 = dktX11_field_3 := dk_seg dksX11_field_2 24 rfl rfl
theorem dX11_field_0 : decode cX11_field 0 = .ok (.aload_n 0, 1) := dk_42 (dk_at dksX11_field_0 0 rfl rfl)
theorem dX11_field_1 : decode cX11_field 1 = .ok (.iconst 0, 1) := dk_3 (dk_at dksX11_field_0 1 rfl rfl)
theorem dX11_field_2 : decode cX11_field 2 = .ok (.putfield 3, 3) := dk_181 0 3 (dk_at dksX11_field_0 2 rfl rfl)
theorem dX11_field_5 : decode cX11_field 5 = .ok (.aload_n 0, 1) := dk_42 (dk_at dksX11_field_0 5 rfl rfl)
theorem dX11_field_6 : decode cX11_field 6 = .ok (.iload_n 1, 1) := dk_27 (dk_at dksX11_field_0 6 rfl rfl)
theorem dX11_field_7 : decode cX11_field 7 = .ok (.bipush 11, 2) := dk_16 11 (dk_at dksX11_field_0 7 rfl rfl)
theorem dX11_field_9 : decode cX11_field 9 = .ok (.if_icmp .eq 25, 3) := dk_159 0 25 (dk_at dksX11_field_0 9 rfl rfl)
theorem dX11_field_12 : decode cX11_field 12 = .ok (.iload_n 1, 1) := dk_27 (dk_at dksX11_field_0 12 rfl rfl)
theorem dX11_field_13 : decode cX11_field 13 = .ok (.bipush 13, 2) := dk_16 13 (dk_at dksX11_field_0 13 rfl rfl)
theorem dX11_field_15 : decode cX11_field 15 = .ok (.if_icmp .eq 19, 3) := dk_159 0 19 (dk_at dksX11_field_0 15 rfl rfl)
theorem dX11_field_18 : decode cX11_field 18 = .ok (.iload_n 1, 1) := dk_27 (dk_at dksX11_field_0 18 rfl rfl)
theorem dX11_field_19 : decode cX11_field 19 = .ok (.bipush 17, 2) := dk_16 17 (dk_at dksX11_field_0 19 rfl rfl)
theorem dX11_field_21 : decode cX11_field 21 = .ok (.if_icmp .eq 13, 3) := dk_159 0 13 (dk_at dksX11_field_0 21 rfl rfl)
theorem dX11_field_24 : decode cX11_field 24 = .ok (.iload_n 1, 1) := dk_27 (dk_at dksX11_field_1 0 rfl rfl)
theorem dX11_field_25 : decode cX11_field 25 = .ok (.bipush 19, 2) := dk_16 19 (dk_at dksX11_field_1 1 rfl rfl)
theorem dX11_field_27 : decode cX11_field 27 = .ok (.if_icmp .eq 7, 3) := dk_159 0 7 (dk_at dksX11_field_1 3 rfl rfl)
theorem dX11_field_30 : decode cX11_field 30 = .ok (.iconst 1, 1) := dk_4 (dk_at dksX11_field_1 6 rfl rfl)
theorem dX11_field_31 : decode cX11_field 31 = .ok (.goto 4, 3) := dk_167 0 4 (dk_at dksX11_field_1 7 rfl rfl)
theorem dX11_field_34 : decode cX11_field 34 = .ok (.iconst 0, 1) := dk_3 (dk_at dksX11_field_1 10 rfl rfl)
theorem dX11_field_35 : decode cX11_field 35 = .ok (.iconst 1, 1) := dk_4 (dk_at dksX11_field_1 11 rfl rfl)
theorem dX11_field_36 : decode cX11_field 36 = .ok (.invokevirtual 215, 3) := dk_182 0 215 (dk_at dksX11_field_1 12 rfl rfl)
theorem dX11_field_39 : decode cX11_field 39 = .ok (.ifCond .ne 32, 3) := dk_154 0 32 (dk_at dksX11_field_1 15 rfl rfl)
theorem dX11_field_42 : decode cX11_field 42 = .ok (.aload_n 0, 1) := dk_42 (dk_at dksX11_field_1 18 rfl rfl)
theorem dX11_field_43 : decode cX11_field 43 = .ok (.aload_n 0, 1) := dk_42 (dk_at dksX11_field_1 19 rfl rfl)
theorem dX11_field_44 : decode cX11_field 44 = .ok (.getfield 13, 3) := dk_180 0 13 (dk_at dksX11_field_1 20 rfl rfl)
theorem dX11_field_47 : decode cX11_field 47 = .ok (.iconst 1, 1) := dk_4 (dk_at dksX11_field_1 23 rfl rfl)
theorem dX11_field_48 : decode cX11_field 48 = .ok (.iaload, 1) := dk_46 (dk_at dksX11_field_2 0 rfl rfl)
theorem dX11_field_49 : decode cX11_field 49 = .ok (.aload_n 0, 1) := dk_42 (dk_at dksX11_field_2 1 rfl rfl)
theorem dX11_field_50 : decode cX11_field 50 = .ok (.getfield 13, 3) := dk_180 0 13 (dk_at dksX11_field_2 2 rfl rfl)
theorem dX11_field_53 : decode cX11_field 53 = .ok (.iconst 2, 1) := dk_5 (dk_at dksX11_field_2 5 rfl rfl)
theorem dX11_field_54 : decode cX11_field 54 = .ok (.iaload, 1) := dk_46 (dk_at dksX11_field_2 6 rfl rfl)
theorem dX11_field_55 : decode cX11_field 55 = .ok (.iadd, 1) := dk_96 (dk_at dksX11_field_2 7 rfl rfl)
theorem dX11_field_56 : decode cX11_field 56 = .ok (.ifCond .le 7, 3) := dk_158 0 7 (dk_at dksX11_field_2 8 rfl rfl)
theorem dX11_field_59 : decode cX11_field 59 = .ok (.iconst 1, 1) := dk_4 (dk_at dksX11_field_2 11 rfl rfl)
theorem dX11_field_60 : decode cX11_field 60 = .ok (.goto 4, 3) := dk_167 0 4 (dk_at dksX11_field_2 12 rfl rfl)
theorem dX11_field_63 : decode cX11_field 63 = .ok (.iconst 0, 1) := dk_3 (dk_at dksX11_field_2 15 rfl rfl)
theorem dX11_field_64 : decode cX11_field 64 = .ok (.iconst 2, 1) := dk_5 (dk_at dksX11_field_2 16 rfl rfl)
theorem dX11_field_65 : decode cX11_field 65 = .ok (.invokevirtual 215, 3) := dk_182 0 215 (dk_at dksX11_field_2 17 rfl rfl)
theorem dX11_field_68 : decode cX11_field 68 = .ok (.ifCond .eq 4, 3) := dk_153 0 4 (dk_at dksX11_field_2 20 rfl rfl)
theorem dX11_field_71 : decode cX11_field 71 = .ok (.return_, 1) := dk_177 (dk_at dksX11_field_2 23 rfl rfl)
theorem dX11_field_72 : decode cX11_field 72 = .ok (.aload_n 0, 1) := dk_42 (dk_at dksX11_field_3 0 rfl rfl)
theorem dX11_field_73 : decode cX11_field 73 = .ok (.getfield 13, 3) := dk_180 0 13 (dk_at dksX11_field_3 1 rfl rfl)
theorem dX11_field_76 : decode cX11_field 76 = .ok (.iconst 0, 1) := dk_3 (dk_at dksX11_field_3 4 rfl rfl)
theorem dX11_field_77 : decode cX11_field 77 = .ok (.iload_n 1, 1) := dk_27 (dk_at dksX11_field_3 5 rfl rfl)
theorem dX11_field_78 : decode cX11_field 78 = .ok (.iastore, 1) := dk_79 (dk_at dksX11_field_3 6 rfl rfl)
theorem dX11_field_79 : decode cX11_field 79 = .ok (.return_, 1) := dk_177 (dk_at dksX11_field_3 7 rfl rfl)
abbrev cX11_form : ByteArray := prog_18_method_56_code
def yX11_form : MethodName := ⟨RX11, "form", "()I"⟩
def dkwX11_form_5 : List UInt8 := [167, 255, 217, 42, 180, 0, 13, 4, 92, 46, 4, 96, 79, 42, 180, 0, 13, 8, 3, 79, 27, 172]
abbrev dktX11_form_5 : List UInt8 := dkwX11_form_5 ++ []
def dkwX11_form_4 : List UInt8 := [4, 96, 28, 96, 42, 42, 180, 0, 26, 28, 51, 17, 0, 255, 126, 133, 182, 0, 113, 79, 132, 2, 1]
abbrev dktX11_form_4 : List UInt8 := dkwX11_form_4 ++ dktX11_form_5
def dkwX11_form_3 : List UInt8 := [180, 0, 161, 4, 100, 79, 3, 61, 28, 42, 180, 0, 161, 162, 0, 37, 42, 180, 0, 13, 27, 184, 0, 72]
abbrev dktX11_form_3 : List UInt8 := dkwX11_form_3 ++ dktX11_form_4
def dkwX11_form_2 : List UInt8 := [182, 0, 215, 153, 0, 5, 3, 172, 42, 180, 0, 13, 4, 46, 60, 42, 180, 0, 13, 27, 184, 0, 72, 42]
abbrev dktX11_form_2 : List UInt8 := dkwX11_form_2 ++ dktX11_form_3
def dkwX11_form_1 : List UInt8 := [182, 0, 215, 154, 0, 27, 42, 42, 180, 0, 13, 4, 46, 16, 16, 160, 0, 7, 4, 167, 0, 4, 3, 5]
abbrev dktX11_form_1 : List UInt8 := dkwX11_form_1 ++ dktX11_form_2
def dkwX11_form_0 : List UInt8 := [42, 182, 0, 212, 42, 42, 180, 0, 161, 4, 16, 9, 184, 0, 68, 154, 0, 7, 4, 167, 0, 4, 3, 4]
abbrev dktX11_form_0 : List UInt8 := dkwX11_form_0 ++ dktX11_form_1
theorem dksX11_form_0 : cX11_form.data.toList.drop 0 = dktX11_form_0 := by decide +kernel
theorem dksX11_form_1 : cX11_form.data.toList.drop 24 = dktX11_form_1 := dk_seg dksX11_form_0 24 rfl rfl
theorem dksX11_form_2 : cX11_form.data.toList.drop 48 = dktX11_form_2 := dk_seg dksX11_form_1 24 rfl rfl
theorem dksX11_form_3 : cX11_form.data.toList.drop 72 = dktX11_form_3 := dk_seg dksX11_form_2 24 rfl rfl
theorem dksX11_form_4 : cX11_form.data.toList.drop 96 = dktX11_form_4 := dk_seg dksX11_form_3 24 rfl rfl
theorem dksX11_form_5 : cX11_form.data.toList.drop 119 = dktX11_form_5 := dk_seg dksX11_form_4 23 rfl rfl
theorem dX11_form_0 : decode cX11_form 0 = .ok (.aload_n 0, 1) := dk_42 (dk_at dksX11_form_0 0 rfl rfl)
theorem dX11_form_1 : decode cX11_form 1 = .ok (.invokevirtual 212, 3) := dk_182 0 212 (dk_at dksX11_form_0 1 rfl rfl)
theorem dX11_form_4 : decode cX11_form 4 = .ok (.aload_n 0, 1) := dk_42 (dk_at dksX11_form_0 4 rfl rfl)
theorem dX11_form_5 : decode cX11_form 5 = .ok (.aload_n 0, 1) := dk_42 (dk_at dksX11_form_0 5 rfl rfl)
theorem dX11_form_6 : decode cX11_form 6 = .ok (.getfield 161, 3) := dk_180 0 161 (dk_at dksX11_form_0 6 rfl rfl)
theorem dX11_form_9 : decode cX11_form 9 = .ok (.iconst 1, 1) := dk_4 (dk_at dksX11_form_0 9 rfl rfl)
theorem dX11_form_10 : decode cX11_form 10 = .ok (.bipush 9, 2) := dk_16 9 (dk_at dksX11_form_0 10 rfl rfl)
theorem dX11_form_12 : decode cX11_form 12 = .ok (.invokestatic 68, 3) := dk_184 0 68 (dk_at dksX11_form_0 12 rfl rfl)
theorem dX11_form_15 : decode cX11_form 15 = .ok (.ifCond .ne 7, 3) := dk_154 0 7 (dk_at dksX11_form_0 15 rfl rfl)
theorem dX11_form_18 : decode cX11_form 18 = .ok (.iconst 1, 1) := dk_4 (dk_at dksX11_form_0 18 rfl rfl)
theorem dX11_form_19 : decode cX11_form 19 = .ok (.goto 4, 3) := dk_167 0 4 (dk_at dksX11_form_0 19 rfl rfl)
theorem dX11_form_22 : decode cX11_form 22 = .ok (.iconst 0, 1) := dk_3 (dk_at dksX11_form_0 22 rfl rfl)
theorem dX11_form_23 : decode cX11_form 23 = .ok (.iconst 1, 1) := dk_4 (dk_at dksX11_form_0 23 rfl rfl)
theorem dX11_form_24 : decode cX11_form 24 = .ok (.invokevirtual 215, 3) := dk_182 0 215 (dk_at dksX11_form_1 0 rfl rfl)
theorem dX11_form_27 : decode cX11_form 27 = .ok (.ifCond .ne 27, 3) := dk_154 0 27 (dk_at dksX11_form_1 3 rfl rfl)
theorem dX11_form_30 : decode cX11_form 30 = .ok (.aload_n 0, 1) := dk_42 (dk_at dksX11_form_1 6 rfl rfl)
theorem dX11_form_31 : decode cX11_form 31 = .ok (.aload_n 0, 1) := dk_42 (dk_at dksX11_form_1 7 rfl rfl)
theorem dX11_form_32 : decode cX11_form 32 = .ok (.getfield 13, 3) := dk_180 0 13 (dk_at dksX11_form_1 8 rfl rfl)
theorem dX11_form_35 : decode cX11_form 35 = .ok (.iconst 1, 1) := dk_4 (dk_at dksX11_form_1 11 rfl rfl)
theorem dX11_form_36 : decode cX11_form 36 = .ok (.iaload, 1) := dk_46 (dk_at dksX11_form_1 12 rfl rfl)
theorem dX11_form_37 : decode cX11_form 37 = .ok (.bipush 16, 2) := dk_16 16 (dk_at dksX11_form_1 13 rfl rfl)
theorem dX11_form_39 : decode cX11_form 39 = .ok (.if_icmp .ne 7, 3) := dk_160 0 7 (dk_at dksX11_form_1 15 rfl rfl)
theorem dX11_form_42 : decode cX11_form 42 = .ok (.iconst 1, 1) := dk_4 (dk_at dksX11_form_1 18 rfl rfl)
theorem dX11_form_43 : decode cX11_form 43 = .ok (.goto 4, 3) := dk_167 0 4 (dk_at dksX11_form_1 19 rfl rfl)
theorem dX11_form_46 : decode cX11_form 46 = .ok (.iconst 0, 1) := dk_3 (dk_at dksX11_form_1 22 rfl rfl)
theorem dX11_form_47 : decode cX11_form 47 = .ok (.iconst 2, 1) := dk_5 (dk_at dksX11_form_1 23 rfl rfl)
theorem dX11_form_48 : decode cX11_form 48 = .ok (.invokevirtual 215, 3) := dk_182 0 215 (dk_at dksX11_form_2 0 rfl rfl)
theorem dX11_form_51 : decode cX11_form 51 = .ok (.ifCond .eq 5, 3) := dk_153 0 5 (dk_at dksX11_form_2 3 rfl rfl)
theorem dX11_form_54 : decode cX11_form 54 = .ok (.iconst 0, 1) := dk_3 (dk_at dksX11_form_2 6 rfl rfl)
theorem dX11_form_55 : decode cX11_form 55 = .ok (.ireturn, 1) := dk_172 (dk_at dksX11_form_2 7 rfl rfl)
theorem dX11_form_56 : decode cX11_form 56 = .ok (.aload_n 0, 1) := dk_42 (dk_at dksX11_form_2 8 rfl rfl)
theorem dX11_form_57 : decode cX11_form 57 = .ok (.getfield 13, 3) := dk_180 0 13 (dk_at dksX11_form_2 9 rfl rfl)
theorem dX11_form_60 : decode cX11_form 60 = .ok (.iconst 1, 1) := dk_4 (dk_at dksX11_form_2 12 rfl rfl)
theorem dX11_form_61 : decode cX11_form 61 = .ok (.iaload, 1) := dk_46 (dk_at dksX11_form_2 13 rfl rfl)
theorem dX11_form_62 : decode cX11_form 62 = .ok (.istore_n 1, 1) := dk_60 (dk_at dksX11_form_2 14 rfl rfl)
theorem dX11_form_63 : decode cX11_form 63 = .ok (.aload_n 0, 1) := dk_42 (dk_at dksX11_form_2 15 rfl rfl)
theorem dX11_form_64 : decode cX11_form 64 = .ok (.getfield 13, 3) := dk_180 0 13 (dk_at dksX11_form_2 16 rfl rfl)
theorem dX11_form_67 : decode cX11_form 67 = .ok (.iload_n 1, 1) := dk_27 (dk_at dksX11_form_2 19 rfl rfl)
theorem dX11_form_68 : decode cX11_form 68 = .ok (.invokestatic 72, 3) := dk_184 0 72 (dk_at dksX11_form_2 20 rfl rfl)
theorem dX11_form_71 : decode cX11_form 71 = .ok (.aload_n 0, 1) := dk_42 (dk_at dksX11_form_2 23 rfl rfl)
theorem dX11_form_72 : decode cX11_form 72 = .ok (.getfield 161, 3) := dk_180 0 161 (dk_at dksX11_form_3 0 rfl rfl)
theorem dX11_form_75 : decode cX11_form 75 = .ok (.iconst 1, 1) := dk_4 (dk_at dksX11_form_3 3 rfl rfl)
theorem dX11_form_76 : decode cX11_form 76 = .ok (.isub, 1) := dk_100 (dk_at dksX11_form_3 4 rfl rfl)
theorem dX11_form_77 : decode cX11_form 77 = .ok (.iastore, 1) := dk_79 (dk_at dksX11_form_3 5 rfl rfl)
theorem dX11_form_78 : decode cX11_form 78 = .ok (.iconst 0, 1) := dk_3 (dk_at dksX11_form_3 6 rfl rfl)
theorem dX11_form_79 : decode cX11_form 79 = .ok (.istore_n 2, 1) := dk_61 (dk_at dksX11_form_3 7 rfl rfl)
theorem dX11_form_80 : decode cX11_form 80 = .ok (.iload_n 2, 1) := dk_28 (dk_at dksX11_form_3 8 rfl rfl)
theorem dX11_form_81 : decode cX11_form 81 = .ok (.aload_n 0, 1) := dk_42 (dk_at dksX11_form_3 9 rfl rfl)
theorem dX11_form_82 : decode cX11_form 82 = .ok (.getfield 161, 3) := dk_180 0 161 (dk_at dksX11_form_3 10 rfl rfl)
theorem dX11_form_85 : decode cX11_form 85 = .ok (.if_icmp .ge 37, 3) := dk_162 0 37 (dk_at dksX11_form_3 13 rfl rfl)
theorem dX11_form_88 : decode cX11_form 88 = .ok (.aload_n 0, 1) := dk_42 (dk_at dksX11_form_3 16 rfl rfl)
theorem dX11_form_89 : decode cX11_form 89 = .ok (.getfield 13, 3) := dk_180 0 13 (dk_at dksX11_form_3 17 rfl rfl)
theorem dX11_form_92 : decode cX11_form 92 = .ok (.iload_n 1, 1) := dk_27 (dk_at dksX11_form_3 20 rfl rfl)
theorem dX11_form_93 : decode cX11_form 93 = .ok (.invokestatic 72, 3) := dk_184 0 72 (dk_at dksX11_form_3 21 rfl rfl)
theorem dX11_form_96 : decode cX11_form 96 = .ok (.iconst 1, 1) := dk_4 (dk_at dksX11_form_4 0 rfl rfl)
theorem dX11_form_97 : decode cX11_form 97 = .ok (.iadd, 1) := dk_96 (dk_at dksX11_form_4 1 rfl rfl)
theorem dX11_form_98 : decode cX11_form 98 = .ok (.iload_n 2, 1) := dk_28 (dk_at dksX11_form_4 2 rfl rfl)
theorem dX11_form_99 : decode cX11_form 99 = .ok (.iadd, 1) := dk_96 (dk_at dksX11_form_4 3 rfl rfl)
theorem dX11_form_100 : decode cX11_form 100 = .ok (.aload_n 0, 1) := dk_42 (dk_at dksX11_form_4 4 rfl rfl)
theorem dX11_form_101 : decode cX11_form 101 = .ok (.aload_n 0, 1) := dk_42 (dk_at dksX11_form_4 5 rfl rfl)
theorem dX11_form_102 : decode cX11_form 102 = .ok (.getfield 26, 3) := dk_180 0 26 (dk_at dksX11_form_4 6 rfl rfl)
theorem dX11_form_105 : decode cX11_form 105 = .ok (.iload_n 2, 1) := dk_28 (dk_at dksX11_form_4 9 rfl rfl)
theorem dX11_form_106 : decode cX11_form 106 = .ok (.baload, 1) := dk_51 (dk_at dksX11_form_4 10 rfl rfl)
theorem dX11_form_107 : decode cX11_form 107 = .ok (.sipush 255, 3) := dk_17 0 255 (dk_at dksX11_form_4 11 rfl rfl)
theorem dX11_form_110 : decode cX11_form 110 = .ok (.iand, 1) := dk_126 (dk_at dksX11_form_4 14 rfl rfl)
theorem dX11_form_111 : decode cX11_form 111 = .ok (.i2l, 1) := dk_133 (dk_at dksX11_form_4 15 rfl rfl)
theorem dX11_form_112 : decode cX11_form 112 = .ok (.invokevirtual 113, 3) := dk_182 0 113 (dk_at dksX11_form_4 16 rfl rfl)
theorem dX11_form_115 : decode cX11_form 115 = .ok (.iastore, 1) := dk_79 (dk_at dksX11_form_4 19 rfl rfl)
theorem dX11_form_116 : decode cX11_form 116 = .ok (.iinc 2 1, 3) := dk_132 2 1 (dk_at dksX11_form_4 20 rfl rfl)
theorem dX11_form_119 : decode cX11_form 119 = .ok (.goto (-39), 3) := dk_167 255 217 (dk_at dksX11_form_5 0 rfl rfl)
theorem dX11_form_122 : decode cX11_form 122 = .ok (.aload_n 0, 1) := dk_42 (dk_at dksX11_form_5 3 rfl rfl)
theorem dX11_form_123 : decode cX11_form 123 = .ok (.getfield 13, 3) := dk_180 0 13 (dk_at dksX11_form_5 4 rfl rfl)
theorem dX11_form_126 : decode cX11_form 126 = .ok (.iconst 1, 1) := dk_4 (dk_at dksX11_form_5 7 rfl rfl)
theorem dX11_form_127 : decode cX11_form 127 = .ok (.dup2, 1) := dk_92 (dk_at dksX11_form_5 8 rfl rfl)
theorem dX11_form_128 : decode cX11_form 128 = .ok (.iaload, 1) := dk_46 (dk_at dksX11_form_5 9 rfl rfl)
theorem dX11_form_129 : decode cX11_form 129 = .ok (.iconst 1, 1) := dk_4 (dk_at dksX11_form_5 10 rfl rfl)
theorem dX11_form_130 : decode cX11_form 130 = .ok (.iadd, 1) := dk_96 (dk_at dksX11_form_5 11 rfl rfl)
theorem dX11_form_131 : decode cX11_form 131 = .ok (.iastore, 1) := dk_79 (dk_at dksX11_form_5 12 rfl rfl)
theorem dX11_form_132 : decode cX11_form 132 = .ok (.aload_n 0, 1) := dk_42 (dk_at dksX11_form_5 13 rfl rfl)
theorem dX11_form_133 : decode cX11_form 133 = .ok (.getfield 13, 3) := dk_180 0 13 (dk_at dksX11_form_5 14 rfl rfl)
theorem dX11_form_136 : decode cX11_form 136 = .ok (.iconst 5, 1) := dk_8 (dk_at dksX11_form_5 17 rfl rfl)
theorem dX11_form_137 : decode cX11_form 137 = .ok (.iconst 0, 1) := dk_3 (dk_at dksX11_form_5 18 rfl rfl)
theorem dX11_form_138 : decode cX11_form 138 = .ok (.iastore, 1) := dk_79 (dk_at dksX11_form_5 19 rfl rfl)
theorem dX11_form_139 : decode cX11_form 139 = .ok (.iload_n 1, 1) := dk_27 (dk_at dksX11_form_5 20 rfl rfl)
theorem dX11_form_140 : decode cX11_form 140 = .ok (.ireturn, 1) := dk_172 (dk_at dksX11_form_5 21 rfl rfl)
abbrev cX11_in : ByteArray := prog_18_method_3_code
def yX11_in : MethodName := ⟨RX11, "in", "(III)Z"⟩
def dkwX11_in_0 : List UInt8 := [26, 27, 161, 0, 12, 26, 28, 163, 0, 7, 4, 167, 0, 4, 3, 172]
abbrev dktX11_in_0 : List UInt8 := dkwX11_in_0 ++ []
theorem dksX11_in_0 : cX11_in.data.toList.drop 0 = dktX11_in_0 := by decide +kernel
theorem dX11_in_0 : decode cX11_in 0 = .ok (.iload_n 0, 1) := dk_26 (dk_at dksX11_in_0 0 rfl rfl)
theorem dX11_in_1 : decode cX11_in 1 = .ok (.iload_n 1, 1) := dk_27 (dk_at dksX11_in_0 1 rfl rfl)
theorem dX11_in_2 : decode cX11_in 2 = .ok (.if_icmp .lt 12, 3) := dk_161 0 12 (dk_at dksX11_in_0 2 rfl rfl)
theorem dX11_in_5 : decode cX11_in 5 = .ok (.iload_n 0, 1) := dk_26 (dk_at dksX11_in_0 5 rfl rfl)
theorem dX11_in_6 : decode cX11_in 6 = .ok (.iload_n 2, 1) := dk_28 (dk_at dksX11_in_0 6 rfl rfl)
theorem dX11_in_7 : decode cX11_in 7 = .ok (.if_icmp .gt 7, 3) := dk_163 0 7 (dk_at dksX11_in_0 7 rfl rfl)
theorem dX11_in_10 : decode cX11_in 10 = .ok (.iconst 1, 1) := dk_4 (dk_at dksX11_in_0 10 rfl rfl)
theorem dX11_in_11 : decode cX11_in 11 = .ok (.goto 4, 3) := dk_167 0 4 (dk_at dksX11_in_0 11 rfl rfl)
theorem dX11_in_14 : decode cX11_in 14 = .ok (.iconst 0, 1) := dk_3 (dk_at dksX11_in_0 14 rfl rfl)
theorem dX11_in_15 : decode cX11_in 15 = .ok (.ireturn, 1) := dk_172 (dk_at dksX11_in_0 15 rfl rfl)
abbrev cX11_formAt : ByteArray := prog_18_method_11_code
def yX11_formAt : MethodName := ⟨RX11, "formAt", "(I)I"⟩
def dkwX11_formAt_0 : List UInt8 := [16, 6, 16, 10, 26, 104, 96, 172]
abbrev dktX11_formAt_0 : List UInt8 := dkwX11_formAt_0 ++ []
theorem dksX11_formAt_0 : cX11_formAt.data.toList.drop 0 = dktX11_formAt_0 := by decide +kernel
theorem dX11_formAt_0 : decode cX11_formAt 0 = .ok (.bipush 6, 2) := dk_16 6 (dk_at dksX11_formAt_0 0 rfl rfl)
theorem dX11_formAt_2 : decode cX11_formAt 2 = .ok (.bipush 10, 2) := dk_16 10 (dk_at dksX11_formAt_0 2 rfl rfl)
theorem dX11_formAt_4 : decode cX11_formAt 4 = .ok (.iload_n 0, 1) := dk_26 (dk_at dksX11_formAt_0 4 rfl rfl)
theorem dX11_formAt_5 : decode cX11_formAt 5 = .ok (.imul, 1) := dk_104 (dk_at dksX11_formAt_0 5 rfl rfl)
theorem dX11_formAt_6 : decode cX11_formAt 6 = .ok (.iadd, 1) := dk_96 (dk_at dksX11_formAt_0 6 rfl rfl)
theorem dX11_formAt_7 : decode cX11_formAt 7 = .ok (.ireturn, 1) := dk_172 (dk_at dksX11_formAt_0 7 rfl rfl)
abbrev cX11_mod : ByteArray := prog_18_method_15_code
def yX11_mod : MethodName := ⟨RX11, "mod", "(J)I"⟩
def dkwX11_mod_0 : List UInt8 := [31, 42, 182, 0, 76, 133, 184, 0, 80, 136, 172]
abbrev dktX11_mod_0 : List UInt8 := dkwX11_mod_0 ++ []
theorem dksX11_mod_0 : cX11_mod.data.toList.drop 0 = dktX11_mod_0 := by decide +kernel
theorem dX11_mod_0 : decode cX11_mod 0 = .ok (.lload_n 1, 1) := dk_31 (dk_at dksX11_mod_0 0 rfl rfl)
theorem dX11_mod_1 : decode cX11_mod 1 = .ok (.aload_n 0, 1) := dk_42 (dk_at dksX11_mod_0 1 rfl rfl)
theorem dX11_mod_2 : decode cX11_mod 2 = .ok (.invokevirtual 76, 3) := dk_182 0 76 (dk_at dksX11_mod_0 2 rfl rfl)
theorem dX11_mod_5 : decode cX11_mod 5 = .ok (.i2l, 1) := dk_133 (dk_at dksX11_mod_0 5 rfl rfl)
theorem dX11_mod_6 : decode cX11_mod 6 = .ok (.invokestatic 80, 3) := dk_184 0 80 (dk_at dksX11_mod_0 6 rfl rfl)
theorem dX11_mod_9 : decode cX11_mod 9 = .ok (.l2i, 1) := dk_136 (dk_at dksX11_mod_0 9 rfl rfl)
theorem dX11_mod_10 : decode cX11_mod 10 = .ok (.ireturn, 1) := dk_172 (dk_at dksX11_mod_0 10 rfl rfl)
abbrev cX11_p : ByteArray := prog_18_method_7_code
def yX11_p : MethodName := ⟨RX11, "p", "()I"⟩
def dkwX11_p_0 : List UInt8 := [42, 180, 0, 13, 3, 46, 172]
abbrev dktX11_p_0 : List UInt8 := dkwX11_p_0 ++ []
theorem dksX11_p_0 : cX11_p.data.toList.drop 0 = dktX11_p_0 := by decide +kernel
theorem dX11_p_0 : decode cX11_p 0 = .ok (.aload_n 0, 1) := dk_42 (dk_at dksX11_p_0 0 rfl rfl)
theorem dX11_p_1 : decode cX11_p 1 = .ok (.getfield 13, 3) := dk_180 0 13 (dk_at dksX11_p_0 1 rfl rfl)
theorem dX11_p_4 : decode cX11_p 4 = .ok (.iconst 0, 1) := dk_3 (dk_at dksX11_p_0 4 rfl rfl)
theorem dX11_p_5 : decode cX11_p 5 = .ok (.iaload, 1) := dk_46 (dk_at dksX11_p_0 5 rfl rfl)
theorem dX11_p_6 : decode cX11_p 6 = .ok (.ireturn, 1) := dk_172 (dk_at dksX11_p_0 6 rfl rfl)
abbrev cX11_table : ByteArray := prog_18_method_58_code
def yX11_table : MethodName := ⟨RX11, "table", "(IIII)I"⟩
def dkwX11_table_3 : List UInt8 := [182, 0, 215, 153, 0, 7, 3, 167, 0, 7, 42, 182, 0, 222, 172]
abbrev dktX11_table_3 : List UInt8 := dkwX11_table_3 ++ []
def dkwX11_table_2 : List UInt8 := [182, 0, 215, 154, 0, 27, 42, 42, 180, 0, 13, 5, 46, 16, 8, 160, 0, 7, 4, 167, 0, 4, 3, 5]
abbrev dktX11_table_2 : List UInt8 := dkwX11_table_2 ++ dktX11_table_3
def dkwX11_table_1 : List UInt8 := [42, 21, 4, 133, 182, 0, 113, 182, 0, 146, 42, 42, 182, 0, 219, 154, 0, 7, 4, 167, 0, 4, 3, 4]
abbrev dktX11_table_1 : List UInt8 := dkwX11_table_1 ++ dktX11_table_2
def dkwX11_table_0 : List UInt8 := [42, 3, 181, 0, 3, 42, 42, 27, 133, 182, 0, 113, 42, 28, 133, 182, 0, 113, 42, 29, 133, 182, 0, 113]
abbrev dktX11_table_0 : List UInt8 := dkwX11_table_0 ++ dktX11_table_1
theorem dksX11_table_0 : cX11_table.data.toList.drop 0 = dktX11_table_0 := by decide +kernel
theorem dksX11_table_1 : cX11_table.data.toList.drop 24 = dktX11_table_1 := dk_seg dksX11_table_0 24 rfl rfl
theorem dksX11_table_2 : cX11_table.data.toList.drop 48 = dktX11_table_2 := dk_seg dksX11_table_1 24 rfl rfl
theorem dksX11_table_3 : cX11_table.data.toList.drop 72 = dktX11_table_3 := dk_seg dksX11_table_2 24 rfl rfl
theorem dX11_table_0 : decode cX11_table 0 = .ok (.aload_n 0, 1) := dk_42 (dk_at dksX11_table_0 0 rfl rfl)
theorem dX11_table_1 : decode cX11_table 1 = .ok (.iconst 0, 1) := dk_3 (dk_at dksX11_table_0 1 rfl rfl)
theorem dX11_table_2 : decode cX11_table 2 = .ok (.putfield 3, 3) := dk_181 0 3 (dk_at dksX11_table_0 2 rfl rfl)
theorem dX11_table_5 : decode cX11_table 5 = .ok (.aload_n 0, 1) := dk_42 (dk_at dksX11_table_0 5 rfl rfl)
theorem dX11_table_6 : decode cX11_table 6 = .ok (.aload_n 0, 1) := dk_42 (dk_at dksX11_table_0 6 rfl rfl)
theorem dX11_table_7 : decode cX11_table 7 = .ok (.iload_n 1, 1) := dk_27 (dk_at dksX11_table_0 7 rfl rfl)
theorem dX11_table_8 : decode cX11_table 8 = .ok (.i2l, 1) := dk_133 (dk_at dksX11_table_0 8 rfl rfl)
theorem dX11_table_9 : decode cX11_table 9 = .ok (.invokevirtual 113, 3) := dk_182 0 113 (dk_at dksX11_table_0 9 rfl rfl)
theorem dX11_table_12 : decode cX11_table 12 = .ok (.aload_n 0, 1) := dk_42 (dk_at dksX11_table_0 12 rfl rfl)
theorem dX11_table_13 : decode cX11_table 13 = .ok (.iload_n 2, 1) := dk_28 (dk_at dksX11_table_0 13 rfl rfl)
theorem dX11_table_14 : decode cX11_table 14 = .ok (.i2l, 1) := dk_133 (dk_at dksX11_table_0 14 rfl rfl)
theorem dX11_table_15 : decode cX11_table 15 = .ok (.invokevirtual 113, 3) := dk_182 0 113 (dk_at dksX11_table_0 15 rfl rfl)
theorem dX11_table_18 : decode cX11_table 18 = .ok (.aload_n 0, 1) := dk_42 (dk_at dksX11_table_0 18 rfl rfl)
theorem dX11_table_19 : decode cX11_table 19 = .ok (.iload_n 3, 1) := dk_29 (dk_at dksX11_table_0 19 rfl rfl)
theorem dX11_table_20 : decode cX11_table 20 = .ok (.i2l, 1) := dk_133 (dk_at dksX11_table_0 20 rfl rfl)
theorem dX11_table_21 : decode cX11_table 21 = .ok (.invokevirtual 113, 3) := dk_182 0 113 (dk_at dksX11_table_0 21 rfl rfl)
theorem dX11_table_24 : decode cX11_table 24 = .ok (.aload_n 0, 1) := dk_42 (dk_at dksX11_table_1 0 rfl rfl)
theorem dX11_table_25 : decode cX11_table 25 = .ok (.iload 4, 2) := dk_21 4 (dk_at dksX11_table_1 1 rfl rfl)
theorem dX11_table_27 : decode cX11_table 27 = .ok (.i2l, 1) := dk_133 (dk_at dksX11_table_1 3 rfl rfl)
theorem dX11_table_28 : decode cX11_table 28 = .ok (.invokevirtual 113, 3) := dk_182 0 113 (dk_at dksX11_table_1 4 rfl rfl)
theorem dX11_table_31 : decode cX11_table 31 = .ok (.invokevirtual 146, 3) := dk_182 0 146 (dk_at dksX11_table_1 7 rfl rfl)
theorem dX11_table_34 : decode cX11_table 34 = .ok (.aload_n 0, 1) := dk_42 (dk_at dksX11_table_1 10 rfl rfl)
theorem dX11_table_35 : decode cX11_table 35 = .ok (.aload_n 0, 1) := dk_42 (dk_at dksX11_table_1 11 rfl rfl)
theorem dX11_table_36 : decode cX11_table 36 = .ok (.invokevirtual 219, 3) := dk_182 0 219 (dk_at dksX11_table_1 12 rfl rfl)
theorem dX11_table_39 : decode cX11_table 39 = .ok (.ifCond .ne 7, 3) := dk_154 0 7 (dk_at dksX11_table_1 15 rfl rfl)
theorem dX11_table_42 : decode cX11_table 42 = .ok (.iconst 1, 1) := dk_4 (dk_at dksX11_table_1 18 rfl rfl)
theorem dX11_table_43 : decode cX11_table 43 = .ok (.goto 4, 3) := dk_167 0 4 (dk_at dksX11_table_1 19 rfl rfl)
theorem dX11_table_46 : decode cX11_table 46 = .ok (.iconst 0, 1) := dk_3 (dk_at dksX11_table_1 22 rfl rfl)
theorem dX11_table_47 : decode cX11_table 47 = .ok (.iconst 1, 1) := dk_4 (dk_at dksX11_table_1 23 rfl rfl)
theorem dX11_table_48 : decode cX11_table 48 = .ok (.invokevirtual 215, 3) := dk_182 0 215 (dk_at dksX11_table_2 0 rfl rfl)
theorem dX11_table_51 : decode cX11_table 51 = .ok (.ifCond .ne 27, 3) := dk_154 0 27 (dk_at dksX11_table_2 3 rfl rfl)
theorem dX11_table_54 : decode cX11_table 54 = .ok (.aload_n 0, 1) := dk_42 (dk_at dksX11_table_2 6 rfl rfl)
theorem dX11_table_55 : decode cX11_table 55 = .ok (.aload_n 0, 1) := dk_42 (dk_at dksX11_table_2 7 rfl rfl)
theorem dX11_table_56 : decode cX11_table 56 = .ok (.getfield 13, 3) := dk_180 0 13 (dk_at dksX11_table_2 8 rfl rfl)
theorem dX11_table_59 : decode cX11_table 59 = .ok (.iconst 2, 1) := dk_5 (dk_at dksX11_table_2 11 rfl rfl)
theorem dX11_table_60 : decode cX11_table 60 = .ok (.iaload, 1) := dk_46 (dk_at dksX11_table_2 12 rfl rfl)
theorem dX11_table_61 : decode cX11_table 61 = .ok (.bipush 8, 2) := dk_16 8 (dk_at dksX11_table_2 13 rfl rfl)
theorem dX11_table_63 : decode cX11_table 63 = .ok (.if_icmp .ne 7, 3) := dk_160 0 7 (dk_at dksX11_table_2 15 rfl rfl)
theorem dX11_table_66 : decode cX11_table 66 = .ok (.iconst 1, 1) := dk_4 (dk_at dksX11_table_2 18 rfl rfl)
theorem dX11_table_67 : decode cX11_table 67 = .ok (.goto 4, 3) := dk_167 0 4 (dk_at dksX11_table_2 19 rfl rfl)
theorem dX11_table_70 : decode cX11_table 70 = .ok (.iconst 0, 1) := dk_3 (dk_at dksX11_table_2 22 rfl rfl)
theorem dX11_table_71 : decode cX11_table 71 = .ok (.iconst 2, 1) := dk_5 (dk_at dksX11_table_2 23 rfl rfl)
theorem dX11_table_72 : decode cX11_table 72 = .ok (.invokevirtual 215, 3) := dk_182 0 215 (dk_at dksX11_table_3 0 rfl rfl)
theorem dX11_table_75 : decode cX11_table 75 = .ok (.ifCond .eq 7, 3) := dk_153 0 7 (dk_at dksX11_table_3 3 rfl rfl)
theorem dX11_table_78 : decode cX11_table 78 = .ok (.iconst 0, 1) := dk_3 (dk_at dksX11_table_3 6 rfl rfl)
theorem dX11_table_79 : decode cX11_table 79 = .ok (.goto 7, 3) := dk_167 0 7 (dk_at dksX11_table_3 7 rfl rfl)
theorem dX11_table_82 : decode cX11_table 82 = .ok (.aload_n 0, 1) := dk_42 (dk_at dksX11_table_3 10 rfl rfl)
theorem dX11_table_83 : decode cX11_table 83 = .ok (.invokevirtual 222, 3) := dk_182 0 222 (dk_at dksX11_table_3 11 rfl rfl)
theorem dX11_table_86 : decode cX11_table 86 = .ok (.ireturn, 1) := dk_172 (dk_at dksX11_table_3 14 rfl rfl)
abbrev cX11_takesTable : ByteArray := prog_18_method_33_code
def yX11_takesTable : MethodName := ⟨RX11, "takesTable", "(IIII)V"⟩
def dkwX11_takesTable_0 : List UInt8 := [42, 27, 181, 0, 131, 42, 28, 181, 0, 134, 42, 29, 181, 0, 137, 42, 21, 4, 181, 0, 140, 177]
abbrev dktX11_takesTable_0 : List UInt8 := dkwX11_takesTable_0 ++ []
theorem dksX11_takesTable_0 : cX11_takesTable.data.toList.drop 0 = dktX11_takesTable_0 := by decide +kernel
theorem dX11_takesTable_0 : decode cX11_takesTable 0 = .ok (.aload_n 0, 1) := dk_42 (dk_at dksX11_takesTable_0 0 rfl rfl)
theorem dX11_takesTable_1 : decode cX11_takesTable 1 = .ok (.iload_n 1, 1) := dk_27 (dk_at dksX11_takesTable_0 1 rfl rfl)
theorem dX11_takesTable_2 : decode cX11_takesTable 2 = .ok (.putfield 131, 3) := dk_181 0 131 (dk_at dksX11_takesTable_0 2 rfl rfl)
theorem dX11_takesTable_5 : decode cX11_takesTable 5 = .ok (.aload_n 0, 1) := dk_42 (dk_at dksX11_takesTable_0 5 rfl rfl)
theorem dX11_takesTable_6 : decode cX11_takesTable 6 = .ok (.iload_n 2, 1) := dk_28 (dk_at dksX11_takesTable_0 6 rfl rfl)
theorem dX11_takesTable_7 : decode cX11_takesTable 7 = .ok (.putfield 134, 3) := dk_181 0 134 (dk_at dksX11_takesTable_0 7 rfl rfl)
theorem dX11_takesTable_10 : decode cX11_takesTable 10 = .ok (.aload_n 0, 1) := dk_42 (dk_at dksX11_takesTable_0 10 rfl rfl)
theorem dX11_takesTable_11 : decode cX11_takesTable 11 = .ok (.iload_n 3, 1) := dk_29 (dk_at dksX11_takesTable_0 11 rfl rfl)
theorem dX11_takesTable_12 : decode cX11_takesTable 12 = .ok (.putfield 137, 3) := dk_181 0 137 (dk_at dksX11_takesTable_0 12 rfl rfl)
theorem dX11_takesTable_15 : decode cX11_takesTable 15 = .ok (.aload_n 0, 1) := dk_42 (dk_at dksX11_takesTable_0 15 rfl rfl)
theorem dX11_takesTable_16 : decode cX11_takesTable 16 = .ok (.iload 4, 2) := dk_21 4 (dk_at dksX11_takesTable_0 16 rfl rfl)
theorem dX11_takesTable_18 : decode cX11_takesTable 18 = .ok (.putfield 140, 3) := dk_181 0 140 (dk_at dksX11_takesTable_0 18 rfl rfl)
theorem dX11_takesTable_21 : decode cX11_takesTable 21 = .ok (.return_, 1) := dk_177 (dk_at dksX11_takesTable_0 21 rfl rfl)
abbrev cX11_detNow : ByteArray := prog_18_method_35_code
def yX11_detNow : MethodName := ⟨RX11, "detNow", "()I"⟩
def dkwX11_detNow_1 : List UInt8 := [182, 0, 86, 182, 0, 149, 172]
abbrev dktX11_detNow_1 : List UInt8 := dkwX11_detNow_1 ++ []
def dkwX11_detNow_0 : List UInt8 := [42, 42, 42, 180, 0, 131, 42, 180, 0, 140, 182, 0, 86, 42, 42, 180, 0, 134, 42, 180, 0, 137]
abbrev dktX11_detNow_0 : List UInt8 := dkwX11_detNow_0 ++ dktX11_detNow_1
theorem dksX11_detNow_0 : cX11_detNow.data.toList.drop 0 = dktX11_detNow_0 := by decide +kernel
theorem dksX11_detNow_1 : cX11_detNow.data.toList.drop 22 = dktX11_detNow_1 := dk_seg dksX11_detNow_0 22 rfl rfl
theorem dX11_detNow_0 : decode cX11_detNow 0 = .ok (.aload_n 0, 1) := dk_42 (dk_at dksX11_detNow_0 0 rfl rfl)
theorem dX11_detNow_1 : decode cX11_detNow 1 = .ok (.aload_n 0, 1) := dk_42 (dk_at dksX11_detNow_0 1 rfl rfl)
theorem dX11_detNow_2 : decode cX11_detNow 2 = .ok (.aload_n 0, 1) := dk_42 (dk_at dksX11_detNow_0 2 rfl rfl)
theorem dX11_detNow_3 : decode cX11_detNow 3 = .ok (.getfield 131, 3) := dk_180 0 131 (dk_at dksX11_detNow_0 3 rfl rfl)
theorem dX11_detNow_6 : decode cX11_detNow 6 = .ok (.aload_n 0, 1) := dk_42 (dk_at dksX11_detNow_0 6 rfl rfl)
theorem dX11_detNow_7 : decode cX11_detNow 7 = .ok (.getfield 140, 3) := dk_180 0 140 (dk_at dksX11_detNow_0 7 rfl rfl)
theorem dX11_detNow_10 : decode cX11_detNow 10 = .ok (.invokevirtual 86, 3) := dk_182 0 86 (dk_at dksX11_detNow_0 10 rfl rfl)
theorem dX11_detNow_13 : decode cX11_detNow 13 = .ok (.aload_n 0, 1) := dk_42 (dk_at dksX11_detNow_0 13 rfl rfl)
theorem dX11_detNow_14 : decode cX11_detNow 14 = .ok (.aload_n 0, 1) := dk_42 (dk_at dksX11_detNow_0 14 rfl rfl)
theorem dX11_detNow_15 : decode cX11_detNow 15 = .ok (.getfield 134, 3) := dk_180 0 134 (dk_at dksX11_detNow_0 15 rfl rfl)
theorem dX11_detNow_18 : decode cX11_detNow 18 = .ok (.aload_n 0, 1) := dk_42 (dk_at dksX11_detNow_0 18 rfl rfl)
theorem dX11_detNow_19 : decode cX11_detNow 19 = .ok (.getfield 137, 3) := dk_180 0 137 (dk_at dksX11_detNow_0 19 rfl rfl)
theorem dX11_detNow_22 : decode cX11_detNow 22 = .ok (.invokevirtual 86, 3) := dk_182 0 86 (dk_at dksX11_detNow_1 0 rfl rfl)
theorem dX11_detNow_25 : decode cX11_detNow 25 = .ok (.invokevirtual 149, 3) := dk_182 0 149 (dk_at dksX11_detNow_1 3 rfl rfl)
theorem dX11_detNow_28 : decode cX11_detNow 28 = .ok (.ireturn, 1) := dk_172 (dk_at dksX11_detNow_1 6 rfl rfl)
abbrev cX11_times : ByteArray := prog_18_method_16_code
def yX11_times : MethodName := ⟨RX11, "times", "(II)I"⟩
def dkwX11_times_0 : List UInt8 := [27, 28, 104, 42, 182, 0, 76, 112, 172]
abbrev dktX11_times_0 : List UInt8 := dkwX11_times_0 ++ []
theorem dksX11_times_0 : cX11_times.data.toList.drop 0 = dktX11_times_0 := by decide +kernel
theorem dX11_times_0 : decode cX11_times 0 = .ok (.iload_n 1, 1) := dk_27 (dk_at dksX11_times_0 0 rfl rfl)
theorem dX11_times_1 : decode cX11_times 1 = .ok (.iload_n 2, 1) := dk_28 (dk_at dksX11_times_0 1 rfl rfl)
theorem dX11_times_2 : decode cX11_times 2 = .ok (.imul, 1) := dk_104 (dk_at dksX11_times_0 2 rfl rfl)
theorem dX11_times_3 : decode cX11_times 3 = .ok (.aload_n 0, 1) := dk_42 (dk_at dksX11_times_0 3 rfl rfl)
theorem dX11_times_4 : decode cX11_times 4 = .ok (.invokevirtual 76, 3) := dk_182 0 76 (dk_at dksX11_times_0 4 rfl rfl)
theorem dX11_times_7 : decode cX11_times 7 = .ok (.irem, 1) := dk_112 (dk_at dksX11_times_0 7 rfl rfl)
theorem dX11_times_8 : decode cX11_times 8 = .ok (.ireturn, 1) := dk_172 (dk_at dksX11_times_0 8 rfl rfl)
abbrev cX11_less : ByteArray := prog_18_method_18_code
def yX11_less : MethodName := ⟨RX11, "less", "(II)I"⟩
def dkwX11_less_0 : List UInt8 := [27, 28, 100, 42, 182, 0, 76, 96, 42, 182, 0, 76, 112, 172]
abbrev dktX11_less_0 : List UInt8 := dkwX11_less_0 ++ []
theorem dksX11_less_0 : cX11_less.data.toList.drop 0 = dktX11_less_0 := by decide +kernel
theorem dX11_less_0 : decode cX11_less 0 = .ok (.iload_n 1, 1) := dk_27 (dk_at dksX11_less_0 0 rfl rfl)
theorem dX11_less_1 : decode cX11_less 1 = .ok (.iload_n 2, 1) := dk_28 (dk_at dksX11_less_0 1 rfl rfl)
theorem dX11_less_2 : decode cX11_less 2 = .ok (.isub, 1) := dk_100 (dk_at dksX11_less_0 2 rfl rfl)
theorem dX11_less_3 : decode cX11_less 3 = .ok (.aload_n 0, 1) := dk_42 (dk_at dksX11_less_0 3 rfl rfl)
theorem dX11_less_4 : decode cX11_less 4 = .ok (.invokevirtual 76, 3) := dk_182 0 76 (dk_at dksX11_less_0 4 rfl rfl)
theorem dX11_less_7 : decode cX11_less 7 = .ok (.iadd, 1) := dk_96 (dk_at dksX11_less_0 7 rfl rfl)
theorem dX11_less_8 : decode cX11_less 8 = .ok (.aload_n 0, 1) := dk_42 (dk_at dksX11_less_0 8 rfl rfl)
theorem dX11_less_9 : decode cX11_less 9 = .ok (.invokevirtual 76, 3) := dk_182 0 76 (dk_at dksX11_less_0 9 rfl rfl)
theorem dX11_less_12 : decode cX11_less 12 = .ok (.irem, 1) := dk_112 (dk_at dksX11_less_0 12 rfl rfl)
theorem dX11_less_13 : decode cX11_less 13 = .ok (.ireturn, 1) := dk_172 (dk_at dksX11_less_0 13 rfl rfl)
abbrev cX11_lays : ByteArray := prog_18_method_57_code
def yX11_lays : MethodName := ⟨RX11, "lays", "()I"⟩
def dkwX11_lays_3 : List UInt8 := [180, 0, 13, 5, 46, 4, 100, 172]
abbrev dktX11_lays_3 : List UInt8 := dkwX11_lays_3 ++ []
def dkwX11_lays_2 : List UInt8 := [180, 0, 13, 27, 6, 96, 42, 180, 0, 140, 79, 42, 180, 0, 13, 5, 92, 46, 4, 96, 79, 42]
abbrev dktX11_lays_2 : List UInt8 := dkwX11_lays_2 ++ dktX11_lays_3
def dkwX11_lays_1 : List UInt8 := [180, 0, 13, 27, 4, 96, 42, 180, 0, 134, 79, 42, 180, 0, 13, 27, 5, 96, 42, 180, 0, 137, 79, 42]
abbrev dktX11_lays_1 : List UInt8 := dkwX11_lays_1 ++ dktX11_lays_2
def dkwX11_lays_0 : List UInt8 := [17, 0, 166, 7, 42, 180, 0, 13, 5, 46, 104, 96, 60, 42, 180, 0, 13, 27, 42, 180, 0, 131, 79, 42]
abbrev dktX11_lays_0 : List UInt8 := dkwX11_lays_0 ++ dktX11_lays_1
theorem dksX11_lays_0 : cX11_lays.data.toList.drop 0 = dktX11_lays_0 := by decide +kernel
theorem dksX11_lays_1 : cX11_lays.data.toList.drop 24 = dktX11_lays_1 := dk_seg dksX11_lays_0 24 rfl rfl
theorem dksX11_lays_2 : cX11_lays.data.toList.drop 48 = dktX11_lays_2 := dk_seg dksX11_lays_1 24 rfl rfl
theorem dksX11_lays_3 : cX11_lays.data.toList.drop 70 = dktX11_lays_3 := dk_seg dksX11_lays_2 22 rfl rfl
theorem dX11_lays_0 : decode cX11_lays 0 = .ok (.sipush 166, 3) := dk_17 0 166 (dk_at dksX11_lays_0 0 rfl rfl)
theorem dX11_lays_3 : decode cX11_lays 3 = .ok (.iconst 4, 1) := dk_7 (dk_at dksX11_lays_0 3 rfl rfl)
theorem dX11_lays_4 : decode cX11_lays 4 = .ok (.aload_n 0, 1) := dk_42 (dk_at dksX11_lays_0 4 rfl rfl)
theorem dX11_lays_5 : decode cX11_lays 5 = .ok (.getfield 13, 3) := dk_180 0 13 (dk_at dksX11_lays_0 5 rfl rfl)
theorem dX11_lays_8 : decode cX11_lays 8 = .ok (.iconst 2, 1) := dk_5 (dk_at dksX11_lays_0 8 rfl rfl)
theorem dX11_lays_9 : decode cX11_lays 9 = .ok (.iaload, 1) := dk_46 (dk_at dksX11_lays_0 9 rfl rfl)
theorem dX11_lays_10 : decode cX11_lays 10 = .ok (.imul, 1) := dk_104 (dk_at dksX11_lays_0 10 rfl rfl)
theorem dX11_lays_11 : decode cX11_lays 11 = .ok (.iadd, 1) := dk_96 (dk_at dksX11_lays_0 11 rfl rfl)
theorem dX11_lays_12 : decode cX11_lays 12 = .ok (.istore_n 1, 1) := dk_60 (dk_at dksX11_lays_0 12 rfl rfl)
theorem dX11_lays_13 : decode cX11_lays 13 = .ok (.aload_n 0, 1) := dk_42 (dk_at dksX11_lays_0 13 rfl rfl)
theorem dX11_lays_14 : decode cX11_lays 14 = .ok (.getfield 13, 3) := dk_180 0 13 (dk_at dksX11_lays_0 14 rfl rfl)
theorem dX11_lays_17 : decode cX11_lays 17 = .ok (.iload_n 1, 1) := dk_27 (dk_at dksX11_lays_0 17 rfl rfl)
theorem dX11_lays_18 : decode cX11_lays 18 = .ok (.aload_n 0, 1) := dk_42 (dk_at dksX11_lays_0 18 rfl rfl)
theorem dX11_lays_19 : decode cX11_lays 19 = .ok (.getfield 131, 3) := dk_180 0 131 (dk_at dksX11_lays_0 19 rfl rfl)
theorem dX11_lays_22 : decode cX11_lays 22 = .ok (.iastore, 1) := dk_79 (dk_at dksX11_lays_0 22 rfl rfl)
theorem dX11_lays_23 : decode cX11_lays 23 = .ok (.aload_n 0, 1) := dk_42 (dk_at dksX11_lays_0 23 rfl rfl)
theorem dX11_lays_24 : decode cX11_lays 24 = .ok (.getfield 13, 3) := dk_180 0 13 (dk_at dksX11_lays_1 0 rfl rfl)
theorem dX11_lays_27 : decode cX11_lays 27 = .ok (.iload_n 1, 1) := dk_27 (dk_at dksX11_lays_1 3 rfl rfl)
theorem dX11_lays_28 : decode cX11_lays 28 = .ok (.iconst 1, 1) := dk_4 (dk_at dksX11_lays_1 4 rfl rfl)
theorem dX11_lays_29 : decode cX11_lays 29 = .ok (.iadd, 1) := dk_96 (dk_at dksX11_lays_1 5 rfl rfl)
theorem dX11_lays_30 : decode cX11_lays 30 = .ok (.aload_n 0, 1) := dk_42 (dk_at dksX11_lays_1 6 rfl rfl)
theorem dX11_lays_31 : decode cX11_lays 31 = .ok (.getfield 134, 3) := dk_180 0 134 (dk_at dksX11_lays_1 7 rfl rfl)
theorem dX11_lays_34 : decode cX11_lays 34 = .ok (.iastore, 1) := dk_79 (dk_at dksX11_lays_1 10 rfl rfl)
theorem dX11_lays_35 : decode cX11_lays 35 = .ok (.aload_n 0, 1) := dk_42 (dk_at dksX11_lays_1 11 rfl rfl)
theorem dX11_lays_36 : decode cX11_lays 36 = .ok (.getfield 13, 3) := dk_180 0 13 (dk_at dksX11_lays_1 12 rfl rfl)
theorem dX11_lays_39 : decode cX11_lays 39 = .ok (.iload_n 1, 1) := dk_27 (dk_at dksX11_lays_1 15 rfl rfl)
theorem dX11_lays_40 : decode cX11_lays 40 = .ok (.iconst 2, 1) := dk_5 (dk_at dksX11_lays_1 16 rfl rfl)
theorem dX11_lays_41 : decode cX11_lays 41 = .ok (.iadd, 1) := dk_96 (dk_at dksX11_lays_1 17 rfl rfl)
theorem dX11_lays_42 : decode cX11_lays 42 = .ok (.aload_n 0, 1) := dk_42 (dk_at dksX11_lays_1 18 rfl rfl)
theorem dX11_lays_43 : decode cX11_lays 43 = .ok (.getfield 137, 3) := dk_180 0 137 (dk_at dksX11_lays_1 19 rfl rfl)
theorem dX11_lays_46 : decode cX11_lays 46 = .ok (.iastore, 1) := dk_79 (dk_at dksX11_lays_1 22 rfl rfl)
theorem dX11_lays_47 : decode cX11_lays 47 = .ok (.aload_n 0, 1) := dk_42 (dk_at dksX11_lays_1 23 rfl rfl)
theorem dX11_lays_48 : decode cX11_lays 48 = .ok (.getfield 13, 3) := dk_180 0 13 (dk_at dksX11_lays_2 0 rfl rfl)
theorem dX11_lays_51 : decode cX11_lays 51 = .ok (.iload_n 1, 1) := dk_27 (dk_at dksX11_lays_2 3 rfl rfl)
theorem dX11_lays_52 : decode cX11_lays 52 = .ok (.iconst 3, 1) := dk_6 (dk_at dksX11_lays_2 4 rfl rfl)
theorem dX11_lays_53 : decode cX11_lays 53 = .ok (.iadd, 1) := dk_96 (dk_at dksX11_lays_2 5 rfl rfl)
theorem dX11_lays_54 : decode cX11_lays 54 = .ok (.aload_n 0, 1) := dk_42 (dk_at dksX11_lays_2 6 rfl rfl)
theorem dX11_lays_55 : decode cX11_lays 55 = .ok (.getfield 140, 3) := dk_180 0 140 (dk_at dksX11_lays_2 7 rfl rfl)
theorem dX11_lays_58 : decode cX11_lays 58 = .ok (.iastore, 1) := dk_79 (dk_at dksX11_lays_2 10 rfl rfl)
theorem dX11_lays_59 : decode cX11_lays 59 = .ok (.aload_n 0, 1) := dk_42 (dk_at dksX11_lays_2 11 rfl rfl)
theorem dX11_lays_60 : decode cX11_lays 60 = .ok (.getfield 13, 3) := dk_180 0 13 (dk_at dksX11_lays_2 12 rfl rfl)
theorem dX11_lays_63 : decode cX11_lays 63 = .ok (.iconst 2, 1) := dk_5 (dk_at dksX11_lays_2 15 rfl rfl)
theorem dX11_lays_64 : decode cX11_lays 64 = .ok (.dup2, 1) := dk_92 (dk_at dksX11_lays_2 16 rfl rfl)
theorem dX11_lays_65 : decode cX11_lays 65 = .ok (.iaload, 1) := dk_46 (dk_at dksX11_lays_2 17 rfl rfl)
theorem dX11_lays_66 : decode cX11_lays 66 = .ok (.iconst 1, 1) := dk_4 (dk_at dksX11_lays_2 18 rfl rfl)
theorem dX11_lays_67 : decode cX11_lays 67 = .ok (.iadd, 1) := dk_96 (dk_at dksX11_lays_2 19 rfl rfl)
theorem dX11_lays_68 : decode cX11_lays 68 = .ok (.iastore, 1) := dk_79 (dk_at dksX11_lays_2 20 rfl rfl)
theorem dX11_lays_69 : decode cX11_lays 69 = .ok (.aload_n 0, 1) := dk_42 (dk_at dksX11_lays_2 21 rfl rfl)
theorem dX11_lays_70 : decode cX11_lays 70 = .ok (.getfield 13, 3) := dk_180 0 13 (dk_at dksX11_lays_3 0 rfl rfl)
theorem dX11_lays_73 : decode cX11_lays 73 = .ok (.iconst 2, 1) := dk_5 (dk_at dksX11_lays_3 3 rfl rfl)
theorem dX11_lays_74 : decode cX11_lays 74 = .ok (.iaload, 1) := dk_46 (dk_at dksX11_lays_3 4 rfl rfl)
theorem dX11_lays_75 : decode cX11_lays 75 = .ok (.iconst 1, 1) := dk_4 (dk_at dksX11_lays_3 5 rfl rfl)
theorem dX11_lays_76 : decode cX11_lays 76 = .ok (.isub, 1) := dk_100 (dk_at dksX11_lays_3 6 rfl rfl)
theorem dX11_lays_77 : decode cX11_lays 77 = .ok (.ireturn, 1) := dk_172 (dk_at dksX11_lays_3 7 rfl rfl)
abbrev cX11_join : ByteArray := prog_18_method_59_code
def yX11_join : MethodName := ⟨RX11, "join", "(II)I"⟩
def dkwX11_join_9 : List UInt8 := [182, 0, 222, 172]
abbrev dktX11_join_9 : List UInt8 := dkwX11_join_9 ++ []
def dkwX11_join_8 : List UInt8 := [6, 182, 0, 143, 182, 0, 86, 182, 0, 110, 54, 6, 42, 29, 21, 4, 21, 5, 21, 6, 182, 0, 146, 42]
abbrev dktX11_join_8 : List UInt8 := dkwX11_join_8 ++ dktX11_join_9
def dkwX11_join_7 : List UInt8 := [54, 5, 42, 42, 42, 180, 0, 137, 42, 28, 4, 182, 0, 143, 182, 0, 86, 42, 42, 180, 0, 140, 42, 28]
abbrev dktX11_join_7 : List UInt8 := dkwX11_join_7 ++ dktX11_join_8
def dkwX11_join_6 : List UInt8 := [182, 0, 143, 182, 0, 86, 42, 42, 180, 0, 140, 42, 28, 5, 182, 0, 143, 182, 0, 86, 182, 0, 110]
abbrev dktX11_join_6 : List UInt8 := dkwX11_join_6 ++ dktX11_join_7
def dkwX11_join_5 : List UInt8 := [42, 28, 6, 182, 0, 143, 182, 0, 86, 182, 0, 110, 54, 4, 42, 42, 42, 180, 0, 137, 42, 28, 3]
abbrev dktX11_join_5 : List UInt8 := dkwX11_join_5 ++ dktX11_join_6
def dkwX11_join_4 : List UInt8 := [182, 0, 110, 62, 42, 42, 42, 180, 0, 131, 42, 28, 4, 182, 0, 143, 182, 0, 86, 42, 42, 180, 0, 134]
abbrev dktX11_join_4 : List UInt8 := dkwX11_join_4 ++ dktX11_join_5
def dkwX11_join_3 : List UInt8 := [42, 28, 3, 182, 0, 143, 182, 0, 86, 42, 42, 180, 0, 134, 42, 28, 5, 182, 0, 143, 182, 0, 86]
abbrev dktX11_join_3 : List UInt8 := dkwX11_join_3 ++ dktX11_join_4
def dkwX11_join_2 : List UInt8 := [167, 0, 4, 3, 5, 182, 0, 215, 153, 0, 5, 3, 172, 42, 27, 182, 0, 228, 42, 42, 42, 180, 0, 131]
abbrev dktX11_join_2 : List UInt8 := dkwX11_join_2 ++ dktX11_join_3
def dkwX11_join_1 : List UInt8 := [167, 0, 4, 3, 4, 182, 0, 215, 154, 0, 27, 42, 42, 180, 0, 13, 5, 46, 16, 8, 160, 0, 7, 4]
abbrev dktX11_join_1 : List UInt8 := dkwX11_join_1 ++ dktX11_join_2
def dkwX11_join_0 : List UInt8 := [42, 3, 181, 0, 3, 42, 42, 27, 182, 0, 225, 154, 0, 11, 42, 28, 182, 0, 225, 153, 0, 7, 4]
abbrev dktX11_join_0 : List UInt8 := dkwX11_join_0 ++ dktX11_join_1
theorem dksX11_join_0 : cX11_join.data.toList.drop 0 = dktX11_join_0 := by decide +kernel
theorem dksX11_join_1 : cX11_join.data.toList.drop 23 = dktX11_join_1 := dk_seg dksX11_join_0 23 rfl rfl
theorem dksX11_join_2 : cX11_join.data.toList.drop 47 = dktX11_join_2 := dk_seg dksX11_join_1 24 rfl rfl
theorem dksX11_join_3 : cX11_join.data.toList.drop 71 = dktX11_join_3 := dk_seg dksX11_join_2 24 rfl rfl
theorem dksX11_join_4 : cX11_join.data.toList.drop 94 = dktX11_join_4 := dk_seg dksX11_join_3 23 rfl rfl
theorem dksX11_join_5 : cX11_join.data.toList.drop 118 = dktX11_join_5 := dk_seg dksX11_join_4 24 rfl rfl
theorem dksX11_join_6 : cX11_join.data.toList.drop 141 = dktX11_join_6 := dk_seg dksX11_join_5 23 rfl rfl
theorem dksX11_join_7 : cX11_join.data.toList.drop 164 = dktX11_join_7 := dk_seg dksX11_join_6 23 rfl rfl
theorem dksX11_join_8 : cX11_join.data.toList.drop 188 = dktX11_join_8 := dk_seg dksX11_join_7 24 rfl rfl
theorem dksX11_join_9 : cX11_join.data.toList.drop 212 = dktX11_join_9 := dk_seg dksX11_join_8 24 rfl rfl
theorem dX11_join_0 : decode cX11_join 0 = .ok (.aload_n 0, 1) := dk_42 (dk_at dksX11_join_0 0 rfl rfl)
theorem dX11_join_1 : decode cX11_join 1 = .ok (.iconst 0, 1) := dk_3 (dk_at dksX11_join_0 1 rfl rfl)
theorem dX11_join_2 : decode cX11_join 2 = .ok (.putfield 3, 3) := dk_181 0 3 (dk_at dksX11_join_0 2 rfl rfl)
theorem dX11_join_5 : decode cX11_join 5 = .ok (.aload_n 0, 1) := dk_42 (dk_at dksX11_join_0 5 rfl rfl)
theorem dX11_join_6 : decode cX11_join 6 = .ok (.aload_n 0, 1) := dk_42 (dk_at dksX11_join_0 6 rfl rfl)
theorem dX11_join_7 : decode cX11_join 7 = .ok (.iload_n 1, 1) := dk_27 (dk_at dksX11_join_0 7 rfl rfl)
theorem dX11_join_8 : decode cX11_join 8 = .ok (.invokevirtual 225, 3) := dk_182 0 225 (dk_at dksX11_join_0 8 rfl rfl)
theorem dX11_join_11 : decode cX11_join 11 = .ok (.ifCond .ne 11, 3) := dk_154 0 11 (dk_at dksX11_join_0 11 rfl rfl)
theorem dX11_join_14 : decode cX11_join 14 = .ok (.aload_n 0, 1) := dk_42 (dk_at dksX11_join_0 14 rfl rfl)
theorem dX11_join_15 : decode cX11_join 15 = .ok (.iload_n 2, 1) := dk_28 (dk_at dksX11_join_0 15 rfl rfl)
theorem dX11_join_16 : decode cX11_join 16 = .ok (.invokevirtual 225, 3) := dk_182 0 225 (dk_at dksX11_join_0 16 rfl rfl)
theorem dX11_join_19 : decode cX11_join 19 = .ok (.ifCond .eq 7, 3) := dk_153 0 7 (dk_at dksX11_join_0 19 rfl rfl)
theorem dX11_join_22 : decode cX11_join 22 = .ok (.iconst 1, 1) := dk_4 (dk_at dksX11_join_0 22 rfl rfl)
theorem dX11_join_23 : decode cX11_join 23 = .ok (.goto 4, 3) := dk_167 0 4 (dk_at dksX11_join_1 0 rfl rfl)
theorem dX11_join_26 : decode cX11_join 26 = .ok (.iconst 0, 1) := dk_3 (dk_at dksX11_join_1 3 rfl rfl)
theorem dX11_join_27 : decode cX11_join 27 = .ok (.iconst 1, 1) := dk_4 (dk_at dksX11_join_1 4 rfl rfl)
theorem dX11_join_28 : decode cX11_join 28 = .ok (.invokevirtual 215, 3) := dk_182 0 215 (dk_at dksX11_join_1 5 rfl rfl)
theorem dX11_join_31 : decode cX11_join 31 = .ok (.ifCond .ne 27, 3) := dk_154 0 27 (dk_at dksX11_join_1 8 rfl rfl)
theorem dX11_join_34 : decode cX11_join 34 = .ok (.aload_n 0, 1) := dk_42 (dk_at dksX11_join_1 11 rfl rfl)
theorem dX11_join_35 : decode cX11_join 35 = .ok (.aload_n 0, 1) := dk_42 (dk_at dksX11_join_1 12 rfl rfl)
theorem dX11_join_36 : decode cX11_join 36 = .ok (.getfield 13, 3) := dk_180 0 13 (dk_at dksX11_join_1 13 rfl rfl)
theorem dX11_join_39 : decode cX11_join 39 = .ok (.iconst 2, 1) := dk_5 (dk_at dksX11_join_1 16 rfl rfl)
theorem dX11_join_40 : decode cX11_join 40 = .ok (.iaload, 1) := dk_46 (dk_at dksX11_join_1 17 rfl rfl)
theorem dX11_join_41 : decode cX11_join 41 = .ok (.bipush 8, 2) := dk_16 8 (dk_at dksX11_join_1 18 rfl rfl)
theorem dX11_join_43 : decode cX11_join 43 = .ok (.if_icmp .ne 7, 3) := dk_160 0 7 (dk_at dksX11_join_1 20 rfl rfl)
theorem dX11_join_46 : decode cX11_join 46 = .ok (.iconst 1, 1) := dk_4 (dk_at dksX11_join_1 23 rfl rfl)
theorem dX11_join_47 : decode cX11_join 47 = .ok (.goto 4, 3) := dk_167 0 4 (dk_at dksX11_join_2 0 rfl rfl)
theorem dX11_join_50 : decode cX11_join 50 = .ok (.iconst 0, 1) := dk_3 (dk_at dksX11_join_2 3 rfl rfl)
theorem dX11_join_51 : decode cX11_join 51 = .ok (.iconst 2, 1) := dk_5 (dk_at dksX11_join_2 4 rfl rfl)
theorem dX11_join_52 : decode cX11_join 52 = .ok (.invokevirtual 215, 3) := dk_182 0 215 (dk_at dksX11_join_2 5 rfl rfl)
theorem dX11_join_55 : decode cX11_join 55 = .ok (.ifCond .eq 5, 3) := dk_153 0 5 (dk_at dksX11_join_2 8 rfl rfl)
theorem dX11_join_58 : decode cX11_join 58 = .ok (.iconst 0, 1) := dk_3 (dk_at dksX11_join_2 11 rfl rfl)
theorem dX11_join_59 : decode cX11_join 59 = .ok (.ireturn, 1) := dk_172 (dk_at dksX11_join_2 12 rfl rfl)
theorem dX11_join_60 : decode cX11_join 60 = .ok (.aload_n 0, 1) := dk_42 (dk_at dksX11_join_2 13 rfl rfl)
theorem dX11_join_61 : decode cX11_join 61 = .ok (.iload_n 1, 1) := dk_27 (dk_at dksX11_join_2 14 rfl rfl)
theorem dX11_join_62 : decode cX11_join 62 = .ok (.invokevirtual 228, 3) := dk_182 0 228 (dk_at dksX11_join_2 15 rfl rfl)
theorem dX11_join_65 : decode cX11_join 65 = .ok (.aload_n 0, 1) := dk_42 (dk_at dksX11_join_2 18 rfl rfl)
theorem dX11_join_66 : decode cX11_join 66 = .ok (.aload_n 0, 1) := dk_42 (dk_at dksX11_join_2 19 rfl rfl)
theorem dX11_join_67 : decode cX11_join 67 = .ok (.aload_n 0, 1) := dk_42 (dk_at dksX11_join_2 20 rfl rfl)
theorem dX11_join_68 : decode cX11_join 68 = .ok (.getfield 131, 3) := dk_180 0 131 (dk_at dksX11_join_2 21 rfl rfl)
theorem dX11_join_71 : decode cX11_join 71 = .ok (.aload_n 0, 1) := dk_42 (dk_at dksX11_join_3 0 rfl rfl)
theorem dX11_join_72 : decode cX11_join 72 = .ok (.iload_n 2, 1) := dk_28 (dk_at dksX11_join_3 1 rfl rfl)
theorem dX11_join_73 : decode cX11_join 73 = .ok (.iconst 0, 1) := dk_3 (dk_at dksX11_join_3 2 rfl rfl)
theorem dX11_join_74 : decode cX11_join 74 = .ok (.invokevirtual 143, 3) := dk_182 0 143 (dk_at dksX11_join_3 3 rfl rfl)
theorem dX11_join_77 : decode cX11_join 77 = .ok (.invokevirtual 86, 3) := dk_182 0 86 (dk_at dksX11_join_3 6 rfl rfl)
theorem dX11_join_80 : decode cX11_join 80 = .ok (.aload_n 0, 1) := dk_42 (dk_at dksX11_join_3 9 rfl rfl)
theorem dX11_join_81 : decode cX11_join 81 = .ok (.aload_n 0, 1) := dk_42 (dk_at dksX11_join_3 10 rfl rfl)
theorem dX11_join_82 : decode cX11_join 82 = .ok (.getfield 134, 3) := dk_180 0 134 (dk_at dksX11_join_3 11 rfl rfl)
theorem dX11_join_85 : decode cX11_join 85 = .ok (.aload_n 0, 1) := dk_42 (dk_at dksX11_join_3 14 rfl rfl)
theorem dX11_join_86 : decode cX11_join 86 = .ok (.iload_n 2, 1) := dk_28 (dk_at dksX11_join_3 15 rfl rfl)
theorem dX11_join_87 : decode cX11_join 87 = .ok (.iconst 2, 1) := dk_5 (dk_at dksX11_join_3 16 rfl rfl)
theorem dX11_join_88 : decode cX11_join 88 = .ok (.invokevirtual 143, 3) := dk_182 0 143 (dk_at dksX11_join_3 17 rfl rfl)
theorem dX11_join_91 : decode cX11_join 91 = .ok (.invokevirtual 86, 3) := dk_182 0 86 (dk_at dksX11_join_3 20 rfl rfl)
theorem dX11_join_94 : decode cX11_join 94 = .ok (.invokevirtual 110, 3) := dk_182 0 110 (dk_at dksX11_join_4 0 rfl rfl)
theorem dX11_join_97 : decode cX11_join 97 = .ok (.istore_n 3, 1) := dk_62 (dk_at dksX11_join_4 3 rfl rfl)
theorem dX11_join_98 : decode cX11_join 98 = .ok (.aload_n 0, 1) := dk_42 (dk_at dksX11_join_4 4 rfl rfl)
theorem dX11_join_99 : decode cX11_join 99 = .ok (.aload_n 0, 1) := dk_42 (dk_at dksX11_join_4 5 rfl rfl)
theorem dX11_join_100 : decode cX11_join 100 = .ok (.aload_n 0, 1) := dk_42 (dk_at dksX11_join_4 6 rfl rfl)
theorem dX11_join_101 : decode cX11_join 101 = .ok (.getfield 131, 3) := dk_180 0 131 (dk_at dksX11_join_4 7 rfl rfl)
theorem dX11_join_104 : decode cX11_join 104 = .ok (.aload_n 0, 1) := dk_42 (dk_at dksX11_join_4 10 rfl rfl)
theorem dX11_join_105 : decode cX11_join 105 = .ok (.iload_n 2, 1) := dk_28 (dk_at dksX11_join_4 11 rfl rfl)
theorem dX11_join_106 : decode cX11_join 106 = .ok (.iconst 1, 1) := dk_4 (dk_at dksX11_join_4 12 rfl rfl)
theorem dX11_join_107 : decode cX11_join 107 = .ok (.invokevirtual 143, 3) := dk_182 0 143 (dk_at dksX11_join_4 13 rfl rfl)
theorem dX11_join_110 : decode cX11_join 110 = .ok (.invokevirtual 86, 3) := dk_182 0 86 (dk_at dksX11_join_4 16 rfl rfl)
theorem dX11_join_113 : decode cX11_join 113 = .ok (.aload_n 0, 1) := dk_42 (dk_at dksX11_join_4 19 rfl rfl)
theorem dX11_join_114 : decode cX11_join 114 = .ok (.aload_n 0, 1) := dk_42 (dk_at dksX11_join_4 20 rfl rfl)
theorem dX11_join_115 : decode cX11_join 115 = .ok (.getfield 134, 3) := dk_180 0 134 (dk_at dksX11_join_4 21 rfl rfl)
theorem dX11_join_118 : decode cX11_join 118 = .ok (.aload_n 0, 1) := dk_42 (dk_at dksX11_join_5 0 rfl rfl)
theorem dX11_join_119 : decode cX11_join 119 = .ok (.iload_n 2, 1) := dk_28 (dk_at dksX11_join_5 1 rfl rfl)
theorem dX11_join_120 : decode cX11_join 120 = .ok (.iconst 3, 1) := dk_6 (dk_at dksX11_join_5 2 rfl rfl)
theorem dX11_join_121 : decode cX11_join 121 = .ok (.invokevirtual 143, 3) := dk_182 0 143 (dk_at dksX11_join_5 3 rfl rfl)
theorem dX11_join_124 : decode cX11_join 124 = .ok (.invokevirtual 86, 3) := dk_182 0 86 (dk_at dksX11_join_5 6 rfl rfl)
theorem dX11_join_127 : decode cX11_join 127 = .ok (.invokevirtual 110, 3) := dk_182 0 110 (dk_at dksX11_join_5 9 rfl rfl)
theorem dX11_join_130 : decode cX11_join 130 = .ok (.istore 4, 2) := dk_54 4 (dk_at dksX11_join_5 12 rfl rfl)
theorem dX11_join_132 : decode cX11_join 132 = .ok (.aload_n 0, 1) := dk_42 (dk_at dksX11_join_5 14 rfl rfl)
theorem dX11_join_133 : decode cX11_join 133 = .ok (.aload_n 0, 1) := dk_42 (dk_at dksX11_join_5 15 rfl rfl)
theorem dX11_join_134 : decode cX11_join 134 = .ok (.aload_n 0, 1) := dk_42 (dk_at dksX11_join_5 16 rfl rfl)
theorem dX11_join_135 : decode cX11_join 135 = .ok (.getfield 137, 3) := dk_180 0 137 (dk_at dksX11_join_5 17 rfl rfl)
theorem dX11_join_138 : decode cX11_join 138 = .ok (.aload_n 0, 1) := dk_42 (dk_at dksX11_join_5 20 rfl rfl)
theorem dX11_join_139 : decode cX11_join 139 = .ok (.iload_n 2, 1) := dk_28 (dk_at dksX11_join_5 21 rfl rfl)
theorem dX11_join_140 : decode cX11_join 140 = .ok (.iconst 0, 1) := dk_3 (dk_at dksX11_join_5 22 rfl rfl)
theorem dX11_join_141 : decode cX11_join 141 = .ok (.invokevirtual 143, 3) := dk_182 0 143 (dk_at dksX11_join_6 0 rfl rfl)
theorem dX11_join_144 : decode cX11_join 144 = .ok (.invokevirtual 86, 3) := dk_182 0 86 (dk_at dksX11_join_6 3 rfl rfl)
theorem dX11_join_147 : decode cX11_join 147 = .ok (.aload_n 0, 1) := dk_42 (dk_at dksX11_join_6 6 rfl rfl)
theorem dX11_join_148 : decode cX11_join 148 = .ok (.aload_n 0, 1) := dk_42 (dk_at dksX11_join_6 7 rfl rfl)
theorem dX11_join_149 : decode cX11_join 149 = .ok (.getfield 140, 3) := dk_180 0 140 (dk_at dksX11_join_6 8 rfl rfl)
theorem dX11_join_152 : decode cX11_join 152 = .ok (.aload_n 0, 1) := dk_42 (dk_at dksX11_join_6 11 rfl rfl)
theorem dX11_join_153 : decode cX11_join 153 = .ok (.iload_n 2, 1) := dk_28 (dk_at dksX11_join_6 12 rfl rfl)
theorem dX11_join_154 : decode cX11_join 154 = .ok (.iconst 2, 1) := dk_5 (dk_at dksX11_join_6 13 rfl rfl)
theorem dX11_join_155 : decode cX11_join 155 = .ok (.invokevirtual 143, 3) := dk_182 0 143 (dk_at dksX11_join_6 14 rfl rfl)
theorem dX11_join_158 : decode cX11_join 158 = .ok (.invokevirtual 86, 3) := dk_182 0 86 (dk_at dksX11_join_6 17 rfl rfl)
theorem dX11_join_161 : decode cX11_join 161 = .ok (.invokevirtual 110, 3) := dk_182 0 110 (dk_at dksX11_join_6 20 rfl rfl)
theorem dX11_join_164 : decode cX11_join 164 = .ok (.istore 5, 2) := dk_54 5 (dk_at dksX11_join_7 0 rfl rfl)
theorem dX11_join_166 : decode cX11_join 166 = .ok (.aload_n 0, 1) := dk_42 (dk_at dksX11_join_7 2 rfl rfl)
theorem dX11_join_167 : decode cX11_join 167 = .ok (.aload_n 0, 1) := dk_42 (dk_at dksX11_join_7 3 rfl rfl)
theorem dX11_join_168 : decode cX11_join 168 = .ok (.aload_n 0, 1) := dk_42 (dk_at dksX11_join_7 4 rfl rfl)
theorem dX11_join_169 : decode cX11_join 169 = .ok (.getfield 137, 3) := dk_180 0 137 (dk_at dksX11_join_7 5 rfl rfl)
theorem dX11_join_172 : decode cX11_join 172 = .ok (.aload_n 0, 1) := dk_42 (dk_at dksX11_join_7 8 rfl rfl)
theorem dX11_join_173 : decode cX11_join 173 = .ok (.iload_n 2, 1) := dk_28 (dk_at dksX11_join_7 9 rfl rfl)
theorem dX11_join_174 : decode cX11_join 174 = .ok (.iconst 1, 1) := dk_4 (dk_at dksX11_join_7 10 rfl rfl)
theorem dX11_join_175 : decode cX11_join 175 = .ok (.invokevirtual 143, 3) := dk_182 0 143 (dk_at dksX11_join_7 11 rfl rfl)
theorem dX11_join_178 : decode cX11_join 178 = .ok (.invokevirtual 86, 3) := dk_182 0 86 (dk_at dksX11_join_7 14 rfl rfl)
theorem dX11_join_181 : decode cX11_join 181 = .ok (.aload_n 0, 1) := dk_42 (dk_at dksX11_join_7 17 rfl rfl)
theorem dX11_join_182 : decode cX11_join 182 = .ok (.aload_n 0, 1) := dk_42 (dk_at dksX11_join_7 18 rfl rfl)
theorem dX11_join_183 : decode cX11_join 183 = .ok (.getfield 140, 3) := dk_180 0 140 (dk_at dksX11_join_7 19 rfl rfl)
theorem dX11_join_186 : decode cX11_join 186 = .ok (.aload_n 0, 1) := dk_42 (dk_at dksX11_join_7 22 rfl rfl)
theorem dX11_join_187 : decode cX11_join 187 = .ok (.iload_n 2, 1) := dk_28 (dk_at dksX11_join_7 23 rfl rfl)
theorem dX11_join_188 : decode cX11_join 188 = .ok (.iconst 3, 1) := dk_6 (dk_at dksX11_join_8 0 rfl rfl)
theorem dX11_join_189 : decode cX11_join 189 = .ok (.invokevirtual 143, 3) := dk_182 0 143 (dk_at dksX11_join_8 1 rfl rfl)
theorem dX11_join_192 : decode cX11_join 192 = .ok (.invokevirtual 86, 3) := dk_182 0 86 (dk_at dksX11_join_8 4 rfl rfl)
theorem dX11_join_195 : decode cX11_join 195 = .ok (.invokevirtual 110, 3) := dk_182 0 110 (dk_at dksX11_join_8 7 rfl rfl)
theorem dX11_join_198 : decode cX11_join 198 = .ok (.istore 6, 2) := dk_54 6 (dk_at dksX11_join_8 10 rfl rfl)
theorem dX11_join_200 : decode cX11_join 200 = .ok (.aload_n 0, 1) := dk_42 (dk_at dksX11_join_8 12 rfl rfl)
theorem dX11_join_201 : decode cX11_join 201 = .ok (.iload_n 3, 1) := dk_29 (dk_at dksX11_join_8 13 rfl rfl)
theorem dX11_join_202 : decode cX11_join 202 = .ok (.iload 4, 2) := dk_21 4 (dk_at dksX11_join_8 14 rfl rfl)
theorem dX11_join_204 : decode cX11_join 204 = .ok (.iload 5, 2) := dk_21 5 (dk_at dksX11_join_8 16 rfl rfl)
theorem dX11_join_206 : decode cX11_join 206 = .ok (.iload 6, 2) := dk_21 6 (dk_at dksX11_join_8 18 rfl rfl)
theorem dX11_join_208 : decode cX11_join 208 = .ok (.invokevirtual 146, 3) := dk_182 0 146 (dk_at dksX11_join_8 20 rfl rfl)
theorem dX11_join_211 : decode cX11_join 211 = .ok (.aload_n 0, 1) := dk_42 (dk_at dksX11_join_8 23 rfl rfl)
theorem dX11_join_212 : decode cX11_join 212 = .ok (.invokevirtual 222, 3) := dk_182 0 222 (dk_at dksX11_join_9 0 rfl rfl)
theorem dX11_join_215 : decode cX11_join 215 = .ok (.ireturn, 1) := dk_172 (dk_at dksX11_join_9 3 rfl rfl)
abbrev cX11_noTable : ByteArray := prog_18_method_9_code
def yX11_noTable : MethodName := ⟨RX11, "noTable", "(I)Z"⟩
def dkwX11_noTable_0 : List UInt8 := [27, 3, 42, 180, 0, 13, 5, 46, 4, 100, 184, 0, 68, 154, 0, 7, 4, 167, 0, 4, 3, 172]
abbrev dktX11_noTable_0 : List UInt8 := dkwX11_noTable_0 ++ []
theorem dksX11_noTable_0 : cX11_noTable.data.toList.drop 0 = dktX11_noTable_0 := by decide +kernel
theorem dX11_noTable_0 : decode cX11_noTable 0 = .ok (.iload_n 1, 1) := dk_27 (dk_at dksX11_noTable_0 0 rfl rfl)
theorem dX11_noTable_1 : decode cX11_noTable 1 = .ok (.iconst 0, 1) := dk_3 (dk_at dksX11_noTable_0 1 rfl rfl)
theorem dX11_noTable_2 : decode cX11_noTable 2 = .ok (.aload_n 0, 1) := dk_42 (dk_at dksX11_noTable_0 2 rfl rfl)
theorem dX11_noTable_3 : decode cX11_noTable 3 = .ok (.getfield 13, 3) := dk_180 0 13 (dk_at dksX11_noTable_0 3 rfl rfl)
theorem dX11_noTable_6 : decode cX11_noTable 6 = .ok (.iconst 2, 1) := dk_5 (dk_at dksX11_noTable_0 6 rfl rfl)
theorem dX11_noTable_7 : decode cX11_noTable 7 = .ok (.iaload, 1) := dk_46 (dk_at dksX11_noTable_0 7 rfl rfl)
theorem dX11_noTable_8 : decode cX11_noTable 8 = .ok (.iconst 1, 1) := dk_4 (dk_at dksX11_noTable_0 8 rfl rfl)
theorem dX11_noTable_9 : decode cX11_noTable 9 = .ok (.isub, 1) := dk_100 (dk_at dksX11_noTable_0 9 rfl rfl)
theorem dX11_noTable_10 : decode cX11_noTable 10 = .ok (.invokestatic 68, 3) := dk_184 0 68 (dk_at dksX11_noTable_0 10 rfl rfl)
theorem dX11_noTable_13 : decode cX11_noTable 13 = .ok (.ifCond .ne 7, 3) := dk_154 0 7 (dk_at dksX11_noTable_0 13 rfl rfl)
theorem dX11_noTable_16 : decode cX11_noTable 16 = .ok (.iconst 1, 1) := dk_4 (dk_at dksX11_noTable_0 16 rfl rfl)
theorem dX11_noTable_17 : decode cX11_noTable 17 = .ok (.goto 4, 3) := dk_167 0 4 (dk_at dksX11_noTable_0 17 rfl rfl)
theorem dX11_noTable_20 : decode cX11_noTable 20 = .ok (.iconst 0, 1) := dk_3 (dk_at dksX11_noTable_0 20 rfl rfl)
theorem dX11_noTable_21 : decode cX11_noTable 21 = .ok (.ireturn, 1) := dk_172 (dk_at dksX11_noTable_0 21 rfl rfl)
abbrev cX11_tables : ByteArray := prog_18_method_34_code
def yX11_tables : MethodName := ⟨RX11, "tables", "(I)V"⟩
def dkwX11_tables_1 : List UInt8 := [182, 0, 143, 182, 0, 146, 177]
abbrev dktX11_tables_1 : List UInt8 := dkwX11_tables_1 ++ []
def dkwX11_tables_0 : List UInt8 := [42, 42, 27, 3, 182, 0, 143, 42, 27, 4, 182, 0, 143, 42, 27, 5, 182, 0, 143, 42, 27, 6]
abbrev dktX11_tables_0 : List UInt8 := dkwX11_tables_0 ++ dktX11_tables_1
theorem dksX11_tables_0 : cX11_tables.data.toList.drop 0 = dktX11_tables_0 := by decide +kernel
theorem dksX11_tables_1 : cX11_tables.data.toList.drop 22 = dktX11_tables_1 := dk_seg dksX11_tables_0 22 rfl rfl
theorem dX11_tables_0 : decode cX11_tables 0 = .ok (.aload_n 0, 1) := dk_42 (dk_at dksX11_tables_0 0 rfl rfl)
theorem dX11_tables_1 : decode cX11_tables 1 = .ok (.aload_n 0, 1) := dk_42 (dk_at dksX11_tables_0 1 rfl rfl)
theorem dX11_tables_2 : decode cX11_tables 2 = .ok (.iload_n 1, 1) := dk_27 (dk_at dksX11_tables_0 2 rfl rfl)
theorem dX11_tables_3 : decode cX11_tables 3 = .ok (.iconst 0, 1) := dk_3 (dk_at dksX11_tables_0 3 rfl rfl)
theorem dX11_tables_4 : decode cX11_tables 4 = .ok (.invokevirtual 143, 3) := dk_182 0 143 (dk_at dksX11_tables_0 4 rfl rfl)
theorem dX11_tables_7 : decode cX11_tables 7 = .ok (.aload_n 0, 1) := dk_42 (dk_at dksX11_tables_0 7 rfl rfl)
theorem dX11_tables_8 : decode cX11_tables 8 = .ok (.iload_n 1, 1) := dk_27 (dk_at dksX11_tables_0 8 rfl rfl)
theorem dX11_tables_9 : decode cX11_tables 9 = .ok (.iconst 1, 1) := dk_4 (dk_at dksX11_tables_0 9 rfl rfl)
theorem dX11_tables_10 : decode cX11_tables 10 = .ok (.invokevirtual 143, 3) := dk_182 0 143 (dk_at dksX11_tables_0 10 rfl rfl)
theorem dX11_tables_13 : decode cX11_tables 13 = .ok (.aload_n 0, 1) := dk_42 (dk_at dksX11_tables_0 13 rfl rfl)
theorem dX11_tables_14 : decode cX11_tables 14 = .ok (.iload_n 1, 1) := dk_27 (dk_at dksX11_tables_0 14 rfl rfl)
theorem dX11_tables_15 : decode cX11_tables 15 = .ok (.iconst 2, 1) := dk_5 (dk_at dksX11_tables_0 15 rfl rfl)
theorem dX11_tables_16 : decode cX11_tables 16 = .ok (.invokevirtual 143, 3) := dk_182 0 143 (dk_at dksX11_tables_0 16 rfl rfl)
theorem dX11_tables_19 : decode cX11_tables 19 = .ok (.aload_n 0, 1) := dk_42 (dk_at dksX11_tables_0 19 rfl rfl)
theorem dX11_tables_20 : decode cX11_tables 20 = .ok (.iload_n 1, 1) := dk_27 (dk_at dksX11_tables_0 20 rfl rfl)
theorem dX11_tables_21 : decode cX11_tables 21 = .ok (.iconst 3, 1) := dk_6 (dk_at dksX11_tables_0 21 rfl rfl)
theorem dX11_tables_22 : decode cX11_tables 22 = .ok (.invokevirtual 143, 3) := dk_182 0 143 (dk_at dksX11_tables_1 0 rfl rfl)
theorem dX11_tables_25 : decode cX11_tables 25 = .ok (.invokevirtual 146, 3) := dk_182 0 146 (dk_at dksX11_tables_1 3 rfl rfl)
theorem dX11_tables_28 : decode cX11_tables 28 = .ok (.return_, 1) := dk_177 (dk_at dksX11_tables_1 6 rfl rfl)
abbrev cX11_ofTable : ByteArray := prog_18_method_14_code
def yX11_ofTable : MethodName := ⟨RX11, "ofTable", "(II)I"⟩
def dkwX11_ofTable_0 : List UInt8 := [42, 180, 0, 13, 17, 0, 166, 7, 27, 104, 96, 28, 96, 46, 172]
abbrev dktX11_ofTable_0 : List UInt8 := dkwX11_ofTable_0 ++ []
theorem dksX11_ofTable_0 : cX11_ofTable.data.toList.drop 0 = dktX11_ofTable_0 := by decide +kernel
theorem dX11_ofTable_0 : decode cX11_ofTable 0 = .ok (.aload_n 0, 1) := dk_42 (dk_at dksX11_ofTable_0 0 rfl rfl)
theorem dX11_ofTable_1 : decode cX11_ofTable 1 = .ok (.getfield 13, 3) := dk_180 0 13 (dk_at dksX11_ofTable_0 1 rfl rfl)
theorem dX11_ofTable_4 : decode cX11_ofTable 4 = .ok (.sipush 166, 3) := dk_17 0 166 (dk_at dksX11_ofTable_0 4 rfl rfl)
theorem dX11_ofTable_7 : decode cX11_ofTable 7 = .ok (.iconst 4, 1) := dk_7 (dk_at dksX11_ofTable_0 7 rfl rfl)
theorem dX11_ofTable_8 : decode cX11_ofTable 8 = .ok (.iload_n 1, 1) := dk_27 (dk_at dksX11_ofTable_0 8 rfl rfl)
theorem dX11_ofTable_9 : decode cX11_ofTable 9 = .ok (.imul, 1) := dk_104 (dk_at dksX11_ofTable_0 9 rfl rfl)
theorem dX11_ofTable_10 : decode cX11_ofTable 10 = .ok (.iadd, 1) := dk_96 (dk_at dksX11_ofTable_0 10 rfl rfl)
theorem dX11_ofTable_11 : decode cX11_ofTable 11 = .ok (.iload_n 2, 1) := dk_28 (dk_at dksX11_ofTable_0 11 rfl rfl)
theorem dX11_ofTable_12 : decode cX11_ofTable 12 = .ok (.iadd, 1) := dk_96 (dk_at dksX11_ofTable_0 12 rfl rfl)
theorem dX11_ofTable_13 : decode cX11_ofTable 13 = .ok (.iaload, 1) := dk_46 (dk_at dksX11_ofTable_0 13 rfl rfl)
theorem dX11_ofTable_14 : decode cX11_ofTable 14 = .ok (.ireturn, 1) := dk_172 (dk_at dksX11_ofTable_0 14 rfl rfl)
abbrev cX11_plus : ByteArray := prog_18_method_17_code
def yX11_plus : MethodName := ⟨RX11, "plus", "(II)I"⟩
def dkwX11_plus_0 : List UInt8 := [27, 28, 96, 42, 182, 0, 76, 112, 172]
abbrev dktX11_plus_0 : List UInt8 := dkwX11_plus_0 ++ []
theorem dksX11_plus_0 : cX11_plus.data.toList.drop 0 = dktX11_plus_0 := by decide +kernel
theorem dX11_plus_0 : decode cX11_plus 0 = .ok (.iload_n 1, 1) := dk_27 (dk_at dksX11_plus_0 0 rfl rfl)
theorem dX11_plus_1 : decode cX11_plus 1 = .ok (.iload_n 2, 1) := dk_28 (dk_at dksX11_plus_0 1 rfl rfl)
theorem dX11_plus_2 : decode cX11_plus 2 = .ok (.iadd, 1) := dk_96 (dk_at dksX11_plus_0 2 rfl rfl)
theorem dX11_plus_3 : decode cX11_plus 3 = .ok (.aload_n 0, 1) := dk_42 (dk_at dksX11_plus_0 3 rfl rfl)
theorem dX11_plus_4 : decode cX11_plus 4 = .ok (.invokevirtual 76, 3) := dk_182 0 76 (dk_at dksX11_plus_0 4 rfl rfl)
theorem dX11_plus_7 : decode cX11_plus 7 = .ok (.irem, 1) := dk_112 (dk_at dksX11_plus_0 7 rfl rfl)
theorem dX11_plus_8 : decode cX11_plus 8 = .ok (.ireturn, 1) := dk_172 (dk_at dksX11_plus_0 8 rfl rfl)
abbrev cX11_turn : ByteArray := prog_18_method_61_code
def yX11_turn : MethodName := ⟨RX11, "turn", "(I)I"⟩
def dkwX11_turn_2 : List UInt8 := [182, 0, 228, 42, 182, 0, 235, 42, 182, 0, 222, 172]
abbrev dktX11_turn_2 : List UInt8 := dkwX11_turn_2 ++ []
def dkwX11_turn_1 : List UInt8 := [46, 16, 8, 160, 0, 7, 4, 167, 0, 4, 3, 5, 182, 0, 215, 153, 0, 5, 3, 172, 42, 27]
abbrev dktX11_turn_1 : List UInt8 := dkwX11_turn_1 ++ dktX11_turn_2
def dkwX11_turn_0 : List UInt8 := [42, 3, 181, 0, 3, 42, 42, 27, 182, 0, 225, 4, 182, 0, 215, 154, 0, 27, 42, 42, 180, 0, 13, 5]
abbrev dktX11_turn_0 : List UInt8 := dkwX11_turn_0 ++ dktX11_turn_1
theorem dksX11_turn_0 : cX11_turn.data.toList.drop 0 = dktX11_turn_0 := by decide +kernel
theorem dksX11_turn_1 : cX11_turn.data.toList.drop 24 = dktX11_turn_1 := dk_seg dksX11_turn_0 24 rfl rfl
theorem dksX11_turn_2 : cX11_turn.data.toList.drop 46 = dktX11_turn_2 := dk_seg dksX11_turn_1 22 rfl rfl
theorem dX11_turn_0 : decode cX11_turn 0 = .ok (.aload_n 0, 1) := dk_42 (dk_at dksX11_turn_0 0 rfl rfl)
theorem dX11_turn_1 : decode cX11_turn 1 = .ok (.iconst 0, 1) := dk_3 (dk_at dksX11_turn_0 1 rfl rfl)
theorem dX11_turn_2 : decode cX11_turn 2 = .ok (.putfield 3, 3) := dk_181 0 3 (dk_at dksX11_turn_0 2 rfl rfl)
theorem dX11_turn_5 : decode cX11_turn 5 = .ok (.aload_n 0, 1) := dk_42 (dk_at dksX11_turn_0 5 rfl rfl)
theorem dX11_turn_6 : decode cX11_turn 6 = .ok (.aload_n 0, 1) := dk_42 (dk_at dksX11_turn_0 6 rfl rfl)
theorem dX11_turn_7 : decode cX11_turn 7 = .ok (.iload_n 1, 1) := dk_27 (dk_at dksX11_turn_0 7 rfl rfl)
theorem dX11_turn_8 : decode cX11_turn 8 = .ok (.invokevirtual 225, 3) := dk_182 0 225 (dk_at dksX11_turn_0 8 rfl rfl)
theorem dX11_turn_11 : decode cX11_turn 11 = .ok (.iconst 1, 1) := dk_4 (dk_at dksX11_turn_0 11 rfl rfl)
theorem dX11_turn_12 : decode cX11_turn 12 = .ok (.invokevirtual 215, 3) := dk_182 0 215 (dk_at dksX11_turn_0 12 rfl rfl)
theorem dX11_turn_15 : decode cX11_turn 15 = .ok (.ifCond .ne 27, 3) := dk_154 0 27 (dk_at dksX11_turn_0 15 rfl rfl)
theorem dX11_turn_18 : decode cX11_turn 18 = .ok (.aload_n 0, 1) := dk_42 (dk_at dksX11_turn_0 18 rfl rfl)
theorem dX11_turn_19 : decode cX11_turn 19 = .ok (.aload_n 0, 1) := dk_42 (dk_at dksX11_turn_0 19 rfl rfl)
theorem dX11_turn_20 : decode cX11_turn 20 = .ok (.getfield 13, 3) := dk_180 0 13 (dk_at dksX11_turn_0 20 rfl rfl)
theorem dX11_turn_23 : decode cX11_turn 23 = .ok (.iconst 2, 1) := dk_5 (dk_at dksX11_turn_0 23 rfl rfl)
theorem dX11_turn_24 : decode cX11_turn 24 = .ok (.iaload, 1) := dk_46 (dk_at dksX11_turn_1 0 rfl rfl)
theorem dX11_turn_25 : decode cX11_turn 25 = .ok (.bipush 8, 2) := dk_16 8 (dk_at dksX11_turn_1 1 rfl rfl)
theorem dX11_turn_27 : decode cX11_turn 27 = .ok (.if_icmp .ne 7, 3) := dk_160 0 7 (dk_at dksX11_turn_1 3 rfl rfl)
theorem dX11_turn_30 : decode cX11_turn 30 = .ok (.iconst 1, 1) := dk_4 (dk_at dksX11_turn_1 6 rfl rfl)
theorem dX11_turn_31 : decode cX11_turn 31 = .ok (.goto 4, 3) := dk_167 0 4 (dk_at dksX11_turn_1 7 rfl rfl)
theorem dX11_turn_34 : decode cX11_turn 34 = .ok (.iconst 0, 1) := dk_3 (dk_at dksX11_turn_1 10 rfl rfl)
theorem dX11_turn_35 : decode cX11_turn 35 = .ok (.iconst 2, 1) := dk_5 (dk_at dksX11_turn_1 11 rfl rfl)
theorem dX11_turn_36 : decode cX11_turn 36 = .ok (.invokevirtual 215, 3) := dk_182 0 215 (dk_at dksX11_turn_1 12 rfl rfl)
theorem dX11_turn_39 : decode cX11_turn 39 = .ok (.ifCond .eq 5, 3) := dk_153 0 5 (dk_at dksX11_turn_1 15 rfl rfl)
theorem dX11_turn_42 : decode cX11_turn 42 = .ok (.iconst 0, 1) := dk_3 (dk_at dksX11_turn_1 18 rfl rfl)
theorem dX11_turn_43 : decode cX11_turn 43 = .ok (.ireturn, 1) := dk_172 (dk_at dksX11_turn_1 19 rfl rfl)
theorem dX11_turn_44 : decode cX11_turn 44 = .ok (.aload_n 0, 1) := dk_42 (dk_at dksX11_turn_1 20 rfl rfl)
theorem dX11_turn_45 : decode cX11_turn 45 = .ok (.iload_n 1, 1) := dk_27 (dk_at dksX11_turn_1 21 rfl rfl)
theorem dX11_turn_46 : decode cX11_turn 46 = .ok (.invokevirtual 228, 3) := dk_182 0 228 (dk_at dksX11_turn_2 0 rfl rfl)
theorem dX11_turn_49 : decode cX11_turn 49 = .ok (.aload_n 0, 1) := dk_42 (dk_at dksX11_turn_2 3 rfl rfl)
theorem dX11_turn_50 : decode cX11_turn 50 = .ok (.invokevirtual 235, 3) := dk_182 0 235 (dk_at dksX11_turn_2 4 rfl rfl)
theorem dX11_turn_53 : decode cX11_turn 53 = .ok (.aload_n 0, 1) := dk_42 (dk_at dksX11_turn_2 7 rfl rfl)
theorem dX11_turn_54 : decode cX11_turn 54 = .ok (.invokevirtual 222, 3) := dk_182 0 222 (dk_at dksX11_turn_2 8 rfl rfl)
theorem dX11_turn_57 : decode cX11_turn 57 = .ok (.ireturn, 1) := dk_172 (dk_at dksX11_turn_2 11 rfl rfl)
abbrev cX11_turnsBack : ByteArray := prog_18_method_60_code
def yX11_turnsBack : MethodName := ⟨RX11, "turnsBack", "()V"⟩
def dkwX11_turnsBack_2 : List UInt8 := [42, 42, 180, 0, 131, 27, 182, 0, 86, 182, 0, 146, 177]
abbrev dktX11_turnsBack_2 : List UInt8 := dkwX11_turnsBack_2 ++ []
def dkwX11_turnsBack_1 : List UInt8 := [180, 0, 134, 182, 0, 149, 27, 182, 0, 86, 42, 42, 3, 42, 180, 0, 137, 182, 0, 149, 27, 182, 0, 86]
abbrev dktX11_turnsBack_1 : List UInt8 := dkwX11_turnsBack_1 ++ dktX11_turnsBack_2
def dkwX11_turnsBack_0 : List UInt8 := [42, 42, 182, 0, 219, 182, 0, 232, 60, 42, 42, 42, 180, 0, 140, 27, 182, 0, 86, 42, 42, 3, 42]
abbrev dktX11_turnsBack_0 : List UInt8 := dkwX11_turnsBack_0 ++ dktX11_turnsBack_1
theorem dksX11_turnsBack_0 : cX11_turnsBack.data.toList.drop 0 = dktX11_turnsBack_0 := by decide +kernel
theorem dksX11_turnsBack_1 : cX11_turnsBack.data.toList.drop 23 = dktX11_turnsBack_1 := dk_seg dksX11_turnsBack_0 23 rfl rfl
theorem dksX11_turnsBack_2 : cX11_turnsBack.data.toList.drop 47 = dktX11_turnsBack_2 := dk_seg dksX11_turnsBack_1 24 rfl rfl
theorem dX11_turnsBack_0 : decode cX11_turnsBack 0 = .ok (.aload_n 0, 1) := dk_42 (dk_at dksX11_turnsBack_0 0 rfl rfl)
theorem dX11_turnsBack_1 : decode cX11_turnsBack 1 = .ok (.aload_n 0, 1) := dk_42 (dk_at dksX11_turnsBack_0 1 rfl rfl)
theorem dX11_turnsBack_2 : decode cX11_turnsBack 2 = .ok (.invokevirtual 219, 3) := dk_182 0 219 (dk_at dksX11_turnsBack_0 2 rfl rfl)
theorem dX11_turnsBack_5 : decode cX11_turnsBack 5 = .ok (.invokevirtual 232, 3) := dk_182 0 232 (dk_at dksX11_turnsBack_0 5 rfl rfl)
theorem dX11_turnsBack_8 : decode cX11_turnsBack 8 = .ok (.istore_n 1, 1) := dk_60 (dk_at dksX11_turnsBack_0 8 rfl rfl)
theorem dX11_turnsBack_9 : decode cX11_turnsBack 9 = .ok (.aload_n 0, 1) := dk_42 (dk_at dksX11_turnsBack_0 9 rfl rfl)
theorem dX11_turnsBack_10 : decode cX11_turnsBack 10 = .ok (.aload_n 0, 1) := dk_42 (dk_at dksX11_turnsBack_0 10 rfl rfl)
theorem dX11_turnsBack_11 : decode cX11_turnsBack 11 = .ok (.aload_n 0, 1) := dk_42 (dk_at dksX11_turnsBack_0 11 rfl rfl)
theorem dX11_turnsBack_12 : decode cX11_turnsBack 12 = .ok (.getfield 140, 3) := dk_180 0 140 (dk_at dksX11_turnsBack_0 12 rfl rfl)
theorem dX11_turnsBack_15 : decode cX11_turnsBack 15 = .ok (.iload_n 1, 1) := dk_27 (dk_at dksX11_turnsBack_0 15 rfl rfl)
theorem dX11_turnsBack_16 : decode cX11_turnsBack 16 = .ok (.invokevirtual 86, 3) := dk_182 0 86 (dk_at dksX11_turnsBack_0 16 rfl rfl)
theorem dX11_turnsBack_19 : decode cX11_turnsBack 19 = .ok (.aload_n 0, 1) := dk_42 (dk_at dksX11_turnsBack_0 19 rfl rfl)
theorem dX11_turnsBack_20 : decode cX11_turnsBack 20 = .ok (.aload_n 0, 1) := dk_42 (dk_at dksX11_turnsBack_0 20 rfl rfl)
theorem dX11_turnsBack_21 : decode cX11_turnsBack 21 = .ok (.iconst 0, 1) := dk_3 (dk_at dksX11_turnsBack_0 21 rfl rfl)
theorem dX11_turnsBack_22 : decode cX11_turnsBack 22 = .ok (.aload_n 0, 1) := dk_42 (dk_at dksX11_turnsBack_0 22 rfl rfl)
theorem dX11_turnsBack_23 : decode cX11_turnsBack 23 = .ok (.getfield 134, 3) := dk_180 0 134 (dk_at dksX11_turnsBack_1 0 rfl rfl)
theorem dX11_turnsBack_26 : decode cX11_turnsBack 26 = .ok (.invokevirtual 149, 3) := dk_182 0 149 (dk_at dksX11_turnsBack_1 3 rfl rfl)
theorem dX11_turnsBack_29 : decode cX11_turnsBack 29 = .ok (.iload_n 1, 1) := dk_27 (dk_at dksX11_turnsBack_1 6 rfl rfl)
theorem dX11_turnsBack_30 : decode cX11_turnsBack 30 = .ok (.invokevirtual 86, 3) := dk_182 0 86 (dk_at dksX11_turnsBack_1 7 rfl rfl)
theorem dX11_turnsBack_33 : decode cX11_turnsBack 33 = .ok (.aload_n 0, 1) := dk_42 (dk_at dksX11_turnsBack_1 10 rfl rfl)
theorem dX11_turnsBack_34 : decode cX11_turnsBack 34 = .ok (.aload_n 0, 1) := dk_42 (dk_at dksX11_turnsBack_1 11 rfl rfl)
theorem dX11_turnsBack_35 : decode cX11_turnsBack 35 = .ok (.iconst 0, 1) := dk_3 (dk_at dksX11_turnsBack_1 12 rfl rfl)
theorem dX11_turnsBack_36 : decode cX11_turnsBack 36 = .ok (.aload_n 0, 1) := dk_42 (dk_at dksX11_turnsBack_1 13 rfl rfl)
theorem dX11_turnsBack_37 : decode cX11_turnsBack 37 = .ok (.getfield 137, 3) := dk_180 0 137 (dk_at dksX11_turnsBack_1 14 rfl rfl)
theorem dX11_turnsBack_40 : decode cX11_turnsBack 40 = .ok (.invokevirtual 149, 3) := dk_182 0 149 (dk_at dksX11_turnsBack_1 17 rfl rfl)
theorem dX11_turnsBack_43 : decode cX11_turnsBack 43 = .ok (.iload_n 1, 1) := dk_27 (dk_at dksX11_turnsBack_1 20 rfl rfl)
theorem dX11_turnsBack_44 : decode cX11_turnsBack 44 = .ok (.invokevirtual 86, 3) := dk_182 0 86 (dk_at dksX11_turnsBack_1 21 rfl rfl)
theorem dX11_turnsBack_47 : decode cX11_turnsBack 47 = .ok (.aload_n 0, 1) := dk_42 (dk_at dksX11_turnsBack_2 0 rfl rfl)
theorem dX11_turnsBack_48 : decode cX11_turnsBack 48 = .ok (.aload_n 0, 1) := dk_42 (dk_at dksX11_turnsBack_2 1 rfl rfl)
theorem dX11_turnsBack_49 : decode cX11_turnsBack 49 = .ok (.getfield 131, 3) := dk_180 0 131 (dk_at dksX11_turnsBack_2 2 rfl rfl)
theorem dX11_turnsBack_52 : decode cX11_turnsBack 52 = .ok (.iload_n 1, 1) := dk_27 (dk_at dksX11_turnsBack_2 5 rfl rfl)
theorem dX11_turnsBack_53 : decode cX11_turnsBack 53 = .ok (.invokevirtual 86, 3) := dk_182 0 86 (dk_at dksX11_turnsBack_2 6 rfl rfl)
theorem dX11_turnsBack_56 : decode cX11_turnsBack 56 = .ok (.invokevirtual 146, 3) := dk_182 0 146 (dk_at dksX11_turnsBack_2 9 rfl rfl)
theorem dX11_turnsBack_59 : decode cX11_turnsBack 59 = .ok (.return_, 1) := dk_177 (dk_at dksX11_turnsBack_2 12 rfl rfl)
abbrev cX11_inverse : ByteArray := prog_18_method_20_code
def yX11_inverse : MethodName := ⟨RX11, "inverse", "(I)I"⟩
def dkwX11_inverse_0 : List UInt8 := [42, 27, 42, 182, 0, 76, 5, 100, 182, 0, 90, 172]
abbrev dktX11_inverse_0 : List UInt8 := dkwX11_inverse_0 ++ []
theorem dksX11_inverse_0 : cX11_inverse.data.toList.drop 0 = dktX11_inverse_0 := by decide +kernel
theorem dX11_inverse_0 : decode cX11_inverse 0 = .ok (.aload_n 0, 1) := dk_42 (dk_at dksX11_inverse_0 0 rfl rfl)
theorem dX11_inverse_1 : decode cX11_inverse 1 = .ok (.iload_n 1, 1) := dk_27 (dk_at dksX11_inverse_0 1 rfl rfl)
theorem dX11_inverse_2 : decode cX11_inverse 2 = .ok (.aload_n 0, 1) := dk_42 (dk_at dksX11_inverse_0 2 rfl rfl)
theorem dX11_inverse_3 : decode cX11_inverse 3 = .ok (.invokevirtual 76, 3) := dk_182 0 76 (dk_at dksX11_inverse_0 3 rfl rfl)
theorem dX11_inverse_6 : decode cX11_inverse 6 = .ok (.iconst 2, 1) := dk_5 (dk_at dksX11_inverse_0 6 rfl rfl)
theorem dX11_inverse_7 : decode cX11_inverse 7 = .ok (.isub, 1) := dk_100 (dk_at dksX11_inverse_0 7 rfl rfl)
theorem dX11_inverse_8 : decode cX11_inverse 8 = .ok (.invokevirtual 90, 3) := dk_182 0 90 (dk_at dksX11_inverse_0 8 rfl rfl)
theorem dX11_inverse_11 : decode cX11_inverse 11 = .ok (.ireturn, 1) := dk_172 (dk_at dksX11_inverse_0 11 rfl rfl)
abbrev cX11_power : ByteArray := prog_18_method_19_code
def yX11_power : MethodName := ⟨RX11, "power", "(II)I"⟩
def dkwX11_power_1 : List UInt8 := [29, 172]
abbrev dktX11_power_1 : List UInt8 := dkwX11_power_1 ++ []
def dkwX11_power_0 : List UInt8 := [4, 62, 3, 54, 4, 21, 4, 28, 162, 0, 16, 42, 29, 27, 182, 0, 86, 62, 132, 4, 1, 167, 255, 240]
abbrev dktX11_power_0 : List UInt8 := dkwX11_power_0 ++ dktX11_power_1
theorem dksX11_power_0 : cX11_power.data.toList.drop 0 = dktX11_power_0 := by decide +kernel
theorem dksX11_power_1 : cX11_power.data.toList.drop 24 = dktX11_power_1 := dk_seg dksX11_power_0 24 rfl rfl
theorem dX11_power_0 : decode cX11_power 0 = .ok (.iconst 1, 1) := dk_4 (dk_at dksX11_power_0 0 rfl rfl)
theorem dX11_power_1 : decode cX11_power 1 = .ok (.istore_n 3, 1) := dk_62 (dk_at dksX11_power_0 1 rfl rfl)
theorem dX11_power_2 : decode cX11_power 2 = .ok (.iconst 0, 1) := dk_3 (dk_at dksX11_power_0 2 rfl rfl)
theorem dX11_power_3 : decode cX11_power 3 = .ok (.istore 4, 2) := dk_54 4 (dk_at dksX11_power_0 3 rfl rfl)
theorem dX11_power_5 : decode cX11_power 5 = .ok (.iload 4, 2) := dk_21 4 (dk_at dksX11_power_0 5 rfl rfl)
theorem dX11_power_7 : decode cX11_power 7 = .ok (.iload_n 2, 1) := dk_28 (dk_at dksX11_power_0 7 rfl rfl)
theorem dX11_power_8 : decode cX11_power 8 = .ok (.if_icmp .ge 16, 3) := dk_162 0 16 (dk_at dksX11_power_0 8 rfl rfl)
theorem dX11_power_11 : decode cX11_power 11 = .ok (.aload_n 0, 1) := dk_42 (dk_at dksX11_power_0 11 rfl rfl)
theorem dX11_power_12 : decode cX11_power 12 = .ok (.iload_n 3, 1) := dk_29 (dk_at dksX11_power_0 12 rfl rfl)
theorem dX11_power_13 : decode cX11_power 13 = .ok (.iload_n 1, 1) := dk_27 (dk_at dksX11_power_0 13 rfl rfl)
theorem dX11_power_14 : decode cX11_power 14 = .ok (.invokevirtual 86, 3) := dk_182 0 86 (dk_at dksX11_power_0 14 rfl rfl)
theorem dX11_power_17 : decode cX11_power 17 = .ok (.istore_n 3, 1) := dk_62 (dk_at dksX11_power_0 17 rfl rfl)
theorem dX11_power_18 : decode cX11_power 18 = .ok (.iinc 4 1, 3) := dk_132 4 1 (dk_at dksX11_power_0 18 rfl rfl)
theorem dX11_power_21 : decode cX11_power 21 = .ok (.goto (-16), 3) := dk_167 255 240 (dk_at dksX11_power_0 21 rfl rfl)
theorem dX11_power_24 : decode cX11_power 24 = .ok (.iload_n 3, 1) := dk_29 (dk_at dksX11_power_1 0 rfl rfl)
theorem dX11_power_25 : decode cX11_power 25 = .ok (.ireturn, 1) := dk_172 (dk_at dksX11_power_1 1 rfl rfl)
abbrev cX11_told : ByteArray := prog_18_method_62_code
def yX11_told : MethodName := ⟨RX11, "told", "(II)I"⟩
def dkwX11_told_1 : List UInt8 := [6, 184, 0, 68, 153, 0, 12, 42, 27, 28, 182, 0, 143, 167, 0, 4, 2, 172]
abbrev dktX11_told_1 : List UInt8 := dkwX11_told_1 ++ []
def dkwX11_told_0 : List UInt8 := [42, 3, 181, 0, 3, 42, 42, 27, 182, 0, 225, 4, 182, 0, 215, 153, 0, 7, 3, 167, 0, 22, 28, 3]
abbrev dktX11_told_0 : List UInt8 := dkwX11_told_0 ++ dktX11_told_1
theorem dksX11_told_0 : cX11_told.data.toList.drop 0 = dktX11_told_0 := by decide +kernel
theorem dksX11_told_1 : cX11_told.data.toList.drop 24 = dktX11_told_1 := dk_seg dksX11_told_0 24 rfl rfl
theorem dX11_told_0 : decode cX11_told 0 = .ok (.aload_n 0, 1) := dk_42 (dk_at dksX11_told_0 0 rfl rfl)
theorem dX11_told_1 : decode cX11_told 1 = .ok (.iconst 0, 1) := dk_3 (dk_at dksX11_told_0 1 rfl rfl)
theorem dX11_told_2 : decode cX11_told 2 = .ok (.putfield 3, 3) := dk_181 0 3 (dk_at dksX11_told_0 2 rfl rfl)
theorem dX11_told_5 : decode cX11_told 5 = .ok (.aload_n 0, 1) := dk_42 (dk_at dksX11_told_0 5 rfl rfl)
theorem dX11_told_6 : decode cX11_told 6 = .ok (.aload_n 0, 1) := dk_42 (dk_at dksX11_told_0 6 rfl rfl)
theorem dX11_told_7 : decode cX11_told 7 = .ok (.iload_n 1, 1) := dk_27 (dk_at dksX11_told_0 7 rfl rfl)
theorem dX11_told_8 : decode cX11_told 8 = .ok (.invokevirtual 225, 3) := dk_182 0 225 (dk_at dksX11_told_0 8 rfl rfl)
theorem dX11_told_11 : decode cX11_told 11 = .ok (.iconst 1, 1) := dk_4 (dk_at dksX11_told_0 11 rfl rfl)
theorem dX11_told_12 : decode cX11_told 12 = .ok (.invokevirtual 215, 3) := dk_182 0 215 (dk_at dksX11_told_0 12 rfl rfl)
theorem dX11_told_15 : decode cX11_told 15 = .ok (.ifCond .eq 7, 3) := dk_153 0 7 (dk_at dksX11_told_0 15 rfl rfl)
theorem dX11_told_18 : decode cX11_told 18 = .ok (.iconst 0, 1) := dk_3 (dk_at dksX11_told_0 18 rfl rfl)
theorem dX11_told_19 : decode cX11_told 19 = .ok (.goto 22, 3) := dk_167 0 22 (dk_at dksX11_told_0 19 rfl rfl)
theorem dX11_told_22 : decode cX11_told 22 = .ok (.iload_n 2, 1) := dk_28 (dk_at dksX11_told_0 22 rfl rfl)
theorem dX11_told_23 : decode cX11_told 23 = .ok (.iconst 0, 1) := dk_3 (dk_at dksX11_told_0 23 rfl rfl)
theorem dX11_told_24 : decode cX11_told 24 = .ok (.iconst 3, 1) := dk_6 (dk_at dksX11_told_1 0 rfl rfl)
theorem dX11_told_25 : decode cX11_told 25 = .ok (.invokestatic 68, 3) := dk_184 0 68 (dk_at dksX11_told_1 1 rfl rfl)
theorem dX11_told_28 : decode cX11_told 28 = .ok (.ifCond .eq 12, 3) := dk_153 0 12 (dk_at dksX11_told_1 4 rfl rfl)
theorem dX11_told_31 : decode cX11_told 31 = .ok (.aload_n 0, 1) := dk_42 (dk_at dksX11_told_1 7 rfl rfl)
theorem dX11_told_32 : decode cX11_told 32 = .ok (.iload_n 1, 1) := dk_27 (dk_at dksX11_told_1 8 rfl rfl)
theorem dX11_told_33 : decode cX11_told 33 = .ok (.iload_n 2, 1) := dk_28 (dk_at dksX11_told_1 9 rfl rfl)
theorem dX11_told_34 : decode cX11_told 34 = .ok (.invokevirtual 143, 3) := dk_182 0 143 (dk_at dksX11_told_1 10 rfl rfl)
theorem dX11_told_37 : decode cX11_told 37 = .ok (.goto 4, 3) := dk_167 0 4 (dk_at dksX11_told_1 13 rfl rfl)
theorem dX11_told_40 : decode cX11_told 40 = .ok (.iconst (-1), 1) := dk_2 (dk_at dksX11_told_1 16 rfl rfl)
theorem dX11_told_41 : decode cX11_told 41 = .ok (.ireturn, 1) := dk_172 (dk_at dksX11_told_1 17 rfl rfl)
abbrev cX11_det : ByteArray := prog_18_method_63_code
def yX11_det : MethodName := ⟨RX11, "det", "(I)I"⟩
def dkwX11_det_1 : List UInt8 := [182, 0, 228, 42, 182, 0, 219, 172]
abbrev dktX11_det_1 : List UInt8 := dkwX11_det_1 ++ []
def dkwX11_det_0 : List UInt8 := [42, 3, 181, 0, 3, 42, 42, 27, 182, 0, 225, 4, 182, 0, 215, 153, 0, 5, 3, 172, 42, 27]
abbrev dktX11_det_0 : List UInt8 := dkwX11_det_0 ++ dktX11_det_1
theorem dksX11_det_0 : cX11_det.data.toList.drop 0 = dktX11_det_0 := by decide +kernel
theorem dksX11_det_1 : cX11_det.data.toList.drop 22 = dktX11_det_1 := dk_seg dksX11_det_0 22 rfl rfl
theorem dX11_det_0 : decode cX11_det 0 = .ok (.aload_n 0, 1) := dk_42 (dk_at dksX11_det_0 0 rfl rfl)
theorem dX11_det_1 : decode cX11_det 1 = .ok (.iconst 0, 1) := dk_3 (dk_at dksX11_det_0 1 rfl rfl)
theorem dX11_det_2 : decode cX11_det 2 = .ok (.putfield 3, 3) := dk_181 0 3 (dk_at dksX11_det_0 2 rfl rfl)
theorem dX11_det_5 : decode cX11_det 5 = .ok (.aload_n 0, 1) := dk_42 (dk_at dksX11_det_0 5 rfl rfl)
theorem dX11_det_6 : decode cX11_det 6 = .ok (.aload_n 0, 1) := dk_42 (dk_at dksX11_det_0 6 rfl rfl)
theorem dX11_det_7 : decode cX11_det 7 = .ok (.iload_n 1, 1) := dk_27 (dk_at dksX11_det_0 7 rfl rfl)
theorem dX11_det_8 : decode cX11_det 8 = .ok (.invokevirtual 225, 3) := dk_182 0 225 (dk_at dksX11_det_0 8 rfl rfl)
theorem dX11_det_11 : decode cX11_det 11 = .ok (.iconst 1, 1) := dk_4 (dk_at dksX11_det_0 11 rfl rfl)
theorem dX11_det_12 : decode cX11_det 12 = .ok (.invokevirtual 215, 3) := dk_182 0 215 (dk_at dksX11_det_0 12 rfl rfl)
theorem dX11_det_15 : decode cX11_det 15 = .ok (.ifCond .eq 5, 3) := dk_153 0 5 (dk_at dksX11_det_0 15 rfl rfl)
theorem dX11_det_18 : decode cX11_det 18 = .ok (.iconst 0, 1) := dk_3 (dk_at dksX11_det_0 18 rfl rfl)
theorem dX11_det_19 : decode cX11_det 19 = .ok (.ireturn, 1) := dk_172 (dk_at dksX11_det_0 19 rfl rfl)
theorem dX11_det_20 : decode cX11_det 20 = .ok (.aload_n 0, 1) := dk_42 (dk_at dksX11_det_0 20 rfl rfl)
theorem dX11_det_21 : decode cX11_det 21 = .ok (.iload_n 1, 1) := dk_27 (dk_at dksX11_det_0 21 rfl rfl)
theorem dX11_det_22 : decode cX11_det 22 = .ok (.invokevirtual 228, 3) := dk_182 0 228 (dk_at dksX11_det_1 0 rfl rfl)
theorem dX11_det_25 : decode cX11_det 25 = .ok (.aload_n 0, 1) := dk_42 (dk_at dksX11_det_1 3 rfl rfl)
theorem dX11_det_26 : decode cX11_det 26 = .ok (.invokevirtual 219, 3) := dk_182 0 219 (dk_at dksX11_det_1 4 rfl rfl)
theorem dX11_det_29 : decode cX11_det 29 = .ok (.ireturn, 1) := dk_172 (dk_at dksX11_det_1 7 rfl rfl)
abbrev cX11_look : ByteArray := prog_18_method_64_code
def yX11_look : MethodName := ⟨RX11, "look", "(II)I"⟩
def dkwX11_look_2 : List UInt8 := [42, 27, 28, 182, 0, 96, 167, 0, 4, 2, 172]
abbrev dktX11_look_2 : List UInt8 := dkwX11_look_2 ++ []
def dkwX11_look_1 : List UInt8 := [160, 0, 11, 42, 27, 182, 0, 93, 167, 0, 26, 28, 3, 42, 27, 182, 0, 93, 184, 0, 68, 153, 0, 12]
abbrev dktX11_look_1 : List UInt8 := dkwX11_look_1 ++ dktX11_look_2
def dkwX11_look_0 : List UInt8 := [42, 3, 181, 0, 3, 42, 42, 27, 182, 0, 238, 4, 182, 0, 215, 153, 0, 5, 3, 172, 28, 2]
abbrev dktX11_look_0 : List UInt8 := dkwX11_look_0 ++ dktX11_look_1
theorem dksX11_look_0 : cX11_look.data.toList.drop 0 = dktX11_look_0 := by decide +kernel
theorem dksX11_look_1 : cX11_look.data.toList.drop 22 = dktX11_look_1 := dk_seg dksX11_look_0 22 rfl rfl
theorem dksX11_look_2 : cX11_look.data.toList.drop 46 = dktX11_look_2 := dk_seg dksX11_look_1 24 rfl rfl
theorem dX11_look_0 : decode cX11_look 0 = .ok (.aload_n 0, 1) := dk_42 (dk_at dksX11_look_0 0 rfl rfl)
theorem dX11_look_1 : decode cX11_look 1 = .ok (.iconst 0, 1) := dk_3 (dk_at dksX11_look_0 1 rfl rfl)
theorem dX11_look_2 : decode cX11_look 2 = .ok (.putfield 3, 3) := dk_181 0 3 (dk_at dksX11_look_0 2 rfl rfl)
theorem dX11_look_5 : decode cX11_look 5 = .ok (.aload_n 0, 1) := dk_42 (dk_at dksX11_look_0 5 rfl rfl)
theorem dX11_look_6 : decode cX11_look 6 = .ok (.aload_n 0, 1) := dk_42 (dk_at dksX11_look_0 6 rfl rfl)
theorem dX11_look_7 : decode cX11_look 7 = .ok (.iload_n 1, 1) := dk_27 (dk_at dksX11_look_0 7 rfl rfl)
theorem dX11_look_8 : decode cX11_look 8 = .ok (.invokevirtual 238, 3) := dk_182 0 238 (dk_at dksX11_look_0 8 rfl rfl)
theorem dX11_look_11 : decode cX11_look 11 = .ok (.iconst 1, 1) := dk_4 (dk_at dksX11_look_0 11 rfl rfl)
theorem dX11_look_12 : decode cX11_look 12 = .ok (.invokevirtual 215, 3) := dk_182 0 215 (dk_at dksX11_look_0 12 rfl rfl)
theorem dX11_look_15 : decode cX11_look 15 = .ok (.ifCond .eq 5, 3) := dk_153 0 5 (dk_at dksX11_look_0 15 rfl rfl)
theorem dX11_look_18 : decode cX11_look 18 = .ok (.iconst 0, 1) := dk_3 (dk_at dksX11_look_0 18 rfl rfl)
theorem dX11_look_19 : decode cX11_look 19 = .ok (.ireturn, 1) := dk_172 (dk_at dksX11_look_0 19 rfl rfl)
theorem dX11_look_20 : decode cX11_look 20 = .ok (.iload_n 2, 1) := dk_28 (dk_at dksX11_look_0 20 rfl rfl)
theorem dX11_look_21 : decode cX11_look 21 = .ok (.iconst (-1), 1) := dk_2 (dk_at dksX11_look_0 21 rfl rfl)
theorem dX11_look_22 : decode cX11_look 22 = .ok (.if_icmp .ne 11, 3) := dk_160 0 11 (dk_at dksX11_look_1 0 rfl rfl)
theorem dX11_look_25 : decode cX11_look 25 = .ok (.aload_n 0, 1) := dk_42 (dk_at dksX11_look_1 3 rfl rfl)
theorem dX11_look_26 : decode cX11_look 26 = .ok (.iload_n 1, 1) := dk_27 (dk_at dksX11_look_1 4 rfl rfl)
theorem dX11_look_27 : decode cX11_look 27 = .ok (.invokevirtual 93, 3) := dk_182 0 93 (dk_at dksX11_look_1 5 rfl rfl)
theorem dX11_look_30 : decode cX11_look 30 = .ok (.goto 26, 3) := dk_167 0 26 (dk_at dksX11_look_1 8 rfl rfl)
theorem dX11_look_33 : decode cX11_look 33 = .ok (.iload_n 2, 1) := dk_28 (dk_at dksX11_look_1 11 rfl rfl)
theorem dX11_look_34 : decode cX11_look 34 = .ok (.iconst 0, 1) := dk_3 (dk_at dksX11_look_1 12 rfl rfl)
theorem dX11_look_35 : decode cX11_look 35 = .ok (.aload_n 0, 1) := dk_42 (dk_at dksX11_look_1 13 rfl rfl)
theorem dX11_look_36 : decode cX11_look 36 = .ok (.iload_n 1, 1) := dk_27 (dk_at dksX11_look_1 14 rfl rfl)
theorem dX11_look_37 : decode cX11_look 37 = .ok (.invokevirtual 93, 3) := dk_182 0 93 (dk_at dksX11_look_1 15 rfl rfl)
theorem dX11_look_40 : decode cX11_look 40 = .ok (.invokestatic 68, 3) := dk_184 0 68 (dk_at dksX11_look_1 18 rfl rfl)
theorem dX11_look_43 : decode cX11_look 43 = .ok (.ifCond .eq 12, 3) := dk_153 0 12 (dk_at dksX11_look_1 21 rfl rfl)
theorem dX11_look_46 : decode cX11_look 46 = .ok (.aload_n 0, 1) := dk_42 (dk_at dksX11_look_2 0 rfl rfl)
theorem dX11_look_47 : decode cX11_look 47 = .ok (.iload_n 1, 1) := dk_27 (dk_at dksX11_look_2 1 rfl rfl)
theorem dX11_look_48 : decode cX11_look 48 = .ok (.iload_n 2, 1) := dk_28 (dk_at dksX11_look_2 2 rfl rfl)
theorem dX11_look_49 : decode cX11_look 49 = .ok (.invokevirtual 96, 3) := dk_182 0 96 (dk_at dksX11_look_2 3 rfl rfl)
theorem dX11_look_52 : decode cX11_look 52 = .ok (.goto 4, 3) := dk_167 0 4 (dk_at dksX11_look_2 6 rfl rfl)
theorem dX11_look_55 : decode cX11_look 55 = .ok (.iconst (-1), 1) := dk_2 (dk_at dksX11_look_2 9 rfl rfl)
theorem dX11_look_56 : decode cX11_look 56 = .ok (.ireturn, 1) := dk_172 (dk_at dksX11_look_2 10 rfl rfl)
abbrev cX11_noForm : ByteArray := prog_18_method_8_code
def yX11_noForm : MethodName := ⟨RX11, "noForm", "(I)Z"⟩
def dkwX11_noForm_0 : List UInt8 := [27, 3, 42, 180, 0, 13, 4, 46, 4, 100, 184, 0, 68, 154, 0, 7, 4, 167, 0, 4, 3, 172]
abbrev dktX11_noForm_0 : List UInt8 := dkwX11_noForm_0 ++ []
theorem dksX11_noForm_0 : cX11_noForm.data.toList.drop 0 = dktX11_noForm_0 := by decide +kernel
theorem dX11_noForm_0 : decode cX11_noForm 0 = .ok (.iload_n 1, 1) := dk_27 (dk_at dksX11_noForm_0 0 rfl rfl)
theorem dX11_noForm_1 : decode cX11_noForm 1 = .ok (.iconst 0, 1) := dk_3 (dk_at dksX11_noForm_0 1 rfl rfl)
theorem dX11_noForm_2 : decode cX11_noForm 2 = .ok (.aload_n 0, 1) := dk_42 (dk_at dksX11_noForm_0 2 rfl rfl)
theorem dX11_noForm_3 : decode cX11_noForm 3 = .ok (.getfield 13, 3) := dk_180 0 13 (dk_at dksX11_noForm_0 3 rfl rfl)
theorem dX11_noForm_6 : decode cX11_noForm 6 = .ok (.iconst 1, 1) := dk_4 (dk_at dksX11_noForm_0 6 rfl rfl)
theorem dX11_noForm_7 : decode cX11_noForm 7 = .ok (.iaload, 1) := dk_46 (dk_at dksX11_noForm_0 7 rfl rfl)
theorem dX11_noForm_8 : decode cX11_noForm 8 = .ok (.iconst 1, 1) := dk_4 (dk_at dksX11_noForm_0 8 rfl rfl)
theorem dX11_noForm_9 : decode cX11_noForm 9 = .ok (.isub, 1) := dk_100 (dk_at dksX11_noForm_0 9 rfl rfl)
theorem dX11_noForm_10 : decode cX11_noForm 10 = .ok (.invokestatic 68, 3) := dk_184 0 68 (dk_at dksX11_noForm_0 10 rfl rfl)
theorem dX11_noForm_13 : decode cX11_noForm 13 = .ok (.ifCond .ne 7, 3) := dk_154 0 7 (dk_at dksX11_noForm_0 13 rfl rfl)
theorem dX11_noForm_16 : decode cX11_noForm 16 = .ok (.iconst 1, 1) := dk_4 (dk_at dksX11_noForm_0 16 rfl rfl)
theorem dX11_noForm_17 : decode cX11_noForm 17 = .ok (.goto 4, 3) := dk_167 0 4 (dk_at dksX11_noForm_0 17 rfl rfl)
theorem dX11_noForm_20 : decode cX11_noForm 20 = .ok (.iconst 0, 1) := dk_3 (dk_at dksX11_noForm_0 20 rfl rfl)
theorem dX11_noForm_21 : decode cX11_noForm 21 = .ok (.ireturn, 1) := dk_172 (dk_at dksX11_noForm_0 21 rfl rfl)
abbrev cX11_degreeOf : ByteArray := prog_18_method_12_code
def yX11_degreeOf : MethodName := ⟨RX11, "degreeOf", "(I)I"⟩
def dkwX11_degreeOf_0 : List UInt8 := [42, 180, 0, 13, 27, 184, 0, 72, 46, 172]
abbrev dktX11_degreeOf_0 : List UInt8 := dkwX11_degreeOf_0 ++ []
theorem dksX11_degreeOf_0 : cX11_degreeOf.data.toList.drop 0 = dktX11_degreeOf_0 := by decide +kernel
theorem dX11_degreeOf_0 : decode cX11_degreeOf 0 = .ok (.aload_n 0, 1) := dk_42 (dk_at dksX11_degreeOf_0 0 rfl rfl)
theorem dX11_degreeOf_1 : decode cX11_degreeOf 1 = .ok (.getfield 13, 3) := dk_180 0 13 (dk_at dksX11_degreeOf_0 1 rfl rfl)
theorem dX11_degreeOf_4 : decode cX11_degreeOf 4 = .ok (.iload_n 1, 1) := dk_27 (dk_at dksX11_degreeOf_0 4 rfl rfl)
theorem dX11_degreeOf_5 : decode cX11_degreeOf 5 = .ok (.invokestatic 72, 3) := dk_184 0 72 (dk_at dksX11_degreeOf_0 5 rfl rfl)
theorem dX11_degreeOf_8 : decode cX11_degreeOf 8 = .ok (.iaload, 1) := dk_46 (dk_at dksX11_degreeOf_0 8 rfl rfl)
theorem dX11_degreeOf_9 : decode cX11_degreeOf 9 = .ok (.ireturn, 1) := dk_172 (dk_at dksX11_degreeOf_0 9 rfl rfl)
abbrev cX11_numberOf : ByteArray := prog_18_method_13_code
def yX11_numberOf : MethodName := ⟨RX11, "numberOf", "(II)I"⟩
def dkwX11_numberOf_0 : List UInt8 := [42, 180, 0, 13, 27, 184, 0, 72, 4, 96, 28, 96, 46, 172]
abbrev dktX11_numberOf_0 : List UInt8 := dkwX11_numberOf_0 ++ []
theorem dksX11_numberOf_0 : cX11_numberOf.data.toList.drop 0 = dktX11_numberOf_0 := by decide +kernel
theorem dX11_numberOf_0 : decode cX11_numberOf 0 = .ok (.aload_n 0, 1) := dk_42 (dk_at dksX11_numberOf_0 0 rfl rfl)
theorem dX11_numberOf_1 : decode cX11_numberOf 1 = .ok (.getfield 13, 3) := dk_180 0 13 (dk_at dksX11_numberOf_0 1 rfl rfl)
theorem dX11_numberOf_4 : decode cX11_numberOf 4 = .ok (.iload_n 1, 1) := dk_27 (dk_at dksX11_numberOf_0 4 rfl rfl)
theorem dX11_numberOf_5 : decode cX11_numberOf 5 = .ok (.invokestatic 72, 3) := dk_184 0 72 (dk_at dksX11_numberOf_0 5 rfl rfl)
theorem dX11_numberOf_8 : decode cX11_numberOf 8 = .ok (.iconst 1, 1) := dk_4 (dk_at dksX11_numberOf_0 8 rfl rfl)
theorem dX11_numberOf_9 : decode cX11_numberOf 9 = .ok (.iadd, 1) := dk_96 (dk_at dksX11_numberOf_0 9 rfl rfl)
theorem dX11_numberOf_10 : decode cX11_numberOf 10 = .ok (.iload_n 2, 1) := dk_28 (dk_at dksX11_numberOf_0 10 rfl rfl)
theorem dX11_numberOf_11 : decode cX11_numberOf 11 = .ok (.iadd, 1) := dk_96 (dk_at dksX11_numberOf_0 11 rfl rfl)
theorem dX11_numberOf_12 : decode cX11_numberOf 12 = .ok (.iaload, 1) := dk_46 (dk_at dksX11_numberOf_0 12 rfl rfl)
theorem dX11_numberOf_13 : decode cX11_numberOf 13 = .ok (.ireturn, 1) := dk_172 (dk_at dksX11_numberOf_0 13 rfl rfl)
abbrev cX11_at : ByteArray := prog_18_method_65_code
def yX11_at : MethodName := ⟨RX11, "at", "(III)I"⟩
def dkwX11_at_1 : List UInt8 := [182, 0, 241, 42, 16, 40, 42, 28, 133, 182, 0, 113, 42, 29, 133, 182, 0, 113, 182, 0, 244, 172]
abbrev dktX11_at_1 : List UInt8 := dkwX11_at_1 ++ []
def dkwX11_at_0 : List UInt8 := [42, 3, 181, 0, 3, 42, 42, 27, 182, 0, 238, 4, 182, 0, 215, 153, 0, 5, 3, 172, 42, 16, 40, 27]
abbrev dktX11_at_0 : List UInt8 := dkwX11_at_0 ++ dktX11_at_1
theorem dksX11_at_0 : cX11_at.data.toList.drop 0 = dktX11_at_0 := by decide +kernel
theorem dksX11_at_1 : cX11_at.data.toList.drop 24 = dktX11_at_1 := dk_seg dksX11_at_0 24 rfl rfl
theorem dX11_at_0 : decode cX11_at 0 = .ok (.aload_n 0, 1) := dk_42 (dk_at dksX11_at_0 0 rfl rfl)
theorem dX11_at_1 : decode cX11_at 1 = .ok (.iconst 0, 1) := dk_3 (dk_at dksX11_at_0 1 rfl rfl)
theorem dX11_at_2 : decode cX11_at 2 = .ok (.putfield 3, 3) := dk_181 0 3 (dk_at dksX11_at_0 2 rfl rfl)
theorem dX11_at_5 : decode cX11_at 5 = .ok (.aload_n 0, 1) := dk_42 (dk_at dksX11_at_0 5 rfl rfl)
theorem dX11_at_6 : decode cX11_at 6 = .ok (.aload_n 0, 1) := dk_42 (dk_at dksX11_at_0 6 rfl rfl)
theorem dX11_at_7 : decode cX11_at 7 = .ok (.iload_n 1, 1) := dk_27 (dk_at dksX11_at_0 7 rfl rfl)
theorem dX11_at_8 : decode cX11_at 8 = .ok (.invokevirtual 238, 3) := dk_182 0 238 (dk_at dksX11_at_0 8 rfl rfl)
theorem dX11_at_11 : decode cX11_at 11 = .ok (.iconst 1, 1) := dk_4 (dk_at dksX11_at_0 11 rfl rfl)
theorem dX11_at_12 : decode cX11_at 12 = .ok (.invokevirtual 215, 3) := dk_182 0 215 (dk_at dksX11_at_0 12 rfl rfl)
theorem dX11_at_15 : decode cX11_at 15 = .ok (.ifCond .eq 5, 3) := dk_153 0 5 (dk_at dksX11_at_0 15 rfl rfl)
theorem dX11_at_18 : decode cX11_at 18 = .ok (.iconst 0, 1) := dk_3 (dk_at dksX11_at_0 18 rfl rfl)
theorem dX11_at_19 : decode cX11_at 19 = .ok (.ireturn, 1) := dk_172 (dk_at dksX11_at_0 19 rfl rfl)
theorem dX11_at_20 : decode cX11_at 20 = .ok (.aload_n 0, 1) := dk_42 (dk_at dksX11_at_0 20 rfl rfl)
theorem dX11_at_21 : decode cX11_at 21 = .ok (.bipush 40, 2) := dk_16 40 (dk_at dksX11_at_0 21 rfl rfl)
theorem dX11_at_23 : decode cX11_at 23 = .ok (.iload_n 1, 1) := dk_27 (dk_at dksX11_at_0 23 rfl rfl)
theorem dX11_at_24 : decode cX11_at 24 = .ok (.invokevirtual 241, 3) := dk_182 0 241 (dk_at dksX11_at_1 0 rfl rfl)
theorem dX11_at_27 : decode cX11_at 27 = .ok (.aload_n 0, 1) := dk_42 (dk_at dksX11_at_1 3 rfl rfl)
theorem dX11_at_28 : decode cX11_at 28 = .ok (.bipush 40, 2) := dk_16 40 (dk_at dksX11_at_1 4 rfl rfl)
theorem dX11_at_30 : decode cX11_at 30 = .ok (.aload_n 0, 1) := dk_42 (dk_at dksX11_at_1 6 rfl rfl)
theorem dX11_at_31 : decode cX11_at 31 = .ok (.iload_n 2, 1) := dk_28 (dk_at dksX11_at_1 7 rfl rfl)
theorem dX11_at_32 : decode cX11_at 32 = .ok (.i2l, 1) := dk_133 (dk_at dksX11_at_1 8 rfl rfl)
theorem dX11_at_33 : decode cX11_at 33 = .ok (.invokevirtual 113, 3) := dk_182 0 113 (dk_at dksX11_at_1 9 rfl rfl)
theorem dX11_at_36 : decode cX11_at 36 = .ok (.aload_n 0, 1) := dk_42 (dk_at dksX11_at_1 12 rfl rfl)
theorem dX11_at_37 : decode cX11_at 37 = .ok (.iload_n 3, 1) := dk_29 (dk_at dksX11_at_1 13 rfl rfl)
theorem dX11_at_38 : decode cX11_at 38 = .ok (.i2l, 1) := dk_133 (dk_at dksX11_at_1 14 rfl rfl)
theorem dX11_at_39 : decode cX11_at 39 = .ok (.invokevirtual 113, 3) := dk_182 0 113 (dk_at dksX11_at_1 15 rfl rfl)
theorem dX11_at_42 : decode cX11_at 42 = .ok (.invokevirtual 244, 3) := dk_182 0 244 (dk_at dksX11_at_1 18 rfl rfl)
theorem dX11_at_45 : decode cX11_at 45 = .ok (.ireturn, 1) := dk_172 (dk_at dksX11_at_1 21 rfl rfl)
abbrev cX11_takes : ByteArray := prog_18_method_23_code
def yX11_takes : MethodName := ⟨RX11, "takes", "(II)V"⟩
def dkwX11_takes_1 : List UInt8 := [27, 29, 42, 28, 29, 182, 0, 96, 182, 0, 99, 132, 3, 1, 167, 255, 231, 177]
abbrev dktX11_takes_1 : List UInt8 := dkwX11_takes_1 ++ []
def dkwX11_takes_0 : List UInt8 := [42, 180, 0, 20, 27, 42, 28, 182, 0, 93, 79, 3, 62, 29, 42, 180, 0, 20, 27, 46, 163, 0, 21, 42]
abbrev dktX11_takes_0 : List UInt8 := dkwX11_takes_0 ++ dktX11_takes_1
theorem dksX11_takes_0 : cX11_takes.data.toList.drop 0 = dktX11_takes_0 := by decide +kernel
theorem dksX11_takes_1 : cX11_takes.data.toList.drop 24 = dktX11_takes_1 := dk_seg dksX11_takes_0 24 rfl rfl
theorem dX11_takes_0 : decode cX11_takes 0 = .ok (.aload_n 0, 1) := dk_42 (dk_at dksX11_takes_0 0 rfl rfl)
theorem dX11_takes_1 : decode cX11_takes 1 = .ok (.getfield 20, 3) := dk_180 0 20 (dk_at dksX11_takes_0 1 rfl rfl)
theorem dX11_takes_4 : decode cX11_takes 4 = .ok (.iload_n 1, 1) := dk_27 (dk_at dksX11_takes_0 4 rfl rfl)
theorem dX11_takes_5 : decode cX11_takes 5 = .ok (.aload_n 0, 1) := dk_42 (dk_at dksX11_takes_0 5 rfl rfl)
theorem dX11_takes_6 : decode cX11_takes 6 = .ok (.iload_n 2, 1) := dk_28 (dk_at dksX11_takes_0 6 rfl rfl)
theorem dX11_takes_7 : decode cX11_takes 7 = .ok (.invokevirtual 93, 3) := dk_182 0 93 (dk_at dksX11_takes_0 7 rfl rfl)
theorem dX11_takes_10 : decode cX11_takes 10 = .ok (.iastore, 1) := dk_79 (dk_at dksX11_takes_0 10 rfl rfl)
theorem dX11_takes_11 : decode cX11_takes 11 = .ok (.iconst 0, 1) := dk_3 (dk_at dksX11_takes_0 11 rfl rfl)
theorem dX11_takes_12 : decode cX11_takes 12 = .ok (.istore_n 3, 1) := dk_62 (dk_at dksX11_takes_0 12 rfl rfl)
theorem dX11_takes_13 : decode cX11_takes 13 = .ok (.iload_n 3, 1) := dk_29 (dk_at dksX11_takes_0 13 rfl rfl)
theorem dX11_takes_14 : decode cX11_takes 14 = .ok (.aload_n 0, 1) := dk_42 (dk_at dksX11_takes_0 14 rfl rfl)
theorem dX11_takes_15 : decode cX11_takes 15 = .ok (.getfield 20, 3) := dk_180 0 20 (dk_at dksX11_takes_0 15 rfl rfl)
theorem dX11_takes_18 : decode cX11_takes 18 = .ok (.iload_n 1, 1) := dk_27 (dk_at dksX11_takes_0 18 rfl rfl)
theorem dX11_takes_19 : decode cX11_takes 19 = .ok (.iaload, 1) := dk_46 (dk_at dksX11_takes_0 19 rfl rfl)
theorem dX11_takes_20 : decode cX11_takes 20 = .ok (.if_icmp .gt 21, 3) := dk_163 0 21 (dk_at dksX11_takes_0 20 rfl rfl)
theorem dX11_takes_23 : decode cX11_takes 23 = .ok (.aload_n 0, 1) := dk_42 (dk_at dksX11_takes_0 23 rfl rfl)
theorem dX11_takes_24 : decode cX11_takes 24 = .ok (.iload_n 1, 1) := dk_27 (dk_at dksX11_takes_1 0 rfl rfl)
theorem dX11_takes_25 : decode cX11_takes 25 = .ok (.iload_n 3, 1) := dk_29 (dk_at dksX11_takes_1 1 rfl rfl)
theorem dX11_takes_26 : decode cX11_takes 26 = .ok (.aload_n 0, 1) := dk_42 (dk_at dksX11_takes_1 2 rfl rfl)
theorem dX11_takes_27 : decode cX11_takes 27 = .ok (.iload_n 2, 1) := dk_28 (dk_at dksX11_takes_1 3 rfl rfl)
theorem dX11_takes_28 : decode cX11_takes 28 = .ok (.iload_n 3, 1) := dk_29 (dk_at dksX11_takes_1 4 rfl rfl)
theorem dX11_takes_29 : decode cX11_takes 29 = .ok (.invokevirtual 96, 3) := dk_182 0 96 (dk_at dksX11_takes_1 5 rfl rfl)
theorem dX11_takes_32 : decode cX11_takes 32 = .ok (.invokevirtual 99, 3) := dk_182 0 99 (dk_at dksX11_takes_1 8 rfl rfl)
theorem dX11_takes_35 : decode cX11_takes 35 = .ok (.iinc 3 1, 3) := dk_132 3 1 (dk_at dksX11_takes_1 11 rfl rfl)
theorem dX11_takes_38 : decode cX11_takes 38 = .ok (.goto (-25), 3) := dk_167 255 231 (dk_at dksX11_takes_1 14 rfl rfl)
theorem dX11_takes_41 : decode cX11_takes 41 = .ok (.return_, 1) := dk_177 (dk_at dksX11_takes_1 17 rfl rfl)
abbrev cX11_put : ByteArray := prog_18_method_22_code
def yX11_put : MethodName := ⟨RX11, "put", "(III)V"⟩
def dkwX11_put_0 : List UInt8 := [42, 180, 0, 23, 16, 41, 27, 104, 28, 96, 29, 79, 177]
abbrev dktX11_put_0 : List UInt8 := dkwX11_put_0 ++ []
theorem dksX11_put_0 : cX11_put.data.toList.drop 0 = dktX11_put_0 := by decide +kernel
theorem dX11_put_0 : decode cX11_put 0 = .ok (.aload_n 0, 1) := dk_42 (dk_at dksX11_put_0 0 rfl rfl)
theorem dX11_put_1 : decode cX11_put 1 = .ok (.getfield 23, 3) := dk_180 0 23 (dk_at dksX11_put_0 1 rfl rfl)
theorem dX11_put_4 : decode cX11_put 4 = .ok (.bipush 41, 2) := dk_16 41 (dk_at dksX11_put_0 4 rfl rfl)
theorem dX11_put_6 : decode cX11_put 6 = .ok (.iload_n 1, 1) := dk_27 (dk_at dksX11_put_0 6 rfl rfl)
theorem dX11_put_7 : decode cX11_put 7 = .ok (.imul, 1) := dk_104 (dk_at dksX11_put_0 7 rfl rfl)
theorem dX11_put_8 : decode cX11_put 8 = .ok (.iload_n 2, 1) := dk_28 (dk_at dksX11_put_0 8 rfl rfl)
theorem dX11_put_9 : decode cX11_put 9 = .ok (.iadd, 1) := dk_96 (dk_at dksX11_put_0 9 rfl rfl)
theorem dX11_put_10 : decode cX11_put 10 = .ok (.iload_n 3, 1) := dk_29 (dk_at dksX11_put_0 10 rfl rfl)
theorem dX11_put_11 : decode cX11_put 11 = .ok (.iastore, 1) := dk_79 (dk_at dksX11_put_0 11 rfl rfl)
theorem dX11_put_12 : decode cX11_put 12 = .ok (.return_, 1) := dk_177 (dk_at dksX11_put_0 12 rfl rfl)
abbrev cX11_valueAt : ByteArray := prog_18_method_38_code
def yX11_valueAt : MethodName := ⟨RX11, "valueAt", "(III)I"⟩
def dkwX11_valueAt_2 : List UInt8 := [182, 0, 90, 182, 0, 86, 182, 0, 86, 182, 0, 110, 54, 4, 132, 5, 1, 167, 255, 198, 21, 4, 172]
abbrev dktX11_valueAt_2 : List UInt8 := dkwX11_valueAt_2 ++ []
def dkwX11_valueAt_1 : List UInt8 := [21, 5, 182, 0, 103, 42, 42, 28, 42, 180, 0, 20, 27, 46, 21, 5, 100, 182, 0, 90, 42, 29, 21, 5]
abbrev dktX11_valueAt_1 : List UInt8 := dkwX11_valueAt_1 ++ dktX11_valueAt_2
def dkwX11_valueAt_0 : List UInt8 := [3, 54, 4, 3, 54, 5, 21, 5, 42, 180, 0, 20, 27, 46, 163, 0, 53, 42, 21, 4, 42, 42, 27]
abbrev dktX11_valueAt_0 : List UInt8 := dkwX11_valueAt_0 ++ dktX11_valueAt_1
theorem dksX11_valueAt_0 : cX11_valueAt.data.toList.drop 0 = dktX11_valueAt_0 := by decide +kernel
theorem dksX11_valueAt_1 : cX11_valueAt.data.toList.drop 23 = dktX11_valueAt_1 := dk_seg dksX11_valueAt_0 23 rfl rfl
theorem dksX11_valueAt_2 : cX11_valueAt.data.toList.drop 47 = dktX11_valueAt_2 := dk_seg dksX11_valueAt_1 24 rfl rfl
theorem dX11_valueAt_0 : decode cX11_valueAt 0 = .ok (.iconst 0, 1) := dk_3 (dk_at dksX11_valueAt_0 0 rfl rfl)
theorem dX11_valueAt_1 : decode cX11_valueAt 1 = .ok (.istore 4, 2) := dk_54 4 (dk_at dksX11_valueAt_0 1 rfl rfl)
theorem dX11_valueAt_3 : decode cX11_valueAt 3 = .ok (.iconst 0, 1) := dk_3 (dk_at dksX11_valueAt_0 3 rfl rfl)
theorem dX11_valueAt_4 : decode cX11_valueAt 4 = .ok (.istore 5, 2) := dk_54 5 (dk_at dksX11_valueAt_0 4 rfl rfl)
theorem dX11_valueAt_6 : decode cX11_valueAt 6 = .ok (.iload 5, 2) := dk_21 5 (dk_at dksX11_valueAt_0 6 rfl rfl)
theorem dX11_valueAt_8 : decode cX11_valueAt 8 = .ok (.aload_n 0, 1) := dk_42 (dk_at dksX11_valueAt_0 8 rfl rfl)
theorem dX11_valueAt_9 : decode cX11_valueAt 9 = .ok (.getfield 20, 3) := dk_180 0 20 (dk_at dksX11_valueAt_0 9 rfl rfl)
theorem dX11_valueAt_12 : decode cX11_valueAt 12 = .ok (.iload_n 1, 1) := dk_27 (dk_at dksX11_valueAt_0 12 rfl rfl)
theorem dX11_valueAt_13 : decode cX11_valueAt 13 = .ok (.iaload, 1) := dk_46 (dk_at dksX11_valueAt_0 13 rfl rfl)
theorem dX11_valueAt_14 : decode cX11_valueAt 14 = .ok (.if_icmp .gt 53, 3) := dk_163 0 53 (dk_at dksX11_valueAt_0 14 rfl rfl)
theorem dX11_valueAt_17 : decode cX11_valueAt 17 = .ok (.aload_n 0, 1) := dk_42 (dk_at dksX11_valueAt_0 17 rfl rfl)
theorem dX11_valueAt_18 : decode cX11_valueAt 18 = .ok (.iload 4, 2) := dk_21 4 (dk_at dksX11_valueAt_0 18 rfl rfl)
theorem dX11_valueAt_20 : decode cX11_valueAt 20 = .ok (.aload_n 0, 1) := dk_42 (dk_at dksX11_valueAt_0 20 rfl rfl)
theorem dX11_valueAt_21 : decode cX11_valueAt 21 = .ok (.aload_n 0, 1) := dk_42 (dk_at dksX11_valueAt_0 21 rfl rfl)
theorem dX11_valueAt_22 : decode cX11_valueAt 22 = .ok (.iload_n 1, 1) := dk_27 (dk_at dksX11_valueAt_0 22 rfl rfl)
theorem dX11_valueAt_23 : decode cX11_valueAt 23 = .ok (.iload 5, 2) := dk_21 5 (dk_at dksX11_valueAt_1 0 rfl rfl)
theorem dX11_valueAt_25 : decode cX11_valueAt 25 = .ok (.invokevirtual 103, 3) := dk_182 0 103 (dk_at dksX11_valueAt_1 2 rfl rfl)
theorem dX11_valueAt_28 : decode cX11_valueAt 28 = .ok (.aload_n 0, 1) := dk_42 (dk_at dksX11_valueAt_1 5 rfl rfl)
theorem dX11_valueAt_29 : decode cX11_valueAt 29 = .ok (.aload_n 0, 1) := dk_42 (dk_at dksX11_valueAt_1 6 rfl rfl)
theorem dX11_valueAt_30 : decode cX11_valueAt 30 = .ok (.iload_n 2, 1) := dk_28 (dk_at dksX11_valueAt_1 7 rfl rfl)
theorem dX11_valueAt_31 : decode cX11_valueAt 31 = .ok (.aload_n 0, 1) := dk_42 (dk_at dksX11_valueAt_1 8 rfl rfl)
theorem dX11_valueAt_32 : decode cX11_valueAt 32 = .ok (.getfield 20, 3) := dk_180 0 20 (dk_at dksX11_valueAt_1 9 rfl rfl)
theorem dX11_valueAt_35 : decode cX11_valueAt 35 = .ok (.iload_n 1, 1) := dk_27 (dk_at dksX11_valueAt_1 12 rfl rfl)
theorem dX11_valueAt_36 : decode cX11_valueAt 36 = .ok (.iaload, 1) := dk_46 (dk_at dksX11_valueAt_1 13 rfl rfl)
theorem dX11_valueAt_37 : decode cX11_valueAt 37 = .ok (.iload 5, 2) := dk_21 5 (dk_at dksX11_valueAt_1 14 rfl rfl)
theorem dX11_valueAt_39 : decode cX11_valueAt 39 = .ok (.isub, 1) := dk_100 (dk_at dksX11_valueAt_1 16 rfl rfl)
theorem dX11_valueAt_40 : decode cX11_valueAt 40 = .ok (.invokevirtual 90, 3) := dk_182 0 90 (dk_at dksX11_valueAt_1 17 rfl rfl)
theorem dX11_valueAt_43 : decode cX11_valueAt 43 = .ok (.aload_n 0, 1) := dk_42 (dk_at dksX11_valueAt_1 20 rfl rfl)
theorem dX11_valueAt_44 : decode cX11_valueAt 44 = .ok (.iload_n 3, 1) := dk_29 (dk_at dksX11_valueAt_1 21 rfl rfl)
theorem dX11_valueAt_45 : decode cX11_valueAt 45 = .ok (.iload 5, 2) := dk_21 5 (dk_at dksX11_valueAt_1 22 rfl rfl)
theorem dX11_valueAt_47 : decode cX11_valueAt 47 = .ok (.invokevirtual 90, 3) := dk_182 0 90 (dk_at dksX11_valueAt_2 0 rfl rfl)
theorem dX11_valueAt_50 : decode cX11_valueAt 50 = .ok (.invokevirtual 86, 3) := dk_182 0 86 (dk_at dksX11_valueAt_2 3 rfl rfl)
theorem dX11_valueAt_53 : decode cX11_valueAt 53 = .ok (.invokevirtual 86, 3) := dk_182 0 86 (dk_at dksX11_valueAt_2 6 rfl rfl)
theorem dX11_valueAt_56 : decode cX11_valueAt 56 = .ok (.invokevirtual 110, 3) := dk_182 0 110 (dk_at dksX11_valueAt_2 9 rfl rfl)
theorem dX11_valueAt_59 : decode cX11_valueAt 59 = .ok (.istore 4, 2) := dk_54 4 (dk_at dksX11_valueAt_2 12 rfl rfl)
theorem dX11_valueAt_61 : decode cX11_valueAt 61 = .ok (.iinc 5 1, 3) := dk_132 5 1 (dk_at dksX11_valueAt_2 14 rfl rfl)
theorem dX11_valueAt_64 : decode cX11_valueAt 64 = .ok (.goto (-58), 3) := dk_167 255 198 (dk_at dksX11_valueAt_2 17 rfl rfl)
theorem dX11_valueAt_67 : decode cX11_valueAt 67 = .ok (.iload 4, 2) := dk_21 4 (dk_at dksX11_valueAt_2 20 rfl rfl)
theorem dX11_valueAt_69 : decode cX11_valueAt 69 = .ok (.ireturn, 1) := dk_172 (dk_at dksX11_valueAt_2 22 rfl rfl)
abbrev cX11_of : ByteArray := prog_18_method_21_code
def yX11_of : MethodName := ⟨RX11, "of", "(II)I"⟩
def dkwX11_of_0 : List UInt8 := [42, 180, 0, 23, 16, 41, 27, 104, 28, 96, 46, 172]
abbrev dktX11_of_0 : List UInt8 := dkwX11_of_0 ++ []
theorem dksX11_of_0 : cX11_of.data.toList.drop 0 = dktX11_of_0 := by decide +kernel
theorem dX11_of_0 : decode cX11_of 0 = .ok (.aload_n 0, 1) := dk_42 (dk_at dksX11_of_0 0 rfl rfl)
theorem dX11_of_1 : decode cX11_of 1 = .ok (.getfield 23, 3) := dk_180 0 23 (dk_at dksX11_of_0 1 rfl rfl)
theorem dX11_of_4 : decode cX11_of 4 = .ok (.bipush 41, 2) := dk_16 41 (dk_at dksX11_of_0 4 rfl rfl)
theorem dX11_of_6 : decode cX11_of 6 = .ok (.iload_n 1, 1) := dk_27 (dk_at dksX11_of_0 6 rfl rfl)
theorem dX11_of_7 : decode cX11_of 7 = .ok (.imul, 1) := dk_104 (dk_at dksX11_of_0 7 rfl rfl)
theorem dX11_of_8 : decode cX11_of 8 = .ok (.iload_n 2, 1) := dk_28 (dk_at dksX11_of_0 8 rfl rfl)
theorem dX11_of_9 : decode cX11_of 9 = .ok (.iadd, 1) := dk_96 (dk_at dksX11_of_0 9 rfl rfl)
theorem dX11_of_10 : decode cX11_of 10 = .ok (.iaload, 1) := dk_46 (dk_at dksX11_of_0 10 rfl rfl)
theorem dX11_of_11 : decode cX11_of 11 = .ok (.ireturn, 1) := dk_172 (dk_at dksX11_of_0 11 rfl rfl)
abbrev cX11_mix : ByteArray := prog_18_method_67_code
def yX11_mix : MethodName := ⟨RX11, "mix", "(II)Z"⟩
def dkwX11_mix_7 : List UInt8 := [182, 0, 254, 172]
abbrev dktX11_mix_7 : List UInt8 := dkwX11_mix_7 ++ []
def dkwX11_mix_6 : List UInt8 := [182, 0, 143, 79, 132, 4, 1, 167, 255, 229, 42, 180, 0, 13, 8, 3, 79, 42, 28, 182, 0, 228, 42, 27]
abbrev dktX11_mix_6 : List UInt8 := dkwX11_mix_6 ++ dktX11_mix_7
def dkwX11_mix_5 : List UInt8 := [54, 4, 21, 4, 7, 162, 0, 27, 42, 180, 0, 13, 29, 4, 96, 21, 4, 96, 42, 28, 21, 4]
abbrev dktX11_mix_5 : List UInt8 := dkwX11_mix_5 ++ dktX11_mix_6
def dkwX11_mix_4 : List UInt8 := [17, 13, 78, 8, 42, 180, 0, 13, 7, 46, 4, 100, 104, 96, 62, 42, 180, 0, 13, 29, 27, 79, 3]
abbrev dktX11_mix_4 : List UInt8 := dkwX11_mix_4 ++ dktX11_mix_5
def dkwX11_mix_3 : List UInt8 := [96, 46, 79, 132, 3, 1, 167, 255, 230, 167, 0, 13, 42, 180, 0, 13, 7, 92, 46, 4, 96, 79]
abbrev dktX11_mix_3 : List UInt8 := dkwX11_mix_3 ++ dktX11_mix_4
def dkwX11_mix_2 : List UInt8 := [17, 13, 78, 62, 29, 8, 96, 17, 14, 22, 162, 0, 23, 42, 180, 0, 13, 29, 42, 180, 0, 13, 29, 8]
abbrev dktX11_mix_2 : List UInt8 := dkwX11_mix_2 ++ dktX11_mix_3
def dkwX11_mix_1 : List UInt8 := [167, 0, 4, 3, 4, 182, 0, 215, 153, 0, 5, 3, 172, 42, 180, 0, 13, 7, 46, 16, 40, 160, 0, 39]
abbrev dktX11_mix_1 : List UInt8 := dkwX11_mix_1 ++ dktX11_mix_2
def dkwX11_mix_0 : List UInt8 := [42, 3, 181, 0, 3, 42, 42, 27, 182, 0, 238, 154, 0, 11, 42, 28, 182, 0, 225, 153, 0, 7, 4]
abbrev dktX11_mix_0 : List UInt8 := dkwX11_mix_0 ++ dktX11_mix_1
theorem dksX11_mix_0 : cX11_mix.data.toList.drop 0 = dktX11_mix_0 := by decide +kernel
theorem dksX11_mix_1 : cX11_mix.data.toList.drop 23 = dktX11_mix_1 := dk_seg dksX11_mix_0 23 rfl rfl
theorem dksX11_mix_2 : cX11_mix.data.toList.drop 47 = dktX11_mix_2 := dk_seg dksX11_mix_1 24 rfl rfl
theorem dksX11_mix_3 : cX11_mix.data.toList.drop 71 = dktX11_mix_3 := dk_seg dksX11_mix_2 24 rfl rfl
theorem dksX11_mix_4 : cX11_mix.data.toList.drop 93 = dktX11_mix_4 := dk_seg dksX11_mix_3 22 rfl rfl
theorem dksX11_mix_5 : cX11_mix.data.toList.drop 116 = dktX11_mix_5 := dk_seg dksX11_mix_4 23 rfl rfl
theorem dksX11_mix_6 : cX11_mix.data.toList.drop 138 = dktX11_mix_6 := dk_seg dksX11_mix_5 22 rfl rfl
theorem dksX11_mix_7 : cX11_mix.data.toList.drop 162 = dktX11_mix_7 := dk_seg dksX11_mix_6 24 rfl rfl
theorem dX11_mix_0 : decode cX11_mix 0 = .ok (.aload_n 0, 1) := dk_42 (dk_at dksX11_mix_0 0 rfl rfl)
theorem dX11_mix_1 : decode cX11_mix 1 = .ok (.iconst 0, 1) := dk_3 (dk_at dksX11_mix_0 1 rfl rfl)
theorem dX11_mix_2 : decode cX11_mix 2 = .ok (.putfield 3, 3) := dk_181 0 3 (dk_at dksX11_mix_0 2 rfl rfl)
theorem dX11_mix_5 : decode cX11_mix 5 = .ok (.aload_n 0, 1) := dk_42 (dk_at dksX11_mix_0 5 rfl rfl)
theorem dX11_mix_6 : decode cX11_mix 6 = .ok (.aload_n 0, 1) := dk_42 (dk_at dksX11_mix_0 6 rfl rfl)
theorem dX11_mix_7 : decode cX11_mix 7 = .ok (.iload_n 1, 1) := dk_27 (dk_at dksX11_mix_0 7 rfl rfl)
theorem dX11_mix_8 : decode cX11_mix 8 = .ok (.invokevirtual 238, 3) := dk_182 0 238 (dk_at dksX11_mix_0 8 rfl rfl)
theorem dX11_mix_11 : decode cX11_mix 11 = .ok (.ifCond .ne 11, 3) := dk_154 0 11 (dk_at dksX11_mix_0 11 rfl rfl)
theorem dX11_mix_14 : decode cX11_mix 14 = .ok (.aload_n 0, 1) := dk_42 (dk_at dksX11_mix_0 14 rfl rfl)
theorem dX11_mix_15 : decode cX11_mix 15 = .ok (.iload_n 2, 1) := dk_28 (dk_at dksX11_mix_0 15 rfl rfl)
theorem dX11_mix_16 : decode cX11_mix 16 = .ok (.invokevirtual 225, 3) := dk_182 0 225 (dk_at dksX11_mix_0 16 rfl rfl)
theorem dX11_mix_19 : decode cX11_mix 19 = .ok (.ifCond .eq 7, 3) := dk_153 0 7 (dk_at dksX11_mix_0 19 rfl rfl)
theorem dX11_mix_22 : decode cX11_mix 22 = .ok (.iconst 1, 1) := dk_4 (dk_at dksX11_mix_0 22 rfl rfl)
theorem dX11_mix_23 : decode cX11_mix 23 = .ok (.goto 4, 3) := dk_167 0 4 (dk_at dksX11_mix_1 0 rfl rfl)
theorem dX11_mix_26 : decode cX11_mix 26 = .ok (.iconst 0, 1) := dk_3 (dk_at dksX11_mix_1 3 rfl rfl)
theorem dX11_mix_27 : decode cX11_mix 27 = .ok (.iconst 1, 1) := dk_4 (dk_at dksX11_mix_1 4 rfl rfl)
theorem dX11_mix_28 : decode cX11_mix 28 = .ok (.invokevirtual 215, 3) := dk_182 0 215 (dk_at dksX11_mix_1 5 rfl rfl)
theorem dX11_mix_31 : decode cX11_mix 31 = .ok (.ifCond .eq 5, 3) := dk_153 0 5 (dk_at dksX11_mix_1 8 rfl rfl)
theorem dX11_mix_34 : decode cX11_mix 34 = .ok (.iconst 0, 1) := dk_3 (dk_at dksX11_mix_1 11 rfl rfl)
theorem dX11_mix_35 : decode cX11_mix 35 = .ok (.ireturn, 1) := dk_172 (dk_at dksX11_mix_1 12 rfl rfl)
theorem dX11_mix_36 : decode cX11_mix 36 = .ok (.aload_n 0, 1) := dk_42 (dk_at dksX11_mix_1 13 rfl rfl)
theorem dX11_mix_37 : decode cX11_mix 37 = .ok (.getfield 13, 3) := dk_180 0 13 (dk_at dksX11_mix_1 14 rfl rfl)
theorem dX11_mix_40 : decode cX11_mix 40 = .ok (.iconst 4, 1) := dk_7 (dk_at dksX11_mix_1 17 rfl rfl)
theorem dX11_mix_41 : decode cX11_mix 41 = .ok (.iaload, 1) := dk_46 (dk_at dksX11_mix_1 18 rfl rfl)
theorem dX11_mix_42 : decode cX11_mix 42 = .ok (.bipush 40, 2) := dk_16 40 (dk_at dksX11_mix_1 19 rfl rfl)
theorem dX11_mix_44 : decode cX11_mix 44 = .ok (.if_icmp .ne 39, 3) := dk_160 0 39 (dk_at dksX11_mix_1 21 rfl rfl)
theorem dX11_mix_47 : decode cX11_mix 47 = .ok (.sipush 3406, 3) := dk_17 13 78 (dk_at dksX11_mix_2 0 rfl rfl)
theorem dX11_mix_50 : decode cX11_mix 50 = .ok (.istore_n 3, 1) := dk_62 (dk_at dksX11_mix_2 3 rfl rfl)
theorem dX11_mix_51 : decode cX11_mix 51 = .ok (.iload_n 3, 1) := dk_29 (dk_at dksX11_mix_2 4 rfl rfl)
theorem dX11_mix_52 : decode cX11_mix 52 = .ok (.iconst 5, 1) := dk_8 (dk_at dksX11_mix_2 5 rfl rfl)
theorem dX11_mix_53 : decode cX11_mix 53 = .ok (.iadd, 1) := dk_96 (dk_at dksX11_mix_2 6 rfl rfl)
theorem dX11_mix_54 : decode cX11_mix 54 = .ok (.sipush 3606, 3) := dk_17 14 22 (dk_at dksX11_mix_2 7 rfl rfl)
theorem dX11_mix_57 : decode cX11_mix 57 = .ok (.if_icmp .ge 23, 3) := dk_162 0 23 (dk_at dksX11_mix_2 10 rfl rfl)
theorem dX11_mix_60 : decode cX11_mix 60 = .ok (.aload_n 0, 1) := dk_42 (dk_at dksX11_mix_2 13 rfl rfl)
theorem dX11_mix_61 : decode cX11_mix 61 = .ok (.getfield 13, 3) := dk_180 0 13 (dk_at dksX11_mix_2 14 rfl rfl)
theorem dX11_mix_64 : decode cX11_mix 64 = .ok (.iload_n 3, 1) := dk_29 (dk_at dksX11_mix_2 17 rfl rfl)
theorem dX11_mix_65 : decode cX11_mix 65 = .ok (.aload_n 0, 1) := dk_42 (dk_at dksX11_mix_2 18 rfl rfl)
theorem dX11_mix_66 : decode cX11_mix 66 = .ok (.getfield 13, 3) := dk_180 0 13 (dk_at dksX11_mix_2 19 rfl rfl)
theorem dX11_mix_69 : decode cX11_mix 69 = .ok (.iload_n 3, 1) := dk_29 (dk_at dksX11_mix_2 22 rfl rfl)
theorem dX11_mix_70 : decode cX11_mix 70 = .ok (.iconst 5, 1) := dk_8 (dk_at dksX11_mix_2 23 rfl rfl)
theorem dX11_mix_71 : decode cX11_mix 71 = .ok (.iadd, 1) := dk_96 (dk_at dksX11_mix_3 0 rfl rfl)
theorem dX11_mix_72 : decode cX11_mix 72 = .ok (.iaload, 1) := dk_46 (dk_at dksX11_mix_3 1 rfl rfl)
theorem dX11_mix_73 : decode cX11_mix 73 = .ok (.iastore, 1) := dk_79 (dk_at dksX11_mix_3 2 rfl rfl)
theorem dX11_mix_74 : decode cX11_mix 74 = .ok (.iinc 3 1, 3) := dk_132 3 1 (dk_at dksX11_mix_3 3 rfl rfl)
theorem dX11_mix_77 : decode cX11_mix 77 = .ok (.goto (-26), 3) := dk_167 255 230 (dk_at dksX11_mix_3 6 rfl rfl)
theorem dX11_mix_80 : decode cX11_mix 80 = .ok (.goto 13, 3) := dk_167 0 13 (dk_at dksX11_mix_3 9 rfl rfl)
theorem dX11_mix_83 : decode cX11_mix 83 = .ok (.aload_n 0, 1) := dk_42 (dk_at dksX11_mix_3 12 rfl rfl)
theorem dX11_mix_84 : decode cX11_mix 84 = .ok (.getfield 13, 3) := dk_180 0 13 (dk_at dksX11_mix_3 13 rfl rfl)
theorem dX11_mix_87 : decode cX11_mix 87 = .ok (.iconst 4, 1) := dk_7 (dk_at dksX11_mix_3 16 rfl rfl)
theorem dX11_mix_88 : decode cX11_mix 88 = .ok (.dup2, 1) := dk_92 (dk_at dksX11_mix_3 17 rfl rfl)
theorem dX11_mix_89 : decode cX11_mix 89 = .ok (.iaload, 1) := dk_46 (dk_at dksX11_mix_3 18 rfl rfl)
theorem dX11_mix_90 : decode cX11_mix 90 = .ok (.iconst 1, 1) := dk_4 (dk_at dksX11_mix_3 19 rfl rfl)
theorem dX11_mix_91 : decode cX11_mix 91 = .ok (.iadd, 1) := dk_96 (dk_at dksX11_mix_3 20 rfl rfl)
theorem dX11_mix_92 : decode cX11_mix 92 = .ok (.iastore, 1) := dk_79 (dk_at dksX11_mix_3 21 rfl rfl)
theorem dX11_mix_93 : decode cX11_mix 93 = .ok (.sipush 3406, 3) := dk_17 13 78 (dk_at dksX11_mix_4 0 rfl rfl)
theorem dX11_mix_96 : decode cX11_mix 96 = .ok (.iconst 5, 1) := dk_8 (dk_at dksX11_mix_4 3 rfl rfl)
theorem dX11_mix_97 : decode cX11_mix 97 = .ok (.aload_n 0, 1) := dk_42 (dk_at dksX11_mix_4 4 rfl rfl)
theorem dX11_mix_98 : decode cX11_mix 98 = .ok (.getfield 13, 3) := dk_180 0 13 (dk_at dksX11_mix_4 5 rfl rfl)
theorem dX11_mix_101 : decode cX11_mix 101 = .ok (.iconst 4, 1) := dk_7 (dk_at dksX11_mix_4 8 rfl rfl)
theorem dX11_mix_102 : decode cX11_mix 102 = .ok (.iaload, 1) := dk_46 (dk_at dksX11_mix_4 9 rfl rfl)
theorem dX11_mix_103 : decode cX11_mix 103 = .ok (.iconst 1, 1) := dk_4 (dk_at dksX11_mix_4 10 rfl rfl)
theorem dX11_mix_104 : decode cX11_mix 104 = .ok (.isub, 1) := dk_100 (dk_at dksX11_mix_4 11 rfl rfl)
theorem dX11_mix_105 : decode cX11_mix 105 = .ok (.imul, 1) := dk_104 (dk_at dksX11_mix_4 12 rfl rfl)
theorem dX11_mix_106 : decode cX11_mix 106 = .ok (.iadd, 1) := dk_96 (dk_at dksX11_mix_4 13 rfl rfl)
theorem dX11_mix_107 : decode cX11_mix 107 = .ok (.istore_n 3, 1) := dk_62 (dk_at dksX11_mix_4 14 rfl rfl)
theorem dX11_mix_108 : decode cX11_mix 108 = .ok (.aload_n 0, 1) := dk_42 (dk_at dksX11_mix_4 15 rfl rfl)
theorem dX11_mix_109 : decode cX11_mix 109 = .ok (.getfield 13, 3) := dk_180 0 13 (dk_at dksX11_mix_4 16 rfl rfl)
theorem dX11_mix_112 : decode cX11_mix 112 = .ok (.iload_n 3, 1) := dk_29 (dk_at dksX11_mix_4 19 rfl rfl)
theorem dX11_mix_113 : decode cX11_mix 113 = .ok (.iload_n 1, 1) := dk_27 (dk_at dksX11_mix_4 20 rfl rfl)
theorem dX11_mix_114 : decode cX11_mix 114 = .ok (.iastore, 1) := dk_79 (dk_at dksX11_mix_4 21 rfl rfl)
theorem dX11_mix_115 : decode cX11_mix 115 = .ok (.iconst 0, 1) := dk_3 (dk_at dksX11_mix_4 22 rfl rfl)
theorem dX11_mix_116 : decode cX11_mix 116 = .ok (.istore 4, 2) := dk_54 4 (dk_at dksX11_mix_5 0 rfl rfl)
theorem dX11_mix_118 : decode cX11_mix 118 = .ok (.iload 4, 2) := dk_21 4 (dk_at dksX11_mix_5 2 rfl rfl)
theorem dX11_mix_120 : decode cX11_mix 120 = .ok (.iconst 4, 1) := dk_7 (dk_at dksX11_mix_5 4 rfl rfl)
theorem dX11_mix_121 : decode cX11_mix 121 = .ok (.if_icmp .ge 27, 3) := dk_162 0 27 (dk_at dksX11_mix_5 5 rfl rfl)
theorem dX11_mix_124 : decode cX11_mix 124 = .ok (.aload_n 0, 1) := dk_42 (dk_at dksX11_mix_5 8 rfl rfl)
theorem dX11_mix_125 : decode cX11_mix 125 = .ok (.getfield 13, 3) := dk_180 0 13 (dk_at dksX11_mix_5 9 rfl rfl)
theorem dX11_mix_128 : decode cX11_mix 128 = .ok (.iload_n 3, 1) := dk_29 (dk_at dksX11_mix_5 12 rfl rfl)
theorem dX11_mix_129 : decode cX11_mix 129 = .ok (.iconst 1, 1) := dk_4 (dk_at dksX11_mix_5 13 rfl rfl)
theorem dX11_mix_130 : decode cX11_mix 130 = .ok (.iadd, 1) := dk_96 (dk_at dksX11_mix_5 14 rfl rfl)
theorem dX11_mix_131 : decode cX11_mix 131 = .ok (.iload 4, 2) := dk_21 4 (dk_at dksX11_mix_5 15 rfl rfl)
theorem dX11_mix_133 : decode cX11_mix 133 = .ok (.iadd, 1) := dk_96 (dk_at dksX11_mix_5 17 rfl rfl)
theorem dX11_mix_134 : decode cX11_mix 134 = .ok (.aload_n 0, 1) := dk_42 (dk_at dksX11_mix_5 18 rfl rfl)
theorem dX11_mix_135 : decode cX11_mix 135 = .ok (.iload_n 2, 1) := dk_28 (dk_at dksX11_mix_5 19 rfl rfl)
theorem dX11_mix_136 : decode cX11_mix 136 = .ok (.iload 4, 2) := dk_21 4 (dk_at dksX11_mix_5 20 rfl rfl)
theorem dX11_mix_138 : decode cX11_mix 138 = .ok (.invokevirtual 143, 3) := dk_182 0 143 (dk_at dksX11_mix_6 0 rfl rfl)
theorem dX11_mix_141 : decode cX11_mix 141 = .ok (.iastore, 1) := dk_79 (dk_at dksX11_mix_6 3 rfl rfl)
theorem dX11_mix_142 : decode cX11_mix 142 = .ok (.iinc 4 1, 3) := dk_132 4 1 (dk_at dksX11_mix_6 4 rfl rfl)
theorem dX11_mix_145 : decode cX11_mix 145 = .ok (.goto (-27), 3) := dk_167 255 229 (dk_at dksX11_mix_6 7 rfl rfl)
theorem dX11_mix_148 : decode cX11_mix 148 = .ok (.aload_n 0, 1) := dk_42 (dk_at dksX11_mix_6 10 rfl rfl)
theorem dX11_mix_149 : decode cX11_mix 149 = .ok (.getfield 13, 3) := dk_180 0 13 (dk_at dksX11_mix_6 11 rfl rfl)
theorem dX11_mix_152 : decode cX11_mix 152 = .ok (.iconst 5, 1) := dk_8 (dk_at dksX11_mix_6 14 rfl rfl)
theorem dX11_mix_153 : decode cX11_mix 153 = .ok (.iconst 0, 1) := dk_3 (dk_at dksX11_mix_6 15 rfl rfl)
theorem dX11_mix_154 : decode cX11_mix 154 = .ok (.iastore, 1) := dk_79 (dk_at dksX11_mix_6 16 rfl rfl)
theorem dX11_mix_155 : decode cX11_mix 155 = .ok (.aload_n 0, 1) := dk_42 (dk_at dksX11_mix_6 17 rfl rfl)
theorem dX11_mix_156 : decode cX11_mix 156 = .ok (.iload_n 2, 1) := dk_28 (dk_at dksX11_mix_6 18 rfl rfl)
theorem dX11_mix_157 : decode cX11_mix 157 = .ok (.invokevirtual 228, 3) := dk_182 0 228 (dk_at dksX11_mix_6 19 rfl rfl)
theorem dX11_mix_160 : decode cX11_mix 160 = .ok (.aload_n 0, 1) := dk_42 (dk_at dksX11_mix_6 22 rfl rfl)
theorem dX11_mix_161 : decode cX11_mix 161 = .ok (.iload_n 1, 1) := dk_27 (dk_at dksX11_mix_6 23 rfl rfl)
theorem dX11_mix_162 : decode cX11_mix 162 = .ok (.invokevirtual 254, 3) := dk_182 0 254 (dk_at dksX11_mix_7 0 rfl rfl)
theorem dX11_mix_165 : decode cX11_mix 165 = .ok (.ireturn, 1) := dk_172 (dk_at dksX11_mix_7 3 rfl rfl)
abbrev cX11_mixesForm : ByteArray := prog_18_method_66_code
def yX11_mixesForm : MethodName := ⟨RX11, "mixesForm", "(I)Z"⟩
def dkwX11_mixesForm_2 : List UInt8 := [132, 2, 1, 167, 255, 222, 42, 16, 40, 16, 41, 182, 0, 251, 154, 0, 7, 4, 167, 0, 4, 3, 172]
abbrev dktX11_mixesForm_2 : List UInt8 := dkwX11_mixesForm_2 ++ []
def dkwX11_mixesForm_1 : List UInt8 := [46, 163, 0, 29, 42, 180, 0, 13, 27, 184, 0, 72, 4, 96, 28, 96, 42, 16, 41, 28, 182, 0, 103, 79]
abbrev dktX11_mixesForm_1 : List UInt8 := dkwX11_mixesForm_1 ++ dktX11_mixesForm_2
def dkwX11_mixesForm_0 : List UInt8 := [42, 16, 40, 27, 182, 0, 241, 42, 16, 40, 16, 41, 182, 0, 248, 3, 61, 28, 42, 180, 0, 20, 16, 41]
abbrev dktX11_mixesForm_0 : List UInt8 := dkwX11_mixesForm_0 ++ dktX11_mixesForm_1
theorem dksX11_mixesForm_0 : cX11_mixesForm.data.toList.drop 0 = dktX11_mixesForm_0 := by decide +kernel
theorem dksX11_mixesForm_1 : cX11_mixesForm.data.toList.drop 24 = dktX11_mixesForm_1 := dk_seg dksX11_mixesForm_0 24 rfl rfl
theorem dksX11_mixesForm_2 : cX11_mixesForm.data.toList.drop 48 = dktX11_mixesForm_2 := dk_seg dksX11_mixesForm_1 24 rfl rfl
theorem dX11_mixesForm_0 : decode cX11_mixesForm 0 = .ok (.aload_n 0, 1) := dk_42 (dk_at dksX11_mixesForm_0 0 rfl rfl)
theorem dX11_mixesForm_1 : decode cX11_mixesForm 1 = .ok (.bipush 40, 2) := dk_16 40 (dk_at dksX11_mixesForm_0 1 rfl rfl)
theorem dX11_mixesForm_3 : decode cX11_mixesForm 3 = .ok (.iload_n 1, 1) := dk_27 (dk_at dksX11_mixesForm_0 3 rfl rfl)
theorem dX11_mixesForm_4 : decode cX11_mixesForm 4 = .ok (.invokevirtual 241, 3) := dk_182 0 241 (dk_at dksX11_mixesForm_0 4 rfl rfl)
theorem dX11_mixesForm_7 : decode cX11_mixesForm 7 = .ok (.aload_n 0, 1) := dk_42 (dk_at dksX11_mixesForm_0 7 rfl rfl)
theorem dX11_mixesForm_8 : decode cX11_mixesForm 8 = .ok (.bipush 40, 2) := dk_16 40 (dk_at dksX11_mixesForm_0 8 rfl rfl)
theorem dX11_mixesForm_10 : decode cX11_mixesForm 10 = .ok (.bipush 41, 2) := dk_16 41 (dk_at dksX11_mixesForm_0 10 rfl rfl)
theorem dX11_mixesForm_12 : decode cX11_mixesForm 12 = .ok (.invokevirtual 248, 3) := dk_182 0 248 (dk_at dksX11_mixesForm_0 12 rfl rfl)
theorem dX11_mixesForm_15 : decode cX11_mixesForm 15 = .ok (.iconst 0, 1) := dk_3 (dk_at dksX11_mixesForm_0 15 rfl rfl)
theorem dX11_mixesForm_16 : decode cX11_mixesForm 16 = .ok (.istore_n 2, 1) := dk_61 (dk_at dksX11_mixesForm_0 16 rfl rfl)
theorem dX11_mixesForm_17 : decode cX11_mixesForm 17 = .ok (.iload_n 2, 1) := dk_28 (dk_at dksX11_mixesForm_0 17 rfl rfl)
theorem dX11_mixesForm_18 : decode cX11_mixesForm 18 = .ok (.aload_n 0, 1) := dk_42 (dk_at dksX11_mixesForm_0 18 rfl rfl)
theorem dX11_mixesForm_19 : decode cX11_mixesForm 19 = .ok (.getfield 20, 3) := dk_180 0 20 (dk_at dksX11_mixesForm_0 19 rfl rfl)
theorem dX11_mixesForm_22 : decode cX11_mixesForm 22 = .ok (.bipush 41, 2) := dk_16 41 (dk_at dksX11_mixesForm_0 22 rfl rfl)
theorem dX11_mixesForm_24 : decode cX11_mixesForm 24 = .ok (.iaload, 1) := dk_46 (dk_at dksX11_mixesForm_1 0 rfl rfl)
theorem dX11_mixesForm_25 : decode cX11_mixesForm 25 = .ok (.if_icmp .gt 29, 3) := dk_163 0 29 (dk_at dksX11_mixesForm_1 1 rfl rfl)
theorem dX11_mixesForm_28 : decode cX11_mixesForm 28 = .ok (.aload_n 0, 1) := dk_42 (dk_at dksX11_mixesForm_1 4 rfl rfl)
theorem dX11_mixesForm_29 : decode cX11_mixesForm 29 = .ok (.getfield 13, 3) := dk_180 0 13 (dk_at dksX11_mixesForm_1 5 rfl rfl)
theorem dX11_mixesForm_32 : decode cX11_mixesForm 32 = .ok (.iload_n 1, 1) := dk_27 (dk_at dksX11_mixesForm_1 8 rfl rfl)
theorem dX11_mixesForm_33 : decode cX11_mixesForm 33 = .ok (.invokestatic 72, 3) := dk_184 0 72 (dk_at dksX11_mixesForm_1 9 rfl rfl)
theorem dX11_mixesForm_36 : decode cX11_mixesForm 36 = .ok (.iconst 1, 1) := dk_4 (dk_at dksX11_mixesForm_1 12 rfl rfl)
theorem dX11_mixesForm_37 : decode cX11_mixesForm 37 = .ok (.iadd, 1) := dk_96 (dk_at dksX11_mixesForm_1 13 rfl rfl)
theorem dX11_mixesForm_38 : decode cX11_mixesForm 38 = .ok (.iload_n 2, 1) := dk_28 (dk_at dksX11_mixesForm_1 14 rfl rfl)
theorem dX11_mixesForm_39 : decode cX11_mixesForm 39 = .ok (.iadd, 1) := dk_96 (dk_at dksX11_mixesForm_1 15 rfl rfl)
theorem dX11_mixesForm_40 : decode cX11_mixesForm 40 = .ok (.aload_n 0, 1) := dk_42 (dk_at dksX11_mixesForm_1 16 rfl rfl)
theorem dX11_mixesForm_41 : decode cX11_mixesForm 41 = .ok (.bipush 41, 2) := dk_16 41 (dk_at dksX11_mixesForm_1 17 rfl rfl)
theorem dX11_mixesForm_43 : decode cX11_mixesForm 43 = .ok (.iload_n 2, 1) := dk_28 (dk_at dksX11_mixesForm_1 19 rfl rfl)
theorem dX11_mixesForm_44 : decode cX11_mixesForm 44 = .ok (.invokevirtual 103, 3) := dk_182 0 103 (dk_at dksX11_mixesForm_1 20 rfl rfl)
theorem dX11_mixesForm_47 : decode cX11_mixesForm 47 = .ok (.iastore, 1) := dk_79 (dk_at dksX11_mixesForm_1 23 rfl rfl)
theorem dX11_mixesForm_48 : decode cX11_mixesForm 48 = .ok (.iinc 2 1, 3) := dk_132 2 1 (dk_at dksX11_mixesForm_2 0 rfl rfl)
theorem dX11_mixesForm_51 : decode cX11_mixesForm 51 = .ok (.goto (-34), 3) := dk_167 255 222 (dk_at dksX11_mixesForm_2 3 rfl rfl)
theorem dX11_mixesForm_54 : decode cX11_mixesForm 54 = .ok (.aload_n 0, 1) := dk_42 (dk_at dksX11_mixesForm_2 6 rfl rfl)
theorem dX11_mixesForm_55 : decode cX11_mixesForm 55 = .ok (.bipush 40, 2) := dk_16 40 (dk_at dksX11_mixesForm_2 7 rfl rfl)
theorem dX11_mixesForm_57 : decode cX11_mixesForm 57 = .ok (.bipush 41, 2) := dk_16 41 (dk_at dksX11_mixesForm_2 9 rfl rfl)
theorem dX11_mixesForm_59 : decode cX11_mixesForm 59 = .ok (.invokevirtual 251, 3) := dk_182 0 251 (dk_at dksX11_mixesForm_2 11 rfl rfl)
theorem dX11_mixesForm_62 : decode cX11_mixesForm 62 = .ok (.ifCond .ne 7, 3) := dk_154 0 7 (dk_at dksX11_mixesForm_2 14 rfl rfl)
theorem dX11_mixesForm_65 : decode cX11_mixesForm 65 = .ok (.iconst 1, 1) := dk_4 (dk_at dksX11_mixesForm_2 17 rfl rfl)
theorem dX11_mixesForm_66 : decode cX11_mixesForm 66 = .ok (.goto 4, 3) := dk_167 0 4 (dk_at dksX11_mixesForm_2 18 rfl rfl)
theorem dX11_mixesForm_69 : decode cX11_mixesForm 69 = .ok (.iconst 0, 1) := dk_3 (dk_at dksX11_mixesForm_2 21 rfl rfl)
theorem dX11_mixesForm_70 : decode cX11_mixesForm 70 = .ok (.ireturn, 1) := dk_172 (dk_at dksX11_mixesForm_2 22 rfl rfl)
abbrev cX11_mixes : ByteArray := prog_18_method_37_code
def yX11_mixes : MethodName := ⟨RX11, "mixes", "(II)V"⟩
def dkwX11_mixes_6 : List UInt8 := [132, 5, 1, 167, 255, 221, 132, 4, 1, 167, 255, 123, 177]
abbrev dktX11_mixes_6 : List UInt8 := dkwX11_mixes_6 ++ []
def dkwX11_mixes_5 : List UInt8 := [21, 5, 42, 42, 28, 21, 5, 182, 0, 103, 42, 16, 45, 21, 5, 182, 0, 103, 182, 0, 110, 182, 0, 99]
abbrev dktX11_mixes_5 : List UInt8 := dkwX11_mixes_5 ++ dktX11_mixes_6
def dkwX11_mixes_4 : List UInt8 := [180, 0, 140, 182, 0, 152, 132, 5, 1, 167, 255, 232, 3, 54, 5, 21, 5, 29, 163, 0, 35, 42, 28]
abbrev dktX11_mixes_4 : List UInt8 := dkwX11_mixes_4 ++ dktX11_mixes_5
def dkwX11_mixes_3 : List UInt8 := [132, 5, 1, 167, 255, 230, 3, 54, 5, 21, 5, 21, 4, 162, 0, 23, 42, 16, 45, 42, 180, 0, 137, 42]
abbrev dktX11_mixes_3 : List UInt8 := dkwX11_mixes_3 ++ dktX11_mixes_4
def dkwX11_mixes_2 : List UInt8 := [21, 5, 29, 21, 4, 100, 162, 0, 23, 42, 16, 45, 42, 180, 0, 131, 42, 180, 0, 134, 182, 0, 152]
abbrev dktX11_mixes_2 : List UInt8 := dkwX11_mixes_2 ++ dktX11_mixes_3
def dkwX11_mixes_1 : List UInt8 := [16, 45, 3, 182, 0, 106, 42, 16, 45, 3, 42, 27, 21, 4, 182, 0, 103, 182, 0, 99, 3, 54, 5]
abbrev dktX11_mixes_1 : List UInt8 := dkwX11_mixes_1 ++ dktX11_mixes_2
def dkwX11_mixes_0 : List UInt8 := [42, 180, 0, 20, 27, 46, 62, 42, 28, 29, 182, 0, 106, 3, 54, 4, 21, 4, 29, 163, 0, 133, 42]
abbrev dktX11_mixes_0 : List UInt8 := dkwX11_mixes_0 ++ dktX11_mixes_1
theorem dksX11_mixes_0 : cX11_mixes.data.toList.drop 0 = dktX11_mixes_0 := by decide +kernel
theorem dksX11_mixes_1 : cX11_mixes.data.toList.drop 23 = dktX11_mixes_1 := dk_seg dksX11_mixes_0 23 rfl rfl
theorem dksX11_mixes_2 : cX11_mixes.data.toList.drop 46 = dktX11_mixes_2 := dk_seg dksX11_mixes_1 23 rfl rfl
theorem dksX11_mixes_3 : cX11_mixes.data.toList.drop 69 = dktX11_mixes_3 := dk_seg dksX11_mixes_2 23 rfl rfl
theorem dksX11_mixes_4 : cX11_mixes.data.toList.drop 93 = dktX11_mixes_4 := dk_seg dksX11_mixes_3 24 rfl rfl
theorem dksX11_mixes_5 : cX11_mixes.data.toList.drop 116 = dktX11_mixes_5 := dk_seg dksX11_mixes_4 23 rfl rfl
theorem dksX11_mixes_6 : cX11_mixes.data.toList.drop 140 = dktX11_mixes_6 := dk_seg dksX11_mixes_5 24 rfl rfl
theorem dX11_mixes_0 : decode cX11_mixes 0 = .ok (.aload_n 0, 1) := dk_42 (dk_at dksX11_mixes_0 0 rfl rfl)
theorem dX11_mixes_1 : decode cX11_mixes 1 = .ok (.getfield 20, 3) := dk_180 0 20 (dk_at dksX11_mixes_0 1 rfl rfl)
theorem dX11_mixes_4 : decode cX11_mixes 4 = .ok (.iload_n 1, 1) := dk_27 (dk_at dksX11_mixes_0 4 rfl rfl)
theorem dX11_mixes_5 : decode cX11_mixes 5 = .ok (.iaload, 1) := dk_46 (dk_at dksX11_mixes_0 5 rfl rfl)
theorem dX11_mixes_6 : decode cX11_mixes 6 = .ok (.istore_n 3, 1) := dk_62 (dk_at dksX11_mixes_0 6 rfl rfl)
theorem dX11_mixes_7 : decode cX11_mixes 7 = .ok (.aload_n 0, 1) := dk_42 (dk_at dksX11_mixes_0 7 rfl rfl)
theorem dX11_mixes_8 : decode cX11_mixes 8 = .ok (.iload_n 2, 1) := dk_28 (dk_at dksX11_mixes_0 8 rfl rfl)
theorem dX11_mixes_9 : decode cX11_mixes 9 = .ok (.iload_n 3, 1) := dk_29 (dk_at dksX11_mixes_0 9 rfl rfl)
theorem dX11_mixes_10 : decode cX11_mixes 10 = .ok (.invokevirtual 106, 3) := dk_182 0 106 (dk_at dksX11_mixes_0 10 rfl rfl)
theorem dX11_mixes_13 : decode cX11_mixes 13 = .ok (.iconst 0, 1) := dk_3 (dk_at dksX11_mixes_0 13 rfl rfl)
theorem dX11_mixes_14 : decode cX11_mixes 14 = .ok (.istore 4, 2) := dk_54 4 (dk_at dksX11_mixes_0 14 rfl rfl)
theorem dX11_mixes_16 : decode cX11_mixes 16 = .ok (.iload 4, 2) := dk_21 4 (dk_at dksX11_mixes_0 16 rfl rfl)
theorem dX11_mixes_18 : decode cX11_mixes 18 = .ok (.iload_n 3, 1) := dk_29 (dk_at dksX11_mixes_0 18 rfl rfl)
theorem dX11_mixes_19 : decode cX11_mixes 19 = .ok (.if_icmp .gt 133, 3) := dk_163 0 133 (dk_at dksX11_mixes_0 19 rfl rfl)
theorem dX11_mixes_22 : decode cX11_mixes 22 = .ok (.aload_n 0, 1) := dk_42 (dk_at dksX11_mixes_0 22 rfl rfl)
theorem dX11_mixes_23 : decode cX11_mixes 23 = .ok (.bipush 45, 2) := dk_16 45 (dk_at dksX11_mixes_1 0 rfl rfl)
theorem dX11_mixes_25 : decode cX11_mixes 25 = .ok (.iconst 0, 1) := dk_3 (dk_at dksX11_mixes_1 2 rfl rfl)
theorem dX11_mixes_26 : decode cX11_mixes 26 = .ok (.invokevirtual 106, 3) := dk_182 0 106 (dk_at dksX11_mixes_1 3 rfl rfl)
theorem dX11_mixes_29 : decode cX11_mixes 29 = .ok (.aload_n 0, 1) := dk_42 (dk_at dksX11_mixes_1 6 rfl rfl)
theorem dX11_mixes_30 : decode cX11_mixes 30 = .ok (.bipush 45, 2) := dk_16 45 (dk_at dksX11_mixes_1 7 rfl rfl)
theorem dX11_mixes_32 : decode cX11_mixes 32 = .ok (.iconst 0, 1) := dk_3 (dk_at dksX11_mixes_1 9 rfl rfl)
theorem dX11_mixes_33 : decode cX11_mixes 33 = .ok (.aload_n 0, 1) := dk_42 (dk_at dksX11_mixes_1 10 rfl rfl)
theorem dX11_mixes_34 : decode cX11_mixes 34 = .ok (.iload_n 1, 1) := dk_27 (dk_at dksX11_mixes_1 11 rfl rfl)
theorem dX11_mixes_35 : decode cX11_mixes 35 = .ok (.iload 4, 2) := dk_21 4 (dk_at dksX11_mixes_1 12 rfl rfl)
theorem dX11_mixes_37 : decode cX11_mixes 37 = .ok (.invokevirtual 103, 3) := dk_182 0 103 (dk_at dksX11_mixes_1 14 rfl rfl)
theorem dX11_mixes_40 : decode cX11_mixes 40 = .ok (.invokevirtual 99, 3) := dk_182 0 99 (dk_at dksX11_mixes_1 17 rfl rfl)
theorem dX11_mixes_43 : decode cX11_mixes 43 = .ok (.iconst 0, 1) := dk_3 (dk_at dksX11_mixes_1 20 rfl rfl)
theorem dX11_mixes_44 : decode cX11_mixes 44 = .ok (.istore 5, 2) := dk_54 5 (dk_at dksX11_mixes_1 21 rfl rfl)
theorem dX11_mixes_46 : decode cX11_mixes 46 = .ok (.iload 5, 2) := dk_21 5 (dk_at dksX11_mixes_2 0 rfl rfl)
theorem dX11_mixes_48 : decode cX11_mixes 48 = .ok (.iload_n 3, 1) := dk_29 (dk_at dksX11_mixes_2 2 rfl rfl)
theorem dX11_mixes_49 : decode cX11_mixes 49 = .ok (.iload 4, 2) := dk_21 4 (dk_at dksX11_mixes_2 3 rfl rfl)
theorem dX11_mixes_51 : decode cX11_mixes 51 = .ok (.isub, 1) := dk_100 (dk_at dksX11_mixes_2 5 rfl rfl)
theorem dX11_mixes_52 : decode cX11_mixes 52 = .ok (.if_icmp .ge 23, 3) := dk_162 0 23 (dk_at dksX11_mixes_2 6 rfl rfl)
theorem dX11_mixes_55 : decode cX11_mixes 55 = .ok (.aload_n 0, 1) := dk_42 (dk_at dksX11_mixes_2 9 rfl rfl)
theorem dX11_mixes_56 : decode cX11_mixes 56 = .ok (.bipush 45, 2) := dk_16 45 (dk_at dksX11_mixes_2 10 rfl rfl)
theorem dX11_mixes_58 : decode cX11_mixes 58 = .ok (.aload_n 0, 1) := dk_42 (dk_at dksX11_mixes_2 12 rfl rfl)
theorem dX11_mixes_59 : decode cX11_mixes 59 = .ok (.getfield 131, 3) := dk_180 0 131 (dk_at dksX11_mixes_2 13 rfl rfl)
theorem dX11_mixes_62 : decode cX11_mixes 62 = .ok (.aload_n 0, 1) := dk_42 (dk_at dksX11_mixes_2 16 rfl rfl)
theorem dX11_mixes_63 : decode cX11_mixes 63 = .ok (.getfield 134, 3) := dk_180 0 134 (dk_at dksX11_mixes_2 17 rfl rfl)
theorem dX11_mixes_66 : decode cX11_mixes 66 = .ok (.invokevirtual 152, 3) := dk_182 0 152 (dk_at dksX11_mixes_2 20 rfl rfl)
theorem dX11_mixes_69 : decode cX11_mixes 69 = .ok (.iinc 5 1, 3) := dk_132 5 1 (dk_at dksX11_mixes_3 0 rfl rfl)
theorem dX11_mixes_72 : decode cX11_mixes 72 = .ok (.goto (-26), 3) := dk_167 255 230 (dk_at dksX11_mixes_3 3 rfl rfl)
theorem dX11_mixes_75 : decode cX11_mixes 75 = .ok (.iconst 0, 1) := dk_3 (dk_at dksX11_mixes_3 6 rfl rfl)
theorem dX11_mixes_76 : decode cX11_mixes 76 = .ok (.istore 5, 2) := dk_54 5 (dk_at dksX11_mixes_3 7 rfl rfl)
theorem dX11_mixes_78 : decode cX11_mixes 78 = .ok (.iload 5, 2) := dk_21 5 (dk_at dksX11_mixes_3 9 rfl rfl)
theorem dX11_mixes_80 : decode cX11_mixes 80 = .ok (.iload 4, 2) := dk_21 4 (dk_at dksX11_mixes_3 11 rfl rfl)
theorem dX11_mixes_82 : decode cX11_mixes 82 = .ok (.if_icmp .ge 23, 3) := dk_162 0 23 (dk_at dksX11_mixes_3 13 rfl rfl)
theorem dX11_mixes_85 : decode cX11_mixes 85 = .ok (.aload_n 0, 1) := dk_42 (dk_at dksX11_mixes_3 16 rfl rfl)
theorem dX11_mixes_86 : decode cX11_mixes 86 = .ok (.bipush 45, 2) := dk_16 45 (dk_at dksX11_mixes_3 17 rfl rfl)
theorem dX11_mixes_88 : decode cX11_mixes 88 = .ok (.aload_n 0, 1) := dk_42 (dk_at dksX11_mixes_3 19 rfl rfl)
theorem dX11_mixes_89 : decode cX11_mixes 89 = .ok (.getfield 137, 3) := dk_180 0 137 (dk_at dksX11_mixes_3 20 rfl rfl)
theorem dX11_mixes_92 : decode cX11_mixes 92 = .ok (.aload_n 0, 1) := dk_42 (dk_at dksX11_mixes_3 23 rfl rfl)
theorem dX11_mixes_93 : decode cX11_mixes 93 = .ok (.getfield 140, 3) := dk_180 0 140 (dk_at dksX11_mixes_4 0 rfl rfl)
theorem dX11_mixes_96 : decode cX11_mixes 96 = .ok (.invokevirtual 152, 3) := dk_182 0 152 (dk_at dksX11_mixes_4 3 rfl rfl)
theorem dX11_mixes_99 : decode cX11_mixes 99 = .ok (.iinc 5 1, 3) := dk_132 5 1 (dk_at dksX11_mixes_4 6 rfl rfl)
theorem dX11_mixes_102 : decode cX11_mixes 102 = .ok (.goto (-24), 3) := dk_167 255 232 (dk_at dksX11_mixes_4 9 rfl rfl)
theorem dX11_mixes_105 : decode cX11_mixes 105 = .ok (.iconst 0, 1) := dk_3 (dk_at dksX11_mixes_4 12 rfl rfl)
theorem dX11_mixes_106 : decode cX11_mixes 106 = .ok (.istore 5, 2) := dk_54 5 (dk_at dksX11_mixes_4 13 rfl rfl)
theorem dX11_mixes_108 : decode cX11_mixes 108 = .ok (.iload 5, 2) := dk_21 5 (dk_at dksX11_mixes_4 15 rfl rfl)
theorem dX11_mixes_110 : decode cX11_mixes 110 = .ok (.iload_n 3, 1) := dk_29 (dk_at dksX11_mixes_4 17 rfl rfl)
theorem dX11_mixes_111 : decode cX11_mixes 111 = .ok (.if_icmp .gt 35, 3) := dk_163 0 35 (dk_at dksX11_mixes_4 18 rfl rfl)
theorem dX11_mixes_114 : decode cX11_mixes 114 = .ok (.aload_n 0, 1) := dk_42 (dk_at dksX11_mixes_4 21 rfl rfl)
theorem dX11_mixes_115 : decode cX11_mixes 115 = .ok (.iload_n 2, 1) := dk_28 (dk_at dksX11_mixes_4 22 rfl rfl)
theorem dX11_mixes_116 : decode cX11_mixes 116 = .ok (.iload 5, 2) := dk_21 5 (dk_at dksX11_mixes_5 0 rfl rfl)
theorem dX11_mixes_118 : decode cX11_mixes 118 = .ok (.aload_n 0, 1) := dk_42 (dk_at dksX11_mixes_5 2 rfl rfl)
theorem dX11_mixes_119 : decode cX11_mixes 119 = .ok (.aload_n 0, 1) := dk_42 (dk_at dksX11_mixes_5 3 rfl rfl)
theorem dX11_mixes_120 : decode cX11_mixes 120 = .ok (.iload_n 2, 1) := dk_28 (dk_at dksX11_mixes_5 4 rfl rfl)
theorem dX11_mixes_121 : decode cX11_mixes 121 = .ok (.iload 5, 2) := dk_21 5 (dk_at dksX11_mixes_5 5 rfl rfl)
theorem dX11_mixes_123 : decode cX11_mixes 123 = .ok (.invokevirtual 103, 3) := dk_182 0 103 (dk_at dksX11_mixes_5 7 rfl rfl)
theorem dX11_mixes_126 : decode cX11_mixes 126 = .ok (.aload_n 0, 1) := dk_42 (dk_at dksX11_mixes_5 10 rfl rfl)
theorem dX11_mixes_127 : decode cX11_mixes 127 = .ok (.bipush 45, 2) := dk_16 45 (dk_at dksX11_mixes_5 11 rfl rfl)
theorem dX11_mixes_129 : decode cX11_mixes 129 = .ok (.iload 5, 2) := dk_21 5 (dk_at dksX11_mixes_5 13 rfl rfl)
theorem dX11_mixes_131 : decode cX11_mixes 131 = .ok (.invokevirtual 103, 3) := dk_182 0 103 (dk_at dksX11_mixes_5 15 rfl rfl)
theorem dX11_mixes_134 : decode cX11_mixes 134 = .ok (.invokevirtual 110, 3) := dk_182 0 110 (dk_at dksX11_mixes_5 18 rfl rfl)
theorem dX11_mixes_137 : decode cX11_mixes 137 = .ok (.invokevirtual 99, 3) := dk_182 0 99 (dk_at dksX11_mixes_5 21 rfl rfl)
theorem dX11_mixes_140 : decode cX11_mixes 140 = .ok (.iinc 5 1, 3) := dk_132 5 1 (dk_at dksX11_mixes_6 0 rfl rfl)
theorem dX11_mixes_143 : decode cX11_mixes 143 = .ok (.goto (-35), 3) := dk_167 255 221 (dk_at dksX11_mixes_6 3 rfl rfl)
theorem dX11_mixes_146 : decode cX11_mixes 146 = .ok (.iinc 4 1, 3) := dk_132 4 1 (dk_at dksX11_mixes_6 6 rfl rfl)
theorem dX11_mixes_149 : decode cX11_mixes 149 = .ok (.goto (-133), 3) := dk_167 255 123 (dk_at dksX11_mixes_6 9 rfl rfl)
theorem dX11_mixes_152 : decode cX11_mixes 152 = .ok (.return_, 1) := dk_177 (dk_at dksX11_mixes_6 12 rfl rfl)
abbrev cX11_clears : ByteArray := prog_18_method_25_code
def yX11_clears : MethodName := ⟨RX11, "clears", "(II)V"⟩
def dkwX11_clears_1 : List UInt8 := [167, 255, 241, 177]
abbrev dktX11_clears_1 : List UInt8 := dkwX11_clears_1 ++ []
def dkwX11_clears_0 : List UInt8 := [42, 180, 0, 20, 27, 28, 79, 3, 62, 29, 28, 163, 0, 16, 42, 27, 29, 3, 182, 0, 99, 132, 3, 1]
abbrev dktX11_clears_0 : List UInt8 := dkwX11_clears_0 ++ dktX11_clears_1
theorem dksX11_clears_0 : cX11_clears.data.toList.drop 0 = dktX11_clears_0 := by decide +kernel
theorem dksX11_clears_1 : cX11_clears.data.toList.drop 24 = dktX11_clears_1 := dk_seg dksX11_clears_0 24 rfl rfl
theorem dX11_clears_0 : decode cX11_clears 0 = .ok (.aload_n 0, 1) := dk_42 (dk_at dksX11_clears_0 0 rfl rfl)
theorem dX11_clears_1 : decode cX11_clears 1 = .ok (.getfield 20, 3) := dk_180 0 20 (dk_at dksX11_clears_0 1 rfl rfl)
theorem dX11_clears_4 : decode cX11_clears 4 = .ok (.iload_n 1, 1) := dk_27 (dk_at dksX11_clears_0 4 rfl rfl)
theorem dX11_clears_5 : decode cX11_clears 5 = .ok (.iload_n 2, 1) := dk_28 (dk_at dksX11_clears_0 5 rfl rfl)
theorem dX11_clears_6 : decode cX11_clears 6 = .ok (.iastore, 1) := dk_79 (dk_at dksX11_clears_0 6 rfl rfl)
theorem dX11_clears_7 : decode cX11_clears 7 = .ok (.iconst 0, 1) := dk_3 (dk_at dksX11_clears_0 7 rfl rfl)
theorem dX11_clears_8 : decode cX11_clears 8 = .ok (.istore_n 3, 1) := dk_62 (dk_at dksX11_clears_0 8 rfl rfl)
theorem dX11_clears_9 : decode cX11_clears 9 = .ok (.iload_n 3, 1) := dk_29 (dk_at dksX11_clears_0 9 rfl rfl)
theorem dX11_clears_10 : decode cX11_clears 10 = .ok (.iload_n 2, 1) := dk_28 (dk_at dksX11_clears_0 10 rfl rfl)
theorem dX11_clears_11 : decode cX11_clears 11 = .ok (.if_icmp .gt 16, 3) := dk_163 0 16 (dk_at dksX11_clears_0 11 rfl rfl)
theorem dX11_clears_14 : decode cX11_clears 14 = .ok (.aload_n 0, 1) := dk_42 (dk_at dksX11_clears_0 14 rfl rfl)
theorem dX11_clears_15 : decode cX11_clears 15 = .ok (.iload_n 1, 1) := dk_27 (dk_at dksX11_clears_0 15 rfl rfl)
theorem dX11_clears_16 : decode cX11_clears 16 = .ok (.iload_n 3, 1) := dk_29 (dk_at dksX11_clears_0 16 rfl rfl)
theorem dX11_clears_17 : decode cX11_clears 17 = .ok (.iconst 0, 1) := dk_3 (dk_at dksX11_clears_0 17 rfl rfl)
theorem dX11_clears_18 : decode cX11_clears 18 = .ok (.invokevirtual 99, 3) := dk_182 0 99 (dk_at dksX11_clears_0 18 rfl rfl)
theorem dX11_clears_21 : decode cX11_clears 21 = .ok (.iinc 3 1, 3) := dk_132 3 1 (dk_at dksX11_clears_0 21 rfl rfl)
theorem dX11_clears_24 : decode cX11_clears 24 = .ok (.goto (-15), 3) := dk_167 255 241 (dk_at dksX11_clears_1 0 rfl rfl)
theorem dX11_clears_27 : decode cX11_clears 27 = .ok (.return_, 1) := dk_177 (dk_at dksX11_clears_1 3 rfl rfl)
abbrev cX11_widens : ByteArray := prog_18_method_36_code
def yX11_widens : MethodName := ⟨RX11, "widens", "(III)V"⟩
def dkwX11_widens_3 : List UInt8 := [182, 0, 86, 167, 0, 4, 3, 182, 0, 110, 182, 0, 99, 132, 4, 255, 167, 255, 202, 177]
abbrev dktX11_widens_3 : List UInt8 := dkwX11_widens_3 ++ []
def dkwX11_widens_2 : List UInt8 := [182, 0, 103, 28, 182, 0, 86, 21, 4, 158, 0, 20, 42, 42, 27, 21, 4, 4, 100, 182, 0, 103, 29]
abbrev dktX11_widens_2 : List UInt8 := dkwX11_widens_2 ++ dktX11_widens_3
def dkwX11_widens_1 : List UInt8 := [42, 180, 0, 20, 27, 46, 54, 4, 21, 4, 155, 0, 55, 42, 27, 21, 4, 42, 42, 42, 27, 21, 4]
abbrev dktX11_widens_1 : List UInt8 := dkwX11_widens_1 ++ dktX11_widens_2
def dkwX11_widens_0 : List UInt8 := [42, 27, 42, 180, 0, 20, 27, 46, 4, 96, 3, 182, 0, 99, 42, 180, 0, 20, 27, 92, 46, 4, 96, 79]
abbrev dktX11_widens_0 : List UInt8 := dkwX11_widens_0 ++ dktX11_widens_1
theorem dksX11_widens_0 : cX11_widens.data.toList.drop 0 = dktX11_widens_0 := by decide +kernel
theorem dksX11_widens_1 : cX11_widens.data.toList.drop 24 = dktX11_widens_1 := dk_seg dksX11_widens_0 24 rfl rfl
theorem dksX11_widens_2 : cX11_widens.data.toList.drop 47 = dktX11_widens_2 := dk_seg dksX11_widens_1 23 rfl rfl
theorem dksX11_widens_3 : cX11_widens.data.toList.drop 70 = dktX11_widens_3 := dk_seg dksX11_widens_2 23 rfl rfl
theorem dX11_widens_0 : decode cX11_widens 0 = .ok (.aload_n 0, 1) := dk_42 (dk_at dksX11_widens_0 0 rfl rfl)
theorem dX11_widens_1 : decode cX11_widens 1 = .ok (.iload_n 1, 1) := dk_27 (dk_at dksX11_widens_0 1 rfl rfl)
theorem dX11_widens_2 : decode cX11_widens 2 = .ok (.aload_n 0, 1) := dk_42 (dk_at dksX11_widens_0 2 rfl rfl)
theorem dX11_widens_3 : decode cX11_widens 3 = .ok (.getfield 20, 3) := dk_180 0 20 (dk_at dksX11_widens_0 3 rfl rfl)
theorem dX11_widens_6 : decode cX11_widens 6 = .ok (.iload_n 1, 1) := dk_27 (dk_at dksX11_widens_0 6 rfl rfl)
theorem dX11_widens_7 : decode cX11_widens 7 = .ok (.iaload, 1) := dk_46 (dk_at dksX11_widens_0 7 rfl rfl)
theorem dX11_widens_8 : decode cX11_widens 8 = .ok (.iconst 1, 1) := dk_4 (dk_at dksX11_widens_0 8 rfl rfl)
theorem dX11_widens_9 : decode cX11_widens 9 = .ok (.iadd, 1) := dk_96 (dk_at dksX11_widens_0 9 rfl rfl)
theorem dX11_widens_10 : decode cX11_widens 10 = .ok (.iconst 0, 1) := dk_3 (dk_at dksX11_widens_0 10 rfl rfl)
theorem dX11_widens_11 : decode cX11_widens 11 = .ok (.invokevirtual 99, 3) := dk_182 0 99 (dk_at dksX11_widens_0 11 rfl rfl)
theorem dX11_widens_14 : decode cX11_widens 14 = .ok (.aload_n 0, 1) := dk_42 (dk_at dksX11_widens_0 14 rfl rfl)
theorem dX11_widens_15 : decode cX11_widens 15 = .ok (.getfield 20, 3) := dk_180 0 20 (dk_at dksX11_widens_0 15 rfl rfl)
theorem dX11_widens_18 : decode cX11_widens 18 = .ok (.iload_n 1, 1) := dk_27 (dk_at dksX11_widens_0 18 rfl rfl)
theorem dX11_widens_19 : decode cX11_widens 19 = .ok (.dup2, 1) := dk_92 (dk_at dksX11_widens_0 19 rfl rfl)
theorem dX11_widens_20 : decode cX11_widens 20 = .ok (.iaload, 1) := dk_46 (dk_at dksX11_widens_0 20 rfl rfl)
theorem dX11_widens_21 : decode cX11_widens 21 = .ok (.iconst 1, 1) := dk_4 (dk_at dksX11_widens_0 21 rfl rfl)
theorem dX11_widens_22 : decode cX11_widens 22 = .ok (.iadd, 1) := dk_96 (dk_at dksX11_widens_0 22 rfl rfl)
theorem dX11_widens_23 : decode cX11_widens 23 = .ok (.iastore, 1) := dk_79 (dk_at dksX11_widens_0 23 rfl rfl)
theorem dX11_widens_24 : decode cX11_widens 24 = .ok (.aload_n 0, 1) := dk_42 (dk_at dksX11_widens_1 0 rfl rfl)
theorem dX11_widens_25 : decode cX11_widens 25 = .ok (.getfield 20, 3) := dk_180 0 20 (dk_at dksX11_widens_1 1 rfl rfl)
theorem dX11_widens_28 : decode cX11_widens 28 = .ok (.iload_n 1, 1) := dk_27 (dk_at dksX11_widens_1 4 rfl rfl)
theorem dX11_widens_29 : decode cX11_widens 29 = .ok (.iaload, 1) := dk_46 (dk_at dksX11_widens_1 5 rfl rfl)
theorem dX11_widens_30 : decode cX11_widens 30 = .ok (.istore 4, 2) := dk_54 4 (dk_at dksX11_widens_1 6 rfl rfl)
theorem dX11_widens_32 : decode cX11_widens 32 = .ok (.iload 4, 2) := dk_21 4 (dk_at dksX11_widens_1 8 rfl rfl)
theorem dX11_widens_34 : decode cX11_widens 34 = .ok (.ifCond .lt 55, 3) := dk_155 0 55 (dk_at dksX11_widens_1 10 rfl rfl)
theorem dX11_widens_37 : decode cX11_widens 37 = .ok (.aload_n 0, 1) := dk_42 (dk_at dksX11_widens_1 13 rfl rfl)
theorem dX11_widens_38 : decode cX11_widens 38 = .ok (.iload_n 1, 1) := dk_27 (dk_at dksX11_widens_1 14 rfl rfl)
theorem dX11_widens_39 : decode cX11_widens 39 = .ok (.iload 4, 2) := dk_21 4 (dk_at dksX11_widens_1 15 rfl rfl)
theorem dX11_widens_41 : decode cX11_widens 41 = .ok (.aload_n 0, 1) := dk_42 (dk_at dksX11_widens_1 17 rfl rfl)
theorem dX11_widens_42 : decode cX11_widens 42 = .ok (.aload_n 0, 1) := dk_42 (dk_at dksX11_widens_1 18 rfl rfl)
theorem dX11_widens_43 : decode cX11_widens 43 = .ok (.aload_n 0, 1) := dk_42 (dk_at dksX11_widens_1 19 rfl rfl)
theorem dX11_widens_44 : decode cX11_widens 44 = .ok (.iload_n 1, 1) := dk_27 (dk_at dksX11_widens_1 20 rfl rfl)
theorem dX11_widens_45 : decode cX11_widens 45 = .ok (.iload 4, 2) := dk_21 4 (dk_at dksX11_widens_1 21 rfl rfl)
theorem dX11_widens_47 : decode cX11_widens 47 = .ok (.invokevirtual 103, 3) := dk_182 0 103 (dk_at dksX11_widens_2 0 rfl rfl)
theorem dX11_widens_50 : decode cX11_widens 50 = .ok (.iload_n 2, 1) := dk_28 (dk_at dksX11_widens_2 3 rfl rfl)
theorem dX11_widens_51 : decode cX11_widens 51 = .ok (.invokevirtual 86, 3) := dk_182 0 86 (dk_at dksX11_widens_2 4 rfl rfl)
theorem dX11_widens_54 : decode cX11_widens 54 = .ok (.iload 4, 2) := dk_21 4 (dk_at dksX11_widens_2 7 rfl rfl)
theorem dX11_widens_56 : decode cX11_widens 56 = .ok (.ifCond .le 20, 3) := dk_158 0 20 (dk_at dksX11_widens_2 9 rfl rfl)
theorem dX11_widens_59 : decode cX11_widens 59 = .ok (.aload_n 0, 1) := dk_42 (dk_at dksX11_widens_2 12 rfl rfl)
theorem dX11_widens_60 : decode cX11_widens 60 = .ok (.aload_n 0, 1) := dk_42 (dk_at dksX11_widens_2 13 rfl rfl)
theorem dX11_widens_61 : decode cX11_widens 61 = .ok (.iload_n 1, 1) := dk_27 (dk_at dksX11_widens_2 14 rfl rfl)
theorem dX11_widens_62 : decode cX11_widens 62 = .ok (.iload 4, 2) := dk_21 4 (dk_at dksX11_widens_2 15 rfl rfl)
theorem dX11_widens_64 : decode cX11_widens 64 = .ok (.iconst 1, 1) := dk_4 (dk_at dksX11_widens_2 17 rfl rfl)
theorem dX11_widens_65 : decode cX11_widens 65 = .ok (.isub, 1) := dk_100 (dk_at dksX11_widens_2 18 rfl rfl)
theorem dX11_widens_66 : decode cX11_widens 66 = .ok (.invokevirtual 103, 3) := dk_182 0 103 (dk_at dksX11_widens_2 19 rfl rfl)
theorem dX11_widens_69 : decode cX11_widens 69 = .ok (.iload_n 3, 1) := dk_29 (dk_at dksX11_widens_2 22 rfl rfl)
theorem dX11_widens_70 : decode cX11_widens 70 = .ok (.invokevirtual 86, 3) := dk_182 0 86 (dk_at dksX11_widens_3 0 rfl rfl)
theorem dX11_widens_73 : decode cX11_widens 73 = .ok (.goto 4, 3) := dk_167 0 4 (dk_at dksX11_widens_3 3 rfl rfl)
theorem dX11_widens_76 : decode cX11_widens 76 = .ok (.iconst 0, 1) := dk_3 (dk_at dksX11_widens_3 6 rfl rfl)
theorem dX11_widens_77 : decode cX11_widens 77 = .ok (.invokevirtual 110, 3) := dk_182 0 110 (dk_at dksX11_widens_3 7 rfl rfl)
theorem dX11_widens_80 : decode cX11_widens 80 = .ok (.invokevirtual 99, 3) := dk_182 0 99 (dk_at dksX11_widens_3 10 rfl rfl)
theorem dX11_widens_83 : decode cX11_widens 83 = .ok (.iinc 4 (-1), 3) := dk_132 4 255 (dk_at dksX11_widens_3 13 rfl rfl)
theorem dX11_widens_86 : decode cX11_widens 86 = .ok (.goto (-54), 3) := dk_167 255 202 (dk_at dksX11_widens_3 16 rfl rfl)
theorem dX11_widens_89 : decode cX11_widens 89 = .ok (.return_, 1) := dk_177 (dk_at dksX11_widens_3 19 rfl rfl)
abbrev cX11_isLike : ByteArray := prog_18_method_27_code
def yX11_isLike : MethodName := ⟨RX11, "isLike", "(II)Z"⟩
def dkwX11_isLike_2 : List UInt8 := [21, 4, 182, 0, 103, 160, 0, 7, 4, 167, 0, 4, 3, 62, 132, 4, 1, 167, 255, 215, 29, 172]
abbrev dktX11_isLike_2 : List UInt8 := dkwX11_isLike_2 ++ []
def dkwX11_isLike_1 : List UInt8 := [29, 153, 0, 43, 21, 4, 42, 180, 0, 20, 27, 46, 163, 0, 32, 42, 27, 21, 4, 182, 0, 103, 42, 28]
abbrev dktX11_isLike_1 : List UInt8 := dkwX11_isLike_1 ++ dktX11_isLike_2
def dkwX11_isLike_0 : List UInt8 := [42, 180, 0, 20, 27, 46, 42, 180, 0, 20, 28, 46, 160, 0, 7, 4, 167, 0, 4, 3, 62, 3, 54, 4]
abbrev dktX11_isLike_0 : List UInt8 := dkwX11_isLike_0 ++ dktX11_isLike_1
theorem dksX11_isLike_0 : cX11_isLike.data.toList.drop 0 = dktX11_isLike_0 := by decide +kernel
theorem dksX11_isLike_1 : cX11_isLike.data.toList.drop 24 = dktX11_isLike_1 := dk_seg dksX11_isLike_0 24 rfl rfl
theorem dksX11_isLike_2 : cX11_isLike.data.toList.drop 48 = dktX11_isLike_2 := dk_seg dksX11_isLike_1 24 rfl rfl
theorem dX11_isLike_0 : decode cX11_isLike 0 = .ok (.aload_n 0, 1) := dk_42 (dk_at dksX11_isLike_0 0 rfl rfl)
theorem dX11_isLike_1 : decode cX11_isLike 1 = .ok (.getfield 20, 3) := dk_180 0 20 (dk_at dksX11_isLike_0 1 rfl rfl)
theorem dX11_isLike_4 : decode cX11_isLike 4 = .ok (.iload_n 1, 1) := dk_27 (dk_at dksX11_isLike_0 4 rfl rfl)
theorem dX11_isLike_5 : decode cX11_isLike 5 = .ok (.iaload, 1) := dk_46 (dk_at dksX11_isLike_0 5 rfl rfl)
theorem dX11_isLike_6 : decode cX11_isLike 6 = .ok (.aload_n 0, 1) := dk_42 (dk_at dksX11_isLike_0 6 rfl rfl)
theorem dX11_isLike_7 : decode cX11_isLike 7 = .ok (.getfield 20, 3) := dk_180 0 20 (dk_at dksX11_isLike_0 7 rfl rfl)
theorem dX11_isLike_10 : decode cX11_isLike 10 = .ok (.iload_n 2, 1) := dk_28 (dk_at dksX11_isLike_0 10 rfl rfl)
theorem dX11_isLike_11 : decode cX11_isLike 11 = .ok (.iaload, 1) := dk_46 (dk_at dksX11_isLike_0 11 rfl rfl)
theorem dX11_isLike_12 : decode cX11_isLike 12 = .ok (.if_icmp .ne 7, 3) := dk_160 0 7 (dk_at dksX11_isLike_0 12 rfl rfl)
theorem dX11_isLike_15 : decode cX11_isLike 15 = .ok (.iconst 1, 1) := dk_4 (dk_at dksX11_isLike_0 15 rfl rfl)
theorem dX11_isLike_16 : decode cX11_isLike 16 = .ok (.goto 4, 3) := dk_167 0 4 (dk_at dksX11_isLike_0 16 rfl rfl)
theorem dX11_isLike_19 : decode cX11_isLike 19 = .ok (.iconst 0, 1) := dk_3 (dk_at dksX11_isLike_0 19 rfl rfl)
theorem dX11_isLike_20 : decode cX11_isLike 20 = .ok (.istore_n 3, 1) := dk_62 (dk_at dksX11_isLike_0 20 rfl rfl)
theorem dX11_isLike_21 : decode cX11_isLike 21 = .ok (.iconst 0, 1) := dk_3 (dk_at dksX11_isLike_0 21 rfl rfl)
theorem dX11_isLike_22 : decode cX11_isLike 22 = .ok (.istore 4, 2) := dk_54 4 (dk_at dksX11_isLike_0 22 rfl rfl)
theorem dX11_isLike_24 : decode cX11_isLike 24 = .ok (.iload_n 3, 1) := dk_29 (dk_at dksX11_isLike_1 0 rfl rfl)
theorem dX11_isLike_25 : decode cX11_isLike 25 = .ok (.ifCond .eq 43, 3) := dk_153 0 43 (dk_at dksX11_isLike_1 1 rfl rfl)
theorem dX11_isLike_28 : decode cX11_isLike 28 = .ok (.iload 4, 2) := dk_21 4 (dk_at dksX11_isLike_1 4 rfl rfl)
theorem dX11_isLike_30 : decode cX11_isLike 30 = .ok (.aload_n 0, 1) := dk_42 (dk_at dksX11_isLike_1 6 rfl rfl)
theorem dX11_isLike_31 : decode cX11_isLike 31 = .ok (.getfield 20, 3) := dk_180 0 20 (dk_at dksX11_isLike_1 7 rfl rfl)
theorem dX11_isLike_34 : decode cX11_isLike 34 = .ok (.iload_n 1, 1) := dk_27 (dk_at dksX11_isLike_1 10 rfl rfl)
theorem dX11_isLike_35 : decode cX11_isLike 35 = .ok (.iaload, 1) := dk_46 (dk_at dksX11_isLike_1 11 rfl rfl)
theorem dX11_isLike_36 : decode cX11_isLike 36 = .ok (.if_icmp .gt 32, 3) := dk_163 0 32 (dk_at dksX11_isLike_1 12 rfl rfl)
theorem dX11_isLike_39 : decode cX11_isLike 39 = .ok (.aload_n 0, 1) := dk_42 (dk_at dksX11_isLike_1 15 rfl rfl)
theorem dX11_isLike_40 : decode cX11_isLike 40 = .ok (.iload_n 1, 1) := dk_27 (dk_at dksX11_isLike_1 16 rfl rfl)
theorem dX11_isLike_41 : decode cX11_isLike 41 = .ok (.iload 4, 2) := dk_21 4 (dk_at dksX11_isLike_1 17 rfl rfl)
theorem dX11_isLike_43 : decode cX11_isLike 43 = .ok (.invokevirtual 103, 3) := dk_182 0 103 (dk_at dksX11_isLike_1 19 rfl rfl)
theorem dX11_isLike_46 : decode cX11_isLike 46 = .ok (.aload_n 0, 1) := dk_42 (dk_at dksX11_isLike_1 22 rfl rfl)
theorem dX11_isLike_47 : decode cX11_isLike 47 = .ok (.iload_n 2, 1) := dk_28 (dk_at dksX11_isLike_1 23 rfl rfl)
theorem dX11_isLike_48 : decode cX11_isLike 48 = .ok (.iload 4, 2) := dk_21 4 (dk_at dksX11_isLike_2 0 rfl rfl)
theorem dX11_isLike_50 : decode cX11_isLike 50 = .ok (.invokevirtual 103, 3) := dk_182 0 103 (dk_at dksX11_isLike_2 2 rfl rfl)
theorem dX11_isLike_53 : decode cX11_isLike 53 = .ok (.if_icmp .ne 7, 3) := dk_160 0 7 (dk_at dksX11_isLike_2 5 rfl rfl)
theorem dX11_isLike_56 : decode cX11_isLike 56 = .ok (.iconst 1, 1) := dk_4 (dk_at dksX11_isLike_2 8 rfl rfl)
theorem dX11_isLike_57 : decode cX11_isLike 57 = .ok (.goto 4, 3) := dk_167 0 4 (dk_at dksX11_isLike_2 9 rfl rfl)
theorem dX11_isLike_60 : decode cX11_isLike 60 = .ok (.iconst 0, 1) := dk_3 (dk_at dksX11_isLike_2 12 rfl rfl)
theorem dX11_isLike_61 : decode cX11_isLike 61 = .ok (.istore_n 3, 1) := dk_62 (dk_at dksX11_isLike_2 13 rfl rfl)
theorem dX11_isLike_62 : decode cX11_isLike 62 = .ok (.iinc 4 1, 3) := dk_132 4 1 (dk_at dksX11_isLike_2 14 rfl rfl)
theorem dX11_isLike_65 : decode cX11_isLike 65 = .ok (.goto (-41), 3) := dk_167 255 215 (dk_at dksX11_isLike_2 17 rfl rfl)
theorem dX11_isLike_68 : decode cX11_isLike 68 = .ok (.iload_n 3, 1) := dk_29 (dk_at dksX11_isLike_2 20 rfl rfl)
theorem dX11_isLike_69 : decode cX11_isLike 69 = .ok (.ireturn, 1) := dk_172 (dk_at dksX11_isLike_2 21 rfl rfl)
abbrev cX11_undo : ByteArray := prog_18_method_69_code
def yX11_undo : MethodName := ⟨RX11, "undo", "()I"⟩
def dkwX11_undo_1 : List UInt8 := [100, 79, 42, 180, 0, 13, 8, 92, 46, 4, 96, 79, 42, 42, 180, 0, 13, 7, 46, 4, 182, 1, 1, 172]
abbrev dktX11_undo_1 : List UInt8 := dkwX11_undo_1 ++ []
def dkwX11_undo_0 : List UInt8 := [42, 3, 181, 0, 3, 42, 180, 0, 13, 7, 46, 154, 0, 5, 2, 172, 42, 180, 0, 13, 7, 92, 46, 4]
abbrev dktX11_undo_0 : List UInt8 := dkwX11_undo_0 ++ dktX11_undo_1
theorem dksX11_undo_0 : cX11_undo.data.toList.drop 0 = dktX11_undo_0 := by decide +kernel
theorem dksX11_undo_1 : cX11_undo.data.toList.drop 24 = dktX11_undo_1 := dk_seg dksX11_undo_0 24 rfl rfl
theorem dX11_undo_0 : decode cX11_undo 0 = .ok (.aload_n 0, 1) := dk_42 (dk_at dksX11_undo_0 0 rfl rfl)
theorem dX11_undo_1 : decode cX11_undo 1 = .ok (.iconst 0, 1) := dk_3 (dk_at dksX11_undo_0 1 rfl rfl)
theorem dX11_undo_2 : decode cX11_undo 2 = .ok (.putfield 3, 3) := dk_181 0 3 (dk_at dksX11_undo_0 2 rfl rfl)
theorem dX11_undo_5 : decode cX11_undo 5 = .ok (.aload_n 0, 1) := dk_42 (dk_at dksX11_undo_0 5 rfl rfl)
theorem dX11_undo_6 : decode cX11_undo 6 = .ok (.getfield 13, 3) := dk_180 0 13 (dk_at dksX11_undo_0 6 rfl rfl)
theorem dX11_undo_9 : decode cX11_undo 9 = .ok (.iconst 4, 1) := dk_7 (dk_at dksX11_undo_0 9 rfl rfl)
theorem dX11_undo_10 : decode cX11_undo 10 = .ok (.iaload, 1) := dk_46 (dk_at dksX11_undo_0 10 rfl rfl)
theorem dX11_undo_11 : decode cX11_undo 11 = .ok (.ifCond .ne 5, 3) := dk_154 0 5 (dk_at dksX11_undo_0 11 rfl rfl)
theorem dX11_undo_14 : decode cX11_undo 14 = .ok (.iconst (-1), 1) := dk_2 (dk_at dksX11_undo_0 14 rfl rfl)
theorem dX11_undo_15 : decode cX11_undo 15 = .ok (.ireturn, 1) := dk_172 (dk_at dksX11_undo_0 15 rfl rfl)
theorem dX11_undo_16 : decode cX11_undo 16 = .ok (.aload_n 0, 1) := dk_42 (dk_at dksX11_undo_0 16 rfl rfl)
theorem dX11_undo_17 : decode cX11_undo 17 = .ok (.getfield 13, 3) := dk_180 0 13 (dk_at dksX11_undo_0 17 rfl rfl)
theorem dX11_undo_20 : decode cX11_undo 20 = .ok (.iconst 4, 1) := dk_7 (dk_at dksX11_undo_0 20 rfl rfl)
theorem dX11_undo_21 : decode cX11_undo 21 = .ok (.dup2, 1) := dk_92 (dk_at dksX11_undo_0 21 rfl rfl)
theorem dX11_undo_22 : decode cX11_undo 22 = .ok (.iaload, 1) := dk_46 (dk_at dksX11_undo_0 22 rfl rfl)
theorem dX11_undo_23 : decode cX11_undo 23 = .ok (.iconst 1, 1) := dk_4 (dk_at dksX11_undo_0 23 rfl rfl)
theorem dX11_undo_24 : decode cX11_undo 24 = .ok (.isub, 1) := dk_100 (dk_at dksX11_undo_1 0 rfl rfl)
theorem dX11_undo_25 : decode cX11_undo 25 = .ok (.iastore, 1) := dk_79 (dk_at dksX11_undo_1 1 rfl rfl)
theorem dX11_undo_26 : decode cX11_undo 26 = .ok (.aload_n 0, 1) := dk_42 (dk_at dksX11_undo_1 2 rfl rfl)
theorem dX11_undo_27 : decode cX11_undo 27 = .ok (.getfield 13, 3) := dk_180 0 13 (dk_at dksX11_undo_1 3 rfl rfl)
theorem dX11_undo_30 : decode cX11_undo 30 = .ok (.iconst 5, 1) := dk_8 (dk_at dksX11_undo_1 6 rfl rfl)
theorem dX11_undo_31 : decode cX11_undo 31 = .ok (.dup2, 1) := dk_92 (dk_at dksX11_undo_1 7 rfl rfl)
theorem dX11_undo_32 : decode cX11_undo 32 = .ok (.iaload, 1) := dk_46 (dk_at dksX11_undo_1 8 rfl rfl)
theorem dX11_undo_33 : decode cX11_undo 33 = .ok (.iconst 1, 1) := dk_4 (dk_at dksX11_undo_1 9 rfl rfl)
theorem dX11_undo_34 : decode cX11_undo 34 = .ok (.iadd, 1) := dk_96 (dk_at dksX11_undo_1 10 rfl rfl)
theorem dX11_undo_35 : decode cX11_undo 35 = .ok (.iastore, 1) := dk_79 (dk_at dksX11_undo_1 11 rfl rfl)
theorem dX11_undo_36 : decode cX11_undo 36 = .ok (.aload_n 0, 1) := dk_42 (dk_at dksX11_undo_1 12 rfl rfl)
theorem dX11_undo_37 : decode cX11_undo 37 = .ok (.aload_n 0, 1) := dk_42 (dk_at dksX11_undo_1 13 rfl rfl)
theorem dX11_undo_38 : decode cX11_undo 38 = .ok (.getfield 13, 3) := dk_180 0 13 (dk_at dksX11_undo_1 14 rfl rfl)
theorem dX11_undo_41 : decode cX11_undo 41 = .ok (.iconst 4, 1) := dk_7 (dk_at dksX11_undo_1 17 rfl rfl)
theorem dX11_undo_42 : decode cX11_undo 42 = .ok (.iaload, 1) := dk_46 (dk_at dksX11_undo_1 18 rfl rfl)
theorem dX11_undo_43 : decode cX11_undo 43 = .ok (.iconst 1, 1) := dk_4 (dk_at dksX11_undo_1 19 rfl rfl)
theorem dX11_undo_44 : decode cX11_undo 44 = .ok (.invokevirtual 257, 3) := dk_182 1 1 (dk_at dksX11_undo_1 20 rfl rfl)
theorem dX11_undo_47 : decode cX11_undo 47 = .ok (.ireturn, 1) := dk_172 (dk_at dksX11_undo_1 23 rfl rfl)
abbrev cX11_again : ByteArray := prog_18_method_68_code
def yX11_again : MethodName := ⟨RX11, "again", "(IZ)I"⟩
def dkwX11_again_2 : List UInt8 := [42, 182, 0, 235, 42, 42, 180, 0, 13, 29, 46, 182, 0, 254, 87, 42, 180, 0, 13, 29, 46, 172]
abbrev dktX11_again_2 : List UInt8 := dkwX11_again_2 ++ []
def dkwX11_again_1 : List UInt8 := [46, 42, 180, 0, 13, 29, 6, 96, 46, 42, 180, 0, 13, 29, 7, 96, 46, 182, 0, 146, 28, 153, 0, 7]
abbrev dktX11_again_1 : List UInt8 := dkwX11_again_1 ++ dktX11_again_2
def dkwX11_again_0 : List UInt8 := [17, 13, 78, 8, 27, 104, 96, 62, 42, 42, 180, 0, 13, 29, 4, 96, 46, 42, 180, 0, 13, 29, 5, 96]
abbrev dktX11_again_0 : List UInt8 := dkwX11_again_0 ++ dktX11_again_1
theorem dksX11_again_0 : cX11_again.data.toList.drop 0 = dktX11_again_0 := by decide +kernel
theorem dksX11_again_1 : cX11_again.data.toList.drop 24 = dktX11_again_1 := dk_seg dksX11_again_0 24 rfl rfl
theorem dksX11_again_2 : cX11_again.data.toList.drop 48 = dktX11_again_2 := dk_seg dksX11_again_1 24 rfl rfl
theorem dX11_again_0 : decode cX11_again 0 = .ok (.sipush 3406, 3) := dk_17 13 78 (dk_at dksX11_again_0 0 rfl rfl)
theorem dX11_again_3 : decode cX11_again 3 = .ok (.iconst 5, 1) := dk_8 (dk_at dksX11_again_0 3 rfl rfl)
theorem dX11_again_4 : decode cX11_again 4 = .ok (.iload_n 1, 1) := dk_27 (dk_at dksX11_again_0 4 rfl rfl)
theorem dX11_again_5 : decode cX11_again 5 = .ok (.imul, 1) := dk_104 (dk_at dksX11_again_0 5 rfl rfl)
theorem dX11_again_6 : decode cX11_again 6 = .ok (.iadd, 1) := dk_96 (dk_at dksX11_again_0 6 rfl rfl)
theorem dX11_again_7 : decode cX11_again 7 = .ok (.istore_n 3, 1) := dk_62 (dk_at dksX11_again_0 7 rfl rfl)
theorem dX11_again_8 : decode cX11_again 8 = .ok (.aload_n 0, 1) := dk_42 (dk_at dksX11_again_0 8 rfl rfl)
theorem dX11_again_9 : decode cX11_again 9 = .ok (.aload_n 0, 1) := dk_42 (dk_at dksX11_again_0 9 rfl rfl)
theorem dX11_again_10 : decode cX11_again 10 = .ok (.getfield 13, 3) := dk_180 0 13 (dk_at dksX11_again_0 10 rfl rfl)
theorem dX11_again_13 : decode cX11_again 13 = .ok (.iload_n 3, 1) := dk_29 (dk_at dksX11_again_0 13 rfl rfl)
theorem dX11_again_14 : decode cX11_again 14 = .ok (.iconst 1, 1) := dk_4 (dk_at dksX11_again_0 14 rfl rfl)
theorem dX11_again_15 : decode cX11_again 15 = .ok (.iadd, 1) := dk_96 (dk_at dksX11_again_0 15 rfl rfl)
theorem dX11_again_16 : decode cX11_again 16 = .ok (.iaload, 1) := dk_46 (dk_at dksX11_again_0 16 rfl rfl)
theorem dX11_again_17 : decode cX11_again 17 = .ok (.aload_n 0, 1) := dk_42 (dk_at dksX11_again_0 17 rfl rfl)
theorem dX11_again_18 : decode cX11_again 18 = .ok (.getfield 13, 3) := dk_180 0 13 (dk_at dksX11_again_0 18 rfl rfl)
theorem dX11_again_21 : decode cX11_again 21 = .ok (.iload_n 3, 1) := dk_29 (dk_at dksX11_again_0 21 rfl rfl)
theorem dX11_again_22 : decode cX11_again 22 = .ok (.iconst 2, 1) := dk_5 (dk_at dksX11_again_0 22 rfl rfl)
theorem dX11_again_23 : decode cX11_again 23 = .ok (.iadd, 1) := dk_96 (dk_at dksX11_again_0 23 rfl rfl)
theorem dX11_again_24 : decode cX11_again 24 = .ok (.iaload, 1) := dk_46 (dk_at dksX11_again_1 0 rfl rfl)
theorem dX11_again_25 : decode cX11_again 25 = .ok (.aload_n 0, 1) := dk_42 (dk_at dksX11_again_1 1 rfl rfl)
theorem dX11_again_26 : decode cX11_again 26 = .ok (.getfield 13, 3) := dk_180 0 13 (dk_at dksX11_again_1 2 rfl rfl)
theorem dX11_again_29 : decode cX11_again 29 = .ok (.iload_n 3, 1) := dk_29 (dk_at dksX11_again_1 5 rfl rfl)
theorem dX11_again_30 : decode cX11_again 30 = .ok (.iconst 3, 1) := dk_6 (dk_at dksX11_again_1 6 rfl rfl)
theorem dX11_again_31 : decode cX11_again 31 = .ok (.iadd, 1) := dk_96 (dk_at dksX11_again_1 7 rfl rfl)
theorem dX11_again_32 : decode cX11_again 32 = .ok (.iaload, 1) := dk_46 (dk_at dksX11_again_1 8 rfl rfl)
theorem dX11_again_33 : decode cX11_again 33 = .ok (.aload_n 0, 1) := dk_42 (dk_at dksX11_again_1 9 rfl rfl)
theorem dX11_again_34 : decode cX11_again 34 = .ok (.getfield 13, 3) := dk_180 0 13 (dk_at dksX11_again_1 10 rfl rfl)
theorem dX11_again_37 : decode cX11_again 37 = .ok (.iload_n 3, 1) := dk_29 (dk_at dksX11_again_1 13 rfl rfl)
theorem dX11_again_38 : decode cX11_again 38 = .ok (.iconst 4, 1) := dk_7 (dk_at dksX11_again_1 14 rfl rfl)
theorem dX11_again_39 : decode cX11_again 39 = .ok (.iadd, 1) := dk_96 (dk_at dksX11_again_1 15 rfl rfl)
theorem dX11_again_40 : decode cX11_again 40 = .ok (.iaload, 1) := dk_46 (dk_at dksX11_again_1 16 rfl rfl)
theorem dX11_again_41 : decode cX11_again 41 = .ok (.invokevirtual 146, 3) := dk_182 0 146 (dk_at dksX11_again_1 17 rfl rfl)
theorem dX11_again_44 : decode cX11_again 44 = .ok (.iload_n 2, 1) := dk_28 (dk_at dksX11_again_1 20 rfl rfl)
theorem dX11_again_45 : decode cX11_again 45 = .ok (.ifCond .eq 7, 3) := dk_153 0 7 (dk_at dksX11_again_1 21 rfl rfl)
theorem dX11_again_48 : decode cX11_again 48 = .ok (.aload_n 0, 1) := dk_42 (dk_at dksX11_again_2 0 rfl rfl)
theorem dX11_again_49 : decode cX11_again 49 = .ok (.invokevirtual 235, 3) := dk_182 0 235 (dk_at dksX11_again_2 1 rfl rfl)
theorem dX11_again_52 : decode cX11_again 52 = .ok (.aload_n 0, 1) := dk_42 (dk_at dksX11_again_2 4 rfl rfl)
theorem dX11_again_53 : decode cX11_again 53 = .ok (.aload_n 0, 1) := dk_42 (dk_at dksX11_again_2 5 rfl rfl)
theorem dX11_again_54 : decode cX11_again 54 = .ok (.getfield 13, 3) := dk_180 0 13 (dk_at dksX11_again_2 6 rfl rfl)
theorem dX11_again_57 : decode cX11_again 57 = .ok (.iload_n 3, 1) := dk_29 (dk_at dksX11_again_2 9 rfl rfl)
theorem dX11_again_58 : decode cX11_again 58 = .ok (.iaload, 1) := dk_46 (dk_at dksX11_again_2 10 rfl rfl)
theorem dX11_again_59 : decode cX11_again 59 = .ok (.invokevirtual 254, 3) := dk_182 0 254 (dk_at dksX11_again_2 11 rfl rfl)
theorem dX11_again_62 : decode cX11_again 62 = .ok (.pop, 1) := dk_87 (dk_at dksX11_again_2 14 rfl rfl)
theorem dX11_again_63 : decode cX11_again 63 = .ok (.aload_n 0, 1) := dk_42 (dk_at dksX11_again_2 15 rfl rfl)
theorem dX11_again_64 : decode cX11_again 64 = .ok (.getfield 13, 3) := dk_180 0 13 (dk_at dksX11_again_2 16 rfl rfl)
theorem dX11_again_67 : decode cX11_again 67 = .ok (.iload_n 3, 1) := dk_29 (dk_at dksX11_again_2 19 rfl rfl)
theorem dX11_again_68 : decode cX11_again 68 = .ok (.iaload, 1) := dk_46 (dk_at dksX11_again_2 20 rfl rfl)
theorem dX11_again_69 : decode cX11_again 69 = .ok (.ireturn, 1) := dk_172 (dk_at dksX11_again_2 21 rfl rfl)
abbrev cX11_redo : ByteArray := prog_18_method_70_code
def yX11_redo : MethodName := ⟨RX11, "redo", "()I"⟩
def dkwX11_redo_2 : List UInt8 := [182, 1, 1, 172]
abbrev dktX11_redo_2 : List UInt8 := dkwX11_redo_2 ++ []
def dkwX11_redo_1 : List UInt8 := [96, 79, 42, 180, 0, 13, 8, 92, 46, 4, 100, 79, 42, 42, 180, 0, 13, 7, 46, 4, 100, 3]
abbrev dktX11_redo_1 : List UInt8 := dkwX11_redo_1 ++ dktX11_redo_2
def dkwX11_redo_0 : List UInt8 := [42, 3, 181, 0, 3, 42, 180, 0, 13, 8, 46, 154, 0, 5, 2, 172, 42, 180, 0, 13, 7, 92, 46, 4]
abbrev dktX11_redo_0 : List UInt8 := dkwX11_redo_0 ++ dktX11_redo_1
theorem dksX11_redo_0 : cX11_redo.data.toList.drop 0 = dktX11_redo_0 := by decide +kernel
theorem dksX11_redo_1 : cX11_redo.data.toList.drop 24 = dktX11_redo_1 := dk_seg dksX11_redo_0 24 rfl rfl
theorem dksX11_redo_2 : cX11_redo.data.toList.drop 46 = dktX11_redo_2 := dk_seg dksX11_redo_1 22 rfl rfl
theorem dX11_redo_0 : decode cX11_redo 0 = .ok (.aload_n 0, 1) := dk_42 (dk_at dksX11_redo_0 0 rfl rfl)
theorem dX11_redo_1 : decode cX11_redo 1 = .ok (.iconst 0, 1) := dk_3 (dk_at dksX11_redo_0 1 rfl rfl)
theorem dX11_redo_2 : decode cX11_redo 2 = .ok (.putfield 3, 3) := dk_181 0 3 (dk_at dksX11_redo_0 2 rfl rfl)
theorem dX11_redo_5 : decode cX11_redo 5 = .ok (.aload_n 0, 1) := dk_42 (dk_at dksX11_redo_0 5 rfl rfl)
theorem dX11_redo_6 : decode cX11_redo 6 = .ok (.getfield 13, 3) := dk_180 0 13 (dk_at dksX11_redo_0 6 rfl rfl)
theorem dX11_redo_9 : decode cX11_redo 9 = .ok (.iconst 5, 1) := dk_8 (dk_at dksX11_redo_0 9 rfl rfl)
theorem dX11_redo_10 : decode cX11_redo 10 = .ok (.iaload, 1) := dk_46 (dk_at dksX11_redo_0 10 rfl rfl)
theorem dX11_redo_11 : decode cX11_redo 11 = .ok (.ifCond .ne 5, 3) := dk_154 0 5 (dk_at dksX11_redo_0 11 rfl rfl)
theorem dX11_redo_14 : decode cX11_redo 14 = .ok (.iconst (-1), 1) := dk_2 (dk_at dksX11_redo_0 14 rfl rfl)
theorem dX11_redo_15 : decode cX11_redo 15 = .ok (.ireturn, 1) := dk_172 (dk_at dksX11_redo_0 15 rfl rfl)
theorem dX11_redo_16 : decode cX11_redo 16 = .ok (.aload_n 0, 1) := dk_42 (dk_at dksX11_redo_0 16 rfl rfl)
theorem dX11_redo_17 : decode cX11_redo 17 = .ok (.getfield 13, 3) := dk_180 0 13 (dk_at dksX11_redo_0 17 rfl rfl)
theorem dX11_redo_20 : decode cX11_redo 20 = .ok (.iconst 4, 1) := dk_7 (dk_at dksX11_redo_0 20 rfl rfl)
theorem dX11_redo_21 : decode cX11_redo 21 = .ok (.dup2, 1) := dk_92 (dk_at dksX11_redo_0 21 rfl rfl)
theorem dX11_redo_22 : decode cX11_redo 22 = .ok (.iaload, 1) := dk_46 (dk_at dksX11_redo_0 22 rfl rfl)
theorem dX11_redo_23 : decode cX11_redo 23 = .ok (.iconst 1, 1) := dk_4 (dk_at dksX11_redo_0 23 rfl rfl)
theorem dX11_redo_24 : decode cX11_redo 24 = .ok (.iadd, 1) := dk_96 (dk_at dksX11_redo_1 0 rfl rfl)
theorem dX11_redo_25 : decode cX11_redo 25 = .ok (.iastore, 1) := dk_79 (dk_at dksX11_redo_1 1 rfl rfl)
theorem dX11_redo_26 : decode cX11_redo 26 = .ok (.aload_n 0, 1) := dk_42 (dk_at dksX11_redo_1 2 rfl rfl)
theorem dX11_redo_27 : decode cX11_redo 27 = .ok (.getfield 13, 3) := dk_180 0 13 (dk_at dksX11_redo_1 3 rfl rfl)
theorem dX11_redo_30 : decode cX11_redo 30 = .ok (.iconst 5, 1) := dk_8 (dk_at dksX11_redo_1 6 rfl rfl)
theorem dX11_redo_31 : decode cX11_redo 31 = .ok (.dup2, 1) := dk_92 (dk_at dksX11_redo_1 7 rfl rfl)
theorem dX11_redo_32 : decode cX11_redo 32 = .ok (.iaload, 1) := dk_46 (dk_at dksX11_redo_1 8 rfl rfl)
theorem dX11_redo_33 : decode cX11_redo 33 = .ok (.iconst 1, 1) := dk_4 (dk_at dksX11_redo_1 9 rfl rfl)
theorem dX11_redo_34 : decode cX11_redo 34 = .ok (.isub, 1) := dk_100 (dk_at dksX11_redo_1 10 rfl rfl)
theorem dX11_redo_35 : decode cX11_redo 35 = .ok (.iastore, 1) := dk_79 (dk_at dksX11_redo_1 11 rfl rfl)
theorem dX11_redo_36 : decode cX11_redo 36 = .ok (.aload_n 0, 1) := dk_42 (dk_at dksX11_redo_1 12 rfl rfl)
theorem dX11_redo_37 : decode cX11_redo 37 = .ok (.aload_n 0, 1) := dk_42 (dk_at dksX11_redo_1 13 rfl rfl)
theorem dX11_redo_38 : decode cX11_redo 38 = .ok (.getfield 13, 3) := dk_180 0 13 (dk_at dksX11_redo_1 14 rfl rfl)
theorem dX11_redo_41 : decode cX11_redo 41 = .ok (.iconst 4, 1) := dk_7 (dk_at dksX11_redo_1 17 rfl rfl)
theorem dX11_redo_42 : decode cX11_redo 42 = .ok (.iaload, 1) := dk_46 (dk_at dksX11_redo_1 18 rfl rfl)
theorem dX11_redo_43 : decode cX11_redo 43 = .ok (.iconst 1, 1) := dk_4 (dk_at dksX11_redo_1 19 rfl rfl)
theorem dX11_redo_44 : decode cX11_redo 44 = .ok (.isub, 1) := dk_100 (dk_at dksX11_redo_1 20 rfl rfl)
theorem dX11_redo_45 : decode cX11_redo 45 = .ok (.iconst 0, 1) := dk_3 (dk_at dksX11_redo_1 21 rfl rfl)
theorem dX11_redo_46 : decode cX11_redo 46 = .ok (.invokevirtual 257, 3) := dk_182 1 1 (dk_at dksX11_redo_2 0 rfl rfl)
theorem dX11_redo_49 : decode cX11_redo 49 = .ok (.ireturn, 1) := dk_172 (dk_at dksX11_redo_2 3 rfl rfl)
abbrev cX11_value : ByteArray := prog_18_method_76_code
def yX11_value : MethodName := ⟨RX11, "value", "(III)I"⟩
def dkwX11_value_3 : List UInt8 := [3, 42, 180, 0, 20, 3, 46, 184, 0, 68, 153, 0, 12, 42, 3, 29, 182, 0, 103, 167, 0, 4, 2, 172]
abbrev dktX11_value_3 : List UInt8 := dkwX11_value_3 ++ []
def dkwX11_value_2 : List UInt8 := [182, 1, 27, 154, 0, 6, 16, 254, 172, 29, 2, 160, 0, 12, 42, 180, 0, 20, 3, 46, 167, 0, 27, 29]
abbrev dktX11_value_2 : List UInt8 := dkwX11_value_2 ++ dktX11_value_3
def dkwX11_value_1 : List UInt8 := [167, 0, 4, 3, 4, 182, 0, 215, 153, 0, 5, 3, 172, 42, 16, 44, 28, 182, 0, 241, 42, 27]
abbrev dktX11_value_1 : List UInt8 := dkwX11_value_1 ++ dktX11_value_2
def dkwX11_value_0 : List UInt8 := [42, 3, 181, 0, 3, 42, 42, 27, 182, 1, 24, 154, 0, 11, 42, 28, 182, 0, 238, 153, 0, 7, 4]
abbrev dktX11_value_0 : List UInt8 := dkwX11_value_0 ++ dktX11_value_1
theorem dksX11_value_0 : cX11_value.data.toList.drop 0 = dktX11_value_0 := by decide +kernel
theorem dksX11_value_1 : cX11_value.data.toList.drop 23 = dktX11_value_1 := dk_seg dksX11_value_0 23 rfl rfl
theorem dksX11_value_2 : cX11_value.data.toList.drop 45 = dktX11_value_2 := dk_seg dksX11_value_1 22 rfl rfl
theorem dksX11_value_3 : cX11_value.data.toList.drop 69 = dktX11_value_3 := dk_seg dksX11_value_2 24 rfl rfl
theorem dX11_value_0 : decode cX11_value 0 = .ok (.aload_n 0, 1) := dk_42 (dk_at dksX11_value_0 0 rfl rfl)
theorem dX11_value_1 : decode cX11_value 1 = .ok (.iconst 0, 1) := dk_3 (dk_at dksX11_value_0 1 rfl rfl)
theorem dX11_value_2 : decode cX11_value 2 = .ok (.putfield 3, 3) := dk_181 0 3 (dk_at dksX11_value_0 2 rfl rfl)
theorem dX11_value_5 : decode cX11_value 5 = .ok (.aload_n 0, 1) := dk_42 (dk_at dksX11_value_0 5 rfl rfl)
theorem dX11_value_6 : decode cX11_value 6 = .ok (.aload_n 0, 1) := dk_42 (dk_at dksX11_value_0 6 rfl rfl)
theorem dX11_value_7 : decode cX11_value 7 = .ok (.iload_n 1, 1) := dk_27 (dk_at dksX11_value_0 7 rfl rfl)
theorem dX11_value_8 : decode cX11_value 8 = .ok (.invokevirtual 280, 3) := dk_182 1 24 (dk_at dksX11_value_0 8 rfl rfl)
theorem dX11_value_11 : decode cX11_value 11 = .ok (.ifCond .ne 11, 3) := dk_154 0 11 (dk_at dksX11_value_0 11 rfl rfl)
theorem dX11_value_14 : decode cX11_value 14 = .ok (.aload_n 0, 1) := dk_42 (dk_at dksX11_value_0 14 rfl rfl)
theorem dX11_value_15 : decode cX11_value 15 = .ok (.iload_n 2, 1) := dk_28 (dk_at dksX11_value_0 15 rfl rfl)
theorem dX11_value_16 : decode cX11_value 16 = .ok (.invokevirtual 238, 3) := dk_182 0 238 (dk_at dksX11_value_0 16 rfl rfl)
theorem dX11_value_19 : decode cX11_value 19 = .ok (.ifCond .eq 7, 3) := dk_153 0 7 (dk_at dksX11_value_0 19 rfl rfl)
theorem dX11_value_22 : decode cX11_value 22 = .ok (.iconst 1, 1) := dk_4 (dk_at dksX11_value_0 22 rfl rfl)
theorem dX11_value_23 : decode cX11_value 23 = .ok (.goto 4, 3) := dk_167 0 4 (dk_at dksX11_value_1 0 rfl rfl)
theorem dX11_value_26 : decode cX11_value 26 = .ok (.iconst 0, 1) := dk_3 (dk_at dksX11_value_1 3 rfl rfl)
theorem dX11_value_27 : decode cX11_value 27 = .ok (.iconst 1, 1) := dk_4 (dk_at dksX11_value_1 4 rfl rfl)
theorem dX11_value_28 : decode cX11_value 28 = .ok (.invokevirtual 215, 3) := dk_182 0 215 (dk_at dksX11_value_1 5 rfl rfl)
theorem dX11_value_31 : decode cX11_value 31 = .ok (.ifCond .eq 5, 3) := dk_153 0 5 (dk_at dksX11_value_1 8 rfl rfl)
theorem dX11_value_34 : decode cX11_value 34 = .ok (.iconst 0, 1) := dk_3 (dk_at dksX11_value_1 11 rfl rfl)
theorem dX11_value_35 : decode cX11_value 35 = .ok (.ireturn, 1) := dk_172 (dk_at dksX11_value_1 12 rfl rfl)
theorem dX11_value_36 : decode cX11_value 36 = .ok (.aload_n 0, 1) := dk_42 (dk_at dksX11_value_1 13 rfl rfl)
theorem dX11_value_37 : decode cX11_value 37 = .ok (.bipush 44, 2) := dk_16 44 (dk_at dksX11_value_1 14 rfl rfl)
theorem dX11_value_39 : decode cX11_value 39 = .ok (.iload_n 2, 1) := dk_28 (dk_at dksX11_value_1 16 rfl rfl)
theorem dX11_value_40 : decode cX11_value 40 = .ok (.invokevirtual 241, 3) := dk_182 0 241 (dk_at dksX11_value_1 17 rfl rfl)
theorem dX11_value_43 : decode cX11_value 43 = .ok (.aload_n 0, 1) := dk_42 (dk_at dksX11_value_1 20 rfl rfl)
theorem dX11_value_44 : decode cX11_value 44 = .ok (.iload_n 1, 1) := dk_27 (dk_at dksX11_value_1 21 rfl rfl)
theorem dX11_value_45 : decode cX11_value 45 = .ok (.invokevirtual 283, 3) := dk_182 1 27 (dk_at dksX11_value_2 0 rfl rfl)
theorem dX11_value_48 : decode cX11_value 48 = .ok (.ifCond .ne 6, 3) := dk_154 0 6 (dk_at dksX11_value_2 3 rfl rfl)
theorem dX11_value_51 : decode cX11_value 51 = .ok (.bipush (-2), 2) := dk_16 254 (dk_at dksX11_value_2 6 rfl rfl)
theorem dX11_value_53 : decode cX11_value 53 = .ok (.ireturn, 1) := dk_172 (dk_at dksX11_value_2 8 rfl rfl)
theorem dX11_value_54 : decode cX11_value 54 = .ok (.iload_n 3, 1) := dk_29 (dk_at dksX11_value_2 9 rfl rfl)
theorem dX11_value_55 : decode cX11_value 55 = .ok (.iconst (-1), 1) := dk_2 (dk_at dksX11_value_2 10 rfl rfl)
theorem dX11_value_56 : decode cX11_value 56 = .ok (.if_icmp .ne 12, 3) := dk_160 0 12 (dk_at dksX11_value_2 11 rfl rfl)
theorem dX11_value_59 : decode cX11_value 59 = .ok (.aload_n 0, 1) := dk_42 (dk_at dksX11_value_2 14 rfl rfl)
theorem dX11_value_60 : decode cX11_value 60 = .ok (.getfield 20, 3) := dk_180 0 20 (dk_at dksX11_value_2 15 rfl rfl)
theorem dX11_value_63 : decode cX11_value 63 = .ok (.iconst 0, 1) := dk_3 (dk_at dksX11_value_2 18 rfl rfl)
theorem dX11_value_64 : decode cX11_value 64 = .ok (.iaload, 1) := dk_46 (dk_at dksX11_value_2 19 rfl rfl)
theorem dX11_value_65 : decode cX11_value 65 = .ok (.goto 27, 3) := dk_167 0 27 (dk_at dksX11_value_2 20 rfl rfl)
theorem dX11_value_68 : decode cX11_value 68 = .ok (.iload_n 3, 1) := dk_29 (dk_at dksX11_value_2 23 rfl rfl)
theorem dX11_value_69 : decode cX11_value 69 = .ok (.iconst 0, 1) := dk_3 (dk_at dksX11_value_3 0 rfl rfl)
theorem dX11_value_70 : decode cX11_value 70 = .ok (.aload_n 0, 1) := dk_42 (dk_at dksX11_value_3 1 rfl rfl)
theorem dX11_value_71 : decode cX11_value 71 = .ok (.getfield 20, 3) := dk_180 0 20 (dk_at dksX11_value_3 2 rfl rfl)
theorem dX11_value_74 : decode cX11_value 74 = .ok (.iconst 0, 1) := dk_3 (dk_at dksX11_value_3 5 rfl rfl)
theorem dX11_value_75 : decode cX11_value 75 = .ok (.iaload, 1) := dk_46 (dk_at dksX11_value_3 6 rfl rfl)
theorem dX11_value_76 : decode cX11_value 76 = .ok (.invokestatic 68, 3) := dk_184 0 68 (dk_at dksX11_value_3 7 rfl rfl)
theorem dX11_value_79 : decode cX11_value 79 = .ok (.ifCond .eq 12, 3) := dk_153 0 12 (dk_at dksX11_value_3 10 rfl rfl)
theorem dX11_value_82 : decode cX11_value 82 = .ok (.aload_n 0, 1) := dk_42 (dk_at dksX11_value_3 13 rfl rfl)
theorem dX11_value_83 : decode cX11_value 83 = .ok (.iconst 0, 1) := dk_3 (dk_at dksX11_value_3 14 rfl rfl)
theorem dX11_value_84 : decode cX11_value 84 = .ok (.iload_n 3, 1) := dk_29 (dk_at dksX11_value_3 15 rfl rfl)
theorem dX11_value_85 : decode cX11_value 85 = .ok (.invokevirtual 103, 3) := dk_182 0 103 (dk_at dksX11_value_3 16 rfl rfl)
theorem dX11_value_88 : decode cX11_value 88 = .ok (.goto 4, 3) := dk_167 0 4 (dk_at dksX11_value_3 19 rfl rfl)
theorem dX11_value_91 : decode cX11_value 91 = .ok (.iconst (-1), 1) := dk_2 (dk_at dksX11_value_3 22 rfl rfl)
theorem dX11_value_92 : decode cX11_value 92 = .ok (.ireturn, 1) := dk_172 (dk_at dksX11_value_3 23 rfl rfl)
abbrev cX11_noSigns : ByteArray := prog_18_method_10_code
def yX11_noSigns : MethodName := ⟨RX11, "noSigns", "(I)Z"⟩
def dkwX11_noSigns_0 : List UInt8 := [27, 3, 42, 180, 0, 13, 6, 46, 4, 100, 184, 0, 68, 154, 0, 7, 4, 167, 0, 4, 3, 172]
abbrev dktX11_noSigns_0 : List UInt8 := dkwX11_noSigns_0 ++ []
theorem dksX11_noSigns_0 : cX11_noSigns.data.toList.drop 0 = dktX11_noSigns_0 := by decide +kernel
theorem dX11_noSigns_0 : decode cX11_noSigns 0 = .ok (.iload_n 1, 1) := dk_27 (dk_at dksX11_noSigns_0 0 rfl rfl)
theorem dX11_noSigns_1 : decode cX11_noSigns 1 = .ok (.iconst 0, 1) := dk_3 (dk_at dksX11_noSigns_0 1 rfl rfl)
theorem dX11_noSigns_2 : decode cX11_noSigns 2 = .ok (.aload_n 0, 1) := dk_42 (dk_at dksX11_noSigns_0 2 rfl rfl)
theorem dX11_noSigns_3 : decode cX11_noSigns 3 = .ok (.getfield 13, 3) := dk_180 0 13 (dk_at dksX11_noSigns_0 3 rfl rfl)
theorem dX11_noSigns_6 : decode cX11_noSigns 6 = .ok (.iconst 3, 1) := dk_6 (dk_at dksX11_noSigns_0 6 rfl rfl)
theorem dX11_noSigns_7 : decode cX11_noSigns 7 = .ok (.iaload, 1) := dk_46 (dk_at dksX11_noSigns_0 7 rfl rfl)
theorem dX11_noSigns_8 : decode cX11_noSigns 8 = .ok (.iconst 1, 1) := dk_4 (dk_at dksX11_noSigns_0 8 rfl rfl)
theorem dX11_noSigns_9 : decode cX11_noSigns 9 = .ok (.isub, 1) := dk_100 (dk_at dksX11_noSigns_0 9 rfl rfl)
theorem dX11_noSigns_10 : decode cX11_noSigns 10 = .ok (.invokestatic 68, 3) := dk_184 0 68 (dk_at dksX11_noSigns_0 10 rfl rfl)
theorem dX11_noSigns_13 : decode cX11_noSigns 13 = .ok (.ifCond .ne 7, 3) := dk_154 0 7 (dk_at dksX11_noSigns_0 13 rfl rfl)
theorem dX11_noSigns_16 : decode cX11_noSigns 16 = .ok (.iconst 1, 1) := dk_4 (dk_at dksX11_noSigns_0 16 rfl rfl)
theorem dX11_noSigns_17 : decode cX11_noSigns 17 = .ok (.goto 4, 3) := dk_167 0 4 (dk_at dksX11_noSigns_0 17 rfl rfl)
theorem dX11_noSigns_20 : decode cX11_noSigns 20 = .ok (.iconst 0, 1) := dk_3 (dk_at dksX11_noSigns_0 20 rfl rfl)
theorem dX11_noSigns_21 : decode cX11_noSigns 21 = .ok (.ireturn, 1) := dk_172 (dk_at dksX11_noSigns_0 21 rfl rfl)
abbrev cX11_makes : ByteArray := prog_18_method_74_code
def yX11_makes : MethodName := ⟨RX11, "makes", "(I)Z"⟩
def dkwX11_makes_6 : List UInt8 := [28, 4, 100, 28, 182, 1, 17, 154, 0, 5, 3, 172, 132, 3, 1, 167, 255, 105, 4, 172]
abbrev dktX11_makes_6 : List UInt8 := dkwX11_makes_6 ++ []
def dkwX11_makes_5 : List UInt8 := [182, 0, 99, 132, 5, 1, 167, 255, 217, 167, 0, 27, 132, 2, 255, 42, 21, 4, 42, 27, 29, 182, 1, 14]
abbrev dktX11_makes_5 : List UInt8 := dkwX11_makes_5 ++ dktX11_makes_6
def dkwX11_makes_4 : List UInt8 := [163, 0, 32, 42, 28, 4, 100, 21, 5, 42, 3, 42, 28, 4, 100, 21, 5, 182, 0, 103, 182, 0, 149]
abbrev dktX11_makes_4 : List UInt8 := dkwX11_makes_4 ++ dktX11_makes_5
def dkwX11_makes_3 : List UInt8 := [167, 0, 81, 21, 4, 8, 160, 0, 51, 3, 54, 5, 21, 5, 42, 180, 0, 20, 28, 4, 100, 46]
abbrev dktX11_makes_3 : List UInt8 := dkwX11_makes_3 ++ dktX11_makes_4
def dkwX11_makes_2 : List UInt8 := [3, 182, 0, 106, 42, 28, 3, 42, 42, 27, 29, 182, 1, 14, 133, 182, 0, 113, 182, 0, 99, 132, 2, 1]
abbrev dktX11_makes_2 : List UInt8 := dkwX11_makes_2 ++ dktX11_makes_3
def dkwX11_makes_1 : List UInt8 := [154, 0, 16, 42, 16, 44, 28, 182, 1, 11, 132, 2, 1, 167, 0, 116, 21, 4, 4, 160, 0, 32, 42, 28]
abbrev dktX11_makes_1 : List UInt8 := dkwX11_makes_1 ++ dktX11_makes_2
def dkwX11_makes_0 : List UInt8 := [3, 61, 3, 62, 29, 42, 27, 182, 1, 5, 162, 0, 148, 42, 27, 29, 182, 1, 8, 54, 4, 21, 4]
abbrev dktX11_makes_0 : List UInt8 := dkwX11_makes_0 ++ dktX11_makes_1
theorem dksX11_makes_0 : cX11_makes.data.toList.drop 0 = dktX11_makes_0 := by decide +kernel
theorem dksX11_makes_1 : cX11_makes.data.toList.drop 23 = dktX11_makes_1 := dk_seg dksX11_makes_0 23 rfl rfl
theorem dksX11_makes_2 : cX11_makes.data.toList.drop 47 = dktX11_makes_2 := dk_seg dksX11_makes_1 24 rfl rfl
theorem dksX11_makes_3 : cX11_makes.data.toList.drop 71 = dktX11_makes_3 := dk_seg dksX11_makes_2 24 rfl rfl
theorem dksX11_makes_4 : cX11_makes.data.toList.drop 93 = dktX11_makes_4 := dk_seg dksX11_makes_3 22 rfl rfl
theorem dksX11_makes_5 : cX11_makes.data.toList.drop 116 = dktX11_makes_5 := dk_seg dksX11_makes_4 23 rfl rfl
theorem dksX11_makes_6 : cX11_makes.data.toList.drop 140 = dktX11_makes_6 := dk_seg dksX11_makes_5 24 rfl rfl
theorem dX11_makes_0 : decode cX11_makes 0 = .ok (.iconst 0, 1) := dk_3 (dk_at dksX11_makes_0 0 rfl rfl)
theorem dX11_makes_1 : decode cX11_makes 1 = .ok (.istore_n 2, 1) := dk_61 (dk_at dksX11_makes_0 1 rfl rfl)
theorem dX11_makes_2 : decode cX11_makes 2 = .ok (.iconst 0, 1) := dk_3 (dk_at dksX11_makes_0 2 rfl rfl)
theorem dX11_makes_3 : decode cX11_makes 3 = .ok (.istore_n 3, 1) := dk_62 (dk_at dksX11_makes_0 3 rfl rfl)
theorem dX11_makes_4 : decode cX11_makes 4 = .ok (.iload_n 3, 1) := dk_29 (dk_at dksX11_makes_0 4 rfl rfl)
theorem dX11_makes_5 : decode cX11_makes 5 = .ok (.aload_n 0, 1) := dk_42 (dk_at dksX11_makes_0 5 rfl rfl)
theorem dX11_makes_6 : decode cX11_makes 6 = .ok (.iload_n 1, 1) := dk_27 (dk_at dksX11_makes_0 6 rfl rfl)
theorem dX11_makes_7 : decode cX11_makes 7 = .ok (.invokevirtual 261, 3) := dk_182 1 5 (dk_at dksX11_makes_0 7 rfl rfl)
theorem dX11_makes_10 : decode cX11_makes 10 = .ok (.if_icmp .ge 148, 3) := dk_162 0 148 (dk_at dksX11_makes_0 10 rfl rfl)
theorem dX11_makes_13 : decode cX11_makes 13 = .ok (.aload_n 0, 1) := dk_42 (dk_at dksX11_makes_0 13 rfl rfl)
theorem dX11_makes_14 : decode cX11_makes 14 = .ok (.iload_n 1, 1) := dk_27 (dk_at dksX11_makes_0 14 rfl rfl)
theorem dX11_makes_15 : decode cX11_makes 15 = .ok (.iload_n 3, 1) := dk_29 (dk_at dksX11_makes_0 15 rfl rfl)
theorem dX11_makes_16 : decode cX11_makes 16 = .ok (.invokevirtual 264, 3) := dk_182 1 8 (dk_at dksX11_makes_0 16 rfl rfl)
theorem dX11_makes_19 : decode cX11_makes 19 = .ok (.istore 4, 2) := dk_54 4 (dk_at dksX11_makes_0 19 rfl rfl)
theorem dX11_makes_21 : decode cX11_makes 21 = .ok (.iload 4, 2) := dk_21 4 (dk_at dksX11_makes_0 21 rfl rfl)
theorem dX11_makes_23 : decode cX11_makes 23 = .ok (.ifCond .ne 16, 3) := dk_154 0 16 (dk_at dksX11_makes_1 0 rfl rfl)
theorem dX11_makes_26 : decode cX11_makes 26 = .ok (.aload_n 0, 1) := dk_42 (dk_at dksX11_makes_1 3 rfl rfl)
theorem dX11_makes_27 : decode cX11_makes 27 = .ok (.bipush 44, 2) := dk_16 44 (dk_at dksX11_makes_1 4 rfl rfl)
theorem dX11_makes_29 : decode cX11_makes 29 = .ok (.iload_n 2, 1) := dk_28 (dk_at dksX11_makes_1 6 rfl rfl)
theorem dX11_makes_30 : decode cX11_makes 30 = .ok (.invokevirtual 267, 3) := dk_182 1 11 (dk_at dksX11_makes_1 7 rfl rfl)
theorem dX11_makes_33 : decode cX11_makes 33 = .ok (.iinc 2 1, 3) := dk_132 2 1 (dk_at dksX11_makes_1 10 rfl rfl)
theorem dX11_makes_36 : decode cX11_makes 36 = .ok (.goto 116, 3) := dk_167 0 116 (dk_at dksX11_makes_1 13 rfl rfl)
theorem dX11_makes_39 : decode cX11_makes 39 = .ok (.iload 4, 2) := dk_21 4 (dk_at dksX11_makes_1 16 rfl rfl)
theorem dX11_makes_41 : decode cX11_makes 41 = .ok (.iconst 1, 1) := dk_4 (dk_at dksX11_makes_1 18 rfl rfl)
theorem dX11_makes_42 : decode cX11_makes 42 = .ok (.if_icmp .ne 32, 3) := dk_160 0 32 (dk_at dksX11_makes_1 19 rfl rfl)
theorem dX11_makes_45 : decode cX11_makes 45 = .ok (.aload_n 0, 1) := dk_42 (dk_at dksX11_makes_1 22 rfl rfl)
theorem dX11_makes_46 : decode cX11_makes 46 = .ok (.iload_n 2, 1) := dk_28 (dk_at dksX11_makes_1 23 rfl rfl)
theorem dX11_makes_47 : decode cX11_makes 47 = .ok (.iconst 0, 1) := dk_3 (dk_at dksX11_makes_2 0 rfl rfl)
theorem dX11_makes_48 : decode cX11_makes 48 = .ok (.invokevirtual 106, 3) := dk_182 0 106 (dk_at dksX11_makes_2 1 rfl rfl)
theorem dX11_makes_51 : decode cX11_makes 51 = .ok (.aload_n 0, 1) := dk_42 (dk_at dksX11_makes_2 4 rfl rfl)
theorem dX11_makes_52 : decode cX11_makes 52 = .ok (.iload_n 2, 1) := dk_28 (dk_at dksX11_makes_2 5 rfl rfl)
theorem dX11_makes_53 : decode cX11_makes 53 = .ok (.iconst 0, 1) := dk_3 (dk_at dksX11_makes_2 6 rfl rfl)
theorem dX11_makes_54 : decode cX11_makes 54 = .ok (.aload_n 0, 1) := dk_42 (dk_at dksX11_makes_2 7 rfl rfl)
theorem dX11_makes_55 : decode cX11_makes 55 = .ok (.aload_n 0, 1) := dk_42 (dk_at dksX11_makes_2 8 rfl rfl)
theorem dX11_makes_56 : decode cX11_makes 56 = .ok (.iload_n 1, 1) := dk_27 (dk_at dksX11_makes_2 9 rfl rfl)
theorem dX11_makes_57 : decode cX11_makes 57 = .ok (.iload_n 3, 1) := dk_29 (dk_at dksX11_makes_2 10 rfl rfl)
theorem dX11_makes_58 : decode cX11_makes 58 = .ok (.invokevirtual 270, 3) := dk_182 1 14 (dk_at dksX11_makes_2 11 rfl rfl)
theorem dX11_makes_61 : decode cX11_makes 61 = .ok (.i2l, 1) := dk_133 (dk_at dksX11_makes_2 14 rfl rfl)
theorem dX11_makes_62 : decode cX11_makes 62 = .ok (.invokevirtual 113, 3) := dk_182 0 113 (dk_at dksX11_makes_2 15 rfl rfl)
theorem dX11_makes_65 : decode cX11_makes 65 = .ok (.invokevirtual 99, 3) := dk_182 0 99 (dk_at dksX11_makes_2 18 rfl rfl)
theorem dX11_makes_68 : decode cX11_makes 68 = .ok (.iinc 2 1, 3) := dk_132 2 1 (dk_at dksX11_makes_2 21 rfl rfl)
theorem dX11_makes_71 : decode cX11_makes 71 = .ok (.goto 81, 3) := dk_167 0 81 (dk_at dksX11_makes_3 0 rfl rfl)
theorem dX11_makes_74 : decode cX11_makes 74 = .ok (.iload 4, 2) := dk_21 4 (dk_at dksX11_makes_3 3 rfl rfl)
theorem dX11_makes_76 : decode cX11_makes 76 = .ok (.iconst 5, 1) := dk_8 (dk_at dksX11_makes_3 5 rfl rfl)
theorem dX11_makes_77 : decode cX11_makes 77 = .ok (.if_icmp .ne 51, 3) := dk_160 0 51 (dk_at dksX11_makes_3 6 rfl rfl)
theorem dX11_makes_80 : decode cX11_makes 80 = .ok (.iconst 0, 1) := dk_3 (dk_at dksX11_makes_3 9 rfl rfl)
theorem dX11_makes_81 : decode cX11_makes 81 = .ok (.istore 5, 2) := dk_54 5 (dk_at dksX11_makes_3 10 rfl rfl)
theorem dX11_makes_83 : decode cX11_makes 83 = .ok (.iload 5, 2) := dk_21 5 (dk_at dksX11_makes_3 12 rfl rfl)
theorem dX11_makes_85 : decode cX11_makes 85 = .ok (.aload_n 0, 1) := dk_42 (dk_at dksX11_makes_3 14 rfl rfl)
theorem dX11_makes_86 : decode cX11_makes 86 = .ok (.getfield 20, 3) := dk_180 0 20 (dk_at dksX11_makes_3 15 rfl rfl)
theorem dX11_makes_89 : decode cX11_makes 89 = .ok (.iload_n 2, 1) := dk_28 (dk_at dksX11_makes_3 18 rfl rfl)
theorem dX11_makes_90 : decode cX11_makes 90 = .ok (.iconst 1, 1) := dk_4 (dk_at dksX11_makes_3 19 rfl rfl)
theorem dX11_makes_91 : decode cX11_makes 91 = .ok (.isub, 1) := dk_100 (dk_at dksX11_makes_3 20 rfl rfl)
theorem dX11_makes_92 : decode cX11_makes 92 = .ok (.iaload, 1) := dk_46 (dk_at dksX11_makes_3 21 rfl rfl)
theorem dX11_makes_93 : decode cX11_makes 93 = .ok (.if_icmp .gt 32, 3) := dk_163 0 32 (dk_at dksX11_makes_4 0 rfl rfl)
theorem dX11_makes_96 : decode cX11_makes 96 = .ok (.aload_n 0, 1) := dk_42 (dk_at dksX11_makes_4 3 rfl rfl)
theorem dX11_makes_97 : decode cX11_makes 97 = .ok (.iload_n 2, 1) := dk_28 (dk_at dksX11_makes_4 4 rfl rfl)
theorem dX11_makes_98 : decode cX11_makes 98 = .ok (.iconst 1, 1) := dk_4 (dk_at dksX11_makes_4 5 rfl rfl)
theorem dX11_makes_99 : decode cX11_makes 99 = .ok (.isub, 1) := dk_100 (dk_at dksX11_makes_4 6 rfl rfl)
theorem dX11_makes_100 : decode cX11_makes 100 = .ok (.iload 5, 2) := dk_21 5 (dk_at dksX11_makes_4 7 rfl rfl)
theorem dX11_makes_102 : decode cX11_makes 102 = .ok (.aload_n 0, 1) := dk_42 (dk_at dksX11_makes_4 9 rfl rfl)
theorem dX11_makes_103 : decode cX11_makes 103 = .ok (.iconst 0, 1) := dk_3 (dk_at dksX11_makes_4 10 rfl rfl)
theorem dX11_makes_104 : decode cX11_makes 104 = .ok (.aload_n 0, 1) := dk_42 (dk_at dksX11_makes_4 11 rfl rfl)
theorem dX11_makes_105 : decode cX11_makes 105 = .ok (.iload_n 2, 1) := dk_28 (dk_at dksX11_makes_4 12 rfl rfl)
theorem dX11_makes_106 : decode cX11_makes 106 = .ok (.iconst 1, 1) := dk_4 (dk_at dksX11_makes_4 13 rfl rfl)
theorem dX11_makes_107 : decode cX11_makes 107 = .ok (.isub, 1) := dk_100 (dk_at dksX11_makes_4 14 rfl rfl)
theorem dX11_makes_108 : decode cX11_makes 108 = .ok (.iload 5, 2) := dk_21 5 (dk_at dksX11_makes_4 15 rfl rfl)
theorem dX11_makes_110 : decode cX11_makes 110 = .ok (.invokevirtual 103, 3) := dk_182 0 103 (dk_at dksX11_makes_4 17 rfl rfl)
theorem dX11_makes_113 : decode cX11_makes 113 = .ok (.invokevirtual 149, 3) := dk_182 0 149 (dk_at dksX11_makes_4 20 rfl rfl)
theorem dX11_makes_116 : decode cX11_makes 116 = .ok (.invokevirtual 99, 3) := dk_182 0 99 (dk_at dksX11_makes_5 0 rfl rfl)
theorem dX11_makes_119 : decode cX11_makes 119 = .ok (.iinc 5 1, 3) := dk_132 5 1 (dk_at dksX11_makes_5 3 rfl rfl)
theorem dX11_makes_122 : decode cX11_makes 122 = .ok (.goto (-39), 3) := dk_167 255 217 (dk_at dksX11_makes_5 6 rfl rfl)
theorem dX11_makes_125 : decode cX11_makes 125 = .ok (.goto 27, 3) := dk_167 0 27 (dk_at dksX11_makes_5 9 rfl rfl)
theorem dX11_makes_128 : decode cX11_makes 128 = .ok (.iinc 2 (-1), 3) := dk_132 2 255 (dk_at dksX11_makes_5 12 rfl rfl)
theorem dX11_makes_131 : decode cX11_makes 131 = .ok (.aload_n 0, 1) := dk_42 (dk_at dksX11_makes_5 15 rfl rfl)
theorem dX11_makes_132 : decode cX11_makes 132 = .ok (.iload 4, 2) := dk_21 4 (dk_at dksX11_makes_5 16 rfl rfl)
theorem dX11_makes_134 : decode cX11_makes 134 = .ok (.aload_n 0, 1) := dk_42 (dk_at dksX11_makes_5 18 rfl rfl)
theorem dX11_makes_135 : decode cX11_makes 135 = .ok (.iload_n 1, 1) := dk_27 (dk_at dksX11_makes_5 19 rfl rfl)
theorem dX11_makes_136 : decode cX11_makes 136 = .ok (.iload_n 3, 1) := dk_29 (dk_at dksX11_makes_5 20 rfl rfl)
theorem dX11_makes_137 : decode cX11_makes 137 = .ok (.invokevirtual 270, 3) := dk_182 1 14 (dk_at dksX11_makes_5 21 rfl rfl)
theorem dX11_makes_140 : decode cX11_makes 140 = .ok (.iload_n 2, 1) := dk_28 (dk_at dksX11_makes_6 0 rfl rfl)
theorem dX11_makes_141 : decode cX11_makes 141 = .ok (.iconst 1, 1) := dk_4 (dk_at dksX11_makes_6 1 rfl rfl)
theorem dX11_makes_142 : decode cX11_makes 142 = .ok (.isub, 1) := dk_100 (dk_at dksX11_makes_6 2 rfl rfl)
theorem dX11_makes_143 : decode cX11_makes 143 = .ok (.iload_n 2, 1) := dk_28 (dk_at dksX11_makes_6 3 rfl rfl)
theorem dX11_makes_144 : decode cX11_makes 144 = .ok (.invokevirtual 273, 3) := dk_182 1 17 (dk_at dksX11_makes_6 4 rfl rfl)
theorem dX11_makes_147 : decode cX11_makes 147 = .ok (.ifCond .ne 5, 3) := dk_154 0 5 (dk_at dksX11_makes_6 7 rfl rfl)
theorem dX11_makes_150 : decode cX11_makes 150 = .ok (.iconst 0, 1) := dk_3 (dk_at dksX11_makes_6 10 rfl rfl)
theorem dX11_makes_151 : decode cX11_makes 151 = .ok (.ireturn, 1) := dk_172 (dk_at dksX11_makes_6 11 rfl rfl)
theorem dX11_makes_152 : decode cX11_makes 152 = .ok (.iinc 3 1, 3) := dk_132 3 1 (dk_at dksX11_makes_6 12 rfl rfl)
theorem dX11_makes_155 : decode cX11_makes 155 = .ok (.goto (-151), 3) := dk_167 255 105 (dk_at dksX11_makes_6 15 rfl rfl)
theorem dX11_makes_158 : decode cX11_makes 158 = .ok (.iconst 1, 1) := dk_4 (dk_at dksX11_makes_6 18 rfl rfl)
theorem dX11_makes_159 : decode cX11_makes 159 = .ok (.ireturn, 1) := dk_172 (dk_at dksX11_makes_6 19 rfl rfl)
abbrev cX11_stepsOf : ByteArray := prog_18_method_73_code
def yX11_stepsOf : MethodName := ⟨RX11, "stepsOf", "(I)I"⟩
def dkwX11_stepsOf_0 : List UInt8 := [42, 180, 0, 13, 17, 0, 198, 17, 1, 145, 27, 104, 96, 46, 172]
abbrev dktX11_stepsOf_0 : List UInt8 := dkwX11_stepsOf_0 ++ []
theorem dksX11_stepsOf_0 : cX11_stepsOf.data.toList.drop 0 = dktX11_stepsOf_0 := by decide +kernel
theorem dX11_stepsOf_0 : decode cX11_stepsOf 0 = .ok (.aload_n 0, 1) := dk_42 (dk_at dksX11_stepsOf_0 0 rfl rfl)
theorem dX11_stepsOf_1 : decode cX11_stepsOf 1 = .ok (.getfield 13, 3) := dk_180 0 13 (dk_at dksX11_stepsOf_0 1 rfl rfl)
theorem dX11_stepsOf_4 : decode cX11_stepsOf 4 = .ok (.sipush 198, 3) := dk_17 0 198 (dk_at dksX11_stepsOf_0 4 rfl rfl)
theorem dX11_stepsOf_7 : decode cX11_stepsOf 7 = .ok (.sipush 401, 3) := dk_17 1 145 (dk_at dksX11_stepsOf_0 7 rfl rfl)
theorem dX11_stepsOf_10 : decode cX11_stepsOf 10 = .ok (.iload_n 1, 1) := dk_27 (dk_at dksX11_stepsOf_0 10 rfl rfl)
theorem dX11_stepsOf_11 : decode cX11_stepsOf 11 = .ok (.imul, 1) := dk_104 (dk_at dksX11_stepsOf_0 11 rfl rfl)
theorem dX11_stepsOf_12 : decode cX11_stepsOf 12 = .ok (.iadd, 1) := dk_96 (dk_at dksX11_stepsOf_0 12 rfl rfl)
theorem dX11_stepsOf_13 : decode cX11_stepsOf 13 = .ok (.iaload, 1) := dk_46 (dk_at dksX11_stepsOf_0 13 rfl rfl)
theorem dX11_stepsOf_14 : decode cX11_stepsOf 14 = .ok (.ireturn, 1) := dk_172 (dk_at dksX11_stepsOf_0 14 rfl rfl)
abbrev cX11_stepOf : ByteArray := prog_18_method_71_code
def yX11_stepOf : MethodName := ⟨RX11, "stepOf", "(II)I"⟩
def dkwX11_stepOf_0 : List UInt8 := [42, 180, 0, 13, 17, 0, 198, 17, 1, 145, 27, 104, 96, 4, 96, 5, 28, 104, 96, 46, 172]
abbrev dktX11_stepOf_0 : List UInt8 := dkwX11_stepOf_0 ++ []
theorem dksX11_stepOf_0 : cX11_stepOf.data.toList.drop 0 = dktX11_stepOf_0 := by decide +kernel
theorem dX11_stepOf_0 : decode cX11_stepOf 0 = .ok (.aload_n 0, 1) := dk_42 (dk_at dksX11_stepOf_0 0 rfl rfl)
theorem dX11_stepOf_1 : decode cX11_stepOf 1 = .ok (.getfield 13, 3) := dk_180 0 13 (dk_at dksX11_stepOf_0 1 rfl rfl)
theorem dX11_stepOf_4 : decode cX11_stepOf 4 = .ok (.sipush 198, 3) := dk_17 0 198 (dk_at dksX11_stepOf_0 4 rfl rfl)
theorem dX11_stepOf_7 : decode cX11_stepOf 7 = .ok (.sipush 401, 3) := dk_17 1 145 (dk_at dksX11_stepOf_0 7 rfl rfl)
theorem dX11_stepOf_10 : decode cX11_stepOf 10 = .ok (.iload_n 1, 1) := dk_27 (dk_at dksX11_stepOf_0 10 rfl rfl)
theorem dX11_stepOf_11 : decode cX11_stepOf 11 = .ok (.imul, 1) := dk_104 (dk_at dksX11_stepOf_0 11 rfl rfl)
theorem dX11_stepOf_12 : decode cX11_stepOf 12 = .ok (.iadd, 1) := dk_96 (dk_at dksX11_stepOf_0 12 rfl rfl)
theorem dX11_stepOf_13 : decode cX11_stepOf 13 = .ok (.iconst 1, 1) := dk_4 (dk_at dksX11_stepOf_0 13 rfl rfl)
theorem dX11_stepOf_14 : decode cX11_stepOf 14 = .ok (.iadd, 1) := dk_96 (dk_at dksX11_stepOf_0 14 rfl rfl)
theorem dX11_stepOf_15 : decode cX11_stepOf 15 = .ok (.iconst 2, 1) := dk_5 (dk_at dksX11_stepOf_0 15 rfl rfl)
theorem dX11_stepOf_16 : decode cX11_stepOf 16 = .ok (.iload_n 2, 1) := dk_28 (dk_at dksX11_stepOf_0 16 rfl rfl)
theorem dX11_stepOf_17 : decode cX11_stepOf 17 = .ok (.imul, 1) := dk_104 (dk_at dksX11_stepOf_0 17 rfl rfl)
theorem dX11_stepOf_18 : decode cX11_stepOf 18 = .ok (.iadd, 1) := dk_96 (dk_at dksX11_stepOf_0 18 rfl rfl)
theorem dX11_stepOf_19 : decode cX11_stepOf 19 = .ok (.iaload, 1) := dk_46 (dk_at dksX11_stepOf_0 19 rfl rfl)
theorem dX11_stepOf_20 : decode cX11_stepOf 20 = .ok (.ireturn, 1) := dk_172 (dk_at dksX11_stepOf_0 20 rfl rfl)
abbrev cX11_copies : ByteArray := prog_18_method_24_code
def yX11_copies : MethodName := ⟨RX11, "copies", "(II)V"⟩
def dkwX11_copies_1 : List UInt8 := [42, 28, 29, 42, 27, 29, 182, 0, 103, 182, 0, 99, 132, 3, 1, 167, 255, 231, 177]
abbrev dktX11_copies_1 : List UInt8 := dkwX11_copies_1 ++ []
def dkwX11_copies_0 : List UInt8 := [42, 180, 0, 20, 28, 42, 180, 0, 20, 27, 46, 79, 3, 62, 29, 42, 180, 0, 20, 27, 46, 163, 0, 21]
abbrev dktX11_copies_0 : List UInt8 := dkwX11_copies_0 ++ dktX11_copies_1
theorem dksX11_copies_0 : cX11_copies.data.toList.drop 0 = dktX11_copies_0 := by decide +kernel
theorem dksX11_copies_1 : cX11_copies.data.toList.drop 24 = dktX11_copies_1 := dk_seg dksX11_copies_0 24 rfl rfl
theorem dX11_copies_0 : decode cX11_copies 0 = .ok (.aload_n 0, 1) := dk_42 (dk_at dksX11_copies_0 0 rfl rfl)
theorem dX11_copies_1 : decode cX11_copies 1 = .ok (.getfield 20, 3) := dk_180 0 20 (dk_at dksX11_copies_0 1 rfl rfl)
theorem dX11_copies_4 : decode cX11_copies 4 = .ok (.iload_n 2, 1) := dk_28 (dk_at dksX11_copies_0 4 rfl rfl)
theorem dX11_copies_5 : decode cX11_copies 5 = .ok (.aload_n 0, 1) := dk_42 (dk_at dksX11_copies_0 5 rfl rfl)
theorem dX11_copies_6 : decode cX11_copies 6 = .ok (.getfield 20, 3) := dk_180 0 20 (dk_at dksX11_copies_0 6 rfl rfl)
theorem dX11_copies_9 : decode cX11_copies 9 = .ok (.iload_n 1, 1) := dk_27 (dk_at dksX11_copies_0 9 rfl rfl)
theorem dX11_copies_10 : decode cX11_copies 10 = .ok (.iaload, 1) := dk_46 (dk_at dksX11_copies_0 10 rfl rfl)
theorem dX11_copies_11 : decode cX11_copies 11 = .ok (.iastore, 1) := dk_79 (dk_at dksX11_copies_0 11 rfl rfl)
theorem dX11_copies_12 : decode cX11_copies 12 = .ok (.iconst 0, 1) := dk_3 (dk_at dksX11_copies_0 12 rfl rfl)
theorem dX11_copies_13 : decode cX11_copies 13 = .ok (.istore_n 3, 1) := dk_62 (dk_at dksX11_copies_0 13 rfl rfl)
theorem dX11_copies_14 : decode cX11_copies 14 = .ok (.iload_n 3, 1) := dk_29 (dk_at dksX11_copies_0 14 rfl rfl)
theorem dX11_copies_15 : decode cX11_copies 15 = .ok (.aload_n 0, 1) := dk_42 (dk_at dksX11_copies_0 15 rfl rfl)
theorem dX11_copies_16 : decode cX11_copies 16 = .ok (.getfield 20, 3) := dk_180 0 20 (dk_at dksX11_copies_0 16 rfl rfl)
theorem dX11_copies_19 : decode cX11_copies 19 = .ok (.iload_n 1, 1) := dk_27 (dk_at dksX11_copies_0 19 rfl rfl)
theorem dX11_copies_20 : decode cX11_copies 20 = .ok (.iaload, 1) := dk_46 (dk_at dksX11_copies_0 20 rfl rfl)
theorem dX11_copies_21 : decode cX11_copies 21 = .ok (.if_icmp .gt 21, 3) := dk_163 0 21 (dk_at dksX11_copies_0 21 rfl rfl)
theorem dX11_copies_24 : decode cX11_copies 24 = .ok (.aload_n 0, 1) := dk_42 (dk_at dksX11_copies_1 0 rfl rfl)
theorem dX11_copies_25 : decode cX11_copies 25 = .ok (.iload_n 2, 1) := dk_28 (dk_at dksX11_copies_1 1 rfl rfl)
theorem dX11_copies_26 : decode cX11_copies 26 = .ok (.iload_n 3, 1) := dk_29 (dk_at dksX11_copies_1 2 rfl rfl)
theorem dX11_copies_27 : decode cX11_copies 27 = .ok (.aload_n 0, 1) := dk_42 (dk_at dksX11_copies_1 3 rfl rfl)
theorem dX11_copies_28 : decode cX11_copies 28 = .ok (.iload_n 1, 1) := dk_27 (dk_at dksX11_copies_1 4 rfl rfl)
theorem dX11_copies_29 : decode cX11_copies 29 = .ok (.iload_n 3, 1) := dk_29 (dk_at dksX11_copies_1 5 rfl rfl)
theorem dX11_copies_30 : decode cX11_copies 30 = .ok (.invokevirtual 103, 3) := dk_182 0 103 (dk_at dksX11_copies_1 6 rfl rfl)
theorem dX11_copies_33 : decode cX11_copies 33 = .ok (.invokevirtual 99, 3) := dk_182 0 99 (dk_at dksX11_copies_1 9 rfl rfl)
theorem dX11_copies_36 : decode cX11_copies 36 = .ok (.iinc 3 1, 3) := dk_132 3 1 (dk_at dksX11_copies_1 12 rfl rfl)
theorem dX11_copies_39 : decode cX11_copies 39 = .ok (.goto (-25), 3) := dk_167 255 231 (dk_at dksX11_copies_1 15 rfl rfl)
theorem dX11_copies_42 : decode cX11_copies 42 = .ok (.return_, 1) := dk_177 (dk_at dksX11_copies_1 18 rfl rfl)
abbrev cX11_toldBy : ByteArray := prog_18_method_72_code
def yX11_toldBy : MethodName := ⟨RX11, "toldBy", "(II)I"⟩
def dkwX11_toldBy_0 : List UInt8 := [42, 180, 0, 13, 17, 0, 198, 17, 1, 145, 27, 104, 96, 5, 96, 5, 28, 104, 96, 46, 172]
abbrev dktX11_toldBy_0 : List UInt8 := dkwX11_toldBy_0 ++ []
theorem dksX11_toldBy_0 : cX11_toldBy.data.toList.drop 0 = dktX11_toldBy_0 := by decide +kernel
theorem dX11_toldBy_0 : decode cX11_toldBy 0 = .ok (.aload_n 0, 1) := dk_42 (dk_at dksX11_toldBy_0 0 rfl rfl)
theorem dX11_toldBy_1 : decode cX11_toldBy 1 = .ok (.getfield 13, 3) := dk_180 0 13 (dk_at dksX11_toldBy_0 1 rfl rfl)
theorem dX11_toldBy_4 : decode cX11_toldBy 4 = .ok (.sipush 198, 3) := dk_17 0 198 (dk_at dksX11_toldBy_0 4 rfl rfl)
theorem dX11_toldBy_7 : decode cX11_toldBy 7 = .ok (.sipush 401, 3) := dk_17 1 145 (dk_at dksX11_toldBy_0 7 rfl rfl)
theorem dX11_toldBy_10 : decode cX11_toldBy 10 = .ok (.iload_n 1, 1) := dk_27 (dk_at dksX11_toldBy_0 10 rfl rfl)
theorem dX11_toldBy_11 : decode cX11_toldBy 11 = .ok (.imul, 1) := dk_104 (dk_at dksX11_toldBy_0 11 rfl rfl)
theorem dX11_toldBy_12 : decode cX11_toldBy 12 = .ok (.iadd, 1) := dk_96 (dk_at dksX11_toldBy_0 12 rfl rfl)
theorem dX11_toldBy_13 : decode cX11_toldBy 13 = .ok (.iconst 2, 1) := dk_5 (dk_at dksX11_toldBy_0 13 rfl rfl)
theorem dX11_toldBy_14 : decode cX11_toldBy 14 = .ok (.iadd, 1) := dk_96 (dk_at dksX11_toldBy_0 14 rfl rfl)
theorem dX11_toldBy_15 : decode cX11_toldBy 15 = .ok (.iconst 2, 1) := dk_5 (dk_at dksX11_toldBy_0 15 rfl rfl)
theorem dX11_toldBy_16 : decode cX11_toldBy 16 = .ok (.iload_n 2, 1) := dk_28 (dk_at dksX11_toldBy_0 16 rfl rfl)
theorem dX11_toldBy_17 : decode cX11_toldBy 17 = .ok (.imul, 1) := dk_104 (dk_at dksX11_toldBy_0 17 rfl rfl)
theorem dX11_toldBy_18 : decode cX11_toldBy 18 = .ok (.iadd, 1) := dk_96 (dk_at dksX11_toldBy_0 18 rfl rfl)
theorem dX11_toldBy_19 : decode cX11_toldBy 19 = .ok (.iaload, 1) := dk_46 (dk_at dksX11_toldBy_0 19 rfl rfl)
theorem dX11_toldBy_20 : decode cX11_toldBy 20 = .ok (.ireturn, 1) := dk_172 (dk_at dksX11_toldBy_0 20 rfl rfl)
abbrev cX11_joins : ByteArray := prog_18_method_75_code
def yX11_joins : MethodName := ⟨RX11, "joins", "(IIII)Z"⟩
def dkwX11_joins_7 : List UInt8 := [21, 4, 28, 16, 43, 182, 1, 21, 42, 16, 43, 29, 182, 1, 11, 4, 172]
abbrev dktX11_joins_7 : List UInt8 := dkwX11_joins_7 ++ []
def dkwX11_joins_6 : List UInt8 := [161, 0, 5, 3, 172, 27, 6, 160, 0, 15, 42, 29, 21, 4, 16, 43, 182, 0, 125, 167, 0, 13, 42, 29]
abbrev dktX11_joins_6 : List UInt8 := dkwX11_joins_6 ++ dktX11_joins_7
def dkwX11_joins_5 : List UInt8 := [163, 0, 26, 42, 180, 0, 20, 29, 46, 42, 180, 0, 20, 21, 4, 46, 96, 5, 28, 104, 100, 16, 41]
abbrev dktX11_joins_5 : List UInt8 := dkwX11_joins_5 ++ dktX11_joins_6
def dkwX11_joins_4 : List UInt8 := [161, 0, 52, 167, 0, 47, 28, 42, 180, 0, 20, 29, 46, 163, 0, 37, 28, 42, 180, 0, 20, 21, 4, 46]
abbrev dktX11_joins_4 : List UInt8 := dkwX11_joins_4 ++ dktX11_joins_5
def dkwX11_joins_3 : List UInt8 := [172, 27, 6, 160, 0, 25, 42, 180, 0, 20, 29, 46, 42, 180, 0, 20, 21, 4, 46, 96, 16, 41]
abbrev dktX11_joins_3 : List UInt8 := dkwX11_joins_3 ++ dktX11_joins_4
def dkwX11_joins_2 : List UInt8 := [182, 0, 103, 42, 21, 4, 21, 5, 182, 0, 103, 182, 0, 110, 182, 0, 99, 132, 5, 1, 167, 255, 216, 4]
abbrev dktX11_joins_2 : List UInt8 := dkwX11_joins_2 ++ dktX11_joins_3
def dkwX11_joins_1 : List UInt8 := [54, 5, 21, 5, 42, 180, 0, 20, 29, 46, 163, 0, 35, 42, 29, 21, 5, 42, 42, 29, 21, 5]
abbrev dktX11_joins_1 : List UInt8 := dkwX11_joins_1 ++ dktX11_joins_2
def dkwX11_joins_0 : List UInt8 := [27, 5, 160, 0, 69, 42, 180, 0, 20, 29, 46, 42, 180, 0, 20, 21, 4, 46, 159, 0, 5, 3, 172, 3]
abbrev dktX11_joins_0 : List UInt8 := dkwX11_joins_0 ++ dktX11_joins_1
theorem dksX11_joins_0 : cX11_joins.data.toList.drop 0 = dktX11_joins_0 := by decide +kernel
theorem dksX11_joins_1 : cX11_joins.data.toList.drop 24 = dktX11_joins_1 := dk_seg dksX11_joins_0 24 rfl rfl
theorem dksX11_joins_2 : cX11_joins.data.toList.drop 46 = dktX11_joins_2 := dk_seg dksX11_joins_1 22 rfl rfl
theorem dksX11_joins_3 : cX11_joins.data.toList.drop 70 = dktX11_joins_3 := dk_seg dksX11_joins_2 24 rfl rfl
theorem dksX11_joins_4 : cX11_joins.data.toList.drop 92 = dktX11_joins_4 := dk_seg dksX11_joins_3 22 rfl rfl
theorem dksX11_joins_5 : cX11_joins.data.toList.drop 116 = dktX11_joins_5 := dk_seg dksX11_joins_4 24 rfl rfl
theorem dksX11_joins_6 : cX11_joins.data.toList.drop 139 = dktX11_joins_6 := dk_seg dksX11_joins_5 23 rfl rfl
theorem dksX11_joins_7 : cX11_joins.data.toList.drop 163 = dktX11_joins_7 := dk_seg dksX11_joins_6 24 rfl rfl
theorem dX11_joins_0 : decode cX11_joins 0 = .ok (.iload_n 1, 1) := dk_27 (dk_at dksX11_joins_0 0 rfl rfl)
theorem dX11_joins_1 : decode cX11_joins 1 = .ok (.iconst 2, 1) := dk_5 (dk_at dksX11_joins_0 1 rfl rfl)
theorem dX11_joins_2 : decode cX11_joins 2 = .ok (.if_icmp .ne 69, 3) := dk_160 0 69 (dk_at dksX11_joins_0 2 rfl rfl)
theorem dX11_joins_5 : decode cX11_joins 5 = .ok (.aload_n 0, 1) := dk_42 (dk_at dksX11_joins_0 5 rfl rfl)
theorem dX11_joins_6 : decode cX11_joins 6 = .ok (.getfield 20, 3) := dk_180 0 20 (dk_at dksX11_joins_0 6 rfl rfl)
theorem dX11_joins_9 : decode cX11_joins 9 = .ok (.iload_n 3, 1) := dk_29 (dk_at dksX11_joins_0 9 rfl rfl)
theorem dX11_joins_10 : decode cX11_joins 10 = .ok (.iaload, 1) := dk_46 (dk_at dksX11_joins_0 10 rfl rfl)
theorem dX11_joins_11 : decode cX11_joins 11 = .ok (.aload_n 0, 1) := dk_42 (dk_at dksX11_joins_0 11 rfl rfl)
theorem dX11_joins_12 : decode cX11_joins 12 = .ok (.getfield 20, 3) := dk_180 0 20 (dk_at dksX11_joins_0 12 rfl rfl)
theorem dX11_joins_15 : decode cX11_joins 15 = .ok (.iload 4, 2) := dk_21 4 (dk_at dksX11_joins_0 15 rfl rfl)
theorem dX11_joins_17 : decode cX11_joins 17 = .ok (.iaload, 1) := dk_46 (dk_at dksX11_joins_0 17 rfl rfl)
theorem dX11_joins_18 : decode cX11_joins 18 = .ok (.if_icmp .eq 5, 3) := dk_159 0 5 (dk_at dksX11_joins_0 18 rfl rfl)
theorem dX11_joins_21 : decode cX11_joins 21 = .ok (.iconst 0, 1) := dk_3 (dk_at dksX11_joins_0 21 rfl rfl)
theorem dX11_joins_22 : decode cX11_joins 22 = .ok (.ireturn, 1) := dk_172 (dk_at dksX11_joins_0 22 rfl rfl)
theorem dX11_joins_23 : decode cX11_joins 23 = .ok (.iconst 0, 1) := dk_3 (dk_at dksX11_joins_0 23 rfl rfl)
theorem dX11_joins_24 : decode cX11_joins 24 = .ok (.istore 5, 2) := dk_54 5 (dk_at dksX11_joins_1 0 rfl rfl)
theorem dX11_joins_26 : decode cX11_joins 26 = .ok (.iload 5, 2) := dk_21 5 (dk_at dksX11_joins_1 2 rfl rfl)
theorem dX11_joins_28 : decode cX11_joins 28 = .ok (.aload_n 0, 1) := dk_42 (dk_at dksX11_joins_1 4 rfl rfl)
theorem dX11_joins_29 : decode cX11_joins 29 = .ok (.getfield 20, 3) := dk_180 0 20 (dk_at dksX11_joins_1 5 rfl rfl)
theorem dX11_joins_32 : decode cX11_joins 32 = .ok (.iload_n 3, 1) := dk_29 (dk_at dksX11_joins_1 8 rfl rfl)
theorem dX11_joins_33 : decode cX11_joins 33 = .ok (.iaload, 1) := dk_46 (dk_at dksX11_joins_1 9 rfl rfl)
theorem dX11_joins_34 : decode cX11_joins 34 = .ok (.if_icmp .gt 35, 3) := dk_163 0 35 (dk_at dksX11_joins_1 10 rfl rfl)
theorem dX11_joins_37 : decode cX11_joins 37 = .ok (.aload_n 0, 1) := dk_42 (dk_at dksX11_joins_1 13 rfl rfl)
theorem dX11_joins_38 : decode cX11_joins 38 = .ok (.iload_n 3, 1) := dk_29 (dk_at dksX11_joins_1 14 rfl rfl)
theorem dX11_joins_39 : decode cX11_joins 39 = .ok (.iload 5, 2) := dk_21 5 (dk_at dksX11_joins_1 15 rfl rfl)
theorem dX11_joins_41 : decode cX11_joins 41 = .ok (.aload_n 0, 1) := dk_42 (dk_at dksX11_joins_1 17 rfl rfl)
theorem dX11_joins_42 : decode cX11_joins 42 = .ok (.aload_n 0, 1) := dk_42 (dk_at dksX11_joins_1 18 rfl rfl)
theorem dX11_joins_43 : decode cX11_joins 43 = .ok (.iload_n 3, 1) := dk_29 (dk_at dksX11_joins_1 19 rfl rfl)
theorem dX11_joins_44 : decode cX11_joins 44 = .ok (.iload 5, 2) := dk_21 5 (dk_at dksX11_joins_1 20 rfl rfl)
theorem dX11_joins_46 : decode cX11_joins 46 = .ok (.invokevirtual 103, 3) := dk_182 0 103 (dk_at dksX11_joins_2 0 rfl rfl)
theorem dX11_joins_49 : decode cX11_joins 49 = .ok (.aload_n 0, 1) := dk_42 (dk_at dksX11_joins_2 3 rfl rfl)
theorem dX11_joins_50 : decode cX11_joins 50 = .ok (.iload 4, 2) := dk_21 4 (dk_at dksX11_joins_2 4 rfl rfl)
theorem dX11_joins_52 : decode cX11_joins 52 = .ok (.iload 5, 2) := dk_21 5 (dk_at dksX11_joins_2 6 rfl rfl)
theorem dX11_joins_54 : decode cX11_joins 54 = .ok (.invokevirtual 103, 3) := dk_182 0 103 (dk_at dksX11_joins_2 8 rfl rfl)
theorem dX11_joins_57 : decode cX11_joins 57 = .ok (.invokevirtual 110, 3) := dk_182 0 110 (dk_at dksX11_joins_2 11 rfl rfl)
theorem dX11_joins_60 : decode cX11_joins 60 = .ok (.invokevirtual 99, 3) := dk_182 0 99 (dk_at dksX11_joins_2 14 rfl rfl)
theorem dX11_joins_63 : decode cX11_joins 63 = .ok (.iinc 5 1, 3) := dk_132 5 1 (dk_at dksX11_joins_2 17 rfl rfl)
theorem dX11_joins_66 : decode cX11_joins 66 = .ok (.goto (-40), 3) := dk_167 255 216 (dk_at dksX11_joins_2 20 rfl rfl)
theorem dX11_joins_69 : decode cX11_joins 69 = .ok (.iconst 1, 1) := dk_4 (dk_at dksX11_joins_2 23 rfl rfl)
theorem dX11_joins_70 : decode cX11_joins 70 = .ok (.ireturn, 1) := dk_172 (dk_at dksX11_joins_3 0 rfl rfl)
theorem dX11_joins_71 : decode cX11_joins 71 = .ok (.iload_n 1, 1) := dk_27 (dk_at dksX11_joins_3 1 rfl rfl)
theorem dX11_joins_72 : decode cX11_joins 72 = .ok (.iconst 3, 1) := dk_6 (dk_at dksX11_joins_3 2 rfl rfl)
theorem dX11_joins_73 : decode cX11_joins 73 = .ok (.if_icmp .ne 25, 3) := dk_160 0 25 (dk_at dksX11_joins_3 3 rfl rfl)
theorem dX11_joins_76 : decode cX11_joins 76 = .ok (.aload_n 0, 1) := dk_42 (dk_at dksX11_joins_3 6 rfl rfl)
theorem dX11_joins_77 : decode cX11_joins 77 = .ok (.getfield 20, 3) := dk_180 0 20 (dk_at dksX11_joins_3 7 rfl rfl)
theorem dX11_joins_80 : decode cX11_joins 80 = .ok (.iload_n 3, 1) := dk_29 (dk_at dksX11_joins_3 10 rfl rfl)
theorem dX11_joins_81 : decode cX11_joins 81 = .ok (.iaload, 1) := dk_46 (dk_at dksX11_joins_3 11 rfl rfl)
theorem dX11_joins_82 : decode cX11_joins 82 = .ok (.aload_n 0, 1) := dk_42 (dk_at dksX11_joins_3 12 rfl rfl)
theorem dX11_joins_83 : decode cX11_joins 83 = .ok (.getfield 20, 3) := dk_180 0 20 (dk_at dksX11_joins_3 13 rfl rfl)
theorem dX11_joins_86 : decode cX11_joins 86 = .ok (.iload 4, 2) := dk_21 4 (dk_at dksX11_joins_3 16 rfl rfl)
theorem dX11_joins_88 : decode cX11_joins 88 = .ok (.iaload, 1) := dk_46 (dk_at dksX11_joins_3 18 rfl rfl)
theorem dX11_joins_89 : decode cX11_joins 89 = .ok (.iadd, 1) := dk_96 (dk_at dksX11_joins_3 19 rfl rfl)
theorem dX11_joins_90 : decode cX11_joins 90 = .ok (.bipush 41, 2) := dk_16 41 (dk_at dksX11_joins_3 20 rfl rfl)
theorem dX11_joins_92 : decode cX11_joins 92 = .ok (.if_icmp .lt 52, 3) := dk_161 0 52 (dk_at dksX11_joins_4 0 rfl rfl)
theorem dX11_joins_95 : decode cX11_joins 95 = .ok (.goto 47, 3) := dk_167 0 47 (dk_at dksX11_joins_4 3 rfl rfl)
theorem dX11_joins_98 : decode cX11_joins 98 = .ok (.iload_n 2, 1) := dk_28 (dk_at dksX11_joins_4 6 rfl rfl)
theorem dX11_joins_99 : decode cX11_joins 99 = .ok (.aload_n 0, 1) := dk_42 (dk_at dksX11_joins_4 7 rfl rfl)
theorem dX11_joins_100 : decode cX11_joins 100 = .ok (.getfield 20, 3) := dk_180 0 20 (dk_at dksX11_joins_4 8 rfl rfl)
theorem dX11_joins_103 : decode cX11_joins 103 = .ok (.iload_n 3, 1) := dk_29 (dk_at dksX11_joins_4 11 rfl rfl)
theorem dX11_joins_104 : decode cX11_joins 104 = .ok (.iaload, 1) := dk_46 (dk_at dksX11_joins_4 12 rfl rfl)
theorem dX11_joins_105 : decode cX11_joins 105 = .ok (.if_icmp .gt 37, 3) := dk_163 0 37 (dk_at dksX11_joins_4 13 rfl rfl)
theorem dX11_joins_108 : decode cX11_joins 108 = .ok (.iload_n 2, 1) := dk_28 (dk_at dksX11_joins_4 16 rfl rfl)
theorem dX11_joins_109 : decode cX11_joins 109 = .ok (.aload_n 0, 1) := dk_42 (dk_at dksX11_joins_4 17 rfl rfl)
theorem dX11_joins_110 : decode cX11_joins 110 = .ok (.getfield 20, 3) := dk_180 0 20 (dk_at dksX11_joins_4 18 rfl rfl)
theorem dX11_joins_113 : decode cX11_joins 113 = .ok (.iload 4, 2) := dk_21 4 (dk_at dksX11_joins_4 21 rfl rfl)
theorem dX11_joins_115 : decode cX11_joins 115 = .ok (.iaload, 1) := dk_46 (dk_at dksX11_joins_4 23 rfl rfl)
theorem dX11_joins_116 : decode cX11_joins 116 = .ok (.if_icmp .gt 26, 3) := dk_163 0 26 (dk_at dksX11_joins_5 0 rfl rfl)
theorem dX11_joins_119 : decode cX11_joins 119 = .ok (.aload_n 0, 1) := dk_42 (dk_at dksX11_joins_5 3 rfl rfl)
theorem dX11_joins_120 : decode cX11_joins 120 = .ok (.getfield 20, 3) := dk_180 0 20 (dk_at dksX11_joins_5 4 rfl rfl)
theorem dX11_joins_123 : decode cX11_joins 123 = .ok (.iload_n 3, 1) := dk_29 (dk_at dksX11_joins_5 7 rfl rfl)
theorem dX11_joins_124 : decode cX11_joins 124 = .ok (.iaload, 1) := dk_46 (dk_at dksX11_joins_5 8 rfl rfl)
theorem dX11_joins_125 : decode cX11_joins 125 = .ok (.aload_n 0, 1) := dk_42 (dk_at dksX11_joins_5 9 rfl rfl)
theorem dX11_joins_126 : decode cX11_joins 126 = .ok (.getfield 20, 3) := dk_180 0 20 (dk_at dksX11_joins_5 10 rfl rfl)
theorem dX11_joins_129 : decode cX11_joins 129 = .ok (.iload 4, 2) := dk_21 4 (dk_at dksX11_joins_5 13 rfl rfl)
theorem dX11_joins_131 : decode cX11_joins 131 = .ok (.iaload, 1) := dk_46 (dk_at dksX11_joins_5 15 rfl rfl)
theorem dX11_joins_132 : decode cX11_joins 132 = .ok (.iadd, 1) := dk_96 (dk_at dksX11_joins_5 16 rfl rfl)
theorem dX11_joins_133 : decode cX11_joins 133 = .ok (.iconst 2, 1) := dk_5 (dk_at dksX11_joins_5 17 rfl rfl)
theorem dX11_joins_134 : decode cX11_joins 134 = .ok (.iload_n 2, 1) := dk_28 (dk_at dksX11_joins_5 18 rfl rfl)
theorem dX11_joins_135 : decode cX11_joins 135 = .ok (.imul, 1) := dk_104 (dk_at dksX11_joins_5 19 rfl rfl)
theorem dX11_joins_136 : decode cX11_joins 136 = .ok (.isub, 1) := dk_100 (dk_at dksX11_joins_5 20 rfl rfl)
theorem dX11_joins_137 : decode cX11_joins 137 = .ok (.bipush 41, 2) := dk_16 41 (dk_at dksX11_joins_5 21 rfl rfl)
theorem dX11_joins_139 : decode cX11_joins 139 = .ok (.if_icmp .lt 5, 3) := dk_161 0 5 (dk_at dksX11_joins_6 0 rfl rfl)
theorem dX11_joins_142 : decode cX11_joins 142 = .ok (.iconst 0, 1) := dk_3 (dk_at dksX11_joins_6 3 rfl rfl)
theorem dX11_joins_143 : decode cX11_joins 143 = .ok (.ireturn, 1) := dk_172 (dk_at dksX11_joins_6 4 rfl rfl)
theorem dX11_joins_144 : decode cX11_joins 144 = .ok (.iload_n 1, 1) := dk_27 (dk_at dksX11_joins_6 5 rfl rfl)
theorem dX11_joins_145 : decode cX11_joins 145 = .ok (.iconst 3, 1) := dk_6 (dk_at dksX11_joins_6 6 rfl rfl)
theorem dX11_joins_146 : decode cX11_joins 146 = .ok (.if_icmp .ne 15, 3) := dk_160 0 15 (dk_at dksX11_joins_6 7 rfl rfl)
theorem dX11_joins_149 : decode cX11_joins 149 = .ok (.aload_n 0, 1) := dk_42 (dk_at dksX11_joins_6 10 rfl rfl)
theorem dX11_joins_150 : decode cX11_joins 150 = .ok (.iload_n 3, 1) := dk_29 (dk_at dksX11_joins_6 11 rfl rfl)
theorem dX11_joins_151 : decode cX11_joins 151 = .ok (.iload 4, 2) := dk_21 4 (dk_at dksX11_joins_6 12 rfl rfl)
theorem dX11_joins_153 : decode cX11_joins 153 = .ok (.bipush 43, 2) := dk_16 43 (dk_at dksX11_joins_6 14 rfl rfl)
theorem dX11_joins_155 : decode cX11_joins 155 = .ok (.invokevirtual 125, 3) := dk_182 0 125 (dk_at dksX11_joins_6 16 rfl rfl)
theorem dX11_joins_158 : decode cX11_joins 158 = .ok (.goto 13, 3) := dk_167 0 13 (dk_at dksX11_joins_6 19 rfl rfl)
theorem dX11_joins_161 : decode cX11_joins 161 = .ok (.aload_n 0, 1) := dk_42 (dk_at dksX11_joins_6 22 rfl rfl)
theorem dX11_joins_162 : decode cX11_joins 162 = .ok (.iload_n 3, 1) := dk_29 (dk_at dksX11_joins_6 23 rfl rfl)
theorem dX11_joins_163 : decode cX11_joins 163 = .ok (.iload 4, 2) := dk_21 4 (dk_at dksX11_joins_7 0 rfl rfl)
theorem dX11_joins_165 : decode cX11_joins 165 = .ok (.iload_n 2, 1) := dk_28 (dk_at dksX11_joins_7 2 rfl rfl)
theorem dX11_joins_166 : decode cX11_joins 166 = .ok (.bipush 43, 2) := dk_16 43 (dk_at dksX11_joins_7 3 rfl rfl)
theorem dX11_joins_168 : decode cX11_joins 168 = .ok (.invokevirtual 277, 3) := dk_182 1 21 (dk_at dksX11_joins_7 5 rfl rfl)
theorem dX11_joins_171 : decode cX11_joins 171 = .ok (.aload_n 0, 1) := dk_42 (dk_at dksX11_joins_7 8 rfl rfl)
theorem dX11_joins_172 : decode cX11_joins 172 = .ok (.bipush 43, 2) := dk_16 43 (dk_at dksX11_joins_7 9 rfl rfl)
theorem dX11_joins_174 : decode cX11_joins 174 = .ok (.iload_n 3, 1) := dk_29 (dk_at dksX11_joins_7 11 rfl rfl)
theorem dX11_joins_175 : decode cX11_joins 175 = .ok (.invokevirtual 267, 3) := dk_182 1 11 (dk_at dksX11_joins_7 12 rfl rfl)
theorem dX11_joins_178 : decode cX11_joins 178 = .ok (.iconst 1, 1) := dk_4 (dk_at dksX11_joins_7 15 rfl rfl)
theorem dX11_joins_179 : decode cX11_joins 179 = .ok (.ireturn, 1) := dk_172 (dk_at dksX11_joins_7 16 rfl rfl)
abbrev cX11_multiplies : ByteArray := prog_18_method_28_code
def yX11_multiplies : MethodName := ⟨RX11, "multiplies", "(III)V"⟩
def dkwX11_multiplies_4 : List UInt8 := [132, 4, 1, 167, 255, 180, 177]
abbrev dktX11_multiplies_4 : List UInt8 := dkwX11_multiplies_4 ++ []
def dkwX11_multiplies_3 : List UInt8 := [42, 28, 21, 5, 182, 0, 103, 182, 0, 86, 182, 0, 110, 182, 0, 99, 132, 5, 1, 167, 255, 200]
abbrev dktX11_multiplies_3 : List UInt8 := dkwX11_multiplies_3 ++ dktX11_multiplies_4
def dkwX11_multiplies_2 : List UInt8 := [21, 4, 21, 5, 96, 42, 42, 29, 21, 4, 21, 5, 96, 182, 0, 103, 42, 42, 27, 21, 4, 182, 0, 103]
abbrev dktX11_multiplies_2 : List UInt8 := dkwX11_multiplies_2 ++ dktX11_multiplies_3
def dkwX11_multiplies_1 : List UInt8 := [180, 0, 20, 27, 46, 163, 0, 71, 3, 54, 5, 21, 5, 42, 180, 0, 20, 28, 46, 163, 0, 51, 42, 29]
abbrev dktX11_multiplies_1 : List UInt8 := dkwX11_multiplies_1 ++ dktX11_multiplies_2
def dkwX11_multiplies_0 : List UInt8 := [42, 29, 42, 180, 0, 20, 27, 46, 42, 180, 0, 20, 28, 46, 96, 182, 0, 106, 3, 54, 4, 21, 4, 42]
abbrev dktX11_multiplies_0 : List UInt8 := dkwX11_multiplies_0 ++ dktX11_multiplies_1
theorem dksX11_multiplies_0 : cX11_multiplies.data.toList.drop 0 = dktX11_multiplies_0 := by decide +kernel
theorem dksX11_multiplies_1 : cX11_multiplies.data.toList.drop 24 = dktX11_multiplies_1 := dk_seg dksX11_multiplies_0 24 rfl rfl
theorem dksX11_multiplies_2 : cX11_multiplies.data.toList.drop 48 = dktX11_multiplies_2 := dk_seg dksX11_multiplies_1 24 rfl rfl
theorem dksX11_multiplies_3 : cX11_multiplies.data.toList.drop 72 = dktX11_multiplies_3 := dk_seg dksX11_multiplies_2 24 rfl rfl
theorem dksX11_multiplies_4 : cX11_multiplies.data.toList.drop 94 = dktX11_multiplies_4 := dk_seg dksX11_multiplies_3 22 rfl rfl
theorem dX11_multiplies_0 : decode cX11_multiplies 0 = .ok (.aload_n 0, 1) := dk_42 (dk_at dksX11_multiplies_0 0 rfl rfl)
theorem dX11_multiplies_1 : decode cX11_multiplies 1 = .ok (.iload_n 3, 1) := dk_29 (dk_at dksX11_multiplies_0 1 rfl rfl)
theorem dX11_multiplies_2 : decode cX11_multiplies 2 = .ok (.aload_n 0, 1) := dk_42 (dk_at dksX11_multiplies_0 2 rfl rfl)
theorem dX11_multiplies_3 : decode cX11_multiplies 3 = .ok (.getfield 20, 3) := dk_180 0 20 (dk_at dksX11_multiplies_0 3 rfl rfl)
theorem dX11_multiplies_6 : decode cX11_multiplies 6 = .ok (.iload_n 1, 1) := dk_27 (dk_at dksX11_multiplies_0 6 rfl rfl)
theorem dX11_multiplies_7 : decode cX11_multiplies 7 = .ok (.iaload, 1) := dk_46 (dk_at dksX11_multiplies_0 7 rfl rfl)
theorem dX11_multiplies_8 : decode cX11_multiplies 8 = .ok (.aload_n 0, 1) := dk_42 (dk_at dksX11_multiplies_0 8 rfl rfl)
theorem dX11_multiplies_9 : decode cX11_multiplies 9 = .ok (.getfield 20, 3) := dk_180 0 20 (dk_at dksX11_multiplies_0 9 rfl rfl)
theorem dX11_multiplies_12 : decode cX11_multiplies 12 = .ok (.iload_n 2, 1) := dk_28 (dk_at dksX11_multiplies_0 12 rfl rfl)
theorem dX11_multiplies_13 : decode cX11_multiplies 13 = .ok (.iaload, 1) := dk_46 (dk_at dksX11_multiplies_0 13 rfl rfl)
theorem dX11_multiplies_14 : decode cX11_multiplies 14 = .ok (.iadd, 1) := dk_96 (dk_at dksX11_multiplies_0 14 rfl rfl)
theorem dX11_multiplies_15 : decode cX11_multiplies 15 = .ok (.invokevirtual 106, 3) := dk_182 0 106 (dk_at dksX11_multiplies_0 15 rfl rfl)
theorem dX11_multiplies_18 : decode cX11_multiplies 18 = .ok (.iconst 0, 1) := dk_3 (dk_at dksX11_multiplies_0 18 rfl rfl)
theorem dX11_multiplies_19 : decode cX11_multiplies 19 = .ok (.istore 4, 2) := dk_54 4 (dk_at dksX11_multiplies_0 19 rfl rfl)
theorem dX11_multiplies_21 : decode cX11_multiplies 21 = .ok (.iload 4, 2) := dk_21 4 (dk_at dksX11_multiplies_0 21 rfl rfl)
theorem dX11_multiplies_23 : decode cX11_multiplies 23 = .ok (.aload_n 0, 1) := dk_42 (dk_at dksX11_multiplies_0 23 rfl rfl)
theorem dX11_multiplies_24 : decode cX11_multiplies 24 = .ok (.getfield 20, 3) := dk_180 0 20 (dk_at dksX11_multiplies_1 0 rfl rfl)
theorem dX11_multiplies_27 : decode cX11_multiplies 27 = .ok (.iload_n 1, 1) := dk_27 (dk_at dksX11_multiplies_1 3 rfl rfl)
theorem dX11_multiplies_28 : decode cX11_multiplies 28 = .ok (.iaload, 1) := dk_46 (dk_at dksX11_multiplies_1 4 rfl rfl)
theorem dX11_multiplies_29 : decode cX11_multiplies 29 = .ok (.if_icmp .gt 71, 3) := dk_163 0 71 (dk_at dksX11_multiplies_1 5 rfl rfl)
theorem dX11_multiplies_32 : decode cX11_multiplies 32 = .ok (.iconst 0, 1) := dk_3 (dk_at dksX11_multiplies_1 8 rfl rfl)
theorem dX11_multiplies_33 : decode cX11_multiplies 33 = .ok (.istore 5, 2) := dk_54 5 (dk_at dksX11_multiplies_1 9 rfl rfl)
theorem dX11_multiplies_35 : decode cX11_multiplies 35 = .ok (.iload 5, 2) := dk_21 5 (dk_at dksX11_multiplies_1 11 rfl rfl)
theorem dX11_multiplies_37 : decode cX11_multiplies 37 = .ok (.aload_n 0, 1) := dk_42 (dk_at dksX11_multiplies_1 13 rfl rfl)
theorem dX11_multiplies_38 : decode cX11_multiplies 38 = .ok (.getfield 20, 3) := dk_180 0 20 (dk_at dksX11_multiplies_1 14 rfl rfl)
theorem dX11_multiplies_41 : decode cX11_multiplies 41 = .ok (.iload_n 2, 1) := dk_28 (dk_at dksX11_multiplies_1 17 rfl rfl)
theorem dX11_multiplies_42 : decode cX11_multiplies 42 = .ok (.iaload, 1) := dk_46 (dk_at dksX11_multiplies_1 18 rfl rfl)
theorem dX11_multiplies_43 : decode cX11_multiplies 43 = .ok (.if_icmp .gt 51, 3) := dk_163 0 51 (dk_at dksX11_multiplies_1 19 rfl rfl)
theorem dX11_multiplies_46 : decode cX11_multiplies 46 = .ok (.aload_n 0, 1) := dk_42 (dk_at dksX11_multiplies_1 22 rfl rfl)
theorem dX11_multiplies_47 : decode cX11_multiplies 47 = .ok (.iload_n 3, 1) := dk_29 (dk_at dksX11_multiplies_1 23 rfl rfl)
theorem dX11_multiplies_48 : decode cX11_multiplies 48 = .ok (.iload 4, 2) := dk_21 4 (dk_at dksX11_multiplies_2 0 rfl rfl)
theorem dX11_multiplies_50 : decode cX11_multiplies 50 = .ok (.iload 5, 2) := dk_21 5 (dk_at dksX11_multiplies_2 2 rfl rfl)
theorem dX11_multiplies_52 : decode cX11_multiplies 52 = .ok (.iadd, 1) := dk_96 (dk_at dksX11_multiplies_2 4 rfl rfl)
theorem dX11_multiplies_53 : decode cX11_multiplies 53 = .ok (.aload_n 0, 1) := dk_42 (dk_at dksX11_multiplies_2 5 rfl rfl)
theorem dX11_multiplies_54 : decode cX11_multiplies 54 = .ok (.aload_n 0, 1) := dk_42 (dk_at dksX11_multiplies_2 6 rfl rfl)
theorem dX11_multiplies_55 : decode cX11_multiplies 55 = .ok (.iload_n 3, 1) := dk_29 (dk_at dksX11_multiplies_2 7 rfl rfl)
theorem dX11_multiplies_56 : decode cX11_multiplies 56 = .ok (.iload 4, 2) := dk_21 4 (dk_at dksX11_multiplies_2 8 rfl rfl)
theorem dX11_multiplies_58 : decode cX11_multiplies 58 = .ok (.iload 5, 2) := dk_21 5 (dk_at dksX11_multiplies_2 10 rfl rfl)
theorem dX11_multiplies_60 : decode cX11_multiplies 60 = .ok (.iadd, 1) := dk_96 (dk_at dksX11_multiplies_2 12 rfl rfl)
theorem dX11_multiplies_61 : decode cX11_multiplies 61 = .ok (.invokevirtual 103, 3) := dk_182 0 103 (dk_at dksX11_multiplies_2 13 rfl rfl)
theorem dX11_multiplies_64 : decode cX11_multiplies 64 = .ok (.aload_n 0, 1) := dk_42 (dk_at dksX11_multiplies_2 16 rfl rfl)
theorem dX11_multiplies_65 : decode cX11_multiplies 65 = .ok (.aload_n 0, 1) := dk_42 (dk_at dksX11_multiplies_2 17 rfl rfl)
theorem dX11_multiplies_66 : decode cX11_multiplies 66 = .ok (.iload_n 1, 1) := dk_27 (dk_at dksX11_multiplies_2 18 rfl rfl)
theorem dX11_multiplies_67 : decode cX11_multiplies 67 = .ok (.iload 4, 2) := dk_21 4 (dk_at dksX11_multiplies_2 19 rfl rfl)
theorem dX11_multiplies_69 : decode cX11_multiplies 69 = .ok (.invokevirtual 103, 3) := dk_182 0 103 (dk_at dksX11_multiplies_2 21 rfl rfl)
theorem dX11_multiplies_72 : decode cX11_multiplies 72 = .ok (.aload_n 0, 1) := dk_42 (dk_at dksX11_multiplies_3 0 rfl rfl)
theorem dX11_multiplies_73 : decode cX11_multiplies 73 = .ok (.iload_n 2, 1) := dk_28 (dk_at dksX11_multiplies_3 1 rfl rfl)
theorem dX11_multiplies_74 : decode cX11_multiplies 74 = .ok (.iload 5, 2) := dk_21 5 (dk_at dksX11_multiplies_3 2 rfl rfl)
theorem dX11_multiplies_76 : decode cX11_multiplies 76 = .ok (.invokevirtual 103, 3) := dk_182 0 103 (dk_at dksX11_multiplies_3 4 rfl rfl)
theorem dX11_multiplies_79 : decode cX11_multiplies 79 = .ok (.invokevirtual 86, 3) := dk_182 0 86 (dk_at dksX11_multiplies_3 7 rfl rfl)
theorem dX11_multiplies_82 : decode cX11_multiplies 82 = .ok (.invokevirtual 110, 3) := dk_182 0 110 (dk_at dksX11_multiplies_3 10 rfl rfl)
theorem dX11_multiplies_85 : decode cX11_multiplies 85 = .ok (.invokevirtual 99, 3) := dk_182 0 99 (dk_at dksX11_multiplies_3 13 rfl rfl)
theorem dX11_multiplies_88 : decode cX11_multiplies 88 = .ok (.iinc 5 1, 3) := dk_132 5 1 (dk_at dksX11_multiplies_3 16 rfl rfl)
theorem dX11_multiplies_91 : decode cX11_multiplies 91 = .ok (.goto (-56), 3) := dk_167 255 200 (dk_at dksX11_multiplies_3 19 rfl rfl)
theorem dX11_multiplies_94 : decode cX11_multiplies 94 = .ok (.iinc 4 1, 3) := dk_132 4 1 (dk_at dksX11_multiplies_4 0 rfl rfl)
theorem dX11_multiplies_97 : decode cX11_multiplies 97 = .ok (.goto (-76), 3) := dk_167 255 180 (dk_at dksX11_multiplies_4 3 rfl rfl)
theorem dX11_multiplies_100 : decode cX11_multiplies 100 = .ok (.return_, 1) := dk_177 (dk_at dksX11_multiplies_4 6 rfl rfl)
abbrev cX11_overlaps : ByteArray := prog_18_method_32_code
def yX11_overlaps : MethodName := ⟨RX11, "overlaps", "(IIII)V"⟩
def dkwX11_overlaps_6 : List UInt8 := [182, 0, 86, 182, 0, 110, 182, 0, 99, 132, 7, 1, 167, 255, 207, 132, 5, 1, 167, 255, 125, 177]
abbrev dktX11_overlaps_6 : List UInt8 := dkwX11_overlaps_6 ++ []
def dkwX11_overlaps_5 : List UInt8 := [21, 7, 42, 42, 21, 4, 21, 7, 182, 0, 103, 42, 21, 6, 42, 16, 47, 21, 7, 182, 0, 103]
abbrev dktX11_overlaps_5 : List UInt8 := dkwX11_overlaps_5 ++ dktX11_overlaps_6
def dkwX11_overlaps_4 : List UInt8 := [182, 0, 113, 54, 6, 3, 54, 7, 21, 7, 42, 180, 0, 20, 21, 4, 46, 163, 0, 43, 42, 21, 4]
abbrev dktX11_overlaps_4 : List UInt8 := dkwX11_overlaps_4 ++ dktX11_overlaps_5
def dkwX11_overlaps_3 : List UInt8 := [5, 112, 154, 0, 13, 29, 21, 5, 184, 0, 128, 133, 167, 0, 11, 29, 21, 5, 184, 0, 128, 116, 133]
abbrev dktX11_overlaps_3 : List UInt8 := dkwX11_overlaps_3 ++ dktX11_overlaps_4
def dkwX11_overlaps_2 : List UInt8 := [21, 5, 29, 21, 5, 100, 16, 46, 182, 0, 121, 42, 16, 45, 16, 46, 16, 47, 182, 0, 125, 42, 21, 5]
abbrev dktX11_overlaps_2 : List UInt8 := dkwX11_overlaps_2 ++ dktX11_overlaps_3
def dkwX11_overlaps_1 : List UInt8 := [54, 5, 21, 5, 29, 163, 0, 131, 42, 27, 29, 21, 5, 100, 21, 5, 16, 45, 182, 0, 121, 42, 28]
abbrev dktX11_overlaps_1 : List UInt8 := dkwX11_overlaps_1 ++ dktX11_overlaps_2
def dkwX11_overlaps_0 : List UInt8 := [42, 21, 4, 42, 180, 0, 20, 27, 46, 42, 180, 0, 20, 28, 46, 96, 5, 29, 104, 100, 182, 0, 106, 3]
abbrev dktX11_overlaps_0 : List UInt8 := dkwX11_overlaps_0 ++ dktX11_overlaps_1
theorem dksX11_overlaps_0 : cX11_overlaps.data.toList.drop 0 = dktX11_overlaps_0 := by decide +kernel
theorem dksX11_overlaps_1 : cX11_overlaps.data.toList.drop 24 = dktX11_overlaps_1 := dk_seg dksX11_overlaps_0 24 rfl rfl
theorem dksX11_overlaps_2 : cX11_overlaps.data.toList.drop 47 = dktX11_overlaps_2 := dk_seg dksX11_overlaps_1 23 rfl rfl
theorem dksX11_overlaps_3 : cX11_overlaps.data.toList.drop 71 = dktX11_overlaps_3 := dk_seg dksX11_overlaps_2 24 rfl rfl
theorem dksX11_overlaps_4 : cX11_overlaps.data.toList.drop 94 = dktX11_overlaps_4 := dk_seg dksX11_overlaps_3 23 rfl rfl
theorem dksX11_overlaps_5 : cX11_overlaps.data.toList.drop 117 = dktX11_overlaps_5 := dk_seg dksX11_overlaps_4 23 rfl rfl
theorem dksX11_overlaps_6 : cX11_overlaps.data.toList.drop 139 = dktX11_overlaps_6 := dk_seg dksX11_overlaps_5 22 rfl rfl
theorem dX11_overlaps_0 : decode cX11_overlaps 0 = .ok (.aload_n 0, 1) := dk_42 (dk_at dksX11_overlaps_0 0 rfl rfl)
theorem dX11_overlaps_1 : decode cX11_overlaps 1 = .ok (.iload 4, 2) := dk_21 4 (dk_at dksX11_overlaps_0 1 rfl rfl)
theorem dX11_overlaps_3 : decode cX11_overlaps 3 = .ok (.aload_n 0, 1) := dk_42 (dk_at dksX11_overlaps_0 3 rfl rfl)
theorem dX11_overlaps_4 : decode cX11_overlaps 4 = .ok (.getfield 20, 3) := dk_180 0 20 (dk_at dksX11_overlaps_0 4 rfl rfl)
theorem dX11_overlaps_7 : decode cX11_overlaps 7 = .ok (.iload_n 1, 1) := dk_27 (dk_at dksX11_overlaps_0 7 rfl rfl)
theorem dX11_overlaps_8 : decode cX11_overlaps 8 = .ok (.iaload, 1) := dk_46 (dk_at dksX11_overlaps_0 8 rfl rfl)
theorem dX11_overlaps_9 : decode cX11_overlaps 9 = .ok (.aload_n 0, 1) := dk_42 (dk_at dksX11_overlaps_0 9 rfl rfl)
theorem dX11_overlaps_10 : decode cX11_overlaps 10 = .ok (.getfield 20, 3) := dk_180 0 20 (dk_at dksX11_overlaps_0 10 rfl rfl)
theorem dX11_overlaps_13 : decode cX11_overlaps 13 = .ok (.iload_n 2, 1) := dk_28 (dk_at dksX11_overlaps_0 13 rfl rfl)
theorem dX11_overlaps_14 : decode cX11_overlaps 14 = .ok (.iaload, 1) := dk_46 (dk_at dksX11_overlaps_0 14 rfl rfl)
theorem dX11_overlaps_15 : decode cX11_overlaps 15 = .ok (.iadd, 1) := dk_96 (dk_at dksX11_overlaps_0 15 rfl rfl)
theorem dX11_overlaps_16 : decode cX11_overlaps 16 = .ok (.iconst 2, 1) := dk_5 (dk_at dksX11_overlaps_0 16 rfl rfl)
theorem dX11_overlaps_17 : decode cX11_overlaps 17 = .ok (.iload_n 3, 1) := dk_29 (dk_at dksX11_overlaps_0 17 rfl rfl)
theorem dX11_overlaps_18 : decode cX11_overlaps 18 = .ok (.imul, 1) := dk_104 (dk_at dksX11_overlaps_0 18 rfl rfl)
theorem dX11_overlaps_19 : decode cX11_overlaps 19 = .ok (.isub, 1) := dk_100 (dk_at dksX11_overlaps_0 19 rfl rfl)
theorem dX11_overlaps_20 : decode cX11_overlaps 20 = .ok (.invokevirtual 106, 3) := dk_182 0 106 (dk_at dksX11_overlaps_0 20 rfl rfl)
theorem dX11_overlaps_23 : decode cX11_overlaps 23 = .ok (.iconst 0, 1) := dk_3 (dk_at dksX11_overlaps_0 23 rfl rfl)
theorem dX11_overlaps_24 : decode cX11_overlaps 24 = .ok (.istore 5, 2) := dk_54 5 (dk_at dksX11_overlaps_1 0 rfl rfl)
theorem dX11_overlaps_26 : decode cX11_overlaps 26 = .ok (.iload 5, 2) := dk_21 5 (dk_at dksX11_overlaps_1 2 rfl rfl)
theorem dX11_overlaps_28 : decode cX11_overlaps 28 = .ok (.iload_n 3, 1) := dk_29 (dk_at dksX11_overlaps_1 4 rfl rfl)
theorem dX11_overlaps_29 : decode cX11_overlaps 29 = .ok (.if_icmp .gt 131, 3) := dk_163 0 131 (dk_at dksX11_overlaps_1 5 rfl rfl)
theorem dX11_overlaps_32 : decode cX11_overlaps 32 = .ok (.aload_n 0, 1) := dk_42 (dk_at dksX11_overlaps_1 8 rfl rfl)
theorem dX11_overlaps_33 : decode cX11_overlaps 33 = .ok (.iload_n 1, 1) := dk_27 (dk_at dksX11_overlaps_1 9 rfl rfl)
theorem dX11_overlaps_34 : decode cX11_overlaps 34 = .ok (.iload_n 3, 1) := dk_29 (dk_at dksX11_overlaps_1 10 rfl rfl)
theorem dX11_overlaps_35 : decode cX11_overlaps 35 = .ok (.iload 5, 2) := dk_21 5 (dk_at dksX11_overlaps_1 11 rfl rfl)
theorem dX11_overlaps_37 : decode cX11_overlaps 37 = .ok (.isub, 1) := dk_100 (dk_at dksX11_overlaps_1 13 rfl rfl)
theorem dX11_overlaps_38 : decode cX11_overlaps 38 = .ok (.iload 5, 2) := dk_21 5 (dk_at dksX11_overlaps_1 14 rfl rfl)
theorem dX11_overlaps_40 : decode cX11_overlaps 40 = .ok (.bipush 45, 2) := dk_16 45 (dk_at dksX11_overlaps_1 16 rfl rfl)
theorem dX11_overlaps_42 : decode cX11_overlaps 42 = .ok (.invokevirtual 121, 3) := dk_182 0 121 (dk_at dksX11_overlaps_1 18 rfl rfl)
theorem dX11_overlaps_45 : decode cX11_overlaps 45 = .ok (.aload_n 0, 1) := dk_42 (dk_at dksX11_overlaps_1 21 rfl rfl)
theorem dX11_overlaps_46 : decode cX11_overlaps 46 = .ok (.iload_n 2, 1) := dk_28 (dk_at dksX11_overlaps_1 22 rfl rfl)
theorem dX11_overlaps_47 : decode cX11_overlaps 47 = .ok (.iload 5, 2) := dk_21 5 (dk_at dksX11_overlaps_2 0 rfl rfl)
theorem dX11_overlaps_49 : decode cX11_overlaps 49 = .ok (.iload_n 3, 1) := dk_29 (dk_at dksX11_overlaps_2 2 rfl rfl)
theorem dX11_overlaps_50 : decode cX11_overlaps 50 = .ok (.iload 5, 2) := dk_21 5 (dk_at dksX11_overlaps_2 3 rfl rfl)
theorem dX11_overlaps_52 : decode cX11_overlaps 52 = .ok (.isub, 1) := dk_100 (dk_at dksX11_overlaps_2 5 rfl rfl)
theorem dX11_overlaps_53 : decode cX11_overlaps 53 = .ok (.bipush 46, 2) := dk_16 46 (dk_at dksX11_overlaps_2 6 rfl rfl)
theorem dX11_overlaps_55 : decode cX11_overlaps 55 = .ok (.invokevirtual 121, 3) := dk_182 0 121 (dk_at dksX11_overlaps_2 8 rfl rfl)
theorem dX11_overlaps_58 : decode cX11_overlaps 58 = .ok (.aload_n 0, 1) := dk_42 (dk_at dksX11_overlaps_2 11 rfl rfl)
theorem dX11_overlaps_59 : decode cX11_overlaps 59 = .ok (.bipush 45, 2) := dk_16 45 (dk_at dksX11_overlaps_2 12 rfl rfl)
theorem dX11_overlaps_61 : decode cX11_overlaps 61 = .ok (.bipush 46, 2) := dk_16 46 (dk_at dksX11_overlaps_2 14 rfl rfl)
theorem dX11_overlaps_63 : decode cX11_overlaps 63 = .ok (.bipush 47, 2) := dk_16 47 (dk_at dksX11_overlaps_2 16 rfl rfl)
theorem dX11_overlaps_65 : decode cX11_overlaps 65 = .ok (.invokevirtual 125, 3) := dk_182 0 125 (dk_at dksX11_overlaps_2 18 rfl rfl)
theorem dX11_overlaps_68 : decode cX11_overlaps 68 = .ok (.aload_n 0, 1) := dk_42 (dk_at dksX11_overlaps_2 21 rfl rfl)
theorem dX11_overlaps_69 : decode cX11_overlaps 69 = .ok (.iload 5, 2) := dk_21 5 (dk_at dksX11_overlaps_2 22 rfl rfl)
theorem dX11_overlaps_71 : decode cX11_overlaps 71 = .ok (.iconst 2, 1) := dk_5 (dk_at dksX11_overlaps_3 0 rfl rfl)
theorem dX11_overlaps_72 : decode cX11_overlaps 72 = .ok (.irem, 1) := dk_112 (dk_at dksX11_overlaps_3 1 rfl rfl)
theorem dX11_overlaps_73 : decode cX11_overlaps 73 = .ok (.ifCond .ne 13, 3) := dk_154 0 13 (dk_at dksX11_overlaps_3 2 rfl rfl)
theorem dX11_overlaps_76 : decode cX11_overlaps 76 = .ok (.iload_n 3, 1) := dk_29 (dk_at dksX11_overlaps_3 5 rfl rfl)
theorem dX11_overlaps_77 : decode cX11_overlaps 77 = .ok (.iload 5, 2) := dk_21 5 (dk_at dksX11_overlaps_3 6 rfl rfl)
theorem dX11_overlaps_79 : decode cX11_overlaps 79 = .ok (.invokestatic 128, 3) := dk_184 0 128 (dk_at dksX11_overlaps_3 8 rfl rfl)
theorem dX11_overlaps_82 : decode cX11_overlaps 82 = .ok (.i2l, 1) := dk_133 (dk_at dksX11_overlaps_3 11 rfl rfl)
theorem dX11_overlaps_83 : decode cX11_overlaps 83 = .ok (.goto 11, 3) := dk_167 0 11 (dk_at dksX11_overlaps_3 12 rfl rfl)
theorem dX11_overlaps_86 : decode cX11_overlaps 86 = .ok (.iload_n 3, 1) := dk_29 (dk_at dksX11_overlaps_3 15 rfl rfl)
theorem dX11_overlaps_87 : decode cX11_overlaps 87 = .ok (.iload 5, 2) := dk_21 5 (dk_at dksX11_overlaps_3 16 rfl rfl)
theorem dX11_overlaps_89 : decode cX11_overlaps 89 = .ok (.invokestatic 128, 3) := dk_184 0 128 (dk_at dksX11_overlaps_3 18 rfl rfl)
theorem dX11_overlaps_92 : decode cX11_overlaps 92 = .ok (.ineg, 1) := dk_116 (dk_at dksX11_overlaps_3 21 rfl rfl)
theorem dX11_overlaps_93 : decode cX11_overlaps 93 = .ok (.i2l, 1) := dk_133 (dk_at dksX11_overlaps_3 22 rfl rfl)
theorem dX11_overlaps_94 : decode cX11_overlaps 94 = .ok (.invokevirtual 113, 3) := dk_182 0 113 (dk_at dksX11_overlaps_4 0 rfl rfl)
theorem dX11_overlaps_97 : decode cX11_overlaps 97 = .ok (.istore 6, 2) := dk_54 6 (dk_at dksX11_overlaps_4 3 rfl rfl)
theorem dX11_overlaps_99 : decode cX11_overlaps 99 = .ok (.iconst 0, 1) := dk_3 (dk_at dksX11_overlaps_4 5 rfl rfl)
theorem dX11_overlaps_100 : decode cX11_overlaps 100 = .ok (.istore 7, 2) := dk_54 7 (dk_at dksX11_overlaps_4 6 rfl rfl)
theorem dX11_overlaps_102 : decode cX11_overlaps 102 = .ok (.iload 7, 2) := dk_21 7 (dk_at dksX11_overlaps_4 8 rfl rfl)
theorem dX11_overlaps_104 : decode cX11_overlaps 104 = .ok (.aload_n 0, 1) := dk_42 (dk_at dksX11_overlaps_4 10 rfl rfl)
theorem dX11_overlaps_105 : decode cX11_overlaps 105 = .ok (.getfield 20, 3) := dk_180 0 20 (dk_at dksX11_overlaps_4 11 rfl rfl)
theorem dX11_overlaps_108 : decode cX11_overlaps 108 = .ok (.iload 4, 2) := dk_21 4 (dk_at dksX11_overlaps_4 14 rfl rfl)
theorem dX11_overlaps_110 : decode cX11_overlaps 110 = .ok (.iaload, 1) := dk_46 (dk_at dksX11_overlaps_4 16 rfl rfl)
theorem dX11_overlaps_111 : decode cX11_overlaps 111 = .ok (.if_icmp .gt 43, 3) := dk_163 0 43 (dk_at dksX11_overlaps_4 17 rfl rfl)
theorem dX11_overlaps_114 : decode cX11_overlaps 114 = .ok (.aload_n 0, 1) := dk_42 (dk_at dksX11_overlaps_4 20 rfl rfl)
theorem dX11_overlaps_115 : decode cX11_overlaps 115 = .ok (.iload 4, 2) := dk_21 4 (dk_at dksX11_overlaps_4 21 rfl rfl)
theorem dX11_overlaps_117 : decode cX11_overlaps 117 = .ok (.iload 7, 2) := dk_21 7 (dk_at dksX11_overlaps_5 0 rfl rfl)
theorem dX11_overlaps_119 : decode cX11_overlaps 119 = .ok (.aload_n 0, 1) := dk_42 (dk_at dksX11_overlaps_5 2 rfl rfl)
theorem dX11_overlaps_120 : decode cX11_overlaps 120 = .ok (.aload_n 0, 1) := dk_42 (dk_at dksX11_overlaps_5 3 rfl rfl)
theorem dX11_overlaps_121 : decode cX11_overlaps 121 = .ok (.iload 4, 2) := dk_21 4 (dk_at dksX11_overlaps_5 4 rfl rfl)
theorem dX11_overlaps_123 : decode cX11_overlaps 123 = .ok (.iload 7, 2) := dk_21 7 (dk_at dksX11_overlaps_5 6 rfl rfl)
theorem dX11_overlaps_125 : decode cX11_overlaps 125 = .ok (.invokevirtual 103, 3) := dk_182 0 103 (dk_at dksX11_overlaps_5 8 rfl rfl)
theorem dX11_overlaps_128 : decode cX11_overlaps 128 = .ok (.aload_n 0, 1) := dk_42 (dk_at dksX11_overlaps_5 11 rfl rfl)
theorem dX11_overlaps_129 : decode cX11_overlaps 129 = .ok (.iload 6, 2) := dk_21 6 (dk_at dksX11_overlaps_5 12 rfl rfl)
theorem dX11_overlaps_131 : decode cX11_overlaps 131 = .ok (.aload_n 0, 1) := dk_42 (dk_at dksX11_overlaps_5 14 rfl rfl)
theorem dX11_overlaps_132 : decode cX11_overlaps 132 = .ok (.bipush 47, 2) := dk_16 47 (dk_at dksX11_overlaps_5 15 rfl rfl)
theorem dX11_overlaps_134 : decode cX11_overlaps 134 = .ok (.iload 7, 2) := dk_21 7 (dk_at dksX11_overlaps_5 17 rfl rfl)
theorem dX11_overlaps_136 : decode cX11_overlaps 136 = .ok (.invokevirtual 103, 3) := dk_182 0 103 (dk_at dksX11_overlaps_5 19 rfl rfl)
theorem dX11_overlaps_139 : decode cX11_overlaps 139 = .ok (.invokevirtual 86, 3) := dk_182 0 86 (dk_at dksX11_overlaps_6 0 rfl rfl)
theorem dX11_overlaps_142 : decode cX11_overlaps 142 = .ok (.invokevirtual 110, 3) := dk_182 0 110 (dk_at dksX11_overlaps_6 3 rfl rfl)
theorem dX11_overlaps_145 : decode cX11_overlaps 145 = .ok (.invokevirtual 99, 3) := dk_182 0 99 (dk_at dksX11_overlaps_6 6 rfl rfl)
theorem dX11_overlaps_148 : decode cX11_overlaps 148 = .ok (.iinc 7 1, 3) := dk_132 7 1 (dk_at dksX11_overlaps_6 9 rfl rfl)
theorem dX11_overlaps_151 : decode cX11_overlaps 151 = .ok (.goto (-49), 3) := dk_167 255 207 (dk_at dksX11_overlaps_6 12 rfl rfl)
theorem dX11_overlaps_154 : decode cX11_overlaps 154 = .ok (.iinc 5 1, 3) := dk_132 5 1 (dk_at dksX11_overlaps_6 15 rfl rfl)
theorem dX11_overlaps_157 : decode cX11_overlaps 157 = .ok (.goto (-131), 3) := dk_167 255 125 (dk_at dksX11_overlaps_6 18 rfl rfl)
theorem dX11_overlaps_160 : decode cX11_overlaps 160 = .ok (.return_, 1) := dk_177 (dk_at dksX11_overlaps_6 21 rfl rfl)
abbrev cX11_differentiates : ByteArray := prog_18_method_30_code
def yX11_differentiates : MethodName := ⟨RX11, "differentiates", "(IIII)V"⟩
def dkwX11_differentiates_3 : List UInt8 := [132, 5, 1, 167, 255, 205, 177]
abbrev dktX11_differentiates_3 : List UInt8 := dkwX11_differentiates_3 ++ []
def dkwX11_differentiates_2 : List UInt8 := [182, 0, 103, 42, 42, 180, 0, 20, 27, 46, 21, 5, 28, 29, 182, 0, 117, 182, 0, 86, 182, 0, 99]
abbrev dktX11_differentiates_2 : List UInt8 := dkwX11_differentiates_2 ++ dktX11_differentiates_3
def dkwX11_differentiates_1 : List UInt8 := [180, 0, 20, 27, 46, 28, 100, 163, 0, 44, 42, 21, 4, 21, 5, 29, 100, 42, 42, 27, 21, 5]
abbrev dktX11_differentiates_1 : List UInt8 := dkwX11_differentiates_1 ++ dktX11_differentiates_2
def dkwX11_differentiates_0 : List UInt8 := [42, 21, 4, 42, 180, 0, 20, 27, 46, 28, 100, 29, 100, 182, 0, 106, 29, 54, 5, 21, 5, 42]
abbrev dktX11_differentiates_0 : List UInt8 := dkwX11_differentiates_0 ++ dktX11_differentiates_1
theorem dksX11_differentiates_0 : cX11_differentiates.data.toList.drop 0 = dktX11_differentiates_0 := by decide +kernel
theorem dksX11_differentiates_1 : cX11_differentiates.data.toList.drop 22 = dktX11_differentiates_1 := dk_seg dksX11_differentiates_0 22 rfl rfl
theorem dksX11_differentiates_2 : cX11_differentiates.data.toList.drop 44 = dktX11_differentiates_2 := dk_seg dksX11_differentiates_1 22 rfl rfl
theorem dksX11_differentiates_3 : cX11_differentiates.data.toList.drop 67 = dktX11_differentiates_3 := dk_seg dksX11_differentiates_2 23 rfl rfl
theorem dX11_differentiates_0 : decode cX11_differentiates 0 = .ok (.aload_n 0, 1) := dk_42 (dk_at dksX11_differentiates_0 0 rfl rfl)
theorem dX11_differentiates_1 : decode cX11_differentiates 1 = .ok (.iload 4, 2) := dk_21 4 (dk_at dksX11_differentiates_0 1 rfl rfl)
theorem dX11_differentiates_3 : decode cX11_differentiates 3 = .ok (.aload_n 0, 1) := dk_42 (dk_at dksX11_differentiates_0 3 rfl rfl)
theorem dX11_differentiates_4 : decode cX11_differentiates 4 = .ok (.getfield 20, 3) := dk_180 0 20 (dk_at dksX11_differentiates_0 4 rfl rfl)
theorem dX11_differentiates_7 : decode cX11_differentiates 7 = .ok (.iload_n 1, 1) := dk_27 (dk_at dksX11_differentiates_0 7 rfl rfl)
theorem dX11_differentiates_8 : decode cX11_differentiates 8 = .ok (.iaload, 1) := dk_46 (dk_at dksX11_differentiates_0 8 rfl rfl)
theorem dX11_differentiates_9 : decode cX11_differentiates 9 = .ok (.iload_n 2, 1) := dk_28 (dk_at dksX11_differentiates_0 9 rfl rfl)
theorem dX11_differentiates_10 : decode cX11_differentiates 10 = .ok (.isub, 1) := dk_100 (dk_at dksX11_differentiates_0 10 rfl rfl)
theorem dX11_differentiates_11 : decode cX11_differentiates 11 = .ok (.iload_n 3, 1) := dk_29 (dk_at dksX11_differentiates_0 11 rfl rfl)
theorem dX11_differentiates_12 : decode cX11_differentiates 12 = .ok (.isub, 1) := dk_100 (dk_at dksX11_differentiates_0 12 rfl rfl)
theorem dX11_differentiates_13 : decode cX11_differentiates 13 = .ok (.invokevirtual 106, 3) := dk_182 0 106 (dk_at dksX11_differentiates_0 13 rfl rfl)
theorem dX11_differentiates_16 : decode cX11_differentiates 16 = .ok (.iload_n 3, 1) := dk_29 (dk_at dksX11_differentiates_0 16 rfl rfl)
theorem dX11_differentiates_17 : decode cX11_differentiates 17 = .ok (.istore 5, 2) := dk_54 5 (dk_at dksX11_differentiates_0 17 rfl rfl)
theorem dX11_differentiates_19 : decode cX11_differentiates 19 = .ok (.iload 5, 2) := dk_21 5 (dk_at dksX11_differentiates_0 19 rfl rfl)
theorem dX11_differentiates_21 : decode cX11_differentiates 21 = .ok (.aload_n 0, 1) := dk_42 (dk_at dksX11_differentiates_0 21 rfl rfl)
theorem dX11_differentiates_22 : decode cX11_differentiates 22 = .ok (.getfield 20, 3) := dk_180 0 20 (dk_at dksX11_differentiates_1 0 rfl rfl)
theorem dX11_differentiates_25 : decode cX11_differentiates 25 = .ok (.iload_n 1, 1) := dk_27 (dk_at dksX11_differentiates_1 3 rfl rfl)
theorem dX11_differentiates_26 : decode cX11_differentiates 26 = .ok (.iaload, 1) := dk_46 (dk_at dksX11_differentiates_1 4 rfl rfl)
theorem dX11_differentiates_27 : decode cX11_differentiates 27 = .ok (.iload_n 2, 1) := dk_28 (dk_at dksX11_differentiates_1 5 rfl rfl)
theorem dX11_differentiates_28 : decode cX11_differentiates 28 = .ok (.isub, 1) := dk_100 (dk_at dksX11_differentiates_1 6 rfl rfl)
theorem dX11_differentiates_29 : decode cX11_differentiates 29 = .ok (.if_icmp .gt 44, 3) := dk_163 0 44 (dk_at dksX11_differentiates_1 7 rfl rfl)
theorem dX11_differentiates_32 : decode cX11_differentiates 32 = .ok (.aload_n 0, 1) := dk_42 (dk_at dksX11_differentiates_1 10 rfl rfl)
theorem dX11_differentiates_33 : decode cX11_differentiates 33 = .ok (.iload 4, 2) := dk_21 4 (dk_at dksX11_differentiates_1 11 rfl rfl)
theorem dX11_differentiates_35 : decode cX11_differentiates 35 = .ok (.iload 5, 2) := dk_21 5 (dk_at dksX11_differentiates_1 13 rfl rfl)
theorem dX11_differentiates_37 : decode cX11_differentiates 37 = .ok (.iload_n 3, 1) := dk_29 (dk_at dksX11_differentiates_1 15 rfl rfl)
theorem dX11_differentiates_38 : decode cX11_differentiates 38 = .ok (.isub, 1) := dk_100 (dk_at dksX11_differentiates_1 16 rfl rfl)
theorem dX11_differentiates_39 : decode cX11_differentiates 39 = .ok (.aload_n 0, 1) := dk_42 (dk_at dksX11_differentiates_1 17 rfl rfl)
theorem dX11_differentiates_40 : decode cX11_differentiates 40 = .ok (.aload_n 0, 1) := dk_42 (dk_at dksX11_differentiates_1 18 rfl rfl)
theorem dX11_differentiates_41 : decode cX11_differentiates 41 = .ok (.iload_n 1, 1) := dk_27 (dk_at dksX11_differentiates_1 19 rfl rfl)
theorem dX11_differentiates_42 : decode cX11_differentiates 42 = .ok (.iload 5, 2) := dk_21 5 (dk_at dksX11_differentiates_1 20 rfl rfl)
theorem dX11_differentiates_44 : decode cX11_differentiates 44 = .ok (.invokevirtual 103, 3) := dk_182 0 103 (dk_at dksX11_differentiates_2 0 rfl rfl)
theorem dX11_differentiates_47 : decode cX11_differentiates 47 = .ok (.aload_n 0, 1) := dk_42 (dk_at dksX11_differentiates_2 3 rfl rfl)
theorem dX11_differentiates_48 : decode cX11_differentiates 48 = .ok (.aload_n 0, 1) := dk_42 (dk_at dksX11_differentiates_2 4 rfl rfl)
theorem dX11_differentiates_49 : decode cX11_differentiates 49 = .ok (.getfield 20, 3) := dk_180 0 20 (dk_at dksX11_differentiates_2 5 rfl rfl)
theorem dX11_differentiates_52 : decode cX11_differentiates 52 = .ok (.iload_n 1, 1) := dk_27 (dk_at dksX11_differentiates_2 8 rfl rfl)
theorem dX11_differentiates_53 : decode cX11_differentiates 53 = .ok (.iaload, 1) := dk_46 (dk_at dksX11_differentiates_2 9 rfl rfl)
theorem dX11_differentiates_54 : decode cX11_differentiates 54 = .ok (.iload 5, 2) := dk_21 5 (dk_at dksX11_differentiates_2 10 rfl rfl)
theorem dX11_differentiates_56 : decode cX11_differentiates 56 = .ok (.iload_n 2, 1) := dk_28 (dk_at dksX11_differentiates_2 12 rfl rfl)
theorem dX11_differentiates_57 : decode cX11_differentiates 57 = .ok (.iload_n 3, 1) := dk_29 (dk_at dksX11_differentiates_2 13 rfl rfl)
theorem dX11_differentiates_58 : decode cX11_differentiates 58 = .ok (.invokevirtual 117, 3) := dk_182 0 117 (dk_at dksX11_differentiates_2 14 rfl rfl)
theorem dX11_differentiates_61 : decode cX11_differentiates 61 = .ok (.invokevirtual 86, 3) := dk_182 0 86 (dk_at dksX11_differentiates_2 17 rfl rfl)
theorem dX11_differentiates_64 : decode cX11_differentiates 64 = .ok (.invokevirtual 99, 3) := dk_182 0 99 (dk_at dksX11_differentiates_2 20 rfl rfl)
theorem dX11_differentiates_67 : decode cX11_differentiates 67 = .ok (.iinc 5 1, 3) := dk_132 5 1 (dk_at dksX11_differentiates_3 0 rfl rfl)
theorem dX11_differentiates_70 : decode cX11_differentiates 70 = .ok (.goto (-51), 3) := dk_167 255 205 (dk_at dksX11_differentiates_3 3 rfl rfl)
theorem dX11_differentiates_73 : decode cX11_differentiates 73 = .ok (.return_, 1) := dk_177 (dk_at dksX11_differentiates_3 6 rfl rfl)
abbrev cX11_differs : ByteArray := prog_18_method_29_code
def yX11_differs : MethodName := ⟨RX11, "differs", "(IIII)I"⟩
def dkwX11_differs_3 : List UInt8 := [21, 5, 172]
abbrev dktX11_differs_3 : List UInt8 := dkwX11_differs_3 ++ []
def dkwX11_differs_2 : List UInt8 := [42, 21, 5, 42, 28, 21, 6, 100, 133, 182, 0, 113, 182, 0, 86, 54, 5, 132, 6, 1, 167, 255, 229]
abbrev dktX11_differs_2 : List UInt8 := dkwX11_differs_2 ++ dktX11_differs_3
def dkwX11_differs_1 : List UInt8 := [182, 0, 113, 182, 0, 86, 54, 5, 132, 6, 1, 167, 255, 228, 3, 54, 6, 21, 6, 21, 4, 162, 0, 26]
abbrev dktX11_differs_1 : List UInt8 := dkwX11_differs_1 ++ dktX11_differs_2
def dkwX11_differs_0 : List UInt8 := [4, 54, 5, 3, 54, 6, 21, 6, 29, 162, 0, 28, 42, 21, 5, 42, 27, 28, 100, 21, 6, 100, 133]
abbrev dktX11_differs_0 : List UInt8 := dkwX11_differs_0 ++ dktX11_differs_1
theorem dksX11_differs_0 : cX11_differs.data.toList.drop 0 = dktX11_differs_0 := by decide +kernel
theorem dksX11_differs_1 : cX11_differs.data.toList.drop 23 = dktX11_differs_1 := dk_seg dksX11_differs_0 23 rfl rfl
theorem dksX11_differs_2 : cX11_differs.data.toList.drop 47 = dktX11_differs_2 := dk_seg dksX11_differs_1 24 rfl rfl
theorem dksX11_differs_3 : cX11_differs.data.toList.drop 70 = dktX11_differs_3 := dk_seg dksX11_differs_2 23 rfl rfl
theorem dX11_differs_0 : decode cX11_differs 0 = .ok (.iconst 1, 1) := dk_4 (dk_at dksX11_differs_0 0 rfl rfl)
theorem dX11_differs_1 : decode cX11_differs 1 = .ok (.istore 5, 2) := dk_54 5 (dk_at dksX11_differs_0 1 rfl rfl)
theorem dX11_differs_3 : decode cX11_differs 3 = .ok (.iconst 0, 1) := dk_3 (dk_at dksX11_differs_0 3 rfl rfl)
theorem dX11_differs_4 : decode cX11_differs 4 = .ok (.istore 6, 2) := dk_54 6 (dk_at dksX11_differs_0 4 rfl rfl)
theorem dX11_differs_6 : decode cX11_differs 6 = .ok (.iload 6, 2) := dk_21 6 (dk_at dksX11_differs_0 6 rfl rfl)
theorem dX11_differs_8 : decode cX11_differs 8 = .ok (.iload_n 3, 1) := dk_29 (dk_at dksX11_differs_0 8 rfl rfl)
theorem dX11_differs_9 : decode cX11_differs 9 = .ok (.if_icmp .ge 28, 3) := dk_162 0 28 (dk_at dksX11_differs_0 9 rfl rfl)
theorem dX11_differs_12 : decode cX11_differs 12 = .ok (.aload_n 0, 1) := dk_42 (dk_at dksX11_differs_0 12 rfl rfl)
theorem dX11_differs_13 : decode cX11_differs 13 = .ok (.iload 5, 2) := dk_21 5 (dk_at dksX11_differs_0 13 rfl rfl)
theorem dX11_differs_15 : decode cX11_differs 15 = .ok (.aload_n 0, 1) := dk_42 (dk_at dksX11_differs_0 15 rfl rfl)
theorem dX11_differs_16 : decode cX11_differs 16 = .ok (.iload_n 1, 1) := dk_27 (dk_at dksX11_differs_0 16 rfl rfl)
theorem dX11_differs_17 : decode cX11_differs 17 = .ok (.iload_n 2, 1) := dk_28 (dk_at dksX11_differs_0 17 rfl rfl)
theorem dX11_differs_18 : decode cX11_differs 18 = .ok (.isub, 1) := dk_100 (dk_at dksX11_differs_0 18 rfl rfl)
theorem dX11_differs_19 : decode cX11_differs 19 = .ok (.iload 6, 2) := dk_21 6 (dk_at dksX11_differs_0 19 rfl rfl)
theorem dX11_differs_21 : decode cX11_differs 21 = .ok (.isub, 1) := dk_100 (dk_at dksX11_differs_0 21 rfl rfl)
theorem dX11_differs_22 : decode cX11_differs 22 = .ok (.i2l, 1) := dk_133 (dk_at dksX11_differs_0 22 rfl rfl)
theorem dX11_differs_23 : decode cX11_differs 23 = .ok (.invokevirtual 113, 3) := dk_182 0 113 (dk_at dksX11_differs_1 0 rfl rfl)
theorem dX11_differs_26 : decode cX11_differs 26 = .ok (.invokevirtual 86, 3) := dk_182 0 86 (dk_at dksX11_differs_1 3 rfl rfl)
theorem dX11_differs_29 : decode cX11_differs 29 = .ok (.istore 5, 2) := dk_54 5 (dk_at dksX11_differs_1 6 rfl rfl)
theorem dX11_differs_31 : decode cX11_differs 31 = .ok (.iinc 6 1, 3) := dk_132 6 1 (dk_at dksX11_differs_1 8 rfl rfl)
theorem dX11_differs_34 : decode cX11_differs 34 = .ok (.goto (-28), 3) := dk_167 255 228 (dk_at dksX11_differs_1 11 rfl rfl)
theorem dX11_differs_37 : decode cX11_differs 37 = .ok (.iconst 0, 1) := dk_3 (dk_at dksX11_differs_1 14 rfl rfl)
theorem dX11_differs_38 : decode cX11_differs 38 = .ok (.istore 6, 2) := dk_54 6 (dk_at dksX11_differs_1 15 rfl rfl)
theorem dX11_differs_40 : decode cX11_differs 40 = .ok (.iload 6, 2) := dk_21 6 (dk_at dksX11_differs_1 17 rfl rfl)
theorem dX11_differs_42 : decode cX11_differs 42 = .ok (.iload 4, 2) := dk_21 4 (dk_at dksX11_differs_1 19 rfl rfl)
theorem dX11_differs_44 : decode cX11_differs 44 = .ok (.if_icmp .ge 26, 3) := dk_162 0 26 (dk_at dksX11_differs_1 21 rfl rfl)
theorem dX11_differs_47 : decode cX11_differs 47 = .ok (.aload_n 0, 1) := dk_42 (dk_at dksX11_differs_2 0 rfl rfl)
theorem dX11_differs_48 : decode cX11_differs 48 = .ok (.iload 5, 2) := dk_21 5 (dk_at dksX11_differs_2 1 rfl rfl)
theorem dX11_differs_50 : decode cX11_differs 50 = .ok (.aload_n 0, 1) := dk_42 (dk_at dksX11_differs_2 3 rfl rfl)
theorem dX11_differs_51 : decode cX11_differs 51 = .ok (.iload_n 2, 1) := dk_28 (dk_at dksX11_differs_2 4 rfl rfl)
theorem dX11_differs_52 : decode cX11_differs 52 = .ok (.iload 6, 2) := dk_21 6 (dk_at dksX11_differs_2 5 rfl rfl)
theorem dX11_differs_54 : decode cX11_differs 54 = .ok (.isub, 1) := dk_100 (dk_at dksX11_differs_2 7 rfl rfl)
theorem dX11_differs_55 : decode cX11_differs 55 = .ok (.i2l, 1) := dk_133 (dk_at dksX11_differs_2 8 rfl rfl)
theorem dX11_differs_56 : decode cX11_differs 56 = .ok (.invokevirtual 113, 3) := dk_182 0 113 (dk_at dksX11_differs_2 9 rfl rfl)
theorem dX11_differs_59 : decode cX11_differs 59 = .ok (.invokevirtual 86, 3) := dk_182 0 86 (dk_at dksX11_differs_2 12 rfl rfl)
theorem dX11_differs_62 : decode cX11_differs 62 = .ok (.istore 5, 2) := dk_54 5 (dk_at dksX11_differs_2 15 rfl rfl)
theorem dX11_differs_64 : decode cX11_differs 64 = .ok (.iinc 6 1, 3) := dk_132 6 1 (dk_at dksX11_differs_2 17 rfl rfl)
theorem dX11_differs_67 : decode cX11_differs 67 = .ok (.goto (-27), 3) := dk_167 255 229 (dk_at dksX11_differs_2 20 rfl rfl)
theorem dX11_differs_70 : decode cX11_differs 70 = .ok (.iload 5, 2) := dk_21 5 (dk_at dksX11_differs_3 0 rfl rfl)
theorem dX11_differs_72 : decode cX11_differs 72 = .ok (.ireturn, 1) := dk_172 (dk_at dksX11_differs_3 2 rfl rfl)
abbrev cX11_over : ByteArray := prog_18_method_31_code
def yX11_over : MethodName := ⟨RX11, "over", "(II)I"⟩
def dkwX11_over_1 : List UInt8 := [167, 255, 238, 28, 172]
abbrev dktX11_over_1 : List UInt8 := dkwX11_over_1 ++ []
def dkwX11_over_0 : List UInt8 := [4, 61, 4, 62, 29, 27, 163, 0, 19, 28, 26, 27, 100, 29, 96, 104, 29, 108, 61, 132, 3, 1]
abbrev dktX11_over_0 : List UInt8 := dkwX11_over_0 ++ dktX11_over_1
theorem dksX11_over_0 : cX11_over.data.toList.drop 0 = dktX11_over_0 := by decide +kernel
theorem dksX11_over_1 : cX11_over.data.toList.drop 22 = dktX11_over_1 := dk_seg dksX11_over_0 22 rfl rfl
theorem dX11_over_0 : decode cX11_over 0 = .ok (.iconst 1, 1) := dk_4 (dk_at dksX11_over_0 0 rfl rfl)
theorem dX11_over_1 : decode cX11_over 1 = .ok (.istore_n 2, 1) := dk_61 (dk_at dksX11_over_0 1 rfl rfl)
theorem dX11_over_2 : decode cX11_over 2 = .ok (.iconst 1, 1) := dk_4 (dk_at dksX11_over_0 2 rfl rfl)
theorem dX11_over_3 : decode cX11_over 3 = .ok (.istore_n 3, 1) := dk_62 (dk_at dksX11_over_0 3 rfl rfl)
theorem dX11_over_4 : decode cX11_over 4 = .ok (.iload_n 3, 1) := dk_29 (dk_at dksX11_over_0 4 rfl rfl)
theorem dX11_over_5 : decode cX11_over 5 = .ok (.iload_n 1, 1) := dk_27 (dk_at dksX11_over_0 5 rfl rfl)
theorem dX11_over_6 : decode cX11_over 6 = .ok (.if_icmp .gt 19, 3) := dk_163 0 19 (dk_at dksX11_over_0 6 rfl rfl)
theorem dX11_over_9 : decode cX11_over 9 = .ok (.iload_n 2, 1) := dk_28 (dk_at dksX11_over_0 9 rfl rfl)
theorem dX11_over_10 : decode cX11_over 10 = .ok (.iload_n 0, 1) := dk_26 (dk_at dksX11_over_0 10 rfl rfl)
theorem dX11_over_11 : decode cX11_over 11 = .ok (.iload_n 1, 1) := dk_27 (dk_at dksX11_over_0 11 rfl rfl)
theorem dX11_over_12 : decode cX11_over 12 = .ok (.isub, 1) := dk_100 (dk_at dksX11_over_0 12 rfl rfl)
theorem dX11_over_13 : decode cX11_over 13 = .ok (.iload_n 3, 1) := dk_29 (dk_at dksX11_over_0 13 rfl rfl)
theorem dX11_over_14 : decode cX11_over 14 = .ok (.iadd, 1) := dk_96 (dk_at dksX11_over_0 14 rfl rfl)
theorem dX11_over_15 : decode cX11_over 15 = .ok (.imul, 1) := dk_104 (dk_at dksX11_over_0 15 rfl rfl)
theorem dX11_over_16 : decode cX11_over 16 = .ok (.iload_n 3, 1) := dk_29 (dk_at dksX11_over_0 16 rfl rfl)
theorem dX11_over_17 : decode cX11_over 17 = .ok (.idiv, 1) := dk_108 (dk_at dksX11_over_0 17 rfl rfl)
theorem dX11_over_18 : decode cX11_over 18 = .ok (.istore_n 2, 1) := dk_61 (dk_at dksX11_over_0 18 rfl rfl)
theorem dX11_over_19 : decode cX11_over 19 = .ok (.iinc 3 1, 3) := dk_132 3 1 (dk_at dksX11_over_0 19 rfl rfl)
theorem dX11_over_22 : decode cX11_over 22 = .ok (.goto (-18), 3) := dk_167 255 238 (dk_at dksX11_over_1 0 rfl rfl)
theorem dX11_over_25 : decode cX11_over 25 = .ok (.iload_n 2, 1) := dk_28 (dk_at dksX11_over_1 3 rfl rfl)
theorem dX11_over_26 : decode cX11_over 26 = .ok (.ireturn, 1) := dk_172 (dk_at dksX11_over_1 4 rfl rfl)
abbrev cX11_rank : ByteArray := prog_18_method_78_code
def yX11_rank : MethodName := ⟨RX11, "rank", "(IZ)I"⟩
def dkwX11_rank_1 : List UInt8 := [28, 182, 1, 30, 172]
abbrev dktX11_rank_1 : List UInt8 := dkwX11_rank_1 ++ []
def dkwX11_rank_0 : List UInt8 := [42, 3, 181, 0, 3, 42, 42, 27, 182, 1, 24, 4, 182, 0, 215, 153, 0, 7, 3, 167, 0, 9, 42, 27]
abbrev dktX11_rank_0 : List UInt8 := dkwX11_rank_0 ++ dktX11_rank_1
theorem dksX11_rank_0 : cX11_rank.data.toList.drop 0 = dktX11_rank_0 := by decide +kernel
theorem dksX11_rank_1 : cX11_rank.data.toList.drop 24 = dktX11_rank_1 := dk_seg dksX11_rank_0 24 rfl rfl
theorem dX11_rank_0 : decode cX11_rank 0 = .ok (.aload_n 0, 1) := dk_42 (dk_at dksX11_rank_0 0 rfl rfl)
theorem dX11_rank_1 : decode cX11_rank 1 = .ok (.iconst 0, 1) := dk_3 (dk_at dksX11_rank_0 1 rfl rfl)
theorem dX11_rank_2 : decode cX11_rank 2 = .ok (.putfield 3, 3) := dk_181 0 3 (dk_at dksX11_rank_0 2 rfl rfl)
theorem dX11_rank_5 : decode cX11_rank 5 = .ok (.aload_n 0, 1) := dk_42 (dk_at dksX11_rank_0 5 rfl rfl)
theorem dX11_rank_6 : decode cX11_rank 6 = .ok (.aload_n 0, 1) := dk_42 (dk_at dksX11_rank_0 6 rfl rfl)
theorem dX11_rank_7 : decode cX11_rank 7 = .ok (.iload_n 1, 1) := dk_27 (dk_at dksX11_rank_0 7 rfl rfl)
theorem dX11_rank_8 : decode cX11_rank 8 = .ok (.invokevirtual 280, 3) := dk_182 1 24 (dk_at dksX11_rank_0 8 rfl rfl)
theorem dX11_rank_11 : decode cX11_rank 11 = .ok (.iconst 1, 1) := dk_4 (dk_at dksX11_rank_0 11 rfl rfl)
theorem dX11_rank_12 : decode cX11_rank 12 = .ok (.invokevirtual 215, 3) := dk_182 0 215 (dk_at dksX11_rank_0 12 rfl rfl)
theorem dX11_rank_15 : decode cX11_rank 15 = .ok (.ifCond .eq 7, 3) := dk_153 0 7 (dk_at dksX11_rank_0 15 rfl rfl)
theorem dX11_rank_18 : decode cX11_rank 18 = .ok (.iconst 0, 1) := dk_3 (dk_at dksX11_rank_0 18 rfl rfl)
theorem dX11_rank_19 : decode cX11_rank 19 = .ok (.goto 9, 3) := dk_167 0 9 (dk_at dksX11_rank_0 19 rfl rfl)
theorem dX11_rank_22 : decode cX11_rank 22 = .ok (.aload_n 0, 1) := dk_42 (dk_at dksX11_rank_0 22 rfl rfl)
theorem dX11_rank_23 : decode cX11_rank 23 = .ok (.iload_n 1, 1) := dk_27 (dk_at dksX11_rank_0 23 rfl rfl)
theorem dX11_rank_24 : decode cX11_rank 24 = .ok (.iload_n 2, 1) := dk_28 (dk_at dksX11_rank_1 0 rfl rfl)
theorem dX11_rank_25 : decode cX11_rank 25 = .ok (.invokevirtual 286, 3) := dk_182 1 30 (dk_at dksX11_rank_1 1 rfl rfl)
theorem dX11_rank_28 : decode cX11_rank 28 = .ok (.ireturn, 1) := dk_172 (dk_at dksX11_rank_1 4 rfl rfl)
abbrev cX11_rankOf : ByteArray := prog_18_method_77_code
def yX11_rankOf : MethodName := ⟨RX11, "rankOf", "(IZ)I"⟩
def dkwX11_rankOf_7 : List UInt8 := [132, 4, 1, 167, 255, 90, 42, 180, 0, 36, 3, 46, 172]
abbrev dktX11_rankOf_7 : List UInt8 := dkwX11_rankOf_7 ++ []
def dkwX11_rankOf_6 : List UInt8 := [96, 28, 153, 0, 19, 21, 5, 7, 160, 0, 13, 42, 27, 21, 4, 182, 1, 14, 167, 0, 4, 3, 96, 79]
abbrev dktX11_rankOf_6 : List UInt8 := dkwX11_rankOf_6 ++ dktX11_rankOf_7
def dkwX11_rankOf_5 : List UInt8 := [21, 8, 153, 0, 7, 2, 167, 0, 41, 21, 5, 5, 160, 0, 8, 21, 6, 167, 0, 30, 21, 6, 21, 7]
abbrev dktX11_rankOf_5 : List UInt8 := dkwX11_rankOf_5 ++ dktX11_rankOf_6
def dkwX11_rankOf_4 : List UInt8 := [160, 0, 14, 21, 6, 21, 7, 159, 0, 7, 4, 167, 0, 4, 3, 54, 8, 42, 180, 0, 36, 29, 4, 100]
abbrev dktX11_rankOf_4 : List UInt8 := dkwX11_rankOf_4 ++ dktX11_rankOf_5
def dkwX11_rankOf_3 : List UInt8 := [46, 54, 6, 42, 180, 0, 36, 29, 46, 54, 7, 21, 6, 155, 0, 21, 21, 7, 155, 0, 16, 21, 5, 5]
abbrev dktX11_rankOf_3 : List UInt8 := dkwX11_rankOf_3 ++ dktX11_rankOf_4
def dkwX11_rankOf_2 : List UInt8 := [3, 79, 132, 3, 1, 167, 0, 115, 21, 5, 8, 159, 0, 109, 132, 3, 255, 42, 180, 0, 36, 29, 4, 100]
abbrev dktX11_rankOf_2 : List UInt8 := dkwX11_rankOf_2 ++ dktX11_rankOf_3
def dkwX11_rankOf_1 : List UInt8 := [21, 5, 4, 163, 0, 29, 42, 180, 0, 36, 29, 21, 5, 154, 0, 11, 28, 154, 0, 7, 4, 167, 0, 4]
abbrev dktX11_rankOf_1 : List UInt8 := dkwX11_rankOf_1 ++ dktX11_rankOf_2
def dkwX11_rankOf_0 : List UInt8 := [3, 62, 3, 54, 4, 21, 4, 42, 27, 182, 1, 5, 162, 0, 162, 42, 27, 21, 4, 182, 1, 8, 54, 5]
abbrev dktX11_rankOf_0 : List UInt8 := dkwX11_rankOf_0 ++ dktX11_rankOf_1
theorem dksX11_rankOf_0 : cX11_rankOf.data.toList.drop 0 = dktX11_rankOf_0 := by decide +kernel
theorem dksX11_rankOf_1 : cX11_rankOf.data.toList.drop 24 = dktX11_rankOf_1 := dk_seg dksX11_rankOf_0 24 rfl rfl
theorem dksX11_rankOf_2 : cX11_rankOf.data.toList.drop 48 = dktX11_rankOf_2 := dk_seg dksX11_rankOf_1 24 rfl rfl
theorem dksX11_rankOf_3 : cX11_rankOf.data.toList.drop 72 = dktX11_rankOf_3 := dk_seg dksX11_rankOf_2 24 rfl rfl
theorem dksX11_rankOf_4 : cX11_rankOf.data.toList.drop 96 = dktX11_rankOf_4 := dk_seg dksX11_rankOf_3 24 rfl rfl
theorem dksX11_rankOf_5 : cX11_rankOf.data.toList.drop 120 = dktX11_rankOf_5 := dk_seg dksX11_rankOf_4 24 rfl rfl
theorem dksX11_rankOf_6 : cX11_rankOf.data.toList.drop 144 = dktX11_rankOf_6 := dk_seg dksX11_rankOf_5 24 rfl rfl
theorem dksX11_rankOf_7 : cX11_rankOf.data.toList.drop 168 = dktX11_rankOf_7 := dk_seg dksX11_rankOf_6 24 rfl rfl
theorem dX11_rankOf_0 : decode cX11_rankOf 0 = .ok (.iconst 0, 1) := dk_3 (dk_at dksX11_rankOf_0 0 rfl rfl)
theorem dX11_rankOf_1 : decode cX11_rankOf 1 = .ok (.istore_n 3, 1) := dk_62 (dk_at dksX11_rankOf_0 1 rfl rfl)
theorem dX11_rankOf_2 : decode cX11_rankOf 2 = .ok (.iconst 0, 1) := dk_3 (dk_at dksX11_rankOf_0 2 rfl rfl)
theorem dX11_rankOf_3 : decode cX11_rankOf 3 = .ok (.istore 4, 2) := dk_54 4 (dk_at dksX11_rankOf_0 3 rfl rfl)
theorem dX11_rankOf_5 : decode cX11_rankOf 5 = .ok (.iload 4, 2) := dk_21 4 (dk_at dksX11_rankOf_0 5 rfl rfl)
theorem dX11_rankOf_7 : decode cX11_rankOf 7 = .ok (.aload_n 0, 1) := dk_42 (dk_at dksX11_rankOf_0 7 rfl rfl)
theorem dX11_rankOf_8 : decode cX11_rankOf 8 = .ok (.iload_n 1, 1) := dk_27 (dk_at dksX11_rankOf_0 8 rfl rfl)
theorem dX11_rankOf_9 : decode cX11_rankOf 9 = .ok (.invokevirtual 261, 3) := dk_182 1 5 (dk_at dksX11_rankOf_0 9 rfl rfl)
theorem dX11_rankOf_12 : decode cX11_rankOf 12 = .ok (.if_icmp .ge 162, 3) := dk_162 0 162 (dk_at dksX11_rankOf_0 12 rfl rfl)
theorem dX11_rankOf_15 : decode cX11_rankOf 15 = .ok (.aload_n 0, 1) := dk_42 (dk_at dksX11_rankOf_0 15 rfl rfl)
theorem dX11_rankOf_16 : decode cX11_rankOf 16 = .ok (.iload_n 1, 1) := dk_27 (dk_at dksX11_rankOf_0 16 rfl rfl)
theorem dX11_rankOf_17 : decode cX11_rankOf 17 = .ok (.iload 4, 2) := dk_21 4 (dk_at dksX11_rankOf_0 17 rfl rfl)
theorem dX11_rankOf_19 : decode cX11_rankOf 19 = .ok (.invokevirtual 264, 3) := dk_182 1 8 (dk_at dksX11_rankOf_0 19 rfl rfl)
theorem dX11_rankOf_22 : decode cX11_rankOf 22 = .ok (.istore 5, 2) := dk_54 5 (dk_at dksX11_rankOf_0 22 rfl rfl)
theorem dX11_rankOf_24 : decode cX11_rankOf 24 = .ok (.iload 5, 2) := dk_21 5 (dk_at dksX11_rankOf_1 0 rfl rfl)
theorem dX11_rankOf_26 : decode cX11_rankOf 26 = .ok (.iconst 1, 1) := dk_4 (dk_at dksX11_rankOf_1 2 rfl rfl)
theorem dX11_rankOf_27 : decode cX11_rankOf 27 = .ok (.if_icmp .gt 29, 3) := dk_163 0 29 (dk_at dksX11_rankOf_1 3 rfl rfl)
theorem dX11_rankOf_30 : decode cX11_rankOf 30 = .ok (.aload_n 0, 1) := dk_42 (dk_at dksX11_rankOf_1 6 rfl rfl)
theorem dX11_rankOf_31 : decode cX11_rankOf 31 = .ok (.getfield 36, 3) := dk_180 0 36 (dk_at dksX11_rankOf_1 7 rfl rfl)
theorem dX11_rankOf_34 : decode cX11_rankOf 34 = .ok (.iload_n 3, 1) := dk_29 (dk_at dksX11_rankOf_1 10 rfl rfl)
theorem dX11_rankOf_35 : decode cX11_rankOf 35 = .ok (.iload 5, 2) := dk_21 5 (dk_at dksX11_rankOf_1 11 rfl rfl)
theorem dX11_rankOf_37 : decode cX11_rankOf 37 = .ok (.ifCond .ne 11, 3) := dk_154 0 11 (dk_at dksX11_rankOf_1 13 rfl rfl)
theorem dX11_rankOf_40 : decode cX11_rankOf 40 = .ok (.iload_n 2, 1) := dk_28 (dk_at dksX11_rankOf_1 16 rfl rfl)
theorem dX11_rankOf_41 : decode cX11_rankOf 41 = .ok (.ifCond .ne 7, 3) := dk_154 0 7 (dk_at dksX11_rankOf_1 17 rfl rfl)
theorem dX11_rankOf_44 : decode cX11_rankOf 44 = .ok (.iconst 1, 1) := dk_4 (dk_at dksX11_rankOf_1 20 rfl rfl)
theorem dX11_rankOf_45 : decode cX11_rankOf 45 = .ok (.goto 4, 3) := dk_167 0 4 (dk_at dksX11_rankOf_1 21 rfl rfl)
theorem dX11_rankOf_48 : decode cX11_rankOf 48 = .ok (.iconst 0, 1) := dk_3 (dk_at dksX11_rankOf_2 0 rfl rfl)
theorem dX11_rankOf_49 : decode cX11_rankOf 49 = .ok (.iastore, 1) := dk_79 (dk_at dksX11_rankOf_2 1 rfl rfl)
theorem dX11_rankOf_50 : decode cX11_rankOf 50 = .ok (.iinc 3 1, 3) := dk_132 3 1 (dk_at dksX11_rankOf_2 2 rfl rfl)
theorem dX11_rankOf_53 : decode cX11_rankOf 53 = .ok (.goto 115, 3) := dk_167 0 115 (dk_at dksX11_rankOf_2 5 rfl rfl)
theorem dX11_rankOf_56 : decode cX11_rankOf 56 = .ok (.iload 5, 2) := dk_21 5 (dk_at dksX11_rankOf_2 8 rfl rfl)
theorem dX11_rankOf_58 : decode cX11_rankOf 58 = .ok (.iconst 5, 1) := dk_8 (dk_at dksX11_rankOf_2 10 rfl rfl)
theorem dX11_rankOf_59 : decode cX11_rankOf 59 = .ok (.if_icmp .eq 109, 3) := dk_159 0 109 (dk_at dksX11_rankOf_2 11 rfl rfl)
theorem dX11_rankOf_62 : decode cX11_rankOf 62 = .ok (.iinc 3 (-1), 3) := dk_132 3 255 (dk_at dksX11_rankOf_2 14 rfl rfl)
theorem dX11_rankOf_65 : decode cX11_rankOf 65 = .ok (.aload_n 0, 1) := dk_42 (dk_at dksX11_rankOf_2 17 rfl rfl)
theorem dX11_rankOf_66 : decode cX11_rankOf 66 = .ok (.getfield 36, 3) := dk_180 0 36 (dk_at dksX11_rankOf_2 18 rfl rfl)
theorem dX11_rankOf_69 : decode cX11_rankOf 69 = .ok (.iload_n 3, 1) := dk_29 (dk_at dksX11_rankOf_2 21 rfl rfl)
theorem dX11_rankOf_70 : decode cX11_rankOf 70 = .ok (.iconst 1, 1) := dk_4 (dk_at dksX11_rankOf_2 22 rfl rfl)
theorem dX11_rankOf_71 : decode cX11_rankOf 71 = .ok (.isub, 1) := dk_100 (dk_at dksX11_rankOf_2 23 rfl rfl)
theorem dX11_rankOf_72 : decode cX11_rankOf 72 = .ok (.iaload, 1) := dk_46 (dk_at dksX11_rankOf_3 0 rfl rfl)
theorem dX11_rankOf_73 : decode cX11_rankOf 73 = .ok (.istore 6, 2) := dk_54 6 (dk_at dksX11_rankOf_3 1 rfl rfl)
theorem dX11_rankOf_75 : decode cX11_rankOf 75 = .ok (.aload_n 0, 1) := dk_42 (dk_at dksX11_rankOf_3 3 rfl rfl)
theorem dX11_rankOf_76 : decode cX11_rankOf 76 = .ok (.getfield 36, 3) := dk_180 0 36 (dk_at dksX11_rankOf_3 4 rfl rfl)
theorem dX11_rankOf_79 : decode cX11_rankOf 79 = .ok (.iload_n 3, 1) := dk_29 (dk_at dksX11_rankOf_3 7 rfl rfl)
theorem dX11_rankOf_80 : decode cX11_rankOf 80 = .ok (.iaload, 1) := dk_46 (dk_at dksX11_rankOf_3 8 rfl rfl)
theorem dX11_rankOf_81 : decode cX11_rankOf 81 = .ok (.istore 7, 2) := dk_54 7 (dk_at dksX11_rankOf_3 9 rfl rfl)
theorem dX11_rankOf_83 : decode cX11_rankOf 83 = .ok (.iload 6, 2) := dk_21 6 (dk_at dksX11_rankOf_3 11 rfl rfl)
theorem dX11_rankOf_85 : decode cX11_rankOf 85 = .ok (.ifCond .lt 21, 3) := dk_155 0 21 (dk_at dksX11_rankOf_3 13 rfl rfl)
theorem dX11_rankOf_88 : decode cX11_rankOf 88 = .ok (.iload 7, 2) := dk_21 7 (dk_at dksX11_rankOf_3 16 rfl rfl)
theorem dX11_rankOf_90 : decode cX11_rankOf 90 = .ok (.ifCond .lt 16, 3) := dk_155 0 16 (dk_at dksX11_rankOf_3 18 rfl rfl)
theorem dX11_rankOf_93 : decode cX11_rankOf 93 = .ok (.iload 5, 2) := dk_21 5 (dk_at dksX11_rankOf_3 21 rfl rfl)
theorem dX11_rankOf_95 : decode cX11_rankOf 95 = .ok (.iconst 2, 1) := dk_5 (dk_at dksX11_rankOf_3 23 rfl rfl)
theorem dX11_rankOf_96 : decode cX11_rankOf 96 = .ok (.if_icmp .ne 14, 3) := dk_160 0 14 (dk_at dksX11_rankOf_4 0 rfl rfl)
theorem dX11_rankOf_99 : decode cX11_rankOf 99 = .ok (.iload 6, 2) := dk_21 6 (dk_at dksX11_rankOf_4 3 rfl rfl)
theorem dX11_rankOf_101 : decode cX11_rankOf 101 = .ok (.iload 7, 2) := dk_21 7 (dk_at dksX11_rankOf_4 5 rfl rfl)
theorem dX11_rankOf_103 : decode cX11_rankOf 103 = .ok (.if_icmp .eq 7, 3) := dk_159 0 7 (dk_at dksX11_rankOf_4 7 rfl rfl)
theorem dX11_rankOf_106 : decode cX11_rankOf 106 = .ok (.iconst 1, 1) := dk_4 (dk_at dksX11_rankOf_4 10 rfl rfl)
theorem dX11_rankOf_107 : decode cX11_rankOf 107 = .ok (.goto 4, 3) := dk_167 0 4 (dk_at dksX11_rankOf_4 11 rfl rfl)
theorem dX11_rankOf_110 : decode cX11_rankOf 110 = .ok (.iconst 0, 1) := dk_3 (dk_at dksX11_rankOf_4 14 rfl rfl)
theorem dX11_rankOf_111 : decode cX11_rankOf 111 = .ok (.istore 8, 2) := dk_54 8 (dk_at dksX11_rankOf_4 15 rfl rfl)
theorem dX11_rankOf_113 : decode cX11_rankOf 113 = .ok (.aload_n 0, 1) := dk_42 (dk_at dksX11_rankOf_4 17 rfl rfl)
theorem dX11_rankOf_114 : decode cX11_rankOf 114 = .ok (.getfield 36, 3) := dk_180 0 36 (dk_at dksX11_rankOf_4 18 rfl rfl)
theorem dX11_rankOf_117 : decode cX11_rankOf 117 = .ok (.iload_n 3, 1) := dk_29 (dk_at dksX11_rankOf_4 21 rfl rfl)
theorem dX11_rankOf_118 : decode cX11_rankOf 118 = .ok (.iconst 1, 1) := dk_4 (dk_at dksX11_rankOf_4 22 rfl rfl)
theorem dX11_rankOf_119 : decode cX11_rankOf 119 = .ok (.isub, 1) := dk_100 (dk_at dksX11_rankOf_4 23 rfl rfl)
theorem dX11_rankOf_120 : decode cX11_rankOf 120 = .ok (.iload 8, 2) := dk_21 8 (dk_at dksX11_rankOf_5 0 rfl rfl)
theorem dX11_rankOf_122 : decode cX11_rankOf 122 = .ok (.ifCond .eq 7, 3) := dk_153 0 7 (dk_at dksX11_rankOf_5 2 rfl rfl)
theorem dX11_rankOf_125 : decode cX11_rankOf 125 = .ok (.iconst (-1), 1) := dk_2 (dk_at dksX11_rankOf_5 5 rfl rfl)
theorem dX11_rankOf_126 : decode cX11_rankOf 126 = .ok (.goto 41, 3) := dk_167 0 41 (dk_at dksX11_rankOf_5 6 rfl rfl)
theorem dX11_rankOf_129 : decode cX11_rankOf 129 = .ok (.iload 5, 2) := dk_21 5 (dk_at dksX11_rankOf_5 9 rfl rfl)
theorem dX11_rankOf_131 : decode cX11_rankOf 131 = .ok (.iconst 2, 1) := dk_5 (dk_at dksX11_rankOf_5 11 rfl rfl)
theorem dX11_rankOf_132 : decode cX11_rankOf 132 = .ok (.if_icmp .ne 8, 3) := dk_160 0 8 (dk_at dksX11_rankOf_5 12 rfl rfl)
theorem dX11_rankOf_135 : decode cX11_rankOf 135 = .ok (.iload 6, 2) := dk_21 6 (dk_at dksX11_rankOf_5 15 rfl rfl)
theorem dX11_rankOf_137 : decode cX11_rankOf 137 = .ok (.goto 30, 3) := dk_167 0 30 (dk_at dksX11_rankOf_5 17 rfl rfl)
theorem dX11_rankOf_140 : decode cX11_rankOf 140 = .ok (.iload 6, 2) := dk_21 6 (dk_at dksX11_rankOf_5 20 rfl rfl)
theorem dX11_rankOf_142 : decode cX11_rankOf 142 = .ok (.iload 7, 2) := dk_21 7 (dk_at dksX11_rankOf_5 22 rfl rfl)
theorem dX11_rankOf_144 : decode cX11_rankOf 144 = .ok (.iadd, 1) := dk_96 (dk_at dksX11_rankOf_6 0 rfl rfl)
theorem dX11_rankOf_145 : decode cX11_rankOf 145 = .ok (.iload_n 2, 1) := dk_28 (dk_at dksX11_rankOf_6 1 rfl rfl)
theorem dX11_rankOf_146 : decode cX11_rankOf 146 = .ok (.ifCond .eq 19, 3) := dk_153 0 19 (dk_at dksX11_rankOf_6 2 rfl rfl)
theorem dX11_rankOf_149 : decode cX11_rankOf 149 = .ok (.iload 5, 2) := dk_21 5 (dk_at dksX11_rankOf_6 5 rfl rfl)
theorem dX11_rankOf_151 : decode cX11_rankOf 151 = .ok (.iconst 4, 1) := dk_7 (dk_at dksX11_rankOf_6 7 rfl rfl)
theorem dX11_rankOf_152 : decode cX11_rankOf 152 = .ok (.if_icmp .ne 13, 3) := dk_160 0 13 (dk_at dksX11_rankOf_6 8 rfl rfl)
theorem dX11_rankOf_155 : decode cX11_rankOf 155 = .ok (.aload_n 0, 1) := dk_42 (dk_at dksX11_rankOf_6 11 rfl rfl)
theorem dX11_rankOf_156 : decode cX11_rankOf 156 = .ok (.iload_n 1, 1) := dk_27 (dk_at dksX11_rankOf_6 12 rfl rfl)
theorem dX11_rankOf_157 : decode cX11_rankOf 157 = .ok (.iload 4, 2) := dk_21 4 (dk_at dksX11_rankOf_6 13 rfl rfl)
theorem dX11_rankOf_159 : decode cX11_rankOf 159 = .ok (.invokevirtual 270, 3) := dk_182 1 14 (dk_at dksX11_rankOf_6 15 rfl rfl)
theorem dX11_rankOf_162 : decode cX11_rankOf 162 = .ok (.goto 4, 3) := dk_167 0 4 (dk_at dksX11_rankOf_6 18 rfl rfl)
theorem dX11_rankOf_165 : decode cX11_rankOf 165 = .ok (.iconst 0, 1) := dk_3 (dk_at dksX11_rankOf_6 21 rfl rfl)
theorem dX11_rankOf_166 : decode cX11_rankOf 166 = .ok (.iadd, 1) := dk_96 (dk_at dksX11_rankOf_6 22 rfl rfl)
theorem dX11_rankOf_167 : decode cX11_rankOf 167 = .ok (.iastore, 1) := dk_79 (dk_at dksX11_rankOf_6 23 rfl rfl)
theorem dX11_rankOf_168 : decode cX11_rankOf 168 = .ok (.iinc 4 1, 3) := dk_132 4 1 (dk_at dksX11_rankOf_7 0 rfl rfl)
theorem dX11_rankOf_171 : decode cX11_rankOf 171 = .ok (.goto (-166), 3) := dk_167 255 90 (dk_at dksX11_rankOf_7 3 rfl rfl)
theorem dX11_rankOf_174 : decode cX11_rankOf 174 = .ok (.aload_n 0, 1) := dk_42 (dk_at dksX11_rankOf_7 6 rfl rfl)
theorem dX11_rankOf_175 : decode cX11_rankOf 175 = .ok (.getfield 36, 3) := dk_180 0 36 (dk_at dksX11_rankOf_7 7 rfl rfl)
theorem dX11_rankOf_178 : decode cX11_rankOf 178 = .ok (.iconst 0, 1) := dk_3 (dk_at dksX11_rankOf_7 10 rfl rfl)
theorem dX11_rankOf_179 : decode cX11_rankOf 179 = .ok (.iaload, 1) := dk_46 (dk_at dksX11_rankOf_7 11 rfl rfl)
theorem dX11_rankOf_180 : decode cX11_rankOf 180 = .ok (.ireturn, 1) := dk_172 (dk_at dksX11_rankOf_7 12 rfl rfl)
abbrev cX11_stays : ByteArray := prog_18_method_79_code
def yX11_stays : MethodName := ⟨RX11, "stays", "(III)Z"⟩
def dkwX11_stays_7 : List UInt8 := [153, 0, 17, 42, 3, 16, 42, 182, 0, 251, 153, 0, 7, 4, 167, 0, 4, 3, 172]
abbrev dktX11_stays_7 : List UInt8 := dkwX11_stays_7 ++ []
def dkwX11_stays_6 : List UInt8 := [167, 255, 219, 42, 16, 40, 28, 182, 0, 241, 42, 16, 40, 16, 44, 182, 0, 248, 42, 27, 182, 1, 27]
abbrev dktX11_stays_6 : List UInt8 := dkwX11_stays_6 ++ dktX11_stays_7
def dkwX11_stays_5 : List UInt8 := [21, 6, 42, 42, 16, 42, 21, 6, 182, 0, 103, 21, 5, 182, 0, 86, 182, 0, 99, 132, 6, 1]
abbrev dktX11_stays_5 : List UInt8 := dkwX11_stays_5 ++ dktX11_stays_6
def dkwX11_stays_4 : List UInt8 := [182, 0, 90, 54, 5, 3, 54, 6, 21, 6, 42, 180, 0, 20, 16, 42, 46, 163, 0, 31, 42, 16, 42]
abbrev dktX11_stays_4 : List UInt8 := dkwX11_stays_4 ++ dktX11_stays_5
def dkwX11_stays_3 : List UInt8 := [154, 0, 5, 3, 172, 42, 29, 182, 0, 228, 42, 3, 16, 42, 182, 0, 248, 42, 42, 182, 0, 219, 21, 4]
abbrev dktX11_stays_3 : List UInt8 := dkwX11_stays_3 ++ dktX11_stays_4
def dkwX11_stays_2 : List UInt8 := [182, 1, 30, 54, 4, 42, 16, 44, 28, 182, 0, 241, 21, 4, 155, 0, 11, 42, 27, 182, 1, 27]
abbrev dktX11_stays_2 : List UInt8 := dkwX11_stays_2 ++ dktX11_stays_3
def dkwX11_stays_1 : List UInt8 := [182, 0, 225, 153, 0, 7, 4, 167, 0, 4, 3, 4, 182, 0, 215, 153, 0, 5, 3, 172, 42, 27, 4]
abbrev dktX11_stays_1 : List UInt8 := dkwX11_stays_1 ++ dktX11_stays_2
def dkwX11_stays_0 : List UInt8 := [42, 3, 181, 0, 3, 42, 42, 27, 182, 1, 24, 154, 0, 19, 42, 28, 182, 0, 238, 154, 0, 11, 42, 29]
abbrev dktX11_stays_0 : List UInt8 := dkwX11_stays_0 ++ dktX11_stays_1
theorem dksX11_stays_0 : cX11_stays.data.toList.drop 0 = dktX11_stays_0 := by decide +kernel
theorem dksX11_stays_1 : cX11_stays.data.toList.drop 24 = dktX11_stays_1 := dk_seg dksX11_stays_0 24 rfl rfl
theorem dksX11_stays_2 : cX11_stays.data.toList.drop 47 = dktX11_stays_2 := dk_seg dksX11_stays_1 23 rfl rfl
theorem dksX11_stays_3 : cX11_stays.data.toList.drop 69 = dktX11_stays_3 := dk_seg dksX11_stays_2 22 rfl rfl
theorem dksX11_stays_4 : cX11_stays.data.toList.drop 93 = dktX11_stays_4 := dk_seg dksX11_stays_3 24 rfl rfl
theorem dksX11_stays_5 : cX11_stays.data.toList.drop 116 = dktX11_stays_5 := dk_seg dksX11_stays_4 23 rfl rfl
theorem dksX11_stays_6 : cX11_stays.data.toList.drop 138 = dktX11_stays_6 := dk_seg dksX11_stays_5 22 rfl rfl
theorem dksX11_stays_7 : cX11_stays.data.toList.drop 161 = dktX11_stays_7 := dk_seg dksX11_stays_6 23 rfl rfl
theorem dX11_stays_0 : decode cX11_stays 0 = .ok (.aload_n 0, 1) := dk_42 (dk_at dksX11_stays_0 0 rfl rfl)
theorem dX11_stays_1 : decode cX11_stays 1 = .ok (.iconst 0, 1) := dk_3 (dk_at dksX11_stays_0 1 rfl rfl)
theorem dX11_stays_2 : decode cX11_stays 2 = .ok (.putfield 3, 3) := dk_181 0 3 (dk_at dksX11_stays_0 2 rfl rfl)
theorem dX11_stays_5 : decode cX11_stays 5 = .ok (.aload_n 0, 1) := dk_42 (dk_at dksX11_stays_0 5 rfl rfl)
theorem dX11_stays_6 : decode cX11_stays 6 = .ok (.aload_n 0, 1) := dk_42 (dk_at dksX11_stays_0 6 rfl rfl)
theorem dX11_stays_7 : decode cX11_stays 7 = .ok (.iload_n 1, 1) := dk_27 (dk_at dksX11_stays_0 7 rfl rfl)
theorem dX11_stays_8 : decode cX11_stays 8 = .ok (.invokevirtual 280, 3) := dk_182 1 24 (dk_at dksX11_stays_0 8 rfl rfl)
theorem dX11_stays_11 : decode cX11_stays 11 = .ok (.ifCond .ne 19, 3) := dk_154 0 19 (dk_at dksX11_stays_0 11 rfl rfl)
theorem dX11_stays_14 : decode cX11_stays 14 = .ok (.aload_n 0, 1) := dk_42 (dk_at dksX11_stays_0 14 rfl rfl)
theorem dX11_stays_15 : decode cX11_stays 15 = .ok (.iload_n 2, 1) := dk_28 (dk_at dksX11_stays_0 15 rfl rfl)
theorem dX11_stays_16 : decode cX11_stays 16 = .ok (.invokevirtual 238, 3) := dk_182 0 238 (dk_at dksX11_stays_0 16 rfl rfl)
theorem dX11_stays_19 : decode cX11_stays 19 = .ok (.ifCond .ne 11, 3) := dk_154 0 11 (dk_at dksX11_stays_0 19 rfl rfl)
theorem dX11_stays_22 : decode cX11_stays 22 = .ok (.aload_n 0, 1) := dk_42 (dk_at dksX11_stays_0 22 rfl rfl)
theorem dX11_stays_23 : decode cX11_stays 23 = .ok (.iload_n 3, 1) := dk_29 (dk_at dksX11_stays_0 23 rfl rfl)
theorem dX11_stays_24 : decode cX11_stays 24 = .ok (.invokevirtual 225, 3) := dk_182 0 225 (dk_at dksX11_stays_1 0 rfl rfl)
theorem dX11_stays_27 : decode cX11_stays 27 = .ok (.ifCond .eq 7, 3) := dk_153 0 7 (dk_at dksX11_stays_1 3 rfl rfl)
theorem dX11_stays_30 : decode cX11_stays 30 = .ok (.iconst 1, 1) := dk_4 (dk_at dksX11_stays_1 6 rfl rfl)
theorem dX11_stays_31 : decode cX11_stays 31 = .ok (.goto 4, 3) := dk_167 0 4 (dk_at dksX11_stays_1 7 rfl rfl)
theorem dX11_stays_34 : decode cX11_stays 34 = .ok (.iconst 0, 1) := dk_3 (dk_at dksX11_stays_1 10 rfl rfl)
theorem dX11_stays_35 : decode cX11_stays 35 = .ok (.iconst 1, 1) := dk_4 (dk_at dksX11_stays_1 11 rfl rfl)
theorem dX11_stays_36 : decode cX11_stays 36 = .ok (.invokevirtual 215, 3) := dk_182 0 215 (dk_at dksX11_stays_1 12 rfl rfl)
theorem dX11_stays_39 : decode cX11_stays 39 = .ok (.ifCond .eq 5, 3) := dk_153 0 5 (dk_at dksX11_stays_1 15 rfl rfl)
theorem dX11_stays_42 : decode cX11_stays 42 = .ok (.iconst 0, 1) := dk_3 (dk_at dksX11_stays_1 18 rfl rfl)
theorem dX11_stays_43 : decode cX11_stays 43 = .ok (.ireturn, 1) := dk_172 (dk_at dksX11_stays_1 19 rfl rfl)
theorem dX11_stays_44 : decode cX11_stays 44 = .ok (.aload_n 0, 1) := dk_42 (dk_at dksX11_stays_1 20 rfl rfl)
theorem dX11_stays_45 : decode cX11_stays 45 = .ok (.iload_n 1, 1) := dk_27 (dk_at dksX11_stays_1 21 rfl rfl)
theorem dX11_stays_46 : decode cX11_stays 46 = .ok (.iconst 1, 1) := dk_4 (dk_at dksX11_stays_1 22 rfl rfl)
theorem dX11_stays_47 : decode cX11_stays 47 = .ok (.invokevirtual 286, 3) := dk_182 1 30 (dk_at dksX11_stays_2 0 rfl rfl)
theorem dX11_stays_50 : decode cX11_stays 50 = .ok (.istore 4, 2) := dk_54 4 (dk_at dksX11_stays_2 3 rfl rfl)
theorem dX11_stays_52 : decode cX11_stays 52 = .ok (.aload_n 0, 1) := dk_42 (dk_at dksX11_stays_2 5 rfl rfl)
theorem dX11_stays_53 : decode cX11_stays 53 = .ok (.bipush 44, 2) := dk_16 44 (dk_at dksX11_stays_2 6 rfl rfl)
theorem dX11_stays_55 : decode cX11_stays 55 = .ok (.iload_n 2, 1) := dk_28 (dk_at dksX11_stays_2 8 rfl rfl)
theorem dX11_stays_56 : decode cX11_stays 56 = .ok (.invokevirtual 241, 3) := dk_182 0 241 (dk_at dksX11_stays_2 9 rfl rfl)
theorem dX11_stays_59 : decode cX11_stays 59 = .ok (.iload 4, 2) := dk_21 4 (dk_at dksX11_stays_2 12 rfl rfl)
theorem dX11_stays_61 : decode cX11_stays 61 = .ok (.ifCond .lt 11, 3) := dk_155 0 11 (dk_at dksX11_stays_2 14 rfl rfl)
theorem dX11_stays_64 : decode cX11_stays 64 = .ok (.aload_n 0, 1) := dk_42 (dk_at dksX11_stays_2 17 rfl rfl)
theorem dX11_stays_65 : decode cX11_stays 65 = .ok (.iload_n 1, 1) := dk_27 (dk_at dksX11_stays_2 18 rfl rfl)
theorem dX11_stays_66 : decode cX11_stays 66 = .ok (.invokevirtual 283, 3) := dk_182 1 27 (dk_at dksX11_stays_2 19 rfl rfl)
theorem dX11_stays_69 : decode cX11_stays 69 = .ok (.ifCond .ne 5, 3) := dk_154 0 5 (dk_at dksX11_stays_3 0 rfl rfl)
theorem dX11_stays_72 : decode cX11_stays 72 = .ok (.iconst 0, 1) := dk_3 (dk_at dksX11_stays_3 3 rfl rfl)
theorem dX11_stays_73 : decode cX11_stays 73 = .ok (.ireturn, 1) := dk_172 (dk_at dksX11_stays_3 4 rfl rfl)
theorem dX11_stays_74 : decode cX11_stays 74 = .ok (.aload_n 0, 1) := dk_42 (dk_at dksX11_stays_3 5 rfl rfl)
theorem dX11_stays_75 : decode cX11_stays 75 = .ok (.iload_n 3, 1) := dk_29 (dk_at dksX11_stays_3 6 rfl rfl)
theorem dX11_stays_76 : decode cX11_stays 76 = .ok (.invokevirtual 228, 3) := dk_182 0 228 (dk_at dksX11_stays_3 7 rfl rfl)
theorem dX11_stays_79 : decode cX11_stays 79 = .ok (.aload_n 0, 1) := dk_42 (dk_at dksX11_stays_3 10 rfl rfl)
theorem dX11_stays_80 : decode cX11_stays 80 = .ok (.iconst 0, 1) := dk_3 (dk_at dksX11_stays_3 11 rfl rfl)
theorem dX11_stays_81 : decode cX11_stays 81 = .ok (.bipush 42, 2) := dk_16 42 (dk_at dksX11_stays_3 12 rfl rfl)
theorem dX11_stays_83 : decode cX11_stays 83 = .ok (.invokevirtual 248, 3) := dk_182 0 248 (dk_at dksX11_stays_3 14 rfl rfl)
theorem dX11_stays_86 : decode cX11_stays 86 = .ok (.aload_n 0, 1) := dk_42 (dk_at dksX11_stays_3 17 rfl rfl)
theorem dX11_stays_87 : decode cX11_stays 87 = .ok (.aload_n 0, 1) := dk_42 (dk_at dksX11_stays_3 18 rfl rfl)
theorem dX11_stays_88 : decode cX11_stays 88 = .ok (.invokevirtual 219, 3) := dk_182 0 219 (dk_at dksX11_stays_3 19 rfl rfl)
theorem dX11_stays_91 : decode cX11_stays 91 = .ok (.iload 4, 2) := dk_21 4 (dk_at dksX11_stays_3 22 rfl rfl)
theorem dX11_stays_93 : decode cX11_stays 93 = .ok (.invokevirtual 90, 3) := dk_182 0 90 (dk_at dksX11_stays_4 0 rfl rfl)
theorem dX11_stays_96 : decode cX11_stays 96 = .ok (.istore 5, 2) := dk_54 5 (dk_at dksX11_stays_4 3 rfl rfl)
theorem dX11_stays_98 : decode cX11_stays 98 = .ok (.iconst 0, 1) := dk_3 (dk_at dksX11_stays_4 5 rfl rfl)
theorem dX11_stays_99 : decode cX11_stays 99 = .ok (.istore 6, 2) := dk_54 6 (dk_at dksX11_stays_4 6 rfl rfl)
theorem dX11_stays_101 : decode cX11_stays 101 = .ok (.iload 6, 2) := dk_21 6 (dk_at dksX11_stays_4 8 rfl rfl)
theorem dX11_stays_103 : decode cX11_stays 103 = .ok (.aload_n 0, 1) := dk_42 (dk_at dksX11_stays_4 10 rfl rfl)
theorem dX11_stays_104 : decode cX11_stays 104 = .ok (.getfield 20, 3) := dk_180 0 20 (dk_at dksX11_stays_4 11 rfl rfl)
theorem dX11_stays_107 : decode cX11_stays 107 = .ok (.bipush 42, 2) := dk_16 42 (dk_at dksX11_stays_4 14 rfl rfl)
theorem dX11_stays_109 : decode cX11_stays 109 = .ok (.iaload, 1) := dk_46 (dk_at dksX11_stays_4 16 rfl rfl)
theorem dX11_stays_110 : decode cX11_stays 110 = .ok (.if_icmp .gt 31, 3) := dk_163 0 31 (dk_at dksX11_stays_4 17 rfl rfl)
theorem dX11_stays_113 : decode cX11_stays 113 = .ok (.aload_n 0, 1) := dk_42 (dk_at dksX11_stays_4 20 rfl rfl)
theorem dX11_stays_114 : decode cX11_stays 114 = .ok (.bipush 42, 2) := dk_16 42 (dk_at dksX11_stays_4 21 rfl rfl)
theorem dX11_stays_116 : decode cX11_stays 116 = .ok (.iload 6, 2) := dk_21 6 (dk_at dksX11_stays_5 0 rfl rfl)
theorem dX11_stays_118 : decode cX11_stays 118 = .ok (.aload_n 0, 1) := dk_42 (dk_at dksX11_stays_5 2 rfl rfl)
theorem dX11_stays_119 : decode cX11_stays 119 = .ok (.aload_n 0, 1) := dk_42 (dk_at dksX11_stays_5 3 rfl rfl)
theorem dX11_stays_120 : decode cX11_stays 120 = .ok (.bipush 42, 2) := dk_16 42 (dk_at dksX11_stays_5 4 rfl rfl)
theorem dX11_stays_122 : decode cX11_stays 122 = .ok (.iload 6, 2) := dk_21 6 (dk_at dksX11_stays_5 6 rfl rfl)
theorem dX11_stays_124 : decode cX11_stays 124 = .ok (.invokevirtual 103, 3) := dk_182 0 103 (dk_at dksX11_stays_5 8 rfl rfl)
theorem dX11_stays_127 : decode cX11_stays 127 = .ok (.iload 5, 2) := dk_21 5 (dk_at dksX11_stays_5 11 rfl rfl)
theorem dX11_stays_129 : decode cX11_stays 129 = .ok (.invokevirtual 86, 3) := dk_182 0 86 (dk_at dksX11_stays_5 13 rfl rfl)
theorem dX11_stays_132 : decode cX11_stays 132 = .ok (.invokevirtual 99, 3) := dk_182 0 99 (dk_at dksX11_stays_5 16 rfl rfl)
theorem dX11_stays_135 : decode cX11_stays 135 = .ok (.iinc 6 1, 3) := dk_132 6 1 (dk_at dksX11_stays_5 19 rfl rfl)
theorem dX11_stays_138 : decode cX11_stays 138 = .ok (.goto (-37), 3) := dk_167 255 219 (dk_at dksX11_stays_6 0 rfl rfl)
theorem dX11_stays_141 : decode cX11_stays 141 = .ok (.aload_n 0, 1) := dk_42 (dk_at dksX11_stays_6 3 rfl rfl)
theorem dX11_stays_142 : decode cX11_stays 142 = .ok (.bipush 40, 2) := dk_16 40 (dk_at dksX11_stays_6 4 rfl rfl)
theorem dX11_stays_144 : decode cX11_stays 144 = .ok (.iload_n 2, 1) := dk_28 (dk_at dksX11_stays_6 6 rfl rfl)
theorem dX11_stays_145 : decode cX11_stays 145 = .ok (.invokevirtual 241, 3) := dk_182 0 241 (dk_at dksX11_stays_6 7 rfl rfl)
theorem dX11_stays_148 : decode cX11_stays 148 = .ok (.aload_n 0, 1) := dk_42 (dk_at dksX11_stays_6 10 rfl rfl)
theorem dX11_stays_149 : decode cX11_stays 149 = .ok (.bipush 40, 2) := dk_16 40 (dk_at dksX11_stays_6 11 rfl rfl)
theorem dX11_stays_151 : decode cX11_stays 151 = .ok (.bipush 44, 2) := dk_16 44 (dk_at dksX11_stays_6 13 rfl rfl)
theorem dX11_stays_153 : decode cX11_stays 153 = .ok (.invokevirtual 248, 3) := dk_182 0 248 (dk_at dksX11_stays_6 15 rfl rfl)
theorem dX11_stays_156 : decode cX11_stays 156 = .ok (.aload_n 0, 1) := dk_42 (dk_at dksX11_stays_6 18 rfl rfl)
theorem dX11_stays_157 : decode cX11_stays 157 = .ok (.iload_n 1, 1) := dk_27 (dk_at dksX11_stays_6 19 rfl rfl)
theorem dX11_stays_158 : decode cX11_stays 158 = .ok (.invokevirtual 283, 3) := dk_182 1 27 (dk_at dksX11_stays_6 20 rfl rfl)
theorem dX11_stays_161 : decode cX11_stays 161 = .ok (.ifCond .eq 17, 3) := dk_153 0 17 (dk_at dksX11_stays_7 0 rfl rfl)
theorem dX11_stays_164 : decode cX11_stays 164 = .ok (.aload_n 0, 1) := dk_42 (dk_at dksX11_stays_7 3 rfl rfl)
theorem dX11_stays_165 : decode cX11_stays 165 = .ok (.iconst 0, 1) := dk_3 (dk_at dksX11_stays_7 4 rfl rfl)
theorem dX11_stays_166 : decode cX11_stays 166 = .ok (.bipush 42, 2) := dk_16 42 (dk_at dksX11_stays_7 5 rfl rfl)
theorem dX11_stays_168 : decode cX11_stays 168 = .ok (.invokevirtual 251, 3) := dk_182 0 251 (dk_at dksX11_stays_7 7 rfl rfl)
theorem dX11_stays_171 : decode cX11_stays 171 = .ok (.ifCond .eq 7, 3) := dk_153 0 7 (dk_at dksX11_stays_7 10 rfl rfl)
theorem dX11_stays_174 : decode cX11_stays 174 = .ok (.iconst 1, 1) := dk_4 (dk_at dksX11_stays_7 13 rfl rfl)
theorem dX11_stays_175 : decode cX11_stays 175 = .ok (.goto 4, 3) := dk_167 0 4 (dk_at dksX11_stays_7 14 rfl rfl)
theorem dX11_stays_178 : decode cX11_stays 178 = .ok (.iconst 0, 1) := dk_3 (dk_at dksX11_stays_7 17 rfl rfl)
theorem dX11_stays_179 : decode cX11_stays 179 = .ok (.ireturn, 1) := dk_172 (dk_at dksX11_stays_7 18 rfl rfl)
abbrev cX11_agree : ByteArray := prog_18_method_80_code
def yX11_agree : MethodName := ⟨RX11, "agree", "(III)I"⟩
def dkwX11_agree_6 : List UInt8 := [21, 4, 172, 132, 4, 1, 167, 255, 170, 2, 172]
abbrev dktX11_agree_6 : List UInt8 := dkwX11_agree_6 ++ []
def dkwX11_agree_5 : List UInt8 := [54, 6, 21, 5, 21, 6, 160, 0, 18, 21, 5, 153, 0, 16, 42, 3, 16, 42, 182, 0, 251, 154, 0, 6]
abbrev dktX11_agree_5 : List UInt8 := dkwX11_agree_5 ++ dktX11_agree_6
def dkwX11_agree_4 : List UInt8 := [42, 27, 182, 1, 27, 54, 5, 21, 5, 153, 0, 10, 42, 3, 16, 42, 182, 1, 11, 42, 28, 182, 1, 27]
abbrev dktX11_agree_4 : List UInt8 := dkwX11_agree_4 ++ dktX11_agree_5
def dkwX11_agree_3 : List UInt8 := [162, 0, 81, 42, 21, 4, 182, 0, 93, 29, 159, 0, 6, 167, 0, 62, 42, 16, 44, 21, 4, 182, 0, 241]
abbrev dktX11_agree_3 : List UInt8 := dkwX11_agree_3 ++ dktX11_agree_4
def dkwX11_agree_2 : List UInt8 := [167, 0, 4, 3, 5, 182, 0, 215, 153, 0, 5, 3, 172, 3, 54, 4, 21, 4, 42, 180, 0, 13, 4, 46]
abbrev dktX11_agree_2 : List UInt8 := dkwX11_agree_2 ++ dktX11_agree_3
def dkwX11_agree_1 : List UInt8 := [167, 0, 4, 3, 4, 182, 0, 215, 154, 0, 26, 42, 29, 3, 16, 8, 184, 0, 68, 154, 0, 7, 4]
abbrev dktX11_agree_1 : List UInt8 := dkwX11_agree_1 ++ dktX11_agree_2
def dkwX11_agree_0 : List UInt8 := [42, 3, 181, 0, 3, 42, 42, 27, 182, 1, 24, 154, 0, 11, 42, 28, 182, 1, 24, 153, 0, 7, 4]
abbrev dktX11_agree_0 : List UInt8 := dkwX11_agree_0 ++ dktX11_agree_1
theorem dksX11_agree_0 : cX11_agree.data.toList.drop 0 = dktX11_agree_0 := by decide +kernel
theorem dksX11_agree_1 : cX11_agree.data.toList.drop 23 = dktX11_agree_1 := dk_seg dksX11_agree_0 23 rfl rfl
theorem dksX11_agree_2 : cX11_agree.data.toList.drop 46 = dktX11_agree_2 := dk_seg dksX11_agree_1 23 rfl rfl
theorem dksX11_agree_3 : cX11_agree.data.toList.drop 70 = dktX11_agree_3 := dk_seg dksX11_agree_2 24 rfl rfl
theorem dksX11_agree_4 : cX11_agree.data.toList.drop 94 = dktX11_agree_4 := dk_seg dksX11_agree_3 24 rfl rfl
theorem dksX11_agree_5 : cX11_agree.data.toList.drop 118 = dktX11_agree_5 := dk_seg dksX11_agree_4 24 rfl rfl
theorem dksX11_agree_6 : cX11_agree.data.toList.drop 142 = dktX11_agree_6 := dk_seg dksX11_agree_5 24 rfl rfl
theorem dX11_agree_0 : decode cX11_agree 0 = .ok (.aload_n 0, 1) := dk_42 (dk_at dksX11_agree_0 0 rfl rfl)
theorem dX11_agree_1 : decode cX11_agree 1 = .ok (.iconst 0, 1) := dk_3 (dk_at dksX11_agree_0 1 rfl rfl)
theorem dX11_agree_2 : decode cX11_agree 2 = .ok (.putfield 3, 3) := dk_181 0 3 (dk_at dksX11_agree_0 2 rfl rfl)
theorem dX11_agree_5 : decode cX11_agree 5 = .ok (.aload_n 0, 1) := dk_42 (dk_at dksX11_agree_0 5 rfl rfl)
theorem dX11_agree_6 : decode cX11_agree 6 = .ok (.aload_n 0, 1) := dk_42 (dk_at dksX11_agree_0 6 rfl rfl)
theorem dX11_agree_7 : decode cX11_agree 7 = .ok (.iload_n 1, 1) := dk_27 (dk_at dksX11_agree_0 7 rfl rfl)
theorem dX11_agree_8 : decode cX11_agree 8 = .ok (.invokevirtual 280, 3) := dk_182 1 24 (dk_at dksX11_agree_0 8 rfl rfl)
theorem dX11_agree_11 : decode cX11_agree 11 = .ok (.ifCond .ne 11, 3) := dk_154 0 11 (dk_at dksX11_agree_0 11 rfl rfl)
theorem dX11_agree_14 : decode cX11_agree 14 = .ok (.aload_n 0, 1) := dk_42 (dk_at dksX11_agree_0 14 rfl rfl)
theorem dX11_agree_15 : decode cX11_agree 15 = .ok (.iload_n 2, 1) := dk_28 (dk_at dksX11_agree_0 15 rfl rfl)
theorem dX11_agree_16 : decode cX11_agree 16 = .ok (.invokevirtual 280, 3) := dk_182 1 24 (dk_at dksX11_agree_0 16 rfl rfl)
theorem dX11_agree_19 : decode cX11_agree 19 = .ok (.ifCond .eq 7, 3) := dk_153 0 7 (dk_at dksX11_agree_0 19 rfl rfl)
theorem dX11_agree_22 : decode cX11_agree 22 = .ok (.iconst 1, 1) := dk_4 (dk_at dksX11_agree_0 22 rfl rfl)
theorem dX11_agree_23 : decode cX11_agree 23 = .ok (.goto 4, 3) := dk_167 0 4 (dk_at dksX11_agree_1 0 rfl rfl)
theorem dX11_agree_26 : decode cX11_agree 26 = .ok (.iconst 0, 1) := dk_3 (dk_at dksX11_agree_1 3 rfl rfl)
theorem dX11_agree_27 : decode cX11_agree 27 = .ok (.iconst 1, 1) := dk_4 (dk_at dksX11_agree_1 4 rfl rfl)
theorem dX11_agree_28 : decode cX11_agree 28 = .ok (.invokevirtual 215, 3) := dk_182 0 215 (dk_at dksX11_agree_1 5 rfl rfl)
theorem dX11_agree_31 : decode cX11_agree 31 = .ok (.ifCond .ne 26, 3) := dk_154 0 26 (dk_at dksX11_agree_1 8 rfl rfl)
theorem dX11_agree_34 : decode cX11_agree 34 = .ok (.aload_n 0, 1) := dk_42 (dk_at dksX11_agree_1 11 rfl rfl)
theorem dX11_agree_35 : decode cX11_agree 35 = .ok (.iload_n 3, 1) := dk_29 (dk_at dksX11_agree_1 12 rfl rfl)
theorem dX11_agree_36 : decode cX11_agree 36 = .ok (.iconst 0, 1) := dk_3 (dk_at dksX11_agree_1 13 rfl rfl)
theorem dX11_agree_37 : decode cX11_agree 37 = .ok (.bipush 8, 2) := dk_16 8 (dk_at dksX11_agree_1 14 rfl rfl)
theorem dX11_agree_39 : decode cX11_agree 39 = .ok (.invokestatic 68, 3) := dk_184 0 68 (dk_at dksX11_agree_1 16 rfl rfl)
theorem dX11_agree_42 : decode cX11_agree 42 = .ok (.ifCond .ne 7, 3) := dk_154 0 7 (dk_at dksX11_agree_1 19 rfl rfl)
theorem dX11_agree_45 : decode cX11_agree 45 = .ok (.iconst 1, 1) := dk_4 (dk_at dksX11_agree_1 22 rfl rfl)
theorem dX11_agree_46 : decode cX11_agree 46 = .ok (.goto 4, 3) := dk_167 0 4 (dk_at dksX11_agree_2 0 rfl rfl)
theorem dX11_agree_49 : decode cX11_agree 49 = .ok (.iconst 0, 1) := dk_3 (dk_at dksX11_agree_2 3 rfl rfl)
theorem dX11_agree_50 : decode cX11_agree 50 = .ok (.iconst 2, 1) := dk_5 (dk_at dksX11_agree_2 4 rfl rfl)
theorem dX11_agree_51 : decode cX11_agree 51 = .ok (.invokevirtual 215, 3) := dk_182 0 215 (dk_at dksX11_agree_2 5 rfl rfl)
theorem dX11_agree_54 : decode cX11_agree 54 = .ok (.ifCond .eq 5, 3) := dk_153 0 5 (dk_at dksX11_agree_2 8 rfl rfl)
theorem dX11_agree_57 : decode cX11_agree 57 = .ok (.iconst 0, 1) := dk_3 (dk_at dksX11_agree_2 11 rfl rfl)
theorem dX11_agree_58 : decode cX11_agree 58 = .ok (.ireturn, 1) := dk_172 (dk_at dksX11_agree_2 12 rfl rfl)
theorem dX11_agree_59 : decode cX11_agree 59 = .ok (.iconst 0, 1) := dk_3 (dk_at dksX11_agree_2 13 rfl rfl)
theorem dX11_agree_60 : decode cX11_agree 60 = .ok (.istore 4, 2) := dk_54 4 (dk_at dksX11_agree_2 14 rfl rfl)
theorem dX11_agree_62 : decode cX11_agree 62 = .ok (.iload 4, 2) := dk_21 4 (dk_at dksX11_agree_2 16 rfl rfl)
theorem dX11_agree_64 : decode cX11_agree 64 = .ok (.aload_n 0, 1) := dk_42 (dk_at dksX11_agree_2 18 rfl rfl)
theorem dX11_agree_65 : decode cX11_agree 65 = .ok (.getfield 13, 3) := dk_180 0 13 (dk_at dksX11_agree_2 19 rfl rfl)
theorem dX11_agree_68 : decode cX11_agree 68 = .ok (.iconst 1, 1) := dk_4 (dk_at dksX11_agree_2 22 rfl rfl)
theorem dX11_agree_69 : decode cX11_agree 69 = .ok (.iaload, 1) := dk_46 (dk_at dksX11_agree_2 23 rfl rfl)
theorem dX11_agree_70 : decode cX11_agree 70 = .ok (.if_icmp .ge 81, 3) := dk_162 0 81 (dk_at dksX11_agree_3 0 rfl rfl)
theorem dX11_agree_73 : decode cX11_agree 73 = .ok (.aload_n 0, 1) := dk_42 (dk_at dksX11_agree_3 3 rfl rfl)
theorem dX11_agree_74 : decode cX11_agree 74 = .ok (.iload 4, 2) := dk_21 4 (dk_at dksX11_agree_3 4 rfl rfl)
theorem dX11_agree_76 : decode cX11_agree 76 = .ok (.invokevirtual 93, 3) := dk_182 0 93 (dk_at dksX11_agree_3 6 rfl rfl)
theorem dX11_agree_79 : decode cX11_agree 79 = .ok (.iload_n 3, 1) := dk_29 (dk_at dksX11_agree_3 9 rfl rfl)
theorem dX11_agree_80 : decode cX11_agree 80 = .ok (.if_icmp .eq 6, 3) := dk_159 0 6 (dk_at dksX11_agree_3 10 rfl rfl)
theorem dX11_agree_83 : decode cX11_agree 83 = .ok (.goto 62, 3) := dk_167 0 62 (dk_at dksX11_agree_3 13 rfl rfl)
theorem dX11_agree_86 : decode cX11_agree 86 = .ok (.aload_n 0, 1) := dk_42 (dk_at dksX11_agree_3 16 rfl rfl)
theorem dX11_agree_87 : decode cX11_agree 87 = .ok (.bipush 44, 2) := dk_16 44 (dk_at dksX11_agree_3 17 rfl rfl)
theorem dX11_agree_89 : decode cX11_agree 89 = .ok (.iload 4, 2) := dk_21 4 (dk_at dksX11_agree_3 19 rfl rfl)
theorem dX11_agree_91 : decode cX11_agree 91 = .ok (.invokevirtual 241, 3) := dk_182 0 241 (dk_at dksX11_agree_3 21 rfl rfl)
theorem dX11_agree_94 : decode cX11_agree 94 = .ok (.aload_n 0, 1) := dk_42 (dk_at dksX11_agree_4 0 rfl rfl)
theorem dX11_agree_95 : decode cX11_agree 95 = .ok (.iload_n 1, 1) := dk_27 (dk_at dksX11_agree_4 1 rfl rfl)
theorem dX11_agree_96 : decode cX11_agree 96 = .ok (.invokevirtual 283, 3) := dk_182 1 27 (dk_at dksX11_agree_4 2 rfl rfl)
theorem dX11_agree_99 : decode cX11_agree 99 = .ok (.istore 5, 2) := dk_54 5 (dk_at dksX11_agree_4 5 rfl rfl)
theorem dX11_agree_101 : decode cX11_agree 101 = .ok (.iload 5, 2) := dk_21 5 (dk_at dksX11_agree_4 7 rfl rfl)
theorem dX11_agree_103 : decode cX11_agree 103 = .ok (.ifCond .eq 10, 3) := dk_153 0 10 (dk_at dksX11_agree_4 9 rfl rfl)
theorem dX11_agree_106 : decode cX11_agree 106 = .ok (.aload_n 0, 1) := dk_42 (dk_at dksX11_agree_4 12 rfl rfl)
theorem dX11_agree_107 : decode cX11_agree 107 = .ok (.iconst 0, 1) := dk_3 (dk_at dksX11_agree_4 13 rfl rfl)
theorem dX11_agree_108 : decode cX11_agree 108 = .ok (.bipush 42, 2) := dk_16 42 (dk_at dksX11_agree_4 14 rfl rfl)
theorem dX11_agree_110 : decode cX11_agree 110 = .ok (.invokevirtual 267, 3) := dk_182 1 11 (dk_at dksX11_agree_4 16 rfl rfl)
theorem dX11_agree_113 : decode cX11_agree 113 = .ok (.aload_n 0, 1) := dk_42 (dk_at dksX11_agree_4 19 rfl rfl)
theorem dX11_agree_114 : decode cX11_agree 114 = .ok (.iload_n 2, 1) := dk_28 (dk_at dksX11_agree_4 20 rfl rfl)
theorem dX11_agree_115 : decode cX11_agree 115 = .ok (.invokevirtual 283, 3) := dk_182 1 27 (dk_at dksX11_agree_4 21 rfl rfl)
theorem dX11_agree_118 : decode cX11_agree 118 = .ok (.istore 6, 2) := dk_54 6 (dk_at dksX11_agree_5 0 rfl rfl)
theorem dX11_agree_120 : decode cX11_agree 120 = .ok (.iload 5, 2) := dk_21 5 (dk_at dksX11_agree_5 2 rfl rfl)
theorem dX11_agree_122 : decode cX11_agree 122 = .ok (.iload 6, 2) := dk_21 6 (dk_at dksX11_agree_5 4 rfl rfl)
theorem dX11_agree_124 : decode cX11_agree 124 = .ok (.if_icmp .ne 18, 3) := dk_160 0 18 (dk_at dksX11_agree_5 6 rfl rfl)
theorem dX11_agree_127 : decode cX11_agree 127 = .ok (.iload 5, 2) := dk_21 5 (dk_at dksX11_agree_5 9 rfl rfl)
theorem dX11_agree_129 : decode cX11_agree 129 = .ok (.ifCond .eq 16, 3) := dk_153 0 16 (dk_at dksX11_agree_5 11 rfl rfl)
theorem dX11_agree_132 : decode cX11_agree 132 = .ok (.aload_n 0, 1) := dk_42 (dk_at dksX11_agree_5 14 rfl rfl)
theorem dX11_agree_133 : decode cX11_agree 133 = .ok (.iconst 0, 1) := dk_3 (dk_at dksX11_agree_5 15 rfl rfl)
theorem dX11_agree_134 : decode cX11_agree 134 = .ok (.bipush 42, 2) := dk_16 42 (dk_at dksX11_agree_5 16 rfl rfl)
theorem dX11_agree_136 : decode cX11_agree 136 = .ok (.invokevirtual 251, 3) := dk_182 0 251 (dk_at dksX11_agree_5 18 rfl rfl)
theorem dX11_agree_139 : decode cX11_agree 139 = .ok (.ifCond .ne 6, 3) := dk_154 0 6 (dk_at dksX11_agree_5 21 rfl rfl)
theorem dX11_agree_142 : decode cX11_agree 142 = .ok (.iload 4, 2) := dk_21 4 (dk_at dksX11_agree_6 0 rfl rfl)
theorem dX11_agree_144 : decode cX11_agree 144 = .ok (.ireturn, 1) := dk_172 (dk_at dksX11_agree_6 2 rfl rfl)
theorem dX11_agree_145 : decode cX11_agree 145 = .ok (.iinc 4 1, 3) := dk_132 4 1 (dk_at dksX11_agree_6 3 rfl rfl)
theorem dX11_agree_148 : decode cX11_agree 148 = .ok (.goto (-86), 3) := dk_167 255 170 (dk_at dksX11_agree_6 6 rfl rfl)
theorem dX11_agree_151 : decode cX11_agree 151 = .ok (.iconst (-1), 1) := dk_2 (dk_at dksX11_agree_6 9 rfl rfl)
theorem dX11_agree_152 : decode cX11_agree 152 = .ok (.ireturn, 1) := dk_172 (dk_at dksX11_agree_6 10 rfl rfl)
abbrev cX11_count : ByteArray := prog_18_method_82_code
def yX11_count : MethodName := ⟨RX11, "count", "(III)J"⟩
def dkwX11_count_4 : List UInt8 := [182, 1, 33, 101, 173]
abbrev dktX11_count_4 : List UInt8 := dkwX11_count_4 ++ []
def dkwX11_count_3 : List UInt8 := [9, 167, 0, 26, 42, 21, 4, 5, 108, 27, 28, 182, 1, 33, 42, 21, 4, 5, 108, 4, 100, 27, 28]
abbrev dktX11_count_3 : List UInt8 := dkwX11_count_3 ++ dktX11_count_4
def dkwX11_count_2 : List UInt8 := [153, 0, 5, 9, 173, 28, 27, 104, 29, 100, 54, 4, 21, 4, 155, 0, 10, 21, 4, 5, 112, 153, 0, 7]
abbrev dktX11_count_2 : List UInt8 := dkwX11_count_2 ++ dktX11_count_3
def dkwX11_count_1 : List UInt8 := [153, 0, 13, 29, 3, 16, 96, 184, 0, 68, 154, 0, 7, 4, 167, 0, 4, 3, 4, 182, 0, 215]
abbrev dktX11_count_1 : List UInt8 := dkwX11_count_1 ++ dktX11_count_2
def dkwX11_count_0 : List UInt8 := [42, 3, 181, 0, 3, 42, 27, 3, 16, 12, 184, 0, 68, 153, 0, 23, 28, 4, 16, 8, 184, 0, 68]
abbrev dktX11_count_0 : List UInt8 := dkwX11_count_0 ++ dktX11_count_1
theorem dksX11_count_0 : cX11_count.data.toList.drop 0 = dktX11_count_0 := by decide +kernel
theorem dksX11_count_1 : cX11_count.data.toList.drop 23 = dktX11_count_1 := dk_seg dksX11_count_0 23 rfl rfl
theorem dksX11_count_2 : cX11_count.data.toList.drop 45 = dktX11_count_2 := dk_seg dksX11_count_1 22 rfl rfl
theorem dksX11_count_3 : cX11_count.data.toList.drop 69 = dktX11_count_3 := dk_seg dksX11_count_2 24 rfl rfl
theorem dksX11_count_4 : cX11_count.data.toList.drop 92 = dktX11_count_4 := dk_seg dksX11_count_3 23 rfl rfl
theorem dX11_count_0 : decode cX11_count 0 = .ok (.aload_n 0, 1) := dk_42 (dk_at dksX11_count_0 0 rfl rfl)
theorem dX11_count_1 : decode cX11_count 1 = .ok (.iconst 0, 1) := dk_3 (dk_at dksX11_count_0 1 rfl rfl)
theorem dX11_count_2 : decode cX11_count 2 = .ok (.putfield 3, 3) := dk_181 0 3 (dk_at dksX11_count_0 2 rfl rfl)
theorem dX11_count_5 : decode cX11_count 5 = .ok (.aload_n 0, 1) := dk_42 (dk_at dksX11_count_0 5 rfl rfl)
theorem dX11_count_6 : decode cX11_count 6 = .ok (.iload_n 1, 1) := dk_27 (dk_at dksX11_count_0 6 rfl rfl)
theorem dX11_count_7 : decode cX11_count 7 = .ok (.iconst 0, 1) := dk_3 (dk_at dksX11_count_0 7 rfl rfl)
theorem dX11_count_8 : decode cX11_count 8 = .ok (.bipush 12, 2) := dk_16 12 (dk_at dksX11_count_0 8 rfl rfl)
theorem dX11_count_10 : decode cX11_count 10 = .ok (.invokestatic 68, 3) := dk_184 0 68 (dk_at dksX11_count_0 10 rfl rfl)
theorem dX11_count_13 : decode cX11_count 13 = .ok (.ifCond .eq 23, 3) := dk_153 0 23 (dk_at dksX11_count_0 13 rfl rfl)
theorem dX11_count_16 : decode cX11_count 16 = .ok (.iload_n 2, 1) := dk_28 (dk_at dksX11_count_0 16 rfl rfl)
theorem dX11_count_17 : decode cX11_count 17 = .ok (.iconst 1, 1) := dk_4 (dk_at dksX11_count_0 17 rfl rfl)
theorem dX11_count_18 : decode cX11_count 18 = .ok (.bipush 8, 2) := dk_16 8 (dk_at dksX11_count_0 18 rfl rfl)
theorem dX11_count_20 : decode cX11_count 20 = .ok (.invokestatic 68, 3) := dk_184 0 68 (dk_at dksX11_count_0 20 rfl rfl)
theorem dX11_count_23 : decode cX11_count 23 = .ok (.ifCond .eq 13, 3) := dk_153 0 13 (dk_at dksX11_count_1 0 rfl rfl)
theorem dX11_count_26 : decode cX11_count 26 = .ok (.iload_n 3, 1) := dk_29 (dk_at dksX11_count_1 3 rfl rfl)
theorem dX11_count_27 : decode cX11_count 27 = .ok (.iconst 0, 1) := dk_3 (dk_at dksX11_count_1 4 rfl rfl)
theorem dX11_count_28 : decode cX11_count 28 = .ok (.bipush 96, 2) := dk_16 96 (dk_at dksX11_count_1 5 rfl rfl)
theorem dX11_count_30 : decode cX11_count 30 = .ok (.invokestatic 68, 3) := dk_184 0 68 (dk_at dksX11_count_1 7 rfl rfl)
theorem dX11_count_33 : decode cX11_count 33 = .ok (.ifCond .ne 7, 3) := dk_154 0 7 (dk_at dksX11_count_1 10 rfl rfl)
theorem dX11_count_36 : decode cX11_count 36 = .ok (.iconst 1, 1) := dk_4 (dk_at dksX11_count_1 13 rfl rfl)
theorem dX11_count_37 : decode cX11_count 37 = .ok (.goto 4, 3) := dk_167 0 4 (dk_at dksX11_count_1 14 rfl rfl)
theorem dX11_count_40 : decode cX11_count 40 = .ok (.iconst 0, 1) := dk_3 (dk_at dksX11_count_1 17 rfl rfl)
theorem dX11_count_41 : decode cX11_count 41 = .ok (.iconst 1, 1) := dk_4 (dk_at dksX11_count_1 18 rfl rfl)
theorem dX11_count_42 : decode cX11_count 42 = .ok (.invokevirtual 215, 3) := dk_182 0 215 (dk_at dksX11_count_1 19 rfl rfl)
theorem dX11_count_45 : decode cX11_count 45 = .ok (.ifCond .eq 5, 3) := dk_153 0 5 (dk_at dksX11_count_2 0 rfl rfl)
theorem dX11_count_48 : decode cX11_count 48 = .ok (.lconst 0, 1) := dk_9 (dk_at dksX11_count_2 3 rfl rfl)
theorem dX11_count_49 : decode cX11_count 49 = .ok (.lreturn, 1) := dk_173 (dk_at dksX11_count_2 4 rfl rfl)
theorem dX11_count_50 : decode cX11_count 50 = .ok (.iload_n 2, 1) := dk_28 (dk_at dksX11_count_2 5 rfl rfl)
theorem dX11_count_51 : decode cX11_count 51 = .ok (.iload_n 1, 1) := dk_27 (dk_at dksX11_count_2 6 rfl rfl)
theorem dX11_count_52 : decode cX11_count 52 = .ok (.imul, 1) := dk_104 (dk_at dksX11_count_2 7 rfl rfl)
theorem dX11_count_53 : decode cX11_count 53 = .ok (.iload_n 3, 1) := dk_29 (dk_at dksX11_count_2 8 rfl rfl)
theorem dX11_count_54 : decode cX11_count 54 = .ok (.isub, 1) := dk_100 (dk_at dksX11_count_2 9 rfl rfl)
theorem dX11_count_55 : decode cX11_count 55 = .ok (.istore 4, 2) := dk_54 4 (dk_at dksX11_count_2 10 rfl rfl)
theorem dX11_count_57 : decode cX11_count 57 = .ok (.iload 4, 2) := dk_21 4 (dk_at dksX11_count_2 12 rfl rfl)
theorem dX11_count_59 : decode cX11_count 59 = .ok (.ifCond .lt 10, 3) := dk_155 0 10 (dk_at dksX11_count_2 14 rfl rfl)
theorem dX11_count_62 : decode cX11_count 62 = .ok (.iload 4, 2) := dk_21 4 (dk_at dksX11_count_2 17 rfl rfl)
theorem dX11_count_64 : decode cX11_count 64 = .ok (.iconst 2, 1) := dk_5 (dk_at dksX11_count_2 19 rfl rfl)
theorem dX11_count_65 : decode cX11_count 65 = .ok (.irem, 1) := dk_112 (dk_at dksX11_count_2 20 rfl rfl)
theorem dX11_count_66 : decode cX11_count 66 = .ok (.ifCond .eq 7, 3) := dk_153 0 7 (dk_at dksX11_count_2 21 rfl rfl)
theorem dX11_count_69 : decode cX11_count 69 = .ok (.lconst 0, 1) := dk_9 (dk_at dksX11_count_3 0 rfl rfl)
theorem dX11_count_70 : decode cX11_count 70 = .ok (.goto 26, 3) := dk_167 0 26 (dk_at dksX11_count_3 1 rfl rfl)
theorem dX11_count_73 : decode cX11_count 73 = .ok (.aload_n 0, 1) := dk_42 (dk_at dksX11_count_3 4 rfl rfl)
theorem dX11_count_74 : decode cX11_count 74 = .ok (.iload 4, 2) := dk_21 4 (dk_at dksX11_count_3 5 rfl rfl)
theorem dX11_count_76 : decode cX11_count 76 = .ok (.iconst 2, 1) := dk_5 (dk_at dksX11_count_3 7 rfl rfl)
theorem dX11_count_77 : decode cX11_count 77 = .ok (.idiv, 1) := dk_108 (dk_at dksX11_count_3 8 rfl rfl)
theorem dX11_count_78 : decode cX11_count 78 = .ok (.iload_n 1, 1) := dk_27 (dk_at dksX11_count_3 9 rfl rfl)
theorem dX11_count_79 : decode cX11_count 79 = .ok (.iload_n 2, 1) := dk_28 (dk_at dksX11_count_3 10 rfl rfl)
theorem dX11_count_80 : decode cX11_count 80 = .ok (.invokevirtual 289, 3) := dk_182 1 33 (dk_at dksX11_count_3 11 rfl rfl)
theorem dX11_count_83 : decode cX11_count 83 = .ok (.aload_n 0, 1) := dk_42 (dk_at dksX11_count_3 14 rfl rfl)
theorem dX11_count_84 : decode cX11_count 84 = .ok (.iload 4, 2) := dk_21 4 (dk_at dksX11_count_3 15 rfl rfl)
theorem dX11_count_86 : decode cX11_count 86 = .ok (.iconst 2, 1) := dk_5 (dk_at dksX11_count_3 17 rfl rfl)
theorem dX11_count_87 : decode cX11_count 87 = .ok (.idiv, 1) := dk_108 (dk_at dksX11_count_3 18 rfl rfl)
theorem dX11_count_88 : decode cX11_count 88 = .ok (.iconst 1, 1) := dk_4 (dk_at dksX11_count_3 19 rfl rfl)
theorem dX11_count_89 : decode cX11_count 89 = .ok (.isub, 1) := dk_100 (dk_at dksX11_count_3 20 rfl rfl)
theorem dX11_count_90 : decode cX11_count 90 = .ok (.iload_n 1, 1) := dk_27 (dk_at dksX11_count_3 21 rfl rfl)
theorem dX11_count_91 : decode cX11_count 91 = .ok (.iload_n 2, 1) := dk_28 (dk_at dksX11_count_3 22 rfl rfl)
theorem dX11_count_92 : decode cX11_count 92 = .ok (.invokevirtual 289, 3) := dk_182 1 33 (dk_at dksX11_count_4 0 rfl rfl)
theorem dX11_count_95 : decode cX11_count 95 = .ok (.lsub, 1) := dk_101 (dk_at dksX11_count_4 3 rfl rfl)
theorem dX11_count_96 : decode cX11_count 96 = .ok (.lreturn, 1) := dk_173 (dk_at dksX11_count_4 4 rfl rfl)
abbrev cX11_waysOf : ByteArray := prog_18_method_81_code
def yX11_waysOf : MethodName := ⟨RX11, "waysOf", "(III)J"⟩
def dkwX11_waysOf_7 : List UInt8 := [180, 0, 39, 16, 97, 21, 6, 104, 27, 96, 47, 97, 55, 4, 132, 6, 1, 167, 255, 230, 22, 4, 173]
abbrev dktX11_waysOf_7 : List UInt8 := dkwX11_waysOf_7 ++ []
def dkwX11_waysOf_6 : List UInt8 := [167, 255, 197, 132, 4, 1, 167, 255, 182, 9, 55, 4, 3, 54, 6, 21, 6, 28, 163, 0, 26, 22, 4, 42]
abbrev dktX11_waysOf_6 : List UInt8 := dkwX11_waysOf_6 ++ dktX11_waysOf_7
def dkwX11_waysOf_5 : List UInt8 := [21, 5, 4, 100, 104, 21, 6, 96, 21, 4, 100, 47, 97, 80, 132, 6, 1, 167, 255, 213, 132, 5, 1]
abbrev dktX11_waysOf_5 : List UInt8 := dkwX11_waysOf_5 ++ dktX11_waysOf_6
def dkwX11_waysOf_4 : List UInt8 := [163, 0, 43, 42, 180, 0, 39, 16, 97, 21, 5, 104, 21, 6, 96, 92, 47, 42, 180, 0, 39, 16, 97]
abbrev dktX11_waysOf_4 : List UInt8 := dkwX11_waysOf_4 ++ dktX11_waysOf_5
def dkwX11_waysOf_3 : List UInt8 := [21, 4, 29, 163, 0, 74, 4, 54, 5, 21, 5, 28, 163, 0, 59, 21, 4, 54, 6, 21, 6, 27]
abbrev dktX11_waysOf_3 : List UInt8 := dkwX11_waysOf_3 ++ dktX11_waysOf_4
def dkwX11_waysOf_2 : List UInt8 := [154, 0, 7, 10, 167, 0, 4, 9, 80, 132, 5, 1, 167, 255, 218, 132, 4, 1, 167, 255, 202, 4, 54, 4]
abbrev dktX11_waysOf_2 : List UInt8 := dkwX11_waysOf_2 ++ dktX11_waysOf_3
def dkwX11_waysOf_1 : List UInt8 := [162, 0, 37, 42, 180, 0, 39, 16, 97, 21, 4, 104, 21, 5, 96, 21, 4, 154, 0, 12, 21, 5]
abbrev dktX11_waysOf_1 : List UInt8 := dkwX11_waysOf_1 ++ dktX11_waysOf_2
def dkwX11_waysOf_0 : List UInt8 := [27, 156, 0, 5, 9, 173, 3, 54, 4, 21, 4, 16, 12, 163, 0, 53, 3, 54, 5, 21, 5, 16, 97]
abbrev dktX11_waysOf_0 : List UInt8 := dkwX11_waysOf_0 ++ dktX11_waysOf_1
theorem dksX11_waysOf_0 : cX11_waysOf.data.toList.drop 0 = dktX11_waysOf_0 := by decide +kernel
theorem dksX11_waysOf_1 : cX11_waysOf.data.toList.drop 23 = dktX11_waysOf_1 := dk_seg dksX11_waysOf_0 23 rfl rfl
theorem dksX11_waysOf_2 : cX11_waysOf.data.toList.drop 45 = dktX11_waysOf_2 := dk_seg dksX11_waysOf_1 22 rfl rfl
theorem dksX11_waysOf_3 : cX11_waysOf.data.toList.drop 69 = dktX11_waysOf_3 := dk_seg dksX11_waysOf_2 24 rfl rfl
theorem dksX11_waysOf_4 : cX11_waysOf.data.toList.drop 91 = dktX11_waysOf_4 := dk_seg dksX11_waysOf_3 22 rfl rfl
theorem dksX11_waysOf_5 : cX11_waysOf.data.toList.drop 114 = dktX11_waysOf_5 := dk_seg dksX11_waysOf_4 23 rfl rfl
theorem dksX11_waysOf_6 : cX11_waysOf.data.toList.drop 137 = dktX11_waysOf_6 := dk_seg dksX11_waysOf_5 23 rfl rfl
theorem dksX11_waysOf_7 : cX11_waysOf.data.toList.drop 161 = dktX11_waysOf_7 := dk_seg dksX11_waysOf_6 24 rfl rfl
theorem dX11_waysOf_0 : decode cX11_waysOf 0 = .ok (.iload_n 1, 1) := dk_27 (dk_at dksX11_waysOf_0 0 rfl rfl)
theorem dX11_waysOf_1 : decode cX11_waysOf 1 = .ok (.ifCond .ge 5, 3) := dk_156 0 5 (dk_at dksX11_waysOf_0 1 rfl rfl)
theorem dX11_waysOf_4 : decode cX11_waysOf 4 = .ok (.lconst 0, 1) := dk_9 (dk_at dksX11_waysOf_0 4 rfl rfl)
theorem dX11_waysOf_5 : decode cX11_waysOf 5 = .ok (.lreturn, 1) := dk_173 (dk_at dksX11_waysOf_0 5 rfl rfl)
theorem dX11_waysOf_6 : decode cX11_waysOf 6 = .ok (.iconst 0, 1) := dk_3 (dk_at dksX11_waysOf_0 6 rfl rfl)
theorem dX11_waysOf_7 : decode cX11_waysOf 7 = .ok (.istore 4, 2) := dk_54 4 (dk_at dksX11_waysOf_0 7 rfl rfl)
theorem dX11_waysOf_9 : decode cX11_waysOf 9 = .ok (.iload 4, 2) := dk_21 4 (dk_at dksX11_waysOf_0 9 rfl rfl)
theorem dX11_waysOf_11 : decode cX11_waysOf 11 = .ok (.bipush 12, 2) := dk_16 12 (dk_at dksX11_waysOf_0 11 rfl rfl)
theorem dX11_waysOf_13 : decode cX11_waysOf 13 = .ok (.if_icmp .gt 53, 3) := dk_163 0 53 (dk_at dksX11_waysOf_0 13 rfl rfl)
theorem dX11_waysOf_16 : decode cX11_waysOf 16 = .ok (.iconst 0, 1) := dk_3 (dk_at dksX11_waysOf_0 16 rfl rfl)
theorem dX11_waysOf_17 : decode cX11_waysOf 17 = .ok (.istore 5, 2) := dk_54 5 (dk_at dksX11_waysOf_0 17 rfl rfl)
theorem dX11_waysOf_19 : decode cX11_waysOf 19 = .ok (.iload 5, 2) := dk_21 5 (dk_at dksX11_waysOf_0 19 rfl rfl)
theorem dX11_waysOf_21 : decode cX11_waysOf 21 = .ok (.bipush 97, 2) := dk_16 97 (dk_at dksX11_waysOf_0 21 rfl rfl)
theorem dX11_waysOf_23 : decode cX11_waysOf 23 = .ok (.if_icmp .ge 37, 3) := dk_162 0 37 (dk_at dksX11_waysOf_1 0 rfl rfl)
theorem dX11_waysOf_26 : decode cX11_waysOf 26 = .ok (.aload_n 0, 1) := dk_42 (dk_at dksX11_waysOf_1 3 rfl rfl)
theorem dX11_waysOf_27 : decode cX11_waysOf 27 = .ok (.getfield 39, 3) := dk_180 0 39 (dk_at dksX11_waysOf_1 4 rfl rfl)
theorem dX11_waysOf_30 : decode cX11_waysOf 30 = .ok (.bipush 97, 2) := dk_16 97 (dk_at dksX11_waysOf_1 7 rfl rfl)
theorem dX11_waysOf_32 : decode cX11_waysOf 32 = .ok (.iload 4, 2) := dk_21 4 (dk_at dksX11_waysOf_1 9 rfl rfl)
theorem dX11_waysOf_34 : decode cX11_waysOf 34 = .ok (.imul, 1) := dk_104 (dk_at dksX11_waysOf_1 11 rfl rfl)
theorem dX11_waysOf_35 : decode cX11_waysOf 35 = .ok (.iload 5, 2) := dk_21 5 (dk_at dksX11_waysOf_1 12 rfl rfl)
theorem dX11_waysOf_37 : decode cX11_waysOf 37 = .ok (.iadd, 1) := dk_96 (dk_at dksX11_waysOf_1 14 rfl rfl)
theorem dX11_waysOf_38 : decode cX11_waysOf 38 = .ok (.iload 4, 2) := dk_21 4 (dk_at dksX11_waysOf_1 15 rfl rfl)
theorem dX11_waysOf_40 : decode cX11_waysOf 40 = .ok (.ifCond .ne 12, 3) := dk_154 0 12 (dk_at dksX11_waysOf_1 17 rfl rfl)
theorem dX11_waysOf_43 : decode cX11_waysOf 43 = .ok (.iload 5, 2) := dk_21 5 (dk_at dksX11_waysOf_1 20 rfl rfl)
theorem dX11_waysOf_45 : decode cX11_waysOf 45 = .ok (.ifCond .ne 7, 3) := dk_154 0 7 (dk_at dksX11_waysOf_2 0 rfl rfl)
theorem dX11_waysOf_48 : decode cX11_waysOf 48 = .ok (.lconst 1, 1) := dk_10 (dk_at dksX11_waysOf_2 3 rfl rfl)
theorem dX11_waysOf_49 : decode cX11_waysOf 49 = .ok (.goto 4, 3) := dk_167 0 4 (dk_at dksX11_waysOf_2 4 rfl rfl)
theorem dX11_waysOf_52 : decode cX11_waysOf 52 = .ok (.lconst 0, 1) := dk_9 (dk_at dksX11_waysOf_2 7 rfl rfl)
theorem dX11_waysOf_53 : decode cX11_waysOf 53 = .ok (.lastore, 1) := dk_80 (dk_at dksX11_waysOf_2 8 rfl rfl)
theorem dX11_waysOf_54 : decode cX11_waysOf 54 = .ok (.iinc 5 1, 3) := dk_132 5 1 (dk_at dksX11_waysOf_2 9 rfl rfl)
theorem dX11_waysOf_57 : decode cX11_waysOf 57 = .ok (.goto (-38), 3) := dk_167 255 218 (dk_at dksX11_waysOf_2 12 rfl rfl)
theorem dX11_waysOf_60 : decode cX11_waysOf 60 = .ok (.iinc 4 1, 3) := dk_132 4 1 (dk_at dksX11_waysOf_2 15 rfl rfl)
theorem dX11_waysOf_63 : decode cX11_waysOf 63 = .ok (.goto (-54), 3) := dk_167 255 202 (dk_at dksX11_waysOf_2 18 rfl rfl)
theorem dX11_waysOf_66 : decode cX11_waysOf 66 = .ok (.iconst 1, 1) := dk_4 (dk_at dksX11_waysOf_2 21 rfl rfl)
theorem dX11_waysOf_67 : decode cX11_waysOf 67 = .ok (.istore 4, 2) := dk_54 4 (dk_at dksX11_waysOf_2 22 rfl rfl)
theorem dX11_waysOf_69 : decode cX11_waysOf 69 = .ok (.iload 4, 2) := dk_21 4 (dk_at dksX11_waysOf_3 0 rfl rfl)
theorem dX11_waysOf_71 : decode cX11_waysOf 71 = .ok (.iload_n 3, 1) := dk_29 (dk_at dksX11_waysOf_3 2 rfl rfl)
theorem dX11_waysOf_72 : decode cX11_waysOf 72 = .ok (.if_icmp .gt 74, 3) := dk_163 0 74 (dk_at dksX11_waysOf_3 3 rfl rfl)
theorem dX11_waysOf_75 : decode cX11_waysOf 75 = .ok (.iconst 1, 1) := dk_4 (dk_at dksX11_waysOf_3 6 rfl rfl)
theorem dX11_waysOf_76 : decode cX11_waysOf 76 = .ok (.istore 5, 2) := dk_54 5 (dk_at dksX11_waysOf_3 7 rfl rfl)
theorem dX11_waysOf_78 : decode cX11_waysOf 78 = .ok (.iload 5, 2) := dk_21 5 (dk_at dksX11_waysOf_3 9 rfl rfl)
theorem dX11_waysOf_80 : decode cX11_waysOf 80 = .ok (.iload_n 2, 1) := dk_28 (dk_at dksX11_waysOf_3 11 rfl rfl)
theorem dX11_waysOf_81 : decode cX11_waysOf 81 = .ok (.if_icmp .gt 59, 3) := dk_163 0 59 (dk_at dksX11_waysOf_3 12 rfl rfl)
theorem dX11_waysOf_84 : decode cX11_waysOf 84 = .ok (.iload 4, 2) := dk_21 4 (dk_at dksX11_waysOf_3 15 rfl rfl)
theorem dX11_waysOf_86 : decode cX11_waysOf 86 = .ok (.istore 6, 2) := dk_54 6 (dk_at dksX11_waysOf_3 17 rfl rfl)
theorem dX11_waysOf_88 : decode cX11_waysOf 88 = .ok (.iload 6, 2) := dk_21 6 (dk_at dksX11_waysOf_3 19 rfl rfl)
theorem dX11_waysOf_90 : decode cX11_waysOf 90 = .ok (.iload_n 1, 1) := dk_27 (dk_at dksX11_waysOf_3 21 rfl rfl)
theorem dX11_waysOf_91 : decode cX11_waysOf 91 = .ok (.if_icmp .gt 43, 3) := dk_163 0 43 (dk_at dksX11_waysOf_4 0 rfl rfl)
theorem dX11_waysOf_94 : decode cX11_waysOf 94 = .ok (.aload_n 0, 1) := dk_42 (dk_at dksX11_waysOf_4 3 rfl rfl)
theorem dX11_waysOf_95 : decode cX11_waysOf 95 = .ok (.getfield 39, 3) := dk_180 0 39 (dk_at dksX11_waysOf_4 4 rfl rfl)
theorem dX11_waysOf_98 : decode cX11_waysOf 98 = .ok (.bipush 97, 2) := dk_16 97 (dk_at dksX11_waysOf_4 7 rfl rfl)
theorem dX11_waysOf_100 : decode cX11_waysOf 100 = .ok (.iload 5, 2) := dk_21 5 (dk_at dksX11_waysOf_4 9 rfl rfl)
theorem dX11_waysOf_102 : decode cX11_waysOf 102 = .ok (.imul, 1) := dk_104 (dk_at dksX11_waysOf_4 11 rfl rfl)
theorem dX11_waysOf_103 : decode cX11_waysOf 103 = .ok (.iload 6, 2) := dk_21 6 (dk_at dksX11_waysOf_4 12 rfl rfl)
theorem dX11_waysOf_105 : decode cX11_waysOf 105 = .ok (.iadd, 1) := dk_96 (dk_at dksX11_waysOf_4 14 rfl rfl)
theorem dX11_waysOf_106 : decode cX11_waysOf 106 = .ok (.dup2, 1) := dk_92 (dk_at dksX11_waysOf_4 15 rfl rfl)
theorem dX11_waysOf_107 : decode cX11_waysOf 107 = .ok (.laload, 1) := dk_47 (dk_at dksX11_waysOf_4 16 rfl rfl)
theorem dX11_waysOf_108 : decode cX11_waysOf 108 = .ok (.aload_n 0, 1) := dk_42 (dk_at dksX11_waysOf_4 17 rfl rfl)
theorem dX11_waysOf_109 : decode cX11_waysOf 109 = .ok (.getfield 39, 3) := dk_180 0 39 (dk_at dksX11_waysOf_4 18 rfl rfl)
theorem dX11_waysOf_112 : decode cX11_waysOf 112 = .ok (.bipush 97, 2) := dk_16 97 (dk_at dksX11_waysOf_4 21 rfl rfl)
theorem dX11_waysOf_114 : decode cX11_waysOf 114 = .ok (.iload 5, 2) := dk_21 5 (dk_at dksX11_waysOf_5 0 rfl rfl)
theorem dX11_waysOf_116 : decode cX11_waysOf 116 = .ok (.iconst 1, 1) := dk_4 (dk_at dksX11_waysOf_5 2 rfl rfl)
theorem dX11_waysOf_117 : decode cX11_waysOf 117 = .ok (.isub, 1) := dk_100 (dk_at dksX11_waysOf_5 3 rfl rfl)
theorem dX11_waysOf_118 : decode cX11_waysOf 118 = .ok (.imul, 1) := dk_104 (dk_at dksX11_waysOf_5 4 rfl rfl)
theorem dX11_waysOf_119 : decode cX11_waysOf 119 = .ok (.iload 6, 2) := dk_21 6 (dk_at dksX11_waysOf_5 5 rfl rfl)
theorem dX11_waysOf_121 : decode cX11_waysOf 121 = .ok (.iadd, 1) := dk_96 (dk_at dksX11_waysOf_5 7 rfl rfl)
theorem dX11_waysOf_122 : decode cX11_waysOf 122 = .ok (.iload 4, 2) := dk_21 4 (dk_at dksX11_waysOf_5 8 rfl rfl)
theorem dX11_waysOf_124 : decode cX11_waysOf 124 = .ok (.isub, 1) := dk_100 (dk_at dksX11_waysOf_5 10 rfl rfl)
theorem dX11_waysOf_125 : decode cX11_waysOf 125 = .ok (.laload, 1) := dk_47 (dk_at dksX11_waysOf_5 11 rfl rfl)
theorem dX11_waysOf_126 : decode cX11_waysOf 126 = .ok (.ladd, 1) := dk_97 (dk_at dksX11_waysOf_5 12 rfl rfl)
theorem dX11_waysOf_127 : decode cX11_waysOf 127 = .ok (.lastore, 1) := dk_80 (dk_at dksX11_waysOf_5 13 rfl rfl)
theorem dX11_waysOf_128 : decode cX11_waysOf 128 = .ok (.iinc 6 1, 3) := dk_132 6 1 (dk_at dksX11_waysOf_5 14 rfl rfl)
theorem dX11_waysOf_131 : decode cX11_waysOf 131 = .ok (.goto (-43), 3) := dk_167 255 213 (dk_at dksX11_waysOf_5 17 rfl rfl)
theorem dX11_waysOf_134 : decode cX11_waysOf 134 = .ok (.iinc 5 1, 3) := dk_132 5 1 (dk_at dksX11_waysOf_5 20 rfl rfl)
theorem dX11_waysOf_137 : decode cX11_waysOf 137 = .ok (.goto (-59), 3) := dk_167 255 197 (dk_at dksX11_waysOf_6 0 rfl rfl)
theorem dX11_waysOf_140 : decode cX11_waysOf 140 = .ok (.iinc 4 1, 3) := dk_132 4 1 (dk_at dksX11_waysOf_6 3 rfl rfl)
theorem dX11_waysOf_143 : decode cX11_waysOf 143 = .ok (.goto (-74), 3) := dk_167 255 182 (dk_at dksX11_waysOf_6 6 rfl rfl)
theorem dX11_waysOf_146 : decode cX11_waysOf 146 = .ok (.lconst 0, 1) := dk_9 (dk_at dksX11_waysOf_6 9 rfl rfl)
theorem dX11_waysOf_147 : decode cX11_waysOf 147 = .ok (.lstore 4, 2) := dk_55 4 (dk_at dksX11_waysOf_6 10 rfl rfl)
theorem dX11_waysOf_149 : decode cX11_waysOf 149 = .ok (.iconst 0, 1) := dk_3 (dk_at dksX11_waysOf_6 12 rfl rfl)
theorem dX11_waysOf_150 : decode cX11_waysOf 150 = .ok (.istore 6, 2) := dk_54 6 (dk_at dksX11_waysOf_6 13 rfl rfl)
theorem dX11_waysOf_152 : decode cX11_waysOf 152 = .ok (.iload 6, 2) := dk_21 6 (dk_at dksX11_waysOf_6 15 rfl rfl)
theorem dX11_waysOf_154 : decode cX11_waysOf 154 = .ok (.iload_n 2, 1) := dk_28 (dk_at dksX11_waysOf_6 17 rfl rfl)
theorem dX11_waysOf_155 : decode cX11_waysOf 155 = .ok (.if_icmp .gt 26, 3) := dk_163 0 26 (dk_at dksX11_waysOf_6 18 rfl rfl)
theorem dX11_waysOf_158 : decode cX11_waysOf 158 = .ok (.lload 4, 2) := dk_22 4 (dk_at dksX11_waysOf_6 21 rfl rfl)
theorem dX11_waysOf_160 : decode cX11_waysOf 160 = .ok (.aload_n 0, 1) := dk_42 (dk_at dksX11_waysOf_6 23 rfl rfl)
theorem dX11_waysOf_161 : decode cX11_waysOf 161 = .ok (.getfield 39, 3) := dk_180 0 39 (dk_at dksX11_waysOf_7 0 rfl rfl)
theorem dX11_waysOf_164 : decode cX11_waysOf 164 = .ok (.bipush 97, 2) := dk_16 97 (dk_at dksX11_waysOf_7 3 rfl rfl)
theorem dX11_waysOf_166 : decode cX11_waysOf 166 = .ok (.iload 6, 2) := dk_21 6 (dk_at dksX11_waysOf_7 5 rfl rfl)
theorem dX11_waysOf_168 : decode cX11_waysOf 168 = .ok (.imul, 1) := dk_104 (dk_at dksX11_waysOf_7 7 rfl rfl)
theorem dX11_waysOf_169 : decode cX11_waysOf 169 = .ok (.iload_n 1, 1) := dk_27 (dk_at dksX11_waysOf_7 8 rfl rfl)
theorem dX11_waysOf_170 : decode cX11_waysOf 170 = .ok (.iadd, 1) := dk_96 (dk_at dksX11_waysOf_7 9 rfl rfl)
theorem dX11_waysOf_171 : decode cX11_waysOf 171 = .ok (.laload, 1) := dk_47 (dk_at dksX11_waysOf_7 10 rfl rfl)
theorem dX11_waysOf_172 : decode cX11_waysOf 172 = .ok (.ladd, 1) := dk_97 (dk_at dksX11_waysOf_7 11 rfl rfl)
theorem dX11_waysOf_173 : decode cX11_waysOf 173 = .ok (.lstore 4, 2) := dk_55 4 (dk_at dksX11_waysOf_7 12 rfl rfl)
theorem dX11_waysOf_175 : decode cX11_waysOf 175 = .ok (.iinc 6 1, 3) := dk_132 6 1 (dk_at dksX11_waysOf_7 14 rfl rfl)
theorem dX11_waysOf_178 : decode cX11_waysOf 178 = .ok (.goto (-26), 3) := dk_167 255 230 (dk_at dksX11_waysOf_7 17 rfl rfl)
theorem dX11_waysOf_181 : decode cX11_waysOf 181 = .ok (.lload 4, 2) := dk_22 4 (dk_at dksX11_waysOf_7 20 rfl rfl)
theorem dX11_waysOf_183 : decode cX11_waysOf 183 = .ok (.lreturn, 1) := dk_173 (dk_at dksX11_waysOf_7 22 rfl rfl)
abbrev cX11_span : ByteArray := prog_18_method_88_code
def yX11_span : MethodName := ⟨RX11, "span", "(III)I"⟩
def dkwX11_span_2 : List UInt8 := [167, 0, 8, 21, 4, 184, 1, 56, 172]
abbrev dktX11_span_2 : List UInt8 := dkwX11_span_2 ++ []
def dkwX11_span_1 : List UInt8 := [182, 0, 215, 153, 0, 5, 3, 172, 42, 27, 28, 29, 182, 1, 53, 54, 4, 21, 4, 156, 0, 7, 2]
abbrev dktX11_span_1 : List UInt8 := dkwX11_span_1 ++ dktX11_span_2
def dkwX11_span_0 : List UInt8 := [42, 3, 181, 0, 3, 42, 28, 4, 16, 8, 184, 0, 68, 154, 0, 7, 4, 167, 0, 4, 3, 4]
abbrev dktX11_span_0 : List UInt8 := dkwX11_span_0 ++ dktX11_span_1
theorem dksX11_span_0 : cX11_span.data.toList.drop 0 = dktX11_span_0 := by decide +kernel
theorem dksX11_span_1 : cX11_span.data.toList.drop 22 = dktX11_span_1 := dk_seg dksX11_span_0 22 rfl rfl
theorem dksX11_span_2 : cX11_span.data.toList.drop 45 = dktX11_span_2 := dk_seg dksX11_span_1 23 rfl rfl
theorem dX11_span_0 : decode cX11_span 0 = .ok (.aload_n 0, 1) := dk_42 (dk_at dksX11_span_0 0 rfl rfl)
theorem dX11_span_1 : decode cX11_span 1 = .ok (.iconst 0, 1) := dk_3 (dk_at dksX11_span_0 1 rfl rfl)
theorem dX11_span_2 : decode cX11_span 2 = .ok (.putfield 3, 3) := dk_181 0 3 (dk_at dksX11_span_0 2 rfl rfl)
theorem dX11_span_5 : decode cX11_span 5 = .ok (.aload_n 0, 1) := dk_42 (dk_at dksX11_span_0 5 rfl rfl)
theorem dX11_span_6 : decode cX11_span 6 = .ok (.iload_n 2, 1) := dk_28 (dk_at dksX11_span_0 6 rfl rfl)
theorem dX11_span_7 : decode cX11_span 7 = .ok (.iconst 1, 1) := dk_4 (dk_at dksX11_span_0 7 rfl rfl)
theorem dX11_span_8 : decode cX11_span 8 = .ok (.bipush 8, 2) := dk_16 8 (dk_at dksX11_span_0 8 rfl rfl)
theorem dX11_span_10 : decode cX11_span 10 = .ok (.invokestatic 68, 3) := dk_184 0 68 (dk_at dksX11_span_0 10 rfl rfl)
theorem dX11_span_13 : decode cX11_span 13 = .ok (.ifCond .ne 7, 3) := dk_154 0 7 (dk_at dksX11_span_0 13 rfl rfl)
theorem dX11_span_16 : decode cX11_span 16 = .ok (.iconst 1, 1) := dk_4 (dk_at dksX11_span_0 16 rfl rfl)
theorem dX11_span_17 : decode cX11_span 17 = .ok (.goto 4, 3) := dk_167 0 4 (dk_at dksX11_span_0 17 rfl rfl)
theorem dX11_span_20 : decode cX11_span 20 = .ok (.iconst 0, 1) := dk_3 (dk_at dksX11_span_0 20 rfl rfl)
theorem dX11_span_21 : decode cX11_span 21 = .ok (.iconst 1, 1) := dk_4 (dk_at dksX11_span_0 21 rfl rfl)
theorem dX11_span_22 : decode cX11_span 22 = .ok (.invokevirtual 215, 3) := dk_182 0 215 (dk_at dksX11_span_1 0 rfl rfl)
theorem dX11_span_25 : decode cX11_span 25 = .ok (.ifCond .eq 5, 3) := dk_153 0 5 (dk_at dksX11_span_1 3 rfl rfl)
theorem dX11_span_28 : decode cX11_span 28 = .ok (.iconst 0, 1) := dk_3 (dk_at dksX11_span_1 6 rfl rfl)
theorem dX11_span_29 : decode cX11_span 29 = .ok (.ireturn, 1) := dk_172 (dk_at dksX11_span_1 7 rfl rfl)
theorem dX11_span_30 : decode cX11_span 30 = .ok (.aload_n 0, 1) := dk_42 (dk_at dksX11_span_1 8 rfl rfl)
theorem dX11_span_31 : decode cX11_span 31 = .ok (.iload_n 1, 1) := dk_27 (dk_at dksX11_span_1 9 rfl rfl)
theorem dX11_span_32 : decode cX11_span 32 = .ok (.iload_n 2, 1) := dk_28 (dk_at dksX11_span_1 10 rfl rfl)
theorem dX11_span_33 : decode cX11_span 33 = .ok (.iload_n 3, 1) := dk_29 (dk_at dksX11_span_1 11 rfl rfl)
theorem dX11_span_34 : decode cX11_span 34 = .ok (.invokevirtual 309, 3) := dk_182 1 53 (dk_at dksX11_span_1 12 rfl rfl)
theorem dX11_span_37 : decode cX11_span 37 = .ok (.istore 4, 2) := dk_54 4 (dk_at dksX11_span_1 15 rfl rfl)
theorem dX11_span_39 : decode cX11_span 39 = .ok (.iload 4, 2) := dk_21 4 (dk_at dksX11_span_1 17 rfl rfl)
theorem dX11_span_41 : decode cX11_span 41 = .ok (.ifCond .ge 7, 3) := dk_156 0 7 (dk_at dksX11_span_1 19 rfl rfl)
theorem dX11_span_44 : decode cX11_span 44 = .ok (.iconst (-1), 1) := dk_2 (dk_at dksX11_span_1 22 rfl rfl)
theorem dX11_span_45 : decode cX11_span 45 = .ok (.goto 8, 3) := dk_167 0 8 (dk_at dksX11_span_2 0 rfl rfl)
theorem dX11_span_48 : decode cX11_span 48 = .ok (.iload 4, 2) := dk_21 4 (dk_at dksX11_span_2 3 rfl rfl)
theorem dX11_span_50 : decode cX11_span 50 = .ok (.invokestatic 312, 3) := dk_184 1 56 (dk_at dksX11_span_2 5 rfl rfl)
theorem dX11_span_53 : decode cX11_span 53 = .ok (.ireturn, 1) := dk_172 (dk_at dksX11_span_2 8 rfl rfl)
abbrev cX11_basisOf : ByteArray := prog_18_method_87_code
def yX11_basisOf : MethodName := ⟨RX11, "basisOf", "(III)I"⟩
def dkwX11_basisOf_4 : List UInt8 := [21, 7, 120, 128, 54, 5, 132, 7, 1, 167, 255, 172, 21, 5, 172]
abbrev dktX11_basisOf_4 : List UInt8 := dkwX11_basisOf_4 ++ []
def dkwX11_basisOf_3 : List UInt8 := [17, 1, 236, 21, 4, 104, 21, 4, 182, 1, 50, 154, 0, 6, 167, 0, 15, 132, 4, 1, 21, 5, 4]
abbrev dktX11_basisOf_3 : List UInt8 := dkwX11_basisOf_3 ++ dktX11_basisOf_4
def dkwX11_basisOf_2 : List UInt8 := [21, 4, 104, 21, 6, 182, 1, 47, 154, 0, 5, 2, 172, 42, 180, 0, 20, 3, 46, 54, 6, 42]
abbrev dktX11_basisOf_2 : List UInt8 := dkwX11_basisOf_2 ++ dktX11_basisOf_3
def dkwX11_basisOf_1 : List UInt8 := [6, 46, 162, 0, 79, 27, 21, 7, 122, 4, 126, 154, 0, 6, 167, 0, 61, 42, 21, 7, 28, 17, 1, 236]
abbrev dktX11_basisOf_1 : List UInt8 := dkwX11_basisOf_1 ++ dktX11_basisOf_2
def dkwX11_basisOf_0 : List UInt8 := [42, 28, 29, 182, 1, 44, 3, 54, 4, 3, 54, 5, 2, 54, 6, 3, 54, 7, 21, 7, 42, 180, 0, 13]
abbrev dktX11_basisOf_0 : List UInt8 := dkwX11_basisOf_0 ++ dktX11_basisOf_1
theorem dksX11_basisOf_0 : cX11_basisOf.data.toList.drop 0 = dktX11_basisOf_0 := by decide +kernel
theorem dksX11_basisOf_1 : cX11_basisOf.data.toList.drop 24 = dktX11_basisOf_1 := dk_seg dksX11_basisOf_0 24 rfl rfl
theorem dksX11_basisOf_2 : cX11_basisOf.data.toList.drop 48 = dktX11_basisOf_2 := dk_seg dksX11_basisOf_1 24 rfl rfl
theorem dksX11_basisOf_3 : cX11_basisOf.data.toList.drop 70 = dktX11_basisOf_3 := dk_seg dksX11_basisOf_2 22 rfl rfl
theorem dksX11_basisOf_4 : cX11_basisOf.data.toList.drop 93 = dktX11_basisOf_4 := dk_seg dksX11_basisOf_3 23 rfl rfl
theorem dX11_basisOf_0 : decode cX11_basisOf 0 = .ok (.aload_n 0, 1) := dk_42 (dk_at dksX11_basisOf_0 0 rfl rfl)
theorem dX11_basisOf_1 : decode cX11_basisOf 1 = .ok (.iload_n 2, 1) := dk_28 (dk_at dksX11_basisOf_0 1 rfl rfl)
theorem dX11_basisOf_2 : decode cX11_basisOf 2 = .ok (.iload_n 3, 1) := dk_29 (dk_at dksX11_basisOf_0 2 rfl rfl)
theorem dX11_basisOf_3 : decode cX11_basisOf 3 = .ok (.invokevirtual 300, 3) := dk_182 1 44 (dk_at dksX11_basisOf_0 3 rfl rfl)
theorem dX11_basisOf_6 : decode cX11_basisOf 6 = .ok (.iconst 0, 1) := dk_3 (dk_at dksX11_basisOf_0 6 rfl rfl)
theorem dX11_basisOf_7 : decode cX11_basisOf 7 = .ok (.istore 4, 2) := dk_54 4 (dk_at dksX11_basisOf_0 7 rfl rfl)
theorem dX11_basisOf_9 : decode cX11_basisOf 9 = .ok (.iconst 0, 1) := dk_3 (dk_at dksX11_basisOf_0 9 rfl rfl)
theorem dX11_basisOf_10 : decode cX11_basisOf 10 = .ok (.istore 5, 2) := dk_54 5 (dk_at dksX11_basisOf_0 10 rfl rfl)
theorem dX11_basisOf_12 : decode cX11_basisOf 12 = .ok (.iconst (-1), 1) := dk_2 (dk_at dksX11_basisOf_0 12 rfl rfl)
theorem dX11_basisOf_13 : decode cX11_basisOf 13 = .ok (.istore 6, 2) := dk_54 6 (dk_at dksX11_basisOf_0 13 rfl rfl)
theorem dX11_basisOf_15 : decode cX11_basisOf 15 = .ok (.iconst 0, 1) := dk_3 (dk_at dksX11_basisOf_0 15 rfl rfl)
theorem dX11_basisOf_16 : decode cX11_basisOf 16 = .ok (.istore 7, 2) := dk_54 7 (dk_at dksX11_basisOf_0 16 rfl rfl)
theorem dX11_basisOf_18 : decode cX11_basisOf 18 = .ok (.iload 7, 2) := dk_21 7 (dk_at dksX11_basisOf_0 18 rfl rfl)
theorem dX11_basisOf_20 : decode cX11_basisOf 20 = .ok (.aload_n 0, 1) := dk_42 (dk_at dksX11_basisOf_0 20 rfl rfl)
theorem dX11_basisOf_21 : decode cX11_basisOf 21 = .ok (.getfield 13, 3) := dk_180 0 13 (dk_at dksX11_basisOf_0 21 rfl rfl)
theorem dX11_basisOf_24 : decode cX11_basisOf 24 = .ok (.iconst 3, 1) := dk_6 (dk_at dksX11_basisOf_1 0 rfl rfl)
theorem dX11_basisOf_25 : decode cX11_basisOf 25 = .ok (.iaload, 1) := dk_46 (dk_at dksX11_basisOf_1 1 rfl rfl)
theorem dX11_basisOf_26 : decode cX11_basisOf 26 = .ok (.if_icmp .ge 79, 3) := dk_162 0 79 (dk_at dksX11_basisOf_1 2 rfl rfl)
theorem dX11_basisOf_29 : decode cX11_basisOf 29 = .ok (.iload_n 1, 1) := dk_27 (dk_at dksX11_basisOf_1 5 rfl rfl)
theorem dX11_basisOf_30 : decode cX11_basisOf 30 = .ok (.iload 7, 2) := dk_21 7 (dk_at dksX11_basisOf_1 6 rfl rfl)
theorem dX11_basisOf_32 : decode cX11_basisOf 32 = .ok (.ishr, 1) := dk_122 (dk_at dksX11_basisOf_1 8 rfl rfl)
theorem dX11_basisOf_33 : decode cX11_basisOf 33 = .ok (.iconst 1, 1) := dk_4 (dk_at dksX11_basisOf_1 9 rfl rfl)
theorem dX11_basisOf_34 : decode cX11_basisOf 34 = .ok (.iand, 1) := dk_126 (dk_at dksX11_basisOf_1 10 rfl rfl)
theorem dX11_basisOf_35 : decode cX11_basisOf 35 = .ok (.ifCond .ne 6, 3) := dk_154 0 6 (dk_at dksX11_basisOf_1 11 rfl rfl)
theorem dX11_basisOf_38 : decode cX11_basisOf 38 = .ok (.goto 61, 3) := dk_167 0 61 (dk_at dksX11_basisOf_1 14 rfl rfl)
theorem dX11_basisOf_41 : decode cX11_basisOf 41 = .ok (.aload_n 0, 1) := dk_42 (dk_at dksX11_basisOf_1 17 rfl rfl)
theorem dX11_basisOf_42 : decode cX11_basisOf 42 = .ok (.iload 7, 2) := dk_21 7 (dk_at dksX11_basisOf_1 18 rfl rfl)
theorem dX11_basisOf_44 : decode cX11_basisOf 44 = .ok (.iload_n 2, 1) := dk_28 (dk_at dksX11_basisOf_1 20 rfl rfl)
theorem dX11_basisOf_45 : decode cX11_basisOf 45 = .ok (.sipush 492, 3) := dk_17 1 236 (dk_at dksX11_basisOf_1 21 rfl rfl)
theorem dX11_basisOf_48 : decode cX11_basisOf 48 = .ok (.iload 4, 2) := dk_21 4 (dk_at dksX11_basisOf_2 0 rfl rfl)
theorem dX11_basisOf_50 : decode cX11_basisOf 50 = .ok (.imul, 1) := dk_104 (dk_at dksX11_basisOf_2 2 rfl rfl)
theorem dX11_basisOf_51 : decode cX11_basisOf 51 = .ok (.iload 6, 2) := dk_21 6 (dk_at dksX11_basisOf_2 3 rfl rfl)
theorem dX11_basisOf_53 : decode cX11_basisOf 53 = .ok (.invokevirtual 303, 3) := dk_182 1 47 (dk_at dksX11_basisOf_2 5 rfl rfl)
theorem dX11_basisOf_56 : decode cX11_basisOf 56 = .ok (.ifCond .ne 5, 3) := dk_154 0 5 (dk_at dksX11_basisOf_2 8 rfl rfl)
theorem dX11_basisOf_59 : decode cX11_basisOf 59 = .ok (.iconst (-1), 1) := dk_2 (dk_at dksX11_basisOf_2 11 rfl rfl)
theorem dX11_basisOf_60 : decode cX11_basisOf 60 = .ok (.ireturn, 1) := dk_172 (dk_at dksX11_basisOf_2 12 rfl rfl)
theorem dX11_basisOf_61 : decode cX11_basisOf 61 = .ok (.aload_n 0, 1) := dk_42 (dk_at dksX11_basisOf_2 13 rfl rfl)
theorem dX11_basisOf_62 : decode cX11_basisOf 62 = .ok (.getfield 20, 3) := dk_180 0 20 (dk_at dksX11_basisOf_2 14 rfl rfl)
theorem dX11_basisOf_65 : decode cX11_basisOf 65 = .ok (.iconst 0, 1) := dk_3 (dk_at dksX11_basisOf_2 17 rfl rfl)
theorem dX11_basisOf_66 : decode cX11_basisOf 66 = .ok (.iaload, 1) := dk_46 (dk_at dksX11_basisOf_2 18 rfl rfl)
theorem dX11_basisOf_67 : decode cX11_basisOf 67 = .ok (.istore 6, 2) := dk_54 6 (dk_at dksX11_basisOf_2 19 rfl rfl)
theorem dX11_basisOf_69 : decode cX11_basisOf 69 = .ok (.aload_n 0, 1) := dk_42 (dk_at dksX11_basisOf_2 21 rfl rfl)
theorem dX11_basisOf_70 : decode cX11_basisOf 70 = .ok (.sipush 492, 3) := dk_17 1 236 (dk_at dksX11_basisOf_3 0 rfl rfl)
theorem dX11_basisOf_73 : decode cX11_basisOf 73 = .ok (.iload 4, 2) := dk_21 4 (dk_at dksX11_basisOf_3 3 rfl rfl)
theorem dX11_basisOf_75 : decode cX11_basisOf 75 = .ok (.imul, 1) := dk_104 (dk_at dksX11_basisOf_3 5 rfl rfl)
theorem dX11_basisOf_76 : decode cX11_basisOf 76 = .ok (.iload 4, 2) := dk_21 4 (dk_at dksX11_basisOf_3 6 rfl rfl)
theorem dX11_basisOf_78 : decode cX11_basisOf 78 = .ok (.invokevirtual 306, 3) := dk_182 1 50 (dk_at dksX11_basisOf_3 8 rfl rfl)
theorem dX11_basisOf_81 : decode cX11_basisOf 81 = .ok (.ifCond .ne 6, 3) := dk_154 0 6 (dk_at dksX11_basisOf_3 11 rfl rfl)
theorem dX11_basisOf_84 : decode cX11_basisOf 84 = .ok (.goto 15, 3) := dk_167 0 15 (dk_at dksX11_basisOf_3 14 rfl rfl)
theorem dX11_basisOf_87 : decode cX11_basisOf 87 = .ok (.iinc 4 1, 3) := dk_132 4 1 (dk_at dksX11_basisOf_3 17 rfl rfl)
theorem dX11_basisOf_90 : decode cX11_basisOf 90 = .ok (.iload 5, 2) := dk_21 5 (dk_at dksX11_basisOf_3 20 rfl rfl)
theorem dX11_basisOf_92 : decode cX11_basisOf 92 = .ok (.iconst 1, 1) := dk_4 (dk_at dksX11_basisOf_3 22 rfl rfl)
theorem dX11_basisOf_93 : decode cX11_basisOf 93 = .ok (.iload 7, 2) := dk_21 7 (dk_at dksX11_basisOf_4 0 rfl rfl)
theorem dX11_basisOf_95 : decode cX11_basisOf 95 = .ok (.ishl, 1) := dk_120 (dk_at dksX11_basisOf_4 2 rfl rfl)
theorem dX11_basisOf_96 : decode cX11_basisOf 96 = .ok (.ior, 1) := dk_128 (dk_at dksX11_basisOf_4 3 rfl rfl)
theorem dX11_basisOf_97 : decode cX11_basisOf 97 = .ok (.istore 5, 2) := dk_54 5 (dk_at dksX11_basisOf_4 4 rfl rfl)
theorem dX11_basisOf_99 : decode cX11_basisOf 99 = .ok (.iinc 7 1, 3) := dk_132 7 1 (dk_at dksX11_basisOf_4 6 rfl rfl)
theorem dX11_basisOf_102 : decode cX11_basisOf 102 = .ok (.goto (-84), 3) := dk_167 255 172 (dk_at dksX11_basisOf_4 9 rfl rfl)
theorem dX11_basisOf_105 : decode cX11_basisOf 105 = .ok (.iload 5, 2) := dk_21 5 (dk_at dksX11_basisOf_4 12 rfl rfl)
theorem dX11_basisOf_107 : decode cX11_basisOf 107 = .ok (.ireturn, 1) := dk_172 (dk_at dksX11_basisOf_4 14 rfl rfl)
abbrev cX11_draws : ByteArray := prog_18_method_83_code
def yX11_draws : MethodName := ⟨RX11, "draws", "(II)V"⟩
def dkwX11_draws_2 : List UInt8 := [132, 4, 1, 167, 255, 212, 177]
abbrev dktX11_draws_2 : List UInt8 := dkwX11_draws_2 ++ []
def dkwX11_draws_1 : List UInt8 := [96, 62, 42, 180, 0, 46, 21, 4, 29, 16, 16, 122, 17, 127, 255, 126, 42, 182, 0, 76, 112, 79]
abbrev dktX11_draws_1 : List UInt8 := dkwX11_draws_1 ++ dktX11_draws_2
def dkwX11_draws_0 : List UInt8 := [28, 62, 3, 54, 4, 21, 4, 16, 12, 27, 4, 96, 104, 162, 0, 39, 19, 1, 37, 29, 104, 17, 48, 57]
abbrev dktX11_draws_0 : List UInt8 := dkwX11_draws_0 ++ dktX11_draws_1
theorem dksX11_draws_0 : cX11_draws.data.toList.drop 0 = dktX11_draws_0 := by decide +kernel
theorem dksX11_draws_1 : cX11_draws.data.toList.drop 24 = dktX11_draws_1 := dk_seg dksX11_draws_0 24 rfl rfl
theorem dksX11_draws_2 : cX11_draws.data.toList.drop 46 = dktX11_draws_2 := dk_seg dksX11_draws_1 22 rfl rfl
theorem dX11_draws_0 : decode cX11_draws 0 = .ok (.iload_n 2, 1) := dk_28 (dk_at dksX11_draws_0 0 rfl rfl)
theorem dX11_draws_1 : decode cX11_draws 1 = .ok (.istore_n 3, 1) := dk_62 (dk_at dksX11_draws_0 1 rfl rfl)
theorem dX11_draws_2 : decode cX11_draws 2 = .ok (.iconst 0, 1) := dk_3 (dk_at dksX11_draws_0 2 rfl rfl)
theorem dX11_draws_3 : decode cX11_draws 3 = .ok (.istore 4, 2) := dk_54 4 (dk_at dksX11_draws_0 3 rfl rfl)
theorem dX11_draws_5 : decode cX11_draws 5 = .ok (.iload 4, 2) := dk_21 4 (dk_at dksX11_draws_0 5 rfl rfl)
theorem dX11_draws_7 : decode cX11_draws 7 = .ok (.bipush 12, 2) := dk_16 12 (dk_at dksX11_draws_0 7 rfl rfl)
theorem dX11_draws_9 : decode cX11_draws 9 = .ok (.iload_n 1, 1) := dk_27 (dk_at dksX11_draws_0 9 rfl rfl)
theorem dX11_draws_10 : decode cX11_draws 10 = .ok (.iconst 1, 1) := dk_4 (dk_at dksX11_draws_0 10 rfl rfl)
theorem dX11_draws_11 : decode cX11_draws 11 = .ok (.iadd, 1) := dk_96 (dk_at dksX11_draws_0 11 rfl rfl)
theorem dX11_draws_12 : decode cX11_draws 12 = .ok (.imul, 1) := dk_104 (dk_at dksX11_draws_0 12 rfl rfl)
theorem dX11_draws_13 : decode cX11_draws 13 = .ok (.if_icmp .ge 39, 3) := dk_162 0 39 (dk_at dksX11_draws_0 13 rfl rfl)
theorem dX11_draws_16 : decode cX11_draws 16 = .ok (.ldc_w 293, 3) := dk_19 1 37 (dk_at dksX11_draws_0 16 rfl rfl)
theorem dX11_draws_19 : decode cX11_draws 19 = .ok (.iload_n 3, 1) := dk_29 (dk_at dksX11_draws_0 19 rfl rfl)
theorem dX11_draws_20 : decode cX11_draws 20 = .ok (.imul, 1) := dk_104 (dk_at dksX11_draws_0 20 rfl rfl)
theorem dX11_draws_21 : decode cX11_draws 21 = .ok (.sipush 12345, 3) := dk_17 48 57 (dk_at dksX11_draws_0 21 rfl rfl)
theorem dX11_draws_24 : decode cX11_draws 24 = .ok (.iadd, 1) := dk_96 (dk_at dksX11_draws_1 0 rfl rfl)
theorem dX11_draws_25 : decode cX11_draws 25 = .ok (.istore_n 3, 1) := dk_62 (dk_at dksX11_draws_1 1 rfl rfl)
theorem dX11_draws_26 : decode cX11_draws 26 = .ok (.aload_n 0, 1) := dk_42 (dk_at dksX11_draws_1 2 rfl rfl)
theorem dX11_draws_27 : decode cX11_draws 27 = .ok (.getfield 46, 3) := dk_180 0 46 (dk_at dksX11_draws_1 3 rfl rfl)
theorem dX11_draws_30 : decode cX11_draws 30 = .ok (.iload 4, 2) := dk_21 4 (dk_at dksX11_draws_1 6 rfl rfl)
theorem dX11_draws_32 : decode cX11_draws 32 = .ok (.iload_n 3, 1) := dk_29 (dk_at dksX11_draws_1 8 rfl rfl)
theorem dX11_draws_33 : decode cX11_draws 33 = .ok (.bipush 16, 2) := dk_16 16 (dk_at dksX11_draws_1 9 rfl rfl)
theorem dX11_draws_35 : decode cX11_draws 35 = .ok (.ishr, 1) := dk_122 (dk_at dksX11_draws_1 11 rfl rfl)
theorem dX11_draws_36 : decode cX11_draws 36 = .ok (.sipush 32767, 3) := dk_17 127 255 (dk_at dksX11_draws_1 12 rfl rfl)
theorem dX11_draws_39 : decode cX11_draws 39 = .ok (.iand, 1) := dk_126 (dk_at dksX11_draws_1 15 rfl rfl)
theorem dX11_draws_40 : decode cX11_draws 40 = .ok (.aload_n 0, 1) := dk_42 (dk_at dksX11_draws_1 16 rfl rfl)
theorem dX11_draws_41 : decode cX11_draws 41 = .ok (.invokevirtual 76, 3) := dk_182 0 76 (dk_at dksX11_draws_1 17 rfl rfl)
theorem dX11_draws_44 : decode cX11_draws 44 = .ok (.irem, 1) := dk_112 (dk_at dksX11_draws_1 20 rfl rfl)
theorem dX11_draws_45 : decode cX11_draws 45 = .ok (.iastore, 1) := dk_79 (dk_at dksX11_draws_1 21 rfl rfl)
theorem dX11_draws_46 : decode cX11_draws 46 = .ok (.iinc 4 1, 3) := dk_132 4 1 (dk_at dksX11_draws_2 0 rfl rfl)
theorem dX11_draws_49 : decode cX11_draws 49 = .ok (.goto (-44), 3) := dk_167 255 212 (dk_at dksX11_draws_2 3 rfl rfl)
theorem dX11_draws_52 : decode cX11_draws 52 = .ok (.return_, 1) := dk_177 (dk_at dksX11_draws_2 6 rfl rfl)
abbrev cX11_rowOf : ByteArray := prog_18_method_84_code
def yX11_rowOf : MethodName := ⟨RX11, "rowOf", "(IIII)Z"⟩
def dkwX11_rowOf_6 : List UInt8 := [167, 255, 214, 132, 5, 1, 167, 255, 111, 4, 172]
abbrev dktX11_rowOf_6 : List UInt8 := dkwX11_rowOf_6 ++ []
def dkwX11_rowOf_5 : List UInt8 := [42, 180, 0, 20, 3, 46, 4, 96, 104, 96, 21, 6, 96, 42, 3, 21, 6, 182, 0, 103, 79, 132, 6, 1]
abbrev dktX11_rowOf_5 : List UInt8 := dkwX11_rowOf_5 ++ dktX11_rowOf_6
def dkwX11_rowOf_4 : List UInt8 := [181, 1, 38, 3, 54, 6, 21, 6, 42, 180, 0, 20, 3, 46, 163, 0, 37, 42, 180, 0, 43, 29, 21, 5]
abbrev dktX11_rowOf_4 : List UInt8 := dkwX11_rowOf_4 ++ dktX11_rowOf_5
def dkwX11_rowOf_3 : List UInt8 := [180, 0, 20, 3, 46, 21, 4, 159, 0, 5, 3, 172, 42, 16, 12, 42, 180, 0, 20, 3, 46, 4, 96, 104]
abbrev dktX11_rowOf_3 : List UInt8 := dkwX11_rowOf_3 ++ dktX11_rowOf_4
def dkwX11_rowOf_2 : List UInt8 := [182, 0, 99, 132, 6, 1, 167, 255, 225, 42, 27, 182, 1, 27, 153, 0, 20, 21, 4, 2, 159, 0, 16, 42]
abbrev dktX11_rowOf_2 : List UInt8 := dkwX11_rowOf_2 ++ dktX11_rowOf_3
def dkwX11_rowOf_1 : List UInt8 := [163, 0, 31, 42, 16, 44, 21, 6, 42, 180, 0, 46, 21, 5, 28, 4, 96, 104, 21, 6, 96, 46]
abbrev dktX11_rowOf_1 : List UInt8 := dkwX11_rowOf_1 ++ dktX11_rowOf_2
def dkwX11_rowOf_0 : List UInt8 := [3, 54, 5, 21, 5, 16, 12, 162, 0, 144, 42, 180, 0, 20, 16, 44, 28, 79, 3, 54, 6, 21, 6, 28]
abbrev dktX11_rowOf_0 : List UInt8 := dkwX11_rowOf_0 ++ dktX11_rowOf_1
theorem dksX11_rowOf_0 : cX11_rowOf.data.toList.drop 0 = dktX11_rowOf_0 := by decide +kernel
theorem dksX11_rowOf_1 : cX11_rowOf.data.toList.drop 24 = dktX11_rowOf_1 := dk_seg dksX11_rowOf_0 24 rfl rfl
theorem dksX11_rowOf_2 : cX11_rowOf.data.toList.drop 46 = dktX11_rowOf_2 := dk_seg dksX11_rowOf_1 22 rfl rfl
theorem dksX11_rowOf_3 : cX11_rowOf.data.toList.drop 70 = dktX11_rowOf_3 := dk_seg dksX11_rowOf_2 24 rfl rfl
theorem dksX11_rowOf_4 : cX11_rowOf.data.toList.drop 94 = dktX11_rowOf_4 := dk_seg dksX11_rowOf_3 24 rfl rfl
theorem dksX11_rowOf_5 : cX11_rowOf.data.toList.drop 118 = dktX11_rowOf_5 := dk_seg dksX11_rowOf_4 24 rfl rfl
theorem dksX11_rowOf_6 : cX11_rowOf.data.toList.drop 142 = dktX11_rowOf_6 := dk_seg dksX11_rowOf_5 24 rfl rfl
theorem dX11_rowOf_0 : decode cX11_rowOf 0 = .ok (.iconst 0, 1) := dk_3 (dk_at dksX11_rowOf_0 0 rfl rfl)
theorem dX11_rowOf_1 : decode cX11_rowOf 1 = .ok (.istore 5, 2) := dk_54 5 (dk_at dksX11_rowOf_0 1 rfl rfl)
theorem dX11_rowOf_3 : decode cX11_rowOf 3 = .ok (.iload 5, 2) := dk_21 5 (dk_at dksX11_rowOf_0 3 rfl rfl)
theorem dX11_rowOf_5 : decode cX11_rowOf 5 = .ok (.bipush 12, 2) := dk_16 12 (dk_at dksX11_rowOf_0 5 rfl rfl)
theorem dX11_rowOf_7 : decode cX11_rowOf 7 = .ok (.if_icmp .ge 144, 3) := dk_162 0 144 (dk_at dksX11_rowOf_0 7 rfl rfl)
theorem dX11_rowOf_10 : decode cX11_rowOf 10 = .ok (.aload_n 0, 1) := dk_42 (dk_at dksX11_rowOf_0 10 rfl rfl)
theorem dX11_rowOf_11 : decode cX11_rowOf 11 = .ok (.getfield 20, 3) := dk_180 0 20 (dk_at dksX11_rowOf_0 11 rfl rfl)
theorem dX11_rowOf_14 : decode cX11_rowOf 14 = .ok (.bipush 44, 2) := dk_16 44 (dk_at dksX11_rowOf_0 14 rfl rfl)
theorem dX11_rowOf_16 : decode cX11_rowOf 16 = .ok (.iload_n 2, 1) := dk_28 (dk_at dksX11_rowOf_0 16 rfl rfl)
theorem dX11_rowOf_17 : decode cX11_rowOf 17 = .ok (.iastore, 1) := dk_79 (dk_at dksX11_rowOf_0 17 rfl rfl)
theorem dX11_rowOf_18 : decode cX11_rowOf 18 = .ok (.iconst 0, 1) := dk_3 (dk_at dksX11_rowOf_0 18 rfl rfl)
theorem dX11_rowOf_19 : decode cX11_rowOf 19 = .ok (.istore 6, 2) := dk_54 6 (dk_at dksX11_rowOf_0 19 rfl rfl)
theorem dX11_rowOf_21 : decode cX11_rowOf 21 = .ok (.iload 6, 2) := dk_21 6 (dk_at dksX11_rowOf_0 21 rfl rfl)
theorem dX11_rowOf_23 : decode cX11_rowOf 23 = .ok (.iload_n 2, 1) := dk_28 (dk_at dksX11_rowOf_0 23 rfl rfl)
theorem dX11_rowOf_24 : decode cX11_rowOf 24 = .ok (.if_icmp .gt 31, 3) := dk_163 0 31 (dk_at dksX11_rowOf_1 0 rfl rfl)
theorem dX11_rowOf_27 : decode cX11_rowOf 27 = .ok (.aload_n 0, 1) := dk_42 (dk_at dksX11_rowOf_1 3 rfl rfl)
theorem dX11_rowOf_28 : decode cX11_rowOf 28 = .ok (.bipush 44, 2) := dk_16 44 (dk_at dksX11_rowOf_1 4 rfl rfl)
theorem dX11_rowOf_30 : decode cX11_rowOf 30 = .ok (.iload 6, 2) := dk_21 6 (dk_at dksX11_rowOf_1 6 rfl rfl)
theorem dX11_rowOf_32 : decode cX11_rowOf 32 = .ok (.aload_n 0, 1) := dk_42 (dk_at dksX11_rowOf_1 8 rfl rfl)
theorem dX11_rowOf_33 : decode cX11_rowOf 33 = .ok (.getfield 46, 3) := dk_180 0 46 (dk_at dksX11_rowOf_1 9 rfl rfl)
theorem dX11_rowOf_36 : decode cX11_rowOf 36 = .ok (.iload 5, 2) := dk_21 5 (dk_at dksX11_rowOf_1 12 rfl rfl)
theorem dX11_rowOf_38 : decode cX11_rowOf 38 = .ok (.iload_n 2, 1) := dk_28 (dk_at dksX11_rowOf_1 14 rfl rfl)
theorem dX11_rowOf_39 : decode cX11_rowOf 39 = .ok (.iconst 1, 1) := dk_4 (dk_at dksX11_rowOf_1 15 rfl rfl)
theorem dX11_rowOf_40 : decode cX11_rowOf 40 = .ok (.iadd, 1) := dk_96 (dk_at dksX11_rowOf_1 16 rfl rfl)
theorem dX11_rowOf_41 : decode cX11_rowOf 41 = .ok (.imul, 1) := dk_104 (dk_at dksX11_rowOf_1 17 rfl rfl)
theorem dX11_rowOf_42 : decode cX11_rowOf 42 = .ok (.iload 6, 2) := dk_21 6 (dk_at dksX11_rowOf_1 18 rfl rfl)
theorem dX11_rowOf_44 : decode cX11_rowOf 44 = .ok (.iadd, 1) := dk_96 (dk_at dksX11_rowOf_1 20 rfl rfl)
theorem dX11_rowOf_45 : decode cX11_rowOf 45 = .ok (.iaload, 1) := dk_46 (dk_at dksX11_rowOf_1 21 rfl rfl)
theorem dX11_rowOf_46 : decode cX11_rowOf 46 = .ok (.invokevirtual 99, 3) := dk_182 0 99 (dk_at dksX11_rowOf_2 0 rfl rfl)
theorem dX11_rowOf_49 : decode cX11_rowOf 49 = .ok (.iinc 6 1, 3) := dk_132 6 1 (dk_at dksX11_rowOf_2 3 rfl rfl)
theorem dX11_rowOf_52 : decode cX11_rowOf 52 = .ok (.goto (-31), 3) := dk_167 255 225 (dk_at dksX11_rowOf_2 6 rfl rfl)
theorem dX11_rowOf_55 : decode cX11_rowOf 55 = .ok (.aload_n 0, 1) := dk_42 (dk_at dksX11_rowOf_2 9 rfl rfl)
theorem dX11_rowOf_56 : decode cX11_rowOf 56 = .ok (.iload_n 1, 1) := dk_27 (dk_at dksX11_rowOf_2 10 rfl rfl)
theorem dX11_rowOf_57 : decode cX11_rowOf 57 = .ok (.invokevirtual 283, 3) := dk_182 1 27 (dk_at dksX11_rowOf_2 11 rfl rfl)
theorem dX11_rowOf_60 : decode cX11_rowOf 60 = .ok (.ifCond .eq 20, 3) := dk_153 0 20 (dk_at dksX11_rowOf_2 14 rfl rfl)
theorem dX11_rowOf_63 : decode cX11_rowOf 63 = .ok (.iload 4, 2) := dk_21 4 (dk_at dksX11_rowOf_2 17 rfl rfl)
theorem dX11_rowOf_65 : decode cX11_rowOf 65 = .ok (.iconst (-1), 1) := dk_2 (dk_at dksX11_rowOf_2 19 rfl rfl)
theorem dX11_rowOf_66 : decode cX11_rowOf 66 = .ok (.if_icmp .eq 16, 3) := dk_159 0 16 (dk_at dksX11_rowOf_2 20 rfl rfl)
theorem dX11_rowOf_69 : decode cX11_rowOf 69 = .ok (.aload_n 0, 1) := dk_42 (dk_at dksX11_rowOf_2 23 rfl rfl)
theorem dX11_rowOf_70 : decode cX11_rowOf 70 = .ok (.getfield 20, 3) := dk_180 0 20 (dk_at dksX11_rowOf_3 0 rfl rfl)
theorem dX11_rowOf_73 : decode cX11_rowOf 73 = .ok (.iconst 0, 1) := dk_3 (dk_at dksX11_rowOf_3 3 rfl rfl)
theorem dX11_rowOf_74 : decode cX11_rowOf 74 = .ok (.iaload, 1) := dk_46 (dk_at dksX11_rowOf_3 4 rfl rfl)
theorem dX11_rowOf_75 : decode cX11_rowOf 75 = .ok (.iload 4, 2) := dk_21 4 (dk_at dksX11_rowOf_3 5 rfl rfl)
theorem dX11_rowOf_77 : decode cX11_rowOf 77 = .ok (.if_icmp .eq 5, 3) := dk_159 0 5 (dk_at dksX11_rowOf_3 7 rfl rfl)
theorem dX11_rowOf_80 : decode cX11_rowOf 80 = .ok (.iconst 0, 1) := dk_3 (dk_at dksX11_rowOf_3 10 rfl rfl)
theorem dX11_rowOf_81 : decode cX11_rowOf 81 = .ok (.ireturn, 1) := dk_172 (dk_at dksX11_rowOf_3 11 rfl rfl)
theorem dX11_rowOf_82 : decode cX11_rowOf 82 = .ok (.aload_n 0, 1) := dk_42 (dk_at dksX11_rowOf_3 12 rfl rfl)
theorem dX11_rowOf_83 : decode cX11_rowOf 83 = .ok (.bipush 12, 2) := dk_16 12 (dk_at dksX11_rowOf_3 13 rfl rfl)
theorem dX11_rowOf_85 : decode cX11_rowOf 85 = .ok (.aload_n 0, 1) := dk_42 (dk_at dksX11_rowOf_3 15 rfl rfl)
theorem dX11_rowOf_86 : decode cX11_rowOf 86 = .ok (.getfield 20, 3) := dk_180 0 20 (dk_at dksX11_rowOf_3 16 rfl rfl)
theorem dX11_rowOf_89 : decode cX11_rowOf 89 = .ok (.iconst 0, 1) := dk_3 (dk_at dksX11_rowOf_3 19 rfl rfl)
theorem dX11_rowOf_90 : decode cX11_rowOf 90 = .ok (.iaload, 1) := dk_46 (dk_at dksX11_rowOf_3 20 rfl rfl)
theorem dX11_rowOf_91 : decode cX11_rowOf 91 = .ok (.iconst 1, 1) := dk_4 (dk_at dksX11_rowOf_3 21 rfl rfl)
theorem dX11_rowOf_92 : decode cX11_rowOf 92 = .ok (.iadd, 1) := dk_96 (dk_at dksX11_rowOf_3 22 rfl rfl)
theorem dX11_rowOf_93 : decode cX11_rowOf 93 = .ok (.imul, 1) := dk_104 (dk_at dksX11_rowOf_3 23 rfl rfl)
theorem dX11_rowOf_94 : decode cX11_rowOf 94 = .ok (.putfield 294, 3) := dk_181 1 38 (dk_at dksX11_rowOf_4 0 rfl rfl)
theorem dX11_rowOf_97 : decode cX11_rowOf 97 = .ok (.iconst 0, 1) := dk_3 (dk_at dksX11_rowOf_4 3 rfl rfl)
theorem dX11_rowOf_98 : decode cX11_rowOf 98 = .ok (.istore 6, 2) := dk_54 6 (dk_at dksX11_rowOf_4 4 rfl rfl)
theorem dX11_rowOf_100 : decode cX11_rowOf 100 = .ok (.iload 6, 2) := dk_21 6 (dk_at dksX11_rowOf_4 6 rfl rfl)
theorem dX11_rowOf_102 : decode cX11_rowOf 102 = .ok (.aload_n 0, 1) := dk_42 (dk_at dksX11_rowOf_4 8 rfl rfl)
theorem dX11_rowOf_103 : decode cX11_rowOf 103 = .ok (.getfield 20, 3) := dk_180 0 20 (dk_at dksX11_rowOf_4 9 rfl rfl)
theorem dX11_rowOf_106 : decode cX11_rowOf 106 = .ok (.iconst 0, 1) := dk_3 (dk_at dksX11_rowOf_4 12 rfl rfl)
theorem dX11_rowOf_107 : decode cX11_rowOf 107 = .ok (.iaload, 1) := dk_46 (dk_at dksX11_rowOf_4 13 rfl rfl)
theorem dX11_rowOf_108 : decode cX11_rowOf 108 = .ok (.if_icmp .gt 37, 3) := dk_163 0 37 (dk_at dksX11_rowOf_4 14 rfl rfl)
theorem dX11_rowOf_111 : decode cX11_rowOf 111 = .ok (.aload_n 0, 1) := dk_42 (dk_at dksX11_rowOf_4 17 rfl rfl)
theorem dX11_rowOf_112 : decode cX11_rowOf 112 = .ok (.getfield 43, 3) := dk_180 0 43 (dk_at dksX11_rowOf_4 18 rfl rfl)
theorem dX11_rowOf_115 : decode cX11_rowOf 115 = .ok (.iload_n 3, 1) := dk_29 (dk_at dksX11_rowOf_4 21 rfl rfl)
theorem dX11_rowOf_116 : decode cX11_rowOf 116 = .ok (.iload 5, 2) := dk_21 5 (dk_at dksX11_rowOf_4 22 rfl rfl)
theorem dX11_rowOf_118 : decode cX11_rowOf 118 = .ok (.aload_n 0, 1) := dk_42 (dk_at dksX11_rowOf_5 0 rfl rfl)
theorem dX11_rowOf_119 : decode cX11_rowOf 119 = .ok (.getfield 20, 3) := dk_180 0 20 (dk_at dksX11_rowOf_5 1 rfl rfl)
theorem dX11_rowOf_122 : decode cX11_rowOf 122 = .ok (.iconst 0, 1) := dk_3 (dk_at dksX11_rowOf_5 4 rfl rfl)
theorem dX11_rowOf_123 : decode cX11_rowOf 123 = .ok (.iaload, 1) := dk_46 (dk_at dksX11_rowOf_5 5 rfl rfl)
theorem dX11_rowOf_124 : decode cX11_rowOf 124 = .ok (.iconst 1, 1) := dk_4 (dk_at dksX11_rowOf_5 6 rfl rfl)
theorem dX11_rowOf_125 : decode cX11_rowOf 125 = .ok (.iadd, 1) := dk_96 (dk_at dksX11_rowOf_5 7 rfl rfl)
theorem dX11_rowOf_126 : decode cX11_rowOf 126 = .ok (.imul, 1) := dk_104 (dk_at dksX11_rowOf_5 8 rfl rfl)
theorem dX11_rowOf_127 : decode cX11_rowOf 127 = .ok (.iadd, 1) := dk_96 (dk_at dksX11_rowOf_5 9 rfl rfl)
theorem dX11_rowOf_128 : decode cX11_rowOf 128 = .ok (.iload 6, 2) := dk_21 6 (dk_at dksX11_rowOf_5 10 rfl rfl)
theorem dX11_rowOf_130 : decode cX11_rowOf 130 = .ok (.iadd, 1) := dk_96 (dk_at dksX11_rowOf_5 12 rfl rfl)
theorem dX11_rowOf_131 : decode cX11_rowOf 131 = .ok (.aload_n 0, 1) := dk_42 (dk_at dksX11_rowOf_5 13 rfl rfl)
theorem dX11_rowOf_132 : decode cX11_rowOf 132 = .ok (.iconst 0, 1) := dk_3 (dk_at dksX11_rowOf_5 14 rfl rfl)
theorem dX11_rowOf_133 : decode cX11_rowOf 133 = .ok (.iload 6, 2) := dk_21 6 (dk_at dksX11_rowOf_5 15 rfl rfl)
theorem dX11_rowOf_135 : decode cX11_rowOf 135 = .ok (.invokevirtual 103, 3) := dk_182 0 103 (dk_at dksX11_rowOf_5 17 rfl rfl)
theorem dX11_rowOf_138 : decode cX11_rowOf 138 = .ok (.iastore, 1) := dk_79 (dk_at dksX11_rowOf_5 20 rfl rfl)
theorem dX11_rowOf_139 : decode cX11_rowOf 139 = .ok (.iinc 6 1, 3) := dk_132 6 1 (dk_at dksX11_rowOf_5 21 rfl rfl)
theorem dX11_rowOf_142 : decode cX11_rowOf 142 = .ok (.goto (-42), 3) := dk_167 255 214 (dk_at dksX11_rowOf_6 0 rfl rfl)
theorem dX11_rowOf_145 : decode cX11_rowOf 145 = .ok (.iinc 5 1, 3) := dk_132 5 1 (dk_at dksX11_rowOf_6 3 rfl rfl)
theorem dX11_rowOf_148 : decode cX11_rowOf 148 = .ok (.goto (-145), 3) := dk_167 255 111 (dk_at dksX11_rowOf_6 6 rfl rfl)
theorem dX11_rowOf_151 : decode cX11_rowOf 151 = .ok (.iconst 1, 1) := dk_4 (dk_at dksX11_rowOf_6 9 rfl rfl)
theorem dX11_rowOf_152 : decode cX11_rowOf 152 = .ok (.ireturn, 1) := dk_172 (dk_at dksX11_rowOf_6 10 rfl rfl)
abbrev cX11_isNew : ByteArray := prog_18_method_86_code
def yX11_isNew : MethodName := ⟨RX11, "isNew", "(II)Z"⟩
def dkwX11_isNew_5 : List UInt8 := [42, 180, 1, 38, 162, 0, 7, 4, 167, 0, 4, 3, 172]
abbrev dktX11_isNew_5 : List UInt8 := dkwX11_isNew_5 ++ []
def dkwX11_isNew_4 : List UInt8 := [182, 0, 86, 182, 0, 149, 79, 132, 6, 1, 167, 255, 203, 132, 3, 1, 167, 255, 146, 42, 27, 182, 1, 41]
abbrev dktX11_isNew_4 : List UInt8 := dkwX11_isNew_4 ++ dktX11_isNew_5
def dkwX11_isNew_3 : List UInt8 := [180, 0, 43, 27, 21, 6, 96, 46, 42, 21, 5, 42, 180, 0, 43, 17, 1, 236, 29, 104, 21, 6, 96, 46]
abbrev dktX11_isNew_3 : List UInt8 := dkwX11_isNew_3 ++ dktX11_isNew_4
def dkwX11_isNew_2 : List UInt8 := [54, 5, 3, 54, 6, 21, 6, 42, 180, 1, 38, 162, 0, 50, 42, 180, 0, 43, 27, 21, 6, 96, 42, 42]
abbrev dktX11_isNew_2 : List UInt8 := dkwX11_isNew_2 ++ dktX11_isNew_3
def dkwX11_isNew_1 : List UInt8 := [21, 4, 96, 46, 42, 42, 180, 0, 43, 17, 1, 236, 29, 104, 21, 4, 96, 46, 182, 0, 232, 182, 0, 86]
abbrev dktX11_isNew_1 : List UInt8 := dkwX11_isNew_1 ++ dktX11_isNew_2
def dkwX11_isNew_0 : List UInt8 := [3, 62, 29, 28, 162, 0, 111, 42, 17, 1, 236, 29, 104, 182, 1, 41, 54, 4, 42, 42, 180, 0, 43, 27]
abbrev dktX11_isNew_0 : List UInt8 := dkwX11_isNew_0 ++ dktX11_isNew_1
theorem dksX11_isNew_0 : cX11_isNew.data.toList.drop 0 = dktX11_isNew_0 := by decide +kernel
theorem dksX11_isNew_1 : cX11_isNew.data.toList.drop 24 = dktX11_isNew_1 := dk_seg dksX11_isNew_0 24 rfl rfl
theorem dksX11_isNew_2 : cX11_isNew.data.toList.drop 48 = dktX11_isNew_2 := dk_seg dksX11_isNew_1 24 rfl rfl
theorem dksX11_isNew_3 : cX11_isNew.data.toList.drop 72 = dktX11_isNew_3 := dk_seg dksX11_isNew_2 24 rfl rfl
theorem dksX11_isNew_4 : cX11_isNew.data.toList.drop 96 = dktX11_isNew_4 := dk_seg dksX11_isNew_3 24 rfl rfl
theorem dksX11_isNew_5 : cX11_isNew.data.toList.drop 120 = dktX11_isNew_5 := dk_seg dksX11_isNew_4 24 rfl rfl
theorem dX11_isNew_0 : decode cX11_isNew 0 = .ok (.iconst 0, 1) := dk_3 (dk_at dksX11_isNew_0 0 rfl rfl)
theorem dX11_isNew_1 : decode cX11_isNew 1 = .ok (.istore_n 3, 1) := dk_62 (dk_at dksX11_isNew_0 1 rfl rfl)
theorem dX11_isNew_2 : decode cX11_isNew 2 = .ok (.iload_n 3, 1) := dk_29 (dk_at dksX11_isNew_0 2 rfl rfl)
theorem dX11_isNew_3 : decode cX11_isNew 3 = .ok (.iload_n 2, 1) := dk_28 (dk_at dksX11_isNew_0 3 rfl rfl)
theorem dX11_isNew_4 : decode cX11_isNew 4 = .ok (.if_icmp .ge 111, 3) := dk_162 0 111 (dk_at dksX11_isNew_0 4 rfl rfl)
theorem dX11_isNew_7 : decode cX11_isNew 7 = .ok (.aload_n 0, 1) := dk_42 (dk_at dksX11_isNew_0 7 rfl rfl)
theorem dX11_isNew_8 : decode cX11_isNew 8 = .ok (.sipush 492, 3) := dk_17 1 236 (dk_at dksX11_isNew_0 8 rfl rfl)
theorem dX11_isNew_11 : decode cX11_isNew 11 = .ok (.iload_n 3, 1) := dk_29 (dk_at dksX11_isNew_0 11 rfl rfl)
theorem dX11_isNew_12 : decode cX11_isNew 12 = .ok (.imul, 1) := dk_104 (dk_at dksX11_isNew_0 12 rfl rfl)
theorem dX11_isNew_13 : decode cX11_isNew 13 = .ok (.invokevirtual 297, 3) := dk_182 1 41 (dk_at dksX11_isNew_0 13 rfl rfl)
theorem dX11_isNew_16 : decode cX11_isNew 16 = .ok (.istore 4, 2) := dk_54 4 (dk_at dksX11_isNew_0 16 rfl rfl)
theorem dX11_isNew_18 : decode cX11_isNew 18 = .ok (.aload_n 0, 1) := dk_42 (dk_at dksX11_isNew_0 18 rfl rfl)
theorem dX11_isNew_19 : decode cX11_isNew 19 = .ok (.aload_n 0, 1) := dk_42 (dk_at dksX11_isNew_0 19 rfl rfl)
theorem dX11_isNew_20 : decode cX11_isNew 20 = .ok (.getfield 43, 3) := dk_180 0 43 (dk_at dksX11_isNew_0 20 rfl rfl)
theorem dX11_isNew_23 : decode cX11_isNew 23 = .ok (.iload_n 1, 1) := dk_27 (dk_at dksX11_isNew_0 23 rfl rfl)
theorem dX11_isNew_24 : decode cX11_isNew 24 = .ok (.iload 4, 2) := dk_21 4 (dk_at dksX11_isNew_1 0 rfl rfl)
theorem dX11_isNew_26 : decode cX11_isNew 26 = .ok (.iadd, 1) := dk_96 (dk_at dksX11_isNew_1 2 rfl rfl)
theorem dX11_isNew_27 : decode cX11_isNew 27 = .ok (.iaload, 1) := dk_46 (dk_at dksX11_isNew_1 3 rfl rfl)
theorem dX11_isNew_28 : decode cX11_isNew 28 = .ok (.aload_n 0, 1) := dk_42 (dk_at dksX11_isNew_1 4 rfl rfl)
theorem dX11_isNew_29 : decode cX11_isNew 29 = .ok (.aload_n 0, 1) := dk_42 (dk_at dksX11_isNew_1 5 rfl rfl)
theorem dX11_isNew_30 : decode cX11_isNew 30 = .ok (.getfield 43, 3) := dk_180 0 43 (dk_at dksX11_isNew_1 6 rfl rfl)
theorem dX11_isNew_33 : decode cX11_isNew 33 = .ok (.sipush 492, 3) := dk_17 1 236 (dk_at dksX11_isNew_1 9 rfl rfl)
theorem dX11_isNew_36 : decode cX11_isNew 36 = .ok (.iload_n 3, 1) := dk_29 (dk_at dksX11_isNew_1 12 rfl rfl)
theorem dX11_isNew_37 : decode cX11_isNew 37 = .ok (.imul, 1) := dk_104 (dk_at dksX11_isNew_1 13 rfl rfl)
theorem dX11_isNew_38 : decode cX11_isNew 38 = .ok (.iload 4, 2) := dk_21 4 (dk_at dksX11_isNew_1 14 rfl rfl)
theorem dX11_isNew_40 : decode cX11_isNew 40 = .ok (.iadd, 1) := dk_96 (dk_at dksX11_isNew_1 16 rfl rfl)
theorem dX11_isNew_41 : decode cX11_isNew 41 = .ok (.iaload, 1) := dk_46 (dk_at dksX11_isNew_1 17 rfl rfl)
theorem dX11_isNew_42 : decode cX11_isNew 42 = .ok (.invokevirtual 232, 3) := dk_182 0 232 (dk_at dksX11_isNew_1 18 rfl rfl)
theorem dX11_isNew_45 : decode cX11_isNew 45 = .ok (.invokevirtual 86, 3) := dk_182 0 86 (dk_at dksX11_isNew_1 21 rfl rfl)
theorem dX11_isNew_48 : decode cX11_isNew 48 = .ok (.istore 5, 2) := dk_54 5 (dk_at dksX11_isNew_2 0 rfl rfl)
theorem dX11_isNew_50 : decode cX11_isNew 50 = .ok (.iconst 0, 1) := dk_3 (dk_at dksX11_isNew_2 2 rfl rfl)
theorem dX11_isNew_51 : decode cX11_isNew 51 = .ok (.istore 6, 2) := dk_54 6 (dk_at dksX11_isNew_2 3 rfl rfl)
theorem dX11_isNew_53 : decode cX11_isNew 53 = .ok (.iload 6, 2) := dk_21 6 (dk_at dksX11_isNew_2 5 rfl rfl)
theorem dX11_isNew_55 : decode cX11_isNew 55 = .ok (.aload_n 0, 1) := dk_42 (dk_at dksX11_isNew_2 7 rfl rfl)
theorem dX11_isNew_56 : decode cX11_isNew 56 = .ok (.getfield 294, 3) := dk_180 1 38 (dk_at dksX11_isNew_2 8 rfl rfl)
theorem dX11_isNew_59 : decode cX11_isNew 59 = .ok (.if_icmp .ge 50, 3) := dk_162 0 50 (dk_at dksX11_isNew_2 11 rfl rfl)
theorem dX11_isNew_62 : decode cX11_isNew 62 = .ok (.aload_n 0, 1) := dk_42 (dk_at dksX11_isNew_2 14 rfl rfl)
theorem dX11_isNew_63 : decode cX11_isNew 63 = .ok (.getfield 43, 3) := dk_180 0 43 (dk_at dksX11_isNew_2 15 rfl rfl)
theorem dX11_isNew_66 : decode cX11_isNew 66 = .ok (.iload_n 1, 1) := dk_27 (dk_at dksX11_isNew_2 18 rfl rfl)
theorem dX11_isNew_67 : decode cX11_isNew 67 = .ok (.iload 6, 2) := dk_21 6 (dk_at dksX11_isNew_2 19 rfl rfl)
theorem dX11_isNew_69 : decode cX11_isNew 69 = .ok (.iadd, 1) := dk_96 (dk_at dksX11_isNew_2 21 rfl rfl)
theorem dX11_isNew_70 : decode cX11_isNew 70 = .ok (.aload_n 0, 1) := dk_42 (dk_at dksX11_isNew_2 22 rfl rfl)
theorem dX11_isNew_71 : decode cX11_isNew 71 = .ok (.aload_n 0, 1) := dk_42 (dk_at dksX11_isNew_2 23 rfl rfl)
theorem dX11_isNew_72 : decode cX11_isNew 72 = .ok (.getfield 43, 3) := dk_180 0 43 (dk_at dksX11_isNew_3 0 rfl rfl)
theorem dX11_isNew_75 : decode cX11_isNew 75 = .ok (.iload_n 1, 1) := dk_27 (dk_at dksX11_isNew_3 3 rfl rfl)
theorem dX11_isNew_76 : decode cX11_isNew 76 = .ok (.iload 6, 2) := dk_21 6 (dk_at dksX11_isNew_3 4 rfl rfl)
theorem dX11_isNew_78 : decode cX11_isNew 78 = .ok (.iadd, 1) := dk_96 (dk_at dksX11_isNew_3 6 rfl rfl)
theorem dX11_isNew_79 : decode cX11_isNew 79 = .ok (.iaload, 1) := dk_46 (dk_at dksX11_isNew_3 7 rfl rfl)
theorem dX11_isNew_80 : decode cX11_isNew 80 = .ok (.aload_n 0, 1) := dk_42 (dk_at dksX11_isNew_3 8 rfl rfl)
theorem dX11_isNew_81 : decode cX11_isNew 81 = .ok (.iload 5, 2) := dk_21 5 (dk_at dksX11_isNew_3 9 rfl rfl)
theorem dX11_isNew_83 : decode cX11_isNew 83 = .ok (.aload_n 0, 1) := dk_42 (dk_at dksX11_isNew_3 11 rfl rfl)
theorem dX11_isNew_84 : decode cX11_isNew 84 = .ok (.getfield 43, 3) := dk_180 0 43 (dk_at dksX11_isNew_3 12 rfl rfl)
theorem dX11_isNew_87 : decode cX11_isNew 87 = .ok (.sipush 492, 3) := dk_17 1 236 (dk_at dksX11_isNew_3 15 rfl rfl)
theorem dX11_isNew_90 : decode cX11_isNew 90 = .ok (.iload_n 3, 1) := dk_29 (dk_at dksX11_isNew_3 18 rfl rfl)
theorem dX11_isNew_91 : decode cX11_isNew 91 = .ok (.imul, 1) := dk_104 (dk_at dksX11_isNew_3 19 rfl rfl)
theorem dX11_isNew_92 : decode cX11_isNew 92 = .ok (.iload 6, 2) := dk_21 6 (dk_at dksX11_isNew_3 20 rfl rfl)
theorem dX11_isNew_94 : decode cX11_isNew 94 = .ok (.iadd, 1) := dk_96 (dk_at dksX11_isNew_3 22 rfl rfl)
theorem dX11_isNew_95 : decode cX11_isNew 95 = .ok (.iaload, 1) := dk_46 (dk_at dksX11_isNew_3 23 rfl rfl)
theorem dX11_isNew_96 : decode cX11_isNew 96 = .ok (.invokevirtual 86, 3) := dk_182 0 86 (dk_at dksX11_isNew_4 0 rfl rfl)
theorem dX11_isNew_99 : decode cX11_isNew 99 = .ok (.invokevirtual 149, 3) := dk_182 0 149 (dk_at dksX11_isNew_4 3 rfl rfl)
theorem dX11_isNew_102 : decode cX11_isNew 102 = .ok (.iastore, 1) := dk_79 (dk_at dksX11_isNew_4 6 rfl rfl)
theorem dX11_isNew_103 : decode cX11_isNew 103 = .ok (.iinc 6 1, 3) := dk_132 6 1 (dk_at dksX11_isNew_4 7 rfl rfl)
theorem dX11_isNew_106 : decode cX11_isNew 106 = .ok (.goto (-53), 3) := dk_167 255 203 (dk_at dksX11_isNew_4 10 rfl rfl)
theorem dX11_isNew_109 : decode cX11_isNew 109 = .ok (.iinc 3 1, 3) := dk_132 3 1 (dk_at dksX11_isNew_4 13 rfl rfl)
theorem dX11_isNew_112 : decode cX11_isNew 112 = .ok (.goto (-110), 3) := dk_167 255 146 (dk_at dksX11_isNew_4 16 rfl rfl)
theorem dX11_isNew_115 : decode cX11_isNew 115 = .ok (.aload_n 0, 1) := dk_42 (dk_at dksX11_isNew_4 19 rfl rfl)
theorem dX11_isNew_116 : decode cX11_isNew 116 = .ok (.iload_n 1, 1) := dk_27 (dk_at dksX11_isNew_4 20 rfl rfl)
theorem dX11_isNew_117 : decode cX11_isNew 117 = .ok (.invokevirtual 297, 3) := dk_182 1 41 (dk_at dksX11_isNew_4 21 rfl rfl)
theorem dX11_isNew_120 : decode cX11_isNew 120 = .ok (.aload_n 0, 1) := dk_42 (dk_at dksX11_isNew_5 0 rfl rfl)
theorem dX11_isNew_121 : decode cX11_isNew 121 = .ok (.getfield 294, 3) := dk_180 1 38 (dk_at dksX11_isNew_5 1 rfl rfl)
theorem dX11_isNew_124 : decode cX11_isNew 124 = .ok (.if_icmp .ge 7, 3) := dk_162 0 7 (dk_at dksX11_isNew_5 4 rfl rfl)
theorem dX11_isNew_127 : decode cX11_isNew 127 = .ok (.iconst 1, 1) := dk_4 (dk_at dksX11_isNew_5 7 rfl rfl)
theorem dX11_isNew_128 : decode cX11_isNew 128 = .ok (.goto 4, 3) := dk_167 0 4 (dk_at dksX11_isNew_5 8 rfl rfl)
theorem dX11_isNew_131 : decode cX11_isNew 131 = .ok (.iconst 0, 1) := dk_3 (dk_at dksX11_isNew_5 11 rfl rfl)
theorem dX11_isNew_132 : decode cX11_isNew 132 = .ok (.ireturn, 1) := dk_172 (dk_at dksX11_isNew_5 12 rfl rfl)
abbrev cX11_firstOf : ByteArray := prog_18_method_85_code
def yX11_firstOf : MethodName := ⟨RX11, "firstOf", "(I)I"⟩
def dkwX11_firstOf_1 : List UInt8 := [167, 255, 234, 28, 172]
abbrev dktX11_firstOf_1 : List UInt8 := dkwX11_firstOf_1 ++ []
def dkwX11_firstOf_0 : List UInt8 := [3, 61, 28, 42, 180, 1, 38, 162, 0, 20, 42, 180, 0, 43, 27, 28, 96, 46, 154, 0, 9, 132, 2, 1]
abbrev dktX11_firstOf_0 : List UInt8 := dkwX11_firstOf_0 ++ dktX11_firstOf_1
theorem dksX11_firstOf_0 : cX11_firstOf.data.toList.drop 0 = dktX11_firstOf_0 := by decide +kernel
theorem dksX11_firstOf_1 : cX11_firstOf.data.toList.drop 24 = dktX11_firstOf_1 := dk_seg dksX11_firstOf_0 24 rfl rfl
theorem dX11_firstOf_0 : decode cX11_firstOf 0 = .ok (.iconst 0, 1) := dk_3 (dk_at dksX11_firstOf_0 0 rfl rfl)
theorem dX11_firstOf_1 : decode cX11_firstOf 1 = .ok (.istore_n 2, 1) := dk_61 (dk_at dksX11_firstOf_0 1 rfl rfl)
theorem dX11_firstOf_2 : decode cX11_firstOf 2 = .ok (.iload_n 2, 1) := dk_28 (dk_at dksX11_firstOf_0 2 rfl rfl)
theorem dX11_firstOf_3 : decode cX11_firstOf 3 = .ok (.aload_n 0, 1) := dk_42 (dk_at dksX11_firstOf_0 3 rfl rfl)
theorem dX11_firstOf_4 : decode cX11_firstOf 4 = .ok (.getfield 294, 3) := dk_180 1 38 (dk_at dksX11_firstOf_0 4 rfl rfl)
theorem dX11_firstOf_7 : decode cX11_firstOf 7 = .ok (.if_icmp .ge 20, 3) := dk_162 0 20 (dk_at dksX11_firstOf_0 7 rfl rfl)
theorem dX11_firstOf_10 : decode cX11_firstOf 10 = .ok (.aload_n 0, 1) := dk_42 (dk_at dksX11_firstOf_0 10 rfl rfl)
theorem dX11_firstOf_11 : decode cX11_firstOf 11 = .ok (.getfield 43, 3) := dk_180 0 43 (dk_at dksX11_firstOf_0 11 rfl rfl)
theorem dX11_firstOf_14 : decode cX11_firstOf 14 = .ok (.iload_n 1, 1) := dk_27 (dk_at dksX11_firstOf_0 14 rfl rfl)
theorem dX11_firstOf_15 : decode cX11_firstOf 15 = .ok (.iload_n 2, 1) := dk_28 (dk_at dksX11_firstOf_0 15 rfl rfl)
theorem dX11_firstOf_16 : decode cX11_firstOf 16 = .ok (.iadd, 1) := dk_96 (dk_at dksX11_firstOf_0 16 rfl rfl)
theorem dX11_firstOf_17 : decode cX11_firstOf 17 = .ok (.iaload, 1) := dk_46 (dk_at dksX11_firstOf_0 17 rfl rfl)
theorem dX11_firstOf_18 : decode cX11_firstOf 18 = .ok (.ifCond .ne 9, 3) := dk_154 0 9 (dk_at dksX11_firstOf_0 18 rfl rfl)
theorem dX11_firstOf_21 : decode cX11_firstOf 21 = .ok (.iinc 2 1, 3) := dk_132 2 1 (dk_at dksX11_firstOf_0 21 rfl rfl)
theorem dX11_firstOf_24 : decode cX11_firstOf 24 = .ok (.goto (-22), 3) := dk_167 255 234 (dk_at dksX11_firstOf_1 0 rfl rfl)
theorem dX11_firstOf_27 : decode cX11_firstOf 27 = .ok (.iload_n 2, 1) := dk_28 (dk_at dksX11_firstOf_1 3 rfl rfl)
theorem dX11_firstOf_28 : decode cX11_firstOf 28 = .ok (.ireturn, 1) := dk_172 (dk_at dksX11_firstOf_1 4 rfl rfl)
abbrev cX11_basis : ByteArray := prog_18_method_89_code
def yX11_basis : MethodName := ⟨RX11, "basis", "(III)I"⟩
def dkwX11_basis_1 : List UInt8 := [182, 0, 215, 153, 0, 7, 3, 167, 0, 10, 42, 27, 28, 29, 182, 1, 53, 172]
abbrev dktX11_basis_1 : List UInt8 := dkwX11_basis_1 ++ []
def dkwX11_basis_0 : List UInt8 := [42, 3, 181, 0, 3, 42, 28, 4, 16, 8, 184, 0, 68, 154, 0, 7, 4, 167, 0, 4, 3, 4]
abbrev dktX11_basis_0 : List UInt8 := dkwX11_basis_0 ++ dktX11_basis_1
theorem dksX11_basis_0 : cX11_basis.data.toList.drop 0 = dktX11_basis_0 := by decide +kernel
theorem dksX11_basis_1 : cX11_basis.data.toList.drop 22 = dktX11_basis_1 := dk_seg dksX11_basis_0 22 rfl rfl
theorem dX11_basis_0 : decode cX11_basis 0 = .ok (.aload_n 0, 1) := dk_42 (dk_at dksX11_basis_0 0 rfl rfl)
theorem dX11_basis_1 : decode cX11_basis 1 = .ok (.iconst 0, 1) := dk_3 (dk_at dksX11_basis_0 1 rfl rfl)
theorem dX11_basis_2 : decode cX11_basis 2 = .ok (.putfield 3, 3) := dk_181 0 3 (dk_at dksX11_basis_0 2 rfl rfl)
theorem dX11_basis_5 : decode cX11_basis 5 = .ok (.aload_n 0, 1) := dk_42 (dk_at dksX11_basis_0 5 rfl rfl)
theorem dX11_basis_6 : decode cX11_basis 6 = .ok (.iload_n 2, 1) := dk_28 (dk_at dksX11_basis_0 6 rfl rfl)
theorem dX11_basis_7 : decode cX11_basis 7 = .ok (.iconst 1, 1) := dk_4 (dk_at dksX11_basis_0 7 rfl rfl)
theorem dX11_basis_8 : decode cX11_basis 8 = .ok (.bipush 8, 2) := dk_16 8 (dk_at dksX11_basis_0 8 rfl rfl)
theorem dX11_basis_10 : decode cX11_basis 10 = .ok (.invokestatic 68, 3) := dk_184 0 68 (dk_at dksX11_basis_0 10 rfl rfl)
theorem dX11_basis_13 : decode cX11_basis 13 = .ok (.ifCond .ne 7, 3) := dk_154 0 7 (dk_at dksX11_basis_0 13 rfl rfl)
theorem dX11_basis_16 : decode cX11_basis 16 = .ok (.iconst 1, 1) := dk_4 (dk_at dksX11_basis_0 16 rfl rfl)
theorem dX11_basis_17 : decode cX11_basis 17 = .ok (.goto 4, 3) := dk_167 0 4 (dk_at dksX11_basis_0 17 rfl rfl)
theorem dX11_basis_20 : decode cX11_basis 20 = .ok (.iconst 0, 1) := dk_3 (dk_at dksX11_basis_0 20 rfl rfl)
theorem dX11_basis_21 : decode cX11_basis 21 = .ok (.iconst 1, 1) := dk_4 (dk_at dksX11_basis_0 21 rfl rfl)
theorem dX11_basis_22 : decode cX11_basis 22 = .ok (.invokevirtual 215, 3) := dk_182 0 215 (dk_at dksX11_basis_1 0 rfl rfl)
theorem dX11_basis_25 : decode cX11_basis 25 = .ok (.ifCond .eq 7, 3) := dk_153 0 7 (dk_at dksX11_basis_1 3 rfl rfl)
theorem dX11_basis_28 : decode cX11_basis 28 = .ok (.iconst 0, 1) := dk_3 (dk_at dksX11_basis_1 6 rfl rfl)
theorem dX11_basis_29 : decode cX11_basis 29 = .ok (.goto 10, 3) := dk_167 0 10 (dk_at dksX11_basis_1 7 rfl rfl)
theorem dX11_basis_32 : decode cX11_basis 32 = .ok (.aload_n 0, 1) := dk_42 (dk_at dksX11_basis_1 10 rfl rfl)
theorem dX11_basis_33 : decode cX11_basis 33 = .ok (.iload_n 1, 1) := dk_27 (dk_at dksX11_basis_1 11 rfl rfl)
theorem dX11_basis_34 : decode cX11_basis 34 = .ok (.iload_n 2, 1) := dk_28 (dk_at dksX11_basis_1 12 rfl rfl)
theorem dX11_basis_35 : decode cX11_basis 35 = .ok (.iload_n 3, 1) := dk_29 (dk_at dksX11_basis_1 13 rfl rfl)
theorem dX11_basis_36 : decode cX11_basis 36 = .ok (.invokevirtual 309, 3) := dk_182 1 53 (dk_at dksX11_basis_1 14 rfl rfl)
theorem dX11_basis_39 : decode cX11_basis 39 = .ok (.ireturn, 1) := dk_172 (dk_at dksX11_basis_1 17 rfl rfl)
abbrev cX11_root : ByteArray := prog_18_method_92_code
def yX11_root : MethodName := ⟨RX11, "root", "(II)I"⟩
def dkwX11_root_2 : List UInt8 := [153, 0, 8, 16, 99, 167, 0, 10, 42, 16, 40, 28, 182, 1, 67, 172]
abbrev dktX11_root_2 : List UInt8 := dkwX11_root_2 ++ []
def dkwX11_root_1 : List UInt8 := [5, 182, 0, 215, 153, 0, 5, 3, 172, 42, 16, 40, 27, 182, 0, 241, 42, 16, 40, 182, 1, 64]
abbrev dktX11_root_1 : List UInt8 := dkwX11_root_1 ++ dktX11_root_2
def dkwX11_root_0 : List UInt8 := [42, 3, 181, 0, 3, 42, 42, 27, 182, 0, 238, 4, 182, 0, 215, 154, 0, 16, 42, 42, 28, 182, 1, 61]
abbrev dktX11_root_0 : List UInt8 := dkwX11_root_0 ++ dktX11_root_1
theorem dksX11_root_0 : cX11_root.data.toList.drop 0 = dktX11_root_0 := by decide +kernel
theorem dksX11_root_1 : cX11_root.data.toList.drop 24 = dktX11_root_1 := dk_seg dksX11_root_0 24 rfl rfl
theorem dksX11_root_2 : cX11_root.data.toList.drop 46 = dktX11_root_2 := dk_seg dksX11_root_1 22 rfl rfl
theorem dX11_root_0 : decode cX11_root 0 = .ok (.aload_n 0, 1) := dk_42 (dk_at dksX11_root_0 0 rfl rfl)
theorem dX11_root_1 : decode cX11_root 1 = .ok (.iconst 0, 1) := dk_3 (dk_at dksX11_root_0 1 rfl rfl)
theorem dX11_root_2 : decode cX11_root 2 = .ok (.putfield 3, 3) := dk_181 0 3 (dk_at dksX11_root_0 2 rfl rfl)
theorem dX11_root_5 : decode cX11_root 5 = .ok (.aload_n 0, 1) := dk_42 (dk_at dksX11_root_0 5 rfl rfl)
theorem dX11_root_6 : decode cX11_root 6 = .ok (.aload_n 0, 1) := dk_42 (dk_at dksX11_root_0 6 rfl rfl)
theorem dX11_root_7 : decode cX11_root 7 = .ok (.iload_n 1, 1) := dk_27 (dk_at dksX11_root_0 7 rfl rfl)
theorem dX11_root_8 : decode cX11_root 8 = .ok (.invokevirtual 238, 3) := dk_182 0 238 (dk_at dksX11_root_0 8 rfl rfl)
theorem dX11_root_11 : decode cX11_root 11 = .ok (.iconst 1, 1) := dk_4 (dk_at dksX11_root_0 11 rfl rfl)
theorem dX11_root_12 : decode cX11_root 12 = .ok (.invokevirtual 215, 3) := dk_182 0 215 (dk_at dksX11_root_0 12 rfl rfl)
theorem dX11_root_15 : decode cX11_root 15 = .ok (.ifCond .ne 16, 3) := dk_154 0 16 (dk_at dksX11_root_0 15 rfl rfl)
theorem dX11_root_18 : decode cX11_root 18 = .ok (.aload_n 0, 1) := dk_42 (dk_at dksX11_root_0 18 rfl rfl)
theorem dX11_root_19 : decode cX11_root 19 = .ok (.aload_n 0, 1) := dk_42 (dk_at dksX11_root_0 19 rfl rfl)
theorem dX11_root_20 : decode cX11_root 20 = .ok (.iload_n 2, 1) := dk_28 (dk_at dksX11_root_0 20 rfl rfl)
theorem dX11_root_21 : decode cX11_root 21 = .ok (.invokevirtual 317, 3) := dk_182 1 61 (dk_at dksX11_root_0 21 rfl rfl)
theorem dX11_root_24 : decode cX11_root 24 = .ok (.iconst 2, 1) := dk_5 (dk_at dksX11_root_1 0 rfl rfl)
theorem dX11_root_25 : decode cX11_root 25 = .ok (.invokevirtual 215, 3) := dk_182 0 215 (dk_at dksX11_root_1 1 rfl rfl)
theorem dX11_root_28 : decode cX11_root 28 = .ok (.ifCond .eq 5, 3) := dk_153 0 5 (dk_at dksX11_root_1 4 rfl rfl)
theorem dX11_root_31 : decode cX11_root 31 = .ok (.iconst 0, 1) := dk_3 (dk_at dksX11_root_1 7 rfl rfl)
theorem dX11_root_32 : decode cX11_root 32 = .ok (.ireturn, 1) := dk_172 (dk_at dksX11_root_1 8 rfl rfl)
theorem dX11_root_33 : decode cX11_root 33 = .ok (.aload_n 0, 1) := dk_42 (dk_at dksX11_root_1 9 rfl rfl)
theorem dX11_root_34 : decode cX11_root 34 = .ok (.bipush 40, 2) := dk_16 40 (dk_at dksX11_root_1 10 rfl rfl)
theorem dX11_root_36 : decode cX11_root 36 = .ok (.iload_n 1, 1) := dk_27 (dk_at dksX11_root_1 12 rfl rfl)
theorem dX11_root_37 : decode cX11_root 37 = .ok (.invokevirtual 241, 3) := dk_182 0 241 (dk_at dksX11_root_1 13 rfl rfl)
theorem dX11_root_40 : decode cX11_root 40 = .ok (.aload_n 0, 1) := dk_42 (dk_at dksX11_root_1 16 rfl rfl)
theorem dX11_root_41 : decode cX11_root 41 = .ok (.bipush 40, 2) := dk_16 40 (dk_at dksX11_root_1 17 rfl rfl)
theorem dX11_root_43 : decode cX11_root 43 = .ok (.invokevirtual 320, 3) := dk_182 1 64 (dk_at dksX11_root_1 19 rfl rfl)
theorem dX11_root_46 : decode cX11_root 46 = .ok (.ifCond .eq 8, 3) := dk_153 0 8 (dk_at dksX11_root_2 0 rfl rfl)
theorem dX11_root_49 : decode cX11_root 49 = .ok (.bipush 99, 2) := dk_16 99 (dk_at dksX11_root_2 3 rfl rfl)
theorem dX11_root_51 : decode cX11_root 51 = .ok (.goto 10, 3) := dk_167 0 10 (dk_at dksX11_root_2 5 rfl rfl)
theorem dX11_root_54 : decode cX11_root 54 = .ok (.aload_n 0, 1) := dk_42 (dk_at dksX11_root_2 8 rfl rfl)
theorem dX11_root_55 : decode cX11_root 55 = .ok (.bipush 40, 2) := dk_16 40 (dk_at dksX11_root_2 9 rfl rfl)
theorem dX11_root_57 : decode cX11_root 57 = .ok (.iload_n 2, 1) := dk_28 (dk_at dksX11_root_2 11 rfl rfl)
theorem dX11_root_58 : decode cX11_root 58 = .ok (.invokevirtual 323, 3) := dk_182 1 67 (dk_at dksX11_root_2 12 rfl rfl)
theorem dX11_root_61 : decode cX11_root 61 = .ok (.ireturn, 1) := dk_172 (dk_at dksX11_root_2 15 rfl rfl)
abbrev cX11_noPoint : ByteArray := prog_18_method_90_code
def yX11_noPoint : MethodName := ⟨RX11, "noPoint", "(I)Z"⟩
def dkwX11_noPoint_0 : List UInt8 := [27, 3, 42, 182, 0, 76, 184, 0, 68, 154, 0, 7, 4, 167, 0, 4, 3, 172]
abbrev dktX11_noPoint_0 : List UInt8 := dkwX11_noPoint_0 ++ []
theorem dksX11_noPoint_0 : cX11_noPoint.data.toList.drop 0 = dktX11_noPoint_0 := by decide +kernel
theorem dX11_noPoint_0 : decode cX11_noPoint 0 = .ok (.iload_n 1, 1) := dk_27 (dk_at dksX11_noPoint_0 0 rfl rfl)
theorem dX11_noPoint_1 : decode cX11_noPoint 1 = .ok (.iconst 0, 1) := dk_3 (dk_at dksX11_noPoint_0 1 rfl rfl)
theorem dX11_noPoint_2 : decode cX11_noPoint 2 = .ok (.aload_n 0, 1) := dk_42 (dk_at dksX11_noPoint_0 2 rfl rfl)
theorem dX11_noPoint_3 : decode cX11_noPoint 3 = .ok (.invokevirtual 76, 3) := dk_182 0 76 (dk_at dksX11_noPoint_0 3 rfl rfl)
theorem dX11_noPoint_6 : decode cX11_noPoint 6 = .ok (.invokestatic 68, 3) := dk_184 0 68 (dk_at dksX11_noPoint_0 6 rfl rfl)
theorem dX11_noPoint_9 : decode cX11_noPoint 9 = .ok (.ifCond .ne 7, 3) := dk_154 0 7 (dk_at dksX11_noPoint_0 9 rfl rfl)
theorem dX11_noPoint_12 : decode cX11_noPoint 12 = .ok (.iconst 1, 1) := dk_4 (dk_at dksX11_noPoint_0 12 rfl rfl)
theorem dX11_noPoint_13 : decode cX11_noPoint 13 = .ok (.goto 4, 3) := dk_167 0 4 (dk_at dksX11_noPoint_0 13 rfl rfl)
theorem dX11_noPoint_16 : decode cX11_noPoint 16 = .ok (.iconst 0, 1) := dk_3 (dk_at dksX11_noPoint_0 16 rfl rfl)
theorem dX11_noPoint_17 : decode cX11_noPoint 17 = .ok (.ireturn, 1) := dk_172 (dk_at dksX11_noPoint_0 17 rfl rfl)
abbrev cX11_isNought : ByteArray := prog_18_method_26_code
def yX11_isNought : MethodName := ⟨RX11, "isNought", "(I)Z"⟩
def dkwX11_isNought_1 : List UInt8 := [154, 0, 7, 4, 167, 0, 4, 3, 61, 132, 3, 1, 167, 255, 224, 28, 172]
abbrev dktX11_isNought_1 : List UInt8 := dkwX11_isNought_1 ++ []
def dkwX11_isNought_0 : List UInt8 := [4, 61, 3, 62, 29, 42, 180, 0, 20, 27, 46, 163, 0, 28, 28, 153, 0, 16, 42, 27, 29, 182, 0, 103]
abbrev dktX11_isNought_0 : List UInt8 := dkwX11_isNought_0 ++ dktX11_isNought_1
theorem dksX11_isNought_0 : cX11_isNought.data.toList.drop 0 = dktX11_isNought_0 := by decide +kernel
theorem dksX11_isNought_1 : cX11_isNought.data.toList.drop 24 = dktX11_isNought_1 := dk_seg dksX11_isNought_0 24 rfl rfl
theorem dX11_isNought_0 : decode cX11_isNought 0 = .ok (.iconst 1, 1) := dk_4 (dk_at dksX11_isNought_0 0 rfl rfl)
theorem dX11_isNought_1 : decode cX11_isNought 1 = .ok (.istore_n 2, 1) := dk_61 (dk_at dksX11_isNought_0 1 rfl rfl)
theorem dX11_isNought_2 : decode cX11_isNought 2 = .ok (.iconst 0, 1) := dk_3 (dk_at dksX11_isNought_0 2 rfl rfl)
theorem dX11_isNought_3 : decode cX11_isNought 3 = .ok (.istore_n 3, 1) := dk_62 (dk_at dksX11_isNought_0 3 rfl rfl)
theorem dX11_isNought_4 : decode cX11_isNought 4 = .ok (.iload_n 3, 1) := dk_29 (dk_at dksX11_isNought_0 4 rfl rfl)
theorem dX11_isNought_5 : decode cX11_isNought 5 = .ok (.aload_n 0, 1) := dk_42 (dk_at dksX11_isNought_0 5 rfl rfl)
theorem dX11_isNought_6 : decode cX11_isNought 6 = .ok (.getfield 20, 3) := dk_180 0 20 (dk_at dksX11_isNought_0 6 rfl rfl)
theorem dX11_isNought_9 : decode cX11_isNought 9 = .ok (.iload_n 1, 1) := dk_27 (dk_at dksX11_isNought_0 9 rfl rfl)
theorem dX11_isNought_10 : decode cX11_isNought 10 = .ok (.iaload, 1) := dk_46 (dk_at dksX11_isNought_0 10 rfl rfl)
theorem dX11_isNought_11 : decode cX11_isNought 11 = .ok (.if_icmp .gt 28, 3) := dk_163 0 28 (dk_at dksX11_isNought_0 11 rfl rfl)
theorem dX11_isNought_14 : decode cX11_isNought 14 = .ok (.iload_n 2, 1) := dk_28 (dk_at dksX11_isNought_0 14 rfl rfl)
theorem dX11_isNought_15 : decode cX11_isNought 15 = .ok (.ifCond .eq 16, 3) := dk_153 0 16 (dk_at dksX11_isNought_0 15 rfl rfl)
theorem dX11_isNought_18 : decode cX11_isNought 18 = .ok (.aload_n 0, 1) := dk_42 (dk_at dksX11_isNought_0 18 rfl rfl)
theorem dX11_isNought_19 : decode cX11_isNought 19 = .ok (.iload_n 1, 1) := dk_27 (dk_at dksX11_isNought_0 19 rfl rfl)
theorem dX11_isNought_20 : decode cX11_isNought 20 = .ok (.iload_n 3, 1) := dk_29 (dk_at dksX11_isNought_0 20 rfl rfl)
theorem dX11_isNought_21 : decode cX11_isNought 21 = .ok (.invokevirtual 103, 3) := dk_182 0 103 (dk_at dksX11_isNought_0 21 rfl rfl)
theorem dX11_isNought_24 : decode cX11_isNought 24 = .ok (.ifCond .ne 7, 3) := dk_154 0 7 (dk_at dksX11_isNought_1 0 rfl rfl)
theorem dX11_isNought_27 : decode cX11_isNought 27 = .ok (.iconst 1, 1) := dk_4 (dk_at dksX11_isNought_1 3 rfl rfl)
theorem dX11_isNought_28 : decode cX11_isNought 28 = .ok (.goto 4, 3) := dk_167 0 4 (dk_at dksX11_isNought_1 4 rfl rfl)
theorem dX11_isNought_31 : decode cX11_isNought 31 = .ok (.iconst 0, 1) := dk_3 (dk_at dksX11_isNought_1 7 rfl rfl)
theorem dX11_isNought_32 : decode cX11_isNought 32 = .ok (.istore_n 2, 1) := dk_61 (dk_at dksX11_isNought_1 8 rfl rfl)
theorem dX11_isNought_33 : decode cX11_isNought 33 = .ok (.iinc 3 1, 3) := dk_132 3 1 (dk_at dksX11_isNought_1 9 rfl rfl)
theorem dX11_isNought_36 : decode cX11_isNought 36 = .ok (.goto (-32), 3) := dk_167 255 224 (dk_at dksX11_isNought_1 12 rfl rfl)
theorem dX11_isNought_39 : decode cX11_isNought 39 = .ok (.iload_n 2, 1) := dk_28 (dk_at dksX11_isNought_1 15 rfl rfl)
theorem dX11_isNought_40 : decode cX11_isNought 40 = .ok (.ireturn, 1) := dk_172 (dk_at dksX11_isNought_1 16 rfl rfl)
abbrev cX11_oftenRoot : ByteArray := prog_18_method_91_code
def yX11_oftenRoot : MethodName := ⟨RX11, "oftenRoot", "(II)I"⟩
def dkwX11_oftenRoot_5 : List UInt8 := [16, 43, 92, 46, 4, 100, 79, 132, 3, 1, 167, 255, 165, 29, 172]
abbrev dktX11_oftenRoot_5 : List UInt8 := dkwX11_oftenRoot_5 ++ []
def dkwX11_oftenRoot_4 : List UInt8 := [4, 100, 182, 0, 103, 182, 0, 86, 182, 0, 110, 182, 0, 99, 132, 4, 1, 167, 255, 206, 42, 180, 0, 20]
abbrev dktX11_oftenRoot_4 : List UInt8 := dkwX11_oftenRoot_4 ++ dktX11_oftenRoot_5
def dkwX11_oftenRoot_3 : List UInt8 := [163, 0, 44, 42, 16, 43, 21, 4, 42, 42, 16, 43, 21, 4, 182, 0, 103, 42, 28, 42, 16, 43, 21, 4]
abbrev dktX11_oftenRoot_3 : List UInt8 := dkwX11_oftenRoot_3 ++ dktX11_oftenRoot_4
def dkwX11_oftenRoot_2 : List UInt8 := [16, 43, 28, 4, 182, 0, 244, 154, 0, 76, 4, 54, 4, 21, 4, 42, 180, 0, 20, 16, 43, 46]
abbrev dktX11_oftenRoot_2 : List UInt8 := dkwX11_oftenRoot_2 ++ dktX11_oftenRoot_3
def dkwX11_oftenRoot_1 : List UInt8 := [167, 255, 244, 29, 172, 42, 27, 16, 43, 182, 1, 11, 42, 180, 0, 20, 16, 43, 46, 158, 0, 87, 42]
abbrev dktX11_oftenRoot_1 : List UInt8 := dkwX11_oftenRoot_1 ++ dktX11_oftenRoot_2
def dkwX11_oftenRoot_0 : List UInt8 := [3, 62, 28, 42, 182, 0, 76, 160, 0, 20, 42, 27, 29, 182, 0, 103, 154, 0, 9, 132, 3, 1]
abbrev dktX11_oftenRoot_0 : List UInt8 := dkwX11_oftenRoot_0 ++ dktX11_oftenRoot_1
theorem dksX11_oftenRoot_0 : cX11_oftenRoot.data.toList.drop 0 = dktX11_oftenRoot_0 := by decide +kernel
theorem dksX11_oftenRoot_1 : cX11_oftenRoot.data.toList.drop 22 = dktX11_oftenRoot_1 := dk_seg dksX11_oftenRoot_0 22 rfl rfl
theorem dksX11_oftenRoot_2 : cX11_oftenRoot.data.toList.drop 45 = dktX11_oftenRoot_2 := dk_seg dksX11_oftenRoot_1 23 rfl rfl
theorem dksX11_oftenRoot_3 : cX11_oftenRoot.data.toList.drop 67 = dktX11_oftenRoot_3 := dk_seg dksX11_oftenRoot_2 22 rfl rfl
theorem dksX11_oftenRoot_4 : cX11_oftenRoot.data.toList.drop 91 = dktX11_oftenRoot_4 := dk_seg dksX11_oftenRoot_3 24 rfl rfl
theorem dksX11_oftenRoot_5 : cX11_oftenRoot.data.toList.drop 115 = dktX11_oftenRoot_5 := dk_seg dksX11_oftenRoot_4 24 rfl rfl
theorem dX11_oftenRoot_0 : decode cX11_oftenRoot 0 = .ok (.iconst 0, 1) := dk_3 (dk_at dksX11_oftenRoot_0 0 rfl rfl)
theorem dX11_oftenRoot_1 : decode cX11_oftenRoot 1 = .ok (.istore_n 3, 1) := dk_62 (dk_at dksX11_oftenRoot_0 1 rfl rfl)
theorem dX11_oftenRoot_2 : decode cX11_oftenRoot 2 = .ok (.iload_n 2, 1) := dk_28 (dk_at dksX11_oftenRoot_0 2 rfl rfl)
theorem dX11_oftenRoot_3 : decode cX11_oftenRoot 3 = .ok (.aload_n 0, 1) := dk_42 (dk_at dksX11_oftenRoot_0 3 rfl rfl)
theorem dX11_oftenRoot_4 : decode cX11_oftenRoot 4 = .ok (.invokevirtual 76, 3) := dk_182 0 76 (dk_at dksX11_oftenRoot_0 4 rfl rfl)
theorem dX11_oftenRoot_7 : decode cX11_oftenRoot 7 = .ok (.if_icmp .ne 20, 3) := dk_160 0 20 (dk_at dksX11_oftenRoot_0 7 rfl rfl)
theorem dX11_oftenRoot_10 : decode cX11_oftenRoot 10 = .ok (.aload_n 0, 1) := dk_42 (dk_at dksX11_oftenRoot_0 10 rfl rfl)
theorem dX11_oftenRoot_11 : decode cX11_oftenRoot 11 = .ok (.iload_n 1, 1) := dk_27 (dk_at dksX11_oftenRoot_0 11 rfl rfl)
theorem dX11_oftenRoot_12 : decode cX11_oftenRoot 12 = .ok (.iload_n 3, 1) := dk_29 (dk_at dksX11_oftenRoot_0 12 rfl rfl)
theorem dX11_oftenRoot_13 : decode cX11_oftenRoot 13 = .ok (.invokevirtual 103, 3) := dk_182 0 103 (dk_at dksX11_oftenRoot_0 13 rfl rfl)
theorem dX11_oftenRoot_16 : decode cX11_oftenRoot 16 = .ok (.ifCond .ne 9, 3) := dk_154 0 9 (dk_at dksX11_oftenRoot_0 16 rfl rfl)
theorem dX11_oftenRoot_19 : decode cX11_oftenRoot 19 = .ok (.iinc 3 1, 3) := dk_132 3 1 (dk_at dksX11_oftenRoot_0 19 rfl rfl)
theorem dX11_oftenRoot_22 : decode cX11_oftenRoot 22 = .ok (.goto (-12), 3) := dk_167 255 244 (dk_at dksX11_oftenRoot_1 0 rfl rfl)
theorem dX11_oftenRoot_25 : decode cX11_oftenRoot 25 = .ok (.iload_n 3, 1) := dk_29 (dk_at dksX11_oftenRoot_1 3 rfl rfl)
theorem dX11_oftenRoot_26 : decode cX11_oftenRoot 26 = .ok (.ireturn, 1) := dk_172 (dk_at dksX11_oftenRoot_1 4 rfl rfl)
theorem dX11_oftenRoot_27 : decode cX11_oftenRoot 27 = .ok (.aload_n 0, 1) := dk_42 (dk_at dksX11_oftenRoot_1 5 rfl rfl)
theorem dX11_oftenRoot_28 : decode cX11_oftenRoot 28 = .ok (.iload_n 1, 1) := dk_27 (dk_at dksX11_oftenRoot_1 6 rfl rfl)
theorem dX11_oftenRoot_29 : decode cX11_oftenRoot 29 = .ok (.bipush 43, 2) := dk_16 43 (dk_at dksX11_oftenRoot_1 7 rfl rfl)
theorem dX11_oftenRoot_31 : decode cX11_oftenRoot 31 = .ok (.invokevirtual 267, 3) := dk_182 1 11 (dk_at dksX11_oftenRoot_1 9 rfl rfl)
theorem dX11_oftenRoot_34 : decode cX11_oftenRoot 34 = .ok (.aload_n 0, 1) := dk_42 (dk_at dksX11_oftenRoot_1 12 rfl rfl)
theorem dX11_oftenRoot_35 : decode cX11_oftenRoot 35 = .ok (.getfield 20, 3) := dk_180 0 20 (dk_at dksX11_oftenRoot_1 13 rfl rfl)
theorem dX11_oftenRoot_38 : decode cX11_oftenRoot 38 = .ok (.bipush 43, 2) := dk_16 43 (dk_at dksX11_oftenRoot_1 16 rfl rfl)
theorem dX11_oftenRoot_40 : decode cX11_oftenRoot 40 = .ok (.iaload, 1) := dk_46 (dk_at dksX11_oftenRoot_1 18 rfl rfl)
theorem dX11_oftenRoot_41 : decode cX11_oftenRoot 41 = .ok (.ifCond .le 87, 3) := dk_158 0 87 (dk_at dksX11_oftenRoot_1 19 rfl rfl)
theorem dX11_oftenRoot_44 : decode cX11_oftenRoot 44 = .ok (.aload_n 0, 1) := dk_42 (dk_at dksX11_oftenRoot_1 22 rfl rfl)
theorem dX11_oftenRoot_45 : decode cX11_oftenRoot 45 = .ok (.bipush 43, 2) := dk_16 43 (dk_at dksX11_oftenRoot_2 0 rfl rfl)
theorem dX11_oftenRoot_47 : decode cX11_oftenRoot 47 = .ok (.iload_n 2, 1) := dk_28 (dk_at dksX11_oftenRoot_2 2 rfl rfl)
theorem dX11_oftenRoot_48 : decode cX11_oftenRoot 48 = .ok (.iconst 1, 1) := dk_4 (dk_at dksX11_oftenRoot_2 3 rfl rfl)
theorem dX11_oftenRoot_49 : decode cX11_oftenRoot 49 = .ok (.invokevirtual 244, 3) := dk_182 0 244 (dk_at dksX11_oftenRoot_2 4 rfl rfl)
theorem dX11_oftenRoot_52 : decode cX11_oftenRoot 52 = .ok (.ifCond .ne 76, 3) := dk_154 0 76 (dk_at dksX11_oftenRoot_2 7 rfl rfl)
theorem dX11_oftenRoot_55 : decode cX11_oftenRoot 55 = .ok (.iconst 1, 1) := dk_4 (dk_at dksX11_oftenRoot_2 10 rfl rfl)
theorem dX11_oftenRoot_56 : decode cX11_oftenRoot 56 = .ok (.istore 4, 2) := dk_54 4 (dk_at dksX11_oftenRoot_2 11 rfl rfl)
theorem dX11_oftenRoot_58 : decode cX11_oftenRoot 58 = .ok (.iload 4, 2) := dk_21 4 (dk_at dksX11_oftenRoot_2 13 rfl rfl)
theorem dX11_oftenRoot_60 : decode cX11_oftenRoot 60 = .ok (.aload_n 0, 1) := dk_42 (dk_at dksX11_oftenRoot_2 15 rfl rfl)
theorem dX11_oftenRoot_61 : decode cX11_oftenRoot 61 = .ok (.getfield 20, 3) := dk_180 0 20 (dk_at dksX11_oftenRoot_2 16 rfl rfl)
theorem dX11_oftenRoot_64 : decode cX11_oftenRoot 64 = .ok (.bipush 43, 2) := dk_16 43 (dk_at dksX11_oftenRoot_2 19 rfl rfl)
theorem dX11_oftenRoot_66 : decode cX11_oftenRoot 66 = .ok (.iaload, 1) := dk_46 (dk_at dksX11_oftenRoot_2 21 rfl rfl)
theorem dX11_oftenRoot_67 : decode cX11_oftenRoot 67 = .ok (.if_icmp .gt 44, 3) := dk_163 0 44 (dk_at dksX11_oftenRoot_3 0 rfl rfl)
theorem dX11_oftenRoot_70 : decode cX11_oftenRoot 70 = .ok (.aload_n 0, 1) := dk_42 (dk_at dksX11_oftenRoot_3 3 rfl rfl)
theorem dX11_oftenRoot_71 : decode cX11_oftenRoot 71 = .ok (.bipush 43, 2) := dk_16 43 (dk_at dksX11_oftenRoot_3 4 rfl rfl)
theorem dX11_oftenRoot_73 : decode cX11_oftenRoot 73 = .ok (.iload 4, 2) := dk_21 4 (dk_at dksX11_oftenRoot_3 6 rfl rfl)
theorem dX11_oftenRoot_75 : decode cX11_oftenRoot 75 = .ok (.aload_n 0, 1) := dk_42 (dk_at dksX11_oftenRoot_3 8 rfl rfl)
theorem dX11_oftenRoot_76 : decode cX11_oftenRoot 76 = .ok (.aload_n 0, 1) := dk_42 (dk_at dksX11_oftenRoot_3 9 rfl rfl)
theorem dX11_oftenRoot_77 : decode cX11_oftenRoot 77 = .ok (.bipush 43, 2) := dk_16 43 (dk_at dksX11_oftenRoot_3 10 rfl rfl)
theorem dX11_oftenRoot_79 : decode cX11_oftenRoot 79 = .ok (.iload 4, 2) := dk_21 4 (dk_at dksX11_oftenRoot_3 12 rfl rfl)
theorem dX11_oftenRoot_81 : decode cX11_oftenRoot 81 = .ok (.invokevirtual 103, 3) := dk_182 0 103 (dk_at dksX11_oftenRoot_3 14 rfl rfl)
theorem dX11_oftenRoot_84 : decode cX11_oftenRoot 84 = .ok (.aload_n 0, 1) := dk_42 (dk_at dksX11_oftenRoot_3 17 rfl rfl)
theorem dX11_oftenRoot_85 : decode cX11_oftenRoot 85 = .ok (.iload_n 2, 1) := dk_28 (dk_at dksX11_oftenRoot_3 18 rfl rfl)
theorem dX11_oftenRoot_86 : decode cX11_oftenRoot 86 = .ok (.aload_n 0, 1) := dk_42 (dk_at dksX11_oftenRoot_3 19 rfl rfl)
theorem dX11_oftenRoot_87 : decode cX11_oftenRoot 87 = .ok (.bipush 43, 2) := dk_16 43 (dk_at dksX11_oftenRoot_3 20 rfl rfl)
theorem dX11_oftenRoot_89 : decode cX11_oftenRoot 89 = .ok (.iload 4, 2) := dk_21 4 (dk_at dksX11_oftenRoot_3 22 rfl rfl)
theorem dX11_oftenRoot_91 : decode cX11_oftenRoot 91 = .ok (.iconst 1, 1) := dk_4 (dk_at dksX11_oftenRoot_4 0 rfl rfl)
theorem dX11_oftenRoot_92 : decode cX11_oftenRoot 92 = .ok (.isub, 1) := dk_100 (dk_at dksX11_oftenRoot_4 1 rfl rfl)
theorem dX11_oftenRoot_93 : decode cX11_oftenRoot 93 = .ok (.invokevirtual 103, 3) := dk_182 0 103 (dk_at dksX11_oftenRoot_4 2 rfl rfl)
theorem dX11_oftenRoot_96 : decode cX11_oftenRoot 96 = .ok (.invokevirtual 86, 3) := dk_182 0 86 (dk_at dksX11_oftenRoot_4 5 rfl rfl)
theorem dX11_oftenRoot_99 : decode cX11_oftenRoot 99 = .ok (.invokevirtual 110, 3) := dk_182 0 110 (dk_at dksX11_oftenRoot_4 8 rfl rfl)
theorem dX11_oftenRoot_102 : decode cX11_oftenRoot 102 = .ok (.invokevirtual 99, 3) := dk_182 0 99 (dk_at dksX11_oftenRoot_4 11 rfl rfl)
theorem dX11_oftenRoot_105 : decode cX11_oftenRoot 105 = .ok (.iinc 4 1, 3) := dk_132 4 1 (dk_at dksX11_oftenRoot_4 14 rfl rfl)
theorem dX11_oftenRoot_108 : decode cX11_oftenRoot 108 = .ok (.goto (-50), 3) := dk_167 255 206 (dk_at dksX11_oftenRoot_4 17 rfl rfl)
theorem dX11_oftenRoot_111 : decode cX11_oftenRoot 111 = .ok (.aload_n 0, 1) := dk_42 (dk_at dksX11_oftenRoot_4 20 rfl rfl)
theorem dX11_oftenRoot_112 : decode cX11_oftenRoot 112 = .ok (.getfield 20, 3) := dk_180 0 20 (dk_at dksX11_oftenRoot_4 21 rfl rfl)
theorem dX11_oftenRoot_115 : decode cX11_oftenRoot 115 = .ok (.bipush 43, 2) := dk_16 43 (dk_at dksX11_oftenRoot_5 0 rfl rfl)
theorem dX11_oftenRoot_117 : decode cX11_oftenRoot 117 = .ok (.dup2, 1) := dk_92 (dk_at dksX11_oftenRoot_5 2 rfl rfl)
theorem dX11_oftenRoot_118 : decode cX11_oftenRoot 118 = .ok (.iaload, 1) := dk_46 (dk_at dksX11_oftenRoot_5 3 rfl rfl)
theorem dX11_oftenRoot_119 : decode cX11_oftenRoot 119 = .ok (.iconst 1, 1) := dk_4 (dk_at dksX11_oftenRoot_5 4 rfl rfl)
theorem dX11_oftenRoot_120 : decode cX11_oftenRoot 120 = .ok (.isub, 1) := dk_100 (dk_at dksX11_oftenRoot_5 5 rfl rfl)
theorem dX11_oftenRoot_121 : decode cX11_oftenRoot 121 = .ok (.iastore, 1) := dk_79 (dk_at dksX11_oftenRoot_5 6 rfl rfl)
theorem dX11_oftenRoot_122 : decode cX11_oftenRoot 122 = .ok (.iinc 3 1, 3) := dk_132 3 1 (dk_at dksX11_oftenRoot_5 7 rfl rfl)
theorem dX11_oftenRoot_125 : decode cX11_oftenRoot 125 = .ok (.goto (-91), 3) := dk_167 255 165 (dk_at dksX11_oftenRoot_5 10 rfl rfl)
theorem dX11_oftenRoot_128 : decode cX11_oftenRoot 128 = .ok (.iload_n 3, 1) := dk_29 (dk_at dksX11_oftenRoot_5 13 rfl rfl)
theorem dX11_oftenRoot_129 : decode cX11_oftenRoot 129 = .ok (.ireturn, 1) := dk_172 (dk_at dksX11_oftenRoot_5 14 rfl rfl)
abbrev cX11_roots : ByteArray := prog_18_method_93_code
def yX11_roots : MethodName := ⟨RX11, "roots", "(I)I"⟩
def dkwX11_roots_3 : List UInt8 := [132, 3, 1, 167, 255, 216, 28, 172]
abbrev dktX11_roots_3 : List UInt8 := dkwX11_roots_3 ++ []
def dkwX11_roots_2 : List UInt8 := [154, 0, 13, 42, 16, 40, 29, 182, 1, 67, 158, 0, 9, 4, 29, 120, 167, 0, 4, 3, 128, 61]
abbrev dktX11_roots_2 : List UInt8 := dkwX11_roots_2 ++ dktX11_roots_3
def dkwX11_roots_1 : List UInt8 := [182, 0, 241, 3, 61, 3, 62, 29, 42, 182, 0, 76, 163, 0, 38, 28, 42, 16, 40, 182, 1, 64]
abbrev dktX11_roots_1 : List UInt8 := dkwX11_roots_1 ++ dktX11_roots_2
def dkwX11_roots_0 : List UInt8 := [42, 3, 181, 0, 3, 42, 42, 27, 182, 0, 238, 4, 182, 0, 215, 153, 0, 5, 3, 172, 42, 16, 40, 27]
abbrev dktX11_roots_0 : List UInt8 := dkwX11_roots_0 ++ dktX11_roots_1
theorem dksX11_roots_0 : cX11_roots.data.toList.drop 0 = dktX11_roots_0 := by decide +kernel
theorem dksX11_roots_1 : cX11_roots.data.toList.drop 24 = dktX11_roots_1 := dk_seg dksX11_roots_0 24 rfl rfl
theorem dksX11_roots_2 : cX11_roots.data.toList.drop 46 = dktX11_roots_2 := dk_seg dksX11_roots_1 22 rfl rfl
theorem dksX11_roots_3 : cX11_roots.data.toList.drop 68 = dktX11_roots_3 := dk_seg dksX11_roots_2 22 rfl rfl
theorem dX11_roots_0 : decode cX11_roots 0 = .ok (.aload_n 0, 1) := dk_42 (dk_at dksX11_roots_0 0 rfl rfl)
theorem dX11_roots_1 : decode cX11_roots 1 = .ok (.iconst 0, 1) := dk_3 (dk_at dksX11_roots_0 1 rfl rfl)
theorem dX11_roots_2 : decode cX11_roots 2 = .ok (.putfield 3, 3) := dk_181 0 3 (dk_at dksX11_roots_0 2 rfl rfl)
theorem dX11_roots_5 : decode cX11_roots 5 = .ok (.aload_n 0, 1) := dk_42 (dk_at dksX11_roots_0 5 rfl rfl)
theorem dX11_roots_6 : decode cX11_roots 6 = .ok (.aload_n 0, 1) := dk_42 (dk_at dksX11_roots_0 6 rfl rfl)
theorem dX11_roots_7 : decode cX11_roots 7 = .ok (.iload_n 1, 1) := dk_27 (dk_at dksX11_roots_0 7 rfl rfl)
theorem dX11_roots_8 : decode cX11_roots 8 = .ok (.invokevirtual 238, 3) := dk_182 0 238 (dk_at dksX11_roots_0 8 rfl rfl)
theorem dX11_roots_11 : decode cX11_roots 11 = .ok (.iconst 1, 1) := dk_4 (dk_at dksX11_roots_0 11 rfl rfl)
theorem dX11_roots_12 : decode cX11_roots 12 = .ok (.invokevirtual 215, 3) := dk_182 0 215 (dk_at dksX11_roots_0 12 rfl rfl)
theorem dX11_roots_15 : decode cX11_roots 15 = .ok (.ifCond .eq 5, 3) := dk_153 0 5 (dk_at dksX11_roots_0 15 rfl rfl)
theorem dX11_roots_18 : decode cX11_roots 18 = .ok (.iconst 0, 1) := dk_3 (dk_at dksX11_roots_0 18 rfl rfl)
theorem dX11_roots_19 : decode cX11_roots 19 = .ok (.ireturn, 1) := dk_172 (dk_at dksX11_roots_0 19 rfl rfl)
theorem dX11_roots_20 : decode cX11_roots 20 = .ok (.aload_n 0, 1) := dk_42 (dk_at dksX11_roots_0 20 rfl rfl)
theorem dX11_roots_21 : decode cX11_roots 21 = .ok (.bipush 40, 2) := dk_16 40 (dk_at dksX11_roots_0 21 rfl rfl)
theorem dX11_roots_23 : decode cX11_roots 23 = .ok (.iload_n 1, 1) := dk_27 (dk_at dksX11_roots_0 23 rfl rfl)
theorem dX11_roots_24 : decode cX11_roots 24 = .ok (.invokevirtual 241, 3) := dk_182 0 241 (dk_at dksX11_roots_1 0 rfl rfl)
theorem dX11_roots_27 : decode cX11_roots 27 = .ok (.iconst 0, 1) := dk_3 (dk_at dksX11_roots_1 3 rfl rfl)
theorem dX11_roots_28 : decode cX11_roots 28 = .ok (.istore_n 2, 1) := dk_61 (dk_at dksX11_roots_1 4 rfl rfl)
theorem dX11_roots_29 : decode cX11_roots 29 = .ok (.iconst 0, 1) := dk_3 (dk_at dksX11_roots_1 5 rfl rfl)
theorem dX11_roots_30 : decode cX11_roots 30 = .ok (.istore_n 3, 1) := dk_62 (dk_at dksX11_roots_1 6 rfl rfl)
theorem dX11_roots_31 : decode cX11_roots 31 = .ok (.iload_n 3, 1) := dk_29 (dk_at dksX11_roots_1 7 rfl rfl)
theorem dX11_roots_32 : decode cX11_roots 32 = .ok (.aload_n 0, 1) := dk_42 (dk_at dksX11_roots_1 8 rfl rfl)
theorem dX11_roots_33 : decode cX11_roots 33 = .ok (.invokevirtual 76, 3) := dk_182 0 76 (dk_at dksX11_roots_1 9 rfl rfl)
theorem dX11_roots_36 : decode cX11_roots 36 = .ok (.if_icmp .gt 38, 3) := dk_163 0 38 (dk_at dksX11_roots_1 12 rfl rfl)
theorem dX11_roots_39 : decode cX11_roots 39 = .ok (.iload_n 2, 1) := dk_28 (dk_at dksX11_roots_1 15 rfl rfl)
theorem dX11_roots_40 : decode cX11_roots 40 = .ok (.aload_n 0, 1) := dk_42 (dk_at dksX11_roots_1 16 rfl rfl)
theorem dX11_roots_41 : decode cX11_roots 41 = .ok (.bipush 40, 2) := dk_16 40 (dk_at dksX11_roots_1 17 rfl rfl)
theorem dX11_roots_43 : decode cX11_roots 43 = .ok (.invokevirtual 320, 3) := dk_182 1 64 (dk_at dksX11_roots_1 19 rfl rfl)
theorem dX11_roots_46 : decode cX11_roots 46 = .ok (.ifCond .ne 13, 3) := dk_154 0 13 (dk_at dksX11_roots_2 0 rfl rfl)
theorem dX11_roots_49 : decode cX11_roots 49 = .ok (.aload_n 0, 1) := dk_42 (dk_at dksX11_roots_2 3 rfl rfl)
theorem dX11_roots_50 : decode cX11_roots 50 = .ok (.bipush 40, 2) := dk_16 40 (dk_at dksX11_roots_2 4 rfl rfl)
theorem dX11_roots_52 : decode cX11_roots 52 = .ok (.iload_n 3, 1) := dk_29 (dk_at dksX11_roots_2 6 rfl rfl)
theorem dX11_roots_53 : decode cX11_roots 53 = .ok (.invokevirtual 323, 3) := dk_182 1 67 (dk_at dksX11_roots_2 7 rfl rfl)
theorem dX11_roots_56 : decode cX11_roots 56 = .ok (.ifCond .le 9, 3) := dk_158 0 9 (dk_at dksX11_roots_2 10 rfl rfl)
theorem dX11_roots_59 : decode cX11_roots 59 = .ok (.iconst 1, 1) := dk_4 (dk_at dksX11_roots_2 13 rfl rfl)
theorem dX11_roots_60 : decode cX11_roots 60 = .ok (.iload_n 3, 1) := dk_29 (dk_at dksX11_roots_2 14 rfl rfl)
theorem dX11_roots_61 : decode cX11_roots 61 = .ok (.ishl, 1) := dk_120 (dk_at dksX11_roots_2 15 rfl rfl)
theorem dX11_roots_62 : decode cX11_roots 62 = .ok (.goto 4, 3) := dk_167 0 4 (dk_at dksX11_roots_2 16 rfl rfl)
theorem dX11_roots_65 : decode cX11_roots 65 = .ok (.iconst 0, 1) := dk_3 (dk_at dksX11_roots_2 19 rfl rfl)
theorem dX11_roots_66 : decode cX11_roots 66 = .ok (.ior, 1) := dk_128 (dk_at dksX11_roots_2 20 rfl rfl)
theorem dX11_roots_67 : decode cX11_roots 67 = .ok (.istore_n 2, 1) := dk_61 (dk_at dksX11_roots_2 21 rfl rfl)
theorem dX11_roots_68 : decode cX11_roots 68 = .ok (.iinc 3 1, 3) := dk_132 3 1 (dk_at dksX11_roots_3 0 rfl rfl)
theorem dX11_roots_71 : decode cX11_roots 71 = .ok (.goto (-40), 3) := dk_167 255 216 (dk_at dksX11_roots_3 3 rfl rfl)
theorem dX11_roots_74 : decode cX11_roots 74 = .ok (.iload_n 2, 1) := dk_28 (dk_at dksX11_roots_3 6 rfl rfl)
theorem dX11_roots_75 : decode cX11_roots 75 = .ok (.ireturn, 1) := dk_172 (dk_at dksX11_roots_3 7 rfl rfl)
abbrev cX11_empty : ByteArray := prog_18_method_94_code
def yX11_empty : MethodName := ⟨RX11, "empty", "(I)Z"⟩
def dkwX11_empty_3 : List UInt8 := [61, 132, 3, 1, 167, 255, 216, 28, 172]
abbrev dktX11_empty_3 : List UInt8 := dkwX11_empty_3 ++ []
def dkwX11_empty_2 : List UInt8 := [5, 42, 16, 40, 29, 182, 1, 67, 104, 42, 180, 0, 20, 16, 40, 46, 164, 0, 7, 4, 167, 0, 4, 3]
abbrev dktX11_empty_2 : List UInt8 := dkwX11_empty_2 ++ dktX11_empty_3
def dkwX11_empty_1 : List UInt8 := [182, 0, 241, 42, 16, 40, 182, 1, 64, 61, 3, 62, 29, 42, 182, 0, 76, 163, 0, 38, 28, 154, 0, 34]
abbrev dktX11_empty_1 : List UInt8 := dkwX11_empty_1 ++ dktX11_empty_2
def dkwX11_empty_0 : List UInt8 := [42, 3, 181, 0, 3, 42, 42, 27, 182, 0, 238, 4, 182, 0, 215, 153, 0, 5, 3, 172, 42, 16, 40, 27]
abbrev dktX11_empty_0 : List UInt8 := dkwX11_empty_0 ++ dktX11_empty_1
theorem dksX11_empty_0 : cX11_empty.data.toList.drop 0 = dktX11_empty_0 := by decide +kernel
theorem dksX11_empty_1 : cX11_empty.data.toList.drop 24 = dktX11_empty_1 := dk_seg dksX11_empty_0 24 rfl rfl
theorem dksX11_empty_2 : cX11_empty.data.toList.drop 48 = dktX11_empty_2 := dk_seg dksX11_empty_1 24 rfl rfl
theorem dksX11_empty_3 : cX11_empty.data.toList.drop 72 = dktX11_empty_3 := dk_seg dksX11_empty_2 24 rfl rfl
theorem dX11_empty_0 : decode cX11_empty 0 = .ok (.aload_n 0, 1) := dk_42 (dk_at dksX11_empty_0 0 rfl rfl)
theorem dX11_empty_1 : decode cX11_empty 1 = .ok (.iconst 0, 1) := dk_3 (dk_at dksX11_empty_0 1 rfl rfl)
theorem dX11_empty_2 : decode cX11_empty 2 = .ok (.putfield 3, 3) := dk_181 0 3 (dk_at dksX11_empty_0 2 rfl rfl)
theorem dX11_empty_5 : decode cX11_empty 5 = .ok (.aload_n 0, 1) := dk_42 (dk_at dksX11_empty_0 5 rfl rfl)
theorem dX11_empty_6 : decode cX11_empty 6 = .ok (.aload_n 0, 1) := dk_42 (dk_at dksX11_empty_0 6 rfl rfl)
theorem dX11_empty_7 : decode cX11_empty 7 = .ok (.iload_n 1, 1) := dk_27 (dk_at dksX11_empty_0 7 rfl rfl)
theorem dX11_empty_8 : decode cX11_empty 8 = .ok (.invokevirtual 238, 3) := dk_182 0 238 (dk_at dksX11_empty_0 8 rfl rfl)
theorem dX11_empty_11 : decode cX11_empty 11 = .ok (.iconst 1, 1) := dk_4 (dk_at dksX11_empty_0 11 rfl rfl)
theorem dX11_empty_12 : decode cX11_empty 12 = .ok (.invokevirtual 215, 3) := dk_182 0 215 (dk_at dksX11_empty_0 12 rfl rfl)
theorem dX11_empty_15 : decode cX11_empty 15 = .ok (.ifCond .eq 5, 3) := dk_153 0 5 (dk_at dksX11_empty_0 15 rfl rfl)
theorem dX11_empty_18 : decode cX11_empty 18 = .ok (.iconst 0, 1) := dk_3 (dk_at dksX11_empty_0 18 rfl rfl)
theorem dX11_empty_19 : decode cX11_empty 19 = .ok (.ireturn, 1) := dk_172 (dk_at dksX11_empty_0 19 rfl rfl)
theorem dX11_empty_20 : decode cX11_empty 20 = .ok (.aload_n 0, 1) := dk_42 (dk_at dksX11_empty_0 20 rfl rfl)
theorem dX11_empty_21 : decode cX11_empty 21 = .ok (.bipush 40, 2) := dk_16 40 (dk_at dksX11_empty_0 21 rfl rfl)
theorem dX11_empty_23 : decode cX11_empty 23 = .ok (.iload_n 1, 1) := dk_27 (dk_at dksX11_empty_0 23 rfl rfl)
theorem dX11_empty_24 : decode cX11_empty 24 = .ok (.invokevirtual 241, 3) := dk_182 0 241 (dk_at dksX11_empty_1 0 rfl rfl)
theorem dX11_empty_27 : decode cX11_empty 27 = .ok (.aload_n 0, 1) := dk_42 (dk_at dksX11_empty_1 3 rfl rfl)
theorem dX11_empty_28 : decode cX11_empty 28 = .ok (.bipush 40, 2) := dk_16 40 (dk_at dksX11_empty_1 4 rfl rfl)
theorem dX11_empty_30 : decode cX11_empty 30 = .ok (.invokevirtual 320, 3) := dk_182 1 64 (dk_at dksX11_empty_1 6 rfl rfl)
theorem dX11_empty_33 : decode cX11_empty 33 = .ok (.istore_n 2, 1) := dk_61 (dk_at dksX11_empty_1 9 rfl rfl)
theorem dX11_empty_34 : decode cX11_empty 34 = .ok (.iconst 0, 1) := dk_3 (dk_at dksX11_empty_1 10 rfl rfl)
theorem dX11_empty_35 : decode cX11_empty 35 = .ok (.istore_n 3, 1) := dk_62 (dk_at dksX11_empty_1 11 rfl rfl)
theorem dX11_empty_36 : decode cX11_empty 36 = .ok (.iload_n 3, 1) := dk_29 (dk_at dksX11_empty_1 12 rfl rfl)
theorem dX11_empty_37 : decode cX11_empty 37 = .ok (.aload_n 0, 1) := dk_42 (dk_at dksX11_empty_1 13 rfl rfl)
theorem dX11_empty_38 : decode cX11_empty 38 = .ok (.invokevirtual 76, 3) := dk_182 0 76 (dk_at dksX11_empty_1 14 rfl rfl)
theorem dX11_empty_41 : decode cX11_empty 41 = .ok (.if_icmp .gt 38, 3) := dk_163 0 38 (dk_at dksX11_empty_1 17 rfl rfl)
theorem dX11_empty_44 : decode cX11_empty 44 = .ok (.iload_n 2, 1) := dk_28 (dk_at dksX11_empty_1 20 rfl rfl)
theorem dX11_empty_45 : decode cX11_empty 45 = .ok (.ifCond .ne 34, 3) := dk_154 0 34 (dk_at dksX11_empty_1 21 rfl rfl)
theorem dX11_empty_48 : decode cX11_empty 48 = .ok (.iconst 2, 1) := dk_5 (dk_at dksX11_empty_2 0 rfl rfl)
theorem dX11_empty_49 : decode cX11_empty 49 = .ok (.aload_n 0, 1) := dk_42 (dk_at dksX11_empty_2 1 rfl rfl)
theorem dX11_empty_50 : decode cX11_empty 50 = .ok (.bipush 40, 2) := dk_16 40 (dk_at dksX11_empty_2 2 rfl rfl)
theorem dX11_empty_52 : decode cX11_empty 52 = .ok (.iload_n 3, 1) := dk_29 (dk_at dksX11_empty_2 4 rfl rfl)
theorem dX11_empty_53 : decode cX11_empty 53 = .ok (.invokevirtual 323, 3) := dk_182 1 67 (dk_at dksX11_empty_2 5 rfl rfl)
theorem dX11_empty_56 : decode cX11_empty 56 = .ok (.imul, 1) := dk_104 (dk_at dksX11_empty_2 8 rfl rfl)
theorem dX11_empty_57 : decode cX11_empty 57 = .ok (.aload_n 0, 1) := dk_42 (dk_at dksX11_empty_2 9 rfl rfl)
theorem dX11_empty_58 : decode cX11_empty 58 = .ok (.getfield 20, 3) := dk_180 0 20 (dk_at dksX11_empty_2 10 rfl rfl)
theorem dX11_empty_61 : decode cX11_empty 61 = .ok (.bipush 40, 2) := dk_16 40 (dk_at dksX11_empty_2 13 rfl rfl)
theorem dX11_empty_63 : decode cX11_empty 63 = .ok (.iaload, 1) := dk_46 (dk_at dksX11_empty_2 15 rfl rfl)
theorem dX11_empty_64 : decode cX11_empty 64 = .ok (.if_icmp .le 7, 3) := dk_164 0 7 (dk_at dksX11_empty_2 16 rfl rfl)
theorem dX11_empty_67 : decode cX11_empty 67 = .ok (.iconst 1, 1) := dk_4 (dk_at dksX11_empty_2 19 rfl rfl)
theorem dX11_empty_68 : decode cX11_empty 68 = .ok (.goto 4, 3) := dk_167 0 4 (dk_at dksX11_empty_2 20 rfl rfl)
theorem dX11_empty_71 : decode cX11_empty 71 = .ok (.iconst 0, 1) := dk_3 (dk_at dksX11_empty_2 23 rfl rfl)
theorem dX11_empty_72 : decode cX11_empty 72 = .ok (.istore_n 2, 1) := dk_61 (dk_at dksX11_empty_3 0 rfl rfl)
theorem dX11_empty_73 : decode cX11_empty 73 = .ok (.iinc 3 1, 3) := dk_132 3 1 (dk_at dksX11_empty_3 1 rfl rfl)
theorem dX11_empty_76 : decode cX11_empty 76 = .ok (.goto (-40), 3) := dk_167 255 216 (dk_at dksX11_empty_3 4 rfl rfl)
theorem dX11_empty_79 : decode cX11_empty 79 = .ok (.iload_n 2, 1) := dk_28 (dk_at dksX11_empty_3 7 rfl rfl)
theorem dX11_empty_80 : decode cX11_empty 80 = .ok (.ireturn, 1) := dk_172 (dk_at dksX11_empty_3 8 rfl rfl)
abbrev cX11_same : ByteArray := prog_18_method_98_code
def yX11_same : MethodName := ⟨RX11, "same", "(II)I"⟩
def dkwX11_same_1 : List UInt8 := [167, 0, 4, 3, 4, 182, 0, 215, 153, 0, 7, 3, 167, 0, 9, 42, 27, 28, 182, 1, 77, 172]
abbrev dktX11_same_1 : List UInt8 := dkwX11_same_1 ++ []
def dkwX11_same_0 : List UInt8 := [42, 3, 181, 0, 3, 42, 42, 27, 182, 0, 238, 154, 0, 11, 42, 28, 182, 0, 238, 153, 0, 7, 4]
abbrev dktX11_same_0 : List UInt8 := dkwX11_same_0 ++ dktX11_same_1
theorem dksX11_same_0 : cX11_same.data.toList.drop 0 = dktX11_same_0 := by decide +kernel
theorem dksX11_same_1 : cX11_same.data.toList.drop 23 = dktX11_same_1 := dk_seg dksX11_same_0 23 rfl rfl
theorem dX11_same_0 : decode cX11_same 0 = .ok (.aload_n 0, 1) := dk_42 (dk_at dksX11_same_0 0 rfl rfl)
theorem dX11_same_1 : decode cX11_same 1 = .ok (.iconst 0, 1) := dk_3 (dk_at dksX11_same_0 1 rfl rfl)
theorem dX11_same_2 : decode cX11_same 2 = .ok (.putfield 3, 3) := dk_181 0 3 (dk_at dksX11_same_0 2 rfl rfl)
theorem dX11_same_5 : decode cX11_same 5 = .ok (.aload_n 0, 1) := dk_42 (dk_at dksX11_same_0 5 rfl rfl)
theorem dX11_same_6 : decode cX11_same 6 = .ok (.aload_n 0, 1) := dk_42 (dk_at dksX11_same_0 6 rfl rfl)
theorem dX11_same_7 : decode cX11_same 7 = .ok (.iload_n 1, 1) := dk_27 (dk_at dksX11_same_0 7 rfl rfl)
theorem dX11_same_8 : decode cX11_same 8 = .ok (.invokevirtual 238, 3) := dk_182 0 238 (dk_at dksX11_same_0 8 rfl rfl)
theorem dX11_same_11 : decode cX11_same 11 = .ok (.ifCond .ne 11, 3) := dk_154 0 11 (dk_at dksX11_same_0 11 rfl rfl)
theorem dX11_same_14 : decode cX11_same 14 = .ok (.aload_n 0, 1) := dk_42 (dk_at dksX11_same_0 14 rfl rfl)
theorem dX11_same_15 : decode cX11_same 15 = .ok (.iload_n 2, 1) := dk_28 (dk_at dksX11_same_0 15 rfl rfl)
theorem dX11_same_16 : decode cX11_same 16 = .ok (.invokevirtual 238, 3) := dk_182 0 238 (dk_at dksX11_same_0 16 rfl rfl)
theorem dX11_same_19 : decode cX11_same 19 = .ok (.ifCond .eq 7, 3) := dk_153 0 7 (dk_at dksX11_same_0 19 rfl rfl)
theorem dX11_same_22 : decode cX11_same 22 = .ok (.iconst 1, 1) := dk_4 (dk_at dksX11_same_0 22 rfl rfl)
theorem dX11_same_23 : decode cX11_same 23 = .ok (.goto 4, 3) := dk_167 0 4 (dk_at dksX11_same_1 0 rfl rfl)
theorem dX11_same_26 : decode cX11_same 26 = .ok (.iconst 0, 1) := dk_3 (dk_at dksX11_same_1 3 rfl rfl)
theorem dX11_same_27 : decode cX11_same 27 = .ok (.iconst 1, 1) := dk_4 (dk_at dksX11_same_1 4 rfl rfl)
theorem dX11_same_28 : decode cX11_same 28 = .ok (.invokevirtual 215, 3) := dk_182 0 215 (dk_at dksX11_same_1 5 rfl rfl)
theorem dX11_same_31 : decode cX11_same 31 = .ok (.ifCond .eq 7, 3) := dk_153 0 7 (dk_at dksX11_same_1 8 rfl rfl)
theorem dX11_same_34 : decode cX11_same 34 = .ok (.iconst 0, 1) := dk_3 (dk_at dksX11_same_1 11 rfl rfl)
theorem dX11_same_35 : decode cX11_same 35 = .ok (.goto 9, 3) := dk_167 0 9 (dk_at dksX11_same_1 12 rfl rfl)
theorem dX11_same_38 : decode cX11_same 38 = .ok (.aload_n 0, 1) := dk_42 (dk_at dksX11_same_1 15 rfl rfl)
theorem dX11_same_39 : decode cX11_same 39 = .ok (.iload_n 1, 1) := dk_27 (dk_at dksX11_same_1 16 rfl rfl)
theorem dX11_same_40 : decode cX11_same 40 = .ok (.iload_n 2, 1) := dk_28 (dk_at dksX11_same_1 17 rfl rfl)
theorem dX11_same_41 : decode cX11_same 41 = .ok (.invokevirtual 333, 3) := dk_182 1 77 (dk_at dksX11_same_1 18 rfl rfl)
theorem dX11_same_44 : decode cX11_same 44 = .ok (.ireturn, 1) := dk_172 (dk_at dksX11_same_1 21 rfl rfl)
abbrev cX11_sameOf : ByteArray := prog_18_method_97_code
def yX11_sameOf : MethodName := ⟨RX11, "sameOf", "(II)I"⟩
def dkwX11_sameOf_2 : List UInt8 := [167, 0, 8, 42, 4, 182, 1, 73, 172]
abbrev dktX11_sameOf_2 : List UInt8 := dkwX11_sameOf_2 ++ []
def dkwX11_sameOf_1 : List UInt8 := [16, 41, 28, 182, 0, 241, 42, 16, 40, 182, 1, 64, 42, 16, 41, 182, 1, 64, 159, 0, 7, 2]
abbrev dktX11_sameOf_1 : List UInt8 := dkwX11_sameOf_1 ++ dktX11_sameOf_2
def dkwX11_sameOf_0 : List UInt8 := [42, 27, 182, 0, 93, 42, 28, 182, 0, 93, 159, 0, 5, 2, 172, 42, 16, 40, 27, 182, 0, 241, 42]
abbrev dktX11_sameOf_0 : List UInt8 := dkwX11_sameOf_0 ++ dktX11_sameOf_1
theorem dksX11_sameOf_0 : cX11_sameOf.data.toList.drop 0 = dktX11_sameOf_0 := by decide +kernel
theorem dksX11_sameOf_1 : cX11_sameOf.data.toList.drop 23 = dktX11_sameOf_1 := dk_seg dksX11_sameOf_0 23 rfl rfl
theorem dksX11_sameOf_2 : cX11_sameOf.data.toList.drop 45 = dktX11_sameOf_2 := dk_seg dksX11_sameOf_1 22 rfl rfl
theorem dX11_sameOf_0 : decode cX11_sameOf 0 = .ok (.aload_n 0, 1) := dk_42 (dk_at dksX11_sameOf_0 0 rfl rfl)
theorem dX11_sameOf_1 : decode cX11_sameOf 1 = .ok (.iload_n 1, 1) := dk_27 (dk_at dksX11_sameOf_0 1 rfl rfl)
theorem dX11_sameOf_2 : decode cX11_sameOf 2 = .ok (.invokevirtual 93, 3) := dk_182 0 93 (dk_at dksX11_sameOf_0 2 rfl rfl)
theorem dX11_sameOf_5 : decode cX11_sameOf 5 = .ok (.aload_n 0, 1) := dk_42 (dk_at dksX11_sameOf_0 5 rfl rfl)
theorem dX11_sameOf_6 : decode cX11_sameOf 6 = .ok (.iload_n 2, 1) := dk_28 (dk_at dksX11_sameOf_0 6 rfl rfl)
theorem dX11_sameOf_7 : decode cX11_sameOf 7 = .ok (.invokevirtual 93, 3) := dk_182 0 93 (dk_at dksX11_sameOf_0 7 rfl rfl)
theorem dX11_sameOf_10 : decode cX11_sameOf 10 = .ok (.if_icmp .eq 5, 3) := dk_159 0 5 (dk_at dksX11_sameOf_0 10 rfl rfl)
theorem dX11_sameOf_13 : decode cX11_sameOf 13 = .ok (.iconst (-1), 1) := dk_2 (dk_at dksX11_sameOf_0 13 rfl rfl)
theorem dX11_sameOf_14 : decode cX11_sameOf 14 = .ok (.ireturn, 1) := dk_172 (dk_at dksX11_sameOf_0 14 rfl rfl)
theorem dX11_sameOf_15 : decode cX11_sameOf 15 = .ok (.aload_n 0, 1) := dk_42 (dk_at dksX11_sameOf_0 15 rfl rfl)
theorem dX11_sameOf_16 : decode cX11_sameOf 16 = .ok (.bipush 40, 2) := dk_16 40 (dk_at dksX11_sameOf_0 16 rfl rfl)
theorem dX11_sameOf_18 : decode cX11_sameOf 18 = .ok (.iload_n 1, 1) := dk_27 (dk_at dksX11_sameOf_0 18 rfl rfl)
theorem dX11_sameOf_19 : decode cX11_sameOf 19 = .ok (.invokevirtual 241, 3) := dk_182 0 241 (dk_at dksX11_sameOf_0 19 rfl rfl)
theorem dX11_sameOf_22 : decode cX11_sameOf 22 = .ok (.aload_n 0, 1) := dk_42 (dk_at dksX11_sameOf_0 22 rfl rfl)
theorem dX11_sameOf_23 : decode cX11_sameOf 23 = .ok (.bipush 41, 2) := dk_16 41 (dk_at dksX11_sameOf_1 0 rfl rfl)
theorem dX11_sameOf_25 : decode cX11_sameOf 25 = .ok (.iload_n 2, 1) := dk_28 (dk_at dksX11_sameOf_1 2 rfl rfl)
theorem dX11_sameOf_26 : decode cX11_sameOf 26 = .ok (.invokevirtual 241, 3) := dk_182 0 241 (dk_at dksX11_sameOf_1 3 rfl rfl)
theorem dX11_sameOf_29 : decode cX11_sameOf 29 = .ok (.aload_n 0, 1) := dk_42 (dk_at dksX11_sameOf_1 6 rfl rfl)
theorem dX11_sameOf_30 : decode cX11_sameOf 30 = .ok (.bipush 40, 2) := dk_16 40 (dk_at dksX11_sameOf_1 7 rfl rfl)
theorem dX11_sameOf_32 : decode cX11_sameOf 32 = .ok (.invokevirtual 320, 3) := dk_182 1 64 (dk_at dksX11_sameOf_1 9 rfl rfl)
theorem dX11_sameOf_35 : decode cX11_sameOf 35 = .ok (.aload_n 0, 1) := dk_42 (dk_at dksX11_sameOf_1 12 rfl rfl)
theorem dX11_sameOf_36 : decode cX11_sameOf 36 = .ok (.bipush 41, 2) := dk_16 41 (dk_at dksX11_sameOf_1 13 rfl rfl)
theorem dX11_sameOf_38 : decode cX11_sameOf 38 = .ok (.invokevirtual 320, 3) := dk_182 1 64 (dk_at dksX11_sameOf_1 15 rfl rfl)
theorem dX11_sameOf_41 : decode cX11_sameOf 41 = .ok (.if_icmp .eq 7, 3) := dk_159 0 7 (dk_at dksX11_sameOf_1 18 rfl rfl)
theorem dX11_sameOf_44 : decode cX11_sameOf 44 = .ok (.iconst (-1), 1) := dk_2 (dk_at dksX11_sameOf_1 21 rfl rfl)
theorem dX11_sameOf_45 : decode cX11_sameOf 45 = .ok (.goto 8, 3) := dk_167 0 8 (dk_at dksX11_sameOf_2 0 rfl rfl)
theorem dX11_sameOf_48 : decode cX11_sameOf 48 = .ok (.aload_n 0, 1) := dk_42 (dk_at dksX11_sameOf_2 3 rfl rfl)
theorem dX11_sameOf_49 : decode cX11_sameOf 49 = .ok (.iconst 1, 1) := dk_4 (dk_at dksX11_sameOf_2 4 rfl rfl)
theorem dX11_sameOf_50 : decode cX11_sameOf 50 = .ok (.invokevirtual 329, 3) := dk_182 1 73 (dk_at dksX11_sameOf_2 5 rfl rfl)
theorem dX11_sameOf_53 : decode cX11_sameOf 53 = .ok (.ireturn, 1) := dk_172 (dk_at dksX11_sameOf_2 8 rfl rfl)
abbrev cX11_tried : ByteArray := prog_18_method_96_code
def yX11_tried : MethodName := ⟨RX11, "tried", "(Z)I"⟩
def dkwX11_tried_9 : List UInt8 := [132, 6, 1, 167, 255, 95, 132, 5, 1, 167, 255, 77, 27, 153, 0, 7, 2, 167, 0, 4, 28, 172]
abbrev dktX11_tried_9 : List UInt8 := dkwX11_tried_9 ++ []
def dkwX11_tried_8 : List UInt8 := [16, 20, 104, 21, 8, 96, 172, 132, 2, 1, 132, 8, 1, 167, 255, 151, 132, 7, 1, 167, 255, 113]
abbrev dktX11_tried_8 : List UInt8 := dkwX11_tried_8 ++ dktX11_tried_9
def dkwX11_tried_7 : List UInt8 := [154, 0, 6, 167, 0, 31, 27, 153, 0, 24, 16, 20, 21, 5, 104, 21, 6, 96, 16, 20, 104, 21, 7, 96]
abbrev dktX11_tried_7 : List UInt8 := dkwX11_tried_7 ++ dktX11_tried_8
def dkwX11_tried_6 : List UInt8 := [154, 0, 6, 167, 0, 53, 42, 16, 40, 16, 42, 182, 0, 248, 42, 16, 41, 16, 42, 182, 0, 251]
abbrev dktX11_tried_6 : List UInt8 := dkwX11_tried_6 ++ dktX11_tried_7
def dkwX11_tried_5 : List UInt8 := [159, 0, 6, 167, 0, 75, 42, 21, 5, 21, 6, 21, 7, 21, 8, 182, 0, 146, 42, 182, 0, 219]
abbrev dktX11_tried_5 : List UInt8 := dkwX11_tried_5 ++ dktX11_tried_6
def dkwX11_tried_4 : List UInt8 := [42, 182, 0, 76, 162, 0, 102, 42, 180, 0, 49, 16, 19, 21, 6, 104, 21, 8, 96, 46, 21, 4]
abbrev dktX11_tried_4 : List UInt8 := dkwX11_tried_4 ++ dktX11_tried_5
def dkwX11_tried_3 : List UInt8 := [180, 0, 49, 16, 19, 21, 5, 104, 21, 7, 96, 46, 29, 159, 0, 6, 167, 0, 114, 3, 54, 8, 21, 8]
abbrev dktX11_tried_3 : List UInt8 := dkwX11_tried_3 ++ dktX11_tried_4
def dkwX11_tried_2 : List UInt8 := [21, 6, 42, 182, 0, 76, 162, 0, 158, 3, 54, 7, 21, 7, 42, 182, 0, 76, 162, 0, 140, 42]
abbrev dktX11_tried_2 : List UInt8 := dkwX11_tried_2 ++ dktX11_tried_3
def dkwX11_tried_1 : List UInt8 := [16, 41, 46, 182, 0, 103, 54, 4, 3, 54, 5, 21, 5, 42, 182, 0, 76, 162, 0, 176, 3, 54, 6]
abbrev dktX11_tried_1 : List UInt8 := dkwX11_tried_1 ++ dktX11_tried_2
def dkwX11_tried_0 : List UInt8 := [3, 61, 42, 16, 40, 182, 1, 70, 42, 16, 41, 3, 182, 0, 103, 62, 42, 16, 41, 42, 180, 0, 20]
abbrev dktX11_tried_0 : List UInt8 := dkwX11_tried_0 ++ dktX11_tried_1
theorem dksX11_tried_0 : cX11_tried.data.toList.drop 0 = dktX11_tried_0 := by decide +kernel
theorem dksX11_tried_1 : cX11_tried.data.toList.drop 23 = dktX11_tried_1 := dk_seg dksX11_tried_0 23 rfl rfl
theorem dksX11_tried_2 : cX11_tried.data.toList.drop 46 = dktX11_tried_2 := dk_seg dksX11_tried_1 23 rfl rfl
theorem dksX11_tried_3 : cX11_tried.data.toList.drop 68 = dktX11_tried_3 := dk_seg dksX11_tried_2 22 rfl rfl
theorem dksX11_tried_4 : cX11_tried.data.toList.drop 92 = dktX11_tried_4 := dk_seg dksX11_tried_3 24 rfl rfl
theorem dksX11_tried_5 : cX11_tried.data.toList.drop 114 = dktX11_tried_5 := dk_seg dksX11_tried_4 22 rfl rfl
theorem dksX11_tried_6 : cX11_tried.data.toList.drop 136 = dktX11_tried_6 := dk_seg dksX11_tried_5 22 rfl rfl
theorem dksX11_tried_7 : cX11_tried.data.toList.drop 158 = dktX11_tried_7 := dk_seg dksX11_tried_6 22 rfl rfl
theorem dksX11_tried_8 : cX11_tried.data.toList.drop 182 = dktX11_tried_8 := dk_seg dksX11_tried_7 24 rfl rfl
theorem dksX11_tried_9 : cX11_tried.data.toList.drop 204 = dktX11_tried_9 := dk_seg dksX11_tried_8 22 rfl rfl
theorem dX11_tried_0 : decode cX11_tried 0 = .ok (.iconst 0, 1) := dk_3 (dk_at dksX11_tried_0 0 rfl rfl)
theorem dX11_tried_1 : decode cX11_tried 1 = .ok (.istore_n 2, 1) := dk_61 (dk_at dksX11_tried_0 1 rfl rfl)
theorem dX11_tried_2 : decode cX11_tried 2 = .ok (.aload_n 0, 1) := dk_42 (dk_at dksX11_tried_0 2 rfl rfl)
theorem dX11_tried_3 : decode cX11_tried 3 = .ok (.bipush 40, 2) := dk_16 40 (dk_at dksX11_tried_0 3 rfl rfl)
theorem dX11_tried_5 : decode cX11_tried 5 = .ok (.invokevirtual 326, 3) := dk_182 1 70 (dk_at dksX11_tried_0 5 rfl rfl)
theorem dX11_tried_8 : decode cX11_tried 8 = .ok (.aload_n 0, 1) := dk_42 (dk_at dksX11_tried_0 8 rfl rfl)
theorem dX11_tried_9 : decode cX11_tried 9 = .ok (.bipush 41, 2) := dk_16 41 (dk_at dksX11_tried_0 9 rfl rfl)
theorem dX11_tried_11 : decode cX11_tried 11 = .ok (.iconst 0, 1) := dk_3 (dk_at dksX11_tried_0 11 rfl rfl)
theorem dX11_tried_12 : decode cX11_tried 12 = .ok (.invokevirtual 103, 3) := dk_182 0 103 (dk_at dksX11_tried_0 12 rfl rfl)
theorem dX11_tried_15 : decode cX11_tried 15 = .ok (.istore_n 3, 1) := dk_62 (dk_at dksX11_tried_0 15 rfl rfl)
theorem dX11_tried_16 : decode cX11_tried 16 = .ok (.aload_n 0, 1) := dk_42 (dk_at dksX11_tried_0 16 rfl rfl)
theorem dX11_tried_17 : decode cX11_tried 17 = .ok (.bipush 41, 2) := dk_16 41 (dk_at dksX11_tried_0 17 rfl rfl)
theorem dX11_tried_19 : decode cX11_tried 19 = .ok (.aload_n 0, 1) := dk_42 (dk_at dksX11_tried_0 19 rfl rfl)
theorem dX11_tried_20 : decode cX11_tried 20 = .ok (.getfield 20, 3) := dk_180 0 20 (dk_at dksX11_tried_0 20 rfl rfl)
theorem dX11_tried_23 : decode cX11_tried 23 = .ok (.bipush 41, 2) := dk_16 41 (dk_at dksX11_tried_1 0 rfl rfl)
theorem dX11_tried_25 : decode cX11_tried 25 = .ok (.iaload, 1) := dk_46 (dk_at dksX11_tried_1 2 rfl rfl)
theorem dX11_tried_26 : decode cX11_tried 26 = .ok (.invokevirtual 103, 3) := dk_182 0 103 (dk_at dksX11_tried_1 3 rfl rfl)
theorem dX11_tried_29 : decode cX11_tried 29 = .ok (.istore 4, 2) := dk_54 4 (dk_at dksX11_tried_1 6 rfl rfl)
theorem dX11_tried_31 : decode cX11_tried 31 = .ok (.iconst 0, 1) := dk_3 (dk_at dksX11_tried_1 8 rfl rfl)
theorem dX11_tried_32 : decode cX11_tried 32 = .ok (.istore 5, 2) := dk_54 5 (dk_at dksX11_tried_1 9 rfl rfl)
theorem dX11_tried_34 : decode cX11_tried 34 = .ok (.iload 5, 2) := dk_21 5 (dk_at dksX11_tried_1 11 rfl rfl)
theorem dX11_tried_36 : decode cX11_tried 36 = .ok (.aload_n 0, 1) := dk_42 (dk_at dksX11_tried_1 13 rfl rfl)
theorem dX11_tried_37 : decode cX11_tried 37 = .ok (.invokevirtual 76, 3) := dk_182 0 76 (dk_at dksX11_tried_1 14 rfl rfl)
theorem dX11_tried_40 : decode cX11_tried 40 = .ok (.if_icmp .ge 176, 3) := dk_162 0 176 (dk_at dksX11_tried_1 17 rfl rfl)
theorem dX11_tried_43 : decode cX11_tried 43 = .ok (.iconst 0, 1) := dk_3 (dk_at dksX11_tried_1 20 rfl rfl)
theorem dX11_tried_44 : decode cX11_tried 44 = .ok (.istore 6, 2) := dk_54 6 (dk_at dksX11_tried_1 21 rfl rfl)
theorem dX11_tried_46 : decode cX11_tried 46 = .ok (.iload 6, 2) := dk_21 6 (dk_at dksX11_tried_2 0 rfl rfl)
theorem dX11_tried_48 : decode cX11_tried 48 = .ok (.aload_n 0, 1) := dk_42 (dk_at dksX11_tried_2 2 rfl rfl)
theorem dX11_tried_49 : decode cX11_tried 49 = .ok (.invokevirtual 76, 3) := dk_182 0 76 (dk_at dksX11_tried_2 3 rfl rfl)
theorem dX11_tried_52 : decode cX11_tried 52 = .ok (.if_icmp .ge 158, 3) := dk_162 0 158 (dk_at dksX11_tried_2 6 rfl rfl)
theorem dX11_tried_55 : decode cX11_tried 55 = .ok (.iconst 0, 1) := dk_3 (dk_at dksX11_tried_2 9 rfl rfl)
theorem dX11_tried_56 : decode cX11_tried 56 = .ok (.istore 7, 2) := dk_54 7 (dk_at dksX11_tried_2 10 rfl rfl)
theorem dX11_tried_58 : decode cX11_tried 58 = .ok (.iload 7, 2) := dk_21 7 (dk_at dksX11_tried_2 12 rfl rfl)
theorem dX11_tried_60 : decode cX11_tried 60 = .ok (.aload_n 0, 1) := dk_42 (dk_at dksX11_tried_2 14 rfl rfl)
theorem dX11_tried_61 : decode cX11_tried 61 = .ok (.invokevirtual 76, 3) := dk_182 0 76 (dk_at dksX11_tried_2 15 rfl rfl)
theorem dX11_tried_64 : decode cX11_tried 64 = .ok (.if_icmp .ge 140, 3) := dk_162 0 140 (dk_at dksX11_tried_2 18 rfl rfl)
theorem dX11_tried_67 : decode cX11_tried 67 = .ok (.aload_n 0, 1) := dk_42 (dk_at dksX11_tried_2 21 rfl rfl)
theorem dX11_tried_68 : decode cX11_tried 68 = .ok (.getfield 49, 3) := dk_180 0 49 (dk_at dksX11_tried_3 0 rfl rfl)
theorem dX11_tried_71 : decode cX11_tried 71 = .ok (.bipush 19, 2) := dk_16 19 (dk_at dksX11_tried_3 3 rfl rfl)
theorem dX11_tried_73 : decode cX11_tried 73 = .ok (.iload 5, 2) := dk_21 5 (dk_at dksX11_tried_3 5 rfl rfl)
theorem dX11_tried_75 : decode cX11_tried 75 = .ok (.imul, 1) := dk_104 (dk_at dksX11_tried_3 7 rfl rfl)
theorem dX11_tried_76 : decode cX11_tried 76 = .ok (.iload 7, 2) := dk_21 7 (dk_at dksX11_tried_3 8 rfl rfl)
theorem dX11_tried_78 : decode cX11_tried 78 = .ok (.iadd, 1) := dk_96 (dk_at dksX11_tried_3 10 rfl rfl)
theorem dX11_tried_79 : decode cX11_tried 79 = .ok (.iaload, 1) := dk_46 (dk_at dksX11_tried_3 11 rfl rfl)
theorem dX11_tried_80 : decode cX11_tried 80 = .ok (.iload_n 3, 1) := dk_29 (dk_at dksX11_tried_3 12 rfl rfl)
theorem dX11_tried_81 : decode cX11_tried 81 = .ok (.if_icmp .eq 6, 3) := dk_159 0 6 (dk_at dksX11_tried_3 13 rfl rfl)
theorem dX11_tried_84 : decode cX11_tried 84 = .ok (.goto 114, 3) := dk_167 0 114 (dk_at dksX11_tried_3 16 rfl rfl)
theorem dX11_tried_87 : decode cX11_tried 87 = .ok (.iconst 0, 1) := dk_3 (dk_at dksX11_tried_3 19 rfl rfl)
theorem dX11_tried_88 : decode cX11_tried 88 = .ok (.istore 8, 2) := dk_54 8 (dk_at dksX11_tried_3 20 rfl rfl)
theorem dX11_tried_90 : decode cX11_tried 90 = .ok (.iload 8, 2) := dk_21 8 (dk_at dksX11_tried_3 22 rfl rfl)
theorem dX11_tried_92 : decode cX11_tried 92 = .ok (.aload_n 0, 1) := dk_42 (dk_at dksX11_tried_4 0 rfl rfl)
theorem dX11_tried_93 : decode cX11_tried 93 = .ok (.invokevirtual 76, 3) := dk_182 0 76 (dk_at dksX11_tried_4 1 rfl rfl)
theorem dX11_tried_96 : decode cX11_tried 96 = .ok (.if_icmp .ge 102, 3) := dk_162 0 102 (dk_at dksX11_tried_4 4 rfl rfl)
theorem dX11_tried_99 : decode cX11_tried 99 = .ok (.aload_n 0, 1) := dk_42 (dk_at dksX11_tried_4 7 rfl rfl)
theorem dX11_tried_100 : decode cX11_tried 100 = .ok (.getfield 49, 3) := dk_180 0 49 (dk_at dksX11_tried_4 8 rfl rfl)
theorem dX11_tried_103 : decode cX11_tried 103 = .ok (.bipush 19, 2) := dk_16 19 (dk_at dksX11_tried_4 11 rfl rfl)
theorem dX11_tried_105 : decode cX11_tried 105 = .ok (.iload 6, 2) := dk_21 6 (dk_at dksX11_tried_4 13 rfl rfl)
theorem dX11_tried_107 : decode cX11_tried 107 = .ok (.imul, 1) := dk_104 (dk_at dksX11_tried_4 15 rfl rfl)
theorem dX11_tried_108 : decode cX11_tried 108 = .ok (.iload 8, 2) := dk_21 8 (dk_at dksX11_tried_4 16 rfl rfl)
theorem dX11_tried_110 : decode cX11_tried 110 = .ok (.iadd, 1) := dk_96 (dk_at dksX11_tried_4 18 rfl rfl)
theorem dX11_tried_111 : decode cX11_tried 111 = .ok (.iaload, 1) := dk_46 (dk_at dksX11_tried_4 19 rfl rfl)
theorem dX11_tried_112 : decode cX11_tried 112 = .ok (.iload 4, 2) := dk_21 4 (dk_at dksX11_tried_4 20 rfl rfl)
theorem dX11_tried_114 : decode cX11_tried 114 = .ok (.if_icmp .eq 6, 3) := dk_159 0 6 (dk_at dksX11_tried_5 0 rfl rfl)
theorem dX11_tried_117 : decode cX11_tried 117 = .ok (.goto 75, 3) := dk_167 0 75 (dk_at dksX11_tried_5 3 rfl rfl)
theorem dX11_tried_120 : decode cX11_tried 120 = .ok (.aload_n 0, 1) := dk_42 (dk_at dksX11_tried_5 6 rfl rfl)
theorem dX11_tried_121 : decode cX11_tried 121 = .ok (.iload 5, 2) := dk_21 5 (dk_at dksX11_tried_5 7 rfl rfl)
theorem dX11_tried_123 : decode cX11_tried 123 = .ok (.iload 6, 2) := dk_21 6 (dk_at dksX11_tried_5 9 rfl rfl)
theorem dX11_tried_125 : decode cX11_tried 125 = .ok (.iload 7, 2) := dk_21 7 (dk_at dksX11_tried_5 11 rfl rfl)
theorem dX11_tried_127 : decode cX11_tried 127 = .ok (.iload 8, 2) := dk_21 8 (dk_at dksX11_tried_5 13 rfl rfl)
theorem dX11_tried_129 : decode cX11_tried 129 = .ok (.invokevirtual 146, 3) := dk_182 0 146 (dk_at dksX11_tried_5 15 rfl rfl)
theorem dX11_tried_132 : decode cX11_tried 132 = .ok (.aload_n 0, 1) := dk_42 (dk_at dksX11_tried_5 18 rfl rfl)
theorem dX11_tried_133 : decode cX11_tried 133 = .ok (.invokevirtual 219, 3) := dk_182 0 219 (dk_at dksX11_tried_5 19 rfl rfl)
theorem dX11_tried_136 : decode cX11_tried 136 = .ok (.ifCond .ne 6, 3) := dk_154 0 6 (dk_at dksX11_tried_6 0 rfl rfl)
theorem dX11_tried_139 : decode cX11_tried 139 = .ok (.goto 53, 3) := dk_167 0 53 (dk_at dksX11_tried_6 3 rfl rfl)
theorem dX11_tried_142 : decode cX11_tried 142 = .ok (.aload_n 0, 1) := dk_42 (dk_at dksX11_tried_6 6 rfl rfl)
theorem dX11_tried_143 : decode cX11_tried 143 = .ok (.bipush 40, 2) := dk_16 40 (dk_at dksX11_tried_6 7 rfl rfl)
theorem dX11_tried_145 : decode cX11_tried 145 = .ok (.bipush 42, 2) := dk_16 42 (dk_at dksX11_tried_6 9 rfl rfl)
theorem dX11_tried_147 : decode cX11_tried 147 = .ok (.invokevirtual 248, 3) := dk_182 0 248 (dk_at dksX11_tried_6 11 rfl rfl)
theorem dX11_tried_150 : decode cX11_tried 150 = .ok (.aload_n 0, 1) := dk_42 (dk_at dksX11_tried_6 14 rfl rfl)
theorem dX11_tried_151 : decode cX11_tried 151 = .ok (.bipush 41, 2) := dk_16 41 (dk_at dksX11_tried_6 15 rfl rfl)
theorem dX11_tried_153 : decode cX11_tried 153 = .ok (.bipush 42, 2) := dk_16 42 (dk_at dksX11_tried_6 17 rfl rfl)
theorem dX11_tried_155 : decode cX11_tried 155 = .ok (.invokevirtual 251, 3) := dk_182 0 251 (dk_at dksX11_tried_6 19 rfl rfl)
theorem dX11_tried_158 : decode cX11_tried 158 = .ok (.ifCond .ne 6, 3) := dk_154 0 6 (dk_at dksX11_tried_7 0 rfl rfl)
theorem dX11_tried_161 : decode cX11_tried 161 = .ok (.goto 31, 3) := dk_167 0 31 (dk_at dksX11_tried_7 3 rfl rfl)
theorem dX11_tried_164 : decode cX11_tried 164 = .ok (.iload_n 1, 1) := dk_27 (dk_at dksX11_tried_7 6 rfl rfl)
theorem dX11_tried_165 : decode cX11_tried 165 = .ok (.ifCond .eq 24, 3) := dk_153 0 24 (dk_at dksX11_tried_7 7 rfl rfl)
theorem dX11_tried_168 : decode cX11_tried 168 = .ok (.bipush 20, 2) := dk_16 20 (dk_at dksX11_tried_7 10 rfl rfl)
theorem dX11_tried_170 : decode cX11_tried 170 = .ok (.iload 5, 2) := dk_21 5 (dk_at dksX11_tried_7 12 rfl rfl)
theorem dX11_tried_172 : decode cX11_tried 172 = .ok (.imul, 1) := dk_104 (dk_at dksX11_tried_7 14 rfl rfl)
theorem dX11_tried_173 : decode cX11_tried 173 = .ok (.iload 6, 2) := dk_21 6 (dk_at dksX11_tried_7 15 rfl rfl)
theorem dX11_tried_175 : decode cX11_tried 175 = .ok (.iadd, 1) := dk_96 (dk_at dksX11_tried_7 17 rfl rfl)
theorem dX11_tried_176 : decode cX11_tried 176 = .ok (.bipush 20, 2) := dk_16 20 (dk_at dksX11_tried_7 18 rfl rfl)
theorem dX11_tried_178 : decode cX11_tried 178 = .ok (.imul, 1) := dk_104 (dk_at dksX11_tried_7 20 rfl rfl)
theorem dX11_tried_179 : decode cX11_tried 179 = .ok (.iload 7, 2) := dk_21 7 (dk_at dksX11_tried_7 21 rfl rfl)
theorem dX11_tried_181 : decode cX11_tried 181 = .ok (.iadd, 1) := dk_96 (dk_at dksX11_tried_7 23 rfl rfl)
theorem dX11_tried_182 : decode cX11_tried 182 = .ok (.bipush 20, 2) := dk_16 20 (dk_at dksX11_tried_8 0 rfl rfl)
theorem dX11_tried_184 : decode cX11_tried 184 = .ok (.imul, 1) := dk_104 (dk_at dksX11_tried_8 2 rfl rfl)
theorem dX11_tried_185 : decode cX11_tried 185 = .ok (.iload 8, 2) := dk_21 8 (dk_at dksX11_tried_8 3 rfl rfl)
theorem dX11_tried_187 : decode cX11_tried 187 = .ok (.iadd, 1) := dk_96 (dk_at dksX11_tried_8 5 rfl rfl)
theorem dX11_tried_188 : decode cX11_tried 188 = .ok (.ireturn, 1) := dk_172 (dk_at dksX11_tried_8 6 rfl rfl)
theorem dX11_tried_189 : decode cX11_tried 189 = .ok (.iinc 2 1, 3) := dk_132 2 1 (dk_at dksX11_tried_8 7 rfl rfl)
theorem dX11_tried_192 : decode cX11_tried 192 = .ok (.iinc 8 1, 3) := dk_132 8 1 (dk_at dksX11_tried_8 10 rfl rfl)
theorem dX11_tried_195 : decode cX11_tried 195 = .ok (.goto (-105), 3) := dk_167 255 151 (dk_at dksX11_tried_8 13 rfl rfl)
theorem dX11_tried_198 : decode cX11_tried 198 = .ok (.iinc 7 1, 3) := dk_132 7 1 (dk_at dksX11_tried_8 16 rfl rfl)
theorem dX11_tried_201 : decode cX11_tried 201 = .ok (.goto (-143), 3) := dk_167 255 113 (dk_at dksX11_tried_8 19 rfl rfl)
theorem dX11_tried_204 : decode cX11_tried 204 = .ok (.iinc 6 1, 3) := dk_132 6 1 (dk_at dksX11_tried_9 0 rfl rfl)
theorem dX11_tried_207 : decode cX11_tried 207 = .ok (.goto (-161), 3) := dk_167 255 95 (dk_at dksX11_tried_9 3 rfl rfl)
theorem dX11_tried_210 : decode cX11_tried 210 = .ok (.iinc 5 1, 3) := dk_132 5 1 (dk_at dksX11_tried_9 6 rfl rfl)
theorem dX11_tried_213 : decode cX11_tried 213 = .ok (.goto (-179), 3) := dk_167 255 77 (dk_at dksX11_tried_9 9 rfl rfl)
theorem dX11_tried_216 : decode cX11_tried 216 = .ok (.iload_n 1, 1) := dk_27 (dk_at dksX11_tried_9 12 rfl rfl)
theorem dX11_tried_217 : decode cX11_tried 217 = .ok (.ifCond .eq 7, 3) := dk_153 0 7 (dk_at dksX11_tried_9 13 rfl rfl)
theorem dX11_tried_220 : decode cX11_tried 220 = .ok (.iconst (-1), 1) := dk_2 (dk_at dksX11_tried_9 16 rfl rfl)
theorem dX11_tried_221 : decode cX11_tried 221 = .ok (.goto 4, 3) := dk_167 0 4 (dk_at dksX11_tried_9 17 rfl rfl)
theorem dX11_tried_224 : decode cX11_tried 224 = .ok (.iload_n 2, 1) := dk_28 (dk_at dksX11_tried_9 20 rfl rfl)
theorem dX11_tried_225 : decode cX11_tried 225 = .ok (.ireturn, 1) := dk_172 (dk_at dksX11_tried_9 21 rfl rfl)
abbrev cX11_values : ByteArray := prog_18_method_95_code
def yX11_values : MethodName := ⟨RX11, "values", "(I)V"⟩
def dkwX11_values_2 : List UInt8 := [167, 255, 211, 177]
abbrev dktX11_values_2 : List UInt8 := dkwX11_values_2 ++ []
def dkwX11_values_1 : List UInt8 := [16, 19, 28, 104, 29, 96, 42, 27, 28, 29, 182, 0, 244, 79, 132, 3, 1, 167, 255, 227, 132, 2, 1]
abbrev dktX11_values_1 : List UInt8 := dkwX11_values_1 ++ dktX11_values_2
def dkwX11_values_0 : List UInt8 := [3, 61, 28, 42, 182, 0, 76, 162, 0, 43, 3, 62, 29, 42, 182, 0, 76, 162, 0, 27, 42, 180, 0, 49]
abbrev dktX11_values_0 : List UInt8 := dkwX11_values_0 ++ dktX11_values_1
theorem dksX11_values_0 : cX11_values.data.toList.drop 0 = dktX11_values_0 := by decide +kernel
theorem dksX11_values_1 : cX11_values.data.toList.drop 24 = dktX11_values_1 := dk_seg dksX11_values_0 24 rfl rfl
theorem dksX11_values_2 : cX11_values.data.toList.drop 47 = dktX11_values_2 := dk_seg dksX11_values_1 23 rfl rfl
theorem dX11_values_0 : decode cX11_values 0 = .ok (.iconst 0, 1) := dk_3 (dk_at dksX11_values_0 0 rfl rfl)
theorem dX11_values_1 : decode cX11_values 1 = .ok (.istore_n 2, 1) := dk_61 (dk_at dksX11_values_0 1 rfl rfl)
theorem dX11_values_2 : decode cX11_values 2 = .ok (.iload_n 2, 1) := dk_28 (dk_at dksX11_values_0 2 rfl rfl)
theorem dX11_values_3 : decode cX11_values 3 = .ok (.aload_n 0, 1) := dk_42 (dk_at dksX11_values_0 3 rfl rfl)
theorem dX11_values_4 : decode cX11_values 4 = .ok (.invokevirtual 76, 3) := dk_182 0 76 (dk_at dksX11_values_0 4 rfl rfl)
theorem dX11_values_7 : decode cX11_values 7 = .ok (.if_icmp .ge 43, 3) := dk_162 0 43 (dk_at dksX11_values_0 7 rfl rfl)
theorem dX11_values_10 : decode cX11_values 10 = .ok (.iconst 0, 1) := dk_3 (dk_at dksX11_values_0 10 rfl rfl)
theorem dX11_values_11 : decode cX11_values 11 = .ok (.istore_n 3, 1) := dk_62 (dk_at dksX11_values_0 11 rfl rfl)
theorem dX11_values_12 : decode cX11_values 12 = .ok (.iload_n 3, 1) := dk_29 (dk_at dksX11_values_0 12 rfl rfl)
theorem dX11_values_13 : decode cX11_values 13 = .ok (.aload_n 0, 1) := dk_42 (dk_at dksX11_values_0 13 rfl rfl)
theorem dX11_values_14 : decode cX11_values 14 = .ok (.invokevirtual 76, 3) := dk_182 0 76 (dk_at dksX11_values_0 14 rfl rfl)
theorem dX11_values_17 : decode cX11_values 17 = .ok (.if_icmp .ge 27, 3) := dk_162 0 27 (dk_at dksX11_values_0 17 rfl rfl)
theorem dX11_values_20 : decode cX11_values 20 = .ok (.aload_n 0, 1) := dk_42 (dk_at dksX11_values_0 20 rfl rfl)
theorem dX11_values_21 : decode cX11_values 21 = .ok (.getfield 49, 3) := dk_180 0 49 (dk_at dksX11_values_0 21 rfl rfl)
theorem dX11_values_24 : decode cX11_values 24 = .ok (.bipush 19, 2) := dk_16 19 (dk_at dksX11_values_1 0 rfl rfl)
theorem dX11_values_26 : decode cX11_values 26 = .ok (.iload_n 2, 1) := dk_28 (dk_at dksX11_values_1 2 rfl rfl)
theorem dX11_values_27 : decode cX11_values 27 = .ok (.imul, 1) := dk_104 (dk_at dksX11_values_1 3 rfl rfl)
theorem dX11_values_28 : decode cX11_values 28 = .ok (.iload_n 3, 1) := dk_29 (dk_at dksX11_values_1 4 rfl rfl)
theorem dX11_values_29 : decode cX11_values 29 = .ok (.iadd, 1) := dk_96 (dk_at dksX11_values_1 5 rfl rfl)
theorem dX11_values_30 : decode cX11_values 30 = .ok (.aload_n 0, 1) := dk_42 (dk_at dksX11_values_1 6 rfl rfl)
theorem dX11_values_31 : decode cX11_values 31 = .ok (.iload_n 1, 1) := dk_27 (dk_at dksX11_values_1 7 rfl rfl)
theorem dX11_values_32 : decode cX11_values 32 = .ok (.iload_n 2, 1) := dk_28 (dk_at dksX11_values_1 8 rfl rfl)
theorem dX11_values_33 : decode cX11_values 33 = .ok (.iload_n 3, 1) := dk_29 (dk_at dksX11_values_1 9 rfl rfl)
theorem dX11_values_34 : decode cX11_values 34 = .ok (.invokevirtual 244, 3) := dk_182 0 244 (dk_at dksX11_values_1 10 rfl rfl)
theorem dX11_values_37 : decode cX11_values 37 = .ok (.iastore, 1) := dk_79 (dk_at dksX11_values_1 13 rfl rfl)
theorem dX11_values_38 : decode cX11_values 38 = .ok (.iinc 3 1, 3) := dk_132 3 1 (dk_at dksX11_values_1 14 rfl rfl)
theorem dX11_values_41 : decode cX11_values 41 = .ok (.goto (-29), 3) := dk_167 255 227 (dk_at dksX11_values_1 17 rfl rfl)
theorem dX11_values_44 : decode cX11_values 44 = .ok (.iinc 2 1, 3) := dk_132 2 1 (dk_at dksX11_values_1 20 rfl rfl)
theorem dX11_values_47 : decode cX11_values 47 = .ok (.goto (-45), 3) := dk_167 255 211 (dk_at dksX11_values_2 0 rfl rfl)
theorem dX11_values_50 : decode cX11_values 50 = .ok (.return_, 1) := dk_177 (dk_at dksX11_values_2 3 rfl rfl)
abbrev cX11_keep : ByteArray := prog_18_method_101_code
def yX11_keep : MethodName := ⟨RX11, "keep", "(I)I"⟩
def dkwX11_keep_1 : List UInt8 := [182, 1, 83, 172]
abbrev dktX11_keep_1 : List UInt8 := dkwX11_keep_1 ++ []
def dkwX11_keep_0 : List UInt8 := [42, 3, 181, 0, 3, 42, 42, 27, 182, 0, 238, 4, 182, 0, 215, 153, 0, 7, 3, 167, 0, 8, 42, 27]
abbrev dktX11_keep_0 : List UInt8 := dkwX11_keep_0 ++ dktX11_keep_1
theorem dksX11_keep_0 : cX11_keep.data.toList.drop 0 = dktX11_keep_0 := by decide +kernel
theorem dksX11_keep_1 : cX11_keep.data.toList.drop 24 = dktX11_keep_1 := dk_seg dksX11_keep_0 24 rfl rfl
theorem dX11_keep_0 : decode cX11_keep 0 = .ok (.aload_n 0, 1) := dk_42 (dk_at dksX11_keep_0 0 rfl rfl)
theorem dX11_keep_1 : decode cX11_keep 1 = .ok (.iconst 0, 1) := dk_3 (dk_at dksX11_keep_0 1 rfl rfl)
theorem dX11_keep_2 : decode cX11_keep 2 = .ok (.putfield 3, 3) := dk_181 0 3 (dk_at dksX11_keep_0 2 rfl rfl)
theorem dX11_keep_5 : decode cX11_keep 5 = .ok (.aload_n 0, 1) := dk_42 (dk_at dksX11_keep_0 5 rfl rfl)
theorem dX11_keep_6 : decode cX11_keep 6 = .ok (.aload_n 0, 1) := dk_42 (dk_at dksX11_keep_0 6 rfl rfl)
theorem dX11_keep_7 : decode cX11_keep 7 = .ok (.iload_n 1, 1) := dk_27 (dk_at dksX11_keep_0 7 rfl rfl)
theorem dX11_keep_8 : decode cX11_keep 8 = .ok (.invokevirtual 238, 3) := dk_182 0 238 (dk_at dksX11_keep_0 8 rfl rfl)
theorem dX11_keep_11 : decode cX11_keep 11 = .ok (.iconst 1, 1) := dk_4 (dk_at dksX11_keep_0 11 rfl rfl)
theorem dX11_keep_12 : decode cX11_keep 12 = .ok (.invokevirtual 215, 3) := dk_182 0 215 (dk_at dksX11_keep_0 12 rfl rfl)
theorem dX11_keep_15 : decode cX11_keep 15 = .ok (.ifCond .eq 7, 3) := dk_153 0 7 (dk_at dksX11_keep_0 15 rfl rfl)
theorem dX11_keep_18 : decode cX11_keep 18 = .ok (.iconst 0, 1) := dk_3 (dk_at dksX11_keep_0 18 rfl rfl)
theorem dX11_keep_19 : decode cX11_keep 19 = .ok (.goto 8, 3) := dk_167 0 8 (dk_at dksX11_keep_0 19 rfl rfl)
theorem dX11_keep_22 : decode cX11_keep 22 = .ok (.aload_n 0, 1) := dk_42 (dk_at dksX11_keep_0 22 rfl rfl)
theorem dX11_keep_23 : decode cX11_keep 23 = .ok (.iload_n 1, 1) := dk_27 (dk_at dksX11_keep_0 23 rfl rfl)
theorem dX11_keep_24 : decode cX11_keep 24 = .ok (.invokevirtual 339, 3) := dk_182 1 83 (dk_at dksX11_keep_1 0 rfl rfl)
theorem dX11_keep_27 : decode cX11_keep 27 = .ok (.ireturn, 1) := dk_172 (dk_at dksX11_keep_1 3 rfl rfl)
abbrev cX11_keeps : ByteArray := prog_18_method_100_code
def yX11_keeps : MethodName := ⟨RX11, "keeps", "(I)I"⟩
def dkwX11_keeps_1 : List UInt8 := [180, 0, 20, 16, 40, 46, 154, 0, 10, 42, 182, 1, 80, 167, 0, 8, 42, 3, 182, 1, 73, 172]
abbrev dktX11_keeps_1 : List UInt8 := dkwX11_keeps_1 ++ []
def dkwX11_keeps_0 : List UInt8 := [42, 16, 40, 27, 182, 0, 241, 42, 16, 41, 27, 182, 0, 241, 42, 16, 40, 182, 1, 64, 154, 0, 13, 42]
abbrev dktX11_keeps_0 : List UInt8 := dkwX11_keeps_0 ++ dktX11_keeps_1
theorem dksX11_keeps_0 : cX11_keeps.data.toList.drop 0 = dktX11_keeps_0 := by decide +kernel
theorem dksX11_keeps_1 : cX11_keeps.data.toList.drop 24 = dktX11_keeps_1 := dk_seg dksX11_keeps_0 24 rfl rfl
theorem dX11_keeps_0 : decode cX11_keeps 0 = .ok (.aload_n 0, 1) := dk_42 (dk_at dksX11_keeps_0 0 rfl rfl)
theorem dX11_keeps_1 : decode cX11_keeps 1 = .ok (.bipush 40, 2) := dk_16 40 (dk_at dksX11_keeps_0 1 rfl rfl)
theorem dX11_keeps_3 : decode cX11_keeps 3 = .ok (.iload_n 1, 1) := dk_27 (dk_at dksX11_keeps_0 3 rfl rfl)
theorem dX11_keeps_4 : decode cX11_keeps 4 = .ok (.invokevirtual 241, 3) := dk_182 0 241 (dk_at dksX11_keeps_0 4 rfl rfl)
theorem dX11_keeps_7 : decode cX11_keeps 7 = .ok (.aload_n 0, 1) := dk_42 (dk_at dksX11_keeps_0 7 rfl rfl)
theorem dX11_keeps_8 : decode cX11_keeps 8 = .ok (.bipush 41, 2) := dk_16 41 (dk_at dksX11_keeps_0 8 rfl rfl)
theorem dX11_keeps_10 : decode cX11_keeps 10 = .ok (.iload_n 1, 1) := dk_27 (dk_at dksX11_keeps_0 10 rfl rfl)
theorem dX11_keeps_11 : decode cX11_keeps 11 = .ok (.invokevirtual 241, 3) := dk_182 0 241 (dk_at dksX11_keeps_0 11 rfl rfl)
theorem dX11_keeps_14 : decode cX11_keeps 14 = .ok (.aload_n 0, 1) := dk_42 (dk_at dksX11_keeps_0 14 rfl rfl)
theorem dX11_keeps_15 : decode cX11_keeps 15 = .ok (.bipush 40, 2) := dk_16 40 (dk_at dksX11_keeps_0 15 rfl rfl)
theorem dX11_keeps_17 : decode cX11_keeps 17 = .ok (.invokevirtual 320, 3) := dk_182 1 64 (dk_at dksX11_keeps_0 17 rfl rfl)
theorem dX11_keeps_20 : decode cX11_keeps 20 = .ok (.ifCond .ne 13, 3) := dk_154 0 13 (dk_at dksX11_keeps_0 20 rfl rfl)
theorem dX11_keeps_23 : decode cX11_keeps 23 = .ok (.aload_n 0, 1) := dk_42 (dk_at dksX11_keeps_0 23 rfl rfl)
theorem dX11_keeps_24 : decode cX11_keeps 24 = .ok (.getfield 20, 3) := dk_180 0 20 (dk_at dksX11_keeps_1 0 rfl rfl)
theorem dX11_keeps_27 : decode cX11_keeps 27 = .ok (.bipush 40, 2) := dk_16 40 (dk_at dksX11_keeps_1 3 rfl rfl)
theorem dX11_keeps_29 : decode cX11_keeps 29 = .ok (.iaload, 1) := dk_46 (dk_at dksX11_keeps_1 5 rfl rfl)
theorem dX11_keeps_30 : decode cX11_keeps 30 = .ok (.ifCond .ne 10, 3) := dk_154 0 10 (dk_at dksX11_keeps_1 6 rfl rfl)
theorem dX11_keeps_33 : decode cX11_keeps 33 = .ok (.aload_n 0, 1) := dk_42 (dk_at dksX11_keeps_1 9 rfl rfl)
theorem dX11_keeps_34 : decode cX11_keeps 34 = .ok (.invokevirtual 336, 3) := dk_182 1 80 (dk_at dksX11_keeps_1 10 rfl rfl)
theorem dX11_keeps_37 : decode cX11_keeps 37 = .ok (.goto 8, 3) := dk_167 0 8 (dk_at dksX11_keeps_1 13 rfl rfl)
theorem dX11_keeps_40 : decode cX11_keeps 40 = .ok (.aload_n 0, 1) := dk_42 (dk_at dksX11_keeps_1 16 rfl rfl)
theorem dX11_keeps_41 : decode cX11_keeps 41 = .ok (.iconst 0, 1) := dk_3 (dk_at dksX11_keeps_1 17 rfl rfl)
theorem dX11_keeps_42 : decode cX11_keeps 42 = .ok (.invokevirtual 329, 3) := dk_182 1 73 (dk_at dksX11_keeps_1 18 rfl rfl)
theorem dX11_keeps_45 : decode cX11_keeps 45 = .ok (.ireturn, 1) := dk_172 (dk_at dksX11_keeps_1 21 rfl rfl)
abbrev cX11_allTables : ByteArray := prog_18_method_99_code
def yX11_allTables : MethodName := ⟨RX11, "allTables", "()I"⟩
def dkwX11_allTables_1 : List UInt8 := [100, 104, 172]
abbrev dktX11_allTables_1 : List UInt8 := dkwX11_allTables_1 ++ []
def dkwX11_allTables_0 : List UInt8 := [42, 182, 0, 76, 42, 182, 0, 76, 104, 4, 100, 42, 182, 0, 76, 42, 182, 0, 76, 104, 42, 182, 0, 76]
abbrev dktX11_allTables_0 : List UInt8 := dkwX11_allTables_0 ++ dktX11_allTables_1
theorem dksX11_allTables_0 : cX11_allTables.data.toList.drop 0 = dktX11_allTables_0 := by decide +kernel
theorem dksX11_allTables_1 : cX11_allTables.data.toList.drop 24 = dktX11_allTables_1 := dk_seg dksX11_allTables_0 24 rfl rfl
theorem dX11_allTables_0 : decode cX11_allTables 0 = .ok (.aload_n 0, 1) := dk_42 (dk_at dksX11_allTables_0 0 rfl rfl)
theorem dX11_allTables_1 : decode cX11_allTables 1 = .ok (.invokevirtual 76, 3) := dk_182 0 76 (dk_at dksX11_allTables_0 1 rfl rfl)
theorem dX11_allTables_4 : decode cX11_allTables 4 = .ok (.aload_n 0, 1) := dk_42 (dk_at dksX11_allTables_0 4 rfl rfl)
theorem dX11_allTables_5 : decode cX11_allTables 5 = .ok (.invokevirtual 76, 3) := dk_182 0 76 (dk_at dksX11_allTables_0 5 rfl rfl)
theorem dX11_allTables_8 : decode cX11_allTables 8 = .ok (.imul, 1) := dk_104 (dk_at dksX11_allTables_0 8 rfl rfl)
theorem dX11_allTables_9 : decode cX11_allTables 9 = .ok (.iconst 1, 1) := dk_4 (dk_at dksX11_allTables_0 9 rfl rfl)
theorem dX11_allTables_10 : decode cX11_allTables 10 = .ok (.isub, 1) := dk_100 (dk_at dksX11_allTables_0 10 rfl rfl)
theorem dX11_allTables_11 : decode cX11_allTables 11 = .ok (.aload_n 0, 1) := dk_42 (dk_at dksX11_allTables_0 11 rfl rfl)
theorem dX11_allTables_12 : decode cX11_allTables 12 = .ok (.invokevirtual 76, 3) := dk_182 0 76 (dk_at dksX11_allTables_0 12 rfl rfl)
theorem dX11_allTables_15 : decode cX11_allTables 15 = .ok (.aload_n 0, 1) := dk_42 (dk_at dksX11_allTables_0 15 rfl rfl)
theorem dX11_allTables_16 : decode cX11_allTables 16 = .ok (.invokevirtual 76, 3) := dk_182 0 76 (dk_at dksX11_allTables_0 16 rfl rfl)
theorem dX11_allTables_19 : decode cX11_allTables 19 = .ok (.imul, 1) := dk_104 (dk_at dksX11_allTables_0 19 rfl rfl)
theorem dX11_allTables_20 : decode cX11_allTables 20 = .ok (.aload_n 0, 1) := dk_42 (dk_at dksX11_allTables_0 20 rfl rfl)
theorem dX11_allTables_21 : decode cX11_allTables 21 = .ok (.invokevirtual 76, 3) := dk_182 0 76 (dk_at dksX11_allTables_0 21 rfl rfl)
theorem dX11_allTables_24 : decode cX11_allTables 24 = .ok (.isub, 1) := dk_100 (dk_at dksX11_allTables_1 0 rfl rfl)
theorem dX11_allTables_25 : decode cX11_allTables 25 = .ok (.imul, 1) := dk_104 (dk_at dksX11_allTables_1 1 rfl rfl)
theorem dX11_allTables_26 : decode cX11_allTables 26 = .ok (.ireturn, 1) := dk_172 (dk_at dksX11_allTables_1 2 rfl rfl)
abbrev cX11_orbit : ByteArray := prog_18_method_102_code
def yX11_orbit : MethodName := ⟨RX11, "orbit", "(I)I"⟩
def dkwX11_orbit_1 : List UInt8 := [182, 1, 80, 42, 27, 182, 1, 83, 108, 172]
abbrev dktX11_orbit_1 : List UInt8 := dkwX11_orbit_1 ++ []
def dkwX11_orbit_0 : List UInt8 := [42, 3, 181, 0, 3, 42, 42, 27, 182, 0, 238, 4, 182, 0, 215, 153, 0, 7, 3, 167, 0, 13, 42]
abbrev dktX11_orbit_0 : List UInt8 := dkwX11_orbit_0 ++ dktX11_orbit_1
theorem dksX11_orbit_0 : cX11_orbit.data.toList.drop 0 = dktX11_orbit_0 := by decide +kernel
theorem dksX11_orbit_1 : cX11_orbit.data.toList.drop 23 = dktX11_orbit_1 := dk_seg dksX11_orbit_0 23 rfl rfl
theorem dX11_orbit_0 : decode cX11_orbit 0 = .ok (.aload_n 0, 1) := dk_42 (dk_at dksX11_orbit_0 0 rfl rfl)
theorem dX11_orbit_1 : decode cX11_orbit 1 = .ok (.iconst 0, 1) := dk_3 (dk_at dksX11_orbit_0 1 rfl rfl)
theorem dX11_orbit_2 : decode cX11_orbit 2 = .ok (.putfield 3, 3) := dk_181 0 3 (dk_at dksX11_orbit_0 2 rfl rfl)
theorem dX11_orbit_5 : decode cX11_orbit 5 = .ok (.aload_n 0, 1) := dk_42 (dk_at dksX11_orbit_0 5 rfl rfl)
theorem dX11_orbit_6 : decode cX11_orbit 6 = .ok (.aload_n 0, 1) := dk_42 (dk_at dksX11_orbit_0 6 rfl rfl)
theorem dX11_orbit_7 : decode cX11_orbit 7 = .ok (.iload_n 1, 1) := dk_27 (dk_at dksX11_orbit_0 7 rfl rfl)
theorem dX11_orbit_8 : decode cX11_orbit 8 = .ok (.invokevirtual 238, 3) := dk_182 0 238 (dk_at dksX11_orbit_0 8 rfl rfl)
theorem dX11_orbit_11 : decode cX11_orbit 11 = .ok (.iconst 1, 1) := dk_4 (dk_at dksX11_orbit_0 11 rfl rfl)
theorem dX11_orbit_12 : decode cX11_orbit 12 = .ok (.invokevirtual 215, 3) := dk_182 0 215 (dk_at dksX11_orbit_0 12 rfl rfl)
theorem dX11_orbit_15 : decode cX11_orbit 15 = .ok (.ifCond .eq 7, 3) := dk_153 0 7 (dk_at dksX11_orbit_0 15 rfl rfl)
theorem dX11_orbit_18 : decode cX11_orbit 18 = .ok (.iconst 0, 1) := dk_3 (dk_at dksX11_orbit_0 18 rfl rfl)
theorem dX11_orbit_19 : decode cX11_orbit 19 = .ok (.goto 13, 3) := dk_167 0 13 (dk_at dksX11_orbit_0 19 rfl rfl)
theorem dX11_orbit_22 : decode cX11_orbit 22 = .ok (.aload_n 0, 1) := dk_42 (dk_at dksX11_orbit_0 22 rfl rfl)
theorem dX11_orbit_23 : decode cX11_orbit 23 = .ok (.invokevirtual 336, 3) := dk_182 1 80 (dk_at dksX11_orbit_1 0 rfl rfl)
theorem dX11_orbit_26 : decode cX11_orbit 26 = .ok (.aload_n 0, 1) := dk_42 (dk_at dksX11_orbit_1 3 rfl rfl)
theorem dX11_orbit_27 : decode cX11_orbit 27 = .ok (.iload_n 1, 1) := dk_27 (dk_at dksX11_orbit_1 4 rfl rfl)
theorem dX11_orbit_28 : decode cX11_orbit 28 = .ok (.invokevirtual 339, 3) := dk_182 1 83 (dk_at dksX11_orbit_1 5 rfl rfl)
theorem dX11_orbit_31 : decode cX11_orbit 31 = .ok (.idiv, 1) := dk_108 (dk_at dksX11_orbit_1 8 rfl rfl)
theorem dX11_orbit_32 : decode cX11_orbit 32 = .ok (.ireturn, 1) := dk_172 (dk_at dksX11_orbit_1 9 rfl rfl)
abbrev cX11_kind : ByteArray := prog_18_method_103_code
def yX11_kind : MethodName := ⟨RX11, "kind", "(I)I"⟩
def dkwX11_kind_1 : List UInt8 := [27, 182, 1, 77, 156, 0, 9, 132, 2, 1, 167, 255, 244, 28, 172]
abbrev dktX11_kind_1 : List UInt8 := dkwX11_kind_1 ++ []
def dkwX11_kind_0 : List UInt8 := [42, 3, 181, 0, 3, 42, 42, 27, 182, 0, 238, 4, 182, 0, 215, 153, 0, 5, 3, 172, 3, 61, 42, 28]
abbrev dktX11_kind_0 : List UInt8 := dkwX11_kind_0 ++ dktX11_kind_1
theorem dksX11_kind_0 : cX11_kind.data.toList.drop 0 = dktX11_kind_0 := by decide +kernel
theorem dksX11_kind_1 : cX11_kind.data.toList.drop 24 = dktX11_kind_1 := dk_seg dksX11_kind_0 24 rfl rfl
theorem dX11_kind_0 : decode cX11_kind 0 = .ok (.aload_n 0, 1) := dk_42 (dk_at dksX11_kind_0 0 rfl rfl)
theorem dX11_kind_1 : decode cX11_kind 1 = .ok (.iconst 0, 1) := dk_3 (dk_at dksX11_kind_0 1 rfl rfl)
theorem dX11_kind_2 : decode cX11_kind 2 = .ok (.putfield 3, 3) := dk_181 0 3 (dk_at dksX11_kind_0 2 rfl rfl)
theorem dX11_kind_5 : decode cX11_kind 5 = .ok (.aload_n 0, 1) := dk_42 (dk_at dksX11_kind_0 5 rfl rfl)
theorem dX11_kind_6 : decode cX11_kind 6 = .ok (.aload_n 0, 1) := dk_42 (dk_at dksX11_kind_0 6 rfl rfl)
theorem dX11_kind_7 : decode cX11_kind 7 = .ok (.iload_n 1, 1) := dk_27 (dk_at dksX11_kind_0 7 rfl rfl)
theorem dX11_kind_8 : decode cX11_kind 8 = .ok (.invokevirtual 238, 3) := dk_182 0 238 (dk_at dksX11_kind_0 8 rfl rfl)
theorem dX11_kind_11 : decode cX11_kind 11 = .ok (.iconst 1, 1) := dk_4 (dk_at dksX11_kind_0 11 rfl rfl)
theorem dX11_kind_12 : decode cX11_kind 12 = .ok (.invokevirtual 215, 3) := dk_182 0 215 (dk_at dksX11_kind_0 12 rfl rfl)
theorem dX11_kind_15 : decode cX11_kind 15 = .ok (.ifCond .eq 5, 3) := dk_153 0 5 (dk_at dksX11_kind_0 15 rfl rfl)
theorem dX11_kind_18 : decode cX11_kind 18 = .ok (.iconst 0, 1) := dk_3 (dk_at dksX11_kind_0 18 rfl rfl)
theorem dX11_kind_19 : decode cX11_kind 19 = .ok (.ireturn, 1) := dk_172 (dk_at dksX11_kind_0 19 rfl rfl)
theorem dX11_kind_20 : decode cX11_kind 20 = .ok (.iconst 0, 1) := dk_3 (dk_at dksX11_kind_0 20 rfl rfl)
theorem dX11_kind_21 : decode cX11_kind 21 = .ok (.istore_n 2, 1) := dk_61 (dk_at dksX11_kind_0 21 rfl rfl)
theorem dX11_kind_22 : decode cX11_kind 22 = .ok (.aload_n 0, 1) := dk_42 (dk_at dksX11_kind_0 22 rfl rfl)
theorem dX11_kind_23 : decode cX11_kind 23 = .ok (.iload_n 2, 1) := dk_28 (dk_at dksX11_kind_0 23 rfl rfl)
theorem dX11_kind_24 : decode cX11_kind 24 = .ok (.iload_n 1, 1) := dk_27 (dk_at dksX11_kind_1 0 rfl rfl)
theorem dX11_kind_25 : decode cX11_kind 25 = .ok (.invokevirtual 333, 3) := dk_182 1 77 (dk_at dksX11_kind_1 1 rfl rfl)
theorem dX11_kind_28 : decode cX11_kind 28 = .ok (.ifCond .ge 9, 3) := dk_156 0 9 (dk_at dksX11_kind_1 4 rfl rfl)
theorem dX11_kind_31 : decode cX11_kind 31 = .ok (.iinc 2 1, 3) := dk_132 2 1 (dk_at dksX11_kind_1 7 rfl rfl)
theorem dX11_kind_34 : decode cX11_kind 34 = .ok (.goto (-12), 3) := dk_167 255 244 (dk_at dksX11_kind_1 10 rfl rfl)
theorem dX11_kind_37 : decode cX11_kind 37 = .ok (.iload_n 2, 1) := dk_28 (dk_at dksX11_kind_1 13 rfl rfl)
theorem dX11_kind_38 : decode cX11_kind 38 = .ok (.ireturn, 1) := dk_172 (dk_at dksX11_kind_1 14 rfl rfl)
abbrev cX11_powers : ByteArray := prog_18_method_110_code
def yX11_powers : MethodName := ⟨RX11, "powers", "(II)I"⟩
def dkwX11_powers_8 : List UInt8 := [167, 0, 4, 2, 172]
abbrev dktX11_powers_8 : List UInt8 := dkwX11_powers_8 ++ []
def dkwX11_powers_7 : List UInt8 := [100, 3, 42, 180, 1, 101, 4, 100, 184, 0, 68, 153, 0, 15, 42, 180, 0, 58, 28, 16, 10, 100, 46]
abbrev dktX11_powers_7 : List UInt8 := dkwX11_powers_7 ++ dktX11_powers_8
def dkwX11_powers_6 : List UInt8 := [42, 180, 1, 101, 4, 100, 184, 0, 68, 153, 0, 12, 42, 180, 0, 55, 28, 46, 167, 0, 33, 28, 16, 10]
abbrev dktX11_powers_6 : List UInt8 := dkwX11_powers_6 ++ dktX11_powers_7
def dkwX11_powers_5 : List UInt8 := [167, 255, 220, 42, 180, 1, 101, 6, 164, 0, 5, 2, 172, 28, 156, 0, 8, 42, 180, 1, 101, 172, 28, 3]
abbrev dktX11_powers_5 : List UInt8 := dkwX11_powers_5 ++ dktX11_powers_6
def dkwX11_powers_4 : List UInt8 := [162, 0, 27, 42, 42, 180, 1, 101, 182, 1, 104, 154, 0, 16, 42, 89, 180, 1, 101, 4, 96, 181, 1, 101]
abbrev dktX11_powers_4 : List UInt8 := dkwX11_powers_4 ++ dktX11_powers_5
def dkwX11_powers_3 : List UInt8 := [153, 0, 7, 3, 167, 0, 4, 4, 181, 1, 101, 42, 180, 1, 101, 158, 0, 35, 42, 180, 1, 101, 7]
abbrev dktX11_powers_3 : List UInt8 := dkwX11_powers_3 ++ dktX11_powers_4
def dkwX11_powers_2 : List UInt8 := [16, 40, 27, 182, 0, 241, 42, 42, 180, 0, 20, 16, 40, 46, 182, 1, 98, 42, 42, 16, 40, 182, 1, 64]
abbrev dktX11_powers_2 : List UInt8 := dkwX11_powers_2 ++ dktX11_powers_3
def dkwX11_powers_1 : List UInt8 := [153, 0, 8, 28, 2, 162, 0, 7, 4, 167, 0, 4, 3, 5, 182, 0, 215, 153, 0, 5, 3, 172, 42]
abbrev dktX11_powers_1 : List UInt8 := dkwX11_powers_1 ++ dktX11_powers_2
def dkwX11_powers_0 : List UInt8 := [42, 3, 181, 0, 3, 42, 42, 27, 182, 0, 238, 4, 182, 0, 215, 154, 0, 29, 42, 42, 27, 182, 0, 93]
abbrev dktX11_powers_0 : List UInt8 := dkwX11_powers_0 ++ dktX11_powers_1
theorem dksX11_powers_0 : cX11_powers.data.toList.drop 0 = dktX11_powers_0 := by decide +kernel
theorem dksX11_powers_1 : cX11_powers.data.toList.drop 24 = dktX11_powers_1 := dk_seg dksX11_powers_0 24 rfl rfl
theorem dksX11_powers_2 : cX11_powers.data.toList.drop 47 = dktX11_powers_2 := dk_seg dksX11_powers_1 23 rfl rfl
theorem dksX11_powers_3 : cX11_powers.data.toList.drop 71 = dktX11_powers_3 := dk_seg dksX11_powers_2 24 rfl rfl
theorem dksX11_powers_4 : cX11_powers.data.toList.drop 94 = dktX11_powers_4 := dk_seg dksX11_powers_3 23 rfl rfl
theorem dksX11_powers_5 : cX11_powers.data.toList.drop 118 = dktX11_powers_5 := dk_seg dksX11_powers_4 24 rfl rfl
theorem dksX11_powers_6 : cX11_powers.data.toList.drop 142 = dktX11_powers_6 := dk_seg dksX11_powers_5 24 rfl rfl
theorem dksX11_powers_7 : cX11_powers.data.toList.drop 166 = dktX11_powers_7 := dk_seg dksX11_powers_6 24 rfl rfl
theorem dksX11_powers_8 : cX11_powers.data.toList.drop 189 = dktX11_powers_8 := dk_seg dksX11_powers_7 23 rfl rfl
theorem dX11_powers_0 : decode cX11_powers 0 = .ok (.aload_n 0, 1) := dk_42 (dk_at dksX11_powers_0 0 rfl rfl)
theorem dX11_powers_1 : decode cX11_powers 1 = .ok (.iconst 0, 1) := dk_3 (dk_at dksX11_powers_0 1 rfl rfl)
theorem dX11_powers_2 : decode cX11_powers 2 = .ok (.putfield 3, 3) := dk_181 0 3 (dk_at dksX11_powers_0 2 rfl rfl)
theorem dX11_powers_5 : decode cX11_powers 5 = .ok (.aload_n 0, 1) := dk_42 (dk_at dksX11_powers_0 5 rfl rfl)
theorem dX11_powers_6 : decode cX11_powers 6 = .ok (.aload_n 0, 1) := dk_42 (dk_at dksX11_powers_0 6 rfl rfl)
theorem dX11_powers_7 : decode cX11_powers 7 = .ok (.iload_n 1, 1) := dk_27 (dk_at dksX11_powers_0 7 rfl rfl)
theorem dX11_powers_8 : decode cX11_powers 8 = .ok (.invokevirtual 238, 3) := dk_182 0 238 (dk_at dksX11_powers_0 8 rfl rfl)
theorem dX11_powers_11 : decode cX11_powers 11 = .ok (.iconst 1, 1) := dk_4 (dk_at dksX11_powers_0 11 rfl rfl)
theorem dX11_powers_12 : decode cX11_powers 12 = .ok (.invokevirtual 215, 3) := dk_182 0 215 (dk_at dksX11_powers_0 12 rfl rfl)
theorem dX11_powers_15 : decode cX11_powers 15 = .ok (.ifCond .ne 29, 3) := dk_154 0 29 (dk_at dksX11_powers_0 15 rfl rfl)
theorem dX11_powers_18 : decode cX11_powers 18 = .ok (.aload_n 0, 1) := dk_42 (dk_at dksX11_powers_0 18 rfl rfl)
theorem dX11_powers_19 : decode cX11_powers 19 = .ok (.aload_n 0, 1) := dk_42 (dk_at dksX11_powers_0 19 rfl rfl)
theorem dX11_powers_20 : decode cX11_powers 20 = .ok (.iload_n 1, 1) := dk_27 (dk_at dksX11_powers_0 20 rfl rfl)
theorem dX11_powers_21 : decode cX11_powers 21 = .ok (.invokevirtual 93, 3) := dk_182 0 93 (dk_at dksX11_powers_0 21 rfl rfl)
theorem dX11_powers_24 : decode cX11_powers 24 = .ok (.ifCond .eq 8, 3) := dk_153 0 8 (dk_at dksX11_powers_1 0 rfl rfl)
theorem dX11_powers_27 : decode cX11_powers 27 = .ok (.iload_n 2, 1) := dk_28 (dk_at dksX11_powers_1 3 rfl rfl)
theorem dX11_powers_28 : decode cX11_powers 28 = .ok (.iconst (-1), 1) := dk_2 (dk_at dksX11_powers_1 4 rfl rfl)
theorem dX11_powers_29 : decode cX11_powers 29 = .ok (.if_icmp .ge 7, 3) := dk_162 0 7 (dk_at dksX11_powers_1 5 rfl rfl)
theorem dX11_powers_32 : decode cX11_powers 32 = .ok (.iconst 1, 1) := dk_4 (dk_at dksX11_powers_1 8 rfl rfl)
theorem dX11_powers_33 : decode cX11_powers 33 = .ok (.goto 4, 3) := dk_167 0 4 (dk_at dksX11_powers_1 9 rfl rfl)
theorem dX11_powers_36 : decode cX11_powers 36 = .ok (.iconst 0, 1) := dk_3 (dk_at dksX11_powers_1 12 rfl rfl)
theorem dX11_powers_37 : decode cX11_powers 37 = .ok (.iconst 2, 1) := dk_5 (dk_at dksX11_powers_1 13 rfl rfl)
theorem dX11_powers_38 : decode cX11_powers 38 = .ok (.invokevirtual 215, 3) := dk_182 0 215 (dk_at dksX11_powers_1 14 rfl rfl)
theorem dX11_powers_41 : decode cX11_powers 41 = .ok (.ifCond .eq 5, 3) := dk_153 0 5 (dk_at dksX11_powers_1 17 rfl rfl)
theorem dX11_powers_44 : decode cX11_powers 44 = .ok (.iconst 0, 1) := dk_3 (dk_at dksX11_powers_1 20 rfl rfl)
theorem dX11_powers_45 : decode cX11_powers 45 = .ok (.ireturn, 1) := dk_172 (dk_at dksX11_powers_1 21 rfl rfl)
theorem dX11_powers_46 : decode cX11_powers 46 = .ok (.aload_n 0, 1) := dk_42 (dk_at dksX11_powers_1 22 rfl rfl)
theorem dX11_powers_47 : decode cX11_powers 47 = .ok (.bipush 40, 2) := dk_16 40 (dk_at dksX11_powers_2 0 rfl rfl)
theorem dX11_powers_49 : decode cX11_powers 49 = .ok (.iload_n 1, 1) := dk_27 (dk_at dksX11_powers_2 2 rfl rfl)
theorem dX11_powers_50 : decode cX11_powers 50 = .ok (.invokevirtual 241, 3) := dk_182 0 241 (dk_at dksX11_powers_2 3 rfl rfl)
theorem dX11_powers_53 : decode cX11_powers 53 = .ok (.aload_n 0, 1) := dk_42 (dk_at dksX11_powers_2 6 rfl rfl)
theorem dX11_powers_54 : decode cX11_powers 54 = .ok (.aload_n 0, 1) := dk_42 (dk_at dksX11_powers_2 7 rfl rfl)
theorem dX11_powers_55 : decode cX11_powers 55 = .ok (.getfield 20, 3) := dk_180 0 20 (dk_at dksX11_powers_2 8 rfl rfl)
theorem dX11_powers_58 : decode cX11_powers 58 = .ok (.bipush 40, 2) := dk_16 40 (dk_at dksX11_powers_2 11 rfl rfl)
theorem dX11_powers_60 : decode cX11_powers 60 = .ok (.iaload, 1) := dk_46 (dk_at dksX11_powers_2 13 rfl rfl)
theorem dX11_powers_61 : decode cX11_powers 61 = .ok (.invokevirtual 354, 3) := dk_182 1 98 (dk_at dksX11_powers_2 14 rfl rfl)
theorem dX11_powers_64 : decode cX11_powers 64 = .ok (.aload_n 0, 1) := dk_42 (dk_at dksX11_powers_2 17 rfl rfl)
theorem dX11_powers_65 : decode cX11_powers 65 = .ok (.aload_n 0, 1) := dk_42 (dk_at dksX11_powers_2 18 rfl rfl)
theorem dX11_powers_66 : decode cX11_powers 66 = .ok (.bipush 40, 2) := dk_16 40 (dk_at dksX11_powers_2 19 rfl rfl)
theorem dX11_powers_68 : decode cX11_powers 68 = .ok (.invokevirtual 320, 3) := dk_182 1 64 (dk_at dksX11_powers_2 21 rfl rfl)
theorem dX11_powers_71 : decode cX11_powers 71 = .ok (.ifCond .eq 7, 3) := dk_153 0 7 (dk_at dksX11_powers_3 0 rfl rfl)
theorem dX11_powers_74 : decode cX11_powers 74 = .ok (.iconst 0, 1) := dk_3 (dk_at dksX11_powers_3 3 rfl rfl)
theorem dX11_powers_75 : decode cX11_powers 75 = .ok (.goto 4, 3) := dk_167 0 4 (dk_at dksX11_powers_3 4 rfl rfl)
theorem dX11_powers_78 : decode cX11_powers 78 = .ok (.iconst 1, 1) := dk_4 (dk_at dksX11_powers_3 7 rfl rfl)
theorem dX11_powers_79 : decode cX11_powers 79 = .ok (.putfield 357, 3) := dk_181 1 101 (dk_at dksX11_powers_3 8 rfl rfl)
theorem dX11_powers_82 : decode cX11_powers 82 = .ok (.aload_n 0, 1) := dk_42 (dk_at dksX11_powers_3 11 rfl rfl)
theorem dX11_powers_83 : decode cX11_powers 83 = .ok (.getfield 357, 3) := dk_180 1 101 (dk_at dksX11_powers_3 12 rfl rfl)
theorem dX11_powers_86 : decode cX11_powers 86 = .ok (.ifCond .le 35, 3) := dk_158 0 35 (dk_at dksX11_powers_3 15 rfl rfl)
theorem dX11_powers_89 : decode cX11_powers 89 = .ok (.aload_n 0, 1) := dk_42 (dk_at dksX11_powers_3 18 rfl rfl)
theorem dX11_powers_90 : decode cX11_powers 90 = .ok (.getfield 357, 3) := dk_180 1 101 (dk_at dksX11_powers_3 19 rfl rfl)
theorem dX11_powers_93 : decode cX11_powers 93 = .ok (.iconst 4, 1) := dk_7 (dk_at dksX11_powers_3 22 rfl rfl)
theorem dX11_powers_94 : decode cX11_powers 94 = .ok (.if_icmp .ge 27, 3) := dk_162 0 27 (dk_at dksX11_powers_4 0 rfl rfl)
theorem dX11_powers_97 : decode cX11_powers 97 = .ok (.aload_n 0, 1) := dk_42 (dk_at dksX11_powers_4 3 rfl rfl)
theorem dX11_powers_98 : decode cX11_powers 98 = .ok (.aload_n 0, 1) := dk_42 (dk_at dksX11_powers_4 4 rfl rfl)
theorem dX11_powers_99 : decode cX11_powers 99 = .ok (.getfield 357, 3) := dk_180 1 101 (dk_at dksX11_powers_4 5 rfl rfl)
theorem dX11_powers_102 : decode cX11_powers 102 = .ok (.invokevirtual 360, 3) := dk_182 1 104 (dk_at dksX11_powers_4 8 rfl rfl)
theorem dX11_powers_105 : decode cX11_powers 105 = .ok (.ifCond .ne 16, 3) := dk_154 0 16 (dk_at dksX11_powers_4 11 rfl rfl)
theorem dX11_powers_108 : decode cX11_powers 108 = .ok (.aload_n 0, 1) := dk_42 (dk_at dksX11_powers_4 14 rfl rfl)
theorem dX11_powers_109 : decode cX11_powers 109 = .ok (.dup, 1) := dk_89 (dk_at dksX11_powers_4 15 rfl rfl)
theorem dX11_powers_110 : decode cX11_powers 110 = .ok (.getfield 357, 3) := dk_180 1 101 (dk_at dksX11_powers_4 16 rfl rfl)
theorem dX11_powers_113 : decode cX11_powers 113 = .ok (.iconst 1, 1) := dk_4 (dk_at dksX11_powers_4 19 rfl rfl)
theorem dX11_powers_114 : decode cX11_powers 114 = .ok (.iadd, 1) := dk_96 (dk_at dksX11_powers_4 20 rfl rfl)
theorem dX11_powers_115 : decode cX11_powers 115 = .ok (.putfield 357, 3) := dk_181 1 101 (dk_at dksX11_powers_4 21 rfl rfl)
theorem dX11_powers_118 : decode cX11_powers 118 = .ok (.goto (-36), 3) := dk_167 255 220 (dk_at dksX11_powers_5 0 rfl rfl)
theorem dX11_powers_121 : decode cX11_powers 121 = .ok (.aload_n 0, 1) := dk_42 (dk_at dksX11_powers_5 3 rfl rfl)
theorem dX11_powers_122 : decode cX11_powers 122 = .ok (.getfield 357, 3) := dk_180 1 101 (dk_at dksX11_powers_5 4 rfl rfl)
theorem dX11_powers_125 : decode cX11_powers 125 = .ok (.iconst 3, 1) := dk_6 (dk_at dksX11_powers_5 7 rfl rfl)
theorem dX11_powers_126 : decode cX11_powers 126 = .ok (.if_icmp .le 5, 3) := dk_164 0 5 (dk_at dksX11_powers_5 8 rfl rfl)
theorem dX11_powers_129 : decode cX11_powers 129 = .ok (.iconst (-1), 1) := dk_2 (dk_at dksX11_powers_5 11 rfl rfl)
theorem dX11_powers_130 : decode cX11_powers 130 = .ok (.ireturn, 1) := dk_172 (dk_at dksX11_powers_5 12 rfl rfl)
theorem dX11_powers_131 : decode cX11_powers 131 = .ok (.iload_n 2, 1) := dk_28 (dk_at dksX11_powers_5 13 rfl rfl)
theorem dX11_powers_132 : decode cX11_powers 132 = .ok (.ifCond .ge 8, 3) := dk_156 0 8 (dk_at dksX11_powers_5 14 rfl rfl)
theorem dX11_powers_135 : decode cX11_powers 135 = .ok (.aload_n 0, 1) := dk_42 (dk_at dksX11_powers_5 17 rfl rfl)
theorem dX11_powers_136 : decode cX11_powers 136 = .ok (.getfield 357, 3) := dk_180 1 101 (dk_at dksX11_powers_5 18 rfl rfl)
theorem dX11_powers_139 : decode cX11_powers 139 = .ok (.ireturn, 1) := dk_172 (dk_at dksX11_powers_5 21 rfl rfl)
theorem dX11_powers_140 : decode cX11_powers 140 = .ok (.iload_n 2, 1) := dk_28 (dk_at dksX11_powers_5 22 rfl rfl)
theorem dX11_powers_141 : decode cX11_powers 141 = .ok (.iconst 0, 1) := dk_3 (dk_at dksX11_powers_5 23 rfl rfl)
theorem dX11_powers_142 : decode cX11_powers 142 = .ok (.aload_n 0, 1) := dk_42 (dk_at dksX11_powers_6 0 rfl rfl)
theorem dX11_powers_143 : decode cX11_powers 143 = .ok (.getfield 357, 3) := dk_180 1 101 (dk_at dksX11_powers_6 1 rfl rfl)
theorem dX11_powers_146 : decode cX11_powers 146 = .ok (.iconst 1, 1) := dk_4 (dk_at dksX11_powers_6 4 rfl rfl)
theorem dX11_powers_147 : decode cX11_powers 147 = .ok (.isub, 1) := dk_100 (dk_at dksX11_powers_6 5 rfl rfl)
theorem dX11_powers_148 : decode cX11_powers 148 = .ok (.invokestatic 68, 3) := dk_184 0 68 (dk_at dksX11_powers_6 6 rfl rfl)
theorem dX11_powers_151 : decode cX11_powers 151 = .ok (.ifCond .eq 12, 3) := dk_153 0 12 (dk_at dksX11_powers_6 9 rfl rfl)
theorem dX11_powers_154 : decode cX11_powers 154 = .ok (.aload_n 0, 1) := dk_42 (dk_at dksX11_powers_6 12 rfl rfl)
theorem dX11_powers_155 : decode cX11_powers 155 = .ok (.getfield 55, 3) := dk_180 0 55 (dk_at dksX11_powers_6 13 rfl rfl)
theorem dX11_powers_158 : decode cX11_powers 158 = .ok (.iload_n 2, 1) := dk_28 (dk_at dksX11_powers_6 16 rfl rfl)
theorem dX11_powers_159 : decode cX11_powers 159 = .ok (.iaload, 1) := dk_46 (dk_at dksX11_powers_6 17 rfl rfl)
theorem dX11_powers_160 : decode cX11_powers 160 = .ok (.goto 33, 3) := dk_167 0 33 (dk_at dksX11_powers_6 18 rfl rfl)
theorem dX11_powers_163 : decode cX11_powers 163 = .ok (.iload_n 2, 1) := dk_28 (dk_at dksX11_powers_6 21 rfl rfl)
theorem dX11_powers_164 : decode cX11_powers 164 = .ok (.bipush 10, 2) := dk_16 10 (dk_at dksX11_powers_6 22 rfl rfl)
theorem dX11_powers_166 : decode cX11_powers 166 = .ok (.isub, 1) := dk_100 (dk_at dksX11_powers_7 0 rfl rfl)
theorem dX11_powers_167 : decode cX11_powers 167 = .ok (.iconst 0, 1) := dk_3 (dk_at dksX11_powers_7 1 rfl rfl)
theorem dX11_powers_168 : decode cX11_powers 168 = .ok (.aload_n 0, 1) := dk_42 (dk_at dksX11_powers_7 2 rfl rfl)
theorem dX11_powers_169 : decode cX11_powers 169 = .ok (.getfield 357, 3) := dk_180 1 101 (dk_at dksX11_powers_7 3 rfl rfl)
theorem dX11_powers_172 : decode cX11_powers 172 = .ok (.iconst 1, 1) := dk_4 (dk_at dksX11_powers_7 6 rfl rfl)
theorem dX11_powers_173 : decode cX11_powers 173 = .ok (.isub, 1) := dk_100 (dk_at dksX11_powers_7 7 rfl rfl)
theorem dX11_powers_174 : decode cX11_powers 174 = .ok (.invokestatic 68, 3) := dk_184 0 68 (dk_at dksX11_powers_7 8 rfl rfl)
theorem dX11_powers_177 : decode cX11_powers 177 = .ok (.ifCond .eq 15, 3) := dk_153 0 15 (dk_at dksX11_powers_7 11 rfl rfl)
theorem dX11_powers_180 : decode cX11_powers 180 = .ok (.aload_n 0, 1) := dk_42 (dk_at dksX11_powers_7 14 rfl rfl)
theorem dX11_powers_181 : decode cX11_powers 181 = .ok (.getfield 58, 3) := dk_180 0 58 (dk_at dksX11_powers_7 15 rfl rfl)
theorem dX11_powers_184 : decode cX11_powers 184 = .ok (.iload_n 2, 1) := dk_28 (dk_at dksX11_powers_7 18 rfl rfl)
theorem dX11_powers_185 : decode cX11_powers 185 = .ok (.bipush 10, 2) := dk_16 10 (dk_at dksX11_powers_7 19 rfl rfl)
theorem dX11_powers_187 : decode cX11_powers 187 = .ok (.isub, 1) := dk_100 (dk_at dksX11_powers_7 21 rfl rfl)
theorem dX11_powers_188 : decode cX11_powers 188 = .ok (.iaload, 1) := dk_46 (dk_at dksX11_powers_7 22 rfl rfl)
theorem dX11_powers_189 : decode cX11_powers 189 = .ok (.goto 4, 3) := dk_167 0 4 (dk_at dksX11_powers_8 0 rfl rfl)
theorem dX11_powers_192 : decode cX11_powers 192 = .ok (.iconst (-1), 1) := dk_2 (dk_at dksX11_powers_8 3 rfl rfl)
theorem dX11_powers_193 : decode cX11_powers 193 = .ok (.ireturn, 1) := dk_172 (dk_at dksX11_powers_8 4 rfl rfl)
abbrev cX11_raises : ByteArray := prog_18_method_105_code
def yX11_raises : MethodName := ⟨RX11, "raises", "(I)V"⟩
def dkwX11_raises_4 : List UInt8 := [29, 96, 42, 16, 45, 29, 182, 0, 103, 79, 132, 3, 1, 167, 255, 230, 132, 2, 1, 167, 255, 149, 177]
abbrev dktX11_raises_4 : List UInt8 := dkwX11_raises_4 ++ []
def dkwX11_raises_3 : List UInt8 := [182, 0, 152, 132, 3, 1, 167, 255, 211, 3, 62, 29, 27, 163, 0, 27, 42, 180, 0, 52, 16, 9, 28, 104]
abbrev dktX11_raises_3 : List UInt8 := dkwX11_raises_3 ++ dktX11_raises_4
def dkwX11_raises_2 : List UInt8 := [167, 0, 4, 3, 28, 42, 182, 0, 76, 162, 0, 12, 42, 3, 28, 182, 0, 149, 167, 0, 4, 4]
abbrev dktX11_raises_2 : List UInt8 := dkwX11_raises_2 ++ dktX11_raises_3
def dkwX11_raises_1 : List UInt8 := [182, 0, 99, 3, 62, 29, 27, 162, 0, 46, 42, 16, 45, 28, 42, 182, 0, 76, 162, 0, 7, 4]
abbrev dktX11_raises_1 : List UInt8 := dkwX11_raises_1 ++ dktX11_raises_2
def dkwX11_raises_0 : List UInt8 := [3, 61, 28, 42, 182, 0, 76, 163, 0, 105, 42, 16, 45, 3, 182, 0, 106, 42, 16, 45, 3, 4]
abbrev dktX11_raises_0 : List UInt8 := dkwX11_raises_0 ++ dktX11_raises_1
theorem dksX11_raises_0 : cX11_raises.data.toList.drop 0 = dktX11_raises_0 := by decide +kernel
theorem dksX11_raises_1 : cX11_raises.data.toList.drop 22 = dktX11_raises_1 := dk_seg dksX11_raises_0 22 rfl rfl
theorem dksX11_raises_2 : cX11_raises.data.toList.drop 44 = dktX11_raises_2 := dk_seg dksX11_raises_1 22 rfl rfl
theorem dksX11_raises_3 : cX11_raises.data.toList.drop 66 = dktX11_raises_3 := dk_seg dksX11_raises_2 22 rfl rfl
theorem dksX11_raises_4 : cX11_raises.data.toList.drop 90 = dktX11_raises_4 := dk_seg dksX11_raises_3 24 rfl rfl
theorem dX11_raises_0 : decode cX11_raises 0 = .ok (.iconst 0, 1) := dk_3 (dk_at dksX11_raises_0 0 rfl rfl)
theorem dX11_raises_1 : decode cX11_raises 1 = .ok (.istore_n 2, 1) := dk_61 (dk_at dksX11_raises_0 1 rfl rfl)
theorem dX11_raises_2 : decode cX11_raises 2 = .ok (.iload_n 2, 1) := dk_28 (dk_at dksX11_raises_0 2 rfl rfl)
theorem dX11_raises_3 : decode cX11_raises 3 = .ok (.aload_n 0, 1) := dk_42 (dk_at dksX11_raises_0 3 rfl rfl)
theorem dX11_raises_4 : decode cX11_raises 4 = .ok (.invokevirtual 76, 3) := dk_182 0 76 (dk_at dksX11_raises_0 4 rfl rfl)
theorem dX11_raises_7 : decode cX11_raises 7 = .ok (.if_icmp .gt 105, 3) := dk_163 0 105 (dk_at dksX11_raises_0 7 rfl rfl)
theorem dX11_raises_10 : decode cX11_raises 10 = .ok (.aload_n 0, 1) := dk_42 (dk_at dksX11_raises_0 10 rfl rfl)
theorem dX11_raises_11 : decode cX11_raises 11 = .ok (.bipush 45, 2) := dk_16 45 (dk_at dksX11_raises_0 11 rfl rfl)
theorem dX11_raises_13 : decode cX11_raises 13 = .ok (.iconst 0, 1) := dk_3 (dk_at dksX11_raises_0 13 rfl rfl)
theorem dX11_raises_14 : decode cX11_raises 14 = .ok (.invokevirtual 106, 3) := dk_182 0 106 (dk_at dksX11_raises_0 14 rfl rfl)
theorem dX11_raises_17 : decode cX11_raises 17 = .ok (.aload_n 0, 1) := dk_42 (dk_at dksX11_raises_0 17 rfl rfl)
theorem dX11_raises_18 : decode cX11_raises 18 = .ok (.bipush 45, 2) := dk_16 45 (dk_at dksX11_raises_0 18 rfl rfl)
theorem dX11_raises_20 : decode cX11_raises 20 = .ok (.iconst 0, 1) := dk_3 (dk_at dksX11_raises_0 20 rfl rfl)
theorem dX11_raises_21 : decode cX11_raises 21 = .ok (.iconst 1, 1) := dk_4 (dk_at dksX11_raises_0 21 rfl rfl)
theorem dX11_raises_22 : decode cX11_raises 22 = .ok (.invokevirtual 99, 3) := dk_182 0 99 (dk_at dksX11_raises_1 0 rfl rfl)
theorem dX11_raises_25 : decode cX11_raises 25 = .ok (.iconst 0, 1) := dk_3 (dk_at dksX11_raises_1 3 rfl rfl)
theorem dX11_raises_26 : decode cX11_raises 26 = .ok (.istore_n 3, 1) := dk_62 (dk_at dksX11_raises_1 4 rfl rfl)
theorem dX11_raises_27 : decode cX11_raises 27 = .ok (.iload_n 3, 1) := dk_29 (dk_at dksX11_raises_1 5 rfl rfl)
theorem dX11_raises_28 : decode cX11_raises 28 = .ok (.iload_n 1, 1) := dk_27 (dk_at dksX11_raises_1 6 rfl rfl)
theorem dX11_raises_29 : decode cX11_raises 29 = .ok (.if_icmp .ge 46, 3) := dk_162 0 46 (dk_at dksX11_raises_1 7 rfl rfl)
theorem dX11_raises_32 : decode cX11_raises 32 = .ok (.aload_n 0, 1) := dk_42 (dk_at dksX11_raises_1 10 rfl rfl)
theorem dX11_raises_33 : decode cX11_raises 33 = .ok (.bipush 45, 2) := dk_16 45 (dk_at dksX11_raises_1 11 rfl rfl)
theorem dX11_raises_35 : decode cX11_raises 35 = .ok (.iload_n 2, 1) := dk_28 (dk_at dksX11_raises_1 13 rfl rfl)
theorem dX11_raises_36 : decode cX11_raises 36 = .ok (.aload_n 0, 1) := dk_42 (dk_at dksX11_raises_1 14 rfl rfl)
theorem dX11_raises_37 : decode cX11_raises 37 = .ok (.invokevirtual 76, 3) := dk_182 0 76 (dk_at dksX11_raises_1 15 rfl rfl)
theorem dX11_raises_40 : decode cX11_raises 40 = .ok (.if_icmp .ge 7, 3) := dk_162 0 7 (dk_at dksX11_raises_1 18 rfl rfl)
theorem dX11_raises_43 : decode cX11_raises 43 = .ok (.iconst 1, 1) := dk_4 (dk_at dksX11_raises_1 21 rfl rfl)
theorem dX11_raises_44 : decode cX11_raises 44 = .ok (.goto 4, 3) := dk_167 0 4 (dk_at dksX11_raises_2 0 rfl rfl)
theorem dX11_raises_47 : decode cX11_raises 47 = .ok (.iconst 0, 1) := dk_3 (dk_at dksX11_raises_2 3 rfl rfl)
theorem dX11_raises_48 : decode cX11_raises 48 = .ok (.iload_n 2, 1) := dk_28 (dk_at dksX11_raises_2 4 rfl rfl)
theorem dX11_raises_49 : decode cX11_raises 49 = .ok (.aload_n 0, 1) := dk_42 (dk_at dksX11_raises_2 5 rfl rfl)
theorem dX11_raises_50 : decode cX11_raises 50 = .ok (.invokevirtual 76, 3) := dk_182 0 76 (dk_at dksX11_raises_2 6 rfl rfl)
theorem dX11_raises_53 : decode cX11_raises 53 = .ok (.if_icmp .ge 12, 3) := dk_162 0 12 (dk_at dksX11_raises_2 9 rfl rfl)
theorem dX11_raises_56 : decode cX11_raises 56 = .ok (.aload_n 0, 1) := dk_42 (dk_at dksX11_raises_2 12 rfl rfl)
theorem dX11_raises_57 : decode cX11_raises 57 = .ok (.iconst 0, 1) := dk_3 (dk_at dksX11_raises_2 13 rfl rfl)
theorem dX11_raises_58 : decode cX11_raises 58 = .ok (.iload_n 2, 1) := dk_28 (dk_at dksX11_raises_2 14 rfl rfl)
theorem dX11_raises_59 : decode cX11_raises 59 = .ok (.invokevirtual 149, 3) := dk_182 0 149 (dk_at dksX11_raises_2 15 rfl rfl)
theorem dX11_raises_62 : decode cX11_raises 62 = .ok (.goto 4, 3) := dk_167 0 4 (dk_at dksX11_raises_2 18 rfl rfl)
theorem dX11_raises_65 : decode cX11_raises 65 = .ok (.iconst 1, 1) := dk_4 (dk_at dksX11_raises_2 21 rfl rfl)
theorem dX11_raises_66 : decode cX11_raises 66 = .ok (.invokevirtual 152, 3) := dk_182 0 152 (dk_at dksX11_raises_3 0 rfl rfl)
theorem dX11_raises_69 : decode cX11_raises 69 = .ok (.iinc 3 1, 3) := dk_132 3 1 (dk_at dksX11_raises_3 3 rfl rfl)
theorem dX11_raises_72 : decode cX11_raises 72 = .ok (.goto (-45), 3) := dk_167 255 211 (dk_at dksX11_raises_3 6 rfl rfl)
theorem dX11_raises_75 : decode cX11_raises 75 = .ok (.iconst 0, 1) := dk_3 (dk_at dksX11_raises_3 9 rfl rfl)
theorem dX11_raises_76 : decode cX11_raises 76 = .ok (.istore_n 3, 1) := dk_62 (dk_at dksX11_raises_3 10 rfl rfl)
theorem dX11_raises_77 : decode cX11_raises 77 = .ok (.iload_n 3, 1) := dk_29 (dk_at dksX11_raises_3 11 rfl rfl)
theorem dX11_raises_78 : decode cX11_raises 78 = .ok (.iload_n 1, 1) := dk_27 (dk_at dksX11_raises_3 12 rfl rfl)
theorem dX11_raises_79 : decode cX11_raises 79 = .ok (.if_icmp .gt 27, 3) := dk_163 0 27 (dk_at dksX11_raises_3 13 rfl rfl)
theorem dX11_raises_82 : decode cX11_raises 82 = .ok (.aload_n 0, 1) := dk_42 (dk_at dksX11_raises_3 16 rfl rfl)
theorem dX11_raises_83 : decode cX11_raises 83 = .ok (.getfield 52, 3) := dk_180 0 52 (dk_at dksX11_raises_3 17 rfl rfl)
theorem dX11_raises_86 : decode cX11_raises 86 = .ok (.bipush 9, 2) := dk_16 9 (dk_at dksX11_raises_3 20 rfl rfl)
theorem dX11_raises_88 : decode cX11_raises 88 = .ok (.iload_n 2, 1) := dk_28 (dk_at dksX11_raises_3 22 rfl rfl)
theorem dX11_raises_89 : decode cX11_raises 89 = .ok (.imul, 1) := dk_104 (dk_at dksX11_raises_3 23 rfl rfl)
theorem dX11_raises_90 : decode cX11_raises 90 = .ok (.iload_n 3, 1) := dk_29 (dk_at dksX11_raises_4 0 rfl rfl)
theorem dX11_raises_91 : decode cX11_raises 91 = .ok (.iadd, 1) := dk_96 (dk_at dksX11_raises_4 1 rfl rfl)
theorem dX11_raises_92 : decode cX11_raises 92 = .ok (.aload_n 0, 1) := dk_42 (dk_at dksX11_raises_4 2 rfl rfl)
theorem dX11_raises_93 : decode cX11_raises 93 = .ok (.bipush 45, 2) := dk_16 45 (dk_at dksX11_raises_4 3 rfl rfl)
theorem dX11_raises_95 : decode cX11_raises 95 = .ok (.iload_n 3, 1) := dk_29 (dk_at dksX11_raises_4 5 rfl rfl)
theorem dX11_raises_96 : decode cX11_raises 96 = .ok (.invokevirtual 103, 3) := dk_182 0 103 (dk_at dksX11_raises_4 6 rfl rfl)
theorem dX11_raises_99 : decode cX11_raises 99 = .ok (.iastore, 1) := dk_79 (dk_at dksX11_raises_4 9 rfl rfl)
theorem dX11_raises_100 : decode cX11_raises 100 = .ok (.iinc 3 1, 3) := dk_132 3 1 (dk_at dksX11_raises_4 10 rfl rfl)
theorem dX11_raises_103 : decode cX11_raises 103 = .ok (.goto (-26), 3) := dk_167 255 230 (dk_at dksX11_raises_4 13 rfl rfl)
theorem dX11_raises_106 : decode cX11_raises 106 = .ok (.iinc 2 1, 3) := dk_132 2 1 (dk_at dksX11_raises_4 16 rfl rfl)
theorem dX11_raises_109 : decode cX11_raises 109 = .ok (.goto (-107), 3) := dk_167 255 149 (dk_at dksX11_raises_4 19 rfl rfl)
theorem dX11_raises_112 : decode cX11_raises 112 = .ok (.return_, 1) := dk_177 (dk_at dksX11_raises_4 22 rfl rfl)
abbrev cX11_isSum : ByteArray := prog_18_method_107_code
def yX11_isSum : MethodName := ⟨RX11, "isSum", "(I)Z"⟩
def dkwX11_isSum_5 : List UInt8 := [167, 255, 141, 3, 172]
abbrev dktX11_isSum_5 : List UInt8 := dkwX11_isSum_5 ++ []
def dkwX11_isSum_4 : List UInt8 := [182, 1, 95, 153, 0, 5, 4, 172, 132, 4, 1, 167, 255, 222, 132, 3, 1, 167, 255, 181, 132, 2, 1]
abbrev dktX11_isSum_4 : List UInt8 := dkwX11_isSum_4 ++ dktX11_isSum_5
def dkwX11_isSum_3 : List UInt8 := [21, 4, 42, 182, 0, 76, 163, 0, 31, 27, 6, 160, 0, 26, 42, 180, 0, 55, 5, 21, 4, 79, 42]
abbrev dktX11_isSum_3 : List UInt8 := dkwX11_isSum_3 ++ dktX11_isSum_4
def dkwX11_isSum_2 : List UInt8 := [4, 29, 79, 27, 5, 160, 0, 13, 42, 4, 182, 1, 92, 153, 0, 5, 4, 172, 29, 4, 96, 54, 4]
abbrev dktX11_isSum_2 : List UInt8 := dkwX11_isSum_2 ++ dktX11_isSum_3
def dkwX11_isSum_1 : List UInt8 := [182, 1, 89, 153, 0, 87, 4, 172, 28, 4, 96, 62, 29, 42, 182, 0, 76, 163, 0, 73, 42, 180, 0, 55]
abbrev dktX11_isSum_1 : List UInt8 := dkwX11_isSum_1 ++ dktX11_isSum_2
def dkwX11_isSum_0 : List UInt8 := [3, 61, 28, 42, 182, 0, 76, 163, 0, 113, 42, 180, 0, 55, 3, 28, 79, 27, 4, 160, 0, 13, 42, 3]
abbrev dktX11_isSum_0 : List UInt8 := dkwX11_isSum_0 ++ dktX11_isSum_1
theorem dksX11_isSum_0 : cX11_isSum.data.toList.drop 0 = dktX11_isSum_0 := by decide +kernel
theorem dksX11_isSum_1 : cX11_isSum.data.toList.drop 24 = dktX11_isSum_1 := dk_seg dksX11_isSum_0 24 rfl rfl
theorem dksX11_isSum_2 : cX11_isSum.data.toList.drop 48 = dktX11_isSum_2 := dk_seg dksX11_isSum_1 24 rfl rfl
theorem dksX11_isSum_3 : cX11_isSum.data.toList.drop 71 = dktX11_isSum_3 := dk_seg dksX11_isSum_2 23 rfl rfl
theorem dksX11_isSum_4 : cX11_isSum.data.toList.drop 94 = dktX11_isSum_4 := dk_seg dksX11_isSum_3 23 rfl rfl
theorem dksX11_isSum_5 : cX11_isSum.data.toList.drop 117 = dktX11_isSum_5 := dk_seg dksX11_isSum_4 23 rfl rfl
theorem dX11_isSum_0 : decode cX11_isSum 0 = .ok (.iconst 0, 1) := dk_3 (dk_at dksX11_isSum_0 0 rfl rfl)
theorem dX11_isSum_1 : decode cX11_isSum 1 = .ok (.istore_n 2, 1) := dk_61 (dk_at dksX11_isSum_0 1 rfl rfl)
theorem dX11_isSum_2 : decode cX11_isSum 2 = .ok (.iload_n 2, 1) := dk_28 (dk_at dksX11_isSum_0 2 rfl rfl)
theorem dX11_isSum_3 : decode cX11_isSum 3 = .ok (.aload_n 0, 1) := dk_42 (dk_at dksX11_isSum_0 3 rfl rfl)
theorem dX11_isSum_4 : decode cX11_isSum 4 = .ok (.invokevirtual 76, 3) := dk_182 0 76 (dk_at dksX11_isSum_0 4 rfl rfl)
theorem dX11_isSum_7 : decode cX11_isSum 7 = .ok (.if_icmp .gt 113, 3) := dk_163 0 113 (dk_at dksX11_isSum_0 7 rfl rfl)
theorem dX11_isSum_10 : decode cX11_isSum 10 = .ok (.aload_n 0, 1) := dk_42 (dk_at dksX11_isSum_0 10 rfl rfl)
theorem dX11_isSum_11 : decode cX11_isSum 11 = .ok (.getfield 55, 3) := dk_180 0 55 (dk_at dksX11_isSum_0 11 rfl rfl)
theorem dX11_isSum_14 : decode cX11_isSum 14 = .ok (.iconst 0, 1) := dk_3 (dk_at dksX11_isSum_0 14 rfl rfl)
theorem dX11_isSum_15 : decode cX11_isSum 15 = .ok (.iload_n 2, 1) := dk_28 (dk_at dksX11_isSum_0 15 rfl rfl)
theorem dX11_isSum_16 : decode cX11_isSum 16 = .ok (.iastore, 1) := dk_79 (dk_at dksX11_isSum_0 16 rfl rfl)
theorem dX11_isSum_17 : decode cX11_isSum 17 = .ok (.iload_n 1, 1) := dk_27 (dk_at dksX11_isSum_0 17 rfl rfl)
theorem dX11_isSum_18 : decode cX11_isSum 18 = .ok (.iconst 1, 1) := dk_4 (dk_at dksX11_isSum_0 18 rfl rfl)
theorem dX11_isSum_19 : decode cX11_isSum 19 = .ok (.if_icmp .ne 13, 3) := dk_160 0 13 (dk_at dksX11_isSum_0 19 rfl rfl)
theorem dX11_isSum_22 : decode cX11_isSum 22 = .ok (.aload_n 0, 1) := dk_42 (dk_at dksX11_isSum_0 22 rfl rfl)
theorem dX11_isSum_23 : decode cX11_isSum 23 = .ok (.iconst 0, 1) := dk_3 (dk_at dksX11_isSum_0 23 rfl rfl)
theorem dX11_isSum_24 : decode cX11_isSum 24 = .ok (.invokevirtual 345, 3) := dk_182 1 89 (dk_at dksX11_isSum_1 0 rfl rfl)
theorem dX11_isSum_27 : decode cX11_isSum 27 = .ok (.ifCond .eq 87, 3) := dk_153 0 87 (dk_at dksX11_isSum_1 3 rfl rfl)
theorem dX11_isSum_30 : decode cX11_isSum 30 = .ok (.iconst 1, 1) := dk_4 (dk_at dksX11_isSum_1 6 rfl rfl)
theorem dX11_isSum_31 : decode cX11_isSum 31 = .ok (.ireturn, 1) := dk_172 (dk_at dksX11_isSum_1 7 rfl rfl)
theorem dX11_isSum_32 : decode cX11_isSum 32 = .ok (.iload_n 2, 1) := dk_28 (dk_at dksX11_isSum_1 8 rfl rfl)
theorem dX11_isSum_33 : decode cX11_isSum 33 = .ok (.iconst 1, 1) := dk_4 (dk_at dksX11_isSum_1 9 rfl rfl)
theorem dX11_isSum_34 : decode cX11_isSum 34 = .ok (.iadd, 1) := dk_96 (dk_at dksX11_isSum_1 10 rfl rfl)
theorem dX11_isSum_35 : decode cX11_isSum 35 = .ok (.istore_n 3, 1) := dk_62 (dk_at dksX11_isSum_1 11 rfl rfl)
theorem dX11_isSum_36 : decode cX11_isSum 36 = .ok (.iload_n 3, 1) := dk_29 (dk_at dksX11_isSum_1 12 rfl rfl)
theorem dX11_isSum_37 : decode cX11_isSum 37 = .ok (.aload_n 0, 1) := dk_42 (dk_at dksX11_isSum_1 13 rfl rfl)
theorem dX11_isSum_38 : decode cX11_isSum 38 = .ok (.invokevirtual 76, 3) := dk_182 0 76 (dk_at dksX11_isSum_1 14 rfl rfl)
theorem dX11_isSum_41 : decode cX11_isSum 41 = .ok (.if_icmp .gt 73, 3) := dk_163 0 73 (dk_at dksX11_isSum_1 17 rfl rfl)
theorem dX11_isSum_44 : decode cX11_isSum 44 = .ok (.aload_n 0, 1) := dk_42 (dk_at dksX11_isSum_1 20 rfl rfl)
theorem dX11_isSum_45 : decode cX11_isSum 45 = .ok (.getfield 55, 3) := dk_180 0 55 (dk_at dksX11_isSum_1 21 rfl rfl)
theorem dX11_isSum_48 : decode cX11_isSum 48 = .ok (.iconst 1, 1) := dk_4 (dk_at dksX11_isSum_2 0 rfl rfl)
theorem dX11_isSum_49 : decode cX11_isSum 49 = .ok (.iload_n 3, 1) := dk_29 (dk_at dksX11_isSum_2 1 rfl rfl)
theorem dX11_isSum_50 : decode cX11_isSum 50 = .ok (.iastore, 1) := dk_79 (dk_at dksX11_isSum_2 2 rfl rfl)
theorem dX11_isSum_51 : decode cX11_isSum 51 = .ok (.iload_n 1, 1) := dk_27 (dk_at dksX11_isSum_2 3 rfl rfl)
theorem dX11_isSum_52 : decode cX11_isSum 52 = .ok (.iconst 2, 1) := dk_5 (dk_at dksX11_isSum_2 4 rfl rfl)
theorem dX11_isSum_53 : decode cX11_isSum 53 = .ok (.if_icmp .ne 13, 3) := dk_160 0 13 (dk_at dksX11_isSum_2 5 rfl rfl)
theorem dX11_isSum_56 : decode cX11_isSum 56 = .ok (.aload_n 0, 1) := dk_42 (dk_at dksX11_isSum_2 8 rfl rfl)
theorem dX11_isSum_57 : decode cX11_isSum 57 = .ok (.iconst 1, 1) := dk_4 (dk_at dksX11_isSum_2 9 rfl rfl)
theorem dX11_isSum_58 : decode cX11_isSum 58 = .ok (.invokevirtual 348, 3) := dk_182 1 92 (dk_at dksX11_isSum_2 10 rfl rfl)
theorem dX11_isSum_61 : decode cX11_isSum 61 = .ok (.ifCond .eq 5, 3) := dk_153 0 5 (dk_at dksX11_isSum_2 13 rfl rfl)
theorem dX11_isSum_64 : decode cX11_isSum 64 = .ok (.iconst 1, 1) := dk_4 (dk_at dksX11_isSum_2 16 rfl rfl)
theorem dX11_isSum_65 : decode cX11_isSum 65 = .ok (.ireturn, 1) := dk_172 (dk_at dksX11_isSum_2 17 rfl rfl)
theorem dX11_isSum_66 : decode cX11_isSum 66 = .ok (.iload_n 3, 1) := dk_29 (dk_at dksX11_isSum_2 18 rfl rfl)
theorem dX11_isSum_67 : decode cX11_isSum 67 = .ok (.iconst 1, 1) := dk_4 (dk_at dksX11_isSum_2 19 rfl rfl)
theorem dX11_isSum_68 : decode cX11_isSum 68 = .ok (.iadd, 1) := dk_96 (dk_at dksX11_isSum_2 20 rfl rfl)
theorem dX11_isSum_69 : decode cX11_isSum 69 = .ok (.istore 4, 2) := dk_54 4 (dk_at dksX11_isSum_2 21 rfl rfl)
theorem dX11_isSum_71 : decode cX11_isSum 71 = .ok (.iload 4, 2) := dk_21 4 (dk_at dksX11_isSum_3 0 rfl rfl)
theorem dX11_isSum_73 : decode cX11_isSum 73 = .ok (.aload_n 0, 1) := dk_42 (dk_at dksX11_isSum_3 2 rfl rfl)
theorem dX11_isSum_74 : decode cX11_isSum 74 = .ok (.invokevirtual 76, 3) := dk_182 0 76 (dk_at dksX11_isSum_3 3 rfl rfl)
theorem dX11_isSum_77 : decode cX11_isSum 77 = .ok (.if_icmp .gt 31, 3) := dk_163 0 31 (dk_at dksX11_isSum_3 6 rfl rfl)
theorem dX11_isSum_80 : decode cX11_isSum 80 = .ok (.iload_n 1, 1) := dk_27 (dk_at dksX11_isSum_3 9 rfl rfl)
theorem dX11_isSum_81 : decode cX11_isSum 81 = .ok (.iconst 3, 1) := dk_6 (dk_at dksX11_isSum_3 10 rfl rfl)
theorem dX11_isSum_82 : decode cX11_isSum 82 = .ok (.if_icmp .ne 26, 3) := dk_160 0 26 (dk_at dksX11_isSum_3 11 rfl rfl)
theorem dX11_isSum_85 : decode cX11_isSum 85 = .ok (.aload_n 0, 1) := dk_42 (dk_at dksX11_isSum_3 14 rfl rfl)
theorem dX11_isSum_86 : decode cX11_isSum 86 = .ok (.getfield 55, 3) := dk_180 0 55 (dk_at dksX11_isSum_3 15 rfl rfl)
theorem dX11_isSum_89 : decode cX11_isSum 89 = .ok (.iconst 2, 1) := dk_5 (dk_at dksX11_isSum_3 18 rfl rfl)
theorem dX11_isSum_90 : decode cX11_isSum 90 = .ok (.iload 4, 2) := dk_21 4 (dk_at dksX11_isSum_3 19 rfl rfl)
theorem dX11_isSum_92 : decode cX11_isSum 92 = .ok (.iastore, 1) := dk_79 (dk_at dksX11_isSum_3 21 rfl rfl)
theorem dX11_isSum_93 : decode cX11_isSum 93 = .ok (.aload_n 0, 1) := dk_42 (dk_at dksX11_isSum_3 22 rfl rfl)
theorem dX11_isSum_94 : decode cX11_isSum 94 = .ok (.invokevirtual 351, 3) := dk_182 1 95 (dk_at dksX11_isSum_4 0 rfl rfl)
theorem dX11_isSum_97 : decode cX11_isSum 97 = .ok (.ifCond .eq 5, 3) := dk_153 0 5 (dk_at dksX11_isSum_4 3 rfl rfl)
theorem dX11_isSum_100 : decode cX11_isSum 100 = .ok (.iconst 1, 1) := dk_4 (dk_at dksX11_isSum_4 6 rfl rfl)
theorem dX11_isSum_101 : decode cX11_isSum 101 = .ok (.ireturn, 1) := dk_172 (dk_at dksX11_isSum_4 7 rfl rfl)
theorem dX11_isSum_102 : decode cX11_isSum 102 = .ok (.iinc 4 1, 3) := dk_132 4 1 (dk_at dksX11_isSum_4 8 rfl rfl)
theorem dX11_isSum_105 : decode cX11_isSum 105 = .ok (.goto (-34), 3) := dk_167 255 222 (dk_at dksX11_isSum_4 11 rfl rfl)
theorem dX11_isSum_108 : decode cX11_isSum 108 = .ok (.iinc 3 1, 3) := dk_132 3 1 (dk_at dksX11_isSum_4 14 rfl rfl)
theorem dX11_isSum_111 : decode cX11_isSum 111 = .ok (.goto (-75), 3) := dk_167 255 181 (dk_at dksX11_isSum_4 17 rfl rfl)
theorem dX11_isSum_114 : decode cX11_isSum 114 = .ok (.iinc 2 1, 3) := dk_132 2 1 (dk_at dksX11_isSum_4 20 rfl rfl)
theorem dX11_isSum_117 : decode cX11_isSum 117 = .ok (.goto (-115), 3) := dk_167 255 141 (dk_at dksX11_isSum_5 0 rfl rfl)
theorem dX11_isSum_120 : decode cX11_isSum 120 = .ok (.iconst 0, 1) := dk_3 (dk_at dksX11_isSum_5 3 rfl rfl)
theorem dX11_isSum_121 : decode cX11_isSum 121 = .ok (.ireturn, 1) := dk_172 (dk_at dksX11_isSum_5 4 rfl rfl)
abbrev cX11_isLast : ByteArray := prog_18_method_106_code
def yX11_isLast : MethodName := ⟨RX11, "isLast", "(I)Z"⟩
def dkwX11_isLast_8 : List UInt8 := [167, 0, 4, 3, 54, 4, 132, 5, 1, 167, 255, 206, 21, 4, 172]
abbrev dktX11_isLast_8 : List UInt8 := dkwX11_isLast_8 ++ []
def dkwX11_isLast_7 : List UInt8 := [16, 42, 21, 5, 182, 0, 103, 42, 29, 42, 28, 21, 5, 182, 1, 86, 182, 0, 86, 160, 0, 7, 4]
abbrev dktX11_isLast_7 : List UInt8 := dkwX11_isLast_7 ++ dktX11_isLast_8
def dkwX11_isLast_6 : List UInt8 := [54, 4, 3, 54, 5, 21, 5, 42, 180, 0, 20, 16, 42, 46, 163, 0, 44, 21, 4, 153, 0, 39, 42]
abbrev dktX11_isLast_6 : List UInt8 := dkwX11_isLast_6 ++ dktX11_isLast_7
def dkwX11_isLast_5 : List UInt8 := [16, 42, 46, 182, 0, 103, 62, 42, 180, 0, 58, 27, 29, 79, 29, 153, 0, 7, 4, 167, 0, 4, 3]
abbrev dktX11_isLast_5 : List UInt8 := dkwX11_isLast_5 ++ dktX11_isLast_6
def dkwX11_isLast_4 : List UInt8 := [182, 0, 76, 162, 0, 13, 42, 16, 42, 3, 182, 0, 103, 167, 0, 16, 42, 16, 42, 42, 180, 0, 20]
abbrev dktX11_isLast_4 : List UInt8 := dkwX11_isLast_4 ++ dktX11_isLast_5
def dkwX11_isLast_3 : List UInt8 := [182, 0, 86, 182, 0, 149, 182, 0, 99, 132, 4, 1, 167, 255, 199, 132, 3, 1, 167, 255, 185, 28, 42]
abbrev dktX11_isLast_3 : List UInt8 := dkwX11_isLast_3 ++ dktX11_isLast_4
def dkwX11_isLast_2 : List UInt8 := [21, 4, 182, 0, 103, 42, 42, 180, 0, 58, 29, 46, 42, 42, 180, 0, 55, 29, 46, 21, 4, 182, 1, 86]
abbrev dktX11_isLast_2 : List UInt8 := dkwX11_isLast_2 ++ dktX11_isLast_3
def dkwX11_isLast_1 : List UInt8 := [54, 4, 21, 4, 42, 180, 0, 20, 16, 42, 46, 163, 0, 51, 42, 16, 42, 21, 4, 42, 42, 16, 42]
abbrev dktX11_isLast_1 : List UInt8 := dkwX11_isLast_1 ++ dktX11_isLast_2
def dkwX11_isLast_0 : List UInt8 := [42, 180, 0, 55, 27, 46, 61, 42, 16, 40, 16, 42, 182, 1, 11, 3, 62, 29, 27, 162, 0, 72, 3]
abbrev dktX11_isLast_0 : List UInt8 := dkwX11_isLast_0 ++ dktX11_isLast_1
theorem dksX11_isLast_0 : cX11_isLast.data.toList.drop 0 = dktX11_isLast_0 := by decide +kernel
theorem dksX11_isLast_1 : cX11_isLast.data.toList.drop 23 = dktX11_isLast_1 := dk_seg dksX11_isLast_0 23 rfl rfl
theorem dksX11_isLast_2 : cX11_isLast.data.toList.drop 46 = dktX11_isLast_2 := dk_seg dksX11_isLast_1 23 rfl rfl
theorem dksX11_isLast_3 : cX11_isLast.data.toList.drop 70 = dktX11_isLast_3 := dk_seg dksX11_isLast_2 24 rfl rfl
theorem dksX11_isLast_4 : cX11_isLast.data.toList.drop 93 = dktX11_isLast_4 := dk_seg dksX11_isLast_3 23 rfl rfl
theorem dksX11_isLast_5 : cX11_isLast.data.toList.drop 116 = dktX11_isLast_5 := dk_seg dksX11_isLast_4 23 rfl rfl
theorem dksX11_isLast_6 : cX11_isLast.data.toList.drop 139 = dktX11_isLast_6 := dk_seg dksX11_isLast_5 23 rfl rfl
theorem dksX11_isLast_7 : cX11_isLast.data.toList.drop 162 = dktX11_isLast_7 := dk_seg dksX11_isLast_6 23 rfl rfl
theorem dksX11_isLast_8 : cX11_isLast.data.toList.drop 185 = dktX11_isLast_8 := dk_seg dksX11_isLast_7 23 rfl rfl
theorem dX11_isLast_0 : decode cX11_isLast 0 = .ok (.aload_n 0, 1) := dk_42 (dk_at dksX11_isLast_0 0 rfl rfl)
theorem dX11_isLast_1 : decode cX11_isLast 1 = .ok (.getfield 55, 3) := dk_180 0 55 (dk_at dksX11_isLast_0 1 rfl rfl)
theorem dX11_isLast_4 : decode cX11_isLast 4 = .ok (.iload_n 1, 1) := dk_27 (dk_at dksX11_isLast_0 4 rfl rfl)
theorem dX11_isLast_5 : decode cX11_isLast 5 = .ok (.iaload, 1) := dk_46 (dk_at dksX11_isLast_0 5 rfl rfl)
theorem dX11_isLast_6 : decode cX11_isLast 6 = .ok (.istore_n 2, 1) := dk_61 (dk_at dksX11_isLast_0 6 rfl rfl)
theorem dX11_isLast_7 : decode cX11_isLast 7 = .ok (.aload_n 0, 1) := dk_42 (dk_at dksX11_isLast_0 7 rfl rfl)
theorem dX11_isLast_8 : decode cX11_isLast 8 = .ok (.bipush 40, 2) := dk_16 40 (dk_at dksX11_isLast_0 8 rfl rfl)
theorem dX11_isLast_10 : decode cX11_isLast 10 = .ok (.bipush 42, 2) := dk_16 42 (dk_at dksX11_isLast_0 10 rfl rfl)
theorem dX11_isLast_12 : decode cX11_isLast 12 = .ok (.invokevirtual 267, 3) := dk_182 1 11 (dk_at dksX11_isLast_0 12 rfl rfl)
theorem dX11_isLast_15 : decode cX11_isLast 15 = .ok (.iconst 0, 1) := dk_3 (dk_at dksX11_isLast_0 15 rfl rfl)
theorem dX11_isLast_16 : decode cX11_isLast 16 = .ok (.istore_n 3, 1) := dk_62 (dk_at dksX11_isLast_0 16 rfl rfl)
theorem dX11_isLast_17 : decode cX11_isLast 17 = .ok (.iload_n 3, 1) := dk_29 (dk_at dksX11_isLast_0 17 rfl rfl)
theorem dX11_isLast_18 : decode cX11_isLast 18 = .ok (.iload_n 1, 1) := dk_27 (dk_at dksX11_isLast_0 18 rfl rfl)
theorem dX11_isLast_19 : decode cX11_isLast 19 = .ok (.if_icmp .ge 72, 3) := dk_162 0 72 (dk_at dksX11_isLast_0 19 rfl rfl)
theorem dX11_isLast_22 : decode cX11_isLast 22 = .ok (.iconst 0, 1) := dk_3 (dk_at dksX11_isLast_0 22 rfl rfl)
theorem dX11_isLast_23 : decode cX11_isLast 23 = .ok (.istore 4, 2) := dk_54 4 (dk_at dksX11_isLast_1 0 rfl rfl)
theorem dX11_isLast_25 : decode cX11_isLast 25 = .ok (.iload 4, 2) := dk_21 4 (dk_at dksX11_isLast_1 2 rfl rfl)
theorem dX11_isLast_27 : decode cX11_isLast 27 = .ok (.aload_n 0, 1) := dk_42 (dk_at dksX11_isLast_1 4 rfl rfl)
theorem dX11_isLast_28 : decode cX11_isLast 28 = .ok (.getfield 20, 3) := dk_180 0 20 (dk_at dksX11_isLast_1 5 rfl rfl)
theorem dX11_isLast_31 : decode cX11_isLast 31 = .ok (.bipush 42, 2) := dk_16 42 (dk_at dksX11_isLast_1 8 rfl rfl)
theorem dX11_isLast_33 : decode cX11_isLast 33 = .ok (.iaload, 1) := dk_46 (dk_at dksX11_isLast_1 10 rfl rfl)
theorem dX11_isLast_34 : decode cX11_isLast 34 = .ok (.if_icmp .gt 51, 3) := dk_163 0 51 (dk_at dksX11_isLast_1 11 rfl rfl)
theorem dX11_isLast_37 : decode cX11_isLast 37 = .ok (.aload_n 0, 1) := dk_42 (dk_at dksX11_isLast_1 14 rfl rfl)
theorem dX11_isLast_38 : decode cX11_isLast 38 = .ok (.bipush 42, 2) := dk_16 42 (dk_at dksX11_isLast_1 15 rfl rfl)
theorem dX11_isLast_40 : decode cX11_isLast 40 = .ok (.iload 4, 2) := dk_21 4 (dk_at dksX11_isLast_1 17 rfl rfl)
theorem dX11_isLast_42 : decode cX11_isLast 42 = .ok (.aload_n 0, 1) := dk_42 (dk_at dksX11_isLast_1 19 rfl rfl)
theorem dX11_isLast_43 : decode cX11_isLast 43 = .ok (.aload_n 0, 1) := dk_42 (dk_at dksX11_isLast_1 20 rfl rfl)
theorem dX11_isLast_44 : decode cX11_isLast 44 = .ok (.bipush 42, 2) := dk_16 42 (dk_at dksX11_isLast_1 21 rfl rfl)
theorem dX11_isLast_46 : decode cX11_isLast 46 = .ok (.iload 4, 2) := dk_21 4 (dk_at dksX11_isLast_2 0 rfl rfl)
theorem dX11_isLast_48 : decode cX11_isLast 48 = .ok (.invokevirtual 103, 3) := dk_182 0 103 (dk_at dksX11_isLast_2 2 rfl rfl)
theorem dX11_isLast_51 : decode cX11_isLast 51 = .ok (.aload_n 0, 1) := dk_42 (dk_at dksX11_isLast_2 5 rfl rfl)
theorem dX11_isLast_52 : decode cX11_isLast 52 = .ok (.aload_n 0, 1) := dk_42 (dk_at dksX11_isLast_2 6 rfl rfl)
theorem dX11_isLast_53 : decode cX11_isLast 53 = .ok (.getfield 58, 3) := dk_180 0 58 (dk_at dksX11_isLast_2 7 rfl rfl)
theorem dX11_isLast_56 : decode cX11_isLast 56 = .ok (.iload_n 3, 1) := dk_29 (dk_at dksX11_isLast_2 10 rfl rfl)
theorem dX11_isLast_57 : decode cX11_isLast 57 = .ok (.iaload, 1) := dk_46 (dk_at dksX11_isLast_2 11 rfl rfl)
theorem dX11_isLast_58 : decode cX11_isLast 58 = .ok (.aload_n 0, 1) := dk_42 (dk_at dksX11_isLast_2 12 rfl rfl)
theorem dX11_isLast_59 : decode cX11_isLast 59 = .ok (.aload_n 0, 1) := dk_42 (dk_at dksX11_isLast_2 13 rfl rfl)
theorem dX11_isLast_60 : decode cX11_isLast 60 = .ok (.getfield 55, 3) := dk_180 0 55 (dk_at dksX11_isLast_2 14 rfl rfl)
theorem dX11_isLast_63 : decode cX11_isLast 63 = .ok (.iload_n 3, 1) := dk_29 (dk_at dksX11_isLast_2 17 rfl rfl)
theorem dX11_isLast_64 : decode cX11_isLast 64 = .ok (.iaload, 1) := dk_46 (dk_at dksX11_isLast_2 18 rfl rfl)
theorem dX11_isLast_65 : decode cX11_isLast 65 = .ok (.iload 4, 2) := dk_21 4 (dk_at dksX11_isLast_2 19 rfl rfl)
theorem dX11_isLast_67 : decode cX11_isLast 67 = .ok (.invokevirtual 342, 3) := dk_182 1 86 (dk_at dksX11_isLast_2 21 rfl rfl)
theorem dX11_isLast_70 : decode cX11_isLast 70 = .ok (.invokevirtual 86, 3) := dk_182 0 86 (dk_at dksX11_isLast_3 0 rfl rfl)
theorem dX11_isLast_73 : decode cX11_isLast 73 = .ok (.invokevirtual 149, 3) := dk_182 0 149 (dk_at dksX11_isLast_3 3 rfl rfl)
theorem dX11_isLast_76 : decode cX11_isLast 76 = .ok (.invokevirtual 99, 3) := dk_182 0 99 (dk_at dksX11_isLast_3 6 rfl rfl)
theorem dX11_isLast_79 : decode cX11_isLast 79 = .ok (.iinc 4 1, 3) := dk_132 4 1 (dk_at dksX11_isLast_3 9 rfl rfl)
theorem dX11_isLast_82 : decode cX11_isLast 82 = .ok (.goto (-57), 3) := dk_167 255 199 (dk_at dksX11_isLast_3 12 rfl rfl)
theorem dX11_isLast_85 : decode cX11_isLast 85 = .ok (.iinc 3 1, 3) := dk_132 3 1 (dk_at dksX11_isLast_3 15 rfl rfl)
theorem dX11_isLast_88 : decode cX11_isLast 88 = .ok (.goto (-71), 3) := dk_167 255 185 (dk_at dksX11_isLast_3 18 rfl rfl)
theorem dX11_isLast_91 : decode cX11_isLast 91 = .ok (.iload_n 2, 1) := dk_28 (dk_at dksX11_isLast_3 21 rfl rfl)
theorem dX11_isLast_92 : decode cX11_isLast 92 = .ok (.aload_n 0, 1) := dk_42 (dk_at dksX11_isLast_3 22 rfl rfl)
theorem dX11_isLast_93 : decode cX11_isLast 93 = .ok (.invokevirtual 76, 3) := dk_182 0 76 (dk_at dksX11_isLast_4 0 rfl rfl)
theorem dX11_isLast_96 : decode cX11_isLast 96 = .ok (.if_icmp .ge 13, 3) := dk_162 0 13 (dk_at dksX11_isLast_4 3 rfl rfl)
theorem dX11_isLast_99 : decode cX11_isLast 99 = .ok (.aload_n 0, 1) := dk_42 (dk_at dksX11_isLast_4 6 rfl rfl)
theorem dX11_isLast_100 : decode cX11_isLast 100 = .ok (.bipush 42, 2) := dk_16 42 (dk_at dksX11_isLast_4 7 rfl rfl)
theorem dX11_isLast_102 : decode cX11_isLast 102 = .ok (.iconst 0, 1) := dk_3 (dk_at dksX11_isLast_4 9 rfl rfl)
theorem dX11_isLast_103 : decode cX11_isLast 103 = .ok (.invokevirtual 103, 3) := dk_182 0 103 (dk_at dksX11_isLast_4 10 rfl rfl)
theorem dX11_isLast_106 : decode cX11_isLast 106 = .ok (.goto 16, 3) := dk_167 0 16 (dk_at dksX11_isLast_4 13 rfl rfl)
theorem dX11_isLast_109 : decode cX11_isLast 109 = .ok (.aload_n 0, 1) := dk_42 (dk_at dksX11_isLast_4 16 rfl rfl)
theorem dX11_isLast_110 : decode cX11_isLast 110 = .ok (.bipush 42, 2) := dk_16 42 (dk_at dksX11_isLast_4 17 rfl rfl)
theorem dX11_isLast_112 : decode cX11_isLast 112 = .ok (.aload_n 0, 1) := dk_42 (dk_at dksX11_isLast_4 19 rfl rfl)
theorem dX11_isLast_113 : decode cX11_isLast 113 = .ok (.getfield 20, 3) := dk_180 0 20 (dk_at dksX11_isLast_4 20 rfl rfl)
theorem dX11_isLast_116 : decode cX11_isLast 116 = .ok (.bipush 42, 2) := dk_16 42 (dk_at dksX11_isLast_5 0 rfl rfl)
theorem dX11_isLast_118 : decode cX11_isLast 118 = .ok (.iaload, 1) := dk_46 (dk_at dksX11_isLast_5 2 rfl rfl)
theorem dX11_isLast_119 : decode cX11_isLast 119 = .ok (.invokevirtual 103, 3) := dk_182 0 103 (dk_at dksX11_isLast_5 3 rfl rfl)
theorem dX11_isLast_122 : decode cX11_isLast 122 = .ok (.istore_n 3, 1) := dk_62 (dk_at dksX11_isLast_5 6 rfl rfl)
theorem dX11_isLast_123 : decode cX11_isLast 123 = .ok (.aload_n 0, 1) := dk_42 (dk_at dksX11_isLast_5 7 rfl rfl)
theorem dX11_isLast_124 : decode cX11_isLast 124 = .ok (.getfield 58, 3) := dk_180 0 58 (dk_at dksX11_isLast_5 8 rfl rfl)
theorem dX11_isLast_127 : decode cX11_isLast 127 = .ok (.iload_n 1, 1) := dk_27 (dk_at dksX11_isLast_5 11 rfl rfl)
theorem dX11_isLast_128 : decode cX11_isLast 128 = .ok (.iload_n 3, 1) := dk_29 (dk_at dksX11_isLast_5 12 rfl rfl)
theorem dX11_isLast_129 : decode cX11_isLast 129 = .ok (.iastore, 1) := dk_79 (dk_at dksX11_isLast_5 13 rfl rfl)
theorem dX11_isLast_130 : decode cX11_isLast 130 = .ok (.iload_n 3, 1) := dk_29 (dk_at dksX11_isLast_5 14 rfl rfl)
theorem dX11_isLast_131 : decode cX11_isLast 131 = .ok (.ifCond .eq 7, 3) := dk_153 0 7 (dk_at dksX11_isLast_5 15 rfl rfl)
theorem dX11_isLast_134 : decode cX11_isLast 134 = .ok (.iconst 1, 1) := dk_4 (dk_at dksX11_isLast_5 18 rfl rfl)
theorem dX11_isLast_135 : decode cX11_isLast 135 = .ok (.goto 4, 3) := dk_167 0 4 (dk_at dksX11_isLast_5 19 rfl rfl)
theorem dX11_isLast_138 : decode cX11_isLast 138 = .ok (.iconst 0, 1) := dk_3 (dk_at dksX11_isLast_5 22 rfl rfl)
theorem dX11_isLast_139 : decode cX11_isLast 139 = .ok (.istore 4, 2) := dk_54 4 (dk_at dksX11_isLast_6 0 rfl rfl)
theorem dX11_isLast_141 : decode cX11_isLast 141 = .ok (.iconst 0, 1) := dk_3 (dk_at dksX11_isLast_6 2 rfl rfl)
theorem dX11_isLast_142 : decode cX11_isLast 142 = .ok (.istore 5, 2) := dk_54 5 (dk_at dksX11_isLast_6 3 rfl rfl)
theorem dX11_isLast_144 : decode cX11_isLast 144 = .ok (.iload 5, 2) := dk_21 5 (dk_at dksX11_isLast_6 5 rfl rfl)
theorem dX11_isLast_146 : decode cX11_isLast 146 = .ok (.aload_n 0, 1) := dk_42 (dk_at dksX11_isLast_6 7 rfl rfl)
theorem dX11_isLast_147 : decode cX11_isLast 147 = .ok (.getfield 20, 3) := dk_180 0 20 (dk_at dksX11_isLast_6 8 rfl rfl)
theorem dX11_isLast_150 : decode cX11_isLast 150 = .ok (.bipush 42, 2) := dk_16 42 (dk_at dksX11_isLast_6 11 rfl rfl)
theorem dX11_isLast_152 : decode cX11_isLast 152 = .ok (.iaload, 1) := dk_46 (dk_at dksX11_isLast_6 13 rfl rfl)
theorem dX11_isLast_153 : decode cX11_isLast 153 = .ok (.if_icmp .gt 44, 3) := dk_163 0 44 (dk_at dksX11_isLast_6 14 rfl rfl)
theorem dX11_isLast_156 : decode cX11_isLast 156 = .ok (.iload 4, 2) := dk_21 4 (dk_at dksX11_isLast_6 17 rfl rfl)
theorem dX11_isLast_158 : decode cX11_isLast 158 = .ok (.ifCond .eq 39, 3) := dk_153 0 39 (dk_at dksX11_isLast_6 19 rfl rfl)
theorem dX11_isLast_161 : decode cX11_isLast 161 = .ok (.aload_n 0, 1) := dk_42 (dk_at dksX11_isLast_6 22 rfl rfl)
theorem dX11_isLast_162 : decode cX11_isLast 162 = .ok (.bipush 42, 2) := dk_16 42 (dk_at dksX11_isLast_7 0 rfl rfl)
theorem dX11_isLast_164 : decode cX11_isLast 164 = .ok (.iload 5, 2) := dk_21 5 (dk_at dksX11_isLast_7 2 rfl rfl)
theorem dX11_isLast_166 : decode cX11_isLast 166 = .ok (.invokevirtual 103, 3) := dk_182 0 103 (dk_at dksX11_isLast_7 4 rfl rfl)
theorem dX11_isLast_169 : decode cX11_isLast 169 = .ok (.aload_n 0, 1) := dk_42 (dk_at dksX11_isLast_7 7 rfl rfl)
theorem dX11_isLast_170 : decode cX11_isLast 170 = .ok (.iload_n 3, 1) := dk_29 (dk_at dksX11_isLast_7 8 rfl rfl)
theorem dX11_isLast_171 : decode cX11_isLast 171 = .ok (.aload_n 0, 1) := dk_42 (dk_at dksX11_isLast_7 9 rfl rfl)
theorem dX11_isLast_172 : decode cX11_isLast 172 = .ok (.iload_n 2, 1) := dk_28 (dk_at dksX11_isLast_7 10 rfl rfl)
theorem dX11_isLast_173 : decode cX11_isLast 173 = .ok (.iload 5, 2) := dk_21 5 (dk_at dksX11_isLast_7 11 rfl rfl)
theorem dX11_isLast_175 : decode cX11_isLast 175 = .ok (.invokevirtual 342, 3) := dk_182 1 86 (dk_at dksX11_isLast_7 13 rfl rfl)
theorem dX11_isLast_178 : decode cX11_isLast 178 = .ok (.invokevirtual 86, 3) := dk_182 0 86 (dk_at dksX11_isLast_7 16 rfl rfl)
theorem dX11_isLast_181 : decode cX11_isLast 181 = .ok (.if_icmp .ne 7, 3) := dk_160 0 7 (dk_at dksX11_isLast_7 19 rfl rfl)
theorem dX11_isLast_184 : decode cX11_isLast 184 = .ok (.iconst 1, 1) := dk_4 (dk_at dksX11_isLast_7 22 rfl rfl)
theorem dX11_isLast_185 : decode cX11_isLast 185 = .ok (.goto 4, 3) := dk_167 0 4 (dk_at dksX11_isLast_8 0 rfl rfl)
theorem dX11_isLast_188 : decode cX11_isLast 188 = .ok (.iconst 0, 1) := dk_3 (dk_at dksX11_isLast_8 3 rfl rfl)
theorem dX11_isLast_189 : decode cX11_isLast 189 = .ok (.istore 4, 2) := dk_54 4 (dk_at dksX11_isLast_8 4 rfl rfl)
theorem dX11_isLast_191 : decode cX11_isLast 191 = .ok (.iinc 5 1, 3) := dk_132 5 1 (dk_at dksX11_isLast_8 6 rfl rfl)
theorem dX11_isLast_194 : decode cX11_isLast 194 = .ok (.goto (-50), 3) := dk_167 255 206 (dk_at dksX11_isLast_8 9 rfl rfl)
theorem dX11_isLast_197 : decode cX11_isLast 197 = .ok (.iload 4, 2) := dk_21 4 (dk_at dksX11_isLast_8 12 rfl rfl)
theorem dX11_isLast_199 : decode cX11_isLast 199 = .ok (.ireturn, 1) := dk_172 (dk_at dksX11_isLast_8 14 rfl rfl)
abbrev cX11_powerAt : ByteArray := prog_18_method_104_code
def yX11_powerAt : MethodName := ⟨RX11, "powerAt", "(II)I"⟩
def dkwX11_powerAt_0 : List UInt8 := [42, 180, 0, 52, 16, 9, 27, 104, 28, 96, 46, 172]
abbrev dktX11_powerAt_0 : List UInt8 := dkwX11_powerAt_0 ++ []
theorem dksX11_powerAt_0 : cX11_powerAt.data.toList.drop 0 = dktX11_powerAt_0 := by decide +kernel
theorem dX11_powerAt_0 : decode cX11_powerAt 0 = .ok (.aload_n 0, 1) := dk_42 (dk_at dksX11_powerAt_0 0 rfl rfl)
theorem dX11_powerAt_1 : decode cX11_powerAt 1 = .ok (.getfield 52, 3) := dk_180 0 52 (dk_at dksX11_powerAt_0 1 rfl rfl)
theorem dX11_powerAt_4 : decode cX11_powerAt 4 = .ok (.bipush 9, 2) := dk_16 9 (dk_at dksX11_powerAt_0 4 rfl rfl)
theorem dX11_powerAt_6 : decode cX11_powerAt 6 = .ok (.iload_n 1, 1) := dk_27 (dk_at dksX11_powerAt_0 6 rfl rfl)
theorem dX11_powerAt_7 : decode cX11_powerAt 7 = .ok (.imul, 1) := dk_104 (dk_at dksX11_powerAt_0 7 rfl rfl)
theorem dX11_powerAt_8 : decode cX11_powerAt 8 = .ok (.iload_n 2, 1) := dk_28 (dk_at dksX11_powerAt_0 8 rfl rfl)
theorem dX11_powerAt_9 : decode cX11_powerAt 9 = .ok (.iadd, 1) := dk_96 (dk_at dksX11_powerAt_0 9 rfl rfl)
theorem dX11_powerAt_10 : decode cX11_powerAt 10 = .ok (.iaload, 1) := dk_46 (dk_at dksX11_powerAt_0 10 rfl rfl)
theorem dX11_powerAt_11 : decode cX11_powerAt 11 = .ok (.ireturn, 1) := dk_172 (dk_at dksX11_powerAt_0 11 rfl rfl)
abbrev cX11_isPair : ByteArray := prog_18_method_108_code
def yX11_isPair : MethodName := ⟨RX11, "isPair", "(I)Z"⟩
def dkwX11_isPair_1 : List UInt8 := [153, 0, 5, 4, 172, 132, 2, 1, 167, 255, 226, 3, 172]
abbrev dktX11_isPair_1 : List UInt8 := dkwX11_isPair_1 ++ []
def dkwX11_isPair_0 : List UInt8 := [4, 61, 28, 42, 182, 0, 76, 162, 0, 28, 42, 180, 0, 58, 27, 4, 100, 28, 79, 42, 27, 182, 1, 89]
abbrev dktX11_isPair_0 : List UInt8 := dkwX11_isPair_0 ++ dktX11_isPair_1
theorem dksX11_isPair_0 : cX11_isPair.data.toList.drop 0 = dktX11_isPair_0 := by decide +kernel
theorem dksX11_isPair_1 : cX11_isPair.data.toList.drop 24 = dktX11_isPair_1 := dk_seg dksX11_isPair_0 24 rfl rfl
theorem dX11_isPair_0 : decode cX11_isPair 0 = .ok (.iconst 1, 1) := dk_4 (dk_at dksX11_isPair_0 0 rfl rfl)
theorem dX11_isPair_1 : decode cX11_isPair 1 = .ok (.istore_n 2, 1) := dk_61 (dk_at dksX11_isPair_0 1 rfl rfl)
theorem dX11_isPair_2 : decode cX11_isPair 2 = .ok (.iload_n 2, 1) := dk_28 (dk_at dksX11_isPair_0 2 rfl rfl)
theorem dX11_isPair_3 : decode cX11_isPair 3 = .ok (.aload_n 0, 1) := dk_42 (dk_at dksX11_isPair_0 3 rfl rfl)
theorem dX11_isPair_4 : decode cX11_isPair 4 = .ok (.invokevirtual 76, 3) := dk_182 0 76 (dk_at dksX11_isPair_0 4 rfl rfl)
theorem dX11_isPair_7 : decode cX11_isPair 7 = .ok (.if_icmp .ge 28, 3) := dk_162 0 28 (dk_at dksX11_isPair_0 7 rfl rfl)
theorem dX11_isPair_10 : decode cX11_isPair 10 = .ok (.aload_n 0, 1) := dk_42 (dk_at dksX11_isPair_0 10 rfl rfl)
theorem dX11_isPair_11 : decode cX11_isPair 11 = .ok (.getfield 58, 3) := dk_180 0 58 (dk_at dksX11_isPair_0 11 rfl rfl)
theorem dX11_isPair_14 : decode cX11_isPair 14 = .ok (.iload_n 1, 1) := dk_27 (dk_at dksX11_isPair_0 14 rfl rfl)
theorem dX11_isPair_15 : decode cX11_isPair 15 = .ok (.iconst 1, 1) := dk_4 (dk_at dksX11_isPair_0 15 rfl rfl)
theorem dX11_isPair_16 : decode cX11_isPair 16 = .ok (.isub, 1) := dk_100 (dk_at dksX11_isPair_0 16 rfl rfl)
theorem dX11_isPair_17 : decode cX11_isPair 17 = .ok (.iload_n 2, 1) := dk_28 (dk_at dksX11_isPair_0 17 rfl rfl)
theorem dX11_isPair_18 : decode cX11_isPair 18 = .ok (.iastore, 1) := dk_79 (dk_at dksX11_isPair_0 18 rfl rfl)
theorem dX11_isPair_19 : decode cX11_isPair 19 = .ok (.aload_n 0, 1) := dk_42 (dk_at dksX11_isPair_0 19 rfl rfl)
theorem dX11_isPair_20 : decode cX11_isPair 20 = .ok (.iload_n 1, 1) := dk_27 (dk_at dksX11_isPair_0 20 rfl rfl)
theorem dX11_isPair_21 : decode cX11_isPair 21 = .ok (.invokevirtual 345, 3) := dk_182 1 89 (dk_at dksX11_isPair_0 21 rfl rfl)
theorem dX11_isPair_24 : decode cX11_isPair 24 = .ok (.ifCond .eq 5, 3) := dk_153 0 5 (dk_at dksX11_isPair_1 0 rfl rfl)
theorem dX11_isPair_27 : decode cX11_isPair 27 = .ok (.iconst 1, 1) := dk_4 (dk_at dksX11_isPair_1 3 rfl rfl)
theorem dX11_isPair_28 : decode cX11_isPair 28 = .ok (.ireturn, 1) := dk_172 (dk_at dksX11_isPair_1 4 rfl rfl)
theorem dX11_isPair_29 : decode cX11_isPair 29 = .ok (.iinc 2 1, 3) := dk_132 2 1 (dk_at dksX11_isPair_1 5 rfl rfl)
theorem dX11_isPair_32 : decode cX11_isPair 32 = .ok (.goto (-30), 3) := dk_167 255 226 (dk_at dksX11_isPair_1 8 rfl rfl)
theorem dX11_isPair_35 : decode cX11_isPair 35 = .ok (.iconst 0, 1) := dk_3 (dk_at dksX11_isPair_1 11 rfl rfl)
theorem dX11_isPair_36 : decode cX11_isPair 36 = .ok (.ireturn, 1) := dk_172 (dk_at dksX11_isPair_1 12 rfl rfl)
abbrev cX11_isTriple : ByteArray := prog_18_method_109_code
def yX11_isTriple : MethodName := ⟨RX11, "isTriple", "()Z"⟩
def dkwX11_isTriple_1 : List UInt8 := [153, 0, 5, 4, 172, 132, 1, 1, 167, 255, 228, 3, 172]
abbrev dktX11_isTriple_1 : List UInt8 := dkwX11_isTriple_1 ++ []
def dkwX11_isTriple_0 : List UInt8 := [4, 60, 27, 42, 182, 0, 76, 162, 0, 26, 42, 180, 0, 58, 3, 27, 79, 42, 5, 182, 1, 92]
abbrev dktX11_isTriple_0 : List UInt8 := dkwX11_isTriple_0 ++ dktX11_isTriple_1
theorem dksX11_isTriple_0 : cX11_isTriple.data.toList.drop 0 = dktX11_isTriple_0 := by decide +kernel
theorem dksX11_isTriple_1 : cX11_isTriple.data.toList.drop 22 = dktX11_isTriple_1 := dk_seg dksX11_isTriple_0 22 rfl rfl
theorem dX11_isTriple_0 : decode cX11_isTriple 0 = .ok (.iconst 1, 1) := dk_4 (dk_at dksX11_isTriple_0 0 rfl rfl)
theorem dX11_isTriple_1 : decode cX11_isTriple 1 = .ok (.istore_n 1, 1) := dk_60 (dk_at dksX11_isTriple_0 1 rfl rfl)
theorem dX11_isTriple_2 : decode cX11_isTriple 2 = .ok (.iload_n 1, 1) := dk_27 (dk_at dksX11_isTriple_0 2 rfl rfl)
theorem dX11_isTriple_3 : decode cX11_isTriple 3 = .ok (.aload_n 0, 1) := dk_42 (dk_at dksX11_isTriple_0 3 rfl rfl)
theorem dX11_isTriple_4 : decode cX11_isTriple 4 = .ok (.invokevirtual 76, 3) := dk_182 0 76 (dk_at dksX11_isTriple_0 4 rfl rfl)
theorem dX11_isTriple_7 : decode cX11_isTriple 7 = .ok (.if_icmp .ge 26, 3) := dk_162 0 26 (dk_at dksX11_isTriple_0 7 rfl rfl)
theorem dX11_isTriple_10 : decode cX11_isTriple 10 = .ok (.aload_n 0, 1) := dk_42 (dk_at dksX11_isTriple_0 10 rfl rfl)
theorem dX11_isTriple_11 : decode cX11_isTriple 11 = .ok (.getfield 58, 3) := dk_180 0 58 (dk_at dksX11_isTriple_0 11 rfl rfl)
theorem dX11_isTriple_14 : decode cX11_isTriple 14 = .ok (.iconst 0, 1) := dk_3 (dk_at dksX11_isTriple_0 14 rfl rfl)
theorem dX11_isTriple_15 : decode cX11_isTriple 15 = .ok (.iload_n 1, 1) := dk_27 (dk_at dksX11_isTriple_0 15 rfl rfl)
theorem dX11_isTriple_16 : decode cX11_isTriple 16 = .ok (.iastore, 1) := dk_79 (dk_at dksX11_isTriple_0 16 rfl rfl)
theorem dX11_isTriple_17 : decode cX11_isTriple 17 = .ok (.aload_n 0, 1) := dk_42 (dk_at dksX11_isTriple_0 17 rfl rfl)
theorem dX11_isTriple_18 : decode cX11_isTriple 18 = .ok (.iconst 2, 1) := dk_5 (dk_at dksX11_isTriple_0 18 rfl rfl)
theorem dX11_isTriple_19 : decode cX11_isTriple 19 = .ok (.invokevirtual 348, 3) := dk_182 1 92 (dk_at dksX11_isTriple_0 19 rfl rfl)
theorem dX11_isTriple_22 : decode cX11_isTriple 22 = .ok (.ifCond .eq 5, 3) := dk_153 0 5 (dk_at dksX11_isTriple_1 0 rfl rfl)
theorem dX11_isTriple_25 : decode cX11_isTriple 25 = .ok (.iconst 1, 1) := dk_4 (dk_at dksX11_isTriple_1 3 rfl rfl)
theorem dX11_isTriple_26 : decode cX11_isTriple 26 = .ok (.ireturn, 1) := dk_172 (dk_at dksX11_isTriple_1 4 rfl rfl)
theorem dX11_isTriple_27 : decode cX11_isTriple 27 = .ok (.iinc 1 1, 3) := dk_132 1 1 (dk_at dksX11_isTriple_1 5 rfl rfl)
theorem dX11_isTriple_30 : decode cX11_isTriple 30 = .ok (.goto (-28), 3) := dk_167 255 228 (dk_at dksX11_isTriple_1 8 rfl rfl)
theorem dX11_isTriple_33 : decode cX11_isTriple 33 = .ok (.iconst 0, 1) := dk_3 (dk_at dksX11_isTriple_1 11 rfl rfl)
theorem dX11_isTriple_34 : decode cX11_isTriple 34 = .ok (.ireturn, 1) := dk_172 (dk_at dksX11_isTriple_1 12 rfl rfl)
abbrev cX11_common : ByteArray := prog_18_method_115_code
def yX11_common : MethodName := ⟨RX11, "common", "(III)I"⟩
def dkwX11_common_3 : List UInt8 := [42, 182, 1, 116, 42, 16, 40, 29, 182, 1, 119, 172]
abbrev dktX11_common_3 : List UInt8 := dkwX11_common_3 ++ []
def dkwX11_common_2 : List UInt8 := [182, 0, 241, 42, 16, 40, 182, 1, 64, 154, 0, 12, 42, 16, 41, 182, 1, 64, 153, 0, 6, 16, 254, 172]
abbrev dktX11_common_2 : List UInt8 := dkwX11_common_2 ++ dktX11_common_3
def dkwX11_common_1 : List UInt8 := [167, 0, 4, 3, 4, 182, 0, 215, 153, 0, 5, 3, 172, 42, 16, 40, 27, 182, 0, 241, 42, 16, 41, 28]
abbrev dktX11_common_1 : List UInt8 := dkwX11_common_1 ++ dktX11_common_2
def dkwX11_common_0 : List UInt8 := [42, 3, 181, 0, 3, 42, 42, 27, 182, 0, 238, 154, 0, 11, 42, 28, 182, 0, 238, 153, 0, 7, 4]
abbrev dktX11_common_0 : List UInt8 := dkwX11_common_0 ++ dktX11_common_1
theorem dksX11_common_0 : cX11_common.data.toList.drop 0 = dktX11_common_0 := by decide +kernel
theorem dksX11_common_1 : cX11_common.data.toList.drop 23 = dktX11_common_1 := dk_seg dksX11_common_0 23 rfl rfl
theorem dksX11_common_2 : cX11_common.data.toList.drop 47 = dktX11_common_2 := dk_seg dksX11_common_1 24 rfl rfl
theorem dksX11_common_3 : cX11_common.data.toList.drop 71 = dktX11_common_3 := dk_seg dksX11_common_2 24 rfl rfl
theorem dX11_common_0 : decode cX11_common 0 = .ok (.aload_n 0, 1) := dk_42 (dk_at dksX11_common_0 0 rfl rfl)
theorem dX11_common_1 : decode cX11_common 1 = .ok (.iconst 0, 1) := dk_3 (dk_at dksX11_common_0 1 rfl rfl)
theorem dX11_common_2 : decode cX11_common 2 = .ok (.putfield 3, 3) := dk_181 0 3 (dk_at dksX11_common_0 2 rfl rfl)
theorem dX11_common_5 : decode cX11_common 5 = .ok (.aload_n 0, 1) := dk_42 (dk_at dksX11_common_0 5 rfl rfl)
theorem dX11_common_6 : decode cX11_common 6 = .ok (.aload_n 0, 1) := dk_42 (dk_at dksX11_common_0 6 rfl rfl)
theorem dX11_common_7 : decode cX11_common 7 = .ok (.iload_n 1, 1) := dk_27 (dk_at dksX11_common_0 7 rfl rfl)
theorem dX11_common_8 : decode cX11_common 8 = .ok (.invokevirtual 238, 3) := dk_182 0 238 (dk_at dksX11_common_0 8 rfl rfl)
theorem dX11_common_11 : decode cX11_common 11 = .ok (.ifCond .ne 11, 3) := dk_154 0 11 (dk_at dksX11_common_0 11 rfl rfl)
theorem dX11_common_14 : decode cX11_common 14 = .ok (.aload_n 0, 1) := dk_42 (dk_at dksX11_common_0 14 rfl rfl)
theorem dX11_common_15 : decode cX11_common 15 = .ok (.iload_n 2, 1) := dk_28 (dk_at dksX11_common_0 15 rfl rfl)
theorem dX11_common_16 : decode cX11_common 16 = .ok (.invokevirtual 238, 3) := dk_182 0 238 (dk_at dksX11_common_0 16 rfl rfl)
theorem dX11_common_19 : decode cX11_common 19 = .ok (.ifCond .eq 7, 3) := dk_153 0 7 (dk_at dksX11_common_0 19 rfl rfl)
theorem dX11_common_22 : decode cX11_common 22 = .ok (.iconst 1, 1) := dk_4 (dk_at dksX11_common_0 22 rfl rfl)
theorem dX11_common_23 : decode cX11_common 23 = .ok (.goto 4, 3) := dk_167 0 4 (dk_at dksX11_common_1 0 rfl rfl)
theorem dX11_common_26 : decode cX11_common 26 = .ok (.iconst 0, 1) := dk_3 (dk_at dksX11_common_1 3 rfl rfl)
theorem dX11_common_27 : decode cX11_common 27 = .ok (.iconst 1, 1) := dk_4 (dk_at dksX11_common_1 4 rfl rfl)
theorem dX11_common_28 : decode cX11_common 28 = .ok (.invokevirtual 215, 3) := dk_182 0 215 (dk_at dksX11_common_1 5 rfl rfl)
theorem dX11_common_31 : decode cX11_common 31 = .ok (.ifCond .eq 5, 3) := dk_153 0 5 (dk_at dksX11_common_1 8 rfl rfl)
theorem dX11_common_34 : decode cX11_common 34 = .ok (.iconst 0, 1) := dk_3 (dk_at dksX11_common_1 11 rfl rfl)
theorem dX11_common_35 : decode cX11_common 35 = .ok (.ireturn, 1) := dk_172 (dk_at dksX11_common_1 12 rfl rfl)
theorem dX11_common_36 : decode cX11_common 36 = .ok (.aload_n 0, 1) := dk_42 (dk_at dksX11_common_1 13 rfl rfl)
theorem dX11_common_37 : decode cX11_common 37 = .ok (.bipush 40, 2) := dk_16 40 (dk_at dksX11_common_1 14 rfl rfl)
theorem dX11_common_39 : decode cX11_common 39 = .ok (.iload_n 1, 1) := dk_27 (dk_at dksX11_common_1 16 rfl rfl)
theorem dX11_common_40 : decode cX11_common 40 = .ok (.invokevirtual 241, 3) := dk_182 0 241 (dk_at dksX11_common_1 17 rfl rfl)
theorem dX11_common_43 : decode cX11_common 43 = .ok (.aload_n 0, 1) := dk_42 (dk_at dksX11_common_1 20 rfl rfl)
theorem dX11_common_44 : decode cX11_common 44 = .ok (.bipush 41, 2) := dk_16 41 (dk_at dksX11_common_1 21 rfl rfl)
theorem dX11_common_46 : decode cX11_common 46 = .ok (.iload_n 2, 1) := dk_28 (dk_at dksX11_common_1 23 rfl rfl)
theorem dX11_common_47 : decode cX11_common 47 = .ok (.invokevirtual 241, 3) := dk_182 0 241 (dk_at dksX11_common_2 0 rfl rfl)
theorem dX11_common_50 : decode cX11_common 50 = .ok (.aload_n 0, 1) := dk_42 (dk_at dksX11_common_2 3 rfl rfl)
theorem dX11_common_51 : decode cX11_common 51 = .ok (.bipush 40, 2) := dk_16 40 (dk_at dksX11_common_2 4 rfl rfl)
theorem dX11_common_53 : decode cX11_common 53 = .ok (.invokevirtual 320, 3) := dk_182 1 64 (dk_at dksX11_common_2 6 rfl rfl)
theorem dX11_common_56 : decode cX11_common 56 = .ok (.ifCond .ne 12, 3) := dk_154 0 12 (dk_at dksX11_common_2 9 rfl rfl)
theorem dX11_common_59 : decode cX11_common 59 = .ok (.aload_n 0, 1) := dk_42 (dk_at dksX11_common_2 12 rfl rfl)
theorem dX11_common_60 : decode cX11_common 60 = .ok (.bipush 41, 2) := dk_16 41 (dk_at dksX11_common_2 13 rfl rfl)
theorem dX11_common_62 : decode cX11_common 62 = .ok (.invokevirtual 320, 3) := dk_182 1 64 (dk_at dksX11_common_2 15 rfl rfl)
theorem dX11_common_65 : decode cX11_common 65 = .ok (.ifCond .eq 6, 3) := dk_153 0 6 (dk_at dksX11_common_2 18 rfl rfl)
theorem dX11_common_68 : decode cX11_common 68 = .ok (.bipush (-2), 2) := dk_16 254 (dk_at dksX11_common_2 21 rfl rfl)
theorem dX11_common_70 : decode cX11_common 70 = .ok (.ireturn, 1) := dk_172 (dk_at dksX11_common_2 23 rfl rfl)
theorem dX11_common_71 : decode cX11_common 71 = .ok (.aload_n 0, 1) := dk_42 (dk_at dksX11_common_3 0 rfl rfl)
theorem dX11_common_72 : decode cX11_common 72 = .ok (.invokevirtual 372, 3) := dk_182 1 116 (dk_at dksX11_common_3 1 rfl rfl)
theorem dX11_common_75 : decode cX11_common 75 = .ok (.aload_n 0, 1) := dk_42 (dk_at dksX11_common_3 4 rfl rfl)
theorem dX11_common_76 : decode cX11_common 76 = .ok (.bipush 40, 2) := dk_16 40 (dk_at dksX11_common_3 5 rfl rfl)
theorem dX11_common_78 : decode cX11_common 78 = .ok (.iload_n 3, 1) := dk_29 (dk_at dksX11_common_3 7 rfl rfl)
theorem dX11_common_79 : decode cX11_common 79 = .ok (.invokevirtual 375, 3) := dk_182 1 119 (dk_at dksX11_common_3 8 rfl rfl)
theorem dX11_common_82 : decode cX11_common 82 = .ok (.ireturn, 1) := dk_172 (dk_at dksX11_common_3 11 rfl rfl)
abbrev cX11_commons : ByteArray := prog_18_method_113_code
def yX11_commons : MethodName := ⟨RX11, "commons", "()V"⟩
def dkwX11_commons_8 : List UInt8 := [182, 0, 86, 182, 0, 99, 132, 4, 1, 167, 255, 218, 177]
abbrev dktX11_commons_8 : List UInt8 := dkwX11_commons_8 ++ []
def dkwX11_commons_7 : List UInt8 := [16, 41, 46, 163, 0, 32, 42, 16, 40, 21, 4, 27, 96, 42, 29, 42, 16, 41, 21, 4, 182, 0, 103]
abbrev dktX11_commons_7 : List UInt8 := dkwX11_commons_7 ++ dktX11_commons_8
def dkwX11_commons_6 : List UInt8 := [16, 40, 42, 180, 0, 20, 16, 41, 46, 27, 96, 182, 0, 106, 3, 54, 4, 21, 4, 42, 180, 0, 20]
abbrev dktX11_commons_6 : List UInt8 := dkwX11_commons_6 ++ dktX11_commons_7
def dkwX11_commons_5 : List UInt8 := [16, 42, 16, 41, 182, 1, 11, 167, 255, 156, 42, 42, 16, 41, 3, 182, 0, 103, 182, 0, 232, 62, 42]
abbrev dktX11_commons_5 : List UInt8 := dkwX11_commons_5 ++ dktX11_commons_6
def dkwX11_commons_4 : List UInt8 := [16, 40, 182, 1, 107, 87, 42, 16, 40, 16, 42, 182, 1, 11, 42, 16, 41, 16, 40, 182, 1, 11, 42]
abbrev dktX11_commons_4 : List UInt8 := dkwX11_commons_4 ++ dktX11_commons_5
def dkwX11_commons_3 : List UInt8 := [16, 40, 16, 41, 16, 43, 182, 1, 113, 42, 16, 40, 182, 1, 64, 153, 0, 8, 3, 61, 167, 255, 190, 42]
abbrev dktX11_commons_3 : List UInt8 := dkwX11_commons_3 ++ dktX11_commons_4
def dkwX11_commons_2 : List UInt8 := [16, 40, 16, 42, 182, 1, 11, 42, 16, 41, 16, 40, 182, 1, 11, 42, 16, 42, 16, 41, 182, 1, 11, 42]
abbrev dktX11_commons_2 : List UInt8 := dkwX11_commons_2 ++ dktX11_commons_3
def dkwX11_commons_1 : List UInt8 := [61, 28, 153, 0, 102, 42, 180, 0, 20, 16, 40, 46, 42, 180, 0, 20, 16, 41, 46, 162, 0, 27, 42]
abbrev dktX11_commons_1 : List UInt8 := dkwX11_commons_1 ++ dktX11_commons_2
def dkwX11_commons_0 : List UInt8 := [42, 16, 40, 182, 1, 107, 16, 99, 184, 1, 110, 60, 27, 42, 16, 41, 182, 1, 107, 184, 1, 110, 60, 4]
abbrev dktX11_commons_0 : List UInt8 := dkwX11_commons_0 ++ dktX11_commons_1
theorem dksX11_commons_0 : cX11_commons.data.toList.drop 0 = dktX11_commons_0 := by decide +kernel
theorem dksX11_commons_1 : cX11_commons.data.toList.drop 24 = dktX11_commons_1 := dk_seg dksX11_commons_0 24 rfl rfl
theorem dksX11_commons_2 : cX11_commons.data.toList.drop 47 = dktX11_commons_2 := dk_seg dksX11_commons_1 23 rfl rfl
theorem dksX11_commons_3 : cX11_commons.data.toList.drop 71 = dktX11_commons_3 := dk_seg dksX11_commons_2 24 rfl rfl
theorem dksX11_commons_4 : cX11_commons.data.toList.drop 95 = dktX11_commons_4 := dk_seg dksX11_commons_3 24 rfl rfl
theorem dksX11_commons_5 : cX11_commons.data.toList.drop 118 = dktX11_commons_5 := dk_seg dksX11_commons_4 23 rfl rfl
theorem dksX11_commons_6 : cX11_commons.data.toList.drop 141 = dktX11_commons_6 := dk_seg dksX11_commons_5 23 rfl rfl
theorem dksX11_commons_7 : cX11_commons.data.toList.drop 164 = dktX11_commons_7 := dk_seg dksX11_commons_6 23 rfl rfl
theorem dksX11_commons_8 : cX11_commons.data.toList.drop 187 = dktX11_commons_8 := dk_seg dksX11_commons_7 23 rfl rfl
theorem dX11_commons_0 : decode cX11_commons 0 = .ok (.aload_n 0, 1) := dk_42 (dk_at dksX11_commons_0 0 rfl rfl)
theorem dX11_commons_1 : decode cX11_commons 1 = .ok (.bipush 40, 2) := dk_16 40 (dk_at dksX11_commons_0 1 rfl rfl)
theorem dX11_commons_3 : decode cX11_commons 3 = .ok (.invokevirtual 363, 3) := dk_182 1 107 (dk_at dksX11_commons_0 3 rfl rfl)
theorem dX11_commons_6 : decode cX11_commons 6 = .ok (.bipush 99, 2) := dk_16 99 (dk_at dksX11_commons_0 6 rfl rfl)
theorem dX11_commons_8 : decode cX11_commons 8 = .ok (.invokestatic 366, 3) := dk_184 1 110 (dk_at dksX11_commons_0 8 rfl rfl)
theorem dX11_commons_11 : decode cX11_commons 11 = .ok (.istore_n 1, 1) := dk_60 (dk_at dksX11_commons_0 11 rfl rfl)
theorem dX11_commons_12 : decode cX11_commons 12 = .ok (.iload_n 1, 1) := dk_27 (dk_at dksX11_commons_0 12 rfl rfl)
theorem dX11_commons_13 : decode cX11_commons 13 = .ok (.aload_n 0, 1) := dk_42 (dk_at dksX11_commons_0 13 rfl rfl)
theorem dX11_commons_14 : decode cX11_commons 14 = .ok (.bipush 41, 2) := dk_16 41 (dk_at dksX11_commons_0 14 rfl rfl)
theorem dX11_commons_16 : decode cX11_commons 16 = .ok (.invokevirtual 363, 3) := dk_182 1 107 (dk_at dksX11_commons_0 16 rfl rfl)
theorem dX11_commons_19 : decode cX11_commons 19 = .ok (.invokestatic 366, 3) := dk_184 1 110 (dk_at dksX11_commons_0 19 rfl rfl)
theorem dX11_commons_22 : decode cX11_commons 22 = .ok (.istore_n 1, 1) := dk_60 (dk_at dksX11_commons_0 22 rfl rfl)
theorem dX11_commons_23 : decode cX11_commons 23 = .ok (.iconst 1, 1) := dk_4 (dk_at dksX11_commons_0 23 rfl rfl)
theorem dX11_commons_24 : decode cX11_commons 24 = .ok (.istore_n 2, 1) := dk_61 (dk_at dksX11_commons_1 0 rfl rfl)
theorem dX11_commons_25 : decode cX11_commons 25 = .ok (.iload_n 2, 1) := dk_28 (dk_at dksX11_commons_1 1 rfl rfl)
theorem dX11_commons_26 : decode cX11_commons 26 = .ok (.ifCond .eq 102, 3) := dk_153 0 102 (dk_at dksX11_commons_1 2 rfl rfl)
theorem dX11_commons_29 : decode cX11_commons 29 = .ok (.aload_n 0, 1) := dk_42 (dk_at dksX11_commons_1 5 rfl rfl)
theorem dX11_commons_30 : decode cX11_commons 30 = .ok (.getfield 20, 3) := dk_180 0 20 (dk_at dksX11_commons_1 6 rfl rfl)
theorem dX11_commons_33 : decode cX11_commons 33 = .ok (.bipush 40, 2) := dk_16 40 (dk_at dksX11_commons_1 9 rfl rfl)
theorem dX11_commons_35 : decode cX11_commons 35 = .ok (.iaload, 1) := dk_46 (dk_at dksX11_commons_1 11 rfl rfl)
theorem dX11_commons_36 : decode cX11_commons 36 = .ok (.aload_n 0, 1) := dk_42 (dk_at dksX11_commons_1 12 rfl rfl)
theorem dX11_commons_37 : decode cX11_commons 37 = .ok (.getfield 20, 3) := dk_180 0 20 (dk_at dksX11_commons_1 13 rfl rfl)
theorem dX11_commons_40 : decode cX11_commons 40 = .ok (.bipush 41, 2) := dk_16 41 (dk_at dksX11_commons_1 16 rfl rfl)
theorem dX11_commons_42 : decode cX11_commons 42 = .ok (.iaload, 1) := dk_46 (dk_at dksX11_commons_1 18 rfl rfl)
theorem dX11_commons_43 : decode cX11_commons 43 = .ok (.if_icmp .ge 27, 3) := dk_162 0 27 (dk_at dksX11_commons_1 19 rfl rfl)
theorem dX11_commons_46 : decode cX11_commons 46 = .ok (.aload_n 0, 1) := dk_42 (dk_at dksX11_commons_1 22 rfl rfl)
theorem dX11_commons_47 : decode cX11_commons 47 = .ok (.bipush 40, 2) := dk_16 40 (dk_at dksX11_commons_2 0 rfl rfl)
theorem dX11_commons_49 : decode cX11_commons 49 = .ok (.bipush 42, 2) := dk_16 42 (dk_at dksX11_commons_2 2 rfl rfl)
theorem dX11_commons_51 : decode cX11_commons 51 = .ok (.invokevirtual 267, 3) := dk_182 1 11 (dk_at dksX11_commons_2 4 rfl rfl)
theorem dX11_commons_54 : decode cX11_commons 54 = .ok (.aload_n 0, 1) := dk_42 (dk_at dksX11_commons_2 7 rfl rfl)
theorem dX11_commons_55 : decode cX11_commons 55 = .ok (.bipush 41, 2) := dk_16 41 (dk_at dksX11_commons_2 8 rfl rfl)
theorem dX11_commons_57 : decode cX11_commons 57 = .ok (.bipush 40, 2) := dk_16 40 (dk_at dksX11_commons_2 10 rfl rfl)
theorem dX11_commons_59 : decode cX11_commons 59 = .ok (.invokevirtual 267, 3) := dk_182 1 11 (dk_at dksX11_commons_2 12 rfl rfl)
theorem dX11_commons_62 : decode cX11_commons 62 = .ok (.aload_n 0, 1) := dk_42 (dk_at dksX11_commons_2 15 rfl rfl)
theorem dX11_commons_63 : decode cX11_commons 63 = .ok (.bipush 42, 2) := dk_16 42 (dk_at dksX11_commons_2 16 rfl rfl)
theorem dX11_commons_65 : decode cX11_commons 65 = .ok (.bipush 41, 2) := dk_16 41 (dk_at dksX11_commons_2 18 rfl rfl)
theorem dX11_commons_67 : decode cX11_commons 67 = .ok (.invokevirtual 267, 3) := dk_182 1 11 (dk_at dksX11_commons_2 20 rfl rfl)
theorem dX11_commons_70 : decode cX11_commons 70 = .ok (.aload_n 0, 1) := dk_42 (dk_at dksX11_commons_2 23 rfl rfl)
theorem dX11_commons_71 : decode cX11_commons 71 = .ok (.bipush 40, 2) := dk_16 40 (dk_at dksX11_commons_3 0 rfl rfl)
theorem dX11_commons_73 : decode cX11_commons 73 = .ok (.bipush 41, 2) := dk_16 41 (dk_at dksX11_commons_3 2 rfl rfl)
theorem dX11_commons_75 : decode cX11_commons 75 = .ok (.bipush 43, 2) := dk_16 43 (dk_at dksX11_commons_3 4 rfl rfl)
theorem dX11_commons_77 : decode cX11_commons 77 = .ok (.invokevirtual 369, 3) := dk_182 1 113 (dk_at dksX11_commons_3 6 rfl rfl)
theorem dX11_commons_80 : decode cX11_commons 80 = .ok (.aload_n 0, 1) := dk_42 (dk_at dksX11_commons_3 9 rfl rfl)
theorem dX11_commons_81 : decode cX11_commons 81 = .ok (.bipush 40, 2) := dk_16 40 (dk_at dksX11_commons_3 10 rfl rfl)
theorem dX11_commons_83 : decode cX11_commons 83 = .ok (.invokevirtual 320, 3) := dk_182 1 64 (dk_at dksX11_commons_3 12 rfl rfl)
theorem dX11_commons_86 : decode cX11_commons 86 = .ok (.ifCond .eq 8, 3) := dk_153 0 8 (dk_at dksX11_commons_3 15 rfl rfl)
theorem dX11_commons_89 : decode cX11_commons 89 = .ok (.iconst 0, 1) := dk_3 (dk_at dksX11_commons_3 18 rfl rfl)
theorem dX11_commons_90 : decode cX11_commons 90 = .ok (.istore_n 2, 1) := dk_61 (dk_at dksX11_commons_3 19 rfl rfl)
theorem dX11_commons_91 : decode cX11_commons 91 = .ok (.goto (-66), 3) := dk_167 255 190 (dk_at dksX11_commons_3 20 rfl rfl)
theorem dX11_commons_94 : decode cX11_commons 94 = .ok (.aload_n 0, 1) := dk_42 (dk_at dksX11_commons_3 23 rfl rfl)
theorem dX11_commons_95 : decode cX11_commons 95 = .ok (.bipush 40, 2) := dk_16 40 (dk_at dksX11_commons_4 0 rfl rfl)
theorem dX11_commons_97 : decode cX11_commons 97 = .ok (.invokevirtual 363, 3) := dk_182 1 107 (dk_at dksX11_commons_4 2 rfl rfl)
theorem dX11_commons_100 : decode cX11_commons 100 = .ok (.pop, 1) := dk_87 (dk_at dksX11_commons_4 5 rfl rfl)
theorem dX11_commons_101 : decode cX11_commons 101 = .ok (.aload_n 0, 1) := dk_42 (dk_at dksX11_commons_4 6 rfl rfl)
theorem dX11_commons_102 : decode cX11_commons 102 = .ok (.bipush 40, 2) := dk_16 40 (dk_at dksX11_commons_4 7 rfl rfl)
theorem dX11_commons_104 : decode cX11_commons 104 = .ok (.bipush 42, 2) := dk_16 42 (dk_at dksX11_commons_4 9 rfl rfl)
theorem dX11_commons_106 : decode cX11_commons 106 = .ok (.invokevirtual 267, 3) := dk_182 1 11 (dk_at dksX11_commons_4 11 rfl rfl)
theorem dX11_commons_109 : decode cX11_commons 109 = .ok (.aload_n 0, 1) := dk_42 (dk_at dksX11_commons_4 14 rfl rfl)
theorem dX11_commons_110 : decode cX11_commons 110 = .ok (.bipush 41, 2) := dk_16 41 (dk_at dksX11_commons_4 15 rfl rfl)
theorem dX11_commons_112 : decode cX11_commons 112 = .ok (.bipush 40, 2) := dk_16 40 (dk_at dksX11_commons_4 17 rfl rfl)
theorem dX11_commons_114 : decode cX11_commons 114 = .ok (.invokevirtual 267, 3) := dk_182 1 11 (dk_at dksX11_commons_4 19 rfl rfl)
theorem dX11_commons_117 : decode cX11_commons 117 = .ok (.aload_n 0, 1) := dk_42 (dk_at dksX11_commons_4 22 rfl rfl)
theorem dX11_commons_118 : decode cX11_commons 118 = .ok (.bipush 42, 2) := dk_16 42 (dk_at dksX11_commons_5 0 rfl rfl)
theorem dX11_commons_120 : decode cX11_commons 120 = .ok (.bipush 41, 2) := dk_16 41 (dk_at dksX11_commons_5 2 rfl rfl)
theorem dX11_commons_122 : decode cX11_commons 122 = .ok (.invokevirtual 267, 3) := dk_182 1 11 (dk_at dksX11_commons_5 4 rfl rfl)
theorem dX11_commons_125 : decode cX11_commons 125 = .ok (.goto (-100), 3) := dk_167 255 156 (dk_at dksX11_commons_5 7 rfl rfl)
theorem dX11_commons_128 : decode cX11_commons 128 = .ok (.aload_n 0, 1) := dk_42 (dk_at dksX11_commons_5 10 rfl rfl)
theorem dX11_commons_129 : decode cX11_commons 129 = .ok (.aload_n 0, 1) := dk_42 (dk_at dksX11_commons_5 11 rfl rfl)
theorem dX11_commons_130 : decode cX11_commons 130 = .ok (.bipush 41, 2) := dk_16 41 (dk_at dksX11_commons_5 12 rfl rfl)
theorem dX11_commons_132 : decode cX11_commons 132 = .ok (.iconst 0, 1) := dk_3 (dk_at dksX11_commons_5 14 rfl rfl)
theorem dX11_commons_133 : decode cX11_commons 133 = .ok (.invokevirtual 103, 3) := dk_182 0 103 (dk_at dksX11_commons_5 15 rfl rfl)
theorem dX11_commons_136 : decode cX11_commons 136 = .ok (.invokevirtual 232, 3) := dk_182 0 232 (dk_at dksX11_commons_5 18 rfl rfl)
theorem dX11_commons_139 : decode cX11_commons 139 = .ok (.istore_n 3, 1) := dk_62 (dk_at dksX11_commons_5 21 rfl rfl)
theorem dX11_commons_140 : decode cX11_commons 140 = .ok (.aload_n 0, 1) := dk_42 (dk_at dksX11_commons_5 22 rfl rfl)
theorem dX11_commons_141 : decode cX11_commons 141 = .ok (.bipush 40, 2) := dk_16 40 (dk_at dksX11_commons_6 0 rfl rfl)
theorem dX11_commons_143 : decode cX11_commons 143 = .ok (.aload_n 0, 1) := dk_42 (dk_at dksX11_commons_6 2 rfl rfl)
theorem dX11_commons_144 : decode cX11_commons 144 = .ok (.getfield 20, 3) := dk_180 0 20 (dk_at dksX11_commons_6 3 rfl rfl)
theorem dX11_commons_147 : decode cX11_commons 147 = .ok (.bipush 41, 2) := dk_16 41 (dk_at dksX11_commons_6 6 rfl rfl)
theorem dX11_commons_149 : decode cX11_commons 149 = .ok (.iaload, 1) := dk_46 (dk_at dksX11_commons_6 8 rfl rfl)
theorem dX11_commons_150 : decode cX11_commons 150 = .ok (.iload_n 1, 1) := dk_27 (dk_at dksX11_commons_6 9 rfl rfl)
theorem dX11_commons_151 : decode cX11_commons 151 = .ok (.iadd, 1) := dk_96 (dk_at dksX11_commons_6 10 rfl rfl)
theorem dX11_commons_152 : decode cX11_commons 152 = .ok (.invokevirtual 106, 3) := dk_182 0 106 (dk_at dksX11_commons_6 11 rfl rfl)
theorem dX11_commons_155 : decode cX11_commons 155 = .ok (.iconst 0, 1) := dk_3 (dk_at dksX11_commons_6 14 rfl rfl)
theorem dX11_commons_156 : decode cX11_commons 156 = .ok (.istore 4, 2) := dk_54 4 (dk_at dksX11_commons_6 15 rfl rfl)
theorem dX11_commons_158 : decode cX11_commons 158 = .ok (.iload 4, 2) := dk_21 4 (dk_at dksX11_commons_6 17 rfl rfl)
theorem dX11_commons_160 : decode cX11_commons 160 = .ok (.aload_n 0, 1) := dk_42 (dk_at dksX11_commons_6 19 rfl rfl)
theorem dX11_commons_161 : decode cX11_commons 161 = .ok (.getfield 20, 3) := dk_180 0 20 (dk_at dksX11_commons_6 20 rfl rfl)
theorem dX11_commons_164 : decode cX11_commons 164 = .ok (.bipush 41, 2) := dk_16 41 (dk_at dksX11_commons_7 0 rfl rfl)
theorem dX11_commons_166 : decode cX11_commons 166 = .ok (.iaload, 1) := dk_46 (dk_at dksX11_commons_7 2 rfl rfl)
theorem dX11_commons_167 : decode cX11_commons 167 = .ok (.if_icmp .gt 32, 3) := dk_163 0 32 (dk_at dksX11_commons_7 3 rfl rfl)
theorem dX11_commons_170 : decode cX11_commons 170 = .ok (.aload_n 0, 1) := dk_42 (dk_at dksX11_commons_7 6 rfl rfl)
theorem dX11_commons_171 : decode cX11_commons 171 = .ok (.bipush 40, 2) := dk_16 40 (dk_at dksX11_commons_7 7 rfl rfl)
theorem dX11_commons_173 : decode cX11_commons 173 = .ok (.iload 4, 2) := dk_21 4 (dk_at dksX11_commons_7 9 rfl rfl)
theorem dX11_commons_175 : decode cX11_commons 175 = .ok (.iload_n 1, 1) := dk_27 (dk_at dksX11_commons_7 11 rfl rfl)
theorem dX11_commons_176 : decode cX11_commons 176 = .ok (.iadd, 1) := dk_96 (dk_at dksX11_commons_7 12 rfl rfl)
theorem dX11_commons_177 : decode cX11_commons 177 = .ok (.aload_n 0, 1) := dk_42 (dk_at dksX11_commons_7 13 rfl rfl)
theorem dX11_commons_178 : decode cX11_commons 178 = .ok (.iload_n 3, 1) := dk_29 (dk_at dksX11_commons_7 14 rfl rfl)
theorem dX11_commons_179 : decode cX11_commons 179 = .ok (.aload_n 0, 1) := dk_42 (dk_at dksX11_commons_7 15 rfl rfl)
theorem dX11_commons_180 : decode cX11_commons 180 = .ok (.bipush 41, 2) := dk_16 41 (dk_at dksX11_commons_7 16 rfl rfl)
theorem dX11_commons_182 : decode cX11_commons 182 = .ok (.iload 4, 2) := dk_21 4 (dk_at dksX11_commons_7 18 rfl rfl)
theorem dX11_commons_184 : decode cX11_commons 184 = .ok (.invokevirtual 103, 3) := dk_182 0 103 (dk_at dksX11_commons_7 20 rfl rfl)
theorem dX11_commons_187 : decode cX11_commons 187 = .ok (.invokevirtual 86, 3) := dk_182 0 86 (dk_at dksX11_commons_8 0 rfl rfl)
theorem dX11_commons_190 : decode cX11_commons 190 = .ok (.invokevirtual 99, 3) := dk_182 0 99 (dk_at dksX11_commons_8 3 rfl rfl)
theorem dX11_commons_193 : decode cX11_commons 193 = .ok (.iinc 4 1, 3) := dk_132 4 1 (dk_at dksX11_commons_8 6 rfl rfl)
theorem dX11_commons_196 : decode cX11_commons 196 = .ok (.goto (-38), 3) := dk_167 255 218 (dk_at dksX11_commons_8 9 rfl rfl)
theorem dX11_commons_199 : decode cX11_commons 199 = .ok (.return_, 1) := dk_177 (dk_at dksX11_commons_8 12 rfl rfl)
abbrev cX11_strips : ByteArray := prog_18_method_111_code
def yX11_strips : MethodName := ⟨RX11, "strips", "(I)I"⟩
def dkwX11_strips_2 : List UInt8 := [167, 255, 229, 42, 180, 0, 20, 27, 92, 46, 28, 100, 79, 28, 172]
abbrev dktX11_strips_2 : List UInt8 := dkwX11_strips_2 ++ []
def dkwX11_strips_1 : List UInt8 := [27, 46, 163, 0, 23, 42, 27, 29, 28, 100, 42, 27, 29, 182, 0, 103, 182, 0, 99, 132, 3, 1]
abbrev dktX11_strips_1 : List UInt8 := dkwX11_strips_1 ++ dktX11_strips_2
def dkwX11_strips_0 : List UInt8 := [3, 61, 42, 27, 28, 182, 0, 103, 154, 0, 9, 132, 2, 1, 167, 255, 244, 28, 62, 29, 42, 180, 0, 20]
abbrev dktX11_strips_0 : List UInt8 := dkwX11_strips_0 ++ dktX11_strips_1
theorem dksX11_strips_0 : cX11_strips.data.toList.drop 0 = dktX11_strips_0 := by decide +kernel
theorem dksX11_strips_1 : cX11_strips.data.toList.drop 24 = dktX11_strips_1 := dk_seg dksX11_strips_0 24 rfl rfl
theorem dksX11_strips_2 : cX11_strips.data.toList.drop 46 = dktX11_strips_2 := dk_seg dksX11_strips_1 22 rfl rfl
theorem dX11_strips_0 : decode cX11_strips 0 = .ok (.iconst 0, 1) := dk_3 (dk_at dksX11_strips_0 0 rfl rfl)
theorem dX11_strips_1 : decode cX11_strips 1 = .ok (.istore_n 2, 1) := dk_61 (dk_at dksX11_strips_0 1 rfl rfl)
theorem dX11_strips_2 : decode cX11_strips 2 = .ok (.aload_n 0, 1) := dk_42 (dk_at dksX11_strips_0 2 rfl rfl)
theorem dX11_strips_3 : decode cX11_strips 3 = .ok (.iload_n 1, 1) := dk_27 (dk_at dksX11_strips_0 3 rfl rfl)
theorem dX11_strips_4 : decode cX11_strips 4 = .ok (.iload_n 2, 1) := dk_28 (dk_at dksX11_strips_0 4 rfl rfl)
theorem dX11_strips_5 : decode cX11_strips 5 = .ok (.invokevirtual 103, 3) := dk_182 0 103 (dk_at dksX11_strips_0 5 rfl rfl)
theorem dX11_strips_8 : decode cX11_strips 8 = .ok (.ifCond .ne 9, 3) := dk_154 0 9 (dk_at dksX11_strips_0 8 rfl rfl)
theorem dX11_strips_11 : decode cX11_strips 11 = .ok (.iinc 2 1, 3) := dk_132 2 1 (dk_at dksX11_strips_0 11 rfl rfl)
theorem dX11_strips_14 : decode cX11_strips 14 = .ok (.goto (-12), 3) := dk_167 255 244 (dk_at dksX11_strips_0 14 rfl rfl)
theorem dX11_strips_17 : decode cX11_strips 17 = .ok (.iload_n 2, 1) := dk_28 (dk_at dksX11_strips_0 17 rfl rfl)
theorem dX11_strips_18 : decode cX11_strips 18 = .ok (.istore_n 3, 1) := dk_62 (dk_at dksX11_strips_0 18 rfl rfl)
theorem dX11_strips_19 : decode cX11_strips 19 = .ok (.iload_n 3, 1) := dk_29 (dk_at dksX11_strips_0 19 rfl rfl)
theorem dX11_strips_20 : decode cX11_strips 20 = .ok (.aload_n 0, 1) := dk_42 (dk_at dksX11_strips_0 20 rfl rfl)
theorem dX11_strips_21 : decode cX11_strips 21 = .ok (.getfield 20, 3) := dk_180 0 20 (dk_at dksX11_strips_0 21 rfl rfl)
theorem dX11_strips_24 : decode cX11_strips 24 = .ok (.iload_n 1, 1) := dk_27 (dk_at dksX11_strips_1 0 rfl rfl)
theorem dX11_strips_25 : decode cX11_strips 25 = .ok (.iaload, 1) := dk_46 (dk_at dksX11_strips_1 1 rfl rfl)
theorem dX11_strips_26 : decode cX11_strips 26 = .ok (.if_icmp .gt 23, 3) := dk_163 0 23 (dk_at dksX11_strips_1 2 rfl rfl)
theorem dX11_strips_29 : decode cX11_strips 29 = .ok (.aload_n 0, 1) := dk_42 (dk_at dksX11_strips_1 5 rfl rfl)
theorem dX11_strips_30 : decode cX11_strips 30 = .ok (.iload_n 1, 1) := dk_27 (dk_at dksX11_strips_1 6 rfl rfl)
theorem dX11_strips_31 : decode cX11_strips 31 = .ok (.iload_n 3, 1) := dk_29 (dk_at dksX11_strips_1 7 rfl rfl)
theorem dX11_strips_32 : decode cX11_strips 32 = .ok (.iload_n 2, 1) := dk_28 (dk_at dksX11_strips_1 8 rfl rfl)
theorem dX11_strips_33 : decode cX11_strips 33 = .ok (.isub, 1) := dk_100 (dk_at dksX11_strips_1 9 rfl rfl)
theorem dX11_strips_34 : decode cX11_strips 34 = .ok (.aload_n 0, 1) := dk_42 (dk_at dksX11_strips_1 10 rfl rfl)
theorem dX11_strips_35 : decode cX11_strips 35 = .ok (.iload_n 1, 1) := dk_27 (dk_at dksX11_strips_1 11 rfl rfl)
theorem dX11_strips_36 : decode cX11_strips 36 = .ok (.iload_n 3, 1) := dk_29 (dk_at dksX11_strips_1 12 rfl rfl)
theorem dX11_strips_37 : decode cX11_strips 37 = .ok (.invokevirtual 103, 3) := dk_182 0 103 (dk_at dksX11_strips_1 13 rfl rfl)
theorem dX11_strips_40 : decode cX11_strips 40 = .ok (.invokevirtual 99, 3) := dk_182 0 99 (dk_at dksX11_strips_1 16 rfl rfl)
theorem dX11_strips_43 : decode cX11_strips 43 = .ok (.iinc 3 1, 3) := dk_132 3 1 (dk_at dksX11_strips_1 19 rfl rfl)
theorem dX11_strips_46 : decode cX11_strips 46 = .ok (.goto (-27), 3) := dk_167 255 229 (dk_at dksX11_strips_2 0 rfl rfl)
theorem dX11_strips_49 : decode cX11_strips 49 = .ok (.aload_n 0, 1) := dk_42 (dk_at dksX11_strips_2 3 rfl rfl)
theorem dX11_strips_50 : decode cX11_strips 50 = .ok (.getfield 20, 3) := dk_180 0 20 (dk_at dksX11_strips_2 4 rfl rfl)
theorem dX11_strips_53 : decode cX11_strips 53 = .ok (.iload_n 1, 1) := dk_27 (dk_at dksX11_strips_2 7 rfl rfl)
theorem dX11_strips_54 : decode cX11_strips 54 = .ok (.dup2, 1) := dk_92 (dk_at dksX11_strips_2 8 rfl rfl)
theorem dX11_strips_55 : decode cX11_strips 55 = .ok (.iaload, 1) := dk_46 (dk_at dksX11_strips_2 9 rfl rfl)
theorem dX11_strips_56 : decode cX11_strips 56 = .ok (.iload_n 2, 1) := dk_28 (dk_at dksX11_strips_2 10 rfl rfl)
theorem dX11_strips_57 : decode cX11_strips 57 = .ok (.isub, 1) := dk_100 (dk_at dksX11_strips_2 11 rfl rfl)
theorem dX11_strips_58 : decode cX11_strips 58 = .ok (.iastore, 1) := dk_79 (dk_at dksX11_strips_2 12 rfl rfl)
theorem dX11_strips_59 : decode cX11_strips 59 = .ok (.iload_n 2, 1) := dk_28 (dk_at dksX11_strips_2 13 rfl rfl)
theorem dX11_strips_60 : decode cX11_strips 60 = .ok (.ireturn, 1) := dk_172 (dk_at dksX11_strips_2 14 rfl rfl)
abbrev cX11_divides : ByteArray := prog_18_method_112_code
def yX11_divides : MethodName := ⟨RX11, "divides", "(III)V"⟩
def dkwX11_divides_5 : List UInt8 := [182, 0, 99, 132, 7, 1, 167, 255, 205, 132, 5, 1, 167, 255, 161, 177]
abbrev dktX11_divides_5 : List UInt8 := dkwX11_divides_5 ++ []
def dkwX11_divides_4 : List UInt8 := [21, 7, 96, 182, 0, 103, 42, 21, 6, 42, 28, 21, 7, 182, 0, 103, 182, 0, 86, 182, 0, 149]
abbrev dktX11_divides_4 : List UInt8 := dkwX11_divides_4 ++ dktX11_divides_5
def dkwX11_divides_3 : List UInt8 := [21, 7, 42, 180, 0, 20, 28, 46, 163, 0, 46, 42, 27, 21, 5, 21, 7, 96, 42, 42, 27, 21, 5]
abbrev dktX11_divides_3 : List UInt8 := dkwX11_divides_3 ++ dktX11_divides_4
def dkwX11_divides_2 : List UInt8 := [21, 5, 182, 0, 103, 21, 4, 182, 0, 86, 54, 6, 42, 29, 21, 5, 21, 6, 182, 0, 99, 3, 54, 7]
abbrev dktX11_divides_2 : List UInt8 := dkwX11_divides_2 ++ dktX11_divides_3
def dkwX11_divides_1 : List UInt8 := [28, 46, 100, 182, 0, 106, 3, 54, 5, 21, 5, 42, 180, 0, 20, 29, 46, 163, 0, 90, 42, 42, 27]
abbrev dktX11_divides_1 : List UInt8 := dkwX11_divides_1 ++ dktX11_divides_2
def dkwX11_divides_0 : List UInt8 := [42, 42, 28, 3, 182, 0, 103, 182, 0, 232, 54, 4, 42, 29, 42, 180, 0, 20, 27, 46, 42, 180, 0, 20]
abbrev dktX11_divides_0 : List UInt8 := dkwX11_divides_0 ++ dktX11_divides_1
theorem dksX11_divides_0 : cX11_divides.data.toList.drop 0 = dktX11_divides_0 := by decide +kernel
theorem dksX11_divides_1 : cX11_divides.data.toList.drop 24 = dktX11_divides_1 := dk_seg dksX11_divides_0 24 rfl rfl
theorem dksX11_divides_2 : cX11_divides.data.toList.drop 47 = dktX11_divides_2 := dk_seg dksX11_divides_1 23 rfl rfl
theorem dksX11_divides_3 : cX11_divides.data.toList.drop 71 = dktX11_divides_3 := dk_seg dksX11_divides_2 24 rfl rfl
theorem dksX11_divides_4 : cX11_divides.data.toList.drop 94 = dktX11_divides_4 := dk_seg dksX11_divides_3 23 rfl rfl
theorem dksX11_divides_5 : cX11_divides.data.toList.drop 116 = dktX11_divides_5 := dk_seg dksX11_divides_4 22 rfl rfl
theorem dX11_divides_0 : decode cX11_divides 0 = .ok (.aload_n 0, 1) := dk_42 (dk_at dksX11_divides_0 0 rfl rfl)
theorem dX11_divides_1 : decode cX11_divides 1 = .ok (.aload_n 0, 1) := dk_42 (dk_at dksX11_divides_0 1 rfl rfl)
theorem dX11_divides_2 : decode cX11_divides 2 = .ok (.iload_n 2, 1) := dk_28 (dk_at dksX11_divides_0 2 rfl rfl)
theorem dX11_divides_3 : decode cX11_divides 3 = .ok (.iconst 0, 1) := dk_3 (dk_at dksX11_divides_0 3 rfl rfl)
theorem dX11_divides_4 : decode cX11_divides 4 = .ok (.invokevirtual 103, 3) := dk_182 0 103 (dk_at dksX11_divides_0 4 rfl rfl)
theorem dX11_divides_7 : decode cX11_divides 7 = .ok (.invokevirtual 232, 3) := dk_182 0 232 (dk_at dksX11_divides_0 7 rfl rfl)
theorem dX11_divides_10 : decode cX11_divides 10 = .ok (.istore 4, 2) := dk_54 4 (dk_at dksX11_divides_0 10 rfl rfl)
theorem dX11_divides_12 : decode cX11_divides 12 = .ok (.aload_n 0, 1) := dk_42 (dk_at dksX11_divides_0 12 rfl rfl)
theorem dX11_divides_13 : decode cX11_divides 13 = .ok (.iload_n 3, 1) := dk_29 (dk_at dksX11_divides_0 13 rfl rfl)
theorem dX11_divides_14 : decode cX11_divides 14 = .ok (.aload_n 0, 1) := dk_42 (dk_at dksX11_divides_0 14 rfl rfl)
theorem dX11_divides_15 : decode cX11_divides 15 = .ok (.getfield 20, 3) := dk_180 0 20 (dk_at dksX11_divides_0 15 rfl rfl)
theorem dX11_divides_18 : decode cX11_divides 18 = .ok (.iload_n 1, 1) := dk_27 (dk_at dksX11_divides_0 18 rfl rfl)
theorem dX11_divides_19 : decode cX11_divides 19 = .ok (.iaload, 1) := dk_46 (dk_at dksX11_divides_0 19 rfl rfl)
theorem dX11_divides_20 : decode cX11_divides 20 = .ok (.aload_n 0, 1) := dk_42 (dk_at dksX11_divides_0 20 rfl rfl)
theorem dX11_divides_21 : decode cX11_divides 21 = .ok (.getfield 20, 3) := dk_180 0 20 (dk_at dksX11_divides_0 21 rfl rfl)
theorem dX11_divides_24 : decode cX11_divides 24 = .ok (.iload_n 2, 1) := dk_28 (dk_at dksX11_divides_1 0 rfl rfl)
theorem dX11_divides_25 : decode cX11_divides 25 = .ok (.iaload, 1) := dk_46 (dk_at dksX11_divides_1 1 rfl rfl)
theorem dX11_divides_26 : decode cX11_divides 26 = .ok (.isub, 1) := dk_100 (dk_at dksX11_divides_1 2 rfl rfl)
theorem dX11_divides_27 : decode cX11_divides 27 = .ok (.invokevirtual 106, 3) := dk_182 0 106 (dk_at dksX11_divides_1 3 rfl rfl)
theorem dX11_divides_30 : decode cX11_divides 30 = .ok (.iconst 0, 1) := dk_3 (dk_at dksX11_divides_1 6 rfl rfl)
theorem dX11_divides_31 : decode cX11_divides 31 = .ok (.istore 5, 2) := dk_54 5 (dk_at dksX11_divides_1 7 rfl rfl)
theorem dX11_divides_33 : decode cX11_divides 33 = .ok (.iload 5, 2) := dk_21 5 (dk_at dksX11_divides_1 9 rfl rfl)
theorem dX11_divides_35 : decode cX11_divides 35 = .ok (.aload_n 0, 1) := dk_42 (dk_at dksX11_divides_1 11 rfl rfl)
theorem dX11_divides_36 : decode cX11_divides 36 = .ok (.getfield 20, 3) := dk_180 0 20 (dk_at dksX11_divides_1 12 rfl rfl)
theorem dX11_divides_39 : decode cX11_divides 39 = .ok (.iload_n 3, 1) := dk_29 (dk_at dksX11_divides_1 15 rfl rfl)
theorem dX11_divides_40 : decode cX11_divides 40 = .ok (.iaload, 1) := dk_46 (dk_at dksX11_divides_1 16 rfl rfl)
theorem dX11_divides_41 : decode cX11_divides 41 = .ok (.if_icmp .gt 90, 3) := dk_163 0 90 (dk_at dksX11_divides_1 17 rfl rfl)
theorem dX11_divides_44 : decode cX11_divides 44 = .ok (.aload_n 0, 1) := dk_42 (dk_at dksX11_divides_1 20 rfl rfl)
theorem dX11_divides_45 : decode cX11_divides 45 = .ok (.aload_n 0, 1) := dk_42 (dk_at dksX11_divides_1 21 rfl rfl)
theorem dX11_divides_46 : decode cX11_divides 46 = .ok (.iload_n 1, 1) := dk_27 (dk_at dksX11_divides_1 22 rfl rfl)
theorem dX11_divides_47 : decode cX11_divides 47 = .ok (.iload 5, 2) := dk_21 5 (dk_at dksX11_divides_2 0 rfl rfl)
theorem dX11_divides_49 : decode cX11_divides 49 = .ok (.invokevirtual 103, 3) := dk_182 0 103 (dk_at dksX11_divides_2 2 rfl rfl)
theorem dX11_divides_52 : decode cX11_divides 52 = .ok (.iload 4, 2) := dk_21 4 (dk_at dksX11_divides_2 5 rfl rfl)
theorem dX11_divides_54 : decode cX11_divides 54 = .ok (.invokevirtual 86, 3) := dk_182 0 86 (dk_at dksX11_divides_2 7 rfl rfl)
theorem dX11_divides_57 : decode cX11_divides 57 = .ok (.istore 6, 2) := dk_54 6 (dk_at dksX11_divides_2 10 rfl rfl)
theorem dX11_divides_59 : decode cX11_divides 59 = .ok (.aload_n 0, 1) := dk_42 (dk_at dksX11_divides_2 12 rfl rfl)
theorem dX11_divides_60 : decode cX11_divides 60 = .ok (.iload_n 3, 1) := dk_29 (dk_at dksX11_divides_2 13 rfl rfl)
theorem dX11_divides_61 : decode cX11_divides 61 = .ok (.iload 5, 2) := dk_21 5 (dk_at dksX11_divides_2 14 rfl rfl)
theorem dX11_divides_63 : decode cX11_divides 63 = .ok (.iload 6, 2) := dk_21 6 (dk_at dksX11_divides_2 16 rfl rfl)
theorem dX11_divides_65 : decode cX11_divides 65 = .ok (.invokevirtual 99, 3) := dk_182 0 99 (dk_at dksX11_divides_2 18 rfl rfl)
theorem dX11_divides_68 : decode cX11_divides 68 = .ok (.iconst 0, 1) := dk_3 (dk_at dksX11_divides_2 21 rfl rfl)
theorem dX11_divides_69 : decode cX11_divides 69 = .ok (.istore 7, 2) := dk_54 7 (dk_at dksX11_divides_2 22 rfl rfl)
theorem dX11_divides_71 : decode cX11_divides 71 = .ok (.iload 7, 2) := dk_21 7 (dk_at dksX11_divides_3 0 rfl rfl)
theorem dX11_divides_73 : decode cX11_divides 73 = .ok (.aload_n 0, 1) := dk_42 (dk_at dksX11_divides_3 2 rfl rfl)
theorem dX11_divides_74 : decode cX11_divides 74 = .ok (.getfield 20, 3) := dk_180 0 20 (dk_at dksX11_divides_3 3 rfl rfl)
theorem dX11_divides_77 : decode cX11_divides 77 = .ok (.iload_n 2, 1) := dk_28 (dk_at dksX11_divides_3 6 rfl rfl)
theorem dX11_divides_78 : decode cX11_divides 78 = .ok (.iaload, 1) := dk_46 (dk_at dksX11_divides_3 7 rfl rfl)
theorem dX11_divides_79 : decode cX11_divides 79 = .ok (.if_icmp .gt 46, 3) := dk_163 0 46 (dk_at dksX11_divides_3 8 rfl rfl)
theorem dX11_divides_82 : decode cX11_divides 82 = .ok (.aload_n 0, 1) := dk_42 (dk_at dksX11_divides_3 11 rfl rfl)
theorem dX11_divides_83 : decode cX11_divides 83 = .ok (.iload_n 1, 1) := dk_27 (dk_at dksX11_divides_3 12 rfl rfl)
theorem dX11_divides_84 : decode cX11_divides 84 = .ok (.iload 5, 2) := dk_21 5 (dk_at dksX11_divides_3 13 rfl rfl)
theorem dX11_divides_86 : decode cX11_divides 86 = .ok (.iload 7, 2) := dk_21 7 (dk_at dksX11_divides_3 15 rfl rfl)
theorem dX11_divides_88 : decode cX11_divides 88 = .ok (.iadd, 1) := dk_96 (dk_at dksX11_divides_3 17 rfl rfl)
theorem dX11_divides_89 : decode cX11_divides 89 = .ok (.aload_n 0, 1) := dk_42 (dk_at dksX11_divides_3 18 rfl rfl)
theorem dX11_divides_90 : decode cX11_divides 90 = .ok (.aload_n 0, 1) := dk_42 (dk_at dksX11_divides_3 19 rfl rfl)
theorem dX11_divides_91 : decode cX11_divides 91 = .ok (.iload_n 1, 1) := dk_27 (dk_at dksX11_divides_3 20 rfl rfl)
theorem dX11_divides_92 : decode cX11_divides 92 = .ok (.iload 5, 2) := dk_21 5 (dk_at dksX11_divides_3 21 rfl rfl)
theorem dX11_divides_94 : decode cX11_divides 94 = .ok (.iload 7, 2) := dk_21 7 (dk_at dksX11_divides_4 0 rfl rfl)
theorem dX11_divides_96 : decode cX11_divides 96 = .ok (.iadd, 1) := dk_96 (dk_at dksX11_divides_4 2 rfl rfl)
theorem dX11_divides_97 : decode cX11_divides 97 = .ok (.invokevirtual 103, 3) := dk_182 0 103 (dk_at dksX11_divides_4 3 rfl rfl)
theorem dX11_divides_100 : decode cX11_divides 100 = .ok (.aload_n 0, 1) := dk_42 (dk_at dksX11_divides_4 6 rfl rfl)
theorem dX11_divides_101 : decode cX11_divides 101 = .ok (.iload 6, 2) := dk_21 6 (dk_at dksX11_divides_4 7 rfl rfl)
theorem dX11_divides_103 : decode cX11_divides 103 = .ok (.aload_n 0, 1) := dk_42 (dk_at dksX11_divides_4 9 rfl rfl)
theorem dX11_divides_104 : decode cX11_divides 104 = .ok (.iload_n 2, 1) := dk_28 (dk_at dksX11_divides_4 10 rfl rfl)
theorem dX11_divides_105 : decode cX11_divides 105 = .ok (.iload 7, 2) := dk_21 7 (dk_at dksX11_divides_4 11 rfl rfl)
theorem dX11_divides_107 : decode cX11_divides 107 = .ok (.invokevirtual 103, 3) := dk_182 0 103 (dk_at dksX11_divides_4 13 rfl rfl)
theorem dX11_divides_110 : decode cX11_divides 110 = .ok (.invokevirtual 86, 3) := dk_182 0 86 (dk_at dksX11_divides_4 16 rfl rfl)
theorem dX11_divides_113 : decode cX11_divides 113 = .ok (.invokevirtual 149, 3) := dk_182 0 149 (dk_at dksX11_divides_4 19 rfl rfl)
theorem dX11_divides_116 : decode cX11_divides 116 = .ok (.invokevirtual 99, 3) := dk_182 0 99 (dk_at dksX11_divides_5 0 rfl rfl)
theorem dX11_divides_119 : decode cX11_divides 119 = .ok (.iinc 7 1, 3) := dk_132 7 1 (dk_at dksX11_divides_5 3 rfl rfl)
theorem dX11_divides_122 : decode cX11_divides 122 = .ok (.goto (-51), 3) := dk_167 255 205 (dk_at dksX11_divides_5 6 rfl rfl)
theorem dX11_divides_125 : decode cX11_divides 125 = .ok (.iinc 5 1, 3) := dk_132 5 1 (dk_at dksX11_divides_5 9 rfl rfl)
theorem dX11_divides_128 : decode cX11_divides 128 = .ok (.goto (-95), 3) := dk_167 255 161 (dk_at dksX11_divides_5 12 rfl rfl)
theorem dX11_divides_131 : decode cX11_divides 131 = .ok (.return_, 1) := dk_177 (dk_at dksX11_divides_5 15 rfl rfl)
abbrev cX11_toldOf : ByteArray := prog_18_method_114_code
def yX11_toldOf : MethodName := ⟨RX11, "toldOf", "(II)I"⟩
def dkwX11_toldOf_1 : List UInt8 := [184, 0, 68, 153, 0, 12, 42, 27, 28, 182, 0, 103, 167, 0, 4, 2, 172]
abbrev dktX11_toldOf_1 : List UInt8 := dkwX11_toldOf_1 ++ []
def dkwX11_toldOf_0 : List UInt8 := [28, 2, 160, 0, 12, 42, 180, 0, 20, 27, 46, 167, 0, 27, 28, 3, 42, 180, 0, 20, 27, 46]
abbrev dktX11_toldOf_0 : List UInt8 := dkwX11_toldOf_0 ++ dktX11_toldOf_1
theorem dksX11_toldOf_0 : cX11_toldOf.data.toList.drop 0 = dktX11_toldOf_0 := by decide +kernel
theorem dksX11_toldOf_1 : cX11_toldOf.data.toList.drop 22 = dktX11_toldOf_1 := dk_seg dksX11_toldOf_0 22 rfl rfl
theorem dX11_toldOf_0 : decode cX11_toldOf 0 = .ok (.iload_n 2, 1) := dk_28 (dk_at dksX11_toldOf_0 0 rfl rfl)
theorem dX11_toldOf_1 : decode cX11_toldOf 1 = .ok (.iconst (-1), 1) := dk_2 (dk_at dksX11_toldOf_0 1 rfl rfl)
theorem dX11_toldOf_2 : decode cX11_toldOf 2 = .ok (.if_icmp .ne 12, 3) := dk_160 0 12 (dk_at dksX11_toldOf_0 2 rfl rfl)
theorem dX11_toldOf_5 : decode cX11_toldOf 5 = .ok (.aload_n 0, 1) := dk_42 (dk_at dksX11_toldOf_0 5 rfl rfl)
theorem dX11_toldOf_6 : decode cX11_toldOf 6 = .ok (.getfield 20, 3) := dk_180 0 20 (dk_at dksX11_toldOf_0 6 rfl rfl)
theorem dX11_toldOf_9 : decode cX11_toldOf 9 = .ok (.iload_n 1, 1) := dk_27 (dk_at dksX11_toldOf_0 9 rfl rfl)
theorem dX11_toldOf_10 : decode cX11_toldOf 10 = .ok (.iaload, 1) := dk_46 (dk_at dksX11_toldOf_0 10 rfl rfl)
theorem dX11_toldOf_11 : decode cX11_toldOf 11 = .ok (.goto 27, 3) := dk_167 0 27 (dk_at dksX11_toldOf_0 11 rfl rfl)
theorem dX11_toldOf_14 : decode cX11_toldOf 14 = .ok (.iload_n 2, 1) := dk_28 (dk_at dksX11_toldOf_0 14 rfl rfl)
theorem dX11_toldOf_15 : decode cX11_toldOf 15 = .ok (.iconst 0, 1) := dk_3 (dk_at dksX11_toldOf_0 15 rfl rfl)
theorem dX11_toldOf_16 : decode cX11_toldOf 16 = .ok (.aload_n 0, 1) := dk_42 (dk_at dksX11_toldOf_0 16 rfl rfl)
theorem dX11_toldOf_17 : decode cX11_toldOf 17 = .ok (.getfield 20, 3) := dk_180 0 20 (dk_at dksX11_toldOf_0 17 rfl rfl)
theorem dX11_toldOf_20 : decode cX11_toldOf 20 = .ok (.iload_n 1, 1) := dk_27 (dk_at dksX11_toldOf_0 20 rfl rfl)
theorem dX11_toldOf_21 : decode cX11_toldOf 21 = .ok (.iaload, 1) := dk_46 (dk_at dksX11_toldOf_0 21 rfl rfl)
theorem dX11_toldOf_22 : decode cX11_toldOf 22 = .ok (.invokestatic 68, 3) := dk_184 0 68 (dk_at dksX11_toldOf_1 0 rfl rfl)
theorem dX11_toldOf_25 : decode cX11_toldOf 25 = .ok (.ifCond .eq 12, 3) := dk_153 0 12 (dk_at dksX11_toldOf_1 3 rfl rfl)
theorem dX11_toldOf_28 : decode cX11_toldOf 28 = .ok (.aload_n 0, 1) := dk_42 (dk_at dksX11_toldOf_1 6 rfl rfl)
theorem dX11_toldOf_29 : decode cX11_toldOf 29 = .ok (.iload_n 1, 1) := dk_27 (dk_at dksX11_toldOf_1 7 rfl rfl)
theorem dX11_toldOf_30 : decode cX11_toldOf 30 = .ok (.iload_n 2, 1) := dk_28 (dk_at dksX11_toldOf_1 8 rfl rfl)
theorem dX11_toldOf_31 : decode cX11_toldOf 31 = .ok (.invokevirtual 103, 3) := dk_182 0 103 (dk_at dksX11_toldOf_1 9 rfl rfl)
theorem dX11_toldOf_34 : decode cX11_toldOf 34 = .ok (.goto 4, 3) := dk_167 0 4 (dk_at dksX11_toldOf_1 12 rfl rfl)
theorem dX11_toldOf_37 : decode cX11_toldOf 37 = .ok (.iconst (-1), 1) := dk_2 (dk_at dksX11_toldOf_1 15 rfl rfl)
theorem dX11_toldOf_38 : decode cX11_toldOf 38 = .ok (.ireturn, 1) := dk_172 (dk_at dksX11_toldOf_1 16 rfl rfl)
abbrev cX11_quotient : ByteArray := prog_18_method_117_code
def yX11_quotient : MethodName := ⟨RX11, "quotient", "(III)I"⟩
def dkwX11_quotient_2 : List UInt8 := [182, 0, 241, 42, 182, 1, 122, 153, 0, 13, 42, 16, 42, 29, 182, 1, 119, 167, 0, 5, 16, 254, 172]
abbrev dktX11_quotient_2 : List UInt8 := dkwX11_quotient_2 ++ []
def dkwX11_quotient_1 : List UInt8 := [167, 0, 4, 3, 4, 182, 0, 215, 153, 0, 5, 3, 172, 42, 16, 40, 27, 182, 0, 241, 42, 16, 41, 28]
abbrev dktX11_quotient_1 : List UInt8 := dkwX11_quotient_1 ++ dktX11_quotient_2
def dkwX11_quotient_0 : List UInt8 := [42, 3, 181, 0, 3, 42, 42, 27, 182, 0, 238, 154, 0, 11, 42, 28, 182, 0, 238, 153, 0, 7, 4]
abbrev dktX11_quotient_0 : List UInt8 := dkwX11_quotient_0 ++ dktX11_quotient_1
theorem dksX11_quotient_0 : cX11_quotient.data.toList.drop 0 = dktX11_quotient_0 := by decide +kernel
theorem dksX11_quotient_1 : cX11_quotient.data.toList.drop 23 = dktX11_quotient_1 := dk_seg dksX11_quotient_0 23 rfl rfl
theorem dksX11_quotient_2 : cX11_quotient.data.toList.drop 47 = dktX11_quotient_2 := dk_seg dksX11_quotient_1 24 rfl rfl
theorem dX11_quotient_0 : decode cX11_quotient 0 = .ok (.aload_n 0, 1) := dk_42 (dk_at dksX11_quotient_0 0 rfl rfl)
theorem dX11_quotient_1 : decode cX11_quotient 1 = .ok (.iconst 0, 1) := dk_3 (dk_at dksX11_quotient_0 1 rfl rfl)
theorem dX11_quotient_2 : decode cX11_quotient 2 = .ok (.putfield 3, 3) := dk_181 0 3 (dk_at dksX11_quotient_0 2 rfl rfl)
theorem dX11_quotient_5 : decode cX11_quotient 5 = .ok (.aload_n 0, 1) := dk_42 (dk_at dksX11_quotient_0 5 rfl rfl)
theorem dX11_quotient_6 : decode cX11_quotient 6 = .ok (.aload_n 0, 1) := dk_42 (dk_at dksX11_quotient_0 6 rfl rfl)
theorem dX11_quotient_7 : decode cX11_quotient 7 = .ok (.iload_n 1, 1) := dk_27 (dk_at dksX11_quotient_0 7 rfl rfl)
theorem dX11_quotient_8 : decode cX11_quotient 8 = .ok (.invokevirtual 238, 3) := dk_182 0 238 (dk_at dksX11_quotient_0 8 rfl rfl)
theorem dX11_quotient_11 : decode cX11_quotient 11 = .ok (.ifCond .ne 11, 3) := dk_154 0 11 (dk_at dksX11_quotient_0 11 rfl rfl)
theorem dX11_quotient_14 : decode cX11_quotient 14 = .ok (.aload_n 0, 1) := dk_42 (dk_at dksX11_quotient_0 14 rfl rfl)
theorem dX11_quotient_15 : decode cX11_quotient 15 = .ok (.iload_n 2, 1) := dk_28 (dk_at dksX11_quotient_0 15 rfl rfl)
theorem dX11_quotient_16 : decode cX11_quotient 16 = .ok (.invokevirtual 238, 3) := dk_182 0 238 (dk_at dksX11_quotient_0 16 rfl rfl)
theorem dX11_quotient_19 : decode cX11_quotient 19 = .ok (.ifCond .eq 7, 3) := dk_153 0 7 (dk_at dksX11_quotient_0 19 rfl rfl)
theorem dX11_quotient_22 : decode cX11_quotient 22 = .ok (.iconst 1, 1) := dk_4 (dk_at dksX11_quotient_0 22 rfl rfl)
theorem dX11_quotient_23 : decode cX11_quotient 23 = .ok (.goto 4, 3) := dk_167 0 4 (dk_at dksX11_quotient_1 0 rfl rfl)
theorem dX11_quotient_26 : decode cX11_quotient 26 = .ok (.iconst 0, 1) := dk_3 (dk_at dksX11_quotient_1 3 rfl rfl)
theorem dX11_quotient_27 : decode cX11_quotient 27 = .ok (.iconst 1, 1) := dk_4 (dk_at dksX11_quotient_1 4 rfl rfl)
theorem dX11_quotient_28 : decode cX11_quotient 28 = .ok (.invokevirtual 215, 3) := dk_182 0 215 (dk_at dksX11_quotient_1 5 rfl rfl)
theorem dX11_quotient_31 : decode cX11_quotient 31 = .ok (.ifCond .eq 5, 3) := dk_153 0 5 (dk_at dksX11_quotient_1 8 rfl rfl)
theorem dX11_quotient_34 : decode cX11_quotient 34 = .ok (.iconst 0, 1) := dk_3 (dk_at dksX11_quotient_1 11 rfl rfl)
theorem dX11_quotient_35 : decode cX11_quotient 35 = .ok (.ireturn, 1) := dk_172 (dk_at dksX11_quotient_1 12 rfl rfl)
theorem dX11_quotient_36 : decode cX11_quotient 36 = .ok (.aload_n 0, 1) := dk_42 (dk_at dksX11_quotient_1 13 rfl rfl)
theorem dX11_quotient_37 : decode cX11_quotient 37 = .ok (.bipush 40, 2) := dk_16 40 (dk_at dksX11_quotient_1 14 rfl rfl)
theorem dX11_quotient_39 : decode cX11_quotient 39 = .ok (.iload_n 1, 1) := dk_27 (dk_at dksX11_quotient_1 16 rfl rfl)
theorem dX11_quotient_40 : decode cX11_quotient 40 = .ok (.invokevirtual 241, 3) := dk_182 0 241 (dk_at dksX11_quotient_1 17 rfl rfl)
theorem dX11_quotient_43 : decode cX11_quotient 43 = .ok (.aload_n 0, 1) := dk_42 (dk_at dksX11_quotient_1 20 rfl rfl)
theorem dX11_quotient_44 : decode cX11_quotient 44 = .ok (.bipush 41, 2) := dk_16 41 (dk_at dksX11_quotient_1 21 rfl rfl)
theorem dX11_quotient_46 : decode cX11_quotient 46 = .ok (.iload_n 2, 1) := dk_28 (dk_at dksX11_quotient_1 23 rfl rfl)
theorem dX11_quotient_47 : decode cX11_quotient 47 = .ok (.invokevirtual 241, 3) := dk_182 0 241 (dk_at dksX11_quotient_2 0 rfl rfl)
theorem dX11_quotient_50 : decode cX11_quotient 50 = .ok (.aload_n 0, 1) := dk_42 (dk_at dksX11_quotient_2 3 rfl rfl)
theorem dX11_quotient_51 : decode cX11_quotient 51 = .ok (.invokevirtual 378, 3) := dk_182 1 122 (dk_at dksX11_quotient_2 4 rfl rfl)
theorem dX11_quotient_54 : decode cX11_quotient 54 = .ok (.ifCond .eq 13, 3) := dk_153 0 13 (dk_at dksX11_quotient_2 7 rfl rfl)
theorem dX11_quotient_57 : decode cX11_quotient 57 = .ok (.aload_n 0, 1) := dk_42 (dk_at dksX11_quotient_2 10 rfl rfl)
theorem dX11_quotient_58 : decode cX11_quotient 58 = .ok (.bipush 42, 2) := dk_16 42 (dk_at dksX11_quotient_2 11 rfl rfl)
theorem dX11_quotient_60 : decode cX11_quotient 60 = .ok (.iload_n 3, 1) := dk_29 (dk_at dksX11_quotient_2 13 rfl rfl)
theorem dX11_quotient_61 : decode cX11_quotient 61 = .ok (.invokevirtual 375, 3) := dk_182 1 119 (dk_at dksX11_quotient_2 14 rfl rfl)
theorem dX11_quotient_64 : decode cX11_quotient 64 = .ok (.goto 5, 3) := dk_167 0 5 (dk_at dksX11_quotient_2 17 rfl rfl)
theorem dX11_quotient_67 : decode cX11_quotient 67 = .ok (.bipush (-2), 2) := dk_16 254 (dk_at dksX11_quotient_2 20 rfl rfl)
theorem dX11_quotient_69 : decode cX11_quotient 69 = .ok (.ireturn, 1) := dk_172 (dk_at dksX11_quotient_2 22 rfl rfl)
abbrev cX11_hasQuotient : ByteArray := prog_18_method_116_code
def yX11_hasQuotient : MethodName := ⟨RX11, "hasQuotient", "()Z"⟩
def dkwX11_hasQuotient_6 : List UInt8 := [16, 42, 29, 28, 96, 42, 16, 43, 29, 182, 0, 103, 182, 0, 99, 132, 3, 1, 167, 255, 226, 4, 172]
abbrev dktX11_hasQuotient_6 : List UInt8 := dkwX11_hasQuotient_6 ++ []
def dkwX11_hasQuotient_5 : List UInt8 := [3, 172, 42, 16, 42, 27, 182, 0, 106, 3, 62, 29, 42, 180, 0, 20, 16, 43, 46, 163, 0, 25, 42]
abbrev dktX11_hasQuotient_5 : List UInt8 := dkwX11_hasQuotient_5 ++ dktX11_hasQuotient_6
def dkwX11_hasQuotient_4 : List UInt8 := [162, 0, 5, 3, 172, 42, 16, 40, 16, 41, 16, 43, 182, 1, 113, 42, 16, 40, 182, 1, 64, 154, 0, 5]
abbrev dktX11_hasQuotient_4 : List UInt8 := dkwX11_hasQuotient_4 ++ dktX11_hasQuotient_5
def dkwX11_hasQuotient_3 : List UInt8 := [182, 1, 107, 100, 61, 28, 155, 0, 20, 42, 180, 0, 20, 16, 40, 46, 42, 180, 0, 20, 16, 41, 46]
abbrev dktX11_hasQuotient_3 : List UInt8 := dkwX11_hasQuotient_3 ++ dktX11_hasQuotient_4
def dkwX11_hasQuotient_2 : List UInt8 := [182, 1, 64, 153, 0, 12, 42, 16, 42, 27, 182, 0, 106, 4, 172, 42, 16, 40, 182, 1, 107, 42, 16, 41]
abbrev dktX11_hasQuotient_2 : List UInt8 := dkwX11_hasQuotient_2 ++ dktX11_hasQuotient_3
def dkwX11_hasQuotient_1 : List UInt8 := [162, 0, 5, 3, 172, 42, 180, 0, 20, 16, 40, 46, 42, 180, 0, 20, 16, 41, 46, 100, 60, 42, 16, 40]
abbrev dktX11_hasQuotient_1 : List UInt8 := dkwX11_hasQuotient_1 ++ dktX11_hasQuotient_2
def dkwX11_hasQuotient_0 : List UInt8 := [42, 16, 41, 182, 1, 64, 154, 0, 20, 42, 180, 0, 20, 16, 40, 46, 42, 180, 0, 20, 16, 41, 46]
abbrev dktX11_hasQuotient_0 : List UInt8 := dkwX11_hasQuotient_0 ++ dktX11_hasQuotient_1
theorem dksX11_hasQuotient_0 : cX11_hasQuotient.data.toList.drop 0 = dktX11_hasQuotient_0 := by decide +kernel
theorem dksX11_hasQuotient_1 : cX11_hasQuotient.data.toList.drop 23 = dktX11_hasQuotient_1 := dk_seg dksX11_hasQuotient_0 23 rfl rfl
theorem dksX11_hasQuotient_2 : cX11_hasQuotient.data.toList.drop 47 = dktX11_hasQuotient_2 := dk_seg dksX11_hasQuotient_1 24 rfl rfl
theorem dksX11_hasQuotient_3 : cX11_hasQuotient.data.toList.drop 71 = dktX11_hasQuotient_3 := dk_seg dksX11_hasQuotient_2 24 rfl rfl
theorem dksX11_hasQuotient_4 : cX11_hasQuotient.data.toList.drop 94 = dktX11_hasQuotient_4 := dk_seg dksX11_hasQuotient_3 23 rfl rfl
theorem dksX11_hasQuotient_5 : cX11_hasQuotient.data.toList.drop 118 = dktX11_hasQuotient_5 := dk_seg dksX11_hasQuotient_4 24 rfl rfl
theorem dksX11_hasQuotient_6 : cX11_hasQuotient.data.toList.drop 141 = dktX11_hasQuotient_6 := dk_seg dksX11_hasQuotient_5 23 rfl rfl
theorem dX11_hasQuotient_0 : decode cX11_hasQuotient 0 = .ok (.aload_n 0, 1) := dk_42 (dk_at dksX11_hasQuotient_0 0 rfl rfl)
theorem dX11_hasQuotient_1 : decode cX11_hasQuotient 1 = .ok (.bipush 41, 2) := dk_16 41 (dk_at dksX11_hasQuotient_0 1 rfl rfl)
theorem dX11_hasQuotient_3 : decode cX11_hasQuotient 3 = .ok (.invokevirtual 320, 3) := dk_182 1 64 (dk_at dksX11_hasQuotient_0 3 rfl rfl)
theorem dX11_hasQuotient_6 : decode cX11_hasQuotient 6 = .ok (.ifCond .ne 20, 3) := dk_154 0 20 (dk_at dksX11_hasQuotient_0 6 rfl rfl)
theorem dX11_hasQuotient_9 : decode cX11_hasQuotient 9 = .ok (.aload_n 0, 1) := dk_42 (dk_at dksX11_hasQuotient_0 9 rfl rfl)
theorem dX11_hasQuotient_10 : decode cX11_hasQuotient 10 = .ok (.getfield 20, 3) := dk_180 0 20 (dk_at dksX11_hasQuotient_0 10 rfl rfl)
theorem dX11_hasQuotient_13 : decode cX11_hasQuotient 13 = .ok (.bipush 40, 2) := dk_16 40 (dk_at dksX11_hasQuotient_0 13 rfl rfl)
theorem dX11_hasQuotient_15 : decode cX11_hasQuotient 15 = .ok (.iaload, 1) := dk_46 (dk_at dksX11_hasQuotient_0 15 rfl rfl)
theorem dX11_hasQuotient_16 : decode cX11_hasQuotient 16 = .ok (.aload_n 0, 1) := dk_42 (dk_at dksX11_hasQuotient_0 16 rfl rfl)
theorem dX11_hasQuotient_17 : decode cX11_hasQuotient 17 = .ok (.getfield 20, 3) := dk_180 0 20 (dk_at dksX11_hasQuotient_0 17 rfl rfl)
theorem dX11_hasQuotient_20 : decode cX11_hasQuotient 20 = .ok (.bipush 41, 2) := dk_16 41 (dk_at dksX11_hasQuotient_0 20 rfl rfl)
theorem dX11_hasQuotient_22 : decode cX11_hasQuotient 22 = .ok (.iaload, 1) := dk_46 (dk_at dksX11_hasQuotient_0 22 rfl rfl)
theorem dX11_hasQuotient_23 : decode cX11_hasQuotient 23 = .ok (.if_icmp .ge 5, 3) := dk_162 0 5 (dk_at dksX11_hasQuotient_1 0 rfl rfl)
theorem dX11_hasQuotient_26 : decode cX11_hasQuotient 26 = .ok (.iconst 0, 1) := dk_3 (dk_at dksX11_hasQuotient_1 3 rfl rfl)
theorem dX11_hasQuotient_27 : decode cX11_hasQuotient 27 = .ok (.ireturn, 1) := dk_172 (dk_at dksX11_hasQuotient_1 4 rfl rfl)
theorem dX11_hasQuotient_28 : decode cX11_hasQuotient 28 = .ok (.aload_n 0, 1) := dk_42 (dk_at dksX11_hasQuotient_1 5 rfl rfl)
theorem dX11_hasQuotient_29 : decode cX11_hasQuotient 29 = .ok (.getfield 20, 3) := dk_180 0 20 (dk_at dksX11_hasQuotient_1 6 rfl rfl)
theorem dX11_hasQuotient_32 : decode cX11_hasQuotient 32 = .ok (.bipush 40, 2) := dk_16 40 (dk_at dksX11_hasQuotient_1 9 rfl rfl)
theorem dX11_hasQuotient_34 : decode cX11_hasQuotient 34 = .ok (.iaload, 1) := dk_46 (dk_at dksX11_hasQuotient_1 11 rfl rfl)
theorem dX11_hasQuotient_35 : decode cX11_hasQuotient 35 = .ok (.aload_n 0, 1) := dk_42 (dk_at dksX11_hasQuotient_1 12 rfl rfl)
theorem dX11_hasQuotient_36 : decode cX11_hasQuotient 36 = .ok (.getfield 20, 3) := dk_180 0 20 (dk_at dksX11_hasQuotient_1 13 rfl rfl)
theorem dX11_hasQuotient_39 : decode cX11_hasQuotient 39 = .ok (.bipush 41, 2) := dk_16 41 (dk_at dksX11_hasQuotient_1 16 rfl rfl)
theorem dX11_hasQuotient_41 : decode cX11_hasQuotient 41 = .ok (.iaload, 1) := dk_46 (dk_at dksX11_hasQuotient_1 18 rfl rfl)
theorem dX11_hasQuotient_42 : decode cX11_hasQuotient 42 = .ok (.isub, 1) := dk_100 (dk_at dksX11_hasQuotient_1 19 rfl rfl)
theorem dX11_hasQuotient_43 : decode cX11_hasQuotient 43 = .ok (.istore_n 1, 1) := dk_60 (dk_at dksX11_hasQuotient_1 20 rfl rfl)
theorem dX11_hasQuotient_44 : decode cX11_hasQuotient 44 = .ok (.aload_n 0, 1) := dk_42 (dk_at dksX11_hasQuotient_1 21 rfl rfl)
theorem dX11_hasQuotient_45 : decode cX11_hasQuotient 45 = .ok (.bipush 40, 2) := dk_16 40 (dk_at dksX11_hasQuotient_1 22 rfl rfl)
theorem dX11_hasQuotient_47 : decode cX11_hasQuotient 47 = .ok (.invokevirtual 320, 3) := dk_182 1 64 (dk_at dksX11_hasQuotient_2 0 rfl rfl)
theorem dX11_hasQuotient_50 : decode cX11_hasQuotient 50 = .ok (.ifCond .eq 12, 3) := dk_153 0 12 (dk_at dksX11_hasQuotient_2 3 rfl rfl)
theorem dX11_hasQuotient_53 : decode cX11_hasQuotient 53 = .ok (.aload_n 0, 1) := dk_42 (dk_at dksX11_hasQuotient_2 6 rfl rfl)
theorem dX11_hasQuotient_54 : decode cX11_hasQuotient 54 = .ok (.bipush 42, 2) := dk_16 42 (dk_at dksX11_hasQuotient_2 7 rfl rfl)
theorem dX11_hasQuotient_56 : decode cX11_hasQuotient 56 = .ok (.iload_n 1, 1) := dk_27 (dk_at dksX11_hasQuotient_2 9 rfl rfl)
theorem dX11_hasQuotient_57 : decode cX11_hasQuotient 57 = .ok (.invokevirtual 106, 3) := dk_182 0 106 (dk_at dksX11_hasQuotient_2 10 rfl rfl)
theorem dX11_hasQuotient_60 : decode cX11_hasQuotient 60 = .ok (.iconst 1, 1) := dk_4 (dk_at dksX11_hasQuotient_2 13 rfl rfl)
theorem dX11_hasQuotient_61 : decode cX11_hasQuotient 61 = .ok (.ireturn, 1) := dk_172 (dk_at dksX11_hasQuotient_2 14 rfl rfl)
theorem dX11_hasQuotient_62 : decode cX11_hasQuotient 62 = .ok (.aload_n 0, 1) := dk_42 (dk_at dksX11_hasQuotient_2 15 rfl rfl)
theorem dX11_hasQuotient_63 : decode cX11_hasQuotient 63 = .ok (.bipush 40, 2) := dk_16 40 (dk_at dksX11_hasQuotient_2 16 rfl rfl)
theorem dX11_hasQuotient_65 : decode cX11_hasQuotient 65 = .ok (.invokevirtual 363, 3) := dk_182 1 107 (dk_at dksX11_hasQuotient_2 18 rfl rfl)
theorem dX11_hasQuotient_68 : decode cX11_hasQuotient 68 = .ok (.aload_n 0, 1) := dk_42 (dk_at dksX11_hasQuotient_2 21 rfl rfl)
theorem dX11_hasQuotient_69 : decode cX11_hasQuotient 69 = .ok (.bipush 41, 2) := dk_16 41 (dk_at dksX11_hasQuotient_2 22 rfl rfl)
theorem dX11_hasQuotient_71 : decode cX11_hasQuotient 71 = .ok (.invokevirtual 363, 3) := dk_182 1 107 (dk_at dksX11_hasQuotient_3 0 rfl rfl)
theorem dX11_hasQuotient_74 : decode cX11_hasQuotient 74 = .ok (.isub, 1) := dk_100 (dk_at dksX11_hasQuotient_3 3 rfl rfl)
theorem dX11_hasQuotient_75 : decode cX11_hasQuotient 75 = .ok (.istore_n 2, 1) := dk_61 (dk_at dksX11_hasQuotient_3 4 rfl rfl)
theorem dX11_hasQuotient_76 : decode cX11_hasQuotient 76 = .ok (.iload_n 2, 1) := dk_28 (dk_at dksX11_hasQuotient_3 5 rfl rfl)
theorem dX11_hasQuotient_77 : decode cX11_hasQuotient 77 = .ok (.ifCond .lt 20, 3) := dk_155 0 20 (dk_at dksX11_hasQuotient_3 6 rfl rfl)
theorem dX11_hasQuotient_80 : decode cX11_hasQuotient 80 = .ok (.aload_n 0, 1) := dk_42 (dk_at dksX11_hasQuotient_3 9 rfl rfl)
theorem dX11_hasQuotient_81 : decode cX11_hasQuotient 81 = .ok (.getfield 20, 3) := dk_180 0 20 (dk_at dksX11_hasQuotient_3 10 rfl rfl)
theorem dX11_hasQuotient_84 : decode cX11_hasQuotient 84 = .ok (.bipush 40, 2) := dk_16 40 (dk_at dksX11_hasQuotient_3 13 rfl rfl)
theorem dX11_hasQuotient_86 : decode cX11_hasQuotient 86 = .ok (.iaload, 1) := dk_46 (dk_at dksX11_hasQuotient_3 15 rfl rfl)
theorem dX11_hasQuotient_87 : decode cX11_hasQuotient 87 = .ok (.aload_n 0, 1) := dk_42 (dk_at dksX11_hasQuotient_3 16 rfl rfl)
theorem dX11_hasQuotient_88 : decode cX11_hasQuotient 88 = .ok (.getfield 20, 3) := dk_180 0 20 (dk_at dksX11_hasQuotient_3 17 rfl rfl)
theorem dX11_hasQuotient_91 : decode cX11_hasQuotient 91 = .ok (.bipush 41, 2) := dk_16 41 (dk_at dksX11_hasQuotient_3 20 rfl rfl)
theorem dX11_hasQuotient_93 : decode cX11_hasQuotient 93 = .ok (.iaload, 1) := dk_46 (dk_at dksX11_hasQuotient_3 22 rfl rfl)
theorem dX11_hasQuotient_94 : decode cX11_hasQuotient 94 = .ok (.if_icmp .ge 5, 3) := dk_162 0 5 (dk_at dksX11_hasQuotient_4 0 rfl rfl)
theorem dX11_hasQuotient_97 : decode cX11_hasQuotient 97 = .ok (.iconst 0, 1) := dk_3 (dk_at dksX11_hasQuotient_4 3 rfl rfl)
theorem dX11_hasQuotient_98 : decode cX11_hasQuotient 98 = .ok (.ireturn, 1) := dk_172 (dk_at dksX11_hasQuotient_4 4 rfl rfl)
theorem dX11_hasQuotient_99 : decode cX11_hasQuotient 99 = .ok (.aload_n 0, 1) := dk_42 (dk_at dksX11_hasQuotient_4 5 rfl rfl)
theorem dX11_hasQuotient_100 : decode cX11_hasQuotient 100 = .ok (.bipush 40, 2) := dk_16 40 (dk_at dksX11_hasQuotient_4 6 rfl rfl)
theorem dX11_hasQuotient_102 : decode cX11_hasQuotient 102 = .ok (.bipush 41, 2) := dk_16 41 (dk_at dksX11_hasQuotient_4 8 rfl rfl)
theorem dX11_hasQuotient_104 : decode cX11_hasQuotient 104 = .ok (.bipush 43, 2) := dk_16 43 (dk_at dksX11_hasQuotient_4 10 rfl rfl)
theorem dX11_hasQuotient_106 : decode cX11_hasQuotient 106 = .ok (.invokevirtual 369, 3) := dk_182 1 113 (dk_at dksX11_hasQuotient_4 12 rfl rfl)
theorem dX11_hasQuotient_109 : decode cX11_hasQuotient 109 = .ok (.aload_n 0, 1) := dk_42 (dk_at dksX11_hasQuotient_4 15 rfl rfl)
theorem dX11_hasQuotient_110 : decode cX11_hasQuotient 110 = .ok (.bipush 40, 2) := dk_16 40 (dk_at dksX11_hasQuotient_4 16 rfl rfl)
theorem dX11_hasQuotient_112 : decode cX11_hasQuotient 112 = .ok (.invokevirtual 320, 3) := dk_182 1 64 (dk_at dksX11_hasQuotient_4 18 rfl rfl)
theorem dX11_hasQuotient_115 : decode cX11_hasQuotient 115 = .ok (.ifCond .ne 5, 3) := dk_154 0 5 (dk_at dksX11_hasQuotient_4 21 rfl rfl)
theorem dX11_hasQuotient_118 : decode cX11_hasQuotient 118 = .ok (.iconst 0, 1) := dk_3 (dk_at dksX11_hasQuotient_5 0 rfl rfl)
theorem dX11_hasQuotient_119 : decode cX11_hasQuotient 119 = .ok (.ireturn, 1) := dk_172 (dk_at dksX11_hasQuotient_5 1 rfl rfl)
theorem dX11_hasQuotient_120 : decode cX11_hasQuotient 120 = .ok (.aload_n 0, 1) := dk_42 (dk_at dksX11_hasQuotient_5 2 rfl rfl)
theorem dX11_hasQuotient_121 : decode cX11_hasQuotient 121 = .ok (.bipush 42, 2) := dk_16 42 (dk_at dksX11_hasQuotient_5 3 rfl rfl)
theorem dX11_hasQuotient_123 : decode cX11_hasQuotient 123 = .ok (.iload_n 1, 1) := dk_27 (dk_at dksX11_hasQuotient_5 5 rfl rfl)
theorem dX11_hasQuotient_124 : decode cX11_hasQuotient 124 = .ok (.invokevirtual 106, 3) := dk_182 0 106 (dk_at dksX11_hasQuotient_5 6 rfl rfl)
theorem dX11_hasQuotient_127 : decode cX11_hasQuotient 127 = .ok (.iconst 0, 1) := dk_3 (dk_at dksX11_hasQuotient_5 9 rfl rfl)
theorem dX11_hasQuotient_128 : decode cX11_hasQuotient 128 = .ok (.istore_n 3, 1) := dk_62 (dk_at dksX11_hasQuotient_5 10 rfl rfl)
theorem dX11_hasQuotient_129 : decode cX11_hasQuotient 129 = .ok (.iload_n 3, 1) := dk_29 (dk_at dksX11_hasQuotient_5 11 rfl rfl)
theorem dX11_hasQuotient_130 : decode cX11_hasQuotient 130 = .ok (.aload_n 0, 1) := dk_42 (dk_at dksX11_hasQuotient_5 12 rfl rfl)
theorem dX11_hasQuotient_131 : decode cX11_hasQuotient 131 = .ok (.getfield 20, 3) := dk_180 0 20 (dk_at dksX11_hasQuotient_5 13 rfl rfl)
theorem dX11_hasQuotient_134 : decode cX11_hasQuotient 134 = .ok (.bipush 43, 2) := dk_16 43 (dk_at dksX11_hasQuotient_5 16 rfl rfl)
theorem dX11_hasQuotient_136 : decode cX11_hasQuotient 136 = .ok (.iaload, 1) := dk_46 (dk_at dksX11_hasQuotient_5 18 rfl rfl)
theorem dX11_hasQuotient_137 : decode cX11_hasQuotient 137 = .ok (.if_icmp .gt 25, 3) := dk_163 0 25 (dk_at dksX11_hasQuotient_5 19 rfl rfl)
theorem dX11_hasQuotient_140 : decode cX11_hasQuotient 140 = .ok (.aload_n 0, 1) := dk_42 (dk_at dksX11_hasQuotient_5 22 rfl rfl)
theorem dX11_hasQuotient_141 : decode cX11_hasQuotient 141 = .ok (.bipush 42, 2) := dk_16 42 (dk_at dksX11_hasQuotient_6 0 rfl rfl)
theorem dX11_hasQuotient_143 : decode cX11_hasQuotient 143 = .ok (.iload_n 3, 1) := dk_29 (dk_at dksX11_hasQuotient_6 2 rfl rfl)
theorem dX11_hasQuotient_144 : decode cX11_hasQuotient 144 = .ok (.iload_n 2, 1) := dk_28 (dk_at dksX11_hasQuotient_6 3 rfl rfl)
theorem dX11_hasQuotient_145 : decode cX11_hasQuotient 145 = .ok (.iadd, 1) := dk_96 (dk_at dksX11_hasQuotient_6 4 rfl rfl)
theorem dX11_hasQuotient_146 : decode cX11_hasQuotient 146 = .ok (.aload_n 0, 1) := dk_42 (dk_at dksX11_hasQuotient_6 5 rfl rfl)
theorem dX11_hasQuotient_147 : decode cX11_hasQuotient 147 = .ok (.bipush 43, 2) := dk_16 43 (dk_at dksX11_hasQuotient_6 6 rfl rfl)
theorem dX11_hasQuotient_149 : decode cX11_hasQuotient 149 = .ok (.iload_n 3, 1) := dk_29 (dk_at dksX11_hasQuotient_6 8 rfl rfl)
theorem dX11_hasQuotient_150 : decode cX11_hasQuotient 150 = .ok (.invokevirtual 103, 3) := dk_182 0 103 (dk_at dksX11_hasQuotient_6 9 rfl rfl)
theorem dX11_hasQuotient_153 : decode cX11_hasQuotient 153 = .ok (.invokevirtual 99, 3) := dk_182 0 99 (dk_at dksX11_hasQuotient_6 12 rfl rfl)
theorem dX11_hasQuotient_156 : decode cX11_hasQuotient 156 = .ok (.iinc 3 1, 3) := dk_132 3 1 (dk_at dksX11_hasQuotient_6 15 rfl rfl)
theorem dX11_hasQuotient_159 : decode cX11_hasQuotient 159 = .ok (.goto (-30), 3) := dk_167 255 226 (dk_at dksX11_hasQuotient_6 18 rfl rfl)
theorem dX11_hasQuotient_162 : decode cX11_hasQuotient 162 = .ok (.iconst 1, 1) := dk_4 (dk_at dksX11_hasQuotient_6 21 rfl rfl)
theorem dX11_hasQuotient_163 : decode cX11_hasQuotient 163 = .ok (.ireturn, 1) := dk_172 (dk_at dksX11_hasQuotient_6 22 rfl rfl)
abbrev cX11_plain : ByteArray := prog_18_method_118_code
def yX11_plain : MethodName := ⟨RX11, "plain", "(I)Z"⟩
def dkwX11_plain_4 : List UInt8 := [180, 0, 20, 16, 40, 46, 154, 0, 7, 4, 167, 0, 4, 3, 172]
abbrev dktX11_plain_4 : List UInt8 := dkwX11_plain_4 ++ []
def dkwX11_plain_3 : List UInt8 := [182, 1, 64, 154, 0, 12, 42, 16, 41, 182, 1, 64, 153, 0, 5, 3, 172, 42, 182, 1, 116, 42]
abbrev dktX11_plain_3 : List UInt8 := dkwX11_plain_3 ++ dktX11_plain_4
def dkwX11_plain_2 : List UInt8 := [172, 42, 16, 44, 4, 3, 16, 40, 182, 0, 121, 42, 16, 44, 3, 4, 16, 41, 182, 0, 121, 42, 16, 40]
abbrev dktX11_plain_2 : List UInt8 := dkwX11_plain_2 ++ dktX11_plain_3
def dkwX11_plain_1 : List UInt8 := [182, 0, 241, 42, 180, 0, 20, 16, 44, 46, 5, 161, 0, 12, 42, 16, 44, 182, 1, 64, 153, 0, 5, 3]
abbrev dktX11_plain_1 : List UInt8 := dkwX11_plain_1 ++ dktX11_plain_2
def dkwX11_plain_0 : List UInt8 := [42, 3, 181, 0, 3, 42, 42, 27, 182, 0, 238, 4, 182, 0, 215, 153, 0, 5, 3, 172, 42, 16, 44, 27]
abbrev dktX11_plain_0 : List UInt8 := dkwX11_plain_0 ++ dktX11_plain_1
theorem dksX11_plain_0 : cX11_plain.data.toList.drop 0 = dktX11_plain_0 := by decide +kernel
theorem dksX11_plain_1 : cX11_plain.data.toList.drop 24 = dktX11_plain_1 := dk_seg dksX11_plain_0 24 rfl rfl
theorem dksX11_plain_2 : cX11_plain.data.toList.drop 48 = dktX11_plain_2 := dk_seg dksX11_plain_1 24 rfl rfl
theorem dksX11_plain_3 : cX11_plain.data.toList.drop 72 = dktX11_plain_3 := dk_seg dksX11_plain_2 24 rfl rfl
theorem dksX11_plain_4 : cX11_plain.data.toList.drop 94 = dktX11_plain_4 := dk_seg dksX11_plain_3 22 rfl rfl
theorem dX11_plain_0 : decode cX11_plain 0 = .ok (.aload_n 0, 1) := dk_42 (dk_at dksX11_plain_0 0 rfl rfl)
theorem dX11_plain_1 : decode cX11_plain 1 = .ok (.iconst 0, 1) := dk_3 (dk_at dksX11_plain_0 1 rfl rfl)
theorem dX11_plain_2 : decode cX11_plain 2 = .ok (.putfield 3, 3) := dk_181 0 3 (dk_at dksX11_plain_0 2 rfl rfl)
theorem dX11_plain_5 : decode cX11_plain 5 = .ok (.aload_n 0, 1) := dk_42 (dk_at dksX11_plain_0 5 rfl rfl)
theorem dX11_plain_6 : decode cX11_plain 6 = .ok (.aload_n 0, 1) := dk_42 (dk_at dksX11_plain_0 6 rfl rfl)
theorem dX11_plain_7 : decode cX11_plain 7 = .ok (.iload_n 1, 1) := dk_27 (dk_at dksX11_plain_0 7 rfl rfl)
theorem dX11_plain_8 : decode cX11_plain 8 = .ok (.invokevirtual 238, 3) := dk_182 0 238 (dk_at dksX11_plain_0 8 rfl rfl)
theorem dX11_plain_11 : decode cX11_plain 11 = .ok (.iconst 1, 1) := dk_4 (dk_at dksX11_plain_0 11 rfl rfl)
theorem dX11_plain_12 : decode cX11_plain 12 = .ok (.invokevirtual 215, 3) := dk_182 0 215 (dk_at dksX11_plain_0 12 rfl rfl)
theorem dX11_plain_15 : decode cX11_plain 15 = .ok (.ifCond .eq 5, 3) := dk_153 0 5 (dk_at dksX11_plain_0 15 rfl rfl)
theorem dX11_plain_18 : decode cX11_plain 18 = .ok (.iconst 0, 1) := dk_3 (dk_at dksX11_plain_0 18 rfl rfl)
theorem dX11_plain_19 : decode cX11_plain 19 = .ok (.ireturn, 1) := dk_172 (dk_at dksX11_plain_0 19 rfl rfl)
theorem dX11_plain_20 : decode cX11_plain 20 = .ok (.aload_n 0, 1) := dk_42 (dk_at dksX11_plain_0 20 rfl rfl)
theorem dX11_plain_21 : decode cX11_plain 21 = .ok (.bipush 44, 2) := dk_16 44 (dk_at dksX11_plain_0 21 rfl rfl)
theorem dX11_plain_23 : decode cX11_plain 23 = .ok (.iload_n 1, 1) := dk_27 (dk_at dksX11_plain_0 23 rfl rfl)
theorem dX11_plain_24 : decode cX11_plain 24 = .ok (.invokevirtual 241, 3) := dk_182 0 241 (dk_at dksX11_plain_1 0 rfl rfl)
theorem dX11_plain_27 : decode cX11_plain 27 = .ok (.aload_n 0, 1) := dk_42 (dk_at dksX11_plain_1 3 rfl rfl)
theorem dX11_plain_28 : decode cX11_plain 28 = .ok (.getfield 20, 3) := dk_180 0 20 (dk_at dksX11_plain_1 4 rfl rfl)
theorem dX11_plain_31 : decode cX11_plain 31 = .ok (.bipush 44, 2) := dk_16 44 (dk_at dksX11_plain_1 7 rfl rfl)
theorem dX11_plain_33 : decode cX11_plain 33 = .ok (.iaload, 1) := dk_46 (dk_at dksX11_plain_1 9 rfl rfl)
theorem dX11_plain_34 : decode cX11_plain 34 = .ok (.iconst 2, 1) := dk_5 (dk_at dksX11_plain_1 10 rfl rfl)
theorem dX11_plain_35 : decode cX11_plain 35 = .ok (.if_icmp .lt 12, 3) := dk_161 0 12 (dk_at dksX11_plain_1 11 rfl rfl)
theorem dX11_plain_38 : decode cX11_plain 38 = .ok (.aload_n 0, 1) := dk_42 (dk_at dksX11_plain_1 14 rfl rfl)
theorem dX11_plain_39 : decode cX11_plain 39 = .ok (.bipush 44, 2) := dk_16 44 (dk_at dksX11_plain_1 15 rfl rfl)
theorem dX11_plain_41 : decode cX11_plain 41 = .ok (.invokevirtual 320, 3) := dk_182 1 64 (dk_at dksX11_plain_1 17 rfl rfl)
theorem dX11_plain_44 : decode cX11_plain 44 = .ok (.ifCond .eq 5, 3) := dk_153 0 5 (dk_at dksX11_plain_1 20 rfl rfl)
theorem dX11_plain_47 : decode cX11_plain 47 = .ok (.iconst 0, 1) := dk_3 (dk_at dksX11_plain_1 23 rfl rfl)
theorem dX11_plain_48 : decode cX11_plain 48 = .ok (.ireturn, 1) := dk_172 (dk_at dksX11_plain_2 0 rfl rfl)
theorem dX11_plain_49 : decode cX11_plain 49 = .ok (.aload_n 0, 1) := dk_42 (dk_at dksX11_plain_2 1 rfl rfl)
theorem dX11_plain_50 : decode cX11_plain 50 = .ok (.bipush 44, 2) := dk_16 44 (dk_at dksX11_plain_2 2 rfl rfl)
theorem dX11_plain_52 : decode cX11_plain 52 = .ok (.iconst 1, 1) := dk_4 (dk_at dksX11_plain_2 4 rfl rfl)
theorem dX11_plain_53 : decode cX11_plain 53 = .ok (.iconst 0, 1) := dk_3 (dk_at dksX11_plain_2 5 rfl rfl)
theorem dX11_plain_54 : decode cX11_plain 54 = .ok (.bipush 40, 2) := dk_16 40 (dk_at dksX11_plain_2 6 rfl rfl)
theorem dX11_plain_56 : decode cX11_plain 56 = .ok (.invokevirtual 121, 3) := dk_182 0 121 (dk_at dksX11_plain_2 8 rfl rfl)
theorem dX11_plain_59 : decode cX11_plain 59 = .ok (.aload_n 0, 1) := dk_42 (dk_at dksX11_plain_2 11 rfl rfl)
theorem dX11_plain_60 : decode cX11_plain 60 = .ok (.bipush 44, 2) := dk_16 44 (dk_at dksX11_plain_2 12 rfl rfl)
theorem dX11_plain_62 : decode cX11_plain 62 = .ok (.iconst 0, 1) := dk_3 (dk_at dksX11_plain_2 14 rfl rfl)
theorem dX11_plain_63 : decode cX11_plain 63 = .ok (.iconst 1, 1) := dk_4 (dk_at dksX11_plain_2 15 rfl rfl)
theorem dX11_plain_64 : decode cX11_plain 64 = .ok (.bipush 41, 2) := dk_16 41 (dk_at dksX11_plain_2 16 rfl rfl)
theorem dX11_plain_66 : decode cX11_plain 66 = .ok (.invokevirtual 121, 3) := dk_182 0 121 (dk_at dksX11_plain_2 18 rfl rfl)
theorem dX11_plain_69 : decode cX11_plain 69 = .ok (.aload_n 0, 1) := dk_42 (dk_at dksX11_plain_2 21 rfl rfl)
theorem dX11_plain_70 : decode cX11_plain 70 = .ok (.bipush 40, 2) := dk_16 40 (dk_at dksX11_plain_2 22 rfl rfl)
theorem dX11_plain_72 : decode cX11_plain 72 = .ok (.invokevirtual 320, 3) := dk_182 1 64 (dk_at dksX11_plain_3 0 rfl rfl)
theorem dX11_plain_75 : decode cX11_plain 75 = .ok (.ifCond .ne 12, 3) := dk_154 0 12 (dk_at dksX11_plain_3 3 rfl rfl)
theorem dX11_plain_78 : decode cX11_plain 78 = .ok (.aload_n 0, 1) := dk_42 (dk_at dksX11_plain_3 6 rfl rfl)
theorem dX11_plain_79 : decode cX11_plain 79 = .ok (.bipush 41, 2) := dk_16 41 (dk_at dksX11_plain_3 7 rfl rfl)
theorem dX11_plain_81 : decode cX11_plain 81 = .ok (.invokevirtual 320, 3) := dk_182 1 64 (dk_at dksX11_plain_3 9 rfl rfl)
theorem dX11_plain_84 : decode cX11_plain 84 = .ok (.ifCond .eq 5, 3) := dk_153 0 5 (dk_at dksX11_plain_3 12 rfl rfl)
theorem dX11_plain_87 : decode cX11_plain 87 = .ok (.iconst 0, 1) := dk_3 (dk_at dksX11_plain_3 15 rfl rfl)
theorem dX11_plain_88 : decode cX11_plain 88 = .ok (.ireturn, 1) := dk_172 (dk_at dksX11_plain_3 16 rfl rfl)
theorem dX11_plain_89 : decode cX11_plain 89 = .ok (.aload_n 0, 1) := dk_42 (dk_at dksX11_plain_3 17 rfl rfl)
theorem dX11_plain_90 : decode cX11_plain 90 = .ok (.invokevirtual 372, 3) := dk_182 1 116 (dk_at dksX11_plain_3 18 rfl rfl)
theorem dX11_plain_93 : decode cX11_plain 93 = .ok (.aload_n 0, 1) := dk_42 (dk_at dksX11_plain_3 21 rfl rfl)
theorem dX11_plain_94 : decode cX11_plain 94 = .ok (.getfield 20, 3) := dk_180 0 20 (dk_at dksX11_plain_4 0 rfl rfl)
theorem dX11_plain_97 : decode cX11_plain 97 = .ok (.bipush 40, 2) := dk_16 40 (dk_at dksX11_plain_4 3 rfl rfl)
theorem dX11_plain_99 : decode cX11_plain 99 = .ok (.iaload, 1) := dk_46 (dk_at dksX11_plain_4 5 rfl rfl)
theorem dX11_plain_100 : decode cX11_plain 100 = .ok (.ifCond .ne 7, 3) := dk_154 0 7 (dk_at dksX11_plain_4 6 rfl rfl)
theorem dX11_plain_103 : decode cX11_plain 103 = .ok (.iconst 1, 1) := dk_4 (dk_at dksX11_plain_4 9 rfl rfl)
theorem dX11_plain_104 : decode cX11_plain 104 = .ok (.goto 4, 3) := dk_167 0 4 (dk_at dksX11_plain_4 10 rfl rfl)
theorem dX11_plain_107 : decode cX11_plain 107 = .ok (.iconst 0, 1) := dk_3 (dk_at dksX11_plain_4 13 rfl rfl)
theorem dX11_plain_108 : decode cX11_plain 108 = .ok (.ireturn, 1) := dk_172 (dk_at dksX11_plain_4 14 rfl rfl)
abbrev cX11_overlap : ByteArray := prog_18_method_119_code
def yX11_overlap : MethodName := ⟨RX11, "overlap", "(IIII)I"⟩
def dkwX11_overlap_4 : List UInt8 := [42, 16, 42, 21, 4, 182, 1, 119, 172]
abbrev dktX11_overlap_4 : List UInt8 := dkwX11_overlap_4 ++ []
def dkwX11_overlap_3 : List UInt8 := [16, 40, 27, 182, 0, 241, 42, 16, 41, 28, 182, 0, 241, 42, 16, 40, 16, 41, 29, 16, 42, 182, 1, 21]
abbrev dktX11_overlap_3 : List UInt8 := dkwX11_overlap_3 ++ dktX11_overlap_4
def dkwX11_overlap_2 : List UInt8 := [184, 1, 110, 184, 0, 68, 154, 0, 7, 4, 167, 0, 4, 3, 5, 182, 0, 215, 153, 0, 5, 3, 172, 42]
abbrev dktX11_overlap_2 : List UInt8 := dkwX11_overlap_2 ++ dktX11_overlap_3
def dkwX11_overlap_1 : List UInt8 := [167, 0, 4, 3, 4, 182, 0, 215, 154, 0, 37, 42, 29, 3, 42, 27, 182, 0, 93, 42, 28, 182, 0, 93]
abbrev dktX11_overlap_1 : List UInt8 := dkwX11_overlap_1 ++ dktX11_overlap_2
def dkwX11_overlap_0 : List UInt8 := [42, 3, 181, 0, 3, 42, 42, 27, 182, 0, 238, 154, 0, 11, 42, 28, 182, 0, 238, 153, 0, 7, 4]
abbrev dktX11_overlap_0 : List UInt8 := dkwX11_overlap_0 ++ dktX11_overlap_1
theorem dksX11_overlap_0 : cX11_overlap.data.toList.drop 0 = dktX11_overlap_0 := by decide +kernel
theorem dksX11_overlap_1 : cX11_overlap.data.toList.drop 23 = dktX11_overlap_1 := dk_seg dksX11_overlap_0 23 rfl rfl
theorem dksX11_overlap_2 : cX11_overlap.data.toList.drop 47 = dktX11_overlap_2 := dk_seg dksX11_overlap_1 24 rfl rfl
theorem dksX11_overlap_3 : cX11_overlap.data.toList.drop 71 = dktX11_overlap_3 := dk_seg dksX11_overlap_2 24 rfl rfl
theorem dksX11_overlap_4 : cX11_overlap.data.toList.drop 95 = dktX11_overlap_4 := dk_seg dksX11_overlap_3 24 rfl rfl
theorem dX11_overlap_0 : decode cX11_overlap 0 = .ok (.aload_n 0, 1) := dk_42 (dk_at dksX11_overlap_0 0 rfl rfl)
theorem dX11_overlap_1 : decode cX11_overlap 1 = .ok (.iconst 0, 1) := dk_3 (dk_at dksX11_overlap_0 1 rfl rfl)
theorem dX11_overlap_2 : decode cX11_overlap 2 = .ok (.putfield 3, 3) := dk_181 0 3 (dk_at dksX11_overlap_0 2 rfl rfl)
theorem dX11_overlap_5 : decode cX11_overlap 5 = .ok (.aload_n 0, 1) := dk_42 (dk_at dksX11_overlap_0 5 rfl rfl)
theorem dX11_overlap_6 : decode cX11_overlap 6 = .ok (.aload_n 0, 1) := dk_42 (dk_at dksX11_overlap_0 6 rfl rfl)
theorem dX11_overlap_7 : decode cX11_overlap 7 = .ok (.iload_n 1, 1) := dk_27 (dk_at dksX11_overlap_0 7 rfl rfl)
theorem dX11_overlap_8 : decode cX11_overlap 8 = .ok (.invokevirtual 238, 3) := dk_182 0 238 (dk_at dksX11_overlap_0 8 rfl rfl)
theorem dX11_overlap_11 : decode cX11_overlap 11 = .ok (.ifCond .ne 11, 3) := dk_154 0 11 (dk_at dksX11_overlap_0 11 rfl rfl)
theorem dX11_overlap_14 : decode cX11_overlap 14 = .ok (.aload_n 0, 1) := dk_42 (dk_at dksX11_overlap_0 14 rfl rfl)
theorem dX11_overlap_15 : decode cX11_overlap 15 = .ok (.iload_n 2, 1) := dk_28 (dk_at dksX11_overlap_0 15 rfl rfl)
theorem dX11_overlap_16 : decode cX11_overlap 16 = .ok (.invokevirtual 238, 3) := dk_182 0 238 (dk_at dksX11_overlap_0 16 rfl rfl)
theorem dX11_overlap_19 : decode cX11_overlap 19 = .ok (.ifCond .eq 7, 3) := dk_153 0 7 (dk_at dksX11_overlap_0 19 rfl rfl)
theorem dX11_overlap_22 : decode cX11_overlap 22 = .ok (.iconst 1, 1) := dk_4 (dk_at dksX11_overlap_0 22 rfl rfl)
theorem dX11_overlap_23 : decode cX11_overlap 23 = .ok (.goto 4, 3) := dk_167 0 4 (dk_at dksX11_overlap_1 0 rfl rfl)
theorem dX11_overlap_26 : decode cX11_overlap 26 = .ok (.iconst 0, 1) := dk_3 (dk_at dksX11_overlap_1 3 rfl rfl)
theorem dX11_overlap_27 : decode cX11_overlap 27 = .ok (.iconst 1, 1) := dk_4 (dk_at dksX11_overlap_1 4 rfl rfl)
theorem dX11_overlap_28 : decode cX11_overlap 28 = .ok (.invokevirtual 215, 3) := dk_182 0 215 (dk_at dksX11_overlap_1 5 rfl rfl)
theorem dX11_overlap_31 : decode cX11_overlap 31 = .ok (.ifCond .ne 37, 3) := dk_154 0 37 (dk_at dksX11_overlap_1 8 rfl rfl)
theorem dX11_overlap_34 : decode cX11_overlap 34 = .ok (.aload_n 0, 1) := dk_42 (dk_at dksX11_overlap_1 11 rfl rfl)
theorem dX11_overlap_35 : decode cX11_overlap 35 = .ok (.iload_n 3, 1) := dk_29 (dk_at dksX11_overlap_1 12 rfl rfl)
theorem dX11_overlap_36 : decode cX11_overlap 36 = .ok (.iconst 0, 1) := dk_3 (dk_at dksX11_overlap_1 13 rfl rfl)
theorem dX11_overlap_37 : decode cX11_overlap 37 = .ok (.aload_n 0, 1) := dk_42 (dk_at dksX11_overlap_1 14 rfl rfl)
theorem dX11_overlap_38 : decode cX11_overlap 38 = .ok (.iload_n 1, 1) := dk_27 (dk_at dksX11_overlap_1 15 rfl rfl)
theorem dX11_overlap_39 : decode cX11_overlap 39 = .ok (.invokevirtual 93, 3) := dk_182 0 93 (dk_at dksX11_overlap_1 16 rfl rfl)
theorem dX11_overlap_42 : decode cX11_overlap 42 = .ok (.aload_n 0, 1) := dk_42 (dk_at dksX11_overlap_1 19 rfl rfl)
theorem dX11_overlap_43 : decode cX11_overlap 43 = .ok (.iload_n 2, 1) := dk_28 (dk_at dksX11_overlap_1 20 rfl rfl)
theorem dX11_overlap_44 : decode cX11_overlap 44 = .ok (.invokevirtual 93, 3) := dk_182 0 93 (dk_at dksX11_overlap_1 21 rfl rfl)
theorem dX11_overlap_47 : decode cX11_overlap 47 = .ok (.invokestatic 366, 3) := dk_184 1 110 (dk_at dksX11_overlap_2 0 rfl rfl)
theorem dX11_overlap_50 : decode cX11_overlap 50 = .ok (.invokestatic 68, 3) := dk_184 0 68 (dk_at dksX11_overlap_2 3 rfl rfl)
theorem dX11_overlap_53 : decode cX11_overlap 53 = .ok (.ifCond .ne 7, 3) := dk_154 0 7 (dk_at dksX11_overlap_2 6 rfl rfl)
theorem dX11_overlap_56 : decode cX11_overlap 56 = .ok (.iconst 1, 1) := dk_4 (dk_at dksX11_overlap_2 9 rfl rfl)
theorem dX11_overlap_57 : decode cX11_overlap 57 = .ok (.goto 4, 3) := dk_167 0 4 (dk_at dksX11_overlap_2 10 rfl rfl)
theorem dX11_overlap_60 : decode cX11_overlap 60 = .ok (.iconst 0, 1) := dk_3 (dk_at dksX11_overlap_2 13 rfl rfl)
theorem dX11_overlap_61 : decode cX11_overlap 61 = .ok (.iconst 2, 1) := dk_5 (dk_at dksX11_overlap_2 14 rfl rfl)
theorem dX11_overlap_62 : decode cX11_overlap 62 = .ok (.invokevirtual 215, 3) := dk_182 0 215 (dk_at dksX11_overlap_2 15 rfl rfl)
theorem dX11_overlap_65 : decode cX11_overlap 65 = .ok (.ifCond .eq 5, 3) := dk_153 0 5 (dk_at dksX11_overlap_2 18 rfl rfl)
theorem dX11_overlap_68 : decode cX11_overlap 68 = .ok (.iconst 0, 1) := dk_3 (dk_at dksX11_overlap_2 21 rfl rfl)
theorem dX11_overlap_69 : decode cX11_overlap 69 = .ok (.ireturn, 1) := dk_172 (dk_at dksX11_overlap_2 22 rfl rfl)
theorem dX11_overlap_70 : decode cX11_overlap 70 = .ok (.aload_n 0, 1) := dk_42 (dk_at dksX11_overlap_2 23 rfl rfl)
theorem dX11_overlap_71 : decode cX11_overlap 71 = .ok (.bipush 40, 2) := dk_16 40 (dk_at dksX11_overlap_3 0 rfl rfl)
theorem dX11_overlap_73 : decode cX11_overlap 73 = .ok (.iload_n 1, 1) := dk_27 (dk_at dksX11_overlap_3 2 rfl rfl)
theorem dX11_overlap_74 : decode cX11_overlap 74 = .ok (.invokevirtual 241, 3) := dk_182 0 241 (dk_at dksX11_overlap_3 3 rfl rfl)
theorem dX11_overlap_77 : decode cX11_overlap 77 = .ok (.aload_n 0, 1) := dk_42 (dk_at dksX11_overlap_3 6 rfl rfl)
theorem dX11_overlap_78 : decode cX11_overlap 78 = .ok (.bipush 41, 2) := dk_16 41 (dk_at dksX11_overlap_3 7 rfl rfl)
theorem dX11_overlap_80 : decode cX11_overlap 80 = .ok (.iload_n 2, 1) := dk_28 (dk_at dksX11_overlap_3 9 rfl rfl)
theorem dX11_overlap_81 : decode cX11_overlap 81 = .ok (.invokevirtual 241, 3) := dk_182 0 241 (dk_at dksX11_overlap_3 10 rfl rfl)
theorem dX11_overlap_84 : decode cX11_overlap 84 = .ok (.aload_n 0, 1) := dk_42 (dk_at dksX11_overlap_3 13 rfl rfl)
theorem dX11_overlap_85 : decode cX11_overlap 85 = .ok (.bipush 40, 2) := dk_16 40 (dk_at dksX11_overlap_3 14 rfl rfl)
theorem dX11_overlap_87 : decode cX11_overlap 87 = .ok (.bipush 41, 2) := dk_16 41 (dk_at dksX11_overlap_3 16 rfl rfl)
theorem dX11_overlap_89 : decode cX11_overlap 89 = .ok (.iload_n 3, 1) := dk_29 (dk_at dksX11_overlap_3 18 rfl rfl)
theorem dX11_overlap_90 : decode cX11_overlap 90 = .ok (.bipush 42, 2) := dk_16 42 (dk_at dksX11_overlap_3 19 rfl rfl)
theorem dX11_overlap_92 : decode cX11_overlap 92 = .ok (.invokevirtual 277, 3) := dk_182 1 21 (dk_at dksX11_overlap_3 21 rfl rfl)
theorem dX11_overlap_95 : decode cX11_overlap 95 = .ok (.aload_n 0, 1) := dk_42 (dk_at dksX11_overlap_4 0 rfl rfl)
theorem dX11_overlap_96 : decode cX11_overlap 96 = .ok (.bipush 42, 2) := dk_16 42 (dk_at dksX11_overlap_4 1 rfl rfl)
theorem dX11_overlap_98 : decode cX11_overlap 98 = .ok (.iload 4, 2) := dk_21 4 (dk_at dksX11_overlap_4 3 rfl rfl)
theorem dX11_overlap_100 : decode cX11_overlap 100 = .ok (.invokevirtual 375, 3) := dk_182 1 119 (dk_at dksX11_overlap_4 5 rfl rfl)
theorem dX11_overlap_103 : decode cX11_overlap 103 = .ok (.ireturn, 1) := dk_172 (dk_at dksX11_overlap_4 8 rfl rfl)
abbrev cX11_reduced : ByteArray := prog_18_method_126_code
def yX11_reduced : MethodName := ⟨RX11, "reduced", "(IIII)J"⟩
def dkwX11_reduced_8 : List UInt8 := [167, 0, 12, 42, 180, 0, 61, 21, 4, 7, 100, 47, 173]
abbrev dktX11_reduced_8 : List UInt8 := dkwX11_reduced_8 ++ []
def dkwX11_reduced_7 : List UInt8 := [21, 4, 16, 8, 160, 0, 22, 42, 180, 1, 132, 42, 180, 1, 129, 42, 180, 1, 135, 184, 1, 163, 133]
abbrev dktX11_reduced_7 : List UInt8 := dkwX11_reduced_7 ++ dktX11_reduced_8
def dkwX11_reduced_6 : List UInt8 := [160, 0, 10, 42, 180, 1, 135, 167, 0, 51, 21, 4, 6, 160, 0, 10, 42, 180, 1, 125, 167, 0, 38]
abbrev dktX11_reduced_6 : List UInt8 := dkwX11_reduced_6 ++ dktX11_reduced_7
def dkwX11_reduced_5 : List UInt8 := [180, 1, 132, 167, 0, 77, 21, 4, 4, 160, 0, 10, 42, 180, 1, 129, 167, 0, 64, 21, 4, 5]
abbrev dktX11_reduced_5 : List UInt8 := dkwX11_reduced_5 ++ dktX11_reduced_6
def dkwX11_reduced_4 : List UInt8 := [4, 167, 0, 4, 3, 5, 182, 0, 215, 153, 0, 5, 9, 173, 42, 182, 1, 160, 21, 4, 154, 0, 10, 42]
abbrev dktX11_reduced_4 : List UInt8 := dkwX11_reduced_4 ++ dktX11_reduced_5
def dkwX11_reduced_3 : List UInt8 := [54, 5, 42, 21, 5, 4, 182, 0, 215, 154, 0, 27, 42, 21, 4, 3, 16, 8, 184, 0, 68, 154, 0, 7]
abbrev dktX11_reduced_3 : List UInt8 := dkwX11_reduced_3 ++ dktX11_reduced_4
def dkwX11_reduced_2 : List UInt8 := [28, 133, 28, 133, 105, 20, 1, 158, 27, 133, 105, 29, 133, 105, 148, 155, 0, 7, 4, 167, 0, 4, 3]
abbrev dktX11_reduced_2 : List UInt8 := dkwX11_reduced_2 ++ dktX11_reduced_3
def dkwX11_reduced_1 : List UInt8 := [184, 1, 155, 153, 0, 39, 28, 184, 1, 155, 153, 0, 32, 29, 184, 1, 155, 153, 0, 25, 27, 158, 0, 21]
abbrev dktX11_reduced_1 : List UInt8 := dkwX11_reduced_1 ++ dktX11_reduced_2
def dkwX11_reduced_0 : List UInt8 := [42, 3, 181, 0, 3, 42, 27, 133, 181, 1, 132, 42, 28, 133, 181, 1, 129, 42, 29, 133, 181, 1, 135, 27]
abbrev dktX11_reduced_0 : List UInt8 := dkwX11_reduced_0 ++ dktX11_reduced_1
theorem dksX11_reduced_0 : cX11_reduced.data.toList.drop 0 = dktX11_reduced_0 := by decide +kernel
theorem dksX11_reduced_1 : cX11_reduced.data.toList.drop 24 = dktX11_reduced_1 := dk_seg dksX11_reduced_0 24 rfl rfl
theorem dksX11_reduced_2 : cX11_reduced.data.toList.drop 48 = dktX11_reduced_2 := dk_seg dksX11_reduced_1 24 rfl rfl
theorem dksX11_reduced_3 : cX11_reduced.data.toList.drop 71 = dktX11_reduced_3 := dk_seg dksX11_reduced_2 23 rfl rfl
theorem dksX11_reduced_4 : cX11_reduced.data.toList.drop 95 = dktX11_reduced_4 := dk_seg dksX11_reduced_3 24 rfl rfl
theorem dksX11_reduced_5 : cX11_reduced.data.toList.drop 119 = dktX11_reduced_5 := dk_seg dksX11_reduced_4 24 rfl rfl
theorem dksX11_reduced_6 : cX11_reduced.data.toList.drop 141 = dktX11_reduced_6 := dk_seg dksX11_reduced_5 22 rfl rfl
theorem dksX11_reduced_7 : cX11_reduced.data.toList.drop 164 = dktX11_reduced_7 := dk_seg dksX11_reduced_6 23 rfl rfl
theorem dksX11_reduced_8 : cX11_reduced.data.toList.drop 187 = dktX11_reduced_8 := dk_seg dksX11_reduced_7 23 rfl rfl
theorem dX11_reduced_0 : decode cX11_reduced 0 = .ok (.aload_n 0, 1) := dk_42 (dk_at dksX11_reduced_0 0 rfl rfl)
theorem dX11_reduced_1 : decode cX11_reduced 1 = .ok (.iconst 0, 1) := dk_3 (dk_at dksX11_reduced_0 1 rfl rfl)
theorem dX11_reduced_2 : decode cX11_reduced 2 = .ok (.putfield 3, 3) := dk_181 0 3 (dk_at dksX11_reduced_0 2 rfl rfl)
theorem dX11_reduced_5 : decode cX11_reduced 5 = .ok (.aload_n 0, 1) := dk_42 (dk_at dksX11_reduced_0 5 rfl rfl)
theorem dX11_reduced_6 : decode cX11_reduced 6 = .ok (.iload_n 1, 1) := dk_27 (dk_at dksX11_reduced_0 6 rfl rfl)
theorem dX11_reduced_7 : decode cX11_reduced 7 = .ok (.i2l, 1) := dk_133 (dk_at dksX11_reduced_0 7 rfl rfl)
theorem dX11_reduced_8 : decode cX11_reduced 8 = .ok (.putfield 388, 3) := dk_181 1 132 (dk_at dksX11_reduced_0 8 rfl rfl)
theorem dX11_reduced_11 : decode cX11_reduced 11 = .ok (.aload_n 0, 1) := dk_42 (dk_at dksX11_reduced_0 11 rfl rfl)
theorem dX11_reduced_12 : decode cX11_reduced 12 = .ok (.iload_n 2, 1) := dk_28 (dk_at dksX11_reduced_0 12 rfl rfl)
theorem dX11_reduced_13 : decode cX11_reduced 13 = .ok (.i2l, 1) := dk_133 (dk_at dksX11_reduced_0 13 rfl rfl)
theorem dX11_reduced_14 : decode cX11_reduced 14 = .ok (.putfield 385, 3) := dk_181 1 129 (dk_at dksX11_reduced_0 14 rfl rfl)
theorem dX11_reduced_17 : decode cX11_reduced 17 = .ok (.aload_n 0, 1) := dk_42 (dk_at dksX11_reduced_0 17 rfl rfl)
theorem dX11_reduced_18 : decode cX11_reduced 18 = .ok (.iload_n 3, 1) := dk_29 (dk_at dksX11_reduced_0 18 rfl rfl)
theorem dX11_reduced_19 : decode cX11_reduced 19 = .ok (.i2l, 1) := dk_133 (dk_at dksX11_reduced_0 19 rfl rfl)
theorem dX11_reduced_20 : decode cX11_reduced 20 = .ok (.putfield 391, 3) := dk_181 1 135 (dk_at dksX11_reduced_0 20 rfl rfl)
theorem dX11_reduced_23 : decode cX11_reduced 23 = .ok (.iload_n 1, 1) := dk_27 (dk_at dksX11_reduced_0 23 rfl rfl)
theorem dX11_reduced_24 : decode cX11_reduced 24 = .ok (.invokestatic 411, 3) := dk_184 1 155 (dk_at dksX11_reduced_1 0 rfl rfl)
theorem dX11_reduced_27 : decode cX11_reduced 27 = .ok (.ifCond .eq 39, 3) := dk_153 0 39 (dk_at dksX11_reduced_1 3 rfl rfl)
theorem dX11_reduced_30 : decode cX11_reduced 30 = .ok (.iload_n 2, 1) := dk_28 (dk_at dksX11_reduced_1 6 rfl rfl)
theorem dX11_reduced_31 : decode cX11_reduced 31 = .ok (.invokestatic 411, 3) := dk_184 1 155 (dk_at dksX11_reduced_1 7 rfl rfl)
theorem dX11_reduced_34 : decode cX11_reduced 34 = .ok (.ifCond .eq 32, 3) := dk_153 0 32 (dk_at dksX11_reduced_1 10 rfl rfl)
theorem dX11_reduced_37 : decode cX11_reduced 37 = .ok (.iload_n 3, 1) := dk_29 (dk_at dksX11_reduced_1 13 rfl rfl)
theorem dX11_reduced_38 : decode cX11_reduced 38 = .ok (.invokestatic 411, 3) := dk_184 1 155 (dk_at dksX11_reduced_1 14 rfl rfl)
theorem dX11_reduced_41 : decode cX11_reduced 41 = .ok (.ifCond .eq 25, 3) := dk_153 0 25 (dk_at dksX11_reduced_1 17 rfl rfl)
theorem dX11_reduced_44 : decode cX11_reduced 44 = .ok (.iload_n 1, 1) := dk_27 (dk_at dksX11_reduced_1 20 rfl rfl)
theorem dX11_reduced_45 : decode cX11_reduced 45 = .ok (.ifCond .le 21, 3) := dk_158 0 21 (dk_at dksX11_reduced_1 21 rfl rfl)
theorem dX11_reduced_48 : decode cX11_reduced 48 = .ok (.iload_n 2, 1) := dk_28 (dk_at dksX11_reduced_2 0 rfl rfl)
theorem dX11_reduced_49 : decode cX11_reduced 49 = .ok (.i2l, 1) := dk_133 (dk_at dksX11_reduced_2 1 rfl rfl)
theorem dX11_reduced_50 : decode cX11_reduced 50 = .ok (.iload_n 2, 1) := dk_28 (dk_at dksX11_reduced_2 2 rfl rfl)
theorem dX11_reduced_51 : decode cX11_reduced 51 = .ok (.i2l, 1) := dk_133 (dk_at dksX11_reduced_2 3 rfl rfl)
theorem dX11_reduced_52 : decode cX11_reduced 52 = .ok (.lmul, 1) := dk_105 (dk_at dksX11_reduced_2 4 rfl rfl)
theorem dX11_reduced_53 : decode cX11_reduced 53 = .ok (.ldc2_w 414, 3) := dk_20 1 158 (dk_at dksX11_reduced_2 5 rfl rfl)
theorem dX11_reduced_56 : decode cX11_reduced 56 = .ok (.iload_n 1, 1) := dk_27 (dk_at dksX11_reduced_2 8 rfl rfl)
theorem dX11_reduced_57 : decode cX11_reduced 57 = .ok (.i2l, 1) := dk_133 (dk_at dksX11_reduced_2 9 rfl rfl)
theorem dX11_reduced_58 : decode cX11_reduced 58 = .ok (.lmul, 1) := dk_105 (dk_at dksX11_reduced_2 10 rfl rfl)
theorem dX11_reduced_59 : decode cX11_reduced 59 = .ok (.iload_n 3, 1) := dk_29 (dk_at dksX11_reduced_2 11 rfl rfl)
theorem dX11_reduced_60 : decode cX11_reduced 60 = .ok (.i2l, 1) := dk_133 (dk_at dksX11_reduced_2 12 rfl rfl)
theorem dX11_reduced_61 : decode cX11_reduced 61 = .ok (.lmul, 1) := dk_105 (dk_at dksX11_reduced_2 13 rfl rfl)
theorem dX11_reduced_62 : decode cX11_reduced 62 = .ok (.lcmp, 1) := dk_148 (dk_at dksX11_reduced_2 14 rfl rfl)
theorem dX11_reduced_63 : decode cX11_reduced 63 = .ok (.ifCond .lt 7, 3) := dk_155 0 7 (dk_at dksX11_reduced_2 15 rfl rfl)
theorem dX11_reduced_66 : decode cX11_reduced 66 = .ok (.iconst 1, 1) := dk_4 (dk_at dksX11_reduced_2 18 rfl rfl)
theorem dX11_reduced_67 : decode cX11_reduced 67 = .ok (.goto 4, 3) := dk_167 0 4 (dk_at dksX11_reduced_2 19 rfl rfl)
theorem dX11_reduced_70 : decode cX11_reduced 70 = .ok (.iconst 0, 1) := dk_3 (dk_at dksX11_reduced_2 22 rfl rfl)
theorem dX11_reduced_71 : decode cX11_reduced 71 = .ok (.istore 5, 2) := dk_54 5 (dk_at dksX11_reduced_3 0 rfl rfl)
theorem dX11_reduced_73 : decode cX11_reduced 73 = .ok (.aload_n 0, 1) := dk_42 (dk_at dksX11_reduced_3 2 rfl rfl)
theorem dX11_reduced_74 : decode cX11_reduced 74 = .ok (.iload 5, 2) := dk_21 5 (dk_at dksX11_reduced_3 3 rfl rfl)
theorem dX11_reduced_76 : decode cX11_reduced 76 = .ok (.iconst 1, 1) := dk_4 (dk_at dksX11_reduced_3 5 rfl rfl)
theorem dX11_reduced_77 : decode cX11_reduced 77 = .ok (.invokevirtual 215, 3) := dk_182 0 215 (dk_at dksX11_reduced_3 6 rfl rfl)
theorem dX11_reduced_80 : decode cX11_reduced 80 = .ok (.ifCond .ne 27, 3) := dk_154 0 27 (dk_at dksX11_reduced_3 9 rfl rfl)
theorem dX11_reduced_83 : decode cX11_reduced 83 = .ok (.aload_n 0, 1) := dk_42 (dk_at dksX11_reduced_3 12 rfl rfl)
theorem dX11_reduced_84 : decode cX11_reduced 84 = .ok (.iload 4, 2) := dk_21 4 (dk_at dksX11_reduced_3 13 rfl rfl)
theorem dX11_reduced_86 : decode cX11_reduced 86 = .ok (.iconst 0, 1) := dk_3 (dk_at dksX11_reduced_3 15 rfl rfl)
theorem dX11_reduced_87 : decode cX11_reduced 87 = .ok (.bipush 8, 2) := dk_16 8 (dk_at dksX11_reduced_3 16 rfl rfl)
theorem dX11_reduced_89 : decode cX11_reduced 89 = .ok (.invokestatic 68, 3) := dk_184 0 68 (dk_at dksX11_reduced_3 18 rfl rfl)
theorem dX11_reduced_92 : decode cX11_reduced 92 = .ok (.ifCond .ne 7, 3) := dk_154 0 7 (dk_at dksX11_reduced_3 21 rfl rfl)
theorem dX11_reduced_95 : decode cX11_reduced 95 = .ok (.iconst 1, 1) := dk_4 (dk_at dksX11_reduced_4 0 rfl rfl)
theorem dX11_reduced_96 : decode cX11_reduced 96 = .ok (.goto 4, 3) := dk_167 0 4 (dk_at dksX11_reduced_4 1 rfl rfl)
theorem dX11_reduced_99 : decode cX11_reduced 99 = .ok (.iconst 0, 1) := dk_3 (dk_at dksX11_reduced_4 4 rfl rfl)
theorem dX11_reduced_100 : decode cX11_reduced 100 = .ok (.iconst 2, 1) := dk_5 (dk_at dksX11_reduced_4 5 rfl rfl)
theorem dX11_reduced_101 : decode cX11_reduced 101 = .ok (.invokevirtual 215, 3) := dk_182 0 215 (dk_at dksX11_reduced_4 6 rfl rfl)
theorem dX11_reduced_104 : decode cX11_reduced 104 = .ok (.ifCond .eq 5, 3) := dk_153 0 5 (dk_at dksX11_reduced_4 9 rfl rfl)
theorem dX11_reduced_107 : decode cX11_reduced 107 = .ok (.lconst 0, 1) := dk_9 (dk_at dksX11_reduced_4 12 rfl rfl)
theorem dX11_reduced_108 : decode cX11_reduced 108 = .ok (.lreturn, 1) := dk_173 (dk_at dksX11_reduced_4 13 rfl rfl)
theorem dX11_reduced_109 : decode cX11_reduced 109 = .ok (.aload_n 0, 1) := dk_42 (dk_at dksX11_reduced_4 14 rfl rfl)
theorem dX11_reduced_110 : decode cX11_reduced 110 = .ok (.invokevirtual 416, 3) := dk_182 1 160 (dk_at dksX11_reduced_4 15 rfl rfl)
theorem dX11_reduced_113 : decode cX11_reduced 113 = .ok (.iload 4, 2) := dk_21 4 (dk_at dksX11_reduced_4 18 rfl rfl)
theorem dX11_reduced_115 : decode cX11_reduced 115 = .ok (.ifCond .ne 10, 3) := dk_154 0 10 (dk_at dksX11_reduced_4 20 rfl rfl)
theorem dX11_reduced_118 : decode cX11_reduced 118 = .ok (.aload_n 0, 1) := dk_42 (dk_at dksX11_reduced_4 23 rfl rfl)
theorem dX11_reduced_119 : decode cX11_reduced 119 = .ok (.getfield 388, 3) := dk_180 1 132 (dk_at dksX11_reduced_5 0 rfl rfl)
theorem dX11_reduced_122 : decode cX11_reduced 122 = .ok (.goto 77, 3) := dk_167 0 77 (dk_at dksX11_reduced_5 3 rfl rfl)
theorem dX11_reduced_125 : decode cX11_reduced 125 = .ok (.iload 4, 2) := dk_21 4 (dk_at dksX11_reduced_5 6 rfl rfl)
theorem dX11_reduced_127 : decode cX11_reduced 127 = .ok (.iconst 1, 1) := dk_4 (dk_at dksX11_reduced_5 8 rfl rfl)
theorem dX11_reduced_128 : decode cX11_reduced 128 = .ok (.if_icmp .ne 10, 3) := dk_160 0 10 (dk_at dksX11_reduced_5 9 rfl rfl)
theorem dX11_reduced_131 : decode cX11_reduced 131 = .ok (.aload_n 0, 1) := dk_42 (dk_at dksX11_reduced_5 12 rfl rfl)
theorem dX11_reduced_132 : decode cX11_reduced 132 = .ok (.getfield 385, 3) := dk_180 1 129 (dk_at dksX11_reduced_5 13 rfl rfl)
theorem dX11_reduced_135 : decode cX11_reduced 135 = .ok (.goto 64, 3) := dk_167 0 64 (dk_at dksX11_reduced_5 16 rfl rfl)
theorem dX11_reduced_138 : decode cX11_reduced 138 = .ok (.iload 4, 2) := dk_21 4 (dk_at dksX11_reduced_5 19 rfl rfl)
theorem dX11_reduced_140 : decode cX11_reduced 140 = .ok (.iconst 2, 1) := dk_5 (dk_at dksX11_reduced_5 21 rfl rfl)
theorem dX11_reduced_141 : decode cX11_reduced 141 = .ok (.if_icmp .ne 10, 3) := dk_160 0 10 (dk_at dksX11_reduced_6 0 rfl rfl)
theorem dX11_reduced_144 : decode cX11_reduced 144 = .ok (.aload_n 0, 1) := dk_42 (dk_at dksX11_reduced_6 3 rfl rfl)
theorem dX11_reduced_145 : decode cX11_reduced 145 = .ok (.getfield 391, 3) := dk_180 1 135 (dk_at dksX11_reduced_6 4 rfl rfl)
theorem dX11_reduced_148 : decode cX11_reduced 148 = .ok (.goto 51, 3) := dk_167 0 51 (dk_at dksX11_reduced_6 7 rfl rfl)
theorem dX11_reduced_151 : decode cX11_reduced 151 = .ok (.iload 4, 2) := dk_21 4 (dk_at dksX11_reduced_6 10 rfl rfl)
theorem dX11_reduced_153 : decode cX11_reduced 153 = .ok (.iconst 3, 1) := dk_6 (dk_at dksX11_reduced_6 12 rfl rfl)
theorem dX11_reduced_154 : decode cX11_reduced 154 = .ok (.if_icmp .ne 10, 3) := dk_160 0 10 (dk_at dksX11_reduced_6 13 rfl rfl)
theorem dX11_reduced_157 : decode cX11_reduced 157 = .ok (.aload_n 0, 1) := dk_42 (dk_at dksX11_reduced_6 16 rfl rfl)
theorem dX11_reduced_158 : decode cX11_reduced 158 = .ok (.getfield 381, 3) := dk_180 1 125 (dk_at dksX11_reduced_6 17 rfl rfl)
theorem dX11_reduced_161 : decode cX11_reduced 161 = .ok (.goto 38, 3) := dk_167 0 38 (dk_at dksX11_reduced_6 20 rfl rfl)
theorem dX11_reduced_164 : decode cX11_reduced 164 = .ok (.iload 4, 2) := dk_21 4 (dk_at dksX11_reduced_7 0 rfl rfl)
theorem dX11_reduced_166 : decode cX11_reduced 166 = .ok (.bipush 8, 2) := dk_16 8 (dk_at dksX11_reduced_7 2 rfl rfl)
theorem dX11_reduced_168 : decode cX11_reduced 168 = .ok (.if_icmp .ne 22, 3) := dk_160 0 22 (dk_at dksX11_reduced_7 4 rfl rfl)
theorem dX11_reduced_171 : decode cX11_reduced 171 = .ok (.aload_n 0, 1) := dk_42 (dk_at dksX11_reduced_7 7 rfl rfl)
theorem dX11_reduced_172 : decode cX11_reduced 172 = .ok (.getfield 388, 3) := dk_180 1 132 (dk_at dksX11_reduced_7 8 rfl rfl)
theorem dX11_reduced_175 : decode cX11_reduced 175 = .ok (.aload_n 0, 1) := dk_42 (dk_at dksX11_reduced_7 11 rfl rfl)
theorem dX11_reduced_176 : decode cX11_reduced 176 = .ok (.getfield 385, 3) := dk_180 1 129 (dk_at dksX11_reduced_7 12 rfl rfl)
theorem dX11_reduced_179 : decode cX11_reduced 179 = .ok (.aload_n 0, 1) := dk_42 (dk_at dksX11_reduced_7 15 rfl rfl)
theorem dX11_reduced_180 : decode cX11_reduced 180 = .ok (.getfield 391, 3) := dk_180 1 135 (dk_at dksX11_reduced_7 16 rfl rfl)
theorem dX11_reduced_183 : decode cX11_reduced 183 = .ok (.invokestatic 419, 3) := dk_184 1 163 (dk_at dksX11_reduced_7 19 rfl rfl)
theorem dX11_reduced_186 : decode cX11_reduced 186 = .ok (.i2l, 1) := dk_133 (dk_at dksX11_reduced_7 22 rfl rfl)
theorem dX11_reduced_187 : decode cX11_reduced 187 = .ok (.goto 12, 3) := dk_167 0 12 (dk_at dksX11_reduced_8 0 rfl rfl)
theorem dX11_reduced_190 : decode cX11_reduced 190 = .ok (.aload_n 0, 1) := dk_42 (dk_at dksX11_reduced_8 3 rfl rfl)
theorem dX11_reduced_191 : decode cX11_reduced 191 = .ok (.getfield 61, 3) := dk_180 0 61 (dk_at dksX11_reduced_8 4 rfl rfl)
theorem dX11_reduced_194 : decode cX11_reduced 194 = .ok (.iload 4, 2) := dk_21 4 (dk_at dksX11_reduced_8 7 rfl rfl)
theorem dX11_reduced_196 : decode cX11_reduced 196 = .ok (.iconst 4, 1) := dk_7 (dk_at dksX11_reduced_8 9 rfl rfl)
theorem dX11_reduced_197 : decode cX11_reduced 197 = .ok (.isub, 1) := dk_100 (dk_at dksX11_reduced_8 10 rfl rfl)
theorem dX11_reduced_198 : decode cX11_reduced 198 = .ok (.laload, 1) := dk_47 (dk_at dksX11_reduced_8 11 rfl rfl)
theorem dX11_reduced_199 : decode cX11_reduced 199 = .ok (.lreturn, 1) := dk_173 (dk_at dksX11_reduced_8 12 rfl rfl)
abbrev cX11_isThousand : ByteArray := prog_18_method_125_code
def yX11_isThousand : MethodName := ⟨RX11, "isThousand", "(I)Z"⟩
def dkwX11_isThousand_0 : List UInt8 := [26, 17, 252, 25, 17, 3, 231, 184, 0, 68, 172]
abbrev dktX11_isThousand_0 : List UInt8 := dkwX11_isThousand_0 ++ []
theorem dksX11_isThousand_0 : cX11_isThousand.data.toList.drop 0 = dktX11_isThousand_0 := by decide +kernel
theorem dX11_isThousand_0 : decode cX11_isThousand 0 = .ok (.iload_n 0, 1) := dk_26 (dk_at dksX11_isThousand_0 0 rfl rfl)
theorem dX11_isThousand_1 : decode cX11_isThousand 1 = .ok (.sipush (-999), 3) := dk_17 252 25 (dk_at dksX11_isThousand_0 1 rfl rfl)
theorem dX11_isThousand_4 : decode cX11_isThousand 4 = .ok (.sipush 999, 3) := dk_17 3 231 (dk_at dksX11_isThousand_0 4 rfl rfl)
theorem dX11_isThousand_7 : decode cX11_isThousand 7 = .ok (.invokestatic 68, 3) := dk_184 0 68 (dk_at dksX11_isThousand_0 7 rfl rfl)
theorem dX11_isThousand_10 : decode cX11_isThousand 10 = .ok (.ireturn, 1) := dk_172 (dk_at dksX11_isThousand_0 10 rfl rfl)
abbrev cX11_reduces : ByteArray := prog_18_method_123_code
def yX11_reduces : MethodName := ⟨RX11, "reduces", "()V"⟩
def dkwX11_reduces_7 : List UInt8 := [182, 1, 149, 167, 255, 119, 177]
abbrev dktX11_reduces_7 : List UInt8 := dkwX11_reduces_7 ++ []
def dkwX11_reduces_6 : List UInt8 := [181, 1, 132, 42, 31, 181, 1, 135, 42, 42, 180, 1, 129, 117, 181, 1, 129, 42, 9, 20, 1, 153, 10, 9]
abbrev dktX11_reduces_6 : List UInt8 := dkwX11_reduces_6 ++ dktX11_reduces_7
def dkwX11_reduces_5 : List UInt8 := [10, 31, 9, 10, 182, 1, 149, 42, 182, 1, 141, 153, 255, 159, 42, 180, 1, 132, 64, 42, 42, 180, 1, 135]
abbrev dktX11_reduces_5 : List UInt8 := dkwX11_reduces_5 ++ dktX11_reduces_6
def dkwX11_reduces_4 : List UInt8 := [97, 181, 1, 135, 42, 89, 180, 1, 129, 20, 1, 144, 42, 180, 1, 132, 105, 31, 105, 97, 181, 1, 129, 42]
abbrev dktX11_reduces_4 : List UInt8 := dkwX11_reduces_4 ++ dktX11_reduces_5
def dkwX11_reduces_3 : List UInt8 := [184, 1, 146, 64, 42, 42, 180, 1, 132, 31, 105, 31, 105, 42, 180, 1, 129, 31, 105, 97, 42, 180, 1, 135]
abbrev dktX11_reduces_3 : List UInt8 := dkwX11_reduces_3 ++ dktX11_reduces_4
def dkwX11_reduces_2 : List UInt8 := [182, 1, 138, 153, 0, 75, 42, 180, 1, 132, 42, 180, 1, 129, 101, 20, 1, 144, 42, 180, 1, 132, 105]
abbrev dktX11_reduces_2 : List UInt8 := dkwX11_reduces_2 ++ dktX11_reduces_3
def dkwX11_reduces_1 : List UInt8 := [9, 80, 42, 180, 0, 61, 6, 10, 80, 42, 182, 1, 138, 154, 0, 10, 42, 182, 1, 141, 153, 0, 129, 42]
abbrev dktX11_reduces_1 : List UInt8 := dkwX11_reduces_1 ++ dktX11_reduces_2
def dkwX11_reduces_0 : List UInt8 := [42, 9, 181, 1, 125, 42, 180, 0, 61, 3, 10, 80, 42, 180, 0, 61, 4, 9, 80, 42, 180, 0, 61, 5]
abbrev dktX11_reduces_0 : List UInt8 := dkwX11_reduces_0 ++ dktX11_reduces_1
theorem dksX11_reduces_0 : cX11_reduces.data.toList.drop 0 = dktX11_reduces_0 := by decide +kernel
theorem dksX11_reduces_1 : cX11_reduces.data.toList.drop 24 = dktX11_reduces_1 := dk_seg dksX11_reduces_0 24 rfl rfl
theorem dksX11_reduces_2 : cX11_reduces.data.toList.drop 48 = dktX11_reduces_2 := dk_seg dksX11_reduces_1 24 rfl rfl
theorem dksX11_reduces_3 : cX11_reduces.data.toList.drop 71 = dktX11_reduces_3 := dk_seg dksX11_reduces_2 23 rfl rfl
theorem dksX11_reduces_4 : cX11_reduces.data.toList.drop 95 = dktX11_reduces_4 := dk_seg dksX11_reduces_3 24 rfl rfl
theorem dksX11_reduces_5 : cX11_reduces.data.toList.drop 119 = dktX11_reduces_5 := dk_seg dksX11_reduces_4 24 rfl rfl
theorem dksX11_reduces_6 : cX11_reduces.data.toList.drop 143 = dktX11_reduces_6 := dk_seg dksX11_reduces_5 24 rfl rfl
theorem dksX11_reduces_7 : cX11_reduces.data.toList.drop 167 = dktX11_reduces_7 := dk_seg dksX11_reduces_6 24 rfl rfl
theorem dX11_reduces_0 : decode cX11_reduces 0 = .ok (.aload_n 0, 1) := dk_42 (dk_at dksX11_reduces_0 0 rfl rfl)
theorem dX11_reduces_1 : decode cX11_reduces 1 = .ok (.lconst 0, 1) := dk_9 (dk_at dksX11_reduces_0 1 rfl rfl)
theorem dX11_reduces_2 : decode cX11_reduces 2 = .ok (.putfield 381, 3) := dk_181 1 125 (dk_at dksX11_reduces_0 2 rfl rfl)
theorem dX11_reduces_5 : decode cX11_reduces 5 = .ok (.aload_n 0, 1) := dk_42 (dk_at dksX11_reduces_0 5 rfl rfl)
theorem dX11_reduces_6 : decode cX11_reduces 6 = .ok (.getfield 61, 3) := dk_180 0 61 (dk_at dksX11_reduces_0 6 rfl rfl)
theorem dX11_reduces_9 : decode cX11_reduces 9 = .ok (.iconst 0, 1) := dk_3 (dk_at dksX11_reduces_0 9 rfl rfl)
theorem dX11_reduces_10 : decode cX11_reduces 10 = .ok (.lconst 1, 1) := dk_10 (dk_at dksX11_reduces_0 10 rfl rfl)
theorem dX11_reduces_11 : decode cX11_reduces 11 = .ok (.lastore, 1) := dk_80 (dk_at dksX11_reduces_0 11 rfl rfl)
theorem dX11_reduces_12 : decode cX11_reduces 12 = .ok (.aload_n 0, 1) := dk_42 (dk_at dksX11_reduces_0 12 rfl rfl)
theorem dX11_reduces_13 : decode cX11_reduces 13 = .ok (.getfield 61, 3) := dk_180 0 61 (dk_at dksX11_reduces_0 13 rfl rfl)
theorem dX11_reduces_16 : decode cX11_reduces 16 = .ok (.iconst 1, 1) := dk_4 (dk_at dksX11_reduces_0 16 rfl rfl)
theorem dX11_reduces_17 : decode cX11_reduces 17 = .ok (.lconst 0, 1) := dk_9 (dk_at dksX11_reduces_0 17 rfl rfl)
theorem dX11_reduces_18 : decode cX11_reduces 18 = .ok (.lastore, 1) := dk_80 (dk_at dksX11_reduces_0 18 rfl rfl)
theorem dX11_reduces_19 : decode cX11_reduces 19 = .ok (.aload_n 0, 1) := dk_42 (dk_at dksX11_reduces_0 19 rfl rfl)
theorem dX11_reduces_20 : decode cX11_reduces 20 = .ok (.getfield 61, 3) := dk_180 0 61 (dk_at dksX11_reduces_0 20 rfl rfl)
theorem dX11_reduces_23 : decode cX11_reduces 23 = .ok (.iconst 2, 1) := dk_5 (dk_at dksX11_reduces_0 23 rfl rfl)
theorem dX11_reduces_24 : decode cX11_reduces 24 = .ok (.lconst 0, 1) := dk_9 (dk_at dksX11_reduces_1 0 rfl rfl)
theorem dX11_reduces_25 : decode cX11_reduces 25 = .ok (.lastore, 1) := dk_80 (dk_at dksX11_reduces_1 1 rfl rfl)
theorem dX11_reduces_26 : decode cX11_reduces 26 = .ok (.aload_n 0, 1) := dk_42 (dk_at dksX11_reduces_1 2 rfl rfl)
theorem dX11_reduces_27 : decode cX11_reduces 27 = .ok (.getfield 61, 3) := dk_180 0 61 (dk_at dksX11_reduces_1 3 rfl rfl)
theorem dX11_reduces_30 : decode cX11_reduces 30 = .ok (.iconst 3, 1) := dk_6 (dk_at dksX11_reduces_1 6 rfl rfl)
theorem dX11_reduces_31 : decode cX11_reduces 31 = .ok (.lconst 1, 1) := dk_10 (dk_at dksX11_reduces_1 7 rfl rfl)
theorem dX11_reduces_32 : decode cX11_reduces 32 = .ok (.lastore, 1) := dk_80 (dk_at dksX11_reduces_1 8 rfl rfl)
theorem dX11_reduces_33 : decode cX11_reduces 33 = .ok (.aload_n 0, 1) := dk_42 (dk_at dksX11_reduces_1 9 rfl rfl)
theorem dX11_reduces_34 : decode cX11_reduces 34 = .ok (.invokevirtual 394, 3) := dk_182 1 138 (dk_at dksX11_reduces_1 10 rfl rfl)
theorem dX11_reduces_37 : decode cX11_reduces 37 = .ok (.ifCond .ne 10, 3) := dk_154 0 10 (dk_at dksX11_reduces_1 13 rfl rfl)
theorem dX11_reduces_40 : decode cX11_reduces 40 = .ok (.aload_n 0, 1) := dk_42 (dk_at dksX11_reduces_1 16 rfl rfl)
theorem dX11_reduces_41 : decode cX11_reduces 41 = .ok (.invokevirtual 397, 3) := dk_182 1 141 (dk_at dksX11_reduces_1 17 rfl rfl)
theorem dX11_reduces_44 : decode cX11_reduces 44 = .ok (.ifCond .eq 129, 3) := dk_153 0 129 (dk_at dksX11_reduces_1 20 rfl rfl)
theorem dX11_reduces_47 : decode cX11_reduces 47 = .ok (.aload_n 0, 1) := dk_42 (dk_at dksX11_reduces_1 23 rfl rfl)
theorem dX11_reduces_48 : decode cX11_reduces 48 = .ok (.invokevirtual 394, 3) := dk_182 1 138 (dk_at dksX11_reduces_2 0 rfl rfl)
theorem dX11_reduces_51 : decode cX11_reduces 51 = .ok (.ifCond .eq 75, 3) := dk_153 0 75 (dk_at dksX11_reduces_2 3 rfl rfl)
theorem dX11_reduces_54 : decode cX11_reduces 54 = .ok (.aload_n 0, 1) := dk_42 (dk_at dksX11_reduces_2 6 rfl rfl)
theorem dX11_reduces_55 : decode cX11_reduces 55 = .ok (.getfield 388, 3) := dk_180 1 132 (dk_at dksX11_reduces_2 7 rfl rfl)
theorem dX11_reduces_58 : decode cX11_reduces 58 = .ok (.aload_n 0, 1) := dk_42 (dk_at dksX11_reduces_2 10 rfl rfl)
theorem dX11_reduces_59 : decode cX11_reduces 59 = .ok (.getfield 385, 3) := dk_180 1 129 (dk_at dksX11_reduces_2 11 rfl rfl)
theorem dX11_reduces_62 : decode cX11_reduces 62 = .ok (.lsub, 1) := dk_101 (dk_at dksX11_reduces_2 14 rfl rfl)
theorem dX11_reduces_63 : decode cX11_reduces 63 = .ok (.ldc2_w 400, 3) := dk_20 1 144 (dk_at dksX11_reduces_2 15 rfl rfl)
theorem dX11_reduces_66 : decode cX11_reduces 66 = .ok (.aload_n 0, 1) := dk_42 (dk_at dksX11_reduces_2 18 rfl rfl)
theorem dX11_reduces_67 : decode cX11_reduces 67 = .ok (.getfield 388, 3) := dk_180 1 132 (dk_at dksX11_reduces_2 19 rfl rfl)
theorem dX11_reduces_70 : decode cX11_reduces 70 = .ok (.lmul, 1) := dk_105 (dk_at dksX11_reduces_2 22 rfl rfl)
theorem dX11_reduces_71 : decode cX11_reduces 71 = .ok (.invokestatic 402, 3) := dk_184 1 146 (dk_at dksX11_reduces_3 0 rfl rfl)
theorem dX11_reduces_74 : decode cX11_reduces 74 = .ok (.lstore_n 1, 1) := dk_64 (dk_at dksX11_reduces_3 3 rfl rfl)
theorem dX11_reduces_75 : decode cX11_reduces 75 = .ok (.aload_n 0, 1) := dk_42 (dk_at dksX11_reduces_3 4 rfl rfl)
theorem dX11_reduces_76 : decode cX11_reduces 76 = .ok (.aload_n 0, 1) := dk_42 (dk_at dksX11_reduces_3 5 rfl rfl)
theorem dX11_reduces_77 : decode cX11_reduces 77 = .ok (.getfield 388, 3) := dk_180 1 132 (dk_at dksX11_reduces_3 6 rfl rfl)
theorem dX11_reduces_80 : decode cX11_reduces 80 = .ok (.lload_n 1, 1) := dk_31 (dk_at dksX11_reduces_3 9 rfl rfl)
theorem dX11_reduces_81 : decode cX11_reduces 81 = .ok (.lmul, 1) := dk_105 (dk_at dksX11_reduces_3 10 rfl rfl)
theorem dX11_reduces_82 : decode cX11_reduces 82 = .ok (.lload_n 1, 1) := dk_31 (dk_at dksX11_reduces_3 11 rfl rfl)
theorem dX11_reduces_83 : decode cX11_reduces 83 = .ok (.lmul, 1) := dk_105 (dk_at dksX11_reduces_3 12 rfl rfl)
theorem dX11_reduces_84 : decode cX11_reduces 84 = .ok (.aload_n 0, 1) := dk_42 (dk_at dksX11_reduces_3 13 rfl rfl)
theorem dX11_reduces_85 : decode cX11_reduces 85 = .ok (.getfield 385, 3) := dk_180 1 129 (dk_at dksX11_reduces_3 14 rfl rfl)
theorem dX11_reduces_88 : decode cX11_reduces 88 = .ok (.lload_n 1, 1) := dk_31 (dk_at dksX11_reduces_3 17 rfl rfl)
theorem dX11_reduces_89 : decode cX11_reduces 89 = .ok (.lmul, 1) := dk_105 (dk_at dksX11_reduces_3 18 rfl rfl)
theorem dX11_reduces_90 : decode cX11_reduces 90 = .ok (.ladd, 1) := dk_97 (dk_at dksX11_reduces_3 19 rfl rfl)
theorem dX11_reduces_91 : decode cX11_reduces 91 = .ok (.aload_n 0, 1) := dk_42 (dk_at dksX11_reduces_3 20 rfl rfl)
theorem dX11_reduces_92 : decode cX11_reduces 92 = .ok (.getfield 391, 3) := dk_180 1 135 (dk_at dksX11_reduces_3 21 rfl rfl)
theorem dX11_reduces_95 : decode cX11_reduces 95 = .ok (.ladd, 1) := dk_97 (dk_at dksX11_reduces_4 0 rfl rfl)
theorem dX11_reduces_96 : decode cX11_reduces 96 = .ok (.putfield 391, 3) := dk_181 1 135 (dk_at dksX11_reduces_4 1 rfl rfl)
theorem dX11_reduces_99 : decode cX11_reduces 99 = .ok (.aload_n 0, 1) := dk_42 (dk_at dksX11_reduces_4 4 rfl rfl)
theorem dX11_reduces_100 : decode cX11_reduces 100 = .ok (.dup, 1) := dk_89 (dk_at dksX11_reduces_4 5 rfl rfl)
theorem dX11_reduces_101 : decode cX11_reduces 101 = .ok (.getfield 385, 3) := dk_180 1 129 (dk_at dksX11_reduces_4 6 rfl rfl)
theorem dX11_reduces_104 : decode cX11_reduces 104 = .ok (.ldc2_w 400, 3) := dk_20 1 144 (dk_at dksX11_reduces_4 9 rfl rfl)
theorem dX11_reduces_107 : decode cX11_reduces 107 = .ok (.aload_n 0, 1) := dk_42 (dk_at dksX11_reduces_4 12 rfl rfl)
theorem dX11_reduces_108 : decode cX11_reduces 108 = .ok (.getfield 388, 3) := dk_180 1 132 (dk_at dksX11_reduces_4 13 rfl rfl)
theorem dX11_reduces_111 : decode cX11_reduces 111 = .ok (.lmul, 1) := dk_105 (dk_at dksX11_reduces_4 16 rfl rfl)
theorem dX11_reduces_112 : decode cX11_reduces 112 = .ok (.lload_n 1, 1) := dk_31 (dk_at dksX11_reduces_4 17 rfl rfl)
theorem dX11_reduces_113 : decode cX11_reduces 113 = .ok (.lmul, 1) := dk_105 (dk_at dksX11_reduces_4 18 rfl rfl)
theorem dX11_reduces_114 : decode cX11_reduces 114 = .ok (.ladd, 1) := dk_97 (dk_at dksX11_reduces_4 19 rfl rfl)
theorem dX11_reduces_115 : decode cX11_reduces 115 = .ok (.putfield 385, 3) := dk_181 1 129 (dk_at dksX11_reduces_4 20 rfl rfl)
theorem dX11_reduces_118 : decode cX11_reduces 118 = .ok (.aload_n 0, 1) := dk_42 (dk_at dksX11_reduces_4 23 rfl rfl)
theorem dX11_reduces_119 : decode cX11_reduces 119 = .ok (.lconst 1, 1) := dk_10 (dk_at dksX11_reduces_5 0 rfl rfl)
theorem dX11_reduces_120 : decode cX11_reduces 120 = .ok (.lload_n 1, 1) := dk_31 (dk_at dksX11_reduces_5 1 rfl rfl)
theorem dX11_reduces_121 : decode cX11_reduces 121 = .ok (.lconst 0, 1) := dk_9 (dk_at dksX11_reduces_5 2 rfl rfl)
theorem dX11_reduces_122 : decode cX11_reduces 122 = .ok (.lconst 1, 1) := dk_10 (dk_at dksX11_reduces_5 3 rfl rfl)
theorem dX11_reduces_123 : decode cX11_reduces 123 = .ok (.invokevirtual 405, 3) := dk_182 1 149 (dk_at dksX11_reduces_5 4 rfl rfl)
theorem dX11_reduces_126 : decode cX11_reduces 126 = .ok (.aload_n 0, 1) := dk_42 (dk_at dksX11_reduces_5 7 rfl rfl)
theorem dX11_reduces_127 : decode cX11_reduces 127 = .ok (.invokevirtual 397, 3) := dk_182 1 141 (dk_at dksX11_reduces_5 8 rfl rfl)
theorem dX11_reduces_130 : decode cX11_reduces 130 = .ok (.ifCond .eq (-97), 3) := dk_153 255 159 (dk_at dksX11_reduces_5 11 rfl rfl)
theorem dX11_reduces_133 : decode cX11_reduces 133 = .ok (.aload_n 0, 1) := dk_42 (dk_at dksX11_reduces_5 14 rfl rfl)
theorem dX11_reduces_134 : decode cX11_reduces 134 = .ok (.getfield 388, 3) := dk_180 1 132 (dk_at dksX11_reduces_5 15 rfl rfl)
theorem dX11_reduces_137 : decode cX11_reduces 137 = .ok (.lstore_n 1, 1) := dk_64 (dk_at dksX11_reduces_5 18 rfl rfl)
theorem dX11_reduces_138 : decode cX11_reduces 138 = .ok (.aload_n 0, 1) := dk_42 (dk_at dksX11_reduces_5 19 rfl rfl)
theorem dX11_reduces_139 : decode cX11_reduces 139 = .ok (.aload_n 0, 1) := dk_42 (dk_at dksX11_reduces_5 20 rfl rfl)
theorem dX11_reduces_140 : decode cX11_reduces 140 = .ok (.getfield 391, 3) := dk_180 1 135 (dk_at dksX11_reduces_5 21 rfl rfl)
theorem dX11_reduces_143 : decode cX11_reduces 143 = .ok (.putfield 388, 3) := dk_181 1 132 (dk_at dksX11_reduces_6 0 rfl rfl)
theorem dX11_reduces_146 : decode cX11_reduces 146 = .ok (.aload_n 0, 1) := dk_42 (dk_at dksX11_reduces_6 3 rfl rfl)
theorem dX11_reduces_147 : decode cX11_reduces 147 = .ok (.lload_n 1, 1) := dk_31 (dk_at dksX11_reduces_6 4 rfl rfl)
theorem dX11_reduces_148 : decode cX11_reduces 148 = .ok (.putfield 391, 3) := dk_181 1 135 (dk_at dksX11_reduces_6 5 rfl rfl)
theorem dX11_reduces_151 : decode cX11_reduces 151 = .ok (.aload_n 0, 1) := dk_42 (dk_at dksX11_reduces_6 8 rfl rfl)
theorem dX11_reduces_152 : decode cX11_reduces 152 = .ok (.aload_n 0, 1) := dk_42 (dk_at dksX11_reduces_6 9 rfl rfl)
theorem dX11_reduces_153 : decode cX11_reduces 153 = .ok (.getfield 385, 3) := dk_180 1 129 (dk_at dksX11_reduces_6 10 rfl rfl)
theorem dX11_reduces_156 : decode cX11_reduces 156 = .ok (.lneg, 1) := dk_117 (dk_at dksX11_reduces_6 13 rfl rfl)
theorem dX11_reduces_157 : decode cX11_reduces 157 = .ok (.putfield 385, 3) := dk_181 1 129 (dk_at dksX11_reduces_6 14 rfl rfl)
theorem dX11_reduces_160 : decode cX11_reduces 160 = .ok (.aload_n 0, 1) := dk_42 (dk_at dksX11_reduces_6 17 rfl rfl)
theorem dX11_reduces_161 : decode cX11_reduces 161 = .ok (.lconst 0, 1) := dk_9 (dk_at dksX11_reduces_6 18 rfl rfl)
theorem dX11_reduces_162 : decode cX11_reduces 162 = .ok (.ldc2_w 409, 3) := dk_20 1 153 (dk_at dksX11_reduces_6 19 rfl rfl)
theorem dX11_reduces_165 : decode cX11_reduces 165 = .ok (.lconst 1, 1) := dk_10 (dk_at dksX11_reduces_6 22 rfl rfl)
theorem dX11_reduces_166 : decode cX11_reduces 166 = .ok (.lconst 0, 1) := dk_9 (dk_at dksX11_reduces_6 23 rfl rfl)
theorem dX11_reduces_167 : decode cX11_reduces 167 = .ok (.invokevirtual 405, 3) := dk_182 1 149 (dk_at dksX11_reduces_7 0 rfl rfl)
theorem dX11_reduces_170 : decode cX11_reduces 170 = .ok (.goto (-137), 3) := dk_167 255 119 (dk_at dksX11_reduces_7 3 rfl rfl)
theorem dX11_reduces_173 : decode cX11_reduces 173 = .ok (.return_, 1) := dk_177 (dk_at dksX11_reduces_7 6 rfl rfl)
abbrev cX11_isWide : ByteArray := prog_18_method_121_code
def yX11_isWide : MethodName := ⟨RX11, "isWide", "()Z"⟩
def dkwX11_isWide_1 : List UInt8 := [157, 0, 7, 4, 167, 0, 4, 3, 172]
abbrev dktX11_isWide_1 : List UInt8 := dkwX11_isWide_1 ++ []
def dkwX11_isWide_0 : List UInt8 := [42, 180, 1, 129, 42, 180, 1, 132, 148, 157, 0, 16, 42, 180, 1, 129, 42, 180, 1, 132, 117, 148]
abbrev dktX11_isWide_0 : List UInt8 := dkwX11_isWide_0 ++ dktX11_isWide_1
theorem dksX11_isWide_0 : cX11_isWide.data.toList.drop 0 = dktX11_isWide_0 := by decide +kernel
theorem dksX11_isWide_1 : cX11_isWide.data.toList.drop 22 = dktX11_isWide_1 := dk_seg dksX11_isWide_0 22 rfl rfl
theorem dX11_isWide_0 : decode cX11_isWide 0 = .ok (.aload_n 0, 1) := dk_42 (dk_at dksX11_isWide_0 0 rfl rfl)
theorem dX11_isWide_1 : decode cX11_isWide 1 = .ok (.getfield 385, 3) := dk_180 1 129 (dk_at dksX11_isWide_0 1 rfl rfl)
theorem dX11_isWide_4 : decode cX11_isWide 4 = .ok (.aload_n 0, 1) := dk_42 (dk_at dksX11_isWide_0 4 rfl rfl)
theorem dX11_isWide_5 : decode cX11_isWide 5 = .ok (.getfield 388, 3) := dk_180 1 132 (dk_at dksX11_isWide_0 5 rfl rfl)
theorem dX11_isWide_8 : decode cX11_isWide 8 = .ok (.lcmp, 1) := dk_148 (dk_at dksX11_isWide_0 8 rfl rfl)
theorem dX11_isWide_9 : decode cX11_isWide 9 = .ok (.ifCond .gt 16, 3) := dk_157 0 16 (dk_at dksX11_isWide_0 9 rfl rfl)
theorem dX11_isWide_12 : decode cX11_isWide 12 = .ok (.aload_n 0, 1) := dk_42 (dk_at dksX11_isWide_0 12 rfl rfl)
theorem dX11_isWide_13 : decode cX11_isWide 13 = .ok (.getfield 385, 3) := dk_180 1 129 (dk_at dksX11_isWide_0 13 rfl rfl)
theorem dX11_isWide_16 : decode cX11_isWide 16 = .ok (.aload_n 0, 1) := dk_42 (dk_at dksX11_isWide_0 16 rfl rfl)
theorem dX11_isWide_17 : decode cX11_isWide 17 = .ok (.getfield 388, 3) := dk_180 1 132 (dk_at dksX11_isWide_0 17 rfl rfl)
theorem dX11_isWide_20 : decode cX11_isWide 20 = .ok (.lneg, 1) := dk_117 (dk_at dksX11_isWide_0 20 rfl rfl)
theorem dX11_isWide_21 : decode cX11_isWide 21 = .ok (.lcmp, 1) := dk_148 (dk_at dksX11_isWide_0 21 rfl rfl)
theorem dX11_isWide_22 : decode cX11_isWide 22 = .ok (.ifCond .gt 7, 3) := dk_157 0 7 (dk_at dksX11_isWide_1 0 rfl rfl)
theorem dX11_isWide_25 : decode cX11_isWide 25 = .ok (.iconst 1, 1) := dk_4 (dk_at dksX11_isWide_1 3 rfl rfl)
theorem dX11_isWide_26 : decode cX11_isWide 26 = .ok (.goto 4, 3) := dk_167 0 4 (dk_at dksX11_isWide_1 4 rfl rfl)
theorem dX11_isWide_29 : decode cX11_isWide 29 = .ok (.iconst 0, 1) := dk_3 (dk_at dksX11_isWide_1 7 rfl rfl)
theorem dX11_isWide_30 : decode cX11_isWide 30 = .ok (.ireturn, 1) := dk_172 (dk_at dksX11_isWide_1 8 rfl rfl)
abbrev cX11_isTurned : ByteArray := prog_18_method_122_code
def yX11_isTurned : MethodName := ⟨RX11, "isTurned", "()Z"⟩
def dkwX11_isTurned_1 : List UInt8 := [42, 180, 1, 129, 9, 148, 156, 0, 7, 4, 167, 0, 4, 3, 172]
abbrev dktX11_isTurned_1 : List UInt8 := dkwX11_isTurned_1 ++ []
def dkwX11_isTurned_0 : List UInt8 := [42, 180, 1, 132, 42, 180, 1, 135, 148, 157, 0, 24, 42, 180, 1, 132, 42, 180, 1, 135, 148, 154, 0, 16]
abbrev dktX11_isTurned_0 : List UInt8 := dkwX11_isTurned_0 ++ dktX11_isTurned_1
theorem dksX11_isTurned_0 : cX11_isTurned.data.toList.drop 0 = dktX11_isTurned_0 := by decide +kernel
theorem dksX11_isTurned_1 : cX11_isTurned.data.toList.drop 24 = dktX11_isTurned_1 := dk_seg dksX11_isTurned_0 24 rfl rfl
theorem dX11_isTurned_0 : decode cX11_isTurned 0 = .ok (.aload_n 0, 1) := dk_42 (dk_at dksX11_isTurned_0 0 rfl rfl)
theorem dX11_isTurned_1 : decode cX11_isTurned 1 = .ok (.getfield 388, 3) := dk_180 1 132 (dk_at dksX11_isTurned_0 1 rfl rfl)
theorem dX11_isTurned_4 : decode cX11_isTurned 4 = .ok (.aload_n 0, 1) := dk_42 (dk_at dksX11_isTurned_0 4 rfl rfl)
theorem dX11_isTurned_5 : decode cX11_isTurned 5 = .ok (.getfield 391, 3) := dk_180 1 135 (dk_at dksX11_isTurned_0 5 rfl rfl)
theorem dX11_isTurned_8 : decode cX11_isTurned 8 = .ok (.lcmp, 1) := dk_148 (dk_at dksX11_isTurned_0 8 rfl rfl)
theorem dX11_isTurned_9 : decode cX11_isTurned 9 = .ok (.ifCond .gt 24, 3) := dk_157 0 24 (dk_at dksX11_isTurned_0 9 rfl rfl)
theorem dX11_isTurned_12 : decode cX11_isTurned 12 = .ok (.aload_n 0, 1) := dk_42 (dk_at dksX11_isTurned_0 12 rfl rfl)
theorem dX11_isTurned_13 : decode cX11_isTurned 13 = .ok (.getfield 388, 3) := dk_180 1 132 (dk_at dksX11_isTurned_0 13 rfl rfl)
theorem dX11_isTurned_16 : decode cX11_isTurned 16 = .ok (.aload_n 0, 1) := dk_42 (dk_at dksX11_isTurned_0 16 rfl rfl)
theorem dX11_isTurned_17 : decode cX11_isTurned 17 = .ok (.getfield 391, 3) := dk_180 1 135 (dk_at dksX11_isTurned_0 17 rfl rfl)
theorem dX11_isTurned_20 : decode cX11_isTurned 20 = .ok (.lcmp, 1) := dk_148 (dk_at dksX11_isTurned_0 20 rfl rfl)
theorem dX11_isTurned_21 : decode cX11_isTurned 21 = .ok (.ifCond .ne 16, 3) := dk_154 0 16 (dk_at dksX11_isTurned_0 21 rfl rfl)
theorem dX11_isTurned_24 : decode cX11_isTurned 24 = .ok (.aload_n 0, 1) := dk_42 (dk_at dksX11_isTurned_1 0 rfl rfl)
theorem dX11_isTurned_25 : decode cX11_isTurned 25 = .ok (.getfield 385, 3) := dk_180 1 129 (dk_at dksX11_isTurned_1 1 rfl rfl)
theorem dX11_isTurned_28 : decode cX11_isTurned 28 = .ok (.lconst 0, 1) := dk_9 (dk_at dksX11_isTurned_1 4 rfl rfl)
theorem dX11_isTurned_29 : decode cX11_isTurned 29 = .ok (.lcmp, 1) := dk_148 (dk_at dksX11_isTurned_1 5 rfl rfl)
theorem dX11_isTurned_30 : decode cX11_isTurned 30 = .ok (.ifCond .ge 7, 3) := dk_156 0 7 (dk_at dksX11_isTurned_1 6 rfl rfl)
theorem dX11_isTurned_33 : decode cX11_isTurned 33 = .ok (.iconst 1, 1) := dk_4 (dk_at dksX11_isTurned_1 9 rfl rfl)
theorem dX11_isTurned_34 : decode cX11_isTurned 34 = .ok (.goto 4, 3) := dk_167 0 4 (dk_at dksX11_isTurned_1 10 rfl rfl)
theorem dX11_isTurned_37 : decode cX11_isTurned 37 = .ok (.iconst 0, 1) := dk_3 (dk_at dksX11_isTurned_1 13 rfl rfl)
theorem dX11_isTurned_38 : decode cX11_isTurned 38 = .ok (.ireturn, 1) := dk_172 (dk_at dksX11_isTurned_1 14 rfl rfl)
abbrev cX11_joinsWhole : ByteArray := prog_18_method_120_code
def yX11_joinsWhole : MethodName := ⟨RX11, "joinsWhole", "(JJJJ)V"⟩
def dkwX11_joinsWhole_4 : List UInt8 := [42, 89, 180, 1, 125, 10, 97, 181, 1, 125, 177]
abbrev dktX11_joinsWhole_4 : List UInt8 := dkwX11_joinsWhole_4 ++ []
def dkwX11_joinsWhole_3 : List UInt8 := [105, 22, 15, 22, 5, 105, 97, 80, 42, 180, 0, 61, 6, 22, 13, 33, 105, 22, 15, 22, 7, 105, 97, 80]
abbrev dktX11_joinsWhole_3 : List UInt8 := dkwX11_joinsWhole_3 ++ dktX11_joinsWhole_4
def dkwX11_joinsWhole_2 : List UInt8 := [42, 180, 0, 61, 4, 22, 9, 33, 105, 22, 11, 22, 7, 105, 97, 80, 42, 180, 0, 61, 5, 22, 13, 31]
abbrev dktX11_joinsWhole_2 : List UInt8 := dkwX11_joinsWhole_2 ++ dktX11_joinsWhole_3
def dkwX11_joinsWhole_1 : List UInt8 := [42, 180, 0, 61, 6, 47, 55, 15, 42, 180, 0, 61, 3, 22, 9, 31, 105, 22, 11, 22, 5, 105, 97, 80]
abbrev dktX11_joinsWhole_1 : List UInt8 := dkwX11_joinsWhole_1 ++ dktX11_joinsWhole_2
def dkwX11_joinsWhole_0 : List UInt8 := [42, 180, 0, 61, 3, 47, 55, 9, 42, 180, 0, 61, 4, 47, 55, 11, 42, 180, 0, 61, 5, 47, 55, 13]
abbrev dktX11_joinsWhole_0 : List UInt8 := dkwX11_joinsWhole_0 ++ dktX11_joinsWhole_1
theorem dksX11_joinsWhole_0 : cX11_joinsWhole.data.toList.drop 0 = dktX11_joinsWhole_0 := by decide +kernel
theorem dksX11_joinsWhole_1 : cX11_joinsWhole.data.toList.drop 24 = dktX11_joinsWhole_1 := dk_seg dksX11_joinsWhole_0 24 rfl rfl
theorem dksX11_joinsWhole_2 : cX11_joinsWhole.data.toList.drop 48 = dktX11_joinsWhole_2 := dk_seg dksX11_joinsWhole_1 24 rfl rfl
theorem dksX11_joinsWhole_3 : cX11_joinsWhole.data.toList.drop 72 = dktX11_joinsWhole_3 := dk_seg dksX11_joinsWhole_2 24 rfl rfl
theorem dksX11_joinsWhole_4 : cX11_joinsWhole.data.toList.drop 96 = dktX11_joinsWhole_4 := dk_seg dksX11_joinsWhole_3 24 rfl rfl
theorem dX11_joinsWhole_0 : decode cX11_joinsWhole 0 = .ok (.aload_n 0, 1) := dk_42 (dk_at dksX11_joinsWhole_0 0 rfl rfl)
theorem dX11_joinsWhole_1 : decode cX11_joinsWhole 1 = .ok (.getfield 61, 3) := dk_180 0 61 (dk_at dksX11_joinsWhole_0 1 rfl rfl)
theorem dX11_joinsWhole_4 : decode cX11_joinsWhole 4 = .ok (.iconst 0, 1) := dk_3 (dk_at dksX11_joinsWhole_0 4 rfl rfl)
theorem dX11_joinsWhole_5 : decode cX11_joinsWhole 5 = .ok (.laload, 1) := dk_47 (dk_at dksX11_joinsWhole_0 5 rfl rfl)
theorem dX11_joinsWhole_6 : decode cX11_joinsWhole 6 = .ok (.lstore 9, 2) := dk_55 9 (dk_at dksX11_joinsWhole_0 6 rfl rfl)
theorem dX11_joinsWhole_8 : decode cX11_joinsWhole 8 = .ok (.aload_n 0, 1) := dk_42 (dk_at dksX11_joinsWhole_0 8 rfl rfl)
theorem dX11_joinsWhole_9 : decode cX11_joinsWhole 9 = .ok (.getfield 61, 3) := dk_180 0 61 (dk_at dksX11_joinsWhole_0 9 rfl rfl)
theorem dX11_joinsWhole_12 : decode cX11_joinsWhole 12 = .ok (.iconst 1, 1) := dk_4 (dk_at dksX11_joinsWhole_0 12 rfl rfl)
theorem dX11_joinsWhole_13 : decode cX11_joinsWhole 13 = .ok (.laload, 1) := dk_47 (dk_at dksX11_joinsWhole_0 13 rfl rfl)
theorem dX11_joinsWhole_14 : decode cX11_joinsWhole 14 = .ok (.lstore 11, 2) := dk_55 11 (dk_at dksX11_joinsWhole_0 14 rfl rfl)
theorem dX11_joinsWhole_16 : decode cX11_joinsWhole 16 = .ok (.aload_n 0, 1) := dk_42 (dk_at dksX11_joinsWhole_0 16 rfl rfl)
theorem dX11_joinsWhole_17 : decode cX11_joinsWhole 17 = .ok (.getfield 61, 3) := dk_180 0 61 (dk_at dksX11_joinsWhole_0 17 rfl rfl)
theorem dX11_joinsWhole_20 : decode cX11_joinsWhole 20 = .ok (.iconst 2, 1) := dk_5 (dk_at dksX11_joinsWhole_0 20 rfl rfl)
theorem dX11_joinsWhole_21 : decode cX11_joinsWhole 21 = .ok (.laload, 1) := dk_47 (dk_at dksX11_joinsWhole_0 21 rfl rfl)
theorem dX11_joinsWhole_22 : decode cX11_joinsWhole 22 = .ok (.lstore 13, 2) := dk_55 13 (dk_at dksX11_joinsWhole_0 22 rfl rfl)
theorem dX11_joinsWhole_24 : decode cX11_joinsWhole 24 = .ok (.aload_n 0, 1) := dk_42 (dk_at dksX11_joinsWhole_1 0 rfl rfl)
theorem dX11_joinsWhole_25 : decode cX11_joinsWhole 25 = .ok (.getfield 61, 3) := dk_180 0 61 (dk_at dksX11_joinsWhole_1 1 rfl rfl)
theorem dX11_joinsWhole_28 : decode cX11_joinsWhole 28 = .ok (.iconst 3, 1) := dk_6 (dk_at dksX11_joinsWhole_1 4 rfl rfl)
theorem dX11_joinsWhole_29 : decode cX11_joinsWhole 29 = .ok (.laload, 1) := dk_47 (dk_at dksX11_joinsWhole_1 5 rfl rfl)
theorem dX11_joinsWhole_30 : decode cX11_joinsWhole 30 = .ok (.lstore 15, 2) := dk_55 15 (dk_at dksX11_joinsWhole_1 6 rfl rfl)
theorem dX11_joinsWhole_32 : decode cX11_joinsWhole 32 = .ok (.aload_n 0, 1) := dk_42 (dk_at dksX11_joinsWhole_1 8 rfl rfl)
theorem dX11_joinsWhole_33 : decode cX11_joinsWhole 33 = .ok (.getfield 61, 3) := dk_180 0 61 (dk_at dksX11_joinsWhole_1 9 rfl rfl)
theorem dX11_joinsWhole_36 : decode cX11_joinsWhole 36 = .ok (.iconst 0, 1) := dk_3 (dk_at dksX11_joinsWhole_1 12 rfl rfl)
theorem dX11_joinsWhole_37 : decode cX11_joinsWhole 37 = .ok (.lload 9, 2) := dk_22 9 (dk_at dksX11_joinsWhole_1 13 rfl rfl)
theorem dX11_joinsWhole_39 : decode cX11_joinsWhole 39 = .ok (.lload_n 1, 1) := dk_31 (dk_at dksX11_joinsWhole_1 15 rfl rfl)
theorem dX11_joinsWhole_40 : decode cX11_joinsWhole 40 = .ok (.lmul, 1) := dk_105 (dk_at dksX11_joinsWhole_1 16 rfl rfl)
theorem dX11_joinsWhole_41 : decode cX11_joinsWhole 41 = .ok (.lload 11, 2) := dk_22 11 (dk_at dksX11_joinsWhole_1 17 rfl rfl)
theorem dX11_joinsWhole_43 : decode cX11_joinsWhole 43 = .ok (.lload 5, 2) := dk_22 5 (dk_at dksX11_joinsWhole_1 19 rfl rfl)
theorem dX11_joinsWhole_45 : decode cX11_joinsWhole 45 = .ok (.lmul, 1) := dk_105 (dk_at dksX11_joinsWhole_1 21 rfl rfl)
theorem dX11_joinsWhole_46 : decode cX11_joinsWhole 46 = .ok (.ladd, 1) := dk_97 (dk_at dksX11_joinsWhole_1 22 rfl rfl)
theorem dX11_joinsWhole_47 : decode cX11_joinsWhole 47 = .ok (.lastore, 1) := dk_80 (dk_at dksX11_joinsWhole_1 23 rfl rfl)
theorem dX11_joinsWhole_48 : decode cX11_joinsWhole 48 = .ok (.aload_n 0, 1) := dk_42 (dk_at dksX11_joinsWhole_2 0 rfl rfl)
theorem dX11_joinsWhole_49 : decode cX11_joinsWhole 49 = .ok (.getfield 61, 3) := dk_180 0 61 (dk_at dksX11_joinsWhole_2 1 rfl rfl)
theorem dX11_joinsWhole_52 : decode cX11_joinsWhole 52 = .ok (.iconst 1, 1) := dk_4 (dk_at dksX11_joinsWhole_2 4 rfl rfl)
theorem dX11_joinsWhole_53 : decode cX11_joinsWhole 53 = .ok (.lload 9, 2) := dk_22 9 (dk_at dksX11_joinsWhole_2 5 rfl rfl)
theorem dX11_joinsWhole_55 : decode cX11_joinsWhole 55 = .ok (.lload_n 3, 1) := dk_33 (dk_at dksX11_joinsWhole_2 7 rfl rfl)
theorem dX11_joinsWhole_56 : decode cX11_joinsWhole 56 = .ok (.lmul, 1) := dk_105 (dk_at dksX11_joinsWhole_2 8 rfl rfl)
theorem dX11_joinsWhole_57 : decode cX11_joinsWhole 57 = .ok (.lload 11, 2) := dk_22 11 (dk_at dksX11_joinsWhole_2 9 rfl rfl)
theorem dX11_joinsWhole_59 : decode cX11_joinsWhole 59 = .ok (.lload 7, 2) := dk_22 7 (dk_at dksX11_joinsWhole_2 11 rfl rfl)
theorem dX11_joinsWhole_61 : decode cX11_joinsWhole 61 = .ok (.lmul, 1) := dk_105 (dk_at dksX11_joinsWhole_2 13 rfl rfl)
theorem dX11_joinsWhole_62 : decode cX11_joinsWhole 62 = .ok (.ladd, 1) := dk_97 (dk_at dksX11_joinsWhole_2 14 rfl rfl)
theorem dX11_joinsWhole_63 : decode cX11_joinsWhole 63 = .ok (.lastore, 1) := dk_80 (dk_at dksX11_joinsWhole_2 15 rfl rfl)
theorem dX11_joinsWhole_64 : decode cX11_joinsWhole 64 = .ok (.aload_n 0, 1) := dk_42 (dk_at dksX11_joinsWhole_2 16 rfl rfl)
theorem dX11_joinsWhole_65 : decode cX11_joinsWhole 65 = .ok (.getfield 61, 3) := dk_180 0 61 (dk_at dksX11_joinsWhole_2 17 rfl rfl)
theorem dX11_joinsWhole_68 : decode cX11_joinsWhole 68 = .ok (.iconst 2, 1) := dk_5 (dk_at dksX11_joinsWhole_2 20 rfl rfl)
theorem dX11_joinsWhole_69 : decode cX11_joinsWhole 69 = .ok (.lload 13, 2) := dk_22 13 (dk_at dksX11_joinsWhole_2 21 rfl rfl)
theorem dX11_joinsWhole_71 : decode cX11_joinsWhole 71 = .ok (.lload_n 1, 1) := dk_31 (dk_at dksX11_joinsWhole_2 23 rfl rfl)
theorem dX11_joinsWhole_72 : decode cX11_joinsWhole 72 = .ok (.lmul, 1) := dk_105 (dk_at dksX11_joinsWhole_3 0 rfl rfl)
theorem dX11_joinsWhole_73 : decode cX11_joinsWhole 73 = .ok (.lload 15, 2) := dk_22 15 (dk_at dksX11_joinsWhole_3 1 rfl rfl)
theorem dX11_joinsWhole_75 : decode cX11_joinsWhole 75 = .ok (.lload 5, 2) := dk_22 5 (dk_at dksX11_joinsWhole_3 3 rfl rfl)
theorem dX11_joinsWhole_77 : decode cX11_joinsWhole 77 = .ok (.lmul, 1) := dk_105 (dk_at dksX11_joinsWhole_3 5 rfl rfl)
theorem dX11_joinsWhole_78 : decode cX11_joinsWhole 78 = .ok (.ladd, 1) := dk_97 (dk_at dksX11_joinsWhole_3 6 rfl rfl)
theorem dX11_joinsWhole_79 : decode cX11_joinsWhole 79 = .ok (.lastore, 1) := dk_80 (dk_at dksX11_joinsWhole_3 7 rfl rfl)
theorem dX11_joinsWhole_80 : decode cX11_joinsWhole 80 = .ok (.aload_n 0, 1) := dk_42 (dk_at dksX11_joinsWhole_3 8 rfl rfl)
theorem dX11_joinsWhole_81 : decode cX11_joinsWhole 81 = .ok (.getfield 61, 3) := dk_180 0 61 (dk_at dksX11_joinsWhole_3 9 rfl rfl)
theorem dX11_joinsWhole_84 : decode cX11_joinsWhole 84 = .ok (.iconst 3, 1) := dk_6 (dk_at dksX11_joinsWhole_3 12 rfl rfl)
theorem dX11_joinsWhole_85 : decode cX11_joinsWhole 85 = .ok (.lload 13, 2) := dk_22 13 (dk_at dksX11_joinsWhole_3 13 rfl rfl)
theorem dX11_joinsWhole_87 : decode cX11_joinsWhole 87 = .ok (.lload_n 3, 1) := dk_33 (dk_at dksX11_joinsWhole_3 15 rfl rfl)
theorem dX11_joinsWhole_88 : decode cX11_joinsWhole 88 = .ok (.lmul, 1) := dk_105 (dk_at dksX11_joinsWhole_3 16 rfl rfl)
theorem dX11_joinsWhole_89 : decode cX11_joinsWhole 89 = .ok (.lload 15, 2) := dk_22 15 (dk_at dksX11_joinsWhole_3 17 rfl rfl)
theorem dX11_joinsWhole_91 : decode cX11_joinsWhole 91 = .ok (.lload 7, 2) := dk_22 7 (dk_at dksX11_joinsWhole_3 19 rfl rfl)
theorem dX11_joinsWhole_93 : decode cX11_joinsWhole 93 = .ok (.lmul, 1) := dk_105 (dk_at dksX11_joinsWhole_3 21 rfl rfl)
theorem dX11_joinsWhole_94 : decode cX11_joinsWhole 94 = .ok (.ladd, 1) := dk_97 (dk_at dksX11_joinsWhole_3 22 rfl rfl)
theorem dX11_joinsWhole_95 : decode cX11_joinsWhole 95 = .ok (.lastore, 1) := dk_80 (dk_at dksX11_joinsWhole_3 23 rfl rfl)
theorem dX11_joinsWhole_96 : decode cX11_joinsWhole 96 = .ok (.aload_n 0, 1) := dk_42 (dk_at dksX11_joinsWhole_4 0 rfl rfl)
theorem dX11_joinsWhole_97 : decode cX11_joinsWhole 97 = .ok (.dup, 1) := dk_89 (dk_at dksX11_joinsWhole_4 1 rfl rfl)
theorem dX11_joinsWhole_98 : decode cX11_joinsWhole 98 = .ok (.getfield 381, 3) := dk_180 1 125 (dk_at dksX11_joinsWhole_4 2 rfl rfl)
theorem dX11_joinsWhole_101 : decode cX11_joinsWhole 101 = .ok (.lconst 1, 1) := dk_10 (dk_at dksX11_joinsWhole_4 5 rfl rfl)
theorem dX11_joinsWhole_102 : decode cX11_joinsWhole 102 = .ok (.ladd, 1) := dk_97 (dk_at dksX11_joinsWhole_4 6 rfl rfl)
theorem dX11_joinsWhole_103 : decode cX11_joinsWhole 103 = .ok (.putfield 381, 3) := dk_181 1 125 (dk_at dksX11_joinsWhole_4 7 rfl rfl)
theorem dX11_joinsWhole_106 : decode cX11_joinsWhole 106 = .ok (.return_, 1) := dk_177 (dk_at dksX11_joinsWhole_4 10 rfl rfl)
abbrev cX11_turnsOf : ByteArray := prog_18_method_124_code
def yX11_turnsOf : MethodName := ⟨RX11, "turnsOf", "(JJJ)I"⟩
def dkwX11_turnsOf_1 : List UInt8 := [154, 0, 8, 16, 6, 167, 0, 4, 5, 172]
abbrev dktX11_turnsOf_1 : List UInt8 := dkwX11_turnsOf_1 ++ []
def dkwX11_turnsOf_0 : List UInt8 := [30, 22, 4, 148, 153, 0, 7, 5, 167, 0, 25, 32, 9, 148, 154, 0, 7, 7, 167, 0, 15, 32, 30, 148]
abbrev dktX11_turnsOf_0 : List UInt8 := dkwX11_turnsOf_0 ++ dktX11_turnsOf_1
theorem dksX11_turnsOf_0 : cX11_turnsOf.data.toList.drop 0 = dktX11_turnsOf_0 := by decide +kernel
theorem dksX11_turnsOf_1 : cX11_turnsOf.data.toList.drop 24 = dktX11_turnsOf_1 := dk_seg dksX11_turnsOf_0 24 rfl rfl
theorem dX11_turnsOf_0 : decode cX11_turnsOf 0 = .ok (.lload_n 0, 1) := dk_30 (dk_at dksX11_turnsOf_0 0 rfl rfl)
theorem dX11_turnsOf_1 : decode cX11_turnsOf 1 = .ok (.lload 4, 2) := dk_22 4 (dk_at dksX11_turnsOf_0 1 rfl rfl)
theorem dX11_turnsOf_3 : decode cX11_turnsOf 3 = .ok (.lcmp, 1) := dk_148 (dk_at dksX11_turnsOf_0 3 rfl rfl)
theorem dX11_turnsOf_4 : decode cX11_turnsOf 4 = .ok (.ifCond .eq 7, 3) := dk_153 0 7 (dk_at dksX11_turnsOf_0 4 rfl rfl)
theorem dX11_turnsOf_7 : decode cX11_turnsOf 7 = .ok (.iconst 2, 1) := dk_5 (dk_at dksX11_turnsOf_0 7 rfl rfl)
theorem dX11_turnsOf_8 : decode cX11_turnsOf 8 = .ok (.goto 25, 3) := dk_167 0 25 (dk_at dksX11_turnsOf_0 8 rfl rfl)
theorem dX11_turnsOf_11 : decode cX11_turnsOf 11 = .ok (.lload_n 2, 1) := dk_32 (dk_at dksX11_turnsOf_0 11 rfl rfl)
theorem dX11_turnsOf_12 : decode cX11_turnsOf 12 = .ok (.lconst 0, 1) := dk_9 (dk_at dksX11_turnsOf_0 12 rfl rfl)
theorem dX11_turnsOf_13 : decode cX11_turnsOf 13 = .ok (.lcmp, 1) := dk_148 (dk_at dksX11_turnsOf_0 13 rfl rfl)
theorem dX11_turnsOf_14 : decode cX11_turnsOf 14 = .ok (.ifCond .ne 7, 3) := dk_154 0 7 (dk_at dksX11_turnsOf_0 14 rfl rfl)
theorem dX11_turnsOf_17 : decode cX11_turnsOf 17 = .ok (.iconst 4, 1) := dk_7 (dk_at dksX11_turnsOf_0 17 rfl rfl)
theorem dX11_turnsOf_18 : decode cX11_turnsOf 18 = .ok (.goto 15, 3) := dk_167 0 15 (dk_at dksX11_turnsOf_0 18 rfl rfl)
theorem dX11_turnsOf_21 : decode cX11_turnsOf 21 = .ok (.lload_n 2, 1) := dk_32 (dk_at dksX11_turnsOf_0 21 rfl rfl)
theorem dX11_turnsOf_22 : decode cX11_turnsOf 22 = .ok (.lload_n 0, 1) := dk_30 (dk_at dksX11_turnsOf_0 22 rfl rfl)
theorem dX11_turnsOf_23 : decode cX11_turnsOf 23 = .ok (.lcmp, 1) := dk_148 (dk_at dksX11_turnsOf_0 23 rfl rfl)
theorem dX11_turnsOf_24 : decode cX11_turnsOf 24 = .ok (.ifCond .ne 8, 3) := dk_154 0 8 (dk_at dksX11_turnsOf_1 0 rfl rfl)
theorem dX11_turnsOf_27 : decode cX11_turnsOf 27 = .ok (.bipush 6, 2) := dk_16 6 (dk_at dksX11_turnsOf_1 3 rfl rfl)
theorem dX11_turnsOf_29 : decode cX11_turnsOf 29 = .ok (.goto 4, 3) := dk_167 0 4 (dk_at dksX11_turnsOf_1 5 rfl rfl)
theorem dX11_turnsOf_32 : decode cX11_turnsOf 32 = .ok (.iconst 2, 1) := dk_5 (dk_at dksX11_turnsOf_1 8 rfl rfl)
theorem dX11_turnsOf_33 : decode cX11_turnsOf 33 = .ok (.ireturn, 1) := dk_172 (dk_at dksX11_turnsOf_1 9 rfl rfl)
abbrev cX11_classes : ByteArray := prog_18_method_130_code
def yX11_classes : MethodName := ⟨RX11, "classes", "(IZ)I"⟩
def dkwX11_classes_1 : List UInt8 := [2, 182, 1, 187, 172]
abbrev dktX11_classes_1 : List UInt8 := dkwX11_classes_1 ++ []
def dkwX11_classes_0 : List UInt8 := [42, 3, 181, 0, 3, 42, 27, 184, 1, 184, 4, 182, 0, 215, 153, 0, 7, 3, 167, 0, 10, 42, 27, 28]
abbrev dktX11_classes_0 : List UInt8 := dkwX11_classes_0 ++ dktX11_classes_1
theorem dksX11_classes_0 : cX11_classes.data.toList.drop 0 = dktX11_classes_0 := by decide +kernel
theorem dksX11_classes_1 : cX11_classes.data.toList.drop 24 = dktX11_classes_1 := dk_seg dksX11_classes_0 24 rfl rfl
theorem dX11_classes_0 : decode cX11_classes 0 = .ok (.aload_n 0, 1) := dk_42 (dk_at dksX11_classes_0 0 rfl rfl)
theorem dX11_classes_1 : decode cX11_classes 1 = .ok (.iconst 0, 1) := dk_3 (dk_at dksX11_classes_0 1 rfl rfl)
theorem dX11_classes_2 : decode cX11_classes 2 = .ok (.putfield 3, 3) := dk_181 0 3 (dk_at dksX11_classes_0 2 rfl rfl)
theorem dX11_classes_5 : decode cX11_classes 5 = .ok (.aload_n 0, 1) := dk_42 (dk_at dksX11_classes_0 5 rfl rfl)
theorem dX11_classes_6 : decode cX11_classes 6 = .ok (.iload_n 1, 1) := dk_27 (dk_at dksX11_classes_0 6 rfl rfl)
theorem dX11_classes_7 : decode cX11_classes 7 = .ok (.invokestatic 440, 3) := dk_184 1 184 (dk_at dksX11_classes_0 7 rfl rfl)
theorem dX11_classes_10 : decode cX11_classes 10 = .ok (.iconst 1, 1) := dk_4 (dk_at dksX11_classes_0 10 rfl rfl)
theorem dX11_classes_11 : decode cX11_classes 11 = .ok (.invokevirtual 215, 3) := dk_182 0 215 (dk_at dksX11_classes_0 11 rfl rfl)
theorem dX11_classes_14 : decode cX11_classes 14 = .ok (.ifCond .eq 7, 3) := dk_153 0 7 (dk_at dksX11_classes_0 14 rfl rfl)
theorem dX11_classes_17 : decode cX11_classes 17 = .ok (.iconst 0, 1) := dk_3 (dk_at dksX11_classes_0 17 rfl rfl)
theorem dX11_classes_18 : decode cX11_classes 18 = .ok (.goto 10, 3) := dk_167 0 10 (dk_at dksX11_classes_0 18 rfl rfl)
theorem dX11_classes_21 : decode cX11_classes 21 = .ok (.aload_n 0, 1) := dk_42 (dk_at dksX11_classes_0 21 rfl rfl)
theorem dX11_classes_22 : decode cX11_classes 22 = .ok (.iload_n 1, 1) := dk_27 (dk_at dksX11_classes_0 22 rfl rfl)
theorem dX11_classes_23 : decode cX11_classes 23 = .ok (.iload_n 2, 1) := dk_28 (dk_at dksX11_classes_0 23 rfl rfl)
theorem dX11_classes_24 : decode cX11_classes 24 = .ok (.iconst (-1), 1) := dk_2 (dk_at dksX11_classes_1 0 rfl rfl)
theorem dX11_classes_25 : decode cX11_classes 25 = .ok (.invokevirtual 443, 3) := dk_182 1 187 (dk_at dksX11_classes_1 1 rfl rfl)
theorem dX11_classes_28 : decode cX11_classes 28 = .ok (.ireturn, 1) := dk_172 (dk_at dksX11_classes_1 4 rfl rfl)
abbrev cX11_noDisc : ByteArray := prog_18_method_128_code
def yX11_noDisc : MethodName := ⟨RX11, "noDisc", "(I)Z"⟩
def dkwX11_noDisc_1 : List UInt8 := [167, 0, 4, 3, 172]
abbrev dktX11_noDisc_1 : List UInt8 := dkwX11_noDisc_1 ++ []
def dkwX11_noDisc_0 : List UInt8 := [26, 17, 216, 241, 16, 253, 184, 0, 68, 153, 0, 12, 26, 7, 184, 1, 170, 4, 164, 0, 7, 4]
abbrev dktX11_noDisc_0 : List UInt8 := dkwX11_noDisc_0 ++ dktX11_noDisc_1
theorem dksX11_noDisc_0 : cX11_noDisc.data.toList.drop 0 = dktX11_noDisc_0 := by decide +kernel
theorem dksX11_noDisc_1 : cX11_noDisc.data.toList.drop 22 = dktX11_noDisc_1 := dk_seg dksX11_noDisc_0 22 rfl rfl
theorem dX11_noDisc_0 : decode cX11_noDisc 0 = .ok (.iload_n 0, 1) := dk_26 (dk_at dksX11_noDisc_0 0 rfl rfl)
theorem dX11_noDisc_1 : decode cX11_noDisc 1 = .ok (.sipush (-9999), 3) := dk_17 216 241 (dk_at dksX11_noDisc_0 1 rfl rfl)
theorem dX11_noDisc_4 : decode cX11_noDisc 4 = .ok (.bipush (-3), 2) := dk_16 253 (dk_at dksX11_noDisc_0 4 rfl rfl)
theorem dX11_noDisc_6 : decode cX11_noDisc 6 = .ok (.invokestatic 68, 3) := dk_184 0 68 (dk_at dksX11_noDisc_0 6 rfl rfl)
theorem dX11_noDisc_9 : decode cX11_noDisc 9 = .ok (.ifCond .eq 12, 3) := dk_153 0 12 (dk_at dksX11_noDisc_0 9 rfl rfl)
theorem dX11_noDisc_12 : decode cX11_noDisc 12 = .ok (.iload_n 0, 1) := dk_26 (dk_at dksX11_noDisc_0 12 rfl rfl)
theorem dX11_noDisc_13 : decode cX11_noDisc 13 = .ok (.iconst 4, 1) := dk_7 (dk_at dksX11_noDisc_0 13 rfl rfl)
theorem dX11_noDisc_14 : decode cX11_noDisc 14 = .ok (.invokestatic 426, 3) := dk_184 1 170 (dk_at dksX11_noDisc_0 14 rfl rfl)
theorem dX11_noDisc_17 : decode cX11_noDisc 17 = .ok (.iconst 1, 1) := dk_4 (dk_at dksX11_noDisc_0 17 rfl rfl)
theorem dX11_noDisc_18 : decode cX11_noDisc 18 = .ok (.if_icmp .le 7, 3) := dk_164 0 7 (dk_at dksX11_noDisc_0 18 rfl rfl)
theorem dX11_noDisc_21 : decode cX11_noDisc 21 = .ok (.iconst 1, 1) := dk_4 (dk_at dksX11_noDisc_0 21 rfl rfl)
theorem dX11_noDisc_22 : decode cX11_noDisc 22 = .ok (.goto 4, 3) := dk_167 0 4 (dk_at dksX11_noDisc_1 0 rfl rfl)
theorem dX11_noDisc_25 : decode cX11_noDisc 25 = .ok (.iconst 0, 1) := dk_3 (dk_at dksX11_noDisc_1 3 rfl rfl)
theorem dX11_noDisc_26 : decode cX11_noDisc 26 = .ok (.ireturn, 1) := dk_172 (dk_at dksX11_noDisc_1 4 rfl rfl)
abbrev cX11_reducedMany : ByteArray := prog_18_method_129_code
def yX11_reducedMany : MethodName := ⟨RX11, "reducedMany", "(IZI)I"⟩
def dkwX11_reducedMany_6 : List UInt8 := [167, 255, 121, 21, 4, 172]
abbrev dktX11_reducedMany_6 : List UInt8 := dkwX11_reducedMany_6 ++ []
def dkwX11_reducedMany_5 : List UInt8 := [42, 21, 6, 181, 1, 178, 42, 21, 7, 181, 1, 181, 132, 4, 1, 132, 6, 1, 167, 255, 145, 132, 5, 1]
abbrev dktX11_reducedMany_5 : List UInt8 := dkwX11_reducedMany_5 ++ dktX11_reducedMany_6
def dkwX11_reducedMany_4 : List UInt8 := [21, 7, 184, 1, 172, 4, 164, 0, 6, 167, 0, 30, 21, 4, 29, 160, 0, 21, 42, 21, 5, 181, 1, 175]
abbrev dktX11_reducedMany_4 : List UInt8 := dkwX11_reducedMany_4 ++ dktX11_reducedMany_5
def dkwX11_reducedMany_3 : List UInt8 := [21, 7, 21, 5, 160, 0, 8, 21, 6, 155, 0, 53, 28, 154, 0, 22, 21, 5, 21, 6, 184, 1, 172]
abbrev dktX11_reducedMany_3 : List UInt8 := dkwX11_reducedMany_3 ++ dktX11_reducedMany_4
def dkwX11_reducedMany_2 : List UInt8 := [167, 0, 86, 21, 6, 21, 6, 104, 27, 100, 7, 21, 5, 104, 108, 54, 7, 21, 7, 21, 5, 161, 0, 65]
abbrev dktX11_reducedMany_2 : List UInt8 := dkwX11_reducedMany_2 ++ dktX11_reducedMany_3
def dkwX11_reducedMany_1 : List UInt8 := [21, 6, 21, 5, 163, 0, 110, 21, 6, 21, 6, 104, 27, 100, 7, 21, 5, 104, 112, 153, 0, 6]
abbrev dktX11_reducedMany_1 : List UInt8 := dkwX11_reducedMany_1 ++ dktX11_reducedMany_2
def dkwX11_reducedMany_0 : List UInt8 := [3, 54, 4, 4, 54, 5, 6, 21, 5, 104, 21, 5, 104, 27, 116, 163, 0, 129, 4, 21, 5, 100, 54, 6]
abbrev dktX11_reducedMany_0 : List UInt8 := dkwX11_reducedMany_0 ++ dktX11_reducedMany_1
theorem dksX11_reducedMany_0 : cX11_reducedMany.data.toList.drop 0 = dktX11_reducedMany_0 := by decide +kernel
theorem dksX11_reducedMany_1 : cX11_reducedMany.data.toList.drop 24 = dktX11_reducedMany_1 := dk_seg dksX11_reducedMany_0 24 rfl rfl
theorem dksX11_reducedMany_2 : cX11_reducedMany.data.toList.drop 46 = dktX11_reducedMany_2 := dk_seg dksX11_reducedMany_1 22 rfl rfl
theorem dksX11_reducedMany_3 : cX11_reducedMany.data.toList.drop 70 = dktX11_reducedMany_3 := dk_seg dksX11_reducedMany_2 24 rfl rfl
theorem dksX11_reducedMany_4 : cX11_reducedMany.data.toList.drop 93 = dktX11_reducedMany_4 := dk_seg dksX11_reducedMany_3 23 rfl rfl
theorem dksX11_reducedMany_5 : cX11_reducedMany.data.toList.drop 117 = dktX11_reducedMany_5 := dk_seg dksX11_reducedMany_4 24 rfl rfl
theorem dksX11_reducedMany_6 : cX11_reducedMany.data.toList.drop 141 = dktX11_reducedMany_6 := dk_seg dksX11_reducedMany_5 24 rfl rfl
theorem dX11_reducedMany_0 : decode cX11_reducedMany 0 = .ok (.iconst 0, 1) := dk_3 (dk_at dksX11_reducedMany_0 0 rfl rfl)
theorem dX11_reducedMany_1 : decode cX11_reducedMany 1 = .ok (.istore 4, 2) := dk_54 4 (dk_at dksX11_reducedMany_0 1 rfl rfl)
theorem dX11_reducedMany_3 : decode cX11_reducedMany 3 = .ok (.iconst 1, 1) := dk_4 (dk_at dksX11_reducedMany_0 3 rfl rfl)
theorem dX11_reducedMany_4 : decode cX11_reducedMany 4 = .ok (.istore 5, 2) := dk_54 5 (dk_at dksX11_reducedMany_0 4 rfl rfl)
theorem dX11_reducedMany_6 : decode cX11_reducedMany 6 = .ok (.iconst 3, 1) := dk_6 (dk_at dksX11_reducedMany_0 6 rfl rfl)
theorem dX11_reducedMany_7 : decode cX11_reducedMany 7 = .ok (.iload 5, 2) := dk_21 5 (dk_at dksX11_reducedMany_0 7 rfl rfl)
theorem dX11_reducedMany_9 : decode cX11_reducedMany 9 = .ok (.imul, 1) := dk_104 (dk_at dksX11_reducedMany_0 9 rfl rfl)
theorem dX11_reducedMany_10 : decode cX11_reducedMany 10 = .ok (.iload 5, 2) := dk_21 5 (dk_at dksX11_reducedMany_0 10 rfl rfl)
theorem dX11_reducedMany_12 : decode cX11_reducedMany 12 = .ok (.imul, 1) := dk_104 (dk_at dksX11_reducedMany_0 12 rfl rfl)
theorem dX11_reducedMany_13 : decode cX11_reducedMany 13 = .ok (.iload_n 1, 1) := dk_27 (dk_at dksX11_reducedMany_0 13 rfl rfl)
theorem dX11_reducedMany_14 : decode cX11_reducedMany 14 = .ok (.ineg, 1) := dk_116 (dk_at dksX11_reducedMany_0 14 rfl rfl)
theorem dX11_reducedMany_15 : decode cX11_reducedMany 15 = .ok (.if_icmp .gt 129, 3) := dk_163 0 129 (dk_at dksX11_reducedMany_0 15 rfl rfl)
theorem dX11_reducedMany_18 : decode cX11_reducedMany 18 = .ok (.iconst 1, 1) := dk_4 (dk_at dksX11_reducedMany_0 18 rfl rfl)
theorem dX11_reducedMany_19 : decode cX11_reducedMany 19 = .ok (.iload 5, 2) := dk_21 5 (dk_at dksX11_reducedMany_0 19 rfl rfl)
theorem dX11_reducedMany_21 : decode cX11_reducedMany 21 = .ok (.isub, 1) := dk_100 (dk_at dksX11_reducedMany_0 21 rfl rfl)
theorem dX11_reducedMany_22 : decode cX11_reducedMany 22 = .ok (.istore 6, 2) := dk_54 6 (dk_at dksX11_reducedMany_0 22 rfl rfl)
theorem dX11_reducedMany_24 : decode cX11_reducedMany 24 = .ok (.iload 6, 2) := dk_21 6 (dk_at dksX11_reducedMany_1 0 rfl rfl)
theorem dX11_reducedMany_26 : decode cX11_reducedMany 26 = .ok (.iload 5, 2) := dk_21 5 (dk_at dksX11_reducedMany_1 2 rfl rfl)
theorem dX11_reducedMany_28 : decode cX11_reducedMany 28 = .ok (.if_icmp .gt 110, 3) := dk_163 0 110 (dk_at dksX11_reducedMany_1 4 rfl rfl)
theorem dX11_reducedMany_31 : decode cX11_reducedMany 31 = .ok (.iload 6, 2) := dk_21 6 (dk_at dksX11_reducedMany_1 7 rfl rfl)
theorem dX11_reducedMany_33 : decode cX11_reducedMany 33 = .ok (.iload 6, 2) := dk_21 6 (dk_at dksX11_reducedMany_1 9 rfl rfl)
theorem dX11_reducedMany_35 : decode cX11_reducedMany 35 = .ok (.imul, 1) := dk_104 (dk_at dksX11_reducedMany_1 11 rfl rfl)
theorem dX11_reducedMany_36 : decode cX11_reducedMany 36 = .ok (.iload_n 1, 1) := dk_27 (dk_at dksX11_reducedMany_1 12 rfl rfl)
theorem dX11_reducedMany_37 : decode cX11_reducedMany 37 = .ok (.isub, 1) := dk_100 (dk_at dksX11_reducedMany_1 13 rfl rfl)
theorem dX11_reducedMany_38 : decode cX11_reducedMany 38 = .ok (.iconst 4, 1) := dk_7 (dk_at dksX11_reducedMany_1 14 rfl rfl)
theorem dX11_reducedMany_39 : decode cX11_reducedMany 39 = .ok (.iload 5, 2) := dk_21 5 (dk_at dksX11_reducedMany_1 15 rfl rfl)
theorem dX11_reducedMany_41 : decode cX11_reducedMany 41 = .ok (.imul, 1) := dk_104 (dk_at dksX11_reducedMany_1 17 rfl rfl)
theorem dX11_reducedMany_42 : decode cX11_reducedMany 42 = .ok (.irem, 1) := dk_112 (dk_at dksX11_reducedMany_1 18 rfl rfl)
theorem dX11_reducedMany_43 : decode cX11_reducedMany 43 = .ok (.ifCond .eq 6, 3) := dk_153 0 6 (dk_at dksX11_reducedMany_1 19 rfl rfl)
theorem dX11_reducedMany_46 : decode cX11_reducedMany 46 = .ok (.goto 86, 3) := dk_167 0 86 (dk_at dksX11_reducedMany_2 0 rfl rfl)
theorem dX11_reducedMany_49 : decode cX11_reducedMany 49 = .ok (.iload 6, 2) := dk_21 6 (dk_at dksX11_reducedMany_2 3 rfl rfl)
theorem dX11_reducedMany_51 : decode cX11_reducedMany 51 = .ok (.iload 6, 2) := dk_21 6 (dk_at dksX11_reducedMany_2 5 rfl rfl)
theorem dX11_reducedMany_53 : decode cX11_reducedMany 53 = .ok (.imul, 1) := dk_104 (dk_at dksX11_reducedMany_2 7 rfl rfl)
theorem dX11_reducedMany_54 : decode cX11_reducedMany 54 = .ok (.iload_n 1, 1) := dk_27 (dk_at dksX11_reducedMany_2 8 rfl rfl)
theorem dX11_reducedMany_55 : decode cX11_reducedMany 55 = .ok (.isub, 1) := dk_100 (dk_at dksX11_reducedMany_2 9 rfl rfl)
theorem dX11_reducedMany_56 : decode cX11_reducedMany 56 = .ok (.iconst 4, 1) := dk_7 (dk_at dksX11_reducedMany_2 10 rfl rfl)
theorem dX11_reducedMany_57 : decode cX11_reducedMany 57 = .ok (.iload 5, 2) := dk_21 5 (dk_at dksX11_reducedMany_2 11 rfl rfl)
theorem dX11_reducedMany_59 : decode cX11_reducedMany 59 = .ok (.imul, 1) := dk_104 (dk_at dksX11_reducedMany_2 13 rfl rfl)
theorem dX11_reducedMany_60 : decode cX11_reducedMany 60 = .ok (.idiv, 1) := dk_108 (dk_at dksX11_reducedMany_2 14 rfl rfl)
theorem dX11_reducedMany_61 : decode cX11_reducedMany 61 = .ok (.istore 7, 2) := dk_54 7 (dk_at dksX11_reducedMany_2 15 rfl rfl)
theorem dX11_reducedMany_63 : decode cX11_reducedMany 63 = .ok (.iload 7, 2) := dk_21 7 (dk_at dksX11_reducedMany_2 17 rfl rfl)
theorem dX11_reducedMany_65 : decode cX11_reducedMany 65 = .ok (.iload 5, 2) := dk_21 5 (dk_at dksX11_reducedMany_2 19 rfl rfl)
theorem dX11_reducedMany_67 : decode cX11_reducedMany 67 = .ok (.if_icmp .lt 65, 3) := dk_161 0 65 (dk_at dksX11_reducedMany_2 21 rfl rfl)
theorem dX11_reducedMany_70 : decode cX11_reducedMany 70 = .ok (.iload 7, 2) := dk_21 7 (dk_at dksX11_reducedMany_3 0 rfl rfl)
theorem dX11_reducedMany_72 : decode cX11_reducedMany 72 = .ok (.iload 5, 2) := dk_21 5 (dk_at dksX11_reducedMany_3 2 rfl rfl)
theorem dX11_reducedMany_74 : decode cX11_reducedMany 74 = .ok (.if_icmp .ne 8, 3) := dk_160 0 8 (dk_at dksX11_reducedMany_3 4 rfl rfl)
theorem dX11_reducedMany_77 : decode cX11_reducedMany 77 = .ok (.iload 6, 2) := dk_21 6 (dk_at dksX11_reducedMany_3 7 rfl rfl)
theorem dX11_reducedMany_79 : decode cX11_reducedMany 79 = .ok (.ifCond .lt 53, 3) := dk_155 0 53 (dk_at dksX11_reducedMany_3 9 rfl rfl)
theorem dX11_reducedMany_82 : decode cX11_reducedMany 82 = .ok (.iload_n 2, 1) := dk_28 (dk_at dksX11_reducedMany_3 12 rfl rfl)
theorem dX11_reducedMany_83 : decode cX11_reducedMany 83 = .ok (.ifCond .ne 22, 3) := dk_154 0 22 (dk_at dksX11_reducedMany_3 13 rfl rfl)
theorem dX11_reducedMany_86 : decode cX11_reducedMany 86 = .ok (.iload 5, 2) := dk_21 5 (dk_at dksX11_reducedMany_3 16 rfl rfl)
theorem dX11_reducedMany_88 : decode cX11_reducedMany 88 = .ok (.iload 6, 2) := dk_21 6 (dk_at dksX11_reducedMany_3 18 rfl rfl)
theorem dX11_reducedMany_90 : decode cX11_reducedMany 90 = .ok (.invokestatic 428, 3) := dk_184 1 172 (dk_at dksX11_reducedMany_3 20 rfl rfl)
theorem dX11_reducedMany_93 : decode cX11_reducedMany 93 = .ok (.iload 7, 2) := dk_21 7 (dk_at dksX11_reducedMany_4 0 rfl rfl)
theorem dX11_reducedMany_95 : decode cX11_reducedMany 95 = .ok (.invokestatic 428, 3) := dk_184 1 172 (dk_at dksX11_reducedMany_4 2 rfl rfl)
theorem dX11_reducedMany_98 : decode cX11_reducedMany 98 = .ok (.iconst 1, 1) := dk_4 (dk_at dksX11_reducedMany_4 5 rfl rfl)
theorem dX11_reducedMany_99 : decode cX11_reducedMany 99 = .ok (.if_icmp .le 6, 3) := dk_164 0 6 (dk_at dksX11_reducedMany_4 6 rfl rfl)
theorem dX11_reducedMany_102 : decode cX11_reducedMany 102 = .ok (.goto 30, 3) := dk_167 0 30 (dk_at dksX11_reducedMany_4 9 rfl rfl)
theorem dX11_reducedMany_105 : decode cX11_reducedMany 105 = .ok (.iload 4, 2) := dk_21 4 (dk_at dksX11_reducedMany_4 12 rfl rfl)
theorem dX11_reducedMany_107 : decode cX11_reducedMany 107 = .ok (.iload_n 3, 1) := dk_29 (dk_at dksX11_reducedMany_4 14 rfl rfl)
theorem dX11_reducedMany_108 : decode cX11_reducedMany 108 = .ok (.if_icmp .ne 21, 3) := dk_160 0 21 (dk_at dksX11_reducedMany_4 15 rfl rfl)
theorem dX11_reducedMany_111 : decode cX11_reducedMany 111 = .ok (.aload_n 0, 1) := dk_42 (dk_at dksX11_reducedMany_4 18 rfl rfl)
theorem dX11_reducedMany_112 : decode cX11_reducedMany 112 = .ok (.iload 5, 2) := dk_21 5 (dk_at dksX11_reducedMany_4 19 rfl rfl)
theorem dX11_reducedMany_114 : decode cX11_reducedMany 114 = .ok (.putfield 431, 3) := dk_181 1 175 (dk_at dksX11_reducedMany_4 21 rfl rfl)
theorem dX11_reducedMany_117 : decode cX11_reducedMany 117 = .ok (.aload_n 0, 1) := dk_42 (dk_at dksX11_reducedMany_5 0 rfl rfl)
theorem dX11_reducedMany_118 : decode cX11_reducedMany 118 = .ok (.iload 6, 2) := dk_21 6 (dk_at dksX11_reducedMany_5 1 rfl rfl)
theorem dX11_reducedMany_120 : decode cX11_reducedMany 120 = .ok (.putfield 434, 3) := dk_181 1 178 (dk_at dksX11_reducedMany_5 3 rfl rfl)
theorem dX11_reducedMany_123 : decode cX11_reducedMany 123 = .ok (.aload_n 0, 1) := dk_42 (dk_at dksX11_reducedMany_5 6 rfl rfl)
theorem dX11_reducedMany_124 : decode cX11_reducedMany 124 = .ok (.iload 7, 2) := dk_21 7 (dk_at dksX11_reducedMany_5 7 rfl rfl)
theorem dX11_reducedMany_126 : decode cX11_reducedMany 126 = .ok (.putfield 437, 3) := dk_181 1 181 (dk_at dksX11_reducedMany_5 9 rfl rfl)
theorem dX11_reducedMany_129 : decode cX11_reducedMany 129 = .ok (.iinc 4 1, 3) := dk_132 4 1 (dk_at dksX11_reducedMany_5 12 rfl rfl)
theorem dX11_reducedMany_132 : decode cX11_reducedMany 132 = .ok (.iinc 6 1, 3) := dk_132 6 1 (dk_at dksX11_reducedMany_5 15 rfl rfl)
theorem dX11_reducedMany_135 : decode cX11_reducedMany 135 = .ok (.goto (-111), 3) := dk_167 255 145 (dk_at dksX11_reducedMany_5 18 rfl rfl)
theorem dX11_reducedMany_138 : decode cX11_reducedMany 138 = .ok (.iinc 5 1, 3) := dk_132 5 1 (dk_at dksX11_reducedMany_5 21 rfl rfl)
theorem dX11_reducedMany_141 : decode cX11_reducedMany 141 = .ok (.goto (-135), 3) := dk_167 255 121 (dk_at dksX11_reducedMany_6 0 rfl rfl)
theorem dX11_reducedMany_144 : decode cX11_reducedMany 144 = .ok (.iload 4, 2) := dk_21 4 (dk_at dksX11_reducedMany_6 3 rfl rfl)
theorem dX11_reducedMany_146 : decode cX11_reducedMany 146 = .ok (.ireturn, 1) := dk_172 (dk_at dksX11_reducedMany_6 5 rfl rfl)
abbrev cX11_shared : ByteArray := prog_18_method_127_code
def yX11_shared : MethodName := ⟨RX11, "shared", "(II)I"⟩
def dkwX11_shared_1 : List UInt8 := [167, 255, 242, 28, 172]
abbrev dktX11_shared_1 : List UInt8 := dkwX11_shared_1 ++ []
def dkwX11_shared_0 : List UInt8 := [26, 184, 1, 167, 61, 27, 184, 1, 167, 62, 29, 153, 0, 16, 28, 29, 112, 54, 4, 29, 61, 21, 4, 62]
abbrev dktX11_shared_0 : List UInt8 := dkwX11_shared_0 ++ dktX11_shared_1
theorem dksX11_shared_0 : cX11_shared.data.toList.drop 0 = dktX11_shared_0 := by decide +kernel
theorem dksX11_shared_1 : cX11_shared.data.toList.drop 24 = dktX11_shared_1 := dk_seg dksX11_shared_0 24 rfl rfl
theorem dX11_shared_0 : decode cX11_shared 0 = .ok (.iload_n 0, 1) := dk_26 (dk_at dksX11_shared_0 0 rfl rfl)
theorem dX11_shared_1 : decode cX11_shared 1 = .ok (.invokestatic 423, 3) := dk_184 1 167 (dk_at dksX11_shared_0 1 rfl rfl)
theorem dX11_shared_4 : decode cX11_shared 4 = .ok (.istore_n 2, 1) := dk_61 (dk_at dksX11_shared_0 4 rfl rfl)
theorem dX11_shared_5 : decode cX11_shared 5 = .ok (.iload_n 1, 1) := dk_27 (dk_at dksX11_shared_0 5 rfl rfl)
theorem dX11_shared_6 : decode cX11_shared 6 = .ok (.invokestatic 423, 3) := dk_184 1 167 (dk_at dksX11_shared_0 6 rfl rfl)
theorem dX11_shared_9 : decode cX11_shared 9 = .ok (.istore_n 3, 1) := dk_62 (dk_at dksX11_shared_0 9 rfl rfl)
theorem dX11_shared_10 : decode cX11_shared 10 = .ok (.iload_n 3, 1) := dk_29 (dk_at dksX11_shared_0 10 rfl rfl)
theorem dX11_shared_11 : decode cX11_shared 11 = .ok (.ifCond .eq 16, 3) := dk_153 0 16 (dk_at dksX11_shared_0 11 rfl rfl)
theorem dX11_shared_14 : decode cX11_shared 14 = .ok (.iload_n 2, 1) := dk_28 (dk_at dksX11_shared_0 14 rfl rfl)
theorem dX11_shared_15 : decode cX11_shared 15 = .ok (.iload_n 3, 1) := dk_29 (dk_at dksX11_shared_0 15 rfl rfl)
theorem dX11_shared_16 : decode cX11_shared 16 = .ok (.irem, 1) := dk_112 (dk_at dksX11_shared_0 16 rfl rfl)
theorem dX11_shared_17 : decode cX11_shared 17 = .ok (.istore 4, 2) := dk_54 4 (dk_at dksX11_shared_0 17 rfl rfl)
theorem dX11_shared_19 : decode cX11_shared 19 = .ok (.iload_n 3, 1) := dk_29 (dk_at dksX11_shared_0 19 rfl rfl)
theorem dX11_shared_20 : decode cX11_shared 20 = .ok (.istore_n 2, 1) := dk_61 (dk_at dksX11_shared_0 20 rfl rfl)
theorem dX11_shared_21 : decode cX11_shared 21 = .ok (.iload 4, 2) := dk_21 4 (dk_at dksX11_shared_0 21 rfl rfl)
theorem dX11_shared_23 : decode cX11_shared 23 = .ok (.istore_n 3, 1) := dk_62 (dk_at dksX11_shared_0 23 rfl rfl)
theorem dX11_shared_24 : decode cX11_shared 24 = .ok (.goto (-14), 3) := dk_167 255 242 (dk_at dksX11_shared_1 0 rfl rfl)
theorem dX11_shared_27 : decode cX11_shared 27 = .ok (.iload_n 2, 1) := dk_28 (dk_at dksX11_shared_1 3 rfl rfl)
theorem dX11_shared_28 : decode cX11_shared 28 = .ok (.ireturn, 1) := dk_172 (dk_at dksX11_shared_1 4 rfl rfl)
abbrev cX11_reducedAt : ByteArray := prog_18_method_131_code
def yX11_reducedAt : MethodName := ⟨RX11, "reducedAt", "(III)I"⟩
def dkwX11_reducedAt_4 : List UInt8 := [167, 0, 7, 42, 180, 1, 181, 172]
abbrev dktX11_reducedAt_4 : List UInt8 := dkwX11_reducedAt_4 ++ []
def dkwX11_reducedAt_3 : List UInt8 := [167, 0, 30, 29, 154, 0, 10, 42, 180, 1, 175, 167, 0, 19, 29, 4, 160, 0, 10, 42, 180, 1, 178]
abbrev dktX11_reducedAt_3 : List UInt8 := dkwX11_reducedAt_3 ++ dktX11_reducedAt_4
def dkwX11_reducedAt_2 : List UInt8 := [182, 0, 215, 153, 0, 5, 3, 172, 28, 42, 27, 3, 28, 182, 1, 187, 161, 0, 9, 17, 216, 241]
abbrev dktX11_reducedAt_2 : List UInt8 := dkwX11_reducedAt_2 ++ dktX11_reducedAt_3
def dkwX11_reducedAt_1 : List UInt8 := [182, 0, 215, 154, 0, 25, 42, 29, 3, 5, 184, 0, 68, 154, 0, 7, 4, 167, 0, 4, 3, 5]
abbrev dktX11_reducedAt_1 : List UInt8 := dkwX11_reducedAt_1 ++ dktX11_reducedAt_2
def dkwX11_reducedAt_0 : List UInt8 := [42, 3, 181, 0, 3, 42, 27, 184, 1, 184, 154, 0, 7, 28, 156, 0, 7, 4, 167, 0, 4, 3, 4]
abbrev dktX11_reducedAt_0 : List UInt8 := dkwX11_reducedAt_0 ++ dktX11_reducedAt_1
theorem dksX11_reducedAt_0 : cX11_reducedAt.data.toList.drop 0 = dktX11_reducedAt_0 := by decide +kernel
theorem dksX11_reducedAt_1 : cX11_reducedAt.data.toList.drop 23 = dktX11_reducedAt_1 := dk_seg dksX11_reducedAt_0 23 rfl rfl
theorem dksX11_reducedAt_2 : cX11_reducedAt.data.toList.drop 45 = dktX11_reducedAt_2 := dk_seg dksX11_reducedAt_1 22 rfl rfl
theorem dksX11_reducedAt_3 : cX11_reducedAt.data.toList.drop 67 = dktX11_reducedAt_3 := dk_seg dksX11_reducedAt_2 22 rfl rfl
theorem dksX11_reducedAt_4 : cX11_reducedAt.data.toList.drop 90 = dktX11_reducedAt_4 := dk_seg dksX11_reducedAt_3 23 rfl rfl
theorem dX11_reducedAt_0 : decode cX11_reducedAt 0 = .ok (.aload_n 0, 1) := dk_42 (dk_at dksX11_reducedAt_0 0 rfl rfl)
theorem dX11_reducedAt_1 : decode cX11_reducedAt 1 = .ok (.iconst 0, 1) := dk_3 (dk_at dksX11_reducedAt_0 1 rfl rfl)
theorem dX11_reducedAt_2 : decode cX11_reducedAt 2 = .ok (.putfield 3, 3) := dk_181 0 3 (dk_at dksX11_reducedAt_0 2 rfl rfl)
theorem dX11_reducedAt_5 : decode cX11_reducedAt 5 = .ok (.aload_n 0, 1) := dk_42 (dk_at dksX11_reducedAt_0 5 rfl rfl)
theorem dX11_reducedAt_6 : decode cX11_reducedAt 6 = .ok (.iload_n 1, 1) := dk_27 (dk_at dksX11_reducedAt_0 6 rfl rfl)
theorem dX11_reducedAt_7 : decode cX11_reducedAt 7 = .ok (.invokestatic 440, 3) := dk_184 1 184 (dk_at dksX11_reducedAt_0 7 rfl rfl)
theorem dX11_reducedAt_10 : decode cX11_reducedAt 10 = .ok (.ifCond .ne 7, 3) := dk_154 0 7 (dk_at dksX11_reducedAt_0 10 rfl rfl)
theorem dX11_reducedAt_13 : decode cX11_reducedAt 13 = .ok (.iload_n 2, 1) := dk_28 (dk_at dksX11_reducedAt_0 13 rfl rfl)
theorem dX11_reducedAt_14 : decode cX11_reducedAt 14 = .ok (.ifCond .ge 7, 3) := dk_156 0 7 (dk_at dksX11_reducedAt_0 14 rfl rfl)
theorem dX11_reducedAt_17 : decode cX11_reducedAt 17 = .ok (.iconst 1, 1) := dk_4 (dk_at dksX11_reducedAt_0 17 rfl rfl)
theorem dX11_reducedAt_18 : decode cX11_reducedAt 18 = .ok (.goto 4, 3) := dk_167 0 4 (dk_at dksX11_reducedAt_0 18 rfl rfl)
theorem dX11_reducedAt_21 : decode cX11_reducedAt 21 = .ok (.iconst 0, 1) := dk_3 (dk_at dksX11_reducedAt_0 21 rfl rfl)
theorem dX11_reducedAt_22 : decode cX11_reducedAt 22 = .ok (.iconst 1, 1) := dk_4 (dk_at dksX11_reducedAt_0 22 rfl rfl)
theorem dX11_reducedAt_23 : decode cX11_reducedAt 23 = .ok (.invokevirtual 215, 3) := dk_182 0 215 (dk_at dksX11_reducedAt_1 0 rfl rfl)
theorem dX11_reducedAt_26 : decode cX11_reducedAt 26 = .ok (.ifCond .ne 25, 3) := dk_154 0 25 (dk_at dksX11_reducedAt_1 3 rfl rfl)
theorem dX11_reducedAt_29 : decode cX11_reducedAt 29 = .ok (.aload_n 0, 1) := dk_42 (dk_at dksX11_reducedAt_1 6 rfl rfl)
theorem dX11_reducedAt_30 : decode cX11_reducedAt 30 = .ok (.iload_n 3, 1) := dk_29 (dk_at dksX11_reducedAt_1 7 rfl rfl)
theorem dX11_reducedAt_31 : decode cX11_reducedAt 31 = .ok (.iconst 0, 1) := dk_3 (dk_at dksX11_reducedAt_1 8 rfl rfl)
theorem dX11_reducedAt_32 : decode cX11_reducedAt 32 = .ok (.iconst 2, 1) := dk_5 (dk_at dksX11_reducedAt_1 9 rfl rfl)
theorem dX11_reducedAt_33 : decode cX11_reducedAt 33 = .ok (.invokestatic 68, 3) := dk_184 0 68 (dk_at dksX11_reducedAt_1 10 rfl rfl)
theorem dX11_reducedAt_36 : decode cX11_reducedAt 36 = .ok (.ifCond .ne 7, 3) := dk_154 0 7 (dk_at dksX11_reducedAt_1 13 rfl rfl)
theorem dX11_reducedAt_39 : decode cX11_reducedAt 39 = .ok (.iconst 1, 1) := dk_4 (dk_at dksX11_reducedAt_1 16 rfl rfl)
theorem dX11_reducedAt_40 : decode cX11_reducedAt 40 = .ok (.goto 4, 3) := dk_167 0 4 (dk_at dksX11_reducedAt_1 17 rfl rfl)
theorem dX11_reducedAt_43 : decode cX11_reducedAt 43 = .ok (.iconst 0, 1) := dk_3 (dk_at dksX11_reducedAt_1 20 rfl rfl)
theorem dX11_reducedAt_44 : decode cX11_reducedAt 44 = .ok (.iconst 2, 1) := dk_5 (dk_at dksX11_reducedAt_1 21 rfl rfl)
theorem dX11_reducedAt_45 : decode cX11_reducedAt 45 = .ok (.invokevirtual 215, 3) := dk_182 0 215 (dk_at dksX11_reducedAt_2 0 rfl rfl)
theorem dX11_reducedAt_48 : decode cX11_reducedAt 48 = .ok (.ifCond .eq 5, 3) := dk_153 0 5 (dk_at dksX11_reducedAt_2 3 rfl rfl)
theorem dX11_reducedAt_51 : decode cX11_reducedAt 51 = .ok (.iconst 0, 1) := dk_3 (dk_at dksX11_reducedAt_2 6 rfl rfl)
theorem dX11_reducedAt_52 : decode cX11_reducedAt 52 = .ok (.ireturn, 1) := dk_172 (dk_at dksX11_reducedAt_2 7 rfl rfl)
theorem dX11_reducedAt_53 : decode cX11_reducedAt 53 = .ok (.iload_n 2, 1) := dk_28 (dk_at dksX11_reducedAt_2 8 rfl rfl)
theorem dX11_reducedAt_54 : decode cX11_reducedAt 54 = .ok (.aload_n 0, 1) := dk_42 (dk_at dksX11_reducedAt_2 9 rfl rfl)
theorem dX11_reducedAt_55 : decode cX11_reducedAt 55 = .ok (.iload_n 1, 1) := dk_27 (dk_at dksX11_reducedAt_2 10 rfl rfl)
theorem dX11_reducedAt_56 : decode cX11_reducedAt 56 = .ok (.iconst 0, 1) := dk_3 (dk_at dksX11_reducedAt_2 11 rfl rfl)
theorem dX11_reducedAt_57 : decode cX11_reducedAt 57 = .ok (.iload_n 2, 1) := dk_28 (dk_at dksX11_reducedAt_2 12 rfl rfl)
theorem dX11_reducedAt_58 : decode cX11_reducedAt 58 = .ok (.invokevirtual 443, 3) := dk_182 1 187 (dk_at dksX11_reducedAt_2 13 rfl rfl)
theorem dX11_reducedAt_61 : decode cX11_reducedAt 61 = .ok (.if_icmp .lt 9, 3) := dk_161 0 9 (dk_at dksX11_reducedAt_2 16 rfl rfl)
theorem dX11_reducedAt_64 : decode cX11_reducedAt 64 = .ok (.sipush (-9999), 3) := dk_17 216 241 (dk_at dksX11_reducedAt_2 19 rfl rfl)
theorem dX11_reducedAt_67 : decode cX11_reducedAt 67 = .ok (.goto 30, 3) := dk_167 0 30 (dk_at dksX11_reducedAt_3 0 rfl rfl)
theorem dX11_reducedAt_70 : decode cX11_reducedAt 70 = .ok (.iload_n 3, 1) := dk_29 (dk_at dksX11_reducedAt_3 3 rfl rfl)
theorem dX11_reducedAt_71 : decode cX11_reducedAt 71 = .ok (.ifCond .ne 10, 3) := dk_154 0 10 (dk_at dksX11_reducedAt_3 4 rfl rfl)
theorem dX11_reducedAt_74 : decode cX11_reducedAt 74 = .ok (.aload_n 0, 1) := dk_42 (dk_at dksX11_reducedAt_3 7 rfl rfl)
theorem dX11_reducedAt_75 : decode cX11_reducedAt 75 = .ok (.getfield 431, 3) := dk_180 1 175 (dk_at dksX11_reducedAt_3 8 rfl rfl)
theorem dX11_reducedAt_78 : decode cX11_reducedAt 78 = .ok (.goto 19, 3) := dk_167 0 19 (dk_at dksX11_reducedAt_3 11 rfl rfl)
theorem dX11_reducedAt_81 : decode cX11_reducedAt 81 = .ok (.iload_n 3, 1) := dk_29 (dk_at dksX11_reducedAt_3 14 rfl rfl)
theorem dX11_reducedAt_82 : decode cX11_reducedAt 82 = .ok (.iconst 1, 1) := dk_4 (dk_at dksX11_reducedAt_3 15 rfl rfl)
theorem dX11_reducedAt_83 : decode cX11_reducedAt 83 = .ok (.if_icmp .ne 10, 3) := dk_160 0 10 (dk_at dksX11_reducedAt_3 16 rfl rfl)
theorem dX11_reducedAt_86 : decode cX11_reducedAt 86 = .ok (.aload_n 0, 1) := dk_42 (dk_at dksX11_reducedAt_3 19 rfl rfl)
theorem dX11_reducedAt_87 : decode cX11_reducedAt 87 = .ok (.getfield 434, 3) := dk_180 1 178 (dk_at dksX11_reducedAt_3 20 rfl rfl)
theorem dX11_reducedAt_90 : decode cX11_reducedAt 90 = .ok (.goto 7, 3) := dk_167 0 7 (dk_at dksX11_reducedAt_4 0 rfl rfl)
theorem dX11_reducedAt_93 : decode cX11_reducedAt 93 = .ok (.aload_n 0, 1) := dk_42 (dk_at dksX11_reducedAt_4 3 rfl rfl)
theorem dX11_reducedAt_94 : decode cX11_reducedAt 94 = .ok (.getfield 437, 3) := dk_180 1 181 (dk_at dksX11_reducedAt_4 4 rfl rfl)
theorem dX11_reducedAt_97 : decode cX11_reducedAt 97 = .ok (.ireturn, 1) := dk_172 (dk_at dksX11_reducedAt_4 7 rfl rfl)
abbrev cX11_real : ByteArray := prog_18_method_135_code
def yX11_real : MethodName := ⟨RX11, "real", "(IIIII)I"⟩
def dkwX11_real_4 : List UInt8 := [184, 1, 212, 167, 0, 18, 27, 133, 28, 133, 29, 133, 21, 4, 133, 21, 5, 133, 184, 1, 216, 172]
abbrev dktX11_real_4 : List UInt8 := dkwX11_real_4 ++ []
def dkwX11_real_3 : List UInt8 := [182, 0, 215, 153, 0, 5, 3, 172, 27, 154, 0, 19, 28, 133, 29, 133, 21, 4, 133, 21, 5, 133]
abbrev dktX11_real_3 : List UInt8 := dkwX11_real_3 ++ dktX11_real_4
def dkwX11_real_2 : List UInt8 := [54, 6, 42, 21, 6, 153, 0, 11, 27, 154, 0, 11, 28, 154, 0, 7, 4, 167, 0, 4, 3, 4]
abbrev dktX11_real_2 : List UInt8 := dkwX11_real_2 ++ dktX11_real_3
def dkwX11_real_1 : List UInt8 := [153, 0, 23, 21, 4, 184, 1, 209, 153, 0, 15, 21, 5, 184, 1, 209, 153, 0, 7, 4, 167, 0, 4, 3]
abbrev dktX11_real_1 : List UInt8 := dkwX11_real_1 ++ dktX11_real_2
def dkwX11_real_0 : List UInt8 := [42, 3, 181, 0, 3, 27, 184, 1, 209, 153, 0, 37, 28, 184, 1, 209, 153, 0, 30, 29, 184, 1, 209]
abbrev dktX11_real_0 : List UInt8 := dkwX11_real_0 ++ dktX11_real_1
theorem dksX11_real_0 : cX11_real.data.toList.drop 0 = dktX11_real_0 := by decide +kernel
theorem dksX11_real_1 : cX11_real.data.toList.drop 23 = dktX11_real_1 := dk_seg dksX11_real_0 23 rfl rfl
theorem dksX11_real_2 : cX11_real.data.toList.drop 47 = dktX11_real_2 := dk_seg dksX11_real_1 24 rfl rfl
theorem dksX11_real_3 : cX11_real.data.toList.drop 69 = dktX11_real_3 := dk_seg dksX11_real_2 22 rfl rfl
theorem dksX11_real_4 : cX11_real.data.toList.drop 91 = dktX11_real_4 := dk_seg dksX11_real_3 22 rfl rfl
theorem dX11_real_0 : decode cX11_real 0 = .ok (.aload_n 0, 1) := dk_42 (dk_at dksX11_real_0 0 rfl rfl)
theorem dX11_real_1 : decode cX11_real 1 = .ok (.iconst 0, 1) := dk_3 (dk_at dksX11_real_0 1 rfl rfl)
theorem dX11_real_2 : decode cX11_real 2 = .ok (.putfield 3, 3) := dk_181 0 3 (dk_at dksX11_real_0 2 rfl rfl)
theorem dX11_real_5 : decode cX11_real 5 = .ok (.iload_n 1, 1) := dk_27 (dk_at dksX11_real_0 5 rfl rfl)
theorem dX11_real_6 : decode cX11_real 6 = .ok (.invokestatic 465, 3) := dk_184 1 209 (dk_at dksX11_real_0 6 rfl rfl)
theorem dX11_real_9 : decode cX11_real 9 = .ok (.ifCond .eq 37, 3) := dk_153 0 37 (dk_at dksX11_real_0 9 rfl rfl)
theorem dX11_real_12 : decode cX11_real 12 = .ok (.iload_n 2, 1) := dk_28 (dk_at dksX11_real_0 12 rfl rfl)
theorem dX11_real_13 : decode cX11_real 13 = .ok (.invokestatic 465, 3) := dk_184 1 209 (dk_at dksX11_real_0 13 rfl rfl)
theorem dX11_real_16 : decode cX11_real 16 = .ok (.ifCond .eq 30, 3) := dk_153 0 30 (dk_at dksX11_real_0 16 rfl rfl)
theorem dX11_real_19 : decode cX11_real 19 = .ok (.iload_n 3, 1) := dk_29 (dk_at dksX11_real_0 19 rfl rfl)
theorem dX11_real_20 : decode cX11_real 20 = .ok (.invokestatic 465, 3) := dk_184 1 209 (dk_at dksX11_real_0 20 rfl rfl)
theorem dX11_real_23 : decode cX11_real 23 = .ok (.ifCond .eq 23, 3) := dk_153 0 23 (dk_at dksX11_real_1 0 rfl rfl)
theorem dX11_real_26 : decode cX11_real 26 = .ok (.iload 4, 2) := dk_21 4 (dk_at dksX11_real_1 3 rfl rfl)
theorem dX11_real_28 : decode cX11_real 28 = .ok (.invokestatic 465, 3) := dk_184 1 209 (dk_at dksX11_real_1 5 rfl rfl)
theorem dX11_real_31 : decode cX11_real 31 = .ok (.ifCond .eq 15, 3) := dk_153 0 15 (dk_at dksX11_real_1 8 rfl rfl)
theorem dX11_real_34 : decode cX11_real 34 = .ok (.iload 5, 2) := dk_21 5 (dk_at dksX11_real_1 11 rfl rfl)
theorem dX11_real_36 : decode cX11_real 36 = .ok (.invokestatic 465, 3) := dk_184 1 209 (dk_at dksX11_real_1 13 rfl rfl)
theorem dX11_real_39 : decode cX11_real 39 = .ok (.ifCond .eq 7, 3) := dk_153 0 7 (dk_at dksX11_real_1 16 rfl rfl)
theorem dX11_real_42 : decode cX11_real 42 = .ok (.iconst 1, 1) := dk_4 (dk_at dksX11_real_1 19 rfl rfl)
theorem dX11_real_43 : decode cX11_real 43 = .ok (.goto 4, 3) := dk_167 0 4 (dk_at dksX11_real_1 20 rfl rfl)
theorem dX11_real_46 : decode cX11_real 46 = .ok (.iconst 0, 1) := dk_3 (dk_at dksX11_real_1 23 rfl rfl)
theorem dX11_real_47 : decode cX11_real 47 = .ok (.istore 6, 2) := dk_54 6 (dk_at dksX11_real_2 0 rfl rfl)
theorem dX11_real_49 : decode cX11_real 49 = .ok (.aload_n 0, 1) := dk_42 (dk_at dksX11_real_2 2 rfl rfl)
theorem dX11_real_50 : decode cX11_real 50 = .ok (.iload 6, 2) := dk_21 6 (dk_at dksX11_real_2 3 rfl rfl)
theorem dX11_real_52 : decode cX11_real 52 = .ok (.ifCond .eq 11, 3) := dk_153 0 11 (dk_at dksX11_real_2 5 rfl rfl)
theorem dX11_real_55 : decode cX11_real 55 = .ok (.iload_n 1, 1) := dk_27 (dk_at dksX11_real_2 8 rfl rfl)
theorem dX11_real_56 : decode cX11_real 56 = .ok (.ifCond .ne 11, 3) := dk_154 0 11 (dk_at dksX11_real_2 9 rfl rfl)
theorem dX11_real_59 : decode cX11_real 59 = .ok (.iload_n 2, 1) := dk_28 (dk_at dksX11_real_2 12 rfl rfl)
theorem dX11_real_60 : decode cX11_real 60 = .ok (.ifCond .ne 7, 3) := dk_154 0 7 (dk_at dksX11_real_2 13 rfl rfl)
theorem dX11_real_63 : decode cX11_real 63 = .ok (.iconst 1, 1) := dk_4 (dk_at dksX11_real_2 16 rfl rfl)
theorem dX11_real_64 : decode cX11_real 64 = .ok (.goto 4, 3) := dk_167 0 4 (dk_at dksX11_real_2 17 rfl rfl)
theorem dX11_real_67 : decode cX11_real 67 = .ok (.iconst 0, 1) := dk_3 (dk_at dksX11_real_2 20 rfl rfl)
theorem dX11_real_68 : decode cX11_real 68 = .ok (.iconst 1, 1) := dk_4 (dk_at dksX11_real_2 21 rfl rfl)
theorem dX11_real_69 : decode cX11_real 69 = .ok (.invokevirtual 215, 3) := dk_182 0 215 (dk_at dksX11_real_3 0 rfl rfl)
theorem dX11_real_72 : decode cX11_real 72 = .ok (.ifCond .eq 5, 3) := dk_153 0 5 (dk_at dksX11_real_3 3 rfl rfl)
theorem dX11_real_75 : decode cX11_real 75 = .ok (.iconst 0, 1) := dk_3 (dk_at dksX11_real_3 6 rfl rfl)
theorem dX11_real_76 : decode cX11_real 76 = .ok (.ireturn, 1) := dk_172 (dk_at dksX11_real_3 7 rfl rfl)
theorem dX11_real_77 : decode cX11_real 77 = .ok (.iload_n 1, 1) := dk_27 (dk_at dksX11_real_3 8 rfl rfl)
theorem dX11_real_78 : decode cX11_real 78 = .ok (.ifCond .ne 19, 3) := dk_154 0 19 (dk_at dksX11_real_3 9 rfl rfl)
theorem dX11_real_81 : decode cX11_real 81 = .ok (.iload_n 2, 1) := dk_28 (dk_at dksX11_real_3 12 rfl rfl)
theorem dX11_real_82 : decode cX11_real 82 = .ok (.i2l, 1) := dk_133 (dk_at dksX11_real_3 13 rfl rfl)
theorem dX11_real_83 : decode cX11_real 83 = .ok (.iload_n 3, 1) := dk_29 (dk_at dksX11_real_3 14 rfl rfl)
theorem dX11_real_84 : decode cX11_real 84 = .ok (.i2l, 1) := dk_133 (dk_at dksX11_real_3 15 rfl rfl)
theorem dX11_real_85 : decode cX11_real 85 = .ok (.iload 4, 2) := dk_21 4 (dk_at dksX11_real_3 16 rfl rfl)
theorem dX11_real_87 : decode cX11_real 87 = .ok (.i2l, 1) := dk_133 (dk_at dksX11_real_3 18 rfl rfl)
theorem dX11_real_88 : decode cX11_real 88 = .ok (.iload 5, 2) := dk_21 5 (dk_at dksX11_real_3 19 rfl rfl)
theorem dX11_real_90 : decode cX11_real 90 = .ok (.i2l, 1) := dk_133 (dk_at dksX11_real_3 21 rfl rfl)
theorem dX11_real_91 : decode cX11_real 91 = .ok (.invokestatic 468, 3) := dk_184 1 212 (dk_at dksX11_real_4 0 rfl rfl)
theorem dX11_real_94 : decode cX11_real 94 = .ok (.goto 18, 3) := dk_167 0 18 (dk_at dksX11_real_4 3 rfl rfl)
theorem dX11_real_97 : decode cX11_real 97 = .ok (.iload_n 1, 1) := dk_27 (dk_at dksX11_real_4 6 rfl rfl)
theorem dX11_real_98 : decode cX11_real 98 = .ok (.i2l, 1) := dk_133 (dk_at dksX11_real_4 7 rfl rfl)
theorem dX11_real_99 : decode cX11_real 99 = .ok (.iload_n 2, 1) := dk_28 (dk_at dksX11_real_4 8 rfl rfl)
theorem dX11_real_100 : decode cX11_real 100 = .ok (.i2l, 1) := dk_133 (dk_at dksX11_real_4 9 rfl rfl)
theorem dX11_real_101 : decode cX11_real 101 = .ok (.iload_n 3, 1) := dk_29 (dk_at dksX11_real_4 10 rfl rfl)
theorem dX11_real_102 : decode cX11_real 102 = .ok (.i2l, 1) := dk_133 (dk_at dksX11_real_4 11 rfl rfl)
theorem dX11_real_103 : decode cX11_real 103 = .ok (.iload 4, 2) := dk_21 4 (dk_at dksX11_real_4 12 rfl rfl)
theorem dX11_real_105 : decode cX11_real 105 = .ok (.i2l, 1) := dk_133 (dk_at dksX11_real_4 14 rfl rfl)
theorem dX11_real_106 : decode cX11_real 106 = .ok (.iload 5, 2) := dk_21 5 (dk_at dksX11_real_4 15 rfl rfl)
theorem dX11_real_108 : decode cX11_real 108 = .ok (.i2l, 1) := dk_133 (dk_at dksX11_real_4 17 rfl rfl)
theorem dX11_real_109 : decode cX11_real 109 = .ok (.invokestatic 472, 3) := dk_184 1 216 (dk_at dksX11_real_4 18 rfl rfl)
theorem dX11_real_112 : decode cX11_real 112 = .ok (.ireturn, 1) := dk_172 (dk_at dksX11_real_4 21 rfl rfl)
abbrev cX11_isThirty : ByteArray := prog_18_method_134_code
def yX11_isThirty : MethodName := ⟨RX11, "isThirty", "(I)Z"⟩
def dkwX11_isThirty_0 : List UInt8 := [26, 16, 226, 16, 30, 184, 0, 68, 172]
abbrev dktX11_isThirty_0 : List UInt8 := dkwX11_isThirty_0 ++ []
theorem dksX11_isThirty_0 : cX11_isThirty.data.toList.drop 0 = dktX11_isThirty_0 := by decide +kernel
theorem dX11_isThirty_0 : decode cX11_isThirty 0 = .ok (.iload_n 0, 1) := dk_26 (dk_at dksX11_isThirty_0 0 rfl rfl)
theorem dX11_isThirty_1 : decode cX11_isThirty 1 = .ok (.bipush (-30), 2) := dk_16 226 (dk_at dksX11_isThirty_0 1 rfl rfl)
theorem dX11_isThirty_3 : decode cX11_isThirty 3 = .ok (.bipush 30, 2) := dk_16 30 (dk_at dksX11_isThirty_0 3 rfl rfl)
theorem dX11_isThirty_5 : decode cX11_isThirty 5 = .ok (.invokestatic 68, 3) := dk_184 0 68 (dk_at dksX11_isThirty_0 5 rfl rfl)
theorem dX11_isThirty_8 : decode cX11_isThirty 8 = .ok (.ireturn, 1) := dk_172 (dk_at dksX11_isThirty_0 8 rfl rfl)
abbrev cX11_realOfCubic : ByteArray := prog_18_method_132_code
def yX11_realOfCubic : MethodName := ⟨RX11, "realOfCubic", "(JJJJ)I"⟩
def dkwX11_realOfCubic_4 : List UInt8 := [30, 105, 22, 4, 105, 148, 154, 0, 7, 4, 167, 0, 4, 5, 172]
abbrev dktX11_realOfCubic_4 : List UInt8 := dkwX11_realOfCubic_4 ++ []
def dkwX11_realOfCubic_3 : List UInt8 := [158, 0, 7, 6, 167, 0, 34, 22, 8, 9, 148, 156, 0, 7, 4, 167, 0, 23, 32, 32, 105, 20, 1, 195]
abbrev dktX11_realOfCubic_3 : List UInt8 := dkwX11_realOfCubic_3 ++ dktX11_realOfCubic_4
def dkwX11_realOfCubic_2 : List UInt8 := [22, 4, 105, 101, 20, 1, 193, 30, 105, 30, 105, 22, 6, 105, 22, 6, 105, 101, 55, 8, 22, 8, 9, 148]
abbrev dktX11_realOfCubic_2 : List UInt8 := dkwX11_realOfCubic_2 ++ dktX11_realOfCubic_3
def dkwX11_realOfCubic_1 : List UInt8 := [105, 101, 32, 32, 105, 22, 4, 105, 22, 4, 105, 97, 20, 1, 158, 30, 105, 22, 4, 105, 22, 4, 105]
abbrev dktX11_realOfCubic_1 : List UInt8 := dkwX11_realOfCubic_1 ++ dktX11_realOfCubic_2
def dkwX11_realOfCubic_0 : List UInt8 := [20, 1, 191, 30, 105, 32, 105, 22, 4, 105, 22, 6, 105, 20, 1, 158, 32, 105, 32, 105, 32, 105, 22, 6]
abbrev dktX11_realOfCubic_0 : List UInt8 := dkwX11_realOfCubic_0 ++ dktX11_realOfCubic_1
theorem dksX11_realOfCubic_0 : cX11_realOfCubic.data.toList.drop 0 = dktX11_realOfCubic_0 := by decide +kernel
theorem dksX11_realOfCubic_1 : cX11_realOfCubic.data.toList.drop 24 = dktX11_realOfCubic_1 := dk_seg dksX11_realOfCubic_0 24 rfl rfl
theorem dksX11_realOfCubic_2 : cX11_realOfCubic.data.toList.drop 47 = dktX11_realOfCubic_2 := dk_seg dksX11_realOfCubic_1 23 rfl rfl
theorem dksX11_realOfCubic_3 : cX11_realOfCubic.data.toList.drop 71 = dktX11_realOfCubic_3 := dk_seg dksX11_realOfCubic_2 24 rfl rfl
theorem dksX11_realOfCubic_4 : cX11_realOfCubic.data.toList.drop 95 = dktX11_realOfCubic_4 := dk_seg dksX11_realOfCubic_3 24 rfl rfl
theorem dX11_realOfCubic_0 : decode cX11_realOfCubic 0 = .ok (.ldc2_w 447, 3) := dk_20 1 191 (dk_at dksX11_realOfCubic_0 0 rfl rfl)
theorem dX11_realOfCubic_3 : decode cX11_realOfCubic 3 = .ok (.lload_n 0, 1) := dk_30 (dk_at dksX11_realOfCubic_0 3 rfl rfl)
theorem dX11_realOfCubic_4 : decode cX11_realOfCubic 4 = .ok (.lmul, 1) := dk_105 (dk_at dksX11_realOfCubic_0 4 rfl rfl)
theorem dX11_realOfCubic_5 : decode cX11_realOfCubic 5 = .ok (.lload_n 2, 1) := dk_32 (dk_at dksX11_realOfCubic_0 5 rfl rfl)
theorem dX11_realOfCubic_6 : decode cX11_realOfCubic 6 = .ok (.lmul, 1) := dk_105 (dk_at dksX11_realOfCubic_0 6 rfl rfl)
theorem dX11_realOfCubic_7 : decode cX11_realOfCubic 7 = .ok (.lload 4, 2) := dk_22 4 (dk_at dksX11_realOfCubic_0 7 rfl rfl)
theorem dX11_realOfCubic_9 : decode cX11_realOfCubic 9 = .ok (.lmul, 1) := dk_105 (dk_at dksX11_realOfCubic_0 9 rfl rfl)
theorem dX11_realOfCubic_10 : decode cX11_realOfCubic 10 = .ok (.lload 6, 2) := dk_22 6 (dk_at dksX11_realOfCubic_0 10 rfl rfl)
theorem dX11_realOfCubic_12 : decode cX11_realOfCubic 12 = .ok (.lmul, 1) := dk_105 (dk_at dksX11_realOfCubic_0 12 rfl rfl)
theorem dX11_realOfCubic_13 : decode cX11_realOfCubic 13 = .ok (.ldc2_w 414, 3) := dk_20 1 158 (dk_at dksX11_realOfCubic_0 13 rfl rfl)
theorem dX11_realOfCubic_16 : decode cX11_realOfCubic 16 = .ok (.lload_n 2, 1) := dk_32 (dk_at dksX11_realOfCubic_0 16 rfl rfl)
theorem dX11_realOfCubic_17 : decode cX11_realOfCubic 17 = .ok (.lmul, 1) := dk_105 (dk_at dksX11_realOfCubic_0 17 rfl rfl)
theorem dX11_realOfCubic_18 : decode cX11_realOfCubic 18 = .ok (.lload_n 2, 1) := dk_32 (dk_at dksX11_realOfCubic_0 18 rfl rfl)
theorem dX11_realOfCubic_19 : decode cX11_realOfCubic 19 = .ok (.lmul, 1) := dk_105 (dk_at dksX11_realOfCubic_0 19 rfl rfl)
theorem dX11_realOfCubic_20 : decode cX11_realOfCubic 20 = .ok (.lload_n 2, 1) := dk_32 (dk_at dksX11_realOfCubic_0 20 rfl rfl)
theorem dX11_realOfCubic_21 : decode cX11_realOfCubic 21 = .ok (.lmul, 1) := dk_105 (dk_at dksX11_realOfCubic_0 21 rfl rfl)
theorem dX11_realOfCubic_22 : decode cX11_realOfCubic 22 = .ok (.lload 6, 2) := dk_22 6 (dk_at dksX11_realOfCubic_0 22 rfl rfl)
theorem dX11_realOfCubic_24 : decode cX11_realOfCubic 24 = .ok (.lmul, 1) := dk_105 (dk_at dksX11_realOfCubic_1 0 rfl rfl)
theorem dX11_realOfCubic_25 : decode cX11_realOfCubic 25 = .ok (.lsub, 1) := dk_101 (dk_at dksX11_realOfCubic_1 1 rfl rfl)
theorem dX11_realOfCubic_26 : decode cX11_realOfCubic 26 = .ok (.lload_n 2, 1) := dk_32 (dk_at dksX11_realOfCubic_1 2 rfl rfl)
theorem dX11_realOfCubic_27 : decode cX11_realOfCubic 27 = .ok (.lload_n 2, 1) := dk_32 (dk_at dksX11_realOfCubic_1 3 rfl rfl)
theorem dX11_realOfCubic_28 : decode cX11_realOfCubic 28 = .ok (.lmul, 1) := dk_105 (dk_at dksX11_realOfCubic_1 4 rfl rfl)
theorem dX11_realOfCubic_29 : decode cX11_realOfCubic 29 = .ok (.lload 4, 2) := dk_22 4 (dk_at dksX11_realOfCubic_1 5 rfl rfl)
theorem dX11_realOfCubic_31 : decode cX11_realOfCubic 31 = .ok (.lmul, 1) := dk_105 (dk_at dksX11_realOfCubic_1 7 rfl rfl)
theorem dX11_realOfCubic_32 : decode cX11_realOfCubic 32 = .ok (.lload 4, 2) := dk_22 4 (dk_at dksX11_realOfCubic_1 8 rfl rfl)
theorem dX11_realOfCubic_34 : decode cX11_realOfCubic 34 = .ok (.lmul, 1) := dk_105 (dk_at dksX11_realOfCubic_1 10 rfl rfl)
theorem dX11_realOfCubic_35 : decode cX11_realOfCubic 35 = .ok (.ladd, 1) := dk_97 (dk_at dksX11_realOfCubic_1 11 rfl rfl)
theorem dX11_realOfCubic_36 : decode cX11_realOfCubic 36 = .ok (.ldc2_w 414, 3) := dk_20 1 158 (dk_at dksX11_realOfCubic_1 12 rfl rfl)
theorem dX11_realOfCubic_39 : decode cX11_realOfCubic 39 = .ok (.lload_n 0, 1) := dk_30 (dk_at dksX11_realOfCubic_1 15 rfl rfl)
theorem dX11_realOfCubic_40 : decode cX11_realOfCubic 40 = .ok (.lmul, 1) := dk_105 (dk_at dksX11_realOfCubic_1 16 rfl rfl)
theorem dX11_realOfCubic_41 : decode cX11_realOfCubic 41 = .ok (.lload 4, 2) := dk_22 4 (dk_at dksX11_realOfCubic_1 17 rfl rfl)
theorem dX11_realOfCubic_43 : decode cX11_realOfCubic 43 = .ok (.lmul, 1) := dk_105 (dk_at dksX11_realOfCubic_1 19 rfl rfl)
theorem dX11_realOfCubic_44 : decode cX11_realOfCubic 44 = .ok (.lload 4, 2) := dk_22 4 (dk_at dksX11_realOfCubic_1 20 rfl rfl)
theorem dX11_realOfCubic_46 : decode cX11_realOfCubic 46 = .ok (.lmul, 1) := dk_105 (dk_at dksX11_realOfCubic_1 22 rfl rfl)
theorem dX11_realOfCubic_47 : decode cX11_realOfCubic 47 = .ok (.lload 4, 2) := dk_22 4 (dk_at dksX11_realOfCubic_2 0 rfl rfl)
theorem dX11_realOfCubic_49 : decode cX11_realOfCubic 49 = .ok (.lmul, 1) := dk_105 (dk_at dksX11_realOfCubic_2 2 rfl rfl)
theorem dX11_realOfCubic_50 : decode cX11_realOfCubic 50 = .ok (.lsub, 1) := dk_101 (dk_at dksX11_realOfCubic_2 3 rfl rfl)
theorem dX11_realOfCubic_51 : decode cX11_realOfCubic 51 = .ok (.ldc2_w 449, 3) := dk_20 1 193 (dk_at dksX11_realOfCubic_2 4 rfl rfl)
theorem dX11_realOfCubic_54 : decode cX11_realOfCubic 54 = .ok (.lload_n 0, 1) := dk_30 (dk_at dksX11_realOfCubic_2 7 rfl rfl)
theorem dX11_realOfCubic_55 : decode cX11_realOfCubic 55 = .ok (.lmul, 1) := dk_105 (dk_at dksX11_realOfCubic_2 8 rfl rfl)
theorem dX11_realOfCubic_56 : decode cX11_realOfCubic 56 = .ok (.lload_n 0, 1) := dk_30 (dk_at dksX11_realOfCubic_2 9 rfl rfl)
theorem dX11_realOfCubic_57 : decode cX11_realOfCubic 57 = .ok (.lmul, 1) := dk_105 (dk_at dksX11_realOfCubic_2 10 rfl rfl)
theorem dX11_realOfCubic_58 : decode cX11_realOfCubic 58 = .ok (.lload 6, 2) := dk_22 6 (dk_at dksX11_realOfCubic_2 11 rfl rfl)
theorem dX11_realOfCubic_60 : decode cX11_realOfCubic 60 = .ok (.lmul, 1) := dk_105 (dk_at dksX11_realOfCubic_2 13 rfl rfl)
theorem dX11_realOfCubic_61 : decode cX11_realOfCubic 61 = .ok (.lload 6, 2) := dk_22 6 (dk_at dksX11_realOfCubic_2 14 rfl rfl)
theorem dX11_realOfCubic_63 : decode cX11_realOfCubic 63 = .ok (.lmul, 1) := dk_105 (dk_at dksX11_realOfCubic_2 16 rfl rfl)
theorem dX11_realOfCubic_64 : decode cX11_realOfCubic 64 = .ok (.lsub, 1) := dk_101 (dk_at dksX11_realOfCubic_2 17 rfl rfl)
theorem dX11_realOfCubic_65 : decode cX11_realOfCubic 65 = .ok (.lstore 8, 2) := dk_55 8 (dk_at dksX11_realOfCubic_2 18 rfl rfl)
theorem dX11_realOfCubic_67 : decode cX11_realOfCubic 67 = .ok (.lload 8, 2) := dk_22 8 (dk_at dksX11_realOfCubic_2 20 rfl rfl)
theorem dX11_realOfCubic_69 : decode cX11_realOfCubic 69 = .ok (.lconst 0, 1) := dk_9 (dk_at dksX11_realOfCubic_2 22 rfl rfl)
theorem dX11_realOfCubic_70 : decode cX11_realOfCubic 70 = .ok (.lcmp, 1) := dk_148 (dk_at dksX11_realOfCubic_2 23 rfl rfl)
theorem dX11_realOfCubic_71 : decode cX11_realOfCubic 71 = .ok (.ifCond .le 7, 3) := dk_158 0 7 (dk_at dksX11_realOfCubic_3 0 rfl rfl)
theorem dX11_realOfCubic_74 : decode cX11_realOfCubic 74 = .ok (.iconst 3, 1) := dk_6 (dk_at dksX11_realOfCubic_3 3 rfl rfl)
theorem dX11_realOfCubic_75 : decode cX11_realOfCubic 75 = .ok (.goto 34, 3) := dk_167 0 34 (dk_at dksX11_realOfCubic_3 4 rfl rfl)
theorem dX11_realOfCubic_78 : decode cX11_realOfCubic 78 = .ok (.lload 8, 2) := dk_22 8 (dk_at dksX11_realOfCubic_3 7 rfl rfl)
theorem dX11_realOfCubic_80 : decode cX11_realOfCubic 80 = .ok (.lconst 0, 1) := dk_9 (dk_at dksX11_realOfCubic_3 9 rfl rfl)
theorem dX11_realOfCubic_81 : decode cX11_realOfCubic 81 = .ok (.lcmp, 1) := dk_148 (dk_at dksX11_realOfCubic_3 10 rfl rfl)
theorem dX11_realOfCubic_82 : decode cX11_realOfCubic 82 = .ok (.ifCond .ge 7, 3) := dk_156 0 7 (dk_at dksX11_realOfCubic_3 11 rfl rfl)
theorem dX11_realOfCubic_85 : decode cX11_realOfCubic 85 = .ok (.iconst 1, 1) := dk_4 (dk_at dksX11_realOfCubic_3 14 rfl rfl)
theorem dX11_realOfCubic_86 : decode cX11_realOfCubic 86 = .ok (.goto 23, 3) := dk_167 0 23 (dk_at dksX11_realOfCubic_3 15 rfl rfl)
theorem dX11_realOfCubic_89 : decode cX11_realOfCubic 89 = .ok (.lload_n 2, 1) := dk_32 (dk_at dksX11_realOfCubic_3 18 rfl rfl)
theorem dX11_realOfCubic_90 : decode cX11_realOfCubic 90 = .ok (.lload_n 2, 1) := dk_32 (dk_at dksX11_realOfCubic_3 19 rfl rfl)
theorem dX11_realOfCubic_91 : decode cX11_realOfCubic 91 = .ok (.lmul, 1) := dk_105 (dk_at dksX11_realOfCubic_3 20 rfl rfl)
theorem dX11_realOfCubic_92 : decode cX11_realOfCubic 92 = .ok (.ldc2_w 451, 3) := dk_20 1 195 (dk_at dksX11_realOfCubic_3 21 rfl rfl)
theorem dX11_realOfCubic_95 : decode cX11_realOfCubic 95 = .ok (.lload_n 0, 1) := dk_30 (dk_at dksX11_realOfCubic_4 0 rfl rfl)
theorem dX11_realOfCubic_96 : decode cX11_realOfCubic 96 = .ok (.lmul, 1) := dk_105 (dk_at dksX11_realOfCubic_4 1 rfl rfl)
theorem dX11_realOfCubic_97 : decode cX11_realOfCubic 97 = .ok (.lload 4, 2) := dk_22 4 (dk_at dksX11_realOfCubic_4 2 rfl rfl)
theorem dX11_realOfCubic_99 : decode cX11_realOfCubic 99 = .ok (.lmul, 1) := dk_105 (dk_at dksX11_realOfCubic_4 4 rfl rfl)
theorem dX11_realOfCubic_100 : decode cX11_realOfCubic 100 = .ok (.lcmp, 1) := dk_148 (dk_at dksX11_realOfCubic_4 5 rfl rfl)
theorem dX11_realOfCubic_101 : decode cX11_realOfCubic 101 = .ok (.ifCond .ne 7, 3) := dk_154 0 7 (dk_at dksX11_realOfCubic_4 6 rfl rfl)
theorem dX11_realOfCubic_104 : decode cX11_realOfCubic 104 = .ok (.iconst 1, 1) := dk_4 (dk_at dksX11_realOfCubic_4 9 rfl rfl)
theorem dX11_realOfCubic_105 : decode cX11_realOfCubic 105 = .ok (.goto 4, 3) := dk_167 0 4 (dk_at dksX11_realOfCubic_4 10 rfl rfl)
theorem dX11_realOfCubic_108 : decode cX11_realOfCubic 108 = .ok (.iconst 2, 1) := dk_5 (dk_at dksX11_realOfCubic_4 13 rfl rfl)
theorem dX11_realOfCubic_109 : decode cX11_realOfCubic 109 = .ok (.ireturn, 1) := dk_172 (dk_at dksX11_realOfCubic_4 14 rfl rfl)
abbrev cX11_realOfQuartic : ByteArray := prog_18_method_133_code
def yX11_realOfQuartic : MethodName := ⟨RX11, "realOfQuartic", "(JJJJJ)I"⟩
def dkwX11_realOfQuartic_13 : List UInt8 := [156, 0, 14, 22, 20, 9, 148, 156, 0, 7, 6, 167, 0, 4, 4, 172]
abbrev dktX11_realOfQuartic_13 : List UInt8 := dkwX11_realOfQuartic_13 ++ []
def dkwX11_realOfQuartic_12 : List UInt8 := [148, 153, 0, 7, 4, 167, 0, 4, 3, 172, 22, 10, 9, 148, 154, 0, 5, 5, 172, 22, 16, 9, 148]
abbrev dktX11_realOfQuartic_12 : List UInt8 := dkwX11_realOfQuartic_12 ++ dktX11_realOfQuartic_13
def dkwX11_realOfQuartic_11 : List UInt8 := [154, 0, 34, 22, 16, 9, 148, 156, 0, 7, 5, 167, 0, 22, 22, 10, 9, 148, 153, 0, 10, 22, 18, 9]
abbrev dktX11_realOfQuartic_11 : List UInt8 := dkwX11_realOfQuartic_11 ++ dktX11_realOfQuartic_12
def dkwX11_realOfQuartic_10 : List UInt8 := [22, 16, 9, 148, 156, 0, 14, 22, 20, 9, 148, 156, 0, 7, 7, 167, 0, 4, 3, 172, 22, 20, 9, 148]
abbrev dktX11_realOfQuartic_10 : List UInt8 := dkwX11_realOfQuartic_10 ++ dktX11_realOfQuartic_11
def dkwX11_realOfQuartic_9 : List UInt8 := [32, 105, 32, 105, 101, 55, 20, 22, 14, 9, 148, 156, 0, 5, 5, 172, 22, 14, 9, 148, 158, 0, 23]
abbrev dktX11_realOfQuartic_9 : List UInt8 := dkwX11_realOfQuartic_9 ++ dktX11_realOfQuartic_10
def dkwX11_realOfQuartic_8 : List UInt8 := [22, 4, 105, 97, 20, 1, 207, 30, 105, 30, 105, 32, 105, 22, 6, 105, 101, 20, 1, 195, 32, 105, 32, 105]
abbrev dktX11_realOfQuartic_8 : List UInt8 := dkwX11_realOfQuartic_8 ++ dktX11_realOfQuartic_9
def dkwX11_realOfQuartic_7 : List UInt8 := [20, 1, 207, 30, 105, 30, 105, 22, 4, 105, 22, 4, 105, 101, 20, 1, 207, 30, 105, 32, 105, 32, 105]
abbrev dktX11_realOfQuartic_7 : List UInt8 := dkwX11_realOfQuartic_7 ++ dktX11_realOfQuartic_8
def dkwX11_realOfQuartic_6 : List UInt8 := [30, 105, 32, 105, 22, 4, 105, 101, 55, 18, 20, 1, 205, 30, 105, 30, 105, 30, 105, 22, 8, 105]
abbrev dktX11_realOfQuartic_6 : List UInt8 := dkwX11_realOfQuartic_6 ++ dktX11_realOfQuartic_7
def dkwX11_realOfQuartic_5 : List UInt8 := [32, 105, 101, 55, 16, 32, 32, 105, 32, 105, 20, 1, 203, 22, 6, 105, 30, 105, 30, 105, 97, 20, 1, 158]
abbrev dktX11_realOfQuartic_5 : List UInt8 := dkwX11_realOfQuartic_5 ++ dktX11_realOfQuartic_6
def dkwX11_realOfQuartic_4 : List UInt8 := [22, 10, 105, 22, 12, 22, 12, 105, 101, 55, 14, 20, 1, 203, 30, 105, 22, 4, 105, 20, 1, 195, 32, 105]
abbrev dktX11_realOfQuartic_4 : List UInt8 := dkwX11_realOfQuartic_4 ++ dktX11_realOfQuartic_5
def dkwX11_realOfQuartic_3 : List UInt8 := [97, 20, 1, 201, 30, 105, 22, 4, 105, 22, 8, 105, 101, 55, 12, 20, 1, 158, 22, 10, 105, 22, 10, 105]
abbrev dktX11_realOfQuartic_3 : List UInt8 := dkwX11_realOfQuartic_3 ++ dktX11_realOfQuartic_4
def dkwX11_realOfQuartic_2 : List UInt8 := [105, 101, 20, 1, 193, 32, 105, 32, 105, 22, 8, 105, 97, 20, 1, 193, 30, 105, 22, 6, 105, 22, 6, 105]
abbrev dktX11_realOfQuartic_2 : List UInt8 := dkwX11_realOfQuartic_2 ++ dktX11_realOfQuartic_3
def dkwX11_realOfQuartic_1 : List UInt8 := [55, 10, 20, 1, 144, 22, 4, 105, 22, 4, 105, 22, 4, 105, 20, 1, 199, 32, 105, 22, 4, 105, 22, 6]
abbrev dktX11_realOfQuartic_1 : List UInt8 := dkwX11_realOfQuartic_1 ++ dktX11_realOfQuartic_2
def dkwX11_realOfQuartic_0 : List UInt8 := [22, 4, 22, 4, 105, 20, 1, 195, 32, 105, 22, 6, 105, 101, 20, 1, 197, 30, 105, 22, 8, 105, 97]
abbrev dktX11_realOfQuartic_0 : List UInt8 := dkwX11_realOfQuartic_0 ++ dktX11_realOfQuartic_1
theorem dksX11_realOfQuartic_0 : cX11_realOfQuartic.data.toList.drop 0 = dktX11_realOfQuartic_0 := by decide +kernel
theorem dksX11_realOfQuartic_1 : cX11_realOfQuartic.data.toList.drop 23 = dktX11_realOfQuartic_1 := dk_seg dksX11_realOfQuartic_0 23 rfl rfl
theorem dksX11_realOfQuartic_2 : cX11_realOfQuartic.data.toList.drop 47 = dktX11_realOfQuartic_2 := dk_seg dksX11_realOfQuartic_1 24 rfl rfl
theorem dksX11_realOfQuartic_3 : cX11_realOfQuartic.data.toList.drop 71 = dktX11_realOfQuartic_3 := dk_seg dksX11_realOfQuartic_2 24 rfl rfl
theorem dksX11_realOfQuartic_4 : cX11_realOfQuartic.data.toList.drop 95 = dktX11_realOfQuartic_4 := dk_seg dksX11_realOfQuartic_3 24 rfl rfl
theorem dksX11_realOfQuartic_5 : cX11_realOfQuartic.data.toList.drop 119 = dktX11_realOfQuartic_5 := dk_seg dksX11_realOfQuartic_4 24 rfl rfl
theorem dksX11_realOfQuartic_6 : cX11_realOfQuartic.data.toList.drop 143 = dktX11_realOfQuartic_6 := dk_seg dksX11_realOfQuartic_5 24 rfl rfl
theorem dksX11_realOfQuartic_7 : cX11_realOfQuartic.data.toList.drop 165 = dktX11_realOfQuartic_7 := dk_seg dksX11_realOfQuartic_6 22 rfl rfl
theorem dksX11_realOfQuartic_8 : cX11_realOfQuartic.data.toList.drop 188 = dktX11_realOfQuartic_8 := dk_seg dksX11_realOfQuartic_7 23 rfl rfl
theorem dksX11_realOfQuartic_9 : cX11_realOfQuartic.data.toList.drop 212 = dktX11_realOfQuartic_9 := dk_seg dksX11_realOfQuartic_8 24 rfl rfl
theorem dksX11_realOfQuartic_10 : cX11_realOfQuartic.data.toList.drop 235 = dktX11_realOfQuartic_10 := dk_seg dksX11_realOfQuartic_9 23 rfl rfl
theorem dksX11_realOfQuartic_11 : cX11_realOfQuartic.data.toList.drop 259 = dktX11_realOfQuartic_11 := dk_seg dksX11_realOfQuartic_10 24 rfl rfl
theorem dksX11_realOfQuartic_12 : cX11_realOfQuartic.data.toList.drop 283 = dktX11_realOfQuartic_12 := dk_seg dksX11_realOfQuartic_11 24 rfl rfl
theorem dksX11_realOfQuartic_13 : cX11_realOfQuartic.data.toList.drop 306 = dktX11_realOfQuartic_13 := dk_seg dksX11_realOfQuartic_12 23 rfl rfl
theorem dX11_realOfQuartic_0 : decode cX11_realOfQuartic 0 = .ok (.lload 4, 2) := dk_22 4 (dk_at dksX11_realOfQuartic_0 0 rfl rfl)
theorem dX11_realOfQuartic_2 : decode cX11_realOfQuartic 2 = .ok (.lload 4, 2) := dk_22 4 (dk_at dksX11_realOfQuartic_0 2 rfl rfl)
theorem dX11_realOfQuartic_4 : decode cX11_realOfQuartic 4 = .ok (.lmul, 1) := dk_105 (dk_at dksX11_realOfQuartic_0 4 rfl rfl)
theorem dX11_realOfQuartic_5 : decode cX11_realOfQuartic 5 = .ok (.ldc2_w 451, 3) := dk_20 1 195 (dk_at dksX11_realOfQuartic_0 5 rfl rfl)
theorem dX11_realOfQuartic_8 : decode cX11_realOfQuartic 8 = .ok (.lload_n 2, 1) := dk_32 (dk_at dksX11_realOfQuartic_0 8 rfl rfl)
theorem dX11_realOfQuartic_9 : decode cX11_realOfQuartic 9 = .ok (.lmul, 1) := dk_105 (dk_at dksX11_realOfQuartic_0 9 rfl rfl)
theorem dX11_realOfQuartic_10 : decode cX11_realOfQuartic 10 = .ok (.lload 6, 2) := dk_22 6 (dk_at dksX11_realOfQuartic_0 10 rfl rfl)
theorem dX11_realOfQuartic_12 : decode cX11_realOfQuartic 12 = .ok (.lmul, 1) := dk_105 (dk_at dksX11_realOfQuartic_0 12 rfl rfl)
theorem dX11_realOfQuartic_13 : decode cX11_realOfQuartic 13 = .ok (.lsub, 1) := dk_101 (dk_at dksX11_realOfQuartic_0 13 rfl rfl)
theorem dX11_realOfQuartic_14 : decode cX11_realOfQuartic 14 = .ok (.ldc2_w 453, 3) := dk_20 1 197 (dk_at dksX11_realOfQuartic_0 14 rfl rfl)
theorem dX11_realOfQuartic_17 : decode cX11_realOfQuartic 17 = .ok (.lload_n 0, 1) := dk_30 (dk_at dksX11_realOfQuartic_0 17 rfl rfl)
theorem dX11_realOfQuartic_18 : decode cX11_realOfQuartic 18 = .ok (.lmul, 1) := dk_105 (dk_at dksX11_realOfQuartic_0 18 rfl rfl)
theorem dX11_realOfQuartic_19 : decode cX11_realOfQuartic 19 = .ok (.lload 8, 2) := dk_22 8 (dk_at dksX11_realOfQuartic_0 19 rfl rfl)
theorem dX11_realOfQuartic_21 : decode cX11_realOfQuartic 21 = .ok (.lmul, 1) := dk_105 (dk_at dksX11_realOfQuartic_0 21 rfl rfl)
theorem dX11_realOfQuartic_22 : decode cX11_realOfQuartic 22 = .ok (.ladd, 1) := dk_97 (dk_at dksX11_realOfQuartic_0 22 rfl rfl)
theorem dX11_realOfQuartic_23 : decode cX11_realOfQuartic 23 = .ok (.lstore 10, 2) := dk_55 10 (dk_at dksX11_realOfQuartic_1 0 rfl rfl)
theorem dX11_realOfQuartic_25 : decode cX11_realOfQuartic 25 = .ok (.ldc2_w 400, 3) := dk_20 1 144 (dk_at dksX11_realOfQuartic_1 2 rfl rfl)
theorem dX11_realOfQuartic_28 : decode cX11_realOfQuartic 28 = .ok (.lload 4, 2) := dk_22 4 (dk_at dksX11_realOfQuartic_1 5 rfl rfl)
theorem dX11_realOfQuartic_30 : decode cX11_realOfQuartic 30 = .ok (.lmul, 1) := dk_105 (dk_at dksX11_realOfQuartic_1 7 rfl rfl)
theorem dX11_realOfQuartic_31 : decode cX11_realOfQuartic 31 = .ok (.lload 4, 2) := dk_22 4 (dk_at dksX11_realOfQuartic_1 8 rfl rfl)
theorem dX11_realOfQuartic_33 : decode cX11_realOfQuartic 33 = .ok (.lmul, 1) := dk_105 (dk_at dksX11_realOfQuartic_1 10 rfl rfl)
theorem dX11_realOfQuartic_34 : decode cX11_realOfQuartic 34 = .ok (.lload 4, 2) := dk_22 4 (dk_at dksX11_realOfQuartic_1 11 rfl rfl)
theorem dX11_realOfQuartic_36 : decode cX11_realOfQuartic 36 = .ok (.lmul, 1) := dk_105 (dk_at dksX11_realOfQuartic_1 13 rfl rfl)
theorem dX11_realOfQuartic_37 : decode cX11_realOfQuartic 37 = .ok (.ldc2_w 455, 3) := dk_20 1 199 (dk_at dksX11_realOfQuartic_1 14 rfl rfl)
theorem dX11_realOfQuartic_40 : decode cX11_realOfQuartic 40 = .ok (.lload_n 2, 1) := dk_32 (dk_at dksX11_realOfQuartic_1 17 rfl rfl)
theorem dX11_realOfQuartic_41 : decode cX11_realOfQuartic 41 = .ok (.lmul, 1) := dk_105 (dk_at dksX11_realOfQuartic_1 18 rfl rfl)
theorem dX11_realOfQuartic_42 : decode cX11_realOfQuartic 42 = .ok (.lload 4, 2) := dk_22 4 (dk_at dksX11_realOfQuartic_1 19 rfl rfl)
theorem dX11_realOfQuartic_44 : decode cX11_realOfQuartic 44 = .ok (.lmul, 1) := dk_105 (dk_at dksX11_realOfQuartic_1 21 rfl rfl)
theorem dX11_realOfQuartic_45 : decode cX11_realOfQuartic 45 = .ok (.lload 6, 2) := dk_22 6 (dk_at dksX11_realOfQuartic_1 22 rfl rfl)
theorem dX11_realOfQuartic_47 : decode cX11_realOfQuartic 47 = .ok (.lmul, 1) := dk_105 (dk_at dksX11_realOfQuartic_2 0 rfl rfl)
theorem dX11_realOfQuartic_48 : decode cX11_realOfQuartic 48 = .ok (.lsub, 1) := dk_101 (dk_at dksX11_realOfQuartic_2 1 rfl rfl)
theorem dX11_realOfQuartic_49 : decode cX11_realOfQuartic 49 = .ok (.ldc2_w 449, 3) := dk_20 1 193 (dk_at dksX11_realOfQuartic_2 2 rfl rfl)
theorem dX11_realOfQuartic_52 : decode cX11_realOfQuartic 52 = .ok (.lload_n 2, 1) := dk_32 (dk_at dksX11_realOfQuartic_2 5 rfl rfl)
theorem dX11_realOfQuartic_53 : decode cX11_realOfQuartic 53 = .ok (.lmul, 1) := dk_105 (dk_at dksX11_realOfQuartic_2 6 rfl rfl)
theorem dX11_realOfQuartic_54 : decode cX11_realOfQuartic 54 = .ok (.lload_n 2, 1) := dk_32 (dk_at dksX11_realOfQuartic_2 7 rfl rfl)
theorem dX11_realOfQuartic_55 : decode cX11_realOfQuartic 55 = .ok (.lmul, 1) := dk_105 (dk_at dksX11_realOfQuartic_2 8 rfl rfl)
theorem dX11_realOfQuartic_56 : decode cX11_realOfQuartic 56 = .ok (.lload 8, 2) := dk_22 8 (dk_at dksX11_realOfQuartic_2 9 rfl rfl)
theorem dX11_realOfQuartic_58 : decode cX11_realOfQuartic 58 = .ok (.lmul, 1) := dk_105 (dk_at dksX11_realOfQuartic_2 11 rfl rfl)
theorem dX11_realOfQuartic_59 : decode cX11_realOfQuartic 59 = .ok (.ladd, 1) := dk_97 (dk_at dksX11_realOfQuartic_2 12 rfl rfl)
theorem dX11_realOfQuartic_60 : decode cX11_realOfQuartic 60 = .ok (.ldc2_w 449, 3) := dk_20 1 193 (dk_at dksX11_realOfQuartic_2 13 rfl rfl)
theorem dX11_realOfQuartic_63 : decode cX11_realOfQuartic 63 = .ok (.lload_n 0, 1) := dk_30 (dk_at dksX11_realOfQuartic_2 16 rfl rfl)
theorem dX11_realOfQuartic_64 : decode cX11_realOfQuartic 64 = .ok (.lmul, 1) := dk_105 (dk_at dksX11_realOfQuartic_2 17 rfl rfl)
theorem dX11_realOfQuartic_65 : decode cX11_realOfQuartic 65 = .ok (.lload 6, 2) := dk_22 6 (dk_at dksX11_realOfQuartic_2 18 rfl rfl)
theorem dX11_realOfQuartic_67 : decode cX11_realOfQuartic 67 = .ok (.lmul, 1) := dk_105 (dk_at dksX11_realOfQuartic_2 20 rfl rfl)
theorem dX11_realOfQuartic_68 : decode cX11_realOfQuartic 68 = .ok (.lload 6, 2) := dk_22 6 (dk_at dksX11_realOfQuartic_2 21 rfl rfl)
theorem dX11_realOfQuartic_70 : decode cX11_realOfQuartic 70 = .ok (.lmul, 1) := dk_105 (dk_at dksX11_realOfQuartic_2 23 rfl rfl)
theorem dX11_realOfQuartic_71 : decode cX11_realOfQuartic 71 = .ok (.ladd, 1) := dk_97 (dk_at dksX11_realOfQuartic_3 0 rfl rfl)
theorem dX11_realOfQuartic_72 : decode cX11_realOfQuartic 72 = .ok (.ldc2_w 457, 3) := dk_20 1 201 (dk_at dksX11_realOfQuartic_3 1 rfl rfl)
theorem dX11_realOfQuartic_75 : decode cX11_realOfQuartic 75 = .ok (.lload_n 0, 1) := dk_30 (dk_at dksX11_realOfQuartic_3 4 rfl rfl)
theorem dX11_realOfQuartic_76 : decode cX11_realOfQuartic 76 = .ok (.lmul, 1) := dk_105 (dk_at dksX11_realOfQuartic_3 5 rfl rfl)
theorem dX11_realOfQuartic_77 : decode cX11_realOfQuartic 77 = .ok (.lload 4, 2) := dk_22 4 (dk_at dksX11_realOfQuartic_3 6 rfl rfl)
theorem dX11_realOfQuartic_79 : decode cX11_realOfQuartic 79 = .ok (.lmul, 1) := dk_105 (dk_at dksX11_realOfQuartic_3 8 rfl rfl)
theorem dX11_realOfQuartic_80 : decode cX11_realOfQuartic 80 = .ok (.lload 8, 2) := dk_22 8 (dk_at dksX11_realOfQuartic_3 9 rfl rfl)
theorem dX11_realOfQuartic_82 : decode cX11_realOfQuartic 82 = .ok (.lmul, 1) := dk_105 (dk_at dksX11_realOfQuartic_3 11 rfl rfl)
theorem dX11_realOfQuartic_83 : decode cX11_realOfQuartic 83 = .ok (.lsub, 1) := dk_101 (dk_at dksX11_realOfQuartic_3 12 rfl rfl)
theorem dX11_realOfQuartic_84 : decode cX11_realOfQuartic 84 = .ok (.lstore 12, 2) := dk_55 12 (dk_at dksX11_realOfQuartic_3 13 rfl rfl)
theorem dX11_realOfQuartic_86 : decode cX11_realOfQuartic 86 = .ok (.ldc2_w 414, 3) := dk_20 1 158 (dk_at dksX11_realOfQuartic_3 15 rfl rfl)
theorem dX11_realOfQuartic_89 : decode cX11_realOfQuartic 89 = .ok (.lload 10, 2) := dk_22 10 (dk_at dksX11_realOfQuartic_3 18 rfl rfl)
theorem dX11_realOfQuartic_91 : decode cX11_realOfQuartic 91 = .ok (.lmul, 1) := dk_105 (dk_at dksX11_realOfQuartic_3 20 rfl rfl)
theorem dX11_realOfQuartic_92 : decode cX11_realOfQuartic 92 = .ok (.lload 10, 2) := dk_22 10 (dk_at dksX11_realOfQuartic_3 21 rfl rfl)
theorem dX11_realOfQuartic_94 : decode cX11_realOfQuartic 94 = .ok (.lmul, 1) := dk_105 (dk_at dksX11_realOfQuartic_3 23 rfl rfl)
theorem dX11_realOfQuartic_95 : decode cX11_realOfQuartic 95 = .ok (.lload 10, 2) := dk_22 10 (dk_at dksX11_realOfQuartic_4 0 rfl rfl)
theorem dX11_realOfQuartic_97 : decode cX11_realOfQuartic 97 = .ok (.lmul, 1) := dk_105 (dk_at dksX11_realOfQuartic_4 2 rfl rfl)
theorem dX11_realOfQuartic_98 : decode cX11_realOfQuartic 98 = .ok (.lload 12, 2) := dk_22 12 (dk_at dksX11_realOfQuartic_4 3 rfl rfl)
theorem dX11_realOfQuartic_100 : decode cX11_realOfQuartic 100 = .ok (.lload 12, 2) := dk_22 12 (dk_at dksX11_realOfQuartic_4 5 rfl rfl)
theorem dX11_realOfQuartic_102 : decode cX11_realOfQuartic 102 = .ok (.lmul, 1) := dk_105 (dk_at dksX11_realOfQuartic_4 7 rfl rfl)
theorem dX11_realOfQuartic_103 : decode cX11_realOfQuartic 103 = .ok (.lsub, 1) := dk_101 (dk_at dksX11_realOfQuartic_4 8 rfl rfl)
theorem dX11_realOfQuartic_104 : decode cX11_realOfQuartic 104 = .ok (.lstore 14, 2) := dk_55 14 (dk_at dksX11_realOfQuartic_4 9 rfl rfl)
theorem dX11_realOfQuartic_106 : decode cX11_realOfQuartic 106 = .ok (.ldc2_w 459, 3) := dk_20 1 203 (dk_at dksX11_realOfQuartic_4 11 rfl rfl)
theorem dX11_realOfQuartic_109 : decode cX11_realOfQuartic 109 = .ok (.lload_n 0, 1) := dk_30 (dk_at dksX11_realOfQuartic_4 14 rfl rfl)
theorem dX11_realOfQuartic_110 : decode cX11_realOfQuartic 110 = .ok (.lmul, 1) := dk_105 (dk_at dksX11_realOfQuartic_4 15 rfl rfl)
theorem dX11_realOfQuartic_111 : decode cX11_realOfQuartic 111 = .ok (.lload 4, 2) := dk_22 4 (dk_at dksX11_realOfQuartic_4 16 rfl rfl)
theorem dX11_realOfQuartic_113 : decode cX11_realOfQuartic 113 = .ok (.lmul, 1) := dk_105 (dk_at dksX11_realOfQuartic_4 18 rfl rfl)
theorem dX11_realOfQuartic_114 : decode cX11_realOfQuartic 114 = .ok (.ldc2_w 451, 3) := dk_20 1 195 (dk_at dksX11_realOfQuartic_4 19 rfl rfl)
theorem dX11_realOfQuartic_117 : decode cX11_realOfQuartic 117 = .ok (.lload_n 2, 1) := dk_32 (dk_at dksX11_realOfQuartic_4 22 rfl rfl)
theorem dX11_realOfQuartic_118 : decode cX11_realOfQuartic 118 = .ok (.lmul, 1) := dk_105 (dk_at dksX11_realOfQuartic_4 23 rfl rfl)
theorem dX11_realOfQuartic_119 : decode cX11_realOfQuartic 119 = .ok (.lload_n 2, 1) := dk_32 (dk_at dksX11_realOfQuartic_5 0 rfl rfl)
theorem dX11_realOfQuartic_120 : decode cX11_realOfQuartic 120 = .ok (.lmul, 1) := dk_105 (dk_at dksX11_realOfQuartic_5 1 rfl rfl)
theorem dX11_realOfQuartic_121 : decode cX11_realOfQuartic 121 = .ok (.lsub, 1) := dk_101 (dk_at dksX11_realOfQuartic_5 2 rfl rfl)
theorem dX11_realOfQuartic_122 : decode cX11_realOfQuartic 122 = .ok (.lstore 16, 2) := dk_55 16 (dk_at dksX11_realOfQuartic_5 3 rfl rfl)
theorem dX11_realOfQuartic_124 : decode cX11_realOfQuartic 124 = .ok (.lload_n 2, 1) := dk_32 (dk_at dksX11_realOfQuartic_5 5 rfl rfl)
theorem dX11_realOfQuartic_125 : decode cX11_realOfQuartic 125 = .ok (.lload_n 2, 1) := dk_32 (dk_at dksX11_realOfQuartic_5 6 rfl rfl)
theorem dX11_realOfQuartic_126 : decode cX11_realOfQuartic 126 = .ok (.lmul, 1) := dk_105 (dk_at dksX11_realOfQuartic_5 7 rfl rfl)
theorem dX11_realOfQuartic_127 : decode cX11_realOfQuartic 127 = .ok (.lload_n 2, 1) := dk_32 (dk_at dksX11_realOfQuartic_5 8 rfl rfl)
theorem dX11_realOfQuartic_128 : decode cX11_realOfQuartic 128 = .ok (.lmul, 1) := dk_105 (dk_at dksX11_realOfQuartic_5 9 rfl rfl)
theorem dX11_realOfQuartic_129 : decode cX11_realOfQuartic 129 = .ok (.ldc2_w 459, 3) := dk_20 1 203 (dk_at dksX11_realOfQuartic_5 10 rfl rfl)
theorem dX11_realOfQuartic_132 : decode cX11_realOfQuartic 132 = .ok (.lload 6, 2) := dk_22 6 (dk_at dksX11_realOfQuartic_5 13 rfl rfl)
theorem dX11_realOfQuartic_134 : decode cX11_realOfQuartic 134 = .ok (.lmul, 1) := dk_105 (dk_at dksX11_realOfQuartic_5 15 rfl rfl)
theorem dX11_realOfQuartic_135 : decode cX11_realOfQuartic 135 = .ok (.lload_n 0, 1) := dk_30 (dk_at dksX11_realOfQuartic_5 16 rfl rfl)
theorem dX11_realOfQuartic_136 : decode cX11_realOfQuartic 136 = .ok (.lmul, 1) := dk_105 (dk_at dksX11_realOfQuartic_5 17 rfl rfl)
theorem dX11_realOfQuartic_137 : decode cX11_realOfQuartic 137 = .ok (.lload_n 0, 1) := dk_30 (dk_at dksX11_realOfQuartic_5 18 rfl rfl)
theorem dX11_realOfQuartic_138 : decode cX11_realOfQuartic 138 = .ok (.lmul, 1) := dk_105 (dk_at dksX11_realOfQuartic_5 19 rfl rfl)
theorem dX11_realOfQuartic_139 : decode cX11_realOfQuartic 139 = .ok (.ladd, 1) := dk_97 (dk_at dksX11_realOfQuartic_5 20 rfl rfl)
theorem dX11_realOfQuartic_140 : decode cX11_realOfQuartic 140 = .ok (.ldc2_w 414, 3) := dk_20 1 158 (dk_at dksX11_realOfQuartic_5 21 rfl rfl)
theorem dX11_realOfQuartic_143 : decode cX11_realOfQuartic 143 = .ok (.lload_n 0, 1) := dk_30 (dk_at dksX11_realOfQuartic_6 0 rfl rfl)
theorem dX11_realOfQuartic_144 : decode cX11_realOfQuartic 144 = .ok (.lmul, 1) := dk_105 (dk_at dksX11_realOfQuartic_6 1 rfl rfl)
theorem dX11_realOfQuartic_145 : decode cX11_realOfQuartic 145 = .ok (.lload_n 2, 1) := dk_32 (dk_at dksX11_realOfQuartic_6 2 rfl rfl)
theorem dX11_realOfQuartic_146 : decode cX11_realOfQuartic 146 = .ok (.lmul, 1) := dk_105 (dk_at dksX11_realOfQuartic_6 3 rfl rfl)
theorem dX11_realOfQuartic_147 : decode cX11_realOfQuartic 147 = .ok (.lload 4, 2) := dk_22 4 (dk_at dksX11_realOfQuartic_6 4 rfl rfl)
theorem dX11_realOfQuartic_149 : decode cX11_realOfQuartic 149 = .ok (.lmul, 1) := dk_105 (dk_at dksX11_realOfQuartic_6 6 rfl rfl)
theorem dX11_realOfQuartic_150 : decode cX11_realOfQuartic 150 = .ok (.lsub, 1) := dk_101 (dk_at dksX11_realOfQuartic_6 7 rfl rfl)
theorem dX11_realOfQuartic_151 : decode cX11_realOfQuartic 151 = .ok (.lstore 18, 2) := dk_55 18 (dk_at dksX11_realOfQuartic_6 8 rfl rfl)
theorem dX11_realOfQuartic_153 : decode cX11_realOfQuartic 153 = .ok (.ldc2_w 461, 3) := dk_20 1 205 (dk_at dksX11_realOfQuartic_6 10 rfl rfl)
theorem dX11_realOfQuartic_156 : decode cX11_realOfQuartic 156 = .ok (.lload_n 0, 1) := dk_30 (dk_at dksX11_realOfQuartic_6 13 rfl rfl)
theorem dX11_realOfQuartic_157 : decode cX11_realOfQuartic 157 = .ok (.lmul, 1) := dk_105 (dk_at dksX11_realOfQuartic_6 14 rfl rfl)
theorem dX11_realOfQuartic_158 : decode cX11_realOfQuartic 158 = .ok (.lload_n 0, 1) := dk_30 (dk_at dksX11_realOfQuartic_6 15 rfl rfl)
theorem dX11_realOfQuartic_159 : decode cX11_realOfQuartic 159 = .ok (.lmul, 1) := dk_105 (dk_at dksX11_realOfQuartic_6 16 rfl rfl)
theorem dX11_realOfQuartic_160 : decode cX11_realOfQuartic 160 = .ok (.lload_n 0, 1) := dk_30 (dk_at dksX11_realOfQuartic_6 17 rfl rfl)
theorem dX11_realOfQuartic_161 : decode cX11_realOfQuartic 161 = .ok (.lmul, 1) := dk_105 (dk_at dksX11_realOfQuartic_6 18 rfl rfl)
theorem dX11_realOfQuartic_162 : decode cX11_realOfQuartic 162 = .ok (.lload 8, 2) := dk_22 8 (dk_at dksX11_realOfQuartic_6 19 rfl rfl)
theorem dX11_realOfQuartic_164 : decode cX11_realOfQuartic 164 = .ok (.lmul, 1) := dk_105 (dk_at dksX11_realOfQuartic_6 21 rfl rfl)
theorem dX11_realOfQuartic_165 : decode cX11_realOfQuartic 165 = .ok (.ldc2_w 463, 3) := dk_20 1 207 (dk_at dksX11_realOfQuartic_7 0 rfl rfl)
theorem dX11_realOfQuartic_168 : decode cX11_realOfQuartic 168 = .ok (.lload_n 0, 1) := dk_30 (dk_at dksX11_realOfQuartic_7 3 rfl rfl)
theorem dX11_realOfQuartic_169 : decode cX11_realOfQuartic 169 = .ok (.lmul, 1) := dk_105 (dk_at dksX11_realOfQuartic_7 4 rfl rfl)
theorem dX11_realOfQuartic_170 : decode cX11_realOfQuartic 170 = .ok (.lload_n 0, 1) := dk_30 (dk_at dksX11_realOfQuartic_7 5 rfl rfl)
theorem dX11_realOfQuartic_171 : decode cX11_realOfQuartic 171 = .ok (.lmul, 1) := dk_105 (dk_at dksX11_realOfQuartic_7 6 rfl rfl)
theorem dX11_realOfQuartic_172 : decode cX11_realOfQuartic 172 = .ok (.lload 4, 2) := dk_22 4 (dk_at dksX11_realOfQuartic_7 7 rfl rfl)
theorem dX11_realOfQuartic_174 : decode cX11_realOfQuartic 174 = .ok (.lmul, 1) := dk_105 (dk_at dksX11_realOfQuartic_7 9 rfl rfl)
theorem dX11_realOfQuartic_175 : decode cX11_realOfQuartic 175 = .ok (.lload 4, 2) := dk_22 4 (dk_at dksX11_realOfQuartic_7 10 rfl rfl)
theorem dX11_realOfQuartic_177 : decode cX11_realOfQuartic 177 = .ok (.lmul, 1) := dk_105 (dk_at dksX11_realOfQuartic_7 12 rfl rfl)
theorem dX11_realOfQuartic_178 : decode cX11_realOfQuartic 178 = .ok (.lsub, 1) := dk_101 (dk_at dksX11_realOfQuartic_7 13 rfl rfl)
theorem dX11_realOfQuartic_179 : decode cX11_realOfQuartic 179 = .ok (.ldc2_w 463, 3) := dk_20 1 207 (dk_at dksX11_realOfQuartic_7 14 rfl rfl)
theorem dX11_realOfQuartic_182 : decode cX11_realOfQuartic 182 = .ok (.lload_n 0, 1) := dk_30 (dk_at dksX11_realOfQuartic_7 17 rfl rfl)
theorem dX11_realOfQuartic_183 : decode cX11_realOfQuartic 183 = .ok (.lmul, 1) := dk_105 (dk_at dksX11_realOfQuartic_7 18 rfl rfl)
theorem dX11_realOfQuartic_184 : decode cX11_realOfQuartic 184 = .ok (.lload_n 2, 1) := dk_32 (dk_at dksX11_realOfQuartic_7 19 rfl rfl)
theorem dX11_realOfQuartic_185 : decode cX11_realOfQuartic 185 = .ok (.lmul, 1) := dk_105 (dk_at dksX11_realOfQuartic_7 20 rfl rfl)
theorem dX11_realOfQuartic_186 : decode cX11_realOfQuartic 186 = .ok (.lload_n 2, 1) := dk_32 (dk_at dksX11_realOfQuartic_7 21 rfl rfl)
theorem dX11_realOfQuartic_187 : decode cX11_realOfQuartic 187 = .ok (.lmul, 1) := dk_105 (dk_at dksX11_realOfQuartic_7 22 rfl rfl)
theorem dX11_realOfQuartic_188 : decode cX11_realOfQuartic 188 = .ok (.lload 4, 2) := dk_22 4 (dk_at dksX11_realOfQuartic_8 0 rfl rfl)
theorem dX11_realOfQuartic_190 : decode cX11_realOfQuartic 190 = .ok (.lmul, 1) := dk_105 (dk_at dksX11_realOfQuartic_8 2 rfl rfl)
theorem dX11_realOfQuartic_191 : decode cX11_realOfQuartic 191 = .ok (.ladd, 1) := dk_97 (dk_at dksX11_realOfQuartic_8 3 rfl rfl)
theorem dX11_realOfQuartic_192 : decode cX11_realOfQuartic 192 = .ok (.ldc2_w 463, 3) := dk_20 1 207 (dk_at dksX11_realOfQuartic_8 4 rfl rfl)
theorem dX11_realOfQuartic_195 : decode cX11_realOfQuartic 195 = .ok (.lload_n 0, 1) := dk_30 (dk_at dksX11_realOfQuartic_8 7 rfl rfl)
theorem dX11_realOfQuartic_196 : decode cX11_realOfQuartic 196 = .ok (.lmul, 1) := dk_105 (dk_at dksX11_realOfQuartic_8 8 rfl rfl)
theorem dX11_realOfQuartic_197 : decode cX11_realOfQuartic 197 = .ok (.lload_n 0, 1) := dk_30 (dk_at dksX11_realOfQuartic_8 9 rfl rfl)
theorem dX11_realOfQuartic_198 : decode cX11_realOfQuartic 198 = .ok (.lmul, 1) := dk_105 (dk_at dksX11_realOfQuartic_8 10 rfl rfl)
theorem dX11_realOfQuartic_199 : decode cX11_realOfQuartic 199 = .ok (.lload_n 2, 1) := dk_32 (dk_at dksX11_realOfQuartic_8 11 rfl rfl)
theorem dX11_realOfQuartic_200 : decode cX11_realOfQuartic 200 = .ok (.lmul, 1) := dk_105 (dk_at dksX11_realOfQuartic_8 12 rfl rfl)
theorem dX11_realOfQuartic_201 : decode cX11_realOfQuartic 201 = .ok (.lload 6, 2) := dk_22 6 (dk_at dksX11_realOfQuartic_8 13 rfl rfl)
theorem dX11_realOfQuartic_203 : decode cX11_realOfQuartic 203 = .ok (.lmul, 1) := dk_105 (dk_at dksX11_realOfQuartic_8 15 rfl rfl)
theorem dX11_realOfQuartic_204 : decode cX11_realOfQuartic 204 = .ok (.lsub, 1) := dk_101 (dk_at dksX11_realOfQuartic_8 16 rfl rfl)
theorem dX11_realOfQuartic_205 : decode cX11_realOfQuartic 205 = .ok (.ldc2_w 451, 3) := dk_20 1 195 (dk_at dksX11_realOfQuartic_8 17 rfl rfl)
theorem dX11_realOfQuartic_208 : decode cX11_realOfQuartic 208 = .ok (.lload_n 2, 1) := dk_32 (dk_at dksX11_realOfQuartic_8 20 rfl rfl)
theorem dX11_realOfQuartic_209 : decode cX11_realOfQuartic 209 = .ok (.lmul, 1) := dk_105 (dk_at dksX11_realOfQuartic_8 21 rfl rfl)
theorem dX11_realOfQuartic_210 : decode cX11_realOfQuartic 210 = .ok (.lload_n 2, 1) := dk_32 (dk_at dksX11_realOfQuartic_8 22 rfl rfl)
theorem dX11_realOfQuartic_211 : decode cX11_realOfQuartic 211 = .ok (.lmul, 1) := dk_105 (dk_at dksX11_realOfQuartic_8 23 rfl rfl)
theorem dX11_realOfQuartic_212 : decode cX11_realOfQuartic 212 = .ok (.lload_n 2, 1) := dk_32 (dk_at dksX11_realOfQuartic_9 0 rfl rfl)
theorem dX11_realOfQuartic_213 : decode cX11_realOfQuartic 213 = .ok (.lmul, 1) := dk_105 (dk_at dksX11_realOfQuartic_9 1 rfl rfl)
theorem dX11_realOfQuartic_214 : decode cX11_realOfQuartic 214 = .ok (.lload_n 2, 1) := dk_32 (dk_at dksX11_realOfQuartic_9 2 rfl rfl)
theorem dX11_realOfQuartic_215 : decode cX11_realOfQuartic 215 = .ok (.lmul, 1) := dk_105 (dk_at dksX11_realOfQuartic_9 3 rfl rfl)
theorem dX11_realOfQuartic_216 : decode cX11_realOfQuartic 216 = .ok (.lsub, 1) := dk_101 (dk_at dksX11_realOfQuartic_9 4 rfl rfl)
theorem dX11_realOfQuartic_217 : decode cX11_realOfQuartic 217 = .ok (.lstore 20, 2) := dk_55 20 (dk_at dksX11_realOfQuartic_9 5 rfl rfl)
theorem dX11_realOfQuartic_219 : decode cX11_realOfQuartic 219 = .ok (.lload 14, 2) := dk_22 14 (dk_at dksX11_realOfQuartic_9 7 rfl rfl)
theorem dX11_realOfQuartic_221 : decode cX11_realOfQuartic 221 = .ok (.lconst 0, 1) := dk_9 (dk_at dksX11_realOfQuartic_9 9 rfl rfl)
theorem dX11_realOfQuartic_222 : decode cX11_realOfQuartic 222 = .ok (.lcmp, 1) := dk_148 (dk_at dksX11_realOfQuartic_9 10 rfl rfl)
theorem dX11_realOfQuartic_223 : decode cX11_realOfQuartic 223 = .ok (.ifCond .ge 5, 3) := dk_156 0 5 (dk_at dksX11_realOfQuartic_9 11 rfl rfl)
theorem dX11_realOfQuartic_226 : decode cX11_realOfQuartic 226 = .ok (.iconst 2, 1) := dk_5 (dk_at dksX11_realOfQuartic_9 14 rfl rfl)
theorem dX11_realOfQuartic_227 : decode cX11_realOfQuartic 227 = .ok (.ireturn, 1) := dk_172 (dk_at dksX11_realOfQuartic_9 15 rfl rfl)
theorem dX11_realOfQuartic_228 : decode cX11_realOfQuartic 228 = .ok (.lload 14, 2) := dk_22 14 (dk_at dksX11_realOfQuartic_9 16 rfl rfl)
theorem dX11_realOfQuartic_230 : decode cX11_realOfQuartic 230 = .ok (.lconst 0, 1) := dk_9 (dk_at dksX11_realOfQuartic_9 18 rfl rfl)
theorem dX11_realOfQuartic_231 : decode cX11_realOfQuartic 231 = .ok (.lcmp, 1) := dk_148 (dk_at dksX11_realOfQuartic_9 19 rfl rfl)
theorem dX11_realOfQuartic_232 : decode cX11_realOfQuartic 232 = .ok (.ifCond .le 23, 3) := dk_158 0 23 (dk_at dksX11_realOfQuartic_9 20 rfl rfl)
theorem dX11_realOfQuartic_235 : decode cX11_realOfQuartic 235 = .ok (.lload 16, 2) := dk_22 16 (dk_at dksX11_realOfQuartic_10 0 rfl rfl)
theorem dX11_realOfQuartic_237 : decode cX11_realOfQuartic 237 = .ok (.lconst 0, 1) := dk_9 (dk_at dksX11_realOfQuartic_10 2 rfl rfl)
theorem dX11_realOfQuartic_238 : decode cX11_realOfQuartic 238 = .ok (.lcmp, 1) := dk_148 (dk_at dksX11_realOfQuartic_10 3 rfl rfl)
theorem dX11_realOfQuartic_239 : decode cX11_realOfQuartic 239 = .ok (.ifCond .ge 14, 3) := dk_156 0 14 (dk_at dksX11_realOfQuartic_10 4 rfl rfl)
theorem dX11_realOfQuartic_242 : decode cX11_realOfQuartic 242 = .ok (.lload 20, 2) := dk_22 20 (dk_at dksX11_realOfQuartic_10 7 rfl rfl)
theorem dX11_realOfQuartic_244 : decode cX11_realOfQuartic 244 = .ok (.lconst 0, 1) := dk_9 (dk_at dksX11_realOfQuartic_10 9 rfl rfl)
theorem dX11_realOfQuartic_245 : decode cX11_realOfQuartic 245 = .ok (.lcmp, 1) := dk_148 (dk_at dksX11_realOfQuartic_10 10 rfl rfl)
theorem dX11_realOfQuartic_246 : decode cX11_realOfQuartic 246 = .ok (.ifCond .ge 7, 3) := dk_156 0 7 (dk_at dksX11_realOfQuartic_10 11 rfl rfl)
theorem dX11_realOfQuartic_249 : decode cX11_realOfQuartic 249 = .ok (.iconst 4, 1) := dk_7 (dk_at dksX11_realOfQuartic_10 14 rfl rfl)
theorem dX11_realOfQuartic_250 : decode cX11_realOfQuartic 250 = .ok (.goto 4, 3) := dk_167 0 4 (dk_at dksX11_realOfQuartic_10 15 rfl rfl)
theorem dX11_realOfQuartic_253 : decode cX11_realOfQuartic 253 = .ok (.iconst 0, 1) := dk_3 (dk_at dksX11_realOfQuartic_10 18 rfl rfl)
theorem dX11_realOfQuartic_254 : decode cX11_realOfQuartic 254 = .ok (.ireturn, 1) := dk_172 (dk_at dksX11_realOfQuartic_10 19 rfl rfl)
theorem dX11_realOfQuartic_255 : decode cX11_realOfQuartic 255 = .ok (.lload 20, 2) := dk_22 20 (dk_at dksX11_realOfQuartic_10 20 rfl rfl)
theorem dX11_realOfQuartic_257 : decode cX11_realOfQuartic 257 = .ok (.lconst 0, 1) := dk_9 (dk_at dksX11_realOfQuartic_10 22 rfl rfl)
theorem dX11_realOfQuartic_258 : decode cX11_realOfQuartic 258 = .ok (.lcmp, 1) := dk_148 (dk_at dksX11_realOfQuartic_10 23 rfl rfl)
theorem dX11_realOfQuartic_259 : decode cX11_realOfQuartic 259 = .ok (.ifCond .ne 34, 3) := dk_154 0 34 (dk_at dksX11_realOfQuartic_11 0 rfl rfl)
theorem dX11_realOfQuartic_262 : decode cX11_realOfQuartic 262 = .ok (.lload 16, 2) := dk_22 16 (dk_at dksX11_realOfQuartic_11 3 rfl rfl)
theorem dX11_realOfQuartic_264 : decode cX11_realOfQuartic 264 = .ok (.lconst 0, 1) := dk_9 (dk_at dksX11_realOfQuartic_11 5 rfl rfl)
theorem dX11_realOfQuartic_265 : decode cX11_realOfQuartic 265 = .ok (.lcmp, 1) := dk_148 (dk_at dksX11_realOfQuartic_11 6 rfl rfl)
theorem dX11_realOfQuartic_266 : decode cX11_realOfQuartic 266 = .ok (.ifCond .ge 7, 3) := dk_156 0 7 (dk_at dksX11_realOfQuartic_11 7 rfl rfl)
theorem dX11_realOfQuartic_269 : decode cX11_realOfQuartic 269 = .ok (.iconst 2, 1) := dk_5 (dk_at dksX11_realOfQuartic_11 10 rfl rfl)
theorem dX11_realOfQuartic_270 : decode cX11_realOfQuartic 270 = .ok (.goto 22, 3) := dk_167 0 22 (dk_at dksX11_realOfQuartic_11 11 rfl rfl)
theorem dX11_realOfQuartic_273 : decode cX11_realOfQuartic 273 = .ok (.lload 10, 2) := dk_22 10 (dk_at dksX11_realOfQuartic_11 14 rfl rfl)
theorem dX11_realOfQuartic_275 : decode cX11_realOfQuartic 275 = .ok (.lconst 0, 1) := dk_9 (dk_at dksX11_realOfQuartic_11 16 rfl rfl)
theorem dX11_realOfQuartic_276 : decode cX11_realOfQuartic 276 = .ok (.lcmp, 1) := dk_148 (dk_at dksX11_realOfQuartic_11 17 rfl rfl)
theorem dX11_realOfQuartic_277 : decode cX11_realOfQuartic 277 = .ok (.ifCond .eq 10, 3) := dk_153 0 10 (dk_at dksX11_realOfQuartic_11 18 rfl rfl)
theorem dX11_realOfQuartic_280 : decode cX11_realOfQuartic 280 = .ok (.lload 18, 2) := dk_22 18 (dk_at dksX11_realOfQuartic_11 21 rfl rfl)
theorem dX11_realOfQuartic_282 : decode cX11_realOfQuartic 282 = .ok (.lconst 0, 1) := dk_9 (dk_at dksX11_realOfQuartic_11 23 rfl rfl)
theorem dX11_realOfQuartic_283 : decode cX11_realOfQuartic 283 = .ok (.lcmp, 1) := dk_148 (dk_at dksX11_realOfQuartic_12 0 rfl rfl)
theorem dX11_realOfQuartic_284 : decode cX11_realOfQuartic 284 = .ok (.ifCond .eq 7, 3) := dk_153 0 7 (dk_at dksX11_realOfQuartic_12 1 rfl rfl)
theorem dX11_realOfQuartic_287 : decode cX11_realOfQuartic 287 = .ok (.iconst 1, 1) := dk_4 (dk_at dksX11_realOfQuartic_12 4 rfl rfl)
theorem dX11_realOfQuartic_288 : decode cX11_realOfQuartic 288 = .ok (.goto 4, 3) := dk_167 0 4 (dk_at dksX11_realOfQuartic_12 5 rfl rfl)
theorem dX11_realOfQuartic_291 : decode cX11_realOfQuartic 291 = .ok (.iconst 0, 1) := dk_3 (dk_at dksX11_realOfQuartic_12 8 rfl rfl)
theorem dX11_realOfQuartic_292 : decode cX11_realOfQuartic 292 = .ok (.ireturn, 1) := dk_172 (dk_at dksX11_realOfQuartic_12 9 rfl rfl)
theorem dX11_realOfQuartic_293 : decode cX11_realOfQuartic 293 = .ok (.lload 10, 2) := dk_22 10 (dk_at dksX11_realOfQuartic_12 10 rfl rfl)
theorem dX11_realOfQuartic_295 : decode cX11_realOfQuartic 295 = .ok (.lconst 0, 1) := dk_9 (dk_at dksX11_realOfQuartic_12 12 rfl rfl)
theorem dX11_realOfQuartic_296 : decode cX11_realOfQuartic 296 = .ok (.lcmp, 1) := dk_148 (dk_at dksX11_realOfQuartic_12 13 rfl rfl)
theorem dX11_realOfQuartic_297 : decode cX11_realOfQuartic 297 = .ok (.ifCond .ne 5, 3) := dk_154 0 5 (dk_at dksX11_realOfQuartic_12 14 rfl rfl)
theorem dX11_realOfQuartic_300 : decode cX11_realOfQuartic 300 = .ok (.iconst 2, 1) := dk_5 (dk_at dksX11_realOfQuartic_12 17 rfl rfl)
theorem dX11_realOfQuartic_301 : decode cX11_realOfQuartic 301 = .ok (.ireturn, 1) := dk_172 (dk_at dksX11_realOfQuartic_12 18 rfl rfl)
theorem dX11_realOfQuartic_302 : decode cX11_realOfQuartic 302 = .ok (.lload 16, 2) := dk_22 16 (dk_at dksX11_realOfQuartic_12 19 rfl rfl)
theorem dX11_realOfQuartic_304 : decode cX11_realOfQuartic 304 = .ok (.lconst 0, 1) := dk_9 (dk_at dksX11_realOfQuartic_12 21 rfl rfl)
theorem dX11_realOfQuartic_305 : decode cX11_realOfQuartic 305 = .ok (.lcmp, 1) := dk_148 (dk_at dksX11_realOfQuartic_12 22 rfl rfl)
theorem dX11_realOfQuartic_306 : decode cX11_realOfQuartic 306 = .ok (.ifCond .ge 14, 3) := dk_156 0 14 (dk_at dksX11_realOfQuartic_13 0 rfl rfl)
theorem dX11_realOfQuartic_309 : decode cX11_realOfQuartic 309 = .ok (.lload 20, 2) := dk_22 20 (dk_at dksX11_realOfQuartic_13 3 rfl rfl)
theorem dX11_realOfQuartic_311 : decode cX11_realOfQuartic 311 = .ok (.lconst 0, 1) := dk_9 (dk_at dksX11_realOfQuartic_13 5 rfl rfl)
theorem dX11_realOfQuartic_312 : decode cX11_realOfQuartic 312 = .ok (.lcmp, 1) := dk_148 (dk_at dksX11_realOfQuartic_13 6 rfl rfl)
theorem dX11_realOfQuartic_313 : decode cX11_realOfQuartic 313 = .ok (.ifCond .ge 7, 3) := dk_156 0 7 (dk_at dksX11_realOfQuartic_13 7 rfl rfl)
theorem dX11_realOfQuartic_316 : decode cX11_realOfQuartic 316 = .ok (.iconst 3, 1) := dk_6 (dk_at dksX11_realOfQuartic_13 10 rfl rfl)
theorem dX11_realOfQuartic_317 : decode cX11_realOfQuartic 317 = .ok (.goto 4, 3) := dk_167 0 4 (dk_at dksX11_realOfQuartic_13 11 rfl rfl)
theorem dX11_realOfQuartic_320 : decode cX11_realOfQuartic 320 = .ok (.iconst 1, 1) := dk_4 (dk_at dksX11_realOfQuartic_13 14 rfl rfl)
theorem dX11_realOfQuartic_321 : decode cX11_realOfQuartic 321 = .ok (.ireturn, 1) := dk_172 (dk_at dksX11_realOfQuartic_13 15 rfl rfl)
abbrev cX11_stock : ByteArray := prog_18_method_136_code
def yX11_stock : MethodName := ⟨RX11, "stock", "(I)I"⟩
def dkwX11_stock_5 : List UInt8 := [167, 0, 4, 3, 96, 61, 132, 3, 1, 167, 255, 219, 28, 172, 2, 172]
abbrev dktX11_stock_5 : List UInt8 := dkwX11_stock_5 ++ []
def dkwX11_stock_4 : List UInt8 := [46, 162, 0, 33, 42, 16, 40, 29, 182, 0, 241, 28, 42, 16, 40, 182, 1, 64, 153, 0, 7, 4]
abbrev dktX11_stock_4 : List UInt8 := dkwX11_stock_4 ++ dktX11_stock_5
def dkwX11_stock_3 : List UInt8 := [46, 172, 42, 180, 0, 13, 7, 46, 172, 42, 180, 0, 13, 8, 46, 172, 3, 62, 29, 42, 180, 0, 13, 4]
abbrev dktX11_stock_3 : List UInt8 := dkwX11_stock_3 ++ dktX11_stock_4
def dkwX11_stock_2 : List UInt8 := [42, 182, 0, 76, 172, 42, 180, 0, 13, 4, 46, 172, 42, 180, 0, 13, 5, 46, 172, 42, 180, 0, 13, 6]
abbrev dktX11_stock_2 : List UInt8 := dkwX11_stock_2 ++ dktX11_stock_3
def dkwX11_stock_1 : List UInt8 := [170, 0, 0, 0, 0, 0, 0, 128, 0, 0, 0, 0, 0, 0, 0, 6, 0, 0, 0, 44, 0, 0, 0, 49, 0, 0, 0, 56, 0, 0, 0, 63, 0, 0, 0, 70, 0, 0, 0, 77, 0, 0, 0, 84]
abbrev dktX11_stock_1 : List UInt8 := dkwX11_stock_1 ++ dktX11_stock_2
def dkwX11_stock_0 : List UInt8 := [42, 3, 181, 0, 3, 3, 61, 27]
abbrev dktX11_stock_0 : List UInt8 := dkwX11_stock_0 ++ dktX11_stock_1
theorem dksX11_stock_0 : cX11_stock.data.toList.drop 0 = dktX11_stock_0 := by decide +kernel
theorem dksX11_stock_1 : cX11_stock.data.toList.drop 8 = dktX11_stock_1 := dk_seg dksX11_stock_0 8 rfl rfl
theorem dksX11_stock_2 : cX11_stock.data.toList.drop 52 = dktX11_stock_2 := dk_seg dksX11_stock_1 44 rfl rfl
theorem dksX11_stock_3 : cX11_stock.data.toList.drop 76 = dktX11_stock_3 := dk_seg dksX11_stock_2 24 rfl rfl
theorem dksX11_stock_4 : cX11_stock.data.toList.drop 100 = dktX11_stock_4 := dk_seg dksX11_stock_3 24 rfl rfl
theorem dksX11_stock_5 : cX11_stock.data.toList.drop 122 = dktX11_stock_5 := dk_seg dksX11_stock_4 22 rfl rfl
theorem dX11_stock_0 : decode cX11_stock 0 = .ok (.aload_n 0, 1) := dk_42 (dk_at dksX11_stock_0 0 rfl rfl)
theorem dX11_stock_1 : decode cX11_stock 1 = .ok (.iconst 0, 1) := dk_3 (dk_at dksX11_stock_0 1 rfl rfl)
theorem dX11_stock_2 : decode cX11_stock 2 = .ok (.putfield 3, 3) := dk_181 0 3 (dk_at dksX11_stock_0 2 rfl rfl)
theorem dX11_stock_5 : decode cX11_stock 5 = .ok (.iconst 0, 1) := dk_3 (dk_at dksX11_stock_0 5 rfl rfl)
theorem dX11_stock_6 : decode cX11_stock 6 = .ok (.istore_n 2, 1) := dk_61 (dk_at dksX11_stock_0 6 rfl rfl)
theorem dX11_stock_7 : decode cX11_stock 7 = .ok (.iload_n 1, 1) := dk_27 (dk_at dksX11_stock_0 7 rfl rfl)
theorem dX11_stock_8 : decode cX11_stock 8 = .ok (.tableswitch 128 0 6 #[44, 49, 56, 63, 70, 77, 84], 44) := by decide +kernel
theorem dX11_stock_52 : decode cX11_stock 52 = .ok (.aload_n 0, 1) := dk_42 (dk_at dksX11_stock_2 0 rfl rfl)
theorem dX11_stock_53 : decode cX11_stock 53 = .ok (.invokevirtual 76, 3) := dk_182 0 76 (dk_at dksX11_stock_2 1 rfl rfl)
theorem dX11_stock_56 : decode cX11_stock 56 = .ok (.ireturn, 1) := dk_172 (dk_at dksX11_stock_2 4 rfl rfl)
theorem dX11_stock_57 : decode cX11_stock 57 = .ok (.aload_n 0, 1) := dk_42 (dk_at dksX11_stock_2 5 rfl rfl)
theorem dX11_stock_58 : decode cX11_stock 58 = .ok (.getfield 13, 3) := dk_180 0 13 (dk_at dksX11_stock_2 6 rfl rfl)
theorem dX11_stock_61 : decode cX11_stock 61 = .ok (.iconst 1, 1) := dk_4 (dk_at dksX11_stock_2 9 rfl rfl)
theorem dX11_stock_62 : decode cX11_stock 62 = .ok (.iaload, 1) := dk_46 (dk_at dksX11_stock_2 10 rfl rfl)
theorem dX11_stock_63 : decode cX11_stock 63 = .ok (.ireturn, 1) := dk_172 (dk_at dksX11_stock_2 11 rfl rfl)
theorem dX11_stock_64 : decode cX11_stock 64 = .ok (.aload_n 0, 1) := dk_42 (dk_at dksX11_stock_2 12 rfl rfl)
theorem dX11_stock_65 : decode cX11_stock 65 = .ok (.getfield 13, 3) := dk_180 0 13 (dk_at dksX11_stock_2 13 rfl rfl)
theorem dX11_stock_68 : decode cX11_stock 68 = .ok (.iconst 2, 1) := dk_5 (dk_at dksX11_stock_2 16 rfl rfl)
theorem dX11_stock_69 : decode cX11_stock 69 = .ok (.iaload, 1) := dk_46 (dk_at dksX11_stock_2 17 rfl rfl)
theorem dX11_stock_70 : decode cX11_stock 70 = .ok (.ireturn, 1) := dk_172 (dk_at dksX11_stock_2 18 rfl rfl)
theorem dX11_stock_71 : decode cX11_stock 71 = .ok (.aload_n 0, 1) := dk_42 (dk_at dksX11_stock_2 19 rfl rfl)
theorem dX11_stock_72 : decode cX11_stock 72 = .ok (.getfield 13, 3) := dk_180 0 13 (dk_at dksX11_stock_2 20 rfl rfl)
theorem dX11_stock_75 : decode cX11_stock 75 = .ok (.iconst 3, 1) := dk_6 (dk_at dksX11_stock_2 23 rfl rfl)
theorem dX11_stock_76 : decode cX11_stock 76 = .ok (.iaload, 1) := dk_46 (dk_at dksX11_stock_3 0 rfl rfl)
theorem dX11_stock_77 : decode cX11_stock 77 = .ok (.ireturn, 1) := dk_172 (dk_at dksX11_stock_3 1 rfl rfl)
theorem dX11_stock_78 : decode cX11_stock 78 = .ok (.aload_n 0, 1) := dk_42 (dk_at dksX11_stock_3 2 rfl rfl)
theorem dX11_stock_79 : decode cX11_stock 79 = .ok (.getfield 13, 3) := dk_180 0 13 (dk_at dksX11_stock_3 3 rfl rfl)
theorem dX11_stock_82 : decode cX11_stock 82 = .ok (.iconst 4, 1) := dk_7 (dk_at dksX11_stock_3 6 rfl rfl)
theorem dX11_stock_83 : decode cX11_stock 83 = .ok (.iaload, 1) := dk_46 (dk_at dksX11_stock_3 7 rfl rfl)
theorem dX11_stock_84 : decode cX11_stock 84 = .ok (.ireturn, 1) := dk_172 (dk_at dksX11_stock_3 8 rfl rfl)
theorem dX11_stock_85 : decode cX11_stock 85 = .ok (.aload_n 0, 1) := dk_42 (dk_at dksX11_stock_3 9 rfl rfl)
theorem dX11_stock_86 : decode cX11_stock 86 = .ok (.getfield 13, 3) := dk_180 0 13 (dk_at dksX11_stock_3 10 rfl rfl)
theorem dX11_stock_89 : decode cX11_stock 89 = .ok (.iconst 5, 1) := dk_8 (dk_at dksX11_stock_3 13 rfl rfl)
theorem dX11_stock_90 : decode cX11_stock 90 = .ok (.iaload, 1) := dk_46 (dk_at dksX11_stock_3 14 rfl rfl)
theorem dX11_stock_91 : decode cX11_stock 91 = .ok (.ireturn, 1) := dk_172 (dk_at dksX11_stock_3 15 rfl rfl)
theorem dX11_stock_92 : decode cX11_stock 92 = .ok (.iconst 0, 1) := dk_3 (dk_at dksX11_stock_3 16 rfl rfl)
theorem dX11_stock_93 : decode cX11_stock 93 = .ok (.istore_n 3, 1) := dk_62 (dk_at dksX11_stock_3 17 rfl rfl)
theorem dX11_stock_94 : decode cX11_stock 94 = .ok (.iload_n 3, 1) := dk_29 (dk_at dksX11_stock_3 18 rfl rfl)
theorem dX11_stock_95 : decode cX11_stock 95 = .ok (.aload_n 0, 1) := dk_42 (dk_at dksX11_stock_3 19 rfl rfl)
theorem dX11_stock_96 : decode cX11_stock 96 = .ok (.getfield 13, 3) := dk_180 0 13 (dk_at dksX11_stock_3 20 rfl rfl)
theorem dX11_stock_99 : decode cX11_stock 99 = .ok (.iconst 1, 1) := dk_4 (dk_at dksX11_stock_3 23 rfl rfl)
theorem dX11_stock_100 : decode cX11_stock 100 = .ok (.iaload, 1) := dk_46 (dk_at dksX11_stock_4 0 rfl rfl)
theorem dX11_stock_101 : decode cX11_stock 101 = .ok (.if_icmp .ge 33, 3) := dk_162 0 33 (dk_at dksX11_stock_4 1 rfl rfl)
theorem dX11_stock_104 : decode cX11_stock 104 = .ok (.aload_n 0, 1) := dk_42 (dk_at dksX11_stock_4 4 rfl rfl)
theorem dX11_stock_105 : decode cX11_stock 105 = .ok (.bipush 40, 2) := dk_16 40 (dk_at dksX11_stock_4 5 rfl rfl)
theorem dX11_stock_107 : decode cX11_stock 107 = .ok (.iload_n 3, 1) := dk_29 (dk_at dksX11_stock_4 7 rfl rfl)
theorem dX11_stock_108 : decode cX11_stock 108 = .ok (.invokevirtual 241, 3) := dk_182 0 241 (dk_at dksX11_stock_4 8 rfl rfl)
theorem dX11_stock_111 : decode cX11_stock 111 = .ok (.iload_n 2, 1) := dk_28 (dk_at dksX11_stock_4 11 rfl rfl)
theorem dX11_stock_112 : decode cX11_stock 112 = .ok (.aload_n 0, 1) := dk_42 (dk_at dksX11_stock_4 12 rfl rfl)
theorem dX11_stock_113 : decode cX11_stock 113 = .ok (.bipush 40, 2) := dk_16 40 (dk_at dksX11_stock_4 13 rfl rfl)
theorem dX11_stock_115 : decode cX11_stock 115 = .ok (.invokevirtual 320, 3) := dk_182 1 64 (dk_at dksX11_stock_4 15 rfl rfl)
theorem dX11_stock_118 : decode cX11_stock 118 = .ok (.ifCond .eq 7, 3) := dk_153 0 7 (dk_at dksX11_stock_4 18 rfl rfl)
theorem dX11_stock_121 : decode cX11_stock 121 = .ok (.iconst 1, 1) := dk_4 (dk_at dksX11_stock_4 21 rfl rfl)
theorem dX11_stock_122 : decode cX11_stock 122 = .ok (.goto 4, 3) := dk_167 0 4 (dk_at dksX11_stock_5 0 rfl rfl)
theorem dX11_stock_125 : decode cX11_stock 125 = .ok (.iconst 0, 1) := dk_3 (dk_at dksX11_stock_5 3 rfl rfl)
theorem dX11_stock_126 : decode cX11_stock 126 = .ok (.iadd, 1) := dk_96 (dk_at dksX11_stock_5 4 rfl rfl)
theorem dX11_stock_127 : decode cX11_stock 127 = .ok (.istore_n 2, 1) := dk_61 (dk_at dksX11_stock_5 5 rfl rfl)
theorem dX11_stock_128 : decode cX11_stock 128 = .ok (.iinc 3 1, 3) := dk_132 3 1 (dk_at dksX11_stock_5 6 rfl rfl)
theorem dX11_stock_131 : decode cX11_stock 131 = .ok (.goto (-37), 3) := dk_167 255 219 (dk_at dksX11_stock_5 9 rfl rfl)
theorem dX11_stock_134 : decode cX11_stock 134 = .ok (.iload_n 2, 1) := dk_28 (dk_at dksX11_stock_5 12 rfl rfl)
theorem dX11_stock_135 : decode cX11_stock 135 = .ok (.ireturn, 1) := dk_172 (dk_at dksX11_stock_5 13 rfl rfl)
theorem dX11_stock_136 : decode cX11_stock 136 = .ok (.iconst (-1), 1) := dk_2 (dk_at dksX11_stock_5 14 rfl rfl)
theorem dX11_stock_137 : decode cX11_stock 137 = .ok (.ireturn, 1) := dk_172 (dk_at dksX11_stock_5 15 rfl rfl)
theorem q133 : (Jvm.Cond.initialized "LetterFormsModel") ∈ lw_all := lw_g (lw_at lw_m1 14 rfl) rfl
theorem q1304 : (Jvm.Cond.instanceMethod ({ cls := "LetterFormsModel", name := "thrown", desc := "()I" } : Jvm.MethodName)) ∈ lw_all := lw_g (lw_at lw_m5 225 rfl) rfl
theorem q1305 : (Jvm.Cond.selects "LetterFormsModel" ({ cls := "LetterFormsModel", name := "thrown", desc := "()I" } : Jvm.MethodName) ({ cls := "LetterFormsModel", name := "thrown", desc := "()I" } : Jvm.MethodName)) ∈ lw_all := lw_g (lw_at lw_m5 226 rfl) rfl
theorem q1306 : (Jvm.Cond.code ({ cls := "LetterFormsModel", name := "thrown", desc := "()I" } : Jvm.MethodName) prog_18_method_1_code (1 : Nat) (Option.some Jvm.ClassFile.FieldType.int)) ∈ lw_all := lw_g (lw_at lw_m5 227 rfl) rfl
theorem q1308 : (Jvm.Cond.instantiable "LetterFormsModel" (38 : Nat)) ∈ lw_all := lw_g (lw_at lw_m5 229 rfl) rfl
theorem q1310 : (Jvm.Cond.instanceMethod ({ cls := "LetterFormsModel", name := "<init>", desc := "()V" } : Jvm.MethodName)) ∈ lw_all := lw_g (lw_at lw_m5 231 rfl) rfl
theorem q1311 : (Jvm.Cond.code ({ cls := "LetterFormsModel", name := "<init>", desc := "()V" } : Jvm.MethodName) prog_18_method_4_code (1 : Nat) (Option.none : Option Jvm.ClassFile.FieldType)) ∈ lw_all := lw_g (lw_at lw_m5 232 rfl) rfl
theorem q1312 : (Jvm.Cond.methodLink "LetterFormsModel" (7 : Nat) ({ cls := "java/lang/Object", name := "<init>", desc := "()V" } : Jvm.MethodName)) ∈ lw_all := lw_g (lw_at lw_m5 233 rfl) rfl
theorem q1313 : (Jvm.Cond.fieldLink "LetterFormsModel" (3 : Nat) "LetterFormsModel" "thrown" "I") ∈ lw_all := lw_g (lw_at lw_m5 234 rfl) rfl
theorem q1314 : (Jvm.Cond.fieldLink "LetterFormsModel" (13 : Nat) "LetterFormsModel" "world" "[I") ∈ lw_all := lw_g (lw_at lw_m5 235 rfl) rfl
theorem q1315 : (Jvm.Cond.fieldLink "LetterFormsModel" (17 : Nat) "LetterFormsModel" "image" "[I") ∈ lw_all := lw_g (lw_at lw_m5 236 rfl) rfl
theorem q1316 : (Jvm.Cond.fieldLink "LetterFormsModel" (64 : Nat) "LetterFormsModel" "hasImage" "Z") ∈ lw_all := lw_g (lw_at lw_m5 237 rfl) rfl
theorem q1317 : (Jvm.Cond.fieldLink "LetterFormsModel" (20 : Nat) "LetterFormsModel" "deg" "[I") ∈ lw_all := lw_g (lw_at lw_m5 238 rfl) rfl
theorem q1318 : (Jvm.Cond.fieldLink "LetterFormsModel" (23 : Nat) "LetterFormsModel" "num" "[I") ∈ lw_all := lw_g (lw_at lw_m5 239 rfl) rfl
theorem q1319 : (Jvm.Cond.fieldLink "LetterFormsModel" (131 : Nat) "LetterFormsModel" "ta" "I") ∈ lw_all := lw_g (lw_at lw_m6 0 rfl) rfl
theorem q1320 : (Jvm.Cond.fieldLink "LetterFormsModel" (134 : Nat) "LetterFormsModel" "tb" "I") ∈ lw_all := lw_g (lw_at lw_m6 1 rfl) rfl
theorem q1321 : (Jvm.Cond.fieldLink "LetterFormsModel" (137 : Nat) "LetterFormsModel" "tc" "I") ∈ lw_all := lw_g (lw_at lw_m6 2 rfl) rfl
theorem q1322 : (Jvm.Cond.fieldLink "LetterFormsModel" (140 : Nat) "LetterFormsModel" "td" "I") ∈ lw_all := lw_g (lw_at lw_m6 3 rfl) rfl
theorem q1323 : (Jvm.Cond.fieldLink "LetterFormsModel" (26 : Nat) "LetterFormsModel" "tape" "[B") ∈ lw_all := lw_g (lw_at lw_m6 4 rfl) rfl
theorem q1324 : (Jvm.Cond.fieldLink "LetterFormsModel" (155 : Nat) "LetterFormsModel" "taped" "I") ∈ lw_all := lw_g (lw_at lw_m6 5 rfl) rfl
theorem q1325 : (Jvm.Cond.fieldLink "LetterFormsModel" (158 : Nat) "LetterFormsModel" "point" "I") ∈ lw_all := lw_g (lw_at lw_m6 6 rfl) rfl
theorem q1326 : (Jvm.Cond.fieldLink "LetterFormsModel" (161 : Nat) "LetterFormsModel" "end" "I") ∈ lw_all := lw_g (lw_at lw_m6 7 rfl) rfl
theorem q1327 : (Jvm.Cond.fieldLink "LetterFormsModel" (168 : Nat) "LetterFormsModel" "begin" "I") ∈ lw_all := lw_g (lw_at lw_m6 8 rfl) rfl
theorem q1328 : (Jvm.Cond.fieldLink "LetterFormsModel" (180 : Nat) "LetterFormsModel" "deep" "I") ∈ lw_all := lw_g (lw_at lw_m6 9 rfl) rfl
theorem q1329 : (Jvm.Cond.fieldLink "LetterFormsModel" (174 : Nat) "LetterFormsModel" "counted" "I") ∈ lw_all := lw_g (lw_at lw_m6 10 rfl) rfl
theorem q1330 : (Jvm.Cond.fieldLink "LetterFormsModel" (30 : Nat) "LetterFormsModel" "faultAt" "I") ∈ lw_all := lw_g (lw_at lw_m6 11 rfl) rfl
theorem q1331 : (Jvm.Cond.fieldLink "LetterFormsModel" (33 : Nat) "LetterFormsModel" "five" "[I") ∈ lw_all := lw_g (lw_at lw_m6 12 rfl) rfl
theorem q1332 : (Jvm.Cond.fieldLink "LetterFormsModel" (177 : Nat) "LetterFormsModel" "steps" "I") ∈ lw_all := lw_g (lw_at lw_m6 13 rfl) rfl
theorem q1333 : (Jvm.Cond.fieldLink "LetterFormsModel" (36 : Nat) "LetterFormsModel" "ranks" "[I") ∈ lw_all := lw_g (lw_at lw_m6 14 rfl) rfl
theorem q1334 : (Jvm.Cond.fieldLink "LetterFormsModel" (39 : Nat) "LetterFormsModel" "ways" "[J") ∈ lw_all := lw_g (lw_at lw_m6 15 rfl) rfl
theorem q1335 : (Jvm.Cond.fieldLink "LetterFormsModel" (43 : Nat) "LetterFormsModel" "rows" "[I") ∈ lw_all := lw_g (lw_at lw_m6 16 rfl) rfl
theorem q1336 : (Jvm.Cond.fieldLink "LetterFormsModel" (46 : Nat) "LetterFormsModel" "drawn" "[I") ∈ lw_all := lw_g (lw_at lw_m6 17 rfl) rfl
theorem q1337 : (Jvm.Cond.fieldLink "LetterFormsModel" (294 : Nat) "LetterFormsModel" "longs" "I") ∈ lw_all := lw_g (lw_at lw_m6 18 rfl) rfl
theorem q1338 : (Jvm.Cond.fieldLink "LetterFormsModel" (49 : Nat) "LetterFormsModel" "valued" "[I") ∈ lw_all := lw_g (lw_at lw_m6 19 rfl) rfl
theorem q1339 : (Jvm.Cond.fieldLink "LetterFormsModel" (52 : Nat) "LetterFormsModel" "powered" "[I") ∈ lw_all := lw_g (lw_at lw_m6 20 rfl) rfl
theorem q1340 : (Jvm.Cond.fieldLink "LetterFormsModel" (55 : Nat) "LetterFormsModel" "spot" "[I") ∈ lw_all := lw_g (lw_at lw_m6 21 rfl) rfl
theorem q1341 : (Jvm.Cond.fieldLink "LetterFormsModel" (58 : Nat) "LetterFormsModel" "factor" "[I") ∈ lw_all := lw_g (lw_at lw_m6 22 rfl) rfl
theorem q1342 : (Jvm.Cond.fieldLink "LetterFormsModel" (357 : Nat) "LetterFormsModel" "powersMany" "I") ∈ lw_all := lw_g (lw_at lw_m6 23 rfl) rfl
theorem q1343 : (Jvm.Cond.fieldLink "LetterFormsModel" (388 : Nat) "LetterFormsModel" "wa" "J") ∈ lw_all := lw_g (lw_at lw_m6 24 rfl) rfl
theorem q1344 : (Jvm.Cond.fieldLink "LetterFormsModel" (385 : Nat) "LetterFormsModel" "wb" "J") ∈ lw_all := lw_g (lw_at lw_m6 25 rfl) rfl
theorem q1345 : (Jvm.Cond.fieldLink "LetterFormsModel" (391 : Nat) "LetterFormsModel" "wc" "J") ∈ lw_all := lw_g (lw_at lw_m6 26 rfl) rfl
theorem q1346 : (Jvm.Cond.fieldLink "LetterFormsModel" (381 : Nat) "LetterFormsModel" "changes" "J") ∈ lw_all := lw_g (lw_at lw_m6 27 rfl) rfl
theorem q1347 : (Jvm.Cond.fieldLink "LetterFormsModel" (61 : Nat) "LetterFormsModel" "whole" "[J") ∈ lw_all := lw_g (lw_at lw_m6 28 rfl) rfl
theorem q1348 : (Jvm.Cond.fieldLink "LetterFormsModel" (431 : Nat) "LetterFormsModel" "ra" "I") ∈ lw_all := lw_g (lw_at lw_m6 29 rfl) rfl
theorem q1349 : (Jvm.Cond.fieldLink "LetterFormsModel" (434 : Nat) "LetterFormsModel" "rb" "I") ∈ lw_all := lw_g (lw_at lw_m6 30 rfl) rfl
theorem q1350 : (Jvm.Cond.fieldLink "LetterFormsModel" (437 : Nat) "LetterFormsModel" "rc" "I") ∈ lw_all := lw_g (lw_at lw_m6 31 rfl) rfl
theorem q1351 : (Jvm.Cond.lays "LetterFormsModel" "LetterFormsModel" "thrown" "I") ∈ lw_all := lw_g (lw_at lw_m6 32 rfl) rfl
theorem q1352 : (Jvm.Cond.soleField "LetterFormsModel" "thrown") ∈ lw_all := lw_g (lw_at lw_m6 33 rfl) rfl
theorem q1353 : (Jvm.Cond.laysFinal "LetterFormsModel" "LetterFormsModel" "world" "[I") ∈ lw_all := lw_g (lw_at lw_m6 34 rfl) rfl
theorem q1354 : (Jvm.Cond.soleField "LetterFormsModel" "world") ∈ lw_all := lw_g (lw_at lw_m6 35 rfl) rfl
theorem q1355 : (Jvm.Cond.laysFinal "LetterFormsModel" "LetterFormsModel" "image" "[I") ∈ lw_all := lw_g (lw_at lw_m6 36 rfl) rfl
theorem q1356 : (Jvm.Cond.soleField "LetterFormsModel" "image") ∈ lw_all := lw_g (lw_at lw_m6 37 rfl) rfl
theorem q1357 : (Jvm.Cond.lays "LetterFormsModel" "LetterFormsModel" "hasImage" "Z") ∈ lw_all := lw_g (lw_at lw_m6 38 rfl) rfl
theorem q1358 : (Jvm.Cond.soleField "LetterFormsModel" "hasImage") ∈ lw_all := lw_g (lw_at lw_m6 39 rfl) rfl
theorem q1359 : (Jvm.Cond.laysFinal "LetterFormsModel" "LetterFormsModel" "deg" "[I") ∈ lw_all := lw_g (lw_at lw_m6 40 rfl) rfl
theorem q1360 : (Jvm.Cond.soleField "LetterFormsModel" "deg") ∈ lw_all := lw_g (lw_at lw_m6 41 rfl) rfl
theorem q1361 : (Jvm.Cond.laysFinal "LetterFormsModel" "LetterFormsModel" "num" "[I") ∈ lw_all := lw_g (lw_at lw_m6 42 rfl) rfl
theorem q1362 : (Jvm.Cond.soleField "LetterFormsModel" "num") ∈ lw_all := lw_g (lw_at lw_m6 43 rfl) rfl
theorem q1363 : (Jvm.Cond.lays "LetterFormsModel" "LetterFormsModel" "ta" "I") ∈ lw_all := lw_g (lw_at lw_m6 44 rfl) rfl
theorem q1364 : (Jvm.Cond.soleField "LetterFormsModel" "ta") ∈ lw_all := lw_g (lw_at lw_m6 45 rfl) rfl
theorem q1365 : (Jvm.Cond.lays "LetterFormsModel" "LetterFormsModel" "tb" "I") ∈ lw_all := lw_g (lw_at lw_m6 46 rfl) rfl
theorem q1366 : (Jvm.Cond.soleField "LetterFormsModel" "tb") ∈ lw_all := lw_g (lw_at lw_m6 47 rfl) rfl
theorem q1367 : (Jvm.Cond.lays "LetterFormsModel" "LetterFormsModel" "tc" "I") ∈ lw_all := lw_g (lw_at lw_m6 48 rfl) rfl
theorem q1368 : (Jvm.Cond.soleField "LetterFormsModel" "tc") ∈ lw_all := lw_g (lw_at lw_m6 49 rfl) rfl
theorem q1369 : (Jvm.Cond.lays "LetterFormsModel" "LetterFormsModel" "td" "I") ∈ lw_all := lw_g (lw_at lw_m6 50 rfl) rfl
theorem q1370 : (Jvm.Cond.soleField "LetterFormsModel" "td") ∈ lw_all := lw_g (lw_at lw_m6 51 rfl) rfl
theorem q1371 : (Jvm.Cond.laysFinal "LetterFormsModel" "LetterFormsModel" "tape" "[B") ∈ lw_all := lw_g (lw_at lw_m6 52 rfl) rfl
theorem q1372 : (Jvm.Cond.soleField "LetterFormsModel" "tape") ∈ lw_all := lw_g (lw_at lw_m6 53 rfl) rfl
theorem q1373 : (Jvm.Cond.lays "LetterFormsModel" "LetterFormsModel" "taped" "I") ∈ lw_all := lw_g (lw_at lw_m6 54 rfl) rfl
theorem q1374 : (Jvm.Cond.soleField "LetterFormsModel" "taped") ∈ lw_all := lw_g (lw_at lw_m6 55 rfl) rfl
theorem q1375 : (Jvm.Cond.lays "LetterFormsModel" "LetterFormsModel" "point" "I") ∈ lw_all := lw_g (lw_at lw_m6 56 rfl) rfl
theorem q1376 : (Jvm.Cond.soleField "LetterFormsModel" "point") ∈ lw_all := lw_g (lw_at lw_m6 57 rfl) rfl
theorem q1377 : (Jvm.Cond.lays "LetterFormsModel" "LetterFormsModel" "end" "I") ∈ lw_all := lw_g (lw_at lw_m6 58 rfl) rfl
theorem q1378 : (Jvm.Cond.soleField "LetterFormsModel" "end") ∈ lw_all := lw_g (lw_at lw_m6 59 rfl) rfl
theorem q1379 : (Jvm.Cond.lays "LetterFormsModel" "LetterFormsModel" "begin" "I") ∈ lw_all := lw_g (lw_at lw_m6 60 rfl) rfl
theorem q1380 : (Jvm.Cond.soleField "LetterFormsModel" "begin") ∈ lw_all := lw_g (lw_at lw_m6 61 rfl) rfl
theorem q1381 : (Jvm.Cond.lays "LetterFormsModel" "LetterFormsModel" "deep" "I") ∈ lw_all := lw_g (lw_at lw_m6 62 rfl) rfl
theorem q1382 : (Jvm.Cond.soleField "LetterFormsModel" "deep") ∈ lw_all := lw_g (lw_at lw_m6 63 rfl) rfl
theorem q1383 : (Jvm.Cond.lays "LetterFormsModel" "LetterFormsModel" "counted" "I") ∈ lw_all := lw_g (lw_at lw_m6 64 rfl) rfl
theorem q1384 : (Jvm.Cond.soleField "LetterFormsModel" "counted") ∈ lw_all := lw_g (lw_at lw_m6 65 rfl) rfl
theorem q1385 : (Jvm.Cond.lays "LetterFormsModel" "LetterFormsModel" "faultAt" "I") ∈ lw_all := lw_g (lw_at lw_m6 66 rfl) rfl
theorem q1386 : (Jvm.Cond.soleField "LetterFormsModel" "faultAt") ∈ lw_all := lw_g (lw_at lw_m6 67 rfl) rfl
theorem q1387 : (Jvm.Cond.laysFinal "LetterFormsModel" "LetterFormsModel" "five" "[I") ∈ lw_all := lw_g (lw_at lw_m6 68 rfl) rfl
theorem q1388 : (Jvm.Cond.soleField "LetterFormsModel" "five") ∈ lw_all := lw_g (lw_at lw_m6 69 rfl) rfl
theorem q1389 : (Jvm.Cond.lays "LetterFormsModel" "LetterFormsModel" "steps" "I") ∈ lw_all := lw_g (lw_at lw_m6 70 rfl) rfl
theorem q1390 : (Jvm.Cond.soleField "LetterFormsModel" "steps") ∈ lw_all := lw_g (lw_at lw_m6 71 rfl) rfl
theorem q1391 : (Jvm.Cond.laysFinal "LetterFormsModel" "LetterFormsModel" "ranks" "[I") ∈ lw_all := lw_g (lw_at lw_m6 72 rfl) rfl
theorem q1392 : (Jvm.Cond.soleField "LetterFormsModel" "ranks") ∈ lw_all := lw_g (lw_at lw_m6 73 rfl) rfl
theorem q1393 : (Jvm.Cond.laysFinal "LetterFormsModel" "LetterFormsModel" "ways" "[J") ∈ lw_all := lw_g (lw_at lw_m6 74 rfl) rfl
theorem q1394 : (Jvm.Cond.soleField "LetterFormsModel" "ways") ∈ lw_all := lw_g (lw_at lw_m6 75 rfl) rfl
theorem q1395 : (Jvm.Cond.laysFinal "LetterFormsModel" "LetterFormsModel" "rows" "[I") ∈ lw_all := lw_g (lw_at lw_m6 76 rfl) rfl
theorem q1396 : (Jvm.Cond.soleField "LetterFormsModel" "rows") ∈ lw_all := lw_g (lw_at lw_m6 77 rfl) rfl
theorem q1397 : (Jvm.Cond.laysFinal "LetterFormsModel" "LetterFormsModel" "drawn" "[I") ∈ lw_all := lw_g (lw_at lw_m6 78 rfl) rfl
theorem q1398 : (Jvm.Cond.soleField "LetterFormsModel" "drawn") ∈ lw_all := lw_g (lw_at lw_m6 79 rfl) rfl
theorem q1399 : (Jvm.Cond.lays "LetterFormsModel" "LetterFormsModel" "longs" "I") ∈ lw_all := lw_g (lw_at lw_m6 80 rfl) rfl
theorem q1400 : (Jvm.Cond.soleField "LetterFormsModel" "longs") ∈ lw_all := lw_g (lw_at lw_m6 81 rfl) rfl
theorem q1401 : (Jvm.Cond.laysFinal "LetterFormsModel" "LetterFormsModel" "valued" "[I") ∈ lw_all := lw_g (lw_at lw_m6 82 rfl) rfl
theorem q1402 : (Jvm.Cond.soleField "LetterFormsModel" "valued") ∈ lw_all := lw_g (lw_at lw_m6 83 rfl) rfl
theorem q1403 : (Jvm.Cond.laysFinal "LetterFormsModel" "LetterFormsModel" "powered" "[I") ∈ lw_all := lw_g (lw_at lw_m6 84 rfl) rfl
theorem q1404 : (Jvm.Cond.soleField "LetterFormsModel" "powered") ∈ lw_all := lw_g (lw_at lw_m6 85 rfl) rfl
theorem q1405 : (Jvm.Cond.laysFinal "LetterFormsModel" "LetterFormsModel" "spot" "[I") ∈ lw_all := lw_g (lw_at lw_m6 86 rfl) rfl
theorem q1406 : (Jvm.Cond.soleField "LetterFormsModel" "spot") ∈ lw_all := lw_g (lw_at lw_m6 87 rfl) rfl
theorem q1407 : (Jvm.Cond.laysFinal "LetterFormsModel" "LetterFormsModel" "factor" "[I") ∈ lw_all := lw_g (lw_at lw_m6 88 rfl) rfl
theorem q1408 : (Jvm.Cond.soleField "LetterFormsModel" "factor") ∈ lw_all := lw_g (lw_at lw_m6 89 rfl) rfl
theorem q1409 : (Jvm.Cond.lays "LetterFormsModel" "LetterFormsModel" "powersMany" "I") ∈ lw_all := lw_g (lw_at lw_m6 90 rfl) rfl
theorem q1410 : (Jvm.Cond.soleField "LetterFormsModel" "powersMany") ∈ lw_all := lw_g (lw_at lw_m6 91 rfl) rfl
theorem q1411 : (Jvm.Cond.lays "LetterFormsModel" "LetterFormsModel" "wa" "J") ∈ lw_all := lw_g (lw_at lw_m6 92 rfl) rfl
theorem q1412 : (Jvm.Cond.soleField "LetterFormsModel" "wa") ∈ lw_all := lw_g (lw_at lw_m6 93 rfl) rfl
theorem q1413 : (Jvm.Cond.lays "LetterFormsModel" "LetterFormsModel" "wb" "J") ∈ lw_all := lw_g (lw_at lw_m6 94 rfl) rfl
theorem q1414 : (Jvm.Cond.soleField "LetterFormsModel" "wb") ∈ lw_all := lw_g (lw_at lw_m6 95 rfl) rfl
theorem q1415 : (Jvm.Cond.lays "LetterFormsModel" "LetterFormsModel" "wc" "J") ∈ lw_all := lw_g (lw_at lw_m6 96 rfl) rfl
theorem q1416 : (Jvm.Cond.soleField "LetterFormsModel" "wc") ∈ lw_all := lw_g (lw_at lw_m6 97 rfl) rfl
theorem q1417 : (Jvm.Cond.lays "LetterFormsModel" "LetterFormsModel" "changes" "J") ∈ lw_all := lw_g (lw_at lw_m6 98 rfl) rfl
theorem q1418 : (Jvm.Cond.soleField "LetterFormsModel" "changes") ∈ lw_all := lw_g (lw_at lw_m6 99 rfl) rfl
theorem q1419 : (Jvm.Cond.laysFinal "LetterFormsModel" "LetterFormsModel" "whole" "[J") ∈ lw_all := lw_g (lw_at lw_m6 100 rfl) rfl
theorem q1420 : (Jvm.Cond.soleField "LetterFormsModel" "whole") ∈ lw_all := lw_g (lw_at lw_m6 101 rfl) rfl
theorem q1421 : (Jvm.Cond.lays "LetterFormsModel" "LetterFormsModel" "ra" "I") ∈ lw_all := lw_g (lw_at lw_m6 102 rfl) rfl
theorem q1422 : (Jvm.Cond.soleField "LetterFormsModel" "ra") ∈ lw_all := lw_g (lw_at lw_m6 103 rfl) rfl
theorem q1423 : (Jvm.Cond.lays "LetterFormsModel" "LetterFormsModel" "rb" "I") ∈ lw_all := lw_g (lw_at lw_m6 104 rfl) rfl
theorem q1424 : (Jvm.Cond.soleField "LetterFormsModel" "rb") ∈ lw_all := lw_g (lw_at lw_m6 105 rfl) rfl
theorem q1425 : (Jvm.Cond.lays "LetterFormsModel" "LetterFormsModel" "rc" "I") ∈ lw_all := lw_g (lw_at lw_m6 106 rfl) rfl
theorem q1426 : (Jvm.Cond.soleField "LetterFormsModel" "rc") ∈ lw_all := lw_g (lw_at lw_m6 107 rfl) rfl
theorem q1427 : (Jvm.Cond.superclass "LetterFormsModel" "java/lang/Object") ∈ lw_all := lw_g (lw_at lw_m6 108 rfl) rfl
theorem q1429 : (Jvm.Cond.instanceMethod ({ cls := "LetterFormsModel", name := "image", desc := "()V" } : Jvm.MethodName)) ∈ lw_all := lw_g (lw_at lw_m6 110 rfl) rfl
theorem q1430 : (Jvm.Cond.selects "LetterFormsModel" ({ cls := "LetterFormsModel", name := "image", desc := "()V" } : Jvm.MethodName) ({ cls := "LetterFormsModel", name := "image", desc := "()V" } : Jvm.MethodName)) ∈ lw_all := lw_g (lw_at lw_m6 111 rfl) rfl
theorem q1431 : (Jvm.Cond.code ({ cls := "LetterFormsModel", name := "image", desc := "()V" } : Jvm.MethodName) prog_18_method_5_code (2 : Nat) (Option.none : Option Jvm.ClassFile.FieldType)) ∈ lw_all := lw_g (lw_at lw_m6 112 rfl) rfl
theorem q1433 : (Jvm.Cond.instanceMethod ({ cls := "LetterFormsModel", name := "back", desc := "()Z" } : Jvm.MethodName)) ∈ lw_all := lw_g (lw_at lw_m6 114 rfl) rfl
theorem q1434 : (Jvm.Cond.selects "LetterFormsModel" ({ cls := "LetterFormsModel", name := "back", desc := "()Z" } : Jvm.MethodName) ({ cls := "LetterFormsModel", name := "back", desc := "()Z" } : Jvm.MethodName)) ∈ lw_all := lw_g (lw_at lw_m6 115 rfl) rfl
theorem q1435 : (Jvm.Cond.code ({ cls := "LetterFormsModel", name := "back", desc := "()Z" } : Jvm.MethodName) prog_18_method_6_code (2 : Nat) (Option.some Jvm.ClassFile.FieldType.boolean)) ∈ lw_all := lw_g (lw_at lw_m6 116 rfl) rfl
theorem q1437 : (Jvm.Cond.instanceMethod ({ cls := "LetterFormsModel", name := "feed", desc := "(IIIII)I" } : Jvm.MethodName)) ∈ lw_all := lw_g (lw_at lw_m6 118 rfl) rfl
theorem q1438 : (Jvm.Cond.selects "LetterFormsModel" ({ cls := "LetterFormsModel", name := "feed", desc := "(IIIII)I" } : Jvm.MethodName) ({ cls := "LetterFormsModel", name := "feed", desc := "(IIIII)I" } : Jvm.MethodName)) ∈ lw_all := lw_g (lw_at lw_m6 119 rfl) rfl
theorem q1439 : (Jvm.Cond.code ({ cls := "LetterFormsModel", name := "feed", desc := "(IIIII)I" } : Jvm.MethodName) prog_18_method_39_code (7 : Nat) (Option.some Jvm.ClassFile.FieldType.int)) ∈ lw_all := lw_g (lw_at lw_m6 120 rfl) rfl
theorem q1441 : (Jvm.Cond.instanceMethod ({ cls := "LetterFormsModel", name := "end", desc := "(I)Z" } : Jvm.MethodName)) ∈ lw_all := lw_g (lw_at lw_m6 122 rfl) rfl
theorem q1442 : (Jvm.Cond.selects "LetterFormsModel" ({ cls := "LetterFormsModel", name := "end", desc := "(I)Z" } : Jvm.MethodName) ({ cls := "LetterFormsModel", name := "end", desc := "(I)Z" } : Jvm.MethodName)) ∈ lw_all := lw_g (lw_at lw_m6 123 rfl) rfl
theorem q1443 : (Jvm.Cond.code ({ cls := "LetterFormsModel", name := "end", desc := "(I)Z" } : Jvm.MethodName) prog_18_method_40_code (2 : Nat) (Option.some Jvm.ClassFile.FieldType.boolean)) ∈ lw_all := lw_g (lw_at lw_m6 124 rfl) rfl
theorem q1445 : (Jvm.Cond.instanceMethod ({ cls := "LetterFormsModel", name := "fault", desc := "()I" } : Jvm.MethodName)) ∈ lw_all := lw_g (lw_at lw_m6 126 rfl) rfl
theorem q1446 : (Jvm.Cond.selects "LetterFormsModel" ({ cls := "LetterFormsModel", name := "fault", desc := "()I" } : Jvm.MethodName) ({ cls := "LetterFormsModel", name := "fault", desc := "()I" } : Jvm.MethodName)) ∈ lw_all := lw_g (lw_at lw_m6 127 rfl) rfl
theorem q1447 : (Jvm.Cond.code ({ cls := "LetterFormsModel", name := "fault", desc := "()I" } : Jvm.MethodName) prog_18_method_46_code (1 : Nat) (Option.some Jvm.ClassFile.FieldType.int)) ∈ lw_all := lw_g (lw_at lw_m6 128 rfl) rfl
theorem q1449 : (Jvm.Cond.instanceMethod ({ cls := "LetterFormsModel", name := "signs", desc := "()I" } : Jvm.MethodName)) ∈ lw_all := lw_g (lw_at lw_m6 130 rfl) rfl
theorem q1450 : (Jvm.Cond.selects "LetterFormsModel" ({ cls := "LetterFormsModel", name := "signs", desc := "()I" } : Jvm.MethodName) ({ cls := "LetterFormsModel", name := "signs", desc := "()I" } : Jvm.MethodName)) ∈ lw_all := lw_g (lw_at lw_m6 131 rfl) rfl
theorem q1451 : (Jvm.Cond.code ({ cls := "LetterFormsModel", name := "signs", desc := "()I" } : Jvm.MethodName) prog_18_method_54_code (4 : Nat) (Option.some Jvm.ClassFile.FieldType.int)) ∈ lw_all := lw_g (lw_at lw_m6 132 rfl) rfl
theorem q1452 : (Jvm.Cond.methodLink "LetterFormsModel" (212 : Nat) ({ cls := "LetterFormsModel", name := "uses", desc := "()V" } : Jvm.MethodName)) ∈ lw_all := lw_g (lw_at lw_m6 133 rfl) rfl
theorem q1453 : (Jvm.Cond.privateMethod ({ cls := "LetterFormsModel", name := "uses", desc := "()V" } : Jvm.MethodName)) ∈ lw_tbl := lw_at lw_m6 134 rfl
theorem q1454 : (Jvm.Cond.instanceMethod ({ cls := "LetterFormsModel", name := "uses", desc := "()V" } : Jvm.MethodName)) ∈ lw_all := lw_g (lw_at lw_m6 135 rfl) rfl
theorem q1455 : (Jvm.Cond.code ({ cls := "LetterFormsModel", name := "uses", desc := "()V" } : Jvm.MethodName) prog_18_method_53_code (1 : Nat) (Option.none : Option Jvm.ClassFile.FieldType)) ∈ lw_all := lw_g (lw_at lw_m6 136 rfl) rfl
theorem q1456 : (Jvm.Cond.methodLink "LetterFormsModel" (187 : Nat) ({ cls := "LetterFormsModel", name := "readSum", desc := "()Z" } : Jvm.MethodName)) ∈ lw_all := lw_g (lw_at lw_m6 137 rfl) rfl
theorem q1457 : (Jvm.Cond.privateMethod ({ cls := "LetterFormsModel", name := "readSum", desc := "()Z" } : Jvm.MethodName)) ∈ lw_tbl := lw_at lw_m6 138 rfl
theorem q1458 : (Jvm.Cond.instanceMethod ({ cls := "LetterFormsModel", name := "readSum", desc := "()Z" } : Jvm.MethodName)) ∈ lw_all := lw_g (lw_at lw_m6 139 rfl) rfl
theorem q1459 : (Jvm.Cond.code ({ cls := "LetterFormsModel", name := "readSum", desc := "()Z" } : Jvm.MethodName) prog_18_method_52_code (1 : Nat) (Option.some Jvm.ClassFile.FieldType.boolean)) ∈ lw_all := lw_g (lw_at lw_m6 140 rfl) rfl
theorem q1460 : (Jvm.Cond.methodLink "LetterFormsModel" (209 : Nat) ({ cls := "LetterFormsModel", name := "readProduct", desc := "()Z" } : Jvm.MethodName)) ∈ lw_all := lw_g (lw_at lw_m6 141 rfl) rfl
theorem q1461 : (Jvm.Cond.privateMethod ({ cls := "LetterFormsModel", name := "readProduct", desc := "()Z" } : Jvm.MethodName)) ∈ lw_tbl := lw_at lw_m6 142 rfl
theorem q1462 : (Jvm.Cond.instanceMethod ({ cls := "LetterFormsModel", name := "readProduct", desc := "()Z" } : Jvm.MethodName)) ∈ lw_all := lw_g (lw_at lw_m6 143 rfl) rfl
theorem q1463 : (Jvm.Cond.code ({ cls := "LetterFormsModel", name := "readProduct", desc := "()Z" } : Jvm.MethodName) prog_18_method_51_code (1 : Nat) (Option.some Jvm.ClassFile.FieldType.boolean)) ∈ lw_all := lw_g (lw_at lw_m6 144 rfl) rfl
theorem q1464 : (Jvm.Cond.methodLink "LetterFormsModel" (200 : Nat) ({ cls := "LetterFormsModel", name := "readUnit", desc := "()Z" } : Jvm.MethodName)) ∈ lw_all := lw_g (lw_at lw_m6 145 rfl) rfl
theorem q1465 : (Jvm.Cond.privateMethod ({ cls := "LetterFormsModel", name := "readUnit", desc := "()Z" } : Jvm.MethodName)) ∈ lw_tbl := lw_at lw_m6 146 rfl
theorem q1466 : (Jvm.Cond.instanceMethod ({ cls := "LetterFormsModel", name := "readUnit", desc := "()Z" } : Jvm.MethodName)) ∈ lw_all := lw_g (lw_at lw_m6 147 rfl) rfl
theorem q1467 : (Jvm.Cond.code ({ cls := "LetterFormsModel", name := "readUnit", desc := "()Z" } : Jvm.MethodName) prog_18_method_50_code (2 : Nat) (Option.some Jvm.ClassFile.FieldType.boolean)) ∈ lw_all := lw_g (lw_at lw_m6 148 rfl) rfl
theorem q1468 : (Jvm.Cond.methodLink "LetterFormsModel" (190 : Nat) ({ cls := "LetterFormsModel", name := "has", desc := "(I)Z" } : Jvm.MethodName)) ∈ lw_all := lw_g (lw_at lw_m6 149 rfl) rfl
theorem q1469 : (Jvm.Cond.privateMethod ({ cls := "LetterFormsModel", name := "has", desc := "(I)Z" } : Jvm.MethodName)) ∈ lw_tbl := lw_at lw_m6 150 rfl
theorem q1470 : (Jvm.Cond.instanceMethod ({ cls := "LetterFormsModel", name := "has", desc := "(I)Z" } : Jvm.MethodName)) ∈ lw_all := lw_g (lw_at lw_m6 151 rfl) rfl
theorem q1471 : (Jvm.Cond.code ({ cls := "LetterFormsModel", name := "has", desc := "(I)Z" } : Jvm.MethodName) prog_18_method_43_code (2 : Nat) (Option.some Jvm.ClassFile.FieldType.boolean)) ∈ lw_all := lw_g (lw_at lw_m6 152 rfl) rfl
theorem q1472 : (Jvm.Cond.methodLink "LetterFormsModel" (171 : Nat) ({ cls := "LetterFormsModel", name := "blanks", desc := "()V" } : Jvm.MethodName)) ∈ lw_all := lw_g (lw_at lw_m6 153 rfl) rfl
theorem q1473 : (Jvm.Cond.privateMethod ({ cls := "LetterFormsModel", name := "blanks", desc := "()V" } : Jvm.MethodName)) ∈ lw_tbl := lw_at lw_m6 154 rfl
theorem q1474 : (Jvm.Cond.instanceMethod ({ cls := "LetterFormsModel", name := "blanks", desc := "()V" } : Jvm.MethodName)) ∈ lw_all := lw_g (lw_at lw_m6 155 rfl) rfl
theorem q1475 : (Jvm.Cond.code ({ cls := "LetterFormsModel", name := "blanks", desc := "()V" } : Jvm.MethodName) prog_18_method_42_code (1 : Nat) (Option.none : Option Jvm.ClassFile.FieldType)) ∈ lw_all := lw_g (lw_at lw_m6 156 rfl) rfl
theorem q1476 : (Jvm.Cond.methodLink "LetterFormsModel" (164 : Nat) ({ cls := "LetterFormsModel", name := "isAt", desc := "(II)Z" } : Jvm.MethodName)) ∈ lw_all := lw_g (lw_at lw_m6 157 rfl) rfl
theorem q1477 : (Jvm.Cond.privateMethod ({ cls := "LetterFormsModel", name := "isAt", desc := "(II)Z" } : Jvm.MethodName)) ∈ lw_tbl := lw_at lw_m6 158 rfl
theorem q1478 : (Jvm.Cond.instanceMethod ({ cls := "LetterFormsModel", name := "isAt", desc := "(II)Z" } : Jvm.MethodName)) ∈ lw_all := lw_g (lw_at lw_m6 159 rfl) rfl
theorem q1479 : (Jvm.Cond.code ({ cls := "LetterFormsModel", name := "isAt", desc := "(II)Z" } : Jvm.MethodName) prog_18_method_41_code (3 : Nat) (Option.some Jvm.ClassFile.FieldType.boolean)) ∈ lw_all := lw_g (lw_at lw_m6 160 rfl) rfl
theorem q1480 : (Jvm.Cond.methodLink "LetterFormsModel" (183 : Nat) ({ cls := "LetterFormsModel", name := "deeper", desc := "()Z" } : Jvm.MethodName)) ∈ lw_all := lw_g (lw_at lw_m6 161 rfl) rfl
theorem q1481 : (Jvm.Cond.privateMethod ({ cls := "LetterFormsModel", name := "deeper", desc := "()Z" } : Jvm.MethodName)) ∈ lw_tbl := lw_at lw_m6 162 rfl
theorem q1482 : (Jvm.Cond.instanceMethod ({ cls := "LetterFormsModel", name := "deeper", desc := "()Z" } : Jvm.MethodName)) ∈ lw_all := lw_g (lw_at lw_m6 163 rfl) rfl
theorem q1483 : (Jvm.Cond.code ({ cls := "LetterFormsModel", name := "deeper", desc := "()Z" } : Jvm.MethodName) prog_18_method_48_code (1 : Nat) (Option.some Jvm.ClassFile.FieldType.boolean)) ∈ lw_all := lw_g (lw_at lw_m6 164 rfl) rfl
theorem q1484 : (Jvm.Cond.methodLink "LetterFormsModel" (197 : Nat) ({ cls := "LetterFormsModel", name := "emits", desc := "(II)Z" } : Jvm.MethodName)) ∈ lw_all := lw_g (lw_at lw_m6 165 rfl) rfl
theorem q1485 : (Jvm.Cond.privateMethod ({ cls := "LetterFormsModel", name := "emits", desc := "(II)Z" } : Jvm.MethodName)) ∈ lw_tbl := lw_at lw_m6 166 rfl
theorem q1486 : (Jvm.Cond.instanceMethod ({ cls := "LetterFormsModel", name := "emits", desc := "(II)Z" } : Jvm.MethodName)) ∈ lw_all := lw_g (lw_at lw_m6 167 rfl) rfl
theorem q1487 : (Jvm.Cond.code ({ cls := "LetterFormsModel", name := "emits", desc := "(II)Z" } : Jvm.MethodName) prog_18_method_47_code (3 : Nat) (Option.some Jvm.ClassFile.FieldType.boolean)) ∈ lw_all := lw_g (lw_at lw_m6 168 rfl) rfl
theorem q1488 : (Jvm.Cond.methodLink "LetterFormsModel" (203 : Nat) ({ cls := "LetterFormsModel", name := "readOverlap", desc := "()Z" } : Jvm.MethodName)) ∈ lw_all := lw_g (lw_at lw_m6 169 rfl) rfl
theorem q1489 : (Jvm.Cond.privateMethod ({ cls := "LetterFormsModel", name := "readOverlap", desc := "()Z" } : Jvm.MethodName)) ∈ lw_tbl := lw_at lw_m6 170 rfl
theorem q1490 : (Jvm.Cond.instanceMethod ({ cls := "LetterFormsModel", name := "readOverlap", desc := "()Z" } : Jvm.MethodName)) ∈ lw_all := lw_g (lw_at lw_m6 171 rfl) rfl
theorem q1491 : (Jvm.Cond.code ({ cls := "LetterFormsModel", name := "readOverlap", desc := "()Z" } : Jvm.MethodName) prog_18_method_49_code (2 : Nat) (Option.some Jvm.ClassFile.FieldType.boolean)) ∈ lw_all := lw_g (lw_at lw_m6 172 rfl) rfl
theorem q1492 : (Jvm.Cond.methodLink "LetterFormsModel" (194 : Nat) ({ cls := "LetterFormsModel", name := "number", desc := "(I)I" } : Jvm.MethodName)) ∈ lw_all := lw_g (lw_at lw_m6 173 rfl) rfl
theorem q1493 : (Jvm.Cond.privateMethod ({ cls := "LetterFormsModel", name := "number", desc := "(I)I" } : Jvm.MethodName)) ∈ lw_tbl := lw_at lw_m6 174 rfl
theorem q1494 : (Jvm.Cond.instanceMethod ({ cls := "LetterFormsModel", name := "number", desc := "(I)I" } : Jvm.MethodName)) ∈ lw_all := lw_g (lw_at lw_m6 175 rfl) rfl
theorem q1495 : (Jvm.Cond.code ({ cls := "LetterFormsModel", name := "number", desc := "(I)I" } : Jvm.MethodName) prog_18_method_45_code (3 : Nat) (Option.some Jvm.ClassFile.FieldType.int)) ∈ lw_all := lw_g (lw_at lw_m6 176 rfl) rfl
theorem q1496 : (Jvm.Cond.methodLink "LetterFormsModel" (206 : Nat) ({ cls := "LetterFormsModel", name := "counts", desc := "(I)Z" } : Jvm.MethodName)) ∈ lw_all := lw_g (lw_at lw_m6 177 rfl) rfl
theorem q1497 : (Jvm.Cond.privateMethod ({ cls := "LetterFormsModel", name := "counts", desc := "(I)Z" } : Jvm.MethodName)) ∈ lw_tbl := lw_at lw_m6 178 rfl
theorem q1498 : (Jvm.Cond.instanceMethod ({ cls := "LetterFormsModel", name := "counts", desc := "(I)Z" } : Jvm.MethodName)) ∈ lw_all := lw_g (lw_at lw_m6 179 rfl) rfl
theorem q1499 : (Jvm.Cond.code ({ cls := "LetterFormsModel", name := "counts", desc := "(I)Z" } : Jvm.MethodName) prog_18_method_44_code (2 : Nat) (Option.some Jvm.ClassFile.FieldType.boolean)) ∈ lw_all := lw_g (lw_at lw_m6 180 rfl) rfl
theorem q1500 : (Jvm.Cond.methodLink "LetterFormsModel" (215 : Nat) ({ cls := "LetterFormsModel", name := "throwsIf", desc := "(ZI)Z" } : Jvm.MethodName)) ∈ lw_all := lw_g (lw_at lw_m6 181 rfl) rfl
theorem q1501 : (Jvm.Cond.privateMethod ({ cls := "LetterFormsModel", name := "throwsIf", desc := "(ZI)Z" } : Jvm.MethodName)) ∈ lw_tbl := lw_at lw_m6 182 rfl
theorem q1502 : (Jvm.Cond.instanceMethod ({ cls := "LetterFormsModel", name := "throwsIf", desc := "(ZI)Z" } : Jvm.MethodName)) ∈ lw_all := lw_g (lw_at lw_m6 183 rfl) rfl
theorem q1503 : (Jvm.Cond.code ({ cls := "LetterFormsModel", name := "throwsIf", desc := "(ZI)Z" } : Jvm.MethodName) prog_18_method_2_code (3 : Nat) (Option.some Jvm.ClassFile.FieldType.boolean)) ∈ lw_all := lw_g (lw_at lw_m6 184 rfl) rfl
theorem q1505 : (Jvm.Cond.instanceMethod ({ cls := "LetterFormsModel", name := "field", desc := "(I)V" } : Jvm.MethodName)) ∈ lw_all := lw_g (lw_at lw_m6 186 rfl) rfl
theorem q1506 : (Jvm.Cond.selects "LetterFormsModel" ({ cls := "LetterFormsModel", name := "field", desc := "(I)V" } : Jvm.MethodName) ({ cls := "LetterFormsModel", name := "field", desc := "(I)V" } : Jvm.MethodName)) ∈ lw_all := lw_g (lw_at lw_m6 187 rfl) rfl
theorem q1507 : (Jvm.Cond.code ({ cls := "LetterFormsModel", name := "field", desc := "(I)V" } : Jvm.MethodName) prog_18_method_55_code (2 : Nat) (Option.none : Option Jvm.ClassFile.FieldType)) ∈ lw_all := lw_g (lw_at lw_m6 188 rfl) rfl
theorem q1509 : (Jvm.Cond.instanceMethod ({ cls := "LetterFormsModel", name := "form", desc := "()I" } : Jvm.MethodName)) ∈ lw_all := lw_g (lw_at lw_m6 190 rfl) rfl
theorem q1510 : (Jvm.Cond.selects "LetterFormsModel" ({ cls := "LetterFormsModel", name := "form", desc := "()I" } : Jvm.MethodName) ({ cls := "LetterFormsModel", name := "form", desc := "()I" } : Jvm.MethodName)) ∈ lw_all := lw_g (lw_at lw_m6 191 rfl) rfl
theorem q1511 : (Jvm.Cond.code ({ cls := "LetterFormsModel", name := "form", desc := "()I" } : Jvm.MethodName) prog_18_method_56_code (3 : Nat) (Option.some Jvm.ClassFile.FieldType.int)) ∈ lw_all := lw_g (lw_at lw_m6 192 rfl) rfl
theorem q1512 : (Jvm.Cond.methodLink "LetterFormsModel" (68 : Nat) ({ cls := "LetterFormsModel", name := "in", desc := "(III)Z" } : Jvm.MethodName)) ∈ lw_all := lw_g (lw_at lw_m6 193 rfl) rfl
theorem q1513 : (Jvm.Cond.static ({ cls := "LetterFormsModel", name := "in", desc := "(III)Z" } : Jvm.MethodName)) ∈ lw_all := lw_g (lw_at lw_m6 194 rfl) rfl
theorem q1514 : (Jvm.Cond.code ({ cls := "LetterFormsModel", name := "in", desc := "(III)Z" } : Jvm.MethodName) prog_18_method_3_code (3 : Nat) (Option.some Jvm.ClassFile.FieldType.boolean)) ∈ lw_all := lw_g (lw_at lw_m6 195 rfl) rfl
theorem q1515 : (Jvm.Cond.methodLink "LetterFormsModel" (72 : Nat) ({ cls := "LetterFormsModel", name := "formAt", desc := "(I)I" } : Jvm.MethodName)) ∈ lw_all := lw_g (lw_at lw_m6 196 rfl) rfl
theorem q1516 : (Jvm.Cond.static ({ cls := "LetterFormsModel", name := "formAt", desc := "(I)I" } : Jvm.MethodName)) ∈ lw_all := lw_g (lw_at lw_m6 197 rfl) rfl
theorem q1517 : (Jvm.Cond.code ({ cls := "LetterFormsModel", name := "formAt", desc := "(I)I" } : Jvm.MethodName) prog_18_method_11_code (1 : Nat) (Option.some Jvm.ClassFile.FieldType.int)) ∈ lw_all := lw_g (lw_at lw_m6 198 rfl) rfl
theorem q1518 : (Jvm.Cond.methodLink "LetterFormsModel" (113 : Nat) ({ cls := "LetterFormsModel", name := "mod", desc := "(J)I" } : Jvm.MethodName)) ∈ lw_all := lw_g (lw_at lw_m6 199 rfl) rfl
theorem q1519 : (Jvm.Cond.privateMethod ({ cls := "LetterFormsModel", name := "mod", desc := "(J)I" } : Jvm.MethodName)) ∈ lw_tbl := lw_at lw_m6 200 rfl
theorem q1520 : (Jvm.Cond.instanceMethod ({ cls := "LetterFormsModel", name := "mod", desc := "(J)I" } : Jvm.MethodName)) ∈ lw_all := lw_g (lw_at lw_m6 201 rfl) rfl
theorem q1521 : (Jvm.Cond.code ({ cls := "LetterFormsModel", name := "mod", desc := "(J)I" } : Jvm.MethodName) prog_18_method_15_code (3 : Nat) (Option.some Jvm.ClassFile.FieldType.int)) ∈ lw_all := lw_g (lw_at lw_m6 202 rfl) rfl
theorem q1522 : (Jvm.Cond.methodLink "LetterFormsModel" (76 : Nat) ({ cls := "LetterFormsModel", name := "p", desc := "()I" } : Jvm.MethodName)) ∈ lw_all := lw_g (lw_at lw_m6 203 rfl) rfl
theorem q1523 : (Jvm.Cond.privateMethod ({ cls := "LetterFormsModel", name := "p", desc := "()I" } : Jvm.MethodName)) ∈ lw_tbl := lw_at lw_m6 204 rfl
theorem q1524 : (Jvm.Cond.instanceMethod ({ cls := "LetterFormsModel", name := "p", desc := "()I" } : Jvm.MethodName)) ∈ lw_all := lw_g (lw_at lw_m6 205 rfl) rfl
theorem q1525 : (Jvm.Cond.code ({ cls := "LetterFormsModel", name := "p", desc := "()I" } : Jvm.MethodName) prog_18_method_7_code (1 : Nat) (Option.some Jvm.ClassFile.FieldType.int)) ∈ lw_all := lw_g (lw_at lw_m6 206 rfl) rfl
theorem q1526 : (Jvm.Cond.methodLink "LetterFormsModel" (80 : Nat) ({ cls := "java/lang/Math", name := "floorMod", desc := "(JJ)J" } : Jvm.MethodName)) ∈ lw_all := lw_g (lw_at lw_m6 207 rfl) rfl
theorem q1530 : (Jvm.Cond.instanceMethod ({ cls := "LetterFormsModel", name := "table", desc := "(IIII)I" } : Jvm.MethodName)) ∈ lw_all := lw_g (lw_at lw_m6 211 rfl) rfl
theorem q1531 : (Jvm.Cond.selects "LetterFormsModel" ({ cls := "LetterFormsModel", name := "table", desc := "(IIII)I" } : Jvm.MethodName) ({ cls := "LetterFormsModel", name := "table", desc := "(IIII)I" } : Jvm.MethodName)) ∈ lw_all := lw_g (lw_at lw_m6 212 rfl) rfl
theorem q1532 : (Jvm.Cond.code ({ cls := "LetterFormsModel", name := "table", desc := "(IIII)I" } : Jvm.MethodName) prog_18_method_58_code (5 : Nat) (Option.some Jvm.ClassFile.FieldType.int)) ∈ lw_all := lw_g (lw_at lw_m6 213 rfl) rfl
theorem q1533 : (Jvm.Cond.methodLink "LetterFormsModel" (146 : Nat) ({ cls := "LetterFormsModel", name := "takesTable", desc := "(IIII)V" } : Jvm.MethodName)) ∈ lw_all := lw_g (lw_at lw_m6 214 rfl) rfl
theorem q1534 : (Jvm.Cond.privateMethod ({ cls := "LetterFormsModel", name := "takesTable", desc := "(IIII)V" } : Jvm.MethodName)) ∈ lw_tbl := lw_at lw_m6 215 rfl
theorem q1535 : (Jvm.Cond.instanceMethod ({ cls := "LetterFormsModel", name := "takesTable", desc := "(IIII)V" } : Jvm.MethodName)) ∈ lw_all := lw_g (lw_at lw_m6 216 rfl) rfl
theorem q1536 : (Jvm.Cond.code ({ cls := "LetterFormsModel", name := "takesTable", desc := "(IIII)V" } : Jvm.MethodName) prog_18_method_33_code (5 : Nat) (Option.none : Option Jvm.ClassFile.FieldType)) ∈ lw_all := lw_g (lw_at lw_m6 217 rfl) rfl
theorem q1537 : (Jvm.Cond.methodLink "LetterFormsModel" (219 : Nat) ({ cls := "LetterFormsModel", name := "detNow", desc := "()I" } : Jvm.MethodName)) ∈ lw_all := lw_g (lw_at lw_m6 218 rfl) rfl
theorem q1538 : (Jvm.Cond.privateMethod ({ cls := "LetterFormsModel", name := "detNow", desc := "()I" } : Jvm.MethodName)) ∈ lw_tbl := lw_at lw_m6 219 rfl
theorem q1539 : (Jvm.Cond.instanceMethod ({ cls := "LetterFormsModel", name := "detNow", desc := "()I" } : Jvm.MethodName)) ∈ lw_all := lw_g (lw_at lw_m6 220 rfl) rfl
theorem q1540 : (Jvm.Cond.code ({ cls := "LetterFormsModel", name := "detNow", desc := "()I" } : Jvm.MethodName) prog_18_method_35_code (1 : Nat) (Option.some Jvm.ClassFile.FieldType.int)) ∈ lw_all := lw_g (lw_at lw_m6 221 rfl) rfl
theorem q1541 : (Jvm.Cond.methodLink "LetterFormsModel" (86 : Nat) ({ cls := "LetterFormsModel", name := "times", desc := "(II)I" } : Jvm.MethodName)) ∈ lw_all := lw_g (lw_at lw_m6 222 rfl) rfl
theorem q1542 : (Jvm.Cond.privateMethod ({ cls := "LetterFormsModel", name := "times", desc := "(II)I" } : Jvm.MethodName)) ∈ lw_tbl := lw_at lw_m6 223 rfl
theorem q1543 : (Jvm.Cond.instanceMethod ({ cls := "LetterFormsModel", name := "times", desc := "(II)I" } : Jvm.MethodName)) ∈ lw_all := lw_g (lw_at lw_m6 224 rfl) rfl
theorem q1544 : (Jvm.Cond.code ({ cls := "LetterFormsModel", name := "times", desc := "(II)I" } : Jvm.MethodName) prog_18_method_16_code (3 : Nat) (Option.some Jvm.ClassFile.FieldType.int)) ∈ lw_all := lw_g (lw_at lw_m6 225 rfl) rfl
theorem q1545 : (Jvm.Cond.methodLink "LetterFormsModel" (149 : Nat) ({ cls := "LetterFormsModel", name := "less", desc := "(II)I" } : Jvm.MethodName)) ∈ lw_all := lw_g (lw_at lw_m6 226 rfl) rfl
theorem q1546 : (Jvm.Cond.privateMethod ({ cls := "LetterFormsModel", name := "less", desc := "(II)I" } : Jvm.MethodName)) ∈ lw_tbl := lw_at lw_m6 227 rfl
theorem q1547 : (Jvm.Cond.instanceMethod ({ cls := "LetterFormsModel", name := "less", desc := "(II)I" } : Jvm.MethodName)) ∈ lw_all := lw_g (lw_at lw_m6 228 rfl) rfl
theorem q1548 : (Jvm.Cond.code ({ cls := "LetterFormsModel", name := "less", desc := "(II)I" } : Jvm.MethodName) prog_18_method_18_code (3 : Nat) (Option.some Jvm.ClassFile.FieldType.int)) ∈ lw_all := lw_g (lw_at lw_m6 229 rfl) rfl
theorem q1549 : (Jvm.Cond.methodLink "LetterFormsModel" (222 : Nat) ({ cls := "LetterFormsModel", name := "lays", desc := "()I" } : Jvm.MethodName)) ∈ lw_all := lw_g (lw_at lw_m6 230 rfl) rfl
theorem q1550 : (Jvm.Cond.privateMethod ({ cls := "LetterFormsModel", name := "lays", desc := "()I" } : Jvm.MethodName)) ∈ lw_tbl := lw_at lw_m6 231 rfl
theorem q1551 : (Jvm.Cond.instanceMethod ({ cls := "LetterFormsModel", name := "lays", desc := "()I" } : Jvm.MethodName)) ∈ lw_all := lw_g (lw_at lw_m6 232 rfl) rfl
theorem q1552 : (Jvm.Cond.code ({ cls := "LetterFormsModel", name := "lays", desc := "()I" } : Jvm.MethodName) prog_18_method_57_code (2 : Nat) (Option.some Jvm.ClassFile.FieldType.int)) ∈ lw_all := lw_g (lw_at lw_m6 233 rfl) rfl
theorem q1554 : (Jvm.Cond.instanceMethod ({ cls := "LetterFormsModel", name := "join", desc := "(II)I" } : Jvm.MethodName)) ∈ lw_all := lw_g (lw_at lw_m6 235 rfl) rfl
theorem q1555 : (Jvm.Cond.selects "LetterFormsModel" ({ cls := "LetterFormsModel", name := "join", desc := "(II)I" } : Jvm.MethodName) ({ cls := "LetterFormsModel", name := "join", desc := "(II)I" } : Jvm.MethodName)) ∈ lw_all := lw_g (lw_at lw_m6 236 rfl) rfl
theorem q1556 : (Jvm.Cond.code ({ cls := "LetterFormsModel", name := "join", desc := "(II)I" } : Jvm.MethodName) prog_18_method_59_code (7 : Nat) (Option.some Jvm.ClassFile.FieldType.int)) ∈ lw_all := lw_g (lw_at lw_m6 237 rfl) rfl
theorem q1557 : (Jvm.Cond.methodLink "LetterFormsModel" (225 : Nat) ({ cls := "LetterFormsModel", name := "noTable", desc := "(I)Z" } : Jvm.MethodName)) ∈ lw_all := lw_g (lw_at lw_m6 238 rfl) rfl
theorem q1558 : (Jvm.Cond.privateMethod ({ cls := "LetterFormsModel", name := "noTable", desc := "(I)Z" } : Jvm.MethodName)) ∈ lw_tbl := lw_at lw_m6 239 rfl
theorem q1559 : (Jvm.Cond.instanceMethod ({ cls := "LetterFormsModel", name := "noTable", desc := "(I)Z" } : Jvm.MethodName)) ∈ lw_all := lw_g (lw_at lw_m7 0 rfl) rfl
theorem q1560 : (Jvm.Cond.code ({ cls := "LetterFormsModel", name := "noTable", desc := "(I)Z" } : Jvm.MethodName) prog_18_method_9_code (2 : Nat) (Option.some Jvm.ClassFile.FieldType.boolean)) ∈ lw_all := lw_g (lw_at lw_m7 1 rfl) rfl
theorem q1561 : (Jvm.Cond.methodLink "LetterFormsModel" (228 : Nat) ({ cls := "LetterFormsModel", name := "tables", desc := "(I)V" } : Jvm.MethodName)) ∈ lw_all := lw_g (lw_at lw_m7 2 rfl) rfl
theorem q1562 : (Jvm.Cond.privateMethod ({ cls := "LetterFormsModel", name := "tables", desc := "(I)V" } : Jvm.MethodName)) ∈ lw_tbl := lw_at lw_m7 3 rfl
theorem q1563 : (Jvm.Cond.instanceMethod ({ cls := "LetterFormsModel", name := "tables", desc := "(I)V" } : Jvm.MethodName)) ∈ lw_all := lw_g (lw_at lw_m7 4 rfl) rfl
theorem q1564 : (Jvm.Cond.code ({ cls := "LetterFormsModel", name := "tables", desc := "(I)V" } : Jvm.MethodName) prog_18_method_34_code (2 : Nat) (Option.none : Option Jvm.ClassFile.FieldType)) ∈ lw_all := lw_g (lw_at lw_m7 5 rfl) rfl
theorem q1565 : (Jvm.Cond.methodLink "LetterFormsModel" (143 : Nat) ({ cls := "LetterFormsModel", name := "ofTable", desc := "(II)I" } : Jvm.MethodName)) ∈ lw_all := lw_g (lw_at lw_m7 6 rfl) rfl
theorem q1566 : (Jvm.Cond.privateMethod ({ cls := "LetterFormsModel", name := "ofTable", desc := "(II)I" } : Jvm.MethodName)) ∈ lw_tbl := lw_at lw_m7 7 rfl
theorem q1567 : (Jvm.Cond.instanceMethod ({ cls := "LetterFormsModel", name := "ofTable", desc := "(II)I" } : Jvm.MethodName)) ∈ lw_all := lw_g (lw_at lw_m7 8 rfl) rfl
theorem q1568 : (Jvm.Cond.code ({ cls := "LetterFormsModel", name := "ofTable", desc := "(II)I" } : Jvm.MethodName) prog_18_method_14_code (3 : Nat) (Option.some Jvm.ClassFile.FieldType.int)) ∈ lw_all := lw_g (lw_at lw_m7 9 rfl) rfl
theorem q1569 : (Jvm.Cond.methodLink "LetterFormsModel" (110 : Nat) ({ cls := "LetterFormsModel", name := "plus", desc := "(II)I" } : Jvm.MethodName)) ∈ lw_all := lw_g (lw_at lw_m7 10 rfl) rfl
theorem q1570 : (Jvm.Cond.privateMethod ({ cls := "LetterFormsModel", name := "plus", desc := "(II)I" } : Jvm.MethodName)) ∈ lw_tbl := lw_at lw_m7 11 rfl
theorem q1571 : (Jvm.Cond.instanceMethod ({ cls := "LetterFormsModel", name := "plus", desc := "(II)I" } : Jvm.MethodName)) ∈ lw_all := lw_g (lw_at lw_m7 12 rfl) rfl
theorem q1572 : (Jvm.Cond.code ({ cls := "LetterFormsModel", name := "plus", desc := "(II)I" } : Jvm.MethodName) prog_18_method_17_code (3 : Nat) (Option.some Jvm.ClassFile.FieldType.int)) ∈ lw_all := lw_g (lw_at lw_m7 13 rfl) rfl
theorem q1574 : (Jvm.Cond.instanceMethod ({ cls := "LetterFormsModel", name := "turn", desc := "(I)I" } : Jvm.MethodName)) ∈ lw_all := lw_g (lw_at lw_m7 15 rfl) rfl
theorem q1575 : (Jvm.Cond.selects "LetterFormsModel" ({ cls := "LetterFormsModel", name := "turn", desc := "(I)I" } : Jvm.MethodName) ({ cls := "LetterFormsModel", name := "turn", desc := "(I)I" } : Jvm.MethodName)) ∈ lw_all := lw_g (lw_at lw_m7 16 rfl) rfl
theorem q1576 : (Jvm.Cond.code ({ cls := "LetterFormsModel", name := "turn", desc := "(I)I" } : Jvm.MethodName) prog_18_method_61_code (2 : Nat) (Option.some Jvm.ClassFile.FieldType.int)) ∈ lw_all := lw_g (lw_at lw_m7 17 rfl) rfl
theorem q1577 : (Jvm.Cond.methodLink "LetterFormsModel" (235 : Nat) ({ cls := "LetterFormsModel", name := "turnsBack", desc := "()V" } : Jvm.MethodName)) ∈ lw_all := lw_g (lw_at lw_m7 18 rfl) rfl
theorem q1578 : (Jvm.Cond.privateMethod ({ cls := "LetterFormsModel", name := "turnsBack", desc := "()V" } : Jvm.MethodName)) ∈ lw_tbl := lw_at lw_m7 19 rfl
theorem q1579 : (Jvm.Cond.instanceMethod ({ cls := "LetterFormsModel", name := "turnsBack", desc := "()V" } : Jvm.MethodName)) ∈ lw_all := lw_g (lw_at lw_m7 20 rfl) rfl
theorem q1580 : (Jvm.Cond.code ({ cls := "LetterFormsModel", name := "turnsBack", desc := "()V" } : Jvm.MethodName) prog_18_method_60_code (2 : Nat) (Option.none : Option Jvm.ClassFile.FieldType)) ∈ lw_all := lw_g (lw_at lw_m7 21 rfl) rfl
theorem q1581 : (Jvm.Cond.methodLink "LetterFormsModel" (232 : Nat) ({ cls := "LetterFormsModel", name := "inverse", desc := "(I)I" } : Jvm.MethodName)) ∈ lw_all := lw_g (lw_at lw_m7 22 rfl) rfl
theorem q1582 : (Jvm.Cond.privateMethod ({ cls := "LetterFormsModel", name := "inverse", desc := "(I)I" } : Jvm.MethodName)) ∈ lw_tbl := lw_at lw_m7 23 rfl
theorem q1583 : (Jvm.Cond.instanceMethod ({ cls := "LetterFormsModel", name := "inverse", desc := "(I)I" } : Jvm.MethodName)) ∈ lw_all := lw_g (lw_at lw_m7 24 rfl) rfl
theorem q1584 : (Jvm.Cond.code ({ cls := "LetterFormsModel", name := "inverse", desc := "(I)I" } : Jvm.MethodName) prog_18_method_20_code (2 : Nat) (Option.some Jvm.ClassFile.FieldType.int)) ∈ lw_all := lw_g (lw_at lw_m7 25 rfl) rfl
theorem q1585 : (Jvm.Cond.methodLink "LetterFormsModel" (90 : Nat) ({ cls := "LetterFormsModel", name := "power", desc := "(II)I" } : Jvm.MethodName)) ∈ lw_all := lw_g (lw_at lw_m7 26 rfl) rfl
theorem q1586 : (Jvm.Cond.privateMethod ({ cls := "LetterFormsModel", name := "power", desc := "(II)I" } : Jvm.MethodName)) ∈ lw_tbl := lw_at lw_m7 27 rfl
theorem q1587 : (Jvm.Cond.instanceMethod ({ cls := "LetterFormsModel", name := "power", desc := "(II)I" } : Jvm.MethodName)) ∈ lw_all := lw_g (lw_at lw_m7 28 rfl) rfl
theorem q1588 : (Jvm.Cond.code ({ cls := "LetterFormsModel", name := "power", desc := "(II)I" } : Jvm.MethodName) prog_18_method_19_code (5 : Nat) (Option.some Jvm.ClassFile.FieldType.int)) ∈ lw_all := lw_g (lw_at lw_m7 29 rfl) rfl
theorem q1590 : (Jvm.Cond.instanceMethod ({ cls := "LetterFormsModel", name := "told", desc := "(II)I" } : Jvm.MethodName)) ∈ lw_all := lw_g (lw_at lw_m7 31 rfl) rfl
theorem q1591 : (Jvm.Cond.selects "LetterFormsModel" ({ cls := "LetterFormsModel", name := "told", desc := "(II)I" } : Jvm.MethodName) ({ cls := "LetterFormsModel", name := "told", desc := "(II)I" } : Jvm.MethodName)) ∈ lw_all := lw_g (lw_at lw_m7 32 rfl) rfl
theorem q1592 : (Jvm.Cond.code ({ cls := "LetterFormsModel", name := "told", desc := "(II)I" } : Jvm.MethodName) prog_18_method_62_code (3 : Nat) (Option.some Jvm.ClassFile.FieldType.int)) ∈ lw_all := lw_g (lw_at lw_m7 33 rfl) rfl
theorem q1594 : (Jvm.Cond.instanceMethod ({ cls := "LetterFormsModel", name := "det", desc := "(I)I" } : Jvm.MethodName)) ∈ lw_all := lw_g (lw_at lw_m7 35 rfl) rfl
theorem q1595 : (Jvm.Cond.selects "LetterFormsModel" ({ cls := "LetterFormsModel", name := "det", desc := "(I)I" } : Jvm.MethodName) ({ cls := "LetterFormsModel", name := "det", desc := "(I)I" } : Jvm.MethodName)) ∈ lw_all := lw_g (lw_at lw_m7 36 rfl) rfl
theorem q1596 : (Jvm.Cond.code ({ cls := "LetterFormsModel", name := "det", desc := "(I)I" } : Jvm.MethodName) prog_18_method_63_code (2 : Nat) (Option.some Jvm.ClassFile.FieldType.int)) ∈ lw_all := lw_g (lw_at lw_m7 37 rfl) rfl
theorem q1598 : (Jvm.Cond.instanceMethod ({ cls := "LetterFormsModel", name := "look", desc := "(II)I" } : Jvm.MethodName)) ∈ lw_all := lw_g (lw_at lw_m7 39 rfl) rfl
theorem q1599 : (Jvm.Cond.selects "LetterFormsModel" ({ cls := "LetterFormsModel", name := "look", desc := "(II)I" } : Jvm.MethodName) ({ cls := "LetterFormsModel", name := "look", desc := "(II)I" } : Jvm.MethodName)) ∈ lw_all := lw_g (lw_at lw_m7 40 rfl) rfl
theorem q1600 : (Jvm.Cond.code ({ cls := "LetterFormsModel", name := "look", desc := "(II)I" } : Jvm.MethodName) prog_18_method_64_code (3 : Nat) (Option.some Jvm.ClassFile.FieldType.int)) ∈ lw_all := lw_g (lw_at lw_m7 41 rfl) rfl
theorem q1601 : (Jvm.Cond.methodLink "LetterFormsModel" (238 : Nat) ({ cls := "LetterFormsModel", name := "noForm", desc := "(I)Z" } : Jvm.MethodName)) ∈ lw_all := lw_g (lw_at lw_m7 42 rfl) rfl
theorem q1602 : (Jvm.Cond.privateMethod ({ cls := "LetterFormsModel", name := "noForm", desc := "(I)Z" } : Jvm.MethodName)) ∈ lw_tbl := lw_at lw_m7 43 rfl
theorem q1603 : (Jvm.Cond.instanceMethod ({ cls := "LetterFormsModel", name := "noForm", desc := "(I)Z" } : Jvm.MethodName)) ∈ lw_all := lw_g (lw_at lw_m7 44 rfl) rfl
theorem q1604 : (Jvm.Cond.code ({ cls := "LetterFormsModel", name := "noForm", desc := "(I)Z" } : Jvm.MethodName) prog_18_method_8_code (2 : Nat) (Option.some Jvm.ClassFile.FieldType.boolean)) ∈ lw_all := lw_g (lw_at lw_m7 45 rfl) rfl
theorem q1605 : (Jvm.Cond.methodLink "LetterFormsModel" (93 : Nat) ({ cls := "LetterFormsModel", name := "degreeOf", desc := "(I)I" } : Jvm.MethodName)) ∈ lw_all := lw_g (lw_at lw_m7 46 rfl) rfl
theorem q1606 : (Jvm.Cond.privateMethod ({ cls := "LetterFormsModel", name := "degreeOf", desc := "(I)I" } : Jvm.MethodName)) ∈ lw_tbl := lw_at lw_m7 47 rfl
theorem q1607 : (Jvm.Cond.instanceMethod ({ cls := "LetterFormsModel", name := "degreeOf", desc := "(I)I" } : Jvm.MethodName)) ∈ lw_all := lw_g (lw_at lw_m7 48 rfl) rfl
theorem q1608 : (Jvm.Cond.code ({ cls := "LetterFormsModel", name := "degreeOf", desc := "(I)I" } : Jvm.MethodName) prog_18_method_12_code (2 : Nat) (Option.some Jvm.ClassFile.FieldType.int)) ∈ lw_all := lw_g (lw_at lw_m7 49 rfl) rfl
theorem q1609 : (Jvm.Cond.methodLink "LetterFormsModel" (96 : Nat) ({ cls := "LetterFormsModel", name := "numberOf", desc := "(II)I" } : Jvm.MethodName)) ∈ lw_all := lw_g (lw_at lw_m7 50 rfl) rfl
theorem q1610 : (Jvm.Cond.privateMethod ({ cls := "LetterFormsModel", name := "numberOf", desc := "(II)I" } : Jvm.MethodName)) ∈ lw_tbl := lw_at lw_m7 51 rfl
theorem q1611 : (Jvm.Cond.instanceMethod ({ cls := "LetterFormsModel", name := "numberOf", desc := "(II)I" } : Jvm.MethodName)) ∈ lw_all := lw_g (lw_at lw_m7 52 rfl) rfl
theorem q1612 : (Jvm.Cond.code ({ cls := "LetterFormsModel", name := "numberOf", desc := "(II)I" } : Jvm.MethodName) prog_18_method_13_code (3 : Nat) (Option.some Jvm.ClassFile.FieldType.int)) ∈ lw_all := lw_g (lw_at lw_m7 53 rfl) rfl
theorem q1614 : (Jvm.Cond.instanceMethod ({ cls := "LetterFormsModel", name := "at", desc := "(III)I" } : Jvm.MethodName)) ∈ lw_all := lw_g (lw_at lw_m7 55 rfl) rfl
theorem q1615 : (Jvm.Cond.selects "LetterFormsModel" ({ cls := "LetterFormsModel", name := "at", desc := "(III)I" } : Jvm.MethodName) ({ cls := "LetterFormsModel", name := "at", desc := "(III)I" } : Jvm.MethodName)) ∈ lw_all := lw_g (lw_at lw_m7 56 rfl) rfl
theorem q1616 : (Jvm.Cond.code ({ cls := "LetterFormsModel", name := "at", desc := "(III)I" } : Jvm.MethodName) prog_18_method_65_code (4 : Nat) (Option.some Jvm.ClassFile.FieldType.int)) ∈ lw_all := lw_g (lw_at lw_m7 57 rfl) rfl
theorem q1617 : (Jvm.Cond.methodLink "LetterFormsModel" (241 : Nat) ({ cls := "LetterFormsModel", name := "takes", desc := "(II)V" } : Jvm.MethodName)) ∈ lw_all := lw_g (lw_at lw_m7 58 rfl) rfl
theorem q1618 : (Jvm.Cond.privateMethod ({ cls := "LetterFormsModel", name := "takes", desc := "(II)V" } : Jvm.MethodName)) ∈ lw_tbl := lw_at lw_m7 59 rfl
theorem q1619 : (Jvm.Cond.instanceMethod ({ cls := "LetterFormsModel", name := "takes", desc := "(II)V" } : Jvm.MethodName)) ∈ lw_all := lw_g (lw_at lw_m7 60 rfl) rfl
theorem q1620 : (Jvm.Cond.code ({ cls := "LetterFormsModel", name := "takes", desc := "(II)V" } : Jvm.MethodName) prog_18_method_23_code (4 : Nat) (Option.none : Option Jvm.ClassFile.FieldType)) ∈ lw_all := lw_g (lw_at lw_m7 61 rfl) rfl
theorem q1621 : (Jvm.Cond.methodLink "LetterFormsModel" (99 : Nat) ({ cls := "LetterFormsModel", name := "put", desc := "(III)V" } : Jvm.MethodName)) ∈ lw_all := lw_g (lw_at lw_m7 62 rfl) rfl
theorem q1622 : (Jvm.Cond.privateMethod ({ cls := "LetterFormsModel", name := "put", desc := "(III)V" } : Jvm.MethodName)) ∈ lw_tbl := lw_at lw_m7 63 rfl
theorem q1623 : (Jvm.Cond.instanceMethod ({ cls := "LetterFormsModel", name := "put", desc := "(III)V" } : Jvm.MethodName)) ∈ lw_all := lw_g (lw_at lw_m7 64 rfl) rfl
theorem q1624 : (Jvm.Cond.code ({ cls := "LetterFormsModel", name := "put", desc := "(III)V" } : Jvm.MethodName) prog_18_method_22_code (4 : Nat) (Option.none : Option Jvm.ClassFile.FieldType)) ∈ lw_all := lw_g (lw_at lw_m7 65 rfl) rfl
theorem q1625 : (Jvm.Cond.methodLink "LetterFormsModel" (244 : Nat) ({ cls := "LetterFormsModel", name := "valueAt", desc := "(III)I" } : Jvm.MethodName)) ∈ lw_all := lw_g (lw_at lw_m7 66 rfl) rfl
theorem q1626 : (Jvm.Cond.privateMethod ({ cls := "LetterFormsModel", name := "valueAt", desc := "(III)I" } : Jvm.MethodName)) ∈ lw_tbl := lw_at lw_m7 67 rfl
theorem q1627 : (Jvm.Cond.instanceMethod ({ cls := "LetterFormsModel", name := "valueAt", desc := "(III)I" } : Jvm.MethodName)) ∈ lw_all := lw_g (lw_at lw_m7 68 rfl) rfl
theorem q1628 : (Jvm.Cond.code ({ cls := "LetterFormsModel", name := "valueAt", desc := "(III)I" } : Jvm.MethodName) prog_18_method_38_code (6 : Nat) (Option.some Jvm.ClassFile.FieldType.int)) ∈ lw_all := lw_g (lw_at lw_m7 69 rfl) rfl
theorem q1629 : (Jvm.Cond.methodLink "LetterFormsModel" (103 : Nat) ({ cls := "LetterFormsModel", name := "of", desc := "(II)I" } : Jvm.MethodName)) ∈ lw_all := lw_g (lw_at lw_m7 70 rfl) rfl
theorem q1630 : (Jvm.Cond.privateMethod ({ cls := "LetterFormsModel", name := "of", desc := "(II)I" } : Jvm.MethodName)) ∈ lw_tbl := lw_at lw_m7 71 rfl
theorem q1631 : (Jvm.Cond.instanceMethod ({ cls := "LetterFormsModel", name := "of", desc := "(II)I" } : Jvm.MethodName)) ∈ lw_all := lw_g (lw_at lw_m7 72 rfl) rfl
theorem q1632 : (Jvm.Cond.code ({ cls := "LetterFormsModel", name := "of", desc := "(II)I" } : Jvm.MethodName) prog_18_method_21_code (3 : Nat) (Option.some Jvm.ClassFile.FieldType.int)) ∈ lw_all := lw_g (lw_at lw_m7 73 rfl) rfl
theorem q1634 : (Jvm.Cond.instanceMethod ({ cls := "LetterFormsModel", name := "mix", desc := "(II)Z" } : Jvm.MethodName)) ∈ lw_all := lw_g (lw_at lw_m7 75 rfl) rfl
theorem q1635 : (Jvm.Cond.selects "LetterFormsModel" ({ cls := "LetterFormsModel", name := "mix", desc := "(II)Z" } : Jvm.MethodName) ({ cls := "LetterFormsModel", name := "mix", desc := "(II)Z" } : Jvm.MethodName)) ∈ lw_all := lw_g (lw_at lw_m7 76 rfl) rfl
theorem q1636 : (Jvm.Cond.code ({ cls := "LetterFormsModel", name := "mix", desc := "(II)Z" } : Jvm.MethodName) prog_18_method_67_code (5 : Nat) (Option.some Jvm.ClassFile.FieldType.boolean)) ∈ lw_all := lw_g (lw_at lw_m7 77 rfl) rfl
theorem q1637 : (Jvm.Cond.methodLink "LetterFormsModel" (254 : Nat) ({ cls := "LetterFormsModel", name := "mixesForm", desc := "(I)Z" } : Jvm.MethodName)) ∈ lw_all := lw_g (lw_at lw_m7 78 rfl) rfl
theorem q1638 : (Jvm.Cond.privateMethod ({ cls := "LetterFormsModel", name := "mixesForm", desc := "(I)Z" } : Jvm.MethodName)) ∈ lw_tbl := lw_at lw_m7 79 rfl
theorem q1639 : (Jvm.Cond.instanceMethod ({ cls := "LetterFormsModel", name := "mixesForm", desc := "(I)Z" } : Jvm.MethodName)) ∈ lw_all := lw_g (lw_at lw_m7 80 rfl) rfl
theorem q1640 : (Jvm.Cond.code ({ cls := "LetterFormsModel", name := "mixesForm", desc := "(I)Z" } : Jvm.MethodName) prog_18_method_66_code (3 : Nat) (Option.some Jvm.ClassFile.FieldType.boolean)) ∈ lw_all := lw_g (lw_at lw_m7 81 rfl) rfl
theorem q1641 : (Jvm.Cond.methodLink "LetterFormsModel" (248 : Nat) ({ cls := "LetterFormsModel", name := "mixes", desc := "(II)V" } : Jvm.MethodName)) ∈ lw_all := lw_g (lw_at lw_m7 82 rfl) rfl
theorem q1642 : (Jvm.Cond.privateMethod ({ cls := "LetterFormsModel", name := "mixes", desc := "(II)V" } : Jvm.MethodName)) ∈ lw_tbl := lw_at lw_m7 83 rfl
theorem q1643 : (Jvm.Cond.instanceMethod ({ cls := "LetterFormsModel", name := "mixes", desc := "(II)V" } : Jvm.MethodName)) ∈ lw_all := lw_g (lw_at lw_m7 84 rfl) rfl
theorem q1644 : (Jvm.Cond.code ({ cls := "LetterFormsModel", name := "mixes", desc := "(II)V" } : Jvm.MethodName) prog_18_method_37_code (6 : Nat) (Option.none : Option Jvm.ClassFile.FieldType)) ∈ lw_all := lw_g (lw_at lw_m7 85 rfl) rfl
theorem q1645 : (Jvm.Cond.methodLink "LetterFormsModel" (106 : Nat) ({ cls := "LetterFormsModel", name := "clears", desc := "(II)V" } : Jvm.MethodName)) ∈ lw_all := lw_g (lw_at lw_m7 86 rfl) rfl
theorem q1646 : (Jvm.Cond.privateMethod ({ cls := "LetterFormsModel", name := "clears", desc := "(II)V" } : Jvm.MethodName)) ∈ lw_tbl := lw_at lw_m7 87 rfl
theorem q1647 : (Jvm.Cond.instanceMethod ({ cls := "LetterFormsModel", name := "clears", desc := "(II)V" } : Jvm.MethodName)) ∈ lw_all := lw_g (lw_at lw_m7 88 rfl) rfl
theorem q1648 : (Jvm.Cond.code ({ cls := "LetterFormsModel", name := "clears", desc := "(II)V" } : Jvm.MethodName) prog_18_method_25_code (4 : Nat) (Option.none : Option Jvm.ClassFile.FieldType)) ∈ lw_all := lw_g (lw_at lw_m7 89 rfl) rfl
theorem q1649 : (Jvm.Cond.methodLink "LetterFormsModel" (152 : Nat) ({ cls := "LetterFormsModel", name := "widens", desc := "(III)V" } : Jvm.MethodName)) ∈ lw_all := lw_g (lw_at lw_m7 90 rfl) rfl
theorem q1650 : (Jvm.Cond.privateMethod ({ cls := "LetterFormsModel", name := "widens", desc := "(III)V" } : Jvm.MethodName)) ∈ lw_tbl := lw_at lw_m7 91 rfl
theorem q1651 : (Jvm.Cond.instanceMethod ({ cls := "LetterFormsModel", name := "widens", desc := "(III)V" } : Jvm.MethodName)) ∈ lw_all := lw_g (lw_at lw_m7 92 rfl) rfl
theorem q1652 : (Jvm.Cond.code ({ cls := "LetterFormsModel", name := "widens", desc := "(III)V" } : Jvm.MethodName) prog_18_method_36_code (5 : Nat) (Option.none : Option Jvm.ClassFile.FieldType)) ∈ lw_all := lw_g (lw_at lw_m7 93 rfl) rfl
theorem q1653 : (Jvm.Cond.methodLink "LetterFormsModel" (251 : Nat) ({ cls := "LetterFormsModel", name := "isLike", desc := "(II)Z" } : Jvm.MethodName)) ∈ lw_all := lw_g (lw_at lw_m7 94 rfl) rfl
theorem q1654 : (Jvm.Cond.privateMethod ({ cls := "LetterFormsModel", name := "isLike", desc := "(II)Z" } : Jvm.MethodName)) ∈ lw_tbl := lw_at lw_m7 95 rfl
theorem q1655 : (Jvm.Cond.instanceMethod ({ cls := "LetterFormsModel", name := "isLike", desc := "(II)Z" } : Jvm.MethodName)) ∈ lw_all := lw_g (lw_at lw_m7 96 rfl) rfl
theorem q1656 : (Jvm.Cond.code ({ cls := "LetterFormsModel", name := "isLike", desc := "(II)Z" } : Jvm.MethodName) prog_18_method_27_code (5 : Nat) (Option.some Jvm.ClassFile.FieldType.boolean)) ∈ lw_all := lw_g (lw_at lw_m7 97 rfl) rfl
theorem q1658 : (Jvm.Cond.instanceMethod ({ cls := "LetterFormsModel", name := "undo", desc := "()I" } : Jvm.MethodName)) ∈ lw_all := lw_g (lw_at lw_m7 99 rfl) rfl
theorem q1659 : (Jvm.Cond.selects "LetterFormsModel" ({ cls := "LetterFormsModel", name := "undo", desc := "()I" } : Jvm.MethodName) ({ cls := "LetterFormsModel", name := "undo", desc := "()I" } : Jvm.MethodName)) ∈ lw_all := lw_g (lw_at lw_m7 100 rfl) rfl
theorem q1660 : (Jvm.Cond.code ({ cls := "LetterFormsModel", name := "undo", desc := "()I" } : Jvm.MethodName) prog_18_method_69_code (1 : Nat) (Option.some Jvm.ClassFile.FieldType.int)) ∈ lw_all := lw_g (lw_at lw_m7 101 rfl) rfl
theorem q1661 : (Jvm.Cond.methodLink "LetterFormsModel" (257 : Nat) ({ cls := "LetterFormsModel", name := "again", desc := "(IZ)I" } : Jvm.MethodName)) ∈ lw_all := lw_g (lw_at lw_m7 102 rfl) rfl
theorem q1662 : (Jvm.Cond.privateMethod ({ cls := "LetterFormsModel", name := "again", desc := "(IZ)I" } : Jvm.MethodName)) ∈ lw_tbl := lw_at lw_m7 103 rfl
theorem q1663 : (Jvm.Cond.instanceMethod ({ cls := "LetterFormsModel", name := "again", desc := "(IZ)I" } : Jvm.MethodName)) ∈ lw_all := lw_g (lw_at lw_m7 104 rfl) rfl
theorem q1664 : (Jvm.Cond.code ({ cls := "LetterFormsModel", name := "again", desc := "(IZ)I" } : Jvm.MethodName) prog_18_method_68_code (4 : Nat) (Option.some Jvm.ClassFile.FieldType.int)) ∈ lw_all := lw_g (lw_at lw_m7 105 rfl) rfl
theorem q1666 : (Jvm.Cond.instanceMethod ({ cls := "LetterFormsModel", name := "redo", desc := "()I" } : Jvm.MethodName)) ∈ lw_all := lw_g (lw_at lw_m7 107 rfl) rfl
theorem q1667 : (Jvm.Cond.selects "LetterFormsModel" ({ cls := "LetterFormsModel", name := "redo", desc := "()I" } : Jvm.MethodName) ({ cls := "LetterFormsModel", name := "redo", desc := "()I" } : Jvm.MethodName)) ∈ lw_all := lw_g (lw_at lw_m7 108 rfl) rfl
theorem q1668 : (Jvm.Cond.code ({ cls := "LetterFormsModel", name := "redo", desc := "()I" } : Jvm.MethodName) prog_18_method_70_code (1 : Nat) (Option.some Jvm.ClassFile.FieldType.int)) ∈ lw_all := lw_g (lw_at lw_m7 109 rfl) rfl
theorem q1670 : (Jvm.Cond.instanceMethod ({ cls := "LetterFormsModel", name := "value", desc := "(III)I" } : Jvm.MethodName)) ∈ lw_all := lw_g (lw_at lw_m7 111 rfl) rfl
theorem q1671 : (Jvm.Cond.selects "LetterFormsModel" ({ cls := "LetterFormsModel", name := "value", desc := "(III)I" } : Jvm.MethodName) ({ cls := "LetterFormsModel", name := "value", desc := "(III)I" } : Jvm.MethodName)) ∈ lw_all := lw_g (lw_at lw_m7 112 rfl) rfl
theorem q1672 : (Jvm.Cond.code ({ cls := "LetterFormsModel", name := "value", desc := "(III)I" } : Jvm.MethodName) prog_18_method_76_code (4 : Nat) (Option.some Jvm.ClassFile.FieldType.int)) ∈ lw_all := lw_g (lw_at lw_m7 113 rfl) rfl
theorem q1673 : (Jvm.Cond.methodLink "LetterFormsModel" (280 : Nat) ({ cls := "LetterFormsModel", name := "noSigns", desc := "(I)Z" } : Jvm.MethodName)) ∈ lw_all := lw_g (lw_at lw_m7 114 rfl) rfl
theorem q1674 : (Jvm.Cond.privateMethod ({ cls := "LetterFormsModel", name := "noSigns", desc := "(I)Z" } : Jvm.MethodName)) ∈ lw_tbl := lw_at lw_m7 115 rfl
theorem q1675 : (Jvm.Cond.instanceMethod ({ cls := "LetterFormsModel", name := "noSigns", desc := "(I)Z" } : Jvm.MethodName)) ∈ lw_all := lw_g (lw_at lw_m7 116 rfl) rfl
theorem q1676 : (Jvm.Cond.code ({ cls := "LetterFormsModel", name := "noSigns", desc := "(I)Z" } : Jvm.MethodName) prog_18_method_10_code (2 : Nat) (Option.some Jvm.ClassFile.FieldType.boolean)) ∈ lw_all := lw_g (lw_at lw_m7 117 rfl) rfl
theorem q1677 : (Jvm.Cond.methodLink "LetterFormsModel" (283 : Nat) ({ cls := "LetterFormsModel", name := "makes", desc := "(I)Z" } : Jvm.MethodName)) ∈ lw_all := lw_g (lw_at lw_m7 118 rfl) rfl
theorem q1678 : (Jvm.Cond.privateMethod ({ cls := "LetterFormsModel", name := "makes", desc := "(I)Z" } : Jvm.MethodName)) ∈ lw_tbl := lw_at lw_m7 119 rfl
theorem q1679 : (Jvm.Cond.instanceMethod ({ cls := "LetterFormsModel", name := "makes", desc := "(I)Z" } : Jvm.MethodName)) ∈ lw_all := lw_g (lw_at lw_m7 120 rfl) rfl
theorem q1680 : (Jvm.Cond.code ({ cls := "LetterFormsModel", name := "makes", desc := "(I)Z" } : Jvm.MethodName) prog_18_method_74_code (6 : Nat) (Option.some Jvm.ClassFile.FieldType.boolean)) ∈ lw_all := lw_g (lw_at lw_m7 121 rfl) rfl
theorem q1681 : (Jvm.Cond.methodLink "LetterFormsModel" (261 : Nat) ({ cls := "LetterFormsModel", name := "stepsOf", desc := "(I)I" } : Jvm.MethodName)) ∈ lw_all := lw_g (lw_at lw_m7 122 rfl) rfl
theorem q1682 : (Jvm.Cond.privateMethod ({ cls := "LetterFormsModel", name := "stepsOf", desc := "(I)I" } : Jvm.MethodName)) ∈ lw_tbl := lw_at lw_m7 123 rfl
theorem q1683 : (Jvm.Cond.instanceMethod ({ cls := "LetterFormsModel", name := "stepsOf", desc := "(I)I" } : Jvm.MethodName)) ∈ lw_all := lw_g (lw_at lw_m7 124 rfl) rfl
theorem q1684 : (Jvm.Cond.code ({ cls := "LetterFormsModel", name := "stepsOf", desc := "(I)I" } : Jvm.MethodName) prog_18_method_73_code (2 : Nat) (Option.some Jvm.ClassFile.FieldType.int)) ∈ lw_all := lw_g (lw_at lw_m7 125 rfl) rfl
theorem q1685 : (Jvm.Cond.methodLink "LetterFormsModel" (264 : Nat) ({ cls := "LetterFormsModel", name := "stepOf", desc := "(II)I" } : Jvm.MethodName)) ∈ lw_all := lw_g (lw_at lw_m7 126 rfl) rfl
theorem q1686 : (Jvm.Cond.privateMethod ({ cls := "LetterFormsModel", name := "stepOf", desc := "(II)I" } : Jvm.MethodName)) ∈ lw_tbl := lw_at lw_m7 127 rfl
theorem q1687 : (Jvm.Cond.instanceMethod ({ cls := "LetterFormsModel", name := "stepOf", desc := "(II)I" } : Jvm.MethodName)) ∈ lw_all := lw_g (lw_at lw_m7 128 rfl) rfl
theorem q1688 : (Jvm.Cond.code ({ cls := "LetterFormsModel", name := "stepOf", desc := "(II)I" } : Jvm.MethodName) prog_18_method_71_code (3 : Nat) (Option.some Jvm.ClassFile.FieldType.int)) ∈ lw_all := lw_g (lw_at lw_m7 129 rfl) rfl
theorem q1689 : (Jvm.Cond.methodLink "LetterFormsModel" (267 : Nat) ({ cls := "LetterFormsModel", name := "copies", desc := "(II)V" } : Jvm.MethodName)) ∈ lw_all := lw_g (lw_at lw_m7 130 rfl) rfl
theorem q1690 : (Jvm.Cond.privateMethod ({ cls := "LetterFormsModel", name := "copies", desc := "(II)V" } : Jvm.MethodName)) ∈ lw_tbl := lw_at lw_m7 131 rfl
theorem q1691 : (Jvm.Cond.instanceMethod ({ cls := "LetterFormsModel", name := "copies", desc := "(II)V" } : Jvm.MethodName)) ∈ lw_all := lw_g (lw_at lw_m7 132 rfl) rfl
theorem q1692 : (Jvm.Cond.code ({ cls := "LetterFormsModel", name := "copies", desc := "(II)V" } : Jvm.MethodName) prog_18_method_24_code (4 : Nat) (Option.none : Option Jvm.ClassFile.FieldType)) ∈ lw_all := lw_g (lw_at lw_m7 133 rfl) rfl
theorem q1693 : (Jvm.Cond.methodLink "LetterFormsModel" (270 : Nat) ({ cls := "LetterFormsModel", name := "toldBy", desc := "(II)I" } : Jvm.MethodName)) ∈ lw_all := lw_g (lw_at lw_m7 134 rfl) rfl
theorem q1694 : (Jvm.Cond.privateMethod ({ cls := "LetterFormsModel", name := "toldBy", desc := "(II)I" } : Jvm.MethodName)) ∈ lw_tbl := lw_at lw_m7 135 rfl
theorem q1695 : (Jvm.Cond.instanceMethod ({ cls := "LetterFormsModel", name := "toldBy", desc := "(II)I" } : Jvm.MethodName)) ∈ lw_all := lw_g (lw_at lw_m7 136 rfl) rfl
theorem q1696 : (Jvm.Cond.code ({ cls := "LetterFormsModel", name := "toldBy", desc := "(II)I" } : Jvm.MethodName) prog_18_method_72_code (3 : Nat) (Option.some Jvm.ClassFile.FieldType.int)) ∈ lw_all := lw_g (lw_at lw_m7 137 rfl) rfl
theorem q1697 : (Jvm.Cond.methodLink "LetterFormsModel" (273 : Nat) ({ cls := "LetterFormsModel", name := "joins", desc := "(IIII)Z" } : Jvm.MethodName)) ∈ lw_all := lw_g (lw_at lw_m7 138 rfl) rfl
theorem q1698 : (Jvm.Cond.privateMethod ({ cls := "LetterFormsModel", name := "joins", desc := "(IIII)Z" } : Jvm.MethodName)) ∈ lw_tbl := lw_at lw_m7 139 rfl
theorem q1699 : (Jvm.Cond.instanceMethod ({ cls := "LetterFormsModel", name := "joins", desc := "(IIII)Z" } : Jvm.MethodName)) ∈ lw_all := lw_g (lw_at lw_m7 140 rfl) rfl
theorem q1700 : (Jvm.Cond.code ({ cls := "LetterFormsModel", name := "joins", desc := "(IIII)Z" } : Jvm.MethodName) prog_18_method_75_code (6 : Nat) (Option.some Jvm.ClassFile.FieldType.boolean)) ∈ lw_all := lw_g (lw_at lw_m7 141 rfl) rfl
theorem q1701 : (Jvm.Cond.methodLink "LetterFormsModel" (125 : Nat) ({ cls := "LetterFormsModel", name := "multiplies", desc := "(III)V" } : Jvm.MethodName)) ∈ lw_all := lw_g (lw_at lw_m7 142 rfl) rfl
theorem q1702 : (Jvm.Cond.privateMethod ({ cls := "LetterFormsModel", name := "multiplies", desc := "(III)V" } : Jvm.MethodName)) ∈ lw_tbl := lw_at lw_m7 143 rfl
theorem q1703 : (Jvm.Cond.instanceMethod ({ cls := "LetterFormsModel", name := "multiplies", desc := "(III)V" } : Jvm.MethodName)) ∈ lw_all := lw_g (lw_at lw_m7 144 rfl) rfl
theorem q1704 : (Jvm.Cond.code ({ cls := "LetterFormsModel", name := "multiplies", desc := "(III)V" } : Jvm.MethodName) prog_18_method_28_code (6 : Nat) (Option.none : Option Jvm.ClassFile.FieldType)) ∈ lw_all := lw_g (lw_at lw_m7 145 rfl) rfl
theorem q1705 : (Jvm.Cond.methodLink "LetterFormsModel" (277 : Nat) ({ cls := "LetterFormsModel", name := "overlaps", desc := "(IIII)V" } : Jvm.MethodName)) ∈ lw_all := lw_g (lw_at lw_m7 146 rfl) rfl
theorem q1706 : (Jvm.Cond.privateMethod ({ cls := "LetterFormsModel", name := "overlaps", desc := "(IIII)V" } : Jvm.MethodName)) ∈ lw_tbl := lw_at lw_m7 147 rfl
theorem q1707 : (Jvm.Cond.instanceMethod ({ cls := "LetterFormsModel", name := "overlaps", desc := "(IIII)V" } : Jvm.MethodName)) ∈ lw_all := lw_g (lw_at lw_m7 148 rfl) rfl
theorem q1708 : (Jvm.Cond.code ({ cls := "LetterFormsModel", name := "overlaps", desc := "(IIII)V" } : Jvm.MethodName) prog_18_method_32_code (8 : Nat) (Option.none : Option Jvm.ClassFile.FieldType)) ∈ lw_all := lw_g (lw_at lw_m7 149 rfl) rfl
theorem q1709 : (Jvm.Cond.methodLink "LetterFormsModel" (121 : Nat) ({ cls := "LetterFormsModel", name := "differentiates", desc := "(IIII)V" } : Jvm.MethodName)) ∈ lw_all := lw_g (lw_at lw_m7 150 rfl) rfl
theorem q1710 : (Jvm.Cond.privateMethod ({ cls := "LetterFormsModel", name := "differentiates", desc := "(IIII)V" } : Jvm.MethodName)) ∈ lw_tbl := lw_at lw_m7 151 rfl
theorem q1711 : (Jvm.Cond.instanceMethod ({ cls := "LetterFormsModel", name := "differentiates", desc := "(IIII)V" } : Jvm.MethodName)) ∈ lw_all := lw_g (lw_at lw_m7 152 rfl) rfl
theorem q1712 : (Jvm.Cond.code ({ cls := "LetterFormsModel", name := "differentiates", desc := "(IIII)V" } : Jvm.MethodName) prog_18_method_30_code (6 : Nat) (Option.none : Option Jvm.ClassFile.FieldType)) ∈ lw_all := lw_g (lw_at lw_m7 153 rfl) rfl
theorem q1713 : (Jvm.Cond.methodLink "LetterFormsModel" (117 : Nat) ({ cls := "LetterFormsModel", name := "differs", desc := "(IIII)I" } : Jvm.MethodName)) ∈ lw_all := lw_g (lw_at lw_m7 154 rfl) rfl
theorem q1714 : (Jvm.Cond.privateMethod ({ cls := "LetterFormsModel", name := "differs", desc := "(IIII)I" } : Jvm.MethodName)) ∈ lw_tbl := lw_at lw_m7 155 rfl
theorem q1715 : (Jvm.Cond.instanceMethod ({ cls := "LetterFormsModel", name := "differs", desc := "(IIII)I" } : Jvm.MethodName)) ∈ lw_all := lw_g (lw_at lw_m7 156 rfl) rfl
theorem q1716 : (Jvm.Cond.code ({ cls := "LetterFormsModel", name := "differs", desc := "(IIII)I" } : Jvm.MethodName) prog_18_method_29_code (7 : Nat) (Option.some Jvm.ClassFile.FieldType.int)) ∈ lw_all := lw_g (lw_at lw_m7 157 rfl) rfl
theorem q1717 : (Jvm.Cond.methodLink "LetterFormsModel" (128 : Nat) ({ cls := "LetterFormsModel", name := "over", desc := "(II)I" } : Jvm.MethodName)) ∈ lw_all := lw_g (lw_at lw_m7 158 rfl) rfl
theorem q1718 : (Jvm.Cond.static ({ cls := "LetterFormsModel", name := "over", desc := "(II)I" } : Jvm.MethodName)) ∈ lw_all := lw_g (lw_at lw_m7 159 rfl) rfl
theorem q1719 : (Jvm.Cond.code ({ cls := "LetterFormsModel", name := "over", desc := "(II)I" } : Jvm.MethodName) prog_18_method_31_code (4 : Nat) (Option.some Jvm.ClassFile.FieldType.int)) ∈ lw_all := lw_g (lw_at lw_m7 160 rfl) rfl
theorem q1721 : (Jvm.Cond.instanceMethod ({ cls := "LetterFormsModel", name := "rank", desc := "(IZ)I" } : Jvm.MethodName)) ∈ lw_all := lw_g (lw_at lw_m7 162 rfl) rfl
theorem q1722 : (Jvm.Cond.selects "LetterFormsModel" ({ cls := "LetterFormsModel", name := "rank", desc := "(IZ)I" } : Jvm.MethodName) ({ cls := "LetterFormsModel", name := "rank", desc := "(IZ)I" } : Jvm.MethodName)) ∈ lw_all := lw_g (lw_at lw_m7 163 rfl) rfl
theorem q1723 : (Jvm.Cond.code ({ cls := "LetterFormsModel", name := "rank", desc := "(IZ)I" } : Jvm.MethodName) prog_18_method_78_code (3 : Nat) (Option.some Jvm.ClassFile.FieldType.int)) ∈ lw_all := lw_g (lw_at lw_m7 164 rfl) rfl
theorem q1724 : (Jvm.Cond.methodLink "LetterFormsModel" (286 : Nat) ({ cls := "LetterFormsModel", name := "rankOf", desc := "(IZ)I" } : Jvm.MethodName)) ∈ lw_all := lw_g (lw_at lw_m7 165 rfl) rfl
theorem q1725 : (Jvm.Cond.privateMethod ({ cls := "LetterFormsModel", name := "rankOf", desc := "(IZ)I" } : Jvm.MethodName)) ∈ lw_tbl := lw_at lw_m7 166 rfl
theorem q1726 : (Jvm.Cond.instanceMethod ({ cls := "LetterFormsModel", name := "rankOf", desc := "(IZ)I" } : Jvm.MethodName)) ∈ lw_all := lw_g (lw_at lw_m7 167 rfl) rfl
theorem q1727 : (Jvm.Cond.code ({ cls := "LetterFormsModel", name := "rankOf", desc := "(IZ)I" } : Jvm.MethodName) prog_18_method_77_code (9 : Nat) (Option.some Jvm.ClassFile.FieldType.int)) ∈ lw_all := lw_g (lw_at lw_m7 168 rfl) rfl
theorem q1729 : (Jvm.Cond.instanceMethod ({ cls := "LetterFormsModel", name := "stays", desc := "(III)Z" } : Jvm.MethodName)) ∈ lw_all := lw_g (lw_at lw_m7 170 rfl) rfl
theorem q1730 : (Jvm.Cond.selects "LetterFormsModel" ({ cls := "LetterFormsModel", name := "stays", desc := "(III)Z" } : Jvm.MethodName) ({ cls := "LetterFormsModel", name := "stays", desc := "(III)Z" } : Jvm.MethodName)) ∈ lw_all := lw_g (lw_at lw_m7 171 rfl) rfl
theorem q1731 : (Jvm.Cond.code ({ cls := "LetterFormsModel", name := "stays", desc := "(III)Z" } : Jvm.MethodName) prog_18_method_79_code (7 : Nat) (Option.some Jvm.ClassFile.FieldType.boolean)) ∈ lw_all := lw_g (lw_at lw_m7 172 rfl) rfl
theorem q1733 : (Jvm.Cond.instanceMethod ({ cls := "LetterFormsModel", name := "agree", desc := "(III)I" } : Jvm.MethodName)) ∈ lw_all := lw_g (lw_at lw_m7 174 rfl) rfl
theorem q1734 : (Jvm.Cond.selects "LetterFormsModel" ({ cls := "LetterFormsModel", name := "agree", desc := "(III)I" } : Jvm.MethodName) ({ cls := "LetterFormsModel", name := "agree", desc := "(III)I" } : Jvm.MethodName)) ∈ lw_all := lw_g (lw_at lw_m7 175 rfl) rfl
theorem q1735 : (Jvm.Cond.code ({ cls := "LetterFormsModel", name := "agree", desc := "(III)I" } : Jvm.MethodName) prog_18_method_80_code (7 : Nat) (Option.some Jvm.ClassFile.FieldType.int)) ∈ lw_all := lw_g (lw_at lw_m7 176 rfl) rfl
theorem q1737 : (Jvm.Cond.instanceMethod ({ cls := "LetterFormsModel", name := "count", desc := "(III)J" } : Jvm.MethodName)) ∈ lw_all := lw_g (lw_at lw_m7 178 rfl) rfl
theorem q1738 : (Jvm.Cond.selects "LetterFormsModel" ({ cls := "LetterFormsModel", name := "count", desc := "(III)J" } : Jvm.MethodName) ({ cls := "LetterFormsModel", name := "count", desc := "(III)J" } : Jvm.MethodName)) ∈ lw_all := lw_g (lw_at lw_m7 179 rfl) rfl
theorem q1739 : (Jvm.Cond.code ({ cls := "LetterFormsModel", name := "count", desc := "(III)J" } : Jvm.MethodName) prog_18_method_82_code (5 : Nat) (Option.some Jvm.ClassFile.FieldType.long)) ∈ lw_all := lw_g (lw_at lw_m7 180 rfl) rfl
theorem q1740 : (Jvm.Cond.methodLink "LetterFormsModel" (289 : Nat) ({ cls := "LetterFormsModel", name := "waysOf", desc := "(III)J" } : Jvm.MethodName)) ∈ lw_all := lw_g (lw_at lw_m7 181 rfl) rfl
theorem q1741 : (Jvm.Cond.privateMethod ({ cls := "LetterFormsModel", name := "waysOf", desc := "(III)J" } : Jvm.MethodName)) ∈ lw_tbl := lw_at lw_m7 182 rfl
theorem q1742 : (Jvm.Cond.instanceMethod ({ cls := "LetterFormsModel", name := "waysOf", desc := "(III)J" } : Jvm.MethodName)) ∈ lw_all := lw_g (lw_at lw_m7 183 rfl) rfl
theorem q1743 : (Jvm.Cond.code ({ cls := "LetterFormsModel", name := "waysOf", desc := "(III)J" } : Jvm.MethodName) prog_18_method_81_code (7 : Nat) (Option.some Jvm.ClassFile.FieldType.long)) ∈ lw_all := lw_g (lw_at lw_m7 184 rfl) rfl
theorem q1745 : (Jvm.Cond.instanceMethod ({ cls := "LetterFormsModel", name := "span", desc := "(III)I" } : Jvm.MethodName)) ∈ lw_all := lw_g (lw_at lw_m7 186 rfl) rfl
theorem q1746 : (Jvm.Cond.selects "LetterFormsModel" ({ cls := "LetterFormsModel", name := "span", desc := "(III)I" } : Jvm.MethodName) ({ cls := "LetterFormsModel", name := "span", desc := "(III)I" } : Jvm.MethodName)) ∈ lw_all := lw_g (lw_at lw_m7 187 rfl) rfl
theorem q1747 : (Jvm.Cond.code ({ cls := "LetterFormsModel", name := "span", desc := "(III)I" } : Jvm.MethodName) prog_18_method_88_code (5 : Nat) (Option.some Jvm.ClassFile.FieldType.int)) ∈ lw_all := lw_g (lw_at lw_m7 188 rfl) rfl
theorem q1748 : (Jvm.Cond.methodLink "LetterFormsModel" (309 : Nat) ({ cls := "LetterFormsModel", name := "basisOf", desc := "(III)I" } : Jvm.MethodName)) ∈ lw_all := lw_g (lw_at lw_m7 189 rfl) rfl
theorem q1749 : (Jvm.Cond.privateMethod ({ cls := "LetterFormsModel", name := "basisOf", desc := "(III)I" } : Jvm.MethodName)) ∈ lw_tbl := lw_at lw_m7 190 rfl
theorem q1750 : (Jvm.Cond.instanceMethod ({ cls := "LetterFormsModel", name := "basisOf", desc := "(III)I" } : Jvm.MethodName)) ∈ lw_all := lw_g (lw_at lw_m7 191 rfl) rfl
theorem q1751 : (Jvm.Cond.code ({ cls := "LetterFormsModel", name := "basisOf", desc := "(III)I" } : Jvm.MethodName) prog_18_method_87_code (8 : Nat) (Option.some Jvm.ClassFile.FieldType.int)) ∈ lw_all := lw_g (lw_at lw_m7 192 rfl) rfl
theorem q1752 : (Jvm.Cond.methodLink "LetterFormsModel" (300 : Nat) ({ cls := "LetterFormsModel", name := "draws", desc := "(II)V" } : Jvm.MethodName)) ∈ lw_all := lw_g (lw_at lw_m7 193 rfl) rfl
theorem q1753 : (Jvm.Cond.privateMethod ({ cls := "LetterFormsModel", name := "draws", desc := "(II)V" } : Jvm.MethodName)) ∈ lw_tbl := lw_at lw_m7 194 rfl
theorem q1754 : (Jvm.Cond.instanceMethod ({ cls := "LetterFormsModel", name := "draws", desc := "(II)V" } : Jvm.MethodName)) ∈ lw_all := lw_g (lw_at lw_m7 195 rfl) rfl
theorem q1755 : (Jvm.Cond.code ({ cls := "LetterFormsModel", name := "draws", desc := "(II)V" } : Jvm.MethodName) prog_18_method_83_code (5 : Nat) (Option.none : Option Jvm.ClassFile.FieldType)) ∈ lw_all := lw_g (lw_at lw_m7 196 rfl) rfl
theorem q1756 : (Jvm.Cond.constant "LetterFormsModel" (293 : Nat) (1103515245 : Int32)) ∈ lw_all := lw_g (lw_at lw_m7 197 rfl) rfl
theorem q1757 : (Jvm.Cond.methodLink "LetterFormsModel" (303 : Nat) ({ cls := "LetterFormsModel", name := "rowOf", desc := "(IIII)Z" } : Jvm.MethodName)) ∈ lw_all := lw_g (lw_at lw_m7 198 rfl) rfl
theorem q1758 : (Jvm.Cond.privateMethod ({ cls := "LetterFormsModel", name := "rowOf", desc := "(IIII)Z" } : Jvm.MethodName)) ∈ lw_tbl := lw_at lw_m7 199 rfl
theorem q1759 : (Jvm.Cond.instanceMethod ({ cls := "LetterFormsModel", name := "rowOf", desc := "(IIII)Z" } : Jvm.MethodName)) ∈ lw_all := lw_g (lw_at lw_m7 200 rfl) rfl
theorem q1760 : (Jvm.Cond.code ({ cls := "LetterFormsModel", name := "rowOf", desc := "(IIII)Z" } : Jvm.MethodName) prog_18_method_84_code (7 : Nat) (Option.some Jvm.ClassFile.FieldType.boolean)) ∈ lw_all := lw_g (lw_at lw_m7 201 rfl) rfl
theorem q1761 : (Jvm.Cond.methodLink "LetterFormsModel" (306 : Nat) ({ cls := "LetterFormsModel", name := "isNew", desc := "(II)Z" } : Jvm.MethodName)) ∈ lw_all := lw_g (lw_at lw_m7 202 rfl) rfl
theorem q1762 : (Jvm.Cond.privateMethod ({ cls := "LetterFormsModel", name := "isNew", desc := "(II)Z" } : Jvm.MethodName)) ∈ lw_tbl := lw_at lw_m7 203 rfl
theorem q1763 : (Jvm.Cond.instanceMethod ({ cls := "LetterFormsModel", name := "isNew", desc := "(II)Z" } : Jvm.MethodName)) ∈ lw_all := lw_g (lw_at lw_m7 204 rfl) rfl
theorem q1764 : (Jvm.Cond.code ({ cls := "LetterFormsModel", name := "isNew", desc := "(II)Z" } : Jvm.MethodName) prog_18_method_86_code (7 : Nat) (Option.some Jvm.ClassFile.FieldType.boolean)) ∈ lw_all := lw_g (lw_at lw_m7 205 rfl) rfl
theorem q1765 : (Jvm.Cond.methodLink "LetterFormsModel" (297 : Nat) ({ cls := "LetterFormsModel", name := "firstOf", desc := "(I)I" } : Jvm.MethodName)) ∈ lw_all := lw_g (lw_at lw_m7 206 rfl) rfl
theorem q1766 : (Jvm.Cond.privateMethod ({ cls := "LetterFormsModel", name := "firstOf", desc := "(I)I" } : Jvm.MethodName)) ∈ lw_tbl := lw_at lw_m7 207 rfl
theorem q1767 : (Jvm.Cond.instanceMethod ({ cls := "LetterFormsModel", name := "firstOf", desc := "(I)I" } : Jvm.MethodName)) ∈ lw_all := lw_g (lw_at lw_m7 208 rfl) rfl
theorem q1768 : (Jvm.Cond.code ({ cls := "LetterFormsModel", name := "firstOf", desc := "(I)I" } : Jvm.MethodName) prog_18_method_85_code (3 : Nat) (Option.some Jvm.ClassFile.FieldType.int)) ∈ lw_all := lw_g (lw_at lw_m7 209 rfl) rfl
theorem q1769 : (Jvm.Cond.methodLink "LetterFormsModel" (312 : Nat) ({ cls := "java/lang/Integer", name := "bitCount", desc := "(I)I" } : Jvm.MethodName)) ∈ lw_all := lw_g (lw_at lw_m7 210 rfl) rfl
theorem q1776 : (Jvm.Cond.instanceMethod ({ cls := "LetterFormsModel", name := "basis", desc := "(III)I" } : Jvm.MethodName)) ∈ lw_all := lw_g (lw_at lw_m7 217 rfl) rfl
theorem q1777 : (Jvm.Cond.selects "LetterFormsModel" ({ cls := "LetterFormsModel", name := "basis", desc := "(III)I" } : Jvm.MethodName) ({ cls := "LetterFormsModel", name := "basis", desc := "(III)I" } : Jvm.MethodName)) ∈ lw_all := lw_g (lw_at lw_m7 218 rfl) rfl
theorem q1778 : (Jvm.Cond.code ({ cls := "LetterFormsModel", name := "basis", desc := "(III)I" } : Jvm.MethodName) prog_18_method_89_code (4 : Nat) (Option.some Jvm.ClassFile.FieldType.int)) ∈ lw_all := lw_g (lw_at lw_m7 219 rfl) rfl
theorem q1780 : (Jvm.Cond.instanceMethod ({ cls := "LetterFormsModel", name := "root", desc := "(II)I" } : Jvm.MethodName)) ∈ lw_all := lw_g (lw_at lw_m7 221 rfl) rfl
theorem q1781 : (Jvm.Cond.selects "LetterFormsModel" ({ cls := "LetterFormsModel", name := "root", desc := "(II)I" } : Jvm.MethodName) ({ cls := "LetterFormsModel", name := "root", desc := "(II)I" } : Jvm.MethodName)) ∈ lw_all := lw_g (lw_at lw_m7 222 rfl) rfl
theorem q1782 : (Jvm.Cond.code ({ cls := "LetterFormsModel", name := "root", desc := "(II)I" } : Jvm.MethodName) prog_18_method_92_code (3 : Nat) (Option.some Jvm.ClassFile.FieldType.int)) ∈ lw_all := lw_g (lw_at lw_m7 223 rfl) rfl
theorem q1783 : (Jvm.Cond.methodLink "LetterFormsModel" (317 : Nat) ({ cls := "LetterFormsModel", name := "noPoint", desc := "(I)Z" } : Jvm.MethodName)) ∈ lw_all := lw_g (lw_at lw_m7 224 rfl) rfl
theorem q1784 : (Jvm.Cond.privateMethod ({ cls := "LetterFormsModel", name := "noPoint", desc := "(I)Z" } : Jvm.MethodName)) ∈ lw_tbl := lw_at lw_m7 225 rfl
theorem q1785 : (Jvm.Cond.instanceMethod ({ cls := "LetterFormsModel", name := "noPoint", desc := "(I)Z" } : Jvm.MethodName)) ∈ lw_all := lw_g (lw_at lw_m7 226 rfl) rfl
theorem q1786 : (Jvm.Cond.code ({ cls := "LetterFormsModel", name := "noPoint", desc := "(I)Z" } : Jvm.MethodName) prog_18_method_90_code (2 : Nat) (Option.some Jvm.ClassFile.FieldType.boolean)) ∈ lw_all := lw_g (lw_at lw_m7 227 rfl) rfl
theorem q1787 : (Jvm.Cond.methodLink "LetterFormsModel" (320 : Nat) ({ cls := "LetterFormsModel", name := "isNought", desc := "(I)Z" } : Jvm.MethodName)) ∈ lw_all := lw_g (lw_at lw_m7 228 rfl) rfl
theorem q1788 : (Jvm.Cond.privateMethod ({ cls := "LetterFormsModel", name := "isNought", desc := "(I)Z" } : Jvm.MethodName)) ∈ lw_tbl := lw_at lw_m7 229 rfl
theorem q1789 : (Jvm.Cond.instanceMethod ({ cls := "LetterFormsModel", name := "isNought", desc := "(I)Z" } : Jvm.MethodName)) ∈ lw_all := lw_g (lw_at lw_m7 230 rfl) rfl
theorem q1790 : (Jvm.Cond.code ({ cls := "LetterFormsModel", name := "isNought", desc := "(I)Z" } : Jvm.MethodName) prog_18_method_26_code (4 : Nat) (Option.some Jvm.ClassFile.FieldType.boolean)) ∈ lw_all := lw_g (lw_at lw_m7 231 rfl) rfl
theorem q1791 : (Jvm.Cond.methodLink "LetterFormsModel" (323 : Nat) ({ cls := "LetterFormsModel", name := "oftenRoot", desc := "(II)I" } : Jvm.MethodName)) ∈ lw_all := lw_g (lw_at lw_m7 232 rfl) rfl
theorem q1792 : (Jvm.Cond.privateMethod ({ cls := "LetterFormsModel", name := "oftenRoot", desc := "(II)I" } : Jvm.MethodName)) ∈ lw_tbl := lw_at lw_m7 233 rfl
theorem q1793 : (Jvm.Cond.instanceMethod ({ cls := "LetterFormsModel", name := "oftenRoot", desc := "(II)I" } : Jvm.MethodName)) ∈ lw_all := lw_g (lw_at lw_m7 234 rfl) rfl
theorem q1794 : (Jvm.Cond.code ({ cls := "LetterFormsModel", name := "oftenRoot", desc := "(II)I" } : Jvm.MethodName) prog_18_method_91_code (5 : Nat) (Option.some Jvm.ClassFile.FieldType.int)) ∈ lw_all := lw_g (lw_at lw_m7 235 rfl) rfl
theorem q1796 : (Jvm.Cond.instanceMethod ({ cls := "LetterFormsModel", name := "roots", desc := "(I)I" } : Jvm.MethodName)) ∈ lw_all := lw_g (lw_at lw_m7 237 rfl) rfl
theorem q1797 : (Jvm.Cond.selects "LetterFormsModel" ({ cls := "LetterFormsModel", name := "roots", desc := "(I)I" } : Jvm.MethodName) ({ cls := "LetterFormsModel", name := "roots", desc := "(I)I" } : Jvm.MethodName)) ∈ lw_all := lw_g (lw_at lw_m7 238 rfl) rfl
theorem q1798 : (Jvm.Cond.code ({ cls := "LetterFormsModel", name := "roots", desc := "(I)I" } : Jvm.MethodName) prog_18_method_93_code (4 : Nat) (Option.some Jvm.ClassFile.FieldType.int)) ∈ lw_all := lw_g (lw_at lw_m7 239 rfl) rfl
theorem q1800 : (Jvm.Cond.instanceMethod ({ cls := "LetterFormsModel", name := "empty", desc := "(I)Z" } : Jvm.MethodName)) ∈ lw_all := lw_g (lw_at lw_m8 1 rfl) rfl
theorem q1801 : (Jvm.Cond.selects "LetterFormsModel" ({ cls := "LetterFormsModel", name := "empty", desc := "(I)Z" } : Jvm.MethodName) ({ cls := "LetterFormsModel", name := "empty", desc := "(I)Z" } : Jvm.MethodName)) ∈ lw_all := lw_g (lw_at lw_m8 2 rfl) rfl
theorem q1802 : (Jvm.Cond.code ({ cls := "LetterFormsModel", name := "empty", desc := "(I)Z" } : Jvm.MethodName) prog_18_method_94_code (4 : Nat) (Option.some Jvm.ClassFile.FieldType.boolean)) ∈ lw_all := lw_g (lw_at lw_m8 3 rfl) rfl
theorem q1804 : (Jvm.Cond.instanceMethod ({ cls := "LetterFormsModel", name := "same", desc := "(II)I" } : Jvm.MethodName)) ∈ lw_all := lw_g (lw_at lw_m8 5 rfl) rfl
theorem q1805 : (Jvm.Cond.selects "LetterFormsModel" ({ cls := "LetterFormsModel", name := "same", desc := "(II)I" } : Jvm.MethodName) ({ cls := "LetterFormsModel", name := "same", desc := "(II)I" } : Jvm.MethodName)) ∈ lw_all := lw_g (lw_at lw_m8 6 rfl) rfl
theorem q1806 : (Jvm.Cond.code ({ cls := "LetterFormsModel", name := "same", desc := "(II)I" } : Jvm.MethodName) prog_18_method_98_code (3 : Nat) (Option.some Jvm.ClassFile.FieldType.int)) ∈ lw_all := lw_g (lw_at lw_m8 7 rfl) rfl
theorem q1807 : (Jvm.Cond.methodLink "LetterFormsModel" (333 : Nat) ({ cls := "LetterFormsModel", name := "sameOf", desc := "(II)I" } : Jvm.MethodName)) ∈ lw_all := lw_g (lw_at lw_m8 8 rfl) rfl
theorem q1808 : (Jvm.Cond.privateMethod ({ cls := "LetterFormsModel", name := "sameOf", desc := "(II)I" } : Jvm.MethodName)) ∈ lw_tbl := lw_at lw_m8 9 rfl
theorem q1809 : (Jvm.Cond.instanceMethod ({ cls := "LetterFormsModel", name := "sameOf", desc := "(II)I" } : Jvm.MethodName)) ∈ lw_all := lw_g (lw_at lw_m8 10 rfl) rfl
theorem q1810 : (Jvm.Cond.code ({ cls := "LetterFormsModel", name := "sameOf", desc := "(II)I" } : Jvm.MethodName) prog_18_method_97_code (3 : Nat) (Option.some Jvm.ClassFile.FieldType.int)) ∈ lw_all := lw_g (lw_at lw_m8 11 rfl) rfl
theorem q1811 : (Jvm.Cond.methodLink "LetterFormsModel" (329 : Nat) ({ cls := "LetterFormsModel", name := "tried", desc := "(Z)I" } : Jvm.MethodName)) ∈ lw_all := lw_g (lw_at lw_m8 12 rfl) rfl
theorem q1812 : (Jvm.Cond.privateMethod ({ cls := "LetterFormsModel", name := "tried", desc := "(Z)I" } : Jvm.MethodName)) ∈ lw_tbl := lw_at lw_m8 13 rfl
theorem q1813 : (Jvm.Cond.instanceMethod ({ cls := "LetterFormsModel", name := "tried", desc := "(Z)I" } : Jvm.MethodName)) ∈ lw_all := lw_g (lw_at lw_m8 14 rfl) rfl
theorem q1814 : (Jvm.Cond.code ({ cls := "LetterFormsModel", name := "tried", desc := "(Z)I" } : Jvm.MethodName) prog_18_method_96_code (9 : Nat) (Option.some Jvm.ClassFile.FieldType.int)) ∈ lw_all := lw_g (lw_at lw_m8 15 rfl) rfl
theorem q1815 : (Jvm.Cond.methodLink "LetterFormsModel" (326 : Nat) ({ cls := "LetterFormsModel", name := "values", desc := "(I)V" } : Jvm.MethodName)) ∈ lw_all := lw_g (lw_at lw_m8 16 rfl) rfl
theorem q1816 : (Jvm.Cond.privateMethod ({ cls := "LetterFormsModel", name := "values", desc := "(I)V" } : Jvm.MethodName)) ∈ lw_tbl := lw_at lw_m8 17 rfl
theorem q1817 : (Jvm.Cond.instanceMethod ({ cls := "LetterFormsModel", name := "values", desc := "(I)V" } : Jvm.MethodName)) ∈ lw_all := lw_g (lw_at lw_m8 18 rfl) rfl
theorem q1818 : (Jvm.Cond.code ({ cls := "LetterFormsModel", name := "values", desc := "(I)V" } : Jvm.MethodName) prog_18_method_95_code (4 : Nat) (Option.none : Option Jvm.ClassFile.FieldType)) ∈ lw_all := lw_g (lw_at lw_m8 19 rfl) rfl
theorem q1820 : (Jvm.Cond.instanceMethod ({ cls := "LetterFormsModel", name := "keep", desc := "(I)I" } : Jvm.MethodName)) ∈ lw_all := lw_g (lw_at lw_m8 21 rfl) rfl
theorem q1821 : (Jvm.Cond.selects "LetterFormsModel" ({ cls := "LetterFormsModel", name := "keep", desc := "(I)I" } : Jvm.MethodName) ({ cls := "LetterFormsModel", name := "keep", desc := "(I)I" } : Jvm.MethodName)) ∈ lw_all := lw_g (lw_at lw_m8 22 rfl) rfl
theorem q1822 : (Jvm.Cond.code ({ cls := "LetterFormsModel", name := "keep", desc := "(I)I" } : Jvm.MethodName) prog_18_method_101_code (2 : Nat) (Option.some Jvm.ClassFile.FieldType.int)) ∈ lw_all := lw_g (lw_at lw_m8 23 rfl) rfl
theorem q1823 : (Jvm.Cond.methodLink "LetterFormsModel" (339 : Nat) ({ cls := "LetterFormsModel", name := "keeps", desc := "(I)I" } : Jvm.MethodName)) ∈ lw_all := lw_g (lw_at lw_m8 24 rfl) rfl
theorem q1824 : (Jvm.Cond.privateMethod ({ cls := "LetterFormsModel", name := "keeps", desc := "(I)I" } : Jvm.MethodName)) ∈ lw_tbl := lw_at lw_m8 25 rfl
theorem q1825 : (Jvm.Cond.instanceMethod ({ cls := "LetterFormsModel", name := "keeps", desc := "(I)I" } : Jvm.MethodName)) ∈ lw_all := lw_g (lw_at lw_m8 26 rfl) rfl
theorem q1826 : (Jvm.Cond.code ({ cls := "LetterFormsModel", name := "keeps", desc := "(I)I" } : Jvm.MethodName) prog_18_method_100_code (2 : Nat) (Option.some Jvm.ClassFile.FieldType.int)) ∈ lw_all := lw_g (lw_at lw_m8 27 rfl) rfl
theorem q1827 : (Jvm.Cond.methodLink "LetterFormsModel" (336 : Nat) ({ cls := "LetterFormsModel", name := "allTables", desc := "()I" } : Jvm.MethodName)) ∈ lw_all := lw_g (lw_at lw_m8 28 rfl) rfl
theorem q1828 : (Jvm.Cond.privateMethod ({ cls := "LetterFormsModel", name := "allTables", desc := "()I" } : Jvm.MethodName)) ∈ lw_tbl := lw_at lw_m8 29 rfl
theorem q1829 : (Jvm.Cond.instanceMethod ({ cls := "LetterFormsModel", name := "allTables", desc := "()I" } : Jvm.MethodName)) ∈ lw_all := lw_g (lw_at lw_m8 30 rfl) rfl
theorem q1830 : (Jvm.Cond.code ({ cls := "LetterFormsModel", name := "allTables", desc := "()I" } : Jvm.MethodName) prog_18_method_99_code (1 : Nat) (Option.some Jvm.ClassFile.FieldType.int)) ∈ lw_all := lw_g (lw_at lw_m8 31 rfl) rfl
theorem q1832 : (Jvm.Cond.instanceMethod ({ cls := "LetterFormsModel", name := "orbit", desc := "(I)I" } : Jvm.MethodName)) ∈ lw_all := lw_g (lw_at lw_m8 33 rfl) rfl
theorem q1833 : (Jvm.Cond.selects "LetterFormsModel" ({ cls := "LetterFormsModel", name := "orbit", desc := "(I)I" } : Jvm.MethodName) ({ cls := "LetterFormsModel", name := "orbit", desc := "(I)I" } : Jvm.MethodName)) ∈ lw_all := lw_g (lw_at lw_m8 34 rfl) rfl
theorem q1834 : (Jvm.Cond.code ({ cls := "LetterFormsModel", name := "orbit", desc := "(I)I" } : Jvm.MethodName) prog_18_method_102_code (2 : Nat) (Option.some Jvm.ClassFile.FieldType.int)) ∈ lw_all := lw_g (lw_at lw_m8 35 rfl) rfl
theorem q1836 : (Jvm.Cond.instanceMethod ({ cls := "LetterFormsModel", name := "kind", desc := "(I)I" } : Jvm.MethodName)) ∈ lw_all := lw_g (lw_at lw_m8 37 rfl) rfl
theorem q1837 : (Jvm.Cond.selects "LetterFormsModel" ({ cls := "LetterFormsModel", name := "kind", desc := "(I)I" } : Jvm.MethodName) ({ cls := "LetterFormsModel", name := "kind", desc := "(I)I" } : Jvm.MethodName)) ∈ lw_all := lw_g (lw_at lw_m8 38 rfl) rfl
theorem q1838 : (Jvm.Cond.code ({ cls := "LetterFormsModel", name := "kind", desc := "(I)I" } : Jvm.MethodName) prog_18_method_103_code (3 : Nat) (Option.some Jvm.ClassFile.FieldType.int)) ∈ lw_all := lw_g (lw_at lw_m8 39 rfl) rfl
theorem q1840 : (Jvm.Cond.instanceMethod ({ cls := "LetterFormsModel", name := "powers", desc := "(II)I" } : Jvm.MethodName)) ∈ lw_all := lw_g (lw_at lw_m8 41 rfl) rfl
theorem q1841 : (Jvm.Cond.selects "LetterFormsModel" ({ cls := "LetterFormsModel", name := "powers", desc := "(II)I" } : Jvm.MethodName) ({ cls := "LetterFormsModel", name := "powers", desc := "(II)I" } : Jvm.MethodName)) ∈ lw_all := lw_g (lw_at lw_m8 42 rfl) rfl
theorem q1842 : (Jvm.Cond.code ({ cls := "LetterFormsModel", name := "powers", desc := "(II)I" } : Jvm.MethodName) prog_18_method_110_code (3 : Nat) (Option.some Jvm.ClassFile.FieldType.int)) ∈ lw_all := lw_g (lw_at lw_m8 43 rfl) rfl
theorem q1843 : (Jvm.Cond.methodLink "LetterFormsModel" (354 : Nat) ({ cls := "LetterFormsModel", name := "raises", desc := "(I)V" } : Jvm.MethodName)) ∈ lw_all := lw_g (lw_at lw_m8 44 rfl) rfl
theorem q1844 : (Jvm.Cond.privateMethod ({ cls := "LetterFormsModel", name := "raises", desc := "(I)V" } : Jvm.MethodName)) ∈ lw_tbl := lw_at lw_m8 45 rfl
theorem q1845 : (Jvm.Cond.instanceMethod ({ cls := "LetterFormsModel", name := "raises", desc := "(I)V" } : Jvm.MethodName)) ∈ lw_all := lw_g (lw_at lw_m8 46 rfl) rfl
theorem q1846 : (Jvm.Cond.code ({ cls := "LetterFormsModel", name := "raises", desc := "(I)V" } : Jvm.MethodName) prog_18_method_105_code (4 : Nat) (Option.none : Option Jvm.ClassFile.FieldType)) ∈ lw_all := lw_g (lw_at lw_m8 47 rfl) rfl
theorem q1847 : (Jvm.Cond.methodLink "LetterFormsModel" (360 : Nat) ({ cls := "LetterFormsModel", name := "isSum", desc := "(I)Z" } : Jvm.MethodName)) ∈ lw_all := lw_g (lw_at lw_m8 48 rfl) rfl
theorem q1848 : (Jvm.Cond.privateMethod ({ cls := "LetterFormsModel", name := "isSum", desc := "(I)Z" } : Jvm.MethodName)) ∈ lw_tbl := lw_at lw_m8 49 rfl
theorem q1849 : (Jvm.Cond.instanceMethod ({ cls := "LetterFormsModel", name := "isSum", desc := "(I)Z" } : Jvm.MethodName)) ∈ lw_all := lw_g (lw_at lw_m8 50 rfl) rfl
theorem q1850 : (Jvm.Cond.code ({ cls := "LetterFormsModel", name := "isSum", desc := "(I)Z" } : Jvm.MethodName) prog_18_method_107_code (5 : Nat) (Option.some Jvm.ClassFile.FieldType.boolean)) ∈ lw_all := lw_g (lw_at lw_m8 51 rfl) rfl
theorem q1851 : (Jvm.Cond.methodLink "LetterFormsModel" (345 : Nat) ({ cls := "LetterFormsModel", name := "isLast", desc := "(I)Z" } : Jvm.MethodName)) ∈ lw_all := lw_g (lw_at lw_m8 52 rfl) rfl
theorem q1852 : (Jvm.Cond.privateMethod ({ cls := "LetterFormsModel", name := "isLast", desc := "(I)Z" } : Jvm.MethodName)) ∈ lw_tbl := lw_at lw_m8 53 rfl
theorem q1853 : (Jvm.Cond.instanceMethod ({ cls := "LetterFormsModel", name := "isLast", desc := "(I)Z" } : Jvm.MethodName)) ∈ lw_all := lw_g (lw_at lw_m8 54 rfl) rfl
theorem q1854 : (Jvm.Cond.code ({ cls := "LetterFormsModel", name := "isLast", desc := "(I)Z" } : Jvm.MethodName) prog_18_method_106_code (6 : Nat) (Option.some Jvm.ClassFile.FieldType.boolean)) ∈ lw_all := lw_g (lw_at lw_m8 55 rfl) rfl
theorem q1855 : (Jvm.Cond.methodLink "LetterFormsModel" (342 : Nat) ({ cls := "LetterFormsModel", name := "powerAt", desc := "(II)I" } : Jvm.MethodName)) ∈ lw_all := lw_g (lw_at lw_m8 56 rfl) rfl
theorem q1856 : (Jvm.Cond.privateMethod ({ cls := "LetterFormsModel", name := "powerAt", desc := "(II)I" } : Jvm.MethodName)) ∈ lw_tbl := lw_at lw_m8 57 rfl
theorem q1857 : (Jvm.Cond.instanceMethod ({ cls := "LetterFormsModel", name := "powerAt", desc := "(II)I" } : Jvm.MethodName)) ∈ lw_all := lw_g (lw_at lw_m8 58 rfl) rfl
theorem q1858 : (Jvm.Cond.code ({ cls := "LetterFormsModel", name := "powerAt", desc := "(II)I" } : Jvm.MethodName) prog_18_method_104_code (3 : Nat) (Option.some Jvm.ClassFile.FieldType.int)) ∈ lw_all := lw_g (lw_at lw_m8 59 rfl) rfl
theorem q1859 : (Jvm.Cond.methodLink "LetterFormsModel" (348 : Nat) ({ cls := "LetterFormsModel", name := "isPair", desc := "(I)Z" } : Jvm.MethodName)) ∈ lw_all := lw_g (lw_at lw_m8 60 rfl) rfl
theorem q1860 : (Jvm.Cond.privateMethod ({ cls := "LetterFormsModel", name := "isPair", desc := "(I)Z" } : Jvm.MethodName)) ∈ lw_tbl := lw_at lw_m8 61 rfl
theorem q1861 : (Jvm.Cond.instanceMethod ({ cls := "LetterFormsModel", name := "isPair", desc := "(I)Z" } : Jvm.MethodName)) ∈ lw_all := lw_g (lw_at lw_m8 62 rfl) rfl
theorem q1862 : (Jvm.Cond.code ({ cls := "LetterFormsModel", name := "isPair", desc := "(I)Z" } : Jvm.MethodName) prog_18_method_108_code (3 : Nat) (Option.some Jvm.ClassFile.FieldType.boolean)) ∈ lw_all := lw_g (lw_at lw_m8 63 rfl) rfl
theorem q1863 : (Jvm.Cond.methodLink "LetterFormsModel" (351 : Nat) ({ cls := "LetterFormsModel", name := "isTriple", desc := "()Z" } : Jvm.MethodName)) ∈ lw_all := lw_g (lw_at lw_m8 64 rfl) rfl
theorem q1864 : (Jvm.Cond.privateMethod ({ cls := "LetterFormsModel", name := "isTriple", desc := "()Z" } : Jvm.MethodName)) ∈ lw_tbl := lw_at lw_m8 65 rfl
theorem q1865 : (Jvm.Cond.instanceMethod ({ cls := "LetterFormsModel", name := "isTriple", desc := "()Z" } : Jvm.MethodName)) ∈ lw_all := lw_g (lw_at lw_m8 66 rfl) rfl
theorem q1866 : (Jvm.Cond.code ({ cls := "LetterFormsModel", name := "isTriple", desc := "()Z" } : Jvm.MethodName) prog_18_method_109_code (2 : Nat) (Option.some Jvm.ClassFile.FieldType.boolean)) ∈ lw_all := lw_g (lw_at lw_m8 67 rfl) rfl
theorem q1868 : (Jvm.Cond.instanceMethod ({ cls := "LetterFormsModel", name := "common", desc := "(III)I" } : Jvm.MethodName)) ∈ lw_all := lw_g (lw_at lw_m8 69 rfl) rfl
theorem q1869 : (Jvm.Cond.selects "LetterFormsModel" ({ cls := "LetterFormsModel", name := "common", desc := "(III)I" } : Jvm.MethodName) ({ cls := "LetterFormsModel", name := "common", desc := "(III)I" } : Jvm.MethodName)) ∈ lw_all := lw_g (lw_at lw_m8 70 rfl) rfl
theorem q1870 : (Jvm.Cond.code ({ cls := "LetterFormsModel", name := "common", desc := "(III)I" } : Jvm.MethodName) prog_18_method_115_code (4 : Nat) (Option.some Jvm.ClassFile.FieldType.int)) ∈ lw_all := lw_g (lw_at lw_m8 71 rfl) rfl
theorem q1871 : (Jvm.Cond.methodLink "LetterFormsModel" (372 : Nat) ({ cls := "LetterFormsModel", name := "commons", desc := "()V" } : Jvm.MethodName)) ∈ lw_all := lw_g (lw_at lw_m8 72 rfl) rfl
theorem q1872 : (Jvm.Cond.privateMethod ({ cls := "LetterFormsModel", name := "commons", desc := "()V" } : Jvm.MethodName)) ∈ lw_tbl := lw_at lw_m8 73 rfl
theorem q1873 : (Jvm.Cond.instanceMethod ({ cls := "LetterFormsModel", name := "commons", desc := "()V" } : Jvm.MethodName)) ∈ lw_all := lw_g (lw_at lw_m8 74 rfl) rfl
theorem q1874 : (Jvm.Cond.code ({ cls := "LetterFormsModel", name := "commons", desc := "()V" } : Jvm.MethodName) prog_18_method_113_code (5 : Nat) (Option.none : Option Jvm.ClassFile.FieldType)) ∈ lw_all := lw_g (lw_at lw_m8 75 rfl) rfl
theorem q1875 : (Jvm.Cond.methodLink "LetterFormsModel" (363 : Nat) ({ cls := "LetterFormsModel", name := "strips", desc := "(I)I" } : Jvm.MethodName)) ∈ lw_all := lw_g (lw_at lw_m8 76 rfl) rfl
theorem q1876 : (Jvm.Cond.privateMethod ({ cls := "LetterFormsModel", name := "strips", desc := "(I)I" } : Jvm.MethodName)) ∈ lw_tbl := lw_at lw_m8 77 rfl
theorem q1877 : (Jvm.Cond.instanceMethod ({ cls := "LetterFormsModel", name := "strips", desc := "(I)I" } : Jvm.MethodName)) ∈ lw_all := lw_g (lw_at lw_m8 78 rfl) rfl
theorem q1878 : (Jvm.Cond.code ({ cls := "LetterFormsModel", name := "strips", desc := "(I)I" } : Jvm.MethodName) prog_18_method_111_code (4 : Nat) (Option.some Jvm.ClassFile.FieldType.int)) ∈ lw_all := lw_g (lw_at lw_m8 79 rfl) rfl
theorem q1879 : (Jvm.Cond.methodLink "LetterFormsModel" (366 : Nat) ({ cls := "java/lang/Math", name := "min", desc := "(II)I" } : Jvm.MethodName)) ∈ lw_all := lw_g (lw_at lw_m8 80 rfl) rfl
theorem q1880 : (Jvm.Cond.methodLink "LetterFormsModel" (369 : Nat) ({ cls := "LetterFormsModel", name := "divides", desc := "(III)V" } : Jvm.MethodName)) ∈ lw_all := lw_g (lw_at lw_m8 81 rfl) rfl
theorem q1881 : (Jvm.Cond.privateMethod ({ cls := "LetterFormsModel", name := "divides", desc := "(III)V" } : Jvm.MethodName)) ∈ lw_tbl := lw_at lw_m8 82 rfl
theorem q1882 : (Jvm.Cond.instanceMethod ({ cls := "LetterFormsModel", name := "divides", desc := "(III)V" } : Jvm.MethodName)) ∈ lw_all := lw_g (lw_at lw_m8 83 rfl) rfl
theorem q1883 : (Jvm.Cond.code ({ cls := "LetterFormsModel", name := "divides", desc := "(III)V" } : Jvm.MethodName) prog_18_method_112_code (8 : Nat) (Option.none : Option Jvm.ClassFile.FieldType)) ∈ lw_all := lw_g (lw_at lw_m8 84 rfl) rfl
theorem q1884 : (Jvm.Cond.methodLink "LetterFormsModel" (375 : Nat) ({ cls := "LetterFormsModel", name := "toldOf", desc := "(II)I" } : Jvm.MethodName)) ∈ lw_all := lw_g (lw_at lw_m8 85 rfl) rfl
theorem q1885 : (Jvm.Cond.privateMethod ({ cls := "LetterFormsModel", name := "toldOf", desc := "(II)I" } : Jvm.MethodName)) ∈ lw_tbl := lw_at lw_m8 86 rfl
theorem q1886 : (Jvm.Cond.instanceMethod ({ cls := "LetterFormsModel", name := "toldOf", desc := "(II)I" } : Jvm.MethodName)) ∈ lw_all := lw_g (lw_at lw_m8 87 rfl) rfl
theorem q1887 : (Jvm.Cond.code ({ cls := "LetterFormsModel", name := "toldOf", desc := "(II)I" } : Jvm.MethodName) prog_18_method_114_code (3 : Nat) (Option.some Jvm.ClassFile.FieldType.int)) ∈ lw_all := lw_g (lw_at lw_m8 88 rfl) rfl
theorem q1889 : (Jvm.Cond.instanceMethod ({ cls := "LetterFormsModel", name := "quotient", desc := "(III)I" } : Jvm.MethodName)) ∈ lw_all := lw_g (lw_at lw_m8 90 rfl) rfl
theorem q1890 : (Jvm.Cond.selects "LetterFormsModel" ({ cls := "LetterFormsModel", name := "quotient", desc := "(III)I" } : Jvm.MethodName) ({ cls := "LetterFormsModel", name := "quotient", desc := "(III)I" } : Jvm.MethodName)) ∈ lw_all := lw_g (lw_at lw_m8 91 rfl) rfl
theorem q1891 : (Jvm.Cond.code ({ cls := "LetterFormsModel", name := "quotient", desc := "(III)I" } : Jvm.MethodName) prog_18_method_117_code (4 : Nat) (Option.some Jvm.ClassFile.FieldType.int)) ∈ lw_all := lw_g (lw_at lw_m8 92 rfl) rfl
theorem q1892 : (Jvm.Cond.methodLink "LetterFormsModel" (378 : Nat) ({ cls := "LetterFormsModel", name := "hasQuotient", desc := "()Z" } : Jvm.MethodName)) ∈ lw_all := lw_g (lw_at lw_m8 93 rfl) rfl
theorem q1893 : (Jvm.Cond.privateMethod ({ cls := "LetterFormsModel", name := "hasQuotient", desc := "()Z" } : Jvm.MethodName)) ∈ lw_tbl := lw_at lw_m8 94 rfl
theorem q1894 : (Jvm.Cond.instanceMethod ({ cls := "LetterFormsModel", name := "hasQuotient", desc := "()Z" } : Jvm.MethodName)) ∈ lw_all := lw_g (lw_at lw_m8 95 rfl) rfl
theorem q1895 : (Jvm.Cond.code ({ cls := "LetterFormsModel", name := "hasQuotient", desc := "()Z" } : Jvm.MethodName) prog_18_method_116_code (4 : Nat) (Option.some Jvm.ClassFile.FieldType.boolean)) ∈ lw_all := lw_g (lw_at lw_m8 96 rfl) rfl
theorem q1897 : (Jvm.Cond.instanceMethod ({ cls := "LetterFormsModel", name := "plain", desc := "(I)Z" } : Jvm.MethodName)) ∈ lw_all := lw_g (lw_at lw_m8 98 rfl) rfl
theorem q1898 : (Jvm.Cond.selects "LetterFormsModel" ({ cls := "LetterFormsModel", name := "plain", desc := "(I)Z" } : Jvm.MethodName) ({ cls := "LetterFormsModel", name := "plain", desc := "(I)Z" } : Jvm.MethodName)) ∈ lw_all := lw_g (lw_at lw_m8 99 rfl) rfl
theorem q1899 : (Jvm.Cond.code ({ cls := "LetterFormsModel", name := "plain", desc := "(I)Z" } : Jvm.MethodName) prog_18_method_118_code (2 : Nat) (Option.some Jvm.ClassFile.FieldType.boolean)) ∈ lw_all := lw_g (lw_at lw_m8 100 rfl) rfl
theorem q1901 : (Jvm.Cond.instanceMethod ({ cls := "LetterFormsModel", name := "overlap", desc := "(IIII)I" } : Jvm.MethodName)) ∈ lw_all := lw_g (lw_at lw_m8 102 rfl) rfl
theorem q1902 : (Jvm.Cond.selects "LetterFormsModel" ({ cls := "LetterFormsModel", name := "overlap", desc := "(IIII)I" } : Jvm.MethodName) ({ cls := "LetterFormsModel", name := "overlap", desc := "(IIII)I" } : Jvm.MethodName)) ∈ lw_all := lw_g (lw_at lw_m8 103 rfl) rfl
theorem q1903 : (Jvm.Cond.code ({ cls := "LetterFormsModel", name := "overlap", desc := "(IIII)I" } : Jvm.MethodName) prog_18_method_119_code (5 : Nat) (Option.some Jvm.ClassFile.FieldType.int)) ∈ lw_all := lw_g (lw_at lw_m8 104 rfl) rfl
theorem q1905 : (Jvm.Cond.instanceMethod ({ cls := "LetterFormsModel", name := "reduced", desc := "(IIII)J" } : Jvm.MethodName)) ∈ lw_all := lw_g (lw_at lw_m8 106 rfl) rfl
theorem q1906 : (Jvm.Cond.selects "LetterFormsModel" ({ cls := "LetterFormsModel", name := "reduced", desc := "(IIII)J" } : Jvm.MethodName) ({ cls := "LetterFormsModel", name := "reduced", desc := "(IIII)J" } : Jvm.MethodName)) ∈ lw_all := lw_g (lw_at lw_m8 107 rfl) rfl
theorem q1907 : (Jvm.Cond.code ({ cls := "LetterFormsModel", name := "reduced", desc := "(IIII)J" } : Jvm.MethodName) prog_18_method_126_code (6 : Nat) (Option.some Jvm.ClassFile.FieldType.long)) ∈ lw_all := lw_g (lw_at lw_m8 108 rfl) rfl
theorem q1908 : (Jvm.Cond.methodLink "LetterFormsModel" (411 : Nat) ({ cls := "LetterFormsModel", name := "isThousand", desc := "(I)Z" } : Jvm.MethodName)) ∈ lw_all := lw_g (lw_at lw_m8 109 rfl) rfl
theorem q1909 : (Jvm.Cond.static ({ cls := "LetterFormsModel", name := "isThousand", desc := "(I)Z" } : Jvm.MethodName)) ∈ lw_all := lw_g (lw_at lw_m8 110 rfl) rfl
theorem q1910 : (Jvm.Cond.code ({ cls := "LetterFormsModel", name := "isThousand", desc := "(I)Z" } : Jvm.MethodName) prog_18_method_125_code (1 : Nat) (Option.some Jvm.ClassFile.FieldType.boolean)) ∈ lw_all := lw_g (lw_at lw_m8 111 rfl) rfl
theorem q1911 : (Jvm.Cond.constantLong "LetterFormsModel" (414 : Nat) (4 : Int64)) ∈ lw_all := lw_g (lw_at lw_m8 112 rfl) rfl
theorem q1912 : (Jvm.Cond.methodLink "LetterFormsModel" (416 : Nat) ({ cls := "LetterFormsModel", name := "reduces", desc := "()V" } : Jvm.MethodName)) ∈ lw_all := lw_g (lw_at lw_m8 113 rfl) rfl
theorem q1913 : (Jvm.Cond.privateMethod ({ cls := "LetterFormsModel", name := "reduces", desc := "()V" } : Jvm.MethodName)) ∈ lw_tbl := lw_at lw_m8 114 rfl
theorem q1914 : (Jvm.Cond.instanceMethod ({ cls := "LetterFormsModel", name := "reduces", desc := "()V" } : Jvm.MethodName)) ∈ lw_all := lw_g (lw_at lw_m8 115 rfl) rfl
theorem q1915 : (Jvm.Cond.code ({ cls := "LetterFormsModel", name := "reduces", desc := "()V" } : Jvm.MethodName) prog_18_method_123_code (3 : Nat) (Option.none : Option Jvm.ClassFile.FieldType)) ∈ lw_all := lw_g (lw_at lw_m8 116 rfl) rfl
theorem q1916 : (Jvm.Cond.methodLink "LetterFormsModel" (394 : Nat) ({ cls := "LetterFormsModel", name := "isWide", desc := "()Z" } : Jvm.MethodName)) ∈ lw_all := lw_g (lw_at lw_m8 117 rfl) rfl
theorem q1917 : (Jvm.Cond.privateMethod ({ cls := "LetterFormsModel", name := "isWide", desc := "()Z" } : Jvm.MethodName)) ∈ lw_tbl := lw_at lw_m8 118 rfl
theorem q1918 : (Jvm.Cond.instanceMethod ({ cls := "LetterFormsModel", name := "isWide", desc := "()Z" } : Jvm.MethodName)) ∈ lw_all := lw_g (lw_at lw_m8 119 rfl) rfl
theorem q1919 : (Jvm.Cond.code ({ cls := "LetterFormsModel", name := "isWide", desc := "()Z" } : Jvm.MethodName) prog_18_method_121_code (1 : Nat) (Option.some Jvm.ClassFile.FieldType.boolean)) ∈ lw_all := lw_g (lw_at lw_m8 120 rfl) rfl
theorem q1920 : (Jvm.Cond.methodLink "LetterFormsModel" (397 : Nat) ({ cls := "LetterFormsModel", name := "isTurned", desc := "()Z" } : Jvm.MethodName)) ∈ lw_all := lw_g (lw_at lw_m8 121 rfl) rfl
theorem q1921 : (Jvm.Cond.privateMethod ({ cls := "LetterFormsModel", name := "isTurned", desc := "()Z" } : Jvm.MethodName)) ∈ lw_tbl := lw_at lw_m8 122 rfl
theorem q1922 : (Jvm.Cond.instanceMethod ({ cls := "LetterFormsModel", name := "isTurned", desc := "()Z" } : Jvm.MethodName)) ∈ lw_all := lw_g (lw_at lw_m8 123 rfl) rfl
theorem q1923 : (Jvm.Cond.code ({ cls := "LetterFormsModel", name := "isTurned", desc := "()Z" } : Jvm.MethodName) prog_18_method_122_code (1 : Nat) (Option.some Jvm.ClassFile.FieldType.boolean)) ∈ lw_all := lw_g (lw_at lw_m8 124 rfl) rfl
theorem q1924 : (Jvm.Cond.constantLong "LetterFormsModel" (400 : Nat) (2 : Int64)) ∈ lw_all := lw_g (lw_at lw_m8 125 rfl) rfl
theorem q1925 : (Jvm.Cond.methodLink "LetterFormsModel" (402 : Nat) ({ cls := "java/lang/Math", name := "floorDiv", desc := "(JJ)J" } : Jvm.MethodName)) ∈ lw_all := lw_g (lw_at lw_m8 126 rfl) rfl
theorem q1926 : (Jvm.Cond.methodLink "LetterFormsModel" (405 : Nat) ({ cls := "LetterFormsModel", name := "joinsWhole", desc := "(JJJJ)V" } : Jvm.MethodName)) ∈ lw_all := lw_g (lw_at lw_m8 127 rfl) rfl
theorem q1927 : (Jvm.Cond.privateMethod ({ cls := "LetterFormsModel", name := "joinsWhole", desc := "(JJJJ)V" } : Jvm.MethodName)) ∈ lw_tbl := lw_at lw_m8 128 rfl
theorem q1928 : (Jvm.Cond.instanceMethod ({ cls := "LetterFormsModel", name := "joinsWhole", desc := "(JJJJ)V" } : Jvm.MethodName)) ∈ lw_all := lw_g (lw_at lw_m8 129 rfl) rfl
theorem q1929 : (Jvm.Cond.code ({ cls := "LetterFormsModel", name := "joinsWhole", desc := "(JJJJ)V" } : Jvm.MethodName) prog_18_method_120_code (17 : Nat) (Option.none : Option Jvm.ClassFile.FieldType)) ∈ lw_all := lw_g (lw_at lw_m8 130 rfl) rfl
theorem q1930 : (Jvm.Cond.constantLong "LetterFormsModel" (409 : Nat) (-1 : Int64)) ∈ lw_all := lw_g (lw_at lw_m8 131 rfl) rfl
theorem q1931 : (Jvm.Cond.methodLink "LetterFormsModel" (419 : Nat) ({ cls := "LetterFormsModel", name := "turnsOf", desc := "(JJJ)I" } : Jvm.MethodName)) ∈ lw_all := lw_g (lw_at lw_m8 132 rfl) rfl
theorem q1932 : (Jvm.Cond.static ({ cls := "LetterFormsModel", name := "turnsOf", desc := "(JJJ)I" } : Jvm.MethodName)) ∈ lw_all := lw_g (lw_at lw_m8 133 rfl) rfl
theorem q1933 : (Jvm.Cond.code ({ cls := "LetterFormsModel", name := "turnsOf", desc := "(JJJ)I" } : Jvm.MethodName) prog_18_method_124_code (6 : Nat) (Option.some Jvm.ClassFile.FieldType.int)) ∈ lw_all := lw_g (lw_at lw_m8 134 rfl) rfl
theorem q1935 : (Jvm.Cond.instanceMethod ({ cls := "LetterFormsModel", name := "classes", desc := "(IZ)I" } : Jvm.MethodName)) ∈ lw_all := lw_g (lw_at lw_m8 136 rfl) rfl
theorem q1936 : (Jvm.Cond.selects "LetterFormsModel" ({ cls := "LetterFormsModel", name := "classes", desc := "(IZ)I" } : Jvm.MethodName) ({ cls := "LetterFormsModel", name := "classes", desc := "(IZ)I" } : Jvm.MethodName)) ∈ lw_all := lw_g (lw_at lw_m8 137 rfl) rfl
theorem q1937 : (Jvm.Cond.code ({ cls := "LetterFormsModel", name := "classes", desc := "(IZ)I" } : Jvm.MethodName) prog_18_method_130_code (3 : Nat) (Option.some Jvm.ClassFile.FieldType.int)) ∈ lw_all := lw_g (lw_at lw_m8 138 rfl) rfl
theorem q1938 : (Jvm.Cond.methodLink "LetterFormsModel" (440 : Nat) ({ cls := "LetterFormsModel", name := "noDisc", desc := "(I)Z" } : Jvm.MethodName)) ∈ lw_all := lw_g (lw_at lw_m8 139 rfl) rfl
theorem q1939 : (Jvm.Cond.static ({ cls := "LetterFormsModel", name := "noDisc", desc := "(I)Z" } : Jvm.MethodName)) ∈ lw_all := lw_g (lw_at lw_m8 140 rfl) rfl
theorem q1940 : (Jvm.Cond.code ({ cls := "LetterFormsModel", name := "noDisc", desc := "(I)Z" } : Jvm.MethodName) prog_18_method_128_code (1 : Nat) (Option.some Jvm.ClassFile.FieldType.boolean)) ∈ lw_all := lw_g (lw_at lw_m8 141 rfl) rfl
theorem q1941 : (Jvm.Cond.methodLink "LetterFormsModel" (426 : Nat) ({ cls := "java/lang/Math", name := "floorMod", desc := "(II)I" } : Jvm.MethodName)) ∈ lw_all := lw_g (lw_at lw_m8 142 rfl) rfl
theorem q1942 : (Jvm.Cond.methodLink "LetterFormsModel" (443 : Nat) ({ cls := "LetterFormsModel", name := "reducedMany", desc := "(IZI)I" } : Jvm.MethodName)) ∈ lw_all := lw_g (lw_at lw_m8 143 rfl) rfl
theorem q1943 : (Jvm.Cond.privateMethod ({ cls := "LetterFormsModel", name := "reducedMany", desc := "(IZI)I" } : Jvm.MethodName)) ∈ lw_tbl := lw_at lw_m8 144 rfl
theorem q1944 : (Jvm.Cond.instanceMethod ({ cls := "LetterFormsModel", name := "reducedMany", desc := "(IZI)I" } : Jvm.MethodName)) ∈ lw_all := lw_g (lw_at lw_m8 145 rfl) rfl
theorem q1945 : (Jvm.Cond.code ({ cls := "LetterFormsModel", name := "reducedMany", desc := "(IZI)I" } : Jvm.MethodName) prog_18_method_129_code (8 : Nat) (Option.some Jvm.ClassFile.FieldType.int)) ∈ lw_all := lw_g (lw_at lw_m8 146 rfl) rfl
theorem q1946 : (Jvm.Cond.methodLink "LetterFormsModel" (428 : Nat) ({ cls := "LetterFormsModel", name := "shared", desc := "(II)I" } : Jvm.MethodName)) ∈ lw_all := lw_g (lw_at lw_m8 147 rfl) rfl
theorem q1947 : (Jvm.Cond.static ({ cls := "LetterFormsModel", name := "shared", desc := "(II)I" } : Jvm.MethodName)) ∈ lw_all := lw_g (lw_at lw_m8 148 rfl) rfl
theorem q1948 : (Jvm.Cond.code ({ cls := "LetterFormsModel", name := "shared", desc := "(II)I" } : Jvm.MethodName) prog_18_method_127_code (5 : Nat) (Option.some Jvm.ClassFile.FieldType.int)) ∈ lw_all := lw_g (lw_at lw_m8 149 rfl) rfl
theorem q1949 : (Jvm.Cond.methodLink "LetterFormsModel" (423 : Nat) ({ cls := "java/lang/Math", name := "abs", desc := "(I)I" } : Jvm.MethodName)) ∈ lw_all := lw_g (lw_at lw_m8 150 rfl) rfl
theorem q1951 : (Jvm.Cond.instanceMethod ({ cls := "LetterFormsModel", name := "reducedAt", desc := "(III)I" } : Jvm.MethodName)) ∈ lw_all := lw_g (lw_at lw_m8 152 rfl) rfl
theorem q1952 : (Jvm.Cond.selects "LetterFormsModel" ({ cls := "LetterFormsModel", name := "reducedAt", desc := "(III)I" } : Jvm.MethodName) ({ cls := "LetterFormsModel", name := "reducedAt", desc := "(III)I" } : Jvm.MethodName)) ∈ lw_all := lw_g (lw_at lw_m8 153 rfl) rfl
theorem q1953 : (Jvm.Cond.code ({ cls := "LetterFormsModel", name := "reducedAt", desc := "(III)I" } : Jvm.MethodName) prog_18_method_131_code (4 : Nat) (Option.some Jvm.ClassFile.FieldType.int)) ∈ lw_all := lw_g (lw_at lw_m8 154 rfl) rfl
theorem q1955 : (Jvm.Cond.instanceMethod ({ cls := "LetterFormsModel", name := "real", desc := "(IIIII)I" } : Jvm.MethodName)) ∈ lw_all := lw_g (lw_at lw_m8 156 rfl) rfl
theorem q1956 : (Jvm.Cond.selects "LetterFormsModel" ({ cls := "LetterFormsModel", name := "real", desc := "(IIIII)I" } : Jvm.MethodName) ({ cls := "LetterFormsModel", name := "real", desc := "(IIIII)I" } : Jvm.MethodName)) ∈ lw_all := lw_g (lw_at lw_m8 157 rfl) rfl
theorem q1957 : (Jvm.Cond.code ({ cls := "LetterFormsModel", name := "real", desc := "(IIIII)I" } : Jvm.MethodName) prog_18_method_135_code (7 : Nat) (Option.some Jvm.ClassFile.FieldType.int)) ∈ lw_all := lw_g (lw_at lw_m8 158 rfl) rfl
theorem q1958 : (Jvm.Cond.methodLink "LetterFormsModel" (465 : Nat) ({ cls := "LetterFormsModel", name := "isThirty", desc := "(I)Z" } : Jvm.MethodName)) ∈ lw_all := lw_g (lw_at lw_m8 159 rfl) rfl
theorem q1959 : (Jvm.Cond.static ({ cls := "LetterFormsModel", name := "isThirty", desc := "(I)Z" } : Jvm.MethodName)) ∈ lw_all := lw_g (lw_at lw_m8 160 rfl) rfl
theorem q1960 : (Jvm.Cond.code ({ cls := "LetterFormsModel", name := "isThirty", desc := "(I)Z" } : Jvm.MethodName) prog_18_method_134_code (1 : Nat) (Option.some Jvm.ClassFile.FieldType.boolean)) ∈ lw_all := lw_g (lw_at lw_m8 161 rfl) rfl
theorem q1961 : (Jvm.Cond.methodLink "LetterFormsModel" (468 : Nat) ({ cls := "LetterFormsModel", name := "realOfCubic", desc := "(JJJJ)I" } : Jvm.MethodName)) ∈ lw_all := lw_g (lw_at lw_m8 162 rfl) rfl
theorem q1962 : (Jvm.Cond.static ({ cls := "LetterFormsModel", name := "realOfCubic", desc := "(JJJJ)I" } : Jvm.MethodName)) ∈ lw_all := lw_g (lw_at lw_m8 163 rfl) rfl
theorem q1963 : (Jvm.Cond.code ({ cls := "LetterFormsModel", name := "realOfCubic", desc := "(JJJJ)I" } : Jvm.MethodName) prog_18_method_132_code (10 : Nat) (Option.some Jvm.ClassFile.FieldType.int)) ∈ lw_all := lw_g (lw_at lw_m8 164 rfl) rfl
theorem q1964 : (Jvm.Cond.constantLong "LetterFormsModel" (447 : Nat) (18 : Int64)) ∈ lw_all := lw_g (lw_at lw_m8 165 rfl) rfl
theorem q1965 : (Jvm.Cond.constantLong "LetterFormsModel" (449 : Nat) (27 : Int64)) ∈ lw_all := lw_g (lw_at lw_m8 166 rfl) rfl
theorem q1966 : (Jvm.Cond.constantLong "LetterFormsModel" (451 : Nat) (3 : Int64)) ∈ lw_all := lw_g (lw_at lw_m8 167 rfl) rfl
theorem q1967 : (Jvm.Cond.methodLink "LetterFormsModel" (472 : Nat) ({ cls := "LetterFormsModel", name := "realOfQuartic", desc := "(JJJJJ)I" } : Jvm.MethodName)) ∈ lw_all := lw_g (lw_at lw_m8 168 rfl) rfl
theorem q1968 : (Jvm.Cond.static ({ cls := "LetterFormsModel", name := "realOfQuartic", desc := "(JJJJJ)I" } : Jvm.MethodName)) ∈ lw_all := lw_g (lw_at lw_m8 169 rfl) rfl
theorem q1969 : (Jvm.Cond.code ({ cls := "LetterFormsModel", name := "realOfQuartic", desc := "(JJJJJ)I" } : Jvm.MethodName) prog_18_method_133_code (22 : Nat) (Option.some Jvm.ClassFile.FieldType.int)) ∈ lw_all := lw_g (lw_at lw_m8 170 rfl) rfl
theorem q1970 : (Jvm.Cond.constantLong "LetterFormsModel" (453 : Nat) (12 : Int64)) ∈ lw_all := lw_g (lw_at lw_m8 171 rfl) rfl
theorem q1971 : (Jvm.Cond.constantLong "LetterFormsModel" (455 : Nat) (9 : Int64)) ∈ lw_all := lw_g (lw_at lw_m8 172 rfl) rfl
theorem q1972 : (Jvm.Cond.constantLong "LetterFormsModel" (457 : Nat) (72 : Int64)) ∈ lw_all := lw_g (lw_at lw_m8 173 rfl) rfl
theorem q1973 : (Jvm.Cond.constantLong "LetterFormsModel" (459 : Nat) (8 : Int64)) ∈ lw_all := lw_g (lw_at lw_m8 174 rfl) rfl
theorem q1974 : (Jvm.Cond.constantLong "LetterFormsModel" (461 : Nat) (64 : Int64)) ∈ lw_all := lw_g (lw_at lw_m8 175 rfl) rfl
theorem q1975 : (Jvm.Cond.constantLong "LetterFormsModel" (463 : Nat) (16 : Int64)) ∈ lw_all := lw_g (lw_at lw_m8 176 rfl) rfl
theorem q1977 : (Jvm.Cond.instanceMethod ({ cls := "LetterFormsModel", name := "stock", desc := "(I)I" } : Jvm.MethodName)) ∈ lw_all := lw_g (lw_at lw_m8 178 rfl) rfl
theorem q1978 : (Jvm.Cond.selects "LetterFormsModel" ({ cls := "LetterFormsModel", name := "stock", desc := "(I)I" } : Jvm.MethodName) ({ cls := "LetterFormsModel", name := "stock", desc := "(I)I" } : Jvm.MethodName)) ∈ lw_all := lw_g (lw_at lw_m8 179 rfl) rfl
theorem q1979 : (Jvm.Cond.code ({ cls := "LetterFormsModel", name := "stock", desc := "(I)I" } : Jvm.MethodName) prog_18_method_136_code (4 : Nat) (Option.some Jvm.ClassFile.FieldType.int)) ∈ lw_all := lw_g (lw_at lw_m8 180 rfl) rfl
theorem q1991 : (Jvm.Cond.castable "LetterFormsModel" "java/lang/Object") ∈ lw_tbl := lw_at lw_m8 192 rfl
theorem in_X11 : ∀ w ∈ wsX110, w ∈ lw_all := lw_in wsX110 [1351, 1353, 1355, 1357, 1359, 1361, 1363, 1365, 1367, 1369, 1371, 1373, 1375, 1377, 1379, 1381, 1383, 1385, 1387, 1389, 1391, 1393, 1395, 1397, 1399, 1401, 1403, 1405, 1407, 1409, 1411, 1413, 1415, 1417, 1419, 1421, 1423, 1425] (by decide +kernel) (by decide +kernel)
