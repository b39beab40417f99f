/-! LetterForms -/
set_option maxRecDepth 100000
def RX1 : String := "LetterForms"
def TX1 : u_T := fun k => match k with
  | 0 => ("LetterForms", "reader", "LLetterForms$Reader;", true)
  | 1 => ("LetterForms", "desk", "LLetterForms$Desk;", true)
  | 2 => ("LetterForms", "now", "LLetterForms$State;", true)
  | 3 => ("LetterForms", "image", "LLetterForms$State;", true)
  | 4 => ("LetterForms", "shelves", "[LLetterForms$Form;", true)
  | 5 => ("LetterForms", "work", "LLetterForms$Form;", true)
  | 6 => ("LetterForms", "other", "LLetterForms$Form;", true)
  | 7 => ("LetterForms", "third", "LLetterForms$Form;", true)
  | 8 => ("LetterForms", "drawn", "LLetterForms$Form;", true)
  | 9 => ("LetterForms", "rows", "[[I", true)
  | 10 => ("LetterForms", "lines", "[[I", true)
  | 11 => ("LetterForms", "points", "[I", true)
  | 12 => ("LetterForms", "numbers", "[I", true)
  | 13 => ("LetterForms", "whole", "[J", true)
  | 14 => ("LetterForms", "leads", "[J", true)
  | 15 => ("LetterForms", "firsts", "[I", true)
  | 16 => ("LetterForms", "wrongAt", "I", false)
  | 17 => ("LetterForms", "changes", "I", false)
  | _ => ("LetterForms", "kept", "Z", false)
def tyX1 : Nat → FieldType := fun k => match k with
  | 0 => .object "LetterForms$Reader"
  | 1 => .object "LetterForms$Desk"
  | 2 => .object "LetterForms$State"
  | 3 => .object "LetterForms$State"
  | 4 => .array (.object "LetterForms$Form")
  | 5 => .object "LetterForms$Form"
  | 6 => .object "LetterForms$Form"
  | 7 => .object "LetterForms$Form"
  | 8 => .object "LetterForms$Form"
  | 9 => .array (.array .int)
  | 10 => .array (.array .int)
  | 11 => .array .int
  | 12 => .array .int
  | 13 => .array .long
  | 14 => .array .long
  | 15 => .array .int
  | 16 => .int
  | 17 => .int
  | _ => .boolean
abbrev wsX10 : List Cond := u_ws RX1 TX1 19
set_option maxRecDepth 100000 in
theorem nmX1 : ∀ a, a < 19 → ∀ b, b < 19 → a ≠ b → (TX1 a).2.1 ≠ (TX1 b).2.1 := by decide +kernel
set_option maxRecDepth 100000 in
theorem tyX1_ok : ∀ k, k < 19 → parseFieldDescriptor (TX1 k).2.2.1 = some (tyX1 k) := by decide +kernel
abbrev cX1_init : ByteArray := prog_1_method_1_code
def yX1_init : MethodName := ⟨RX1, "<init>", "()V"⟩
def dkwX1_init_8 : List UInt8 := [89, 183, 0, 39, 83, 132, 1, 1, 167, 255, 234, 177]
abbrev dktX1_init_8 : List UInt8 := dkwX1_init_8 ++ []
def dkwX1_init_7 : List UInt8 := [181, 0, 75, 42, 2, 181, 0, 78, 3, 60, 27, 16, 64, 162, 0, 22, 42, 180, 0, 35, 27, 187, 0, 33]
abbrev dktX1_init_7 : List UInt8 := dkwX1_init_7 ++ dktX1_init_8
def dkwX1_init_6 : List UInt8 := [181, 0, 65, 42, 6, 188, 11, 181, 0, 68, 42, 7, 188, 11, 181, 0, 72, 42, 16, 20, 188, 10]
abbrev dktX1_init_6 : List UInt8 := dkwX1_init_6 ++ dktX1_init_7
def dkwX1_init_5 : List UInt8 := [16, 20, 16, 9, 197, 0, 53, 2, 181, 0, 58, 42, 6, 188, 10, 181, 0, 61, 42, 6, 188, 10]
abbrev dktX1_init_5 : List UInt8 := dkwX1_init_5 ++ dktX1_init_6
def dkwX1_init_4 : List UInt8 := [187, 0, 33, 89, 183, 0, 39, 181, 0, 50, 42, 16, 8, 17, 1, 236, 197, 0, 53, 2, 181, 0, 55, 42]
abbrev dktX1_init_4 : List UInt8 := dkwX1_init_4 ++ dktX1_init_5
def dkwX1_init_3 : List UInt8 := [187, 0, 33, 89, 183, 0, 39, 181, 0, 44, 42, 187, 0, 33, 89, 183, 0, 39, 181, 0, 47, 42]
abbrev dktX1_init_3 : List UInt8 := dkwX1_init_3 ++ dktX1_init_4
def dkwX1_init_2 : List UInt8 := [181, 0, 30, 42, 16, 64, 189, 0, 33, 181, 0, 35, 42, 187, 0, 33, 89, 183, 0, 39, 181, 0, 40, 42]
abbrev dktX1_init_2 : List UInt8 := dkwX1_init_2 ++ dktX1_init_3
def dkwX1_init_1 : List UInt8 := [181, 0, 19, 42, 187, 0, 23, 89, 183, 0, 25, 181, 0, 26, 42, 187, 0, 23, 89, 183, 0, 25]
abbrev dktX1_init_1 : List UInt8 := dkwX1_init_1 ++ dktX1_init_2
def dkwX1_init_0 : List UInt8 := [42, 183, 0, 1, 42, 187, 0, 7, 89, 183, 0, 9, 181, 0, 10, 42, 187, 0, 16, 89, 183, 0, 18]
abbrev dktX1_init_0 : List UInt8 := dkwX1_init_0 ++ dktX1_init_1
theorem dksX1_init_0 : cX1_init.data.toList.drop 0 = dktX1_init_0 := by decide +kernel
theorem dksX1_init_1 : cX1_init.data.toList.drop 23 = dktX1_init_1 := dk_seg dksX1_init_0 23 rfl rfl
theorem dksX1_init_2 : cX1_init.data.toList.drop 45 = dktX1_init_2 := dk_seg dksX1_init_1 22 rfl rfl
theorem dksX1_init_3 : cX1_init.data.toList.drop 69 = dktX1_init_3 := dk_seg dksX1_init_2 24 rfl rfl
theorem dksX1_init_4 : cX1_init.data.toList.drop 91 = dktX1_init_4 := dk_seg dksX1_init_3 22 rfl rfl
theorem dksX1_init_5 : cX1_init.data.toList.drop 115 = dktX1_init_5 := dk_seg dksX1_init_4 24 rfl rfl
theorem dksX1_init_6 : cX1_init.data.toList.drop 137 = dktX1_init_6 := dk_seg dksX1_init_5 22 rfl rfl
theorem dksX1_init_7 : cX1_init.data.toList.drop 159 = dktX1_init_7 := dk_seg dksX1_init_6 22 rfl rfl
theorem dksX1_init_8 : cX1_init.data.toList.drop 183 = dktX1_init_8 := dk_seg dksX1_init_7 24 rfl rfl
theorem dX1_init_0 : decode cX1_init 0 = .ok (.aload_n 0, 1) := dk_42 (dk_at dksX1_init_0 0 rfl rfl)
theorem dX1_init_1 : decode cX1_init 1 = .ok (.invokespecial 1, 3) := dk_183 0 1 (dk_at dksX1_init_0 1 rfl rfl)
theorem dX1_init_4 : decode cX1_init 4 = .ok (.aload_n 0, 1) := dk_42 (dk_at dksX1_init_0 4 rfl rfl)
theorem dX1_init_5 : decode cX1_init 5 = .ok (.new 7, 3) := dk_187 0 7 (dk_at dksX1_init_0 5 rfl rfl)
theorem dX1_init_8 : decode cX1_init 8 = .ok (.dup, 1) := dk_89 (dk_at dksX1_init_0 8 rfl rfl)
theorem dX1_init_9 : decode cX1_init 9 = .ok (.invokespecial 9, 3) := dk_183 0 9 (dk_at dksX1_init_0 9 rfl rfl)
theorem dX1_init_12 : decode cX1_init 12 = .ok (.putfield 10, 3) := dk_181 0 10 (dk_at dksX1_init_0 12 rfl rfl)
theorem dX1_init_15 : decode cX1_init 15 = .ok (.aload_n 0, 1) := dk_42 (dk_at dksX1_init_0 15 rfl rfl)
theorem dX1_init_16 : decode cX1_init 16 = .ok (.new 16, 3) := dk_187 0 16 (dk_at dksX1_init_0 16 rfl rfl)
theorem dX1_init_19 : decode cX1_init 19 = .ok (.dup, 1) := dk_89 (dk_at dksX1_init_0 19 rfl rfl)
theorem dX1_init_20 : decode cX1_init 20 = .ok (.invokespecial 18, 3) := dk_183 0 18 (dk_at dksX1_init_0 20 rfl rfl)
theorem dX1_init_23 : decode cX1_init 23 = .ok (.putfield 19, 3) := dk_181 0 19 (dk_at dksX1_init_1 0 rfl rfl)
theorem dX1_init_26 : decode cX1_init 26 = .ok (.aload_n 0, 1) := dk_42 (dk_at dksX1_init_1 3 rfl rfl)
theorem dX1_init_27 : decode cX1_init 27 = .ok (.new 23, 3) := dk_187 0 23 (dk_at dksX1_init_1 4 rfl rfl)
theorem dX1_init_30 : decode cX1_init 30 = .ok (.dup, 1) := dk_89 (dk_at dksX1_init_1 7 rfl rfl)
theorem dX1_init_31 : decode cX1_init 31 = .ok (.invokespecial 25, 3) := dk_183 0 25 (dk_at dksX1_init_1 8 rfl rfl)
theorem dX1_init_34 : decode cX1_init 34 = .ok (.putfield 26, 3) := dk_181 0 26 (dk_at dksX1_init_1 11 rfl rfl)
theorem dX1_init_37 : decode cX1_init 37 = .ok (.aload_n 0, 1) := dk_42 (dk_at dksX1_init_1 14 rfl rfl)
theorem dX1_init_38 : decode cX1_init 38 = .ok (.new 23, 3) := dk_187 0 23 (dk_at dksX1_init_1 15 rfl rfl)
theorem dX1_init_41 : decode cX1_init 41 = .ok (.dup, 1) := dk_89 (dk_at dksX1_init_1 18 rfl rfl)
theorem dX1_init_42 : decode cX1_init 42 = .ok (.invokespecial 25, 3) := dk_183 0 25 (dk_at dksX1_init_1 19 rfl rfl)
theorem dX1_init_45 : decode cX1_init 45 = .ok (.putfield 30, 3) := dk_181 0 30 (dk_at dksX1_init_2 0 rfl rfl)
theorem dX1_init_48 : decode cX1_init 48 = .ok (.aload_n 0, 1) := dk_42 (dk_at dksX1_init_2 3 rfl rfl)
theorem dX1_init_49 : decode cX1_init 49 = .ok (.bipush 64, 2) := dk_16 64 (dk_at dksX1_init_2 4 rfl rfl)
theorem dX1_init_51 : decode cX1_init 51 = .ok (.anewarray 33, 3) := dk_189 0 33 (dk_at dksX1_init_2 6 rfl rfl)
theorem dX1_init_54 : decode cX1_init 54 = .ok (.putfield 35, 3) := dk_181 0 35 (dk_at dksX1_init_2 9 rfl rfl)
theorem dX1_init_57 : decode cX1_init 57 = .ok (.aload_n 0, 1) := dk_42 (dk_at dksX1_init_2 12 rfl rfl)
theorem dX1_init_58 : decode cX1_init 58 = .ok (.new 33, 3) := dk_187 0 33 (dk_at dksX1_init_2 13 rfl rfl)
theorem dX1_init_61 : decode cX1_init 61 = .ok (.dup, 1) := dk_89 (dk_at dksX1_init_2 16 rfl rfl)
theorem dX1_init_62 : decode cX1_init 62 = .ok (.invokespecial 39, 3) := dk_183 0 39 (dk_at dksX1_init_2 17 rfl rfl)
theorem dX1_init_65 : decode cX1_init 65 = .ok (.putfield 40, 3) := dk_181 0 40 (dk_at dksX1_init_2 20 rfl rfl)
theorem dX1_init_68 : decode cX1_init 68 = .ok (.aload_n 0, 1) := dk_42 (dk_at dksX1_init_2 23 rfl rfl)
theorem dX1_init_69 : decode cX1_init 69 = .ok (.new 33, 3) := dk_187 0 33 (dk_at dksX1_init_3 0 rfl rfl)
theorem dX1_init_72 : decode cX1_init 72 = .ok (.dup, 1) := dk_89 (dk_at dksX1_init_3 3 rfl rfl)
theorem dX1_init_73 : decode cX1_init 73 = .ok (.invokespecial 39, 3) := dk_183 0 39 (dk_at dksX1_init_3 4 rfl rfl)
theorem dX1_init_76 : decode cX1_init 76 = .ok (.putfield 44, 3) := dk_181 0 44 (dk_at dksX1_init_3 7 rfl rfl)
theorem dX1_init_79 : decode cX1_init 79 = .ok (.aload_n 0, 1) := dk_42 (dk_at dksX1_init_3 10 rfl rfl)
theorem dX1_init_80 : decode cX1_init 80 = .ok (.new 33, 3) := dk_187 0 33 (dk_at dksX1_init_3 11 rfl rfl)
theorem dX1_init_83 : decode cX1_init 83 = .ok (.dup, 1) := dk_89 (dk_at dksX1_init_3 14 rfl rfl)
theorem dX1_init_84 : decode cX1_init 84 = .ok (.invokespecial 39, 3) := dk_183 0 39 (dk_at dksX1_init_3 15 rfl rfl)
theorem dX1_init_87 : decode cX1_init 87 = .ok (.putfield 47, 3) := dk_181 0 47 (dk_at dksX1_init_3 18 rfl rfl)
theorem dX1_init_90 : decode cX1_init 90 = .ok (.aload_n 0, 1) := dk_42 (dk_at dksX1_init_3 21 rfl rfl)
theorem dX1_init_91 : decode cX1_init 91 = .ok (.new 33, 3) := dk_187 0 33 (dk_at dksX1_init_4 0 rfl rfl)
theorem dX1_init_94 : decode cX1_init 94 = .ok (.dup, 1) := dk_89 (dk_at dksX1_init_4 3 rfl rfl)
theorem dX1_init_95 : decode cX1_init 95 = .ok (.invokespecial 39, 3) := dk_183 0 39 (dk_at dksX1_init_4 4 rfl rfl)
theorem dX1_init_98 : decode cX1_init 98 = .ok (.putfield 50, 3) := dk_181 0 50 (dk_at dksX1_init_4 7 rfl rfl)
theorem dX1_init_101 : decode cX1_init 101 = .ok (.aload_n 0, 1) := dk_42 (dk_at dksX1_init_4 10 rfl rfl)
theorem dX1_init_102 : decode cX1_init 102 = .ok (.bipush 8, 2) := dk_16 8 (dk_at dksX1_init_4 11 rfl rfl)
theorem dX1_init_104 : decode cX1_init 104 = .ok (.sipush 492, 3) := dk_17 1 236 (dk_at dksX1_init_4 13 rfl rfl)
theorem dX1_init_107 : decode cX1_init 107 = .ok (.multianewarray 53 2, 4) := by decide +kernel
theorem dX1_init_111 : decode cX1_init 111 = .ok (.putfield 55, 3) := dk_181 0 55 (dk_at dksX1_init_4 20 rfl rfl)
theorem dX1_init_114 : decode cX1_init 114 = .ok (.aload_n 0, 1) := dk_42 (dk_at dksX1_init_4 23 rfl rfl)
theorem dX1_init_115 : decode cX1_init 115 = .ok (.bipush 20, 2) := dk_16 20 (dk_at dksX1_init_5 0 rfl rfl)
theorem dX1_init_117 : decode cX1_init 117 = .ok (.bipush 9, 2) := dk_16 9 (dk_at dksX1_init_5 2 rfl rfl)
theorem dX1_init_119 : decode cX1_init 119 = .ok (.multianewarray 53 2, 4) := by decide +kernel
theorem dX1_init_123 : decode cX1_init 123 = .ok (.putfield 58, 3) := dk_181 0 58 (dk_at dksX1_init_5 8 rfl rfl)
theorem dX1_init_126 : decode cX1_init 126 = .ok (.aload_n 0, 1) := dk_42 (dk_at dksX1_init_5 11 rfl rfl)
theorem dX1_init_127 : decode cX1_init 127 = .ok (.iconst 3, 1) := dk_6 (dk_at dksX1_init_5 12 rfl rfl)
theorem dX1_init_128 : decode cX1_init 128 = .ok (.newarray .int, 2) := dk_188_10 (dk_at dksX1_init_5 13 rfl rfl)
theorem dX1_init_130 : decode cX1_init 130 = .ok (.putfield 61, 3) := dk_181 0 61 (dk_at dksX1_init_5 15 rfl rfl)
theorem dX1_init_133 : decode cX1_init 133 = .ok (.aload_n 0, 1) := dk_42 (dk_at dksX1_init_5 18 rfl rfl)
theorem dX1_init_134 : decode cX1_init 134 = .ok (.iconst 3, 1) := dk_6 (dk_at dksX1_init_5 19 rfl rfl)
theorem dX1_init_135 : decode cX1_init 135 = .ok (.newarray .int, 2) := dk_188_10 (dk_at dksX1_init_5 20 rfl rfl)
theorem dX1_init_137 : decode cX1_init 137 = .ok (.putfield 65, 3) := dk_181 0 65 (dk_at dksX1_init_6 0 rfl rfl)
theorem dX1_init_140 : decode cX1_init 140 = .ok (.aload_n 0, 1) := dk_42 (dk_at dksX1_init_6 3 rfl rfl)
theorem dX1_init_141 : decode cX1_init 141 = .ok (.iconst 3, 1) := dk_6 (dk_at dksX1_init_6 4 rfl rfl)
theorem dX1_init_142 : decode cX1_init 142 = .ok (.newarray .long, 2) := dk_188_11 (dk_at dksX1_init_6 5 rfl rfl)
theorem dX1_init_144 : decode cX1_init 144 = .ok (.putfield 68, 3) := dk_181 0 68 (dk_at dksX1_init_6 7 rfl rfl)
theorem dX1_init_147 : decode cX1_init 147 = .ok (.aload_n 0, 1) := dk_42 (dk_at dksX1_init_6 10 rfl rfl)
theorem dX1_init_148 : decode cX1_init 148 = .ok (.iconst 4, 1) := dk_7 (dk_at dksX1_init_6 11 rfl rfl)
theorem dX1_init_149 : decode cX1_init 149 = .ok (.newarray .long, 2) := dk_188_11 (dk_at dksX1_init_6 12 rfl rfl)
theorem dX1_init_151 : decode cX1_init 151 = .ok (.putfield 72, 3) := dk_181 0 72 (dk_at dksX1_init_6 14 rfl rfl)
theorem dX1_init_154 : decode cX1_init 154 = .ok (.aload_n 0, 1) := dk_42 (dk_at dksX1_init_6 17 rfl rfl)
theorem dX1_init_155 : decode cX1_init 155 = .ok (.bipush 20, 2) := dk_16 20 (dk_at dksX1_init_6 18 rfl rfl)
theorem dX1_init_157 : decode cX1_init 157 = .ok (.newarray .int, 2) := dk_188_10 (dk_at dksX1_init_6 20 rfl rfl)
theorem dX1_init_159 : decode cX1_init 159 = .ok (.putfield 75, 3) := dk_181 0 75 (dk_at dksX1_init_7 0 rfl rfl)
theorem dX1_init_162 : decode cX1_init 162 = .ok (.aload_n 0, 1) := dk_42 (dk_at dksX1_init_7 3 rfl rfl)
theorem dX1_init_163 : decode cX1_init 163 = .ok (.iconst (-1), 1) := dk_2 (dk_at dksX1_init_7 4 rfl rfl)
theorem dX1_init_164 : decode cX1_init 164 = .ok (.putfield 78, 3) := dk_181 0 78 (dk_at dksX1_init_7 5 rfl rfl)
theorem dX1_init_167 : decode cX1_init 167 = .ok (.iconst 0, 1) := dk_3 (dk_at dksX1_init_7 8 rfl rfl)
theorem dX1_init_168 : decode cX1_init 168 = .ok (.istore_n 1, 1) := dk_60 (dk_at dksX1_init_7 9 rfl rfl)
theorem dX1_init_169 : decode cX1_init 169 = .ok (.iload_n 1, 1) := dk_27 (dk_at dksX1_init_7 10 rfl rfl)
theorem dX1_init_170 : decode cX1_init 170 = .ok (.bipush 64, 2) := dk_16 64 (dk_at dksX1_init_7 11 rfl rfl)
theorem dX1_init_172 : decode cX1_init 172 = .ok (.if_icmp .ge 22, 3) := dk_162 0 22 (dk_at dksX1_init_7 13 rfl rfl)
theorem dX1_init_175 : decode cX1_init 175 = .ok (.aload_n 0, 1) := dk_42 (dk_at dksX1_init_7 16 rfl rfl)
theorem dX1_init_176 : decode cX1_init 176 = .ok (.getfield 35, 3) := dk_180 0 35 (dk_at dksX1_init_7 17 rfl rfl)
theorem dX1_init_179 : decode cX1_init 179 = .ok (.iload_n 1, 1) := dk_27 (dk_at dksX1_init_7 20 rfl rfl)
theorem dX1_init_180 : decode cX1_init 180 = .ok (.new 33, 3) := dk_187 0 33 (dk_at dksX1_init_7 21 rfl rfl)
theorem dX1_init_183 : decode cX1_init 183 = .ok (.dup, 1) := dk_89 (dk_at dksX1_init_8 0 rfl rfl)
theorem dX1_init_184 : decode cX1_init 184 = .ok (.invokespecial 39, 3) := dk_183 0 39 (dk_at dksX1_init_8 1 rfl rfl)
theorem dX1_init_187 : decode cX1_init 187 = .ok (.aastore, 1) := dk_83 (dk_at dksX1_init_8 4 rfl rfl)
theorem dX1_init_188 : decode cX1_init 188 = .ok (.iinc 1 1, 3) := dk_132 1 1 (dk_at dksX1_init_8 5 rfl rfl)
theorem dX1_init_191 : decode cX1_init 191 = .ok (.goto (-22), 3) := dk_167 255 234 (dk_at dksX1_init_8 8 rfl rfl)
theorem dX1_init_194 : decode cX1_init 194 = .ok (.return_, 1) := dk_177 (dk_at dksX1_init_8 11 rfl rfl)
abbrev cX1_feed : ByteArray := prog_1_method_11_code
def yX1_feed : MethodName := ⟨RX1, "feed", "(IIIII)I"⟩
def dkwX1_feed_2 : List UInt8 := [180, 0, 10, 180, 0, 125, 172]
abbrev dktX1_feed_2 : List UInt8 := dkwX1_feed_2 ++ []
def dkwX1_feed_1 : List UInt8 := [28, 182, 0, 128, 42, 29, 182, 0, 128, 42, 21, 4, 182, 0, 128, 42, 21, 5, 182, 0, 128, 42]
abbrev dktX1_feed_1 : List UInt8 := dkwX1_feed_1 ++ dktX1_feed_2
def dkwX1_feed_0 : List UInt8 := [42, 180, 0, 10, 180, 0, 125, 16, 20, 96, 17, 1, 144, 164, 0, 5, 2, 172, 42, 27, 182, 0, 128, 42]
abbrev dktX1_feed_0 : List UInt8 := dkwX1_feed_0 ++ dktX1_feed_1
theorem dksX1_feed_0 : cX1_feed.data.toList.drop 0 = dktX1_feed_0 := by decide +kernel
theorem dksX1_feed_1 : cX1_feed.data.toList.drop 24 = dktX1_feed_1 := dk_seg dksX1_feed_0 24 rfl rfl
theorem dksX1_feed_2 : cX1_feed.data.toList.drop 46 = dktX1_feed_2 := dk_seg dksX1_feed_1 22 rfl rfl
theorem dX1_feed_0 : decode cX1_feed 0 = .ok (.aload_n 0, 1) := dk_42 (dk_at dksX1_feed_0 0 rfl rfl)
theorem dX1_feed_1 : decode cX1_feed 1 = .ok (.getfield 10, 3) := dk_180 0 10 (dk_at dksX1_feed_0 1 rfl rfl)
theorem dX1_feed_4 : decode cX1_feed 4 = .ok (.getfield 125, 3) := dk_180 0 125 (dk_at dksX1_feed_0 4 rfl rfl)
theorem dX1_feed_7 : decode cX1_feed 7 = .ok (.bipush 20, 2) := dk_16 20 (dk_at dksX1_feed_0 7 rfl rfl)
theorem dX1_feed_9 : decode cX1_feed 9 = .ok (.iadd, 1) := dk_96 (dk_at dksX1_feed_0 9 rfl rfl)
theorem dX1_feed_10 : decode cX1_feed 10 = .ok (.sipush 400, 3) := dk_17 1 144 (dk_at dksX1_feed_0 10 rfl rfl)
theorem dX1_feed_13 : decode cX1_feed 13 = .ok (.if_icmp .le 5, 3) := dk_164 0 5 (dk_at dksX1_feed_0 13 rfl rfl)
theorem dX1_feed_16 : decode cX1_feed 16 = .ok (.iconst (-1), 1) := dk_2 (dk_at dksX1_feed_0 16 rfl rfl)
theorem dX1_feed_17 : decode cX1_feed 17 = .ok (.ireturn, 1) := dk_172 (dk_at dksX1_feed_0 17 rfl rfl)
theorem dX1_feed_18 : decode cX1_feed 18 = .ok (.aload_n 0, 1) := dk_42 (dk_at dksX1_feed_0 18 rfl rfl)
theorem dX1_feed_19 : decode cX1_feed 19 = .ok (.iload_n 1, 1) := dk_27 (dk_at dksX1_feed_0 19 rfl rfl)
theorem dX1_feed_20 : decode cX1_feed 20 = .ok (.invokevirtual 128, 3) := dk_182 0 128 (dk_at dksX1_feed_0 20 rfl rfl)
theorem dX1_feed_23 : decode cX1_feed 23 = .ok (.aload_n 0, 1) := dk_42 (dk_at dksX1_feed_0 23 rfl rfl)
theorem dX1_feed_24 : decode cX1_feed 24 = .ok (.iload_n 2, 1) := dk_28 (dk_at dksX1_feed_1 0 rfl rfl)
theorem dX1_feed_25 : decode cX1_feed 25 = .ok (.invokevirtual 128, 3) := dk_182 0 128 (dk_at dksX1_feed_1 1 rfl rfl)
theorem dX1_feed_28 : decode cX1_feed 28 = .ok (.aload_n 0, 1) := dk_42 (dk_at dksX1_feed_1 4 rfl rfl)
theorem dX1_feed_29 : decode cX1_feed 29 = .ok (.iload_n 3, 1) := dk_29 (dk_at dksX1_feed_1 5 rfl rfl)
theorem dX1_feed_30 : decode cX1_feed 30 = .ok (.invokevirtual 128, 3) := dk_182 0 128 (dk_at dksX1_feed_1 6 rfl rfl)
theorem dX1_feed_33 : decode cX1_feed 33 = .ok (.aload_n 0, 1) := dk_42 (dk_at dksX1_feed_1 9 rfl rfl)
theorem dX1_feed_34 : decode cX1_feed 34 = .ok (.iload 4, 2) := dk_21 4 (dk_at dksX1_feed_1 10 rfl rfl)
theorem dX1_feed_36 : decode cX1_feed 36 = .ok (.invokevirtual 128, 3) := dk_182 0 128 (dk_at dksX1_feed_1 12 rfl rfl)
theorem dX1_feed_39 : decode cX1_feed 39 = .ok (.aload_n 0, 1) := dk_42 (dk_at dksX1_feed_1 15 rfl rfl)
theorem dX1_feed_40 : decode cX1_feed 40 = .ok (.iload 5, 2) := dk_21 5 (dk_at dksX1_feed_1 16 rfl rfl)
theorem dX1_feed_42 : decode cX1_feed 42 = .ok (.invokevirtual 128, 3) := dk_182 0 128 (dk_at dksX1_feed_1 18 rfl rfl)
theorem dX1_feed_45 : decode cX1_feed 45 = .ok (.aload_n 0, 1) := dk_42 (dk_at dksX1_feed_1 21 rfl rfl)
theorem dX1_feed_46 : decode cX1_feed 46 = .ok (.getfield 10, 3) := dk_180 0 10 (dk_at dksX1_feed_2 0 rfl rfl)
theorem dX1_feed_49 : decode cX1_feed 49 = .ok (.getfield 125, 3) := dk_180 0 125 (dk_at dksX1_feed_2 3 rfl rfl)
theorem dX1_feed_52 : decode cX1_feed 52 = .ok (.ireturn, 1) := dk_172 (dk_at dksX1_feed_2 6 rfl rfl)
abbrev cX1_four : ByteArray := prog_1_method_10_code
def yX1_four : MethodName := ⟨RX1, "four", "(I)V"⟩
def dkwX1_four_1 : List UInt8 := [145, 84, 42, 180, 0, 10, 89, 180, 0, 125, 4, 96, 181, 0, 125, 132, 2, 248, 167, 255, 217, 177]
abbrev dktX1_four_1 : List UInt8 := dkwX1_four_1 ++ []
def dkwX1_four_0 : List UInt8 := [16, 24, 61, 28, 155, 0, 41, 42, 180, 0, 10, 180, 0, 121, 42, 180, 0, 10, 180, 0, 125, 27, 28, 122]
abbrev dktX1_four_0 : List UInt8 := dkwX1_four_0 ++ dktX1_four_1
theorem dksX1_four_0 : cX1_four.data.toList.drop 0 = dktX1_four_0 := by decide +kernel
theorem dksX1_four_1 : cX1_four.data.toList.drop 24 = dktX1_four_1 := dk_seg dksX1_four_0 24 rfl rfl
theorem dX1_four_0 : decode cX1_four 0 = .ok (.bipush 24, 2) := dk_16 24 (dk_at dksX1_four_0 0 rfl rfl)
theorem dX1_four_2 : decode cX1_four 2 = .ok (.istore_n 2, 1) := dk_61 (dk_at dksX1_four_0 2 rfl rfl)
theorem dX1_four_3 : decode cX1_four 3 = .ok (.iload_n 2, 1) := dk_28 (dk_at dksX1_four_0 3 rfl rfl)
theorem dX1_four_4 : decode cX1_four 4 = .ok (.ifCond .lt 41, 3) := dk_155 0 41 (dk_at dksX1_four_0 4 rfl rfl)
theorem dX1_four_7 : decode cX1_four 7 = .ok (.aload_n 0, 1) := dk_42 (dk_at dksX1_four_0 7 rfl rfl)
theorem dX1_four_8 : decode cX1_four 8 = .ok (.getfield 10, 3) := dk_180 0 10 (dk_at dksX1_four_0 8 rfl rfl)
theorem dX1_four_11 : decode cX1_four 11 = .ok (.getfield 121, 3) := dk_180 0 121 (dk_at dksX1_four_0 11 rfl rfl)
theorem dX1_four_14 : decode cX1_four 14 = .ok (.aload_n 0, 1) := dk_42 (dk_at dksX1_four_0 14 rfl rfl)
theorem dX1_four_15 : decode cX1_four 15 = .ok (.getfield 10, 3) := dk_180 0 10 (dk_at dksX1_four_0 15 rfl rfl)
theorem dX1_four_18 : decode cX1_four 18 = .ok (.getfield 125, 3) := dk_180 0 125 (dk_at dksX1_four_0 18 rfl rfl)
theorem dX1_four_21 : decode cX1_four 21 = .ok (.iload_n 1, 1) := dk_27 (dk_at dksX1_four_0 21 rfl rfl)
theorem dX1_four_22 : decode cX1_four 22 = .ok (.iload_n 2, 1) := dk_28 (dk_at dksX1_four_0 22 rfl rfl)
theorem dX1_four_23 : decode cX1_four 23 = .ok (.ishr, 1) := dk_122 (dk_at dksX1_four_0 23 rfl rfl)
theorem dX1_four_24 : decode cX1_four 24 = .ok (.i2b, 1) := dk_145 (dk_at dksX1_four_1 0 rfl rfl)
theorem dX1_four_25 : decode cX1_four 25 = .ok (.bastore, 1) := dk_84 (dk_at dksX1_four_1 1 rfl rfl)
theorem dX1_four_26 : decode cX1_four 26 = .ok (.aload_n 0, 1) := dk_42 (dk_at dksX1_four_1 2 rfl rfl)
theorem dX1_four_27 : decode cX1_four 27 = .ok (.getfield 10, 3) := dk_180 0 10 (dk_at dksX1_four_1 3 rfl rfl)
theorem dX1_four_30 : decode cX1_four 30 = .ok (.dup, 1) := dk_89 (dk_at dksX1_four_1 6 rfl rfl)
theorem dX1_four_31 : decode cX1_four 31 = .ok (.getfield 125, 3) := dk_180 0 125 (dk_at dksX1_four_1 7 rfl rfl)
theorem dX1_four_34 : decode cX1_four 34 = .ok (.iconst 1, 1) := dk_4 (dk_at dksX1_four_1 10 rfl rfl)
theorem dX1_four_35 : decode cX1_four 35 = .ok (.iadd, 1) := dk_96 (dk_at dksX1_four_1 11 rfl rfl)
theorem dX1_four_36 : decode cX1_four 36 = .ok (.putfield 125, 3) := dk_181 0 125 (dk_at dksX1_four_1 12 rfl rfl)
theorem dX1_four_39 : decode cX1_four 39 = .ok (.iinc 2 (-8), 3) := dk_132 2 248 (dk_at dksX1_four_1 15 rfl rfl)
theorem dX1_four_42 : decode cX1_four 42 = .ok (.goto (-39), 3) := dk_167 255 217 (dk_at dksX1_four_1 18 rfl rfl)
theorem dX1_four_45 : decode cX1_four 45 = .ok (.return_, 1) := dk_177 (dk_at dksX1_four_1 21 rfl rfl)
abbrev cX1_end : ByteArray := prog_1_method_12_code
def yX1_end : MethodName := ⟨RX1, "end", "(I)Z"⟩
def dkwX1_end_1 : List UInt8 := [181, 0, 125, 4, 172]
abbrev dktX1_end_1 : List UInt8 := dkwX1_end_1 ++ []
def dkwX1_end_0 : List UInt8 := [27, 133, 9, 42, 180, 0, 10, 180, 0, 125, 133, 184, 0, 97, 154, 0, 5, 3, 172, 42, 180, 0, 10, 27]
abbrev dktX1_end_0 : List UInt8 := dkwX1_end_0 ++ dktX1_end_1
theorem dksX1_end_0 : cX1_end.data.toList.drop 0 = dktX1_end_0 := by decide +kernel
theorem dksX1_end_1 : cX1_end.data.toList.drop 24 = dktX1_end_1 := dk_seg dksX1_end_0 24 rfl rfl
theorem dX1_end_0 : decode cX1_end 0 = .ok (.iload_n 1, 1) := dk_27 (dk_at dksX1_end_0 0 rfl rfl)
theorem dX1_end_1 : decode cX1_end 1 = .ok (.i2l, 1) := dk_133 (dk_at dksX1_end_0 1 rfl rfl)
theorem dX1_end_2 : decode cX1_end 2 = .ok (.lconst 0, 1) := dk_9 (dk_at dksX1_end_0 2 rfl rfl)
theorem dX1_end_3 : decode cX1_end 3 = .ok (.aload_n 0, 1) := dk_42 (dk_at dksX1_end_0 3 rfl rfl)
theorem dX1_end_4 : decode cX1_end 4 = .ok (.getfield 10, 3) := dk_180 0 10 (dk_at dksX1_end_0 4 rfl rfl)
theorem dX1_end_7 : decode cX1_end 7 = .ok (.getfield 125, 3) := dk_180 0 125 (dk_at dksX1_end_0 7 rfl rfl)
theorem dX1_end_10 : decode cX1_end 10 = .ok (.i2l, 1) := dk_133 (dk_at dksX1_end_0 10 rfl rfl)
theorem dX1_end_11 : decode cX1_end 11 = .ok (.invokestatic 97, 3) := dk_184 0 97 (dk_at dksX1_end_0 11 rfl rfl)
theorem dX1_end_14 : decode cX1_end 14 = .ok (.ifCond .ne 5, 3) := dk_154 0 5 (dk_at dksX1_end_0 14 rfl rfl)
theorem dX1_end_17 : decode cX1_end 17 = .ok (.iconst 0, 1) := dk_3 (dk_at dksX1_end_0 17 rfl rfl)
theorem dX1_end_18 : decode cX1_end 18 = .ok (.ireturn, 1) := dk_172 (dk_at dksX1_end_0 18 rfl rfl)
theorem dX1_end_19 : decode cX1_end 19 = .ok (.aload_n 0, 1) := dk_42 (dk_at dksX1_end_0 19 rfl rfl)
theorem dX1_end_20 : decode cX1_end 20 = .ok (.getfield 10, 3) := dk_180 0 10 (dk_at dksX1_end_0 20 rfl rfl)
theorem dX1_end_23 : decode cX1_end 23 = .ok (.iload_n 1, 1) := dk_27 (dk_at dksX1_end_0 23 rfl rfl)
theorem dX1_end_24 : decode cX1_end 24 = .ok (.putfield 125, 3) := dk_181 0 125 (dk_at dksX1_end_1 0 rfl rfl)
theorem dX1_end_27 : decode cX1_end 27 = .ok (.iconst 1, 1) := dk_4 (dk_at dksX1_end_1 3 rfl rfl)
theorem dX1_end_28 : decode cX1_end 28 = .ok (.ireturn, 1) := dk_172 (dk_at dksX1_end_1 4 rfl rfl)
abbrev cX1_isIn : ByteArray := prog_1_method_6_code
def yX1_isIn : MethodName := ⟨RX1, "isIn", "(JJJ)Z"⟩
def dkwX1_isIn_0 : List UInt8 := [30, 32, 148, 155, 0, 14, 30, 22, 4, 148, 157, 0, 7, 4, 167, 0, 4, 3, 172]
abbrev dktX1_isIn_0 : List UInt8 := dkwX1_isIn_0 ++ []
theorem dksX1_isIn_0 : cX1_isIn.data.toList.drop 0 = dktX1_isIn_0 := by decide +kernel
theorem dX1_isIn_0 : decode cX1_isIn 0 = .ok (.lload_n 0, 1) := dk_30 (dk_at dksX1_isIn_0 0 rfl rfl)
theorem dX1_isIn_1 : decode cX1_isIn 1 = .ok (.lload_n 2, 1) := dk_32 (dk_at dksX1_isIn_0 1 rfl rfl)
theorem dX1_isIn_2 : decode cX1_isIn 2 = .ok (.lcmp, 1) := dk_148 (dk_at dksX1_isIn_0 2 rfl rfl)
theorem dX1_isIn_3 : decode cX1_isIn 3 = .ok (.ifCond .lt 14, 3) := dk_155 0 14 (dk_at dksX1_isIn_0 3 rfl rfl)
theorem dX1_isIn_6 : decode cX1_isIn 6 = .ok (.lload_n 0, 1) := dk_30 (dk_at dksX1_isIn_0 6 rfl rfl)
theorem dX1_isIn_7 : decode cX1_isIn 7 = .ok (.lload 4, 2) := dk_22 4 (dk_at dksX1_isIn_0 7 rfl rfl)
theorem dX1_isIn_9 : decode cX1_isIn 9 = .ok (.lcmp, 1) := dk_148 (dk_at dksX1_isIn_0 9 rfl rfl)
theorem dX1_isIn_10 : decode cX1_isIn 10 = .ok (.ifCond .gt 7, 3) := dk_157 0 7 (dk_at dksX1_isIn_0 10 rfl rfl)
theorem dX1_isIn_13 : decode cX1_isIn 13 = .ok (.iconst 1, 1) := dk_4 (dk_at dksX1_isIn_0 13 rfl rfl)
theorem dX1_isIn_14 : decode cX1_isIn 14 = .ok (.goto 4, 3) := dk_167 0 4 (dk_at dksX1_isIn_0 14 rfl rfl)
theorem dX1_isIn_17 : decode cX1_isIn 17 = .ok (.iconst 0, 1) := dk_3 (dk_at dksX1_isIn_0 17 rfl rfl)
theorem dX1_isIn_18 : decode cX1_isIn 18 = .ok (.ireturn, 1) := dk_172 (dk_at dksX1_isIn_0 18 rfl rfl)
abbrev cX1_fault : ByteArray := prog_1_method_19_code
def yX1_fault : MethodName := ⟨RX1, "fault", "()I"⟩
theorem dX1_fault_0 : decode cX1_fault 0 = .ok (.aload_n 0, 1) := by decide +kernel
theorem dX1_fault_1 : decode cX1_fault 1 = .ok (.getfield 78, 3) := by decide +kernel
theorem dX1_fault_4 : decode cX1_fault 4 = .ok (.ireturn, 1) := by decide +kernel
abbrev cX1_undo : ByteArray := prog_1_method_25_code
def yX1_undo : MethodName := ⟨RX1, "undo", "()I"⟩
def dkwX1_undo_2 : List UInt8 := [180, 0, 105, 43, 180, 0, 231, 50, 43, 180, 0, 236, 182, 0, 223, 43, 180, 0, 231, 172]
abbrev dktX1_undo_2 : List UInt8 := dkwX1_undo_2 ++ []
def dkwX1_undo_1 : List UInt8 := [181, 0, 167, 42, 180, 0, 26, 180, 0, 227, 42, 180, 0, 26, 180, 0, 167, 50, 76, 42, 180, 0, 26]
abbrev dktX1_undo_1 : List UInt8 := dkwX1_undo_1 ++ dktX1_undo_2
def dkwX1_undo_0 : List UInt8 := [42, 180, 0, 26, 180, 0, 167, 154, 0, 5, 2, 172, 42, 180, 0, 26, 89, 180, 0, 167, 4, 100]
abbrev dktX1_undo_0 : List UInt8 := dkwX1_undo_0 ++ dktX1_undo_1
theorem dksX1_undo_0 : cX1_undo.data.toList.drop 0 = dktX1_undo_0 := by decide +kernel
theorem dksX1_undo_1 : cX1_undo.data.toList.drop 22 = dktX1_undo_1 := dk_seg dksX1_undo_0 22 rfl rfl
theorem dksX1_undo_2 : cX1_undo.data.toList.drop 45 = dktX1_undo_2 := dk_seg dksX1_undo_1 23 rfl rfl
theorem dX1_undo_0 : decode cX1_undo 0 = .ok (.aload_n 0, 1) := dk_42 (dk_at dksX1_undo_0 0 rfl rfl)
theorem dX1_undo_1 : decode cX1_undo 1 = .ok (.getfield 26, 3) := dk_180 0 26 (dk_at dksX1_undo_0 1 rfl rfl)
theorem dX1_undo_4 : decode cX1_undo 4 = .ok (.getfield 167, 3) := dk_180 0 167 (dk_at dksX1_undo_0 4 rfl rfl)
theorem dX1_undo_7 : decode cX1_undo 7 = .ok (.ifCond .ne 5, 3) := dk_154 0 5 (dk_at dksX1_undo_0 7 rfl rfl)
theorem dX1_undo_10 : decode cX1_undo 10 = .ok (.iconst (-1), 1) := dk_2 (dk_at dksX1_undo_0 10 rfl rfl)
theorem dX1_undo_11 : decode cX1_undo 11 = .ok (.ireturn, 1) := dk_172 (dk_at dksX1_undo_0 11 rfl rfl)
theorem dX1_undo_12 : decode cX1_undo 12 = .ok (.aload_n 0, 1) := dk_42 (dk_at dksX1_undo_0 12 rfl rfl)
theorem dX1_undo_13 : decode cX1_undo 13 = .ok (.getfield 26, 3) := dk_180 0 26 (dk_at dksX1_undo_0 13 rfl rfl)
theorem dX1_undo_16 : decode cX1_undo 16 = .ok (.dup, 1) := dk_89 (dk_at dksX1_undo_0 16 rfl rfl)
theorem dX1_undo_17 : decode cX1_undo 17 = .ok (.getfield 167, 3) := dk_180 0 167 (dk_at dksX1_undo_0 17 rfl rfl)
theorem dX1_undo_20 : decode cX1_undo 20 = .ok (.iconst 1, 1) := dk_4 (dk_at dksX1_undo_0 20 rfl rfl)
theorem dX1_undo_21 : decode cX1_undo 21 = .ok (.isub, 1) := dk_100 (dk_at dksX1_undo_0 21 rfl rfl)
theorem dX1_undo_22 : decode cX1_undo 22 = .ok (.putfield 167, 3) := dk_181 0 167 (dk_at dksX1_undo_1 0 rfl rfl)
theorem dX1_undo_25 : decode cX1_undo 25 = .ok (.aload_n 0, 1) := dk_42 (dk_at dksX1_undo_1 3 rfl rfl)
theorem dX1_undo_26 : decode cX1_undo 26 = .ok (.getfield 26, 3) := dk_180 0 26 (dk_at dksX1_undo_1 4 rfl rfl)
theorem dX1_undo_29 : decode cX1_undo 29 = .ok (.getfield 227, 3) := dk_180 0 227 (dk_at dksX1_undo_1 7 rfl rfl)
theorem dX1_undo_32 : decode cX1_undo 32 = .ok (.aload_n 0, 1) := dk_42 (dk_at dksX1_undo_1 10 rfl rfl)
theorem dX1_undo_33 : decode cX1_undo 33 = .ok (.getfield 26, 3) := dk_180 0 26 (dk_at dksX1_undo_1 11 rfl rfl)
theorem dX1_undo_36 : decode cX1_undo 36 = .ok (.getfield 167, 3) := dk_180 0 167 (dk_at dksX1_undo_1 14 rfl rfl)
theorem dX1_undo_39 : decode cX1_undo 39 = .ok (.aaload, 1) := dk_50 (dk_at dksX1_undo_1 17 rfl rfl)
theorem dX1_undo_40 : decode cX1_undo 40 = .ok (.astore_n 1, 1) := dk_76 (dk_at dksX1_undo_1 18 rfl rfl)
theorem dX1_undo_41 : decode cX1_undo 41 = .ok (.aload_n 0, 1) := dk_42 (dk_at dksX1_undo_1 19 rfl rfl)
theorem dX1_undo_42 : decode cX1_undo 42 = .ok (.getfield 26, 3) := dk_180 0 26 (dk_at dksX1_undo_1 20 rfl rfl)
theorem dX1_undo_45 : decode cX1_undo 45 = .ok (.getfield 105, 3) := dk_180 0 105 (dk_at dksX1_undo_2 0 rfl rfl)
theorem dX1_undo_48 : decode cX1_undo 48 = .ok (.aload_n 1, 1) := dk_43 (dk_at dksX1_undo_2 3 rfl rfl)
theorem dX1_undo_49 : decode cX1_undo 49 = .ok (.getfield 231, 3) := dk_180 0 231 (dk_at dksX1_undo_2 4 rfl rfl)
theorem dX1_undo_52 : decode cX1_undo 52 = .ok (.aaload, 1) := dk_50 (dk_at dksX1_undo_2 7 rfl rfl)
theorem dX1_undo_53 : decode cX1_undo 53 = .ok (.aload_n 1, 1) := dk_43 (dk_at dksX1_undo_2 8 rfl rfl)
theorem dX1_undo_54 : decode cX1_undo 54 = .ok (.getfield 236, 3) := dk_180 0 236 (dk_at dksX1_undo_2 9 rfl rfl)
theorem dX1_undo_57 : decode cX1_undo 57 = .ok (.invokevirtual 223, 3) := dk_182 0 223 (dk_at dksX1_undo_2 12 rfl rfl)
theorem dX1_undo_60 : decode cX1_undo 60 = .ok (.aload_n 1, 1) := dk_43 (dk_at dksX1_undo_2 15 rfl rfl)
theorem dX1_undo_61 : decode cX1_undo 61 = .ok (.getfield 231, 3) := dk_180 0 231 (dk_at dksX1_undo_2 16 rfl rfl)
theorem dX1_undo_64 : decode cX1_undo 64 = .ok (.ireturn, 1) := dk_172 (dk_at dksX1_undo_2 19 rfl rfl)
abbrev cX1_redo : ByteArray := prog_1_method_26_code
def yX1_redo : MethodName := ⟨RX1, "redo", "()I"⟩
def dkwX1_redo_3 : List UInt8 := [180, 0, 231, 172]
abbrev dktX1_redo_3 : List UInt8 := dkwX1_redo_3 ++ []
def dkwX1_redo_2 : List UInt8 := [181, 0, 167, 42, 180, 0, 26, 180, 0, 105, 43, 180, 0, 231, 50, 43, 180, 0, 239, 182, 0, 223, 43]
abbrev dktX1_redo_2 : List UInt8 := dkwX1_redo_2 ++ dktX1_redo_3
def dkwX1_redo_1 : List UInt8 := [180, 0, 227, 42, 180, 0, 26, 180, 0, 167, 50, 76, 42, 180, 0, 26, 89, 180, 0, 167, 4, 96]
abbrev dktX1_redo_1 : List UInt8 := dkwX1_redo_1 ++ dktX1_redo_2
def dkwX1_redo_0 : List UInt8 := [42, 180, 0, 26, 180, 0, 167, 42, 180, 0, 26, 180, 0, 170, 160, 0, 5, 2, 172, 42, 180, 0, 26]
abbrev dktX1_redo_0 : List UInt8 := dkwX1_redo_0 ++ dktX1_redo_1
theorem dksX1_redo_0 : cX1_redo.data.toList.drop 0 = dktX1_redo_0 := by decide +kernel
theorem dksX1_redo_1 : cX1_redo.data.toList.drop 23 = dktX1_redo_1 := dk_seg dksX1_redo_0 23 rfl rfl
theorem dksX1_redo_2 : cX1_redo.data.toList.drop 45 = dktX1_redo_2 := dk_seg dksX1_redo_1 22 rfl rfl
theorem dksX1_redo_3 : cX1_redo.data.toList.drop 68 = dktX1_redo_3 := dk_seg dksX1_redo_2 23 rfl rfl
theorem dX1_redo_0 : decode cX1_redo 0 = .ok (.aload_n 0, 1) := dk_42 (dk_at dksX1_redo_0 0 rfl rfl)
theorem dX1_redo_1 : decode cX1_redo 1 = .ok (.getfield 26, 3) := dk_180 0 26 (dk_at dksX1_redo_0 1 rfl rfl)
theorem dX1_redo_4 : decode cX1_redo 4 = .ok (.getfield 167, 3) := dk_180 0 167 (dk_at dksX1_redo_0 4 rfl rfl)
theorem dX1_redo_7 : decode cX1_redo 7 = .ok (.aload_n 0, 1) := dk_42 (dk_at dksX1_redo_0 7 rfl rfl)
theorem dX1_redo_8 : decode cX1_redo 8 = .ok (.getfield 26, 3) := dk_180 0 26 (dk_at dksX1_redo_0 8 rfl rfl)
theorem dX1_redo_11 : decode cX1_redo 11 = .ok (.getfield 170, 3) := dk_180 0 170 (dk_at dksX1_redo_0 11 rfl rfl)
theorem dX1_redo_14 : decode cX1_redo 14 = .ok (.if_icmp .ne 5, 3) := dk_160 0 5 (dk_at dksX1_redo_0 14 rfl rfl)
theorem dX1_redo_17 : decode cX1_redo 17 = .ok (.iconst (-1), 1) := dk_2 (dk_at dksX1_redo_0 17 rfl rfl)
theorem dX1_redo_18 : decode cX1_redo 18 = .ok (.ireturn, 1) := dk_172 (dk_at dksX1_redo_0 18 rfl rfl)
theorem dX1_redo_19 : decode cX1_redo 19 = .ok (.aload_n 0, 1) := dk_42 (dk_at dksX1_redo_0 19 rfl rfl)
theorem dX1_redo_20 : decode cX1_redo 20 = .ok (.getfield 26, 3) := dk_180 0 26 (dk_at dksX1_redo_0 20 rfl rfl)
theorem dX1_redo_23 : decode cX1_redo 23 = .ok (.getfield 227, 3) := dk_180 0 227 (dk_at dksX1_redo_1 0 rfl rfl)
theorem dX1_redo_26 : decode cX1_redo 26 = .ok (.aload_n 0, 1) := dk_42 (dk_at dksX1_redo_1 3 rfl rfl)
theorem dX1_redo_27 : decode cX1_redo 27 = .ok (.getfield 26, 3) := dk_180 0 26 (dk_at dksX1_redo_1 4 rfl rfl)
theorem dX1_redo_30 : decode cX1_redo 30 = .ok (.getfield 167, 3) := dk_180 0 167 (dk_at dksX1_redo_1 7 rfl rfl)
theorem dX1_redo_33 : decode cX1_redo 33 = .ok (.aaload, 1) := dk_50 (dk_at dksX1_redo_1 10 rfl rfl)
theorem dX1_redo_34 : decode cX1_redo 34 = .ok (.astore_n 1, 1) := dk_76 (dk_at dksX1_redo_1 11 rfl rfl)
theorem dX1_redo_35 : decode cX1_redo 35 = .ok (.aload_n 0, 1) := dk_42 (dk_at dksX1_redo_1 12 rfl rfl)
theorem dX1_redo_36 : decode cX1_redo 36 = .ok (.getfield 26, 3) := dk_180 0 26 (dk_at dksX1_redo_1 13 rfl rfl)
theorem dX1_redo_39 : decode cX1_redo 39 = .ok (.dup, 1) := dk_89 (dk_at dksX1_redo_1 16 rfl rfl)
theorem dX1_redo_40 : decode cX1_redo 40 = .ok (.getfield 167, 3) := dk_180 0 167 (dk_at dksX1_redo_1 17 rfl rfl)
theorem dX1_redo_43 : decode cX1_redo 43 = .ok (.iconst 1, 1) := dk_4 (dk_at dksX1_redo_1 20 rfl rfl)
theorem dX1_redo_44 : decode cX1_redo 44 = .ok (.iadd, 1) := dk_96 (dk_at dksX1_redo_1 21 rfl rfl)
theorem dX1_redo_45 : decode cX1_redo 45 = .ok (.putfield 167, 3) := dk_181 0 167 (dk_at dksX1_redo_2 0 rfl rfl)
theorem dX1_redo_48 : decode cX1_redo 48 = .ok (.aload_n 0, 1) := dk_42 (dk_at dksX1_redo_2 3 rfl rfl)
theorem dX1_redo_49 : decode cX1_redo 49 = .ok (.getfield 26, 3) := dk_180 0 26 (dk_at dksX1_redo_2 4 rfl rfl)
theorem dX1_redo_52 : decode cX1_redo 52 = .ok (.getfield 105, 3) := dk_180 0 105 (dk_at dksX1_redo_2 7 rfl rfl)
theorem dX1_redo_55 : decode cX1_redo 55 = .ok (.aload_n 1, 1) := dk_43 (dk_at dksX1_redo_2 10 rfl rfl)
theorem dX1_redo_56 : decode cX1_redo 56 = .ok (.getfield 231, 3) := dk_180 0 231 (dk_at dksX1_redo_2 11 rfl rfl)
theorem dX1_redo_59 : decode cX1_redo 59 = .ok (.aaload, 1) := dk_50 (dk_at dksX1_redo_2 14 rfl rfl)
theorem dX1_redo_60 : decode cX1_redo 60 = .ok (.aload_n 1, 1) := dk_43 (dk_at dksX1_redo_2 15 rfl rfl)
theorem dX1_redo_61 : decode cX1_redo 61 = .ok (.getfield 239, 3) := dk_180 0 239 (dk_at dksX1_redo_2 16 rfl rfl)
theorem dX1_redo_64 : decode cX1_redo 64 = .ok (.invokevirtual 223, 3) := dk_182 0 223 (dk_at dksX1_redo_2 19 rfl rfl)
theorem dX1_redo_67 : decode cX1_redo 67 = .ok (.aload_n 1, 1) := dk_43 (dk_at dksX1_redo_2 22 rfl rfl)
theorem dX1_redo_68 : decode cX1_redo 68 = .ok (.getfield 231, 3) := dk_180 0 231 (dk_at dksX1_redo_3 0 rfl rfl)
theorem dX1_redo_71 : decode cX1_redo 71 = .ok (.ireturn, 1) := dk_172 (dk_at dksX1_redo_3 3 rfl rfl)
abbrev cX1_image : ByteArray := prog_1_method_74_code
def yX1_image : MethodName := ⟨RX1, "image", "()V"⟩
def dkwX1_image_0 : List UInt8 := [42, 180, 0, 30, 42, 180, 0, 26, 182, 1, 161, 42, 4, 181, 1, 164, 177]
abbrev dktX1_image_0 : List UInt8 := dkwX1_image_0 ++ []
theorem dksX1_image_0 : cX1_image.data.toList.drop 0 = dktX1_image_0 := by decide +kernel
theorem dX1_image_0 : decode cX1_image 0 = .ok (.aload_n 0, 1) := dk_42 (dk_at dksX1_image_0 0 rfl rfl)
theorem dX1_image_1 : decode cX1_image 1 = .ok (.getfield 30, 3) := dk_180 0 30 (dk_at dksX1_image_0 1 rfl rfl)
theorem dX1_image_4 : decode cX1_image 4 = .ok (.aload_n 0, 1) := dk_42 (dk_at dksX1_image_0 4 rfl rfl)
theorem dX1_image_5 : decode cX1_image 5 = .ok (.getfield 26, 3) := dk_180 0 26 (dk_at dksX1_image_0 5 rfl rfl)
theorem dX1_image_8 : decode cX1_image 8 = .ok (.invokevirtual 417, 3) := dk_182 1 161 (dk_at dksX1_image_0 8 rfl rfl)
theorem dX1_image_11 : decode cX1_image 11 = .ok (.aload_n 0, 1) := dk_42 (dk_at dksX1_image_0 11 rfl rfl)
theorem dX1_image_12 : decode cX1_image 12 = .ok (.iconst 1, 1) := dk_4 (dk_at dksX1_image_0 12 rfl rfl)
theorem dX1_image_13 : decode cX1_image 13 = .ok (.putfield 420, 3) := dk_181 1 164 (dk_at dksX1_image_0 13 rfl rfl)
theorem dX1_image_16 : decode cX1_image 16 = .ok (.return_, 1) := dk_177 (dk_at dksX1_image_0 16 rfl rfl)
abbrev cX1_back : ByteArray := prog_1_method_75_code
def yX1_back : MethodName := ⟨RX1, "back", "()Z"⟩
def dkwX1_back_1 : List UInt8 := [180, 0, 141, 42, 180, 0, 26, 180, 0, 138, 181, 0, 145, 4, 172]
abbrev dktX1_back_1 : List UInt8 := dkwX1_back_1 ++ []
def dkwX1_back_0 : List UInt8 := [42, 180, 1, 164, 154, 0, 5, 3, 172, 42, 180, 0, 26, 42, 180, 0, 30, 182, 1, 161, 42, 180, 0, 19]
abbrev dktX1_back_0 : List UInt8 := dkwX1_back_0 ++ dktX1_back_1
theorem dksX1_back_0 : cX1_back.data.toList.drop 0 = dktX1_back_0 := by decide +kernel
theorem dksX1_back_1 : cX1_back.data.toList.drop 24 = dktX1_back_1 := dk_seg dksX1_back_0 24 rfl rfl
theorem dX1_back_0 : decode cX1_back 0 = .ok (.aload_n 0, 1) := dk_42 (dk_at dksX1_back_0 0 rfl rfl)
theorem dX1_back_1 : decode cX1_back 1 = .ok (.getfield 420, 3) := dk_180 1 164 (dk_at dksX1_back_0 1 rfl rfl)
theorem dX1_back_4 : decode cX1_back 4 = .ok (.ifCond .ne 5, 3) := dk_154 0 5 (dk_at dksX1_back_0 4 rfl rfl)
theorem dX1_back_7 : decode cX1_back 7 = .ok (.iconst 0, 1) := dk_3 (dk_at dksX1_back_0 7 rfl rfl)
theorem dX1_back_8 : decode cX1_back 8 = .ok (.ireturn, 1) := dk_172 (dk_at dksX1_back_0 8 rfl rfl)
theorem dX1_back_9 : decode cX1_back 9 = .ok (.aload_n 0, 1) := dk_42 (dk_at dksX1_back_0 9 rfl rfl)
theorem dX1_back_10 : decode cX1_back 10 = .ok (.getfield 26, 3) := dk_180 0 26 (dk_at dksX1_back_0 10 rfl rfl)
theorem dX1_back_13 : decode cX1_back 13 = .ok (.aload_n 0, 1) := dk_42 (dk_at dksX1_back_0 13 rfl rfl)
theorem dX1_back_14 : decode cX1_back 14 = .ok (.getfield 30, 3) := dk_180 0 30 (dk_at dksX1_back_0 14 rfl rfl)
theorem dX1_back_17 : decode cX1_back 17 = .ok (.invokevirtual 417, 3) := dk_182 1 161 (dk_at dksX1_back_0 17 rfl rfl)
theorem dX1_back_20 : decode cX1_back 20 = .ok (.aload_n 0, 1) := dk_42 (dk_at dksX1_back_0 20 rfl rfl)
theorem dX1_back_21 : decode cX1_back 21 = .ok (.getfield 19, 3) := dk_180 0 19 (dk_at dksX1_back_0 21 rfl rfl)
theorem dX1_back_24 : decode cX1_back 24 = .ok (.getfield 141, 3) := dk_180 0 141 (dk_at dksX1_back_1 0 rfl rfl)
theorem dX1_back_27 : decode cX1_back 27 = .ok (.aload_n 0, 1) := dk_42 (dk_at dksX1_back_1 3 rfl rfl)
theorem dX1_back_28 : decode cX1_back 28 = .ok (.getfield 26, 3) := dk_180 0 26 (dk_at dksX1_back_1 4 rfl rfl)
theorem dX1_back_31 : decode cX1_back 31 = .ok (.getfield 138, 3) := dk_180 0 138 (dk_at dksX1_back_1 7 rfl rfl)
theorem dX1_back_34 : decode cX1_back 34 = .ok (.putfield 145, 3) := dk_181 0 145 (dk_at dksX1_back_1 10 rfl rfl)
theorem dX1_back_37 : decode cX1_back 37 = .ok (.iconst 1, 1) := dk_4 (dk_at dksX1_back_1 13 rfl rfl)
theorem dX1_back_38 : decode cX1_back 38 = .ok (.ireturn, 1) := dk_172 (dk_at dksX1_back_1 14 rfl rfl)
abbrev cX1_stock : ByteArray := prog_1_method_76_code
def yX1_stock : MethodName := ⟨RX1, "stock", "(I)I"⟩
def dkwX1_stock_6 : List UInt8 := [167, 255, 219, 28, 172, 2, 172]
abbrev dktX1_stock_6 : List UInt8 := dkwX1_stock_6 ++ []
def dkwX1_stock_5 : List UInt8 := [180, 0, 26, 180, 0, 105, 29, 50, 182, 1, 65, 153, 0, 7, 4, 167, 0, 4, 3, 96, 61, 132, 3, 1]
abbrev dktX1_stock_5 : List UInt8 := dkwX1_stock_5 ++ dktX1_stock_6
def dkwX1_stock_4 : List UInt8 := [180, 0, 26, 180, 0, 167, 100, 172, 3, 62, 29, 42, 180, 0, 26, 180, 0, 94, 162, 0, 32, 28, 42]
abbrev dktX1_stock_4 : List UInt8 := dkwX1_stock_4 ++ dktX1_stock_5
def dkwX1_stock_3 : List UInt8 := [42, 180, 0, 26, 180, 0, 114, 172, 42, 180, 0, 26, 180, 0, 167, 172, 42, 180, 0, 26, 180, 0, 170, 42]
abbrev dktX1_stock_3 : List UInt8 := dkwX1_stock_3 ++ dktX1_stock_4
def dkwX1_stock_2 : List UInt8 := [42, 180, 0, 26, 180, 0, 138, 172, 42, 180, 0, 26, 180, 0, 94, 172, 42, 180, 0, 26, 180, 0, 108, 172]
abbrev dktX1_stock_2 : List UInt8 := dkwX1_stock_2 ++ dktX1_stock_3
def dkwX1_stock_1 : List UInt8 := [170, 0, 0, 0, 141, 0, 0, 0, 0, 0, 0, 0, 6, 0, 0, 0, 41, 0, 0, 0, 49, 0, 0, 0, 57, 0, 0, 0, 65, 0, 0, 0, 73, 0, 0, 0, 81, 0, 0, 0, 97]
abbrev dktX1_stock_1 : List UInt8 := dkwX1_stock_1 ++ dktX1_stock_2
def dkwX1_stock_0 : List UInt8 := [3, 61, 27]
abbrev dktX1_stock_0 : List UInt8 := dkwX1_stock_0 ++ dktX1_stock_1
theorem dksX1_stock_0 : cX1_stock.data.toList.drop 0 = dktX1_stock_0 := by decide +kernel
theorem dksX1_stock_1 : cX1_stock.data.toList.drop 3 = dktX1_stock_1 := dk_seg dksX1_stock_0 3 rfl rfl
theorem dksX1_stock_2 : cX1_stock.data.toList.drop 44 = dktX1_stock_2 := dk_seg dksX1_stock_1 41 rfl rfl
theorem dksX1_stock_3 : cX1_stock.data.toList.drop 68 = dktX1_stock_3 := dk_seg dksX1_stock_2 24 rfl rfl
theorem dksX1_stock_4 : cX1_stock.data.toList.drop 92 = dktX1_stock_4 := dk_seg dksX1_stock_3 24 rfl rfl
theorem dksX1_stock_5 : cX1_stock.data.toList.drop 115 = dktX1_stock_5 := dk_seg dksX1_stock_4 23 rfl rfl
theorem dksX1_stock_6 : cX1_stock.data.toList.drop 139 = dktX1_stock_6 := dk_seg dksX1_stock_5 24 rfl rfl
theorem dX1_stock_0 : decode cX1_stock 0 = .ok (.iconst 0, 1) := dk_3 (dk_at dksX1_stock_0 0 rfl rfl)
theorem dX1_stock_1 : decode cX1_stock 1 = .ok (.istore_n 2, 1) := dk_61 (dk_at dksX1_stock_0 1 rfl rfl)
theorem dX1_stock_2 : decode cX1_stock 2 = .ok (.iload_n 1, 1) := dk_27 (dk_at dksX1_stock_0 2 rfl rfl)
theorem dX1_stock_3 : decode cX1_stock 3 = .ok (.tableswitch 141 0 6 #[41, 49, 57, 65, 73, 81, 97], 41) := by decide +kernel
theorem dX1_stock_44 : decode cX1_stock 44 = .ok (.aload_n 0, 1) := dk_42 (dk_at dksX1_stock_2 0 rfl rfl)
theorem dX1_stock_45 : decode cX1_stock 45 = .ok (.getfield 26, 3) := dk_180 0 26 (dk_at dksX1_stock_2 1 rfl rfl)
theorem dX1_stock_48 : decode cX1_stock 48 = .ok (.getfield 138, 3) := dk_180 0 138 (dk_at dksX1_stock_2 4 rfl rfl)
theorem dX1_stock_51 : decode cX1_stock 51 = .ok (.ireturn, 1) := dk_172 (dk_at dksX1_stock_2 7 rfl rfl)
theorem dX1_stock_52 : decode cX1_stock 52 = .ok (.aload_n 0, 1) := dk_42 (dk_at dksX1_stock_2 8 rfl rfl)
theorem dX1_stock_53 : decode cX1_stock 53 = .ok (.getfield 26, 3) := dk_180 0 26 (dk_at dksX1_stock_2 9 rfl rfl)
theorem dX1_stock_56 : decode cX1_stock 56 = .ok (.getfield 94, 3) := dk_180 0 94 (dk_at dksX1_stock_2 12 rfl rfl)
theorem dX1_stock_59 : decode cX1_stock 59 = .ok (.ireturn, 1) := dk_172 (dk_at dksX1_stock_2 15 rfl rfl)
theorem dX1_stock_60 : decode cX1_stock 60 = .ok (.aload_n 0, 1) := dk_42 (dk_at dksX1_stock_2 16 rfl rfl)
theorem dX1_stock_61 : decode cX1_stock 61 = .ok (.getfield 26, 3) := dk_180 0 26 (dk_at dksX1_stock_2 17 rfl rfl)
theorem dX1_stock_64 : decode cX1_stock 64 = .ok (.getfield 108, 3) := dk_180 0 108 (dk_at dksX1_stock_2 20 rfl rfl)
theorem dX1_stock_67 : decode cX1_stock 67 = .ok (.ireturn, 1) := dk_172 (dk_at dksX1_stock_2 23 rfl rfl)
theorem dX1_stock_68 : decode cX1_stock 68 = .ok (.aload_n 0, 1) := dk_42 (dk_at dksX1_stock_3 0 rfl rfl)
theorem dX1_stock_69 : decode cX1_stock 69 = .ok (.getfield 26, 3) := dk_180 0 26 (dk_at dksX1_stock_3 1 rfl rfl)
theorem dX1_stock_72 : decode cX1_stock 72 = .ok (.getfield 114, 3) := dk_180 0 114 (dk_at dksX1_stock_3 4 rfl rfl)
theorem dX1_stock_75 : decode cX1_stock 75 = .ok (.ireturn, 1) := dk_172 (dk_at dksX1_stock_3 7 rfl rfl)
theorem dX1_stock_76 : decode cX1_stock 76 = .ok (.aload_n 0, 1) := dk_42 (dk_at dksX1_stock_3 8 rfl rfl)
theorem dX1_stock_77 : decode cX1_stock 77 = .ok (.getfield 26, 3) := dk_180 0 26 (dk_at dksX1_stock_3 9 rfl rfl)
theorem dX1_stock_80 : decode cX1_stock 80 = .ok (.getfield 167, 3) := dk_180 0 167 (dk_at dksX1_stock_3 12 rfl rfl)
theorem dX1_stock_83 : decode cX1_stock 83 = .ok (.ireturn, 1) := dk_172 (dk_at dksX1_stock_3 15 rfl rfl)
theorem dX1_stock_84 : decode cX1_stock 84 = .ok (.aload_n 0, 1) := dk_42 (dk_at dksX1_stock_3 16 rfl rfl)
theorem dX1_stock_85 : decode cX1_stock 85 = .ok (.getfield 26, 3) := dk_180 0 26 (dk_at dksX1_stock_3 17 rfl rfl)
theorem dX1_stock_88 : decode cX1_stock 88 = .ok (.getfield 170, 3) := dk_180 0 170 (dk_at dksX1_stock_3 20 rfl rfl)
theorem dX1_stock_91 : decode cX1_stock 91 = .ok (.aload_n 0, 1) := dk_42 (dk_at dksX1_stock_3 23 rfl rfl)
theorem dX1_stock_92 : decode cX1_stock 92 = .ok (.getfield 26, 3) := dk_180 0 26 (dk_at dksX1_stock_4 0 rfl rfl)
theorem dX1_stock_95 : decode cX1_stock 95 = .ok (.getfield 167, 3) := dk_180 0 167 (dk_at dksX1_stock_4 3 rfl rfl)
theorem dX1_stock_98 : decode cX1_stock 98 = .ok (.isub, 1) := dk_100 (dk_at dksX1_stock_4 6 rfl rfl)
theorem dX1_stock_99 : decode cX1_stock 99 = .ok (.ireturn, 1) := dk_172 (dk_at dksX1_stock_4 7 rfl rfl)
theorem dX1_stock_100 : decode cX1_stock 100 = .ok (.iconst 0, 1) := dk_3 (dk_at dksX1_stock_4 8 rfl rfl)
theorem dX1_stock_101 : decode cX1_stock 101 = .ok (.istore_n 3, 1) := dk_62 (dk_at dksX1_stock_4 9 rfl rfl)
theorem dX1_stock_102 : decode cX1_stock 102 = .ok (.iload_n 3, 1) := dk_29 (dk_at dksX1_stock_4 10 rfl rfl)
theorem dX1_stock_103 : decode cX1_stock 103 = .ok (.aload_n 0, 1) := dk_42 (dk_at dksX1_stock_4 11 rfl rfl)
theorem dX1_stock_104 : decode cX1_stock 104 = .ok (.getfield 26, 3) := dk_180 0 26 (dk_at dksX1_stock_4 12 rfl rfl)
theorem dX1_stock_107 : decode cX1_stock 107 = .ok (.getfield 94, 3) := dk_180 0 94 (dk_at dksX1_stock_4 15 rfl rfl)
theorem dX1_stock_110 : decode cX1_stock 110 = .ok (.if_icmp .ge 32, 3) := dk_162 0 32 (dk_at dksX1_stock_4 18 rfl rfl)
theorem dX1_stock_113 : decode cX1_stock 113 = .ok (.iload_n 2, 1) := dk_28 (dk_at dksX1_stock_4 21 rfl rfl)
theorem dX1_stock_114 : decode cX1_stock 114 = .ok (.aload_n 0, 1) := dk_42 (dk_at dksX1_stock_4 22 rfl rfl)
theorem dX1_stock_115 : decode cX1_stock 115 = .ok (.getfield 26, 3) := dk_180 0 26 (dk_at dksX1_stock_5 0 rfl rfl)
theorem dX1_stock_118 : decode cX1_stock 118 = .ok (.getfield 105, 3) := dk_180 0 105 (dk_at dksX1_stock_5 3 rfl rfl)
theorem dX1_stock_121 : decode cX1_stock 121 = .ok (.iload_n 3, 1) := dk_29 (dk_at dksX1_stock_5 6 rfl rfl)
theorem dX1_stock_122 : decode cX1_stock 122 = .ok (.aaload, 1) := dk_50 (dk_at dksX1_stock_5 7 rfl rfl)
theorem dX1_stock_123 : decode cX1_stock 123 = .ok (.invokevirtual 321, 3) := dk_182 1 65 (dk_at dksX1_stock_5 8 rfl rfl)
theorem dX1_stock_126 : decode cX1_stock 126 = .ok (.ifCond .eq 7, 3) := dk_153 0 7 (dk_at dksX1_stock_5 11 rfl rfl)
theorem dX1_stock_129 : decode cX1_stock 129 = .ok (.iconst 1, 1) := dk_4 (dk_at dksX1_stock_5 14 rfl rfl)
theorem dX1_stock_130 : decode cX1_stock 130 = .ok (.goto 4, 3) := dk_167 0 4 (dk_at dksX1_stock_5 15 rfl rfl)
theorem dX1_stock_133 : decode cX1_stock 133 = .ok (.iconst 0, 1) := dk_3 (dk_at dksX1_stock_5 18 rfl rfl)
theorem dX1_stock_134 : decode cX1_stock 134 = .ok (.iadd, 1) := dk_96 (dk_at dksX1_stock_5 19 rfl rfl)
theorem dX1_stock_135 : decode cX1_stock 135 = .ok (.istore_n 2, 1) := dk_61 (dk_at dksX1_stock_5 20 rfl rfl)
theorem dX1_stock_136 : decode cX1_stock 136 = .ok (.iinc 3 1, 3) := dk_132 3 1 (dk_at dksX1_stock_5 21 rfl rfl)
theorem dX1_stock_139 : decode cX1_stock 139 = .ok (.goto (-37), 3) := dk_167 255 219 (dk_at dksX1_stock_6 0 rfl rfl)
theorem dX1_stock_142 : decode cX1_stock 142 = .ok (.iload_n 2, 1) := dk_28 (dk_at dksX1_stock_6 3 rfl rfl)
theorem dX1_stock_143 : decode cX1_stock 143 = .ok (.ireturn, 1) := dk_172 (dk_at dksX1_stock_6 4 rfl rfl)
theorem dX1_stock_144 : decode cX1_stock 144 = .ok (.iconst (-1), 1) := dk_2 (dk_at dksX1_stock_6 5 rfl rfl)
theorem dX1_stock_145 : decode cX1_stock 145 = .ok (.ireturn, 1) := dk_172 (dk_at dksX1_stock_6 6 rfl rfl)
abbrev cX1_field : ByteArray := prog_1_method_14_code
def yX1_field : MethodName := ⟨RX1, "field", "(I)V"⟩
def dkwX1_field_3 : List UInt8 := [180, 0, 141, 27, 181, 0, 145, 177]
abbrev dktX1_field_3 : List UInt8 := dkwX1_field_3 ++ []
def dkwX1_field_2 : List UInt8 := [158, 0, 11, 187, 0, 135, 89, 183, 0, 137, 191, 42, 180, 0, 26, 27, 181, 0, 138, 42, 180, 0, 19]
abbrev dktX1_field_2 : List UInt8 := dkwX1_field_2 ++ dktX1_field_3
def dkwX1_field_1 : List UInt8 := [4, 167, 0, 4, 3, 184, 0, 132, 42, 180, 0, 26, 180, 0, 94, 42, 180, 0, 26, 180, 0, 108, 96]
abbrev dktX1_field_1 : List UInt8 := dkwX1_field_1 ++ dktX1_field_2
def dkwX1_field_0 : List UInt8 := [27, 16, 11, 159, 0, 21, 27, 16, 13, 159, 0, 15, 27, 16, 17, 159, 0, 9, 27, 16, 19, 160, 0, 7]
abbrev dktX1_field_0 : List UInt8 := dkwX1_field_0 ++ dktX1_field_1
theorem dksX1_field_0 : cX1_field.data.toList.drop 0 = dktX1_field_0 := by decide +kernel
theorem dksX1_field_1 : cX1_field.data.toList.drop 24 = dktX1_field_1 := dk_seg dksX1_field_0 24 rfl rfl
theorem dksX1_field_2 : cX1_field.data.toList.drop 47 = dktX1_field_2 := dk_seg dksX1_field_1 23 rfl rfl
theorem dksX1_field_3 : cX1_field.data.toList.drop 70 = dktX1_field_3 := dk_seg dksX1_field_2 23 rfl rfl
theorem dX1_field_0 : decode cX1_field 0 = .ok (.iload_n 1, 1) := dk_27 (dk_at dksX1_field_0 0 rfl rfl)
theorem dX1_field_1 : decode cX1_field 1 = .ok (.bipush 11, 2) := dk_16 11 (dk_at dksX1_field_0 1 rfl rfl)
theorem dX1_field_3 : decode cX1_field 3 = .ok (.if_icmp .eq 21, 3) := dk_159 0 21 (dk_at dksX1_field_0 3 rfl rfl)
theorem dX1_field_6 : decode cX1_field 6 = .ok (.iload_n 1, 1) := dk_27 (dk_at dksX1_field_0 6 rfl rfl)
theorem dX1_field_7 : decode cX1_field 7 = .ok (.bipush 13, 2) := dk_16 13 (dk_at dksX1_field_0 7 rfl rfl)
theorem dX1_field_9 : decode cX1_field 9 = .ok (.if_icmp .eq 15, 3) := dk_159 0 15 (dk_at dksX1_field_0 9 rfl rfl)
theorem dX1_field_12 : decode cX1_field 12 = .ok (.iload_n 1, 1) := dk_27 (dk_at dksX1_field_0 12 rfl rfl)
theorem dX1_field_13 : decode cX1_field 13 = .ok (.bipush 17, 2) := dk_16 17 (dk_at dksX1_field_0 13 rfl rfl)
theorem dX1_field_15 : decode cX1_field 15 = .ok (.if_icmp .eq 9, 3) := dk_159 0 9 (dk_at dksX1_field_0 15 rfl rfl)
theorem dX1_field_18 : decode cX1_field 18 = .ok (.iload_n 1, 1) := dk_27 (dk_at dksX1_field_0 18 rfl rfl)
theorem dX1_field_19 : decode cX1_field 19 = .ok (.bipush 19, 2) := dk_16 19 (dk_at dksX1_field_0 19 rfl rfl)
theorem dX1_field_21 : decode cX1_field 21 = .ok (.if_icmp .ne 7, 3) := dk_160 0 7 (dk_at dksX1_field_0 21 rfl rfl)
theorem dX1_field_24 : decode cX1_field 24 = .ok (.iconst 1, 1) := dk_4 (dk_at dksX1_field_1 0 rfl rfl)
theorem dX1_field_25 : decode cX1_field 25 = .ok (.goto 4, 3) := dk_167 0 4 (dk_at dksX1_field_1 1 rfl rfl)
theorem dX1_field_28 : decode cX1_field 28 = .ok (.iconst 0, 1) := dk_3 (dk_at dksX1_field_1 4 rfl rfl)
theorem dX1_field_29 : decode cX1_field 29 = .ok (.invokestatic 132, 3) := dk_184 0 132 (dk_at dksX1_field_1 5 rfl rfl)
theorem dX1_field_32 : decode cX1_field 32 = .ok (.aload_n 0, 1) := dk_42 (dk_at dksX1_field_1 8 rfl rfl)
theorem dX1_field_33 : decode cX1_field 33 = .ok (.getfield 26, 3) := dk_180 0 26 (dk_at dksX1_field_1 9 rfl rfl)
theorem dX1_field_36 : decode cX1_field 36 = .ok (.getfield 94, 3) := dk_180 0 94 (dk_at dksX1_field_1 12 rfl rfl)
theorem dX1_field_39 : decode cX1_field 39 = .ok (.aload_n 0, 1) := dk_42 (dk_at dksX1_field_1 15 rfl rfl)
theorem dX1_field_40 : decode cX1_field 40 = .ok (.getfield 26, 3) := dk_180 0 26 (dk_at dksX1_field_1 16 rfl rfl)
theorem dX1_field_43 : decode cX1_field 43 = .ok (.getfield 108, 3) := dk_180 0 108 (dk_at dksX1_field_1 19 rfl rfl)
theorem dX1_field_46 : decode cX1_field 46 = .ok (.iadd, 1) := dk_96 (dk_at dksX1_field_1 22 rfl rfl)
theorem dX1_field_47 : decode cX1_field 47 = .ok (.ifCond .le 11, 3) := dk_158 0 11 (dk_at dksX1_field_2 0 rfl rfl)
theorem dX1_field_50 : decode cX1_field 50 = .ok (.new 135, 3) := dk_187 0 135 (dk_at dksX1_field_2 3 rfl rfl)
theorem dX1_field_53 : decode cX1_field 53 = .ok (.dup, 1) := dk_89 (dk_at dksX1_field_2 6 rfl rfl)
theorem dX1_field_54 : decode cX1_field 54 = .ok (.invokespecial 137, 3) := dk_183 0 137 (dk_at dksX1_field_2 7 rfl rfl)
theorem dX1_field_57 : decode cX1_field 57 = .ok (.athrow, 1) := dk_191 (dk_at dksX1_field_2 10 rfl rfl)
theorem dX1_field_58 : decode cX1_field 58 = .ok (.aload_n 0, 1) := dk_42 (dk_at dksX1_field_2 11 rfl rfl)
theorem dX1_field_59 : decode cX1_field 59 = .ok (.getfield 26, 3) := dk_180 0 26 (dk_at dksX1_field_2 12 rfl rfl)
theorem dX1_field_62 : decode cX1_field 62 = .ok (.iload_n 1, 1) := dk_27 (dk_at dksX1_field_2 15 rfl rfl)
theorem dX1_field_63 : decode cX1_field 63 = .ok (.putfield 138, 3) := dk_181 0 138 (dk_at dksX1_field_2 16 rfl rfl)
theorem dX1_field_66 : decode cX1_field 66 = .ok (.aload_n 0, 1) := dk_42 (dk_at dksX1_field_2 19 rfl rfl)
theorem dX1_field_67 : decode cX1_field 67 = .ok (.getfield 19, 3) := dk_180 0 19 (dk_at dksX1_field_2 20 rfl rfl)
theorem dX1_field_70 : decode cX1_field 70 = .ok (.getfield 141, 3) := dk_180 0 141 (dk_at dksX1_field_3 0 rfl rfl)
theorem dX1_field_73 : decode cX1_field 73 = .ok (.iload_n 1, 1) := dk_27 (dk_at dksX1_field_3 3 rfl rfl)
theorem dX1_field_74 : decode cX1_field 74 = .ok (.putfield 145, 3) := dk_181 0 145 (dk_at dksX1_field_3 4 rfl rfl)
theorem dX1_field_77 : decode cX1_field 77 = .ok (.return_, 1) := dk_177 (dk_at dksX1_field_3 7 rfl rfl)
abbrev cX1_must : ByteArray := prog_1_method_2_code
def yX1_must : MethodName := ⟨RX1, "must", "(Z)V"⟩
def dkwX1_must_0 : List UInt8 := [26, 154, 0, 11, 187, 0, 82, 89, 183, 0, 84, 191, 177]
abbrev dktX1_must_0 : List UInt8 := dkwX1_must_0 ++ []
theorem dksX1_must_0 : cX1_must.data.toList.drop 0 = dktX1_must_0 := by decide +kernel
theorem dX1_must_0 : decode cX1_must 0 = .ok (.iload_n 0, 1) := dk_26 (dk_at dksX1_must_0 0 rfl rfl)
theorem dX1_must_1 : decode cX1_must 1 = .ok (.ifCond .ne 11, 3) := dk_154 0 11 (dk_at dksX1_must_0 1 rfl rfl)
theorem dX1_must_4 : decode cX1_must 4 = .ok (.new 82, 3) := dk_187 0 82 (dk_at dksX1_must_0 4 rfl rfl)
theorem dX1_must_7 : decode cX1_must 7 = .ok (.dup, 1) := dk_89 (dk_at dksX1_must_0 7 rfl rfl)
theorem dX1_must_8 : decode cX1_must 8 = .ok (.invokespecial 84, 3) := dk_183 0 84 (dk_at dksX1_must_0 8 rfl rfl)
theorem dX1_must_11 : decode cX1_must 11 = .ok (.athrow, 1) := dk_191 (dk_at dksX1_must_0 11 rfl rfl)
theorem dX1_must_12 : decode cX1_must 12 = .ok (.return_, 1) := dk_177 (dk_at dksX1_must_0 12 rfl rfl)
abbrev cX1_form : ByteArray := prog_1_method_15_code
def yX1_form : MethodName := ⟨RX1, "form", "()I"⟩
def dkwX1_form_5 : List UInt8 := [42, 180, 0, 26, 180, 0, 167, 181, 0, 170, 42, 180, 0, 26, 180, 0, 94, 4, 100, 172]
abbrev dktX1_form_5 : List UInt8 := dkwX1_form_5 ++ []
def dkwX1_form_4 : List UInt8 := [79, 132, 3, 1, 167, 255, 218, 42, 180, 0, 26, 89, 180, 0, 94, 4, 96, 181, 0, 94, 42, 180, 0, 26]
abbrev dktX1_form_4 : List UInt8 := dkwX1_form_4 ++ dktX1_form_5
def dkwX1_form_3 : List UInt8 := [42, 180, 0, 19, 180, 0, 141, 42, 180, 0, 10, 180, 0, 121, 29, 51, 17, 0, 255, 126, 133, 182, 0, 163]
abbrev dktX1_form_3 : List UInt8 := dkwX1_form_3 ++ dktX1_form_4
def dkwX1_form_2 : List UInt8 := [180, 0, 94, 50, 77, 44, 27, 4, 100, 182, 0, 157, 3, 62, 29, 27, 162, 0, 39, 44, 180, 0, 160, 29]
abbrev dktX1_form_2 : List UInt8 := dkwX1_form_2 ++ dktX1_form_3
def dkwX1_form_1 : List UInt8 := [16, 16, 162, 0, 7, 4, 167, 0, 4, 3, 184, 0, 154, 42, 180, 0, 26, 180, 0, 105, 42, 180, 0, 26]
abbrev dktX1_form_1 : List UInt8 := dkwX1_form_1 ++ dktX1_form_2
def dkwX1_form_0 : List UInt8 := [42, 182, 0, 148, 60, 27, 133, 10, 20, 0, 152, 184, 0, 97, 184, 0, 132, 42, 180, 0, 26, 180, 0, 94]
abbrev dktX1_form_0 : List UInt8 := dkwX1_form_0 ++ dktX1_form_1
theorem dksX1_form_0 : cX1_form.data.toList.drop 0 = dktX1_form_0 := by decide +kernel
theorem dksX1_form_1 : cX1_form.data.toList.drop 24 = dktX1_form_1 := dk_seg dksX1_form_0 24 rfl rfl
theorem dksX1_form_2 : cX1_form.data.toList.drop 48 = dktX1_form_2 := dk_seg dksX1_form_1 24 rfl rfl
theorem dksX1_form_3 : cX1_form.data.toList.drop 72 = dktX1_form_3 := dk_seg dksX1_form_2 24 rfl rfl
theorem dksX1_form_4 : cX1_form.data.toList.drop 96 = dktX1_form_4 := dk_seg dksX1_form_3 24 rfl rfl
theorem dksX1_form_5 : cX1_form.data.toList.drop 120 = dktX1_form_5 := dk_seg dksX1_form_4 24 rfl rfl
theorem dX1_form_0 : decode cX1_form 0 = .ok (.aload_n 0, 1) := dk_42 (dk_at dksX1_form_0 0 rfl rfl)
theorem dX1_form_1 : decode cX1_form 1 = .ok (.invokevirtual 148, 3) := dk_182 0 148 (dk_at dksX1_form_0 1 rfl rfl)
theorem dX1_form_4 : decode cX1_form 4 = .ok (.istore_n 1, 1) := dk_60 (dk_at dksX1_form_0 4 rfl rfl)
theorem dX1_form_5 : decode cX1_form 5 = .ok (.iload_n 1, 1) := dk_27 (dk_at dksX1_form_0 5 rfl rfl)
theorem dX1_form_6 : decode cX1_form 6 = .ok (.i2l, 1) := dk_133 (dk_at dksX1_form_0 6 rfl rfl)
theorem dX1_form_7 : decode cX1_form 7 = .ok (.lconst 1, 1) := dk_10 (dk_at dksX1_form_0 7 rfl rfl)
theorem dX1_form_8 : decode cX1_form 8 = .ok (.ldc2_w 152, 3) := dk_20 0 152 (dk_at dksX1_form_0 8 rfl rfl)
theorem dX1_form_11 : decode cX1_form 11 = .ok (.invokestatic 97, 3) := dk_184 0 97 (dk_at dksX1_form_0 11 rfl rfl)
theorem dX1_form_14 : decode cX1_form 14 = .ok (.invokestatic 132, 3) := dk_184 0 132 (dk_at dksX1_form_0 14 rfl rfl)
theorem dX1_form_17 : decode cX1_form 17 = .ok (.aload_n 0, 1) := dk_42 (dk_at dksX1_form_0 17 rfl rfl)
theorem dX1_form_18 : decode cX1_form 18 = .ok (.getfield 26, 3) := dk_180 0 26 (dk_at dksX1_form_0 18 rfl rfl)
theorem dX1_form_21 : decode cX1_form 21 = .ok (.getfield 94, 3) := dk_180 0 94 (dk_at dksX1_form_0 21 rfl rfl)
theorem dX1_form_24 : decode cX1_form 24 = .ok (.bipush 16, 2) := dk_16 16 (dk_at dksX1_form_1 0 rfl rfl)
theorem dX1_form_26 : decode cX1_form 26 = .ok (.if_icmp .ge 7, 3) := dk_162 0 7 (dk_at dksX1_form_1 2 rfl rfl)
theorem dX1_form_29 : decode cX1_form 29 = .ok (.iconst 1, 1) := dk_4 (dk_at dksX1_form_1 5 rfl rfl)
theorem dX1_form_30 : decode cX1_form 30 = .ok (.goto 4, 3) := dk_167 0 4 (dk_at dksX1_form_1 6 rfl rfl)
theorem dX1_form_33 : decode cX1_form 33 = .ok (.iconst 0, 1) := dk_3 (dk_at dksX1_form_1 9 rfl rfl)
theorem dX1_form_34 : decode cX1_form 34 = .ok (.invokestatic 154, 3) := dk_184 0 154 (dk_at dksX1_form_1 10 rfl rfl)
theorem dX1_form_37 : decode cX1_form 37 = .ok (.aload_n 0, 1) := dk_42 (dk_at dksX1_form_1 13 rfl rfl)
theorem dX1_form_38 : decode cX1_form 38 = .ok (.getfield 26, 3) := dk_180 0 26 (dk_at dksX1_form_1 14 rfl rfl)
theorem dX1_form_41 : decode cX1_form 41 = .ok (.getfield 105, 3) := dk_180 0 105 (dk_at dksX1_form_1 17 rfl rfl)
theorem dX1_form_44 : decode cX1_form 44 = .ok (.aload_n 0, 1) := dk_42 (dk_at dksX1_form_1 20 rfl rfl)
theorem dX1_form_45 : decode cX1_form 45 = .ok (.getfield 26, 3) := dk_180 0 26 (dk_at dksX1_form_1 21 rfl rfl)
theorem dX1_form_48 : decode cX1_form 48 = .ok (.getfield 94, 3) := dk_180 0 94 (dk_at dksX1_form_2 0 rfl rfl)
theorem dX1_form_51 : decode cX1_form 51 = .ok (.aaload, 1) := dk_50 (dk_at dksX1_form_2 3 rfl rfl)
theorem dX1_form_52 : decode cX1_form 52 = .ok (.astore_n 2, 1) := dk_77 (dk_at dksX1_form_2 4 rfl rfl)
theorem dX1_form_53 : decode cX1_form 53 = .ok (.aload_n 2, 1) := dk_44 (dk_at dksX1_form_2 5 rfl rfl)
theorem dX1_form_54 : decode cX1_form 54 = .ok (.iload_n 1, 1) := dk_27 (dk_at dksX1_form_2 6 rfl rfl)
theorem dX1_form_55 : decode cX1_form 55 = .ok (.iconst 1, 1) := dk_4 (dk_at dksX1_form_2 7 rfl rfl)
theorem dX1_form_56 : decode cX1_form 56 = .ok (.isub, 1) := dk_100 (dk_at dksX1_form_2 8 rfl rfl)
theorem dX1_form_57 : decode cX1_form 57 = .ok (.invokevirtual 157, 3) := dk_182 0 157 (dk_at dksX1_form_2 9 rfl rfl)
theorem dX1_form_60 : decode cX1_form 60 = .ok (.iconst 0, 1) := dk_3 (dk_at dksX1_form_2 12 rfl rfl)
theorem dX1_form_61 : decode cX1_form 61 = .ok (.istore_n 3, 1) := dk_62 (dk_at dksX1_form_2 13 rfl rfl)
theorem dX1_form_62 : decode cX1_form 62 = .ok (.iload_n 3, 1) := dk_29 (dk_at dksX1_form_2 14 rfl rfl)
theorem dX1_form_63 : decode cX1_form 63 = .ok (.iload_n 1, 1) := dk_27 (dk_at dksX1_form_2 15 rfl rfl)
theorem dX1_form_64 : decode cX1_form 64 = .ok (.if_icmp .ge 39, 3) := dk_162 0 39 (dk_at dksX1_form_2 16 rfl rfl)
theorem dX1_form_67 : decode cX1_form 67 = .ok (.aload_n 2, 1) := dk_44 (dk_at dksX1_form_2 19 rfl rfl)
theorem dX1_form_68 : decode cX1_form 68 = .ok (.getfield 160, 3) := dk_180 0 160 (dk_at dksX1_form_2 20 rfl rfl)
theorem dX1_form_71 : decode cX1_form 71 = .ok (.iload_n 3, 1) := dk_29 (dk_at dksX1_form_2 23 rfl rfl)
theorem dX1_form_72 : decode cX1_form 72 = .ok (.aload_n 0, 1) := dk_42 (dk_at dksX1_form_3 0 rfl rfl)
theorem dX1_form_73 : decode cX1_form 73 = .ok (.getfield 19, 3) := dk_180 0 19 (dk_at dksX1_form_3 1 rfl rfl)
theorem dX1_form_76 : decode cX1_form 76 = .ok (.getfield 141, 3) := dk_180 0 141 (dk_at dksX1_form_3 4 rfl rfl)
theorem dX1_form_79 : decode cX1_form 79 = .ok (.aload_n 0, 1) := dk_42 (dk_at dksX1_form_3 7 rfl rfl)
theorem dX1_form_80 : decode cX1_form 80 = .ok (.getfield 10, 3) := dk_180 0 10 (dk_at dksX1_form_3 8 rfl rfl)
theorem dX1_form_83 : decode cX1_form 83 = .ok (.getfield 121, 3) := dk_180 0 121 (dk_at dksX1_form_3 11 rfl rfl)
theorem dX1_form_86 : decode cX1_form 86 = .ok (.iload_n 3, 1) := dk_29 (dk_at dksX1_form_3 14 rfl rfl)
theorem dX1_form_87 : decode cX1_form 87 = .ok (.baload, 1) := dk_51 (dk_at dksX1_form_3 15 rfl rfl)
theorem dX1_form_88 : decode cX1_form 88 = .ok (.sipush 255, 3) := dk_17 0 255 (dk_at dksX1_form_3 16 rfl rfl)
theorem dX1_form_91 : decode cX1_form 91 = .ok (.iand, 1) := dk_126 (dk_at dksX1_form_3 19 rfl rfl)
theorem dX1_form_92 : decode cX1_form 92 = .ok (.i2l, 1) := dk_133 (dk_at dksX1_form_3 20 rfl rfl)
theorem dX1_form_93 : decode cX1_form 93 = .ok (.invokevirtual 163, 3) := dk_182 0 163 (dk_at dksX1_form_3 21 rfl rfl)
theorem dX1_form_96 : decode cX1_form 96 = .ok (.iastore, 1) := dk_79 (dk_at dksX1_form_4 0 rfl rfl)
theorem dX1_form_97 : decode cX1_form 97 = .ok (.iinc 3 1, 3) := dk_132 3 1 (dk_at dksX1_form_4 1 rfl rfl)
theorem dX1_form_100 : decode cX1_form 100 = .ok (.goto (-38), 3) := dk_167 255 218 (dk_at dksX1_form_4 4 rfl rfl)
theorem dX1_form_103 : decode cX1_form 103 = .ok (.aload_n 0, 1) := dk_42 (dk_at dksX1_form_4 7 rfl rfl)
theorem dX1_form_104 : decode cX1_form 104 = .ok (.getfield 26, 3) := dk_180 0 26 (dk_at dksX1_form_4 8 rfl rfl)
theorem dX1_form_107 : decode cX1_form 107 = .ok (.dup, 1) := dk_89 (dk_at dksX1_form_4 11 rfl rfl)
theorem dX1_form_108 : decode cX1_form 108 = .ok (.getfield 94, 3) := dk_180 0 94 (dk_at dksX1_form_4 12 rfl rfl)
theorem dX1_form_111 : decode cX1_form 111 = .ok (.iconst 1, 1) := dk_4 (dk_at dksX1_form_4 15 rfl rfl)
theorem dX1_form_112 : decode cX1_form 112 = .ok (.iadd, 1) := dk_96 (dk_at dksX1_form_4 16 rfl rfl)
theorem dX1_form_113 : decode cX1_form 113 = .ok (.putfield 94, 3) := dk_181 0 94 (dk_at dksX1_form_4 17 rfl rfl)
theorem dX1_form_116 : decode cX1_form 116 = .ok (.aload_n 0, 1) := dk_42 (dk_at dksX1_form_4 20 rfl rfl)
theorem dX1_form_117 : decode cX1_form 117 = .ok (.getfield 26, 3) := dk_180 0 26 (dk_at dksX1_form_4 21 rfl rfl)
theorem dX1_form_120 : decode cX1_form 120 = .ok (.aload_n 0, 1) := dk_42 (dk_at dksX1_form_5 0 rfl rfl)
theorem dX1_form_121 : decode cX1_form 121 = .ok (.getfield 26, 3) := dk_180 0 26 (dk_at dksX1_form_5 1 rfl rfl)
theorem dX1_form_124 : decode cX1_form 124 = .ok (.getfield 167, 3) := dk_180 0 167 (dk_at dksX1_form_5 4 rfl rfl)
theorem dX1_form_127 : decode cX1_form 127 = .ok (.putfield 170, 3) := dk_181 0 170 (dk_at dksX1_form_5 7 rfl rfl)
theorem dX1_form_130 : decode cX1_form 130 = .ok (.aload_n 0, 1) := dk_42 (dk_at dksX1_form_5 10 rfl rfl)
theorem dX1_form_131 : decode cX1_form 131 = .ok (.getfield 26, 3) := dk_180 0 26 (dk_at dksX1_form_5 11 rfl rfl)
theorem dX1_form_134 : decode cX1_form 134 = .ok (.getfield 94, 3) := dk_180 0 94 (dk_at dksX1_form_5 14 rfl rfl)
theorem dX1_form_137 : decode cX1_form 137 = .ok (.iconst 1, 1) := dk_4 (dk_at dksX1_form_5 17 rfl rfl)
theorem dX1_form_138 : decode cX1_form 138 = .ok (.isub, 1) := dk_100 (dk_at dksX1_form_5 18 rfl rfl)
theorem dX1_form_139 : decode cX1_form 139 = .ok (.ireturn, 1) := dk_172 (dk_at dksX1_form_5 19 rfl rfl)
abbrev cX1_took : ByteArray := prog_1_method_13_code
def yX1_took : MethodName := ⟨RX1, "took", "()I"⟩
def dkwX1_took_0 : List UInt8 := [42, 180, 0, 10, 180, 0, 125, 60, 42, 180, 0, 10, 3, 181, 0, 125, 27, 172]
abbrev dktX1_took_0 : List UInt8 := dkwX1_took_0 ++ []
theorem dksX1_took_0 : cX1_took.data.toList.drop 0 = dktX1_took_0 := by decide +kernel
theorem dX1_took_0 : decode cX1_took 0 = .ok (.aload_n 0, 1) := dk_42 (dk_at dksX1_took_0 0 rfl rfl)
theorem dX1_took_1 : decode cX1_took 1 = .ok (.getfield 10, 3) := dk_180 0 10 (dk_at dksX1_took_0 1 rfl rfl)
theorem dX1_took_4 : decode cX1_took 4 = .ok (.getfield 125, 3) := dk_180 0 125 (dk_at dksX1_took_0 4 rfl rfl)
theorem dX1_took_7 : decode cX1_took 7 = .ok (.istore_n 1, 1) := dk_60 (dk_at dksX1_took_0 7 rfl rfl)
theorem dX1_took_8 : decode cX1_took 8 = .ok (.aload_n 0, 1) := dk_42 (dk_at dksX1_took_0 8 rfl rfl)
theorem dX1_took_9 : decode cX1_took 9 = .ok (.getfield 10, 3) := dk_180 0 10 (dk_at dksX1_took_0 9 rfl rfl)
theorem dX1_took_12 : decode cX1_took 12 = .ok (.iconst 0, 1) := dk_3 (dk_at dksX1_took_0 12 rfl rfl)
theorem dX1_took_13 : decode cX1_took 13 = .ok (.putfield 125, 3) := dk_181 0 125 (dk_at dksX1_took_0 13 rfl rfl)
theorem dX1_took_16 : decode cX1_took 16 = .ok (.iload_n 1, 1) := dk_27 (dk_at dksX1_took_0 16 rfl rfl)
theorem dX1_took_17 : decode cX1_took 17 = .ok (.ireturn, 1) := dk_172 (dk_at dksX1_took_0 17 rfl rfl)
abbrev cX1_mayBe : ByteArray := prog_1_method_3_code
def yX1_mayBe : MethodName := ⟨RX1, "mayBe", "(Z)V"⟩
def dkwX1_mayBe_0 : List UInt8 := [26, 154, 0, 11, 187, 0, 85, 89, 183, 0, 87, 191, 177]
abbrev dktX1_mayBe_0 : List UInt8 := dkwX1_mayBe_0 ++ []
theorem dksX1_mayBe_0 : cX1_mayBe.data.toList.drop 0 = dktX1_mayBe_0 := by decide +kernel
theorem dX1_mayBe_0 : decode cX1_mayBe 0 = .ok (.iload_n 0, 1) := dk_26 (dk_at dksX1_mayBe_0 0 rfl rfl)
theorem dX1_mayBe_1 : decode cX1_mayBe 1 = .ok (.ifCond .ne 11, 3) := dk_154 0 11 (dk_at dksX1_mayBe_0 1 rfl rfl)
theorem dX1_mayBe_4 : decode cX1_mayBe 4 = .ok (.new 85, 3) := dk_187 0 85 (dk_at dksX1_mayBe_0 4 rfl rfl)
theorem dX1_mayBe_7 : decode cX1_mayBe 7 = .ok (.dup, 1) := dk_89 (dk_at dksX1_mayBe_0 7 rfl rfl)
theorem dX1_mayBe_8 : decode cX1_mayBe 8 = .ok (.invokespecial 87, 3) := dk_183 0 87 (dk_at dksX1_mayBe_0 8 rfl rfl)
theorem dX1_mayBe_11 : decode cX1_mayBe 11 = .ok (.athrow, 1) := dk_191 (dk_at dksX1_mayBe_0 11 rfl rfl)
theorem dX1_mayBe_12 : decode cX1_mayBe 12 = .ok (.return_, 1) := dk_177 (dk_at dksX1_mayBe_0 12 rfl rfl)
abbrev cX1_table : ByteArray := prog_1_method_17_code
def yX1_table : MethodName := ⟨RX1, "table", "(IIII)I"⟩
def dkwX1_table_6 : List UInt8 := [180, 0, 26, 89, 180, 0, 108, 4, 96, 181, 0, 108, 42, 180, 0, 26, 180, 0, 108, 4, 100, 172]
abbrev dktX1_table_6 : List UInt8 := dkwX1_table_6 ++ []
def dkwX1_table_5 : List UInt8 := [25, 5, 3, 42, 180, 0, 26, 180, 0, 111, 42, 180, 0, 26, 180, 0, 108, 50, 3, 7, 184, 0, 177, 42]
abbrev dktX1_table_5 : List UInt8 := dkwX1_table_5 ++ dktX1_table_6
def dkwX1_table_4 : List UInt8 := [184, 0, 132, 42, 180, 0, 26, 180, 0, 108, 16, 8, 162, 0, 7, 4, 167, 0, 4, 3, 184, 0, 154]
abbrev dktX1_table_4 : List UInt8 := dkwX1_table_4 ++ dktX1_table_5
def dkwX1_table_3 : List UInt8 := [25, 5, 4, 46, 25, 5, 5, 46, 25, 5, 6, 46, 182, 0, 173, 153, 0, 7, 4, 167, 0, 4, 3]
abbrev dktX1_table_3 : List UInt8 := dkwX1_table_3 ++ dktX1_table_4
def dkwX1_table_2 : List UInt8 := [89, 6, 42, 180, 0, 19, 180, 0, 141, 21, 4, 133, 182, 0, 163, 79, 58, 5, 42, 25, 5, 3, 46]
abbrev dktX1_table_2 : List UInt8 := dkwX1_table_2 ++ dktX1_table_3
def dkwX1_table_1 : List UInt8 := [180, 0, 141, 28, 133, 182, 0, 163, 79, 89, 5, 42, 180, 0, 19, 180, 0, 141, 29, 133, 182, 0, 163, 79]
abbrev dktX1_table_1 : List UInt8 := dkwX1_table_1 ++ dktX1_table_2
def dkwX1_table_0 : List UInt8 := [7, 188, 10, 89, 3, 42, 180, 0, 19, 180, 0, 141, 27, 133, 182, 0, 163, 79, 89, 4, 42, 180, 0, 19]
abbrev dktX1_table_0 : List UInt8 := dkwX1_table_0 ++ dktX1_table_1
theorem dksX1_table_0 : cX1_table.data.toList.drop 0 = dktX1_table_0 := by decide +kernel
theorem dksX1_table_1 : cX1_table.data.toList.drop 24 = dktX1_table_1 := dk_seg dksX1_table_0 24 rfl rfl
theorem dksX1_table_2 : cX1_table.data.toList.drop 48 = dktX1_table_2 := dk_seg dksX1_table_1 24 rfl rfl
theorem dksX1_table_3 : cX1_table.data.toList.drop 71 = dktX1_table_3 := dk_seg dksX1_table_2 23 rfl rfl
theorem dksX1_table_4 : cX1_table.data.toList.drop 94 = dktX1_table_4 := dk_seg dksX1_table_3 23 rfl rfl
theorem dksX1_table_5 : cX1_table.data.toList.drop 117 = dktX1_table_5 := dk_seg dksX1_table_4 23 rfl rfl
theorem dksX1_table_6 : cX1_table.data.toList.drop 141 = dktX1_table_6 := dk_seg dksX1_table_5 24 rfl rfl
theorem dX1_table_0 : decode cX1_table 0 = .ok (.iconst 4, 1) := dk_7 (dk_at dksX1_table_0 0 rfl rfl)
theorem dX1_table_1 : decode cX1_table 1 = .ok (.newarray .int, 2) := dk_188_10 (dk_at dksX1_table_0 1 rfl rfl)
theorem dX1_table_3 : decode cX1_table 3 = .ok (.dup, 1) := dk_89 (dk_at dksX1_table_0 3 rfl rfl)
theorem dX1_table_4 : decode cX1_table 4 = .ok (.iconst 0, 1) := dk_3 (dk_at dksX1_table_0 4 rfl rfl)
theorem dX1_table_5 : decode cX1_table 5 = .ok (.aload_n 0, 1) := dk_42 (dk_at dksX1_table_0 5 rfl rfl)
theorem dX1_table_6 : decode cX1_table 6 = .ok (.getfield 19, 3) := dk_180 0 19 (dk_at dksX1_table_0 6 rfl rfl)
theorem dX1_table_9 : decode cX1_table 9 = .ok (.getfield 141, 3) := dk_180 0 141 (dk_at dksX1_table_0 9 rfl rfl)
theorem dX1_table_12 : decode cX1_table 12 = .ok (.iload_n 1, 1) := dk_27 (dk_at dksX1_table_0 12 rfl rfl)
theorem dX1_table_13 : decode cX1_table 13 = .ok (.i2l, 1) := dk_133 (dk_at dksX1_table_0 13 rfl rfl)
theorem dX1_table_14 : decode cX1_table 14 = .ok (.invokevirtual 163, 3) := dk_182 0 163 (dk_at dksX1_table_0 14 rfl rfl)
theorem dX1_table_17 : decode cX1_table 17 = .ok (.iastore, 1) := dk_79 (dk_at dksX1_table_0 17 rfl rfl)
theorem dX1_table_18 : decode cX1_table 18 = .ok (.dup, 1) := dk_89 (dk_at dksX1_table_0 18 rfl rfl)
theorem dX1_table_19 : decode cX1_table 19 = .ok (.iconst 1, 1) := dk_4 (dk_at dksX1_table_0 19 rfl rfl)
theorem dX1_table_20 : decode cX1_table 20 = .ok (.aload_n 0, 1) := dk_42 (dk_at dksX1_table_0 20 rfl rfl)
theorem dX1_table_21 : decode cX1_table 21 = .ok (.getfield 19, 3) := dk_180 0 19 (dk_at dksX1_table_0 21 rfl rfl)
theorem dX1_table_24 : decode cX1_table 24 = .ok (.getfield 141, 3) := dk_180 0 141 (dk_at dksX1_table_1 0 rfl rfl)
theorem dX1_table_27 : decode cX1_table 27 = .ok (.iload_n 2, 1) := dk_28 (dk_at dksX1_table_1 3 rfl rfl)
theorem dX1_table_28 : decode cX1_table 28 = .ok (.i2l, 1) := dk_133 (dk_at dksX1_table_1 4 rfl rfl)
theorem dX1_table_29 : decode cX1_table 29 = .ok (.invokevirtual 163, 3) := dk_182 0 163 (dk_at dksX1_table_1 5 rfl rfl)
theorem dX1_table_32 : decode cX1_table 32 = .ok (.iastore, 1) := dk_79 (dk_at dksX1_table_1 8 rfl rfl)
theorem dX1_table_33 : decode cX1_table 33 = .ok (.dup, 1) := dk_89 (dk_at dksX1_table_1 9 rfl rfl)
theorem dX1_table_34 : decode cX1_table 34 = .ok (.iconst 2, 1) := dk_5 (dk_at dksX1_table_1 10 rfl rfl)
theorem dX1_table_35 : decode cX1_table 35 = .ok (.aload_n 0, 1) := dk_42 (dk_at dksX1_table_1 11 rfl rfl)
theorem dX1_table_36 : decode cX1_table 36 = .ok (.getfield 19, 3) := dk_180 0 19 (dk_at dksX1_table_1 12 rfl rfl)
theorem dX1_table_39 : decode cX1_table 39 = .ok (.getfield 141, 3) := dk_180 0 141 (dk_at dksX1_table_1 15 rfl rfl)
theorem dX1_table_42 : decode cX1_table 42 = .ok (.iload_n 3, 1) := dk_29 (dk_at dksX1_table_1 18 rfl rfl)
theorem dX1_table_43 : decode cX1_table 43 = .ok (.i2l, 1) := dk_133 (dk_at dksX1_table_1 19 rfl rfl)
theorem dX1_table_44 : decode cX1_table 44 = .ok (.invokevirtual 163, 3) := dk_182 0 163 (dk_at dksX1_table_1 20 rfl rfl)
theorem dX1_table_47 : decode cX1_table 47 = .ok (.iastore, 1) := dk_79 (dk_at dksX1_table_1 23 rfl rfl)
theorem dX1_table_48 : decode cX1_table 48 = .ok (.dup, 1) := dk_89 (dk_at dksX1_table_2 0 rfl rfl)
theorem dX1_table_49 : decode cX1_table 49 = .ok (.iconst 3, 1) := dk_6 (dk_at dksX1_table_2 1 rfl rfl)
theorem dX1_table_50 : decode cX1_table 50 = .ok (.aload_n 0, 1) := dk_42 (dk_at dksX1_table_2 2 rfl rfl)
theorem dX1_table_51 : decode cX1_table 51 = .ok (.getfield 19, 3) := dk_180 0 19 (dk_at dksX1_table_2 3 rfl rfl)
theorem dX1_table_54 : decode cX1_table 54 = .ok (.getfield 141, 3) := dk_180 0 141 (dk_at dksX1_table_2 6 rfl rfl)
theorem dX1_table_57 : decode cX1_table 57 = .ok (.iload 4, 2) := dk_21 4 (dk_at dksX1_table_2 9 rfl rfl)
theorem dX1_table_59 : decode cX1_table 59 = .ok (.i2l, 1) := dk_133 (dk_at dksX1_table_2 11 rfl rfl)
theorem dX1_table_60 : decode cX1_table 60 = .ok (.invokevirtual 163, 3) := dk_182 0 163 (dk_at dksX1_table_2 12 rfl rfl)
theorem dX1_table_63 : decode cX1_table 63 = .ok (.iastore, 1) := dk_79 (dk_at dksX1_table_2 15 rfl rfl)
theorem dX1_table_64 : decode cX1_table 64 = .ok (.astore 5, 2) := dk_58 5 (dk_at dksX1_table_2 16 rfl rfl)
theorem dX1_table_66 : decode cX1_table 66 = .ok (.aload_n 0, 1) := dk_42 (dk_at dksX1_table_2 18 rfl rfl)
theorem dX1_table_67 : decode cX1_table 67 = .ok (.aload 5, 2) := dk_25 5 (dk_at dksX1_table_2 19 rfl rfl)
theorem dX1_table_69 : decode cX1_table 69 = .ok (.iconst 0, 1) := dk_3 (dk_at dksX1_table_2 21 rfl rfl)
theorem dX1_table_70 : decode cX1_table 70 = .ok (.iaload, 1) := dk_46 (dk_at dksX1_table_2 22 rfl rfl)
theorem dX1_table_71 : decode cX1_table 71 = .ok (.aload 5, 2) := dk_25 5 (dk_at dksX1_table_3 0 rfl rfl)
theorem dX1_table_73 : decode cX1_table 73 = .ok (.iconst 1, 1) := dk_4 (dk_at dksX1_table_3 2 rfl rfl)
theorem dX1_table_74 : decode cX1_table 74 = .ok (.iaload, 1) := dk_46 (dk_at dksX1_table_3 3 rfl rfl)
theorem dX1_table_75 : decode cX1_table 75 = .ok (.aload 5, 2) := dk_25 5 (dk_at dksX1_table_3 4 rfl rfl)
theorem dX1_table_77 : decode cX1_table 77 = .ok (.iconst 2, 1) := dk_5 (dk_at dksX1_table_3 6 rfl rfl)
theorem dX1_table_78 : decode cX1_table 78 = .ok (.iaload, 1) := dk_46 (dk_at dksX1_table_3 7 rfl rfl)
theorem dX1_table_79 : decode cX1_table 79 = .ok (.aload 5, 2) := dk_25 5 (dk_at dksX1_table_3 8 rfl rfl)
theorem dX1_table_81 : decode cX1_table 81 = .ok (.iconst 3, 1) := dk_6 (dk_at dksX1_table_3 10 rfl rfl)
theorem dX1_table_82 : decode cX1_table 82 = .ok (.iaload, 1) := dk_46 (dk_at dksX1_table_3 11 rfl rfl)
theorem dX1_table_83 : decode cX1_table 83 = .ok (.invokevirtual 173, 3) := dk_182 0 173 (dk_at dksX1_table_3 12 rfl rfl)
theorem dX1_table_86 : decode cX1_table 86 = .ok (.ifCond .eq 7, 3) := dk_153 0 7 (dk_at dksX1_table_3 15 rfl rfl)
theorem dX1_table_89 : decode cX1_table 89 = .ok (.iconst 1, 1) := dk_4 (dk_at dksX1_table_3 18 rfl rfl)
theorem dX1_table_90 : decode cX1_table 90 = .ok (.goto 4, 3) := dk_167 0 4 (dk_at dksX1_table_3 19 rfl rfl)
theorem dX1_table_93 : decode cX1_table 93 = .ok (.iconst 0, 1) := dk_3 (dk_at dksX1_table_3 22 rfl rfl)
theorem dX1_table_94 : decode cX1_table 94 = .ok (.invokestatic 132, 3) := dk_184 0 132 (dk_at dksX1_table_4 0 rfl rfl)
theorem dX1_table_97 : decode cX1_table 97 = .ok (.aload_n 0, 1) := dk_42 (dk_at dksX1_table_4 3 rfl rfl)
theorem dX1_table_98 : decode cX1_table 98 = .ok (.getfield 26, 3) := dk_180 0 26 (dk_at dksX1_table_4 4 rfl rfl)
theorem dX1_table_101 : decode cX1_table 101 = .ok (.getfield 108, 3) := dk_180 0 108 (dk_at dksX1_table_4 7 rfl rfl)
theorem dX1_table_104 : decode cX1_table 104 = .ok (.bipush 8, 2) := dk_16 8 (dk_at dksX1_table_4 10 rfl rfl)
theorem dX1_table_106 : decode cX1_table 106 = .ok (.if_icmp .ge 7, 3) := dk_162 0 7 (dk_at dksX1_table_4 12 rfl rfl)
theorem dX1_table_109 : decode cX1_table 109 = .ok (.iconst 1, 1) := dk_4 (dk_at dksX1_table_4 15 rfl rfl)
theorem dX1_table_110 : decode cX1_table 110 = .ok (.goto 4, 3) := dk_167 0 4 (dk_at dksX1_table_4 16 rfl rfl)
theorem dX1_table_113 : decode cX1_table 113 = .ok (.iconst 0, 1) := dk_3 (dk_at dksX1_table_4 19 rfl rfl)
theorem dX1_table_114 : decode cX1_table 114 = .ok (.invokestatic 154, 3) := dk_184 0 154 (dk_at dksX1_table_4 20 rfl rfl)
theorem dX1_table_117 : decode cX1_table 117 = .ok (.aload 5, 2) := dk_25 5 (dk_at dksX1_table_5 0 rfl rfl)
theorem dX1_table_119 : decode cX1_table 119 = .ok (.iconst 0, 1) := dk_3 (dk_at dksX1_table_5 2 rfl rfl)
theorem dX1_table_120 : decode cX1_table 120 = .ok (.aload_n 0, 1) := dk_42 (dk_at dksX1_table_5 3 rfl rfl)
theorem dX1_table_121 : decode cX1_table 121 = .ok (.getfield 26, 3) := dk_180 0 26 (dk_at dksX1_table_5 4 rfl rfl)
theorem dX1_table_124 : decode cX1_table 124 = .ok (.getfield 111, 3) := dk_180 0 111 (dk_at dksX1_table_5 7 rfl rfl)
theorem dX1_table_127 : decode cX1_table 127 = .ok (.aload_n 0, 1) := dk_42 (dk_at dksX1_table_5 10 rfl rfl)
theorem dX1_table_128 : decode cX1_table 128 = .ok (.getfield 26, 3) := dk_180 0 26 (dk_at dksX1_table_5 11 rfl rfl)
theorem dX1_table_131 : decode cX1_table 131 = .ok (.getfield 108, 3) := dk_180 0 108 (dk_at dksX1_table_5 14 rfl rfl)
theorem dX1_table_134 : decode cX1_table 134 = .ok (.aaload, 1) := dk_50 (dk_at dksX1_table_5 17 rfl rfl)
theorem dX1_table_135 : decode cX1_table 135 = .ok (.iconst 0, 1) := dk_3 (dk_at dksX1_table_5 18 rfl rfl)
theorem dX1_table_136 : decode cX1_table 136 = .ok (.iconst 4, 1) := dk_7 (dk_at dksX1_table_5 19 rfl rfl)
theorem dX1_table_137 : decode cX1_table 137 = .ok (.invokestatic 177, 3) := dk_184 0 177 (dk_at dksX1_table_5 20 rfl rfl)
theorem dX1_table_140 : decode cX1_table 140 = .ok (.aload_n 0, 1) := dk_42 (dk_at dksX1_table_5 23 rfl rfl)
theorem dX1_table_141 : decode cX1_table 141 = .ok (.getfield 26, 3) := dk_180 0 26 (dk_at dksX1_table_6 0 rfl rfl)
theorem dX1_table_144 : decode cX1_table 144 = .ok (.dup, 1) := dk_89 (dk_at dksX1_table_6 3 rfl rfl)
theorem dX1_table_145 : decode cX1_table 145 = .ok (.getfield 108, 3) := dk_180 0 108 (dk_at dksX1_table_6 4 rfl rfl)
theorem dX1_table_148 : decode cX1_table 148 = .ok (.iconst 1, 1) := dk_4 (dk_at dksX1_table_6 7 rfl rfl)
theorem dX1_table_149 : decode cX1_table 149 = .ok (.iadd, 1) := dk_96 (dk_at dksX1_table_6 8 rfl rfl)
theorem dX1_table_150 : decode cX1_table 150 = .ok (.putfield 108, 3) := dk_181 0 108 (dk_at dksX1_table_6 9 rfl rfl)
theorem dX1_table_153 : decode cX1_table 153 = .ok (.aload_n 0, 1) := dk_42 (dk_at dksX1_table_6 12 rfl rfl)
theorem dX1_table_154 : decode cX1_table 154 = .ok (.getfield 26, 3) := dk_180 0 26 (dk_at dksX1_table_6 13 rfl rfl)
theorem dX1_table_157 : decode cX1_table 157 = .ok (.getfield 108, 3) := dk_180 0 108 (dk_at dksX1_table_6 16 rfl rfl)
theorem dX1_table_160 : decode cX1_table 160 = .ok (.iconst 1, 1) := dk_4 (dk_at dksX1_table_6 19 rfl rfl)
theorem dX1_table_161 : decode cX1_table 161 = .ok (.isub, 1) := dk_100 (dk_at dksX1_table_6 20 rfl rfl)
theorem dX1_table_162 : decode cX1_table 162 = .ok (.ireturn, 1) := dk_172 (dk_at dksX1_table_6 21 rfl rfl)
abbrev cX1_detOf : ByteArray := prog_1_method_16_code
def yX1_detOf : MethodName := ⟨RX1, "detOf", "(IIII)I"⟩
def dkwX1_detOf_0 : List UInt8 := [42, 180, 0, 19, 180, 0, 141, 27, 133, 21, 4, 133, 105, 28, 133, 29, 133, 105, 101, 182, 0, 163, 172]
abbrev dktX1_detOf_0 : List UInt8 := dkwX1_detOf_0 ++ []
theorem dksX1_detOf_0 : cX1_detOf.data.toList.drop 0 = dktX1_detOf_0 := by decide +kernel
theorem dX1_detOf_0 : decode cX1_detOf 0 = .ok (.aload_n 0, 1) := dk_42 (dk_at dksX1_detOf_0 0 rfl rfl)
theorem dX1_detOf_1 : decode cX1_detOf 1 = .ok (.getfield 19, 3) := dk_180 0 19 (dk_at dksX1_detOf_0 1 rfl rfl)
theorem dX1_detOf_4 : decode cX1_detOf 4 = .ok (.getfield 141, 3) := dk_180 0 141 (dk_at dksX1_detOf_0 4 rfl rfl)
theorem dX1_detOf_7 : decode cX1_detOf 7 = .ok (.iload_n 1, 1) := dk_27 (dk_at dksX1_detOf_0 7 rfl rfl)
theorem dX1_detOf_8 : decode cX1_detOf 8 = .ok (.i2l, 1) := dk_133 (dk_at dksX1_detOf_0 8 rfl rfl)
theorem dX1_detOf_9 : decode cX1_detOf 9 = .ok (.iload 4, 2) := dk_21 4 (dk_at dksX1_detOf_0 9 rfl rfl)
theorem dX1_detOf_11 : decode cX1_detOf 11 = .ok (.i2l, 1) := dk_133 (dk_at dksX1_detOf_0 11 rfl rfl)
theorem dX1_detOf_12 : decode cX1_detOf 12 = .ok (.lmul, 1) := dk_105 (dk_at dksX1_detOf_0 12 rfl rfl)
theorem dX1_detOf_13 : decode cX1_detOf 13 = .ok (.iload_n 2, 1) := dk_28 (dk_at dksX1_detOf_0 13 rfl rfl)
theorem dX1_detOf_14 : decode cX1_detOf 14 = .ok (.i2l, 1) := dk_133 (dk_at dksX1_detOf_0 14 rfl rfl)
theorem dX1_detOf_15 : decode cX1_detOf 15 = .ok (.iload_n 3, 1) := dk_29 (dk_at dksX1_detOf_0 15 rfl rfl)
theorem dX1_detOf_16 : decode cX1_detOf 16 = .ok (.i2l, 1) := dk_133 (dk_at dksX1_detOf_0 16 rfl rfl)
theorem dX1_detOf_17 : decode cX1_detOf 17 = .ok (.lmul, 1) := dk_105 (dk_at dksX1_detOf_0 17 rfl rfl)
theorem dX1_detOf_18 : decode cX1_detOf 18 = .ok (.lsub, 1) := dk_101 (dk_at dksX1_detOf_0 18 rfl rfl)
theorem dX1_detOf_19 : decode cX1_detOf 19 = .ok (.invokevirtual 163, 3) := dk_182 0 163 (dk_at dksX1_detOf_0 19 rfl rfl)
theorem dX1_detOf_22 : decode cX1_detOf 22 = .ok (.ireturn, 1) := dk_172 (dk_at dksX1_detOf_0 22 rfl rfl)
abbrev cX1_signs : ByteArray := prog_1_method_18_code
def yX1_signs : MethodName := ⟨RX1, "signs", "()I"⟩
def dkwX1_signs_4 : List UInt8 := [180, 0, 114, 4, 100, 172]
abbrev dktX1_signs_4 : List UInt8 := dkwX1_signs_4 ++ []
def dkwX1_signs_3 : List UInt8 := [180, 0, 114, 44, 83, 42, 180, 0, 26, 89, 180, 0, 114, 4, 96, 181, 0, 114, 42, 180, 0, 26]
abbrev dktX1_signs_3 : List UInt8 := dkwX1_signs_3 ++ dktX1_signs_4
def dkwX1_signs_2 : List UInt8 := [162, 0, 7, 4, 167, 0, 4, 3, 184, 0, 154, 42, 180, 0, 26, 180, 0, 117, 42, 180, 0, 26]
abbrev dktX1_signs_2 : List UInt8 := dkwX1_signs_2 ++ dktX1_signs_3
def dkwX1_signs_1 : List UInt8 := [45, 180, 0, 189, 181, 0, 78, 187, 0, 82, 89, 183, 0, 84, 191, 42, 180, 0, 26, 180, 0, 114, 16, 8]
abbrev dktX1_signs_1 : List UInt8 := dkwX1_signs_1 ++ dktX1_signs_2
def dkwX1_signs_0 : List UInt8 := [42, 182, 0, 148, 60, 42, 2, 181, 0, 78, 42, 180, 0, 10, 27, 182, 0, 183, 77, 167, 0, 20, 78, 42]
abbrev dktX1_signs_0 : List UInt8 := dkwX1_signs_0 ++ dktX1_signs_1
theorem dksX1_signs_0 : cX1_signs.data.toList.drop 0 = dktX1_signs_0 := by decide +kernel
theorem dksX1_signs_1 : cX1_signs.data.toList.drop 24 = dktX1_signs_1 := dk_seg dksX1_signs_0 24 rfl rfl
theorem dksX1_signs_2 : cX1_signs.data.toList.drop 48 = dktX1_signs_2 := dk_seg dksX1_signs_1 24 rfl rfl
theorem dksX1_signs_3 : cX1_signs.data.toList.drop 70 = dktX1_signs_3 := dk_seg dksX1_signs_2 22 rfl rfl
theorem dksX1_signs_4 : cX1_signs.data.toList.drop 92 = dktX1_signs_4 := dk_seg dksX1_signs_3 22 rfl rfl
theorem dX1_signs_0 : decode cX1_signs 0 = .ok (.aload_n 0, 1) := dk_42 (dk_at dksX1_signs_0 0 rfl rfl)
theorem dX1_signs_1 : decode cX1_signs 1 = .ok (.invokevirtual 148, 3) := dk_182 0 148 (dk_at dksX1_signs_0 1 rfl rfl)
theorem dX1_signs_4 : decode cX1_signs 4 = .ok (.istore_n 1, 1) := dk_60 (dk_at dksX1_signs_0 4 rfl rfl)
theorem dX1_signs_5 : decode cX1_signs 5 = .ok (.aload_n 0, 1) := dk_42 (dk_at dksX1_signs_0 5 rfl rfl)
theorem dX1_signs_6 : decode cX1_signs 6 = .ok (.iconst (-1), 1) := dk_2 (dk_at dksX1_signs_0 6 rfl rfl)
theorem dX1_signs_7 : decode cX1_signs 7 = .ok (.putfield 78, 3) := dk_181 0 78 (dk_at dksX1_signs_0 7 rfl rfl)
theorem dX1_signs_10 : decode cX1_signs 10 = .ok (.aload_n 0, 1) := dk_42 (dk_at dksX1_signs_0 10 rfl rfl)
theorem dX1_signs_11 : decode cX1_signs 11 = .ok (.getfield 10, 3) := dk_180 0 10 (dk_at dksX1_signs_0 11 rfl rfl)
theorem dX1_signs_14 : decode cX1_signs 14 = .ok (.iload_n 1, 1) := dk_27 (dk_at dksX1_signs_0 14 rfl rfl)
theorem dX1_signs_15 : decode cX1_signs 15 = .ok (.invokevirtual 183, 3) := dk_182 0 183 (dk_at dksX1_signs_0 15 rfl rfl)
theorem dX1_signs_18 : decode cX1_signs 18 = .ok (.astore_n 2, 1) := dk_77 (dk_at dksX1_signs_0 18 rfl rfl)
theorem dX1_signs_19 : decode cX1_signs 19 = .ok (.goto 20, 3) := dk_167 0 20 (dk_at dksX1_signs_0 19 rfl rfl)
theorem dX1_signs_22 : decode cX1_signs 22 = .ok (.astore_n 3, 1) := dk_78 (dk_at dksX1_signs_0 22 rfl rfl)
theorem dX1_signs_23 : decode cX1_signs 23 = .ok (.aload_n 0, 1) := dk_42 (dk_at dksX1_signs_0 23 rfl rfl)
theorem dX1_signs_24 : decode cX1_signs 24 = .ok (.aload_n 3, 1) := dk_45 (dk_at dksX1_signs_1 0 rfl rfl)
theorem dX1_signs_25 : decode cX1_signs 25 = .ok (.getfield 189, 3) := dk_180 0 189 (dk_at dksX1_signs_1 1 rfl rfl)
theorem dX1_signs_28 : decode cX1_signs 28 = .ok (.putfield 78, 3) := dk_181 0 78 (dk_at dksX1_signs_1 4 rfl rfl)
theorem dX1_signs_31 : decode cX1_signs 31 = .ok (.new 82, 3) := dk_187 0 82 (dk_at dksX1_signs_1 7 rfl rfl)
theorem dX1_signs_34 : decode cX1_signs 34 = .ok (.dup, 1) := dk_89 (dk_at dksX1_signs_1 10 rfl rfl)
theorem dX1_signs_35 : decode cX1_signs 35 = .ok (.invokespecial 84, 3) := dk_183 0 84 (dk_at dksX1_signs_1 11 rfl rfl)
theorem dX1_signs_38 : decode cX1_signs 38 = .ok (.athrow, 1) := dk_191 (dk_at dksX1_signs_1 14 rfl rfl)
theorem dX1_signs_39 : decode cX1_signs 39 = .ok (.aload_n 0, 1) := dk_42 (dk_at dksX1_signs_1 15 rfl rfl)
theorem dX1_signs_40 : decode cX1_signs 40 = .ok (.getfield 26, 3) := dk_180 0 26 (dk_at dksX1_signs_1 16 rfl rfl)
theorem dX1_signs_43 : decode cX1_signs 43 = .ok (.getfield 114, 3) := dk_180 0 114 (dk_at dksX1_signs_1 19 rfl rfl)
theorem dX1_signs_46 : decode cX1_signs 46 = .ok (.bipush 8, 2) := dk_16 8 (dk_at dksX1_signs_1 22 rfl rfl)
theorem dX1_signs_48 : decode cX1_signs 48 = .ok (.if_icmp .ge 7, 3) := dk_162 0 7 (dk_at dksX1_signs_2 0 rfl rfl)
theorem dX1_signs_51 : decode cX1_signs 51 = .ok (.iconst 1, 1) := dk_4 (dk_at dksX1_signs_2 3 rfl rfl)
theorem dX1_signs_52 : decode cX1_signs 52 = .ok (.goto 4, 3) := dk_167 0 4 (dk_at dksX1_signs_2 4 rfl rfl)
theorem dX1_signs_55 : decode cX1_signs 55 = .ok (.iconst 0, 1) := dk_3 (dk_at dksX1_signs_2 7 rfl rfl)
theorem dX1_signs_56 : decode cX1_signs 56 = .ok (.invokestatic 154, 3) := dk_184 0 154 (dk_at dksX1_signs_2 8 rfl rfl)
theorem dX1_signs_59 : decode cX1_signs 59 = .ok (.aload_n 0, 1) := dk_42 (dk_at dksX1_signs_2 11 rfl rfl)
theorem dX1_signs_60 : decode cX1_signs 60 = .ok (.getfield 26, 3) := dk_180 0 26 (dk_at dksX1_signs_2 12 rfl rfl)
theorem dX1_signs_63 : decode cX1_signs 63 = .ok (.getfield 117, 3) := dk_180 0 117 (dk_at dksX1_signs_2 15 rfl rfl)
theorem dX1_signs_66 : decode cX1_signs 66 = .ok (.aload_n 0, 1) := dk_42 (dk_at dksX1_signs_2 18 rfl rfl)
theorem dX1_signs_67 : decode cX1_signs 67 = .ok (.getfield 26, 3) := dk_180 0 26 (dk_at dksX1_signs_2 19 rfl rfl)
theorem dX1_signs_70 : decode cX1_signs 70 = .ok (.getfield 114, 3) := dk_180 0 114 (dk_at dksX1_signs_3 0 rfl rfl)
theorem dX1_signs_73 : decode cX1_signs 73 = .ok (.aload_n 2, 1) := dk_44 (dk_at dksX1_signs_3 3 rfl rfl)
theorem dX1_signs_74 : decode cX1_signs 74 = .ok (.aastore, 1) := dk_83 (dk_at dksX1_signs_3 4 rfl rfl)
theorem dX1_signs_75 : decode cX1_signs 75 = .ok (.aload_n 0, 1) := dk_42 (dk_at dksX1_signs_3 5 rfl rfl)
theorem dX1_signs_76 : decode cX1_signs 76 = .ok (.getfield 26, 3) := dk_180 0 26 (dk_at dksX1_signs_3 6 rfl rfl)
theorem dX1_signs_79 : decode cX1_signs 79 = .ok (.dup, 1) := dk_89 (dk_at dksX1_signs_3 9 rfl rfl)
theorem dX1_signs_80 : decode cX1_signs 80 = .ok (.getfield 114, 3) := dk_180 0 114 (dk_at dksX1_signs_3 10 rfl rfl)
theorem dX1_signs_83 : decode cX1_signs 83 = .ok (.iconst 1, 1) := dk_4 (dk_at dksX1_signs_3 13 rfl rfl)
theorem dX1_signs_84 : decode cX1_signs 84 = .ok (.iadd, 1) := dk_96 (dk_at dksX1_signs_3 14 rfl rfl)
theorem dX1_signs_85 : decode cX1_signs 85 = .ok (.putfield 114, 3) := dk_181 0 114 (dk_at dksX1_signs_3 15 rfl rfl)
theorem dX1_signs_88 : decode cX1_signs 88 = .ok (.aload_n 0, 1) := dk_42 (dk_at dksX1_signs_3 18 rfl rfl)
theorem dX1_signs_89 : decode cX1_signs 89 = .ok (.getfield 26, 3) := dk_180 0 26 (dk_at dksX1_signs_3 19 rfl rfl)
theorem dX1_signs_92 : decode cX1_signs 92 = .ok (.getfield 114, 3) := dk_180 0 114 (dk_at dksX1_signs_4 0 rfl rfl)
theorem dX1_signs_95 : decode cX1_signs 95 = .ok (.iconst 1, 1) := dk_4 (dk_at dksX1_signs_4 3 rfl rfl)
theorem dX1_signs_96 : decode cX1_signs 96 = .ok (.isub, 1) := dk_100 (dk_at dksX1_signs_4 4 rfl rfl)
theorem dX1_signs_97 : decode cX1_signs 97 = .ok (.ireturn, 1) := dk_172 (dk_at dksX1_signs_4 5 rfl rfl)
abbrev cX1_look : ByteArray := prog_1_method_21_code
def yX1_look : MethodName := ⟨RX1, "look", "(II)I"⟩
def dkwX1_look_0 : List UInt8 := [42, 27, 182, 0, 195, 28, 184, 0, 199, 172]
abbrev dktX1_look_0 : List UInt8 := dkwX1_look_0 ++ []
theorem dksX1_look_0 : cX1_look.data.toList.drop 0 = dktX1_look_0 := by decide +kernel
theorem dX1_look_0 : decode cX1_look 0 = .ok (.aload_n 0, 1) := dk_42 (dk_at dksX1_look_0 0 rfl rfl)
theorem dX1_look_1 : decode cX1_look 1 = .ok (.iload_n 1, 1) := dk_27 (dk_at dksX1_look_0 1 rfl rfl)
theorem dX1_look_2 : decode cX1_look 2 = .ok (.invokevirtual 195, 3) := dk_182 0 195 (dk_at dksX1_look_0 2 rfl rfl)
theorem dX1_look_5 : decode cX1_look 5 = .ok (.iload_n 2, 1) := dk_28 (dk_at dksX1_look_0 5 rfl rfl)
theorem dX1_look_6 : decode cX1_look 6 = .ok (.invokestatic 199, 3) := dk_184 0 199 (dk_at dksX1_look_0 6 rfl rfl)
theorem dX1_look_9 : decode cX1_look 9 = .ok (.ireturn, 1) := dk_172 (dk_at dksX1_look_0 9 rfl rfl)
abbrev cX1_formAt : ByteArray := prog_1_method_7_code
def yX1_formAt : MethodName := ⟨RX1, "formAt", "(I)LLetterForms$Form;"⟩
def dkwX1_formAt_1 : List UInt8 := [180, 0, 105, 27, 50, 176]
abbrev dktX1_formAt_1 : List UInt8 := dkwX1_formAt_1 ++ []
def dkwX1_formAt_0 : List UInt8 := [27, 133, 9, 42, 180, 0, 26, 180, 0, 94, 4, 100, 133, 184, 0, 97, 184, 0, 101, 42, 180, 0, 26]
abbrev dktX1_formAt_0 : List UInt8 := dkwX1_formAt_0 ++ dktX1_formAt_1
theorem dksX1_formAt_0 : cX1_formAt.data.toList.drop 0 = dktX1_formAt_0 := by decide +kernel
theorem dksX1_formAt_1 : cX1_formAt.data.toList.drop 23 = dktX1_formAt_1 := dk_seg dksX1_formAt_0 23 rfl rfl
theorem dX1_formAt_0 : decode cX1_formAt 0 = .ok (.iload_n 1, 1) := dk_27 (dk_at dksX1_formAt_0 0 rfl rfl)
theorem dX1_formAt_1 : decode cX1_formAt 1 = .ok (.i2l, 1) := dk_133 (dk_at dksX1_formAt_0 1 rfl rfl)
theorem dX1_formAt_2 : decode cX1_formAt 2 = .ok (.lconst 0, 1) := dk_9 (dk_at dksX1_formAt_0 2 rfl rfl)
theorem dX1_formAt_3 : decode cX1_formAt 3 = .ok (.aload_n 0, 1) := dk_42 (dk_at dksX1_formAt_0 3 rfl rfl)
theorem dX1_formAt_4 : decode cX1_formAt 4 = .ok (.getfield 26, 3) := dk_180 0 26 (dk_at dksX1_formAt_0 4 rfl rfl)
theorem dX1_formAt_7 : decode cX1_formAt 7 = .ok (.getfield 94, 3) := dk_180 0 94 (dk_at dksX1_formAt_0 7 rfl rfl)
theorem dX1_formAt_10 : decode cX1_formAt 10 = .ok (.iconst 1, 1) := dk_4 (dk_at dksX1_formAt_0 10 rfl rfl)
theorem dX1_formAt_11 : decode cX1_formAt 11 = .ok (.isub, 1) := dk_100 (dk_at dksX1_formAt_0 11 rfl rfl)
theorem dX1_formAt_12 : decode cX1_formAt 12 = .ok (.i2l, 1) := dk_133 (dk_at dksX1_formAt_0 12 rfl rfl)
theorem dX1_formAt_13 : decode cX1_formAt 13 = .ok (.invokestatic 97, 3) := dk_184 0 97 (dk_at dksX1_formAt_0 13 rfl rfl)
theorem dX1_formAt_16 : decode cX1_formAt 16 = .ok (.invokestatic 101, 3) := dk_184 0 101 (dk_at dksX1_formAt_0 16 rfl rfl)
theorem dX1_formAt_19 : decode cX1_formAt 19 = .ok (.aload_n 0, 1) := dk_42 (dk_at dksX1_formAt_0 19 rfl rfl)
theorem dX1_formAt_20 : decode cX1_formAt 20 = .ok (.getfield 26, 3) := dk_180 0 26 (dk_at dksX1_formAt_0 20 rfl rfl)
theorem dX1_formAt_23 : decode cX1_formAt 23 = .ok (.getfield 105, 3) := dk_180 0 105 (dk_at dksX1_formAt_1 0 rfl rfl)
theorem dX1_formAt_26 : decode cX1_formAt 26 = .ok (.iload_n 1, 1) := dk_27 (dk_at dksX1_formAt_1 3 rfl rfl)
theorem dX1_formAt_27 : decode cX1_formAt 27 = .ok (.aaload, 1) := dk_50 (dk_at dksX1_formAt_1 4 rfl rfl)
theorem dX1_formAt_28 : decode cX1_formAt 28 = .ok (.areturn, 1) := dk_176 (dk_at dksX1_formAt_1 5 rfl rfl)
abbrev cX1_mustBe : ByteArray := prog_1_method_4_code
def yX1_mustBe : MethodName := ⟨RX1, "mustBe", "(Z)V"⟩
def dkwX1_mustBe_0 : List UInt8 := [26, 154, 0, 11, 187, 0, 88, 89, 183, 0, 90, 191, 177]
abbrev dktX1_mustBe_0 : List UInt8 := dkwX1_mustBe_0 ++ []
theorem dksX1_mustBe_0 : cX1_mustBe.data.toList.drop 0 = dktX1_mustBe_0 := by decide +kernel
theorem dX1_mustBe_0 : decode cX1_mustBe 0 = .ok (.iload_n 0, 1) := dk_26 (dk_at dksX1_mustBe_0 0 rfl rfl)
theorem dX1_mustBe_1 : decode cX1_mustBe 1 = .ok (.ifCond .ne 11, 3) := dk_154 0 11 (dk_at dksX1_mustBe_0 1 rfl rfl)
theorem dX1_mustBe_4 : decode cX1_mustBe 4 = .ok (.new 88, 3) := dk_187 0 88 (dk_at dksX1_mustBe_0 4 rfl rfl)
theorem dX1_mustBe_7 : decode cX1_mustBe 7 = .ok (.dup, 1) := dk_89 (dk_at dksX1_mustBe_0 7 rfl rfl)
theorem dX1_mustBe_8 : decode cX1_mustBe 8 = .ok (.invokespecial 90, 3) := dk_183 0 90 (dk_at dksX1_mustBe_0 8 rfl rfl)
theorem dX1_mustBe_11 : decode cX1_mustBe 11 = .ok (.athrow, 1) := dk_191 (dk_at dksX1_mustBe_0 11 rfl rfl)
theorem dX1_mustBe_12 : decode cX1_mustBe 12 = .ok (.return_, 1) := dk_177 (dk_at dksX1_mustBe_0 12 rfl rfl)
abbrev cX1_tells : ByteArray := prog_1_method_20_code
def yX1_tells : MethodName := ⟨RX1, "tells", "(LLetterForms$Form;I)I"⟩
def dkwX1_tells_1 : List UInt8 := [153, 0, 12, 42, 180, 0, 160, 27, 46, 167, 0, 4, 2, 172]
abbrev dktX1_tells_1 : List UInt8 := dkwX1_tells_1 ++ []
def dkwX1_tells_0 : List UInt8 := [27, 2, 160, 0, 10, 42, 180, 0, 192, 167, 0, 27, 27, 133, 9, 42, 180, 0, 192, 133, 184, 0, 97]
abbrev dktX1_tells_0 : List UInt8 := dkwX1_tells_0 ++ dktX1_tells_1
theorem dksX1_tells_0 : cX1_tells.data.toList.drop 0 = dktX1_tells_0 := by decide +kernel
theorem dksX1_tells_1 : cX1_tells.data.toList.drop 23 = dktX1_tells_1 := dk_seg dksX1_tells_0 23 rfl rfl
theorem dX1_tells_0 : decode cX1_tells 0 = .ok (.iload_n 1, 1) := dk_27 (dk_at dksX1_tells_0 0 rfl rfl)
theorem dX1_tells_1 : decode cX1_tells 1 = .ok (.iconst (-1), 1) := dk_2 (dk_at dksX1_tells_0 1 rfl rfl)
theorem dX1_tells_2 : decode cX1_tells 2 = .ok (.if_icmp .ne 10, 3) := dk_160 0 10 (dk_at dksX1_tells_0 2 rfl rfl)
theorem dX1_tells_5 : decode cX1_tells 5 = .ok (.aload_n 0, 1) := dk_42 (dk_at dksX1_tells_0 5 rfl rfl)
theorem dX1_tells_6 : decode cX1_tells 6 = .ok (.getfield 192, 3) := dk_180 0 192 (dk_at dksX1_tells_0 6 rfl rfl)
theorem dX1_tells_9 : decode cX1_tells 9 = .ok (.goto 27, 3) := dk_167 0 27 (dk_at dksX1_tells_0 9 rfl rfl)
theorem dX1_tells_12 : decode cX1_tells 12 = .ok (.iload_n 1, 1) := dk_27 (dk_at dksX1_tells_0 12 rfl rfl)
theorem dX1_tells_13 : decode cX1_tells 13 = .ok (.i2l, 1) := dk_133 (dk_at dksX1_tells_0 13 rfl rfl)
theorem dX1_tells_14 : decode cX1_tells 14 = .ok (.lconst 0, 1) := dk_9 (dk_at dksX1_tells_0 14 rfl rfl)
theorem dX1_tells_15 : decode cX1_tells 15 = .ok (.aload_n 0, 1) := dk_42 (dk_at dksX1_tells_0 15 rfl rfl)
theorem dX1_tells_16 : decode cX1_tells 16 = .ok (.getfield 192, 3) := dk_180 0 192 (dk_at dksX1_tells_0 16 rfl rfl)
theorem dX1_tells_19 : decode cX1_tells 19 = .ok (.i2l, 1) := dk_133 (dk_at dksX1_tells_0 19 rfl rfl)
theorem dX1_tells_20 : decode cX1_tells 20 = .ok (.invokestatic 97, 3) := dk_184 0 97 (dk_at dksX1_tells_0 20 rfl rfl)
theorem dX1_tells_23 : decode cX1_tells 23 = .ok (.ifCond .eq 12, 3) := dk_153 0 12 (dk_at dksX1_tells_1 0 rfl rfl)
theorem dX1_tells_26 : decode cX1_tells 26 = .ok (.aload_n 0, 1) := dk_42 (dk_at dksX1_tells_1 3 rfl rfl)
theorem dX1_tells_27 : decode cX1_tells 27 = .ok (.getfield 160, 3) := dk_180 0 160 (dk_at dksX1_tells_1 4 rfl rfl)
theorem dX1_tells_30 : decode cX1_tells 30 = .ok (.iload_n 1, 1) := dk_27 (dk_at dksX1_tells_1 7 rfl rfl)
theorem dX1_tells_31 : decode cX1_tells 31 = .ok (.iaload, 1) := dk_46 (dk_at dksX1_tells_1 8 rfl rfl)
theorem dX1_tells_32 : decode cX1_tells 32 = .ok (.goto 4, 3) := dk_167 0 4 (dk_at dksX1_tells_1 9 rfl rfl)
theorem dX1_tells_35 : decode cX1_tells 35 = .ok (.iconst (-1), 1) := dk_2 (dk_at dksX1_tells_1 12 rfl rfl)
theorem dX1_tells_36 : decode cX1_tells 36 = .ok (.ireturn, 1) := dk_172 (dk_at dksX1_tells_1 13 rfl rfl)
abbrev cX1_at : ByteArray := prog_1_method_22_code
def yX1_at : MethodName := ⟨RX1, "at", "(III)I"⟩
def dkwX1_at_1 : List UInt8 := [182, 0, 163, 42, 180, 0, 19, 180, 0, 141, 29, 133, 182, 0, 163, 182, 0, 203, 172]
abbrev dktX1_at_1 : List UInt8 := dkwX1_at_1 ++ []
def dkwX1_at_0 : List UInt8 := [42, 27, 182, 0, 195, 58, 4, 42, 180, 0, 19, 25, 4, 42, 180, 0, 19, 180, 0, 141, 28, 133]
abbrev dktX1_at_0 : List UInt8 := dkwX1_at_0 ++ dktX1_at_1
theorem dksX1_at_0 : cX1_at.data.toList.drop 0 = dktX1_at_0 := by decide +kernel
theorem dksX1_at_1 : cX1_at.data.toList.drop 22 = dktX1_at_1 := dk_seg dksX1_at_0 22 rfl rfl
theorem dX1_at_0 : decode cX1_at 0 = .ok (.aload_n 0, 1) := dk_42 (dk_at dksX1_at_0 0 rfl rfl)
theorem dX1_at_1 : decode cX1_at 1 = .ok (.iload_n 1, 1) := dk_27 (dk_at dksX1_at_0 1 rfl rfl)
theorem dX1_at_2 : decode cX1_at 2 = .ok (.invokevirtual 195, 3) := dk_182 0 195 (dk_at dksX1_at_0 2 rfl rfl)
theorem dX1_at_5 : decode cX1_at 5 = .ok (.astore 4, 2) := dk_58 4 (dk_at dksX1_at_0 5 rfl rfl)
theorem dX1_at_7 : decode cX1_at 7 = .ok (.aload_n 0, 1) := dk_42 (dk_at dksX1_at_0 7 rfl rfl)
theorem dX1_at_8 : decode cX1_at 8 = .ok (.getfield 19, 3) := dk_180 0 19 (dk_at dksX1_at_0 8 rfl rfl)
theorem dX1_at_11 : decode cX1_at 11 = .ok (.aload 4, 2) := dk_25 4 (dk_at dksX1_at_0 11 rfl rfl)
theorem dX1_at_13 : decode cX1_at 13 = .ok (.aload_n 0, 1) := dk_42 (dk_at dksX1_at_0 13 rfl rfl)
theorem dX1_at_14 : decode cX1_at 14 = .ok (.getfield 19, 3) := dk_180 0 19 (dk_at dksX1_at_0 14 rfl rfl)
theorem dX1_at_17 : decode cX1_at 17 = .ok (.getfield 141, 3) := dk_180 0 141 (dk_at dksX1_at_0 17 rfl rfl)
theorem dX1_at_20 : decode cX1_at 20 = .ok (.iload_n 2, 1) := dk_28 (dk_at dksX1_at_0 20 rfl rfl)
theorem dX1_at_21 : decode cX1_at 21 = .ok (.i2l, 1) := dk_133 (dk_at dksX1_at_0 21 rfl rfl)
theorem dX1_at_22 : decode cX1_at 22 = .ok (.invokevirtual 163, 3) := dk_182 0 163 (dk_at dksX1_at_1 0 rfl rfl)
theorem dX1_at_25 : decode cX1_at 25 = .ok (.aload_n 0, 1) := dk_42 (dk_at dksX1_at_1 3 rfl rfl)
theorem dX1_at_26 : decode cX1_at 26 = .ok (.getfield 19, 3) := dk_180 0 19 (dk_at dksX1_at_1 4 rfl rfl)
theorem dX1_at_29 : decode cX1_at 29 = .ok (.getfield 141, 3) := dk_180 0 141 (dk_at dksX1_at_1 7 rfl rfl)
theorem dX1_at_32 : decode cX1_at 32 = .ok (.iload_n 3, 1) := dk_29 (dk_at dksX1_at_1 10 rfl rfl)
theorem dX1_at_33 : decode cX1_at 33 = .ok (.i2l, 1) := dk_133 (dk_at dksX1_at_1 11 rfl rfl)
theorem dX1_at_34 : decode cX1_at 34 = .ok (.invokevirtual 163, 3) := dk_182 0 163 (dk_at dksX1_at_1 12 rfl rfl)
theorem dX1_at_37 : decode cX1_at 37 = .ok (.invokevirtual 203, 3) := dk_182 0 203 (dk_at dksX1_at_1 15 rfl rfl)
theorem dX1_at_40 : decode cX1_at 40 = .ok (.ireturn, 1) := dk_172 (dk_at dksX1_at_1 18 rfl rfl)
abbrev cX1_det : ByteArray := prog_1_method_23_code
def yX1_det : MethodName := ⟨RX1, "det", "(I)I"⟩
def dkwX1_det_0 : List UInt8 := [42, 27, 182, 0, 207, 77, 42, 44, 3, 46, 44, 4, 46, 44, 5, 46, 44, 6, 46, 182, 0, 173, 172]
abbrev dktX1_det_0 : List UInt8 := dkwX1_det_0 ++ []
theorem dksX1_det_0 : cX1_det.data.toList.drop 0 = dktX1_det_0 := by decide +kernel
theorem dX1_det_0 : decode cX1_det 0 = .ok (.aload_n 0, 1) := dk_42 (dk_at dksX1_det_0 0 rfl rfl)
theorem dX1_det_1 : decode cX1_det 1 = .ok (.iload_n 1, 1) := dk_27 (dk_at dksX1_det_0 1 rfl rfl)
theorem dX1_det_2 : decode cX1_det 2 = .ok (.invokevirtual 207, 3) := dk_182 0 207 (dk_at dksX1_det_0 2 rfl rfl)
theorem dX1_det_5 : decode cX1_det 5 = .ok (.astore_n 2, 1) := dk_77 (dk_at dksX1_det_0 5 rfl rfl)
theorem dX1_det_6 : decode cX1_det 6 = .ok (.aload_n 0, 1) := dk_42 (dk_at dksX1_det_0 6 rfl rfl)
theorem dX1_det_7 : decode cX1_det 7 = .ok (.aload_n 2, 1) := dk_44 (dk_at dksX1_det_0 7 rfl rfl)
theorem dX1_det_8 : decode cX1_det 8 = .ok (.iconst 0, 1) := dk_3 (dk_at dksX1_det_0 8 rfl rfl)
theorem dX1_det_9 : decode cX1_det 9 = .ok (.iaload, 1) := dk_46 (dk_at dksX1_det_0 9 rfl rfl)
theorem dX1_det_10 : decode cX1_det 10 = .ok (.aload_n 2, 1) := dk_44 (dk_at dksX1_det_0 10 rfl rfl)
theorem dX1_det_11 : decode cX1_det 11 = .ok (.iconst 1, 1) := dk_4 (dk_at dksX1_det_0 11 rfl rfl)
theorem dX1_det_12 : decode cX1_det 12 = .ok (.iaload, 1) := dk_46 (dk_at dksX1_det_0 12 rfl rfl)
theorem dX1_det_13 : decode cX1_det 13 = .ok (.aload_n 2, 1) := dk_44 (dk_at dksX1_det_0 13 rfl rfl)
theorem dX1_det_14 : decode cX1_det 14 = .ok (.iconst 2, 1) := dk_5 (dk_at dksX1_det_0 14 rfl rfl)
theorem dX1_det_15 : decode cX1_det 15 = .ok (.iaload, 1) := dk_46 (dk_at dksX1_det_0 15 rfl rfl)
theorem dX1_det_16 : decode cX1_det 16 = .ok (.aload_n 2, 1) := dk_44 (dk_at dksX1_det_0 16 rfl rfl)
theorem dX1_det_17 : decode cX1_det 17 = .ok (.iconst 3, 1) := dk_6 (dk_at dksX1_det_0 17 rfl rfl)
theorem dX1_det_18 : decode cX1_det 18 = .ok (.iaload, 1) := dk_46 (dk_at dksX1_det_0 18 rfl rfl)
theorem dX1_det_19 : decode cX1_det 19 = .ok (.invokevirtual 173, 3) := dk_182 0 173 (dk_at dksX1_det_0 19 rfl rfl)
theorem dX1_det_22 : decode cX1_det 22 = .ok (.ireturn, 1) := dk_172 (dk_at dksX1_det_0 22 rfl rfl)
abbrev cX1_tableAt : ByteArray := prog_1_method_8_code
def yX1_tableAt : MethodName := ⟨RX1, "tableAt", "(I)[I"⟩
def dkwX1_tableAt_1 : List UInt8 := [180, 0, 111, 27, 50, 176]
abbrev dktX1_tableAt_1 : List UInt8 := dkwX1_tableAt_1 ++ []
def dkwX1_tableAt_0 : List UInt8 := [27, 133, 9, 42, 180, 0, 26, 180, 0, 108, 4, 100, 133, 184, 0, 97, 184, 0, 101, 42, 180, 0, 26]
abbrev dktX1_tableAt_0 : List UInt8 := dkwX1_tableAt_0 ++ dktX1_tableAt_1
theorem dksX1_tableAt_0 : cX1_tableAt.data.toList.drop 0 = dktX1_tableAt_0 := by decide +kernel
theorem dksX1_tableAt_1 : cX1_tableAt.data.toList.drop 23 = dktX1_tableAt_1 := dk_seg dksX1_tableAt_0 23 rfl rfl
theorem dX1_tableAt_0 : decode cX1_tableAt 0 = .ok (.iload_n 1, 1) := dk_27 (dk_at dksX1_tableAt_0 0 rfl rfl)
theorem dX1_tableAt_1 : decode cX1_tableAt 1 = .ok (.i2l, 1) := dk_133 (dk_at dksX1_tableAt_0 1 rfl rfl)
theorem dX1_tableAt_2 : decode cX1_tableAt 2 = .ok (.lconst 0, 1) := dk_9 (dk_at dksX1_tableAt_0 2 rfl rfl)
theorem dX1_tableAt_3 : decode cX1_tableAt 3 = .ok (.aload_n 0, 1) := dk_42 (dk_at dksX1_tableAt_0 3 rfl rfl)
theorem dX1_tableAt_4 : decode cX1_tableAt 4 = .ok (.getfield 26, 3) := dk_180 0 26 (dk_at dksX1_tableAt_0 4 rfl rfl)
theorem dX1_tableAt_7 : decode cX1_tableAt 7 = .ok (.getfield 108, 3) := dk_180 0 108 (dk_at dksX1_tableAt_0 7 rfl rfl)
theorem dX1_tableAt_10 : decode cX1_tableAt 10 = .ok (.iconst 1, 1) := dk_4 (dk_at dksX1_tableAt_0 10 rfl rfl)
theorem dX1_tableAt_11 : decode cX1_tableAt 11 = .ok (.isub, 1) := dk_100 (dk_at dksX1_tableAt_0 11 rfl rfl)
theorem dX1_tableAt_12 : decode cX1_tableAt 12 = .ok (.i2l, 1) := dk_133 (dk_at dksX1_tableAt_0 12 rfl rfl)
theorem dX1_tableAt_13 : decode cX1_tableAt 13 = .ok (.invokestatic 97, 3) := dk_184 0 97 (dk_at dksX1_tableAt_0 13 rfl rfl)
theorem dX1_tableAt_16 : decode cX1_tableAt 16 = .ok (.invokestatic 101, 3) := dk_184 0 101 (dk_at dksX1_tableAt_0 16 rfl rfl)
theorem dX1_tableAt_19 : decode cX1_tableAt 19 = .ok (.aload_n 0, 1) := dk_42 (dk_at dksX1_tableAt_0 19 rfl rfl)
theorem dX1_tableAt_20 : decode cX1_tableAt 20 = .ok (.getfield 26, 3) := dk_180 0 26 (dk_at dksX1_tableAt_0 20 rfl rfl)
theorem dX1_tableAt_23 : decode cX1_tableAt 23 = .ok (.getfield 111, 3) := dk_180 0 111 (dk_at dksX1_tableAt_1 0 rfl rfl)
theorem dX1_tableAt_26 : decode cX1_tableAt 26 = .ok (.iload_n 1, 1) := dk_27 (dk_at dksX1_tableAt_1 3 rfl rfl)
theorem dX1_tableAt_27 : decode cX1_tableAt 27 = .ok (.aaload, 1) := dk_50 (dk_at dksX1_tableAt_1 4 rfl rfl)
theorem dX1_tableAt_28 : decode cX1_tableAt 28 = .ok (.areturn, 1) := dk_176 (dk_at dksX1_tableAt_1 5 rfl rfl)
abbrev cX1_mix : ByteArray := prog_1_method_24_code
def yX1_mix : MethodName := ⟨RX1, "mix", "(II)Z"⟩
def dkwX1_mix_3 : List UInt8 := [182, 0, 219, 45, 42, 180, 0, 40, 182, 0, 223, 21, 5, 172]
abbrev dktX1_mix_3 : List UInt8 := dkwX1_mix_3 ++ []
def dkwX1_mix_2 : List UInt8 := [182, 0, 215, 154, 0, 7, 4, 167, 0, 4, 3, 54, 5, 42, 180, 0, 26, 27, 45, 42, 180, 0, 40]
abbrev dktX1_mix_2 : List UInt8 := dkwX1_mix_2 ++ dktX1_mix_3
def dkwX1_mix_1 : List UInt8 := [4, 46, 25, 4, 5, 46, 25, 4, 6, 46, 42, 180, 0, 40, 182, 0, 211, 42, 180, 0, 40, 45]
abbrev dktX1_mix_1 : List UInt8 := dkwX1_mix_1 ++ dktX1_mix_2
def dkwX1_mix_0 : List UInt8 := [42, 27, 182, 0, 195, 78, 42, 28, 182, 0, 207, 58, 4, 42, 180, 0, 19, 45, 25, 4, 3, 46, 25, 4]
abbrev dktX1_mix_0 : List UInt8 := dkwX1_mix_0 ++ dktX1_mix_1
theorem dksX1_mix_0 : cX1_mix.data.toList.drop 0 = dktX1_mix_0 := by decide +kernel
theorem dksX1_mix_1 : cX1_mix.data.toList.drop 24 = dktX1_mix_1 := dk_seg dksX1_mix_0 24 rfl rfl
theorem dksX1_mix_2 : cX1_mix.data.toList.drop 46 = dktX1_mix_2 := dk_seg dksX1_mix_1 22 rfl rfl
theorem dksX1_mix_3 : cX1_mix.data.toList.drop 69 = dktX1_mix_3 := dk_seg dksX1_mix_2 23 rfl rfl
theorem dX1_mix_0 : decode cX1_mix 0 = .ok (.aload_n 0, 1) := dk_42 (dk_at dksX1_mix_0 0 rfl rfl)
theorem dX1_mix_1 : decode cX1_mix 1 = .ok (.iload_n 1, 1) := dk_27 (dk_at dksX1_mix_0 1 rfl rfl)
theorem dX1_mix_2 : decode cX1_mix 2 = .ok (.invokevirtual 195, 3) := dk_182 0 195 (dk_at dksX1_mix_0 2 rfl rfl)
theorem dX1_mix_5 : decode cX1_mix 5 = .ok (.astore_n 3, 1) := dk_78 (dk_at dksX1_mix_0 5 rfl rfl)
theorem dX1_mix_6 : decode cX1_mix 6 = .ok (.aload_n 0, 1) := dk_42 (dk_at dksX1_mix_0 6 rfl rfl)
theorem dX1_mix_7 : decode cX1_mix 7 = .ok (.iload_n 2, 1) := dk_28 (dk_at dksX1_mix_0 7 rfl rfl)
theorem dX1_mix_8 : decode cX1_mix 8 = .ok (.invokevirtual 207, 3) := dk_182 0 207 (dk_at dksX1_mix_0 8 rfl rfl)
theorem dX1_mix_11 : decode cX1_mix 11 = .ok (.astore 4, 2) := dk_58 4 (dk_at dksX1_mix_0 11 rfl rfl)
theorem dX1_mix_13 : decode cX1_mix 13 = .ok (.aload_n 0, 1) := dk_42 (dk_at dksX1_mix_0 13 rfl rfl)
theorem dX1_mix_14 : decode cX1_mix 14 = .ok (.getfield 19, 3) := dk_180 0 19 (dk_at dksX1_mix_0 14 rfl rfl)
theorem dX1_mix_17 : decode cX1_mix 17 = .ok (.aload_n 3, 1) := dk_45 (dk_at dksX1_mix_0 17 rfl rfl)
theorem dX1_mix_18 : decode cX1_mix 18 = .ok (.aload 4, 2) := dk_25 4 (dk_at dksX1_mix_0 18 rfl rfl)
theorem dX1_mix_20 : decode cX1_mix 20 = .ok (.iconst 0, 1) := dk_3 (dk_at dksX1_mix_0 20 rfl rfl)
theorem dX1_mix_21 : decode cX1_mix 21 = .ok (.iaload, 1) := dk_46 (dk_at dksX1_mix_0 21 rfl rfl)
theorem dX1_mix_22 : decode cX1_mix 22 = .ok (.aload 4, 2) := dk_25 4 (dk_at dksX1_mix_0 22 rfl rfl)
theorem dX1_mix_24 : decode cX1_mix 24 = .ok (.iconst 1, 1) := dk_4 (dk_at dksX1_mix_1 0 rfl rfl)
theorem dX1_mix_25 : decode cX1_mix 25 = .ok (.iaload, 1) := dk_46 (dk_at dksX1_mix_1 1 rfl rfl)
theorem dX1_mix_26 : decode cX1_mix 26 = .ok (.aload 4, 2) := dk_25 4 (dk_at dksX1_mix_1 2 rfl rfl)
theorem dX1_mix_28 : decode cX1_mix 28 = .ok (.iconst 2, 1) := dk_5 (dk_at dksX1_mix_1 4 rfl rfl)
theorem dX1_mix_29 : decode cX1_mix 29 = .ok (.iaload, 1) := dk_46 (dk_at dksX1_mix_1 5 rfl rfl)
theorem dX1_mix_30 : decode cX1_mix 30 = .ok (.aload 4, 2) := dk_25 4 (dk_at dksX1_mix_1 6 rfl rfl)
theorem dX1_mix_32 : decode cX1_mix 32 = .ok (.iconst 3, 1) := dk_6 (dk_at dksX1_mix_1 8 rfl rfl)
theorem dX1_mix_33 : decode cX1_mix 33 = .ok (.iaload, 1) := dk_46 (dk_at dksX1_mix_1 9 rfl rfl)
theorem dX1_mix_34 : decode cX1_mix 34 = .ok (.aload_n 0, 1) := dk_42 (dk_at dksX1_mix_1 10 rfl rfl)
theorem dX1_mix_35 : decode cX1_mix 35 = .ok (.getfield 40, 3) := dk_180 0 40 (dk_at dksX1_mix_1 11 rfl rfl)
theorem dX1_mix_38 : decode cX1_mix 38 = .ok (.invokevirtual 211, 3) := dk_182 0 211 (dk_at dksX1_mix_1 14 rfl rfl)
theorem dX1_mix_41 : decode cX1_mix 41 = .ok (.aload_n 0, 1) := dk_42 (dk_at dksX1_mix_1 17 rfl rfl)
theorem dX1_mix_42 : decode cX1_mix 42 = .ok (.getfield 40, 3) := dk_180 0 40 (dk_at dksX1_mix_1 18 rfl rfl)
theorem dX1_mix_45 : decode cX1_mix 45 = .ok (.aload_n 3, 1) := dk_45 (dk_at dksX1_mix_1 21 rfl rfl)
theorem dX1_mix_46 : decode cX1_mix 46 = .ok (.invokevirtual 215, 3) := dk_182 0 215 (dk_at dksX1_mix_2 0 rfl rfl)
theorem dX1_mix_49 : decode cX1_mix 49 = .ok (.ifCond .ne 7, 3) := dk_154 0 7 (dk_at dksX1_mix_2 3 rfl rfl)
theorem dX1_mix_52 : decode cX1_mix 52 = .ok (.iconst 1, 1) := dk_4 (dk_at dksX1_mix_2 6 rfl rfl)
theorem dX1_mix_53 : decode cX1_mix 53 = .ok (.goto 4, 3) := dk_167 0 4 (dk_at dksX1_mix_2 7 rfl rfl)
theorem dX1_mix_56 : decode cX1_mix 56 = .ok (.iconst 0, 1) := dk_3 (dk_at dksX1_mix_2 10 rfl rfl)
theorem dX1_mix_57 : decode cX1_mix 57 = .ok (.istore 5, 2) := dk_54 5 (dk_at dksX1_mix_2 11 rfl rfl)
theorem dX1_mix_59 : decode cX1_mix 59 = .ok (.aload_n 0, 1) := dk_42 (dk_at dksX1_mix_2 13 rfl rfl)
theorem dX1_mix_60 : decode cX1_mix 60 = .ok (.getfield 26, 3) := dk_180 0 26 (dk_at dksX1_mix_2 14 rfl rfl)
theorem dX1_mix_63 : decode cX1_mix 63 = .ok (.iload_n 1, 1) := dk_27 (dk_at dksX1_mix_2 17 rfl rfl)
theorem dX1_mix_64 : decode cX1_mix 64 = .ok (.aload_n 3, 1) := dk_45 (dk_at dksX1_mix_2 18 rfl rfl)
theorem dX1_mix_65 : decode cX1_mix 65 = .ok (.aload_n 0, 1) := dk_42 (dk_at dksX1_mix_2 19 rfl rfl)
theorem dX1_mix_66 : decode cX1_mix 66 = .ok (.getfield 40, 3) := dk_180 0 40 (dk_at dksX1_mix_2 20 rfl rfl)
theorem dX1_mix_69 : decode cX1_mix 69 = .ok (.invokevirtual 219, 3) := dk_182 0 219 (dk_at dksX1_mix_3 0 rfl rfl)
theorem dX1_mix_72 : decode cX1_mix 72 = .ok (.aload_n 3, 1) := dk_45 (dk_at dksX1_mix_3 3 rfl rfl)
theorem dX1_mix_73 : decode cX1_mix 73 = .ok (.aload_n 0, 1) := dk_42 (dk_at dksX1_mix_3 4 rfl rfl)
theorem dX1_mix_74 : decode cX1_mix 74 = .ok (.getfield 40, 3) := dk_180 0 40 (dk_at dksX1_mix_3 5 rfl rfl)
theorem dX1_mix_77 : decode cX1_mix 77 = .ok (.invokevirtual 223, 3) := dk_182 0 223 (dk_at dksX1_mix_3 8 rfl rfl)
theorem dX1_mix_80 : decode cX1_mix 80 = .ok (.iload 5, 2) := dk_21 5 (dk_at dksX1_mix_3 11 rfl rfl)
theorem dX1_mix_82 : decode cX1_mix 82 = .ok (.ireturn, 1) := dk_172 (dk_at dksX1_mix_3 13 rfl rfl)
abbrev cX1_value : ByteArray := prog_1_method_28_code
def yX1_value : MethodName := ⟨RX1, "value", "(III)I"⟩
def dkwX1_value_1 : List UInt8 := [182, 0, 255, 153, 0, 12, 25, 5, 29, 184, 0, 199, 167, 0, 5, 16, 254, 172]
abbrev dktX1_value_1 : List UInt8 := dkwX1_value_1 ++ []
def dkwX1_value_0 : List UInt8 := [42, 27, 182, 0, 248, 58, 4, 42, 25, 4, 42, 28, 182, 0, 195, 182, 0, 251, 58, 5, 25, 5]
abbrev dktX1_value_0 : List UInt8 := dkwX1_value_0 ++ dktX1_value_1
theorem dksX1_value_0 : cX1_value.data.toList.drop 0 = dktX1_value_0 := by decide +kernel
theorem dksX1_value_1 : cX1_value.data.toList.drop 22 = dktX1_value_1 := dk_seg dksX1_value_0 22 rfl rfl
theorem dX1_value_0 : decode cX1_value 0 = .ok (.aload_n 0, 1) := dk_42 (dk_at dksX1_value_0 0 rfl rfl)
theorem dX1_value_1 : decode cX1_value 1 = .ok (.iload_n 1, 1) := dk_27 (dk_at dksX1_value_0 1 rfl rfl)
theorem dX1_value_2 : decode cX1_value 2 = .ok (.invokevirtual 248, 3) := dk_182 0 248 (dk_at dksX1_value_0 2 rfl rfl)
theorem dX1_value_5 : decode cX1_value 5 = .ok (.astore 4, 2) := dk_58 4 (dk_at dksX1_value_0 5 rfl rfl)
theorem dX1_value_7 : decode cX1_value 7 = .ok (.aload_n 0, 1) := dk_42 (dk_at dksX1_value_0 7 rfl rfl)
theorem dX1_value_8 : decode cX1_value 8 = .ok (.aload 4, 2) := dk_25 4 (dk_at dksX1_value_0 8 rfl rfl)
theorem dX1_value_10 : decode cX1_value 10 = .ok (.aload_n 0, 1) := dk_42 (dk_at dksX1_value_0 10 rfl rfl)
theorem dX1_value_11 : decode cX1_value 11 = .ok (.iload_n 2, 1) := dk_28 (dk_at dksX1_value_0 11 rfl rfl)
theorem dX1_value_12 : decode cX1_value 12 = .ok (.invokevirtual 195, 3) := dk_182 0 195 (dk_at dksX1_value_0 12 rfl rfl)
theorem dX1_value_15 : decode cX1_value 15 = .ok (.invokevirtual 251, 3) := dk_182 0 251 (dk_at dksX1_value_0 15 rfl rfl)
theorem dX1_value_18 : decode cX1_value 18 = .ok (.astore 5, 2) := dk_58 5 (dk_at dksX1_value_0 18 rfl rfl)
theorem dX1_value_20 : decode cX1_value 20 = .ok (.aload 5, 2) := dk_25 5 (dk_at dksX1_value_0 20 rfl rfl)
theorem dX1_value_22 : decode cX1_value 22 = .ok (.invokevirtual 255, 3) := dk_182 0 255 (dk_at dksX1_value_1 0 rfl rfl)
theorem dX1_value_25 : decode cX1_value 25 = .ok (.ifCond .eq 12, 3) := dk_153 0 12 (dk_at dksX1_value_1 3 rfl rfl)
theorem dX1_value_28 : decode cX1_value 28 = .ok (.aload 5, 2) := dk_25 5 (dk_at dksX1_value_1 6 rfl rfl)
theorem dX1_value_30 : decode cX1_value 30 = .ok (.iload_n 3, 1) := dk_29 (dk_at dksX1_value_1 8 rfl rfl)
theorem dX1_value_31 : decode cX1_value 31 = .ok (.invokestatic 199, 3) := dk_184 0 199 (dk_at dksX1_value_1 9 rfl rfl)
theorem dX1_value_34 : decode cX1_value 34 = .ok (.goto 5, 3) := dk_167 0 5 (dk_at dksX1_value_1 12 rfl rfl)
theorem dX1_value_37 : decode cX1_value 37 = .ok (.bipush (-2), 2) := dk_16 254 (dk_at dksX1_value_1 15 rfl rfl)
theorem dX1_value_39 : decode cX1_value 39 = .ok (.ireturn, 1) := dk_172 (dk_at dksX1_value_1 17 rfl rfl)
abbrev cX1_signAt : ByteArray := prog_1_method_9_code
def yX1_signAt : MethodName := ⟨RX1, "signAt", "(I)LLetterForms$Sign;"⟩
def dkwX1_signAt_1 : List UInt8 := [180, 0, 117, 27, 50, 176]
abbrev dktX1_signAt_1 : List UInt8 := dkwX1_signAt_1 ++ []
def dkwX1_signAt_0 : List UInt8 := [27, 133, 9, 42, 180, 0, 26, 180, 0, 114, 4, 100, 133, 184, 0, 97, 184, 0, 101, 42, 180, 0, 26]
abbrev dktX1_signAt_0 : List UInt8 := dkwX1_signAt_0 ++ dktX1_signAt_1
theorem dksX1_signAt_0 : cX1_signAt.data.toList.drop 0 = dktX1_signAt_0 := by decide +kernel
theorem dksX1_signAt_1 : cX1_signAt.data.toList.drop 23 = dktX1_signAt_1 := dk_seg dksX1_signAt_0 23 rfl rfl
theorem dX1_signAt_0 : decode cX1_signAt 0 = .ok (.iload_n 1, 1) := dk_27 (dk_at dksX1_signAt_0 0 rfl rfl)
theorem dX1_signAt_1 : decode cX1_signAt 1 = .ok (.i2l, 1) := dk_133 (dk_at dksX1_signAt_0 1 rfl rfl)
theorem dX1_signAt_2 : decode cX1_signAt 2 = .ok (.lconst 0, 1) := dk_9 (dk_at dksX1_signAt_0 2 rfl rfl)
theorem dX1_signAt_3 : decode cX1_signAt 3 = .ok (.aload_n 0, 1) := dk_42 (dk_at dksX1_signAt_0 3 rfl rfl)
theorem dX1_signAt_4 : decode cX1_signAt 4 = .ok (.getfield 26, 3) := dk_180 0 26 (dk_at dksX1_signAt_0 4 rfl rfl)
theorem dX1_signAt_7 : decode cX1_signAt 7 = .ok (.getfield 114, 3) := dk_180 0 114 (dk_at dksX1_signAt_0 7 rfl rfl)
theorem dX1_signAt_10 : decode cX1_signAt 10 = .ok (.iconst 1, 1) := dk_4 (dk_at dksX1_signAt_0 10 rfl rfl)
theorem dX1_signAt_11 : decode cX1_signAt 11 = .ok (.isub, 1) := dk_100 (dk_at dksX1_signAt_0 11 rfl rfl)
theorem dX1_signAt_12 : decode cX1_signAt 12 = .ok (.i2l, 1) := dk_133 (dk_at dksX1_signAt_0 12 rfl rfl)
theorem dX1_signAt_13 : decode cX1_signAt 13 = .ok (.invokestatic 97, 3) := dk_184 0 97 (dk_at dksX1_signAt_0 13 rfl rfl)
theorem dX1_signAt_16 : decode cX1_signAt 16 = .ok (.invokestatic 101, 3) := dk_184 0 101 (dk_at dksX1_signAt_0 16 rfl rfl)
theorem dX1_signAt_19 : decode cX1_signAt 19 = .ok (.aload_n 0, 1) := dk_42 (dk_at dksX1_signAt_0 19 rfl rfl)
theorem dX1_signAt_20 : decode cX1_signAt 20 = .ok (.getfield 26, 3) := dk_180 0 26 (dk_at dksX1_signAt_0 20 rfl rfl)
theorem dX1_signAt_23 : decode cX1_signAt 23 = .ok (.getfield 117, 3) := dk_180 0 117 (dk_at dksX1_signAt_1 0 rfl rfl)
theorem dX1_signAt_26 : decode cX1_signAt 26 = .ok (.iload_n 1, 1) := dk_27 (dk_at dksX1_signAt_1 3 rfl rfl)
theorem dX1_signAt_27 : decode cX1_signAt 27 = .ok (.aaload, 1) := dk_50 (dk_at dksX1_signAt_1 4 rfl rfl)
theorem dX1_signAt_28 : decode cX1_signAt 28 = .ok (.areturn, 1) := dk_176 (dk_at dksX1_signAt_1 5 rfl rfl)
abbrev cX1_valueOf : ByteArray := prog_1_method_27_code
def yX1_valueOf : MethodName := ⟨RX1, "valueOf", "(LLetterForms$Sign;LLetterForms$Form;)LLetterForms$Form;"⟩
def dkwX1_valueOf_0 : List UInt8 := [43, 42, 44, 3, 182, 0, 242, 42, 180, 0, 35, 3, 50, 176]
abbrev dktX1_valueOf_0 : List UInt8 := dkwX1_valueOf_0 ++ []
theorem dksX1_valueOf_0 : cX1_valueOf.data.toList.drop 0 = dktX1_valueOf_0 := by decide +kernel
theorem dX1_valueOf_0 : decode cX1_valueOf 0 = .ok (.aload_n 1, 1) := dk_43 (dk_at dksX1_valueOf_0 0 rfl rfl)
theorem dX1_valueOf_1 : decode cX1_valueOf 1 = .ok (.aload_n 0, 1) := dk_42 (dk_at dksX1_valueOf_0 1 rfl rfl)
theorem dX1_valueOf_2 : decode cX1_valueOf 2 = .ok (.aload_n 2, 1) := dk_44 (dk_at dksX1_valueOf_0 2 rfl rfl)
theorem dX1_valueOf_3 : decode cX1_valueOf 3 = .ok (.iconst 0, 1) := dk_3 (dk_at dksX1_valueOf_0 3 rfl rfl)
theorem dX1_valueOf_4 : decode cX1_valueOf 4 = .ok (.invokevirtual 242, 3) := dk_182 0 242 (dk_at dksX1_valueOf_0 4 rfl rfl)
theorem dX1_valueOf_7 : decode cX1_valueOf 7 = .ok (.aload_n 0, 1) := dk_42 (dk_at dksX1_valueOf_0 7 rfl rfl)
theorem dX1_valueOf_8 : decode cX1_valueOf 8 = .ok (.getfield 35, 3) := dk_180 0 35 (dk_at dksX1_valueOf_0 8 rfl rfl)
theorem dX1_valueOf_11 : decode cX1_valueOf 11 = .ok (.iconst 0, 1) := dk_3 (dk_at dksX1_valueOf_0 11 rfl rfl)
theorem dX1_valueOf_12 : decode cX1_valueOf 12 = .ok (.aaload, 1) := dk_50 (dk_at dksX1_valueOf_0 12 rfl rfl)
theorem dX1_valueOf_13 : decode cX1_valueOf 13 = .ok (.areturn, 1) := dk_176 (dk_at dksX1_valueOf_0 13 rfl rfl)
abbrev cX1_rank : ByteArray := prog_1_method_29_code
def yX1_rank : MethodName := ⟨RX1, "rank", "(IZ)I"⟩
def dkwX1_rank_0 : List UInt8 := [42, 27, 182, 0, 248, 28, 182, 1, 3, 172]
abbrev dktX1_rank_0 : List UInt8 := dkwX1_rank_0 ++ []
theorem dksX1_rank_0 : cX1_rank.data.toList.drop 0 = dktX1_rank_0 := by decide +kernel
theorem dX1_rank_0 : decode cX1_rank 0 = .ok (.aload_n 0, 1) := dk_42 (dk_at dksX1_rank_0 0 rfl rfl)
theorem dX1_rank_1 : decode cX1_rank 1 = .ok (.iload_n 1, 1) := dk_27 (dk_at dksX1_rank_0 1 rfl rfl)
theorem dX1_rank_2 : decode cX1_rank 2 = .ok (.invokevirtual 248, 3) := dk_182 0 248 (dk_at dksX1_rank_0 2 rfl rfl)
theorem dX1_rank_5 : decode cX1_rank 5 = .ok (.iload_n 2, 1) := dk_28 (dk_at dksX1_rank_0 5 rfl rfl)
theorem dX1_rank_6 : decode cX1_rank 6 = .ok (.invokevirtual 259, 3) := dk_182 1 3 (dk_at dksX1_rank_0 6 rfl rfl)
theorem dX1_rank_9 : decode cX1_rank 9 = .ok (.ireturn, 1) := dk_172 (dk_at dksX1_rank_0 9 rfl rfl)
abbrev cX1_stays : ByteArray := prog_1_method_30_code
def yX1_stays : MethodName := ⟨RX1, "stays", "(III)Z"⟩
def dkwX1_stays_10 : List UInt8 := [79, 132, 9, 1, 167, 255, 206, 42, 180, 0, 44, 42, 180, 0, 40, 182, 0, 215, 172]
abbrev dktX1_stays_10 : List UInt8 := dkwX1_stays_10 ++ []
def dkwX1_stays_9 : List UInt8 := [180, 0, 19, 180, 0, 141, 42, 180, 0, 44, 180, 0, 160, 21, 9, 46, 133, 21, 8, 133, 105, 182, 0, 163]
abbrev dktX1_stays_9 : List UInt8 := dkwX1_stays_9 ++ dktX1_stays_10
def dkwX1_stays_8 : List UInt8 := [54, 9, 21, 9, 42, 180, 0, 44, 180, 0, 192, 163, 0, 44, 42, 180, 0, 44, 180, 0, 160, 21, 9, 42]
abbrev dktX1_stays_8 : List UInt8 := dkwX1_stays_8 ++ dktX1_stays_9
def dkwX1_stays_7 : List UInt8 := [25, 6, 4, 46, 25, 6, 5, 46, 25, 6, 6, 46, 182, 0, 173, 21, 7, 182, 1, 7, 54, 8, 3]
abbrev dktX1_stays_7 : List UInt8 := dkwX1_stays_7 ++ dktX1_stays_8
def dkwX1_stays_6 : List UInt8 := [46, 25, 6, 6, 46, 42, 180, 0, 44, 182, 0, 211, 42, 180, 0, 19, 180, 0, 141, 42, 25, 6, 3, 46]
abbrev dktX1_stays_6 : List UInt8 := dkwX1_stays_6 ++ dktX1_stays_7
def dkwX1_stays_5 : List UInt8 := [154, 0, 5, 3, 172, 42, 180, 0, 19, 42, 180, 0, 47, 25, 6, 3, 46, 25, 6, 4, 46, 25, 6, 5]
abbrev dktX1_stays_5 : List UInt8 := dkwX1_stays_5 ++ dktX1_stays_6
def dkwX1_stays_4 : List UInt8 := [2, 160, 0, 5, 3, 172, 42, 180, 0, 47, 182, 0, 255, 153, 0, 13, 42, 180, 0, 40, 182, 0, 255]
abbrev dktX1_stays_4 : List UInt8 := dkwX1_stays_4 ++ dktX1_stays_5
def dkwX1_stays_3 : List UInt8 := [180, 0, 47, 42, 25, 4, 25, 5, 182, 0, 251, 182, 0, 223, 25, 4, 4, 182, 1, 3, 54, 7, 21, 7]
abbrev dktX1_stays_3 : List UInt8 := dkwX1_stays_3 ++ dktX1_stays_4
def dkwX1_stays_2 : List UInt8 := [180, 0, 44, 182, 0, 211, 42, 180, 0, 40, 42, 25, 4, 42, 180, 0, 44, 182, 0, 251, 182, 0, 223, 42]
abbrev dktX1_stays_2 : List UInt8 := dkwX1_stays_2 ++ dktX1_stays_3
def dkwX1_stays_1 : List UInt8 := [180, 0, 19, 25, 5, 25, 6, 3, 46, 25, 6, 4, 46, 25, 6, 5, 46, 25, 6, 6, 46, 42]
abbrev dktX1_stays_1 : List UInt8 := dkwX1_stays_1 ++ dktX1_stays_2
def dkwX1_stays_0 : List UInt8 := [42, 27, 182, 0, 248, 58, 4, 42, 28, 182, 0, 195, 58, 5, 42, 29, 182, 0, 207, 58, 6, 42]
abbrev dktX1_stays_0 : List UInt8 := dkwX1_stays_0 ++ dktX1_stays_1
theorem dksX1_stays_0 : cX1_stays.data.toList.drop 0 = dktX1_stays_0 := by decide +kernel
theorem dksX1_stays_1 : cX1_stays.data.toList.drop 22 = dktX1_stays_1 := dk_seg dksX1_stays_0 22 rfl rfl
theorem dksX1_stays_2 : cX1_stays.data.toList.drop 44 = dktX1_stays_2 := dk_seg dksX1_stays_1 22 rfl rfl
theorem dksX1_stays_3 : cX1_stays.data.toList.drop 68 = dktX1_stays_3 := dk_seg dksX1_stays_2 24 rfl rfl
theorem dksX1_stays_4 : cX1_stays.data.toList.drop 92 = dktX1_stays_4 := dk_seg dksX1_stays_3 24 rfl rfl
theorem dksX1_stays_5 : cX1_stays.data.toList.drop 115 = dktX1_stays_5 := dk_seg dksX1_stays_4 23 rfl rfl
theorem dksX1_stays_6 : cX1_stays.data.toList.drop 139 = dktX1_stays_6 := dk_seg dksX1_stays_5 24 rfl rfl
theorem dksX1_stays_7 : cX1_stays.data.toList.drop 163 = dktX1_stays_7 := dk_seg dksX1_stays_6 24 rfl rfl
theorem dksX1_stays_8 : cX1_stays.data.toList.drop 186 = dktX1_stays_8 := dk_seg dksX1_stays_7 23 rfl rfl
theorem dksX1_stays_9 : cX1_stays.data.toList.drop 210 = dktX1_stays_9 := dk_seg dksX1_stays_8 24 rfl rfl
theorem dksX1_stays_10 : cX1_stays.data.toList.drop 234 = dktX1_stays_10 := dk_seg dksX1_stays_9 24 rfl rfl
theorem dX1_stays_0 : decode cX1_stays 0 = .ok (.aload_n 0, 1) := dk_42 (dk_at dksX1_stays_0 0 rfl rfl)
theorem dX1_stays_1 : decode cX1_stays 1 = .ok (.iload_n 1, 1) := dk_27 (dk_at dksX1_stays_0 1 rfl rfl)
theorem dX1_stays_2 : decode cX1_stays 2 = .ok (.invokevirtual 248, 3) := dk_182 0 248 (dk_at dksX1_stays_0 2 rfl rfl)
theorem dX1_stays_5 : decode cX1_stays 5 = .ok (.astore 4, 2) := dk_58 4 (dk_at dksX1_stays_0 5 rfl rfl)
theorem dX1_stays_7 : decode cX1_stays 7 = .ok (.aload_n 0, 1) := dk_42 (dk_at dksX1_stays_0 7 rfl rfl)
theorem dX1_stays_8 : decode cX1_stays 8 = .ok (.iload_n 2, 1) := dk_28 (dk_at dksX1_stays_0 8 rfl rfl)
theorem dX1_stays_9 : decode cX1_stays 9 = .ok (.invokevirtual 195, 3) := dk_182 0 195 (dk_at dksX1_stays_0 9 rfl rfl)
theorem dX1_stays_12 : decode cX1_stays 12 = .ok (.astore 5, 2) := dk_58 5 (dk_at dksX1_stays_0 12 rfl rfl)
theorem dX1_stays_14 : decode cX1_stays 14 = .ok (.aload_n 0, 1) := dk_42 (dk_at dksX1_stays_0 14 rfl rfl)
theorem dX1_stays_15 : decode cX1_stays 15 = .ok (.iload_n 3, 1) := dk_29 (dk_at dksX1_stays_0 15 rfl rfl)
theorem dX1_stays_16 : decode cX1_stays 16 = .ok (.invokevirtual 207, 3) := dk_182 0 207 (dk_at dksX1_stays_0 16 rfl rfl)
theorem dX1_stays_19 : decode cX1_stays 19 = .ok (.astore 6, 2) := dk_58 6 (dk_at dksX1_stays_0 19 rfl rfl)
theorem dX1_stays_21 : decode cX1_stays 21 = .ok (.aload_n 0, 1) := dk_42 (dk_at dksX1_stays_0 21 rfl rfl)
theorem dX1_stays_22 : decode cX1_stays 22 = .ok (.getfield 19, 3) := dk_180 0 19 (dk_at dksX1_stays_1 0 rfl rfl)
theorem dX1_stays_25 : decode cX1_stays 25 = .ok (.aload 5, 2) := dk_25 5 (dk_at dksX1_stays_1 3 rfl rfl)
theorem dX1_stays_27 : decode cX1_stays 27 = .ok (.aload 6, 2) := dk_25 6 (dk_at dksX1_stays_1 5 rfl rfl)
theorem dX1_stays_29 : decode cX1_stays 29 = .ok (.iconst 0, 1) := dk_3 (dk_at dksX1_stays_1 7 rfl rfl)
theorem dX1_stays_30 : decode cX1_stays 30 = .ok (.iaload, 1) := dk_46 (dk_at dksX1_stays_1 8 rfl rfl)
theorem dX1_stays_31 : decode cX1_stays 31 = .ok (.aload 6, 2) := dk_25 6 (dk_at dksX1_stays_1 9 rfl rfl)
theorem dX1_stays_33 : decode cX1_stays 33 = .ok (.iconst 1, 1) := dk_4 (dk_at dksX1_stays_1 11 rfl rfl)
theorem dX1_stays_34 : decode cX1_stays 34 = .ok (.iaload, 1) := dk_46 (dk_at dksX1_stays_1 12 rfl rfl)
theorem dX1_stays_35 : decode cX1_stays 35 = .ok (.aload 6, 2) := dk_25 6 (dk_at dksX1_stays_1 13 rfl rfl)
theorem dX1_stays_37 : decode cX1_stays 37 = .ok (.iconst 2, 1) := dk_5 (dk_at dksX1_stays_1 15 rfl rfl)
theorem dX1_stays_38 : decode cX1_stays 38 = .ok (.iaload, 1) := dk_46 (dk_at dksX1_stays_1 16 rfl rfl)
theorem dX1_stays_39 : decode cX1_stays 39 = .ok (.aload 6, 2) := dk_25 6 (dk_at dksX1_stays_1 17 rfl rfl)
theorem dX1_stays_41 : decode cX1_stays 41 = .ok (.iconst 3, 1) := dk_6 (dk_at dksX1_stays_1 19 rfl rfl)
theorem dX1_stays_42 : decode cX1_stays 42 = .ok (.iaload, 1) := dk_46 (dk_at dksX1_stays_1 20 rfl rfl)
theorem dX1_stays_43 : decode cX1_stays 43 = .ok (.aload_n 0, 1) := dk_42 (dk_at dksX1_stays_1 21 rfl rfl)
theorem dX1_stays_44 : decode cX1_stays 44 = .ok (.getfield 44, 3) := dk_180 0 44 (dk_at dksX1_stays_2 0 rfl rfl)
theorem dX1_stays_47 : decode cX1_stays 47 = .ok (.invokevirtual 211, 3) := dk_182 0 211 (dk_at dksX1_stays_2 3 rfl rfl)
theorem dX1_stays_50 : decode cX1_stays 50 = .ok (.aload_n 0, 1) := dk_42 (dk_at dksX1_stays_2 6 rfl rfl)
theorem dX1_stays_51 : decode cX1_stays 51 = .ok (.getfield 40, 3) := dk_180 0 40 (dk_at dksX1_stays_2 7 rfl rfl)
theorem dX1_stays_54 : decode cX1_stays 54 = .ok (.aload_n 0, 1) := dk_42 (dk_at dksX1_stays_2 10 rfl rfl)
theorem dX1_stays_55 : decode cX1_stays 55 = .ok (.aload 4, 2) := dk_25 4 (dk_at dksX1_stays_2 11 rfl rfl)
theorem dX1_stays_57 : decode cX1_stays 57 = .ok (.aload_n 0, 1) := dk_42 (dk_at dksX1_stays_2 13 rfl rfl)
theorem dX1_stays_58 : decode cX1_stays 58 = .ok (.getfield 44, 3) := dk_180 0 44 (dk_at dksX1_stays_2 14 rfl rfl)
theorem dX1_stays_61 : decode cX1_stays 61 = .ok (.invokevirtual 251, 3) := dk_182 0 251 (dk_at dksX1_stays_2 17 rfl rfl)
theorem dX1_stays_64 : decode cX1_stays 64 = .ok (.invokevirtual 223, 3) := dk_182 0 223 (dk_at dksX1_stays_2 20 rfl rfl)
theorem dX1_stays_67 : decode cX1_stays 67 = .ok (.aload_n 0, 1) := dk_42 (dk_at dksX1_stays_2 23 rfl rfl)
theorem dX1_stays_68 : decode cX1_stays 68 = .ok (.getfield 47, 3) := dk_180 0 47 (dk_at dksX1_stays_3 0 rfl rfl)
theorem dX1_stays_71 : decode cX1_stays 71 = .ok (.aload_n 0, 1) := dk_42 (dk_at dksX1_stays_3 3 rfl rfl)
theorem dX1_stays_72 : decode cX1_stays 72 = .ok (.aload 4, 2) := dk_25 4 (dk_at dksX1_stays_3 4 rfl rfl)
theorem dX1_stays_74 : decode cX1_stays 74 = .ok (.aload 5, 2) := dk_25 5 (dk_at dksX1_stays_3 6 rfl rfl)
theorem dX1_stays_76 : decode cX1_stays 76 = .ok (.invokevirtual 251, 3) := dk_182 0 251 (dk_at dksX1_stays_3 8 rfl rfl)
theorem dX1_stays_79 : decode cX1_stays 79 = .ok (.invokevirtual 223, 3) := dk_182 0 223 (dk_at dksX1_stays_3 11 rfl rfl)
theorem dX1_stays_82 : decode cX1_stays 82 = .ok (.aload 4, 2) := dk_25 4 (dk_at dksX1_stays_3 14 rfl rfl)
theorem dX1_stays_84 : decode cX1_stays 84 = .ok (.iconst 1, 1) := dk_4 (dk_at dksX1_stays_3 16 rfl rfl)
theorem dX1_stays_85 : decode cX1_stays 85 = .ok (.invokevirtual 259, 3) := dk_182 1 3 (dk_at dksX1_stays_3 17 rfl rfl)
theorem dX1_stays_88 : decode cX1_stays 88 = .ok (.istore 7, 2) := dk_54 7 (dk_at dksX1_stays_3 20 rfl rfl)
theorem dX1_stays_90 : decode cX1_stays 90 = .ok (.iload 7, 2) := dk_21 7 (dk_at dksX1_stays_3 22 rfl rfl)
theorem dX1_stays_92 : decode cX1_stays 92 = .ok (.iconst (-1), 1) := dk_2 (dk_at dksX1_stays_4 0 rfl rfl)
theorem dX1_stays_93 : decode cX1_stays 93 = .ok (.if_icmp .ne 5, 3) := dk_160 0 5 (dk_at dksX1_stays_4 1 rfl rfl)
theorem dX1_stays_96 : decode cX1_stays 96 = .ok (.iconst 0, 1) := dk_3 (dk_at dksX1_stays_4 4 rfl rfl)
theorem dX1_stays_97 : decode cX1_stays 97 = .ok (.ireturn, 1) := dk_172 (dk_at dksX1_stays_4 5 rfl rfl)
theorem dX1_stays_98 : decode cX1_stays 98 = .ok (.aload_n 0, 1) := dk_42 (dk_at dksX1_stays_4 6 rfl rfl)
theorem dX1_stays_99 : decode cX1_stays 99 = .ok (.getfield 47, 3) := dk_180 0 47 (dk_at dksX1_stays_4 7 rfl rfl)
theorem dX1_stays_102 : decode cX1_stays 102 = .ok (.invokevirtual 255, 3) := dk_182 0 255 (dk_at dksX1_stays_4 10 rfl rfl)
theorem dX1_stays_105 : decode cX1_stays 105 = .ok (.ifCond .eq 13, 3) := dk_153 0 13 (dk_at dksX1_stays_4 13 rfl rfl)
theorem dX1_stays_108 : decode cX1_stays 108 = .ok (.aload_n 0, 1) := dk_42 (dk_at dksX1_stays_4 16 rfl rfl)
theorem dX1_stays_109 : decode cX1_stays 109 = .ok (.getfield 40, 3) := dk_180 0 40 (dk_at dksX1_stays_4 17 rfl rfl)
theorem dX1_stays_112 : decode cX1_stays 112 = .ok (.invokevirtual 255, 3) := dk_182 0 255 (dk_at dksX1_stays_4 20 rfl rfl)
theorem dX1_stays_115 : decode cX1_stays 115 = .ok (.ifCond .ne 5, 3) := dk_154 0 5 (dk_at dksX1_stays_5 0 rfl rfl)
theorem dX1_stays_118 : decode cX1_stays 118 = .ok (.iconst 0, 1) := dk_3 (dk_at dksX1_stays_5 3 rfl rfl)
theorem dX1_stays_119 : decode cX1_stays 119 = .ok (.ireturn, 1) := dk_172 (dk_at dksX1_stays_5 4 rfl rfl)
theorem dX1_stays_120 : decode cX1_stays 120 = .ok (.aload_n 0, 1) := dk_42 (dk_at dksX1_stays_5 5 rfl rfl)
theorem dX1_stays_121 : decode cX1_stays 121 = .ok (.getfield 19, 3) := dk_180 0 19 (dk_at dksX1_stays_5 6 rfl rfl)
theorem dX1_stays_124 : decode cX1_stays 124 = .ok (.aload_n 0, 1) := dk_42 (dk_at dksX1_stays_5 9 rfl rfl)
theorem dX1_stays_125 : decode cX1_stays 125 = .ok (.getfield 47, 3) := dk_180 0 47 (dk_at dksX1_stays_5 10 rfl rfl)
theorem dX1_stays_128 : decode cX1_stays 128 = .ok (.aload 6, 2) := dk_25 6 (dk_at dksX1_stays_5 13 rfl rfl)
theorem dX1_stays_130 : decode cX1_stays 130 = .ok (.iconst 0, 1) := dk_3 (dk_at dksX1_stays_5 15 rfl rfl)
theorem dX1_stays_131 : decode cX1_stays 131 = .ok (.iaload, 1) := dk_46 (dk_at dksX1_stays_5 16 rfl rfl)
theorem dX1_stays_132 : decode cX1_stays 132 = .ok (.aload 6, 2) := dk_25 6 (dk_at dksX1_stays_5 17 rfl rfl)
theorem dX1_stays_134 : decode cX1_stays 134 = .ok (.iconst 1, 1) := dk_4 (dk_at dksX1_stays_5 19 rfl rfl)
theorem dX1_stays_135 : decode cX1_stays 135 = .ok (.iaload, 1) := dk_46 (dk_at dksX1_stays_5 20 rfl rfl)
theorem dX1_stays_136 : decode cX1_stays 136 = .ok (.aload 6, 2) := dk_25 6 (dk_at dksX1_stays_5 21 rfl rfl)
theorem dX1_stays_138 : decode cX1_stays 138 = .ok (.iconst 2, 1) := dk_5 (dk_at dksX1_stays_5 23 rfl rfl)
theorem dX1_stays_139 : decode cX1_stays 139 = .ok (.iaload, 1) := dk_46 (dk_at dksX1_stays_6 0 rfl rfl)
theorem dX1_stays_140 : decode cX1_stays 140 = .ok (.aload 6, 2) := dk_25 6 (dk_at dksX1_stays_6 1 rfl rfl)
theorem dX1_stays_142 : decode cX1_stays 142 = .ok (.iconst 3, 1) := dk_6 (dk_at dksX1_stays_6 3 rfl rfl)
theorem dX1_stays_143 : decode cX1_stays 143 = .ok (.iaload, 1) := dk_46 (dk_at dksX1_stays_6 4 rfl rfl)
theorem dX1_stays_144 : decode cX1_stays 144 = .ok (.aload_n 0, 1) := dk_42 (dk_at dksX1_stays_6 5 rfl rfl)
theorem dX1_stays_145 : decode cX1_stays 145 = .ok (.getfield 44, 3) := dk_180 0 44 (dk_at dksX1_stays_6 6 rfl rfl)
theorem dX1_stays_148 : decode cX1_stays 148 = .ok (.invokevirtual 211, 3) := dk_182 0 211 (dk_at dksX1_stays_6 9 rfl rfl)
theorem dX1_stays_151 : decode cX1_stays 151 = .ok (.aload_n 0, 1) := dk_42 (dk_at dksX1_stays_6 12 rfl rfl)
theorem dX1_stays_152 : decode cX1_stays 152 = .ok (.getfield 19, 3) := dk_180 0 19 (dk_at dksX1_stays_6 13 rfl rfl)
theorem dX1_stays_155 : decode cX1_stays 155 = .ok (.getfield 141, 3) := dk_180 0 141 (dk_at dksX1_stays_6 16 rfl rfl)
theorem dX1_stays_158 : decode cX1_stays 158 = .ok (.aload_n 0, 1) := dk_42 (dk_at dksX1_stays_6 19 rfl rfl)
theorem dX1_stays_159 : decode cX1_stays 159 = .ok (.aload 6, 2) := dk_25 6 (dk_at dksX1_stays_6 20 rfl rfl)
theorem dX1_stays_161 : decode cX1_stays 161 = .ok (.iconst 0, 1) := dk_3 (dk_at dksX1_stays_6 22 rfl rfl)
theorem dX1_stays_162 : decode cX1_stays 162 = .ok (.iaload, 1) := dk_46 (dk_at dksX1_stays_6 23 rfl rfl)
theorem dX1_stays_163 : decode cX1_stays 163 = .ok (.aload 6, 2) := dk_25 6 (dk_at dksX1_stays_7 0 rfl rfl)
theorem dX1_stays_165 : decode cX1_stays 165 = .ok (.iconst 1, 1) := dk_4 (dk_at dksX1_stays_7 2 rfl rfl)
theorem dX1_stays_166 : decode cX1_stays 166 = .ok (.iaload, 1) := dk_46 (dk_at dksX1_stays_7 3 rfl rfl)
theorem dX1_stays_167 : decode cX1_stays 167 = .ok (.aload 6, 2) := dk_25 6 (dk_at dksX1_stays_7 4 rfl rfl)
theorem dX1_stays_169 : decode cX1_stays 169 = .ok (.iconst 2, 1) := dk_5 (dk_at dksX1_stays_7 6 rfl rfl)
theorem dX1_stays_170 : decode cX1_stays 170 = .ok (.iaload, 1) := dk_46 (dk_at dksX1_stays_7 7 rfl rfl)
theorem dX1_stays_171 : decode cX1_stays 171 = .ok (.aload 6, 2) := dk_25 6 (dk_at dksX1_stays_7 8 rfl rfl)
theorem dX1_stays_173 : decode cX1_stays 173 = .ok (.iconst 3, 1) := dk_6 (dk_at dksX1_stays_7 10 rfl rfl)
theorem dX1_stays_174 : decode cX1_stays 174 = .ok (.iaload, 1) := dk_46 (dk_at dksX1_stays_7 11 rfl rfl)
theorem dX1_stays_175 : decode cX1_stays 175 = .ok (.invokevirtual 173, 3) := dk_182 0 173 (dk_at dksX1_stays_7 12 rfl rfl)
theorem dX1_stays_178 : decode cX1_stays 178 = .ok (.iload 7, 2) := dk_21 7 (dk_at dksX1_stays_7 15 rfl rfl)
theorem dX1_stays_180 : decode cX1_stays 180 = .ok (.invokevirtual 263, 3) := dk_182 1 7 (dk_at dksX1_stays_7 17 rfl rfl)
theorem dX1_stays_183 : decode cX1_stays 183 = .ok (.istore 8, 2) := dk_54 8 (dk_at dksX1_stays_7 20 rfl rfl)
theorem dX1_stays_185 : decode cX1_stays 185 = .ok (.iconst 0, 1) := dk_3 (dk_at dksX1_stays_7 22 rfl rfl)
theorem dX1_stays_186 : decode cX1_stays 186 = .ok (.istore 9, 2) := dk_54 9 (dk_at dksX1_stays_8 0 rfl rfl)
theorem dX1_stays_188 : decode cX1_stays 188 = .ok (.iload 9, 2) := dk_21 9 (dk_at dksX1_stays_8 2 rfl rfl)
theorem dX1_stays_190 : decode cX1_stays 190 = .ok (.aload_n 0, 1) := dk_42 (dk_at dksX1_stays_8 4 rfl rfl)
theorem dX1_stays_191 : decode cX1_stays 191 = .ok (.getfield 44, 3) := dk_180 0 44 (dk_at dksX1_stays_8 5 rfl rfl)
theorem dX1_stays_194 : decode cX1_stays 194 = .ok (.getfield 192, 3) := dk_180 0 192 (dk_at dksX1_stays_8 8 rfl rfl)
theorem dX1_stays_197 : decode cX1_stays 197 = .ok (.if_icmp .gt 44, 3) := dk_163 0 44 (dk_at dksX1_stays_8 11 rfl rfl)
theorem dX1_stays_200 : decode cX1_stays 200 = .ok (.aload_n 0, 1) := dk_42 (dk_at dksX1_stays_8 14 rfl rfl)
theorem dX1_stays_201 : decode cX1_stays 201 = .ok (.getfield 44, 3) := dk_180 0 44 (dk_at dksX1_stays_8 15 rfl rfl)
theorem dX1_stays_204 : decode cX1_stays 204 = .ok (.getfield 160, 3) := dk_180 0 160 (dk_at dksX1_stays_8 18 rfl rfl)
theorem dX1_stays_207 : decode cX1_stays 207 = .ok (.iload 9, 2) := dk_21 9 (dk_at dksX1_stays_8 21 rfl rfl)
theorem dX1_stays_209 : decode cX1_stays 209 = .ok (.aload_n 0, 1) := dk_42 (dk_at dksX1_stays_8 23 rfl rfl)
theorem dX1_stays_210 : decode cX1_stays 210 = .ok (.getfield 19, 3) := dk_180 0 19 (dk_at dksX1_stays_9 0 rfl rfl)
theorem dX1_stays_213 : decode cX1_stays 213 = .ok (.getfield 141, 3) := dk_180 0 141 (dk_at dksX1_stays_9 3 rfl rfl)
theorem dX1_stays_216 : decode cX1_stays 216 = .ok (.aload_n 0, 1) := dk_42 (dk_at dksX1_stays_9 6 rfl rfl)
theorem dX1_stays_217 : decode cX1_stays 217 = .ok (.getfield 44, 3) := dk_180 0 44 (dk_at dksX1_stays_9 7 rfl rfl)
theorem dX1_stays_220 : decode cX1_stays 220 = .ok (.getfield 160, 3) := dk_180 0 160 (dk_at dksX1_stays_9 10 rfl rfl)
theorem dX1_stays_223 : decode cX1_stays 223 = .ok (.iload 9, 2) := dk_21 9 (dk_at dksX1_stays_9 13 rfl rfl)
theorem dX1_stays_225 : decode cX1_stays 225 = .ok (.iaload, 1) := dk_46 (dk_at dksX1_stays_9 15 rfl rfl)
theorem dX1_stays_226 : decode cX1_stays 226 = .ok (.i2l, 1) := dk_133 (dk_at dksX1_stays_9 16 rfl rfl)
theorem dX1_stays_227 : decode cX1_stays 227 = .ok (.iload 8, 2) := dk_21 8 (dk_at dksX1_stays_9 17 rfl rfl)
theorem dX1_stays_229 : decode cX1_stays 229 = .ok (.i2l, 1) := dk_133 (dk_at dksX1_stays_9 19 rfl rfl)
theorem dX1_stays_230 : decode cX1_stays 230 = .ok (.lmul, 1) := dk_105 (dk_at dksX1_stays_9 20 rfl rfl)
theorem dX1_stays_231 : decode cX1_stays 231 = .ok (.invokevirtual 163, 3) := dk_182 0 163 (dk_at dksX1_stays_9 21 rfl rfl)
theorem dX1_stays_234 : decode cX1_stays 234 = .ok (.iastore, 1) := dk_79 (dk_at dksX1_stays_10 0 rfl rfl)
theorem dX1_stays_235 : decode cX1_stays 235 = .ok (.iinc 9 1, 3) := dk_132 9 1 (dk_at dksX1_stays_10 1 rfl rfl)
theorem dX1_stays_238 : decode cX1_stays 238 = .ok (.goto (-50), 3) := dk_167 255 206 (dk_at dksX1_stays_10 4 rfl rfl)
theorem dX1_stays_241 : decode cX1_stays 241 = .ok (.aload_n 0, 1) := dk_42 (dk_at dksX1_stays_10 7 rfl rfl)
theorem dX1_stays_242 : decode cX1_stays 242 = .ok (.getfield 44, 3) := dk_180 0 44 (dk_at dksX1_stays_10 8 rfl rfl)
theorem dX1_stays_245 : decode cX1_stays 245 = .ok (.aload_n 0, 1) := dk_42 (dk_at dksX1_stays_10 11 rfl rfl)
theorem dX1_stays_246 : decode cX1_stays 246 = .ok (.getfield 40, 3) := dk_180 0 40 (dk_at dksX1_stays_10 12 rfl rfl)
theorem dX1_stays_249 : decode cX1_stays 249 = .ok (.invokevirtual 215, 3) := dk_182 0 215 (dk_at dksX1_stays_10 15 rfl rfl)
theorem dX1_stays_252 : decode cX1_stays 252 = .ok (.ireturn, 1) := dk_172 (dk_at dksX1_stays_10 18 rfl rfl)
abbrev cX1_agree : ByteArray := prog_1_method_31_code
def yX1_agree : MethodName := ⟨RX1, "agree", "(III)I"⟩
def dkwX1_agree_5 : List UInt8 := [167, 255, 169, 2, 172]
abbrev dktX1_agree_5 : List UInt8 := dkwX1_agree_5 ++ []
def dkwX1_agree_4 : List UInt8 := [180, 0, 26, 180, 0, 105, 21, 6, 50, 182, 0, 251, 182, 0, 215, 154, 0, 6, 21, 6, 172, 132, 6, 1]
abbrev dktX1_agree_4 : List UInt8 := dkwX1_agree_4 ++ dktX1_agree_5
def dkwX1_agree_3 : List UInt8 := [180, 0, 26, 180, 0, 105, 21, 6, 50, 182, 0, 251, 182, 0, 223, 42, 180, 0, 40, 42, 25, 5, 42]
abbrev dktX1_agree_3 : List UInt8 := dkwX1_agree_3 ++ dktX1_agree_4
def dkwX1_agree_2 : List UInt8 := [180, 0, 105, 21, 6, 50, 180, 0, 192, 29, 159, 0, 6, 167, 0, 55, 42, 180, 0, 40, 42, 25, 4, 42]
abbrev dktX1_agree_2 : List UInt8 := dkwX1_agree_2 ++ dktX1_agree_3
def dkwX1_agree_1 : List UInt8 := [184, 0, 132, 3, 54, 6, 21, 6, 42, 180, 0, 26, 180, 0, 94, 162, 0, 81, 42, 180, 0, 26]
abbrev dktX1_agree_1 : List UInt8 := dkwX1_agree_1 ++ dktX1_agree_2
def dkwX1_agree_0 : List UInt8 := [42, 27, 182, 0, 248, 58, 4, 42, 28, 182, 0, 248, 58, 5, 29, 133, 9, 20, 1, 11, 184, 0, 97]
abbrev dktX1_agree_0 : List UInt8 := dkwX1_agree_0 ++ dktX1_agree_1
theorem dksX1_agree_0 : cX1_agree.data.toList.drop 0 = dktX1_agree_0 := by decide +kernel
theorem dksX1_agree_1 : cX1_agree.data.toList.drop 23 = dktX1_agree_1 := dk_seg dksX1_agree_0 23 rfl rfl
theorem dksX1_agree_2 : cX1_agree.data.toList.drop 45 = dktX1_agree_2 := dk_seg dksX1_agree_1 22 rfl rfl
theorem dksX1_agree_3 : cX1_agree.data.toList.drop 69 = dktX1_agree_3 := dk_seg dksX1_agree_2 24 rfl rfl
theorem dksX1_agree_4 : cX1_agree.data.toList.drop 92 = dktX1_agree_4 := dk_seg dksX1_agree_3 23 rfl rfl
theorem dksX1_agree_5 : cX1_agree.data.toList.drop 116 = dktX1_agree_5 := dk_seg dksX1_agree_4 24 rfl rfl
theorem dX1_agree_0 : decode cX1_agree 0 = .ok (.aload_n 0, 1) := dk_42 (dk_at dksX1_agree_0 0 rfl rfl)
theorem dX1_agree_1 : decode cX1_agree 1 = .ok (.iload_n 1, 1) := dk_27 (dk_at dksX1_agree_0 1 rfl rfl)
theorem dX1_agree_2 : decode cX1_agree 2 = .ok (.invokevirtual 248, 3) := dk_182 0 248 (dk_at dksX1_agree_0 2 rfl rfl)
theorem dX1_agree_5 : decode cX1_agree 5 = .ok (.astore 4, 2) := dk_58 4 (dk_at dksX1_agree_0 5 rfl rfl)
theorem dX1_agree_7 : decode cX1_agree 7 = .ok (.aload_n 0, 1) := dk_42 (dk_at dksX1_agree_0 7 rfl rfl)
theorem dX1_agree_8 : decode cX1_agree 8 = .ok (.iload_n 2, 1) := dk_28 (dk_at dksX1_agree_0 8 rfl rfl)
theorem dX1_agree_9 : decode cX1_agree 9 = .ok (.invokevirtual 248, 3) := dk_182 0 248 (dk_at dksX1_agree_0 9 rfl rfl)
theorem dX1_agree_12 : decode cX1_agree 12 = .ok (.astore 5, 2) := dk_58 5 (dk_at dksX1_agree_0 12 rfl rfl)
theorem dX1_agree_14 : decode cX1_agree 14 = .ok (.iload_n 3, 1) := dk_29 (dk_at dksX1_agree_0 14 rfl rfl)
theorem dX1_agree_15 : decode cX1_agree 15 = .ok (.i2l, 1) := dk_133 (dk_at dksX1_agree_0 15 rfl rfl)
theorem dX1_agree_16 : decode cX1_agree 16 = .ok (.lconst 0, 1) := dk_9 (dk_at dksX1_agree_0 16 rfl rfl)
theorem dX1_agree_17 : decode cX1_agree 17 = .ok (.ldc2_w 267, 3) := dk_20 1 11 (dk_at dksX1_agree_0 17 rfl rfl)
theorem dX1_agree_20 : decode cX1_agree 20 = .ok (.invokestatic 97, 3) := dk_184 0 97 (dk_at dksX1_agree_0 20 rfl rfl)
theorem dX1_agree_23 : decode cX1_agree 23 = .ok (.invokestatic 132, 3) := dk_184 0 132 (dk_at dksX1_agree_1 0 rfl rfl)
theorem dX1_agree_26 : decode cX1_agree 26 = .ok (.iconst 0, 1) := dk_3 (dk_at dksX1_agree_1 3 rfl rfl)
theorem dX1_agree_27 : decode cX1_agree 27 = .ok (.istore 6, 2) := dk_54 6 (dk_at dksX1_agree_1 4 rfl rfl)
theorem dX1_agree_29 : decode cX1_agree 29 = .ok (.iload 6, 2) := dk_21 6 (dk_at dksX1_agree_1 6 rfl rfl)
theorem dX1_agree_31 : decode cX1_agree 31 = .ok (.aload_n 0, 1) := dk_42 (dk_at dksX1_agree_1 8 rfl rfl)
theorem dX1_agree_32 : decode cX1_agree 32 = .ok (.getfield 26, 3) := dk_180 0 26 (dk_at dksX1_agree_1 9 rfl rfl)
theorem dX1_agree_35 : decode cX1_agree 35 = .ok (.getfield 94, 3) := dk_180 0 94 (dk_at dksX1_agree_1 12 rfl rfl)
theorem dX1_agree_38 : decode cX1_agree 38 = .ok (.if_icmp .ge 81, 3) := dk_162 0 81 (dk_at dksX1_agree_1 15 rfl rfl)
theorem dX1_agree_41 : decode cX1_agree 41 = .ok (.aload_n 0, 1) := dk_42 (dk_at dksX1_agree_1 18 rfl rfl)
theorem dX1_agree_42 : decode cX1_agree 42 = .ok (.getfield 26, 3) := dk_180 0 26 (dk_at dksX1_agree_1 19 rfl rfl)
theorem dX1_agree_45 : decode cX1_agree 45 = .ok (.getfield 105, 3) := dk_180 0 105 (dk_at dksX1_agree_2 0 rfl rfl)
theorem dX1_agree_48 : decode cX1_agree 48 = .ok (.iload 6, 2) := dk_21 6 (dk_at dksX1_agree_2 3 rfl rfl)
theorem dX1_agree_50 : decode cX1_agree 50 = .ok (.aaload, 1) := dk_50 (dk_at dksX1_agree_2 5 rfl rfl)
theorem dX1_agree_51 : decode cX1_agree 51 = .ok (.getfield 192, 3) := dk_180 0 192 (dk_at dksX1_agree_2 6 rfl rfl)
theorem dX1_agree_54 : decode cX1_agree 54 = .ok (.iload_n 3, 1) := dk_29 (dk_at dksX1_agree_2 9 rfl rfl)
theorem dX1_agree_55 : decode cX1_agree 55 = .ok (.if_icmp .eq 6, 3) := dk_159 0 6 (dk_at dksX1_agree_2 10 rfl rfl)
theorem dX1_agree_58 : decode cX1_agree 58 = .ok (.goto 55, 3) := dk_167 0 55 (dk_at dksX1_agree_2 13 rfl rfl)
theorem dX1_agree_61 : decode cX1_agree 61 = .ok (.aload_n 0, 1) := dk_42 (dk_at dksX1_agree_2 16 rfl rfl)
theorem dX1_agree_62 : decode cX1_agree 62 = .ok (.getfield 40, 3) := dk_180 0 40 (dk_at dksX1_agree_2 17 rfl rfl)
theorem dX1_agree_65 : decode cX1_agree 65 = .ok (.aload_n 0, 1) := dk_42 (dk_at dksX1_agree_2 20 rfl rfl)
theorem dX1_agree_66 : decode cX1_agree 66 = .ok (.aload 4, 2) := dk_25 4 (dk_at dksX1_agree_2 21 rfl rfl)
theorem dX1_agree_68 : decode cX1_agree 68 = .ok (.aload_n 0, 1) := dk_42 (dk_at dksX1_agree_2 23 rfl rfl)
theorem dX1_agree_69 : decode cX1_agree 69 = .ok (.getfield 26, 3) := dk_180 0 26 (dk_at dksX1_agree_3 0 rfl rfl)
theorem dX1_agree_72 : decode cX1_agree 72 = .ok (.getfield 105, 3) := dk_180 0 105 (dk_at dksX1_agree_3 3 rfl rfl)
theorem dX1_agree_75 : decode cX1_agree 75 = .ok (.iload 6, 2) := dk_21 6 (dk_at dksX1_agree_3 6 rfl rfl)
theorem dX1_agree_77 : decode cX1_agree 77 = .ok (.aaload, 1) := dk_50 (dk_at dksX1_agree_3 8 rfl rfl)
theorem dX1_agree_78 : decode cX1_agree 78 = .ok (.invokevirtual 251, 3) := dk_182 0 251 (dk_at dksX1_agree_3 9 rfl rfl)
theorem dX1_agree_81 : decode cX1_agree 81 = .ok (.invokevirtual 223, 3) := dk_182 0 223 (dk_at dksX1_agree_3 12 rfl rfl)
theorem dX1_agree_84 : decode cX1_agree 84 = .ok (.aload_n 0, 1) := dk_42 (dk_at dksX1_agree_3 15 rfl rfl)
theorem dX1_agree_85 : decode cX1_agree 85 = .ok (.getfield 40, 3) := dk_180 0 40 (dk_at dksX1_agree_3 16 rfl rfl)
theorem dX1_agree_88 : decode cX1_agree 88 = .ok (.aload_n 0, 1) := dk_42 (dk_at dksX1_agree_3 19 rfl rfl)
theorem dX1_agree_89 : decode cX1_agree 89 = .ok (.aload 5, 2) := dk_25 5 (dk_at dksX1_agree_3 20 rfl rfl)
theorem dX1_agree_91 : decode cX1_agree 91 = .ok (.aload_n 0, 1) := dk_42 (dk_at dksX1_agree_3 22 rfl rfl)
theorem dX1_agree_92 : decode cX1_agree 92 = .ok (.getfield 26, 3) := dk_180 0 26 (dk_at dksX1_agree_4 0 rfl rfl)
theorem dX1_agree_95 : decode cX1_agree 95 = .ok (.getfield 105, 3) := dk_180 0 105 (dk_at dksX1_agree_4 3 rfl rfl)
theorem dX1_agree_98 : decode cX1_agree 98 = .ok (.iload 6, 2) := dk_21 6 (dk_at dksX1_agree_4 6 rfl rfl)
theorem dX1_agree_100 : decode cX1_agree 100 = .ok (.aaload, 1) := dk_50 (dk_at dksX1_agree_4 8 rfl rfl)
theorem dX1_agree_101 : decode cX1_agree 101 = .ok (.invokevirtual 251, 3) := dk_182 0 251 (dk_at dksX1_agree_4 9 rfl rfl)
theorem dX1_agree_104 : decode cX1_agree 104 = .ok (.invokevirtual 215, 3) := dk_182 0 215 (dk_at dksX1_agree_4 12 rfl rfl)
theorem dX1_agree_107 : decode cX1_agree 107 = .ok (.ifCond .ne 6, 3) := dk_154 0 6 (dk_at dksX1_agree_4 15 rfl rfl)
theorem dX1_agree_110 : decode cX1_agree 110 = .ok (.iload 6, 2) := dk_21 6 (dk_at dksX1_agree_4 18 rfl rfl)
theorem dX1_agree_112 : decode cX1_agree 112 = .ok (.ireturn, 1) := dk_172 (dk_at dksX1_agree_4 20 rfl rfl)
theorem dX1_agree_113 : decode cX1_agree 113 = .ok (.iinc 6 1, 3) := dk_132 6 1 (dk_at dksX1_agree_4 21 rfl rfl)
theorem dX1_agree_116 : decode cX1_agree 116 = .ok (.goto (-87), 3) := dk_167 255 169 (dk_at dksX1_agree_5 0 rfl rfl)
theorem dX1_agree_119 : decode cX1_agree 119 = .ok (.iconst (-1), 1) := dk_2 (dk_at dksX1_agree_5 3 rfl rfl)
theorem dX1_agree_120 : decode cX1_agree 120 = .ok (.ireturn, 1) := dk_172 (dk_at dksX1_agree_5 4 rfl rfl)
abbrev cX1_count : ByteArray := prog_1_method_33_code
def yX1_count : MethodName := ⟨RX1, "count", "(III)J"⟩
def dkwX1_count_3 : List UInt8 := [182, 1, 13, 42, 21, 4, 5, 108, 4, 100, 27, 28, 182, 1, 13, 101, 173]
abbrev dktX1_count_3 : List UInt8 := dkwX1_count_3 ++ []
def dkwX1_count_2 : List UInt8 := [100, 54, 4, 21, 4, 155, 0, 10, 21, 4, 5, 112, 153, 0, 5, 9, 173, 42, 21, 4, 5, 108, 27, 28]
abbrev dktX1_count_2 : List UInt8 := dkwX1_count_2 ++ dktX1_count_3
def dkwX1_count_1 : List UInt8 := [29, 133, 9, 20, 1, 19, 184, 0, 97, 153, 0, 7, 4, 167, 0, 4, 3, 184, 0, 132, 28, 27, 104, 29]
abbrev dktX1_count_1 : List UInt8 := dkwX1_count_1 ++ dktX1_count_2
def dkwX1_count_0 : List UInt8 := [27, 133, 9, 20, 1, 17, 184, 0, 97, 153, 0, 31, 28, 133, 10, 20, 1, 11, 184, 0, 97, 153, 0, 19]
abbrev dktX1_count_0 : List UInt8 := dkwX1_count_0 ++ dktX1_count_1
theorem dksX1_count_0 : cX1_count.data.toList.drop 0 = dktX1_count_0 := by decide +kernel
theorem dksX1_count_1 : cX1_count.data.toList.drop 24 = dktX1_count_1 := dk_seg dksX1_count_0 24 rfl rfl
theorem dksX1_count_2 : cX1_count.data.toList.drop 48 = dktX1_count_2 := dk_seg dksX1_count_1 24 rfl rfl
theorem dksX1_count_3 : cX1_count.data.toList.drop 72 = dktX1_count_3 := dk_seg dksX1_count_2 24 rfl rfl
theorem dX1_count_0 : decode cX1_count 0 = .ok (.iload_n 1, 1) := dk_27 (dk_at dksX1_count_0 0 rfl rfl)
theorem dX1_count_1 : decode cX1_count 1 = .ok (.i2l, 1) := dk_133 (dk_at dksX1_count_0 1 rfl rfl)
theorem dX1_count_2 : decode cX1_count 2 = .ok (.lconst 0, 1) := dk_9 (dk_at dksX1_count_0 2 rfl rfl)
theorem dX1_count_3 : decode cX1_count 3 = .ok (.ldc2_w 273, 3) := dk_20 1 17 (dk_at dksX1_count_0 3 rfl rfl)
theorem dX1_count_6 : decode cX1_count 6 = .ok (.invokestatic 97, 3) := dk_184 0 97 (dk_at dksX1_count_0 6 rfl rfl)
theorem dX1_count_9 : decode cX1_count 9 = .ok (.ifCond .eq 31, 3) := dk_153 0 31 (dk_at dksX1_count_0 9 rfl rfl)
theorem dX1_count_12 : decode cX1_count 12 = .ok (.iload_n 2, 1) := dk_28 (dk_at dksX1_count_0 12 rfl rfl)
theorem dX1_count_13 : decode cX1_count 13 = .ok (.i2l, 1) := dk_133 (dk_at dksX1_count_0 13 rfl rfl)
theorem dX1_count_14 : decode cX1_count 14 = .ok (.lconst 1, 1) := dk_10 (dk_at dksX1_count_0 14 rfl rfl)
theorem dX1_count_15 : decode cX1_count 15 = .ok (.ldc2_w 267, 3) := dk_20 1 11 (dk_at dksX1_count_0 15 rfl rfl)
theorem dX1_count_18 : decode cX1_count 18 = .ok (.invokestatic 97, 3) := dk_184 0 97 (dk_at dksX1_count_0 18 rfl rfl)
theorem dX1_count_21 : decode cX1_count 21 = .ok (.ifCond .eq 19, 3) := dk_153 0 19 (dk_at dksX1_count_0 21 rfl rfl)
theorem dX1_count_24 : decode cX1_count 24 = .ok (.iload_n 3, 1) := dk_29 (dk_at dksX1_count_1 0 rfl rfl)
theorem dX1_count_25 : decode cX1_count 25 = .ok (.i2l, 1) := dk_133 (dk_at dksX1_count_1 1 rfl rfl)
theorem dX1_count_26 : decode cX1_count 26 = .ok (.lconst 0, 1) := dk_9 (dk_at dksX1_count_1 2 rfl rfl)
theorem dX1_count_27 : decode cX1_count 27 = .ok (.ldc2_w 275, 3) := dk_20 1 19 (dk_at dksX1_count_1 3 rfl rfl)
theorem dX1_count_30 : decode cX1_count 30 = .ok (.invokestatic 97, 3) := dk_184 0 97 (dk_at dksX1_count_1 6 rfl rfl)
theorem dX1_count_33 : decode cX1_count 33 = .ok (.ifCond .eq 7, 3) := dk_153 0 7 (dk_at dksX1_count_1 9 rfl rfl)
theorem dX1_count_36 : decode cX1_count 36 = .ok (.iconst 1, 1) := dk_4 (dk_at dksX1_count_1 12 rfl rfl)
theorem dX1_count_37 : decode cX1_count 37 = .ok (.goto 4, 3) := dk_167 0 4 (dk_at dksX1_count_1 13 rfl rfl)
theorem dX1_count_40 : decode cX1_count 40 = .ok (.iconst 0, 1) := dk_3 (dk_at dksX1_count_1 16 rfl rfl)
theorem dX1_count_41 : decode cX1_count 41 = .ok (.invokestatic 132, 3) := dk_184 0 132 (dk_at dksX1_count_1 17 rfl rfl)
theorem dX1_count_44 : decode cX1_count 44 = .ok (.iload_n 2, 1) := dk_28 (dk_at dksX1_count_1 20 rfl rfl)
theorem dX1_count_45 : decode cX1_count 45 = .ok (.iload_n 1, 1) := dk_27 (dk_at dksX1_count_1 21 rfl rfl)
theorem dX1_count_46 : decode cX1_count 46 = .ok (.imul, 1) := dk_104 (dk_at dksX1_count_1 22 rfl rfl)
theorem dX1_count_47 : decode cX1_count 47 = .ok (.iload_n 3, 1) := dk_29 (dk_at dksX1_count_1 23 rfl rfl)
theorem dX1_count_48 : decode cX1_count 48 = .ok (.isub, 1) := dk_100 (dk_at dksX1_count_2 0 rfl rfl)
theorem dX1_count_49 : decode cX1_count 49 = .ok (.istore 4, 2) := dk_54 4 (dk_at dksX1_count_2 1 rfl rfl)
theorem dX1_count_51 : decode cX1_count 51 = .ok (.iload 4, 2) := dk_21 4 (dk_at dksX1_count_2 3 rfl rfl)
theorem dX1_count_53 : decode cX1_count 53 = .ok (.ifCond .lt 10, 3) := dk_155 0 10 (dk_at dksX1_count_2 5 rfl rfl)
theorem dX1_count_56 : decode cX1_count 56 = .ok (.iload 4, 2) := dk_21 4 (dk_at dksX1_count_2 8 rfl rfl)
theorem dX1_count_58 : decode cX1_count 58 = .ok (.iconst 2, 1) := dk_5 (dk_at dksX1_count_2 10 rfl rfl)
theorem dX1_count_59 : decode cX1_count 59 = .ok (.irem, 1) := dk_112 (dk_at dksX1_count_2 11 rfl rfl)
theorem dX1_count_60 : decode cX1_count 60 = .ok (.ifCond .eq 5, 3) := dk_153 0 5 (dk_at dksX1_count_2 12 rfl rfl)
theorem dX1_count_63 : decode cX1_count 63 = .ok (.lconst 0, 1) := dk_9 (dk_at dksX1_count_2 15 rfl rfl)
theorem dX1_count_64 : decode cX1_count 64 = .ok (.lreturn, 1) := dk_173 (dk_at dksX1_count_2 16 rfl rfl)
theorem dX1_count_65 : decode cX1_count 65 = .ok (.aload_n 0, 1) := dk_42 (dk_at dksX1_count_2 17 rfl rfl)
theorem dX1_count_66 : decode cX1_count 66 = .ok (.iload 4, 2) := dk_21 4 (dk_at dksX1_count_2 18 rfl rfl)
theorem dX1_count_68 : decode cX1_count 68 = .ok (.iconst 2, 1) := dk_5 (dk_at dksX1_count_2 20 rfl rfl)
theorem dX1_count_69 : decode cX1_count 69 = .ok (.idiv, 1) := dk_108 (dk_at dksX1_count_2 21 rfl rfl)
theorem dX1_count_70 : decode cX1_count 70 = .ok (.iload_n 1, 1) := dk_27 (dk_at dksX1_count_2 22 rfl rfl)
theorem dX1_count_71 : decode cX1_count 71 = .ok (.iload_n 2, 1) := dk_28 (dk_at dksX1_count_2 23 rfl rfl)
theorem dX1_count_72 : decode cX1_count 72 = .ok (.invokevirtual 269, 3) := dk_182 1 13 (dk_at dksX1_count_3 0 rfl rfl)
theorem dX1_count_75 : decode cX1_count 75 = .ok (.aload_n 0, 1) := dk_42 (dk_at dksX1_count_3 3 rfl rfl)
theorem dX1_count_76 : decode cX1_count 76 = .ok (.iload 4, 2) := dk_21 4 (dk_at dksX1_count_3 4 rfl rfl)
theorem dX1_count_78 : decode cX1_count 78 = .ok (.iconst 2, 1) := dk_5 (dk_at dksX1_count_3 6 rfl rfl)
theorem dX1_count_79 : decode cX1_count 79 = .ok (.idiv, 1) := dk_108 (dk_at dksX1_count_3 7 rfl rfl)
theorem dX1_count_80 : decode cX1_count 80 = .ok (.iconst 1, 1) := dk_4 (dk_at dksX1_count_3 8 rfl rfl)
theorem dX1_count_81 : decode cX1_count 81 = .ok (.isub, 1) := dk_100 (dk_at dksX1_count_3 9 rfl rfl)
theorem dX1_count_82 : decode cX1_count 82 = .ok (.iload_n 1, 1) := dk_27 (dk_at dksX1_count_3 10 rfl rfl)
theorem dX1_count_83 : decode cX1_count 83 = .ok (.iload_n 2, 1) := dk_28 (dk_at dksX1_count_3 11 rfl rfl)
theorem dX1_count_84 : decode cX1_count 84 = .ok (.invokevirtual 269, 3) := dk_182 1 13 (dk_at dksX1_count_3 12 rfl rfl)
theorem dX1_count_87 : decode cX1_count 87 = .ok (.lsub, 1) := dk_101 (dk_at dksX1_count_3 15 rfl rfl)
theorem dX1_count_88 : decode cX1_count 88 = .ok (.lreturn, 1) := dk_173 (dk_at dksX1_count_3 16 rfl rfl)
abbrev cX1_sums : ByteArray := prog_1_method_32_code
def yX1_sums : MethodName := ⟨RX1, "sums", "(III)J"⟩
def dkwX1_sums_1 : List UInt8 := [42, 27, 28, 29, 4, 100, 182, 1, 13, 42, 27, 29, 100, 28, 4, 100, 29, 182, 1, 13, 97, 173]
abbrev dktX1_sums_1 : List UInt8 := dkwX1_sums_1 ++ []
def dkwX1_sums_0 : List UInt8 := [27, 156, 0, 5, 9, 173, 28, 153, 0, 7, 29, 154, 0, 13, 27, 154, 0, 7, 10, 167, 0, 4, 9, 173]
abbrev dktX1_sums_0 : List UInt8 := dkwX1_sums_0 ++ dktX1_sums_1
theorem dksX1_sums_0 : cX1_sums.data.toList.drop 0 = dktX1_sums_0 := by decide +kernel
theorem dksX1_sums_1 : cX1_sums.data.toList.drop 24 = dktX1_sums_1 := dk_seg dksX1_sums_0 24 rfl rfl
theorem dX1_sums_0 : decode cX1_sums 0 = .ok (.iload_n 1, 1) := dk_27 (dk_at dksX1_sums_0 0 rfl rfl)
theorem dX1_sums_1 : decode cX1_sums 1 = .ok (.ifCond .ge 5, 3) := dk_156 0 5 (dk_at dksX1_sums_0 1 rfl rfl)
theorem dX1_sums_4 : decode cX1_sums 4 = .ok (.lconst 0, 1) := dk_9 (dk_at dksX1_sums_0 4 rfl rfl)
theorem dX1_sums_5 : decode cX1_sums 5 = .ok (.lreturn, 1) := dk_173 (dk_at dksX1_sums_0 5 rfl rfl)
theorem dX1_sums_6 : decode cX1_sums 6 = .ok (.iload_n 2, 1) := dk_28 (dk_at dksX1_sums_0 6 rfl rfl)
theorem dX1_sums_7 : decode cX1_sums 7 = .ok (.ifCond .eq 7, 3) := dk_153 0 7 (dk_at dksX1_sums_0 7 rfl rfl)
theorem dX1_sums_10 : decode cX1_sums 10 = .ok (.iload_n 3, 1) := dk_29 (dk_at dksX1_sums_0 10 rfl rfl)
theorem dX1_sums_11 : decode cX1_sums 11 = .ok (.ifCond .ne 13, 3) := dk_154 0 13 (dk_at dksX1_sums_0 11 rfl rfl)
theorem dX1_sums_14 : decode cX1_sums 14 = .ok (.iload_n 1, 1) := dk_27 (dk_at dksX1_sums_0 14 rfl rfl)
theorem dX1_sums_15 : decode cX1_sums 15 = .ok (.ifCond .ne 7, 3) := dk_154 0 7 (dk_at dksX1_sums_0 15 rfl rfl)
theorem dX1_sums_18 : decode cX1_sums 18 = .ok (.lconst 1, 1) := dk_10 (dk_at dksX1_sums_0 18 rfl rfl)
theorem dX1_sums_19 : decode cX1_sums 19 = .ok (.goto 4, 3) := dk_167 0 4 (dk_at dksX1_sums_0 19 rfl rfl)
theorem dX1_sums_22 : decode cX1_sums 22 = .ok (.lconst 0, 1) := dk_9 (dk_at dksX1_sums_0 22 rfl rfl)
theorem dX1_sums_23 : decode cX1_sums 23 = .ok (.lreturn, 1) := dk_173 (dk_at dksX1_sums_0 23 rfl rfl)
theorem dX1_sums_24 : decode cX1_sums 24 = .ok (.aload_n 0, 1) := dk_42 (dk_at dksX1_sums_1 0 rfl rfl)
theorem dX1_sums_25 : decode cX1_sums 25 = .ok (.iload_n 1, 1) := dk_27 (dk_at dksX1_sums_1 1 rfl rfl)
theorem dX1_sums_26 : decode cX1_sums 26 = .ok (.iload_n 2, 1) := dk_28 (dk_at dksX1_sums_1 2 rfl rfl)
theorem dX1_sums_27 : decode cX1_sums 27 = .ok (.iload_n 3, 1) := dk_29 (dk_at dksX1_sums_1 3 rfl rfl)
theorem dX1_sums_28 : decode cX1_sums 28 = .ok (.iconst 1, 1) := dk_4 (dk_at dksX1_sums_1 4 rfl rfl)
theorem dX1_sums_29 : decode cX1_sums 29 = .ok (.isub, 1) := dk_100 (dk_at dksX1_sums_1 5 rfl rfl)
theorem dX1_sums_30 : decode cX1_sums 30 = .ok (.invokevirtual 269, 3) := dk_182 1 13 (dk_at dksX1_sums_1 6 rfl rfl)
theorem dX1_sums_33 : decode cX1_sums 33 = .ok (.aload_n 0, 1) := dk_42 (dk_at dksX1_sums_1 9 rfl rfl)
theorem dX1_sums_34 : decode cX1_sums 34 = .ok (.iload_n 1, 1) := dk_27 (dk_at dksX1_sums_1 10 rfl rfl)
theorem dX1_sums_35 : decode cX1_sums 35 = .ok (.iload_n 3, 1) := dk_29 (dk_at dksX1_sums_1 11 rfl rfl)
theorem dX1_sums_36 : decode cX1_sums 36 = .ok (.isub, 1) := dk_100 (dk_at dksX1_sums_1 12 rfl rfl)
theorem dX1_sums_37 : decode cX1_sums 37 = .ok (.iload_n 2, 1) := dk_28 (dk_at dksX1_sums_1 13 rfl rfl)
theorem dX1_sums_38 : decode cX1_sums 38 = .ok (.iconst 1, 1) := dk_4 (dk_at dksX1_sums_1 14 rfl rfl)
theorem dX1_sums_39 : decode cX1_sums 39 = .ok (.isub, 1) := dk_100 (dk_at dksX1_sums_1 15 rfl rfl)
theorem dX1_sums_40 : decode cX1_sums 40 = .ok (.iload_n 3, 1) := dk_29 (dk_at dksX1_sums_1 16 rfl rfl)
theorem dX1_sums_41 : decode cX1_sums 41 = .ok (.invokevirtual 269, 3) := dk_182 1 13 (dk_at dksX1_sums_1 17 rfl rfl)
theorem dX1_sums_44 : decode cX1_sums 44 = .ok (.ladd, 1) := dk_97 (dk_at dksX1_sums_1 20 rfl rfl)
theorem dX1_sums_45 : decode cX1_sums 45 = .ok (.lreturn, 1) := dk_173 (dk_at dksX1_sums_1 21 rfl rfl)
abbrev cX1_span : ByteArray := prog_1_method_34_code
def yX1_span : MethodName := ⟨RX1, "span", "(III)I"⟩
def dkwX1_span_0 : List UInt8 := [28, 133, 10, 20, 1, 11, 184, 0, 97, 184, 0, 132, 42, 27, 28, 29, 182, 1, 21, 172]
abbrev dktX1_span_0 : List UInt8 := dkwX1_span_0 ++ []
theorem dksX1_span_0 : cX1_span.data.toList.drop 0 = dktX1_span_0 := by decide +kernel
theorem dX1_span_0 : decode cX1_span 0 = .ok (.iload_n 2, 1) := dk_28 (dk_at dksX1_span_0 0 rfl rfl)
theorem dX1_span_1 : decode cX1_span 1 = .ok (.i2l, 1) := dk_133 (dk_at dksX1_span_0 1 rfl rfl)
theorem dX1_span_2 : decode cX1_span 2 = .ok (.lconst 1, 1) := dk_10 (dk_at dksX1_span_0 2 rfl rfl)
theorem dX1_span_3 : decode cX1_span 3 = .ok (.ldc2_w 267, 3) := dk_20 1 11 (dk_at dksX1_span_0 3 rfl rfl)
theorem dX1_span_6 : decode cX1_span 6 = .ok (.invokestatic 97, 3) := dk_184 0 97 (dk_at dksX1_span_0 6 rfl rfl)
theorem dX1_span_9 : decode cX1_span 9 = .ok (.invokestatic 132, 3) := dk_184 0 132 (dk_at dksX1_span_0 9 rfl rfl)
theorem dX1_span_12 : decode cX1_span 12 = .ok (.aload_n 0, 1) := dk_42 (dk_at dksX1_span_0 12 rfl rfl)
theorem dX1_span_13 : decode cX1_span 13 = .ok (.iload_n 1, 1) := dk_27 (dk_at dksX1_span_0 13 rfl rfl)
theorem dX1_span_14 : decode cX1_span 14 = .ok (.iload_n 2, 1) := dk_28 (dk_at dksX1_span_0 14 rfl rfl)
theorem dX1_span_15 : decode cX1_span 15 = .ok (.iload_n 3, 1) := dk_29 (dk_at dksX1_span_0 15 rfl rfl)
theorem dX1_span_16 : decode cX1_span 16 = .ok (.invokevirtual 277, 3) := dk_182 1 21 (dk_at dksX1_span_0 16 rfl rfl)
theorem dX1_span_19 : decode cX1_span 19 = .ok (.ireturn, 1) := dk_172 (dk_at dksX1_span_0 19 rfl rfl)
abbrev cX1_spans : ByteArray := prog_1_method_36_code
def yX1_spans : MethodName := ⟨RX1, "spans", "(III)I"⟩
def dkwX1_spans_10 : List UInt8 := [182, 1, 26, 172]
abbrev dktX1_spans_10 : List UInt8 := dkwX1_spans_10 ++ []
def dkwX1_spans_9 : List UInt8 := [167, 255, 86, 132, 4, 1, 132, 6, 1, 167, 255, 47, 42, 21, 4, 16, 12, 21, 5, 4, 96, 104]
abbrev dktX1_spans_9 : List UInt8 := dkwX1_spans_9 ++ dktX1_spans_10
def dkwX1_spans_8 : List UInt8 := [21, 8, 104, 21, 10, 96, 25, 9, 180, 0, 160, 21, 10, 46, 79, 132, 10, 1, 167, 255, 220, 132, 8, 1]
abbrev dktX1_spans_8 : List UInt8 := dkwX1_spans_8 ++ dktX1_spans_9
def dkwX1_spans_7 : List UInt8 := [54, 5, 3, 54, 10, 21, 10, 21, 5, 163, 0, 35, 42, 180, 0, 55, 21, 4, 50, 21, 5, 4, 96]
abbrev dktX1_spans_7 : List UInt8 := dkwX1_spans_7 ++ dktX1_spans_8
def dkwX1_spans_6 : List UInt8 := [21, 5, 2, 159, 0, 15, 25, 9, 180, 0, 192, 21, 5, 159, 0, 5, 2, 172, 25, 9, 180, 0, 192]
abbrev dktX1_spans_6 : List UInt8 := dkwX1_spans_6 ++ dktX1_spans_7
def dkwX1_spans_5 : List UInt8 := [180, 0, 117, 21, 6, 50, 42, 180, 0, 50, 182, 0, 251, 58, 9, 25, 9, 182, 0, 255, 153, 0, 19]
abbrev dktX1_spans_5 : List UInt8 := dkwX1_spans_5 ++ dktX1_spans_6
def dkwX1_spans_4 : List UInt8 := [42, 180, 0, 19, 180, 0, 141, 180, 0, 145, 112, 79, 132, 9, 1, 167, 255, 205, 42, 42, 180, 0, 26]
abbrev dktX1_spans_4 : List UInt8 := dkwX1_spans_4 ++ dktX1_spans_5
def dkwX1_spans_3 : List UInt8 := [17, 48, 57, 96, 54, 7, 42, 180, 0, 50, 180, 0, 160, 21, 9, 21, 7, 16, 16, 124, 17, 127, 255, 126]
abbrev dktX1_spans_3 : List UInt8 := dkwX1_spans_3 ++ dktX1_spans_4
def dkwX1_spans_2 : List UInt8 := [180, 0, 50, 28, 182, 0, 157, 3, 54, 9, 21, 9, 28, 163, 0, 51, 19, 1, 25, 21, 7, 104]
abbrev dktX1_spans_2 : List UInt8 := dkwX1_spans_2 ++ dktX1_spans_3
def dkwX1_spans_1 : List UInt8 := [122, 4, 126, 154, 0, 6, 167, 0, 185, 29, 54, 7, 3, 54, 8, 21, 8, 16, 12, 162, 0, 169, 42]
abbrev dktX1_spans_1 : List UInt8 := dkwX1_spans_1 ++ dktX1_spans_2
def dkwX1_spans_0 : List UInt8 := [3, 54, 4, 2, 54, 5, 3, 54, 6, 21, 6, 42, 180, 0, 26, 180, 0, 114, 162, 0, 203, 27, 21, 6]
abbrev dktX1_spans_0 : List UInt8 := dkwX1_spans_0 ++ dktX1_spans_1
theorem dksX1_spans_0 : cX1_spans.data.toList.drop 0 = dktX1_spans_0 := by decide +kernel
theorem dksX1_spans_1 : cX1_spans.data.toList.drop 24 = dktX1_spans_1 := dk_seg dksX1_spans_0 24 rfl rfl
theorem dksX1_spans_2 : cX1_spans.data.toList.drop 47 = dktX1_spans_2 := dk_seg dksX1_spans_1 23 rfl rfl
theorem dksX1_spans_3 : cX1_spans.data.toList.drop 69 = dktX1_spans_3 := dk_seg dksX1_spans_2 22 rfl rfl
theorem dksX1_spans_4 : cX1_spans.data.toList.drop 93 = dktX1_spans_4 := dk_seg dksX1_spans_3 24 rfl rfl
theorem dksX1_spans_5 : cX1_spans.data.toList.drop 116 = dktX1_spans_5 := dk_seg dksX1_spans_4 23 rfl rfl
theorem dksX1_spans_6 : cX1_spans.data.toList.drop 139 = dktX1_spans_6 := dk_seg dksX1_spans_5 23 rfl rfl
theorem dksX1_spans_7 : cX1_spans.data.toList.drop 162 = dktX1_spans_7 := dk_seg dksX1_spans_6 23 rfl rfl
theorem dksX1_spans_8 : cX1_spans.data.toList.drop 185 = dktX1_spans_8 := dk_seg dksX1_spans_7 23 rfl rfl
theorem dksX1_spans_9 : cX1_spans.data.toList.drop 209 = dktX1_spans_9 := dk_seg dksX1_spans_8 24 rfl rfl
theorem dksX1_spans_10 : cX1_spans.data.toList.drop 231 = dktX1_spans_10 := dk_seg dksX1_spans_9 22 rfl rfl
theorem dX1_spans_0 : decode cX1_spans 0 = .ok (.iconst 0, 1) := dk_3 (dk_at dksX1_spans_0 0 rfl rfl)
theorem dX1_spans_1 : decode cX1_spans 1 = .ok (.istore 4, 2) := dk_54 4 (dk_at dksX1_spans_0 1 rfl rfl)
theorem dX1_spans_3 : decode cX1_spans 3 = .ok (.iconst (-1), 1) := dk_2 (dk_at dksX1_spans_0 3 rfl rfl)
theorem dX1_spans_4 : decode cX1_spans 4 = .ok (.istore 5, 2) := dk_54 5 (dk_at dksX1_spans_0 4 rfl rfl)
theorem dX1_spans_6 : decode cX1_spans 6 = .ok (.iconst 0, 1) := dk_3 (dk_at dksX1_spans_0 6 rfl rfl)
theorem dX1_spans_7 : decode cX1_spans 7 = .ok (.istore 6, 2) := dk_54 6 (dk_at dksX1_spans_0 7 rfl rfl)
theorem dX1_spans_9 : decode cX1_spans 9 = .ok (.iload 6, 2) := dk_21 6 (dk_at dksX1_spans_0 9 rfl rfl)
theorem dX1_spans_11 : decode cX1_spans 11 = .ok (.aload_n 0, 1) := dk_42 (dk_at dksX1_spans_0 11 rfl rfl)
theorem dX1_spans_12 : decode cX1_spans 12 = .ok (.getfield 26, 3) := dk_180 0 26 (dk_at dksX1_spans_0 12 rfl rfl)
theorem dX1_spans_15 : decode cX1_spans 15 = .ok (.getfield 114, 3) := dk_180 0 114 (dk_at dksX1_spans_0 15 rfl rfl)
theorem dX1_spans_18 : decode cX1_spans 18 = .ok (.if_icmp .ge 203, 3) := dk_162 0 203 (dk_at dksX1_spans_0 18 rfl rfl)
theorem dX1_spans_21 : decode cX1_spans 21 = .ok (.iload_n 1, 1) := dk_27 (dk_at dksX1_spans_0 21 rfl rfl)
theorem dX1_spans_22 : decode cX1_spans 22 = .ok (.iload 6, 2) := dk_21 6 (dk_at dksX1_spans_0 22 rfl rfl)
theorem dX1_spans_24 : decode cX1_spans 24 = .ok (.ishr, 1) := dk_122 (dk_at dksX1_spans_1 0 rfl rfl)
theorem dX1_spans_25 : decode cX1_spans 25 = .ok (.iconst 1, 1) := dk_4 (dk_at dksX1_spans_1 1 rfl rfl)
theorem dX1_spans_26 : decode cX1_spans 26 = .ok (.iand, 1) := dk_126 (dk_at dksX1_spans_1 2 rfl rfl)
theorem dX1_spans_27 : decode cX1_spans 27 = .ok (.ifCond .ne 6, 3) := dk_154 0 6 (dk_at dksX1_spans_1 3 rfl rfl)
theorem dX1_spans_30 : decode cX1_spans 30 = .ok (.goto 185, 3) := dk_167 0 185 (dk_at dksX1_spans_1 6 rfl rfl)
theorem dX1_spans_33 : decode cX1_spans 33 = .ok (.iload_n 3, 1) := dk_29 (dk_at dksX1_spans_1 9 rfl rfl)
theorem dX1_spans_34 : decode cX1_spans 34 = .ok (.istore 7, 2) := dk_54 7 (dk_at dksX1_spans_1 10 rfl rfl)
theorem dX1_spans_36 : decode cX1_spans 36 = .ok (.iconst 0, 1) := dk_3 (dk_at dksX1_spans_1 12 rfl rfl)
theorem dX1_spans_37 : decode cX1_spans 37 = .ok (.istore 8, 2) := dk_54 8 (dk_at dksX1_spans_1 13 rfl rfl)
theorem dX1_spans_39 : decode cX1_spans 39 = .ok (.iload 8, 2) := dk_21 8 (dk_at dksX1_spans_1 15 rfl rfl)
theorem dX1_spans_41 : decode cX1_spans 41 = .ok (.bipush 12, 2) := dk_16 12 (dk_at dksX1_spans_1 17 rfl rfl)
theorem dX1_spans_43 : decode cX1_spans 43 = .ok (.if_icmp .ge 169, 3) := dk_162 0 169 (dk_at dksX1_spans_1 19 rfl rfl)
theorem dX1_spans_46 : decode cX1_spans 46 = .ok (.aload_n 0, 1) := dk_42 (dk_at dksX1_spans_1 22 rfl rfl)
theorem dX1_spans_47 : decode cX1_spans 47 = .ok (.getfield 50, 3) := dk_180 0 50 (dk_at dksX1_spans_2 0 rfl rfl)
theorem dX1_spans_50 : decode cX1_spans 50 = .ok (.iload_n 2, 1) := dk_28 (dk_at dksX1_spans_2 3 rfl rfl)
theorem dX1_spans_51 : decode cX1_spans 51 = .ok (.invokevirtual 157, 3) := dk_182 0 157 (dk_at dksX1_spans_2 4 rfl rfl)
theorem dX1_spans_54 : decode cX1_spans 54 = .ok (.iconst 0, 1) := dk_3 (dk_at dksX1_spans_2 7 rfl rfl)
theorem dX1_spans_55 : decode cX1_spans 55 = .ok (.istore 9, 2) := dk_54 9 (dk_at dksX1_spans_2 8 rfl rfl)
theorem dX1_spans_57 : decode cX1_spans 57 = .ok (.iload 9, 2) := dk_21 9 (dk_at dksX1_spans_2 10 rfl rfl)
theorem dX1_spans_59 : decode cX1_spans 59 = .ok (.iload_n 2, 1) := dk_28 (dk_at dksX1_spans_2 12 rfl rfl)
theorem dX1_spans_60 : decode cX1_spans 60 = .ok (.if_icmp .gt 51, 3) := dk_163 0 51 (dk_at dksX1_spans_2 13 rfl rfl)
theorem dX1_spans_63 : decode cX1_spans 63 = .ok (.ldc_w 281, 3) := dk_19 1 25 (dk_at dksX1_spans_2 16 rfl rfl)
theorem dX1_spans_66 : decode cX1_spans 66 = .ok (.iload 7, 2) := dk_21 7 (dk_at dksX1_spans_2 19 rfl rfl)
theorem dX1_spans_68 : decode cX1_spans 68 = .ok (.imul, 1) := dk_104 (dk_at dksX1_spans_2 21 rfl rfl)
theorem dX1_spans_69 : decode cX1_spans 69 = .ok (.sipush 12345, 3) := dk_17 48 57 (dk_at dksX1_spans_3 0 rfl rfl)
theorem dX1_spans_72 : decode cX1_spans 72 = .ok (.iadd, 1) := dk_96 (dk_at dksX1_spans_3 3 rfl rfl)
theorem dX1_spans_73 : decode cX1_spans 73 = .ok (.istore 7, 2) := dk_54 7 (dk_at dksX1_spans_3 4 rfl rfl)
theorem dX1_spans_75 : decode cX1_spans 75 = .ok (.aload_n 0, 1) := dk_42 (dk_at dksX1_spans_3 6 rfl rfl)
theorem dX1_spans_76 : decode cX1_spans 76 = .ok (.getfield 50, 3) := dk_180 0 50 (dk_at dksX1_spans_3 7 rfl rfl)
theorem dX1_spans_79 : decode cX1_spans 79 = .ok (.getfield 160, 3) := dk_180 0 160 (dk_at dksX1_spans_3 10 rfl rfl)
theorem dX1_spans_82 : decode cX1_spans 82 = .ok (.iload 9, 2) := dk_21 9 (dk_at dksX1_spans_3 13 rfl rfl)
theorem dX1_spans_84 : decode cX1_spans 84 = .ok (.iload 7, 2) := dk_21 7 (dk_at dksX1_spans_3 15 rfl rfl)
theorem dX1_spans_86 : decode cX1_spans 86 = .ok (.bipush 16, 2) := dk_16 16 (dk_at dksX1_spans_3 17 rfl rfl)
theorem dX1_spans_88 : decode cX1_spans 88 = .ok (.iushr, 1) := dk_124 (dk_at dksX1_spans_3 19 rfl rfl)
theorem dX1_spans_89 : decode cX1_spans 89 = .ok (.sipush 32767, 3) := dk_17 127 255 (dk_at dksX1_spans_3 20 rfl rfl)
theorem dX1_spans_92 : decode cX1_spans 92 = .ok (.iand, 1) := dk_126 (dk_at dksX1_spans_3 23 rfl rfl)
theorem dX1_spans_93 : decode cX1_spans 93 = .ok (.aload_n 0, 1) := dk_42 (dk_at dksX1_spans_4 0 rfl rfl)
theorem dX1_spans_94 : decode cX1_spans 94 = .ok (.getfield 19, 3) := dk_180 0 19 (dk_at dksX1_spans_4 1 rfl rfl)
theorem dX1_spans_97 : decode cX1_spans 97 = .ok (.getfield 141, 3) := dk_180 0 141 (dk_at dksX1_spans_4 4 rfl rfl)
theorem dX1_spans_100 : decode cX1_spans 100 = .ok (.getfield 145, 3) := dk_180 0 145 (dk_at dksX1_spans_4 7 rfl rfl)
theorem dX1_spans_103 : decode cX1_spans 103 = .ok (.irem, 1) := dk_112 (dk_at dksX1_spans_4 10 rfl rfl)
theorem dX1_spans_104 : decode cX1_spans 104 = .ok (.iastore, 1) := dk_79 (dk_at dksX1_spans_4 11 rfl rfl)
theorem dX1_spans_105 : decode cX1_spans 105 = .ok (.iinc 9 1, 3) := dk_132 9 1 (dk_at dksX1_spans_4 12 rfl rfl)
theorem dX1_spans_108 : decode cX1_spans 108 = .ok (.goto (-51), 3) := dk_167 255 205 (dk_at dksX1_spans_4 15 rfl rfl)
theorem dX1_spans_111 : decode cX1_spans 111 = .ok (.aload_n 0, 1) := dk_42 (dk_at dksX1_spans_4 18 rfl rfl)
theorem dX1_spans_112 : decode cX1_spans 112 = .ok (.aload_n 0, 1) := dk_42 (dk_at dksX1_spans_4 19 rfl rfl)
theorem dX1_spans_113 : decode cX1_spans 113 = .ok (.getfield 26, 3) := dk_180 0 26 (dk_at dksX1_spans_4 20 rfl rfl)
theorem dX1_spans_116 : decode cX1_spans 116 = .ok (.getfield 117, 3) := dk_180 0 117 (dk_at dksX1_spans_5 0 rfl rfl)
theorem dX1_spans_119 : decode cX1_spans 119 = .ok (.iload 6, 2) := dk_21 6 (dk_at dksX1_spans_5 3 rfl rfl)
theorem dX1_spans_121 : decode cX1_spans 121 = .ok (.aaload, 1) := dk_50 (dk_at dksX1_spans_5 5 rfl rfl)
theorem dX1_spans_122 : decode cX1_spans 122 = .ok (.aload_n 0, 1) := dk_42 (dk_at dksX1_spans_5 6 rfl rfl)
theorem dX1_spans_123 : decode cX1_spans 123 = .ok (.getfield 50, 3) := dk_180 0 50 (dk_at dksX1_spans_5 7 rfl rfl)
theorem dX1_spans_126 : decode cX1_spans 126 = .ok (.invokevirtual 251, 3) := dk_182 0 251 (dk_at dksX1_spans_5 10 rfl rfl)
theorem dX1_spans_129 : decode cX1_spans 129 = .ok (.astore 9, 2) := dk_58 9 (dk_at dksX1_spans_5 13 rfl rfl)
theorem dX1_spans_131 : decode cX1_spans 131 = .ok (.aload 9, 2) := dk_25 9 (dk_at dksX1_spans_5 15 rfl rfl)
theorem dX1_spans_133 : decode cX1_spans 133 = .ok (.invokevirtual 255, 3) := dk_182 0 255 (dk_at dksX1_spans_5 17 rfl rfl)
theorem dX1_spans_136 : decode cX1_spans 136 = .ok (.ifCond .eq 19, 3) := dk_153 0 19 (dk_at dksX1_spans_5 20 rfl rfl)
theorem dX1_spans_139 : decode cX1_spans 139 = .ok (.iload 5, 2) := dk_21 5 (dk_at dksX1_spans_6 0 rfl rfl)
theorem dX1_spans_141 : decode cX1_spans 141 = .ok (.iconst (-1), 1) := dk_2 (dk_at dksX1_spans_6 2 rfl rfl)
theorem dX1_spans_142 : decode cX1_spans 142 = .ok (.if_icmp .eq 15, 3) := dk_159 0 15 (dk_at dksX1_spans_6 3 rfl rfl)
theorem dX1_spans_145 : decode cX1_spans 145 = .ok (.aload 9, 2) := dk_25 9 (dk_at dksX1_spans_6 6 rfl rfl)
theorem dX1_spans_147 : decode cX1_spans 147 = .ok (.getfield 192, 3) := dk_180 0 192 (dk_at dksX1_spans_6 8 rfl rfl)
theorem dX1_spans_150 : decode cX1_spans 150 = .ok (.iload 5, 2) := dk_21 5 (dk_at dksX1_spans_6 11 rfl rfl)
theorem dX1_spans_152 : decode cX1_spans 152 = .ok (.if_icmp .eq 5, 3) := dk_159 0 5 (dk_at dksX1_spans_6 13 rfl rfl)
theorem dX1_spans_155 : decode cX1_spans 155 = .ok (.iconst (-1), 1) := dk_2 (dk_at dksX1_spans_6 16 rfl rfl)
theorem dX1_spans_156 : decode cX1_spans 156 = .ok (.ireturn, 1) := dk_172 (dk_at dksX1_spans_6 17 rfl rfl)
theorem dX1_spans_157 : decode cX1_spans 157 = .ok (.aload 9, 2) := dk_25 9 (dk_at dksX1_spans_6 18 rfl rfl)
theorem dX1_spans_159 : decode cX1_spans 159 = .ok (.getfield 192, 3) := dk_180 0 192 (dk_at dksX1_spans_6 20 rfl rfl)
theorem dX1_spans_162 : decode cX1_spans 162 = .ok (.istore 5, 2) := dk_54 5 (dk_at dksX1_spans_7 0 rfl rfl)
theorem dX1_spans_164 : decode cX1_spans 164 = .ok (.iconst 0, 1) := dk_3 (dk_at dksX1_spans_7 2 rfl rfl)
theorem dX1_spans_165 : decode cX1_spans 165 = .ok (.istore 10, 2) := dk_54 10 (dk_at dksX1_spans_7 3 rfl rfl)
theorem dX1_spans_167 : decode cX1_spans 167 = .ok (.iload 10, 2) := dk_21 10 (dk_at dksX1_spans_7 5 rfl rfl)
theorem dX1_spans_169 : decode cX1_spans 169 = .ok (.iload 5, 2) := dk_21 5 (dk_at dksX1_spans_7 7 rfl rfl)
theorem dX1_spans_171 : decode cX1_spans 171 = .ok (.if_icmp .gt 35, 3) := dk_163 0 35 (dk_at dksX1_spans_7 9 rfl rfl)
theorem dX1_spans_174 : decode cX1_spans 174 = .ok (.aload_n 0, 1) := dk_42 (dk_at dksX1_spans_7 12 rfl rfl)
theorem dX1_spans_175 : decode cX1_spans 175 = .ok (.getfield 55, 3) := dk_180 0 55 (dk_at dksX1_spans_7 13 rfl rfl)
theorem dX1_spans_178 : decode cX1_spans 178 = .ok (.iload 4, 2) := dk_21 4 (dk_at dksX1_spans_7 16 rfl rfl)
theorem dX1_spans_180 : decode cX1_spans 180 = .ok (.aaload, 1) := dk_50 (dk_at dksX1_spans_7 18 rfl rfl)
theorem dX1_spans_181 : decode cX1_spans 181 = .ok (.iload 5, 2) := dk_21 5 (dk_at dksX1_spans_7 19 rfl rfl)
theorem dX1_spans_183 : decode cX1_spans 183 = .ok (.iconst 1, 1) := dk_4 (dk_at dksX1_spans_7 21 rfl rfl)
theorem dX1_spans_184 : decode cX1_spans 184 = .ok (.iadd, 1) := dk_96 (dk_at dksX1_spans_7 22 rfl rfl)
theorem dX1_spans_185 : decode cX1_spans 185 = .ok (.iload 8, 2) := dk_21 8 (dk_at dksX1_spans_8 0 rfl rfl)
theorem dX1_spans_187 : decode cX1_spans 187 = .ok (.imul, 1) := dk_104 (dk_at dksX1_spans_8 2 rfl rfl)
theorem dX1_spans_188 : decode cX1_spans 188 = .ok (.iload 10, 2) := dk_21 10 (dk_at dksX1_spans_8 3 rfl rfl)
theorem dX1_spans_190 : decode cX1_spans 190 = .ok (.iadd, 1) := dk_96 (dk_at dksX1_spans_8 5 rfl rfl)
theorem dX1_spans_191 : decode cX1_spans 191 = .ok (.aload 9, 2) := dk_25 9 (dk_at dksX1_spans_8 6 rfl rfl)
theorem dX1_spans_193 : decode cX1_spans 193 = .ok (.getfield 160, 3) := dk_180 0 160 (dk_at dksX1_spans_8 8 rfl rfl)
theorem dX1_spans_196 : decode cX1_spans 196 = .ok (.iload 10, 2) := dk_21 10 (dk_at dksX1_spans_8 11 rfl rfl)
theorem dX1_spans_198 : decode cX1_spans 198 = .ok (.iaload, 1) := dk_46 (dk_at dksX1_spans_8 13 rfl rfl)
theorem dX1_spans_199 : decode cX1_spans 199 = .ok (.iastore, 1) := dk_79 (dk_at dksX1_spans_8 14 rfl rfl)
theorem dX1_spans_200 : decode cX1_spans 200 = .ok (.iinc 10 1, 3) := dk_132 10 1 (dk_at dksX1_spans_8 15 rfl rfl)
theorem dX1_spans_203 : decode cX1_spans 203 = .ok (.goto (-36), 3) := dk_167 255 220 (dk_at dksX1_spans_8 18 rfl rfl)
theorem dX1_spans_206 : decode cX1_spans 206 = .ok (.iinc 8 1, 3) := dk_132 8 1 (dk_at dksX1_spans_8 21 rfl rfl)
theorem dX1_spans_209 : decode cX1_spans 209 = .ok (.goto (-170), 3) := dk_167 255 86 (dk_at dksX1_spans_9 0 rfl rfl)
theorem dX1_spans_212 : decode cX1_spans 212 = .ok (.iinc 4 1, 3) := dk_132 4 1 (dk_at dksX1_spans_9 3 rfl rfl)
theorem dX1_spans_215 : decode cX1_spans 215 = .ok (.iinc 6 1, 3) := dk_132 6 1 (dk_at dksX1_spans_9 6 rfl rfl)
theorem dX1_spans_218 : decode cX1_spans 218 = .ok (.goto (-209), 3) := dk_167 255 47 (dk_at dksX1_spans_9 9 rfl rfl)
theorem dX1_spans_221 : decode cX1_spans 221 = .ok (.aload_n 0, 1) := dk_42 (dk_at dksX1_spans_9 12 rfl rfl)
theorem dX1_spans_222 : decode cX1_spans 222 = .ok (.iload 4, 2) := dk_21 4 (dk_at dksX1_spans_9 13 rfl rfl)
theorem dX1_spans_224 : decode cX1_spans 224 = .ok (.bipush 12, 2) := dk_16 12 (dk_at dksX1_spans_9 15 rfl rfl)
theorem dX1_spans_226 : decode cX1_spans 226 = .ok (.iload 5, 2) := dk_21 5 (dk_at dksX1_spans_9 17 rfl rfl)
theorem dX1_spans_228 : decode cX1_spans 228 = .ok (.iconst 1, 1) := dk_4 (dk_at dksX1_spans_9 19 rfl rfl)
theorem dX1_spans_229 : decode cX1_spans 229 = .ok (.iadd, 1) := dk_96 (dk_at dksX1_spans_9 20 rfl rfl)
theorem dX1_spans_230 : decode cX1_spans 230 = .ok (.imul, 1) := dk_104 (dk_at dksX1_spans_9 21 rfl rfl)
theorem dX1_spans_231 : decode cX1_spans 231 = .ok (.invokevirtual 282, 3) := dk_182 1 26 (dk_at dksX1_spans_10 0 rfl rfl)
theorem dX1_spans_234 : decode cX1_spans 234 = .ok (.ireturn, 1) := dk_172 (dk_at dksX1_spans_10 3 rfl rfl)
abbrev cX1_independent : ByteArray := prog_1_method_37_code
def yX1_independent : MethodName := ⟨RX1, "independent", "(II)I"⟩
def dkwX1_independent_9 : List UInt8 := [132, 3, 1, 132, 4, 1, 167, 255, 48, 29, 172]
abbrev dktX1_independent_9 : List UInt8 := dkwX1_independent_9 ++ []
def dkwX1_independent_8 : List UInt8 := [21, 10, 46, 133, 105, 101, 182, 0, 163, 79, 132, 10, 1, 167, 255, 200, 132, 8, 1, 167, 255, 157]
abbrev dktX1_independent_8 : List UInt8 := dkwX1_independent_8 ++ dktX1_independent_9
def dkwX1_independent_7 : List UInt8 := [42, 180, 0, 19, 180, 0, 141, 42, 180, 0, 55, 21, 8, 50, 21, 10, 46, 133, 21, 9, 133, 25, 6]
abbrev dktX1_independent_7 : List UInt8 := dkwX1_independent_7 ++ dktX1_independent_8
def dkwX1_independent_6 : List UInt8 := [21, 4, 54, 10, 21, 10, 28, 162, 0, 56, 21, 9, 153, 0, 51, 42, 180, 0, 55, 21, 8, 50, 21, 10]
abbrev dktX1_independent_6 : List UInt8 := dkwX1_independent_6 ++ dktX1_independent_7
def dkwX1_independent_5 : List UInt8 := [180, 0, 141, 42, 180, 0, 55, 21, 8, 50, 21, 4, 46, 133, 21, 7, 133, 105, 182, 0, 163, 54, 9]
abbrev dktX1_independent_5 : List UInt8 := dkwX1_independent_5 ++ dktX1_independent_6
def dkwX1_independent_4 : List UInt8 := [21, 4, 46, 182, 1, 29, 54, 7, 29, 4, 96, 54, 8, 21, 8, 27, 162, 0, 99, 42, 180, 0, 19]
abbrev dktX1_independent_4 : List UInt8 := dkwX1_independent_4 ++ dktX1_independent_5
def dkwX1_independent_3 : List UInt8 := [180, 0, 55, 29, 50, 83, 42, 180, 0, 55, 29, 25, 6, 83, 42, 180, 0, 19, 180, 0, 141, 25, 6]
abbrev dktX1_independent_3 : List UInt8 := dkwX1_independent_3 ++ dktX1_independent_4
def dkwX1_independent_2 : List UInt8 := [27, 160, 0, 6, 167, 0, 160, 42, 180, 0, 55, 21, 5, 50, 58, 6, 42, 180, 0, 55, 21, 5, 42]
abbrev dktX1_independent_2 : List UInt8 := dkwX1_independent_2 ++ dktX1_independent_3
def dkwX1_independent_1 : List UInt8 := [162, 0, 22, 42, 180, 0, 55, 21, 5, 50, 21, 4, 46, 154, 0, 9, 132, 5, 1, 167, 255, 234, 21, 5]
abbrev dktX1_independent_1 : List UInt8 := dkwX1_independent_1 ++ dktX1_independent_2
def dkwX1_independent_0 : List UInt8 := [3, 62, 3, 54, 4, 21, 4, 28, 162, 0, 208, 29, 27, 162, 0, 203, 29, 54, 5, 21, 5, 27]
abbrev dktX1_independent_0 : List UInt8 := dkwX1_independent_0 ++ dktX1_independent_1
theorem dksX1_independent_0 : cX1_independent.data.toList.drop 0 = dktX1_independent_0 := by decide +kernel
theorem dksX1_independent_1 : cX1_independent.data.toList.drop 22 = dktX1_independent_1 := dk_seg dksX1_independent_0 22 rfl rfl
theorem dksX1_independent_2 : cX1_independent.data.toList.drop 46 = dktX1_independent_2 := dk_seg dksX1_independent_1 24 rfl rfl
theorem dksX1_independent_3 : cX1_independent.data.toList.drop 69 = dktX1_independent_3 := dk_seg dksX1_independent_2 23 rfl rfl
theorem dksX1_independent_4 : cX1_independent.data.toList.drop 92 = dktX1_independent_4 := dk_seg dksX1_independent_3 23 rfl rfl
theorem dksX1_independent_5 : cX1_independent.data.toList.drop 115 = dktX1_independent_5 := dk_seg dksX1_independent_4 23 rfl rfl
theorem dksX1_independent_6 : cX1_independent.data.toList.drop 138 = dktX1_independent_6 := dk_seg dksX1_independent_5 23 rfl rfl
theorem dksX1_independent_7 : cX1_independent.data.toList.drop 162 = dktX1_independent_7 := dk_seg dksX1_independent_6 24 rfl rfl
theorem dksX1_independent_8 : cX1_independent.data.toList.drop 185 = dktX1_independent_8 := dk_seg dksX1_independent_7 23 rfl rfl
theorem dksX1_independent_9 : cX1_independent.data.toList.drop 207 = dktX1_independent_9 := dk_seg dksX1_independent_8 22 rfl rfl
theorem dX1_independent_0 : decode cX1_independent 0 = .ok (.iconst 0, 1) := dk_3 (dk_at dksX1_independent_0 0 rfl rfl)
theorem dX1_independent_1 : decode cX1_independent 1 = .ok (.istore_n 3, 1) := dk_62 (dk_at dksX1_independent_0 1 rfl rfl)
theorem dX1_independent_2 : decode cX1_independent 2 = .ok (.iconst 0, 1) := dk_3 (dk_at dksX1_independent_0 2 rfl rfl)
theorem dX1_independent_3 : decode cX1_independent 3 = .ok (.istore 4, 2) := dk_54 4 (dk_at dksX1_independent_0 3 rfl rfl)
theorem dX1_independent_5 : decode cX1_independent 5 = .ok (.iload 4, 2) := dk_21 4 (dk_at dksX1_independent_0 5 rfl rfl)
theorem dX1_independent_7 : decode cX1_independent 7 = .ok (.iload_n 2, 1) := dk_28 (dk_at dksX1_independent_0 7 rfl rfl)
theorem dX1_independent_8 : decode cX1_independent 8 = .ok (.if_icmp .ge 208, 3) := dk_162 0 208 (dk_at dksX1_independent_0 8 rfl rfl)
theorem dX1_independent_11 : decode cX1_independent 11 = .ok (.iload_n 3, 1) := dk_29 (dk_at dksX1_independent_0 11 rfl rfl)
theorem dX1_independent_12 : decode cX1_independent 12 = .ok (.iload_n 1, 1) := dk_27 (dk_at dksX1_independent_0 12 rfl rfl)
theorem dX1_independent_13 : decode cX1_independent 13 = .ok (.if_icmp .ge 203, 3) := dk_162 0 203 (dk_at dksX1_independent_0 13 rfl rfl)
theorem dX1_independent_16 : decode cX1_independent 16 = .ok (.iload_n 3, 1) := dk_29 (dk_at dksX1_independent_0 16 rfl rfl)
theorem dX1_independent_17 : decode cX1_independent 17 = .ok (.istore 5, 2) := dk_54 5 (dk_at dksX1_independent_0 17 rfl rfl)
theorem dX1_independent_19 : decode cX1_independent 19 = .ok (.iload 5, 2) := dk_21 5 (dk_at dksX1_independent_0 19 rfl rfl)
theorem dX1_independent_21 : decode cX1_independent 21 = .ok (.iload_n 1, 1) := dk_27 (dk_at dksX1_independent_0 21 rfl rfl)
theorem dX1_independent_22 : decode cX1_independent 22 = .ok (.if_icmp .ge 22, 3) := dk_162 0 22 (dk_at dksX1_independent_1 0 rfl rfl)
theorem dX1_independent_25 : decode cX1_independent 25 = .ok (.aload_n 0, 1) := dk_42 (dk_at dksX1_independent_1 3 rfl rfl)
theorem dX1_independent_26 : decode cX1_independent 26 = .ok (.getfield 55, 3) := dk_180 0 55 (dk_at dksX1_independent_1 4 rfl rfl)
theorem dX1_independent_29 : decode cX1_independent 29 = .ok (.iload 5, 2) := dk_21 5 (dk_at dksX1_independent_1 7 rfl rfl)
theorem dX1_independent_31 : decode cX1_independent 31 = .ok (.aaload, 1) := dk_50 (dk_at dksX1_independent_1 9 rfl rfl)
theorem dX1_independent_32 : decode cX1_independent 32 = .ok (.iload 4, 2) := dk_21 4 (dk_at dksX1_independent_1 10 rfl rfl)
theorem dX1_independent_34 : decode cX1_independent 34 = .ok (.iaload, 1) := dk_46 (dk_at dksX1_independent_1 12 rfl rfl)
theorem dX1_independent_35 : decode cX1_independent 35 = .ok (.ifCond .ne 9, 3) := dk_154 0 9 (dk_at dksX1_independent_1 13 rfl rfl)
theorem dX1_independent_38 : decode cX1_independent 38 = .ok (.iinc 5 1, 3) := dk_132 5 1 (dk_at dksX1_independent_1 16 rfl rfl)
theorem dX1_independent_41 : decode cX1_independent 41 = .ok (.goto (-22), 3) := dk_167 255 234 (dk_at dksX1_independent_1 19 rfl rfl)
theorem dX1_independent_44 : decode cX1_independent 44 = .ok (.iload 5, 2) := dk_21 5 (dk_at dksX1_independent_1 22 rfl rfl)
theorem dX1_independent_46 : decode cX1_independent 46 = .ok (.iload_n 1, 1) := dk_27 (dk_at dksX1_independent_2 0 rfl rfl)
theorem dX1_independent_47 : decode cX1_independent 47 = .ok (.if_icmp .ne 6, 3) := dk_160 0 6 (dk_at dksX1_independent_2 1 rfl rfl)
theorem dX1_independent_50 : decode cX1_independent 50 = .ok (.goto 160, 3) := dk_167 0 160 (dk_at dksX1_independent_2 4 rfl rfl)
theorem dX1_independent_53 : decode cX1_independent 53 = .ok (.aload_n 0, 1) := dk_42 (dk_at dksX1_independent_2 7 rfl rfl)
theorem dX1_independent_54 : decode cX1_independent 54 = .ok (.getfield 55, 3) := dk_180 0 55 (dk_at dksX1_independent_2 8 rfl rfl)
theorem dX1_independent_57 : decode cX1_independent 57 = .ok (.iload 5, 2) := dk_21 5 (dk_at dksX1_independent_2 11 rfl rfl)
theorem dX1_independent_59 : decode cX1_independent 59 = .ok (.aaload, 1) := dk_50 (dk_at dksX1_independent_2 13 rfl rfl)
theorem dX1_independent_60 : decode cX1_independent 60 = .ok (.astore 6, 2) := dk_58 6 (dk_at dksX1_independent_2 14 rfl rfl)
theorem dX1_independent_62 : decode cX1_independent 62 = .ok (.aload_n 0, 1) := dk_42 (dk_at dksX1_independent_2 16 rfl rfl)
theorem dX1_independent_63 : decode cX1_independent 63 = .ok (.getfield 55, 3) := dk_180 0 55 (dk_at dksX1_independent_2 17 rfl rfl)
theorem dX1_independent_66 : decode cX1_independent 66 = .ok (.iload 5, 2) := dk_21 5 (dk_at dksX1_independent_2 20 rfl rfl)
theorem dX1_independent_68 : decode cX1_independent 68 = .ok (.aload_n 0, 1) := dk_42 (dk_at dksX1_independent_2 22 rfl rfl)
theorem dX1_independent_69 : decode cX1_independent 69 = .ok (.getfield 55, 3) := dk_180 0 55 (dk_at dksX1_independent_3 0 rfl rfl)
theorem dX1_independent_72 : decode cX1_independent 72 = .ok (.iload_n 3, 1) := dk_29 (dk_at dksX1_independent_3 3 rfl rfl)
theorem dX1_independent_73 : decode cX1_independent 73 = .ok (.aaload, 1) := dk_50 (dk_at dksX1_independent_3 4 rfl rfl)
theorem dX1_independent_74 : decode cX1_independent 74 = .ok (.aastore, 1) := dk_83 (dk_at dksX1_independent_3 5 rfl rfl)
theorem dX1_independent_75 : decode cX1_independent 75 = .ok (.aload_n 0, 1) := dk_42 (dk_at dksX1_independent_3 6 rfl rfl)
theorem dX1_independent_76 : decode cX1_independent 76 = .ok (.getfield 55, 3) := dk_180 0 55 (dk_at dksX1_independent_3 7 rfl rfl)
theorem dX1_independent_79 : decode cX1_independent 79 = .ok (.iload_n 3, 1) := dk_29 (dk_at dksX1_independent_3 10 rfl rfl)
theorem dX1_independent_80 : decode cX1_independent 80 = .ok (.aload 6, 2) := dk_25 6 (dk_at dksX1_independent_3 11 rfl rfl)
theorem dX1_independent_82 : decode cX1_independent 82 = .ok (.aastore, 1) := dk_83 (dk_at dksX1_independent_3 13 rfl rfl)
theorem dX1_independent_83 : decode cX1_independent 83 = .ok (.aload_n 0, 1) := dk_42 (dk_at dksX1_independent_3 14 rfl rfl)
theorem dX1_independent_84 : decode cX1_independent 84 = .ok (.getfield 19, 3) := dk_180 0 19 (dk_at dksX1_independent_3 15 rfl rfl)
theorem dX1_independent_87 : decode cX1_independent 87 = .ok (.getfield 141, 3) := dk_180 0 141 (dk_at dksX1_independent_3 18 rfl rfl)
theorem dX1_independent_90 : decode cX1_independent 90 = .ok (.aload 6, 2) := dk_25 6 (dk_at dksX1_independent_3 21 rfl rfl)
theorem dX1_independent_92 : decode cX1_independent 92 = .ok (.iload 4, 2) := dk_21 4 (dk_at dksX1_independent_4 0 rfl rfl)
theorem dX1_independent_94 : decode cX1_independent 94 = .ok (.iaload, 1) := dk_46 (dk_at dksX1_independent_4 2 rfl rfl)
theorem dX1_independent_95 : decode cX1_independent 95 = .ok (.invokevirtual 285, 3) := dk_182 1 29 (dk_at dksX1_independent_4 3 rfl rfl)
theorem dX1_independent_98 : decode cX1_independent 98 = .ok (.istore 7, 2) := dk_54 7 (dk_at dksX1_independent_4 6 rfl rfl)
theorem dX1_independent_100 : decode cX1_independent 100 = .ok (.iload_n 3, 1) := dk_29 (dk_at dksX1_independent_4 8 rfl rfl)
theorem dX1_independent_101 : decode cX1_independent 101 = .ok (.iconst 1, 1) := dk_4 (dk_at dksX1_independent_4 9 rfl rfl)
theorem dX1_independent_102 : decode cX1_independent 102 = .ok (.iadd, 1) := dk_96 (dk_at dksX1_independent_4 10 rfl rfl)
theorem dX1_independent_103 : decode cX1_independent 103 = .ok (.istore 8, 2) := dk_54 8 (dk_at dksX1_independent_4 11 rfl rfl)
theorem dX1_independent_105 : decode cX1_independent 105 = .ok (.iload 8, 2) := dk_21 8 (dk_at dksX1_independent_4 13 rfl rfl)
theorem dX1_independent_107 : decode cX1_independent 107 = .ok (.iload_n 1, 1) := dk_27 (dk_at dksX1_independent_4 15 rfl rfl)
theorem dX1_independent_108 : decode cX1_independent 108 = .ok (.if_icmp .ge 99, 3) := dk_162 0 99 (dk_at dksX1_independent_4 16 rfl rfl)
theorem dX1_independent_111 : decode cX1_independent 111 = .ok (.aload_n 0, 1) := dk_42 (dk_at dksX1_independent_4 19 rfl rfl)
theorem dX1_independent_112 : decode cX1_independent 112 = .ok (.getfield 19, 3) := dk_180 0 19 (dk_at dksX1_independent_4 20 rfl rfl)
theorem dX1_independent_115 : decode cX1_independent 115 = .ok (.getfield 141, 3) := dk_180 0 141 (dk_at dksX1_independent_5 0 rfl rfl)
theorem dX1_independent_118 : decode cX1_independent 118 = .ok (.aload_n 0, 1) := dk_42 (dk_at dksX1_independent_5 3 rfl rfl)
theorem dX1_independent_119 : decode cX1_independent 119 = .ok (.getfield 55, 3) := dk_180 0 55 (dk_at dksX1_independent_5 4 rfl rfl)
theorem dX1_independent_122 : decode cX1_independent 122 = .ok (.iload 8, 2) := dk_21 8 (dk_at dksX1_independent_5 7 rfl rfl)
theorem dX1_independent_124 : decode cX1_independent 124 = .ok (.aaload, 1) := dk_50 (dk_at dksX1_independent_5 9 rfl rfl)
theorem dX1_independent_125 : decode cX1_independent 125 = .ok (.iload 4, 2) := dk_21 4 (dk_at dksX1_independent_5 10 rfl rfl)
theorem dX1_independent_127 : decode cX1_independent 127 = .ok (.iaload, 1) := dk_46 (dk_at dksX1_independent_5 12 rfl rfl)
theorem dX1_independent_128 : decode cX1_independent 128 = .ok (.i2l, 1) := dk_133 (dk_at dksX1_independent_5 13 rfl rfl)
theorem dX1_independent_129 : decode cX1_independent 129 = .ok (.iload 7, 2) := dk_21 7 (dk_at dksX1_independent_5 14 rfl rfl)
theorem dX1_independent_131 : decode cX1_independent 131 = .ok (.i2l, 1) := dk_133 (dk_at dksX1_independent_5 16 rfl rfl)
theorem dX1_independent_132 : decode cX1_independent 132 = .ok (.lmul, 1) := dk_105 (dk_at dksX1_independent_5 17 rfl rfl)
theorem dX1_independent_133 : decode cX1_independent 133 = .ok (.invokevirtual 163, 3) := dk_182 0 163 (dk_at dksX1_independent_5 18 rfl rfl)
theorem dX1_independent_136 : decode cX1_independent 136 = .ok (.istore 9, 2) := dk_54 9 (dk_at dksX1_independent_5 21 rfl rfl)
theorem dX1_independent_138 : decode cX1_independent 138 = .ok (.iload 4, 2) := dk_21 4 (dk_at dksX1_independent_6 0 rfl rfl)
theorem dX1_independent_140 : decode cX1_independent 140 = .ok (.istore 10, 2) := dk_54 10 (dk_at dksX1_independent_6 2 rfl rfl)
theorem dX1_independent_142 : decode cX1_independent 142 = .ok (.iload 10, 2) := dk_21 10 (dk_at dksX1_independent_6 4 rfl rfl)
theorem dX1_independent_144 : decode cX1_independent 144 = .ok (.iload_n 2, 1) := dk_28 (dk_at dksX1_independent_6 6 rfl rfl)
theorem dX1_independent_145 : decode cX1_independent 145 = .ok (.if_icmp .ge 56, 3) := dk_162 0 56 (dk_at dksX1_independent_6 7 rfl rfl)
theorem dX1_independent_148 : decode cX1_independent 148 = .ok (.iload 9, 2) := dk_21 9 (dk_at dksX1_independent_6 10 rfl rfl)
theorem dX1_independent_150 : decode cX1_independent 150 = .ok (.ifCond .eq 51, 3) := dk_153 0 51 (dk_at dksX1_independent_6 12 rfl rfl)
theorem dX1_independent_153 : decode cX1_independent 153 = .ok (.aload_n 0, 1) := dk_42 (dk_at dksX1_independent_6 15 rfl rfl)
theorem dX1_independent_154 : decode cX1_independent 154 = .ok (.getfield 55, 3) := dk_180 0 55 (dk_at dksX1_independent_6 16 rfl rfl)
theorem dX1_independent_157 : decode cX1_independent 157 = .ok (.iload 8, 2) := dk_21 8 (dk_at dksX1_independent_6 19 rfl rfl)
theorem dX1_independent_159 : decode cX1_independent 159 = .ok (.aaload, 1) := dk_50 (dk_at dksX1_independent_6 21 rfl rfl)
theorem dX1_independent_160 : decode cX1_independent 160 = .ok (.iload 10, 2) := dk_21 10 (dk_at dksX1_independent_6 22 rfl rfl)
theorem dX1_independent_162 : decode cX1_independent 162 = .ok (.aload_n 0, 1) := dk_42 (dk_at dksX1_independent_7 0 rfl rfl)
theorem dX1_independent_163 : decode cX1_independent 163 = .ok (.getfield 19, 3) := dk_180 0 19 (dk_at dksX1_independent_7 1 rfl rfl)
theorem dX1_independent_166 : decode cX1_independent 166 = .ok (.getfield 141, 3) := dk_180 0 141 (dk_at dksX1_independent_7 4 rfl rfl)
theorem dX1_independent_169 : decode cX1_independent 169 = .ok (.aload_n 0, 1) := dk_42 (dk_at dksX1_independent_7 7 rfl rfl)
theorem dX1_independent_170 : decode cX1_independent 170 = .ok (.getfield 55, 3) := dk_180 0 55 (dk_at dksX1_independent_7 8 rfl rfl)
theorem dX1_independent_173 : decode cX1_independent 173 = .ok (.iload 8, 2) := dk_21 8 (dk_at dksX1_independent_7 11 rfl rfl)
theorem dX1_independent_175 : decode cX1_independent 175 = .ok (.aaload, 1) := dk_50 (dk_at dksX1_independent_7 13 rfl rfl)
theorem dX1_independent_176 : decode cX1_independent 176 = .ok (.iload 10, 2) := dk_21 10 (dk_at dksX1_independent_7 14 rfl rfl)
theorem dX1_independent_178 : decode cX1_independent 178 = .ok (.iaload, 1) := dk_46 (dk_at dksX1_independent_7 16 rfl rfl)
theorem dX1_independent_179 : decode cX1_independent 179 = .ok (.i2l, 1) := dk_133 (dk_at dksX1_independent_7 17 rfl rfl)
theorem dX1_independent_180 : decode cX1_independent 180 = .ok (.iload 9, 2) := dk_21 9 (dk_at dksX1_independent_7 18 rfl rfl)
theorem dX1_independent_182 : decode cX1_independent 182 = .ok (.i2l, 1) := dk_133 (dk_at dksX1_independent_7 20 rfl rfl)
theorem dX1_independent_183 : decode cX1_independent 183 = .ok (.aload 6, 2) := dk_25 6 (dk_at dksX1_independent_7 21 rfl rfl)
theorem dX1_independent_185 : decode cX1_independent 185 = .ok (.iload 10, 2) := dk_21 10 (dk_at dksX1_independent_8 0 rfl rfl)
theorem dX1_independent_187 : decode cX1_independent 187 = .ok (.iaload, 1) := dk_46 (dk_at dksX1_independent_8 2 rfl rfl)
theorem dX1_independent_188 : decode cX1_independent 188 = .ok (.i2l, 1) := dk_133 (dk_at dksX1_independent_8 3 rfl rfl)
theorem dX1_independent_189 : decode cX1_independent 189 = .ok (.lmul, 1) := dk_105 (dk_at dksX1_independent_8 4 rfl rfl)
theorem dX1_independent_190 : decode cX1_independent 190 = .ok (.lsub, 1) := dk_101 (dk_at dksX1_independent_8 5 rfl rfl)
theorem dX1_independent_191 : decode cX1_independent 191 = .ok (.invokevirtual 163, 3) := dk_182 0 163 (dk_at dksX1_independent_8 6 rfl rfl)
theorem dX1_independent_194 : decode cX1_independent 194 = .ok (.iastore, 1) := dk_79 (dk_at dksX1_independent_8 9 rfl rfl)
theorem dX1_independent_195 : decode cX1_independent 195 = .ok (.iinc 10 1, 3) := dk_132 10 1 (dk_at dksX1_independent_8 10 rfl rfl)
theorem dX1_independent_198 : decode cX1_independent 198 = .ok (.goto (-56), 3) := dk_167 255 200 (dk_at dksX1_independent_8 13 rfl rfl)
theorem dX1_independent_201 : decode cX1_independent 201 = .ok (.iinc 8 1, 3) := dk_132 8 1 (dk_at dksX1_independent_8 16 rfl rfl)
theorem dX1_independent_204 : decode cX1_independent 204 = .ok (.goto (-99), 3) := dk_167 255 157 (dk_at dksX1_independent_8 19 rfl rfl)
theorem dX1_independent_207 : decode cX1_independent 207 = .ok (.iinc 3 1, 3) := dk_132 3 1 (dk_at dksX1_independent_9 0 rfl rfl)
theorem dX1_independent_210 : decode cX1_independent 210 = .ok (.iinc 4 1, 3) := dk_132 4 1 (dk_at dksX1_independent_9 3 rfl rfl)
theorem dX1_independent_213 : decode cX1_independent 213 = .ok (.goto (-208), 3) := dk_167 255 48 (dk_at dksX1_independent_9 6 rfl rfl)
theorem dX1_independent_216 : decode cX1_independent 216 = .ok (.iload_n 3, 1) := dk_29 (dk_at dksX1_independent_9 9 rfl rfl)
theorem dX1_independent_217 : decode cX1_independent 217 = .ok (.ireturn, 1) := dk_172 (dk_at dksX1_independent_9 10 rfl rfl)
abbrev cX1_basis : ByteArray := prog_1_method_35_code
def yX1_basis : MethodName := ⟨RX1, "basis", "(III)I"⟩
def dkwX1_basis_4 : List UInt8 := [54, 4, 21, 7, 54, 5, 132, 6, 1, 167, 255, 189, 21, 4, 172]
abbrev dktX1_basis_4 : List UInt8 := dkwX1_basis_4 ++ []
def dkwX1_basis_3 : List UInt8 := [182, 1, 21, 54, 7, 21, 4, 21, 7, 21, 5, 164, 0, 10, 4, 21, 6, 120, 167, 0, 4, 3, 128]
abbrev dktX1_basis_3 : List UInt8 := dkwX1_basis_3 ++ dktX1_basis_4
def dkwX1_basis_2 : List UInt8 := [21, 6, 122, 4, 126, 154, 0, 6, 167, 0, 43, 42, 27, 5, 21, 6, 120, 4, 100, 126, 28, 29]
abbrev dktX1_basis_2 : List UInt8 := dkwX1_basis_2 ++ dktX1_basis_3
def dkwX1_basis_1 : List UInt8 := [172, 3, 54, 4, 3, 54, 5, 3, 54, 6, 21, 6, 42, 180, 0, 26, 180, 0, 114, 162, 0, 61, 27]
abbrev dktX1_basis_1 : List UInt8 := dkwX1_basis_1 ++ dktX1_basis_2
def dkwX1_basis_0 : List UInt8 := [28, 133, 10, 20, 1, 11, 184, 0, 97, 184, 0, 132, 42, 27, 28, 29, 182, 1, 21, 2, 160, 0, 5, 2]
abbrev dktX1_basis_0 : List UInt8 := dkwX1_basis_0 ++ dktX1_basis_1
theorem dksX1_basis_0 : cX1_basis.data.toList.drop 0 = dktX1_basis_0 := by decide +kernel
theorem dksX1_basis_1 : cX1_basis.data.toList.drop 24 = dktX1_basis_1 := dk_seg dksX1_basis_0 24 rfl rfl
theorem dksX1_basis_2 : cX1_basis.data.toList.drop 47 = dktX1_basis_2 := dk_seg dksX1_basis_1 23 rfl rfl
theorem dksX1_basis_3 : cX1_basis.data.toList.drop 69 = dktX1_basis_3 := dk_seg dksX1_basis_2 22 rfl rfl
theorem dksX1_basis_4 : cX1_basis.data.toList.drop 92 = dktX1_basis_4 := dk_seg dksX1_basis_3 23 rfl rfl
theorem dX1_basis_0 : decode cX1_basis 0 = .ok (.iload_n 2, 1) := dk_28 (dk_at dksX1_basis_0 0 rfl rfl)
theorem dX1_basis_1 : decode cX1_basis 1 = .ok (.i2l, 1) := dk_133 (dk_at dksX1_basis_0 1 rfl rfl)
theorem dX1_basis_2 : decode cX1_basis 2 = .ok (.lconst 1, 1) := dk_10 (dk_at dksX1_basis_0 2 rfl rfl)
theorem dX1_basis_3 : decode cX1_basis 3 = .ok (.ldc2_w 267, 3) := dk_20 1 11 (dk_at dksX1_basis_0 3 rfl rfl)
theorem dX1_basis_6 : decode cX1_basis 6 = .ok (.invokestatic 97, 3) := dk_184 0 97 (dk_at dksX1_basis_0 6 rfl rfl)
theorem dX1_basis_9 : decode cX1_basis 9 = .ok (.invokestatic 132, 3) := dk_184 0 132 (dk_at dksX1_basis_0 9 rfl rfl)
theorem dX1_basis_12 : decode cX1_basis 12 = .ok (.aload_n 0, 1) := dk_42 (dk_at dksX1_basis_0 12 rfl rfl)
theorem dX1_basis_13 : decode cX1_basis 13 = .ok (.iload_n 1, 1) := dk_27 (dk_at dksX1_basis_0 13 rfl rfl)
theorem dX1_basis_14 : decode cX1_basis 14 = .ok (.iload_n 2, 1) := dk_28 (dk_at dksX1_basis_0 14 rfl rfl)
theorem dX1_basis_15 : decode cX1_basis 15 = .ok (.iload_n 3, 1) := dk_29 (dk_at dksX1_basis_0 15 rfl rfl)
theorem dX1_basis_16 : decode cX1_basis 16 = .ok (.invokevirtual 277, 3) := dk_182 1 21 (dk_at dksX1_basis_0 16 rfl rfl)
theorem dX1_basis_19 : decode cX1_basis 19 = .ok (.iconst (-1), 1) := dk_2 (dk_at dksX1_basis_0 19 rfl rfl)
theorem dX1_basis_20 : decode cX1_basis 20 = .ok (.if_icmp .ne 5, 3) := dk_160 0 5 (dk_at dksX1_basis_0 20 rfl rfl)
theorem dX1_basis_23 : decode cX1_basis 23 = .ok (.iconst (-1), 1) := dk_2 (dk_at dksX1_basis_0 23 rfl rfl)
theorem dX1_basis_24 : decode cX1_basis 24 = .ok (.ireturn, 1) := dk_172 (dk_at dksX1_basis_1 0 rfl rfl)
theorem dX1_basis_25 : decode cX1_basis 25 = .ok (.iconst 0, 1) := dk_3 (dk_at dksX1_basis_1 1 rfl rfl)
theorem dX1_basis_26 : decode cX1_basis 26 = .ok (.istore 4, 2) := dk_54 4 (dk_at dksX1_basis_1 2 rfl rfl)
theorem dX1_basis_28 : decode cX1_basis 28 = .ok (.iconst 0, 1) := dk_3 (dk_at dksX1_basis_1 4 rfl rfl)
theorem dX1_basis_29 : decode cX1_basis 29 = .ok (.istore 5, 2) := dk_54 5 (dk_at dksX1_basis_1 5 rfl rfl)
theorem dX1_basis_31 : decode cX1_basis 31 = .ok (.iconst 0, 1) := dk_3 (dk_at dksX1_basis_1 7 rfl rfl)
theorem dX1_basis_32 : decode cX1_basis 32 = .ok (.istore 6, 2) := dk_54 6 (dk_at dksX1_basis_1 8 rfl rfl)
theorem dX1_basis_34 : decode cX1_basis 34 = .ok (.iload 6, 2) := dk_21 6 (dk_at dksX1_basis_1 10 rfl rfl)
theorem dX1_basis_36 : decode cX1_basis 36 = .ok (.aload_n 0, 1) := dk_42 (dk_at dksX1_basis_1 12 rfl rfl)
theorem dX1_basis_37 : decode cX1_basis 37 = .ok (.getfield 26, 3) := dk_180 0 26 (dk_at dksX1_basis_1 13 rfl rfl)
theorem dX1_basis_40 : decode cX1_basis 40 = .ok (.getfield 114, 3) := dk_180 0 114 (dk_at dksX1_basis_1 16 rfl rfl)
theorem dX1_basis_43 : decode cX1_basis 43 = .ok (.if_icmp .ge 61, 3) := dk_162 0 61 (dk_at dksX1_basis_1 19 rfl rfl)
theorem dX1_basis_46 : decode cX1_basis 46 = .ok (.iload_n 1, 1) := dk_27 (dk_at dksX1_basis_1 22 rfl rfl)
theorem dX1_basis_47 : decode cX1_basis 47 = .ok (.iload 6, 2) := dk_21 6 (dk_at dksX1_basis_2 0 rfl rfl)
theorem dX1_basis_49 : decode cX1_basis 49 = .ok (.ishr, 1) := dk_122 (dk_at dksX1_basis_2 2 rfl rfl)
theorem dX1_basis_50 : decode cX1_basis 50 = .ok (.iconst 1, 1) := dk_4 (dk_at dksX1_basis_2 3 rfl rfl)
theorem dX1_basis_51 : decode cX1_basis 51 = .ok (.iand, 1) := dk_126 (dk_at dksX1_basis_2 4 rfl rfl)
theorem dX1_basis_52 : decode cX1_basis 52 = .ok (.ifCond .ne 6, 3) := dk_154 0 6 (dk_at dksX1_basis_2 5 rfl rfl)
theorem dX1_basis_55 : decode cX1_basis 55 = .ok (.goto 43, 3) := dk_167 0 43 (dk_at dksX1_basis_2 8 rfl rfl)
theorem dX1_basis_58 : decode cX1_basis 58 = .ok (.aload_n 0, 1) := dk_42 (dk_at dksX1_basis_2 11 rfl rfl)
theorem dX1_basis_59 : decode cX1_basis 59 = .ok (.iload_n 1, 1) := dk_27 (dk_at dksX1_basis_2 12 rfl rfl)
theorem dX1_basis_60 : decode cX1_basis 60 = .ok (.iconst 2, 1) := dk_5 (dk_at dksX1_basis_2 13 rfl rfl)
theorem dX1_basis_61 : decode cX1_basis 61 = .ok (.iload 6, 2) := dk_21 6 (dk_at dksX1_basis_2 14 rfl rfl)
theorem dX1_basis_63 : decode cX1_basis 63 = .ok (.ishl, 1) := dk_120 (dk_at dksX1_basis_2 16 rfl rfl)
theorem dX1_basis_64 : decode cX1_basis 64 = .ok (.iconst 1, 1) := dk_4 (dk_at dksX1_basis_2 17 rfl rfl)
theorem dX1_basis_65 : decode cX1_basis 65 = .ok (.isub, 1) := dk_100 (dk_at dksX1_basis_2 18 rfl rfl)
theorem dX1_basis_66 : decode cX1_basis 66 = .ok (.iand, 1) := dk_126 (dk_at dksX1_basis_2 19 rfl rfl)
theorem dX1_basis_67 : decode cX1_basis 67 = .ok (.iload_n 2, 1) := dk_28 (dk_at dksX1_basis_2 20 rfl rfl)
theorem dX1_basis_68 : decode cX1_basis 68 = .ok (.iload_n 3, 1) := dk_29 (dk_at dksX1_basis_2 21 rfl rfl)
theorem dX1_basis_69 : decode cX1_basis 69 = .ok (.invokevirtual 277, 3) := dk_182 1 21 (dk_at dksX1_basis_3 0 rfl rfl)
theorem dX1_basis_72 : decode cX1_basis 72 = .ok (.istore 7, 2) := dk_54 7 (dk_at dksX1_basis_3 3 rfl rfl)
theorem dX1_basis_74 : decode cX1_basis 74 = .ok (.iload 4, 2) := dk_21 4 (dk_at dksX1_basis_3 5 rfl rfl)
theorem dX1_basis_76 : decode cX1_basis 76 = .ok (.iload 7, 2) := dk_21 7 (dk_at dksX1_basis_3 7 rfl rfl)
theorem dX1_basis_78 : decode cX1_basis 78 = .ok (.iload 5, 2) := dk_21 5 (dk_at dksX1_basis_3 9 rfl rfl)
theorem dX1_basis_80 : decode cX1_basis 80 = .ok (.if_icmp .le 10, 3) := dk_164 0 10 (dk_at dksX1_basis_3 11 rfl rfl)
theorem dX1_basis_83 : decode cX1_basis 83 = .ok (.iconst 1, 1) := dk_4 (dk_at dksX1_basis_3 14 rfl rfl)
theorem dX1_basis_84 : decode cX1_basis 84 = .ok (.iload 6, 2) := dk_21 6 (dk_at dksX1_basis_3 15 rfl rfl)
theorem dX1_basis_86 : decode cX1_basis 86 = .ok (.ishl, 1) := dk_120 (dk_at dksX1_basis_3 17 rfl rfl)
theorem dX1_basis_87 : decode cX1_basis 87 = .ok (.goto 4, 3) := dk_167 0 4 (dk_at dksX1_basis_3 18 rfl rfl)
theorem dX1_basis_90 : decode cX1_basis 90 = .ok (.iconst 0, 1) := dk_3 (dk_at dksX1_basis_3 21 rfl rfl)
theorem dX1_basis_91 : decode cX1_basis 91 = .ok (.ior, 1) := dk_128 (dk_at dksX1_basis_3 22 rfl rfl)
theorem dX1_basis_92 : decode cX1_basis 92 = .ok (.istore 4, 2) := dk_54 4 (dk_at dksX1_basis_4 0 rfl rfl)
theorem dX1_basis_94 : decode cX1_basis 94 = .ok (.iload 7, 2) := dk_21 7 (dk_at dksX1_basis_4 2 rfl rfl)
theorem dX1_basis_96 : decode cX1_basis 96 = .ok (.istore 5, 2) := dk_54 5 (dk_at dksX1_basis_4 4 rfl rfl)
theorem dX1_basis_98 : decode cX1_basis 98 = .ok (.iinc 6 1, 3) := dk_132 6 1 (dk_at dksX1_basis_4 6 rfl rfl)
theorem dX1_basis_101 : decode cX1_basis 101 = .ok (.goto (-67), 3) := dk_167 255 189 (dk_at dksX1_basis_4 9 rfl rfl)
theorem dX1_basis_104 : decode cX1_basis 104 = .ok (.iload 4, 2) := dk_21 4 (dk_at dksX1_basis_4 12 rfl rfl)
theorem dX1_basis_106 : decode cX1_basis 106 = .ok (.ireturn, 1) := dk_172 (dk_at dksX1_basis_4 14 rfl rfl)
abbrev cX1_kind : ByteArray := prog_1_method_44_code
def yX1_kind : MethodName := ⟨RX1, "kind", "(I)I"⟩
def dkwX1_kind_2 : List UInt8 := [132, 3, 1, 167, 255, 215, 29, 172]
abbrev dktX1_kind_2 : List UInt8 := dkwX1_kind_2 ++ []
def dkwX1_kind_1 : List UInt8 := [160, 0, 22, 42, 42, 180, 0, 26, 180, 0, 105, 29, 50, 44, 4, 182, 1, 36, 2, 160, 0, 9]
abbrev dktX1_kind_1 : List UInt8 := dkwX1_kind_1 ++ dktX1_kind_2
def dkwX1_kind_0 : List UInt8 := [42, 27, 182, 0, 195, 77, 3, 62, 42, 180, 0, 26, 180, 0, 105, 29, 50, 180, 0, 192, 44, 180, 0, 192]
abbrev dktX1_kind_0 : List UInt8 := dkwX1_kind_0 ++ dktX1_kind_1
theorem dksX1_kind_0 : cX1_kind.data.toList.drop 0 = dktX1_kind_0 := by decide +kernel
theorem dksX1_kind_1 : cX1_kind.data.toList.drop 24 = dktX1_kind_1 := dk_seg dksX1_kind_0 24 rfl rfl
theorem dksX1_kind_2 : cX1_kind.data.toList.drop 46 = dktX1_kind_2 := dk_seg dksX1_kind_1 22 rfl rfl
theorem dX1_kind_0 : decode cX1_kind 0 = .ok (.aload_n 0, 1) := dk_42 (dk_at dksX1_kind_0 0 rfl rfl)
theorem dX1_kind_1 : decode cX1_kind 1 = .ok (.iload_n 1, 1) := dk_27 (dk_at dksX1_kind_0 1 rfl rfl)
theorem dX1_kind_2 : decode cX1_kind 2 = .ok (.invokevirtual 195, 3) := dk_182 0 195 (dk_at dksX1_kind_0 2 rfl rfl)
theorem dX1_kind_5 : decode cX1_kind 5 = .ok (.astore_n 2, 1) := dk_77 (dk_at dksX1_kind_0 5 rfl rfl)
theorem dX1_kind_6 : decode cX1_kind 6 = .ok (.iconst 0, 1) := dk_3 (dk_at dksX1_kind_0 6 rfl rfl)
theorem dX1_kind_7 : decode cX1_kind 7 = .ok (.istore_n 3, 1) := dk_62 (dk_at dksX1_kind_0 7 rfl rfl)
theorem dX1_kind_8 : decode cX1_kind 8 = .ok (.aload_n 0, 1) := dk_42 (dk_at dksX1_kind_0 8 rfl rfl)
theorem dX1_kind_9 : decode cX1_kind 9 = .ok (.getfield 26, 3) := dk_180 0 26 (dk_at dksX1_kind_0 9 rfl rfl)
theorem dX1_kind_12 : decode cX1_kind 12 = .ok (.getfield 105, 3) := dk_180 0 105 (dk_at dksX1_kind_0 12 rfl rfl)
theorem dX1_kind_15 : decode cX1_kind 15 = .ok (.iload_n 3, 1) := dk_29 (dk_at dksX1_kind_0 15 rfl rfl)
theorem dX1_kind_16 : decode cX1_kind 16 = .ok (.aaload, 1) := dk_50 (dk_at dksX1_kind_0 16 rfl rfl)
theorem dX1_kind_17 : decode cX1_kind 17 = .ok (.getfield 192, 3) := dk_180 0 192 (dk_at dksX1_kind_0 17 rfl rfl)
theorem dX1_kind_20 : decode cX1_kind 20 = .ok (.aload_n 2, 1) := dk_44 (dk_at dksX1_kind_0 20 rfl rfl)
theorem dX1_kind_21 : decode cX1_kind 21 = .ok (.getfield 192, 3) := dk_180 0 192 (dk_at dksX1_kind_0 21 rfl rfl)
theorem dX1_kind_24 : decode cX1_kind 24 = .ok (.if_icmp .ne 22, 3) := dk_160 0 22 (dk_at dksX1_kind_1 0 rfl rfl)
theorem dX1_kind_27 : decode cX1_kind 27 = .ok (.aload_n 0, 1) := dk_42 (dk_at dksX1_kind_1 3 rfl rfl)
theorem dX1_kind_28 : decode cX1_kind 28 = .ok (.aload_n 0, 1) := dk_42 (dk_at dksX1_kind_1 4 rfl rfl)
theorem dX1_kind_29 : decode cX1_kind 29 = .ok (.getfield 26, 3) := dk_180 0 26 (dk_at dksX1_kind_1 5 rfl rfl)
theorem dX1_kind_32 : decode cX1_kind 32 = .ok (.getfield 105, 3) := dk_180 0 105 (dk_at dksX1_kind_1 8 rfl rfl)
theorem dX1_kind_35 : decode cX1_kind 35 = .ok (.iload_n 3, 1) := dk_29 (dk_at dksX1_kind_1 11 rfl rfl)
theorem dX1_kind_36 : decode cX1_kind 36 = .ok (.aaload, 1) := dk_50 (dk_at dksX1_kind_1 12 rfl rfl)
theorem dX1_kind_37 : decode cX1_kind 37 = .ok (.aload_n 2, 1) := dk_44 (dk_at dksX1_kind_1 13 rfl rfl)
theorem dX1_kind_38 : decode cX1_kind 38 = .ok (.iconst 1, 1) := dk_4 (dk_at dksX1_kind_1 14 rfl rfl)
theorem dX1_kind_39 : decode cX1_kind 39 = .ok (.invokevirtual 292, 3) := dk_182 1 36 (dk_at dksX1_kind_1 15 rfl rfl)
theorem dX1_kind_42 : decode cX1_kind 42 = .ok (.iconst (-1), 1) := dk_2 (dk_at dksX1_kind_1 18 rfl rfl)
theorem dX1_kind_43 : decode cX1_kind 43 = .ok (.if_icmp .ne 9, 3) := dk_160 0 9 (dk_at dksX1_kind_1 19 rfl rfl)
theorem dX1_kind_46 : decode cX1_kind 46 = .ok (.iinc 3 1, 3) := dk_132 3 1 (dk_at dksX1_kind_2 0 rfl rfl)
theorem dX1_kind_49 : decode cX1_kind 49 = .ok (.goto (-41), 3) := dk_167 255 215 (dk_at dksX1_kind_2 3 rfl rfl)
theorem dX1_kind_52 : decode cX1_kind 52 = .ok (.iload_n 3, 1) := dk_29 (dk_at dksX1_kind_2 6 rfl rfl)
theorem dX1_kind_53 : decode cX1_kind 53 = .ok (.ireturn, 1) := dk_172 (dk_at dksX1_kind_2 7 rfl rfl)
abbrev cX1_tables : ByteArray := prog_1_method_41_code
def yX1_tables : MethodName := ⟨RX1, "tables", "(LLetterForms$Form;LLetterForms$Form;Z)I"⟩
def dkwX1_tables_10 : List UInt8 := [167, 255, 40, 29, 153, 0, 7, 2, 167, 0, 5, 21, 4, 172]
abbrev dktX1_tables_10 : List UInt8 := dkwX1_tables_10 ++ []
def dkwX1_tables_9 : List UInt8 := [132, 4, 1, 132, 9, 1, 167, 255, 142, 132, 8, 1, 167, 255, 107, 132, 7, 1, 167, 255, 91, 132, 6, 1]
abbrev dktX1_tables_9 : List UInt8 := dkwX1_tables_9 ++ dktX1_tables_10
def dkwX1_tables_8 : List UInt8 := [153, 0, 24, 16, 20, 21, 6, 104, 21, 7, 96, 16, 20, 104, 21, 8, 96, 16, 20, 104, 21, 9, 96, 172]
abbrev dktX1_tables_8 : List UInt8 := dkwX1_tables_8 ++ dktX1_tables_9
def dkwX1_tables_7 : List UInt8 := [42, 180, 0, 40, 182, 0, 211, 42, 180, 0, 40, 44, 182, 0, 215, 154, 0, 6, 167, 0, 31, 29]
abbrev dktX1_tables_7 : List UInt8 := dkwX1_tables_7 ++ dktX1_tables_8
def dkwX1_tables_6 : List UInt8 := [44, 180, 0, 192, 46, 159, 0, 6, 167, 0, 65, 42, 180, 0, 19, 43, 21, 6, 21, 7, 21, 8, 21, 9]
abbrev dktX1_tables_6 : List UInt8 := dkwX1_tables_6 ++ dktX1_tables_7
def dkwX1_tables_5 : List UInt8 := [21, 9, 182, 0, 173, 153, 0, 92, 42, 180, 0, 19, 43, 21, 7, 21, 9, 182, 0, 203, 44, 180, 0, 160]
abbrev dktX1_tables_5 : List UInt8 := dkwX1_tables_5 ++ dktX1_tables_6
def dkwX1_tables_4 : List UInt8 := [159, 0, 6, 167, 0, 123, 3, 54, 9, 21, 9, 21, 5, 162, 0, 113, 42, 21, 6, 21, 7, 21, 8]
abbrev dktX1_tables_4 : List UInt8 := dkwX1_tables_4 ++ dktX1_tables_5
def dkwX1_tables_3 : List UInt8 := [3, 54, 8, 21, 8, 21, 5, 162, 0, 148, 42, 180, 0, 75, 21, 8, 46, 44, 180, 0, 160, 3, 46]
abbrev dktX1_tables_3 : List UInt8 := dkwX1_tables_3 ++ dktX1_tables_4
def dkwX1_tables_2 : List UInt8 := [21, 6, 21, 7, 182, 0, 203, 79, 132, 7, 1, 167, 255, 227, 3, 54, 7, 21, 7, 21, 5, 162, 0, 164]
abbrev dktX1_tables_2 : List UInt8 := dkwX1_tables_2 ++ dktX1_tables_3
def dkwX1_tables_1 : List UInt8 := [162, 0, 215, 3, 54, 7, 21, 7, 21, 5, 162, 0, 28, 42, 180, 0, 75, 21, 7, 42, 180, 0, 19, 43]
abbrev dktX1_tables_1 : List UInt8 := dkwX1_tables_1 ++ dktX1_tables_2
def dkwX1_tables_0 : List UInt8 := [3, 54, 4, 42, 180, 0, 19, 180, 0, 141, 180, 0, 145, 54, 5, 3, 54, 6, 21, 6, 21, 5]
abbrev dktX1_tables_0 : List UInt8 := dkwX1_tables_0 ++ dktX1_tables_1
theorem dksX1_tables_0 : cX1_tables.data.toList.drop 0 = dktX1_tables_0 := by decide +kernel
theorem dksX1_tables_1 : cX1_tables.data.toList.drop 22 = dktX1_tables_1 := dk_seg dksX1_tables_0 22 rfl rfl
theorem dksX1_tables_2 : cX1_tables.data.toList.drop 46 = dktX1_tables_2 := dk_seg dksX1_tables_1 24 rfl rfl
theorem dksX1_tables_3 : cX1_tables.data.toList.drop 70 = dktX1_tables_3 := dk_seg dksX1_tables_2 24 rfl rfl
theorem dksX1_tables_4 : cX1_tables.data.toList.drop 93 = dktX1_tables_4 := dk_seg dksX1_tables_3 23 rfl rfl
theorem dksX1_tables_5 : cX1_tables.data.toList.drop 116 = dktX1_tables_5 := dk_seg dksX1_tables_4 23 rfl rfl
theorem dksX1_tables_6 : cX1_tables.data.toList.drop 140 = dktX1_tables_6 := dk_seg dksX1_tables_5 24 rfl rfl
theorem dksX1_tables_7 : cX1_tables.data.toList.drop 164 = dktX1_tables_7 := dk_seg dksX1_tables_6 24 rfl rfl
theorem dksX1_tables_8 : cX1_tables.data.toList.drop 186 = dktX1_tables_8 := dk_seg dksX1_tables_7 22 rfl rfl
theorem dksX1_tables_9 : cX1_tables.data.toList.drop 210 = dktX1_tables_9 := dk_seg dksX1_tables_8 24 rfl rfl
theorem dksX1_tables_10 : cX1_tables.data.toList.drop 234 = dktX1_tables_10 := dk_seg dksX1_tables_9 24 rfl rfl
theorem dX1_tables_0 : decode cX1_tables 0 = .ok (.iconst 0, 1) := dk_3 (dk_at dksX1_tables_0 0 rfl rfl)
theorem dX1_tables_1 : decode cX1_tables 1 = .ok (.istore 4, 2) := dk_54 4 (dk_at dksX1_tables_0 1 rfl rfl)
theorem dX1_tables_3 : decode cX1_tables 3 = .ok (.aload_n 0, 1) := dk_42 (dk_at dksX1_tables_0 3 rfl rfl)
theorem dX1_tables_4 : decode cX1_tables 4 = .ok (.getfield 19, 3) := dk_180 0 19 (dk_at dksX1_tables_0 4 rfl rfl)
theorem dX1_tables_7 : decode cX1_tables 7 = .ok (.getfield 141, 3) := dk_180 0 141 (dk_at dksX1_tables_0 7 rfl rfl)
theorem dX1_tables_10 : decode cX1_tables 10 = .ok (.getfield 145, 3) := dk_180 0 145 (dk_at dksX1_tables_0 10 rfl rfl)
theorem dX1_tables_13 : decode cX1_tables 13 = .ok (.istore 5, 2) := dk_54 5 (dk_at dksX1_tables_0 13 rfl rfl)
theorem dX1_tables_15 : decode cX1_tables 15 = .ok (.iconst 0, 1) := dk_3 (dk_at dksX1_tables_0 15 rfl rfl)
theorem dX1_tables_16 : decode cX1_tables 16 = .ok (.istore 6, 2) := dk_54 6 (dk_at dksX1_tables_0 16 rfl rfl)
theorem dX1_tables_18 : decode cX1_tables 18 = .ok (.iload 6, 2) := dk_21 6 (dk_at dksX1_tables_0 18 rfl rfl)
theorem dX1_tables_20 : decode cX1_tables 20 = .ok (.iload 5, 2) := dk_21 5 (dk_at dksX1_tables_0 20 rfl rfl)
theorem dX1_tables_22 : decode cX1_tables 22 = .ok (.if_icmp .ge 215, 3) := dk_162 0 215 (dk_at dksX1_tables_1 0 rfl rfl)
theorem dX1_tables_25 : decode cX1_tables 25 = .ok (.iconst 0, 1) := dk_3 (dk_at dksX1_tables_1 3 rfl rfl)
theorem dX1_tables_26 : decode cX1_tables 26 = .ok (.istore 7, 2) := dk_54 7 (dk_at dksX1_tables_1 4 rfl rfl)
theorem dX1_tables_28 : decode cX1_tables 28 = .ok (.iload 7, 2) := dk_21 7 (dk_at dksX1_tables_1 6 rfl rfl)
theorem dX1_tables_30 : decode cX1_tables 30 = .ok (.iload 5, 2) := dk_21 5 (dk_at dksX1_tables_1 8 rfl rfl)
theorem dX1_tables_32 : decode cX1_tables 32 = .ok (.if_icmp .ge 28, 3) := dk_162 0 28 (dk_at dksX1_tables_1 10 rfl rfl)
theorem dX1_tables_35 : decode cX1_tables 35 = .ok (.aload_n 0, 1) := dk_42 (dk_at dksX1_tables_1 13 rfl rfl)
theorem dX1_tables_36 : decode cX1_tables 36 = .ok (.getfield 75, 3) := dk_180 0 75 (dk_at dksX1_tables_1 14 rfl rfl)
theorem dX1_tables_39 : decode cX1_tables 39 = .ok (.iload 7, 2) := dk_21 7 (dk_at dksX1_tables_1 17 rfl rfl)
theorem dX1_tables_41 : decode cX1_tables 41 = .ok (.aload_n 0, 1) := dk_42 (dk_at dksX1_tables_1 19 rfl rfl)
theorem dX1_tables_42 : decode cX1_tables 42 = .ok (.getfield 19, 3) := dk_180 0 19 (dk_at dksX1_tables_1 20 rfl rfl)
theorem dX1_tables_45 : decode cX1_tables 45 = .ok (.aload_n 1, 1) := dk_43 (dk_at dksX1_tables_1 23 rfl rfl)
theorem dX1_tables_46 : decode cX1_tables 46 = .ok (.iload 6, 2) := dk_21 6 (dk_at dksX1_tables_2 0 rfl rfl)
theorem dX1_tables_48 : decode cX1_tables 48 = .ok (.iload 7, 2) := dk_21 7 (dk_at dksX1_tables_2 2 rfl rfl)
theorem dX1_tables_50 : decode cX1_tables 50 = .ok (.invokevirtual 203, 3) := dk_182 0 203 (dk_at dksX1_tables_2 4 rfl rfl)
theorem dX1_tables_53 : decode cX1_tables 53 = .ok (.iastore, 1) := dk_79 (dk_at dksX1_tables_2 7 rfl rfl)
theorem dX1_tables_54 : decode cX1_tables 54 = .ok (.iinc 7 1, 3) := dk_132 7 1 (dk_at dksX1_tables_2 8 rfl rfl)
theorem dX1_tables_57 : decode cX1_tables 57 = .ok (.goto (-29), 3) := dk_167 255 227 (dk_at dksX1_tables_2 11 rfl rfl)
theorem dX1_tables_60 : decode cX1_tables 60 = .ok (.iconst 0, 1) := dk_3 (dk_at dksX1_tables_2 14 rfl rfl)
theorem dX1_tables_61 : decode cX1_tables 61 = .ok (.istore 7, 2) := dk_54 7 (dk_at dksX1_tables_2 15 rfl rfl)
theorem dX1_tables_63 : decode cX1_tables 63 = .ok (.iload 7, 2) := dk_21 7 (dk_at dksX1_tables_2 17 rfl rfl)
theorem dX1_tables_65 : decode cX1_tables 65 = .ok (.iload 5, 2) := dk_21 5 (dk_at dksX1_tables_2 19 rfl rfl)
theorem dX1_tables_67 : decode cX1_tables 67 = .ok (.if_icmp .ge 164, 3) := dk_162 0 164 (dk_at dksX1_tables_2 21 rfl rfl)
theorem dX1_tables_70 : decode cX1_tables 70 = .ok (.iconst 0, 1) := dk_3 (dk_at dksX1_tables_3 0 rfl rfl)
theorem dX1_tables_71 : decode cX1_tables 71 = .ok (.istore 8, 2) := dk_54 8 (dk_at dksX1_tables_3 1 rfl rfl)
theorem dX1_tables_73 : decode cX1_tables 73 = .ok (.iload 8, 2) := dk_21 8 (dk_at dksX1_tables_3 3 rfl rfl)
theorem dX1_tables_75 : decode cX1_tables 75 = .ok (.iload 5, 2) := dk_21 5 (dk_at dksX1_tables_3 5 rfl rfl)
theorem dX1_tables_77 : decode cX1_tables 77 = .ok (.if_icmp .ge 148, 3) := dk_162 0 148 (dk_at dksX1_tables_3 7 rfl rfl)
theorem dX1_tables_80 : decode cX1_tables 80 = .ok (.aload_n 0, 1) := dk_42 (dk_at dksX1_tables_3 10 rfl rfl)
theorem dX1_tables_81 : decode cX1_tables 81 = .ok (.getfield 75, 3) := dk_180 0 75 (dk_at dksX1_tables_3 11 rfl rfl)
theorem dX1_tables_84 : decode cX1_tables 84 = .ok (.iload 8, 2) := dk_21 8 (dk_at dksX1_tables_3 14 rfl rfl)
theorem dX1_tables_86 : decode cX1_tables 86 = .ok (.iaload, 1) := dk_46 (dk_at dksX1_tables_3 16 rfl rfl)
theorem dX1_tables_87 : decode cX1_tables 87 = .ok (.aload_n 2, 1) := dk_44 (dk_at dksX1_tables_3 17 rfl rfl)
theorem dX1_tables_88 : decode cX1_tables 88 = .ok (.getfield 160, 3) := dk_180 0 160 (dk_at dksX1_tables_3 18 rfl rfl)
theorem dX1_tables_91 : decode cX1_tables 91 = .ok (.iconst 0, 1) := dk_3 (dk_at dksX1_tables_3 21 rfl rfl)
theorem dX1_tables_92 : decode cX1_tables 92 = .ok (.iaload, 1) := dk_46 (dk_at dksX1_tables_3 22 rfl rfl)
theorem dX1_tables_93 : decode cX1_tables 93 = .ok (.if_icmp .eq 6, 3) := dk_159 0 6 (dk_at dksX1_tables_4 0 rfl rfl)
theorem dX1_tables_96 : decode cX1_tables 96 = .ok (.goto 123, 3) := dk_167 0 123 (dk_at dksX1_tables_4 3 rfl rfl)
theorem dX1_tables_99 : decode cX1_tables 99 = .ok (.iconst 0, 1) := dk_3 (dk_at dksX1_tables_4 6 rfl rfl)
theorem dX1_tables_100 : decode cX1_tables 100 = .ok (.istore 9, 2) := dk_54 9 (dk_at dksX1_tables_4 7 rfl rfl)
theorem dX1_tables_102 : decode cX1_tables 102 = .ok (.iload 9, 2) := dk_21 9 (dk_at dksX1_tables_4 9 rfl rfl)
theorem dX1_tables_104 : decode cX1_tables 104 = .ok (.iload 5, 2) := dk_21 5 (dk_at dksX1_tables_4 11 rfl rfl)
theorem dX1_tables_106 : decode cX1_tables 106 = .ok (.if_icmp .ge 113, 3) := dk_162 0 113 (dk_at dksX1_tables_4 13 rfl rfl)
theorem dX1_tables_109 : decode cX1_tables 109 = .ok (.aload_n 0, 1) := dk_42 (dk_at dksX1_tables_4 16 rfl rfl)
theorem dX1_tables_110 : decode cX1_tables 110 = .ok (.iload 6, 2) := dk_21 6 (dk_at dksX1_tables_4 17 rfl rfl)
theorem dX1_tables_112 : decode cX1_tables 112 = .ok (.iload 7, 2) := dk_21 7 (dk_at dksX1_tables_4 19 rfl rfl)
theorem dX1_tables_114 : decode cX1_tables 114 = .ok (.iload 8, 2) := dk_21 8 (dk_at dksX1_tables_4 21 rfl rfl)
theorem dX1_tables_116 : decode cX1_tables 116 = .ok (.iload 9, 2) := dk_21 9 (dk_at dksX1_tables_5 0 rfl rfl)
theorem dX1_tables_118 : decode cX1_tables 118 = .ok (.invokevirtual 173, 3) := dk_182 0 173 (dk_at dksX1_tables_5 2 rfl rfl)
theorem dX1_tables_121 : decode cX1_tables 121 = .ok (.ifCond .eq 92, 3) := dk_153 0 92 (dk_at dksX1_tables_5 5 rfl rfl)
theorem dX1_tables_124 : decode cX1_tables 124 = .ok (.aload_n 0, 1) := dk_42 (dk_at dksX1_tables_5 8 rfl rfl)
theorem dX1_tables_125 : decode cX1_tables 125 = .ok (.getfield 19, 3) := dk_180 0 19 (dk_at dksX1_tables_5 9 rfl rfl)
theorem dX1_tables_128 : decode cX1_tables 128 = .ok (.aload_n 1, 1) := dk_43 (dk_at dksX1_tables_5 12 rfl rfl)
theorem dX1_tables_129 : decode cX1_tables 129 = .ok (.iload 7, 2) := dk_21 7 (dk_at dksX1_tables_5 13 rfl rfl)
theorem dX1_tables_131 : decode cX1_tables 131 = .ok (.iload 9, 2) := dk_21 9 (dk_at dksX1_tables_5 15 rfl rfl)
theorem dX1_tables_133 : decode cX1_tables 133 = .ok (.invokevirtual 203, 3) := dk_182 0 203 (dk_at dksX1_tables_5 17 rfl rfl)
theorem dX1_tables_136 : decode cX1_tables 136 = .ok (.aload_n 2, 1) := dk_44 (dk_at dksX1_tables_5 20 rfl rfl)
theorem dX1_tables_137 : decode cX1_tables 137 = .ok (.getfield 160, 3) := dk_180 0 160 (dk_at dksX1_tables_5 21 rfl rfl)
theorem dX1_tables_140 : decode cX1_tables 140 = .ok (.aload_n 2, 1) := dk_44 (dk_at dksX1_tables_6 0 rfl rfl)
theorem dX1_tables_141 : decode cX1_tables 141 = .ok (.getfield 192, 3) := dk_180 0 192 (dk_at dksX1_tables_6 1 rfl rfl)
theorem dX1_tables_144 : decode cX1_tables 144 = .ok (.iaload, 1) := dk_46 (dk_at dksX1_tables_6 4 rfl rfl)
theorem dX1_tables_145 : decode cX1_tables 145 = .ok (.if_icmp .eq 6, 3) := dk_159 0 6 (dk_at dksX1_tables_6 5 rfl rfl)
theorem dX1_tables_148 : decode cX1_tables 148 = .ok (.goto 65, 3) := dk_167 0 65 (dk_at dksX1_tables_6 8 rfl rfl)
theorem dX1_tables_151 : decode cX1_tables 151 = .ok (.aload_n 0, 1) := dk_42 (dk_at dksX1_tables_6 11 rfl rfl)
theorem dX1_tables_152 : decode cX1_tables 152 = .ok (.getfield 19, 3) := dk_180 0 19 (dk_at dksX1_tables_6 12 rfl rfl)
theorem dX1_tables_155 : decode cX1_tables 155 = .ok (.aload_n 1, 1) := dk_43 (dk_at dksX1_tables_6 15 rfl rfl)
theorem dX1_tables_156 : decode cX1_tables 156 = .ok (.iload 6, 2) := dk_21 6 (dk_at dksX1_tables_6 16 rfl rfl)
theorem dX1_tables_158 : decode cX1_tables 158 = .ok (.iload 7, 2) := dk_21 7 (dk_at dksX1_tables_6 18 rfl rfl)
theorem dX1_tables_160 : decode cX1_tables 160 = .ok (.iload 8, 2) := dk_21 8 (dk_at dksX1_tables_6 20 rfl rfl)
theorem dX1_tables_162 : decode cX1_tables 162 = .ok (.iload 9, 2) := dk_21 9 (dk_at dksX1_tables_6 22 rfl rfl)
theorem dX1_tables_164 : decode cX1_tables 164 = .ok (.aload_n 0, 1) := dk_42 (dk_at dksX1_tables_7 0 rfl rfl)
theorem dX1_tables_165 : decode cX1_tables 165 = .ok (.getfield 40, 3) := dk_180 0 40 (dk_at dksX1_tables_7 1 rfl rfl)
theorem dX1_tables_168 : decode cX1_tables 168 = .ok (.invokevirtual 211, 3) := dk_182 0 211 (dk_at dksX1_tables_7 4 rfl rfl)
theorem dX1_tables_171 : decode cX1_tables 171 = .ok (.aload_n 0, 1) := dk_42 (dk_at dksX1_tables_7 7 rfl rfl)
theorem dX1_tables_172 : decode cX1_tables 172 = .ok (.getfield 40, 3) := dk_180 0 40 (dk_at dksX1_tables_7 8 rfl rfl)
theorem dX1_tables_175 : decode cX1_tables 175 = .ok (.aload_n 2, 1) := dk_44 (dk_at dksX1_tables_7 11 rfl rfl)
theorem dX1_tables_176 : decode cX1_tables 176 = .ok (.invokevirtual 215, 3) := dk_182 0 215 (dk_at dksX1_tables_7 12 rfl rfl)
theorem dX1_tables_179 : decode cX1_tables 179 = .ok (.ifCond .ne 6, 3) := dk_154 0 6 (dk_at dksX1_tables_7 15 rfl rfl)
theorem dX1_tables_182 : decode cX1_tables 182 = .ok (.goto 31, 3) := dk_167 0 31 (dk_at dksX1_tables_7 18 rfl rfl)
theorem dX1_tables_185 : decode cX1_tables 185 = .ok (.iload_n 3, 1) := dk_29 (dk_at dksX1_tables_7 21 rfl rfl)
theorem dX1_tables_186 : decode cX1_tables 186 = .ok (.ifCond .eq 24, 3) := dk_153 0 24 (dk_at dksX1_tables_8 0 rfl rfl)
theorem dX1_tables_189 : decode cX1_tables 189 = .ok (.bipush 20, 2) := dk_16 20 (dk_at dksX1_tables_8 3 rfl rfl)
theorem dX1_tables_191 : decode cX1_tables 191 = .ok (.iload 6, 2) := dk_21 6 (dk_at dksX1_tables_8 5 rfl rfl)
theorem dX1_tables_193 : decode cX1_tables 193 = .ok (.imul, 1) := dk_104 (dk_at dksX1_tables_8 7 rfl rfl)
theorem dX1_tables_194 : decode cX1_tables 194 = .ok (.iload 7, 2) := dk_21 7 (dk_at dksX1_tables_8 8 rfl rfl)
theorem dX1_tables_196 : decode cX1_tables 196 = .ok (.iadd, 1) := dk_96 (dk_at dksX1_tables_8 10 rfl rfl)
theorem dX1_tables_197 : decode cX1_tables 197 = .ok (.bipush 20, 2) := dk_16 20 (dk_at dksX1_tables_8 11 rfl rfl)
theorem dX1_tables_199 : decode cX1_tables 199 = .ok (.imul, 1) := dk_104 (dk_at dksX1_tables_8 13 rfl rfl)
theorem dX1_tables_200 : decode cX1_tables 200 = .ok (.iload 8, 2) := dk_21 8 (dk_at dksX1_tables_8 14 rfl rfl)
theorem dX1_tables_202 : decode cX1_tables 202 = .ok (.iadd, 1) := dk_96 (dk_at dksX1_tables_8 16 rfl rfl)
theorem dX1_tables_203 : decode cX1_tables 203 = .ok (.bipush 20, 2) := dk_16 20 (dk_at dksX1_tables_8 17 rfl rfl)
theorem dX1_tables_205 : decode cX1_tables 205 = .ok (.imul, 1) := dk_104 (dk_at dksX1_tables_8 19 rfl rfl)
theorem dX1_tables_206 : decode cX1_tables 206 = .ok (.iload 9, 2) := dk_21 9 (dk_at dksX1_tables_8 20 rfl rfl)
theorem dX1_tables_208 : decode cX1_tables 208 = .ok (.iadd, 1) := dk_96 (dk_at dksX1_tables_8 22 rfl rfl)
theorem dX1_tables_209 : decode cX1_tables 209 = .ok (.ireturn, 1) := dk_172 (dk_at dksX1_tables_8 23 rfl rfl)
theorem dX1_tables_210 : decode cX1_tables 210 = .ok (.iinc 4 1, 3) := dk_132 4 1 (dk_at dksX1_tables_9 0 rfl rfl)
theorem dX1_tables_213 : decode cX1_tables 213 = .ok (.iinc 9 1, 3) := dk_132 9 1 (dk_at dksX1_tables_9 3 rfl rfl)
theorem dX1_tables_216 : decode cX1_tables 216 = .ok (.goto (-114), 3) := dk_167 255 142 (dk_at dksX1_tables_9 6 rfl rfl)
theorem dX1_tables_219 : decode cX1_tables 219 = .ok (.iinc 8 1, 3) := dk_132 8 1 (dk_at dksX1_tables_9 9 rfl rfl)
theorem dX1_tables_222 : decode cX1_tables 222 = .ok (.goto (-149), 3) := dk_167 255 107 (dk_at dksX1_tables_9 12 rfl rfl)
theorem dX1_tables_225 : decode cX1_tables 225 = .ok (.iinc 7 1, 3) := dk_132 7 1 (dk_at dksX1_tables_9 15 rfl rfl)
theorem dX1_tables_228 : decode cX1_tables 228 = .ok (.goto (-165), 3) := dk_167 255 91 (dk_at dksX1_tables_9 18 rfl rfl)
theorem dX1_tables_231 : decode cX1_tables 231 = .ok (.iinc 6 1, 3) := dk_132 6 1 (dk_at dksX1_tables_9 21 rfl rfl)
theorem dX1_tables_234 : decode cX1_tables 234 = .ok (.goto (-216), 3) := dk_167 255 40 (dk_at dksX1_tables_10 0 rfl rfl)
theorem dX1_tables_237 : decode cX1_tables 237 = .ok (.iload_n 3, 1) := dk_29 (dk_at dksX1_tables_10 3 rfl rfl)
theorem dX1_tables_238 : decode cX1_tables 238 = .ok (.ifCond .eq 7, 3) := dk_153 0 7 (dk_at dksX1_tables_10 4 rfl rfl)
theorem dX1_tables_241 : decode cX1_tables 241 = .ok (.iconst (-1), 1) := dk_2 (dk_at dksX1_tables_10 7 rfl rfl)
theorem dX1_tables_242 : decode cX1_tables 242 = .ok (.goto 5, 3) := dk_167 0 5 (dk_at dksX1_tables_10 8 rfl rfl)
theorem dX1_tables_245 : decode cX1_tables 245 = .ok (.iload 4, 2) := dk_21 4 (dk_at dksX1_tables_10 11 rfl rfl)
theorem dX1_tables_247 : decode cX1_tables 247 = .ok (.ireturn, 1) := dk_172 (dk_at dksX1_tables_10 13 rfl rfl)
abbrev cX1_orbit : ByteArray := prog_1_method_45_code
def yX1_orbit : MethodName := ⟨RX1, "orbit", "(I)I"⟩
def dkwX1_orbit_1 : List UInt8 := [104, 29, 100, 104, 42, 44, 44, 3, 182, 1, 36, 108, 172]
abbrev dktX1_orbit_1 : List UInt8 := dkwX1_orbit_1 ++ []
def dkwX1_orbit_0 : List UInt8 := [42, 27, 182, 0, 195, 77, 42, 180, 0, 19, 180, 0, 141, 180, 0, 145, 62, 29, 29, 104, 4, 100, 29, 29]
abbrev dktX1_orbit_0 : List UInt8 := dkwX1_orbit_0 ++ dktX1_orbit_1
theorem dksX1_orbit_0 : cX1_orbit.data.toList.drop 0 = dktX1_orbit_0 := by decide +kernel
theorem dksX1_orbit_1 : cX1_orbit.data.toList.drop 24 = dktX1_orbit_1 := dk_seg dksX1_orbit_0 24 rfl rfl
theorem dX1_orbit_0 : decode cX1_orbit 0 = .ok (.aload_n 0, 1) := dk_42 (dk_at dksX1_orbit_0 0 rfl rfl)
theorem dX1_orbit_1 : decode cX1_orbit 1 = .ok (.iload_n 1, 1) := dk_27 (dk_at dksX1_orbit_0 1 rfl rfl)
theorem dX1_orbit_2 : decode cX1_orbit 2 = .ok (.invokevirtual 195, 3) := dk_182 0 195 (dk_at dksX1_orbit_0 2 rfl rfl)
theorem dX1_orbit_5 : decode cX1_orbit 5 = .ok (.astore_n 2, 1) := dk_77 (dk_at dksX1_orbit_0 5 rfl rfl)
theorem dX1_orbit_6 : decode cX1_orbit 6 = .ok (.aload_n 0, 1) := dk_42 (dk_at dksX1_orbit_0 6 rfl rfl)
theorem dX1_orbit_7 : decode cX1_orbit 7 = .ok (.getfield 19, 3) := dk_180 0 19 (dk_at dksX1_orbit_0 7 rfl rfl)
theorem dX1_orbit_10 : decode cX1_orbit 10 = .ok (.getfield 141, 3) := dk_180 0 141 (dk_at dksX1_orbit_0 10 rfl rfl)
theorem dX1_orbit_13 : decode cX1_orbit 13 = .ok (.getfield 145, 3) := dk_180 0 145 (dk_at dksX1_orbit_0 13 rfl rfl)
theorem dX1_orbit_16 : decode cX1_orbit 16 = .ok (.istore_n 3, 1) := dk_62 (dk_at dksX1_orbit_0 16 rfl rfl)
theorem dX1_orbit_17 : decode cX1_orbit 17 = .ok (.iload_n 3, 1) := dk_29 (dk_at dksX1_orbit_0 17 rfl rfl)
theorem dX1_orbit_18 : decode cX1_orbit 18 = .ok (.iload_n 3, 1) := dk_29 (dk_at dksX1_orbit_0 18 rfl rfl)
theorem dX1_orbit_19 : decode cX1_orbit 19 = .ok (.imul, 1) := dk_104 (dk_at dksX1_orbit_0 19 rfl rfl)
theorem dX1_orbit_20 : decode cX1_orbit 20 = .ok (.iconst 1, 1) := dk_4 (dk_at dksX1_orbit_0 20 rfl rfl)
theorem dX1_orbit_21 : decode cX1_orbit 21 = .ok (.isub, 1) := dk_100 (dk_at dksX1_orbit_0 21 rfl rfl)
theorem dX1_orbit_22 : decode cX1_orbit 22 = .ok (.iload_n 3, 1) := dk_29 (dk_at dksX1_orbit_0 22 rfl rfl)
theorem dX1_orbit_23 : decode cX1_orbit 23 = .ok (.iload_n 3, 1) := dk_29 (dk_at dksX1_orbit_0 23 rfl rfl)
theorem dX1_orbit_24 : decode cX1_orbit 24 = .ok (.imul, 1) := dk_104 (dk_at dksX1_orbit_1 0 rfl rfl)
theorem dX1_orbit_25 : decode cX1_orbit 25 = .ok (.iload_n 3, 1) := dk_29 (dk_at dksX1_orbit_1 1 rfl rfl)
theorem dX1_orbit_26 : decode cX1_orbit 26 = .ok (.isub, 1) := dk_100 (dk_at dksX1_orbit_1 2 rfl rfl)
theorem dX1_orbit_27 : decode cX1_orbit 27 = .ok (.imul, 1) := dk_104 (dk_at dksX1_orbit_1 3 rfl rfl)
theorem dX1_orbit_28 : decode cX1_orbit 28 = .ok (.aload_n 0, 1) := dk_42 (dk_at dksX1_orbit_1 4 rfl rfl)
theorem dX1_orbit_29 : decode cX1_orbit 29 = .ok (.aload_n 2, 1) := dk_44 (dk_at dksX1_orbit_1 5 rfl rfl)
theorem dX1_orbit_30 : decode cX1_orbit 30 = .ok (.aload_n 2, 1) := dk_44 (dk_at dksX1_orbit_1 6 rfl rfl)
theorem dX1_orbit_31 : decode cX1_orbit 31 = .ok (.iconst 0, 1) := dk_3 (dk_at dksX1_orbit_1 7 rfl rfl)
theorem dX1_orbit_32 : decode cX1_orbit 32 = .ok (.invokevirtual 292, 3) := dk_182 1 36 (dk_at dksX1_orbit_1 8 rfl rfl)
theorem dX1_orbit_35 : decode cX1_orbit 35 = .ok (.idiv, 1) := dk_108 (dk_at dksX1_orbit_1 11 rfl rfl)
theorem dX1_orbit_36 : decode cX1_orbit 36 = .ok (.ireturn, 1) := dk_172 (dk_at dksX1_orbit_1 12 rfl rfl)
abbrev cX1_join : ByteArray := prog_1_method_48_code
def yX1_join : MethodName := ⟨RX1, "join", "(II)I"⟩
def dkwX1_join_3 : List UInt8 := [46, 25, 4, 4, 46, 45, 6, 46, 25, 4, 6, 46, 182, 1, 39, 182, 1, 42, 172]
abbrev dktX1_join_3 : List UInt8 := dkwX1_join_3 ++ []
def dkwX1_join_2 : List UInt8 := [182, 1, 39, 42, 45, 5, 46, 25, 4, 3, 46, 45, 6, 46, 25, 4, 5, 46, 182, 1, 39, 42, 45, 5]
abbrev dktX1_join_2 : List UInt8 := dkwX1_join_2 ++ dktX1_join_3
def dkwX1_join_1 : List UInt8 := [46, 25, 4, 5, 46, 182, 1, 39, 42, 45, 3, 46, 25, 4, 4, 46, 45, 4, 46, 25, 4, 6, 46]
abbrev dktX1_join_1 : List UInt8 := dkwX1_join_1 ++ dktX1_join_2
def dkwX1_join_0 : List UInt8 := [42, 27, 182, 0, 207, 78, 42, 28, 182, 0, 207, 58, 4, 42, 42, 45, 3, 46, 25, 4, 3, 46, 45, 4]
abbrev dktX1_join_0 : List UInt8 := dkwX1_join_0 ++ dktX1_join_1
theorem dksX1_join_0 : cX1_join.data.toList.drop 0 = dktX1_join_0 := by decide +kernel
theorem dksX1_join_1 : cX1_join.data.toList.drop 24 = dktX1_join_1 := dk_seg dksX1_join_0 24 rfl rfl
theorem dksX1_join_2 : cX1_join.data.toList.drop 47 = dktX1_join_2 := dk_seg dksX1_join_1 23 rfl rfl
theorem dksX1_join_3 : cX1_join.data.toList.drop 71 = dktX1_join_3 := dk_seg dksX1_join_2 24 rfl rfl
theorem dX1_join_0 : decode cX1_join 0 = .ok (.aload_n 0, 1) := dk_42 (dk_at dksX1_join_0 0 rfl rfl)
theorem dX1_join_1 : decode cX1_join 1 = .ok (.iload_n 1, 1) := dk_27 (dk_at dksX1_join_0 1 rfl rfl)
theorem dX1_join_2 : decode cX1_join 2 = .ok (.invokevirtual 207, 3) := dk_182 0 207 (dk_at dksX1_join_0 2 rfl rfl)
theorem dX1_join_5 : decode cX1_join 5 = .ok (.astore_n 3, 1) := dk_78 (dk_at dksX1_join_0 5 rfl rfl)
theorem dX1_join_6 : decode cX1_join 6 = .ok (.aload_n 0, 1) := dk_42 (dk_at dksX1_join_0 6 rfl rfl)
theorem dX1_join_7 : decode cX1_join 7 = .ok (.iload_n 2, 1) := dk_28 (dk_at dksX1_join_0 7 rfl rfl)
theorem dX1_join_8 : decode cX1_join 8 = .ok (.invokevirtual 207, 3) := dk_182 0 207 (dk_at dksX1_join_0 8 rfl rfl)
theorem dX1_join_11 : decode cX1_join 11 = .ok (.astore 4, 2) := dk_58 4 (dk_at dksX1_join_0 11 rfl rfl)
theorem dX1_join_13 : decode cX1_join 13 = .ok (.aload_n 0, 1) := dk_42 (dk_at dksX1_join_0 13 rfl rfl)
theorem dX1_join_14 : decode cX1_join 14 = .ok (.aload_n 0, 1) := dk_42 (dk_at dksX1_join_0 14 rfl rfl)
theorem dX1_join_15 : decode cX1_join 15 = .ok (.aload_n 3, 1) := dk_45 (dk_at dksX1_join_0 15 rfl rfl)
theorem dX1_join_16 : decode cX1_join 16 = .ok (.iconst 0, 1) := dk_3 (dk_at dksX1_join_0 16 rfl rfl)
theorem dX1_join_17 : decode cX1_join 17 = .ok (.iaload, 1) := dk_46 (dk_at dksX1_join_0 17 rfl rfl)
theorem dX1_join_18 : decode cX1_join 18 = .ok (.aload 4, 2) := dk_25 4 (dk_at dksX1_join_0 18 rfl rfl)
theorem dX1_join_20 : decode cX1_join 20 = .ok (.iconst 0, 1) := dk_3 (dk_at dksX1_join_0 20 rfl rfl)
theorem dX1_join_21 : decode cX1_join 21 = .ok (.iaload, 1) := dk_46 (dk_at dksX1_join_0 21 rfl rfl)
theorem dX1_join_22 : decode cX1_join 22 = .ok (.aload_n 3, 1) := dk_45 (dk_at dksX1_join_0 22 rfl rfl)
theorem dX1_join_23 : decode cX1_join 23 = .ok (.iconst 1, 1) := dk_4 (dk_at dksX1_join_0 23 rfl rfl)
theorem dX1_join_24 : decode cX1_join 24 = .ok (.iaload, 1) := dk_46 (dk_at dksX1_join_1 0 rfl rfl)
theorem dX1_join_25 : decode cX1_join 25 = .ok (.aload 4, 2) := dk_25 4 (dk_at dksX1_join_1 1 rfl rfl)
theorem dX1_join_27 : decode cX1_join 27 = .ok (.iconst 2, 1) := dk_5 (dk_at dksX1_join_1 3 rfl rfl)
theorem dX1_join_28 : decode cX1_join 28 = .ok (.iaload, 1) := dk_46 (dk_at dksX1_join_1 4 rfl rfl)
theorem dX1_join_29 : decode cX1_join 29 = .ok (.invokevirtual 295, 3) := dk_182 1 39 (dk_at dksX1_join_1 5 rfl rfl)
theorem dX1_join_32 : decode cX1_join 32 = .ok (.aload_n 0, 1) := dk_42 (dk_at dksX1_join_1 8 rfl rfl)
theorem dX1_join_33 : decode cX1_join 33 = .ok (.aload_n 3, 1) := dk_45 (dk_at dksX1_join_1 9 rfl rfl)
theorem dX1_join_34 : decode cX1_join 34 = .ok (.iconst 0, 1) := dk_3 (dk_at dksX1_join_1 10 rfl rfl)
theorem dX1_join_35 : decode cX1_join 35 = .ok (.iaload, 1) := dk_46 (dk_at dksX1_join_1 11 rfl rfl)
theorem dX1_join_36 : decode cX1_join 36 = .ok (.aload 4, 2) := dk_25 4 (dk_at dksX1_join_1 12 rfl rfl)
theorem dX1_join_38 : decode cX1_join 38 = .ok (.iconst 1, 1) := dk_4 (dk_at dksX1_join_1 14 rfl rfl)
theorem dX1_join_39 : decode cX1_join 39 = .ok (.iaload, 1) := dk_46 (dk_at dksX1_join_1 15 rfl rfl)
theorem dX1_join_40 : decode cX1_join 40 = .ok (.aload_n 3, 1) := dk_45 (dk_at dksX1_join_1 16 rfl rfl)
theorem dX1_join_41 : decode cX1_join 41 = .ok (.iconst 1, 1) := dk_4 (dk_at dksX1_join_1 17 rfl rfl)
theorem dX1_join_42 : decode cX1_join 42 = .ok (.iaload, 1) := dk_46 (dk_at dksX1_join_1 18 rfl rfl)
theorem dX1_join_43 : decode cX1_join 43 = .ok (.aload 4, 2) := dk_25 4 (dk_at dksX1_join_1 19 rfl rfl)
theorem dX1_join_45 : decode cX1_join 45 = .ok (.iconst 3, 1) := dk_6 (dk_at dksX1_join_1 21 rfl rfl)
theorem dX1_join_46 : decode cX1_join 46 = .ok (.iaload, 1) := dk_46 (dk_at dksX1_join_1 22 rfl rfl)
theorem dX1_join_47 : decode cX1_join 47 = .ok (.invokevirtual 295, 3) := dk_182 1 39 (dk_at dksX1_join_2 0 rfl rfl)
theorem dX1_join_50 : decode cX1_join 50 = .ok (.aload_n 0, 1) := dk_42 (dk_at dksX1_join_2 3 rfl rfl)
theorem dX1_join_51 : decode cX1_join 51 = .ok (.aload_n 3, 1) := dk_45 (dk_at dksX1_join_2 4 rfl rfl)
theorem dX1_join_52 : decode cX1_join 52 = .ok (.iconst 2, 1) := dk_5 (dk_at dksX1_join_2 5 rfl rfl)
theorem dX1_join_53 : decode cX1_join 53 = .ok (.iaload, 1) := dk_46 (dk_at dksX1_join_2 6 rfl rfl)
theorem dX1_join_54 : decode cX1_join 54 = .ok (.aload 4, 2) := dk_25 4 (dk_at dksX1_join_2 7 rfl rfl)
theorem dX1_join_56 : decode cX1_join 56 = .ok (.iconst 0, 1) := dk_3 (dk_at dksX1_join_2 9 rfl rfl)
theorem dX1_join_57 : decode cX1_join 57 = .ok (.iaload, 1) := dk_46 (dk_at dksX1_join_2 10 rfl rfl)
theorem dX1_join_58 : decode cX1_join 58 = .ok (.aload_n 3, 1) := dk_45 (dk_at dksX1_join_2 11 rfl rfl)
theorem dX1_join_59 : decode cX1_join 59 = .ok (.iconst 3, 1) := dk_6 (dk_at dksX1_join_2 12 rfl rfl)
theorem dX1_join_60 : decode cX1_join 60 = .ok (.iaload, 1) := dk_46 (dk_at dksX1_join_2 13 rfl rfl)
theorem dX1_join_61 : decode cX1_join 61 = .ok (.aload 4, 2) := dk_25 4 (dk_at dksX1_join_2 14 rfl rfl)
theorem dX1_join_63 : decode cX1_join 63 = .ok (.iconst 2, 1) := dk_5 (dk_at dksX1_join_2 16 rfl rfl)
theorem dX1_join_64 : decode cX1_join 64 = .ok (.iaload, 1) := dk_46 (dk_at dksX1_join_2 17 rfl rfl)
theorem dX1_join_65 : decode cX1_join 65 = .ok (.invokevirtual 295, 3) := dk_182 1 39 (dk_at dksX1_join_2 18 rfl rfl)
theorem dX1_join_68 : decode cX1_join 68 = .ok (.aload_n 0, 1) := dk_42 (dk_at dksX1_join_2 21 rfl rfl)
theorem dX1_join_69 : decode cX1_join 69 = .ok (.aload_n 3, 1) := dk_45 (dk_at dksX1_join_2 22 rfl rfl)
theorem dX1_join_70 : decode cX1_join 70 = .ok (.iconst 2, 1) := dk_5 (dk_at dksX1_join_2 23 rfl rfl)
theorem dX1_join_71 : decode cX1_join 71 = .ok (.iaload, 1) := dk_46 (dk_at dksX1_join_3 0 rfl rfl)
theorem dX1_join_72 : decode cX1_join 72 = .ok (.aload 4, 2) := dk_25 4 (dk_at dksX1_join_3 1 rfl rfl)
theorem dX1_join_74 : decode cX1_join 74 = .ok (.iconst 1, 1) := dk_4 (dk_at dksX1_join_3 3 rfl rfl)
theorem dX1_join_75 : decode cX1_join 75 = .ok (.iaload, 1) := dk_46 (dk_at dksX1_join_3 4 rfl rfl)
theorem dX1_join_76 : decode cX1_join 76 = .ok (.aload_n 3, 1) := dk_45 (dk_at dksX1_join_3 5 rfl rfl)
theorem dX1_join_77 : decode cX1_join 77 = .ok (.iconst 3, 1) := dk_6 (dk_at dksX1_join_3 6 rfl rfl)
theorem dX1_join_78 : decode cX1_join 78 = .ok (.iaload, 1) := dk_46 (dk_at dksX1_join_3 7 rfl rfl)
theorem dX1_join_79 : decode cX1_join 79 = .ok (.aload 4, 2) := dk_25 4 (dk_at dksX1_join_3 8 rfl rfl)
theorem dX1_join_81 : decode cX1_join 81 = .ok (.iconst 3, 1) := dk_6 (dk_at dksX1_join_3 10 rfl rfl)
theorem dX1_join_82 : decode cX1_join 82 = .ok (.iaload, 1) := dk_46 (dk_at dksX1_join_3 11 rfl rfl)
theorem dX1_join_83 : decode cX1_join 83 = .ok (.invokevirtual 295, 3) := dk_182 1 39 (dk_at dksX1_join_3 12 rfl rfl)
theorem dX1_join_86 : decode cX1_join 86 = .ok (.invokevirtual 298, 3) := dk_182 1 42 (dk_at dksX1_join_3 15 rfl rfl)
theorem dX1_join_89 : decode cX1_join 89 = .ok (.ireturn, 1) := dk_172 (dk_at dksX1_join_3 18 rfl rfl)
abbrev cX1_two : ByteArray := prog_1_method_47_code
def yX1_two : MethodName := ⟨RX1, "two", "(IIII)I"⟩
def dkwX1_two_0 : List UInt8 := [42, 180, 0, 19, 180, 0, 141, 27, 133, 28, 133, 105, 29, 133, 21, 4, 133, 105, 97, 182, 0, 163, 172]
abbrev dktX1_two_0 : List UInt8 := dkwX1_two_0 ++ []
theorem dksX1_two_0 : cX1_two.data.toList.drop 0 = dktX1_two_0 := by decide +kernel
theorem dX1_two_0 : decode cX1_two 0 = .ok (.aload_n 0, 1) := dk_42 (dk_at dksX1_two_0 0 rfl rfl)
theorem dX1_two_1 : decode cX1_two 1 = .ok (.getfield 19, 3) := dk_180 0 19 (dk_at dksX1_two_0 1 rfl rfl)
theorem dX1_two_4 : decode cX1_two 4 = .ok (.getfield 141, 3) := dk_180 0 141 (dk_at dksX1_two_0 4 rfl rfl)
theorem dX1_two_7 : decode cX1_two 7 = .ok (.iload_n 1, 1) := dk_27 (dk_at dksX1_two_0 7 rfl rfl)
theorem dX1_two_8 : decode cX1_two 8 = .ok (.i2l, 1) := dk_133 (dk_at dksX1_two_0 8 rfl rfl)
theorem dX1_two_9 : decode cX1_two 9 = .ok (.iload_n 2, 1) := dk_28 (dk_at dksX1_two_0 9 rfl rfl)
theorem dX1_two_10 : decode cX1_two 10 = .ok (.i2l, 1) := dk_133 (dk_at dksX1_two_0 10 rfl rfl)
theorem dX1_two_11 : decode cX1_two 11 = .ok (.lmul, 1) := dk_105 (dk_at dksX1_two_0 11 rfl rfl)
theorem dX1_two_12 : decode cX1_two 12 = .ok (.iload_n 3, 1) := dk_29 (dk_at dksX1_two_0 12 rfl rfl)
theorem dX1_two_13 : decode cX1_two 13 = .ok (.i2l, 1) := dk_133 (dk_at dksX1_two_0 13 rfl rfl)
theorem dX1_two_14 : decode cX1_two 14 = .ok (.iload 4, 2) := dk_21 4 (dk_at dksX1_two_0 14 rfl rfl)
theorem dX1_two_16 : decode cX1_two 16 = .ok (.i2l, 1) := dk_133 (dk_at dksX1_two_0 16 rfl rfl)
theorem dX1_two_17 : decode cX1_two 17 = .ok (.lmul, 1) := dk_105 (dk_at dksX1_two_0 17 rfl rfl)
theorem dX1_two_18 : decode cX1_two 18 = .ok (.ladd, 1) := dk_97 (dk_at dksX1_two_0 18 rfl rfl)
theorem dX1_two_19 : decode cX1_two 19 = .ok (.invokevirtual 163, 3) := dk_182 0 163 (dk_at dksX1_two_0 19 rfl rfl)
theorem dX1_two_22 : decode cX1_two 22 = .ok (.ireturn, 1) := dk_172 (dk_at dksX1_two_0 22 rfl rfl)
abbrev cX1_adds : ByteArray := prog_1_method_46_code
def yX1_adds : MethodName := ⟨RX1, "adds", "(IIII)I"⟩
def dkwX1_adds_3 : List UInt8 := [42, 180, 0, 26, 180, 0, 108, 4, 100, 172]
abbrev dktX1_adds_3 : List UInt8 := dkwX1_adds_3 ++ []
def dkwX1_adds_2 : List UInt8 := [25, 5, 5, 29, 79, 25, 5, 6, 21, 4, 79, 42, 180, 0, 26, 89, 180, 0, 108, 4, 96, 181, 0, 108]
abbrev dktX1_adds_2 : List UInt8 := dkwX1_adds_2 ++ dktX1_adds_3
def dkwX1_adds_1 : List UInt8 := [180, 0, 111, 42, 180, 0, 26, 180, 0, 108, 50, 58, 5, 25, 5, 3, 27, 79, 25, 5, 4, 28, 79]
abbrev dktX1_adds_1 : List UInt8 := dkwX1_adds_1 ++ dktX1_adds_2
def dkwX1_adds_0 : List UInt8 := [42, 180, 0, 26, 180, 0, 108, 16, 8, 162, 0, 7, 4, 167, 0, 4, 3, 184, 0, 154, 42, 180, 0, 26]
abbrev dktX1_adds_0 : List UInt8 := dkwX1_adds_0 ++ dktX1_adds_1
theorem dksX1_adds_0 : cX1_adds.data.toList.drop 0 = dktX1_adds_0 := by decide +kernel
theorem dksX1_adds_1 : cX1_adds.data.toList.drop 24 = dktX1_adds_1 := dk_seg dksX1_adds_0 24 rfl rfl
theorem dksX1_adds_2 : cX1_adds.data.toList.drop 47 = dktX1_adds_2 := dk_seg dksX1_adds_1 23 rfl rfl
theorem dksX1_adds_3 : cX1_adds.data.toList.drop 71 = dktX1_adds_3 := dk_seg dksX1_adds_2 24 rfl rfl
theorem dX1_adds_0 : decode cX1_adds 0 = .ok (.aload_n 0, 1) := dk_42 (dk_at dksX1_adds_0 0 rfl rfl)
theorem dX1_adds_1 : decode cX1_adds 1 = .ok (.getfield 26, 3) := dk_180 0 26 (dk_at dksX1_adds_0 1 rfl rfl)
theorem dX1_adds_4 : decode cX1_adds 4 = .ok (.getfield 108, 3) := dk_180 0 108 (dk_at dksX1_adds_0 4 rfl rfl)
theorem dX1_adds_7 : decode cX1_adds 7 = .ok (.bipush 8, 2) := dk_16 8 (dk_at dksX1_adds_0 7 rfl rfl)
theorem dX1_adds_9 : decode cX1_adds 9 = .ok (.if_icmp .ge 7, 3) := dk_162 0 7 (dk_at dksX1_adds_0 9 rfl rfl)
theorem dX1_adds_12 : decode cX1_adds 12 = .ok (.iconst 1, 1) := dk_4 (dk_at dksX1_adds_0 12 rfl rfl)
theorem dX1_adds_13 : decode cX1_adds 13 = .ok (.goto 4, 3) := dk_167 0 4 (dk_at dksX1_adds_0 13 rfl rfl)
theorem dX1_adds_16 : decode cX1_adds 16 = .ok (.iconst 0, 1) := dk_3 (dk_at dksX1_adds_0 16 rfl rfl)
theorem dX1_adds_17 : decode cX1_adds 17 = .ok (.invokestatic 154, 3) := dk_184 0 154 (dk_at dksX1_adds_0 17 rfl rfl)
theorem dX1_adds_20 : decode cX1_adds 20 = .ok (.aload_n 0, 1) := dk_42 (dk_at dksX1_adds_0 20 rfl rfl)
theorem dX1_adds_21 : decode cX1_adds 21 = .ok (.getfield 26, 3) := dk_180 0 26 (dk_at dksX1_adds_0 21 rfl rfl)
theorem dX1_adds_24 : decode cX1_adds 24 = .ok (.getfield 111, 3) := dk_180 0 111 (dk_at dksX1_adds_1 0 rfl rfl)
theorem dX1_adds_27 : decode cX1_adds 27 = .ok (.aload_n 0, 1) := dk_42 (dk_at dksX1_adds_1 3 rfl rfl)
theorem dX1_adds_28 : decode cX1_adds 28 = .ok (.getfield 26, 3) := dk_180 0 26 (dk_at dksX1_adds_1 4 rfl rfl)
theorem dX1_adds_31 : decode cX1_adds 31 = .ok (.getfield 108, 3) := dk_180 0 108 (dk_at dksX1_adds_1 7 rfl rfl)
theorem dX1_adds_34 : decode cX1_adds 34 = .ok (.aaload, 1) := dk_50 (dk_at dksX1_adds_1 10 rfl rfl)
theorem dX1_adds_35 : decode cX1_adds 35 = .ok (.astore 5, 2) := dk_58 5 (dk_at dksX1_adds_1 11 rfl rfl)
theorem dX1_adds_37 : decode cX1_adds 37 = .ok (.aload 5, 2) := dk_25 5 (dk_at dksX1_adds_1 13 rfl rfl)
theorem dX1_adds_39 : decode cX1_adds 39 = .ok (.iconst 0, 1) := dk_3 (dk_at dksX1_adds_1 15 rfl rfl)
theorem dX1_adds_40 : decode cX1_adds 40 = .ok (.iload_n 1, 1) := dk_27 (dk_at dksX1_adds_1 16 rfl rfl)
theorem dX1_adds_41 : decode cX1_adds 41 = .ok (.iastore, 1) := dk_79 (dk_at dksX1_adds_1 17 rfl rfl)
theorem dX1_adds_42 : decode cX1_adds 42 = .ok (.aload 5, 2) := dk_25 5 (dk_at dksX1_adds_1 18 rfl rfl)
theorem dX1_adds_44 : decode cX1_adds 44 = .ok (.iconst 1, 1) := dk_4 (dk_at dksX1_adds_1 20 rfl rfl)
theorem dX1_adds_45 : decode cX1_adds 45 = .ok (.iload_n 2, 1) := dk_28 (dk_at dksX1_adds_1 21 rfl rfl)
theorem dX1_adds_46 : decode cX1_adds 46 = .ok (.iastore, 1) := dk_79 (dk_at dksX1_adds_1 22 rfl rfl)
theorem dX1_adds_47 : decode cX1_adds 47 = .ok (.aload 5, 2) := dk_25 5 (dk_at dksX1_adds_2 0 rfl rfl)
theorem dX1_adds_49 : decode cX1_adds 49 = .ok (.iconst 2, 1) := dk_5 (dk_at dksX1_adds_2 2 rfl rfl)
theorem dX1_adds_50 : decode cX1_adds 50 = .ok (.iload_n 3, 1) := dk_29 (dk_at dksX1_adds_2 3 rfl rfl)
theorem dX1_adds_51 : decode cX1_adds 51 = .ok (.iastore, 1) := dk_79 (dk_at dksX1_adds_2 4 rfl rfl)
theorem dX1_adds_52 : decode cX1_adds 52 = .ok (.aload 5, 2) := dk_25 5 (dk_at dksX1_adds_2 5 rfl rfl)
theorem dX1_adds_54 : decode cX1_adds 54 = .ok (.iconst 3, 1) := dk_6 (dk_at dksX1_adds_2 7 rfl rfl)
theorem dX1_adds_55 : decode cX1_adds 55 = .ok (.iload 4, 2) := dk_21 4 (dk_at dksX1_adds_2 8 rfl rfl)
theorem dX1_adds_57 : decode cX1_adds 57 = .ok (.iastore, 1) := dk_79 (dk_at dksX1_adds_2 10 rfl rfl)
theorem dX1_adds_58 : decode cX1_adds 58 = .ok (.aload_n 0, 1) := dk_42 (dk_at dksX1_adds_2 11 rfl rfl)
theorem dX1_adds_59 : decode cX1_adds 59 = .ok (.getfield 26, 3) := dk_180 0 26 (dk_at dksX1_adds_2 12 rfl rfl)
theorem dX1_adds_62 : decode cX1_adds 62 = .ok (.dup, 1) := dk_89 (dk_at dksX1_adds_2 15 rfl rfl)
theorem dX1_adds_63 : decode cX1_adds 63 = .ok (.getfield 108, 3) := dk_180 0 108 (dk_at dksX1_adds_2 16 rfl rfl)
theorem dX1_adds_66 : decode cX1_adds 66 = .ok (.iconst 1, 1) := dk_4 (dk_at dksX1_adds_2 19 rfl rfl)
theorem dX1_adds_67 : decode cX1_adds 67 = .ok (.iadd, 1) := dk_96 (dk_at dksX1_adds_2 20 rfl rfl)
theorem dX1_adds_68 : decode cX1_adds 68 = .ok (.putfield 108, 3) := dk_181 0 108 (dk_at dksX1_adds_2 21 rfl rfl)
theorem dX1_adds_71 : decode cX1_adds 71 = .ok (.aload_n 0, 1) := dk_42 (dk_at dksX1_adds_3 0 rfl rfl)
theorem dX1_adds_72 : decode cX1_adds 72 = .ok (.getfield 26, 3) := dk_180 0 26 (dk_at dksX1_adds_3 1 rfl rfl)
theorem dX1_adds_75 : decode cX1_adds 75 = .ok (.getfield 108, 3) := dk_180 0 108 (dk_at dksX1_adds_3 4 rfl rfl)
theorem dX1_adds_78 : decode cX1_adds 78 = .ok (.iconst 1, 1) := dk_4 (dk_at dksX1_adds_3 7 rfl rfl)
theorem dX1_adds_79 : decode cX1_adds 79 = .ok (.isub, 1) := dk_100 (dk_at dksX1_adds_3 8 rfl rfl)
theorem dX1_adds_80 : decode cX1_adds 80 = .ok (.ireturn, 1) := dk_172 (dk_at dksX1_adds_3 9 rfl rfl)
abbrev cX1_turn : ByteArray := prog_1_method_49_code
def yX1_turn : MethodName := ⟨RX1, "turn", "(I)I"⟩
def dkwX1_turn_3 : List UInt8 := [3, 182, 1, 39, 182, 1, 42, 172]
abbrev dktX1_turn_3 : List UInt8 := dkwX1_turn_3 ++ []
def dkwX1_turn_2 : List UInt8 := [116, 29, 3, 3, 182, 1, 39, 42, 44, 5, 46, 116, 29, 3, 3, 182, 1, 39, 42, 44, 3, 46, 29, 3]
abbrev dktX1_turn_2 : List UInt8 := dkwX1_turn_2 ++ dktX1_turn_3
def dkwX1_turn_1 : List UInt8 := [6, 46, 182, 0, 173, 182, 1, 29, 62, 42, 42, 44, 6, 46, 29, 3, 3, 182, 1, 39, 42, 44, 4, 46]
abbrev dktX1_turn_1 : List UInt8 := dkwX1_turn_1 ++ dktX1_turn_2
def dkwX1_turn_0 : List UInt8 := [42, 27, 182, 0, 207, 77, 42, 180, 0, 19, 180, 0, 141, 42, 44, 3, 46, 44, 4, 46, 44, 5, 46, 44]
abbrev dktX1_turn_0 : List UInt8 := dkwX1_turn_0 ++ dktX1_turn_1
theorem dksX1_turn_0 : cX1_turn.data.toList.drop 0 = dktX1_turn_0 := by decide +kernel
theorem dksX1_turn_1 : cX1_turn.data.toList.drop 24 = dktX1_turn_1 := dk_seg dksX1_turn_0 24 rfl rfl
theorem dksX1_turn_2 : cX1_turn.data.toList.drop 48 = dktX1_turn_2 := dk_seg dksX1_turn_1 24 rfl rfl
theorem dksX1_turn_3 : cX1_turn.data.toList.drop 72 = dktX1_turn_3 := dk_seg dksX1_turn_2 24 rfl rfl
theorem dX1_turn_0 : decode cX1_turn 0 = .ok (.aload_n 0, 1) := dk_42 (dk_at dksX1_turn_0 0 rfl rfl)
theorem dX1_turn_1 : decode cX1_turn 1 = .ok (.iload_n 1, 1) := dk_27 (dk_at dksX1_turn_0 1 rfl rfl)
theorem dX1_turn_2 : decode cX1_turn 2 = .ok (.invokevirtual 207, 3) := dk_182 0 207 (dk_at dksX1_turn_0 2 rfl rfl)
theorem dX1_turn_5 : decode cX1_turn 5 = .ok (.astore_n 2, 1) := dk_77 (dk_at dksX1_turn_0 5 rfl rfl)
theorem dX1_turn_6 : decode cX1_turn 6 = .ok (.aload_n 0, 1) := dk_42 (dk_at dksX1_turn_0 6 rfl rfl)
theorem dX1_turn_7 : decode cX1_turn 7 = .ok (.getfield 19, 3) := dk_180 0 19 (dk_at dksX1_turn_0 7 rfl rfl)
theorem dX1_turn_10 : decode cX1_turn 10 = .ok (.getfield 141, 3) := dk_180 0 141 (dk_at dksX1_turn_0 10 rfl rfl)
theorem dX1_turn_13 : decode cX1_turn 13 = .ok (.aload_n 0, 1) := dk_42 (dk_at dksX1_turn_0 13 rfl rfl)
theorem dX1_turn_14 : decode cX1_turn 14 = .ok (.aload_n 2, 1) := dk_44 (dk_at dksX1_turn_0 14 rfl rfl)
theorem dX1_turn_15 : decode cX1_turn 15 = .ok (.iconst 0, 1) := dk_3 (dk_at dksX1_turn_0 15 rfl rfl)
theorem dX1_turn_16 : decode cX1_turn 16 = .ok (.iaload, 1) := dk_46 (dk_at dksX1_turn_0 16 rfl rfl)
theorem dX1_turn_17 : decode cX1_turn 17 = .ok (.aload_n 2, 1) := dk_44 (dk_at dksX1_turn_0 17 rfl rfl)
theorem dX1_turn_18 : decode cX1_turn 18 = .ok (.iconst 1, 1) := dk_4 (dk_at dksX1_turn_0 18 rfl rfl)
theorem dX1_turn_19 : decode cX1_turn 19 = .ok (.iaload, 1) := dk_46 (dk_at dksX1_turn_0 19 rfl rfl)
theorem dX1_turn_20 : decode cX1_turn 20 = .ok (.aload_n 2, 1) := dk_44 (dk_at dksX1_turn_0 20 rfl rfl)
theorem dX1_turn_21 : decode cX1_turn 21 = .ok (.iconst 2, 1) := dk_5 (dk_at dksX1_turn_0 21 rfl rfl)
theorem dX1_turn_22 : decode cX1_turn 22 = .ok (.iaload, 1) := dk_46 (dk_at dksX1_turn_0 22 rfl rfl)
theorem dX1_turn_23 : decode cX1_turn 23 = .ok (.aload_n 2, 1) := dk_44 (dk_at dksX1_turn_0 23 rfl rfl)
theorem dX1_turn_24 : decode cX1_turn 24 = .ok (.iconst 3, 1) := dk_6 (dk_at dksX1_turn_1 0 rfl rfl)
theorem dX1_turn_25 : decode cX1_turn 25 = .ok (.iaload, 1) := dk_46 (dk_at dksX1_turn_1 1 rfl rfl)
theorem dX1_turn_26 : decode cX1_turn 26 = .ok (.invokevirtual 173, 3) := dk_182 0 173 (dk_at dksX1_turn_1 2 rfl rfl)
theorem dX1_turn_29 : decode cX1_turn 29 = .ok (.invokevirtual 285, 3) := dk_182 1 29 (dk_at dksX1_turn_1 5 rfl rfl)
theorem dX1_turn_32 : decode cX1_turn 32 = .ok (.istore_n 3, 1) := dk_62 (dk_at dksX1_turn_1 8 rfl rfl)
theorem dX1_turn_33 : decode cX1_turn 33 = .ok (.aload_n 0, 1) := dk_42 (dk_at dksX1_turn_1 9 rfl rfl)
theorem dX1_turn_34 : decode cX1_turn 34 = .ok (.aload_n 0, 1) := dk_42 (dk_at dksX1_turn_1 10 rfl rfl)
theorem dX1_turn_35 : decode cX1_turn 35 = .ok (.aload_n 2, 1) := dk_44 (dk_at dksX1_turn_1 11 rfl rfl)
theorem dX1_turn_36 : decode cX1_turn 36 = .ok (.iconst 3, 1) := dk_6 (dk_at dksX1_turn_1 12 rfl rfl)
theorem dX1_turn_37 : decode cX1_turn 37 = .ok (.iaload, 1) := dk_46 (dk_at dksX1_turn_1 13 rfl rfl)
theorem dX1_turn_38 : decode cX1_turn 38 = .ok (.iload_n 3, 1) := dk_29 (dk_at dksX1_turn_1 14 rfl rfl)
theorem dX1_turn_39 : decode cX1_turn 39 = .ok (.iconst 0, 1) := dk_3 (dk_at dksX1_turn_1 15 rfl rfl)
theorem dX1_turn_40 : decode cX1_turn 40 = .ok (.iconst 0, 1) := dk_3 (dk_at dksX1_turn_1 16 rfl rfl)
theorem dX1_turn_41 : decode cX1_turn 41 = .ok (.invokevirtual 295, 3) := dk_182 1 39 (dk_at dksX1_turn_1 17 rfl rfl)
theorem dX1_turn_44 : decode cX1_turn 44 = .ok (.aload_n 0, 1) := dk_42 (dk_at dksX1_turn_1 20 rfl rfl)
theorem dX1_turn_45 : decode cX1_turn 45 = .ok (.aload_n 2, 1) := dk_44 (dk_at dksX1_turn_1 21 rfl rfl)
theorem dX1_turn_46 : decode cX1_turn 46 = .ok (.iconst 1, 1) := dk_4 (dk_at dksX1_turn_1 22 rfl rfl)
theorem dX1_turn_47 : decode cX1_turn 47 = .ok (.iaload, 1) := dk_46 (dk_at dksX1_turn_1 23 rfl rfl)
theorem dX1_turn_48 : decode cX1_turn 48 = .ok (.ineg, 1) := dk_116 (dk_at dksX1_turn_2 0 rfl rfl)
theorem dX1_turn_49 : decode cX1_turn 49 = .ok (.iload_n 3, 1) := dk_29 (dk_at dksX1_turn_2 1 rfl rfl)
theorem dX1_turn_50 : decode cX1_turn 50 = .ok (.iconst 0, 1) := dk_3 (dk_at dksX1_turn_2 2 rfl rfl)
theorem dX1_turn_51 : decode cX1_turn 51 = .ok (.iconst 0, 1) := dk_3 (dk_at dksX1_turn_2 3 rfl rfl)
theorem dX1_turn_52 : decode cX1_turn 52 = .ok (.invokevirtual 295, 3) := dk_182 1 39 (dk_at dksX1_turn_2 4 rfl rfl)
theorem dX1_turn_55 : decode cX1_turn 55 = .ok (.aload_n 0, 1) := dk_42 (dk_at dksX1_turn_2 7 rfl rfl)
theorem dX1_turn_56 : decode cX1_turn 56 = .ok (.aload_n 2, 1) := dk_44 (dk_at dksX1_turn_2 8 rfl rfl)
theorem dX1_turn_57 : decode cX1_turn 57 = .ok (.iconst 2, 1) := dk_5 (dk_at dksX1_turn_2 9 rfl rfl)
theorem dX1_turn_58 : decode cX1_turn 58 = .ok (.iaload, 1) := dk_46 (dk_at dksX1_turn_2 10 rfl rfl)
theorem dX1_turn_59 : decode cX1_turn 59 = .ok (.ineg, 1) := dk_116 (dk_at dksX1_turn_2 11 rfl rfl)
theorem dX1_turn_60 : decode cX1_turn 60 = .ok (.iload_n 3, 1) := dk_29 (dk_at dksX1_turn_2 12 rfl rfl)
theorem dX1_turn_61 : decode cX1_turn 61 = .ok (.iconst 0, 1) := dk_3 (dk_at dksX1_turn_2 13 rfl rfl)
theorem dX1_turn_62 : decode cX1_turn 62 = .ok (.iconst 0, 1) := dk_3 (dk_at dksX1_turn_2 14 rfl rfl)
theorem dX1_turn_63 : decode cX1_turn 63 = .ok (.invokevirtual 295, 3) := dk_182 1 39 (dk_at dksX1_turn_2 15 rfl rfl)
theorem dX1_turn_66 : decode cX1_turn 66 = .ok (.aload_n 0, 1) := dk_42 (dk_at dksX1_turn_2 18 rfl rfl)
theorem dX1_turn_67 : decode cX1_turn 67 = .ok (.aload_n 2, 1) := dk_44 (dk_at dksX1_turn_2 19 rfl rfl)
theorem dX1_turn_68 : decode cX1_turn 68 = .ok (.iconst 0, 1) := dk_3 (dk_at dksX1_turn_2 20 rfl rfl)
theorem dX1_turn_69 : decode cX1_turn 69 = .ok (.iaload, 1) := dk_46 (dk_at dksX1_turn_2 21 rfl rfl)
theorem dX1_turn_70 : decode cX1_turn 70 = .ok (.iload_n 3, 1) := dk_29 (dk_at dksX1_turn_2 22 rfl rfl)
theorem dX1_turn_71 : decode cX1_turn 71 = .ok (.iconst 0, 1) := dk_3 (dk_at dksX1_turn_2 23 rfl rfl)
theorem dX1_turn_72 : decode cX1_turn 72 = .ok (.iconst 0, 1) := dk_3 (dk_at dksX1_turn_3 0 rfl rfl)
theorem dX1_turn_73 : decode cX1_turn 73 = .ok (.invokevirtual 295, 3) := dk_182 1 39 (dk_at dksX1_turn_3 1 rfl rfl)
theorem dX1_turn_76 : decode cX1_turn 76 = .ok (.invokevirtual 298, 3) := dk_182 1 42 (dk_at dksX1_turn_3 4 rfl rfl)
theorem dX1_turn_79 : decode cX1_turn 79 = .ok (.ireturn, 1) := dk_172 (dk_at dksX1_turn_3 7 rfl rfl)
abbrev cX1_told : ByteArray := prog_1_method_50_code
def yX1_told : MethodName := ⟨RX1, "told", "(II)I"⟩
def dkwX1_told_1 : List UInt8 := [2, 172]
abbrev dktX1_told_1 : List UInt8 := dkwX1_told_1 ++ []
def dkwX1_told_0 : List UInt8 := [42, 27, 182, 0, 207, 78, 28, 133, 9, 20, 1, 45, 184, 0, 97, 153, 0, 9, 45, 28, 46, 167, 0, 4]
abbrev dktX1_told_0 : List UInt8 := dkwX1_told_0 ++ dktX1_told_1
theorem dksX1_told_0 : cX1_told.data.toList.drop 0 = dktX1_told_0 := by decide +kernel
theorem dksX1_told_1 : cX1_told.data.toList.drop 24 = dktX1_told_1 := dk_seg dksX1_told_0 24 rfl rfl
theorem dX1_told_0 : decode cX1_told 0 = .ok (.aload_n 0, 1) := dk_42 (dk_at dksX1_told_0 0 rfl rfl)
theorem dX1_told_1 : decode cX1_told 1 = .ok (.iload_n 1, 1) := dk_27 (dk_at dksX1_told_0 1 rfl rfl)
theorem dX1_told_2 : decode cX1_told 2 = .ok (.invokevirtual 207, 3) := dk_182 0 207 (dk_at dksX1_told_0 2 rfl rfl)
theorem dX1_told_5 : decode cX1_told 5 = .ok (.astore_n 3, 1) := dk_78 (dk_at dksX1_told_0 5 rfl rfl)
theorem dX1_told_6 : decode cX1_told 6 = .ok (.iload_n 2, 1) := dk_28 (dk_at dksX1_told_0 6 rfl rfl)
theorem dX1_told_7 : decode cX1_told 7 = .ok (.i2l, 1) := dk_133 (dk_at dksX1_told_0 7 rfl rfl)
theorem dX1_told_8 : decode cX1_told 8 = .ok (.lconst 0, 1) := dk_9 (dk_at dksX1_told_0 8 rfl rfl)
theorem dX1_told_9 : decode cX1_told 9 = .ok (.ldc2_w 301, 3) := dk_20 1 45 (dk_at dksX1_told_0 9 rfl rfl)
theorem dX1_told_12 : decode cX1_told 12 = .ok (.invokestatic 97, 3) := dk_184 0 97 (dk_at dksX1_told_0 12 rfl rfl)
theorem dX1_told_15 : decode cX1_told 15 = .ok (.ifCond .eq 9, 3) := dk_153 0 9 (dk_at dksX1_told_0 15 rfl rfl)
theorem dX1_told_18 : decode cX1_told 18 = .ok (.aload_n 3, 1) := dk_45 (dk_at dksX1_told_0 18 rfl rfl)
theorem dX1_told_19 : decode cX1_told 19 = .ok (.iload_n 2, 1) := dk_28 (dk_at dksX1_told_0 19 rfl rfl)
theorem dX1_told_20 : decode cX1_told 20 = .ok (.iaload, 1) := dk_46 (dk_at dksX1_told_0 20 rfl rfl)
theorem dX1_told_21 : decode cX1_told 21 = .ok (.goto 4, 3) := dk_167 0 4 (dk_at dksX1_told_0 21 rfl rfl)
theorem dX1_told_24 : decode cX1_told 24 = .ok (.iconst (-1), 1) := dk_2 (dk_at dksX1_told_1 0 rfl rfl)
theorem dX1_told_25 : decode cX1_told 25 = .ok (.ireturn, 1) := dk_172 (dk_at dksX1_told_1 1 rfl rfl)
abbrev cX1_quotient : ByteArray := prog_1_method_60_code
def yX1_quotient : MethodName := ⟨RX1, "quotient", "(III)I"⟩
def dkwX1_quotient_10 : List UInt8 := [25, 10, 29, 184, 0, 199, 167, 0, 5, 16, 254, 172]
abbrev dktX1_quotient_10 : List UInt8 := dkwX1_quotient_10 ++ []
def dkwX1_quotient_9 : List UInt8 := [182, 0, 163, 79, 132, 12, 1, 167, 255, 190, 132, 11, 1, 167, 255, 140, 25, 9, 182, 1, 65, 153, 0, 12]
abbrev dktX1_quotient_9 : List UInt8 := dkwX1_quotient_9 ++ dktX1_quotient_10
def dkwX1_quotient_8 : List UInt8 := [96, 46, 133, 25, 10, 180, 0, 160, 21, 11, 46, 133, 25, 5, 180, 0, 160, 21, 12, 46, 133, 105, 101]
abbrev dktX1_quotient_8 : List UInt8 := dkwX1_quotient_8 ++ dktX1_quotient_9
def dkwX1_quotient_7 : List UInt8 := [180, 0, 160, 21, 11, 21, 12, 96, 42, 180, 0, 19, 180, 0, 141, 25, 9, 180, 0, 160, 21, 11, 21, 12]
abbrev dktX1_quotient_7 : List UInt8 := dkwX1_quotient_7 ++ dktX1_quotient_8
def dkwX1_quotient_6 : List UInt8 := [21, 8, 133, 105, 182, 0, 163, 79, 3, 54, 12, 21, 12, 25, 5, 180, 0, 192, 163, 0, 62, 25, 9]
abbrev dktX1_quotient_6 : List UInt8 := dkwX1_quotient_6 ++ dktX1_quotient_7
def dkwX1_quotient_5 : List UInt8 := [180, 0, 160, 21, 11, 42, 180, 0, 19, 180, 0, 141, 25, 9, 180, 0, 160, 21, 11, 21, 7, 96, 46, 133]
abbrev dktX1_quotient_5 : List UInt8 := dkwX1_quotient_5 ++ dktX1_quotient_6
def dkwX1_quotient_4 : List UInt8 := [25, 4, 182, 0, 223, 25, 10, 21, 6, 182, 0, 157, 3, 54, 11, 21, 11, 21, 6, 163, 0, 115, 25, 10]
abbrev dktX1_quotient_4 : List UInt8 := dkwX1_quotient_4 ++ dktX1_quotient_5
def dkwX1_quotient_3 : List UInt8 := [182, 1, 29, 54, 8, 42, 180, 0, 35, 3, 50, 58, 9, 42, 180, 0, 35, 4, 50, 58, 10, 25, 9]
abbrev dktX1_quotient_3 : List UInt8 := dkwX1_quotient_3 ++ dktX1_quotient_4
def dkwX1_quotient_2 : List UInt8 := [180, 0, 47, 182, 1, 68, 54, 7, 42, 180, 0, 19, 180, 0, 141, 25, 5, 180, 0, 160, 21, 7, 46]
abbrev dktX1_quotient_2 : List UInt8 := dkwX1_quotient_2 ++ dktX1_quotient_3
def dkwX1_quotient_1 : List UInt8 := [100, 54, 6, 21, 6, 155, 0, 11, 25, 5, 182, 1, 65, 153, 0, 6, 16, 254, 172, 42, 25, 5, 42]
abbrev dktX1_quotient_1 : List UInt8 := dkwX1_quotient_1 ++ dktX1_quotient_2
def dkwX1_quotient_0 : List UInt8 := [42, 27, 182, 0, 195, 58, 4, 42, 28, 182, 0, 195, 58, 5, 25, 4, 180, 0, 192, 25, 5, 180, 0, 192]
abbrev dktX1_quotient_0 : List UInt8 := dkwX1_quotient_0 ++ dktX1_quotient_1
theorem dksX1_quotient_0 : cX1_quotient.data.toList.drop 0 = dktX1_quotient_0 := by decide +kernel
theorem dksX1_quotient_1 : cX1_quotient.data.toList.drop 24 = dktX1_quotient_1 := dk_seg dksX1_quotient_0 24 rfl rfl
theorem dksX1_quotient_2 : cX1_quotient.data.toList.drop 47 = dktX1_quotient_2 := dk_seg dksX1_quotient_1 23 rfl rfl
theorem dksX1_quotient_3 : cX1_quotient.data.toList.drop 70 = dktX1_quotient_3 := dk_seg dksX1_quotient_2 23 rfl rfl
theorem dksX1_quotient_4 : cX1_quotient.data.toList.drop 93 = dktX1_quotient_4 := dk_seg dksX1_quotient_3 23 rfl rfl
theorem dksX1_quotient_5 : cX1_quotient.data.toList.drop 117 = dktX1_quotient_5 := dk_seg dksX1_quotient_4 24 rfl rfl
theorem dksX1_quotient_6 : cX1_quotient.data.toList.drop 141 = dktX1_quotient_6 := dk_seg dksX1_quotient_5 24 rfl rfl
theorem dksX1_quotient_7 : cX1_quotient.data.toList.drop 164 = dktX1_quotient_7 := dk_seg dksX1_quotient_6 23 rfl rfl
theorem dksX1_quotient_8 : cX1_quotient.data.toList.drop 188 = dktX1_quotient_8 := dk_seg dksX1_quotient_7 24 rfl rfl
theorem dksX1_quotient_9 : cX1_quotient.data.toList.drop 211 = dktX1_quotient_9 := dk_seg dksX1_quotient_8 23 rfl rfl
theorem dksX1_quotient_10 : cX1_quotient.data.toList.drop 235 = dktX1_quotient_10 := dk_seg dksX1_quotient_9 24 rfl rfl
theorem dX1_quotient_0 : decode cX1_quotient 0 = .ok (.aload_n 0, 1) := dk_42 (dk_at dksX1_quotient_0 0 rfl rfl)
theorem dX1_quotient_1 : decode cX1_quotient 1 = .ok (.iload_n 1, 1) := dk_27 (dk_at dksX1_quotient_0 1 rfl rfl)
theorem dX1_quotient_2 : decode cX1_quotient 2 = .ok (.invokevirtual 195, 3) := dk_182 0 195 (dk_at dksX1_quotient_0 2 rfl rfl)
theorem dX1_quotient_5 : decode cX1_quotient 5 = .ok (.astore 4, 2) := dk_58 4 (dk_at dksX1_quotient_0 5 rfl rfl)
theorem dX1_quotient_7 : decode cX1_quotient 7 = .ok (.aload_n 0, 1) := dk_42 (dk_at dksX1_quotient_0 7 rfl rfl)
theorem dX1_quotient_8 : decode cX1_quotient 8 = .ok (.iload_n 2, 1) := dk_28 (dk_at dksX1_quotient_0 8 rfl rfl)
theorem dX1_quotient_9 : decode cX1_quotient 9 = .ok (.invokevirtual 195, 3) := dk_182 0 195 (dk_at dksX1_quotient_0 9 rfl rfl)
theorem dX1_quotient_12 : decode cX1_quotient 12 = .ok (.astore 5, 2) := dk_58 5 (dk_at dksX1_quotient_0 12 rfl rfl)
theorem dX1_quotient_14 : decode cX1_quotient 14 = .ok (.aload 4, 2) := dk_25 4 (dk_at dksX1_quotient_0 14 rfl rfl)
theorem dX1_quotient_16 : decode cX1_quotient 16 = .ok (.getfield 192, 3) := dk_180 0 192 (dk_at dksX1_quotient_0 16 rfl rfl)
theorem dX1_quotient_19 : decode cX1_quotient 19 = .ok (.aload 5, 2) := dk_25 5 (dk_at dksX1_quotient_0 19 rfl rfl)
theorem dX1_quotient_21 : decode cX1_quotient 21 = .ok (.getfield 192, 3) := dk_180 0 192 (dk_at dksX1_quotient_0 21 rfl rfl)
theorem dX1_quotient_24 : decode cX1_quotient 24 = .ok (.isub, 1) := dk_100 (dk_at dksX1_quotient_1 0 rfl rfl)
theorem dX1_quotient_25 : decode cX1_quotient 25 = .ok (.istore 6, 2) := dk_54 6 (dk_at dksX1_quotient_1 1 rfl rfl)
theorem dX1_quotient_27 : decode cX1_quotient 27 = .ok (.iload 6, 2) := dk_21 6 (dk_at dksX1_quotient_1 3 rfl rfl)
theorem dX1_quotient_29 : decode cX1_quotient 29 = .ok (.ifCond .lt 11, 3) := dk_155 0 11 (dk_at dksX1_quotient_1 5 rfl rfl)
theorem dX1_quotient_32 : decode cX1_quotient 32 = .ok (.aload 5, 2) := dk_25 5 (dk_at dksX1_quotient_1 8 rfl rfl)
theorem dX1_quotient_34 : decode cX1_quotient 34 = .ok (.invokevirtual 321, 3) := dk_182 1 65 (dk_at dksX1_quotient_1 10 rfl rfl)
theorem dX1_quotient_37 : decode cX1_quotient 37 = .ok (.ifCond .eq 6, 3) := dk_153 0 6 (dk_at dksX1_quotient_1 13 rfl rfl)
theorem dX1_quotient_40 : decode cX1_quotient 40 = .ok (.bipush (-2), 2) := dk_16 254 (dk_at dksX1_quotient_1 16 rfl rfl)
theorem dX1_quotient_42 : decode cX1_quotient 42 = .ok (.ireturn, 1) := dk_172 (dk_at dksX1_quotient_1 18 rfl rfl)
theorem dX1_quotient_43 : decode cX1_quotient 43 = .ok (.aload_n 0, 1) := dk_42 (dk_at dksX1_quotient_1 19 rfl rfl)
theorem dX1_quotient_44 : decode cX1_quotient 44 = .ok (.aload 5, 2) := dk_25 5 (dk_at dksX1_quotient_1 20 rfl rfl)
theorem dX1_quotient_46 : decode cX1_quotient 46 = .ok (.aload_n 0, 1) := dk_42 (dk_at dksX1_quotient_1 22 rfl rfl)
theorem dX1_quotient_47 : decode cX1_quotient 47 = .ok (.getfield 47, 3) := dk_180 0 47 (dk_at dksX1_quotient_2 0 rfl rfl)
theorem dX1_quotient_50 : decode cX1_quotient 50 = .ok (.invokevirtual 324, 3) := dk_182 1 68 (dk_at dksX1_quotient_2 3 rfl rfl)
theorem dX1_quotient_53 : decode cX1_quotient 53 = .ok (.istore 7, 2) := dk_54 7 (dk_at dksX1_quotient_2 6 rfl rfl)
theorem dX1_quotient_55 : decode cX1_quotient 55 = .ok (.aload_n 0, 1) := dk_42 (dk_at dksX1_quotient_2 8 rfl rfl)
theorem dX1_quotient_56 : decode cX1_quotient 56 = .ok (.getfield 19, 3) := dk_180 0 19 (dk_at dksX1_quotient_2 9 rfl rfl)
theorem dX1_quotient_59 : decode cX1_quotient 59 = .ok (.getfield 141, 3) := dk_180 0 141 (dk_at dksX1_quotient_2 12 rfl rfl)
theorem dX1_quotient_62 : decode cX1_quotient 62 = .ok (.aload 5, 2) := dk_25 5 (dk_at dksX1_quotient_2 15 rfl rfl)
theorem dX1_quotient_64 : decode cX1_quotient 64 = .ok (.getfield 160, 3) := dk_180 0 160 (dk_at dksX1_quotient_2 17 rfl rfl)
theorem dX1_quotient_67 : decode cX1_quotient 67 = .ok (.iload 7, 2) := dk_21 7 (dk_at dksX1_quotient_2 20 rfl rfl)
theorem dX1_quotient_69 : decode cX1_quotient 69 = .ok (.iaload, 1) := dk_46 (dk_at dksX1_quotient_2 22 rfl rfl)
theorem dX1_quotient_70 : decode cX1_quotient 70 = .ok (.invokevirtual 285, 3) := dk_182 1 29 (dk_at dksX1_quotient_3 0 rfl rfl)
theorem dX1_quotient_73 : decode cX1_quotient 73 = .ok (.istore 8, 2) := dk_54 8 (dk_at dksX1_quotient_3 3 rfl rfl)
theorem dX1_quotient_75 : decode cX1_quotient 75 = .ok (.aload_n 0, 1) := dk_42 (dk_at dksX1_quotient_3 5 rfl rfl)
theorem dX1_quotient_76 : decode cX1_quotient 76 = .ok (.getfield 35, 3) := dk_180 0 35 (dk_at dksX1_quotient_3 6 rfl rfl)
theorem dX1_quotient_79 : decode cX1_quotient 79 = .ok (.iconst 0, 1) := dk_3 (dk_at dksX1_quotient_3 9 rfl rfl)
theorem dX1_quotient_80 : decode cX1_quotient 80 = .ok (.aaload, 1) := dk_50 (dk_at dksX1_quotient_3 10 rfl rfl)
theorem dX1_quotient_81 : decode cX1_quotient 81 = .ok (.astore 9, 2) := dk_58 9 (dk_at dksX1_quotient_3 11 rfl rfl)
theorem dX1_quotient_83 : decode cX1_quotient 83 = .ok (.aload_n 0, 1) := dk_42 (dk_at dksX1_quotient_3 13 rfl rfl)
theorem dX1_quotient_84 : decode cX1_quotient 84 = .ok (.getfield 35, 3) := dk_180 0 35 (dk_at dksX1_quotient_3 14 rfl rfl)
theorem dX1_quotient_87 : decode cX1_quotient 87 = .ok (.iconst 1, 1) := dk_4 (dk_at dksX1_quotient_3 17 rfl rfl)
theorem dX1_quotient_88 : decode cX1_quotient 88 = .ok (.aaload, 1) := dk_50 (dk_at dksX1_quotient_3 18 rfl rfl)
theorem dX1_quotient_89 : decode cX1_quotient 89 = .ok (.astore 10, 2) := dk_58 10 (dk_at dksX1_quotient_3 19 rfl rfl)
theorem dX1_quotient_91 : decode cX1_quotient 91 = .ok (.aload 9, 2) := dk_25 9 (dk_at dksX1_quotient_3 21 rfl rfl)
theorem dX1_quotient_93 : decode cX1_quotient 93 = .ok (.aload 4, 2) := dk_25 4 (dk_at dksX1_quotient_4 0 rfl rfl)
theorem dX1_quotient_95 : decode cX1_quotient 95 = .ok (.invokevirtual 223, 3) := dk_182 0 223 (dk_at dksX1_quotient_4 2 rfl rfl)
theorem dX1_quotient_98 : decode cX1_quotient 98 = .ok (.aload 10, 2) := dk_25 10 (dk_at dksX1_quotient_4 5 rfl rfl)
theorem dX1_quotient_100 : decode cX1_quotient 100 = .ok (.iload 6, 2) := dk_21 6 (dk_at dksX1_quotient_4 7 rfl rfl)
theorem dX1_quotient_102 : decode cX1_quotient 102 = .ok (.invokevirtual 157, 3) := dk_182 0 157 (dk_at dksX1_quotient_4 9 rfl rfl)
theorem dX1_quotient_105 : decode cX1_quotient 105 = .ok (.iconst 0, 1) := dk_3 (dk_at dksX1_quotient_4 12 rfl rfl)
theorem dX1_quotient_106 : decode cX1_quotient 106 = .ok (.istore 11, 2) := dk_54 11 (dk_at dksX1_quotient_4 13 rfl rfl)
theorem dX1_quotient_108 : decode cX1_quotient 108 = .ok (.iload 11, 2) := dk_21 11 (dk_at dksX1_quotient_4 15 rfl rfl)
theorem dX1_quotient_110 : decode cX1_quotient 110 = .ok (.iload 6, 2) := dk_21 6 (dk_at dksX1_quotient_4 17 rfl rfl)
theorem dX1_quotient_112 : decode cX1_quotient 112 = .ok (.if_icmp .gt 115, 3) := dk_163 0 115 (dk_at dksX1_quotient_4 19 rfl rfl)
theorem dX1_quotient_115 : decode cX1_quotient 115 = .ok (.aload 10, 2) := dk_25 10 (dk_at dksX1_quotient_4 22 rfl rfl)
theorem dX1_quotient_117 : decode cX1_quotient 117 = .ok (.getfield 160, 3) := dk_180 0 160 (dk_at dksX1_quotient_5 0 rfl rfl)
theorem dX1_quotient_120 : decode cX1_quotient 120 = .ok (.iload 11, 2) := dk_21 11 (dk_at dksX1_quotient_5 3 rfl rfl)
theorem dX1_quotient_122 : decode cX1_quotient 122 = .ok (.aload_n 0, 1) := dk_42 (dk_at dksX1_quotient_5 5 rfl rfl)
theorem dX1_quotient_123 : decode cX1_quotient 123 = .ok (.getfield 19, 3) := dk_180 0 19 (dk_at dksX1_quotient_5 6 rfl rfl)
theorem dX1_quotient_126 : decode cX1_quotient 126 = .ok (.getfield 141, 3) := dk_180 0 141 (dk_at dksX1_quotient_5 9 rfl rfl)
theorem dX1_quotient_129 : decode cX1_quotient 129 = .ok (.aload 9, 2) := dk_25 9 (dk_at dksX1_quotient_5 12 rfl rfl)
theorem dX1_quotient_131 : decode cX1_quotient 131 = .ok (.getfield 160, 3) := dk_180 0 160 (dk_at dksX1_quotient_5 14 rfl rfl)
theorem dX1_quotient_134 : decode cX1_quotient 134 = .ok (.iload 11, 2) := dk_21 11 (dk_at dksX1_quotient_5 17 rfl rfl)
theorem dX1_quotient_136 : decode cX1_quotient 136 = .ok (.iload 7, 2) := dk_21 7 (dk_at dksX1_quotient_5 19 rfl rfl)
theorem dX1_quotient_138 : decode cX1_quotient 138 = .ok (.iadd, 1) := dk_96 (dk_at dksX1_quotient_5 21 rfl rfl)
theorem dX1_quotient_139 : decode cX1_quotient 139 = .ok (.iaload, 1) := dk_46 (dk_at dksX1_quotient_5 22 rfl rfl)
theorem dX1_quotient_140 : decode cX1_quotient 140 = .ok (.i2l, 1) := dk_133 (dk_at dksX1_quotient_5 23 rfl rfl)
theorem dX1_quotient_141 : decode cX1_quotient 141 = .ok (.iload 8, 2) := dk_21 8 (dk_at dksX1_quotient_6 0 rfl rfl)
theorem dX1_quotient_143 : decode cX1_quotient 143 = .ok (.i2l, 1) := dk_133 (dk_at dksX1_quotient_6 2 rfl rfl)
theorem dX1_quotient_144 : decode cX1_quotient 144 = .ok (.lmul, 1) := dk_105 (dk_at dksX1_quotient_6 3 rfl rfl)
theorem dX1_quotient_145 : decode cX1_quotient 145 = .ok (.invokevirtual 163, 3) := dk_182 0 163 (dk_at dksX1_quotient_6 4 rfl rfl)
theorem dX1_quotient_148 : decode cX1_quotient 148 = .ok (.iastore, 1) := dk_79 (dk_at dksX1_quotient_6 7 rfl rfl)
theorem dX1_quotient_149 : decode cX1_quotient 149 = .ok (.iconst 0, 1) := dk_3 (dk_at dksX1_quotient_6 8 rfl rfl)
theorem dX1_quotient_150 : decode cX1_quotient 150 = .ok (.istore 12, 2) := dk_54 12 (dk_at dksX1_quotient_6 9 rfl rfl)
theorem dX1_quotient_152 : decode cX1_quotient 152 = .ok (.iload 12, 2) := dk_21 12 (dk_at dksX1_quotient_6 11 rfl rfl)
theorem dX1_quotient_154 : decode cX1_quotient 154 = .ok (.aload 5, 2) := dk_25 5 (dk_at dksX1_quotient_6 13 rfl rfl)
theorem dX1_quotient_156 : decode cX1_quotient 156 = .ok (.getfield 192, 3) := dk_180 0 192 (dk_at dksX1_quotient_6 15 rfl rfl)
theorem dX1_quotient_159 : decode cX1_quotient 159 = .ok (.if_icmp .gt 62, 3) := dk_163 0 62 (dk_at dksX1_quotient_6 18 rfl rfl)
theorem dX1_quotient_162 : decode cX1_quotient 162 = .ok (.aload 9, 2) := dk_25 9 (dk_at dksX1_quotient_6 21 rfl rfl)
theorem dX1_quotient_164 : decode cX1_quotient 164 = .ok (.getfield 160, 3) := dk_180 0 160 (dk_at dksX1_quotient_7 0 rfl rfl)
theorem dX1_quotient_167 : decode cX1_quotient 167 = .ok (.iload 11, 2) := dk_21 11 (dk_at dksX1_quotient_7 3 rfl rfl)
theorem dX1_quotient_169 : decode cX1_quotient 169 = .ok (.iload 12, 2) := dk_21 12 (dk_at dksX1_quotient_7 5 rfl rfl)
theorem dX1_quotient_171 : decode cX1_quotient 171 = .ok (.iadd, 1) := dk_96 (dk_at dksX1_quotient_7 7 rfl rfl)
theorem dX1_quotient_172 : decode cX1_quotient 172 = .ok (.aload_n 0, 1) := dk_42 (dk_at dksX1_quotient_7 8 rfl rfl)
theorem dX1_quotient_173 : decode cX1_quotient 173 = .ok (.getfield 19, 3) := dk_180 0 19 (dk_at dksX1_quotient_7 9 rfl rfl)
theorem dX1_quotient_176 : decode cX1_quotient 176 = .ok (.getfield 141, 3) := dk_180 0 141 (dk_at dksX1_quotient_7 12 rfl rfl)
theorem dX1_quotient_179 : decode cX1_quotient 179 = .ok (.aload 9, 2) := dk_25 9 (dk_at dksX1_quotient_7 15 rfl rfl)
theorem dX1_quotient_181 : decode cX1_quotient 181 = .ok (.getfield 160, 3) := dk_180 0 160 (dk_at dksX1_quotient_7 17 rfl rfl)
theorem dX1_quotient_184 : decode cX1_quotient 184 = .ok (.iload 11, 2) := dk_21 11 (dk_at dksX1_quotient_7 20 rfl rfl)
theorem dX1_quotient_186 : decode cX1_quotient 186 = .ok (.iload 12, 2) := dk_21 12 (dk_at dksX1_quotient_7 22 rfl rfl)
theorem dX1_quotient_188 : decode cX1_quotient 188 = .ok (.iadd, 1) := dk_96 (dk_at dksX1_quotient_8 0 rfl rfl)
theorem dX1_quotient_189 : decode cX1_quotient 189 = .ok (.iaload, 1) := dk_46 (dk_at dksX1_quotient_8 1 rfl rfl)
theorem dX1_quotient_190 : decode cX1_quotient 190 = .ok (.i2l, 1) := dk_133 (dk_at dksX1_quotient_8 2 rfl rfl)
theorem dX1_quotient_191 : decode cX1_quotient 191 = .ok (.aload 10, 2) := dk_25 10 (dk_at dksX1_quotient_8 3 rfl rfl)
theorem dX1_quotient_193 : decode cX1_quotient 193 = .ok (.getfield 160, 3) := dk_180 0 160 (dk_at dksX1_quotient_8 5 rfl rfl)
theorem dX1_quotient_196 : decode cX1_quotient 196 = .ok (.iload 11, 2) := dk_21 11 (dk_at dksX1_quotient_8 8 rfl rfl)
theorem dX1_quotient_198 : decode cX1_quotient 198 = .ok (.iaload, 1) := dk_46 (dk_at dksX1_quotient_8 10 rfl rfl)
theorem dX1_quotient_199 : decode cX1_quotient 199 = .ok (.i2l, 1) := dk_133 (dk_at dksX1_quotient_8 11 rfl rfl)
theorem dX1_quotient_200 : decode cX1_quotient 200 = .ok (.aload 5, 2) := dk_25 5 (dk_at dksX1_quotient_8 12 rfl rfl)
theorem dX1_quotient_202 : decode cX1_quotient 202 = .ok (.getfield 160, 3) := dk_180 0 160 (dk_at dksX1_quotient_8 14 rfl rfl)
theorem dX1_quotient_205 : decode cX1_quotient 205 = .ok (.iload 12, 2) := dk_21 12 (dk_at dksX1_quotient_8 17 rfl rfl)
theorem dX1_quotient_207 : decode cX1_quotient 207 = .ok (.iaload, 1) := dk_46 (dk_at dksX1_quotient_8 19 rfl rfl)
theorem dX1_quotient_208 : decode cX1_quotient 208 = .ok (.i2l, 1) := dk_133 (dk_at dksX1_quotient_8 20 rfl rfl)
theorem dX1_quotient_209 : decode cX1_quotient 209 = .ok (.lmul, 1) := dk_105 (dk_at dksX1_quotient_8 21 rfl rfl)
theorem dX1_quotient_210 : decode cX1_quotient 210 = .ok (.lsub, 1) := dk_101 (dk_at dksX1_quotient_8 22 rfl rfl)
theorem dX1_quotient_211 : decode cX1_quotient 211 = .ok (.invokevirtual 163, 3) := dk_182 0 163 (dk_at dksX1_quotient_9 0 rfl rfl)
theorem dX1_quotient_214 : decode cX1_quotient 214 = .ok (.iastore, 1) := dk_79 (dk_at dksX1_quotient_9 3 rfl rfl)
theorem dX1_quotient_215 : decode cX1_quotient 215 = .ok (.iinc 12 1, 3) := dk_132 12 1 (dk_at dksX1_quotient_9 4 rfl rfl)
theorem dX1_quotient_218 : decode cX1_quotient 218 = .ok (.goto (-66), 3) := dk_167 255 190 (dk_at dksX1_quotient_9 7 rfl rfl)
theorem dX1_quotient_221 : decode cX1_quotient 221 = .ok (.iinc 11 1, 3) := dk_132 11 1 (dk_at dksX1_quotient_9 10 rfl rfl)
theorem dX1_quotient_224 : decode cX1_quotient 224 = .ok (.goto (-116), 3) := dk_167 255 140 (dk_at dksX1_quotient_9 13 rfl rfl)
theorem dX1_quotient_227 : decode cX1_quotient 227 = .ok (.aload 9, 2) := dk_25 9 (dk_at dksX1_quotient_9 16 rfl rfl)
theorem dX1_quotient_229 : decode cX1_quotient 229 = .ok (.invokevirtual 321, 3) := dk_182 1 65 (dk_at dksX1_quotient_9 18 rfl rfl)
theorem dX1_quotient_232 : decode cX1_quotient 232 = .ok (.ifCond .eq 12, 3) := dk_153 0 12 (dk_at dksX1_quotient_9 21 rfl rfl)
theorem dX1_quotient_235 : decode cX1_quotient 235 = .ok (.aload 10, 2) := dk_25 10 (dk_at dksX1_quotient_10 0 rfl rfl)
theorem dX1_quotient_237 : decode cX1_quotient 237 = .ok (.iload_n 3, 1) := dk_29 (dk_at dksX1_quotient_10 2 rfl rfl)
theorem dX1_quotient_238 : decode cX1_quotient 238 = .ok (.invokestatic 199, 3) := dk_184 0 199 (dk_at dksX1_quotient_10 3 rfl rfl)
theorem dX1_quotient_241 : decode cX1_quotient 241 = .ok (.goto 5, 3) := dk_167 0 5 (dk_at dksX1_quotient_10 6 rfl rfl)
theorem dX1_quotient_244 : decode cX1_quotient 244 = .ok (.bipush (-2), 2) := dk_16 254 (dk_at dksX1_quotient_10 9 rfl rfl)
theorem dX1_quotient_246 : decode cX1_quotient 246 = .ok (.ireturn, 1) := dk_172 (dk_at dksX1_quotient_10 11 rfl rfl)
abbrev cX1_bares : ByteArray := prog_1_method_56_code
def yX1_bares : MethodName := ⟨RX1, "bares", "(LLetterForms$Form;LLetterForms$Form;)I"⟩
def dkwX1_bares_2 : List UInt8 := [180, 0, 160, 29, 21, 4, 96, 46, 79, 132, 4, 1, 167, 255, 228, 29, 172]
abbrev dktX1_bares_2 : List UInt8 := dkwX1_bares_2 ++ []
def dkwX1_bares_1 : List UInt8 := [182, 0, 157, 3, 54, 4, 21, 4, 44, 180, 0, 192, 163, 0, 25, 44, 180, 0, 160, 21, 4, 43]
abbrev dktX1_bares_1 : List UInt8 := dkwX1_bares_1 ++ dktX1_bares_2
def dkwX1_bares_0 : List UInt8 := [3, 62, 43, 180, 0, 160, 29, 46, 154, 0, 9, 132, 3, 1, 167, 255, 244, 44, 43, 180, 0, 192, 29, 100]
abbrev dktX1_bares_0 : List UInt8 := dkwX1_bares_0 ++ dktX1_bares_1
theorem dksX1_bares_0 : cX1_bares.data.toList.drop 0 = dktX1_bares_0 := by decide +kernel
theorem dksX1_bares_1 : cX1_bares.data.toList.drop 24 = dktX1_bares_1 := dk_seg dksX1_bares_0 24 rfl rfl
theorem dksX1_bares_2 : cX1_bares.data.toList.drop 46 = dktX1_bares_2 := dk_seg dksX1_bares_1 22 rfl rfl
theorem dX1_bares_0 : decode cX1_bares 0 = .ok (.iconst 0, 1) := dk_3 (dk_at dksX1_bares_0 0 rfl rfl)
theorem dX1_bares_1 : decode cX1_bares 1 = .ok (.istore_n 3, 1) := dk_62 (dk_at dksX1_bares_0 1 rfl rfl)
theorem dX1_bares_2 : decode cX1_bares 2 = .ok (.aload_n 1, 1) := dk_43 (dk_at dksX1_bares_0 2 rfl rfl)
theorem dX1_bares_3 : decode cX1_bares 3 = .ok (.getfield 160, 3) := dk_180 0 160 (dk_at dksX1_bares_0 3 rfl rfl)
theorem dX1_bares_6 : decode cX1_bares 6 = .ok (.iload_n 3, 1) := dk_29 (dk_at dksX1_bares_0 6 rfl rfl)
theorem dX1_bares_7 : decode cX1_bares 7 = .ok (.iaload, 1) := dk_46 (dk_at dksX1_bares_0 7 rfl rfl)
theorem dX1_bares_8 : decode cX1_bares 8 = .ok (.ifCond .ne 9, 3) := dk_154 0 9 (dk_at dksX1_bares_0 8 rfl rfl)
theorem dX1_bares_11 : decode cX1_bares 11 = .ok (.iinc 3 1, 3) := dk_132 3 1 (dk_at dksX1_bares_0 11 rfl rfl)
theorem dX1_bares_14 : decode cX1_bares 14 = .ok (.goto (-12), 3) := dk_167 255 244 (dk_at dksX1_bares_0 14 rfl rfl)
theorem dX1_bares_17 : decode cX1_bares 17 = .ok (.aload_n 2, 1) := dk_44 (dk_at dksX1_bares_0 17 rfl rfl)
theorem dX1_bares_18 : decode cX1_bares 18 = .ok (.aload_n 1, 1) := dk_43 (dk_at dksX1_bares_0 18 rfl rfl)
theorem dX1_bares_19 : decode cX1_bares 19 = .ok (.getfield 192, 3) := dk_180 0 192 (dk_at dksX1_bares_0 19 rfl rfl)
theorem dX1_bares_22 : decode cX1_bares 22 = .ok (.iload_n 3, 1) := dk_29 (dk_at dksX1_bares_0 22 rfl rfl)
theorem dX1_bares_23 : decode cX1_bares 23 = .ok (.isub, 1) := dk_100 (dk_at dksX1_bares_0 23 rfl rfl)
theorem dX1_bares_24 : decode cX1_bares 24 = .ok (.invokevirtual 157, 3) := dk_182 0 157 (dk_at dksX1_bares_1 0 rfl rfl)
theorem dX1_bares_27 : decode cX1_bares 27 = .ok (.iconst 0, 1) := dk_3 (dk_at dksX1_bares_1 3 rfl rfl)
theorem dX1_bares_28 : decode cX1_bares 28 = .ok (.istore 4, 2) := dk_54 4 (dk_at dksX1_bares_1 4 rfl rfl)
theorem dX1_bares_30 : decode cX1_bares 30 = .ok (.iload 4, 2) := dk_21 4 (dk_at dksX1_bares_1 6 rfl rfl)
theorem dX1_bares_32 : decode cX1_bares 32 = .ok (.aload_n 2, 1) := dk_44 (dk_at dksX1_bares_1 8 rfl rfl)
theorem dX1_bares_33 : decode cX1_bares 33 = .ok (.getfield 192, 3) := dk_180 0 192 (dk_at dksX1_bares_1 9 rfl rfl)
theorem dX1_bares_36 : decode cX1_bares 36 = .ok (.if_icmp .gt 25, 3) := dk_163 0 25 (dk_at dksX1_bares_1 12 rfl rfl)
theorem dX1_bares_39 : decode cX1_bares 39 = .ok (.aload_n 2, 1) := dk_44 (dk_at dksX1_bares_1 15 rfl rfl)
theorem dX1_bares_40 : decode cX1_bares 40 = .ok (.getfield 160, 3) := dk_180 0 160 (dk_at dksX1_bares_1 16 rfl rfl)
theorem dX1_bares_43 : decode cX1_bares 43 = .ok (.iload 4, 2) := dk_21 4 (dk_at dksX1_bares_1 19 rfl rfl)
theorem dX1_bares_45 : decode cX1_bares 45 = .ok (.aload_n 1, 1) := dk_43 (dk_at dksX1_bares_1 21 rfl rfl)
theorem dX1_bares_46 : decode cX1_bares 46 = .ok (.getfield 160, 3) := dk_180 0 160 (dk_at dksX1_bares_2 0 rfl rfl)
theorem dX1_bares_49 : decode cX1_bares 49 = .ok (.iload_n 3, 1) := dk_29 (dk_at dksX1_bares_2 3 rfl rfl)
theorem dX1_bares_50 : decode cX1_bares 50 = .ok (.iload 4, 2) := dk_21 4 (dk_at dksX1_bares_2 4 rfl rfl)
theorem dX1_bares_52 : decode cX1_bares 52 = .ok (.iadd, 1) := dk_96 (dk_at dksX1_bares_2 6 rfl rfl)
theorem dX1_bares_53 : decode cX1_bares 53 = .ok (.iaload, 1) := dk_46 (dk_at dksX1_bares_2 7 rfl rfl)
theorem dX1_bares_54 : decode cX1_bares 54 = .ok (.iastore, 1) := dk_79 (dk_at dksX1_bares_2 8 rfl rfl)
theorem dX1_bares_55 : decode cX1_bares 55 = .ok (.iinc 4 1, 3) := dk_132 4 1 (dk_at dksX1_bares_2 9 rfl rfl)
theorem dX1_bares_58 : decode cX1_bares 58 = .ok (.goto (-28), 3) := dk_167 255 228 (dk_at dksX1_bares_2 12 rfl rfl)
theorem dX1_bares_61 : decode cX1_bares 61 = .ok (.iload_n 3, 1) := dk_29 (dk_at dksX1_bares_2 15 rfl rfl)
theorem dX1_bares_62 : decode cX1_bares 62 = .ok (.ireturn, 1) := dk_172 (dk_at dksX1_bares_2 16 rfl rfl)
abbrev cX1_plain : ByteArray := prog_1_method_61_code
def yX1_plain : MethodName := ⟨RX1, "plain", "(I)Z"⟩
def dkwX1_plain_4 : List UInt8 := [167, 0, 4, 3, 172]
abbrev dktX1_plain_4 : List UInt8 := dkwX1_plain_4 ++ []
def dkwX1_plain_3 : List UInt8 := [182, 1, 65, 153, 0, 5, 3, 172, 42, 45, 25, 4, 182, 1, 72, 180, 0, 192, 154, 0, 7, 4]
abbrev dktX1_plain_3 : List UInt8 := dkwX1_plain_3 ++ dktX1_plain_4
def dkwX1_plain_2 : List UInt8 := [182, 1, 85, 42, 180, 0, 19, 44, 3, 4, 25, 4, 182, 1, 85, 45, 182, 1, 65, 154, 0, 11, 25, 4]
abbrev dktX1_plain_2 : List UInt8 := dkwX1_plain_2 ++ dktX1_plain_3
def dkwX1_plain_1 : List UInt8 := [180, 0, 35, 4, 50, 78, 42, 180, 0, 35, 5, 50, 58, 4, 42, 180, 0, 19, 44, 4, 3, 45]
abbrev dktX1_plain_1 : List UInt8 := dkwX1_plain_1 ++ dktX1_plain_2
def dkwX1_plain_0 : List UInt8 := [42, 27, 182, 0, 195, 77, 44, 180, 0, 192, 5, 161, 0, 10, 44, 182, 1, 65, 153, 0, 5, 3, 172, 42]
abbrev dktX1_plain_0 : List UInt8 := dkwX1_plain_0 ++ dktX1_plain_1
theorem dksX1_plain_0 : cX1_plain.data.toList.drop 0 = dktX1_plain_0 := by decide +kernel
theorem dksX1_plain_1 : cX1_plain.data.toList.drop 24 = dktX1_plain_1 := dk_seg dksX1_plain_0 24 rfl rfl
theorem dksX1_plain_2 : cX1_plain.data.toList.drop 46 = dktX1_plain_2 := dk_seg dksX1_plain_1 22 rfl rfl
theorem dksX1_plain_3 : cX1_plain.data.toList.drop 70 = dktX1_plain_3 := dk_seg dksX1_plain_2 24 rfl rfl
theorem dksX1_plain_4 : cX1_plain.data.toList.drop 92 = dktX1_plain_4 := dk_seg dksX1_plain_3 22 rfl rfl
theorem dX1_plain_0 : decode cX1_plain 0 = .ok (.aload_n 0, 1) := dk_42 (dk_at dksX1_plain_0 0 rfl rfl)
theorem dX1_plain_1 : decode cX1_plain 1 = .ok (.iload_n 1, 1) := dk_27 (dk_at dksX1_plain_0 1 rfl rfl)
theorem dX1_plain_2 : decode cX1_plain 2 = .ok (.invokevirtual 195, 3) := dk_182 0 195 (dk_at dksX1_plain_0 2 rfl rfl)
theorem dX1_plain_5 : decode cX1_plain 5 = .ok (.astore_n 2, 1) := dk_77 (dk_at dksX1_plain_0 5 rfl rfl)
theorem dX1_plain_6 : decode cX1_plain 6 = .ok (.aload_n 2, 1) := dk_44 (dk_at dksX1_plain_0 6 rfl rfl)
theorem dX1_plain_7 : decode cX1_plain 7 = .ok (.getfield 192, 3) := dk_180 0 192 (dk_at dksX1_plain_0 7 rfl rfl)
theorem dX1_plain_10 : decode cX1_plain 10 = .ok (.iconst 2, 1) := dk_5 (dk_at dksX1_plain_0 10 rfl rfl)
theorem dX1_plain_11 : decode cX1_plain 11 = .ok (.if_icmp .lt 10, 3) := dk_161 0 10 (dk_at dksX1_plain_0 11 rfl rfl)
theorem dX1_plain_14 : decode cX1_plain 14 = .ok (.aload_n 2, 1) := dk_44 (dk_at dksX1_plain_0 14 rfl rfl)
theorem dX1_plain_15 : decode cX1_plain 15 = .ok (.invokevirtual 321, 3) := dk_182 1 65 (dk_at dksX1_plain_0 15 rfl rfl)
theorem dX1_plain_18 : decode cX1_plain 18 = .ok (.ifCond .eq 5, 3) := dk_153 0 5 (dk_at dksX1_plain_0 18 rfl rfl)
theorem dX1_plain_21 : decode cX1_plain 21 = .ok (.iconst 0, 1) := dk_3 (dk_at dksX1_plain_0 21 rfl rfl)
theorem dX1_plain_22 : decode cX1_plain 22 = .ok (.ireturn, 1) := dk_172 (dk_at dksX1_plain_0 22 rfl rfl)
theorem dX1_plain_23 : decode cX1_plain 23 = .ok (.aload_n 0, 1) := dk_42 (dk_at dksX1_plain_0 23 rfl rfl)
theorem dX1_plain_24 : decode cX1_plain 24 = .ok (.getfield 35, 3) := dk_180 0 35 (dk_at dksX1_plain_1 0 rfl rfl)
theorem dX1_plain_27 : decode cX1_plain 27 = .ok (.iconst 1, 1) := dk_4 (dk_at dksX1_plain_1 3 rfl rfl)
theorem dX1_plain_28 : decode cX1_plain 28 = .ok (.aaload, 1) := dk_50 (dk_at dksX1_plain_1 4 rfl rfl)
theorem dX1_plain_29 : decode cX1_plain 29 = .ok (.astore_n 3, 1) := dk_78 (dk_at dksX1_plain_1 5 rfl rfl)
theorem dX1_plain_30 : decode cX1_plain 30 = .ok (.aload_n 0, 1) := dk_42 (dk_at dksX1_plain_1 6 rfl rfl)
theorem dX1_plain_31 : decode cX1_plain 31 = .ok (.getfield 35, 3) := dk_180 0 35 (dk_at dksX1_plain_1 7 rfl rfl)
theorem dX1_plain_34 : decode cX1_plain 34 = .ok (.iconst 2, 1) := dk_5 (dk_at dksX1_plain_1 10 rfl rfl)
theorem dX1_plain_35 : decode cX1_plain 35 = .ok (.aaload, 1) := dk_50 (dk_at dksX1_plain_1 11 rfl rfl)
theorem dX1_plain_36 : decode cX1_plain 36 = .ok (.astore 4, 2) := dk_58 4 (dk_at dksX1_plain_1 12 rfl rfl)
theorem dX1_plain_38 : decode cX1_plain 38 = .ok (.aload_n 0, 1) := dk_42 (dk_at dksX1_plain_1 14 rfl rfl)
theorem dX1_plain_39 : decode cX1_plain 39 = .ok (.getfield 19, 3) := dk_180 0 19 (dk_at dksX1_plain_1 15 rfl rfl)
theorem dX1_plain_42 : decode cX1_plain 42 = .ok (.aload_n 2, 1) := dk_44 (dk_at dksX1_plain_1 18 rfl rfl)
theorem dX1_plain_43 : decode cX1_plain 43 = .ok (.iconst 1, 1) := dk_4 (dk_at dksX1_plain_1 19 rfl rfl)
theorem dX1_plain_44 : decode cX1_plain 44 = .ok (.iconst 0, 1) := dk_3 (dk_at dksX1_plain_1 20 rfl rfl)
theorem dX1_plain_45 : decode cX1_plain 45 = .ok (.aload_n 3, 1) := dk_45 (dk_at dksX1_plain_1 21 rfl rfl)
theorem dX1_plain_46 : decode cX1_plain 46 = .ok (.invokevirtual 341, 3) := dk_182 1 85 (dk_at dksX1_plain_2 0 rfl rfl)
theorem dX1_plain_49 : decode cX1_plain 49 = .ok (.aload_n 0, 1) := dk_42 (dk_at dksX1_plain_2 3 rfl rfl)
theorem dX1_plain_50 : decode cX1_plain 50 = .ok (.getfield 19, 3) := dk_180 0 19 (dk_at dksX1_plain_2 4 rfl rfl)
theorem dX1_plain_53 : decode cX1_plain 53 = .ok (.aload_n 2, 1) := dk_44 (dk_at dksX1_plain_2 7 rfl rfl)
theorem dX1_plain_54 : decode cX1_plain 54 = .ok (.iconst 0, 1) := dk_3 (dk_at dksX1_plain_2 8 rfl rfl)
theorem dX1_plain_55 : decode cX1_plain 55 = .ok (.iconst 1, 1) := dk_4 (dk_at dksX1_plain_2 9 rfl rfl)
theorem dX1_plain_56 : decode cX1_plain 56 = .ok (.aload 4, 2) := dk_25 4 (dk_at dksX1_plain_2 10 rfl rfl)
theorem dX1_plain_58 : decode cX1_plain 58 = .ok (.invokevirtual 341, 3) := dk_182 1 85 (dk_at dksX1_plain_2 12 rfl rfl)
theorem dX1_plain_61 : decode cX1_plain 61 = .ok (.aload_n 3, 1) := dk_45 (dk_at dksX1_plain_2 15 rfl rfl)
theorem dX1_plain_62 : decode cX1_plain 62 = .ok (.invokevirtual 321, 3) := dk_182 1 65 (dk_at dksX1_plain_2 16 rfl rfl)
theorem dX1_plain_65 : decode cX1_plain 65 = .ok (.ifCond .ne 11, 3) := dk_154 0 11 (dk_at dksX1_plain_2 19 rfl rfl)
theorem dX1_plain_68 : decode cX1_plain 68 = .ok (.aload 4, 2) := dk_25 4 (dk_at dksX1_plain_2 22 rfl rfl)
theorem dX1_plain_70 : decode cX1_plain 70 = .ok (.invokevirtual 321, 3) := dk_182 1 65 (dk_at dksX1_plain_3 0 rfl rfl)
theorem dX1_plain_73 : decode cX1_plain 73 = .ok (.ifCond .eq 5, 3) := dk_153 0 5 (dk_at dksX1_plain_3 3 rfl rfl)
theorem dX1_plain_76 : decode cX1_plain 76 = .ok (.iconst 0, 1) := dk_3 (dk_at dksX1_plain_3 6 rfl rfl)
theorem dX1_plain_77 : decode cX1_plain 77 = .ok (.ireturn, 1) := dk_172 (dk_at dksX1_plain_3 7 rfl rfl)
theorem dX1_plain_78 : decode cX1_plain 78 = .ok (.aload_n 0, 1) := dk_42 (dk_at dksX1_plain_3 8 rfl rfl)
theorem dX1_plain_79 : decode cX1_plain 79 = .ok (.aload_n 3, 1) := dk_45 (dk_at dksX1_plain_3 9 rfl rfl)
theorem dX1_plain_80 : decode cX1_plain 80 = .ok (.aload 4, 2) := dk_25 4 (dk_at dksX1_plain_3 10 rfl rfl)
theorem dX1_plain_82 : decode cX1_plain 82 = .ok (.invokevirtual 328, 3) := dk_182 1 72 (dk_at dksX1_plain_3 12 rfl rfl)
theorem dX1_plain_85 : decode cX1_plain 85 = .ok (.getfield 192, 3) := dk_180 0 192 (dk_at dksX1_plain_3 15 rfl rfl)
theorem dX1_plain_88 : decode cX1_plain 88 = .ok (.ifCond .ne 7, 3) := dk_154 0 7 (dk_at dksX1_plain_3 18 rfl rfl)
theorem dX1_plain_91 : decode cX1_plain 91 = .ok (.iconst 1, 1) := dk_4 (dk_at dksX1_plain_3 21 rfl rfl)
theorem dX1_plain_92 : decode cX1_plain 92 = .ok (.goto 4, 3) := dk_167 0 4 (dk_at dksX1_plain_4 0 rfl rfl)
theorem dX1_plain_95 : decode cX1_plain 95 = .ok (.iconst 0, 1) := dk_3 (dk_at dksX1_plain_4 3 rfl rfl)
theorem dX1_plain_96 : decode cX1_plain 96 = .ok (.ireturn, 1) := dk_172 (dk_at dksX1_plain_4 4 rfl rfl)
abbrev cX1_commons : ByteArray := prog_1_method_59_code
def yX1_commons : MethodName := ⟨RX1, "commons", "(LLetterForms$Form;LLetterForms$Form;)LLetterForms$Form;"⟩
def dkwX1_commons_6 : List UInt8 := [21, 6, 133, 105, 182, 0, 163, 79, 132, 8, 1, 167, 255, 210, 25, 7, 176]
abbrev dktX1_commons_6 : List UInt8 := dkwX1_commons_6 ++ []
def dkwX1_commons_5 : List UInt8 := [180, 0, 160, 29, 21, 8, 96, 42, 180, 0, 19, 180, 0, 141, 25, 5, 180, 0, 160, 21, 8, 46, 133]
abbrev dktX1_commons_5 : List UInt8 := dkwX1_commons_5 ++ dktX1_commons_6
def dkwX1_commons_4 : List UInt8 := [180, 0, 192, 29, 96, 182, 0, 157, 3, 54, 8, 21, 8, 25, 5, 180, 0, 192, 163, 0, 42, 25, 7]
abbrev dktX1_commons_4 : List UInt8 := dkwX1_commons_4 ++ dktX1_commons_5
def dkwX1_commons_3 : List UInt8 := [180, 0, 160, 3, 46, 182, 1, 29, 54, 6, 42, 180, 0, 35, 3, 50, 58, 7, 25, 7, 25, 5]
abbrev dktX1_commons_3 : List UInt8 := dkwX1_commons_3 ++ dktX1_commons_4
def dkwX1_commons_2 : List UInt8 := [58, 6, 25, 5, 58, 4, 25, 6, 58, 5, 167, 255, 233, 42, 180, 0, 19, 180, 0, 141, 25, 5]
abbrev dktX1_commons_2 : List UInt8 := dkwX1_commons_2 ++ dktX1_commons_3
def dkwX1_commons_1 : List UInt8 := [180, 0, 40, 58, 4, 42, 180, 0, 50, 58, 5, 42, 25, 4, 25, 5, 182, 1, 81, 153, 0, 18, 25, 4]
abbrev dktX1_commons_1 : List UInt8 := dkwX1_commons_1 ++ dktX1_commons_2
def dkwX1_commons_0 : List UInt8 := [42, 43, 42, 180, 0, 40, 182, 1, 68, 42, 44, 42, 180, 0, 50, 182, 1, 68, 184, 1, 76, 62, 42]
abbrev dktX1_commons_0 : List UInt8 := dkwX1_commons_0 ++ dktX1_commons_1
theorem dksX1_commons_0 : cX1_commons.data.toList.drop 0 = dktX1_commons_0 := by decide +kernel
theorem dksX1_commons_1 : cX1_commons.data.toList.drop 23 = dktX1_commons_1 := dk_seg dksX1_commons_0 23 rfl rfl
theorem dksX1_commons_2 : cX1_commons.data.toList.drop 47 = dktX1_commons_2 := dk_seg dksX1_commons_1 24 rfl rfl
theorem dksX1_commons_3 : cX1_commons.data.toList.drop 69 = dktX1_commons_3 := dk_seg dksX1_commons_2 22 rfl rfl
theorem dksX1_commons_4 : cX1_commons.data.toList.drop 91 = dktX1_commons_4 := dk_seg dksX1_commons_3 22 rfl rfl
theorem dksX1_commons_5 : cX1_commons.data.toList.drop 114 = dktX1_commons_5 := dk_seg dksX1_commons_4 23 rfl rfl
theorem dksX1_commons_6 : cX1_commons.data.toList.drop 137 = dktX1_commons_6 := dk_seg dksX1_commons_5 23 rfl rfl
theorem dX1_commons_0 : decode cX1_commons 0 = .ok (.aload_n 0, 1) := dk_42 (dk_at dksX1_commons_0 0 rfl rfl)
theorem dX1_commons_1 : decode cX1_commons 1 = .ok (.aload_n 1, 1) := dk_43 (dk_at dksX1_commons_0 1 rfl rfl)
theorem dX1_commons_2 : decode cX1_commons 2 = .ok (.aload_n 0, 1) := dk_42 (dk_at dksX1_commons_0 2 rfl rfl)
theorem dX1_commons_3 : decode cX1_commons 3 = .ok (.getfield 40, 3) := dk_180 0 40 (dk_at dksX1_commons_0 3 rfl rfl)
theorem dX1_commons_6 : decode cX1_commons 6 = .ok (.invokevirtual 324, 3) := dk_182 1 68 (dk_at dksX1_commons_0 6 rfl rfl)
theorem dX1_commons_9 : decode cX1_commons 9 = .ok (.aload_n 0, 1) := dk_42 (dk_at dksX1_commons_0 9 rfl rfl)
theorem dX1_commons_10 : decode cX1_commons 10 = .ok (.aload_n 2, 1) := dk_44 (dk_at dksX1_commons_0 10 rfl rfl)
theorem dX1_commons_11 : decode cX1_commons 11 = .ok (.aload_n 0, 1) := dk_42 (dk_at dksX1_commons_0 11 rfl rfl)
theorem dX1_commons_12 : decode cX1_commons 12 = .ok (.getfield 50, 3) := dk_180 0 50 (dk_at dksX1_commons_0 12 rfl rfl)
theorem dX1_commons_15 : decode cX1_commons 15 = .ok (.invokevirtual 324, 3) := dk_182 1 68 (dk_at dksX1_commons_0 15 rfl rfl)
theorem dX1_commons_18 : decode cX1_commons 18 = .ok (.invokestatic 332, 3) := dk_184 1 76 (dk_at dksX1_commons_0 18 rfl rfl)
theorem dX1_commons_21 : decode cX1_commons 21 = .ok (.istore_n 3, 1) := dk_62 (dk_at dksX1_commons_0 21 rfl rfl)
theorem dX1_commons_22 : decode cX1_commons 22 = .ok (.aload_n 0, 1) := dk_42 (dk_at dksX1_commons_0 22 rfl rfl)
theorem dX1_commons_23 : decode cX1_commons 23 = .ok (.getfield 40, 3) := dk_180 0 40 (dk_at dksX1_commons_1 0 rfl rfl)
theorem dX1_commons_26 : decode cX1_commons 26 = .ok (.astore 4, 2) := dk_58 4 (dk_at dksX1_commons_1 3 rfl rfl)
theorem dX1_commons_28 : decode cX1_commons 28 = .ok (.aload_n 0, 1) := dk_42 (dk_at dksX1_commons_1 5 rfl rfl)
theorem dX1_commons_29 : decode cX1_commons 29 = .ok (.getfield 50, 3) := dk_180 0 50 (dk_at dksX1_commons_1 6 rfl rfl)
theorem dX1_commons_32 : decode cX1_commons 32 = .ok (.astore 5, 2) := dk_58 5 (dk_at dksX1_commons_1 9 rfl rfl)
theorem dX1_commons_34 : decode cX1_commons 34 = .ok (.aload_n 0, 1) := dk_42 (dk_at dksX1_commons_1 11 rfl rfl)
theorem dX1_commons_35 : decode cX1_commons 35 = .ok (.aload 4, 2) := dk_25 4 (dk_at dksX1_commons_1 12 rfl rfl)
theorem dX1_commons_37 : decode cX1_commons 37 = .ok (.aload 5, 2) := dk_25 5 (dk_at dksX1_commons_1 14 rfl rfl)
theorem dX1_commons_39 : decode cX1_commons 39 = .ok (.invokevirtual 337, 3) := dk_182 1 81 (dk_at dksX1_commons_1 16 rfl rfl)
theorem dX1_commons_42 : decode cX1_commons 42 = .ok (.ifCond .eq 18, 3) := dk_153 0 18 (dk_at dksX1_commons_1 19 rfl rfl)
theorem dX1_commons_45 : decode cX1_commons 45 = .ok (.aload 4, 2) := dk_25 4 (dk_at dksX1_commons_1 22 rfl rfl)
theorem dX1_commons_47 : decode cX1_commons 47 = .ok (.astore 6, 2) := dk_58 6 (dk_at dksX1_commons_2 0 rfl rfl)
theorem dX1_commons_49 : decode cX1_commons 49 = .ok (.aload 5, 2) := dk_25 5 (dk_at dksX1_commons_2 2 rfl rfl)
theorem dX1_commons_51 : decode cX1_commons 51 = .ok (.astore 4, 2) := dk_58 4 (dk_at dksX1_commons_2 4 rfl rfl)
theorem dX1_commons_53 : decode cX1_commons 53 = .ok (.aload 6, 2) := dk_25 6 (dk_at dksX1_commons_2 6 rfl rfl)
theorem dX1_commons_55 : decode cX1_commons 55 = .ok (.astore 5, 2) := dk_58 5 (dk_at dksX1_commons_2 8 rfl rfl)
theorem dX1_commons_57 : decode cX1_commons 57 = .ok (.goto (-23), 3) := dk_167 255 233 (dk_at dksX1_commons_2 10 rfl rfl)
theorem dX1_commons_60 : decode cX1_commons 60 = .ok (.aload_n 0, 1) := dk_42 (dk_at dksX1_commons_2 13 rfl rfl)
theorem dX1_commons_61 : decode cX1_commons 61 = .ok (.getfield 19, 3) := dk_180 0 19 (dk_at dksX1_commons_2 14 rfl rfl)
theorem dX1_commons_64 : decode cX1_commons 64 = .ok (.getfield 141, 3) := dk_180 0 141 (dk_at dksX1_commons_2 17 rfl rfl)
theorem dX1_commons_67 : decode cX1_commons 67 = .ok (.aload 5, 2) := dk_25 5 (dk_at dksX1_commons_2 20 rfl rfl)
theorem dX1_commons_69 : decode cX1_commons 69 = .ok (.getfield 160, 3) := dk_180 0 160 (dk_at dksX1_commons_3 0 rfl rfl)
theorem dX1_commons_72 : decode cX1_commons 72 = .ok (.iconst 0, 1) := dk_3 (dk_at dksX1_commons_3 3 rfl rfl)
theorem dX1_commons_73 : decode cX1_commons 73 = .ok (.iaload, 1) := dk_46 (dk_at dksX1_commons_3 4 rfl rfl)
theorem dX1_commons_74 : decode cX1_commons 74 = .ok (.invokevirtual 285, 3) := dk_182 1 29 (dk_at dksX1_commons_3 5 rfl rfl)
theorem dX1_commons_77 : decode cX1_commons 77 = .ok (.istore 6, 2) := dk_54 6 (dk_at dksX1_commons_3 8 rfl rfl)
theorem dX1_commons_79 : decode cX1_commons 79 = .ok (.aload_n 0, 1) := dk_42 (dk_at dksX1_commons_3 10 rfl rfl)
theorem dX1_commons_80 : decode cX1_commons 80 = .ok (.getfield 35, 3) := dk_180 0 35 (dk_at dksX1_commons_3 11 rfl rfl)
theorem dX1_commons_83 : decode cX1_commons 83 = .ok (.iconst 0, 1) := dk_3 (dk_at dksX1_commons_3 14 rfl rfl)
theorem dX1_commons_84 : decode cX1_commons 84 = .ok (.aaload, 1) := dk_50 (dk_at dksX1_commons_3 15 rfl rfl)
theorem dX1_commons_85 : decode cX1_commons 85 = .ok (.astore 7, 2) := dk_58 7 (dk_at dksX1_commons_3 16 rfl rfl)
theorem dX1_commons_87 : decode cX1_commons 87 = .ok (.aload 7, 2) := dk_25 7 (dk_at dksX1_commons_3 18 rfl rfl)
theorem dX1_commons_89 : decode cX1_commons 89 = .ok (.aload 5, 2) := dk_25 5 (dk_at dksX1_commons_3 20 rfl rfl)
theorem dX1_commons_91 : decode cX1_commons 91 = .ok (.getfield 192, 3) := dk_180 0 192 (dk_at dksX1_commons_4 0 rfl rfl)
theorem dX1_commons_94 : decode cX1_commons 94 = .ok (.iload_n 3, 1) := dk_29 (dk_at dksX1_commons_4 3 rfl rfl)
theorem dX1_commons_95 : decode cX1_commons 95 = .ok (.iadd, 1) := dk_96 (dk_at dksX1_commons_4 4 rfl rfl)
theorem dX1_commons_96 : decode cX1_commons 96 = .ok (.invokevirtual 157, 3) := dk_182 0 157 (dk_at dksX1_commons_4 5 rfl rfl)
theorem dX1_commons_99 : decode cX1_commons 99 = .ok (.iconst 0, 1) := dk_3 (dk_at dksX1_commons_4 8 rfl rfl)
theorem dX1_commons_100 : decode cX1_commons 100 = .ok (.istore 8, 2) := dk_54 8 (dk_at dksX1_commons_4 9 rfl rfl)
theorem dX1_commons_102 : decode cX1_commons 102 = .ok (.iload 8, 2) := dk_21 8 (dk_at dksX1_commons_4 11 rfl rfl)
theorem dX1_commons_104 : decode cX1_commons 104 = .ok (.aload 5, 2) := dk_25 5 (dk_at dksX1_commons_4 13 rfl rfl)
theorem dX1_commons_106 : decode cX1_commons 106 = .ok (.getfield 192, 3) := dk_180 0 192 (dk_at dksX1_commons_4 15 rfl rfl)
theorem dX1_commons_109 : decode cX1_commons 109 = .ok (.if_icmp .gt 42, 3) := dk_163 0 42 (dk_at dksX1_commons_4 18 rfl rfl)
theorem dX1_commons_112 : decode cX1_commons 112 = .ok (.aload 7, 2) := dk_25 7 (dk_at dksX1_commons_4 21 rfl rfl)
theorem dX1_commons_114 : decode cX1_commons 114 = .ok (.getfield 160, 3) := dk_180 0 160 (dk_at dksX1_commons_5 0 rfl rfl)
theorem dX1_commons_117 : decode cX1_commons 117 = .ok (.iload_n 3, 1) := dk_29 (dk_at dksX1_commons_5 3 rfl rfl)
theorem dX1_commons_118 : decode cX1_commons 118 = .ok (.iload 8, 2) := dk_21 8 (dk_at dksX1_commons_5 4 rfl rfl)
theorem dX1_commons_120 : decode cX1_commons 120 = .ok (.iadd, 1) := dk_96 (dk_at dksX1_commons_5 6 rfl rfl)
theorem dX1_commons_121 : decode cX1_commons 121 = .ok (.aload_n 0, 1) := dk_42 (dk_at dksX1_commons_5 7 rfl rfl)
theorem dX1_commons_122 : decode cX1_commons 122 = .ok (.getfield 19, 3) := dk_180 0 19 (dk_at dksX1_commons_5 8 rfl rfl)
theorem dX1_commons_125 : decode cX1_commons 125 = .ok (.getfield 141, 3) := dk_180 0 141 (dk_at dksX1_commons_5 11 rfl rfl)
theorem dX1_commons_128 : decode cX1_commons 128 = .ok (.aload 5, 2) := dk_25 5 (dk_at dksX1_commons_5 14 rfl rfl)
theorem dX1_commons_130 : decode cX1_commons 130 = .ok (.getfield 160, 3) := dk_180 0 160 (dk_at dksX1_commons_5 16 rfl rfl)
theorem dX1_commons_133 : decode cX1_commons 133 = .ok (.iload 8, 2) := dk_21 8 (dk_at dksX1_commons_5 19 rfl rfl)
theorem dX1_commons_135 : decode cX1_commons 135 = .ok (.iaload, 1) := dk_46 (dk_at dksX1_commons_5 21 rfl rfl)
theorem dX1_commons_136 : decode cX1_commons 136 = .ok (.i2l, 1) := dk_133 (dk_at dksX1_commons_5 22 rfl rfl)
theorem dX1_commons_137 : decode cX1_commons 137 = .ok (.iload 6, 2) := dk_21 6 (dk_at dksX1_commons_6 0 rfl rfl)
theorem dX1_commons_139 : decode cX1_commons 139 = .ok (.i2l, 1) := dk_133 (dk_at dksX1_commons_6 2 rfl rfl)
theorem dX1_commons_140 : decode cX1_commons 140 = .ok (.lmul, 1) := dk_105 (dk_at dksX1_commons_6 3 rfl rfl)
theorem dX1_commons_141 : decode cX1_commons 141 = .ok (.invokevirtual 163, 3) := dk_182 0 163 (dk_at dksX1_commons_6 4 rfl rfl)
theorem dX1_commons_144 : decode cX1_commons 144 = .ok (.iastore, 1) := dk_79 (dk_at dksX1_commons_6 7 rfl rfl)
theorem dX1_commons_145 : decode cX1_commons 145 = .ok (.iinc 8 1, 3) := dk_132 8 1 (dk_at dksX1_commons_6 8 rfl rfl)
theorem dX1_commons_148 : decode cX1_commons 148 = .ok (.goto (-46), 3) := dk_167 255 210 (dk_at dksX1_commons_6 11 rfl rfl)
theorem dX1_commons_151 : decode cX1_commons 151 = .ok (.aload 7, 2) := dk_25 7 (dk_at dksX1_commons_6 14 rfl rfl)
theorem dX1_commons_153 : decode cX1_commons 153 = .ok (.areturn, 1) := dk_176 (dk_at dksX1_commons_6 16 rfl rfl)
abbrev cX1_rest : ByteArray := prog_1_method_57_code
def yX1_rest : MethodName := ⟨RX1, "rest", "(LLetterForms$Form;LLetterForms$Form;)Z"⟩
def dkwX1_rest_6 : List UInt8 := [167, 255, 132, 43, 182, 1, 65, 154, 0, 7, 4, 167, 0, 4, 3, 172]
abbrev dktX1_rest_6 : List UInt8 := dkwX1_rest_6 ++ []
def dkwX1_rest_5 : List UInt8 := [153, 0, 5, 3, 172, 42, 43, 42, 180, 0, 47, 182, 1, 68, 54, 5, 43, 42, 180, 0, 47, 182, 0, 223]
abbrev dktX1_rest_5 : List UInt8 := dkwX1_rest_5 ++ dktX1_rest_6
def dkwX1_rest_4 : List UInt8 := [180, 0, 160, 21, 5, 46, 133, 105, 101, 182, 0, 163, 79, 132, 5, 1, 167, 255, 206, 43, 182, 1, 65]
abbrev dktX1_rest_4 : List UInt8 := dkwX1_rest_4 ++ dktX1_rest_5
def dkwX1_rest_3 : List UInt8 := [180, 0, 160, 21, 5, 42, 180, 0, 19, 180, 0, 141, 43, 180, 0, 160, 21, 5, 46, 133, 21, 4, 133, 44]
abbrev dktX1_rest_3 : List UInt8 := dkwX1_rest_3 ++ dktX1_rest_4
def dkwX1_rest_2 : List UInt8 := [3, 46, 133, 29, 133, 105, 182, 0, 163, 54, 4, 3, 54, 5, 21, 5, 44, 180, 0, 192, 163, 0, 47, 43]
abbrev dktX1_rest_2 : List UInt8 := dkwX1_rest_2 ++ dktX1_rest_3
def dkwX1_rest_1 : List UInt8 := [180, 0, 192, 161, 0, 119, 43, 182, 1, 65, 154, 0, 112, 42, 180, 0, 19, 180, 0, 141, 43, 180, 0, 160]
abbrev dktX1_rest_1 : List UInt8 := dkwX1_rest_1 ++ dktX1_rest_2
def dkwX1_rest_0 : List UInt8 := [42, 180, 0, 19, 180, 0, 141, 44, 180, 0, 160, 3, 46, 182, 1, 29, 62, 43, 180, 0, 192, 44]
abbrev dktX1_rest_0 : List UInt8 := dkwX1_rest_0 ++ dktX1_rest_1
theorem dksX1_rest_0 : cX1_rest.data.toList.drop 0 = dktX1_rest_0 := by decide +kernel
theorem dksX1_rest_1 : cX1_rest.data.toList.drop 22 = dktX1_rest_1 := dk_seg dksX1_rest_0 22 rfl rfl
theorem dksX1_rest_2 : cX1_rest.data.toList.drop 46 = dktX1_rest_2 := dk_seg dksX1_rest_1 24 rfl rfl
theorem dksX1_rest_3 : cX1_rest.data.toList.drop 70 = dktX1_rest_3 := dk_seg dksX1_rest_2 24 rfl rfl
theorem dksX1_rest_4 : cX1_rest.data.toList.drop 94 = dktX1_rest_4 := dk_seg dksX1_rest_3 24 rfl rfl
theorem dksX1_rest_5 : cX1_rest.data.toList.drop 117 = dktX1_rest_5 := dk_seg dksX1_rest_4 23 rfl rfl
theorem dksX1_rest_6 : cX1_rest.data.toList.drop 141 = dktX1_rest_6 := dk_seg dksX1_rest_5 24 rfl rfl
theorem dX1_rest_0 : decode cX1_rest 0 = .ok (.aload_n 0, 1) := dk_42 (dk_at dksX1_rest_0 0 rfl rfl)
theorem dX1_rest_1 : decode cX1_rest 1 = .ok (.getfield 19, 3) := dk_180 0 19 (dk_at dksX1_rest_0 1 rfl rfl)
theorem dX1_rest_4 : decode cX1_rest 4 = .ok (.getfield 141, 3) := dk_180 0 141 (dk_at dksX1_rest_0 4 rfl rfl)
theorem dX1_rest_7 : decode cX1_rest 7 = .ok (.aload_n 2, 1) := dk_44 (dk_at dksX1_rest_0 7 rfl rfl)
theorem dX1_rest_8 : decode cX1_rest 8 = .ok (.getfield 160, 3) := dk_180 0 160 (dk_at dksX1_rest_0 8 rfl rfl)
theorem dX1_rest_11 : decode cX1_rest 11 = .ok (.iconst 0, 1) := dk_3 (dk_at dksX1_rest_0 11 rfl rfl)
theorem dX1_rest_12 : decode cX1_rest 12 = .ok (.iaload, 1) := dk_46 (dk_at dksX1_rest_0 12 rfl rfl)
theorem dX1_rest_13 : decode cX1_rest 13 = .ok (.invokevirtual 285, 3) := dk_182 1 29 (dk_at dksX1_rest_0 13 rfl rfl)
theorem dX1_rest_16 : decode cX1_rest 16 = .ok (.istore_n 3, 1) := dk_62 (dk_at dksX1_rest_0 16 rfl rfl)
theorem dX1_rest_17 : decode cX1_rest 17 = .ok (.aload_n 1, 1) := dk_43 (dk_at dksX1_rest_0 17 rfl rfl)
theorem dX1_rest_18 : decode cX1_rest 18 = .ok (.getfield 192, 3) := dk_180 0 192 (dk_at dksX1_rest_0 18 rfl rfl)
theorem dX1_rest_21 : decode cX1_rest 21 = .ok (.aload_n 2, 1) := dk_44 (dk_at dksX1_rest_0 21 rfl rfl)
theorem dX1_rest_22 : decode cX1_rest 22 = .ok (.getfield 192, 3) := dk_180 0 192 (dk_at dksX1_rest_1 0 rfl rfl)
theorem dX1_rest_25 : decode cX1_rest 25 = .ok (.if_icmp .lt 119, 3) := dk_161 0 119 (dk_at dksX1_rest_1 3 rfl rfl)
theorem dX1_rest_28 : decode cX1_rest 28 = .ok (.aload_n 1, 1) := dk_43 (dk_at dksX1_rest_1 6 rfl rfl)
theorem dX1_rest_29 : decode cX1_rest 29 = .ok (.invokevirtual 321, 3) := dk_182 1 65 (dk_at dksX1_rest_1 7 rfl rfl)
theorem dX1_rest_32 : decode cX1_rest 32 = .ok (.ifCond .ne 112, 3) := dk_154 0 112 (dk_at dksX1_rest_1 10 rfl rfl)
theorem dX1_rest_35 : decode cX1_rest 35 = .ok (.aload_n 0, 1) := dk_42 (dk_at dksX1_rest_1 13 rfl rfl)
theorem dX1_rest_36 : decode cX1_rest 36 = .ok (.getfield 19, 3) := dk_180 0 19 (dk_at dksX1_rest_1 14 rfl rfl)
theorem dX1_rest_39 : decode cX1_rest 39 = .ok (.getfield 141, 3) := dk_180 0 141 (dk_at dksX1_rest_1 17 rfl rfl)
theorem dX1_rest_42 : decode cX1_rest 42 = .ok (.aload_n 1, 1) := dk_43 (dk_at dksX1_rest_1 20 rfl rfl)
theorem dX1_rest_43 : decode cX1_rest 43 = .ok (.getfield 160, 3) := dk_180 0 160 (dk_at dksX1_rest_1 21 rfl rfl)
theorem dX1_rest_46 : decode cX1_rest 46 = .ok (.iconst 0, 1) := dk_3 (dk_at dksX1_rest_2 0 rfl rfl)
theorem dX1_rest_47 : decode cX1_rest 47 = .ok (.iaload, 1) := dk_46 (dk_at dksX1_rest_2 1 rfl rfl)
theorem dX1_rest_48 : decode cX1_rest 48 = .ok (.i2l, 1) := dk_133 (dk_at dksX1_rest_2 2 rfl rfl)
theorem dX1_rest_49 : decode cX1_rest 49 = .ok (.iload_n 3, 1) := dk_29 (dk_at dksX1_rest_2 3 rfl rfl)
theorem dX1_rest_50 : decode cX1_rest 50 = .ok (.i2l, 1) := dk_133 (dk_at dksX1_rest_2 4 rfl rfl)
theorem dX1_rest_51 : decode cX1_rest 51 = .ok (.lmul, 1) := dk_105 (dk_at dksX1_rest_2 5 rfl rfl)
theorem dX1_rest_52 : decode cX1_rest 52 = .ok (.invokevirtual 163, 3) := dk_182 0 163 (dk_at dksX1_rest_2 6 rfl rfl)
theorem dX1_rest_55 : decode cX1_rest 55 = .ok (.istore 4, 2) := dk_54 4 (dk_at dksX1_rest_2 9 rfl rfl)
theorem dX1_rest_57 : decode cX1_rest 57 = .ok (.iconst 0, 1) := dk_3 (dk_at dksX1_rest_2 11 rfl rfl)
theorem dX1_rest_58 : decode cX1_rest 58 = .ok (.istore 5, 2) := dk_54 5 (dk_at dksX1_rest_2 12 rfl rfl)
theorem dX1_rest_60 : decode cX1_rest 60 = .ok (.iload 5, 2) := dk_21 5 (dk_at dksX1_rest_2 14 rfl rfl)
theorem dX1_rest_62 : decode cX1_rest 62 = .ok (.aload_n 2, 1) := dk_44 (dk_at dksX1_rest_2 16 rfl rfl)
theorem dX1_rest_63 : decode cX1_rest 63 = .ok (.getfield 192, 3) := dk_180 0 192 (dk_at dksX1_rest_2 17 rfl rfl)
theorem dX1_rest_66 : decode cX1_rest 66 = .ok (.if_icmp .gt 47, 3) := dk_163 0 47 (dk_at dksX1_rest_2 20 rfl rfl)
theorem dX1_rest_69 : decode cX1_rest 69 = .ok (.aload_n 1, 1) := dk_43 (dk_at dksX1_rest_2 23 rfl rfl)
theorem dX1_rest_70 : decode cX1_rest 70 = .ok (.getfield 160, 3) := dk_180 0 160 (dk_at dksX1_rest_3 0 rfl rfl)
theorem dX1_rest_73 : decode cX1_rest 73 = .ok (.iload 5, 2) := dk_21 5 (dk_at dksX1_rest_3 3 rfl rfl)
theorem dX1_rest_75 : decode cX1_rest 75 = .ok (.aload_n 0, 1) := dk_42 (dk_at dksX1_rest_3 5 rfl rfl)
theorem dX1_rest_76 : decode cX1_rest 76 = .ok (.getfield 19, 3) := dk_180 0 19 (dk_at dksX1_rest_3 6 rfl rfl)
theorem dX1_rest_79 : decode cX1_rest 79 = .ok (.getfield 141, 3) := dk_180 0 141 (dk_at dksX1_rest_3 9 rfl rfl)
theorem dX1_rest_82 : decode cX1_rest 82 = .ok (.aload_n 1, 1) := dk_43 (dk_at dksX1_rest_3 12 rfl rfl)
theorem dX1_rest_83 : decode cX1_rest 83 = .ok (.getfield 160, 3) := dk_180 0 160 (dk_at dksX1_rest_3 13 rfl rfl)
theorem dX1_rest_86 : decode cX1_rest 86 = .ok (.iload 5, 2) := dk_21 5 (dk_at dksX1_rest_3 16 rfl rfl)
theorem dX1_rest_88 : decode cX1_rest 88 = .ok (.iaload, 1) := dk_46 (dk_at dksX1_rest_3 18 rfl rfl)
theorem dX1_rest_89 : decode cX1_rest 89 = .ok (.i2l, 1) := dk_133 (dk_at dksX1_rest_3 19 rfl rfl)
theorem dX1_rest_90 : decode cX1_rest 90 = .ok (.iload 4, 2) := dk_21 4 (dk_at dksX1_rest_3 20 rfl rfl)
theorem dX1_rest_92 : decode cX1_rest 92 = .ok (.i2l, 1) := dk_133 (dk_at dksX1_rest_3 22 rfl rfl)
theorem dX1_rest_93 : decode cX1_rest 93 = .ok (.aload_n 2, 1) := dk_44 (dk_at dksX1_rest_3 23 rfl rfl)
theorem dX1_rest_94 : decode cX1_rest 94 = .ok (.getfield 160, 3) := dk_180 0 160 (dk_at dksX1_rest_4 0 rfl rfl)
theorem dX1_rest_97 : decode cX1_rest 97 = .ok (.iload 5, 2) := dk_21 5 (dk_at dksX1_rest_4 3 rfl rfl)
theorem dX1_rest_99 : decode cX1_rest 99 = .ok (.iaload, 1) := dk_46 (dk_at dksX1_rest_4 5 rfl rfl)
theorem dX1_rest_100 : decode cX1_rest 100 = .ok (.i2l, 1) := dk_133 (dk_at dksX1_rest_4 6 rfl rfl)
theorem dX1_rest_101 : decode cX1_rest 101 = .ok (.lmul, 1) := dk_105 (dk_at dksX1_rest_4 7 rfl rfl)
theorem dX1_rest_102 : decode cX1_rest 102 = .ok (.lsub, 1) := dk_101 (dk_at dksX1_rest_4 8 rfl rfl)
theorem dX1_rest_103 : decode cX1_rest 103 = .ok (.invokevirtual 163, 3) := dk_182 0 163 (dk_at dksX1_rest_4 9 rfl rfl)
theorem dX1_rest_106 : decode cX1_rest 106 = .ok (.iastore, 1) := dk_79 (dk_at dksX1_rest_4 12 rfl rfl)
theorem dX1_rest_107 : decode cX1_rest 107 = .ok (.iinc 5 1, 3) := dk_132 5 1 (dk_at dksX1_rest_4 13 rfl rfl)
theorem dX1_rest_110 : decode cX1_rest 110 = .ok (.goto (-50), 3) := dk_167 255 206 (dk_at dksX1_rest_4 16 rfl rfl)
theorem dX1_rest_113 : decode cX1_rest 113 = .ok (.aload_n 1, 1) := dk_43 (dk_at dksX1_rest_4 19 rfl rfl)
theorem dX1_rest_114 : decode cX1_rest 114 = .ok (.invokevirtual 321, 3) := dk_182 1 65 (dk_at dksX1_rest_4 20 rfl rfl)
theorem dX1_rest_117 : decode cX1_rest 117 = .ok (.ifCond .eq 5, 3) := dk_153 0 5 (dk_at dksX1_rest_5 0 rfl rfl)
theorem dX1_rest_120 : decode cX1_rest 120 = .ok (.iconst 0, 1) := dk_3 (dk_at dksX1_rest_5 3 rfl rfl)
theorem dX1_rest_121 : decode cX1_rest 121 = .ok (.ireturn, 1) := dk_172 (dk_at dksX1_rest_5 4 rfl rfl)
theorem dX1_rest_122 : decode cX1_rest 122 = .ok (.aload_n 0, 1) := dk_42 (dk_at dksX1_rest_5 5 rfl rfl)
theorem dX1_rest_123 : decode cX1_rest 123 = .ok (.aload_n 1, 1) := dk_43 (dk_at dksX1_rest_5 6 rfl rfl)
theorem dX1_rest_124 : decode cX1_rest 124 = .ok (.aload_n 0, 1) := dk_42 (dk_at dksX1_rest_5 7 rfl rfl)
theorem dX1_rest_125 : decode cX1_rest 125 = .ok (.getfield 47, 3) := dk_180 0 47 (dk_at dksX1_rest_5 8 rfl rfl)
theorem dX1_rest_128 : decode cX1_rest 128 = .ok (.invokevirtual 324, 3) := dk_182 1 68 (dk_at dksX1_rest_5 11 rfl rfl)
theorem dX1_rest_131 : decode cX1_rest 131 = .ok (.istore 5, 2) := dk_54 5 (dk_at dksX1_rest_5 14 rfl rfl)
theorem dX1_rest_133 : decode cX1_rest 133 = .ok (.aload_n 1, 1) := dk_43 (dk_at dksX1_rest_5 16 rfl rfl)
theorem dX1_rest_134 : decode cX1_rest 134 = .ok (.aload_n 0, 1) := dk_42 (dk_at dksX1_rest_5 17 rfl rfl)
theorem dX1_rest_135 : decode cX1_rest 135 = .ok (.getfield 47, 3) := dk_180 0 47 (dk_at dksX1_rest_5 18 rfl rfl)
theorem dX1_rest_138 : decode cX1_rest 138 = .ok (.invokevirtual 223, 3) := dk_182 0 223 (dk_at dksX1_rest_5 21 rfl rfl)
theorem dX1_rest_141 : decode cX1_rest 141 = .ok (.goto (-124), 3) := dk_167 255 132 (dk_at dksX1_rest_6 0 rfl rfl)
theorem dX1_rest_144 : decode cX1_rest 144 = .ok (.aload_n 1, 1) := dk_43 (dk_at dksX1_rest_6 3 rfl rfl)
theorem dX1_rest_145 : decode cX1_rest 145 = .ok (.invokevirtual 321, 3) := dk_182 1 65 (dk_at dksX1_rest_6 4 rfl rfl)
theorem dX1_rest_148 : decode cX1_rest 148 = .ok (.ifCond .ne 7, 3) := dk_154 0 7 (dk_at dksX1_rest_6 7 rfl rfl)
theorem dX1_rest_151 : decode cX1_rest 151 = .ok (.iconst 1, 1) := dk_4 (dk_at dksX1_rest_6 10 rfl rfl)
theorem dX1_rest_152 : decode cX1_rest 152 = .ok (.goto 4, 3) := dk_167 0 4 (dk_at dksX1_rest_6 11 rfl rfl)
theorem dX1_rest_155 : decode cX1_rest 155 = .ok (.iconst 0, 1) := dk_3 (dk_at dksX1_rest_6 14 rfl rfl)
theorem dX1_rest_156 : decode cX1_rest 156 = .ok (.ireturn, 1) := dk_172 (dk_at dksX1_rest_6 15 rfl rfl)
abbrev cX1_root : ByteArray := prog_1_method_38_code
def yX1_root : MethodName := ⟨RX1, "root", "(II)I"⟩
def dkwX1_root_1 : List UInt8 := [184, 0, 132, 42, 180, 0, 19, 45, 28, 182, 1, 33, 172]
abbrev dktX1_root_1 : List UInt8 := dkwX1_root_1 ++ []
def dkwX1_root_0 : List UInt8 := [42, 27, 182, 0, 195, 78, 28, 133, 9, 42, 180, 0, 19, 180, 0, 141, 180, 0, 145, 133, 184, 0, 97]
abbrev dktX1_root_0 : List UInt8 := dkwX1_root_0 ++ dktX1_root_1
theorem dksX1_root_0 : cX1_root.data.toList.drop 0 = dktX1_root_0 := by decide +kernel
theorem dksX1_root_1 : cX1_root.data.toList.drop 23 = dktX1_root_1 := dk_seg dksX1_root_0 23 rfl rfl
theorem dX1_root_0 : decode cX1_root 0 = .ok (.aload_n 0, 1) := dk_42 (dk_at dksX1_root_0 0 rfl rfl)
theorem dX1_root_1 : decode cX1_root 1 = .ok (.iload_n 1, 1) := dk_27 (dk_at dksX1_root_0 1 rfl rfl)
theorem dX1_root_2 : decode cX1_root 2 = .ok (.invokevirtual 195, 3) := dk_182 0 195 (dk_at dksX1_root_0 2 rfl rfl)
theorem dX1_root_5 : decode cX1_root 5 = .ok (.astore_n 3, 1) := dk_78 (dk_at dksX1_root_0 5 rfl rfl)
theorem dX1_root_6 : decode cX1_root 6 = .ok (.iload_n 2, 1) := dk_28 (dk_at dksX1_root_0 6 rfl rfl)
theorem dX1_root_7 : decode cX1_root 7 = .ok (.i2l, 1) := dk_133 (dk_at dksX1_root_0 7 rfl rfl)
theorem dX1_root_8 : decode cX1_root 8 = .ok (.lconst 0, 1) := dk_9 (dk_at dksX1_root_0 8 rfl rfl)
theorem dX1_root_9 : decode cX1_root 9 = .ok (.aload_n 0, 1) := dk_42 (dk_at dksX1_root_0 9 rfl rfl)
theorem dX1_root_10 : decode cX1_root 10 = .ok (.getfield 19, 3) := dk_180 0 19 (dk_at dksX1_root_0 10 rfl rfl)
theorem dX1_root_13 : decode cX1_root 13 = .ok (.getfield 141, 3) := dk_180 0 141 (dk_at dksX1_root_0 13 rfl rfl)
theorem dX1_root_16 : decode cX1_root 16 = .ok (.getfield 145, 3) := dk_180 0 145 (dk_at dksX1_root_0 16 rfl rfl)
theorem dX1_root_19 : decode cX1_root 19 = .ok (.i2l, 1) := dk_133 (dk_at dksX1_root_0 19 rfl rfl)
theorem dX1_root_20 : decode cX1_root 20 = .ok (.invokestatic 97, 3) := dk_184 0 97 (dk_at dksX1_root_0 20 rfl rfl)
theorem dX1_root_23 : decode cX1_root 23 = .ok (.invokestatic 132, 3) := dk_184 0 132 (dk_at dksX1_root_1 0 rfl rfl)
theorem dX1_root_26 : decode cX1_root 26 = .ok (.aload_n 0, 1) := dk_42 (dk_at dksX1_root_1 3 rfl rfl)
theorem dX1_root_27 : decode cX1_root 27 = .ok (.getfield 19, 3) := dk_180 0 19 (dk_at dksX1_root_1 4 rfl rfl)
theorem dX1_root_30 : decode cX1_root 30 = .ok (.aload_n 3, 1) := dk_45 (dk_at dksX1_root_1 7 rfl rfl)
theorem dX1_root_31 : decode cX1_root 31 = .ok (.iload_n 2, 1) := dk_28 (dk_at dksX1_root_1 8 rfl rfl)
theorem dX1_root_32 : decode cX1_root 32 = .ok (.invokevirtual 289, 3) := dk_182 1 33 (dk_at dksX1_root_1 9 rfl rfl)
theorem dX1_root_35 : decode cX1_root 35 = .ok (.ireturn, 1) := dk_172 (dk_at dksX1_root_1 12 rfl rfl)
abbrev cX1_roots : ByteArray := prog_1_method_39_code
def yX1_roots : MethodName := ⟨RX1, "roots", "(I)I"⟩
def dkwX1_roots_2 : List UInt8 := [3, 128, 62, 132, 4, 1, 167, 255, 214, 29, 172]
abbrev dktX1_roots_2 : List UInt8 := dkwX1_roots_2 ++ []
def dkwX1_roots_1 : List UInt8 := [163, 0, 33, 29, 42, 180, 0, 19, 44, 21, 4, 182, 1, 33, 158, 0, 10, 4, 21, 4, 120, 167, 0, 4]
abbrev dktX1_roots_1 : List UInt8 := dkwX1_roots_1 ++ dktX1_roots_2
def dkwX1_roots_0 : List UInt8 := [42, 27, 182, 0, 195, 77, 3, 62, 3, 54, 4, 21, 4, 42, 180, 0, 19, 180, 0, 141, 180, 0, 145]
abbrev dktX1_roots_0 : List UInt8 := dkwX1_roots_0 ++ dktX1_roots_1
theorem dksX1_roots_0 : cX1_roots.data.toList.drop 0 = dktX1_roots_0 := by decide +kernel
theorem dksX1_roots_1 : cX1_roots.data.toList.drop 23 = dktX1_roots_1 := dk_seg dksX1_roots_0 23 rfl rfl
theorem dksX1_roots_2 : cX1_roots.data.toList.drop 47 = dktX1_roots_2 := dk_seg dksX1_roots_1 24 rfl rfl
theorem dX1_roots_0 : decode cX1_roots 0 = .ok (.aload_n 0, 1) := dk_42 (dk_at dksX1_roots_0 0 rfl rfl)
theorem dX1_roots_1 : decode cX1_roots 1 = .ok (.iload_n 1, 1) := dk_27 (dk_at dksX1_roots_0 1 rfl rfl)
theorem dX1_roots_2 : decode cX1_roots 2 = .ok (.invokevirtual 195, 3) := dk_182 0 195 (dk_at dksX1_roots_0 2 rfl rfl)
theorem dX1_roots_5 : decode cX1_roots 5 = .ok (.astore_n 2, 1) := dk_77 (dk_at dksX1_roots_0 5 rfl rfl)
theorem dX1_roots_6 : decode cX1_roots 6 = .ok (.iconst 0, 1) := dk_3 (dk_at dksX1_roots_0 6 rfl rfl)
theorem dX1_roots_7 : decode cX1_roots 7 = .ok (.istore_n 3, 1) := dk_62 (dk_at dksX1_roots_0 7 rfl rfl)
theorem dX1_roots_8 : decode cX1_roots 8 = .ok (.iconst 0, 1) := dk_3 (dk_at dksX1_roots_0 8 rfl rfl)
theorem dX1_roots_9 : decode cX1_roots 9 = .ok (.istore 4, 2) := dk_54 4 (dk_at dksX1_roots_0 9 rfl rfl)
theorem dX1_roots_11 : decode cX1_roots 11 = .ok (.iload 4, 2) := dk_21 4 (dk_at dksX1_roots_0 11 rfl rfl)
theorem dX1_roots_13 : decode cX1_roots 13 = .ok (.aload_n 0, 1) := dk_42 (dk_at dksX1_roots_0 13 rfl rfl)
theorem dX1_roots_14 : decode cX1_roots 14 = .ok (.getfield 19, 3) := dk_180 0 19 (dk_at dksX1_roots_0 14 rfl rfl)
theorem dX1_roots_17 : decode cX1_roots 17 = .ok (.getfield 141, 3) := dk_180 0 141 (dk_at dksX1_roots_0 17 rfl rfl)
theorem dX1_roots_20 : decode cX1_roots 20 = .ok (.getfield 145, 3) := dk_180 0 145 (dk_at dksX1_roots_0 20 rfl rfl)
theorem dX1_roots_23 : decode cX1_roots 23 = .ok (.if_icmp .gt 33, 3) := dk_163 0 33 (dk_at dksX1_roots_1 0 rfl rfl)
theorem dX1_roots_26 : decode cX1_roots 26 = .ok (.iload_n 3, 1) := dk_29 (dk_at dksX1_roots_1 3 rfl rfl)
theorem dX1_roots_27 : decode cX1_roots 27 = .ok (.aload_n 0, 1) := dk_42 (dk_at dksX1_roots_1 4 rfl rfl)
theorem dX1_roots_28 : decode cX1_roots 28 = .ok (.getfield 19, 3) := dk_180 0 19 (dk_at dksX1_roots_1 5 rfl rfl)
theorem dX1_roots_31 : decode cX1_roots 31 = .ok (.aload_n 2, 1) := dk_44 (dk_at dksX1_roots_1 8 rfl rfl)
theorem dX1_roots_32 : decode cX1_roots 32 = .ok (.iload 4, 2) := dk_21 4 (dk_at dksX1_roots_1 9 rfl rfl)
theorem dX1_roots_34 : decode cX1_roots 34 = .ok (.invokevirtual 289, 3) := dk_182 1 33 (dk_at dksX1_roots_1 11 rfl rfl)
theorem dX1_roots_37 : decode cX1_roots 37 = .ok (.ifCond .le 10, 3) := dk_158 0 10 (dk_at dksX1_roots_1 14 rfl rfl)
theorem dX1_roots_40 : decode cX1_roots 40 = .ok (.iconst 1, 1) := dk_4 (dk_at dksX1_roots_1 17 rfl rfl)
theorem dX1_roots_41 : decode cX1_roots 41 = .ok (.iload 4, 2) := dk_21 4 (dk_at dksX1_roots_1 18 rfl rfl)
theorem dX1_roots_43 : decode cX1_roots 43 = .ok (.ishl, 1) := dk_120 (dk_at dksX1_roots_1 20 rfl rfl)
theorem dX1_roots_44 : decode cX1_roots 44 = .ok (.goto 4, 3) := dk_167 0 4 (dk_at dksX1_roots_1 21 rfl rfl)
theorem dX1_roots_47 : decode cX1_roots 47 = .ok (.iconst 0, 1) := dk_3 (dk_at dksX1_roots_2 0 rfl rfl)
theorem dX1_roots_48 : decode cX1_roots 48 = .ok (.ior, 1) := dk_128 (dk_at dksX1_roots_2 1 rfl rfl)
theorem dX1_roots_49 : decode cX1_roots 49 = .ok (.istore_n 3, 1) := dk_62 (dk_at dksX1_roots_2 2 rfl rfl)
theorem dX1_roots_50 : decode cX1_roots 50 = .ok (.iinc 4 1, 3) := dk_132 4 1 (dk_at dksX1_roots_2 3 rfl rfl)
theorem dX1_roots_53 : decode cX1_roots 53 = .ok (.goto (-42), 3) := dk_167 255 214 (dk_at dksX1_roots_2 6 rfl rfl)
theorem dX1_roots_56 : decode cX1_roots 56 = .ok (.iload_n 3, 1) := dk_29 (dk_at dksX1_roots_2 9 rfl rfl)
theorem dX1_roots_57 : decode cX1_roots 57 = .ok (.ireturn, 1) := dk_172 (dk_at dksX1_roots_2 10 rfl rfl)
abbrev cX1_empty : ByteArray := prog_1_method_40_code
def yX1_empty : MethodName := ⟨RX1, "empty", "(I)Z"⟩
def dkwX1_empty_2 : List UInt8 := [164, 0, 7, 4, 167, 0, 4, 3, 62, 132, 4, 1, 167, 255, 209, 29, 172]
abbrev dktX1_empty_2 : List UInt8 := dkwX1_empty_2 ++ []
def dkwX1_empty_1 : List UInt8 := [163, 0, 38, 29, 154, 0, 22, 5, 42, 180, 0, 19, 44, 21, 4, 182, 1, 33, 104, 44, 180, 0, 192]
abbrev dktX1_empty_1 : List UInt8 := dkwX1_empty_1 ++ dktX1_empty_2
def dkwX1_empty_0 : List UInt8 := [42, 27, 182, 0, 195, 77, 3, 62, 3, 54, 4, 21, 4, 42, 180, 0, 19, 180, 0, 141, 180, 0, 145]
abbrev dktX1_empty_0 : List UInt8 := dkwX1_empty_0 ++ dktX1_empty_1
theorem dksX1_empty_0 : cX1_empty.data.toList.drop 0 = dktX1_empty_0 := by decide +kernel
theorem dksX1_empty_1 : cX1_empty.data.toList.drop 23 = dktX1_empty_1 := dk_seg dksX1_empty_0 23 rfl rfl
theorem dksX1_empty_2 : cX1_empty.data.toList.drop 46 = dktX1_empty_2 := dk_seg dksX1_empty_1 23 rfl rfl
theorem dX1_empty_0 : decode cX1_empty 0 = .ok (.aload_n 0, 1) := dk_42 (dk_at dksX1_empty_0 0 rfl rfl)
theorem dX1_empty_1 : decode cX1_empty 1 = .ok (.iload_n 1, 1) := dk_27 (dk_at dksX1_empty_0 1 rfl rfl)
theorem dX1_empty_2 : decode cX1_empty 2 = .ok (.invokevirtual 195, 3) := dk_182 0 195 (dk_at dksX1_empty_0 2 rfl rfl)
theorem dX1_empty_5 : decode cX1_empty 5 = .ok (.astore_n 2, 1) := dk_77 (dk_at dksX1_empty_0 5 rfl rfl)
theorem dX1_empty_6 : decode cX1_empty 6 = .ok (.iconst 0, 1) := dk_3 (dk_at dksX1_empty_0 6 rfl rfl)
theorem dX1_empty_7 : decode cX1_empty 7 = .ok (.istore_n 3, 1) := dk_62 (dk_at dksX1_empty_0 7 rfl rfl)
theorem dX1_empty_8 : decode cX1_empty 8 = .ok (.iconst 0, 1) := dk_3 (dk_at dksX1_empty_0 8 rfl rfl)
theorem dX1_empty_9 : decode cX1_empty 9 = .ok (.istore 4, 2) := dk_54 4 (dk_at dksX1_empty_0 9 rfl rfl)
theorem dX1_empty_11 : decode cX1_empty 11 = .ok (.iload 4, 2) := dk_21 4 (dk_at dksX1_empty_0 11 rfl rfl)
theorem dX1_empty_13 : decode cX1_empty 13 = .ok (.aload_n 0, 1) := dk_42 (dk_at dksX1_empty_0 13 rfl rfl)
theorem dX1_empty_14 : decode cX1_empty 14 = .ok (.getfield 19, 3) := dk_180 0 19 (dk_at dksX1_empty_0 14 rfl rfl)
theorem dX1_empty_17 : decode cX1_empty 17 = .ok (.getfield 141, 3) := dk_180 0 141 (dk_at dksX1_empty_0 17 rfl rfl)
theorem dX1_empty_20 : decode cX1_empty 20 = .ok (.getfield 145, 3) := dk_180 0 145 (dk_at dksX1_empty_0 20 rfl rfl)
theorem dX1_empty_23 : decode cX1_empty 23 = .ok (.if_icmp .gt 38, 3) := dk_163 0 38 (dk_at dksX1_empty_1 0 rfl rfl)
theorem dX1_empty_26 : decode cX1_empty 26 = .ok (.iload_n 3, 1) := dk_29 (dk_at dksX1_empty_1 3 rfl rfl)
theorem dX1_empty_27 : decode cX1_empty 27 = .ok (.ifCond .ne 22, 3) := dk_154 0 22 (dk_at dksX1_empty_1 4 rfl rfl)
theorem dX1_empty_30 : decode cX1_empty 30 = .ok (.iconst 2, 1) := dk_5 (dk_at dksX1_empty_1 7 rfl rfl)
theorem dX1_empty_31 : decode cX1_empty 31 = .ok (.aload_n 0, 1) := dk_42 (dk_at dksX1_empty_1 8 rfl rfl)
theorem dX1_empty_32 : decode cX1_empty 32 = .ok (.getfield 19, 3) := dk_180 0 19 (dk_at dksX1_empty_1 9 rfl rfl)
theorem dX1_empty_35 : decode cX1_empty 35 = .ok (.aload_n 2, 1) := dk_44 (dk_at dksX1_empty_1 12 rfl rfl)
theorem dX1_empty_36 : decode cX1_empty 36 = .ok (.iload 4, 2) := dk_21 4 (dk_at dksX1_empty_1 13 rfl rfl)
theorem dX1_empty_38 : decode cX1_empty 38 = .ok (.invokevirtual 289, 3) := dk_182 1 33 (dk_at dksX1_empty_1 15 rfl rfl)
theorem dX1_empty_41 : decode cX1_empty 41 = .ok (.imul, 1) := dk_104 (dk_at dksX1_empty_1 18 rfl rfl)
theorem dX1_empty_42 : decode cX1_empty 42 = .ok (.aload_n 2, 1) := dk_44 (dk_at dksX1_empty_1 19 rfl rfl)
theorem dX1_empty_43 : decode cX1_empty 43 = .ok (.getfield 192, 3) := dk_180 0 192 (dk_at dksX1_empty_1 20 rfl rfl)
theorem dX1_empty_46 : decode cX1_empty 46 = .ok (.if_icmp .le 7, 3) := dk_164 0 7 (dk_at dksX1_empty_2 0 rfl rfl)
theorem dX1_empty_49 : decode cX1_empty 49 = .ok (.iconst 1, 1) := dk_4 (dk_at dksX1_empty_2 3 rfl rfl)
theorem dX1_empty_50 : decode cX1_empty 50 = .ok (.goto 4, 3) := dk_167 0 4 (dk_at dksX1_empty_2 4 rfl rfl)
theorem dX1_empty_53 : decode cX1_empty 53 = .ok (.iconst 0, 1) := dk_3 (dk_at dksX1_empty_2 7 rfl rfl)
theorem dX1_empty_54 : decode cX1_empty 54 = .ok (.istore_n 3, 1) := dk_62 (dk_at dksX1_empty_2 8 rfl rfl)
theorem dX1_empty_55 : decode cX1_empty 55 = .ok (.iinc 4 1, 3) := dk_132 4 1 (dk_at dksX1_empty_2 9 rfl rfl)
theorem dX1_empty_58 : decode cX1_empty 58 = .ok (.goto (-47), 3) := dk_167 255 209 (dk_at dksX1_empty_2 12 rfl rfl)
theorem dX1_empty_61 : decode cX1_empty 61 = .ok (.iload_n 3, 1) := dk_29 (dk_at dksX1_empty_2 15 rfl rfl)
theorem dX1_empty_62 : decode cX1_empty 62 = .ok (.ireturn, 1) := dk_172 (dk_at dksX1_empty_2 16 rfl rfl)
abbrev cX1_same : ByteArray := prog_1_method_42_code
def yX1_same : MethodName := ⟨RX1, "same", "(II)I"⟩
def dkwX1_same_1 : List UInt8 := [160, 0, 14, 42, 45, 25, 4, 4, 182, 1, 36, 167, 0, 4, 2, 172]
abbrev dktX1_same_1 : List UInt8 := dkwX1_same_1 ++ []
def dkwX1_same_0 : List UInt8 := [42, 27, 182, 0, 195, 78, 42, 28, 182, 0, 195, 58, 4, 45, 180, 0, 192, 25, 4, 180, 0, 192]
abbrev dktX1_same_0 : List UInt8 := dkwX1_same_0 ++ dktX1_same_1
theorem dksX1_same_0 : cX1_same.data.toList.drop 0 = dktX1_same_0 := by decide +kernel
theorem dksX1_same_1 : cX1_same.data.toList.drop 22 = dktX1_same_1 := dk_seg dksX1_same_0 22 rfl rfl
theorem dX1_same_0 : decode cX1_same 0 = .ok (.aload_n 0, 1) := dk_42 (dk_at dksX1_same_0 0 rfl rfl)
theorem dX1_same_1 : decode cX1_same 1 = .ok (.iload_n 1, 1) := dk_27 (dk_at dksX1_same_0 1 rfl rfl)
theorem dX1_same_2 : decode cX1_same 2 = .ok (.invokevirtual 195, 3) := dk_182 0 195 (dk_at dksX1_same_0 2 rfl rfl)
theorem dX1_same_5 : decode cX1_same 5 = .ok (.astore_n 3, 1) := dk_78 (dk_at dksX1_same_0 5 rfl rfl)
theorem dX1_same_6 : decode cX1_same 6 = .ok (.aload_n 0, 1) := dk_42 (dk_at dksX1_same_0 6 rfl rfl)
theorem dX1_same_7 : decode cX1_same 7 = .ok (.iload_n 2, 1) := dk_28 (dk_at dksX1_same_0 7 rfl rfl)
theorem dX1_same_8 : decode cX1_same 8 = .ok (.invokevirtual 195, 3) := dk_182 0 195 (dk_at dksX1_same_0 8 rfl rfl)
theorem dX1_same_11 : decode cX1_same 11 = .ok (.astore 4, 2) := dk_58 4 (dk_at dksX1_same_0 11 rfl rfl)
theorem dX1_same_13 : decode cX1_same 13 = .ok (.aload_n 3, 1) := dk_45 (dk_at dksX1_same_0 13 rfl rfl)
theorem dX1_same_14 : decode cX1_same 14 = .ok (.getfield 192, 3) := dk_180 0 192 (dk_at dksX1_same_0 14 rfl rfl)
theorem dX1_same_17 : decode cX1_same 17 = .ok (.aload 4, 2) := dk_25 4 (dk_at dksX1_same_0 17 rfl rfl)
theorem dX1_same_19 : decode cX1_same 19 = .ok (.getfield 192, 3) := dk_180 0 192 (dk_at dksX1_same_0 19 rfl rfl)
theorem dX1_same_22 : decode cX1_same 22 = .ok (.if_icmp .ne 14, 3) := dk_160 0 14 (dk_at dksX1_same_1 0 rfl rfl)
theorem dX1_same_25 : decode cX1_same 25 = .ok (.aload_n 0, 1) := dk_42 (dk_at dksX1_same_1 3 rfl rfl)
theorem dX1_same_26 : decode cX1_same 26 = .ok (.aload_n 3, 1) := dk_45 (dk_at dksX1_same_1 4 rfl rfl)
theorem dX1_same_27 : decode cX1_same 27 = .ok (.aload 4, 2) := dk_25 4 (dk_at dksX1_same_1 5 rfl rfl)
theorem dX1_same_29 : decode cX1_same 29 = .ok (.iconst 1, 1) := dk_4 (dk_at dksX1_same_1 7 rfl rfl)
theorem dX1_same_30 : decode cX1_same 30 = .ok (.invokevirtual 292, 3) := dk_182 1 36 (dk_at dksX1_same_1 8 rfl rfl)
theorem dX1_same_33 : decode cX1_same 33 = .ok (.goto 4, 3) := dk_167 0 4 (dk_at dksX1_same_1 11 rfl rfl)
theorem dX1_same_36 : decode cX1_same 36 = .ok (.iconst (-1), 1) := dk_2 (dk_at dksX1_same_1 14 rfl rfl)
theorem dX1_same_37 : decode cX1_same 37 = .ok (.ireturn, 1) := dk_172 (dk_at dksX1_same_1 15 rfl rfl)
abbrev cX1_keep : ByteArray := prog_1_method_43_code
def yX1_keep : MethodName := ⟨RX1, "keep", "(I)I"⟩
def dkwX1_keep_0 : List UInt8 := [42, 27, 182, 0, 195, 77, 42, 44, 44, 3, 182, 1, 36, 172]
abbrev dktX1_keep_0 : List UInt8 := dkwX1_keep_0 ++ []
theorem dksX1_keep_0 : cX1_keep.data.toList.drop 0 = dktX1_keep_0 := by decide +kernel
theorem dX1_keep_0 : decode cX1_keep 0 = .ok (.aload_n 0, 1) := dk_42 (dk_at dksX1_keep_0 0 rfl rfl)
theorem dX1_keep_1 : decode cX1_keep 1 = .ok (.iload_n 1, 1) := dk_27 (dk_at dksX1_keep_0 1 rfl rfl)
theorem dX1_keep_2 : decode cX1_keep 2 = .ok (.invokevirtual 195, 3) := dk_182 0 195 (dk_at dksX1_keep_0 2 rfl rfl)
theorem dX1_keep_5 : decode cX1_keep 5 = .ok (.astore_n 2, 1) := dk_77 (dk_at dksX1_keep_0 5 rfl rfl)
theorem dX1_keep_6 : decode cX1_keep 6 = .ok (.aload_n 0, 1) := dk_42 (dk_at dksX1_keep_0 6 rfl rfl)
theorem dX1_keep_7 : decode cX1_keep 7 = .ok (.aload_n 2, 1) := dk_44 (dk_at dksX1_keep_0 7 rfl rfl)
theorem dX1_keep_8 : decode cX1_keep 8 = .ok (.aload_n 2, 1) := dk_44 (dk_at dksX1_keep_0 8 rfl rfl)
theorem dX1_keep_9 : decode cX1_keep 9 = .ok (.iconst 0, 1) := dk_3 (dk_at dksX1_keep_0 9 rfl rfl)
theorem dX1_keep_10 : decode cX1_keep 10 = .ok (.invokevirtual 292, 3) := dk_182 1 36 (dk_at dksX1_keep_0 10 rfl rfl)
theorem dX1_keep_13 : decode cX1_keep 13 = .ok (.ireturn, 1) := dk_172 (dk_at dksX1_keep_0 13 rfl rfl)
abbrev cX1_powers : ByteArray := prog_1_method_55_code
def yX1_powers : MethodName := ⟨RX1, "powers", "(II)I"⟩
def dkwX1_powers_7 : List UInt8 := [16, 10, 100, 46, 167, 0, 4, 2, 172]
abbrev dktX1_powers_7 : List UInt8 := dkwX1_powers_7 ++ []
def dkwX1_powers_6 : List UInt8 := [167, 0, 31, 28, 16, 10, 161, 0, 24, 28, 16, 10, 100, 21, 4, 162, 0, 15, 42, 180, 0, 65, 28]
abbrev dktX1_powers_6 : List UInt8 := dkwX1_powers_6 ++ dktX1_powers_7
def dkwX1_powers_5 : List UInt8 := [159, 0, 8, 28, 2, 160, 0, 6, 21, 4, 172, 28, 21, 4, 162, 0, 12, 42, 180, 0, 61, 28, 46]
abbrev dktX1_powers_5 : List UInt8 := dkwX1_powers_5 ++ dktX1_powers_6
def dkwX1_powers_4 : List UInt8 := [182, 1, 58, 153, 0, 8, 21, 5, 167, 0, 4, 2, 54, 4, 132, 5, 1, 167, 255, 221, 21, 4, 2]
abbrev dktX1_powers_4 : List UInt8 := dkwX1_powers_4 ++ dktX1_powers_5
def dkwX1_powers_3 : List UInt8 := [2, 54, 4, 4, 54, 5, 21, 5, 6, 163, 0, 35, 21, 4, 2, 160, 0, 29, 42, 45, 3, 21, 5, 3]
abbrev dktX1_powers_3 : List UInt8 := dkwX1_powers_3 ++ dktX1_powers_4
def dkwX1_powers_2 : List UInt8 := [45, 180, 0, 192, 182, 1, 61, 132, 4, 1, 167, 255, 228, 45, 182, 1, 65, 153, 0, 7, 3, 167, 0, 4]
abbrev dktX1_powers_2 : List UInt8 := dkwX1_powers_2 ++ dktX1_powers_3
def dkwX1_powers_1 : List UInt8 := [184, 0, 132, 3, 54, 4, 21, 4, 42, 180, 0, 19, 180, 0, 141, 180, 0, 145, 163, 0, 19, 42, 21, 4]
abbrev dktX1_powers_1 : List UInt8 := dkwX1_powers_1 ++ dktX1_powers_2
def dkwX1_powers_0 : List UInt8 := [42, 27, 182, 0, 195, 78, 45, 180, 0, 192, 158, 0, 12, 28, 2, 161, 0, 7, 4, 167, 0, 4, 3]
abbrev dktX1_powers_0 : List UInt8 := dkwX1_powers_0 ++ dktX1_powers_1
theorem dksX1_powers_0 : cX1_powers.data.toList.drop 0 = dktX1_powers_0 := by decide +kernel
theorem dksX1_powers_1 : cX1_powers.data.toList.drop 23 = dktX1_powers_1 := dk_seg dksX1_powers_0 23 rfl rfl
theorem dksX1_powers_2 : cX1_powers.data.toList.drop 47 = dktX1_powers_2 := dk_seg dksX1_powers_1 24 rfl rfl
theorem dksX1_powers_3 : cX1_powers.data.toList.drop 71 = dktX1_powers_3 := dk_seg dksX1_powers_2 24 rfl rfl
theorem dksX1_powers_4 : cX1_powers.data.toList.drop 95 = dktX1_powers_4 := dk_seg dksX1_powers_3 24 rfl rfl
theorem dksX1_powers_5 : cX1_powers.data.toList.drop 118 = dktX1_powers_5 := dk_seg dksX1_powers_4 23 rfl rfl
theorem dksX1_powers_6 : cX1_powers.data.toList.drop 141 = dktX1_powers_6 := dk_seg dksX1_powers_5 23 rfl rfl
theorem dksX1_powers_7 : cX1_powers.data.toList.drop 164 = dktX1_powers_7 := dk_seg dksX1_powers_6 23 rfl rfl
theorem dX1_powers_0 : decode cX1_powers 0 = .ok (.aload_n 0, 1) := dk_42 (dk_at dksX1_powers_0 0 rfl rfl)
theorem dX1_powers_1 : decode cX1_powers 1 = .ok (.iload_n 1, 1) := dk_27 (dk_at dksX1_powers_0 1 rfl rfl)
theorem dX1_powers_2 : decode cX1_powers 2 = .ok (.invokevirtual 195, 3) := dk_182 0 195 (dk_at dksX1_powers_0 2 rfl rfl)
theorem dX1_powers_5 : decode cX1_powers 5 = .ok (.astore_n 3, 1) := dk_78 (dk_at dksX1_powers_0 5 rfl rfl)
theorem dX1_powers_6 : decode cX1_powers 6 = .ok (.aload_n 3, 1) := dk_45 (dk_at dksX1_powers_0 6 rfl rfl)
theorem dX1_powers_7 : decode cX1_powers 7 = .ok (.getfield 192, 3) := dk_180 0 192 (dk_at dksX1_powers_0 7 rfl rfl)
theorem dX1_powers_10 : decode cX1_powers 10 = .ok (.ifCond .le 12, 3) := dk_158 0 12 (dk_at dksX1_powers_0 10 rfl rfl)
theorem dX1_powers_13 : decode cX1_powers 13 = .ok (.iload_n 2, 1) := dk_28 (dk_at dksX1_powers_0 13 rfl rfl)
theorem dX1_powers_14 : decode cX1_powers 14 = .ok (.iconst (-1), 1) := dk_2 (dk_at dksX1_powers_0 14 rfl rfl)
theorem dX1_powers_15 : decode cX1_powers 15 = .ok (.if_icmp .lt 7, 3) := dk_161 0 7 (dk_at dksX1_powers_0 15 rfl rfl)
theorem dX1_powers_18 : decode cX1_powers 18 = .ok (.iconst 1, 1) := dk_4 (dk_at dksX1_powers_0 18 rfl rfl)
theorem dX1_powers_19 : decode cX1_powers 19 = .ok (.goto 4, 3) := dk_167 0 4 (dk_at dksX1_powers_0 19 rfl rfl)
theorem dX1_powers_22 : decode cX1_powers 22 = .ok (.iconst 0, 1) := dk_3 (dk_at dksX1_powers_0 22 rfl rfl)
theorem dX1_powers_23 : decode cX1_powers 23 = .ok (.invokestatic 132, 3) := dk_184 0 132 (dk_at dksX1_powers_1 0 rfl rfl)
theorem dX1_powers_26 : decode cX1_powers 26 = .ok (.iconst 0, 1) := dk_3 (dk_at dksX1_powers_1 3 rfl rfl)
theorem dX1_powers_27 : decode cX1_powers 27 = .ok (.istore 4, 2) := dk_54 4 (dk_at dksX1_powers_1 4 rfl rfl)
theorem dX1_powers_29 : decode cX1_powers 29 = .ok (.iload 4, 2) := dk_21 4 (dk_at dksX1_powers_1 6 rfl rfl)
theorem dX1_powers_31 : decode cX1_powers 31 = .ok (.aload_n 0, 1) := dk_42 (dk_at dksX1_powers_1 8 rfl rfl)
theorem dX1_powers_32 : decode cX1_powers 32 = .ok (.getfield 19, 3) := dk_180 0 19 (dk_at dksX1_powers_1 9 rfl rfl)
theorem dX1_powers_35 : decode cX1_powers 35 = .ok (.getfield 141, 3) := dk_180 0 141 (dk_at dksX1_powers_1 12 rfl rfl)
theorem dX1_powers_38 : decode cX1_powers 38 = .ok (.getfield 145, 3) := dk_180 0 145 (dk_at dksX1_powers_1 15 rfl rfl)
theorem dX1_powers_41 : decode cX1_powers 41 = .ok (.if_icmp .gt 19, 3) := dk_163 0 19 (dk_at dksX1_powers_1 18 rfl rfl)
theorem dX1_powers_44 : decode cX1_powers 44 = .ok (.aload_n 0, 1) := dk_42 (dk_at dksX1_powers_1 21 rfl rfl)
theorem dX1_powers_45 : decode cX1_powers 45 = .ok (.iload 4, 2) := dk_21 4 (dk_at dksX1_powers_1 22 rfl rfl)
theorem dX1_powers_47 : decode cX1_powers 47 = .ok (.aload_n 3, 1) := dk_45 (dk_at dksX1_powers_2 0 rfl rfl)
theorem dX1_powers_48 : decode cX1_powers 48 = .ok (.getfield 192, 3) := dk_180 0 192 (dk_at dksX1_powers_2 1 rfl rfl)
theorem dX1_powers_51 : decode cX1_powers 51 = .ok (.invokevirtual 317, 3) := dk_182 1 61 (dk_at dksX1_powers_2 4 rfl rfl)
theorem dX1_powers_54 : decode cX1_powers 54 = .ok (.iinc 4 1, 3) := dk_132 4 1 (dk_at dksX1_powers_2 7 rfl rfl)
theorem dX1_powers_57 : decode cX1_powers 57 = .ok (.goto (-28), 3) := dk_167 255 228 (dk_at dksX1_powers_2 10 rfl rfl)
theorem dX1_powers_60 : decode cX1_powers 60 = .ok (.aload_n 3, 1) := dk_45 (dk_at dksX1_powers_2 13 rfl rfl)
theorem dX1_powers_61 : decode cX1_powers 61 = .ok (.invokevirtual 321, 3) := dk_182 1 65 (dk_at dksX1_powers_2 14 rfl rfl)
theorem dX1_powers_64 : decode cX1_powers 64 = .ok (.ifCond .eq 7, 3) := dk_153 0 7 (dk_at dksX1_powers_2 17 rfl rfl)
theorem dX1_powers_67 : decode cX1_powers 67 = .ok (.iconst 0, 1) := dk_3 (dk_at dksX1_powers_2 20 rfl rfl)
theorem dX1_powers_68 : decode cX1_powers 68 = .ok (.goto 4, 3) := dk_167 0 4 (dk_at dksX1_powers_2 21 rfl rfl)
theorem dX1_powers_71 : decode cX1_powers 71 = .ok (.iconst (-1), 1) := dk_2 (dk_at dksX1_powers_3 0 rfl rfl)
theorem dX1_powers_72 : decode cX1_powers 72 = .ok (.istore 4, 2) := dk_54 4 (dk_at dksX1_powers_3 1 rfl rfl)
theorem dX1_powers_74 : decode cX1_powers 74 = .ok (.iconst 1, 1) := dk_4 (dk_at dksX1_powers_3 3 rfl rfl)
theorem dX1_powers_75 : decode cX1_powers 75 = .ok (.istore 5, 2) := dk_54 5 (dk_at dksX1_powers_3 4 rfl rfl)
theorem dX1_powers_77 : decode cX1_powers 77 = .ok (.iload 5, 2) := dk_21 5 (dk_at dksX1_powers_3 6 rfl rfl)
theorem dX1_powers_79 : decode cX1_powers 79 = .ok (.iconst 3, 1) := dk_6 (dk_at dksX1_powers_3 8 rfl rfl)
theorem dX1_powers_80 : decode cX1_powers 80 = .ok (.if_icmp .gt 35, 3) := dk_163 0 35 (dk_at dksX1_powers_3 9 rfl rfl)
theorem dX1_powers_83 : decode cX1_powers 83 = .ok (.iload 4, 2) := dk_21 4 (dk_at dksX1_powers_3 12 rfl rfl)
theorem dX1_powers_85 : decode cX1_powers 85 = .ok (.iconst (-1), 1) := dk_2 (dk_at dksX1_powers_3 14 rfl rfl)
theorem dX1_powers_86 : decode cX1_powers 86 = .ok (.if_icmp .ne 29, 3) := dk_160 0 29 (dk_at dksX1_powers_3 15 rfl rfl)
theorem dX1_powers_89 : decode cX1_powers 89 = .ok (.aload_n 0, 1) := dk_42 (dk_at dksX1_powers_3 18 rfl rfl)
theorem dX1_powers_90 : decode cX1_powers 90 = .ok (.aload_n 3, 1) := dk_45 (dk_at dksX1_powers_3 19 rfl rfl)
theorem dX1_powers_91 : decode cX1_powers 91 = .ok (.iconst 0, 1) := dk_3 (dk_at dksX1_powers_3 20 rfl rfl)
theorem dX1_powers_92 : decode cX1_powers 92 = .ok (.iload 5, 2) := dk_21 5 (dk_at dksX1_powers_3 21 rfl rfl)
theorem dX1_powers_94 : decode cX1_powers 94 = .ok (.iconst 0, 1) := dk_3 (dk_at dksX1_powers_3 23 rfl rfl)
theorem dX1_powers_95 : decode cX1_powers 95 = .ok (.invokevirtual 314, 3) := dk_182 1 58 (dk_at dksX1_powers_4 0 rfl rfl)
theorem dX1_powers_98 : decode cX1_powers 98 = .ok (.ifCond .eq 8, 3) := dk_153 0 8 (dk_at dksX1_powers_4 3 rfl rfl)
theorem dX1_powers_101 : decode cX1_powers 101 = .ok (.iload 5, 2) := dk_21 5 (dk_at dksX1_powers_4 6 rfl rfl)
theorem dX1_powers_103 : decode cX1_powers 103 = .ok (.goto 4, 3) := dk_167 0 4 (dk_at dksX1_powers_4 8 rfl rfl)
theorem dX1_powers_106 : decode cX1_powers 106 = .ok (.iconst (-1), 1) := dk_2 (dk_at dksX1_powers_4 11 rfl rfl)
theorem dX1_powers_107 : decode cX1_powers 107 = .ok (.istore 4, 2) := dk_54 4 (dk_at dksX1_powers_4 12 rfl rfl)
theorem dX1_powers_109 : decode cX1_powers 109 = .ok (.iinc 5 1, 3) := dk_132 5 1 (dk_at dksX1_powers_4 14 rfl rfl)
theorem dX1_powers_112 : decode cX1_powers 112 = .ok (.goto (-35), 3) := dk_167 255 221 (dk_at dksX1_powers_4 17 rfl rfl)
theorem dX1_powers_115 : decode cX1_powers 115 = .ok (.iload 4, 2) := dk_21 4 (dk_at dksX1_powers_4 20 rfl rfl)
theorem dX1_powers_117 : decode cX1_powers 117 = .ok (.iconst (-1), 1) := dk_2 (dk_at dksX1_powers_4 22 rfl rfl)
theorem dX1_powers_118 : decode cX1_powers 118 = .ok (.if_icmp .eq 8, 3) := dk_159 0 8 (dk_at dksX1_powers_5 0 rfl rfl)
theorem dX1_powers_121 : decode cX1_powers 121 = .ok (.iload_n 2, 1) := dk_28 (dk_at dksX1_powers_5 3 rfl rfl)
theorem dX1_powers_122 : decode cX1_powers 122 = .ok (.iconst (-1), 1) := dk_2 (dk_at dksX1_powers_5 4 rfl rfl)
theorem dX1_powers_123 : decode cX1_powers 123 = .ok (.if_icmp .ne 6, 3) := dk_160 0 6 (dk_at dksX1_powers_5 5 rfl rfl)
theorem dX1_powers_126 : decode cX1_powers 126 = .ok (.iload 4, 2) := dk_21 4 (dk_at dksX1_powers_5 8 rfl rfl)
theorem dX1_powers_128 : decode cX1_powers 128 = .ok (.ireturn, 1) := dk_172 (dk_at dksX1_powers_5 10 rfl rfl)
theorem dX1_powers_129 : decode cX1_powers 129 = .ok (.iload_n 2, 1) := dk_28 (dk_at dksX1_powers_5 11 rfl rfl)
theorem dX1_powers_130 : decode cX1_powers 130 = .ok (.iload 4, 2) := dk_21 4 (dk_at dksX1_powers_5 12 rfl rfl)
theorem dX1_powers_132 : decode cX1_powers 132 = .ok (.if_icmp .ge 12, 3) := dk_162 0 12 (dk_at dksX1_powers_5 14 rfl rfl)
theorem dX1_powers_135 : decode cX1_powers 135 = .ok (.aload_n 0, 1) := dk_42 (dk_at dksX1_powers_5 17 rfl rfl)
theorem dX1_powers_136 : decode cX1_powers 136 = .ok (.getfield 61, 3) := dk_180 0 61 (dk_at dksX1_powers_5 18 rfl rfl)
theorem dX1_powers_139 : decode cX1_powers 139 = .ok (.iload_n 2, 1) := dk_28 (dk_at dksX1_powers_5 21 rfl rfl)
theorem dX1_powers_140 : decode cX1_powers 140 = .ok (.iaload, 1) := dk_46 (dk_at dksX1_powers_5 22 rfl rfl)
theorem dX1_powers_141 : decode cX1_powers 141 = .ok (.goto 31, 3) := dk_167 0 31 (dk_at dksX1_powers_6 0 rfl rfl)
theorem dX1_powers_144 : decode cX1_powers 144 = .ok (.iload_n 2, 1) := dk_28 (dk_at dksX1_powers_6 3 rfl rfl)
theorem dX1_powers_145 : decode cX1_powers 145 = .ok (.bipush 10, 2) := dk_16 10 (dk_at dksX1_powers_6 4 rfl rfl)
theorem dX1_powers_147 : decode cX1_powers 147 = .ok (.if_icmp .lt 24, 3) := dk_161 0 24 (dk_at dksX1_powers_6 6 rfl rfl)
theorem dX1_powers_150 : decode cX1_powers 150 = .ok (.iload_n 2, 1) := dk_28 (dk_at dksX1_powers_6 9 rfl rfl)
theorem dX1_powers_151 : decode cX1_powers 151 = .ok (.bipush 10, 2) := dk_16 10 (dk_at dksX1_powers_6 10 rfl rfl)
theorem dX1_powers_153 : decode cX1_powers 153 = .ok (.isub, 1) := dk_100 (dk_at dksX1_powers_6 12 rfl rfl)
theorem dX1_powers_154 : decode cX1_powers 154 = .ok (.iload 4, 2) := dk_21 4 (dk_at dksX1_powers_6 13 rfl rfl)
theorem dX1_powers_156 : decode cX1_powers 156 = .ok (.if_icmp .ge 15, 3) := dk_162 0 15 (dk_at dksX1_powers_6 15 rfl rfl)
theorem dX1_powers_159 : decode cX1_powers 159 = .ok (.aload_n 0, 1) := dk_42 (dk_at dksX1_powers_6 18 rfl rfl)
theorem dX1_powers_160 : decode cX1_powers 160 = .ok (.getfield 65, 3) := dk_180 0 65 (dk_at dksX1_powers_6 19 rfl rfl)
theorem dX1_powers_163 : decode cX1_powers 163 = .ok (.iload_n 2, 1) := dk_28 (dk_at dksX1_powers_6 22 rfl rfl)
theorem dX1_powers_164 : decode cX1_powers 164 = .ok (.bipush 10, 2) := dk_16 10 (dk_at dksX1_powers_7 0 rfl rfl)
theorem dX1_powers_166 : decode cX1_powers 166 = .ok (.isub, 1) := dk_100 (dk_at dksX1_powers_7 2 rfl rfl)
theorem dX1_powers_167 : decode cX1_powers 167 = .ok (.iaload, 1) := dk_46 (dk_at dksX1_powers_7 3 rfl rfl)
theorem dX1_powers_168 : decode cX1_powers 168 = .ok (.goto 4, 3) := dk_167 0 4 (dk_at dksX1_powers_7 4 rfl rfl)
theorem dX1_powers_171 : decode cX1_powers 171 = .ok (.iconst (-1), 1) := dk_2 (dk_at dksX1_powers_7 7 rfl rfl)
theorem dX1_powers_172 : decode cX1_powers 172 = .ok (.ireturn, 1) := dk_172 (dk_at dksX1_powers_7 8 rfl rfl)
abbrev cX1_line : ByteArray := prog_1_method_51_code
def yX1_line : MethodName := ⟨RX1, "line", "(II)V"⟩
def dkwX1_line_4 : List UInt8 := [180, 0, 160, 3, 42, 180, 0, 58, 27, 50, 3, 28, 4, 96, 184, 0, 177, 177]
abbrev dktX1_line_4 : List UInt8 := dkwX1_line_4 ++ []
def dkwX1_line_3 : List UInt8 := [180, 0, 19, 180, 0, 141, 27, 116, 133, 182, 0, 163, 182, 1, 47, 132, 4, 1, 167, 255, 189, 45]
abbrev dktX1_line_3 : List UInt8 := dkwX1_line_3 ++ dktX1_line_4
def dkwX1_line_2 : List UInt8 := [167, 0, 4, 4, 27, 42, 180, 0, 19, 180, 0, 141, 180, 0, 145, 160, 0, 7, 4, 167, 0, 16, 42]
abbrev dktX1_line_2 : List UInt8 := dkwX1_line_2 ++ dktX1_line_3
def dkwX1_line_1 : List UInt8 := [162, 0, 67, 42, 180, 0, 19, 45, 27, 42, 180, 0, 19, 180, 0, 141, 180, 0, 145, 160, 0, 7, 3]
abbrev dktX1_line_1 : List UInt8 := dkwX1_line_1 ++ dktX1_line_2
def dkwX1_line_0 : List UInt8 := [42, 180, 0, 44, 78, 45, 3, 182, 0, 157, 45, 180, 0, 160, 3, 4, 79, 3, 54, 4, 21, 4, 28]
abbrev dktX1_line_0 : List UInt8 := dkwX1_line_0 ++ dktX1_line_1
theorem dksX1_line_0 : cX1_line.data.toList.drop 0 = dktX1_line_0 := by decide +kernel
theorem dksX1_line_1 : cX1_line.data.toList.drop 23 = dktX1_line_1 := dk_seg dksX1_line_0 23 rfl rfl
theorem dksX1_line_2 : cX1_line.data.toList.drop 46 = dktX1_line_2 := dk_seg dksX1_line_1 23 rfl rfl
theorem dksX1_line_3 : cX1_line.data.toList.drop 69 = dktX1_line_3 := dk_seg dksX1_line_2 23 rfl rfl
theorem dksX1_line_4 : cX1_line.data.toList.drop 91 = dktX1_line_4 := dk_seg dksX1_line_3 22 rfl rfl
theorem dX1_line_0 : decode cX1_line 0 = .ok (.aload_n 0, 1) := dk_42 (dk_at dksX1_line_0 0 rfl rfl)
theorem dX1_line_1 : decode cX1_line 1 = .ok (.getfield 44, 3) := dk_180 0 44 (dk_at dksX1_line_0 1 rfl rfl)
theorem dX1_line_4 : decode cX1_line 4 = .ok (.astore_n 3, 1) := dk_78 (dk_at dksX1_line_0 4 rfl rfl)
theorem dX1_line_5 : decode cX1_line 5 = .ok (.aload_n 3, 1) := dk_45 (dk_at dksX1_line_0 5 rfl rfl)
theorem dX1_line_6 : decode cX1_line 6 = .ok (.iconst 0, 1) := dk_3 (dk_at dksX1_line_0 6 rfl rfl)
theorem dX1_line_7 : decode cX1_line 7 = .ok (.invokevirtual 157, 3) := dk_182 0 157 (dk_at dksX1_line_0 7 rfl rfl)
theorem dX1_line_10 : decode cX1_line 10 = .ok (.aload_n 3, 1) := dk_45 (dk_at dksX1_line_0 10 rfl rfl)
theorem dX1_line_11 : decode cX1_line 11 = .ok (.getfield 160, 3) := dk_180 0 160 (dk_at dksX1_line_0 11 rfl rfl)
theorem dX1_line_14 : decode cX1_line 14 = .ok (.iconst 0, 1) := dk_3 (dk_at dksX1_line_0 14 rfl rfl)
theorem dX1_line_15 : decode cX1_line 15 = .ok (.iconst 1, 1) := dk_4 (dk_at dksX1_line_0 15 rfl rfl)
theorem dX1_line_16 : decode cX1_line 16 = .ok (.iastore, 1) := dk_79 (dk_at dksX1_line_0 16 rfl rfl)
theorem dX1_line_17 : decode cX1_line 17 = .ok (.iconst 0, 1) := dk_3 (dk_at dksX1_line_0 17 rfl rfl)
theorem dX1_line_18 : decode cX1_line 18 = .ok (.istore 4, 2) := dk_54 4 (dk_at dksX1_line_0 18 rfl rfl)
theorem dX1_line_20 : decode cX1_line 20 = .ok (.iload 4, 2) := dk_21 4 (dk_at dksX1_line_0 20 rfl rfl)
theorem dX1_line_22 : decode cX1_line 22 = .ok (.iload_n 2, 1) := dk_28 (dk_at dksX1_line_0 22 rfl rfl)
theorem dX1_line_23 : decode cX1_line 23 = .ok (.if_icmp .ge 67, 3) := dk_162 0 67 (dk_at dksX1_line_1 0 rfl rfl)
theorem dX1_line_26 : decode cX1_line 26 = .ok (.aload_n 0, 1) := dk_42 (dk_at dksX1_line_1 3 rfl rfl)
theorem dX1_line_27 : decode cX1_line 27 = .ok (.getfield 19, 3) := dk_180 0 19 (dk_at dksX1_line_1 4 rfl rfl)
theorem dX1_line_30 : decode cX1_line 30 = .ok (.aload_n 3, 1) := dk_45 (dk_at dksX1_line_1 7 rfl rfl)
theorem dX1_line_31 : decode cX1_line 31 = .ok (.iload_n 1, 1) := dk_27 (dk_at dksX1_line_1 8 rfl rfl)
theorem dX1_line_32 : decode cX1_line 32 = .ok (.aload_n 0, 1) := dk_42 (dk_at dksX1_line_1 9 rfl rfl)
theorem dX1_line_33 : decode cX1_line 33 = .ok (.getfield 19, 3) := dk_180 0 19 (dk_at dksX1_line_1 10 rfl rfl)
theorem dX1_line_36 : decode cX1_line 36 = .ok (.getfield 141, 3) := dk_180 0 141 (dk_at dksX1_line_1 13 rfl rfl)
theorem dX1_line_39 : decode cX1_line 39 = .ok (.getfield 145, 3) := dk_180 0 145 (dk_at dksX1_line_1 16 rfl rfl)
theorem dX1_line_42 : decode cX1_line 42 = .ok (.if_icmp .ne 7, 3) := dk_160 0 7 (dk_at dksX1_line_1 19 rfl rfl)
theorem dX1_line_45 : decode cX1_line 45 = .ok (.iconst 0, 1) := dk_3 (dk_at dksX1_line_1 22 rfl rfl)
theorem dX1_line_46 : decode cX1_line 46 = .ok (.goto 4, 3) := dk_167 0 4 (dk_at dksX1_line_2 0 rfl rfl)
theorem dX1_line_49 : decode cX1_line 49 = .ok (.iconst 1, 1) := dk_4 (dk_at dksX1_line_2 3 rfl rfl)
theorem dX1_line_50 : decode cX1_line 50 = .ok (.iload_n 1, 1) := dk_27 (dk_at dksX1_line_2 4 rfl rfl)
theorem dX1_line_51 : decode cX1_line 51 = .ok (.aload_n 0, 1) := dk_42 (dk_at dksX1_line_2 5 rfl rfl)
theorem dX1_line_52 : decode cX1_line 52 = .ok (.getfield 19, 3) := dk_180 0 19 (dk_at dksX1_line_2 6 rfl rfl)
theorem dX1_line_55 : decode cX1_line 55 = .ok (.getfield 141, 3) := dk_180 0 141 (dk_at dksX1_line_2 9 rfl rfl)
theorem dX1_line_58 : decode cX1_line 58 = .ok (.getfield 145, 3) := dk_180 0 145 (dk_at dksX1_line_2 12 rfl rfl)
theorem dX1_line_61 : decode cX1_line 61 = .ok (.if_icmp .ne 7, 3) := dk_160 0 7 (dk_at dksX1_line_2 15 rfl rfl)
theorem dX1_line_64 : decode cX1_line 64 = .ok (.iconst 1, 1) := dk_4 (dk_at dksX1_line_2 18 rfl rfl)
theorem dX1_line_65 : decode cX1_line 65 = .ok (.goto 16, 3) := dk_167 0 16 (dk_at dksX1_line_2 19 rfl rfl)
theorem dX1_line_68 : decode cX1_line 68 = .ok (.aload_n 0, 1) := dk_42 (dk_at dksX1_line_2 22 rfl rfl)
theorem dX1_line_69 : decode cX1_line 69 = .ok (.getfield 19, 3) := dk_180 0 19 (dk_at dksX1_line_3 0 rfl rfl)
theorem dX1_line_72 : decode cX1_line 72 = .ok (.getfield 141, 3) := dk_180 0 141 (dk_at dksX1_line_3 3 rfl rfl)
theorem dX1_line_75 : decode cX1_line 75 = .ok (.iload_n 1, 1) := dk_27 (dk_at dksX1_line_3 6 rfl rfl)
theorem dX1_line_76 : decode cX1_line 76 = .ok (.ineg, 1) := dk_116 (dk_at dksX1_line_3 7 rfl rfl)
theorem dX1_line_77 : decode cX1_line 77 = .ok (.i2l, 1) := dk_133 (dk_at dksX1_line_3 8 rfl rfl)
theorem dX1_line_78 : decode cX1_line 78 = .ok (.invokevirtual 163, 3) := dk_182 0 163 (dk_at dksX1_line_3 9 rfl rfl)
theorem dX1_line_81 : decode cX1_line 81 = .ok (.invokevirtual 303, 3) := dk_182 1 47 (dk_at dksX1_line_3 12 rfl rfl)
theorem dX1_line_84 : decode cX1_line 84 = .ok (.iinc 4 1, 3) := dk_132 4 1 (dk_at dksX1_line_3 15 rfl rfl)
theorem dX1_line_87 : decode cX1_line 87 = .ok (.goto (-67), 3) := dk_167 255 189 (dk_at dksX1_line_3 18 rfl rfl)
theorem dX1_line_90 : decode cX1_line 90 = .ok (.aload_n 3, 1) := dk_45 (dk_at dksX1_line_3 21 rfl rfl)
theorem dX1_line_91 : decode cX1_line 91 = .ok (.getfield 160, 3) := dk_180 0 160 (dk_at dksX1_line_4 0 rfl rfl)
theorem dX1_line_94 : decode cX1_line 94 = .ok (.iconst 0, 1) := dk_3 (dk_at dksX1_line_4 3 rfl rfl)
theorem dX1_line_95 : decode cX1_line 95 = .ok (.aload_n 0, 1) := dk_42 (dk_at dksX1_line_4 4 rfl rfl)
theorem dX1_line_96 : decode cX1_line 96 = .ok (.getfield 58, 3) := dk_180 0 58 (dk_at dksX1_line_4 5 rfl rfl)
theorem dX1_line_99 : decode cX1_line 99 = .ok (.iload_n 1, 1) := dk_27 (dk_at dksX1_line_4 8 rfl rfl)
theorem dX1_line_100 : decode cX1_line 100 = .ok (.aaload, 1) := dk_50 (dk_at dksX1_line_4 9 rfl rfl)
theorem dX1_line_101 : decode cX1_line 101 = .ok (.iconst 0, 1) := dk_3 (dk_at dksX1_line_4 10 rfl rfl)
theorem dX1_line_102 : decode cX1_line 102 = .ok (.iload_n 2, 1) := dk_28 (dk_at dksX1_line_4 11 rfl rfl)
theorem dX1_line_103 : decode cX1_line 103 = .ok (.iconst 1, 1) := dk_4 (dk_at dksX1_line_4 12 rfl rfl)
theorem dX1_line_104 : decode cX1_line 104 = .ok (.iadd, 1) := dk_96 (dk_at dksX1_line_4 13 rfl rfl)
theorem dX1_line_105 : decode cX1_line 105 = .ok (.invokestatic 177, 3) := dk_184 0 177 (dk_at dksX1_line_4 14 rfl rfl)
theorem dX1_line_108 : decode cX1_line 108 = .ok (.return_, 1) := dk_177 (dk_at dksX1_line_4 17 rfl rfl)
abbrev cX1_adds_2 : ByteArray := prog_1_method_52_code
def yX1_adds_2 : MethodName := ⟨RX1, "adds", "(LLetterForms$Form;III)Z"⟩
def dkwX1_adds_2_2 : List UInt8 := [29, 3, 182, 1, 55, 153, 0, 5, 4, 172, 132, 5, 1, 167, 255, 199, 3, 172]
abbrev dktX1_adds_2_2 : List UInt8 := dkwX1_adds_2_2 ++ []
def dkwX1_adds_2_1 : List UInt8 := [21, 5, 79, 28, 4, 96, 29, 162, 0, 15, 42, 43, 28, 29, 182, 1, 51, 153, 0, 17, 4, 172, 42, 43]
abbrev dktX1_adds_2_1 : List UInt8 := dkwX1_adds_2_1 ++ dktX1_adds_2_2
def dkwX1_adds_2_0 : List UInt8 := [21, 4, 54, 5, 21, 5, 42, 180, 0, 19, 180, 0, 141, 180, 0, 145, 163, 0, 48, 42, 180, 0, 61, 28]
abbrev dktX1_adds_2_0 : List UInt8 := dkwX1_adds_2_0 ++ dktX1_adds_2_1
theorem dksX1_adds_2_0 : cX1_adds_2.data.toList.drop 0 = dktX1_adds_2_0 := by decide +kernel
theorem dksX1_adds_2_1 : cX1_adds_2.data.toList.drop 24 = dktX1_adds_2_1 := dk_seg dksX1_adds_2_0 24 rfl rfl
theorem dksX1_adds_2_2 : cX1_adds_2.data.toList.drop 48 = dktX1_adds_2_2 := dk_seg dksX1_adds_2_1 24 rfl rfl
theorem dX1_adds_2_0 : decode cX1_adds_2 0 = .ok (.iload 4, 2) := dk_21 4 (dk_at dksX1_adds_2_0 0 rfl rfl)
theorem dX1_adds_2_2 : decode cX1_adds_2 2 = .ok (.istore 5, 2) := dk_54 5 (dk_at dksX1_adds_2_0 2 rfl rfl)
theorem dX1_adds_2_4 : decode cX1_adds_2 4 = .ok (.iload 5, 2) := dk_21 5 (dk_at dksX1_adds_2_0 4 rfl rfl)
theorem dX1_adds_2_6 : decode cX1_adds_2 6 = .ok (.aload_n 0, 1) := dk_42 (dk_at dksX1_adds_2_0 6 rfl rfl)
theorem dX1_adds_2_7 : decode cX1_adds_2 7 = .ok (.getfield 19, 3) := dk_180 0 19 (dk_at dksX1_adds_2_0 7 rfl rfl)
theorem dX1_adds_2_10 : decode cX1_adds_2 10 = .ok (.getfield 141, 3) := dk_180 0 141 (dk_at dksX1_adds_2_0 10 rfl rfl)
theorem dX1_adds_2_13 : decode cX1_adds_2 13 = .ok (.getfield 145, 3) := dk_180 0 145 (dk_at dksX1_adds_2_0 13 rfl rfl)
theorem dX1_adds_2_16 : decode cX1_adds_2 16 = .ok (.if_icmp .gt 48, 3) := dk_163 0 48 (dk_at dksX1_adds_2_0 16 rfl rfl)
theorem dX1_adds_2_19 : decode cX1_adds_2 19 = .ok (.aload_n 0, 1) := dk_42 (dk_at dksX1_adds_2_0 19 rfl rfl)
theorem dX1_adds_2_20 : decode cX1_adds_2 20 = .ok (.getfield 61, 3) := dk_180 0 61 (dk_at dksX1_adds_2_0 20 rfl rfl)
theorem dX1_adds_2_23 : decode cX1_adds_2 23 = .ok (.iload_n 2, 1) := dk_28 (dk_at dksX1_adds_2_0 23 rfl rfl)
theorem dX1_adds_2_24 : decode cX1_adds_2 24 = .ok (.iload 5, 2) := dk_21 5 (dk_at dksX1_adds_2_1 0 rfl rfl)
theorem dX1_adds_2_26 : decode cX1_adds_2 26 = .ok (.iastore, 1) := dk_79 (dk_at dksX1_adds_2_1 2 rfl rfl)
theorem dX1_adds_2_27 : decode cX1_adds_2 27 = .ok (.iload_n 2, 1) := dk_28 (dk_at dksX1_adds_2_1 3 rfl rfl)
theorem dX1_adds_2_28 : decode cX1_adds_2 28 = .ok (.iconst 1, 1) := dk_4 (dk_at dksX1_adds_2_1 4 rfl rfl)
theorem dX1_adds_2_29 : decode cX1_adds_2 29 = .ok (.iadd, 1) := dk_96 (dk_at dksX1_adds_2_1 5 rfl rfl)
theorem dX1_adds_2_30 : decode cX1_adds_2 30 = .ok (.iload_n 3, 1) := dk_29 (dk_at dksX1_adds_2_1 6 rfl rfl)
theorem dX1_adds_2_31 : decode cX1_adds_2 31 = .ok (.if_icmp .ge 15, 3) := dk_162 0 15 (dk_at dksX1_adds_2_1 7 rfl rfl)
theorem dX1_adds_2_34 : decode cX1_adds_2 34 = .ok (.aload_n 0, 1) := dk_42 (dk_at dksX1_adds_2_1 10 rfl rfl)
theorem dX1_adds_2_35 : decode cX1_adds_2 35 = .ok (.aload_n 1, 1) := dk_43 (dk_at dksX1_adds_2_1 11 rfl rfl)
theorem dX1_adds_2_36 : decode cX1_adds_2 36 = .ok (.iload_n 2, 1) := dk_28 (dk_at dksX1_adds_2_1 12 rfl rfl)
theorem dX1_adds_2_37 : decode cX1_adds_2 37 = .ok (.iload_n 3, 1) := dk_29 (dk_at dksX1_adds_2_1 13 rfl rfl)
theorem dX1_adds_2_38 : decode cX1_adds_2 38 = .ok (.invokevirtual 307, 3) := dk_182 1 51 (dk_at dksX1_adds_2_1 14 rfl rfl)
theorem dX1_adds_2_41 : decode cX1_adds_2 41 = .ok (.ifCond .eq 17, 3) := dk_153 0 17 (dk_at dksX1_adds_2_1 17 rfl rfl)
theorem dX1_adds_2_44 : decode cX1_adds_2 44 = .ok (.iconst 1, 1) := dk_4 (dk_at dksX1_adds_2_1 20 rfl rfl)
theorem dX1_adds_2_45 : decode cX1_adds_2 45 = .ok (.ireturn, 1) := dk_172 (dk_at dksX1_adds_2_1 21 rfl rfl)
theorem dX1_adds_2_46 : decode cX1_adds_2 46 = .ok (.aload_n 0, 1) := dk_42 (dk_at dksX1_adds_2_1 22 rfl rfl)
theorem dX1_adds_2_47 : decode cX1_adds_2 47 = .ok (.aload_n 1, 1) := dk_43 (dk_at dksX1_adds_2_1 23 rfl rfl)
theorem dX1_adds_2_48 : decode cX1_adds_2 48 = .ok (.iload_n 3, 1) := dk_29 (dk_at dksX1_adds_2_2 0 rfl rfl)
theorem dX1_adds_2_49 : decode cX1_adds_2 49 = .ok (.iconst 0, 1) := dk_3 (dk_at dksX1_adds_2_2 1 rfl rfl)
theorem dX1_adds_2_50 : decode cX1_adds_2 50 = .ok (.invokevirtual 311, 3) := dk_182 1 55 (dk_at dksX1_adds_2_2 2 rfl rfl)
theorem dX1_adds_2_53 : decode cX1_adds_2 53 = .ok (.ifCond .eq 5, 3) := dk_153 0 5 (dk_at dksX1_adds_2_2 5 rfl rfl)
theorem dX1_adds_2_56 : decode cX1_adds_2 56 = .ok (.iconst 1, 1) := dk_4 (dk_at dksX1_adds_2_2 8 rfl rfl)
theorem dX1_adds_2_57 : decode cX1_adds_2 57 = .ok (.ireturn, 1) := dk_172 (dk_at dksX1_adds_2_2 9 rfl rfl)
theorem dX1_adds_2_58 : decode cX1_adds_2 58 = .ok (.iinc 5 1, 3) := dk_132 5 1 (dk_at dksX1_adds_2_2 10 rfl rfl)
theorem dX1_adds_2_61 : decode cX1_adds_2 61 = .ok (.goto (-57), 3) := dk_167 255 199 (dk_at dksX1_adds_2_2 13 rfl rfl)
theorem dX1_adds_2_64 : decode cX1_adds_2 64 = .ok (.iconst 0, 1) := dk_3 (dk_at dksX1_adds_2_2 16 rfl rfl)
theorem dX1_adds_2_65 : decode cX1_adds_2 65 = .ok (.ireturn, 1) := dk_172 (dk_at dksX1_adds_2_2 17 rfl rfl)
abbrev cX1_byPoints : ByteArray := prog_1_method_53_code
def yX1_byPoints : MethodName := ⟨RX1, "byPoints", "(LLetterForms$Form;II)Z"⟩
def dkwX1_byPoints_0 : List UInt8 := [42, 43, 28, 4, 96, 29, 42, 180, 0, 61, 28, 46, 4, 96, 182, 1, 58, 172]
abbrev dktX1_byPoints_0 : List UInt8 := dkwX1_byPoints_0 ++ []
theorem dksX1_byPoints_0 : cX1_byPoints.data.toList.drop 0 = dktX1_byPoints_0 := by decide +kernel
theorem dX1_byPoints_0 : decode cX1_byPoints 0 = .ok (.aload_n 0, 1) := dk_42 (dk_at dksX1_byPoints_0 0 rfl rfl)
theorem dX1_byPoints_1 : decode cX1_byPoints 1 = .ok (.aload_n 1, 1) := dk_43 (dk_at dksX1_byPoints_0 1 rfl rfl)
theorem dX1_byPoints_2 : decode cX1_byPoints 2 = .ok (.iload_n 2, 1) := dk_28 (dk_at dksX1_byPoints_0 2 rfl rfl)
theorem dX1_byPoints_3 : decode cX1_byPoints 3 = .ok (.iconst 1, 1) := dk_4 (dk_at dksX1_byPoints_0 3 rfl rfl)
theorem dX1_byPoints_4 : decode cX1_byPoints 4 = .ok (.iadd, 1) := dk_96 (dk_at dksX1_byPoints_0 4 rfl rfl)
theorem dX1_byPoints_5 : decode cX1_byPoints 5 = .ok (.iload_n 3, 1) := dk_29 (dk_at dksX1_byPoints_0 5 rfl rfl)
theorem dX1_byPoints_6 : decode cX1_byPoints 6 = .ok (.aload_n 0, 1) := dk_42 (dk_at dksX1_byPoints_0 6 rfl rfl)
theorem dX1_byPoints_7 : decode cX1_byPoints 7 = .ok (.getfield 61, 3) := dk_180 0 61 (dk_at dksX1_byPoints_0 7 rfl rfl)
theorem dX1_byPoints_10 : decode cX1_byPoints 10 = .ok (.iload_n 2, 1) := dk_28 (dk_at dksX1_byPoints_0 10 rfl rfl)
theorem dX1_byPoints_11 : decode cX1_byPoints 11 = .ok (.iaload, 1) := dk_46 (dk_at dksX1_byPoints_0 11 rfl rfl)
theorem dX1_byPoints_12 : decode cX1_byPoints 12 = .ok (.iconst 1, 1) := dk_4 (dk_at dksX1_byPoints_0 12 rfl rfl)
theorem dX1_byPoints_13 : decode cX1_byPoints 13 = .ok (.iadd, 1) := dk_96 (dk_at dksX1_byPoints_0 13 rfl rfl)
theorem dX1_byPoints_14 : decode cX1_byPoints 14 = .ok (.invokevirtual 314, 3) := dk_182 1 58 (dk_at dksX1_byPoints_0 14 rfl rfl)
theorem dX1_byPoints_17 : decode cX1_byPoints 17 = .ok (.ireturn, 1) := dk_172 (dk_at dksX1_byPoints_0 17 rfl rfl)
abbrev cX1_byNumbers : ByteArray := prog_1_method_54_code
def yX1_byNumbers : MethodName := ⟨RX1, "byNumbers", "(LLetterForms$Form;II)Z"⟩
def dkwX1_byNumbers_11 : List UInt8 := [25, 5, 28, 29, 4, 96, 182, 1, 55, 153, 0, 5, 4, 172, 132, 6, 1, 167, 255, 153, 3, 172]
abbrev dktX1_byNumbers_11 : List UInt8 := dkwX1_byNumbers_11 ++ []
def dkwX1_byNumbers_10 : List UInt8 := [46, 133, 21, 6, 133, 25, 4, 21, 7, 46, 133, 105, 101, 182, 0, 163, 79, 132, 7, 1, 167, 255, 206, 42]
abbrev dktX1_byNumbers_10 : List UInt8 := dkwX1_byNumbers_10 ++ dktX1_byNumbers_11
def dkwX1_byNumbers_9 : List UInt8 := [163, 0, 47, 25, 5, 180, 0, 160, 21, 7, 42, 180, 0, 19, 180, 0, 141, 25, 5, 180, 0, 160, 21, 7]
abbrev dktX1_byNumbers_9 : List UInt8 := dkwX1_byNumbers_9 ++ dktX1_byNumbers_10
def dkwX1_byNumbers_8 : List UInt8 := [180, 0, 65, 29, 21, 6, 79, 25, 5, 43, 182, 0, 223, 3, 54, 7, 21, 7, 43, 180, 0, 192]
abbrev dktX1_byNumbers_8 : List UInt8 := dkwX1_byNumbers_8 ++ dktX1_byNumbers_9
def dkwX1_byNumbers_7 : List UInt8 := [50, 58, 5, 4, 54, 6, 21, 6, 42, 180, 0, 19, 180, 0, 141, 180, 0, 145, 162, 0, 94, 42]
abbrev dktX1_byNumbers_7 : List UInt8 := dkwX1_byNumbers_7 ++ dktX1_byNumbers_8
def dkwX1_byNumbers_6 : List UInt8 := [160, 0, 7, 4, 167, 0, 4, 3, 54, 7, 132, 8, 1, 167, 255, 202, 21, 7, 172, 42, 180, 0, 35, 29]
abbrev dktX1_byNumbers_6 : List UInt8 := dkwX1_byNumbers_6 ++ dktX1_byNumbers_7
def dkwX1_byNumbers_5 : List UInt8 := [21, 8, 46, 42, 180, 0, 19, 180, 0, 141, 21, 6, 133, 25, 4, 21, 8, 46, 133, 105, 182, 0, 163]
abbrev dktX1_byNumbers_5 : List UInt8 := dkwX1_byNumbers_5 ++ dktX1_byNumbers_6
def dkwX1_byNumbers_4 : List UInt8 := [54, 7, 3, 54, 8, 21, 8, 43, 180, 0, 192, 163, 0, 51, 21, 7, 153, 0, 37, 43, 180, 0, 160]
abbrev dktX1_byNumbers_4 : List UInt8 := dkwX1_byNumbers_4 ++ dktX1_byNumbers_5
def dkwX1_byNumbers_3 : List UInt8 := [182, 0, 163, 54, 6, 42, 180, 0, 65, 29, 21, 6, 79, 21, 6, 153, 0, 7, 4, 167, 0, 4, 3]
abbrev dktX1_byNumbers_3 : List UInt8 := dkwX1_byNumbers_3 ++ dktX1_byNumbers_4
def dkwX1_byNumbers_2 : List UInt8 := [180, 0, 160, 21, 5, 46, 133, 42, 180, 0, 19, 180, 0, 141, 25, 4, 21, 5, 46, 182, 1, 29, 133, 105]
abbrev dktX1_byNumbers_2 : List UInt8 := dkwX1_byNumbers_2 ++ dktX1_byNumbers_3
def dkwX1_byNumbers_1 : List UInt8 := [25, 4, 21, 5, 46, 154, 0, 9, 132, 5, 1, 167, 255, 245, 42, 180, 0, 19, 180, 0, 141, 43]
abbrev dktX1_byNumbers_1 : List UInt8 := dkwX1_byNumbers_1 ++ dktX1_byNumbers_2
def dkwX1_byNumbers_0 : List UInt8 := [42, 180, 0, 58, 42, 180, 0, 61, 29, 46, 50, 58, 4, 29, 28, 4, 100, 160, 0, 140, 3, 54, 5]
abbrev dktX1_byNumbers_0 : List UInt8 := dkwX1_byNumbers_0 ++ dktX1_byNumbers_1
theorem dksX1_byNumbers_0 : cX1_byNumbers.data.toList.drop 0 = dktX1_byNumbers_0 := by decide +kernel
theorem dksX1_byNumbers_1 : cX1_byNumbers.data.toList.drop 23 = dktX1_byNumbers_1 := dk_seg dksX1_byNumbers_0 23 rfl rfl
theorem dksX1_byNumbers_2 : cX1_byNumbers.data.toList.drop 45 = dktX1_byNumbers_2 := dk_seg dksX1_byNumbers_1 22 rfl rfl
theorem dksX1_byNumbers_3 : cX1_byNumbers.data.toList.drop 69 = dktX1_byNumbers_3 := dk_seg dksX1_byNumbers_2 24 rfl rfl
theorem dksX1_byNumbers_4 : cX1_byNumbers.data.toList.drop 92 = dktX1_byNumbers_4 := dk_seg dksX1_byNumbers_3 23 rfl rfl
theorem dksX1_byNumbers_5 : cX1_byNumbers.data.toList.drop 115 = dktX1_byNumbers_5 := dk_seg dksX1_byNumbers_4 23 rfl rfl
theorem dksX1_byNumbers_6 : cX1_byNumbers.data.toList.drop 138 = dktX1_byNumbers_6 := dk_seg dksX1_byNumbers_5 23 rfl rfl
theorem dksX1_byNumbers_7 : cX1_byNumbers.data.toList.drop 162 = dktX1_byNumbers_7 := dk_seg dksX1_byNumbers_6 24 rfl rfl
theorem dksX1_byNumbers_8 : cX1_byNumbers.data.toList.drop 184 = dktX1_byNumbers_8 := dk_seg dksX1_byNumbers_7 22 rfl rfl
theorem dksX1_byNumbers_9 : cX1_byNumbers.data.toList.drop 206 = dktX1_byNumbers_9 := dk_seg dksX1_byNumbers_8 22 rfl rfl
theorem dksX1_byNumbers_10 : cX1_byNumbers.data.toList.drop 230 = dktX1_byNumbers_10 := dk_seg dksX1_byNumbers_9 24 rfl rfl
theorem dksX1_byNumbers_11 : cX1_byNumbers.data.toList.drop 254 = dktX1_byNumbers_11 := dk_seg dksX1_byNumbers_10 24 rfl rfl
theorem dX1_byNumbers_0 : decode cX1_byNumbers 0 = .ok (.aload_n 0, 1) := dk_42 (dk_at dksX1_byNumbers_0 0 rfl rfl)
theorem dX1_byNumbers_1 : decode cX1_byNumbers 1 = .ok (.getfield 58, 3) := dk_180 0 58 (dk_at dksX1_byNumbers_0 1 rfl rfl)
theorem dX1_byNumbers_4 : decode cX1_byNumbers 4 = .ok (.aload_n 0, 1) := dk_42 (dk_at dksX1_byNumbers_0 4 rfl rfl)
theorem dX1_byNumbers_5 : decode cX1_byNumbers 5 = .ok (.getfield 61, 3) := dk_180 0 61 (dk_at dksX1_byNumbers_0 5 rfl rfl)
theorem dX1_byNumbers_8 : decode cX1_byNumbers 8 = .ok (.iload_n 3, 1) := dk_29 (dk_at dksX1_byNumbers_0 8 rfl rfl)
theorem dX1_byNumbers_9 : decode cX1_byNumbers 9 = .ok (.iaload, 1) := dk_46 (dk_at dksX1_byNumbers_0 9 rfl rfl)
theorem dX1_byNumbers_10 : decode cX1_byNumbers 10 = .ok (.aaload, 1) := dk_50 (dk_at dksX1_byNumbers_0 10 rfl rfl)
theorem dX1_byNumbers_11 : decode cX1_byNumbers 11 = .ok (.astore 4, 2) := dk_58 4 (dk_at dksX1_byNumbers_0 11 rfl rfl)
theorem dX1_byNumbers_13 : decode cX1_byNumbers 13 = .ok (.iload_n 3, 1) := dk_29 (dk_at dksX1_byNumbers_0 13 rfl rfl)
theorem dX1_byNumbers_14 : decode cX1_byNumbers 14 = .ok (.iload_n 2, 1) := dk_28 (dk_at dksX1_byNumbers_0 14 rfl rfl)
theorem dX1_byNumbers_15 : decode cX1_byNumbers 15 = .ok (.iconst 1, 1) := dk_4 (dk_at dksX1_byNumbers_0 15 rfl rfl)
theorem dX1_byNumbers_16 : decode cX1_byNumbers 16 = .ok (.isub, 1) := dk_100 (dk_at dksX1_byNumbers_0 16 rfl rfl)
theorem dX1_byNumbers_17 : decode cX1_byNumbers 17 = .ok (.if_icmp .ne 140, 3) := dk_160 0 140 (dk_at dksX1_byNumbers_0 17 rfl rfl)
theorem dX1_byNumbers_20 : decode cX1_byNumbers 20 = .ok (.iconst 0, 1) := dk_3 (dk_at dksX1_byNumbers_0 20 rfl rfl)
theorem dX1_byNumbers_21 : decode cX1_byNumbers 21 = .ok (.istore 5, 2) := dk_54 5 (dk_at dksX1_byNumbers_0 21 rfl rfl)
theorem dX1_byNumbers_23 : decode cX1_byNumbers 23 = .ok (.aload 4, 2) := dk_25 4 (dk_at dksX1_byNumbers_1 0 rfl rfl)
theorem dX1_byNumbers_25 : decode cX1_byNumbers 25 = .ok (.iload 5, 2) := dk_21 5 (dk_at dksX1_byNumbers_1 2 rfl rfl)
theorem dX1_byNumbers_27 : decode cX1_byNumbers 27 = .ok (.iaload, 1) := dk_46 (dk_at dksX1_byNumbers_1 4 rfl rfl)
theorem dX1_byNumbers_28 : decode cX1_byNumbers 28 = .ok (.ifCond .ne 9, 3) := dk_154 0 9 (dk_at dksX1_byNumbers_1 5 rfl rfl)
theorem dX1_byNumbers_31 : decode cX1_byNumbers 31 = .ok (.iinc 5 1, 3) := dk_132 5 1 (dk_at dksX1_byNumbers_1 8 rfl rfl)
theorem dX1_byNumbers_34 : decode cX1_byNumbers 34 = .ok (.goto (-11), 3) := dk_167 255 245 (dk_at dksX1_byNumbers_1 11 rfl rfl)
theorem dX1_byNumbers_37 : decode cX1_byNumbers 37 = .ok (.aload_n 0, 1) := dk_42 (dk_at dksX1_byNumbers_1 14 rfl rfl)
theorem dX1_byNumbers_38 : decode cX1_byNumbers 38 = .ok (.getfield 19, 3) := dk_180 0 19 (dk_at dksX1_byNumbers_1 15 rfl rfl)
theorem dX1_byNumbers_41 : decode cX1_byNumbers 41 = .ok (.getfield 141, 3) := dk_180 0 141 (dk_at dksX1_byNumbers_1 18 rfl rfl)
theorem dX1_byNumbers_44 : decode cX1_byNumbers 44 = .ok (.aload_n 1, 1) := dk_43 (dk_at dksX1_byNumbers_1 21 rfl rfl)
theorem dX1_byNumbers_45 : decode cX1_byNumbers 45 = .ok (.getfield 160, 3) := dk_180 0 160 (dk_at dksX1_byNumbers_2 0 rfl rfl)
theorem dX1_byNumbers_48 : decode cX1_byNumbers 48 = .ok (.iload 5, 2) := dk_21 5 (dk_at dksX1_byNumbers_2 3 rfl rfl)
theorem dX1_byNumbers_50 : decode cX1_byNumbers 50 = .ok (.iaload, 1) := dk_46 (dk_at dksX1_byNumbers_2 5 rfl rfl)
theorem dX1_byNumbers_51 : decode cX1_byNumbers 51 = .ok (.i2l, 1) := dk_133 (dk_at dksX1_byNumbers_2 6 rfl rfl)
theorem dX1_byNumbers_52 : decode cX1_byNumbers 52 = .ok (.aload_n 0, 1) := dk_42 (dk_at dksX1_byNumbers_2 7 rfl rfl)
theorem dX1_byNumbers_53 : decode cX1_byNumbers 53 = .ok (.getfield 19, 3) := dk_180 0 19 (dk_at dksX1_byNumbers_2 8 rfl rfl)
theorem dX1_byNumbers_56 : decode cX1_byNumbers 56 = .ok (.getfield 141, 3) := dk_180 0 141 (dk_at dksX1_byNumbers_2 11 rfl rfl)
theorem dX1_byNumbers_59 : decode cX1_byNumbers 59 = .ok (.aload 4, 2) := dk_25 4 (dk_at dksX1_byNumbers_2 14 rfl rfl)
theorem dX1_byNumbers_61 : decode cX1_byNumbers 61 = .ok (.iload 5, 2) := dk_21 5 (dk_at dksX1_byNumbers_2 16 rfl rfl)
theorem dX1_byNumbers_63 : decode cX1_byNumbers 63 = .ok (.iaload, 1) := dk_46 (dk_at dksX1_byNumbers_2 18 rfl rfl)
theorem dX1_byNumbers_64 : decode cX1_byNumbers 64 = .ok (.invokevirtual 285, 3) := dk_182 1 29 (dk_at dksX1_byNumbers_2 19 rfl rfl)
theorem dX1_byNumbers_67 : decode cX1_byNumbers 67 = .ok (.i2l, 1) := dk_133 (dk_at dksX1_byNumbers_2 22 rfl rfl)
theorem dX1_byNumbers_68 : decode cX1_byNumbers 68 = .ok (.lmul, 1) := dk_105 (dk_at dksX1_byNumbers_2 23 rfl rfl)
theorem dX1_byNumbers_69 : decode cX1_byNumbers 69 = .ok (.invokevirtual 163, 3) := dk_182 0 163 (dk_at dksX1_byNumbers_3 0 rfl rfl)
theorem dX1_byNumbers_72 : decode cX1_byNumbers 72 = .ok (.istore 6, 2) := dk_54 6 (dk_at dksX1_byNumbers_3 3 rfl rfl)
theorem dX1_byNumbers_74 : decode cX1_byNumbers 74 = .ok (.aload_n 0, 1) := dk_42 (dk_at dksX1_byNumbers_3 5 rfl rfl)
theorem dX1_byNumbers_75 : decode cX1_byNumbers 75 = .ok (.getfield 65, 3) := dk_180 0 65 (dk_at dksX1_byNumbers_3 6 rfl rfl)
theorem dX1_byNumbers_78 : decode cX1_byNumbers 78 = .ok (.iload_n 3, 1) := dk_29 (dk_at dksX1_byNumbers_3 9 rfl rfl)
theorem dX1_byNumbers_79 : decode cX1_byNumbers 79 = .ok (.iload 6, 2) := dk_21 6 (dk_at dksX1_byNumbers_3 10 rfl rfl)
theorem dX1_byNumbers_81 : decode cX1_byNumbers 81 = .ok (.iastore, 1) := dk_79 (dk_at dksX1_byNumbers_3 12 rfl rfl)
theorem dX1_byNumbers_82 : decode cX1_byNumbers 82 = .ok (.iload 6, 2) := dk_21 6 (dk_at dksX1_byNumbers_3 13 rfl rfl)
theorem dX1_byNumbers_84 : decode cX1_byNumbers 84 = .ok (.ifCond .eq 7, 3) := dk_153 0 7 (dk_at dksX1_byNumbers_3 15 rfl rfl)
theorem dX1_byNumbers_87 : decode cX1_byNumbers 87 = .ok (.iconst 1, 1) := dk_4 (dk_at dksX1_byNumbers_3 18 rfl rfl)
theorem dX1_byNumbers_88 : decode cX1_byNumbers 88 = .ok (.goto 4, 3) := dk_167 0 4 (dk_at dksX1_byNumbers_3 19 rfl rfl)
theorem dX1_byNumbers_91 : decode cX1_byNumbers 91 = .ok (.iconst 0, 1) := dk_3 (dk_at dksX1_byNumbers_3 22 rfl rfl)
theorem dX1_byNumbers_92 : decode cX1_byNumbers 92 = .ok (.istore 7, 2) := dk_54 7 (dk_at dksX1_byNumbers_4 0 rfl rfl)
theorem dX1_byNumbers_94 : decode cX1_byNumbers 94 = .ok (.iconst 0, 1) := dk_3 (dk_at dksX1_byNumbers_4 2 rfl rfl)
theorem dX1_byNumbers_95 : decode cX1_byNumbers 95 = .ok (.istore 8, 2) := dk_54 8 (dk_at dksX1_byNumbers_4 3 rfl rfl)
theorem dX1_byNumbers_97 : decode cX1_byNumbers 97 = .ok (.iload 8, 2) := dk_21 8 (dk_at dksX1_byNumbers_4 5 rfl rfl)
theorem dX1_byNumbers_99 : decode cX1_byNumbers 99 = .ok (.aload_n 1, 1) := dk_43 (dk_at dksX1_byNumbers_4 7 rfl rfl)
theorem dX1_byNumbers_100 : decode cX1_byNumbers 100 = .ok (.getfield 192, 3) := dk_180 0 192 (dk_at dksX1_byNumbers_4 8 rfl rfl)
theorem dX1_byNumbers_103 : decode cX1_byNumbers 103 = .ok (.if_icmp .gt 51, 3) := dk_163 0 51 (dk_at dksX1_byNumbers_4 11 rfl rfl)
theorem dX1_byNumbers_106 : decode cX1_byNumbers 106 = .ok (.iload 7, 2) := dk_21 7 (dk_at dksX1_byNumbers_4 14 rfl rfl)
theorem dX1_byNumbers_108 : decode cX1_byNumbers 108 = .ok (.ifCond .eq 37, 3) := dk_153 0 37 (dk_at dksX1_byNumbers_4 16 rfl rfl)
theorem dX1_byNumbers_111 : decode cX1_byNumbers 111 = .ok (.aload_n 1, 1) := dk_43 (dk_at dksX1_byNumbers_4 19 rfl rfl)
theorem dX1_byNumbers_112 : decode cX1_byNumbers 112 = .ok (.getfield 160, 3) := dk_180 0 160 (dk_at dksX1_byNumbers_4 20 rfl rfl)
theorem dX1_byNumbers_115 : decode cX1_byNumbers 115 = .ok (.iload 8, 2) := dk_21 8 (dk_at dksX1_byNumbers_5 0 rfl rfl)
theorem dX1_byNumbers_117 : decode cX1_byNumbers 117 = .ok (.iaload, 1) := dk_46 (dk_at dksX1_byNumbers_5 2 rfl rfl)
theorem dX1_byNumbers_118 : decode cX1_byNumbers 118 = .ok (.aload_n 0, 1) := dk_42 (dk_at dksX1_byNumbers_5 3 rfl rfl)
theorem dX1_byNumbers_119 : decode cX1_byNumbers 119 = .ok (.getfield 19, 3) := dk_180 0 19 (dk_at dksX1_byNumbers_5 4 rfl rfl)
theorem dX1_byNumbers_122 : decode cX1_byNumbers 122 = .ok (.getfield 141, 3) := dk_180 0 141 (dk_at dksX1_byNumbers_5 7 rfl rfl)
theorem dX1_byNumbers_125 : decode cX1_byNumbers 125 = .ok (.iload 6, 2) := dk_21 6 (dk_at dksX1_byNumbers_5 10 rfl rfl)
theorem dX1_byNumbers_127 : decode cX1_byNumbers 127 = .ok (.i2l, 1) := dk_133 (dk_at dksX1_byNumbers_5 12 rfl rfl)
theorem dX1_byNumbers_128 : decode cX1_byNumbers 128 = .ok (.aload 4, 2) := dk_25 4 (dk_at dksX1_byNumbers_5 13 rfl rfl)
theorem dX1_byNumbers_130 : decode cX1_byNumbers 130 = .ok (.iload 8, 2) := dk_21 8 (dk_at dksX1_byNumbers_5 15 rfl rfl)
theorem dX1_byNumbers_132 : decode cX1_byNumbers 132 = .ok (.iaload, 1) := dk_46 (dk_at dksX1_byNumbers_5 17 rfl rfl)
theorem dX1_byNumbers_133 : decode cX1_byNumbers 133 = .ok (.i2l, 1) := dk_133 (dk_at dksX1_byNumbers_5 18 rfl rfl)
theorem dX1_byNumbers_134 : decode cX1_byNumbers 134 = .ok (.lmul, 1) := dk_105 (dk_at dksX1_byNumbers_5 19 rfl rfl)
theorem dX1_byNumbers_135 : decode cX1_byNumbers 135 = .ok (.invokevirtual 163, 3) := dk_182 0 163 (dk_at dksX1_byNumbers_5 20 rfl rfl)
theorem dX1_byNumbers_138 : decode cX1_byNumbers 138 = .ok (.if_icmp .ne 7, 3) := dk_160 0 7 (dk_at dksX1_byNumbers_6 0 rfl rfl)
theorem dX1_byNumbers_141 : decode cX1_byNumbers 141 = .ok (.iconst 1, 1) := dk_4 (dk_at dksX1_byNumbers_6 3 rfl rfl)
theorem dX1_byNumbers_142 : decode cX1_byNumbers 142 = .ok (.goto 4, 3) := dk_167 0 4 (dk_at dksX1_byNumbers_6 4 rfl rfl)
theorem dX1_byNumbers_145 : decode cX1_byNumbers 145 = .ok (.iconst 0, 1) := dk_3 (dk_at dksX1_byNumbers_6 7 rfl rfl)
theorem dX1_byNumbers_146 : decode cX1_byNumbers 146 = .ok (.istore 7, 2) := dk_54 7 (dk_at dksX1_byNumbers_6 8 rfl rfl)
theorem dX1_byNumbers_148 : decode cX1_byNumbers 148 = .ok (.iinc 8 1, 3) := dk_132 8 1 (dk_at dksX1_byNumbers_6 10 rfl rfl)
theorem dX1_byNumbers_151 : decode cX1_byNumbers 151 = .ok (.goto (-54), 3) := dk_167 255 202 (dk_at dksX1_byNumbers_6 13 rfl rfl)
theorem dX1_byNumbers_154 : decode cX1_byNumbers 154 = .ok (.iload 7, 2) := dk_21 7 (dk_at dksX1_byNumbers_6 16 rfl rfl)
theorem dX1_byNumbers_156 : decode cX1_byNumbers 156 = .ok (.ireturn, 1) := dk_172 (dk_at dksX1_byNumbers_6 18 rfl rfl)
theorem dX1_byNumbers_157 : decode cX1_byNumbers 157 = .ok (.aload_n 0, 1) := dk_42 (dk_at dksX1_byNumbers_6 19 rfl rfl)
theorem dX1_byNumbers_158 : decode cX1_byNumbers 158 = .ok (.getfield 35, 3) := dk_180 0 35 (dk_at dksX1_byNumbers_6 20 rfl rfl)
theorem dX1_byNumbers_161 : decode cX1_byNumbers 161 = .ok (.iload_n 3, 1) := dk_29 (dk_at dksX1_byNumbers_6 23 rfl rfl)
theorem dX1_byNumbers_162 : decode cX1_byNumbers 162 = .ok (.aaload, 1) := dk_50 (dk_at dksX1_byNumbers_7 0 rfl rfl)
theorem dX1_byNumbers_163 : decode cX1_byNumbers 163 = .ok (.astore 5, 2) := dk_58 5 (dk_at dksX1_byNumbers_7 1 rfl rfl)
theorem dX1_byNumbers_165 : decode cX1_byNumbers 165 = .ok (.iconst 1, 1) := dk_4 (dk_at dksX1_byNumbers_7 3 rfl rfl)
theorem dX1_byNumbers_166 : decode cX1_byNumbers 166 = .ok (.istore 6, 2) := dk_54 6 (dk_at dksX1_byNumbers_7 4 rfl rfl)
theorem dX1_byNumbers_168 : decode cX1_byNumbers 168 = .ok (.iload 6, 2) := dk_21 6 (dk_at dksX1_byNumbers_7 6 rfl rfl)
theorem dX1_byNumbers_170 : decode cX1_byNumbers 170 = .ok (.aload_n 0, 1) := dk_42 (dk_at dksX1_byNumbers_7 8 rfl rfl)
theorem dX1_byNumbers_171 : decode cX1_byNumbers 171 = .ok (.getfield 19, 3) := dk_180 0 19 (dk_at dksX1_byNumbers_7 9 rfl rfl)
theorem dX1_byNumbers_174 : decode cX1_byNumbers 174 = .ok (.getfield 141, 3) := dk_180 0 141 (dk_at dksX1_byNumbers_7 12 rfl rfl)
theorem dX1_byNumbers_177 : decode cX1_byNumbers 177 = .ok (.getfield 145, 3) := dk_180 0 145 (dk_at dksX1_byNumbers_7 15 rfl rfl)
theorem dX1_byNumbers_180 : decode cX1_byNumbers 180 = .ok (.if_icmp .ge 94, 3) := dk_162 0 94 (dk_at dksX1_byNumbers_7 18 rfl rfl)
theorem dX1_byNumbers_183 : decode cX1_byNumbers 183 = .ok (.aload_n 0, 1) := dk_42 (dk_at dksX1_byNumbers_7 21 rfl rfl)
theorem dX1_byNumbers_184 : decode cX1_byNumbers 184 = .ok (.getfield 65, 3) := dk_180 0 65 (dk_at dksX1_byNumbers_8 0 rfl rfl)
theorem dX1_byNumbers_187 : decode cX1_byNumbers 187 = .ok (.iload_n 3, 1) := dk_29 (dk_at dksX1_byNumbers_8 3 rfl rfl)
theorem dX1_byNumbers_188 : decode cX1_byNumbers 188 = .ok (.iload 6, 2) := dk_21 6 (dk_at dksX1_byNumbers_8 4 rfl rfl)
theorem dX1_byNumbers_190 : decode cX1_byNumbers 190 = .ok (.iastore, 1) := dk_79 (dk_at dksX1_byNumbers_8 6 rfl rfl)
theorem dX1_byNumbers_191 : decode cX1_byNumbers 191 = .ok (.aload 5, 2) := dk_25 5 (dk_at dksX1_byNumbers_8 7 rfl rfl)
theorem dX1_byNumbers_193 : decode cX1_byNumbers 193 = .ok (.aload_n 1, 1) := dk_43 (dk_at dksX1_byNumbers_8 9 rfl rfl)
theorem dX1_byNumbers_194 : decode cX1_byNumbers 194 = .ok (.invokevirtual 223, 3) := dk_182 0 223 (dk_at dksX1_byNumbers_8 10 rfl rfl)
theorem dX1_byNumbers_197 : decode cX1_byNumbers 197 = .ok (.iconst 0, 1) := dk_3 (dk_at dksX1_byNumbers_8 13 rfl rfl)
theorem dX1_byNumbers_198 : decode cX1_byNumbers 198 = .ok (.istore 7, 2) := dk_54 7 (dk_at dksX1_byNumbers_8 14 rfl rfl)
theorem dX1_byNumbers_200 : decode cX1_byNumbers 200 = .ok (.iload 7, 2) := dk_21 7 (dk_at dksX1_byNumbers_8 16 rfl rfl)
theorem dX1_byNumbers_202 : decode cX1_byNumbers 202 = .ok (.aload_n 1, 1) := dk_43 (dk_at dksX1_byNumbers_8 18 rfl rfl)
theorem dX1_byNumbers_203 : decode cX1_byNumbers 203 = .ok (.getfield 192, 3) := dk_180 0 192 (dk_at dksX1_byNumbers_8 19 rfl rfl)
theorem dX1_byNumbers_206 : decode cX1_byNumbers 206 = .ok (.if_icmp .gt 47, 3) := dk_163 0 47 (dk_at dksX1_byNumbers_9 0 rfl rfl)
theorem dX1_byNumbers_209 : decode cX1_byNumbers 209 = .ok (.aload 5, 2) := dk_25 5 (dk_at dksX1_byNumbers_9 3 rfl rfl)
theorem dX1_byNumbers_211 : decode cX1_byNumbers 211 = .ok (.getfield 160, 3) := dk_180 0 160 (dk_at dksX1_byNumbers_9 5 rfl rfl)
theorem dX1_byNumbers_214 : decode cX1_byNumbers 214 = .ok (.iload 7, 2) := dk_21 7 (dk_at dksX1_byNumbers_9 8 rfl rfl)
theorem dX1_byNumbers_216 : decode cX1_byNumbers 216 = .ok (.aload_n 0, 1) := dk_42 (dk_at dksX1_byNumbers_9 10 rfl rfl)
theorem dX1_byNumbers_217 : decode cX1_byNumbers 217 = .ok (.getfield 19, 3) := dk_180 0 19 (dk_at dksX1_byNumbers_9 11 rfl rfl)
theorem dX1_byNumbers_220 : decode cX1_byNumbers 220 = .ok (.getfield 141, 3) := dk_180 0 141 (dk_at dksX1_byNumbers_9 14 rfl rfl)
theorem dX1_byNumbers_223 : decode cX1_byNumbers 223 = .ok (.aload 5, 2) := dk_25 5 (dk_at dksX1_byNumbers_9 17 rfl rfl)
theorem dX1_byNumbers_225 : decode cX1_byNumbers 225 = .ok (.getfield 160, 3) := dk_180 0 160 (dk_at dksX1_byNumbers_9 19 rfl rfl)
theorem dX1_byNumbers_228 : decode cX1_byNumbers 228 = .ok (.iload 7, 2) := dk_21 7 (dk_at dksX1_byNumbers_9 22 rfl rfl)
theorem dX1_byNumbers_230 : decode cX1_byNumbers 230 = .ok (.iaload, 1) := dk_46 (dk_at dksX1_byNumbers_10 0 rfl rfl)
theorem dX1_byNumbers_231 : decode cX1_byNumbers 231 = .ok (.i2l, 1) := dk_133 (dk_at dksX1_byNumbers_10 1 rfl rfl)
theorem dX1_byNumbers_232 : decode cX1_byNumbers 232 = .ok (.iload 6, 2) := dk_21 6 (dk_at dksX1_byNumbers_10 2 rfl rfl)
theorem dX1_byNumbers_234 : decode cX1_byNumbers 234 = .ok (.i2l, 1) := dk_133 (dk_at dksX1_byNumbers_10 4 rfl rfl)
theorem dX1_byNumbers_235 : decode cX1_byNumbers 235 = .ok (.aload 4, 2) := dk_25 4 (dk_at dksX1_byNumbers_10 5 rfl rfl)
theorem dX1_byNumbers_237 : decode cX1_byNumbers 237 = .ok (.iload 7, 2) := dk_21 7 (dk_at dksX1_byNumbers_10 7 rfl rfl)
theorem dX1_byNumbers_239 : decode cX1_byNumbers 239 = .ok (.iaload, 1) := dk_46 (dk_at dksX1_byNumbers_10 9 rfl rfl)
theorem dX1_byNumbers_240 : decode cX1_byNumbers 240 = .ok (.i2l, 1) := dk_133 (dk_at dksX1_byNumbers_10 10 rfl rfl)
theorem dX1_byNumbers_241 : decode cX1_byNumbers 241 = .ok (.lmul, 1) := dk_105 (dk_at dksX1_byNumbers_10 11 rfl rfl)
theorem dX1_byNumbers_242 : decode cX1_byNumbers 242 = .ok (.lsub, 1) := dk_101 (dk_at dksX1_byNumbers_10 12 rfl rfl)
theorem dX1_byNumbers_243 : decode cX1_byNumbers 243 = .ok (.invokevirtual 163, 3) := dk_182 0 163 (dk_at dksX1_byNumbers_10 13 rfl rfl)
theorem dX1_byNumbers_246 : decode cX1_byNumbers 246 = .ok (.iastore, 1) := dk_79 (dk_at dksX1_byNumbers_10 16 rfl rfl)
theorem dX1_byNumbers_247 : decode cX1_byNumbers 247 = .ok (.iinc 7 1, 3) := dk_132 7 1 (dk_at dksX1_byNumbers_10 17 rfl rfl)
theorem dX1_byNumbers_250 : decode cX1_byNumbers 250 = .ok (.goto (-50), 3) := dk_167 255 206 (dk_at dksX1_byNumbers_10 20 rfl rfl)
theorem dX1_byNumbers_253 : decode cX1_byNumbers 253 = .ok (.aload_n 0, 1) := dk_42 (dk_at dksX1_byNumbers_10 23 rfl rfl)
theorem dX1_byNumbers_254 : decode cX1_byNumbers 254 = .ok (.aload 5, 2) := dk_25 5 (dk_at dksX1_byNumbers_11 0 rfl rfl)
theorem dX1_byNumbers_256 : decode cX1_byNumbers 256 = .ok (.iload_n 2, 1) := dk_28 (dk_at dksX1_byNumbers_11 2 rfl rfl)
theorem dX1_byNumbers_257 : decode cX1_byNumbers 257 = .ok (.iload_n 3, 1) := dk_29 (dk_at dksX1_byNumbers_11 3 rfl rfl)
theorem dX1_byNumbers_258 : decode cX1_byNumbers 258 = .ok (.iconst 1, 1) := dk_4 (dk_at dksX1_byNumbers_11 4 rfl rfl)
theorem dX1_byNumbers_259 : decode cX1_byNumbers 259 = .ok (.iadd, 1) := dk_96 (dk_at dksX1_byNumbers_11 5 rfl rfl)
theorem dX1_byNumbers_260 : decode cX1_byNumbers 260 = .ok (.invokevirtual 311, 3) := dk_182 1 55 (dk_at dksX1_byNumbers_11 6 rfl rfl)
theorem dX1_byNumbers_263 : decode cX1_byNumbers 263 = .ok (.ifCond .eq 5, 3) := dk_153 0 5 (dk_at dksX1_byNumbers_11 9 rfl rfl)
theorem dX1_byNumbers_266 : decode cX1_byNumbers 266 = .ok (.iconst 1, 1) := dk_4 (dk_at dksX1_byNumbers_11 12 rfl rfl)
theorem dX1_byNumbers_267 : decode cX1_byNumbers 267 = .ok (.ireturn, 1) := dk_172 (dk_at dksX1_byNumbers_11 13 rfl rfl)
theorem dX1_byNumbers_268 : decode cX1_byNumbers 268 = .ok (.iinc 6 1, 3) := dk_132 6 1 (dk_at dksX1_byNumbers_11 14 rfl rfl)
theorem dX1_byNumbers_271 : decode cX1_byNumbers 271 = .ok (.goto (-103), 3) := dk_167 255 153 (dk_at dksX1_byNumbers_11 17 rfl rfl)
theorem dX1_byNumbers_274 : decode cX1_byNumbers 274 = .ok (.iconst 0, 1) := dk_3 (dk_at dksX1_byNumbers_11 20 rfl rfl)
theorem dX1_byNumbers_275 : decode cX1_byNumbers 275 = .ok (.ireturn, 1) := dk_172 (dk_at dksX1_byNumbers_11 21 rfl rfl)
abbrev cX1_common : ByteArray := prog_1_method_58_code
def yX1_common : MethodName := ⟨RX1, "common", "(III)I"⟩
def dkwX1_common_1 : List UInt8 := [182, 1, 65, 153, 0, 6, 16, 254, 172, 42, 25, 4, 25, 5, 182, 1, 72, 29, 184, 0, 199, 172]
abbrev dktX1_common_1 : List UInt8 := dkwX1_common_1 ++ []
def dkwX1_common_0 : List UInt8 := [42, 27, 182, 0, 195, 58, 4, 42, 28, 182, 0, 195, 58, 5, 25, 4, 182, 1, 65, 154, 0, 11, 25, 5]
abbrev dktX1_common_0 : List UInt8 := dkwX1_common_0 ++ dktX1_common_1
theorem dksX1_common_0 : cX1_common.data.toList.drop 0 = dktX1_common_0 := by decide +kernel
theorem dksX1_common_1 : cX1_common.data.toList.drop 24 = dktX1_common_1 := dk_seg dksX1_common_0 24 rfl rfl
theorem dX1_common_0 : decode cX1_common 0 = .ok (.aload_n 0, 1) := dk_42 (dk_at dksX1_common_0 0 rfl rfl)
theorem dX1_common_1 : decode cX1_common 1 = .ok (.iload_n 1, 1) := dk_27 (dk_at dksX1_common_0 1 rfl rfl)
theorem dX1_common_2 : decode cX1_common 2 = .ok (.invokevirtual 195, 3) := dk_182 0 195 (dk_at dksX1_common_0 2 rfl rfl)
theorem dX1_common_5 : decode cX1_common 5 = .ok (.astore 4, 2) := dk_58 4 (dk_at dksX1_common_0 5 rfl rfl)
theorem dX1_common_7 : decode cX1_common 7 = .ok (.aload_n 0, 1) := dk_42 (dk_at dksX1_common_0 7 rfl rfl)
theorem dX1_common_8 : decode cX1_common 8 = .ok (.iload_n 2, 1) := dk_28 (dk_at dksX1_common_0 8 rfl rfl)
theorem dX1_common_9 : decode cX1_common 9 = .ok (.invokevirtual 195, 3) := dk_182 0 195 (dk_at dksX1_common_0 9 rfl rfl)
theorem dX1_common_12 : decode cX1_common 12 = .ok (.astore 5, 2) := dk_58 5 (dk_at dksX1_common_0 12 rfl rfl)
theorem dX1_common_14 : decode cX1_common 14 = .ok (.aload 4, 2) := dk_25 4 (dk_at dksX1_common_0 14 rfl rfl)
theorem dX1_common_16 : decode cX1_common 16 = .ok (.invokevirtual 321, 3) := dk_182 1 65 (dk_at dksX1_common_0 16 rfl rfl)
theorem dX1_common_19 : decode cX1_common 19 = .ok (.ifCond .ne 11, 3) := dk_154 0 11 (dk_at dksX1_common_0 19 rfl rfl)
theorem dX1_common_22 : decode cX1_common 22 = .ok (.aload 5, 2) := dk_25 5 (dk_at dksX1_common_0 22 rfl rfl)
theorem dX1_common_24 : decode cX1_common 24 = .ok (.invokevirtual 321, 3) := dk_182 1 65 (dk_at dksX1_common_1 0 rfl rfl)
theorem dX1_common_27 : decode cX1_common 27 = .ok (.ifCond .eq 6, 3) := dk_153 0 6 (dk_at dksX1_common_1 3 rfl rfl)
theorem dX1_common_30 : decode cX1_common 30 = .ok (.bipush (-2), 2) := dk_16 254 (dk_at dksX1_common_1 6 rfl rfl)
theorem dX1_common_32 : decode cX1_common 32 = .ok (.ireturn, 1) := dk_172 (dk_at dksX1_common_1 8 rfl rfl)
theorem dX1_common_33 : decode cX1_common 33 = .ok (.aload_n 0, 1) := dk_42 (dk_at dksX1_common_1 9 rfl rfl)
theorem dX1_common_34 : decode cX1_common 34 = .ok (.aload 4, 2) := dk_25 4 (dk_at dksX1_common_1 10 rfl rfl)
theorem dX1_common_36 : decode cX1_common 36 = .ok (.aload 5, 2) := dk_25 5 (dk_at dksX1_common_1 12 rfl rfl)
theorem dX1_common_38 : decode cX1_common 38 = .ok (.invokevirtual 328, 3) := dk_182 1 72 (dk_at dksX1_common_1 14 rfl rfl)
theorem dX1_common_41 : decode cX1_common 41 = .ok (.iload_n 3, 1) := dk_29 (dk_at dksX1_common_1 17 rfl rfl)
theorem dX1_common_42 : decode cX1_common 42 = .ok (.invokestatic 199, 3) := dk_184 0 199 (dk_at dksX1_common_1 18 rfl rfl)
theorem dX1_common_45 : decode cX1_common 45 = .ok (.ireturn, 1) := dk_172 (dk_at dksX1_common_1 21 rfl rfl)
abbrev cX1_overlap : ByteArray := prog_1_method_62_code
def yX1_overlap : MethodName := ⟨RX1, "overlap", "(IIII)I"⟩
def dkwX1_overlap_2 : List UInt8 := [180, 0, 40, 182, 1, 89, 42, 180, 0, 40, 21, 4, 184, 0, 199, 172]
abbrev dktX1_overlap_2 : List UInt8 := dkwX1_overlap_2 ++ []
def dkwX1_overlap_1 : List UInt8 := [180, 0, 192, 184, 1, 76, 133, 184, 0, 97, 184, 0, 132, 42, 180, 0, 19, 25, 5, 25, 6, 29, 42]
abbrev dktX1_overlap_1 : List UInt8 := dkwX1_overlap_1 ++ dktX1_overlap_2
def dkwX1_overlap_0 : List UInt8 := [42, 27, 182, 0, 195, 58, 5, 42, 28, 182, 0, 195, 58, 6, 29, 133, 9, 25, 5, 180, 0, 192, 25, 6]
abbrev dktX1_overlap_0 : List UInt8 := dkwX1_overlap_0 ++ dktX1_overlap_1
theorem dksX1_overlap_0 : cX1_overlap.data.toList.drop 0 = dktX1_overlap_0 := by decide +kernel
theorem dksX1_overlap_1 : cX1_overlap.data.toList.drop 24 = dktX1_overlap_1 := dk_seg dksX1_overlap_0 24 rfl rfl
theorem dksX1_overlap_2 : cX1_overlap.data.toList.drop 47 = dktX1_overlap_2 := dk_seg dksX1_overlap_1 23 rfl rfl
theorem dX1_overlap_0 : decode cX1_overlap 0 = .ok (.aload_n 0, 1) := dk_42 (dk_at dksX1_overlap_0 0 rfl rfl)
theorem dX1_overlap_1 : decode cX1_overlap 1 = .ok (.iload_n 1, 1) := dk_27 (dk_at dksX1_overlap_0 1 rfl rfl)
theorem dX1_overlap_2 : decode cX1_overlap 2 = .ok (.invokevirtual 195, 3) := dk_182 0 195 (dk_at dksX1_overlap_0 2 rfl rfl)
theorem dX1_overlap_5 : decode cX1_overlap 5 = .ok (.astore 5, 2) := dk_58 5 (dk_at dksX1_overlap_0 5 rfl rfl)
theorem dX1_overlap_7 : decode cX1_overlap 7 = .ok (.aload_n 0, 1) := dk_42 (dk_at dksX1_overlap_0 7 rfl rfl)
theorem dX1_overlap_8 : decode cX1_overlap 8 = .ok (.iload_n 2, 1) := dk_28 (dk_at dksX1_overlap_0 8 rfl rfl)
theorem dX1_overlap_9 : decode cX1_overlap 9 = .ok (.invokevirtual 195, 3) := dk_182 0 195 (dk_at dksX1_overlap_0 9 rfl rfl)
theorem dX1_overlap_12 : decode cX1_overlap 12 = .ok (.astore 6, 2) := dk_58 6 (dk_at dksX1_overlap_0 12 rfl rfl)
theorem dX1_overlap_14 : decode cX1_overlap 14 = .ok (.iload_n 3, 1) := dk_29 (dk_at dksX1_overlap_0 14 rfl rfl)
theorem dX1_overlap_15 : decode cX1_overlap 15 = .ok (.i2l, 1) := dk_133 (dk_at dksX1_overlap_0 15 rfl rfl)
theorem dX1_overlap_16 : decode cX1_overlap 16 = .ok (.lconst 0, 1) := dk_9 (dk_at dksX1_overlap_0 16 rfl rfl)
theorem dX1_overlap_17 : decode cX1_overlap 17 = .ok (.aload 5, 2) := dk_25 5 (dk_at dksX1_overlap_0 17 rfl rfl)
theorem dX1_overlap_19 : decode cX1_overlap 19 = .ok (.getfield 192, 3) := dk_180 0 192 (dk_at dksX1_overlap_0 19 rfl rfl)
theorem dX1_overlap_22 : decode cX1_overlap 22 = .ok (.aload 6, 2) := dk_25 6 (dk_at dksX1_overlap_0 22 rfl rfl)
theorem dX1_overlap_24 : decode cX1_overlap 24 = .ok (.getfield 192, 3) := dk_180 0 192 (dk_at dksX1_overlap_1 0 rfl rfl)
theorem dX1_overlap_27 : decode cX1_overlap 27 = .ok (.invokestatic 332, 3) := dk_184 1 76 (dk_at dksX1_overlap_1 3 rfl rfl)
theorem dX1_overlap_30 : decode cX1_overlap 30 = .ok (.i2l, 1) := dk_133 (dk_at dksX1_overlap_1 6 rfl rfl)
theorem dX1_overlap_31 : decode cX1_overlap 31 = .ok (.invokestatic 97, 3) := dk_184 0 97 (dk_at dksX1_overlap_1 7 rfl rfl)
theorem dX1_overlap_34 : decode cX1_overlap 34 = .ok (.invokestatic 132, 3) := dk_184 0 132 (dk_at dksX1_overlap_1 10 rfl rfl)
theorem dX1_overlap_37 : decode cX1_overlap 37 = .ok (.aload_n 0, 1) := dk_42 (dk_at dksX1_overlap_1 13 rfl rfl)
theorem dX1_overlap_38 : decode cX1_overlap 38 = .ok (.getfield 19, 3) := dk_180 0 19 (dk_at dksX1_overlap_1 14 rfl rfl)
theorem dX1_overlap_41 : decode cX1_overlap 41 = .ok (.aload 5, 2) := dk_25 5 (dk_at dksX1_overlap_1 17 rfl rfl)
theorem dX1_overlap_43 : decode cX1_overlap 43 = .ok (.aload 6, 2) := dk_25 6 (dk_at dksX1_overlap_1 19 rfl rfl)
theorem dX1_overlap_45 : decode cX1_overlap 45 = .ok (.iload_n 3, 1) := dk_29 (dk_at dksX1_overlap_1 21 rfl rfl)
theorem dX1_overlap_46 : decode cX1_overlap 46 = .ok (.aload_n 0, 1) := dk_42 (dk_at dksX1_overlap_1 22 rfl rfl)
theorem dX1_overlap_47 : decode cX1_overlap 47 = .ok (.getfield 40, 3) := dk_180 0 40 (dk_at dksX1_overlap_2 0 rfl rfl)
theorem dX1_overlap_50 : decode cX1_overlap 50 = .ok (.invokevirtual 345, 3) := dk_182 1 89 (dk_at dksX1_overlap_2 3 rfl rfl)
theorem dX1_overlap_53 : decode cX1_overlap 53 = .ok (.aload_n 0, 1) := dk_42 (dk_at dksX1_overlap_2 6 rfl rfl)
theorem dX1_overlap_54 : decode cX1_overlap 54 = .ok (.getfield 40, 3) := dk_180 0 40 (dk_at dksX1_overlap_2 7 rfl rfl)
theorem dX1_overlap_57 : decode cX1_overlap 57 = .ok (.iload 4, 2) := dk_21 4 (dk_at dksX1_overlap_2 10 rfl rfl)
theorem dX1_overlap_59 : decode cX1_overlap 59 = .ok (.invokestatic 199, 3) := dk_184 0 199 (dk_at dksX1_overlap_2 12 rfl rfl)
theorem dX1_overlap_62 : decode cX1_overlap 62 = .ok (.ireturn, 1) := dk_172 (dk_at dksX1_overlap_2 15 rfl rfl)
abbrev cX1_reduced : ByteArray := prog_1_method_65_code
def yX1_reduced : MethodName := ⟨RX1, "reduced", "(IIII)J"⟩
def dkwX1_reduced_9 : List UInt8 := [154, 0, 9, 20, 1, 117, 167, 0, 6, 20, 1, 99, 173]
abbrev dktX1_reduced_9 : List UInt8 := dkwX1_reduced_9 ++ []
def dkwX1_reduced_8 : List UInt8 := [154, 0, 9, 20, 1, 109, 167, 0, 28, 42, 180, 0, 68, 4, 47, 42, 180, 0, 68, 3, 47, 148]
abbrev dktX1_reduced_8 : List UInt8 := dkwX1_reduced_8 ++ dktX1_reduced_9
def dkwX1_reduced_7 : List UInt8 := [42, 180, 0, 68, 5, 47, 148, 153, 0, 9, 20, 1, 99, 167, 0, 45, 42, 180, 0, 68, 4, 47, 9, 148]
abbrev dktX1_reduced_7 : List UInt8 := dkwX1_reduced_7 ++ dktX1_reduced_8
def dkwX1_reduced_6 : List UInt8 := [42, 180, 1, 93, 133, 167, 0, 12, 42, 180, 0, 72, 21, 4, 7, 100, 47, 173, 42, 180, 0, 68, 3, 47]
abbrev dktX1_reduced_6 : List UInt8 := dkwX1_reduced_6 ++ dktX1_reduced_7
def dkwX1_reduced_5 : List UInt8 := [162, 0, 11, 42, 180, 0, 68, 21, 4, 47, 173, 21, 4, 16, 8, 162, 0, 27, 21, 4, 6, 160, 0, 11]
abbrev dktX1_reduced_5 : List UInt8 := dkwX1_reduced_5 ++ dktX1_reduced_6
def dkwX1_reduced_4 : List UInt8 := [180, 0, 68, 4, 28, 133, 80, 42, 180, 0, 68, 5, 29, 133, 80, 42, 182, 1, 114, 21, 4, 6]
abbrev dktX1_reduced_4 : List UInt8 := dkwX1_reduced_4 ++ dktX1_reduced_5
def dkwX1_reduced_3 : List UInt8 := [21, 4, 133, 9, 20, 1, 11, 184, 0, 97, 184, 1, 111, 42, 180, 0, 68, 3, 27, 133, 80, 42]
abbrev dktX1_reduced_3 : List UInt8 := dkwX1_reduced_3 ++ dktX1_reduced_4
def dkwX1_reduced_2 : List UInt8 := [20, 1, 109, 27, 133, 105, 29, 133, 105, 101, 9, 148, 156, 0, 7, 4, 167, 0, 4, 3, 184, 0, 132]
abbrev dktX1_reduced_2 : List UInt8 := dkwX1_reduced_2 ++ dktX1_reduced_3
def dkwX1_reduced_1 : List UInt8 := [153, 0, 41, 29, 133, 20, 1, 107, 20, 1, 105, 184, 0, 97, 153, 0, 27, 28, 133, 28, 133, 105]
abbrev dktX1_reduced_1 : List UInt8 := dkwX1_reduced_1 ++ dktX1_reduced_2
def dkwX1_reduced_0 : List UInt8 := [27, 133, 10, 20, 1, 105, 184, 0, 97, 153, 0, 55, 28, 133, 20, 1, 107, 20, 1, 105, 184, 0, 97]
abbrev dktX1_reduced_0 : List UInt8 := dkwX1_reduced_0 ++ dktX1_reduced_1
theorem dksX1_reduced_0 : cX1_reduced.data.toList.drop 0 = dktX1_reduced_0 := by decide +kernel
theorem dksX1_reduced_1 : cX1_reduced.data.toList.drop 23 = dktX1_reduced_1 := dk_seg dksX1_reduced_0 23 rfl rfl
theorem dksX1_reduced_2 : cX1_reduced.data.toList.drop 45 = dktX1_reduced_2 := dk_seg dksX1_reduced_1 22 rfl rfl
theorem dksX1_reduced_3 : cX1_reduced.data.toList.drop 68 = dktX1_reduced_3 := dk_seg dksX1_reduced_2 23 rfl rfl
theorem dksX1_reduced_4 : cX1_reduced.data.toList.drop 90 = dktX1_reduced_4 := dk_seg dksX1_reduced_3 22 rfl rfl
theorem dksX1_reduced_5 : cX1_reduced.data.toList.drop 112 = dktX1_reduced_5 := dk_seg dksX1_reduced_4 22 rfl rfl
theorem dksX1_reduced_6 : cX1_reduced.data.toList.drop 136 = dktX1_reduced_6 := dk_seg dksX1_reduced_5 24 rfl rfl
theorem dksX1_reduced_7 : cX1_reduced.data.toList.drop 160 = dktX1_reduced_7 := dk_seg dksX1_reduced_6 24 rfl rfl
theorem dksX1_reduced_8 : cX1_reduced.data.toList.drop 184 = dktX1_reduced_8 := dk_seg dksX1_reduced_7 24 rfl rfl
theorem dksX1_reduced_9 : cX1_reduced.data.toList.drop 206 = dktX1_reduced_9 := dk_seg dksX1_reduced_8 22 rfl rfl
theorem dX1_reduced_0 : decode cX1_reduced 0 = .ok (.iload_n 1, 1) := dk_27 (dk_at dksX1_reduced_0 0 rfl rfl)
theorem dX1_reduced_1 : decode cX1_reduced 1 = .ok (.i2l, 1) := dk_133 (dk_at dksX1_reduced_0 1 rfl rfl)
theorem dX1_reduced_2 : decode cX1_reduced 2 = .ok (.lconst 1, 1) := dk_10 (dk_at dksX1_reduced_0 2 rfl rfl)
theorem dX1_reduced_3 : decode cX1_reduced 3 = .ok (.ldc2_w 361, 3) := dk_20 1 105 (dk_at dksX1_reduced_0 3 rfl rfl)
theorem dX1_reduced_6 : decode cX1_reduced 6 = .ok (.invokestatic 97, 3) := dk_184 0 97 (dk_at dksX1_reduced_0 6 rfl rfl)
theorem dX1_reduced_9 : decode cX1_reduced 9 = .ok (.ifCond .eq 55, 3) := dk_153 0 55 (dk_at dksX1_reduced_0 9 rfl rfl)
theorem dX1_reduced_12 : decode cX1_reduced 12 = .ok (.iload_n 2, 1) := dk_28 (dk_at dksX1_reduced_0 12 rfl rfl)
theorem dX1_reduced_13 : decode cX1_reduced 13 = .ok (.i2l, 1) := dk_133 (dk_at dksX1_reduced_0 13 rfl rfl)
theorem dX1_reduced_14 : decode cX1_reduced 14 = .ok (.ldc2_w 363, 3) := dk_20 1 107 (dk_at dksX1_reduced_0 14 rfl rfl)
theorem dX1_reduced_17 : decode cX1_reduced 17 = .ok (.ldc2_w 361, 3) := dk_20 1 105 (dk_at dksX1_reduced_0 17 rfl rfl)
theorem dX1_reduced_20 : decode cX1_reduced 20 = .ok (.invokestatic 97, 3) := dk_184 0 97 (dk_at dksX1_reduced_0 20 rfl rfl)
theorem dX1_reduced_23 : decode cX1_reduced 23 = .ok (.ifCond .eq 41, 3) := dk_153 0 41 (dk_at dksX1_reduced_1 0 rfl rfl)
theorem dX1_reduced_26 : decode cX1_reduced 26 = .ok (.iload_n 3, 1) := dk_29 (dk_at dksX1_reduced_1 3 rfl rfl)
theorem dX1_reduced_27 : decode cX1_reduced 27 = .ok (.i2l, 1) := dk_133 (dk_at dksX1_reduced_1 4 rfl rfl)
theorem dX1_reduced_28 : decode cX1_reduced 28 = .ok (.ldc2_w 363, 3) := dk_20 1 107 (dk_at dksX1_reduced_1 5 rfl rfl)
theorem dX1_reduced_31 : decode cX1_reduced 31 = .ok (.ldc2_w 361, 3) := dk_20 1 105 (dk_at dksX1_reduced_1 8 rfl rfl)
theorem dX1_reduced_34 : decode cX1_reduced 34 = .ok (.invokestatic 97, 3) := dk_184 0 97 (dk_at dksX1_reduced_1 11 rfl rfl)
theorem dX1_reduced_37 : decode cX1_reduced 37 = .ok (.ifCond .eq 27, 3) := dk_153 0 27 (dk_at dksX1_reduced_1 14 rfl rfl)
theorem dX1_reduced_40 : decode cX1_reduced 40 = .ok (.iload_n 2, 1) := dk_28 (dk_at dksX1_reduced_1 17 rfl rfl)
theorem dX1_reduced_41 : decode cX1_reduced 41 = .ok (.i2l, 1) := dk_133 (dk_at dksX1_reduced_1 18 rfl rfl)
theorem dX1_reduced_42 : decode cX1_reduced 42 = .ok (.iload_n 2, 1) := dk_28 (dk_at dksX1_reduced_1 19 rfl rfl)
theorem dX1_reduced_43 : decode cX1_reduced 43 = .ok (.i2l, 1) := dk_133 (dk_at dksX1_reduced_1 20 rfl rfl)
theorem dX1_reduced_44 : decode cX1_reduced 44 = .ok (.lmul, 1) := dk_105 (dk_at dksX1_reduced_1 21 rfl rfl)
theorem dX1_reduced_45 : decode cX1_reduced 45 = .ok (.ldc2_w 365, 3) := dk_20 1 109 (dk_at dksX1_reduced_2 0 rfl rfl)
theorem dX1_reduced_48 : decode cX1_reduced 48 = .ok (.iload_n 1, 1) := dk_27 (dk_at dksX1_reduced_2 3 rfl rfl)
theorem dX1_reduced_49 : decode cX1_reduced 49 = .ok (.i2l, 1) := dk_133 (dk_at dksX1_reduced_2 4 rfl rfl)
theorem dX1_reduced_50 : decode cX1_reduced 50 = .ok (.lmul, 1) := dk_105 (dk_at dksX1_reduced_2 5 rfl rfl)
theorem dX1_reduced_51 : decode cX1_reduced 51 = .ok (.iload_n 3, 1) := dk_29 (dk_at dksX1_reduced_2 6 rfl rfl)
theorem dX1_reduced_52 : decode cX1_reduced 52 = .ok (.i2l, 1) := dk_133 (dk_at dksX1_reduced_2 7 rfl rfl)
theorem dX1_reduced_53 : decode cX1_reduced 53 = .ok (.lmul, 1) := dk_105 (dk_at dksX1_reduced_2 8 rfl rfl)
theorem dX1_reduced_54 : decode cX1_reduced 54 = .ok (.lsub, 1) := dk_101 (dk_at dksX1_reduced_2 9 rfl rfl)
theorem dX1_reduced_55 : decode cX1_reduced 55 = .ok (.lconst 0, 1) := dk_9 (dk_at dksX1_reduced_2 10 rfl rfl)
theorem dX1_reduced_56 : decode cX1_reduced 56 = .ok (.lcmp, 1) := dk_148 (dk_at dksX1_reduced_2 11 rfl rfl)
theorem dX1_reduced_57 : decode cX1_reduced 57 = .ok (.ifCond .ge 7, 3) := dk_156 0 7 (dk_at dksX1_reduced_2 12 rfl rfl)
theorem dX1_reduced_60 : decode cX1_reduced 60 = .ok (.iconst 1, 1) := dk_4 (dk_at dksX1_reduced_2 15 rfl rfl)
theorem dX1_reduced_61 : decode cX1_reduced 61 = .ok (.goto 4, 3) := dk_167 0 4 (dk_at dksX1_reduced_2 16 rfl rfl)
theorem dX1_reduced_64 : decode cX1_reduced 64 = .ok (.iconst 0, 1) := dk_3 (dk_at dksX1_reduced_2 19 rfl rfl)
theorem dX1_reduced_65 : decode cX1_reduced 65 = .ok (.invokestatic 132, 3) := dk_184 0 132 (dk_at dksX1_reduced_2 20 rfl rfl)
theorem dX1_reduced_68 : decode cX1_reduced 68 = .ok (.iload 4, 2) := dk_21 4 (dk_at dksX1_reduced_3 0 rfl rfl)
theorem dX1_reduced_70 : decode cX1_reduced 70 = .ok (.i2l, 1) := dk_133 (dk_at dksX1_reduced_3 2 rfl rfl)
theorem dX1_reduced_71 : decode cX1_reduced 71 = .ok (.lconst 0, 1) := dk_9 (dk_at dksX1_reduced_3 3 rfl rfl)
theorem dX1_reduced_72 : decode cX1_reduced 72 = .ok (.ldc2_w 267, 3) := dk_20 1 11 (dk_at dksX1_reduced_3 4 rfl rfl)
theorem dX1_reduced_75 : decode cX1_reduced 75 = .ok (.invokestatic 97, 3) := dk_184 0 97 (dk_at dksX1_reduced_3 7 rfl rfl)
theorem dX1_reduced_78 : decode cX1_reduced 78 = .ok (.invokestatic 367, 3) := dk_184 1 111 (dk_at dksX1_reduced_3 10 rfl rfl)
theorem dX1_reduced_81 : decode cX1_reduced 81 = .ok (.aload_n 0, 1) := dk_42 (dk_at dksX1_reduced_3 13 rfl rfl)
theorem dX1_reduced_82 : decode cX1_reduced 82 = .ok (.getfield 68, 3) := dk_180 0 68 (dk_at dksX1_reduced_3 14 rfl rfl)
theorem dX1_reduced_85 : decode cX1_reduced 85 = .ok (.iconst 0, 1) := dk_3 (dk_at dksX1_reduced_3 17 rfl rfl)
theorem dX1_reduced_86 : decode cX1_reduced 86 = .ok (.iload_n 1, 1) := dk_27 (dk_at dksX1_reduced_3 18 rfl rfl)
theorem dX1_reduced_87 : decode cX1_reduced 87 = .ok (.i2l, 1) := dk_133 (dk_at dksX1_reduced_3 19 rfl rfl)
theorem dX1_reduced_88 : decode cX1_reduced 88 = .ok (.lastore, 1) := dk_80 (dk_at dksX1_reduced_3 20 rfl rfl)
theorem dX1_reduced_89 : decode cX1_reduced 89 = .ok (.aload_n 0, 1) := dk_42 (dk_at dksX1_reduced_3 21 rfl rfl)
theorem dX1_reduced_90 : decode cX1_reduced 90 = .ok (.getfield 68, 3) := dk_180 0 68 (dk_at dksX1_reduced_4 0 rfl rfl)
theorem dX1_reduced_93 : decode cX1_reduced 93 = .ok (.iconst 1, 1) := dk_4 (dk_at dksX1_reduced_4 3 rfl rfl)
theorem dX1_reduced_94 : decode cX1_reduced 94 = .ok (.iload_n 2, 1) := dk_28 (dk_at dksX1_reduced_4 4 rfl rfl)
theorem dX1_reduced_95 : decode cX1_reduced 95 = .ok (.i2l, 1) := dk_133 (dk_at dksX1_reduced_4 5 rfl rfl)
theorem dX1_reduced_96 : decode cX1_reduced 96 = .ok (.lastore, 1) := dk_80 (dk_at dksX1_reduced_4 6 rfl rfl)
theorem dX1_reduced_97 : decode cX1_reduced 97 = .ok (.aload_n 0, 1) := dk_42 (dk_at dksX1_reduced_4 7 rfl rfl)
theorem dX1_reduced_98 : decode cX1_reduced 98 = .ok (.getfield 68, 3) := dk_180 0 68 (dk_at dksX1_reduced_4 8 rfl rfl)
theorem dX1_reduced_101 : decode cX1_reduced 101 = .ok (.iconst 2, 1) := dk_5 (dk_at dksX1_reduced_4 11 rfl rfl)
theorem dX1_reduced_102 : decode cX1_reduced 102 = .ok (.iload_n 3, 1) := dk_29 (dk_at dksX1_reduced_4 12 rfl rfl)
theorem dX1_reduced_103 : decode cX1_reduced 103 = .ok (.i2l, 1) := dk_133 (dk_at dksX1_reduced_4 13 rfl rfl)
theorem dX1_reduced_104 : decode cX1_reduced 104 = .ok (.lastore, 1) := dk_80 (dk_at dksX1_reduced_4 14 rfl rfl)
theorem dX1_reduced_105 : decode cX1_reduced 105 = .ok (.aload_n 0, 1) := dk_42 (dk_at dksX1_reduced_4 15 rfl rfl)
theorem dX1_reduced_106 : decode cX1_reduced 106 = .ok (.invokevirtual 370, 3) := dk_182 1 114 (dk_at dksX1_reduced_4 16 rfl rfl)
theorem dX1_reduced_109 : decode cX1_reduced 109 = .ok (.iload 4, 2) := dk_21 4 (dk_at dksX1_reduced_4 19 rfl rfl)
theorem dX1_reduced_111 : decode cX1_reduced 111 = .ok (.iconst 3, 1) := dk_6 (dk_at dksX1_reduced_4 21 rfl rfl)
theorem dX1_reduced_112 : decode cX1_reduced 112 = .ok (.if_icmp .ge 11, 3) := dk_162 0 11 (dk_at dksX1_reduced_5 0 rfl rfl)
theorem dX1_reduced_115 : decode cX1_reduced 115 = .ok (.aload_n 0, 1) := dk_42 (dk_at dksX1_reduced_5 3 rfl rfl)
theorem dX1_reduced_116 : decode cX1_reduced 116 = .ok (.getfield 68, 3) := dk_180 0 68 (dk_at dksX1_reduced_5 4 rfl rfl)
theorem dX1_reduced_119 : decode cX1_reduced 119 = .ok (.iload 4, 2) := dk_21 4 (dk_at dksX1_reduced_5 7 rfl rfl)
theorem dX1_reduced_121 : decode cX1_reduced 121 = .ok (.laload, 1) := dk_47 (dk_at dksX1_reduced_5 9 rfl rfl)
theorem dX1_reduced_122 : decode cX1_reduced 122 = .ok (.lreturn, 1) := dk_173 (dk_at dksX1_reduced_5 10 rfl rfl)
theorem dX1_reduced_123 : decode cX1_reduced 123 = .ok (.iload 4, 2) := dk_21 4 (dk_at dksX1_reduced_5 11 rfl rfl)
theorem dX1_reduced_125 : decode cX1_reduced 125 = .ok (.bipush 8, 2) := dk_16 8 (dk_at dksX1_reduced_5 13 rfl rfl)
theorem dX1_reduced_127 : decode cX1_reduced 127 = .ok (.if_icmp .ge 27, 3) := dk_162 0 27 (dk_at dksX1_reduced_5 15 rfl rfl)
theorem dX1_reduced_130 : decode cX1_reduced 130 = .ok (.iload 4, 2) := dk_21 4 (dk_at dksX1_reduced_5 18 rfl rfl)
theorem dX1_reduced_132 : decode cX1_reduced 132 = .ok (.iconst 3, 1) := dk_6 (dk_at dksX1_reduced_5 20 rfl rfl)
theorem dX1_reduced_133 : decode cX1_reduced 133 = .ok (.if_icmp .ne 11, 3) := dk_160 0 11 (dk_at dksX1_reduced_5 21 rfl rfl)
theorem dX1_reduced_136 : decode cX1_reduced 136 = .ok (.aload_n 0, 1) := dk_42 (dk_at dksX1_reduced_6 0 rfl rfl)
theorem dX1_reduced_137 : decode cX1_reduced 137 = .ok (.getfield 349, 3) := dk_180 1 93 (dk_at dksX1_reduced_6 1 rfl rfl)
theorem dX1_reduced_140 : decode cX1_reduced 140 = .ok (.i2l, 1) := dk_133 (dk_at dksX1_reduced_6 4 rfl rfl)
theorem dX1_reduced_141 : decode cX1_reduced 141 = .ok (.goto 12, 3) := dk_167 0 12 (dk_at dksX1_reduced_6 5 rfl rfl)
theorem dX1_reduced_144 : decode cX1_reduced 144 = .ok (.aload_n 0, 1) := dk_42 (dk_at dksX1_reduced_6 8 rfl rfl)
theorem dX1_reduced_145 : decode cX1_reduced 145 = .ok (.getfield 72, 3) := dk_180 0 72 (dk_at dksX1_reduced_6 9 rfl rfl)
theorem dX1_reduced_148 : decode cX1_reduced 148 = .ok (.iload 4, 2) := dk_21 4 (dk_at dksX1_reduced_6 12 rfl rfl)
theorem dX1_reduced_150 : decode cX1_reduced 150 = .ok (.iconst 4, 1) := dk_7 (dk_at dksX1_reduced_6 14 rfl rfl)
theorem dX1_reduced_151 : decode cX1_reduced 151 = .ok (.isub, 1) := dk_100 (dk_at dksX1_reduced_6 15 rfl rfl)
theorem dX1_reduced_152 : decode cX1_reduced 152 = .ok (.laload, 1) := dk_47 (dk_at dksX1_reduced_6 16 rfl rfl)
theorem dX1_reduced_153 : decode cX1_reduced 153 = .ok (.lreturn, 1) := dk_173 (dk_at dksX1_reduced_6 17 rfl rfl)
theorem dX1_reduced_154 : decode cX1_reduced 154 = .ok (.aload_n 0, 1) := dk_42 (dk_at dksX1_reduced_6 18 rfl rfl)
theorem dX1_reduced_155 : decode cX1_reduced 155 = .ok (.getfield 68, 3) := dk_180 0 68 (dk_at dksX1_reduced_6 19 rfl rfl)
theorem dX1_reduced_158 : decode cX1_reduced 158 = .ok (.iconst 0, 1) := dk_3 (dk_at dksX1_reduced_6 22 rfl rfl)
theorem dX1_reduced_159 : decode cX1_reduced 159 = .ok (.laload, 1) := dk_47 (dk_at dksX1_reduced_6 23 rfl rfl)
theorem dX1_reduced_160 : decode cX1_reduced 160 = .ok (.aload_n 0, 1) := dk_42 (dk_at dksX1_reduced_7 0 rfl rfl)
theorem dX1_reduced_161 : decode cX1_reduced 161 = .ok (.getfield 68, 3) := dk_180 0 68 (dk_at dksX1_reduced_7 1 rfl rfl)
theorem dX1_reduced_164 : decode cX1_reduced 164 = .ok (.iconst 2, 1) := dk_5 (dk_at dksX1_reduced_7 4 rfl rfl)
theorem dX1_reduced_165 : decode cX1_reduced 165 = .ok (.laload, 1) := dk_47 (dk_at dksX1_reduced_7 5 rfl rfl)
theorem dX1_reduced_166 : decode cX1_reduced 166 = .ok (.lcmp, 1) := dk_148 (dk_at dksX1_reduced_7 6 rfl rfl)
theorem dX1_reduced_167 : decode cX1_reduced 167 = .ok (.ifCond .eq 9, 3) := dk_153 0 9 (dk_at dksX1_reduced_7 7 rfl rfl)
theorem dX1_reduced_170 : decode cX1_reduced 170 = .ok (.ldc2_w 355, 3) := dk_20 1 99 (dk_at dksX1_reduced_7 10 rfl rfl)
theorem dX1_reduced_173 : decode cX1_reduced 173 = .ok (.goto 45, 3) := dk_167 0 45 (dk_at dksX1_reduced_7 13 rfl rfl)
theorem dX1_reduced_176 : decode cX1_reduced 176 = .ok (.aload_n 0, 1) := dk_42 (dk_at dksX1_reduced_7 16 rfl rfl)
theorem dX1_reduced_177 : decode cX1_reduced 177 = .ok (.getfield 68, 3) := dk_180 0 68 (dk_at dksX1_reduced_7 17 rfl rfl)
theorem dX1_reduced_180 : decode cX1_reduced 180 = .ok (.iconst 1, 1) := dk_4 (dk_at dksX1_reduced_7 20 rfl rfl)
theorem dX1_reduced_181 : decode cX1_reduced 181 = .ok (.laload, 1) := dk_47 (dk_at dksX1_reduced_7 21 rfl rfl)
theorem dX1_reduced_182 : decode cX1_reduced 182 = .ok (.lconst 0, 1) := dk_9 (dk_at dksX1_reduced_7 22 rfl rfl)
theorem dX1_reduced_183 : decode cX1_reduced 183 = .ok (.lcmp, 1) := dk_148 (dk_at dksX1_reduced_7 23 rfl rfl)
theorem dX1_reduced_184 : decode cX1_reduced 184 = .ok (.ifCond .ne 9, 3) := dk_154 0 9 (dk_at dksX1_reduced_8 0 rfl rfl)
theorem dX1_reduced_187 : decode cX1_reduced 187 = .ok (.ldc2_w 365, 3) := dk_20 1 109 (dk_at dksX1_reduced_8 3 rfl rfl)
theorem dX1_reduced_190 : decode cX1_reduced 190 = .ok (.goto 28, 3) := dk_167 0 28 (dk_at dksX1_reduced_8 6 rfl rfl)
theorem dX1_reduced_193 : decode cX1_reduced 193 = .ok (.aload_n 0, 1) := dk_42 (dk_at dksX1_reduced_8 9 rfl rfl)
theorem dX1_reduced_194 : decode cX1_reduced 194 = .ok (.getfield 68, 3) := dk_180 0 68 (dk_at dksX1_reduced_8 10 rfl rfl)
theorem dX1_reduced_197 : decode cX1_reduced 197 = .ok (.iconst 1, 1) := dk_4 (dk_at dksX1_reduced_8 13 rfl rfl)
theorem dX1_reduced_198 : decode cX1_reduced 198 = .ok (.laload, 1) := dk_47 (dk_at dksX1_reduced_8 14 rfl rfl)
theorem dX1_reduced_199 : decode cX1_reduced 199 = .ok (.aload_n 0, 1) := dk_42 (dk_at dksX1_reduced_8 15 rfl rfl)
theorem dX1_reduced_200 : decode cX1_reduced 200 = .ok (.getfield 68, 3) := dk_180 0 68 (dk_at dksX1_reduced_8 16 rfl rfl)
theorem dX1_reduced_203 : decode cX1_reduced 203 = .ok (.iconst 0, 1) := dk_3 (dk_at dksX1_reduced_8 19 rfl rfl)
theorem dX1_reduced_204 : decode cX1_reduced 204 = .ok (.laload, 1) := dk_47 (dk_at dksX1_reduced_8 20 rfl rfl)
theorem dX1_reduced_205 : decode cX1_reduced 205 = .ok (.lcmp, 1) := dk_148 (dk_at dksX1_reduced_8 21 rfl rfl)
theorem dX1_reduced_206 : decode cX1_reduced 206 = .ok (.ifCond .ne 9, 3) := dk_154 0 9 (dk_at dksX1_reduced_9 0 rfl rfl)
theorem dX1_reduced_209 : decode cX1_reduced 209 = .ok (.ldc2_w 373, 3) := dk_20 1 117 (dk_at dksX1_reduced_9 3 rfl rfl)
theorem dX1_reduced_212 : decode cX1_reduced 212 = .ok (.goto 6, 3) := dk_167 0 6 (dk_at dksX1_reduced_9 6 rfl rfl)
theorem dX1_reduced_215 : decode cX1_reduced 215 = .ok (.ldc2_w 355, 3) := dk_20 1 99 (dk_at dksX1_reduced_9 9 rfl rfl)
theorem dX1_reduced_218 : decode cX1_reduced 218 = .ok (.lreturn, 1) := dk_173 (dk_at dksX1_reduced_9 12 rfl rfl)
abbrev cX1_thereIs : ByteArray := prog_1_method_5_code
def yX1_thereIs : MethodName := ⟨RX1, "thereIs", "(Z)V"⟩
def dkwX1_thereIs_0 : List UInt8 := [26, 154, 0, 11, 187, 0, 91, 89, 183, 0, 93, 191, 177]
abbrev dktX1_thereIs_0 : List UInt8 := dkwX1_thereIs_0 ++ []
theorem dksX1_thereIs_0 : cX1_thereIs.data.toList.drop 0 = dktX1_thereIs_0 := by decide +kernel
theorem dX1_thereIs_0 : decode cX1_thereIs 0 = .ok (.iload_n 0, 1) := dk_26 (dk_at dksX1_thereIs_0 0 rfl rfl)
theorem dX1_thereIs_1 : decode cX1_thereIs 1 = .ok (.ifCond .ne 11, 3) := dk_154 0 11 (dk_at dksX1_thereIs_0 1 rfl rfl)
theorem dX1_thereIs_4 : decode cX1_thereIs 4 = .ok (.new 91, 3) := dk_187 0 91 (dk_at dksX1_thereIs_0 4 rfl rfl)
theorem dX1_thereIs_7 : decode cX1_thereIs 7 = .ok (.dup, 1) := dk_89 (dk_at dksX1_thereIs_0 7 rfl rfl)
theorem dX1_thereIs_8 : decode cX1_thereIs 8 = .ok (.invokespecial 93, 3) := dk_183 0 93 (dk_at dksX1_thereIs_0 8 rfl rfl)
theorem dX1_thereIs_11 : decode cX1_thereIs 11 = .ok (.athrow, 1) := dk_191 (dk_at dksX1_thereIs_0 11 rfl rfl)
theorem dX1_thereIs_12 : decode cX1_thereIs 12 = .ok (.return_, 1) := dk_177 (dk_at dksX1_thereIs_0 12 rfl rfl)
abbrev cX1_reduces : ByteArray := prog_1_method_64_code
def yX1_reduces : MethodName := ⟨RX1, "reduces", "()V"⟩
def dkwX1_reduces_11 : List UInt8 := [96, 181, 1, 93, 167, 255, 24, 177]
abbrev dktX1_reduces_11 : List UInt8 := dkwX1_reduces_11 ++ []
def dkwX1_reduces_10 : List UInt8 := [42, 180, 0, 72, 21, 5, 4, 96, 22, 6, 117, 80, 132, 5, 2, 167, 255, 210, 42, 89, 180, 1, 93, 4]
abbrev dktX1_reduces_10 : List UInt8 := dkwX1_reduces_10 ++ dktX1_reduces_11
def dkwX1_reduces_9 : List UInt8 := [180, 0, 72, 21, 5, 47, 55, 6, 42, 180, 0, 72, 21, 5, 42, 180, 0, 72, 21, 5, 4, 96, 47, 80]
abbrev dktX1_reduces_9 : List UInt8 := dkwX1_reduces_9 ++ dktX1_reduces_10
def dkwX1_reduces_8 : List UInt8 := [180, 0, 68, 4, 33, 117, 80, 42, 180, 0, 68, 5, 31, 80, 3, 54, 5, 21, 5, 7, 162, 0, 46, 42]
abbrev dktX1_reduces_8 : List UInt8 := dkwX1_reduces_8 ++ dktX1_reduces_9
def dkwX1_reduces_7 : List UInt8 := [5, 47, 22, 5, 105, 97, 80, 167, 0, 82, 42, 180, 0, 68, 3, 42, 180, 0, 68, 5, 47, 80, 42]
abbrev dktX1_reduces_7 : List UInt8 := dkwX1_reduces_7 ++ dktX1_reduces_8
def dkwX1_reduces_6 : List UInt8 := [92, 47, 42, 180, 0, 72, 3, 47, 22, 5, 105, 97, 80, 42, 180, 0, 72, 6, 92, 47, 42, 180, 0, 72]
abbrev dktX1_reduces_6 : List UInt8 := dkwX1_reduces_6 ++ dktX1_reduces_7
def dkwX1_reduces_5 : List UInt8 := [97, 97, 80, 42, 180, 0, 68, 4, 33, 20, 1, 99, 31, 105, 22, 5, 105, 97, 80, 42, 180, 0, 72, 4]
abbrev dktX1_reduces_5 : List UInt8 := dkwX1_reduces_5 ++ dktX1_reduces_6
def dkwX1_reduces_4 : List UInt8 := [184, 1, 101, 117, 55, 5, 42, 180, 0, 68, 5, 92, 47, 33, 22, 5, 105, 31, 22, 5, 105, 22, 5, 105]
abbrev dktX1_reduces_4 : List UInt8 := dkwX1_reduces_4 ++ dktX1_reduces_5
def dkwX1_reduces_3 : List UInt8 := [66, 33, 31, 117, 148, 158, 0, 9, 33, 31, 148, 158, 0, 95, 33, 31, 97, 10, 101, 20, 1, 99, 31, 105]
abbrev dktX1_reduces_3 : List UInt8 := dkwX1_reduces_3 ++ dktX1_reduces_4
def dkwX1_reduces_2 : List UInt8 := [180, 0, 68, 5, 47, 184, 1, 96, 154, 0, 214, 42, 180, 0, 68, 3, 47, 64, 42, 180, 0, 68, 4, 47]
abbrev dktX1_reduces_2 : List UInt8 := dkwX1_reduces_2 ++ dktX1_reduces_3
def dkwX1_reduces_1 : List UInt8 := [9, 80, 42, 180, 0, 72, 6, 10, 80, 42, 180, 0, 68, 3, 47, 42, 180, 0, 68, 4, 47, 42]
abbrev dktX1_reduces_1 : List UInt8 := dkwX1_reduces_1 ++ dktX1_reduces_2
def dkwX1_reduces_0 : List UInt8 := [42, 3, 181, 1, 93, 42, 180, 0, 72, 3, 10, 80, 42, 180, 0, 72, 4, 9, 80, 42, 180, 0, 72, 5]
abbrev dktX1_reduces_0 : List UInt8 := dkwX1_reduces_0 ++ dktX1_reduces_1
theorem dksX1_reduces_0 : cX1_reduces.data.toList.drop 0 = dktX1_reduces_0 := by decide +kernel
theorem dksX1_reduces_1 : cX1_reduces.data.toList.drop 24 = dktX1_reduces_1 := dk_seg dksX1_reduces_0 24 rfl rfl
theorem dksX1_reduces_2 : cX1_reduces.data.toList.drop 46 = dktX1_reduces_2 := dk_seg dksX1_reduces_1 22 rfl rfl
theorem dksX1_reduces_3 : cX1_reduces.data.toList.drop 70 = dktX1_reduces_3 := dk_seg dksX1_reduces_2 24 rfl rfl
theorem dksX1_reduces_4 : cX1_reduces.data.toList.drop 94 = dktX1_reduces_4 := dk_seg dksX1_reduces_3 24 rfl rfl
theorem dksX1_reduces_5 : cX1_reduces.data.toList.drop 118 = dktX1_reduces_5 := dk_seg dksX1_reduces_4 24 rfl rfl
theorem dksX1_reduces_6 : cX1_reduces.data.toList.drop 142 = dktX1_reduces_6 := dk_seg dksX1_reduces_5 24 rfl rfl
theorem dksX1_reduces_7 : cX1_reduces.data.toList.drop 166 = dktX1_reduces_7 := dk_seg dksX1_reduces_6 24 rfl rfl
theorem dksX1_reduces_8 : cX1_reduces.data.toList.drop 189 = dktX1_reduces_8 := dk_seg dksX1_reduces_7 23 rfl rfl
theorem dksX1_reduces_9 : cX1_reduces.data.toList.drop 213 = dktX1_reduces_9 := dk_seg dksX1_reduces_8 24 rfl rfl
theorem dksX1_reduces_10 : cX1_reduces.data.toList.drop 237 = dktX1_reduces_10 := dk_seg dksX1_reduces_9 24 rfl rfl
theorem dksX1_reduces_11 : cX1_reduces.data.toList.drop 261 = dktX1_reduces_11 := dk_seg dksX1_reduces_10 24 rfl rfl
theorem dX1_reduces_0 : decode cX1_reduces 0 = .ok (.aload_n 0, 1) := dk_42 (dk_at dksX1_reduces_0 0 rfl rfl)
theorem dX1_reduces_1 : decode cX1_reduces 1 = .ok (.iconst 0, 1) := dk_3 (dk_at dksX1_reduces_0 1 rfl rfl)
theorem dX1_reduces_2 : decode cX1_reduces 2 = .ok (.putfield 349, 3) := dk_181 1 93 (dk_at dksX1_reduces_0 2 rfl rfl)
theorem dX1_reduces_5 : decode cX1_reduces 5 = .ok (.aload_n 0, 1) := dk_42 (dk_at dksX1_reduces_0 5 rfl rfl)
theorem dX1_reduces_6 : decode cX1_reduces 6 = .ok (.getfield 72, 3) := dk_180 0 72 (dk_at dksX1_reduces_0 6 rfl rfl)
theorem dX1_reduces_9 : decode cX1_reduces 9 = .ok (.iconst 0, 1) := dk_3 (dk_at dksX1_reduces_0 9 rfl rfl)
theorem dX1_reduces_10 : decode cX1_reduces 10 = .ok (.lconst 1, 1) := dk_10 (dk_at dksX1_reduces_0 10 rfl rfl)
theorem dX1_reduces_11 : decode cX1_reduces 11 = .ok (.lastore, 1) := dk_80 (dk_at dksX1_reduces_0 11 rfl rfl)
theorem dX1_reduces_12 : decode cX1_reduces 12 = .ok (.aload_n 0, 1) := dk_42 (dk_at dksX1_reduces_0 12 rfl rfl)
theorem dX1_reduces_13 : decode cX1_reduces 13 = .ok (.getfield 72, 3) := dk_180 0 72 (dk_at dksX1_reduces_0 13 rfl rfl)
theorem dX1_reduces_16 : decode cX1_reduces 16 = .ok (.iconst 1, 1) := dk_4 (dk_at dksX1_reduces_0 16 rfl rfl)
theorem dX1_reduces_17 : decode cX1_reduces 17 = .ok (.lconst 0, 1) := dk_9 (dk_at dksX1_reduces_0 17 rfl rfl)
theorem dX1_reduces_18 : decode cX1_reduces 18 = .ok (.lastore, 1) := dk_80 (dk_at dksX1_reduces_0 18 rfl rfl)
theorem dX1_reduces_19 : decode cX1_reduces 19 = .ok (.aload_n 0, 1) := dk_42 (dk_at dksX1_reduces_0 19 rfl rfl)
theorem dX1_reduces_20 : decode cX1_reduces 20 = .ok (.getfield 72, 3) := dk_180 0 72 (dk_at dksX1_reduces_0 20 rfl rfl)
theorem dX1_reduces_23 : decode cX1_reduces 23 = .ok (.iconst 2, 1) := dk_5 (dk_at dksX1_reduces_0 23 rfl rfl)
theorem dX1_reduces_24 : decode cX1_reduces 24 = .ok (.lconst 0, 1) := dk_9 (dk_at dksX1_reduces_1 0 rfl rfl)
theorem dX1_reduces_25 : decode cX1_reduces 25 = .ok (.lastore, 1) := dk_80 (dk_at dksX1_reduces_1 1 rfl rfl)
theorem dX1_reduces_26 : decode cX1_reduces 26 = .ok (.aload_n 0, 1) := dk_42 (dk_at dksX1_reduces_1 2 rfl rfl)
theorem dX1_reduces_27 : decode cX1_reduces 27 = .ok (.getfield 72, 3) := dk_180 0 72 (dk_at dksX1_reduces_1 3 rfl rfl)
theorem dX1_reduces_30 : decode cX1_reduces 30 = .ok (.iconst 3, 1) := dk_6 (dk_at dksX1_reduces_1 6 rfl rfl)
theorem dX1_reduces_31 : decode cX1_reduces 31 = .ok (.lconst 1, 1) := dk_10 (dk_at dksX1_reduces_1 7 rfl rfl)
theorem dX1_reduces_32 : decode cX1_reduces 32 = .ok (.lastore, 1) := dk_80 (dk_at dksX1_reduces_1 8 rfl rfl)
theorem dX1_reduces_33 : decode cX1_reduces 33 = .ok (.aload_n 0, 1) := dk_42 (dk_at dksX1_reduces_1 9 rfl rfl)
theorem dX1_reduces_34 : decode cX1_reduces 34 = .ok (.getfield 68, 3) := dk_180 0 68 (dk_at dksX1_reduces_1 10 rfl rfl)
theorem dX1_reduces_37 : decode cX1_reduces 37 = .ok (.iconst 0, 1) := dk_3 (dk_at dksX1_reduces_1 13 rfl rfl)
theorem dX1_reduces_38 : decode cX1_reduces 38 = .ok (.laload, 1) := dk_47 (dk_at dksX1_reduces_1 14 rfl rfl)
theorem dX1_reduces_39 : decode cX1_reduces 39 = .ok (.aload_n 0, 1) := dk_42 (dk_at dksX1_reduces_1 15 rfl rfl)
theorem dX1_reduces_40 : decode cX1_reduces 40 = .ok (.getfield 68, 3) := dk_180 0 68 (dk_at dksX1_reduces_1 16 rfl rfl)
theorem dX1_reduces_43 : decode cX1_reduces 43 = .ok (.iconst 1, 1) := dk_4 (dk_at dksX1_reduces_1 19 rfl rfl)
theorem dX1_reduces_44 : decode cX1_reduces 44 = .ok (.laload, 1) := dk_47 (dk_at dksX1_reduces_1 20 rfl rfl)
theorem dX1_reduces_45 : decode cX1_reduces 45 = .ok (.aload_n 0, 1) := dk_42 (dk_at dksX1_reduces_1 21 rfl rfl)
theorem dX1_reduces_46 : decode cX1_reduces 46 = .ok (.getfield 68, 3) := dk_180 0 68 (dk_at dksX1_reduces_2 0 rfl rfl)
theorem dX1_reduces_49 : decode cX1_reduces 49 = .ok (.iconst 2, 1) := dk_5 (dk_at dksX1_reduces_2 3 rfl rfl)
theorem dX1_reduces_50 : decode cX1_reduces 50 = .ok (.laload, 1) := dk_47 (dk_at dksX1_reduces_2 4 rfl rfl)
theorem dX1_reduces_51 : decode cX1_reduces 51 = .ok (.invokestatic 352, 3) := dk_184 1 96 (dk_at dksX1_reduces_2 5 rfl rfl)
theorem dX1_reduces_54 : decode cX1_reduces 54 = .ok (.ifCond .ne 214, 3) := dk_154 0 214 (dk_at dksX1_reduces_2 8 rfl rfl)
theorem dX1_reduces_57 : decode cX1_reduces 57 = .ok (.aload_n 0, 1) := dk_42 (dk_at dksX1_reduces_2 11 rfl rfl)
theorem dX1_reduces_58 : decode cX1_reduces 58 = .ok (.getfield 68, 3) := dk_180 0 68 (dk_at dksX1_reduces_2 12 rfl rfl)
theorem dX1_reduces_61 : decode cX1_reduces 61 = .ok (.iconst 0, 1) := dk_3 (dk_at dksX1_reduces_2 15 rfl rfl)
theorem dX1_reduces_62 : decode cX1_reduces 62 = .ok (.laload, 1) := dk_47 (dk_at dksX1_reduces_2 16 rfl rfl)
theorem dX1_reduces_63 : decode cX1_reduces 63 = .ok (.lstore_n 1, 1) := dk_64 (dk_at dksX1_reduces_2 17 rfl rfl)
theorem dX1_reduces_64 : decode cX1_reduces 64 = .ok (.aload_n 0, 1) := dk_42 (dk_at dksX1_reduces_2 18 rfl rfl)
theorem dX1_reduces_65 : decode cX1_reduces 65 = .ok (.getfield 68, 3) := dk_180 0 68 (dk_at dksX1_reduces_2 19 rfl rfl)
theorem dX1_reduces_68 : decode cX1_reduces 68 = .ok (.iconst 1, 1) := dk_4 (dk_at dksX1_reduces_2 22 rfl rfl)
theorem dX1_reduces_69 : decode cX1_reduces 69 = .ok (.laload, 1) := dk_47 (dk_at dksX1_reduces_2 23 rfl rfl)
theorem dX1_reduces_70 : decode cX1_reduces 70 = .ok (.lstore_n 3, 1) := dk_66 (dk_at dksX1_reduces_3 0 rfl rfl)
theorem dX1_reduces_71 : decode cX1_reduces 71 = .ok (.lload_n 3, 1) := dk_33 (dk_at dksX1_reduces_3 1 rfl rfl)
theorem dX1_reduces_72 : decode cX1_reduces 72 = .ok (.lload_n 1, 1) := dk_31 (dk_at dksX1_reduces_3 2 rfl rfl)
theorem dX1_reduces_73 : decode cX1_reduces 73 = .ok (.lneg, 1) := dk_117 (dk_at dksX1_reduces_3 3 rfl rfl)
theorem dX1_reduces_74 : decode cX1_reduces 74 = .ok (.lcmp, 1) := dk_148 (dk_at dksX1_reduces_3 4 rfl rfl)
theorem dX1_reduces_75 : decode cX1_reduces 75 = .ok (.ifCond .le 9, 3) := dk_158 0 9 (dk_at dksX1_reduces_3 5 rfl rfl)
theorem dX1_reduces_78 : decode cX1_reduces 78 = .ok (.lload_n 3, 1) := dk_33 (dk_at dksX1_reduces_3 8 rfl rfl)
theorem dX1_reduces_79 : decode cX1_reduces 79 = .ok (.lload_n 1, 1) := dk_31 (dk_at dksX1_reduces_3 9 rfl rfl)
theorem dX1_reduces_80 : decode cX1_reduces 80 = .ok (.lcmp, 1) := dk_148 (dk_at dksX1_reduces_3 10 rfl rfl)
theorem dX1_reduces_81 : decode cX1_reduces 81 = .ok (.ifCond .le 95, 3) := dk_158 0 95 (dk_at dksX1_reduces_3 11 rfl rfl)
theorem dX1_reduces_84 : decode cX1_reduces 84 = .ok (.lload_n 3, 1) := dk_33 (dk_at dksX1_reduces_3 14 rfl rfl)
theorem dX1_reduces_85 : decode cX1_reduces 85 = .ok (.lload_n 1, 1) := dk_31 (dk_at dksX1_reduces_3 15 rfl rfl)
theorem dX1_reduces_86 : decode cX1_reduces 86 = .ok (.ladd, 1) := dk_97 (dk_at dksX1_reduces_3 16 rfl rfl)
theorem dX1_reduces_87 : decode cX1_reduces 87 = .ok (.lconst 1, 1) := dk_10 (dk_at dksX1_reduces_3 17 rfl rfl)
theorem dX1_reduces_88 : decode cX1_reduces 88 = .ok (.lsub, 1) := dk_101 (dk_at dksX1_reduces_3 18 rfl rfl)
theorem dX1_reduces_89 : decode cX1_reduces 89 = .ok (.ldc2_w 355, 3) := dk_20 1 99 (dk_at dksX1_reduces_3 19 rfl rfl)
theorem dX1_reduces_92 : decode cX1_reduces 92 = .ok (.lload_n 1, 1) := dk_31 (dk_at dksX1_reduces_3 22 rfl rfl)
theorem dX1_reduces_93 : decode cX1_reduces 93 = .ok (.lmul, 1) := dk_105 (dk_at dksX1_reduces_3 23 rfl rfl)
theorem dX1_reduces_94 : decode cX1_reduces 94 = .ok (.invokestatic 357, 3) := dk_184 1 101 (dk_at dksX1_reduces_4 0 rfl rfl)
theorem dX1_reduces_97 : decode cX1_reduces 97 = .ok (.lneg, 1) := dk_117 (dk_at dksX1_reduces_4 3 rfl rfl)
theorem dX1_reduces_98 : decode cX1_reduces 98 = .ok (.lstore 5, 2) := dk_55 5 (dk_at dksX1_reduces_4 4 rfl rfl)
theorem dX1_reduces_100 : decode cX1_reduces 100 = .ok (.aload_n 0, 1) := dk_42 (dk_at dksX1_reduces_4 6 rfl rfl)
theorem dX1_reduces_101 : decode cX1_reduces 101 = .ok (.getfield 68, 3) := dk_180 0 68 (dk_at dksX1_reduces_4 7 rfl rfl)
theorem dX1_reduces_104 : decode cX1_reduces 104 = .ok (.iconst 2, 1) := dk_5 (dk_at dksX1_reduces_4 10 rfl rfl)
theorem dX1_reduces_105 : decode cX1_reduces 105 = .ok (.dup2, 1) := dk_92 (dk_at dksX1_reduces_4 11 rfl rfl)
theorem dX1_reduces_106 : decode cX1_reduces 106 = .ok (.laload, 1) := dk_47 (dk_at dksX1_reduces_4 12 rfl rfl)
theorem dX1_reduces_107 : decode cX1_reduces 107 = .ok (.lload_n 3, 1) := dk_33 (dk_at dksX1_reduces_4 13 rfl rfl)
theorem dX1_reduces_108 : decode cX1_reduces 108 = .ok (.lload 5, 2) := dk_22 5 (dk_at dksX1_reduces_4 14 rfl rfl)
theorem dX1_reduces_110 : decode cX1_reduces 110 = .ok (.lmul, 1) := dk_105 (dk_at dksX1_reduces_4 16 rfl rfl)
theorem dX1_reduces_111 : decode cX1_reduces 111 = .ok (.lload_n 1, 1) := dk_31 (dk_at dksX1_reduces_4 17 rfl rfl)
theorem dX1_reduces_112 : decode cX1_reduces 112 = .ok (.lload 5, 2) := dk_22 5 (dk_at dksX1_reduces_4 18 rfl rfl)
theorem dX1_reduces_114 : decode cX1_reduces 114 = .ok (.lmul, 1) := dk_105 (dk_at dksX1_reduces_4 20 rfl rfl)
theorem dX1_reduces_115 : decode cX1_reduces 115 = .ok (.lload 5, 2) := dk_22 5 (dk_at dksX1_reduces_4 21 rfl rfl)
theorem dX1_reduces_117 : decode cX1_reduces 117 = .ok (.lmul, 1) := dk_105 (dk_at dksX1_reduces_4 23 rfl rfl)
theorem dX1_reduces_118 : decode cX1_reduces 118 = .ok (.ladd, 1) := dk_97 (dk_at dksX1_reduces_5 0 rfl rfl)
theorem dX1_reduces_119 : decode cX1_reduces 119 = .ok (.ladd, 1) := dk_97 (dk_at dksX1_reduces_5 1 rfl rfl)
theorem dX1_reduces_120 : decode cX1_reduces 120 = .ok (.lastore, 1) := dk_80 (dk_at dksX1_reduces_5 2 rfl rfl)
theorem dX1_reduces_121 : decode cX1_reduces 121 = .ok (.aload_n 0, 1) := dk_42 (dk_at dksX1_reduces_5 3 rfl rfl)
theorem dX1_reduces_122 : decode cX1_reduces 122 = .ok (.getfield 68, 3) := dk_180 0 68 (dk_at dksX1_reduces_5 4 rfl rfl)
theorem dX1_reduces_125 : decode cX1_reduces 125 = .ok (.iconst 1, 1) := dk_4 (dk_at dksX1_reduces_5 7 rfl rfl)
theorem dX1_reduces_126 : decode cX1_reduces 126 = .ok (.lload_n 3, 1) := dk_33 (dk_at dksX1_reduces_5 8 rfl rfl)
theorem dX1_reduces_127 : decode cX1_reduces 127 = .ok (.ldc2_w 355, 3) := dk_20 1 99 (dk_at dksX1_reduces_5 9 rfl rfl)
theorem dX1_reduces_130 : decode cX1_reduces 130 = .ok (.lload_n 1, 1) := dk_31 (dk_at dksX1_reduces_5 12 rfl rfl)
theorem dX1_reduces_131 : decode cX1_reduces 131 = .ok (.lmul, 1) := dk_105 (dk_at dksX1_reduces_5 13 rfl rfl)
theorem dX1_reduces_132 : decode cX1_reduces 132 = .ok (.lload 5, 2) := dk_22 5 (dk_at dksX1_reduces_5 14 rfl rfl)
theorem dX1_reduces_134 : decode cX1_reduces 134 = .ok (.lmul, 1) := dk_105 (dk_at dksX1_reduces_5 16 rfl rfl)
theorem dX1_reduces_135 : decode cX1_reduces 135 = .ok (.ladd, 1) := dk_97 (dk_at dksX1_reduces_5 17 rfl rfl)
theorem dX1_reduces_136 : decode cX1_reduces 136 = .ok (.lastore, 1) := dk_80 (dk_at dksX1_reduces_5 18 rfl rfl)
theorem dX1_reduces_137 : decode cX1_reduces 137 = .ok (.aload_n 0, 1) := dk_42 (dk_at dksX1_reduces_5 19 rfl rfl)
theorem dX1_reduces_138 : decode cX1_reduces 138 = .ok (.getfield 72, 3) := dk_180 0 72 (dk_at dksX1_reduces_5 20 rfl rfl)
theorem dX1_reduces_141 : decode cX1_reduces 141 = .ok (.iconst 1, 1) := dk_4 (dk_at dksX1_reduces_5 23 rfl rfl)
theorem dX1_reduces_142 : decode cX1_reduces 142 = .ok (.dup2, 1) := dk_92 (dk_at dksX1_reduces_6 0 rfl rfl)
theorem dX1_reduces_143 : decode cX1_reduces 143 = .ok (.laload, 1) := dk_47 (dk_at dksX1_reduces_6 1 rfl rfl)
theorem dX1_reduces_144 : decode cX1_reduces 144 = .ok (.aload_n 0, 1) := dk_42 (dk_at dksX1_reduces_6 2 rfl rfl)
theorem dX1_reduces_145 : decode cX1_reduces 145 = .ok (.getfield 72, 3) := dk_180 0 72 (dk_at dksX1_reduces_6 3 rfl rfl)
theorem dX1_reduces_148 : decode cX1_reduces 148 = .ok (.iconst 0, 1) := dk_3 (dk_at dksX1_reduces_6 6 rfl rfl)
theorem dX1_reduces_149 : decode cX1_reduces 149 = .ok (.laload, 1) := dk_47 (dk_at dksX1_reduces_6 7 rfl rfl)
theorem dX1_reduces_150 : decode cX1_reduces 150 = .ok (.lload 5, 2) := dk_22 5 (dk_at dksX1_reduces_6 8 rfl rfl)
theorem dX1_reduces_152 : decode cX1_reduces 152 = .ok (.lmul, 1) := dk_105 (dk_at dksX1_reduces_6 10 rfl rfl)
theorem dX1_reduces_153 : decode cX1_reduces 153 = .ok (.ladd, 1) := dk_97 (dk_at dksX1_reduces_6 11 rfl rfl)
theorem dX1_reduces_154 : decode cX1_reduces 154 = .ok (.lastore, 1) := dk_80 (dk_at dksX1_reduces_6 12 rfl rfl)
theorem dX1_reduces_155 : decode cX1_reduces 155 = .ok (.aload_n 0, 1) := dk_42 (dk_at dksX1_reduces_6 13 rfl rfl)
theorem dX1_reduces_156 : decode cX1_reduces 156 = .ok (.getfield 72, 3) := dk_180 0 72 (dk_at dksX1_reduces_6 14 rfl rfl)
theorem dX1_reduces_159 : decode cX1_reduces 159 = .ok (.iconst 3, 1) := dk_6 (dk_at dksX1_reduces_6 17 rfl rfl)
theorem dX1_reduces_160 : decode cX1_reduces 160 = .ok (.dup2, 1) := dk_92 (dk_at dksX1_reduces_6 18 rfl rfl)
theorem dX1_reduces_161 : decode cX1_reduces 161 = .ok (.laload, 1) := dk_47 (dk_at dksX1_reduces_6 19 rfl rfl)
theorem dX1_reduces_162 : decode cX1_reduces 162 = .ok (.aload_n 0, 1) := dk_42 (dk_at dksX1_reduces_6 20 rfl rfl)
theorem dX1_reduces_163 : decode cX1_reduces 163 = .ok (.getfield 72, 3) := dk_180 0 72 (dk_at dksX1_reduces_6 21 rfl rfl)
theorem dX1_reduces_166 : decode cX1_reduces 166 = .ok (.iconst 2, 1) := dk_5 (dk_at dksX1_reduces_7 0 rfl rfl)
theorem dX1_reduces_167 : decode cX1_reduces 167 = .ok (.laload, 1) := dk_47 (dk_at dksX1_reduces_7 1 rfl rfl)
theorem dX1_reduces_168 : decode cX1_reduces 168 = .ok (.lload 5, 2) := dk_22 5 (dk_at dksX1_reduces_7 2 rfl rfl)
theorem dX1_reduces_170 : decode cX1_reduces 170 = .ok (.lmul, 1) := dk_105 (dk_at dksX1_reduces_7 4 rfl rfl)
theorem dX1_reduces_171 : decode cX1_reduces 171 = .ok (.ladd, 1) := dk_97 (dk_at dksX1_reduces_7 5 rfl rfl)
theorem dX1_reduces_172 : decode cX1_reduces 172 = .ok (.lastore, 1) := dk_80 (dk_at dksX1_reduces_7 6 rfl rfl)
theorem dX1_reduces_173 : decode cX1_reduces 173 = .ok (.goto 82, 3) := dk_167 0 82 (dk_at dksX1_reduces_7 7 rfl rfl)
theorem dX1_reduces_176 : decode cX1_reduces 176 = .ok (.aload_n 0, 1) := dk_42 (dk_at dksX1_reduces_7 10 rfl rfl)
theorem dX1_reduces_177 : decode cX1_reduces 177 = .ok (.getfield 68, 3) := dk_180 0 68 (dk_at dksX1_reduces_7 11 rfl rfl)
theorem dX1_reduces_180 : decode cX1_reduces 180 = .ok (.iconst 0, 1) := dk_3 (dk_at dksX1_reduces_7 14 rfl rfl)
theorem dX1_reduces_181 : decode cX1_reduces 181 = .ok (.aload_n 0, 1) := dk_42 (dk_at dksX1_reduces_7 15 rfl rfl)
theorem dX1_reduces_182 : decode cX1_reduces 182 = .ok (.getfield 68, 3) := dk_180 0 68 (dk_at dksX1_reduces_7 16 rfl rfl)
theorem dX1_reduces_185 : decode cX1_reduces 185 = .ok (.iconst 2, 1) := dk_5 (dk_at dksX1_reduces_7 19 rfl rfl)
theorem dX1_reduces_186 : decode cX1_reduces 186 = .ok (.laload, 1) := dk_47 (dk_at dksX1_reduces_7 20 rfl rfl)
theorem dX1_reduces_187 : decode cX1_reduces 187 = .ok (.lastore, 1) := dk_80 (dk_at dksX1_reduces_7 21 rfl rfl)
theorem dX1_reduces_188 : decode cX1_reduces 188 = .ok (.aload_n 0, 1) := dk_42 (dk_at dksX1_reduces_7 22 rfl rfl)
theorem dX1_reduces_189 : decode cX1_reduces 189 = .ok (.getfield 68, 3) := dk_180 0 68 (dk_at dksX1_reduces_8 0 rfl rfl)
theorem dX1_reduces_192 : decode cX1_reduces 192 = .ok (.iconst 1, 1) := dk_4 (dk_at dksX1_reduces_8 3 rfl rfl)
theorem dX1_reduces_193 : decode cX1_reduces 193 = .ok (.lload_n 3, 1) := dk_33 (dk_at dksX1_reduces_8 4 rfl rfl)
theorem dX1_reduces_194 : decode cX1_reduces 194 = .ok (.lneg, 1) := dk_117 (dk_at dksX1_reduces_8 5 rfl rfl)
theorem dX1_reduces_195 : decode cX1_reduces 195 = .ok (.lastore, 1) := dk_80 (dk_at dksX1_reduces_8 6 rfl rfl)
theorem dX1_reduces_196 : decode cX1_reduces 196 = .ok (.aload_n 0, 1) := dk_42 (dk_at dksX1_reduces_8 7 rfl rfl)
theorem dX1_reduces_197 : decode cX1_reduces 197 = .ok (.getfield 68, 3) := dk_180 0 68 (dk_at dksX1_reduces_8 8 rfl rfl)
theorem dX1_reduces_200 : decode cX1_reduces 200 = .ok (.iconst 2, 1) := dk_5 (dk_at dksX1_reduces_8 11 rfl rfl)
theorem dX1_reduces_201 : decode cX1_reduces 201 = .ok (.lload_n 1, 1) := dk_31 (dk_at dksX1_reduces_8 12 rfl rfl)
theorem dX1_reduces_202 : decode cX1_reduces 202 = .ok (.lastore, 1) := dk_80 (dk_at dksX1_reduces_8 13 rfl rfl)
theorem dX1_reduces_203 : decode cX1_reduces 203 = .ok (.iconst 0, 1) := dk_3 (dk_at dksX1_reduces_8 14 rfl rfl)
theorem dX1_reduces_204 : decode cX1_reduces 204 = .ok (.istore 5, 2) := dk_54 5 (dk_at dksX1_reduces_8 15 rfl rfl)
theorem dX1_reduces_206 : decode cX1_reduces 206 = .ok (.iload 5, 2) := dk_21 5 (dk_at dksX1_reduces_8 17 rfl rfl)
theorem dX1_reduces_208 : decode cX1_reduces 208 = .ok (.iconst 4, 1) := dk_7 (dk_at dksX1_reduces_8 19 rfl rfl)
theorem dX1_reduces_209 : decode cX1_reduces 209 = .ok (.if_icmp .ge 46, 3) := dk_162 0 46 (dk_at dksX1_reduces_8 20 rfl rfl)
theorem dX1_reduces_212 : decode cX1_reduces 212 = .ok (.aload_n 0, 1) := dk_42 (dk_at dksX1_reduces_8 23 rfl rfl)
theorem dX1_reduces_213 : decode cX1_reduces 213 = .ok (.getfield 72, 3) := dk_180 0 72 (dk_at dksX1_reduces_9 0 rfl rfl)
theorem dX1_reduces_216 : decode cX1_reduces 216 = .ok (.iload 5, 2) := dk_21 5 (dk_at dksX1_reduces_9 3 rfl rfl)
theorem dX1_reduces_218 : decode cX1_reduces 218 = .ok (.laload, 1) := dk_47 (dk_at dksX1_reduces_9 5 rfl rfl)
theorem dX1_reduces_219 : decode cX1_reduces 219 = .ok (.lstore 6, 2) := dk_55 6 (dk_at dksX1_reduces_9 6 rfl rfl)
theorem dX1_reduces_221 : decode cX1_reduces 221 = .ok (.aload_n 0, 1) := dk_42 (dk_at dksX1_reduces_9 8 rfl rfl)
theorem dX1_reduces_222 : decode cX1_reduces 222 = .ok (.getfield 72, 3) := dk_180 0 72 (dk_at dksX1_reduces_9 9 rfl rfl)
theorem dX1_reduces_225 : decode cX1_reduces 225 = .ok (.iload 5, 2) := dk_21 5 (dk_at dksX1_reduces_9 12 rfl rfl)
theorem dX1_reduces_227 : decode cX1_reduces 227 = .ok (.aload_n 0, 1) := dk_42 (dk_at dksX1_reduces_9 14 rfl rfl)
theorem dX1_reduces_228 : decode cX1_reduces 228 = .ok (.getfield 72, 3) := dk_180 0 72 (dk_at dksX1_reduces_9 15 rfl rfl)
theorem dX1_reduces_231 : decode cX1_reduces 231 = .ok (.iload 5, 2) := dk_21 5 (dk_at dksX1_reduces_9 18 rfl rfl)
theorem dX1_reduces_233 : decode cX1_reduces 233 = .ok (.iconst 1, 1) := dk_4 (dk_at dksX1_reduces_9 20 rfl rfl)
theorem dX1_reduces_234 : decode cX1_reduces 234 = .ok (.iadd, 1) := dk_96 (dk_at dksX1_reduces_9 21 rfl rfl)
theorem dX1_reduces_235 : decode cX1_reduces 235 = .ok (.laload, 1) := dk_47 (dk_at dksX1_reduces_9 22 rfl rfl)
theorem dX1_reduces_236 : decode cX1_reduces 236 = .ok (.lastore, 1) := dk_80 (dk_at dksX1_reduces_9 23 rfl rfl)
theorem dX1_reduces_237 : decode cX1_reduces 237 = .ok (.aload_n 0, 1) := dk_42 (dk_at dksX1_reduces_10 0 rfl rfl)
theorem dX1_reduces_238 : decode cX1_reduces 238 = .ok (.getfield 72, 3) := dk_180 0 72 (dk_at dksX1_reduces_10 1 rfl rfl)
theorem dX1_reduces_241 : decode cX1_reduces 241 = .ok (.iload 5, 2) := dk_21 5 (dk_at dksX1_reduces_10 4 rfl rfl)
theorem dX1_reduces_243 : decode cX1_reduces 243 = .ok (.iconst 1, 1) := dk_4 (dk_at dksX1_reduces_10 6 rfl rfl)
theorem dX1_reduces_244 : decode cX1_reduces 244 = .ok (.iadd, 1) := dk_96 (dk_at dksX1_reduces_10 7 rfl rfl)
theorem dX1_reduces_245 : decode cX1_reduces 245 = .ok (.lload 6, 2) := dk_22 6 (dk_at dksX1_reduces_10 8 rfl rfl)
theorem dX1_reduces_247 : decode cX1_reduces 247 = .ok (.lneg, 1) := dk_117 (dk_at dksX1_reduces_10 10 rfl rfl)
theorem dX1_reduces_248 : decode cX1_reduces 248 = .ok (.lastore, 1) := dk_80 (dk_at dksX1_reduces_10 11 rfl rfl)
theorem dX1_reduces_249 : decode cX1_reduces 249 = .ok (.iinc 5 2, 3) := dk_132 5 2 (dk_at dksX1_reduces_10 12 rfl rfl)
theorem dX1_reduces_252 : decode cX1_reduces 252 = .ok (.goto (-46), 3) := dk_167 255 210 (dk_at dksX1_reduces_10 15 rfl rfl)
theorem dX1_reduces_255 : decode cX1_reduces 255 = .ok (.aload_n 0, 1) := dk_42 (dk_at dksX1_reduces_10 18 rfl rfl)
theorem dX1_reduces_256 : decode cX1_reduces 256 = .ok (.dup, 1) := dk_89 (dk_at dksX1_reduces_10 19 rfl rfl)
theorem dX1_reduces_257 : decode cX1_reduces 257 = .ok (.getfield 349, 3) := dk_180 1 93 (dk_at dksX1_reduces_10 20 rfl rfl)
theorem dX1_reduces_260 : decode cX1_reduces 260 = .ok (.iconst 1, 1) := dk_4 (dk_at dksX1_reduces_10 23 rfl rfl)
theorem dX1_reduces_261 : decode cX1_reduces 261 = .ok (.iadd, 1) := dk_96 (dk_at dksX1_reduces_11 0 rfl rfl)
theorem dX1_reduces_262 : decode cX1_reduces 262 = .ok (.putfield 349, 3) := dk_181 1 93 (dk_at dksX1_reduces_11 1 rfl rfl)
theorem dX1_reduces_265 : decode cX1_reduces 265 = .ok (.goto (-232), 3) := dk_167 255 24 (dk_at dksX1_reduces_11 4 rfl rfl)
theorem dX1_reduces_268 : decode cX1_reduces 268 = .ok (.return_, 1) := dk_177 (dk_at dksX1_reduces_11 7 rfl rfl)
abbrev cX1_isReduced : ByteArray := prog_1_method_63_code
def yX1_isReduced : MethodName := ⟨RX1, "isReduced", "(JJJ)Z"⟩
def dkwX1_isReduced_1 : List UInt8 := [155, 0, 9, 32, 9, 148, 155, 0, 7, 4, 167, 0, 4, 3, 172]
abbrev dktX1_isReduced_1 : List UInt8 := dkwX1_isReduced_1 ++ []
def dkwX1_isReduced_0 : List UInt8 := [32, 30, 117, 148, 158, 0, 33, 32, 30, 148, 157, 0, 27, 30, 22, 4, 148, 157, 0, 20, 30, 22, 4, 148]
abbrev dktX1_isReduced_0 : List UInt8 := dkwX1_isReduced_0 ++ dktX1_isReduced_1
theorem dksX1_isReduced_0 : cX1_isReduced.data.toList.drop 0 = dktX1_isReduced_0 := by decide +kernel
theorem dksX1_isReduced_1 : cX1_isReduced.data.toList.drop 24 = dktX1_isReduced_1 := dk_seg dksX1_isReduced_0 24 rfl rfl
theorem dX1_isReduced_0 : decode cX1_isReduced 0 = .ok (.lload_n 2, 1) := dk_32 (dk_at dksX1_isReduced_0 0 rfl rfl)
theorem dX1_isReduced_1 : decode cX1_isReduced 1 = .ok (.lload_n 0, 1) := dk_30 (dk_at dksX1_isReduced_0 1 rfl rfl)
theorem dX1_isReduced_2 : decode cX1_isReduced 2 = .ok (.lneg, 1) := dk_117 (dk_at dksX1_isReduced_0 2 rfl rfl)
theorem dX1_isReduced_3 : decode cX1_isReduced 3 = .ok (.lcmp, 1) := dk_148 (dk_at dksX1_isReduced_0 3 rfl rfl)
theorem dX1_isReduced_4 : decode cX1_isReduced 4 = .ok (.ifCond .le 33, 3) := dk_158 0 33 (dk_at dksX1_isReduced_0 4 rfl rfl)
theorem dX1_isReduced_7 : decode cX1_isReduced 7 = .ok (.lload_n 2, 1) := dk_32 (dk_at dksX1_isReduced_0 7 rfl rfl)
theorem dX1_isReduced_8 : decode cX1_isReduced 8 = .ok (.lload_n 0, 1) := dk_30 (dk_at dksX1_isReduced_0 8 rfl rfl)
theorem dX1_isReduced_9 : decode cX1_isReduced 9 = .ok (.lcmp, 1) := dk_148 (dk_at dksX1_isReduced_0 9 rfl rfl)
theorem dX1_isReduced_10 : decode cX1_isReduced 10 = .ok (.ifCond .gt 27, 3) := dk_157 0 27 (dk_at dksX1_isReduced_0 10 rfl rfl)
theorem dX1_isReduced_13 : decode cX1_isReduced 13 = .ok (.lload_n 0, 1) := dk_30 (dk_at dksX1_isReduced_0 13 rfl rfl)
theorem dX1_isReduced_14 : decode cX1_isReduced 14 = .ok (.lload 4, 2) := dk_22 4 (dk_at dksX1_isReduced_0 14 rfl rfl)
theorem dX1_isReduced_16 : decode cX1_isReduced 16 = .ok (.lcmp, 1) := dk_148 (dk_at dksX1_isReduced_0 16 rfl rfl)
theorem dX1_isReduced_17 : decode cX1_isReduced 17 = .ok (.ifCond .gt 20, 3) := dk_157 0 20 (dk_at dksX1_isReduced_0 17 rfl rfl)
theorem dX1_isReduced_20 : decode cX1_isReduced 20 = .ok (.lload_n 0, 1) := dk_30 (dk_at dksX1_isReduced_0 20 rfl rfl)
theorem dX1_isReduced_21 : decode cX1_isReduced 21 = .ok (.lload 4, 2) := dk_22 4 (dk_at dksX1_isReduced_0 21 rfl rfl)
theorem dX1_isReduced_23 : decode cX1_isReduced 23 = .ok (.lcmp, 1) := dk_148 (dk_at dksX1_isReduced_0 23 rfl rfl)
theorem dX1_isReduced_24 : decode cX1_isReduced 24 = .ok (.ifCond .lt 9, 3) := dk_155 0 9 (dk_at dksX1_isReduced_1 0 rfl rfl)
theorem dX1_isReduced_27 : decode cX1_isReduced 27 = .ok (.lload_n 2, 1) := dk_32 (dk_at dksX1_isReduced_1 3 rfl rfl)
theorem dX1_isReduced_28 : decode cX1_isReduced 28 = .ok (.lconst 0, 1) := dk_9 (dk_at dksX1_isReduced_1 4 rfl rfl)
theorem dX1_isReduced_29 : decode cX1_isReduced 29 = .ok (.lcmp, 1) := dk_148 (dk_at dksX1_isReduced_1 5 rfl rfl)
theorem dX1_isReduced_30 : decode cX1_isReduced 30 = .ok (.ifCond .lt 7, 3) := dk_155 0 7 (dk_at dksX1_isReduced_1 6 rfl rfl)
theorem dX1_isReduced_33 : decode cX1_isReduced 33 = .ok (.iconst 1, 1) := dk_4 (dk_at dksX1_isReduced_1 9 rfl rfl)
theorem dX1_isReduced_34 : decode cX1_isReduced 34 = .ok (.goto 4, 3) := dk_167 0 4 (dk_at dksX1_isReduced_1 10 rfl rfl)
theorem dX1_isReduced_37 : decode cX1_isReduced 37 = .ok (.iconst 0, 1) := dk_3 (dk_at dksX1_isReduced_1 13 rfl rfl)
theorem dX1_isReduced_38 : decode cX1_isReduced 38 = .ok (.ireturn, 1) := dk_172 (dk_at dksX1_isReduced_1 14 rfl rfl)
abbrev cX1_classes : ByteArray := prog_1_method_69_code
def yX1_classes : MethodName := ⟨RX1, "classes", "(IZ)I"⟩
def dkwX1_classes_0 : List UInt8 := [27, 184, 1, 132, 42, 27, 28, 2, 182, 1, 135, 172]
abbrev dktX1_classes_0 : List UInt8 := dkwX1_classes_0 ++ []
theorem dksX1_classes_0 : cX1_classes.data.toList.drop 0 = dktX1_classes_0 := by decide +kernel
theorem dX1_classes_0 : decode cX1_classes 0 = .ok (.iload_n 1, 1) := dk_27 (dk_at dksX1_classes_0 0 rfl rfl)
theorem dX1_classes_1 : decode cX1_classes 1 = .ok (.invokestatic 388, 3) := dk_184 1 132 (dk_at dksX1_classes_0 1 rfl rfl)
theorem dX1_classes_4 : decode cX1_classes 4 = .ok (.aload_n 0, 1) := dk_42 (dk_at dksX1_classes_0 4 rfl rfl)
theorem dX1_classes_5 : decode cX1_classes 5 = .ok (.iload_n 1, 1) := dk_27 (dk_at dksX1_classes_0 5 rfl rfl)
theorem dX1_classes_6 : decode cX1_classes 6 = .ok (.iload_n 2, 1) := dk_28 (dk_at dksX1_classes_0 6 rfl rfl)
theorem dX1_classes_7 : decode cX1_classes 7 = .ok (.iconst (-1), 1) := dk_2 (dk_at dksX1_classes_0 7 rfl rfl)
theorem dX1_classes_8 : decode cX1_classes 8 = .ok (.invokevirtual 391, 3) := dk_182 1 135 (dk_at dksX1_classes_0 8 rfl rfl)
theorem dX1_classes_11 : decode cX1_classes 11 = .ok (.ireturn, 1) := dk_172 (dk_at dksX1_classes_0 11 rfl rfl)
abbrev cX1_isDisc : ByteArray := prog_1_method_67_code
def yX1_isDisc : MethodName := ⟨RX1, "isDisc", "(I)V"⟩
def dkwX1_isDisc_1 : List UInt8 := [167, 0, 4, 3, 184, 0, 132, 177]
abbrev dktX1_isDisc_1 : List UInt8 := dkwX1_isDisc_1 ++ []
def dkwX1_isDisc_0 : List UInt8 := [26, 133, 20, 1, 122, 20, 1, 124, 184, 0, 97, 153, 0, 16, 26, 7, 184, 1, 126, 5, 162, 0, 7, 4]
abbrev dktX1_isDisc_0 : List UInt8 := dkwX1_isDisc_0 ++ dktX1_isDisc_1
theorem dksX1_isDisc_0 : cX1_isDisc.data.toList.drop 0 = dktX1_isDisc_0 := by decide +kernel
theorem dksX1_isDisc_1 : cX1_isDisc.data.toList.drop 24 = dktX1_isDisc_1 := dk_seg dksX1_isDisc_0 24 rfl rfl
theorem dX1_isDisc_0 : decode cX1_isDisc 0 = .ok (.iload_n 0, 1) := dk_26 (dk_at dksX1_isDisc_0 0 rfl rfl)
theorem dX1_isDisc_1 : decode cX1_isDisc 1 = .ok (.i2l, 1) := dk_133 (dk_at dksX1_isDisc_0 1 rfl rfl)
theorem dX1_isDisc_2 : decode cX1_isDisc 2 = .ok (.ldc2_w 378, 3) := dk_20 1 122 (dk_at dksX1_isDisc_0 2 rfl rfl)
theorem dX1_isDisc_5 : decode cX1_isDisc 5 = .ok (.ldc2_w 380, 3) := dk_20 1 124 (dk_at dksX1_isDisc_0 5 rfl rfl)
theorem dX1_isDisc_8 : decode cX1_isDisc 8 = .ok (.invokestatic 97, 3) := dk_184 0 97 (dk_at dksX1_isDisc_0 8 rfl rfl)
theorem dX1_isDisc_11 : decode cX1_isDisc 11 = .ok (.ifCond .eq 16, 3) := dk_153 0 16 (dk_at dksX1_isDisc_0 11 rfl rfl)
theorem dX1_isDisc_14 : decode cX1_isDisc 14 = .ok (.iload_n 0, 1) := dk_26 (dk_at dksX1_isDisc_0 14 rfl rfl)
theorem dX1_isDisc_15 : decode cX1_isDisc 15 = .ok (.iconst 4, 1) := dk_7 (dk_at dksX1_isDisc_0 15 rfl rfl)
theorem dX1_isDisc_16 : decode cX1_isDisc 16 = .ok (.invokestatic 382, 3) := dk_184 1 126 (dk_at dksX1_isDisc_0 16 rfl rfl)
theorem dX1_isDisc_19 : decode cX1_isDisc 19 = .ok (.iconst 2, 1) := dk_5 (dk_at dksX1_isDisc_0 19 rfl rfl)
theorem dX1_isDisc_20 : decode cX1_isDisc 20 = .ok (.if_icmp .ge 7, 3) := dk_162 0 7 (dk_at dksX1_isDisc_0 20 rfl rfl)
theorem dX1_isDisc_23 : decode cX1_isDisc 23 = .ok (.iconst 1, 1) := dk_4 (dk_at dksX1_isDisc_0 23 rfl rfl)
theorem dX1_isDisc_24 : decode cX1_isDisc 24 = .ok (.goto 4, 3) := dk_167 0 4 (dk_at dksX1_isDisc_1 0 rfl rfl)
theorem dX1_isDisc_27 : decode cX1_isDisc 27 = .ok (.iconst 0, 1) := dk_3 (dk_at dksX1_isDisc_1 3 rfl rfl)
theorem dX1_isDisc_28 : decode cX1_isDisc 28 = .ok (.invokestatic 132, 3) := dk_184 0 132 (dk_at dksX1_isDisc_1 4 rfl rfl)
theorem dX1_isDisc_31 : decode cX1_isDisc 31 = .ok (.return_, 1) := dk_177 (dk_at dksX1_isDisc_1 7 rfl rfl)
abbrev cX1_lists : ByteArray := prog_1_method_68_code
def yX1_lists : MethodName := ⟨RX1, "lists", "(IZI)I"⟩
def dkwX1_lists_6 : List UInt8 := [132, 6, 1, 167, 255, 136, 132, 5, 1, 167, 255, 112, 21, 4, 172]
abbrev dktX1_lists_6 : List UInt8 := dkwX1_lists_6 ++ []
def dkwX1_lists_5 : List UInt8 := [42, 180, 0, 68, 5, 21, 8, 133, 80, 21, 4, 29, 160, 0, 8, 21, 4, 4, 96, 172, 132, 4, 1]
abbrev dktX1_lists_5 : List UInt8 := dkwX1_lists_5 ++ dktX1_lists_6
def dkwX1_lists_4 : List UInt8 := [164, 0, 6, 167, 0, 44, 42, 180, 0, 68, 3, 21, 5, 133, 80, 42, 180, 0, 68, 4, 21, 6, 133, 80]
abbrev dktX1_lists_4 : List UInt8 := dkwX1_lists_4 ++ dktX1_lists_5
def dkwX1_lists_3 : List UInt8 := [184, 1, 96, 153, 0, 67, 28, 154, 0, 22, 21, 5, 21, 6, 184, 1, 129, 21, 8, 184, 1, 129, 4]
abbrev dktX1_lists_3 : List UInt8 := dkwX1_lists_3 ++ dktX1_lists_4
def dkwX1_lists_2 : List UInt8 := [153, 0, 6, 167, 0, 91, 21, 7, 7, 21, 5, 104, 108, 54, 8, 21, 5, 133, 21, 6, 133, 21, 8, 133]
abbrev dktX1_lists_2 : List UInt8 := dkwX1_lists_2 ++ dktX1_lists_3
def dkwX1_lists_1 : List UInt8 := [21, 6, 21, 5, 163, 0, 119, 21, 6, 21, 6, 104, 27, 100, 54, 7, 21, 7, 7, 21, 5, 104, 112]
abbrev dktX1_lists_1 : List UInt8 := dkwX1_lists_1 ++ dktX1_lists_2
def dkwX1_lists_0 : List UInt8 := [3, 54, 4, 4, 54, 5, 6, 21, 5, 104, 21, 5, 104, 27, 116, 163, 0, 138, 4, 21, 5, 100, 54, 6]
abbrev dktX1_lists_0 : List UInt8 := dkwX1_lists_0 ++ dktX1_lists_1
theorem dksX1_lists_0 : cX1_lists.data.toList.drop 0 = dktX1_lists_0 := by decide +kernel
theorem dksX1_lists_1 : cX1_lists.data.toList.drop 24 = dktX1_lists_1 := dk_seg dksX1_lists_0 24 rfl rfl
theorem dksX1_lists_2 : cX1_lists.data.toList.drop 47 = dktX1_lists_2 := dk_seg dksX1_lists_1 23 rfl rfl
theorem dksX1_lists_3 : cX1_lists.data.toList.drop 71 = dktX1_lists_3 := dk_seg dksX1_lists_2 24 rfl rfl
theorem dksX1_lists_4 : cX1_lists.data.toList.drop 94 = dktX1_lists_4 := dk_seg dksX1_lists_3 23 rfl rfl
theorem dksX1_lists_5 : cX1_lists.data.toList.drop 118 = dktX1_lists_5 := dk_seg dksX1_lists_4 24 rfl rfl
theorem dksX1_lists_6 : cX1_lists.data.toList.drop 141 = dktX1_lists_6 := dk_seg dksX1_lists_5 23 rfl rfl
theorem dX1_lists_0 : decode cX1_lists 0 = .ok (.iconst 0, 1) := dk_3 (dk_at dksX1_lists_0 0 rfl rfl)
theorem dX1_lists_1 : decode cX1_lists 1 = .ok (.istore 4, 2) := dk_54 4 (dk_at dksX1_lists_0 1 rfl rfl)
theorem dX1_lists_3 : decode cX1_lists 3 = .ok (.iconst 1, 1) := dk_4 (dk_at dksX1_lists_0 3 rfl rfl)
theorem dX1_lists_4 : decode cX1_lists 4 = .ok (.istore 5, 2) := dk_54 5 (dk_at dksX1_lists_0 4 rfl rfl)
theorem dX1_lists_6 : decode cX1_lists 6 = .ok (.iconst 3, 1) := dk_6 (dk_at dksX1_lists_0 6 rfl rfl)
theorem dX1_lists_7 : decode cX1_lists 7 = .ok (.iload 5, 2) := dk_21 5 (dk_at dksX1_lists_0 7 rfl rfl)
theorem dX1_lists_9 : decode cX1_lists 9 = .ok (.imul, 1) := dk_104 (dk_at dksX1_lists_0 9 rfl rfl)
theorem dX1_lists_10 : decode cX1_lists 10 = .ok (.iload 5, 2) := dk_21 5 (dk_at dksX1_lists_0 10 rfl rfl)
theorem dX1_lists_12 : decode cX1_lists 12 = .ok (.imul, 1) := dk_104 (dk_at dksX1_lists_0 12 rfl rfl)
theorem dX1_lists_13 : decode cX1_lists 13 = .ok (.iload_n 1, 1) := dk_27 (dk_at dksX1_lists_0 13 rfl rfl)
theorem dX1_lists_14 : decode cX1_lists 14 = .ok (.ineg, 1) := dk_116 (dk_at dksX1_lists_0 14 rfl rfl)
theorem dX1_lists_15 : decode cX1_lists 15 = .ok (.if_icmp .gt 138, 3) := dk_163 0 138 (dk_at dksX1_lists_0 15 rfl rfl)
theorem dX1_lists_18 : decode cX1_lists 18 = .ok (.iconst 1, 1) := dk_4 (dk_at dksX1_lists_0 18 rfl rfl)
theorem dX1_lists_19 : decode cX1_lists 19 = .ok (.iload 5, 2) := dk_21 5 (dk_at dksX1_lists_0 19 rfl rfl)
theorem dX1_lists_21 : decode cX1_lists 21 = .ok (.isub, 1) := dk_100 (dk_at dksX1_lists_0 21 rfl rfl)
theorem dX1_lists_22 : decode cX1_lists 22 = .ok (.istore 6, 2) := dk_54 6 (dk_at dksX1_lists_0 22 rfl rfl)
theorem dX1_lists_24 : decode cX1_lists 24 = .ok (.iload 6, 2) := dk_21 6 (dk_at dksX1_lists_1 0 rfl rfl)
theorem dX1_lists_26 : decode cX1_lists 26 = .ok (.iload 5, 2) := dk_21 5 (dk_at dksX1_lists_1 2 rfl rfl)
theorem dX1_lists_28 : decode cX1_lists 28 = .ok (.if_icmp .gt 119, 3) := dk_163 0 119 (dk_at dksX1_lists_1 4 rfl rfl)
theorem dX1_lists_31 : decode cX1_lists 31 = .ok (.iload 6, 2) := dk_21 6 (dk_at dksX1_lists_1 7 rfl rfl)
theorem dX1_lists_33 : decode cX1_lists 33 = .ok (.iload 6, 2) := dk_21 6 (dk_at dksX1_lists_1 9 rfl rfl)
theorem dX1_lists_35 : decode cX1_lists 35 = .ok (.imul, 1) := dk_104 (dk_at dksX1_lists_1 11 rfl rfl)
theorem dX1_lists_36 : decode cX1_lists 36 = .ok (.iload_n 1, 1) := dk_27 (dk_at dksX1_lists_1 12 rfl rfl)
theorem dX1_lists_37 : decode cX1_lists 37 = .ok (.isub, 1) := dk_100 (dk_at dksX1_lists_1 13 rfl rfl)
theorem dX1_lists_38 : decode cX1_lists 38 = .ok (.istore 7, 2) := dk_54 7 (dk_at dksX1_lists_1 14 rfl rfl)
theorem dX1_lists_40 : decode cX1_lists 40 = .ok (.iload 7, 2) := dk_21 7 (dk_at dksX1_lists_1 16 rfl rfl)
theorem dX1_lists_42 : decode cX1_lists 42 = .ok (.iconst 4, 1) := dk_7 (dk_at dksX1_lists_1 18 rfl rfl)
theorem dX1_lists_43 : decode cX1_lists 43 = .ok (.iload 5, 2) := dk_21 5 (dk_at dksX1_lists_1 19 rfl rfl)
theorem dX1_lists_45 : decode cX1_lists 45 = .ok (.imul, 1) := dk_104 (dk_at dksX1_lists_1 21 rfl rfl)
theorem dX1_lists_46 : decode cX1_lists 46 = .ok (.irem, 1) := dk_112 (dk_at dksX1_lists_1 22 rfl rfl)
theorem dX1_lists_47 : decode cX1_lists 47 = .ok (.ifCond .eq 6, 3) := dk_153 0 6 (dk_at dksX1_lists_2 0 rfl rfl)
theorem dX1_lists_50 : decode cX1_lists 50 = .ok (.goto 91, 3) := dk_167 0 91 (dk_at dksX1_lists_2 3 rfl rfl)
theorem dX1_lists_53 : decode cX1_lists 53 = .ok (.iload 7, 2) := dk_21 7 (dk_at dksX1_lists_2 6 rfl rfl)
theorem dX1_lists_55 : decode cX1_lists 55 = .ok (.iconst 4, 1) := dk_7 (dk_at dksX1_lists_2 8 rfl rfl)
theorem dX1_lists_56 : decode cX1_lists 56 = .ok (.iload 5, 2) := dk_21 5 (dk_at dksX1_lists_2 9 rfl rfl)
theorem dX1_lists_58 : decode cX1_lists 58 = .ok (.imul, 1) := dk_104 (dk_at dksX1_lists_2 11 rfl rfl)
theorem dX1_lists_59 : decode cX1_lists 59 = .ok (.idiv, 1) := dk_108 (dk_at dksX1_lists_2 12 rfl rfl)
theorem dX1_lists_60 : decode cX1_lists 60 = .ok (.istore 8, 2) := dk_54 8 (dk_at dksX1_lists_2 13 rfl rfl)
theorem dX1_lists_62 : decode cX1_lists 62 = .ok (.iload 5, 2) := dk_21 5 (dk_at dksX1_lists_2 15 rfl rfl)
theorem dX1_lists_64 : decode cX1_lists 64 = .ok (.i2l, 1) := dk_133 (dk_at dksX1_lists_2 17 rfl rfl)
theorem dX1_lists_65 : decode cX1_lists 65 = .ok (.iload 6, 2) := dk_21 6 (dk_at dksX1_lists_2 18 rfl rfl)
theorem dX1_lists_67 : decode cX1_lists 67 = .ok (.i2l, 1) := dk_133 (dk_at dksX1_lists_2 20 rfl rfl)
theorem dX1_lists_68 : decode cX1_lists 68 = .ok (.iload 8, 2) := dk_21 8 (dk_at dksX1_lists_2 21 rfl rfl)
theorem dX1_lists_70 : decode cX1_lists 70 = .ok (.i2l, 1) := dk_133 (dk_at dksX1_lists_2 23 rfl rfl)
theorem dX1_lists_71 : decode cX1_lists 71 = .ok (.invokestatic 352, 3) := dk_184 1 96 (dk_at dksX1_lists_3 0 rfl rfl)
theorem dX1_lists_74 : decode cX1_lists 74 = .ok (.ifCond .eq 67, 3) := dk_153 0 67 (dk_at dksX1_lists_3 3 rfl rfl)
theorem dX1_lists_77 : decode cX1_lists 77 = .ok (.iload_n 2, 1) := dk_28 (dk_at dksX1_lists_3 6 rfl rfl)
theorem dX1_lists_78 : decode cX1_lists 78 = .ok (.ifCond .ne 22, 3) := dk_154 0 22 (dk_at dksX1_lists_3 7 rfl rfl)
theorem dX1_lists_81 : decode cX1_lists 81 = .ok (.iload 5, 2) := dk_21 5 (dk_at dksX1_lists_3 10 rfl rfl)
theorem dX1_lists_83 : decode cX1_lists 83 = .ok (.iload 6, 2) := dk_21 6 (dk_at dksX1_lists_3 12 rfl rfl)
theorem dX1_lists_85 : decode cX1_lists 85 = .ok (.invokestatic 385, 3) := dk_184 1 129 (dk_at dksX1_lists_3 14 rfl rfl)
theorem dX1_lists_88 : decode cX1_lists 88 = .ok (.iload 8, 2) := dk_21 8 (dk_at dksX1_lists_3 17 rfl rfl)
theorem dX1_lists_90 : decode cX1_lists 90 = .ok (.invokestatic 385, 3) := dk_184 1 129 (dk_at dksX1_lists_3 19 rfl rfl)
theorem dX1_lists_93 : decode cX1_lists 93 = .ok (.iconst 1, 1) := dk_4 (dk_at dksX1_lists_3 22 rfl rfl)
theorem dX1_lists_94 : decode cX1_lists 94 = .ok (.if_icmp .le 6, 3) := dk_164 0 6 (dk_at dksX1_lists_4 0 rfl rfl)
theorem dX1_lists_97 : decode cX1_lists 97 = .ok (.goto 44, 3) := dk_167 0 44 (dk_at dksX1_lists_4 3 rfl rfl)
theorem dX1_lists_100 : decode cX1_lists 100 = .ok (.aload_n 0, 1) := dk_42 (dk_at dksX1_lists_4 6 rfl rfl)
theorem dX1_lists_101 : decode cX1_lists 101 = .ok (.getfield 68, 3) := dk_180 0 68 (dk_at dksX1_lists_4 7 rfl rfl)
theorem dX1_lists_104 : decode cX1_lists 104 = .ok (.iconst 0, 1) := dk_3 (dk_at dksX1_lists_4 10 rfl rfl)
theorem dX1_lists_105 : decode cX1_lists 105 = .ok (.iload 5, 2) := dk_21 5 (dk_at dksX1_lists_4 11 rfl rfl)
theorem dX1_lists_107 : decode cX1_lists 107 = .ok (.i2l, 1) := dk_133 (dk_at dksX1_lists_4 13 rfl rfl)
theorem dX1_lists_108 : decode cX1_lists 108 = .ok (.lastore, 1) := dk_80 (dk_at dksX1_lists_4 14 rfl rfl)
theorem dX1_lists_109 : decode cX1_lists 109 = .ok (.aload_n 0, 1) := dk_42 (dk_at dksX1_lists_4 15 rfl rfl)
theorem dX1_lists_110 : decode cX1_lists 110 = .ok (.getfield 68, 3) := dk_180 0 68 (dk_at dksX1_lists_4 16 rfl rfl)
theorem dX1_lists_113 : decode cX1_lists 113 = .ok (.iconst 1, 1) := dk_4 (dk_at dksX1_lists_4 19 rfl rfl)
theorem dX1_lists_114 : decode cX1_lists 114 = .ok (.iload 6, 2) := dk_21 6 (dk_at dksX1_lists_4 20 rfl rfl)
theorem dX1_lists_116 : decode cX1_lists 116 = .ok (.i2l, 1) := dk_133 (dk_at dksX1_lists_4 22 rfl rfl)
theorem dX1_lists_117 : decode cX1_lists 117 = .ok (.lastore, 1) := dk_80 (dk_at dksX1_lists_4 23 rfl rfl)
theorem dX1_lists_118 : decode cX1_lists 118 = .ok (.aload_n 0, 1) := dk_42 (dk_at dksX1_lists_5 0 rfl rfl)
theorem dX1_lists_119 : decode cX1_lists 119 = .ok (.getfield 68, 3) := dk_180 0 68 (dk_at dksX1_lists_5 1 rfl rfl)
theorem dX1_lists_122 : decode cX1_lists 122 = .ok (.iconst 2, 1) := dk_5 (dk_at dksX1_lists_5 4 rfl rfl)
theorem dX1_lists_123 : decode cX1_lists 123 = .ok (.iload 8, 2) := dk_21 8 (dk_at dksX1_lists_5 5 rfl rfl)
theorem dX1_lists_125 : decode cX1_lists 125 = .ok (.i2l, 1) := dk_133 (dk_at dksX1_lists_5 7 rfl rfl)
theorem dX1_lists_126 : decode cX1_lists 126 = .ok (.lastore, 1) := dk_80 (dk_at dksX1_lists_5 8 rfl rfl)
theorem dX1_lists_127 : decode cX1_lists 127 = .ok (.iload 4, 2) := dk_21 4 (dk_at dksX1_lists_5 9 rfl rfl)
theorem dX1_lists_129 : decode cX1_lists 129 = .ok (.iload_n 3, 1) := dk_29 (dk_at dksX1_lists_5 11 rfl rfl)
theorem dX1_lists_130 : decode cX1_lists 130 = .ok (.if_icmp .ne 8, 3) := dk_160 0 8 (dk_at dksX1_lists_5 12 rfl rfl)
theorem dX1_lists_133 : decode cX1_lists 133 = .ok (.iload 4, 2) := dk_21 4 (dk_at dksX1_lists_5 15 rfl rfl)
theorem dX1_lists_135 : decode cX1_lists 135 = .ok (.iconst 1, 1) := dk_4 (dk_at dksX1_lists_5 17 rfl rfl)
theorem dX1_lists_136 : decode cX1_lists 136 = .ok (.iadd, 1) := dk_96 (dk_at dksX1_lists_5 18 rfl rfl)
theorem dX1_lists_137 : decode cX1_lists 137 = .ok (.ireturn, 1) := dk_172 (dk_at dksX1_lists_5 19 rfl rfl)
theorem dX1_lists_138 : decode cX1_lists 138 = .ok (.iinc 4 1, 3) := dk_132 4 1 (dk_at dksX1_lists_5 20 rfl rfl)
theorem dX1_lists_141 : decode cX1_lists 141 = .ok (.iinc 6 1, 3) := dk_132 6 1 (dk_at dksX1_lists_6 0 rfl rfl)
theorem dX1_lists_144 : decode cX1_lists 144 = .ok (.goto (-120), 3) := dk_167 255 136 (dk_at dksX1_lists_6 3 rfl rfl)
theorem dX1_lists_147 : decode cX1_lists 147 = .ok (.iinc 5 1, 3) := dk_132 5 1 (dk_at dksX1_lists_6 6 rfl rfl)
theorem dX1_lists_150 : decode cX1_lists 150 = .ok (.goto (-144), 3) := dk_167 255 112 (dk_at dksX1_lists_6 9 rfl rfl)
theorem dX1_lists_153 : decode cX1_lists 153 = .ok (.iload 4, 2) := dk_21 4 (dk_at dksX1_lists_6 12 rfl rfl)
theorem dX1_lists_155 : decode cX1_lists 155 = .ok (.ireturn, 1) := dk_172 (dk_at dksX1_lists_6 14 rfl rfl)
abbrev cX1_divisor : ByteArray := prog_1_method_66_code
def yX1_divisor : MethodName := ⟨RX1, "divisor", "(II)I"⟩
def dkwX1_divisor_1 : List UInt8 := [167, 255, 242, 28, 172]
abbrev dktX1_divisor_1 : List UInt8 := dkwX1_divisor_1 ++ []
def dkwX1_divisor_0 : List UInt8 := [26, 184, 1, 119, 61, 27, 184, 1, 119, 62, 29, 153, 0, 16, 28, 29, 112, 54, 4, 29, 61, 21, 4, 62]
abbrev dktX1_divisor_0 : List UInt8 := dkwX1_divisor_0 ++ dktX1_divisor_1
theorem dksX1_divisor_0 : cX1_divisor.data.toList.drop 0 = dktX1_divisor_0 := by decide +kernel
theorem dksX1_divisor_1 : cX1_divisor.data.toList.drop 24 = dktX1_divisor_1 := dk_seg dksX1_divisor_0 24 rfl rfl
theorem dX1_divisor_0 : decode cX1_divisor 0 = .ok (.iload_n 0, 1) := dk_26 (dk_at dksX1_divisor_0 0 rfl rfl)
theorem dX1_divisor_1 : decode cX1_divisor 1 = .ok (.invokestatic 375, 3) := dk_184 1 119 (dk_at dksX1_divisor_0 1 rfl rfl)
theorem dX1_divisor_4 : decode cX1_divisor 4 = .ok (.istore_n 2, 1) := dk_61 (dk_at dksX1_divisor_0 4 rfl rfl)
theorem dX1_divisor_5 : decode cX1_divisor 5 = .ok (.iload_n 1, 1) := dk_27 (dk_at dksX1_divisor_0 5 rfl rfl)
theorem dX1_divisor_6 : decode cX1_divisor 6 = .ok (.invokestatic 375, 3) := dk_184 1 119 (dk_at dksX1_divisor_0 6 rfl rfl)
theorem dX1_divisor_9 : decode cX1_divisor 9 = .ok (.istore_n 3, 1) := dk_62 (dk_at dksX1_divisor_0 9 rfl rfl)
theorem dX1_divisor_10 : decode cX1_divisor 10 = .ok (.iload_n 3, 1) := dk_29 (dk_at dksX1_divisor_0 10 rfl rfl)
theorem dX1_divisor_11 : decode cX1_divisor 11 = .ok (.ifCond .eq 16, 3) := dk_153 0 16 (dk_at dksX1_divisor_0 11 rfl rfl)
theorem dX1_divisor_14 : decode cX1_divisor 14 = .ok (.iload_n 2, 1) := dk_28 (dk_at dksX1_divisor_0 14 rfl rfl)
theorem dX1_divisor_15 : decode cX1_divisor 15 = .ok (.iload_n 3, 1) := dk_29 (dk_at dksX1_divisor_0 15 rfl rfl)
theorem dX1_divisor_16 : decode cX1_divisor 16 = .ok (.irem, 1) := dk_112 (dk_at dksX1_divisor_0 16 rfl rfl)
theorem dX1_divisor_17 : decode cX1_divisor 17 = .ok (.istore 4, 2) := dk_54 4 (dk_at dksX1_divisor_0 17 rfl rfl)
theorem dX1_divisor_19 : decode cX1_divisor 19 = .ok (.iload_n 3, 1) := dk_29 (dk_at dksX1_divisor_0 19 rfl rfl)
theorem dX1_divisor_20 : decode cX1_divisor 20 = .ok (.istore_n 2, 1) := dk_61 (dk_at dksX1_divisor_0 20 rfl rfl)
theorem dX1_divisor_21 : decode cX1_divisor 21 = .ok (.iload 4, 2) := dk_21 4 (dk_at dksX1_divisor_0 21 rfl rfl)
theorem dX1_divisor_23 : decode cX1_divisor 23 = .ok (.istore_n 3, 1) := dk_62 (dk_at dksX1_divisor_0 23 rfl rfl)
theorem dX1_divisor_24 : decode cX1_divisor 24 = .ok (.goto (-14), 3) := dk_167 255 242 (dk_at dksX1_divisor_1 0 rfl rfl)
theorem dX1_divisor_27 : decode cX1_divisor 27 = .ok (.iload_n 2, 1) := dk_28 (dk_at dksX1_divisor_1 3 rfl rfl)
theorem dX1_divisor_28 : decode cX1_divisor 28 = .ok (.ireturn, 1) := dk_172 (dk_at dksX1_divisor_1 4 rfl rfl)
abbrev cX1_reducedAt : ByteArray := prog_1_method_70_code
def yX1_reducedAt : MethodName := ⟨RX1, "reducedAt", "(III)I"⟩
def dkwX1_reducedAt_2 : List UInt8 := [180, 0, 68, 29, 47, 136, 172]
abbrev dktX1_reducedAt_2 : List UInt8 := dkwX1_reducedAt_2 ++ []
def dkwX1_reducedAt_1 : List UInt8 := [184, 0, 97, 184, 1, 111, 42, 27, 3, 28, 182, 1, 135, 28, 163, 0, 9, 17, 216, 241, 167, 0, 10, 42]
abbrev dktX1_reducedAt_1 : List UInt8 := dkwX1_reducedAt_1 ++ dktX1_reducedAt_2
def dkwX1_reducedAt_0 : List UInt8 := [27, 184, 1, 132, 28, 155, 0, 7, 4, 167, 0, 4, 3, 184, 0, 132, 29, 133, 9, 20, 1, 99]
abbrev dktX1_reducedAt_0 : List UInt8 := dkwX1_reducedAt_0 ++ dktX1_reducedAt_1
theorem dksX1_reducedAt_0 : cX1_reducedAt.data.toList.drop 0 = dktX1_reducedAt_0 := by decide +kernel
theorem dksX1_reducedAt_1 : cX1_reducedAt.data.toList.drop 22 = dktX1_reducedAt_1 := dk_seg dksX1_reducedAt_0 22 rfl rfl
theorem dksX1_reducedAt_2 : cX1_reducedAt.data.toList.drop 46 = dktX1_reducedAt_2 := dk_seg dksX1_reducedAt_1 24 rfl rfl
theorem dX1_reducedAt_0 : decode cX1_reducedAt 0 = .ok (.iload_n 1, 1) := dk_27 (dk_at dksX1_reducedAt_0 0 rfl rfl)
theorem dX1_reducedAt_1 : decode cX1_reducedAt 1 = .ok (.invokestatic 388, 3) := dk_184 1 132 (dk_at dksX1_reducedAt_0 1 rfl rfl)
theorem dX1_reducedAt_4 : decode cX1_reducedAt 4 = .ok (.iload_n 2, 1) := dk_28 (dk_at dksX1_reducedAt_0 4 rfl rfl)
theorem dX1_reducedAt_5 : decode cX1_reducedAt 5 = .ok (.ifCond .lt 7, 3) := dk_155 0 7 (dk_at dksX1_reducedAt_0 5 rfl rfl)
theorem dX1_reducedAt_8 : decode cX1_reducedAt 8 = .ok (.iconst 1, 1) := dk_4 (dk_at dksX1_reducedAt_0 8 rfl rfl)
theorem dX1_reducedAt_9 : decode cX1_reducedAt 9 = .ok (.goto 4, 3) := dk_167 0 4 (dk_at dksX1_reducedAt_0 9 rfl rfl)
theorem dX1_reducedAt_12 : decode cX1_reducedAt 12 = .ok (.iconst 0, 1) := dk_3 (dk_at dksX1_reducedAt_0 12 rfl rfl)
theorem dX1_reducedAt_13 : decode cX1_reducedAt 13 = .ok (.invokestatic 132, 3) := dk_184 0 132 (dk_at dksX1_reducedAt_0 13 rfl rfl)
theorem dX1_reducedAt_16 : decode cX1_reducedAt 16 = .ok (.iload_n 3, 1) := dk_29 (dk_at dksX1_reducedAt_0 16 rfl rfl)
theorem dX1_reducedAt_17 : decode cX1_reducedAt 17 = .ok (.i2l, 1) := dk_133 (dk_at dksX1_reducedAt_0 17 rfl rfl)
theorem dX1_reducedAt_18 : decode cX1_reducedAt 18 = .ok (.lconst 0, 1) := dk_9 (dk_at dksX1_reducedAt_0 18 rfl rfl)
theorem dX1_reducedAt_19 : decode cX1_reducedAt 19 = .ok (.ldc2_w 355, 3) := dk_20 1 99 (dk_at dksX1_reducedAt_0 19 rfl rfl)
theorem dX1_reducedAt_22 : decode cX1_reducedAt 22 = .ok (.invokestatic 97, 3) := dk_184 0 97 (dk_at dksX1_reducedAt_1 0 rfl rfl)
theorem dX1_reducedAt_25 : decode cX1_reducedAt 25 = .ok (.invokestatic 367, 3) := dk_184 1 111 (dk_at dksX1_reducedAt_1 3 rfl rfl)
theorem dX1_reducedAt_28 : decode cX1_reducedAt 28 = .ok (.aload_n 0, 1) := dk_42 (dk_at dksX1_reducedAt_1 6 rfl rfl)
theorem dX1_reducedAt_29 : decode cX1_reducedAt 29 = .ok (.iload_n 1, 1) := dk_27 (dk_at dksX1_reducedAt_1 7 rfl rfl)
theorem dX1_reducedAt_30 : decode cX1_reducedAt 30 = .ok (.iconst 0, 1) := dk_3 (dk_at dksX1_reducedAt_1 8 rfl rfl)
theorem dX1_reducedAt_31 : decode cX1_reducedAt 31 = .ok (.iload_n 2, 1) := dk_28 (dk_at dksX1_reducedAt_1 9 rfl rfl)
theorem dX1_reducedAt_32 : decode cX1_reducedAt 32 = .ok (.invokevirtual 391, 3) := dk_182 1 135 (dk_at dksX1_reducedAt_1 10 rfl rfl)
theorem dX1_reducedAt_35 : decode cX1_reducedAt 35 = .ok (.iload_n 2, 1) := dk_28 (dk_at dksX1_reducedAt_1 13 rfl rfl)
theorem dX1_reducedAt_36 : decode cX1_reducedAt 36 = .ok (.if_icmp .gt 9, 3) := dk_163 0 9 (dk_at dksX1_reducedAt_1 14 rfl rfl)
theorem dX1_reducedAt_39 : decode cX1_reducedAt 39 = .ok (.sipush (-9999), 3) := dk_17 216 241 (dk_at dksX1_reducedAt_1 17 rfl rfl)
theorem dX1_reducedAt_42 : decode cX1_reducedAt 42 = .ok (.goto 10, 3) := dk_167 0 10 (dk_at dksX1_reducedAt_1 20 rfl rfl)
theorem dX1_reducedAt_45 : decode cX1_reducedAt 45 = .ok (.aload_n 0, 1) := dk_42 (dk_at dksX1_reducedAt_1 23 rfl rfl)
theorem dX1_reducedAt_46 : decode cX1_reducedAt 46 = .ok (.getfield 68, 3) := dk_180 0 68 (dk_at dksX1_reducedAt_2 0 rfl rfl)
theorem dX1_reducedAt_49 : decode cX1_reducedAt 49 = .ok (.iload_n 3, 1) := dk_29 (dk_at dksX1_reducedAt_2 3 rfl rfl)
theorem dX1_reducedAt_50 : decode cX1_reducedAt 50 = .ok (.laload, 1) := dk_47 (dk_at dksX1_reducedAt_2 4 rfl rfl)
theorem dX1_reducedAt_51 : decode cX1_reducedAt 51 = .ok (.l2i, 1) := dk_136 (dk_at dksX1_reducedAt_2 5 rfl rfl)
theorem dX1_reducedAt_52 : decode cX1_reducedAt 52 = .ok (.ireturn, 1) := dk_172 (dk_at dksX1_reducedAt_2 6 rfl rfl)
abbrev cX1_real : ByteArray := prog_1_method_73_code
def yX1_real : MethodName := ⟨RX1, "real", "(IIIII)I"⟩
def dkwX1_real_5 : List UInt8 := [167, 0, 18, 27, 133, 28, 133, 29, 133, 21, 4, 133, 21, 5, 133, 184, 1, 157, 172]
abbrev dktX1_real_5 : List UInt8 := dkwX1_real_5 ++ []
def dkwX1_real_4 : List UInt8 := [167, 0, 4, 3, 184, 0, 132, 27, 154, 0, 19, 28, 133, 29, 133, 21, 4, 133, 21, 5, 133, 184, 1, 153]
abbrev dktX1_real_4 : List UInt8 := dkwX1_real_4 ++ dktX1_real_5
def dkwX1_real_3 : List UInt8 := [153, 0, 7, 4, 167, 0, 4, 3, 54, 6, 21, 6, 153, 0, 15, 27, 154, 0, 7, 28, 153, 0, 7, 4]
abbrev dktX1_real_3 : List UInt8 := dkwX1_real_3 ++ dktX1_real_4
def dkwX1_real_2 : List UInt8 := [20, 1, 149, 20, 1, 151, 184, 0, 97, 153, 0, 22, 21, 5, 133, 20, 1, 149, 20, 1, 151, 184, 0, 97]
abbrev dktX1_real_2 : List UInt8 := dkwX1_real_2 ++ dktX1_real_3
def dkwX1_real_1 : List UInt8 := [184, 0, 97, 153, 0, 51, 29, 133, 20, 1, 149, 20, 1, 151, 184, 0, 97, 153, 0, 37, 21, 4, 133]
abbrev dktX1_real_1 : List UInt8 := dkwX1_real_1 ++ dktX1_real_2
def dkwX1_real_0 : List UInt8 := [27, 133, 20, 1, 149, 20, 1, 151, 184, 0, 97, 153, 0, 65, 28, 133, 20, 1, 149, 20, 1, 151]
abbrev dktX1_real_0 : List UInt8 := dkwX1_real_0 ++ dktX1_real_1
theorem dksX1_real_0 : cX1_real.data.toList.drop 0 = dktX1_real_0 := by decide +kernel
theorem dksX1_real_1 : cX1_real.data.toList.drop 22 = dktX1_real_1 := dk_seg dksX1_real_0 22 rfl rfl
theorem dksX1_real_2 : cX1_real.data.toList.drop 45 = dktX1_real_2 := dk_seg dksX1_real_1 23 rfl rfl
theorem dksX1_real_3 : cX1_real.data.toList.drop 69 = dktX1_real_3 := dk_seg dksX1_real_2 24 rfl rfl
theorem dksX1_real_4 : cX1_real.data.toList.drop 93 = dktX1_real_4 := dk_seg dksX1_real_3 24 rfl rfl
theorem dksX1_real_5 : cX1_real.data.toList.drop 117 = dktX1_real_5 := dk_seg dksX1_real_4 24 rfl rfl
theorem dX1_real_0 : decode cX1_real 0 = .ok (.iload_n 1, 1) := dk_27 (dk_at dksX1_real_0 0 rfl rfl)
theorem dX1_real_1 : decode cX1_real 1 = .ok (.i2l, 1) := dk_133 (dk_at dksX1_real_0 1 rfl rfl)
theorem dX1_real_2 : decode cX1_real 2 = .ok (.ldc2_w 405, 3) := dk_20 1 149 (dk_at dksX1_real_0 2 rfl rfl)
theorem dX1_real_5 : decode cX1_real 5 = .ok (.ldc2_w 407, 3) := dk_20 1 151 (dk_at dksX1_real_0 5 rfl rfl)
theorem dX1_real_8 : decode cX1_real 8 = .ok (.invokestatic 97, 3) := dk_184 0 97 (dk_at dksX1_real_0 8 rfl rfl)
theorem dX1_real_11 : decode cX1_real 11 = .ok (.ifCond .eq 65, 3) := dk_153 0 65 (dk_at dksX1_real_0 11 rfl rfl)
theorem dX1_real_14 : decode cX1_real 14 = .ok (.iload_n 2, 1) := dk_28 (dk_at dksX1_real_0 14 rfl rfl)
theorem dX1_real_15 : decode cX1_real 15 = .ok (.i2l, 1) := dk_133 (dk_at dksX1_real_0 15 rfl rfl)
theorem dX1_real_16 : decode cX1_real 16 = .ok (.ldc2_w 405, 3) := dk_20 1 149 (dk_at dksX1_real_0 16 rfl rfl)
theorem dX1_real_19 : decode cX1_real 19 = .ok (.ldc2_w 407, 3) := dk_20 1 151 (dk_at dksX1_real_0 19 rfl rfl)
theorem dX1_real_22 : decode cX1_real 22 = .ok (.invokestatic 97, 3) := dk_184 0 97 (dk_at dksX1_real_1 0 rfl rfl)
theorem dX1_real_25 : decode cX1_real 25 = .ok (.ifCond .eq 51, 3) := dk_153 0 51 (dk_at dksX1_real_1 3 rfl rfl)
theorem dX1_real_28 : decode cX1_real 28 = .ok (.iload_n 3, 1) := dk_29 (dk_at dksX1_real_1 6 rfl rfl)
theorem dX1_real_29 : decode cX1_real 29 = .ok (.i2l, 1) := dk_133 (dk_at dksX1_real_1 7 rfl rfl)
theorem dX1_real_30 : decode cX1_real 30 = .ok (.ldc2_w 405, 3) := dk_20 1 149 (dk_at dksX1_real_1 8 rfl rfl)
theorem dX1_real_33 : decode cX1_real 33 = .ok (.ldc2_w 407, 3) := dk_20 1 151 (dk_at dksX1_real_1 11 rfl rfl)
theorem dX1_real_36 : decode cX1_real 36 = .ok (.invokestatic 97, 3) := dk_184 0 97 (dk_at dksX1_real_1 14 rfl rfl)
theorem dX1_real_39 : decode cX1_real 39 = .ok (.ifCond .eq 37, 3) := dk_153 0 37 (dk_at dksX1_real_1 17 rfl rfl)
theorem dX1_real_42 : decode cX1_real 42 = .ok (.iload 4, 2) := dk_21 4 (dk_at dksX1_real_1 20 rfl rfl)
theorem dX1_real_44 : decode cX1_real 44 = .ok (.i2l, 1) := dk_133 (dk_at dksX1_real_1 22 rfl rfl)
theorem dX1_real_45 : decode cX1_real 45 = .ok (.ldc2_w 405, 3) := dk_20 1 149 (dk_at dksX1_real_2 0 rfl rfl)
theorem dX1_real_48 : decode cX1_real 48 = .ok (.ldc2_w 407, 3) := dk_20 1 151 (dk_at dksX1_real_2 3 rfl rfl)
theorem dX1_real_51 : decode cX1_real 51 = .ok (.invokestatic 97, 3) := dk_184 0 97 (dk_at dksX1_real_2 6 rfl rfl)
theorem dX1_real_54 : decode cX1_real 54 = .ok (.ifCond .eq 22, 3) := dk_153 0 22 (dk_at dksX1_real_2 9 rfl rfl)
theorem dX1_real_57 : decode cX1_real 57 = .ok (.iload 5, 2) := dk_21 5 (dk_at dksX1_real_2 12 rfl rfl)
theorem dX1_real_59 : decode cX1_real 59 = .ok (.i2l, 1) := dk_133 (dk_at dksX1_real_2 14 rfl rfl)
theorem dX1_real_60 : decode cX1_real 60 = .ok (.ldc2_w 405, 3) := dk_20 1 149 (dk_at dksX1_real_2 15 rfl rfl)
theorem dX1_real_63 : decode cX1_real 63 = .ok (.ldc2_w 407, 3) := dk_20 1 151 (dk_at dksX1_real_2 18 rfl rfl)
theorem dX1_real_66 : decode cX1_real 66 = .ok (.invokestatic 97, 3) := dk_184 0 97 (dk_at dksX1_real_2 21 rfl rfl)
theorem dX1_real_69 : decode cX1_real 69 = .ok (.ifCond .eq 7, 3) := dk_153 0 7 (dk_at dksX1_real_3 0 rfl rfl)
theorem dX1_real_72 : decode cX1_real 72 = .ok (.iconst 1, 1) := dk_4 (dk_at dksX1_real_3 3 rfl rfl)
theorem dX1_real_73 : decode cX1_real 73 = .ok (.goto 4, 3) := dk_167 0 4 (dk_at dksX1_real_3 4 rfl rfl)
theorem dX1_real_76 : decode cX1_real 76 = .ok (.iconst 0, 1) := dk_3 (dk_at dksX1_real_3 7 rfl rfl)
theorem dX1_real_77 : decode cX1_real 77 = .ok (.istore 6, 2) := dk_54 6 (dk_at dksX1_real_3 8 rfl rfl)
theorem dX1_real_79 : decode cX1_real 79 = .ok (.iload 6, 2) := dk_21 6 (dk_at dksX1_real_3 10 rfl rfl)
theorem dX1_real_81 : decode cX1_real 81 = .ok (.ifCond .eq 15, 3) := dk_153 0 15 (dk_at dksX1_real_3 12 rfl rfl)
theorem dX1_real_84 : decode cX1_real 84 = .ok (.iload_n 1, 1) := dk_27 (dk_at dksX1_real_3 15 rfl rfl)
theorem dX1_real_85 : decode cX1_real 85 = .ok (.ifCond .ne 7, 3) := dk_154 0 7 (dk_at dksX1_real_3 16 rfl rfl)
theorem dX1_real_88 : decode cX1_real 88 = .ok (.iload_n 2, 1) := dk_28 (dk_at dksX1_real_3 19 rfl rfl)
theorem dX1_real_89 : decode cX1_real 89 = .ok (.ifCond .eq 7, 3) := dk_153 0 7 (dk_at dksX1_real_3 20 rfl rfl)
theorem dX1_real_92 : decode cX1_real 92 = .ok (.iconst 1, 1) := dk_4 (dk_at dksX1_real_3 23 rfl rfl)
theorem dX1_real_93 : decode cX1_real 93 = .ok (.goto 4, 3) := dk_167 0 4 (dk_at dksX1_real_4 0 rfl rfl)
theorem dX1_real_96 : decode cX1_real 96 = .ok (.iconst 0, 1) := dk_3 (dk_at dksX1_real_4 3 rfl rfl)
theorem dX1_real_97 : decode cX1_real 97 = .ok (.invokestatic 132, 3) := dk_184 0 132 (dk_at dksX1_real_4 4 rfl rfl)
theorem dX1_real_100 : decode cX1_real 100 = .ok (.iload_n 1, 1) := dk_27 (dk_at dksX1_real_4 7 rfl rfl)
theorem dX1_real_101 : decode cX1_real 101 = .ok (.ifCond .ne 19, 3) := dk_154 0 19 (dk_at dksX1_real_4 8 rfl rfl)
theorem dX1_real_104 : decode cX1_real 104 = .ok (.iload_n 2, 1) := dk_28 (dk_at dksX1_real_4 11 rfl rfl)
theorem dX1_real_105 : decode cX1_real 105 = .ok (.i2l, 1) := dk_133 (dk_at dksX1_real_4 12 rfl rfl)
theorem dX1_real_106 : decode cX1_real 106 = .ok (.iload_n 3, 1) := dk_29 (dk_at dksX1_real_4 13 rfl rfl)
theorem dX1_real_107 : decode cX1_real 107 = .ok (.i2l, 1) := dk_133 (dk_at dksX1_real_4 14 rfl rfl)
theorem dX1_real_108 : decode cX1_real 108 = .ok (.iload 4, 2) := dk_21 4 (dk_at dksX1_real_4 15 rfl rfl)
theorem dX1_real_110 : decode cX1_real 110 = .ok (.i2l, 1) := dk_133 (dk_at dksX1_real_4 17 rfl rfl)
theorem dX1_real_111 : decode cX1_real 111 = .ok (.iload 5, 2) := dk_21 5 (dk_at dksX1_real_4 18 rfl rfl)
theorem dX1_real_113 : decode cX1_real 113 = .ok (.i2l, 1) := dk_133 (dk_at dksX1_real_4 20 rfl rfl)
theorem dX1_real_114 : decode cX1_real 114 = .ok (.invokestatic 409, 3) := dk_184 1 153 (dk_at dksX1_real_4 21 rfl rfl)
theorem dX1_real_117 : decode cX1_real 117 = .ok (.goto 18, 3) := dk_167 0 18 (dk_at dksX1_real_5 0 rfl rfl)
theorem dX1_real_120 : decode cX1_real 120 = .ok (.iload_n 1, 1) := dk_27 (dk_at dksX1_real_5 3 rfl rfl)
theorem dX1_real_121 : decode cX1_real 121 = .ok (.i2l, 1) := dk_133 (dk_at dksX1_real_5 4 rfl rfl)
theorem dX1_real_122 : decode cX1_real 122 = .ok (.iload_n 2, 1) := dk_28 (dk_at dksX1_real_5 5 rfl rfl)
theorem dX1_real_123 : decode cX1_real 123 = .ok (.i2l, 1) := dk_133 (dk_at dksX1_real_5 6 rfl rfl)
theorem dX1_real_124 : decode cX1_real 124 = .ok (.iload_n 3, 1) := dk_29 (dk_at dksX1_real_5 7 rfl rfl)
theorem dX1_real_125 : decode cX1_real 125 = .ok (.i2l, 1) := dk_133 (dk_at dksX1_real_5 8 rfl rfl)
theorem dX1_real_126 : decode cX1_real 126 = .ok (.iload 4, 2) := dk_21 4 (dk_at dksX1_real_5 9 rfl rfl)
theorem dX1_real_128 : decode cX1_real 128 = .ok (.i2l, 1) := dk_133 (dk_at dksX1_real_5 11 rfl rfl)
theorem dX1_real_129 : decode cX1_real 129 = .ok (.iload 5, 2) := dk_21 5 (dk_at dksX1_real_5 12 rfl rfl)
theorem dX1_real_131 : decode cX1_real 131 = .ok (.i2l, 1) := dk_133 (dk_at dksX1_real_5 14 rfl rfl)
theorem dX1_real_132 : decode cX1_real 132 = .ok (.invokestatic 413, 3) := dk_184 1 157 (dk_at dksX1_real_5 15 rfl rfl)
theorem dX1_real_135 : decode cX1_real 135 = .ok (.ireturn, 1) := dk_172 (dk_at dksX1_real_5 18 rfl rfl)
abbrev cX1_cubic : ByteArray := prog_1_method_71_code
def yX1_cubic : MethodName := ⟨RX1, "cubic", "(JJJJ)I"⟩
def dkwX1_cubic_4 : List UInt8 := [30, 105, 22, 4, 105, 148, 154, 0, 7, 4, 167, 0, 4, 5, 172]
abbrev dktX1_cubic_4 : List UInt8 := dkwX1_cubic_4 ++ []
def dkwX1_cubic_3 : List UInt8 := [158, 0, 7, 6, 167, 0, 34, 22, 8, 9, 148, 156, 0, 7, 4, 167, 0, 23, 32, 32, 105, 20, 1, 45]
abbrev dktX1_cubic_3 : List UInt8 := dkwX1_cubic_3 ++ dktX1_cubic_4
def dkwX1_cubic_2 : List UInt8 := [22, 4, 105, 101, 20, 1, 141, 30, 105, 30, 105, 22, 6, 105, 22, 6, 105, 101, 55, 8, 22, 8, 9, 148]
abbrev dktX1_cubic_2 : List UInt8 := dkwX1_cubic_2 ++ dktX1_cubic_3
def dkwX1_cubic_1 : List UInt8 := [105, 101, 32, 32, 105, 22, 4, 105, 22, 4, 105, 97, 20, 1, 109, 30, 105, 22, 4, 105, 22, 4, 105]
abbrev dktX1_cubic_1 : List UInt8 := dkwX1_cubic_1 ++ dktX1_cubic_2
def dkwX1_cubic_0 : List UInt8 := [20, 1, 139, 30, 105, 32, 105, 22, 4, 105, 22, 6, 105, 20, 1, 109, 32, 105, 32, 105, 32, 105, 22, 6]
abbrev dktX1_cubic_0 : List UInt8 := dkwX1_cubic_0 ++ dktX1_cubic_1
theorem dksX1_cubic_0 : cX1_cubic.data.toList.drop 0 = dktX1_cubic_0 := by decide +kernel
theorem dksX1_cubic_1 : cX1_cubic.data.toList.drop 24 = dktX1_cubic_1 := dk_seg dksX1_cubic_0 24 rfl rfl
theorem dksX1_cubic_2 : cX1_cubic.data.toList.drop 47 = dktX1_cubic_2 := dk_seg dksX1_cubic_1 23 rfl rfl
theorem dksX1_cubic_3 : cX1_cubic.data.toList.drop 71 = dktX1_cubic_3 := dk_seg dksX1_cubic_2 24 rfl rfl
theorem dksX1_cubic_4 : cX1_cubic.data.toList.drop 95 = dktX1_cubic_4 := dk_seg dksX1_cubic_3 24 rfl rfl
theorem dX1_cubic_0 : decode cX1_cubic 0 = .ok (.ldc2_w 395, 3) := dk_20 1 139 (dk_at dksX1_cubic_0 0 rfl rfl)
theorem dX1_cubic_3 : decode cX1_cubic 3 = .ok (.lload_n 0, 1) := dk_30 (dk_at dksX1_cubic_0 3 rfl rfl)
theorem dX1_cubic_4 : decode cX1_cubic 4 = .ok (.lmul, 1) := dk_105 (dk_at dksX1_cubic_0 4 rfl rfl)
theorem dX1_cubic_5 : decode cX1_cubic 5 = .ok (.lload_n 2, 1) := dk_32 (dk_at dksX1_cubic_0 5 rfl rfl)
theorem dX1_cubic_6 : decode cX1_cubic 6 = .ok (.lmul, 1) := dk_105 (dk_at dksX1_cubic_0 6 rfl rfl)
theorem dX1_cubic_7 : decode cX1_cubic 7 = .ok (.lload 4, 2) := dk_22 4 (dk_at dksX1_cubic_0 7 rfl rfl)
theorem dX1_cubic_9 : decode cX1_cubic 9 = .ok (.lmul, 1) := dk_105 (dk_at dksX1_cubic_0 9 rfl rfl)
theorem dX1_cubic_10 : decode cX1_cubic 10 = .ok (.lload 6, 2) := dk_22 6 (dk_at dksX1_cubic_0 10 rfl rfl)
theorem dX1_cubic_12 : decode cX1_cubic 12 = .ok (.lmul, 1) := dk_105 (dk_at dksX1_cubic_0 12 rfl rfl)
theorem dX1_cubic_13 : decode cX1_cubic 13 = .ok (.ldc2_w 365, 3) := dk_20 1 109 (dk_at dksX1_cubic_0 13 rfl rfl)
theorem dX1_cubic_16 : decode cX1_cubic 16 = .ok (.lload_n 2, 1) := dk_32 (dk_at dksX1_cubic_0 16 rfl rfl)
theorem dX1_cubic_17 : decode cX1_cubic 17 = .ok (.lmul, 1) := dk_105 (dk_at dksX1_cubic_0 17 rfl rfl)
theorem dX1_cubic_18 : decode cX1_cubic 18 = .ok (.lload_n 2, 1) := dk_32 (dk_at dksX1_cubic_0 18 rfl rfl)
theorem dX1_cubic_19 : decode cX1_cubic 19 = .ok (.lmul, 1) := dk_105 (dk_at dksX1_cubic_0 19 rfl rfl)
theorem dX1_cubic_20 : decode cX1_cubic 20 = .ok (.lload_n 2, 1) := dk_32 (dk_at dksX1_cubic_0 20 rfl rfl)
theorem dX1_cubic_21 : decode cX1_cubic 21 = .ok (.lmul, 1) := dk_105 (dk_at dksX1_cubic_0 21 rfl rfl)
theorem dX1_cubic_22 : decode cX1_cubic 22 = .ok (.lload 6, 2) := dk_22 6 (dk_at dksX1_cubic_0 22 rfl rfl)
theorem dX1_cubic_24 : decode cX1_cubic 24 = .ok (.lmul, 1) := dk_105 (dk_at dksX1_cubic_1 0 rfl rfl)
theorem dX1_cubic_25 : decode cX1_cubic 25 = .ok (.lsub, 1) := dk_101 (dk_at dksX1_cubic_1 1 rfl rfl)
theorem dX1_cubic_26 : decode cX1_cubic 26 = .ok (.lload_n 2, 1) := dk_32 (dk_at dksX1_cubic_1 2 rfl rfl)
theorem dX1_cubic_27 : decode cX1_cubic 27 = .ok (.lload_n 2, 1) := dk_32 (dk_at dksX1_cubic_1 3 rfl rfl)
theorem dX1_cubic_28 : decode cX1_cubic 28 = .ok (.lmul, 1) := dk_105 (dk_at dksX1_cubic_1 4 rfl rfl)
theorem dX1_cubic_29 : decode cX1_cubic 29 = .ok (.lload 4, 2) := dk_22 4 (dk_at dksX1_cubic_1 5 rfl rfl)
theorem dX1_cubic_31 : decode cX1_cubic 31 = .ok (.lmul, 1) := dk_105 (dk_at dksX1_cubic_1 7 rfl rfl)
theorem dX1_cubic_32 : decode cX1_cubic 32 = .ok (.lload 4, 2) := dk_22 4 (dk_at dksX1_cubic_1 8 rfl rfl)
theorem dX1_cubic_34 : decode cX1_cubic 34 = .ok (.lmul, 1) := dk_105 (dk_at dksX1_cubic_1 10 rfl rfl)
theorem dX1_cubic_35 : decode cX1_cubic 35 = .ok (.ladd, 1) := dk_97 (dk_at dksX1_cubic_1 11 rfl rfl)
theorem dX1_cubic_36 : decode cX1_cubic 36 = .ok (.ldc2_w 365, 3) := dk_20 1 109 (dk_at dksX1_cubic_1 12 rfl rfl)
theorem dX1_cubic_39 : decode cX1_cubic 39 = .ok (.lload_n 0, 1) := dk_30 (dk_at dksX1_cubic_1 15 rfl rfl)
theorem dX1_cubic_40 : decode cX1_cubic 40 = .ok (.lmul, 1) := dk_105 (dk_at dksX1_cubic_1 16 rfl rfl)
theorem dX1_cubic_41 : decode cX1_cubic 41 = .ok (.lload 4, 2) := dk_22 4 (dk_at dksX1_cubic_1 17 rfl rfl)
theorem dX1_cubic_43 : decode cX1_cubic 43 = .ok (.lmul, 1) := dk_105 (dk_at dksX1_cubic_1 19 rfl rfl)
theorem dX1_cubic_44 : decode cX1_cubic 44 = .ok (.lload 4, 2) := dk_22 4 (dk_at dksX1_cubic_1 20 rfl rfl)
theorem dX1_cubic_46 : decode cX1_cubic 46 = .ok (.lmul, 1) := dk_105 (dk_at dksX1_cubic_1 22 rfl rfl)
theorem dX1_cubic_47 : decode cX1_cubic 47 = .ok (.lload 4, 2) := dk_22 4 (dk_at dksX1_cubic_2 0 rfl rfl)
theorem dX1_cubic_49 : decode cX1_cubic 49 = .ok (.lmul, 1) := dk_105 (dk_at dksX1_cubic_2 2 rfl rfl)
theorem dX1_cubic_50 : decode cX1_cubic 50 = .ok (.lsub, 1) := dk_101 (dk_at dksX1_cubic_2 3 rfl rfl)
theorem dX1_cubic_51 : decode cX1_cubic 51 = .ok (.ldc2_w 397, 3) := dk_20 1 141 (dk_at dksX1_cubic_2 4 rfl rfl)
theorem dX1_cubic_54 : decode cX1_cubic 54 = .ok (.lload_n 0, 1) := dk_30 (dk_at dksX1_cubic_2 7 rfl rfl)
theorem dX1_cubic_55 : decode cX1_cubic 55 = .ok (.lmul, 1) := dk_105 (dk_at dksX1_cubic_2 8 rfl rfl)
theorem dX1_cubic_56 : decode cX1_cubic 56 = .ok (.lload_n 0, 1) := dk_30 (dk_at dksX1_cubic_2 9 rfl rfl)
theorem dX1_cubic_57 : decode cX1_cubic 57 = .ok (.lmul, 1) := dk_105 (dk_at dksX1_cubic_2 10 rfl rfl)
theorem dX1_cubic_58 : decode cX1_cubic 58 = .ok (.lload 6, 2) := dk_22 6 (dk_at dksX1_cubic_2 11 rfl rfl)
theorem dX1_cubic_60 : decode cX1_cubic 60 = .ok (.lmul, 1) := dk_105 (dk_at dksX1_cubic_2 13 rfl rfl)
theorem dX1_cubic_61 : decode cX1_cubic 61 = .ok (.lload 6, 2) := dk_22 6 (dk_at dksX1_cubic_2 14 rfl rfl)
theorem dX1_cubic_63 : decode cX1_cubic 63 = .ok (.lmul, 1) := dk_105 (dk_at dksX1_cubic_2 16 rfl rfl)
theorem dX1_cubic_64 : decode cX1_cubic 64 = .ok (.lsub, 1) := dk_101 (dk_at dksX1_cubic_2 17 rfl rfl)
theorem dX1_cubic_65 : decode cX1_cubic 65 = .ok (.lstore 8, 2) := dk_55 8 (dk_at dksX1_cubic_2 18 rfl rfl)
theorem dX1_cubic_67 : decode cX1_cubic 67 = .ok (.lload 8, 2) := dk_22 8 (dk_at dksX1_cubic_2 20 rfl rfl)
theorem dX1_cubic_69 : decode cX1_cubic 69 = .ok (.lconst 0, 1) := dk_9 (dk_at dksX1_cubic_2 22 rfl rfl)
theorem dX1_cubic_70 : decode cX1_cubic 70 = .ok (.lcmp, 1) := dk_148 (dk_at dksX1_cubic_2 23 rfl rfl)
theorem dX1_cubic_71 : decode cX1_cubic 71 = .ok (.ifCond .le 7, 3) := dk_158 0 7 (dk_at dksX1_cubic_3 0 rfl rfl)
theorem dX1_cubic_74 : decode cX1_cubic 74 = .ok (.iconst 3, 1) := dk_6 (dk_at dksX1_cubic_3 3 rfl rfl)
theorem dX1_cubic_75 : decode cX1_cubic 75 = .ok (.goto 34, 3) := dk_167 0 34 (dk_at dksX1_cubic_3 4 rfl rfl)
theorem dX1_cubic_78 : decode cX1_cubic 78 = .ok (.lload 8, 2) := dk_22 8 (dk_at dksX1_cubic_3 7 rfl rfl)
theorem dX1_cubic_80 : decode cX1_cubic 80 = .ok (.lconst 0, 1) := dk_9 (dk_at dksX1_cubic_3 9 rfl rfl)
theorem dX1_cubic_81 : decode cX1_cubic 81 = .ok (.lcmp, 1) := dk_148 (dk_at dksX1_cubic_3 10 rfl rfl)
theorem dX1_cubic_82 : decode cX1_cubic 82 = .ok (.ifCond .ge 7, 3) := dk_156 0 7 (dk_at dksX1_cubic_3 11 rfl rfl)
theorem dX1_cubic_85 : decode cX1_cubic 85 = .ok (.iconst 1, 1) := dk_4 (dk_at dksX1_cubic_3 14 rfl rfl)
theorem dX1_cubic_86 : decode cX1_cubic 86 = .ok (.goto 23, 3) := dk_167 0 23 (dk_at dksX1_cubic_3 15 rfl rfl)
theorem dX1_cubic_89 : decode cX1_cubic 89 = .ok (.lload_n 2, 1) := dk_32 (dk_at dksX1_cubic_3 18 rfl rfl)
theorem dX1_cubic_90 : decode cX1_cubic 90 = .ok (.lload_n 2, 1) := dk_32 (dk_at dksX1_cubic_3 19 rfl rfl)
theorem dX1_cubic_91 : decode cX1_cubic 91 = .ok (.lmul, 1) := dk_105 (dk_at dksX1_cubic_3 20 rfl rfl)
theorem dX1_cubic_92 : decode cX1_cubic 92 = .ok (.ldc2_w 301, 3) := dk_20 1 45 (dk_at dksX1_cubic_3 21 rfl rfl)
theorem dX1_cubic_95 : decode cX1_cubic 95 = .ok (.lload_n 0, 1) := dk_30 (dk_at dksX1_cubic_4 0 rfl rfl)
theorem dX1_cubic_96 : decode cX1_cubic 96 = .ok (.lmul, 1) := dk_105 (dk_at dksX1_cubic_4 1 rfl rfl)
theorem dX1_cubic_97 : decode cX1_cubic 97 = .ok (.lload 4, 2) := dk_22 4 (dk_at dksX1_cubic_4 2 rfl rfl)
theorem dX1_cubic_99 : decode cX1_cubic 99 = .ok (.lmul, 1) := dk_105 (dk_at dksX1_cubic_4 4 rfl rfl)
theorem dX1_cubic_100 : decode cX1_cubic 100 = .ok (.lcmp, 1) := dk_148 (dk_at dksX1_cubic_4 5 rfl rfl)
theorem dX1_cubic_101 : decode cX1_cubic 101 = .ok (.ifCond .ne 7, 3) := dk_154 0 7 (dk_at dksX1_cubic_4 6 rfl rfl)
theorem dX1_cubic_104 : decode cX1_cubic 104 = .ok (.iconst 1, 1) := dk_4 (dk_at dksX1_cubic_4 9 rfl rfl)
theorem dX1_cubic_105 : decode cX1_cubic 105 = .ok (.goto 4, 3) := dk_167 0 4 (dk_at dksX1_cubic_4 10 rfl rfl)
theorem dX1_cubic_108 : decode cX1_cubic 108 = .ok (.iconst 2, 1) := dk_5 (dk_at dksX1_cubic_4 13 rfl rfl)
theorem dX1_cubic_109 : decode cX1_cubic 109 = .ok (.ireturn, 1) := dk_172 (dk_at dksX1_cubic_4 14 rfl rfl)
abbrev cX1_quartic : ByteArray := prog_1_method_72_code
def yX1_quartic : MethodName := ⟨RX1, "quartic", "(JJJJJ)I"⟩
def dkwX1_quartic_13 : List UInt8 := [156, 0, 14, 22, 18, 9, 148, 156, 0, 7, 6, 167, 0, 4, 4, 172]
abbrev dktX1_quartic_13 : List UInt8 := dkwX1_quartic_13 ++ []
def dkwX1_quartic_12 : List UInt8 := [9, 148, 154, 0, 7, 3, 167, 0, 4, 4, 172, 22, 10, 9, 148, 154, 0, 5, 5, 172, 22, 16, 9, 148]
abbrev dktX1_quartic_12 : List UInt8 := dkwX1_quartic_12 ++ dktX1_quartic_13
def dkwX1_quartic_11 : List UInt8 := [22, 10, 9, 148, 154, 0, 7, 4, 167, 0, 26, 22, 16, 9, 148, 156, 0, 7, 5, 167, 0, 15, 22, 20]
abbrev dktX1_quartic_11 : List UInt8 := dkwX1_quartic_11 ++ dktX1_quartic_12
def dkwX1_quartic_10 : List UInt8 := [156, 0, 14, 22, 18, 9, 148, 156, 0, 7, 7, 167, 0, 4, 3, 172, 22, 18, 9, 148, 154, 0, 38]
abbrev dktX1_quartic_10 : List UInt8 := dkwX1_quartic_10 ++ dktX1_quartic_11
def dkwX1_quartic_9 : List UInt8 := [105, 101, 55, 20, 22, 14, 9, 148, 156, 0, 5, 5, 172, 22, 14, 9, 148, 158, 0, 23, 22, 16, 9, 148]
abbrev dktX1_quartic_9 : List UInt8 := dkwX1_quartic_9 ++ dktX1_quartic_10
def dkwX1_quartic_8 : List UInt8 := [32, 105, 32, 105, 20, 1, 11, 22, 6, 105, 30, 105, 30, 105, 97, 20, 1, 109, 30, 105, 32, 105, 22, 4]
abbrev dktX1_quartic_8 : List UInt8 := dkwX1_quartic_8 ++ dktX1_quartic_9
def dkwX1_quartic_7 : List UInt8 := [105, 30, 105, 32, 105, 22, 6, 105, 101, 20, 1, 45, 32, 105, 32, 105, 32, 105, 32, 105, 101, 55, 18, 32]
abbrev dktX1_quartic_7 : List UInt8 := dkwX1_quartic_7 ++ dktX1_quartic_8
def dkwX1_quartic_6 : List UInt8 := [22, 4, 105, 22, 4, 105, 101, 20, 1, 147, 30, 105, 32, 105, 32, 105, 22, 4, 105, 97, 20, 1, 147, 30]
abbrev dktX1_quartic_6 : List UInt8 := dkwX1_quartic_6 ++ dktX1_quartic_7
def dkwX1_quartic_5 : List UInt8 := [32, 105, 101, 55, 16, 20, 1, 145, 30, 105, 30, 105, 30, 105, 22, 8, 105, 20, 1, 147, 30, 105, 30, 105]
abbrev dktX1_quartic_5 : List UInt8 := dkwX1_quartic_5 ++ dktX1_quartic_6
def dkwX1_quartic_4 : List UInt8 := [22, 10, 105, 22, 12, 22, 12, 105, 101, 55, 14, 20, 1, 11, 30, 105, 22, 4, 105, 20, 1, 45, 32, 105]
abbrev dktX1_quartic_4 : List UInt8 := dkwX1_quartic_4 ++ dktX1_quartic_5
def dkwX1_quartic_3 : List UInt8 := [97, 20, 1, 143, 30, 105, 22, 4, 105, 22, 8, 105, 101, 55, 12, 20, 1, 109, 22, 10, 105, 22, 10, 105]
abbrev dktX1_quartic_3 : List UInt8 := dkwX1_quartic_3 ++ dktX1_quartic_4
def dkwX1_quartic_2 : List UInt8 := [105, 101, 20, 1, 141, 32, 105, 32, 105, 22, 8, 105, 97, 20, 1, 141, 30, 105, 22, 6, 105, 22, 6, 105]
abbrev dktX1_quartic_2 : List UInt8 := dkwX1_quartic_2 ++ dktX1_quartic_3
def dkwX1_quartic_1 : List UInt8 := [55, 10, 20, 1, 99, 22, 4, 105, 22, 4, 105, 22, 4, 105, 20, 0, 152, 32, 105, 22, 4, 105, 22, 6]
abbrev dktX1_quartic_1 : List UInt8 := dkwX1_quartic_1 ++ dktX1_quartic_2
def dkwX1_quartic_0 : List UInt8 := [22, 4, 22, 4, 105, 20, 1, 45, 32, 105, 22, 6, 105, 101, 20, 1, 17, 30, 105, 22, 8, 105, 97]
abbrev dktX1_quartic_0 : List UInt8 := dkwX1_quartic_0 ++ dktX1_quartic_1
theorem dksX1_quartic_0 : cX1_quartic.data.toList.drop 0 = dktX1_quartic_0 := by decide +kernel
theorem dksX1_quartic_1 : cX1_quartic.data.toList.drop 23 = dktX1_quartic_1 := dk_seg dksX1_quartic_0 23 rfl rfl
theorem dksX1_quartic_2 : cX1_quartic.data.toList.drop 47 = dktX1_quartic_2 := dk_seg dksX1_quartic_1 24 rfl rfl
theorem dksX1_quartic_3 : cX1_quartic.data.toList.drop 71 = dktX1_quartic_3 := dk_seg dksX1_quartic_2 24 rfl rfl
theorem dksX1_quartic_4 : cX1_quartic.data.toList.drop 95 = dktX1_quartic_4 := dk_seg dksX1_quartic_3 24 rfl rfl
theorem dksX1_quartic_5 : cX1_quartic.data.toList.drop 119 = dktX1_quartic_5 := dk_seg dksX1_quartic_4 24 rfl rfl
theorem dksX1_quartic_6 : cX1_quartic.data.toList.drop 143 = dktX1_quartic_6 := dk_seg dksX1_quartic_5 24 rfl rfl
theorem dksX1_quartic_7 : cX1_quartic.data.toList.drop 167 = dktX1_quartic_7 := dk_seg dksX1_quartic_6 24 rfl rfl
theorem dksX1_quartic_8 : cX1_quartic.data.toList.drop 191 = dktX1_quartic_8 := dk_seg dksX1_quartic_7 24 rfl rfl
theorem dksX1_quartic_9 : cX1_quartic.data.toList.drop 215 = dktX1_quartic_9 := dk_seg dksX1_quartic_8 24 rfl rfl
theorem dksX1_quartic_10 : cX1_quartic.data.toList.drop 239 = dktX1_quartic_10 := dk_seg dksX1_quartic_9 24 rfl rfl
theorem dksX1_quartic_11 : cX1_quartic.data.toList.drop 262 = dktX1_quartic_11 := dk_seg dksX1_quartic_10 23 rfl rfl
theorem dksX1_quartic_12 : cX1_quartic.data.toList.drop 286 = dktX1_quartic_12 := dk_seg dksX1_quartic_11 24 rfl rfl
theorem dksX1_quartic_13 : cX1_quartic.data.toList.drop 310 = dktX1_quartic_13 := dk_seg dksX1_quartic_12 24 rfl rfl
theorem dX1_quartic_0 : decode cX1_quartic 0 = .ok (.lload 4, 2) := dk_22 4 (dk_at dksX1_quartic_0 0 rfl rfl)
theorem dX1_quartic_2 : decode cX1_quartic 2 = .ok (.lload 4, 2) := dk_22 4 (dk_at dksX1_quartic_0 2 rfl rfl)
theorem dX1_quartic_4 : decode cX1_quartic 4 = .ok (.lmul, 1) := dk_105 (dk_at dksX1_quartic_0 4 rfl rfl)
theorem dX1_quartic_5 : decode cX1_quartic 5 = .ok (.ldc2_w 301, 3) := dk_20 1 45 (dk_at dksX1_quartic_0 5 rfl rfl)
theorem dX1_quartic_8 : decode cX1_quartic 8 = .ok (.lload_n 2, 1) := dk_32 (dk_at dksX1_quartic_0 8 rfl rfl)
theorem dX1_quartic_9 : decode cX1_quartic 9 = .ok (.lmul, 1) := dk_105 (dk_at dksX1_quartic_0 9 rfl rfl)
theorem dX1_quartic_10 : decode cX1_quartic 10 = .ok (.lload 6, 2) := dk_22 6 (dk_at dksX1_quartic_0 10 rfl rfl)
theorem dX1_quartic_12 : decode cX1_quartic 12 = .ok (.lmul, 1) := dk_105 (dk_at dksX1_quartic_0 12 rfl rfl)
theorem dX1_quartic_13 : decode cX1_quartic 13 = .ok (.lsub, 1) := dk_101 (dk_at dksX1_quartic_0 13 rfl rfl)
theorem dX1_quartic_14 : decode cX1_quartic 14 = .ok (.ldc2_w 273, 3) := dk_20 1 17 (dk_at dksX1_quartic_0 14 rfl rfl)
theorem dX1_quartic_17 : decode cX1_quartic 17 = .ok (.lload_n 0, 1) := dk_30 (dk_at dksX1_quartic_0 17 rfl rfl)
theorem dX1_quartic_18 : decode cX1_quartic 18 = .ok (.lmul, 1) := dk_105 (dk_at dksX1_quartic_0 18 rfl rfl)
theorem dX1_quartic_19 : decode cX1_quartic 19 = .ok (.lload 8, 2) := dk_22 8 (dk_at dksX1_quartic_0 19 rfl rfl)
theorem dX1_quartic_21 : decode cX1_quartic 21 = .ok (.lmul, 1) := dk_105 (dk_at dksX1_quartic_0 21 rfl rfl)
theorem dX1_quartic_22 : decode cX1_quartic 22 = .ok (.ladd, 1) := dk_97 (dk_at dksX1_quartic_0 22 rfl rfl)
theorem dX1_quartic_23 : decode cX1_quartic 23 = .ok (.lstore 10, 2) := dk_55 10 (dk_at dksX1_quartic_1 0 rfl rfl)
theorem dX1_quartic_25 : decode cX1_quartic 25 = .ok (.ldc2_w 355, 3) := dk_20 1 99 (dk_at dksX1_quartic_1 2 rfl rfl)
theorem dX1_quartic_28 : decode cX1_quartic 28 = .ok (.lload 4, 2) := dk_22 4 (dk_at dksX1_quartic_1 5 rfl rfl)
theorem dX1_quartic_30 : decode cX1_quartic 30 = .ok (.lmul, 1) := dk_105 (dk_at dksX1_quartic_1 7 rfl rfl)
theorem dX1_quartic_31 : decode cX1_quartic 31 = .ok (.lload 4, 2) := dk_22 4 (dk_at dksX1_quartic_1 8 rfl rfl)
theorem dX1_quartic_33 : decode cX1_quartic 33 = .ok (.lmul, 1) := dk_105 (dk_at dksX1_quartic_1 10 rfl rfl)
theorem dX1_quartic_34 : decode cX1_quartic 34 = .ok (.lload 4, 2) := dk_22 4 (dk_at dksX1_quartic_1 11 rfl rfl)
theorem dX1_quartic_36 : decode cX1_quartic 36 = .ok (.lmul, 1) := dk_105 (dk_at dksX1_quartic_1 13 rfl rfl)
theorem dX1_quartic_37 : decode cX1_quartic 37 = .ok (.ldc2_w 152, 3) := dk_20 0 152 (dk_at dksX1_quartic_1 14 rfl rfl)
theorem dX1_quartic_40 : decode cX1_quartic 40 = .ok (.lload_n 2, 1) := dk_32 (dk_at dksX1_quartic_1 17 rfl rfl)
theorem dX1_quartic_41 : decode cX1_quartic 41 = .ok (.lmul, 1) := dk_105 (dk_at dksX1_quartic_1 18 rfl rfl)
theorem dX1_quartic_42 : decode cX1_quartic 42 = .ok (.lload 4, 2) := dk_22 4 (dk_at dksX1_quartic_1 19 rfl rfl)
theorem dX1_quartic_44 : decode cX1_quartic 44 = .ok (.lmul, 1) := dk_105 (dk_at dksX1_quartic_1 21 rfl rfl)
theorem dX1_quartic_45 : decode cX1_quartic 45 = .ok (.lload 6, 2) := dk_22 6 (dk_at dksX1_quartic_1 22 rfl rfl)
theorem dX1_quartic_47 : decode cX1_quartic 47 = .ok (.lmul, 1) := dk_105 (dk_at dksX1_quartic_2 0 rfl rfl)
theorem dX1_quartic_48 : decode cX1_quartic 48 = .ok (.lsub, 1) := dk_101 (dk_at dksX1_quartic_2 1 rfl rfl)
theorem dX1_quartic_49 : decode cX1_quartic 49 = .ok (.ldc2_w 397, 3) := dk_20 1 141 (dk_at dksX1_quartic_2 2 rfl rfl)
theorem dX1_quartic_52 : decode cX1_quartic 52 = .ok (.lload_n 2, 1) := dk_32 (dk_at dksX1_quartic_2 5 rfl rfl)
theorem dX1_quartic_53 : decode cX1_quartic 53 = .ok (.lmul, 1) := dk_105 (dk_at dksX1_quartic_2 6 rfl rfl)
theorem dX1_quartic_54 : decode cX1_quartic 54 = .ok (.lload_n 2, 1) := dk_32 (dk_at dksX1_quartic_2 7 rfl rfl)
theorem dX1_quartic_55 : decode cX1_quartic 55 = .ok (.lmul, 1) := dk_105 (dk_at dksX1_quartic_2 8 rfl rfl)
theorem dX1_quartic_56 : decode cX1_quartic 56 = .ok (.lload 8, 2) := dk_22 8 (dk_at dksX1_quartic_2 9 rfl rfl)
theorem dX1_quartic_58 : decode cX1_quartic 58 = .ok (.lmul, 1) := dk_105 (dk_at dksX1_quartic_2 11 rfl rfl)
theorem dX1_quartic_59 : decode cX1_quartic 59 = .ok (.ladd, 1) := dk_97 (dk_at dksX1_quartic_2 12 rfl rfl)
theorem dX1_quartic_60 : decode cX1_quartic 60 = .ok (.ldc2_w 397, 3) := dk_20 1 141 (dk_at dksX1_quartic_2 13 rfl rfl)
theorem dX1_quartic_63 : decode cX1_quartic 63 = .ok (.lload_n 0, 1) := dk_30 (dk_at dksX1_quartic_2 16 rfl rfl)
theorem dX1_quartic_64 : decode cX1_quartic 64 = .ok (.lmul, 1) := dk_105 (dk_at dksX1_quartic_2 17 rfl rfl)
theorem dX1_quartic_65 : decode cX1_quartic 65 = .ok (.lload 6, 2) := dk_22 6 (dk_at dksX1_quartic_2 18 rfl rfl)
theorem dX1_quartic_67 : decode cX1_quartic 67 = .ok (.lmul, 1) := dk_105 (dk_at dksX1_quartic_2 20 rfl rfl)
theorem dX1_quartic_68 : decode cX1_quartic 68 = .ok (.lload 6, 2) := dk_22 6 (dk_at dksX1_quartic_2 21 rfl rfl)
theorem dX1_quartic_70 : decode cX1_quartic 70 = .ok (.lmul, 1) := dk_105 (dk_at dksX1_quartic_2 23 rfl rfl)
theorem dX1_quartic_71 : decode cX1_quartic 71 = .ok (.ladd, 1) := dk_97 (dk_at dksX1_quartic_3 0 rfl rfl)
theorem dX1_quartic_72 : decode cX1_quartic 72 = .ok (.ldc2_w 399, 3) := dk_20 1 143 (dk_at dksX1_quartic_3 1 rfl rfl)
theorem dX1_quartic_75 : decode cX1_quartic 75 = .ok (.lload_n 0, 1) := dk_30 (dk_at dksX1_quartic_3 4 rfl rfl)
theorem dX1_quartic_76 : decode cX1_quartic 76 = .ok (.lmul, 1) := dk_105 (dk_at dksX1_quartic_3 5 rfl rfl)
theorem dX1_quartic_77 : decode cX1_quartic 77 = .ok (.lload 4, 2) := dk_22 4 (dk_at dksX1_quartic_3 6 rfl rfl)
theorem dX1_quartic_79 : decode cX1_quartic 79 = .ok (.lmul, 1) := dk_105 (dk_at dksX1_quartic_3 8 rfl rfl)
theorem dX1_quartic_80 : decode cX1_quartic 80 = .ok (.lload 8, 2) := dk_22 8 (dk_at dksX1_quartic_3 9 rfl rfl)
theorem dX1_quartic_82 : decode cX1_quartic 82 = .ok (.lmul, 1) := dk_105 (dk_at dksX1_quartic_3 11 rfl rfl)
theorem dX1_quartic_83 : decode cX1_quartic 83 = .ok (.lsub, 1) := dk_101 (dk_at dksX1_quartic_3 12 rfl rfl)
theorem dX1_quartic_84 : decode cX1_quartic 84 = .ok (.lstore 12, 2) := dk_55 12 (dk_at dksX1_quartic_3 13 rfl rfl)
theorem dX1_quartic_86 : decode cX1_quartic 86 = .ok (.ldc2_w 365, 3) := dk_20 1 109 (dk_at dksX1_quartic_3 15 rfl rfl)
theorem dX1_quartic_89 : decode cX1_quartic 89 = .ok (.lload 10, 2) := dk_22 10 (dk_at dksX1_quartic_3 18 rfl rfl)
theorem dX1_quartic_91 : decode cX1_quartic 91 = .ok (.lmul, 1) := dk_105 (dk_at dksX1_quartic_3 20 rfl rfl)
theorem dX1_quartic_92 : decode cX1_quartic 92 = .ok (.lload 10, 2) := dk_22 10 (dk_at dksX1_quartic_3 21 rfl rfl)
theorem dX1_quartic_94 : decode cX1_quartic 94 = .ok (.lmul, 1) := dk_105 (dk_at dksX1_quartic_3 23 rfl rfl)
theorem dX1_quartic_95 : decode cX1_quartic 95 = .ok (.lload 10, 2) := dk_22 10 (dk_at dksX1_quartic_4 0 rfl rfl)
theorem dX1_quartic_97 : decode cX1_quartic 97 = .ok (.lmul, 1) := dk_105 (dk_at dksX1_quartic_4 2 rfl rfl)
theorem dX1_quartic_98 : decode cX1_quartic 98 = .ok (.lload 12, 2) := dk_22 12 (dk_at dksX1_quartic_4 3 rfl rfl)
theorem dX1_quartic_100 : decode cX1_quartic 100 = .ok (.lload 12, 2) := dk_22 12 (dk_at dksX1_quartic_4 5 rfl rfl)
theorem dX1_quartic_102 : decode cX1_quartic 102 = .ok (.lmul, 1) := dk_105 (dk_at dksX1_quartic_4 7 rfl rfl)
theorem dX1_quartic_103 : decode cX1_quartic 103 = .ok (.lsub, 1) := dk_101 (dk_at dksX1_quartic_4 8 rfl rfl)
theorem dX1_quartic_104 : decode cX1_quartic 104 = .ok (.lstore 14, 2) := dk_55 14 (dk_at dksX1_quartic_4 9 rfl rfl)
theorem dX1_quartic_106 : decode cX1_quartic 106 = .ok (.ldc2_w 267, 3) := dk_20 1 11 (dk_at dksX1_quartic_4 11 rfl rfl)
theorem dX1_quartic_109 : decode cX1_quartic 109 = .ok (.lload_n 0, 1) := dk_30 (dk_at dksX1_quartic_4 14 rfl rfl)
theorem dX1_quartic_110 : decode cX1_quartic 110 = .ok (.lmul, 1) := dk_105 (dk_at dksX1_quartic_4 15 rfl rfl)
theorem dX1_quartic_111 : decode cX1_quartic 111 = .ok (.lload 4, 2) := dk_22 4 (dk_at dksX1_quartic_4 16 rfl rfl)
theorem dX1_quartic_113 : decode cX1_quartic 113 = .ok (.lmul, 1) := dk_105 (dk_at dksX1_quartic_4 18 rfl rfl)
theorem dX1_quartic_114 : decode cX1_quartic 114 = .ok (.ldc2_w 301, 3) := dk_20 1 45 (dk_at dksX1_quartic_4 19 rfl rfl)
theorem dX1_quartic_117 : decode cX1_quartic 117 = .ok (.lload_n 2, 1) := dk_32 (dk_at dksX1_quartic_4 22 rfl rfl)
theorem dX1_quartic_118 : decode cX1_quartic 118 = .ok (.lmul, 1) := dk_105 (dk_at dksX1_quartic_4 23 rfl rfl)
theorem dX1_quartic_119 : decode cX1_quartic 119 = .ok (.lload_n 2, 1) := dk_32 (dk_at dksX1_quartic_5 0 rfl rfl)
theorem dX1_quartic_120 : decode cX1_quartic 120 = .ok (.lmul, 1) := dk_105 (dk_at dksX1_quartic_5 1 rfl rfl)
theorem dX1_quartic_121 : decode cX1_quartic 121 = .ok (.lsub, 1) := dk_101 (dk_at dksX1_quartic_5 2 rfl rfl)
theorem dX1_quartic_122 : decode cX1_quartic 122 = .ok (.lstore 16, 2) := dk_55 16 (dk_at dksX1_quartic_5 3 rfl rfl)
theorem dX1_quartic_124 : decode cX1_quartic 124 = .ok (.ldc2_w 401, 3) := dk_20 1 145 (dk_at dksX1_quartic_5 5 rfl rfl)
theorem dX1_quartic_127 : decode cX1_quartic 127 = .ok (.lload_n 0, 1) := dk_30 (dk_at dksX1_quartic_5 8 rfl rfl)
theorem dX1_quartic_128 : decode cX1_quartic 128 = .ok (.lmul, 1) := dk_105 (dk_at dksX1_quartic_5 9 rfl rfl)
theorem dX1_quartic_129 : decode cX1_quartic 129 = .ok (.lload_n 0, 1) := dk_30 (dk_at dksX1_quartic_5 10 rfl rfl)
theorem dX1_quartic_130 : decode cX1_quartic 130 = .ok (.lmul, 1) := dk_105 (dk_at dksX1_quartic_5 11 rfl rfl)
theorem dX1_quartic_131 : decode cX1_quartic 131 = .ok (.lload_n 0, 1) := dk_30 (dk_at dksX1_quartic_5 12 rfl rfl)
theorem dX1_quartic_132 : decode cX1_quartic 132 = .ok (.lmul, 1) := dk_105 (dk_at dksX1_quartic_5 13 rfl rfl)
theorem dX1_quartic_133 : decode cX1_quartic 133 = .ok (.lload 8, 2) := dk_22 8 (dk_at dksX1_quartic_5 14 rfl rfl)
theorem dX1_quartic_135 : decode cX1_quartic 135 = .ok (.lmul, 1) := dk_105 (dk_at dksX1_quartic_5 16 rfl rfl)
theorem dX1_quartic_136 : decode cX1_quartic 136 = .ok (.ldc2_w 403, 3) := dk_20 1 147 (dk_at dksX1_quartic_5 17 rfl rfl)
theorem dX1_quartic_139 : decode cX1_quartic 139 = .ok (.lload_n 0, 1) := dk_30 (dk_at dksX1_quartic_5 20 rfl rfl)
theorem dX1_quartic_140 : decode cX1_quartic 140 = .ok (.lmul, 1) := dk_105 (dk_at dksX1_quartic_5 21 rfl rfl)
theorem dX1_quartic_141 : decode cX1_quartic 141 = .ok (.lload_n 0, 1) := dk_30 (dk_at dksX1_quartic_5 22 rfl rfl)
theorem dX1_quartic_142 : decode cX1_quartic 142 = .ok (.lmul, 1) := dk_105 (dk_at dksX1_quartic_5 23 rfl rfl)
theorem dX1_quartic_143 : decode cX1_quartic 143 = .ok (.lload 4, 2) := dk_22 4 (dk_at dksX1_quartic_6 0 rfl rfl)
theorem dX1_quartic_145 : decode cX1_quartic 145 = .ok (.lmul, 1) := dk_105 (dk_at dksX1_quartic_6 2 rfl rfl)
theorem dX1_quartic_146 : decode cX1_quartic 146 = .ok (.lload 4, 2) := dk_22 4 (dk_at dksX1_quartic_6 3 rfl rfl)
theorem dX1_quartic_148 : decode cX1_quartic 148 = .ok (.lmul, 1) := dk_105 (dk_at dksX1_quartic_6 5 rfl rfl)
theorem dX1_quartic_149 : decode cX1_quartic 149 = .ok (.lsub, 1) := dk_101 (dk_at dksX1_quartic_6 6 rfl rfl)
theorem dX1_quartic_150 : decode cX1_quartic 150 = .ok (.ldc2_w 403, 3) := dk_20 1 147 (dk_at dksX1_quartic_6 7 rfl rfl)
theorem dX1_quartic_153 : decode cX1_quartic 153 = .ok (.lload_n 0, 1) := dk_30 (dk_at dksX1_quartic_6 10 rfl rfl)
theorem dX1_quartic_154 : decode cX1_quartic 154 = .ok (.lmul, 1) := dk_105 (dk_at dksX1_quartic_6 11 rfl rfl)
theorem dX1_quartic_155 : decode cX1_quartic 155 = .ok (.lload_n 2, 1) := dk_32 (dk_at dksX1_quartic_6 12 rfl rfl)
theorem dX1_quartic_156 : decode cX1_quartic 156 = .ok (.lmul, 1) := dk_105 (dk_at dksX1_quartic_6 13 rfl rfl)
theorem dX1_quartic_157 : decode cX1_quartic 157 = .ok (.lload_n 2, 1) := dk_32 (dk_at dksX1_quartic_6 14 rfl rfl)
theorem dX1_quartic_158 : decode cX1_quartic 158 = .ok (.lmul, 1) := dk_105 (dk_at dksX1_quartic_6 15 rfl rfl)
theorem dX1_quartic_159 : decode cX1_quartic 159 = .ok (.lload 4, 2) := dk_22 4 (dk_at dksX1_quartic_6 16 rfl rfl)
theorem dX1_quartic_161 : decode cX1_quartic 161 = .ok (.lmul, 1) := dk_105 (dk_at dksX1_quartic_6 18 rfl rfl)
theorem dX1_quartic_162 : decode cX1_quartic 162 = .ok (.ladd, 1) := dk_97 (dk_at dksX1_quartic_6 19 rfl rfl)
theorem dX1_quartic_163 : decode cX1_quartic 163 = .ok (.ldc2_w 403, 3) := dk_20 1 147 (dk_at dksX1_quartic_6 20 rfl rfl)
theorem dX1_quartic_166 : decode cX1_quartic 166 = .ok (.lload_n 0, 1) := dk_30 (dk_at dksX1_quartic_6 23 rfl rfl)
theorem dX1_quartic_167 : decode cX1_quartic 167 = .ok (.lmul, 1) := dk_105 (dk_at dksX1_quartic_7 0 rfl rfl)
theorem dX1_quartic_168 : decode cX1_quartic 168 = .ok (.lload_n 0, 1) := dk_30 (dk_at dksX1_quartic_7 1 rfl rfl)
theorem dX1_quartic_169 : decode cX1_quartic 169 = .ok (.lmul, 1) := dk_105 (dk_at dksX1_quartic_7 2 rfl rfl)
theorem dX1_quartic_170 : decode cX1_quartic 170 = .ok (.lload_n 2, 1) := dk_32 (dk_at dksX1_quartic_7 3 rfl rfl)
theorem dX1_quartic_171 : decode cX1_quartic 171 = .ok (.lmul, 1) := dk_105 (dk_at dksX1_quartic_7 4 rfl rfl)
theorem dX1_quartic_172 : decode cX1_quartic 172 = .ok (.lload 6, 2) := dk_22 6 (dk_at dksX1_quartic_7 5 rfl rfl)
theorem dX1_quartic_174 : decode cX1_quartic 174 = .ok (.lmul, 1) := dk_105 (dk_at dksX1_quartic_7 7 rfl rfl)
theorem dX1_quartic_175 : decode cX1_quartic 175 = .ok (.lsub, 1) := dk_101 (dk_at dksX1_quartic_7 8 rfl rfl)
theorem dX1_quartic_176 : decode cX1_quartic 176 = .ok (.ldc2_w 301, 3) := dk_20 1 45 (dk_at dksX1_quartic_7 9 rfl rfl)
theorem dX1_quartic_179 : decode cX1_quartic 179 = .ok (.lload_n 2, 1) := dk_32 (dk_at dksX1_quartic_7 12 rfl rfl)
theorem dX1_quartic_180 : decode cX1_quartic 180 = .ok (.lmul, 1) := dk_105 (dk_at dksX1_quartic_7 13 rfl rfl)
theorem dX1_quartic_181 : decode cX1_quartic 181 = .ok (.lload_n 2, 1) := dk_32 (dk_at dksX1_quartic_7 14 rfl rfl)
theorem dX1_quartic_182 : decode cX1_quartic 182 = .ok (.lmul, 1) := dk_105 (dk_at dksX1_quartic_7 15 rfl rfl)
theorem dX1_quartic_183 : decode cX1_quartic 183 = .ok (.lload_n 2, 1) := dk_32 (dk_at dksX1_quartic_7 16 rfl rfl)
theorem dX1_quartic_184 : decode cX1_quartic 184 = .ok (.lmul, 1) := dk_105 (dk_at dksX1_quartic_7 17 rfl rfl)
theorem dX1_quartic_185 : decode cX1_quartic 185 = .ok (.lload_n 2, 1) := dk_32 (dk_at dksX1_quartic_7 18 rfl rfl)
theorem dX1_quartic_186 : decode cX1_quartic 186 = .ok (.lmul, 1) := dk_105 (dk_at dksX1_quartic_7 19 rfl rfl)
theorem dX1_quartic_187 : decode cX1_quartic 187 = .ok (.lsub, 1) := dk_101 (dk_at dksX1_quartic_7 20 rfl rfl)
theorem dX1_quartic_188 : decode cX1_quartic 188 = .ok (.lstore 18, 2) := dk_55 18 (dk_at dksX1_quartic_7 21 rfl rfl)
theorem dX1_quartic_190 : decode cX1_quartic 190 = .ok (.lload_n 2, 1) := dk_32 (dk_at dksX1_quartic_7 23 rfl rfl)
theorem dX1_quartic_191 : decode cX1_quartic 191 = .ok (.lload_n 2, 1) := dk_32 (dk_at dksX1_quartic_8 0 rfl rfl)
theorem dX1_quartic_192 : decode cX1_quartic 192 = .ok (.lmul, 1) := dk_105 (dk_at dksX1_quartic_8 1 rfl rfl)
theorem dX1_quartic_193 : decode cX1_quartic 193 = .ok (.lload_n 2, 1) := dk_32 (dk_at dksX1_quartic_8 2 rfl rfl)
theorem dX1_quartic_194 : decode cX1_quartic 194 = .ok (.lmul, 1) := dk_105 (dk_at dksX1_quartic_8 3 rfl rfl)
theorem dX1_quartic_195 : decode cX1_quartic 195 = .ok (.ldc2_w 267, 3) := dk_20 1 11 (dk_at dksX1_quartic_8 4 rfl rfl)
theorem dX1_quartic_198 : decode cX1_quartic 198 = .ok (.lload 6, 2) := dk_22 6 (dk_at dksX1_quartic_8 7 rfl rfl)
theorem dX1_quartic_200 : decode cX1_quartic 200 = .ok (.lmul, 1) := dk_105 (dk_at dksX1_quartic_8 9 rfl rfl)
theorem dX1_quartic_201 : decode cX1_quartic 201 = .ok (.lload_n 0, 1) := dk_30 (dk_at dksX1_quartic_8 10 rfl rfl)
theorem dX1_quartic_202 : decode cX1_quartic 202 = .ok (.lmul, 1) := dk_105 (dk_at dksX1_quartic_8 11 rfl rfl)
theorem dX1_quartic_203 : decode cX1_quartic 203 = .ok (.lload_n 0, 1) := dk_30 (dk_at dksX1_quartic_8 12 rfl rfl)
theorem dX1_quartic_204 : decode cX1_quartic 204 = .ok (.lmul, 1) := dk_105 (dk_at dksX1_quartic_8 13 rfl rfl)
theorem dX1_quartic_205 : decode cX1_quartic 205 = .ok (.ladd, 1) := dk_97 (dk_at dksX1_quartic_8 14 rfl rfl)
theorem dX1_quartic_206 : decode cX1_quartic 206 = .ok (.ldc2_w 365, 3) := dk_20 1 109 (dk_at dksX1_quartic_8 15 rfl rfl)
theorem dX1_quartic_209 : decode cX1_quartic 209 = .ok (.lload_n 0, 1) := dk_30 (dk_at dksX1_quartic_8 18 rfl rfl)
theorem dX1_quartic_210 : decode cX1_quartic 210 = .ok (.lmul, 1) := dk_105 (dk_at dksX1_quartic_8 19 rfl rfl)
theorem dX1_quartic_211 : decode cX1_quartic 211 = .ok (.lload_n 2, 1) := dk_32 (dk_at dksX1_quartic_8 20 rfl rfl)
theorem dX1_quartic_212 : decode cX1_quartic 212 = .ok (.lmul, 1) := dk_105 (dk_at dksX1_quartic_8 21 rfl rfl)
theorem dX1_quartic_213 : decode cX1_quartic 213 = .ok (.lload 4, 2) := dk_22 4 (dk_at dksX1_quartic_8 22 rfl rfl)
theorem dX1_quartic_215 : decode cX1_quartic 215 = .ok (.lmul, 1) := dk_105 (dk_at dksX1_quartic_9 0 rfl rfl)
theorem dX1_quartic_216 : decode cX1_quartic 216 = .ok (.lsub, 1) := dk_101 (dk_at dksX1_quartic_9 1 rfl rfl)
theorem dX1_quartic_217 : decode cX1_quartic 217 = .ok (.lstore 20, 2) := dk_55 20 (dk_at dksX1_quartic_9 2 rfl rfl)
theorem dX1_quartic_219 : decode cX1_quartic 219 = .ok (.lload 14, 2) := dk_22 14 (dk_at dksX1_quartic_9 4 rfl rfl)
theorem dX1_quartic_221 : decode cX1_quartic 221 = .ok (.lconst 0, 1) := dk_9 (dk_at dksX1_quartic_9 6 rfl rfl)
theorem dX1_quartic_222 : decode cX1_quartic 222 = .ok (.lcmp, 1) := dk_148 (dk_at dksX1_quartic_9 7 rfl rfl)
theorem dX1_quartic_223 : decode cX1_quartic 223 = .ok (.ifCond .ge 5, 3) := dk_156 0 5 (dk_at dksX1_quartic_9 8 rfl rfl)
theorem dX1_quartic_226 : decode cX1_quartic 226 = .ok (.iconst 2, 1) := dk_5 (dk_at dksX1_quartic_9 11 rfl rfl)
theorem dX1_quartic_227 : decode cX1_quartic 227 = .ok (.ireturn, 1) := dk_172 (dk_at dksX1_quartic_9 12 rfl rfl)
theorem dX1_quartic_228 : decode cX1_quartic 228 = .ok (.lload 14, 2) := dk_22 14 (dk_at dksX1_quartic_9 13 rfl rfl)
theorem dX1_quartic_230 : decode cX1_quartic 230 = .ok (.lconst 0, 1) := dk_9 (dk_at dksX1_quartic_9 15 rfl rfl)
theorem dX1_quartic_231 : decode cX1_quartic 231 = .ok (.lcmp, 1) := dk_148 (dk_at dksX1_quartic_9 16 rfl rfl)
theorem dX1_quartic_232 : decode cX1_quartic 232 = .ok (.ifCond .le 23, 3) := dk_158 0 23 (dk_at dksX1_quartic_9 17 rfl rfl)
theorem dX1_quartic_235 : decode cX1_quartic 235 = .ok (.lload 16, 2) := dk_22 16 (dk_at dksX1_quartic_9 20 rfl rfl)
theorem dX1_quartic_237 : decode cX1_quartic 237 = .ok (.lconst 0, 1) := dk_9 (dk_at dksX1_quartic_9 22 rfl rfl)
theorem dX1_quartic_238 : decode cX1_quartic 238 = .ok (.lcmp, 1) := dk_148 (dk_at dksX1_quartic_9 23 rfl rfl)
theorem dX1_quartic_239 : decode cX1_quartic 239 = .ok (.ifCond .ge 14, 3) := dk_156 0 14 (dk_at dksX1_quartic_10 0 rfl rfl)
theorem dX1_quartic_242 : decode cX1_quartic 242 = .ok (.lload 18, 2) := dk_22 18 (dk_at dksX1_quartic_10 3 rfl rfl)
theorem dX1_quartic_244 : decode cX1_quartic 244 = .ok (.lconst 0, 1) := dk_9 (dk_at dksX1_quartic_10 5 rfl rfl)
theorem dX1_quartic_245 : decode cX1_quartic 245 = .ok (.lcmp, 1) := dk_148 (dk_at dksX1_quartic_10 6 rfl rfl)
theorem dX1_quartic_246 : decode cX1_quartic 246 = .ok (.ifCond .ge 7, 3) := dk_156 0 7 (dk_at dksX1_quartic_10 7 rfl rfl)
theorem dX1_quartic_249 : decode cX1_quartic 249 = .ok (.iconst 4, 1) := dk_7 (dk_at dksX1_quartic_10 10 rfl rfl)
theorem dX1_quartic_250 : decode cX1_quartic 250 = .ok (.goto 4, 3) := dk_167 0 4 (dk_at dksX1_quartic_10 11 rfl rfl)
theorem dX1_quartic_253 : decode cX1_quartic 253 = .ok (.iconst 0, 1) := dk_3 (dk_at dksX1_quartic_10 14 rfl rfl)
theorem dX1_quartic_254 : decode cX1_quartic 254 = .ok (.ireturn, 1) := dk_172 (dk_at dksX1_quartic_10 15 rfl rfl)
theorem dX1_quartic_255 : decode cX1_quartic 255 = .ok (.lload 18, 2) := dk_22 18 (dk_at dksX1_quartic_10 16 rfl rfl)
theorem dX1_quartic_257 : decode cX1_quartic 257 = .ok (.lconst 0, 1) := dk_9 (dk_at dksX1_quartic_10 18 rfl rfl)
theorem dX1_quartic_258 : decode cX1_quartic 258 = .ok (.lcmp, 1) := dk_148 (dk_at dksX1_quartic_10 19 rfl rfl)
theorem dX1_quartic_259 : decode cX1_quartic 259 = .ok (.ifCond .ne 38, 3) := dk_154 0 38 (dk_at dksX1_quartic_10 20 rfl rfl)
theorem dX1_quartic_262 : decode cX1_quartic 262 = .ok (.lload 10, 2) := dk_22 10 (dk_at dksX1_quartic_11 0 rfl rfl)
theorem dX1_quartic_264 : decode cX1_quartic 264 = .ok (.lconst 0, 1) := dk_9 (dk_at dksX1_quartic_11 2 rfl rfl)
theorem dX1_quartic_265 : decode cX1_quartic 265 = .ok (.lcmp, 1) := dk_148 (dk_at dksX1_quartic_11 3 rfl rfl)
theorem dX1_quartic_266 : decode cX1_quartic 266 = .ok (.ifCond .ne 7, 3) := dk_154 0 7 (dk_at dksX1_quartic_11 4 rfl rfl)
theorem dX1_quartic_269 : decode cX1_quartic 269 = .ok (.iconst 1, 1) := dk_4 (dk_at dksX1_quartic_11 7 rfl rfl)
theorem dX1_quartic_270 : decode cX1_quartic 270 = .ok (.goto 26, 3) := dk_167 0 26 (dk_at dksX1_quartic_11 8 rfl rfl)
theorem dX1_quartic_273 : decode cX1_quartic 273 = .ok (.lload 16, 2) := dk_22 16 (dk_at dksX1_quartic_11 11 rfl rfl)
theorem dX1_quartic_275 : decode cX1_quartic 275 = .ok (.lconst 0, 1) := dk_9 (dk_at dksX1_quartic_11 13 rfl rfl)
theorem dX1_quartic_276 : decode cX1_quartic 276 = .ok (.lcmp, 1) := dk_148 (dk_at dksX1_quartic_11 14 rfl rfl)
theorem dX1_quartic_277 : decode cX1_quartic 277 = .ok (.ifCond .ge 7, 3) := dk_156 0 7 (dk_at dksX1_quartic_11 15 rfl rfl)
theorem dX1_quartic_280 : decode cX1_quartic 280 = .ok (.iconst 2, 1) := dk_5 (dk_at dksX1_quartic_11 18 rfl rfl)
theorem dX1_quartic_281 : decode cX1_quartic 281 = .ok (.goto 15, 3) := dk_167 0 15 (dk_at dksX1_quartic_11 19 rfl rfl)
theorem dX1_quartic_284 : decode cX1_quartic 284 = .ok (.lload 20, 2) := dk_22 20 (dk_at dksX1_quartic_11 22 rfl rfl)
theorem dX1_quartic_286 : decode cX1_quartic 286 = .ok (.lconst 0, 1) := dk_9 (dk_at dksX1_quartic_12 0 rfl rfl)
theorem dX1_quartic_287 : decode cX1_quartic 287 = .ok (.lcmp, 1) := dk_148 (dk_at dksX1_quartic_12 1 rfl rfl)
theorem dX1_quartic_288 : decode cX1_quartic 288 = .ok (.ifCond .ne 7, 3) := dk_154 0 7 (dk_at dksX1_quartic_12 2 rfl rfl)
theorem dX1_quartic_291 : decode cX1_quartic 291 = .ok (.iconst 0, 1) := dk_3 (dk_at dksX1_quartic_12 5 rfl rfl)
theorem dX1_quartic_292 : decode cX1_quartic 292 = .ok (.goto 4, 3) := dk_167 0 4 (dk_at dksX1_quartic_12 6 rfl rfl)
theorem dX1_quartic_295 : decode cX1_quartic 295 = .ok (.iconst 1, 1) := dk_4 (dk_at dksX1_quartic_12 9 rfl rfl)
theorem dX1_quartic_296 : decode cX1_quartic 296 = .ok (.ireturn, 1) := dk_172 (dk_at dksX1_quartic_12 10 rfl rfl)
theorem dX1_quartic_297 : decode cX1_quartic 297 = .ok (.lload 10, 2) := dk_22 10 (dk_at dksX1_quartic_12 11 rfl rfl)
theorem dX1_quartic_299 : decode cX1_quartic 299 = .ok (.lconst 0, 1) := dk_9 (dk_at dksX1_quartic_12 13 rfl rfl)
theorem dX1_quartic_300 : decode cX1_quartic 300 = .ok (.lcmp, 1) := dk_148 (dk_at dksX1_quartic_12 14 rfl rfl)
theorem dX1_quartic_301 : decode cX1_quartic 301 = .ok (.ifCond .ne 5, 3) := dk_154 0 5 (dk_at dksX1_quartic_12 15 rfl rfl)
theorem dX1_quartic_304 : decode cX1_quartic 304 = .ok (.iconst 2, 1) := dk_5 (dk_at dksX1_quartic_12 18 rfl rfl)
theorem dX1_quartic_305 : decode cX1_quartic 305 = .ok (.ireturn, 1) := dk_172 (dk_at dksX1_quartic_12 19 rfl rfl)
theorem dX1_quartic_306 : decode cX1_quartic 306 = .ok (.lload 16, 2) := dk_22 16 (dk_at dksX1_quartic_12 20 rfl rfl)
theorem dX1_quartic_308 : decode cX1_quartic 308 = .ok (.lconst 0, 1) := dk_9 (dk_at dksX1_quartic_12 22 rfl rfl)
theorem dX1_quartic_309 : decode cX1_quartic 309 = .ok (.lcmp, 1) := dk_148 (dk_at dksX1_quartic_12 23 rfl rfl)
theorem dX1_quartic_310 : decode cX1_quartic 310 = .ok (.ifCond .ge 14, 3) := dk_156 0 14 (dk_at dksX1_quartic_13 0 rfl rfl)
theorem dX1_quartic_313 : decode cX1_quartic 313 = .ok (.lload 18, 2) := dk_22 18 (dk_at dksX1_quartic_13 3 rfl rfl)
theorem dX1_quartic_315 : decode cX1_quartic 315 = .ok (.lconst 0, 1) := dk_9 (dk_at dksX1_quartic_13 5 rfl rfl)
theorem dX1_quartic_316 : decode cX1_quartic 316 = .ok (.lcmp, 1) := dk_148 (dk_at dksX1_quartic_13 6 rfl rfl)
theorem dX1_quartic_317 : decode cX1_quartic 317 = .ok (.ifCond .ge 7, 3) := dk_156 0 7 (dk_at dksX1_quartic_13 7 rfl rfl)
theorem dX1_quartic_320 : decode cX1_quartic 320 = .ok (.iconst 3, 1) := dk_6 (dk_at dksX1_quartic_13 10 rfl rfl)
theorem dX1_quartic_321 : decode cX1_quartic 321 = .ok (.goto 4, 3) := dk_167 0 4 (dk_at dksX1_quartic_13 11 rfl rfl)
theorem dX1_quartic_324 : decode cX1_quartic 324 = .ok (.iconst 1, 1) := dk_4 (dk_at dksX1_quartic_13 14 rfl rfl)
theorem dX1_quartic_325 : decode cX1_quartic 325 = .ok (.ireturn, 1) := dk_172 (dk_at dksX1_quartic_13 15 rfl rfl)
theorem q120 : (Jvm.Cond.initialized "LetterForms") ∈ lw_all := lw_g (lw_at lw_m1 1 rfl) rfl
theorem q151 : (Jvm.Cond.instantiable "LetterForms" (19 : Nat)) ∈ lw_all := lw_g (lw_at lw_m1 32 rfl) rfl
theorem q153 : (Jvm.Cond.instanceMethod ({ cls := "LetterForms", name := "<init>", desc := "()V" } : Jvm.MethodName)) ∈ lw_all := lw_g (lw_at lw_m1 34 rfl) rfl
theorem q154 : (Jvm.Cond.code ({ cls := "LetterForms", name := "<init>", desc := "()V" } : Jvm.MethodName) prog_1_method_1_code (2 : Nat) (Option.none : Option Jvm.ClassFile.FieldType)) ∈ lw_all := lw_g (lw_at lw_m1 35 rfl) rfl
theorem q155 : (Jvm.Cond.methodLink "LetterForms" (1 : Nat) ({ cls := "java/lang/Object", name := "<init>", desc := "()V" } : Jvm.MethodName)) ∈ lw_all := lw_g (lw_at lw_m1 36 rfl) rfl
theorem q158 : (Jvm.Cond.classLink "LetterForms" (7 : Nat) "LetterForms$Reader") ∈ lw_all := lw_g (lw_at lw_m1 39 rfl) rfl
theorem q160 : (Jvm.Cond.methodLinkNest "LetterForms" (9 : Nat) ({ cls := "LetterForms$Reader", name := "<init>", desc := "()V" } : Jvm.MethodName) "LetterForms") ∈ lw_tbl := lw_at lw_m1 41 rfl
theorem q233 : (Jvm.Cond.fieldLinkNest "LetterForms" (189 : Nat) "LetterForms$Wrong" "place" "I" "LetterForms") ∈ lw_tbl := lw_at lw_m1 114 rfl
theorem q250 : (Jvm.Cond.fieldLinkNest "LetterForms" (121 : Nat) "LetterForms$Reader" "tape" "[B" "LetterForms") ∈ lw_tbl := lw_at lw_m1 131 rfl
theorem q253 : (Jvm.Cond.fieldLinkNest "LetterForms" (125 : Nat) "LetterForms$Reader" "size" "I" "LetterForms") ∈ lw_tbl := lw_at lw_m1 134 rfl
theorem q275 : (Jvm.Cond.classLink "LetterForms" (16 : Nat) "LetterForms$Desk") ∈ lw_all := lw_g (lw_at lw_m1 156 rfl) rfl
theorem q277 : (Jvm.Cond.methodLinkNest "LetterForms" (18 : Nat) ({ cls := "LetterForms$Desk", name := "<init>", desc := "()V" } : Jvm.MethodName) "LetterForms") ∈ lw_tbl := lw_at lw_m1 158 rfl
theorem q289 : (Jvm.Cond.fieldLinkNest "LetterForms" (145 : Nat) "LetterForms$Field" "p" "I" "LetterForms") ∈ lw_tbl := lw_at lw_m1 170 rfl
theorem q304 : (Jvm.Cond.fieldLinkNest "LetterForms" (160 : Nat) "LetterForms$Form" "a" "[I" "LetterForms") ∈ lw_tbl := lw_at lw_m1 185 rfl
theorem q309 : (Jvm.Cond.fieldLinkNest "LetterForms" (192 : Nat) "LetterForms$Form" "degree" "I" "LetterForms") ∈ lw_tbl := lw_at lw_m1 190 rfl
theorem q320 : (Jvm.Cond.fieldLinkNest "LetterForms" (141 : Nat) "LetterForms$Desk" "f" "LLetterForms$Field;" "LetterForms") ∈ lw_tbl := lw_at lw_m1 201 rfl
theorem q339 : (Jvm.Cond.classLink "LetterForms" (23 : Nat) "LetterForms$State") ∈ lw_all := lw_g (lw_at lw_m1 220 rfl) rfl
theorem q341 : (Jvm.Cond.methodLink "LetterForms" (25 : Nat) ({ cls := "LetterForms$State", name := "<init>", desc := "()V" } : Jvm.MethodName)) ∈ lw_all := lw_g (lw_at lw_m1 222 rfl) rfl
theorem q363 : (Jvm.Cond.fieldLinkNest "LetterForms" (236 : Nat) "LetterForms$Act" "before" "LLetterForms$Form;" "LetterForms") ∈ lw_tbl := lw_at lw_m2 4 rfl
theorem q366 : (Jvm.Cond.fieldLinkNest "LetterForms" (239 : Nat) "LetterForms$Act" "behind" "LLetterForms$Form;" "LetterForms") ∈ lw_tbl := lw_at lw_m2 7 rfl
theorem q369 : (Jvm.Cond.fieldLinkNest "LetterForms" (231 : Nat) "LetterForms$Act" "form" "I" "LetterForms") ∈ lw_tbl := lw_at lw_m2 10 rfl
theorem q378 : (Jvm.Cond.fieldLinkNest "LetterForms" (105 : Nat) "LetterForms$State" "forms" "[LLetterForms$Form;" "LetterForms") ∈ lw_tbl := lw_at lw_m2 19 rfl
theorem q380 : (Jvm.Cond.fieldLinkNest "LetterForms" (111 : Nat) "LetterForms$State" "tables" "[[I" "LetterForms") ∈ lw_tbl := lw_at lw_m2 21 rfl
theorem q382 : (Jvm.Cond.fieldLinkNest "LetterForms" (117 : Nat) "LetterForms$State" "signs" "[LLetterForms$Sign;" "LetterForms") ∈ lw_tbl := lw_at lw_m2 23 rfl
theorem q384 : (Jvm.Cond.fieldLinkNest "LetterForms" (227 : Nat) "LetterForms$State" "acts" "[LLetterForms$Act;" "LetterForms") ∈ lw_tbl := lw_at lw_m2 25 rfl
theorem q386 : (Jvm.Cond.fieldLinkNest "LetterForms" (138 : Nat) "LetterForms$State" "p" "I" "LetterForms") ∈ lw_tbl := lw_at lw_m2 27 rfl
theorem q388 : (Jvm.Cond.fieldLinkNest "LetterForms" (94 : Nat) "LetterForms$State" "formMany" "I" "LetterForms") ∈ lw_tbl := lw_at lw_m2 29 rfl
theorem q390 : (Jvm.Cond.fieldLinkNest "LetterForms" (108 : Nat) "LetterForms$State" "tableMany" "I" "LetterForms") ∈ lw_tbl := lw_at lw_m2 31 rfl
theorem q392 : (Jvm.Cond.fieldLinkNest "LetterForms" (114 : Nat) "LetterForms$State" "signMany" "I" "LetterForms") ∈ lw_tbl := lw_at lw_m2 33 rfl
theorem q394 : (Jvm.Cond.fieldLinkNest "LetterForms" (170 : Nat) "LetterForms$State" "actMany" "I" "LetterForms") ∈ lw_tbl := lw_at lw_m2 35 rfl
theorem q396 : (Jvm.Cond.fieldLinkNest "LetterForms" (167 : Nat) "LetterForms$State" "done" "I" "LetterForms") ∈ lw_tbl := lw_at lw_m2 37 rfl
theorem q418 : (Jvm.Cond.classLink "LetterForms" (33 : Nat) "LetterForms$Form") ∈ lw_all := lw_g (lw_at lw_m2 59 rfl) rfl
theorem q419 : (Jvm.Cond.methodLinkNest "LetterForms" (39 : Nat) ({ cls := "LetterForms$Form", name := "<init>", desc := "()V" } : Jvm.MethodName) "LetterForms") ∈ lw_tbl := lw_at lw_m2 60 rfl
theorem q420 : (Jvm.Cond.classLink "LetterForms" (53 : Nat) "[[I") ∈ lw_all := lw_g (lw_at lw_m2 61 rfl) rfl
theorem q421 : (Jvm.Cond.fieldLink "LetterForms" (10 : Nat) "LetterForms" "reader" "LLetterForms$Reader;") ∈ lw_all := lw_g (lw_at lw_m2 62 rfl) rfl
theorem q422 : (Jvm.Cond.fieldLink "LetterForms" (19 : Nat) "LetterForms" "desk" "LLetterForms$Desk;") ∈ lw_all := lw_g (lw_at lw_m2 63 rfl) rfl
theorem q426 : (Jvm.Cond.fieldLink "LetterForms" (26 : Nat) "LetterForms" "now" "LLetterForms$State;") ∈ lw_all := lw_g (lw_at lw_m2 67 rfl) rfl
theorem q427 : (Jvm.Cond.fieldLink "LetterForms" (30 : Nat) "LetterForms" "image" "LLetterForms$State;") ∈ lw_all := lw_g (lw_at lw_m2 68 rfl) rfl
theorem q428 : (Jvm.Cond.fieldLink "LetterForms" (35 : Nat) "LetterForms" "shelves" "[LLetterForms$Form;") ∈ lw_all := lw_g (lw_at lw_m2 69 rfl) rfl
theorem q433 : (Jvm.Cond.fieldLink "LetterForms" (40 : Nat) "LetterForms" "work" "LLetterForms$Form;") ∈ lw_all := lw_g (lw_at lw_m2 74 rfl) rfl
theorem q434 : (Jvm.Cond.fieldLink "LetterForms" (44 : Nat) "LetterForms" "other" "LLetterForms$Form;") ∈ lw_all := lw_g (lw_at lw_m2 75 rfl) rfl
theorem q435 : (Jvm.Cond.fieldLink "LetterForms" (47 : Nat) "LetterForms" "third" "LLetterForms$Form;") ∈ lw_all := lw_g (lw_at lw_m2 76 rfl) rfl
theorem q436 : (Jvm.Cond.fieldLink "LetterForms" (50 : Nat) "LetterForms" "drawn" "LLetterForms$Form;") ∈ lw_all := lw_g (lw_at lw_m2 77 rfl) rfl
theorem q437 : (Jvm.Cond.fieldLink "LetterForms" (55 : Nat) "LetterForms" "rows" "[[I") ∈ lw_all := lw_g (lw_at lw_m2 78 rfl) rfl
theorem q438 : (Jvm.Cond.fieldLink "LetterForms" (58 : Nat) "LetterForms" "lines" "[[I") ∈ lw_all := lw_g (lw_at lw_m2 79 rfl) rfl
theorem q439 : (Jvm.Cond.fieldLink "LetterForms" (61 : Nat) "LetterForms" "points" "[I") ∈ lw_all := lw_g (lw_at lw_m2 80 rfl) rfl
theorem q440 : (Jvm.Cond.fieldLink "LetterForms" (65 : Nat) "LetterForms" "numbers" "[I") ∈ lw_all := lw_g (lw_at lw_m2 81 rfl) rfl
theorem q441 : (Jvm.Cond.fieldLink "LetterForms" (68 : Nat) "LetterForms" "whole" "[J") ∈ lw_all := lw_g (lw_at lw_m2 82 rfl) rfl
theorem q442 : (Jvm.Cond.fieldLink "LetterForms" (72 : Nat) "LetterForms" "leads" "[J") ∈ lw_all := lw_g (lw_at lw_m2 83 rfl) rfl
theorem q443 : (Jvm.Cond.fieldLink "LetterForms" (75 : Nat) "LetterForms" "firsts" "[I") ∈ lw_all := lw_g (lw_at lw_m2 84 rfl) rfl
theorem q444 : (Jvm.Cond.fieldLink "LetterForms" (78 : Nat) "LetterForms" "wrongAt" "I") ∈ lw_all := lw_g (lw_at lw_m2 85 rfl) rfl
theorem q445 : (Jvm.Cond.fieldLink "LetterForms" (349 : Nat) "LetterForms" "changes" "I") ∈ lw_all := lw_g (lw_at lw_m2 86 rfl) rfl
theorem q446 : (Jvm.Cond.fieldLink "LetterForms" (420 : Nat) "LetterForms" "kept" "Z") ∈ lw_all := lw_g (lw_at lw_m2 87 rfl) rfl
theorem q447 : (Jvm.Cond.laysFinal "LetterForms" "LetterForms" "reader" "LLetterForms$Reader;") ∈ lw_all := lw_g (lw_at lw_m2 88 rfl) rfl
theorem q448 : (Jvm.Cond.soleField "LetterForms" "reader") ∈ lw_all := lw_g (lw_at lw_m2 89 rfl) rfl
theorem q449 : (Jvm.Cond.laysFinal "LetterForms" "LetterForms" "desk" "LLetterForms$Desk;") ∈ lw_all := lw_g (lw_at lw_m2 90 rfl) rfl
theorem q450 : (Jvm.Cond.soleField "LetterForms" "desk") ∈ lw_all := lw_g (lw_at lw_m2 91 rfl) rfl
theorem q451 : (Jvm.Cond.laysFinal "LetterForms" "LetterForms" "now" "LLetterForms$State;") ∈ lw_all := lw_g (lw_at lw_m2 92 rfl) rfl
theorem q452 : (Jvm.Cond.soleField "LetterForms" "now") ∈ lw_all := lw_g (lw_at lw_m2 93 rfl) rfl
theorem q453 : (Jvm.Cond.laysFinal "LetterForms" "LetterForms" "image" "LLetterForms$State;") ∈ lw_all := lw_g (lw_at lw_m2 94 rfl) rfl
theorem q454 : (Jvm.Cond.soleField "LetterForms" "image") ∈ lw_all := lw_g (lw_at lw_m2 95 rfl) rfl
theorem q455 : (Jvm.Cond.laysFinal "LetterForms" "LetterForms" "shelves" "[LLetterForms$Form;") ∈ lw_all := lw_g (lw_at lw_m2 96 rfl) rfl
theorem q456 : (Jvm.Cond.soleField "LetterForms" "shelves") ∈ lw_all := lw_g (lw_at lw_m2 97 rfl) rfl
theorem q457 : (Jvm.Cond.laysFinal "LetterForms" "LetterForms" "work" "LLetterForms$Form;") ∈ lw_all := lw_g (lw_at lw_m2 98 rfl) rfl
theorem q458 : (Jvm.Cond.soleField "LetterForms" "work") ∈ lw_all := lw_g (lw_at lw_m2 99 rfl) rfl
theorem q459 : (Jvm.Cond.laysFinal "LetterForms" "LetterForms" "other" "LLetterForms$Form;") ∈ lw_all := lw_g (lw_at lw_m2 100 rfl) rfl
theorem q460 : (Jvm.Cond.soleField "LetterForms" "other") ∈ lw_all := lw_g (lw_at lw_m2 101 rfl) rfl
theorem q461 : (Jvm.Cond.laysFinal "LetterForms" "LetterForms" "third" "LLetterForms$Form;") ∈ lw_all := lw_g (lw_at lw_m2 102 rfl) rfl
theorem q462 : (Jvm.Cond.soleField "LetterForms" "third") ∈ lw_all := lw_g (lw_at lw_m2 103 rfl) rfl
theorem q463 : (Jvm.Cond.laysFinal "LetterForms" "LetterForms" "drawn" "LLetterForms$Form;") ∈ lw_all := lw_g (lw_at lw_m2 104 rfl) rfl
theorem q464 : (Jvm.Cond.soleField "LetterForms" "drawn") ∈ lw_all := lw_g (lw_at lw_m2 105 rfl) rfl
theorem q465 : (Jvm.Cond.laysFinal "LetterForms" "LetterForms" "rows" "[[I") ∈ lw_all := lw_g (lw_at lw_m2 106 rfl) rfl
theorem q466 : (Jvm.Cond.soleField "LetterForms" "rows") ∈ lw_all := lw_g (lw_at lw_m2 107 rfl) rfl
theorem q467 : (Jvm.Cond.laysFinal "LetterForms" "LetterForms" "lines" "[[I") ∈ lw_all := lw_g (lw_at lw_m2 108 rfl) rfl
theorem q468 : (Jvm.Cond.soleField "LetterForms" "lines") ∈ lw_all := lw_g (lw_at lw_m2 109 rfl) rfl
theorem q469 : (Jvm.Cond.laysFinal "LetterForms" "LetterForms" "points" "[I") ∈ lw_all := lw_g (lw_at lw_m2 110 rfl) rfl
theorem q470 : (Jvm.Cond.soleField "LetterForms" "points") ∈ lw_all := lw_g (lw_at lw_m2 111 rfl) rfl
theorem q471 : (Jvm.Cond.laysFinal "LetterForms" "LetterForms" "numbers" "[I") ∈ lw_all := lw_g (lw_at lw_m2 112 rfl) rfl
theorem q472 : (Jvm.Cond.soleField "LetterForms" "numbers") ∈ lw_all := lw_g (lw_at lw_m2 113 rfl) rfl
theorem q473 : (Jvm.Cond.laysFinal "LetterForms" "LetterForms" "whole" "[J") ∈ lw_all := lw_g (lw_at lw_m2 114 rfl) rfl
theorem q474 : (Jvm.Cond.soleField "LetterForms" "whole") ∈ lw_all := lw_g (lw_at lw_m2 115 rfl) rfl
theorem q475 : (Jvm.Cond.laysFinal "LetterForms" "LetterForms" "leads" "[J") ∈ lw_all := lw_g (lw_at lw_m2 116 rfl) rfl
theorem q476 : (Jvm.Cond.soleField "LetterForms" "leads") ∈ lw_all := lw_g (lw_at lw_m2 117 rfl) rfl
theorem q477 : (Jvm.Cond.laysFinal "LetterForms" "LetterForms" "firsts" "[I") ∈ lw_all := lw_g (lw_at lw_m2 118 rfl) rfl
theorem q478 : (Jvm.Cond.soleField "LetterForms" "firsts") ∈ lw_all := lw_g (lw_at lw_m2 119 rfl) rfl
theorem q479 : (Jvm.Cond.lays "LetterForms" "LetterForms" "wrongAt" "I") ∈ lw_all := lw_g (lw_at lw_m2 120 rfl) rfl
theorem q480 : (Jvm.Cond.soleField "LetterForms" "wrongAt") ∈ lw_all := lw_g (lw_at lw_m2 121 rfl) rfl
theorem q481 : (Jvm.Cond.lays "LetterForms" "LetterForms" "changes" "I") ∈ lw_all := lw_g (lw_at lw_m2 122 rfl) rfl
theorem q482 : (Jvm.Cond.soleField "LetterForms" "changes") ∈ lw_all := lw_g (lw_at lw_m2 123 rfl) rfl
theorem q483 : (Jvm.Cond.lays "LetterForms" "LetterForms" "kept" "Z") ∈ lw_all := lw_g (lw_at lw_m2 124 rfl) rfl
theorem q484 : (Jvm.Cond.soleField "LetterForms" "kept") ∈ lw_all := lw_g (lw_at lw_m2 125 rfl) rfl
theorem q485 : (Jvm.Cond.superclass "LetterForms" "java/lang/Object") ∈ lw_all := lw_g (lw_at lw_m2 126 rfl) rfl
theorem q488 : (Jvm.Cond.instanceMethod ({ cls := "LetterForms", name := "feed", desc := "(IIIII)I" } : Jvm.MethodName)) ∈ lw_all := lw_g (lw_at lw_m2 129 rfl) rfl
theorem q489 : (Jvm.Cond.selects "LetterForms" ({ cls := "LetterForms", name := "feed", desc := "(IIIII)I" } : Jvm.MethodName) ({ cls := "LetterForms", name := "feed", desc := "(IIIII)I" } : Jvm.MethodName)) ∈ lw_all := lw_g (lw_at lw_m2 130 rfl) rfl
theorem q490 : (Jvm.Cond.code ({ cls := "LetterForms", name := "feed", desc := "(IIIII)I" } : Jvm.MethodName) prog_1_method_11_code (6 : Nat) (Option.some Jvm.ClassFile.FieldType.int)) ∈ lw_all := lw_g (lw_at lw_m2 131 rfl) rfl
theorem q491 : (Jvm.Cond.methodLink "LetterForms" (128 : Nat) ({ cls := "LetterForms", name := "four", desc := "(I)V" } : Jvm.MethodName)) ∈ lw_all := lw_g (lw_at lw_m2 132 rfl) rfl
theorem q492 : (Jvm.Cond.privateMethod ({ cls := "LetterForms", name := "four", desc := "(I)V" } : Jvm.MethodName)) ∈ lw_tbl := lw_at lw_m2 133 rfl
theorem q493 : (Jvm.Cond.instanceMethod ({ cls := "LetterForms", name := "four", desc := "(I)V" } : Jvm.MethodName)) ∈ lw_all := lw_g (lw_at lw_m2 134 rfl) rfl
theorem q494 : (Jvm.Cond.code ({ cls := "LetterForms", name := "four", desc := "(I)V" } : Jvm.MethodName) prog_1_method_10_code (3 : Nat) (Option.none : Option Jvm.ClassFile.FieldType)) ∈ lw_all := lw_g (lw_at lw_m2 135 rfl) rfl
theorem q496 : (Jvm.Cond.instanceMethod ({ cls := "LetterForms", name := "end", desc := "(I)Z" } : Jvm.MethodName)) ∈ lw_all := lw_g (lw_at lw_m2 137 rfl) rfl
theorem q497 : (Jvm.Cond.selects "LetterForms" ({ cls := "LetterForms", name := "end", desc := "(I)Z" } : Jvm.MethodName) ({ cls := "LetterForms", name := "end", desc := "(I)Z" } : Jvm.MethodName)) ∈ lw_all := lw_g (lw_at lw_m2 138 rfl) rfl
theorem q498 : (Jvm.Cond.code ({ cls := "LetterForms", name := "end", desc := "(I)Z" } : Jvm.MethodName) prog_1_method_12_code (2 : Nat) (Option.some Jvm.ClassFile.FieldType.boolean)) ∈ lw_all := lw_g (lw_at lw_m2 139 rfl) rfl
theorem q499 : (Jvm.Cond.methodLink "LetterForms" (97 : Nat) ({ cls := "LetterForms", name := "isIn", desc := "(JJJ)Z" } : Jvm.MethodName)) ∈ lw_all := lw_g (lw_at lw_m2 140 rfl) rfl
theorem q500 : (Jvm.Cond.static ({ cls := "LetterForms", name := "isIn", desc := "(JJJ)Z" } : Jvm.MethodName)) ∈ lw_all := lw_g (lw_at lw_m2 141 rfl) rfl
theorem q501 : (Jvm.Cond.code ({ cls := "LetterForms", name := "isIn", desc := "(JJJ)Z" } : Jvm.MethodName) prog_1_method_6_code (6 : Nat) (Option.some Jvm.ClassFile.FieldType.boolean)) ∈ lw_all := lw_g (lw_at lw_m2 142 rfl) rfl
theorem q503 : (Jvm.Cond.instanceMethod ({ cls := "LetterForms", name := "fault", desc := "()I" } : Jvm.MethodName)) ∈ lw_all := lw_g (lw_at lw_m2 144 rfl) rfl
theorem q504 : (Jvm.Cond.selects "LetterForms" ({ cls := "LetterForms", name := "fault", desc := "()I" } : Jvm.MethodName) ({ cls := "LetterForms", name := "fault", desc := "()I" } : Jvm.MethodName)) ∈ lw_all := lw_g (lw_at lw_m2 145 rfl) rfl
theorem q505 : (Jvm.Cond.code ({ cls := "LetterForms", name := "fault", desc := "()I" } : Jvm.MethodName) prog_1_method_19_code (1 : Nat) (Option.some Jvm.ClassFile.FieldType.int)) ∈ lw_all := lw_g (lw_at lw_m2 146 rfl) rfl
theorem q507 : (Jvm.Cond.instanceMethod ({ cls := "LetterForms", name := "undo", desc := "()I" } : Jvm.MethodName)) ∈ lw_all := lw_g (lw_at lw_m2 148 rfl) rfl
theorem q508 : (Jvm.Cond.selects "LetterForms" ({ cls := "LetterForms", name := "undo", desc := "()I" } : Jvm.MethodName) ({ cls := "LetterForms", name := "undo", desc := "()I" } : Jvm.MethodName)) ∈ lw_all := lw_g (lw_at lw_m2 149 rfl) rfl
theorem q509 : (Jvm.Cond.code ({ cls := "LetterForms", name := "undo", desc := "()I" } : Jvm.MethodName) prog_1_method_25_code (2 : Nat) (Option.some Jvm.ClassFile.FieldType.int)) ∈ lw_all := lw_g (lw_at lw_m2 150 rfl) rfl
theorem q510 : (Jvm.Cond.methodLink "LetterForms" (223 : Nat) ({ cls := "LetterForms$Form", name := "be", desc := "(LLetterForms$Form;)V" } : Jvm.MethodName)) ∈ lw_all := lw_g (lw_at lw_m2 151 rfl) rfl
theorem q518 : (Jvm.Cond.instanceMethod ({ cls := "LetterForms", name := "redo", desc := "()I" } : Jvm.MethodName)) ∈ lw_all := lw_g (lw_at lw_m2 159 rfl) rfl
theorem q519 : (Jvm.Cond.selects "LetterForms" ({ cls := "LetterForms", name := "redo", desc := "()I" } : Jvm.MethodName) ({ cls := "LetterForms", name := "redo", desc := "()I" } : Jvm.MethodName)) ∈ lw_all := lw_g (lw_at lw_m2 160 rfl) rfl
theorem q520 : (Jvm.Cond.code ({ cls := "LetterForms", name := "redo", desc := "()I" } : Jvm.MethodName) prog_1_method_26_code (2 : Nat) (Option.some Jvm.ClassFile.FieldType.int)) ∈ lw_all := lw_g (lw_at lw_m2 161 rfl) rfl
theorem q522 : (Jvm.Cond.instanceMethod ({ cls := "LetterForms", name := "image", desc := "()V" } : Jvm.MethodName)) ∈ lw_all := lw_g (lw_at lw_m2 163 rfl) rfl
theorem q523 : (Jvm.Cond.selects "LetterForms" ({ cls := "LetterForms", name := "image", desc := "()V" } : Jvm.MethodName) ({ cls := "LetterForms", name := "image", desc := "()V" } : Jvm.MethodName)) ∈ lw_all := lw_g (lw_at lw_m2 164 rfl) rfl
theorem q524 : (Jvm.Cond.code ({ cls := "LetterForms", name := "image", desc := "()V" } : Jvm.MethodName) prog_1_method_74_code (1 : Nat) (Option.none : Option Jvm.ClassFile.FieldType)) ∈ lw_all := lw_g (lw_at lw_m2 165 rfl) rfl
theorem q525 : (Jvm.Cond.methodLink "LetterForms" (417 : Nat) ({ cls := "LetterForms$State", name := "be", desc := "(LLetterForms$State;)V" } : Jvm.MethodName)) ∈ lw_all := lw_g (lw_at lw_m2 166 rfl) rfl
theorem q537 : (Jvm.Cond.instanceMethod ({ cls := "LetterForms", name := "back", desc := "()Z" } : Jvm.MethodName)) ∈ lw_all := lw_g (lw_at lw_m2 178 rfl) rfl
theorem q538 : (Jvm.Cond.selects "LetterForms" ({ cls := "LetterForms", name := "back", desc := "()Z" } : Jvm.MethodName) ({ cls := "LetterForms", name := "back", desc := "()Z" } : Jvm.MethodName)) ∈ lw_all := lw_g (lw_at lw_m2 179 rfl) rfl
theorem q539 : (Jvm.Cond.code ({ cls := "LetterForms", name := "back", desc := "()Z" } : Jvm.MethodName) prog_1_method_75_code (1 : Nat) (Option.some Jvm.ClassFile.FieldType.boolean)) ∈ lw_all := lw_g (lw_at lw_m2 180 rfl) rfl
theorem q541 : (Jvm.Cond.instanceMethod ({ cls := "LetterForms", name := "stock", desc := "(I)I" } : Jvm.MethodName)) ∈ lw_all := lw_g (lw_at lw_m2 182 rfl) rfl
theorem q542 : (Jvm.Cond.selects "LetterForms" ({ cls := "LetterForms", name := "stock", desc := "(I)I" } : Jvm.MethodName) ({ cls := "LetterForms", name := "stock", desc := "(I)I" } : Jvm.MethodName)) ∈ lw_all := lw_g (lw_at lw_m2 183 rfl) rfl
theorem q543 : (Jvm.Cond.code ({ cls := "LetterForms", name := "stock", desc := "(I)I" } : Jvm.MethodName) prog_1_method_76_code (4 : Nat) (Option.some Jvm.ClassFile.FieldType.int)) ∈ lw_all := lw_g (lw_at lw_m2 184 rfl) rfl
theorem q544 : (Jvm.Cond.methodLink "LetterForms" (321 : Nat) ({ cls := "LetterForms$Form", name := "isNought", desc := "()Z" } : Jvm.MethodName)) ∈ lw_all := lw_g (lw_at lw_m2 185 rfl) rfl
theorem q554 : (Jvm.Cond.instanceMethod ({ cls := "LetterForms", name := "field", desc := "(I)V" } : Jvm.MethodName)) ∈ lw_all := lw_g (lw_at lw_m2 195 rfl) rfl
theorem q555 : (Jvm.Cond.selects "LetterForms" ({ cls := "LetterForms", name := "field", desc := "(I)V" } : Jvm.MethodName) ({ cls := "LetterForms", name := "field", desc := "(I)V" } : Jvm.MethodName)) ∈ lw_all := lw_g (lw_at lw_m2 196 rfl) rfl
theorem q556 : (Jvm.Cond.code ({ cls := "LetterForms", name := "field", desc := "(I)V" } : Jvm.MethodName) prog_1_method_14_code (2 : Nat) (Option.none : Option Jvm.ClassFile.FieldType)) ∈ lw_all := lw_g (lw_at lw_m2 197 rfl) rfl
theorem q557 : (Jvm.Cond.methodLink "LetterForms" (132 : Nat) ({ cls := "LetterForms", name := "must", desc := "(Z)V" } : Jvm.MethodName)) ∈ lw_all := lw_g (lw_at lw_m2 198 rfl) rfl
theorem q558 : (Jvm.Cond.static ({ cls := "LetterForms", name := "must", desc := "(Z)V" } : Jvm.MethodName)) ∈ lw_all := lw_g (lw_at lw_m2 199 rfl) rfl
theorem q559 : (Jvm.Cond.code ({ cls := "LetterForms", name := "must", desc := "(Z)V" } : Jvm.MethodName) prog_1_method_2_code (1 : Nat) (Option.none : Option Jvm.ClassFile.FieldType)) ∈ lw_all := lw_g (lw_at lw_m2 200 rfl) rfl
theorem q560 : (Jvm.Cond.classLink "LetterForms" (82 : Nat) "java/lang/IllegalArgumentException") ∈ lw_all := lw_g (lw_at lw_m2 201 rfl) rfl
theorem q569 : (Jvm.Cond.methodLink "LetterForms" (84 : Nat) ({ cls := "java/lang/IllegalArgumentException", name := "<init>", desc := "()V" } : Jvm.MethodName)) ∈ lw_all := lw_g (lw_at lw_m2 210 rfl) rfl
theorem q581 : (Jvm.Cond.classLink "LetterForms" (135 : Nat) "java/lang/IllegalStateException") ∈ lw_all := lw_g (lw_at lw_m2 222 rfl) rfl
theorem q590 : (Jvm.Cond.methodLink "LetterForms" (137 : Nat) ({ cls := "java/lang/IllegalStateException", name := "<init>", desc := "()V" } : Jvm.MethodName)) ∈ lw_all := lw_g (lw_at lw_m2 231 rfl) rfl
theorem q601 : (Jvm.Cond.instanceMethod ({ cls := "LetterForms", name := "form", desc := "()I" } : Jvm.MethodName)) ∈ lw_all := lw_g (lw_at lw_m3 2 rfl) rfl
theorem q602 : (Jvm.Cond.selects "LetterForms" ({ cls := "LetterForms", name := "form", desc := "()I" } : Jvm.MethodName) ({ cls := "LetterForms", name := "form", desc := "()I" } : Jvm.MethodName)) ∈ lw_all := lw_g (lw_at lw_m3 3 rfl) rfl
theorem q603 : (Jvm.Cond.code ({ cls := "LetterForms", name := "form", desc := "()I" } : Jvm.MethodName) prog_1_method_15_code (4 : Nat) (Option.some Jvm.ClassFile.FieldType.int)) ∈ lw_all := lw_g (lw_at lw_m3 4 rfl) rfl
theorem q604 : (Jvm.Cond.methodLink "LetterForms" (148 : Nat) ({ cls := "LetterForms", name := "took", desc := "()I" } : Jvm.MethodName)) ∈ lw_all := lw_g (lw_at lw_m3 5 rfl) rfl
theorem q605 : (Jvm.Cond.privateMethod ({ cls := "LetterForms", name := "took", desc := "()I" } : Jvm.MethodName)) ∈ lw_tbl := lw_at lw_m3 6 rfl
theorem q606 : (Jvm.Cond.instanceMethod ({ cls := "LetterForms", name := "took", desc := "()I" } : Jvm.MethodName)) ∈ lw_all := lw_g (lw_at lw_m3 7 rfl) rfl
theorem q607 : (Jvm.Cond.code ({ cls := "LetterForms", name := "took", desc := "()I" } : Jvm.MethodName) prog_1_method_13_code (2 : Nat) (Option.some Jvm.ClassFile.FieldType.int)) ∈ lw_all := lw_g (lw_at lw_m3 8 rfl) rfl
theorem q608 : (Jvm.Cond.constantLong "LetterForms" (152 : Nat) (9 : Int64)) ∈ lw_all := lw_g (lw_at lw_m3 9 rfl) rfl
theorem q609 : (Jvm.Cond.methodLink "LetterForms" (154 : Nat) ({ cls := "LetterForms", name := "mayBe", desc := "(Z)V" } : Jvm.MethodName)) ∈ lw_all := lw_g (lw_at lw_m3 10 rfl) rfl
theorem q610 : (Jvm.Cond.static ({ cls := "LetterForms", name := "mayBe", desc := "(Z)V" } : Jvm.MethodName)) ∈ lw_all := lw_g (lw_at lw_m3 11 rfl) rfl
theorem q611 : (Jvm.Cond.code ({ cls := "LetterForms", name := "mayBe", desc := "(Z)V" } : Jvm.MethodName) prog_1_method_3_code (1 : Nat) (Option.none : Option Jvm.ClassFile.FieldType)) ∈ lw_all := lw_g (lw_at lw_m3 12 rfl) rfl
theorem q612 : (Jvm.Cond.classLink "LetterForms" (85 : Nat) "java/lang/UnsupportedOperationException") ∈ lw_all := lw_g (lw_at lw_m3 13 rfl) rfl
theorem q621 : (Jvm.Cond.methodLink "LetterForms" (87 : Nat) ({ cls := "java/lang/UnsupportedOperationException", name := "<init>", desc := "()V" } : Jvm.MethodName)) ∈ lw_all := lw_g (lw_at lw_m3 22 rfl) rfl
theorem q627 : (Jvm.Cond.methodLink "LetterForms" (157 : Nat) ({ cls := "LetterForms$Form", name := "nought", desc := "(I)V" } : Jvm.MethodName)) ∈ lw_all := lw_g (lw_at lw_m3 28 rfl) rfl
theorem q631 : (Jvm.Cond.methodLink "LetterForms" (163 : Nat) ({ cls := "LetterForms$Field", name := "of", desc := "(J)I" } : Jvm.MethodName)) ∈ lw_all := lw_g (lw_at lw_m3 32 rfl) rfl
theorem q639 : (Jvm.Cond.instanceMethod ({ cls := "LetterForms", name := "table", desc := "(IIII)I" } : Jvm.MethodName)) ∈ lw_all := lw_g (lw_at lw_m3 40 rfl) rfl
theorem q640 : (Jvm.Cond.selects "LetterForms" ({ cls := "LetterForms", name := "table", desc := "(IIII)I" } : Jvm.MethodName) ({ cls := "LetterForms", name := "table", desc := "(IIII)I" } : Jvm.MethodName)) ∈ lw_all := lw_g (lw_at lw_m3 41 rfl) rfl
theorem q641 : (Jvm.Cond.code ({ cls := "LetterForms", name := "table", desc := "(IIII)I" } : Jvm.MethodName) prog_1_method_17_code (6 : Nat) (Option.some Jvm.ClassFile.FieldType.int)) ∈ lw_all := lw_g (lw_at lw_m3 42 rfl) rfl
theorem q642 : (Jvm.Cond.methodLink "LetterForms" (173 : Nat) ({ cls := "LetterForms", name := "detOf", desc := "(IIII)I" } : Jvm.MethodName)) ∈ lw_all := lw_g (lw_at lw_m3 43 rfl) rfl
theorem q643 : (Jvm.Cond.privateMethod ({ cls := "LetterForms", name := "detOf", desc := "(IIII)I" } : Jvm.MethodName)) ∈ lw_tbl := lw_at lw_m3 44 rfl
theorem q644 : (Jvm.Cond.instanceMethod ({ cls := "LetterForms", name := "detOf", desc := "(IIII)I" } : Jvm.MethodName)) ∈ lw_all := lw_g (lw_at lw_m3 45 rfl) rfl
theorem q645 : (Jvm.Cond.code ({ cls := "LetterForms", name := "detOf", desc := "(IIII)I" } : Jvm.MethodName) prog_1_method_16_code (5 : Nat) (Option.some Jvm.ClassFile.FieldType.int)) ∈ lw_all := lw_g (lw_at lw_m3 46 rfl) rfl
theorem q646 : (Jvm.Cond.methodLink "LetterForms" (177 : Nat) ({ cls := "java/lang/System", name := "arraycopy", desc := "(Ljava/lang/Object;ILjava/lang/Object;II)V" } : Jvm.MethodName)) ∈ lw_all := lw_g (lw_at lw_m3 47 rfl) rfl
theorem q651 : (Jvm.Cond.instanceMethod ({ cls := "LetterForms", name := "signs", desc := "()I" } : Jvm.MethodName)) ∈ lw_all := lw_g (lw_at lw_m3 52 rfl) rfl
theorem q652 : (Jvm.Cond.selects "LetterForms" ({ cls := "LetterForms", name := "signs", desc := "()I" } : Jvm.MethodName) ({ cls := "LetterForms", name := "signs", desc := "()I" } : Jvm.MethodName)) ∈ lw_all := lw_g (lw_at lw_m3 53 rfl) rfl
theorem q653 : (Jvm.Cond.codeWith ({ cls := "LetterForms", name := "signs", desc := "()I" } : Jvm.MethodName) prog_1_method_18_code (4 : Nat) (Option.some Jvm.ClassFile.FieldType.int) [((10 : Nat), (19 : Nat), (22 : Nat), (187 : Nat))]) ∈ lw_all := lw_g (lw_at lw_m3 54 rfl) rfl
theorem q654 : (Jvm.Cond.classLink "LetterForms" (187 : Nat) "LetterForms$Wrong") ∈ lw_all := lw_g (lw_at lw_m3 55 rfl) rfl
theorem q655 : (Jvm.Cond.methodLink "LetterForms" (183 : Nat) ({ cls := "LetterForms$Reader", name := "text", desc := "(I)LLetterForms$Sign;" } : Jvm.MethodName)) ∈ lw_all := lw_g (lw_at lw_m3 56 rfl) rfl
theorem q796 : (Jvm.Cond.instanceMethod ({ cls := "LetterForms", name := "look", desc := "(II)I" } : Jvm.MethodName)) ∈ lw_all := lw_g (lw_at lw_m3 197 rfl) rfl
theorem q797 : (Jvm.Cond.selects "LetterForms" ({ cls := "LetterForms", name := "look", desc := "(II)I" } : Jvm.MethodName) ({ cls := "LetterForms", name := "look", desc := "(II)I" } : Jvm.MethodName)) ∈ lw_all := lw_g (lw_at lw_m3 198 rfl) rfl
theorem q798 : (Jvm.Cond.code ({ cls := "LetterForms", name := "look", desc := "(II)I" } : Jvm.MethodName) prog_1_method_21_code (3 : Nat) (Option.some Jvm.ClassFile.FieldType.int)) ∈ lw_all := lw_g (lw_at lw_m3 199 rfl) rfl
theorem q799 : (Jvm.Cond.methodLink "LetterForms" (195 : Nat) ({ cls := "LetterForms", name := "formAt", desc := "(I)LLetterForms$Form;" } : Jvm.MethodName)) ∈ lw_all := lw_g (lw_at lw_m3 200 rfl) rfl
theorem q800 : (Jvm.Cond.privateMethod ({ cls := "LetterForms", name := "formAt", desc := "(I)LLetterForms$Form;" } : Jvm.MethodName)) ∈ lw_tbl := lw_at lw_m3 201 rfl
theorem q801 : (Jvm.Cond.instanceMethod ({ cls := "LetterForms", name := "formAt", desc := "(I)LLetterForms$Form;" } : Jvm.MethodName)) ∈ lw_all := lw_g (lw_at lw_m3 202 rfl) rfl
theorem q802 : (Jvm.Cond.code ({ cls := "LetterForms", name := "formAt", desc := "(I)LLetterForms$Form;" } : Jvm.MethodName) prog_1_method_7_code (2 : Nat) (Option.some (Jvm.ClassFile.FieldType.object "LetterForms$Form"))) ∈ lw_all := lw_g (lw_at lw_m3 203 rfl) rfl
theorem q803 : (Jvm.Cond.methodLink "LetterForms" (101 : Nat) ({ cls := "LetterForms", name := "mustBe", desc := "(Z)V" } : Jvm.MethodName)) ∈ lw_all := lw_g (lw_at lw_m3 204 rfl) rfl
theorem q804 : (Jvm.Cond.static ({ cls := "LetterForms", name := "mustBe", desc := "(Z)V" } : Jvm.MethodName)) ∈ lw_all := lw_g (lw_at lw_m3 205 rfl) rfl
theorem q805 : (Jvm.Cond.code ({ cls := "LetterForms", name := "mustBe", desc := "(Z)V" } : Jvm.MethodName) prog_1_method_4_code (1 : Nat) (Option.none : Option Jvm.ClassFile.FieldType)) ∈ lw_all := lw_g (lw_at lw_m3 206 rfl) rfl
theorem q806 : (Jvm.Cond.classLink "LetterForms" (88 : Nat) "java/lang/IndexOutOfBoundsException") ∈ lw_all := lw_g (lw_at lw_m3 207 rfl) rfl
theorem q815 : (Jvm.Cond.methodLink "LetterForms" (90 : Nat) ({ cls := "java/lang/IndexOutOfBoundsException", name := "<init>", desc := "()V" } : Jvm.MethodName)) ∈ lw_all := lw_g (lw_at lw_m3 216 rfl) rfl
theorem q821 : (Jvm.Cond.methodLink "LetterForms" (199 : Nat) ({ cls := "LetterForms", name := "tells", desc := "(LLetterForms$Form;I)I" } : Jvm.MethodName)) ∈ lw_all := lw_g (lw_at lw_m3 222 rfl) rfl
theorem q822 : (Jvm.Cond.static ({ cls := "LetterForms", name := "tells", desc := "(LLetterForms$Form;I)I" } : Jvm.MethodName)) ∈ lw_all := lw_g (lw_at lw_m3 223 rfl) rfl
theorem q823 : (Jvm.Cond.code ({ cls := "LetterForms", name := "tells", desc := "(LLetterForms$Form;I)I" } : Jvm.MethodName) prog_1_method_20_code (2 : Nat) (Option.some Jvm.ClassFile.FieldType.int)) ∈ lw_all := lw_g (lw_at lw_m3 224 rfl) rfl
theorem q828 : (Jvm.Cond.instanceMethod ({ cls := "LetterForms", name := "at", desc := "(III)I" } : Jvm.MethodName)) ∈ lw_all := lw_g (lw_at lw_m3 229 rfl) rfl
theorem q829 : (Jvm.Cond.selects "LetterForms" ({ cls := "LetterForms", name := "at", desc := "(III)I" } : Jvm.MethodName) ({ cls := "LetterForms", name := "at", desc := "(III)I" } : Jvm.MethodName)) ∈ lw_all := lw_g (lw_at lw_m3 230 rfl) rfl
theorem q830 : (Jvm.Cond.code ({ cls := "LetterForms", name := "at", desc := "(III)I" } : Jvm.MethodName) prog_1_method_22_code (5 : Nat) (Option.some Jvm.ClassFile.FieldType.int)) ∈ lw_all := lw_g (lw_at lw_m3 231 rfl) rfl
theorem q831 : (Jvm.Cond.methodLink "LetterForms" (203 : Nat) ({ cls := "LetterForms$Desk", name := "at", desc := "(LLetterForms$Form;II)I" } : Jvm.MethodName)) ∈ lw_all := lw_g (lw_at lw_m3 232 rfl) rfl
theorem q845 : (Jvm.Cond.instanceMethod ({ cls := "LetterForms", name := "det", desc := "(I)I" } : Jvm.MethodName)) ∈ lw_all := lw_g (lw_at lw_m4 6 rfl) rfl
theorem q846 : (Jvm.Cond.selects "LetterForms" ({ cls := "LetterForms", name := "det", desc := "(I)I" } : Jvm.MethodName) ({ cls := "LetterForms", name := "det", desc := "(I)I" } : Jvm.MethodName)) ∈ lw_all := lw_g (lw_at lw_m4 7 rfl) rfl
theorem q847 : (Jvm.Cond.code ({ cls := "LetterForms", name := "det", desc := "(I)I" } : Jvm.MethodName) prog_1_method_23_code (3 : Nat) (Option.some Jvm.ClassFile.FieldType.int)) ∈ lw_all := lw_g (lw_at lw_m4 8 rfl) rfl
theorem q848 : (Jvm.Cond.methodLink "LetterForms" (207 : Nat) ({ cls := "LetterForms", name := "tableAt", desc := "(I)[I" } : Jvm.MethodName)) ∈ lw_all := lw_g (lw_at lw_m4 9 rfl) rfl
theorem q849 : (Jvm.Cond.privateMethod ({ cls := "LetterForms", name := "tableAt", desc := "(I)[I" } : Jvm.MethodName)) ∈ lw_tbl := lw_at lw_m4 10 rfl
theorem q850 : (Jvm.Cond.instanceMethod ({ cls := "LetterForms", name := "tableAt", desc := "(I)[I" } : Jvm.MethodName)) ∈ lw_all := lw_g (lw_at lw_m4 11 rfl) rfl
theorem q851 : (Jvm.Cond.code ({ cls := "LetterForms", name := "tableAt", desc := "(I)[I" } : Jvm.MethodName) prog_1_method_8_code (2 : Nat) (Option.some (Jvm.ClassFile.FieldType.array Jvm.ClassFile.FieldType.int))) ∈ lw_all := lw_g (lw_at lw_m4 12 rfl) rfl
theorem q856 : (Jvm.Cond.instanceMethod ({ cls := "LetterForms", name := "mix", desc := "(II)Z" } : Jvm.MethodName)) ∈ lw_all := lw_g (lw_at lw_m4 17 rfl) rfl
theorem q857 : (Jvm.Cond.selects "LetterForms" ({ cls := "LetterForms", name := "mix", desc := "(II)Z" } : Jvm.MethodName) ({ cls := "LetterForms", name := "mix", desc := "(II)Z" } : Jvm.MethodName)) ∈ lw_all := lw_g (lw_at lw_m4 18 rfl) rfl
theorem q858 : (Jvm.Cond.code ({ cls := "LetterForms", name := "mix", desc := "(II)Z" } : Jvm.MethodName) prog_1_method_24_code (6 : Nat) (Option.some Jvm.ClassFile.FieldType.boolean)) ∈ lw_all := lw_g (lw_at lw_m4 19 rfl) rfl
theorem q859 : (Jvm.Cond.methodLink "LetterForms" (211 : Nat) ({ cls := "LetterForms$Desk", name := "mixed", desc := "(LLetterForms$Form;IIIILLetterForms$Form;)V" } : Jvm.MethodName)) ∈ lw_all := lw_g (lw_at lw_m4 20 rfl) rfl
theorem q869 : (Jvm.Cond.methodLink "LetterForms" (215 : Nat) ({ cls := "LetterForms$Form", name := "same", desc := "(LLetterForms$Form;)Z" } : Jvm.MethodName)) ∈ lw_all := lw_g (lw_at lw_m4 30 rfl) rfl
theorem q873 : (Jvm.Cond.methodLink "LetterForms" (219 : Nat) ({ cls := "LetterForms$State", name := "writes", desc := "(ILLetterForms$Form;LLetterForms$Form;)V" } : Jvm.MethodName)) ∈ lw_all := lw_g (lw_at lw_m4 34 rfl) rfl
theorem q881 : (Jvm.Cond.instanceMethod ({ cls := "LetterForms", name := "value", desc := "(III)I" } : Jvm.MethodName)) ∈ lw_all := lw_g (lw_at lw_m4 42 rfl) rfl
theorem q882 : (Jvm.Cond.selects "LetterForms" ({ cls := "LetterForms", name := "value", desc := "(III)I" } : Jvm.MethodName) ({ cls := "LetterForms", name := "value", desc := "(III)I" } : Jvm.MethodName)) ∈ lw_all := lw_g (lw_at lw_m4 43 rfl) rfl
theorem q883 : (Jvm.Cond.code ({ cls := "LetterForms", name := "value", desc := "(III)I" } : Jvm.MethodName) prog_1_method_28_code (6 : Nat) (Option.some Jvm.ClassFile.FieldType.int)) ∈ lw_all := lw_g (lw_at lw_m4 44 rfl) rfl
theorem q884 : (Jvm.Cond.methodLink "LetterForms" (248 : Nat) ({ cls := "LetterForms", name := "signAt", desc := "(I)LLetterForms$Sign;" } : Jvm.MethodName)) ∈ lw_all := lw_g (lw_at lw_m4 45 rfl) rfl
theorem q885 : (Jvm.Cond.privateMethod ({ cls := "LetterForms", name := "signAt", desc := "(I)LLetterForms$Sign;" } : Jvm.MethodName)) ∈ lw_tbl := lw_at lw_m4 46 rfl
theorem q886 : (Jvm.Cond.instanceMethod ({ cls := "LetterForms", name := "signAt", desc := "(I)LLetterForms$Sign;" } : Jvm.MethodName)) ∈ lw_all := lw_g (lw_at lw_m4 47 rfl) rfl
theorem q887 : (Jvm.Cond.code ({ cls := "LetterForms", name := "signAt", desc := "(I)LLetterForms$Sign;" } : Jvm.MethodName) prog_1_method_9_code (2 : Nat) (Option.some (Jvm.ClassFile.FieldType.object "LetterForms$Sign"))) ∈ lw_all := lw_g (lw_at lw_m4 48 rfl) rfl
theorem q888 : (Jvm.Cond.methodLink "LetterForms" (251 : Nat) ({ cls := "LetterForms", name := "valueOf", desc := "(LLetterForms$Sign;LLetterForms$Form;)LLetterForms$Form;" } : Jvm.MethodName)) ∈ lw_all := lw_g (lw_at lw_m4 49 rfl) rfl
theorem q889 : (Jvm.Cond.privateMethod ({ cls := "LetterForms", name := "valueOf", desc := "(LLetterForms$Sign;LLetterForms$Form;)LLetterForms$Form;" } : Jvm.MethodName)) ∈ lw_tbl := lw_at lw_m4 50 rfl
theorem q890 : (Jvm.Cond.instanceMethod ({ cls := "LetterForms", name := "valueOf", desc := "(LLetterForms$Sign;LLetterForms$Form;)LLetterForms$Form;" } : Jvm.MethodName)) ∈ lw_all := lw_g (lw_at lw_m4 51 rfl) rfl
theorem q891 : (Jvm.Cond.code ({ cls := "LetterForms", name := "valueOf", desc := "(LLetterForms$Sign;LLetterForms$Form;)LLetterForms$Form;" } : Jvm.MethodName) prog_1_method_27_code (3 : Nat) (Option.some (Jvm.ClassFile.FieldType.object "LetterForms$Form"))) ∈ lw_all := lw_g (lw_at lw_m4 52 rfl) rfl
theorem q892 : (Jvm.Cond.methodLink "LetterForms" (242 : Nat) ({ cls := "LetterForms$Sign", name := "value", desc := "(LLetterForms;LLetterForms$Form;I)V" } : Jvm.MethodName)) ∈ lw_all := lw_g (lw_at lw_m4 53 rfl) rfl
theorem q955 : (Jvm.Cond.methodLink "LetterForms" (255 : Nat) ({ cls := "LetterForms$Form", name := "isValue", desc := "()Z" } : Jvm.MethodName)) ∈ lw_all := lw_g (lw_at lw_m4 116 rfl) rfl
theorem q960 : (Jvm.Cond.instanceMethod ({ cls := "LetterForms", name := "rank", desc := "(IZ)I" } : Jvm.MethodName)) ∈ lw_all := lw_g (lw_at lw_m4 121 rfl) rfl
theorem q961 : (Jvm.Cond.selects "LetterForms" ({ cls := "LetterForms", name := "rank", desc := "(IZ)I" } : Jvm.MethodName) ({ cls := "LetterForms", name := "rank", desc := "(IZ)I" } : Jvm.MethodName)) ∈ lw_all := lw_g (lw_at lw_m4 122 rfl) rfl
theorem q962 : (Jvm.Cond.code ({ cls := "LetterForms", name := "rank", desc := "(IZ)I" } : Jvm.MethodName) prog_1_method_29_code (3 : Nat) (Option.some Jvm.ClassFile.FieldType.int)) ∈ lw_all := lw_g (lw_at lw_m4 123 rfl) rfl
theorem q963 : (Jvm.Cond.methodLink "LetterForms" (259 : Nat) ({ cls := "LetterForms$Sign", name := "rank", desc := "(Z)I" } : Jvm.MethodName)) ∈ lw_all := lw_g (lw_at lw_m4 124 rfl) rfl
theorem q998 : (Jvm.Cond.instanceMethod ({ cls := "LetterForms", name := "stays", desc := "(III)Z" } : Jvm.MethodName)) ∈ lw_all := lw_g (lw_at lw_m4 159 rfl) rfl
theorem q999 : (Jvm.Cond.selects "LetterForms" ({ cls := "LetterForms", name := "stays", desc := "(III)Z" } : Jvm.MethodName) ({ cls := "LetterForms", name := "stays", desc := "(III)Z" } : Jvm.MethodName)) ∈ lw_all := lw_g (lw_at lw_m4 160 rfl) rfl
theorem q1000 : (Jvm.Cond.code ({ cls := "LetterForms", name := "stays", desc := "(III)Z" } : Jvm.MethodName) prog_1_method_30_code (10 : Nat) (Option.some Jvm.ClassFile.FieldType.boolean)) ∈ lw_all := lw_g (lw_at lw_m4 161 rfl) rfl
theorem q1001 : (Jvm.Cond.methodLink "LetterForms" (263 : Nat) ({ cls := "LetterForms$Field", name := "power", desc := "(II)I" } : Jvm.MethodName)) ∈ lw_all := lw_g (lw_at lw_m4 162 rfl) rfl
theorem q1006 : (Jvm.Cond.instanceMethod ({ cls := "LetterForms", name := "agree", desc := "(III)I" } : Jvm.MethodName)) ∈ lw_all := lw_g (lw_at lw_m4 167 rfl) rfl
theorem q1007 : (Jvm.Cond.selects "LetterForms" ({ cls := "LetterForms", name := "agree", desc := "(III)I" } : Jvm.MethodName) ({ cls := "LetterForms", name := "agree", desc := "(III)I" } : Jvm.MethodName)) ∈ lw_all := lw_g (lw_at lw_m4 168 rfl) rfl
theorem q1008 : (Jvm.Cond.code ({ cls := "LetterForms", name := "agree", desc := "(III)I" } : Jvm.MethodName) prog_1_method_31_code (7 : Nat) (Option.some Jvm.ClassFile.FieldType.int)) ∈ lw_all := lw_g (lw_at lw_m4 169 rfl) rfl
theorem q1009 : (Jvm.Cond.constantLong "LetterForms" (267 : Nat) (8 : Int64)) ∈ lw_all := lw_g (lw_at lw_m4 170 rfl) rfl
theorem q1014 : (Jvm.Cond.instanceMethod ({ cls := "LetterForms", name := "count", desc := "(III)J" } : Jvm.MethodName)) ∈ lw_all := lw_g (lw_at lw_m4 175 rfl) rfl
theorem q1015 : (Jvm.Cond.selects "LetterForms" ({ cls := "LetterForms", name := "count", desc := "(III)J" } : Jvm.MethodName) ({ cls := "LetterForms", name := "count", desc := "(III)J" } : Jvm.MethodName)) ∈ lw_all := lw_g (lw_at lw_m4 176 rfl) rfl
theorem q1016 : (Jvm.Cond.code ({ cls := "LetterForms", name := "count", desc := "(III)J" } : Jvm.MethodName) prog_1_method_33_code (5 : Nat) (Option.some Jvm.ClassFile.FieldType.long)) ∈ lw_all := lw_g (lw_at lw_m4 177 rfl) rfl
theorem q1017 : (Jvm.Cond.constantLong "LetterForms" (273 : Nat) (12 : Int64)) ∈ lw_all := lw_g (lw_at lw_m4 178 rfl) rfl
theorem q1018 : (Jvm.Cond.constantLong "LetterForms" (275 : Nat) (96 : Int64)) ∈ lw_all := lw_g (lw_at lw_m4 179 rfl) rfl
theorem q1019 : (Jvm.Cond.methodLink "LetterForms" (269 : Nat) ({ cls := "LetterForms", name := "sums", desc := "(III)J" } : Jvm.MethodName)) ∈ lw_all := lw_g (lw_at lw_m4 180 rfl) rfl
theorem q1020 : (Jvm.Cond.privateMethod ({ cls := "LetterForms", name := "sums", desc := "(III)J" } : Jvm.MethodName)) ∈ lw_tbl := lw_at lw_m4 181 rfl
theorem q1021 : (Jvm.Cond.instanceMethod ({ cls := "LetterForms", name := "sums", desc := "(III)J" } : Jvm.MethodName)) ∈ lw_all := lw_g (lw_at lw_m4 182 rfl) rfl
theorem q1022 : (Jvm.Cond.code ({ cls := "LetterForms", name := "sums", desc := "(III)J" } : Jvm.MethodName) prog_1_method_32_code (4 : Nat) (Option.some Jvm.ClassFile.FieldType.long)) ∈ lw_all := lw_g (lw_at lw_m4 183 rfl) rfl
theorem q1027 : (Jvm.Cond.instanceMethod ({ cls := "LetterForms", name := "span", desc := "(III)I" } : Jvm.MethodName)) ∈ lw_all := lw_g (lw_at lw_m4 188 rfl) rfl
theorem q1028 : (Jvm.Cond.selects "LetterForms" ({ cls := "LetterForms", name := "span", desc := "(III)I" } : Jvm.MethodName) ({ cls := "LetterForms", name := "span", desc := "(III)I" } : Jvm.MethodName)) ∈ lw_all := lw_g (lw_at lw_m4 189 rfl) rfl
theorem q1029 : (Jvm.Cond.code ({ cls := "LetterForms", name := "span", desc := "(III)I" } : Jvm.MethodName) prog_1_method_34_code (4 : Nat) (Option.some Jvm.ClassFile.FieldType.int)) ∈ lw_all := lw_g (lw_at lw_m4 190 rfl) rfl
theorem q1030 : (Jvm.Cond.methodLink "LetterForms" (277 : Nat) ({ cls := "LetterForms", name := "spans", desc := "(III)I" } : Jvm.MethodName)) ∈ lw_all := lw_g (lw_at lw_m4 191 rfl) rfl
theorem q1031 : (Jvm.Cond.privateMethod ({ cls := "LetterForms", name := "spans", desc := "(III)I" } : Jvm.MethodName)) ∈ lw_tbl := lw_at lw_m4 192 rfl
theorem q1032 : (Jvm.Cond.instanceMethod ({ cls := "LetterForms", name := "spans", desc := "(III)I" } : Jvm.MethodName)) ∈ lw_all := lw_g (lw_at lw_m4 193 rfl) rfl
theorem q1033 : (Jvm.Cond.code ({ cls := "LetterForms", name := "spans", desc := "(III)I" } : Jvm.MethodName) prog_1_method_36_code (11 : Nat) (Option.some Jvm.ClassFile.FieldType.int)) ∈ lw_all := lw_g (lw_at lw_m4 194 rfl) rfl
theorem q1034 : (Jvm.Cond.constant "LetterForms" (281 : Nat) (1103515245 : Int32)) ∈ lw_all := lw_g (lw_at lw_m4 195 rfl) rfl
theorem q1035 : (Jvm.Cond.methodLink "LetterForms" (282 : Nat) ({ cls := "LetterForms", name := "independent", desc := "(II)I" } : Jvm.MethodName)) ∈ lw_all := lw_g (lw_at lw_m4 196 rfl) rfl
theorem q1036 : (Jvm.Cond.privateMethod ({ cls := "LetterForms", name := "independent", desc := "(II)I" } : Jvm.MethodName)) ∈ lw_tbl := lw_at lw_m4 197 rfl
theorem q1037 : (Jvm.Cond.instanceMethod ({ cls := "LetterForms", name := "independent", desc := "(II)I" } : Jvm.MethodName)) ∈ lw_all := lw_g (lw_at lw_m4 198 rfl) rfl
theorem q1038 : (Jvm.Cond.code ({ cls := "LetterForms", name := "independent", desc := "(II)I" } : Jvm.MethodName) prog_1_method_37_code (11 : Nat) (Option.some Jvm.ClassFile.FieldType.int)) ∈ lw_all := lw_g (lw_at lw_m4 199 rfl) rfl
theorem q1039 : (Jvm.Cond.methodLink "LetterForms" (285 : Nat) ({ cls := "LetterForms$Field", name := "inverse", desc := "(I)I" } : Jvm.MethodName)) ∈ lw_all := lw_g (lw_at lw_m4 200 rfl) rfl
theorem q1048 : (Jvm.Cond.instanceMethod ({ cls := "LetterForms", name := "basis", desc := "(III)I" } : Jvm.MethodName)) ∈ lw_all := lw_g (lw_at lw_m4 209 rfl) rfl
theorem q1049 : (Jvm.Cond.selects "LetterForms" ({ cls := "LetterForms", name := "basis", desc := "(III)I" } : Jvm.MethodName) ({ cls := "LetterForms", name := "basis", desc := "(III)I" } : Jvm.MethodName)) ∈ lw_all := lw_g (lw_at lw_m4 210 rfl) rfl
theorem q1050 : (Jvm.Cond.code ({ cls := "LetterForms", name := "basis", desc := "(III)I" } : Jvm.MethodName) prog_1_method_35_code (8 : Nat) (Option.some Jvm.ClassFile.FieldType.int)) ∈ lw_all := lw_g (lw_at lw_m4 211 rfl) rfl
theorem q1055 : (Jvm.Cond.instanceMethod ({ cls := "LetterForms", name := "kind", desc := "(I)I" } : Jvm.MethodName)) ∈ lw_all := lw_g (lw_at lw_m4 216 rfl) rfl
theorem q1056 : (Jvm.Cond.selects "LetterForms" ({ cls := "LetterForms", name := "kind", desc := "(I)I" } : Jvm.MethodName) ({ cls := "LetterForms", name := "kind", desc := "(I)I" } : Jvm.MethodName)) ∈ lw_all := lw_g (lw_at lw_m4 217 rfl) rfl
theorem q1057 : (Jvm.Cond.code ({ cls := "LetterForms", name := "kind", desc := "(I)I" } : Jvm.MethodName) prog_1_method_44_code (4 : Nat) (Option.some Jvm.ClassFile.FieldType.int)) ∈ lw_all := lw_g (lw_at lw_m4 218 rfl) rfl
theorem q1058 : (Jvm.Cond.methodLink "LetterForms" (292 : Nat) ({ cls := "LetterForms", name := "tables", desc := "(LLetterForms$Form;LLetterForms$Form;Z)I" } : Jvm.MethodName)) ∈ lw_all := lw_g (lw_at lw_m4 219 rfl) rfl
theorem q1059 : (Jvm.Cond.privateMethod ({ cls := "LetterForms", name := "tables", desc := "(LLetterForms$Form;LLetterForms$Form;Z)I" } : Jvm.MethodName)) ∈ lw_tbl := lw_at lw_m4 220 rfl
theorem q1060 : (Jvm.Cond.instanceMethod ({ cls := "LetterForms", name := "tables", desc := "(LLetterForms$Form;LLetterForms$Form;Z)I" } : Jvm.MethodName)) ∈ lw_all := lw_g (lw_at lw_m4 221 rfl) rfl
theorem q1061 : (Jvm.Cond.code ({ cls := "LetterForms", name := "tables", desc := "(LLetterForms$Form;LLetterForms$Form;Z)I" } : Jvm.MethodName) prog_1_method_41_code (10 : Nat) (Option.some Jvm.ClassFile.FieldType.int)) ∈ lw_all := lw_g (lw_at lw_m4 222 rfl) rfl
theorem q1066 : (Jvm.Cond.instanceMethod ({ cls := "LetterForms", name := "orbit", desc := "(I)I" } : Jvm.MethodName)) ∈ lw_all := lw_g (lw_at lw_m4 227 rfl) rfl
theorem q1067 : (Jvm.Cond.selects "LetterForms" ({ cls := "LetterForms", name := "orbit", desc := "(I)I" } : Jvm.MethodName) ({ cls := "LetterForms", name := "orbit", desc := "(I)I" } : Jvm.MethodName)) ∈ lw_all := lw_g (lw_at lw_m4 228 rfl) rfl
theorem q1068 : (Jvm.Cond.code ({ cls := "LetterForms", name := "orbit", desc := "(I)I" } : Jvm.MethodName) prog_1_method_45_code (4 : Nat) (Option.some Jvm.ClassFile.FieldType.int)) ∈ lw_all := lw_g (lw_at lw_m4 229 rfl) rfl
theorem q1073 : (Jvm.Cond.instanceMethod ({ cls := "LetterForms", name := "join", desc := "(II)I" } : Jvm.MethodName)) ∈ lw_all := lw_g (lw_at lw_m4 234 rfl) rfl
theorem q1074 : (Jvm.Cond.selects "LetterForms" ({ cls := "LetterForms", name := "join", desc := "(II)I" } : Jvm.MethodName) ({ cls := "LetterForms", name := "join", desc := "(II)I" } : Jvm.MethodName)) ∈ lw_all := lw_g (lw_at lw_m4 235 rfl) rfl
theorem q1075 : (Jvm.Cond.code ({ cls := "LetterForms", name := "join", desc := "(II)I" } : Jvm.MethodName) prog_1_method_48_code (5 : Nat) (Option.some Jvm.ClassFile.FieldType.int)) ∈ lw_all := lw_g (lw_at lw_m4 236 rfl) rfl
theorem q1076 : (Jvm.Cond.methodLink "LetterForms" (295 : Nat) ({ cls := "LetterForms", name := "two", desc := "(IIII)I" } : Jvm.MethodName)) ∈ lw_all := lw_g (lw_at lw_m4 237 rfl) rfl
theorem q1077 : (Jvm.Cond.privateMethod ({ cls := "LetterForms", name := "two", desc := "(IIII)I" } : Jvm.MethodName)) ∈ lw_tbl := lw_at lw_m4 238 rfl
theorem q1078 : (Jvm.Cond.instanceMethod ({ cls := "LetterForms", name := "two", desc := "(IIII)I" } : Jvm.MethodName)) ∈ lw_all := lw_g (lw_at lw_m4 239 rfl) rfl
theorem q1079 : (Jvm.Cond.code ({ cls := "LetterForms", name := "two", desc := "(IIII)I" } : Jvm.MethodName) prog_1_method_47_code (5 : Nat) (Option.some Jvm.ClassFile.FieldType.int)) ∈ lw_all := lw_g (lw_at lw_m5 0 rfl) rfl
theorem q1080 : (Jvm.Cond.methodLink "LetterForms" (298 : Nat) ({ cls := "LetterForms", name := "adds", desc := "(IIII)I" } : Jvm.MethodName)) ∈ lw_all := lw_g (lw_at lw_m5 1 rfl) rfl
theorem q1081 : (Jvm.Cond.privateMethod ({ cls := "LetterForms", name := "adds", desc := "(IIII)I" } : Jvm.MethodName)) ∈ lw_tbl := lw_at lw_m5 2 rfl
theorem q1082 : (Jvm.Cond.instanceMethod ({ cls := "LetterForms", name := "adds", desc := "(IIII)I" } : Jvm.MethodName)) ∈ lw_all := lw_g (lw_at lw_m5 3 rfl) rfl
theorem q1083 : (Jvm.Cond.code ({ cls := "LetterForms", name := "adds", desc := "(IIII)I" } : Jvm.MethodName) prog_1_method_46_code (6 : Nat) (Option.some Jvm.ClassFile.FieldType.int)) ∈ lw_all := lw_g (lw_at lw_m5 4 rfl) rfl
theorem q1088 : (Jvm.Cond.instanceMethod ({ cls := "LetterForms", name := "turn", desc := "(I)I" } : Jvm.MethodName)) ∈ lw_all := lw_g (lw_at lw_m5 9 rfl) rfl
theorem q1089 : (Jvm.Cond.selects "LetterForms" ({ cls := "LetterForms", name := "turn", desc := "(I)I" } : Jvm.MethodName) ({ cls := "LetterForms", name := "turn", desc := "(I)I" } : Jvm.MethodName)) ∈ lw_all := lw_g (lw_at lw_m5 10 rfl) rfl
theorem q1090 : (Jvm.Cond.code ({ cls := "LetterForms", name := "turn", desc := "(I)I" } : Jvm.MethodName) prog_1_method_49_code (4 : Nat) (Option.some Jvm.ClassFile.FieldType.int)) ∈ lw_all := lw_g (lw_at lw_m5 11 rfl) rfl
theorem q1095 : (Jvm.Cond.instanceMethod ({ cls := "LetterForms", name := "told", desc := "(II)I" } : Jvm.MethodName)) ∈ lw_all := lw_g (lw_at lw_m5 16 rfl) rfl
theorem q1096 : (Jvm.Cond.selects "LetterForms" ({ cls := "LetterForms", name := "told", desc := "(II)I" } : Jvm.MethodName) ({ cls := "LetterForms", name := "told", desc := "(II)I" } : Jvm.MethodName)) ∈ lw_all := lw_g (lw_at lw_m5 17 rfl) rfl
theorem q1097 : (Jvm.Cond.code ({ cls := "LetterForms", name := "told", desc := "(II)I" } : Jvm.MethodName) prog_1_method_50_code (4 : Nat) (Option.some Jvm.ClassFile.FieldType.int)) ∈ lw_all := lw_g (lw_at lw_m5 18 rfl) rfl
theorem q1098 : (Jvm.Cond.constantLong "LetterForms" (301 : Nat) (3 : Int64)) ∈ lw_all := lw_g (lw_at lw_m5 19 rfl) rfl
theorem q1103 : (Jvm.Cond.instanceMethod ({ cls := "LetterForms", name := "quotient", desc := "(III)I" } : Jvm.MethodName)) ∈ lw_all := lw_g (lw_at lw_m5 24 rfl) rfl
theorem q1104 : (Jvm.Cond.selects "LetterForms" ({ cls := "LetterForms", name := "quotient", desc := "(III)I" } : Jvm.MethodName) ({ cls := "LetterForms", name := "quotient", desc := "(III)I" } : Jvm.MethodName)) ∈ lw_all := lw_g (lw_at lw_m5 25 rfl) rfl
theorem q1105 : (Jvm.Cond.code ({ cls := "LetterForms", name := "quotient", desc := "(III)I" } : Jvm.MethodName) prog_1_method_60_code (13 : Nat) (Option.some Jvm.ClassFile.FieldType.int)) ∈ lw_all := lw_g (lw_at lw_m5 26 rfl) rfl
theorem q1106 : (Jvm.Cond.methodLink "LetterForms" (324 : Nat) ({ cls := "LetterForms", name := "bares", desc := "(LLetterForms$Form;LLetterForms$Form;)I" } : Jvm.MethodName)) ∈ lw_all := lw_g (lw_at lw_m5 27 rfl) rfl
theorem q1107 : (Jvm.Cond.privateMethod ({ cls := "LetterForms", name := "bares", desc := "(LLetterForms$Form;LLetterForms$Form;)I" } : Jvm.MethodName)) ∈ lw_tbl := lw_at lw_m5 28 rfl
theorem q1108 : (Jvm.Cond.instanceMethod ({ cls := "LetterForms", name := "bares", desc := "(LLetterForms$Form;LLetterForms$Form;)I" } : Jvm.MethodName)) ∈ lw_all := lw_g (lw_at lw_m5 29 rfl) rfl
theorem q1109 : (Jvm.Cond.code ({ cls := "LetterForms", name := "bares", desc := "(LLetterForms$Form;LLetterForms$Form;)I" } : Jvm.MethodName) prog_1_method_56_code (5 : Nat) (Option.some Jvm.ClassFile.FieldType.int)) ∈ lw_all := lw_g (lw_at lw_m5 30 rfl) rfl
theorem q1114 : (Jvm.Cond.instanceMethod ({ cls := "LetterForms", name := "plain", desc := "(I)Z" } : Jvm.MethodName)) ∈ lw_all := lw_g (lw_at lw_m5 35 rfl) rfl
theorem q1115 : (Jvm.Cond.selects "LetterForms" ({ cls := "LetterForms", name := "plain", desc := "(I)Z" } : Jvm.MethodName) ({ cls := "LetterForms", name := "plain", desc := "(I)Z" } : Jvm.MethodName)) ∈ lw_all := lw_g (lw_at lw_m5 36 rfl) rfl
theorem q1116 : (Jvm.Cond.code ({ cls := "LetterForms", name := "plain", desc := "(I)Z" } : Jvm.MethodName) prog_1_method_61_code (5 : Nat) (Option.some Jvm.ClassFile.FieldType.boolean)) ∈ lw_all := lw_g (lw_at lw_m5 37 rfl) rfl
theorem q1117 : (Jvm.Cond.methodLinkNest "LetterForms" (341 : Nat) ({ cls := "LetterForms$Desk", name := "differs", desc := "(LLetterForms$Form;IILLetterForms$Form;)V" } : Jvm.MethodName) "LetterForms") ∈ lw_tbl := lw_at lw_m5 38 rfl
theorem q1118 : (Jvm.Cond.methodLink "LetterForms" (328 : Nat) ({ cls := "LetterForms", name := "commons", desc := "(LLetterForms$Form;LLetterForms$Form;)LLetterForms$Form;" } : Jvm.MethodName)) ∈ lw_all := lw_g (lw_at lw_m5 39 rfl) rfl
theorem q1119 : (Jvm.Cond.privateMethod ({ cls := "LetterForms", name := "commons", desc := "(LLetterForms$Form;LLetterForms$Form;)LLetterForms$Form;" } : Jvm.MethodName)) ∈ lw_tbl := lw_at lw_m5 40 rfl
theorem q1120 : (Jvm.Cond.instanceMethod ({ cls := "LetterForms", name := "commons", desc := "(LLetterForms$Form;LLetterForms$Form;)LLetterForms$Form;" } : Jvm.MethodName)) ∈ lw_all := lw_g (lw_at lw_m5 41 rfl) rfl
theorem q1121 : (Jvm.Cond.code ({ cls := "LetterForms", name := "commons", desc := "(LLetterForms$Form;LLetterForms$Form;)LLetterForms$Form;" } : Jvm.MethodName) prog_1_method_59_code (9 : Nat) (Option.some (Jvm.ClassFile.FieldType.object "LetterForms$Form"))) ∈ lw_all := lw_g (lw_at lw_m5 42 rfl) rfl
theorem q1122 : (Jvm.Cond.methodLink "LetterForms" (332 : Nat) ({ cls := "java/lang/Math", name := "min", desc := "(II)I" } : Jvm.MethodName)) ∈ lw_all := lw_g (lw_at lw_m5 43 rfl) rfl
theorem q1123 : (Jvm.Cond.methodLink "LetterForms" (337 : Nat) ({ cls := "LetterForms", name := "rest", desc := "(LLetterForms$Form;LLetterForms$Form;)Z" } : Jvm.MethodName)) ∈ lw_all := lw_g (lw_at lw_m5 44 rfl) rfl
theorem q1124 : (Jvm.Cond.privateMethod ({ cls := "LetterForms", name := "rest", desc := "(LLetterForms$Form;LLetterForms$Form;)Z" } : Jvm.MethodName)) ∈ lw_tbl := lw_at lw_m5 45 rfl
theorem q1125 : (Jvm.Cond.instanceMethod ({ cls := "LetterForms", name := "rest", desc := "(LLetterForms$Form;LLetterForms$Form;)Z" } : Jvm.MethodName)) ∈ lw_all := lw_g (lw_at lw_m5 46 rfl) rfl
theorem q1126 : (Jvm.Cond.code ({ cls := "LetterForms", name := "rest", desc := "(LLetterForms$Form;LLetterForms$Form;)Z" } : Jvm.MethodName) prog_1_method_57_code (6 : Nat) (Option.some Jvm.ClassFile.FieldType.boolean)) ∈ lw_all := lw_g (lw_at lw_m5 47 rfl) rfl
theorem q1131 : (Jvm.Cond.instanceMethod ({ cls := "LetterForms", name := "root", desc := "(II)I" } : Jvm.MethodName)) ∈ lw_all := lw_g (lw_at lw_m5 52 rfl) rfl
theorem q1132 : (Jvm.Cond.selects "LetterForms" ({ cls := "LetterForms", name := "root", desc := "(II)I" } : Jvm.MethodName) ({ cls := "LetterForms", name := "root", desc := "(II)I" } : Jvm.MethodName)) ∈ lw_all := lw_g (lw_at lw_m5 53 rfl) rfl
theorem q1133 : (Jvm.Cond.code ({ cls := "LetterForms", name := "root", desc := "(II)I" } : Jvm.MethodName) prog_1_method_38_code (4 : Nat) (Option.some Jvm.ClassFile.FieldType.int)) ∈ lw_all := lw_g (lw_at lw_m5 54 rfl) rfl
theorem q1134 : (Jvm.Cond.methodLink "LetterForms" (289 : Nat) ({ cls := "LetterForms$Desk", name := "root", desc := "(LLetterForms$Form;I)I" } : Jvm.MethodName)) ∈ lw_all := lw_g (lw_at lw_m5 55 rfl) rfl
theorem q1147 : (Jvm.Cond.instanceMethod ({ cls := "LetterForms", name := "roots", desc := "(I)I" } : Jvm.MethodName)) ∈ lw_all := lw_g (lw_at lw_m5 68 rfl) rfl
theorem q1148 : (Jvm.Cond.selects "LetterForms" ({ cls := "LetterForms", name := "roots", desc := "(I)I" } : Jvm.MethodName) ({ cls := "LetterForms", name := "roots", desc := "(I)I" } : Jvm.MethodName)) ∈ lw_all := lw_g (lw_at lw_m5 69 rfl) rfl
theorem q1149 : (Jvm.Cond.code ({ cls := "LetterForms", name := "roots", desc := "(I)I" } : Jvm.MethodName) prog_1_method_39_code (5 : Nat) (Option.some Jvm.ClassFile.FieldType.int)) ∈ lw_all := lw_g (lw_at lw_m5 70 rfl) rfl
theorem q1154 : (Jvm.Cond.instanceMethod ({ cls := "LetterForms", name := "empty", desc := "(I)Z" } : Jvm.MethodName)) ∈ lw_all := lw_g (lw_at lw_m5 75 rfl) rfl
theorem q1155 : (Jvm.Cond.selects "LetterForms" ({ cls := "LetterForms", name := "empty", desc := "(I)Z" } : Jvm.MethodName) ({ cls := "LetterForms", name := "empty", desc := "(I)Z" } : Jvm.MethodName)) ∈ lw_all := lw_g (lw_at lw_m5 76 rfl) rfl
theorem q1156 : (Jvm.Cond.code ({ cls := "LetterForms", name := "empty", desc := "(I)Z" } : Jvm.MethodName) prog_1_method_40_code (5 : Nat) (Option.some Jvm.ClassFile.FieldType.boolean)) ∈ lw_all := lw_g (lw_at lw_m5 77 rfl) rfl
theorem q1161 : (Jvm.Cond.instanceMethod ({ cls := "LetterForms", name := "same", desc := "(II)I" } : Jvm.MethodName)) ∈ lw_all := lw_g (lw_at lw_m5 82 rfl) rfl
theorem q1162 : (Jvm.Cond.selects "LetterForms" ({ cls := "LetterForms", name := "same", desc := "(II)I" } : Jvm.MethodName) ({ cls := "LetterForms", name := "same", desc := "(II)I" } : Jvm.MethodName)) ∈ lw_all := lw_g (lw_at lw_m5 83 rfl) rfl
theorem q1163 : (Jvm.Cond.code ({ cls := "LetterForms", name := "same", desc := "(II)I" } : Jvm.MethodName) prog_1_method_42_code (5 : Nat) (Option.some Jvm.ClassFile.FieldType.int)) ∈ lw_all := lw_g (lw_at lw_m5 84 rfl) rfl
theorem q1168 : (Jvm.Cond.instanceMethod ({ cls := "LetterForms", name := "keep", desc := "(I)I" } : Jvm.MethodName)) ∈ lw_all := lw_g (lw_at lw_m5 89 rfl) rfl
theorem q1169 : (Jvm.Cond.selects "LetterForms" ({ cls := "LetterForms", name := "keep", desc := "(I)I" } : Jvm.MethodName) ({ cls := "LetterForms", name := "keep", desc := "(I)I" } : Jvm.MethodName)) ∈ lw_all := lw_g (lw_at lw_m5 90 rfl) rfl
theorem q1170 : (Jvm.Cond.code ({ cls := "LetterForms", name := "keep", desc := "(I)I" } : Jvm.MethodName) prog_1_method_43_code (3 : Nat) (Option.some Jvm.ClassFile.FieldType.int)) ∈ lw_all := lw_g (lw_at lw_m5 91 rfl) rfl
theorem q1175 : (Jvm.Cond.instanceMethod ({ cls := "LetterForms", name := "powers", desc := "(II)I" } : Jvm.MethodName)) ∈ lw_all := lw_g (lw_at lw_m5 96 rfl) rfl
theorem q1176 : (Jvm.Cond.selects "LetterForms" ({ cls := "LetterForms", name := "powers", desc := "(II)I" } : Jvm.MethodName) ({ cls := "LetterForms", name := "powers", desc := "(II)I" } : Jvm.MethodName)) ∈ lw_all := lw_g (lw_at lw_m5 97 rfl) rfl
theorem q1177 : (Jvm.Cond.code ({ cls := "LetterForms", name := "powers", desc := "(II)I" } : Jvm.MethodName) prog_1_method_55_code (6 : Nat) (Option.some Jvm.ClassFile.FieldType.int)) ∈ lw_all := lw_g (lw_at lw_m5 98 rfl) rfl
theorem q1178 : (Jvm.Cond.methodLink "LetterForms" (317 : Nat) ({ cls := "LetterForms", name := "line", desc := "(II)V" } : Jvm.MethodName)) ∈ lw_all := lw_g (lw_at lw_m5 99 rfl) rfl
theorem q1179 : (Jvm.Cond.privateMethod ({ cls := "LetterForms", name := "line", desc := "(II)V" } : Jvm.MethodName)) ∈ lw_tbl := lw_at lw_m5 100 rfl
theorem q1180 : (Jvm.Cond.instanceMethod ({ cls := "LetterForms", name := "line", desc := "(II)V" } : Jvm.MethodName)) ∈ lw_all := lw_g (lw_at lw_m5 101 rfl) rfl
theorem q1181 : (Jvm.Cond.code ({ cls := "LetterForms", name := "line", desc := "(II)V" } : Jvm.MethodName) prog_1_method_51_code (5 : Nat) (Option.none : Option Jvm.ClassFile.FieldType)) ∈ lw_all := lw_g (lw_at lw_m5 102 rfl) rfl
theorem q1182 : (Jvm.Cond.methodLink "LetterForms" (303 : Nat) ({ cls := "LetterForms$Desk", name := "times", desc := "(LLetterForms$Form;II)V" } : Jvm.MethodName)) ∈ lw_all := lw_g (lw_at lw_m5 103 rfl) rfl
theorem q1183 : (Jvm.Cond.methodLink "LetterForms" (314 : Nat) ({ cls := "LetterForms", name := "adds", desc := "(LLetterForms$Form;III)Z" } : Jvm.MethodName)) ∈ lw_all := lw_g (lw_at lw_m5 104 rfl) rfl
theorem q1184 : (Jvm.Cond.privateMethod ({ cls := "LetterForms", name := "adds", desc := "(LLetterForms$Form;III)Z" } : Jvm.MethodName)) ∈ lw_tbl := lw_at lw_m5 105 rfl
theorem q1185 : (Jvm.Cond.instanceMethod ({ cls := "LetterForms", name := "adds", desc := "(LLetterForms$Form;III)Z" } : Jvm.MethodName)) ∈ lw_all := lw_g (lw_at lw_m5 106 rfl) rfl
theorem q1186 : (Jvm.Cond.code ({ cls := "LetterForms", name := "adds", desc := "(LLetterForms$Form;III)Z" } : Jvm.MethodName) prog_1_method_52_code (6 : Nat) (Option.some Jvm.ClassFile.FieldType.boolean)) ∈ lw_all := lw_g (lw_at lw_m5 107 rfl) rfl
theorem q1187 : (Jvm.Cond.methodLink "LetterForms" (307 : Nat) ({ cls := "LetterForms", name := "byPoints", desc := "(LLetterForms$Form;II)Z" } : Jvm.MethodName)) ∈ lw_all := lw_g (lw_at lw_m5 108 rfl) rfl
theorem q1188 : (Jvm.Cond.privateMethod ({ cls := "LetterForms", name := "byPoints", desc := "(LLetterForms$Form;II)Z" } : Jvm.MethodName)) ∈ lw_tbl := lw_at lw_m5 109 rfl
theorem q1189 : (Jvm.Cond.instanceMethod ({ cls := "LetterForms", name := "byPoints", desc := "(LLetterForms$Form;II)Z" } : Jvm.MethodName)) ∈ lw_all := lw_g (lw_at lw_m5 110 rfl) rfl
theorem q1190 : (Jvm.Cond.code ({ cls := "LetterForms", name := "byPoints", desc := "(LLetterForms$Form;II)Z" } : Jvm.MethodName) prog_1_method_53_code (4 : Nat) (Option.some Jvm.ClassFile.FieldType.boolean)) ∈ lw_all := lw_g (lw_at lw_m5 111 rfl) rfl
theorem q1191 : (Jvm.Cond.methodLink "LetterForms" (311 : Nat) ({ cls := "LetterForms", name := "byNumbers", desc := "(LLetterForms$Form;II)Z" } : Jvm.MethodName)) ∈ lw_all := lw_g (lw_at lw_m5 112 rfl) rfl
theorem q1192 : (Jvm.Cond.privateMethod ({ cls := "LetterForms", name := "byNumbers", desc := "(LLetterForms$Form;II)Z" } : Jvm.MethodName)) ∈ lw_tbl := lw_at lw_m5 113 rfl
theorem q1193 : (Jvm.Cond.instanceMethod ({ cls := "LetterForms", name := "byNumbers", desc := "(LLetterForms$Form;II)Z" } : Jvm.MethodName)) ∈ lw_all := lw_g (lw_at lw_m5 114 rfl) rfl
theorem q1194 : (Jvm.Cond.code ({ cls := "LetterForms", name := "byNumbers", desc := "(LLetterForms$Form;II)Z" } : Jvm.MethodName) prog_1_method_54_code (9 : Nat) (Option.some Jvm.ClassFile.FieldType.boolean)) ∈ lw_all := lw_g (lw_at lw_m5 115 rfl) rfl
theorem q1199 : (Jvm.Cond.instanceMethod ({ cls := "LetterForms", name := "common", desc := "(III)I" } : Jvm.MethodName)) ∈ lw_all := lw_g (lw_at lw_m5 120 rfl) rfl
theorem q1200 : (Jvm.Cond.selects "LetterForms" ({ cls := "LetterForms", name := "common", desc := "(III)I" } : Jvm.MethodName) ({ cls := "LetterForms", name := "common", desc := "(III)I" } : Jvm.MethodName)) ∈ lw_all := lw_g (lw_at lw_m5 121 rfl) rfl
theorem q1201 : (Jvm.Cond.code ({ cls := "LetterForms", name := "common", desc := "(III)I" } : Jvm.MethodName) prog_1_method_58_code (6 : Nat) (Option.some Jvm.ClassFile.FieldType.int)) ∈ lw_all := lw_g (lw_at lw_m5 122 rfl) rfl
theorem q1206 : (Jvm.Cond.instanceMethod ({ cls := "LetterForms", name := "overlap", desc := "(IIII)I" } : Jvm.MethodName)) ∈ lw_all := lw_g (lw_at lw_m5 127 rfl) rfl
theorem q1207 : (Jvm.Cond.selects "LetterForms" ({ cls := "LetterForms", name := "overlap", desc := "(IIII)I" } : Jvm.MethodName) ({ cls := "LetterForms", name := "overlap", desc := "(IIII)I" } : Jvm.MethodName)) ∈ lw_all := lw_g (lw_at lw_m5 128 rfl) rfl
theorem q1208 : (Jvm.Cond.code ({ cls := "LetterForms", name := "overlap", desc := "(IIII)I" } : Jvm.MethodName) prog_1_method_62_code (7 : Nat) (Option.some Jvm.ClassFile.FieldType.int)) ∈ lw_all := lw_g (lw_at lw_m5 129 rfl) rfl
theorem q1209 : (Jvm.Cond.methodLink "LetterForms" (345 : Nat) ({ cls := "LetterForms$Desk", name := "overlap", desc := "(LLetterForms$Form;LLetterForms$Form;ILLetterForms$Form;)V" } : Jvm.MethodName)) ∈ lw_all := lw_g (lw_at lw_m5 130 rfl) rfl
theorem q1215 : (Jvm.Cond.instanceMethod ({ cls := "LetterForms", name := "reduced", desc := "(IIII)J" } : Jvm.MethodName)) ∈ lw_all := lw_g (lw_at lw_m5 136 rfl) rfl
theorem q1216 : (Jvm.Cond.selects "LetterForms" ({ cls := "LetterForms", name := "reduced", desc := "(IIII)J" } : Jvm.MethodName) ({ cls := "LetterForms", name := "reduced", desc := "(IIII)J" } : Jvm.MethodName)) ∈ lw_all := lw_g (lw_at lw_m5 137 rfl) rfl
theorem q1217 : (Jvm.Cond.code ({ cls := "LetterForms", name := "reduced", desc := "(IIII)J" } : Jvm.MethodName) prog_1_method_65_code (5 : Nat) (Option.some Jvm.ClassFile.FieldType.long)) ∈ lw_all := lw_g (lw_at lw_m5 138 rfl) rfl
theorem q1218 : (Jvm.Cond.constantLong "LetterForms" (361 : Nat) (999 : Int64)) ∈ lw_all := lw_g (lw_at lw_m5 139 rfl) rfl
theorem q1219 : (Jvm.Cond.constantLong "LetterForms" (363 : Nat) (-999 : Int64)) ∈ lw_all := lw_g (lw_at lw_m5 140 rfl) rfl
theorem q1220 : (Jvm.Cond.constantLong "LetterForms" (365 : Nat) (4 : Int64)) ∈ lw_all := lw_g (lw_at lw_m5 141 rfl) rfl
theorem q1221 : (Jvm.Cond.methodLink "LetterForms" (367 : Nat) ({ cls := "LetterForms", name := "thereIs", desc := "(Z)V" } : Jvm.MethodName)) ∈ lw_all := lw_g (lw_at lw_m5 142 rfl) rfl
theorem q1222 : (Jvm.Cond.static ({ cls := "LetterForms", name := "thereIs", desc := "(Z)V" } : Jvm.MethodName)) ∈ lw_all := lw_g (lw_at lw_m5 143 rfl) rfl
theorem q1223 : (Jvm.Cond.code ({ cls := "LetterForms", name := "thereIs", desc := "(Z)V" } : Jvm.MethodName) prog_1_method_5_code (1 : Nat) (Option.none : Option Jvm.ClassFile.FieldType)) ∈ lw_all := lw_g (lw_at lw_m5 144 rfl) rfl
theorem q1224 : (Jvm.Cond.classLink "LetterForms" (91 : Nat) "java/util/NoSuchElementException") ∈ lw_all := lw_g (lw_at lw_m5 145 rfl) rfl
theorem q1233 : (Jvm.Cond.methodLink "LetterForms" (93 : Nat) ({ cls := "java/util/NoSuchElementException", name := "<init>", desc := "()V" } : Jvm.MethodName)) ∈ lw_all := lw_g (lw_at lw_m5 154 rfl) rfl
theorem q1239 : (Jvm.Cond.methodLink "LetterForms" (370 : Nat) ({ cls := "LetterForms", name := "reduces", desc := "()V" } : Jvm.MethodName)) ∈ lw_all := lw_g (lw_at lw_m5 160 rfl) rfl
theorem q1240 : (Jvm.Cond.privateMethod ({ cls := "LetterForms", name := "reduces", desc := "()V" } : Jvm.MethodName)) ∈ lw_tbl := lw_at lw_m5 161 rfl
theorem q1241 : (Jvm.Cond.instanceMethod ({ cls := "LetterForms", name := "reduces", desc := "()V" } : Jvm.MethodName)) ∈ lw_all := lw_g (lw_at lw_m5 162 rfl) rfl
theorem q1242 : (Jvm.Cond.code ({ cls := "LetterForms", name := "reduces", desc := "()V" } : Jvm.MethodName) prog_1_method_64_code (8 : Nat) (Option.none : Option Jvm.ClassFile.FieldType)) ∈ lw_all := lw_g (lw_at lw_m5 163 rfl) rfl
theorem q1243 : (Jvm.Cond.methodLink "LetterForms" (352 : Nat) ({ cls := "LetterForms", name := "isReduced", desc := "(JJJ)Z" } : Jvm.MethodName)) ∈ lw_all := lw_g (lw_at lw_m5 164 rfl) rfl
theorem q1244 : (Jvm.Cond.static ({ cls := "LetterForms", name := "isReduced", desc := "(JJJ)Z" } : Jvm.MethodName)) ∈ lw_all := lw_g (lw_at lw_m5 165 rfl) rfl
theorem q1245 : (Jvm.Cond.code ({ cls := "LetterForms", name := "isReduced", desc := "(JJJ)Z" } : Jvm.MethodName) prog_1_method_63_code (6 : Nat) (Option.some Jvm.ClassFile.FieldType.boolean)) ∈ lw_all := lw_g (lw_at lw_m5 166 rfl) rfl
theorem q1246 : (Jvm.Cond.constantLong "LetterForms" (355 : Nat) (2 : Int64)) ∈ lw_all := lw_g (lw_at lw_m5 167 rfl) rfl
theorem q1247 : (Jvm.Cond.methodLink "LetterForms" (357 : Nat) ({ cls := "java/lang/Math", name := "floorDiv", desc := "(JJ)J" } : Jvm.MethodName)) ∈ lw_all := lw_g (lw_at lw_m5 168 rfl) rfl
theorem q1250 : (Jvm.Cond.constantLong "LetterForms" (373 : Nat) (6 : Int64)) ∈ lw_all := lw_g (lw_at lw_m5 171 rfl) rfl
theorem q1255 : (Jvm.Cond.instanceMethod ({ cls := "LetterForms", name := "classes", desc := "(IZ)I" } : Jvm.MethodName)) ∈ lw_all := lw_g (lw_at lw_m5 176 rfl) rfl
theorem q1256 : (Jvm.Cond.selects "LetterForms" ({ cls := "LetterForms", name := "classes", desc := "(IZ)I" } : Jvm.MethodName) ({ cls := "LetterForms", name := "classes", desc := "(IZ)I" } : Jvm.MethodName)) ∈ lw_all := lw_g (lw_at lw_m5 177 rfl) rfl
theorem q1257 : (Jvm.Cond.code ({ cls := "LetterForms", name := "classes", desc := "(IZ)I" } : Jvm.MethodName) prog_1_method_69_code (3 : Nat) (Option.some Jvm.ClassFile.FieldType.int)) ∈ lw_all := lw_g (lw_at lw_m5 178 rfl) rfl
theorem q1258 : (Jvm.Cond.methodLink "LetterForms" (388 : Nat) ({ cls := "LetterForms", name := "isDisc", desc := "(I)V" } : Jvm.MethodName)) ∈ lw_all := lw_g (lw_at lw_m5 179 rfl) rfl
theorem q1259 : (Jvm.Cond.static ({ cls := "LetterForms", name := "isDisc", desc := "(I)V" } : Jvm.MethodName)) ∈ lw_all := lw_g (lw_at lw_m5 180 rfl) rfl
theorem q1260 : (Jvm.Cond.code ({ cls := "LetterForms", name := "isDisc", desc := "(I)V" } : Jvm.MethodName) prog_1_method_67_code (1 : Nat) (Option.none : Option Jvm.ClassFile.FieldType)) ∈ lw_all := lw_g (lw_at lw_m5 181 rfl) rfl
theorem q1261 : (Jvm.Cond.constantLong "LetterForms" (378 : Nat) (-9999 : Int64)) ∈ lw_all := lw_g (lw_at lw_m5 182 rfl) rfl
theorem q1262 : (Jvm.Cond.constantLong "LetterForms" (380 : Nat) (-3 : Int64)) ∈ lw_all := lw_g (lw_at lw_m5 183 rfl) rfl
theorem q1263 : (Jvm.Cond.methodLink "LetterForms" (382 : Nat) ({ cls := "java/lang/Math", name := "floorMod", desc := "(II)I" } : Jvm.MethodName)) ∈ lw_all := lw_g (lw_at lw_m5 184 rfl) rfl
theorem q1266 : (Jvm.Cond.methodLink "LetterForms" (391 : Nat) ({ cls := "LetterForms", name := "lists", desc := "(IZI)I" } : Jvm.MethodName)) ∈ lw_all := lw_g (lw_at lw_m5 187 rfl) rfl
theorem q1267 : (Jvm.Cond.privateMethod ({ cls := "LetterForms", name := "lists", desc := "(IZI)I" } : Jvm.MethodName)) ∈ lw_tbl := lw_at lw_m5 188 rfl
theorem q1268 : (Jvm.Cond.instanceMethod ({ cls := "LetterForms", name := "lists", desc := "(IZI)I" } : Jvm.MethodName)) ∈ lw_all := lw_g (lw_at lw_m5 189 rfl) rfl
theorem q1269 : (Jvm.Cond.code ({ cls := "LetterForms", name := "lists", desc := "(IZI)I" } : Jvm.MethodName) prog_1_method_68_code (9 : Nat) (Option.some Jvm.ClassFile.FieldType.int)) ∈ lw_all := lw_g (lw_at lw_m5 190 rfl) rfl
theorem q1270 : (Jvm.Cond.methodLink "LetterForms" (385 : Nat) ({ cls := "LetterForms", name := "divisor", desc := "(II)I" } : Jvm.MethodName)) ∈ lw_all := lw_g (lw_at lw_m5 191 rfl) rfl
theorem q1271 : (Jvm.Cond.static ({ cls := "LetterForms", name := "divisor", desc := "(II)I" } : Jvm.MethodName)) ∈ lw_all := lw_g (lw_at lw_m5 192 rfl) rfl
theorem q1272 : (Jvm.Cond.code ({ cls := "LetterForms", name := "divisor", desc := "(II)I" } : Jvm.MethodName) prog_1_method_66_code (5 : Nat) (Option.some Jvm.ClassFile.FieldType.int)) ∈ lw_all := lw_g (lw_at lw_m5 193 rfl) rfl
theorem q1273 : (Jvm.Cond.methodLink "LetterForms" (375 : Nat) ({ cls := "java/lang/Math", name := "abs", desc := "(I)I" } : Jvm.MethodName)) ∈ lw_all := lw_g (lw_at lw_m5 194 rfl) rfl
theorem q1280 : (Jvm.Cond.instanceMethod ({ cls := "LetterForms", name := "reducedAt", desc := "(III)I" } : Jvm.MethodName)) ∈ lw_all := lw_g (lw_at lw_m5 201 rfl) rfl
theorem q1281 : (Jvm.Cond.selects "LetterForms" ({ cls := "LetterForms", name := "reducedAt", desc := "(III)I" } : Jvm.MethodName) ({ cls := "LetterForms", name := "reducedAt", desc := "(III)I" } : Jvm.MethodName)) ∈ lw_all := lw_g (lw_at lw_m5 202 rfl) rfl
theorem q1282 : (Jvm.Cond.code ({ cls := "LetterForms", name := "reducedAt", desc := "(III)I" } : Jvm.MethodName) prog_1_method_70_code (4 : Nat) (Option.some Jvm.ClassFile.FieldType.int)) ∈ lw_all := lw_g (lw_at lw_m5 203 rfl) rfl
theorem q1287 : (Jvm.Cond.instanceMethod ({ cls := "LetterForms", name := "real", desc := "(IIIII)I" } : Jvm.MethodName)) ∈ lw_all := lw_g (lw_at lw_m5 208 rfl) rfl
theorem q1288 : (Jvm.Cond.selects "LetterForms" ({ cls := "LetterForms", name := "real", desc := "(IIIII)I" } : Jvm.MethodName) ({ cls := "LetterForms", name := "real", desc := "(IIIII)I" } : Jvm.MethodName)) ∈ lw_all := lw_g (lw_at lw_m5 209 rfl) rfl
theorem q1289 : (Jvm.Cond.code ({ cls := "LetterForms", name := "real", desc := "(IIIII)I" } : Jvm.MethodName) prog_1_method_73_code (7 : Nat) (Option.some Jvm.ClassFile.FieldType.int)) ∈ lw_all := lw_g (lw_at lw_m5 210 rfl) rfl
theorem q1290 : (Jvm.Cond.constantLong "LetterForms" (405 : Nat) (-30 : Int64)) ∈ lw_all := lw_g (lw_at lw_m5 211 rfl) rfl
theorem q1291 : (Jvm.Cond.constantLong "LetterForms" (407 : Nat) (30 : Int64)) ∈ lw_all := lw_g (lw_at lw_m5 212 rfl) rfl
theorem q1292 : (Jvm.Cond.methodLink "LetterForms" (409 : Nat) ({ cls := "LetterForms", name := "cubic", desc := "(JJJJ)I" } : Jvm.MethodName)) ∈ lw_all := lw_g (lw_at lw_m5 213 rfl) rfl
theorem q1293 : (Jvm.Cond.static ({ cls := "LetterForms", name := "cubic", desc := "(JJJJ)I" } : Jvm.MethodName)) ∈ lw_all := lw_g (lw_at lw_m5 214 rfl) rfl
theorem q1294 : (Jvm.Cond.code ({ cls := "LetterForms", name := "cubic", desc := "(JJJJ)I" } : Jvm.MethodName) prog_1_method_71_code (10 : Nat) (Option.some Jvm.ClassFile.FieldType.int)) ∈ lw_all := lw_g (lw_at lw_m5 215 rfl) rfl
theorem q1295 : (Jvm.Cond.constantLong "LetterForms" (395 : Nat) (18 : Int64)) ∈ lw_all := lw_g (lw_at lw_m5 216 rfl) rfl
theorem q1296 : (Jvm.Cond.constantLong "LetterForms" (397 : Nat) (27 : Int64)) ∈ lw_all := lw_g (lw_at lw_m5 217 rfl) rfl
theorem q1297 : (Jvm.Cond.methodLink "LetterForms" (413 : Nat) ({ cls := "LetterForms", name := "quartic", desc := "(JJJJJ)I" } : Jvm.MethodName)) ∈ lw_all := lw_g (lw_at lw_m5 218 rfl) rfl
theorem q1298 : (Jvm.Cond.static ({ cls := "LetterForms", name := "quartic", desc := "(JJJJJ)I" } : Jvm.MethodName)) ∈ lw_all := lw_g (lw_at lw_m5 219 rfl) rfl
theorem q1299 : (Jvm.Cond.code ({ cls := "LetterForms", name := "quartic", desc := "(JJJJJ)I" } : Jvm.MethodName) prog_1_method_72_code (22 : Nat) (Option.some Jvm.ClassFile.FieldType.int)) ∈ lw_all := lw_g (lw_at lw_m5 220 rfl) rfl
theorem q1300 : (Jvm.Cond.constantLong "LetterForms" (399 : Nat) (72 : Int64)) ∈ lw_all := lw_g (lw_at lw_m5 221 rfl) rfl
theorem q1301 : (Jvm.Cond.constantLong "LetterForms" (401 : Nat) (64 : Int64)) ∈ lw_all := lw_g (lw_at lw_m5 222 rfl) rfl
theorem q1302 : (Jvm.Cond.constantLong "LetterForms" (403 : Nat) (16 : Int64)) ∈ lw_all := lw_g (lw_at lw_m5 223 rfl) rfl
theorem q1982 : (Jvm.Cond.castable "LetterForms" "java/lang/Object") ∈ lw_tbl := lw_at lw_m8 183 rfl
theorem in_X1 : ∀ w ∈ wsX10, w ∈ lw_all := lw_in wsX10 [447, 449, 451, 453, 455, 457, 459, 461, 463, 465, 467, 469, 471, 473, 475, 477, 479, 481, 483] (by decide +kernel) (by decide +kernel)
