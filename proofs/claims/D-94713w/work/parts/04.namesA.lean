theorem q138 : (Jvm.Cond.initialized "java/lang/System") ∈ lw_all := lw_g (lw_at lw_m1 19 rfl) rfl
set_option maxRecDepth 100000
theorem q515 : (Jvm.Cond.static ({ cls := "java/lang/System", name := "arraycopy", desc := "(Ljava/lang/Object;ILjava/lang/Object;II)V" } : Jvm.MethodName)) ∈ lw_all := lw_g (lw_at lw_m2 156 rfl) rfl
theorem q516 : (Jvm.Cond.native ({ cls := "java/lang/System", name := "arraycopy", desc := "(Ljava/lang/Object;ILjava/lang/Object;II)V" } : Jvm.MethodName)) ∈ lw_all := lw_g (lw_at lw_m2 157 rfl) rfl
theorem q174 : (Jvm.Cond.arrayClass Jvm.ClassFile.FieldType.byte) ∈ lw_all := lw_g (lw_at lw_m1 55 rfl) rfl
set_option maxRecDepth 100000
theorem q315 : (Jvm.Cond.arrayClass Jvm.ClassFile.FieldType.int) ∈ lw_all := lw_g (lw_at lw_m1 196 rfl) rfl
theorem q346 : (Jvm.Cond.arrayOver (Jvm.ClassFile.FieldType.object "LetterForms$Form")) ∈ lw_tbl := lw_at lw_m1 227 rfl
theorem q348 : (Jvm.Cond.arrayOver (Jvm.ClassFile.FieldType.array Jvm.ClassFile.FieldType.int)) ∈ lw_tbl := lw_at lw_m1 229 rfl
theorem q350 : (Jvm.Cond.arrayOver (Jvm.ClassFile.FieldType.object "LetterForms$Sign")) ∈ lw_tbl := lw_at lw_m1 231 rfl
theorem q352 : (Jvm.Cond.arrayOver (Jvm.ClassFile.FieldType.object "LetterForms$Act")) ∈ lw_tbl := lw_at lw_m1 233 rfl
theorem q486 : (Jvm.Cond.arrayClass Jvm.ClassFile.FieldType.long) ∈ lw_all := lw_g (lw_at lw_m2 127 rfl) rfl
/-! java/lang/Object -/
set_option maxRecDepth 100000
def RJ12 : String := "java/lang/Object"
abbrev cJ12_init : ByteArray := object_method_1_code
def yJ12_init : MethodName := ⟨RJ12, "<init>", "()V"⟩
theorem dJ12_init_0 : decode cJ12_init 0 = .ok (.return_, 1) := by decide +kernel
theorem q156 : (Jvm.Cond.instanceMethod ({ cls := "java/lang/Object", name := "<init>", desc := "()V" } : Jvm.MethodName)) ∈ lw_all := lw_g (lw_at lw_m1 37 rfl) rfl
theorem q157 : (Jvm.Cond.code ({ cls := "java/lang/Object", name := "<init>", desc := "()V" } : Jvm.MethodName) object_method_1_code (1 : Nat) (Option.none : Option Jvm.ClassFile.FieldType)) ∈ lw_all := lw_g (lw_at lw_m1 38 rfl) rfl
/-! java/lang/String -/
set_option maxRecDepth 100000
def RJ9 : String := "java/lang/String"
def TJ9 : u_T := fun k => match k with
  | 0 => ("java/lang/String", "value", "[B", true)
  | _ => ("java/lang/String", "coder", "B", true)
def tyJ9 : Nat → FieldType := fun k => match k with
  | 0 => .array .byte
  | _ => .byte
abbrev wsJ90 : List Cond := u_ws RJ9 TJ9 2
theorem nmJ9 : ∀ a, a < 2 → ∀ b, b < 2 → a ≠ b → (TJ9 a).2.1 ≠ (TJ9 b).2.1 := by decide +kernel
theorem tyJ9_ok : ∀ k, k < 2 → parseFieldDescriptor (TJ9 k).2.2.1 = some (tyJ9 k) := by decide +kernel
theorem q147 : (Jvm.Cond.initialized "java/lang/String") ∈ lw_all := lw_g (lw_at lw_m1 28 rfl) rfl
theorem q790 : (Jvm.Cond.instantiable "java/lang/String" (4 : Nat)) ∈ lw_all := lw_g (lw_at lw_m3 191 rfl) rfl
theorem q791 : (Jvm.Cond.laysFinal "java/lang/String" "java/lang/String" "value" "[B") ∈ lw_all := lw_g (lw_at lw_m3 192 rfl) rfl
theorem q792 : (Jvm.Cond.soleField "java/lang/String" "value") ∈ lw_all := lw_g (lw_at lw_m3 193 rfl) rfl
theorem q793 : (Jvm.Cond.laysFinal "java/lang/String" "java/lang/String" "coder" "B") ∈ lw_all := lw_g (lw_at lw_m3 194 rfl) rfl
theorem q794 : (Jvm.Cond.soleField "java/lang/String" "coder") ∈ lw_all := lw_g (lw_at lw_m3 195 rfl) rfl
theorem q2004 : (Jvm.Cond.castable "java/lang/String" "java/lang/Object") ∈ lw_tbl := lw_at lw_m8 205 rfl
theorem in_J9 : ∀ w ∈ wsJ90, w ∈ lw_all := lw_in wsJ90 [791, 793] (by decide +kernel) (by decide +kernel)
/-! java/lang/Throwable -/
set_option maxRecDepth 100000
def RJ0 : String := "java/lang/Throwable"
def TJ0 : u_T := fun k => match k with
  | 0 => ("java/lang/Throwable", "cause", "Ljava/lang/Throwable;", false)
  | 1 => ("java/lang/Throwable", "stackTrace", "[Ljava/lang/StackTraceElement;", false)
  | 2 => ("java/lang/Throwable", "suppressedExceptions", "Ljava/util/List;", false)
  | 3 => ("java/lang/Throwable", "detailMessage", "Ljava/lang/String;", false)
  | _ => ("java/lang/Throwable", "backtrace", "Ljava/lang/Object;", false)
def tyJ0 : Nat → FieldType := fun k => match k with
  | 0 => .object "java/lang/Throwable"
  | 1 => .array (.object "java/lang/StackTraceElement")
  | 2 => .object "java/util/List"
  | 3 => .object "java/lang/String"
  | _ => .object "java/lang/Object"
abbrev wsJ00 : List Cond := u_ws RJ0 TJ0 5
theorem nmJ0 : ∀ a, a < 5 → ∀ b, b < 5 → a ≠ b → (TJ0 a).2.1 ≠ (TJ0 b).2.1 := by decide +kernel
theorem tyJ0_ok : ∀ k, k < 5 → parseFieldDescriptor (TJ0 k).2.2.1 = some (tyJ0 k) := by decide +kernel
abbrev cJ0_init : ByteArray := prog_30_method_1_code
def yJ0_init : MethodName := ⟨RJ0, "<init>", "()V"⟩
def dkwJ0_init_1 : List UInt8 := [182, 0, 27, 87, 177]
abbrev dktJ0_init_1 : List UInt8 := dkwJ0_init_1 ++ []
def dkwJ0_init_0 : List UInt8 := [42, 183, 0, 1, 42, 42, 181, 0, 7, 42, 178, 0, 13, 181, 0, 17, 42, 178, 0, 20, 181, 0, 24, 42]
abbrev dktJ0_init_0 : List UInt8 := dkwJ0_init_0 ++ dktJ0_init_1
theorem dksJ0_init_0 : cJ0_init.data.toList.drop 0 = dktJ0_init_0 := by decide +kernel
theorem dksJ0_init_1 : cJ0_init.data.toList.drop 24 = dktJ0_init_1 := dk_seg dksJ0_init_0 24 rfl rfl
theorem dJ0_init_0 : decode cJ0_init 0 = .ok (.aload_n 0, 1) := dk_42 (dk_at dksJ0_init_0 0 rfl rfl)
theorem dJ0_init_1 : decode cJ0_init 1 = .ok (.invokespecial 1, 3) := dk_183 0 1 (dk_at dksJ0_init_0 1 rfl rfl)
theorem dJ0_init_4 : decode cJ0_init 4 = .ok (.aload_n 0, 1) := dk_42 (dk_at dksJ0_init_0 4 rfl rfl)
theorem dJ0_init_5 : decode cJ0_init 5 = .ok (.aload_n 0, 1) := dk_42 (dk_at dksJ0_init_0 5 rfl rfl)
theorem dJ0_init_6 : decode cJ0_init 6 = .ok (.putfield 7, 3) := dk_181 0 7 (dk_at dksJ0_init_0 6 rfl rfl)
theorem dJ0_init_9 : decode cJ0_init 9 = .ok (.aload_n 0, 1) := dk_42 (dk_at dksJ0_init_0 9 rfl rfl)
theorem dJ0_init_10 : decode cJ0_init 10 = .ok (.getstatic 13, 3) := dk_178 0 13 (dk_at dksJ0_init_0 10 rfl rfl)
theorem dJ0_init_13 : decode cJ0_init 13 = .ok (.putfield 17, 3) := dk_181 0 17 (dk_at dksJ0_init_0 13 rfl rfl)
theorem dJ0_init_16 : decode cJ0_init 16 = .ok (.aload_n 0, 1) := dk_42 (dk_at dksJ0_init_0 16 rfl rfl)
theorem dJ0_init_17 : decode cJ0_init 17 = .ok (.getstatic 20, 3) := dk_178 0 20 (dk_at dksJ0_init_0 17 rfl rfl)
theorem dJ0_init_20 : decode cJ0_init 20 = .ok (.putfield 24, 3) := dk_181 0 24 (dk_at dksJ0_init_0 20 rfl rfl)
theorem dJ0_init_23 : decode cJ0_init 23 = .ok (.aload_n 0, 1) := dk_42 (dk_at dksJ0_init_0 23 rfl rfl)
theorem dJ0_init_24 : decode cJ0_init 24 = .ok (.invokevirtual 27, 3) := dk_182 0 27 (dk_at dksJ0_init_1 0 rfl rfl)
theorem dJ0_init_27 : decode cJ0_init 27 = .ok (.pop, 1) := dk_87 (dk_at dksJ0_init_1 3 rfl rfl)
theorem dJ0_init_28 : decode cJ0_init 28 = .ok (.return_, 1) := dk_177 (dk_at dksJ0_init_1 4 rfl rfl)
abbrev cJ0_init_2 : ByteArray := prog_30_method_5_code
def yJ0_init_2 : MethodName := ⟨RJ0, "<init>", "(Ljava/lang/String;Ljava/lang/Throwable;ZZ)V"⟩
def dkwJ0_init_2_2 : List UInt8 := [44, 181, 0, 7, 29, 154, 0, 8, 42, 1, 181, 0, 24, 177]
abbrev dktJ0_init_2_2 : List UInt8 := dkwJ0_init_2_2 ++ []
def dkwJ0_init_2_1 : List UInt8 := [21, 4, 153, 0, 11, 42, 182, 0, 27, 87, 167, 0, 8, 42, 1, 181, 0, 17, 42, 43, 181, 0, 31, 42]
abbrev dktJ0_init_2_1 : List UInt8 := dkwJ0_init_2_1 ++ dktJ0_init_2_2
def dkwJ0_init_2_0 : List UInt8 := [42, 183, 0, 1, 42, 42, 181, 0, 7, 42, 178, 0, 13, 181, 0, 17, 42, 178, 0, 20, 181, 0, 24]
abbrev dktJ0_init_2_0 : List UInt8 := dkwJ0_init_2_0 ++ dktJ0_init_2_1
theorem dksJ0_init_2_0 : cJ0_init_2.data.toList.drop 0 = dktJ0_init_2_0 := by decide +kernel
theorem dksJ0_init_2_1 : cJ0_init_2.data.toList.drop 23 = dktJ0_init_2_1 := dk_seg dksJ0_init_2_0 23 rfl rfl
theorem dksJ0_init_2_2 : cJ0_init_2.data.toList.drop 47 = dktJ0_init_2_2 := dk_seg dksJ0_init_2_1 24 rfl rfl
theorem dJ0_init_2_0 : decode cJ0_init_2 0 = .ok (.aload_n 0, 1) := dk_42 (dk_at dksJ0_init_2_0 0 rfl rfl)
theorem dJ0_init_2_1 : decode cJ0_init_2 1 = .ok (.invokespecial 1, 3) := dk_183 0 1 (dk_at dksJ0_init_2_0 1 rfl rfl)
theorem dJ0_init_2_4 : decode cJ0_init_2 4 = .ok (.aload_n 0, 1) := dk_42 (dk_at dksJ0_init_2_0 4 rfl rfl)
theorem dJ0_init_2_5 : decode cJ0_init_2 5 = .ok (.aload_n 0, 1) := dk_42 (dk_at dksJ0_init_2_0 5 rfl rfl)
theorem dJ0_init_2_6 : decode cJ0_init_2 6 = .ok (.putfield 7, 3) := dk_181 0 7 (dk_at dksJ0_init_2_0 6 rfl rfl)
theorem dJ0_init_2_9 : decode cJ0_init_2 9 = .ok (.aload_n 0, 1) := dk_42 (dk_at dksJ0_init_2_0 9 rfl rfl)
theorem dJ0_init_2_10 : decode cJ0_init_2 10 = .ok (.getstatic 13, 3) := dk_178 0 13 (dk_at dksJ0_init_2_0 10 rfl rfl)
theorem dJ0_init_2_13 : decode cJ0_init_2 13 = .ok (.putfield 17, 3) := dk_181 0 17 (dk_at dksJ0_init_2_0 13 rfl rfl)
theorem dJ0_init_2_16 : decode cJ0_init_2 16 = .ok (.aload_n 0, 1) := dk_42 (dk_at dksJ0_init_2_0 16 rfl rfl)
theorem dJ0_init_2_17 : decode cJ0_init_2 17 = .ok (.getstatic 20, 3) := dk_178 0 20 (dk_at dksJ0_init_2_0 17 rfl rfl)
theorem dJ0_init_2_20 : decode cJ0_init_2 20 = .ok (.putfield 24, 3) := dk_181 0 24 (dk_at dksJ0_init_2_0 20 rfl rfl)
theorem dJ0_init_2_23 : decode cJ0_init_2 23 = .ok (.iload 4, 2) := dk_21 4 (dk_at dksJ0_init_2_1 0 rfl rfl)
theorem dJ0_init_2_25 : decode cJ0_init_2 25 = .ok (.ifCond .eq 11, 3) := dk_153 0 11 (dk_at dksJ0_init_2_1 2 rfl rfl)
theorem dJ0_init_2_28 : decode cJ0_init_2 28 = .ok (.aload_n 0, 1) := dk_42 (dk_at dksJ0_init_2_1 5 rfl rfl)
theorem dJ0_init_2_29 : decode cJ0_init_2 29 = .ok (.invokevirtual 27, 3) := dk_182 0 27 (dk_at dksJ0_init_2_1 6 rfl rfl)
theorem dJ0_init_2_32 : decode cJ0_init_2 32 = .ok (.pop, 1) := dk_87 (dk_at dksJ0_init_2_1 9 rfl rfl)
theorem dJ0_init_2_33 : decode cJ0_init_2 33 = .ok (.goto 8, 3) := dk_167 0 8 (dk_at dksJ0_init_2_1 10 rfl rfl)
theorem dJ0_init_2_36 : decode cJ0_init_2 36 = .ok (.aload_n 0, 1) := dk_42 (dk_at dksJ0_init_2_1 13 rfl rfl)
theorem dJ0_init_2_37 : decode cJ0_init_2 37 = .ok (.aconst_null, 1) := dk_1 (dk_at dksJ0_init_2_1 14 rfl rfl)
theorem dJ0_init_2_38 : decode cJ0_init_2 38 = .ok (.putfield 17, 3) := dk_181 0 17 (dk_at dksJ0_init_2_1 15 rfl rfl)
theorem dJ0_init_2_41 : decode cJ0_init_2 41 = .ok (.aload_n 0, 1) := dk_42 (dk_at dksJ0_init_2_1 18 rfl rfl)
theorem dJ0_init_2_42 : decode cJ0_init_2 42 = .ok (.aload_n 1, 1) := dk_43 (dk_at dksJ0_init_2_1 19 rfl rfl)
theorem dJ0_init_2_43 : decode cJ0_init_2 43 = .ok (.putfield 31, 3) := dk_181 0 31 (dk_at dksJ0_init_2_1 20 rfl rfl)
theorem dJ0_init_2_46 : decode cJ0_init_2 46 = .ok (.aload_n 0, 1) := dk_42 (dk_at dksJ0_init_2_1 23 rfl rfl)
theorem dJ0_init_2_47 : decode cJ0_init_2 47 = .ok (.aload_n 2, 1) := dk_44 (dk_at dksJ0_init_2_2 0 rfl rfl)
theorem dJ0_init_2_48 : decode cJ0_init_2 48 = .ok (.putfield 7, 3) := dk_181 0 7 (dk_at dksJ0_init_2_2 1 rfl rfl)
theorem dJ0_init_2_51 : decode cJ0_init_2 51 = .ok (.iload_n 3, 1) := dk_29 (dk_at dksJ0_init_2_2 4 rfl rfl)
theorem dJ0_init_2_52 : decode cJ0_init_2 52 = .ok (.ifCond .ne 8, 3) := dk_154 0 8 (dk_at dksJ0_init_2_2 5 rfl rfl)
theorem dJ0_init_2_55 : decode cJ0_init_2 55 = .ok (.aload_n 0, 1) := dk_42 (dk_at dksJ0_init_2_2 8 rfl rfl)
theorem dJ0_init_2_56 : decode cJ0_init_2 56 = .ok (.aconst_null, 1) := dk_1 (dk_at dksJ0_init_2_2 9 rfl rfl)
theorem dJ0_init_2_57 : decode cJ0_init_2 57 = .ok (.putfield 24, 3) := dk_181 0 24 (dk_at dksJ0_init_2_2 10 rfl rfl)
theorem dJ0_init_2_60 : decode cJ0_init_2 60 = .ok (.return_, 1) := dk_177 (dk_at dksJ0_init_2_2 13 rfl rfl)
abbrev cJ0_init_3 : ByteArray := prog_30_method_2_code
def yJ0_init_3 : MethodName := ⟨RJ0, "<init>", "(Ljava/lang/String;)V"⟩
def dkwJ0_init_3_1 : List UInt8 := [182, 0, 27, 87, 42, 43, 181, 0, 31, 177]
abbrev dktJ0_init_3_1 : List UInt8 := dkwJ0_init_3_1 ++ []
def dkwJ0_init_3_0 : List UInt8 := [42, 183, 0, 1, 42, 42, 181, 0, 7, 42, 178, 0, 13, 181, 0, 17, 42, 178, 0, 20, 181, 0, 24, 42]
abbrev dktJ0_init_3_0 : List UInt8 := dkwJ0_init_3_0 ++ dktJ0_init_3_1
theorem dksJ0_init_3_0 : cJ0_init_3.data.toList.drop 0 = dktJ0_init_3_0 := by decide +kernel
theorem dksJ0_init_3_1 : cJ0_init_3.data.toList.drop 24 = dktJ0_init_3_1 := dk_seg dksJ0_init_3_0 24 rfl rfl
theorem dJ0_init_3_0 : decode cJ0_init_3 0 = .ok (.aload_n 0, 1) := dk_42 (dk_at dksJ0_init_3_0 0 rfl rfl)
theorem dJ0_init_3_1 : decode cJ0_init_3 1 = .ok (.invokespecial 1, 3) := dk_183 0 1 (dk_at dksJ0_init_3_0 1 rfl rfl)
theorem dJ0_init_3_4 : decode cJ0_init_3 4 = .ok (.aload_n 0, 1) := dk_42 (dk_at dksJ0_init_3_0 4 rfl rfl)
theorem dJ0_init_3_5 : decode cJ0_init_3 5 = .ok (.aload_n 0, 1) := dk_42 (dk_at dksJ0_init_3_0 5 rfl rfl)
theorem dJ0_init_3_6 : decode cJ0_init_3 6 = .ok (.putfield 7, 3) := dk_181 0 7 (dk_at dksJ0_init_3_0 6 rfl rfl)
theorem dJ0_init_3_9 : decode cJ0_init_3 9 = .ok (.aload_n 0, 1) := dk_42 (dk_at dksJ0_init_3_0 9 rfl rfl)
theorem dJ0_init_3_10 : decode cJ0_init_3 10 = .ok (.getstatic 13, 3) := dk_178 0 13 (dk_at dksJ0_init_3_0 10 rfl rfl)
theorem dJ0_init_3_13 : decode cJ0_init_3 13 = .ok (.putfield 17, 3) := dk_181 0 17 (dk_at dksJ0_init_3_0 13 rfl rfl)
theorem dJ0_init_3_16 : decode cJ0_init_3 16 = .ok (.aload_n 0, 1) := dk_42 (dk_at dksJ0_init_3_0 16 rfl rfl)
theorem dJ0_init_3_17 : decode cJ0_init_3 17 = .ok (.getstatic 20, 3) := dk_178 0 20 (dk_at dksJ0_init_3_0 17 rfl rfl)
theorem dJ0_init_3_20 : decode cJ0_init_3 20 = .ok (.putfield 24, 3) := dk_181 0 24 (dk_at dksJ0_init_3_0 20 rfl rfl)
theorem dJ0_init_3_23 : decode cJ0_init_3 23 = .ok (.aload_n 0, 1) := dk_42 (dk_at dksJ0_init_3_0 23 rfl rfl)
theorem dJ0_init_3_24 : decode cJ0_init_3 24 = .ok (.invokevirtual 27, 3) := dk_182 0 27 (dk_at dksJ0_init_3_1 0 rfl rfl)
theorem dJ0_init_3_27 : decode cJ0_init_3 27 = .ok (.pop, 1) := dk_87 (dk_at dksJ0_init_3_1 3 rfl rfl)
theorem dJ0_init_3_28 : decode cJ0_init_3 28 = .ok (.aload_n 0, 1) := dk_42 (dk_at dksJ0_init_3_1 4 rfl rfl)
theorem dJ0_init_3_29 : decode cJ0_init_3 29 = .ok (.aload_n 1, 1) := dk_43 (dk_at dksJ0_init_3_1 5 rfl rfl)
theorem dJ0_init_3_30 : decode cJ0_init_3 30 = .ok (.putfield 31, 3) := dk_181 0 31 (dk_at dksJ0_init_3_1 6 rfl rfl)
theorem dJ0_init_3_33 : decode cJ0_init_3 33 = .ok (.return_, 1) := dk_177 (dk_at dksJ0_init_3_1 9 rfl rfl)
theorem q124 : (Jvm.Cond.initialized "java/lang/Throwable") ∈ lw_all := lw_g (lw_at lw_m1 5 rfl) rfl
theorem q182 : (Jvm.Cond.declares ({ cls := "java/lang/Throwable", name := "<init>", desc := "()V" } : Jvm.MethodName)) ∈ lw_tbl := lw_at lw_m1 63 rfl
theorem q183 : (Jvm.Cond.declares ({ cls := "java/lang/Throwable", name := "<init>", desc := "(Ljava/lang/String;)V" } : Jvm.MethodName)) ∈ lw_tbl := lw_at lw_m1 64 rfl
theorem q187 : (Jvm.Cond.lays "java/lang/Throwable" "java/lang/Throwable" "cause" "Ljava/lang/Throwable;") ∈ lw_all := lw_g (lw_at lw_m1 68 rfl) rfl
theorem q189 : (Jvm.Cond.lays "java/lang/Throwable" "java/lang/Throwable" "stackTrace" "[Ljava/lang/StackTraceElement;") ∈ lw_all := lw_g (lw_at lw_m1 70 rfl) rfl
theorem q191 : (Jvm.Cond.lays "java/lang/Throwable" "java/lang/Throwable" "suppressedExceptions" "Ljava/util/List;") ∈ lw_all := lw_g (lw_at lw_m1 72 rfl) rfl
theorem q193 : (Jvm.Cond.lays "java/lang/Throwable" "java/lang/Throwable" "detailMessage" "Ljava/lang/String;") ∈ lw_all := lw_g (lw_at lw_m1 74 rfl) rfl
theorem q195 : (Jvm.Cond.lays "java/lang/Throwable" "java/lang/Throwable" "backtrace" "Ljava/lang/Object;") ∈ lw_all := lw_g (lw_at lw_m1 76 rfl) rfl
theorem q196 : (Jvm.Cond.fieldLink "java/lang/Throwable" (198 : Nat) "java/lang/Throwable" "backtrace" "Ljava/lang/Object;") ∈ lw_all := lw_g (lw_at lw_m1 77 rfl) rfl
theorem q197 : (Jvm.Cond.superclass "java/lang/Throwable" "java/lang/Object") ∈ lw_all := lw_g (lw_at lw_m1 78 rfl) rfl
theorem q198 : (Jvm.Cond.instanceMethod ({ cls := "java/lang/Throwable", name := "<init>", desc := "()V" } : Jvm.MethodName)) ∈ lw_all := lw_g (lw_at lw_m1 79 rfl) rfl
theorem q199 : (Jvm.Cond.code ({ cls := "java/lang/Throwable", name := "<init>", desc := "()V" } : Jvm.MethodName) prog_30_method_1_code (1 : Nat) (Option.none : Option Jvm.ClassFile.FieldType)) ∈ lw_all := lw_g (lw_at lw_m1 80 rfl) rfl
theorem q200 : (Jvm.Cond.methodLink "java/lang/Throwable" (1 : Nat) ({ cls := "java/lang/Object", name := "<init>", desc := "()V" } : Jvm.MethodName)) ∈ lw_all := lw_g (lw_at lw_m1 81 rfl) rfl
theorem q201 : (Jvm.Cond.fieldLink "java/lang/Throwable" (13 : Nat) "java/lang/Throwable" "UNASSIGNED_STACK" "[Ljava/lang/StackTraceElement;") ∈ lw_all := lw_g (lw_at lw_m1 82 rfl) rfl
theorem q202 : (Jvm.Cond.laysStatic "java/lang/Throwable" "UNASSIGNED_STACK" "[Ljava/lang/StackTraceElement;") ∈ lw_tbl := lw_at lw_m1 83 rfl
theorem q203 : (Jvm.Cond.fieldLink "java/lang/Throwable" (20 : Nat) "java/lang/Throwable" "SUPPRESSED_SENTINEL" "Ljava/util/List;") ∈ lw_all := lw_g (lw_at lw_m1 84 rfl) rfl
theorem q204 : (Jvm.Cond.laysStatic "java/lang/Throwable" "SUPPRESSED_SENTINEL" "Ljava/util/List;") ∈ lw_tbl := lw_at lw_m1 85 rfl
theorem q205 : (Jvm.Cond.methodLink "java/lang/Throwable" (27 : Nat) ({ cls := "java/lang/Throwable", name := "fillInStackTrace", desc := "()Ljava/lang/Throwable;" } : Jvm.MethodName)) ∈ lw_all := lw_g (lw_at lw_m1 86 rfl) rfl
theorem q206 : (Jvm.Cond.instanceMethod ({ cls := "java/lang/Throwable", name := "fillInStackTrace", desc := "()Ljava/lang/Throwable;" } : Jvm.MethodName)) ∈ lw_all := lw_g (lw_at lw_m1 87 rfl) rfl
theorem q207 : (Jvm.Cond.sameMethod "java/lang/Throwable" "java/lang/Throwable" "fillInStackTrace" "()Ljava/lang/Throwable;") ∈ lw_all := lw_g (lw_at lw_m1 88 rfl) rfl
theorem q214 : (Jvm.Cond.codeSync ({ cls := "java/lang/Throwable", name := "fillInStackTrace", desc := "()Ljava/lang/Throwable;" } : Jvm.MethodName) prog_30_method_18_code (1 : Nat) (Option.some (Jvm.ClassFile.FieldType.object "java/lang/Throwable"))) ∈ lw_all := lw_g (lw_at lw_m1 95 rfl) rfl
theorem q215 : (Jvm.Cond.methodLink "java/lang/Throwable" (202 : Nat) ({ cls := "java/lang/Throwable", name := "fillInStackTrace", desc := "(I)Ljava/lang/Throwable;" } : Jvm.MethodName)) ∈ lw_all := lw_g (lw_at lw_m1 96 rfl) rfl
theorem q216 : (Jvm.Cond.privateMethod ({ cls := "java/lang/Throwable", name := "fillInStackTrace", desc := "(I)Ljava/lang/Throwable;" } : Jvm.MethodName)) ∈ lw_tbl := lw_at lw_m1 97 rfl
theorem q217 : (Jvm.Cond.instanceMethod ({ cls := "java/lang/Throwable", name := "fillInStackTrace", desc := "(I)Ljava/lang/Throwable;" } : Jvm.MethodName)) ∈ lw_all := lw_g (lw_at lw_m1 98 rfl) rfl
theorem q218 : (Jvm.Cond.instantiable "java/lang/Throwable" (6 : Nat)) ∈ lw_all := lw_g (lw_at lw_m1 99 rfl) rfl
theorem q219 : (Jvm.Cond.native ({ cls := "java/lang/Throwable", name := "fillInStackTrace", desc := "(I)Ljava/lang/Throwable;" } : Jvm.MethodName)) ∈ lw_all := lw_g (lw_at lw_m1 100 rfl) rfl
theorem q230 : (Jvm.Cond.instanceMethod ({ cls := "java/lang/Throwable", name := "<init>", desc := "(Ljava/lang/String;Ljava/lang/Throwable;ZZ)V" } : Jvm.MethodName)) ∈ lw_all := lw_g (lw_at lw_m1 111 rfl) rfl
theorem q231 : (Jvm.Cond.code ({ cls := "java/lang/Throwable", name := "<init>", desc := "(Ljava/lang/String;Ljava/lang/Throwable;ZZ)V" } : Jvm.MethodName) prog_30_method_5_code (5 : Nat) (Option.none : Option Jvm.ClassFile.FieldType)) ∈ lw_all := lw_g (lw_at lw_m1 112 rfl) rfl
theorem q234 : (Jvm.Cond.fieldLink "java/lang/Throwable" (198 : Nat) "java/lang/Throwable" "backtrace" "Ljava/lang/Object;") ∈ lw_all := lw_g (lw_at lw_m1 115 rfl) rfl
theorem q235 : (Jvm.Cond.fieldLink "java/lang/Throwable" (31 : Nat) "java/lang/Throwable" "detailMessage" "Ljava/lang/String;") ∈ lw_all := lw_g (lw_at lw_m1 116 rfl) rfl
theorem q236 : (Jvm.Cond.fieldLink "java/lang/Throwable" (7 : Nat) "java/lang/Throwable" "cause" "Ljava/lang/Throwable;") ∈ lw_all := lw_g (lw_at lw_m1 117 rfl) rfl
theorem q237 : (Jvm.Cond.fieldLink "java/lang/Throwable" (17 : Nat) "java/lang/Throwable" "stackTrace" "[Ljava/lang/StackTraceElement;") ∈ lw_all := lw_g (lw_at lw_m1 118 rfl) rfl
theorem q238 : (Jvm.Cond.fieldLink "java/lang/Throwable" (24 : Nat) "java/lang/Throwable" "suppressedExceptions" "Ljava/util/List;") ∈ lw_all := lw_g (lw_at lw_m1 119 rfl) rfl
theorem q241 : (Jvm.Cond.soleField "java/lang/Throwable" "backtrace") ∈ lw_all := lw_g (lw_at lw_m1 122 rfl) rfl
theorem q242 : (Jvm.Cond.soleField "java/lang/Throwable" "detailMessage") ∈ lw_all := lw_g (lw_at lw_m1 123 rfl) rfl
theorem q243 : (Jvm.Cond.soleField "java/lang/Throwable" "cause") ∈ lw_all := lw_g (lw_at lw_m1 124 rfl) rfl
theorem q244 : (Jvm.Cond.soleField "java/lang/Throwable" "stackTrace") ∈ lw_all := lw_g (lw_at lw_m1 125 rfl) rfl
theorem q246 : (Jvm.Cond.soleField "java/lang/Throwable" "depth") ∈ lw_all := lw_g (lw_at lw_m1 127 rfl) rfl
theorem q247 : (Jvm.Cond.soleField "java/lang/Throwable" "suppressedExceptions") ∈ lw_all := lw_g (lw_at lw_m1 128 rfl) rfl
theorem q777 : (Jvm.Cond.instanceMethod ({ cls := "java/lang/Throwable", name := "<init>", desc := "(Ljava/lang/String;)V" } : Jvm.MethodName)) ∈ lw_all := lw_g (lw_at lw_m3 178 rfl) rfl
theorem q778 : (Jvm.Cond.code ({ cls := "java/lang/Throwable", name := "<init>", desc := "(Ljava/lang/String;)V" } : Jvm.MethodName) prog_30_method_2_code (2 : Nat) (Option.none : Option Jvm.ClassFile.FieldType)) ∈ lw_all := lw_g (lw_at lw_m3 179 rfl) rfl
theorem q1980 : (Jvm.Cond.sameMethod "java/lang/Throwable" "java/lang/Throwable" "fillInStackTrace" "(I)Ljava/lang/Throwable;") ∈ lw_all := lw_g (lw_at lw_m8 181 rfl) rfl
theorem q2003 : (Jvm.Cond.castable "java/lang/Throwable" "java/lang/Object") ∈ lw_tbl := lw_at lw_m8 204 rfl
theorem in_J0 : ∀ w ∈ wsJ00, w ∈ lw_all := lw_in wsJ00 [187, 189, 191, 193, 195] (by decide +kernel) (by decide +kernel)
/-! java/lang/Exception -/
set_option maxRecDepth 100000
def RJ1 : String := "java/lang/Exception"
abbrev cJ1_init : ByteArray := prog_21_method_5_code
def yJ1_init : MethodName := ⟨RJ1, "<init>", "(Ljava/lang/String;Ljava/lang/Throwable;ZZ)V"⟩
def dkwJ1_init_0 : List UInt8 := [42, 43, 44, 29, 21, 4, 183, 0, 16, 177]
abbrev dktJ1_init_0 : List UInt8 := dkwJ1_init_0 ++ []
theorem dksJ1_init_0 : cJ1_init.data.toList.drop 0 = dktJ1_init_0 := by decide +kernel
theorem dJ1_init_0 : decode cJ1_init 0 = .ok (.aload_n 0, 1) := dk_42 (dk_at dksJ1_init_0 0 rfl rfl)
theorem dJ1_init_1 : decode cJ1_init 1 = .ok (.aload_n 1, 1) := dk_43 (dk_at dksJ1_init_0 1 rfl rfl)
theorem dJ1_init_2 : decode cJ1_init 2 = .ok (.aload_n 2, 1) := dk_44 (dk_at dksJ1_init_0 2 rfl rfl)
theorem dJ1_init_3 : decode cJ1_init 3 = .ok (.iload_n 3, 1) := dk_29 (dk_at dksJ1_init_0 3 rfl rfl)
theorem dJ1_init_4 : decode cJ1_init 4 = .ok (.iload 4, 2) := dk_21 4 (dk_at dksJ1_init_0 4 rfl rfl)
theorem dJ1_init_6 : decode cJ1_init 6 = .ok (.invokespecial 16, 3) := dk_183 0 16 (dk_at dksJ1_init_0 6 rfl rfl)
theorem dJ1_init_9 : decode cJ1_init 9 = .ok (.return_, 1) := dk_177 (dk_at dksJ1_init_0 9 rfl rfl)
abbrev cJ1_init_2 : ByteArray := prog_21_method_1_code
def yJ1_init_2 : MethodName := ⟨RJ1, "<init>", "()V"⟩
theorem dJ1_init_2_0 : decode cJ1_init_2 0 = .ok (.aload_n 0, 1) := by decide +kernel
theorem dJ1_init_2_1 : decode cJ1_init_2 1 = .ok (.invokespecial 1, 3) := by decide +kernel
theorem dJ1_init_2_4 : decode cJ1_init_2 4 = .ok (.return_, 1) := by decide +kernel
abbrev cJ1_init_3 : ByteArray := prog_21_method_2_code
def yJ1_init_3 : MethodName := ⟨RJ1, "<init>", "(Ljava/lang/String;)V"⟩
def dkwJ1_init_3_0 : List UInt8 := [42, 43, 183, 0, 7, 177]
abbrev dktJ1_init_3_0 : List UInt8 := dkwJ1_init_3_0 ++ []
theorem dksJ1_init_3_0 : cJ1_init_3.data.toList.drop 0 = dktJ1_init_3_0 := by decide +kernel
theorem dJ1_init_3_0 : decode cJ1_init_3 0 = .ok (.aload_n 0, 1) := dk_42 (dk_at dksJ1_init_3_0 0 rfl rfl)
theorem dJ1_init_3_1 : decode cJ1_init_3 1 = .ok (.aload_n 1, 1) := dk_43 (dk_at dksJ1_init_3_0 1 rfl rfl)
theorem dJ1_init_3_2 : decode cJ1_init_3 2 = .ok (.invokespecial 7, 3) := dk_183 0 7 (dk_at dksJ1_init_3_0 2 rfl rfl)
theorem dJ1_init_3_5 : decode cJ1_init_3 5 = .ok (.return_, 1) := dk_177 (dk_at dksJ1_init_3_0 5 rfl rfl)
theorem q125 : (Jvm.Cond.initialized "java/lang/Exception") ∈ lw_all := lw_g (lw_at lw_m1 6 rfl) rfl
theorem q180 : (Jvm.Cond.declares ({ cls := "java/lang/Exception", name := "<init>", desc := "()V" } : Jvm.MethodName)) ∈ lw_tbl := lw_at lw_m1 61 rfl
theorem q181 : (Jvm.Cond.declares ({ cls := "java/lang/Exception", name := "<init>", desc := "(Ljava/lang/String;)V" } : Jvm.MethodName)) ∈ lw_tbl := lw_at lw_m1 62 rfl
theorem q227 : (Jvm.Cond.instanceMethod ({ cls := "java/lang/Exception", name := "<init>", desc := "(Ljava/lang/String;Ljava/lang/Throwable;ZZ)V" } : Jvm.MethodName)) ∈ lw_all := lw_g (lw_at lw_m1 108 rfl) rfl
theorem q228 : (Jvm.Cond.code ({ cls := "java/lang/Exception", name := "<init>", desc := "(Ljava/lang/String;Ljava/lang/Throwable;ZZ)V" } : Jvm.MethodName) prog_21_method_5_code (5 : Nat) (Option.none : Option Jvm.ClassFile.FieldType)) ∈ lw_all := lw_g (lw_at lw_m1 109 rfl) rfl
theorem q229 : (Jvm.Cond.methodLink "java/lang/Exception" (16 : Nat) ({ cls := "java/lang/Throwable", name := "<init>", desc := "(Ljava/lang/String;Ljava/lang/Throwable;ZZ)V" } : Jvm.MethodName)) ∈ lw_all := lw_g (lw_at lw_m1 110 rfl) rfl
theorem q576 : (Jvm.Cond.instanceMethod ({ cls := "java/lang/Exception", name := "<init>", desc := "()V" } : Jvm.MethodName)) ∈ lw_all := lw_g (lw_at lw_m2 217 rfl) rfl
theorem q577 : (Jvm.Cond.code ({ cls := "java/lang/Exception", name := "<init>", desc := "()V" } : Jvm.MethodName) prog_21_method_1_code (1 : Nat) (Option.none : Option Jvm.ClassFile.FieldType)) ∈ lw_all := lw_g (lw_at lw_m2 218 rfl) rfl
theorem q578 : (Jvm.Cond.methodLink "java/lang/Exception" (1 : Nat) ({ cls := "java/lang/Throwable", name := "<init>", desc := "()V" } : Jvm.MethodName)) ∈ lw_all := lw_g (lw_at lw_m2 219 rfl) rfl
theorem q774 : (Jvm.Cond.instanceMethod ({ cls := "java/lang/Exception", name := "<init>", desc := "(Ljava/lang/String;)V" } : Jvm.MethodName)) ∈ lw_all := lw_g (lw_at lw_m3 175 rfl) rfl
theorem q775 : (Jvm.Cond.code ({ cls := "java/lang/Exception", name := "<init>", desc := "(Ljava/lang/String;)V" } : Jvm.MethodName) prog_21_method_2_code (2 : Nat) (Option.none : Option Jvm.ClassFile.FieldType)) ∈ lw_all := lw_g (lw_at lw_m3 176 rfl) rfl
theorem q776 : (Jvm.Cond.methodLink "java/lang/Exception" (7 : Nat) ({ cls := "java/lang/Throwable", name := "<init>", desc := "(Ljava/lang/String;)V" } : Jvm.MethodName)) ∈ lw_all := lw_g (lw_at lw_m3 177 rfl) rfl
/-! java/lang/RuntimeException -/
set_option maxRecDepth 100000
def RJ2 : String := "java/lang/RuntimeException"
abbrev cJ2_init : ByteArray := prog_27_method_5_code
def yJ2_init : MethodName := ⟨RJ2, "<init>", "(Ljava/lang/String;Ljava/lang/Throwable;ZZ)V"⟩
def dkwJ2_init_0 : List UInt8 := [42, 43, 44, 29, 21, 4, 183, 0, 16, 177]
abbrev dktJ2_init_0 : List UInt8 := dkwJ2_init_0 ++ []
theorem dksJ2_init_0 : cJ2_init.data.toList.drop 0 = dktJ2_init_0 := by decide +kernel
theorem dJ2_init_0 : decode cJ2_init 0 = .ok (.aload_n 0, 1) := dk_42 (dk_at dksJ2_init_0 0 rfl rfl)
theorem dJ2_init_1 : decode cJ2_init 1 = .ok (.aload_n 1, 1) := dk_43 (dk_at dksJ2_init_0 1 rfl rfl)
theorem dJ2_init_2 : decode cJ2_init 2 = .ok (.aload_n 2, 1) := dk_44 (dk_at dksJ2_init_0 2 rfl rfl)
theorem dJ2_init_3 : decode cJ2_init 3 = .ok (.iload_n 3, 1) := dk_29 (dk_at dksJ2_init_0 3 rfl rfl)
theorem dJ2_init_4 : decode cJ2_init 4 = .ok (.iload 4, 2) := dk_21 4 (dk_at dksJ2_init_0 4 rfl rfl)
theorem dJ2_init_6 : decode cJ2_init 6 = .ok (.invokespecial 16, 3) := dk_183 0 16 (dk_at dksJ2_init_0 6 rfl rfl)
theorem dJ2_init_9 : decode cJ2_init 9 = .ok (.return_, 1) := dk_177 (dk_at dksJ2_init_0 9 rfl rfl)
abbrev cJ2_init_2 : ByteArray := prog_27_method_1_code
def yJ2_init_2 : MethodName := ⟨RJ2, "<init>", "()V"⟩
theorem dJ2_init_2_0 : decode cJ2_init_2 0 = .ok (.aload_n 0, 1) := by decide +kernel
theorem dJ2_init_2_1 : decode cJ2_init_2 1 = .ok (.invokespecial 1, 3) := by decide +kernel
theorem dJ2_init_2_4 : decode cJ2_init_2 4 = .ok (.return_, 1) := by decide +kernel
abbrev cJ2_init_3 : ByteArray := prog_27_method_2_code
def yJ2_init_3 : MethodName := ⟨RJ2, "<init>", "(Ljava/lang/String;)V"⟩
def dkwJ2_init_3_0 : List UInt8 := [42, 43, 183, 0, 7, 177]
abbrev dktJ2_init_3_0 : List UInt8 := dkwJ2_init_3_0 ++ []
theorem dksJ2_init_3_0 : cJ2_init_3.data.toList.drop 0 = dktJ2_init_3_0 := by decide +kernel
theorem dJ2_init_3_0 : decode cJ2_init_3 0 = .ok (.aload_n 0, 1) := dk_42 (dk_at dksJ2_init_3_0 0 rfl rfl)
theorem dJ2_init_3_1 : decode cJ2_init_3 1 = .ok (.aload_n 1, 1) := dk_43 (dk_at dksJ2_init_3_0 1 rfl rfl)
theorem dJ2_init_3_2 : decode cJ2_init_3 2 = .ok (.invokespecial 7, 3) := dk_183 0 7 (dk_at dksJ2_init_3_0 2 rfl rfl)
theorem dJ2_init_3_5 : decode cJ2_init_3 5 = .ok (.return_, 1) := dk_177 (dk_at dksJ2_init_3_0 5 rfl rfl)
theorem q126 : (Jvm.Cond.initialized "java/lang/RuntimeException") ∈ lw_all := lw_g (lw_at lw_m1 7 rfl) rfl
theorem q178 : (Jvm.Cond.declares ({ cls := "java/lang/RuntimeException", name := "<init>", desc := "()V" } : Jvm.MethodName)) ∈ lw_tbl := lw_at lw_m1 59 rfl
theorem q179 : (Jvm.Cond.declares ({ cls := "java/lang/RuntimeException", name := "<init>", desc := "(Ljava/lang/String;)V" } : Jvm.MethodName)) ∈ lw_tbl := lw_at lw_m1 60 rfl
theorem q224 : (Jvm.Cond.instanceMethod ({ cls := "java/lang/RuntimeException", name := "<init>", desc := "(Ljava/lang/String;Ljava/lang/Throwable;ZZ)V" } : Jvm.MethodName)) ∈ lw_all := lw_g (lw_at lw_m1 105 rfl) rfl
theorem q225 : (Jvm.Cond.code ({ cls := "java/lang/RuntimeException", name := "<init>", desc := "(Ljava/lang/String;Ljava/lang/Throwable;ZZ)V" } : Jvm.MethodName) prog_27_method_5_code (5 : Nat) (Option.none : Option Jvm.ClassFile.FieldType)) ∈ lw_all := lw_g (lw_at lw_m1 106 rfl) rfl
theorem q226 : (Jvm.Cond.methodLink "java/lang/RuntimeException" (16 : Nat) ({ cls := "java/lang/Exception", name := "<init>", desc := "(Ljava/lang/String;Ljava/lang/Throwable;ZZ)V" } : Jvm.MethodName)) ∈ lw_all := lw_g (lw_at lw_m1 107 rfl) rfl
theorem q573 : (Jvm.Cond.instanceMethod ({ cls := "java/lang/RuntimeException", name := "<init>", desc := "()V" } : Jvm.MethodName)) ∈ lw_all := lw_g (lw_at lw_m2 214 rfl) rfl
theorem q574 : (Jvm.Cond.code ({ cls := "java/lang/RuntimeException", name := "<init>", desc := "()V" } : Jvm.MethodName) prog_27_method_1_code (1 : Nat) (Option.none : Option Jvm.ClassFile.FieldType)) ∈ lw_all := lw_g (lw_at lw_m2 215 rfl) rfl
theorem q575 : (Jvm.Cond.methodLink "java/lang/RuntimeException" (1 : Nat) ({ cls := "java/lang/Exception", name := "<init>", desc := "()V" } : Jvm.MethodName)) ∈ lw_all := lw_g (lw_at lw_m2 216 rfl) rfl
theorem q771 : (Jvm.Cond.instanceMethod ({ cls := "java/lang/RuntimeException", name := "<init>", desc := "(Ljava/lang/String;)V" } : Jvm.MethodName)) ∈ lw_all := lw_g (lw_at lw_m3 172 rfl) rfl
theorem q772 : (Jvm.Cond.code ({ cls := "java/lang/RuntimeException", name := "<init>", desc := "(Ljava/lang/String;)V" } : Jvm.MethodName) prog_27_method_2_code (2 : Nat) (Option.none : Option Jvm.ClassFile.FieldType)) ∈ lw_all := lw_g (lw_at lw_m3 173 rfl) rfl
theorem q773 : (Jvm.Cond.methodLink "java/lang/RuntimeException" (7 : Nat) ({ cls := "java/lang/Exception", name := "<init>", desc := "(Ljava/lang/String;)V" } : Jvm.MethodName)) ∈ lw_all := lw_g (lw_at lw_m3 174 rfl) rfl
/-! java/lang/IllegalArgumentException -/
set_option maxRecDepth 100000
def RJ3 : String := "java/lang/IllegalArgumentException"
def TJ3 : u_T := fun k => match k with
  | 0 => ("java/lang/Throwable", "cause", "Ljava/lang/Throwable;", false)
  | 1 => ("java/lang/Throwable", "stackTrace", "[Ljava/lang/StackTraceElement;", false)
  | 2 => ("java/lang/Throwable", "suppressedExceptions", "Ljava/util/List;", false)
  | 3 => ("java/lang/Throwable", "detailMessage", "Ljava/lang/String;", false)
  | 4 => ("java/lang/Throwable", "backtrace", "Ljava/lang/Object;", false)
  | _ => ("java/lang/Throwable", "depth", "I", false)
def tyJ3 : Nat → FieldType := fun k => match k with
  | 0 => .object "java/lang/Throwable"
  | 1 => .array (.object "java/lang/StackTraceElement")
  | 2 => .object "java/util/List"
  | 3 => .object "java/lang/String"
  | 4 => .object "java/lang/Object"
  | _ => .int
abbrev wsJ30 : List Cond := u_ws RJ3 TJ3 6
theorem nmJ3 : ∀ a, a < 6 → ∀ b, b < 6 → a ≠ b → (TJ3 a).2.1 ≠ (TJ3 b).2.1 := by decide +kernel
theorem tyJ3_ok : ∀ k, k < 6 → parseFieldDescriptor (TJ3 k).2.2.1 = some (tyJ3 k) := by decide +kernel
abbrev cJ3_init : ByteArray := prog_22_method_1_code
def yJ3_init : MethodName := ⟨RJ3, "<init>", "()V"⟩
theorem dJ3_init_0 : decode cJ3_init 0 = .ok (.aload_n 0, 1) := by decide +kernel
theorem dJ3_init_1 : decode cJ3_init 1 = .ok (.invokespecial 1, 3) := by decide +kernel
theorem dJ3_init_4 : decode cJ3_init 4 = .ok (.return_, 1) := by decide +kernel
theorem q134 : (Jvm.Cond.initialized "java/lang/IllegalArgumentException") ∈ lw_all := lw_g (lw_at lw_m1 15 rfl) rfl
theorem q209 : (Jvm.Cond.selects "java/lang/IllegalArgumentException" ({ cls := "java/lang/Throwable", name := "fillInStackTrace", desc := "()Ljava/lang/Throwable;" } : Jvm.MethodName) ({ cls := "java/lang/Throwable", name := "fillInStackTrace", desc := "()Ljava/lang/Throwable;" } : Jvm.MethodName)) ∈ lw_all := lw_g (lw_at lw_m1 90 rfl) rfl
theorem q561 : (Jvm.Cond.instantiable "java/lang/IllegalArgumentException" (6 : Nat)) ∈ lw_all := lw_g (lw_at lw_m2 202 rfl) rfl
theorem q562 : (Jvm.Cond.castable "java/lang/IllegalArgumentException" "java/lang/IllegalArgumentException") ∈ lw_tbl := lw_at lw_m2 203 rfl
theorem q563 : (Jvm.Cond.selects "java/lang/IllegalArgumentException" ({ cls := "java/lang/Throwable", name := "fillInStackTrace", desc := "(I)Ljava/lang/Throwable;" } : Jvm.MethodName) ({ cls := "java/lang/Throwable", name := "fillInStackTrace", desc := "(I)Ljava/lang/Throwable;" } : Jvm.MethodName)) ∈ lw_all := lw_g (lw_at lw_m2 204 rfl) rfl
theorem q564 : (Jvm.Cond.lays "java/lang/IllegalArgumentException" "java/lang/Throwable" "cause" "Ljava/lang/Throwable;") ∈ lw_all := lw_g (lw_at lw_m2 205 rfl) rfl
theorem q565 : (Jvm.Cond.lays "java/lang/IllegalArgumentException" "java/lang/Throwable" "stackTrace" "[Ljava/lang/StackTraceElement;") ∈ lw_all := lw_g (lw_at lw_m2 206 rfl) rfl
theorem q566 : (Jvm.Cond.lays "java/lang/IllegalArgumentException" "java/lang/Throwable" "suppressedExceptions" "Ljava/util/List;") ∈ lw_all := lw_g (lw_at lw_m2 207 rfl) rfl
theorem q567 : (Jvm.Cond.lays "java/lang/IllegalArgumentException" "java/lang/Throwable" "detailMessage" "Ljava/lang/String;") ∈ lw_all := lw_g (lw_at lw_m2 208 rfl) rfl
theorem q568 : (Jvm.Cond.lays "java/lang/IllegalArgumentException" "java/lang/Throwable" "backtrace" "Ljava/lang/Object;") ∈ lw_all := lw_g (lw_at lw_m2 209 rfl) rfl
theorem q570 : (Jvm.Cond.instanceMethod ({ cls := "java/lang/IllegalArgumentException", name := "<init>", desc := "()V" } : Jvm.MethodName)) ∈ lw_all := lw_g (lw_at lw_m2 211 rfl) rfl
theorem q571 : (Jvm.Cond.code ({ cls := "java/lang/IllegalArgumentException", name := "<init>", desc := "()V" } : Jvm.MethodName) prog_22_method_1_code (1 : Nat) (Option.none : Option Jvm.ClassFile.FieldType)) ∈ lw_all := lw_g (lw_at lw_m2 212 rfl) rfl
theorem q572 : (Jvm.Cond.methodLink "java/lang/IllegalArgumentException" (1 : Nat) ({ cls := "java/lang/RuntimeException", name := "<init>", desc := "()V" } : Jvm.MethodName)) ∈ lw_all := lw_g (lw_at lw_m2 213 rfl) rfl
theorem q579 : (Jvm.Cond.lays "java/lang/IllegalArgumentException" "java/lang/Throwable" "depth" "I") ∈ lw_all := lw_g (lw_at lw_m2 220 rfl) rfl
theorem q580 : (Jvm.Cond.superclass "java/lang/IllegalArgumentException" "java/lang/RuntimeException") ∈ lw_all := lw_g (lw_at lw_m2 221 rfl) rfl
theorem q1992 : (Jvm.Cond.castable "java/lang/IllegalArgumentException" "java/lang/Object") ∈ lw_tbl := lw_at lw_m8 193 rfl
theorem in_J3 : ∀ w ∈ wsJ30, w ∈ lw_all := lw_in wsJ30 [564, 565, 566, 567, 568, 579] (by decide +kernel) (by decide +kernel)
/-! java/lang/IllegalStateException -/
set_option maxRecDepth 100000
def RJ4 : String := "java/lang/IllegalStateException"
def TJ4 : u_T := fun k => match k with
  | 0 => ("java/lang/Throwable", "cause", "Ljava/lang/Throwable;", false)
  | 1 => ("java/lang/Throwable", "stackTrace", "[Ljava/lang/StackTraceElement;", false)
  | 2 => ("java/lang/Throwable", "suppressedExceptions", "Ljava/util/List;", false)
  | 3 => ("java/lang/Throwable", "detailMessage", "Ljava/lang/String;", false)
  | 4 => ("java/lang/Throwable", "backtrace", "Ljava/lang/Object;", false)
  | _ => ("java/lang/Throwable", "depth", "I", false)
def tyJ4 : Nat → FieldType := fun k => match k with
  | 0 => .object "java/lang/Throwable"
  | 1 => .array (.object "java/lang/StackTraceElement")
  | 2 => .object "java/util/List"
  | 3 => .object "java/lang/String"
  | 4 => .object "java/lang/Object"
  | _ => .int
abbrev wsJ40 : List Cond := u_ws RJ4 TJ4 6
theorem nmJ4 : ∀ a, a < 6 → ∀ b, b < 6 → a ≠ b → (TJ4 a).2.1 ≠ (TJ4 b).2.1 := by decide +kernel
theorem tyJ4_ok : ∀ k, k < 6 → parseFieldDescriptor (TJ4 k).2.2.1 = some (tyJ4 k) := by decide +kernel
abbrev cJ4_init : ByteArray := prog_23_method_1_code
def yJ4_init : MethodName := ⟨RJ4, "<init>", "()V"⟩
theorem dJ4_init_0 : decode cJ4_init 0 = .ok (.aload_n 0, 1) := by decide +kernel
theorem dJ4_init_1 : decode cJ4_init 1 = .ok (.invokespecial 1, 3) := by decide +kernel
theorem dJ4_init_4 : decode cJ4_init 4 = .ok (.return_, 1) := by decide +kernel
theorem q135 : (Jvm.Cond.initialized "java/lang/IllegalStateException") ∈ lw_all := lw_g (lw_at lw_m1 16 rfl) rfl
theorem q210 : (Jvm.Cond.selects "java/lang/IllegalStateException" ({ cls := "java/lang/Throwable", name := "fillInStackTrace", desc := "()Ljava/lang/Throwable;" } : Jvm.MethodName) ({ cls := "java/lang/Throwable", name := "fillInStackTrace", desc := "()Ljava/lang/Throwable;" } : Jvm.MethodName)) ∈ lw_all := lw_g (lw_at lw_m1 91 rfl) rfl
theorem q582 : (Jvm.Cond.instantiable "java/lang/IllegalStateException" (6 : Nat)) ∈ lw_all := lw_g (lw_at lw_m2 223 rfl) rfl
theorem q583 : (Jvm.Cond.castable "java/lang/IllegalStateException" "java/lang/IllegalStateException") ∈ lw_tbl := lw_at lw_m2 224 rfl
theorem q584 : (Jvm.Cond.selects "java/lang/IllegalStateException" ({ cls := "java/lang/Throwable", name := "fillInStackTrace", desc := "(I)Ljava/lang/Throwable;" } : Jvm.MethodName) ({ cls := "java/lang/Throwable", name := "fillInStackTrace", desc := "(I)Ljava/lang/Throwable;" } : Jvm.MethodName)) ∈ lw_all := lw_g (lw_at lw_m2 225 rfl) rfl
theorem q585 : (Jvm.Cond.lays "java/lang/IllegalStateException" "java/lang/Throwable" "cause" "Ljava/lang/Throwable;") ∈ lw_all := lw_g (lw_at lw_m2 226 rfl) rfl
theorem q586 : (Jvm.Cond.lays "java/lang/IllegalStateException" "java/lang/Throwable" "stackTrace" "[Ljava/lang/StackTraceElement;") ∈ lw_all := lw_g (lw_at lw_m2 227 rfl) rfl
theorem q587 : (Jvm.Cond.lays "java/lang/IllegalStateException" "java/lang/Throwable" "suppressedExceptions" "Ljava/util/List;") ∈ lw_all := lw_g (lw_at lw_m2 228 rfl) rfl
theorem q588 : (Jvm.Cond.lays "java/lang/IllegalStateException" "java/lang/Throwable" "detailMessage" "Ljava/lang/String;") ∈ lw_all := lw_g (lw_at lw_m2 229 rfl) rfl
theorem q589 : (Jvm.Cond.lays "java/lang/IllegalStateException" "java/lang/Throwable" "backtrace" "Ljava/lang/Object;") ∈ lw_all := lw_g (lw_at lw_m2 230 rfl) rfl
theorem q591 : (Jvm.Cond.instanceMethod ({ cls := "java/lang/IllegalStateException", name := "<init>", desc := "()V" } : Jvm.MethodName)) ∈ lw_all := lw_g (lw_at lw_m2 232 rfl) rfl
theorem q592 : (Jvm.Cond.code ({ cls := "java/lang/IllegalStateException", name := "<init>", desc := "()V" } : Jvm.MethodName) prog_23_method_1_code (1 : Nat) (Option.none : Option Jvm.ClassFile.FieldType)) ∈ lw_all := lw_g (lw_at lw_m2 233 rfl) rfl
theorem q593 : (Jvm.Cond.methodLink "java/lang/IllegalStateException" (1 : Nat) ({ cls := "java/lang/RuntimeException", name := "<init>", desc := "()V" } : Jvm.MethodName)) ∈ lw_all := lw_g (lw_at lw_m2 234 rfl) rfl
theorem q594 : (Jvm.Cond.lays "java/lang/IllegalStateException" "java/lang/Throwable" "depth" "I") ∈ lw_all := lw_g (lw_at lw_m2 235 rfl) rfl
theorem q595 : (Jvm.Cond.superclass "java/lang/IllegalStateException" "java/lang/RuntimeException") ∈ lw_all := lw_g (lw_at lw_m2 236 rfl) rfl
theorem q1993 : (Jvm.Cond.castable "java/lang/IllegalStateException" "java/lang/Object") ∈ lw_tbl := lw_at lw_m8 194 rfl
theorem in_J4 : ∀ w ∈ wsJ40, w ∈ lw_all := lw_in wsJ40 [585, 586, 587, 588, 589, 594] (by decide +kernel) (by decide +kernel)
/-! java/lang/UnsupportedOperationException -/
set_option maxRecDepth 100000
def RJ5 : String := "java/lang/UnsupportedOperationException"
def TJ5 : u_T := fun k => match k with
  | 0 => ("java/lang/Throwable", "cause", "Ljava/lang/Throwable;", false)
  | 1 => ("java/lang/Throwable", "stackTrace", "[Ljava/lang/StackTraceElement;", false)
  | 2 => ("java/lang/Throwable", "suppressedExceptions", "Ljava/util/List;", false)
  | 3 => ("java/lang/Throwable", "detailMessage", "Ljava/lang/String;", false)
  | 4 => ("java/lang/Throwable", "backtrace", "Ljava/lang/Object;", false)
  | _ => ("java/lang/Throwable", "depth", "I", false)
def tyJ5 : Nat → FieldType := fun k => match k with
  | 0 => .object "java/lang/Throwable"
  | 1 => .array (.object "java/lang/StackTraceElement")
  | 2 => .object "java/util/List"
  | 3 => .object "java/lang/String"
  | 4 => .object "java/lang/Object"
  | _ => .int
abbrev wsJ50 : List Cond := u_ws RJ5 TJ5 6
theorem nmJ5 : ∀ a, a < 6 → ∀ b, b < 6 → a ≠ b → (TJ5 a).2.1 ≠ (TJ5 b).2.1 := by decide +kernel
theorem tyJ5_ok : ∀ k, k < 6 → parseFieldDescriptor (TJ5 k).2.2.1 = some (tyJ5 k) := by decide +kernel
abbrev cJ5_init : ByteArray := prog_31_method_1_code
def yJ5_init : MethodName := ⟨RJ5, "<init>", "()V"⟩
theorem dJ5_init_0 : decode cJ5_init 0 = .ok (.aload_n 0, 1) := by decide +kernel
theorem dJ5_init_1 : decode cJ5_init 1 = .ok (.invokespecial 1, 3) := by decide +kernel
theorem dJ5_init_4 : decode cJ5_init 4 = .ok (.return_, 1) := by decide +kernel
theorem q136 : (Jvm.Cond.initialized "java/lang/UnsupportedOperationException") ∈ lw_all := lw_g (lw_at lw_m1 17 rfl) rfl
theorem q212 : (Jvm.Cond.selects "java/lang/UnsupportedOperationException" ({ cls := "java/lang/Throwable", name := "fillInStackTrace", desc := "()Ljava/lang/Throwable;" } : Jvm.MethodName) ({ cls := "java/lang/Throwable", name := "fillInStackTrace", desc := "()Ljava/lang/Throwable;" } : Jvm.MethodName)) ∈ lw_all := lw_g (lw_at lw_m1 93 rfl) rfl
theorem q613 : (Jvm.Cond.instantiable "java/lang/UnsupportedOperationException" (6 : Nat)) ∈ lw_all := lw_g (lw_at lw_m3 14 rfl) rfl
theorem q614 : (Jvm.Cond.castable "java/lang/UnsupportedOperationException" "java/lang/UnsupportedOperationException") ∈ lw_tbl := lw_at lw_m3 15 rfl
theorem q615 : (Jvm.Cond.selects "java/lang/UnsupportedOperationException" ({ cls := "java/lang/Throwable", name := "fillInStackTrace", desc := "(I)Ljava/lang/Throwable;" } : Jvm.MethodName) ({ cls := "java/lang/Throwable", name := "fillInStackTrace", desc := "(I)Ljava/lang/Throwable;" } : Jvm.MethodName)) ∈ lw_all := lw_g (lw_at lw_m3 16 rfl) rfl
theorem q616 : (Jvm.Cond.lays "java/lang/UnsupportedOperationException" "java/lang/Throwable" "cause" "Ljava/lang/Throwable;") ∈ lw_all := lw_g (lw_at lw_m3 17 rfl) rfl
theorem q617 : (Jvm.Cond.lays "java/lang/UnsupportedOperationException" "java/lang/Throwable" "stackTrace" "[Ljava/lang/StackTraceElement;") ∈ lw_all := lw_g (lw_at lw_m3 18 rfl) rfl
theorem q618 : (Jvm.Cond.lays "java/lang/UnsupportedOperationException" "java/lang/Throwable" "suppressedExceptions" "Ljava/util/List;") ∈ lw_all := lw_g (lw_at lw_m3 19 rfl) rfl
theorem q619 : (Jvm.Cond.lays "java/lang/UnsupportedOperationException" "java/lang/Throwable" "detailMessage" "Ljava/lang/String;") ∈ lw_all := lw_g (lw_at lw_m3 20 rfl) rfl
theorem q620 : (Jvm.Cond.lays "java/lang/UnsupportedOperationException" "java/lang/Throwable" "backtrace" "Ljava/lang/Object;") ∈ lw_all := lw_g (lw_at lw_m3 21 rfl) rfl
theorem q622 : (Jvm.Cond.instanceMethod ({ cls := "java/lang/UnsupportedOperationException", name := "<init>", desc := "()V" } : Jvm.MethodName)) ∈ lw_all := lw_g (lw_at lw_m3 23 rfl) rfl
theorem q623 : (Jvm.Cond.code ({ cls := "java/lang/UnsupportedOperationException", name := "<init>", desc := "()V" } : Jvm.MethodName) prog_31_method_1_code (1 : Nat) (Option.none : Option Jvm.ClassFile.FieldType)) ∈ lw_all := lw_g (lw_at lw_m3 24 rfl) rfl
theorem q624 : (Jvm.Cond.methodLink "java/lang/UnsupportedOperationException" (1 : Nat) ({ cls := "java/lang/RuntimeException", name := "<init>", desc := "()V" } : Jvm.MethodName)) ∈ lw_all := lw_g (lw_at lw_m3 25 rfl) rfl
theorem q625 : (Jvm.Cond.lays "java/lang/UnsupportedOperationException" "java/lang/Throwable" "depth" "I") ∈ lw_all := lw_g (lw_at lw_m3 26 rfl) rfl
theorem q626 : (Jvm.Cond.superclass "java/lang/UnsupportedOperationException" "java/lang/RuntimeException") ∈ lw_all := lw_g (lw_at lw_m3 27 rfl) rfl
theorem q1994 : (Jvm.Cond.castable "java/lang/UnsupportedOperationException" "java/lang/Object") ∈ lw_tbl := lw_at lw_m8 195 rfl
theorem in_J5 : ∀ w ∈ wsJ50, w ∈ lw_all := lw_in wsJ50 [616, 617, 618, 619, 620, 625] (by decide +kernel) (by decide +kernel)
/-! java/lang/Math -/
set_option maxRecDepth 100000
def RJ6 : String := "java/lang/Math"
abbrev cJ6_min : ByteArray := prog_26_method_69_code
def yJ6_min : MethodName := ⟨RJ6, "min", "(II)I"⟩
def dkwJ6_min_0 : List UInt8 := [26, 27, 163, 0, 7, 26, 167, 0, 4, 27, 172]
abbrev dktJ6_min_0 : List UInt8 := dkwJ6_min_0 ++ []
theorem dksJ6_min_0 : cJ6_min.data.toList.drop 0 = dktJ6_min_0 := by decide +kernel
theorem dJ6_min_0 : decode cJ6_min 0 = .ok (.iload_n 0, 1) := dk_26 (dk_at dksJ6_min_0 0 rfl rfl)
theorem dJ6_min_1 : decode cJ6_min 1 = .ok (.iload_n 1, 1) := dk_27 (dk_at dksJ6_min_0 1 rfl rfl)
theorem dJ6_min_2 : decode cJ6_min 2 = .ok (.if_icmp .gt 7, 3) := dk_163 0 7 (dk_at dksJ6_min_0 2 rfl rfl)
theorem dJ6_min_5 : decode cJ6_min 5 = .ok (.iload_n 0, 1) := dk_26 (dk_at dksJ6_min_0 5 rfl rfl)
theorem dJ6_min_6 : decode cJ6_min 6 = .ok (.goto 4, 3) := dk_167 0 4 (dk_at dksJ6_min_0 6 rfl rfl)
theorem dJ6_min_9 : decode cJ6_min 9 = .ok (.iload_n 1, 1) := dk_27 (dk_at dksJ6_min_0 9 rfl rfl)
theorem dJ6_min_10 : decode cJ6_min 10 = .ok (.ireturn, 1) := dk_172 (dk_at dksJ6_min_0 10 rfl rfl)
abbrev cJ6_floorDiv : ByteArray := prog_26_method_49_code
def yJ6_floorDiv : MethodName := ⟨RJ6, "floorDiv", "(JJ)J"⟩
def dkwJ6_floorDiv_1 : List UInt8 := [10, 101, 173, 22, 4, 173]
abbrev dktJ6_floorDiv_1 : List UInt8 := dkwJ6_floorDiv_1 ++ []
def dkwJ6_floorDiv_0 : List UInt8 := [30, 32, 109, 55, 4, 30, 32, 131, 9, 148, 156, 0, 17, 22, 4, 32, 105, 30, 148, 153, 0, 8, 22, 4]
abbrev dktJ6_floorDiv_0 : List UInt8 := dkwJ6_floorDiv_0 ++ dktJ6_floorDiv_1
theorem dksJ6_floorDiv_0 : cJ6_floorDiv.data.toList.drop 0 = dktJ6_floorDiv_0 := by decide +kernel
theorem dksJ6_floorDiv_1 : cJ6_floorDiv.data.toList.drop 24 = dktJ6_floorDiv_1 := dk_seg dksJ6_floorDiv_0 24 rfl rfl
theorem dJ6_floorDiv_0 : decode cJ6_floorDiv 0 = .ok (.lload_n 0, 1) := dk_30 (dk_at dksJ6_floorDiv_0 0 rfl rfl)
theorem dJ6_floorDiv_1 : decode cJ6_floorDiv 1 = .ok (.lload_n 2, 1) := dk_32 (dk_at dksJ6_floorDiv_0 1 rfl rfl)
theorem dJ6_floorDiv_2 : decode cJ6_floorDiv 2 = .ok (.ldiv, 1) := dk_109 (dk_at dksJ6_floorDiv_0 2 rfl rfl)
theorem dJ6_floorDiv_3 : decode cJ6_floorDiv 3 = .ok (.lstore 4, 2) := dk_55 4 (dk_at dksJ6_floorDiv_0 3 rfl rfl)
theorem dJ6_floorDiv_5 : decode cJ6_floorDiv 5 = .ok (.lload_n 0, 1) := dk_30 (dk_at dksJ6_floorDiv_0 5 rfl rfl)
theorem dJ6_floorDiv_6 : decode cJ6_floorDiv 6 = .ok (.lload_n 2, 1) := dk_32 (dk_at dksJ6_floorDiv_0 6 rfl rfl)
theorem dJ6_floorDiv_7 : decode cJ6_floorDiv 7 = .ok (.lxor, 1) := dk_131 (dk_at dksJ6_floorDiv_0 7 rfl rfl)
theorem dJ6_floorDiv_8 : decode cJ6_floorDiv 8 = .ok (.lconst 0, 1) := dk_9 (dk_at dksJ6_floorDiv_0 8 rfl rfl)
theorem dJ6_floorDiv_9 : decode cJ6_floorDiv 9 = .ok (.lcmp, 1) := dk_148 (dk_at dksJ6_floorDiv_0 9 rfl rfl)
theorem dJ6_floorDiv_10 : decode cJ6_floorDiv 10 = .ok (.ifCond .ge 17, 3) := dk_156 0 17 (dk_at dksJ6_floorDiv_0 10 rfl rfl)
theorem dJ6_floorDiv_13 : decode cJ6_floorDiv 13 = .ok (.lload 4, 2) := dk_22 4 (dk_at dksJ6_floorDiv_0 13 rfl rfl)
theorem dJ6_floorDiv_15 : decode cJ6_floorDiv 15 = .ok (.lload_n 2, 1) := dk_32 (dk_at dksJ6_floorDiv_0 15 rfl rfl)
theorem dJ6_floorDiv_16 : decode cJ6_floorDiv 16 = .ok (.lmul, 1) := dk_105 (dk_at dksJ6_floorDiv_0 16 rfl rfl)
theorem dJ6_floorDiv_17 : decode cJ6_floorDiv 17 = .ok (.lload_n 0, 1) := dk_30 (dk_at dksJ6_floorDiv_0 17 rfl rfl)
theorem dJ6_floorDiv_18 : decode cJ6_floorDiv 18 = .ok (.lcmp, 1) := dk_148 (dk_at dksJ6_floorDiv_0 18 rfl rfl)
theorem dJ6_floorDiv_19 : decode cJ6_floorDiv 19 = .ok (.ifCond .eq 8, 3) := dk_153 0 8 (dk_at dksJ6_floorDiv_0 19 rfl rfl)
theorem dJ6_floorDiv_22 : decode cJ6_floorDiv 22 = .ok (.lload 4, 2) := dk_22 4 (dk_at dksJ6_floorDiv_0 22 rfl rfl)
theorem dJ6_floorDiv_24 : decode cJ6_floorDiv 24 = .ok (.lconst 1, 1) := dk_10 (dk_at dksJ6_floorDiv_1 0 rfl rfl)
theorem dJ6_floorDiv_25 : decode cJ6_floorDiv 25 = .ok (.lsub, 1) := dk_101 (dk_at dksJ6_floorDiv_1 1 rfl rfl)
theorem dJ6_floorDiv_26 : decode cJ6_floorDiv 26 = .ok (.lreturn, 1) := dk_173 (dk_at dksJ6_floorDiv_1 2 rfl rfl)
theorem dJ6_floorDiv_27 : decode cJ6_floorDiv 27 = .ok (.lload 4, 2) := dk_22 4 (dk_at dksJ6_floorDiv_1 3 rfl rfl)
theorem dJ6_floorDiv_29 : decode cJ6_floorDiv 29 = .ok (.lreturn, 1) := dk_173 (dk_at dksJ6_floorDiv_1 5 rfl rfl)
abbrev cJ6_floorMod : ByteArray := prog_26_method_50_code
def yJ6_floorMod : MethodName := ⟨RJ6, "floorMod", "(II)I"⟩
def dkwJ6_floorMod_0 : List UInt8 := [26, 27, 112, 61, 26, 27, 130, 156, 0, 11, 28, 153, 0, 7, 28, 27, 96, 172, 28, 172]
abbrev dktJ6_floorMod_0 : List UInt8 := dkwJ6_floorMod_0 ++ []
theorem dksJ6_floorMod_0 : cJ6_floorMod.data.toList.drop 0 = dktJ6_floorMod_0 := by decide +kernel
theorem dJ6_floorMod_0 : decode cJ6_floorMod 0 = .ok (.iload_n 0, 1) := dk_26 (dk_at dksJ6_floorMod_0 0 rfl rfl)
theorem dJ6_floorMod_1 : decode cJ6_floorMod 1 = .ok (.iload_n 1, 1) := dk_27 (dk_at dksJ6_floorMod_0 1 rfl rfl)
theorem dJ6_floorMod_2 : decode cJ6_floorMod 2 = .ok (.irem, 1) := dk_112 (dk_at dksJ6_floorMod_0 2 rfl rfl)
theorem dJ6_floorMod_3 : decode cJ6_floorMod 3 = .ok (.istore_n 2, 1) := dk_61 (dk_at dksJ6_floorMod_0 3 rfl rfl)
theorem dJ6_floorMod_4 : decode cJ6_floorMod 4 = .ok (.iload_n 0, 1) := dk_26 (dk_at dksJ6_floorMod_0 4 rfl rfl)
theorem dJ6_floorMod_5 : decode cJ6_floorMod 5 = .ok (.iload_n 1, 1) := dk_27 (dk_at dksJ6_floorMod_0 5 rfl rfl)
theorem dJ6_floorMod_6 : decode cJ6_floorMod 6 = .ok (.ixor, 1) := dk_130 (dk_at dksJ6_floorMod_0 6 rfl rfl)
theorem dJ6_floorMod_7 : decode cJ6_floorMod 7 = .ok (.ifCond .ge 11, 3) := dk_156 0 11 (dk_at dksJ6_floorMod_0 7 rfl rfl)
theorem dJ6_floorMod_10 : decode cJ6_floorMod 10 = .ok (.iload_n 2, 1) := dk_28 (dk_at dksJ6_floorMod_0 10 rfl rfl)
theorem dJ6_floorMod_11 : decode cJ6_floorMod 11 = .ok (.ifCond .eq 7, 3) := dk_153 0 7 (dk_at dksJ6_floorMod_0 11 rfl rfl)
theorem dJ6_floorMod_14 : decode cJ6_floorMod 14 = .ok (.iload_n 2, 1) := dk_28 (dk_at dksJ6_floorMod_0 14 rfl rfl)
theorem dJ6_floorMod_15 : decode cJ6_floorMod 15 = .ok (.iload_n 1, 1) := dk_27 (dk_at dksJ6_floorMod_0 15 rfl rfl)
theorem dJ6_floorMod_16 : decode cJ6_floorMod 16 = .ok (.iadd, 1) := dk_96 (dk_at dksJ6_floorMod_0 16 rfl rfl)
theorem dJ6_floorMod_17 : decode cJ6_floorMod 17 = .ok (.ireturn, 1) := dk_172 (dk_at dksJ6_floorMod_0 17 rfl rfl)
theorem dJ6_floorMod_18 : decode cJ6_floorMod 18 = .ok (.iload_n 2, 1) := dk_28 (dk_at dksJ6_floorMod_0 18 rfl rfl)
theorem dJ6_floorMod_19 : decode cJ6_floorMod 19 = .ok (.ireturn, 1) := dk_172 (dk_at dksJ6_floorMod_0 19 rfl rfl)
abbrev cJ6_abs : ByteArray := prog_26_method_59_code
def yJ6_abs : MethodName := ⟨RJ6, "abs", "(I)I"⟩
def dkwJ6_abs_0 : List UInt8 := [26, 156, 0, 8, 26, 116, 167, 0, 4, 26, 172]
abbrev dktJ6_abs_0 : List UInt8 := dkwJ6_abs_0 ++ []
theorem dksJ6_abs_0 : cJ6_abs.data.toList.drop 0 = dktJ6_abs_0 := by decide +kernel
theorem dJ6_abs_0 : decode cJ6_abs 0 = .ok (.iload_n 0, 1) := dk_26 (dk_at dksJ6_abs_0 0 rfl rfl)
theorem dJ6_abs_1 : decode cJ6_abs 1 = .ok (.ifCond .ge 8, 3) := dk_156 0 8 (dk_at dksJ6_abs_0 1 rfl rfl)
theorem dJ6_abs_4 : decode cJ6_abs 4 = .ok (.iload_n 0, 1) := dk_26 (dk_at dksJ6_abs_0 4 rfl rfl)
theorem dJ6_abs_5 : decode cJ6_abs 5 = .ok (.ineg, 1) := dk_116 (dk_at dksJ6_abs_0 5 rfl rfl)
theorem dJ6_abs_6 : decode cJ6_abs 6 = .ok (.goto 4, 3) := dk_167 0 4 (dk_at dksJ6_abs_0 6 rfl rfl)
theorem dJ6_abs_9 : decode cJ6_abs 9 = .ok (.iload_n 0, 1) := dk_26 (dk_at dksJ6_abs_0 9 rfl rfl)
theorem dJ6_abs_10 : decode cJ6_abs 10 = .ok (.ireturn, 1) := dk_172 (dk_at dksJ6_abs_0 10 rfl rfl)
abbrev cJ6_floorMod_2 : ByteArray := prog_26_method_52_code
def yJ6_floorMod_2 : MethodName := ⟨RJ6, "floorMod", "(JJ)J"⟩
def dkwJ6_floorMod_2_1 : List UInt8 := [173, 22, 4, 173]
abbrev dktJ6_floorMod_2_1 : List UInt8 := dkwJ6_floorMod_2_1 ++ []
def dkwJ6_floorMod_2_0 : List UInt8 := [30, 32, 113, 55, 4, 30, 32, 131, 9, 148, 156, 0, 15, 22, 4, 9, 148, 153, 0, 8, 22, 4, 32, 97]
abbrev dktJ6_floorMod_2_0 : List UInt8 := dkwJ6_floorMod_2_0 ++ dktJ6_floorMod_2_1
theorem dksJ6_floorMod_2_0 : cJ6_floorMod_2.data.toList.drop 0 = dktJ6_floorMod_2_0 := by decide +kernel
theorem dksJ6_floorMod_2_1 : cJ6_floorMod_2.data.toList.drop 24 = dktJ6_floorMod_2_1 := dk_seg dksJ6_floorMod_2_0 24 rfl rfl
theorem dJ6_floorMod_2_0 : decode cJ6_floorMod_2 0 = .ok (.lload_n 0, 1) := dk_30 (dk_at dksJ6_floorMod_2_0 0 rfl rfl)
theorem dJ6_floorMod_2_1 : decode cJ6_floorMod_2 1 = .ok (.lload_n 2, 1) := dk_32 (dk_at dksJ6_floorMod_2_0 1 rfl rfl)
theorem dJ6_floorMod_2_2 : decode cJ6_floorMod_2 2 = .ok (.lrem, 1) := dk_113 (dk_at dksJ6_floorMod_2_0 2 rfl rfl)
theorem dJ6_floorMod_2_3 : decode cJ6_floorMod_2 3 = .ok (.lstore 4, 2) := dk_55 4 (dk_at dksJ6_floorMod_2_0 3 rfl rfl)
theorem dJ6_floorMod_2_5 : decode cJ6_floorMod_2 5 = .ok (.lload_n 0, 1) := dk_30 (dk_at dksJ6_floorMod_2_0 5 rfl rfl)
theorem dJ6_floorMod_2_6 : decode cJ6_floorMod_2 6 = .ok (.lload_n 2, 1) := dk_32 (dk_at dksJ6_floorMod_2_0 6 rfl rfl)
theorem dJ6_floorMod_2_7 : decode cJ6_floorMod_2 7 = .ok (.lxor, 1) := dk_131 (dk_at dksJ6_floorMod_2_0 7 rfl rfl)
theorem dJ6_floorMod_2_8 : decode cJ6_floorMod_2 8 = .ok (.lconst 0, 1) := dk_9 (dk_at dksJ6_floorMod_2_0 8 rfl rfl)
theorem dJ6_floorMod_2_9 : decode cJ6_floorMod_2 9 = .ok (.lcmp, 1) := dk_148 (dk_at dksJ6_floorMod_2_0 9 rfl rfl)
theorem dJ6_floorMod_2_10 : decode cJ6_floorMod_2 10 = .ok (.ifCond .ge 15, 3) := dk_156 0 15 (dk_at dksJ6_floorMod_2_0 10 rfl rfl)
theorem dJ6_floorMod_2_13 : decode cJ6_floorMod_2 13 = .ok (.lload 4, 2) := dk_22 4 (dk_at dksJ6_floorMod_2_0 13 rfl rfl)
theorem dJ6_floorMod_2_15 : decode cJ6_floorMod_2 15 = .ok (.lconst 0, 1) := dk_9 (dk_at dksJ6_floorMod_2_0 15 rfl rfl)
theorem dJ6_floorMod_2_16 : decode cJ6_floorMod_2 16 = .ok (.lcmp, 1) := dk_148 (dk_at dksJ6_floorMod_2_0 16 rfl rfl)
theorem dJ6_floorMod_2_17 : decode cJ6_floorMod_2 17 = .ok (.ifCond .eq 8, 3) := dk_153 0 8 (dk_at dksJ6_floorMod_2_0 17 rfl rfl)
theorem dJ6_floorMod_2_20 : decode cJ6_floorMod_2 20 = .ok (.lload 4, 2) := dk_22 4 (dk_at dksJ6_floorMod_2_0 20 rfl rfl)
theorem dJ6_floorMod_2_22 : decode cJ6_floorMod_2 22 = .ok (.lload_n 2, 1) := dk_32 (dk_at dksJ6_floorMod_2_0 22 rfl rfl)
theorem dJ6_floorMod_2_23 : decode cJ6_floorMod_2 23 = .ok (.ladd, 1) := dk_97 (dk_at dksJ6_floorMod_2_0 23 rfl rfl)
theorem dJ6_floorMod_2_24 : decode cJ6_floorMod_2 24 = .ok (.lreturn, 1) := dk_173 (dk_at dksJ6_floorMod_2_1 0 rfl rfl)
theorem dJ6_floorMod_2_25 : decode cJ6_floorMod_2 25 = .ok (.lload 4, 2) := dk_22 4 (dk_at dksJ6_floorMod_2_1 1 rfl rfl)
theorem dJ6_floorMod_2_27 : decode cJ6_floorMod_2 27 = .ok (.lreturn, 1) := dk_173 (dk_at dksJ6_floorMod_2_1 3 rfl rfl)
theorem q137 : (Jvm.Cond.initialized "java/lang/Math") ∈ lw_all := lw_g (lw_at lw_m1 18 rfl) rfl
theorem q927 : (Jvm.Cond.static ({ cls := "java/lang/Math", name := "min", desc := "(II)I" } : Jvm.MethodName)) ∈ lw_all := lw_g (lw_at lw_m4 88 rfl) rfl
theorem q928 : (Jvm.Cond.code ({ cls := "java/lang/Math", name := "min", desc := "(II)I" } : Jvm.MethodName) prog_26_method_69_code (2 : Nat) (Option.some Jvm.ClassFile.FieldType.int)) ∈ lw_all := lw_g (lw_at lw_m4 89 rfl) rfl
theorem q1248 : (Jvm.Cond.static ({ cls := "java/lang/Math", name := "floorDiv", desc := "(JJ)J" } : Jvm.MethodName)) ∈ lw_all := lw_g (lw_at lw_m5 169 rfl) rfl
theorem q1249 : (Jvm.Cond.code ({ cls := "java/lang/Math", name := "floorDiv", desc := "(JJ)J" } : Jvm.MethodName) prog_26_method_49_code (6 : Nat) (Option.some Jvm.ClassFile.FieldType.long)) ∈ lw_all := lw_g (lw_at lw_m5 170 rfl) rfl
theorem q1264 : (Jvm.Cond.static ({ cls := "java/lang/Math", name := "floorMod", desc := "(II)I" } : Jvm.MethodName)) ∈ lw_all := lw_g (lw_at lw_m5 185 rfl) rfl
theorem q1265 : (Jvm.Cond.code ({ cls := "java/lang/Math", name := "floorMod", desc := "(II)I" } : Jvm.MethodName) prog_26_method_50_code (3 : Nat) (Option.some Jvm.ClassFile.FieldType.int)) ∈ lw_all := lw_g (lw_at lw_m5 186 rfl) rfl
theorem q1274 : (Jvm.Cond.static ({ cls := "java/lang/Math", name := "abs", desc := "(I)I" } : Jvm.MethodName)) ∈ lw_all := lw_g (lw_at lw_m5 195 rfl) rfl
theorem q1275 : (Jvm.Cond.code ({ cls := "java/lang/Math", name := "abs", desc := "(I)I" } : Jvm.MethodName) prog_26_method_59_code (1 : Nat) (Option.some Jvm.ClassFile.FieldType.int)) ∈ lw_all := lw_g (lw_at lw_m5 196 rfl) rfl
theorem q1527 : (Jvm.Cond.static ({ cls := "java/lang/Math", name := "floorMod", desc := "(JJ)J" } : Jvm.MethodName)) ∈ lw_all := lw_g (lw_at lw_m6 208 rfl) rfl
theorem q1528 : (Jvm.Cond.code ({ cls := "java/lang/Math", name := "floorMod", desc := "(JJ)J" } : Jvm.MethodName) prog_26_method_52_code (6 : Nat) (Option.some Jvm.ClassFile.FieldType.long)) ∈ lw_all := lw_g (lw_at lw_m6 209 rfl) rfl
/-! java/lang/IndexOutOfBoundsException -/
set_option maxRecDepth 100000
def RJ7 : String := "java/lang/IndexOutOfBoundsException"
def TJ7 : u_T := fun k => match k with
  | 0 => ("java/lang/Throwable", "cause", "Ljava/lang/Throwable;", false)
  | 1 => ("java/lang/Throwable", "stackTrace", "[Ljava/lang/StackTraceElement;", false)
  | 2 => ("java/lang/Throwable", "suppressedExceptions", "Ljava/util/List;", false)
  | 3 => ("java/lang/Throwable", "detailMessage", "Ljava/lang/String;", false)
  | 4 => ("java/lang/Throwable", "backtrace", "Ljava/lang/Object;", false)
  | _ => ("java/lang/Throwable", "depth", "I", false)
def tyJ7 : Nat → FieldType := fun k => match k with
  | 0 => .object "java/lang/Throwable"
  | 1 => .array (.object "java/lang/StackTraceElement")
  | 2 => .object "java/util/List"
  | 3 => .object "java/lang/String"
  | 4 => .object "java/lang/Object"
  | _ => .int
abbrev wsJ70 : List Cond := u_ws RJ7 TJ7 6
theorem nmJ7 : ∀ a, a < 6 → ∀ b, b < 6 → a ≠ b → (TJ7 a).2.1 ≠ (TJ7 b).2.1 := by decide +kernel
theorem tyJ7_ok : ∀ k, k < 6 → parseFieldDescriptor (TJ7 k).2.2.1 = some (tyJ7 k) := by decide +kernel
abbrev cJ7_init : ByteArray := prog_24_method_2_code
def yJ7_init : MethodName := ⟨RJ7, "<init>", "(Ljava/lang/String;)V"⟩
def dkwJ7_init_0 : List UInt8 := [42, 43, 183, 0, 7, 177]
abbrev dktJ7_init_0 : List UInt8 := dkwJ7_init_0 ++ []
theorem dksJ7_init_0 : cJ7_init.data.toList.drop 0 = dktJ7_init_0 := by decide +kernel
theorem dJ7_init_0 : decode cJ7_init 0 = .ok (.aload_n 0, 1) := dk_42 (dk_at dksJ7_init_0 0 rfl rfl)
theorem dJ7_init_1 : decode cJ7_init 1 = .ok (.aload_n 1, 1) := dk_43 (dk_at dksJ7_init_0 1 rfl rfl)
theorem dJ7_init_2 : decode cJ7_init 2 = .ok (.invokespecial 7, 3) := dk_183 0 7 (dk_at dksJ7_init_0 2 rfl rfl)
theorem dJ7_init_5 : decode cJ7_init 5 = .ok (.return_, 1) := dk_177 (dk_at dksJ7_init_0 5 rfl rfl)
abbrev cJ7_init_2 : ByteArray := prog_24_method_1_code
def yJ7_init_2 : MethodName := ⟨RJ7, "<init>", "()V"⟩
theorem dJ7_init_2_0 : decode cJ7_init_2 0 = .ok (.aload_n 0, 1) := by decide +kernel
theorem dJ7_init_2_1 : decode cJ7_init_2 1 = .ok (.invokespecial 1, 3) := by decide +kernel
theorem dJ7_init_2_4 : decode cJ7_init_2 4 = .ok (.return_, 1) := by decide +kernel
theorem q145 : (Jvm.Cond.initialized "java/lang/IndexOutOfBoundsException") ∈ lw_all := lw_g (lw_at lw_m1 26 rfl) rfl
theorem q211 : (Jvm.Cond.selects "java/lang/IndexOutOfBoundsException" ({ cls := "java/lang/Throwable", name := "fillInStackTrace", desc := "()Ljava/lang/Throwable;" } : Jvm.MethodName) ({ cls := "java/lang/Throwable", name := "fillInStackTrace", desc := "()Ljava/lang/Throwable;" } : Jvm.MethodName)) ∈ lw_all := lw_g (lw_at lw_m1 92 rfl) rfl
theorem q768 : (Jvm.Cond.instanceMethod ({ cls := "java/lang/IndexOutOfBoundsException", name := "<init>", desc := "(Ljava/lang/String;)V" } : Jvm.MethodName)) ∈ lw_all := lw_g (lw_at lw_m3 169 rfl) rfl
theorem q769 : (Jvm.Cond.code ({ cls := "java/lang/IndexOutOfBoundsException", name := "<init>", desc := "(Ljava/lang/String;)V" } : Jvm.MethodName) prog_24_method_2_code (2 : Nat) (Option.none : Option Jvm.ClassFile.FieldType)) ∈ lw_all := lw_g (lw_at lw_m3 170 rfl) rfl
theorem q770 : (Jvm.Cond.methodLink "java/lang/IndexOutOfBoundsException" (7 : Nat) ({ cls := "java/lang/RuntimeException", name := "<init>", desc := "(Ljava/lang/String;)V" } : Jvm.MethodName)) ∈ lw_all := lw_g (lw_at lw_m3 171 rfl) rfl
theorem q787 : (Jvm.Cond.declares ({ cls := "java/lang/IndexOutOfBoundsException", name := "<init>", desc := "()V" } : Jvm.MethodName)) ∈ lw_tbl := lw_at lw_m3 188 rfl
theorem q788 : (Jvm.Cond.declares ({ cls := "java/lang/IndexOutOfBoundsException", name := "<init>", desc := "(Ljava/lang/String;)V" } : Jvm.MethodName)) ∈ lw_tbl := lw_at lw_m3 189 rfl
theorem q807 : (Jvm.Cond.instantiable "java/lang/IndexOutOfBoundsException" (6 : Nat)) ∈ lw_all := lw_g (lw_at lw_m3 208 rfl) rfl
theorem q808 : (Jvm.Cond.castable "java/lang/IndexOutOfBoundsException" "java/lang/IndexOutOfBoundsException") ∈ lw_tbl := lw_at lw_m3 209 rfl
theorem q809 : (Jvm.Cond.selects "java/lang/IndexOutOfBoundsException" ({ cls := "java/lang/Throwable", name := "fillInStackTrace", desc := "(I)Ljava/lang/Throwable;" } : Jvm.MethodName) ({ cls := "java/lang/Throwable", name := "fillInStackTrace", desc := "(I)Ljava/lang/Throwable;" } : Jvm.MethodName)) ∈ lw_all := lw_g (lw_at lw_m3 210 rfl) rfl
theorem q810 : (Jvm.Cond.lays "java/lang/IndexOutOfBoundsException" "java/lang/Throwable" "cause" "Ljava/lang/Throwable;") ∈ lw_all := lw_g (lw_at lw_m3 211 rfl) rfl
theorem q811 : (Jvm.Cond.lays "java/lang/IndexOutOfBoundsException" "java/lang/Throwable" "stackTrace" "[Ljava/lang/StackTraceElement;") ∈ lw_all := lw_g (lw_at lw_m3 212 rfl) rfl
theorem q812 : (Jvm.Cond.lays "java/lang/IndexOutOfBoundsException" "java/lang/Throwable" "suppressedExceptions" "Ljava/util/List;") ∈ lw_all := lw_g (lw_at lw_m3 213 rfl) rfl
theorem q813 : (Jvm.Cond.lays "java/lang/IndexOutOfBoundsException" "java/lang/Throwable" "detailMessage" "Ljava/lang/String;") ∈ lw_all := lw_g (lw_at lw_m3 214 rfl) rfl
theorem q814 : (Jvm.Cond.lays "java/lang/IndexOutOfBoundsException" "java/lang/Throwable" "backtrace" "Ljava/lang/Object;") ∈ lw_all := lw_g (lw_at lw_m3 215 rfl) rfl
theorem q816 : (Jvm.Cond.instanceMethod ({ cls := "java/lang/IndexOutOfBoundsException", name := "<init>", desc := "()V" } : Jvm.MethodName)) ∈ lw_all := lw_g (lw_at lw_m3 217 rfl) rfl
theorem q817 : (Jvm.Cond.code ({ cls := "java/lang/IndexOutOfBoundsException", name := "<init>", desc := "()V" } : Jvm.MethodName) prog_24_method_1_code (1 : Nat) (Option.none : Option Jvm.ClassFile.FieldType)) ∈ lw_all := lw_g (lw_at lw_m3 218 rfl) rfl
theorem q818 : (Jvm.Cond.methodLink "java/lang/IndexOutOfBoundsException" (1 : Nat) ({ cls := "java/lang/RuntimeException", name := "<init>", desc := "()V" } : Jvm.MethodName)) ∈ lw_all := lw_g (lw_at lw_m3 219 rfl) rfl
theorem q819 : (Jvm.Cond.lays "java/lang/IndexOutOfBoundsException" "java/lang/Throwable" "depth" "I") ∈ lw_all := lw_g (lw_at lw_m3 220 rfl) rfl
theorem q820 : (Jvm.Cond.superclass "java/lang/IndexOutOfBoundsException" "java/lang/RuntimeException") ∈ lw_all := lw_g (lw_at lw_m3 221 rfl) rfl
theorem q2001 : (Jvm.Cond.castable "java/lang/IndexOutOfBoundsException" "java/lang/Object") ∈ lw_tbl := lw_at lw_m8 202 rfl
theorem in_J7 : ∀ w ∈ wsJ70, w ∈ lw_all := lw_in wsJ70 [810, 811, 812, 813, 814, 819] (by decide +kernel) (by decide +kernel)
/-! java/lang/ArrayIndexOutOfBoundsException -/
set_option maxRecDepth 100000
def RJ8 : String := "java/lang/ArrayIndexOutOfBoundsException"
def TJ8 : u_T := fun k => match k with
  | 0 => ("java/lang/Throwable", "backtrace", "Ljava/lang/Object;", false)
  | 1 => ("java/lang/Throwable", "detailMessage", "Ljava/lang/String;", false)
  | 2 => ("java/lang/Throwable", "cause", "Ljava/lang/Throwable;", false)
  | 3 => ("java/lang/Throwable", "stackTrace", "[Ljava/lang/StackTraceElement;", false)
  | 4 => ("java/lang/Throwable", "depth", "I", false)
  | _ => ("java/lang/Throwable", "suppressedExceptions", "Ljava/util/List;", false)
def tyJ8 : Nat → FieldType := fun k => match k with
  | 0 => .object "java/lang/Object"
  | 1 => .object "java/lang/String"
  | 2 => .object "java/lang/Throwable"
  | 3 => .array (.object "java/lang/StackTraceElement")
  | 4 => .int
  | _ => .object "java/util/List"
abbrev wsJ80 : List Cond := u_ws RJ8 TJ8 6
theorem nmJ8 : ∀ a, a < 6 → ∀ b, b < 6 → a ≠ b → (TJ8 a).2.1 ≠ (TJ8 b).2.1 := by decide +kernel
theorem tyJ8_ok : ∀ k, k < 6 → parseFieldDescriptor (TJ8 k).2.2.1 = some (tyJ8 k) := by decide +kernel
abbrev cJ8_init : ByteArray := prog_20_method_2_code
def yJ8_init : MethodName := ⟨RJ8, "<init>", "(Ljava/lang/String;)V"⟩
def dkwJ8_init_0 : List UInt8 := [42, 43, 183, 0, 7, 177]
abbrev dktJ8_init_0 : List UInt8 := dkwJ8_init_0 ++ []
theorem dksJ8_init_0 : cJ8_init.data.toList.drop 0 = dktJ8_init_0 := by decide +kernel
theorem dJ8_init_0 : decode cJ8_init 0 = .ok (.aload_n 0, 1) := dk_42 (dk_at dksJ8_init_0 0 rfl rfl)
theorem dJ8_init_1 : decode cJ8_init 1 = .ok (.aload_n 1, 1) := dk_43 (dk_at dksJ8_init_0 1 rfl rfl)
theorem dJ8_init_2 : decode cJ8_init 2 = .ok (.invokespecial 7, 3) := dk_183 0 7 (dk_at dksJ8_init_0 2 rfl rfl)
theorem dJ8_init_5 : decode cJ8_init 5 = .ok (.return_, 1) := dk_177 (dk_at dksJ8_init_0 5 rfl rfl)
theorem q146 : (Jvm.Cond.initialized "java/lang/ArrayIndexOutOfBoundsException") ∈ lw_all := lw_g (lw_at lw_m1 27 rfl) rfl
theorem q208 : (Jvm.Cond.selects "java/lang/ArrayIndexOutOfBoundsException" ({ cls := "java/lang/Throwable", name := "fillInStackTrace", desc := "()Ljava/lang/Throwable;" } : Jvm.MethodName) ({ cls := "java/lang/Throwable", name := "fillInStackTrace", desc := "()Ljava/lang/Throwable;" } : Jvm.MethodName)) ∈ lw_all := lw_g (lw_at lw_m1 89 rfl) rfl
theorem q764 : (Jvm.Cond.instantiable "java/lang/ArrayIndexOutOfBoundsException" (6 : Nat)) ∈ lw_all := lw_g (lw_at lw_m3 165 rfl) rfl
theorem q765 : (Jvm.Cond.instanceMethod ({ cls := "java/lang/ArrayIndexOutOfBoundsException", name := "<init>", desc := "(Ljava/lang/String;)V" } : Jvm.MethodName)) ∈ lw_all := lw_g (lw_at lw_m3 166 rfl) rfl
theorem q766 : (Jvm.Cond.code ({ cls := "java/lang/ArrayIndexOutOfBoundsException", name := "<init>", desc := "(Ljava/lang/String;)V" } : Jvm.MethodName) prog_20_method_2_code (2 : Nat) (Option.none : Option Jvm.ClassFile.FieldType)) ∈ lw_all := lw_g (lw_at lw_m3 167 rfl) rfl
theorem q767 : (Jvm.Cond.methodLink "java/lang/ArrayIndexOutOfBoundsException" (7 : Nat) ({ cls := "java/lang/IndexOutOfBoundsException", name := "<init>", desc := "(Ljava/lang/String;)V" } : Jvm.MethodName)) ∈ lw_all := lw_g (lw_at lw_m3 168 rfl) rfl
theorem q779 : (Jvm.Cond.lays "java/lang/ArrayIndexOutOfBoundsException" "java/lang/Throwable" "backtrace" "Ljava/lang/Object;") ∈ lw_all := lw_g (lw_at lw_m3 180 rfl) rfl
theorem q780 : (Jvm.Cond.lays "java/lang/ArrayIndexOutOfBoundsException" "java/lang/Throwable" "detailMessage" "Ljava/lang/String;") ∈ lw_all := lw_g (lw_at lw_m3 181 rfl) rfl
theorem q781 : (Jvm.Cond.lays "java/lang/ArrayIndexOutOfBoundsException" "java/lang/Throwable" "cause" "Ljava/lang/Throwable;") ∈ lw_all := lw_g (lw_at lw_m3 182 rfl) rfl
theorem q782 : (Jvm.Cond.lays "java/lang/ArrayIndexOutOfBoundsException" "java/lang/Throwable" "stackTrace" "[Ljava/lang/StackTraceElement;") ∈ lw_all := lw_g (lw_at lw_m3 183 rfl) rfl
theorem q783 : (Jvm.Cond.lays "java/lang/ArrayIndexOutOfBoundsException" "java/lang/Throwable" "depth" "I") ∈ lw_all := lw_g (lw_at lw_m3 184 rfl) rfl
theorem q784 : (Jvm.Cond.lays "java/lang/ArrayIndexOutOfBoundsException" "java/lang/Throwable" "suppressedExceptions" "Ljava/util/List;") ∈ lw_all := lw_g (lw_at lw_m3 185 rfl) rfl
theorem q785 : (Jvm.Cond.superclass "java/lang/ArrayIndexOutOfBoundsException" "java/lang/IndexOutOfBoundsException") ∈ lw_all := lw_g (lw_at lw_m3 186 rfl) rfl
theorem q786 : (Jvm.Cond.castable "java/lang/ArrayIndexOutOfBoundsException" "java/lang/ArrayIndexOutOfBoundsException") ∈ lw_tbl := lw_at lw_m3 187 rfl
theorem q789 : (Jvm.Cond.selects "java/lang/ArrayIndexOutOfBoundsException" ({ cls := "java/lang/Throwable", name := "fillInStackTrace", desc := "(I)Ljava/lang/Throwable;" } : Jvm.MethodName) ({ cls := "java/lang/Throwable", name := "fillInStackTrace", desc := "(I)Ljava/lang/Throwable;" } : Jvm.MethodName)) ∈ lw_all := lw_g (lw_at lw_m3 190 rfl) rfl
theorem q1981 : (Jvm.Cond.castable "java/lang/ArrayIndexOutOfBoundsException" "java/lang/IndexOutOfBoundsException") ∈ lw_tbl := lw_at lw_m8 182 rfl
theorem q2000 : (Jvm.Cond.castable "java/lang/ArrayIndexOutOfBoundsException" "java/lang/Object") ∈ lw_tbl := lw_at lw_m8 201 rfl
theorem in_J8 : ∀ w ∈ wsJ80, w ∈ lw_all := lw_in wsJ80 [779, 780, 781, 782, 783, 784] (by decide +kernel) (by decide +kernel)
/-! java/lang/Integer -/
set_option maxRecDepth 100000
def RJ10 : String := "java/lang/Integer"
abbrev cJ10_bitCount : ByteArray := prog_25_method_49_code
def yJ10_bitCount : MethodName := ⟨RJ10, "bitCount", "(I)I"⟩
def dkwJ10_bitCount_2 : List UInt8 := [26, 16, 63, 126, 172]
abbrev dktJ10_bitCount_2 : List UInt8 := dkwJ10_bitCount_2 ++ []
def dkwJ10_bitCount_1 : List UInt8 := [26, 26, 7, 124, 96, 19, 1, 11, 126, 59, 26, 26, 16, 8, 124, 96, 59, 26, 26, 16, 16, 124, 96, 59]
abbrev dktJ10_bitCount_1 : List UInt8 := dkwJ10_bitCount_1 ++ dktJ10_bitCount_2
def dkwJ10_bitCount_0 : List UInt8 := [26, 26, 4, 124, 19, 1, 9, 126, 100, 59, 26, 19, 1, 10, 126, 26, 5, 124, 19, 1, 10, 126, 96, 59]
abbrev dktJ10_bitCount_0 : List UInt8 := dkwJ10_bitCount_0 ++ dktJ10_bitCount_1
theorem dksJ10_bitCount_0 : cJ10_bitCount.data.toList.drop 0 = dktJ10_bitCount_0 := by decide +kernel
theorem dksJ10_bitCount_1 : cJ10_bitCount.data.toList.drop 24 = dktJ10_bitCount_1 := dk_seg dksJ10_bitCount_0 24 rfl rfl
theorem dksJ10_bitCount_2 : cJ10_bitCount.data.toList.drop 48 = dktJ10_bitCount_2 := dk_seg dksJ10_bitCount_1 24 rfl rfl
theorem dJ10_bitCount_0 : decode cJ10_bitCount 0 = .ok (.iload_n 0, 1) := dk_26 (dk_at dksJ10_bitCount_0 0 rfl rfl)
theorem dJ10_bitCount_1 : decode cJ10_bitCount 1 = .ok (.iload_n 0, 1) := dk_26 (dk_at dksJ10_bitCount_0 1 rfl rfl)
theorem dJ10_bitCount_2 : decode cJ10_bitCount 2 = .ok (.iconst 1, 1) := dk_4 (dk_at dksJ10_bitCount_0 2 rfl rfl)
theorem dJ10_bitCount_3 : decode cJ10_bitCount 3 = .ok (.iushr, 1) := dk_124 (dk_at dksJ10_bitCount_0 3 rfl rfl)
theorem dJ10_bitCount_4 : decode cJ10_bitCount 4 = .ok (.ldc_w 265, 3) := dk_19 1 9 (dk_at dksJ10_bitCount_0 4 rfl rfl)
theorem dJ10_bitCount_7 : decode cJ10_bitCount 7 = .ok (.iand, 1) := dk_126 (dk_at dksJ10_bitCount_0 7 rfl rfl)
theorem dJ10_bitCount_8 : decode cJ10_bitCount 8 = .ok (.isub, 1) := dk_100 (dk_at dksJ10_bitCount_0 8 rfl rfl)
theorem dJ10_bitCount_9 : decode cJ10_bitCount 9 = .ok (.istore_n 0, 1) := dk_59 (dk_at dksJ10_bitCount_0 9 rfl rfl)
theorem dJ10_bitCount_10 : decode cJ10_bitCount 10 = .ok (.iload_n 0, 1) := dk_26 (dk_at dksJ10_bitCount_0 10 rfl rfl)
theorem dJ10_bitCount_11 : decode cJ10_bitCount 11 = .ok (.ldc_w 266, 3) := dk_19 1 10 (dk_at dksJ10_bitCount_0 11 rfl rfl)
theorem dJ10_bitCount_14 : decode cJ10_bitCount 14 = .ok (.iand, 1) := dk_126 (dk_at dksJ10_bitCount_0 14 rfl rfl)
theorem dJ10_bitCount_15 : decode cJ10_bitCount 15 = .ok (.iload_n 0, 1) := dk_26 (dk_at dksJ10_bitCount_0 15 rfl rfl)
theorem dJ10_bitCount_16 : decode cJ10_bitCount 16 = .ok (.iconst 2, 1) := dk_5 (dk_at dksJ10_bitCount_0 16 rfl rfl)
theorem dJ10_bitCount_17 : decode cJ10_bitCount 17 = .ok (.iushr, 1) := dk_124 (dk_at dksJ10_bitCount_0 17 rfl rfl)
theorem dJ10_bitCount_18 : decode cJ10_bitCount 18 = .ok (.ldc_w 266, 3) := dk_19 1 10 (dk_at dksJ10_bitCount_0 18 rfl rfl)
theorem dJ10_bitCount_21 : decode cJ10_bitCount 21 = .ok (.iand, 1) := dk_126 (dk_at dksJ10_bitCount_0 21 rfl rfl)
theorem dJ10_bitCount_22 : decode cJ10_bitCount 22 = .ok (.iadd, 1) := dk_96 (dk_at dksJ10_bitCount_0 22 rfl rfl)
theorem dJ10_bitCount_23 : decode cJ10_bitCount 23 = .ok (.istore_n 0, 1) := dk_59 (dk_at dksJ10_bitCount_0 23 rfl rfl)
theorem dJ10_bitCount_24 : decode cJ10_bitCount 24 = .ok (.iload_n 0, 1) := dk_26 (dk_at dksJ10_bitCount_1 0 rfl rfl)
theorem dJ10_bitCount_25 : decode cJ10_bitCount 25 = .ok (.iload_n 0, 1) := dk_26 (dk_at dksJ10_bitCount_1 1 rfl rfl)
theorem dJ10_bitCount_26 : decode cJ10_bitCount 26 = .ok (.iconst 4, 1) := dk_7 (dk_at dksJ10_bitCount_1 2 rfl rfl)
theorem dJ10_bitCount_27 : decode cJ10_bitCount 27 = .ok (.iushr, 1) := dk_124 (dk_at dksJ10_bitCount_1 3 rfl rfl)
theorem dJ10_bitCount_28 : decode cJ10_bitCount 28 = .ok (.iadd, 1) := dk_96 (dk_at dksJ10_bitCount_1 4 rfl rfl)
theorem dJ10_bitCount_29 : decode cJ10_bitCount 29 = .ok (.ldc_w 267, 3) := dk_19 1 11 (dk_at dksJ10_bitCount_1 5 rfl rfl)
theorem dJ10_bitCount_32 : decode cJ10_bitCount 32 = .ok (.iand, 1) := dk_126 (dk_at dksJ10_bitCount_1 8 rfl rfl)
theorem dJ10_bitCount_33 : decode cJ10_bitCount 33 = .ok (.istore_n 0, 1) := dk_59 (dk_at dksJ10_bitCount_1 9 rfl rfl)
theorem dJ10_bitCount_34 : decode cJ10_bitCount 34 = .ok (.iload_n 0, 1) := dk_26 (dk_at dksJ10_bitCount_1 10 rfl rfl)
theorem dJ10_bitCount_35 : decode cJ10_bitCount 35 = .ok (.iload_n 0, 1) := dk_26 (dk_at dksJ10_bitCount_1 11 rfl rfl)
theorem dJ10_bitCount_36 : decode cJ10_bitCount 36 = .ok (.bipush 8, 2) := dk_16 8 (dk_at dksJ10_bitCount_1 12 rfl rfl)
theorem dJ10_bitCount_38 : decode cJ10_bitCount 38 = .ok (.iushr, 1) := dk_124 (dk_at dksJ10_bitCount_1 14 rfl rfl)
theorem dJ10_bitCount_39 : decode cJ10_bitCount 39 = .ok (.iadd, 1) := dk_96 (dk_at dksJ10_bitCount_1 15 rfl rfl)
theorem dJ10_bitCount_40 : decode cJ10_bitCount 40 = .ok (.istore_n 0, 1) := dk_59 (dk_at dksJ10_bitCount_1 16 rfl rfl)
theorem dJ10_bitCount_41 : decode cJ10_bitCount 41 = .ok (.iload_n 0, 1) := dk_26 (dk_at dksJ10_bitCount_1 17 rfl rfl)
theorem dJ10_bitCount_42 : decode cJ10_bitCount 42 = .ok (.iload_n 0, 1) := dk_26 (dk_at dksJ10_bitCount_1 18 rfl rfl)
theorem dJ10_bitCount_43 : decode cJ10_bitCount 43 = .ok (.bipush 16, 2) := dk_16 16 (dk_at dksJ10_bitCount_1 19 rfl rfl)
theorem dJ10_bitCount_45 : decode cJ10_bitCount 45 = .ok (.iushr, 1) := dk_124 (dk_at dksJ10_bitCount_1 21 rfl rfl)
theorem dJ10_bitCount_46 : decode cJ10_bitCount 46 = .ok (.iadd, 1) := dk_96 (dk_at dksJ10_bitCount_1 22 rfl rfl)
theorem dJ10_bitCount_47 : decode cJ10_bitCount 47 = .ok (.istore_n 0, 1) := dk_59 (dk_at dksJ10_bitCount_1 23 rfl rfl)
theorem dJ10_bitCount_48 : decode cJ10_bitCount 48 = .ok (.iload_n 0, 1) := dk_26 (dk_at dksJ10_bitCount_2 0 rfl rfl)
theorem dJ10_bitCount_49 : decode cJ10_bitCount 49 = .ok (.bipush 63, 2) := dk_16 63 (dk_at dksJ10_bitCount_2 1 rfl rfl)
theorem dJ10_bitCount_51 : decode cJ10_bitCount 51 = .ok (.iand, 1) := dk_126 (dk_at dksJ10_bitCount_2 3 rfl rfl)
theorem dJ10_bitCount_52 : decode cJ10_bitCount 52 = .ok (.ireturn, 1) := dk_172 (dk_at dksJ10_bitCount_2 4 rfl rfl)
theorem q148 : (Jvm.Cond.initialized "java/lang/Integer") ∈ lw_all := lw_g (lw_at lw_m1 29 rfl) rfl
theorem q1770 : (Jvm.Cond.static ({ cls := "java/lang/Integer", name := "bitCount", desc := "(I)I" } : Jvm.MethodName)) ∈ lw_all := lw_g (lw_at lw_m7 211 rfl) rfl
theorem q1771 : (Jvm.Cond.code ({ cls := "java/lang/Integer", name := "bitCount", desc := "(I)I" } : Jvm.MethodName) prog_25_method_49_code (1 : Nat) (Option.some Jvm.ClassFile.FieldType.int)) ∈ lw_all := lw_g (lw_at lw_m7 212 rfl) rfl
theorem q1772 : (Jvm.Cond.constant "java/lang/Integer" (265 : Nat) (1431655765 : Int32)) ∈ lw_all := lw_g (lw_at lw_m7 213 rfl) rfl
theorem q1773 : (Jvm.Cond.constant "java/lang/Integer" (266 : Nat) (858993459 : Int32)) ∈ lw_all := lw_g (lw_at lw_m7 214 rfl) rfl
theorem q1774 : (Jvm.Cond.constant "java/lang/Integer" (267 : Nat) (252645135 : Int32)) ∈ lw_all := lw_g (lw_at lw_m7 215 rfl) rfl
/-! java/util/NoSuchElementException -/
set_option maxRecDepth 100000
def RJ11 : String := "java/util/NoSuchElementException"
def TJ11 : u_T := fun k => match k with
  | 0 => ("java/lang/Throwable", "cause", "Ljava/lang/Throwable;", false)
  | 1 => ("java/lang/Throwable", "stackTrace", "[Ljava/lang/StackTraceElement;", false)
  | 2 => ("java/lang/Throwable", "suppressedExceptions", "Ljava/util/List;", false)
  | 3 => ("java/lang/Throwable", "detailMessage", "Ljava/lang/String;", false)
  | 4 => ("java/lang/Throwable", "backtrace", "Ljava/lang/Object;", false)
  | _ => ("java/lang/Throwable", "depth", "I", false)
def tyJ11 : Nat → FieldType := fun k => match k with
  | 0 => .object "java/lang/Throwable"
  | 1 => .array (.object "java/lang/StackTraceElement")
  | 2 => .object "java/util/List"
  | 3 => .object "java/lang/String"
  | 4 => .object "java/lang/Object"
  | _ => .int
abbrev wsJ110 : List Cond := u_ws RJ11 TJ11 6
theorem nmJ11 : ∀ a, a < 6 → ∀ b, b < 6 → a ≠ b → (TJ11 a).2.1 ≠ (TJ11 b).2.1 := by decide +kernel
theorem tyJ11_ok : ∀ k, k < 6 → parseFieldDescriptor (TJ11 k).2.2.1 = some (tyJ11 k) := by decide +kernel
abbrev cJ11_init : ByteArray := prog_32_method_1_code
def yJ11_init : MethodName := ⟨RJ11, "<init>", "()V"⟩
theorem dJ11_init_0 : decode cJ11_init 0 = .ok (.aload_n 0, 1) := by decide +kernel
theorem dJ11_init_1 : decode cJ11_init 1 = .ok (.invokespecial 1, 3) := by decide +kernel
theorem dJ11_init_4 : decode cJ11_init 4 = .ok (.return_, 1) := by decide +kernel
theorem q149 : (Jvm.Cond.initialized "java/util/NoSuchElementException") ∈ lw_all := lw_g (lw_at lw_m1 30 rfl) rfl
theorem q213 : (Jvm.Cond.selects "java/util/NoSuchElementException" ({ cls := "java/lang/Throwable", name := "fillInStackTrace", desc := "()Ljava/lang/Throwable;" } : Jvm.MethodName) ({ cls := "java/lang/Throwable", name := "fillInStackTrace", desc := "()Ljava/lang/Throwable;" } : Jvm.MethodName)) ∈ lw_all := lw_g (lw_at lw_m1 94 rfl) rfl
theorem q1225 : (Jvm.Cond.instantiable "java/util/NoSuchElementException" (6 : Nat)) ∈ lw_all := lw_g (lw_at lw_m5 146 rfl) rfl
theorem q1226 : (Jvm.Cond.castable "java/util/NoSuchElementException" "java/util/NoSuchElementException") ∈ lw_tbl := lw_at lw_m5 147 rfl
theorem q1227 : (Jvm.Cond.selects "java/util/NoSuchElementException" ({ cls := "java/lang/Throwable", name := "fillInStackTrace", desc := "(I)Ljava/lang/Throwable;" } : Jvm.MethodName) ({ cls := "java/lang/Throwable", name := "fillInStackTrace", desc := "(I)Ljava/lang/Throwable;" } : Jvm.MethodName)) ∈ lw_all := lw_g (lw_at lw_m5 148 rfl) rfl
theorem q1228 : (Jvm.Cond.lays "java/util/NoSuchElementException" "java/lang/Throwable" "cause" "Ljava/lang/Throwable;") ∈ lw_all := lw_g (lw_at lw_m5 149 rfl) rfl
theorem q1229 : (Jvm.Cond.lays "java/util/NoSuchElementException" "java/lang/Throwable" "stackTrace" "[Ljava/lang/StackTraceElement;") ∈ lw_all := lw_g (lw_at lw_m5 150 rfl) rfl
theorem q1230 : (Jvm.Cond.lays "java/util/NoSuchElementException" "java/lang/Throwable" "suppressedExceptions" "Ljava/util/List;") ∈ lw_all := lw_g (lw_at lw_m5 151 rfl) rfl
theorem q1231 : (Jvm.Cond.lays "java/util/NoSuchElementException" "java/lang/Throwable" "detailMessage" "Ljava/lang/String;") ∈ lw_all := lw_g (lw_at lw_m5 152 rfl) rfl
theorem q1232 : (Jvm.Cond.lays "java/util/NoSuchElementException" "java/lang/Throwable" "backtrace" "Ljava/lang/Object;") ∈ lw_all := lw_g (lw_at lw_m5 153 rfl) rfl
theorem q1234 : (Jvm.Cond.instanceMethod ({ cls := "java/util/NoSuchElementException", name := "<init>", desc := "()V" } : Jvm.MethodName)) ∈ lw_all := lw_g (lw_at lw_m5 155 rfl) rfl
theorem q1235 : (Jvm.Cond.code ({ cls := "java/util/NoSuchElementException", name := "<init>", desc := "()V" } : Jvm.MethodName) prog_32_method_1_code (1 : Nat) (Option.none : Option Jvm.ClassFile.FieldType)) ∈ lw_all := lw_g (lw_at lw_m5 156 rfl) rfl
theorem q1236 : (Jvm.Cond.methodLink "java/util/NoSuchElementException" (1 : Nat) ({ cls := "java/lang/RuntimeException", name := "<init>", desc := "()V" } : Jvm.MethodName)) ∈ lw_all := lw_g (lw_at lw_m5 157 rfl) rfl
theorem q1237 : (Jvm.Cond.lays "java/util/NoSuchElementException" "java/lang/Throwable" "depth" "I") ∈ lw_all := lw_g (lw_at lw_m5 158 rfl) rfl
theorem q1238 : (Jvm.Cond.superclass "java/util/NoSuchElementException" "java/lang/RuntimeException") ∈ lw_all := lw_g (lw_at lw_m5 159 rfl) rfl
theorem q2002 : (Jvm.Cond.castable "java/util/NoSuchElementException" "java/lang/Object") ∈ lw_tbl := lw_at lw_m8 203 rfl
theorem in_J11 : ∀ w ∈ wsJ110, w ∈ lw_all := lw_in wsJ110 [1228, 1229, 1230, 1231, 1232, 1237] (by decide +kernel) (by decide +kernel)
/-! LetterForms$Field -/
set_option maxRecDepth 100000
def RX7 : String := "LetterForms$Field"
def TX7 : u_T := fun k => match k with
  | _ => ("LetterForms$Field", "p", "I", false)
def tyX7 : Nat → FieldType := fun k => match k with
  | _ => .int
abbrev wsX70 : List Cond := u_ws RX7 TX7 1
theorem nmX7 : ∀ a, a < 1 → ∀ b, b < 1 → a ≠ b → (TX7 a).2.1 ≠ (TX7 b).2.1 := by decide +kernel
theorem tyX7_ok : ∀ k, k < 1 → parseFieldDescriptor (TX7 k).2.2.1 = some (tyX7 k) := by decide +kernel
abbrev cX7_init : ByteArray := prog_5_method_1_code
def yX7_init : MethodName := ⟨RX7, "<init>", "()V"⟩
def dkwX7_init_0 : List UInt8 := [42, 183, 0, 1, 42, 16, 11, 181, 0, 7, 177]
abbrev dktX7_init_0 : List UInt8 := dkwX7_init_0 ++ []
theorem dksX7_init_0 : cX7_init.data.toList.drop 0 = dktX7_init_0 := by decide +kernel
theorem dX7_init_0 : decode cX7_init 0 = .ok (.aload_n 0, 1) := dk_42 (dk_at dksX7_init_0 0 rfl rfl)
theorem dX7_init_1 : decode cX7_init 1 = .ok (.invokespecial 1, 3) := dk_183 0 1 (dk_at dksX7_init_0 1 rfl rfl)
theorem dX7_init_4 : decode cX7_init 4 = .ok (.aload_n 0, 1) := dk_42 (dk_at dksX7_init_0 4 rfl rfl)
theorem dX7_init_5 : decode cX7_init 5 = .ok (.bipush 11, 2) := dk_16 11 (dk_at dksX7_init_0 5 rfl rfl)
theorem dX7_init_7 : decode cX7_init 7 = .ok (.putfield 7, 3) := dk_181 0 7 (dk_at dksX7_init_0 7 rfl rfl)
theorem dX7_init_10 : decode cX7_init 10 = .ok (.return_, 1) := dk_177 (dk_at dksX7_init_0 10 rfl rfl)
abbrev cX7_of : ByteArray := prog_5_method_2_code
def yX7_of : MethodName := ⟨RX7, "of", "(J)I"⟩
def dkwX7_of_0 : List UInt8 := [31, 42, 180, 0, 7, 133, 113, 136, 62, 29, 156, 0, 12, 29, 42, 180, 0, 7, 96, 167, 0, 4, 29, 172]
abbrev dktX7_of_0 : List UInt8 := dkwX7_of_0 ++ []
theorem dksX7_of_0 : cX7_of.data.toList.drop 0 = dktX7_of_0 := by decide +kernel
theorem dX7_of_0 : decode cX7_of 0 = .ok (.lload_n 1, 1) := dk_31 (dk_at dksX7_of_0 0 rfl rfl)
theorem dX7_of_1 : decode cX7_of 1 = .ok (.aload_n 0, 1) := dk_42 (dk_at dksX7_of_0 1 rfl rfl)
theorem dX7_of_2 : decode cX7_of 2 = .ok (.getfield 7, 3) := dk_180 0 7 (dk_at dksX7_of_0 2 rfl rfl)
theorem dX7_of_5 : decode cX7_of 5 = .ok (.i2l, 1) := dk_133 (dk_at dksX7_of_0 5 rfl rfl)
theorem dX7_of_6 : decode cX7_of 6 = .ok (.lrem, 1) := dk_113 (dk_at dksX7_of_0 6 rfl rfl)
theorem dX7_of_7 : decode cX7_of 7 = .ok (.l2i, 1) := dk_136 (dk_at dksX7_of_0 7 rfl rfl)
theorem dX7_of_8 : decode cX7_of 8 = .ok (.istore_n 3, 1) := dk_62 (dk_at dksX7_of_0 8 rfl rfl)
theorem dX7_of_9 : decode cX7_of 9 = .ok (.iload_n 3, 1) := dk_29 (dk_at dksX7_of_0 9 rfl rfl)
theorem dX7_of_10 : decode cX7_of 10 = .ok (.ifCond .ge 12, 3) := dk_156 0 12 (dk_at dksX7_of_0 10 rfl rfl)
theorem dX7_of_13 : decode cX7_of 13 = .ok (.iload_n 3, 1) := dk_29 (dk_at dksX7_of_0 13 rfl rfl)
theorem dX7_of_14 : decode cX7_of 14 = .ok (.aload_n 0, 1) := dk_42 (dk_at dksX7_of_0 14 rfl rfl)
theorem dX7_of_15 : decode cX7_of 15 = .ok (.getfield 7, 3) := dk_180 0 7 (dk_at dksX7_of_0 15 rfl rfl)
theorem dX7_of_18 : decode cX7_of 18 = .ok (.iadd, 1) := dk_96 (dk_at dksX7_of_0 18 rfl rfl)
theorem dX7_of_19 : decode cX7_of 19 = .ok (.goto 4, 3) := dk_167 0 4 (dk_at dksX7_of_0 19 rfl rfl)
theorem dX7_of_22 : decode cX7_of 22 = .ok (.iload_n 3, 1) := dk_29 (dk_at dksX7_of_0 22 rfl rfl)
theorem dX7_of_23 : decode cX7_of 23 = .ok (.ireturn, 1) := dk_172 (dk_at dksX7_of_0 23 rfl rfl)
abbrev cX7_power : ByteArray := prog_5_method_3_code
def yX7_power : MethodName := ⟨RX7, "power", "(II)I"⟩
def dkwX7_power_1 : List UInt8 := [167, 255, 237, 29, 172]
abbrev dktX7_power_1 : List UInt8 := dkwX7_power_1 ++ []
def dkwX7_power_0 : List UInt8 := [4, 62, 3, 54, 4, 21, 4, 28, 162, 0, 19, 42, 29, 133, 27, 133, 105, 182, 0, 13, 62, 132, 4, 1]
abbrev dktX7_power_0 : List UInt8 := dkwX7_power_0 ++ dktX7_power_1
theorem dksX7_power_0 : cX7_power.data.toList.drop 0 = dktX7_power_0 := by decide +kernel
theorem dksX7_power_1 : cX7_power.data.toList.drop 24 = dktX7_power_1 := dk_seg dksX7_power_0 24 rfl rfl
theorem dX7_power_0 : decode cX7_power 0 = .ok (.iconst 1, 1) := dk_4 (dk_at dksX7_power_0 0 rfl rfl)
theorem dX7_power_1 : decode cX7_power 1 = .ok (.istore_n 3, 1) := dk_62 (dk_at dksX7_power_0 1 rfl rfl)
theorem dX7_power_2 : decode cX7_power 2 = .ok (.iconst 0, 1) := dk_3 (dk_at dksX7_power_0 2 rfl rfl)
theorem dX7_power_3 : decode cX7_power 3 = .ok (.istore 4, 2) := dk_54 4 (dk_at dksX7_power_0 3 rfl rfl)
theorem dX7_power_5 : decode cX7_power 5 = .ok (.iload 4, 2) := dk_21 4 (dk_at dksX7_power_0 5 rfl rfl)
theorem dX7_power_7 : decode cX7_power 7 = .ok (.iload_n 2, 1) := dk_28 (dk_at dksX7_power_0 7 rfl rfl)
theorem dX7_power_8 : decode cX7_power 8 = .ok (.if_icmp .ge 19, 3) := dk_162 0 19 (dk_at dksX7_power_0 8 rfl rfl)
theorem dX7_power_11 : decode cX7_power 11 = .ok (.aload_n 0, 1) := dk_42 (dk_at dksX7_power_0 11 rfl rfl)
theorem dX7_power_12 : decode cX7_power 12 = .ok (.iload_n 3, 1) := dk_29 (dk_at dksX7_power_0 12 rfl rfl)
theorem dX7_power_13 : decode cX7_power 13 = .ok (.i2l, 1) := dk_133 (dk_at dksX7_power_0 13 rfl rfl)
theorem dX7_power_14 : decode cX7_power 14 = .ok (.iload_n 1, 1) := dk_27 (dk_at dksX7_power_0 14 rfl rfl)
theorem dX7_power_15 : decode cX7_power 15 = .ok (.i2l, 1) := dk_133 (dk_at dksX7_power_0 15 rfl rfl)
theorem dX7_power_16 : decode cX7_power 16 = .ok (.lmul, 1) := dk_105 (dk_at dksX7_power_0 16 rfl rfl)
theorem dX7_power_17 : decode cX7_power 17 = .ok (.invokevirtual 13, 3) := dk_182 0 13 (dk_at dksX7_power_0 17 rfl rfl)
theorem dX7_power_20 : decode cX7_power 20 = .ok (.istore_n 3, 1) := dk_62 (dk_at dksX7_power_0 20 rfl rfl)
theorem dX7_power_21 : decode cX7_power 21 = .ok (.iinc 4 1, 3) := dk_132 4 1 (dk_at dksX7_power_0 21 rfl rfl)
theorem dX7_power_24 : decode cX7_power 24 = .ok (.goto (-19), 3) := dk_167 255 237 (dk_at dksX7_power_1 0 rfl rfl)
theorem dX7_power_27 : decode cX7_power 27 = .ok (.iload_n 3, 1) := dk_29 (dk_at dksX7_power_1 3 rfl rfl)
theorem dX7_power_28 : decode cX7_power 28 = .ok (.ireturn, 1) := dk_172 (dk_at dksX7_power_1 4 rfl rfl)
abbrev cX7_inverse : ByteArray := prog_5_method_4_code
def yX7_inverse : MethodName := ⟨RX7, "inverse", "(I)I"⟩
def dkwX7_inverse_0 : List UInt8 := [42, 27, 42, 180, 0, 7, 5, 100, 182, 0, 17, 172]
abbrev dktX7_inverse_0 : List UInt8 := dkwX7_inverse_0 ++ []
theorem dksX7_inverse_0 : cX7_inverse.data.toList.drop 0 = dktX7_inverse_0 := by decide +kernel
theorem dX7_inverse_0 : decode cX7_inverse 0 = .ok (.aload_n 0, 1) := dk_42 (dk_at dksX7_inverse_0 0 rfl rfl)
theorem dX7_inverse_1 : decode cX7_inverse 1 = .ok (.iload_n 1, 1) := dk_27 (dk_at dksX7_inverse_0 1 rfl rfl)
theorem dX7_inverse_2 : decode cX7_inverse 2 = .ok (.aload_n 0, 1) := dk_42 (dk_at dksX7_inverse_0 2 rfl rfl)
theorem dX7_inverse_3 : decode cX7_inverse 3 = .ok (.getfield 7, 3) := dk_180 0 7 (dk_at dksX7_inverse_0 3 rfl rfl)
theorem dX7_inverse_6 : decode cX7_inverse 6 = .ok (.iconst 2, 1) := dk_5 (dk_at dksX7_inverse_0 6 rfl rfl)
theorem dX7_inverse_7 : decode cX7_inverse 7 = .ok (.isub, 1) := dk_100 (dk_at dksX7_inverse_0 7 rfl rfl)
theorem dX7_inverse_8 : decode cX7_inverse 8 = .ok (.invokevirtual 17, 3) := dk_182 0 17 (dk_at dksX7_inverse_0 8 rfl rfl)
theorem dX7_inverse_11 : decode cX7_inverse 11 = .ok (.ireturn, 1) := dk_172 (dk_at dksX7_inverse_0 11 rfl rfl)
theorem q129 : (Jvm.Cond.initialized "LetterForms$Field") ∈ lw_all := lw_g (lw_at lw_m1 10 rfl) rfl
theorem q282 : (Jvm.Cond.instantiable "LetterForms$Field" (1 : Nat)) ∈ lw_all := lw_g (lw_at lw_m1 163 rfl) rfl
theorem q284 : (Jvm.Cond.instanceMethod ({ cls := "LetterForms$Field", name := "<init>", desc := "()V" } : Jvm.MethodName)) ∈ lw_all := lw_g (lw_at lw_m1 165 rfl) rfl
theorem q285 : (Jvm.Cond.code ({ cls := "LetterForms$Field", name := "<init>", desc := "()V" } : Jvm.MethodName) prog_5_method_1_code (1 : Nat) (Option.none : Option Jvm.ClassFile.FieldType)) ∈ lw_all := lw_g (lw_at lw_m1 166 rfl) rfl
theorem q286 : (Jvm.Cond.methodLink "LetterForms$Field" (1 : Nat) ({ cls := "java/lang/Object", name := "<init>", desc := "()V" } : Jvm.MethodName)) ∈ lw_all := lw_g (lw_at lw_m1 167 rfl) rfl
theorem q287 : (Jvm.Cond.fieldLink "LetterForms$Field" (7 : Nat) "LetterForms$Field" "p" "I") ∈ lw_all := lw_g (lw_at lw_m1 168 rfl) rfl
theorem q290 : (Jvm.Cond.lays "LetterForms$Field" "LetterForms$Field" "p" "I") ∈ lw_all := lw_g (lw_at lw_m1 171 rfl) rfl
theorem q291 : (Jvm.Cond.soleField "LetterForms$Field" "p") ∈ lw_all := lw_g (lw_at lw_m1 172 rfl) rfl
theorem q292 : (Jvm.Cond.superclass "LetterForms$Field" "java/lang/Object") ∈ lw_all := lw_g (lw_at lw_m1 173 rfl) rfl
theorem q632 : (Jvm.Cond.instanceMethod ({ cls := "LetterForms$Field", name := "of", desc := "(J)I" } : Jvm.MethodName)) ∈ lw_all := lw_g (lw_at lw_m3 33 rfl) rfl
theorem q633 : (Jvm.Cond.selects "LetterForms$Field" ({ cls := "LetterForms$Field", name := "of", desc := "(J)I" } : Jvm.MethodName) ({ cls := "LetterForms$Field", name := "of", desc := "(J)I" } : Jvm.MethodName)) ∈ lw_all := lw_g (lw_at lw_m3 34 rfl) rfl
theorem q634 : (Jvm.Cond.code ({ cls := "LetterForms$Field", name := "of", desc := "(J)I" } : Jvm.MethodName) prog_5_method_2_code (4 : Nat) (Option.some Jvm.ClassFile.FieldType.int)) ∈ lw_all := lw_g (lw_at lw_m3 35 rfl) rfl
theorem q836 : (Jvm.Cond.instanceMethod ({ cls := "LetterForms$Field", name := "power", desc := "(II)I" } : Jvm.MethodName)) ∈ lw_all := lw_g (lw_at lw_m3 237 rfl) rfl
theorem q837 : (Jvm.Cond.selects "LetterForms$Field" ({ cls := "LetterForms$Field", name := "power", desc := "(II)I" } : Jvm.MethodName) ({ cls := "LetterForms$Field", name := "power", desc := "(II)I" } : Jvm.MethodName)) ∈ lw_all := lw_g (lw_at lw_m3 238 rfl) rfl
theorem q838 : (Jvm.Cond.code ({ cls := "LetterForms$Field", name := "power", desc := "(II)I" } : Jvm.MethodName) prog_5_method_3_code (5 : Nat) (Option.some Jvm.ClassFile.FieldType.int)) ∈ lw_all := lw_g (lw_at lw_m3 239 rfl) rfl
theorem q839 : (Jvm.Cond.methodLink "LetterForms$Field" (13 : Nat) ({ cls := "LetterForms$Field", name := "of", desc := "(J)I" } : Jvm.MethodName)) ∈ lw_all := lw_g (lw_at lw_m4 0 rfl) rfl
theorem q1040 : (Jvm.Cond.instanceMethod ({ cls := "LetterForms$Field", name := "inverse", desc := "(I)I" } : Jvm.MethodName)) ∈ lw_all := lw_g (lw_at lw_m4 201 rfl) rfl
theorem q1041 : (Jvm.Cond.selects "LetterForms$Field" ({ cls := "LetterForms$Field", name := "inverse", desc := "(I)I" } : Jvm.MethodName) ({ cls := "LetterForms$Field", name := "inverse", desc := "(I)I" } : Jvm.MethodName)) ∈ lw_all := lw_g (lw_at lw_m4 202 rfl) rfl
theorem q1042 : (Jvm.Cond.code ({ cls := "LetterForms$Field", name := "inverse", desc := "(I)I" } : Jvm.MethodName) prog_5_method_4_code (2 : Nat) (Option.some Jvm.ClassFile.FieldType.int)) ∈ lw_all := lw_g (lw_at lw_m4 203 rfl) rfl
theorem q1043 : (Jvm.Cond.methodLink "LetterForms$Field" (17 : Nat) ({ cls := "LetterForms$Field", name := "power", desc := "(II)I" } : Jvm.MethodName)) ∈ lw_all := lw_g (lw_at lw_m4 204 rfl) rfl
theorem q1987 : (Jvm.Cond.castable "LetterForms$Field" "java/lang/Object") ∈ lw_tbl := lw_at lw_m8 188 rfl
theorem in_X7 : ∀ w ∈ wsX70, w ∈ lw_all := lw_in wsX70 [290] (by decide +kernel) (by decide +kernel)
/-! LetterForms$Form -/
set_option maxRecDepth 100000
def RX8 : String := "LetterForms$Form"
def TX8 : u_T := fun k => match k with
  | 0 => ("LetterForms$Form", "a", "[I", true)
  | _ => ("LetterForms$Form", "degree", "I", false)
def tyX8 : Nat → FieldType := fun k => match k with
  | 0 => .array .int
  | _ => .int
abbrev wsX80 : List Cond := u_ws RX8 TX8 2
theorem nmX8 : ∀ a, a < 2 → ∀ b, b < 2 → a ≠ b → (TX8 a).2.1 ≠ (TX8 b).2.1 := by decide +kernel
theorem tyX8_ok : ∀ k, k < 2 → parseFieldDescriptor (TX8 k).2.2.1 = some (tyX8 k) := by decide +kernel
abbrev cX8_init : ByteArray := prog_6_method_1_code
def yX8_init : MethodName := ⟨RX8, "<init>", "()V"⟩
def dkwX8_init_0 : List UInt8 := [42, 183, 0, 3, 42, 16, 41, 188, 10, 181, 0, 9, 177]
abbrev dktX8_init_0 : List UInt8 := dkwX8_init_0 ++ []
theorem dksX8_init_0 : cX8_init.data.toList.drop 0 = dktX8_init_0 := by decide +kernel
theorem dX8_init_0 : decode cX8_init 0 = .ok (.aload_n 0, 1) := dk_42 (dk_at dksX8_init_0 0 rfl rfl)
theorem dX8_init_1 : decode cX8_init 1 = .ok (.invokespecial 3, 3) := dk_183 0 3 (dk_at dksX8_init_0 1 rfl rfl)
theorem dX8_init_4 : decode cX8_init 4 = .ok (.aload_n 0, 1) := dk_42 (dk_at dksX8_init_0 4 rfl rfl)
theorem dX8_init_5 : decode cX8_init 5 = .ok (.bipush 41, 2) := dk_16 41 (dk_at dksX8_init_0 5 rfl rfl)
theorem dX8_init_7 : decode cX8_init 7 = .ok (.newarray .int, 2) := dk_188_10 (dk_at dksX8_init_0 7 rfl rfl)
theorem dX8_init_9 : decode cX8_init 9 = .ok (.putfield 9, 3) := dk_181 0 9 (dk_at dksX8_init_0 9 rfl rfl)
theorem dX8_init_12 : decode cX8_init 12 = .ok (.return_, 1) := dk_177 (dk_at dksX8_init_0 12 rfl rfl)
abbrev cX8_be : ByteArray := prog_6_method_2_code
def yX8_be : MethodName := ⟨RX8, "be", "(LLetterForms$Form;)V"⟩
def dkwX8_be_0 : List UInt8 := [42, 43, 180, 0, 15, 181, 0, 15, 43, 180, 0, 9, 3, 42, 180, 0, 9, 3, 16, 41, 184, 0, 19, 177]
abbrev dktX8_be_0 : List UInt8 := dkwX8_be_0 ++ []
theorem dksX8_be_0 : cX8_be.data.toList.drop 0 = dktX8_be_0 := by decide +kernel
theorem dX8_be_0 : decode cX8_be 0 = .ok (.aload_n 0, 1) := dk_42 (dk_at dksX8_be_0 0 rfl rfl)
theorem dX8_be_1 : decode cX8_be 1 = .ok (.aload_n 1, 1) := dk_43 (dk_at dksX8_be_0 1 rfl rfl)
theorem dX8_be_2 : decode cX8_be 2 = .ok (.getfield 15, 3) := dk_180 0 15 (dk_at dksX8_be_0 2 rfl rfl)
theorem dX8_be_5 : decode cX8_be 5 = .ok (.putfield 15, 3) := dk_181 0 15 (dk_at dksX8_be_0 5 rfl rfl)
theorem dX8_be_8 : decode cX8_be 8 = .ok (.aload_n 1, 1) := dk_43 (dk_at dksX8_be_0 8 rfl rfl)
theorem dX8_be_9 : decode cX8_be 9 = .ok (.getfield 9, 3) := dk_180 0 9 (dk_at dksX8_be_0 9 rfl rfl)
theorem dX8_be_12 : decode cX8_be 12 = .ok (.iconst 0, 1) := dk_3 (dk_at dksX8_be_0 12 rfl rfl)
theorem dX8_be_13 : decode cX8_be 13 = .ok (.aload_n 0, 1) := dk_42 (dk_at dksX8_be_0 13 rfl rfl)
theorem dX8_be_14 : decode cX8_be 14 = .ok (.getfield 9, 3) := dk_180 0 9 (dk_at dksX8_be_0 14 rfl rfl)
theorem dX8_be_17 : decode cX8_be 17 = .ok (.iconst 0, 1) := dk_3 (dk_at dksX8_be_0 17 rfl rfl)
theorem dX8_be_18 : decode cX8_be 18 = .ok (.bipush 41, 2) := dk_16 41 (dk_at dksX8_be_0 18 rfl rfl)
theorem dX8_be_20 : decode cX8_be 20 = .ok (.invokestatic 19, 3) := dk_184 0 19 (dk_at dksX8_be_0 20 rfl rfl)
theorem dX8_be_23 : decode cX8_be 23 = .ok (.return_, 1) := dk_177 (dk_at dksX8_be_0 23 rfl rfl)
abbrev cX8_isNought : ByteArray := prog_6_method_5_code
def yX8_isNought : MethodName := ⟨RX8, "isNought", "()Z"⟩
def dkwX8_isNought_1 : List UInt8 := [154, 0, 7, 4, 167, 0, 4, 3, 60, 132, 2, 1, 167, 255, 226, 27, 172]
abbrev dktX8_isNought_1 : List UInt8 := dkwX8_isNought_1 ++ []
def dkwX8_isNought_0 : List UInt8 := [4, 60, 3, 61, 28, 42, 180, 0, 15, 163, 0, 28, 27, 153, 0, 16, 42, 180, 0, 9, 28, 46]
abbrev dktX8_isNought_0 : List UInt8 := dkwX8_isNought_0 ++ dktX8_isNought_1
theorem dksX8_isNought_0 : cX8_isNought.data.toList.drop 0 = dktX8_isNought_0 := by decide +kernel
theorem dksX8_isNought_1 : cX8_isNought.data.toList.drop 22 = dktX8_isNought_1 := dk_seg dksX8_isNought_0 22 rfl rfl
theorem dX8_isNought_0 : decode cX8_isNought 0 = .ok (.iconst 1, 1) := dk_4 (dk_at dksX8_isNought_0 0 rfl rfl)
theorem dX8_isNought_1 : decode cX8_isNought 1 = .ok (.istore_n 1, 1) := dk_60 (dk_at dksX8_isNought_0 1 rfl rfl)
theorem dX8_isNought_2 : decode cX8_isNought 2 = .ok (.iconst 0, 1) := dk_3 (dk_at dksX8_isNought_0 2 rfl rfl)
theorem dX8_isNought_3 : decode cX8_isNought 3 = .ok (.istore_n 2, 1) := dk_61 (dk_at dksX8_isNought_0 3 rfl rfl)
theorem dX8_isNought_4 : decode cX8_isNought 4 = .ok (.iload_n 2, 1) := dk_28 (dk_at dksX8_isNought_0 4 rfl rfl)
theorem dX8_isNought_5 : decode cX8_isNought 5 = .ok (.aload_n 0, 1) := dk_42 (dk_at dksX8_isNought_0 5 rfl rfl)
theorem dX8_isNought_6 : decode cX8_isNought 6 = .ok (.getfield 15, 3) := dk_180 0 15 (dk_at dksX8_isNought_0 6 rfl rfl)
theorem dX8_isNought_9 : decode cX8_isNought 9 = .ok (.if_icmp .gt 28, 3) := dk_163 0 28 (dk_at dksX8_isNought_0 9 rfl rfl)
theorem dX8_isNought_12 : decode cX8_isNought 12 = .ok (.iload_n 1, 1) := dk_27 (dk_at dksX8_isNought_0 12 rfl rfl)
theorem dX8_isNought_13 : decode cX8_isNought 13 = .ok (.ifCond .eq 16, 3) := dk_153 0 16 (dk_at dksX8_isNought_0 13 rfl rfl)
theorem dX8_isNought_16 : decode cX8_isNought 16 = .ok (.aload_n 0, 1) := dk_42 (dk_at dksX8_isNought_0 16 rfl rfl)
theorem dX8_isNought_17 : decode cX8_isNought 17 = .ok (.getfield 9, 3) := dk_180 0 9 (dk_at dksX8_isNought_0 17 rfl rfl)
theorem dX8_isNought_20 : decode cX8_isNought 20 = .ok (.iload_n 2, 1) := dk_28 (dk_at dksX8_isNought_0 20 rfl rfl)
theorem dX8_isNought_21 : decode cX8_isNought 21 = .ok (.iaload, 1) := dk_46 (dk_at dksX8_isNought_0 21 rfl rfl)
theorem dX8_isNought_22 : decode cX8_isNought 22 = .ok (.ifCond .ne 7, 3) := dk_154 0 7 (dk_at dksX8_isNought_1 0 rfl rfl)
theorem dX8_isNought_25 : decode cX8_isNought 25 = .ok (.iconst 1, 1) := dk_4 (dk_at dksX8_isNought_1 3 rfl rfl)
theorem dX8_isNought_26 : decode cX8_isNought 26 = .ok (.goto 4, 3) := dk_167 0 4 (dk_at dksX8_isNought_1 4 rfl rfl)
theorem dX8_isNought_29 : decode cX8_isNought 29 = .ok (.iconst 0, 1) := dk_3 (dk_at dksX8_isNought_1 7 rfl rfl)
theorem dX8_isNought_30 : decode cX8_isNought 30 = .ok (.istore_n 1, 1) := dk_60 (dk_at dksX8_isNought_1 8 rfl rfl)
theorem dX8_isNought_31 : decode cX8_isNought 31 = .ok (.iinc 2 1, 3) := dk_132 2 1 (dk_at dksX8_isNought_1 9 rfl rfl)
theorem dX8_isNought_34 : decode cX8_isNought 34 = .ok (.goto (-30), 3) := dk_167 255 226 (dk_at dksX8_isNought_1 12 rfl rfl)
theorem dX8_isNought_37 : decode cX8_isNought 37 = .ok (.iload_n 1, 1) := dk_27 (dk_at dksX8_isNought_1 15 rfl rfl)
theorem dX8_isNought_38 : decode cX8_isNought 38 = .ok (.ireturn, 1) := dk_172 (dk_at dksX8_isNought_1 16 rfl rfl)
abbrev cX8_nought : ByteArray := prog_6_method_3_code
def yX8_nought : MethodName := ⟨RX8, "nought", "(I)V"⟩
def dkwX8_nought_1 : List UInt8 := [167, 255, 240, 177]
abbrev dktX8_nought_1 : List UInt8 := dkwX8_nought_1 ++ []
def dkwX8_nought_0 : List UInt8 := [42, 27, 181, 0, 15, 3, 61, 28, 16, 40, 163, 0, 16, 42, 180, 0, 9, 28, 3, 79, 132, 2, 1]
abbrev dktX8_nought_0 : List UInt8 := dkwX8_nought_0 ++ dktX8_nought_1
theorem dksX8_nought_0 : cX8_nought.data.toList.drop 0 = dktX8_nought_0 := by decide +kernel
theorem dksX8_nought_1 : cX8_nought.data.toList.drop 23 = dktX8_nought_1 := dk_seg dksX8_nought_0 23 rfl rfl
theorem dX8_nought_0 : decode cX8_nought 0 = .ok (.aload_n 0, 1) := dk_42 (dk_at dksX8_nought_0 0 rfl rfl)
theorem dX8_nought_1 : decode cX8_nought 1 = .ok (.iload_n 1, 1) := dk_27 (dk_at dksX8_nought_0 1 rfl rfl)
theorem dX8_nought_2 : decode cX8_nought 2 = .ok (.putfield 15, 3) := dk_181 0 15 (dk_at dksX8_nought_0 2 rfl rfl)
theorem dX8_nought_5 : decode cX8_nought 5 = .ok (.iconst 0, 1) := dk_3 (dk_at dksX8_nought_0 5 rfl rfl)
theorem dX8_nought_6 : decode cX8_nought 6 = .ok (.istore_n 2, 1) := dk_61 (dk_at dksX8_nought_0 6 rfl rfl)
theorem dX8_nought_7 : decode cX8_nought 7 = .ok (.iload_n 2, 1) := dk_28 (dk_at dksX8_nought_0 7 rfl rfl)
theorem dX8_nought_8 : decode cX8_nought 8 = .ok (.bipush 40, 2) := dk_16 40 (dk_at dksX8_nought_0 8 rfl rfl)
theorem dX8_nought_10 : decode cX8_nought 10 = .ok (.if_icmp .gt 16, 3) := dk_163 0 16 (dk_at dksX8_nought_0 10 rfl rfl)
theorem dX8_nought_13 : decode cX8_nought 13 = .ok (.aload_n 0, 1) := dk_42 (dk_at dksX8_nought_0 13 rfl rfl)
theorem dX8_nought_14 : decode cX8_nought 14 = .ok (.getfield 9, 3) := dk_180 0 9 (dk_at dksX8_nought_0 14 rfl rfl)
theorem dX8_nought_17 : decode cX8_nought 17 = .ok (.iload_n 2, 1) := dk_28 (dk_at dksX8_nought_0 17 rfl rfl)
theorem dX8_nought_18 : decode cX8_nought 18 = .ok (.iconst 0, 1) := dk_3 (dk_at dksX8_nought_0 18 rfl rfl)
theorem dX8_nought_19 : decode cX8_nought 19 = .ok (.iastore, 1) := dk_79 (dk_at dksX8_nought_0 19 rfl rfl)
theorem dX8_nought_20 : decode cX8_nought 20 = .ok (.iinc 2 1, 3) := dk_132 2 1 (dk_at dksX8_nought_0 20 rfl rfl)
theorem dX8_nought_23 : decode cX8_nought 23 = .ok (.goto (-16), 3) := dk_167 255 240 (dk_at dksX8_nought_1 0 rfl rfl)
theorem dX8_nought_26 : decode cX8_nought 26 = .ok (.return_, 1) := dk_177 (dk_at dksX8_nought_1 3 rfl rfl)
abbrev cX8_same : ByteArray := prog_6_method_6_code
def yX8_same : MethodName := ⟨RX8, "same", "(LLetterForms$Form;)Z"⟩
def dkwX8_same_2 : List UInt8 := [167, 0, 4, 3, 61, 132, 3, 1, 167, 255, 220, 28, 172]
abbrev dktX8_same_2 : List UInt8 := dkwX8_same_2 ++ []
def dkwX8_same_1 : List UInt8 := [163, 0, 34, 28, 153, 0, 30, 42, 180, 0, 9, 29, 46, 43, 180, 0, 9, 29, 46, 160, 0, 7, 4]
abbrev dktX8_same_1 : List UInt8 := dkwX8_same_1 ++ dktX8_same_2
def dkwX8_same_0 : List UInt8 := [42, 180, 0, 15, 43, 180, 0, 15, 160, 0, 7, 4, 167, 0, 4, 3, 61, 3, 62, 29, 42, 180, 0, 15]
abbrev dktX8_same_0 : List UInt8 := dkwX8_same_0 ++ dktX8_same_1
theorem dksX8_same_0 : cX8_same.data.toList.drop 0 = dktX8_same_0 := by decide +kernel
theorem dksX8_same_1 : cX8_same.data.toList.drop 24 = dktX8_same_1 := dk_seg dksX8_same_0 24 rfl rfl
theorem dksX8_same_2 : cX8_same.data.toList.drop 47 = dktX8_same_2 := dk_seg dksX8_same_1 23 rfl rfl
theorem dX8_same_0 : decode cX8_same 0 = .ok (.aload_n 0, 1) := dk_42 (dk_at dksX8_same_0 0 rfl rfl)
theorem dX8_same_1 : decode cX8_same 1 = .ok (.getfield 15, 3) := dk_180 0 15 (dk_at dksX8_same_0 1 rfl rfl)
theorem dX8_same_4 : decode cX8_same 4 = .ok (.aload_n 1, 1) := dk_43 (dk_at dksX8_same_0 4 rfl rfl)
theorem dX8_same_5 : decode cX8_same 5 = .ok (.getfield 15, 3) := dk_180 0 15 (dk_at dksX8_same_0 5 rfl rfl)
theorem dX8_same_8 : decode cX8_same 8 = .ok (.if_icmp .ne 7, 3) := dk_160 0 7 (dk_at dksX8_same_0 8 rfl rfl)
theorem dX8_same_11 : decode cX8_same 11 = .ok (.iconst 1, 1) := dk_4 (dk_at dksX8_same_0 11 rfl rfl)
theorem dX8_same_12 : decode cX8_same 12 = .ok (.goto 4, 3) := dk_167 0 4 (dk_at dksX8_same_0 12 rfl rfl)
theorem dX8_same_15 : decode cX8_same 15 = .ok (.iconst 0, 1) := dk_3 (dk_at dksX8_same_0 15 rfl rfl)
theorem dX8_same_16 : decode cX8_same 16 = .ok (.istore_n 2, 1) := dk_61 (dk_at dksX8_same_0 16 rfl rfl)
theorem dX8_same_17 : decode cX8_same 17 = .ok (.iconst 0, 1) := dk_3 (dk_at dksX8_same_0 17 rfl rfl)
theorem dX8_same_18 : decode cX8_same 18 = .ok (.istore_n 3, 1) := dk_62 (dk_at dksX8_same_0 18 rfl rfl)
theorem dX8_same_19 : decode cX8_same 19 = .ok (.iload_n 3, 1) := dk_29 (dk_at dksX8_same_0 19 rfl rfl)
theorem dX8_same_20 : decode cX8_same 20 = .ok (.aload_n 0, 1) := dk_42 (dk_at dksX8_same_0 20 rfl rfl)
theorem dX8_same_21 : decode cX8_same 21 = .ok (.getfield 15, 3) := dk_180 0 15 (dk_at dksX8_same_0 21 rfl rfl)
theorem dX8_same_24 : decode cX8_same 24 = .ok (.if_icmp .gt 34, 3) := dk_163 0 34 (dk_at dksX8_same_1 0 rfl rfl)
theorem dX8_same_27 : decode cX8_same 27 = .ok (.iload_n 2, 1) := dk_28 (dk_at dksX8_same_1 3 rfl rfl)
theorem dX8_same_28 : decode cX8_same 28 = .ok (.ifCond .eq 30, 3) := dk_153 0 30 (dk_at dksX8_same_1 4 rfl rfl)
theorem dX8_same_31 : decode cX8_same 31 = .ok (.aload_n 0, 1) := dk_42 (dk_at dksX8_same_1 7 rfl rfl)
theorem dX8_same_32 : decode cX8_same 32 = .ok (.getfield 9, 3) := dk_180 0 9 (dk_at dksX8_same_1 8 rfl rfl)
theorem dX8_same_35 : decode cX8_same 35 = .ok (.iload_n 3, 1) := dk_29 (dk_at dksX8_same_1 11 rfl rfl)
theorem dX8_same_36 : decode cX8_same 36 = .ok (.iaload, 1) := dk_46 (dk_at dksX8_same_1 12 rfl rfl)
theorem dX8_same_37 : decode cX8_same 37 = .ok (.aload_n 1, 1) := dk_43 (dk_at dksX8_same_1 13 rfl rfl)
theorem dX8_same_38 : decode cX8_same 38 = .ok (.getfield 9, 3) := dk_180 0 9 (dk_at dksX8_same_1 14 rfl rfl)
theorem dX8_same_41 : decode cX8_same 41 = .ok (.iload_n 3, 1) := dk_29 (dk_at dksX8_same_1 17 rfl rfl)
theorem dX8_same_42 : decode cX8_same 42 = .ok (.iaload, 1) := dk_46 (dk_at dksX8_same_1 18 rfl rfl)
theorem dX8_same_43 : decode cX8_same 43 = .ok (.if_icmp .ne 7, 3) := dk_160 0 7 (dk_at dksX8_same_1 19 rfl rfl)
theorem dX8_same_46 : decode cX8_same 46 = .ok (.iconst 1, 1) := dk_4 (dk_at dksX8_same_1 22 rfl rfl)
theorem dX8_same_47 : decode cX8_same 47 = .ok (.goto 4, 3) := dk_167 0 4 (dk_at dksX8_same_2 0 rfl rfl)
theorem dX8_same_50 : decode cX8_same 50 = .ok (.iconst 0, 1) := dk_3 (dk_at dksX8_same_2 3 rfl rfl)
theorem dX8_same_51 : decode cX8_same 51 = .ok (.istore_n 2, 1) := dk_61 (dk_at dksX8_same_2 4 rfl rfl)
theorem dX8_same_52 : decode cX8_same 52 = .ok (.iinc 3 1, 3) := dk_132 3 1 (dk_at dksX8_same_2 5 rfl rfl)
theorem dX8_same_55 : decode cX8_same 55 = .ok (.goto (-36), 3) := dk_167 255 220 (dk_at dksX8_same_2 8 rfl rfl)
theorem dX8_same_58 : decode cX8_same 58 = .ok (.iload_n 2, 1) := dk_28 (dk_at dksX8_same_2 11 rfl rfl)
theorem dX8_same_59 : decode cX8_same 59 = .ok (.ireturn, 1) := dk_172 (dk_at dksX8_same_2 12 rfl rfl)
abbrev cX8_isValue : ByteArray := prog_6_method_4_code
def yX8_isValue : MethodName := ⟨RX8, "isValue", "()Z"⟩
def dkwX8_isValue_0 : List UInt8 := [42, 180, 0, 15, 2, 159, 0, 7, 4, 167, 0, 4, 3, 172]
abbrev dktX8_isValue_0 : List UInt8 := dkwX8_isValue_0 ++ []
theorem dksX8_isValue_0 : cX8_isValue.data.toList.drop 0 = dktX8_isValue_0 := by decide +kernel
theorem dX8_isValue_0 : decode cX8_isValue 0 = .ok (.aload_n 0, 1) := dk_42 (dk_at dksX8_isValue_0 0 rfl rfl)
theorem dX8_isValue_1 : decode cX8_isValue 1 = .ok (.getfield 15, 3) := dk_180 0 15 (dk_at dksX8_isValue_0 1 rfl rfl)
theorem dX8_isValue_4 : decode cX8_isValue 4 = .ok (.iconst (-1), 1) := dk_2 (dk_at dksX8_isValue_0 4 rfl rfl)
theorem dX8_isValue_5 : decode cX8_isValue 5 = .ok (.if_icmp .eq 7, 3) := dk_159 0 7 (dk_at dksX8_isValue_0 5 rfl rfl)
theorem dX8_isValue_8 : decode cX8_isValue 8 = .ok (.iconst 1, 1) := dk_4 (dk_at dksX8_isValue_0 8 rfl rfl)
theorem dX8_isValue_9 : decode cX8_isValue 9 = .ok (.goto 4, 3) := dk_167 0 4 (dk_at dksX8_isValue_0 9 rfl rfl)
theorem dX8_isValue_12 : decode cX8_isValue 12 = .ok (.iconst 0, 1) := dk_3 (dk_at dksX8_isValue_0 12 rfl rfl)
theorem dX8_isValue_13 : decode cX8_isValue 13 = .ok (.ireturn, 1) := dk_172 (dk_at dksX8_isValue_0 13 rfl rfl)
theorem q130 : (Jvm.Cond.initialized "LetterForms$Form") ∈ lw_all := lw_g (lw_at lw_m1 11 rfl) rfl
theorem q294 : (Jvm.Cond.instantiable "LetterForms$Form" (2 : Nat)) ∈ lw_all := lw_g (lw_at lw_m1 175 rfl) rfl
theorem q296 : (Jvm.Cond.instanceMethod ({ cls := "LetterForms$Form", name := "<init>", desc := "()V" } : Jvm.MethodName)) ∈ lw_all := lw_g (lw_at lw_m1 177 rfl) rfl
theorem q297 : (Jvm.Cond.code ({ cls := "LetterForms$Form", name := "<init>", desc := "()V" } : Jvm.MethodName) prog_6_method_1_code (1 : Nat) (Option.none : Option Jvm.ClassFile.FieldType)) ∈ lw_all := lw_g (lw_at lw_m1 178 rfl) rfl
theorem q298 : (Jvm.Cond.methodLink "LetterForms$Form" (3 : Nat) ({ cls := "java/lang/Object", name := "<init>", desc := "()V" } : Jvm.MethodName)) ∈ lw_all := lw_g (lw_at lw_m1 179 rfl) rfl
theorem q299 : (Jvm.Cond.fieldLink "LetterForms$Form" (9 : Nat) "LetterForms$Form" "a" "[I") ∈ lw_all := lw_g (lw_at lw_m1 180 rfl) rfl
theorem q306 : (Jvm.Cond.fieldLink "LetterForms$Form" (15 : Nat) "LetterForms$Form" "degree" "I") ∈ lw_all := lw_g (lw_at lw_m1 187 rfl) rfl
theorem q310 : (Jvm.Cond.laysFinal "LetterForms$Form" "LetterForms$Form" "a" "[I") ∈ lw_all := lw_g (lw_at lw_m1 191 rfl) rfl
theorem q311 : (Jvm.Cond.soleField "LetterForms$Form" "a") ∈ lw_all := lw_g (lw_at lw_m1 192 rfl) rfl
theorem q312 : (Jvm.Cond.lays "LetterForms$Form" "LetterForms$Form" "degree" "I") ∈ lw_all := lw_g (lw_at lw_m1 193 rfl) rfl
theorem q313 : (Jvm.Cond.soleField "LetterForms$Form" "degree") ∈ lw_all := lw_g (lw_at lw_m1 194 rfl) rfl
theorem q314 : (Jvm.Cond.superclass "LetterForms$Form" "java/lang/Object") ∈ lw_all := lw_g (lw_at lw_m1 195 rfl) rfl
theorem q511 : (Jvm.Cond.instanceMethod ({ cls := "LetterForms$Form", name := "be", desc := "(LLetterForms$Form;)V" } : Jvm.MethodName)) ∈ lw_all := lw_g (lw_at lw_m2 152 rfl) rfl
theorem q512 : (Jvm.Cond.selects "LetterForms$Form" ({ cls := "LetterForms$Form", name := "be", desc := "(LLetterForms$Form;)V" } : Jvm.MethodName) ({ cls := "LetterForms$Form", name := "be", desc := "(LLetterForms$Form;)V" } : Jvm.MethodName)) ∈ lw_all := lw_g (lw_at lw_m2 153 rfl) rfl
theorem q513 : (Jvm.Cond.code ({ cls := "LetterForms$Form", name := "be", desc := "(LLetterForms$Form;)V" } : Jvm.MethodName) prog_6_method_2_code (2 : Nat) (Option.none : Option Jvm.ClassFile.FieldType)) ∈ lw_all := lw_g (lw_at lw_m2 154 rfl) rfl
theorem q514 : (Jvm.Cond.methodLink "LetterForms$Form" (19 : Nat) ({ cls := "java/lang/System", name := "arraycopy", desc := "(Ljava/lang/Object;ILjava/lang/Object;II)V" } : Jvm.MethodName)) ∈ lw_all := lw_g (lw_at lw_m2 155 rfl) rfl
theorem q545 : (Jvm.Cond.instanceMethod ({ cls := "LetterForms$Form", name := "isNought", desc := "()Z" } : Jvm.MethodName)) ∈ lw_all := lw_g (lw_at lw_m2 186 rfl) rfl
theorem q546 : (Jvm.Cond.selects "LetterForms$Form" ({ cls := "LetterForms$Form", name := "isNought", desc := "()Z" } : Jvm.MethodName) ({ cls := "LetterForms$Form", name := "isNought", desc := "()Z" } : Jvm.MethodName)) ∈ lw_all := lw_g (lw_at lw_m2 187 rfl) rfl
theorem q547 : (Jvm.Cond.code ({ cls := "LetterForms$Form", name := "isNought", desc := "()Z" } : Jvm.MethodName) prog_6_method_5_code (3 : Nat) (Option.some Jvm.ClassFile.FieldType.boolean)) ∈ lw_all := lw_g (lw_at lw_m2 188 rfl) rfl
theorem q628 : (Jvm.Cond.instanceMethod ({ cls := "LetterForms$Form", name := "nought", desc := "(I)V" } : Jvm.MethodName)) ∈ lw_all := lw_g (lw_at lw_m3 29 rfl) rfl
theorem q629 : (Jvm.Cond.selects "LetterForms$Form" ({ cls := "LetterForms$Form", name := "nought", desc := "(I)V" } : Jvm.MethodName) ({ cls := "LetterForms$Form", name := "nought", desc := "(I)V" } : Jvm.MethodName)) ∈ lw_all := lw_g (lw_at lw_m3 30 rfl) rfl
theorem q630 : (Jvm.Cond.code ({ cls := "LetterForms$Form", name := "nought", desc := "(I)V" } : Jvm.MethodName) prog_6_method_3_code (3 : Nat) (Option.none : Option Jvm.ClassFile.FieldType)) ∈ lw_all := lw_g (lw_at lw_m3 31 rfl) rfl
theorem q870 : (Jvm.Cond.instanceMethod ({ cls := "LetterForms$Form", name := "same", desc := "(LLetterForms$Form;)Z" } : Jvm.MethodName)) ∈ lw_all := lw_g (lw_at lw_m4 31 rfl) rfl
theorem q871 : (Jvm.Cond.selects "LetterForms$Form" ({ cls := "LetterForms$Form", name := "same", desc := "(LLetterForms$Form;)Z" } : Jvm.MethodName) ({ cls := "LetterForms$Form", name := "same", desc := "(LLetterForms$Form;)Z" } : Jvm.MethodName)) ∈ lw_all := lw_g (lw_at lw_m4 32 rfl) rfl
theorem q872 : (Jvm.Cond.code ({ cls := "LetterForms$Form", name := "same", desc := "(LLetterForms$Form;)Z" } : Jvm.MethodName) prog_6_method_6_code (4 : Nat) (Option.some Jvm.ClassFile.FieldType.boolean)) ∈ lw_all := lw_g (lw_at lw_m4 33 rfl) rfl
theorem q912 : (Jvm.Cond.instanceMethod ({ cls := "LetterForms$Form", name := "isValue", desc := "()Z" } : Jvm.MethodName)) ∈ lw_all := lw_g (lw_at lw_m4 73 rfl) rfl
theorem q913 : (Jvm.Cond.selects "LetterForms$Form" ({ cls := "LetterForms$Form", name := "isValue", desc := "()Z" } : Jvm.MethodName) ({ cls := "LetterForms$Form", name := "isValue", desc := "()Z" } : Jvm.MethodName)) ∈ lw_all := lw_g (lw_at lw_m4 74 rfl) rfl
theorem q914 : (Jvm.Cond.code ({ cls := "LetterForms$Form", name := "isValue", desc := "()Z" } : Jvm.MethodName) prog_6_method_4_code (1 : Nat) (Option.some Jvm.ClassFile.FieldType.boolean)) ∈ lw_all := lw_g (lw_at lw_m4 75 rfl) rfl
theorem q1988 : (Jvm.Cond.castable "LetterForms$Form" "java/lang/Object") ∈ lw_tbl := lw_at lw_m8 189 rfl
theorem in_X8 : ∀ w ∈ wsX80, w ∈ lw_all := lw_in wsX80 [310, 312] (by decide +kernel) (by decide +kernel)
/-! LetterForms$Sign -/
set_option maxRecDepth 100000
def RX3 : String := "LetterForms$Sign"
abbrev cX3_init : ByteArray := prog_13_method_1_code
def yX3_init : MethodName := ⟨RX3, "<init>", "()V"⟩
theorem dX3_init_0 : decode cX3_init 0 = .ok (.aload_n 0, 1) := by decide +kernel
theorem dX3_init_1 : decode cX3_init 1 = .ok (.invokespecial 1, 3) := by decide +kernel
theorem dX3_init_4 : decode cX3_init 4 = .ok (.return_, 1) := by decide +kernel
theorem q122 : (Jvm.Cond.initialized "LetterForms$Sign") ∈ lw_all := lw_g (lw_at lw_m1 3 rfl) rfl
theorem q170 : (Jvm.Cond.instanceMethod ({ cls := "LetterForms$Sign", name := "<init>", desc := "()V" } : Jvm.MethodName)) ∈ lw_all := lw_g (lw_at lw_m1 51 rfl) rfl
theorem q171 : (Jvm.Cond.code ({ cls := "LetterForms$Sign", name := "<init>", desc := "()V" } : Jvm.MethodName) prog_13_method_1_code (1 : Nat) (Option.none : Option Jvm.ClassFile.FieldType)) ∈ lw_all := lw_g (lw_at lw_m1 52 rfl) rfl
theorem q172 : (Jvm.Cond.methodLink "LetterForms$Sign" (1 : Nat) ({ cls := "java/lang/Object", name := "<init>", desc := "()V" } : Jvm.MethodName)) ∈ lw_all := lw_g (lw_at lw_m1 53 rfl) rfl
theorem q893 : (Jvm.Cond.declares ({ cls := "LetterForms$Sign", name := "value", desc := "(LLetterForms;LLetterForms$Form;I)V" } : Jvm.MethodName)) ∈ lw_tbl := lw_at lw_m4 54 rfl
theorem q894 : (Jvm.Cond.sameMethod "LetterForms$Sign" "LetterForms$Sign" "value" "(LLetterForms;LLetterForms$Form;I)V") ∈ lw_all := lw_g (lw_at lw_m4 55 rfl) rfl
theorem q964 : (Jvm.Cond.declares ({ cls := "LetterForms$Sign", name := "rank", desc := "(Z)I" } : Jvm.MethodName)) ∈ lw_tbl := lw_at lw_m4 125 rfl
theorem q965 : (Jvm.Cond.sameMethod "LetterForms$Sign" "LetterForms$Sign" "rank" "(Z)I") ∈ lw_all := lw_g (lw_at lw_m4 126 rfl) rfl
/-! LetterForms$Itself -/
set_option maxRecDepth 100000
def RX4 : String := "LetterForms$Itself"
abbrev cX4_init : ByteArray := prog_7_method_1_code
def yX4_init : MethodName := ⟨RX4, "<init>", "()V"⟩
theorem dX4_init_0 : decode cX4_init 0 = .ok (.aload_n 0, 1) := by decide +kernel
theorem dX4_init_1 : decode cX4_init 1 = .ok (.invokespecial 1, 3) := by decide +kernel
theorem dX4_init_4 : decode cX4_init 4 = .ok (.return_, 1) := by decide +kernel
abbrev cX4_value : ByteArray := prog_7_method_3_code
def yX4_value : MethodName := ⟨RX4, "value", "(LLetterForms;LLetterForms$Form;I)V"⟩
def dkwX4_value_0 : List UInt8 := [43, 180, 0, 7, 29, 50, 44, 182, 0, 13, 177]
abbrev dktX4_value_0 : List UInt8 := dkwX4_value_0 ++ []
theorem dksX4_value_0 : cX4_value.data.toList.drop 0 = dktX4_value_0 := by decide +kernel
theorem dX4_value_0 : decode cX4_value 0 = .ok (.aload_n 1, 1) := dk_43 (dk_at dksX4_value_0 0 rfl rfl)
theorem dX4_value_1 : decode cX4_value 1 = .ok (.getfield 7, 3) := dk_180 0 7 (dk_at dksX4_value_0 1 rfl rfl)
theorem dX4_value_4 : decode cX4_value 4 = .ok (.iload_n 3, 1) := dk_29 (dk_at dksX4_value_0 4 rfl rfl)
theorem dX4_value_5 : decode cX4_value 5 = .ok (.aaload, 1) := dk_50 (dk_at dksX4_value_0 5 rfl rfl)
theorem dX4_value_6 : decode cX4_value 6 = .ok (.aload_n 2, 1) := dk_44 (dk_at dksX4_value_0 6 rfl rfl)
theorem dX4_value_7 : decode cX4_value 7 = .ok (.invokevirtual 13, 3) := dk_182 0 13 (dk_at dksX4_value_0 7 rfl rfl)
theorem dX4_value_10 : decode cX4_value 10 = .ok (.return_, 1) := dk_177 (dk_at dksX4_value_0 10 rfl rfl)
abbrev cX4_rank : ByteArray := prog_7_method_2_code
def yX4_rank : MethodName := ⟨RX4, "rank", "(Z)I"⟩
def dkwX4_rank_0 : List UInt8 := [27, 153, 0, 7, 3, 167, 0, 4, 4, 172]
abbrev dktX4_rank_0 : List UInt8 := dkwX4_rank_0 ++ []
theorem dksX4_rank_0 : cX4_rank.data.toList.drop 0 = dktX4_rank_0 := by decide +kernel
theorem dX4_rank_0 : decode cX4_rank 0 = .ok (.iload_n 1, 1) := dk_27 (dk_at dksX4_rank_0 0 rfl rfl)
theorem dX4_rank_1 : decode cX4_rank 1 = .ok (.ifCond .eq 7, 3) := dk_153 0 7 (dk_at dksX4_rank_0 1 rfl rfl)
theorem dX4_rank_4 : decode cX4_rank 4 = .ok (.iconst 0, 1) := dk_3 (dk_at dksX4_rank_0 4 rfl rfl)
theorem dX4_rank_5 : decode cX4_rank 5 = .ok (.goto 4, 3) := dk_167 0 4 (dk_at dksX4_rank_0 5 rfl rfl)
theorem dX4_rank_8 : decode cX4_rank 8 = .ok (.iconst 1, 1) := dk_4 (dk_at dksX4_rank_0 8 rfl rfl)
theorem dX4_rank_9 : decode cX4_rank 9 = .ok (.ireturn, 1) := dk_172 (dk_at dksX4_rank_0 9 rfl rfl)
theorem q123 : (Jvm.Cond.initialized "LetterForms$Itself") ∈ lw_all := lw_g (lw_at lw_m1 4 rfl) rfl
theorem q165 : (Jvm.Cond.instantiable "LetterForms$Itself" (0 : Nat)) ∈ lw_all := lw_g (lw_at lw_m1 46 rfl) rfl
theorem q167 : (Jvm.Cond.instanceMethod ({ cls := "LetterForms$Itself", name := "<init>", desc := "()V" } : Jvm.MethodName)) ∈ lw_all := lw_g (lw_at lw_m1 48 rfl) rfl
theorem q168 : (Jvm.Cond.code ({ cls := "LetterForms$Itself", name := "<init>", desc := "()V" } : Jvm.MethodName) prog_7_method_1_code (1 : Nat) (Option.none : Option Jvm.ClassFile.FieldType)) ∈ lw_all := lw_g (lw_at lw_m1 49 rfl) rfl
theorem q169 : (Jvm.Cond.methodLinkNest "LetterForms$Itself" (1 : Nat) ({ cls := "LetterForms$Sign", name := "<init>", desc := "()V" } : Jvm.MethodName) "LetterForms") ∈ lw_tbl := lw_at lw_m1 50 rfl
theorem q173 : (Jvm.Cond.superclass "LetterForms$Itself" "LetterForms$Sign") ∈ lw_all := lw_g (lw_at lw_m1 54 rfl) rfl
theorem q430 : (Jvm.Cond.fieldLinkNest "LetterForms$Itself" (7 : Nat) "LetterForms" "shelves" "[LLetterForms$Form;" "LetterForms") ∈ lw_tbl := lw_at lw_m2 71 rfl
theorem q900 : (Jvm.Cond.selects "LetterForms$Itself" ({ cls := "LetterForms$Sign", name := "value", desc := "(LLetterForms;LLetterForms$Form;I)V" } : Jvm.MethodName) ({ cls := "LetterForms$Itself", name := "value", desc := "(LLetterForms;LLetterForms$Form;I)V" } : Jvm.MethodName)) ∈ lw_all := lw_g (lw_at lw_m4 61 rfl) rfl
theorem q901 : (Jvm.Cond.instanceMethod ({ cls := "LetterForms$Itself", name := "value", desc := "(LLetterForms;LLetterForms$Form;I)V" } : Jvm.MethodName)) ∈ lw_all := lw_g (lw_at lw_m4 62 rfl) rfl
theorem q902 : (Jvm.Cond.code ({ cls := "LetterForms$Itself", name := "value", desc := "(LLetterForms;LLetterForms$Form;I)V" } : Jvm.MethodName) prog_7_method_3_code (4 : Nat) (Option.none : Option Jvm.ClassFile.FieldType)) ∈ lw_all := lw_g (lw_at lw_m4 63 rfl) rfl
theorem q903 : (Jvm.Cond.methodLink "LetterForms$Itself" (13 : Nat) ({ cls := "LetterForms$Form", name := "be", desc := "(LLetterForms$Form;)V" } : Jvm.MethodName)) ∈ lw_all := lw_g (lw_at lw_m4 64 rfl) rfl
theorem q969 : (Jvm.Cond.selects "LetterForms$Itself" ({ cls := "LetterForms$Sign", name := "rank", desc := "(Z)I" } : Jvm.MethodName) ({ cls := "LetterForms$Itself", name := "rank", desc := "(Z)I" } : Jvm.MethodName)) ∈ lw_all := lw_g (lw_at lw_m4 130 rfl) rfl
theorem q970 : (Jvm.Cond.instanceMethod ({ cls := "LetterForms$Itself", name := "rank", desc := "(Z)I" } : Jvm.MethodName)) ∈ lw_all := lw_g (lw_at lw_m4 131 rfl) rfl
theorem q971 : (Jvm.Cond.code ({ cls := "LetterForms$Itself", name := "rank", desc := "(Z)I" } : Jvm.MethodName) prog_7_method_2_code (2 : Nat) (Option.some Jvm.ClassFile.FieldType.int)) ∈ lw_all := lw_g (lw_at lw_m4 132 rfl) rfl
theorem q1984 : (Jvm.Cond.castable "LetterForms$Itself" "java/lang/Object") ∈ lw_tbl := lw_at lw_m8 185 rfl
theorem q2005 : (Jvm.Cond.castable "LetterForms$Itself" "LetterForms$Sign") ∈ lw_tbl := lw_at lw_m8 206 rfl
/-! LetterForms$Wrong -/
set_option maxRecDepth 100000
def RX5 : String := "LetterForms$Wrong"
def TX5 : u_T := fun k => match k with
  | 0 => ("java/lang/Throwable", "cause", "Ljava/lang/Throwable;", false)
  | 1 => ("java/lang/Throwable", "stackTrace", "[Ljava/lang/StackTraceElement;", false)
  | 2 => ("java/lang/Throwable", "suppressedExceptions", "Ljava/util/List;", false)
  | 3 => ("java/lang/Throwable", "detailMessage", "Ljava/lang/String;", false)
  | 4 => ("java/lang/Throwable", "backtrace", "Ljava/lang/Object;", false)
  | 5 => ("java/lang/Throwable", "depth", "I", false)
  | _ => ("LetterForms$Wrong", "place", "I", false)
def tyX5 : Nat → FieldType := fun k => match k with
  | 0 => .object "java/lang/Throwable"
  | 1 => .array (.object "java/lang/StackTraceElement")
  | 2 => .object "java/util/List"
  | 3 => .object "java/lang/String"
  | 4 => .object "java/lang/Object"
  | 5 => .int
  | _ => .int
abbrev wsX50 : List Cond := u_ws RX5 TX5 7
theorem nmX5 : ∀ a, a < 7 → ∀ b, b < 7 → a ≠ b → (TX5 a).2.1 ≠ (TX5 b).2.1 := by decide +kernel
theorem tyX5_ok : ∀ k, k < 7 → parseFieldDescriptor (TX5 k).2.2.1 = some (tyX5 k) := by decide +kernel
abbrev cX5_init : ByteArray := prog_16_method_1_code
def yX5_init : MethodName := ⟨RX5, "<init>", "()V"⟩
def dkwX5_init_0 : List UInt8 := [42, 1, 1, 3, 3, 183, 0, 1, 177]
abbrev dktX5_init_0 : List UInt8 := dkwX5_init_0 ++ []
theorem dksX5_init_0 : cX5_init.data.toList.drop 0 = dktX5_init_0 := by decide +kernel
theorem dX5_init_0 : decode cX5_init 0 = .ok (.aload_n 0, 1) := dk_42 (dk_at dksX5_init_0 0 rfl rfl)
theorem dX5_init_1 : decode cX5_init 1 = .ok (.aconst_null, 1) := dk_1 (dk_at dksX5_init_0 1 rfl rfl)
theorem dX5_init_2 : decode cX5_init 2 = .ok (.aconst_null, 1) := dk_1 (dk_at dksX5_init_0 2 rfl rfl)
theorem dX5_init_3 : decode cX5_init 3 = .ok (.iconst 0, 1) := dk_3 (dk_at dksX5_init_0 3 rfl rfl)
theorem dX5_init_4 : decode cX5_init 4 = .ok (.iconst 0, 1) := dk_3 (dk_at dksX5_init_0 4 rfl rfl)
theorem dX5_init_5 : decode cX5_init 5 = .ok (.invokespecial 1, 3) := dk_183 0 1 (dk_at dksX5_init_0 5 rfl rfl)
theorem dX5_init_8 : decode cX5_init 8 = .ok (.return_, 1) := dk_177 (dk_at dksX5_init_0 8 rfl rfl)
theorem q127 : (Jvm.Cond.initialized "LetterForms$Wrong") ∈ lw_all := lw_g (lw_at lw_m1 8 rfl) rfl
theorem q176 : (Jvm.Cond.instantiable "LetterForms$Wrong" (7 : Nat)) ∈ lw_all := lw_g (lw_at lw_m1 57 rfl) rfl
theorem q177 : (Jvm.Cond.castable "LetterForms$Wrong" "LetterForms$Wrong") ∈ lw_tbl := lw_at lw_m1 58 rfl
theorem q184 : (Jvm.Cond.selects "LetterForms$Wrong" ({ cls := "java/lang/Throwable", name := "fillInStackTrace", desc := "(I)Ljava/lang/Throwable;" } : Jvm.MethodName) ({ cls := "java/lang/Throwable", name := "fillInStackTrace", desc := "(I)Ljava/lang/Throwable;" } : Jvm.MethodName)) ∈ lw_all := lw_g (lw_at lw_m1 65 rfl) rfl
theorem q185 : (Jvm.Cond.selects "LetterForms$Wrong" ({ cls := "java/lang/Throwable", name := "fillInStackTrace", desc := "()Ljava/lang/Throwable;" } : Jvm.MethodName) ({ cls := "java/lang/Throwable", name := "fillInStackTrace", desc := "()Ljava/lang/Throwable;" } : Jvm.MethodName)) ∈ lw_all := lw_g (lw_at lw_m1 66 rfl) rfl
theorem q186 : (Jvm.Cond.lays "LetterForms$Wrong" "java/lang/Throwable" "cause" "Ljava/lang/Throwable;") ∈ lw_all := lw_g (lw_at lw_m1 67 rfl) rfl
theorem q188 : (Jvm.Cond.lays "LetterForms$Wrong" "java/lang/Throwable" "stackTrace" "[Ljava/lang/StackTraceElement;") ∈ lw_all := lw_g (lw_at lw_m1 69 rfl) rfl
theorem q190 : (Jvm.Cond.lays "LetterForms$Wrong" "java/lang/Throwable" "suppressedExceptions" "Ljava/util/List;") ∈ lw_all := lw_g (lw_at lw_m1 71 rfl) rfl
theorem q192 : (Jvm.Cond.lays "LetterForms$Wrong" "java/lang/Throwable" "detailMessage" "Ljava/lang/String;") ∈ lw_all := lw_g (lw_at lw_m1 73 rfl) rfl
theorem q194 : (Jvm.Cond.lays "LetterForms$Wrong" "java/lang/Throwable" "backtrace" "Ljava/lang/Object;") ∈ lw_all := lw_g (lw_at lw_m1 75 rfl) rfl
theorem q221 : (Jvm.Cond.instanceMethod ({ cls := "LetterForms$Wrong", name := "<init>", desc := "()V" } : Jvm.MethodName)) ∈ lw_all := lw_g (lw_at lw_m1 102 rfl) rfl
theorem q222 : (Jvm.Cond.code ({ cls := "LetterForms$Wrong", name := "<init>", desc := "()V" } : Jvm.MethodName) prog_16_method_1_code (1 : Nat) (Option.none : Option Jvm.ClassFile.FieldType)) ∈ lw_all := lw_g (lw_at lw_m1 103 rfl) rfl
theorem q223 : (Jvm.Cond.methodLink "LetterForms$Wrong" (1 : Nat) ({ cls := "java/lang/RuntimeException", name := "<init>", desc := "(Ljava/lang/String;Ljava/lang/Throwable;ZZ)V" } : Jvm.MethodName)) ∈ lw_all := lw_g (lw_at lw_m1 104 rfl) rfl
theorem q239 : (Jvm.Cond.lays "LetterForms$Wrong" "LetterForms$Wrong" "place" "I") ∈ lw_all := lw_g (lw_at lw_m1 120 rfl) rfl
theorem q240 : (Jvm.Cond.soleField "LetterForms$Wrong" "place") ∈ lw_all := lw_g (lw_at lw_m1 121 rfl) rfl
theorem q245 : (Jvm.Cond.lays "LetterForms$Wrong" "java/lang/Throwable" "depth" "I") ∈ lw_all := lw_g (lw_at lw_m1 126 rfl) rfl
theorem q248 : (Jvm.Cond.superclass "LetterForms$Wrong" "java/lang/RuntimeException") ∈ lw_all := lw_g (lw_at lw_m1 129 rfl) rfl
theorem q1985 : (Jvm.Cond.castable "LetterForms$Wrong" "java/lang/Object") ∈ lw_tbl := lw_at lw_m8 186 rfl
theorem in_X5 : ∀ w ∈ wsX50, w ∈ lw_all := lw_in wsX50 [186, 188, 190, 192, 194, 245, 239] (by decide +kernel) (by decide +kernel)
/-! LetterForms$Act -/
set_option maxRecDepth 100000
def RX10 : String := "LetterForms$Act"
def TX10 : u_T := fun k => match k with
  | 0 => ("LetterForms$Act", "before", "LLetterForms$Form;", true)
  | 1 => ("LetterForms$Act", "behind", "LLetterForms$Form;", true)
  | _ => ("LetterForms$Act", "form", "I", false)
def tyX10 : Nat → FieldType := fun k => match k with
  | 0 => .object "LetterForms$Form"
  | 1 => .object "LetterForms$Form"
  | _ => .int
abbrev wsX100 : List Cond := u_ws RX10 TX10 3
theorem nmX10 : ∀ a, a < 3 → ∀ b, b < 3 → a ≠ b → (TX10 a).2.1 ≠ (TX10 b).2.1 := by decide +kernel
theorem tyX10_ok : ∀ k, k < 3 → parseFieldDescriptor (TX10 k).2.2.1 = some (tyX10 k) := by decide +kernel
abbrev cX10_init : ByteArray := prog_2_method_1_code
def yX10_init : MethodName := ⟨RX10, "<init>", "()V"⟩
def dkwX10_init_1 : List UInt8 := [181, 0, 16, 177]
abbrev dktX10_init_1 : List UInt8 := dkwX10_init_1 ++ []
def dkwX10_init_0 : List UInt8 := [42, 183, 0, 1, 42, 187, 0, 7, 89, 183, 0, 9, 181, 0, 10, 42, 187, 0, 7, 89, 183, 0, 9]
abbrev dktX10_init_0 : List UInt8 := dkwX10_init_0 ++ dktX10_init_1
theorem dksX10_init_0 : cX10_init.data.toList.drop 0 = dktX10_init_0 := by decide +kernel
theorem dksX10_init_1 : cX10_init.data.toList.drop 23 = dktX10_init_1 := dk_seg dksX10_init_0 23 rfl rfl
theorem dX10_init_0 : decode cX10_init 0 = .ok (.aload_n 0, 1) := dk_42 (dk_at dksX10_init_0 0 rfl rfl)
theorem dX10_init_1 : decode cX10_init 1 = .ok (.invokespecial 1, 3) := dk_183 0 1 (dk_at dksX10_init_0 1 rfl rfl)
theorem dX10_init_4 : decode cX10_init 4 = .ok (.aload_n 0, 1) := dk_42 (dk_at dksX10_init_0 4 rfl rfl)
theorem dX10_init_5 : decode cX10_init 5 = .ok (.new 7, 3) := dk_187 0 7 (dk_at dksX10_init_0 5 rfl rfl)
theorem dX10_init_8 : decode cX10_init 8 = .ok (.dup, 1) := dk_89 (dk_at dksX10_init_0 8 rfl rfl)
theorem dX10_init_9 : decode cX10_init 9 = .ok (.invokespecial 9, 3) := dk_183 0 9 (dk_at dksX10_init_0 9 rfl rfl)
theorem dX10_init_12 : decode cX10_init 12 = .ok (.putfield 10, 3) := dk_181 0 10 (dk_at dksX10_init_0 12 rfl rfl)
theorem dX10_init_15 : decode cX10_init 15 = .ok (.aload_n 0, 1) := dk_42 (dk_at dksX10_init_0 15 rfl rfl)
theorem dX10_init_16 : decode cX10_init 16 = .ok (.new 7, 3) := dk_187 0 7 (dk_at dksX10_init_0 16 rfl rfl)
theorem dX10_init_19 : decode cX10_init 19 = .ok (.dup, 1) := dk_89 (dk_at dksX10_init_0 19 rfl rfl)
theorem dX10_init_20 : decode cX10_init 20 = .ok (.invokespecial 9, 3) := dk_183 0 9 (dk_at dksX10_init_0 20 rfl rfl)
theorem dX10_init_23 : decode cX10_init 23 = .ok (.putfield 16, 3) := dk_181 0 16 (dk_at dksX10_init_1 0 rfl rfl)
theorem dX10_init_26 : decode cX10_init 26 = .ok (.return_, 1) := dk_177 (dk_at dksX10_init_1 3 rfl rfl)
abbrev cX10_be : ByteArray := prog_2_method_2_code
def yX10_be : MethodName := ⟨RX10, "be", "(LLetterForms$Act;)V"⟩
def dkwX10_be_1 : List UInt8 := [180, 0, 16, 182, 0, 23, 177]
abbrev dktX10_be_1 : List UInt8 := dkwX10_be_1 ++ []
def dkwX10_be_0 : List UInt8 := [42, 43, 180, 0, 19, 181, 0, 19, 42, 180, 0, 10, 43, 180, 0, 10, 182, 0, 23, 42, 180, 0, 16, 43]
abbrev dktX10_be_0 : List UInt8 := dkwX10_be_0 ++ dktX10_be_1
theorem dksX10_be_0 : cX10_be.data.toList.drop 0 = dktX10_be_0 := by decide +kernel
theorem dksX10_be_1 : cX10_be.data.toList.drop 24 = dktX10_be_1 := dk_seg dksX10_be_0 24 rfl rfl
theorem dX10_be_0 : decode cX10_be 0 = .ok (.aload_n 0, 1) := dk_42 (dk_at dksX10_be_0 0 rfl rfl)
theorem dX10_be_1 : decode cX10_be 1 = .ok (.aload_n 1, 1) := dk_43 (dk_at dksX10_be_0 1 rfl rfl)
theorem dX10_be_2 : decode cX10_be 2 = .ok (.getfield 19, 3) := dk_180 0 19 (dk_at dksX10_be_0 2 rfl rfl)
theorem dX10_be_5 : decode cX10_be 5 = .ok (.putfield 19, 3) := dk_181 0 19 (dk_at dksX10_be_0 5 rfl rfl)
theorem dX10_be_8 : decode cX10_be 8 = .ok (.aload_n 0, 1) := dk_42 (dk_at dksX10_be_0 8 rfl rfl)
theorem dX10_be_9 : decode cX10_be 9 = .ok (.getfield 10, 3) := dk_180 0 10 (dk_at dksX10_be_0 9 rfl rfl)
theorem dX10_be_12 : decode cX10_be 12 = .ok (.aload_n 1, 1) := dk_43 (dk_at dksX10_be_0 12 rfl rfl)
theorem dX10_be_13 : decode cX10_be 13 = .ok (.getfield 10, 3) := dk_180 0 10 (dk_at dksX10_be_0 13 rfl rfl)
theorem dX10_be_16 : decode cX10_be 16 = .ok (.invokevirtual 23, 3) := dk_182 0 23 (dk_at dksX10_be_0 16 rfl rfl)
theorem dX10_be_19 : decode cX10_be 19 = .ok (.aload_n 0, 1) := dk_42 (dk_at dksX10_be_0 19 rfl rfl)
theorem dX10_be_20 : decode cX10_be 20 = .ok (.getfield 16, 3) := dk_180 0 16 (dk_at dksX10_be_0 20 rfl rfl)
theorem dX10_be_23 : decode cX10_be 23 = .ok (.aload_n 1, 1) := dk_43 (dk_at dksX10_be_0 23 rfl rfl)
theorem dX10_be_24 : decode cX10_be 24 = .ok (.getfield 16, 3) := dk_180 0 16 (dk_at dksX10_be_1 0 rfl rfl)
theorem dX10_be_27 : decode cX10_be 27 = .ok (.invokevirtual 23, 3) := dk_182 0 23 (dk_at dksX10_be_1 3 rfl rfl)
theorem dX10_be_30 : decode cX10_be 30 = .ok (.return_, 1) := dk_177 (dk_at dksX10_be_1 6 rfl rfl)
theorem q132 : (Jvm.Cond.initialized "LetterForms$Act") ∈ lw_all := lw_g (lw_at lw_m1 13 rfl) rfl
theorem q354 : (Jvm.Cond.instantiable "LetterForms$Act" (3 : Nat)) ∈ lw_all := lw_g (lw_at lw_m1 235 rfl) rfl
theorem q356 : (Jvm.Cond.instanceMethod ({ cls := "LetterForms$Act", name := "<init>", desc := "()V" } : Jvm.MethodName)) ∈ lw_all := lw_g (lw_at lw_m1 237 rfl) rfl
theorem q357 : (Jvm.Cond.code ({ cls := "LetterForms$Act", name := "<init>", desc := "()V" } : Jvm.MethodName) prog_2_method_1_code (1 : Nat) (Option.none : Option Jvm.ClassFile.FieldType)) ∈ lw_all := lw_g (lw_at lw_m1 238 rfl) rfl
theorem q358 : (Jvm.Cond.methodLink "LetterForms$Act" (1 : Nat) ({ cls := "java/lang/Object", name := "<init>", desc := "()V" } : Jvm.MethodName)) ∈ lw_all := lw_g (lw_at lw_m1 239 rfl) rfl
theorem q359 : (Jvm.Cond.classLink "LetterForms$Act" (7 : Nat) "LetterForms$Form") ∈ lw_all := lw_g (lw_at lw_m2 0 rfl) rfl
theorem q360 : (Jvm.Cond.methodLinkNest "LetterForms$Act" (9 : Nat) ({ cls := "LetterForms$Form", name := "<init>", desc := "()V" } : Jvm.MethodName) "LetterForms") ∈ lw_tbl := lw_at lw_m2 1 rfl
theorem q361 : (Jvm.Cond.fieldLink "LetterForms$Act" (10 : Nat) "LetterForms$Act" "before" "LLetterForms$Form;") ∈ lw_all := lw_g (lw_at lw_m2 2 rfl) rfl
theorem q364 : (Jvm.Cond.fieldLink "LetterForms$Act" (16 : Nat) "LetterForms$Act" "behind" "LLetterForms$Form;") ∈ lw_all := lw_g (lw_at lw_m2 5 rfl) rfl
theorem q367 : (Jvm.Cond.fieldLink "LetterForms$Act" (19 : Nat) "LetterForms$Act" "form" "I") ∈ lw_all := lw_g (lw_at lw_m2 8 rfl) rfl
theorem q370 : (Jvm.Cond.laysFinal "LetterForms$Act" "LetterForms$Act" "before" "LLetterForms$Form;") ∈ lw_all := lw_g (lw_at lw_m2 11 rfl) rfl
theorem q371 : (Jvm.Cond.soleField "LetterForms$Act" "before") ∈ lw_all := lw_g (lw_at lw_m2 12 rfl) rfl
theorem q372 : (Jvm.Cond.laysFinal "LetterForms$Act" "LetterForms$Act" "behind" "LLetterForms$Form;") ∈ lw_all := lw_g (lw_at lw_m2 13 rfl) rfl
theorem q373 : (Jvm.Cond.soleField "LetterForms$Act" "behind") ∈ lw_all := lw_g (lw_at lw_m2 14 rfl) rfl
theorem q374 : (Jvm.Cond.lays "LetterForms$Act" "LetterForms$Act" "form" "I") ∈ lw_all := lw_g (lw_at lw_m2 15 rfl) rfl
theorem q375 : (Jvm.Cond.soleField "LetterForms$Act" "form") ∈ lw_all := lw_g (lw_at lw_m2 16 rfl) rfl
theorem q376 : (Jvm.Cond.superclass "LetterForms$Act" "java/lang/Object") ∈ lw_all := lw_g (lw_at lw_m2 17 rfl) rfl
theorem q532 : (Jvm.Cond.instanceMethod ({ cls := "LetterForms$Act", name := "be", desc := "(LLetterForms$Act;)V" } : Jvm.MethodName)) ∈ lw_all := lw_g (lw_at lw_m2 173 rfl) rfl
theorem q533 : (Jvm.Cond.selects "LetterForms$Act" ({ cls := "LetterForms$Act", name := "be", desc := "(LLetterForms$Act;)V" } : Jvm.MethodName) ({ cls := "LetterForms$Act", name := "be", desc := "(LLetterForms$Act;)V" } : Jvm.MethodName)) ∈ lw_all := lw_g (lw_at lw_m2 174 rfl) rfl
theorem q534 : (Jvm.Cond.code ({ cls := "LetterForms$Act", name := "be", desc := "(LLetterForms$Act;)V" } : Jvm.MethodName) prog_2_method_2_code (2 : Nat) (Option.none : Option Jvm.ClassFile.FieldType)) ∈ lw_all := lw_g (lw_at lw_m2 175 rfl) rfl
theorem q535 : (Jvm.Cond.methodLink "LetterForms$Act" (23 : Nat) ({ cls := "LetterForms$Form", name := "be", desc := "(LLetterForms$Form;)V" } : Jvm.MethodName)) ∈ lw_all := lw_g (lw_at lw_m2 176 rfl) rfl
theorem q1990 : (Jvm.Cond.castable "LetterForms$Act" "java/lang/Object") ∈ lw_tbl := lw_at lw_m8 191 rfl
theorem in_X10 : ∀ w ∈ wsX100, w ∈ lw_all := lw_in wsX100 [370, 372, 374] (by decide +kernel) (by decide +kernel)
/-! LetterForms$Constant -/
set_option maxRecDepth 100000
def RX12 : String := "LetterForms$Constant"
def TX12 : u_T := fun k => match k with
  | _ => ("LetterForms$Constant", "n", "I", true)
def tyX12 : Nat → FieldType := fun k => match k with
  | _ => .int
abbrev wsX120 : List Cond := u_ws RX12 TX12 1
theorem nmX12 : ∀ a, a < 1 → ∀ b, b < 1 → a ≠ b → (TX12 a).2.1 ≠ (TX12 b).2.1 := by decide +kernel
theorem tyX12_ok : ∀ k, k < 1 → parseFieldDescriptor (TX12 k).2.2.1 = some (tyX12 k) := by decide +kernel
abbrev cX12_init : ByteArray := prog_3_method_1_code
def yX12_init : MethodName := ⟨RX12, "<init>", "(I)V"⟩
def dkwX12_init_0 : List UInt8 := [42, 183, 0, 1, 42, 27, 181, 0, 7, 177]
abbrev dktX12_init_0 : List UInt8 := dkwX12_init_0 ++ []
theorem dksX12_init_0 : cX12_init.data.toList.drop 0 = dktX12_init_0 := by decide +kernel
theorem dX12_init_0 : decode cX12_init 0 = .ok (.aload_n 0, 1) := dk_42 (dk_at dksX12_init_0 0 rfl rfl)
theorem dX12_init_1 : decode cX12_init 1 = .ok (.invokespecial 1, 3) := dk_183 0 1 (dk_at dksX12_init_0 1 rfl rfl)
theorem dX12_init_4 : decode cX12_init 4 = .ok (.aload_n 0, 1) := dk_42 (dk_at dksX12_init_0 4 rfl rfl)
theorem dX12_init_5 : decode cX12_init 5 = .ok (.iload_n 1, 1) := dk_27 (dk_at dksX12_init_0 5 rfl rfl)
theorem dX12_init_6 : decode cX12_init 6 = .ok (.putfield 7, 3) := dk_181 0 7 (dk_at dksX12_init_0 6 rfl rfl)
theorem dX12_init_9 : decode cX12_init 9 = .ok (.return_, 1) := dk_177 (dk_at dksX12_init_0 9 rfl rfl)
abbrev cX12_value : ByteArray := prog_3_method_3_code
def yX12_value : MethodName := ⟨RX12, "value", "(LLetterForms;LLetterForms$Form;I)V"⟩
def dkwX12_value_1 : List UInt8 := [180, 0, 33, 42, 180, 0, 7, 133, 182, 0, 39, 79, 177]
abbrev dktX12_value_1 : List UInt8 := dkwX12_value_1 ++ []
def dkwX12_value_0 : List UInt8 := [43, 180, 0, 13, 29, 50, 3, 182, 0, 19, 43, 180, 0, 13, 29, 50, 180, 0, 25, 3, 43, 180, 0, 29]
abbrev dktX12_value_0 : List UInt8 := dkwX12_value_0 ++ dktX12_value_1
theorem dksX12_value_0 : cX12_value.data.toList.drop 0 = dktX12_value_0 := by decide +kernel
theorem dksX12_value_1 : cX12_value.data.toList.drop 24 = dktX12_value_1 := dk_seg dksX12_value_0 24 rfl rfl
theorem dX12_value_0 : decode cX12_value 0 = .ok (.aload_n 1, 1) := dk_43 (dk_at dksX12_value_0 0 rfl rfl)
theorem dX12_value_1 : decode cX12_value 1 = .ok (.getfield 13, 3) := dk_180 0 13 (dk_at dksX12_value_0 1 rfl rfl)
theorem dX12_value_4 : decode cX12_value 4 = .ok (.iload_n 3, 1) := dk_29 (dk_at dksX12_value_0 4 rfl rfl)
theorem dX12_value_5 : decode cX12_value 5 = .ok (.aaload, 1) := dk_50 (dk_at dksX12_value_0 5 rfl rfl)
theorem dX12_value_6 : decode cX12_value 6 = .ok (.iconst 0, 1) := dk_3 (dk_at dksX12_value_0 6 rfl rfl)
theorem dX12_value_7 : decode cX12_value 7 = .ok (.invokevirtual 19, 3) := dk_182 0 19 (dk_at dksX12_value_0 7 rfl rfl)
theorem dX12_value_10 : decode cX12_value 10 = .ok (.aload_n 1, 1) := dk_43 (dk_at dksX12_value_0 10 rfl rfl)
theorem dX12_value_11 : decode cX12_value 11 = .ok (.getfield 13, 3) := dk_180 0 13 (dk_at dksX12_value_0 11 rfl rfl)
theorem dX12_value_14 : decode cX12_value 14 = .ok (.iload_n 3, 1) := dk_29 (dk_at dksX12_value_0 14 rfl rfl)
theorem dX12_value_15 : decode cX12_value 15 = .ok (.aaload, 1) := dk_50 (dk_at dksX12_value_0 15 rfl rfl)
theorem dX12_value_16 : decode cX12_value 16 = .ok (.getfield 25, 3) := dk_180 0 25 (dk_at dksX12_value_0 16 rfl rfl)
theorem dX12_value_19 : decode cX12_value 19 = .ok (.iconst 0, 1) := dk_3 (dk_at dksX12_value_0 19 rfl rfl)
theorem dX12_value_20 : decode cX12_value 20 = .ok (.aload_n 1, 1) := dk_43 (dk_at dksX12_value_0 20 rfl rfl)
theorem dX12_value_21 : decode cX12_value 21 = .ok (.getfield 29, 3) := dk_180 0 29 (dk_at dksX12_value_0 21 rfl rfl)
theorem dX12_value_24 : decode cX12_value 24 = .ok (.getfield 33, 3) := dk_180 0 33 (dk_at dksX12_value_1 0 rfl rfl)
theorem dX12_value_27 : decode cX12_value 27 = .ok (.aload_n 0, 1) := dk_42 (dk_at dksX12_value_1 3 rfl rfl)
theorem dX12_value_28 : decode cX12_value 28 = .ok (.getfield 7, 3) := dk_180 0 7 (dk_at dksX12_value_1 4 rfl rfl)
theorem dX12_value_31 : decode cX12_value 31 = .ok (.i2l, 1) := dk_133 (dk_at dksX12_value_1 7 rfl rfl)
theorem dX12_value_32 : decode cX12_value 32 = .ok (.invokevirtual 39, 3) := dk_182 0 39 (dk_at dksX12_value_1 8 rfl rfl)
theorem dX12_value_35 : decode cX12_value 35 = .ok (.iastore, 1) := dk_79 (dk_at dksX12_value_1 11 rfl rfl)
theorem dX12_value_36 : decode cX12_value 36 = .ok (.return_, 1) := dk_177 (dk_at dksX12_value_1 12 rfl rfl)
abbrev cX12_rank : ByteArray := prog_3_method_2_code
def yX12_rank : MethodName := ⟨RX12, "rank", "(Z)I"⟩
theorem dX12_rank_0 : decode cX12_rank 0 = .ok (.iconst 0, 1) := by decide +kernel
theorem dX12_rank_1 : decode cX12_rank 1 = .ok (.ireturn, 1) := by decide +kernel
theorem q139 : (Jvm.Cond.initialized "LetterForms$Constant") ∈ lw_all := lw_g (lw_at lw_m1 20 rfl) rfl
theorem q301 : (Jvm.Cond.fieldLinkNest "LetterForms$Constant" (25 : Nat) "LetterForms$Form" "a" "[I" "LetterForms") ∈ lw_tbl := lw_at lw_m1 182 rfl
theorem q317 : (Jvm.Cond.fieldLinkNest "LetterForms$Constant" (33 : Nat) "LetterForms$Desk" "f" "LLetterForms$Field;" "LetterForms") ∈ lw_tbl := lw_at lw_m1 198 rfl
theorem q423 : (Jvm.Cond.fieldLinkNest "LetterForms$Constant" (29 : Nat) "LetterForms" "desk" "LLetterForms$Desk;" "LetterForms") ∈ lw_tbl := lw_at lw_m2 64 rfl
theorem q429 : (Jvm.Cond.fieldLinkNest "LetterForms$Constant" (13 : Nat) "LetterForms" "shelves" "[LLetterForms$Form;" "LetterForms") ∈ lw_tbl := lw_at lw_m2 70 rfl
theorem q684 : (Jvm.Cond.instantiable "LetterForms$Constant" (1 : Nat)) ∈ lw_all := lw_g (lw_at lw_m3 85 rfl) rfl
theorem q690 : (Jvm.Cond.instanceMethod ({ cls := "LetterForms$Constant", name := "<init>", desc := "(I)V" } : Jvm.MethodName)) ∈ lw_all := lw_g (lw_at lw_m3 91 rfl) rfl
theorem q691 : (Jvm.Cond.code ({ cls := "LetterForms$Constant", name := "<init>", desc := "(I)V" } : Jvm.MethodName) prog_3_method_1_code (2 : Nat) (Option.none : Option Jvm.ClassFile.FieldType)) ∈ lw_all := lw_g (lw_at lw_m3 92 rfl) rfl
theorem q692 : (Jvm.Cond.methodLinkNest "LetterForms$Constant" (1 : Nat) ({ cls := "LetterForms$Sign", name := "<init>", desc := "()V" } : Jvm.MethodName) "LetterForms") ∈ lw_tbl := lw_at lw_m3 93 rfl
theorem q693 : (Jvm.Cond.fieldLink "LetterForms$Constant" (7 : Nat) "LetterForms$Constant" "n" "I") ∈ lw_all := lw_g (lw_at lw_m3 94 rfl) rfl
theorem q694 : (Jvm.Cond.laysFinal "LetterForms$Constant" "LetterForms$Constant" "n" "I") ∈ lw_all := lw_g (lw_at lw_m3 95 rfl) rfl
theorem q695 : (Jvm.Cond.soleField "LetterForms$Constant" "n") ∈ lw_all := lw_g (lw_at lw_m3 96 rfl) rfl
theorem q696 : (Jvm.Cond.superclass "LetterForms$Constant" "LetterForms$Sign") ∈ lw_all := lw_g (lw_at lw_m3 97 rfl) rfl
theorem q895 : (Jvm.Cond.selects "LetterForms$Constant" ({ cls := "LetterForms$Sign", name := "value", desc := "(LLetterForms;LLetterForms$Form;I)V" } : Jvm.MethodName) ({ cls := "LetterForms$Constant", name := "value", desc := "(LLetterForms;LLetterForms$Form;I)V" } : Jvm.MethodName)) ∈ lw_all := lw_g (lw_at lw_m4 56 rfl) rfl
theorem q896 : (Jvm.Cond.instanceMethod ({ cls := "LetterForms$Constant", name := "value", desc := "(LLetterForms;LLetterForms$Form;I)V" } : Jvm.MethodName)) ∈ lw_all := lw_g (lw_at lw_m4 57 rfl) rfl
theorem q897 : (Jvm.Cond.code ({ cls := "LetterForms$Constant", name := "value", desc := "(LLetterForms;LLetterForms$Form;I)V" } : Jvm.MethodName) prog_3_method_3_code (4 : Nat) (Option.none : Option Jvm.ClassFile.FieldType)) ∈ lw_all := lw_g (lw_at lw_m4 58 rfl) rfl
theorem q898 : (Jvm.Cond.methodLink "LetterForms$Constant" (19 : Nat) ({ cls := "LetterForms$Form", name := "nought", desc := "(I)V" } : Jvm.MethodName)) ∈ lw_all := lw_g (lw_at lw_m4 59 rfl) rfl
theorem q899 : (Jvm.Cond.methodLink "LetterForms$Constant" (39 : Nat) ({ cls := "LetterForms$Field", name := "of", desc := "(J)I" } : Jvm.MethodName)) ∈ lw_all := lw_g (lw_at lw_m4 60 rfl) rfl
theorem q966 : (Jvm.Cond.selects "LetterForms$Constant" ({ cls := "LetterForms$Sign", name := "rank", desc := "(Z)I" } : Jvm.MethodName) ({ cls := "LetterForms$Constant", name := "rank", desc := "(Z)I" } : Jvm.MethodName)) ∈ lw_all := lw_g (lw_at lw_m4 127 rfl) rfl
theorem q967 : (Jvm.Cond.instanceMethod ({ cls := "LetterForms$Constant", name := "rank", desc := "(Z)I" } : Jvm.MethodName)) ∈ lw_all := lw_g (lw_at lw_m4 128 rfl) rfl
theorem q968 : (Jvm.Cond.code ({ cls := "LetterForms$Constant", name := "rank", desc := "(Z)I" } : Jvm.MethodName) prog_3_method_2_code (2 : Nat) (Option.some Jvm.ClassFile.FieldType.int)) ∈ lw_all := lw_g (lw_at lw_m4 129 rfl) rfl
theorem q1995 : (Jvm.Cond.castable "LetterForms$Constant" "java/lang/Object") ∈ lw_tbl := lw_at lw_m8 196 rfl
theorem q2006 : (Jvm.Cond.castable "LetterForms$Constant" "LetterForms$Sign") ∈ lw_tbl := lw_at lw_m8 207 rfl
theorem in_X12 : ∀ w ∈ wsX120, w ∈ lw_all := lw_in wsX120 [694] (by decide +kernel) (by decide +kernel)
/-! LetterForms$Minus -/
set_option maxRecDepth 100000
def RX13 : String := "LetterForms$Minus"
def TX13 : u_T := fun k => match k with
  | _ => ("LetterForms$Minus", "of", "LLetterForms$Sign;", true)
def tyX13 : Nat → FieldType := fun k => match k with
  | _ => .object "LetterForms$Sign"
abbrev wsX130 : List Cond := u_ws RX13 TX13 1
theorem nmX13 : ∀ a, a < 1 → ∀ b, b < 1 → a ≠ b → (TX13 a).2.1 ≠ (TX13 b).2.1 := by decide +kernel
theorem tyX13_ok : ∀ k, k < 1 → parseFieldDescriptor (TX13 k).2.2.1 = some (tyX13 k) := by decide +kernel
abbrev cX13_init : ByteArray := prog_8_method_1_code
def yX13_init : MethodName := ⟨RX13, "<init>", "(LLetterForms$Sign;)V"⟩
def dkwX13_init_0 : List UInt8 := [42, 183, 0, 1, 42, 43, 181, 0, 7, 177]
abbrev dktX13_init_0 : List UInt8 := dkwX13_init_0 ++ []
theorem dksX13_init_0 : cX13_init.data.toList.drop 0 = dktX13_init_0 := by decide +kernel
theorem dX13_init_0 : decode cX13_init 0 = .ok (.aload_n 0, 1) := dk_42 (dk_at dksX13_init_0 0 rfl rfl)
theorem dX13_init_1 : decode cX13_init 1 = .ok (.invokespecial 1, 3) := dk_183 0 1 (dk_at dksX13_init_0 1 rfl rfl)
theorem dX13_init_4 : decode cX13_init 4 = .ok (.aload_n 0, 1) := dk_42 (dk_at dksX13_init_0 4 rfl rfl)
theorem dX13_init_5 : decode cX13_init 5 = .ok (.aload_n 1, 1) := dk_43 (dk_at dksX13_init_0 5 rfl rfl)
theorem dX13_init_6 : decode cX13_init 6 = .ok (.putfield 7, 3) := dk_181 0 7 (dk_at dksX13_init_0 6 rfl rfl)
theorem dX13_init_9 : decode cX13_init 9 = .ok (.return_, 1) := dk_177 (dk_at dksX13_init_0 9 rfl rfl)
abbrev cX13_value : ByteArray := prog_8_method_3_code
def yX13_value : MethodName := ⟨RX13, "value", "(LLetterForms;LLetterForms$Form;I)V"⟩
def dkwX13_value_2 : List UInt8 := [180, 0, 33, 21, 5, 46, 116, 133, 182, 0, 47, 79, 132, 5, 1, 167, 255, 215, 177]
abbrev dktX13_value_2 : List UInt8 := dkwX13_value_2 ++ []
def dkwX13_value_1 : List UInt8 := [25, 4, 180, 0, 27, 163, 0, 37, 25, 4, 180, 0, 33, 21, 5, 43, 180, 0, 37, 180, 0, 41, 25, 4]
abbrev dktX13_value_1 : List UInt8 := dkwX13_value_1 ++ dktX13_value_2
def dkwX13_value_0 : List UInt8 := [42, 180, 0, 7, 43, 44, 29, 182, 0, 17, 43, 180, 0, 21, 29, 50, 58, 4, 3, 54, 5, 21, 5]
abbrev dktX13_value_0 : List UInt8 := dkwX13_value_0 ++ dktX13_value_1
theorem dksX13_value_0 : cX13_value.data.toList.drop 0 = dktX13_value_0 := by decide +kernel
theorem dksX13_value_1 : cX13_value.data.toList.drop 23 = dktX13_value_1 := dk_seg dksX13_value_0 23 rfl rfl
theorem dksX13_value_2 : cX13_value.data.toList.drop 47 = dktX13_value_2 := dk_seg dksX13_value_1 24 rfl rfl
theorem dX13_value_0 : decode cX13_value 0 = .ok (.aload_n 0, 1) := dk_42 (dk_at dksX13_value_0 0 rfl rfl)
theorem dX13_value_1 : decode cX13_value 1 = .ok (.getfield 7, 3) := dk_180 0 7 (dk_at dksX13_value_0 1 rfl rfl)
theorem dX13_value_4 : decode cX13_value 4 = .ok (.aload_n 1, 1) := dk_43 (dk_at dksX13_value_0 4 rfl rfl)
theorem dX13_value_5 : decode cX13_value 5 = .ok (.aload_n 2, 1) := dk_44 (dk_at dksX13_value_0 5 rfl rfl)
theorem dX13_value_6 : decode cX13_value 6 = .ok (.iload_n 3, 1) := dk_29 (dk_at dksX13_value_0 6 rfl rfl)
theorem dX13_value_7 : decode cX13_value 7 = .ok (.invokevirtual 17, 3) := dk_182 0 17 (dk_at dksX13_value_0 7 rfl rfl)
theorem dX13_value_10 : decode cX13_value 10 = .ok (.aload_n 1, 1) := dk_43 (dk_at dksX13_value_0 10 rfl rfl)
theorem dX13_value_11 : decode cX13_value 11 = .ok (.getfield 21, 3) := dk_180 0 21 (dk_at dksX13_value_0 11 rfl rfl)
theorem dX13_value_14 : decode cX13_value 14 = .ok (.iload_n 3, 1) := dk_29 (dk_at dksX13_value_0 14 rfl rfl)
theorem dX13_value_15 : decode cX13_value 15 = .ok (.aaload, 1) := dk_50 (dk_at dksX13_value_0 15 rfl rfl)
theorem dX13_value_16 : decode cX13_value 16 = .ok (.astore 4, 2) := dk_58 4 (dk_at dksX13_value_0 16 rfl rfl)
theorem dX13_value_18 : decode cX13_value 18 = .ok (.iconst 0, 1) := dk_3 (dk_at dksX13_value_0 18 rfl rfl)
theorem dX13_value_19 : decode cX13_value 19 = .ok (.istore 5, 2) := dk_54 5 (dk_at dksX13_value_0 19 rfl rfl)
theorem dX13_value_21 : decode cX13_value 21 = .ok (.iload 5, 2) := dk_21 5 (dk_at dksX13_value_0 21 rfl rfl)
theorem dX13_value_23 : decode cX13_value 23 = .ok (.aload 4, 2) := dk_25 4 (dk_at dksX13_value_1 0 rfl rfl)
theorem dX13_value_25 : decode cX13_value 25 = .ok (.getfield 27, 3) := dk_180 0 27 (dk_at dksX13_value_1 2 rfl rfl)
theorem dX13_value_28 : decode cX13_value 28 = .ok (.if_icmp .gt 37, 3) := dk_163 0 37 (dk_at dksX13_value_1 5 rfl rfl)
theorem dX13_value_31 : decode cX13_value 31 = .ok (.aload 4, 2) := dk_25 4 (dk_at dksX13_value_1 8 rfl rfl)
theorem dX13_value_33 : decode cX13_value 33 = .ok (.getfield 33, 3) := dk_180 0 33 (dk_at dksX13_value_1 10 rfl rfl)
theorem dX13_value_36 : decode cX13_value 36 = .ok (.iload 5, 2) := dk_21 5 (dk_at dksX13_value_1 13 rfl rfl)
theorem dX13_value_38 : decode cX13_value 38 = .ok (.aload_n 1, 1) := dk_43 (dk_at dksX13_value_1 15 rfl rfl)
theorem dX13_value_39 : decode cX13_value 39 = .ok (.getfield 37, 3) := dk_180 0 37 (dk_at dksX13_value_1 16 rfl rfl)
theorem dX13_value_42 : decode cX13_value 42 = .ok (.getfield 41, 3) := dk_180 0 41 (dk_at dksX13_value_1 19 rfl rfl)
theorem dX13_value_45 : decode cX13_value 45 = .ok (.aload 4, 2) := dk_25 4 (dk_at dksX13_value_1 22 rfl rfl)
theorem dX13_value_47 : decode cX13_value 47 = .ok (.getfield 33, 3) := dk_180 0 33 (dk_at dksX13_value_2 0 rfl rfl)
theorem dX13_value_50 : decode cX13_value 50 = .ok (.iload 5, 2) := dk_21 5 (dk_at dksX13_value_2 3 rfl rfl)
theorem dX13_value_52 : decode cX13_value 52 = .ok (.iaload, 1) := dk_46 (dk_at dksX13_value_2 5 rfl rfl)
theorem dX13_value_53 : decode cX13_value 53 = .ok (.ineg, 1) := dk_116 (dk_at dksX13_value_2 6 rfl rfl)
theorem dX13_value_54 : decode cX13_value 54 = .ok (.i2l, 1) := dk_133 (dk_at dksX13_value_2 7 rfl rfl)
theorem dX13_value_55 : decode cX13_value 55 = .ok (.invokevirtual 47, 3) := dk_182 0 47 (dk_at dksX13_value_2 8 rfl rfl)
theorem dX13_value_58 : decode cX13_value 58 = .ok (.iastore, 1) := dk_79 (dk_at dksX13_value_2 11 rfl rfl)
theorem dX13_value_59 : decode cX13_value 59 = .ok (.iinc 5 1, 3) := dk_132 5 1 (dk_at dksX13_value_2 12 rfl rfl)
theorem dX13_value_62 : decode cX13_value 62 = .ok (.goto (-41), 3) := dk_167 255 215 (dk_at dksX13_value_2 15 rfl rfl)
theorem dX13_value_65 : decode cX13_value 65 = .ok (.return_, 1) := dk_177 (dk_at dksX13_value_2 18 rfl rfl)
abbrev cX13_rank : ByteArray := prog_8_method_2_code
def yX13_rank : MethodName := ⟨RX13, "rank", "(Z)I"⟩
def dkwX13_rank_0 : List UInt8 := [42, 180, 0, 7, 27, 182, 0, 13, 172]
abbrev dktX13_rank_0 : List UInt8 := dkwX13_rank_0 ++ []
theorem dksX13_rank_0 : cX13_rank.data.toList.drop 0 = dktX13_rank_0 := by decide +kernel
theorem dX13_rank_0 : decode cX13_rank 0 = .ok (.aload_n 0, 1) := dk_42 (dk_at dksX13_rank_0 0 rfl rfl)
theorem dX13_rank_1 : decode cX13_rank 1 = .ok (.getfield 7, 3) := dk_180 0 7 (dk_at dksX13_rank_0 1 rfl rfl)
theorem dX13_rank_4 : decode cX13_rank 4 = .ok (.iload_n 1, 1) := dk_27 (dk_at dksX13_rank_0 4 rfl rfl)
theorem dX13_rank_5 : decode cX13_rank 5 = .ok (.invokevirtual 13, 3) := dk_182 0 13 (dk_at dksX13_rank_0 5 rfl rfl)
theorem dX13_rank_8 : decode cX13_rank 8 = .ok (.ireturn, 1) := dk_172 (dk_at dksX13_rank_0 8 rfl rfl)
theorem q140 : (Jvm.Cond.initialized "LetterForms$Minus") ∈ lw_all := lw_g (lw_at lw_m1 21 rfl) rfl
theorem q303 : (Jvm.Cond.fieldLinkNest "LetterForms$Minus" (33 : Nat) "LetterForms$Form" "a" "[I" "LetterForms") ∈ lw_tbl := lw_at lw_m1 184 rfl
theorem q308 : (Jvm.Cond.fieldLinkNest "LetterForms$Minus" (27 : Nat) "LetterForms$Form" "degree" "I" "LetterForms") ∈ lw_tbl := lw_at lw_m1 189 rfl
theorem q319 : (Jvm.Cond.fieldLinkNest "LetterForms$Minus" (41 : Nat) "LetterForms$Desk" "f" "LLetterForms$Field;" "LetterForms") ∈ lw_tbl := lw_at lw_m1 200 rfl
theorem q424 : (Jvm.Cond.fieldLinkNest "LetterForms$Minus" (37 : Nat) "LetterForms" "desk" "LLetterForms$Desk;" "LetterForms") ∈ lw_tbl := lw_at lw_m2 65 rfl
theorem q431 : (Jvm.Cond.fieldLinkNest "LetterForms$Minus" (21 : Nat) "LetterForms" "shelves" "[LLetterForms$Form;" "LetterForms") ∈ lw_tbl := lw_at lw_m2 72 rfl
theorem q702 : (Jvm.Cond.instantiable "LetterForms$Minus" (1 : Nat)) ∈ lw_all := lw_g (lw_at lw_m3 103 rfl) rfl
theorem q704 : (Jvm.Cond.instanceMethod ({ cls := "LetterForms$Minus", name := "<init>", desc := "(LLetterForms$Sign;)V" } : Jvm.MethodName)) ∈ lw_all := lw_g (lw_at lw_m3 105 rfl) rfl
theorem q705 : (Jvm.Cond.code ({ cls := "LetterForms$Minus", name := "<init>", desc := "(LLetterForms$Sign;)V" } : Jvm.MethodName) prog_8_method_1_code (2 : Nat) (Option.none : Option Jvm.ClassFile.FieldType)) ∈ lw_all := lw_g (lw_at lw_m3 106 rfl) rfl
theorem q706 : (Jvm.Cond.methodLinkNest "LetterForms$Minus" (1 : Nat) ({ cls := "LetterForms$Sign", name := "<init>", desc := "()V" } : Jvm.MethodName) "LetterForms") ∈ lw_tbl := lw_at lw_m3 107 rfl
theorem q707 : (Jvm.Cond.fieldLink "LetterForms$Minus" (7 : Nat) "LetterForms$Minus" "of" "LLetterForms$Sign;") ∈ lw_all := lw_g (lw_at lw_m3 108 rfl) rfl
theorem q708 : (Jvm.Cond.laysFinal "LetterForms$Minus" "LetterForms$Minus" "of" "LLetterForms$Sign;") ∈ lw_all := lw_g (lw_at lw_m3 109 rfl) rfl
theorem q709 : (Jvm.Cond.soleField "LetterForms$Minus" "of") ∈ lw_all := lw_g (lw_at lw_m3 110 rfl) rfl
theorem q710 : (Jvm.Cond.superclass "LetterForms$Minus" "LetterForms$Sign") ∈ lw_all := lw_g (lw_at lw_m3 111 rfl) rfl
theorem q904 : (Jvm.Cond.selects "LetterForms$Minus" ({ cls := "LetterForms$Sign", name := "value", desc := "(LLetterForms;LLetterForms$Form;I)V" } : Jvm.MethodName) ({ cls := "LetterForms$Minus", name := "value", desc := "(LLetterForms;LLetterForms$Form;I)V" } : Jvm.MethodName)) ∈ lw_all := lw_g (lw_at lw_m4 65 rfl) rfl
theorem q905 : (Jvm.Cond.instanceMethod ({ cls := "LetterForms$Minus", name := "value", desc := "(LLetterForms;LLetterForms$Form;I)V" } : Jvm.MethodName)) ∈ lw_all := lw_g (lw_at lw_m4 66 rfl) rfl
theorem q906 : (Jvm.Cond.code ({ cls := "LetterForms$Minus", name := "value", desc := "(LLetterForms;LLetterForms$Form;I)V" } : Jvm.MethodName) prog_8_method_3_code (6 : Nat) (Option.none : Option Jvm.ClassFile.FieldType)) ∈ lw_all := lw_g (lw_at lw_m4 67 rfl) rfl
theorem q907 : (Jvm.Cond.methodLink "LetterForms$Minus" (17 : Nat) ({ cls := "LetterForms$Sign", name := "value", desc := "(LLetterForms;LLetterForms$Form;I)V" } : Jvm.MethodName)) ∈ lw_all := lw_g (lw_at lw_m4 68 rfl) rfl
theorem q951 : (Jvm.Cond.methodLink "LetterForms$Minus" (47 : Nat) ({ cls := "LetterForms$Field", name := "of", desc := "(J)I" } : Jvm.MethodName)) ∈ lw_all := lw_g (lw_at lw_m4 112 rfl) rfl
theorem q972 : (Jvm.Cond.selects "LetterForms$Minus" ({ cls := "LetterForms$Sign", name := "rank", desc := "(Z)I" } : Jvm.MethodName) ({ cls := "LetterForms$Minus", name := "rank", desc := "(Z)I" } : Jvm.MethodName)) ∈ lw_all := lw_g (lw_at lw_m4 133 rfl) rfl
theorem q973 : (Jvm.Cond.instanceMethod ({ cls := "LetterForms$Minus", name := "rank", desc := "(Z)I" } : Jvm.MethodName)) ∈ lw_all := lw_g (lw_at lw_m4 134 rfl) rfl
theorem q974 : (Jvm.Cond.code ({ cls := "LetterForms$Minus", name := "rank", desc := "(Z)I" } : Jvm.MethodName) prog_8_method_2_code (2 : Nat) (Option.some Jvm.ClassFile.FieldType.int)) ∈ lw_all := lw_g (lw_at lw_m4 135 rfl) rfl
theorem q975 : (Jvm.Cond.methodLink "LetterForms$Minus" (13 : Nat) ({ cls := "LetterForms$Sign", name := "rank", desc := "(Z)I" } : Jvm.MethodName)) ∈ lw_all := lw_g (lw_at lw_m4 136 rfl) rfl
theorem q1996 : (Jvm.Cond.castable "LetterForms$Minus" "java/lang/Object") ∈ lw_tbl := lw_at lw_m8 197 rfl
theorem q2007 : (Jvm.Cond.castable "LetterForms$Minus" "LetterForms$Sign") ∈ lw_tbl := lw_at lw_m8 208 rfl
theorem in_X13 : ∀ w ∈ wsX130, w ∈ lw_all := lw_in wsX130 [708] (by decide +kernel) (by decide +kernel)
/-! LetterForms$Pair -/
set_option maxRecDepth 100000
def RX14 : String := "LetterForms$Pair"
abbrev cX14_init : ByteArray := prog_10_method_1_code
def yX14_init : MethodName := ⟨RX14, "<init>", "(LLetterForms$Sign;LLetterForms$Sign;)V"⟩
def dkwX14_init_0 : List UInt8 := [42, 183, 0, 3, 42, 43, 181, 0, 9, 42, 44, 181, 0, 15, 177]
abbrev dktX14_init_0 : List UInt8 := dkwX14_init_0 ++ []
theorem dksX14_init_0 : cX14_init.data.toList.drop 0 = dktX14_init_0 := by decide +kernel
theorem dX14_init_0 : decode cX14_init 0 = .ok (.aload_n 0, 1) := dk_42 (dk_at dksX14_init_0 0 rfl rfl)
theorem dX14_init_1 : decode cX14_init 1 = .ok (.invokespecial 3, 3) := dk_183 0 3 (dk_at dksX14_init_0 1 rfl rfl)
theorem dX14_init_4 : decode cX14_init 4 = .ok (.aload_n 0, 1) := dk_42 (dk_at dksX14_init_0 4 rfl rfl)
theorem dX14_init_5 : decode cX14_init 5 = .ok (.aload_n 1, 1) := dk_43 (dk_at dksX14_init_0 5 rfl rfl)
theorem dX14_init_6 : decode cX14_init 6 = .ok (.putfield 9, 3) := dk_181 0 9 (dk_at dksX14_init_0 6 rfl rfl)
theorem dX14_init_9 : decode cX14_init 9 = .ok (.aload_n 0, 1) := dk_42 (dk_at dksX14_init_0 9 rfl rfl)
theorem dX14_init_10 : decode cX14_init 10 = .ok (.aload_n 2, 1) := dk_44 (dk_at dksX14_init_0 10 rfl rfl)
theorem dX14_init_11 : decode cX14_init 11 = .ok (.putfield 15, 3) := dk_181 0 15 (dk_at dksX14_init_0 11 rfl rfl)
theorem dX14_init_14 : decode cX14_init 14 = .ok (.return_, 1) := dk_177 (dk_at dksX14_init_0 14 rfl rfl)
abbrev cX14_value : ByteArray := prog_10_method_5_code
def yX14_value : MethodName := ⟨RX14, "value", "(LLetterForms;LLetterForms$Form;I)V"⟩
def dkwX14_value_3 : List UInt8 := [180, 0, 44, 25, 4, 25, 5, 182, 0, 48, 177]
abbrev dktX14_value_3 : List UInt8 := dkwX14_value_3 ++ []
def dkwX14_value_2 : List UInt8 := [153, 0, 11, 25, 5, 182, 0, 34, 154, 0, 12, 25, 4, 2, 182, 0, 40, 167, 0, 15, 42, 43]
abbrev dktX14_value_2 : List UInt8 := dkwX14_value_2 ++ dktX14_value_3
def dkwX14_value_1 : List UInt8 := [180, 0, 30, 29, 50, 58, 4, 43, 180, 0, 30, 29, 4, 96, 50, 58, 5, 25, 4, 182, 0, 34]
abbrev dktX14_value_1 : List UInt8 := dkwX14_value_1 ++ dktX14_value_2
def dkwX14_value_0 : List UInt8 := [42, 180, 0, 9, 43, 44, 29, 182, 0, 26, 42, 180, 0, 15, 43, 44, 29, 4, 96, 182, 0, 26, 43]
abbrev dktX14_value_0 : List UInt8 := dkwX14_value_0 ++ dktX14_value_1
theorem dksX14_value_0 : cX14_value.data.toList.drop 0 = dktX14_value_0 := by decide +kernel
theorem dksX14_value_1 : cX14_value.data.toList.drop 23 = dktX14_value_1 := dk_seg dksX14_value_0 23 rfl rfl
theorem dksX14_value_2 : cX14_value.data.toList.drop 45 = dktX14_value_2 := dk_seg dksX14_value_1 22 rfl rfl
theorem dksX14_value_3 : cX14_value.data.toList.drop 67 = dktX14_value_3 := dk_seg dksX14_value_2 22 rfl rfl
theorem dX14_value_0 : decode cX14_value 0 = .ok (.aload_n 0, 1) := dk_42 (dk_at dksX14_value_0 0 rfl rfl)
theorem dX14_value_1 : decode cX14_value 1 = .ok (.getfield 9, 3) := dk_180 0 9 (dk_at dksX14_value_0 1 rfl rfl)
theorem dX14_value_4 : decode cX14_value 4 = .ok (.aload_n 1, 1) := dk_43 (dk_at dksX14_value_0 4 rfl rfl)
theorem dX14_value_5 : decode cX14_value 5 = .ok (.aload_n 2, 1) := dk_44 (dk_at dksX14_value_0 5 rfl rfl)
theorem dX14_value_6 : decode cX14_value 6 = .ok (.iload_n 3, 1) := dk_29 (dk_at dksX14_value_0 6 rfl rfl)
theorem dX14_value_7 : decode cX14_value 7 = .ok (.invokevirtual 26, 3) := dk_182 0 26 (dk_at dksX14_value_0 7 rfl rfl)
theorem dX14_value_10 : decode cX14_value 10 = .ok (.aload_n 0, 1) := dk_42 (dk_at dksX14_value_0 10 rfl rfl)
theorem dX14_value_11 : decode cX14_value 11 = .ok (.getfield 15, 3) := dk_180 0 15 (dk_at dksX14_value_0 11 rfl rfl)
theorem dX14_value_14 : decode cX14_value 14 = .ok (.aload_n 1, 1) := dk_43 (dk_at dksX14_value_0 14 rfl rfl)
theorem dX14_value_15 : decode cX14_value 15 = .ok (.aload_n 2, 1) := dk_44 (dk_at dksX14_value_0 15 rfl rfl)
theorem dX14_value_16 : decode cX14_value 16 = .ok (.iload_n 3, 1) := dk_29 (dk_at dksX14_value_0 16 rfl rfl)
theorem dX14_value_17 : decode cX14_value 17 = .ok (.iconst 1, 1) := dk_4 (dk_at dksX14_value_0 17 rfl rfl)
theorem dX14_value_18 : decode cX14_value 18 = .ok (.iadd, 1) := dk_96 (dk_at dksX14_value_0 18 rfl rfl)
theorem dX14_value_19 : decode cX14_value 19 = .ok (.invokevirtual 26, 3) := dk_182 0 26 (dk_at dksX14_value_0 19 rfl rfl)
theorem dX14_value_22 : decode cX14_value 22 = .ok (.aload_n 1, 1) := dk_43 (dk_at dksX14_value_0 22 rfl rfl)
theorem dX14_value_23 : decode cX14_value 23 = .ok (.getfield 30, 3) := dk_180 0 30 (dk_at dksX14_value_1 0 rfl rfl)
theorem dX14_value_26 : decode cX14_value 26 = .ok (.iload_n 3, 1) := dk_29 (dk_at dksX14_value_1 3 rfl rfl)
theorem dX14_value_27 : decode cX14_value 27 = .ok (.aaload, 1) := dk_50 (dk_at dksX14_value_1 4 rfl rfl)
theorem dX14_value_28 : decode cX14_value 28 = .ok (.astore 4, 2) := dk_58 4 (dk_at dksX14_value_1 5 rfl rfl)
theorem dX14_value_30 : decode cX14_value 30 = .ok (.aload_n 1, 1) := dk_43 (dk_at dksX14_value_1 7 rfl rfl)
theorem dX14_value_31 : decode cX14_value 31 = .ok (.getfield 30, 3) := dk_180 0 30 (dk_at dksX14_value_1 8 rfl rfl)
theorem dX14_value_34 : decode cX14_value 34 = .ok (.iload_n 3, 1) := dk_29 (dk_at dksX14_value_1 11 rfl rfl)
theorem dX14_value_35 : decode cX14_value 35 = .ok (.iconst 1, 1) := dk_4 (dk_at dksX14_value_1 12 rfl rfl)
theorem dX14_value_36 : decode cX14_value 36 = .ok (.iadd, 1) := dk_96 (dk_at dksX14_value_1 13 rfl rfl)
theorem dX14_value_37 : decode cX14_value 37 = .ok (.aaload, 1) := dk_50 (dk_at dksX14_value_1 14 rfl rfl)
theorem dX14_value_38 : decode cX14_value 38 = .ok (.astore 5, 2) := dk_58 5 (dk_at dksX14_value_1 15 rfl rfl)
theorem dX14_value_40 : decode cX14_value 40 = .ok (.aload 4, 2) := dk_25 4 (dk_at dksX14_value_1 17 rfl rfl)
theorem dX14_value_42 : decode cX14_value 42 = .ok (.invokevirtual 34, 3) := dk_182 0 34 (dk_at dksX14_value_1 19 rfl rfl)
theorem dX14_value_45 : decode cX14_value 45 = .ok (.ifCond .eq 11, 3) := dk_153 0 11 (dk_at dksX14_value_2 0 rfl rfl)
theorem dX14_value_48 : decode cX14_value 48 = .ok (.aload 5, 2) := dk_25 5 (dk_at dksX14_value_2 3 rfl rfl)
theorem dX14_value_50 : decode cX14_value 50 = .ok (.invokevirtual 34, 3) := dk_182 0 34 (dk_at dksX14_value_2 5 rfl rfl)
theorem dX14_value_53 : decode cX14_value 53 = .ok (.ifCond .ne 12, 3) := dk_154 0 12 (dk_at dksX14_value_2 8 rfl rfl)
theorem dX14_value_56 : decode cX14_value 56 = .ok (.aload 4, 2) := dk_25 4 (dk_at dksX14_value_2 11 rfl rfl)
theorem dX14_value_58 : decode cX14_value 58 = .ok (.iconst (-1), 1) := dk_2 (dk_at dksX14_value_2 13 rfl rfl)
theorem dX14_value_59 : decode cX14_value 59 = .ok (.invokevirtual 40, 3) := dk_182 0 40 (dk_at dksX14_value_2 14 rfl rfl)
theorem dX14_value_62 : decode cX14_value 62 = .ok (.goto 15, 3) := dk_167 0 15 (dk_at dksX14_value_2 17 rfl rfl)
theorem dX14_value_65 : decode cX14_value 65 = .ok (.aload_n 0, 1) := dk_42 (dk_at dksX14_value_2 20 rfl rfl)
theorem dX14_value_66 : decode cX14_value 66 = .ok (.aload_n 1, 1) := dk_43 (dk_at dksX14_value_2 21 rfl rfl)
theorem dX14_value_67 : decode cX14_value 67 = .ok (.getfield 44, 3) := dk_180 0 44 (dk_at dksX14_value_3 0 rfl rfl)
theorem dX14_value_70 : decode cX14_value 70 = .ok (.aload 4, 2) := dk_25 4 (dk_at dksX14_value_3 3 rfl rfl)
theorem dX14_value_72 : decode cX14_value 72 = .ok (.aload 5, 2) := dk_25 5 (dk_at dksX14_value_3 5 rfl rfl)
theorem dX14_value_74 : decode cX14_value 74 = .ok (.invokevirtual 48, 3) := dk_182 0 48 (dk_at dksX14_value_3 7 rfl rfl)
theorem dX14_value_77 : decode cX14_value 77 = .ok (.return_, 1) := dk_177 (dk_at dksX14_value_3 10 rfl rfl)
abbrev cX14_rank : ByteArray := prog_10_method_4_code
def yX14_rank : MethodName := ⟨RX14, "rank", "(Z)I"⟩
def dkwX14_rank_1 : List UInt8 := [2, 160, 0, 7, 2, 167, 0, 10, 42, 28, 29, 27, 182, 0, 22, 172]
abbrev dktX14_rank_1 : List UInt8 := dkwX14_rank_1 ++ []
def dkwX14_rank_0 : List UInt8 := [42, 180, 0, 9, 27, 182, 0, 18, 61, 42, 180, 0, 15, 27, 182, 0, 18, 62, 28, 2, 159, 0, 8, 29]
abbrev dktX14_rank_0 : List UInt8 := dkwX14_rank_0 ++ dktX14_rank_1
theorem dksX14_rank_0 : cX14_rank.data.toList.drop 0 = dktX14_rank_0 := by decide +kernel
theorem dksX14_rank_1 : cX14_rank.data.toList.drop 24 = dktX14_rank_1 := dk_seg dksX14_rank_0 24 rfl rfl
theorem dX14_rank_0 : decode cX14_rank 0 = .ok (.aload_n 0, 1) := dk_42 (dk_at dksX14_rank_0 0 rfl rfl)
theorem dX14_rank_1 : decode cX14_rank 1 = .ok (.getfield 9, 3) := dk_180 0 9 (dk_at dksX14_rank_0 1 rfl rfl)
theorem dX14_rank_4 : decode cX14_rank 4 = .ok (.iload_n 1, 1) := dk_27 (dk_at dksX14_rank_0 4 rfl rfl)
theorem dX14_rank_5 : decode cX14_rank 5 = .ok (.invokevirtual 18, 3) := dk_182 0 18 (dk_at dksX14_rank_0 5 rfl rfl)
theorem dX14_rank_8 : decode cX14_rank 8 = .ok (.istore_n 2, 1) := dk_61 (dk_at dksX14_rank_0 8 rfl rfl)
theorem dX14_rank_9 : decode cX14_rank 9 = .ok (.aload_n 0, 1) := dk_42 (dk_at dksX14_rank_0 9 rfl rfl)
theorem dX14_rank_10 : decode cX14_rank 10 = .ok (.getfield 15, 3) := dk_180 0 15 (dk_at dksX14_rank_0 10 rfl rfl)
theorem dX14_rank_13 : decode cX14_rank 13 = .ok (.iload_n 1, 1) := dk_27 (dk_at dksX14_rank_0 13 rfl rfl)
theorem dX14_rank_14 : decode cX14_rank 14 = .ok (.invokevirtual 18, 3) := dk_182 0 18 (dk_at dksX14_rank_0 14 rfl rfl)
theorem dX14_rank_17 : decode cX14_rank 17 = .ok (.istore_n 3, 1) := dk_62 (dk_at dksX14_rank_0 17 rfl rfl)
theorem dX14_rank_18 : decode cX14_rank 18 = .ok (.iload_n 2, 1) := dk_28 (dk_at dksX14_rank_0 18 rfl rfl)
theorem dX14_rank_19 : decode cX14_rank 19 = .ok (.iconst (-1), 1) := dk_2 (dk_at dksX14_rank_0 19 rfl rfl)
theorem dX14_rank_20 : decode cX14_rank 20 = .ok (.if_icmp .eq 8, 3) := dk_159 0 8 (dk_at dksX14_rank_0 20 rfl rfl)
theorem dX14_rank_23 : decode cX14_rank 23 = .ok (.iload_n 3, 1) := dk_29 (dk_at dksX14_rank_0 23 rfl rfl)
theorem dX14_rank_24 : decode cX14_rank 24 = .ok (.iconst (-1), 1) := dk_2 (dk_at dksX14_rank_1 0 rfl rfl)
theorem dX14_rank_25 : decode cX14_rank 25 = .ok (.if_icmp .ne 7, 3) := dk_160 0 7 (dk_at dksX14_rank_1 1 rfl rfl)
theorem dX14_rank_28 : decode cX14_rank 28 = .ok (.iconst (-1), 1) := dk_2 (dk_at dksX14_rank_1 4 rfl rfl)
theorem dX14_rank_29 : decode cX14_rank 29 = .ok (.goto 10, 3) := dk_167 0 10 (dk_at dksX14_rank_1 5 rfl rfl)
theorem dX14_rank_32 : decode cX14_rank 32 = .ok (.aload_n 0, 1) := dk_42 (dk_at dksX14_rank_1 8 rfl rfl)
theorem dX14_rank_33 : decode cX14_rank 33 = .ok (.iload_n 2, 1) := dk_28 (dk_at dksX14_rank_1 9 rfl rfl)
theorem dX14_rank_34 : decode cX14_rank 34 = .ok (.iload_n 3, 1) := dk_29 (dk_at dksX14_rank_1 10 rfl rfl)
theorem dX14_rank_35 : decode cX14_rank 35 = .ok (.iload_n 1, 1) := dk_27 (dk_at dksX14_rank_1 11 rfl rfl)
theorem dX14_rank_36 : decode cX14_rank 36 = .ok (.invokevirtual 22, 3) := dk_182 0 22 (dk_at dksX14_rank_1 12 rfl rfl)
theorem dX14_rank_39 : decode cX14_rank 39 = .ok (.ireturn, 1) := dk_172 (dk_at dksX14_rank_1 15 rfl rfl)
theorem q141 : (Jvm.Cond.initialized "LetterForms$Pair") ∈ lw_all := lw_g (lw_at lw_m1 22 rfl) rfl
theorem q425 : (Jvm.Cond.fieldLinkNest "LetterForms$Pair" (44 : Nat) "LetterForms" "desk" "LLetterForms$Desk;" "LetterForms") ∈ lw_tbl := lw_at lw_m2 66 rfl
theorem q432 : (Jvm.Cond.fieldLinkNest "LetterForms$Pair" (30 : Nat) "LetterForms" "shelves" "[LLetterForms$Form;" "LetterForms") ∈ lw_tbl := lw_at lw_m2 73 rfl
theorem q725 : (Jvm.Cond.instanceMethod ({ cls := "LetterForms$Pair", name := "<init>", desc := "(LLetterForms$Sign;LLetterForms$Sign;)V" } : Jvm.MethodName)) ∈ lw_all := lw_g (lw_at lw_m3 126 rfl) rfl
theorem q726 : (Jvm.Cond.code ({ cls := "LetterForms$Pair", name := "<init>", desc := "(LLetterForms$Sign;LLetterForms$Sign;)V" } : Jvm.MethodName) prog_10_method_1_code (3 : Nat) (Option.none : Option Jvm.ClassFile.FieldType)) ∈ lw_all := lw_g (lw_at lw_m3 127 rfl) rfl
theorem q727 : (Jvm.Cond.methodLinkNest "LetterForms$Pair" (3 : Nat) ({ cls := "LetterForms$Sign", name := "<init>", desc := "()V" } : Jvm.MethodName) "LetterForms") ∈ lw_tbl := lw_at lw_m3 128 rfl
theorem q729 : (Jvm.Cond.fieldLink "LetterForms$Pair" (9 : Nat) "LetterForms$Pair" "first" "LLetterForms$Sign;") ∈ lw_all := lw_g (lw_at lw_m3 130 rfl) rfl
theorem q730 : (Jvm.Cond.fieldLink "LetterForms$Pair" (15 : Nat) "LetterForms$Pair" "second" "LLetterForms$Sign;") ∈ lw_all := lw_g (lw_at lw_m3 131 rfl) rfl
theorem q734 : (Jvm.Cond.soleField "LetterForms$Pair" "first") ∈ lw_all := lw_g (lw_at lw_m3 135 rfl) rfl
theorem q736 : (Jvm.Cond.soleField "LetterForms$Pair" "second") ∈ lw_all := lw_g (lw_at lw_m3 137 rfl) rfl
theorem q908 : (Jvm.Cond.instanceMethod ({ cls := "LetterForms$Pair", name := "value", desc := "(LLetterForms;LLetterForms$Form;I)V" } : Jvm.MethodName)) ∈ lw_all := lw_g (lw_at lw_m4 69 rfl) rfl
theorem q909 : (Jvm.Cond.code ({ cls := "LetterForms$Pair", name := "value", desc := "(LLetterForms;LLetterForms$Form;I)V" } : Jvm.MethodName) prog_10_method_5_code (6 : Nat) (Option.none : Option Jvm.ClassFile.FieldType)) ∈ lw_all := lw_g (lw_at lw_m4 70 rfl) rfl
theorem q910 : (Jvm.Cond.methodLink "LetterForms$Pair" (26 : Nat) ({ cls := "LetterForms$Sign", name := "value", desc := "(LLetterForms;LLetterForms$Form;I)V" } : Jvm.MethodName)) ∈ lw_all := lw_g (lw_at lw_m4 71 rfl) rfl
theorem q911 : (Jvm.Cond.methodLink "LetterForms$Pair" (34 : Nat) ({ cls := "LetterForms$Form", name := "isValue", desc := "()Z" } : Jvm.MethodName)) ∈ lw_all := lw_g (lw_at lw_m4 72 rfl) rfl
theorem q915 : (Jvm.Cond.methodLink "LetterForms$Pair" (40 : Nat) ({ cls := "LetterForms$Form", name := "nought", desc := "(I)V" } : Jvm.MethodName)) ∈ lw_all := lw_g (lw_at lw_m4 76 rfl) rfl
theorem q916 : (Jvm.Cond.methodLink "LetterForms$Pair" (48 : Nat) ({ cls := "LetterForms$Pair", name := "joins", desc := "(LLetterForms$Desk;LLetterForms$Form;LLetterForms$Form;)V" } : Jvm.MethodName)) ∈ lw_all := lw_g (lw_at lw_m4 77 rfl) rfl
theorem q917 : (Jvm.Cond.declares ({ cls := "LetterForms$Pair", name := "joins", desc := "(LLetterForms$Desk;LLetterForms$Form;LLetterForms$Form;)V" } : Jvm.MethodName)) ∈ lw_tbl := lw_at lw_m4 78 rfl
theorem q918 : (Jvm.Cond.sameMethod "LetterForms$Pair" "LetterForms$Pair" "joins" "(LLetterForms$Desk;LLetterForms$Form;LLetterForms$Form;)V") ∈ lw_all := lw_g (lw_at lw_m4 79 rfl) rfl
theorem q976 : (Jvm.Cond.instanceMethod ({ cls := "LetterForms$Pair", name := "rank", desc := "(Z)I" } : Jvm.MethodName)) ∈ lw_all := lw_g (lw_at lw_m4 137 rfl) rfl
theorem q977 : (Jvm.Cond.code ({ cls := "LetterForms$Pair", name := "rank", desc := "(Z)I" } : Jvm.MethodName) prog_10_method_4_code (4 : Nat) (Option.some Jvm.ClassFile.FieldType.int)) ∈ lw_all := lw_g (lw_at lw_m4 138 rfl) rfl
theorem q978 : (Jvm.Cond.methodLink "LetterForms$Pair" (18 : Nat) ({ cls := "LetterForms$Sign", name := "rank", desc := "(Z)I" } : Jvm.MethodName)) ∈ lw_all := lw_g (lw_at lw_m4 139 rfl) rfl
theorem q979 : (Jvm.Cond.methodLink "LetterForms$Pair" (22 : Nat) ({ cls := "LetterForms$Pair", name := "both", desc := "(IIZ)I" } : Jvm.MethodName)) ∈ lw_all := lw_g (lw_at lw_m4 140 rfl) rfl
theorem q980 : (Jvm.Cond.declares ({ cls := "LetterForms$Pair", name := "both", desc := "(IIZ)I" } : Jvm.MethodName)) ∈ lw_tbl := lw_at lw_m4 141 rfl
theorem q981 : (Jvm.Cond.sameMethod "LetterForms$Pair" "LetterForms$Pair" "both" "(IIZ)I") ∈ lw_all := lw_g (lw_at lw_m4 142 rfl) rfl
/-! LetterForms$Overlap -/
set_option maxRecDepth 100000
def RX15 : String := "LetterForms$Overlap"
def TX15 : u_T := fun k => match k with
  | 0 => ("LetterForms$Pair", "first", "LLetterForms$Sign;", true)
  | 1 => ("LetterForms$Pair", "second", "LLetterForms$Sign;", true)
  | _ => ("LetterForms$Overlap", "by", "I", true)
def tyX15 : Nat → FieldType := fun k => match k with
  | 0 => .object "LetterForms$Sign"
  | 1 => .object "LetterForms$Sign"
  | _ => .int
abbrev wsX150 : List Cond := u_ws RX15 TX15 3
theorem nmX15 : ∀ a, a < 3 → ∀ b, b < 3 → a ≠ b → (TX15 a).2.1 ≠ (TX15 b).2.1 := by decide +kernel
theorem tyX15_ok : ∀ k, k < 3 → parseFieldDescriptor (TX15 k).2.2.1 = some (tyX15 k) := by decide +kernel
abbrev cX15_init : ByteArray := prog_9_method_1_code
def yX15_init : MethodName := ⟨RX15, "<init>", "(LLetterForms$Sign;LLetterForms$Sign;I)V"⟩
def dkwX15_init_0 : List UInt8 := [42, 43, 44, 183, 0, 1, 42, 29, 181, 0, 7, 177]
abbrev dktX15_init_0 : List UInt8 := dkwX15_init_0 ++ []
theorem dksX15_init_0 : cX15_init.data.toList.drop 0 = dktX15_init_0 := by decide +kernel
theorem dX15_init_0 : decode cX15_init 0 = .ok (.aload_n 0, 1) := dk_42 (dk_at dksX15_init_0 0 rfl rfl)
theorem dX15_init_1 : decode cX15_init 1 = .ok (.aload_n 1, 1) := dk_43 (dk_at dksX15_init_0 1 rfl rfl)
theorem dX15_init_2 : decode cX15_init 2 = .ok (.aload_n 2, 1) := dk_44 (dk_at dksX15_init_0 2 rfl rfl)
theorem dX15_init_3 : decode cX15_init 3 = .ok (.invokespecial 1, 3) := dk_183 0 1 (dk_at dksX15_init_0 3 rfl rfl)
theorem dX15_init_6 : decode cX15_init 6 = .ok (.aload_n 0, 1) := dk_42 (dk_at dksX15_init_0 6 rfl rfl)
theorem dX15_init_7 : decode cX15_init 7 = .ok (.iload_n 3, 1) := dk_29 (dk_at dksX15_init_0 7 rfl rfl)
theorem dX15_init_8 : decode cX15_init 8 = .ok (.putfield 7, 3) := dk_181 0 7 (dk_at dksX15_init_0 8 rfl rfl)
theorem dX15_init_11 : decode cX15_init 11 = .ok (.return_, 1) := dk_177 (dk_at dksX15_init_0 11 rfl rfl)
abbrev cX15_joins : ByteArray := prog_9_method_3_code
def yX15_joins : MethodName := ⟨RX15, "joins", "(LLetterForms$Desk;LLetterForms$Form;LLetterForms$Form;)V"⟩
def dkwX15_joins_0 : List UInt8 := [43, 44, 45, 42, 180, 0, 7, 44, 182, 0, 13, 177]
abbrev dktX15_joins_0 : List UInt8 := dkwX15_joins_0 ++ []
theorem dksX15_joins_0 : cX15_joins.data.toList.drop 0 = dktX15_joins_0 := by decide +kernel
theorem dX15_joins_0 : decode cX15_joins 0 = .ok (.aload_n 1, 1) := dk_43 (dk_at dksX15_joins_0 0 rfl rfl)
theorem dX15_joins_1 : decode cX15_joins 1 = .ok (.aload_n 2, 1) := dk_44 (dk_at dksX15_joins_0 1 rfl rfl)
theorem dX15_joins_2 : decode cX15_joins 2 = .ok (.aload_n 3, 1) := dk_45 (dk_at dksX15_joins_0 2 rfl rfl)
theorem dX15_joins_3 : decode cX15_joins 3 = .ok (.aload_n 0, 1) := dk_42 (dk_at dksX15_joins_0 3 rfl rfl)
theorem dX15_joins_4 : decode cX15_joins 4 = .ok (.getfield 7, 3) := dk_180 0 7 (dk_at dksX15_joins_0 4 rfl rfl)
theorem dX15_joins_7 : decode cX15_joins 7 = .ok (.aload_n 2, 1) := dk_44 (dk_at dksX15_joins_0 7 rfl rfl)
theorem dX15_joins_8 : decode cX15_joins 8 = .ok (.invokevirtual 13, 3) := dk_182 0 13 (dk_at dksX15_joins_0 8 rfl rfl)
theorem dX15_joins_11 : decode cX15_joins 11 = .ok (.return_, 1) := dk_177 (dk_at dksX15_joins_0 11 rfl rfl)
abbrev cX15_both : ByteArray := prog_9_method_2_code
def yX15_both : MethodName := ⟨RX15, "both", "(IIZ)I"⟩
def dkwX15_both_0 : List UInt8 := [27, 28, 96, 29, 153, 0, 10, 42, 180, 0, 7, 167, 0, 4, 3, 96, 172]
abbrev dktX15_both_0 : List UInt8 := dkwX15_both_0 ++ []
theorem dksX15_both_0 : cX15_both.data.toList.drop 0 = dktX15_both_0 := by decide +kernel
theorem dX15_both_0 : decode cX15_both 0 = .ok (.iload_n 1, 1) := dk_27 (dk_at dksX15_both_0 0 rfl rfl)
theorem dX15_both_1 : decode cX15_both 1 = .ok (.iload_n 2, 1) := dk_28 (dk_at dksX15_both_0 1 rfl rfl)
theorem dX15_both_2 : decode cX15_both 2 = .ok (.iadd, 1) := dk_96 (dk_at dksX15_both_0 2 rfl rfl)
theorem dX15_both_3 : decode cX15_both 3 = .ok (.iload_n 3, 1) := dk_29 (dk_at dksX15_both_0 3 rfl rfl)
theorem dX15_both_4 : decode cX15_both 4 = .ok (.ifCond .eq 10, 3) := dk_153 0 10 (dk_at dksX15_both_0 4 rfl rfl)
theorem dX15_both_7 : decode cX15_both 7 = .ok (.aload_n 0, 1) := dk_42 (dk_at dksX15_both_0 7 rfl rfl)
theorem dX15_both_8 : decode cX15_both 8 = .ok (.getfield 7, 3) := dk_180 0 7 (dk_at dksX15_both_0 8 rfl rfl)
theorem dX15_both_11 : decode cX15_both 11 = .ok (.goto 4, 3) := dk_167 0 4 (dk_at dksX15_both_0 11 rfl rfl)
theorem dX15_both_14 : decode cX15_both 14 = .ok (.iconst 0, 1) := dk_3 (dk_at dksX15_both_0 14 rfl rfl)
theorem dX15_both_15 : decode cX15_both 15 = .ok (.iadd, 1) := dk_96 (dk_at dksX15_both_0 15 rfl rfl)
theorem dX15_both_16 : decode cX15_both 16 = .ok (.ireturn, 1) := dk_172 (dk_at dksX15_both_0 16 rfl rfl)
theorem q142 : (Jvm.Cond.initialized "LetterForms$Overlap") ∈ lw_all := lw_g (lw_at lw_m1 23 rfl) rfl
theorem q720 : (Jvm.Cond.instantiable "LetterForms$Overlap" (3 : Nat)) ∈ lw_all := lw_g (lw_at lw_m3 121 rfl) rfl
theorem q722 : (Jvm.Cond.instanceMethod ({ cls := "LetterForms$Overlap", name := "<init>", desc := "(LLetterForms$Sign;LLetterForms$Sign;I)V" } : Jvm.MethodName)) ∈ lw_all := lw_g (lw_at lw_m3 123 rfl) rfl
theorem q723 : (Jvm.Cond.code ({ cls := "LetterForms$Overlap", name := "<init>", desc := "(LLetterForms$Sign;LLetterForms$Sign;I)V" } : Jvm.MethodName) prog_9_method_1_code (4 : Nat) (Option.none : Option Jvm.ClassFile.FieldType)) ∈ lw_all := lw_g (lw_at lw_m3 124 rfl) rfl
theorem q724 : (Jvm.Cond.methodLink "LetterForms$Overlap" (1 : Nat) ({ cls := "LetterForms$Pair", name := "<init>", desc := "(LLetterForms$Sign;LLetterForms$Sign;)V" } : Jvm.MethodName)) ∈ lw_all := lw_g (lw_at lw_m3 125 rfl) rfl
theorem q728 : (Jvm.Cond.fieldLink "LetterForms$Overlap" (7 : Nat) "LetterForms$Overlap" "by" "I") ∈ lw_all := lw_g (lw_at lw_m3 129 rfl) rfl
theorem q731 : (Jvm.Cond.laysFinal "LetterForms$Overlap" "LetterForms$Overlap" "by" "I") ∈ lw_all := lw_g (lw_at lw_m3 132 rfl) rfl
theorem q732 : (Jvm.Cond.soleField "LetterForms$Overlap" "by") ∈ lw_all := lw_g (lw_at lw_m3 133 rfl) rfl
theorem q733 : (Jvm.Cond.laysFinal "LetterForms$Overlap" "LetterForms$Pair" "first" "LLetterForms$Sign;") ∈ lw_all := lw_g (lw_at lw_m3 134 rfl) rfl
theorem q735 : (Jvm.Cond.laysFinal "LetterForms$Overlap" "LetterForms$Pair" "second" "LLetterForms$Sign;") ∈ lw_all := lw_g (lw_at lw_m3 136 rfl) rfl
theorem q737 : (Jvm.Cond.superclass "LetterForms$Overlap" "LetterForms$Pair") ∈ lw_all := lw_g (lw_at lw_m3 138 rfl) rfl
theorem q919 : (Jvm.Cond.selects "LetterForms$Overlap" ({ cls := "LetterForms$Pair", name := "joins", desc := "(LLetterForms$Desk;LLetterForms$Form;LLetterForms$Form;)V" } : Jvm.MethodName) ({ cls := "LetterForms$Overlap", name := "joins", desc := "(LLetterForms$Desk;LLetterForms$Form;LLetterForms$Form;)V" } : Jvm.MethodName)) ∈ lw_all := lw_g (lw_at lw_m4 80 rfl) rfl
theorem q920 : (Jvm.Cond.instanceMethod ({ cls := "LetterForms$Overlap", name := "joins", desc := "(LLetterForms$Desk;LLetterForms$Form;LLetterForms$Form;)V" } : Jvm.MethodName)) ∈ lw_all := lw_g (lw_at lw_m4 81 rfl) rfl
theorem q921 : (Jvm.Cond.code ({ cls := "LetterForms$Overlap", name := "joins", desc := "(LLetterForms$Desk;LLetterForms$Form;LLetterForms$Form;)V" } : Jvm.MethodName) prog_9_method_3_code (4 : Nat) (Option.none : Option Jvm.ClassFile.FieldType)) ∈ lw_all := lw_g (lw_at lw_m4 82 rfl) rfl
theorem q922 : (Jvm.Cond.methodLink "LetterForms$Overlap" (13 : Nat) ({ cls := "LetterForms$Desk", name := "overlap", desc := "(LLetterForms$Form;LLetterForms$Form;ILLetterForms$Form;)V" } : Jvm.MethodName)) ∈ lw_all := lw_g (lw_at lw_m4 83 rfl) rfl
theorem q952 : (Jvm.Cond.selects "LetterForms$Overlap" ({ cls := "LetterForms$Sign", name := "value", desc := "(LLetterForms;LLetterForms$Form;I)V" } : Jvm.MethodName) ({ cls := "LetterForms$Pair", name := "value", desc := "(LLetterForms;LLetterForms$Form;I)V" } : Jvm.MethodName)) ∈ lw_all := lw_g (lw_at lw_m4 113 rfl) rfl
theorem q982 : (Jvm.Cond.selects "LetterForms$Overlap" ({ cls := "LetterForms$Pair", name := "both", desc := "(IIZ)I" } : Jvm.MethodName) ({ cls := "LetterForms$Overlap", name := "both", desc := "(IIZ)I" } : Jvm.MethodName)) ∈ lw_all := lw_g (lw_at lw_m4 143 rfl) rfl
theorem q983 : (Jvm.Cond.instanceMethod ({ cls := "LetterForms$Overlap", name := "both", desc := "(IIZ)I" } : Jvm.MethodName)) ∈ lw_all := lw_g (lw_at lw_m4 144 rfl) rfl
theorem q984 : (Jvm.Cond.code ({ cls := "LetterForms$Overlap", name := "both", desc := "(IIZ)I" } : Jvm.MethodName) prog_9_method_2_code (4 : Nat) (Option.some Jvm.ClassFile.FieldType.int)) ∈ lw_all := lw_g (lw_at lw_m4 145 rfl) rfl
theorem q991 : (Jvm.Cond.selects "LetterForms$Overlap" ({ cls := "LetterForms$Sign", name := "rank", desc := "(Z)I" } : Jvm.MethodName) ({ cls := "LetterForms$Pair", name := "rank", desc := "(Z)I" } : Jvm.MethodName)) ∈ lw_all := lw_g (lw_at lw_m4 152 rfl) rfl
theorem q1997 : (Jvm.Cond.castable "LetterForms$Overlap" "java/lang/Object") ∈ lw_tbl := lw_at lw_m8 198 rfl
theorem q2008 : (Jvm.Cond.castable "LetterForms$Overlap" "LetterForms$Sign") ∈ lw_tbl := lw_at lw_m8 209 rfl
theorem in_X15 : ∀ w ∈ wsX150, w ∈ lw_all := lw_in wsX150 [733, 735, 731] (by decide +kernel) (by decide +kernel)
/-! LetterForms$Times -/
set_option maxRecDepth 100000
def RX16 : String := "LetterForms$Times"
def TX16 : u_T := fun k => match k with
  | 0 => ("LetterForms$Pair", "first", "LLetterForms$Sign;", true)
  | _ => ("LetterForms$Pair", "second", "LLetterForms$Sign;", true)
def tyX16 : Nat → FieldType := fun k => match k with
  | 0 => .object "LetterForms$Sign"
  | _ => .object "LetterForms$Sign"
abbrev wsX160 : List Cond := u_ws RX16 TX16 2
theorem nmX16 : ∀ a, a < 2 → ∀ b, b < 2 → a ≠ b → (TX16 a).2.1 ≠ (TX16 b).2.1 := by decide +kernel
theorem tyX16_ok : ∀ k, k < 2 → parseFieldDescriptor (TX16 k).2.2.1 = some (tyX16 k) := by decide +kernel
abbrev cX16_init : ByteArray := prog_15_method_1_code
def yX16_init : MethodName := ⟨RX16, "<init>", "(LLetterForms$Sign;LLetterForms$Sign;)V"⟩
def dkwX16_init_0 : List UInt8 := [42, 43, 44, 183, 0, 1, 177]
abbrev dktX16_init_0 : List UInt8 := dkwX16_init_0 ++ []
theorem dksX16_init_0 : cX16_init.data.toList.drop 0 = dktX16_init_0 := by decide +kernel
theorem dX16_init_0 : decode cX16_init 0 = .ok (.aload_n 0, 1) := dk_42 (dk_at dksX16_init_0 0 rfl rfl)
theorem dX16_init_1 : decode cX16_init 1 = .ok (.aload_n 1, 1) := dk_43 (dk_at dksX16_init_0 1 rfl rfl)
theorem dX16_init_2 : decode cX16_init 2 = .ok (.aload_n 2, 1) := dk_44 (dk_at dksX16_init_0 2 rfl rfl)
theorem dX16_init_3 : decode cX16_init 3 = .ok (.invokespecial 1, 3) := dk_183 0 1 (dk_at dksX16_init_0 3 rfl rfl)
theorem dX16_init_6 : decode cX16_init 6 = .ok (.return_, 1) := dk_177 (dk_at dksX16_init_0 6 rfl rfl)
abbrev cX16_joins : ByteArray := prog_15_method_3_code
def yX16_joins : MethodName := ⟨RX16, "joins", "(LLetterForms$Desk;LLetterForms$Form;LLetterForms$Form;)V"⟩
def dkwX16_joins_0 : List UInt8 := [43, 44, 45, 44, 182, 0, 7, 177]
abbrev dktX16_joins_0 : List UInt8 := dkwX16_joins_0 ++ []
theorem dksX16_joins_0 : cX16_joins.data.toList.drop 0 = dktX16_joins_0 := by decide +kernel
theorem dX16_joins_0 : decode cX16_joins 0 = .ok (.aload_n 1, 1) := dk_43 (dk_at dksX16_joins_0 0 rfl rfl)
theorem dX16_joins_1 : decode cX16_joins 1 = .ok (.aload_n 2, 1) := dk_44 (dk_at dksX16_joins_0 1 rfl rfl)
theorem dX16_joins_2 : decode cX16_joins 2 = .ok (.aload_n 3, 1) := dk_45 (dk_at dksX16_joins_0 2 rfl rfl)
theorem dX16_joins_3 : decode cX16_joins 3 = .ok (.aload_n 2, 1) := dk_44 (dk_at dksX16_joins_0 3 rfl rfl)
theorem dX16_joins_4 : decode cX16_joins 4 = .ok (.invokevirtual 7, 3) := dk_182 0 7 (dk_at dksX16_joins_0 4 rfl rfl)
theorem dX16_joins_7 : decode cX16_joins 7 = .ok (.return_, 1) := dk_177 (dk_at dksX16_joins_0 7 rfl rfl)
abbrev cX16_both : ByteArray := prog_15_method_2_code
def yX16_both : MethodName := ⟨RX16, "both", "(IIZ)I"⟩
def dkwX16_both_0 : List UInt8 := [27, 28, 96, 172]
abbrev dktX16_both_0 : List UInt8 := dkwX16_both_0 ++ []
theorem dksX16_both_0 : cX16_both.data.toList.drop 0 = dktX16_both_0 := by decide +kernel
theorem dX16_both_0 : decode cX16_both 0 = .ok (.iload_n 1, 1) := dk_27 (dk_at dksX16_both_0 0 rfl rfl)
theorem dX16_both_1 : decode cX16_both 1 = .ok (.iload_n 2, 1) := dk_28 (dk_at dksX16_both_0 1 rfl rfl)
theorem dX16_both_2 : decode cX16_both 2 = .ok (.iadd, 1) := dk_96 (dk_at dksX16_both_0 2 rfl rfl)
theorem dX16_both_3 : decode cX16_both 3 = .ok (.ireturn, 1) := dk_172 (dk_at dksX16_both_0 3 rfl rfl)
theorem q143 : (Jvm.Cond.initialized "LetterForms$Times") ∈ lw_all := lw_g (lw_at lw_m1 24 rfl) rfl
theorem q743 : (Jvm.Cond.instantiable "LetterForms$Times" (2 : Nat)) ∈ lw_all := lw_g (lw_at lw_m3 144 rfl) rfl
theorem q745 : (Jvm.Cond.instanceMethod ({ cls := "LetterForms$Times", name := "<init>", desc := "(LLetterForms$Sign;LLetterForms$Sign;)V" } : Jvm.MethodName)) ∈ lw_all := lw_g (lw_at lw_m3 146 rfl) rfl
theorem q746 : (Jvm.Cond.code ({ cls := "LetterForms$Times", name := "<init>", desc := "(LLetterForms$Sign;LLetterForms$Sign;)V" } : Jvm.MethodName) prog_15_method_1_code (3 : Nat) (Option.none : Option Jvm.ClassFile.FieldType)) ∈ lw_all := lw_g (lw_at lw_m3 147 rfl) rfl
theorem q747 : (Jvm.Cond.methodLink "LetterForms$Times" (1 : Nat) ({ cls := "LetterForms$Pair", name := "<init>", desc := "(LLetterForms$Sign;LLetterForms$Sign;)V" } : Jvm.MethodName)) ∈ lw_all := lw_g (lw_at lw_m3 148 rfl) rfl
theorem q748 : (Jvm.Cond.laysFinal "LetterForms$Times" "LetterForms$Pair" "first" "LLetterForms$Sign;") ∈ lw_all := lw_g (lw_at lw_m3 149 rfl) rfl
theorem q749 : (Jvm.Cond.laysFinal "LetterForms$Times" "LetterForms$Pair" "second" "LLetterForms$Sign;") ∈ lw_all := lw_g (lw_at lw_m3 150 rfl) rfl
theorem q750 : (Jvm.Cond.superclass "LetterForms$Times" "LetterForms$Pair") ∈ lw_all := lw_g (lw_at lw_m3 151 rfl) rfl
theorem q947 : (Jvm.Cond.selects "LetterForms$Times" ({ cls := "LetterForms$Pair", name := "joins", desc := "(LLetterForms$Desk;LLetterForms$Form;LLetterForms$Form;)V" } : Jvm.MethodName) ({ cls := "LetterForms$Times", name := "joins", desc := "(LLetterForms$Desk;LLetterForms$Form;LLetterForms$Form;)V" } : Jvm.MethodName)) ∈ lw_all := lw_g (lw_at lw_m4 108 rfl) rfl
theorem q948 : (Jvm.Cond.instanceMethod ({ cls := "LetterForms$Times", name := "joins", desc := "(LLetterForms$Desk;LLetterForms$Form;LLetterForms$Form;)V" } : Jvm.MethodName)) ∈ lw_all := lw_g (lw_at lw_m4 109 rfl) rfl
theorem q949 : (Jvm.Cond.code ({ cls := "LetterForms$Times", name := "joins", desc := "(LLetterForms$Desk;LLetterForms$Form;LLetterForms$Form;)V" } : Jvm.MethodName) prog_15_method_3_code (4 : Nat) (Option.none : Option Jvm.ClassFile.FieldType)) ∈ lw_all := lw_g (lw_at lw_m4 110 rfl) rfl
theorem q950 : (Jvm.Cond.methodLink "LetterForms$Times" (7 : Nat) ({ cls := "LetterForms$Desk", name := "product", desc := "(LLetterForms$Form;LLetterForms$Form;LLetterForms$Form;)V" } : Jvm.MethodName)) ∈ lw_all := lw_g (lw_at lw_m4 111 rfl) rfl
theorem q954 : (Jvm.Cond.selects "LetterForms$Times" ({ cls := "LetterForms$Sign", name := "value", desc := "(LLetterForms;LLetterForms$Form;I)V" } : Jvm.MethodName) ({ cls := "LetterForms$Pair", name := "value", desc := "(LLetterForms;LLetterForms$Form;I)V" } : Jvm.MethodName)) ∈ lw_all := lw_g (lw_at lw_m4 115 rfl) rfl
theorem q988 : (Jvm.Cond.selects "LetterForms$Times" ({ cls := "LetterForms$Pair", name := "both", desc := "(IIZ)I" } : Jvm.MethodName) ({ cls := "LetterForms$Times", name := "both", desc := "(IIZ)I" } : Jvm.MethodName)) ∈ lw_all := lw_g (lw_at lw_m4 149 rfl) rfl
theorem q989 : (Jvm.Cond.instanceMethod ({ cls := "LetterForms$Times", name := "both", desc := "(IIZ)I" } : Jvm.MethodName)) ∈ lw_all := lw_g (lw_at lw_m4 150 rfl) rfl
theorem q990 : (Jvm.Cond.code ({ cls := "LetterForms$Times", name := "both", desc := "(IIZ)I" } : Jvm.MethodName) prog_15_method_2_code (4 : Nat) (Option.some Jvm.ClassFile.FieldType.int)) ∈ lw_all := lw_g (lw_at lw_m4 151 rfl) rfl
theorem q993 : (Jvm.Cond.selects "LetterForms$Times" ({ cls := "LetterForms$Sign", name := "rank", desc := "(Z)I" } : Jvm.MethodName) ({ cls := "LetterForms$Pair", name := "rank", desc := "(Z)I" } : Jvm.MethodName)) ∈ lw_all := lw_g (lw_at lw_m4 154 rfl) rfl
theorem q1998 : (Jvm.Cond.castable "LetterForms$Times" "java/lang/Object") ∈ lw_tbl := lw_at lw_m8 199 rfl
theorem q2009 : (Jvm.Cond.castable "LetterForms$Times" "LetterForms$Sign") ∈ lw_tbl := lw_at lw_m8 210 rfl
theorem in_X16 : ∀ w ∈ wsX160, w ∈ lw_all := lw_in wsX160 [748, 749] (by decide +kernel) (by decide +kernel)
/-! LetterForms$Plus -/
set_option maxRecDepth 100000
def RX17 : String := "LetterForms$Plus"
def TX17 : u_T := fun k => match k with
  | 0 => ("LetterForms$Pair", "first", "LLetterForms$Sign;", true)
  | _ => ("LetterForms$Pair", "second", "LLetterForms$Sign;", true)
def tyX17 : Nat → FieldType := fun k => match k with
  | 0 => .object "LetterForms$Sign"
  | _ => .object "LetterForms$Sign"
abbrev wsX170 : List Cond := u_ws RX17 TX17 2
theorem nmX17 : ∀ a, a < 2 → ∀ b, b < 2 → a ≠ b → (TX17 a).2.1 ≠ (TX17 b).2.1 := by decide +kernel
theorem tyX17_ok : ∀ k, k < 2 → parseFieldDescriptor (TX17 k).2.2.1 = some (tyX17 k) := by decide +kernel
abbrev cX17_init : ByteArray := prog_11_method_1_code
def yX17_init : MethodName := ⟨RX17, "<init>", "(LLetterForms$Sign;LLetterForms$Sign;)V"⟩
def dkwX17_init_0 : List UInt8 := [42, 43, 44, 183, 0, 3, 177]
abbrev dktX17_init_0 : List UInt8 := dkwX17_init_0 ++ []
theorem dksX17_init_0 : cX17_init.data.toList.drop 0 = dktX17_init_0 := by decide +kernel
theorem dX17_init_0 : decode cX17_init 0 = .ok (.aload_n 0, 1) := dk_42 (dk_at dksX17_init_0 0 rfl rfl)
theorem dX17_init_1 : decode cX17_init 1 = .ok (.aload_n 1, 1) := dk_43 (dk_at dksX17_init_0 1 rfl rfl)
theorem dX17_init_2 : decode cX17_init 2 = .ok (.aload_n 2, 1) := dk_44 (dk_at dksX17_init_0 2 rfl rfl)
theorem dX17_init_3 : decode cX17_init 3 = .ok (.invokespecial 3, 3) := dk_183 0 3 (dk_at dksX17_init_0 3 rfl rfl)
theorem dX17_init_6 : decode cX17_init 6 = .ok (.return_, 1) := dk_177 (dk_at dksX17_init_0 6 rfl rfl)
abbrev cX17_joins : ByteArray := prog_11_method_3_code
def yX17_joins : MethodName := ⟨RX17, "joins", "(LLetterForms$Desk;LLetterForms$Form;LLetterForms$Form;)V"⟩
def dkwX17_joins_2 : List UInt8 := [180, 0, 19, 21, 4, 46, 96, 133, 182, 0, 29, 79, 132, 4, 1, 167, 255, 214, 177]
abbrev dktX17_joins_2 : List UInt8 := dkwX17_joins_2 ++ []
def dkwX17_joins_1 : List UInt8 := [180, 0, 9, 163, 0, 39, 44, 180, 0, 19, 21, 4, 43, 180, 0, 23, 44, 180, 0, 19, 21, 4, 46, 45]
abbrev dktX17_joins_1 : List UInt8 := dkwX17_joins_1 ++ dktX17_joins_2
def dkwX17_joins_0 : List UInt8 := [44, 180, 0, 9, 45, 180, 0, 9, 159, 0, 8, 44, 2, 182, 0, 15, 3, 54, 4, 21, 4, 44]
abbrev dktX17_joins_0 : List UInt8 := dkwX17_joins_0 ++ dktX17_joins_1
theorem dksX17_joins_0 : cX17_joins.data.toList.drop 0 = dktX17_joins_0 := by decide +kernel
theorem dksX17_joins_1 : cX17_joins.data.toList.drop 22 = dktX17_joins_1 := dk_seg dksX17_joins_0 22 rfl rfl
theorem dksX17_joins_2 : cX17_joins.data.toList.drop 46 = dktX17_joins_2 := dk_seg dksX17_joins_1 24 rfl rfl
theorem dX17_joins_0 : decode cX17_joins 0 = .ok (.aload_n 2, 1) := dk_44 (dk_at dksX17_joins_0 0 rfl rfl)
theorem dX17_joins_1 : decode cX17_joins 1 = .ok (.getfield 9, 3) := dk_180 0 9 (dk_at dksX17_joins_0 1 rfl rfl)
theorem dX17_joins_4 : decode cX17_joins 4 = .ok (.aload_n 3, 1) := dk_45 (dk_at dksX17_joins_0 4 rfl rfl)
theorem dX17_joins_5 : decode cX17_joins 5 = .ok (.getfield 9, 3) := dk_180 0 9 (dk_at dksX17_joins_0 5 rfl rfl)
theorem dX17_joins_8 : decode cX17_joins 8 = .ok (.if_icmp .eq 8, 3) := dk_159 0 8 (dk_at dksX17_joins_0 8 rfl rfl)
theorem dX17_joins_11 : decode cX17_joins 11 = .ok (.aload_n 2, 1) := dk_44 (dk_at dksX17_joins_0 11 rfl rfl)
theorem dX17_joins_12 : decode cX17_joins 12 = .ok (.iconst (-1), 1) := dk_2 (dk_at dksX17_joins_0 12 rfl rfl)
theorem dX17_joins_13 : decode cX17_joins 13 = .ok (.invokevirtual 15, 3) := dk_182 0 15 (dk_at dksX17_joins_0 13 rfl rfl)
theorem dX17_joins_16 : decode cX17_joins 16 = .ok (.iconst 0, 1) := dk_3 (dk_at dksX17_joins_0 16 rfl rfl)
theorem dX17_joins_17 : decode cX17_joins 17 = .ok (.istore 4, 2) := dk_54 4 (dk_at dksX17_joins_0 17 rfl rfl)
theorem dX17_joins_19 : decode cX17_joins 19 = .ok (.iload 4, 2) := dk_21 4 (dk_at dksX17_joins_0 19 rfl rfl)
theorem dX17_joins_21 : decode cX17_joins 21 = .ok (.aload_n 2, 1) := dk_44 (dk_at dksX17_joins_0 21 rfl rfl)
theorem dX17_joins_22 : decode cX17_joins 22 = .ok (.getfield 9, 3) := dk_180 0 9 (dk_at dksX17_joins_1 0 rfl rfl)
theorem dX17_joins_25 : decode cX17_joins 25 = .ok (.if_icmp .gt 39, 3) := dk_163 0 39 (dk_at dksX17_joins_1 3 rfl rfl)
theorem dX17_joins_28 : decode cX17_joins 28 = .ok (.aload_n 2, 1) := dk_44 (dk_at dksX17_joins_1 6 rfl rfl)
theorem dX17_joins_29 : decode cX17_joins 29 = .ok (.getfield 19, 3) := dk_180 0 19 (dk_at dksX17_joins_1 7 rfl rfl)
theorem dX17_joins_32 : decode cX17_joins 32 = .ok (.iload 4, 2) := dk_21 4 (dk_at dksX17_joins_1 10 rfl rfl)
theorem dX17_joins_34 : decode cX17_joins 34 = .ok (.aload_n 1, 1) := dk_43 (dk_at dksX17_joins_1 12 rfl rfl)
theorem dX17_joins_35 : decode cX17_joins 35 = .ok (.getfield 23, 3) := dk_180 0 23 (dk_at dksX17_joins_1 13 rfl rfl)
theorem dX17_joins_38 : decode cX17_joins 38 = .ok (.aload_n 2, 1) := dk_44 (dk_at dksX17_joins_1 16 rfl rfl)
theorem dX17_joins_39 : decode cX17_joins 39 = .ok (.getfield 19, 3) := dk_180 0 19 (dk_at dksX17_joins_1 17 rfl rfl)
theorem dX17_joins_42 : decode cX17_joins 42 = .ok (.iload 4, 2) := dk_21 4 (dk_at dksX17_joins_1 20 rfl rfl)
theorem dX17_joins_44 : decode cX17_joins 44 = .ok (.iaload, 1) := dk_46 (dk_at dksX17_joins_1 22 rfl rfl)
theorem dX17_joins_45 : decode cX17_joins 45 = .ok (.aload_n 3, 1) := dk_45 (dk_at dksX17_joins_1 23 rfl rfl)
theorem dX17_joins_46 : decode cX17_joins 46 = .ok (.getfield 19, 3) := dk_180 0 19 (dk_at dksX17_joins_2 0 rfl rfl)
theorem dX17_joins_49 : decode cX17_joins 49 = .ok (.iload 4, 2) := dk_21 4 (dk_at dksX17_joins_2 3 rfl rfl)
theorem dX17_joins_51 : decode cX17_joins 51 = .ok (.iaload, 1) := dk_46 (dk_at dksX17_joins_2 5 rfl rfl)
theorem dX17_joins_52 : decode cX17_joins 52 = .ok (.iadd, 1) := dk_96 (dk_at dksX17_joins_2 6 rfl rfl)
theorem dX17_joins_53 : decode cX17_joins 53 = .ok (.i2l, 1) := dk_133 (dk_at dksX17_joins_2 7 rfl rfl)
theorem dX17_joins_54 : decode cX17_joins 54 = .ok (.invokevirtual 29, 3) := dk_182 0 29 (dk_at dksX17_joins_2 8 rfl rfl)
theorem dX17_joins_57 : decode cX17_joins 57 = .ok (.iastore, 1) := dk_79 (dk_at dksX17_joins_2 11 rfl rfl)
theorem dX17_joins_58 : decode cX17_joins 58 = .ok (.iinc 4 1, 3) := dk_132 4 1 (dk_at dksX17_joins_2 12 rfl rfl)
theorem dX17_joins_61 : decode cX17_joins 61 = .ok (.goto (-42), 3) := dk_167 255 214 (dk_at dksX17_joins_2 15 rfl rfl)
theorem dX17_joins_64 : decode cX17_joins 64 = .ok (.return_, 1) := dk_177 (dk_at dksX17_joins_2 18 rfl rfl)
abbrev cX17_both : ByteArray := prog_11_method_2_code
def yX17_both : MethodName := ⟨RX17, "both", "(IIZ)I"⟩
def dkwX17_both_0 : List UInt8 := [27, 28, 160, 0, 7, 27, 167, 0, 4, 2, 172]
abbrev dktX17_both_0 : List UInt8 := dkwX17_both_0 ++ []
theorem dksX17_both_0 : cX17_both.data.toList.drop 0 = dktX17_both_0 := by decide +kernel
theorem dX17_both_0 : decode cX17_both 0 = .ok (.iload_n 1, 1) := dk_27 (dk_at dksX17_both_0 0 rfl rfl)
theorem dX17_both_1 : decode cX17_both 1 = .ok (.iload_n 2, 1) := dk_28 (dk_at dksX17_both_0 1 rfl rfl)
theorem dX17_both_2 : decode cX17_both 2 = .ok (.if_icmp .ne 7, 3) := dk_160 0 7 (dk_at dksX17_both_0 2 rfl rfl)
theorem dX17_both_5 : decode cX17_both 5 = .ok (.iload_n 1, 1) := dk_27 (dk_at dksX17_both_0 5 rfl rfl)
theorem dX17_both_6 : decode cX17_both 6 = .ok (.goto 4, 3) := dk_167 0 4 (dk_at dksX17_both_0 6 rfl rfl)
theorem dX17_both_9 : decode cX17_both 9 = .ok (.iconst (-1), 1) := dk_2 (dk_at dksX17_both_0 9 rfl rfl)
theorem dX17_both_10 : decode cX17_both 10 = .ok (.ireturn, 1) := dk_172 (dk_at dksX17_both_0 10 rfl rfl)
theorem q144 : (Jvm.Cond.initialized "LetterForms$Plus") ∈ lw_all := lw_g (lw_at lw_m1 25 rfl) rfl
theorem q302 : (Jvm.Cond.fieldLinkNest "LetterForms$Plus" (19 : Nat) "LetterForms$Form" "a" "[I" "LetterForms") ∈ lw_tbl := lw_at lw_m1 183 rfl
theorem q307 : (Jvm.Cond.fieldLinkNest "LetterForms$Plus" (9 : Nat) "LetterForms$Form" "degree" "I" "LetterForms") ∈ lw_tbl := lw_at lw_m1 188 rfl
theorem q318 : (Jvm.Cond.fieldLinkNest "LetterForms$Plus" (23 : Nat) "LetterForms$Desk" "f" "LLetterForms$Field;" "LetterForms") ∈ lw_tbl := lw_at lw_m1 199 rfl
theorem q752 : (Jvm.Cond.instantiable "LetterForms$Plus" (2 : Nat)) ∈ lw_all := lw_g (lw_at lw_m3 153 rfl) rfl
theorem q754 : (Jvm.Cond.instanceMethod ({ cls := "LetterForms$Plus", name := "<init>", desc := "(LLetterForms$Sign;LLetterForms$Sign;)V" } : Jvm.MethodName)) ∈ lw_all := lw_g (lw_at lw_m3 155 rfl) rfl
theorem q755 : (Jvm.Cond.code ({ cls := "LetterForms$Plus", name := "<init>", desc := "(LLetterForms$Sign;LLetterForms$Sign;)V" } : Jvm.MethodName) prog_11_method_1_code (3 : Nat) (Option.none : Option Jvm.ClassFile.FieldType)) ∈ lw_all := lw_g (lw_at lw_m3 156 rfl) rfl
theorem q756 : (Jvm.Cond.methodLink "LetterForms$Plus" (3 : Nat) ({ cls := "LetterForms$Pair", name := "<init>", desc := "(LLetterForms$Sign;LLetterForms$Sign;)V" } : Jvm.MethodName)) ∈ lw_all := lw_g (lw_at lw_m3 157 rfl) rfl
theorem q757 : (Jvm.Cond.laysFinal "LetterForms$Plus" "LetterForms$Pair" "first" "LLetterForms$Sign;") ∈ lw_all := lw_g (lw_at lw_m3 158 rfl) rfl
theorem q758 : (Jvm.Cond.laysFinal "LetterForms$Plus" "LetterForms$Pair" "second" "LLetterForms$Sign;") ∈ lw_all := lw_g (lw_at lw_m3 159 rfl) rfl
theorem q759 : (Jvm.Cond.superclass "LetterForms$Plus" "LetterForms$Pair") ∈ lw_all := lw_g (lw_at lw_m3 160 rfl) rfl
theorem q942 : (Jvm.Cond.selects "LetterForms$Plus" ({ cls := "LetterForms$Pair", name := "joins", desc := "(LLetterForms$Desk;LLetterForms$Form;LLetterForms$Form;)V" } : Jvm.MethodName) ({ cls := "LetterForms$Plus", name := "joins", desc := "(LLetterForms$Desk;LLetterForms$Form;LLetterForms$Form;)V" } : Jvm.MethodName)) ∈ lw_all := lw_g (lw_at lw_m4 103 rfl) rfl
theorem q943 : (Jvm.Cond.instanceMethod ({ cls := "LetterForms$Plus", name := "joins", desc := "(LLetterForms$Desk;LLetterForms$Form;LLetterForms$Form;)V" } : Jvm.MethodName)) ∈ lw_all := lw_g (lw_at lw_m4 104 rfl) rfl
theorem q944 : (Jvm.Cond.code ({ cls := "LetterForms$Plus", name := "joins", desc := "(LLetterForms$Desk;LLetterForms$Form;LLetterForms$Form;)V" } : Jvm.MethodName) prog_11_method_3_code (5 : Nat) (Option.none : Option Jvm.ClassFile.FieldType)) ∈ lw_all := lw_g (lw_at lw_m4 105 rfl) rfl
theorem q945 : (Jvm.Cond.methodLink "LetterForms$Plus" (15 : Nat) ({ cls := "LetterForms$Form", name := "nought", desc := "(I)V" } : Jvm.MethodName)) ∈ lw_all := lw_g (lw_at lw_m4 106 rfl) rfl
theorem q946 : (Jvm.Cond.methodLink "LetterForms$Plus" (29 : Nat) ({ cls := "LetterForms$Field", name := "of", desc := "(J)I" } : Jvm.MethodName)) ∈ lw_all := lw_g (lw_at lw_m4 107 rfl) rfl
theorem q953 : (Jvm.Cond.selects "LetterForms$Plus" ({ cls := "LetterForms$Sign", name := "value", desc := "(LLetterForms;LLetterForms$Form;I)V" } : Jvm.MethodName) ({ cls := "LetterForms$Pair", name := "value", desc := "(LLetterForms;LLetterForms$Form;I)V" } : Jvm.MethodName)) ∈ lw_all := lw_g (lw_at lw_m4 114 rfl) rfl
theorem q985 : (Jvm.Cond.selects "LetterForms$Plus" ({ cls := "LetterForms$Pair", name := "both", desc := "(IIZ)I" } : Jvm.MethodName) ({ cls := "LetterForms$Plus", name := "both", desc := "(IIZ)I" } : Jvm.MethodName)) ∈ lw_all := lw_g (lw_at lw_m4 146 rfl) rfl
theorem q986 : (Jvm.Cond.instanceMethod ({ cls := "LetterForms$Plus", name := "both", desc := "(IIZ)I" } : Jvm.MethodName)) ∈ lw_all := lw_g (lw_at lw_m4 147 rfl) rfl
theorem q987 : (Jvm.Cond.code ({ cls := "LetterForms$Plus", name := "both", desc := "(IIZ)I" } : Jvm.MethodName) prog_11_method_2_code (4 : Nat) (Option.some Jvm.ClassFile.FieldType.int)) ∈ lw_all := lw_g (lw_at lw_m4 148 rfl) rfl
theorem q992 : (Jvm.Cond.selects "LetterForms$Plus" ({ cls := "LetterForms$Sign", name := "rank", desc := "(Z)I" } : Jvm.MethodName) ({ cls := "LetterForms$Pair", name := "rank", desc := "(Z)I" } : Jvm.MethodName)) ∈ lw_all := lw_g (lw_at lw_m4 153 rfl) rfl
theorem q1999 : (Jvm.Cond.castable "LetterForms$Plus" "java/lang/Object") ∈ lw_tbl := lw_at lw_m8 200 rfl
theorem q2010 : (Jvm.Cond.castable "LetterForms$Plus" "LetterForms$Sign") ∈ lw_tbl := lw_at lw_m8 211 rfl
theorem in_X17 : ∀ w ∈ wsX170, w ∈ lw_all := lw_in wsX170 [757, 758] (by decide +kernel) (by decide +kernel)
/-! LetterForms$State -/
set_option maxRecDepth 100000
def RX9 : String := "LetterForms$State"
def TX9 : u_T := fun k => match k with
  | 0 => ("LetterForms$State", "forms", "[LLetterForms$Form;", true)
  | 1 => ("LetterForms$State", "tables", "[[I", true)
  | 2 => ("LetterForms$State", "signs", "[LLetterForms$Sign;", true)
  | 3 => ("LetterForms$State", "acts", "[LLetterForms$Act;", true)
  | 4 => ("LetterForms$State", "p", "I", false)
  | 5 => ("LetterForms$State", "formMany", "I", false)
  | 6 => ("LetterForms$State", "tableMany", "I", false)
  | 7 => ("LetterForms$State", "signMany", "I", false)
  | 8 => ("LetterForms$State", "actMany", "I", false)
  | _ => ("LetterForms$State", "done", "I", false)
def tyX9 : Nat → FieldType := fun k => match k with
  | 0 => .array (.object "LetterForms$Form")
  | 1 => .array (.array .int)
  | 2 => .array (.object "LetterForms$Sign")
  | 3 => .array (.object "LetterForms$Act")
  | 4 => .int
  | 5 => .int
  | 6 => .int
  | 7 => .int
  | 8 => .int
  | _ => .int
abbrev wsX90 : List Cond := u_ws RX9 TX9 10
theorem nmX9 : ∀ a, a < 10 → ∀ b, b < 10 → a ≠ b → (TX9 a).2.1 ≠ (TX9 b).2.1 := by decide +kernel
theorem tyX9_ok : ∀ k, k < 10 → parseFieldDescriptor (TX9 k).2.2.1 = some (tyX9 k) := by decide +kernel
abbrev cX9_init : ByteArray := prog_14_method_1_code
def yX9_init : MethodName := ⟨RX9, "<init>", "()V"⟩
def dkwX9_init_4 : List UInt8 := [132, 1, 1, 167, 255, 234, 177]
abbrev dktX9_init_4 : List UInt8 := dkwX9_init_4 ++ []
def dkwX9_init_3 : List UInt8 := [167, 255, 234, 3, 60, 27, 16, 40, 162, 0, 22, 42, 180, 0, 30, 27, 187, 0, 28, 89, 183, 0, 39, 83]
abbrev dktX9_init_3 : List UInt8 := dkwX9_init_3 ++ dktX9_init_4
def dkwX9_init_2 : List UInt8 := [3, 60, 27, 16, 16, 162, 0, 22, 42, 180, 0, 11, 27, 187, 0, 9, 89, 183, 0, 38, 83, 132, 1, 1]
abbrev dktX9_init_2 : List UInt8 := dkwX9_init_2 ++ dktX9_init_3
def dkwX9_init_1 : List UInt8 := [42, 16, 8, 189, 0, 22, 181, 0, 24, 42, 16, 40, 189, 0, 28, 181, 0, 30, 42, 16, 11, 181, 0, 34]
abbrev dktX9_init_1 : List UInt8 := dkwX9_init_1 ++ dktX9_init_2
def dkwX9_init_0 : List UInt8 := [42, 183, 0, 3, 42, 16, 16, 189, 0, 9, 181, 0, 11, 42, 16, 8, 7, 197, 0, 17, 2, 181, 0, 19]
abbrev dktX9_init_0 : List UInt8 := dkwX9_init_0 ++ dktX9_init_1
theorem dksX9_init_0 : cX9_init.data.toList.drop 0 = dktX9_init_0 := by decide +kernel
theorem dksX9_init_1 : cX9_init.data.toList.drop 24 = dktX9_init_1 := dk_seg dksX9_init_0 24 rfl rfl
theorem dksX9_init_2 : cX9_init.data.toList.drop 48 = dktX9_init_2 := dk_seg dksX9_init_1 24 rfl rfl
theorem dksX9_init_3 : cX9_init.data.toList.drop 72 = dktX9_init_3 := dk_seg dksX9_init_2 24 rfl rfl
theorem dksX9_init_4 : cX9_init.data.toList.drop 96 = dktX9_init_4 := dk_seg dksX9_init_3 24 rfl rfl
theorem dX9_init_0 : decode cX9_init 0 = .ok (.aload_n 0, 1) := dk_42 (dk_at dksX9_init_0 0 rfl rfl)
theorem dX9_init_1 : decode cX9_init 1 = .ok (.invokespecial 3, 3) := dk_183 0 3 (dk_at dksX9_init_0 1 rfl rfl)
theorem dX9_init_4 : decode cX9_init 4 = .ok (.aload_n 0, 1) := dk_42 (dk_at dksX9_init_0 4 rfl rfl)
theorem dX9_init_5 : decode cX9_init 5 = .ok (.bipush 16, 2) := dk_16 16 (dk_at dksX9_init_0 5 rfl rfl)
theorem dX9_init_7 : decode cX9_init 7 = .ok (.anewarray 9, 3) := dk_189 0 9 (dk_at dksX9_init_0 7 rfl rfl)
theorem dX9_init_10 : decode cX9_init 10 = .ok (.putfield 11, 3) := dk_181 0 11 (dk_at dksX9_init_0 10 rfl rfl)
theorem dX9_init_13 : decode cX9_init 13 = .ok (.aload_n 0, 1) := dk_42 (dk_at dksX9_init_0 13 rfl rfl)
theorem dX9_init_14 : decode cX9_init 14 = .ok (.bipush 8, 2) := dk_16 8 (dk_at dksX9_init_0 14 rfl rfl)
theorem dX9_init_16 : decode cX9_init 16 = .ok (.iconst 4, 1) := dk_7 (dk_at dksX9_init_0 16 rfl rfl)
theorem dX9_init_17 : decode cX9_init 17 = .ok (.multianewarray 17 2, 4) := by decide +kernel
theorem dX9_init_21 : decode cX9_init 21 = .ok (.putfield 19, 3) := dk_181 0 19 (dk_at dksX9_init_0 21 rfl rfl)
theorem dX9_init_24 : decode cX9_init 24 = .ok (.aload_n 0, 1) := dk_42 (dk_at dksX9_init_1 0 rfl rfl)
theorem dX9_init_25 : decode cX9_init 25 = .ok (.bipush 8, 2) := dk_16 8 (dk_at dksX9_init_1 1 rfl rfl)
theorem dX9_init_27 : decode cX9_init 27 = .ok (.anewarray 22, 3) := dk_189 0 22 (dk_at dksX9_init_1 3 rfl rfl)
theorem dX9_init_30 : decode cX9_init 30 = .ok (.putfield 24, 3) := dk_181 0 24 (dk_at dksX9_init_1 6 rfl rfl)
theorem dX9_init_33 : decode cX9_init 33 = .ok (.aload_n 0, 1) := dk_42 (dk_at dksX9_init_1 9 rfl rfl)
theorem dX9_init_34 : decode cX9_init 34 = .ok (.bipush 40, 2) := dk_16 40 (dk_at dksX9_init_1 10 rfl rfl)
theorem dX9_init_36 : decode cX9_init 36 = .ok (.anewarray 28, 3) := dk_189 0 28 (dk_at dksX9_init_1 12 rfl rfl)
theorem dX9_init_39 : decode cX9_init 39 = .ok (.putfield 30, 3) := dk_181 0 30 (dk_at dksX9_init_1 15 rfl rfl)
theorem dX9_init_42 : decode cX9_init 42 = .ok (.aload_n 0, 1) := dk_42 (dk_at dksX9_init_1 18 rfl rfl)
theorem dX9_init_43 : decode cX9_init 43 = .ok (.bipush 11, 2) := dk_16 11 (dk_at dksX9_init_1 19 rfl rfl)
theorem dX9_init_45 : decode cX9_init 45 = .ok (.putfield 34, 3) := dk_181 0 34 (dk_at dksX9_init_1 21 rfl rfl)
theorem dX9_init_48 : decode cX9_init 48 = .ok (.iconst 0, 1) := dk_3 (dk_at dksX9_init_2 0 rfl rfl)
theorem dX9_init_49 : decode cX9_init 49 = .ok (.istore_n 1, 1) := dk_60 (dk_at dksX9_init_2 1 rfl rfl)
theorem dX9_init_50 : decode cX9_init 50 = .ok (.iload_n 1, 1) := dk_27 (dk_at dksX9_init_2 2 rfl rfl)
theorem dX9_init_51 : decode cX9_init 51 = .ok (.bipush 16, 2) := dk_16 16 (dk_at dksX9_init_2 3 rfl rfl)
theorem dX9_init_53 : decode cX9_init 53 = .ok (.if_icmp .ge 22, 3) := dk_162 0 22 (dk_at dksX9_init_2 5 rfl rfl)
theorem dX9_init_56 : decode cX9_init 56 = .ok (.aload_n 0, 1) := dk_42 (dk_at dksX9_init_2 8 rfl rfl)
theorem dX9_init_57 : decode cX9_init 57 = .ok (.getfield 11, 3) := dk_180 0 11 (dk_at dksX9_init_2 9 rfl rfl)
theorem dX9_init_60 : decode cX9_init 60 = .ok (.iload_n 1, 1) := dk_27 (dk_at dksX9_init_2 12 rfl rfl)
theorem dX9_init_61 : decode cX9_init 61 = .ok (.new 9, 3) := dk_187 0 9 (dk_at dksX9_init_2 13 rfl rfl)
theorem dX9_init_64 : decode cX9_init 64 = .ok (.dup, 1) := dk_89 (dk_at dksX9_init_2 16 rfl rfl)
theorem dX9_init_65 : decode cX9_init 65 = .ok (.invokespecial 38, 3) := dk_183 0 38 (dk_at dksX9_init_2 17 rfl rfl)
theorem dX9_init_68 : decode cX9_init 68 = .ok (.aastore, 1) := dk_83 (dk_at dksX9_init_2 20 rfl rfl)
theorem dX9_init_69 : decode cX9_init 69 = .ok (.iinc 1 1, 3) := dk_132 1 1 (dk_at dksX9_init_2 21 rfl rfl)
theorem dX9_init_72 : decode cX9_init 72 = .ok (.goto (-22), 3) := dk_167 255 234 (dk_at dksX9_init_3 0 rfl rfl)
theorem dX9_init_75 : decode cX9_init 75 = .ok (.iconst 0, 1) := dk_3 (dk_at dksX9_init_3 3 rfl rfl)
theorem dX9_init_76 : decode cX9_init 76 = .ok (.istore_n 1, 1) := dk_60 (dk_at dksX9_init_3 4 rfl rfl)
theorem dX9_init_77 : decode cX9_init 77 = .ok (.iload_n 1, 1) := dk_27 (dk_at dksX9_init_3 5 rfl rfl)
theorem dX9_init_78 : decode cX9_init 78 = .ok (.bipush 40, 2) := dk_16 40 (dk_at dksX9_init_3 6 rfl rfl)
theorem dX9_init_80 : decode cX9_init 80 = .ok (.if_icmp .ge 22, 3) := dk_162 0 22 (dk_at dksX9_init_3 8 rfl rfl)
theorem dX9_init_83 : decode cX9_init 83 = .ok (.aload_n 0, 1) := dk_42 (dk_at dksX9_init_3 11 rfl rfl)
theorem dX9_init_84 : decode cX9_init 84 = .ok (.getfield 30, 3) := dk_180 0 30 (dk_at dksX9_init_3 12 rfl rfl)
theorem dX9_init_87 : decode cX9_init 87 = .ok (.iload_n 1, 1) := dk_27 (dk_at dksX9_init_3 15 rfl rfl)
theorem dX9_init_88 : decode cX9_init 88 = .ok (.new 28, 3) := dk_187 0 28 (dk_at dksX9_init_3 16 rfl rfl)
theorem dX9_init_91 : decode cX9_init 91 = .ok (.dup, 1) := dk_89 (dk_at dksX9_init_3 19 rfl rfl)
theorem dX9_init_92 : decode cX9_init 92 = .ok (.invokespecial 39, 3) := dk_183 0 39 (dk_at dksX9_init_3 20 rfl rfl)
theorem dX9_init_95 : decode cX9_init 95 = .ok (.aastore, 1) := dk_83 (dk_at dksX9_init_3 23 rfl rfl)
theorem dX9_init_96 : decode cX9_init 96 = .ok (.iinc 1 1, 3) := dk_132 1 1 (dk_at dksX9_init_4 0 rfl rfl)
theorem dX9_init_99 : decode cX9_init 99 = .ok (.goto (-22), 3) := dk_167 255 234 (dk_at dksX9_init_4 3 rfl rfl)
theorem dX9_init_102 : decode cX9_init 102 = .ok (.return_, 1) := dk_177 (dk_at dksX9_init_4 6 rfl rfl)
abbrev cX9_be : ByteArray := prog_14_method_2_code
def yX9_be : MethodName := ⟨RX9, "be", "(LLetterForms$State;)V"⟩
def dkwX9_be_6 : List UInt8 := [181, 0, 62, 42, 43, 180, 0, 56, 181, 0, 56, 42, 43, 180, 0, 65, 181, 0, 65, 177]
abbrev dktX9_be_6 : List UInt8 := dkwX9_be_6 ++ []
def dkwX9_be_5 : List UInt8 := [181, 0, 34, 42, 43, 180, 0, 40, 181, 0, 40, 42, 43, 180, 0, 47, 181, 0, 47, 42, 43, 180, 0, 62]
abbrev dktX9_be_5 : List UInt8 := dkwX9_be_5 ++ dktX9_be_6
def dkwX9_be_4 : List UInt8 := [28, 50, 43, 180, 0, 30, 28, 50, 182, 0, 59, 132, 2, 1, 167, 255, 230, 42, 43, 180, 0, 34]
abbrev dktX9_be_4 : List UInt8 := dkwX9_be_4 ++ dktX9_be_5
def dkwX9_be_3 : List UInt8 := [42, 180, 0, 24, 3, 16, 8, 184, 0, 50, 3, 61, 28, 43, 180, 0, 56, 162, 0, 24, 42, 180, 0, 30]
abbrev dktX9_be_3 : List UInt8 := dkwX9_be_3 ++ dktX9_be_4
def dkwX9_be_2 : List UInt8 := [50, 3, 42, 180, 0, 19, 28, 50, 3, 7, 184, 0, 50, 132, 2, 1, 167, 255, 227, 43, 180, 0, 24, 3]
abbrev dktX9_be_2 : List UInt8 := dkwX9_be_2 ++ dktX9_be_3
def dkwX9_be_1 : List UInt8 := [182, 0, 43, 132, 2, 1, 167, 255, 230, 3, 61, 28, 43, 180, 0, 47, 162, 0, 27, 43, 180, 0, 19, 28]
abbrev dktX9_be_1 : List UInt8 := dkwX9_be_1 ++ dktX9_be_2
def dkwX9_be_0 : List UInt8 := [3, 61, 28, 43, 180, 0, 40, 162, 0, 24, 42, 180, 0, 11, 28, 50, 43, 180, 0, 11, 28, 50]
abbrev dktX9_be_0 : List UInt8 := dkwX9_be_0 ++ dktX9_be_1
theorem dksX9_be_0 : cX9_be.data.toList.drop 0 = dktX9_be_0 := by decide +kernel
theorem dksX9_be_1 : cX9_be.data.toList.drop 22 = dktX9_be_1 := dk_seg dksX9_be_0 22 rfl rfl
theorem dksX9_be_2 : cX9_be.data.toList.drop 46 = dktX9_be_2 := dk_seg dksX9_be_1 24 rfl rfl
theorem dksX9_be_3 : cX9_be.data.toList.drop 70 = dktX9_be_3 := dk_seg dksX9_be_2 24 rfl rfl
theorem dksX9_be_4 : cX9_be.data.toList.drop 94 = dktX9_be_4 := dk_seg dksX9_be_3 24 rfl rfl
theorem dksX9_be_5 : cX9_be.data.toList.drop 116 = dktX9_be_5 := dk_seg dksX9_be_4 22 rfl rfl
theorem dksX9_be_6 : cX9_be.data.toList.drop 140 = dktX9_be_6 := dk_seg dksX9_be_5 24 rfl rfl
theorem dX9_be_0 : decode cX9_be 0 = .ok (.iconst 0, 1) := dk_3 (dk_at dksX9_be_0 0 rfl rfl)
theorem dX9_be_1 : decode cX9_be 1 = .ok (.istore_n 2, 1) := dk_61 (dk_at dksX9_be_0 1 rfl rfl)
theorem dX9_be_2 : decode cX9_be 2 = .ok (.iload_n 2, 1) := dk_28 (dk_at dksX9_be_0 2 rfl rfl)
theorem dX9_be_3 : decode cX9_be 3 = .ok (.aload_n 1, 1) := dk_43 (dk_at dksX9_be_0 3 rfl rfl)
theorem dX9_be_4 : decode cX9_be 4 = .ok (.getfield 40, 3) := dk_180 0 40 (dk_at dksX9_be_0 4 rfl rfl)
theorem dX9_be_7 : decode cX9_be 7 = .ok (.if_icmp .ge 24, 3) := dk_162 0 24 (dk_at dksX9_be_0 7 rfl rfl)
theorem dX9_be_10 : decode cX9_be 10 = .ok (.aload_n 0, 1) := dk_42 (dk_at dksX9_be_0 10 rfl rfl)
theorem dX9_be_11 : decode cX9_be 11 = .ok (.getfield 11, 3) := dk_180 0 11 (dk_at dksX9_be_0 11 rfl rfl)
theorem dX9_be_14 : decode cX9_be 14 = .ok (.iload_n 2, 1) := dk_28 (dk_at dksX9_be_0 14 rfl rfl)
theorem dX9_be_15 : decode cX9_be 15 = .ok (.aaload, 1) := dk_50 (dk_at dksX9_be_0 15 rfl rfl)
theorem dX9_be_16 : decode cX9_be 16 = .ok (.aload_n 1, 1) := dk_43 (dk_at dksX9_be_0 16 rfl rfl)
theorem dX9_be_17 : decode cX9_be 17 = .ok (.getfield 11, 3) := dk_180 0 11 (dk_at dksX9_be_0 17 rfl rfl)
theorem dX9_be_20 : decode cX9_be 20 = .ok (.iload_n 2, 1) := dk_28 (dk_at dksX9_be_0 20 rfl rfl)
theorem dX9_be_21 : decode cX9_be 21 = .ok (.aaload, 1) := dk_50 (dk_at dksX9_be_0 21 rfl rfl)
theorem dX9_be_22 : decode cX9_be 22 = .ok (.invokevirtual 43, 3) := dk_182 0 43 (dk_at dksX9_be_1 0 rfl rfl)
theorem dX9_be_25 : decode cX9_be 25 = .ok (.iinc 2 1, 3) := dk_132 2 1 (dk_at dksX9_be_1 3 rfl rfl)
theorem dX9_be_28 : decode cX9_be 28 = .ok (.goto (-26), 3) := dk_167 255 230 (dk_at dksX9_be_1 6 rfl rfl)
theorem dX9_be_31 : decode cX9_be 31 = .ok (.iconst 0, 1) := dk_3 (dk_at dksX9_be_1 9 rfl rfl)
theorem dX9_be_32 : decode cX9_be 32 = .ok (.istore_n 2, 1) := dk_61 (dk_at dksX9_be_1 10 rfl rfl)
theorem dX9_be_33 : decode cX9_be 33 = .ok (.iload_n 2, 1) := dk_28 (dk_at dksX9_be_1 11 rfl rfl)
theorem dX9_be_34 : decode cX9_be 34 = .ok (.aload_n 1, 1) := dk_43 (dk_at dksX9_be_1 12 rfl rfl)
theorem dX9_be_35 : decode cX9_be 35 = .ok (.getfield 47, 3) := dk_180 0 47 (dk_at dksX9_be_1 13 rfl rfl)
theorem dX9_be_38 : decode cX9_be 38 = .ok (.if_icmp .ge 27, 3) := dk_162 0 27 (dk_at dksX9_be_1 16 rfl rfl)
theorem dX9_be_41 : decode cX9_be 41 = .ok (.aload_n 1, 1) := dk_43 (dk_at dksX9_be_1 19 rfl rfl)
theorem dX9_be_42 : decode cX9_be 42 = .ok (.getfield 19, 3) := dk_180 0 19 (dk_at dksX9_be_1 20 rfl rfl)
theorem dX9_be_45 : decode cX9_be 45 = .ok (.iload_n 2, 1) := dk_28 (dk_at dksX9_be_1 23 rfl rfl)
theorem dX9_be_46 : decode cX9_be 46 = .ok (.aaload, 1) := dk_50 (dk_at dksX9_be_2 0 rfl rfl)
theorem dX9_be_47 : decode cX9_be 47 = .ok (.iconst 0, 1) := dk_3 (dk_at dksX9_be_2 1 rfl rfl)
theorem dX9_be_48 : decode cX9_be 48 = .ok (.aload_n 0, 1) := dk_42 (dk_at dksX9_be_2 2 rfl rfl)
theorem dX9_be_49 : decode cX9_be 49 = .ok (.getfield 19, 3) := dk_180 0 19 (dk_at dksX9_be_2 3 rfl rfl)
theorem dX9_be_52 : decode cX9_be 52 = .ok (.iload_n 2, 1) := dk_28 (dk_at dksX9_be_2 6 rfl rfl)
theorem dX9_be_53 : decode cX9_be 53 = .ok (.aaload, 1) := dk_50 (dk_at dksX9_be_2 7 rfl rfl)
theorem dX9_be_54 : decode cX9_be 54 = .ok (.iconst 0, 1) := dk_3 (dk_at dksX9_be_2 8 rfl rfl)
theorem dX9_be_55 : decode cX9_be 55 = .ok (.iconst 4, 1) := dk_7 (dk_at dksX9_be_2 9 rfl rfl)
theorem dX9_be_56 : decode cX9_be 56 = .ok (.invokestatic 50, 3) := dk_184 0 50 (dk_at dksX9_be_2 10 rfl rfl)
theorem dX9_be_59 : decode cX9_be 59 = .ok (.iinc 2 1, 3) := dk_132 2 1 (dk_at dksX9_be_2 13 rfl rfl)
theorem dX9_be_62 : decode cX9_be 62 = .ok (.goto (-29), 3) := dk_167 255 227 (dk_at dksX9_be_2 16 rfl rfl)
theorem dX9_be_65 : decode cX9_be 65 = .ok (.aload_n 1, 1) := dk_43 (dk_at dksX9_be_2 19 rfl rfl)
theorem dX9_be_66 : decode cX9_be 66 = .ok (.getfield 24, 3) := dk_180 0 24 (dk_at dksX9_be_2 20 rfl rfl)
theorem dX9_be_69 : decode cX9_be 69 = .ok (.iconst 0, 1) := dk_3 (dk_at dksX9_be_2 23 rfl rfl)
theorem dX9_be_70 : decode cX9_be 70 = .ok (.aload_n 0, 1) := dk_42 (dk_at dksX9_be_3 0 rfl rfl)
theorem dX9_be_71 : decode cX9_be 71 = .ok (.getfield 24, 3) := dk_180 0 24 (dk_at dksX9_be_3 1 rfl rfl)
theorem dX9_be_74 : decode cX9_be 74 = .ok (.iconst 0, 1) := dk_3 (dk_at dksX9_be_3 4 rfl rfl)
theorem dX9_be_75 : decode cX9_be 75 = .ok (.bipush 8, 2) := dk_16 8 (dk_at dksX9_be_3 5 rfl rfl)
theorem dX9_be_77 : decode cX9_be 77 = .ok (.invokestatic 50, 3) := dk_184 0 50 (dk_at dksX9_be_3 7 rfl rfl)
theorem dX9_be_80 : decode cX9_be 80 = .ok (.iconst 0, 1) := dk_3 (dk_at dksX9_be_3 10 rfl rfl)
theorem dX9_be_81 : decode cX9_be 81 = .ok (.istore_n 2, 1) := dk_61 (dk_at dksX9_be_3 11 rfl rfl)
theorem dX9_be_82 : decode cX9_be 82 = .ok (.iload_n 2, 1) := dk_28 (dk_at dksX9_be_3 12 rfl rfl)
theorem dX9_be_83 : decode cX9_be 83 = .ok (.aload_n 1, 1) := dk_43 (dk_at dksX9_be_3 13 rfl rfl)
theorem dX9_be_84 : decode cX9_be 84 = .ok (.getfield 56, 3) := dk_180 0 56 (dk_at dksX9_be_3 14 rfl rfl)
theorem dX9_be_87 : decode cX9_be 87 = .ok (.if_icmp .ge 24, 3) := dk_162 0 24 (dk_at dksX9_be_3 17 rfl rfl)
theorem dX9_be_90 : decode cX9_be 90 = .ok (.aload_n 0, 1) := dk_42 (dk_at dksX9_be_3 20 rfl rfl)
theorem dX9_be_91 : decode cX9_be 91 = .ok (.getfield 30, 3) := dk_180 0 30 (dk_at dksX9_be_3 21 rfl rfl)
theorem dX9_be_94 : decode cX9_be 94 = .ok (.iload_n 2, 1) := dk_28 (dk_at dksX9_be_4 0 rfl rfl)
theorem dX9_be_95 : decode cX9_be 95 = .ok (.aaload, 1) := dk_50 (dk_at dksX9_be_4 1 rfl rfl)
theorem dX9_be_96 : decode cX9_be 96 = .ok (.aload_n 1, 1) := dk_43 (dk_at dksX9_be_4 2 rfl rfl)
theorem dX9_be_97 : decode cX9_be 97 = .ok (.getfield 30, 3) := dk_180 0 30 (dk_at dksX9_be_4 3 rfl rfl)
theorem dX9_be_100 : decode cX9_be 100 = .ok (.iload_n 2, 1) := dk_28 (dk_at dksX9_be_4 6 rfl rfl)
theorem dX9_be_101 : decode cX9_be 101 = .ok (.aaload, 1) := dk_50 (dk_at dksX9_be_4 7 rfl rfl)
theorem dX9_be_102 : decode cX9_be 102 = .ok (.invokevirtual 59, 3) := dk_182 0 59 (dk_at dksX9_be_4 8 rfl rfl)
theorem dX9_be_105 : decode cX9_be 105 = .ok (.iinc 2 1, 3) := dk_132 2 1 (dk_at dksX9_be_4 11 rfl rfl)
theorem dX9_be_108 : decode cX9_be 108 = .ok (.goto (-26), 3) := dk_167 255 230 (dk_at dksX9_be_4 14 rfl rfl)
theorem dX9_be_111 : decode cX9_be 111 = .ok (.aload_n 0, 1) := dk_42 (dk_at dksX9_be_4 17 rfl rfl)
theorem dX9_be_112 : decode cX9_be 112 = .ok (.aload_n 1, 1) := dk_43 (dk_at dksX9_be_4 18 rfl rfl)
theorem dX9_be_113 : decode cX9_be 113 = .ok (.getfield 34, 3) := dk_180 0 34 (dk_at dksX9_be_4 19 rfl rfl)
theorem dX9_be_116 : decode cX9_be 116 = .ok (.putfield 34, 3) := dk_181 0 34 (dk_at dksX9_be_5 0 rfl rfl)
theorem dX9_be_119 : decode cX9_be 119 = .ok (.aload_n 0, 1) := dk_42 (dk_at dksX9_be_5 3 rfl rfl)
theorem dX9_be_120 : decode cX9_be 120 = .ok (.aload_n 1, 1) := dk_43 (dk_at dksX9_be_5 4 rfl rfl)
theorem dX9_be_121 : decode cX9_be 121 = .ok (.getfield 40, 3) := dk_180 0 40 (dk_at dksX9_be_5 5 rfl rfl)
theorem dX9_be_124 : decode cX9_be 124 = .ok (.putfield 40, 3) := dk_181 0 40 (dk_at dksX9_be_5 8 rfl rfl)
theorem dX9_be_127 : decode cX9_be 127 = .ok (.aload_n 0, 1) := dk_42 (dk_at dksX9_be_5 11 rfl rfl)
theorem dX9_be_128 : decode cX9_be 128 = .ok (.aload_n 1, 1) := dk_43 (dk_at dksX9_be_5 12 rfl rfl)
theorem dX9_be_129 : decode cX9_be 129 = .ok (.getfield 47, 3) := dk_180 0 47 (dk_at dksX9_be_5 13 rfl rfl)
theorem dX9_be_132 : decode cX9_be 132 = .ok (.putfield 47, 3) := dk_181 0 47 (dk_at dksX9_be_5 16 rfl rfl)
theorem dX9_be_135 : decode cX9_be 135 = .ok (.aload_n 0, 1) := dk_42 (dk_at dksX9_be_5 19 rfl rfl)
theorem dX9_be_136 : decode cX9_be 136 = .ok (.aload_n 1, 1) := dk_43 (dk_at dksX9_be_5 20 rfl rfl)
theorem dX9_be_137 : decode cX9_be 137 = .ok (.getfield 62, 3) := dk_180 0 62 (dk_at dksX9_be_5 21 rfl rfl)
theorem dX9_be_140 : decode cX9_be 140 = .ok (.putfield 62, 3) := dk_181 0 62 (dk_at dksX9_be_6 0 rfl rfl)
theorem dX9_be_143 : decode cX9_be 143 = .ok (.aload_n 0, 1) := dk_42 (dk_at dksX9_be_6 3 rfl rfl)
theorem dX9_be_144 : decode cX9_be 144 = .ok (.aload_n 1, 1) := dk_43 (dk_at dksX9_be_6 4 rfl rfl)
theorem dX9_be_145 : decode cX9_be 145 = .ok (.getfield 56, 3) := dk_180 0 56 (dk_at dksX9_be_6 5 rfl rfl)
theorem dX9_be_148 : decode cX9_be 148 = .ok (.putfield 56, 3) := dk_181 0 56 (dk_at dksX9_be_6 8 rfl rfl)
theorem dX9_be_151 : decode cX9_be 151 = .ok (.aload_n 0, 1) := dk_42 (dk_at dksX9_be_6 11 rfl rfl)
theorem dX9_be_152 : decode cX9_be 152 = .ok (.aload_n 1, 1) := dk_43 (dk_at dksX9_be_6 12 rfl rfl)
theorem dX9_be_153 : decode cX9_be 153 = .ok (.getfield 65, 3) := dk_180 0 65 (dk_at dksX9_be_6 13 rfl rfl)
theorem dX9_be_156 : decode cX9_be 156 = .ok (.putfield 65, 3) := dk_181 0 65 (dk_at dksX9_be_6 16 rfl rfl)
theorem dX9_be_159 : decode cX9_be 159 = .ok (.return_, 1) := dk_177 (dk_at dksX9_be_6 19 rfl rfl)
abbrev cX9_writes : ByteArray := prog_14_method_3_code
def yX9_writes : MethodName := ⟨RX9, "writes", "(ILLetterForms$Form;LLetterForms$Form;)V"⟩
def dkwX9_writes_6 : List UInt8 := [181, 0, 65, 177]
abbrev dktX9_writes_6 : List UInt8 := dkwX9_writes_6 ++ []
def dkwX9_writes_5 : List UInt8 := [180, 0, 75, 45, 182, 0, 43, 42, 89, 180, 0, 56, 4, 96, 181, 0, 56, 42, 42, 180, 0, 56]
abbrev dktX9_writes_5 : List UInt8 := dkwX9_writes_5 ++ dktX9_writes_6
def dkwX9_writes_4 : List UInt8 := [180, 0, 30, 42, 180, 0, 56, 50, 180, 0, 71, 44, 182, 0, 43, 42, 180, 0, 30, 42, 180, 0, 56, 50]
abbrev dktX9_writes_4 : List UInt8 := dkwX9_writes_4 ++ dktX9_writes_5
def dkwX9_writes_3 : List UInt8 := [180, 0, 56, 4, 100, 181, 0, 56, 42, 180, 0, 30, 42, 180, 0, 56, 50, 27, 181, 0, 68, 42]
abbrev dktX9_writes_3 : List UInt8 := dkwX9_writes_3 ++ dktX9_writes_4
def dkwX9_writes_2 : List UInt8 := [21, 5, 4, 96, 50, 83, 132, 5, 1, 167, 255, 228, 42, 180, 0, 30, 16, 39, 25, 4, 83, 42, 89]
abbrev dktX9_writes_2 : List UInt8 := dkwX9_writes_2 ++ dktX9_writes_3
def dkwX9_writes_1 : List UInt8 := [58, 4, 3, 54, 5, 21, 5, 4, 96, 16, 40, 162, 0, 25, 42, 180, 0, 30, 21, 5, 42, 180, 0, 30]
abbrev dktX9_writes_1 : List UInt8 := dkwX9_writes_1 ++ dktX9_writes_2
def dkwX9_writes_0 : List UInt8 := [42, 42, 180, 0, 65, 181, 0, 56, 42, 180, 0, 56, 16, 40, 160, 0, 64, 42, 180, 0, 30, 3, 50]
abbrev dktX9_writes_0 : List UInt8 := dkwX9_writes_0 ++ dktX9_writes_1
theorem dksX9_writes_0 : cX9_writes.data.toList.drop 0 = dktX9_writes_0 := by decide +kernel
theorem dksX9_writes_1 : cX9_writes.data.toList.drop 23 = dktX9_writes_1 := dk_seg dksX9_writes_0 23 rfl rfl
theorem dksX9_writes_2 : cX9_writes.data.toList.drop 47 = dktX9_writes_2 := dk_seg dksX9_writes_1 24 rfl rfl
theorem dksX9_writes_3 : cX9_writes.data.toList.drop 70 = dktX9_writes_3 := dk_seg dksX9_writes_2 23 rfl rfl
theorem dksX9_writes_4 : cX9_writes.data.toList.drop 92 = dktX9_writes_4 := dk_seg dksX9_writes_3 22 rfl rfl
theorem dksX9_writes_5 : cX9_writes.data.toList.drop 116 = dktX9_writes_5 := dk_seg dksX9_writes_4 24 rfl rfl
theorem dksX9_writes_6 : cX9_writes.data.toList.drop 138 = dktX9_writes_6 := dk_seg dksX9_writes_5 22 rfl rfl
theorem dX9_writes_0 : decode cX9_writes 0 = .ok (.aload_n 0, 1) := dk_42 (dk_at dksX9_writes_0 0 rfl rfl)
theorem dX9_writes_1 : decode cX9_writes 1 = .ok (.aload_n 0, 1) := dk_42 (dk_at dksX9_writes_0 1 rfl rfl)
theorem dX9_writes_2 : decode cX9_writes 2 = .ok (.getfield 65, 3) := dk_180 0 65 (dk_at dksX9_writes_0 2 rfl rfl)
theorem dX9_writes_5 : decode cX9_writes 5 = .ok (.putfield 56, 3) := dk_181 0 56 (dk_at dksX9_writes_0 5 rfl rfl)
theorem dX9_writes_8 : decode cX9_writes 8 = .ok (.aload_n 0, 1) := dk_42 (dk_at dksX9_writes_0 8 rfl rfl)
theorem dX9_writes_9 : decode cX9_writes 9 = .ok (.getfield 56, 3) := dk_180 0 56 (dk_at dksX9_writes_0 9 rfl rfl)
theorem dX9_writes_12 : decode cX9_writes 12 = .ok (.bipush 40, 2) := dk_16 40 (dk_at dksX9_writes_0 12 rfl rfl)
theorem dX9_writes_14 : decode cX9_writes 14 = .ok (.if_icmp .ne 64, 3) := dk_160 0 64 (dk_at dksX9_writes_0 14 rfl rfl)
theorem dX9_writes_17 : decode cX9_writes 17 = .ok (.aload_n 0, 1) := dk_42 (dk_at dksX9_writes_0 17 rfl rfl)
theorem dX9_writes_18 : decode cX9_writes 18 = .ok (.getfield 30, 3) := dk_180 0 30 (dk_at dksX9_writes_0 18 rfl rfl)
theorem dX9_writes_21 : decode cX9_writes 21 = .ok (.iconst 0, 1) := dk_3 (dk_at dksX9_writes_0 21 rfl rfl)
theorem dX9_writes_22 : decode cX9_writes 22 = .ok (.aaload, 1) := dk_50 (dk_at dksX9_writes_0 22 rfl rfl)
theorem dX9_writes_23 : decode cX9_writes 23 = .ok (.astore 4, 2) := dk_58 4 (dk_at dksX9_writes_1 0 rfl rfl)
theorem dX9_writes_25 : decode cX9_writes 25 = .ok (.iconst 0, 1) := dk_3 (dk_at dksX9_writes_1 2 rfl rfl)
theorem dX9_writes_26 : decode cX9_writes 26 = .ok (.istore 5, 2) := dk_54 5 (dk_at dksX9_writes_1 3 rfl rfl)
theorem dX9_writes_28 : decode cX9_writes 28 = .ok (.iload 5, 2) := dk_21 5 (dk_at dksX9_writes_1 5 rfl rfl)
theorem dX9_writes_30 : decode cX9_writes 30 = .ok (.iconst 1, 1) := dk_4 (dk_at dksX9_writes_1 7 rfl rfl)
theorem dX9_writes_31 : decode cX9_writes 31 = .ok (.iadd, 1) := dk_96 (dk_at dksX9_writes_1 8 rfl rfl)
theorem dX9_writes_32 : decode cX9_writes 32 = .ok (.bipush 40, 2) := dk_16 40 (dk_at dksX9_writes_1 9 rfl rfl)
theorem dX9_writes_34 : decode cX9_writes 34 = .ok (.if_icmp .ge 25, 3) := dk_162 0 25 (dk_at dksX9_writes_1 11 rfl rfl)
theorem dX9_writes_37 : decode cX9_writes 37 = .ok (.aload_n 0, 1) := dk_42 (dk_at dksX9_writes_1 14 rfl rfl)
theorem dX9_writes_38 : decode cX9_writes 38 = .ok (.getfield 30, 3) := dk_180 0 30 (dk_at dksX9_writes_1 15 rfl rfl)
theorem dX9_writes_41 : decode cX9_writes 41 = .ok (.iload 5, 2) := dk_21 5 (dk_at dksX9_writes_1 18 rfl rfl)
theorem dX9_writes_43 : decode cX9_writes 43 = .ok (.aload_n 0, 1) := dk_42 (dk_at dksX9_writes_1 20 rfl rfl)
theorem dX9_writes_44 : decode cX9_writes 44 = .ok (.getfield 30, 3) := dk_180 0 30 (dk_at dksX9_writes_1 21 rfl rfl)
theorem dX9_writes_47 : decode cX9_writes 47 = .ok (.iload 5, 2) := dk_21 5 (dk_at dksX9_writes_2 0 rfl rfl)
theorem dX9_writes_49 : decode cX9_writes 49 = .ok (.iconst 1, 1) := dk_4 (dk_at dksX9_writes_2 2 rfl rfl)
theorem dX9_writes_50 : decode cX9_writes 50 = .ok (.iadd, 1) := dk_96 (dk_at dksX9_writes_2 3 rfl rfl)
theorem dX9_writes_51 : decode cX9_writes 51 = .ok (.aaload, 1) := dk_50 (dk_at dksX9_writes_2 4 rfl rfl)
theorem dX9_writes_52 : decode cX9_writes 52 = .ok (.aastore, 1) := dk_83 (dk_at dksX9_writes_2 5 rfl rfl)
theorem dX9_writes_53 : decode cX9_writes 53 = .ok (.iinc 5 1, 3) := dk_132 5 1 (dk_at dksX9_writes_2 6 rfl rfl)
theorem dX9_writes_56 : decode cX9_writes 56 = .ok (.goto (-28), 3) := dk_167 255 228 (dk_at dksX9_writes_2 9 rfl rfl)
theorem dX9_writes_59 : decode cX9_writes 59 = .ok (.aload_n 0, 1) := dk_42 (dk_at dksX9_writes_2 12 rfl rfl)
theorem dX9_writes_60 : decode cX9_writes 60 = .ok (.getfield 30, 3) := dk_180 0 30 (dk_at dksX9_writes_2 13 rfl rfl)
theorem dX9_writes_63 : decode cX9_writes 63 = .ok (.bipush 39, 2) := dk_16 39 (dk_at dksX9_writes_2 16 rfl rfl)
theorem dX9_writes_65 : decode cX9_writes 65 = .ok (.aload 4, 2) := dk_25 4 (dk_at dksX9_writes_2 18 rfl rfl)
theorem dX9_writes_67 : decode cX9_writes 67 = .ok (.aastore, 1) := dk_83 (dk_at dksX9_writes_2 20 rfl rfl)
theorem dX9_writes_68 : decode cX9_writes 68 = .ok (.aload_n 0, 1) := dk_42 (dk_at dksX9_writes_2 21 rfl rfl)
theorem dX9_writes_69 : decode cX9_writes 69 = .ok (.dup, 1) := dk_89 (dk_at dksX9_writes_2 22 rfl rfl)
theorem dX9_writes_70 : decode cX9_writes 70 = .ok (.getfield 56, 3) := dk_180 0 56 (dk_at dksX9_writes_3 0 rfl rfl)
theorem dX9_writes_73 : decode cX9_writes 73 = .ok (.iconst 1, 1) := dk_4 (dk_at dksX9_writes_3 3 rfl rfl)
theorem dX9_writes_74 : decode cX9_writes 74 = .ok (.isub, 1) := dk_100 (dk_at dksX9_writes_3 4 rfl rfl)
theorem dX9_writes_75 : decode cX9_writes 75 = .ok (.putfield 56, 3) := dk_181 0 56 (dk_at dksX9_writes_3 5 rfl rfl)
theorem dX9_writes_78 : decode cX9_writes 78 = .ok (.aload_n 0, 1) := dk_42 (dk_at dksX9_writes_3 8 rfl rfl)
theorem dX9_writes_79 : decode cX9_writes 79 = .ok (.getfield 30, 3) := dk_180 0 30 (dk_at dksX9_writes_3 9 rfl rfl)
theorem dX9_writes_82 : decode cX9_writes 82 = .ok (.aload_n 0, 1) := dk_42 (dk_at dksX9_writes_3 12 rfl rfl)
theorem dX9_writes_83 : decode cX9_writes 83 = .ok (.getfield 56, 3) := dk_180 0 56 (dk_at dksX9_writes_3 13 rfl rfl)
theorem dX9_writes_86 : decode cX9_writes 86 = .ok (.aaload, 1) := dk_50 (dk_at dksX9_writes_3 16 rfl rfl)
theorem dX9_writes_87 : decode cX9_writes 87 = .ok (.iload_n 1, 1) := dk_27 (dk_at dksX9_writes_3 17 rfl rfl)
theorem dX9_writes_88 : decode cX9_writes 88 = .ok (.putfield 68, 3) := dk_181 0 68 (dk_at dksX9_writes_3 18 rfl rfl)
theorem dX9_writes_91 : decode cX9_writes 91 = .ok (.aload_n 0, 1) := dk_42 (dk_at dksX9_writes_3 21 rfl rfl)
theorem dX9_writes_92 : decode cX9_writes 92 = .ok (.getfield 30, 3) := dk_180 0 30 (dk_at dksX9_writes_4 0 rfl rfl)
theorem dX9_writes_95 : decode cX9_writes 95 = .ok (.aload_n 0, 1) := dk_42 (dk_at dksX9_writes_4 3 rfl rfl)
theorem dX9_writes_96 : decode cX9_writes 96 = .ok (.getfield 56, 3) := dk_180 0 56 (dk_at dksX9_writes_4 4 rfl rfl)
theorem dX9_writes_99 : decode cX9_writes 99 = .ok (.aaload, 1) := dk_50 (dk_at dksX9_writes_4 7 rfl rfl)
theorem dX9_writes_100 : decode cX9_writes 100 = .ok (.getfield 71, 3) := dk_180 0 71 (dk_at dksX9_writes_4 8 rfl rfl)
theorem dX9_writes_103 : decode cX9_writes 103 = .ok (.aload_n 2, 1) := dk_44 (dk_at dksX9_writes_4 11 rfl rfl)
theorem dX9_writes_104 : decode cX9_writes 104 = .ok (.invokevirtual 43, 3) := dk_182 0 43 (dk_at dksX9_writes_4 12 rfl rfl)
theorem dX9_writes_107 : decode cX9_writes 107 = .ok (.aload_n 0, 1) := dk_42 (dk_at dksX9_writes_4 15 rfl rfl)
theorem dX9_writes_108 : decode cX9_writes 108 = .ok (.getfield 30, 3) := dk_180 0 30 (dk_at dksX9_writes_4 16 rfl rfl)
theorem dX9_writes_111 : decode cX9_writes 111 = .ok (.aload_n 0, 1) := dk_42 (dk_at dksX9_writes_4 19 rfl rfl)
theorem dX9_writes_112 : decode cX9_writes 112 = .ok (.getfield 56, 3) := dk_180 0 56 (dk_at dksX9_writes_4 20 rfl rfl)
theorem dX9_writes_115 : decode cX9_writes 115 = .ok (.aaload, 1) := dk_50 (dk_at dksX9_writes_4 23 rfl rfl)
theorem dX9_writes_116 : decode cX9_writes 116 = .ok (.getfield 75, 3) := dk_180 0 75 (dk_at dksX9_writes_5 0 rfl rfl)
theorem dX9_writes_119 : decode cX9_writes 119 = .ok (.aload_n 3, 1) := dk_45 (dk_at dksX9_writes_5 3 rfl rfl)
theorem dX9_writes_120 : decode cX9_writes 120 = .ok (.invokevirtual 43, 3) := dk_182 0 43 (dk_at dksX9_writes_5 4 rfl rfl)
theorem dX9_writes_123 : decode cX9_writes 123 = .ok (.aload_n 0, 1) := dk_42 (dk_at dksX9_writes_5 7 rfl rfl)
theorem dX9_writes_124 : decode cX9_writes 124 = .ok (.dup, 1) := dk_89 (dk_at dksX9_writes_5 8 rfl rfl)
theorem dX9_writes_125 : decode cX9_writes 125 = .ok (.getfield 56, 3) := dk_180 0 56 (dk_at dksX9_writes_5 9 rfl rfl)
theorem dX9_writes_128 : decode cX9_writes 128 = .ok (.iconst 1, 1) := dk_4 (dk_at dksX9_writes_5 12 rfl rfl)
theorem dX9_writes_129 : decode cX9_writes 129 = .ok (.iadd, 1) := dk_96 (dk_at dksX9_writes_5 13 rfl rfl)
theorem dX9_writes_130 : decode cX9_writes 130 = .ok (.putfield 56, 3) := dk_181 0 56 (dk_at dksX9_writes_5 14 rfl rfl)
theorem dX9_writes_133 : decode cX9_writes 133 = .ok (.aload_n 0, 1) := dk_42 (dk_at dksX9_writes_5 17 rfl rfl)
theorem dX9_writes_134 : decode cX9_writes 134 = .ok (.aload_n 0, 1) := dk_42 (dk_at dksX9_writes_5 18 rfl rfl)
theorem dX9_writes_135 : decode cX9_writes 135 = .ok (.getfield 56, 3) := dk_180 0 56 (dk_at dksX9_writes_5 19 rfl rfl)
theorem dX9_writes_138 : decode cX9_writes 138 = .ok (.putfield 65, 3) := dk_181 0 65 (dk_at dksX9_writes_6 0 rfl rfl)
theorem dX9_writes_141 : decode cX9_writes 141 = .ok (.return_, 1) := dk_177 (dk_at dksX9_writes_6 3 rfl rfl)
theorem q131 : (Jvm.Cond.initialized "LetterForms$State") ∈ lw_all := lw_g (lw_at lw_m1 12 rfl) rfl
theorem q340 : (Jvm.Cond.instantiable "LetterForms$State" (10 : Nat)) ∈ lw_all := lw_g (lw_at lw_m1 221 rfl) rfl
theorem q342 : (Jvm.Cond.instanceMethod ({ cls := "LetterForms$State", name := "<init>", desc := "()V" } : Jvm.MethodName)) ∈ lw_all := lw_g (lw_at lw_m1 223 rfl) rfl
theorem q343 : (Jvm.Cond.code ({ cls := "LetterForms$State", name := "<init>", desc := "()V" } : Jvm.MethodName) prog_14_method_1_code (2 : Nat) (Option.none : Option Jvm.ClassFile.FieldType)) ∈ lw_all := lw_g (lw_at lw_m1 224 rfl) rfl
theorem q344 : (Jvm.Cond.methodLink "LetterForms$State" (3 : Nat) ({ cls := "java/lang/Object", name := "<init>", desc := "()V" } : Jvm.MethodName)) ∈ lw_all := lw_g (lw_at lw_m1 225 rfl) rfl
theorem q345 : (Jvm.Cond.classLink "LetterForms$State" (9 : Nat) "LetterForms$Form") ∈ lw_all := lw_g (lw_at lw_m1 226 rfl) rfl
theorem q347 : (Jvm.Cond.classLink "LetterForms$State" (17 : Nat) "[[I") ∈ lw_all := lw_g (lw_at lw_m1 228 rfl) rfl
theorem q349 : (Jvm.Cond.classLink "LetterForms$State" (22 : Nat) "LetterForms$Sign") ∈ lw_all := lw_g (lw_at lw_m1 230 rfl) rfl
theorem q351 : (Jvm.Cond.classLink "LetterForms$State" (28 : Nat) "LetterForms$Act") ∈ lw_all := lw_g (lw_at lw_m1 232 rfl) rfl
theorem q353 : (Jvm.Cond.methodLinkNest "LetterForms$State" (38 : Nat) ({ cls := "LetterForms$Form", name := "<init>", desc := "()V" } : Jvm.MethodName) "LetterForms") ∈ lw_tbl := lw_at lw_m1 234 rfl
theorem q355 : (Jvm.Cond.methodLinkNest "LetterForms$State" (39 : Nat) ({ cls := "LetterForms$Act", name := "<init>", desc := "()V" } : Jvm.MethodName) "LetterForms") ∈ lw_tbl := lw_at lw_m1 236 rfl
theorem q362 : (Jvm.Cond.fieldLinkNest "LetterForms$State" (71 : Nat) "LetterForms$Act" "before" "LLetterForms$Form;" "LetterForms") ∈ lw_tbl := lw_at lw_m2 3 rfl
theorem q365 : (Jvm.Cond.fieldLinkNest "LetterForms$State" (75 : Nat) "LetterForms$Act" "behind" "LLetterForms$Form;" "LetterForms") ∈ lw_tbl := lw_at lw_m2 6 rfl
theorem q368 : (Jvm.Cond.fieldLinkNest "LetterForms$State" (68 : Nat) "LetterForms$Act" "form" "I" "LetterForms") ∈ lw_tbl := lw_at lw_m2 9 rfl
theorem q377 : (Jvm.Cond.fieldLink "LetterForms$State" (11 : Nat) "LetterForms$State" "forms" "[LLetterForms$Form;") ∈ lw_all := lw_g (lw_at lw_m2 18 rfl) rfl
theorem q379 : (Jvm.Cond.fieldLink "LetterForms$State" (19 : Nat) "LetterForms$State" "tables" "[[I") ∈ lw_all := lw_g (lw_at lw_m2 20 rfl) rfl
theorem q381 : (Jvm.Cond.fieldLink "LetterForms$State" (24 : Nat) "LetterForms$State" "signs" "[LLetterForms$Sign;") ∈ lw_all := lw_g (lw_at lw_m2 22 rfl) rfl
theorem q383 : (Jvm.Cond.fieldLink "LetterForms$State" (30 : Nat) "LetterForms$State" "acts" "[LLetterForms$Act;") ∈ lw_all := lw_g (lw_at lw_m2 24 rfl) rfl
theorem q385 : (Jvm.Cond.fieldLink "LetterForms$State" (34 : Nat) "LetterForms$State" "p" "I") ∈ lw_all := lw_g (lw_at lw_m2 26 rfl) rfl
theorem q387 : (Jvm.Cond.fieldLink "LetterForms$State" (40 : Nat) "LetterForms$State" "formMany" "I") ∈ lw_all := lw_g (lw_at lw_m2 28 rfl) rfl
theorem q389 : (Jvm.Cond.fieldLink "LetterForms$State" (47 : Nat) "LetterForms$State" "tableMany" "I") ∈ lw_all := lw_g (lw_at lw_m2 30 rfl) rfl
theorem q391 : (Jvm.Cond.fieldLink "LetterForms$State" (62 : Nat) "LetterForms$State" "signMany" "I") ∈ lw_all := lw_g (lw_at lw_m2 32 rfl) rfl
theorem q393 : (Jvm.Cond.fieldLink "LetterForms$State" (56 : Nat) "LetterForms$State" "actMany" "I") ∈ lw_all := lw_g (lw_at lw_m2 34 rfl) rfl
theorem q395 : (Jvm.Cond.fieldLink "LetterForms$State" (65 : Nat) "LetterForms$State" "done" "I") ∈ lw_all := lw_g (lw_at lw_m2 36 rfl) rfl
theorem q397 : (Jvm.Cond.laysFinal "LetterForms$State" "LetterForms$State" "forms" "[LLetterForms$Form;") ∈ lw_all := lw_g (lw_at lw_m2 38 rfl) rfl
theorem q398 : (Jvm.Cond.soleField "LetterForms$State" "forms") ∈ lw_all := lw_g (lw_at lw_m2 39 rfl) rfl
theorem q399 : (Jvm.Cond.laysFinal "LetterForms$State" "LetterForms$State" "tables" "[[I") ∈ lw_all := lw_g (lw_at lw_m2 40 rfl) rfl
theorem q400 : (Jvm.Cond.soleField "LetterForms$State" "tables") ∈ lw_all := lw_g (lw_at lw_m2 41 rfl) rfl
theorem q401 : (Jvm.Cond.laysFinal "LetterForms$State" "LetterForms$State" "signs" "[LLetterForms$Sign;") ∈ lw_all := lw_g (lw_at lw_m2 42 rfl) rfl
theorem q402 : (Jvm.Cond.soleField "LetterForms$State" "signs") ∈ lw_all := lw_g (lw_at lw_m2 43 rfl) rfl
theorem q403 : (Jvm.Cond.laysFinal "LetterForms$State" "LetterForms$State" "acts" "[LLetterForms$Act;") ∈ lw_all := lw_g (lw_at lw_m2 44 rfl) rfl
theorem q404 : (Jvm.Cond.soleField "LetterForms$State" "acts") ∈ lw_all := lw_g (lw_at lw_m2 45 rfl) rfl
theorem q405 : (Jvm.Cond.lays "LetterForms$State" "LetterForms$State" "p" "I") ∈ lw_all := lw_g (lw_at lw_m2 46 rfl) rfl
theorem q406 : (Jvm.Cond.soleField "LetterForms$State" "p") ∈ lw_all := lw_g (lw_at lw_m2 47 rfl) rfl
theorem q407 : (Jvm.Cond.lays "LetterForms$State" "LetterForms$State" "formMany" "I") ∈ lw_all := lw_g (lw_at lw_m2 48 rfl) rfl
theorem q408 : (Jvm.Cond.soleField "LetterForms$State" "formMany") ∈ lw_all := lw_g (lw_at lw_m2 49 rfl) rfl
theorem q409 : (Jvm.Cond.lays "LetterForms$State" "LetterForms$State" "tableMany" "I") ∈ lw_all := lw_g (lw_at lw_m2 50 rfl) rfl
theorem q410 : (Jvm.Cond.soleField "LetterForms$State" "tableMany") ∈ lw_all := lw_g (lw_at lw_m2 51 rfl) rfl
theorem q411 : (Jvm.Cond.lays "LetterForms$State" "LetterForms$State" "signMany" "I") ∈ lw_all := lw_g (lw_at lw_m2 52 rfl) rfl
theorem q412 : (Jvm.Cond.soleField "LetterForms$State" "signMany") ∈ lw_all := lw_g (lw_at lw_m2 53 rfl) rfl
theorem q413 : (Jvm.Cond.lays "LetterForms$State" "LetterForms$State" "actMany" "I") ∈ lw_all := lw_g (lw_at lw_m2 54 rfl) rfl
theorem q414 : (Jvm.Cond.soleField "LetterForms$State" "actMany") ∈ lw_all := lw_g (lw_at lw_m2 55 rfl) rfl
theorem q415 : (Jvm.Cond.lays "LetterForms$State" "LetterForms$State" "done" "I") ∈ lw_all := lw_g (lw_at lw_m2 56 rfl) rfl
theorem q416 : (Jvm.Cond.soleField "LetterForms$State" "done") ∈ lw_all := lw_g (lw_at lw_m2 57 rfl) rfl
theorem q417 : (Jvm.Cond.superclass "LetterForms$State" "java/lang/Object") ∈ lw_all := lw_g (lw_at lw_m2 58 rfl) rfl
theorem q526 : (Jvm.Cond.instanceMethod ({ cls := "LetterForms$State", name := "be", desc := "(LLetterForms$State;)V" } : Jvm.MethodName)) ∈ lw_all := lw_g (lw_at lw_m2 167 rfl) rfl
theorem q527 : (Jvm.Cond.selects "LetterForms$State" ({ cls := "LetterForms$State", name := "be", desc := "(LLetterForms$State;)V" } : Jvm.MethodName) ({ cls := "LetterForms$State", name := "be", desc := "(LLetterForms$State;)V" } : Jvm.MethodName)) ∈ lw_all := lw_g (lw_at lw_m2 168 rfl) rfl
theorem q528 : (Jvm.Cond.code ({ cls := "LetterForms$State", name := "be", desc := "(LLetterForms$State;)V" } : Jvm.MethodName) prog_14_method_2_code (3 : Nat) (Option.none : Option Jvm.ClassFile.FieldType)) ∈ lw_all := lw_g (lw_at lw_m2 169 rfl) rfl
theorem q529 : (Jvm.Cond.methodLink "LetterForms$State" (43 : Nat) ({ cls := "LetterForms$Form", name := "be", desc := "(LLetterForms$Form;)V" } : Jvm.MethodName)) ∈ lw_all := lw_g (lw_at lw_m2 170 rfl) rfl
theorem q530 : (Jvm.Cond.methodLink "LetterForms$State" (50 : Nat) ({ cls := "java/lang/System", name := "arraycopy", desc := "(Ljava/lang/Object;ILjava/lang/Object;II)V" } : Jvm.MethodName)) ∈ lw_all := lw_g (lw_at lw_m2 171 rfl) rfl
theorem q531 : (Jvm.Cond.methodLink "LetterForms$State" (59 : Nat) ({ cls := "LetterForms$Act", name := "be", desc := "(LLetterForms$Act;)V" } : Jvm.MethodName)) ∈ lw_all := lw_g (lw_at lw_m2 172 rfl) rfl
theorem q874 : (Jvm.Cond.instanceMethod ({ cls := "LetterForms$State", name := "writes", desc := "(ILLetterForms$Form;LLetterForms$Form;)V" } : Jvm.MethodName)) ∈ lw_all := lw_g (lw_at lw_m4 35 rfl) rfl
theorem q875 : (Jvm.Cond.selects "LetterForms$State" ({ cls := "LetterForms$State", name := "writes", desc := "(ILLetterForms$Form;LLetterForms$Form;)V" } : Jvm.MethodName) ({ cls := "LetterForms$State", name := "writes", desc := "(ILLetterForms$Form;LLetterForms$Form;)V" } : Jvm.MethodName)) ∈ lw_all := lw_g (lw_at lw_m4 36 rfl) rfl
theorem q876 : (Jvm.Cond.code ({ cls := "LetterForms$State", name := "writes", desc := "(ILLetterForms$Form;LLetterForms$Form;)V" } : Jvm.MethodName) prog_14_method_3_code (6 : Nat) (Option.none : Option Jvm.ClassFile.FieldType)) ∈ lw_all := lw_g (lw_at lw_m4 37 rfl) rfl
theorem q1989 : (Jvm.Cond.castable "LetterForms$State" "java/lang/Object") ∈ lw_tbl := lw_at lw_m8 190 rfl
theorem in_X9 : ∀ w ∈ wsX90, w ∈ lw_all := lw_in wsX90 [397, 399, 401, 403, 405, 407, 409, 411, 413, 415] (by decide +kernel) (by decide +kernel)
/-! LetterForms$Reader -/
set_option maxRecDepth 100000
def RX2 : String := "LetterForms$Reader"
def TX2 : u_T := fun k => match k with
  | 0 => ("LetterForms$Reader", "tape", "[B", true)
  | 1 => ("LetterForms$Reader", "itself", "LLetterForms$Itself;", true)
  | 2 => ("LetterForms$Reader", "wrong", "LLetterForms$Wrong;", true)
  | 3 => ("LetterForms$Reader", "size", "I", false)
  | 4 => ("LetterForms$Reader", "end", "I", false)
  | 5 => ("LetterForms$Reader", "at", "I", false)
  | 6 => ("LetterForms$Reader", "deep", "I", false)
  | _ => ("LetterForms$Reader", "items", "I", false)
def tyX2 : Nat → FieldType := fun k => match k with
  | 0 => .array .byte
  | 1 => .object "LetterForms$Itself"
  | 2 => .object "LetterForms$Wrong"
  | 3 => .int
  | 4 => .int
  | 5 => .int
  | 6 => .int
  | _ => .int
abbrev wsX20 : List Cond := u_ws RX2 TX2 8
theorem nmX2 : ∀ a, a < 8 → ∀ b, b < 8 → a ≠ b → (TX2 a).2.1 ≠ (TX2 b).2.1 := by decide +kernel
theorem tyX2_ok : ∀ k, k < 8 → parseFieldDescriptor (TX2 k).2.2.1 = some (tyX2 k) := by decide +kernel
abbrev cX2_init : ByteArray := prog_12_method_1_code
def yX2_init : MethodName := ⟨RX2, "<init>", "()V"⟩
def dkwX2_init_1 : List UInt8 := [42, 187, 0, 22, 89, 183, 0, 24, 181, 0, 25, 177]
abbrev dktX2_init_1 : List UInt8 := dkwX2_init_1 ++ []
def dkwX2_init_0 : List UInt8 := [42, 183, 0, 3, 42, 17, 1, 144, 188, 8, 181, 0, 9, 42, 187, 0, 15, 89, 183, 0, 17, 181, 0, 18]
abbrev dktX2_init_0 : List UInt8 := dkwX2_init_0 ++ dktX2_init_1
theorem dksX2_init_0 : cX2_init.data.toList.drop 0 = dktX2_init_0 := by decide +kernel
theorem dksX2_init_1 : cX2_init.data.toList.drop 24 = dktX2_init_1 := dk_seg dksX2_init_0 24 rfl rfl
theorem dX2_init_0 : decode cX2_init 0 = .ok (.aload_n 0, 1) := dk_42 (dk_at dksX2_init_0 0 rfl rfl)
theorem dX2_init_1 : decode cX2_init 1 = .ok (.invokespecial 3, 3) := dk_183 0 3 (dk_at dksX2_init_0 1 rfl rfl)
theorem dX2_init_4 : decode cX2_init 4 = .ok (.aload_n 0, 1) := dk_42 (dk_at dksX2_init_0 4 rfl rfl)
theorem dX2_init_5 : decode cX2_init 5 = .ok (.sipush 400, 3) := dk_17 1 144 (dk_at dksX2_init_0 5 rfl rfl)
theorem dX2_init_8 : decode cX2_init 8 = .ok (.newarray .byte, 2) := dk_188_8 (dk_at dksX2_init_0 8 rfl rfl)
theorem dX2_init_10 : decode cX2_init 10 = .ok (.putfield 9, 3) := dk_181 0 9 (dk_at dksX2_init_0 10 rfl rfl)
theorem dX2_init_13 : decode cX2_init 13 = .ok (.aload_n 0, 1) := dk_42 (dk_at dksX2_init_0 13 rfl rfl)
theorem dX2_init_14 : decode cX2_init 14 = .ok (.new 15, 3) := dk_187 0 15 (dk_at dksX2_init_0 14 rfl rfl)
theorem dX2_init_17 : decode cX2_init 17 = .ok (.dup, 1) := dk_89 (dk_at dksX2_init_0 17 rfl rfl)
theorem dX2_init_18 : decode cX2_init 18 = .ok (.invokespecial 17, 3) := dk_183 0 17 (dk_at dksX2_init_0 18 rfl rfl)
theorem dX2_init_21 : decode cX2_init 21 = .ok (.putfield 18, 3) := dk_181 0 18 (dk_at dksX2_init_0 21 rfl rfl)
theorem dX2_init_24 : decode cX2_init 24 = .ok (.aload_n 0, 1) := dk_42 (dk_at dksX2_init_1 0 rfl rfl)
theorem dX2_init_25 : decode cX2_init 25 = .ok (.new 22, 3) := dk_187 0 22 (dk_at dksX2_init_1 1 rfl rfl)
theorem dX2_init_28 : decode cX2_init 28 = .ok (.dup, 1) := dk_89 (dk_at dksX2_init_1 4 rfl rfl)
theorem dX2_init_29 : decode cX2_init 29 = .ok (.invokespecial 24, 3) := dk_183 0 24 (dk_at dksX2_init_1 5 rfl rfl)
theorem dX2_init_32 : decode cX2_init 32 = .ok (.putfield 25, 3) := dk_181 0 25 (dk_at dksX2_init_1 8 rfl rfl)
theorem dX2_init_35 : decode cX2_init 35 = .ok (.return_, 1) := dk_177 (dk_at dksX2_init_1 11 rfl rfl)
abbrev cX2_text : ByteArray := prog_12_method_9_code
def yX2_text : MethodName := ⟨RX2, "text", "(I)LLetterForms$Sign;"⟩
def dkwX2_text_1 : List UInt8 := [77, 42, 182, 0, 39, 2, 159, 0, 11, 42, 42, 180, 0, 33, 182, 0, 43, 44, 176]
abbrev dktX2_text_1 : List UInt8 := dkwX2_text_1 ++ []
def dkwX2_text_0 : List UInt8 := [42, 27, 181, 0, 36, 42, 3, 181, 0, 33, 42, 3, 181, 0, 50, 42, 3, 181, 0, 47, 42, 182, 0, 53]
abbrev dktX2_text_0 : List UInt8 := dkwX2_text_0 ++ dktX2_text_1
theorem dksX2_text_0 : cX2_text.data.toList.drop 0 = dktX2_text_0 := by decide +kernel
theorem dksX2_text_1 : cX2_text.data.toList.drop 24 = dktX2_text_1 := dk_seg dksX2_text_0 24 rfl rfl
theorem dX2_text_0 : decode cX2_text 0 = .ok (.aload_n 0, 1) := dk_42 (dk_at dksX2_text_0 0 rfl rfl)
theorem dX2_text_1 : decode cX2_text 1 = .ok (.iload_n 1, 1) := dk_27 (dk_at dksX2_text_0 1 rfl rfl)
theorem dX2_text_2 : decode cX2_text 2 = .ok (.putfield 36, 3) := dk_181 0 36 (dk_at dksX2_text_0 2 rfl rfl)
theorem dX2_text_5 : decode cX2_text 5 = .ok (.aload_n 0, 1) := dk_42 (dk_at dksX2_text_0 5 rfl rfl)
theorem dX2_text_6 : decode cX2_text 6 = .ok (.iconst 0, 1) := dk_3 (dk_at dksX2_text_0 6 rfl rfl)
theorem dX2_text_7 : decode cX2_text 7 = .ok (.putfield 33, 3) := dk_181 0 33 (dk_at dksX2_text_0 7 rfl rfl)
theorem dX2_text_10 : decode cX2_text 10 = .ok (.aload_n 0, 1) := dk_42 (dk_at dksX2_text_0 10 rfl rfl)
theorem dX2_text_11 : decode cX2_text 11 = .ok (.iconst 0, 1) := dk_3 (dk_at dksX2_text_0 11 rfl rfl)
theorem dX2_text_12 : decode cX2_text 12 = .ok (.putfield 50, 3) := dk_181 0 50 (dk_at dksX2_text_0 12 rfl rfl)
theorem dX2_text_15 : decode cX2_text 15 = .ok (.aload_n 0, 1) := dk_42 (dk_at dksX2_text_0 15 rfl rfl)
theorem dX2_text_16 : decode cX2_text 16 = .ok (.iconst 0, 1) := dk_3 (dk_at dksX2_text_0 16 rfl rfl)
theorem dX2_text_17 : decode cX2_text 17 = .ok (.putfield 47, 3) := dk_181 0 47 (dk_at dksX2_text_0 17 rfl rfl)
theorem dX2_text_20 : decode cX2_text 20 = .ok (.aload_n 0, 1) := dk_42 (dk_at dksX2_text_0 20 rfl rfl)
theorem dX2_text_21 : decode cX2_text 21 = .ok (.invokevirtual 53, 3) := dk_182 0 53 (dk_at dksX2_text_0 21 rfl rfl)
theorem dX2_text_24 : decode cX2_text 24 = .ok (.astore_n 2, 1) := dk_77 (dk_at dksX2_text_1 0 rfl rfl)
theorem dX2_text_25 : decode cX2_text 25 = .ok (.aload_n 0, 1) := dk_42 (dk_at dksX2_text_1 1 rfl rfl)
theorem dX2_text_26 : decode cX2_text 26 = .ok (.invokevirtual 39, 3) := dk_182 0 39 (dk_at dksX2_text_1 2 rfl rfl)
theorem dX2_text_29 : decode cX2_text 29 = .ok (.iconst (-1), 1) := dk_2 (dk_at dksX2_text_1 5 rfl rfl)
theorem dX2_text_30 : decode cX2_text 30 = .ok (.if_icmp .eq 11, 3) := dk_159 0 11 (dk_at dksX2_text_1 6 rfl rfl)
theorem dX2_text_33 : decode cX2_text 33 = .ok (.aload_n 0, 1) := dk_42 (dk_at dksX2_text_1 9 rfl rfl)
theorem dX2_text_34 : decode cX2_text 34 = .ok (.aload_n 0, 1) := dk_42 (dk_at dksX2_text_1 10 rfl rfl)
theorem dX2_text_35 : decode cX2_text 35 = .ok (.getfield 33, 3) := dk_180 0 33 (dk_at dksX2_text_1 11 rfl rfl)
theorem dX2_text_38 : decode cX2_text 38 = .ok (.invokevirtual 43, 3) := dk_182 0 43 (dk_at dksX2_text_1 14 rfl rfl)
theorem dX2_text_41 : decode cX2_text 41 = .ok (.aload_n 2, 1) := dk_44 (dk_at dksX2_text_1 17 rfl rfl)
theorem dX2_text_42 : decode cX2_text 42 = .ok (.areturn, 1) := dk_176 (dk_at dksX2_text_1 18 rfl rfl)
abbrev cX2_sum : ByteArray := prog_12_method_10_code
def yX2_sum : MethodName := ⟨RX2, "sum", "()LLetterForms$Sign;"⟩
def dkwX2_sum_2 : List UInt8 := [43, 176]
abbrev dktX2_sum_2 : List UInt8 := dkwX2_sum_2 ++ []
def dkwX2_sum_1 : List UInt8 := [180, 0, 33, 4, 96, 181, 0, 33, 187, 0, 63, 89, 43, 42, 182, 0, 57, 183, 0, 65, 76, 167, 255, 216]
abbrev dktX2_sum_1 : List UInt8 := dkwX2_sum_1 ++ dktX2_sum_2
def dkwX2_sum_0 : List UInt8 := [42, 182, 0, 57, 76, 42, 182, 0, 39, 16, 43, 160, 0, 37, 42, 42, 180, 0, 33, 182, 0, 60, 42, 89]
abbrev dktX2_sum_0 : List UInt8 := dkwX2_sum_0 ++ dktX2_sum_1
theorem dksX2_sum_0 : cX2_sum.data.toList.drop 0 = dktX2_sum_0 := by decide +kernel
theorem dksX2_sum_1 : cX2_sum.data.toList.drop 24 = dktX2_sum_1 := dk_seg dksX2_sum_0 24 rfl rfl
theorem dksX2_sum_2 : cX2_sum.data.toList.drop 48 = dktX2_sum_2 := dk_seg dksX2_sum_1 24 rfl rfl
theorem dX2_sum_0 : decode cX2_sum 0 = .ok (.aload_n 0, 1) := dk_42 (dk_at dksX2_sum_0 0 rfl rfl)
theorem dX2_sum_1 : decode cX2_sum 1 = .ok (.invokevirtual 57, 3) := dk_182 0 57 (dk_at dksX2_sum_0 1 rfl rfl)
theorem dX2_sum_4 : decode cX2_sum 4 = .ok (.astore_n 1, 1) := dk_76 (dk_at dksX2_sum_0 4 rfl rfl)
theorem dX2_sum_5 : decode cX2_sum 5 = .ok (.aload_n 0, 1) := dk_42 (dk_at dksX2_sum_0 5 rfl rfl)
theorem dX2_sum_6 : decode cX2_sum 6 = .ok (.invokevirtual 39, 3) := dk_182 0 39 (dk_at dksX2_sum_0 6 rfl rfl)
theorem dX2_sum_9 : decode cX2_sum 9 = .ok (.bipush 43, 2) := dk_16 43 (dk_at dksX2_sum_0 9 rfl rfl)
theorem dX2_sum_11 : decode cX2_sum 11 = .ok (.if_icmp .ne 37, 3) := dk_160 0 37 (dk_at dksX2_sum_0 11 rfl rfl)
theorem dX2_sum_14 : decode cX2_sum 14 = .ok (.aload_n 0, 1) := dk_42 (dk_at dksX2_sum_0 14 rfl rfl)
theorem dX2_sum_15 : decode cX2_sum 15 = .ok (.aload_n 0, 1) := dk_42 (dk_at dksX2_sum_0 15 rfl rfl)
theorem dX2_sum_16 : decode cX2_sum 16 = .ok (.getfield 33, 3) := dk_180 0 33 (dk_at dksX2_sum_0 16 rfl rfl)
theorem dX2_sum_19 : decode cX2_sum 19 = .ok (.invokevirtual 60, 3) := dk_182 0 60 (dk_at dksX2_sum_0 19 rfl rfl)
theorem dX2_sum_22 : decode cX2_sum 22 = .ok (.aload_n 0, 1) := dk_42 (dk_at dksX2_sum_0 22 rfl rfl)
theorem dX2_sum_23 : decode cX2_sum 23 = .ok (.dup, 1) := dk_89 (dk_at dksX2_sum_0 23 rfl rfl)
theorem dX2_sum_24 : decode cX2_sum 24 = .ok (.getfield 33, 3) := dk_180 0 33 (dk_at dksX2_sum_1 0 rfl rfl)
theorem dX2_sum_27 : decode cX2_sum 27 = .ok (.iconst 1, 1) := dk_4 (dk_at dksX2_sum_1 3 rfl rfl)
theorem dX2_sum_28 : decode cX2_sum 28 = .ok (.iadd, 1) := dk_96 (dk_at dksX2_sum_1 4 rfl rfl)
theorem dX2_sum_29 : decode cX2_sum 29 = .ok (.putfield 33, 3) := dk_181 0 33 (dk_at dksX2_sum_1 5 rfl rfl)
theorem dX2_sum_32 : decode cX2_sum 32 = .ok (.new 63, 3) := dk_187 0 63 (dk_at dksX2_sum_1 8 rfl rfl)
theorem dX2_sum_35 : decode cX2_sum 35 = .ok (.dup, 1) := dk_89 (dk_at dksX2_sum_1 11 rfl rfl)
theorem dX2_sum_36 : decode cX2_sum 36 = .ok (.aload_n 1, 1) := dk_43 (dk_at dksX2_sum_1 12 rfl rfl)
theorem dX2_sum_37 : decode cX2_sum 37 = .ok (.aload_n 0, 1) := dk_42 (dk_at dksX2_sum_1 13 rfl rfl)
theorem dX2_sum_38 : decode cX2_sum 38 = .ok (.invokevirtual 57, 3) := dk_182 0 57 (dk_at dksX2_sum_1 14 rfl rfl)
theorem dX2_sum_41 : decode cX2_sum 41 = .ok (.invokespecial 65, 3) := dk_183 0 65 (dk_at dksX2_sum_1 17 rfl rfl)
theorem dX2_sum_44 : decode cX2_sum 44 = .ok (.astore_n 1, 1) := dk_76 (dk_at dksX2_sum_1 20 rfl rfl)
theorem dX2_sum_45 : decode cX2_sum 45 = .ok (.goto (-40), 3) := dk_167 255 216 (dk_at dksX2_sum_1 21 rfl rfl)
theorem dX2_sum_48 : decode cX2_sum 48 = .ok (.aload_n 1, 1) := dk_43 (dk_at dksX2_sum_2 0 rfl rfl)
theorem dX2_sum_49 : decode cX2_sum 49 = .ok (.areturn, 1) := dk_176 (dk_at dksX2_sum_2 1 rfl rfl)
abbrev cX2_term : ByteArray := prog_12_method_11_code
def yX2_term : MethodName := ⟨RX2, "term", "()LLetterForms$Sign;"⟩
def dkwX2_term_2 : List UInt8 := [43, 176]
abbrev dktX2_term_2 : List UInt8 := dkwX2_term_2 ++ []
def dkwX2_term_1 : List UInt8 := [180, 0, 33, 4, 96, 181, 0, 33, 187, 0, 71, 89, 43, 42, 182, 0, 68, 183, 0, 73, 76, 167, 255, 216]
abbrev dktX2_term_1 : List UInt8 := dkwX2_term_1 ++ dktX2_term_2
def dkwX2_term_0 : List UInt8 := [42, 182, 0, 68, 76, 42, 182, 0, 39, 16, 42, 160, 0, 37, 42, 42, 180, 0, 33, 182, 0, 60, 42, 89]
abbrev dktX2_term_0 : List UInt8 := dkwX2_term_0 ++ dktX2_term_1
theorem dksX2_term_0 : cX2_term.data.toList.drop 0 = dktX2_term_0 := by decide +kernel
theorem dksX2_term_1 : cX2_term.data.toList.drop 24 = dktX2_term_1 := dk_seg dksX2_term_0 24 rfl rfl
theorem dksX2_term_2 : cX2_term.data.toList.drop 48 = dktX2_term_2 := dk_seg dksX2_term_1 24 rfl rfl
theorem dX2_term_0 : decode cX2_term 0 = .ok (.aload_n 0, 1) := dk_42 (dk_at dksX2_term_0 0 rfl rfl)
theorem dX2_term_1 : decode cX2_term 1 = .ok (.invokevirtual 68, 3) := dk_182 0 68 (dk_at dksX2_term_0 1 rfl rfl)
theorem dX2_term_4 : decode cX2_term 4 = .ok (.astore_n 1, 1) := dk_76 (dk_at dksX2_term_0 4 rfl rfl)
theorem dX2_term_5 : decode cX2_term 5 = .ok (.aload_n 0, 1) := dk_42 (dk_at dksX2_term_0 5 rfl rfl)
theorem dX2_term_6 : decode cX2_term 6 = .ok (.invokevirtual 39, 3) := dk_182 0 39 (dk_at dksX2_term_0 6 rfl rfl)
theorem dX2_term_9 : decode cX2_term 9 = .ok (.bipush 42, 2) := dk_16 42 (dk_at dksX2_term_0 9 rfl rfl)
theorem dX2_term_11 : decode cX2_term 11 = .ok (.if_icmp .ne 37, 3) := dk_160 0 37 (dk_at dksX2_term_0 11 rfl rfl)
theorem dX2_term_14 : decode cX2_term 14 = .ok (.aload_n 0, 1) := dk_42 (dk_at dksX2_term_0 14 rfl rfl)
theorem dX2_term_15 : decode cX2_term 15 = .ok (.aload_n 0, 1) := dk_42 (dk_at dksX2_term_0 15 rfl rfl)
theorem dX2_term_16 : decode cX2_term 16 = .ok (.getfield 33, 3) := dk_180 0 33 (dk_at dksX2_term_0 16 rfl rfl)
theorem dX2_term_19 : decode cX2_term 19 = .ok (.invokevirtual 60, 3) := dk_182 0 60 (dk_at dksX2_term_0 19 rfl rfl)
theorem dX2_term_22 : decode cX2_term 22 = .ok (.aload_n 0, 1) := dk_42 (dk_at dksX2_term_0 22 rfl rfl)
theorem dX2_term_23 : decode cX2_term 23 = .ok (.dup, 1) := dk_89 (dk_at dksX2_term_0 23 rfl rfl)
theorem dX2_term_24 : decode cX2_term 24 = .ok (.getfield 33, 3) := dk_180 0 33 (dk_at dksX2_term_1 0 rfl rfl)
theorem dX2_term_27 : decode cX2_term 27 = .ok (.iconst 1, 1) := dk_4 (dk_at dksX2_term_1 3 rfl rfl)
theorem dX2_term_28 : decode cX2_term 28 = .ok (.iadd, 1) := dk_96 (dk_at dksX2_term_1 4 rfl rfl)
theorem dX2_term_29 : decode cX2_term 29 = .ok (.putfield 33, 3) := dk_181 0 33 (dk_at dksX2_term_1 5 rfl rfl)
theorem dX2_term_32 : decode cX2_term 32 = .ok (.new 71, 3) := dk_187 0 71 (dk_at dksX2_term_1 8 rfl rfl)
theorem dX2_term_35 : decode cX2_term 35 = .ok (.dup, 1) := dk_89 (dk_at dksX2_term_1 11 rfl rfl)
theorem dX2_term_36 : decode cX2_term 36 = .ok (.aload_n 1, 1) := dk_43 (dk_at dksX2_term_1 12 rfl rfl)
theorem dX2_term_37 : decode cX2_term 37 = .ok (.aload_n 0, 1) := dk_42 (dk_at dksX2_term_1 13 rfl rfl)
theorem dX2_term_38 : decode cX2_term 38 = .ok (.invokevirtual 68, 3) := dk_182 0 68 (dk_at dksX2_term_1 14 rfl rfl)
theorem dX2_term_41 : decode cX2_term 41 = .ok (.invokespecial 73, 3) := dk_183 0 73 (dk_at dksX2_term_1 17 rfl rfl)
theorem dX2_term_44 : decode cX2_term 44 = .ok (.astore_n 1, 1) := dk_76 (dk_at dksX2_term_1 20 rfl rfl)
theorem dX2_term_45 : decode cX2_term 45 = .ok (.goto (-40), 3) := dk_167 255 216 (dk_at dksX2_term_1 21 rfl rfl)
theorem dX2_term_48 : decode cX2_term 48 = .ok (.aload_n 1, 1) := dk_43 (dk_at dksX2_term_2 0 rfl rfl)
theorem dX2_term_49 : decode cX2_term 49 = .ok (.areturn, 1) := dk_176 (dk_at dksX2_term_2 1 rfl rfl)
abbrev cX2_unit : ByteArray := prog_12_method_12_code
def yX2_unit : MethodName := ⟨RX2, "unit", "()LLetterForms$Sign;"⟩
def dkwX2_unit_6 : List UInt8 := [28, 182, 0, 60, 42, 180, 0, 18, 176]
abbrev dktX2_unit_6 : List UInt8 := dkwX2_unit_6 ++ []
def dkwX2_unit_5 : List UInt8 := [16, 91, 160, 0, 9, 42, 28, 182, 0, 93, 176, 42, 182, 0, 97, 154, 0, 8, 42, 28, 182, 0, 43, 42]
abbrev dktX2_unit_5 : List UInt8 := dkwX2_unit_5 ++ dktX2_unit_6
def dkwX2_unit_4 : List UInt8 := [16, 40, 160, 0, 9, 42, 16, 41, 182, 0, 90, 42, 89, 180, 0, 50, 4, 100, 181, 0, 50, 45, 176, 27]
abbrev dktX2_unit_4 : List UInt8 := dkwX2_unit_4 ++ dktX2_unit_5
def dkwX2_unit_3 : List UInt8 := [160, 0, 17, 187, 0, 85, 89, 42, 182, 0, 68, 183, 0, 87, 167, 0, 7, 42, 182, 0, 53, 78, 27]
abbrev dktX2_unit_3 : List UInt8 := dkwX2_unit_3 ++ dktX2_unit_4
def dkwX2_unit_2 : List UInt8 := [27, 16, 40, 160, 0, 67, 42, 28, 182, 0, 82, 42, 89, 180, 0, 33, 4, 96, 181, 0, 33, 27, 16, 45]
abbrev dktX2_unit_2 : List UInt8 := dkwX2_unit_2 ++ dktX2_unit_3
def dkwX2_unit_1 : List UInt8 := [182, 0, 60, 187, 0, 74, 89, 42, 17, 3, 231, 182, 0, 76, 183, 0, 80, 176, 27, 16, 45, 159, 0, 9]
abbrev dktX2_unit_1 : List UInt8 := dkwX2_unit_1 ++ dktX2_unit_2
def dkwX2_unit_0 : List UInt8 := [42, 182, 0, 39, 60, 42, 180, 0, 33, 61, 27, 16, 48, 161, 0, 29, 27, 16, 57, 163, 0, 23, 42, 28]
abbrev dktX2_unit_0 : List UInt8 := dkwX2_unit_0 ++ dktX2_unit_1
theorem dksX2_unit_0 : cX2_unit.data.toList.drop 0 = dktX2_unit_0 := by decide +kernel
theorem dksX2_unit_1 : cX2_unit.data.toList.drop 24 = dktX2_unit_1 := dk_seg dksX2_unit_0 24 rfl rfl
theorem dksX2_unit_2 : cX2_unit.data.toList.drop 48 = dktX2_unit_2 := dk_seg dksX2_unit_1 24 rfl rfl
theorem dksX2_unit_3 : cX2_unit.data.toList.drop 72 = dktX2_unit_3 := dk_seg dksX2_unit_2 24 rfl rfl
theorem dksX2_unit_4 : cX2_unit.data.toList.drop 95 = dktX2_unit_4 := dk_seg dksX2_unit_3 23 rfl rfl
theorem dksX2_unit_5 : cX2_unit.data.toList.drop 119 = dktX2_unit_5 := dk_seg dksX2_unit_4 24 rfl rfl
theorem dksX2_unit_6 : cX2_unit.data.toList.drop 143 = dktX2_unit_6 := dk_seg dksX2_unit_5 24 rfl rfl
theorem dX2_unit_0 : decode cX2_unit 0 = .ok (.aload_n 0, 1) := dk_42 (dk_at dksX2_unit_0 0 rfl rfl)
theorem dX2_unit_1 : decode cX2_unit 1 = .ok (.invokevirtual 39, 3) := dk_182 0 39 (dk_at dksX2_unit_0 1 rfl rfl)
theorem dX2_unit_4 : decode cX2_unit 4 = .ok (.istore_n 1, 1) := dk_60 (dk_at dksX2_unit_0 4 rfl rfl)
theorem dX2_unit_5 : decode cX2_unit 5 = .ok (.aload_n 0, 1) := dk_42 (dk_at dksX2_unit_0 5 rfl rfl)
theorem dX2_unit_6 : decode cX2_unit 6 = .ok (.getfield 33, 3) := dk_180 0 33 (dk_at dksX2_unit_0 6 rfl rfl)
theorem dX2_unit_9 : decode cX2_unit 9 = .ok (.istore_n 2, 1) := dk_61 (dk_at dksX2_unit_0 9 rfl rfl)
theorem dX2_unit_10 : decode cX2_unit 10 = .ok (.iload_n 1, 1) := dk_27 (dk_at dksX2_unit_0 10 rfl rfl)
theorem dX2_unit_11 : decode cX2_unit 11 = .ok (.bipush 48, 2) := dk_16 48 (dk_at dksX2_unit_0 11 rfl rfl)
theorem dX2_unit_13 : decode cX2_unit 13 = .ok (.if_icmp .lt 29, 3) := dk_161 0 29 (dk_at dksX2_unit_0 13 rfl rfl)
theorem dX2_unit_16 : decode cX2_unit 16 = .ok (.iload_n 1, 1) := dk_27 (dk_at dksX2_unit_0 16 rfl rfl)
theorem dX2_unit_17 : decode cX2_unit 17 = .ok (.bipush 57, 2) := dk_16 57 (dk_at dksX2_unit_0 17 rfl rfl)
theorem dX2_unit_19 : decode cX2_unit 19 = .ok (.if_icmp .gt 23, 3) := dk_163 0 23 (dk_at dksX2_unit_0 19 rfl rfl)
theorem dX2_unit_22 : decode cX2_unit 22 = .ok (.aload_n 0, 1) := dk_42 (dk_at dksX2_unit_0 22 rfl rfl)
theorem dX2_unit_23 : decode cX2_unit 23 = .ok (.iload_n 2, 1) := dk_28 (dk_at dksX2_unit_0 23 rfl rfl)
theorem dX2_unit_24 : decode cX2_unit 24 = .ok (.invokevirtual 60, 3) := dk_182 0 60 (dk_at dksX2_unit_1 0 rfl rfl)
theorem dX2_unit_27 : decode cX2_unit 27 = .ok (.new 74, 3) := dk_187 0 74 (dk_at dksX2_unit_1 3 rfl rfl)
theorem dX2_unit_30 : decode cX2_unit 30 = .ok (.dup, 1) := dk_89 (dk_at dksX2_unit_1 6 rfl rfl)
theorem dX2_unit_31 : decode cX2_unit 31 = .ok (.aload_n 0, 1) := dk_42 (dk_at dksX2_unit_1 7 rfl rfl)
theorem dX2_unit_32 : decode cX2_unit 32 = .ok (.sipush 999, 3) := dk_17 3 231 (dk_at dksX2_unit_1 8 rfl rfl)
theorem dX2_unit_35 : decode cX2_unit 35 = .ok (.invokevirtual 76, 3) := dk_182 0 76 (dk_at dksX2_unit_1 11 rfl rfl)
theorem dX2_unit_38 : decode cX2_unit 38 = .ok (.invokespecial 80, 3) := dk_183 0 80 (dk_at dksX2_unit_1 14 rfl rfl)
theorem dX2_unit_41 : decode cX2_unit 41 = .ok (.areturn, 1) := dk_176 (dk_at dksX2_unit_1 17 rfl rfl)
theorem dX2_unit_42 : decode cX2_unit 42 = .ok (.iload_n 1, 1) := dk_27 (dk_at dksX2_unit_1 18 rfl rfl)
theorem dX2_unit_43 : decode cX2_unit 43 = .ok (.bipush 45, 2) := dk_16 45 (dk_at dksX2_unit_1 19 rfl rfl)
theorem dX2_unit_45 : decode cX2_unit 45 = .ok (.if_icmp .eq 9, 3) := dk_159 0 9 (dk_at dksX2_unit_1 21 rfl rfl)
theorem dX2_unit_48 : decode cX2_unit 48 = .ok (.iload_n 1, 1) := dk_27 (dk_at dksX2_unit_2 0 rfl rfl)
theorem dX2_unit_49 : decode cX2_unit 49 = .ok (.bipush 40, 2) := dk_16 40 (dk_at dksX2_unit_2 1 rfl rfl)
theorem dX2_unit_51 : decode cX2_unit 51 = .ok (.if_icmp .ne 67, 3) := dk_160 0 67 (dk_at dksX2_unit_2 3 rfl rfl)
theorem dX2_unit_54 : decode cX2_unit 54 = .ok (.aload_n 0, 1) := dk_42 (dk_at dksX2_unit_2 6 rfl rfl)
theorem dX2_unit_55 : decode cX2_unit 55 = .ok (.iload_n 2, 1) := dk_28 (dk_at dksX2_unit_2 7 rfl rfl)
theorem dX2_unit_56 : decode cX2_unit 56 = .ok (.invokevirtual 82, 3) := dk_182 0 82 (dk_at dksX2_unit_2 8 rfl rfl)
theorem dX2_unit_59 : decode cX2_unit 59 = .ok (.aload_n 0, 1) := dk_42 (dk_at dksX2_unit_2 11 rfl rfl)
theorem dX2_unit_60 : decode cX2_unit 60 = .ok (.dup, 1) := dk_89 (dk_at dksX2_unit_2 12 rfl rfl)
theorem dX2_unit_61 : decode cX2_unit 61 = .ok (.getfield 33, 3) := dk_180 0 33 (dk_at dksX2_unit_2 13 rfl rfl)
theorem dX2_unit_64 : decode cX2_unit 64 = .ok (.iconst 1, 1) := dk_4 (dk_at dksX2_unit_2 16 rfl rfl)
theorem dX2_unit_65 : decode cX2_unit 65 = .ok (.iadd, 1) := dk_96 (dk_at dksX2_unit_2 17 rfl rfl)
theorem dX2_unit_66 : decode cX2_unit 66 = .ok (.putfield 33, 3) := dk_181 0 33 (dk_at dksX2_unit_2 18 rfl rfl)
theorem dX2_unit_69 : decode cX2_unit 69 = .ok (.iload_n 1, 1) := dk_27 (dk_at dksX2_unit_2 21 rfl rfl)
theorem dX2_unit_70 : decode cX2_unit 70 = .ok (.bipush 45, 2) := dk_16 45 (dk_at dksX2_unit_2 22 rfl rfl)
theorem dX2_unit_72 : decode cX2_unit 72 = .ok (.if_icmp .ne 17, 3) := dk_160 0 17 (dk_at dksX2_unit_3 0 rfl rfl)
theorem dX2_unit_75 : decode cX2_unit 75 = .ok (.new 85, 3) := dk_187 0 85 (dk_at dksX2_unit_3 3 rfl rfl)
theorem dX2_unit_78 : decode cX2_unit 78 = .ok (.dup, 1) := dk_89 (dk_at dksX2_unit_3 6 rfl rfl)
theorem dX2_unit_79 : decode cX2_unit 79 = .ok (.aload_n 0, 1) := dk_42 (dk_at dksX2_unit_3 7 rfl rfl)
theorem dX2_unit_80 : decode cX2_unit 80 = .ok (.invokevirtual 68, 3) := dk_182 0 68 (dk_at dksX2_unit_3 8 rfl rfl)
theorem dX2_unit_83 : decode cX2_unit 83 = .ok (.invokespecial 87, 3) := dk_183 0 87 (dk_at dksX2_unit_3 11 rfl rfl)
theorem dX2_unit_86 : decode cX2_unit 86 = .ok (.goto 7, 3) := dk_167 0 7 (dk_at dksX2_unit_3 14 rfl rfl)
theorem dX2_unit_89 : decode cX2_unit 89 = .ok (.aload_n 0, 1) := dk_42 (dk_at dksX2_unit_3 17 rfl rfl)
theorem dX2_unit_90 : decode cX2_unit 90 = .ok (.invokevirtual 53, 3) := dk_182 0 53 (dk_at dksX2_unit_3 18 rfl rfl)
theorem dX2_unit_93 : decode cX2_unit 93 = .ok (.astore_n 3, 1) := dk_78 (dk_at dksX2_unit_3 21 rfl rfl)
theorem dX2_unit_94 : decode cX2_unit 94 = .ok (.iload_n 1, 1) := dk_27 (dk_at dksX2_unit_3 22 rfl rfl)
theorem dX2_unit_95 : decode cX2_unit 95 = .ok (.bipush 40, 2) := dk_16 40 (dk_at dksX2_unit_4 0 rfl rfl)
theorem dX2_unit_97 : decode cX2_unit 97 = .ok (.if_icmp .ne 9, 3) := dk_160 0 9 (dk_at dksX2_unit_4 2 rfl rfl)
theorem dX2_unit_100 : decode cX2_unit 100 = .ok (.aload_n 0, 1) := dk_42 (dk_at dksX2_unit_4 5 rfl rfl)
theorem dX2_unit_101 : decode cX2_unit 101 = .ok (.bipush 41, 2) := dk_16 41 (dk_at dksX2_unit_4 6 rfl rfl)
theorem dX2_unit_103 : decode cX2_unit 103 = .ok (.invokevirtual 90, 3) := dk_182 0 90 (dk_at dksX2_unit_4 8 rfl rfl)
theorem dX2_unit_106 : decode cX2_unit 106 = .ok (.aload_n 0, 1) := dk_42 (dk_at dksX2_unit_4 11 rfl rfl)
theorem dX2_unit_107 : decode cX2_unit 107 = .ok (.dup, 1) := dk_89 (dk_at dksX2_unit_4 12 rfl rfl)
theorem dX2_unit_108 : decode cX2_unit 108 = .ok (.getfield 50, 3) := dk_180 0 50 (dk_at dksX2_unit_4 13 rfl rfl)
theorem dX2_unit_111 : decode cX2_unit 111 = .ok (.iconst 1, 1) := dk_4 (dk_at dksX2_unit_4 16 rfl rfl)
theorem dX2_unit_112 : decode cX2_unit 112 = .ok (.isub, 1) := dk_100 (dk_at dksX2_unit_4 17 rfl rfl)
theorem dX2_unit_113 : decode cX2_unit 113 = .ok (.putfield 50, 3) := dk_181 0 50 (dk_at dksX2_unit_4 18 rfl rfl)
theorem dX2_unit_116 : decode cX2_unit 116 = .ok (.aload_n 3, 1) := dk_45 (dk_at dksX2_unit_4 21 rfl rfl)
theorem dX2_unit_117 : decode cX2_unit 117 = .ok (.areturn, 1) := dk_176 (dk_at dksX2_unit_4 22 rfl rfl)
theorem dX2_unit_118 : decode cX2_unit 118 = .ok (.iload_n 1, 1) := dk_27 (dk_at dksX2_unit_4 23 rfl rfl)
theorem dX2_unit_119 : decode cX2_unit 119 = .ok (.bipush 91, 2) := dk_16 91 (dk_at dksX2_unit_5 0 rfl rfl)
theorem dX2_unit_121 : decode cX2_unit 121 = .ok (.if_icmp .ne 9, 3) := dk_160 0 9 (dk_at dksX2_unit_5 2 rfl rfl)
theorem dX2_unit_124 : decode cX2_unit 124 = .ok (.aload_n 0, 1) := dk_42 (dk_at dksX2_unit_5 5 rfl rfl)
theorem dX2_unit_125 : decode cX2_unit 125 = .ok (.iload_n 2, 1) := dk_28 (dk_at dksX2_unit_5 6 rfl rfl)
theorem dX2_unit_126 : decode cX2_unit 126 = .ok (.invokevirtual 93, 3) := dk_182 0 93 (dk_at dksX2_unit_5 7 rfl rfl)
theorem dX2_unit_129 : decode cX2_unit 129 = .ok (.areturn, 1) := dk_176 (dk_at dksX2_unit_5 10 rfl rfl)
theorem dX2_unit_130 : decode cX2_unit 130 = .ok (.aload_n 0, 1) := dk_42 (dk_at dksX2_unit_5 11 rfl rfl)
theorem dX2_unit_131 : decode cX2_unit 131 = .ok (.invokevirtual 97, 3) := dk_182 0 97 (dk_at dksX2_unit_5 12 rfl rfl)
theorem dX2_unit_134 : decode cX2_unit 134 = .ok (.ifCond .ne 8, 3) := dk_154 0 8 (dk_at dksX2_unit_5 15 rfl rfl)
theorem dX2_unit_137 : decode cX2_unit 137 = .ok (.aload_n 0, 1) := dk_42 (dk_at dksX2_unit_5 18 rfl rfl)
theorem dX2_unit_138 : decode cX2_unit 138 = .ok (.iload_n 2, 1) := dk_28 (dk_at dksX2_unit_5 19 rfl rfl)
theorem dX2_unit_139 : decode cX2_unit 139 = .ok (.invokevirtual 43, 3) := dk_182 0 43 (dk_at dksX2_unit_5 20 rfl rfl)
theorem dX2_unit_142 : decode cX2_unit 142 = .ok (.aload_n 0, 1) := dk_42 (dk_at dksX2_unit_5 23 rfl rfl)
theorem dX2_unit_143 : decode cX2_unit 143 = .ok (.iload_n 2, 1) := dk_28 (dk_at dksX2_unit_6 0 rfl rfl)
theorem dX2_unit_144 : decode cX2_unit 144 = .ok (.invokevirtual 60, 3) := dk_182 0 60 (dk_at dksX2_unit_6 1 rfl rfl)
theorem dX2_unit_147 : decode cX2_unit 147 = .ok (.aload_n 0, 1) := dk_42 (dk_at dksX2_unit_6 4 rfl rfl)
theorem dX2_unit_148 : decode cX2_unit 148 = .ok (.getfield 18, 3) := dk_180 0 18 (dk_at dksX2_unit_6 5 rfl rfl)
theorem dX2_unit_151 : decode cX2_unit 151 = .ok (.areturn, 1) := dk_176 (dk_at dksX2_unit_6 8 rfl rfl)
abbrev cX2_sign : ByteArray := prog_12_method_3_code
def yX2_sign : MethodName := ⟨RX2, "sign", "()I"⟩
def dkwX2_sign_2 : List UInt8 := [162, 0, 19, 42, 180, 0, 9, 42, 180, 0, 33, 51, 17, 0, 255, 126, 167, 0, 4, 2, 172]
abbrev dktX2_sign_2 : List UInt8 := dkwX2_sign_2 ++ []
def dkwX2_sign_1 : List UInt8 := [160, 0, 16, 42, 89, 180, 0, 33, 4, 96, 181, 0, 33, 167, 255, 221, 42, 180, 0, 33, 42, 180, 0, 36]
abbrev dktX2_sign_1 : List UInt8 := dkwX2_sign_1 ++ dktX2_sign_2
def dkwX2_sign_0 : List UInt8 := [42, 180, 0, 33, 42, 180, 0, 36, 162, 0, 30, 42, 180, 0, 9, 42, 180, 0, 33, 51, 16, 32]
abbrev dktX2_sign_0 : List UInt8 := dkwX2_sign_0 ++ dktX2_sign_1
theorem dksX2_sign_0 : cX2_sign.data.toList.drop 0 = dktX2_sign_0 := by decide +kernel
theorem dksX2_sign_1 : cX2_sign.data.toList.drop 22 = dktX2_sign_1 := dk_seg dksX2_sign_0 22 rfl rfl
theorem dksX2_sign_2 : cX2_sign.data.toList.drop 46 = dktX2_sign_2 := dk_seg dksX2_sign_1 24 rfl rfl
theorem dX2_sign_0 : decode cX2_sign 0 = .ok (.aload_n 0, 1) := dk_42 (dk_at dksX2_sign_0 0 rfl rfl)
theorem dX2_sign_1 : decode cX2_sign 1 = .ok (.getfield 33, 3) := dk_180 0 33 (dk_at dksX2_sign_0 1 rfl rfl)
theorem dX2_sign_4 : decode cX2_sign 4 = .ok (.aload_n 0, 1) := dk_42 (dk_at dksX2_sign_0 4 rfl rfl)
theorem dX2_sign_5 : decode cX2_sign 5 = .ok (.getfield 36, 3) := dk_180 0 36 (dk_at dksX2_sign_0 5 rfl rfl)
theorem dX2_sign_8 : decode cX2_sign 8 = .ok (.if_icmp .ge 30, 3) := dk_162 0 30 (dk_at dksX2_sign_0 8 rfl rfl)
theorem dX2_sign_11 : decode cX2_sign 11 = .ok (.aload_n 0, 1) := dk_42 (dk_at dksX2_sign_0 11 rfl rfl)
theorem dX2_sign_12 : decode cX2_sign 12 = .ok (.getfield 9, 3) := dk_180 0 9 (dk_at dksX2_sign_0 12 rfl rfl)
theorem dX2_sign_15 : decode cX2_sign 15 = .ok (.aload_n 0, 1) := dk_42 (dk_at dksX2_sign_0 15 rfl rfl)
theorem dX2_sign_16 : decode cX2_sign 16 = .ok (.getfield 33, 3) := dk_180 0 33 (dk_at dksX2_sign_0 16 rfl rfl)
theorem dX2_sign_19 : decode cX2_sign 19 = .ok (.baload, 1) := dk_51 (dk_at dksX2_sign_0 19 rfl rfl)
theorem dX2_sign_20 : decode cX2_sign 20 = .ok (.bipush 32, 2) := dk_16 32 (dk_at dksX2_sign_0 20 rfl rfl)
theorem dX2_sign_22 : decode cX2_sign 22 = .ok (.if_icmp .ne 16, 3) := dk_160 0 16 (dk_at dksX2_sign_1 0 rfl rfl)
theorem dX2_sign_25 : decode cX2_sign 25 = .ok (.aload_n 0, 1) := dk_42 (dk_at dksX2_sign_1 3 rfl rfl)
theorem dX2_sign_26 : decode cX2_sign 26 = .ok (.dup, 1) := dk_89 (dk_at dksX2_sign_1 4 rfl rfl)
theorem dX2_sign_27 : decode cX2_sign 27 = .ok (.getfield 33, 3) := dk_180 0 33 (dk_at dksX2_sign_1 5 rfl rfl)
theorem dX2_sign_30 : decode cX2_sign 30 = .ok (.iconst 1, 1) := dk_4 (dk_at dksX2_sign_1 8 rfl rfl)
theorem dX2_sign_31 : decode cX2_sign 31 = .ok (.iadd, 1) := dk_96 (dk_at dksX2_sign_1 9 rfl rfl)
theorem dX2_sign_32 : decode cX2_sign 32 = .ok (.putfield 33, 3) := dk_181 0 33 (dk_at dksX2_sign_1 10 rfl rfl)
theorem dX2_sign_35 : decode cX2_sign 35 = .ok (.goto (-35), 3) := dk_167 255 221 (dk_at dksX2_sign_1 13 rfl rfl)
theorem dX2_sign_38 : decode cX2_sign 38 = .ok (.aload_n 0, 1) := dk_42 (dk_at dksX2_sign_1 16 rfl rfl)
theorem dX2_sign_39 : decode cX2_sign 39 = .ok (.getfield 33, 3) := dk_180 0 33 (dk_at dksX2_sign_1 17 rfl rfl)
theorem dX2_sign_42 : decode cX2_sign 42 = .ok (.aload_n 0, 1) := dk_42 (dk_at dksX2_sign_1 20 rfl rfl)
theorem dX2_sign_43 : decode cX2_sign 43 = .ok (.getfield 36, 3) := dk_180 0 36 (dk_at dksX2_sign_1 21 rfl rfl)
theorem dX2_sign_46 : decode cX2_sign 46 = .ok (.if_icmp .ge 19, 3) := dk_162 0 19 (dk_at dksX2_sign_2 0 rfl rfl)
theorem dX2_sign_49 : decode cX2_sign 49 = .ok (.aload_n 0, 1) := dk_42 (dk_at dksX2_sign_2 3 rfl rfl)
theorem dX2_sign_50 : decode cX2_sign 50 = .ok (.getfield 9, 3) := dk_180 0 9 (dk_at dksX2_sign_2 4 rfl rfl)
theorem dX2_sign_53 : decode cX2_sign 53 = .ok (.aload_n 0, 1) := dk_42 (dk_at dksX2_sign_2 7 rfl rfl)
theorem dX2_sign_54 : decode cX2_sign 54 = .ok (.getfield 33, 3) := dk_180 0 33 (dk_at dksX2_sign_2 8 rfl rfl)
theorem dX2_sign_57 : decode cX2_sign 57 = .ok (.baload, 1) := dk_51 (dk_at dksX2_sign_2 11 rfl rfl)
theorem dX2_sign_58 : decode cX2_sign 58 = .ok (.sipush 255, 3) := dk_17 0 255 (dk_at dksX2_sign_2 12 rfl rfl)
theorem dX2_sign_61 : decode cX2_sign 61 = .ok (.iand, 1) := dk_126 (dk_at dksX2_sign_2 15 rfl rfl)
theorem dX2_sign_62 : decode cX2_sign 62 = .ok (.goto 4, 3) := dk_167 0 4 (dk_at dksX2_sign_2 16 rfl rfl)
theorem dX2_sign_65 : decode cX2_sign 65 = .ok (.iconst (-1), 1) := dk_2 (dk_at dksX2_sign_2 19 rfl rfl)
theorem dX2_sign_66 : decode cX2_sign 66 = .ok (.ireturn, 1) := dk_172 (dk_at dksX2_sign_2 20 rfl rfl)
abbrev cX2_counts : ByteArray := prog_12_method_6_code
def yX2_counts : MethodName := ⟨RX2, "counts", "(I)V"⟩
def dkwX2_counts_1 : List UInt8 := [177]
abbrev dktX2_counts_1 : List UInt8 := dkwX2_counts_1 ++ []
def dkwX2_counts_0 : List UInt8 := [42, 180, 0, 47, 16, 40, 160, 0, 8, 42, 27, 182, 0, 43, 42, 89, 180, 0, 47, 4, 96, 181, 0, 47]
abbrev dktX2_counts_0 : List UInt8 := dkwX2_counts_0 ++ dktX2_counts_1
theorem dksX2_counts_0 : cX2_counts.data.toList.drop 0 = dktX2_counts_0 := by decide +kernel
theorem dksX2_counts_1 : cX2_counts.data.toList.drop 24 = dktX2_counts_1 := dk_seg dksX2_counts_0 24 rfl rfl
theorem dX2_counts_0 : decode cX2_counts 0 = .ok (.aload_n 0, 1) := dk_42 (dk_at dksX2_counts_0 0 rfl rfl)
theorem dX2_counts_1 : decode cX2_counts 1 = .ok (.getfield 47, 3) := dk_180 0 47 (dk_at dksX2_counts_0 1 rfl rfl)
theorem dX2_counts_4 : decode cX2_counts 4 = .ok (.bipush 40, 2) := dk_16 40 (dk_at dksX2_counts_0 4 rfl rfl)
theorem dX2_counts_6 : decode cX2_counts 6 = .ok (.if_icmp .ne 8, 3) := dk_160 0 8 (dk_at dksX2_counts_0 6 rfl rfl)
theorem dX2_counts_9 : decode cX2_counts 9 = .ok (.aload_n 0, 1) := dk_42 (dk_at dksX2_counts_0 9 rfl rfl)
theorem dX2_counts_10 : decode cX2_counts 10 = .ok (.iload_n 1, 1) := dk_27 (dk_at dksX2_counts_0 10 rfl rfl)
theorem dX2_counts_11 : decode cX2_counts 11 = .ok (.invokevirtual 43, 3) := dk_182 0 43 (dk_at dksX2_counts_0 11 rfl rfl)
theorem dX2_counts_14 : decode cX2_counts 14 = .ok (.aload_n 0, 1) := dk_42 (dk_at dksX2_counts_0 14 rfl rfl)
theorem dX2_counts_15 : decode cX2_counts 15 = .ok (.dup, 1) := dk_89 (dk_at dksX2_counts_0 15 rfl rfl)
theorem dX2_counts_16 : decode cX2_counts 16 = .ok (.getfield 47, 3) := dk_180 0 47 (dk_at dksX2_counts_0 16 rfl rfl)
theorem dX2_counts_19 : decode cX2_counts 19 = .ok (.iconst 1, 1) := dk_4 (dk_at dksX2_counts_0 19 rfl rfl)
theorem dX2_counts_20 : decode cX2_counts 20 = .ok (.iadd, 1) := dk_96 (dk_at dksX2_counts_0 20 rfl rfl)
theorem dX2_counts_21 : decode cX2_counts 21 = .ok (.putfield 47, 3) := dk_181 0 47 (dk_at dksX2_counts_0 21 rfl rfl)
theorem dX2_counts_24 : decode cX2_counts 24 = .ok (.return_, 1) := dk_177 (dk_at dksX2_counts_1 0 rfl rfl)
abbrev cX2_fail : ByteArray := prog_12_method_2_code
def yX2_fail : MethodName := ⟨RX2, "fail", "(I)V"⟩
def dkwX2_fail_0 : List UInt8 := [42, 180, 0, 25, 27, 181, 0, 29, 42, 180, 0, 25, 191]
abbrev dktX2_fail_0 : List UInt8 := dkwX2_fail_0 ++ []
theorem dksX2_fail_0 : cX2_fail.data.toList.drop 0 = dktX2_fail_0 := by decide +kernel
theorem dX2_fail_0 : decode cX2_fail 0 = .ok (.aload_n 0, 1) := dk_42 (dk_at dksX2_fail_0 0 rfl rfl)
theorem dX2_fail_1 : decode cX2_fail 1 = .ok (.getfield 25, 3) := dk_180 0 25 (dk_at dksX2_fail_0 1 rfl rfl)
theorem dX2_fail_4 : decode cX2_fail 4 = .ok (.iload_n 1, 1) := dk_27 (dk_at dksX2_fail_0 4 rfl rfl)
theorem dX2_fail_5 : decode cX2_fail 5 = .ok (.putfield 29, 3) := dk_181 0 29 (dk_at dksX2_fail_0 5 rfl rfl)
theorem dX2_fail_8 : decode cX2_fail 8 = .ok (.aload_n 0, 1) := dk_42 (dk_at dksX2_fail_0 8 rfl rfl)
theorem dX2_fail_9 : decode cX2_fail 9 = .ok (.getfield 25, 3) := dk_180 0 25 (dk_at dksX2_fail_0 9 rfl rfl)
theorem dX2_fail_12 : decode cX2_fail 12 = .ok (.athrow, 1) := dk_191 (dk_at dksX2_fail_0 12 rfl rfl)
abbrev cX2_number : ByteArray := prog_12_method_5_code
def yX2_number : MethodName := ⟨RX2, "number", "(I)I"⟩
def dkwX2_number_5 : List UInt8 := [182, 0, 43, 21, 4, 172]
abbrev dktX2_number_5 : List UInt8 := dkwX2_number_5 ++ []
def dkwX2_number_4 : List UInt8 := [181, 0, 33, 167, 255, 172, 42, 180, 0, 33, 29, 159, 0, 9, 21, 4, 27, 164, 0, 8, 42, 29]
abbrev dktX2_number_4 : List UInt8 := dkwX2_number_4 ++ dktX2_number_5
def dkwX2_number_3 : List UInt8 := [104, 42, 180, 0, 9, 42, 180, 0, 33, 51, 96, 16, 48, 100, 54, 4, 42, 89, 180, 0, 33, 4, 96]
abbrev dktX2_number_3 : List UInt8 := dkwX2_number_3 ++ dktX2_number_4
def dkwX2_number_2 : List UInt8 := [16, 57, 163, 0, 51, 42, 180, 0, 33, 29, 100, 6, 160, 0, 8, 42, 29, 182, 0, 43, 16, 10, 21, 4]
abbrev dktX2_number_2 : List UInt8 := dkwX2_number_2 ++ dktX2_number_3
def dkwX2_number_1 : List UInt8 := [42, 180, 0, 9, 42, 180, 0, 33, 51, 16, 48, 161, 0, 65, 42, 180, 0, 9, 42, 180, 0, 33, 51]
abbrev dktX2_number_1 : List UInt8 := dkwX2_number_1 ++ dktX2_number_2
def dkwX2_number_0 : List UInt8 := [42, 182, 0, 39, 61, 42, 180, 0, 33, 62, 3, 54, 4, 42, 180, 0, 33, 42, 180, 0, 36, 162, 0, 79]
abbrev dktX2_number_0 : List UInt8 := dkwX2_number_0 ++ dktX2_number_1
theorem dksX2_number_0 : cX2_number.data.toList.drop 0 = dktX2_number_0 := by decide +kernel
theorem dksX2_number_1 : cX2_number.data.toList.drop 24 = dktX2_number_1 := dk_seg dksX2_number_0 24 rfl rfl
theorem dksX2_number_2 : cX2_number.data.toList.drop 47 = dktX2_number_2 := dk_seg dksX2_number_1 23 rfl rfl
theorem dksX2_number_3 : cX2_number.data.toList.drop 71 = dktX2_number_3 := dk_seg dksX2_number_2 24 rfl rfl
theorem dksX2_number_4 : cX2_number.data.toList.drop 94 = dktX2_number_4 := dk_seg dksX2_number_3 23 rfl rfl
theorem dksX2_number_5 : cX2_number.data.toList.drop 116 = dktX2_number_5 := dk_seg dksX2_number_4 22 rfl rfl
theorem dX2_number_0 : decode cX2_number 0 = .ok (.aload_n 0, 1) := dk_42 (dk_at dksX2_number_0 0 rfl rfl)
theorem dX2_number_1 : decode cX2_number 1 = .ok (.invokevirtual 39, 3) := dk_182 0 39 (dk_at dksX2_number_0 1 rfl rfl)
theorem dX2_number_4 : decode cX2_number 4 = .ok (.istore_n 2, 1) := dk_61 (dk_at dksX2_number_0 4 rfl rfl)
theorem dX2_number_5 : decode cX2_number 5 = .ok (.aload_n 0, 1) := dk_42 (dk_at dksX2_number_0 5 rfl rfl)
theorem dX2_number_6 : decode cX2_number 6 = .ok (.getfield 33, 3) := dk_180 0 33 (dk_at dksX2_number_0 6 rfl rfl)
theorem dX2_number_9 : decode cX2_number 9 = .ok (.istore_n 3, 1) := dk_62 (dk_at dksX2_number_0 9 rfl rfl)
theorem dX2_number_10 : decode cX2_number 10 = .ok (.iconst 0, 1) := dk_3 (dk_at dksX2_number_0 10 rfl rfl)
theorem dX2_number_11 : decode cX2_number 11 = .ok (.istore 4, 2) := dk_54 4 (dk_at dksX2_number_0 11 rfl rfl)
theorem dX2_number_13 : decode cX2_number 13 = .ok (.aload_n 0, 1) := dk_42 (dk_at dksX2_number_0 13 rfl rfl)
theorem dX2_number_14 : decode cX2_number 14 = .ok (.getfield 33, 3) := dk_180 0 33 (dk_at dksX2_number_0 14 rfl rfl)
theorem dX2_number_17 : decode cX2_number 17 = .ok (.aload_n 0, 1) := dk_42 (dk_at dksX2_number_0 17 rfl rfl)
theorem dX2_number_18 : decode cX2_number 18 = .ok (.getfield 36, 3) := dk_180 0 36 (dk_at dksX2_number_0 18 rfl rfl)
theorem dX2_number_21 : decode cX2_number 21 = .ok (.if_icmp .ge 79, 3) := dk_162 0 79 (dk_at dksX2_number_0 21 rfl rfl)
theorem dX2_number_24 : decode cX2_number 24 = .ok (.aload_n 0, 1) := dk_42 (dk_at dksX2_number_1 0 rfl rfl)
theorem dX2_number_25 : decode cX2_number 25 = .ok (.getfield 9, 3) := dk_180 0 9 (dk_at dksX2_number_1 1 rfl rfl)
theorem dX2_number_28 : decode cX2_number 28 = .ok (.aload_n 0, 1) := dk_42 (dk_at dksX2_number_1 4 rfl rfl)
theorem dX2_number_29 : decode cX2_number 29 = .ok (.getfield 33, 3) := dk_180 0 33 (dk_at dksX2_number_1 5 rfl rfl)
theorem dX2_number_32 : decode cX2_number 32 = .ok (.baload, 1) := dk_51 (dk_at dksX2_number_1 8 rfl rfl)
theorem dX2_number_33 : decode cX2_number 33 = .ok (.bipush 48, 2) := dk_16 48 (dk_at dksX2_number_1 9 rfl rfl)
theorem dX2_number_35 : decode cX2_number 35 = .ok (.if_icmp .lt 65, 3) := dk_161 0 65 (dk_at dksX2_number_1 11 rfl rfl)
theorem dX2_number_38 : decode cX2_number 38 = .ok (.aload_n 0, 1) := dk_42 (dk_at dksX2_number_1 14 rfl rfl)
theorem dX2_number_39 : decode cX2_number 39 = .ok (.getfield 9, 3) := dk_180 0 9 (dk_at dksX2_number_1 15 rfl rfl)
theorem dX2_number_42 : decode cX2_number 42 = .ok (.aload_n 0, 1) := dk_42 (dk_at dksX2_number_1 18 rfl rfl)
theorem dX2_number_43 : decode cX2_number 43 = .ok (.getfield 33, 3) := dk_180 0 33 (dk_at dksX2_number_1 19 rfl rfl)
theorem dX2_number_46 : decode cX2_number 46 = .ok (.baload, 1) := dk_51 (dk_at dksX2_number_1 22 rfl rfl)
theorem dX2_number_47 : decode cX2_number 47 = .ok (.bipush 57, 2) := dk_16 57 (dk_at dksX2_number_2 0 rfl rfl)
theorem dX2_number_49 : decode cX2_number 49 = .ok (.if_icmp .gt 51, 3) := dk_163 0 51 (dk_at dksX2_number_2 2 rfl rfl)
theorem dX2_number_52 : decode cX2_number 52 = .ok (.aload_n 0, 1) := dk_42 (dk_at dksX2_number_2 5 rfl rfl)
theorem dX2_number_53 : decode cX2_number 53 = .ok (.getfield 33, 3) := dk_180 0 33 (dk_at dksX2_number_2 6 rfl rfl)
theorem dX2_number_56 : decode cX2_number 56 = .ok (.iload_n 3, 1) := dk_29 (dk_at dksX2_number_2 9 rfl rfl)
theorem dX2_number_57 : decode cX2_number 57 = .ok (.isub, 1) := dk_100 (dk_at dksX2_number_2 10 rfl rfl)
theorem dX2_number_58 : decode cX2_number 58 = .ok (.iconst 3, 1) := dk_6 (dk_at dksX2_number_2 11 rfl rfl)
theorem dX2_number_59 : decode cX2_number 59 = .ok (.if_icmp .ne 8, 3) := dk_160 0 8 (dk_at dksX2_number_2 12 rfl rfl)
theorem dX2_number_62 : decode cX2_number 62 = .ok (.aload_n 0, 1) := dk_42 (dk_at dksX2_number_2 15 rfl rfl)
theorem dX2_number_63 : decode cX2_number 63 = .ok (.iload_n 3, 1) := dk_29 (dk_at dksX2_number_2 16 rfl rfl)
theorem dX2_number_64 : decode cX2_number 64 = .ok (.invokevirtual 43, 3) := dk_182 0 43 (dk_at dksX2_number_2 17 rfl rfl)
theorem dX2_number_67 : decode cX2_number 67 = .ok (.bipush 10, 2) := dk_16 10 (dk_at dksX2_number_2 20 rfl rfl)
theorem dX2_number_69 : decode cX2_number 69 = .ok (.iload 4, 2) := dk_21 4 (dk_at dksX2_number_2 22 rfl rfl)
theorem dX2_number_71 : decode cX2_number 71 = .ok (.imul, 1) := dk_104 (dk_at dksX2_number_3 0 rfl rfl)
theorem dX2_number_72 : decode cX2_number 72 = .ok (.aload_n 0, 1) := dk_42 (dk_at dksX2_number_3 1 rfl rfl)
theorem dX2_number_73 : decode cX2_number 73 = .ok (.getfield 9, 3) := dk_180 0 9 (dk_at dksX2_number_3 2 rfl rfl)
theorem dX2_number_76 : decode cX2_number 76 = .ok (.aload_n 0, 1) := dk_42 (dk_at dksX2_number_3 5 rfl rfl)
theorem dX2_number_77 : decode cX2_number 77 = .ok (.getfield 33, 3) := dk_180 0 33 (dk_at dksX2_number_3 6 rfl rfl)
theorem dX2_number_80 : decode cX2_number 80 = .ok (.baload, 1) := dk_51 (dk_at dksX2_number_3 9 rfl rfl)
theorem dX2_number_81 : decode cX2_number 81 = .ok (.iadd, 1) := dk_96 (dk_at dksX2_number_3 10 rfl rfl)
theorem dX2_number_82 : decode cX2_number 82 = .ok (.bipush 48, 2) := dk_16 48 (dk_at dksX2_number_3 11 rfl rfl)
theorem dX2_number_84 : decode cX2_number 84 = .ok (.isub, 1) := dk_100 (dk_at dksX2_number_3 13 rfl rfl)
theorem dX2_number_85 : decode cX2_number 85 = .ok (.istore 4, 2) := dk_54 4 (dk_at dksX2_number_3 14 rfl rfl)
theorem dX2_number_87 : decode cX2_number 87 = .ok (.aload_n 0, 1) := dk_42 (dk_at dksX2_number_3 16 rfl rfl)
theorem dX2_number_88 : decode cX2_number 88 = .ok (.dup, 1) := dk_89 (dk_at dksX2_number_3 17 rfl rfl)
theorem dX2_number_89 : decode cX2_number 89 = .ok (.getfield 33, 3) := dk_180 0 33 (dk_at dksX2_number_3 18 rfl rfl)
theorem dX2_number_92 : decode cX2_number 92 = .ok (.iconst 1, 1) := dk_4 (dk_at dksX2_number_3 21 rfl rfl)
theorem dX2_number_93 : decode cX2_number 93 = .ok (.iadd, 1) := dk_96 (dk_at dksX2_number_3 22 rfl rfl)
theorem dX2_number_94 : decode cX2_number 94 = .ok (.putfield 33, 3) := dk_181 0 33 (dk_at dksX2_number_4 0 rfl rfl)
theorem dX2_number_97 : decode cX2_number 97 = .ok (.goto (-84), 3) := dk_167 255 172 (dk_at dksX2_number_4 3 rfl rfl)
theorem dX2_number_100 : decode cX2_number 100 = .ok (.aload_n 0, 1) := dk_42 (dk_at dksX2_number_4 6 rfl rfl)
theorem dX2_number_101 : decode cX2_number 101 = .ok (.getfield 33, 3) := dk_180 0 33 (dk_at dksX2_number_4 7 rfl rfl)
theorem dX2_number_104 : decode cX2_number 104 = .ok (.iload_n 3, 1) := dk_29 (dk_at dksX2_number_4 10 rfl rfl)
theorem dX2_number_105 : decode cX2_number 105 = .ok (.if_icmp .eq 9, 3) := dk_159 0 9 (dk_at dksX2_number_4 11 rfl rfl)
theorem dX2_number_108 : decode cX2_number 108 = .ok (.iload 4, 2) := dk_21 4 (dk_at dksX2_number_4 14 rfl rfl)
theorem dX2_number_110 : decode cX2_number 110 = .ok (.iload_n 1, 1) := dk_27 (dk_at dksX2_number_4 16 rfl rfl)
theorem dX2_number_111 : decode cX2_number 111 = .ok (.if_icmp .le 8, 3) := dk_164 0 8 (dk_at dksX2_number_4 17 rfl rfl)
theorem dX2_number_114 : decode cX2_number 114 = .ok (.aload_n 0, 1) := dk_42 (dk_at dksX2_number_4 20 rfl rfl)
theorem dX2_number_115 : decode cX2_number 115 = .ok (.iload_n 3, 1) := dk_29 (dk_at dksX2_number_4 21 rfl rfl)
theorem dX2_number_116 : decode cX2_number 116 = .ok (.invokevirtual 43, 3) := dk_182 0 43 (dk_at dksX2_number_5 0 rfl rfl)
theorem dX2_number_119 : decode cX2_number 119 = .ok (.iload 4, 2) := dk_21 4 (dk_at dksX2_number_5 3 rfl rfl)
theorem dX2_number_121 : decode cX2_number 121 = .ok (.ireturn, 1) := dk_172 (dk_at dksX2_number_5 5 rfl rfl)
abbrev cX2_enters : ByteArray := prog_12_method_7_code
def yX2_enters : MethodName := ⟨RX2, "enters", "(I)V"⟩
def dkwX2_enters_1 : List UInt8 := [177]
abbrev dktX2_enters_1 : List UInt8 := dkwX2_enters_1 ++ []
def dkwX2_enters_0 : List UInt8 := [42, 180, 0, 50, 16, 6, 160, 0, 8, 42, 27, 182, 0, 43, 42, 89, 180, 0, 50, 4, 96, 181, 0, 50]
abbrev dktX2_enters_0 : List UInt8 := dkwX2_enters_0 ++ dktX2_enters_1
theorem dksX2_enters_0 : cX2_enters.data.toList.drop 0 = dktX2_enters_0 := by decide +kernel
theorem dksX2_enters_1 : cX2_enters.data.toList.drop 24 = dktX2_enters_1 := dk_seg dksX2_enters_0 24 rfl rfl
theorem dX2_enters_0 : decode cX2_enters 0 = .ok (.aload_n 0, 1) := dk_42 (dk_at dksX2_enters_0 0 rfl rfl)
theorem dX2_enters_1 : decode cX2_enters 1 = .ok (.getfield 50, 3) := dk_180 0 50 (dk_at dksX2_enters_0 1 rfl rfl)
theorem dX2_enters_4 : decode cX2_enters 4 = .ok (.bipush 6, 2) := dk_16 6 (dk_at dksX2_enters_0 4 rfl rfl)
theorem dX2_enters_6 : decode cX2_enters 6 = .ok (.if_icmp .ne 8, 3) := dk_160 0 8 (dk_at dksX2_enters_0 6 rfl rfl)
theorem dX2_enters_9 : decode cX2_enters 9 = .ok (.aload_n 0, 1) := dk_42 (dk_at dksX2_enters_0 9 rfl rfl)
theorem dX2_enters_10 : decode cX2_enters 10 = .ok (.iload_n 1, 1) := dk_27 (dk_at dksX2_enters_0 10 rfl rfl)
theorem dX2_enters_11 : decode cX2_enters 11 = .ok (.invokevirtual 43, 3) := dk_182 0 43 (dk_at dksX2_enters_0 11 rfl rfl)
theorem dX2_enters_14 : decode cX2_enters 14 = .ok (.aload_n 0, 1) := dk_42 (dk_at dksX2_enters_0 14 rfl rfl)
theorem dX2_enters_15 : decode cX2_enters 15 = .ok (.dup, 1) := dk_89 (dk_at dksX2_enters_0 15 rfl rfl)
theorem dX2_enters_16 : decode cX2_enters 16 = .ok (.getfield 50, 3) := dk_180 0 50 (dk_at dksX2_enters_0 16 rfl rfl)
theorem dX2_enters_19 : decode cX2_enters 19 = .ok (.iconst 1, 1) := dk_4 (dk_at dksX2_enters_0 19 rfl rfl)
theorem dX2_enters_20 : decode cX2_enters 20 = .ok (.iadd, 1) := dk_96 (dk_at dksX2_enters_0 20 rfl rfl)
theorem dX2_enters_21 : decode cX2_enters 21 = .ok (.putfield 50, 3) := dk_181 0 50 (dk_at dksX2_enters_0 21 rfl rfl)
theorem dX2_enters_24 : decode cX2_enters 24 = .ok (.return_, 1) := dk_177 (dk_at dksX2_enters_1 0 rfl rfl)
abbrev cX2_expect : ByteArray := prog_12_method_8_code
def yX2_expect : MethodName := ⟨RX2, "expect", "(I)V"⟩
def dkwX2_expect_1 : List UInt8 := [181, 0, 33, 177]
abbrev dktX2_expect_1 : List UInt8 := dkwX2_expect_1 ++ []
def dkwX2_expect_0 : List UInt8 := [42, 182, 0, 39, 27, 159, 0, 11, 42, 42, 180, 0, 33, 182, 0, 43, 42, 89, 180, 0, 33, 4, 96]
abbrev dktX2_expect_0 : List UInt8 := dkwX2_expect_0 ++ dktX2_expect_1
theorem dksX2_expect_0 : cX2_expect.data.toList.drop 0 = dktX2_expect_0 := by decide +kernel
theorem dksX2_expect_1 : cX2_expect.data.toList.drop 23 = dktX2_expect_1 := dk_seg dksX2_expect_0 23 rfl rfl
theorem dX2_expect_0 : decode cX2_expect 0 = .ok (.aload_n 0, 1) := dk_42 (dk_at dksX2_expect_0 0 rfl rfl)
theorem dX2_expect_1 : decode cX2_expect 1 = .ok (.invokevirtual 39, 3) := dk_182 0 39 (dk_at dksX2_expect_0 1 rfl rfl)
theorem dX2_expect_4 : decode cX2_expect 4 = .ok (.iload_n 1, 1) := dk_27 (dk_at dksX2_expect_0 4 rfl rfl)
theorem dX2_expect_5 : decode cX2_expect 5 = .ok (.if_icmp .eq 11, 3) := dk_159 0 11 (dk_at dksX2_expect_0 5 rfl rfl)
theorem dX2_expect_8 : decode cX2_expect 8 = .ok (.aload_n 0, 1) := dk_42 (dk_at dksX2_expect_0 8 rfl rfl)
theorem dX2_expect_9 : decode cX2_expect 9 = .ok (.aload_n 0, 1) := dk_42 (dk_at dksX2_expect_0 9 rfl rfl)
theorem dX2_expect_10 : decode cX2_expect 10 = .ok (.getfield 33, 3) := dk_180 0 33 (dk_at dksX2_expect_0 10 rfl rfl)
theorem dX2_expect_13 : decode cX2_expect 13 = .ok (.invokevirtual 43, 3) := dk_182 0 43 (dk_at dksX2_expect_0 13 rfl rfl)
theorem dX2_expect_16 : decode cX2_expect 16 = .ok (.aload_n 0, 1) := dk_42 (dk_at dksX2_expect_0 16 rfl rfl)
theorem dX2_expect_17 : decode cX2_expect 17 = .ok (.dup, 1) := dk_89 (dk_at dksX2_expect_0 17 rfl rfl)
theorem dX2_expect_18 : decode cX2_expect 18 = .ok (.getfield 33, 3) := dk_180 0 33 (dk_at dksX2_expect_0 18 rfl rfl)
theorem dX2_expect_21 : decode cX2_expect 21 = .ok (.iconst 1, 1) := dk_4 (dk_at dksX2_expect_0 21 rfl rfl)
theorem dX2_expect_22 : decode cX2_expect 22 = .ok (.iadd, 1) := dk_96 (dk_at dksX2_expect_0 22 rfl rfl)
theorem dX2_expect_23 : decode cX2_expect 23 = .ok (.putfield 33, 3) := dk_181 0 33 (dk_at dksX2_expect_1 0 rfl rfl)
theorem dX2_expect_26 : decode cX2_expect 26 = .ok (.return_, 1) := dk_177 (dk_at dksX2_expect_1 3 rfl rfl)
abbrev cX2_overlap : ByteArray := prog_12_method_13_code
def yX2_overlap : MethodName := ⟨RX2, "overlap", "(I)LLetterForms$Sign;"⟩
def dkwX2_overlap_2 : List UInt8 := [100, 181, 0, 50, 187, 0, 101, 89, 44, 45, 42, 16, 8, 182, 0, 76, 183, 0, 103, 176]
abbrev dktX2_overlap_2 : List UInt8 := dkwX2_overlap_2 ++ []
def dkwX2_overlap_1 : List UInt8 := [77, 42, 16, 44, 182, 0, 90, 42, 182, 0, 53, 78, 42, 16, 93, 182, 0, 90, 42, 89, 180, 0, 50, 4]
abbrev dktX2_overlap_1 : List UInt8 := dkwX2_overlap_1 ++ dktX2_overlap_2
def dkwX2_overlap_0 : List UInt8 := [42, 27, 182, 0, 60, 42, 27, 182, 0, 82, 42, 89, 180, 0, 33, 4, 96, 181, 0, 33, 42, 182, 0, 53]
abbrev dktX2_overlap_0 : List UInt8 := dkwX2_overlap_0 ++ dktX2_overlap_1
theorem dksX2_overlap_0 : cX2_overlap.data.toList.drop 0 = dktX2_overlap_0 := by decide +kernel
theorem dksX2_overlap_1 : cX2_overlap.data.toList.drop 24 = dktX2_overlap_1 := dk_seg dksX2_overlap_0 24 rfl rfl
theorem dksX2_overlap_2 : cX2_overlap.data.toList.drop 48 = dktX2_overlap_2 := dk_seg dksX2_overlap_1 24 rfl rfl
theorem dX2_overlap_0 : decode cX2_overlap 0 = .ok (.aload_n 0, 1) := dk_42 (dk_at dksX2_overlap_0 0 rfl rfl)
theorem dX2_overlap_1 : decode cX2_overlap 1 = .ok (.iload_n 1, 1) := dk_27 (dk_at dksX2_overlap_0 1 rfl rfl)
theorem dX2_overlap_2 : decode cX2_overlap 2 = .ok (.invokevirtual 60, 3) := dk_182 0 60 (dk_at dksX2_overlap_0 2 rfl rfl)
theorem dX2_overlap_5 : decode cX2_overlap 5 = .ok (.aload_n 0, 1) := dk_42 (dk_at dksX2_overlap_0 5 rfl rfl)
theorem dX2_overlap_6 : decode cX2_overlap 6 = .ok (.iload_n 1, 1) := dk_27 (dk_at dksX2_overlap_0 6 rfl rfl)
theorem dX2_overlap_7 : decode cX2_overlap 7 = .ok (.invokevirtual 82, 3) := dk_182 0 82 (dk_at dksX2_overlap_0 7 rfl rfl)
theorem dX2_overlap_10 : decode cX2_overlap 10 = .ok (.aload_n 0, 1) := dk_42 (dk_at dksX2_overlap_0 10 rfl rfl)
theorem dX2_overlap_11 : decode cX2_overlap 11 = .ok (.dup, 1) := dk_89 (dk_at dksX2_overlap_0 11 rfl rfl)
theorem dX2_overlap_12 : decode cX2_overlap 12 = .ok (.getfield 33, 3) := dk_180 0 33 (dk_at dksX2_overlap_0 12 rfl rfl)
theorem dX2_overlap_15 : decode cX2_overlap 15 = .ok (.iconst 1, 1) := dk_4 (dk_at dksX2_overlap_0 15 rfl rfl)
theorem dX2_overlap_16 : decode cX2_overlap 16 = .ok (.iadd, 1) := dk_96 (dk_at dksX2_overlap_0 16 rfl rfl)
theorem dX2_overlap_17 : decode cX2_overlap 17 = .ok (.putfield 33, 3) := dk_181 0 33 (dk_at dksX2_overlap_0 17 rfl rfl)
theorem dX2_overlap_20 : decode cX2_overlap 20 = .ok (.aload_n 0, 1) := dk_42 (dk_at dksX2_overlap_0 20 rfl rfl)
theorem dX2_overlap_21 : decode cX2_overlap 21 = .ok (.invokevirtual 53, 3) := dk_182 0 53 (dk_at dksX2_overlap_0 21 rfl rfl)
theorem dX2_overlap_24 : decode cX2_overlap 24 = .ok (.astore_n 2, 1) := dk_77 (dk_at dksX2_overlap_1 0 rfl rfl)
theorem dX2_overlap_25 : decode cX2_overlap 25 = .ok (.aload_n 0, 1) := dk_42 (dk_at dksX2_overlap_1 1 rfl rfl)
theorem dX2_overlap_26 : decode cX2_overlap 26 = .ok (.bipush 44, 2) := dk_16 44 (dk_at dksX2_overlap_1 2 rfl rfl)
theorem dX2_overlap_28 : decode cX2_overlap 28 = .ok (.invokevirtual 90, 3) := dk_182 0 90 (dk_at dksX2_overlap_1 4 rfl rfl)
theorem dX2_overlap_31 : decode cX2_overlap 31 = .ok (.aload_n 0, 1) := dk_42 (dk_at dksX2_overlap_1 7 rfl rfl)
theorem dX2_overlap_32 : decode cX2_overlap 32 = .ok (.invokevirtual 53, 3) := dk_182 0 53 (dk_at dksX2_overlap_1 8 rfl rfl)
theorem dX2_overlap_35 : decode cX2_overlap 35 = .ok (.astore_n 3, 1) := dk_78 (dk_at dksX2_overlap_1 11 rfl rfl)
theorem dX2_overlap_36 : decode cX2_overlap 36 = .ok (.aload_n 0, 1) := dk_42 (dk_at dksX2_overlap_1 12 rfl rfl)
theorem dX2_overlap_37 : decode cX2_overlap 37 = .ok (.bipush 93, 2) := dk_16 93 (dk_at dksX2_overlap_1 13 rfl rfl)
theorem dX2_overlap_39 : decode cX2_overlap 39 = .ok (.invokevirtual 90, 3) := dk_182 0 90 (dk_at dksX2_overlap_1 15 rfl rfl)
theorem dX2_overlap_42 : decode cX2_overlap 42 = .ok (.aload_n 0, 1) := dk_42 (dk_at dksX2_overlap_1 18 rfl rfl)
theorem dX2_overlap_43 : decode cX2_overlap 43 = .ok (.dup, 1) := dk_89 (dk_at dksX2_overlap_1 19 rfl rfl)
theorem dX2_overlap_44 : decode cX2_overlap 44 = .ok (.getfield 50, 3) := dk_180 0 50 (dk_at dksX2_overlap_1 20 rfl rfl)
theorem dX2_overlap_47 : decode cX2_overlap 47 = .ok (.iconst 1, 1) := dk_4 (dk_at dksX2_overlap_1 23 rfl rfl)
theorem dX2_overlap_48 : decode cX2_overlap 48 = .ok (.isub, 1) := dk_100 (dk_at dksX2_overlap_2 0 rfl rfl)
theorem dX2_overlap_49 : decode cX2_overlap 49 = .ok (.putfield 50, 3) := dk_181 0 50 (dk_at dksX2_overlap_2 1 rfl rfl)
theorem dX2_overlap_52 : decode cX2_overlap 52 = .ok (.new 101, 3) := dk_187 0 101 (dk_at dksX2_overlap_2 4 rfl rfl)
theorem dX2_overlap_55 : decode cX2_overlap 55 = .ok (.dup, 1) := dk_89 (dk_at dksX2_overlap_2 7 rfl rfl)
theorem dX2_overlap_56 : decode cX2_overlap 56 = .ok (.aload_n 2, 1) := dk_44 (dk_at dksX2_overlap_2 8 rfl rfl)
theorem dX2_overlap_57 : decode cX2_overlap 57 = .ok (.aload_n 3, 1) := dk_45 (dk_at dksX2_overlap_2 9 rfl rfl)
theorem dX2_overlap_58 : decode cX2_overlap 58 = .ok (.aload_n 0, 1) := dk_42 (dk_at dksX2_overlap_2 10 rfl rfl)
theorem dX2_overlap_59 : decode cX2_overlap 59 = .ok (.bipush 8, 2) := dk_16 8 (dk_at dksX2_overlap_2 11 rfl rfl)
theorem dX2_overlap_61 : decode cX2_overlap 61 = .ok (.invokevirtual 76, 3) := dk_182 0 76 (dk_at dksX2_overlap_2 13 rfl rfl)
theorem dX2_overlap_64 : decode cX2_overlap 64 = .ok (.invokespecial 103, 3) := dk_183 0 103 (dk_at dksX2_overlap_2 16 rfl rfl)
theorem dX2_overlap_67 : decode cX2_overlap 67 = .ok (.areturn, 1) := dk_176 (dk_at dksX2_overlap_2 19 rfl rfl)
abbrev cX2_takesF : ByteArray := prog_12_method_4_code
def yX2_takesF : MethodName := ⟨RX2, "takesF", "()Z"⟩
def dkwX2_takesF_3 : List UInt8 := [96, 181, 0, 33, 28, 172]
abbrev dktX2_takesF_3 : List UInt8 := dkwX2_takesF_3 ++ []
def dkwX2_takesF_2 : List UInt8 := [4, 96, 51, 16, 122, 164, 0, 7, 4, 167, 0, 4, 3, 61, 28, 153, 0, 13, 42, 89, 180, 0, 33, 4]
abbrev dktX2_takesF_2 : List UInt8 := dkwX2_takesF_2 ++ dktX2_takesF_3
def dkwX2_takesF_1 : List UInt8 := [42, 180, 0, 9, 42, 180, 0, 33, 4, 96, 51, 16, 97, 161, 0, 19, 42, 180, 0, 9, 42, 180, 0, 33]
abbrev dktX2_takesF_1 : List UInt8 := dkwX2_takesF_1 ++ dktX2_takesF_2
def dkwX2_takesF_0 : List UInt8 := [42, 182, 0, 39, 60, 27, 16, 102, 160, 0, 52, 42, 180, 0, 33, 4, 96, 42, 180, 0, 36, 159, 0, 35]
abbrev dktX2_takesF_0 : List UInt8 := dkwX2_takesF_0 ++ dktX2_takesF_1
theorem dksX2_takesF_0 : cX2_takesF.data.toList.drop 0 = dktX2_takesF_0 := by decide +kernel
theorem dksX2_takesF_1 : cX2_takesF.data.toList.drop 24 = dktX2_takesF_1 := dk_seg dksX2_takesF_0 24 rfl rfl
theorem dksX2_takesF_2 : cX2_takesF.data.toList.drop 48 = dktX2_takesF_2 := dk_seg dksX2_takesF_1 24 rfl rfl
theorem dksX2_takesF_3 : cX2_takesF.data.toList.drop 72 = dktX2_takesF_3 := dk_seg dksX2_takesF_2 24 rfl rfl
theorem dX2_takesF_0 : decode cX2_takesF 0 = .ok (.aload_n 0, 1) := dk_42 (dk_at dksX2_takesF_0 0 rfl rfl)
theorem dX2_takesF_1 : decode cX2_takesF 1 = .ok (.invokevirtual 39, 3) := dk_182 0 39 (dk_at dksX2_takesF_0 1 rfl rfl)
theorem dX2_takesF_4 : decode cX2_takesF 4 = .ok (.istore_n 1, 1) := dk_60 (dk_at dksX2_takesF_0 4 rfl rfl)
theorem dX2_takesF_5 : decode cX2_takesF 5 = .ok (.iload_n 1, 1) := dk_27 (dk_at dksX2_takesF_0 5 rfl rfl)
theorem dX2_takesF_6 : decode cX2_takesF 6 = .ok (.bipush 102, 2) := dk_16 102 (dk_at dksX2_takesF_0 6 rfl rfl)
theorem dX2_takesF_8 : decode cX2_takesF 8 = .ok (.if_icmp .ne 52, 3) := dk_160 0 52 (dk_at dksX2_takesF_0 8 rfl rfl)
theorem dX2_takesF_11 : decode cX2_takesF 11 = .ok (.aload_n 0, 1) := dk_42 (dk_at dksX2_takesF_0 11 rfl rfl)
theorem dX2_takesF_12 : decode cX2_takesF 12 = .ok (.getfield 33, 3) := dk_180 0 33 (dk_at dksX2_takesF_0 12 rfl rfl)
theorem dX2_takesF_15 : decode cX2_takesF 15 = .ok (.iconst 1, 1) := dk_4 (dk_at dksX2_takesF_0 15 rfl rfl)
theorem dX2_takesF_16 : decode cX2_takesF 16 = .ok (.iadd, 1) := dk_96 (dk_at dksX2_takesF_0 16 rfl rfl)
theorem dX2_takesF_17 : decode cX2_takesF 17 = .ok (.aload_n 0, 1) := dk_42 (dk_at dksX2_takesF_0 17 rfl rfl)
theorem dX2_takesF_18 : decode cX2_takesF 18 = .ok (.getfield 36, 3) := dk_180 0 36 (dk_at dksX2_takesF_0 18 rfl rfl)
theorem dX2_takesF_21 : decode cX2_takesF 21 = .ok (.if_icmp .eq 35, 3) := dk_159 0 35 (dk_at dksX2_takesF_0 21 rfl rfl)
theorem dX2_takesF_24 : decode cX2_takesF 24 = .ok (.aload_n 0, 1) := dk_42 (dk_at dksX2_takesF_1 0 rfl rfl)
theorem dX2_takesF_25 : decode cX2_takesF 25 = .ok (.getfield 9, 3) := dk_180 0 9 (dk_at dksX2_takesF_1 1 rfl rfl)
theorem dX2_takesF_28 : decode cX2_takesF 28 = .ok (.aload_n 0, 1) := dk_42 (dk_at dksX2_takesF_1 4 rfl rfl)
theorem dX2_takesF_29 : decode cX2_takesF 29 = .ok (.getfield 33, 3) := dk_180 0 33 (dk_at dksX2_takesF_1 5 rfl rfl)
theorem dX2_takesF_32 : decode cX2_takesF 32 = .ok (.iconst 1, 1) := dk_4 (dk_at dksX2_takesF_1 8 rfl rfl)
theorem dX2_takesF_33 : decode cX2_takesF 33 = .ok (.iadd, 1) := dk_96 (dk_at dksX2_takesF_1 9 rfl rfl)
theorem dX2_takesF_34 : decode cX2_takesF 34 = .ok (.baload, 1) := dk_51 (dk_at dksX2_takesF_1 10 rfl rfl)
theorem dX2_takesF_35 : decode cX2_takesF 35 = .ok (.bipush 97, 2) := dk_16 97 (dk_at dksX2_takesF_1 11 rfl rfl)
theorem dX2_takesF_37 : decode cX2_takesF 37 = .ok (.if_icmp .lt 19, 3) := dk_161 0 19 (dk_at dksX2_takesF_1 13 rfl rfl)
theorem dX2_takesF_40 : decode cX2_takesF 40 = .ok (.aload_n 0, 1) := dk_42 (dk_at dksX2_takesF_1 16 rfl rfl)
theorem dX2_takesF_41 : decode cX2_takesF 41 = .ok (.getfield 9, 3) := dk_180 0 9 (dk_at dksX2_takesF_1 17 rfl rfl)
theorem dX2_takesF_44 : decode cX2_takesF 44 = .ok (.aload_n 0, 1) := dk_42 (dk_at dksX2_takesF_1 20 rfl rfl)
theorem dX2_takesF_45 : decode cX2_takesF 45 = .ok (.getfield 33, 3) := dk_180 0 33 (dk_at dksX2_takesF_1 21 rfl rfl)
theorem dX2_takesF_48 : decode cX2_takesF 48 = .ok (.iconst 1, 1) := dk_4 (dk_at dksX2_takesF_2 0 rfl rfl)
theorem dX2_takesF_49 : decode cX2_takesF 49 = .ok (.iadd, 1) := dk_96 (dk_at dksX2_takesF_2 1 rfl rfl)
theorem dX2_takesF_50 : decode cX2_takesF 50 = .ok (.baload, 1) := dk_51 (dk_at dksX2_takesF_2 2 rfl rfl)
theorem dX2_takesF_51 : decode cX2_takesF 51 = .ok (.bipush 122, 2) := dk_16 122 (dk_at dksX2_takesF_2 3 rfl rfl)
theorem dX2_takesF_53 : decode cX2_takesF 53 = .ok (.if_icmp .le 7, 3) := dk_164 0 7 (dk_at dksX2_takesF_2 5 rfl rfl)
theorem dX2_takesF_56 : decode cX2_takesF 56 = .ok (.iconst 1, 1) := dk_4 (dk_at dksX2_takesF_2 8 rfl rfl)
theorem dX2_takesF_57 : decode cX2_takesF 57 = .ok (.goto 4, 3) := dk_167 0 4 (dk_at dksX2_takesF_2 9 rfl rfl)
theorem dX2_takesF_60 : decode cX2_takesF 60 = .ok (.iconst 0, 1) := dk_3 (dk_at dksX2_takesF_2 12 rfl rfl)
theorem dX2_takesF_61 : decode cX2_takesF 61 = .ok (.istore_n 2, 1) := dk_61 (dk_at dksX2_takesF_2 13 rfl rfl)
theorem dX2_takesF_62 : decode cX2_takesF 62 = .ok (.iload_n 2, 1) := dk_28 (dk_at dksX2_takesF_2 14 rfl rfl)
theorem dX2_takesF_63 : decode cX2_takesF 63 = .ok (.ifCond .eq 13, 3) := dk_153 0 13 (dk_at dksX2_takesF_2 15 rfl rfl)
theorem dX2_takesF_66 : decode cX2_takesF 66 = .ok (.aload_n 0, 1) := dk_42 (dk_at dksX2_takesF_2 18 rfl rfl)
theorem dX2_takesF_67 : decode cX2_takesF 67 = .ok (.dup, 1) := dk_89 (dk_at dksX2_takesF_2 19 rfl rfl)
theorem dX2_takesF_68 : decode cX2_takesF 68 = .ok (.getfield 33, 3) := dk_180 0 33 (dk_at dksX2_takesF_2 20 rfl rfl)
theorem dX2_takesF_71 : decode cX2_takesF 71 = .ok (.iconst 1, 1) := dk_4 (dk_at dksX2_takesF_2 23 rfl rfl)
theorem dX2_takesF_72 : decode cX2_takesF 72 = .ok (.iadd, 1) := dk_96 (dk_at dksX2_takesF_3 0 rfl rfl)
theorem dX2_takesF_73 : decode cX2_takesF 73 = .ok (.putfield 33, 3) := dk_181 0 33 (dk_at dksX2_takesF_3 1 rfl rfl)
theorem dX2_takesF_76 : decode cX2_takesF 76 = .ok (.iload_n 2, 1) := dk_28 (dk_at dksX2_takesF_3 4 rfl rfl)
theorem dX2_takesF_77 : decode cX2_takesF 77 = .ok (.ireturn, 1) := dk_172 (dk_at dksX2_takesF_3 5 rfl rfl)
theorem q121 : (Jvm.Cond.initialized "LetterForms$Reader") ∈ lw_all := lw_g (lw_at lw_m1 2 rfl) rfl
theorem q159 : (Jvm.Cond.instantiable "LetterForms$Reader" (8 : Nat)) ∈ lw_all := lw_g (lw_at lw_m1 40 rfl) rfl
theorem q161 : (Jvm.Cond.instanceMethod ({ cls := "LetterForms$Reader", name := "<init>", desc := "()V" } : Jvm.MethodName)) ∈ lw_all := lw_g (lw_at lw_m1 42 rfl) rfl
theorem q162 : (Jvm.Cond.code ({ cls := "LetterForms$Reader", name := "<init>", desc := "()V" } : Jvm.MethodName) prog_12_method_1_code (1 : Nat) (Option.none : Option Jvm.ClassFile.FieldType)) ∈ lw_all := lw_g (lw_at lw_m1 43 rfl) rfl
theorem q163 : (Jvm.Cond.methodLink "LetterForms$Reader" (3 : Nat) ({ cls := "java/lang/Object", name := "<init>", desc := "()V" } : Jvm.MethodName)) ∈ lw_all := lw_g (lw_at lw_m1 44 rfl) rfl
theorem q164 : (Jvm.Cond.classLink "LetterForms$Reader" (15 : Nat) "LetterForms$Itself") ∈ lw_all := lw_g (lw_at lw_m1 45 rfl) rfl
theorem q166 : (Jvm.Cond.methodLinkNest "LetterForms$Reader" (17 : Nat) ({ cls := "LetterForms$Itself", name := "<init>", desc := "()V" } : Jvm.MethodName) "LetterForms") ∈ lw_tbl := lw_at lw_m1 47 rfl
theorem q175 : (Jvm.Cond.classLink "LetterForms$Reader" (22 : Nat) "LetterForms$Wrong") ∈ lw_all := lw_g (lw_at lw_m1 56 rfl) rfl
theorem q220 : (Jvm.Cond.methodLink "LetterForms$Reader" (24 : Nat) ({ cls := "LetterForms$Wrong", name := "<init>", desc := "()V" } : Jvm.MethodName)) ∈ lw_all := lw_g (lw_at lw_m1 101 rfl) rfl
theorem q232 : (Jvm.Cond.fieldLinkNest "LetterForms$Reader" (29 : Nat) "LetterForms$Wrong" "place" "I" "LetterForms") ∈ lw_tbl := lw_at lw_m1 113 rfl
theorem q249 : (Jvm.Cond.fieldLink "LetterForms$Reader" (9 : Nat) "LetterForms$Reader" "tape" "[B") ∈ lw_all := lw_g (lw_at lw_m1 130 rfl) rfl
theorem q251 : (Jvm.Cond.fieldLink "LetterForms$Reader" (18 : Nat) "LetterForms$Reader" "itself" "LLetterForms$Itself;") ∈ lw_all := lw_g (lw_at lw_m1 132 rfl) rfl
theorem q252 : (Jvm.Cond.fieldLink "LetterForms$Reader" (25 : Nat) "LetterForms$Reader" "wrong" "LLetterForms$Wrong;") ∈ lw_all := lw_g (lw_at lw_m1 133 rfl) rfl
theorem q254 : (Jvm.Cond.fieldLink "LetterForms$Reader" (36 : Nat) "LetterForms$Reader" "end" "I") ∈ lw_all := lw_g (lw_at lw_m1 135 rfl) rfl
theorem q255 : (Jvm.Cond.fieldLink "LetterForms$Reader" (33 : Nat) "LetterForms$Reader" "at" "I") ∈ lw_all := lw_g (lw_at lw_m1 136 rfl) rfl
theorem q256 : (Jvm.Cond.fieldLink "LetterForms$Reader" (50 : Nat) "LetterForms$Reader" "deep" "I") ∈ lw_all := lw_g (lw_at lw_m1 137 rfl) rfl
theorem q257 : (Jvm.Cond.fieldLink "LetterForms$Reader" (47 : Nat) "LetterForms$Reader" "items" "I") ∈ lw_all := lw_g (lw_at lw_m1 138 rfl) rfl
theorem q258 : (Jvm.Cond.laysFinal "LetterForms$Reader" "LetterForms$Reader" "tape" "[B") ∈ lw_all := lw_g (lw_at lw_m1 139 rfl) rfl
theorem q259 : (Jvm.Cond.soleField "LetterForms$Reader" "tape") ∈ lw_all := lw_g (lw_at lw_m1 140 rfl) rfl
theorem q260 : (Jvm.Cond.laysFinal "LetterForms$Reader" "LetterForms$Reader" "itself" "LLetterForms$Itself;") ∈ lw_all := lw_g (lw_at lw_m1 141 rfl) rfl
theorem q261 : (Jvm.Cond.soleField "LetterForms$Reader" "itself") ∈ lw_all := lw_g (lw_at lw_m1 142 rfl) rfl
theorem q262 : (Jvm.Cond.laysFinal "LetterForms$Reader" "LetterForms$Reader" "wrong" "LLetterForms$Wrong;") ∈ lw_all := lw_g (lw_at lw_m1 143 rfl) rfl
theorem q263 : (Jvm.Cond.soleField "LetterForms$Reader" "wrong") ∈ lw_all := lw_g (lw_at lw_m1 144 rfl) rfl
theorem q264 : (Jvm.Cond.lays "LetterForms$Reader" "LetterForms$Reader" "size" "I") ∈ lw_all := lw_g (lw_at lw_m1 145 rfl) rfl
theorem q265 : (Jvm.Cond.soleField "LetterForms$Reader" "size") ∈ lw_all := lw_g (lw_at lw_m1 146 rfl) rfl
theorem q266 : (Jvm.Cond.lays "LetterForms$Reader" "LetterForms$Reader" "end" "I") ∈ lw_all := lw_g (lw_at lw_m1 147 rfl) rfl
theorem q267 : (Jvm.Cond.soleField "LetterForms$Reader" "end") ∈ lw_all := lw_g (lw_at lw_m1 148 rfl) rfl
theorem q268 : (Jvm.Cond.lays "LetterForms$Reader" "LetterForms$Reader" "at" "I") ∈ lw_all := lw_g (lw_at lw_m1 149 rfl) rfl
theorem q269 : (Jvm.Cond.soleField "LetterForms$Reader" "at") ∈ lw_all := lw_g (lw_at lw_m1 150 rfl) rfl
theorem q270 : (Jvm.Cond.lays "LetterForms$Reader" "LetterForms$Reader" "deep" "I") ∈ lw_all := lw_g (lw_at lw_m1 151 rfl) rfl
theorem q271 : (Jvm.Cond.soleField "LetterForms$Reader" "deep") ∈ lw_all := lw_g (lw_at lw_m1 152 rfl) rfl
theorem q272 : (Jvm.Cond.lays "LetterForms$Reader" "LetterForms$Reader" "items" "I") ∈ lw_all := lw_g (lw_at lw_m1 153 rfl) rfl
theorem q273 : (Jvm.Cond.soleField "LetterForms$Reader" "items") ∈ lw_all := lw_g (lw_at lw_m1 154 rfl) rfl
theorem q274 : (Jvm.Cond.superclass "LetterForms$Reader" "java/lang/Object") ∈ lw_all := lw_g (lw_at lw_m1 155 rfl) rfl
theorem q656 : (Jvm.Cond.instanceMethod ({ cls := "LetterForms$Reader", name := "text", desc := "(I)LLetterForms$Sign;" } : Jvm.MethodName)) ∈ lw_all := lw_g (lw_at lw_m3 57 rfl) rfl
theorem q657 : (Jvm.Cond.selects "LetterForms$Reader" ({ cls := "LetterForms$Reader", name := "text", desc := "(I)LLetterForms$Sign;" } : Jvm.MethodName) ({ cls := "LetterForms$Reader", name := "text", desc := "(I)LLetterForms$Sign;" } : Jvm.MethodName)) ∈ lw_all := lw_g (lw_at lw_m3 58 rfl) rfl
theorem q658 : (Jvm.Cond.code ({ cls := "LetterForms$Reader", name := "text", desc := "(I)LLetterForms$Sign;" } : Jvm.MethodName) prog_12_method_9_code (3 : Nat) (Option.some (Jvm.ClassFile.FieldType.object "LetterForms$Sign"))) ∈ lw_all := lw_g (lw_at lw_m3 59 rfl) rfl
theorem q659 : (Jvm.Cond.methodLink "LetterForms$Reader" (53 : Nat) ({ cls := "LetterForms$Reader", name := "sum", desc := "()LLetterForms$Sign;" } : Jvm.MethodName)) ∈ lw_all := lw_g (lw_at lw_m3 60 rfl) rfl
theorem q660 : (Jvm.Cond.privateMethod ({ cls := "LetterForms$Reader", name := "sum", desc := "()LLetterForms$Sign;" } : Jvm.MethodName)) ∈ lw_tbl := lw_at lw_m3 61 rfl
theorem q661 : (Jvm.Cond.instanceMethod ({ cls := "LetterForms$Reader", name := "sum", desc := "()LLetterForms$Sign;" } : Jvm.MethodName)) ∈ lw_all := lw_g (lw_at lw_m3 62 rfl) rfl
theorem q662 : (Jvm.Cond.code ({ cls := "LetterForms$Reader", name := "sum", desc := "()LLetterForms$Sign;" } : Jvm.MethodName) prog_12_method_10_code (2 : Nat) (Option.some (Jvm.ClassFile.FieldType.object "LetterForms$Sign"))) ∈ lw_all := lw_g (lw_at lw_m3 63 rfl) rfl
theorem q663 : (Jvm.Cond.methodLink "LetterForms$Reader" (57 : Nat) ({ cls := "LetterForms$Reader", name := "term", desc := "()LLetterForms$Sign;" } : Jvm.MethodName)) ∈ lw_all := lw_g (lw_at lw_m3 64 rfl) rfl
theorem q664 : (Jvm.Cond.privateMethod ({ cls := "LetterForms$Reader", name := "term", desc := "()LLetterForms$Sign;" } : Jvm.MethodName)) ∈ lw_tbl := lw_at lw_m3 65 rfl
theorem q665 : (Jvm.Cond.instanceMethod ({ cls := "LetterForms$Reader", name := "term", desc := "()LLetterForms$Sign;" } : Jvm.MethodName)) ∈ lw_all := lw_g (lw_at lw_m3 66 rfl) rfl
theorem q666 : (Jvm.Cond.code ({ cls := "LetterForms$Reader", name := "term", desc := "()LLetterForms$Sign;" } : Jvm.MethodName) prog_12_method_11_code (2 : Nat) (Option.some (Jvm.ClassFile.FieldType.object "LetterForms$Sign"))) ∈ lw_all := lw_g (lw_at lw_m3 67 rfl) rfl
theorem q667 : (Jvm.Cond.methodLink "LetterForms$Reader" (68 : Nat) ({ cls := "LetterForms$Reader", name := "unit", desc := "()LLetterForms$Sign;" } : Jvm.MethodName)) ∈ lw_all := lw_g (lw_at lw_m3 68 rfl) rfl
theorem q668 : (Jvm.Cond.privateMethod ({ cls := "LetterForms$Reader", name := "unit", desc := "()LLetterForms$Sign;" } : Jvm.MethodName)) ∈ lw_tbl := lw_at lw_m3 69 rfl
theorem q669 : (Jvm.Cond.instanceMethod ({ cls := "LetterForms$Reader", name := "unit", desc := "()LLetterForms$Sign;" } : Jvm.MethodName)) ∈ lw_all := lw_g (lw_at lw_m3 70 rfl) rfl
theorem q670 : (Jvm.Cond.code ({ cls := "LetterForms$Reader", name := "unit", desc := "()LLetterForms$Sign;" } : Jvm.MethodName) prog_12_method_12_code (4 : Nat) (Option.some (Jvm.ClassFile.FieldType.object "LetterForms$Sign"))) ∈ lw_all := lw_g (lw_at lw_m3 71 rfl) rfl
theorem q671 : (Jvm.Cond.methodLink "LetterForms$Reader" (39 : Nat) ({ cls := "LetterForms$Reader", name := "sign", desc := "()I" } : Jvm.MethodName)) ∈ lw_all := lw_g (lw_at lw_m3 72 rfl) rfl
theorem q672 : (Jvm.Cond.privateMethod ({ cls := "LetterForms$Reader", name := "sign", desc := "()I" } : Jvm.MethodName)) ∈ lw_tbl := lw_at lw_m3 73 rfl
theorem q673 : (Jvm.Cond.instanceMethod ({ cls := "LetterForms$Reader", name := "sign", desc := "()I" } : Jvm.MethodName)) ∈ lw_all := lw_g (lw_at lw_m3 74 rfl) rfl
theorem q674 : (Jvm.Cond.code ({ cls := "LetterForms$Reader", name := "sign", desc := "()I" } : Jvm.MethodName) prog_12_method_3_code (1 : Nat) (Option.some Jvm.ClassFile.FieldType.int)) ∈ lw_all := lw_g (lw_at lw_m3 75 rfl) rfl
theorem q675 : (Jvm.Cond.methodLink "LetterForms$Reader" (60 : Nat) ({ cls := "LetterForms$Reader", name := "counts", desc := "(I)V" } : Jvm.MethodName)) ∈ lw_all := lw_g (lw_at lw_m3 76 rfl) rfl
theorem q676 : (Jvm.Cond.privateMethod ({ cls := "LetterForms$Reader", name := "counts", desc := "(I)V" } : Jvm.MethodName)) ∈ lw_tbl := lw_at lw_m3 77 rfl
theorem q677 : (Jvm.Cond.instanceMethod ({ cls := "LetterForms$Reader", name := "counts", desc := "(I)V" } : Jvm.MethodName)) ∈ lw_all := lw_g (lw_at lw_m3 78 rfl) rfl
theorem q678 : (Jvm.Cond.code ({ cls := "LetterForms$Reader", name := "counts", desc := "(I)V" } : Jvm.MethodName) prog_12_method_6_code (2 : Nat) (Option.none : Option Jvm.ClassFile.FieldType)) ∈ lw_all := lw_g (lw_at lw_m3 79 rfl) rfl
theorem q679 : (Jvm.Cond.methodLink "LetterForms$Reader" (43 : Nat) ({ cls := "LetterForms$Reader", name := "fail", desc := "(I)V" } : Jvm.MethodName)) ∈ lw_all := lw_g (lw_at lw_m3 80 rfl) rfl
theorem q680 : (Jvm.Cond.privateMethod ({ cls := "LetterForms$Reader", name := "fail", desc := "(I)V" } : Jvm.MethodName)) ∈ lw_tbl := lw_at lw_m3 81 rfl
theorem q681 : (Jvm.Cond.instanceMethod ({ cls := "LetterForms$Reader", name := "fail", desc := "(I)V" } : Jvm.MethodName)) ∈ lw_all := lw_g (lw_at lw_m3 82 rfl) rfl
theorem q682 : (Jvm.Cond.code ({ cls := "LetterForms$Reader", name := "fail", desc := "(I)V" } : Jvm.MethodName) prog_12_method_2_code (2 : Nat) (Option.none : Option Jvm.ClassFile.FieldType)) ∈ lw_all := lw_g (lw_at lw_m3 83 rfl) rfl
theorem q683 : (Jvm.Cond.classLink "LetterForms$Reader" (74 : Nat) "LetterForms$Constant") ∈ lw_all := lw_g (lw_at lw_m3 84 rfl) rfl
theorem q685 : (Jvm.Cond.methodLink "LetterForms$Reader" (76 : Nat) ({ cls := "LetterForms$Reader", name := "number", desc := "(I)I" } : Jvm.MethodName)) ∈ lw_all := lw_g (lw_at lw_m3 86 rfl) rfl
theorem q686 : (Jvm.Cond.privateMethod ({ cls := "LetterForms$Reader", name := "number", desc := "(I)I" } : Jvm.MethodName)) ∈ lw_tbl := lw_at lw_m3 87 rfl
theorem q687 : (Jvm.Cond.instanceMethod ({ cls := "LetterForms$Reader", name := "number", desc := "(I)I" } : Jvm.MethodName)) ∈ lw_all := lw_g (lw_at lw_m3 88 rfl) rfl
theorem q688 : (Jvm.Cond.code ({ cls := "LetterForms$Reader", name := "number", desc := "(I)I" } : Jvm.MethodName) prog_12_method_5_code (5 : Nat) (Option.some Jvm.ClassFile.FieldType.int)) ∈ lw_all := lw_g (lw_at lw_m3 89 rfl) rfl
theorem q689 : (Jvm.Cond.methodLink "LetterForms$Reader" (80 : Nat) ({ cls := "LetterForms$Constant", name := "<init>", desc := "(I)V" } : Jvm.MethodName)) ∈ lw_all := lw_g (lw_at lw_m3 90 rfl) rfl
theorem q697 : (Jvm.Cond.methodLink "LetterForms$Reader" (82 : Nat) ({ cls := "LetterForms$Reader", name := "enters", desc := "(I)V" } : Jvm.MethodName)) ∈ lw_all := lw_g (lw_at lw_m3 98 rfl) rfl
theorem q698 : (Jvm.Cond.privateMethod ({ cls := "LetterForms$Reader", name := "enters", desc := "(I)V" } : Jvm.MethodName)) ∈ lw_tbl := lw_at lw_m3 99 rfl
theorem q699 : (Jvm.Cond.instanceMethod ({ cls := "LetterForms$Reader", name := "enters", desc := "(I)V" } : Jvm.MethodName)) ∈ lw_all := lw_g (lw_at lw_m3 100 rfl) rfl
theorem q700 : (Jvm.Cond.code ({ cls := "LetterForms$Reader", name := "enters", desc := "(I)V" } : Jvm.MethodName) prog_12_method_7_code (2 : Nat) (Option.none : Option Jvm.ClassFile.FieldType)) ∈ lw_all := lw_g (lw_at lw_m3 101 rfl) rfl
theorem q701 : (Jvm.Cond.classLink "LetterForms$Reader" (85 : Nat) "LetterForms$Minus") ∈ lw_all := lw_g (lw_at lw_m3 102 rfl) rfl
theorem q703 : (Jvm.Cond.methodLink "LetterForms$Reader" (87 : Nat) ({ cls := "LetterForms$Minus", name := "<init>", desc := "(LLetterForms$Sign;)V" } : Jvm.MethodName)) ∈ lw_all := lw_g (lw_at lw_m3 104 rfl) rfl
theorem q711 : (Jvm.Cond.methodLink "LetterForms$Reader" (90 : Nat) ({ cls := "LetterForms$Reader", name := "expect", desc := "(I)V" } : Jvm.MethodName)) ∈ lw_all := lw_g (lw_at lw_m3 112 rfl) rfl
theorem q712 : (Jvm.Cond.privateMethod ({ cls := "LetterForms$Reader", name := "expect", desc := "(I)V" } : Jvm.MethodName)) ∈ lw_tbl := lw_at lw_m3 113 rfl
theorem q713 : (Jvm.Cond.instanceMethod ({ cls := "LetterForms$Reader", name := "expect", desc := "(I)V" } : Jvm.MethodName)) ∈ lw_all := lw_g (lw_at lw_m3 114 rfl) rfl
theorem q714 : (Jvm.Cond.code ({ cls := "LetterForms$Reader", name := "expect", desc := "(I)V" } : Jvm.MethodName) prog_12_method_8_code (2 : Nat) (Option.none : Option Jvm.ClassFile.FieldType)) ∈ lw_all := lw_g (lw_at lw_m3 115 rfl) rfl
theorem q715 : (Jvm.Cond.methodLink "LetterForms$Reader" (93 : Nat) ({ cls := "LetterForms$Reader", name := "overlap", desc := "(I)LLetterForms$Sign;" } : Jvm.MethodName)) ∈ lw_all := lw_g (lw_at lw_m3 116 rfl) rfl
theorem q716 : (Jvm.Cond.privateMethod ({ cls := "LetterForms$Reader", name := "overlap", desc := "(I)LLetterForms$Sign;" } : Jvm.MethodName)) ∈ lw_tbl := lw_at lw_m3 117 rfl
theorem q717 : (Jvm.Cond.instanceMethod ({ cls := "LetterForms$Reader", name := "overlap", desc := "(I)LLetterForms$Sign;" } : Jvm.MethodName)) ∈ lw_all := lw_g (lw_at lw_m3 118 rfl) rfl
theorem q718 : (Jvm.Cond.code ({ cls := "LetterForms$Reader", name := "overlap", desc := "(I)LLetterForms$Sign;" } : Jvm.MethodName) prog_12_method_13_code (4 : Nat) (Option.some (Jvm.ClassFile.FieldType.object "LetterForms$Sign"))) ∈ lw_all := lw_g (lw_at lw_m3 119 rfl) rfl
theorem q719 : (Jvm.Cond.classLink "LetterForms$Reader" (101 : Nat) "LetterForms$Overlap") ∈ lw_all := lw_g (lw_at lw_m3 120 rfl) rfl
theorem q721 : (Jvm.Cond.methodLink "LetterForms$Reader" (103 : Nat) ({ cls := "LetterForms$Overlap", name := "<init>", desc := "(LLetterForms$Sign;LLetterForms$Sign;I)V" } : Jvm.MethodName)) ∈ lw_all := lw_g (lw_at lw_m3 122 rfl) rfl
theorem q738 : (Jvm.Cond.methodLink "LetterForms$Reader" (97 : Nat) ({ cls := "LetterForms$Reader", name := "takesF", desc := "()Z" } : Jvm.MethodName)) ∈ lw_all := lw_g (lw_at lw_m3 139 rfl) rfl
theorem q739 : (Jvm.Cond.privateMethod ({ cls := "LetterForms$Reader", name := "takesF", desc := "()Z" } : Jvm.MethodName)) ∈ lw_tbl := lw_at lw_m3 140 rfl
theorem q740 : (Jvm.Cond.instanceMethod ({ cls := "LetterForms$Reader", name := "takesF", desc := "()Z" } : Jvm.MethodName)) ∈ lw_all := lw_g (lw_at lw_m3 141 rfl) rfl
theorem q741 : (Jvm.Cond.code ({ cls := "LetterForms$Reader", name := "takesF", desc := "()Z" } : Jvm.MethodName) prog_12_method_4_code (3 : Nat) (Option.some Jvm.ClassFile.FieldType.boolean)) ∈ lw_all := lw_g (lw_at lw_m3 142 rfl) rfl
theorem q742 : (Jvm.Cond.classLink "LetterForms$Reader" (71 : Nat) "LetterForms$Times") ∈ lw_all := lw_g (lw_at lw_m3 143 rfl) rfl
theorem q744 : (Jvm.Cond.methodLink "LetterForms$Reader" (73 : Nat) ({ cls := "LetterForms$Times", name := "<init>", desc := "(LLetterForms$Sign;LLetterForms$Sign;)V" } : Jvm.MethodName)) ∈ lw_all := lw_g (lw_at lw_m3 145 rfl) rfl
theorem q751 : (Jvm.Cond.classLink "LetterForms$Reader" (63 : Nat) "LetterForms$Plus") ∈ lw_all := lw_g (lw_at lw_m3 152 rfl) rfl
theorem q753 : (Jvm.Cond.methodLink "LetterForms$Reader" (65 : Nat) ({ cls := "LetterForms$Plus", name := "<init>", desc := "(LLetterForms$Sign;LLetterForms$Sign;)V" } : Jvm.MethodName)) ∈ lw_all := lw_g (lw_at lw_m3 154 rfl) rfl
theorem q1983 : (Jvm.Cond.castable "LetterForms$Reader" "java/lang/Object") ∈ lw_tbl := lw_at lw_m8 184 rfl
theorem in_X2 : ∀ w ∈ wsX20, w ∈ lw_all := lw_in wsX20 [258, 260, 262, 264, 266, 268, 270, 272] (by decide +kernel) (by decide +kernel)
/-! LetterForms$Desk -/
set_option maxRecDepth 100000
def RX6 : String := "LetterForms$Desk"
def TX6 : u_T := fun k => match k with
  | 0 => ("LetterForms$Desk", "f", "LLetterForms$Field;", true)
  | 1 => ("LetterForms$Desk", "one", "LLetterForms$Form;", true)
  | 2 => ("LetterForms$Desk", "two", "LLetterForms$Form;", true)
  | 3 => ("LetterForms$Desk", "left", "LLetterForms$Form;", true)
  | 4 => ("LetterForms$Desk", "right", "LLetterForms$Form;", true)
  | _ => ("LetterForms$Desk", "choose", "[I", true)
def tyX6 : Nat → FieldType := fun k => match k with
  | 0 => .object "LetterForms$Field"
  | 1 => .object "LetterForms$Form"
  | 2 => .object "LetterForms$Form"
  | 3 => .object "LetterForms$Form"
  | 4 => .object "LetterForms$Form"
  | _ => .array .int
abbrev wsX60 : List Cond := u_ws RX6 TX6 6
theorem nmX6 : ∀ a, a < 6 → ∀ b, b < 6 → a ≠ b → (TX6 a).2.1 ≠ (TX6 b).2.1 := by decide +kernel
theorem tyX6_ok : ∀ k, k < 6 → parseFieldDescriptor (TX6 k).2.2.1 = some (tyX6 k) := by decide +kernel
abbrev cX6_init : ByteArray := prog_4_method_1_code
def yX6_init : MethodName := ⟨RX6, "<init>", "()V"⟩
def dkwX6_init_2 : List UInt8 := [181, 0, 28, 42, 187, 0, 18, 89, 183, 0, 20, 181, 0, 31, 42, 16, 41, 188, 10, 181, 0, 34, 177]
abbrev dktX6_init_2 : List UInt8 := dkwX6_init_2 ++ []
def dkwX6_init_1 : List UInt8 := [181, 0, 21, 42, 187, 0, 18, 89, 183, 0, 20, 181, 0, 25, 42, 187, 0, 18, 89, 183, 0, 20]
abbrev dktX6_init_1 : List UInt8 := dkwX6_init_1 ++ dktX6_init_2
def dkwX6_init_0 : List UInt8 := [42, 183, 0, 3, 42, 187, 0, 9, 89, 183, 0, 11, 181, 0, 12, 42, 187, 0, 18, 89, 183, 0, 20]
abbrev dktX6_init_0 : List UInt8 := dkwX6_init_0 ++ dktX6_init_1
theorem dksX6_init_0 : cX6_init.data.toList.drop 0 = dktX6_init_0 := by decide +kernel
theorem dksX6_init_1 : cX6_init.data.toList.drop 23 = dktX6_init_1 := dk_seg dksX6_init_0 23 rfl rfl
theorem dksX6_init_2 : cX6_init.data.toList.drop 45 = dktX6_init_2 := dk_seg dksX6_init_1 22 rfl rfl
theorem dX6_init_0 : decode cX6_init 0 = .ok (.aload_n 0, 1) := dk_42 (dk_at dksX6_init_0 0 rfl rfl)
theorem dX6_init_1 : decode cX6_init 1 = .ok (.invokespecial 3, 3) := dk_183 0 3 (dk_at dksX6_init_0 1 rfl rfl)
theorem dX6_init_4 : decode cX6_init 4 = .ok (.aload_n 0, 1) := dk_42 (dk_at dksX6_init_0 4 rfl rfl)
theorem dX6_init_5 : decode cX6_init 5 = .ok (.new 9, 3) := dk_187 0 9 (dk_at dksX6_init_0 5 rfl rfl)
theorem dX6_init_8 : decode cX6_init 8 = .ok (.dup, 1) := dk_89 (dk_at dksX6_init_0 8 rfl rfl)
theorem dX6_init_9 : decode cX6_init 9 = .ok (.invokespecial 11, 3) := dk_183 0 11 (dk_at dksX6_init_0 9 rfl rfl)
theorem dX6_init_12 : decode cX6_init 12 = .ok (.putfield 12, 3) := dk_181 0 12 (dk_at dksX6_init_0 12 rfl rfl)
theorem dX6_init_15 : decode cX6_init 15 = .ok (.aload_n 0, 1) := dk_42 (dk_at dksX6_init_0 15 rfl rfl)
theorem dX6_init_16 : decode cX6_init 16 = .ok (.new 18, 3) := dk_187 0 18 (dk_at dksX6_init_0 16 rfl rfl)
theorem dX6_init_19 : decode cX6_init 19 = .ok (.dup, 1) := dk_89 (dk_at dksX6_init_0 19 rfl rfl)
theorem dX6_init_20 : decode cX6_init 20 = .ok (.invokespecial 20, 3) := dk_183 0 20 (dk_at dksX6_init_0 20 rfl rfl)
theorem dX6_init_23 : decode cX6_init 23 = .ok (.putfield 21, 3) := dk_181 0 21 (dk_at dksX6_init_1 0 rfl rfl)
theorem dX6_init_26 : decode cX6_init 26 = .ok (.aload_n 0, 1) := dk_42 (dk_at dksX6_init_1 3 rfl rfl)
theorem dX6_init_27 : decode cX6_init 27 = .ok (.new 18, 3) := dk_187 0 18 (dk_at dksX6_init_1 4 rfl rfl)
theorem dX6_init_30 : decode cX6_init 30 = .ok (.dup, 1) := dk_89 (dk_at dksX6_init_1 7 rfl rfl)
theorem dX6_init_31 : decode cX6_init 31 = .ok (.invokespecial 20, 3) := dk_183 0 20 (dk_at dksX6_init_1 8 rfl rfl)
theorem dX6_init_34 : decode cX6_init 34 = .ok (.putfield 25, 3) := dk_181 0 25 (dk_at dksX6_init_1 11 rfl rfl)
theorem dX6_init_37 : decode cX6_init 37 = .ok (.aload_n 0, 1) := dk_42 (dk_at dksX6_init_1 14 rfl rfl)
theorem dX6_init_38 : decode cX6_init 38 = .ok (.new 18, 3) := dk_187 0 18 (dk_at dksX6_init_1 15 rfl rfl)
theorem dX6_init_41 : decode cX6_init 41 = .ok (.dup, 1) := dk_89 (dk_at dksX6_init_1 18 rfl rfl)
theorem dX6_init_42 : decode cX6_init 42 = .ok (.invokespecial 20, 3) := dk_183 0 20 (dk_at dksX6_init_1 19 rfl rfl)
theorem dX6_init_45 : decode cX6_init 45 = .ok (.putfield 28, 3) := dk_181 0 28 (dk_at dksX6_init_2 0 rfl rfl)
theorem dX6_init_48 : decode cX6_init 48 = .ok (.aload_n 0, 1) := dk_42 (dk_at dksX6_init_2 3 rfl rfl)
theorem dX6_init_49 : decode cX6_init 49 = .ok (.new 18, 3) := dk_187 0 18 (dk_at dksX6_init_2 4 rfl rfl)
theorem dX6_init_52 : decode cX6_init 52 = .ok (.dup, 1) := dk_89 (dk_at dksX6_init_2 7 rfl rfl)
theorem dX6_init_53 : decode cX6_init 53 = .ok (.invokespecial 20, 3) := dk_183 0 20 (dk_at dksX6_init_2 8 rfl rfl)
theorem dX6_init_56 : decode cX6_init 56 = .ok (.putfield 31, 3) := dk_181 0 31 (dk_at dksX6_init_2 11 rfl rfl)
theorem dX6_init_59 : decode cX6_init 59 = .ok (.aload_n 0, 1) := dk_42 (dk_at dksX6_init_2 14 rfl rfl)
theorem dX6_init_60 : decode cX6_init 60 = .ok (.bipush 41, 2) := dk_16 41 (dk_at dksX6_init_2 15 rfl rfl)
theorem dX6_init_62 : decode cX6_init 62 = .ok (.newarray .int, 2) := dk_188_10 (dk_at dksX6_init_2 17 rfl rfl)
theorem dX6_init_64 : decode cX6_init 64 = .ok (.putfield 34, 3) := dk_181 0 34 (dk_at dksX6_init_2 19 rfl rfl)
theorem dX6_init_67 : decode cX6_init 67 = .ok (.return_, 1) := dk_177 (dk_at dksX6_init_2 22 rfl rfl)
abbrev cX6_at : ByteArray := prog_4_method_8_code
def yX6_at : MethodName := ⟨RX6, "at", "(LLetterForms$Form;II)I"⟩
def dkwX6_at_3 : List UInt8 := [182, 0, 49, 54, 4, 132, 5, 1, 167, 255, 186, 21, 4, 172]
abbrev dktX6_at_3 : List UInt8 := dkwX6_at_3 ++ []
def dkwX6_at_2 : List UInt8 := [182, 0, 80, 133, 42, 180, 0, 12, 29, 21, 5, 182, 0, 80, 133, 105, 182, 0, 49, 133, 105, 97]
abbrev dktX6_at_2 : List UInt8 := dkwX6_at_2 ++ dktX6_at_3
def dkwX6_at_1 : List UInt8 := [180, 0, 46, 21, 5, 46, 133, 42, 180, 0, 12, 42, 180, 0, 12, 28, 43, 180, 0, 38, 21, 5, 100]
abbrev dktX6_at_1 : List UInt8 := dkwX6_at_1 ++ dktX6_at_2
def dkwX6_at_0 : List UInt8 := [3, 54, 4, 3, 54, 5, 21, 5, 43, 180, 0, 38, 163, 0, 67, 42, 180, 0, 12, 21, 4, 133, 43]
abbrev dktX6_at_0 : List UInt8 := dkwX6_at_0 ++ dktX6_at_1
theorem dksX6_at_0 : cX6_at.data.toList.drop 0 = dktX6_at_0 := by decide +kernel
theorem dksX6_at_1 : cX6_at.data.toList.drop 23 = dktX6_at_1 := dk_seg dksX6_at_0 23 rfl rfl
theorem dksX6_at_2 : cX6_at.data.toList.drop 46 = dktX6_at_2 := dk_seg dksX6_at_1 23 rfl rfl
theorem dksX6_at_3 : cX6_at.data.toList.drop 68 = dktX6_at_3 := dk_seg dksX6_at_2 22 rfl rfl
theorem dX6_at_0 : decode cX6_at 0 = .ok (.iconst 0, 1) := dk_3 (dk_at dksX6_at_0 0 rfl rfl)
theorem dX6_at_1 : decode cX6_at 1 = .ok (.istore 4, 2) := dk_54 4 (dk_at dksX6_at_0 1 rfl rfl)
theorem dX6_at_3 : decode cX6_at 3 = .ok (.iconst 0, 1) := dk_3 (dk_at dksX6_at_0 3 rfl rfl)
theorem dX6_at_4 : decode cX6_at 4 = .ok (.istore 5, 2) := dk_54 5 (dk_at dksX6_at_0 4 rfl rfl)
theorem dX6_at_6 : decode cX6_at 6 = .ok (.iload 5, 2) := dk_21 5 (dk_at dksX6_at_0 6 rfl rfl)
theorem dX6_at_8 : decode cX6_at 8 = .ok (.aload_n 1, 1) := dk_43 (dk_at dksX6_at_0 8 rfl rfl)
theorem dX6_at_9 : decode cX6_at 9 = .ok (.getfield 38, 3) := dk_180 0 38 (dk_at dksX6_at_0 9 rfl rfl)
theorem dX6_at_12 : decode cX6_at 12 = .ok (.if_icmp .gt 67, 3) := dk_163 0 67 (dk_at dksX6_at_0 12 rfl rfl)
theorem dX6_at_15 : decode cX6_at 15 = .ok (.aload_n 0, 1) := dk_42 (dk_at dksX6_at_0 15 rfl rfl)
theorem dX6_at_16 : decode cX6_at 16 = .ok (.getfield 12, 3) := dk_180 0 12 (dk_at dksX6_at_0 16 rfl rfl)
theorem dX6_at_19 : decode cX6_at 19 = .ok (.iload 4, 2) := dk_21 4 (dk_at dksX6_at_0 19 rfl rfl)
theorem dX6_at_21 : decode cX6_at 21 = .ok (.i2l, 1) := dk_133 (dk_at dksX6_at_0 21 rfl rfl)
theorem dX6_at_22 : decode cX6_at 22 = .ok (.aload_n 1, 1) := dk_43 (dk_at dksX6_at_0 22 rfl rfl)
theorem dX6_at_23 : decode cX6_at 23 = .ok (.getfield 46, 3) := dk_180 0 46 (dk_at dksX6_at_1 0 rfl rfl)
theorem dX6_at_26 : decode cX6_at 26 = .ok (.iload 5, 2) := dk_21 5 (dk_at dksX6_at_1 3 rfl rfl)
theorem dX6_at_28 : decode cX6_at 28 = .ok (.iaload, 1) := dk_46 (dk_at dksX6_at_1 5 rfl rfl)
theorem dX6_at_29 : decode cX6_at 29 = .ok (.i2l, 1) := dk_133 (dk_at dksX6_at_1 6 rfl rfl)
theorem dX6_at_30 : decode cX6_at 30 = .ok (.aload_n 0, 1) := dk_42 (dk_at dksX6_at_1 7 rfl rfl)
theorem dX6_at_31 : decode cX6_at 31 = .ok (.getfield 12, 3) := dk_180 0 12 (dk_at dksX6_at_1 8 rfl rfl)
theorem dX6_at_34 : decode cX6_at 34 = .ok (.aload_n 0, 1) := dk_42 (dk_at dksX6_at_1 11 rfl rfl)
theorem dX6_at_35 : decode cX6_at 35 = .ok (.getfield 12, 3) := dk_180 0 12 (dk_at dksX6_at_1 12 rfl rfl)
theorem dX6_at_38 : decode cX6_at 38 = .ok (.iload_n 2, 1) := dk_28 (dk_at dksX6_at_1 15 rfl rfl)
theorem dX6_at_39 : decode cX6_at 39 = .ok (.aload_n 1, 1) := dk_43 (dk_at dksX6_at_1 16 rfl rfl)
theorem dX6_at_40 : decode cX6_at 40 = .ok (.getfield 38, 3) := dk_180 0 38 (dk_at dksX6_at_1 17 rfl rfl)
theorem dX6_at_43 : decode cX6_at 43 = .ok (.iload 5, 2) := dk_21 5 (dk_at dksX6_at_1 20 rfl rfl)
theorem dX6_at_45 : decode cX6_at 45 = .ok (.isub, 1) := dk_100 (dk_at dksX6_at_1 22 rfl rfl)
theorem dX6_at_46 : decode cX6_at 46 = .ok (.invokevirtual 80, 3) := dk_182 0 80 (dk_at dksX6_at_2 0 rfl rfl)
theorem dX6_at_49 : decode cX6_at 49 = .ok (.i2l, 1) := dk_133 (dk_at dksX6_at_2 3 rfl rfl)
theorem dX6_at_50 : decode cX6_at 50 = .ok (.aload_n 0, 1) := dk_42 (dk_at dksX6_at_2 4 rfl rfl)
theorem dX6_at_51 : decode cX6_at 51 = .ok (.getfield 12, 3) := dk_180 0 12 (dk_at dksX6_at_2 5 rfl rfl)
theorem dX6_at_54 : decode cX6_at 54 = .ok (.iload_n 3, 1) := dk_29 (dk_at dksX6_at_2 8 rfl rfl)
theorem dX6_at_55 : decode cX6_at 55 = .ok (.iload 5, 2) := dk_21 5 (dk_at dksX6_at_2 9 rfl rfl)
theorem dX6_at_57 : decode cX6_at 57 = .ok (.invokevirtual 80, 3) := dk_182 0 80 (dk_at dksX6_at_2 11 rfl rfl)
theorem dX6_at_60 : decode cX6_at 60 = .ok (.i2l, 1) := dk_133 (dk_at dksX6_at_2 14 rfl rfl)
theorem dX6_at_61 : decode cX6_at 61 = .ok (.lmul, 1) := dk_105 (dk_at dksX6_at_2 15 rfl rfl)
theorem dX6_at_62 : decode cX6_at 62 = .ok (.invokevirtual 49, 3) := dk_182 0 49 (dk_at dksX6_at_2 16 rfl rfl)
theorem dX6_at_65 : decode cX6_at 65 = .ok (.i2l, 1) := dk_133 (dk_at dksX6_at_2 19 rfl rfl)
theorem dX6_at_66 : decode cX6_at 66 = .ok (.lmul, 1) := dk_105 (dk_at dksX6_at_2 20 rfl rfl)
theorem dX6_at_67 : decode cX6_at 67 = .ok (.ladd, 1) := dk_97 (dk_at dksX6_at_2 21 rfl rfl)
theorem dX6_at_68 : decode cX6_at 68 = .ok (.invokevirtual 49, 3) := dk_182 0 49 (dk_at dksX6_at_3 0 rfl rfl)
theorem dX6_at_71 : decode cX6_at 71 = .ok (.istore 4, 2) := dk_54 4 (dk_at dksX6_at_3 3 rfl rfl)
theorem dX6_at_73 : decode cX6_at 73 = .ok (.iinc 5 1, 3) := dk_132 5 1 (dk_at dksX6_at_3 5 rfl rfl)
theorem dX6_at_76 : decode cX6_at 76 = .ok (.goto (-70), 3) := dk_167 255 186 (dk_at dksX6_at_3 8 rfl rfl)
theorem dX6_at_79 : decode cX6_at 79 = .ok (.iload 4, 2) := dk_21 4 (dk_at dksX6_at_3 11 rfl rfl)
theorem dX6_at_81 : decode cX6_at 81 = .ok (.ireturn, 1) := dk_172 (dk_at dksX6_at_3 13 rfl rfl)
abbrev cX6_mixed : ByteArray := prog_4_method_6_code
def yX6_mixed : MethodName := ⟨RX6, "mixed", "(LLetterForms$Form;IIIILLetterForms$Form;)V"⟩
def dkwX6_mixed_6 : List UInt8 := [167, 255, 197, 132, 8, 1, 167, 255, 159, 25, 6, 42, 180, 0, 25, 182, 0, 53, 177]
abbrev dktX6_mixed_6 : List UInt8 := dkwX6_mixed_6 ++ []
def dkwX6_mixed_5 : List UInt8 := [21, 8, 46, 133, 42, 180, 0, 28, 180, 0, 46, 21, 9, 46, 133, 105, 97, 182, 0, 49, 79, 132, 9, 1]
abbrev dktX6_mixed_5 : List UInt8 := dkwX6_mixed_5 ++ dktX6_mixed_6
def dkwX6_mixed_4 : List UInt8 := [180, 0, 46, 21, 9, 42, 180, 0, 12, 42, 180, 0, 25, 180, 0, 46, 21, 9, 46, 133, 43, 180, 0, 46]
abbrev dktX6_mixed_4 : List UInt8 := dkwX6_mixed_4 ++ dktX6_mixed_5
def dkwX6_mixed_3 : List UInt8 := [180, 0, 28, 21, 4, 21, 5, 182, 0, 76, 3, 54, 9, 21, 9, 21, 8, 163, 0, 58, 42, 180, 0, 25]
abbrev dktX6_mixed_3 : List UInt8 := dkwX6_mixed_3 ++ dktX6_mixed_4
def dkwX6_mixed_2 : List UInt8 := [4, 54, 8, 21, 8, 21, 7, 163, 0, 96, 42, 42, 180, 0, 25, 28, 29, 182, 0, 76, 42, 42]
abbrev dktX6_mixed_2 : List UInt8 := dkwX6_mixed_2 ++ dktX6_mixed_3
def dkwX6_mixed_1 : List UInt8 := [180, 0, 46, 3, 46, 79, 42, 180, 0, 28, 3, 182, 0, 42, 42, 180, 0, 28, 180, 0, 46, 3, 4, 79]
abbrev dktX6_mixed_1 : List UInt8 := dkwX6_mixed_1 ++ dktX6_mixed_2
def dkwX6_mixed_0 : List UInt8 := [43, 180, 0, 38, 54, 7, 42, 180, 0, 25, 3, 182, 0, 42, 42, 180, 0, 25, 180, 0, 46, 3, 43]
abbrev dktX6_mixed_0 : List UInt8 := dkwX6_mixed_0 ++ dktX6_mixed_1
theorem dksX6_mixed_0 : cX6_mixed.data.toList.drop 0 = dktX6_mixed_0 := by decide +kernel
theorem dksX6_mixed_1 : cX6_mixed.data.toList.drop 23 = dktX6_mixed_1 := dk_seg dksX6_mixed_0 23 rfl rfl
theorem dksX6_mixed_2 : cX6_mixed.data.toList.drop 47 = dktX6_mixed_2 := dk_seg dksX6_mixed_1 24 rfl rfl
theorem dksX6_mixed_3 : cX6_mixed.data.toList.drop 69 = dktX6_mixed_3 := dk_seg dksX6_mixed_2 22 rfl rfl
theorem dksX6_mixed_4 : cX6_mixed.data.toList.drop 93 = dktX6_mixed_4 := dk_seg dksX6_mixed_3 24 rfl rfl
theorem dksX6_mixed_5 : cX6_mixed.data.toList.drop 117 = dktX6_mixed_5 := dk_seg dksX6_mixed_4 24 rfl rfl
theorem dksX6_mixed_6 : cX6_mixed.data.toList.drop 141 = dktX6_mixed_6 := dk_seg dksX6_mixed_5 24 rfl rfl
theorem dX6_mixed_0 : decode cX6_mixed 0 = .ok (.aload_n 1, 1) := dk_43 (dk_at dksX6_mixed_0 0 rfl rfl)
theorem dX6_mixed_1 : decode cX6_mixed 1 = .ok (.getfield 38, 3) := dk_180 0 38 (dk_at dksX6_mixed_0 1 rfl rfl)
theorem dX6_mixed_4 : decode cX6_mixed 4 = .ok (.istore 7, 2) := dk_54 7 (dk_at dksX6_mixed_0 4 rfl rfl)
theorem dX6_mixed_6 : decode cX6_mixed 6 = .ok (.aload_n 0, 1) := dk_42 (dk_at dksX6_mixed_0 6 rfl rfl)
theorem dX6_mixed_7 : decode cX6_mixed 7 = .ok (.getfield 25, 3) := dk_180 0 25 (dk_at dksX6_mixed_0 7 rfl rfl)
theorem dX6_mixed_10 : decode cX6_mixed 10 = .ok (.iconst 0, 1) := dk_3 (dk_at dksX6_mixed_0 10 rfl rfl)
theorem dX6_mixed_11 : decode cX6_mixed 11 = .ok (.invokevirtual 42, 3) := dk_182 0 42 (dk_at dksX6_mixed_0 11 rfl rfl)
theorem dX6_mixed_14 : decode cX6_mixed 14 = .ok (.aload_n 0, 1) := dk_42 (dk_at dksX6_mixed_0 14 rfl rfl)
theorem dX6_mixed_15 : decode cX6_mixed 15 = .ok (.getfield 25, 3) := dk_180 0 25 (dk_at dksX6_mixed_0 15 rfl rfl)
theorem dX6_mixed_18 : decode cX6_mixed 18 = .ok (.getfield 46, 3) := dk_180 0 46 (dk_at dksX6_mixed_0 18 rfl rfl)
theorem dX6_mixed_21 : decode cX6_mixed 21 = .ok (.iconst 0, 1) := dk_3 (dk_at dksX6_mixed_0 21 rfl rfl)
theorem dX6_mixed_22 : decode cX6_mixed 22 = .ok (.aload_n 1, 1) := dk_43 (dk_at dksX6_mixed_0 22 rfl rfl)
theorem dX6_mixed_23 : decode cX6_mixed 23 = .ok (.getfield 46, 3) := dk_180 0 46 (dk_at dksX6_mixed_1 0 rfl rfl)
theorem dX6_mixed_26 : decode cX6_mixed 26 = .ok (.iconst 0, 1) := dk_3 (dk_at dksX6_mixed_1 3 rfl rfl)
theorem dX6_mixed_27 : decode cX6_mixed 27 = .ok (.iaload, 1) := dk_46 (dk_at dksX6_mixed_1 4 rfl rfl)
theorem dX6_mixed_28 : decode cX6_mixed 28 = .ok (.iastore, 1) := dk_79 (dk_at dksX6_mixed_1 5 rfl rfl)
theorem dX6_mixed_29 : decode cX6_mixed 29 = .ok (.aload_n 0, 1) := dk_42 (dk_at dksX6_mixed_1 6 rfl rfl)
theorem dX6_mixed_30 : decode cX6_mixed 30 = .ok (.getfield 28, 3) := dk_180 0 28 (dk_at dksX6_mixed_1 7 rfl rfl)
theorem dX6_mixed_33 : decode cX6_mixed 33 = .ok (.iconst 0, 1) := dk_3 (dk_at dksX6_mixed_1 10 rfl rfl)
theorem dX6_mixed_34 : decode cX6_mixed 34 = .ok (.invokevirtual 42, 3) := dk_182 0 42 (dk_at dksX6_mixed_1 11 rfl rfl)
theorem dX6_mixed_37 : decode cX6_mixed 37 = .ok (.aload_n 0, 1) := dk_42 (dk_at dksX6_mixed_1 14 rfl rfl)
theorem dX6_mixed_38 : decode cX6_mixed 38 = .ok (.getfield 28, 3) := dk_180 0 28 (dk_at dksX6_mixed_1 15 rfl rfl)
theorem dX6_mixed_41 : decode cX6_mixed 41 = .ok (.getfield 46, 3) := dk_180 0 46 (dk_at dksX6_mixed_1 18 rfl rfl)
theorem dX6_mixed_44 : decode cX6_mixed 44 = .ok (.iconst 0, 1) := dk_3 (dk_at dksX6_mixed_1 21 rfl rfl)
theorem dX6_mixed_45 : decode cX6_mixed 45 = .ok (.iconst 1, 1) := dk_4 (dk_at dksX6_mixed_1 22 rfl rfl)
theorem dX6_mixed_46 : decode cX6_mixed 46 = .ok (.iastore, 1) := dk_79 (dk_at dksX6_mixed_1 23 rfl rfl)
theorem dX6_mixed_47 : decode cX6_mixed 47 = .ok (.iconst 1, 1) := dk_4 (dk_at dksX6_mixed_2 0 rfl rfl)
theorem dX6_mixed_48 : decode cX6_mixed 48 = .ok (.istore 8, 2) := dk_54 8 (dk_at dksX6_mixed_2 1 rfl rfl)
theorem dX6_mixed_50 : decode cX6_mixed 50 = .ok (.iload 8, 2) := dk_21 8 (dk_at dksX6_mixed_2 3 rfl rfl)
theorem dX6_mixed_52 : decode cX6_mixed 52 = .ok (.iload 7, 2) := dk_21 7 (dk_at dksX6_mixed_2 5 rfl rfl)
theorem dX6_mixed_54 : decode cX6_mixed 54 = .ok (.if_icmp .gt 96, 3) := dk_163 0 96 (dk_at dksX6_mixed_2 7 rfl rfl)
theorem dX6_mixed_57 : decode cX6_mixed 57 = .ok (.aload_n 0, 1) := dk_42 (dk_at dksX6_mixed_2 10 rfl rfl)
theorem dX6_mixed_58 : decode cX6_mixed 58 = .ok (.aload_n 0, 1) := dk_42 (dk_at dksX6_mixed_2 11 rfl rfl)
theorem dX6_mixed_59 : decode cX6_mixed 59 = .ok (.getfield 25, 3) := dk_180 0 25 (dk_at dksX6_mixed_2 12 rfl rfl)
theorem dX6_mixed_62 : decode cX6_mixed 62 = .ok (.iload_n 2, 1) := dk_28 (dk_at dksX6_mixed_2 15 rfl rfl)
theorem dX6_mixed_63 : decode cX6_mixed 63 = .ok (.iload_n 3, 1) := dk_29 (dk_at dksX6_mixed_2 16 rfl rfl)
theorem dX6_mixed_64 : decode cX6_mixed 64 = .ok (.invokevirtual 76, 3) := dk_182 0 76 (dk_at dksX6_mixed_2 17 rfl rfl)
theorem dX6_mixed_67 : decode cX6_mixed 67 = .ok (.aload_n 0, 1) := dk_42 (dk_at dksX6_mixed_2 20 rfl rfl)
theorem dX6_mixed_68 : decode cX6_mixed 68 = .ok (.aload_n 0, 1) := dk_42 (dk_at dksX6_mixed_2 21 rfl rfl)
theorem dX6_mixed_69 : decode cX6_mixed 69 = .ok (.getfield 28, 3) := dk_180 0 28 (dk_at dksX6_mixed_3 0 rfl rfl)
theorem dX6_mixed_72 : decode cX6_mixed 72 = .ok (.iload 4, 2) := dk_21 4 (dk_at dksX6_mixed_3 3 rfl rfl)
theorem dX6_mixed_74 : decode cX6_mixed 74 = .ok (.iload 5, 2) := dk_21 5 (dk_at dksX6_mixed_3 5 rfl rfl)
theorem dX6_mixed_76 : decode cX6_mixed 76 = .ok (.invokevirtual 76, 3) := dk_182 0 76 (dk_at dksX6_mixed_3 7 rfl rfl)
theorem dX6_mixed_79 : decode cX6_mixed 79 = .ok (.iconst 0, 1) := dk_3 (dk_at dksX6_mixed_3 10 rfl rfl)
theorem dX6_mixed_80 : decode cX6_mixed 80 = .ok (.istore 9, 2) := dk_54 9 (dk_at dksX6_mixed_3 11 rfl rfl)
theorem dX6_mixed_82 : decode cX6_mixed 82 = .ok (.iload 9, 2) := dk_21 9 (dk_at dksX6_mixed_3 13 rfl rfl)
theorem dX6_mixed_84 : decode cX6_mixed 84 = .ok (.iload 8, 2) := dk_21 8 (dk_at dksX6_mixed_3 15 rfl rfl)
theorem dX6_mixed_86 : decode cX6_mixed 86 = .ok (.if_icmp .gt 58, 3) := dk_163 0 58 (dk_at dksX6_mixed_3 17 rfl rfl)
theorem dX6_mixed_89 : decode cX6_mixed 89 = .ok (.aload_n 0, 1) := dk_42 (dk_at dksX6_mixed_3 20 rfl rfl)
theorem dX6_mixed_90 : decode cX6_mixed 90 = .ok (.getfield 25, 3) := dk_180 0 25 (dk_at dksX6_mixed_3 21 rfl rfl)
theorem dX6_mixed_93 : decode cX6_mixed 93 = .ok (.getfield 46, 3) := dk_180 0 46 (dk_at dksX6_mixed_4 0 rfl rfl)
theorem dX6_mixed_96 : decode cX6_mixed 96 = .ok (.iload 9, 2) := dk_21 9 (dk_at dksX6_mixed_4 3 rfl rfl)
theorem dX6_mixed_98 : decode cX6_mixed 98 = .ok (.aload_n 0, 1) := dk_42 (dk_at dksX6_mixed_4 5 rfl rfl)
theorem dX6_mixed_99 : decode cX6_mixed 99 = .ok (.getfield 12, 3) := dk_180 0 12 (dk_at dksX6_mixed_4 6 rfl rfl)
theorem dX6_mixed_102 : decode cX6_mixed 102 = .ok (.aload_n 0, 1) := dk_42 (dk_at dksX6_mixed_4 9 rfl rfl)
theorem dX6_mixed_103 : decode cX6_mixed 103 = .ok (.getfield 25, 3) := dk_180 0 25 (dk_at dksX6_mixed_4 10 rfl rfl)
theorem dX6_mixed_106 : decode cX6_mixed 106 = .ok (.getfield 46, 3) := dk_180 0 46 (dk_at dksX6_mixed_4 13 rfl rfl)
theorem dX6_mixed_109 : decode cX6_mixed 109 = .ok (.iload 9, 2) := dk_21 9 (dk_at dksX6_mixed_4 16 rfl rfl)
theorem dX6_mixed_111 : decode cX6_mixed 111 = .ok (.iaload, 1) := dk_46 (dk_at dksX6_mixed_4 18 rfl rfl)
theorem dX6_mixed_112 : decode cX6_mixed 112 = .ok (.i2l, 1) := dk_133 (dk_at dksX6_mixed_4 19 rfl rfl)
theorem dX6_mixed_113 : decode cX6_mixed 113 = .ok (.aload_n 1, 1) := dk_43 (dk_at dksX6_mixed_4 20 rfl rfl)
theorem dX6_mixed_114 : decode cX6_mixed 114 = .ok (.getfield 46, 3) := dk_180 0 46 (dk_at dksX6_mixed_4 21 rfl rfl)
theorem dX6_mixed_117 : decode cX6_mixed 117 = .ok (.iload 8, 2) := dk_21 8 (dk_at dksX6_mixed_5 0 rfl rfl)
theorem dX6_mixed_119 : decode cX6_mixed 119 = .ok (.iaload, 1) := dk_46 (dk_at dksX6_mixed_5 2 rfl rfl)
theorem dX6_mixed_120 : decode cX6_mixed 120 = .ok (.i2l, 1) := dk_133 (dk_at dksX6_mixed_5 3 rfl rfl)
theorem dX6_mixed_121 : decode cX6_mixed 121 = .ok (.aload_n 0, 1) := dk_42 (dk_at dksX6_mixed_5 4 rfl rfl)
theorem dX6_mixed_122 : decode cX6_mixed 122 = .ok (.getfield 28, 3) := dk_180 0 28 (dk_at dksX6_mixed_5 5 rfl rfl)
theorem dX6_mixed_125 : decode cX6_mixed 125 = .ok (.getfield 46, 3) := dk_180 0 46 (dk_at dksX6_mixed_5 8 rfl rfl)
theorem dX6_mixed_128 : decode cX6_mixed 128 = .ok (.iload 9, 2) := dk_21 9 (dk_at dksX6_mixed_5 11 rfl rfl)
theorem dX6_mixed_130 : decode cX6_mixed 130 = .ok (.iaload, 1) := dk_46 (dk_at dksX6_mixed_5 13 rfl rfl)
theorem dX6_mixed_131 : decode cX6_mixed 131 = .ok (.i2l, 1) := dk_133 (dk_at dksX6_mixed_5 14 rfl rfl)
theorem dX6_mixed_132 : decode cX6_mixed 132 = .ok (.lmul, 1) := dk_105 (dk_at dksX6_mixed_5 15 rfl rfl)
theorem dX6_mixed_133 : decode cX6_mixed 133 = .ok (.ladd, 1) := dk_97 (dk_at dksX6_mixed_5 16 rfl rfl)
theorem dX6_mixed_134 : decode cX6_mixed 134 = .ok (.invokevirtual 49, 3) := dk_182 0 49 (dk_at dksX6_mixed_5 17 rfl rfl)
theorem dX6_mixed_137 : decode cX6_mixed 137 = .ok (.iastore, 1) := dk_79 (dk_at dksX6_mixed_5 20 rfl rfl)
theorem dX6_mixed_138 : decode cX6_mixed 138 = .ok (.iinc 9 1, 3) := dk_132 9 1 (dk_at dksX6_mixed_5 21 rfl rfl)
theorem dX6_mixed_141 : decode cX6_mixed 141 = .ok (.goto (-59), 3) := dk_167 255 197 (dk_at dksX6_mixed_6 0 rfl rfl)
theorem dX6_mixed_144 : decode cX6_mixed 144 = .ok (.iinc 8 1, 3) := dk_132 8 1 (dk_at dksX6_mixed_6 3 rfl rfl)
theorem dX6_mixed_147 : decode cX6_mixed 147 = .ok (.goto (-97), 3) := dk_167 255 159 (dk_at dksX6_mixed_6 6 rfl rfl)
theorem dX6_mixed_150 : decode cX6_mixed 150 = .ok (.aload 6, 2) := dk_25 6 (dk_at dksX6_mixed_6 9 rfl rfl)
theorem dX6_mixed_152 : decode cX6_mixed 152 = .ok (.aload_n 0, 1) := dk_42 (dk_at dksX6_mixed_6 11 rfl rfl)
theorem dX6_mixed_153 : decode cX6_mixed 153 = .ok (.getfield 25, 3) := dk_180 0 25 (dk_at dksX6_mixed_6 12 rfl rfl)
theorem dX6_mixed_156 : decode cX6_mixed 156 = .ok (.invokevirtual 53, 3) := dk_182 0 53 (dk_at dksX6_mixed_6 15 rfl rfl)
theorem dX6_mixed_159 : decode cX6_mixed 159 = .ok (.return_, 1) := dk_177 (dk_at dksX6_mixed_6 18 rfl rfl)
abbrev cX6_times : ByteArray := prog_4_method_7_code
def yX6_times : MethodName := ⟨RX6, "times", "(LLetterForms$Form;II)V"⟩
def dkwX6_times_3 : List UInt8 := [46, 133, 105, 167, 0, 4, 9, 97, 182, 0, 49, 79, 132, 4, 255, 167, 255, 187, 177]
abbrev dktX6_times_3 : List UInt8 := dkwX6_times_3 ++ []
def dkwX6_times_2 : List UInt8 := [21, 4, 46, 133, 105, 167, 0, 4, 9, 21, 4, 158, 0, 19, 29, 133, 43, 180, 0, 46, 21, 4, 4, 100]
abbrev dktX6_times_2 : List UInt8 := dkwX6_times_2 ++ dktX6_times_3
def dkwX6_times_1 : List UInt8 := [180, 0, 46, 21, 4, 42, 180, 0, 12, 21, 4, 43, 180, 0, 38, 162, 0, 17, 28, 133, 43, 180, 0, 46]
abbrev dktX6_times_1 : List UInt8 := dkwX6_times_1 ++ dktX6_times_2
def dkwX6_times_0 : List UInt8 := [43, 89, 180, 0, 38, 4, 96, 181, 0, 38, 43, 180, 0, 38, 54, 4, 21, 4, 155, 0, 70, 43]
abbrev dktX6_times_0 : List UInt8 := dkwX6_times_0 ++ dktX6_times_1
theorem dksX6_times_0 : cX6_times.data.toList.drop 0 = dktX6_times_0 := by decide +kernel
theorem dksX6_times_1 : cX6_times.data.toList.drop 22 = dktX6_times_1 := dk_seg dksX6_times_0 22 rfl rfl
theorem dksX6_times_2 : cX6_times.data.toList.drop 46 = dktX6_times_2 := dk_seg dksX6_times_1 24 rfl rfl
theorem dksX6_times_3 : cX6_times.data.toList.drop 70 = dktX6_times_3 := dk_seg dksX6_times_2 24 rfl rfl
theorem dX6_times_0 : decode cX6_times 0 = .ok (.aload_n 1, 1) := dk_43 (dk_at dksX6_times_0 0 rfl rfl)
theorem dX6_times_1 : decode cX6_times 1 = .ok (.dup, 1) := dk_89 (dk_at dksX6_times_0 1 rfl rfl)
theorem dX6_times_2 : decode cX6_times 2 = .ok (.getfield 38, 3) := dk_180 0 38 (dk_at dksX6_times_0 2 rfl rfl)
theorem dX6_times_5 : decode cX6_times 5 = .ok (.iconst 1, 1) := dk_4 (dk_at dksX6_times_0 5 rfl rfl)
theorem dX6_times_6 : decode cX6_times 6 = .ok (.iadd, 1) := dk_96 (dk_at dksX6_times_0 6 rfl rfl)
theorem dX6_times_7 : decode cX6_times 7 = .ok (.putfield 38, 3) := dk_181 0 38 (dk_at dksX6_times_0 7 rfl rfl)
theorem dX6_times_10 : decode cX6_times 10 = .ok (.aload_n 1, 1) := dk_43 (dk_at dksX6_times_0 10 rfl rfl)
theorem dX6_times_11 : decode cX6_times 11 = .ok (.getfield 38, 3) := dk_180 0 38 (dk_at dksX6_times_0 11 rfl rfl)
theorem dX6_times_14 : decode cX6_times 14 = .ok (.istore 4, 2) := dk_54 4 (dk_at dksX6_times_0 14 rfl rfl)
theorem dX6_times_16 : decode cX6_times 16 = .ok (.iload 4, 2) := dk_21 4 (dk_at dksX6_times_0 16 rfl rfl)
theorem dX6_times_18 : decode cX6_times 18 = .ok (.ifCond .lt 70, 3) := dk_155 0 70 (dk_at dksX6_times_0 18 rfl rfl)
theorem dX6_times_21 : decode cX6_times 21 = .ok (.aload_n 1, 1) := dk_43 (dk_at dksX6_times_0 21 rfl rfl)
theorem dX6_times_22 : decode cX6_times 22 = .ok (.getfield 46, 3) := dk_180 0 46 (dk_at dksX6_times_1 0 rfl rfl)
theorem dX6_times_25 : decode cX6_times 25 = .ok (.iload 4, 2) := dk_21 4 (dk_at dksX6_times_1 3 rfl rfl)
theorem dX6_times_27 : decode cX6_times 27 = .ok (.aload_n 0, 1) := dk_42 (dk_at dksX6_times_1 5 rfl rfl)
theorem dX6_times_28 : decode cX6_times 28 = .ok (.getfield 12, 3) := dk_180 0 12 (dk_at dksX6_times_1 6 rfl rfl)
theorem dX6_times_31 : decode cX6_times 31 = .ok (.iload 4, 2) := dk_21 4 (dk_at dksX6_times_1 9 rfl rfl)
theorem dX6_times_33 : decode cX6_times 33 = .ok (.aload_n 1, 1) := dk_43 (dk_at dksX6_times_1 11 rfl rfl)
theorem dX6_times_34 : decode cX6_times 34 = .ok (.getfield 38, 3) := dk_180 0 38 (dk_at dksX6_times_1 12 rfl rfl)
theorem dX6_times_37 : decode cX6_times 37 = .ok (.if_icmp .ge 17, 3) := dk_162 0 17 (dk_at dksX6_times_1 15 rfl rfl)
theorem dX6_times_40 : decode cX6_times 40 = .ok (.iload_n 2, 1) := dk_28 (dk_at dksX6_times_1 18 rfl rfl)
theorem dX6_times_41 : decode cX6_times 41 = .ok (.i2l, 1) := dk_133 (dk_at dksX6_times_1 19 rfl rfl)
theorem dX6_times_42 : decode cX6_times 42 = .ok (.aload_n 1, 1) := dk_43 (dk_at dksX6_times_1 20 rfl rfl)
theorem dX6_times_43 : decode cX6_times 43 = .ok (.getfield 46, 3) := dk_180 0 46 (dk_at dksX6_times_1 21 rfl rfl)
theorem dX6_times_46 : decode cX6_times 46 = .ok (.iload 4, 2) := dk_21 4 (dk_at dksX6_times_2 0 rfl rfl)
theorem dX6_times_48 : decode cX6_times 48 = .ok (.iaload, 1) := dk_46 (dk_at dksX6_times_2 2 rfl rfl)
theorem dX6_times_49 : decode cX6_times 49 = .ok (.i2l, 1) := dk_133 (dk_at dksX6_times_2 3 rfl rfl)
theorem dX6_times_50 : decode cX6_times 50 = .ok (.lmul, 1) := dk_105 (dk_at dksX6_times_2 4 rfl rfl)
theorem dX6_times_51 : decode cX6_times 51 = .ok (.goto 4, 3) := dk_167 0 4 (dk_at dksX6_times_2 5 rfl rfl)
theorem dX6_times_54 : decode cX6_times 54 = .ok (.lconst 0, 1) := dk_9 (dk_at dksX6_times_2 8 rfl rfl)
theorem dX6_times_55 : decode cX6_times 55 = .ok (.iload 4, 2) := dk_21 4 (dk_at dksX6_times_2 9 rfl rfl)
theorem dX6_times_57 : decode cX6_times 57 = .ok (.ifCond .le 19, 3) := dk_158 0 19 (dk_at dksX6_times_2 11 rfl rfl)
theorem dX6_times_60 : decode cX6_times 60 = .ok (.iload_n 3, 1) := dk_29 (dk_at dksX6_times_2 14 rfl rfl)
theorem dX6_times_61 : decode cX6_times 61 = .ok (.i2l, 1) := dk_133 (dk_at dksX6_times_2 15 rfl rfl)
theorem dX6_times_62 : decode cX6_times 62 = .ok (.aload_n 1, 1) := dk_43 (dk_at dksX6_times_2 16 rfl rfl)
theorem dX6_times_63 : decode cX6_times 63 = .ok (.getfield 46, 3) := dk_180 0 46 (dk_at dksX6_times_2 17 rfl rfl)
theorem dX6_times_66 : decode cX6_times 66 = .ok (.iload 4, 2) := dk_21 4 (dk_at dksX6_times_2 20 rfl rfl)
theorem dX6_times_68 : decode cX6_times 68 = .ok (.iconst 1, 1) := dk_4 (dk_at dksX6_times_2 22 rfl rfl)
theorem dX6_times_69 : decode cX6_times 69 = .ok (.isub, 1) := dk_100 (dk_at dksX6_times_2 23 rfl rfl)
theorem dX6_times_70 : decode cX6_times 70 = .ok (.iaload, 1) := dk_46 (dk_at dksX6_times_3 0 rfl rfl)
theorem dX6_times_71 : decode cX6_times 71 = .ok (.i2l, 1) := dk_133 (dk_at dksX6_times_3 1 rfl rfl)
theorem dX6_times_72 : decode cX6_times 72 = .ok (.lmul, 1) := dk_105 (dk_at dksX6_times_3 2 rfl rfl)
theorem dX6_times_73 : decode cX6_times 73 = .ok (.goto 4, 3) := dk_167 0 4 (dk_at dksX6_times_3 3 rfl rfl)
theorem dX6_times_76 : decode cX6_times 76 = .ok (.lconst 0, 1) := dk_9 (dk_at dksX6_times_3 6 rfl rfl)
theorem dX6_times_77 : decode cX6_times 77 = .ok (.ladd, 1) := dk_97 (dk_at dksX6_times_3 7 rfl rfl)
theorem dX6_times_78 : decode cX6_times 78 = .ok (.invokevirtual 49, 3) := dk_182 0 49 (dk_at dksX6_times_3 8 rfl rfl)
theorem dX6_times_81 : decode cX6_times 81 = .ok (.iastore, 1) := dk_79 (dk_at dksX6_times_3 11 rfl rfl)
theorem dX6_times_82 : decode cX6_times 82 = .ok (.iinc 4 (-1), 3) := dk_132 4 255 (dk_at dksX6_times_3 12 rfl rfl)
theorem dX6_times_85 : decode cX6_times 85 = .ok (.goto (-69), 3) := dk_167 255 187 (dk_at dksX6_times_3 15 rfl rfl)
theorem dX6_times_88 : decode cX6_times 88 = .ok (.return_, 1) := dk_177 (dk_at dksX6_times_3 18 rfl rfl)
abbrev cX6_overlap : ByteArray := prog_4_method_5_code
def yX6_overlap : MethodName := ⟨RX6, "overlap", "(LLetterForms$Form;LLetterForms$Form;ILLetterForms$Form;)V"⟩
def dkwX6_overlap_8 : List UInt8 := [79, 132, 7, 1, 167, 255, 182, 132, 6, 1, 167, 255, 121, 25, 4, 42, 180, 0, 25, 182, 0, 53, 177]
abbrev dktX6_overlap_8 : List UInt8 := dkwX6_overlap_8 ++ []
def dkwX6_overlap_7 : List UInt8 := [180, 0, 34, 21, 6, 46, 133, 105, 42, 180, 0, 28, 180, 0, 46, 21, 7, 46, 133, 105, 97, 182, 0, 49]
abbrev dktX6_overlap_7 : List UInt8 := dkwX6_overlap_7 ++ dktX6_overlap_8
def dkwX6_overlap_6 : List UInt8 := [180, 0, 46, 21, 7, 46, 133, 21, 6, 5, 112, 154, 0, 7, 10, 167, 0, 6, 20, 0, 74, 42]
abbrev dktX6_overlap_6 : List UInt8 := dkwX6_overlap_6 ++ dktX6_overlap_7
def dkwX6_overlap_5 : List UInt8 := [21, 5, 163, 0, 73, 42, 180, 0, 25, 180, 0, 46, 21, 7, 42, 180, 0, 12, 42, 180, 0, 25]
abbrev dktX6_overlap_5 : List UInt8 := dkwX6_overlap_5 ++ dktX6_overlap_6
def dkwX6_overlap_4 : List UInt8 := [182, 0, 66, 42, 42, 180, 0, 28, 42, 180, 0, 31, 42, 180, 0, 28, 182, 0, 70, 3, 54, 7, 21, 7]
abbrev dktX6_overlap_4 : List UInt8 := dkwX6_overlap_4 ++ dktX6_overlap_5
def dkwX6_overlap_3 : List UInt8 := [100, 21, 6, 42, 180, 0, 28, 182, 0, 66, 42, 44, 21, 6, 29, 21, 6, 100, 42, 180, 0, 31]
abbrev dktX6_overlap_3 : List UInt8 := dkwX6_overlap_3 ++ dktX6_overlap_4
def dkwX6_overlap_2 : List UInt8 := [21, 5, 182, 0, 42, 42, 29, 182, 0, 63, 3, 54, 6, 21, 6, 29, 163, 0, 135, 42, 43, 29, 21, 6]
abbrev dktX6_overlap_2 : List UInt8 := dkwX6_overlap_2 ++ dktX6_overlap_3
def dkwX6_overlap_1 : List UInt8 := [184, 0, 57, 163, 0, 10, 21, 5, 16, 40, 164, 0, 10, 25, 4, 2, 182, 0, 42, 177, 42, 180, 0, 25]
abbrev dktX6_overlap_1 : List UInt8 := dkwX6_overlap_1 ++ dktX6_overlap_2
def dkwX6_overlap_0 : List UInt8 := [43, 180, 0, 38, 44, 180, 0, 38, 96, 5, 29, 104, 100, 54, 5, 29, 43, 180, 0, 38, 44, 180, 0, 38]
abbrev dktX6_overlap_0 : List UInt8 := dkwX6_overlap_0 ++ dktX6_overlap_1
theorem dksX6_overlap_0 : cX6_overlap.data.toList.drop 0 = dktX6_overlap_0 := by decide +kernel
theorem dksX6_overlap_1 : cX6_overlap.data.toList.drop 24 = dktX6_overlap_1 := dk_seg dksX6_overlap_0 24 rfl rfl
theorem dksX6_overlap_2 : cX6_overlap.data.toList.drop 48 = dktX6_overlap_2 := dk_seg dksX6_overlap_1 24 rfl rfl
theorem dksX6_overlap_3 : cX6_overlap.data.toList.drop 72 = dktX6_overlap_3 := dk_seg dksX6_overlap_2 24 rfl rfl
theorem dksX6_overlap_4 : cX6_overlap.data.toList.drop 94 = dktX6_overlap_4 := dk_seg dksX6_overlap_3 22 rfl rfl
theorem dksX6_overlap_5 : cX6_overlap.data.toList.drop 118 = dktX6_overlap_5 := dk_seg dksX6_overlap_4 24 rfl rfl
theorem dksX6_overlap_6 : cX6_overlap.data.toList.drop 140 = dktX6_overlap_6 := dk_seg dksX6_overlap_5 22 rfl rfl
theorem dksX6_overlap_7 : cX6_overlap.data.toList.drop 162 = dktX6_overlap_7 := dk_seg dksX6_overlap_6 22 rfl rfl
theorem dksX6_overlap_8 : cX6_overlap.data.toList.drop 186 = dktX6_overlap_8 := dk_seg dksX6_overlap_7 24 rfl rfl
theorem dX6_overlap_0 : decode cX6_overlap 0 = .ok (.aload_n 1, 1) := dk_43 (dk_at dksX6_overlap_0 0 rfl rfl)
theorem dX6_overlap_1 : decode cX6_overlap 1 = .ok (.getfield 38, 3) := dk_180 0 38 (dk_at dksX6_overlap_0 1 rfl rfl)
theorem dX6_overlap_4 : decode cX6_overlap 4 = .ok (.aload_n 2, 1) := dk_44 (dk_at dksX6_overlap_0 4 rfl rfl)
theorem dX6_overlap_5 : decode cX6_overlap 5 = .ok (.getfield 38, 3) := dk_180 0 38 (dk_at dksX6_overlap_0 5 rfl rfl)
theorem dX6_overlap_8 : decode cX6_overlap 8 = .ok (.iadd, 1) := dk_96 (dk_at dksX6_overlap_0 8 rfl rfl)
theorem dX6_overlap_9 : decode cX6_overlap 9 = .ok (.iconst 2, 1) := dk_5 (dk_at dksX6_overlap_0 9 rfl rfl)
theorem dX6_overlap_10 : decode cX6_overlap 10 = .ok (.iload_n 3, 1) := dk_29 (dk_at dksX6_overlap_0 10 rfl rfl)
theorem dX6_overlap_11 : decode cX6_overlap 11 = .ok (.imul, 1) := dk_104 (dk_at dksX6_overlap_0 11 rfl rfl)
theorem dX6_overlap_12 : decode cX6_overlap 12 = .ok (.isub, 1) := dk_100 (dk_at dksX6_overlap_0 12 rfl rfl)
theorem dX6_overlap_13 : decode cX6_overlap 13 = .ok (.istore 5, 2) := dk_54 5 (dk_at dksX6_overlap_0 13 rfl rfl)
theorem dX6_overlap_15 : decode cX6_overlap 15 = .ok (.iload_n 3, 1) := dk_29 (dk_at dksX6_overlap_0 15 rfl rfl)
theorem dX6_overlap_16 : decode cX6_overlap 16 = .ok (.aload_n 1, 1) := dk_43 (dk_at dksX6_overlap_0 16 rfl rfl)
theorem dX6_overlap_17 : decode cX6_overlap 17 = .ok (.getfield 38, 3) := dk_180 0 38 (dk_at dksX6_overlap_0 17 rfl rfl)
theorem dX6_overlap_20 : decode cX6_overlap 20 = .ok (.aload_n 2, 1) := dk_44 (dk_at dksX6_overlap_0 20 rfl rfl)
theorem dX6_overlap_21 : decode cX6_overlap 21 = .ok (.getfield 38, 3) := dk_180 0 38 (dk_at dksX6_overlap_0 21 rfl rfl)
theorem dX6_overlap_24 : decode cX6_overlap 24 = .ok (.invokestatic 57, 3) := dk_184 0 57 (dk_at dksX6_overlap_1 0 rfl rfl)
theorem dX6_overlap_27 : decode cX6_overlap 27 = .ok (.if_icmp .gt 10, 3) := dk_163 0 10 (dk_at dksX6_overlap_1 3 rfl rfl)
theorem dX6_overlap_30 : decode cX6_overlap 30 = .ok (.iload 5, 2) := dk_21 5 (dk_at dksX6_overlap_1 6 rfl rfl)
theorem dX6_overlap_32 : decode cX6_overlap 32 = .ok (.bipush 40, 2) := dk_16 40 (dk_at dksX6_overlap_1 8 rfl rfl)
theorem dX6_overlap_34 : decode cX6_overlap 34 = .ok (.if_icmp .le 10, 3) := dk_164 0 10 (dk_at dksX6_overlap_1 10 rfl rfl)
theorem dX6_overlap_37 : decode cX6_overlap 37 = .ok (.aload 4, 2) := dk_25 4 (dk_at dksX6_overlap_1 13 rfl rfl)
theorem dX6_overlap_39 : decode cX6_overlap 39 = .ok (.iconst (-1), 1) := dk_2 (dk_at dksX6_overlap_1 15 rfl rfl)
theorem dX6_overlap_40 : decode cX6_overlap 40 = .ok (.invokevirtual 42, 3) := dk_182 0 42 (dk_at dksX6_overlap_1 16 rfl rfl)
theorem dX6_overlap_43 : decode cX6_overlap 43 = .ok (.return_, 1) := dk_177 (dk_at dksX6_overlap_1 19 rfl rfl)
theorem dX6_overlap_44 : decode cX6_overlap 44 = .ok (.aload_n 0, 1) := dk_42 (dk_at dksX6_overlap_1 20 rfl rfl)
theorem dX6_overlap_45 : decode cX6_overlap 45 = .ok (.getfield 25, 3) := dk_180 0 25 (dk_at dksX6_overlap_1 21 rfl rfl)
theorem dX6_overlap_48 : decode cX6_overlap 48 = .ok (.iload 5, 2) := dk_21 5 (dk_at dksX6_overlap_2 0 rfl rfl)
theorem dX6_overlap_50 : decode cX6_overlap 50 = .ok (.invokevirtual 42, 3) := dk_182 0 42 (dk_at dksX6_overlap_2 2 rfl rfl)
theorem dX6_overlap_53 : decode cX6_overlap 53 = .ok (.aload_n 0, 1) := dk_42 (dk_at dksX6_overlap_2 5 rfl rfl)
theorem dX6_overlap_54 : decode cX6_overlap 54 = .ok (.iload_n 3, 1) := dk_29 (dk_at dksX6_overlap_2 6 rfl rfl)
theorem dX6_overlap_55 : decode cX6_overlap 55 = .ok (.invokevirtual 63, 3) := dk_182 0 63 (dk_at dksX6_overlap_2 7 rfl rfl)
theorem dX6_overlap_58 : decode cX6_overlap 58 = .ok (.iconst 0, 1) := dk_3 (dk_at dksX6_overlap_2 10 rfl rfl)
theorem dX6_overlap_59 : decode cX6_overlap 59 = .ok (.istore 6, 2) := dk_54 6 (dk_at dksX6_overlap_2 11 rfl rfl)
theorem dX6_overlap_61 : decode cX6_overlap 61 = .ok (.iload 6, 2) := dk_21 6 (dk_at dksX6_overlap_2 13 rfl rfl)
theorem dX6_overlap_63 : decode cX6_overlap 63 = .ok (.iload_n 3, 1) := dk_29 (dk_at dksX6_overlap_2 15 rfl rfl)
theorem dX6_overlap_64 : decode cX6_overlap 64 = .ok (.if_icmp .gt 135, 3) := dk_163 0 135 (dk_at dksX6_overlap_2 16 rfl rfl)
theorem dX6_overlap_67 : decode cX6_overlap 67 = .ok (.aload_n 0, 1) := dk_42 (dk_at dksX6_overlap_2 19 rfl rfl)
theorem dX6_overlap_68 : decode cX6_overlap 68 = .ok (.aload_n 1, 1) := dk_43 (dk_at dksX6_overlap_2 20 rfl rfl)
theorem dX6_overlap_69 : decode cX6_overlap 69 = .ok (.iload_n 3, 1) := dk_29 (dk_at dksX6_overlap_2 21 rfl rfl)
theorem dX6_overlap_70 : decode cX6_overlap 70 = .ok (.iload 6, 2) := dk_21 6 (dk_at dksX6_overlap_2 22 rfl rfl)
theorem dX6_overlap_72 : decode cX6_overlap 72 = .ok (.isub, 1) := dk_100 (dk_at dksX6_overlap_3 0 rfl rfl)
theorem dX6_overlap_73 : decode cX6_overlap 73 = .ok (.iload 6, 2) := dk_21 6 (dk_at dksX6_overlap_3 1 rfl rfl)
theorem dX6_overlap_75 : decode cX6_overlap 75 = .ok (.aload_n 0, 1) := dk_42 (dk_at dksX6_overlap_3 3 rfl rfl)
theorem dX6_overlap_76 : decode cX6_overlap 76 = .ok (.getfield 28, 3) := dk_180 0 28 (dk_at dksX6_overlap_3 4 rfl rfl)
theorem dX6_overlap_79 : decode cX6_overlap 79 = .ok (.invokevirtual 66, 3) := dk_182 0 66 (dk_at dksX6_overlap_3 7 rfl rfl)
theorem dX6_overlap_82 : decode cX6_overlap 82 = .ok (.aload_n 0, 1) := dk_42 (dk_at dksX6_overlap_3 10 rfl rfl)
theorem dX6_overlap_83 : decode cX6_overlap 83 = .ok (.aload_n 2, 1) := dk_44 (dk_at dksX6_overlap_3 11 rfl rfl)
theorem dX6_overlap_84 : decode cX6_overlap 84 = .ok (.iload 6, 2) := dk_21 6 (dk_at dksX6_overlap_3 12 rfl rfl)
theorem dX6_overlap_86 : decode cX6_overlap 86 = .ok (.iload_n 3, 1) := dk_29 (dk_at dksX6_overlap_3 14 rfl rfl)
theorem dX6_overlap_87 : decode cX6_overlap 87 = .ok (.iload 6, 2) := dk_21 6 (dk_at dksX6_overlap_3 15 rfl rfl)
theorem dX6_overlap_89 : decode cX6_overlap 89 = .ok (.isub, 1) := dk_100 (dk_at dksX6_overlap_3 17 rfl rfl)
theorem dX6_overlap_90 : decode cX6_overlap 90 = .ok (.aload_n 0, 1) := dk_42 (dk_at dksX6_overlap_3 18 rfl rfl)
theorem dX6_overlap_91 : decode cX6_overlap 91 = .ok (.getfield 31, 3) := dk_180 0 31 (dk_at dksX6_overlap_3 19 rfl rfl)
theorem dX6_overlap_94 : decode cX6_overlap 94 = .ok (.invokevirtual 66, 3) := dk_182 0 66 (dk_at dksX6_overlap_4 0 rfl rfl)
theorem dX6_overlap_97 : decode cX6_overlap 97 = .ok (.aload_n 0, 1) := dk_42 (dk_at dksX6_overlap_4 3 rfl rfl)
theorem dX6_overlap_98 : decode cX6_overlap 98 = .ok (.aload_n 0, 1) := dk_42 (dk_at dksX6_overlap_4 4 rfl rfl)
theorem dX6_overlap_99 : decode cX6_overlap 99 = .ok (.getfield 28, 3) := dk_180 0 28 (dk_at dksX6_overlap_4 5 rfl rfl)
theorem dX6_overlap_102 : decode cX6_overlap 102 = .ok (.aload_n 0, 1) := dk_42 (dk_at dksX6_overlap_4 8 rfl rfl)
theorem dX6_overlap_103 : decode cX6_overlap 103 = .ok (.getfield 31, 3) := dk_180 0 31 (dk_at dksX6_overlap_4 9 rfl rfl)
theorem dX6_overlap_106 : decode cX6_overlap 106 = .ok (.aload_n 0, 1) := dk_42 (dk_at dksX6_overlap_4 12 rfl rfl)
theorem dX6_overlap_107 : decode cX6_overlap 107 = .ok (.getfield 28, 3) := dk_180 0 28 (dk_at dksX6_overlap_4 13 rfl rfl)
theorem dX6_overlap_110 : decode cX6_overlap 110 = .ok (.invokevirtual 70, 3) := dk_182 0 70 (dk_at dksX6_overlap_4 16 rfl rfl)
theorem dX6_overlap_113 : decode cX6_overlap 113 = .ok (.iconst 0, 1) := dk_3 (dk_at dksX6_overlap_4 19 rfl rfl)
theorem dX6_overlap_114 : decode cX6_overlap 114 = .ok (.istore 7, 2) := dk_54 7 (dk_at dksX6_overlap_4 20 rfl rfl)
theorem dX6_overlap_116 : decode cX6_overlap 116 = .ok (.iload 7, 2) := dk_21 7 (dk_at dksX6_overlap_4 22 rfl rfl)
theorem dX6_overlap_118 : decode cX6_overlap 118 = .ok (.iload 5, 2) := dk_21 5 (dk_at dksX6_overlap_5 0 rfl rfl)
theorem dX6_overlap_120 : decode cX6_overlap 120 = .ok (.if_icmp .gt 73, 3) := dk_163 0 73 (dk_at dksX6_overlap_5 2 rfl rfl)
theorem dX6_overlap_123 : decode cX6_overlap 123 = .ok (.aload_n 0, 1) := dk_42 (dk_at dksX6_overlap_5 5 rfl rfl)
theorem dX6_overlap_124 : decode cX6_overlap 124 = .ok (.getfield 25, 3) := dk_180 0 25 (dk_at dksX6_overlap_5 6 rfl rfl)
theorem dX6_overlap_127 : decode cX6_overlap 127 = .ok (.getfield 46, 3) := dk_180 0 46 (dk_at dksX6_overlap_5 9 rfl rfl)
theorem dX6_overlap_130 : decode cX6_overlap 130 = .ok (.iload 7, 2) := dk_21 7 (dk_at dksX6_overlap_5 12 rfl rfl)
theorem dX6_overlap_132 : decode cX6_overlap 132 = .ok (.aload_n 0, 1) := dk_42 (dk_at dksX6_overlap_5 14 rfl rfl)
theorem dX6_overlap_133 : decode cX6_overlap 133 = .ok (.getfield 12, 3) := dk_180 0 12 (dk_at dksX6_overlap_5 15 rfl rfl)
theorem dX6_overlap_136 : decode cX6_overlap 136 = .ok (.aload_n 0, 1) := dk_42 (dk_at dksX6_overlap_5 18 rfl rfl)
theorem dX6_overlap_137 : decode cX6_overlap 137 = .ok (.getfield 25, 3) := dk_180 0 25 (dk_at dksX6_overlap_5 19 rfl rfl)
theorem dX6_overlap_140 : decode cX6_overlap 140 = .ok (.getfield 46, 3) := dk_180 0 46 (dk_at dksX6_overlap_6 0 rfl rfl)
theorem dX6_overlap_143 : decode cX6_overlap 143 = .ok (.iload 7, 2) := dk_21 7 (dk_at dksX6_overlap_6 3 rfl rfl)
theorem dX6_overlap_145 : decode cX6_overlap 145 = .ok (.iaload, 1) := dk_46 (dk_at dksX6_overlap_6 5 rfl rfl)
theorem dX6_overlap_146 : decode cX6_overlap 146 = .ok (.i2l, 1) := dk_133 (dk_at dksX6_overlap_6 6 rfl rfl)
theorem dX6_overlap_147 : decode cX6_overlap 147 = .ok (.iload 6, 2) := dk_21 6 (dk_at dksX6_overlap_6 7 rfl rfl)
theorem dX6_overlap_149 : decode cX6_overlap 149 = .ok (.iconst 2, 1) := dk_5 (dk_at dksX6_overlap_6 9 rfl rfl)
theorem dX6_overlap_150 : decode cX6_overlap 150 = .ok (.irem, 1) := dk_112 (dk_at dksX6_overlap_6 10 rfl rfl)
theorem dX6_overlap_151 : decode cX6_overlap 151 = .ok (.ifCond .ne 7, 3) := dk_154 0 7 (dk_at dksX6_overlap_6 11 rfl rfl)
theorem dX6_overlap_154 : decode cX6_overlap 154 = .ok (.lconst 1, 1) := dk_10 (dk_at dksX6_overlap_6 14 rfl rfl)
theorem dX6_overlap_155 : decode cX6_overlap 155 = .ok (.goto 6, 3) := dk_167 0 6 (dk_at dksX6_overlap_6 15 rfl rfl)
theorem dX6_overlap_158 : decode cX6_overlap 158 = .ok (.ldc2_w 74, 3) := dk_20 0 74 (dk_at dksX6_overlap_6 18 rfl rfl)
theorem dX6_overlap_161 : decode cX6_overlap 161 = .ok (.aload_n 0, 1) := dk_42 (dk_at dksX6_overlap_6 21 rfl rfl)
theorem dX6_overlap_162 : decode cX6_overlap 162 = .ok (.getfield 34, 3) := dk_180 0 34 (dk_at dksX6_overlap_7 0 rfl rfl)
theorem dX6_overlap_165 : decode cX6_overlap 165 = .ok (.iload 6, 2) := dk_21 6 (dk_at dksX6_overlap_7 3 rfl rfl)
theorem dX6_overlap_167 : decode cX6_overlap 167 = .ok (.iaload, 1) := dk_46 (dk_at dksX6_overlap_7 5 rfl rfl)
theorem dX6_overlap_168 : decode cX6_overlap 168 = .ok (.i2l, 1) := dk_133 (dk_at dksX6_overlap_7 6 rfl rfl)
theorem dX6_overlap_169 : decode cX6_overlap 169 = .ok (.lmul, 1) := dk_105 (dk_at dksX6_overlap_7 7 rfl rfl)
theorem dX6_overlap_170 : decode cX6_overlap 170 = .ok (.aload_n 0, 1) := dk_42 (dk_at dksX6_overlap_7 8 rfl rfl)
theorem dX6_overlap_171 : decode cX6_overlap 171 = .ok (.getfield 28, 3) := dk_180 0 28 (dk_at dksX6_overlap_7 9 rfl rfl)
theorem dX6_overlap_174 : decode cX6_overlap 174 = .ok (.getfield 46, 3) := dk_180 0 46 (dk_at dksX6_overlap_7 12 rfl rfl)
theorem dX6_overlap_177 : decode cX6_overlap 177 = .ok (.iload 7, 2) := dk_21 7 (dk_at dksX6_overlap_7 15 rfl rfl)
theorem dX6_overlap_179 : decode cX6_overlap 179 = .ok (.iaload, 1) := dk_46 (dk_at dksX6_overlap_7 17 rfl rfl)
theorem dX6_overlap_180 : decode cX6_overlap 180 = .ok (.i2l, 1) := dk_133 (dk_at dksX6_overlap_7 18 rfl rfl)
theorem dX6_overlap_181 : decode cX6_overlap 181 = .ok (.lmul, 1) := dk_105 (dk_at dksX6_overlap_7 19 rfl rfl)
theorem dX6_overlap_182 : decode cX6_overlap 182 = .ok (.ladd, 1) := dk_97 (dk_at dksX6_overlap_7 20 rfl rfl)
theorem dX6_overlap_183 : decode cX6_overlap 183 = .ok (.invokevirtual 49, 3) := dk_182 0 49 (dk_at dksX6_overlap_7 21 rfl rfl)
theorem dX6_overlap_186 : decode cX6_overlap 186 = .ok (.iastore, 1) := dk_79 (dk_at dksX6_overlap_8 0 rfl rfl)
theorem dX6_overlap_187 : decode cX6_overlap 187 = .ok (.iinc 7 1, 3) := dk_132 7 1 (dk_at dksX6_overlap_8 1 rfl rfl)
theorem dX6_overlap_190 : decode cX6_overlap 190 = .ok (.goto (-74), 3) := dk_167 255 182 (dk_at dksX6_overlap_8 4 rfl rfl)
theorem dX6_overlap_193 : decode cX6_overlap 193 = .ok (.iinc 6 1, 3) := dk_132 6 1 (dk_at dksX6_overlap_8 7 rfl rfl)
theorem dX6_overlap_196 : decode cX6_overlap 196 = .ok (.goto (-135), 3) := dk_167 255 121 (dk_at dksX6_overlap_8 10 rfl rfl)
theorem dX6_overlap_199 : decode cX6_overlap 199 = .ok (.aload 4, 2) := dk_25 4 (dk_at dksX6_overlap_8 13 rfl rfl)
theorem dX6_overlap_201 : decode cX6_overlap 201 = .ok (.aload_n 0, 1) := dk_42 (dk_at dksX6_overlap_8 15 rfl rfl)
theorem dX6_overlap_202 : decode cX6_overlap 202 = .ok (.getfield 25, 3) := dk_180 0 25 (dk_at dksX6_overlap_8 16 rfl rfl)
theorem dX6_overlap_205 : decode cX6_overlap 205 = .ok (.invokevirtual 53, 3) := dk_182 0 53 (dk_at dksX6_overlap_8 19 rfl rfl)
theorem dX6_overlap_208 : decode cX6_overlap 208 = .ok (.return_, 1) := dk_177 (dk_at dksX6_overlap_8 22 rfl rfl)
abbrev cX6_chooses : ByteArray := prog_4_method_4_code
def yX6_chooses : MethodName := ⟨RX6, "chooses", "(I)V"⟩
def dkwX6_chooses_3 : List UInt8 := [132, 3, 255, 167, 255, 220, 132, 2, 1, 167, 255, 207, 177]
abbrev dktX6_chooses_3 : List UInt8 := dkwX6_chooses_3 ++ []
def dkwX6_chooses_2 : List UInt8 := [180, 0, 12, 42, 180, 0, 34, 29, 46, 42, 180, 0, 34, 29, 4, 100, 46, 96, 133, 182, 0, 49, 79]
abbrev dktX6_chooses_2 : List UInt8 := dkwX6_chooses_2 ++ dktX6_chooses_3
def dkwX6_chooses_1 : List UInt8 := [3, 4, 79, 3, 61, 28, 27, 162, 0, 50, 27, 62, 29, 158, 0, 38, 42, 180, 0, 34, 29, 42]
abbrev dktX6_chooses_1 : List UInt8 := dkwX6_chooses_1 ++ dktX6_chooses_2
def dkwX6_chooses_0 : List UInt8 := [3, 61, 28, 27, 163, 0, 16, 42, 180, 0, 34, 28, 3, 79, 132, 2, 1, 167, 255, 241, 42, 180, 0, 34]
abbrev dktX6_chooses_0 : List UInt8 := dkwX6_chooses_0 ++ dktX6_chooses_1
theorem dksX6_chooses_0 : cX6_chooses.data.toList.drop 0 = dktX6_chooses_0 := by decide +kernel
theorem dksX6_chooses_1 : cX6_chooses.data.toList.drop 24 = dktX6_chooses_1 := dk_seg dksX6_chooses_0 24 rfl rfl
theorem dksX6_chooses_2 : cX6_chooses.data.toList.drop 46 = dktX6_chooses_2 := dk_seg dksX6_chooses_1 22 rfl rfl
theorem dksX6_chooses_3 : cX6_chooses.data.toList.drop 69 = dktX6_chooses_3 := dk_seg dksX6_chooses_2 23 rfl rfl
theorem dX6_chooses_0 : decode cX6_chooses 0 = .ok (.iconst 0, 1) := dk_3 (dk_at dksX6_chooses_0 0 rfl rfl)
theorem dX6_chooses_1 : decode cX6_chooses 1 = .ok (.istore_n 2, 1) := dk_61 (dk_at dksX6_chooses_0 1 rfl rfl)
theorem dX6_chooses_2 : decode cX6_chooses 2 = .ok (.iload_n 2, 1) := dk_28 (dk_at dksX6_chooses_0 2 rfl rfl)
theorem dX6_chooses_3 : decode cX6_chooses 3 = .ok (.iload_n 1, 1) := dk_27 (dk_at dksX6_chooses_0 3 rfl rfl)
theorem dX6_chooses_4 : decode cX6_chooses 4 = .ok (.if_icmp .gt 16, 3) := dk_163 0 16 (dk_at dksX6_chooses_0 4 rfl rfl)
theorem dX6_chooses_7 : decode cX6_chooses 7 = .ok (.aload_n 0, 1) := dk_42 (dk_at dksX6_chooses_0 7 rfl rfl)
theorem dX6_chooses_8 : decode cX6_chooses 8 = .ok (.getfield 34, 3) := dk_180 0 34 (dk_at dksX6_chooses_0 8 rfl rfl)
theorem dX6_chooses_11 : decode cX6_chooses 11 = .ok (.iload_n 2, 1) := dk_28 (dk_at dksX6_chooses_0 11 rfl rfl)
theorem dX6_chooses_12 : decode cX6_chooses 12 = .ok (.iconst 0, 1) := dk_3 (dk_at dksX6_chooses_0 12 rfl rfl)
theorem dX6_chooses_13 : decode cX6_chooses 13 = .ok (.iastore, 1) := dk_79 (dk_at dksX6_chooses_0 13 rfl rfl)
theorem dX6_chooses_14 : decode cX6_chooses 14 = .ok (.iinc 2 1, 3) := dk_132 2 1 (dk_at dksX6_chooses_0 14 rfl rfl)
theorem dX6_chooses_17 : decode cX6_chooses 17 = .ok (.goto (-15), 3) := dk_167 255 241 (dk_at dksX6_chooses_0 17 rfl rfl)
theorem dX6_chooses_20 : decode cX6_chooses 20 = .ok (.aload_n 0, 1) := dk_42 (dk_at dksX6_chooses_0 20 rfl rfl)
theorem dX6_chooses_21 : decode cX6_chooses 21 = .ok (.getfield 34, 3) := dk_180 0 34 (dk_at dksX6_chooses_0 21 rfl rfl)
theorem dX6_chooses_24 : decode cX6_chooses 24 = .ok (.iconst 0, 1) := dk_3 (dk_at dksX6_chooses_1 0 rfl rfl)
theorem dX6_chooses_25 : decode cX6_chooses 25 = .ok (.iconst 1, 1) := dk_4 (dk_at dksX6_chooses_1 1 rfl rfl)
theorem dX6_chooses_26 : decode cX6_chooses 26 = .ok (.iastore, 1) := dk_79 (dk_at dksX6_chooses_1 2 rfl rfl)
theorem dX6_chooses_27 : decode cX6_chooses 27 = .ok (.iconst 0, 1) := dk_3 (dk_at dksX6_chooses_1 3 rfl rfl)
theorem dX6_chooses_28 : decode cX6_chooses 28 = .ok (.istore_n 2, 1) := dk_61 (dk_at dksX6_chooses_1 4 rfl rfl)
theorem dX6_chooses_29 : decode cX6_chooses 29 = .ok (.iload_n 2, 1) := dk_28 (dk_at dksX6_chooses_1 5 rfl rfl)
theorem dX6_chooses_30 : decode cX6_chooses 30 = .ok (.iload_n 1, 1) := dk_27 (dk_at dksX6_chooses_1 6 rfl rfl)
theorem dX6_chooses_31 : decode cX6_chooses 31 = .ok (.if_icmp .ge 50, 3) := dk_162 0 50 (dk_at dksX6_chooses_1 7 rfl rfl)
theorem dX6_chooses_34 : decode cX6_chooses 34 = .ok (.iload_n 1, 1) := dk_27 (dk_at dksX6_chooses_1 10 rfl rfl)
theorem dX6_chooses_35 : decode cX6_chooses 35 = .ok (.istore_n 3, 1) := dk_62 (dk_at dksX6_chooses_1 11 rfl rfl)
theorem dX6_chooses_36 : decode cX6_chooses 36 = .ok (.iload_n 3, 1) := dk_29 (dk_at dksX6_chooses_1 12 rfl rfl)
theorem dX6_chooses_37 : decode cX6_chooses 37 = .ok (.ifCond .le 38, 3) := dk_158 0 38 (dk_at dksX6_chooses_1 13 rfl rfl)
theorem dX6_chooses_40 : decode cX6_chooses 40 = .ok (.aload_n 0, 1) := dk_42 (dk_at dksX6_chooses_1 16 rfl rfl)
theorem dX6_chooses_41 : decode cX6_chooses 41 = .ok (.getfield 34, 3) := dk_180 0 34 (dk_at dksX6_chooses_1 17 rfl rfl)
theorem dX6_chooses_44 : decode cX6_chooses 44 = .ok (.iload_n 3, 1) := dk_29 (dk_at dksX6_chooses_1 20 rfl rfl)
theorem dX6_chooses_45 : decode cX6_chooses 45 = .ok (.aload_n 0, 1) := dk_42 (dk_at dksX6_chooses_1 21 rfl rfl)
theorem dX6_chooses_46 : decode cX6_chooses 46 = .ok (.getfield 12, 3) := dk_180 0 12 (dk_at dksX6_chooses_2 0 rfl rfl)
theorem dX6_chooses_49 : decode cX6_chooses 49 = .ok (.aload_n 0, 1) := dk_42 (dk_at dksX6_chooses_2 3 rfl rfl)
theorem dX6_chooses_50 : decode cX6_chooses 50 = .ok (.getfield 34, 3) := dk_180 0 34 (dk_at dksX6_chooses_2 4 rfl rfl)
theorem dX6_chooses_53 : decode cX6_chooses 53 = .ok (.iload_n 3, 1) := dk_29 (dk_at dksX6_chooses_2 7 rfl rfl)
theorem dX6_chooses_54 : decode cX6_chooses 54 = .ok (.iaload, 1) := dk_46 (dk_at dksX6_chooses_2 8 rfl rfl)
theorem dX6_chooses_55 : decode cX6_chooses 55 = .ok (.aload_n 0, 1) := dk_42 (dk_at dksX6_chooses_2 9 rfl rfl)
theorem dX6_chooses_56 : decode cX6_chooses 56 = .ok (.getfield 34, 3) := dk_180 0 34 (dk_at dksX6_chooses_2 10 rfl rfl)
theorem dX6_chooses_59 : decode cX6_chooses 59 = .ok (.iload_n 3, 1) := dk_29 (dk_at dksX6_chooses_2 13 rfl rfl)
theorem dX6_chooses_60 : decode cX6_chooses 60 = .ok (.iconst 1, 1) := dk_4 (dk_at dksX6_chooses_2 14 rfl rfl)
theorem dX6_chooses_61 : decode cX6_chooses 61 = .ok (.isub, 1) := dk_100 (dk_at dksX6_chooses_2 15 rfl rfl)
theorem dX6_chooses_62 : decode cX6_chooses 62 = .ok (.iaload, 1) := dk_46 (dk_at dksX6_chooses_2 16 rfl rfl)
theorem dX6_chooses_63 : decode cX6_chooses 63 = .ok (.iadd, 1) := dk_96 (dk_at dksX6_chooses_2 17 rfl rfl)
theorem dX6_chooses_64 : decode cX6_chooses 64 = .ok (.i2l, 1) := dk_133 (dk_at dksX6_chooses_2 18 rfl rfl)
theorem dX6_chooses_65 : decode cX6_chooses 65 = .ok (.invokevirtual 49, 3) := dk_182 0 49 (dk_at dksX6_chooses_2 19 rfl rfl)
theorem dX6_chooses_68 : decode cX6_chooses 68 = .ok (.iastore, 1) := dk_79 (dk_at dksX6_chooses_2 22 rfl rfl)
theorem dX6_chooses_69 : decode cX6_chooses 69 = .ok (.iinc 3 (-1), 3) := dk_132 3 255 (dk_at dksX6_chooses_3 0 rfl rfl)
theorem dX6_chooses_72 : decode cX6_chooses 72 = .ok (.goto (-36), 3) := dk_167 255 220 (dk_at dksX6_chooses_3 3 rfl rfl)
theorem dX6_chooses_75 : decode cX6_chooses 75 = .ok (.iinc 2 1, 3) := dk_132 2 1 (dk_at dksX6_chooses_3 6 rfl rfl)
theorem dX6_chooses_78 : decode cX6_chooses 78 = .ok (.goto (-49), 3) := dk_167 255 207 (dk_at dksX6_chooses_3 9 rfl rfl)
theorem dX6_chooses_81 : decode cX6_chooses 81 = .ok (.return_, 1) := dk_177 (dk_at dksX6_chooses_3 12 rfl rfl)
abbrev cX6_differs : ByteArray := prog_4_method_3_code
def yX6_differs : MethodName := ⟨RX6, "differs", "(LLetterForms$Form;IILLetterForms$Form;)V"⟩
def dkwX6_differs_5 : List UInt8 := [100, 21, 6, 79, 132, 5, 1, 167, 255, 148, 177]
abbrev dktX6_differs_5 : List UInt8 := dkwX6_differs_5 ++ []
def dkwX6_differs_4 : List UInt8 := [21, 7, 100, 133, 105, 182, 0, 49, 54, 6, 132, 7, 1, 167, 255, 228, 25, 4, 180, 0, 46, 21, 5, 29]
abbrev dktX6_differs_4 : List UInt8 := dkwX6_differs_4 ++ dktX6_differs_5
def dkwX6_differs_3 : List UInt8 := [132, 7, 1, 167, 255, 223, 3, 54, 7, 21, 7, 29, 162, 0, 28, 42, 180, 0, 12, 21, 6, 133, 21, 5]
abbrev dktX6_differs_3 : List UInt8 := dkwX6_differs_3 ++ dktX6_differs_4
def dkwX6_differs_2 : List UInt8 := [180, 0, 12, 21, 6, 133, 43, 180, 0, 38, 21, 5, 100, 21, 7, 100, 133, 105, 182, 0, 49, 54, 6]
abbrev dktX6_differs_2 : List UInt8 := dkwX6_differs_2 ++ dktX6_differs_3
def dkwX6_differs_1 : List UInt8 := [163, 0, 103, 43, 180, 0, 46, 21, 5, 46, 54, 6, 3, 54, 7, 21, 7, 28, 162, 0, 33, 42]
abbrev dktX6_differs_1 : List UInt8 := dkwX6_differs_1 ++ dktX6_differs_2
def dkwX6_differs_0 : List UInt8 := [25, 4, 43, 180, 0, 38, 28, 100, 29, 100, 182, 0, 42, 29, 54, 5, 21, 5, 43, 180, 0, 38, 28, 100]
abbrev dktX6_differs_0 : List UInt8 := dkwX6_differs_0 ++ dktX6_differs_1
theorem dksX6_differs_0 : cX6_differs.data.toList.drop 0 = dktX6_differs_0 := by decide +kernel
theorem dksX6_differs_1 : cX6_differs.data.toList.drop 24 = dktX6_differs_1 := dk_seg dksX6_differs_0 24 rfl rfl
theorem dksX6_differs_2 : cX6_differs.data.toList.drop 46 = dktX6_differs_2 := dk_seg dksX6_differs_1 22 rfl rfl
theorem dksX6_differs_3 : cX6_differs.data.toList.drop 69 = dktX6_differs_3 := dk_seg dksX6_differs_2 23 rfl rfl
theorem dksX6_differs_4 : cX6_differs.data.toList.drop 93 = dktX6_differs_4 := dk_seg dksX6_differs_3 24 rfl rfl
theorem dksX6_differs_5 : cX6_differs.data.toList.drop 117 = dktX6_differs_5 := dk_seg dksX6_differs_4 24 rfl rfl
theorem dX6_differs_0 : decode cX6_differs 0 = .ok (.aload 4, 2) := dk_25 4 (dk_at dksX6_differs_0 0 rfl rfl)
theorem dX6_differs_2 : decode cX6_differs 2 = .ok (.aload_n 1, 1) := dk_43 (dk_at dksX6_differs_0 2 rfl rfl)
theorem dX6_differs_3 : decode cX6_differs 3 = .ok (.getfield 38, 3) := dk_180 0 38 (dk_at dksX6_differs_0 3 rfl rfl)
theorem dX6_differs_6 : decode cX6_differs 6 = .ok (.iload_n 2, 1) := dk_28 (dk_at dksX6_differs_0 6 rfl rfl)
theorem dX6_differs_7 : decode cX6_differs 7 = .ok (.isub, 1) := dk_100 (dk_at dksX6_differs_0 7 rfl rfl)
theorem dX6_differs_8 : decode cX6_differs 8 = .ok (.iload_n 3, 1) := dk_29 (dk_at dksX6_differs_0 8 rfl rfl)
theorem dX6_differs_9 : decode cX6_differs 9 = .ok (.isub, 1) := dk_100 (dk_at dksX6_differs_0 9 rfl rfl)
theorem dX6_differs_10 : decode cX6_differs 10 = .ok (.invokevirtual 42, 3) := dk_182 0 42 (dk_at dksX6_differs_0 10 rfl rfl)
theorem dX6_differs_13 : decode cX6_differs 13 = .ok (.iload_n 3, 1) := dk_29 (dk_at dksX6_differs_0 13 rfl rfl)
theorem dX6_differs_14 : decode cX6_differs 14 = .ok (.istore 5, 2) := dk_54 5 (dk_at dksX6_differs_0 14 rfl rfl)
theorem dX6_differs_16 : decode cX6_differs 16 = .ok (.iload 5, 2) := dk_21 5 (dk_at dksX6_differs_0 16 rfl rfl)
theorem dX6_differs_18 : decode cX6_differs 18 = .ok (.aload_n 1, 1) := dk_43 (dk_at dksX6_differs_0 18 rfl rfl)
theorem dX6_differs_19 : decode cX6_differs 19 = .ok (.getfield 38, 3) := dk_180 0 38 (dk_at dksX6_differs_0 19 rfl rfl)
theorem dX6_differs_22 : decode cX6_differs 22 = .ok (.iload_n 2, 1) := dk_28 (dk_at dksX6_differs_0 22 rfl rfl)
theorem dX6_differs_23 : decode cX6_differs 23 = .ok (.isub, 1) := dk_100 (dk_at dksX6_differs_0 23 rfl rfl)
theorem dX6_differs_24 : decode cX6_differs 24 = .ok (.if_icmp .gt 103, 3) := dk_163 0 103 (dk_at dksX6_differs_1 0 rfl rfl)
theorem dX6_differs_27 : decode cX6_differs 27 = .ok (.aload_n 1, 1) := dk_43 (dk_at dksX6_differs_1 3 rfl rfl)
theorem dX6_differs_28 : decode cX6_differs 28 = .ok (.getfield 46, 3) := dk_180 0 46 (dk_at dksX6_differs_1 4 rfl rfl)
theorem dX6_differs_31 : decode cX6_differs 31 = .ok (.iload 5, 2) := dk_21 5 (dk_at dksX6_differs_1 7 rfl rfl)
theorem dX6_differs_33 : decode cX6_differs 33 = .ok (.iaload, 1) := dk_46 (dk_at dksX6_differs_1 9 rfl rfl)
theorem dX6_differs_34 : decode cX6_differs 34 = .ok (.istore 6, 2) := dk_54 6 (dk_at dksX6_differs_1 10 rfl rfl)
theorem dX6_differs_36 : decode cX6_differs 36 = .ok (.iconst 0, 1) := dk_3 (dk_at dksX6_differs_1 12 rfl rfl)
theorem dX6_differs_37 : decode cX6_differs 37 = .ok (.istore 7, 2) := dk_54 7 (dk_at dksX6_differs_1 13 rfl rfl)
theorem dX6_differs_39 : decode cX6_differs 39 = .ok (.iload 7, 2) := dk_21 7 (dk_at dksX6_differs_1 15 rfl rfl)
theorem dX6_differs_41 : decode cX6_differs 41 = .ok (.iload_n 2, 1) := dk_28 (dk_at dksX6_differs_1 17 rfl rfl)
theorem dX6_differs_42 : decode cX6_differs 42 = .ok (.if_icmp .ge 33, 3) := dk_162 0 33 (dk_at dksX6_differs_1 18 rfl rfl)
theorem dX6_differs_45 : decode cX6_differs 45 = .ok (.aload_n 0, 1) := dk_42 (dk_at dksX6_differs_1 21 rfl rfl)
theorem dX6_differs_46 : decode cX6_differs 46 = .ok (.getfield 12, 3) := dk_180 0 12 (dk_at dksX6_differs_2 0 rfl rfl)
theorem dX6_differs_49 : decode cX6_differs 49 = .ok (.iload 6, 2) := dk_21 6 (dk_at dksX6_differs_2 3 rfl rfl)
theorem dX6_differs_51 : decode cX6_differs 51 = .ok (.i2l, 1) := dk_133 (dk_at dksX6_differs_2 5 rfl rfl)
theorem dX6_differs_52 : decode cX6_differs 52 = .ok (.aload_n 1, 1) := dk_43 (dk_at dksX6_differs_2 6 rfl rfl)
theorem dX6_differs_53 : decode cX6_differs 53 = .ok (.getfield 38, 3) := dk_180 0 38 (dk_at dksX6_differs_2 7 rfl rfl)
theorem dX6_differs_56 : decode cX6_differs 56 = .ok (.iload 5, 2) := dk_21 5 (dk_at dksX6_differs_2 10 rfl rfl)
theorem dX6_differs_58 : decode cX6_differs 58 = .ok (.isub, 1) := dk_100 (dk_at dksX6_differs_2 12 rfl rfl)
theorem dX6_differs_59 : decode cX6_differs 59 = .ok (.iload 7, 2) := dk_21 7 (dk_at dksX6_differs_2 13 rfl rfl)
theorem dX6_differs_61 : decode cX6_differs 61 = .ok (.isub, 1) := dk_100 (dk_at dksX6_differs_2 15 rfl rfl)
theorem dX6_differs_62 : decode cX6_differs 62 = .ok (.i2l, 1) := dk_133 (dk_at dksX6_differs_2 16 rfl rfl)
theorem dX6_differs_63 : decode cX6_differs 63 = .ok (.lmul, 1) := dk_105 (dk_at dksX6_differs_2 17 rfl rfl)
theorem dX6_differs_64 : decode cX6_differs 64 = .ok (.invokevirtual 49, 3) := dk_182 0 49 (dk_at dksX6_differs_2 18 rfl rfl)
theorem dX6_differs_67 : decode cX6_differs 67 = .ok (.istore 6, 2) := dk_54 6 (dk_at dksX6_differs_2 21 rfl rfl)
theorem dX6_differs_69 : decode cX6_differs 69 = .ok (.iinc 7 1, 3) := dk_132 7 1 (dk_at dksX6_differs_3 0 rfl rfl)
theorem dX6_differs_72 : decode cX6_differs 72 = .ok (.goto (-33), 3) := dk_167 255 223 (dk_at dksX6_differs_3 3 rfl rfl)
theorem dX6_differs_75 : decode cX6_differs 75 = .ok (.iconst 0, 1) := dk_3 (dk_at dksX6_differs_3 6 rfl rfl)
theorem dX6_differs_76 : decode cX6_differs 76 = .ok (.istore 7, 2) := dk_54 7 (dk_at dksX6_differs_3 7 rfl rfl)
theorem dX6_differs_78 : decode cX6_differs 78 = .ok (.iload 7, 2) := dk_21 7 (dk_at dksX6_differs_3 9 rfl rfl)
theorem dX6_differs_80 : decode cX6_differs 80 = .ok (.iload_n 3, 1) := dk_29 (dk_at dksX6_differs_3 11 rfl rfl)
theorem dX6_differs_81 : decode cX6_differs 81 = .ok (.if_icmp .ge 28, 3) := dk_162 0 28 (dk_at dksX6_differs_3 12 rfl rfl)
theorem dX6_differs_84 : decode cX6_differs 84 = .ok (.aload_n 0, 1) := dk_42 (dk_at dksX6_differs_3 15 rfl rfl)
theorem dX6_differs_85 : decode cX6_differs 85 = .ok (.getfield 12, 3) := dk_180 0 12 (dk_at dksX6_differs_3 16 rfl rfl)
theorem dX6_differs_88 : decode cX6_differs 88 = .ok (.iload 6, 2) := dk_21 6 (dk_at dksX6_differs_3 19 rfl rfl)
theorem dX6_differs_90 : decode cX6_differs 90 = .ok (.i2l, 1) := dk_133 (dk_at dksX6_differs_3 21 rfl rfl)
theorem dX6_differs_91 : decode cX6_differs 91 = .ok (.iload 5, 2) := dk_21 5 (dk_at dksX6_differs_3 22 rfl rfl)
theorem dX6_differs_93 : decode cX6_differs 93 = .ok (.iload 7, 2) := dk_21 7 (dk_at dksX6_differs_4 0 rfl rfl)
theorem dX6_differs_95 : decode cX6_differs 95 = .ok (.isub, 1) := dk_100 (dk_at dksX6_differs_4 2 rfl rfl)
theorem dX6_differs_96 : decode cX6_differs 96 = .ok (.i2l, 1) := dk_133 (dk_at dksX6_differs_4 3 rfl rfl)
theorem dX6_differs_97 : decode cX6_differs 97 = .ok (.lmul, 1) := dk_105 (dk_at dksX6_differs_4 4 rfl rfl)
theorem dX6_differs_98 : decode cX6_differs 98 = .ok (.invokevirtual 49, 3) := dk_182 0 49 (dk_at dksX6_differs_4 5 rfl rfl)
theorem dX6_differs_101 : decode cX6_differs 101 = .ok (.istore 6, 2) := dk_54 6 (dk_at dksX6_differs_4 8 rfl rfl)
theorem dX6_differs_103 : decode cX6_differs 103 = .ok (.iinc 7 1, 3) := dk_132 7 1 (dk_at dksX6_differs_4 10 rfl rfl)
theorem dX6_differs_106 : decode cX6_differs 106 = .ok (.goto (-28), 3) := dk_167 255 228 (dk_at dksX6_differs_4 13 rfl rfl)
theorem dX6_differs_109 : decode cX6_differs 109 = .ok (.aload 4, 2) := dk_25 4 (dk_at dksX6_differs_4 16 rfl rfl)
theorem dX6_differs_111 : decode cX6_differs 111 = .ok (.getfield 46, 3) := dk_180 0 46 (dk_at dksX6_differs_4 18 rfl rfl)
theorem dX6_differs_114 : decode cX6_differs 114 = .ok (.iload 5, 2) := dk_21 5 (dk_at dksX6_differs_4 21 rfl rfl)
theorem dX6_differs_116 : decode cX6_differs 116 = .ok (.iload_n 3, 1) := dk_29 (dk_at dksX6_differs_4 23 rfl rfl)
theorem dX6_differs_117 : decode cX6_differs 117 = .ok (.isub, 1) := dk_100 (dk_at dksX6_differs_5 0 rfl rfl)
theorem dX6_differs_118 : decode cX6_differs 118 = .ok (.iload 6, 2) := dk_21 6 (dk_at dksX6_differs_5 1 rfl rfl)
theorem dX6_differs_120 : decode cX6_differs 120 = .ok (.iastore, 1) := dk_79 (dk_at dksX6_differs_5 3 rfl rfl)
theorem dX6_differs_121 : decode cX6_differs 121 = .ok (.iinc 5 1, 3) := dk_132 5 1 (dk_at dksX6_differs_5 4 rfl rfl)
theorem dX6_differs_124 : decode cX6_differs 124 = .ok (.goto (-108), 3) := dk_167 255 148 (dk_at dksX6_differs_5 7 rfl rfl)
theorem dX6_differs_127 : decode cX6_differs 127 = .ok (.return_, 1) := dk_177 (dk_at dksX6_differs_5 10 rfl rfl)
abbrev cX6_product : ByteArray := prog_4_method_2_code
def yX6_product : MethodName := ⟨RX6, "product", "(LLetterForms$Form;LLetterForms$Form;LLetterForms$Form;)V"⟩
def dkwX6_product_5 : List UInt8 := [167, 255, 174, 45, 42, 180, 0, 21, 182, 0, 53, 177]
abbrev dktX6_product_5 : List UInt8 := dkwX6_product_5 ++ []
def dkwX6_product_4 : List UInt8 := [133, 44, 180, 0, 46, 21, 6, 46, 133, 105, 97, 182, 0, 49, 79, 132, 6, 1, 167, 255, 192, 132, 5, 1]
abbrev dktX6_product_4 : List UInt8 := dkwX6_product_4 ++ dktX6_product_5
def dkwX6_product_3 : List UInt8 := [180, 0, 12, 42, 180, 0, 21, 180, 0, 46, 21, 5, 21, 6, 96, 46, 133, 43, 180, 0, 46, 21, 5, 46]
abbrev dktX6_product_3 : List UInt8 := dkwX6_product_3 ++ dktX6_product_4
def dkwX6_product_2 : List UInt8 := [21, 6, 44, 180, 0, 38, 163, 0, 61, 42, 180, 0, 21, 180, 0, 46, 21, 5, 21, 6, 96, 42]
abbrev dktX6_product_2 : List UInt8 := dkwX6_product_2 ++ dktX6_product_3
def dkwX6_product_1 : List UInt8 := [42, 180, 0, 21, 21, 4, 182, 0, 42, 3, 54, 5, 21, 5, 43, 180, 0, 38, 163, 0, 79, 3, 54, 6]
abbrev dktX6_product_1 : List UInt8 := dkwX6_product_1 ++ dktX6_product_2
def dkwX6_product_0 : List UInt8 := [43, 180, 0, 38, 44, 180, 0, 38, 96, 54, 4, 21, 4, 16, 40, 164, 0, 9, 45, 2, 182, 0, 42, 177]
abbrev dktX6_product_0 : List UInt8 := dkwX6_product_0 ++ dktX6_product_1
theorem dksX6_product_0 : cX6_product.data.toList.drop 0 = dktX6_product_0 := by decide +kernel
theorem dksX6_product_1 : cX6_product.data.toList.drop 24 = dktX6_product_1 := dk_seg dksX6_product_0 24 rfl rfl
theorem dksX6_product_2 : cX6_product.data.toList.drop 48 = dktX6_product_2 := dk_seg dksX6_product_1 24 rfl rfl
theorem dksX6_product_3 : cX6_product.data.toList.drop 70 = dktX6_product_3 := dk_seg dksX6_product_2 22 rfl rfl
theorem dksX6_product_4 : cX6_product.data.toList.drop 94 = dktX6_product_4 := dk_seg dksX6_product_3 24 rfl rfl
theorem dksX6_product_5 : cX6_product.data.toList.drop 118 = dktX6_product_5 := dk_seg dksX6_product_4 24 rfl rfl
theorem dX6_product_0 : decode cX6_product 0 = .ok (.aload_n 1, 1) := dk_43 (dk_at dksX6_product_0 0 rfl rfl)
theorem dX6_product_1 : decode cX6_product 1 = .ok (.getfield 38, 3) := dk_180 0 38 (dk_at dksX6_product_0 1 rfl rfl)
theorem dX6_product_4 : decode cX6_product 4 = .ok (.aload_n 2, 1) := dk_44 (dk_at dksX6_product_0 4 rfl rfl)
theorem dX6_product_5 : decode cX6_product 5 = .ok (.getfield 38, 3) := dk_180 0 38 (dk_at dksX6_product_0 5 rfl rfl)
theorem dX6_product_8 : decode cX6_product 8 = .ok (.iadd, 1) := dk_96 (dk_at dksX6_product_0 8 rfl rfl)
theorem dX6_product_9 : decode cX6_product 9 = .ok (.istore 4, 2) := dk_54 4 (dk_at dksX6_product_0 9 rfl rfl)
theorem dX6_product_11 : decode cX6_product 11 = .ok (.iload 4, 2) := dk_21 4 (dk_at dksX6_product_0 11 rfl rfl)
theorem dX6_product_13 : decode cX6_product 13 = .ok (.bipush 40, 2) := dk_16 40 (dk_at dksX6_product_0 13 rfl rfl)
theorem dX6_product_15 : decode cX6_product 15 = .ok (.if_icmp .le 9, 3) := dk_164 0 9 (dk_at dksX6_product_0 15 rfl rfl)
theorem dX6_product_18 : decode cX6_product 18 = .ok (.aload_n 3, 1) := dk_45 (dk_at dksX6_product_0 18 rfl rfl)
theorem dX6_product_19 : decode cX6_product 19 = .ok (.iconst (-1), 1) := dk_2 (dk_at dksX6_product_0 19 rfl rfl)
theorem dX6_product_20 : decode cX6_product 20 = .ok (.invokevirtual 42, 3) := dk_182 0 42 (dk_at dksX6_product_0 20 rfl rfl)
theorem dX6_product_23 : decode cX6_product 23 = .ok (.return_, 1) := dk_177 (dk_at dksX6_product_0 23 rfl rfl)
theorem dX6_product_24 : decode cX6_product 24 = .ok (.aload_n 0, 1) := dk_42 (dk_at dksX6_product_1 0 rfl rfl)
theorem dX6_product_25 : decode cX6_product 25 = .ok (.getfield 21, 3) := dk_180 0 21 (dk_at dksX6_product_1 1 rfl rfl)
theorem dX6_product_28 : decode cX6_product 28 = .ok (.iload 4, 2) := dk_21 4 (dk_at dksX6_product_1 4 rfl rfl)
theorem dX6_product_30 : decode cX6_product 30 = .ok (.invokevirtual 42, 3) := dk_182 0 42 (dk_at dksX6_product_1 6 rfl rfl)
theorem dX6_product_33 : decode cX6_product 33 = .ok (.iconst 0, 1) := dk_3 (dk_at dksX6_product_1 9 rfl rfl)
theorem dX6_product_34 : decode cX6_product 34 = .ok (.istore 5, 2) := dk_54 5 (dk_at dksX6_product_1 10 rfl rfl)
theorem dX6_product_36 : decode cX6_product 36 = .ok (.iload 5, 2) := dk_21 5 (dk_at dksX6_product_1 12 rfl rfl)
theorem dX6_product_38 : decode cX6_product 38 = .ok (.aload_n 1, 1) := dk_43 (dk_at dksX6_product_1 14 rfl rfl)
theorem dX6_product_39 : decode cX6_product 39 = .ok (.getfield 38, 3) := dk_180 0 38 (dk_at dksX6_product_1 15 rfl rfl)
theorem dX6_product_42 : decode cX6_product 42 = .ok (.if_icmp .gt 79, 3) := dk_163 0 79 (dk_at dksX6_product_1 18 rfl rfl)
theorem dX6_product_45 : decode cX6_product 45 = .ok (.iconst 0, 1) := dk_3 (dk_at dksX6_product_1 21 rfl rfl)
theorem dX6_product_46 : decode cX6_product 46 = .ok (.istore 6, 2) := dk_54 6 (dk_at dksX6_product_1 22 rfl rfl)
theorem dX6_product_48 : decode cX6_product 48 = .ok (.iload 6, 2) := dk_21 6 (dk_at dksX6_product_2 0 rfl rfl)
theorem dX6_product_50 : decode cX6_product 50 = .ok (.aload_n 2, 1) := dk_44 (dk_at dksX6_product_2 2 rfl rfl)
theorem dX6_product_51 : decode cX6_product 51 = .ok (.getfield 38, 3) := dk_180 0 38 (dk_at dksX6_product_2 3 rfl rfl)
theorem dX6_product_54 : decode cX6_product 54 = .ok (.if_icmp .gt 61, 3) := dk_163 0 61 (dk_at dksX6_product_2 6 rfl rfl)
theorem dX6_product_57 : decode cX6_product 57 = .ok (.aload_n 0, 1) := dk_42 (dk_at dksX6_product_2 9 rfl rfl)
theorem dX6_product_58 : decode cX6_product 58 = .ok (.getfield 21, 3) := dk_180 0 21 (dk_at dksX6_product_2 10 rfl rfl)
theorem dX6_product_61 : decode cX6_product 61 = .ok (.getfield 46, 3) := dk_180 0 46 (dk_at dksX6_product_2 13 rfl rfl)
theorem dX6_product_64 : decode cX6_product 64 = .ok (.iload 5, 2) := dk_21 5 (dk_at dksX6_product_2 16 rfl rfl)
theorem dX6_product_66 : decode cX6_product 66 = .ok (.iload 6, 2) := dk_21 6 (dk_at dksX6_product_2 18 rfl rfl)
theorem dX6_product_68 : decode cX6_product 68 = .ok (.iadd, 1) := dk_96 (dk_at dksX6_product_2 20 rfl rfl)
theorem dX6_product_69 : decode cX6_product 69 = .ok (.aload_n 0, 1) := dk_42 (dk_at dksX6_product_2 21 rfl rfl)
theorem dX6_product_70 : decode cX6_product 70 = .ok (.getfield 12, 3) := dk_180 0 12 (dk_at dksX6_product_3 0 rfl rfl)
theorem dX6_product_73 : decode cX6_product 73 = .ok (.aload_n 0, 1) := dk_42 (dk_at dksX6_product_3 3 rfl rfl)
theorem dX6_product_74 : decode cX6_product 74 = .ok (.getfield 21, 3) := dk_180 0 21 (dk_at dksX6_product_3 4 rfl rfl)
theorem dX6_product_77 : decode cX6_product 77 = .ok (.getfield 46, 3) := dk_180 0 46 (dk_at dksX6_product_3 7 rfl rfl)
theorem dX6_product_80 : decode cX6_product 80 = .ok (.iload 5, 2) := dk_21 5 (dk_at dksX6_product_3 10 rfl rfl)
theorem dX6_product_82 : decode cX6_product 82 = .ok (.iload 6, 2) := dk_21 6 (dk_at dksX6_product_3 12 rfl rfl)
theorem dX6_product_84 : decode cX6_product 84 = .ok (.iadd, 1) := dk_96 (dk_at dksX6_product_3 14 rfl rfl)
theorem dX6_product_85 : decode cX6_product 85 = .ok (.iaload, 1) := dk_46 (dk_at dksX6_product_3 15 rfl rfl)
theorem dX6_product_86 : decode cX6_product 86 = .ok (.i2l, 1) := dk_133 (dk_at dksX6_product_3 16 rfl rfl)
theorem dX6_product_87 : decode cX6_product 87 = .ok (.aload_n 1, 1) := dk_43 (dk_at dksX6_product_3 17 rfl rfl)
theorem dX6_product_88 : decode cX6_product 88 = .ok (.getfield 46, 3) := dk_180 0 46 (dk_at dksX6_product_3 18 rfl rfl)
theorem dX6_product_91 : decode cX6_product 91 = .ok (.iload 5, 2) := dk_21 5 (dk_at dksX6_product_3 21 rfl rfl)
theorem dX6_product_93 : decode cX6_product 93 = .ok (.iaload, 1) := dk_46 (dk_at dksX6_product_3 23 rfl rfl)
theorem dX6_product_94 : decode cX6_product 94 = .ok (.i2l, 1) := dk_133 (dk_at dksX6_product_4 0 rfl rfl)
theorem dX6_product_95 : decode cX6_product 95 = .ok (.aload_n 2, 1) := dk_44 (dk_at dksX6_product_4 1 rfl rfl)
theorem dX6_product_96 : decode cX6_product 96 = .ok (.getfield 46, 3) := dk_180 0 46 (dk_at dksX6_product_4 2 rfl rfl)
theorem dX6_product_99 : decode cX6_product 99 = .ok (.iload 6, 2) := dk_21 6 (dk_at dksX6_product_4 5 rfl rfl)
theorem dX6_product_101 : decode cX6_product 101 = .ok (.iaload, 1) := dk_46 (dk_at dksX6_product_4 7 rfl rfl)
theorem dX6_product_102 : decode cX6_product 102 = .ok (.i2l, 1) := dk_133 (dk_at dksX6_product_4 8 rfl rfl)
theorem dX6_product_103 : decode cX6_product 103 = .ok (.lmul, 1) := dk_105 (dk_at dksX6_product_4 9 rfl rfl)
theorem dX6_product_104 : decode cX6_product 104 = .ok (.ladd, 1) := dk_97 (dk_at dksX6_product_4 10 rfl rfl)
theorem dX6_product_105 : decode cX6_product 105 = .ok (.invokevirtual 49, 3) := dk_182 0 49 (dk_at dksX6_product_4 11 rfl rfl)
theorem dX6_product_108 : decode cX6_product 108 = .ok (.iastore, 1) := dk_79 (dk_at dksX6_product_4 14 rfl rfl)
theorem dX6_product_109 : decode cX6_product 109 = .ok (.iinc 6 1, 3) := dk_132 6 1 (dk_at dksX6_product_4 15 rfl rfl)
theorem dX6_product_112 : decode cX6_product 112 = .ok (.goto (-64), 3) := dk_167 255 192 (dk_at dksX6_product_4 18 rfl rfl)
theorem dX6_product_115 : decode cX6_product 115 = .ok (.iinc 5 1, 3) := dk_132 5 1 (dk_at dksX6_product_4 21 rfl rfl)
theorem dX6_product_118 : decode cX6_product 118 = .ok (.goto (-82), 3) := dk_167 255 174 (dk_at dksX6_product_5 0 rfl rfl)
theorem dX6_product_121 : decode cX6_product 121 = .ok (.aload_n 3, 1) := dk_45 (dk_at dksX6_product_5 3 rfl rfl)
theorem dX6_product_122 : decode cX6_product 122 = .ok (.aload_n 0, 1) := dk_42 (dk_at dksX6_product_5 4 rfl rfl)
theorem dX6_product_123 : decode cX6_product 123 = .ok (.getfield 21, 3) := dk_180 0 21 (dk_at dksX6_product_5 5 rfl rfl)
theorem dX6_product_126 : decode cX6_product 126 = .ok (.invokevirtual 53, 3) := dk_182 0 53 (dk_at dksX6_product_5 8 rfl rfl)
theorem dX6_product_129 : decode cX6_product 129 = .ok (.return_, 1) := dk_177 (dk_at dksX6_product_5 11 rfl rfl)
abbrev cX6_root : ByteArray := prog_4_method_9_code
def yX6_root : MethodName := ⟨RX6, "root", "(LLetterForms$Form;I)I"⟩
def dkwX6_root_1 : List UInt8 := [180, 0, 38, 158, 0, 17, 42, 28, 182, 0, 87, 153, 0, 9, 132, 3, 1, 167, 255, 235, 29, 172]
abbrev dktX6_root_1 : List UInt8 := dkwX6_root_1 ++ []
def dkwX6_root_0 : List UInt8 := [43, 182, 0, 83, 153, 0, 6, 16, 99, 172, 3, 62, 42, 180, 0, 21, 43, 182, 0, 53, 42, 180, 0, 21]
abbrev dktX6_root_0 : List UInt8 := dkwX6_root_0 ++ dktX6_root_1
theorem dksX6_root_0 : cX6_root.data.toList.drop 0 = dktX6_root_0 := by decide +kernel
theorem dksX6_root_1 : cX6_root.data.toList.drop 24 = dktX6_root_1 := dk_seg dksX6_root_0 24 rfl rfl
theorem dX6_root_0 : decode cX6_root 0 = .ok (.aload_n 1, 1) := dk_43 (dk_at dksX6_root_0 0 rfl rfl)
theorem dX6_root_1 : decode cX6_root 1 = .ok (.invokevirtual 83, 3) := dk_182 0 83 (dk_at dksX6_root_0 1 rfl rfl)
theorem dX6_root_4 : decode cX6_root 4 = .ok (.ifCond .eq 6, 3) := dk_153 0 6 (dk_at dksX6_root_0 4 rfl rfl)
theorem dX6_root_7 : decode cX6_root 7 = .ok (.bipush 99, 2) := dk_16 99 (dk_at dksX6_root_0 7 rfl rfl)
theorem dX6_root_9 : decode cX6_root 9 = .ok (.ireturn, 1) := dk_172 (dk_at dksX6_root_0 9 rfl rfl)
theorem dX6_root_10 : decode cX6_root 10 = .ok (.iconst 0, 1) := dk_3 (dk_at dksX6_root_0 10 rfl rfl)
theorem dX6_root_11 : decode cX6_root 11 = .ok (.istore_n 3, 1) := dk_62 (dk_at dksX6_root_0 11 rfl rfl)
theorem dX6_root_12 : decode cX6_root 12 = .ok (.aload_n 0, 1) := dk_42 (dk_at dksX6_root_0 12 rfl rfl)
theorem dX6_root_13 : decode cX6_root 13 = .ok (.getfield 21, 3) := dk_180 0 21 (dk_at dksX6_root_0 13 rfl rfl)
theorem dX6_root_16 : decode cX6_root 16 = .ok (.aload_n 1, 1) := dk_43 (dk_at dksX6_root_0 16 rfl rfl)
theorem dX6_root_17 : decode cX6_root 17 = .ok (.invokevirtual 53, 3) := dk_182 0 53 (dk_at dksX6_root_0 17 rfl rfl)
theorem dX6_root_20 : decode cX6_root 20 = .ok (.aload_n 0, 1) := dk_42 (dk_at dksX6_root_0 20 rfl rfl)
theorem dX6_root_21 : decode cX6_root 21 = .ok (.getfield 21, 3) := dk_180 0 21 (dk_at dksX6_root_0 21 rfl rfl)
theorem dX6_root_24 : decode cX6_root 24 = .ok (.getfield 38, 3) := dk_180 0 38 (dk_at dksX6_root_1 0 rfl rfl)
theorem dX6_root_27 : decode cX6_root 27 = .ok (.ifCond .le 17, 3) := dk_158 0 17 (dk_at dksX6_root_1 3 rfl rfl)
theorem dX6_root_30 : decode cX6_root 30 = .ok (.aload_n 0, 1) := dk_42 (dk_at dksX6_root_1 6 rfl rfl)
theorem dX6_root_31 : decode cX6_root 31 = .ok (.iload_n 2, 1) := dk_28 (dk_at dksX6_root_1 7 rfl rfl)
theorem dX6_root_32 : decode cX6_root 32 = .ok (.invokevirtual 87, 3) := dk_182 0 87 (dk_at dksX6_root_1 8 rfl rfl)
theorem dX6_root_35 : decode cX6_root 35 = .ok (.ifCond .eq 9, 3) := dk_153 0 9 (dk_at dksX6_root_1 11 rfl rfl)
theorem dX6_root_38 : decode cX6_root 38 = .ok (.iinc 3 1, 3) := dk_132 3 1 (dk_at dksX6_root_1 14 rfl rfl)
theorem dX6_root_41 : decode cX6_root 41 = .ok (.goto (-21), 3) := dk_167 255 235 (dk_at dksX6_root_1 17 rfl rfl)
theorem dX6_root_44 : decode cX6_root 44 = .ok (.iload_n 3, 1) := dk_29 (dk_at dksX6_root_1 20 rfl rfl)
theorem dX6_root_45 : decode cX6_root 45 = .ok (.ireturn, 1) := dk_172 (dk_at dksX6_root_1 21 rfl rfl)
abbrev cX6_divides : ByteArray := prog_4_method_10_code
def yX6_divides : MethodName := ⟨RX6, "divides", "(I)Z"⟩
def dkwX6_divides_7 : List UInt8 := [167, 255, 227, 42, 180, 0, 21, 89, 180, 0, 38, 4, 100, 181, 0, 38, 4, 172]
abbrev dktX6_divides_7 : List UInt8 := dkwX6_divides_7 ++ []
def dkwX6_divides_6 : List UInt8 := [180, 0, 21, 180, 0, 46, 21, 4, 42, 180, 0, 25, 180, 0, 46, 21, 4, 46, 79, 132, 4, 1]
abbrev dktX6_divides_6 : List UInt8 := dkwX6_divides_6 ++ dktX6_divides_7
def dkwX6_divides_5 : List UInt8 := [132, 4, 1, 167, 255, 211, 29, 153, 0, 5, 3, 172, 3, 54, 4, 21, 4, 28, 162, 0, 29, 42]
abbrev dktX6_divides_5 : List UInt8 := dkwX6_divides_5 ++ dktX6_divides_6
def dkwX6_divides_4 : List UInt8 := [180, 0, 46, 21, 4, 46, 133, 97, 182, 0, 49, 62, 42, 180, 0, 25, 180, 0, 46, 21, 4, 29, 79]
abbrev dktX6_divides_4 : List UInt8 := dkwX6_divides_4 ++ dktX6_divides_5
def dkwX6_divides_3 : List UInt8 := [3, 54, 4, 21, 4, 28, 163, 0, 45, 42, 180, 0, 12, 29, 133, 27, 133, 105, 42, 180, 0, 21]
abbrev dktX6_divides_3 : List UInt8 := dkwX6_divides_3 ++ dktX6_divides_4
def dkwX6_divides_2 : List UInt8 := [29, 42, 180, 0, 21, 180, 0, 46, 29, 4, 96, 46, 79, 132, 3, 1, 167, 255, 228, 167, 0, 97, 3, 62]
abbrev dktX6_divides_2 : List UInt8 := dkwX6_divides_2 ++ dktX6_divides_3
def dkwX6_divides_1 : List UInt8 := [180, 0, 46, 3, 46, 153, 0, 5, 3, 172, 3, 62, 29, 28, 162, 0, 29, 42, 180, 0, 21, 180, 0, 46]
abbrev dktX6_divides_1 : List UInt8 := dkwX6_divides_1 ++ dktX6_divides_2
def dkwX6_divides_0 : List UInt8 := [42, 180, 0, 21, 180, 0, 38, 61, 27, 42, 180, 0, 12, 180, 0, 91, 160, 0, 53, 42, 180, 0, 21]
abbrev dktX6_divides_0 : List UInt8 := dkwX6_divides_0 ++ dktX6_divides_1
theorem dksX6_divides_0 : cX6_divides.data.toList.drop 0 = dktX6_divides_0 := by decide +kernel
theorem dksX6_divides_1 : cX6_divides.data.toList.drop 23 = dktX6_divides_1 := dk_seg dksX6_divides_0 23 rfl rfl
theorem dksX6_divides_2 : cX6_divides.data.toList.drop 47 = dktX6_divides_2 := dk_seg dksX6_divides_1 24 rfl rfl
theorem dksX6_divides_3 : cX6_divides.data.toList.drop 71 = dktX6_divides_3 := dk_seg dksX6_divides_2 24 rfl rfl
theorem dksX6_divides_4 : cX6_divides.data.toList.drop 93 = dktX6_divides_4 := dk_seg dksX6_divides_3 22 rfl rfl
theorem dksX6_divides_5 : cX6_divides.data.toList.drop 116 = dktX6_divides_5 := dk_seg dksX6_divides_4 23 rfl rfl
theorem dksX6_divides_6 : cX6_divides.data.toList.drop 138 = dktX6_divides_6 := dk_seg dksX6_divides_5 22 rfl rfl
theorem dksX6_divides_7 : cX6_divides.data.toList.drop 160 = dktX6_divides_7 := dk_seg dksX6_divides_6 22 rfl rfl
theorem dX6_divides_0 : decode cX6_divides 0 = .ok (.aload_n 0, 1) := dk_42 (dk_at dksX6_divides_0 0 rfl rfl)
theorem dX6_divides_1 : decode cX6_divides 1 = .ok (.getfield 21, 3) := dk_180 0 21 (dk_at dksX6_divides_0 1 rfl rfl)
theorem dX6_divides_4 : decode cX6_divides 4 = .ok (.getfield 38, 3) := dk_180 0 38 (dk_at dksX6_divides_0 4 rfl rfl)
theorem dX6_divides_7 : decode cX6_divides 7 = .ok (.istore_n 2, 1) := dk_61 (dk_at dksX6_divides_0 7 rfl rfl)
theorem dX6_divides_8 : decode cX6_divides 8 = .ok (.iload_n 1, 1) := dk_27 (dk_at dksX6_divides_0 8 rfl rfl)
theorem dX6_divides_9 : decode cX6_divides 9 = .ok (.aload_n 0, 1) := dk_42 (dk_at dksX6_divides_0 9 rfl rfl)
theorem dX6_divides_10 : decode cX6_divides 10 = .ok (.getfield 12, 3) := dk_180 0 12 (dk_at dksX6_divides_0 10 rfl rfl)
theorem dX6_divides_13 : decode cX6_divides 13 = .ok (.getfield 91, 3) := dk_180 0 91 (dk_at dksX6_divides_0 13 rfl rfl)
theorem dX6_divides_16 : decode cX6_divides 16 = .ok (.if_icmp .ne 53, 3) := dk_160 0 53 (dk_at dksX6_divides_0 16 rfl rfl)
theorem dX6_divides_19 : decode cX6_divides 19 = .ok (.aload_n 0, 1) := dk_42 (dk_at dksX6_divides_0 19 rfl rfl)
theorem dX6_divides_20 : decode cX6_divides 20 = .ok (.getfield 21, 3) := dk_180 0 21 (dk_at dksX6_divides_0 20 rfl rfl)
theorem dX6_divides_23 : decode cX6_divides 23 = .ok (.getfield 46, 3) := dk_180 0 46 (dk_at dksX6_divides_1 0 rfl rfl)
theorem dX6_divides_26 : decode cX6_divides 26 = .ok (.iconst 0, 1) := dk_3 (dk_at dksX6_divides_1 3 rfl rfl)
theorem dX6_divides_27 : decode cX6_divides 27 = .ok (.iaload, 1) := dk_46 (dk_at dksX6_divides_1 4 rfl rfl)
theorem dX6_divides_28 : decode cX6_divides 28 = .ok (.ifCond .eq 5, 3) := dk_153 0 5 (dk_at dksX6_divides_1 5 rfl rfl)
theorem dX6_divides_31 : decode cX6_divides 31 = .ok (.iconst 0, 1) := dk_3 (dk_at dksX6_divides_1 8 rfl rfl)
theorem dX6_divides_32 : decode cX6_divides 32 = .ok (.ireturn, 1) := dk_172 (dk_at dksX6_divides_1 9 rfl rfl)
theorem dX6_divides_33 : decode cX6_divides 33 = .ok (.iconst 0, 1) := dk_3 (dk_at dksX6_divides_1 10 rfl rfl)
theorem dX6_divides_34 : decode cX6_divides 34 = .ok (.istore_n 3, 1) := dk_62 (dk_at dksX6_divides_1 11 rfl rfl)
theorem dX6_divides_35 : decode cX6_divides 35 = .ok (.iload_n 3, 1) := dk_29 (dk_at dksX6_divides_1 12 rfl rfl)
theorem dX6_divides_36 : decode cX6_divides 36 = .ok (.iload_n 2, 1) := dk_28 (dk_at dksX6_divides_1 13 rfl rfl)
theorem dX6_divides_37 : decode cX6_divides 37 = .ok (.if_icmp .ge 29, 3) := dk_162 0 29 (dk_at dksX6_divides_1 14 rfl rfl)
theorem dX6_divides_40 : decode cX6_divides 40 = .ok (.aload_n 0, 1) := dk_42 (dk_at dksX6_divides_1 17 rfl rfl)
theorem dX6_divides_41 : decode cX6_divides 41 = .ok (.getfield 21, 3) := dk_180 0 21 (dk_at dksX6_divides_1 18 rfl rfl)
theorem dX6_divides_44 : decode cX6_divides 44 = .ok (.getfield 46, 3) := dk_180 0 46 (dk_at dksX6_divides_1 21 rfl rfl)
theorem dX6_divides_47 : decode cX6_divides 47 = .ok (.iload_n 3, 1) := dk_29 (dk_at dksX6_divides_2 0 rfl rfl)
theorem dX6_divides_48 : decode cX6_divides 48 = .ok (.aload_n 0, 1) := dk_42 (dk_at dksX6_divides_2 1 rfl rfl)
theorem dX6_divides_49 : decode cX6_divides 49 = .ok (.getfield 21, 3) := dk_180 0 21 (dk_at dksX6_divides_2 2 rfl rfl)
theorem dX6_divides_52 : decode cX6_divides 52 = .ok (.getfield 46, 3) := dk_180 0 46 (dk_at dksX6_divides_2 5 rfl rfl)
theorem dX6_divides_55 : decode cX6_divides 55 = .ok (.iload_n 3, 1) := dk_29 (dk_at dksX6_divides_2 8 rfl rfl)
theorem dX6_divides_56 : decode cX6_divides 56 = .ok (.iconst 1, 1) := dk_4 (dk_at dksX6_divides_2 9 rfl rfl)
theorem dX6_divides_57 : decode cX6_divides 57 = .ok (.iadd, 1) := dk_96 (dk_at dksX6_divides_2 10 rfl rfl)
theorem dX6_divides_58 : decode cX6_divides 58 = .ok (.iaload, 1) := dk_46 (dk_at dksX6_divides_2 11 rfl rfl)
theorem dX6_divides_59 : decode cX6_divides 59 = .ok (.iastore, 1) := dk_79 (dk_at dksX6_divides_2 12 rfl rfl)
theorem dX6_divides_60 : decode cX6_divides 60 = .ok (.iinc 3 1, 3) := dk_132 3 1 (dk_at dksX6_divides_2 13 rfl rfl)
theorem dX6_divides_63 : decode cX6_divides 63 = .ok (.goto (-28), 3) := dk_167 255 228 (dk_at dksX6_divides_2 16 rfl rfl)
theorem dX6_divides_66 : decode cX6_divides 66 = .ok (.goto 97, 3) := dk_167 0 97 (dk_at dksX6_divides_2 19 rfl rfl)
theorem dX6_divides_69 : decode cX6_divides 69 = .ok (.iconst 0, 1) := dk_3 (dk_at dksX6_divides_2 22 rfl rfl)
theorem dX6_divides_70 : decode cX6_divides 70 = .ok (.istore_n 3, 1) := dk_62 (dk_at dksX6_divides_2 23 rfl rfl)
theorem dX6_divides_71 : decode cX6_divides 71 = .ok (.iconst 0, 1) := dk_3 (dk_at dksX6_divides_3 0 rfl rfl)
theorem dX6_divides_72 : decode cX6_divides 72 = .ok (.istore 4, 2) := dk_54 4 (dk_at dksX6_divides_3 1 rfl rfl)
theorem dX6_divides_74 : decode cX6_divides 74 = .ok (.iload 4, 2) := dk_21 4 (dk_at dksX6_divides_3 3 rfl rfl)
theorem dX6_divides_76 : decode cX6_divides 76 = .ok (.iload_n 2, 1) := dk_28 (dk_at dksX6_divides_3 5 rfl rfl)
theorem dX6_divides_77 : decode cX6_divides 77 = .ok (.if_icmp .gt 45, 3) := dk_163 0 45 (dk_at dksX6_divides_3 6 rfl rfl)
theorem dX6_divides_80 : decode cX6_divides 80 = .ok (.aload_n 0, 1) := dk_42 (dk_at dksX6_divides_3 9 rfl rfl)
theorem dX6_divides_81 : decode cX6_divides 81 = .ok (.getfield 12, 3) := dk_180 0 12 (dk_at dksX6_divides_3 10 rfl rfl)
theorem dX6_divides_84 : decode cX6_divides 84 = .ok (.iload_n 3, 1) := dk_29 (dk_at dksX6_divides_3 13 rfl rfl)
theorem dX6_divides_85 : decode cX6_divides 85 = .ok (.i2l, 1) := dk_133 (dk_at dksX6_divides_3 14 rfl rfl)
theorem dX6_divides_86 : decode cX6_divides 86 = .ok (.iload_n 1, 1) := dk_27 (dk_at dksX6_divides_3 15 rfl rfl)
theorem dX6_divides_87 : decode cX6_divides 87 = .ok (.i2l, 1) := dk_133 (dk_at dksX6_divides_3 16 rfl rfl)
theorem dX6_divides_88 : decode cX6_divides 88 = .ok (.lmul, 1) := dk_105 (dk_at dksX6_divides_3 17 rfl rfl)
theorem dX6_divides_89 : decode cX6_divides 89 = .ok (.aload_n 0, 1) := dk_42 (dk_at dksX6_divides_3 18 rfl rfl)
theorem dX6_divides_90 : decode cX6_divides 90 = .ok (.getfield 21, 3) := dk_180 0 21 (dk_at dksX6_divides_3 19 rfl rfl)
theorem dX6_divides_93 : decode cX6_divides 93 = .ok (.getfield 46, 3) := dk_180 0 46 (dk_at dksX6_divides_4 0 rfl rfl)
theorem dX6_divides_96 : decode cX6_divides 96 = .ok (.iload 4, 2) := dk_21 4 (dk_at dksX6_divides_4 3 rfl rfl)
theorem dX6_divides_98 : decode cX6_divides 98 = .ok (.iaload, 1) := dk_46 (dk_at dksX6_divides_4 5 rfl rfl)
theorem dX6_divides_99 : decode cX6_divides 99 = .ok (.i2l, 1) := dk_133 (dk_at dksX6_divides_4 6 rfl rfl)
theorem dX6_divides_100 : decode cX6_divides 100 = .ok (.ladd, 1) := dk_97 (dk_at dksX6_divides_4 7 rfl rfl)
theorem dX6_divides_101 : decode cX6_divides 101 = .ok (.invokevirtual 49, 3) := dk_182 0 49 (dk_at dksX6_divides_4 8 rfl rfl)
theorem dX6_divides_104 : decode cX6_divides 104 = .ok (.istore_n 3, 1) := dk_62 (dk_at dksX6_divides_4 11 rfl rfl)
theorem dX6_divides_105 : decode cX6_divides 105 = .ok (.aload_n 0, 1) := dk_42 (dk_at dksX6_divides_4 12 rfl rfl)
theorem dX6_divides_106 : decode cX6_divides 106 = .ok (.getfield 25, 3) := dk_180 0 25 (dk_at dksX6_divides_4 13 rfl rfl)
theorem dX6_divides_109 : decode cX6_divides 109 = .ok (.getfield 46, 3) := dk_180 0 46 (dk_at dksX6_divides_4 16 rfl rfl)
theorem dX6_divides_112 : decode cX6_divides 112 = .ok (.iload 4, 2) := dk_21 4 (dk_at dksX6_divides_4 19 rfl rfl)
theorem dX6_divides_114 : decode cX6_divides 114 = .ok (.iload_n 3, 1) := dk_29 (dk_at dksX6_divides_4 21 rfl rfl)
theorem dX6_divides_115 : decode cX6_divides 115 = .ok (.iastore, 1) := dk_79 (dk_at dksX6_divides_4 22 rfl rfl)
theorem dX6_divides_116 : decode cX6_divides 116 = .ok (.iinc 4 1, 3) := dk_132 4 1 (dk_at dksX6_divides_5 0 rfl rfl)
theorem dX6_divides_119 : decode cX6_divides 119 = .ok (.goto (-45), 3) := dk_167 255 211 (dk_at dksX6_divides_5 3 rfl rfl)
theorem dX6_divides_122 : decode cX6_divides 122 = .ok (.iload_n 3, 1) := dk_29 (dk_at dksX6_divides_5 6 rfl rfl)
theorem dX6_divides_123 : decode cX6_divides 123 = .ok (.ifCond .eq 5, 3) := dk_153 0 5 (dk_at dksX6_divides_5 7 rfl rfl)
theorem dX6_divides_126 : decode cX6_divides 126 = .ok (.iconst 0, 1) := dk_3 (dk_at dksX6_divides_5 10 rfl rfl)
theorem dX6_divides_127 : decode cX6_divides 127 = .ok (.ireturn, 1) := dk_172 (dk_at dksX6_divides_5 11 rfl rfl)
theorem dX6_divides_128 : decode cX6_divides 128 = .ok (.iconst 0, 1) := dk_3 (dk_at dksX6_divides_5 12 rfl rfl)
theorem dX6_divides_129 : decode cX6_divides 129 = .ok (.istore 4, 2) := dk_54 4 (dk_at dksX6_divides_5 13 rfl rfl)
theorem dX6_divides_131 : decode cX6_divides 131 = .ok (.iload 4, 2) := dk_21 4 (dk_at dksX6_divides_5 15 rfl rfl)
theorem dX6_divides_133 : decode cX6_divides 133 = .ok (.iload_n 2, 1) := dk_28 (dk_at dksX6_divides_5 17 rfl rfl)
theorem dX6_divides_134 : decode cX6_divides 134 = .ok (.if_icmp .ge 29, 3) := dk_162 0 29 (dk_at dksX6_divides_5 18 rfl rfl)
theorem dX6_divides_137 : decode cX6_divides 137 = .ok (.aload_n 0, 1) := dk_42 (dk_at dksX6_divides_5 21 rfl rfl)
theorem dX6_divides_138 : decode cX6_divides 138 = .ok (.getfield 21, 3) := dk_180 0 21 (dk_at dksX6_divides_6 0 rfl rfl)
theorem dX6_divides_141 : decode cX6_divides 141 = .ok (.getfield 46, 3) := dk_180 0 46 (dk_at dksX6_divides_6 3 rfl rfl)
theorem dX6_divides_144 : decode cX6_divides 144 = .ok (.iload 4, 2) := dk_21 4 (dk_at dksX6_divides_6 6 rfl rfl)
theorem dX6_divides_146 : decode cX6_divides 146 = .ok (.aload_n 0, 1) := dk_42 (dk_at dksX6_divides_6 8 rfl rfl)
theorem dX6_divides_147 : decode cX6_divides 147 = .ok (.getfield 25, 3) := dk_180 0 25 (dk_at dksX6_divides_6 9 rfl rfl)
theorem dX6_divides_150 : decode cX6_divides 150 = .ok (.getfield 46, 3) := dk_180 0 46 (dk_at dksX6_divides_6 12 rfl rfl)
theorem dX6_divides_153 : decode cX6_divides 153 = .ok (.iload 4, 2) := dk_21 4 (dk_at dksX6_divides_6 15 rfl rfl)
theorem dX6_divides_155 : decode cX6_divides 155 = .ok (.iaload, 1) := dk_46 (dk_at dksX6_divides_6 17 rfl rfl)
theorem dX6_divides_156 : decode cX6_divides 156 = .ok (.iastore, 1) := dk_79 (dk_at dksX6_divides_6 18 rfl rfl)
theorem dX6_divides_157 : decode cX6_divides 157 = .ok (.iinc 4 1, 3) := dk_132 4 1 (dk_at dksX6_divides_6 19 rfl rfl)
theorem dX6_divides_160 : decode cX6_divides 160 = .ok (.goto (-29), 3) := dk_167 255 227 (dk_at dksX6_divides_7 0 rfl rfl)
theorem dX6_divides_163 : decode cX6_divides 163 = .ok (.aload_n 0, 1) := dk_42 (dk_at dksX6_divides_7 3 rfl rfl)
theorem dX6_divides_164 : decode cX6_divides 164 = .ok (.getfield 21, 3) := dk_180 0 21 (dk_at dksX6_divides_7 4 rfl rfl)
theorem dX6_divides_167 : decode cX6_divides 167 = .ok (.dup, 1) := dk_89 (dk_at dksX6_divides_7 7 rfl rfl)
theorem dX6_divides_168 : decode cX6_divides 168 = .ok (.getfield 38, 3) := dk_180 0 38 (dk_at dksX6_divides_7 8 rfl rfl)
theorem dX6_divides_171 : decode cX6_divides 171 = .ok (.iconst 1, 1) := dk_4 (dk_at dksX6_divides_7 11 rfl rfl)
theorem dX6_divides_172 : decode cX6_divides 172 = .ok (.isub, 1) := dk_100 (dk_at dksX6_divides_7 12 rfl rfl)
theorem dX6_divides_173 : decode cX6_divides 173 = .ok (.putfield 38, 3) := dk_181 0 38 (dk_at dksX6_divides_7 13 rfl rfl)
theorem dX6_divides_176 : decode cX6_divides 176 = .ok (.iconst 1, 1) := dk_4 (dk_at dksX6_divides_7 16 rfl rfl)
theorem dX6_divides_177 : decode cX6_divides 177 = .ok (.ireturn, 1) := dk_172 (dk_at dksX6_divides_7 17 rfl rfl)
theorem q128 : (Jvm.Cond.initialized "LetterForms$Desk") ∈ lw_all := lw_g (lw_at lw_m1 9 rfl) rfl
theorem q276 : (Jvm.Cond.instantiable "LetterForms$Desk" (6 : Nat)) ∈ lw_all := lw_g (lw_at lw_m1 157 rfl) rfl
theorem q278 : (Jvm.Cond.instanceMethod ({ cls := "LetterForms$Desk", name := "<init>", desc := "()V" } : Jvm.MethodName)) ∈ lw_all := lw_g (lw_at lw_m1 159 rfl) rfl
theorem q279 : (Jvm.Cond.code ({ cls := "LetterForms$Desk", name := "<init>", desc := "()V" } : Jvm.MethodName) prog_4_method_1_code (1 : Nat) (Option.none : Option Jvm.ClassFile.FieldType)) ∈ lw_all := lw_g (lw_at lw_m1 160 rfl) rfl
theorem q280 : (Jvm.Cond.methodLink "LetterForms$Desk" (3 : Nat) ({ cls := "java/lang/Object", name := "<init>", desc := "()V" } : Jvm.MethodName)) ∈ lw_all := lw_g (lw_at lw_m1 161 rfl) rfl
theorem q281 : (Jvm.Cond.classLink "LetterForms$Desk" (9 : Nat) "LetterForms$Field") ∈ lw_all := lw_g (lw_at lw_m1 162 rfl) rfl
theorem q283 : (Jvm.Cond.methodLinkNest "LetterForms$Desk" (11 : Nat) ({ cls := "LetterForms$Field", name := "<init>", desc := "()V" } : Jvm.MethodName) "LetterForms") ∈ lw_tbl := lw_at lw_m1 164 rfl
theorem q288 : (Jvm.Cond.fieldLinkNest "LetterForms$Desk" (91 : Nat) "LetterForms$Field" "p" "I" "LetterForms") ∈ lw_tbl := lw_at lw_m1 169 rfl
theorem q293 : (Jvm.Cond.classLink "LetterForms$Desk" (18 : Nat) "LetterForms$Form") ∈ lw_all := lw_g (lw_at lw_m1 174 rfl) rfl
theorem q295 : (Jvm.Cond.methodLinkNest "LetterForms$Desk" (20 : Nat) ({ cls := "LetterForms$Form", name := "<init>", desc := "()V" } : Jvm.MethodName) "LetterForms") ∈ lw_tbl := lw_at lw_m1 176 rfl
theorem q300 : (Jvm.Cond.fieldLinkNest "LetterForms$Desk" (46 : Nat) "LetterForms$Form" "a" "[I" "LetterForms") ∈ lw_tbl := lw_at lw_m1 181 rfl
theorem q305 : (Jvm.Cond.fieldLinkNest "LetterForms$Desk" (38 : Nat) "LetterForms$Form" "degree" "I" "LetterForms") ∈ lw_tbl := lw_at lw_m1 186 rfl
theorem q316 : (Jvm.Cond.fieldLink "LetterForms$Desk" (12 : Nat) "LetterForms$Desk" "f" "LLetterForms$Field;") ∈ lw_all := lw_g (lw_at lw_m1 197 rfl) rfl
theorem q321 : (Jvm.Cond.fieldLink "LetterForms$Desk" (21 : Nat) "LetterForms$Desk" "one" "LLetterForms$Form;") ∈ lw_all := lw_g (lw_at lw_m1 202 rfl) rfl
theorem q322 : (Jvm.Cond.fieldLink "LetterForms$Desk" (25 : Nat) "LetterForms$Desk" "two" "LLetterForms$Form;") ∈ lw_all := lw_g (lw_at lw_m1 203 rfl) rfl
theorem q323 : (Jvm.Cond.fieldLink "LetterForms$Desk" (28 : Nat) "LetterForms$Desk" "left" "LLetterForms$Form;") ∈ lw_all := lw_g (lw_at lw_m1 204 rfl) rfl
theorem q324 : (Jvm.Cond.fieldLink "LetterForms$Desk" (31 : Nat) "LetterForms$Desk" "right" "LLetterForms$Form;") ∈ lw_all := lw_g (lw_at lw_m1 205 rfl) rfl
theorem q325 : (Jvm.Cond.fieldLink "LetterForms$Desk" (34 : Nat) "LetterForms$Desk" "choose" "[I") ∈ lw_all := lw_g (lw_at lw_m1 206 rfl) rfl
theorem q326 : (Jvm.Cond.laysFinal "LetterForms$Desk" "LetterForms$Desk" "f" "LLetterForms$Field;") ∈ lw_all := lw_g (lw_at lw_m1 207 rfl) rfl
theorem q327 : (Jvm.Cond.soleField "LetterForms$Desk" "f") ∈ lw_all := lw_g (lw_at lw_m1 208 rfl) rfl
theorem q328 : (Jvm.Cond.laysFinal "LetterForms$Desk" "LetterForms$Desk" "one" "LLetterForms$Form;") ∈ lw_all := lw_g (lw_at lw_m1 209 rfl) rfl
theorem q329 : (Jvm.Cond.soleField "LetterForms$Desk" "one") ∈ lw_all := lw_g (lw_at lw_m1 210 rfl) rfl
theorem q330 : (Jvm.Cond.laysFinal "LetterForms$Desk" "LetterForms$Desk" "two" "LLetterForms$Form;") ∈ lw_all := lw_g (lw_at lw_m1 211 rfl) rfl
theorem q331 : (Jvm.Cond.soleField "LetterForms$Desk" "two") ∈ lw_all := lw_g (lw_at lw_m1 212 rfl) rfl
theorem q332 : (Jvm.Cond.laysFinal "LetterForms$Desk" "LetterForms$Desk" "left" "LLetterForms$Form;") ∈ lw_all := lw_g (lw_at lw_m1 213 rfl) rfl
theorem q333 : (Jvm.Cond.soleField "LetterForms$Desk" "left") ∈ lw_all := lw_g (lw_at lw_m1 214 rfl) rfl
theorem q334 : (Jvm.Cond.laysFinal "LetterForms$Desk" "LetterForms$Desk" "right" "LLetterForms$Form;") ∈ lw_all := lw_g (lw_at lw_m1 215 rfl) rfl
theorem q335 : (Jvm.Cond.soleField "LetterForms$Desk" "right") ∈ lw_all := lw_g (lw_at lw_m1 216 rfl) rfl
theorem q336 : (Jvm.Cond.laysFinal "LetterForms$Desk" "LetterForms$Desk" "choose" "[I") ∈ lw_all := lw_g (lw_at lw_m1 217 rfl) rfl
theorem q337 : (Jvm.Cond.soleField "LetterForms$Desk" "choose") ∈ lw_all := lw_g (lw_at lw_m1 218 rfl) rfl
theorem q338 : (Jvm.Cond.superclass "LetterForms$Desk" "java/lang/Object") ∈ lw_all := lw_g (lw_at lw_m1 219 rfl) rfl
theorem q832 : (Jvm.Cond.instanceMethod ({ cls := "LetterForms$Desk", name := "at", desc := "(LLetterForms$Form;II)I" } : Jvm.MethodName)) ∈ lw_all := lw_g (lw_at lw_m3 233 rfl) rfl
theorem q833 : (Jvm.Cond.selects "LetterForms$Desk" ({ cls := "LetterForms$Desk", name := "at", desc := "(LLetterForms$Form;II)I" } : Jvm.MethodName) ({ cls := "LetterForms$Desk", name := "at", desc := "(LLetterForms$Form;II)I" } : Jvm.MethodName)) ∈ lw_all := lw_g (lw_at lw_m3 234 rfl) rfl
theorem q834 : (Jvm.Cond.code ({ cls := "LetterForms$Desk", name := "at", desc := "(LLetterForms$Form;II)I" } : Jvm.MethodName) prog_4_method_8_code (6 : Nat) (Option.some Jvm.ClassFile.FieldType.int)) ∈ lw_all := lw_g (lw_at lw_m3 235 rfl) rfl
theorem q835 : (Jvm.Cond.methodLink "LetterForms$Desk" (80 : Nat) ({ cls := "LetterForms$Field", name := "power", desc := "(II)I" } : Jvm.MethodName)) ∈ lw_all := lw_g (lw_at lw_m3 236 rfl) rfl
theorem q840 : (Jvm.Cond.methodLink "LetterForms$Desk" (49 : Nat) ({ cls := "LetterForms$Field", name := "of", desc := "(J)I" } : Jvm.MethodName)) ∈ lw_all := lw_g (lw_at lw_m4 1 rfl) rfl
theorem q860 : (Jvm.Cond.instanceMethod ({ cls := "LetterForms$Desk", name := "mixed", desc := "(LLetterForms$Form;IIIILLetterForms$Form;)V" } : Jvm.MethodName)) ∈ lw_all := lw_g (lw_at lw_m4 21 rfl) rfl
theorem q861 : (Jvm.Cond.selects "LetterForms$Desk" ({ cls := "LetterForms$Desk", name := "mixed", desc := "(LLetterForms$Form;IIIILLetterForms$Form;)V" } : Jvm.MethodName) ({ cls := "LetterForms$Desk", name := "mixed", desc := "(LLetterForms$Form;IIIILLetterForms$Form;)V" } : Jvm.MethodName)) ∈ lw_all := lw_g (lw_at lw_m4 22 rfl) rfl
theorem q862 : (Jvm.Cond.code ({ cls := "LetterForms$Desk", name := "mixed", desc := "(LLetterForms$Form;IIIILLetterForms$Form;)V" } : Jvm.MethodName) prog_4_method_6_code (10 : Nat) (Option.none : Option Jvm.ClassFile.FieldType)) ∈ lw_all := lw_g (lw_at lw_m4 23 rfl) rfl
theorem q863 : (Jvm.Cond.methodLink "LetterForms$Desk" (42 : Nat) ({ cls := "LetterForms$Form", name := "nought", desc := "(I)V" } : Jvm.MethodName)) ∈ lw_all := lw_g (lw_at lw_m4 24 rfl) rfl
theorem q864 : (Jvm.Cond.methodLink "LetterForms$Desk" (76 : Nat) ({ cls := "LetterForms$Desk", name := "times", desc := "(LLetterForms$Form;II)V" } : Jvm.MethodName)) ∈ lw_all := lw_g (lw_at lw_m4 25 rfl) rfl
theorem q865 : (Jvm.Cond.instanceMethod ({ cls := "LetterForms$Desk", name := "times", desc := "(LLetterForms$Form;II)V" } : Jvm.MethodName)) ∈ lw_all := lw_g (lw_at lw_m4 26 rfl) rfl
theorem q866 : (Jvm.Cond.selects "LetterForms$Desk" ({ cls := "LetterForms$Desk", name := "times", desc := "(LLetterForms$Form;II)V" } : Jvm.MethodName) ({ cls := "LetterForms$Desk", name := "times", desc := "(LLetterForms$Form;II)V" } : Jvm.MethodName)) ∈ lw_all := lw_g (lw_at lw_m4 27 rfl) rfl
theorem q867 : (Jvm.Cond.code ({ cls := "LetterForms$Desk", name := "times", desc := "(LLetterForms$Form;II)V" } : Jvm.MethodName) prog_4_method_7_code (5 : Nat) (Option.none : Option Jvm.ClassFile.FieldType)) ∈ lw_all := lw_g (lw_at lw_m4 28 rfl) rfl
theorem q868 : (Jvm.Cond.methodLink "LetterForms$Desk" (53 : Nat) ({ cls := "LetterForms$Form", name := "be", desc := "(LLetterForms$Form;)V" } : Jvm.MethodName)) ∈ lw_all := lw_g (lw_at lw_m4 29 rfl) rfl
theorem q923 : (Jvm.Cond.instanceMethod ({ cls := "LetterForms$Desk", name := "overlap", desc := "(LLetterForms$Form;LLetterForms$Form;ILLetterForms$Form;)V" } : Jvm.MethodName)) ∈ lw_all := lw_g (lw_at lw_m4 84 rfl) rfl
theorem q924 : (Jvm.Cond.selects "LetterForms$Desk" ({ cls := "LetterForms$Desk", name := "overlap", desc := "(LLetterForms$Form;LLetterForms$Form;ILLetterForms$Form;)V" } : Jvm.MethodName) ({ cls := "LetterForms$Desk", name := "overlap", desc := "(LLetterForms$Form;LLetterForms$Form;ILLetterForms$Form;)V" } : Jvm.MethodName)) ∈ lw_all := lw_g (lw_at lw_m4 85 rfl) rfl
theorem q925 : (Jvm.Cond.code ({ cls := "LetterForms$Desk", name := "overlap", desc := "(LLetterForms$Form;LLetterForms$Form;ILLetterForms$Form;)V" } : Jvm.MethodName) prog_4_method_5_code (8 : Nat) (Option.none : Option Jvm.ClassFile.FieldType)) ∈ lw_all := lw_g (lw_at lw_m4 86 rfl) rfl
theorem q926 : (Jvm.Cond.methodLink "LetterForms$Desk" (57 : Nat) ({ cls := "java/lang/Math", name := "min", desc := "(II)I" } : Jvm.MethodName)) ∈ lw_all := lw_g (lw_at lw_m4 87 rfl) rfl
theorem q929 : (Jvm.Cond.methodLink "LetterForms$Desk" (63 : Nat) ({ cls := "LetterForms$Desk", name := "chooses", desc := "(I)V" } : Jvm.MethodName)) ∈ lw_all := lw_g (lw_at lw_m4 90 rfl) rfl
theorem q930 : (Jvm.Cond.privateMethod ({ cls := "LetterForms$Desk", name := "chooses", desc := "(I)V" } : Jvm.MethodName)) ∈ lw_tbl := lw_at lw_m4 91 rfl
theorem q931 : (Jvm.Cond.instanceMethod ({ cls := "LetterForms$Desk", name := "chooses", desc := "(I)V" } : Jvm.MethodName)) ∈ lw_all := lw_g (lw_at lw_m4 92 rfl) rfl
theorem q932 : (Jvm.Cond.code ({ cls := "LetterForms$Desk", name := "chooses", desc := "(I)V" } : Jvm.MethodName) prog_4_method_4_code (4 : Nat) (Option.none : Option Jvm.ClassFile.FieldType)) ∈ lw_all := lw_g (lw_at lw_m4 93 rfl) rfl
theorem q933 : (Jvm.Cond.methodLink "LetterForms$Desk" (66 : Nat) ({ cls := "LetterForms$Desk", name := "differs", desc := "(LLetterForms$Form;IILLetterForms$Form;)V" } : Jvm.MethodName)) ∈ lw_all := lw_g (lw_at lw_m4 94 rfl) rfl
theorem q934 : (Jvm.Cond.privateMethod ({ cls := "LetterForms$Desk", name := "differs", desc := "(LLetterForms$Form;IILLetterForms$Form;)V" } : Jvm.MethodName)) ∈ lw_tbl := lw_at lw_m4 95 rfl
theorem q935 : (Jvm.Cond.instanceMethod ({ cls := "LetterForms$Desk", name := "differs", desc := "(LLetterForms$Form;IILLetterForms$Form;)V" } : Jvm.MethodName)) ∈ lw_all := lw_g (lw_at lw_m4 96 rfl) rfl
theorem q936 : (Jvm.Cond.code ({ cls := "LetterForms$Desk", name := "differs", desc := "(LLetterForms$Form;IILLetterForms$Form;)V" } : Jvm.MethodName) prog_4_method_3_code (8 : Nat) (Option.none : Option Jvm.ClassFile.FieldType)) ∈ lw_all := lw_g (lw_at lw_m4 97 rfl) rfl
theorem q937 : (Jvm.Cond.methodLink "LetterForms$Desk" (70 : Nat) ({ cls := "LetterForms$Desk", name := "product", desc := "(LLetterForms$Form;LLetterForms$Form;LLetterForms$Form;)V" } : Jvm.MethodName)) ∈ lw_all := lw_g (lw_at lw_m4 98 rfl) rfl
theorem q938 : (Jvm.Cond.instanceMethod ({ cls := "LetterForms$Desk", name := "product", desc := "(LLetterForms$Form;LLetterForms$Form;LLetterForms$Form;)V" } : Jvm.MethodName)) ∈ lw_all := lw_g (lw_at lw_m4 99 rfl) rfl
theorem q939 : (Jvm.Cond.selects "LetterForms$Desk" ({ cls := "LetterForms$Desk", name := "product", desc := "(LLetterForms$Form;LLetterForms$Form;LLetterForms$Form;)V" } : Jvm.MethodName) ({ cls := "LetterForms$Desk", name := "product", desc := "(LLetterForms$Form;LLetterForms$Form;LLetterForms$Form;)V" } : Jvm.MethodName)) ∈ lw_all := lw_g (lw_at lw_m4 100 rfl) rfl
theorem q940 : (Jvm.Cond.code ({ cls := "LetterForms$Desk", name := "product", desc := "(LLetterForms$Form;LLetterForms$Form;LLetterForms$Form;)V" } : Jvm.MethodName) prog_4_method_2_code (7 : Nat) (Option.none : Option Jvm.ClassFile.FieldType)) ∈ lw_all := lw_g (lw_at lw_m4 101 rfl) rfl
theorem q941 : (Jvm.Cond.constantLong "LetterForms$Desk" (74 : Nat) (-1 : Int64)) ∈ lw_all := lw_g (lw_at lw_m4 102 rfl) rfl
theorem q1135 : (Jvm.Cond.instanceMethod ({ cls := "LetterForms$Desk", name := "root", desc := "(LLetterForms$Form;I)I" } : Jvm.MethodName)) ∈ lw_all := lw_g (lw_at lw_m5 56 rfl) rfl
theorem q1136 : (Jvm.Cond.selects "LetterForms$Desk" ({ cls := "LetterForms$Desk", name := "root", desc := "(LLetterForms$Form;I)I" } : Jvm.MethodName) ({ cls := "LetterForms$Desk", name := "root", desc := "(LLetterForms$Form;I)I" } : Jvm.MethodName)) ∈ lw_all := lw_g (lw_at lw_m5 57 rfl) rfl
theorem q1137 : (Jvm.Cond.code ({ cls := "LetterForms$Desk", name := "root", desc := "(LLetterForms$Form;I)I" } : Jvm.MethodName) prog_4_method_9_code (4 : Nat) (Option.some Jvm.ClassFile.FieldType.int)) ∈ lw_all := lw_g (lw_at lw_m5 58 rfl) rfl
theorem q1138 : (Jvm.Cond.methodLink "LetterForms$Desk" (83 : Nat) ({ cls := "LetterForms$Form", name := "isNought", desc := "()Z" } : Jvm.MethodName)) ∈ lw_all := lw_g (lw_at lw_m5 59 rfl) rfl
theorem q1139 : (Jvm.Cond.methodLink "LetterForms$Desk" (87 : Nat) ({ cls := "LetterForms$Desk", name := "divides", desc := "(I)Z" } : Jvm.MethodName)) ∈ lw_all := lw_g (lw_at lw_m5 60 rfl) rfl
theorem q1140 : (Jvm.Cond.privateMethod ({ cls := "LetterForms$Desk", name := "divides", desc := "(I)Z" } : Jvm.MethodName)) ∈ lw_tbl := lw_at lw_m5 61 rfl
theorem q1141 : (Jvm.Cond.instanceMethod ({ cls := "LetterForms$Desk", name := "divides", desc := "(I)Z" } : Jvm.MethodName)) ∈ lw_all := lw_g (lw_at lw_m5 62 rfl) rfl
theorem q1142 : (Jvm.Cond.code ({ cls := "LetterForms$Desk", name := "divides", desc := "(I)Z" } : Jvm.MethodName) prog_4_method_10_code (5 : Nat) (Option.some Jvm.ClassFile.FieldType.boolean)) ∈ lw_all := lw_g (lw_at lw_m5 63 rfl) rfl
theorem q1986 : (Jvm.Cond.castable "LetterForms$Desk" "java/lang/Object") ∈ lw_tbl := lw_at lw_m8 187 rfl
theorem in_X6 : ∀ w ∈ wsX60, w ∈ lw_all := lw_in wsX60 [326, 328, 330, 332, 334, 336] (by decide +kernel) (by decide +kernel)
