/-! LetterFormsLaw -/
set_option maxRecDepth 100000
def RX0 : String := "LetterFormsLaw"
abbrev cX0_field : ByteArray := method_3_code
def yX0_field : MethodName := ⟨RX0, "field", "(LLetterForms;I)I"⟩
def dkwX0_field_0 : List UInt8 := [42, 27, 182, 0, 7, 167, 0, 9, 77, 4, 172, 77, 5, 172, 3, 172]
abbrev dktX0_field_0 : List UInt8 := dkwX0_field_0 ++ []
theorem dksX0_field_0 : cX0_field.data.toList.drop 0 = dktX0_field_0 := by decide +kernel
theorem dX0_field_0 : decode cX0_field 0 = .ok (.aload_n 0, 1) := dk_42 (dk_at dksX0_field_0 0 rfl rfl)
theorem dX0_field_1 : decode cX0_field 1 = .ok (.iload_n 1, 1) := dk_27 (dk_at dksX0_field_0 1 rfl rfl)
theorem dX0_field_2 : decode cX0_field 2 = .ok (.invokevirtual 7, 3) := dk_182 0 7 (dk_at dksX0_field_0 2 rfl rfl)
theorem dX0_field_5 : decode cX0_field 5 = .ok (.goto 9, 3) := dk_167 0 9 (dk_at dksX0_field_0 5 rfl rfl)
theorem dX0_field_8 : decode cX0_field 8 = .ok (.astore_n 2, 1) := dk_77 (dk_at dksX0_field_0 8 rfl rfl)
theorem dX0_field_9 : decode cX0_field 9 = .ok (.iconst 1, 1) := dk_4 (dk_at dksX0_field_0 9 rfl rfl)
theorem dX0_field_10 : decode cX0_field 10 = .ok (.ireturn, 1) := dk_172 (dk_at dksX0_field_0 10 rfl rfl)
theorem dX0_field_11 : decode cX0_field 11 = .ok (.astore_n 2, 1) := dk_77 (dk_at dksX0_field_0 11 rfl rfl)
theorem dX0_field_12 : decode cX0_field 12 = .ok (.iconst 2, 1) := dk_5 (dk_at dksX0_field_0 12 rfl rfl)
theorem dX0_field_13 : decode cX0_field 13 = .ok (.ireturn, 1) := dk_172 (dk_at dksX0_field_0 13 rfl rfl)
theorem dX0_field_14 : decode cX0_field 14 = .ok (.iconst 0, 1) := dk_3 (dk_at dksX0_field_0 14 rfl rfl)
theorem dX0_field_15 : decode cX0_field 15 = .ok (.ireturn, 1) := dk_172 (dk_at dksX0_field_0 15 rfl rfl)
abbrev cX0_form : ByteArray := method_4_code
def yX0_form : MethodName := ⟨RX0, "form", "(LLetterForms;[J)I"⟩
def dkwX0_form_0 : List UInt8 := [43, 3, 42, 182, 0, 17, 133, 80, 167, 0, 9, 77, 4, 172, 77, 5, 172, 3, 172]
abbrev dktX0_form_0 : List UInt8 := dkwX0_form_0 ++ []
theorem dksX0_form_0 : cX0_form.data.toList.drop 0 = dktX0_form_0 := by decide +kernel
theorem dX0_form_0 : decode cX0_form 0 = .ok (.aload_n 1, 1) := dk_43 (dk_at dksX0_form_0 0 rfl rfl)
theorem dX0_form_1 : decode cX0_form 1 = .ok (.iconst 0, 1) := dk_3 (dk_at dksX0_form_0 1 rfl rfl)
theorem dX0_form_2 : decode cX0_form 2 = .ok (.aload_n 0, 1) := dk_42 (dk_at dksX0_form_0 2 rfl rfl)
theorem dX0_form_3 : decode cX0_form 3 = .ok (.invokevirtual 17, 3) := dk_182 0 17 (dk_at dksX0_form_0 3 rfl rfl)
theorem dX0_form_6 : decode cX0_form 6 = .ok (.i2l, 1) := dk_133 (dk_at dksX0_form_0 6 rfl rfl)
theorem dX0_form_7 : decode cX0_form 7 = .ok (.lastore, 1) := dk_80 (dk_at dksX0_form_0 7 rfl rfl)
theorem dX0_form_8 : decode cX0_form 8 = .ok (.goto 9, 3) := dk_167 0 9 (dk_at dksX0_form_0 8 rfl rfl)
theorem dX0_form_11 : decode cX0_form 11 = .ok (.astore_n 2, 1) := dk_77 (dk_at dksX0_form_0 11 rfl rfl)
theorem dX0_form_12 : decode cX0_form 12 = .ok (.iconst 1, 1) := dk_4 (dk_at dksX0_form_0 12 rfl rfl)
theorem dX0_form_13 : decode cX0_form 13 = .ok (.ireturn, 1) := dk_172 (dk_at dksX0_form_0 13 rfl rfl)
theorem dX0_form_14 : decode cX0_form 14 = .ok (.astore_n 2, 1) := dk_77 (dk_at dksX0_form_0 14 rfl rfl)
theorem dX0_form_15 : decode cX0_form 15 = .ok (.iconst 2, 1) := dk_5 (dk_at dksX0_form_0 15 rfl rfl)
theorem dX0_form_16 : decode cX0_form 16 = .ok (.ireturn, 1) := dk_172 (dk_at dksX0_form_0 16 rfl rfl)
theorem dX0_form_17 : decode cX0_form 17 = .ok (.iconst 0, 1) := dk_3 (dk_at dksX0_form_0 17 rfl rfl)
theorem dX0_form_18 : decode cX0_form 18 = .ok (.ireturn, 1) := dk_172 (dk_at dksX0_form_0 18 rfl rfl)
abbrev cX0_table : ByteArray := method_5_code
def yX0_table : MethodName := ⟨RX0, "table", "(LLetterForms;IIII[J)I"⟩
def dkwX0_table_1 : List UInt8 := [172, 3, 172]
abbrev dktX0_table_1 : List UInt8 := dkwX0_table_1 ++ []
def dkwX0_table_0 : List UInt8 := [25, 5, 3, 42, 27, 28, 29, 21, 4, 182, 0, 23, 133, 80, 167, 0, 11, 58, 6, 4, 172, 58, 6, 5]
abbrev dktX0_table_0 : List UInt8 := dkwX0_table_0 ++ dktX0_table_1
theorem dksX0_table_0 : cX0_table.data.toList.drop 0 = dktX0_table_0 := by decide +kernel
theorem dksX0_table_1 : cX0_table.data.toList.drop 24 = dktX0_table_1 := dk_seg dksX0_table_0 24 rfl rfl
theorem dX0_table_0 : decode cX0_table 0 = .ok (.aload 5, 2) := dk_25 5 (dk_at dksX0_table_0 0 rfl rfl)
theorem dX0_table_2 : decode cX0_table 2 = .ok (.iconst 0, 1) := dk_3 (dk_at dksX0_table_0 2 rfl rfl)
theorem dX0_table_3 : decode cX0_table 3 = .ok (.aload_n 0, 1) := dk_42 (dk_at dksX0_table_0 3 rfl rfl)
theorem dX0_table_4 : decode cX0_table 4 = .ok (.iload_n 1, 1) := dk_27 (dk_at dksX0_table_0 4 rfl rfl)
theorem dX0_table_5 : decode cX0_table 5 = .ok (.iload_n 2, 1) := dk_28 (dk_at dksX0_table_0 5 rfl rfl)
theorem dX0_table_6 : decode cX0_table 6 = .ok (.iload_n 3, 1) := dk_29 (dk_at dksX0_table_0 6 rfl rfl)
theorem dX0_table_7 : decode cX0_table 7 = .ok (.iload 4, 2) := dk_21 4 (dk_at dksX0_table_0 7 rfl rfl)
theorem dX0_table_9 : decode cX0_table 9 = .ok (.invokevirtual 23, 3) := dk_182 0 23 (dk_at dksX0_table_0 9 rfl rfl)
theorem dX0_table_12 : decode cX0_table 12 = .ok (.i2l, 1) := dk_133 (dk_at dksX0_table_0 12 rfl rfl)
theorem dX0_table_13 : decode cX0_table 13 = .ok (.lastore, 1) := dk_80 (dk_at dksX0_table_0 13 rfl rfl)
theorem dX0_table_14 : decode cX0_table 14 = .ok (.goto 11, 3) := dk_167 0 11 (dk_at dksX0_table_0 14 rfl rfl)
theorem dX0_table_17 : decode cX0_table 17 = .ok (.astore 6, 2) := dk_58 6 (dk_at dksX0_table_0 17 rfl rfl)
theorem dX0_table_19 : decode cX0_table 19 = .ok (.iconst 1, 1) := dk_4 (dk_at dksX0_table_0 19 rfl rfl)
theorem dX0_table_20 : decode cX0_table 20 = .ok (.ireturn, 1) := dk_172 (dk_at dksX0_table_0 20 rfl rfl)
theorem dX0_table_21 : decode cX0_table 21 = .ok (.astore 6, 2) := dk_58 6 (dk_at dksX0_table_0 21 rfl rfl)
theorem dX0_table_23 : decode cX0_table 23 = .ok (.iconst 2, 1) := dk_5 (dk_at dksX0_table_0 23 rfl rfl)
theorem dX0_table_24 : decode cX0_table 24 = .ok (.ireturn, 1) := dk_172 (dk_at dksX0_table_1 0 rfl rfl)
theorem dX0_table_25 : decode cX0_table 25 = .ok (.iconst 0, 1) := dk_3 (dk_at dksX0_table_1 1 rfl rfl)
theorem dX0_table_26 : decode cX0_table 26 = .ok (.ireturn, 1) := dk_172 (dk_at dksX0_table_1 2 rfl rfl)
abbrev cX0_signs : ByteArray := method_6_code
def yX0_signs : MethodName := ⟨RX0, "signs", "(LLetterForms;[J)I"⟩
def dkwX0_signs_0 : List UInt8 := [43, 3, 42, 182, 0, 27, 133, 80, 167, 0, 9, 77, 4, 172, 77, 5, 172, 3, 172]
abbrev dktX0_signs_0 : List UInt8 := dkwX0_signs_0 ++ []
theorem dksX0_signs_0 : cX0_signs.data.toList.drop 0 = dktX0_signs_0 := by decide +kernel
theorem dX0_signs_0 : decode cX0_signs 0 = .ok (.aload_n 1, 1) := dk_43 (dk_at dksX0_signs_0 0 rfl rfl)
theorem dX0_signs_1 : decode cX0_signs 1 = .ok (.iconst 0, 1) := dk_3 (dk_at dksX0_signs_0 1 rfl rfl)
theorem dX0_signs_2 : decode cX0_signs 2 = .ok (.aload_n 0, 1) := dk_42 (dk_at dksX0_signs_0 2 rfl rfl)
theorem dX0_signs_3 : decode cX0_signs 3 = .ok (.invokevirtual 27, 3) := dk_182 0 27 (dk_at dksX0_signs_0 3 rfl rfl)
theorem dX0_signs_6 : decode cX0_signs 6 = .ok (.i2l, 1) := dk_133 (dk_at dksX0_signs_0 6 rfl rfl)
theorem dX0_signs_7 : decode cX0_signs 7 = .ok (.lastore, 1) := dk_80 (dk_at dksX0_signs_0 7 rfl rfl)
theorem dX0_signs_8 : decode cX0_signs 8 = .ok (.goto 9, 3) := dk_167 0 9 (dk_at dksX0_signs_0 8 rfl rfl)
theorem dX0_signs_11 : decode cX0_signs 11 = .ok (.astore_n 2, 1) := dk_77 (dk_at dksX0_signs_0 11 rfl rfl)
theorem dX0_signs_12 : decode cX0_signs 12 = .ok (.iconst 1, 1) := dk_4 (dk_at dksX0_signs_0 12 rfl rfl)
theorem dX0_signs_13 : decode cX0_signs 13 = .ok (.ireturn, 1) := dk_172 (dk_at dksX0_signs_0 13 rfl rfl)
theorem dX0_signs_14 : decode cX0_signs 14 = .ok (.astore_n 2, 1) := dk_77 (dk_at dksX0_signs_0 14 rfl rfl)
theorem dX0_signs_15 : decode cX0_signs 15 = .ok (.iconst 2, 1) := dk_5 (dk_at dksX0_signs_0 15 rfl rfl)
theorem dX0_signs_16 : decode cX0_signs 16 = .ok (.ireturn, 1) := dk_172 (dk_at dksX0_signs_0 16 rfl rfl)
theorem dX0_signs_17 : decode cX0_signs 17 = .ok (.iconst 0, 1) := dk_3 (dk_at dksX0_signs_0 17 rfl rfl)
theorem dX0_signs_18 : decode cX0_signs 18 = .ok (.ireturn, 1) := dk_172 (dk_at dksX0_signs_0 18 rfl rfl)
abbrev cX0_look : ByteArray := method_7_code
def yX0_look : MethodName := ⟨RX0, "look", "(LLetterForms;II[J)I"⟩
def dkwX0_look_0 : List UInt8 := [45, 3, 42, 27, 28, 182, 0, 30, 133, 80, 167, 0, 7, 58, 4, 4, 172, 3, 172]
abbrev dktX0_look_0 : List UInt8 := dkwX0_look_0 ++ []
theorem dksX0_look_0 : cX0_look.data.toList.drop 0 = dktX0_look_0 := by decide +kernel
theorem dX0_look_0 : decode cX0_look 0 = .ok (.aload_n 3, 1) := dk_45 (dk_at dksX0_look_0 0 rfl rfl)
theorem dX0_look_1 : decode cX0_look 1 = .ok (.iconst 0, 1) := dk_3 (dk_at dksX0_look_0 1 rfl rfl)
theorem dX0_look_2 : decode cX0_look 2 = .ok (.aload_n 0, 1) := dk_42 (dk_at dksX0_look_0 2 rfl rfl)
theorem dX0_look_3 : decode cX0_look 3 = .ok (.iload_n 1, 1) := dk_27 (dk_at dksX0_look_0 3 rfl rfl)
theorem dX0_look_4 : decode cX0_look 4 = .ok (.iload_n 2, 1) := dk_28 (dk_at dksX0_look_0 4 rfl rfl)
theorem dX0_look_5 : decode cX0_look 5 = .ok (.invokevirtual 30, 3) := dk_182 0 30 (dk_at dksX0_look_0 5 rfl rfl)
theorem dX0_look_8 : decode cX0_look 8 = .ok (.i2l, 1) := dk_133 (dk_at dksX0_look_0 8 rfl rfl)
theorem dX0_look_9 : decode cX0_look 9 = .ok (.lastore, 1) := dk_80 (dk_at dksX0_look_0 9 rfl rfl)
theorem dX0_look_10 : decode cX0_look 10 = .ok (.goto 7, 3) := dk_167 0 7 (dk_at dksX0_look_0 10 rfl rfl)
theorem dX0_look_13 : decode cX0_look 13 = .ok (.astore 4, 2) := dk_58 4 (dk_at dksX0_look_0 13 rfl rfl)
theorem dX0_look_15 : decode cX0_look 15 = .ok (.iconst 1, 1) := dk_4 (dk_at dksX0_look_0 15 rfl rfl)
theorem dX0_look_16 : decode cX0_look 16 = .ok (.ireturn, 1) := dk_172 (dk_at dksX0_look_0 16 rfl rfl)
theorem dX0_look_17 : decode cX0_look 17 = .ok (.iconst 0, 1) := dk_3 (dk_at dksX0_look_0 17 rfl rfl)
theorem dX0_look_18 : decode cX0_look 18 = .ok (.ireturn, 1) := dk_172 (dk_at dksX0_look_0 18 rfl rfl)
abbrev cX0_at : ByteArray := method_8_code
def yX0_at : MethodName := ⟨RX0, "at", "(LLetterForms;III[J)I"⟩
def dkwX0_at_0 : List UInt8 := [25, 4, 3, 42, 27, 28, 29, 182, 0, 36, 133, 80, 167, 0, 7, 58, 5, 4, 172, 3, 172]
abbrev dktX0_at_0 : List UInt8 := dkwX0_at_0 ++ []
theorem dksX0_at_0 : cX0_at.data.toList.drop 0 = dktX0_at_0 := by decide +kernel
theorem dX0_at_0 : decode cX0_at 0 = .ok (.aload 4, 2) := dk_25 4 (dk_at dksX0_at_0 0 rfl rfl)
theorem dX0_at_2 : decode cX0_at 2 = .ok (.iconst 0, 1) := dk_3 (dk_at dksX0_at_0 2 rfl rfl)
theorem dX0_at_3 : decode cX0_at 3 = .ok (.aload_n 0, 1) := dk_42 (dk_at dksX0_at_0 3 rfl rfl)
theorem dX0_at_4 : decode cX0_at 4 = .ok (.iload_n 1, 1) := dk_27 (dk_at dksX0_at_0 4 rfl rfl)
theorem dX0_at_5 : decode cX0_at 5 = .ok (.iload_n 2, 1) := dk_28 (dk_at dksX0_at_0 5 rfl rfl)
theorem dX0_at_6 : decode cX0_at 6 = .ok (.iload_n 3, 1) := dk_29 (dk_at dksX0_at_0 6 rfl rfl)
theorem dX0_at_7 : decode cX0_at 7 = .ok (.invokevirtual 36, 3) := dk_182 0 36 (dk_at dksX0_at_0 7 rfl rfl)
theorem dX0_at_10 : decode cX0_at 10 = .ok (.i2l, 1) := dk_133 (dk_at dksX0_at_0 10 rfl rfl)
theorem dX0_at_11 : decode cX0_at 11 = .ok (.lastore, 1) := dk_80 (dk_at dksX0_at_0 11 rfl rfl)
theorem dX0_at_12 : decode cX0_at 12 = .ok (.goto 7, 3) := dk_167 0 7 (dk_at dksX0_at_0 12 rfl rfl)
theorem dX0_at_15 : decode cX0_at 15 = .ok (.astore 5, 2) := dk_58 5 (dk_at dksX0_at_0 15 rfl rfl)
theorem dX0_at_17 : decode cX0_at 17 = .ok (.iconst 1, 1) := dk_4 (dk_at dksX0_at_0 17 rfl rfl)
theorem dX0_at_18 : decode cX0_at 18 = .ok (.ireturn, 1) := dk_172 (dk_at dksX0_at_0 18 rfl rfl)
theorem dX0_at_19 : decode cX0_at 19 = .ok (.iconst 0, 1) := dk_3 (dk_at dksX0_at_0 19 rfl rfl)
theorem dX0_at_20 : decode cX0_at 20 = .ok (.ireturn, 1) := dk_172 (dk_at dksX0_at_0 20 rfl rfl)
abbrev cX0_det : ByteArray := method_9_code
def yX0_det : MethodName := ⟨RX0, "det", "(LLetterForms;I[J)I"⟩
def dkwX0_det_0 : List UInt8 := [44, 3, 42, 27, 182, 0, 40, 133, 80, 167, 0, 6, 78, 4, 172, 3, 172]
abbrev dktX0_det_0 : List UInt8 := dkwX0_det_0 ++ []
theorem dksX0_det_0 : cX0_det.data.toList.drop 0 = dktX0_det_0 := by decide +kernel
theorem dX0_det_0 : decode cX0_det 0 = .ok (.aload_n 2, 1) := dk_44 (dk_at dksX0_det_0 0 rfl rfl)
theorem dX0_det_1 : decode cX0_det 1 = .ok (.iconst 0, 1) := dk_3 (dk_at dksX0_det_0 1 rfl rfl)
theorem dX0_det_2 : decode cX0_det 2 = .ok (.aload_n 0, 1) := dk_42 (dk_at dksX0_det_0 2 rfl rfl)
theorem dX0_det_3 : decode cX0_det 3 = .ok (.iload_n 1, 1) := dk_27 (dk_at dksX0_det_0 3 rfl rfl)
theorem dX0_det_4 : decode cX0_det 4 = .ok (.invokevirtual 40, 3) := dk_182 0 40 (dk_at dksX0_det_0 4 rfl rfl)
theorem dX0_det_7 : decode cX0_det 7 = .ok (.i2l, 1) := dk_133 (dk_at dksX0_det_0 7 rfl rfl)
theorem dX0_det_8 : decode cX0_det 8 = .ok (.lastore, 1) := dk_80 (dk_at dksX0_det_0 8 rfl rfl)
theorem dX0_det_9 : decode cX0_det 9 = .ok (.goto 6, 3) := dk_167 0 6 (dk_at dksX0_det_0 9 rfl rfl)
theorem dX0_det_12 : decode cX0_det 12 = .ok (.astore_n 3, 1) := dk_78 (dk_at dksX0_det_0 12 rfl rfl)
theorem dX0_det_13 : decode cX0_det 13 = .ok (.iconst 1, 1) := dk_4 (dk_at dksX0_det_0 13 rfl rfl)
theorem dX0_det_14 : decode cX0_det 14 = .ok (.ireturn, 1) := dk_172 (dk_at dksX0_det_0 14 rfl rfl)
theorem dX0_det_15 : decode cX0_det 15 = .ok (.iconst 0, 1) := dk_3 (dk_at dksX0_det_0 15 rfl rfl)
theorem dX0_det_16 : decode cX0_det 16 = .ok (.ireturn, 1) := dk_172 (dk_at dksX0_det_0 16 rfl rfl)
abbrev cX0_mix : ByteArray := method_10_code
def yX0_mix : MethodName := ⟨RX0, "mix", "(LLetterForms;II[J)I"⟩
def dkwX0_mix_1 : List UInt8 := [3, 172]
abbrev dktX0_mix_1 : List UInt8 := dkwX0_mix_1 ++ []
def dkwX0_mix_0 : List UInt8 := [45, 3, 42, 27, 28, 182, 0, 44, 153, 0, 7, 10, 167, 0, 4, 9, 80, 167, 0, 7, 58, 4, 4, 172]
abbrev dktX0_mix_0 : List UInt8 := dkwX0_mix_0 ++ dktX0_mix_1
theorem dksX0_mix_0 : cX0_mix.data.toList.drop 0 = dktX0_mix_0 := by decide +kernel
theorem dksX0_mix_1 : cX0_mix.data.toList.drop 24 = dktX0_mix_1 := dk_seg dksX0_mix_0 24 rfl rfl
theorem dX0_mix_0 : decode cX0_mix 0 = .ok (.aload_n 3, 1) := dk_45 (dk_at dksX0_mix_0 0 rfl rfl)
theorem dX0_mix_1 : decode cX0_mix 1 = .ok (.iconst 0, 1) := dk_3 (dk_at dksX0_mix_0 1 rfl rfl)
theorem dX0_mix_2 : decode cX0_mix 2 = .ok (.aload_n 0, 1) := dk_42 (dk_at dksX0_mix_0 2 rfl rfl)
theorem dX0_mix_3 : decode cX0_mix 3 = .ok (.iload_n 1, 1) := dk_27 (dk_at dksX0_mix_0 3 rfl rfl)
theorem dX0_mix_4 : decode cX0_mix 4 = .ok (.iload_n 2, 1) := dk_28 (dk_at dksX0_mix_0 4 rfl rfl)
theorem dX0_mix_5 : decode cX0_mix 5 = .ok (.invokevirtual 44, 3) := dk_182 0 44 (dk_at dksX0_mix_0 5 rfl rfl)
theorem dX0_mix_8 : decode cX0_mix 8 = .ok (.ifCond .eq 7, 3) := dk_153 0 7 (dk_at dksX0_mix_0 8 rfl rfl)
theorem dX0_mix_11 : decode cX0_mix 11 = .ok (.lconst 1, 1) := dk_10 (dk_at dksX0_mix_0 11 rfl rfl)
theorem dX0_mix_12 : decode cX0_mix 12 = .ok (.goto 4, 3) := dk_167 0 4 (dk_at dksX0_mix_0 12 rfl rfl)
theorem dX0_mix_15 : decode cX0_mix 15 = .ok (.lconst 0, 1) := dk_9 (dk_at dksX0_mix_0 15 rfl rfl)
theorem dX0_mix_16 : decode cX0_mix 16 = .ok (.lastore, 1) := dk_80 (dk_at dksX0_mix_0 16 rfl rfl)
theorem dX0_mix_17 : decode cX0_mix 17 = .ok (.goto 7, 3) := dk_167 0 7 (dk_at dksX0_mix_0 17 rfl rfl)
theorem dX0_mix_20 : decode cX0_mix 20 = .ok (.astore 4, 2) := dk_58 4 (dk_at dksX0_mix_0 20 rfl rfl)
theorem dX0_mix_22 : decode cX0_mix 22 = .ok (.iconst 1, 1) := dk_4 (dk_at dksX0_mix_0 22 rfl rfl)
theorem dX0_mix_23 : decode cX0_mix 23 = .ok (.ireturn, 1) := dk_172 (dk_at dksX0_mix_0 23 rfl rfl)
theorem dX0_mix_24 : decode cX0_mix 24 = .ok (.iconst 0, 1) := dk_3 (dk_at dksX0_mix_1 0 rfl rfl)
theorem dX0_mix_25 : decode cX0_mix 25 = .ok (.ireturn, 1) := dk_172 (dk_at dksX0_mix_1 1 rfl rfl)
abbrev cX0_value : ByteArray := method_11_code
def yX0_value : MethodName := ⟨RX0, "value", "(LLetterForms;III[J)I"⟩
def dkwX0_value_0 : List UInt8 := [25, 4, 3, 42, 27, 28, 29, 182, 0, 48, 133, 80, 167, 0, 7, 58, 5, 4, 172, 3, 172]
abbrev dktX0_value_0 : List UInt8 := dkwX0_value_0 ++ []
theorem dksX0_value_0 : cX0_value.data.toList.drop 0 = dktX0_value_0 := by decide +kernel
theorem dX0_value_0 : decode cX0_value 0 = .ok (.aload 4, 2) := dk_25 4 (dk_at dksX0_value_0 0 rfl rfl)
theorem dX0_value_2 : decode cX0_value 2 = .ok (.iconst 0, 1) := dk_3 (dk_at dksX0_value_0 2 rfl rfl)
theorem dX0_value_3 : decode cX0_value 3 = .ok (.aload_n 0, 1) := dk_42 (dk_at dksX0_value_0 3 rfl rfl)
theorem dX0_value_4 : decode cX0_value 4 = .ok (.iload_n 1, 1) := dk_27 (dk_at dksX0_value_0 4 rfl rfl)
theorem dX0_value_5 : decode cX0_value 5 = .ok (.iload_n 2, 1) := dk_28 (dk_at dksX0_value_0 5 rfl rfl)
theorem dX0_value_6 : decode cX0_value 6 = .ok (.iload_n 3, 1) := dk_29 (dk_at dksX0_value_0 6 rfl rfl)
theorem dX0_value_7 : decode cX0_value 7 = .ok (.invokevirtual 48, 3) := dk_182 0 48 (dk_at dksX0_value_0 7 rfl rfl)
theorem dX0_value_10 : decode cX0_value 10 = .ok (.i2l, 1) := dk_133 (dk_at dksX0_value_0 10 rfl rfl)
theorem dX0_value_11 : decode cX0_value 11 = .ok (.lastore, 1) := dk_80 (dk_at dksX0_value_0 11 rfl rfl)
theorem dX0_value_12 : decode cX0_value 12 = .ok (.goto 7, 3) := dk_167 0 7 (dk_at dksX0_value_0 12 rfl rfl)
theorem dX0_value_15 : decode cX0_value 15 = .ok (.astore 5, 2) := dk_58 5 (dk_at dksX0_value_0 15 rfl rfl)
theorem dX0_value_17 : decode cX0_value 17 = .ok (.iconst 1, 1) := dk_4 (dk_at dksX0_value_0 17 rfl rfl)
theorem dX0_value_18 : decode cX0_value 18 = .ok (.ireturn, 1) := dk_172 (dk_at dksX0_value_0 18 rfl rfl)
theorem dX0_value_19 : decode cX0_value 19 = .ok (.iconst 0, 1) := dk_3 (dk_at dksX0_value_0 19 rfl rfl)
theorem dX0_value_20 : decode cX0_value 20 = .ok (.ireturn, 1) := dk_172 (dk_at dksX0_value_0 20 rfl rfl)
abbrev cX0_rank : ByteArray := method_12_code
def yX0_rank : MethodName := ⟨RX0, "rank", "(LLetterForms;IZ[J)I"⟩
def dkwX0_rank_0 : List UInt8 := [45, 3, 42, 27, 28, 182, 0, 51, 133, 80, 167, 0, 7, 58, 4, 4, 172, 3, 172]
abbrev dktX0_rank_0 : List UInt8 := dkwX0_rank_0 ++ []
theorem dksX0_rank_0 : cX0_rank.data.toList.drop 0 = dktX0_rank_0 := by decide +kernel
theorem dX0_rank_0 : decode cX0_rank 0 = .ok (.aload_n 3, 1) := dk_45 (dk_at dksX0_rank_0 0 rfl rfl)
theorem dX0_rank_1 : decode cX0_rank 1 = .ok (.iconst 0, 1) := dk_3 (dk_at dksX0_rank_0 1 rfl rfl)
theorem dX0_rank_2 : decode cX0_rank 2 = .ok (.aload_n 0, 1) := dk_42 (dk_at dksX0_rank_0 2 rfl rfl)
theorem dX0_rank_3 : decode cX0_rank 3 = .ok (.iload_n 1, 1) := dk_27 (dk_at dksX0_rank_0 3 rfl rfl)
theorem dX0_rank_4 : decode cX0_rank 4 = .ok (.iload_n 2, 1) := dk_28 (dk_at dksX0_rank_0 4 rfl rfl)
theorem dX0_rank_5 : decode cX0_rank 5 = .ok (.invokevirtual 51, 3) := dk_182 0 51 (dk_at dksX0_rank_0 5 rfl rfl)
theorem dX0_rank_8 : decode cX0_rank 8 = .ok (.i2l, 1) := dk_133 (dk_at dksX0_rank_0 8 rfl rfl)
theorem dX0_rank_9 : decode cX0_rank 9 = .ok (.lastore, 1) := dk_80 (dk_at dksX0_rank_0 9 rfl rfl)
theorem dX0_rank_10 : decode cX0_rank 10 = .ok (.goto 7, 3) := dk_167 0 7 (dk_at dksX0_rank_0 10 rfl rfl)
theorem dX0_rank_13 : decode cX0_rank 13 = .ok (.astore 4, 2) := dk_58 4 (dk_at dksX0_rank_0 13 rfl rfl)
theorem dX0_rank_15 : decode cX0_rank 15 = .ok (.iconst 1, 1) := dk_4 (dk_at dksX0_rank_0 15 rfl rfl)
theorem dX0_rank_16 : decode cX0_rank 16 = .ok (.ireturn, 1) := dk_172 (dk_at dksX0_rank_0 16 rfl rfl)
theorem dX0_rank_17 : decode cX0_rank 17 = .ok (.iconst 0, 1) := dk_3 (dk_at dksX0_rank_0 17 rfl rfl)
theorem dX0_rank_18 : decode cX0_rank 18 = .ok (.ireturn, 1) := dk_172 (dk_at dksX0_rank_0 18 rfl rfl)
abbrev cX0_stays : ByteArray := method_13_code
def yX0_stays : MethodName := ⟨RX0, "stays", "(LLetterForms;III[J)I"⟩
def dkwX0_stays_1 : List UInt8 := [4, 172, 3, 172]
abbrev dktX0_stays_1 : List UInt8 := dkwX0_stays_1 ++ []
def dkwX0_stays_0 : List UInt8 := [25, 4, 3, 42, 27, 28, 29, 182, 0, 55, 153, 0, 7, 10, 167, 0, 4, 9, 80, 167, 0, 7, 58, 5]
abbrev dktX0_stays_0 : List UInt8 := dkwX0_stays_0 ++ dktX0_stays_1
theorem dksX0_stays_0 : cX0_stays.data.toList.drop 0 = dktX0_stays_0 := by decide +kernel
theorem dksX0_stays_1 : cX0_stays.data.toList.drop 24 = dktX0_stays_1 := dk_seg dksX0_stays_0 24 rfl rfl
theorem dX0_stays_0 : decode cX0_stays 0 = .ok (.aload 4, 2) := dk_25 4 (dk_at dksX0_stays_0 0 rfl rfl)
theorem dX0_stays_2 : decode cX0_stays 2 = .ok (.iconst 0, 1) := dk_3 (dk_at dksX0_stays_0 2 rfl rfl)
theorem dX0_stays_3 : decode cX0_stays 3 = .ok (.aload_n 0, 1) := dk_42 (dk_at dksX0_stays_0 3 rfl rfl)
theorem dX0_stays_4 : decode cX0_stays 4 = .ok (.iload_n 1, 1) := dk_27 (dk_at dksX0_stays_0 4 rfl rfl)
theorem dX0_stays_5 : decode cX0_stays 5 = .ok (.iload_n 2, 1) := dk_28 (dk_at dksX0_stays_0 5 rfl rfl)
theorem dX0_stays_6 : decode cX0_stays 6 = .ok (.iload_n 3, 1) := dk_29 (dk_at dksX0_stays_0 6 rfl rfl)
theorem dX0_stays_7 : decode cX0_stays 7 = .ok (.invokevirtual 55, 3) := dk_182 0 55 (dk_at dksX0_stays_0 7 rfl rfl)
theorem dX0_stays_10 : decode cX0_stays 10 = .ok (.ifCond .eq 7, 3) := dk_153 0 7 (dk_at dksX0_stays_0 10 rfl rfl)
theorem dX0_stays_13 : decode cX0_stays 13 = .ok (.lconst 1, 1) := dk_10 (dk_at dksX0_stays_0 13 rfl rfl)
theorem dX0_stays_14 : decode cX0_stays 14 = .ok (.goto 4, 3) := dk_167 0 4 (dk_at dksX0_stays_0 14 rfl rfl)
theorem dX0_stays_17 : decode cX0_stays 17 = .ok (.lconst 0, 1) := dk_9 (dk_at dksX0_stays_0 17 rfl rfl)
theorem dX0_stays_18 : decode cX0_stays 18 = .ok (.lastore, 1) := dk_80 (dk_at dksX0_stays_0 18 rfl rfl)
theorem dX0_stays_19 : decode cX0_stays 19 = .ok (.goto 7, 3) := dk_167 0 7 (dk_at dksX0_stays_0 19 rfl rfl)
theorem dX0_stays_22 : decode cX0_stays 22 = .ok (.astore 5, 2) := dk_58 5 (dk_at dksX0_stays_0 22 rfl rfl)
theorem dX0_stays_24 : decode cX0_stays 24 = .ok (.iconst 1, 1) := dk_4 (dk_at dksX0_stays_1 0 rfl rfl)
theorem dX0_stays_25 : decode cX0_stays 25 = .ok (.ireturn, 1) := dk_172 (dk_at dksX0_stays_1 1 rfl rfl)
theorem dX0_stays_26 : decode cX0_stays 26 = .ok (.iconst 0, 1) := dk_3 (dk_at dksX0_stays_1 2 rfl rfl)
theorem dX0_stays_27 : decode cX0_stays 27 = .ok (.ireturn, 1) := dk_172 (dk_at dksX0_stays_1 3 rfl rfl)
abbrev cX0_agree : ByteArray := method_14_code
def yX0_agree : MethodName := ⟨RX0, "agree", "(LLetterForms;III[J)I"⟩
def dkwX0_agree_1 : List UInt8 := [172]
abbrev dktX0_agree_1 : List UInt8 := dkwX0_agree_1 ++ []
def dkwX0_agree_0 : List UInt8 := [25, 4, 3, 42, 27, 28, 29, 182, 0, 59, 133, 80, 167, 0, 11, 58, 5, 4, 172, 58, 5, 5, 172, 3]
abbrev dktX0_agree_0 : List UInt8 := dkwX0_agree_0 ++ dktX0_agree_1
theorem dksX0_agree_0 : cX0_agree.data.toList.drop 0 = dktX0_agree_0 := by decide +kernel
theorem dksX0_agree_1 : cX0_agree.data.toList.drop 24 = dktX0_agree_1 := dk_seg dksX0_agree_0 24 rfl rfl
theorem dX0_agree_0 : decode cX0_agree 0 = .ok (.aload 4, 2) := dk_25 4 (dk_at dksX0_agree_0 0 rfl rfl)
theorem dX0_agree_2 : decode cX0_agree 2 = .ok (.iconst 0, 1) := dk_3 (dk_at dksX0_agree_0 2 rfl rfl)
theorem dX0_agree_3 : decode cX0_agree 3 = .ok (.aload_n 0, 1) := dk_42 (dk_at dksX0_agree_0 3 rfl rfl)
theorem dX0_agree_4 : decode cX0_agree 4 = .ok (.iload_n 1, 1) := dk_27 (dk_at dksX0_agree_0 4 rfl rfl)
theorem dX0_agree_5 : decode cX0_agree 5 = .ok (.iload_n 2, 1) := dk_28 (dk_at dksX0_agree_0 5 rfl rfl)
theorem dX0_agree_6 : decode cX0_agree 6 = .ok (.iload_n 3, 1) := dk_29 (dk_at dksX0_agree_0 6 rfl rfl)
theorem dX0_agree_7 : decode cX0_agree 7 = .ok (.invokevirtual 59, 3) := dk_182 0 59 (dk_at dksX0_agree_0 7 rfl rfl)
theorem dX0_agree_10 : decode cX0_agree 10 = .ok (.i2l, 1) := dk_133 (dk_at dksX0_agree_0 10 rfl rfl)
theorem dX0_agree_11 : decode cX0_agree 11 = .ok (.lastore, 1) := dk_80 (dk_at dksX0_agree_0 11 rfl rfl)
theorem dX0_agree_12 : decode cX0_agree 12 = .ok (.goto 11, 3) := dk_167 0 11 (dk_at dksX0_agree_0 12 rfl rfl)
theorem dX0_agree_15 : decode cX0_agree 15 = .ok (.astore 5, 2) := dk_58 5 (dk_at dksX0_agree_0 15 rfl rfl)
theorem dX0_agree_17 : decode cX0_agree 17 = .ok (.iconst 1, 1) := dk_4 (dk_at dksX0_agree_0 17 rfl rfl)
theorem dX0_agree_18 : decode cX0_agree 18 = .ok (.ireturn, 1) := dk_172 (dk_at dksX0_agree_0 18 rfl rfl)
theorem dX0_agree_19 : decode cX0_agree 19 = .ok (.astore 5, 2) := dk_58 5 (dk_at dksX0_agree_0 19 rfl rfl)
theorem dX0_agree_21 : decode cX0_agree 21 = .ok (.iconst 2, 1) := dk_5 (dk_at dksX0_agree_0 21 rfl rfl)
theorem dX0_agree_22 : decode cX0_agree 22 = .ok (.ireturn, 1) := dk_172 (dk_at dksX0_agree_0 22 rfl rfl)
theorem dX0_agree_23 : decode cX0_agree 23 = .ok (.iconst 0, 1) := dk_3 (dk_at dksX0_agree_0 23 rfl rfl)
theorem dX0_agree_24 : decode cX0_agree 24 = .ok (.ireturn, 1) := dk_172 (dk_at dksX0_agree_1 0 rfl rfl)
abbrev cX0_count : ByteArray := method_15_code
def yX0_count : MethodName := ⟨RX0, "count", "(LLetterForms;III[J)I"⟩
def dkwX0_count_0 : List UInt8 := [25, 4, 3, 42, 27, 28, 29, 182, 0, 62, 80, 167, 0, 7, 58, 5, 4, 172, 3, 172]
abbrev dktX0_count_0 : List UInt8 := dkwX0_count_0 ++ []
theorem dksX0_count_0 : cX0_count.data.toList.drop 0 = dktX0_count_0 := by decide +kernel
theorem dX0_count_0 : decode cX0_count 0 = .ok (.aload 4, 2) := dk_25 4 (dk_at dksX0_count_0 0 rfl rfl)
theorem dX0_count_2 : decode cX0_count 2 = .ok (.iconst 0, 1) := dk_3 (dk_at dksX0_count_0 2 rfl rfl)
theorem dX0_count_3 : decode cX0_count 3 = .ok (.aload_n 0, 1) := dk_42 (dk_at dksX0_count_0 3 rfl rfl)
theorem dX0_count_4 : decode cX0_count 4 = .ok (.iload_n 1, 1) := dk_27 (dk_at dksX0_count_0 4 rfl rfl)
theorem dX0_count_5 : decode cX0_count 5 = .ok (.iload_n 2, 1) := dk_28 (dk_at dksX0_count_0 5 rfl rfl)
theorem dX0_count_6 : decode cX0_count 6 = .ok (.iload_n 3, 1) := dk_29 (dk_at dksX0_count_0 6 rfl rfl)
theorem dX0_count_7 : decode cX0_count 7 = .ok (.invokevirtual 62, 3) := dk_182 0 62 (dk_at dksX0_count_0 7 rfl rfl)
theorem dX0_count_10 : decode cX0_count 10 = .ok (.lastore, 1) := dk_80 (dk_at dksX0_count_0 10 rfl rfl)
theorem dX0_count_11 : decode cX0_count 11 = .ok (.goto 7, 3) := dk_167 0 7 (dk_at dksX0_count_0 11 rfl rfl)
theorem dX0_count_14 : decode cX0_count 14 = .ok (.astore 5, 2) := dk_58 5 (dk_at dksX0_count_0 14 rfl rfl)
theorem dX0_count_16 : decode cX0_count 16 = .ok (.iconst 1, 1) := dk_4 (dk_at dksX0_count_0 16 rfl rfl)
theorem dX0_count_17 : decode cX0_count 17 = .ok (.ireturn, 1) := dk_172 (dk_at dksX0_count_0 17 rfl rfl)
theorem dX0_count_18 : decode cX0_count 18 = .ok (.iconst 0, 1) := dk_3 (dk_at dksX0_count_0 18 rfl rfl)
theorem dX0_count_19 : decode cX0_count 19 = .ok (.ireturn, 1) := dk_172 (dk_at dksX0_count_0 19 rfl rfl)
abbrev cX0_span : ByteArray := method_16_code
def yX0_span : MethodName := ⟨RX0, "span", "(LLetterForms;III[J)I"⟩
def dkwX0_span_0 : List UInt8 := [25, 4, 3, 42, 27, 28, 29, 182, 0, 66, 133, 80, 167, 0, 7, 58, 5, 4, 172, 3, 172]
abbrev dktX0_span_0 : List UInt8 := dkwX0_span_0 ++ []
theorem dksX0_span_0 : cX0_span.data.toList.drop 0 = dktX0_span_0 := by decide +kernel
theorem dX0_span_0 : decode cX0_span 0 = .ok (.aload 4, 2) := dk_25 4 (dk_at dksX0_span_0 0 rfl rfl)
theorem dX0_span_2 : decode cX0_span 2 = .ok (.iconst 0, 1) := dk_3 (dk_at dksX0_span_0 2 rfl rfl)
theorem dX0_span_3 : decode cX0_span 3 = .ok (.aload_n 0, 1) := dk_42 (dk_at dksX0_span_0 3 rfl rfl)
theorem dX0_span_4 : decode cX0_span 4 = .ok (.iload_n 1, 1) := dk_27 (dk_at dksX0_span_0 4 rfl rfl)
theorem dX0_span_5 : decode cX0_span 5 = .ok (.iload_n 2, 1) := dk_28 (dk_at dksX0_span_0 5 rfl rfl)
theorem dX0_span_6 : decode cX0_span 6 = .ok (.iload_n 3, 1) := dk_29 (dk_at dksX0_span_0 6 rfl rfl)
theorem dX0_span_7 : decode cX0_span 7 = .ok (.invokevirtual 66, 3) := dk_182 0 66 (dk_at dksX0_span_0 7 rfl rfl)
theorem dX0_span_10 : decode cX0_span 10 = .ok (.i2l, 1) := dk_133 (dk_at dksX0_span_0 10 rfl rfl)
theorem dX0_span_11 : decode cX0_span 11 = .ok (.lastore, 1) := dk_80 (dk_at dksX0_span_0 11 rfl rfl)
theorem dX0_span_12 : decode cX0_span 12 = .ok (.goto 7, 3) := dk_167 0 7 (dk_at dksX0_span_0 12 rfl rfl)
theorem dX0_span_15 : decode cX0_span 15 = .ok (.astore 5, 2) := dk_58 5 (dk_at dksX0_span_0 15 rfl rfl)
theorem dX0_span_17 : decode cX0_span 17 = .ok (.iconst 1, 1) := dk_4 (dk_at dksX0_span_0 17 rfl rfl)
theorem dX0_span_18 : decode cX0_span 18 = .ok (.ireturn, 1) := dk_172 (dk_at dksX0_span_0 18 rfl rfl)
theorem dX0_span_19 : decode cX0_span 19 = .ok (.iconst 0, 1) := dk_3 (dk_at dksX0_span_0 19 rfl rfl)
theorem dX0_span_20 : decode cX0_span 20 = .ok (.ireturn, 1) := dk_172 (dk_at dksX0_span_0 20 rfl rfl)
abbrev cX0_basis : ByteArray := method_17_code
def yX0_basis : MethodName := ⟨RX0, "basis", "(LLetterForms;III[J)I"⟩
def dkwX0_basis_0 : List UInt8 := [25, 4, 3, 42, 27, 28, 29, 182, 0, 69, 133, 80, 167, 0, 7, 58, 5, 4, 172, 3, 172]
abbrev dktX0_basis_0 : List UInt8 := dkwX0_basis_0 ++ []
theorem dksX0_basis_0 : cX0_basis.data.toList.drop 0 = dktX0_basis_0 := by decide +kernel
theorem dX0_basis_0 : decode cX0_basis 0 = .ok (.aload 4, 2) := dk_25 4 (dk_at dksX0_basis_0 0 rfl rfl)
theorem dX0_basis_2 : decode cX0_basis 2 = .ok (.iconst 0, 1) := dk_3 (dk_at dksX0_basis_0 2 rfl rfl)
theorem dX0_basis_3 : decode cX0_basis 3 = .ok (.aload_n 0, 1) := dk_42 (dk_at dksX0_basis_0 3 rfl rfl)
theorem dX0_basis_4 : decode cX0_basis 4 = .ok (.iload_n 1, 1) := dk_27 (dk_at dksX0_basis_0 4 rfl rfl)
theorem dX0_basis_5 : decode cX0_basis 5 = .ok (.iload_n 2, 1) := dk_28 (dk_at dksX0_basis_0 5 rfl rfl)
theorem dX0_basis_6 : decode cX0_basis 6 = .ok (.iload_n 3, 1) := dk_29 (dk_at dksX0_basis_0 6 rfl rfl)
theorem dX0_basis_7 : decode cX0_basis 7 = .ok (.invokevirtual 69, 3) := dk_182 0 69 (dk_at dksX0_basis_0 7 rfl rfl)
theorem dX0_basis_10 : decode cX0_basis 10 = .ok (.i2l, 1) := dk_133 (dk_at dksX0_basis_0 10 rfl rfl)
theorem dX0_basis_11 : decode cX0_basis 11 = .ok (.lastore, 1) := dk_80 (dk_at dksX0_basis_0 11 rfl rfl)
theorem dX0_basis_12 : decode cX0_basis 12 = .ok (.goto 7, 3) := dk_167 0 7 (dk_at dksX0_basis_0 12 rfl rfl)
theorem dX0_basis_15 : decode cX0_basis 15 = .ok (.astore 5, 2) := dk_58 5 (dk_at dksX0_basis_0 15 rfl rfl)
theorem dX0_basis_17 : decode cX0_basis 17 = .ok (.iconst 1, 1) := dk_4 (dk_at dksX0_basis_0 17 rfl rfl)
theorem dX0_basis_18 : decode cX0_basis 18 = .ok (.ireturn, 1) := dk_172 (dk_at dksX0_basis_0 18 rfl rfl)
theorem dX0_basis_19 : decode cX0_basis 19 = .ok (.iconst 0, 1) := dk_3 (dk_at dksX0_basis_0 19 rfl rfl)
theorem dX0_basis_20 : decode cX0_basis 20 = .ok (.ireturn, 1) := dk_172 (dk_at dksX0_basis_0 20 rfl rfl)
abbrev cX0_kind : ByteArray := method_18_code
def yX0_kind : MethodName := ⟨RX0, "kind", "(LLetterForms;I[J)I"⟩
def dkwX0_kind_0 : List UInt8 := [44, 3, 42, 27, 182, 0, 72, 133, 80, 167, 0, 6, 78, 4, 172, 3, 172]
abbrev dktX0_kind_0 : List UInt8 := dkwX0_kind_0 ++ []
theorem dksX0_kind_0 : cX0_kind.data.toList.drop 0 = dktX0_kind_0 := by decide +kernel
theorem dX0_kind_0 : decode cX0_kind 0 = .ok (.aload_n 2, 1) := dk_44 (dk_at dksX0_kind_0 0 rfl rfl)
theorem dX0_kind_1 : decode cX0_kind 1 = .ok (.iconst 0, 1) := dk_3 (dk_at dksX0_kind_0 1 rfl rfl)
theorem dX0_kind_2 : decode cX0_kind 2 = .ok (.aload_n 0, 1) := dk_42 (dk_at dksX0_kind_0 2 rfl rfl)
theorem dX0_kind_3 : decode cX0_kind 3 = .ok (.iload_n 1, 1) := dk_27 (dk_at dksX0_kind_0 3 rfl rfl)
theorem dX0_kind_4 : decode cX0_kind 4 = .ok (.invokevirtual 72, 3) := dk_182 0 72 (dk_at dksX0_kind_0 4 rfl rfl)
theorem dX0_kind_7 : decode cX0_kind 7 = .ok (.i2l, 1) := dk_133 (dk_at dksX0_kind_0 7 rfl rfl)
theorem dX0_kind_8 : decode cX0_kind 8 = .ok (.lastore, 1) := dk_80 (dk_at dksX0_kind_0 8 rfl rfl)
theorem dX0_kind_9 : decode cX0_kind 9 = .ok (.goto 6, 3) := dk_167 0 6 (dk_at dksX0_kind_0 9 rfl rfl)
theorem dX0_kind_12 : decode cX0_kind 12 = .ok (.astore_n 3, 1) := dk_78 (dk_at dksX0_kind_0 12 rfl rfl)
theorem dX0_kind_13 : decode cX0_kind 13 = .ok (.iconst 1, 1) := dk_4 (dk_at dksX0_kind_0 13 rfl rfl)
theorem dX0_kind_14 : decode cX0_kind 14 = .ok (.ireturn, 1) := dk_172 (dk_at dksX0_kind_0 14 rfl rfl)
theorem dX0_kind_15 : decode cX0_kind 15 = .ok (.iconst 0, 1) := dk_3 (dk_at dksX0_kind_0 15 rfl rfl)
theorem dX0_kind_16 : decode cX0_kind 16 = .ok (.ireturn, 1) := dk_172 (dk_at dksX0_kind_0 16 rfl rfl)
abbrev cX0_orbit : ByteArray := method_19_code
def yX0_orbit : MethodName := ⟨RX0, "orbit", "(LLetterForms;I[J)I"⟩
def dkwX0_orbit_0 : List UInt8 := [44, 3, 42, 27, 182, 0, 75, 133, 80, 167, 0, 6, 78, 4, 172, 3, 172]
abbrev dktX0_orbit_0 : List UInt8 := dkwX0_orbit_0 ++ []
theorem dksX0_orbit_0 : cX0_orbit.data.toList.drop 0 = dktX0_orbit_0 := by decide +kernel
theorem dX0_orbit_0 : decode cX0_orbit 0 = .ok (.aload_n 2, 1) := dk_44 (dk_at dksX0_orbit_0 0 rfl rfl)
theorem dX0_orbit_1 : decode cX0_orbit 1 = .ok (.iconst 0, 1) := dk_3 (dk_at dksX0_orbit_0 1 rfl rfl)
theorem dX0_orbit_2 : decode cX0_orbit 2 = .ok (.aload_n 0, 1) := dk_42 (dk_at dksX0_orbit_0 2 rfl rfl)
theorem dX0_orbit_3 : decode cX0_orbit 3 = .ok (.iload_n 1, 1) := dk_27 (dk_at dksX0_orbit_0 3 rfl rfl)
theorem dX0_orbit_4 : decode cX0_orbit 4 = .ok (.invokevirtual 75, 3) := dk_182 0 75 (dk_at dksX0_orbit_0 4 rfl rfl)
theorem dX0_orbit_7 : decode cX0_orbit 7 = .ok (.i2l, 1) := dk_133 (dk_at dksX0_orbit_0 7 rfl rfl)
theorem dX0_orbit_8 : decode cX0_orbit 8 = .ok (.lastore, 1) := dk_80 (dk_at dksX0_orbit_0 8 rfl rfl)
theorem dX0_orbit_9 : decode cX0_orbit 9 = .ok (.goto 6, 3) := dk_167 0 6 (dk_at dksX0_orbit_0 9 rfl rfl)
theorem dX0_orbit_12 : decode cX0_orbit 12 = .ok (.astore_n 3, 1) := dk_78 (dk_at dksX0_orbit_0 12 rfl rfl)
theorem dX0_orbit_13 : decode cX0_orbit 13 = .ok (.iconst 1, 1) := dk_4 (dk_at dksX0_orbit_0 13 rfl rfl)
theorem dX0_orbit_14 : decode cX0_orbit 14 = .ok (.ireturn, 1) := dk_172 (dk_at dksX0_orbit_0 14 rfl rfl)
theorem dX0_orbit_15 : decode cX0_orbit 15 = .ok (.iconst 0, 1) := dk_3 (dk_at dksX0_orbit_0 15 rfl rfl)
theorem dX0_orbit_16 : decode cX0_orbit 16 = .ok (.ireturn, 1) := dk_172 (dk_at dksX0_orbit_0 16 rfl rfl)
abbrev cX0_join : ByteArray := method_20_code
def yX0_join : MethodName := ⟨RX0, "join", "(LLetterForms;II[J)I"⟩
def dkwX0_join_0 : List UInt8 := [45, 3, 42, 27, 28, 182, 0, 78, 133, 80, 167, 0, 11, 58, 4, 4, 172, 58, 4, 5, 172, 3, 172]
abbrev dktX0_join_0 : List UInt8 := dkwX0_join_0 ++ []
theorem dksX0_join_0 : cX0_join.data.toList.drop 0 = dktX0_join_0 := by decide +kernel
theorem dX0_join_0 : decode cX0_join 0 = .ok (.aload_n 3, 1) := dk_45 (dk_at dksX0_join_0 0 rfl rfl)
theorem dX0_join_1 : decode cX0_join 1 = .ok (.iconst 0, 1) := dk_3 (dk_at dksX0_join_0 1 rfl rfl)
theorem dX0_join_2 : decode cX0_join 2 = .ok (.aload_n 0, 1) := dk_42 (dk_at dksX0_join_0 2 rfl rfl)
theorem dX0_join_3 : decode cX0_join 3 = .ok (.iload_n 1, 1) := dk_27 (dk_at dksX0_join_0 3 rfl rfl)
theorem dX0_join_4 : decode cX0_join 4 = .ok (.iload_n 2, 1) := dk_28 (dk_at dksX0_join_0 4 rfl rfl)
theorem dX0_join_5 : decode cX0_join 5 = .ok (.invokevirtual 78, 3) := dk_182 0 78 (dk_at dksX0_join_0 5 rfl rfl)
theorem dX0_join_8 : decode cX0_join 8 = .ok (.i2l, 1) := dk_133 (dk_at dksX0_join_0 8 rfl rfl)
theorem dX0_join_9 : decode cX0_join 9 = .ok (.lastore, 1) := dk_80 (dk_at dksX0_join_0 9 rfl rfl)
theorem dX0_join_10 : decode cX0_join 10 = .ok (.goto 11, 3) := dk_167 0 11 (dk_at dksX0_join_0 10 rfl rfl)
theorem dX0_join_13 : decode cX0_join 13 = .ok (.astore 4, 2) := dk_58 4 (dk_at dksX0_join_0 13 rfl rfl)
theorem dX0_join_15 : decode cX0_join 15 = .ok (.iconst 1, 1) := dk_4 (dk_at dksX0_join_0 15 rfl rfl)
theorem dX0_join_16 : decode cX0_join 16 = .ok (.ireturn, 1) := dk_172 (dk_at dksX0_join_0 16 rfl rfl)
theorem dX0_join_17 : decode cX0_join 17 = .ok (.astore 4, 2) := dk_58 4 (dk_at dksX0_join_0 17 rfl rfl)
theorem dX0_join_19 : decode cX0_join 19 = .ok (.iconst 2, 1) := dk_5 (dk_at dksX0_join_0 19 rfl rfl)
theorem dX0_join_20 : decode cX0_join 20 = .ok (.ireturn, 1) := dk_172 (dk_at dksX0_join_0 20 rfl rfl)
theorem dX0_join_21 : decode cX0_join 21 = .ok (.iconst 0, 1) := dk_3 (dk_at dksX0_join_0 21 rfl rfl)
theorem dX0_join_22 : decode cX0_join 22 = .ok (.ireturn, 1) := dk_172 (dk_at dksX0_join_0 22 rfl rfl)
abbrev cX0_turn : ByteArray := method_21_code
def yX0_turn : MethodName := ⟨RX0, "turn", "(LLetterForms;I[J)I"⟩
def dkwX0_turn_0 : List UInt8 := [44, 3, 42, 27, 182, 0, 81, 133, 80, 167, 0, 9, 78, 4, 172, 78, 5, 172, 3, 172]
abbrev dktX0_turn_0 : List UInt8 := dkwX0_turn_0 ++ []
theorem dksX0_turn_0 : cX0_turn.data.toList.drop 0 = dktX0_turn_0 := by decide +kernel
theorem dX0_turn_0 : decode cX0_turn 0 = .ok (.aload_n 2, 1) := dk_44 (dk_at dksX0_turn_0 0 rfl rfl)
theorem dX0_turn_1 : decode cX0_turn 1 = .ok (.iconst 0, 1) := dk_3 (dk_at dksX0_turn_0 1 rfl rfl)
theorem dX0_turn_2 : decode cX0_turn 2 = .ok (.aload_n 0, 1) := dk_42 (dk_at dksX0_turn_0 2 rfl rfl)
theorem dX0_turn_3 : decode cX0_turn 3 = .ok (.iload_n 1, 1) := dk_27 (dk_at dksX0_turn_0 3 rfl rfl)
theorem dX0_turn_4 : decode cX0_turn 4 = .ok (.invokevirtual 81, 3) := dk_182 0 81 (dk_at dksX0_turn_0 4 rfl rfl)
theorem dX0_turn_7 : decode cX0_turn 7 = .ok (.i2l, 1) := dk_133 (dk_at dksX0_turn_0 7 rfl rfl)
theorem dX0_turn_8 : decode cX0_turn 8 = .ok (.lastore, 1) := dk_80 (dk_at dksX0_turn_0 8 rfl rfl)
theorem dX0_turn_9 : decode cX0_turn 9 = .ok (.goto 9, 3) := dk_167 0 9 (dk_at dksX0_turn_0 9 rfl rfl)
theorem dX0_turn_12 : decode cX0_turn 12 = .ok (.astore_n 3, 1) := dk_78 (dk_at dksX0_turn_0 12 rfl rfl)
theorem dX0_turn_13 : decode cX0_turn 13 = .ok (.iconst 1, 1) := dk_4 (dk_at dksX0_turn_0 13 rfl rfl)
theorem dX0_turn_14 : decode cX0_turn 14 = .ok (.ireturn, 1) := dk_172 (dk_at dksX0_turn_0 14 rfl rfl)
theorem dX0_turn_15 : decode cX0_turn 15 = .ok (.astore_n 3, 1) := dk_78 (dk_at dksX0_turn_0 15 rfl rfl)
theorem dX0_turn_16 : decode cX0_turn 16 = .ok (.iconst 2, 1) := dk_5 (dk_at dksX0_turn_0 16 rfl rfl)
theorem dX0_turn_17 : decode cX0_turn 17 = .ok (.ireturn, 1) := dk_172 (dk_at dksX0_turn_0 17 rfl rfl)
theorem dX0_turn_18 : decode cX0_turn 18 = .ok (.iconst 0, 1) := dk_3 (dk_at dksX0_turn_0 18 rfl rfl)
theorem dX0_turn_19 : decode cX0_turn 19 = .ok (.ireturn, 1) := dk_172 (dk_at dksX0_turn_0 19 rfl rfl)
abbrev cX0_told : ByteArray := method_22_code
def yX0_told : MethodName := ⟨RX0, "told", "(LLetterForms;II[J)I"⟩
def dkwX0_told_0 : List UInt8 := [45, 3, 42, 27, 28, 182, 0, 84, 133, 80, 167, 0, 7, 58, 4, 4, 172, 3, 172]
abbrev dktX0_told_0 : List UInt8 := dkwX0_told_0 ++ []
theorem dksX0_told_0 : cX0_told.data.toList.drop 0 = dktX0_told_0 := by decide +kernel
theorem dX0_told_0 : decode cX0_told 0 = .ok (.aload_n 3, 1) := dk_45 (dk_at dksX0_told_0 0 rfl rfl)
theorem dX0_told_1 : decode cX0_told 1 = .ok (.iconst 0, 1) := dk_3 (dk_at dksX0_told_0 1 rfl rfl)
theorem dX0_told_2 : decode cX0_told 2 = .ok (.aload_n 0, 1) := dk_42 (dk_at dksX0_told_0 2 rfl rfl)
theorem dX0_told_3 : decode cX0_told 3 = .ok (.iload_n 1, 1) := dk_27 (dk_at dksX0_told_0 3 rfl rfl)
theorem dX0_told_4 : decode cX0_told 4 = .ok (.iload_n 2, 1) := dk_28 (dk_at dksX0_told_0 4 rfl rfl)
theorem dX0_told_5 : decode cX0_told 5 = .ok (.invokevirtual 84, 3) := dk_182 0 84 (dk_at dksX0_told_0 5 rfl rfl)
theorem dX0_told_8 : decode cX0_told 8 = .ok (.i2l, 1) := dk_133 (dk_at dksX0_told_0 8 rfl rfl)
theorem dX0_told_9 : decode cX0_told 9 = .ok (.lastore, 1) := dk_80 (dk_at dksX0_told_0 9 rfl rfl)
theorem dX0_told_10 : decode cX0_told 10 = .ok (.goto 7, 3) := dk_167 0 7 (dk_at dksX0_told_0 10 rfl rfl)
theorem dX0_told_13 : decode cX0_told 13 = .ok (.astore 4, 2) := dk_58 4 (dk_at dksX0_told_0 13 rfl rfl)
theorem dX0_told_15 : decode cX0_told 15 = .ok (.iconst 1, 1) := dk_4 (dk_at dksX0_told_0 15 rfl rfl)
theorem dX0_told_16 : decode cX0_told 16 = .ok (.ireturn, 1) := dk_172 (dk_at dksX0_told_0 16 rfl rfl)
theorem dX0_told_17 : decode cX0_told 17 = .ok (.iconst 0, 1) := dk_3 (dk_at dksX0_told_0 17 rfl rfl)
theorem dX0_told_18 : decode cX0_told 18 = .ok (.ireturn, 1) := dk_172 (dk_at dksX0_told_0 18 rfl rfl)
abbrev cX0_quotient : ByteArray := method_23_code
def yX0_quotient : MethodName := ⟨RX0, "quotient", "(LLetterForms;III[J)I"⟩
def dkwX0_quotient_0 : List UInt8 := [25, 4, 3, 42, 27, 28, 29, 182, 0, 87, 133, 80, 167, 0, 7, 58, 5, 4, 172, 3, 172]
abbrev dktX0_quotient_0 : List UInt8 := dkwX0_quotient_0 ++ []
theorem dksX0_quotient_0 : cX0_quotient.data.toList.drop 0 = dktX0_quotient_0 := by decide +kernel
theorem dX0_quotient_0 : decode cX0_quotient 0 = .ok (.aload 4, 2) := dk_25 4 (dk_at dksX0_quotient_0 0 rfl rfl)
theorem dX0_quotient_2 : decode cX0_quotient 2 = .ok (.iconst 0, 1) := dk_3 (dk_at dksX0_quotient_0 2 rfl rfl)
theorem dX0_quotient_3 : decode cX0_quotient 3 = .ok (.aload_n 0, 1) := dk_42 (dk_at dksX0_quotient_0 3 rfl rfl)
theorem dX0_quotient_4 : decode cX0_quotient 4 = .ok (.iload_n 1, 1) := dk_27 (dk_at dksX0_quotient_0 4 rfl rfl)
theorem dX0_quotient_5 : decode cX0_quotient 5 = .ok (.iload_n 2, 1) := dk_28 (dk_at dksX0_quotient_0 5 rfl rfl)
theorem dX0_quotient_6 : decode cX0_quotient 6 = .ok (.iload_n 3, 1) := dk_29 (dk_at dksX0_quotient_0 6 rfl rfl)
theorem dX0_quotient_7 : decode cX0_quotient 7 = .ok (.invokevirtual 87, 3) := dk_182 0 87 (dk_at dksX0_quotient_0 7 rfl rfl)
theorem dX0_quotient_10 : decode cX0_quotient 10 = .ok (.i2l, 1) := dk_133 (dk_at dksX0_quotient_0 10 rfl rfl)
theorem dX0_quotient_11 : decode cX0_quotient 11 = .ok (.lastore, 1) := dk_80 (dk_at dksX0_quotient_0 11 rfl rfl)
theorem dX0_quotient_12 : decode cX0_quotient 12 = .ok (.goto 7, 3) := dk_167 0 7 (dk_at dksX0_quotient_0 12 rfl rfl)
theorem dX0_quotient_15 : decode cX0_quotient 15 = .ok (.astore 5, 2) := dk_58 5 (dk_at dksX0_quotient_0 15 rfl rfl)
theorem dX0_quotient_17 : decode cX0_quotient 17 = .ok (.iconst 1, 1) := dk_4 (dk_at dksX0_quotient_0 17 rfl rfl)
theorem dX0_quotient_18 : decode cX0_quotient 18 = .ok (.ireturn, 1) := dk_172 (dk_at dksX0_quotient_0 18 rfl rfl)
theorem dX0_quotient_19 : decode cX0_quotient 19 = .ok (.iconst 0, 1) := dk_3 (dk_at dksX0_quotient_0 19 rfl rfl)
theorem dX0_quotient_20 : decode cX0_quotient 20 = .ok (.ireturn, 1) := dk_172 (dk_at dksX0_quotient_0 20 rfl rfl)
abbrev cX0_plain : ByteArray := method_24_code
def yX0_plain : MethodName := ⟨RX0, "plain", "(LLetterForms;I[J)I"⟩
def dkwX0_plain_0 : List UInt8 := [44, 3, 42, 27, 182, 0, 90, 153, 0, 7, 10, 167, 0, 4, 9, 80, 167, 0, 6, 78, 4, 172, 3, 172]
abbrev dktX0_plain_0 : List UInt8 := dkwX0_plain_0 ++ []
theorem dksX0_plain_0 : cX0_plain.data.toList.drop 0 = dktX0_plain_0 := by decide +kernel
theorem dX0_plain_0 : decode cX0_plain 0 = .ok (.aload_n 2, 1) := dk_44 (dk_at dksX0_plain_0 0 rfl rfl)
theorem dX0_plain_1 : decode cX0_plain 1 = .ok (.iconst 0, 1) := dk_3 (dk_at dksX0_plain_0 1 rfl rfl)
theorem dX0_plain_2 : decode cX0_plain 2 = .ok (.aload_n 0, 1) := dk_42 (dk_at dksX0_plain_0 2 rfl rfl)
theorem dX0_plain_3 : decode cX0_plain 3 = .ok (.iload_n 1, 1) := dk_27 (dk_at dksX0_plain_0 3 rfl rfl)
theorem dX0_plain_4 : decode cX0_plain 4 = .ok (.invokevirtual 90, 3) := dk_182 0 90 (dk_at dksX0_plain_0 4 rfl rfl)
theorem dX0_plain_7 : decode cX0_plain 7 = .ok (.ifCond .eq 7, 3) := dk_153 0 7 (dk_at dksX0_plain_0 7 rfl rfl)
theorem dX0_plain_10 : decode cX0_plain 10 = .ok (.lconst 1, 1) := dk_10 (dk_at dksX0_plain_0 10 rfl rfl)
theorem dX0_plain_11 : decode cX0_plain 11 = .ok (.goto 4, 3) := dk_167 0 4 (dk_at dksX0_plain_0 11 rfl rfl)
theorem dX0_plain_14 : decode cX0_plain 14 = .ok (.lconst 0, 1) := dk_9 (dk_at dksX0_plain_0 14 rfl rfl)
theorem dX0_plain_15 : decode cX0_plain 15 = .ok (.lastore, 1) := dk_80 (dk_at dksX0_plain_0 15 rfl rfl)
theorem dX0_plain_16 : decode cX0_plain 16 = .ok (.goto 6, 3) := dk_167 0 6 (dk_at dksX0_plain_0 16 rfl rfl)
theorem dX0_plain_19 : decode cX0_plain 19 = .ok (.astore_n 3, 1) := dk_78 (dk_at dksX0_plain_0 19 rfl rfl)
theorem dX0_plain_20 : decode cX0_plain 20 = .ok (.iconst 1, 1) := dk_4 (dk_at dksX0_plain_0 20 rfl rfl)
theorem dX0_plain_21 : decode cX0_plain 21 = .ok (.ireturn, 1) := dk_172 (dk_at dksX0_plain_0 21 rfl rfl)
theorem dX0_plain_22 : decode cX0_plain 22 = .ok (.iconst 0, 1) := dk_3 (dk_at dksX0_plain_0 22 rfl rfl)
theorem dX0_plain_23 : decode cX0_plain 23 = .ok (.ireturn, 1) := dk_172 (dk_at dksX0_plain_0 23 rfl rfl)
abbrev cX0_root : ByteArray := method_25_code
def yX0_root : MethodName := ⟨RX0, "root", "(LLetterForms;II[J)I"⟩
def dkwX0_root_0 : List UInt8 := [45, 3, 42, 27, 28, 182, 0, 94, 133, 80, 167, 0, 11, 58, 4, 4, 172, 58, 4, 5, 172, 3, 172]
abbrev dktX0_root_0 : List UInt8 := dkwX0_root_0 ++ []
theorem dksX0_root_0 : cX0_root.data.toList.drop 0 = dktX0_root_0 := by decide +kernel
theorem dX0_root_0 : decode cX0_root 0 = .ok (.aload_n 3, 1) := dk_45 (dk_at dksX0_root_0 0 rfl rfl)
theorem dX0_root_1 : decode cX0_root 1 = .ok (.iconst 0, 1) := dk_3 (dk_at dksX0_root_0 1 rfl rfl)
theorem dX0_root_2 : decode cX0_root 2 = .ok (.aload_n 0, 1) := dk_42 (dk_at dksX0_root_0 2 rfl rfl)
theorem dX0_root_3 : decode cX0_root 3 = .ok (.iload_n 1, 1) := dk_27 (dk_at dksX0_root_0 3 rfl rfl)
theorem dX0_root_4 : decode cX0_root 4 = .ok (.iload_n 2, 1) := dk_28 (dk_at dksX0_root_0 4 rfl rfl)
theorem dX0_root_5 : decode cX0_root 5 = .ok (.invokevirtual 94, 3) := dk_182 0 94 (dk_at dksX0_root_0 5 rfl rfl)
theorem dX0_root_8 : decode cX0_root 8 = .ok (.i2l, 1) := dk_133 (dk_at dksX0_root_0 8 rfl rfl)
theorem dX0_root_9 : decode cX0_root 9 = .ok (.lastore, 1) := dk_80 (dk_at dksX0_root_0 9 rfl rfl)
theorem dX0_root_10 : decode cX0_root 10 = .ok (.goto 11, 3) := dk_167 0 11 (dk_at dksX0_root_0 10 rfl rfl)
theorem dX0_root_13 : decode cX0_root 13 = .ok (.astore 4, 2) := dk_58 4 (dk_at dksX0_root_0 13 rfl rfl)
theorem dX0_root_15 : decode cX0_root 15 = .ok (.iconst 1, 1) := dk_4 (dk_at dksX0_root_0 15 rfl rfl)
theorem dX0_root_16 : decode cX0_root 16 = .ok (.ireturn, 1) := dk_172 (dk_at dksX0_root_0 16 rfl rfl)
theorem dX0_root_17 : decode cX0_root 17 = .ok (.astore 4, 2) := dk_58 4 (dk_at dksX0_root_0 17 rfl rfl)
theorem dX0_root_19 : decode cX0_root 19 = .ok (.iconst 2, 1) := dk_5 (dk_at dksX0_root_0 19 rfl rfl)
theorem dX0_root_20 : decode cX0_root 20 = .ok (.ireturn, 1) := dk_172 (dk_at dksX0_root_0 20 rfl rfl)
theorem dX0_root_21 : decode cX0_root 21 = .ok (.iconst 0, 1) := dk_3 (dk_at dksX0_root_0 21 rfl rfl)
theorem dX0_root_22 : decode cX0_root 22 = .ok (.ireturn, 1) := dk_172 (dk_at dksX0_root_0 22 rfl rfl)
abbrev cX0_roots : ByteArray := method_26_code
def yX0_roots : MethodName := ⟨RX0, "roots", "(LLetterForms;I[J)I"⟩
def dkwX0_roots_0 : List UInt8 := [44, 3, 42, 27, 182, 0, 97, 133, 80, 167, 0, 6, 78, 4, 172, 3, 172]
abbrev dktX0_roots_0 : List UInt8 := dkwX0_roots_0 ++ []
theorem dksX0_roots_0 : cX0_roots.data.toList.drop 0 = dktX0_roots_0 := by decide +kernel
theorem dX0_roots_0 : decode cX0_roots 0 = .ok (.aload_n 2, 1) := dk_44 (dk_at dksX0_roots_0 0 rfl rfl)
theorem dX0_roots_1 : decode cX0_roots 1 = .ok (.iconst 0, 1) := dk_3 (dk_at dksX0_roots_0 1 rfl rfl)
theorem dX0_roots_2 : decode cX0_roots 2 = .ok (.aload_n 0, 1) := dk_42 (dk_at dksX0_roots_0 2 rfl rfl)
theorem dX0_roots_3 : decode cX0_roots 3 = .ok (.iload_n 1, 1) := dk_27 (dk_at dksX0_roots_0 3 rfl rfl)
theorem dX0_roots_4 : decode cX0_roots 4 = .ok (.invokevirtual 97, 3) := dk_182 0 97 (dk_at dksX0_roots_0 4 rfl rfl)
theorem dX0_roots_7 : decode cX0_roots 7 = .ok (.i2l, 1) := dk_133 (dk_at dksX0_roots_0 7 rfl rfl)
theorem dX0_roots_8 : decode cX0_roots 8 = .ok (.lastore, 1) := dk_80 (dk_at dksX0_roots_0 8 rfl rfl)
theorem dX0_roots_9 : decode cX0_roots 9 = .ok (.goto 6, 3) := dk_167 0 6 (dk_at dksX0_roots_0 9 rfl rfl)
theorem dX0_roots_12 : decode cX0_roots 12 = .ok (.astore_n 3, 1) := dk_78 (dk_at dksX0_roots_0 12 rfl rfl)
theorem dX0_roots_13 : decode cX0_roots 13 = .ok (.iconst 1, 1) := dk_4 (dk_at dksX0_roots_0 13 rfl rfl)
theorem dX0_roots_14 : decode cX0_roots 14 = .ok (.ireturn, 1) := dk_172 (dk_at dksX0_roots_0 14 rfl rfl)
theorem dX0_roots_15 : decode cX0_roots 15 = .ok (.iconst 0, 1) := dk_3 (dk_at dksX0_roots_0 15 rfl rfl)
theorem dX0_roots_16 : decode cX0_roots 16 = .ok (.ireturn, 1) := dk_172 (dk_at dksX0_roots_0 16 rfl rfl)
abbrev cX0_empty : ByteArray := method_27_code
def yX0_empty : MethodName := ⟨RX0, "empty", "(LLetterForms;I[J)I"⟩
def dkwX0_empty_0 : List UInt8 := [44, 3, 42, 27, 182, 0, 100, 153, 0, 7, 10, 167, 0, 4, 9, 80, 167, 0, 6, 78, 4, 172, 3, 172]
abbrev dktX0_empty_0 : List UInt8 := dkwX0_empty_0 ++ []
theorem dksX0_empty_0 : cX0_empty.data.toList.drop 0 = dktX0_empty_0 := by decide +kernel
theorem dX0_empty_0 : decode cX0_empty 0 = .ok (.aload_n 2, 1) := dk_44 (dk_at dksX0_empty_0 0 rfl rfl)
theorem dX0_empty_1 : decode cX0_empty 1 = .ok (.iconst 0, 1) := dk_3 (dk_at dksX0_empty_0 1 rfl rfl)
theorem dX0_empty_2 : decode cX0_empty 2 = .ok (.aload_n 0, 1) := dk_42 (dk_at dksX0_empty_0 2 rfl rfl)
theorem dX0_empty_3 : decode cX0_empty 3 = .ok (.iload_n 1, 1) := dk_27 (dk_at dksX0_empty_0 3 rfl rfl)
theorem dX0_empty_4 : decode cX0_empty 4 = .ok (.invokevirtual 100, 3) := dk_182 0 100 (dk_at dksX0_empty_0 4 rfl rfl)
theorem dX0_empty_7 : decode cX0_empty 7 = .ok (.ifCond .eq 7, 3) := dk_153 0 7 (dk_at dksX0_empty_0 7 rfl rfl)
theorem dX0_empty_10 : decode cX0_empty 10 = .ok (.lconst 1, 1) := dk_10 (dk_at dksX0_empty_0 10 rfl rfl)
theorem dX0_empty_11 : decode cX0_empty 11 = .ok (.goto 4, 3) := dk_167 0 4 (dk_at dksX0_empty_0 11 rfl rfl)
theorem dX0_empty_14 : decode cX0_empty 14 = .ok (.lconst 0, 1) := dk_9 (dk_at dksX0_empty_0 14 rfl rfl)
theorem dX0_empty_15 : decode cX0_empty 15 = .ok (.lastore, 1) := dk_80 (dk_at dksX0_empty_0 15 rfl rfl)
theorem dX0_empty_16 : decode cX0_empty 16 = .ok (.goto 6, 3) := dk_167 0 6 (dk_at dksX0_empty_0 16 rfl rfl)
theorem dX0_empty_19 : decode cX0_empty 19 = .ok (.astore_n 3, 1) := dk_78 (dk_at dksX0_empty_0 19 rfl rfl)
theorem dX0_empty_20 : decode cX0_empty 20 = .ok (.iconst 1, 1) := dk_4 (dk_at dksX0_empty_0 20 rfl rfl)
theorem dX0_empty_21 : decode cX0_empty 21 = .ok (.ireturn, 1) := dk_172 (dk_at dksX0_empty_0 21 rfl rfl)
theorem dX0_empty_22 : decode cX0_empty 22 = .ok (.iconst 0, 1) := dk_3 (dk_at dksX0_empty_0 22 rfl rfl)
theorem dX0_empty_23 : decode cX0_empty 23 = .ok (.ireturn, 1) := dk_172 (dk_at dksX0_empty_0 23 rfl rfl)
abbrev cX0_same : ByteArray := method_28_code
def yX0_same : MethodName := ⟨RX0, "same", "(LLetterForms;II[J)I"⟩
def dkwX0_same_0 : List UInt8 := [45, 3, 42, 27, 28, 182, 0, 103, 133, 80, 167, 0, 7, 58, 4, 4, 172, 3, 172]
abbrev dktX0_same_0 : List UInt8 := dkwX0_same_0 ++ []
theorem dksX0_same_0 : cX0_same.data.toList.drop 0 = dktX0_same_0 := by decide +kernel
theorem dX0_same_0 : decode cX0_same 0 = .ok (.aload_n 3, 1) := dk_45 (dk_at dksX0_same_0 0 rfl rfl)
theorem dX0_same_1 : decode cX0_same 1 = .ok (.iconst 0, 1) := dk_3 (dk_at dksX0_same_0 1 rfl rfl)
theorem dX0_same_2 : decode cX0_same 2 = .ok (.aload_n 0, 1) := dk_42 (dk_at dksX0_same_0 2 rfl rfl)
theorem dX0_same_3 : decode cX0_same 3 = .ok (.iload_n 1, 1) := dk_27 (dk_at dksX0_same_0 3 rfl rfl)
theorem dX0_same_4 : decode cX0_same 4 = .ok (.iload_n 2, 1) := dk_28 (dk_at dksX0_same_0 4 rfl rfl)
theorem dX0_same_5 : decode cX0_same 5 = .ok (.invokevirtual 103, 3) := dk_182 0 103 (dk_at dksX0_same_0 5 rfl rfl)
theorem dX0_same_8 : decode cX0_same 8 = .ok (.i2l, 1) := dk_133 (dk_at dksX0_same_0 8 rfl rfl)
theorem dX0_same_9 : decode cX0_same 9 = .ok (.lastore, 1) := dk_80 (dk_at dksX0_same_0 9 rfl rfl)
theorem dX0_same_10 : decode cX0_same 10 = .ok (.goto 7, 3) := dk_167 0 7 (dk_at dksX0_same_0 10 rfl rfl)
theorem dX0_same_13 : decode cX0_same 13 = .ok (.astore 4, 2) := dk_58 4 (dk_at dksX0_same_0 13 rfl rfl)
theorem dX0_same_15 : decode cX0_same 15 = .ok (.iconst 1, 1) := dk_4 (dk_at dksX0_same_0 15 rfl rfl)
theorem dX0_same_16 : decode cX0_same 16 = .ok (.ireturn, 1) := dk_172 (dk_at dksX0_same_0 16 rfl rfl)
theorem dX0_same_17 : decode cX0_same 17 = .ok (.iconst 0, 1) := dk_3 (dk_at dksX0_same_0 17 rfl rfl)
theorem dX0_same_18 : decode cX0_same 18 = .ok (.ireturn, 1) := dk_172 (dk_at dksX0_same_0 18 rfl rfl)
abbrev cX0_keep : ByteArray := method_29_code
def yX0_keep : MethodName := ⟨RX0, "keep", "(LLetterForms;I[J)I"⟩
def dkwX0_keep_0 : List UInt8 := [44, 3, 42, 27, 182, 0, 106, 133, 80, 167, 0, 6, 78, 4, 172, 3, 172]
abbrev dktX0_keep_0 : List UInt8 := dkwX0_keep_0 ++ []
theorem dksX0_keep_0 : cX0_keep.data.toList.drop 0 = dktX0_keep_0 := by decide +kernel
theorem dX0_keep_0 : decode cX0_keep 0 = .ok (.aload_n 2, 1) := dk_44 (dk_at dksX0_keep_0 0 rfl rfl)
theorem dX0_keep_1 : decode cX0_keep 1 = .ok (.iconst 0, 1) := dk_3 (dk_at dksX0_keep_0 1 rfl rfl)
theorem dX0_keep_2 : decode cX0_keep 2 = .ok (.aload_n 0, 1) := dk_42 (dk_at dksX0_keep_0 2 rfl rfl)
theorem dX0_keep_3 : decode cX0_keep 3 = .ok (.iload_n 1, 1) := dk_27 (dk_at dksX0_keep_0 3 rfl rfl)
theorem dX0_keep_4 : decode cX0_keep 4 = .ok (.invokevirtual 106, 3) := dk_182 0 106 (dk_at dksX0_keep_0 4 rfl rfl)
theorem dX0_keep_7 : decode cX0_keep 7 = .ok (.i2l, 1) := dk_133 (dk_at dksX0_keep_0 7 rfl rfl)
theorem dX0_keep_8 : decode cX0_keep 8 = .ok (.lastore, 1) := dk_80 (dk_at dksX0_keep_0 8 rfl rfl)
theorem dX0_keep_9 : decode cX0_keep 9 = .ok (.goto 6, 3) := dk_167 0 6 (dk_at dksX0_keep_0 9 rfl rfl)
theorem dX0_keep_12 : decode cX0_keep 12 = .ok (.astore_n 3, 1) := dk_78 (dk_at dksX0_keep_0 12 rfl rfl)
theorem dX0_keep_13 : decode cX0_keep 13 = .ok (.iconst 1, 1) := dk_4 (dk_at dksX0_keep_0 13 rfl rfl)
theorem dX0_keep_14 : decode cX0_keep 14 = .ok (.ireturn, 1) := dk_172 (dk_at dksX0_keep_0 14 rfl rfl)
theorem dX0_keep_15 : decode cX0_keep 15 = .ok (.iconst 0, 1) := dk_3 (dk_at dksX0_keep_0 15 rfl rfl)
theorem dX0_keep_16 : decode cX0_keep 16 = .ok (.ireturn, 1) := dk_172 (dk_at dksX0_keep_0 16 rfl rfl)
abbrev cX0_powers : ByteArray := method_30_code
def yX0_powers : MethodName := ⟨RX0, "powers", "(LLetterForms;II[J)I"⟩
def dkwX0_powers_0 : List UInt8 := [45, 3, 42, 27, 28, 182, 0, 109, 133, 80, 167, 0, 11, 58, 4, 4, 172, 58, 4, 5, 172, 3, 172]
abbrev dktX0_powers_0 : List UInt8 := dkwX0_powers_0 ++ []
theorem dksX0_powers_0 : cX0_powers.data.toList.drop 0 = dktX0_powers_0 := by decide +kernel
theorem dX0_powers_0 : decode cX0_powers 0 = .ok (.aload_n 3, 1) := dk_45 (dk_at dksX0_powers_0 0 rfl rfl)
theorem dX0_powers_1 : decode cX0_powers 1 = .ok (.iconst 0, 1) := dk_3 (dk_at dksX0_powers_0 1 rfl rfl)
theorem dX0_powers_2 : decode cX0_powers 2 = .ok (.aload_n 0, 1) := dk_42 (dk_at dksX0_powers_0 2 rfl rfl)
theorem dX0_powers_3 : decode cX0_powers 3 = .ok (.iload_n 1, 1) := dk_27 (dk_at dksX0_powers_0 3 rfl rfl)
theorem dX0_powers_4 : decode cX0_powers 4 = .ok (.iload_n 2, 1) := dk_28 (dk_at dksX0_powers_0 4 rfl rfl)
theorem dX0_powers_5 : decode cX0_powers 5 = .ok (.invokevirtual 109, 3) := dk_182 0 109 (dk_at dksX0_powers_0 5 rfl rfl)
theorem dX0_powers_8 : decode cX0_powers 8 = .ok (.i2l, 1) := dk_133 (dk_at dksX0_powers_0 8 rfl rfl)
theorem dX0_powers_9 : decode cX0_powers 9 = .ok (.lastore, 1) := dk_80 (dk_at dksX0_powers_0 9 rfl rfl)
theorem dX0_powers_10 : decode cX0_powers 10 = .ok (.goto 11, 3) := dk_167 0 11 (dk_at dksX0_powers_0 10 rfl rfl)
theorem dX0_powers_13 : decode cX0_powers 13 = .ok (.astore 4, 2) := dk_58 4 (dk_at dksX0_powers_0 13 rfl rfl)
theorem dX0_powers_15 : decode cX0_powers 15 = .ok (.iconst 1, 1) := dk_4 (dk_at dksX0_powers_0 15 rfl rfl)
theorem dX0_powers_16 : decode cX0_powers 16 = .ok (.ireturn, 1) := dk_172 (dk_at dksX0_powers_0 16 rfl rfl)
theorem dX0_powers_17 : decode cX0_powers 17 = .ok (.astore 4, 2) := dk_58 4 (dk_at dksX0_powers_0 17 rfl rfl)
theorem dX0_powers_19 : decode cX0_powers 19 = .ok (.iconst 2, 1) := dk_5 (dk_at dksX0_powers_0 19 rfl rfl)
theorem dX0_powers_20 : decode cX0_powers 20 = .ok (.ireturn, 1) := dk_172 (dk_at dksX0_powers_0 20 rfl rfl)
theorem dX0_powers_21 : decode cX0_powers 21 = .ok (.iconst 0, 1) := dk_3 (dk_at dksX0_powers_0 21 rfl rfl)
theorem dX0_powers_22 : decode cX0_powers 22 = .ok (.ireturn, 1) := dk_172 (dk_at dksX0_powers_0 22 rfl rfl)
abbrev cX0_common : ByteArray := method_31_code
def yX0_common : MethodName := ⟨RX0, "common", "(LLetterForms;III[J)I"⟩
def dkwX0_common_0 : List UInt8 := [25, 4, 3, 42, 27, 28, 29, 182, 0, 112, 133, 80, 167, 0, 7, 58, 5, 4, 172, 3, 172]
abbrev dktX0_common_0 : List UInt8 := dkwX0_common_0 ++ []
theorem dksX0_common_0 : cX0_common.data.toList.drop 0 = dktX0_common_0 := by decide +kernel
theorem dX0_common_0 : decode cX0_common 0 = .ok (.aload 4, 2) := dk_25 4 (dk_at dksX0_common_0 0 rfl rfl)
theorem dX0_common_2 : decode cX0_common 2 = .ok (.iconst 0, 1) := dk_3 (dk_at dksX0_common_0 2 rfl rfl)
theorem dX0_common_3 : decode cX0_common 3 = .ok (.aload_n 0, 1) := dk_42 (dk_at dksX0_common_0 3 rfl rfl)
theorem dX0_common_4 : decode cX0_common 4 = .ok (.iload_n 1, 1) := dk_27 (dk_at dksX0_common_0 4 rfl rfl)
theorem dX0_common_5 : decode cX0_common 5 = .ok (.iload_n 2, 1) := dk_28 (dk_at dksX0_common_0 5 rfl rfl)
theorem dX0_common_6 : decode cX0_common 6 = .ok (.iload_n 3, 1) := dk_29 (dk_at dksX0_common_0 6 rfl rfl)
theorem dX0_common_7 : decode cX0_common 7 = .ok (.invokevirtual 112, 3) := dk_182 0 112 (dk_at dksX0_common_0 7 rfl rfl)
theorem dX0_common_10 : decode cX0_common 10 = .ok (.i2l, 1) := dk_133 (dk_at dksX0_common_0 10 rfl rfl)
theorem dX0_common_11 : decode cX0_common 11 = .ok (.lastore, 1) := dk_80 (dk_at dksX0_common_0 11 rfl rfl)
theorem dX0_common_12 : decode cX0_common 12 = .ok (.goto 7, 3) := dk_167 0 7 (dk_at dksX0_common_0 12 rfl rfl)
theorem dX0_common_15 : decode cX0_common 15 = .ok (.astore 5, 2) := dk_58 5 (dk_at dksX0_common_0 15 rfl rfl)
theorem dX0_common_17 : decode cX0_common 17 = .ok (.iconst 1, 1) := dk_4 (dk_at dksX0_common_0 17 rfl rfl)
theorem dX0_common_18 : decode cX0_common 18 = .ok (.ireturn, 1) := dk_172 (dk_at dksX0_common_0 18 rfl rfl)
theorem dX0_common_19 : decode cX0_common 19 = .ok (.iconst 0, 1) := dk_3 (dk_at dksX0_common_0 19 rfl rfl)
theorem dX0_common_20 : decode cX0_common 20 = .ok (.ireturn, 1) := dk_172 (dk_at dksX0_common_0 20 rfl rfl)
abbrev cX0_overlap : ByteArray := method_32_code
def yX0_overlap : MethodName := ⟨RX0, "overlap", "(LLetterForms;IIII[J)I"⟩
def dkwX0_overlap_1 : List UInt8 := [172, 3, 172]
abbrev dktX0_overlap_1 : List UInt8 := dkwX0_overlap_1 ++ []
def dkwX0_overlap_0 : List UInt8 := [25, 5, 3, 42, 27, 28, 29, 21, 4, 182, 0, 115, 133, 80, 167, 0, 11, 58, 6, 4, 172, 58, 6, 5]
abbrev dktX0_overlap_0 : List UInt8 := dkwX0_overlap_0 ++ dktX0_overlap_1
theorem dksX0_overlap_0 : cX0_overlap.data.toList.drop 0 = dktX0_overlap_0 := by decide +kernel
theorem dksX0_overlap_1 : cX0_overlap.data.toList.drop 24 = dktX0_overlap_1 := dk_seg dksX0_overlap_0 24 rfl rfl
theorem dX0_overlap_0 : decode cX0_overlap 0 = .ok (.aload 5, 2) := dk_25 5 (dk_at dksX0_overlap_0 0 rfl rfl)
theorem dX0_overlap_2 : decode cX0_overlap 2 = .ok (.iconst 0, 1) := dk_3 (dk_at dksX0_overlap_0 2 rfl rfl)
theorem dX0_overlap_3 : decode cX0_overlap 3 = .ok (.aload_n 0, 1) := dk_42 (dk_at dksX0_overlap_0 3 rfl rfl)
theorem dX0_overlap_4 : decode cX0_overlap 4 = .ok (.iload_n 1, 1) := dk_27 (dk_at dksX0_overlap_0 4 rfl rfl)
theorem dX0_overlap_5 : decode cX0_overlap 5 = .ok (.iload_n 2, 1) := dk_28 (dk_at dksX0_overlap_0 5 rfl rfl)
theorem dX0_overlap_6 : decode cX0_overlap 6 = .ok (.iload_n 3, 1) := dk_29 (dk_at dksX0_overlap_0 6 rfl rfl)
theorem dX0_overlap_7 : decode cX0_overlap 7 = .ok (.iload 4, 2) := dk_21 4 (dk_at dksX0_overlap_0 7 rfl rfl)
theorem dX0_overlap_9 : decode cX0_overlap 9 = .ok (.invokevirtual 115, 3) := dk_182 0 115 (dk_at dksX0_overlap_0 9 rfl rfl)
theorem dX0_overlap_12 : decode cX0_overlap 12 = .ok (.i2l, 1) := dk_133 (dk_at dksX0_overlap_0 12 rfl rfl)
theorem dX0_overlap_13 : decode cX0_overlap 13 = .ok (.lastore, 1) := dk_80 (dk_at dksX0_overlap_0 13 rfl rfl)
theorem dX0_overlap_14 : decode cX0_overlap 14 = .ok (.goto 11, 3) := dk_167 0 11 (dk_at dksX0_overlap_0 14 rfl rfl)
theorem dX0_overlap_17 : decode cX0_overlap 17 = .ok (.astore 6, 2) := dk_58 6 (dk_at dksX0_overlap_0 17 rfl rfl)
theorem dX0_overlap_19 : decode cX0_overlap 19 = .ok (.iconst 1, 1) := dk_4 (dk_at dksX0_overlap_0 19 rfl rfl)
theorem dX0_overlap_20 : decode cX0_overlap 20 = .ok (.ireturn, 1) := dk_172 (dk_at dksX0_overlap_0 20 rfl rfl)
theorem dX0_overlap_21 : decode cX0_overlap 21 = .ok (.astore 6, 2) := dk_58 6 (dk_at dksX0_overlap_0 21 rfl rfl)
theorem dX0_overlap_23 : decode cX0_overlap 23 = .ok (.iconst 2, 1) := dk_5 (dk_at dksX0_overlap_0 23 rfl rfl)
theorem dX0_overlap_24 : decode cX0_overlap 24 = .ok (.ireturn, 1) := dk_172 (dk_at dksX0_overlap_1 0 rfl rfl)
theorem dX0_overlap_25 : decode cX0_overlap 25 = .ok (.iconst 0, 1) := dk_3 (dk_at dksX0_overlap_1 1 rfl rfl)
theorem dX0_overlap_26 : decode cX0_overlap 26 = .ok (.ireturn, 1) := dk_172 (dk_at dksX0_overlap_1 2 rfl rfl)
abbrev cX0_reduced : ByteArray := method_33_code
def yX0_reduced : MethodName := ⟨RX0, "reduced", "(LLetterForms;IIII[J)I"⟩
def dkwX0_reduced_1 : List UInt8 := [3, 172]
abbrev dktX0_reduced_1 : List UInt8 := dkwX0_reduced_1 ++ []
def dkwX0_reduced_0 : List UInt8 := [25, 5, 3, 42, 27, 28, 29, 21, 4, 182, 0, 118, 80, 167, 0, 11, 58, 6, 4, 172, 58, 6, 5, 172]
abbrev dktX0_reduced_0 : List UInt8 := dkwX0_reduced_0 ++ dktX0_reduced_1
theorem dksX0_reduced_0 : cX0_reduced.data.toList.drop 0 = dktX0_reduced_0 := by decide +kernel
theorem dksX0_reduced_1 : cX0_reduced.data.toList.drop 24 = dktX0_reduced_1 := dk_seg dksX0_reduced_0 24 rfl rfl
theorem dX0_reduced_0 : decode cX0_reduced 0 = .ok (.aload 5, 2) := dk_25 5 (dk_at dksX0_reduced_0 0 rfl rfl)
theorem dX0_reduced_2 : decode cX0_reduced 2 = .ok (.iconst 0, 1) := dk_3 (dk_at dksX0_reduced_0 2 rfl rfl)
theorem dX0_reduced_3 : decode cX0_reduced 3 = .ok (.aload_n 0, 1) := dk_42 (dk_at dksX0_reduced_0 3 rfl rfl)
theorem dX0_reduced_4 : decode cX0_reduced 4 = .ok (.iload_n 1, 1) := dk_27 (dk_at dksX0_reduced_0 4 rfl rfl)
theorem dX0_reduced_5 : decode cX0_reduced 5 = .ok (.iload_n 2, 1) := dk_28 (dk_at dksX0_reduced_0 5 rfl rfl)
theorem dX0_reduced_6 : decode cX0_reduced 6 = .ok (.iload_n 3, 1) := dk_29 (dk_at dksX0_reduced_0 6 rfl rfl)
theorem dX0_reduced_7 : decode cX0_reduced 7 = .ok (.iload 4, 2) := dk_21 4 (dk_at dksX0_reduced_0 7 rfl rfl)
theorem dX0_reduced_9 : decode cX0_reduced 9 = .ok (.invokevirtual 118, 3) := dk_182 0 118 (dk_at dksX0_reduced_0 9 rfl rfl)
theorem dX0_reduced_12 : decode cX0_reduced 12 = .ok (.lastore, 1) := dk_80 (dk_at dksX0_reduced_0 12 rfl rfl)
theorem dX0_reduced_13 : decode cX0_reduced 13 = .ok (.goto 11, 3) := dk_167 0 11 (dk_at dksX0_reduced_0 13 rfl rfl)
theorem dX0_reduced_16 : decode cX0_reduced 16 = .ok (.astore 6, 2) := dk_58 6 (dk_at dksX0_reduced_0 16 rfl rfl)
theorem dX0_reduced_18 : decode cX0_reduced 18 = .ok (.iconst 1, 1) := dk_4 (dk_at dksX0_reduced_0 18 rfl rfl)
theorem dX0_reduced_19 : decode cX0_reduced 19 = .ok (.ireturn, 1) := dk_172 (dk_at dksX0_reduced_0 19 rfl rfl)
theorem dX0_reduced_20 : decode cX0_reduced 20 = .ok (.astore 6, 2) := dk_58 6 (dk_at dksX0_reduced_0 20 rfl rfl)
theorem dX0_reduced_22 : decode cX0_reduced 22 = .ok (.iconst 2, 1) := dk_5 (dk_at dksX0_reduced_0 22 rfl rfl)
theorem dX0_reduced_23 : decode cX0_reduced 23 = .ok (.ireturn, 1) := dk_172 (dk_at dksX0_reduced_0 23 rfl rfl)
theorem dX0_reduced_24 : decode cX0_reduced 24 = .ok (.iconst 0, 1) := dk_3 (dk_at dksX0_reduced_1 0 rfl rfl)
theorem dX0_reduced_25 : decode cX0_reduced 25 = .ok (.ireturn, 1) := dk_172 (dk_at dksX0_reduced_1 1 rfl rfl)
abbrev cX0_classes : ByteArray := method_34_code
def yX0_classes : MethodName := ⟨RX0, "classes", "(LLetterForms;IZ[J)I"⟩
def dkwX0_classes_0 : List UInt8 := [45, 3, 42, 27, 28, 182, 0, 124, 133, 80, 167, 0, 7, 58, 4, 4, 172, 3, 172]
abbrev dktX0_classes_0 : List UInt8 := dkwX0_classes_0 ++ []
theorem dksX0_classes_0 : cX0_classes.data.toList.drop 0 = dktX0_classes_0 := by decide +kernel
theorem dX0_classes_0 : decode cX0_classes 0 = .ok (.aload_n 3, 1) := dk_45 (dk_at dksX0_classes_0 0 rfl rfl)
theorem dX0_classes_1 : decode cX0_classes 1 = .ok (.iconst 0, 1) := dk_3 (dk_at dksX0_classes_0 1 rfl rfl)
theorem dX0_classes_2 : decode cX0_classes 2 = .ok (.aload_n 0, 1) := dk_42 (dk_at dksX0_classes_0 2 rfl rfl)
theorem dX0_classes_3 : decode cX0_classes 3 = .ok (.iload_n 1, 1) := dk_27 (dk_at dksX0_classes_0 3 rfl rfl)
theorem dX0_classes_4 : decode cX0_classes 4 = .ok (.iload_n 2, 1) := dk_28 (dk_at dksX0_classes_0 4 rfl rfl)
theorem dX0_classes_5 : decode cX0_classes 5 = .ok (.invokevirtual 124, 3) := dk_182 0 124 (dk_at dksX0_classes_0 5 rfl rfl)
theorem dX0_classes_8 : decode cX0_classes 8 = .ok (.i2l, 1) := dk_133 (dk_at dksX0_classes_0 8 rfl rfl)
theorem dX0_classes_9 : decode cX0_classes 9 = .ok (.lastore, 1) := dk_80 (dk_at dksX0_classes_0 9 rfl rfl)
theorem dX0_classes_10 : decode cX0_classes 10 = .ok (.goto 7, 3) := dk_167 0 7 (dk_at dksX0_classes_0 10 rfl rfl)
theorem dX0_classes_13 : decode cX0_classes 13 = .ok (.astore 4, 2) := dk_58 4 (dk_at dksX0_classes_0 13 rfl rfl)
theorem dX0_classes_15 : decode cX0_classes 15 = .ok (.iconst 1, 1) := dk_4 (dk_at dksX0_classes_0 15 rfl rfl)
theorem dX0_classes_16 : decode cX0_classes 16 = .ok (.ireturn, 1) := dk_172 (dk_at dksX0_classes_0 16 rfl rfl)
theorem dX0_classes_17 : decode cX0_classes 17 = .ok (.iconst 0, 1) := dk_3 (dk_at dksX0_classes_0 17 rfl rfl)
theorem dX0_classes_18 : decode cX0_classes 18 = .ok (.ireturn, 1) := dk_172 (dk_at dksX0_classes_0 18 rfl rfl)
abbrev cX0_reducedAt : ByteArray := method_35_code
def yX0_reducedAt : MethodName := ⟨RX0, "reducedAt", "(LLetterForms;III[J)I"⟩
def dkwX0_reducedAt_1 : List UInt8 := [172]
abbrev dktX0_reducedAt_1 : List UInt8 := dkwX0_reducedAt_1 ++ []
def dkwX0_reducedAt_0 : List UInt8 := [25, 4, 3, 42, 27, 28, 29, 182, 0, 127, 133, 80, 167, 0, 11, 58, 5, 4, 172, 58, 5, 5, 172, 3]
abbrev dktX0_reducedAt_0 : List UInt8 := dkwX0_reducedAt_0 ++ dktX0_reducedAt_1
theorem dksX0_reducedAt_0 : cX0_reducedAt.data.toList.drop 0 = dktX0_reducedAt_0 := by decide +kernel
theorem dksX0_reducedAt_1 : cX0_reducedAt.data.toList.drop 24 = dktX0_reducedAt_1 := dk_seg dksX0_reducedAt_0 24 rfl rfl
theorem dX0_reducedAt_0 : decode cX0_reducedAt 0 = .ok (.aload 4, 2) := dk_25 4 (dk_at dksX0_reducedAt_0 0 rfl rfl)
theorem dX0_reducedAt_2 : decode cX0_reducedAt 2 = .ok (.iconst 0, 1) := dk_3 (dk_at dksX0_reducedAt_0 2 rfl rfl)
theorem dX0_reducedAt_3 : decode cX0_reducedAt 3 = .ok (.aload_n 0, 1) := dk_42 (dk_at dksX0_reducedAt_0 3 rfl rfl)
theorem dX0_reducedAt_4 : decode cX0_reducedAt 4 = .ok (.iload_n 1, 1) := dk_27 (dk_at dksX0_reducedAt_0 4 rfl rfl)
theorem dX0_reducedAt_5 : decode cX0_reducedAt 5 = .ok (.iload_n 2, 1) := dk_28 (dk_at dksX0_reducedAt_0 5 rfl rfl)
theorem dX0_reducedAt_6 : decode cX0_reducedAt 6 = .ok (.iload_n 3, 1) := dk_29 (dk_at dksX0_reducedAt_0 6 rfl rfl)
theorem dX0_reducedAt_7 : decode cX0_reducedAt 7 = .ok (.invokevirtual 127, 3) := dk_182 0 127 (dk_at dksX0_reducedAt_0 7 rfl rfl)
theorem dX0_reducedAt_10 : decode cX0_reducedAt 10 = .ok (.i2l, 1) := dk_133 (dk_at dksX0_reducedAt_0 10 rfl rfl)
theorem dX0_reducedAt_11 : decode cX0_reducedAt 11 = .ok (.lastore, 1) := dk_80 (dk_at dksX0_reducedAt_0 11 rfl rfl)
theorem dX0_reducedAt_12 : decode cX0_reducedAt 12 = .ok (.goto 11, 3) := dk_167 0 11 (dk_at dksX0_reducedAt_0 12 rfl rfl)
theorem dX0_reducedAt_15 : decode cX0_reducedAt 15 = .ok (.astore 5, 2) := dk_58 5 (dk_at dksX0_reducedAt_0 15 rfl rfl)
theorem dX0_reducedAt_17 : decode cX0_reducedAt 17 = .ok (.iconst 1, 1) := dk_4 (dk_at dksX0_reducedAt_0 17 rfl rfl)
theorem dX0_reducedAt_18 : decode cX0_reducedAt 18 = .ok (.ireturn, 1) := dk_172 (dk_at dksX0_reducedAt_0 18 rfl rfl)
theorem dX0_reducedAt_19 : decode cX0_reducedAt 19 = .ok (.astore 5, 2) := dk_58 5 (dk_at dksX0_reducedAt_0 19 rfl rfl)
theorem dX0_reducedAt_21 : decode cX0_reducedAt 21 = .ok (.iconst 2, 1) := dk_5 (dk_at dksX0_reducedAt_0 21 rfl rfl)
theorem dX0_reducedAt_22 : decode cX0_reducedAt 22 = .ok (.ireturn, 1) := dk_172 (dk_at dksX0_reducedAt_0 22 rfl rfl)
theorem dX0_reducedAt_23 : decode cX0_reducedAt 23 = .ok (.iconst 0, 1) := dk_3 (dk_at dksX0_reducedAt_0 23 rfl rfl)
theorem dX0_reducedAt_24 : decode cX0_reducedAt 24 = .ok (.ireturn, 1) := dk_172 (dk_at dksX0_reducedAt_1 0 rfl rfl)
abbrev cX0_real : ByteArray := method_36_code
def yX0_real : MethodName := ⟨RX0, "real", "(LLetterForms;IIIII[J)I"⟩
def dkwX0_real_1 : List UInt8 := [172]
abbrev dktX0_real_1 : List UInt8 := dkwX0_real_1 ++ []
def dkwX0_real_0 : List UInt8 := [25, 6, 3, 42, 27, 28, 29, 21, 4, 21, 5, 182, 0, 130, 133, 80, 167, 0, 7, 58, 7, 4, 172, 3]
abbrev dktX0_real_0 : List UInt8 := dkwX0_real_0 ++ dktX0_real_1
theorem dksX0_real_0 : cX0_real.data.toList.drop 0 = dktX0_real_0 := by decide +kernel
theorem dksX0_real_1 : cX0_real.data.toList.drop 24 = dktX0_real_1 := dk_seg dksX0_real_0 24 rfl rfl
theorem dX0_real_0 : decode cX0_real 0 = .ok (.aload 6, 2) := dk_25 6 (dk_at dksX0_real_0 0 rfl rfl)
theorem dX0_real_2 : decode cX0_real 2 = .ok (.iconst 0, 1) := dk_3 (dk_at dksX0_real_0 2 rfl rfl)
theorem dX0_real_3 : decode cX0_real 3 = .ok (.aload_n 0, 1) := dk_42 (dk_at dksX0_real_0 3 rfl rfl)
theorem dX0_real_4 : decode cX0_real 4 = .ok (.iload_n 1, 1) := dk_27 (dk_at dksX0_real_0 4 rfl rfl)
theorem dX0_real_5 : decode cX0_real 5 = .ok (.iload_n 2, 1) := dk_28 (dk_at dksX0_real_0 5 rfl rfl)
theorem dX0_real_6 : decode cX0_real 6 = .ok (.iload_n 3, 1) := dk_29 (dk_at dksX0_real_0 6 rfl rfl)
theorem dX0_real_7 : decode cX0_real 7 = .ok (.iload 4, 2) := dk_21 4 (dk_at dksX0_real_0 7 rfl rfl)
theorem dX0_real_9 : decode cX0_real 9 = .ok (.iload 5, 2) := dk_21 5 (dk_at dksX0_real_0 9 rfl rfl)
theorem dX0_real_11 : decode cX0_real 11 = .ok (.invokevirtual 130, 3) := dk_182 0 130 (dk_at dksX0_real_0 11 rfl rfl)
theorem dX0_real_14 : decode cX0_real 14 = .ok (.i2l, 1) := dk_133 (dk_at dksX0_real_0 14 rfl rfl)
theorem dX0_real_15 : decode cX0_real 15 = .ok (.lastore, 1) := dk_80 (dk_at dksX0_real_0 15 rfl rfl)
theorem dX0_real_16 : decode cX0_real 16 = .ok (.goto 7, 3) := dk_167 0 7 (dk_at dksX0_real_0 16 rfl rfl)
theorem dX0_real_19 : decode cX0_real 19 = .ok (.astore 7, 2) := dk_58 7 (dk_at dksX0_real_0 19 rfl rfl)
theorem dX0_real_21 : decode cX0_real 21 = .ok (.iconst 1, 1) := dk_4 (dk_at dksX0_real_0 21 rfl rfl)
theorem dX0_real_22 : decode cX0_real 22 = .ok (.ireturn, 1) := dk_172 (dk_at dksX0_real_0 22 rfl rfl)
theorem dX0_real_23 : decode cX0_real 23 = .ok (.iconst 0, 1) := dk_3 (dk_at dksX0_real_0 23 rfl rfl)
theorem dX0_real_24 : decode cX0_real 24 = .ok (.ireturn, 1) := dk_172 (dk_at dksX0_real_1 0 rfl rfl)
theorem q119 : (Jvm.Cond.initialized "LetterFormsLaw") ∈ lw_all := lw_g (lw_at lw_m1 0 rfl) rfl
theorem q150 : (Jvm.Cond.classLink "LetterFormsLaw" (8 : Nat) "LetterForms") ∈ lw_all := lw_g (lw_at lw_m1 31 rfl) rfl
theorem q152 : (Jvm.Cond.methodLink "LetterFormsLaw" (134 : Nat) ({ cls := "LetterForms", name := "<init>", desc := "()V" } : Jvm.MethodName)) ∈ lw_all := lw_g (lw_at lw_m1 33 rfl) rfl
theorem q487 : (Jvm.Cond.methodLink "LetterFormsLaw" (138 : Nat) ({ cls := "LetterForms", name := "feed", desc := "(IIIII)I" } : Jvm.MethodName)) ∈ lw_all := lw_g (lw_at lw_m2 128 rfl) rfl
theorem q495 : (Jvm.Cond.methodLink "LetterFormsLaw" (142 : Nat) ({ cls := "LetterForms", name := "end", desc := "(I)Z" } : Jvm.MethodName)) ∈ lw_all := lw_g (lw_at lw_m2 136 rfl) rfl
theorem q502 : (Jvm.Cond.methodLink "LetterFormsLaw" (166 : Nat) ({ cls := "LetterForms", name := "fault", desc := "()I" } : Jvm.MethodName)) ∈ lw_all := lw_g (lw_at lw_m2 143 rfl) rfl
theorem q506 : (Jvm.Cond.methodLink "LetterFormsLaw" (185 : Nat) ({ cls := "LetterForms", name := "undo", desc := "()I" } : Jvm.MethodName)) ∈ lw_all := lw_g (lw_at lw_m2 147 rfl) rfl
theorem q517 : (Jvm.Cond.methodLink "LetterFormsLaw" (189 : Nat) ({ cls := "LetterForms", name := "redo", desc := "()I" } : Jvm.MethodName)) ∈ lw_all := lw_g (lw_at lw_m2 158 rfl) rfl
theorem q521 : (Jvm.Cond.methodLink "LetterFormsLaw" (273 : Nat) ({ cls := "LetterForms", name := "image", desc := "()V" } : Jvm.MethodName)) ∈ lw_all := lw_g (lw_at lw_m2 162 rfl) rfl
theorem q536 : (Jvm.Cond.methodLink "LetterFormsLaw" (277 : Nat) ({ cls := "LetterForms", name := "back", desc := "()Z" } : Jvm.MethodName)) ∈ lw_all := lw_g (lw_at lw_m2 177 rfl) rfl
theorem q540 : (Jvm.Cond.methodLink "LetterFormsLaw" (282 : Nat) ({ cls := "LetterForms", name := "stock", desc := "(I)I" } : Jvm.MethodName)) ∈ lw_all := lw_g (lw_at lw_m2 181 rfl) rfl
theorem q548 : (Jvm.Cond.methodLink "LetterFormsLaw" (146 : Nat) ({ cls := "LetterFormsLaw", name := "field", desc := "(LLetterForms;I)I" } : Jvm.MethodName)) ∈ lw_all := lw_g (lw_at lw_m2 189 rfl) rfl
theorem q549 : (Jvm.Cond.static ({ cls := "LetterFormsLaw", name := "field", desc := "(LLetterForms;I)I" } : Jvm.MethodName)) ∈ lw_all := lw_g (lw_at lw_m2 190 rfl) rfl
theorem q550 : (Jvm.Cond.codeWith ({ cls := "LetterFormsLaw", name := "field", desc := "(LLetterForms;I)I" } : Jvm.MethodName) method_3_code (3 : Nat) (Option.some Jvm.ClassFile.FieldType.int) [((0 : Nat), (5 : Nat), (8 : Nat), (13 : Nat)), ((0 : Nat), (5 : Nat), (11 : Nat), (15 : Nat))]) ∈ lw_all := lw_g (lw_at lw_m2 191 rfl) rfl
theorem q551 : (Jvm.Cond.classLink "LetterFormsLaw" (13 : Nat) "java/lang/IllegalArgumentException") ∈ lw_all := lw_g (lw_at lw_m2 192 rfl) rfl
theorem q552 : (Jvm.Cond.classLink "LetterFormsLaw" (15 : Nat) "java/lang/IllegalStateException") ∈ lw_all := lw_g (lw_at lw_m2 193 rfl) rfl
theorem q553 : (Jvm.Cond.methodLink "LetterFormsLaw" (7 : Nat) ({ cls := "LetterForms", name := "field", desc := "(I)V" } : Jvm.MethodName)) ∈ lw_all := lw_g (lw_at lw_m2 194 rfl) rfl
theorem q596 : (Jvm.Cond.methodLink "LetterFormsLaw" (155 : Nat) ({ cls := "LetterFormsLaw", name := "form", desc := "(LLetterForms;[J)I" } : Jvm.MethodName)) ∈ lw_all := lw_g (lw_at lw_m2 237 rfl) rfl
theorem q597 : (Jvm.Cond.static ({ cls := "LetterFormsLaw", name := "form", desc := "(LLetterForms;[J)I" } : Jvm.MethodName)) ∈ lw_all := lw_g (lw_at lw_m2 238 rfl) rfl
theorem q598 : (Jvm.Cond.codeWith ({ cls := "LetterFormsLaw", name := "form", desc := "(LLetterForms;[J)I" } : Jvm.MethodName) method_4_code (3 : Nat) (Option.some Jvm.ClassFile.FieldType.int) [((0 : Nat), (8 : Nat), (11 : Nat), (13 : Nat)), ((0 : Nat), (8 : Nat), (14 : Nat), (21 : Nat))]) ∈ lw_all := lw_g (lw_at lw_m2 239 rfl) rfl
theorem q599 : (Jvm.Cond.classLink "LetterFormsLaw" (21 : Nat) "java/lang/UnsupportedOperationException") ∈ lw_all := lw_g (lw_at lw_m3 0 rfl) rfl
theorem q600 : (Jvm.Cond.methodLink "LetterFormsLaw" (17 : Nat) ({ cls := "LetterForms", name := "form", desc := "()I" } : Jvm.MethodName)) ∈ lw_all := lw_g (lw_at lw_m3 1 rfl) rfl
theorem q635 : (Jvm.Cond.methodLink "LetterFormsLaw" (159 : Nat) ({ cls := "LetterFormsLaw", name := "table", desc := "(LLetterForms;IIII[J)I" } : Jvm.MethodName)) ∈ lw_all := lw_g (lw_at lw_m3 36 rfl) rfl
theorem q636 : (Jvm.Cond.static ({ cls := "LetterFormsLaw", name := "table", desc := "(LLetterForms;IIII[J)I" } : Jvm.MethodName)) ∈ lw_all := lw_g (lw_at lw_m3 37 rfl) rfl
theorem q637 : (Jvm.Cond.codeWith ({ cls := "LetterFormsLaw", name := "table", desc := "(LLetterForms;IIII[J)I" } : Jvm.MethodName) method_5_code (7 : Nat) (Option.some Jvm.ClassFile.FieldType.int) [((0 : Nat), (14 : Nat), (17 : Nat), (13 : Nat)), ((0 : Nat), (14 : Nat), (21 : Nat), (21 : Nat))]) ∈ lw_all := lw_g (lw_at lw_m3 38 rfl) rfl
theorem q638 : (Jvm.Cond.methodLink "LetterFormsLaw" (23 : Nat) ({ cls := "LetterForms", name := "table", desc := "(IIII)I" } : Jvm.MethodName)) ∈ lw_all := lw_g (lw_at lw_m3 39 rfl) rfl
theorem q647 : (Jvm.Cond.methodLink "LetterFormsLaw" (163 : Nat) ({ cls := "LetterFormsLaw", name := "signs", desc := "(LLetterForms;[J)I" } : Jvm.MethodName)) ∈ lw_all := lw_g (lw_at lw_m3 48 rfl) rfl
theorem q648 : (Jvm.Cond.static ({ cls := "LetterFormsLaw", name := "signs", desc := "(LLetterForms;[J)I" } : Jvm.MethodName)) ∈ lw_all := lw_g (lw_at lw_m3 49 rfl) rfl
theorem q649 : (Jvm.Cond.codeWith ({ cls := "LetterFormsLaw", name := "signs", desc := "(LLetterForms;[J)I" } : Jvm.MethodName) method_6_code (3 : Nat) (Option.some Jvm.ClassFile.FieldType.int) [((0 : Nat), (8 : Nat), (11 : Nat), (13 : Nat)), ((0 : Nat), (8 : Nat), (14 : Nat), (21 : Nat))]) ∈ lw_all := lw_g (lw_at lw_m3 50 rfl) rfl
theorem q650 : (Jvm.Cond.methodLink "LetterFormsLaw" (27 : Nat) ({ cls := "LetterForms", name := "signs", desc := "()I" } : Jvm.MethodName)) ∈ lw_all := lw_g (lw_at lw_m3 51 rfl) rfl
theorem q760 : (Jvm.Cond.methodLink "LetterFormsLaw" (170 : Nat) ({ cls := "LetterFormsLaw", name := "look", desc := "(LLetterForms;II[J)I" } : Jvm.MethodName)) ∈ lw_all := lw_g (lw_at lw_m3 161 rfl) rfl
theorem q761 : (Jvm.Cond.static ({ cls := "LetterFormsLaw", name := "look", desc := "(LLetterForms;II[J)I" } : Jvm.MethodName)) ∈ lw_all := lw_g (lw_at lw_m3 162 rfl) rfl
theorem q762 : (Jvm.Cond.codeWith ({ cls := "LetterFormsLaw", name := "look", desc := "(LLetterForms;II[J)I" } : Jvm.MethodName) method_7_code (5 : Nat) (Option.some Jvm.ClassFile.FieldType.int) [((0 : Nat), (10 : Nat), (13 : Nat), (34 : Nat))]) ∈ lw_all := lw_g (lw_at lw_m3 163 rfl) rfl
theorem q763 : (Jvm.Cond.classLink "LetterFormsLaw" (34 : Nat) "java/lang/IndexOutOfBoundsException") ∈ lw_all := lw_g (lw_at lw_m3 164 rfl) rfl
theorem q795 : (Jvm.Cond.methodLink "LetterFormsLaw" (30 : Nat) ({ cls := "LetterForms", name := "look", desc := "(II)I" } : Jvm.MethodName)) ∈ lw_all := lw_g (lw_at lw_m3 196 rfl) rfl
theorem q824 : (Jvm.Cond.methodLink "LetterFormsLaw" (174 : Nat) ({ cls := "LetterFormsLaw", name := "at", desc := "(LLetterForms;III[J)I" } : Jvm.MethodName)) ∈ lw_all := lw_g (lw_at lw_m3 225 rfl) rfl
theorem q825 : (Jvm.Cond.static ({ cls := "LetterFormsLaw", name := "at", desc := "(LLetterForms;III[J)I" } : Jvm.MethodName)) ∈ lw_all := lw_g (lw_at lw_m3 226 rfl) rfl
theorem q826 : (Jvm.Cond.codeWith ({ cls := "LetterFormsLaw", name := "at", desc := "(LLetterForms;III[J)I" } : Jvm.MethodName) method_8_code (6 : Nat) (Option.some Jvm.ClassFile.FieldType.int) [((0 : Nat), (12 : Nat), (15 : Nat), (34 : Nat))]) ∈ lw_all := lw_g (lw_at lw_m3 227 rfl) rfl
theorem q827 : (Jvm.Cond.methodLink "LetterFormsLaw" (36 : Nat) ({ cls := "LetterForms", name := "at", desc := "(III)I" } : Jvm.MethodName)) ∈ lw_all := lw_g (lw_at lw_m3 228 rfl) rfl
theorem q841 : (Jvm.Cond.methodLink "LetterFormsLaw" (178 : Nat) ({ cls := "LetterFormsLaw", name := "det", desc := "(LLetterForms;I[J)I" } : Jvm.MethodName)) ∈ lw_all := lw_g (lw_at lw_m4 2 rfl) rfl
theorem q842 : (Jvm.Cond.static ({ cls := "LetterFormsLaw", name := "det", desc := "(LLetterForms;I[J)I" } : Jvm.MethodName)) ∈ lw_all := lw_g (lw_at lw_m4 3 rfl) rfl
theorem q843 : (Jvm.Cond.codeWith ({ cls := "LetterFormsLaw", name := "det", desc := "(LLetterForms;I[J)I" } : Jvm.MethodName) method_9_code (4 : Nat) (Option.some Jvm.ClassFile.FieldType.int) [((0 : Nat), (9 : Nat), (12 : Nat), (34 : Nat))]) ∈ lw_all := lw_g (lw_at lw_m4 4 rfl) rfl
theorem q844 : (Jvm.Cond.methodLink "LetterFormsLaw" (40 : Nat) ({ cls := "LetterForms", name := "det", desc := "(I)I" } : Jvm.MethodName)) ∈ lw_all := lw_g (lw_at lw_m4 5 rfl) rfl
theorem q852 : (Jvm.Cond.methodLink "LetterFormsLaw" (182 : Nat) ({ cls := "LetterFormsLaw", name := "mix", desc := "(LLetterForms;II[J)I" } : Jvm.MethodName)) ∈ lw_all := lw_g (lw_at lw_m4 13 rfl) rfl
theorem q853 : (Jvm.Cond.static ({ cls := "LetterFormsLaw", name := "mix", desc := "(LLetterForms;II[J)I" } : Jvm.MethodName)) ∈ lw_all := lw_g (lw_at lw_m4 14 rfl) rfl
theorem q854 : (Jvm.Cond.codeWith ({ cls := "LetterFormsLaw", name := "mix", desc := "(LLetterForms;II[J)I" } : Jvm.MethodName) method_10_code (5 : Nat) (Option.some Jvm.ClassFile.FieldType.int) [((0 : Nat), (17 : Nat), (20 : Nat), (34 : Nat))]) ∈ lw_all := lw_g (lw_at lw_m4 15 rfl) rfl
theorem q855 : (Jvm.Cond.methodLink "LetterFormsLaw" (44 : Nat) ({ cls := "LetterForms", name := "mix", desc := "(II)Z" } : Jvm.MethodName)) ∈ lw_all := lw_g (lw_at lw_m4 16 rfl) rfl
theorem q877 : (Jvm.Cond.methodLink "LetterFormsLaw" (193 : Nat) ({ cls := "LetterFormsLaw", name := "value", desc := "(LLetterForms;III[J)I" } : Jvm.MethodName)) ∈ lw_all := lw_g (lw_at lw_m4 38 rfl) rfl
theorem q878 : (Jvm.Cond.static ({ cls := "LetterFormsLaw", name := "value", desc := "(LLetterForms;III[J)I" } : Jvm.MethodName)) ∈ lw_all := lw_g (lw_at lw_m4 39 rfl) rfl
theorem q879 : (Jvm.Cond.codeWith ({ cls := "LetterFormsLaw", name := "value", desc := "(LLetterForms;III[J)I" } : Jvm.MethodName) method_11_code (6 : Nat) (Option.some Jvm.ClassFile.FieldType.int) [((0 : Nat), (12 : Nat), (15 : Nat), (34 : Nat))]) ∈ lw_all := lw_g (lw_at lw_m4 40 rfl) rfl
theorem q880 : (Jvm.Cond.methodLink "LetterFormsLaw" (48 : Nat) ({ cls := "LetterForms", name := "value", desc := "(III)I" } : Jvm.MethodName)) ∈ lw_all := lw_g (lw_at lw_m4 41 rfl) rfl
theorem q956 : (Jvm.Cond.methodLink "LetterFormsLaw" (196 : Nat) ({ cls := "LetterFormsLaw", name := "rank", desc := "(LLetterForms;IZ[J)I" } : Jvm.MethodName)) ∈ lw_all := lw_g (lw_at lw_m4 117 rfl) rfl
theorem q957 : (Jvm.Cond.static ({ cls := "LetterFormsLaw", name := "rank", desc := "(LLetterForms;IZ[J)I" } : Jvm.MethodName)) ∈ lw_all := lw_g (lw_at lw_m4 118 rfl) rfl
theorem q958 : (Jvm.Cond.codeWith ({ cls := "LetterFormsLaw", name := "rank", desc := "(LLetterForms;IZ[J)I" } : Jvm.MethodName) method_12_code (5 : Nat) (Option.some Jvm.ClassFile.FieldType.int) [((0 : Nat), (10 : Nat), (13 : Nat), (34 : Nat))]) ∈ lw_all := lw_g (lw_at lw_m4 119 rfl) rfl
theorem q959 : (Jvm.Cond.methodLink "LetterFormsLaw" (51 : Nat) ({ cls := "LetterForms", name := "rank", desc := "(IZ)I" } : Jvm.MethodName)) ∈ lw_all := lw_g (lw_at lw_m4 120 rfl) rfl
theorem q994 : (Jvm.Cond.methodLink "LetterFormsLaw" (200 : Nat) ({ cls := "LetterFormsLaw", name := "stays", desc := "(LLetterForms;III[J)I" } : Jvm.MethodName)) ∈ lw_all := lw_g (lw_at lw_m4 155 rfl) rfl
theorem q995 : (Jvm.Cond.static ({ cls := "LetterFormsLaw", name := "stays", desc := "(LLetterForms;III[J)I" } : Jvm.MethodName)) ∈ lw_all := lw_g (lw_at lw_m4 156 rfl) rfl
theorem q996 : (Jvm.Cond.codeWith ({ cls := "LetterFormsLaw", name := "stays", desc := "(LLetterForms;III[J)I" } : Jvm.MethodName) method_13_code (6 : Nat) (Option.some Jvm.ClassFile.FieldType.int) [((0 : Nat), (19 : Nat), (22 : Nat), (34 : Nat))]) ∈ lw_all := lw_g (lw_at lw_m4 157 rfl) rfl
theorem q997 : (Jvm.Cond.methodLink "LetterFormsLaw" (55 : Nat) ({ cls := "LetterForms", name := "stays", desc := "(III)Z" } : Jvm.MethodName)) ∈ lw_all := lw_g (lw_at lw_m4 158 rfl) rfl
theorem q1002 : (Jvm.Cond.methodLink "LetterFormsLaw" (203 : Nat) ({ cls := "LetterFormsLaw", name := "agree", desc := "(LLetterForms;III[J)I" } : Jvm.MethodName)) ∈ lw_all := lw_g (lw_at lw_m4 163 rfl) rfl
theorem q1003 : (Jvm.Cond.static ({ cls := "LetterFormsLaw", name := "agree", desc := "(LLetterForms;III[J)I" } : Jvm.MethodName)) ∈ lw_all := lw_g (lw_at lw_m4 164 rfl) rfl
theorem q1004 : (Jvm.Cond.codeWith ({ cls := "LetterFormsLaw", name := "agree", desc := "(LLetterForms;III[J)I" } : Jvm.MethodName) method_14_code (6 : Nat) (Option.some Jvm.ClassFile.FieldType.int) [((0 : Nat), (12 : Nat), (15 : Nat), (34 : Nat)), ((0 : Nat), (12 : Nat), (19 : Nat), (13 : Nat))]) ∈ lw_all := lw_g (lw_at lw_m4 165 rfl) rfl
theorem q1005 : (Jvm.Cond.methodLink "LetterFormsLaw" (59 : Nat) ({ cls := "LetterForms", name := "agree", desc := "(III)I" } : Jvm.MethodName)) ∈ lw_all := lw_g (lw_at lw_m4 166 rfl) rfl
theorem q1010 : (Jvm.Cond.methodLink "LetterFormsLaw" (206 : Nat) ({ cls := "LetterFormsLaw", name := "count", desc := "(LLetterForms;III[J)I" } : Jvm.MethodName)) ∈ lw_all := lw_g (lw_at lw_m4 171 rfl) rfl
theorem q1011 : (Jvm.Cond.static ({ cls := "LetterFormsLaw", name := "count", desc := "(LLetterForms;III[J)I" } : Jvm.MethodName)) ∈ lw_all := lw_g (lw_at lw_m4 172 rfl) rfl
theorem q1012 : (Jvm.Cond.codeWith ({ cls := "LetterFormsLaw", name := "count", desc := "(LLetterForms;III[J)I" } : Jvm.MethodName) method_15_code (6 : Nat) (Option.some Jvm.ClassFile.FieldType.int) [((0 : Nat), (11 : Nat), (14 : Nat), (13 : Nat))]) ∈ lw_all := lw_g (lw_at lw_m4 173 rfl) rfl
theorem q1013 : (Jvm.Cond.methodLink "LetterFormsLaw" (62 : Nat) ({ cls := "LetterForms", name := "count", desc := "(III)J" } : Jvm.MethodName)) ∈ lw_all := lw_g (lw_at lw_m4 174 rfl) rfl
theorem q1023 : (Jvm.Cond.methodLink "LetterFormsLaw" (209 : Nat) ({ cls := "LetterFormsLaw", name := "span", desc := "(LLetterForms;III[J)I" } : Jvm.MethodName)) ∈ lw_all := lw_g (lw_at lw_m4 184 rfl) rfl
theorem q1024 : (Jvm.Cond.static ({ cls := "LetterFormsLaw", name := "span", desc := "(LLetterForms;III[J)I" } : Jvm.MethodName)) ∈ lw_all := lw_g (lw_at lw_m4 185 rfl) rfl
theorem q1025 : (Jvm.Cond.codeWith ({ cls := "LetterFormsLaw", name := "span", desc := "(LLetterForms;III[J)I" } : Jvm.MethodName) method_16_code (6 : Nat) (Option.some Jvm.ClassFile.FieldType.int) [((0 : Nat), (12 : Nat), (15 : Nat), (13 : Nat))]) ∈ lw_all := lw_g (lw_at lw_m4 186 rfl) rfl
theorem q1026 : (Jvm.Cond.methodLink "LetterFormsLaw" (66 : Nat) ({ cls := "LetterForms", name := "span", desc := "(III)I" } : Jvm.MethodName)) ∈ lw_all := lw_g (lw_at lw_m4 187 rfl) rfl
theorem q1044 : (Jvm.Cond.methodLink "LetterFormsLaw" (212 : Nat) ({ cls := "LetterFormsLaw", name := "basis", desc := "(LLetterForms;III[J)I" } : Jvm.MethodName)) ∈ lw_all := lw_g (lw_at lw_m4 205 rfl) rfl
theorem q1045 : (Jvm.Cond.static ({ cls := "LetterFormsLaw", name := "basis", desc := "(LLetterForms;III[J)I" } : Jvm.MethodName)) ∈ lw_all := lw_g (lw_at lw_m4 206 rfl) rfl
theorem q1046 : (Jvm.Cond.codeWith ({ cls := "LetterFormsLaw", name := "basis", desc := "(LLetterForms;III[J)I" } : Jvm.MethodName) method_17_code (6 : Nat) (Option.some Jvm.ClassFile.FieldType.int) [((0 : Nat), (12 : Nat), (15 : Nat), (13 : Nat))]) ∈ lw_all := lw_g (lw_at lw_m4 207 rfl) rfl
theorem q1047 : (Jvm.Cond.methodLink "LetterFormsLaw" (69 : Nat) ({ cls := "LetterForms", name := "basis", desc := "(III)I" } : Jvm.MethodName)) ∈ lw_all := lw_g (lw_at lw_m4 208 rfl) rfl
theorem q1051 : (Jvm.Cond.methodLink "LetterFormsLaw" (215 : Nat) ({ cls := "LetterFormsLaw", name := "kind", desc := "(LLetterForms;I[J)I" } : Jvm.MethodName)) ∈ lw_all := lw_g (lw_at lw_m4 212 rfl) rfl
theorem q1052 : (Jvm.Cond.static ({ cls := "LetterFormsLaw", name := "kind", desc := "(LLetterForms;I[J)I" } : Jvm.MethodName)) ∈ lw_all := lw_g (lw_at lw_m4 213 rfl) rfl
theorem q1053 : (Jvm.Cond.codeWith ({ cls := "LetterFormsLaw", name := "kind", desc := "(LLetterForms;I[J)I" } : Jvm.MethodName) method_18_code (4 : Nat) (Option.some Jvm.ClassFile.FieldType.int) [((0 : Nat), (9 : Nat), (12 : Nat), (34 : Nat))]) ∈ lw_all := lw_g (lw_at lw_m4 214 rfl) rfl
theorem q1054 : (Jvm.Cond.methodLink "LetterFormsLaw" (72 : Nat) ({ cls := "LetterForms", name := "kind", desc := "(I)I" } : Jvm.MethodName)) ∈ lw_all := lw_g (lw_at lw_m4 215 rfl) rfl
theorem q1062 : (Jvm.Cond.methodLink "LetterFormsLaw" (218 : Nat) ({ cls := "LetterFormsLaw", name := "orbit", desc := "(LLetterForms;I[J)I" } : Jvm.MethodName)) ∈ lw_all := lw_g (lw_at lw_m4 223 rfl) rfl
theorem q1063 : (Jvm.Cond.static ({ cls := "LetterFormsLaw", name := "orbit", desc := "(LLetterForms;I[J)I" } : Jvm.MethodName)) ∈ lw_all := lw_g (lw_at lw_m4 224 rfl) rfl
theorem q1064 : (Jvm.Cond.codeWith ({ cls := "LetterFormsLaw", name := "orbit", desc := "(LLetterForms;I[J)I" } : Jvm.MethodName) method_19_code (4 : Nat) (Option.some Jvm.ClassFile.FieldType.int) [((0 : Nat), (9 : Nat), (12 : Nat), (34 : Nat))]) ∈ lw_all := lw_g (lw_at lw_m4 225 rfl) rfl
theorem q1065 : (Jvm.Cond.methodLink "LetterFormsLaw" (75 : Nat) ({ cls := "LetterForms", name := "orbit", desc := "(I)I" } : Jvm.MethodName)) ∈ lw_all := lw_g (lw_at lw_m4 226 rfl) rfl
theorem q1069 : (Jvm.Cond.methodLink "LetterFormsLaw" (221 : Nat) ({ cls := "LetterFormsLaw", name := "join", desc := "(LLetterForms;II[J)I" } : Jvm.MethodName)) ∈ lw_all := lw_g (lw_at lw_m4 230 rfl) rfl
theorem q1070 : (Jvm.Cond.static ({ cls := "LetterFormsLaw", name := "join", desc := "(LLetterForms;II[J)I" } : Jvm.MethodName)) ∈ lw_all := lw_g (lw_at lw_m4 231 rfl) rfl
theorem q1071 : (Jvm.Cond.codeWith ({ cls := "LetterFormsLaw", name := "join", desc := "(LLetterForms;II[J)I" } : Jvm.MethodName) method_20_code (5 : Nat) (Option.some Jvm.ClassFile.FieldType.int) [((0 : Nat), (10 : Nat), (13 : Nat), (34 : Nat)), ((0 : Nat), (10 : Nat), (17 : Nat), (21 : Nat))]) ∈ lw_all := lw_g (lw_at lw_m4 232 rfl) rfl
theorem q1072 : (Jvm.Cond.methodLink "LetterFormsLaw" (78 : Nat) ({ cls := "LetterForms", name := "join", desc := "(II)I" } : Jvm.MethodName)) ∈ lw_all := lw_g (lw_at lw_m4 233 rfl) rfl
theorem q1084 : (Jvm.Cond.methodLink "LetterFormsLaw" (224 : Nat) ({ cls := "LetterFormsLaw", name := "turn", desc := "(LLetterForms;I[J)I" } : Jvm.MethodName)) ∈ lw_all := lw_g (lw_at lw_m5 5 rfl) rfl
theorem q1085 : (Jvm.Cond.static ({ cls := "LetterFormsLaw", name := "turn", desc := "(LLetterForms;I[J)I" } : Jvm.MethodName)) ∈ lw_all := lw_g (lw_at lw_m5 6 rfl) rfl
theorem q1086 : (Jvm.Cond.codeWith ({ cls := "LetterFormsLaw", name := "turn", desc := "(LLetterForms;I[J)I" } : Jvm.MethodName) method_21_code (4 : Nat) (Option.some Jvm.ClassFile.FieldType.int) [((0 : Nat), (9 : Nat), (12 : Nat), (34 : Nat)), ((0 : Nat), (9 : Nat), (15 : Nat), (21 : Nat))]) ∈ lw_all := lw_g (lw_at lw_m5 7 rfl) rfl
theorem q1087 : (Jvm.Cond.methodLink "LetterFormsLaw" (81 : Nat) ({ cls := "LetterForms", name := "turn", desc := "(I)I" } : Jvm.MethodName)) ∈ lw_all := lw_g (lw_at lw_m5 8 rfl) rfl
theorem q1091 : (Jvm.Cond.methodLink "LetterFormsLaw" (227 : Nat) ({ cls := "LetterFormsLaw", name := "told", desc := "(LLetterForms;II[J)I" } : Jvm.MethodName)) ∈ lw_all := lw_g (lw_at lw_m5 12 rfl) rfl
theorem q1092 : (Jvm.Cond.static ({ cls := "LetterFormsLaw", name := "told", desc := "(LLetterForms;II[J)I" } : Jvm.MethodName)) ∈ lw_all := lw_g (lw_at lw_m5 13 rfl) rfl
theorem q1093 : (Jvm.Cond.codeWith ({ cls := "LetterFormsLaw", name := "told", desc := "(LLetterForms;II[J)I" } : Jvm.MethodName) method_22_code (5 : Nat) (Option.some Jvm.ClassFile.FieldType.int) [((0 : Nat), (10 : Nat), (13 : Nat), (34 : Nat))]) ∈ lw_all := lw_g (lw_at lw_m5 14 rfl) rfl
theorem q1094 : (Jvm.Cond.methodLink "LetterFormsLaw" (84 : Nat) ({ cls := "LetterForms", name := "told", desc := "(II)I" } : Jvm.MethodName)) ∈ lw_all := lw_g (lw_at lw_m5 15 rfl) rfl
theorem q1099 : (Jvm.Cond.methodLink "LetterFormsLaw" (230 : Nat) ({ cls := "LetterFormsLaw", name := "quotient", desc := "(LLetterForms;III[J)I" } : Jvm.MethodName)) ∈ lw_all := lw_g (lw_at lw_m5 20 rfl) rfl
theorem q1100 : (Jvm.Cond.static ({ cls := "LetterFormsLaw", name := "quotient", desc := "(LLetterForms;III[J)I" } : Jvm.MethodName)) ∈ lw_all := lw_g (lw_at lw_m5 21 rfl) rfl
theorem q1101 : (Jvm.Cond.codeWith ({ cls := "LetterFormsLaw", name := "quotient", desc := "(LLetterForms;III[J)I" } : Jvm.MethodName) method_23_code (6 : Nat) (Option.some Jvm.ClassFile.FieldType.int) [((0 : Nat), (12 : Nat), (15 : Nat), (34 : Nat))]) ∈ lw_all := lw_g (lw_at lw_m5 22 rfl) rfl
theorem q1102 : (Jvm.Cond.methodLink "LetterFormsLaw" (87 : Nat) ({ cls := "LetterForms", name := "quotient", desc := "(III)I" } : Jvm.MethodName)) ∈ lw_all := lw_g (lw_at lw_m5 23 rfl) rfl
theorem q1110 : (Jvm.Cond.methodLink "LetterFormsLaw" (233 : Nat) ({ cls := "LetterFormsLaw", name := "plain", desc := "(LLetterForms;I[J)I" } : Jvm.MethodName)) ∈ lw_all := lw_g (lw_at lw_m5 31 rfl) rfl
theorem q1111 : (Jvm.Cond.static ({ cls := "LetterFormsLaw", name := "plain", desc := "(LLetterForms;I[J)I" } : Jvm.MethodName)) ∈ lw_all := lw_g (lw_at lw_m5 32 rfl) rfl
theorem q1112 : (Jvm.Cond.codeWith ({ cls := "LetterFormsLaw", name := "plain", desc := "(LLetterForms;I[J)I" } : Jvm.MethodName) method_24_code (4 : Nat) (Option.some Jvm.ClassFile.FieldType.int) [((0 : Nat), (16 : Nat), (19 : Nat), (34 : Nat))]) ∈ lw_all := lw_g (lw_at lw_m5 33 rfl) rfl
theorem q1113 : (Jvm.Cond.methodLink "LetterFormsLaw" (90 : Nat) ({ cls := "LetterForms", name := "plain", desc := "(I)Z" } : Jvm.MethodName)) ∈ lw_all := lw_g (lw_at lw_m5 34 rfl) rfl
theorem q1127 : (Jvm.Cond.methodLink "LetterFormsLaw" (236 : Nat) ({ cls := "LetterFormsLaw", name := "root", desc := "(LLetterForms;II[J)I" } : Jvm.MethodName)) ∈ lw_all := lw_g (lw_at lw_m5 48 rfl) rfl
theorem q1128 : (Jvm.Cond.static ({ cls := "LetterFormsLaw", name := "root", desc := "(LLetterForms;II[J)I" } : Jvm.MethodName)) ∈ lw_all := lw_g (lw_at lw_m5 49 rfl) rfl
theorem q1129 : (Jvm.Cond.codeWith ({ cls := "LetterFormsLaw", name := "root", desc := "(LLetterForms;II[J)I" } : Jvm.MethodName) method_25_code (5 : Nat) (Option.some Jvm.ClassFile.FieldType.int) [((0 : Nat), (10 : Nat), (13 : Nat), (34 : Nat)), ((0 : Nat), (10 : Nat), (17 : Nat), (13 : Nat))]) ∈ lw_all := lw_g (lw_at lw_m5 50 rfl) rfl
theorem q1130 : (Jvm.Cond.methodLink "LetterFormsLaw" (94 : Nat) ({ cls := "LetterForms", name := "root", desc := "(II)I" } : Jvm.MethodName)) ∈ lw_all := lw_g (lw_at lw_m5 51 rfl) rfl
theorem q1143 : (Jvm.Cond.methodLink "LetterFormsLaw" (239 : Nat) ({ cls := "LetterFormsLaw", name := "roots", desc := "(LLetterForms;I[J)I" } : Jvm.MethodName)) ∈ lw_all := lw_g (lw_at lw_m5 64 rfl) rfl
theorem q1144 : (Jvm.Cond.static ({ cls := "LetterFormsLaw", name := "roots", desc := "(LLetterForms;I[J)I" } : Jvm.MethodName)) ∈ lw_all := lw_g (lw_at lw_m5 65 rfl) rfl
theorem q1145 : (Jvm.Cond.codeWith ({ cls := "LetterFormsLaw", name := "roots", desc := "(LLetterForms;I[J)I" } : Jvm.MethodName) method_26_code (4 : Nat) (Option.some Jvm.ClassFile.FieldType.int) [((0 : Nat), (9 : Nat), (12 : Nat), (34 : Nat))]) ∈ lw_all := lw_g (lw_at lw_m5 66 rfl) rfl
theorem q1146 : (Jvm.Cond.methodLink "LetterFormsLaw" (97 : Nat) ({ cls := "LetterForms", name := "roots", desc := "(I)I" } : Jvm.MethodName)) ∈ lw_all := lw_g (lw_at lw_m5 67 rfl) rfl
theorem q1150 : (Jvm.Cond.methodLink "LetterFormsLaw" (242 : Nat) ({ cls := "LetterFormsLaw", name := "empty", desc := "(LLetterForms;I[J)I" } : Jvm.MethodName)) ∈ lw_all := lw_g (lw_at lw_m5 71 rfl) rfl
theorem q1151 : (Jvm.Cond.static ({ cls := "LetterFormsLaw", name := "empty", desc := "(LLetterForms;I[J)I" } : Jvm.MethodName)) ∈ lw_all := lw_g (lw_at lw_m5 72 rfl) rfl
theorem q1152 : (Jvm.Cond.codeWith ({ cls := "LetterFormsLaw", name := "empty", desc := "(LLetterForms;I[J)I" } : Jvm.MethodName) method_27_code (4 : Nat) (Option.some Jvm.ClassFile.FieldType.int) [((0 : Nat), (16 : Nat), (19 : Nat), (34 : Nat))]) ∈ lw_all := lw_g (lw_at lw_m5 73 rfl) rfl
theorem q1153 : (Jvm.Cond.methodLink "LetterFormsLaw" (100 : Nat) ({ cls := "LetterForms", name := "empty", desc := "(I)Z" } : Jvm.MethodName)) ∈ lw_all := lw_g (lw_at lw_m5 74 rfl) rfl
theorem q1157 : (Jvm.Cond.methodLink "LetterFormsLaw" (245 : Nat) ({ cls := "LetterFormsLaw", name := "same", desc := "(LLetterForms;II[J)I" } : Jvm.MethodName)) ∈ lw_all := lw_g (lw_at lw_m5 78 rfl) rfl
theorem q1158 : (Jvm.Cond.static ({ cls := "LetterFormsLaw", name := "same", desc := "(LLetterForms;II[J)I" } : Jvm.MethodName)) ∈ lw_all := lw_g (lw_at lw_m5 79 rfl) rfl
theorem q1159 : (Jvm.Cond.codeWith ({ cls := "LetterFormsLaw", name := "same", desc := "(LLetterForms;II[J)I" } : Jvm.MethodName) method_28_code (5 : Nat) (Option.some Jvm.ClassFile.FieldType.int) [((0 : Nat), (10 : Nat), (13 : Nat), (34 : Nat))]) ∈ lw_all := lw_g (lw_at lw_m5 80 rfl) rfl
theorem q1160 : (Jvm.Cond.methodLink "LetterFormsLaw" (103 : Nat) ({ cls := "LetterForms", name := "same", desc := "(II)I" } : Jvm.MethodName)) ∈ lw_all := lw_g (lw_at lw_m5 81 rfl) rfl
theorem q1164 : (Jvm.Cond.methodLink "LetterFormsLaw" (248 : Nat) ({ cls := "LetterFormsLaw", name := "keep", desc := "(LLetterForms;I[J)I" } : Jvm.MethodName)) ∈ lw_all := lw_g (lw_at lw_m5 85 rfl) rfl
theorem q1165 : (Jvm.Cond.static ({ cls := "LetterFormsLaw", name := "keep", desc := "(LLetterForms;I[J)I" } : Jvm.MethodName)) ∈ lw_all := lw_g (lw_at lw_m5 86 rfl) rfl
theorem q1166 : (Jvm.Cond.codeWith ({ cls := "LetterFormsLaw", name := "keep", desc := "(LLetterForms;I[J)I" } : Jvm.MethodName) method_29_code (4 : Nat) (Option.some Jvm.ClassFile.FieldType.int) [((0 : Nat), (9 : Nat), (12 : Nat), (34 : Nat))]) ∈ lw_all := lw_g (lw_at lw_m5 87 rfl) rfl
theorem q1167 : (Jvm.Cond.methodLink "LetterFormsLaw" (106 : Nat) ({ cls := "LetterForms", name := "keep", desc := "(I)I" } : Jvm.MethodName)) ∈ lw_all := lw_g (lw_at lw_m5 88 rfl) rfl
theorem q1171 : (Jvm.Cond.methodLink "LetterFormsLaw" (251 : Nat) ({ cls := "LetterFormsLaw", name := "powers", desc := "(LLetterForms;II[J)I" } : Jvm.MethodName)) ∈ lw_all := lw_g (lw_at lw_m5 92 rfl) rfl
theorem q1172 : (Jvm.Cond.static ({ cls := "LetterFormsLaw", name := "powers", desc := "(LLetterForms;II[J)I" } : Jvm.MethodName)) ∈ lw_all := lw_g (lw_at lw_m5 93 rfl) rfl
theorem q1173 : (Jvm.Cond.codeWith ({ cls := "LetterFormsLaw", name := "powers", desc := "(LLetterForms;II[J)I" } : Jvm.MethodName) method_30_code (5 : Nat) (Option.some Jvm.ClassFile.FieldType.int) [((0 : Nat), (10 : Nat), (13 : Nat), (34 : Nat)), ((0 : Nat), (10 : Nat), (17 : Nat), (13 : Nat))]) ∈ lw_all := lw_g (lw_at lw_m5 94 rfl) rfl
theorem q1174 : (Jvm.Cond.methodLink "LetterFormsLaw" (109 : Nat) ({ cls := "LetterForms", name := "powers", desc := "(II)I" } : Jvm.MethodName)) ∈ lw_all := lw_g (lw_at lw_m5 95 rfl) rfl
theorem q1195 : (Jvm.Cond.methodLink "LetterFormsLaw" (254 : Nat) ({ cls := "LetterFormsLaw", name := "common", desc := "(LLetterForms;III[J)I" } : Jvm.MethodName)) ∈ lw_all := lw_g (lw_at lw_m5 116 rfl) rfl
theorem q1196 : (Jvm.Cond.static ({ cls := "LetterFormsLaw", name := "common", desc := "(LLetterForms;III[J)I" } : Jvm.MethodName)) ∈ lw_all := lw_g (lw_at lw_m5 117 rfl) rfl
theorem q1197 : (Jvm.Cond.codeWith ({ cls := "LetterFormsLaw", name := "common", desc := "(LLetterForms;III[J)I" } : Jvm.MethodName) method_31_code (6 : Nat) (Option.some Jvm.ClassFile.FieldType.int) [((0 : Nat), (12 : Nat), (15 : Nat), (34 : Nat))]) ∈ lw_all := lw_g (lw_at lw_m5 118 rfl) rfl
theorem q1198 : (Jvm.Cond.methodLink "LetterFormsLaw" (112 : Nat) ({ cls := "LetterForms", name := "common", desc := "(III)I" } : Jvm.MethodName)) ∈ lw_all := lw_g (lw_at lw_m5 119 rfl) rfl
theorem q1202 : (Jvm.Cond.methodLink "LetterFormsLaw" (257 : Nat) ({ cls := "LetterFormsLaw", name := "overlap", desc := "(LLetterForms;IIII[J)I" } : Jvm.MethodName)) ∈ lw_all := lw_g (lw_at lw_m5 123 rfl) rfl
theorem q1203 : (Jvm.Cond.static ({ cls := "LetterFormsLaw", name := "overlap", desc := "(LLetterForms;IIII[J)I" } : Jvm.MethodName)) ∈ lw_all := lw_g (lw_at lw_m5 124 rfl) rfl
theorem q1204 : (Jvm.Cond.codeWith ({ cls := "LetterFormsLaw", name := "overlap", desc := "(LLetterForms;IIII[J)I" } : Jvm.MethodName) method_32_code (7 : Nat) (Option.some Jvm.ClassFile.FieldType.int) [((0 : Nat), (14 : Nat), (17 : Nat), (34 : Nat)), ((0 : Nat), (14 : Nat), (21 : Nat), (13 : Nat))]) ∈ lw_all := lw_g (lw_at lw_m5 125 rfl) rfl
theorem q1205 : (Jvm.Cond.methodLink "LetterFormsLaw" (115 : Nat) ({ cls := "LetterForms", name := "overlap", desc := "(IIII)I" } : Jvm.MethodName)) ∈ lw_all := lw_g (lw_at lw_m5 126 rfl) rfl
theorem q1210 : (Jvm.Cond.methodLink "LetterFormsLaw" (260 : Nat) ({ cls := "LetterFormsLaw", name := "reduced", desc := "(LLetterForms;IIII[J)I" } : Jvm.MethodName)) ∈ lw_all := lw_g (lw_at lw_m5 131 rfl) rfl
theorem q1211 : (Jvm.Cond.static ({ cls := "LetterFormsLaw", name := "reduced", desc := "(LLetterForms;IIII[J)I" } : Jvm.MethodName)) ∈ lw_all := lw_g (lw_at lw_m5 132 rfl) rfl
theorem q1212 : (Jvm.Cond.codeWith ({ cls := "LetterFormsLaw", name := "reduced", desc := "(LLetterForms;IIII[J)I" } : Jvm.MethodName) method_33_code (7 : Nat) (Option.some Jvm.ClassFile.FieldType.int) [((0 : Nat), (13 : Nat), (16 : Nat), (13 : Nat)), ((0 : Nat), (13 : Nat), (20 : Nat), (122 : Nat))]) ∈ lw_all := lw_g (lw_at lw_m5 133 rfl) rfl
theorem q1213 : (Jvm.Cond.classLink "LetterFormsLaw" (122 : Nat) "java/util/NoSuchElementException") ∈ lw_all := lw_g (lw_at lw_m5 134 rfl) rfl
theorem q1214 : (Jvm.Cond.methodLink "LetterFormsLaw" (118 : Nat) ({ cls := "LetterForms", name := "reduced", desc := "(IIII)J" } : Jvm.MethodName)) ∈ lw_all := lw_g (lw_at lw_m5 135 rfl) rfl
theorem q1251 : (Jvm.Cond.methodLink "LetterFormsLaw" (263 : Nat) ({ cls := "LetterFormsLaw", name := "classes", desc := "(LLetterForms;IZ[J)I" } : Jvm.MethodName)) ∈ lw_all := lw_g (lw_at lw_m5 172 rfl) rfl
theorem q1252 : (Jvm.Cond.static ({ cls := "LetterFormsLaw", name := "classes", desc := "(LLetterForms;IZ[J)I" } : Jvm.MethodName)) ∈ lw_all := lw_g (lw_at lw_m5 173 rfl) rfl
theorem q1253 : (Jvm.Cond.codeWith ({ cls := "LetterFormsLaw", name := "classes", desc := "(LLetterForms;IZ[J)I" } : Jvm.MethodName) method_34_code (5 : Nat) (Option.some Jvm.ClassFile.FieldType.int) [((0 : Nat), (10 : Nat), (13 : Nat), (13 : Nat))]) ∈ lw_all := lw_g (lw_at lw_m5 174 rfl) rfl
theorem q1254 : (Jvm.Cond.methodLink "LetterFormsLaw" (124 : Nat) ({ cls := "LetterForms", name := "classes", desc := "(IZ)I" } : Jvm.MethodName)) ∈ lw_all := lw_g (lw_at lw_m5 175 rfl) rfl
theorem q1276 : (Jvm.Cond.methodLink "LetterFormsLaw" (266 : Nat) ({ cls := "LetterFormsLaw", name := "reducedAt", desc := "(LLetterForms;III[J)I" } : Jvm.MethodName)) ∈ lw_all := lw_g (lw_at lw_m5 197 rfl) rfl
theorem q1277 : (Jvm.Cond.static ({ cls := "LetterFormsLaw", name := "reducedAt", desc := "(LLetterForms;III[J)I" } : Jvm.MethodName)) ∈ lw_all := lw_g (lw_at lw_m5 198 rfl) rfl
theorem q1278 : (Jvm.Cond.codeWith ({ cls := "LetterFormsLaw", name := "reducedAt", desc := "(LLetterForms;III[J)I" } : Jvm.MethodName) method_35_code (6 : Nat) (Option.some Jvm.ClassFile.FieldType.int) [((0 : Nat), (12 : Nat), (15 : Nat), (13 : Nat)), ((0 : Nat), (12 : Nat), (19 : Nat), (122 : Nat))]) ∈ lw_all := lw_g (lw_at lw_m5 199 rfl) rfl
theorem q1279 : (Jvm.Cond.methodLink "LetterFormsLaw" (127 : Nat) ({ cls := "LetterForms", name := "reducedAt", desc := "(III)I" } : Jvm.MethodName)) ∈ lw_all := lw_g (lw_at lw_m5 200 rfl) rfl
theorem q1283 : (Jvm.Cond.methodLink "LetterFormsLaw" (269 : Nat) ({ cls := "LetterFormsLaw", name := "real", desc := "(LLetterForms;IIIII[J)I" } : Jvm.MethodName)) ∈ lw_all := lw_g (lw_at lw_m5 204 rfl) rfl
theorem q1284 : (Jvm.Cond.static ({ cls := "LetterFormsLaw", name := "real", desc := "(LLetterForms;IIIII[J)I" } : Jvm.MethodName)) ∈ lw_all := lw_g (lw_at lw_m5 205 rfl) rfl
theorem q1285 : (Jvm.Cond.codeWith ({ cls := "LetterFormsLaw", name := "real", desc := "(LLetterForms;IIIII[J)I" } : Jvm.MethodName) method_36_code (8 : Nat) (Option.some Jvm.ClassFile.FieldType.int) [((0 : Nat), (16 : Nat), (19 : Nat), (13 : Nat))]) ∈ lw_all := lw_g (lw_at lw_m5 206 rfl) rfl
theorem q1286 : (Jvm.Cond.methodLink "LetterFormsLaw" (130 : Nat) ({ cls := "LetterForms", name := "real", desc := "(IIIII)I" } : Jvm.MethodName)) ∈ lw_all := lw_g (lw_at lw_m5 207 rfl) rfl
theorem q1303 : (Jvm.Cond.methodLink "LetterFormsLaw" (152 : Nat) ({ cls := "LetterFormsModel", name := "thrown", desc := "()I" } : Jvm.MethodName)) ∈ lw_all := lw_g (lw_at lw_m5 224 rfl) rfl
theorem q1307 : (Jvm.Cond.classLink "LetterFormsLaw" (135 : Nat) "LetterFormsModel") ∈ lw_all := lw_g (lw_at lw_m5 228 rfl) rfl
theorem q1309 : (Jvm.Cond.methodLink "LetterFormsLaw" (137 : Nat) ({ cls := "LetterFormsModel", name := "<init>", desc := "()V" } : Jvm.MethodName)) ∈ lw_all := lw_g (lw_at lw_m5 230 rfl) rfl
theorem q1428 : (Jvm.Cond.methodLink "LetterFormsLaw" (276 : Nat) ({ cls := "LetterFormsModel", name := "image", desc := "()V" } : Jvm.MethodName)) ∈ lw_all := lw_g (lw_at lw_m6 109 rfl) rfl
theorem q1432 : (Jvm.Cond.methodLink "LetterFormsLaw" (281 : Nat) ({ cls := "LetterFormsModel", name := "back", desc := "()Z" } : Jvm.MethodName)) ∈ lw_all := lw_g (lw_at lw_m6 113 rfl) rfl
theorem q1436 : (Jvm.Cond.methodLink "LetterFormsLaw" (141 : Nat) ({ cls := "LetterFormsModel", name := "feed", desc := "(IIIII)I" } : Jvm.MethodName)) ∈ lw_all := lw_g (lw_at lw_m6 117 rfl) rfl
theorem q1440 : (Jvm.Cond.methodLink "LetterFormsLaw" (145 : Nat) ({ cls := "LetterFormsModel", name := "end", desc := "(I)Z" } : Jvm.MethodName)) ∈ lw_all := lw_g (lw_at lw_m6 121 rfl) rfl
theorem q1444 : (Jvm.Cond.methodLink "LetterFormsLaw" (169 : Nat) ({ cls := "LetterFormsModel", name := "fault", desc := "()I" } : Jvm.MethodName)) ∈ lw_all := lw_g (lw_at lw_m6 125 rfl) rfl
theorem q1448 : (Jvm.Cond.methodLink "LetterFormsLaw" (165 : Nat) ({ cls := "LetterFormsModel", name := "signs", desc := "()I" } : Jvm.MethodName)) ∈ lw_all := lw_g (lw_at lw_m6 129 rfl) rfl
theorem q1504 : (Jvm.Cond.methodLink "LetterFormsLaw" (151 : Nat) ({ cls := "LetterFormsModel", name := "field", desc := "(I)V" } : Jvm.MethodName)) ∈ lw_all := lw_g (lw_at lw_m6 185 rfl) rfl
theorem q1508 : (Jvm.Cond.methodLink "LetterFormsLaw" (158 : Nat) ({ cls := "LetterFormsModel", name := "form", desc := "()I" } : Jvm.MethodName)) ∈ lw_all := lw_g (lw_at lw_m6 189 rfl) rfl
theorem q1529 : (Jvm.Cond.methodLink "LetterFormsLaw" (162 : Nat) ({ cls := "LetterFormsModel", name := "table", desc := "(IIII)I" } : Jvm.MethodName)) ∈ lw_all := lw_g (lw_at lw_m6 210 rfl) rfl
theorem q1553 : (Jvm.Cond.methodLink "LetterFormsLaw" (223 : Nat) ({ cls := "LetterFormsModel", name := "join", desc := "(II)I" } : Jvm.MethodName)) ∈ lw_all := lw_g (lw_at lw_m6 234 rfl) rfl
theorem q1573 : (Jvm.Cond.methodLink "LetterFormsLaw" (226 : Nat) ({ cls := "LetterFormsModel", name := "turn", desc := "(I)I" } : Jvm.MethodName)) ∈ lw_all := lw_g (lw_at lw_m7 14 rfl) rfl
theorem q1589 : (Jvm.Cond.methodLink "LetterFormsLaw" (229 : Nat) ({ cls := "LetterFormsModel", name := "told", desc := "(II)I" } : Jvm.MethodName)) ∈ lw_all := lw_g (lw_at lw_m7 30 rfl) rfl
theorem q1593 : (Jvm.Cond.methodLink "LetterFormsLaw" (181 : Nat) ({ cls := "LetterFormsModel", name := "det", desc := "(I)I" } : Jvm.MethodName)) ∈ lw_all := lw_g (lw_at lw_m7 34 rfl) rfl
theorem q1597 : (Jvm.Cond.methodLink "LetterFormsLaw" (173 : Nat) ({ cls := "LetterFormsModel", name := "look", desc := "(II)I" } : Jvm.MethodName)) ∈ lw_all := lw_g (lw_at lw_m7 38 rfl) rfl
theorem q1613 : (Jvm.Cond.methodLink "LetterFormsLaw" (177 : Nat) ({ cls := "LetterFormsModel", name := "at", desc := "(III)I" } : Jvm.MethodName)) ∈ lw_all := lw_g (lw_at lw_m7 54 rfl) rfl
theorem q1633 : (Jvm.Cond.methodLink "LetterFormsLaw" (184 : Nat) ({ cls := "LetterFormsModel", name := "mix", desc := "(II)Z" } : Jvm.MethodName)) ∈ lw_all := lw_g (lw_at lw_m7 74 rfl) rfl
theorem q1657 : (Jvm.Cond.methodLink "LetterFormsLaw" (188 : Nat) ({ cls := "LetterFormsModel", name := "undo", desc := "()I" } : Jvm.MethodName)) ∈ lw_all := lw_g (lw_at lw_m7 98 rfl) rfl
theorem q1665 : (Jvm.Cond.methodLink "LetterFormsLaw" (192 : Nat) ({ cls := "LetterFormsModel", name := "redo", desc := "()I" } : Jvm.MethodName)) ∈ lw_all := lw_g (lw_at lw_m7 106 rfl) rfl
theorem q1669 : (Jvm.Cond.methodLink "LetterFormsLaw" (195 : Nat) ({ cls := "LetterFormsModel", name := "value", desc := "(III)I" } : Jvm.MethodName)) ∈ lw_all := lw_g (lw_at lw_m7 110 rfl) rfl
theorem q1720 : (Jvm.Cond.methodLink "LetterFormsLaw" (199 : Nat) ({ cls := "LetterFormsModel", name := "rank", desc := "(IZ)I" } : Jvm.MethodName)) ∈ lw_all := lw_g (lw_at lw_m7 161 rfl) rfl
theorem q1728 : (Jvm.Cond.methodLink "LetterFormsLaw" (202 : Nat) ({ cls := "LetterFormsModel", name := "stays", desc := "(III)Z" } : Jvm.MethodName)) ∈ lw_all := lw_g (lw_at lw_m7 169 rfl) rfl
theorem q1732 : (Jvm.Cond.methodLink "LetterFormsLaw" (205 : Nat) ({ cls := "LetterFormsModel", name := "agree", desc := "(III)I" } : Jvm.MethodName)) ∈ lw_all := lw_g (lw_at lw_m7 173 rfl) rfl
theorem q1736 : (Jvm.Cond.methodLink "LetterFormsLaw" (208 : Nat) ({ cls := "LetterFormsModel", name := "count", desc := "(III)J" } : Jvm.MethodName)) ∈ lw_all := lw_g (lw_at lw_m7 177 rfl) rfl
theorem q1744 : (Jvm.Cond.methodLink "LetterFormsLaw" (211 : Nat) ({ cls := "LetterFormsModel", name := "span", desc := "(III)I" } : Jvm.MethodName)) ∈ lw_all := lw_g (lw_at lw_m7 185 rfl) rfl
theorem q1775 : (Jvm.Cond.methodLink "LetterFormsLaw" (214 : Nat) ({ cls := "LetterFormsModel", name := "basis", desc := "(III)I" } : Jvm.MethodName)) ∈ lw_all := lw_g (lw_at lw_m7 216 rfl) rfl
theorem q1779 : (Jvm.Cond.methodLink "LetterFormsLaw" (238 : Nat) ({ cls := "LetterFormsModel", name := "root", desc := "(II)I" } : Jvm.MethodName)) ∈ lw_all := lw_g (lw_at lw_m7 220 rfl) rfl
theorem q1795 : (Jvm.Cond.methodLink "LetterFormsLaw" (241 : Nat) ({ cls := "LetterFormsModel", name := "roots", desc := "(I)I" } : Jvm.MethodName)) ∈ lw_all := lw_g (lw_at lw_m7 236 rfl) rfl
theorem q1799 : (Jvm.Cond.methodLink "LetterFormsLaw" (244 : Nat) ({ cls := "LetterFormsModel", name := "empty", desc := "(I)Z" } : Jvm.MethodName)) ∈ lw_all := lw_g (lw_at lw_m8 0 rfl) rfl
theorem q1803 : (Jvm.Cond.methodLink "LetterFormsLaw" (247 : Nat) ({ cls := "LetterFormsModel", name := "same", desc := "(II)I" } : Jvm.MethodName)) ∈ lw_all := lw_g (lw_at lw_m8 4 rfl) rfl
theorem q1819 : (Jvm.Cond.methodLink "LetterFormsLaw" (250 : Nat) ({ cls := "LetterFormsModel", name := "keep", desc := "(I)I" } : Jvm.MethodName)) ∈ lw_all := lw_g (lw_at lw_m8 20 rfl) rfl
theorem q1831 : (Jvm.Cond.methodLink "LetterFormsLaw" (220 : Nat) ({ cls := "LetterFormsModel", name := "orbit", desc := "(I)I" } : Jvm.MethodName)) ∈ lw_all := lw_g (lw_at lw_m8 32 rfl) rfl
theorem q1835 : (Jvm.Cond.methodLink "LetterFormsLaw" (217 : Nat) ({ cls := "LetterFormsModel", name := "kind", desc := "(I)I" } : Jvm.MethodName)) ∈ lw_all := lw_g (lw_at lw_m8 36 rfl) rfl
theorem q1839 : (Jvm.Cond.methodLink "LetterFormsLaw" (253 : Nat) ({ cls := "LetterFormsModel", name := "powers", desc := "(II)I" } : Jvm.MethodName)) ∈ lw_all := lw_g (lw_at lw_m8 40 rfl) rfl
theorem q1867 : (Jvm.Cond.methodLink "LetterFormsLaw" (256 : Nat) ({ cls := "LetterFormsModel", name := "common", desc := "(III)I" } : Jvm.MethodName)) ∈ lw_all := lw_g (lw_at lw_m8 68 rfl) rfl
theorem q1888 : (Jvm.Cond.methodLink "LetterFormsLaw" (232 : Nat) ({ cls := "LetterFormsModel", name := "quotient", desc := "(III)I" } : Jvm.MethodName)) ∈ lw_all := lw_g (lw_at lw_m8 89 rfl) rfl
theorem q1896 : (Jvm.Cond.methodLink "LetterFormsLaw" (235 : Nat) ({ cls := "LetterFormsModel", name := "plain", desc := "(I)Z" } : Jvm.MethodName)) ∈ lw_all := lw_g (lw_at lw_m8 97 rfl) rfl
theorem q1900 : (Jvm.Cond.methodLink "LetterFormsLaw" (259 : Nat) ({ cls := "LetterFormsModel", name := "overlap", desc := "(IIII)I" } : Jvm.MethodName)) ∈ lw_all := lw_g (lw_at lw_m8 101 rfl) rfl
theorem q1904 : (Jvm.Cond.methodLink "LetterFormsLaw" (262 : Nat) ({ cls := "LetterFormsModel", name := "reduced", desc := "(IIII)J" } : Jvm.MethodName)) ∈ lw_all := lw_g (lw_at lw_m8 105 rfl) rfl
theorem q1934 : (Jvm.Cond.methodLink "LetterFormsLaw" (265 : Nat) ({ cls := "LetterFormsModel", name := "classes", desc := "(IZ)I" } : Jvm.MethodName)) ∈ lw_all := lw_g (lw_at lw_m8 135 rfl) rfl
theorem q1950 : (Jvm.Cond.methodLink "LetterFormsLaw" (268 : Nat) ({ cls := "LetterFormsModel", name := "reducedAt", desc := "(III)I" } : Jvm.MethodName)) ∈ lw_all := lw_g (lw_at lw_m8 151 rfl) rfl
theorem q1954 : (Jvm.Cond.methodLink "LetterFormsLaw" (272 : Nat) ({ cls := "LetterFormsModel", name := "real", desc := "(IIIII)I" } : Jvm.MethodName)) ∈ lw_all := lw_g (lw_at lw_m8 155 rfl) rfl
theorem q1976 : (Jvm.Cond.methodLink "LetterFormsLaw" (285 : Nat) ({ cls := "LetterFormsModel", name := "stock", desc := "(I)I" } : Jvm.MethodName)) ∈ lw_all := lw_g (lw_at lw_m8 177 rfl) rfl
/-! the law's own entry -/
set_option maxRecDepth 100000
abbrev cL_law : ByteArray := code
def dkwL_law_114 : List UInt8 := [132, 4, 6, 167, 245, 4, 4, 172]
abbrev dktL_law_114 : List UInt8 := dkwL_law_114 ++ []
def dkwL_law_113 : List UInt8 := [42, 21, 4, 4, 96, 46, 182, 1, 26, 44, 42, 21, 4, 4, 96, 46, 182, 1, 29, 159, 0, 5, 3, 172]
abbrev dktL_law_113 : List UInt8 := dkwL_law_113 ++ dktL_law_114
def dkwL_law_112 : List UInt8 := [182, 1, 17, 44, 182, 1, 20, 167, 0, 41, 43, 182, 1, 21, 44, 182, 1, 25, 159, 0, 30, 3, 172, 43]
abbrev dktL_law_112 : List UInt8 := dkwL_law_112 ++ dktL_law_113
def dkwL_law_111 : List UInt8 := [172, 21, 5, 154, 0, 15, 45, 3, 47, 21, 6, 133, 148, 153, 0, 5, 3, 172, 167, 0, 52, 43]
abbrev dktL_law_111 : List UInt8 := dkwL_law_111 ++ dktL_law_112
def dkwL_law_110 : List UInt8 := [7, 96, 46, 42, 21, 4, 8, 96, 46, 182, 1, 16, 54, 6, 44, 182, 0, 152, 21, 5, 159, 0, 5, 3]
abbrev dktL_law_110 : List UInt8 := dkwL_law_110 ++ dktL_law_111
def dkwL_law_109 : List UInt8 := [54, 5, 44, 42, 21, 4, 4, 96, 46, 42, 21, 4, 5, 96, 46, 42, 21, 4, 6, 96, 46, 42, 21, 4]
abbrev dktL_law_109 : List UInt8 := dkwL_law_109 ++ dktL_law_110
def dkwL_law_108 : List UInt8 := [46, 42, 21, 4, 6, 96, 46, 42, 21, 4, 7, 96, 46, 42, 21, 4, 8, 96, 46, 45, 184, 1, 13]
abbrev dktL_law_108 : List UInt8 := dkwL_law_108 ++ dktL_law_109
def dkwL_law_107 : List UInt8 := [21, 6, 133, 148, 153, 0, 5, 3, 172, 167, 0, 156, 43, 42, 21, 4, 4, 96, 46, 42, 21, 4, 5, 96]
abbrev dktL_law_107 : List UInt8 := dkwL_law_107 ++ dktL_law_108
def dkwL_law_106 : List UInt8 := [182, 1, 12, 54, 6, 44, 182, 0, 152, 21, 5, 159, 0, 5, 3, 172, 21, 5, 154, 0, 15, 45, 3, 47]
abbrev dktL_law_106 : List UInt8 := dkwL_law_106 ++ dktL_law_107
def dkwL_law_105 : List UInt8 := [184, 1, 10, 54, 5, 44, 42, 21, 4, 4, 96, 46, 42, 21, 4, 5, 96, 46, 42, 21, 4, 6, 96, 46]
abbrev dktL_law_105 : List UInt8 := dkwL_law_105 ++ dktL_law_106
def dkwL_law_104 : List UInt8 := [167, 0, 236, 43, 42, 21, 4, 4, 96, 46, 42, 21, 4, 5, 96, 46, 42, 21, 4, 6, 96, 46, 45]
abbrev dktL_law_104 : List UInt8 := dkwL_law_104 ++ dktL_law_105
def dkwL_law_103 : List UInt8 := [159, 0, 5, 3, 172, 21, 5, 154, 0, 15, 45, 3, 47, 21, 6, 133, 148, 153, 0, 5, 3, 172]
abbrev dktL_law_103 : List UInt8 := dkwL_law_103 ++ dktL_law_104
def dkwL_law_102 : List UInt8 := [5, 96, 46, 153, 0, 7, 4, 167, 0, 4, 3, 182, 1, 9, 54, 6, 44, 182, 0, 152, 21, 5]
abbrev dktL_law_102 : List UInt8 := dkwL_law_102 ++ dktL_law_103
def dkwL_law_101 : List UInt8 := [153, 0, 7, 4, 167, 0, 4, 3, 45, 184, 1, 7, 54, 5, 44, 42, 21, 4, 4, 96, 46, 42, 21, 4]
abbrev dktL_law_101 : List UInt8 := dkwL_law_101 ++ dktL_law_102
def dkwL_law_100 : List UInt8 := [22, 6, 148, 153, 0, 5, 3, 172, 167, 1, 64, 43, 42, 21, 4, 4, 96, 46, 42, 21, 4, 5, 96, 46]
abbrev dktL_law_100 : List UInt8 := dkwL_law_100 ++ dktL_law_101
def dkwL_law_99 : List UInt8 := [182, 1, 6, 55, 6, 44, 182, 0, 152, 21, 5, 159, 0, 5, 3, 172, 21, 5, 154, 0, 14, 45, 3, 47]
abbrev dktL_law_99 : List UInt8 := dkwL_law_99 ++ dktL_law_100
def dkwL_law_98 : List UInt8 := [42, 21, 4, 4, 96, 46, 42, 21, 4, 5, 96, 46, 42, 21, 4, 6, 96, 46, 42, 21, 4, 7, 96, 46]
abbrev dktL_law_98 : List UInt8 := dkwL_law_98 ++ dktL_law_99
def dkwL_law_97 : List UInt8 := [21, 4, 5, 96, 46, 42, 21, 4, 6, 96, 46, 42, 21, 4, 7, 96, 46, 45, 184, 1, 4, 54, 5, 44]
abbrev dktL_law_97 : List UInt8 := dkwL_law_97 ++ dktL_law_98
def dkwL_law_96 : List UInt8 := [45, 3, 47, 21, 6, 133, 148, 153, 0, 5, 3, 172, 167, 1, 155, 43, 42, 21, 4, 4, 96, 46, 42]
abbrev dktL_law_96 : List UInt8 := dkwL_law_96 ++ dktL_law_97
def dkwL_law_95 : List UInt8 := [7, 96, 46, 182, 1, 3, 54, 6, 44, 182, 0, 152, 21, 5, 159, 0, 5, 3, 172, 21, 5, 154, 0, 15]
abbrev dktL_law_95 : List UInt8 := dkwL_law_95 ++ dktL_law_96
def dkwL_law_94 : List UInt8 := [54, 5, 44, 42, 21, 4, 4, 96, 46, 42, 21, 4, 5, 96, 46, 42, 21, 4, 6, 96, 46, 42, 21, 4]
abbrev dktL_law_94 : List UInt8 := dkwL_law_94 ++ dktL_law_95
def dkwL_law_93 : List UInt8 := [46, 42, 21, 4, 5, 96, 46, 42, 21, 4, 6, 96, 46, 42, 21, 4, 7, 96, 46, 45, 184, 1, 1]
abbrev dktL_law_93 : List UInt8 := dkwL_law_93 ++ dktL_law_94
def dkwL_law_92 : List UInt8 := [154, 0, 15, 45, 3, 47, 21, 6, 133, 148, 153, 0, 5, 3, 172, 167, 1, 247, 43, 42, 21, 4, 4, 96]
abbrev dktL_law_92 : List UInt8 := dkwL_law_92 ++ dktL_law_93
def dkwL_law_91 : List UInt8 := [42, 21, 4, 6, 96, 46, 182, 1, 0, 54, 6, 44, 182, 0, 152, 21, 5, 159, 0, 5, 3, 172, 21, 5]
abbrev dktL_law_91 : List UInt8 := dkwL_law_91 ++ dktL_law_92
def dkwL_law_90 : List UInt8 := [21, 4, 6, 96, 46, 45, 184, 0, 254, 54, 5, 44, 42, 21, 4, 4, 96, 46, 42, 21, 4, 5, 96, 46]
abbrev dktL_law_90 : List UInt8 := dkwL_law_90 ++ dktL_law_91
def dkwL_law_89 : List UInt8 := [148, 153, 0, 5, 3, 172, 167, 2, 71, 43, 42, 21, 4, 4, 96, 46, 42, 21, 4, 5, 96, 46, 42]
abbrev dktL_law_89 : List UInt8 := dkwL_law_89 ++ dktL_law_90
def dkwL_law_88 : List UInt8 := [54, 6, 44, 182, 0, 152, 21, 5, 159, 0, 5, 3, 172, 21, 5, 154, 0, 15, 45, 3, 47, 21, 6, 133]
abbrev dktL_law_88 : List UInt8 := dkwL_law_88 ++ dktL_law_89
def dkwL_law_87 : List UInt8 := [46, 45, 184, 0, 251, 54, 5, 44, 42, 21, 4, 4, 96, 46, 42, 21, 4, 5, 96, 46, 182, 0, 253]
abbrev dktL_law_87 : List UInt8 := dkwL_law_87 ++ dktL_law_88
def dkwL_law_86 : List UInt8 := [21, 6, 133, 148, 153, 0, 5, 3, 172, 167, 2, 139, 43, 42, 21, 4, 4, 96, 46, 42, 21, 4, 5, 96]
abbrev dktL_law_86 : List UInt8 := dkwL_law_86 ++ dktL_law_87
def dkwL_law_85 : List UInt8 := [182, 0, 250, 54, 6, 44, 182, 0, 152, 21, 5, 159, 0, 5, 3, 172, 21, 5, 154, 0, 15, 45, 3, 47]
abbrev dktL_law_85 : List UInt8 := dkwL_law_85 ++ dktL_law_86
def dkwL_law_84 : List UInt8 := [167, 2, 195, 43, 42, 21, 4, 4, 96, 46, 45, 184, 0, 248, 54, 5, 44, 42, 21, 4, 4, 96, 46]
abbrev dktL_law_84 : List UInt8 := dkwL_law_84 ++ dktL_law_85
def dkwL_law_83 : List UInt8 := [159, 0, 5, 3, 172, 21, 5, 154, 0, 15, 45, 3, 47, 21, 6, 133, 148, 153, 0, 5, 3, 172]
abbrev dktL_law_83 : List UInt8 := dkwL_law_83 ++ dktL_law_84
def dkwL_law_82 : List UInt8 := [42, 21, 4, 4, 96, 46, 42, 21, 4, 5, 96, 46, 182, 0, 247, 54, 6, 44, 182, 0, 152, 21, 5]
abbrev dktL_law_82 : List UInt8 := dkwL_law_82 ++ dktL_law_83
def dkwL_law_81 : List UInt8 := [172, 167, 3, 7, 43, 42, 21, 4, 4, 96, 46, 42, 21, 4, 5, 96, 46, 45, 184, 0, 245, 54, 5, 44]
abbrev dktL_law_81 : List UInt8 := dkwL_law_81 ++ dktL_law_82
def dkwL_law_80 : List UInt8 := [172, 21, 5, 154, 0, 22, 45, 3, 47, 21, 6, 153, 0, 7, 10, 167, 0, 4, 9, 148, 153, 0, 5, 3]
abbrev dktL_law_80 : List UInt8 := dkwL_law_80 ++ dktL_law_81
def dkwL_law_79 : List UInt8 := [54, 5, 44, 42, 21, 4, 4, 96, 46, 182, 0, 244, 54, 6, 44, 182, 0, 152, 21, 5, 159, 0, 5, 3]
abbrev dktL_law_79 : List UInt8 := dkwL_law_79 ++ dktL_law_80
def dkwL_law_78 : List UInt8 := [21, 6, 133, 148, 153, 0, 5, 3, 172, 167, 3, 70, 43, 42, 21, 4, 4, 96, 46, 45, 184, 0, 242]
abbrev dktL_law_78 : List UInt8 := dkwL_law_78 ++ dktL_law_79
def dkwL_law_77 : List UInt8 := [182, 0, 241, 54, 6, 44, 182, 0, 152, 21, 5, 159, 0, 5, 3, 172, 21, 5, 154, 0, 15, 45, 3, 47]
abbrev dktL_law_77 : List UInt8 := dkwL_law_77 ++ dktL_law_78
def dkwL_law_76 : List UInt8 := [167, 3, 126, 43, 42, 21, 4, 4, 96, 46, 45, 184, 0, 239, 54, 5, 44, 42, 21, 4, 4, 96, 46]
abbrev dktL_law_76 : List UInt8 := dkwL_law_76 ++ dktL_law_77
def dkwL_law_75 : List UInt8 := [159, 0, 5, 3, 172, 21, 5, 154, 0, 15, 45, 3, 47, 21, 6, 133, 148, 153, 0, 5, 3, 172]
abbrev dktL_law_75 : List UInt8 := dkwL_law_75 ++ dktL_law_76
def dkwL_law_74 : List UInt8 := [42, 21, 4, 4, 96, 46, 42, 21, 4, 5, 96, 46, 182, 0, 238, 54, 6, 44, 182, 0, 152, 21, 5]
abbrev dktL_law_74 : List UInt8 := dkwL_law_74 ++ dktL_law_75
def dkwL_law_73 : List UInt8 := [172, 167, 3, 194, 43, 42, 21, 4, 4, 96, 46, 42, 21, 4, 5, 96, 46, 45, 184, 0, 236, 54, 5, 44]
abbrev dktL_law_73 : List UInt8 := dkwL_law_73 ++ dktL_law_74
def dkwL_law_72 : List UInt8 := [172, 21, 5, 154, 0, 22, 45, 3, 47, 21, 6, 153, 0, 7, 10, 167, 0, 4, 9, 148, 153, 0, 5, 3]
abbrev dktL_law_72 : List UInt8 := dkwL_law_72 ++ dktL_law_73
def dkwL_law_71 : List UInt8 := [54, 5, 44, 42, 21, 4, 4, 96, 46, 182, 0, 235, 54, 6, 44, 182, 0, 152, 21, 5, 159, 0, 5, 3]
abbrev dktL_law_71 : List UInt8 := dkwL_law_71 ++ dktL_law_72
def dkwL_law_70 : List UInt8 := [21, 6, 133, 148, 153, 0, 5, 3, 172, 167, 4, 1, 43, 42, 21, 4, 4, 96, 46, 45, 184, 0, 233]
abbrev dktL_law_70 : List UInt8 := dkwL_law_70 ++ dktL_law_71
def dkwL_law_69 : List UInt8 := [182, 0, 232, 54, 6, 44, 182, 0, 152, 21, 5, 159, 0, 5, 3, 172, 21, 5, 154, 0, 15, 45, 3, 47]
abbrev dktL_law_69 : List UInt8 := dkwL_law_69 ++ dktL_law_70
def dkwL_law_68 : List UInt8 := [184, 0, 230, 54, 5, 44, 42, 21, 4, 4, 96, 46, 42, 21, 4, 5, 96, 46, 42, 21, 4, 6, 96, 46]
abbrev dktL_law_68 : List UInt8 := dkwL_law_68 ++ dktL_law_69
def dkwL_law_67 : List UInt8 := [167, 4, 81, 43, 42, 21, 4, 4, 96, 46, 42, 21, 4, 5, 96, 46, 42, 21, 4, 6, 96, 46, 45]
abbrev dktL_law_67 : List UInt8 := dkwL_law_67 ++ dktL_law_68
def dkwL_law_66 : List UInt8 := [159, 0, 5, 3, 172, 21, 5, 154, 0, 15, 45, 3, 47, 21, 6, 133, 148, 153, 0, 5, 3, 172]
abbrev dktL_law_66 : List UInt8 := dkwL_law_66 ++ dktL_law_67
def dkwL_law_65 : List UInt8 := [21, 4, 4, 96, 46, 42, 21, 4, 5, 96, 46, 182, 0, 229, 54, 6, 44, 182, 0, 152, 21, 5]
abbrev dktL_law_65 : List UInt8 := dkwL_law_65 ++ dktL_law_66
def dkwL_law_64 : List UInt8 := [167, 4, 149, 43, 42, 21, 4, 4, 96, 46, 42, 21, 4, 5, 96, 46, 45, 184, 0, 227, 54, 5, 44, 42]
abbrev dktL_law_64 : List UInt8 := dkwL_law_64 ++ dktL_law_65
def dkwL_law_63 : List UInt8 := [159, 0, 5, 3, 172, 21, 5, 154, 0, 15, 45, 3, 47, 21, 6, 133, 148, 153, 0, 5, 3, 172]
abbrev dktL_law_63 : List UInt8 := dkwL_law_63 ++ dktL_law_64
def dkwL_law_62 : List UInt8 := [184, 0, 224, 54, 5, 44, 42, 21, 4, 4, 96, 46, 182, 0, 226, 54, 6, 44, 182, 0, 152, 21, 5]
abbrev dktL_law_62 : List UInt8 := dkwL_law_62 ++ dktL_law_63
def dkwL_law_61 : List UInt8 := [3, 47, 21, 6, 133, 148, 153, 0, 5, 3, 172, 167, 4, 205, 43, 42, 21, 4, 4, 96, 46, 45]
abbrev dktL_law_61 : List UInt8 := dkwL_law_61 ++ dktL_law_62
def dkwL_law_60 : List UInt8 := [96, 46, 182, 0, 223, 54, 6, 44, 182, 0, 152, 21, 5, 159, 0, 5, 3, 172, 21, 5, 154, 0, 15, 45]
abbrev dktL_law_60 : List UInt8 := dkwL_law_60 ++ dktL_law_61
def dkwL_law_59 : List UInt8 := [46, 42, 21, 4, 5, 96, 46, 45, 184, 0, 221, 54, 5, 44, 42, 21, 4, 4, 96, 46, 42, 21, 4, 5]
abbrev dktL_law_59 : List UInt8 := dkwL_law_59 ++ dktL_law_60
def dkwL_law_58 : List UInt8 := [154, 0, 15, 45, 3, 47, 21, 6, 133, 148, 153, 0, 5, 3, 172, 167, 5, 17, 43, 42, 21, 4, 4, 96]
abbrev dktL_law_58 : List UInt8 := dkwL_law_58 ++ dktL_law_59
def dkwL_law_57 : List UInt8 := [21, 4, 4, 96, 46, 182, 0, 220, 54, 6, 44, 182, 0, 152, 21, 5, 159, 0, 5, 3, 172, 21, 5]
abbrev dktL_law_57 : List UInt8 := dkwL_law_57 ++ dktL_law_58
def dkwL_law_56 : List UInt8 := [153, 0, 5, 3, 172, 167, 5, 73, 43, 42, 21, 4, 4, 96, 46, 45, 184, 0, 218, 54, 5, 44, 42]
abbrev dktL_law_56 : List UInt8 := dkwL_law_56 ++ dktL_law_57
def dkwL_law_55 : List UInt8 := [182, 0, 152, 21, 5, 159, 0, 5, 3, 172, 21, 5, 154, 0, 15, 45, 3, 47, 21, 6, 133, 148]
abbrev dktL_law_55 : List UInt8 := dkwL_law_55 ++ dktL_law_56
def dkwL_law_54 : List UInt8 := [21, 4, 4, 96, 46, 45, 184, 0, 215, 54, 5, 44, 42, 21, 4, 4, 96, 46, 182, 0, 217, 54, 6, 44]
abbrev dktL_law_54 : List UInt8 := dkwL_law_54 ++ dktL_law_55
def dkwL_law_53 : List UInt8 := [172, 21, 5, 154, 0, 15, 45, 3, 47, 21, 6, 133, 148, 153, 0, 5, 3, 172, 167, 5, 129, 43, 42]
abbrev dktL_law_53 : List UInt8 := dkwL_law_53 ++ dktL_law_54
def dkwL_law_52 : List UInt8 := [5, 96, 46, 42, 21, 4, 6, 96, 46, 182, 0, 214, 54, 6, 44, 182, 0, 152, 21, 5, 159, 0, 5, 3]
abbrev dktL_law_52 : List UInt8 := dkwL_law_52 ++ dktL_law_53
def dkwL_law_51 : List UInt8 := [96, 46, 42, 21, 4, 6, 96, 46, 45, 184, 0, 212, 54, 5, 44, 42, 21, 4, 4, 96, 46, 42, 21, 4]
abbrev dktL_law_51 : List UInt8 := dkwL_law_51 ++ dktL_law_52
def dkwL_law_50 : List UInt8 := [47, 21, 6, 133, 148, 153, 0, 5, 3, 172, 167, 5, 209, 43, 42, 21, 4, 4, 96, 46, 42, 21, 4, 5]
abbrev dktL_law_50 : List UInt8 := dkwL_law_50 ++ dktL_law_51
def dkwL_law_49 : List UInt8 := [46, 182, 0, 211, 54, 6, 44, 182, 0, 152, 21, 5, 159, 0, 5, 3, 172, 21, 5, 154, 0, 15, 45, 3]
abbrev dktL_law_49 : List UInt8 := dkwL_law_49 ++ dktL_law_50
def dkwL_law_48 : List UInt8 := [45, 184, 0, 209, 54, 5, 44, 42, 21, 4, 4, 96, 46, 42, 21, 4, 5, 96, 46, 42, 21, 4, 6, 96]
abbrev dktL_law_48 : List UInt8 := dkwL_law_48 ++ dktL_law_49
def dkwL_law_47 : List UInt8 := [3, 172, 167, 6, 33, 43, 42, 21, 4, 4, 96, 46, 42, 21, 4, 5, 96, 46, 42, 21, 4, 6, 96, 46]
abbrev dktL_law_47 : List UInt8 := dkwL_law_47 ++ dktL_law_48
def dkwL_law_46 : List UInt8 := [182, 0, 152, 21, 5, 159, 0, 5, 3, 172, 21, 5, 154, 0, 14, 45, 3, 47, 22, 6, 148, 153, 0, 5]
abbrev dktL_law_46 : List UInt8 := dkwL_law_46 ++ dktL_law_47
def dkwL_law_45 : List UInt8 := [42, 21, 4, 4, 96, 46, 42, 21, 4, 5, 96, 46, 42, 21, 4, 6, 96, 46, 182, 0, 208, 55, 6, 44]
abbrev dktL_law_45 : List UInt8 := dkwL_law_45 ++ dktL_law_46
def dkwL_law_44 : List UInt8 := [21, 4, 4, 96, 46, 42, 21, 4, 5, 96, 46, 42, 21, 4, 6, 96, 46, 45, 184, 0, 206, 54, 5, 44]
abbrev dktL_law_44 : List UInt8 := dkwL_law_44 ++ dktL_law_45
def dkwL_law_43 : List UInt8 := [172, 21, 5, 154, 0, 15, 45, 3, 47, 21, 6, 133, 148, 153, 0, 5, 3, 172, 167, 6, 112, 43, 42]
abbrev dktL_law_43 : List UInt8 := dkwL_law_43 ++ dktL_law_44
def dkwL_law_42 : List UInt8 := [5, 96, 46, 42, 21, 4, 6, 96, 46, 182, 0, 205, 54, 6, 44, 182, 0, 152, 21, 5, 159, 0, 5, 3]
abbrev dktL_law_42 : List UInt8 := dkwL_law_42 ++ dktL_law_43
def dkwL_law_41 : List UInt8 := [96, 46, 42, 21, 4, 6, 96, 46, 45, 184, 0, 203, 54, 5, 44, 42, 21, 4, 4, 96, 46, 42, 21, 4]
abbrev dktL_law_41 : List UInt8 := dkwL_law_41 ++ dktL_law_42
def dkwL_law_40 : List UInt8 := [167, 0, 4, 9, 148, 153, 0, 5, 3, 172, 167, 6, 192, 43, 42, 21, 4, 4, 96, 46, 42, 21, 4, 5]
abbrev dktL_law_40 : List UInt8 := dkwL_law_40 ++ dktL_law_41
def dkwL_law_39 : List UInt8 := [182, 0, 152, 21, 5, 159, 0, 5, 3, 172, 21, 5, 154, 0, 22, 45, 3, 47, 21, 6, 153, 0, 7, 10]
abbrev dktL_law_39 : List UInt8 := dkwL_law_39 ++ dktL_law_40
def dkwL_law_38 : List UInt8 := [21, 4, 4, 96, 46, 42, 21, 4, 5, 96, 46, 42, 21, 4, 6, 96, 46, 182, 0, 202, 54, 6, 44]
abbrev dktL_law_38 : List UInt8 := dkwL_law_38 ++ dktL_law_39
def dkwL_law_37 : List UInt8 := [4, 96, 46, 42, 21, 4, 5, 96, 46, 42, 21, 4, 6, 96, 46, 45, 184, 0, 200, 54, 5, 44, 42]
abbrev dktL_law_37 : List UInt8 := dkwL_law_37 ++ dktL_law_38
def dkwL_law_36 : List UInt8 := [21, 5, 154, 0, 15, 45, 3, 47, 21, 6, 133, 148, 153, 0, 5, 3, 172, 167, 7, 23, 43, 42, 21, 4]
abbrev dktL_law_36 : List UInt8 := dkwL_law_36 ++ dktL_law_37
def dkwL_law_35 : List UInt8 := [153, 0, 7, 4, 167, 0, 4, 3, 182, 0, 199, 54, 6, 44, 182, 0, 152, 21, 5, 159, 0, 5, 3, 172]
abbrev dktL_law_35 : List UInt8 := dkwL_law_35 ++ dktL_law_36
def dkwL_law_34 : List UInt8 := [4, 167, 0, 4, 3, 45, 184, 0, 196, 54, 5, 44, 42, 21, 4, 4, 96, 46, 42, 21, 4, 5, 96, 46]
abbrev dktL_law_34 : List UInt8 := dkwL_law_34 ++ dktL_law_35
def dkwL_law_33 : List UInt8 := [153, 0, 5, 3, 172, 167, 7, 107, 43, 42, 21, 4, 4, 96, 46, 42, 21, 4, 5, 96, 46, 153, 0, 7]
abbrev dktL_law_33 : List UInt8 := dkwL_law_33 ++ dktL_law_34
def dkwL_law_32 : List UInt8 := [182, 0, 152, 21, 5, 159, 0, 5, 3, 172, 21, 5, 154, 0, 15, 45, 3, 47, 21, 6, 133, 148]
abbrev dktL_law_32 : List UInt8 := dkwL_law_32 ++ dktL_law_33
def dkwL_law_31 : List UInt8 := [42, 21, 4, 4, 96, 46, 42, 21, 4, 5, 96, 46, 42, 21, 4, 6, 96, 46, 182, 0, 195, 54, 6, 44]
abbrev dktL_law_31 : List UInt8 := dkwL_law_31 ++ dktL_law_32
def dkwL_law_30 : List UInt8 := [21, 4, 4, 96, 46, 42, 21, 4, 5, 96, 46, 42, 21, 4, 6, 96, 46, 45, 184, 0, 193, 54, 5, 44]
abbrev dktL_law_30 : List UInt8 := dkwL_law_30 ++ dktL_law_31
def dkwL_law_29 : List UInt8 := [182, 0, 188, 159, 7, 202, 3, 172, 43, 182, 0, 189, 44, 182, 0, 192, 159, 7, 189, 3, 172, 43, 42]
abbrev dktL_law_29 : List UInt8 := dkwL_law_29 ++ dktL_law_30
def dkwL_law_28 : List UInt8 := [153, 0, 7, 10, 167, 0, 4, 9, 148, 153, 0, 5, 3, 172, 167, 7, 213, 43, 182, 0, 185, 44]
abbrev dktL_law_28 : List UInt8 := dkwL_law_28 ++ dktL_law_29
def dkwL_law_27 : List UInt8 := [54, 6, 44, 182, 0, 152, 21, 5, 159, 0, 5, 3, 172, 21, 5, 154, 0, 22, 45, 3, 47, 21, 6]
abbrev dktL_law_27 : List UInt8 := dkwL_law_27 ++ dktL_law_28
def dkwL_law_26 : List UInt8 := [46, 45, 184, 0, 182, 54, 5, 44, 42, 21, 4, 4, 96, 46, 42, 21, 4, 5, 96, 46, 182, 0, 184]
abbrev dktL_law_26 : List UInt8 := dkwL_law_26 ++ dktL_law_27
def dkwL_law_25 : List UInt8 := [21, 6, 133, 148, 153, 0, 5, 3, 172, 167, 8, 32, 43, 42, 21, 4, 4, 96, 46, 42, 21, 4, 5, 96]
abbrev dktL_law_25 : List UInt8 := dkwL_law_25 ++ dktL_law_26
def dkwL_law_24 : List UInt8 := [182, 0, 181, 54, 6, 44, 182, 0, 152, 21, 5, 159, 0, 5, 3, 172, 21, 5, 154, 0, 15, 45, 3, 47]
abbrev dktL_law_24 : List UInt8 := dkwL_law_24 ++ dktL_law_25
def dkwL_law_23 : List UInt8 := [167, 8, 88, 43, 42, 21, 4, 4, 96, 46, 45, 184, 0, 178, 54, 5, 44, 42, 21, 4, 4, 96, 46]
abbrev dktL_law_23 : List UInt8 := dkwL_law_23 ++ dktL_law_24
def dkwL_law_22 : List UInt8 := [21, 5, 159, 0, 5, 3, 172, 21, 5, 154, 0, 15, 45, 3, 47, 21, 6, 133, 148, 153, 0, 5, 3, 172]
abbrev dktL_law_22 : List UInt8 := dkwL_law_22 ++ dktL_law_23
def dkwL_law_21 : List UInt8 := [96, 46, 42, 21, 4, 5, 96, 46, 42, 21, 4, 6, 96, 46, 182, 0, 177, 54, 6, 44, 182, 0, 152]
abbrev dktL_law_21 : List UInt8 := dkwL_law_21 ++ dktL_law_22
def dkwL_law_20 : List UInt8 := [46, 42, 21, 4, 5, 96, 46, 42, 21, 4, 6, 96, 46, 45, 184, 0, 174, 54, 5, 44, 42, 21, 4, 4]
abbrev dktL_law_20 : List UInt8 := dkwL_law_20 ++ dktL_law_21
def dkwL_law_19 : List UInt8 := [154, 0, 15, 45, 3, 47, 21, 6, 133, 148, 153, 0, 5, 3, 172, 167, 8, 168, 43, 42, 21, 4, 4, 96]
abbrev dktL_law_19 : List UInt8 := dkwL_law_19 ++ dktL_law_20
def dkwL_law_18 : List UInt8 := [42, 21, 4, 5, 96, 46, 182, 0, 173, 54, 6, 44, 182, 0, 152, 21, 5, 159, 0, 5, 3, 172, 21, 5]
abbrev dktL_law_18 : List UInt8 := dkwL_law_18 ++ dktL_law_19
def dkwL_law_17 : List UInt8 := [21, 4, 4, 96, 46, 42, 21, 4, 5, 96, 46, 45, 184, 0, 170, 54, 5, 44, 42, 21, 4, 4, 96, 46]
abbrev dktL_law_17 : List UInt8 := dkwL_law_17 ++ dktL_law_18
def dkwL_law_16 : List UInt8 := [153, 0, 5, 3, 172, 167, 8, 249, 43, 182, 0, 166, 44, 182, 0, 169, 159, 8, 238, 3, 172, 43, 42]
abbrev dktL_law_16 : List UInt8 := dkwL_law_16 ++ dktL_law_17
def dkwL_law_15 : List UInt8 := [182, 0, 152, 21, 5, 159, 0, 5, 3, 172, 21, 5, 154, 0, 15, 45, 3, 47, 21, 6, 133, 148]
abbrev dktL_law_15 : List UInt8 := dkwL_law_15 ++ dktL_law_16
def dkwL_law_14 : List UInt8 := [148, 153, 0, 5, 3, 172, 167, 9, 37, 43, 45, 184, 0, 163, 54, 5, 44, 182, 0, 165, 54, 6, 44]
abbrev dktL_law_14 : List UInt8 := dkwL_law_14 ++ dktL_law_15
def dkwL_law_13 : List UInt8 := [54, 6, 44, 182, 0, 152, 21, 5, 159, 0, 5, 3, 172, 21, 5, 154, 0, 15, 45, 3, 47, 21, 6, 133]
abbrev dktL_law_13 : List UInt8 := dkwL_law_13 ++ dktL_law_14
def dkwL_law_12 : List UInt8 := [96, 46, 42, 21, 4, 5, 96, 46, 42, 21, 4, 6, 96, 46, 42, 21, 4, 7, 96, 46, 182, 0, 162]
abbrev dktL_law_12 : List UInt8 := dkwL_law_12 ++ dktL_law_13
def dkwL_law_11 : List UInt8 := [46, 42, 21, 4, 6, 96, 46, 42, 21, 4, 7, 96, 46, 45, 184, 0, 159, 54, 5, 44, 42, 21, 4, 4]
abbrev dktL_law_11 : List UInt8 := dkwL_law_11 ++ dktL_law_12
def dkwL_law_10 : List UInt8 := [21, 6, 133, 148, 153, 0, 5, 3, 172, 167, 9, 129, 43, 42, 21, 4, 4, 96, 46, 42, 21, 4, 5, 96]
abbrev dktL_law_10 : List UInt8 := dkwL_law_10 ++ dktL_law_11
def dkwL_law_9 : List UInt8 := [182, 0, 158, 54, 6, 44, 182, 0, 152, 21, 5, 159, 0, 5, 3, 172, 21, 5, 154, 0, 15, 45, 3, 47]
abbrev dktL_law_9 : List UInt8 := dkwL_law_9 ++ dktL_law_10
def dkwL_law_8 : List UInt8 := [44, 182, 0, 152, 21, 5, 159, 0, 5, 3, 172, 167, 9, 173, 43, 45, 184, 0, 155, 54, 5, 44]
abbrev dktL_law_8 : List UInt8 := dkwL_law_8 ++ dktL_law_9
def dkwL_law_7 : List UInt8 := [3, 172, 43, 42, 21, 4, 4, 96, 46, 184, 0, 146, 54, 5, 44, 42, 21, 4, 4, 96, 46, 182, 0, 151]
abbrev dktL_law_7 : List UInt8 := dkwL_law_7 ++ dktL_law_8
def dkwL_law_6 : List UInt8 := [172, 43, 42, 21, 4, 4, 96, 46, 182, 0, 142, 44, 42, 21, 4, 4, 96, 46, 182, 0, 145, 159, 9, 211]
abbrev dktL_law_6 : List UInt8 := dkwL_law_6 ++ dktL_law_7
def dkwL_law_5 : List UInt8 := [21, 4, 6, 96, 46, 42, 21, 4, 7, 96, 46, 42, 21, 4, 8, 96, 46, 182, 0, 141, 159, 9, 236, 3]
abbrev dktL_law_5 : List UInt8 := dkwL_law_5 ++ dktL_law_6
def dkwL_law_4 : List UInt8 := [46, 42, 21, 4, 8, 96, 46, 182, 0, 138, 44, 42, 21, 4, 4, 96, 46, 42, 21, 4, 5, 96, 46, 42]
abbrev dktL_law_4 : List UInt8 := dkwL_law_4 ++ dktL_law_5
def dkwL_law_3 : List UInt8 := [43, 42, 21, 4, 4, 96, 46, 42, 21, 4, 5, 96, 46, 42, 21, 4, 6, 96, 46, 42, 21, 4, 7, 96]
abbrev dktL_law_3 : List UInt8 := dkwL_law_3 ++ dktL_law_4
def dkwL_law_2 : List UInt8 := [170, 0, 0, 0, 0, 0, 10, 232, 0, 0, 0, 0, 0, 0, 0, 41, 0, 0, 0, 184, 0, 0, 1, 1, 0, 0, 1, 26, 0, 0, 1, 62, 0, 0, 1, 106, 0, 0, 1, 198, 0, 0, 1, 242, 0, 0, 1, 255, 0, 0, 2, 67, 0, 0, 2, 147, 0, 0, 2, 203, 0, 0, 3, 22, 0, 0, 3, 35, 0, 0, 3, 48, 0, 0, 3, 128, 0, 0, 3, 212, 0, 0, 4, 43, 0, 0, 4, 123, 0, 0, 4, 202, 0, 0, 5, 26, 0, 0, 5, 106, 0, 0, 5, 162, 0, 0, 5, 218, 0, 0, 6, 30, 0, 0, 6, 86, 0, 0, 6, 154, 0, 0, 6, 234, 0, 0, 7, 41, 0, 0, 7, 109, 0, 0, 7, 165, 0, 0, 7, 228, 0, 0, 8, 40, 0, 0, 8, 96, 0, 0, 8, 164, 0, 0, 8, 244, 0, 0, 9, 80, 0, 0, 9, 171, 0, 0, 9, 255, 0, 0, 10, 79, 0, 0, 10, 183, 0, 0, 10, 194, 0, 0, 10, 207]
abbrev dktL_law_2 : List UInt8 := dkwL_law_2 ++ dktL_law_3
def dkwL_law_1 : List UInt8 := [21, 4, 42, 190, 16, 6, 100, 163, 10, 248, 42, 21, 4, 46, 16, 63, 126]
abbrev dktL_law_1 : List UInt8 := dkwL_law_1 ++ dktL_law_2
def dkwL_law_0 : List UInt8 := [187, 0, 8, 89, 183, 0, 134, 76, 187, 0, 135, 89, 183, 0, 137, 77, 4, 188, 11, 78, 3, 54, 4]
abbrev dktL_law_0 : List UInt8 := dkwL_law_0 ++ dktL_law_1
theorem dksL_law_0 : cL_law.data.toList.drop 0 = dktL_law_0 := by decide +kernel
theorem dksL_law_1 : cL_law.data.toList.drop 23 = dktL_law_1 := dk_seg dksL_law_0 23 rfl rfl
theorem dksL_law_2 : cL_law.data.toList.drop 40 = dktL_law_2 := dk_seg dksL_law_1 17 rfl rfl
theorem dksL_law_3 : cL_law.data.toList.drop 224 = dktL_law_3 := dk_seg dksL_law_2 184 rfl rfl
theorem dksL_law_4 : cL_law.data.toList.drop 248 = dktL_law_4 := dk_seg dksL_law_3 24 rfl rfl
theorem dksL_law_5 : cL_law.data.toList.drop 272 = dktL_law_5 := dk_seg dksL_law_4 24 rfl rfl
theorem dksL_law_6 : cL_law.data.toList.drop 296 = dktL_law_6 := dk_seg dksL_law_5 24 rfl rfl
theorem dksL_law_7 : cL_law.data.toList.drop 320 = dktL_law_7 := dk_seg dksL_law_6 24 rfl rfl
theorem dksL_law_8 : cL_law.data.toList.drop 344 = dktL_law_8 := dk_seg dksL_law_7 24 rfl rfl
theorem dksL_law_9 : cL_law.data.toList.drop 366 = dktL_law_9 := dk_seg dksL_law_8 22 rfl rfl
theorem dksL_law_10 : cL_law.data.toList.drop 390 = dktL_law_10 := dk_seg dksL_law_9 24 rfl rfl
theorem dksL_law_11 : cL_law.data.toList.drop 414 = dktL_law_11 := dk_seg dksL_law_10 24 rfl rfl
theorem dksL_law_12 : cL_law.data.toList.drop 438 = dktL_law_12 := dk_seg dksL_law_11 24 rfl rfl
theorem dksL_law_13 : cL_law.data.toList.drop 461 = dktL_law_13 := dk_seg dksL_law_12 23 rfl rfl
theorem dksL_law_14 : cL_law.data.toList.drop 485 = dktL_law_14 := dk_seg dksL_law_13 24 rfl rfl
theorem dksL_law_15 : cL_law.data.toList.drop 508 = dktL_law_15 := dk_seg dksL_law_14 23 rfl rfl
theorem dksL_law_16 : cL_law.data.toList.drop 530 = dktL_law_16 := dk_seg dksL_law_15 22 rfl rfl
theorem dksL_law_17 : cL_law.data.toList.drop 553 = dktL_law_17 := dk_seg dksL_law_16 23 rfl rfl
theorem dksL_law_18 : cL_law.data.toList.drop 577 = dktL_law_18 := dk_seg dksL_law_17 24 rfl rfl
theorem dksL_law_19 : cL_law.data.toList.drop 601 = dktL_law_19 := dk_seg dksL_law_18 24 rfl rfl
theorem dksL_law_20 : cL_law.data.toList.drop 625 = dktL_law_20 := dk_seg dksL_law_19 24 rfl rfl
theorem dksL_law_21 : cL_law.data.toList.drop 649 = dktL_law_21 := dk_seg dksL_law_20 24 rfl rfl
theorem dksL_law_22 : cL_law.data.toList.drop 672 = dktL_law_22 := dk_seg dksL_law_21 23 rfl rfl
theorem dksL_law_23 : cL_law.data.toList.drop 696 = dktL_law_23 := dk_seg dksL_law_22 24 rfl rfl
theorem dksL_law_24 : cL_law.data.toList.drop 719 = dktL_law_24 := dk_seg dksL_law_23 23 rfl rfl
theorem dksL_law_25 : cL_law.data.toList.drop 743 = dktL_law_25 := dk_seg dksL_law_24 24 rfl rfl
theorem dksL_law_26 : cL_law.data.toList.drop 767 = dktL_law_26 := dk_seg dksL_law_25 24 rfl rfl
theorem dksL_law_27 : cL_law.data.toList.drop 790 = dktL_law_27 := dk_seg dksL_law_26 23 rfl rfl
theorem dksL_law_28 : cL_law.data.toList.drop 813 = dktL_law_28 := dk_seg dksL_law_27 23 rfl rfl
theorem dksL_law_29 : cL_law.data.toList.drop 835 = dktL_law_29 := dk_seg dksL_law_28 22 rfl rfl
theorem dksL_law_30 : cL_law.data.toList.drop 858 = dktL_law_30 := dk_seg dksL_law_29 23 rfl rfl
theorem dksL_law_31 : cL_law.data.toList.drop 882 = dktL_law_31 := dk_seg dksL_law_30 24 rfl rfl
theorem dksL_law_32 : cL_law.data.toList.drop 906 = dktL_law_32 := dk_seg dksL_law_31 24 rfl rfl
theorem dksL_law_33 : cL_law.data.toList.drop 928 = dktL_law_33 := dk_seg dksL_law_32 22 rfl rfl
theorem dksL_law_34 : cL_law.data.toList.drop 952 = dktL_law_34 := dk_seg dksL_law_33 24 rfl rfl
theorem dksL_law_35 : cL_law.data.toList.drop 976 = dktL_law_35 := dk_seg dksL_law_34 24 rfl rfl
theorem dksL_law_36 : cL_law.data.toList.drop 1000 = dktL_law_36 := dk_seg dksL_law_35 24 rfl rfl
theorem dksL_law_37 : cL_law.data.toList.drop 1024 = dktL_law_37 := dk_seg dksL_law_36 24 rfl rfl
theorem dksL_law_38 : cL_law.data.toList.drop 1047 = dktL_law_38 := dk_seg dksL_law_37 23 rfl rfl
theorem dksL_law_39 : cL_law.data.toList.drop 1070 = dktL_law_39 := dk_seg dksL_law_38 23 rfl rfl
theorem dksL_law_40 : cL_law.data.toList.drop 1094 = dktL_law_40 := dk_seg dksL_law_39 24 rfl rfl
theorem dksL_law_41 : cL_law.data.toList.drop 1118 = dktL_law_41 := dk_seg dksL_law_40 24 rfl rfl
theorem dksL_law_42 : cL_law.data.toList.drop 1142 = dktL_law_42 := dk_seg dksL_law_41 24 rfl rfl
theorem dksL_law_43 : cL_law.data.toList.drop 1166 = dktL_law_43 := dk_seg dksL_law_42 24 rfl rfl
theorem dksL_law_44 : cL_law.data.toList.drop 1189 = dktL_law_44 := dk_seg dksL_law_43 23 rfl rfl
theorem dksL_law_45 : cL_law.data.toList.drop 1213 = dktL_law_45 := dk_seg dksL_law_44 24 rfl rfl
theorem dksL_law_46 : cL_law.data.toList.drop 1237 = dktL_law_46 := dk_seg dksL_law_45 24 rfl rfl
theorem dksL_law_47 : cL_law.data.toList.drop 1261 = dktL_law_47 := dk_seg dksL_law_46 24 rfl rfl
theorem dksL_law_48 : cL_law.data.toList.drop 1285 = dktL_law_48 := dk_seg dksL_law_47 24 rfl rfl
theorem dksL_law_49 : cL_law.data.toList.drop 1309 = dktL_law_49 := dk_seg dksL_law_48 24 rfl rfl
theorem dksL_law_50 : cL_law.data.toList.drop 1333 = dktL_law_50 := dk_seg dksL_law_49 24 rfl rfl
theorem dksL_law_51 : cL_law.data.toList.drop 1357 = dktL_law_51 := dk_seg dksL_law_50 24 rfl rfl
theorem dksL_law_52 : cL_law.data.toList.drop 1381 = dktL_law_52 := dk_seg dksL_law_51 24 rfl rfl
theorem dksL_law_53 : cL_law.data.toList.drop 1405 = dktL_law_53 := dk_seg dksL_law_52 24 rfl rfl
theorem dksL_law_54 : cL_law.data.toList.drop 1428 = dktL_law_54 := dk_seg dksL_law_53 23 rfl rfl
theorem dksL_law_55 : cL_law.data.toList.drop 1452 = dktL_law_55 := dk_seg dksL_law_54 24 rfl rfl
theorem dksL_law_56 : cL_law.data.toList.drop 1474 = dktL_law_56 := dk_seg dksL_law_55 22 rfl rfl
theorem dksL_law_57 : cL_law.data.toList.drop 1497 = dktL_law_57 := dk_seg dksL_law_56 23 rfl rfl
theorem dksL_law_58 : cL_law.data.toList.drop 1520 = dktL_law_58 := dk_seg dksL_law_57 23 rfl rfl
theorem dksL_law_59 : cL_law.data.toList.drop 1544 = dktL_law_59 := dk_seg dksL_law_58 24 rfl rfl
theorem dksL_law_60 : cL_law.data.toList.drop 1568 = dktL_law_60 := dk_seg dksL_law_59 24 rfl rfl
theorem dksL_law_61 : cL_law.data.toList.drop 1592 = dktL_law_61 := dk_seg dksL_law_60 24 rfl rfl
theorem dksL_law_62 : cL_law.data.toList.drop 1614 = dktL_law_62 := dk_seg dksL_law_61 22 rfl rfl
theorem dksL_law_63 : cL_law.data.toList.drop 1637 = dktL_law_63 := dk_seg dksL_law_62 23 rfl rfl
theorem dksL_law_64 : cL_law.data.toList.drop 1659 = dktL_law_64 := dk_seg dksL_law_63 22 rfl rfl
theorem dksL_law_65 : cL_law.data.toList.drop 1683 = dktL_law_65 := dk_seg dksL_law_64 24 rfl rfl
theorem dksL_law_66 : cL_law.data.toList.drop 1705 = dktL_law_66 := dk_seg dksL_law_65 22 rfl rfl
theorem dksL_law_67 : cL_law.data.toList.drop 1727 = dktL_law_67 := dk_seg dksL_law_66 22 rfl rfl
theorem dksL_law_68 : cL_law.data.toList.drop 1750 = dktL_law_68 := dk_seg dksL_law_67 23 rfl rfl
theorem dksL_law_69 : cL_law.data.toList.drop 1774 = dktL_law_69 := dk_seg dksL_law_68 24 rfl rfl
theorem dksL_law_70 : cL_law.data.toList.drop 1798 = dktL_law_70 := dk_seg dksL_law_69 24 rfl rfl
theorem dksL_law_71 : cL_law.data.toList.drop 1821 = dktL_law_71 := dk_seg dksL_law_70 23 rfl rfl
theorem dksL_law_72 : cL_law.data.toList.drop 1845 = dktL_law_72 := dk_seg dksL_law_71 24 rfl rfl
theorem dksL_law_73 : cL_law.data.toList.drop 1869 = dktL_law_73 := dk_seg dksL_law_72 24 rfl rfl
theorem dksL_law_74 : cL_law.data.toList.drop 1893 = dktL_law_74 := dk_seg dksL_law_73 24 rfl rfl
theorem dksL_law_75 : cL_law.data.toList.drop 1916 = dktL_law_75 := dk_seg dksL_law_74 23 rfl rfl
theorem dksL_law_76 : cL_law.data.toList.drop 1938 = dktL_law_76 := dk_seg dksL_law_75 22 rfl rfl
theorem dksL_law_77 : cL_law.data.toList.drop 1961 = dktL_law_77 := dk_seg dksL_law_76 23 rfl rfl
theorem dksL_law_78 : cL_law.data.toList.drop 1985 = dktL_law_78 := dk_seg dksL_law_77 24 rfl rfl
theorem dksL_law_79 : cL_law.data.toList.drop 2008 = dktL_law_79 := dk_seg dksL_law_78 23 rfl rfl
theorem dksL_law_80 : cL_law.data.toList.drop 2032 = dktL_law_80 := dk_seg dksL_law_79 24 rfl rfl
theorem dksL_law_81 : cL_law.data.toList.drop 2056 = dktL_law_81 := dk_seg dksL_law_80 24 rfl rfl
theorem dksL_law_82 : cL_law.data.toList.drop 2080 = dktL_law_82 := dk_seg dksL_law_81 24 rfl rfl
theorem dksL_law_83 : cL_law.data.toList.drop 2103 = dktL_law_83 := dk_seg dksL_law_82 23 rfl rfl
theorem dksL_law_84 : cL_law.data.toList.drop 2125 = dktL_law_84 := dk_seg dksL_law_83 22 rfl rfl
theorem dksL_law_85 : cL_law.data.toList.drop 2148 = dktL_law_85 := dk_seg dksL_law_84 23 rfl rfl
theorem dksL_law_86 : cL_law.data.toList.drop 2172 = dktL_law_86 := dk_seg dksL_law_85 24 rfl rfl
theorem dksL_law_87 : cL_law.data.toList.drop 2196 = dktL_law_87 := dk_seg dksL_law_86 24 rfl rfl
theorem dksL_law_88 : cL_law.data.toList.drop 2219 = dktL_law_88 := dk_seg dksL_law_87 23 rfl rfl
theorem dksL_law_89 : cL_law.data.toList.drop 2243 = dktL_law_89 := dk_seg dksL_law_88 24 rfl rfl
theorem dksL_law_90 : cL_law.data.toList.drop 2266 = dktL_law_90 := dk_seg dksL_law_89 23 rfl rfl
theorem dksL_law_91 : cL_law.data.toList.drop 2290 = dktL_law_91 := dk_seg dksL_law_90 24 rfl rfl
theorem dksL_law_92 : cL_law.data.toList.drop 2314 = dktL_law_92 := dk_seg dksL_law_91 24 rfl rfl
theorem dksL_law_93 : cL_law.data.toList.drop 2338 = dktL_law_93 := dk_seg dksL_law_92 24 rfl rfl
theorem dksL_law_94 : cL_law.data.toList.drop 2361 = dktL_law_94 := dk_seg dksL_law_93 23 rfl rfl
theorem dksL_law_95 : cL_law.data.toList.drop 2385 = dktL_law_95 := dk_seg dksL_law_94 24 rfl rfl
theorem dksL_law_96 : cL_law.data.toList.drop 2409 = dktL_law_96 := dk_seg dksL_law_95 24 rfl rfl
theorem dksL_law_97 : cL_law.data.toList.drop 2432 = dktL_law_97 := dk_seg dksL_law_96 23 rfl rfl
theorem dksL_law_98 : cL_law.data.toList.drop 2456 = dktL_law_98 := dk_seg dksL_law_97 24 rfl rfl
theorem dksL_law_99 : cL_law.data.toList.drop 2480 = dktL_law_99 := dk_seg dksL_law_98 24 rfl rfl
theorem dksL_law_100 : cL_law.data.toList.drop 2504 = dktL_law_100 := dk_seg dksL_law_99 24 rfl rfl
theorem dksL_law_101 : cL_law.data.toList.drop 2528 = dktL_law_101 := dk_seg dksL_law_100 24 rfl rfl
theorem dksL_law_102 : cL_law.data.toList.drop 2552 = dktL_law_102 := dk_seg dksL_law_101 24 rfl rfl
theorem dksL_law_103 : cL_law.data.toList.drop 2574 = dktL_law_103 := dk_seg dksL_law_102 22 rfl rfl
theorem dksL_law_104 : cL_law.data.toList.drop 2596 = dktL_law_104 := dk_seg dksL_law_103 22 rfl rfl
theorem dksL_law_105 : cL_law.data.toList.drop 2619 = dktL_law_105 := dk_seg dksL_law_104 23 rfl rfl
theorem dksL_law_106 : cL_law.data.toList.drop 2643 = dktL_law_106 := dk_seg dksL_law_105 24 rfl rfl
theorem dksL_law_107 : cL_law.data.toList.drop 2667 = dktL_law_107 := dk_seg dksL_law_106 24 rfl rfl
theorem dksL_law_108 : cL_law.data.toList.drop 2691 = dktL_law_108 := dk_seg dksL_law_107 24 rfl rfl
theorem dksL_law_109 : cL_law.data.toList.drop 2714 = dktL_law_109 := dk_seg dksL_law_108 23 rfl rfl
theorem dksL_law_110 : cL_law.data.toList.drop 2738 = dktL_law_110 := dk_seg dksL_law_109 24 rfl rfl
theorem dksL_law_111 : cL_law.data.toList.drop 2762 = dktL_law_111 := dk_seg dksL_law_110 24 rfl rfl
theorem dksL_law_112 : cL_law.data.toList.drop 2784 = dktL_law_112 := dk_seg dksL_law_111 22 rfl rfl
theorem dksL_law_113 : cL_law.data.toList.drop 2808 = dktL_law_113 := dk_seg dksL_law_112 24 rfl rfl
theorem dksL_law_114 : cL_law.data.toList.drop 2832 = dktL_law_114 := dk_seg dksL_law_113 24 rfl rfl
theorem dL_law_0 : decode cL_law 0 = .ok (.new 8, 3) := dk_187 0 8 (dk_at dksL_law_0 0 rfl rfl)
theorem dL_law_3 : decode cL_law 3 = .ok (.dup, 1) := dk_89 (dk_at dksL_law_0 3 rfl rfl)
theorem dL_law_4 : decode cL_law 4 = .ok (.invokespecial 134, 3) := dk_183 0 134 (dk_at dksL_law_0 4 rfl rfl)
theorem dL_law_7 : decode cL_law 7 = .ok (.astore_n 1, 1) := dk_76 (dk_at dksL_law_0 7 rfl rfl)
theorem dL_law_8 : decode cL_law 8 = .ok (.new 135, 3) := dk_187 0 135 (dk_at dksL_law_0 8 rfl rfl)
theorem dL_law_11 : decode cL_law 11 = .ok (.dup, 1) := dk_89 (dk_at dksL_law_0 11 rfl rfl)
theorem dL_law_12 : decode cL_law 12 = .ok (.invokespecial 137, 3) := dk_183 0 137 (dk_at dksL_law_0 12 rfl rfl)
theorem dL_law_15 : decode cL_law 15 = .ok (.astore_n 2, 1) := dk_77 (dk_at dksL_law_0 15 rfl rfl)
theorem dL_law_16 : decode cL_law 16 = .ok (.iconst 1, 1) := dk_4 (dk_at dksL_law_0 16 rfl rfl)
theorem dL_law_17 : decode cL_law 17 = .ok (.newarray .long, 2) := dk_188_11 (dk_at dksL_law_0 17 rfl rfl)
theorem dL_law_19 : decode cL_law 19 = .ok (.astore_n 3, 1) := dk_78 (dk_at dksL_law_0 19 rfl rfl)
theorem dL_law_20 : decode cL_law 20 = .ok (.iconst 0, 1) := dk_3 (dk_at dksL_law_0 20 rfl rfl)
theorem dL_law_21 : decode cL_law 21 = .ok (.istore 4, 2) := dk_54 4 (dk_at dksL_law_0 21 rfl rfl)
theorem dL_law_23 : decode cL_law 23 = .ok (.iload 4, 2) := dk_21 4 (dk_at dksL_law_1 0 rfl rfl)
theorem dL_law_25 : decode cL_law 25 = .ok (.aload_n 0, 1) := dk_42 (dk_at dksL_law_1 2 rfl rfl)
theorem dL_law_26 : decode cL_law 26 = .ok (.arraylength, 1) := dk_190 (dk_at dksL_law_1 3 rfl rfl)
theorem dL_law_27 : decode cL_law 27 = .ok (.bipush 6, 2) := dk_16 6 (dk_at dksL_law_1 4 rfl rfl)
theorem dL_law_29 : decode cL_law 29 = .ok (.isub, 1) := dk_100 (dk_at dksL_law_1 6 rfl rfl)
theorem dL_law_30 : decode cL_law 30 = .ok (.if_icmp .gt 2808, 3) := dk_163 10 248 (dk_at dksL_law_1 7 rfl rfl)
theorem dL_law_33 : decode cL_law 33 = .ok (.aload_n 0, 1) := dk_42 (dk_at dksL_law_1 10 rfl rfl)
theorem dL_law_34 : decode cL_law 34 = .ok (.iload 4, 2) := dk_21 4 (dk_at dksL_law_1 11 rfl rfl)
theorem dL_law_36 : decode cL_law 36 = .ok (.iaload, 1) := dk_46 (dk_at dksL_law_1 13 rfl rfl)
theorem dL_law_37 : decode cL_law 37 = .ok (.bipush 63, 2) := dk_16 63 (dk_at dksL_law_1 14 rfl rfl)
theorem dL_law_39 : decode cL_law 39 = .ok (.iand, 1) := dk_126 (dk_at dksL_law_1 16 rfl rfl)
theorem dL_law_40 : decode cL_law 40 = .ok (.tableswitch 2792 0 41 #[184, 257, 282, 318, 362, 454, 498, 511, 579, 659, 715, 790, 803, 816, 896, 980, 1067, 1147, 1226, 1306, 1386, 1442, 1498, 1566, 1622, 1690, 1770, 1833, 1901, 1957, 2020, 2088, 2144, 2212, 2292, 2384, 2475, 2559, 2639, 2743, 2754, 2767], 184) := by decide +kernel
theorem dL_law_224 : decode cL_law 224 = .ok (.aload_n 1, 1) := dk_43 (dk_at dksL_law_3 0 rfl rfl)
theorem dL_law_225 : decode cL_law 225 = .ok (.aload_n 0, 1) := dk_42 (dk_at dksL_law_3 1 rfl rfl)
theorem dL_law_226 : decode cL_law 226 = .ok (.iload 4, 2) := dk_21 4 (dk_at dksL_law_3 2 rfl rfl)
theorem dL_law_228 : decode cL_law 228 = .ok (.iconst 1, 1) := dk_4 (dk_at dksL_law_3 4 rfl rfl)
theorem dL_law_229 : decode cL_law 229 = .ok (.iadd, 1) := dk_96 (dk_at dksL_law_3 5 rfl rfl)
theorem dL_law_230 : decode cL_law 230 = .ok (.iaload, 1) := dk_46 (dk_at dksL_law_3 6 rfl rfl)
theorem dL_law_231 : decode cL_law 231 = .ok (.aload_n 0, 1) := dk_42 (dk_at dksL_law_3 7 rfl rfl)
theorem dL_law_232 : decode cL_law 232 = .ok (.iload 4, 2) := dk_21 4 (dk_at dksL_law_3 8 rfl rfl)
theorem dL_law_234 : decode cL_law 234 = .ok (.iconst 2, 1) := dk_5 (dk_at dksL_law_3 10 rfl rfl)
theorem dL_law_235 : decode cL_law 235 = .ok (.iadd, 1) := dk_96 (dk_at dksL_law_3 11 rfl rfl)
theorem dL_law_236 : decode cL_law 236 = .ok (.iaload, 1) := dk_46 (dk_at dksL_law_3 12 rfl rfl)
theorem dL_law_237 : decode cL_law 237 = .ok (.aload_n 0, 1) := dk_42 (dk_at dksL_law_3 13 rfl rfl)
theorem dL_law_238 : decode cL_law 238 = .ok (.iload 4, 2) := dk_21 4 (dk_at dksL_law_3 14 rfl rfl)
theorem dL_law_240 : decode cL_law 240 = .ok (.iconst 3, 1) := dk_6 (dk_at dksL_law_3 16 rfl rfl)
theorem dL_law_241 : decode cL_law 241 = .ok (.iadd, 1) := dk_96 (dk_at dksL_law_3 17 rfl rfl)
theorem dL_law_242 : decode cL_law 242 = .ok (.iaload, 1) := dk_46 (dk_at dksL_law_3 18 rfl rfl)
theorem dL_law_243 : decode cL_law 243 = .ok (.aload_n 0, 1) := dk_42 (dk_at dksL_law_3 19 rfl rfl)
theorem dL_law_244 : decode cL_law 244 = .ok (.iload 4, 2) := dk_21 4 (dk_at dksL_law_3 20 rfl rfl)
theorem dL_law_246 : decode cL_law 246 = .ok (.iconst 4, 1) := dk_7 (dk_at dksL_law_3 22 rfl rfl)
theorem dL_law_247 : decode cL_law 247 = .ok (.iadd, 1) := dk_96 (dk_at dksL_law_3 23 rfl rfl)
theorem dL_law_248 : decode cL_law 248 = .ok (.iaload, 1) := dk_46 (dk_at dksL_law_4 0 rfl rfl)
theorem dL_law_249 : decode cL_law 249 = .ok (.aload_n 0, 1) := dk_42 (dk_at dksL_law_4 1 rfl rfl)
theorem dL_law_250 : decode cL_law 250 = .ok (.iload 4, 2) := dk_21 4 (dk_at dksL_law_4 2 rfl rfl)
theorem dL_law_252 : decode cL_law 252 = .ok (.iconst 5, 1) := dk_8 (dk_at dksL_law_4 4 rfl rfl)
theorem dL_law_253 : decode cL_law 253 = .ok (.iadd, 1) := dk_96 (dk_at dksL_law_4 5 rfl rfl)
theorem dL_law_254 : decode cL_law 254 = .ok (.iaload, 1) := dk_46 (dk_at dksL_law_4 6 rfl rfl)
theorem dL_law_255 : decode cL_law 255 = .ok (.invokevirtual 138, 3) := dk_182 0 138 (dk_at dksL_law_4 7 rfl rfl)
theorem dL_law_258 : decode cL_law 258 = .ok (.aload_n 2, 1) := dk_44 (dk_at dksL_law_4 10 rfl rfl)
theorem dL_law_259 : decode cL_law 259 = .ok (.aload_n 0, 1) := dk_42 (dk_at dksL_law_4 11 rfl rfl)
theorem dL_law_260 : decode cL_law 260 = .ok (.iload 4, 2) := dk_21 4 (dk_at dksL_law_4 12 rfl rfl)
theorem dL_law_262 : decode cL_law 262 = .ok (.iconst 1, 1) := dk_4 (dk_at dksL_law_4 14 rfl rfl)
theorem dL_law_263 : decode cL_law 263 = .ok (.iadd, 1) := dk_96 (dk_at dksL_law_4 15 rfl rfl)
theorem dL_law_264 : decode cL_law 264 = .ok (.iaload, 1) := dk_46 (dk_at dksL_law_4 16 rfl rfl)
theorem dL_law_265 : decode cL_law 265 = .ok (.aload_n 0, 1) := dk_42 (dk_at dksL_law_4 17 rfl rfl)
theorem dL_law_266 : decode cL_law 266 = .ok (.iload 4, 2) := dk_21 4 (dk_at dksL_law_4 18 rfl rfl)
theorem dL_law_268 : decode cL_law 268 = .ok (.iconst 2, 1) := dk_5 (dk_at dksL_law_4 20 rfl rfl)
theorem dL_law_269 : decode cL_law 269 = .ok (.iadd, 1) := dk_96 (dk_at dksL_law_4 21 rfl rfl)
theorem dL_law_270 : decode cL_law 270 = .ok (.iaload, 1) := dk_46 (dk_at dksL_law_4 22 rfl rfl)
theorem dL_law_271 : decode cL_law 271 = .ok (.aload_n 0, 1) := dk_42 (dk_at dksL_law_4 23 rfl rfl)
theorem dL_law_272 : decode cL_law 272 = .ok (.iload 4, 2) := dk_21 4 (dk_at dksL_law_5 0 rfl rfl)
theorem dL_law_274 : decode cL_law 274 = .ok (.iconst 3, 1) := dk_6 (dk_at dksL_law_5 2 rfl rfl)
theorem dL_law_275 : decode cL_law 275 = .ok (.iadd, 1) := dk_96 (dk_at dksL_law_5 3 rfl rfl)
theorem dL_law_276 : decode cL_law 276 = .ok (.iaload, 1) := dk_46 (dk_at dksL_law_5 4 rfl rfl)
theorem dL_law_277 : decode cL_law 277 = .ok (.aload_n 0, 1) := dk_42 (dk_at dksL_law_5 5 rfl rfl)
theorem dL_law_278 : decode cL_law 278 = .ok (.iload 4, 2) := dk_21 4 (dk_at dksL_law_5 6 rfl rfl)
theorem dL_law_280 : decode cL_law 280 = .ok (.iconst 4, 1) := dk_7 (dk_at dksL_law_5 8 rfl rfl)
theorem dL_law_281 : decode cL_law 281 = .ok (.iadd, 1) := dk_96 (dk_at dksL_law_5 9 rfl rfl)
theorem dL_law_282 : decode cL_law 282 = .ok (.iaload, 1) := dk_46 (dk_at dksL_law_5 10 rfl rfl)
theorem dL_law_283 : decode cL_law 283 = .ok (.aload_n 0, 1) := dk_42 (dk_at dksL_law_5 11 rfl rfl)
theorem dL_law_284 : decode cL_law 284 = .ok (.iload 4, 2) := dk_21 4 (dk_at dksL_law_5 12 rfl rfl)
theorem dL_law_286 : decode cL_law 286 = .ok (.iconst 5, 1) := dk_8 (dk_at dksL_law_5 14 rfl rfl)
theorem dL_law_287 : decode cL_law 287 = .ok (.iadd, 1) := dk_96 (dk_at dksL_law_5 15 rfl rfl)
theorem dL_law_288 : decode cL_law 288 = .ok (.iaload, 1) := dk_46 (dk_at dksL_law_5 16 rfl rfl)
theorem dL_law_289 : decode cL_law 289 = .ok (.invokevirtual 141, 3) := dk_182 0 141 (dk_at dksL_law_5 17 rfl rfl)
theorem dL_law_292 : decode cL_law 292 = .ok (.if_icmp .eq 2540, 3) := dk_159 9 236 (dk_at dksL_law_5 20 rfl rfl)
theorem dL_law_295 : decode cL_law 295 = .ok (.iconst 0, 1) := dk_3 (dk_at dksL_law_5 23 rfl rfl)
theorem dL_law_296 : decode cL_law 296 = .ok (.ireturn, 1) := dk_172 (dk_at dksL_law_6 0 rfl rfl)
theorem dL_law_297 : decode cL_law 297 = .ok (.aload_n 1, 1) := dk_43 (dk_at dksL_law_6 1 rfl rfl)
theorem dL_law_298 : decode cL_law 298 = .ok (.aload_n 0, 1) := dk_42 (dk_at dksL_law_6 2 rfl rfl)
theorem dL_law_299 : decode cL_law 299 = .ok (.iload 4, 2) := dk_21 4 (dk_at dksL_law_6 3 rfl rfl)
theorem dL_law_301 : decode cL_law 301 = .ok (.iconst 1, 1) := dk_4 (dk_at dksL_law_6 5 rfl rfl)
theorem dL_law_302 : decode cL_law 302 = .ok (.iadd, 1) := dk_96 (dk_at dksL_law_6 6 rfl rfl)
theorem dL_law_303 : decode cL_law 303 = .ok (.iaload, 1) := dk_46 (dk_at dksL_law_6 7 rfl rfl)
theorem dL_law_304 : decode cL_law 304 = .ok (.invokevirtual 142, 3) := dk_182 0 142 (dk_at dksL_law_6 8 rfl rfl)
theorem dL_law_307 : decode cL_law 307 = .ok (.aload_n 2, 1) := dk_44 (dk_at dksL_law_6 11 rfl rfl)
theorem dL_law_308 : decode cL_law 308 = .ok (.aload_n 0, 1) := dk_42 (dk_at dksL_law_6 12 rfl rfl)
theorem dL_law_309 : decode cL_law 309 = .ok (.iload 4, 2) := dk_21 4 (dk_at dksL_law_6 13 rfl rfl)
theorem dL_law_311 : decode cL_law 311 = .ok (.iconst 1, 1) := dk_4 (dk_at dksL_law_6 15 rfl rfl)
theorem dL_law_312 : decode cL_law 312 = .ok (.iadd, 1) := dk_96 (dk_at dksL_law_6 16 rfl rfl)
theorem dL_law_313 : decode cL_law 313 = .ok (.iaload, 1) := dk_46 (dk_at dksL_law_6 17 rfl rfl)
theorem dL_law_314 : decode cL_law 314 = .ok (.invokevirtual 145, 3) := dk_182 0 145 (dk_at dksL_law_6 18 rfl rfl)
theorem dL_law_317 : decode cL_law 317 = .ok (.if_icmp .eq 2515, 3) := dk_159 9 211 (dk_at dksL_law_6 21 rfl rfl)
theorem dL_law_320 : decode cL_law 320 = .ok (.iconst 0, 1) := dk_3 (dk_at dksL_law_7 0 rfl rfl)
theorem dL_law_321 : decode cL_law 321 = .ok (.ireturn, 1) := dk_172 (dk_at dksL_law_7 1 rfl rfl)
theorem dL_law_322 : decode cL_law 322 = .ok (.aload_n 1, 1) := dk_43 (dk_at dksL_law_7 2 rfl rfl)
theorem dL_law_323 : decode cL_law 323 = .ok (.aload_n 0, 1) := dk_42 (dk_at dksL_law_7 3 rfl rfl)
theorem dL_law_324 : decode cL_law 324 = .ok (.iload 4, 2) := dk_21 4 (dk_at dksL_law_7 4 rfl rfl)
theorem dL_law_326 : decode cL_law 326 = .ok (.iconst 1, 1) := dk_4 (dk_at dksL_law_7 6 rfl rfl)
theorem dL_law_327 : decode cL_law 327 = .ok (.iadd, 1) := dk_96 (dk_at dksL_law_7 7 rfl rfl)
theorem dL_law_328 : decode cL_law 328 = .ok (.iaload, 1) := dk_46 (dk_at dksL_law_7 8 rfl rfl)
theorem dL_law_329 : decode cL_law 329 = .ok (.invokestatic 146, 3) := dk_184 0 146 (dk_at dksL_law_7 9 rfl rfl)
theorem dL_law_332 : decode cL_law 332 = .ok (.istore 5, 2) := dk_54 5 (dk_at dksL_law_7 12 rfl rfl)
theorem dL_law_334 : decode cL_law 334 = .ok (.aload_n 2, 1) := dk_44 (dk_at dksL_law_7 14 rfl rfl)
theorem dL_law_335 : decode cL_law 335 = .ok (.aload_n 0, 1) := dk_42 (dk_at dksL_law_7 15 rfl rfl)
theorem dL_law_336 : decode cL_law 336 = .ok (.iload 4, 2) := dk_21 4 (dk_at dksL_law_7 16 rfl rfl)
theorem dL_law_338 : decode cL_law 338 = .ok (.iconst 1, 1) := dk_4 (dk_at dksL_law_7 18 rfl rfl)
theorem dL_law_339 : decode cL_law 339 = .ok (.iadd, 1) := dk_96 (dk_at dksL_law_7 19 rfl rfl)
theorem dL_law_340 : decode cL_law 340 = .ok (.iaload, 1) := dk_46 (dk_at dksL_law_7 20 rfl rfl)
theorem dL_law_341 : decode cL_law 341 = .ok (.invokevirtual 151, 3) := dk_182 0 151 (dk_at dksL_law_7 21 rfl rfl)
theorem dL_law_344 : decode cL_law 344 = .ok (.aload_n 2, 1) := dk_44 (dk_at dksL_law_8 0 rfl rfl)
theorem dL_law_345 : decode cL_law 345 = .ok (.invokevirtual 152, 3) := dk_182 0 152 (dk_at dksL_law_8 1 rfl rfl)
theorem dL_law_348 : decode cL_law 348 = .ok (.iload 5, 2) := dk_21 5 (dk_at dksL_law_8 4 rfl rfl)
theorem dL_law_350 : decode cL_law 350 = .ok (.if_icmp .eq 5, 3) := dk_159 0 5 (dk_at dksL_law_8 6 rfl rfl)
theorem dL_law_353 : decode cL_law 353 = .ok (.iconst 0, 1) := dk_3 (dk_at dksL_law_8 9 rfl rfl)
theorem dL_law_354 : decode cL_law 354 = .ok (.ireturn, 1) := dk_172 (dk_at dksL_law_8 10 rfl rfl)
theorem dL_law_355 : decode cL_law 355 = .ok (.goto 2477, 3) := dk_167 9 173 (dk_at dksL_law_8 11 rfl rfl)
theorem dL_law_358 : decode cL_law 358 = .ok (.aload_n 1, 1) := dk_43 (dk_at dksL_law_8 14 rfl rfl)
theorem dL_law_359 : decode cL_law 359 = .ok (.aload_n 3, 1) := dk_45 (dk_at dksL_law_8 15 rfl rfl)
theorem dL_law_360 : decode cL_law 360 = .ok (.invokestatic 155, 3) := dk_184 0 155 (dk_at dksL_law_8 16 rfl rfl)
theorem dL_law_363 : decode cL_law 363 = .ok (.istore 5, 2) := dk_54 5 (dk_at dksL_law_8 19 rfl rfl)
theorem dL_law_365 : decode cL_law 365 = .ok (.aload_n 2, 1) := dk_44 (dk_at dksL_law_8 21 rfl rfl)
theorem dL_law_366 : decode cL_law 366 = .ok (.invokevirtual 158, 3) := dk_182 0 158 (dk_at dksL_law_9 0 rfl rfl)
theorem dL_law_369 : decode cL_law 369 = .ok (.istore 6, 2) := dk_54 6 (dk_at dksL_law_9 3 rfl rfl)
theorem dL_law_371 : decode cL_law 371 = .ok (.aload_n 2, 1) := dk_44 (dk_at dksL_law_9 5 rfl rfl)
theorem dL_law_372 : decode cL_law 372 = .ok (.invokevirtual 152, 3) := dk_182 0 152 (dk_at dksL_law_9 6 rfl rfl)
theorem dL_law_375 : decode cL_law 375 = .ok (.iload 5, 2) := dk_21 5 (dk_at dksL_law_9 9 rfl rfl)
theorem dL_law_377 : decode cL_law 377 = .ok (.if_icmp .eq 5, 3) := dk_159 0 5 (dk_at dksL_law_9 11 rfl rfl)
theorem dL_law_380 : decode cL_law 380 = .ok (.iconst 0, 1) := dk_3 (dk_at dksL_law_9 14 rfl rfl)
theorem dL_law_381 : decode cL_law 381 = .ok (.ireturn, 1) := dk_172 (dk_at dksL_law_9 15 rfl rfl)
theorem dL_law_382 : decode cL_law 382 = .ok (.iload 5, 2) := dk_21 5 (dk_at dksL_law_9 16 rfl rfl)
theorem dL_law_384 : decode cL_law 384 = .ok (.ifCond .ne 15, 3) := dk_154 0 15 (dk_at dksL_law_9 18 rfl rfl)
theorem dL_law_387 : decode cL_law 387 = .ok (.aload_n 3, 1) := dk_45 (dk_at dksL_law_9 21 rfl rfl)
theorem dL_law_388 : decode cL_law 388 = .ok (.iconst 0, 1) := dk_3 (dk_at dksL_law_9 22 rfl rfl)
theorem dL_law_389 : decode cL_law 389 = .ok (.laload, 1) := dk_47 (dk_at dksL_law_9 23 rfl rfl)
theorem dL_law_390 : decode cL_law 390 = .ok (.iload 6, 2) := dk_21 6 (dk_at dksL_law_10 0 rfl rfl)
theorem dL_law_392 : decode cL_law 392 = .ok (.i2l, 1) := dk_133 (dk_at dksL_law_10 2 rfl rfl)
theorem dL_law_393 : decode cL_law 393 = .ok (.lcmp, 1) := dk_148 (dk_at dksL_law_10 3 rfl rfl)
theorem dL_law_394 : decode cL_law 394 = .ok (.ifCond .eq 5, 3) := dk_153 0 5 (dk_at dksL_law_10 4 rfl rfl)
theorem dL_law_397 : decode cL_law 397 = .ok (.iconst 0, 1) := dk_3 (dk_at dksL_law_10 7 rfl rfl)
theorem dL_law_398 : decode cL_law 398 = .ok (.ireturn, 1) := dk_172 (dk_at dksL_law_10 8 rfl rfl)
theorem dL_law_399 : decode cL_law 399 = .ok (.goto 2433, 3) := dk_167 9 129 (dk_at dksL_law_10 9 rfl rfl)
theorem dL_law_402 : decode cL_law 402 = .ok (.aload_n 1, 1) := dk_43 (dk_at dksL_law_10 12 rfl rfl)
theorem dL_law_403 : decode cL_law 403 = .ok (.aload_n 0, 1) := dk_42 (dk_at dksL_law_10 13 rfl rfl)
theorem dL_law_404 : decode cL_law 404 = .ok (.iload 4, 2) := dk_21 4 (dk_at dksL_law_10 14 rfl rfl)
theorem dL_law_406 : decode cL_law 406 = .ok (.iconst 1, 1) := dk_4 (dk_at dksL_law_10 16 rfl rfl)
theorem dL_law_407 : decode cL_law 407 = .ok (.iadd, 1) := dk_96 (dk_at dksL_law_10 17 rfl rfl)
theorem dL_law_408 : decode cL_law 408 = .ok (.iaload, 1) := dk_46 (dk_at dksL_law_10 18 rfl rfl)
theorem dL_law_409 : decode cL_law 409 = .ok (.aload_n 0, 1) := dk_42 (dk_at dksL_law_10 19 rfl rfl)
theorem dL_law_410 : decode cL_law 410 = .ok (.iload 4, 2) := dk_21 4 (dk_at dksL_law_10 20 rfl rfl)
theorem dL_law_412 : decode cL_law 412 = .ok (.iconst 2, 1) := dk_5 (dk_at dksL_law_10 22 rfl rfl)
theorem dL_law_413 : decode cL_law 413 = .ok (.iadd, 1) := dk_96 (dk_at dksL_law_10 23 rfl rfl)
theorem dL_law_414 : decode cL_law 414 = .ok (.iaload, 1) := dk_46 (dk_at dksL_law_11 0 rfl rfl)
theorem dL_law_415 : decode cL_law 415 = .ok (.aload_n 0, 1) := dk_42 (dk_at dksL_law_11 1 rfl rfl)
theorem dL_law_416 : decode cL_law 416 = .ok (.iload 4, 2) := dk_21 4 (dk_at dksL_law_11 2 rfl rfl)
theorem dL_law_418 : decode cL_law 418 = .ok (.iconst 3, 1) := dk_6 (dk_at dksL_law_11 4 rfl rfl)
theorem dL_law_419 : decode cL_law 419 = .ok (.iadd, 1) := dk_96 (dk_at dksL_law_11 5 rfl rfl)
theorem dL_law_420 : decode cL_law 420 = .ok (.iaload, 1) := dk_46 (dk_at dksL_law_11 6 rfl rfl)
theorem dL_law_421 : decode cL_law 421 = .ok (.aload_n 0, 1) := dk_42 (dk_at dksL_law_11 7 rfl rfl)
theorem dL_law_422 : decode cL_law 422 = .ok (.iload 4, 2) := dk_21 4 (dk_at dksL_law_11 8 rfl rfl)
theorem dL_law_424 : decode cL_law 424 = .ok (.iconst 4, 1) := dk_7 (dk_at dksL_law_11 10 rfl rfl)
theorem dL_law_425 : decode cL_law 425 = .ok (.iadd, 1) := dk_96 (dk_at dksL_law_11 11 rfl rfl)
theorem dL_law_426 : decode cL_law 426 = .ok (.iaload, 1) := dk_46 (dk_at dksL_law_11 12 rfl rfl)
theorem dL_law_427 : decode cL_law 427 = .ok (.aload_n 3, 1) := dk_45 (dk_at dksL_law_11 13 rfl rfl)
theorem dL_law_428 : decode cL_law 428 = .ok (.invokestatic 159, 3) := dk_184 0 159 (dk_at dksL_law_11 14 rfl rfl)
theorem dL_law_431 : decode cL_law 431 = .ok (.istore 5, 2) := dk_54 5 (dk_at dksL_law_11 17 rfl rfl)
theorem dL_law_433 : decode cL_law 433 = .ok (.aload_n 2, 1) := dk_44 (dk_at dksL_law_11 19 rfl rfl)
theorem dL_law_434 : decode cL_law 434 = .ok (.aload_n 0, 1) := dk_42 (dk_at dksL_law_11 20 rfl rfl)
theorem dL_law_435 : decode cL_law 435 = .ok (.iload 4, 2) := dk_21 4 (dk_at dksL_law_11 21 rfl rfl)
theorem dL_law_437 : decode cL_law 437 = .ok (.iconst 1, 1) := dk_4 (dk_at dksL_law_11 23 rfl rfl)
theorem dL_law_438 : decode cL_law 438 = .ok (.iadd, 1) := dk_96 (dk_at dksL_law_12 0 rfl rfl)
theorem dL_law_439 : decode cL_law 439 = .ok (.iaload, 1) := dk_46 (dk_at dksL_law_12 1 rfl rfl)
theorem dL_law_440 : decode cL_law 440 = .ok (.aload_n 0, 1) := dk_42 (dk_at dksL_law_12 2 rfl rfl)
theorem dL_law_441 : decode cL_law 441 = .ok (.iload 4, 2) := dk_21 4 (dk_at dksL_law_12 3 rfl rfl)
theorem dL_law_443 : decode cL_law 443 = .ok (.iconst 2, 1) := dk_5 (dk_at dksL_law_12 5 rfl rfl)
theorem dL_law_444 : decode cL_law 444 = .ok (.iadd, 1) := dk_96 (dk_at dksL_law_12 6 rfl rfl)
theorem dL_law_445 : decode cL_law 445 = .ok (.iaload, 1) := dk_46 (dk_at dksL_law_12 7 rfl rfl)
theorem dL_law_446 : decode cL_law 446 = .ok (.aload_n 0, 1) := dk_42 (dk_at dksL_law_12 8 rfl rfl)
theorem dL_law_447 : decode cL_law 447 = .ok (.iload 4, 2) := dk_21 4 (dk_at dksL_law_12 9 rfl rfl)
theorem dL_law_449 : decode cL_law 449 = .ok (.iconst 3, 1) := dk_6 (dk_at dksL_law_12 11 rfl rfl)
theorem dL_law_450 : decode cL_law 450 = .ok (.iadd, 1) := dk_96 (dk_at dksL_law_12 12 rfl rfl)
theorem dL_law_451 : decode cL_law 451 = .ok (.iaload, 1) := dk_46 (dk_at dksL_law_12 13 rfl rfl)
theorem dL_law_452 : decode cL_law 452 = .ok (.aload_n 0, 1) := dk_42 (dk_at dksL_law_12 14 rfl rfl)
theorem dL_law_453 : decode cL_law 453 = .ok (.iload 4, 2) := dk_21 4 (dk_at dksL_law_12 15 rfl rfl)
theorem dL_law_455 : decode cL_law 455 = .ok (.iconst 4, 1) := dk_7 (dk_at dksL_law_12 17 rfl rfl)
theorem dL_law_456 : decode cL_law 456 = .ok (.iadd, 1) := dk_96 (dk_at dksL_law_12 18 rfl rfl)
theorem dL_law_457 : decode cL_law 457 = .ok (.iaload, 1) := dk_46 (dk_at dksL_law_12 19 rfl rfl)
theorem dL_law_458 : decode cL_law 458 = .ok (.invokevirtual 162, 3) := dk_182 0 162 (dk_at dksL_law_12 20 rfl rfl)
theorem dL_law_461 : decode cL_law 461 = .ok (.istore 6, 2) := dk_54 6 (dk_at dksL_law_13 0 rfl rfl)
theorem dL_law_463 : decode cL_law 463 = .ok (.aload_n 2, 1) := dk_44 (dk_at dksL_law_13 2 rfl rfl)
theorem dL_law_464 : decode cL_law 464 = .ok (.invokevirtual 152, 3) := dk_182 0 152 (dk_at dksL_law_13 3 rfl rfl)
theorem dL_law_467 : decode cL_law 467 = .ok (.iload 5, 2) := dk_21 5 (dk_at dksL_law_13 6 rfl rfl)
theorem dL_law_469 : decode cL_law 469 = .ok (.if_icmp .eq 5, 3) := dk_159 0 5 (dk_at dksL_law_13 8 rfl rfl)
theorem dL_law_472 : decode cL_law 472 = .ok (.iconst 0, 1) := dk_3 (dk_at dksL_law_13 11 rfl rfl)
theorem dL_law_473 : decode cL_law 473 = .ok (.ireturn, 1) := dk_172 (dk_at dksL_law_13 12 rfl rfl)
theorem dL_law_474 : decode cL_law 474 = .ok (.iload 5, 2) := dk_21 5 (dk_at dksL_law_13 13 rfl rfl)
theorem dL_law_476 : decode cL_law 476 = .ok (.ifCond .ne 15, 3) := dk_154 0 15 (dk_at dksL_law_13 15 rfl rfl)
theorem dL_law_479 : decode cL_law 479 = .ok (.aload_n 3, 1) := dk_45 (dk_at dksL_law_13 18 rfl rfl)
theorem dL_law_480 : decode cL_law 480 = .ok (.iconst 0, 1) := dk_3 (dk_at dksL_law_13 19 rfl rfl)
theorem dL_law_481 : decode cL_law 481 = .ok (.laload, 1) := dk_47 (dk_at dksL_law_13 20 rfl rfl)
theorem dL_law_482 : decode cL_law 482 = .ok (.iload 6, 2) := dk_21 6 (dk_at dksL_law_13 21 rfl rfl)
theorem dL_law_484 : decode cL_law 484 = .ok (.i2l, 1) := dk_133 (dk_at dksL_law_13 23 rfl rfl)
theorem dL_law_485 : decode cL_law 485 = .ok (.lcmp, 1) := dk_148 (dk_at dksL_law_14 0 rfl rfl)
theorem dL_law_486 : decode cL_law 486 = .ok (.ifCond .eq 5, 3) := dk_153 0 5 (dk_at dksL_law_14 1 rfl rfl)
theorem dL_law_489 : decode cL_law 489 = .ok (.iconst 0, 1) := dk_3 (dk_at dksL_law_14 4 rfl rfl)
theorem dL_law_490 : decode cL_law 490 = .ok (.ireturn, 1) := dk_172 (dk_at dksL_law_14 5 rfl rfl)
theorem dL_law_491 : decode cL_law 491 = .ok (.goto 2341, 3) := dk_167 9 37 (dk_at dksL_law_14 6 rfl rfl)
theorem dL_law_494 : decode cL_law 494 = .ok (.aload_n 1, 1) := dk_43 (dk_at dksL_law_14 9 rfl rfl)
theorem dL_law_495 : decode cL_law 495 = .ok (.aload_n 3, 1) := dk_45 (dk_at dksL_law_14 10 rfl rfl)
theorem dL_law_496 : decode cL_law 496 = .ok (.invokestatic 163, 3) := dk_184 0 163 (dk_at dksL_law_14 11 rfl rfl)
theorem dL_law_499 : decode cL_law 499 = .ok (.istore 5, 2) := dk_54 5 (dk_at dksL_law_14 14 rfl rfl)
theorem dL_law_501 : decode cL_law 501 = .ok (.aload_n 2, 1) := dk_44 (dk_at dksL_law_14 16 rfl rfl)
theorem dL_law_502 : decode cL_law 502 = .ok (.invokevirtual 165, 3) := dk_182 0 165 (dk_at dksL_law_14 17 rfl rfl)
theorem dL_law_505 : decode cL_law 505 = .ok (.istore 6, 2) := dk_54 6 (dk_at dksL_law_14 20 rfl rfl)
theorem dL_law_507 : decode cL_law 507 = .ok (.aload_n 2, 1) := dk_44 (dk_at dksL_law_14 22 rfl rfl)
theorem dL_law_508 : decode cL_law 508 = .ok (.invokevirtual 152, 3) := dk_182 0 152 (dk_at dksL_law_15 0 rfl rfl)
theorem dL_law_511 : decode cL_law 511 = .ok (.iload 5, 2) := dk_21 5 (dk_at dksL_law_15 3 rfl rfl)
theorem dL_law_513 : decode cL_law 513 = .ok (.if_icmp .eq 5, 3) := dk_159 0 5 (dk_at dksL_law_15 5 rfl rfl)
theorem dL_law_516 : decode cL_law 516 = .ok (.iconst 0, 1) := dk_3 (dk_at dksL_law_15 8 rfl rfl)
theorem dL_law_517 : decode cL_law 517 = .ok (.ireturn, 1) := dk_172 (dk_at dksL_law_15 9 rfl rfl)
theorem dL_law_518 : decode cL_law 518 = .ok (.iload 5, 2) := dk_21 5 (dk_at dksL_law_15 10 rfl rfl)
theorem dL_law_520 : decode cL_law 520 = .ok (.ifCond .ne 15, 3) := dk_154 0 15 (dk_at dksL_law_15 12 rfl rfl)
theorem dL_law_523 : decode cL_law 523 = .ok (.aload_n 3, 1) := dk_45 (dk_at dksL_law_15 15 rfl rfl)
theorem dL_law_524 : decode cL_law 524 = .ok (.iconst 0, 1) := dk_3 (dk_at dksL_law_15 16 rfl rfl)
theorem dL_law_525 : decode cL_law 525 = .ok (.laload, 1) := dk_47 (dk_at dksL_law_15 17 rfl rfl)
theorem dL_law_526 : decode cL_law 526 = .ok (.iload 6, 2) := dk_21 6 (dk_at dksL_law_15 18 rfl rfl)
theorem dL_law_528 : decode cL_law 528 = .ok (.i2l, 1) := dk_133 (dk_at dksL_law_15 20 rfl rfl)
theorem dL_law_529 : decode cL_law 529 = .ok (.lcmp, 1) := dk_148 (dk_at dksL_law_15 21 rfl rfl)
theorem dL_law_530 : decode cL_law 530 = .ok (.ifCond .eq 5, 3) := dk_153 0 5 (dk_at dksL_law_16 0 rfl rfl)
theorem dL_law_533 : decode cL_law 533 = .ok (.iconst 0, 1) := dk_3 (dk_at dksL_law_16 3 rfl rfl)
theorem dL_law_534 : decode cL_law 534 = .ok (.ireturn, 1) := dk_172 (dk_at dksL_law_16 4 rfl rfl)
theorem dL_law_535 : decode cL_law 535 = .ok (.goto 2297, 3) := dk_167 8 249 (dk_at dksL_law_16 5 rfl rfl)
theorem dL_law_538 : decode cL_law 538 = .ok (.aload_n 1, 1) := dk_43 (dk_at dksL_law_16 8 rfl rfl)
theorem dL_law_539 : decode cL_law 539 = .ok (.invokevirtual 166, 3) := dk_182 0 166 (dk_at dksL_law_16 9 rfl rfl)
theorem dL_law_542 : decode cL_law 542 = .ok (.aload_n 2, 1) := dk_44 (dk_at dksL_law_16 12 rfl rfl)
theorem dL_law_543 : decode cL_law 543 = .ok (.invokevirtual 169, 3) := dk_182 0 169 (dk_at dksL_law_16 13 rfl rfl)
theorem dL_law_546 : decode cL_law 546 = .ok (.if_icmp .eq 2286, 3) := dk_159 8 238 (dk_at dksL_law_16 16 rfl rfl)
theorem dL_law_549 : decode cL_law 549 = .ok (.iconst 0, 1) := dk_3 (dk_at dksL_law_16 19 rfl rfl)
theorem dL_law_550 : decode cL_law 550 = .ok (.ireturn, 1) := dk_172 (dk_at dksL_law_16 20 rfl rfl)
theorem dL_law_551 : decode cL_law 551 = .ok (.aload_n 1, 1) := dk_43 (dk_at dksL_law_16 21 rfl rfl)
theorem dL_law_552 : decode cL_law 552 = .ok (.aload_n 0, 1) := dk_42 (dk_at dksL_law_16 22 rfl rfl)
theorem dL_law_553 : decode cL_law 553 = .ok (.iload 4, 2) := dk_21 4 (dk_at dksL_law_17 0 rfl rfl)
theorem dL_law_555 : decode cL_law 555 = .ok (.iconst 1, 1) := dk_4 (dk_at dksL_law_17 2 rfl rfl)
theorem dL_law_556 : decode cL_law 556 = .ok (.iadd, 1) := dk_96 (dk_at dksL_law_17 3 rfl rfl)
theorem dL_law_557 : decode cL_law 557 = .ok (.iaload, 1) := dk_46 (dk_at dksL_law_17 4 rfl rfl)
theorem dL_law_558 : decode cL_law 558 = .ok (.aload_n 0, 1) := dk_42 (dk_at dksL_law_17 5 rfl rfl)
theorem dL_law_559 : decode cL_law 559 = .ok (.iload 4, 2) := dk_21 4 (dk_at dksL_law_17 6 rfl rfl)
theorem dL_law_561 : decode cL_law 561 = .ok (.iconst 2, 1) := dk_5 (dk_at dksL_law_17 8 rfl rfl)
theorem dL_law_562 : decode cL_law 562 = .ok (.iadd, 1) := dk_96 (dk_at dksL_law_17 9 rfl rfl)
theorem dL_law_563 : decode cL_law 563 = .ok (.iaload, 1) := dk_46 (dk_at dksL_law_17 10 rfl rfl)
theorem dL_law_564 : decode cL_law 564 = .ok (.aload_n 3, 1) := dk_45 (dk_at dksL_law_17 11 rfl rfl)
theorem dL_law_565 : decode cL_law 565 = .ok (.invokestatic 170, 3) := dk_184 0 170 (dk_at dksL_law_17 12 rfl rfl)
theorem dL_law_568 : decode cL_law 568 = .ok (.istore 5, 2) := dk_54 5 (dk_at dksL_law_17 15 rfl rfl)
theorem dL_law_570 : decode cL_law 570 = .ok (.aload_n 2, 1) := dk_44 (dk_at dksL_law_17 17 rfl rfl)
theorem dL_law_571 : decode cL_law 571 = .ok (.aload_n 0, 1) := dk_42 (dk_at dksL_law_17 18 rfl rfl)
theorem dL_law_572 : decode cL_law 572 = .ok (.iload 4, 2) := dk_21 4 (dk_at dksL_law_17 19 rfl rfl)
theorem dL_law_574 : decode cL_law 574 = .ok (.iconst 1, 1) := dk_4 (dk_at dksL_law_17 21 rfl rfl)
theorem dL_law_575 : decode cL_law 575 = .ok (.iadd, 1) := dk_96 (dk_at dksL_law_17 22 rfl rfl)
theorem dL_law_576 : decode cL_law 576 = .ok (.iaload, 1) := dk_46 (dk_at dksL_law_17 23 rfl rfl)
theorem dL_law_577 : decode cL_law 577 = .ok (.aload_n 0, 1) := dk_42 (dk_at dksL_law_18 0 rfl rfl)
theorem dL_law_578 : decode cL_law 578 = .ok (.iload 4, 2) := dk_21 4 (dk_at dksL_law_18 1 rfl rfl)
theorem dL_law_580 : decode cL_law 580 = .ok (.iconst 2, 1) := dk_5 (dk_at dksL_law_18 3 rfl rfl)
theorem dL_law_581 : decode cL_law 581 = .ok (.iadd, 1) := dk_96 (dk_at dksL_law_18 4 rfl rfl)
theorem dL_law_582 : decode cL_law 582 = .ok (.iaload, 1) := dk_46 (dk_at dksL_law_18 5 rfl rfl)
theorem dL_law_583 : decode cL_law 583 = .ok (.invokevirtual 173, 3) := dk_182 0 173 (dk_at dksL_law_18 6 rfl rfl)
theorem dL_law_586 : decode cL_law 586 = .ok (.istore 6, 2) := dk_54 6 (dk_at dksL_law_18 9 rfl rfl)
theorem dL_law_588 : decode cL_law 588 = .ok (.aload_n 2, 1) := dk_44 (dk_at dksL_law_18 11 rfl rfl)
theorem dL_law_589 : decode cL_law 589 = .ok (.invokevirtual 152, 3) := dk_182 0 152 (dk_at dksL_law_18 12 rfl rfl)
theorem dL_law_592 : decode cL_law 592 = .ok (.iload 5, 2) := dk_21 5 (dk_at dksL_law_18 15 rfl rfl)
theorem dL_law_594 : decode cL_law 594 = .ok (.if_icmp .eq 5, 3) := dk_159 0 5 (dk_at dksL_law_18 17 rfl rfl)
theorem dL_law_597 : decode cL_law 597 = .ok (.iconst 0, 1) := dk_3 (dk_at dksL_law_18 20 rfl rfl)
theorem dL_law_598 : decode cL_law 598 = .ok (.ireturn, 1) := dk_172 (dk_at dksL_law_18 21 rfl rfl)
theorem dL_law_599 : decode cL_law 599 = .ok (.iload 5, 2) := dk_21 5 (dk_at dksL_law_18 22 rfl rfl)
theorem dL_law_601 : decode cL_law 601 = .ok (.ifCond .ne 15, 3) := dk_154 0 15 (dk_at dksL_law_19 0 rfl rfl)
theorem dL_law_604 : decode cL_law 604 = .ok (.aload_n 3, 1) := dk_45 (dk_at dksL_law_19 3 rfl rfl)
theorem dL_law_605 : decode cL_law 605 = .ok (.iconst 0, 1) := dk_3 (dk_at dksL_law_19 4 rfl rfl)
theorem dL_law_606 : decode cL_law 606 = .ok (.laload, 1) := dk_47 (dk_at dksL_law_19 5 rfl rfl)
theorem dL_law_607 : decode cL_law 607 = .ok (.iload 6, 2) := dk_21 6 (dk_at dksL_law_19 6 rfl rfl)
theorem dL_law_609 : decode cL_law 609 = .ok (.i2l, 1) := dk_133 (dk_at dksL_law_19 8 rfl rfl)
theorem dL_law_610 : decode cL_law 610 = .ok (.lcmp, 1) := dk_148 (dk_at dksL_law_19 9 rfl rfl)
theorem dL_law_611 : decode cL_law 611 = .ok (.ifCond .eq 5, 3) := dk_153 0 5 (dk_at dksL_law_19 10 rfl rfl)
theorem dL_law_614 : decode cL_law 614 = .ok (.iconst 0, 1) := dk_3 (dk_at dksL_law_19 13 rfl rfl)
theorem dL_law_615 : decode cL_law 615 = .ok (.ireturn, 1) := dk_172 (dk_at dksL_law_19 14 rfl rfl)
theorem dL_law_616 : decode cL_law 616 = .ok (.goto 2216, 3) := dk_167 8 168 (dk_at dksL_law_19 15 rfl rfl)
theorem dL_law_619 : decode cL_law 619 = .ok (.aload_n 1, 1) := dk_43 (dk_at dksL_law_19 18 rfl rfl)
theorem dL_law_620 : decode cL_law 620 = .ok (.aload_n 0, 1) := dk_42 (dk_at dksL_law_19 19 rfl rfl)
theorem dL_law_621 : decode cL_law 621 = .ok (.iload 4, 2) := dk_21 4 (dk_at dksL_law_19 20 rfl rfl)
theorem dL_law_623 : decode cL_law 623 = .ok (.iconst 1, 1) := dk_4 (dk_at dksL_law_19 22 rfl rfl)
theorem dL_law_624 : decode cL_law 624 = .ok (.iadd, 1) := dk_96 (dk_at dksL_law_19 23 rfl rfl)
theorem dL_law_625 : decode cL_law 625 = .ok (.iaload, 1) := dk_46 (dk_at dksL_law_20 0 rfl rfl)
theorem dL_law_626 : decode cL_law 626 = .ok (.aload_n 0, 1) := dk_42 (dk_at dksL_law_20 1 rfl rfl)
theorem dL_law_627 : decode cL_law 627 = .ok (.iload 4, 2) := dk_21 4 (dk_at dksL_law_20 2 rfl rfl)
theorem dL_law_629 : decode cL_law 629 = .ok (.iconst 2, 1) := dk_5 (dk_at dksL_law_20 4 rfl rfl)
theorem dL_law_630 : decode cL_law 630 = .ok (.iadd, 1) := dk_96 (dk_at dksL_law_20 5 rfl rfl)
theorem dL_law_631 : decode cL_law 631 = .ok (.iaload, 1) := dk_46 (dk_at dksL_law_20 6 rfl rfl)
theorem dL_law_632 : decode cL_law 632 = .ok (.aload_n 0, 1) := dk_42 (dk_at dksL_law_20 7 rfl rfl)
theorem dL_law_633 : decode cL_law 633 = .ok (.iload 4, 2) := dk_21 4 (dk_at dksL_law_20 8 rfl rfl)
theorem dL_law_635 : decode cL_law 635 = .ok (.iconst 3, 1) := dk_6 (dk_at dksL_law_20 10 rfl rfl)
theorem dL_law_636 : decode cL_law 636 = .ok (.iadd, 1) := dk_96 (dk_at dksL_law_20 11 rfl rfl)
theorem dL_law_637 : decode cL_law 637 = .ok (.iaload, 1) := dk_46 (dk_at dksL_law_20 12 rfl rfl)
theorem dL_law_638 : decode cL_law 638 = .ok (.aload_n 3, 1) := dk_45 (dk_at dksL_law_20 13 rfl rfl)
theorem dL_law_639 : decode cL_law 639 = .ok (.invokestatic 174, 3) := dk_184 0 174 (dk_at dksL_law_20 14 rfl rfl)
theorem dL_law_642 : decode cL_law 642 = .ok (.istore 5, 2) := dk_54 5 (dk_at dksL_law_20 17 rfl rfl)
theorem dL_law_644 : decode cL_law 644 = .ok (.aload_n 2, 1) := dk_44 (dk_at dksL_law_20 19 rfl rfl)
theorem dL_law_645 : decode cL_law 645 = .ok (.aload_n 0, 1) := dk_42 (dk_at dksL_law_20 20 rfl rfl)
theorem dL_law_646 : decode cL_law 646 = .ok (.iload 4, 2) := dk_21 4 (dk_at dksL_law_20 21 rfl rfl)
theorem dL_law_648 : decode cL_law 648 = .ok (.iconst 1, 1) := dk_4 (dk_at dksL_law_20 23 rfl rfl)
theorem dL_law_649 : decode cL_law 649 = .ok (.iadd, 1) := dk_96 (dk_at dksL_law_21 0 rfl rfl)
theorem dL_law_650 : decode cL_law 650 = .ok (.iaload, 1) := dk_46 (dk_at dksL_law_21 1 rfl rfl)
theorem dL_law_651 : decode cL_law 651 = .ok (.aload_n 0, 1) := dk_42 (dk_at dksL_law_21 2 rfl rfl)
theorem dL_law_652 : decode cL_law 652 = .ok (.iload 4, 2) := dk_21 4 (dk_at dksL_law_21 3 rfl rfl)
theorem dL_law_654 : decode cL_law 654 = .ok (.iconst 2, 1) := dk_5 (dk_at dksL_law_21 5 rfl rfl)
theorem dL_law_655 : decode cL_law 655 = .ok (.iadd, 1) := dk_96 (dk_at dksL_law_21 6 rfl rfl)
theorem dL_law_656 : decode cL_law 656 = .ok (.iaload, 1) := dk_46 (dk_at dksL_law_21 7 rfl rfl)
theorem dL_law_657 : decode cL_law 657 = .ok (.aload_n 0, 1) := dk_42 (dk_at dksL_law_21 8 rfl rfl)
theorem dL_law_658 : decode cL_law 658 = .ok (.iload 4, 2) := dk_21 4 (dk_at dksL_law_21 9 rfl rfl)
theorem dL_law_660 : decode cL_law 660 = .ok (.iconst 3, 1) := dk_6 (dk_at dksL_law_21 11 rfl rfl)
theorem dL_law_661 : decode cL_law 661 = .ok (.iadd, 1) := dk_96 (dk_at dksL_law_21 12 rfl rfl)
theorem dL_law_662 : decode cL_law 662 = .ok (.iaload, 1) := dk_46 (dk_at dksL_law_21 13 rfl rfl)
theorem dL_law_663 : decode cL_law 663 = .ok (.invokevirtual 177, 3) := dk_182 0 177 (dk_at dksL_law_21 14 rfl rfl)
theorem dL_law_666 : decode cL_law 666 = .ok (.istore 6, 2) := dk_54 6 (dk_at dksL_law_21 17 rfl rfl)
theorem dL_law_668 : decode cL_law 668 = .ok (.aload_n 2, 1) := dk_44 (dk_at dksL_law_21 19 rfl rfl)
theorem dL_law_669 : decode cL_law 669 = .ok (.invokevirtual 152, 3) := dk_182 0 152 (dk_at dksL_law_21 20 rfl rfl)
theorem dL_law_672 : decode cL_law 672 = .ok (.iload 5, 2) := dk_21 5 (dk_at dksL_law_22 0 rfl rfl)
theorem dL_law_674 : decode cL_law 674 = .ok (.if_icmp .eq 5, 3) := dk_159 0 5 (dk_at dksL_law_22 2 rfl rfl)
theorem dL_law_677 : decode cL_law 677 = .ok (.iconst 0, 1) := dk_3 (dk_at dksL_law_22 5 rfl rfl)
theorem dL_law_678 : decode cL_law 678 = .ok (.ireturn, 1) := dk_172 (dk_at dksL_law_22 6 rfl rfl)
theorem dL_law_679 : decode cL_law 679 = .ok (.iload 5, 2) := dk_21 5 (dk_at dksL_law_22 7 rfl rfl)
theorem dL_law_681 : decode cL_law 681 = .ok (.ifCond .ne 15, 3) := dk_154 0 15 (dk_at dksL_law_22 9 rfl rfl)
theorem dL_law_684 : decode cL_law 684 = .ok (.aload_n 3, 1) := dk_45 (dk_at dksL_law_22 12 rfl rfl)
theorem dL_law_685 : decode cL_law 685 = .ok (.iconst 0, 1) := dk_3 (dk_at dksL_law_22 13 rfl rfl)
theorem dL_law_686 : decode cL_law 686 = .ok (.laload, 1) := dk_47 (dk_at dksL_law_22 14 rfl rfl)
theorem dL_law_687 : decode cL_law 687 = .ok (.iload 6, 2) := dk_21 6 (dk_at dksL_law_22 15 rfl rfl)
theorem dL_law_689 : decode cL_law 689 = .ok (.i2l, 1) := dk_133 (dk_at dksL_law_22 17 rfl rfl)
theorem dL_law_690 : decode cL_law 690 = .ok (.lcmp, 1) := dk_148 (dk_at dksL_law_22 18 rfl rfl)
theorem dL_law_691 : decode cL_law 691 = .ok (.ifCond .eq 5, 3) := dk_153 0 5 (dk_at dksL_law_22 19 rfl rfl)
theorem dL_law_694 : decode cL_law 694 = .ok (.iconst 0, 1) := dk_3 (dk_at dksL_law_22 22 rfl rfl)
theorem dL_law_695 : decode cL_law 695 = .ok (.ireturn, 1) := dk_172 (dk_at dksL_law_22 23 rfl rfl)
theorem dL_law_696 : decode cL_law 696 = .ok (.goto 2136, 3) := dk_167 8 88 (dk_at dksL_law_23 0 rfl rfl)
theorem dL_law_699 : decode cL_law 699 = .ok (.aload_n 1, 1) := dk_43 (dk_at dksL_law_23 3 rfl rfl)
theorem dL_law_700 : decode cL_law 700 = .ok (.aload_n 0, 1) := dk_42 (dk_at dksL_law_23 4 rfl rfl)
theorem dL_law_701 : decode cL_law 701 = .ok (.iload 4, 2) := dk_21 4 (dk_at dksL_law_23 5 rfl rfl)
theorem dL_law_703 : decode cL_law 703 = .ok (.iconst 1, 1) := dk_4 (dk_at dksL_law_23 7 rfl rfl)
theorem dL_law_704 : decode cL_law 704 = .ok (.iadd, 1) := dk_96 (dk_at dksL_law_23 8 rfl rfl)
theorem dL_law_705 : decode cL_law 705 = .ok (.iaload, 1) := dk_46 (dk_at dksL_law_23 9 rfl rfl)
theorem dL_law_706 : decode cL_law 706 = .ok (.aload_n 3, 1) := dk_45 (dk_at dksL_law_23 10 rfl rfl)
theorem dL_law_707 : decode cL_law 707 = .ok (.invokestatic 178, 3) := dk_184 0 178 (dk_at dksL_law_23 11 rfl rfl)
theorem dL_law_710 : decode cL_law 710 = .ok (.istore 5, 2) := dk_54 5 (dk_at dksL_law_23 14 rfl rfl)
theorem dL_law_712 : decode cL_law 712 = .ok (.aload_n 2, 1) := dk_44 (dk_at dksL_law_23 16 rfl rfl)
theorem dL_law_713 : decode cL_law 713 = .ok (.aload_n 0, 1) := dk_42 (dk_at dksL_law_23 17 rfl rfl)
theorem dL_law_714 : decode cL_law 714 = .ok (.iload 4, 2) := dk_21 4 (dk_at dksL_law_23 18 rfl rfl)
theorem dL_law_716 : decode cL_law 716 = .ok (.iconst 1, 1) := dk_4 (dk_at dksL_law_23 20 rfl rfl)
theorem dL_law_717 : decode cL_law 717 = .ok (.iadd, 1) := dk_96 (dk_at dksL_law_23 21 rfl rfl)
theorem dL_law_718 : decode cL_law 718 = .ok (.iaload, 1) := dk_46 (dk_at dksL_law_23 22 rfl rfl)
theorem dL_law_719 : decode cL_law 719 = .ok (.invokevirtual 181, 3) := dk_182 0 181 (dk_at dksL_law_24 0 rfl rfl)
theorem dL_law_722 : decode cL_law 722 = .ok (.istore 6, 2) := dk_54 6 (dk_at dksL_law_24 3 rfl rfl)
theorem dL_law_724 : decode cL_law 724 = .ok (.aload_n 2, 1) := dk_44 (dk_at dksL_law_24 5 rfl rfl)
theorem dL_law_725 : decode cL_law 725 = .ok (.invokevirtual 152, 3) := dk_182 0 152 (dk_at dksL_law_24 6 rfl rfl)
theorem dL_law_728 : decode cL_law 728 = .ok (.iload 5, 2) := dk_21 5 (dk_at dksL_law_24 9 rfl rfl)
theorem dL_law_730 : decode cL_law 730 = .ok (.if_icmp .eq 5, 3) := dk_159 0 5 (dk_at dksL_law_24 11 rfl rfl)
theorem dL_law_733 : decode cL_law 733 = .ok (.iconst 0, 1) := dk_3 (dk_at dksL_law_24 14 rfl rfl)
theorem dL_law_734 : decode cL_law 734 = .ok (.ireturn, 1) := dk_172 (dk_at dksL_law_24 15 rfl rfl)
theorem dL_law_735 : decode cL_law 735 = .ok (.iload 5, 2) := dk_21 5 (dk_at dksL_law_24 16 rfl rfl)
theorem dL_law_737 : decode cL_law 737 = .ok (.ifCond .ne 15, 3) := dk_154 0 15 (dk_at dksL_law_24 18 rfl rfl)
theorem dL_law_740 : decode cL_law 740 = .ok (.aload_n 3, 1) := dk_45 (dk_at dksL_law_24 21 rfl rfl)
theorem dL_law_741 : decode cL_law 741 = .ok (.iconst 0, 1) := dk_3 (dk_at dksL_law_24 22 rfl rfl)
theorem dL_law_742 : decode cL_law 742 = .ok (.laload, 1) := dk_47 (dk_at dksL_law_24 23 rfl rfl)
theorem dL_law_743 : decode cL_law 743 = .ok (.iload 6, 2) := dk_21 6 (dk_at dksL_law_25 0 rfl rfl)
theorem dL_law_745 : decode cL_law 745 = .ok (.i2l, 1) := dk_133 (dk_at dksL_law_25 2 rfl rfl)
theorem dL_law_746 : decode cL_law 746 = .ok (.lcmp, 1) := dk_148 (dk_at dksL_law_25 3 rfl rfl)
theorem dL_law_747 : decode cL_law 747 = .ok (.ifCond .eq 5, 3) := dk_153 0 5 (dk_at dksL_law_25 4 rfl rfl)
theorem dL_law_750 : decode cL_law 750 = .ok (.iconst 0, 1) := dk_3 (dk_at dksL_law_25 7 rfl rfl)
theorem dL_law_751 : decode cL_law 751 = .ok (.ireturn, 1) := dk_172 (dk_at dksL_law_25 8 rfl rfl)
theorem dL_law_752 : decode cL_law 752 = .ok (.goto 2080, 3) := dk_167 8 32 (dk_at dksL_law_25 9 rfl rfl)
theorem dL_law_755 : decode cL_law 755 = .ok (.aload_n 1, 1) := dk_43 (dk_at dksL_law_25 12 rfl rfl)
theorem dL_law_756 : decode cL_law 756 = .ok (.aload_n 0, 1) := dk_42 (dk_at dksL_law_25 13 rfl rfl)
theorem dL_law_757 : decode cL_law 757 = .ok (.iload 4, 2) := dk_21 4 (dk_at dksL_law_25 14 rfl rfl)
theorem dL_law_759 : decode cL_law 759 = .ok (.iconst 1, 1) := dk_4 (dk_at dksL_law_25 16 rfl rfl)
theorem dL_law_760 : decode cL_law 760 = .ok (.iadd, 1) := dk_96 (dk_at dksL_law_25 17 rfl rfl)
theorem dL_law_761 : decode cL_law 761 = .ok (.iaload, 1) := dk_46 (dk_at dksL_law_25 18 rfl rfl)
theorem dL_law_762 : decode cL_law 762 = .ok (.aload_n 0, 1) := dk_42 (dk_at dksL_law_25 19 rfl rfl)
theorem dL_law_763 : decode cL_law 763 = .ok (.iload 4, 2) := dk_21 4 (dk_at dksL_law_25 20 rfl rfl)
theorem dL_law_765 : decode cL_law 765 = .ok (.iconst 2, 1) := dk_5 (dk_at dksL_law_25 22 rfl rfl)
theorem dL_law_766 : decode cL_law 766 = .ok (.iadd, 1) := dk_96 (dk_at dksL_law_25 23 rfl rfl)
theorem dL_law_767 : decode cL_law 767 = .ok (.iaload, 1) := dk_46 (dk_at dksL_law_26 0 rfl rfl)
theorem dL_law_768 : decode cL_law 768 = .ok (.aload_n 3, 1) := dk_45 (dk_at dksL_law_26 1 rfl rfl)
theorem dL_law_769 : decode cL_law 769 = .ok (.invokestatic 182, 3) := dk_184 0 182 (dk_at dksL_law_26 2 rfl rfl)
theorem dL_law_772 : decode cL_law 772 = .ok (.istore 5, 2) := dk_54 5 (dk_at dksL_law_26 5 rfl rfl)
theorem dL_law_774 : decode cL_law 774 = .ok (.aload_n 2, 1) := dk_44 (dk_at dksL_law_26 7 rfl rfl)
theorem dL_law_775 : decode cL_law 775 = .ok (.aload_n 0, 1) := dk_42 (dk_at dksL_law_26 8 rfl rfl)
theorem dL_law_776 : decode cL_law 776 = .ok (.iload 4, 2) := dk_21 4 (dk_at dksL_law_26 9 rfl rfl)
theorem dL_law_778 : decode cL_law 778 = .ok (.iconst 1, 1) := dk_4 (dk_at dksL_law_26 11 rfl rfl)
theorem dL_law_779 : decode cL_law 779 = .ok (.iadd, 1) := dk_96 (dk_at dksL_law_26 12 rfl rfl)
theorem dL_law_780 : decode cL_law 780 = .ok (.iaload, 1) := dk_46 (dk_at dksL_law_26 13 rfl rfl)
theorem dL_law_781 : decode cL_law 781 = .ok (.aload_n 0, 1) := dk_42 (dk_at dksL_law_26 14 rfl rfl)
theorem dL_law_782 : decode cL_law 782 = .ok (.iload 4, 2) := dk_21 4 (dk_at dksL_law_26 15 rfl rfl)
theorem dL_law_784 : decode cL_law 784 = .ok (.iconst 2, 1) := dk_5 (dk_at dksL_law_26 17 rfl rfl)
theorem dL_law_785 : decode cL_law 785 = .ok (.iadd, 1) := dk_96 (dk_at dksL_law_26 18 rfl rfl)
theorem dL_law_786 : decode cL_law 786 = .ok (.iaload, 1) := dk_46 (dk_at dksL_law_26 19 rfl rfl)
theorem dL_law_787 : decode cL_law 787 = .ok (.invokevirtual 184, 3) := dk_182 0 184 (dk_at dksL_law_26 20 rfl rfl)
theorem dL_law_790 : decode cL_law 790 = .ok (.istore 6, 2) := dk_54 6 (dk_at dksL_law_27 0 rfl rfl)
theorem dL_law_792 : decode cL_law 792 = .ok (.aload_n 2, 1) := dk_44 (dk_at dksL_law_27 2 rfl rfl)
theorem dL_law_793 : decode cL_law 793 = .ok (.invokevirtual 152, 3) := dk_182 0 152 (dk_at dksL_law_27 3 rfl rfl)
theorem dL_law_796 : decode cL_law 796 = .ok (.iload 5, 2) := dk_21 5 (dk_at dksL_law_27 6 rfl rfl)
theorem dL_law_798 : decode cL_law 798 = .ok (.if_icmp .eq 5, 3) := dk_159 0 5 (dk_at dksL_law_27 8 rfl rfl)
theorem dL_law_801 : decode cL_law 801 = .ok (.iconst 0, 1) := dk_3 (dk_at dksL_law_27 11 rfl rfl)
theorem dL_law_802 : decode cL_law 802 = .ok (.ireturn, 1) := dk_172 (dk_at dksL_law_27 12 rfl rfl)
theorem dL_law_803 : decode cL_law 803 = .ok (.iload 5, 2) := dk_21 5 (dk_at dksL_law_27 13 rfl rfl)
theorem dL_law_805 : decode cL_law 805 = .ok (.ifCond .ne 22, 3) := dk_154 0 22 (dk_at dksL_law_27 15 rfl rfl)
theorem dL_law_808 : decode cL_law 808 = .ok (.aload_n 3, 1) := dk_45 (dk_at dksL_law_27 18 rfl rfl)
theorem dL_law_809 : decode cL_law 809 = .ok (.iconst 0, 1) := dk_3 (dk_at dksL_law_27 19 rfl rfl)
theorem dL_law_810 : decode cL_law 810 = .ok (.laload, 1) := dk_47 (dk_at dksL_law_27 20 rfl rfl)
theorem dL_law_811 : decode cL_law 811 = .ok (.iload 6, 2) := dk_21 6 (dk_at dksL_law_27 21 rfl rfl)
theorem dL_law_813 : decode cL_law 813 = .ok (.ifCond .eq 7, 3) := dk_153 0 7 (dk_at dksL_law_28 0 rfl rfl)
theorem dL_law_816 : decode cL_law 816 = .ok (.lconst 1, 1) := dk_10 (dk_at dksL_law_28 3 rfl rfl)
theorem dL_law_817 : decode cL_law 817 = .ok (.goto 4, 3) := dk_167 0 4 (dk_at dksL_law_28 4 rfl rfl)
theorem dL_law_820 : decode cL_law 820 = .ok (.lconst 0, 1) := dk_9 (dk_at dksL_law_28 7 rfl rfl)
theorem dL_law_821 : decode cL_law 821 = .ok (.lcmp, 1) := dk_148 (dk_at dksL_law_28 8 rfl rfl)
theorem dL_law_822 : decode cL_law 822 = .ok (.ifCond .eq 5, 3) := dk_153 0 5 (dk_at dksL_law_28 9 rfl rfl)
theorem dL_law_825 : decode cL_law 825 = .ok (.iconst 0, 1) := dk_3 (dk_at dksL_law_28 12 rfl rfl)
theorem dL_law_826 : decode cL_law 826 = .ok (.ireturn, 1) := dk_172 (dk_at dksL_law_28 13 rfl rfl)
theorem dL_law_827 : decode cL_law 827 = .ok (.goto 2005, 3) := dk_167 7 213 (dk_at dksL_law_28 14 rfl rfl)
theorem dL_law_830 : decode cL_law 830 = .ok (.aload_n 1, 1) := dk_43 (dk_at dksL_law_28 17 rfl rfl)
theorem dL_law_831 : decode cL_law 831 = .ok (.invokevirtual 185, 3) := dk_182 0 185 (dk_at dksL_law_28 18 rfl rfl)
theorem dL_law_834 : decode cL_law 834 = .ok (.aload_n 2, 1) := dk_44 (dk_at dksL_law_28 21 rfl rfl)
theorem dL_law_835 : decode cL_law 835 = .ok (.invokevirtual 188, 3) := dk_182 0 188 (dk_at dksL_law_29 0 rfl rfl)
theorem dL_law_838 : decode cL_law 838 = .ok (.if_icmp .eq 1994, 3) := dk_159 7 202 (dk_at dksL_law_29 3 rfl rfl)
theorem dL_law_841 : decode cL_law 841 = .ok (.iconst 0, 1) := dk_3 (dk_at dksL_law_29 6 rfl rfl)
theorem dL_law_842 : decode cL_law 842 = .ok (.ireturn, 1) := dk_172 (dk_at dksL_law_29 7 rfl rfl)
theorem dL_law_843 : decode cL_law 843 = .ok (.aload_n 1, 1) := dk_43 (dk_at dksL_law_29 8 rfl rfl)
theorem dL_law_844 : decode cL_law 844 = .ok (.invokevirtual 189, 3) := dk_182 0 189 (dk_at dksL_law_29 9 rfl rfl)
theorem dL_law_847 : decode cL_law 847 = .ok (.aload_n 2, 1) := dk_44 (dk_at dksL_law_29 12 rfl rfl)
theorem dL_law_848 : decode cL_law 848 = .ok (.invokevirtual 192, 3) := dk_182 0 192 (dk_at dksL_law_29 13 rfl rfl)
theorem dL_law_851 : decode cL_law 851 = .ok (.if_icmp .eq 1981, 3) := dk_159 7 189 (dk_at dksL_law_29 16 rfl rfl)
theorem dL_law_854 : decode cL_law 854 = .ok (.iconst 0, 1) := dk_3 (dk_at dksL_law_29 19 rfl rfl)
theorem dL_law_855 : decode cL_law 855 = .ok (.ireturn, 1) := dk_172 (dk_at dksL_law_29 20 rfl rfl)
theorem dL_law_856 : decode cL_law 856 = .ok (.aload_n 1, 1) := dk_43 (dk_at dksL_law_29 21 rfl rfl)
theorem dL_law_857 : decode cL_law 857 = .ok (.aload_n 0, 1) := dk_42 (dk_at dksL_law_29 22 rfl rfl)
theorem dL_law_858 : decode cL_law 858 = .ok (.iload 4, 2) := dk_21 4 (dk_at dksL_law_30 0 rfl rfl)
theorem dL_law_860 : decode cL_law 860 = .ok (.iconst 1, 1) := dk_4 (dk_at dksL_law_30 2 rfl rfl)
theorem dL_law_861 : decode cL_law 861 = .ok (.iadd, 1) := dk_96 (dk_at dksL_law_30 3 rfl rfl)
theorem dL_law_862 : decode cL_law 862 = .ok (.iaload, 1) := dk_46 (dk_at dksL_law_30 4 rfl rfl)
theorem dL_law_863 : decode cL_law 863 = .ok (.aload_n 0, 1) := dk_42 (dk_at dksL_law_30 5 rfl rfl)
theorem dL_law_864 : decode cL_law 864 = .ok (.iload 4, 2) := dk_21 4 (dk_at dksL_law_30 6 rfl rfl)
theorem dL_law_866 : decode cL_law 866 = .ok (.iconst 2, 1) := dk_5 (dk_at dksL_law_30 8 rfl rfl)
theorem dL_law_867 : decode cL_law 867 = .ok (.iadd, 1) := dk_96 (dk_at dksL_law_30 9 rfl rfl)
theorem dL_law_868 : decode cL_law 868 = .ok (.iaload, 1) := dk_46 (dk_at dksL_law_30 10 rfl rfl)
theorem dL_law_869 : decode cL_law 869 = .ok (.aload_n 0, 1) := dk_42 (dk_at dksL_law_30 11 rfl rfl)
theorem dL_law_870 : decode cL_law 870 = .ok (.iload 4, 2) := dk_21 4 (dk_at dksL_law_30 12 rfl rfl)
theorem dL_law_872 : decode cL_law 872 = .ok (.iconst 3, 1) := dk_6 (dk_at dksL_law_30 14 rfl rfl)
theorem dL_law_873 : decode cL_law 873 = .ok (.iadd, 1) := dk_96 (dk_at dksL_law_30 15 rfl rfl)
theorem dL_law_874 : decode cL_law 874 = .ok (.iaload, 1) := dk_46 (dk_at dksL_law_30 16 rfl rfl)
theorem dL_law_875 : decode cL_law 875 = .ok (.aload_n 3, 1) := dk_45 (dk_at dksL_law_30 17 rfl rfl)
theorem dL_law_876 : decode cL_law 876 = .ok (.invokestatic 193, 3) := dk_184 0 193 (dk_at dksL_law_30 18 rfl rfl)
theorem dL_law_879 : decode cL_law 879 = .ok (.istore 5, 2) := dk_54 5 (dk_at dksL_law_30 21 rfl rfl)
theorem dL_law_881 : decode cL_law 881 = .ok (.aload_n 2, 1) := dk_44 (dk_at dksL_law_30 23 rfl rfl)
theorem dL_law_882 : decode cL_law 882 = .ok (.aload_n 0, 1) := dk_42 (dk_at dksL_law_31 0 rfl rfl)
theorem dL_law_883 : decode cL_law 883 = .ok (.iload 4, 2) := dk_21 4 (dk_at dksL_law_31 1 rfl rfl)
theorem dL_law_885 : decode cL_law 885 = .ok (.iconst 1, 1) := dk_4 (dk_at dksL_law_31 3 rfl rfl)
theorem dL_law_886 : decode cL_law 886 = .ok (.iadd, 1) := dk_96 (dk_at dksL_law_31 4 rfl rfl)
theorem dL_law_887 : decode cL_law 887 = .ok (.iaload, 1) := dk_46 (dk_at dksL_law_31 5 rfl rfl)
theorem dL_law_888 : decode cL_law 888 = .ok (.aload_n 0, 1) := dk_42 (dk_at dksL_law_31 6 rfl rfl)
theorem dL_law_889 : decode cL_law 889 = .ok (.iload 4, 2) := dk_21 4 (dk_at dksL_law_31 7 rfl rfl)
theorem dL_law_891 : decode cL_law 891 = .ok (.iconst 2, 1) := dk_5 (dk_at dksL_law_31 9 rfl rfl)
theorem dL_law_892 : decode cL_law 892 = .ok (.iadd, 1) := dk_96 (dk_at dksL_law_31 10 rfl rfl)
theorem dL_law_893 : decode cL_law 893 = .ok (.iaload, 1) := dk_46 (dk_at dksL_law_31 11 rfl rfl)
theorem dL_law_894 : decode cL_law 894 = .ok (.aload_n 0, 1) := dk_42 (dk_at dksL_law_31 12 rfl rfl)
theorem dL_law_895 : decode cL_law 895 = .ok (.iload 4, 2) := dk_21 4 (dk_at dksL_law_31 13 rfl rfl)
theorem dL_law_897 : decode cL_law 897 = .ok (.iconst 3, 1) := dk_6 (dk_at dksL_law_31 15 rfl rfl)
theorem dL_law_898 : decode cL_law 898 = .ok (.iadd, 1) := dk_96 (dk_at dksL_law_31 16 rfl rfl)
theorem dL_law_899 : decode cL_law 899 = .ok (.iaload, 1) := dk_46 (dk_at dksL_law_31 17 rfl rfl)
theorem dL_law_900 : decode cL_law 900 = .ok (.invokevirtual 195, 3) := dk_182 0 195 (dk_at dksL_law_31 18 rfl rfl)
theorem dL_law_903 : decode cL_law 903 = .ok (.istore 6, 2) := dk_54 6 (dk_at dksL_law_31 21 rfl rfl)
theorem dL_law_905 : decode cL_law 905 = .ok (.aload_n 2, 1) := dk_44 (dk_at dksL_law_31 23 rfl rfl)
theorem dL_law_906 : decode cL_law 906 = .ok (.invokevirtual 152, 3) := dk_182 0 152 (dk_at dksL_law_32 0 rfl rfl)
theorem dL_law_909 : decode cL_law 909 = .ok (.iload 5, 2) := dk_21 5 (dk_at dksL_law_32 3 rfl rfl)
theorem dL_law_911 : decode cL_law 911 = .ok (.if_icmp .eq 5, 3) := dk_159 0 5 (dk_at dksL_law_32 5 rfl rfl)
theorem dL_law_914 : decode cL_law 914 = .ok (.iconst 0, 1) := dk_3 (dk_at dksL_law_32 8 rfl rfl)
theorem dL_law_915 : decode cL_law 915 = .ok (.ireturn, 1) := dk_172 (dk_at dksL_law_32 9 rfl rfl)
theorem dL_law_916 : decode cL_law 916 = .ok (.iload 5, 2) := dk_21 5 (dk_at dksL_law_32 10 rfl rfl)
theorem dL_law_918 : decode cL_law 918 = .ok (.ifCond .ne 15, 3) := dk_154 0 15 (dk_at dksL_law_32 12 rfl rfl)
theorem dL_law_921 : decode cL_law 921 = .ok (.aload_n 3, 1) := dk_45 (dk_at dksL_law_32 15 rfl rfl)
theorem dL_law_922 : decode cL_law 922 = .ok (.iconst 0, 1) := dk_3 (dk_at dksL_law_32 16 rfl rfl)
theorem dL_law_923 : decode cL_law 923 = .ok (.laload, 1) := dk_47 (dk_at dksL_law_32 17 rfl rfl)
theorem dL_law_924 : decode cL_law 924 = .ok (.iload 6, 2) := dk_21 6 (dk_at dksL_law_32 18 rfl rfl)
theorem dL_law_926 : decode cL_law 926 = .ok (.i2l, 1) := dk_133 (dk_at dksL_law_32 20 rfl rfl)
theorem dL_law_927 : decode cL_law 927 = .ok (.lcmp, 1) := dk_148 (dk_at dksL_law_32 21 rfl rfl)
theorem dL_law_928 : decode cL_law 928 = .ok (.ifCond .eq 5, 3) := dk_153 0 5 (dk_at dksL_law_33 0 rfl rfl)
theorem dL_law_931 : decode cL_law 931 = .ok (.iconst 0, 1) := dk_3 (dk_at dksL_law_33 3 rfl rfl)
theorem dL_law_932 : decode cL_law 932 = .ok (.ireturn, 1) := dk_172 (dk_at dksL_law_33 4 rfl rfl)
theorem dL_law_933 : decode cL_law 933 = .ok (.goto 1899, 3) := dk_167 7 107 (dk_at dksL_law_33 5 rfl rfl)
theorem dL_law_936 : decode cL_law 936 = .ok (.aload_n 1, 1) := dk_43 (dk_at dksL_law_33 8 rfl rfl)
theorem dL_law_937 : decode cL_law 937 = .ok (.aload_n 0, 1) := dk_42 (dk_at dksL_law_33 9 rfl rfl)
theorem dL_law_938 : decode cL_law 938 = .ok (.iload 4, 2) := dk_21 4 (dk_at dksL_law_33 10 rfl rfl)
theorem dL_law_940 : decode cL_law 940 = .ok (.iconst 1, 1) := dk_4 (dk_at dksL_law_33 12 rfl rfl)
theorem dL_law_941 : decode cL_law 941 = .ok (.iadd, 1) := dk_96 (dk_at dksL_law_33 13 rfl rfl)
theorem dL_law_942 : decode cL_law 942 = .ok (.iaload, 1) := dk_46 (dk_at dksL_law_33 14 rfl rfl)
theorem dL_law_943 : decode cL_law 943 = .ok (.aload_n 0, 1) := dk_42 (dk_at dksL_law_33 15 rfl rfl)
theorem dL_law_944 : decode cL_law 944 = .ok (.iload 4, 2) := dk_21 4 (dk_at dksL_law_33 16 rfl rfl)
theorem dL_law_946 : decode cL_law 946 = .ok (.iconst 2, 1) := dk_5 (dk_at dksL_law_33 18 rfl rfl)
theorem dL_law_947 : decode cL_law 947 = .ok (.iadd, 1) := dk_96 (dk_at dksL_law_33 19 rfl rfl)
theorem dL_law_948 : decode cL_law 948 = .ok (.iaload, 1) := dk_46 (dk_at dksL_law_33 20 rfl rfl)
theorem dL_law_949 : decode cL_law 949 = .ok (.ifCond .eq 7, 3) := dk_153 0 7 (dk_at dksL_law_33 21 rfl rfl)
theorem dL_law_952 : decode cL_law 952 = .ok (.iconst 1, 1) := dk_4 (dk_at dksL_law_34 0 rfl rfl)
theorem dL_law_953 : decode cL_law 953 = .ok (.goto 4, 3) := dk_167 0 4 (dk_at dksL_law_34 1 rfl rfl)
theorem dL_law_956 : decode cL_law 956 = .ok (.iconst 0, 1) := dk_3 (dk_at dksL_law_34 4 rfl rfl)
theorem dL_law_957 : decode cL_law 957 = .ok (.aload_n 3, 1) := dk_45 (dk_at dksL_law_34 5 rfl rfl)
theorem dL_law_958 : decode cL_law 958 = .ok (.invokestatic 196, 3) := dk_184 0 196 (dk_at dksL_law_34 6 rfl rfl)
theorem dL_law_961 : decode cL_law 961 = .ok (.istore 5, 2) := dk_54 5 (dk_at dksL_law_34 9 rfl rfl)
theorem dL_law_963 : decode cL_law 963 = .ok (.aload_n 2, 1) := dk_44 (dk_at dksL_law_34 11 rfl rfl)
theorem dL_law_964 : decode cL_law 964 = .ok (.aload_n 0, 1) := dk_42 (dk_at dksL_law_34 12 rfl rfl)
theorem dL_law_965 : decode cL_law 965 = .ok (.iload 4, 2) := dk_21 4 (dk_at dksL_law_34 13 rfl rfl)
theorem dL_law_967 : decode cL_law 967 = .ok (.iconst 1, 1) := dk_4 (dk_at dksL_law_34 15 rfl rfl)
theorem dL_law_968 : decode cL_law 968 = .ok (.iadd, 1) := dk_96 (dk_at dksL_law_34 16 rfl rfl)
theorem dL_law_969 : decode cL_law 969 = .ok (.iaload, 1) := dk_46 (dk_at dksL_law_34 17 rfl rfl)
theorem dL_law_970 : decode cL_law 970 = .ok (.aload_n 0, 1) := dk_42 (dk_at dksL_law_34 18 rfl rfl)
theorem dL_law_971 : decode cL_law 971 = .ok (.iload 4, 2) := dk_21 4 (dk_at dksL_law_34 19 rfl rfl)
theorem dL_law_973 : decode cL_law 973 = .ok (.iconst 2, 1) := dk_5 (dk_at dksL_law_34 21 rfl rfl)
theorem dL_law_974 : decode cL_law 974 = .ok (.iadd, 1) := dk_96 (dk_at dksL_law_34 22 rfl rfl)
theorem dL_law_975 : decode cL_law 975 = .ok (.iaload, 1) := dk_46 (dk_at dksL_law_34 23 rfl rfl)
theorem dL_law_976 : decode cL_law 976 = .ok (.ifCond .eq 7, 3) := dk_153 0 7 (dk_at dksL_law_35 0 rfl rfl)
theorem dL_law_979 : decode cL_law 979 = .ok (.iconst 1, 1) := dk_4 (dk_at dksL_law_35 3 rfl rfl)
theorem dL_law_980 : decode cL_law 980 = .ok (.goto 4, 3) := dk_167 0 4 (dk_at dksL_law_35 4 rfl rfl)
theorem dL_law_983 : decode cL_law 983 = .ok (.iconst 0, 1) := dk_3 (dk_at dksL_law_35 7 rfl rfl)
theorem dL_law_984 : decode cL_law 984 = .ok (.invokevirtual 199, 3) := dk_182 0 199 (dk_at dksL_law_35 8 rfl rfl)
theorem dL_law_987 : decode cL_law 987 = .ok (.istore 6, 2) := dk_54 6 (dk_at dksL_law_35 11 rfl rfl)
theorem dL_law_989 : decode cL_law 989 = .ok (.aload_n 2, 1) := dk_44 (dk_at dksL_law_35 13 rfl rfl)
theorem dL_law_990 : decode cL_law 990 = .ok (.invokevirtual 152, 3) := dk_182 0 152 (dk_at dksL_law_35 14 rfl rfl)
theorem dL_law_993 : decode cL_law 993 = .ok (.iload 5, 2) := dk_21 5 (dk_at dksL_law_35 17 rfl rfl)
theorem dL_law_995 : decode cL_law 995 = .ok (.if_icmp .eq 5, 3) := dk_159 0 5 (dk_at dksL_law_35 19 rfl rfl)
theorem dL_law_998 : decode cL_law 998 = .ok (.iconst 0, 1) := dk_3 (dk_at dksL_law_35 22 rfl rfl)
theorem dL_law_999 : decode cL_law 999 = .ok (.ireturn, 1) := dk_172 (dk_at dksL_law_35 23 rfl rfl)
theorem dL_law_1000 : decode cL_law 1000 = .ok (.iload 5, 2) := dk_21 5 (dk_at dksL_law_36 0 rfl rfl)
theorem dL_law_1002 : decode cL_law 1002 = .ok (.ifCond .ne 15, 3) := dk_154 0 15 (dk_at dksL_law_36 2 rfl rfl)
theorem dL_law_1005 : decode cL_law 1005 = .ok (.aload_n 3, 1) := dk_45 (dk_at dksL_law_36 5 rfl rfl)
theorem dL_law_1006 : decode cL_law 1006 = .ok (.iconst 0, 1) := dk_3 (dk_at dksL_law_36 6 rfl rfl)
theorem dL_law_1007 : decode cL_law 1007 = .ok (.laload, 1) := dk_47 (dk_at dksL_law_36 7 rfl rfl)
theorem dL_law_1008 : decode cL_law 1008 = .ok (.iload 6, 2) := dk_21 6 (dk_at dksL_law_36 8 rfl rfl)
theorem dL_law_1010 : decode cL_law 1010 = .ok (.i2l, 1) := dk_133 (dk_at dksL_law_36 10 rfl rfl)
theorem dL_law_1011 : decode cL_law 1011 = .ok (.lcmp, 1) := dk_148 (dk_at dksL_law_36 11 rfl rfl)
theorem dL_law_1012 : decode cL_law 1012 = .ok (.ifCond .eq 5, 3) := dk_153 0 5 (dk_at dksL_law_36 12 rfl rfl)
theorem dL_law_1015 : decode cL_law 1015 = .ok (.iconst 0, 1) := dk_3 (dk_at dksL_law_36 15 rfl rfl)
theorem dL_law_1016 : decode cL_law 1016 = .ok (.ireturn, 1) := dk_172 (dk_at dksL_law_36 16 rfl rfl)
theorem dL_law_1017 : decode cL_law 1017 = .ok (.goto 1815, 3) := dk_167 7 23 (dk_at dksL_law_36 17 rfl rfl)
theorem dL_law_1020 : decode cL_law 1020 = .ok (.aload_n 1, 1) := dk_43 (dk_at dksL_law_36 20 rfl rfl)
theorem dL_law_1021 : decode cL_law 1021 = .ok (.aload_n 0, 1) := dk_42 (dk_at dksL_law_36 21 rfl rfl)
theorem dL_law_1022 : decode cL_law 1022 = .ok (.iload 4, 2) := dk_21 4 (dk_at dksL_law_36 22 rfl rfl)
theorem dL_law_1024 : decode cL_law 1024 = .ok (.iconst 1, 1) := dk_4 (dk_at dksL_law_37 0 rfl rfl)
theorem dL_law_1025 : decode cL_law 1025 = .ok (.iadd, 1) := dk_96 (dk_at dksL_law_37 1 rfl rfl)
theorem dL_law_1026 : decode cL_law 1026 = .ok (.iaload, 1) := dk_46 (dk_at dksL_law_37 2 rfl rfl)
theorem dL_law_1027 : decode cL_law 1027 = .ok (.aload_n 0, 1) := dk_42 (dk_at dksL_law_37 3 rfl rfl)
theorem dL_law_1028 : decode cL_law 1028 = .ok (.iload 4, 2) := dk_21 4 (dk_at dksL_law_37 4 rfl rfl)
theorem dL_law_1030 : decode cL_law 1030 = .ok (.iconst 2, 1) := dk_5 (dk_at dksL_law_37 6 rfl rfl)
theorem dL_law_1031 : decode cL_law 1031 = .ok (.iadd, 1) := dk_96 (dk_at dksL_law_37 7 rfl rfl)
theorem dL_law_1032 : decode cL_law 1032 = .ok (.iaload, 1) := dk_46 (dk_at dksL_law_37 8 rfl rfl)
theorem dL_law_1033 : decode cL_law 1033 = .ok (.aload_n 0, 1) := dk_42 (dk_at dksL_law_37 9 rfl rfl)
theorem dL_law_1034 : decode cL_law 1034 = .ok (.iload 4, 2) := dk_21 4 (dk_at dksL_law_37 10 rfl rfl)
theorem dL_law_1036 : decode cL_law 1036 = .ok (.iconst 3, 1) := dk_6 (dk_at dksL_law_37 12 rfl rfl)
theorem dL_law_1037 : decode cL_law 1037 = .ok (.iadd, 1) := dk_96 (dk_at dksL_law_37 13 rfl rfl)
theorem dL_law_1038 : decode cL_law 1038 = .ok (.iaload, 1) := dk_46 (dk_at dksL_law_37 14 rfl rfl)
theorem dL_law_1039 : decode cL_law 1039 = .ok (.aload_n 3, 1) := dk_45 (dk_at dksL_law_37 15 rfl rfl)
theorem dL_law_1040 : decode cL_law 1040 = .ok (.invokestatic 200, 3) := dk_184 0 200 (dk_at dksL_law_37 16 rfl rfl)
theorem dL_law_1043 : decode cL_law 1043 = .ok (.istore 5, 2) := dk_54 5 (dk_at dksL_law_37 19 rfl rfl)
theorem dL_law_1045 : decode cL_law 1045 = .ok (.aload_n 2, 1) := dk_44 (dk_at dksL_law_37 21 rfl rfl)
theorem dL_law_1046 : decode cL_law 1046 = .ok (.aload_n 0, 1) := dk_42 (dk_at dksL_law_37 22 rfl rfl)
theorem dL_law_1047 : decode cL_law 1047 = .ok (.iload 4, 2) := dk_21 4 (dk_at dksL_law_38 0 rfl rfl)
theorem dL_law_1049 : decode cL_law 1049 = .ok (.iconst 1, 1) := dk_4 (dk_at dksL_law_38 2 rfl rfl)
theorem dL_law_1050 : decode cL_law 1050 = .ok (.iadd, 1) := dk_96 (dk_at dksL_law_38 3 rfl rfl)
theorem dL_law_1051 : decode cL_law 1051 = .ok (.iaload, 1) := dk_46 (dk_at dksL_law_38 4 rfl rfl)
theorem dL_law_1052 : decode cL_law 1052 = .ok (.aload_n 0, 1) := dk_42 (dk_at dksL_law_38 5 rfl rfl)
theorem dL_law_1053 : decode cL_law 1053 = .ok (.iload 4, 2) := dk_21 4 (dk_at dksL_law_38 6 rfl rfl)
theorem dL_law_1055 : decode cL_law 1055 = .ok (.iconst 2, 1) := dk_5 (dk_at dksL_law_38 8 rfl rfl)
theorem dL_law_1056 : decode cL_law 1056 = .ok (.iadd, 1) := dk_96 (dk_at dksL_law_38 9 rfl rfl)
theorem dL_law_1057 : decode cL_law 1057 = .ok (.iaload, 1) := dk_46 (dk_at dksL_law_38 10 rfl rfl)
theorem dL_law_1058 : decode cL_law 1058 = .ok (.aload_n 0, 1) := dk_42 (dk_at dksL_law_38 11 rfl rfl)
theorem dL_law_1059 : decode cL_law 1059 = .ok (.iload 4, 2) := dk_21 4 (dk_at dksL_law_38 12 rfl rfl)
theorem dL_law_1061 : decode cL_law 1061 = .ok (.iconst 3, 1) := dk_6 (dk_at dksL_law_38 14 rfl rfl)
theorem dL_law_1062 : decode cL_law 1062 = .ok (.iadd, 1) := dk_96 (dk_at dksL_law_38 15 rfl rfl)
theorem dL_law_1063 : decode cL_law 1063 = .ok (.iaload, 1) := dk_46 (dk_at dksL_law_38 16 rfl rfl)
theorem dL_law_1064 : decode cL_law 1064 = .ok (.invokevirtual 202, 3) := dk_182 0 202 (dk_at dksL_law_38 17 rfl rfl)
theorem dL_law_1067 : decode cL_law 1067 = .ok (.istore 6, 2) := dk_54 6 (dk_at dksL_law_38 20 rfl rfl)
theorem dL_law_1069 : decode cL_law 1069 = .ok (.aload_n 2, 1) := dk_44 (dk_at dksL_law_38 22 rfl rfl)
theorem dL_law_1070 : decode cL_law 1070 = .ok (.invokevirtual 152, 3) := dk_182 0 152 (dk_at dksL_law_39 0 rfl rfl)
theorem dL_law_1073 : decode cL_law 1073 = .ok (.iload 5, 2) := dk_21 5 (dk_at dksL_law_39 3 rfl rfl)
theorem dL_law_1075 : decode cL_law 1075 = .ok (.if_icmp .eq 5, 3) := dk_159 0 5 (dk_at dksL_law_39 5 rfl rfl)
theorem dL_law_1078 : decode cL_law 1078 = .ok (.iconst 0, 1) := dk_3 (dk_at dksL_law_39 8 rfl rfl)
theorem dL_law_1079 : decode cL_law 1079 = .ok (.ireturn, 1) := dk_172 (dk_at dksL_law_39 9 rfl rfl)
theorem dL_law_1080 : decode cL_law 1080 = .ok (.iload 5, 2) := dk_21 5 (dk_at dksL_law_39 10 rfl rfl)
theorem dL_law_1082 : decode cL_law 1082 = .ok (.ifCond .ne 22, 3) := dk_154 0 22 (dk_at dksL_law_39 12 rfl rfl)
theorem dL_law_1085 : decode cL_law 1085 = .ok (.aload_n 3, 1) := dk_45 (dk_at dksL_law_39 15 rfl rfl)
theorem dL_law_1086 : decode cL_law 1086 = .ok (.iconst 0, 1) := dk_3 (dk_at dksL_law_39 16 rfl rfl)
theorem dL_law_1087 : decode cL_law 1087 = .ok (.laload, 1) := dk_47 (dk_at dksL_law_39 17 rfl rfl)
theorem dL_law_1088 : decode cL_law 1088 = .ok (.iload 6, 2) := dk_21 6 (dk_at dksL_law_39 18 rfl rfl)
theorem dL_law_1090 : decode cL_law 1090 = .ok (.ifCond .eq 7, 3) := dk_153 0 7 (dk_at dksL_law_39 20 rfl rfl)
theorem dL_law_1093 : decode cL_law 1093 = .ok (.lconst 1, 1) := dk_10 (dk_at dksL_law_39 23 rfl rfl)
theorem dL_law_1094 : decode cL_law 1094 = .ok (.goto 4, 3) := dk_167 0 4 (dk_at dksL_law_40 0 rfl rfl)
theorem dL_law_1097 : decode cL_law 1097 = .ok (.lconst 0, 1) := dk_9 (dk_at dksL_law_40 3 rfl rfl)
theorem dL_law_1098 : decode cL_law 1098 = .ok (.lcmp, 1) := dk_148 (dk_at dksL_law_40 4 rfl rfl)
theorem dL_law_1099 : decode cL_law 1099 = .ok (.ifCond .eq 5, 3) := dk_153 0 5 (dk_at dksL_law_40 5 rfl rfl)
theorem dL_law_1102 : decode cL_law 1102 = .ok (.iconst 0, 1) := dk_3 (dk_at dksL_law_40 8 rfl rfl)
theorem dL_law_1103 : decode cL_law 1103 = .ok (.ireturn, 1) := dk_172 (dk_at dksL_law_40 9 rfl rfl)
theorem dL_law_1104 : decode cL_law 1104 = .ok (.goto 1728, 3) := dk_167 6 192 (dk_at dksL_law_40 10 rfl rfl)
theorem dL_law_1107 : decode cL_law 1107 = .ok (.aload_n 1, 1) := dk_43 (dk_at dksL_law_40 13 rfl rfl)
theorem dL_law_1108 : decode cL_law 1108 = .ok (.aload_n 0, 1) := dk_42 (dk_at dksL_law_40 14 rfl rfl)
theorem dL_law_1109 : decode cL_law 1109 = .ok (.iload 4, 2) := dk_21 4 (dk_at dksL_law_40 15 rfl rfl)
theorem dL_law_1111 : decode cL_law 1111 = .ok (.iconst 1, 1) := dk_4 (dk_at dksL_law_40 17 rfl rfl)
theorem dL_law_1112 : decode cL_law 1112 = .ok (.iadd, 1) := dk_96 (dk_at dksL_law_40 18 rfl rfl)
theorem dL_law_1113 : decode cL_law 1113 = .ok (.iaload, 1) := dk_46 (dk_at dksL_law_40 19 rfl rfl)
theorem dL_law_1114 : decode cL_law 1114 = .ok (.aload_n 0, 1) := dk_42 (dk_at dksL_law_40 20 rfl rfl)
theorem dL_law_1115 : decode cL_law 1115 = .ok (.iload 4, 2) := dk_21 4 (dk_at dksL_law_40 21 rfl rfl)
theorem dL_law_1117 : decode cL_law 1117 = .ok (.iconst 2, 1) := dk_5 (dk_at dksL_law_40 23 rfl rfl)
theorem dL_law_1118 : decode cL_law 1118 = .ok (.iadd, 1) := dk_96 (dk_at dksL_law_41 0 rfl rfl)
theorem dL_law_1119 : decode cL_law 1119 = .ok (.iaload, 1) := dk_46 (dk_at dksL_law_41 1 rfl rfl)
theorem dL_law_1120 : decode cL_law 1120 = .ok (.aload_n 0, 1) := dk_42 (dk_at dksL_law_41 2 rfl rfl)
theorem dL_law_1121 : decode cL_law 1121 = .ok (.iload 4, 2) := dk_21 4 (dk_at dksL_law_41 3 rfl rfl)
theorem dL_law_1123 : decode cL_law 1123 = .ok (.iconst 3, 1) := dk_6 (dk_at dksL_law_41 5 rfl rfl)
theorem dL_law_1124 : decode cL_law 1124 = .ok (.iadd, 1) := dk_96 (dk_at dksL_law_41 6 rfl rfl)
theorem dL_law_1125 : decode cL_law 1125 = .ok (.iaload, 1) := dk_46 (dk_at dksL_law_41 7 rfl rfl)
theorem dL_law_1126 : decode cL_law 1126 = .ok (.aload_n 3, 1) := dk_45 (dk_at dksL_law_41 8 rfl rfl)
theorem dL_law_1127 : decode cL_law 1127 = .ok (.invokestatic 203, 3) := dk_184 0 203 (dk_at dksL_law_41 9 rfl rfl)
theorem dL_law_1130 : decode cL_law 1130 = .ok (.istore 5, 2) := dk_54 5 (dk_at dksL_law_41 12 rfl rfl)
theorem dL_law_1132 : decode cL_law 1132 = .ok (.aload_n 2, 1) := dk_44 (dk_at dksL_law_41 14 rfl rfl)
theorem dL_law_1133 : decode cL_law 1133 = .ok (.aload_n 0, 1) := dk_42 (dk_at dksL_law_41 15 rfl rfl)
theorem dL_law_1134 : decode cL_law 1134 = .ok (.iload 4, 2) := dk_21 4 (dk_at dksL_law_41 16 rfl rfl)
theorem dL_law_1136 : decode cL_law 1136 = .ok (.iconst 1, 1) := dk_4 (dk_at dksL_law_41 18 rfl rfl)
theorem dL_law_1137 : decode cL_law 1137 = .ok (.iadd, 1) := dk_96 (dk_at dksL_law_41 19 rfl rfl)
theorem dL_law_1138 : decode cL_law 1138 = .ok (.iaload, 1) := dk_46 (dk_at dksL_law_41 20 rfl rfl)
theorem dL_law_1139 : decode cL_law 1139 = .ok (.aload_n 0, 1) := dk_42 (dk_at dksL_law_41 21 rfl rfl)
theorem dL_law_1140 : decode cL_law 1140 = .ok (.iload 4, 2) := dk_21 4 (dk_at dksL_law_41 22 rfl rfl)
theorem dL_law_1142 : decode cL_law 1142 = .ok (.iconst 2, 1) := dk_5 (dk_at dksL_law_42 0 rfl rfl)
theorem dL_law_1143 : decode cL_law 1143 = .ok (.iadd, 1) := dk_96 (dk_at dksL_law_42 1 rfl rfl)
theorem dL_law_1144 : decode cL_law 1144 = .ok (.iaload, 1) := dk_46 (dk_at dksL_law_42 2 rfl rfl)
theorem dL_law_1145 : decode cL_law 1145 = .ok (.aload_n 0, 1) := dk_42 (dk_at dksL_law_42 3 rfl rfl)
theorem dL_law_1146 : decode cL_law 1146 = .ok (.iload 4, 2) := dk_21 4 (dk_at dksL_law_42 4 rfl rfl)
theorem dL_law_1148 : decode cL_law 1148 = .ok (.iconst 3, 1) := dk_6 (dk_at dksL_law_42 6 rfl rfl)
theorem dL_law_1149 : decode cL_law 1149 = .ok (.iadd, 1) := dk_96 (dk_at dksL_law_42 7 rfl rfl)
theorem dL_law_1150 : decode cL_law 1150 = .ok (.iaload, 1) := dk_46 (dk_at dksL_law_42 8 rfl rfl)
theorem dL_law_1151 : decode cL_law 1151 = .ok (.invokevirtual 205, 3) := dk_182 0 205 (dk_at dksL_law_42 9 rfl rfl)
theorem dL_law_1154 : decode cL_law 1154 = .ok (.istore 6, 2) := dk_54 6 (dk_at dksL_law_42 12 rfl rfl)
theorem dL_law_1156 : decode cL_law 1156 = .ok (.aload_n 2, 1) := dk_44 (dk_at dksL_law_42 14 rfl rfl)
theorem dL_law_1157 : decode cL_law 1157 = .ok (.invokevirtual 152, 3) := dk_182 0 152 (dk_at dksL_law_42 15 rfl rfl)
theorem dL_law_1160 : decode cL_law 1160 = .ok (.iload 5, 2) := dk_21 5 (dk_at dksL_law_42 18 rfl rfl)
theorem dL_law_1162 : decode cL_law 1162 = .ok (.if_icmp .eq 5, 3) := dk_159 0 5 (dk_at dksL_law_42 20 rfl rfl)
theorem dL_law_1165 : decode cL_law 1165 = .ok (.iconst 0, 1) := dk_3 (dk_at dksL_law_42 23 rfl rfl)
theorem dL_law_1166 : decode cL_law 1166 = .ok (.ireturn, 1) := dk_172 (dk_at dksL_law_43 0 rfl rfl)
theorem dL_law_1167 : decode cL_law 1167 = .ok (.iload 5, 2) := dk_21 5 (dk_at dksL_law_43 1 rfl rfl)
theorem dL_law_1169 : decode cL_law 1169 = .ok (.ifCond .ne 15, 3) := dk_154 0 15 (dk_at dksL_law_43 3 rfl rfl)
theorem dL_law_1172 : decode cL_law 1172 = .ok (.aload_n 3, 1) := dk_45 (dk_at dksL_law_43 6 rfl rfl)
theorem dL_law_1173 : decode cL_law 1173 = .ok (.iconst 0, 1) := dk_3 (dk_at dksL_law_43 7 rfl rfl)
theorem dL_law_1174 : decode cL_law 1174 = .ok (.laload, 1) := dk_47 (dk_at dksL_law_43 8 rfl rfl)
theorem dL_law_1175 : decode cL_law 1175 = .ok (.iload 6, 2) := dk_21 6 (dk_at dksL_law_43 9 rfl rfl)
theorem dL_law_1177 : decode cL_law 1177 = .ok (.i2l, 1) := dk_133 (dk_at dksL_law_43 11 rfl rfl)
theorem dL_law_1178 : decode cL_law 1178 = .ok (.lcmp, 1) := dk_148 (dk_at dksL_law_43 12 rfl rfl)
theorem dL_law_1179 : decode cL_law 1179 = .ok (.ifCond .eq 5, 3) := dk_153 0 5 (dk_at dksL_law_43 13 rfl rfl)
theorem dL_law_1182 : decode cL_law 1182 = .ok (.iconst 0, 1) := dk_3 (dk_at dksL_law_43 16 rfl rfl)
theorem dL_law_1183 : decode cL_law 1183 = .ok (.ireturn, 1) := dk_172 (dk_at dksL_law_43 17 rfl rfl)
theorem dL_law_1184 : decode cL_law 1184 = .ok (.goto 1648, 3) := dk_167 6 112 (dk_at dksL_law_43 18 rfl rfl)
theorem dL_law_1187 : decode cL_law 1187 = .ok (.aload_n 1, 1) := dk_43 (dk_at dksL_law_43 21 rfl rfl)
theorem dL_law_1188 : decode cL_law 1188 = .ok (.aload_n 0, 1) := dk_42 (dk_at dksL_law_43 22 rfl rfl)
theorem dL_law_1189 : decode cL_law 1189 = .ok (.iload 4, 2) := dk_21 4 (dk_at dksL_law_44 0 rfl rfl)
theorem dL_law_1191 : decode cL_law 1191 = .ok (.iconst 1, 1) := dk_4 (dk_at dksL_law_44 2 rfl rfl)
theorem dL_law_1192 : decode cL_law 1192 = .ok (.iadd, 1) := dk_96 (dk_at dksL_law_44 3 rfl rfl)
theorem dL_law_1193 : decode cL_law 1193 = .ok (.iaload, 1) := dk_46 (dk_at dksL_law_44 4 rfl rfl)
theorem dL_law_1194 : decode cL_law 1194 = .ok (.aload_n 0, 1) := dk_42 (dk_at dksL_law_44 5 rfl rfl)
theorem dL_law_1195 : decode cL_law 1195 = .ok (.iload 4, 2) := dk_21 4 (dk_at dksL_law_44 6 rfl rfl)
theorem dL_law_1197 : decode cL_law 1197 = .ok (.iconst 2, 1) := dk_5 (dk_at dksL_law_44 8 rfl rfl)
theorem dL_law_1198 : decode cL_law 1198 = .ok (.iadd, 1) := dk_96 (dk_at dksL_law_44 9 rfl rfl)
theorem dL_law_1199 : decode cL_law 1199 = .ok (.iaload, 1) := dk_46 (dk_at dksL_law_44 10 rfl rfl)
theorem dL_law_1200 : decode cL_law 1200 = .ok (.aload_n 0, 1) := dk_42 (dk_at dksL_law_44 11 rfl rfl)
theorem dL_law_1201 : decode cL_law 1201 = .ok (.iload 4, 2) := dk_21 4 (dk_at dksL_law_44 12 rfl rfl)
theorem dL_law_1203 : decode cL_law 1203 = .ok (.iconst 3, 1) := dk_6 (dk_at dksL_law_44 14 rfl rfl)
theorem dL_law_1204 : decode cL_law 1204 = .ok (.iadd, 1) := dk_96 (dk_at dksL_law_44 15 rfl rfl)
theorem dL_law_1205 : decode cL_law 1205 = .ok (.iaload, 1) := dk_46 (dk_at dksL_law_44 16 rfl rfl)
theorem dL_law_1206 : decode cL_law 1206 = .ok (.aload_n 3, 1) := dk_45 (dk_at dksL_law_44 17 rfl rfl)
theorem dL_law_1207 : decode cL_law 1207 = .ok (.invokestatic 206, 3) := dk_184 0 206 (dk_at dksL_law_44 18 rfl rfl)
theorem dL_law_1210 : decode cL_law 1210 = .ok (.istore 5, 2) := dk_54 5 (dk_at dksL_law_44 21 rfl rfl)
theorem dL_law_1212 : decode cL_law 1212 = .ok (.aload_n 2, 1) := dk_44 (dk_at dksL_law_44 23 rfl rfl)
theorem dL_law_1213 : decode cL_law 1213 = .ok (.aload_n 0, 1) := dk_42 (dk_at dksL_law_45 0 rfl rfl)
theorem dL_law_1214 : decode cL_law 1214 = .ok (.iload 4, 2) := dk_21 4 (dk_at dksL_law_45 1 rfl rfl)
theorem dL_law_1216 : decode cL_law 1216 = .ok (.iconst 1, 1) := dk_4 (dk_at dksL_law_45 3 rfl rfl)
theorem dL_law_1217 : decode cL_law 1217 = .ok (.iadd, 1) := dk_96 (dk_at dksL_law_45 4 rfl rfl)
theorem dL_law_1218 : decode cL_law 1218 = .ok (.iaload, 1) := dk_46 (dk_at dksL_law_45 5 rfl rfl)
theorem dL_law_1219 : decode cL_law 1219 = .ok (.aload_n 0, 1) := dk_42 (dk_at dksL_law_45 6 rfl rfl)
theorem dL_law_1220 : decode cL_law 1220 = .ok (.iload 4, 2) := dk_21 4 (dk_at dksL_law_45 7 rfl rfl)
theorem dL_law_1222 : decode cL_law 1222 = .ok (.iconst 2, 1) := dk_5 (dk_at dksL_law_45 9 rfl rfl)
theorem dL_law_1223 : decode cL_law 1223 = .ok (.iadd, 1) := dk_96 (dk_at dksL_law_45 10 rfl rfl)
theorem dL_law_1224 : decode cL_law 1224 = .ok (.iaload, 1) := dk_46 (dk_at dksL_law_45 11 rfl rfl)
theorem dL_law_1225 : decode cL_law 1225 = .ok (.aload_n 0, 1) := dk_42 (dk_at dksL_law_45 12 rfl rfl)
theorem dL_law_1226 : decode cL_law 1226 = .ok (.iload 4, 2) := dk_21 4 (dk_at dksL_law_45 13 rfl rfl)
theorem dL_law_1228 : decode cL_law 1228 = .ok (.iconst 3, 1) := dk_6 (dk_at dksL_law_45 15 rfl rfl)
theorem dL_law_1229 : decode cL_law 1229 = .ok (.iadd, 1) := dk_96 (dk_at dksL_law_45 16 rfl rfl)
theorem dL_law_1230 : decode cL_law 1230 = .ok (.iaload, 1) := dk_46 (dk_at dksL_law_45 17 rfl rfl)
theorem dL_law_1231 : decode cL_law 1231 = .ok (.invokevirtual 208, 3) := dk_182 0 208 (dk_at dksL_law_45 18 rfl rfl)
theorem dL_law_1234 : decode cL_law 1234 = .ok (.lstore 6, 2) := dk_55 6 (dk_at dksL_law_45 21 rfl rfl)
theorem dL_law_1236 : decode cL_law 1236 = .ok (.aload_n 2, 1) := dk_44 (dk_at dksL_law_45 23 rfl rfl)
theorem dL_law_1237 : decode cL_law 1237 = .ok (.invokevirtual 152, 3) := dk_182 0 152 (dk_at dksL_law_46 0 rfl rfl)
theorem dL_law_1240 : decode cL_law 1240 = .ok (.iload 5, 2) := dk_21 5 (dk_at dksL_law_46 3 rfl rfl)
theorem dL_law_1242 : decode cL_law 1242 = .ok (.if_icmp .eq 5, 3) := dk_159 0 5 (dk_at dksL_law_46 5 rfl rfl)
theorem dL_law_1245 : decode cL_law 1245 = .ok (.iconst 0, 1) := dk_3 (dk_at dksL_law_46 8 rfl rfl)
theorem dL_law_1246 : decode cL_law 1246 = .ok (.ireturn, 1) := dk_172 (dk_at dksL_law_46 9 rfl rfl)
theorem dL_law_1247 : decode cL_law 1247 = .ok (.iload 5, 2) := dk_21 5 (dk_at dksL_law_46 10 rfl rfl)
theorem dL_law_1249 : decode cL_law 1249 = .ok (.ifCond .ne 14, 3) := dk_154 0 14 (dk_at dksL_law_46 12 rfl rfl)
theorem dL_law_1252 : decode cL_law 1252 = .ok (.aload_n 3, 1) := dk_45 (dk_at dksL_law_46 15 rfl rfl)
theorem dL_law_1253 : decode cL_law 1253 = .ok (.iconst 0, 1) := dk_3 (dk_at dksL_law_46 16 rfl rfl)
theorem dL_law_1254 : decode cL_law 1254 = .ok (.laload, 1) := dk_47 (dk_at dksL_law_46 17 rfl rfl)
theorem dL_law_1255 : decode cL_law 1255 = .ok (.lload 6, 2) := dk_22 6 (dk_at dksL_law_46 18 rfl rfl)
theorem dL_law_1257 : decode cL_law 1257 = .ok (.lcmp, 1) := dk_148 (dk_at dksL_law_46 20 rfl rfl)
theorem dL_law_1258 : decode cL_law 1258 = .ok (.ifCond .eq 5, 3) := dk_153 0 5 (dk_at dksL_law_46 21 rfl rfl)
theorem dL_law_1261 : decode cL_law 1261 = .ok (.iconst 0, 1) := dk_3 (dk_at dksL_law_47 0 rfl rfl)
theorem dL_law_1262 : decode cL_law 1262 = .ok (.ireturn, 1) := dk_172 (dk_at dksL_law_47 1 rfl rfl)
theorem dL_law_1263 : decode cL_law 1263 = .ok (.goto 1569, 3) := dk_167 6 33 (dk_at dksL_law_47 2 rfl rfl)
theorem dL_law_1266 : decode cL_law 1266 = .ok (.aload_n 1, 1) := dk_43 (dk_at dksL_law_47 5 rfl rfl)
theorem dL_law_1267 : decode cL_law 1267 = .ok (.aload_n 0, 1) := dk_42 (dk_at dksL_law_47 6 rfl rfl)
theorem dL_law_1268 : decode cL_law 1268 = .ok (.iload 4, 2) := dk_21 4 (dk_at dksL_law_47 7 rfl rfl)
theorem dL_law_1270 : decode cL_law 1270 = .ok (.iconst 1, 1) := dk_4 (dk_at dksL_law_47 9 rfl rfl)
theorem dL_law_1271 : decode cL_law 1271 = .ok (.iadd, 1) := dk_96 (dk_at dksL_law_47 10 rfl rfl)
theorem dL_law_1272 : decode cL_law 1272 = .ok (.iaload, 1) := dk_46 (dk_at dksL_law_47 11 rfl rfl)
theorem dL_law_1273 : decode cL_law 1273 = .ok (.aload_n 0, 1) := dk_42 (dk_at dksL_law_47 12 rfl rfl)
theorem dL_law_1274 : decode cL_law 1274 = .ok (.iload 4, 2) := dk_21 4 (dk_at dksL_law_47 13 rfl rfl)
theorem dL_law_1276 : decode cL_law 1276 = .ok (.iconst 2, 1) := dk_5 (dk_at dksL_law_47 15 rfl rfl)
theorem dL_law_1277 : decode cL_law 1277 = .ok (.iadd, 1) := dk_96 (dk_at dksL_law_47 16 rfl rfl)
theorem dL_law_1278 : decode cL_law 1278 = .ok (.iaload, 1) := dk_46 (dk_at dksL_law_47 17 rfl rfl)
theorem dL_law_1279 : decode cL_law 1279 = .ok (.aload_n 0, 1) := dk_42 (dk_at dksL_law_47 18 rfl rfl)
theorem dL_law_1280 : decode cL_law 1280 = .ok (.iload 4, 2) := dk_21 4 (dk_at dksL_law_47 19 rfl rfl)
theorem dL_law_1282 : decode cL_law 1282 = .ok (.iconst 3, 1) := dk_6 (dk_at dksL_law_47 21 rfl rfl)
theorem dL_law_1283 : decode cL_law 1283 = .ok (.iadd, 1) := dk_96 (dk_at dksL_law_47 22 rfl rfl)
theorem dL_law_1284 : decode cL_law 1284 = .ok (.iaload, 1) := dk_46 (dk_at dksL_law_47 23 rfl rfl)
theorem dL_law_1285 : decode cL_law 1285 = .ok (.aload_n 3, 1) := dk_45 (dk_at dksL_law_48 0 rfl rfl)
theorem dL_law_1286 : decode cL_law 1286 = .ok (.invokestatic 209, 3) := dk_184 0 209 (dk_at dksL_law_48 1 rfl rfl)
theorem dL_law_1289 : decode cL_law 1289 = .ok (.istore 5, 2) := dk_54 5 (dk_at dksL_law_48 4 rfl rfl)
theorem dL_law_1291 : decode cL_law 1291 = .ok (.aload_n 2, 1) := dk_44 (dk_at dksL_law_48 6 rfl rfl)
theorem dL_law_1292 : decode cL_law 1292 = .ok (.aload_n 0, 1) := dk_42 (dk_at dksL_law_48 7 rfl rfl)
theorem dL_law_1293 : decode cL_law 1293 = .ok (.iload 4, 2) := dk_21 4 (dk_at dksL_law_48 8 rfl rfl)
theorem dL_law_1295 : decode cL_law 1295 = .ok (.iconst 1, 1) := dk_4 (dk_at dksL_law_48 10 rfl rfl)
theorem dL_law_1296 : decode cL_law 1296 = .ok (.iadd, 1) := dk_96 (dk_at dksL_law_48 11 rfl rfl)
theorem dL_law_1297 : decode cL_law 1297 = .ok (.iaload, 1) := dk_46 (dk_at dksL_law_48 12 rfl rfl)
theorem dL_law_1298 : decode cL_law 1298 = .ok (.aload_n 0, 1) := dk_42 (dk_at dksL_law_48 13 rfl rfl)
theorem dL_law_1299 : decode cL_law 1299 = .ok (.iload 4, 2) := dk_21 4 (dk_at dksL_law_48 14 rfl rfl)
theorem dL_law_1301 : decode cL_law 1301 = .ok (.iconst 2, 1) := dk_5 (dk_at dksL_law_48 16 rfl rfl)
theorem dL_law_1302 : decode cL_law 1302 = .ok (.iadd, 1) := dk_96 (dk_at dksL_law_48 17 rfl rfl)
theorem dL_law_1303 : decode cL_law 1303 = .ok (.iaload, 1) := dk_46 (dk_at dksL_law_48 18 rfl rfl)
theorem dL_law_1304 : decode cL_law 1304 = .ok (.aload_n 0, 1) := dk_42 (dk_at dksL_law_48 19 rfl rfl)
theorem dL_law_1305 : decode cL_law 1305 = .ok (.iload 4, 2) := dk_21 4 (dk_at dksL_law_48 20 rfl rfl)
theorem dL_law_1307 : decode cL_law 1307 = .ok (.iconst 3, 1) := dk_6 (dk_at dksL_law_48 22 rfl rfl)
theorem dL_law_1308 : decode cL_law 1308 = .ok (.iadd, 1) := dk_96 (dk_at dksL_law_48 23 rfl rfl)
theorem dL_law_1309 : decode cL_law 1309 = .ok (.iaload, 1) := dk_46 (dk_at dksL_law_49 0 rfl rfl)
theorem dL_law_1310 : decode cL_law 1310 = .ok (.invokevirtual 211, 3) := dk_182 0 211 (dk_at dksL_law_49 1 rfl rfl)
theorem dL_law_1313 : decode cL_law 1313 = .ok (.istore 6, 2) := dk_54 6 (dk_at dksL_law_49 4 rfl rfl)
theorem dL_law_1315 : decode cL_law 1315 = .ok (.aload_n 2, 1) := dk_44 (dk_at dksL_law_49 6 rfl rfl)
theorem dL_law_1316 : decode cL_law 1316 = .ok (.invokevirtual 152, 3) := dk_182 0 152 (dk_at dksL_law_49 7 rfl rfl)
theorem dL_law_1319 : decode cL_law 1319 = .ok (.iload 5, 2) := dk_21 5 (dk_at dksL_law_49 10 rfl rfl)
theorem dL_law_1321 : decode cL_law 1321 = .ok (.if_icmp .eq 5, 3) := dk_159 0 5 (dk_at dksL_law_49 12 rfl rfl)
theorem dL_law_1324 : decode cL_law 1324 = .ok (.iconst 0, 1) := dk_3 (dk_at dksL_law_49 15 rfl rfl)
theorem dL_law_1325 : decode cL_law 1325 = .ok (.ireturn, 1) := dk_172 (dk_at dksL_law_49 16 rfl rfl)
theorem dL_law_1326 : decode cL_law 1326 = .ok (.iload 5, 2) := dk_21 5 (dk_at dksL_law_49 17 rfl rfl)
theorem dL_law_1328 : decode cL_law 1328 = .ok (.ifCond .ne 15, 3) := dk_154 0 15 (dk_at dksL_law_49 19 rfl rfl)
theorem dL_law_1331 : decode cL_law 1331 = .ok (.aload_n 3, 1) := dk_45 (dk_at dksL_law_49 22 rfl rfl)
theorem dL_law_1332 : decode cL_law 1332 = .ok (.iconst 0, 1) := dk_3 (dk_at dksL_law_49 23 rfl rfl)
theorem dL_law_1333 : decode cL_law 1333 = .ok (.laload, 1) := dk_47 (dk_at dksL_law_50 0 rfl rfl)
theorem dL_law_1334 : decode cL_law 1334 = .ok (.iload 6, 2) := dk_21 6 (dk_at dksL_law_50 1 rfl rfl)
theorem dL_law_1336 : decode cL_law 1336 = .ok (.i2l, 1) := dk_133 (dk_at dksL_law_50 3 rfl rfl)
theorem dL_law_1337 : decode cL_law 1337 = .ok (.lcmp, 1) := dk_148 (dk_at dksL_law_50 4 rfl rfl)
theorem dL_law_1338 : decode cL_law 1338 = .ok (.ifCond .eq 5, 3) := dk_153 0 5 (dk_at dksL_law_50 5 rfl rfl)
theorem dL_law_1341 : decode cL_law 1341 = .ok (.iconst 0, 1) := dk_3 (dk_at dksL_law_50 8 rfl rfl)
theorem dL_law_1342 : decode cL_law 1342 = .ok (.ireturn, 1) := dk_172 (dk_at dksL_law_50 9 rfl rfl)
theorem dL_law_1343 : decode cL_law 1343 = .ok (.goto 1489, 3) := dk_167 5 209 (dk_at dksL_law_50 10 rfl rfl)
theorem dL_law_1346 : decode cL_law 1346 = .ok (.aload_n 1, 1) := dk_43 (dk_at dksL_law_50 13 rfl rfl)
theorem dL_law_1347 : decode cL_law 1347 = .ok (.aload_n 0, 1) := dk_42 (dk_at dksL_law_50 14 rfl rfl)
theorem dL_law_1348 : decode cL_law 1348 = .ok (.iload 4, 2) := dk_21 4 (dk_at dksL_law_50 15 rfl rfl)
theorem dL_law_1350 : decode cL_law 1350 = .ok (.iconst 1, 1) := dk_4 (dk_at dksL_law_50 17 rfl rfl)
theorem dL_law_1351 : decode cL_law 1351 = .ok (.iadd, 1) := dk_96 (dk_at dksL_law_50 18 rfl rfl)
theorem dL_law_1352 : decode cL_law 1352 = .ok (.iaload, 1) := dk_46 (dk_at dksL_law_50 19 rfl rfl)
theorem dL_law_1353 : decode cL_law 1353 = .ok (.aload_n 0, 1) := dk_42 (dk_at dksL_law_50 20 rfl rfl)
theorem dL_law_1354 : decode cL_law 1354 = .ok (.iload 4, 2) := dk_21 4 (dk_at dksL_law_50 21 rfl rfl)
theorem dL_law_1356 : decode cL_law 1356 = .ok (.iconst 2, 1) := dk_5 (dk_at dksL_law_50 23 rfl rfl)
theorem dL_law_1357 : decode cL_law 1357 = .ok (.iadd, 1) := dk_96 (dk_at dksL_law_51 0 rfl rfl)
theorem dL_law_1358 : decode cL_law 1358 = .ok (.iaload, 1) := dk_46 (dk_at dksL_law_51 1 rfl rfl)
theorem dL_law_1359 : decode cL_law 1359 = .ok (.aload_n 0, 1) := dk_42 (dk_at dksL_law_51 2 rfl rfl)
theorem dL_law_1360 : decode cL_law 1360 = .ok (.iload 4, 2) := dk_21 4 (dk_at dksL_law_51 3 rfl rfl)
theorem dL_law_1362 : decode cL_law 1362 = .ok (.iconst 3, 1) := dk_6 (dk_at dksL_law_51 5 rfl rfl)
theorem dL_law_1363 : decode cL_law 1363 = .ok (.iadd, 1) := dk_96 (dk_at dksL_law_51 6 rfl rfl)
theorem dL_law_1364 : decode cL_law 1364 = .ok (.iaload, 1) := dk_46 (dk_at dksL_law_51 7 rfl rfl)
theorem dL_law_1365 : decode cL_law 1365 = .ok (.aload_n 3, 1) := dk_45 (dk_at dksL_law_51 8 rfl rfl)
theorem dL_law_1366 : decode cL_law 1366 = .ok (.invokestatic 212, 3) := dk_184 0 212 (dk_at dksL_law_51 9 rfl rfl)
theorem dL_law_1369 : decode cL_law 1369 = .ok (.istore 5, 2) := dk_54 5 (dk_at dksL_law_51 12 rfl rfl)
theorem dL_law_1371 : decode cL_law 1371 = .ok (.aload_n 2, 1) := dk_44 (dk_at dksL_law_51 14 rfl rfl)
theorem dL_law_1372 : decode cL_law 1372 = .ok (.aload_n 0, 1) := dk_42 (dk_at dksL_law_51 15 rfl rfl)
theorem dL_law_1373 : decode cL_law 1373 = .ok (.iload 4, 2) := dk_21 4 (dk_at dksL_law_51 16 rfl rfl)
theorem dL_law_1375 : decode cL_law 1375 = .ok (.iconst 1, 1) := dk_4 (dk_at dksL_law_51 18 rfl rfl)
theorem dL_law_1376 : decode cL_law 1376 = .ok (.iadd, 1) := dk_96 (dk_at dksL_law_51 19 rfl rfl)
theorem dL_law_1377 : decode cL_law 1377 = .ok (.iaload, 1) := dk_46 (dk_at dksL_law_51 20 rfl rfl)
theorem dL_law_1378 : decode cL_law 1378 = .ok (.aload_n 0, 1) := dk_42 (dk_at dksL_law_51 21 rfl rfl)
theorem dL_law_1379 : decode cL_law 1379 = .ok (.iload 4, 2) := dk_21 4 (dk_at dksL_law_51 22 rfl rfl)
theorem dL_law_1381 : decode cL_law 1381 = .ok (.iconst 2, 1) := dk_5 (dk_at dksL_law_52 0 rfl rfl)
theorem dL_law_1382 : decode cL_law 1382 = .ok (.iadd, 1) := dk_96 (dk_at dksL_law_52 1 rfl rfl)
theorem dL_law_1383 : decode cL_law 1383 = .ok (.iaload, 1) := dk_46 (dk_at dksL_law_52 2 rfl rfl)
theorem dL_law_1384 : decode cL_law 1384 = .ok (.aload_n 0, 1) := dk_42 (dk_at dksL_law_52 3 rfl rfl)
theorem dL_law_1385 : decode cL_law 1385 = .ok (.iload 4, 2) := dk_21 4 (dk_at dksL_law_52 4 rfl rfl)
theorem dL_law_1387 : decode cL_law 1387 = .ok (.iconst 3, 1) := dk_6 (dk_at dksL_law_52 6 rfl rfl)
theorem dL_law_1388 : decode cL_law 1388 = .ok (.iadd, 1) := dk_96 (dk_at dksL_law_52 7 rfl rfl)
theorem dL_law_1389 : decode cL_law 1389 = .ok (.iaload, 1) := dk_46 (dk_at dksL_law_52 8 rfl rfl)
theorem dL_law_1390 : decode cL_law 1390 = .ok (.invokevirtual 214, 3) := dk_182 0 214 (dk_at dksL_law_52 9 rfl rfl)
theorem dL_law_1393 : decode cL_law 1393 = .ok (.istore 6, 2) := dk_54 6 (dk_at dksL_law_52 12 rfl rfl)
theorem dL_law_1395 : decode cL_law 1395 = .ok (.aload_n 2, 1) := dk_44 (dk_at dksL_law_52 14 rfl rfl)
theorem dL_law_1396 : decode cL_law 1396 = .ok (.invokevirtual 152, 3) := dk_182 0 152 (dk_at dksL_law_52 15 rfl rfl)
theorem dL_law_1399 : decode cL_law 1399 = .ok (.iload 5, 2) := dk_21 5 (dk_at dksL_law_52 18 rfl rfl)
theorem dL_law_1401 : decode cL_law 1401 = .ok (.if_icmp .eq 5, 3) := dk_159 0 5 (dk_at dksL_law_52 20 rfl rfl)
theorem dL_law_1404 : decode cL_law 1404 = .ok (.iconst 0, 1) := dk_3 (dk_at dksL_law_52 23 rfl rfl)
theorem dL_law_1405 : decode cL_law 1405 = .ok (.ireturn, 1) := dk_172 (dk_at dksL_law_53 0 rfl rfl)
theorem dL_law_1406 : decode cL_law 1406 = .ok (.iload 5, 2) := dk_21 5 (dk_at dksL_law_53 1 rfl rfl)
theorem dL_law_1408 : decode cL_law 1408 = .ok (.ifCond .ne 15, 3) := dk_154 0 15 (dk_at dksL_law_53 3 rfl rfl)
theorem dL_law_1411 : decode cL_law 1411 = .ok (.aload_n 3, 1) := dk_45 (dk_at dksL_law_53 6 rfl rfl)
theorem dL_law_1412 : decode cL_law 1412 = .ok (.iconst 0, 1) := dk_3 (dk_at dksL_law_53 7 rfl rfl)
theorem dL_law_1413 : decode cL_law 1413 = .ok (.laload, 1) := dk_47 (dk_at dksL_law_53 8 rfl rfl)
theorem dL_law_1414 : decode cL_law 1414 = .ok (.iload 6, 2) := dk_21 6 (dk_at dksL_law_53 9 rfl rfl)
theorem dL_law_1416 : decode cL_law 1416 = .ok (.i2l, 1) := dk_133 (dk_at dksL_law_53 11 rfl rfl)
theorem dL_law_1417 : decode cL_law 1417 = .ok (.lcmp, 1) := dk_148 (dk_at dksL_law_53 12 rfl rfl)
theorem dL_law_1418 : decode cL_law 1418 = .ok (.ifCond .eq 5, 3) := dk_153 0 5 (dk_at dksL_law_53 13 rfl rfl)
theorem dL_law_1421 : decode cL_law 1421 = .ok (.iconst 0, 1) := dk_3 (dk_at dksL_law_53 16 rfl rfl)
theorem dL_law_1422 : decode cL_law 1422 = .ok (.ireturn, 1) := dk_172 (dk_at dksL_law_53 17 rfl rfl)
theorem dL_law_1423 : decode cL_law 1423 = .ok (.goto 1409, 3) := dk_167 5 129 (dk_at dksL_law_53 18 rfl rfl)
theorem dL_law_1426 : decode cL_law 1426 = .ok (.aload_n 1, 1) := dk_43 (dk_at dksL_law_53 21 rfl rfl)
theorem dL_law_1427 : decode cL_law 1427 = .ok (.aload_n 0, 1) := dk_42 (dk_at dksL_law_53 22 rfl rfl)
theorem dL_law_1428 : decode cL_law 1428 = .ok (.iload 4, 2) := dk_21 4 (dk_at dksL_law_54 0 rfl rfl)
theorem dL_law_1430 : decode cL_law 1430 = .ok (.iconst 1, 1) := dk_4 (dk_at dksL_law_54 2 rfl rfl)
theorem dL_law_1431 : decode cL_law 1431 = .ok (.iadd, 1) := dk_96 (dk_at dksL_law_54 3 rfl rfl)
theorem dL_law_1432 : decode cL_law 1432 = .ok (.iaload, 1) := dk_46 (dk_at dksL_law_54 4 rfl rfl)
theorem dL_law_1433 : decode cL_law 1433 = .ok (.aload_n 3, 1) := dk_45 (dk_at dksL_law_54 5 rfl rfl)
theorem dL_law_1434 : decode cL_law 1434 = .ok (.invokestatic 215, 3) := dk_184 0 215 (dk_at dksL_law_54 6 rfl rfl)
theorem dL_law_1437 : decode cL_law 1437 = .ok (.istore 5, 2) := dk_54 5 (dk_at dksL_law_54 9 rfl rfl)
theorem dL_law_1439 : decode cL_law 1439 = .ok (.aload_n 2, 1) := dk_44 (dk_at dksL_law_54 11 rfl rfl)
theorem dL_law_1440 : decode cL_law 1440 = .ok (.aload_n 0, 1) := dk_42 (dk_at dksL_law_54 12 rfl rfl)
theorem dL_law_1441 : decode cL_law 1441 = .ok (.iload 4, 2) := dk_21 4 (dk_at dksL_law_54 13 rfl rfl)
theorem dL_law_1443 : decode cL_law 1443 = .ok (.iconst 1, 1) := dk_4 (dk_at dksL_law_54 15 rfl rfl)
theorem dL_law_1444 : decode cL_law 1444 = .ok (.iadd, 1) := dk_96 (dk_at dksL_law_54 16 rfl rfl)
theorem dL_law_1445 : decode cL_law 1445 = .ok (.iaload, 1) := dk_46 (dk_at dksL_law_54 17 rfl rfl)
theorem dL_law_1446 : decode cL_law 1446 = .ok (.invokevirtual 217, 3) := dk_182 0 217 (dk_at dksL_law_54 18 rfl rfl)
theorem dL_law_1449 : decode cL_law 1449 = .ok (.istore 6, 2) := dk_54 6 (dk_at dksL_law_54 21 rfl rfl)
theorem dL_law_1451 : decode cL_law 1451 = .ok (.aload_n 2, 1) := dk_44 (dk_at dksL_law_54 23 rfl rfl)
theorem dL_law_1452 : decode cL_law 1452 = .ok (.invokevirtual 152, 3) := dk_182 0 152 (dk_at dksL_law_55 0 rfl rfl)
theorem dL_law_1455 : decode cL_law 1455 = .ok (.iload 5, 2) := dk_21 5 (dk_at dksL_law_55 3 rfl rfl)
theorem dL_law_1457 : decode cL_law 1457 = .ok (.if_icmp .eq 5, 3) := dk_159 0 5 (dk_at dksL_law_55 5 rfl rfl)
theorem dL_law_1460 : decode cL_law 1460 = .ok (.iconst 0, 1) := dk_3 (dk_at dksL_law_55 8 rfl rfl)
theorem dL_law_1461 : decode cL_law 1461 = .ok (.ireturn, 1) := dk_172 (dk_at dksL_law_55 9 rfl rfl)
theorem dL_law_1462 : decode cL_law 1462 = .ok (.iload 5, 2) := dk_21 5 (dk_at dksL_law_55 10 rfl rfl)
theorem dL_law_1464 : decode cL_law 1464 = .ok (.ifCond .ne 15, 3) := dk_154 0 15 (dk_at dksL_law_55 12 rfl rfl)
theorem dL_law_1467 : decode cL_law 1467 = .ok (.aload_n 3, 1) := dk_45 (dk_at dksL_law_55 15 rfl rfl)
theorem dL_law_1468 : decode cL_law 1468 = .ok (.iconst 0, 1) := dk_3 (dk_at dksL_law_55 16 rfl rfl)
theorem dL_law_1469 : decode cL_law 1469 = .ok (.laload, 1) := dk_47 (dk_at dksL_law_55 17 rfl rfl)
theorem dL_law_1470 : decode cL_law 1470 = .ok (.iload 6, 2) := dk_21 6 (dk_at dksL_law_55 18 rfl rfl)
theorem dL_law_1472 : decode cL_law 1472 = .ok (.i2l, 1) := dk_133 (dk_at dksL_law_55 20 rfl rfl)
theorem dL_law_1473 : decode cL_law 1473 = .ok (.lcmp, 1) := dk_148 (dk_at dksL_law_55 21 rfl rfl)
theorem dL_law_1474 : decode cL_law 1474 = .ok (.ifCond .eq 5, 3) := dk_153 0 5 (dk_at dksL_law_56 0 rfl rfl)
theorem dL_law_1477 : decode cL_law 1477 = .ok (.iconst 0, 1) := dk_3 (dk_at dksL_law_56 3 rfl rfl)
theorem dL_law_1478 : decode cL_law 1478 = .ok (.ireturn, 1) := dk_172 (dk_at dksL_law_56 4 rfl rfl)
theorem dL_law_1479 : decode cL_law 1479 = .ok (.goto 1353, 3) := dk_167 5 73 (dk_at dksL_law_56 5 rfl rfl)
theorem dL_law_1482 : decode cL_law 1482 = .ok (.aload_n 1, 1) := dk_43 (dk_at dksL_law_56 8 rfl rfl)
theorem dL_law_1483 : decode cL_law 1483 = .ok (.aload_n 0, 1) := dk_42 (dk_at dksL_law_56 9 rfl rfl)
theorem dL_law_1484 : decode cL_law 1484 = .ok (.iload 4, 2) := dk_21 4 (dk_at dksL_law_56 10 rfl rfl)
theorem dL_law_1486 : decode cL_law 1486 = .ok (.iconst 1, 1) := dk_4 (dk_at dksL_law_56 12 rfl rfl)
theorem dL_law_1487 : decode cL_law 1487 = .ok (.iadd, 1) := dk_96 (dk_at dksL_law_56 13 rfl rfl)
theorem dL_law_1488 : decode cL_law 1488 = .ok (.iaload, 1) := dk_46 (dk_at dksL_law_56 14 rfl rfl)
theorem dL_law_1489 : decode cL_law 1489 = .ok (.aload_n 3, 1) := dk_45 (dk_at dksL_law_56 15 rfl rfl)
theorem dL_law_1490 : decode cL_law 1490 = .ok (.invokestatic 218, 3) := dk_184 0 218 (dk_at dksL_law_56 16 rfl rfl)
theorem dL_law_1493 : decode cL_law 1493 = .ok (.istore 5, 2) := dk_54 5 (dk_at dksL_law_56 19 rfl rfl)
theorem dL_law_1495 : decode cL_law 1495 = .ok (.aload_n 2, 1) := dk_44 (dk_at dksL_law_56 21 rfl rfl)
theorem dL_law_1496 : decode cL_law 1496 = .ok (.aload_n 0, 1) := dk_42 (dk_at dksL_law_56 22 rfl rfl)
theorem dL_law_1497 : decode cL_law 1497 = .ok (.iload 4, 2) := dk_21 4 (dk_at dksL_law_57 0 rfl rfl)
theorem dL_law_1499 : decode cL_law 1499 = .ok (.iconst 1, 1) := dk_4 (dk_at dksL_law_57 2 rfl rfl)
theorem dL_law_1500 : decode cL_law 1500 = .ok (.iadd, 1) := dk_96 (dk_at dksL_law_57 3 rfl rfl)
theorem dL_law_1501 : decode cL_law 1501 = .ok (.iaload, 1) := dk_46 (dk_at dksL_law_57 4 rfl rfl)
theorem dL_law_1502 : decode cL_law 1502 = .ok (.invokevirtual 220, 3) := dk_182 0 220 (dk_at dksL_law_57 5 rfl rfl)
theorem dL_law_1505 : decode cL_law 1505 = .ok (.istore 6, 2) := dk_54 6 (dk_at dksL_law_57 8 rfl rfl)
theorem dL_law_1507 : decode cL_law 1507 = .ok (.aload_n 2, 1) := dk_44 (dk_at dksL_law_57 10 rfl rfl)
theorem dL_law_1508 : decode cL_law 1508 = .ok (.invokevirtual 152, 3) := dk_182 0 152 (dk_at dksL_law_57 11 rfl rfl)
theorem dL_law_1511 : decode cL_law 1511 = .ok (.iload 5, 2) := dk_21 5 (dk_at dksL_law_57 14 rfl rfl)
theorem dL_law_1513 : decode cL_law 1513 = .ok (.if_icmp .eq 5, 3) := dk_159 0 5 (dk_at dksL_law_57 16 rfl rfl)
theorem dL_law_1516 : decode cL_law 1516 = .ok (.iconst 0, 1) := dk_3 (dk_at dksL_law_57 19 rfl rfl)
theorem dL_law_1517 : decode cL_law 1517 = .ok (.ireturn, 1) := dk_172 (dk_at dksL_law_57 20 rfl rfl)
theorem dL_law_1518 : decode cL_law 1518 = .ok (.iload 5, 2) := dk_21 5 (dk_at dksL_law_57 21 rfl rfl)
theorem dL_law_1520 : decode cL_law 1520 = .ok (.ifCond .ne 15, 3) := dk_154 0 15 (dk_at dksL_law_58 0 rfl rfl)
theorem dL_law_1523 : decode cL_law 1523 = .ok (.aload_n 3, 1) := dk_45 (dk_at dksL_law_58 3 rfl rfl)
theorem dL_law_1524 : decode cL_law 1524 = .ok (.iconst 0, 1) := dk_3 (dk_at dksL_law_58 4 rfl rfl)
theorem dL_law_1525 : decode cL_law 1525 = .ok (.laload, 1) := dk_47 (dk_at dksL_law_58 5 rfl rfl)
theorem dL_law_1526 : decode cL_law 1526 = .ok (.iload 6, 2) := dk_21 6 (dk_at dksL_law_58 6 rfl rfl)
theorem dL_law_1528 : decode cL_law 1528 = .ok (.i2l, 1) := dk_133 (dk_at dksL_law_58 8 rfl rfl)
theorem dL_law_1529 : decode cL_law 1529 = .ok (.lcmp, 1) := dk_148 (dk_at dksL_law_58 9 rfl rfl)
theorem dL_law_1530 : decode cL_law 1530 = .ok (.ifCond .eq 5, 3) := dk_153 0 5 (dk_at dksL_law_58 10 rfl rfl)
theorem dL_law_1533 : decode cL_law 1533 = .ok (.iconst 0, 1) := dk_3 (dk_at dksL_law_58 13 rfl rfl)
theorem dL_law_1534 : decode cL_law 1534 = .ok (.ireturn, 1) := dk_172 (dk_at dksL_law_58 14 rfl rfl)
theorem dL_law_1535 : decode cL_law 1535 = .ok (.goto 1297, 3) := dk_167 5 17 (dk_at dksL_law_58 15 rfl rfl)
theorem dL_law_1538 : decode cL_law 1538 = .ok (.aload_n 1, 1) := dk_43 (dk_at dksL_law_58 18 rfl rfl)
theorem dL_law_1539 : decode cL_law 1539 = .ok (.aload_n 0, 1) := dk_42 (dk_at dksL_law_58 19 rfl rfl)
theorem dL_law_1540 : decode cL_law 1540 = .ok (.iload 4, 2) := dk_21 4 (dk_at dksL_law_58 20 rfl rfl)
theorem dL_law_1542 : decode cL_law 1542 = .ok (.iconst 1, 1) := dk_4 (dk_at dksL_law_58 22 rfl rfl)
theorem dL_law_1543 : decode cL_law 1543 = .ok (.iadd, 1) := dk_96 (dk_at dksL_law_58 23 rfl rfl)
theorem dL_law_1544 : decode cL_law 1544 = .ok (.iaload, 1) := dk_46 (dk_at dksL_law_59 0 rfl rfl)
theorem dL_law_1545 : decode cL_law 1545 = .ok (.aload_n 0, 1) := dk_42 (dk_at dksL_law_59 1 rfl rfl)
theorem dL_law_1546 : decode cL_law 1546 = .ok (.iload 4, 2) := dk_21 4 (dk_at dksL_law_59 2 rfl rfl)
theorem dL_law_1548 : decode cL_law 1548 = .ok (.iconst 2, 1) := dk_5 (dk_at dksL_law_59 4 rfl rfl)
theorem dL_law_1549 : decode cL_law 1549 = .ok (.iadd, 1) := dk_96 (dk_at dksL_law_59 5 rfl rfl)
theorem dL_law_1550 : decode cL_law 1550 = .ok (.iaload, 1) := dk_46 (dk_at dksL_law_59 6 rfl rfl)
theorem dL_law_1551 : decode cL_law 1551 = .ok (.aload_n 3, 1) := dk_45 (dk_at dksL_law_59 7 rfl rfl)
theorem dL_law_1552 : decode cL_law 1552 = .ok (.invokestatic 221, 3) := dk_184 0 221 (dk_at dksL_law_59 8 rfl rfl)
theorem dL_law_1555 : decode cL_law 1555 = .ok (.istore 5, 2) := dk_54 5 (dk_at dksL_law_59 11 rfl rfl)
theorem dL_law_1557 : decode cL_law 1557 = .ok (.aload_n 2, 1) := dk_44 (dk_at dksL_law_59 13 rfl rfl)
theorem dL_law_1558 : decode cL_law 1558 = .ok (.aload_n 0, 1) := dk_42 (dk_at dksL_law_59 14 rfl rfl)
theorem dL_law_1559 : decode cL_law 1559 = .ok (.iload 4, 2) := dk_21 4 (dk_at dksL_law_59 15 rfl rfl)
theorem dL_law_1561 : decode cL_law 1561 = .ok (.iconst 1, 1) := dk_4 (dk_at dksL_law_59 17 rfl rfl)
theorem dL_law_1562 : decode cL_law 1562 = .ok (.iadd, 1) := dk_96 (dk_at dksL_law_59 18 rfl rfl)
theorem dL_law_1563 : decode cL_law 1563 = .ok (.iaload, 1) := dk_46 (dk_at dksL_law_59 19 rfl rfl)
theorem dL_law_1564 : decode cL_law 1564 = .ok (.aload_n 0, 1) := dk_42 (dk_at dksL_law_59 20 rfl rfl)
theorem dL_law_1565 : decode cL_law 1565 = .ok (.iload 4, 2) := dk_21 4 (dk_at dksL_law_59 21 rfl rfl)
theorem dL_law_1567 : decode cL_law 1567 = .ok (.iconst 2, 1) := dk_5 (dk_at dksL_law_59 23 rfl rfl)
theorem dL_law_1568 : decode cL_law 1568 = .ok (.iadd, 1) := dk_96 (dk_at dksL_law_60 0 rfl rfl)
theorem dL_law_1569 : decode cL_law 1569 = .ok (.iaload, 1) := dk_46 (dk_at dksL_law_60 1 rfl rfl)
theorem dL_law_1570 : decode cL_law 1570 = .ok (.invokevirtual 223, 3) := dk_182 0 223 (dk_at dksL_law_60 2 rfl rfl)
theorem dL_law_1573 : decode cL_law 1573 = .ok (.istore 6, 2) := dk_54 6 (dk_at dksL_law_60 5 rfl rfl)
theorem dL_law_1575 : decode cL_law 1575 = .ok (.aload_n 2, 1) := dk_44 (dk_at dksL_law_60 7 rfl rfl)
theorem dL_law_1576 : decode cL_law 1576 = .ok (.invokevirtual 152, 3) := dk_182 0 152 (dk_at dksL_law_60 8 rfl rfl)
theorem dL_law_1579 : decode cL_law 1579 = .ok (.iload 5, 2) := dk_21 5 (dk_at dksL_law_60 11 rfl rfl)
theorem dL_law_1581 : decode cL_law 1581 = .ok (.if_icmp .eq 5, 3) := dk_159 0 5 (dk_at dksL_law_60 13 rfl rfl)
theorem dL_law_1584 : decode cL_law 1584 = .ok (.iconst 0, 1) := dk_3 (dk_at dksL_law_60 16 rfl rfl)
theorem dL_law_1585 : decode cL_law 1585 = .ok (.ireturn, 1) := dk_172 (dk_at dksL_law_60 17 rfl rfl)
theorem dL_law_1586 : decode cL_law 1586 = .ok (.iload 5, 2) := dk_21 5 (dk_at dksL_law_60 18 rfl rfl)
theorem dL_law_1588 : decode cL_law 1588 = .ok (.ifCond .ne 15, 3) := dk_154 0 15 (dk_at dksL_law_60 20 rfl rfl)
theorem dL_law_1591 : decode cL_law 1591 = .ok (.aload_n 3, 1) := dk_45 (dk_at dksL_law_60 23 rfl rfl)
theorem dL_law_1592 : decode cL_law 1592 = .ok (.iconst 0, 1) := dk_3 (dk_at dksL_law_61 0 rfl rfl)
theorem dL_law_1593 : decode cL_law 1593 = .ok (.laload, 1) := dk_47 (dk_at dksL_law_61 1 rfl rfl)
theorem dL_law_1594 : decode cL_law 1594 = .ok (.iload 6, 2) := dk_21 6 (dk_at dksL_law_61 2 rfl rfl)
theorem dL_law_1596 : decode cL_law 1596 = .ok (.i2l, 1) := dk_133 (dk_at dksL_law_61 4 rfl rfl)
theorem dL_law_1597 : decode cL_law 1597 = .ok (.lcmp, 1) := dk_148 (dk_at dksL_law_61 5 rfl rfl)
theorem dL_law_1598 : decode cL_law 1598 = .ok (.ifCond .eq 5, 3) := dk_153 0 5 (dk_at dksL_law_61 6 rfl rfl)
theorem dL_law_1601 : decode cL_law 1601 = .ok (.iconst 0, 1) := dk_3 (dk_at dksL_law_61 9 rfl rfl)
theorem dL_law_1602 : decode cL_law 1602 = .ok (.ireturn, 1) := dk_172 (dk_at dksL_law_61 10 rfl rfl)
theorem dL_law_1603 : decode cL_law 1603 = .ok (.goto 1229, 3) := dk_167 4 205 (dk_at dksL_law_61 11 rfl rfl)
theorem dL_law_1606 : decode cL_law 1606 = .ok (.aload_n 1, 1) := dk_43 (dk_at dksL_law_61 14 rfl rfl)
theorem dL_law_1607 : decode cL_law 1607 = .ok (.aload_n 0, 1) := dk_42 (dk_at dksL_law_61 15 rfl rfl)
theorem dL_law_1608 : decode cL_law 1608 = .ok (.iload 4, 2) := dk_21 4 (dk_at dksL_law_61 16 rfl rfl)
theorem dL_law_1610 : decode cL_law 1610 = .ok (.iconst 1, 1) := dk_4 (dk_at dksL_law_61 18 rfl rfl)
theorem dL_law_1611 : decode cL_law 1611 = .ok (.iadd, 1) := dk_96 (dk_at dksL_law_61 19 rfl rfl)
theorem dL_law_1612 : decode cL_law 1612 = .ok (.iaload, 1) := dk_46 (dk_at dksL_law_61 20 rfl rfl)
theorem dL_law_1613 : decode cL_law 1613 = .ok (.aload_n 3, 1) := dk_45 (dk_at dksL_law_61 21 rfl rfl)
theorem dL_law_1614 : decode cL_law 1614 = .ok (.invokestatic 224, 3) := dk_184 0 224 (dk_at dksL_law_62 0 rfl rfl)
theorem dL_law_1617 : decode cL_law 1617 = .ok (.istore 5, 2) := dk_54 5 (dk_at dksL_law_62 3 rfl rfl)
theorem dL_law_1619 : decode cL_law 1619 = .ok (.aload_n 2, 1) := dk_44 (dk_at dksL_law_62 5 rfl rfl)
theorem dL_law_1620 : decode cL_law 1620 = .ok (.aload_n 0, 1) := dk_42 (dk_at dksL_law_62 6 rfl rfl)
theorem dL_law_1621 : decode cL_law 1621 = .ok (.iload 4, 2) := dk_21 4 (dk_at dksL_law_62 7 rfl rfl)
theorem dL_law_1623 : decode cL_law 1623 = .ok (.iconst 1, 1) := dk_4 (dk_at dksL_law_62 9 rfl rfl)
theorem dL_law_1624 : decode cL_law 1624 = .ok (.iadd, 1) := dk_96 (dk_at dksL_law_62 10 rfl rfl)
theorem dL_law_1625 : decode cL_law 1625 = .ok (.iaload, 1) := dk_46 (dk_at dksL_law_62 11 rfl rfl)
theorem dL_law_1626 : decode cL_law 1626 = .ok (.invokevirtual 226, 3) := dk_182 0 226 (dk_at dksL_law_62 12 rfl rfl)
theorem dL_law_1629 : decode cL_law 1629 = .ok (.istore 6, 2) := dk_54 6 (dk_at dksL_law_62 15 rfl rfl)
theorem dL_law_1631 : decode cL_law 1631 = .ok (.aload_n 2, 1) := dk_44 (dk_at dksL_law_62 17 rfl rfl)
theorem dL_law_1632 : decode cL_law 1632 = .ok (.invokevirtual 152, 3) := dk_182 0 152 (dk_at dksL_law_62 18 rfl rfl)
theorem dL_law_1635 : decode cL_law 1635 = .ok (.iload 5, 2) := dk_21 5 (dk_at dksL_law_62 21 rfl rfl)
theorem dL_law_1637 : decode cL_law 1637 = .ok (.if_icmp .eq 5, 3) := dk_159 0 5 (dk_at dksL_law_63 0 rfl rfl)
theorem dL_law_1640 : decode cL_law 1640 = .ok (.iconst 0, 1) := dk_3 (dk_at dksL_law_63 3 rfl rfl)
theorem dL_law_1641 : decode cL_law 1641 = .ok (.ireturn, 1) := dk_172 (dk_at dksL_law_63 4 rfl rfl)
theorem dL_law_1642 : decode cL_law 1642 = .ok (.iload 5, 2) := dk_21 5 (dk_at dksL_law_63 5 rfl rfl)
theorem dL_law_1644 : decode cL_law 1644 = .ok (.ifCond .ne 15, 3) := dk_154 0 15 (dk_at dksL_law_63 7 rfl rfl)
theorem dL_law_1647 : decode cL_law 1647 = .ok (.aload_n 3, 1) := dk_45 (dk_at dksL_law_63 10 rfl rfl)
theorem dL_law_1648 : decode cL_law 1648 = .ok (.iconst 0, 1) := dk_3 (dk_at dksL_law_63 11 rfl rfl)
theorem dL_law_1649 : decode cL_law 1649 = .ok (.laload, 1) := dk_47 (dk_at dksL_law_63 12 rfl rfl)
theorem dL_law_1650 : decode cL_law 1650 = .ok (.iload 6, 2) := dk_21 6 (dk_at dksL_law_63 13 rfl rfl)
theorem dL_law_1652 : decode cL_law 1652 = .ok (.i2l, 1) := dk_133 (dk_at dksL_law_63 15 rfl rfl)
theorem dL_law_1653 : decode cL_law 1653 = .ok (.lcmp, 1) := dk_148 (dk_at dksL_law_63 16 rfl rfl)
theorem dL_law_1654 : decode cL_law 1654 = .ok (.ifCond .eq 5, 3) := dk_153 0 5 (dk_at dksL_law_63 17 rfl rfl)
theorem dL_law_1657 : decode cL_law 1657 = .ok (.iconst 0, 1) := dk_3 (dk_at dksL_law_63 20 rfl rfl)
theorem dL_law_1658 : decode cL_law 1658 = .ok (.ireturn, 1) := dk_172 (dk_at dksL_law_63 21 rfl rfl)
theorem dL_law_1659 : decode cL_law 1659 = .ok (.goto 1173, 3) := dk_167 4 149 (dk_at dksL_law_64 0 rfl rfl)
theorem dL_law_1662 : decode cL_law 1662 = .ok (.aload_n 1, 1) := dk_43 (dk_at dksL_law_64 3 rfl rfl)
theorem dL_law_1663 : decode cL_law 1663 = .ok (.aload_n 0, 1) := dk_42 (dk_at dksL_law_64 4 rfl rfl)
theorem dL_law_1664 : decode cL_law 1664 = .ok (.iload 4, 2) := dk_21 4 (dk_at dksL_law_64 5 rfl rfl)
theorem dL_law_1666 : decode cL_law 1666 = .ok (.iconst 1, 1) := dk_4 (dk_at dksL_law_64 7 rfl rfl)
theorem dL_law_1667 : decode cL_law 1667 = .ok (.iadd, 1) := dk_96 (dk_at dksL_law_64 8 rfl rfl)
theorem dL_law_1668 : decode cL_law 1668 = .ok (.iaload, 1) := dk_46 (dk_at dksL_law_64 9 rfl rfl)
theorem dL_law_1669 : decode cL_law 1669 = .ok (.aload_n 0, 1) := dk_42 (dk_at dksL_law_64 10 rfl rfl)
theorem dL_law_1670 : decode cL_law 1670 = .ok (.iload 4, 2) := dk_21 4 (dk_at dksL_law_64 11 rfl rfl)
theorem dL_law_1672 : decode cL_law 1672 = .ok (.iconst 2, 1) := dk_5 (dk_at dksL_law_64 13 rfl rfl)
theorem dL_law_1673 : decode cL_law 1673 = .ok (.iadd, 1) := dk_96 (dk_at dksL_law_64 14 rfl rfl)
theorem dL_law_1674 : decode cL_law 1674 = .ok (.iaload, 1) := dk_46 (dk_at dksL_law_64 15 rfl rfl)
theorem dL_law_1675 : decode cL_law 1675 = .ok (.aload_n 3, 1) := dk_45 (dk_at dksL_law_64 16 rfl rfl)
theorem dL_law_1676 : decode cL_law 1676 = .ok (.invokestatic 227, 3) := dk_184 0 227 (dk_at dksL_law_64 17 rfl rfl)
theorem dL_law_1679 : decode cL_law 1679 = .ok (.istore 5, 2) := dk_54 5 (dk_at dksL_law_64 20 rfl rfl)
theorem dL_law_1681 : decode cL_law 1681 = .ok (.aload_n 2, 1) := dk_44 (dk_at dksL_law_64 22 rfl rfl)
theorem dL_law_1682 : decode cL_law 1682 = .ok (.aload_n 0, 1) := dk_42 (dk_at dksL_law_64 23 rfl rfl)
theorem dL_law_1683 : decode cL_law 1683 = .ok (.iload 4, 2) := dk_21 4 (dk_at dksL_law_65 0 rfl rfl)
theorem dL_law_1685 : decode cL_law 1685 = .ok (.iconst 1, 1) := dk_4 (dk_at dksL_law_65 2 rfl rfl)
theorem dL_law_1686 : decode cL_law 1686 = .ok (.iadd, 1) := dk_96 (dk_at dksL_law_65 3 rfl rfl)
theorem dL_law_1687 : decode cL_law 1687 = .ok (.iaload, 1) := dk_46 (dk_at dksL_law_65 4 rfl rfl)
theorem dL_law_1688 : decode cL_law 1688 = .ok (.aload_n 0, 1) := dk_42 (dk_at dksL_law_65 5 rfl rfl)
theorem dL_law_1689 : decode cL_law 1689 = .ok (.iload 4, 2) := dk_21 4 (dk_at dksL_law_65 6 rfl rfl)
theorem dL_law_1691 : decode cL_law 1691 = .ok (.iconst 2, 1) := dk_5 (dk_at dksL_law_65 8 rfl rfl)
theorem dL_law_1692 : decode cL_law 1692 = .ok (.iadd, 1) := dk_96 (dk_at dksL_law_65 9 rfl rfl)
theorem dL_law_1693 : decode cL_law 1693 = .ok (.iaload, 1) := dk_46 (dk_at dksL_law_65 10 rfl rfl)
theorem dL_law_1694 : decode cL_law 1694 = .ok (.invokevirtual 229, 3) := dk_182 0 229 (dk_at dksL_law_65 11 rfl rfl)
theorem dL_law_1697 : decode cL_law 1697 = .ok (.istore 6, 2) := dk_54 6 (dk_at dksL_law_65 14 rfl rfl)
theorem dL_law_1699 : decode cL_law 1699 = .ok (.aload_n 2, 1) := dk_44 (dk_at dksL_law_65 16 rfl rfl)
theorem dL_law_1700 : decode cL_law 1700 = .ok (.invokevirtual 152, 3) := dk_182 0 152 (dk_at dksL_law_65 17 rfl rfl)
theorem dL_law_1703 : decode cL_law 1703 = .ok (.iload 5, 2) := dk_21 5 (dk_at dksL_law_65 20 rfl rfl)
theorem dL_law_1705 : decode cL_law 1705 = .ok (.if_icmp .eq 5, 3) := dk_159 0 5 (dk_at dksL_law_66 0 rfl rfl)
theorem dL_law_1708 : decode cL_law 1708 = .ok (.iconst 0, 1) := dk_3 (dk_at dksL_law_66 3 rfl rfl)
theorem dL_law_1709 : decode cL_law 1709 = .ok (.ireturn, 1) := dk_172 (dk_at dksL_law_66 4 rfl rfl)
theorem dL_law_1710 : decode cL_law 1710 = .ok (.iload 5, 2) := dk_21 5 (dk_at dksL_law_66 5 rfl rfl)
theorem dL_law_1712 : decode cL_law 1712 = .ok (.ifCond .ne 15, 3) := dk_154 0 15 (dk_at dksL_law_66 7 rfl rfl)
theorem dL_law_1715 : decode cL_law 1715 = .ok (.aload_n 3, 1) := dk_45 (dk_at dksL_law_66 10 rfl rfl)
theorem dL_law_1716 : decode cL_law 1716 = .ok (.iconst 0, 1) := dk_3 (dk_at dksL_law_66 11 rfl rfl)
theorem dL_law_1717 : decode cL_law 1717 = .ok (.laload, 1) := dk_47 (dk_at dksL_law_66 12 rfl rfl)
theorem dL_law_1718 : decode cL_law 1718 = .ok (.iload 6, 2) := dk_21 6 (dk_at dksL_law_66 13 rfl rfl)
theorem dL_law_1720 : decode cL_law 1720 = .ok (.i2l, 1) := dk_133 (dk_at dksL_law_66 15 rfl rfl)
theorem dL_law_1721 : decode cL_law 1721 = .ok (.lcmp, 1) := dk_148 (dk_at dksL_law_66 16 rfl rfl)
theorem dL_law_1722 : decode cL_law 1722 = .ok (.ifCond .eq 5, 3) := dk_153 0 5 (dk_at dksL_law_66 17 rfl rfl)
theorem dL_law_1725 : decode cL_law 1725 = .ok (.iconst 0, 1) := dk_3 (dk_at dksL_law_66 20 rfl rfl)
theorem dL_law_1726 : decode cL_law 1726 = .ok (.ireturn, 1) := dk_172 (dk_at dksL_law_66 21 rfl rfl)
theorem dL_law_1727 : decode cL_law 1727 = .ok (.goto 1105, 3) := dk_167 4 81 (dk_at dksL_law_67 0 rfl rfl)
theorem dL_law_1730 : decode cL_law 1730 = .ok (.aload_n 1, 1) := dk_43 (dk_at dksL_law_67 3 rfl rfl)
theorem dL_law_1731 : decode cL_law 1731 = .ok (.aload_n 0, 1) := dk_42 (dk_at dksL_law_67 4 rfl rfl)
theorem dL_law_1732 : decode cL_law 1732 = .ok (.iload 4, 2) := dk_21 4 (dk_at dksL_law_67 5 rfl rfl)
theorem dL_law_1734 : decode cL_law 1734 = .ok (.iconst 1, 1) := dk_4 (dk_at dksL_law_67 7 rfl rfl)
theorem dL_law_1735 : decode cL_law 1735 = .ok (.iadd, 1) := dk_96 (dk_at dksL_law_67 8 rfl rfl)
theorem dL_law_1736 : decode cL_law 1736 = .ok (.iaload, 1) := dk_46 (dk_at dksL_law_67 9 rfl rfl)
theorem dL_law_1737 : decode cL_law 1737 = .ok (.aload_n 0, 1) := dk_42 (dk_at dksL_law_67 10 rfl rfl)
theorem dL_law_1738 : decode cL_law 1738 = .ok (.iload 4, 2) := dk_21 4 (dk_at dksL_law_67 11 rfl rfl)
theorem dL_law_1740 : decode cL_law 1740 = .ok (.iconst 2, 1) := dk_5 (dk_at dksL_law_67 13 rfl rfl)
theorem dL_law_1741 : decode cL_law 1741 = .ok (.iadd, 1) := dk_96 (dk_at dksL_law_67 14 rfl rfl)
theorem dL_law_1742 : decode cL_law 1742 = .ok (.iaload, 1) := dk_46 (dk_at dksL_law_67 15 rfl rfl)
theorem dL_law_1743 : decode cL_law 1743 = .ok (.aload_n 0, 1) := dk_42 (dk_at dksL_law_67 16 rfl rfl)
theorem dL_law_1744 : decode cL_law 1744 = .ok (.iload 4, 2) := dk_21 4 (dk_at dksL_law_67 17 rfl rfl)
theorem dL_law_1746 : decode cL_law 1746 = .ok (.iconst 3, 1) := dk_6 (dk_at dksL_law_67 19 rfl rfl)
theorem dL_law_1747 : decode cL_law 1747 = .ok (.iadd, 1) := dk_96 (dk_at dksL_law_67 20 rfl rfl)
theorem dL_law_1748 : decode cL_law 1748 = .ok (.iaload, 1) := dk_46 (dk_at dksL_law_67 21 rfl rfl)
theorem dL_law_1749 : decode cL_law 1749 = .ok (.aload_n 3, 1) := dk_45 (dk_at dksL_law_67 22 rfl rfl)
theorem dL_law_1750 : decode cL_law 1750 = .ok (.invokestatic 230, 3) := dk_184 0 230 (dk_at dksL_law_68 0 rfl rfl)
theorem dL_law_1753 : decode cL_law 1753 = .ok (.istore 5, 2) := dk_54 5 (dk_at dksL_law_68 3 rfl rfl)
theorem dL_law_1755 : decode cL_law 1755 = .ok (.aload_n 2, 1) := dk_44 (dk_at dksL_law_68 5 rfl rfl)
theorem dL_law_1756 : decode cL_law 1756 = .ok (.aload_n 0, 1) := dk_42 (dk_at dksL_law_68 6 rfl rfl)
theorem dL_law_1757 : decode cL_law 1757 = .ok (.iload 4, 2) := dk_21 4 (dk_at dksL_law_68 7 rfl rfl)
theorem dL_law_1759 : decode cL_law 1759 = .ok (.iconst 1, 1) := dk_4 (dk_at dksL_law_68 9 rfl rfl)
theorem dL_law_1760 : decode cL_law 1760 = .ok (.iadd, 1) := dk_96 (dk_at dksL_law_68 10 rfl rfl)
theorem dL_law_1761 : decode cL_law 1761 = .ok (.iaload, 1) := dk_46 (dk_at dksL_law_68 11 rfl rfl)
theorem dL_law_1762 : decode cL_law 1762 = .ok (.aload_n 0, 1) := dk_42 (dk_at dksL_law_68 12 rfl rfl)
theorem dL_law_1763 : decode cL_law 1763 = .ok (.iload 4, 2) := dk_21 4 (dk_at dksL_law_68 13 rfl rfl)
theorem dL_law_1765 : decode cL_law 1765 = .ok (.iconst 2, 1) := dk_5 (dk_at dksL_law_68 15 rfl rfl)
theorem dL_law_1766 : decode cL_law 1766 = .ok (.iadd, 1) := dk_96 (dk_at dksL_law_68 16 rfl rfl)
theorem dL_law_1767 : decode cL_law 1767 = .ok (.iaload, 1) := dk_46 (dk_at dksL_law_68 17 rfl rfl)
theorem dL_law_1768 : decode cL_law 1768 = .ok (.aload_n 0, 1) := dk_42 (dk_at dksL_law_68 18 rfl rfl)
theorem dL_law_1769 : decode cL_law 1769 = .ok (.iload 4, 2) := dk_21 4 (dk_at dksL_law_68 19 rfl rfl)
theorem dL_law_1771 : decode cL_law 1771 = .ok (.iconst 3, 1) := dk_6 (dk_at dksL_law_68 21 rfl rfl)
theorem dL_law_1772 : decode cL_law 1772 = .ok (.iadd, 1) := dk_96 (dk_at dksL_law_68 22 rfl rfl)
theorem dL_law_1773 : decode cL_law 1773 = .ok (.iaload, 1) := dk_46 (dk_at dksL_law_68 23 rfl rfl)
theorem dL_law_1774 : decode cL_law 1774 = .ok (.invokevirtual 232, 3) := dk_182 0 232 (dk_at dksL_law_69 0 rfl rfl)
theorem dL_law_1777 : decode cL_law 1777 = .ok (.istore 6, 2) := dk_54 6 (dk_at dksL_law_69 3 rfl rfl)
theorem dL_law_1779 : decode cL_law 1779 = .ok (.aload_n 2, 1) := dk_44 (dk_at dksL_law_69 5 rfl rfl)
theorem dL_law_1780 : decode cL_law 1780 = .ok (.invokevirtual 152, 3) := dk_182 0 152 (dk_at dksL_law_69 6 rfl rfl)
theorem dL_law_1783 : decode cL_law 1783 = .ok (.iload 5, 2) := dk_21 5 (dk_at dksL_law_69 9 rfl rfl)
theorem dL_law_1785 : decode cL_law 1785 = .ok (.if_icmp .eq 5, 3) := dk_159 0 5 (dk_at dksL_law_69 11 rfl rfl)
theorem dL_law_1788 : decode cL_law 1788 = .ok (.iconst 0, 1) := dk_3 (dk_at dksL_law_69 14 rfl rfl)
theorem dL_law_1789 : decode cL_law 1789 = .ok (.ireturn, 1) := dk_172 (dk_at dksL_law_69 15 rfl rfl)
theorem dL_law_1790 : decode cL_law 1790 = .ok (.iload 5, 2) := dk_21 5 (dk_at dksL_law_69 16 rfl rfl)
theorem dL_law_1792 : decode cL_law 1792 = .ok (.ifCond .ne 15, 3) := dk_154 0 15 (dk_at dksL_law_69 18 rfl rfl)
theorem dL_law_1795 : decode cL_law 1795 = .ok (.aload_n 3, 1) := dk_45 (dk_at dksL_law_69 21 rfl rfl)
theorem dL_law_1796 : decode cL_law 1796 = .ok (.iconst 0, 1) := dk_3 (dk_at dksL_law_69 22 rfl rfl)
theorem dL_law_1797 : decode cL_law 1797 = .ok (.laload, 1) := dk_47 (dk_at dksL_law_69 23 rfl rfl)
theorem dL_law_1798 : decode cL_law 1798 = .ok (.iload 6, 2) := dk_21 6 (dk_at dksL_law_70 0 rfl rfl)
theorem dL_law_1800 : decode cL_law 1800 = .ok (.i2l, 1) := dk_133 (dk_at dksL_law_70 2 rfl rfl)
theorem dL_law_1801 : decode cL_law 1801 = .ok (.lcmp, 1) := dk_148 (dk_at dksL_law_70 3 rfl rfl)
theorem dL_law_1802 : decode cL_law 1802 = .ok (.ifCond .eq 5, 3) := dk_153 0 5 (dk_at dksL_law_70 4 rfl rfl)
theorem dL_law_1805 : decode cL_law 1805 = .ok (.iconst 0, 1) := dk_3 (dk_at dksL_law_70 7 rfl rfl)
theorem dL_law_1806 : decode cL_law 1806 = .ok (.ireturn, 1) := dk_172 (dk_at dksL_law_70 8 rfl rfl)
theorem dL_law_1807 : decode cL_law 1807 = .ok (.goto 1025, 3) := dk_167 4 1 (dk_at dksL_law_70 9 rfl rfl)
theorem dL_law_1810 : decode cL_law 1810 = .ok (.aload_n 1, 1) := dk_43 (dk_at dksL_law_70 12 rfl rfl)
theorem dL_law_1811 : decode cL_law 1811 = .ok (.aload_n 0, 1) := dk_42 (dk_at dksL_law_70 13 rfl rfl)
theorem dL_law_1812 : decode cL_law 1812 = .ok (.iload 4, 2) := dk_21 4 (dk_at dksL_law_70 14 rfl rfl)
theorem dL_law_1814 : decode cL_law 1814 = .ok (.iconst 1, 1) := dk_4 (dk_at dksL_law_70 16 rfl rfl)
theorem dL_law_1815 : decode cL_law 1815 = .ok (.iadd, 1) := dk_96 (dk_at dksL_law_70 17 rfl rfl)
theorem dL_law_1816 : decode cL_law 1816 = .ok (.iaload, 1) := dk_46 (dk_at dksL_law_70 18 rfl rfl)
theorem dL_law_1817 : decode cL_law 1817 = .ok (.aload_n 3, 1) := dk_45 (dk_at dksL_law_70 19 rfl rfl)
theorem dL_law_1818 : decode cL_law 1818 = .ok (.invokestatic 233, 3) := dk_184 0 233 (dk_at dksL_law_70 20 rfl rfl)
theorem dL_law_1821 : decode cL_law 1821 = .ok (.istore 5, 2) := dk_54 5 (dk_at dksL_law_71 0 rfl rfl)
theorem dL_law_1823 : decode cL_law 1823 = .ok (.aload_n 2, 1) := dk_44 (dk_at dksL_law_71 2 rfl rfl)
theorem dL_law_1824 : decode cL_law 1824 = .ok (.aload_n 0, 1) := dk_42 (dk_at dksL_law_71 3 rfl rfl)
theorem dL_law_1825 : decode cL_law 1825 = .ok (.iload 4, 2) := dk_21 4 (dk_at dksL_law_71 4 rfl rfl)
theorem dL_law_1827 : decode cL_law 1827 = .ok (.iconst 1, 1) := dk_4 (dk_at dksL_law_71 6 rfl rfl)
theorem dL_law_1828 : decode cL_law 1828 = .ok (.iadd, 1) := dk_96 (dk_at dksL_law_71 7 rfl rfl)
theorem dL_law_1829 : decode cL_law 1829 = .ok (.iaload, 1) := dk_46 (dk_at dksL_law_71 8 rfl rfl)
theorem dL_law_1830 : decode cL_law 1830 = .ok (.invokevirtual 235, 3) := dk_182 0 235 (dk_at dksL_law_71 9 rfl rfl)
theorem dL_law_1833 : decode cL_law 1833 = .ok (.istore 6, 2) := dk_54 6 (dk_at dksL_law_71 12 rfl rfl)
theorem dL_law_1835 : decode cL_law 1835 = .ok (.aload_n 2, 1) := dk_44 (dk_at dksL_law_71 14 rfl rfl)
theorem dL_law_1836 : decode cL_law 1836 = .ok (.invokevirtual 152, 3) := dk_182 0 152 (dk_at dksL_law_71 15 rfl rfl)
theorem dL_law_1839 : decode cL_law 1839 = .ok (.iload 5, 2) := dk_21 5 (dk_at dksL_law_71 18 rfl rfl)
theorem dL_law_1841 : decode cL_law 1841 = .ok (.if_icmp .eq 5, 3) := dk_159 0 5 (dk_at dksL_law_71 20 rfl rfl)
theorem dL_law_1844 : decode cL_law 1844 = .ok (.iconst 0, 1) := dk_3 (dk_at dksL_law_71 23 rfl rfl)
theorem dL_law_1845 : decode cL_law 1845 = .ok (.ireturn, 1) := dk_172 (dk_at dksL_law_72 0 rfl rfl)
theorem dL_law_1846 : decode cL_law 1846 = .ok (.iload 5, 2) := dk_21 5 (dk_at dksL_law_72 1 rfl rfl)
theorem dL_law_1848 : decode cL_law 1848 = .ok (.ifCond .ne 22, 3) := dk_154 0 22 (dk_at dksL_law_72 3 rfl rfl)
theorem dL_law_1851 : decode cL_law 1851 = .ok (.aload_n 3, 1) := dk_45 (dk_at dksL_law_72 6 rfl rfl)
theorem dL_law_1852 : decode cL_law 1852 = .ok (.iconst 0, 1) := dk_3 (dk_at dksL_law_72 7 rfl rfl)
theorem dL_law_1853 : decode cL_law 1853 = .ok (.laload, 1) := dk_47 (dk_at dksL_law_72 8 rfl rfl)
theorem dL_law_1854 : decode cL_law 1854 = .ok (.iload 6, 2) := dk_21 6 (dk_at dksL_law_72 9 rfl rfl)
theorem dL_law_1856 : decode cL_law 1856 = .ok (.ifCond .eq 7, 3) := dk_153 0 7 (dk_at dksL_law_72 11 rfl rfl)
theorem dL_law_1859 : decode cL_law 1859 = .ok (.lconst 1, 1) := dk_10 (dk_at dksL_law_72 14 rfl rfl)
theorem dL_law_1860 : decode cL_law 1860 = .ok (.goto 4, 3) := dk_167 0 4 (dk_at dksL_law_72 15 rfl rfl)
theorem dL_law_1863 : decode cL_law 1863 = .ok (.lconst 0, 1) := dk_9 (dk_at dksL_law_72 18 rfl rfl)
theorem dL_law_1864 : decode cL_law 1864 = .ok (.lcmp, 1) := dk_148 (dk_at dksL_law_72 19 rfl rfl)
theorem dL_law_1865 : decode cL_law 1865 = .ok (.ifCond .eq 5, 3) := dk_153 0 5 (dk_at dksL_law_72 20 rfl rfl)
theorem dL_law_1868 : decode cL_law 1868 = .ok (.iconst 0, 1) := dk_3 (dk_at dksL_law_72 23 rfl rfl)
theorem dL_law_1869 : decode cL_law 1869 = .ok (.ireturn, 1) := dk_172 (dk_at dksL_law_73 0 rfl rfl)
theorem dL_law_1870 : decode cL_law 1870 = .ok (.goto 962, 3) := dk_167 3 194 (dk_at dksL_law_73 1 rfl rfl)
theorem dL_law_1873 : decode cL_law 1873 = .ok (.aload_n 1, 1) := dk_43 (dk_at dksL_law_73 4 rfl rfl)
theorem dL_law_1874 : decode cL_law 1874 = .ok (.aload_n 0, 1) := dk_42 (dk_at dksL_law_73 5 rfl rfl)
theorem dL_law_1875 : decode cL_law 1875 = .ok (.iload 4, 2) := dk_21 4 (dk_at dksL_law_73 6 rfl rfl)
theorem dL_law_1877 : decode cL_law 1877 = .ok (.iconst 1, 1) := dk_4 (dk_at dksL_law_73 8 rfl rfl)
theorem dL_law_1878 : decode cL_law 1878 = .ok (.iadd, 1) := dk_96 (dk_at dksL_law_73 9 rfl rfl)
theorem dL_law_1879 : decode cL_law 1879 = .ok (.iaload, 1) := dk_46 (dk_at dksL_law_73 10 rfl rfl)
theorem dL_law_1880 : decode cL_law 1880 = .ok (.aload_n 0, 1) := dk_42 (dk_at dksL_law_73 11 rfl rfl)
theorem dL_law_1881 : decode cL_law 1881 = .ok (.iload 4, 2) := dk_21 4 (dk_at dksL_law_73 12 rfl rfl)
theorem dL_law_1883 : decode cL_law 1883 = .ok (.iconst 2, 1) := dk_5 (dk_at dksL_law_73 14 rfl rfl)
theorem dL_law_1884 : decode cL_law 1884 = .ok (.iadd, 1) := dk_96 (dk_at dksL_law_73 15 rfl rfl)
theorem dL_law_1885 : decode cL_law 1885 = .ok (.iaload, 1) := dk_46 (dk_at dksL_law_73 16 rfl rfl)
theorem dL_law_1886 : decode cL_law 1886 = .ok (.aload_n 3, 1) := dk_45 (dk_at dksL_law_73 17 rfl rfl)
theorem dL_law_1887 : decode cL_law 1887 = .ok (.invokestatic 236, 3) := dk_184 0 236 (dk_at dksL_law_73 18 rfl rfl)
theorem dL_law_1890 : decode cL_law 1890 = .ok (.istore 5, 2) := dk_54 5 (dk_at dksL_law_73 21 rfl rfl)
theorem dL_law_1892 : decode cL_law 1892 = .ok (.aload_n 2, 1) := dk_44 (dk_at dksL_law_73 23 rfl rfl)
theorem dL_law_1893 : decode cL_law 1893 = .ok (.aload_n 0, 1) := dk_42 (dk_at dksL_law_74 0 rfl rfl)
theorem dL_law_1894 : decode cL_law 1894 = .ok (.iload 4, 2) := dk_21 4 (dk_at dksL_law_74 1 rfl rfl)
theorem dL_law_1896 : decode cL_law 1896 = .ok (.iconst 1, 1) := dk_4 (dk_at dksL_law_74 3 rfl rfl)
theorem dL_law_1897 : decode cL_law 1897 = .ok (.iadd, 1) := dk_96 (dk_at dksL_law_74 4 rfl rfl)
theorem dL_law_1898 : decode cL_law 1898 = .ok (.iaload, 1) := dk_46 (dk_at dksL_law_74 5 rfl rfl)
theorem dL_law_1899 : decode cL_law 1899 = .ok (.aload_n 0, 1) := dk_42 (dk_at dksL_law_74 6 rfl rfl)
theorem dL_law_1900 : decode cL_law 1900 = .ok (.iload 4, 2) := dk_21 4 (dk_at dksL_law_74 7 rfl rfl)
theorem dL_law_1902 : decode cL_law 1902 = .ok (.iconst 2, 1) := dk_5 (dk_at dksL_law_74 9 rfl rfl)
theorem dL_law_1903 : decode cL_law 1903 = .ok (.iadd, 1) := dk_96 (dk_at dksL_law_74 10 rfl rfl)
theorem dL_law_1904 : decode cL_law 1904 = .ok (.iaload, 1) := dk_46 (dk_at dksL_law_74 11 rfl rfl)
theorem dL_law_1905 : decode cL_law 1905 = .ok (.invokevirtual 238, 3) := dk_182 0 238 (dk_at dksL_law_74 12 rfl rfl)
theorem dL_law_1908 : decode cL_law 1908 = .ok (.istore 6, 2) := dk_54 6 (dk_at dksL_law_74 15 rfl rfl)
theorem dL_law_1910 : decode cL_law 1910 = .ok (.aload_n 2, 1) := dk_44 (dk_at dksL_law_74 17 rfl rfl)
theorem dL_law_1911 : decode cL_law 1911 = .ok (.invokevirtual 152, 3) := dk_182 0 152 (dk_at dksL_law_74 18 rfl rfl)
theorem dL_law_1914 : decode cL_law 1914 = .ok (.iload 5, 2) := dk_21 5 (dk_at dksL_law_74 21 rfl rfl)
theorem dL_law_1916 : decode cL_law 1916 = .ok (.if_icmp .eq 5, 3) := dk_159 0 5 (dk_at dksL_law_75 0 rfl rfl)
theorem dL_law_1919 : decode cL_law 1919 = .ok (.iconst 0, 1) := dk_3 (dk_at dksL_law_75 3 rfl rfl)
theorem dL_law_1920 : decode cL_law 1920 = .ok (.ireturn, 1) := dk_172 (dk_at dksL_law_75 4 rfl rfl)
theorem dL_law_1921 : decode cL_law 1921 = .ok (.iload 5, 2) := dk_21 5 (dk_at dksL_law_75 5 rfl rfl)
theorem dL_law_1923 : decode cL_law 1923 = .ok (.ifCond .ne 15, 3) := dk_154 0 15 (dk_at dksL_law_75 7 rfl rfl)
theorem dL_law_1926 : decode cL_law 1926 = .ok (.aload_n 3, 1) := dk_45 (dk_at dksL_law_75 10 rfl rfl)
theorem dL_law_1927 : decode cL_law 1927 = .ok (.iconst 0, 1) := dk_3 (dk_at dksL_law_75 11 rfl rfl)
theorem dL_law_1928 : decode cL_law 1928 = .ok (.laload, 1) := dk_47 (dk_at dksL_law_75 12 rfl rfl)
theorem dL_law_1929 : decode cL_law 1929 = .ok (.iload 6, 2) := dk_21 6 (dk_at dksL_law_75 13 rfl rfl)
theorem dL_law_1931 : decode cL_law 1931 = .ok (.i2l, 1) := dk_133 (dk_at dksL_law_75 15 rfl rfl)
theorem dL_law_1932 : decode cL_law 1932 = .ok (.lcmp, 1) := dk_148 (dk_at dksL_law_75 16 rfl rfl)
theorem dL_law_1933 : decode cL_law 1933 = .ok (.ifCond .eq 5, 3) := dk_153 0 5 (dk_at dksL_law_75 17 rfl rfl)
theorem dL_law_1936 : decode cL_law 1936 = .ok (.iconst 0, 1) := dk_3 (dk_at dksL_law_75 20 rfl rfl)
theorem dL_law_1937 : decode cL_law 1937 = .ok (.ireturn, 1) := dk_172 (dk_at dksL_law_75 21 rfl rfl)
theorem dL_law_1938 : decode cL_law 1938 = .ok (.goto 894, 3) := dk_167 3 126 (dk_at dksL_law_76 0 rfl rfl)
theorem dL_law_1941 : decode cL_law 1941 = .ok (.aload_n 1, 1) := dk_43 (dk_at dksL_law_76 3 rfl rfl)
theorem dL_law_1942 : decode cL_law 1942 = .ok (.aload_n 0, 1) := dk_42 (dk_at dksL_law_76 4 rfl rfl)
theorem dL_law_1943 : decode cL_law 1943 = .ok (.iload 4, 2) := dk_21 4 (dk_at dksL_law_76 5 rfl rfl)
theorem dL_law_1945 : decode cL_law 1945 = .ok (.iconst 1, 1) := dk_4 (dk_at dksL_law_76 7 rfl rfl)
theorem dL_law_1946 : decode cL_law 1946 = .ok (.iadd, 1) := dk_96 (dk_at dksL_law_76 8 rfl rfl)
theorem dL_law_1947 : decode cL_law 1947 = .ok (.iaload, 1) := dk_46 (dk_at dksL_law_76 9 rfl rfl)
theorem dL_law_1948 : decode cL_law 1948 = .ok (.aload_n 3, 1) := dk_45 (dk_at dksL_law_76 10 rfl rfl)
theorem dL_law_1949 : decode cL_law 1949 = .ok (.invokestatic 239, 3) := dk_184 0 239 (dk_at dksL_law_76 11 rfl rfl)
theorem dL_law_1952 : decode cL_law 1952 = .ok (.istore 5, 2) := dk_54 5 (dk_at dksL_law_76 14 rfl rfl)
theorem dL_law_1954 : decode cL_law 1954 = .ok (.aload_n 2, 1) := dk_44 (dk_at dksL_law_76 16 rfl rfl)
theorem dL_law_1955 : decode cL_law 1955 = .ok (.aload_n 0, 1) := dk_42 (dk_at dksL_law_76 17 rfl rfl)
theorem dL_law_1956 : decode cL_law 1956 = .ok (.iload 4, 2) := dk_21 4 (dk_at dksL_law_76 18 rfl rfl)
theorem dL_law_1958 : decode cL_law 1958 = .ok (.iconst 1, 1) := dk_4 (dk_at dksL_law_76 20 rfl rfl)
theorem dL_law_1959 : decode cL_law 1959 = .ok (.iadd, 1) := dk_96 (dk_at dksL_law_76 21 rfl rfl)
theorem dL_law_1960 : decode cL_law 1960 = .ok (.iaload, 1) := dk_46 (dk_at dksL_law_76 22 rfl rfl)
theorem dL_law_1961 : decode cL_law 1961 = .ok (.invokevirtual 241, 3) := dk_182 0 241 (dk_at dksL_law_77 0 rfl rfl)
theorem dL_law_1964 : decode cL_law 1964 = .ok (.istore 6, 2) := dk_54 6 (dk_at dksL_law_77 3 rfl rfl)
theorem dL_law_1966 : decode cL_law 1966 = .ok (.aload_n 2, 1) := dk_44 (dk_at dksL_law_77 5 rfl rfl)
theorem dL_law_1967 : decode cL_law 1967 = .ok (.invokevirtual 152, 3) := dk_182 0 152 (dk_at dksL_law_77 6 rfl rfl)
theorem dL_law_1970 : decode cL_law 1970 = .ok (.iload 5, 2) := dk_21 5 (dk_at dksL_law_77 9 rfl rfl)
theorem dL_law_1972 : decode cL_law 1972 = .ok (.if_icmp .eq 5, 3) := dk_159 0 5 (dk_at dksL_law_77 11 rfl rfl)
theorem dL_law_1975 : decode cL_law 1975 = .ok (.iconst 0, 1) := dk_3 (dk_at dksL_law_77 14 rfl rfl)
theorem dL_law_1976 : decode cL_law 1976 = .ok (.ireturn, 1) := dk_172 (dk_at dksL_law_77 15 rfl rfl)
theorem dL_law_1977 : decode cL_law 1977 = .ok (.iload 5, 2) := dk_21 5 (dk_at dksL_law_77 16 rfl rfl)
theorem dL_law_1979 : decode cL_law 1979 = .ok (.ifCond .ne 15, 3) := dk_154 0 15 (dk_at dksL_law_77 18 rfl rfl)
theorem dL_law_1982 : decode cL_law 1982 = .ok (.aload_n 3, 1) := dk_45 (dk_at dksL_law_77 21 rfl rfl)
theorem dL_law_1983 : decode cL_law 1983 = .ok (.iconst 0, 1) := dk_3 (dk_at dksL_law_77 22 rfl rfl)
theorem dL_law_1984 : decode cL_law 1984 = .ok (.laload, 1) := dk_47 (dk_at dksL_law_77 23 rfl rfl)
theorem dL_law_1985 : decode cL_law 1985 = .ok (.iload 6, 2) := dk_21 6 (dk_at dksL_law_78 0 rfl rfl)
theorem dL_law_1987 : decode cL_law 1987 = .ok (.i2l, 1) := dk_133 (dk_at dksL_law_78 2 rfl rfl)
theorem dL_law_1988 : decode cL_law 1988 = .ok (.lcmp, 1) := dk_148 (dk_at dksL_law_78 3 rfl rfl)
theorem dL_law_1989 : decode cL_law 1989 = .ok (.ifCond .eq 5, 3) := dk_153 0 5 (dk_at dksL_law_78 4 rfl rfl)
theorem dL_law_1992 : decode cL_law 1992 = .ok (.iconst 0, 1) := dk_3 (dk_at dksL_law_78 7 rfl rfl)
theorem dL_law_1993 : decode cL_law 1993 = .ok (.ireturn, 1) := dk_172 (dk_at dksL_law_78 8 rfl rfl)
theorem dL_law_1994 : decode cL_law 1994 = .ok (.goto 838, 3) := dk_167 3 70 (dk_at dksL_law_78 9 rfl rfl)
theorem dL_law_1997 : decode cL_law 1997 = .ok (.aload_n 1, 1) := dk_43 (dk_at dksL_law_78 12 rfl rfl)
theorem dL_law_1998 : decode cL_law 1998 = .ok (.aload_n 0, 1) := dk_42 (dk_at dksL_law_78 13 rfl rfl)
theorem dL_law_1999 : decode cL_law 1999 = .ok (.iload 4, 2) := dk_21 4 (dk_at dksL_law_78 14 rfl rfl)
theorem dL_law_2001 : decode cL_law 2001 = .ok (.iconst 1, 1) := dk_4 (dk_at dksL_law_78 16 rfl rfl)
theorem dL_law_2002 : decode cL_law 2002 = .ok (.iadd, 1) := dk_96 (dk_at dksL_law_78 17 rfl rfl)
theorem dL_law_2003 : decode cL_law 2003 = .ok (.iaload, 1) := dk_46 (dk_at dksL_law_78 18 rfl rfl)
theorem dL_law_2004 : decode cL_law 2004 = .ok (.aload_n 3, 1) := dk_45 (dk_at dksL_law_78 19 rfl rfl)
theorem dL_law_2005 : decode cL_law 2005 = .ok (.invokestatic 242, 3) := dk_184 0 242 (dk_at dksL_law_78 20 rfl rfl)
theorem dL_law_2008 : decode cL_law 2008 = .ok (.istore 5, 2) := dk_54 5 (dk_at dksL_law_79 0 rfl rfl)
theorem dL_law_2010 : decode cL_law 2010 = .ok (.aload_n 2, 1) := dk_44 (dk_at dksL_law_79 2 rfl rfl)
theorem dL_law_2011 : decode cL_law 2011 = .ok (.aload_n 0, 1) := dk_42 (dk_at dksL_law_79 3 rfl rfl)
theorem dL_law_2012 : decode cL_law 2012 = .ok (.iload 4, 2) := dk_21 4 (dk_at dksL_law_79 4 rfl rfl)
theorem dL_law_2014 : decode cL_law 2014 = .ok (.iconst 1, 1) := dk_4 (dk_at dksL_law_79 6 rfl rfl)
theorem dL_law_2015 : decode cL_law 2015 = .ok (.iadd, 1) := dk_96 (dk_at dksL_law_79 7 rfl rfl)
theorem dL_law_2016 : decode cL_law 2016 = .ok (.iaload, 1) := dk_46 (dk_at dksL_law_79 8 rfl rfl)
theorem dL_law_2017 : decode cL_law 2017 = .ok (.invokevirtual 244, 3) := dk_182 0 244 (dk_at dksL_law_79 9 rfl rfl)
theorem dL_law_2020 : decode cL_law 2020 = .ok (.istore 6, 2) := dk_54 6 (dk_at dksL_law_79 12 rfl rfl)
theorem dL_law_2022 : decode cL_law 2022 = .ok (.aload_n 2, 1) := dk_44 (dk_at dksL_law_79 14 rfl rfl)
theorem dL_law_2023 : decode cL_law 2023 = .ok (.invokevirtual 152, 3) := dk_182 0 152 (dk_at dksL_law_79 15 rfl rfl)
theorem dL_law_2026 : decode cL_law 2026 = .ok (.iload 5, 2) := dk_21 5 (dk_at dksL_law_79 18 rfl rfl)
theorem dL_law_2028 : decode cL_law 2028 = .ok (.if_icmp .eq 5, 3) := dk_159 0 5 (dk_at dksL_law_79 20 rfl rfl)
theorem dL_law_2031 : decode cL_law 2031 = .ok (.iconst 0, 1) := dk_3 (dk_at dksL_law_79 23 rfl rfl)
theorem dL_law_2032 : decode cL_law 2032 = .ok (.ireturn, 1) := dk_172 (dk_at dksL_law_80 0 rfl rfl)
theorem dL_law_2033 : decode cL_law 2033 = .ok (.iload 5, 2) := dk_21 5 (dk_at dksL_law_80 1 rfl rfl)
theorem dL_law_2035 : decode cL_law 2035 = .ok (.ifCond .ne 22, 3) := dk_154 0 22 (dk_at dksL_law_80 3 rfl rfl)
theorem dL_law_2038 : decode cL_law 2038 = .ok (.aload_n 3, 1) := dk_45 (dk_at dksL_law_80 6 rfl rfl)
theorem dL_law_2039 : decode cL_law 2039 = .ok (.iconst 0, 1) := dk_3 (dk_at dksL_law_80 7 rfl rfl)
theorem dL_law_2040 : decode cL_law 2040 = .ok (.laload, 1) := dk_47 (dk_at dksL_law_80 8 rfl rfl)
theorem dL_law_2041 : decode cL_law 2041 = .ok (.iload 6, 2) := dk_21 6 (dk_at dksL_law_80 9 rfl rfl)
theorem dL_law_2043 : decode cL_law 2043 = .ok (.ifCond .eq 7, 3) := dk_153 0 7 (dk_at dksL_law_80 11 rfl rfl)
theorem dL_law_2046 : decode cL_law 2046 = .ok (.lconst 1, 1) := dk_10 (dk_at dksL_law_80 14 rfl rfl)
theorem dL_law_2047 : decode cL_law 2047 = .ok (.goto 4, 3) := dk_167 0 4 (dk_at dksL_law_80 15 rfl rfl)
theorem dL_law_2050 : decode cL_law 2050 = .ok (.lconst 0, 1) := dk_9 (dk_at dksL_law_80 18 rfl rfl)
theorem dL_law_2051 : decode cL_law 2051 = .ok (.lcmp, 1) := dk_148 (dk_at dksL_law_80 19 rfl rfl)
theorem dL_law_2052 : decode cL_law 2052 = .ok (.ifCond .eq 5, 3) := dk_153 0 5 (dk_at dksL_law_80 20 rfl rfl)
theorem dL_law_2055 : decode cL_law 2055 = .ok (.iconst 0, 1) := dk_3 (dk_at dksL_law_80 23 rfl rfl)
theorem dL_law_2056 : decode cL_law 2056 = .ok (.ireturn, 1) := dk_172 (dk_at dksL_law_81 0 rfl rfl)
theorem dL_law_2057 : decode cL_law 2057 = .ok (.goto 775, 3) := dk_167 3 7 (dk_at dksL_law_81 1 rfl rfl)
theorem dL_law_2060 : decode cL_law 2060 = .ok (.aload_n 1, 1) := dk_43 (dk_at dksL_law_81 4 rfl rfl)
theorem dL_law_2061 : decode cL_law 2061 = .ok (.aload_n 0, 1) := dk_42 (dk_at dksL_law_81 5 rfl rfl)
theorem dL_law_2062 : decode cL_law 2062 = .ok (.iload 4, 2) := dk_21 4 (dk_at dksL_law_81 6 rfl rfl)
theorem dL_law_2064 : decode cL_law 2064 = .ok (.iconst 1, 1) := dk_4 (dk_at dksL_law_81 8 rfl rfl)
theorem dL_law_2065 : decode cL_law 2065 = .ok (.iadd, 1) := dk_96 (dk_at dksL_law_81 9 rfl rfl)
theorem dL_law_2066 : decode cL_law 2066 = .ok (.iaload, 1) := dk_46 (dk_at dksL_law_81 10 rfl rfl)
theorem dL_law_2067 : decode cL_law 2067 = .ok (.aload_n 0, 1) := dk_42 (dk_at dksL_law_81 11 rfl rfl)
theorem dL_law_2068 : decode cL_law 2068 = .ok (.iload 4, 2) := dk_21 4 (dk_at dksL_law_81 12 rfl rfl)
theorem dL_law_2070 : decode cL_law 2070 = .ok (.iconst 2, 1) := dk_5 (dk_at dksL_law_81 14 rfl rfl)
theorem dL_law_2071 : decode cL_law 2071 = .ok (.iadd, 1) := dk_96 (dk_at dksL_law_81 15 rfl rfl)
theorem dL_law_2072 : decode cL_law 2072 = .ok (.iaload, 1) := dk_46 (dk_at dksL_law_81 16 rfl rfl)
theorem dL_law_2073 : decode cL_law 2073 = .ok (.aload_n 3, 1) := dk_45 (dk_at dksL_law_81 17 rfl rfl)
theorem dL_law_2074 : decode cL_law 2074 = .ok (.invokestatic 245, 3) := dk_184 0 245 (dk_at dksL_law_81 18 rfl rfl)
theorem dL_law_2077 : decode cL_law 2077 = .ok (.istore 5, 2) := dk_54 5 (dk_at dksL_law_81 21 rfl rfl)
theorem dL_law_2079 : decode cL_law 2079 = .ok (.aload_n 2, 1) := dk_44 (dk_at dksL_law_81 23 rfl rfl)
theorem dL_law_2080 : decode cL_law 2080 = .ok (.aload_n 0, 1) := dk_42 (dk_at dksL_law_82 0 rfl rfl)
theorem dL_law_2081 : decode cL_law 2081 = .ok (.iload 4, 2) := dk_21 4 (dk_at dksL_law_82 1 rfl rfl)
theorem dL_law_2083 : decode cL_law 2083 = .ok (.iconst 1, 1) := dk_4 (dk_at dksL_law_82 3 rfl rfl)
theorem dL_law_2084 : decode cL_law 2084 = .ok (.iadd, 1) := dk_96 (dk_at dksL_law_82 4 rfl rfl)
theorem dL_law_2085 : decode cL_law 2085 = .ok (.iaload, 1) := dk_46 (dk_at dksL_law_82 5 rfl rfl)
theorem dL_law_2086 : decode cL_law 2086 = .ok (.aload_n 0, 1) := dk_42 (dk_at dksL_law_82 6 rfl rfl)
theorem dL_law_2087 : decode cL_law 2087 = .ok (.iload 4, 2) := dk_21 4 (dk_at dksL_law_82 7 rfl rfl)
theorem dL_law_2089 : decode cL_law 2089 = .ok (.iconst 2, 1) := dk_5 (dk_at dksL_law_82 9 rfl rfl)
theorem dL_law_2090 : decode cL_law 2090 = .ok (.iadd, 1) := dk_96 (dk_at dksL_law_82 10 rfl rfl)
theorem dL_law_2091 : decode cL_law 2091 = .ok (.iaload, 1) := dk_46 (dk_at dksL_law_82 11 rfl rfl)
theorem dL_law_2092 : decode cL_law 2092 = .ok (.invokevirtual 247, 3) := dk_182 0 247 (dk_at dksL_law_82 12 rfl rfl)
theorem dL_law_2095 : decode cL_law 2095 = .ok (.istore 6, 2) := dk_54 6 (dk_at dksL_law_82 15 rfl rfl)
theorem dL_law_2097 : decode cL_law 2097 = .ok (.aload_n 2, 1) := dk_44 (dk_at dksL_law_82 17 rfl rfl)
theorem dL_law_2098 : decode cL_law 2098 = .ok (.invokevirtual 152, 3) := dk_182 0 152 (dk_at dksL_law_82 18 rfl rfl)
theorem dL_law_2101 : decode cL_law 2101 = .ok (.iload 5, 2) := dk_21 5 (dk_at dksL_law_82 21 rfl rfl)
theorem dL_law_2103 : decode cL_law 2103 = .ok (.if_icmp .eq 5, 3) := dk_159 0 5 (dk_at dksL_law_83 0 rfl rfl)
theorem dL_law_2106 : decode cL_law 2106 = .ok (.iconst 0, 1) := dk_3 (dk_at dksL_law_83 3 rfl rfl)
theorem dL_law_2107 : decode cL_law 2107 = .ok (.ireturn, 1) := dk_172 (dk_at dksL_law_83 4 rfl rfl)
theorem dL_law_2108 : decode cL_law 2108 = .ok (.iload 5, 2) := dk_21 5 (dk_at dksL_law_83 5 rfl rfl)
theorem dL_law_2110 : decode cL_law 2110 = .ok (.ifCond .ne 15, 3) := dk_154 0 15 (dk_at dksL_law_83 7 rfl rfl)
theorem dL_law_2113 : decode cL_law 2113 = .ok (.aload_n 3, 1) := dk_45 (dk_at dksL_law_83 10 rfl rfl)
theorem dL_law_2114 : decode cL_law 2114 = .ok (.iconst 0, 1) := dk_3 (dk_at dksL_law_83 11 rfl rfl)
theorem dL_law_2115 : decode cL_law 2115 = .ok (.laload, 1) := dk_47 (dk_at dksL_law_83 12 rfl rfl)
theorem dL_law_2116 : decode cL_law 2116 = .ok (.iload 6, 2) := dk_21 6 (dk_at dksL_law_83 13 rfl rfl)
theorem dL_law_2118 : decode cL_law 2118 = .ok (.i2l, 1) := dk_133 (dk_at dksL_law_83 15 rfl rfl)
theorem dL_law_2119 : decode cL_law 2119 = .ok (.lcmp, 1) := dk_148 (dk_at dksL_law_83 16 rfl rfl)
theorem dL_law_2120 : decode cL_law 2120 = .ok (.ifCond .eq 5, 3) := dk_153 0 5 (dk_at dksL_law_83 17 rfl rfl)
theorem dL_law_2123 : decode cL_law 2123 = .ok (.iconst 0, 1) := dk_3 (dk_at dksL_law_83 20 rfl rfl)
theorem dL_law_2124 : decode cL_law 2124 = .ok (.ireturn, 1) := dk_172 (dk_at dksL_law_83 21 rfl rfl)
theorem dL_law_2125 : decode cL_law 2125 = .ok (.goto 707, 3) := dk_167 2 195 (dk_at dksL_law_84 0 rfl rfl)
theorem dL_law_2128 : decode cL_law 2128 = .ok (.aload_n 1, 1) := dk_43 (dk_at dksL_law_84 3 rfl rfl)
theorem dL_law_2129 : decode cL_law 2129 = .ok (.aload_n 0, 1) := dk_42 (dk_at dksL_law_84 4 rfl rfl)
theorem dL_law_2130 : decode cL_law 2130 = .ok (.iload 4, 2) := dk_21 4 (dk_at dksL_law_84 5 rfl rfl)
theorem dL_law_2132 : decode cL_law 2132 = .ok (.iconst 1, 1) := dk_4 (dk_at dksL_law_84 7 rfl rfl)
theorem dL_law_2133 : decode cL_law 2133 = .ok (.iadd, 1) := dk_96 (dk_at dksL_law_84 8 rfl rfl)
theorem dL_law_2134 : decode cL_law 2134 = .ok (.iaload, 1) := dk_46 (dk_at dksL_law_84 9 rfl rfl)
theorem dL_law_2135 : decode cL_law 2135 = .ok (.aload_n 3, 1) := dk_45 (dk_at dksL_law_84 10 rfl rfl)
theorem dL_law_2136 : decode cL_law 2136 = .ok (.invokestatic 248, 3) := dk_184 0 248 (dk_at dksL_law_84 11 rfl rfl)
theorem dL_law_2139 : decode cL_law 2139 = .ok (.istore 5, 2) := dk_54 5 (dk_at dksL_law_84 14 rfl rfl)
theorem dL_law_2141 : decode cL_law 2141 = .ok (.aload_n 2, 1) := dk_44 (dk_at dksL_law_84 16 rfl rfl)
theorem dL_law_2142 : decode cL_law 2142 = .ok (.aload_n 0, 1) := dk_42 (dk_at dksL_law_84 17 rfl rfl)
theorem dL_law_2143 : decode cL_law 2143 = .ok (.iload 4, 2) := dk_21 4 (dk_at dksL_law_84 18 rfl rfl)
theorem dL_law_2145 : decode cL_law 2145 = .ok (.iconst 1, 1) := dk_4 (dk_at dksL_law_84 20 rfl rfl)
theorem dL_law_2146 : decode cL_law 2146 = .ok (.iadd, 1) := dk_96 (dk_at dksL_law_84 21 rfl rfl)
theorem dL_law_2147 : decode cL_law 2147 = .ok (.iaload, 1) := dk_46 (dk_at dksL_law_84 22 rfl rfl)
theorem dL_law_2148 : decode cL_law 2148 = .ok (.invokevirtual 250, 3) := dk_182 0 250 (dk_at dksL_law_85 0 rfl rfl)
theorem dL_law_2151 : decode cL_law 2151 = .ok (.istore 6, 2) := dk_54 6 (dk_at dksL_law_85 3 rfl rfl)
theorem dL_law_2153 : decode cL_law 2153 = .ok (.aload_n 2, 1) := dk_44 (dk_at dksL_law_85 5 rfl rfl)
theorem dL_law_2154 : decode cL_law 2154 = .ok (.invokevirtual 152, 3) := dk_182 0 152 (dk_at dksL_law_85 6 rfl rfl)
theorem dL_law_2157 : decode cL_law 2157 = .ok (.iload 5, 2) := dk_21 5 (dk_at dksL_law_85 9 rfl rfl)
theorem dL_law_2159 : decode cL_law 2159 = .ok (.if_icmp .eq 5, 3) := dk_159 0 5 (dk_at dksL_law_85 11 rfl rfl)
theorem dL_law_2162 : decode cL_law 2162 = .ok (.iconst 0, 1) := dk_3 (dk_at dksL_law_85 14 rfl rfl)
theorem dL_law_2163 : decode cL_law 2163 = .ok (.ireturn, 1) := dk_172 (dk_at dksL_law_85 15 rfl rfl)
theorem dL_law_2164 : decode cL_law 2164 = .ok (.iload 5, 2) := dk_21 5 (dk_at dksL_law_85 16 rfl rfl)
theorem dL_law_2166 : decode cL_law 2166 = .ok (.ifCond .ne 15, 3) := dk_154 0 15 (dk_at dksL_law_85 18 rfl rfl)
theorem dL_law_2169 : decode cL_law 2169 = .ok (.aload_n 3, 1) := dk_45 (dk_at dksL_law_85 21 rfl rfl)
theorem dL_law_2170 : decode cL_law 2170 = .ok (.iconst 0, 1) := dk_3 (dk_at dksL_law_85 22 rfl rfl)
theorem dL_law_2171 : decode cL_law 2171 = .ok (.laload, 1) := dk_47 (dk_at dksL_law_85 23 rfl rfl)
theorem dL_law_2172 : decode cL_law 2172 = .ok (.iload 6, 2) := dk_21 6 (dk_at dksL_law_86 0 rfl rfl)
theorem dL_law_2174 : decode cL_law 2174 = .ok (.i2l, 1) := dk_133 (dk_at dksL_law_86 2 rfl rfl)
theorem dL_law_2175 : decode cL_law 2175 = .ok (.lcmp, 1) := dk_148 (dk_at dksL_law_86 3 rfl rfl)
theorem dL_law_2176 : decode cL_law 2176 = .ok (.ifCond .eq 5, 3) := dk_153 0 5 (dk_at dksL_law_86 4 rfl rfl)
theorem dL_law_2179 : decode cL_law 2179 = .ok (.iconst 0, 1) := dk_3 (dk_at dksL_law_86 7 rfl rfl)
theorem dL_law_2180 : decode cL_law 2180 = .ok (.ireturn, 1) := dk_172 (dk_at dksL_law_86 8 rfl rfl)
theorem dL_law_2181 : decode cL_law 2181 = .ok (.goto 651, 3) := dk_167 2 139 (dk_at dksL_law_86 9 rfl rfl)
theorem dL_law_2184 : decode cL_law 2184 = .ok (.aload_n 1, 1) := dk_43 (dk_at dksL_law_86 12 rfl rfl)
theorem dL_law_2185 : decode cL_law 2185 = .ok (.aload_n 0, 1) := dk_42 (dk_at dksL_law_86 13 rfl rfl)
theorem dL_law_2186 : decode cL_law 2186 = .ok (.iload 4, 2) := dk_21 4 (dk_at dksL_law_86 14 rfl rfl)
theorem dL_law_2188 : decode cL_law 2188 = .ok (.iconst 1, 1) := dk_4 (dk_at dksL_law_86 16 rfl rfl)
theorem dL_law_2189 : decode cL_law 2189 = .ok (.iadd, 1) := dk_96 (dk_at dksL_law_86 17 rfl rfl)
theorem dL_law_2190 : decode cL_law 2190 = .ok (.iaload, 1) := dk_46 (dk_at dksL_law_86 18 rfl rfl)
theorem dL_law_2191 : decode cL_law 2191 = .ok (.aload_n 0, 1) := dk_42 (dk_at dksL_law_86 19 rfl rfl)
theorem dL_law_2192 : decode cL_law 2192 = .ok (.iload 4, 2) := dk_21 4 (dk_at dksL_law_86 20 rfl rfl)
theorem dL_law_2194 : decode cL_law 2194 = .ok (.iconst 2, 1) := dk_5 (dk_at dksL_law_86 22 rfl rfl)
theorem dL_law_2195 : decode cL_law 2195 = .ok (.iadd, 1) := dk_96 (dk_at dksL_law_86 23 rfl rfl)
theorem dL_law_2196 : decode cL_law 2196 = .ok (.iaload, 1) := dk_46 (dk_at dksL_law_87 0 rfl rfl)
theorem dL_law_2197 : decode cL_law 2197 = .ok (.aload_n 3, 1) := dk_45 (dk_at dksL_law_87 1 rfl rfl)
theorem dL_law_2198 : decode cL_law 2198 = .ok (.invokestatic 251, 3) := dk_184 0 251 (dk_at dksL_law_87 2 rfl rfl)
theorem dL_law_2201 : decode cL_law 2201 = .ok (.istore 5, 2) := dk_54 5 (dk_at dksL_law_87 5 rfl rfl)
theorem dL_law_2203 : decode cL_law 2203 = .ok (.aload_n 2, 1) := dk_44 (dk_at dksL_law_87 7 rfl rfl)
theorem dL_law_2204 : decode cL_law 2204 = .ok (.aload_n 0, 1) := dk_42 (dk_at dksL_law_87 8 rfl rfl)
theorem dL_law_2205 : decode cL_law 2205 = .ok (.iload 4, 2) := dk_21 4 (dk_at dksL_law_87 9 rfl rfl)
theorem dL_law_2207 : decode cL_law 2207 = .ok (.iconst 1, 1) := dk_4 (dk_at dksL_law_87 11 rfl rfl)
theorem dL_law_2208 : decode cL_law 2208 = .ok (.iadd, 1) := dk_96 (dk_at dksL_law_87 12 rfl rfl)
theorem dL_law_2209 : decode cL_law 2209 = .ok (.iaload, 1) := dk_46 (dk_at dksL_law_87 13 rfl rfl)
theorem dL_law_2210 : decode cL_law 2210 = .ok (.aload_n 0, 1) := dk_42 (dk_at dksL_law_87 14 rfl rfl)
theorem dL_law_2211 : decode cL_law 2211 = .ok (.iload 4, 2) := dk_21 4 (dk_at dksL_law_87 15 rfl rfl)
theorem dL_law_2213 : decode cL_law 2213 = .ok (.iconst 2, 1) := dk_5 (dk_at dksL_law_87 17 rfl rfl)
theorem dL_law_2214 : decode cL_law 2214 = .ok (.iadd, 1) := dk_96 (dk_at dksL_law_87 18 rfl rfl)
theorem dL_law_2215 : decode cL_law 2215 = .ok (.iaload, 1) := dk_46 (dk_at dksL_law_87 19 rfl rfl)
theorem dL_law_2216 : decode cL_law 2216 = .ok (.invokevirtual 253, 3) := dk_182 0 253 (dk_at dksL_law_87 20 rfl rfl)
theorem dL_law_2219 : decode cL_law 2219 = .ok (.istore 6, 2) := dk_54 6 (dk_at dksL_law_88 0 rfl rfl)
theorem dL_law_2221 : decode cL_law 2221 = .ok (.aload_n 2, 1) := dk_44 (dk_at dksL_law_88 2 rfl rfl)
theorem dL_law_2222 : decode cL_law 2222 = .ok (.invokevirtual 152, 3) := dk_182 0 152 (dk_at dksL_law_88 3 rfl rfl)
theorem dL_law_2225 : decode cL_law 2225 = .ok (.iload 5, 2) := dk_21 5 (dk_at dksL_law_88 6 rfl rfl)
theorem dL_law_2227 : decode cL_law 2227 = .ok (.if_icmp .eq 5, 3) := dk_159 0 5 (dk_at dksL_law_88 8 rfl rfl)
theorem dL_law_2230 : decode cL_law 2230 = .ok (.iconst 0, 1) := dk_3 (dk_at dksL_law_88 11 rfl rfl)
theorem dL_law_2231 : decode cL_law 2231 = .ok (.ireturn, 1) := dk_172 (dk_at dksL_law_88 12 rfl rfl)
theorem dL_law_2232 : decode cL_law 2232 = .ok (.iload 5, 2) := dk_21 5 (dk_at dksL_law_88 13 rfl rfl)
theorem dL_law_2234 : decode cL_law 2234 = .ok (.ifCond .ne 15, 3) := dk_154 0 15 (dk_at dksL_law_88 15 rfl rfl)
theorem dL_law_2237 : decode cL_law 2237 = .ok (.aload_n 3, 1) := dk_45 (dk_at dksL_law_88 18 rfl rfl)
theorem dL_law_2238 : decode cL_law 2238 = .ok (.iconst 0, 1) := dk_3 (dk_at dksL_law_88 19 rfl rfl)
theorem dL_law_2239 : decode cL_law 2239 = .ok (.laload, 1) := dk_47 (dk_at dksL_law_88 20 rfl rfl)
theorem dL_law_2240 : decode cL_law 2240 = .ok (.iload 6, 2) := dk_21 6 (dk_at dksL_law_88 21 rfl rfl)
theorem dL_law_2242 : decode cL_law 2242 = .ok (.i2l, 1) := dk_133 (dk_at dksL_law_88 23 rfl rfl)
theorem dL_law_2243 : decode cL_law 2243 = .ok (.lcmp, 1) := dk_148 (dk_at dksL_law_89 0 rfl rfl)
theorem dL_law_2244 : decode cL_law 2244 = .ok (.ifCond .eq 5, 3) := dk_153 0 5 (dk_at dksL_law_89 1 rfl rfl)
theorem dL_law_2247 : decode cL_law 2247 = .ok (.iconst 0, 1) := dk_3 (dk_at dksL_law_89 4 rfl rfl)
theorem dL_law_2248 : decode cL_law 2248 = .ok (.ireturn, 1) := dk_172 (dk_at dksL_law_89 5 rfl rfl)
theorem dL_law_2249 : decode cL_law 2249 = .ok (.goto 583, 3) := dk_167 2 71 (dk_at dksL_law_89 6 rfl rfl)
theorem dL_law_2252 : decode cL_law 2252 = .ok (.aload_n 1, 1) := dk_43 (dk_at dksL_law_89 9 rfl rfl)
theorem dL_law_2253 : decode cL_law 2253 = .ok (.aload_n 0, 1) := dk_42 (dk_at dksL_law_89 10 rfl rfl)
theorem dL_law_2254 : decode cL_law 2254 = .ok (.iload 4, 2) := dk_21 4 (dk_at dksL_law_89 11 rfl rfl)
theorem dL_law_2256 : decode cL_law 2256 = .ok (.iconst 1, 1) := dk_4 (dk_at dksL_law_89 13 rfl rfl)
theorem dL_law_2257 : decode cL_law 2257 = .ok (.iadd, 1) := dk_96 (dk_at dksL_law_89 14 rfl rfl)
theorem dL_law_2258 : decode cL_law 2258 = .ok (.iaload, 1) := dk_46 (dk_at dksL_law_89 15 rfl rfl)
theorem dL_law_2259 : decode cL_law 2259 = .ok (.aload_n 0, 1) := dk_42 (dk_at dksL_law_89 16 rfl rfl)
theorem dL_law_2260 : decode cL_law 2260 = .ok (.iload 4, 2) := dk_21 4 (dk_at dksL_law_89 17 rfl rfl)
theorem dL_law_2262 : decode cL_law 2262 = .ok (.iconst 2, 1) := dk_5 (dk_at dksL_law_89 19 rfl rfl)
theorem dL_law_2263 : decode cL_law 2263 = .ok (.iadd, 1) := dk_96 (dk_at dksL_law_89 20 rfl rfl)
theorem dL_law_2264 : decode cL_law 2264 = .ok (.iaload, 1) := dk_46 (dk_at dksL_law_89 21 rfl rfl)
theorem dL_law_2265 : decode cL_law 2265 = .ok (.aload_n 0, 1) := dk_42 (dk_at dksL_law_89 22 rfl rfl)
theorem dL_law_2266 : decode cL_law 2266 = .ok (.iload 4, 2) := dk_21 4 (dk_at dksL_law_90 0 rfl rfl)
theorem dL_law_2268 : decode cL_law 2268 = .ok (.iconst 3, 1) := dk_6 (dk_at dksL_law_90 2 rfl rfl)
theorem dL_law_2269 : decode cL_law 2269 = .ok (.iadd, 1) := dk_96 (dk_at dksL_law_90 3 rfl rfl)
theorem dL_law_2270 : decode cL_law 2270 = .ok (.iaload, 1) := dk_46 (dk_at dksL_law_90 4 rfl rfl)
theorem dL_law_2271 : decode cL_law 2271 = .ok (.aload_n 3, 1) := dk_45 (dk_at dksL_law_90 5 rfl rfl)
theorem dL_law_2272 : decode cL_law 2272 = .ok (.invokestatic 254, 3) := dk_184 0 254 (dk_at dksL_law_90 6 rfl rfl)
theorem dL_law_2275 : decode cL_law 2275 = .ok (.istore 5, 2) := dk_54 5 (dk_at dksL_law_90 9 rfl rfl)
theorem dL_law_2277 : decode cL_law 2277 = .ok (.aload_n 2, 1) := dk_44 (dk_at dksL_law_90 11 rfl rfl)
theorem dL_law_2278 : decode cL_law 2278 = .ok (.aload_n 0, 1) := dk_42 (dk_at dksL_law_90 12 rfl rfl)
theorem dL_law_2279 : decode cL_law 2279 = .ok (.iload 4, 2) := dk_21 4 (dk_at dksL_law_90 13 rfl rfl)
theorem dL_law_2281 : decode cL_law 2281 = .ok (.iconst 1, 1) := dk_4 (dk_at dksL_law_90 15 rfl rfl)
theorem dL_law_2282 : decode cL_law 2282 = .ok (.iadd, 1) := dk_96 (dk_at dksL_law_90 16 rfl rfl)
theorem dL_law_2283 : decode cL_law 2283 = .ok (.iaload, 1) := dk_46 (dk_at dksL_law_90 17 rfl rfl)
theorem dL_law_2284 : decode cL_law 2284 = .ok (.aload_n 0, 1) := dk_42 (dk_at dksL_law_90 18 rfl rfl)
theorem dL_law_2285 : decode cL_law 2285 = .ok (.iload 4, 2) := dk_21 4 (dk_at dksL_law_90 19 rfl rfl)
theorem dL_law_2287 : decode cL_law 2287 = .ok (.iconst 2, 1) := dk_5 (dk_at dksL_law_90 21 rfl rfl)
theorem dL_law_2288 : decode cL_law 2288 = .ok (.iadd, 1) := dk_96 (dk_at dksL_law_90 22 rfl rfl)
theorem dL_law_2289 : decode cL_law 2289 = .ok (.iaload, 1) := dk_46 (dk_at dksL_law_90 23 rfl rfl)
theorem dL_law_2290 : decode cL_law 2290 = .ok (.aload_n 0, 1) := dk_42 (dk_at dksL_law_91 0 rfl rfl)
theorem dL_law_2291 : decode cL_law 2291 = .ok (.iload 4, 2) := dk_21 4 (dk_at dksL_law_91 1 rfl rfl)
theorem dL_law_2293 : decode cL_law 2293 = .ok (.iconst 3, 1) := dk_6 (dk_at dksL_law_91 3 rfl rfl)
theorem dL_law_2294 : decode cL_law 2294 = .ok (.iadd, 1) := dk_96 (dk_at dksL_law_91 4 rfl rfl)
theorem dL_law_2295 : decode cL_law 2295 = .ok (.iaload, 1) := dk_46 (dk_at dksL_law_91 5 rfl rfl)
theorem dL_law_2296 : decode cL_law 2296 = .ok (.invokevirtual 256, 3) := dk_182 1 0 (dk_at dksL_law_91 6 rfl rfl)
theorem dL_law_2299 : decode cL_law 2299 = .ok (.istore 6, 2) := dk_54 6 (dk_at dksL_law_91 9 rfl rfl)
theorem dL_law_2301 : decode cL_law 2301 = .ok (.aload_n 2, 1) := dk_44 (dk_at dksL_law_91 11 rfl rfl)
theorem dL_law_2302 : decode cL_law 2302 = .ok (.invokevirtual 152, 3) := dk_182 0 152 (dk_at dksL_law_91 12 rfl rfl)
theorem dL_law_2305 : decode cL_law 2305 = .ok (.iload 5, 2) := dk_21 5 (dk_at dksL_law_91 15 rfl rfl)
theorem dL_law_2307 : decode cL_law 2307 = .ok (.if_icmp .eq 5, 3) := dk_159 0 5 (dk_at dksL_law_91 17 rfl rfl)
theorem dL_law_2310 : decode cL_law 2310 = .ok (.iconst 0, 1) := dk_3 (dk_at dksL_law_91 20 rfl rfl)
theorem dL_law_2311 : decode cL_law 2311 = .ok (.ireturn, 1) := dk_172 (dk_at dksL_law_91 21 rfl rfl)
theorem dL_law_2312 : decode cL_law 2312 = .ok (.iload 5, 2) := dk_21 5 (dk_at dksL_law_91 22 rfl rfl)
theorem dL_law_2314 : decode cL_law 2314 = .ok (.ifCond .ne 15, 3) := dk_154 0 15 (dk_at dksL_law_92 0 rfl rfl)
theorem dL_law_2317 : decode cL_law 2317 = .ok (.aload_n 3, 1) := dk_45 (dk_at dksL_law_92 3 rfl rfl)
theorem dL_law_2318 : decode cL_law 2318 = .ok (.iconst 0, 1) := dk_3 (dk_at dksL_law_92 4 rfl rfl)
theorem dL_law_2319 : decode cL_law 2319 = .ok (.laload, 1) := dk_47 (dk_at dksL_law_92 5 rfl rfl)
theorem dL_law_2320 : decode cL_law 2320 = .ok (.iload 6, 2) := dk_21 6 (dk_at dksL_law_92 6 rfl rfl)
theorem dL_law_2322 : decode cL_law 2322 = .ok (.i2l, 1) := dk_133 (dk_at dksL_law_92 8 rfl rfl)
theorem dL_law_2323 : decode cL_law 2323 = .ok (.lcmp, 1) := dk_148 (dk_at dksL_law_92 9 rfl rfl)
theorem dL_law_2324 : decode cL_law 2324 = .ok (.ifCond .eq 5, 3) := dk_153 0 5 (dk_at dksL_law_92 10 rfl rfl)
theorem dL_law_2327 : decode cL_law 2327 = .ok (.iconst 0, 1) := dk_3 (dk_at dksL_law_92 13 rfl rfl)
theorem dL_law_2328 : decode cL_law 2328 = .ok (.ireturn, 1) := dk_172 (dk_at dksL_law_92 14 rfl rfl)
theorem dL_law_2329 : decode cL_law 2329 = .ok (.goto 503, 3) := dk_167 1 247 (dk_at dksL_law_92 15 rfl rfl)
theorem dL_law_2332 : decode cL_law 2332 = .ok (.aload_n 1, 1) := dk_43 (dk_at dksL_law_92 18 rfl rfl)
theorem dL_law_2333 : decode cL_law 2333 = .ok (.aload_n 0, 1) := dk_42 (dk_at dksL_law_92 19 rfl rfl)
theorem dL_law_2334 : decode cL_law 2334 = .ok (.iload 4, 2) := dk_21 4 (dk_at dksL_law_92 20 rfl rfl)
theorem dL_law_2336 : decode cL_law 2336 = .ok (.iconst 1, 1) := dk_4 (dk_at dksL_law_92 22 rfl rfl)
theorem dL_law_2337 : decode cL_law 2337 = .ok (.iadd, 1) := dk_96 (dk_at dksL_law_92 23 rfl rfl)
theorem dL_law_2338 : decode cL_law 2338 = .ok (.iaload, 1) := dk_46 (dk_at dksL_law_93 0 rfl rfl)
theorem dL_law_2339 : decode cL_law 2339 = .ok (.aload_n 0, 1) := dk_42 (dk_at dksL_law_93 1 rfl rfl)
theorem dL_law_2340 : decode cL_law 2340 = .ok (.iload 4, 2) := dk_21 4 (dk_at dksL_law_93 2 rfl rfl)
theorem dL_law_2342 : decode cL_law 2342 = .ok (.iconst 2, 1) := dk_5 (dk_at dksL_law_93 4 rfl rfl)
theorem dL_law_2343 : decode cL_law 2343 = .ok (.iadd, 1) := dk_96 (dk_at dksL_law_93 5 rfl rfl)
theorem dL_law_2344 : decode cL_law 2344 = .ok (.iaload, 1) := dk_46 (dk_at dksL_law_93 6 rfl rfl)
theorem dL_law_2345 : decode cL_law 2345 = .ok (.aload_n 0, 1) := dk_42 (dk_at dksL_law_93 7 rfl rfl)
theorem dL_law_2346 : decode cL_law 2346 = .ok (.iload 4, 2) := dk_21 4 (dk_at dksL_law_93 8 rfl rfl)
theorem dL_law_2348 : decode cL_law 2348 = .ok (.iconst 3, 1) := dk_6 (dk_at dksL_law_93 10 rfl rfl)
theorem dL_law_2349 : decode cL_law 2349 = .ok (.iadd, 1) := dk_96 (dk_at dksL_law_93 11 rfl rfl)
theorem dL_law_2350 : decode cL_law 2350 = .ok (.iaload, 1) := dk_46 (dk_at dksL_law_93 12 rfl rfl)
theorem dL_law_2351 : decode cL_law 2351 = .ok (.aload_n 0, 1) := dk_42 (dk_at dksL_law_93 13 rfl rfl)
theorem dL_law_2352 : decode cL_law 2352 = .ok (.iload 4, 2) := dk_21 4 (dk_at dksL_law_93 14 rfl rfl)
theorem dL_law_2354 : decode cL_law 2354 = .ok (.iconst 4, 1) := dk_7 (dk_at dksL_law_93 16 rfl rfl)
theorem dL_law_2355 : decode cL_law 2355 = .ok (.iadd, 1) := dk_96 (dk_at dksL_law_93 17 rfl rfl)
theorem dL_law_2356 : decode cL_law 2356 = .ok (.iaload, 1) := dk_46 (dk_at dksL_law_93 18 rfl rfl)
theorem dL_law_2357 : decode cL_law 2357 = .ok (.aload_n 3, 1) := dk_45 (dk_at dksL_law_93 19 rfl rfl)
theorem dL_law_2358 : decode cL_law 2358 = .ok (.invokestatic 257, 3) := dk_184 1 1 (dk_at dksL_law_93 20 rfl rfl)
theorem dL_law_2361 : decode cL_law 2361 = .ok (.istore 5, 2) := dk_54 5 (dk_at dksL_law_94 0 rfl rfl)
theorem dL_law_2363 : decode cL_law 2363 = .ok (.aload_n 2, 1) := dk_44 (dk_at dksL_law_94 2 rfl rfl)
theorem dL_law_2364 : decode cL_law 2364 = .ok (.aload_n 0, 1) := dk_42 (dk_at dksL_law_94 3 rfl rfl)
theorem dL_law_2365 : decode cL_law 2365 = .ok (.iload 4, 2) := dk_21 4 (dk_at dksL_law_94 4 rfl rfl)
theorem dL_law_2367 : decode cL_law 2367 = .ok (.iconst 1, 1) := dk_4 (dk_at dksL_law_94 6 rfl rfl)
theorem dL_law_2368 : decode cL_law 2368 = .ok (.iadd, 1) := dk_96 (dk_at dksL_law_94 7 rfl rfl)
theorem dL_law_2369 : decode cL_law 2369 = .ok (.iaload, 1) := dk_46 (dk_at dksL_law_94 8 rfl rfl)
theorem dL_law_2370 : decode cL_law 2370 = .ok (.aload_n 0, 1) := dk_42 (dk_at dksL_law_94 9 rfl rfl)
theorem dL_law_2371 : decode cL_law 2371 = .ok (.iload 4, 2) := dk_21 4 (dk_at dksL_law_94 10 rfl rfl)
theorem dL_law_2373 : decode cL_law 2373 = .ok (.iconst 2, 1) := dk_5 (dk_at dksL_law_94 12 rfl rfl)
theorem dL_law_2374 : decode cL_law 2374 = .ok (.iadd, 1) := dk_96 (dk_at dksL_law_94 13 rfl rfl)
theorem dL_law_2375 : decode cL_law 2375 = .ok (.iaload, 1) := dk_46 (dk_at dksL_law_94 14 rfl rfl)
theorem dL_law_2376 : decode cL_law 2376 = .ok (.aload_n 0, 1) := dk_42 (dk_at dksL_law_94 15 rfl rfl)
theorem dL_law_2377 : decode cL_law 2377 = .ok (.iload 4, 2) := dk_21 4 (dk_at dksL_law_94 16 rfl rfl)
theorem dL_law_2379 : decode cL_law 2379 = .ok (.iconst 3, 1) := dk_6 (dk_at dksL_law_94 18 rfl rfl)
theorem dL_law_2380 : decode cL_law 2380 = .ok (.iadd, 1) := dk_96 (dk_at dksL_law_94 19 rfl rfl)
theorem dL_law_2381 : decode cL_law 2381 = .ok (.iaload, 1) := dk_46 (dk_at dksL_law_94 20 rfl rfl)
theorem dL_law_2382 : decode cL_law 2382 = .ok (.aload_n 0, 1) := dk_42 (dk_at dksL_law_94 21 rfl rfl)
theorem dL_law_2383 : decode cL_law 2383 = .ok (.iload 4, 2) := dk_21 4 (dk_at dksL_law_94 22 rfl rfl)
theorem dL_law_2385 : decode cL_law 2385 = .ok (.iconst 4, 1) := dk_7 (dk_at dksL_law_95 0 rfl rfl)
theorem dL_law_2386 : decode cL_law 2386 = .ok (.iadd, 1) := dk_96 (dk_at dksL_law_95 1 rfl rfl)
theorem dL_law_2387 : decode cL_law 2387 = .ok (.iaload, 1) := dk_46 (dk_at dksL_law_95 2 rfl rfl)
theorem dL_law_2388 : decode cL_law 2388 = .ok (.invokevirtual 259, 3) := dk_182 1 3 (dk_at dksL_law_95 3 rfl rfl)
theorem dL_law_2391 : decode cL_law 2391 = .ok (.istore 6, 2) := dk_54 6 (dk_at dksL_law_95 6 rfl rfl)
theorem dL_law_2393 : decode cL_law 2393 = .ok (.aload_n 2, 1) := dk_44 (dk_at dksL_law_95 8 rfl rfl)
theorem dL_law_2394 : decode cL_law 2394 = .ok (.invokevirtual 152, 3) := dk_182 0 152 (dk_at dksL_law_95 9 rfl rfl)
theorem dL_law_2397 : decode cL_law 2397 = .ok (.iload 5, 2) := dk_21 5 (dk_at dksL_law_95 12 rfl rfl)
theorem dL_law_2399 : decode cL_law 2399 = .ok (.if_icmp .eq 5, 3) := dk_159 0 5 (dk_at dksL_law_95 14 rfl rfl)
theorem dL_law_2402 : decode cL_law 2402 = .ok (.iconst 0, 1) := dk_3 (dk_at dksL_law_95 17 rfl rfl)
theorem dL_law_2403 : decode cL_law 2403 = .ok (.ireturn, 1) := dk_172 (dk_at dksL_law_95 18 rfl rfl)
theorem dL_law_2404 : decode cL_law 2404 = .ok (.iload 5, 2) := dk_21 5 (dk_at dksL_law_95 19 rfl rfl)
theorem dL_law_2406 : decode cL_law 2406 = .ok (.ifCond .ne 15, 3) := dk_154 0 15 (dk_at dksL_law_95 21 rfl rfl)
theorem dL_law_2409 : decode cL_law 2409 = .ok (.aload_n 3, 1) := dk_45 (dk_at dksL_law_96 0 rfl rfl)
theorem dL_law_2410 : decode cL_law 2410 = .ok (.iconst 0, 1) := dk_3 (dk_at dksL_law_96 1 rfl rfl)
theorem dL_law_2411 : decode cL_law 2411 = .ok (.laload, 1) := dk_47 (dk_at dksL_law_96 2 rfl rfl)
theorem dL_law_2412 : decode cL_law 2412 = .ok (.iload 6, 2) := dk_21 6 (dk_at dksL_law_96 3 rfl rfl)
theorem dL_law_2414 : decode cL_law 2414 = .ok (.i2l, 1) := dk_133 (dk_at dksL_law_96 5 rfl rfl)
theorem dL_law_2415 : decode cL_law 2415 = .ok (.lcmp, 1) := dk_148 (dk_at dksL_law_96 6 rfl rfl)
theorem dL_law_2416 : decode cL_law 2416 = .ok (.ifCond .eq 5, 3) := dk_153 0 5 (dk_at dksL_law_96 7 rfl rfl)
theorem dL_law_2419 : decode cL_law 2419 = .ok (.iconst 0, 1) := dk_3 (dk_at dksL_law_96 10 rfl rfl)
theorem dL_law_2420 : decode cL_law 2420 = .ok (.ireturn, 1) := dk_172 (dk_at dksL_law_96 11 rfl rfl)
theorem dL_law_2421 : decode cL_law 2421 = .ok (.goto 411, 3) := dk_167 1 155 (dk_at dksL_law_96 12 rfl rfl)
theorem dL_law_2424 : decode cL_law 2424 = .ok (.aload_n 1, 1) := dk_43 (dk_at dksL_law_96 15 rfl rfl)
theorem dL_law_2425 : decode cL_law 2425 = .ok (.aload_n 0, 1) := dk_42 (dk_at dksL_law_96 16 rfl rfl)
theorem dL_law_2426 : decode cL_law 2426 = .ok (.iload 4, 2) := dk_21 4 (dk_at dksL_law_96 17 rfl rfl)
theorem dL_law_2428 : decode cL_law 2428 = .ok (.iconst 1, 1) := dk_4 (dk_at dksL_law_96 19 rfl rfl)
theorem dL_law_2429 : decode cL_law 2429 = .ok (.iadd, 1) := dk_96 (dk_at dksL_law_96 20 rfl rfl)
theorem dL_law_2430 : decode cL_law 2430 = .ok (.iaload, 1) := dk_46 (dk_at dksL_law_96 21 rfl rfl)
theorem dL_law_2431 : decode cL_law 2431 = .ok (.aload_n 0, 1) := dk_42 (dk_at dksL_law_96 22 rfl rfl)
theorem dL_law_2432 : decode cL_law 2432 = .ok (.iload 4, 2) := dk_21 4 (dk_at dksL_law_97 0 rfl rfl)
theorem dL_law_2434 : decode cL_law 2434 = .ok (.iconst 2, 1) := dk_5 (dk_at dksL_law_97 2 rfl rfl)
theorem dL_law_2435 : decode cL_law 2435 = .ok (.iadd, 1) := dk_96 (dk_at dksL_law_97 3 rfl rfl)
theorem dL_law_2436 : decode cL_law 2436 = .ok (.iaload, 1) := dk_46 (dk_at dksL_law_97 4 rfl rfl)
theorem dL_law_2437 : decode cL_law 2437 = .ok (.aload_n 0, 1) := dk_42 (dk_at dksL_law_97 5 rfl rfl)
theorem dL_law_2438 : decode cL_law 2438 = .ok (.iload 4, 2) := dk_21 4 (dk_at dksL_law_97 6 rfl rfl)
theorem dL_law_2440 : decode cL_law 2440 = .ok (.iconst 3, 1) := dk_6 (dk_at dksL_law_97 8 rfl rfl)
theorem dL_law_2441 : decode cL_law 2441 = .ok (.iadd, 1) := dk_96 (dk_at dksL_law_97 9 rfl rfl)
theorem dL_law_2442 : decode cL_law 2442 = .ok (.iaload, 1) := dk_46 (dk_at dksL_law_97 10 rfl rfl)
theorem dL_law_2443 : decode cL_law 2443 = .ok (.aload_n 0, 1) := dk_42 (dk_at dksL_law_97 11 rfl rfl)
theorem dL_law_2444 : decode cL_law 2444 = .ok (.iload 4, 2) := dk_21 4 (dk_at dksL_law_97 12 rfl rfl)
theorem dL_law_2446 : decode cL_law 2446 = .ok (.iconst 4, 1) := dk_7 (dk_at dksL_law_97 14 rfl rfl)
theorem dL_law_2447 : decode cL_law 2447 = .ok (.iadd, 1) := dk_96 (dk_at dksL_law_97 15 rfl rfl)
theorem dL_law_2448 : decode cL_law 2448 = .ok (.iaload, 1) := dk_46 (dk_at dksL_law_97 16 rfl rfl)
theorem dL_law_2449 : decode cL_law 2449 = .ok (.aload_n 3, 1) := dk_45 (dk_at dksL_law_97 17 rfl rfl)
theorem dL_law_2450 : decode cL_law 2450 = .ok (.invokestatic 260, 3) := dk_184 1 4 (dk_at dksL_law_97 18 rfl rfl)
theorem dL_law_2453 : decode cL_law 2453 = .ok (.istore 5, 2) := dk_54 5 (dk_at dksL_law_97 21 rfl rfl)
theorem dL_law_2455 : decode cL_law 2455 = .ok (.aload_n 2, 1) := dk_44 (dk_at dksL_law_97 23 rfl rfl)
theorem dL_law_2456 : decode cL_law 2456 = .ok (.aload_n 0, 1) := dk_42 (dk_at dksL_law_98 0 rfl rfl)
theorem dL_law_2457 : decode cL_law 2457 = .ok (.iload 4, 2) := dk_21 4 (dk_at dksL_law_98 1 rfl rfl)
theorem dL_law_2459 : decode cL_law 2459 = .ok (.iconst 1, 1) := dk_4 (dk_at dksL_law_98 3 rfl rfl)
theorem dL_law_2460 : decode cL_law 2460 = .ok (.iadd, 1) := dk_96 (dk_at dksL_law_98 4 rfl rfl)
theorem dL_law_2461 : decode cL_law 2461 = .ok (.iaload, 1) := dk_46 (dk_at dksL_law_98 5 rfl rfl)
theorem dL_law_2462 : decode cL_law 2462 = .ok (.aload_n 0, 1) := dk_42 (dk_at dksL_law_98 6 rfl rfl)
theorem dL_law_2463 : decode cL_law 2463 = .ok (.iload 4, 2) := dk_21 4 (dk_at dksL_law_98 7 rfl rfl)
theorem dL_law_2465 : decode cL_law 2465 = .ok (.iconst 2, 1) := dk_5 (dk_at dksL_law_98 9 rfl rfl)
theorem dL_law_2466 : decode cL_law 2466 = .ok (.iadd, 1) := dk_96 (dk_at dksL_law_98 10 rfl rfl)
theorem dL_law_2467 : decode cL_law 2467 = .ok (.iaload, 1) := dk_46 (dk_at dksL_law_98 11 rfl rfl)
theorem dL_law_2468 : decode cL_law 2468 = .ok (.aload_n 0, 1) := dk_42 (dk_at dksL_law_98 12 rfl rfl)
theorem dL_law_2469 : decode cL_law 2469 = .ok (.iload 4, 2) := dk_21 4 (dk_at dksL_law_98 13 rfl rfl)
theorem dL_law_2471 : decode cL_law 2471 = .ok (.iconst 3, 1) := dk_6 (dk_at dksL_law_98 15 rfl rfl)
theorem dL_law_2472 : decode cL_law 2472 = .ok (.iadd, 1) := dk_96 (dk_at dksL_law_98 16 rfl rfl)
theorem dL_law_2473 : decode cL_law 2473 = .ok (.iaload, 1) := dk_46 (dk_at dksL_law_98 17 rfl rfl)
theorem dL_law_2474 : decode cL_law 2474 = .ok (.aload_n 0, 1) := dk_42 (dk_at dksL_law_98 18 rfl rfl)
theorem dL_law_2475 : decode cL_law 2475 = .ok (.iload 4, 2) := dk_21 4 (dk_at dksL_law_98 19 rfl rfl)
theorem dL_law_2477 : decode cL_law 2477 = .ok (.iconst 4, 1) := dk_7 (dk_at dksL_law_98 21 rfl rfl)
theorem dL_law_2478 : decode cL_law 2478 = .ok (.iadd, 1) := dk_96 (dk_at dksL_law_98 22 rfl rfl)
theorem dL_law_2479 : decode cL_law 2479 = .ok (.iaload, 1) := dk_46 (dk_at dksL_law_98 23 rfl rfl)
theorem dL_law_2480 : decode cL_law 2480 = .ok (.invokevirtual 262, 3) := dk_182 1 6 (dk_at dksL_law_99 0 rfl rfl)
theorem dL_law_2483 : decode cL_law 2483 = .ok (.lstore 6, 2) := dk_55 6 (dk_at dksL_law_99 3 rfl rfl)
theorem dL_law_2485 : decode cL_law 2485 = .ok (.aload_n 2, 1) := dk_44 (dk_at dksL_law_99 5 rfl rfl)
theorem dL_law_2486 : decode cL_law 2486 = .ok (.invokevirtual 152, 3) := dk_182 0 152 (dk_at dksL_law_99 6 rfl rfl)
theorem dL_law_2489 : decode cL_law 2489 = .ok (.iload 5, 2) := dk_21 5 (dk_at dksL_law_99 9 rfl rfl)
theorem dL_law_2491 : decode cL_law 2491 = .ok (.if_icmp .eq 5, 3) := dk_159 0 5 (dk_at dksL_law_99 11 rfl rfl)
theorem dL_law_2494 : decode cL_law 2494 = .ok (.iconst 0, 1) := dk_3 (dk_at dksL_law_99 14 rfl rfl)
theorem dL_law_2495 : decode cL_law 2495 = .ok (.ireturn, 1) := dk_172 (dk_at dksL_law_99 15 rfl rfl)
theorem dL_law_2496 : decode cL_law 2496 = .ok (.iload 5, 2) := dk_21 5 (dk_at dksL_law_99 16 rfl rfl)
theorem dL_law_2498 : decode cL_law 2498 = .ok (.ifCond .ne 14, 3) := dk_154 0 14 (dk_at dksL_law_99 18 rfl rfl)
theorem dL_law_2501 : decode cL_law 2501 = .ok (.aload_n 3, 1) := dk_45 (dk_at dksL_law_99 21 rfl rfl)
theorem dL_law_2502 : decode cL_law 2502 = .ok (.iconst 0, 1) := dk_3 (dk_at dksL_law_99 22 rfl rfl)
theorem dL_law_2503 : decode cL_law 2503 = .ok (.laload, 1) := dk_47 (dk_at dksL_law_99 23 rfl rfl)
theorem dL_law_2504 : decode cL_law 2504 = .ok (.lload 6, 2) := dk_22 6 (dk_at dksL_law_100 0 rfl rfl)
theorem dL_law_2506 : decode cL_law 2506 = .ok (.lcmp, 1) := dk_148 (dk_at dksL_law_100 2 rfl rfl)
theorem dL_law_2507 : decode cL_law 2507 = .ok (.ifCond .eq 5, 3) := dk_153 0 5 (dk_at dksL_law_100 3 rfl rfl)
theorem dL_law_2510 : decode cL_law 2510 = .ok (.iconst 0, 1) := dk_3 (dk_at dksL_law_100 6 rfl rfl)
theorem dL_law_2511 : decode cL_law 2511 = .ok (.ireturn, 1) := dk_172 (dk_at dksL_law_100 7 rfl rfl)
theorem dL_law_2512 : decode cL_law 2512 = .ok (.goto 320, 3) := dk_167 1 64 (dk_at dksL_law_100 8 rfl rfl)
theorem dL_law_2515 : decode cL_law 2515 = .ok (.aload_n 1, 1) := dk_43 (dk_at dksL_law_100 11 rfl rfl)
theorem dL_law_2516 : decode cL_law 2516 = .ok (.aload_n 0, 1) := dk_42 (dk_at dksL_law_100 12 rfl rfl)
theorem dL_law_2517 : decode cL_law 2517 = .ok (.iload 4, 2) := dk_21 4 (dk_at dksL_law_100 13 rfl rfl)
theorem dL_law_2519 : decode cL_law 2519 = .ok (.iconst 1, 1) := dk_4 (dk_at dksL_law_100 15 rfl rfl)
theorem dL_law_2520 : decode cL_law 2520 = .ok (.iadd, 1) := dk_96 (dk_at dksL_law_100 16 rfl rfl)
theorem dL_law_2521 : decode cL_law 2521 = .ok (.iaload, 1) := dk_46 (dk_at dksL_law_100 17 rfl rfl)
theorem dL_law_2522 : decode cL_law 2522 = .ok (.aload_n 0, 1) := dk_42 (dk_at dksL_law_100 18 rfl rfl)
theorem dL_law_2523 : decode cL_law 2523 = .ok (.iload 4, 2) := dk_21 4 (dk_at dksL_law_100 19 rfl rfl)
theorem dL_law_2525 : decode cL_law 2525 = .ok (.iconst 2, 1) := dk_5 (dk_at dksL_law_100 21 rfl rfl)
theorem dL_law_2526 : decode cL_law 2526 = .ok (.iadd, 1) := dk_96 (dk_at dksL_law_100 22 rfl rfl)
theorem dL_law_2527 : decode cL_law 2527 = .ok (.iaload, 1) := dk_46 (dk_at dksL_law_100 23 rfl rfl)
theorem dL_law_2528 : decode cL_law 2528 = .ok (.ifCond .eq 7, 3) := dk_153 0 7 (dk_at dksL_law_101 0 rfl rfl)
theorem dL_law_2531 : decode cL_law 2531 = .ok (.iconst 1, 1) := dk_4 (dk_at dksL_law_101 3 rfl rfl)
theorem dL_law_2532 : decode cL_law 2532 = .ok (.goto 4, 3) := dk_167 0 4 (dk_at dksL_law_101 4 rfl rfl)
theorem dL_law_2535 : decode cL_law 2535 = .ok (.iconst 0, 1) := dk_3 (dk_at dksL_law_101 7 rfl rfl)
theorem dL_law_2536 : decode cL_law 2536 = .ok (.aload_n 3, 1) := dk_45 (dk_at dksL_law_101 8 rfl rfl)
theorem dL_law_2537 : decode cL_law 2537 = .ok (.invokestatic 263, 3) := dk_184 1 7 (dk_at dksL_law_101 9 rfl rfl)
theorem dL_law_2540 : decode cL_law 2540 = .ok (.istore 5, 2) := dk_54 5 (dk_at dksL_law_101 12 rfl rfl)
theorem dL_law_2542 : decode cL_law 2542 = .ok (.aload_n 2, 1) := dk_44 (dk_at dksL_law_101 14 rfl rfl)
theorem dL_law_2543 : decode cL_law 2543 = .ok (.aload_n 0, 1) := dk_42 (dk_at dksL_law_101 15 rfl rfl)
theorem dL_law_2544 : decode cL_law 2544 = .ok (.iload 4, 2) := dk_21 4 (dk_at dksL_law_101 16 rfl rfl)
theorem dL_law_2546 : decode cL_law 2546 = .ok (.iconst 1, 1) := dk_4 (dk_at dksL_law_101 18 rfl rfl)
theorem dL_law_2547 : decode cL_law 2547 = .ok (.iadd, 1) := dk_96 (dk_at dksL_law_101 19 rfl rfl)
theorem dL_law_2548 : decode cL_law 2548 = .ok (.iaload, 1) := dk_46 (dk_at dksL_law_101 20 rfl rfl)
theorem dL_law_2549 : decode cL_law 2549 = .ok (.aload_n 0, 1) := dk_42 (dk_at dksL_law_101 21 rfl rfl)
theorem dL_law_2550 : decode cL_law 2550 = .ok (.iload 4, 2) := dk_21 4 (dk_at dksL_law_101 22 rfl rfl)
theorem dL_law_2552 : decode cL_law 2552 = .ok (.iconst 2, 1) := dk_5 (dk_at dksL_law_102 0 rfl rfl)
theorem dL_law_2553 : decode cL_law 2553 = .ok (.iadd, 1) := dk_96 (dk_at dksL_law_102 1 rfl rfl)
theorem dL_law_2554 : decode cL_law 2554 = .ok (.iaload, 1) := dk_46 (dk_at dksL_law_102 2 rfl rfl)
theorem dL_law_2555 : decode cL_law 2555 = .ok (.ifCond .eq 7, 3) := dk_153 0 7 (dk_at dksL_law_102 3 rfl rfl)
theorem dL_law_2558 : decode cL_law 2558 = .ok (.iconst 1, 1) := dk_4 (dk_at dksL_law_102 6 rfl rfl)
theorem dL_law_2559 : decode cL_law 2559 = .ok (.goto 4, 3) := dk_167 0 4 (dk_at dksL_law_102 7 rfl rfl)
theorem dL_law_2562 : decode cL_law 2562 = .ok (.iconst 0, 1) := dk_3 (dk_at dksL_law_102 10 rfl rfl)
theorem dL_law_2563 : decode cL_law 2563 = .ok (.invokevirtual 265, 3) := dk_182 1 9 (dk_at dksL_law_102 11 rfl rfl)
theorem dL_law_2566 : decode cL_law 2566 = .ok (.istore 6, 2) := dk_54 6 (dk_at dksL_law_102 14 rfl rfl)
theorem dL_law_2568 : decode cL_law 2568 = .ok (.aload_n 2, 1) := dk_44 (dk_at dksL_law_102 16 rfl rfl)
theorem dL_law_2569 : decode cL_law 2569 = .ok (.invokevirtual 152, 3) := dk_182 0 152 (dk_at dksL_law_102 17 rfl rfl)
theorem dL_law_2572 : decode cL_law 2572 = .ok (.iload 5, 2) := dk_21 5 (dk_at dksL_law_102 20 rfl rfl)
theorem dL_law_2574 : decode cL_law 2574 = .ok (.if_icmp .eq 5, 3) := dk_159 0 5 (dk_at dksL_law_103 0 rfl rfl)
theorem dL_law_2577 : decode cL_law 2577 = .ok (.iconst 0, 1) := dk_3 (dk_at dksL_law_103 3 rfl rfl)
theorem dL_law_2578 : decode cL_law 2578 = .ok (.ireturn, 1) := dk_172 (dk_at dksL_law_103 4 rfl rfl)
theorem dL_law_2579 : decode cL_law 2579 = .ok (.iload 5, 2) := dk_21 5 (dk_at dksL_law_103 5 rfl rfl)
theorem dL_law_2581 : decode cL_law 2581 = .ok (.ifCond .ne 15, 3) := dk_154 0 15 (dk_at dksL_law_103 7 rfl rfl)
theorem dL_law_2584 : decode cL_law 2584 = .ok (.aload_n 3, 1) := dk_45 (dk_at dksL_law_103 10 rfl rfl)
theorem dL_law_2585 : decode cL_law 2585 = .ok (.iconst 0, 1) := dk_3 (dk_at dksL_law_103 11 rfl rfl)
theorem dL_law_2586 : decode cL_law 2586 = .ok (.laload, 1) := dk_47 (dk_at dksL_law_103 12 rfl rfl)
theorem dL_law_2587 : decode cL_law 2587 = .ok (.iload 6, 2) := dk_21 6 (dk_at dksL_law_103 13 rfl rfl)
theorem dL_law_2589 : decode cL_law 2589 = .ok (.i2l, 1) := dk_133 (dk_at dksL_law_103 15 rfl rfl)
theorem dL_law_2590 : decode cL_law 2590 = .ok (.lcmp, 1) := dk_148 (dk_at dksL_law_103 16 rfl rfl)
theorem dL_law_2591 : decode cL_law 2591 = .ok (.ifCond .eq 5, 3) := dk_153 0 5 (dk_at dksL_law_103 17 rfl rfl)
theorem dL_law_2594 : decode cL_law 2594 = .ok (.iconst 0, 1) := dk_3 (dk_at dksL_law_103 20 rfl rfl)
theorem dL_law_2595 : decode cL_law 2595 = .ok (.ireturn, 1) := dk_172 (dk_at dksL_law_103 21 rfl rfl)
theorem dL_law_2596 : decode cL_law 2596 = .ok (.goto 236, 3) := dk_167 0 236 (dk_at dksL_law_104 0 rfl rfl)
theorem dL_law_2599 : decode cL_law 2599 = .ok (.aload_n 1, 1) := dk_43 (dk_at dksL_law_104 3 rfl rfl)
theorem dL_law_2600 : decode cL_law 2600 = .ok (.aload_n 0, 1) := dk_42 (dk_at dksL_law_104 4 rfl rfl)
theorem dL_law_2601 : decode cL_law 2601 = .ok (.iload 4, 2) := dk_21 4 (dk_at dksL_law_104 5 rfl rfl)
theorem dL_law_2603 : decode cL_law 2603 = .ok (.iconst 1, 1) := dk_4 (dk_at dksL_law_104 7 rfl rfl)
theorem dL_law_2604 : decode cL_law 2604 = .ok (.iadd, 1) := dk_96 (dk_at dksL_law_104 8 rfl rfl)
theorem dL_law_2605 : decode cL_law 2605 = .ok (.iaload, 1) := dk_46 (dk_at dksL_law_104 9 rfl rfl)
theorem dL_law_2606 : decode cL_law 2606 = .ok (.aload_n 0, 1) := dk_42 (dk_at dksL_law_104 10 rfl rfl)
theorem dL_law_2607 : decode cL_law 2607 = .ok (.iload 4, 2) := dk_21 4 (dk_at dksL_law_104 11 rfl rfl)
theorem dL_law_2609 : decode cL_law 2609 = .ok (.iconst 2, 1) := dk_5 (dk_at dksL_law_104 13 rfl rfl)
theorem dL_law_2610 : decode cL_law 2610 = .ok (.iadd, 1) := dk_96 (dk_at dksL_law_104 14 rfl rfl)
theorem dL_law_2611 : decode cL_law 2611 = .ok (.iaload, 1) := dk_46 (dk_at dksL_law_104 15 rfl rfl)
theorem dL_law_2612 : decode cL_law 2612 = .ok (.aload_n 0, 1) := dk_42 (dk_at dksL_law_104 16 rfl rfl)
theorem dL_law_2613 : decode cL_law 2613 = .ok (.iload 4, 2) := dk_21 4 (dk_at dksL_law_104 17 rfl rfl)
theorem dL_law_2615 : decode cL_law 2615 = .ok (.iconst 3, 1) := dk_6 (dk_at dksL_law_104 19 rfl rfl)
theorem dL_law_2616 : decode cL_law 2616 = .ok (.iadd, 1) := dk_96 (dk_at dksL_law_104 20 rfl rfl)
theorem dL_law_2617 : decode cL_law 2617 = .ok (.iaload, 1) := dk_46 (dk_at dksL_law_104 21 rfl rfl)
theorem dL_law_2618 : decode cL_law 2618 = .ok (.aload_n 3, 1) := dk_45 (dk_at dksL_law_104 22 rfl rfl)
theorem dL_law_2619 : decode cL_law 2619 = .ok (.invokestatic 266, 3) := dk_184 1 10 (dk_at dksL_law_105 0 rfl rfl)
theorem dL_law_2622 : decode cL_law 2622 = .ok (.istore 5, 2) := dk_54 5 (dk_at dksL_law_105 3 rfl rfl)
theorem dL_law_2624 : decode cL_law 2624 = .ok (.aload_n 2, 1) := dk_44 (dk_at dksL_law_105 5 rfl rfl)
theorem dL_law_2625 : decode cL_law 2625 = .ok (.aload_n 0, 1) := dk_42 (dk_at dksL_law_105 6 rfl rfl)
theorem dL_law_2626 : decode cL_law 2626 = .ok (.iload 4, 2) := dk_21 4 (dk_at dksL_law_105 7 rfl rfl)
theorem dL_law_2628 : decode cL_law 2628 = .ok (.iconst 1, 1) := dk_4 (dk_at dksL_law_105 9 rfl rfl)
theorem dL_law_2629 : decode cL_law 2629 = .ok (.iadd, 1) := dk_96 (dk_at dksL_law_105 10 rfl rfl)
theorem dL_law_2630 : decode cL_law 2630 = .ok (.iaload, 1) := dk_46 (dk_at dksL_law_105 11 rfl rfl)
theorem dL_law_2631 : decode cL_law 2631 = .ok (.aload_n 0, 1) := dk_42 (dk_at dksL_law_105 12 rfl rfl)
theorem dL_law_2632 : decode cL_law 2632 = .ok (.iload 4, 2) := dk_21 4 (dk_at dksL_law_105 13 rfl rfl)
theorem dL_law_2634 : decode cL_law 2634 = .ok (.iconst 2, 1) := dk_5 (dk_at dksL_law_105 15 rfl rfl)
theorem dL_law_2635 : decode cL_law 2635 = .ok (.iadd, 1) := dk_96 (dk_at dksL_law_105 16 rfl rfl)
theorem dL_law_2636 : decode cL_law 2636 = .ok (.iaload, 1) := dk_46 (dk_at dksL_law_105 17 rfl rfl)
theorem dL_law_2637 : decode cL_law 2637 = .ok (.aload_n 0, 1) := dk_42 (dk_at dksL_law_105 18 rfl rfl)
theorem dL_law_2638 : decode cL_law 2638 = .ok (.iload 4, 2) := dk_21 4 (dk_at dksL_law_105 19 rfl rfl)
theorem dL_law_2640 : decode cL_law 2640 = .ok (.iconst 3, 1) := dk_6 (dk_at dksL_law_105 21 rfl rfl)
theorem dL_law_2641 : decode cL_law 2641 = .ok (.iadd, 1) := dk_96 (dk_at dksL_law_105 22 rfl rfl)
theorem dL_law_2642 : decode cL_law 2642 = .ok (.iaload, 1) := dk_46 (dk_at dksL_law_105 23 rfl rfl)
theorem dL_law_2643 : decode cL_law 2643 = .ok (.invokevirtual 268, 3) := dk_182 1 12 (dk_at dksL_law_106 0 rfl rfl)
theorem dL_law_2646 : decode cL_law 2646 = .ok (.istore 6, 2) := dk_54 6 (dk_at dksL_law_106 3 rfl rfl)
theorem dL_law_2648 : decode cL_law 2648 = .ok (.aload_n 2, 1) := dk_44 (dk_at dksL_law_106 5 rfl rfl)
theorem dL_law_2649 : decode cL_law 2649 = .ok (.invokevirtual 152, 3) := dk_182 0 152 (dk_at dksL_law_106 6 rfl rfl)
theorem dL_law_2652 : decode cL_law 2652 = .ok (.iload 5, 2) := dk_21 5 (dk_at dksL_law_106 9 rfl rfl)
theorem dL_law_2654 : decode cL_law 2654 = .ok (.if_icmp .eq 5, 3) := dk_159 0 5 (dk_at dksL_law_106 11 rfl rfl)
theorem dL_law_2657 : decode cL_law 2657 = .ok (.iconst 0, 1) := dk_3 (dk_at dksL_law_106 14 rfl rfl)
theorem dL_law_2658 : decode cL_law 2658 = .ok (.ireturn, 1) := dk_172 (dk_at dksL_law_106 15 rfl rfl)
theorem dL_law_2659 : decode cL_law 2659 = .ok (.iload 5, 2) := dk_21 5 (dk_at dksL_law_106 16 rfl rfl)
theorem dL_law_2661 : decode cL_law 2661 = .ok (.ifCond .ne 15, 3) := dk_154 0 15 (dk_at dksL_law_106 18 rfl rfl)
theorem dL_law_2664 : decode cL_law 2664 = .ok (.aload_n 3, 1) := dk_45 (dk_at dksL_law_106 21 rfl rfl)
theorem dL_law_2665 : decode cL_law 2665 = .ok (.iconst 0, 1) := dk_3 (dk_at dksL_law_106 22 rfl rfl)
theorem dL_law_2666 : decode cL_law 2666 = .ok (.laload, 1) := dk_47 (dk_at dksL_law_106 23 rfl rfl)
theorem dL_law_2667 : decode cL_law 2667 = .ok (.iload 6, 2) := dk_21 6 (dk_at dksL_law_107 0 rfl rfl)
theorem dL_law_2669 : decode cL_law 2669 = .ok (.i2l, 1) := dk_133 (dk_at dksL_law_107 2 rfl rfl)
theorem dL_law_2670 : decode cL_law 2670 = .ok (.lcmp, 1) := dk_148 (dk_at dksL_law_107 3 rfl rfl)
theorem dL_law_2671 : decode cL_law 2671 = .ok (.ifCond .eq 5, 3) := dk_153 0 5 (dk_at dksL_law_107 4 rfl rfl)
theorem dL_law_2674 : decode cL_law 2674 = .ok (.iconst 0, 1) := dk_3 (dk_at dksL_law_107 7 rfl rfl)
theorem dL_law_2675 : decode cL_law 2675 = .ok (.ireturn, 1) := dk_172 (dk_at dksL_law_107 8 rfl rfl)
theorem dL_law_2676 : decode cL_law 2676 = .ok (.goto 156, 3) := dk_167 0 156 (dk_at dksL_law_107 9 rfl rfl)
theorem dL_law_2679 : decode cL_law 2679 = .ok (.aload_n 1, 1) := dk_43 (dk_at dksL_law_107 12 rfl rfl)
theorem dL_law_2680 : decode cL_law 2680 = .ok (.aload_n 0, 1) := dk_42 (dk_at dksL_law_107 13 rfl rfl)
theorem dL_law_2681 : decode cL_law 2681 = .ok (.iload 4, 2) := dk_21 4 (dk_at dksL_law_107 14 rfl rfl)
theorem dL_law_2683 : decode cL_law 2683 = .ok (.iconst 1, 1) := dk_4 (dk_at dksL_law_107 16 rfl rfl)
theorem dL_law_2684 : decode cL_law 2684 = .ok (.iadd, 1) := dk_96 (dk_at dksL_law_107 17 rfl rfl)
theorem dL_law_2685 : decode cL_law 2685 = .ok (.iaload, 1) := dk_46 (dk_at dksL_law_107 18 rfl rfl)
theorem dL_law_2686 : decode cL_law 2686 = .ok (.aload_n 0, 1) := dk_42 (dk_at dksL_law_107 19 rfl rfl)
theorem dL_law_2687 : decode cL_law 2687 = .ok (.iload 4, 2) := dk_21 4 (dk_at dksL_law_107 20 rfl rfl)
theorem dL_law_2689 : decode cL_law 2689 = .ok (.iconst 2, 1) := dk_5 (dk_at dksL_law_107 22 rfl rfl)
theorem dL_law_2690 : decode cL_law 2690 = .ok (.iadd, 1) := dk_96 (dk_at dksL_law_107 23 rfl rfl)
theorem dL_law_2691 : decode cL_law 2691 = .ok (.iaload, 1) := dk_46 (dk_at dksL_law_108 0 rfl rfl)
theorem dL_law_2692 : decode cL_law 2692 = .ok (.aload_n 0, 1) := dk_42 (dk_at dksL_law_108 1 rfl rfl)
theorem dL_law_2693 : decode cL_law 2693 = .ok (.iload 4, 2) := dk_21 4 (dk_at dksL_law_108 2 rfl rfl)
theorem dL_law_2695 : decode cL_law 2695 = .ok (.iconst 3, 1) := dk_6 (dk_at dksL_law_108 4 rfl rfl)
theorem dL_law_2696 : decode cL_law 2696 = .ok (.iadd, 1) := dk_96 (dk_at dksL_law_108 5 rfl rfl)
theorem dL_law_2697 : decode cL_law 2697 = .ok (.iaload, 1) := dk_46 (dk_at dksL_law_108 6 rfl rfl)
theorem dL_law_2698 : decode cL_law 2698 = .ok (.aload_n 0, 1) := dk_42 (dk_at dksL_law_108 7 rfl rfl)
theorem dL_law_2699 : decode cL_law 2699 = .ok (.iload 4, 2) := dk_21 4 (dk_at dksL_law_108 8 rfl rfl)
theorem dL_law_2701 : decode cL_law 2701 = .ok (.iconst 4, 1) := dk_7 (dk_at dksL_law_108 10 rfl rfl)
theorem dL_law_2702 : decode cL_law 2702 = .ok (.iadd, 1) := dk_96 (dk_at dksL_law_108 11 rfl rfl)
theorem dL_law_2703 : decode cL_law 2703 = .ok (.iaload, 1) := dk_46 (dk_at dksL_law_108 12 rfl rfl)
theorem dL_law_2704 : decode cL_law 2704 = .ok (.aload_n 0, 1) := dk_42 (dk_at dksL_law_108 13 rfl rfl)
theorem dL_law_2705 : decode cL_law 2705 = .ok (.iload 4, 2) := dk_21 4 (dk_at dksL_law_108 14 rfl rfl)
theorem dL_law_2707 : decode cL_law 2707 = .ok (.iconst 5, 1) := dk_8 (dk_at dksL_law_108 16 rfl rfl)
theorem dL_law_2708 : decode cL_law 2708 = .ok (.iadd, 1) := dk_96 (dk_at dksL_law_108 17 rfl rfl)
theorem dL_law_2709 : decode cL_law 2709 = .ok (.iaload, 1) := dk_46 (dk_at dksL_law_108 18 rfl rfl)
theorem dL_law_2710 : decode cL_law 2710 = .ok (.aload_n 3, 1) := dk_45 (dk_at dksL_law_108 19 rfl rfl)
theorem dL_law_2711 : decode cL_law 2711 = .ok (.invokestatic 269, 3) := dk_184 1 13 (dk_at dksL_law_108 20 rfl rfl)
theorem dL_law_2714 : decode cL_law 2714 = .ok (.istore 5, 2) := dk_54 5 (dk_at dksL_law_109 0 rfl rfl)
theorem dL_law_2716 : decode cL_law 2716 = .ok (.aload_n 2, 1) := dk_44 (dk_at dksL_law_109 2 rfl rfl)
theorem dL_law_2717 : decode cL_law 2717 = .ok (.aload_n 0, 1) := dk_42 (dk_at dksL_law_109 3 rfl rfl)
theorem dL_law_2718 : decode cL_law 2718 = .ok (.iload 4, 2) := dk_21 4 (dk_at dksL_law_109 4 rfl rfl)
theorem dL_law_2720 : decode cL_law 2720 = .ok (.iconst 1, 1) := dk_4 (dk_at dksL_law_109 6 rfl rfl)
theorem dL_law_2721 : decode cL_law 2721 = .ok (.iadd, 1) := dk_96 (dk_at dksL_law_109 7 rfl rfl)
theorem dL_law_2722 : decode cL_law 2722 = .ok (.iaload, 1) := dk_46 (dk_at dksL_law_109 8 rfl rfl)
theorem dL_law_2723 : decode cL_law 2723 = .ok (.aload_n 0, 1) := dk_42 (dk_at dksL_law_109 9 rfl rfl)
theorem dL_law_2724 : decode cL_law 2724 = .ok (.iload 4, 2) := dk_21 4 (dk_at dksL_law_109 10 rfl rfl)
theorem dL_law_2726 : decode cL_law 2726 = .ok (.iconst 2, 1) := dk_5 (dk_at dksL_law_109 12 rfl rfl)
theorem dL_law_2727 : decode cL_law 2727 = .ok (.iadd, 1) := dk_96 (dk_at dksL_law_109 13 rfl rfl)
theorem dL_law_2728 : decode cL_law 2728 = .ok (.iaload, 1) := dk_46 (dk_at dksL_law_109 14 rfl rfl)
theorem dL_law_2729 : decode cL_law 2729 = .ok (.aload_n 0, 1) := dk_42 (dk_at dksL_law_109 15 rfl rfl)
theorem dL_law_2730 : decode cL_law 2730 = .ok (.iload 4, 2) := dk_21 4 (dk_at dksL_law_109 16 rfl rfl)
theorem dL_law_2732 : decode cL_law 2732 = .ok (.iconst 3, 1) := dk_6 (dk_at dksL_law_109 18 rfl rfl)
theorem dL_law_2733 : decode cL_law 2733 = .ok (.iadd, 1) := dk_96 (dk_at dksL_law_109 19 rfl rfl)
theorem dL_law_2734 : decode cL_law 2734 = .ok (.iaload, 1) := dk_46 (dk_at dksL_law_109 20 rfl rfl)
theorem dL_law_2735 : decode cL_law 2735 = .ok (.aload_n 0, 1) := dk_42 (dk_at dksL_law_109 21 rfl rfl)
theorem dL_law_2736 : decode cL_law 2736 = .ok (.iload 4, 2) := dk_21 4 (dk_at dksL_law_109 22 rfl rfl)
theorem dL_law_2738 : decode cL_law 2738 = .ok (.iconst 4, 1) := dk_7 (dk_at dksL_law_110 0 rfl rfl)
theorem dL_law_2739 : decode cL_law 2739 = .ok (.iadd, 1) := dk_96 (dk_at dksL_law_110 1 rfl rfl)
theorem dL_law_2740 : decode cL_law 2740 = .ok (.iaload, 1) := dk_46 (dk_at dksL_law_110 2 rfl rfl)
theorem dL_law_2741 : decode cL_law 2741 = .ok (.aload_n 0, 1) := dk_42 (dk_at dksL_law_110 3 rfl rfl)
theorem dL_law_2742 : decode cL_law 2742 = .ok (.iload 4, 2) := dk_21 4 (dk_at dksL_law_110 4 rfl rfl)
theorem dL_law_2744 : decode cL_law 2744 = .ok (.iconst 5, 1) := dk_8 (dk_at dksL_law_110 6 rfl rfl)
theorem dL_law_2745 : decode cL_law 2745 = .ok (.iadd, 1) := dk_96 (dk_at dksL_law_110 7 rfl rfl)
theorem dL_law_2746 : decode cL_law 2746 = .ok (.iaload, 1) := dk_46 (dk_at dksL_law_110 8 rfl rfl)
theorem dL_law_2747 : decode cL_law 2747 = .ok (.invokevirtual 272, 3) := dk_182 1 16 (dk_at dksL_law_110 9 rfl rfl)
theorem dL_law_2750 : decode cL_law 2750 = .ok (.istore 6, 2) := dk_54 6 (dk_at dksL_law_110 12 rfl rfl)
theorem dL_law_2752 : decode cL_law 2752 = .ok (.aload_n 2, 1) := dk_44 (dk_at dksL_law_110 14 rfl rfl)
theorem dL_law_2753 : decode cL_law 2753 = .ok (.invokevirtual 152, 3) := dk_182 0 152 (dk_at dksL_law_110 15 rfl rfl)
theorem dL_law_2756 : decode cL_law 2756 = .ok (.iload 5, 2) := dk_21 5 (dk_at dksL_law_110 18 rfl rfl)
theorem dL_law_2758 : decode cL_law 2758 = .ok (.if_icmp .eq 5, 3) := dk_159 0 5 (dk_at dksL_law_110 20 rfl rfl)
theorem dL_law_2761 : decode cL_law 2761 = .ok (.iconst 0, 1) := dk_3 (dk_at dksL_law_110 23 rfl rfl)
theorem dL_law_2762 : decode cL_law 2762 = .ok (.ireturn, 1) := dk_172 (dk_at dksL_law_111 0 rfl rfl)
theorem dL_law_2763 : decode cL_law 2763 = .ok (.iload 5, 2) := dk_21 5 (dk_at dksL_law_111 1 rfl rfl)
theorem dL_law_2765 : decode cL_law 2765 = .ok (.ifCond .ne 15, 3) := dk_154 0 15 (dk_at dksL_law_111 3 rfl rfl)
theorem dL_law_2768 : decode cL_law 2768 = .ok (.aload_n 3, 1) := dk_45 (dk_at dksL_law_111 6 rfl rfl)
theorem dL_law_2769 : decode cL_law 2769 = .ok (.iconst 0, 1) := dk_3 (dk_at dksL_law_111 7 rfl rfl)
theorem dL_law_2770 : decode cL_law 2770 = .ok (.laload, 1) := dk_47 (dk_at dksL_law_111 8 rfl rfl)
theorem dL_law_2771 : decode cL_law 2771 = .ok (.iload 6, 2) := dk_21 6 (dk_at dksL_law_111 9 rfl rfl)
theorem dL_law_2773 : decode cL_law 2773 = .ok (.i2l, 1) := dk_133 (dk_at dksL_law_111 11 rfl rfl)
theorem dL_law_2774 : decode cL_law 2774 = .ok (.lcmp, 1) := dk_148 (dk_at dksL_law_111 12 rfl rfl)
theorem dL_law_2775 : decode cL_law 2775 = .ok (.ifCond .eq 5, 3) := dk_153 0 5 (dk_at dksL_law_111 13 rfl rfl)
theorem dL_law_2778 : decode cL_law 2778 = .ok (.iconst 0, 1) := dk_3 (dk_at dksL_law_111 16 rfl rfl)
theorem dL_law_2779 : decode cL_law 2779 = .ok (.ireturn, 1) := dk_172 (dk_at dksL_law_111 17 rfl rfl)
theorem dL_law_2780 : decode cL_law 2780 = .ok (.goto 52, 3) := dk_167 0 52 (dk_at dksL_law_111 18 rfl rfl)
theorem dL_law_2783 : decode cL_law 2783 = .ok (.aload_n 1, 1) := dk_43 (dk_at dksL_law_111 21 rfl rfl)
theorem dL_law_2784 : decode cL_law 2784 = .ok (.invokevirtual 273, 3) := dk_182 1 17 (dk_at dksL_law_112 0 rfl rfl)
theorem dL_law_2787 : decode cL_law 2787 = .ok (.aload_n 2, 1) := dk_44 (dk_at dksL_law_112 3 rfl rfl)
theorem dL_law_2788 : decode cL_law 2788 = .ok (.invokevirtual 276, 3) := dk_182 1 20 (dk_at dksL_law_112 4 rfl rfl)
theorem dL_law_2791 : decode cL_law 2791 = .ok (.goto 41, 3) := dk_167 0 41 (dk_at dksL_law_112 7 rfl rfl)
theorem dL_law_2794 : decode cL_law 2794 = .ok (.aload_n 1, 1) := dk_43 (dk_at dksL_law_112 10 rfl rfl)
theorem dL_law_2795 : decode cL_law 2795 = .ok (.invokevirtual 277, 3) := dk_182 1 21 (dk_at dksL_law_112 11 rfl rfl)
theorem dL_law_2798 : decode cL_law 2798 = .ok (.aload_n 2, 1) := dk_44 (dk_at dksL_law_112 14 rfl rfl)
theorem dL_law_2799 : decode cL_law 2799 = .ok (.invokevirtual 281, 3) := dk_182 1 25 (dk_at dksL_law_112 15 rfl rfl)
theorem dL_law_2802 : decode cL_law 2802 = .ok (.if_icmp .eq 30, 3) := dk_159 0 30 (dk_at dksL_law_112 18 rfl rfl)
theorem dL_law_2805 : decode cL_law 2805 = .ok (.iconst 0, 1) := dk_3 (dk_at dksL_law_112 21 rfl rfl)
theorem dL_law_2806 : decode cL_law 2806 = .ok (.ireturn, 1) := dk_172 (dk_at dksL_law_112 22 rfl rfl)
theorem dL_law_2807 : decode cL_law 2807 = .ok (.aload_n 1, 1) := dk_43 (dk_at dksL_law_112 23 rfl rfl)
theorem dL_law_2808 : decode cL_law 2808 = .ok (.aload_n 0, 1) := dk_42 (dk_at dksL_law_113 0 rfl rfl)
theorem dL_law_2809 : decode cL_law 2809 = .ok (.iload 4, 2) := dk_21 4 (dk_at dksL_law_113 1 rfl rfl)
theorem dL_law_2811 : decode cL_law 2811 = .ok (.iconst 1, 1) := dk_4 (dk_at dksL_law_113 3 rfl rfl)
theorem dL_law_2812 : decode cL_law 2812 = .ok (.iadd, 1) := dk_96 (dk_at dksL_law_113 4 rfl rfl)
theorem dL_law_2813 : decode cL_law 2813 = .ok (.iaload, 1) := dk_46 (dk_at dksL_law_113 5 rfl rfl)
theorem dL_law_2814 : decode cL_law 2814 = .ok (.invokevirtual 282, 3) := dk_182 1 26 (dk_at dksL_law_113 6 rfl rfl)
theorem dL_law_2817 : decode cL_law 2817 = .ok (.aload_n 2, 1) := dk_44 (dk_at dksL_law_113 9 rfl rfl)
theorem dL_law_2818 : decode cL_law 2818 = .ok (.aload_n 0, 1) := dk_42 (dk_at dksL_law_113 10 rfl rfl)
theorem dL_law_2819 : decode cL_law 2819 = .ok (.iload 4, 2) := dk_21 4 (dk_at dksL_law_113 11 rfl rfl)
theorem dL_law_2821 : decode cL_law 2821 = .ok (.iconst 1, 1) := dk_4 (dk_at dksL_law_113 13 rfl rfl)
theorem dL_law_2822 : decode cL_law 2822 = .ok (.iadd, 1) := dk_96 (dk_at dksL_law_113 14 rfl rfl)
theorem dL_law_2823 : decode cL_law 2823 = .ok (.iaload, 1) := dk_46 (dk_at dksL_law_113 15 rfl rfl)
theorem dL_law_2824 : decode cL_law 2824 = .ok (.invokevirtual 285, 3) := dk_182 1 29 (dk_at dksL_law_113 16 rfl rfl)
theorem dL_law_2827 : decode cL_law 2827 = .ok (.if_icmp .eq 5, 3) := dk_159 0 5 (dk_at dksL_law_113 19 rfl rfl)
theorem dL_law_2830 : decode cL_law 2830 = .ok (.iconst 0, 1) := dk_3 (dk_at dksL_law_113 22 rfl rfl)
theorem dL_law_2831 : decode cL_law 2831 = .ok (.ireturn, 1) := dk_172 (dk_at dksL_law_113 23 rfl rfl)
theorem dL_law_2832 : decode cL_law 2832 = .ok (.iinc 4 6, 3) := dk_132 4 6 (dk_at dksL_law_114 0 rfl rfl)
theorem dL_law_2835 : decode cL_law 2835 = .ok (.goto (-2812), 3) := dk_167 245 4 (dk_at dksL_law_114 3 rfl rfl)
theorem dL_law_2838 : decode cL_law 2838 = .ok (.iconst 1, 1) := dk_4 (dk_at dksL_law_114 6 rfl rfl)
theorem dL_law_2839 : decode cL_law 2839 = .ok (.ireturn, 1) := dk_172 (dk_at dksL_law_114 7 rfl rfl)
