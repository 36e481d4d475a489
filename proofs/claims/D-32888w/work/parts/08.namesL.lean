/-! ScrutineeryLaw -/
set_option maxRecDepth 100000
def RX0 : String := "ScrutineeryLaw"
abbrev cX0_pass : ByteArray := method_3_code
def yX0_pass : MethodName := ⟨RX0, "pass", "(LScrutineery;I[J)I"⟩
def dkwX0_pass_0 : List UInt8 := [44, 3, 42, 27, 182, 0, 7, 133, 80, 167, 0, 9, 78, 4, 172, 78, 5, 172, 3, 172]
abbrev dktX0_pass_0 : List UInt8 := dkwX0_pass_0 ++ []
theorem dksX0_pass_0 : cX0_pass.data.toList.drop 0 = dktX0_pass_0 := by decide +kernel
theorem dX0_pass_0 : decode cX0_pass 0 = .ok (.aload_n 2, 1) := dk_44 (dk_at dksX0_pass_0 0 rfl rfl)
theorem dX0_pass_1 : decode cX0_pass 1 = .ok (.iconst 0, 1) := dk_3 (dk_at dksX0_pass_0 1 rfl rfl)
theorem dX0_pass_2 : decode cX0_pass 2 = .ok (.aload_n 0, 1) := dk_42 (dk_at dksX0_pass_0 2 rfl rfl)
theorem dX0_pass_3 : decode cX0_pass 3 = .ok (.iload_n 1, 1) := dk_27 (dk_at dksX0_pass_0 3 rfl rfl)
theorem dX0_pass_4 : decode cX0_pass 4 = .ok (.invokevirtual 7, 3) := dk_182 0 7 (dk_at dksX0_pass_0 4 rfl rfl)
theorem dX0_pass_7 : decode cX0_pass 7 = .ok (.i2l, 1) := dk_133 (dk_at dksX0_pass_0 7 rfl rfl)
theorem dX0_pass_8 : decode cX0_pass 8 = .ok (.lastore, 1) := dk_80 (dk_at dksX0_pass_0 8 rfl rfl)
theorem dX0_pass_9 : decode cX0_pass 9 = .ok (.goto 9, 3) := dk_167 0 9 (dk_at dksX0_pass_0 9 rfl rfl)
theorem dX0_pass_12 : decode cX0_pass 12 = .ok (.astore_n 3, 1) := dk_78 (dk_at dksX0_pass_0 12 rfl rfl)
theorem dX0_pass_13 : decode cX0_pass 13 = .ok (.iconst 1, 1) := dk_4 (dk_at dksX0_pass_0 13 rfl rfl)
theorem dX0_pass_14 : decode cX0_pass 14 = .ok (.ireturn, 1) := dk_172 (dk_at dksX0_pass_0 14 rfl rfl)
theorem dX0_pass_15 : decode cX0_pass 15 = .ok (.astore_n 3, 1) := dk_78 (dk_at dksX0_pass_0 15 rfl rfl)
theorem dX0_pass_16 : decode cX0_pass 16 = .ok (.iconst 2, 1) := dk_5 (dk_at dksX0_pass_0 16 rfl rfl)
theorem dX0_pass_17 : decode cX0_pass 17 = .ok (.ireturn, 1) := dk_172 (dk_at dksX0_pass_0 17 rfl rfl)
theorem dX0_pass_18 : decode cX0_pass 18 = .ok (.iconst 0, 1) := dk_3 (dk_at dksX0_pass_0 18 rfl rfl)
theorem dX0_pass_19 : decode cX0_pass 19 = .ok (.ireturn, 1) := dk_172 (dk_at dksX0_pass_0 19 rfl rfl)
abbrev cX0_person : ByteArray := method_4_code
def yX0_person : MethodName := ⟨RX0, "person", "(LScrutineery;I[J)I"⟩
def dkwX0_person_0 : List UInt8 := [44, 3, 42, 27, 182, 0, 17, 133, 80, 167, 0, 9, 78, 4, 172, 78, 5, 172, 3, 172]
abbrev dktX0_person_0 : List UInt8 := dkwX0_person_0 ++ []
theorem dksX0_person_0 : cX0_person.data.toList.drop 0 = dktX0_person_0 := by decide +kernel
theorem dX0_person_0 : decode cX0_person 0 = .ok (.aload_n 2, 1) := dk_44 (dk_at dksX0_person_0 0 rfl rfl)
theorem dX0_person_1 : decode cX0_person 1 = .ok (.iconst 0, 1) := dk_3 (dk_at dksX0_person_0 1 rfl rfl)
theorem dX0_person_2 : decode cX0_person 2 = .ok (.aload_n 0, 1) := dk_42 (dk_at dksX0_person_0 2 rfl rfl)
theorem dX0_person_3 : decode cX0_person 3 = .ok (.iload_n 1, 1) := dk_27 (dk_at dksX0_person_0 3 rfl rfl)
theorem dX0_person_4 : decode cX0_person 4 = .ok (.invokevirtual 17, 3) := dk_182 0 17 (dk_at dksX0_person_0 4 rfl rfl)
theorem dX0_person_7 : decode cX0_person 7 = .ok (.i2l, 1) := dk_133 (dk_at dksX0_person_0 7 rfl rfl)
theorem dX0_person_8 : decode cX0_person 8 = .ok (.lastore, 1) := dk_80 (dk_at dksX0_person_0 8 rfl rfl)
theorem dX0_person_9 : decode cX0_person 9 = .ok (.goto 9, 3) := dk_167 0 9 (dk_at dksX0_person_0 9 rfl rfl)
theorem dX0_person_12 : decode cX0_person 12 = .ok (.astore_n 3, 1) := dk_78 (dk_at dksX0_person_0 12 rfl rfl)
theorem dX0_person_13 : decode cX0_person 13 = .ok (.iconst 1, 1) := dk_4 (dk_at dksX0_person_0 13 rfl rfl)
theorem dX0_person_14 : decode cX0_person 14 = .ok (.ireturn, 1) := dk_172 (dk_at dksX0_person_0 14 rfl rfl)
theorem dX0_person_15 : decode cX0_person 15 = .ok (.astore_n 3, 1) := dk_78 (dk_at dksX0_person_0 15 rfl rfl)
theorem dX0_person_16 : decode cX0_person 16 = .ok (.iconst 2, 1) := dk_5 (dk_at dksX0_person_0 16 rfl rfl)
theorem dX0_person_17 : decode cX0_person 17 = .ok (.ireturn, 1) := dk_172 (dk_at dksX0_person_0 17 rfl rfl)
theorem dX0_person_18 : decode cX0_person 18 = .ok (.iconst 0, 1) := dk_3 (dk_at dksX0_person_0 18 rfl rfl)
theorem dX0_person_19 : decode cX0_person 19 = .ok (.ireturn, 1) := dk_172 (dk_at dksX0_person_0 19 rfl rfl)
abbrev cX0_licence : ByteArray := method_5_code
def yX0_licence : MethodName := ⟨RX0, "licence", "(LScrutineery;II[J)I"⟩
def dkwX0_licence_0 : List UInt8 := [45, 3, 42, 27, 28, 182, 0, 20, 133, 80, 167, 0, 11, 58, 4, 4, 172, 58, 4, 5, 172, 3, 172]
abbrev dktX0_licence_0 : List UInt8 := dkwX0_licence_0 ++ []
theorem dksX0_licence_0 : cX0_licence.data.toList.drop 0 = dktX0_licence_0 := by decide +kernel
theorem dX0_licence_0 : decode cX0_licence 0 = .ok (.aload_n 3, 1) := dk_45 (dk_at dksX0_licence_0 0 rfl rfl)
theorem dX0_licence_1 : decode cX0_licence 1 = .ok (.iconst 0, 1) := dk_3 (dk_at dksX0_licence_0 1 rfl rfl)
theorem dX0_licence_2 : decode cX0_licence 2 = .ok (.aload_n 0, 1) := dk_42 (dk_at dksX0_licence_0 2 rfl rfl)
theorem dX0_licence_3 : decode cX0_licence 3 = .ok (.iload_n 1, 1) := dk_27 (dk_at dksX0_licence_0 3 rfl rfl)
theorem dX0_licence_4 : decode cX0_licence 4 = .ok (.iload_n 2, 1) := dk_28 (dk_at dksX0_licence_0 4 rfl rfl)
theorem dX0_licence_5 : decode cX0_licence 5 = .ok (.invokevirtual 20, 3) := dk_182 0 20 (dk_at dksX0_licence_0 5 rfl rfl)
theorem dX0_licence_8 : decode cX0_licence 8 = .ok (.i2l, 1) := dk_133 (dk_at dksX0_licence_0 8 rfl rfl)
theorem dX0_licence_9 : decode cX0_licence 9 = .ok (.lastore, 1) := dk_80 (dk_at dksX0_licence_0 9 rfl rfl)
theorem dX0_licence_10 : decode cX0_licence 10 = .ok (.goto 11, 3) := dk_167 0 11 (dk_at dksX0_licence_0 10 rfl rfl)
theorem dX0_licence_13 : decode cX0_licence 13 = .ok (.astore 4, 2) := dk_58 4 (dk_at dksX0_licence_0 13 rfl rfl)
theorem dX0_licence_15 : decode cX0_licence 15 = .ok (.iconst 1, 1) := dk_4 (dk_at dksX0_licence_0 15 rfl rfl)
theorem dX0_licence_16 : decode cX0_licence 16 = .ok (.ireturn, 1) := dk_172 (dk_at dksX0_licence_0 16 rfl rfl)
theorem dX0_licence_17 : decode cX0_licence 17 = .ok (.astore 4, 2) := dk_58 4 (dk_at dksX0_licence_0 17 rfl rfl)
theorem dX0_licence_19 : decode cX0_licence 19 = .ok (.iconst 2, 1) := dk_5 (dk_at dksX0_licence_0 19 rfl rfl)
theorem dX0_licence_20 : decode cX0_licence 20 = .ok (.ireturn, 1) := dk_172 (dk_at dksX0_licence_0 20 rfl rfl)
theorem dX0_licence_21 : decode cX0_licence 21 = .ok (.iconst 0, 1) := dk_3 (dk_at dksX0_licence_0 21 rfl rfl)
theorem dX0_licence_22 : decode cX0_licence 22 = .ok (.ireturn, 1) := dk_172 (dk_at dksX0_licence_0 22 rfl rfl)
abbrev cX0_kin : ByteArray := method_6_code
def yX0_kin : MethodName := ⟨RX0, "kin", "(LScrutineery;II[J)I"⟩
def dkwX0_kin_1 : List UInt8 := [58, 4, 5, 172, 3, 172]
abbrev dktX0_kin_1 : List UInt8 := dkwX0_kin_1 ++ []
def dkwX0_kin_0 : List UInt8 := [45, 3, 42, 27, 28, 182, 0, 26, 153, 0, 7, 10, 167, 0, 4, 9, 80, 167, 0, 11, 58, 4, 4, 172]
abbrev dktX0_kin_0 : List UInt8 := dkwX0_kin_0 ++ dktX0_kin_1
theorem dksX0_kin_0 : cX0_kin.data.toList.drop 0 = dktX0_kin_0 := by decide +kernel
theorem dksX0_kin_1 : cX0_kin.data.toList.drop 24 = dktX0_kin_1 := dk_seg dksX0_kin_0 24 rfl rfl
theorem dX0_kin_0 : decode cX0_kin 0 = .ok (.aload_n 3, 1) := dk_45 (dk_at dksX0_kin_0 0 rfl rfl)
theorem dX0_kin_1 : decode cX0_kin 1 = .ok (.iconst 0, 1) := dk_3 (dk_at dksX0_kin_0 1 rfl rfl)
theorem dX0_kin_2 : decode cX0_kin 2 = .ok (.aload_n 0, 1) := dk_42 (dk_at dksX0_kin_0 2 rfl rfl)
theorem dX0_kin_3 : decode cX0_kin 3 = .ok (.iload_n 1, 1) := dk_27 (dk_at dksX0_kin_0 3 rfl rfl)
theorem dX0_kin_4 : decode cX0_kin 4 = .ok (.iload_n 2, 1) := dk_28 (dk_at dksX0_kin_0 4 rfl rfl)
theorem dX0_kin_5 : decode cX0_kin 5 = .ok (.invokevirtual 26, 3) := dk_182 0 26 (dk_at dksX0_kin_0 5 rfl rfl)
theorem dX0_kin_8 : decode cX0_kin 8 = .ok (.ifCond .eq 7, 3) := dk_153 0 7 (dk_at dksX0_kin_0 8 rfl rfl)
theorem dX0_kin_11 : decode cX0_kin 11 = .ok (.lconst 1, 1) := dk_10 (dk_at dksX0_kin_0 11 rfl rfl)
theorem dX0_kin_12 : decode cX0_kin 12 = .ok (.goto 4, 3) := dk_167 0 4 (dk_at dksX0_kin_0 12 rfl rfl)
theorem dX0_kin_15 : decode cX0_kin 15 = .ok (.lconst 0, 1) := dk_9 (dk_at dksX0_kin_0 15 rfl rfl)
theorem dX0_kin_16 : decode cX0_kin 16 = .ok (.lastore, 1) := dk_80 (dk_at dksX0_kin_0 16 rfl rfl)
theorem dX0_kin_17 : decode cX0_kin 17 = .ok (.goto 11, 3) := dk_167 0 11 (dk_at dksX0_kin_0 17 rfl rfl)
theorem dX0_kin_20 : decode cX0_kin 20 = .ok (.astore 4, 2) := dk_58 4 (dk_at dksX0_kin_0 20 rfl rfl)
theorem dX0_kin_22 : decode cX0_kin 22 = .ok (.iconst 1, 1) := dk_4 (dk_at dksX0_kin_0 22 rfl rfl)
theorem dX0_kin_23 : decode cX0_kin 23 = .ok (.ireturn, 1) := dk_172 (dk_at dksX0_kin_0 23 rfl rfl)
theorem dX0_kin_24 : decode cX0_kin 24 = .ok (.astore 4, 2) := dk_58 4 (dk_at dksX0_kin_1 0 rfl rfl)
theorem dX0_kin_26 : decode cX0_kin 26 = .ok (.iconst 2, 1) := dk_5 (dk_at dksX0_kin_1 2 rfl rfl)
theorem dX0_kin_27 : decode cX0_kin 27 = .ok (.ireturn, 1) := dk_172 (dk_at dksX0_kin_1 3 rfl rfl)
theorem dX0_kin_28 : decode cX0_kin 28 = .ok (.iconst 0, 1) := dk_3 (dk_at dksX0_kin_1 4 rfl rfl)
theorem dX0_kin_29 : decode cX0_kin 29 = .ok (.ireturn, 1) := dk_172 (dk_at dksX0_kin_1 5 rfl rfl)
abbrev cX0_lesson : ByteArray := method_7_code
def yX0_lesson : MethodName := ⟨RX0, "lesson", "(LScrutineery;II[J)I"⟩
def dkwX0_lesson_1 : List UInt8 := [58, 4, 5, 172, 58, 4, 6, 172, 3, 172]
abbrev dktX0_lesson_1 : List UInt8 := dkwX0_lesson_1 ++ []
def dkwX0_lesson_0 : List UInt8 := [45, 3, 42, 27, 28, 182, 0, 30, 153, 0, 7, 10, 167, 0, 4, 9, 80, 167, 0, 15, 58, 4, 4, 172]
abbrev dktX0_lesson_0 : List UInt8 := dkwX0_lesson_0 ++ dktX0_lesson_1
theorem dksX0_lesson_0 : cX0_lesson.data.toList.drop 0 = dktX0_lesson_0 := by decide +kernel
theorem dksX0_lesson_1 : cX0_lesson.data.toList.drop 24 = dktX0_lesson_1 := dk_seg dksX0_lesson_0 24 rfl rfl
theorem dX0_lesson_0 : decode cX0_lesson 0 = .ok (.aload_n 3, 1) := dk_45 (dk_at dksX0_lesson_0 0 rfl rfl)
theorem dX0_lesson_1 : decode cX0_lesson 1 = .ok (.iconst 0, 1) := dk_3 (dk_at dksX0_lesson_0 1 rfl rfl)
theorem dX0_lesson_2 : decode cX0_lesson 2 = .ok (.aload_n 0, 1) := dk_42 (dk_at dksX0_lesson_0 2 rfl rfl)
theorem dX0_lesson_3 : decode cX0_lesson 3 = .ok (.iload_n 1, 1) := dk_27 (dk_at dksX0_lesson_0 3 rfl rfl)
theorem dX0_lesson_4 : decode cX0_lesson 4 = .ok (.iload_n 2, 1) := dk_28 (dk_at dksX0_lesson_0 4 rfl rfl)
theorem dX0_lesson_5 : decode cX0_lesson 5 = .ok (.invokevirtual 30, 3) := dk_182 0 30 (dk_at dksX0_lesson_0 5 rfl rfl)
theorem dX0_lesson_8 : decode cX0_lesson 8 = .ok (.ifCond .eq 7, 3) := dk_153 0 7 (dk_at dksX0_lesson_0 8 rfl rfl)
theorem dX0_lesson_11 : decode cX0_lesson 11 = .ok (.lconst 1, 1) := dk_10 (dk_at dksX0_lesson_0 11 rfl rfl)
theorem dX0_lesson_12 : decode cX0_lesson 12 = .ok (.goto 4, 3) := dk_167 0 4 (dk_at dksX0_lesson_0 12 rfl rfl)
theorem dX0_lesson_15 : decode cX0_lesson 15 = .ok (.lconst 0, 1) := dk_9 (dk_at dksX0_lesson_0 15 rfl rfl)
theorem dX0_lesson_16 : decode cX0_lesson 16 = .ok (.lastore, 1) := dk_80 (dk_at dksX0_lesson_0 16 rfl rfl)
theorem dX0_lesson_17 : decode cX0_lesson 17 = .ok (.goto 15, 3) := dk_167 0 15 (dk_at dksX0_lesson_0 17 rfl rfl)
theorem dX0_lesson_20 : decode cX0_lesson 20 = .ok (.astore 4, 2) := dk_58 4 (dk_at dksX0_lesson_0 20 rfl rfl)
theorem dX0_lesson_22 : decode cX0_lesson 22 = .ok (.iconst 1, 1) := dk_4 (dk_at dksX0_lesson_0 22 rfl rfl)
theorem dX0_lesson_23 : decode cX0_lesson 23 = .ok (.ireturn, 1) := dk_172 (dk_at dksX0_lesson_0 23 rfl rfl)
theorem dX0_lesson_24 : decode cX0_lesson 24 = .ok (.astore 4, 2) := dk_58 4 (dk_at dksX0_lesson_1 0 rfl rfl)
theorem dX0_lesson_26 : decode cX0_lesson 26 = .ok (.iconst 2, 1) := dk_5 (dk_at dksX0_lesson_1 2 rfl rfl)
theorem dX0_lesson_27 : decode cX0_lesson 27 = .ok (.ireturn, 1) := dk_172 (dk_at dksX0_lesson_1 3 rfl rfl)
theorem dX0_lesson_28 : decode cX0_lesson 28 = .ok (.astore 4, 2) := dk_58 4 (dk_at dksX0_lesson_1 4 rfl rfl)
theorem dX0_lesson_30 : decode cX0_lesson 30 = .ok (.iconst 3, 1) := dk_6 (dk_at dksX0_lesson_1 6 rfl rfl)
theorem dX0_lesson_31 : decode cX0_lesson 31 = .ok (.ireturn, 1) := dk_172 (dk_at dksX0_lesson_1 7 rfl rfl)
theorem dX0_lesson_32 : decode cX0_lesson 32 = .ok (.iconst 0, 1) := dk_3 (dk_at dksX0_lesson_1 8 rfl rfl)
theorem dX0_lesson_33 : decode cX0_lesson 33 = .ok (.ireturn, 1) := dk_172 (dk_at dksX0_lesson_1 9 rfl rfl)
abbrev cX0_suspend : ByteArray := method_8_code
def yX0_suspend : MethodName := ⟨RX0, "suspend", "(LScrutineery;II[J)I"⟩
def dkwX0_suspend_0 : List UInt8 := [45, 3, 42, 27, 28, 182, 0, 33, 133, 80, 167, 0, 11, 58, 4, 4, 172, 58, 4, 5, 172, 3, 172]
abbrev dktX0_suspend_0 : List UInt8 := dkwX0_suspend_0 ++ []
theorem dksX0_suspend_0 : cX0_suspend.data.toList.drop 0 = dktX0_suspend_0 := by decide +kernel
theorem dX0_suspend_0 : decode cX0_suspend 0 = .ok (.aload_n 3, 1) := dk_45 (dk_at dksX0_suspend_0 0 rfl rfl)
theorem dX0_suspend_1 : decode cX0_suspend 1 = .ok (.iconst 0, 1) := dk_3 (dk_at dksX0_suspend_0 1 rfl rfl)
theorem dX0_suspend_2 : decode cX0_suspend 2 = .ok (.aload_n 0, 1) := dk_42 (dk_at dksX0_suspend_0 2 rfl rfl)
theorem dX0_suspend_3 : decode cX0_suspend 3 = .ok (.iload_n 1, 1) := dk_27 (dk_at dksX0_suspend_0 3 rfl rfl)
theorem dX0_suspend_4 : decode cX0_suspend 4 = .ok (.iload_n 2, 1) := dk_28 (dk_at dksX0_suspend_0 4 rfl rfl)
theorem dX0_suspend_5 : decode cX0_suspend 5 = .ok (.invokevirtual 33, 3) := dk_182 0 33 (dk_at dksX0_suspend_0 5 rfl rfl)
theorem dX0_suspend_8 : decode cX0_suspend 8 = .ok (.i2l, 1) := dk_133 (dk_at dksX0_suspend_0 8 rfl rfl)
theorem dX0_suspend_9 : decode cX0_suspend 9 = .ok (.lastore, 1) := dk_80 (dk_at dksX0_suspend_0 9 rfl rfl)
theorem dX0_suspend_10 : decode cX0_suspend 10 = .ok (.goto 11, 3) := dk_167 0 11 (dk_at dksX0_suspend_0 10 rfl rfl)
theorem dX0_suspend_13 : decode cX0_suspend 13 = .ok (.astore 4, 2) := dk_58 4 (dk_at dksX0_suspend_0 13 rfl rfl)
theorem dX0_suspend_15 : decode cX0_suspend 15 = .ok (.iconst 1, 1) := dk_4 (dk_at dksX0_suspend_0 15 rfl rfl)
theorem dX0_suspend_16 : decode cX0_suspend 16 = .ok (.ireturn, 1) := dk_172 (dk_at dksX0_suspend_0 16 rfl rfl)
theorem dX0_suspend_17 : decode cX0_suspend 17 = .ok (.astore 4, 2) := dk_58 4 (dk_at dksX0_suspend_0 17 rfl rfl)
theorem dX0_suspend_19 : decode cX0_suspend 19 = .ok (.iconst 2, 1) := dk_5 (dk_at dksX0_suspend_0 19 rfl rfl)
theorem dX0_suspend_20 : decode cX0_suspend 20 = .ok (.ireturn, 1) := dk_172 (dk_at dksX0_suspend_0 20 rfl rfl)
theorem dX0_suspend_21 : decode cX0_suspend 21 = .ok (.iconst 0, 1) := dk_3 (dk_at dksX0_suspend_0 21 rfl rfl)
theorem dX0_suspend_22 : decode cX0_suspend 22 = .ok (.ireturn, 1) := dk_172 (dk_at dksX0_suspend_0 22 rfl rfl)
abbrev cX0_dress : ByteArray := method_9_code
def yX0_dress : MethodName := ⟨RX0, "dress", "(LScrutineery;II[J)I"⟩
def dkwX0_dress_0 : List UInt8 := [45, 3, 42, 27, 28, 182, 0, 36, 133, 80, 167, 0, 11, 58, 4, 4, 172, 58, 4, 5, 172, 3, 172]
abbrev dktX0_dress_0 : List UInt8 := dkwX0_dress_0 ++ []
theorem dksX0_dress_0 : cX0_dress.data.toList.drop 0 = dktX0_dress_0 := by decide +kernel
theorem dX0_dress_0 : decode cX0_dress 0 = .ok (.aload_n 3, 1) := dk_45 (dk_at dksX0_dress_0 0 rfl rfl)
theorem dX0_dress_1 : decode cX0_dress 1 = .ok (.iconst 0, 1) := dk_3 (dk_at dksX0_dress_0 1 rfl rfl)
theorem dX0_dress_2 : decode cX0_dress 2 = .ok (.aload_n 0, 1) := dk_42 (dk_at dksX0_dress_0 2 rfl rfl)
theorem dX0_dress_3 : decode cX0_dress 3 = .ok (.iload_n 1, 1) := dk_27 (dk_at dksX0_dress_0 3 rfl rfl)
theorem dX0_dress_4 : decode cX0_dress 4 = .ok (.iload_n 2, 1) := dk_28 (dk_at dksX0_dress_0 4 rfl rfl)
theorem dX0_dress_5 : decode cX0_dress 5 = .ok (.invokevirtual 36, 3) := dk_182 0 36 (dk_at dksX0_dress_0 5 rfl rfl)
theorem dX0_dress_8 : decode cX0_dress 8 = .ok (.i2l, 1) := dk_133 (dk_at dksX0_dress_0 8 rfl rfl)
theorem dX0_dress_9 : decode cX0_dress 9 = .ok (.lastore, 1) := dk_80 (dk_at dksX0_dress_0 9 rfl rfl)
theorem dX0_dress_10 : decode cX0_dress 10 = .ok (.goto 11, 3) := dk_167 0 11 (dk_at dksX0_dress_0 10 rfl rfl)
theorem dX0_dress_13 : decode cX0_dress 13 = .ok (.astore 4, 2) := dk_58 4 (dk_at dksX0_dress_0 13 rfl rfl)
theorem dX0_dress_15 : decode cX0_dress 15 = .ok (.iconst 1, 1) := dk_4 (dk_at dksX0_dress_0 15 rfl rfl)
theorem dX0_dress_16 : decode cX0_dress 16 = .ok (.ireturn, 1) := dk_172 (dk_at dksX0_dress_0 16 rfl rfl)
theorem dX0_dress_17 : decode cX0_dress 17 = .ok (.astore 4, 2) := dk_58 4 (dk_at dksX0_dress_0 17 rfl rfl)
theorem dX0_dress_19 : decode cX0_dress 19 = .ok (.iconst 2, 1) := dk_5 (dk_at dksX0_dress_0 19 rfl rfl)
theorem dX0_dress_20 : decode cX0_dress 20 = .ok (.ireturn, 1) := dk_172 (dk_at dksX0_dress_0 20 rfl rfl)
theorem dX0_dress_21 : decode cX0_dress 21 = .ok (.iconst 0, 1) := dk_3 (dk_at dksX0_dress_0 21 rfl rfl)
theorem dX0_dress_22 : decode cX0_dress 22 = .ok (.ireturn, 1) := dk_172 (dk_at dksX0_dress_0 22 rfl rfl)
abbrev cX0_test : ByteArray := method_10_code
def yX0_test : MethodName := ⟨RX0, "test", "(LScrutineery;III[J)I"⟩
def dkwX0_test_1 : List UInt8 := [58, 5, 6, 172, 3, 172]
abbrev dktX0_test_1 : List UInt8 := dkwX0_test_1 ++ []
def dkwX0_test_0 : List UInt8 := [25, 4, 3, 42, 27, 28, 29, 182, 0, 39, 133, 80, 167, 0, 15, 58, 5, 4, 172, 58, 5, 5, 172]
abbrev dktX0_test_0 : List UInt8 := dkwX0_test_0 ++ dktX0_test_1
theorem dksX0_test_0 : cX0_test.data.toList.drop 0 = dktX0_test_0 := by decide +kernel
theorem dksX0_test_1 : cX0_test.data.toList.drop 23 = dktX0_test_1 := dk_seg dksX0_test_0 23 rfl rfl
theorem dX0_test_0 : decode cX0_test 0 = .ok (.aload 4, 2) := dk_25 4 (dk_at dksX0_test_0 0 rfl rfl)
theorem dX0_test_2 : decode cX0_test 2 = .ok (.iconst 0, 1) := dk_3 (dk_at dksX0_test_0 2 rfl rfl)
theorem dX0_test_3 : decode cX0_test 3 = .ok (.aload_n 0, 1) := dk_42 (dk_at dksX0_test_0 3 rfl rfl)
theorem dX0_test_4 : decode cX0_test 4 = .ok (.iload_n 1, 1) := dk_27 (dk_at dksX0_test_0 4 rfl rfl)
theorem dX0_test_5 : decode cX0_test 5 = .ok (.iload_n 2, 1) := dk_28 (dk_at dksX0_test_0 5 rfl rfl)
theorem dX0_test_6 : decode cX0_test 6 = .ok (.iload_n 3, 1) := dk_29 (dk_at dksX0_test_0 6 rfl rfl)
theorem dX0_test_7 : decode cX0_test 7 = .ok (.invokevirtual 39, 3) := dk_182 0 39 (dk_at dksX0_test_0 7 rfl rfl)
theorem dX0_test_10 : decode cX0_test 10 = .ok (.i2l, 1) := dk_133 (dk_at dksX0_test_0 10 rfl rfl)
theorem dX0_test_11 : decode cX0_test 11 = .ok (.lastore, 1) := dk_80 (dk_at dksX0_test_0 11 rfl rfl)
theorem dX0_test_12 : decode cX0_test 12 = .ok (.goto 15, 3) := dk_167 0 15 (dk_at dksX0_test_0 12 rfl rfl)
theorem dX0_test_15 : decode cX0_test 15 = .ok (.astore 5, 2) := dk_58 5 (dk_at dksX0_test_0 15 rfl rfl)
theorem dX0_test_17 : decode cX0_test 17 = .ok (.iconst 1, 1) := dk_4 (dk_at dksX0_test_0 17 rfl rfl)
theorem dX0_test_18 : decode cX0_test 18 = .ok (.ireturn, 1) := dk_172 (dk_at dksX0_test_0 18 rfl rfl)
theorem dX0_test_19 : decode cX0_test 19 = .ok (.astore 5, 2) := dk_58 5 (dk_at dksX0_test_0 19 rfl rfl)
theorem dX0_test_21 : decode cX0_test 21 = .ok (.iconst 2, 1) := dk_5 (dk_at dksX0_test_0 21 rfl rfl)
theorem dX0_test_22 : decode cX0_test 22 = .ok (.ireturn, 1) := dk_172 (dk_at dksX0_test_0 22 rfl rfl)
theorem dX0_test_23 : decode cX0_test 23 = .ok (.astore 5, 2) := dk_58 5 (dk_at dksX0_test_1 0 rfl rfl)
theorem dX0_test_25 : decode cX0_test 25 = .ok (.iconst 3, 1) := dk_6 (dk_at dksX0_test_1 2 rfl rfl)
theorem dX0_test_26 : decode cX0_test 26 = .ok (.ireturn, 1) := dk_172 (dk_at dksX0_test_1 3 rfl rfl)
theorem dX0_test_27 : decode cX0_test 27 = .ok (.iconst 0, 1) := dk_3 (dk_at dksX0_test_1 4 rfl rfl)
theorem dX0_test_28 : decode cX0_test 28 = .ok (.ireturn, 1) := dk_172 (dk_at dksX0_test_1 5 rfl rfl)
abbrev cX0_couple : ByteArray := method_11_code
def yX0_couple : MethodName := ⟨RX0, "couple", "(LScrutineery;II[J)I"⟩
def dkwX0_couple_1 : List UInt8 := [172, 3, 172]
abbrev dktX0_couple_1 : List UInt8 := dkwX0_couple_1 ++ []
def dkwX0_couple_0 : List UInt8 := [45, 3, 42, 27, 28, 182, 0, 43, 133, 80, 167, 0, 15, 58, 4, 4, 172, 58, 4, 5, 172, 58, 4, 6]
abbrev dktX0_couple_0 : List UInt8 := dkwX0_couple_0 ++ dktX0_couple_1
theorem dksX0_couple_0 : cX0_couple.data.toList.drop 0 = dktX0_couple_0 := by decide +kernel
theorem dksX0_couple_1 : cX0_couple.data.toList.drop 24 = dktX0_couple_1 := dk_seg dksX0_couple_0 24 rfl rfl
theorem dX0_couple_0 : decode cX0_couple 0 = .ok (.aload_n 3, 1) := dk_45 (dk_at dksX0_couple_0 0 rfl rfl)
theorem dX0_couple_1 : decode cX0_couple 1 = .ok (.iconst 0, 1) := dk_3 (dk_at dksX0_couple_0 1 rfl rfl)
theorem dX0_couple_2 : decode cX0_couple 2 = .ok (.aload_n 0, 1) := dk_42 (dk_at dksX0_couple_0 2 rfl rfl)
theorem dX0_couple_3 : decode cX0_couple 3 = .ok (.iload_n 1, 1) := dk_27 (dk_at dksX0_couple_0 3 rfl rfl)
theorem dX0_couple_4 : decode cX0_couple 4 = .ok (.iload_n 2, 1) := dk_28 (dk_at dksX0_couple_0 4 rfl rfl)
theorem dX0_couple_5 : decode cX0_couple 5 = .ok (.invokevirtual 43, 3) := dk_182 0 43 (dk_at dksX0_couple_0 5 rfl rfl)
theorem dX0_couple_8 : decode cX0_couple 8 = .ok (.i2l, 1) := dk_133 (dk_at dksX0_couple_0 8 rfl rfl)
theorem dX0_couple_9 : decode cX0_couple 9 = .ok (.lastore, 1) := dk_80 (dk_at dksX0_couple_0 9 rfl rfl)
theorem dX0_couple_10 : decode cX0_couple 10 = .ok (.goto 15, 3) := dk_167 0 15 (dk_at dksX0_couple_0 10 rfl rfl)
theorem dX0_couple_13 : decode cX0_couple 13 = .ok (.astore 4, 2) := dk_58 4 (dk_at dksX0_couple_0 13 rfl rfl)
theorem dX0_couple_15 : decode cX0_couple 15 = .ok (.iconst 1, 1) := dk_4 (dk_at dksX0_couple_0 15 rfl rfl)
theorem dX0_couple_16 : decode cX0_couple 16 = .ok (.ireturn, 1) := dk_172 (dk_at dksX0_couple_0 16 rfl rfl)
theorem dX0_couple_17 : decode cX0_couple 17 = .ok (.astore 4, 2) := dk_58 4 (dk_at dksX0_couple_0 17 rfl rfl)
theorem dX0_couple_19 : decode cX0_couple 19 = .ok (.iconst 2, 1) := dk_5 (dk_at dksX0_couple_0 19 rfl rfl)
theorem dX0_couple_20 : decode cX0_couple 20 = .ok (.ireturn, 1) := dk_172 (dk_at dksX0_couple_0 20 rfl rfl)
theorem dX0_couple_21 : decode cX0_couple 21 = .ok (.astore 4, 2) := dk_58 4 (dk_at dksX0_couple_0 21 rfl rfl)
theorem dX0_couple_23 : decode cX0_couple 23 = .ok (.iconst 3, 1) := dk_6 (dk_at dksX0_couple_0 23 rfl rfl)
theorem dX0_couple_24 : decode cX0_couple 24 = .ok (.ireturn, 1) := dk_172 (dk_at dksX0_couple_1 0 rfl rfl)
theorem dX0_couple_25 : decode cX0_couple 25 = .ok (.iconst 0, 1) := dk_3 (dk_at dksX0_couple_1 1 rfl rfl)
theorem dX0_couple_26 : decode cX0_couple 26 = .ok (.ireturn, 1) := dk_172 (dk_at dksX0_couple_1 2 rfl rfl)
abbrev cX0_part : ByteArray := method_12_code
def yX0_part : MethodName := ⟨RX0, "part", "(LScrutineery;I[J)I"⟩
def dkwX0_part_0 : List UInt8 := [44, 3, 42, 27, 182, 0, 46, 153, 0, 7, 10, 167, 0, 4, 9, 80, 167, 0, 6, 78, 4, 172, 3, 172]
abbrev dktX0_part_0 : List UInt8 := dkwX0_part_0 ++ []
theorem dksX0_part_0 : cX0_part.data.toList.drop 0 = dktX0_part_0 := by decide +kernel
theorem dX0_part_0 : decode cX0_part 0 = .ok (.aload_n 2, 1) := dk_44 (dk_at dksX0_part_0 0 rfl rfl)
theorem dX0_part_1 : decode cX0_part 1 = .ok (.iconst 0, 1) := dk_3 (dk_at dksX0_part_0 1 rfl rfl)
theorem dX0_part_2 : decode cX0_part 2 = .ok (.aload_n 0, 1) := dk_42 (dk_at dksX0_part_0 2 rfl rfl)
theorem dX0_part_3 : decode cX0_part 3 = .ok (.iload_n 1, 1) := dk_27 (dk_at dksX0_part_0 3 rfl rfl)
theorem dX0_part_4 : decode cX0_part 4 = .ok (.invokevirtual 46, 3) := dk_182 0 46 (dk_at dksX0_part_0 4 rfl rfl)
theorem dX0_part_7 : decode cX0_part 7 = .ok (.ifCond .eq 7, 3) := dk_153 0 7 (dk_at dksX0_part_0 7 rfl rfl)
theorem dX0_part_10 : decode cX0_part 10 = .ok (.lconst 1, 1) := dk_10 (dk_at dksX0_part_0 10 rfl rfl)
theorem dX0_part_11 : decode cX0_part 11 = .ok (.goto 4, 3) := dk_167 0 4 (dk_at dksX0_part_0 11 rfl rfl)
theorem dX0_part_14 : decode cX0_part 14 = .ok (.lconst 0, 1) := dk_9 (dk_at dksX0_part_0 14 rfl rfl)
theorem dX0_part_15 : decode cX0_part 15 = .ok (.lastore, 1) := dk_80 (dk_at dksX0_part_0 15 rfl rfl)
theorem dX0_part_16 : decode cX0_part 16 = .ok (.goto 6, 3) := dk_167 0 6 (dk_at dksX0_part_0 16 rfl rfl)
theorem dX0_part_19 : decode cX0_part 19 = .ok (.astore_n 3, 1) := dk_78 (dk_at dksX0_part_0 19 rfl rfl)
theorem dX0_part_20 : decode cX0_part 20 = .ok (.iconst 1, 1) := dk_4 (dk_at dksX0_part_0 20 rfl rfl)
theorem dX0_part_21 : decode cX0_part 21 = .ok (.ireturn, 1) := dk_172 (dk_at dksX0_part_0 21 rfl rfl)
theorem dX0_part_22 : decode cX0_part 22 = .ok (.iconst 0, 1) := dk_3 (dk_at dksX0_part_0 22 rfl rfl)
theorem dX0_part_23 : decode cX0_part 23 = .ok (.ireturn, 1) := dk_172 (dk_at dksX0_part_0 23 rfl rfl)
abbrev cX0_event : ByteArray := method_13_code
def yX0_event : MethodName := ⟨RX0, "event", "(LScrutineery;IIIIIZ[J)I"⟩
def dkwX0_event_1 : List UInt8 := [172, 58, 8, 5, 172, 3, 172]
abbrev dktX0_event_1 : List UInt8 := dkwX0_event_1 ++ []
def dkwX0_event_0 : List UInt8 := [25, 7, 3, 42, 27, 28, 29, 21, 4, 21, 5, 21, 6, 182, 0, 50, 133, 80, 167, 0, 11, 58, 8, 4]
abbrev dktX0_event_0 : List UInt8 := dkwX0_event_0 ++ dktX0_event_1
theorem dksX0_event_0 : cX0_event.data.toList.drop 0 = dktX0_event_0 := by decide +kernel
theorem dksX0_event_1 : cX0_event.data.toList.drop 24 = dktX0_event_1 := dk_seg dksX0_event_0 24 rfl rfl
theorem dX0_event_0 : decode cX0_event 0 = .ok (.aload 7, 2) := dk_25 7 (dk_at dksX0_event_0 0 rfl rfl)
theorem dX0_event_2 : decode cX0_event 2 = .ok (.iconst 0, 1) := dk_3 (dk_at dksX0_event_0 2 rfl rfl)
theorem dX0_event_3 : decode cX0_event 3 = .ok (.aload_n 0, 1) := dk_42 (dk_at dksX0_event_0 3 rfl rfl)
theorem dX0_event_4 : decode cX0_event 4 = .ok (.iload_n 1, 1) := dk_27 (dk_at dksX0_event_0 4 rfl rfl)
theorem dX0_event_5 : decode cX0_event 5 = .ok (.iload_n 2, 1) := dk_28 (dk_at dksX0_event_0 5 rfl rfl)
theorem dX0_event_6 : decode cX0_event 6 = .ok (.iload_n 3, 1) := dk_29 (dk_at dksX0_event_0 6 rfl rfl)
theorem dX0_event_7 : decode cX0_event 7 = .ok (.iload 4, 2) := dk_21 4 (dk_at dksX0_event_0 7 rfl rfl)
theorem dX0_event_9 : decode cX0_event 9 = .ok (.iload 5, 2) := dk_21 5 (dk_at dksX0_event_0 9 rfl rfl)
theorem dX0_event_11 : decode cX0_event 11 = .ok (.iload 6, 2) := dk_21 6 (dk_at dksX0_event_0 11 rfl rfl)
theorem dX0_event_13 : decode cX0_event 13 = .ok (.invokevirtual 50, 3) := dk_182 0 50 (dk_at dksX0_event_0 13 rfl rfl)
theorem dX0_event_16 : decode cX0_event 16 = .ok (.i2l, 1) := dk_133 (dk_at dksX0_event_0 16 rfl rfl)
theorem dX0_event_17 : decode cX0_event 17 = .ok (.lastore, 1) := dk_80 (dk_at dksX0_event_0 17 rfl rfl)
theorem dX0_event_18 : decode cX0_event 18 = .ok (.goto 11, 3) := dk_167 0 11 (dk_at dksX0_event_0 18 rfl rfl)
theorem dX0_event_21 : decode cX0_event 21 = .ok (.astore 8, 2) := dk_58 8 (dk_at dksX0_event_0 21 rfl rfl)
theorem dX0_event_23 : decode cX0_event 23 = .ok (.iconst 1, 1) := dk_4 (dk_at dksX0_event_0 23 rfl rfl)
theorem dX0_event_24 : decode cX0_event 24 = .ok (.ireturn, 1) := dk_172 (dk_at dksX0_event_1 0 rfl rfl)
theorem dX0_event_25 : decode cX0_event 25 = .ok (.astore 8, 2) := dk_58 8 (dk_at dksX0_event_1 1 rfl rfl)
theorem dX0_event_27 : decode cX0_event 27 = .ok (.iconst 2, 1) := dk_5 (dk_at dksX0_event_1 3 rfl rfl)
theorem dX0_event_28 : decode cX0_event 28 = .ok (.ireturn, 1) := dk_172 (dk_at dksX0_event_1 4 rfl rfl)
theorem dX0_event_29 : decode cX0_event 29 = .ok (.iconst 0, 1) := dk_3 (dk_at dksX0_event_1 5 rfl rfl)
theorem dX0_event_30 : decode cX0_event 30 = .ok (.ireturn, 1) := dk_172 (dk_at dksX0_event_1 6 rfl rfl)
abbrev cX0_rules : ByteArray := method_14_code
def yX0_rules : MethodName := ⟨RX0, "rules", "(LScrutineery;IIIII[J)I"⟩
def dkwX0_rules_1 : List UInt8 := [58, 7, 5, 172, 58, 7, 6, 172, 3, 172]
abbrev dktX0_rules_1 : List UInt8 := dkwX0_rules_1 ++ []
def dkwX0_rules_0 : List UInt8 := [25, 6, 3, 42, 27, 28, 29, 21, 4, 21, 5, 182, 0, 54, 133, 80, 167, 0, 15, 58, 7, 4, 172]
abbrev dktX0_rules_0 : List UInt8 := dkwX0_rules_0 ++ dktX0_rules_1
theorem dksX0_rules_0 : cX0_rules.data.toList.drop 0 = dktX0_rules_0 := by decide +kernel
theorem dksX0_rules_1 : cX0_rules.data.toList.drop 23 = dktX0_rules_1 := dk_seg dksX0_rules_0 23 rfl rfl
theorem dX0_rules_0 : decode cX0_rules 0 = .ok (.aload 6, 2) := dk_25 6 (dk_at dksX0_rules_0 0 rfl rfl)
theorem dX0_rules_2 : decode cX0_rules 2 = .ok (.iconst 0, 1) := dk_3 (dk_at dksX0_rules_0 2 rfl rfl)
theorem dX0_rules_3 : decode cX0_rules 3 = .ok (.aload_n 0, 1) := dk_42 (dk_at dksX0_rules_0 3 rfl rfl)
theorem dX0_rules_4 : decode cX0_rules 4 = .ok (.iload_n 1, 1) := dk_27 (dk_at dksX0_rules_0 4 rfl rfl)
theorem dX0_rules_5 : decode cX0_rules 5 = .ok (.iload_n 2, 1) := dk_28 (dk_at dksX0_rules_0 5 rfl rfl)
theorem dX0_rules_6 : decode cX0_rules 6 = .ok (.iload_n 3, 1) := dk_29 (dk_at dksX0_rules_0 6 rfl rfl)
theorem dX0_rules_7 : decode cX0_rules 7 = .ok (.iload 4, 2) := dk_21 4 (dk_at dksX0_rules_0 7 rfl rfl)
theorem dX0_rules_9 : decode cX0_rules 9 = .ok (.iload 5, 2) := dk_21 5 (dk_at dksX0_rules_0 9 rfl rfl)
theorem dX0_rules_11 : decode cX0_rules 11 = .ok (.invokevirtual 54, 3) := dk_182 0 54 (dk_at dksX0_rules_0 11 rfl rfl)
theorem dX0_rules_14 : decode cX0_rules 14 = .ok (.i2l, 1) := dk_133 (dk_at dksX0_rules_0 14 rfl rfl)
theorem dX0_rules_15 : decode cX0_rules 15 = .ok (.lastore, 1) := dk_80 (dk_at dksX0_rules_0 15 rfl rfl)
theorem dX0_rules_16 : decode cX0_rules 16 = .ok (.goto 15, 3) := dk_167 0 15 (dk_at dksX0_rules_0 16 rfl rfl)
theorem dX0_rules_19 : decode cX0_rules 19 = .ok (.astore 7, 2) := dk_58 7 (dk_at dksX0_rules_0 19 rfl rfl)
theorem dX0_rules_21 : decode cX0_rules 21 = .ok (.iconst 1, 1) := dk_4 (dk_at dksX0_rules_0 21 rfl rfl)
theorem dX0_rules_22 : decode cX0_rules 22 = .ok (.ireturn, 1) := dk_172 (dk_at dksX0_rules_0 22 rfl rfl)
theorem dX0_rules_23 : decode cX0_rules 23 = .ok (.astore 7, 2) := dk_58 7 (dk_at dksX0_rules_1 0 rfl rfl)
theorem dX0_rules_25 : decode cX0_rules 25 = .ok (.iconst 2, 1) := dk_5 (dk_at dksX0_rules_1 2 rfl rfl)
theorem dX0_rules_26 : decode cX0_rules 26 = .ok (.ireturn, 1) := dk_172 (dk_at dksX0_rules_1 3 rfl rfl)
theorem dX0_rules_27 : decode cX0_rules 27 = .ok (.astore 7, 2) := dk_58 7 (dk_at dksX0_rules_1 4 rfl rfl)
theorem dX0_rules_29 : decode cX0_rules 29 = .ok (.iconst 3, 1) := dk_6 (dk_at dksX0_rules_1 6 rfl rfl)
theorem dX0_rules_30 : decode cX0_rules 30 = .ok (.ireturn, 1) := dk_172 (dk_at dksX0_rules_1 7 rfl rfl)
theorem dX0_rules_31 : decode cX0_rules 31 = .ok (.iconst 0, 1) := dk_3 (dk_at dksX0_rules_1 8 rfl rfl)
theorem dX0_rules_32 : decode cX0_rules 32 = .ok (.ireturn, 1) := dk_172 (dk_at dksX0_rules_1 9 rfl rfl)
abbrev cX0_enter : ByteArray := method_15_code
def yX0_enter : MethodName := ⟨RX0, "enter", "(LScrutineery;II[J)I"⟩
def dkwX0_enter_0 : List UInt8 := [45, 3, 42, 27, 28, 182, 0, 58, 133, 80, 167, 0, 11, 58, 4, 4, 172, 58, 4, 5, 172, 3, 172]
abbrev dktX0_enter_0 : List UInt8 := dkwX0_enter_0 ++ []
theorem dksX0_enter_0 : cX0_enter.data.toList.drop 0 = dktX0_enter_0 := by decide +kernel
theorem dX0_enter_0 : decode cX0_enter 0 = .ok (.aload_n 3, 1) := dk_45 (dk_at dksX0_enter_0 0 rfl rfl)
theorem dX0_enter_1 : decode cX0_enter 1 = .ok (.iconst 0, 1) := dk_3 (dk_at dksX0_enter_0 1 rfl rfl)
theorem dX0_enter_2 : decode cX0_enter 2 = .ok (.aload_n 0, 1) := dk_42 (dk_at dksX0_enter_0 2 rfl rfl)
theorem dX0_enter_3 : decode cX0_enter 3 = .ok (.iload_n 1, 1) := dk_27 (dk_at dksX0_enter_0 3 rfl rfl)
theorem dX0_enter_4 : decode cX0_enter 4 = .ok (.iload_n 2, 1) := dk_28 (dk_at dksX0_enter_0 4 rfl rfl)
theorem dX0_enter_5 : decode cX0_enter 5 = .ok (.invokevirtual 58, 3) := dk_182 0 58 (dk_at dksX0_enter_0 5 rfl rfl)
theorem dX0_enter_8 : decode cX0_enter 8 = .ok (.i2l, 1) := dk_133 (dk_at dksX0_enter_0 8 rfl rfl)
theorem dX0_enter_9 : decode cX0_enter 9 = .ok (.lastore, 1) := dk_80 (dk_at dksX0_enter_0 9 rfl rfl)
theorem dX0_enter_10 : decode cX0_enter 10 = .ok (.goto 11, 3) := dk_167 0 11 (dk_at dksX0_enter_0 10 rfl rfl)
theorem dX0_enter_13 : decode cX0_enter 13 = .ok (.astore 4, 2) := dk_58 4 (dk_at dksX0_enter_0 13 rfl rfl)
theorem dX0_enter_15 : decode cX0_enter 15 = .ok (.iconst 1, 1) := dk_4 (dk_at dksX0_enter_0 15 rfl rfl)
theorem dX0_enter_16 : decode cX0_enter 16 = .ok (.ireturn, 1) := dk_172 (dk_at dksX0_enter_0 16 rfl rfl)
theorem dX0_enter_17 : decode cX0_enter 17 = .ok (.astore 4, 2) := dk_58 4 (dk_at dksX0_enter_0 17 rfl rfl)
theorem dX0_enter_19 : decode cX0_enter 19 = .ok (.iconst 2, 1) := dk_5 (dk_at dksX0_enter_0 19 rfl rfl)
theorem dX0_enter_20 : decode cX0_enter 20 = .ok (.ireturn, 1) := dk_172 (dk_at dksX0_enter_0 20 rfl rfl)
theorem dX0_enter_21 : decode cX0_enter 21 = .ok (.iconst 0, 1) := dk_3 (dk_at dksX0_enter_0 21 rfl rfl)
theorem dX0_enter_22 : decode cX0_enter 22 = .ok (.ireturn, 1) := dk_172 (dk_at dksX0_enter_0 22 rfl rfl)
abbrev cX0_scratch : ByteArray := method_16_code
def yX0_scratch : MethodName := ⟨RX0, "scratch", "(LScrutineery;II[J)I"⟩
def dkwX0_scratch_0 : List UInt8 := [45, 3, 42, 27, 28, 182, 0, 61, 133, 80, 167, 0, 11, 58, 4, 4, 172, 58, 4, 5, 172, 3, 172]
abbrev dktX0_scratch_0 : List UInt8 := dkwX0_scratch_0 ++ []
theorem dksX0_scratch_0 : cX0_scratch.data.toList.drop 0 = dktX0_scratch_0 := by decide +kernel
theorem dX0_scratch_0 : decode cX0_scratch 0 = .ok (.aload_n 3, 1) := dk_45 (dk_at dksX0_scratch_0 0 rfl rfl)
theorem dX0_scratch_1 : decode cX0_scratch 1 = .ok (.iconst 0, 1) := dk_3 (dk_at dksX0_scratch_0 1 rfl rfl)
theorem dX0_scratch_2 : decode cX0_scratch 2 = .ok (.aload_n 0, 1) := dk_42 (dk_at dksX0_scratch_0 2 rfl rfl)
theorem dX0_scratch_3 : decode cX0_scratch 3 = .ok (.iload_n 1, 1) := dk_27 (dk_at dksX0_scratch_0 3 rfl rfl)
theorem dX0_scratch_4 : decode cX0_scratch 4 = .ok (.iload_n 2, 1) := dk_28 (dk_at dksX0_scratch_0 4 rfl rfl)
theorem dX0_scratch_5 : decode cX0_scratch 5 = .ok (.invokevirtual 61, 3) := dk_182 0 61 (dk_at dksX0_scratch_0 5 rfl rfl)
theorem dX0_scratch_8 : decode cX0_scratch 8 = .ok (.i2l, 1) := dk_133 (dk_at dksX0_scratch_0 8 rfl rfl)
theorem dX0_scratch_9 : decode cX0_scratch 9 = .ok (.lastore, 1) := dk_80 (dk_at dksX0_scratch_0 9 rfl rfl)
theorem dX0_scratch_10 : decode cX0_scratch 10 = .ok (.goto 11, 3) := dk_167 0 11 (dk_at dksX0_scratch_0 10 rfl rfl)
theorem dX0_scratch_13 : decode cX0_scratch 13 = .ok (.astore 4, 2) := dk_58 4 (dk_at dksX0_scratch_0 13 rfl rfl)
theorem dX0_scratch_15 : decode cX0_scratch 15 = .ok (.iconst 1, 1) := dk_4 (dk_at dksX0_scratch_0 15 rfl rfl)
theorem dX0_scratch_16 : decode cX0_scratch 16 = .ok (.ireturn, 1) := dk_172 (dk_at dksX0_scratch_0 16 rfl rfl)
theorem dX0_scratch_17 : decode cX0_scratch 17 = .ok (.astore 4, 2) := dk_58 4 (dk_at dksX0_scratch_0 17 rfl rfl)
theorem dX0_scratch_19 : decode cX0_scratch 19 = .ok (.iconst 2, 1) := dk_5 (dk_at dksX0_scratch_0 19 rfl rfl)
theorem dX0_scratch_20 : decode cX0_scratch 20 = .ok (.ireturn, 1) := dk_172 (dk_at dksX0_scratch_0 20 rfl rfl)
theorem dX0_scratch_21 : decode cX0_scratch 21 = .ok (.iconst 0, 1) := dk_3 (dk_at dksX0_scratch_0 21 rfl rfl)
theorem dX0_scratch_22 : decode cX0_scratch 22 = .ok (.ireturn, 1) := dk_172 (dk_at dksX0_scratch_0 22 rfl rfl)
abbrev cX0_apart : ByteArray := method_17_code
def yX0_apart : MethodName := ⟨RX0, "apart", "(LScrutineery;III[J)I"⟩
def dkwX0_apart_1 : List UInt8 := [172]
abbrev dktX0_apart_1 : List UInt8 := dkwX0_apart_1 ++ []
def dkwX0_apart_0 : List UInt8 := [25, 4, 3, 42, 27, 28, 29, 182, 0, 64, 133, 80, 167, 0, 11, 58, 5, 4, 172, 58, 5, 5, 172, 3]
abbrev dktX0_apart_0 : List UInt8 := dkwX0_apart_0 ++ dktX0_apart_1
theorem dksX0_apart_0 : cX0_apart.data.toList.drop 0 = dktX0_apart_0 := by decide +kernel
theorem dksX0_apart_1 : cX0_apart.data.toList.drop 24 = dktX0_apart_1 := dk_seg dksX0_apart_0 24 rfl rfl
theorem dX0_apart_0 : decode cX0_apart 0 = .ok (.aload 4, 2) := dk_25 4 (dk_at dksX0_apart_0 0 rfl rfl)
theorem dX0_apart_2 : decode cX0_apart 2 = .ok (.iconst 0, 1) := dk_3 (dk_at dksX0_apart_0 2 rfl rfl)
theorem dX0_apart_3 : decode cX0_apart 3 = .ok (.aload_n 0, 1) := dk_42 (dk_at dksX0_apart_0 3 rfl rfl)
theorem dX0_apart_4 : decode cX0_apart 4 = .ok (.iload_n 1, 1) := dk_27 (dk_at dksX0_apart_0 4 rfl rfl)
theorem dX0_apart_5 : decode cX0_apart 5 = .ok (.iload_n 2, 1) := dk_28 (dk_at dksX0_apart_0 5 rfl rfl)
theorem dX0_apart_6 : decode cX0_apart 6 = .ok (.iload_n 3, 1) := dk_29 (dk_at dksX0_apart_0 6 rfl rfl)
theorem dX0_apart_7 : decode cX0_apart 7 = .ok (.invokevirtual 64, 3) := dk_182 0 64 (dk_at dksX0_apart_0 7 rfl rfl)
theorem dX0_apart_10 : decode cX0_apart 10 = .ok (.i2l, 1) := dk_133 (dk_at dksX0_apart_0 10 rfl rfl)
theorem dX0_apart_11 : decode cX0_apart 11 = .ok (.lastore, 1) := dk_80 (dk_at dksX0_apart_0 11 rfl rfl)
theorem dX0_apart_12 : decode cX0_apart 12 = .ok (.goto 11, 3) := dk_167 0 11 (dk_at dksX0_apart_0 12 rfl rfl)
theorem dX0_apart_15 : decode cX0_apart 15 = .ok (.astore 5, 2) := dk_58 5 (dk_at dksX0_apart_0 15 rfl rfl)
theorem dX0_apart_17 : decode cX0_apart 17 = .ok (.iconst 1, 1) := dk_4 (dk_at dksX0_apart_0 17 rfl rfl)
theorem dX0_apart_18 : decode cX0_apart 18 = .ok (.ireturn, 1) := dk_172 (dk_at dksX0_apart_0 18 rfl rfl)
theorem dX0_apart_19 : decode cX0_apart 19 = .ok (.astore 5, 2) := dk_58 5 (dk_at dksX0_apart_0 19 rfl rfl)
theorem dX0_apart_21 : decode cX0_apart 21 = .ok (.iconst 2, 1) := dk_5 (dk_at dksX0_apart_0 21 rfl rfl)
theorem dX0_apart_22 : decode cX0_apart 22 = .ok (.ireturn, 1) := dk_172 (dk_at dksX0_apart_0 22 rfl rfl)
theorem dX0_apart_23 : decode cX0_apart 23 = .ok (.iconst 0, 1) := dk_3 (dk_at dksX0_apart_0 23 rfl rfl)
theorem dX0_apart_24 : decode cX0_apart 24 = .ok (.ireturn, 1) := dk_172 (dk_at dksX0_apart_1 0 rfl rfl)
abbrev cX0_draw : ByteArray := method_18_code
def yX0_draw : MethodName := ⟨RX0, "draw", "(LScrutineery;IIII[J)I"⟩
def dkwX0_draw_1 : List UInt8 := [172, 58, 6, 6, 172, 3, 172]
abbrev dktX0_draw_1 : List UInt8 := dkwX0_draw_1 ++ []
def dkwX0_draw_0 : List UInt8 := [25, 5, 3, 42, 27, 28, 29, 21, 4, 182, 0, 67, 133, 80, 167, 0, 15, 58, 6, 4, 172, 58, 6, 5]
abbrev dktX0_draw_0 : List UInt8 := dkwX0_draw_0 ++ dktX0_draw_1
theorem dksX0_draw_0 : cX0_draw.data.toList.drop 0 = dktX0_draw_0 := by decide +kernel
theorem dksX0_draw_1 : cX0_draw.data.toList.drop 24 = dktX0_draw_1 := dk_seg dksX0_draw_0 24 rfl rfl
theorem dX0_draw_0 : decode cX0_draw 0 = .ok (.aload 5, 2) := dk_25 5 (dk_at dksX0_draw_0 0 rfl rfl)
theorem dX0_draw_2 : decode cX0_draw 2 = .ok (.iconst 0, 1) := dk_3 (dk_at dksX0_draw_0 2 rfl rfl)
theorem dX0_draw_3 : decode cX0_draw 3 = .ok (.aload_n 0, 1) := dk_42 (dk_at dksX0_draw_0 3 rfl rfl)
theorem dX0_draw_4 : decode cX0_draw 4 = .ok (.iload_n 1, 1) := dk_27 (dk_at dksX0_draw_0 4 rfl rfl)
theorem dX0_draw_5 : decode cX0_draw 5 = .ok (.iload_n 2, 1) := dk_28 (dk_at dksX0_draw_0 5 rfl rfl)
theorem dX0_draw_6 : decode cX0_draw 6 = .ok (.iload_n 3, 1) := dk_29 (dk_at dksX0_draw_0 6 rfl rfl)
theorem dX0_draw_7 : decode cX0_draw 7 = .ok (.iload 4, 2) := dk_21 4 (dk_at dksX0_draw_0 7 rfl rfl)
theorem dX0_draw_9 : decode cX0_draw 9 = .ok (.invokevirtual 67, 3) := dk_182 0 67 (dk_at dksX0_draw_0 9 rfl rfl)
theorem dX0_draw_12 : decode cX0_draw 12 = .ok (.i2l, 1) := dk_133 (dk_at dksX0_draw_0 12 rfl rfl)
theorem dX0_draw_13 : decode cX0_draw 13 = .ok (.lastore, 1) := dk_80 (dk_at dksX0_draw_0 13 rfl rfl)
theorem dX0_draw_14 : decode cX0_draw 14 = .ok (.goto 15, 3) := dk_167 0 15 (dk_at dksX0_draw_0 14 rfl rfl)
theorem dX0_draw_17 : decode cX0_draw 17 = .ok (.astore 6, 2) := dk_58 6 (dk_at dksX0_draw_0 17 rfl rfl)
theorem dX0_draw_19 : decode cX0_draw 19 = .ok (.iconst 1, 1) := dk_4 (dk_at dksX0_draw_0 19 rfl rfl)
theorem dX0_draw_20 : decode cX0_draw 20 = .ok (.ireturn, 1) := dk_172 (dk_at dksX0_draw_0 20 rfl rfl)
theorem dX0_draw_21 : decode cX0_draw 21 = .ok (.astore 6, 2) := dk_58 6 (dk_at dksX0_draw_0 21 rfl rfl)
theorem dX0_draw_23 : decode cX0_draw 23 = .ok (.iconst 2, 1) := dk_5 (dk_at dksX0_draw_0 23 rfl rfl)
theorem dX0_draw_24 : decode cX0_draw 24 = .ok (.ireturn, 1) := dk_172 (dk_at dksX0_draw_1 0 rfl rfl)
theorem dX0_draw_25 : decode cX0_draw 25 = .ok (.astore 6, 2) := dk_58 6 (dk_at dksX0_draw_1 1 rfl rfl)
theorem dX0_draw_27 : decode cX0_draw 27 = .ok (.iconst 3, 1) := dk_6 (dk_at dksX0_draw_1 3 rfl rfl)
theorem dX0_draw_28 : decode cX0_draw 28 = .ok (.ireturn, 1) := dk_172 (dk_at dksX0_draw_1 4 rfl rfl)
theorem dX0_draw_29 : decode cX0_draw 29 = .ok (.iconst 0, 1) := dk_3 (dk_at dksX0_draw_1 5 rfl rfl)
theorem dX0_draw_30 : decode cX0_draw 30 = .ok (.ireturn, 1) := dk_172 (dk_at dksX0_draw_1 6 rfl rfl)
abbrev cX0_mark : ByteArray := method_19_code
def yX0_mark : MethodName := ⟨RX0, "mark", "(LScrutineery;IIII[J)I"⟩
def dkwX0_mark_1 : List UInt8 := [172, 58, 6, 6, 172, 3, 172]
abbrev dktX0_mark_1 : List UInt8 := dkwX0_mark_1 ++ []
def dkwX0_mark_0 : List UInt8 := [25, 5, 3, 42, 27, 28, 29, 21, 4, 182, 0, 71, 133, 80, 167, 0, 15, 58, 6, 4, 172, 58, 6, 5]
abbrev dktX0_mark_0 : List UInt8 := dkwX0_mark_0 ++ dktX0_mark_1
theorem dksX0_mark_0 : cX0_mark.data.toList.drop 0 = dktX0_mark_0 := by decide +kernel
theorem dksX0_mark_1 : cX0_mark.data.toList.drop 24 = dktX0_mark_1 := dk_seg dksX0_mark_0 24 rfl rfl
theorem dX0_mark_0 : decode cX0_mark 0 = .ok (.aload 5, 2) := dk_25 5 (dk_at dksX0_mark_0 0 rfl rfl)
theorem dX0_mark_2 : decode cX0_mark 2 = .ok (.iconst 0, 1) := dk_3 (dk_at dksX0_mark_0 2 rfl rfl)
theorem dX0_mark_3 : decode cX0_mark 3 = .ok (.aload_n 0, 1) := dk_42 (dk_at dksX0_mark_0 3 rfl rfl)
theorem dX0_mark_4 : decode cX0_mark 4 = .ok (.iload_n 1, 1) := dk_27 (dk_at dksX0_mark_0 4 rfl rfl)
theorem dX0_mark_5 : decode cX0_mark 5 = .ok (.iload_n 2, 1) := dk_28 (dk_at dksX0_mark_0 5 rfl rfl)
theorem dX0_mark_6 : decode cX0_mark 6 = .ok (.iload_n 3, 1) := dk_29 (dk_at dksX0_mark_0 6 rfl rfl)
theorem dX0_mark_7 : decode cX0_mark 7 = .ok (.iload 4, 2) := dk_21 4 (dk_at dksX0_mark_0 7 rfl rfl)
theorem dX0_mark_9 : decode cX0_mark 9 = .ok (.invokevirtual 71, 3) := dk_182 0 71 (dk_at dksX0_mark_0 9 rfl rfl)
theorem dX0_mark_12 : decode cX0_mark 12 = .ok (.i2l, 1) := dk_133 (dk_at dksX0_mark_0 12 rfl rfl)
theorem dX0_mark_13 : decode cX0_mark 13 = .ok (.lastore, 1) := dk_80 (dk_at dksX0_mark_0 13 rfl rfl)
theorem dX0_mark_14 : decode cX0_mark 14 = .ok (.goto 15, 3) := dk_167 0 15 (dk_at dksX0_mark_0 14 rfl rfl)
theorem dX0_mark_17 : decode cX0_mark 17 = .ok (.astore 6, 2) := dk_58 6 (dk_at dksX0_mark_0 17 rfl rfl)
theorem dX0_mark_19 : decode cX0_mark 19 = .ok (.iconst 1, 1) := dk_4 (dk_at dksX0_mark_0 19 rfl rfl)
theorem dX0_mark_20 : decode cX0_mark 20 = .ok (.ireturn, 1) := dk_172 (dk_at dksX0_mark_0 20 rfl rfl)
theorem dX0_mark_21 : decode cX0_mark 21 = .ok (.astore 6, 2) := dk_58 6 (dk_at dksX0_mark_0 21 rfl rfl)
theorem dX0_mark_23 : decode cX0_mark 23 = .ok (.iconst 2, 1) := dk_5 (dk_at dksX0_mark_0 23 rfl rfl)
theorem dX0_mark_24 : decode cX0_mark 24 = .ok (.ireturn, 1) := dk_172 (dk_at dksX0_mark_1 0 rfl rfl)
theorem dX0_mark_25 : decode cX0_mark 25 = .ok (.astore 6, 2) := dk_58 6 (dk_at dksX0_mark_1 1 rfl rfl)
theorem dX0_mark_27 : decode cX0_mark 27 = .ok (.iconst 3, 1) := dk_6 (dk_at dksX0_mark_1 3 rfl rfl)
theorem dX0_mark_28 : decode cX0_mark 28 = .ok (.ireturn, 1) := dk_172 (dk_at dksX0_mark_1 4 rfl rfl)
theorem dX0_mark_29 : decode cX0_mark 29 = .ok (.iconst 0, 1) := dk_3 (dk_at dksX0_mark_1 5 rfl rfl)
theorem dX0_mark_30 : decode cX0_mark 30 = .ok (.ireturn, 1) := dk_172 (dk_at dksX0_mark_1 6 rfl rfl)
abbrev cX0_value : ByteArray := method_20_code
def yX0_value : MethodName := ⟨RX0, "value", "(LScrutineery;IIIIII[J)I"⟩
def dkwX0_value_1 : List UInt8 := [172, 58, 8, 5, 172, 58, 8, 6, 172, 3, 172]
abbrev dktX0_value_1 : List UInt8 := dkwX0_value_1 ++ []
def dkwX0_value_0 : List UInt8 := [25, 7, 3, 42, 27, 28, 29, 21, 4, 21, 5, 21, 6, 182, 0, 74, 133, 80, 167, 0, 15, 58, 8, 4]
abbrev dktX0_value_0 : List UInt8 := dkwX0_value_0 ++ dktX0_value_1
theorem dksX0_value_0 : cX0_value.data.toList.drop 0 = dktX0_value_0 := by decide +kernel
theorem dksX0_value_1 : cX0_value.data.toList.drop 24 = dktX0_value_1 := dk_seg dksX0_value_0 24 rfl rfl
theorem dX0_value_0 : decode cX0_value 0 = .ok (.aload 7, 2) := dk_25 7 (dk_at dksX0_value_0 0 rfl rfl)
theorem dX0_value_2 : decode cX0_value 2 = .ok (.iconst 0, 1) := dk_3 (dk_at dksX0_value_0 2 rfl rfl)
theorem dX0_value_3 : decode cX0_value 3 = .ok (.aload_n 0, 1) := dk_42 (dk_at dksX0_value_0 3 rfl rfl)
theorem dX0_value_4 : decode cX0_value 4 = .ok (.iload_n 1, 1) := dk_27 (dk_at dksX0_value_0 4 rfl rfl)
theorem dX0_value_5 : decode cX0_value 5 = .ok (.iload_n 2, 1) := dk_28 (dk_at dksX0_value_0 5 rfl rfl)
theorem dX0_value_6 : decode cX0_value 6 = .ok (.iload_n 3, 1) := dk_29 (dk_at dksX0_value_0 6 rfl rfl)
theorem dX0_value_7 : decode cX0_value 7 = .ok (.iload 4, 2) := dk_21 4 (dk_at dksX0_value_0 7 rfl rfl)
theorem dX0_value_9 : decode cX0_value 9 = .ok (.iload 5, 2) := dk_21 5 (dk_at dksX0_value_0 9 rfl rfl)
theorem dX0_value_11 : decode cX0_value 11 = .ok (.iload 6, 2) := dk_21 6 (dk_at dksX0_value_0 11 rfl rfl)
theorem dX0_value_13 : decode cX0_value 13 = .ok (.invokevirtual 74, 3) := dk_182 0 74 (dk_at dksX0_value_0 13 rfl rfl)
theorem dX0_value_16 : decode cX0_value 16 = .ok (.i2l, 1) := dk_133 (dk_at dksX0_value_0 16 rfl rfl)
theorem dX0_value_17 : decode cX0_value 17 = .ok (.lastore, 1) := dk_80 (dk_at dksX0_value_0 17 rfl rfl)
theorem dX0_value_18 : decode cX0_value 18 = .ok (.goto 15, 3) := dk_167 0 15 (dk_at dksX0_value_0 18 rfl rfl)
theorem dX0_value_21 : decode cX0_value 21 = .ok (.astore 8, 2) := dk_58 8 (dk_at dksX0_value_0 21 rfl rfl)
theorem dX0_value_23 : decode cX0_value 23 = .ok (.iconst 1, 1) := dk_4 (dk_at dksX0_value_0 23 rfl rfl)
theorem dX0_value_24 : decode cX0_value 24 = .ok (.ireturn, 1) := dk_172 (dk_at dksX0_value_1 0 rfl rfl)
theorem dX0_value_25 : decode cX0_value 25 = .ok (.astore 8, 2) := dk_58 8 (dk_at dksX0_value_1 1 rfl rfl)
theorem dX0_value_27 : decode cX0_value 27 = .ok (.iconst 2, 1) := dk_5 (dk_at dksX0_value_1 3 rfl rfl)
theorem dX0_value_28 : decode cX0_value 28 = .ok (.ireturn, 1) := dk_172 (dk_at dksX0_value_1 4 rfl rfl)
theorem dX0_value_29 : decode cX0_value 29 = .ok (.astore 8, 2) := dk_58 8 (dk_at dksX0_value_1 5 rfl rfl)
theorem dX0_value_31 : decode cX0_value 31 = .ok (.iconst 3, 1) := dk_6 (dk_at dksX0_value_1 7 rfl rfl)
theorem dX0_value_32 : decode cX0_value 32 = .ok (.ireturn, 1) := dk_172 (dk_at dksX0_value_1 8 rfl rfl)
theorem dX0_value_33 : decode cX0_value 33 = .ok (.iconst 0, 1) := dk_3 (dk_at dksX0_value_1 9 rfl rfl)
theorem dX0_value_34 : decode cX0_value 34 = .ok (.ireturn, 1) := dk_172 (dk_at dksX0_value_1 10 rfl rfl)
abbrev cX0_close : ByteArray := method_21_code
def yX0_close : MethodName := ⟨RX0, "close", "(LScrutineery;I[J)I"⟩
def dkwX0_close_0 : List UInt8 := [44, 3, 42, 27, 182, 0, 78, 133, 80, 167, 0, 9, 78, 4, 172, 78, 5, 172, 3, 172]
abbrev dktX0_close_0 : List UInt8 := dkwX0_close_0 ++ []
theorem dksX0_close_0 : cX0_close.data.toList.drop 0 = dktX0_close_0 := by decide +kernel
theorem dX0_close_0 : decode cX0_close 0 = .ok (.aload_n 2, 1) := dk_44 (dk_at dksX0_close_0 0 rfl rfl)
theorem dX0_close_1 : decode cX0_close 1 = .ok (.iconst 0, 1) := dk_3 (dk_at dksX0_close_0 1 rfl rfl)
theorem dX0_close_2 : decode cX0_close 2 = .ok (.aload_n 0, 1) := dk_42 (dk_at dksX0_close_0 2 rfl rfl)
theorem dX0_close_3 : decode cX0_close 3 = .ok (.iload_n 1, 1) := dk_27 (dk_at dksX0_close_0 3 rfl rfl)
theorem dX0_close_4 : decode cX0_close 4 = .ok (.invokevirtual 78, 3) := dk_182 0 78 (dk_at dksX0_close_0 4 rfl rfl)
theorem dX0_close_7 : decode cX0_close 7 = .ok (.i2l, 1) := dk_133 (dk_at dksX0_close_0 7 rfl rfl)
theorem dX0_close_8 : decode cX0_close 8 = .ok (.lastore, 1) := dk_80 (dk_at dksX0_close_0 8 rfl rfl)
theorem dX0_close_9 : decode cX0_close 9 = .ok (.goto 9, 3) := dk_167 0 9 (dk_at dksX0_close_0 9 rfl rfl)
theorem dX0_close_12 : decode cX0_close 12 = .ok (.astore_n 3, 1) := dk_78 (dk_at dksX0_close_0 12 rfl rfl)
theorem dX0_close_13 : decode cX0_close 13 = .ok (.iconst 1, 1) := dk_4 (dk_at dksX0_close_0 13 rfl rfl)
theorem dX0_close_14 : decode cX0_close 14 = .ok (.ireturn, 1) := dk_172 (dk_at dksX0_close_0 14 rfl rfl)
theorem dX0_close_15 : decode cX0_close 15 = .ok (.astore_n 3, 1) := dk_78 (dk_at dksX0_close_0 15 rfl rfl)
theorem dX0_close_16 : decode cX0_close 16 = .ok (.iconst 2, 1) := dk_5 (dk_at dksX0_close_0 16 rfl rfl)
theorem dX0_close_17 : decode cX0_close 17 = .ok (.ireturn, 1) := dk_172 (dk_at dksX0_close_0 17 rfl rfl)
theorem dX0_close_18 : decode cX0_close 18 = .ok (.iconst 0, 1) := dk_3 (dk_at dksX0_close_0 18 rfl rfl)
theorem dX0_close_19 : decode cX0_close 19 = .ok (.ireturn, 1) := dk_172 (dk_at dksX0_close_0 19 rfl rfl)
abbrev cX0_formation : ByteArray := method_22_code
def yX0_formation : MethodName := ⟨RX0, "formation", "(LScrutineery;IIII[J)I"⟩
def dkwX0_formation_1 : List UInt8 := [172, 3, 172]
abbrev dktX0_formation_1 : List UInt8 := dkwX0_formation_1 ++ []
def dkwX0_formation_0 : List UInt8 := [25, 5, 3, 42, 27, 28, 29, 21, 4, 182, 0, 81, 133, 80, 167, 0, 11, 58, 6, 4, 172, 58, 6, 5]
abbrev dktX0_formation_0 : List UInt8 := dkwX0_formation_0 ++ dktX0_formation_1
theorem dksX0_formation_0 : cX0_formation.data.toList.drop 0 = dktX0_formation_0 := by decide +kernel
theorem dksX0_formation_1 : cX0_formation.data.toList.drop 24 = dktX0_formation_1 := dk_seg dksX0_formation_0 24 rfl rfl
theorem dX0_formation_0 : decode cX0_formation 0 = .ok (.aload 5, 2) := dk_25 5 (dk_at dksX0_formation_0 0 rfl rfl)
theorem dX0_formation_2 : decode cX0_formation 2 = .ok (.iconst 0, 1) := dk_3 (dk_at dksX0_formation_0 2 rfl rfl)
theorem dX0_formation_3 : decode cX0_formation 3 = .ok (.aload_n 0, 1) := dk_42 (dk_at dksX0_formation_0 3 rfl rfl)
theorem dX0_formation_4 : decode cX0_formation 4 = .ok (.iload_n 1, 1) := dk_27 (dk_at dksX0_formation_0 4 rfl rfl)
theorem dX0_formation_5 : decode cX0_formation 5 = .ok (.iload_n 2, 1) := dk_28 (dk_at dksX0_formation_0 5 rfl rfl)
theorem dX0_formation_6 : decode cX0_formation 6 = .ok (.iload_n 3, 1) := dk_29 (dk_at dksX0_formation_0 6 rfl rfl)
theorem dX0_formation_7 : decode cX0_formation 7 = .ok (.iload 4, 2) := dk_21 4 (dk_at dksX0_formation_0 7 rfl rfl)
theorem dX0_formation_9 : decode cX0_formation 9 = .ok (.invokevirtual 81, 3) := dk_182 0 81 (dk_at dksX0_formation_0 9 rfl rfl)
theorem dX0_formation_12 : decode cX0_formation 12 = .ok (.i2l, 1) := dk_133 (dk_at dksX0_formation_0 12 rfl rfl)
theorem dX0_formation_13 : decode cX0_formation 13 = .ok (.lastore, 1) := dk_80 (dk_at dksX0_formation_0 13 rfl rfl)
theorem dX0_formation_14 : decode cX0_formation 14 = .ok (.goto 11, 3) := dk_167 0 11 (dk_at dksX0_formation_0 14 rfl rfl)
theorem dX0_formation_17 : decode cX0_formation 17 = .ok (.astore 6, 2) := dk_58 6 (dk_at dksX0_formation_0 17 rfl rfl)
theorem dX0_formation_19 : decode cX0_formation 19 = .ok (.iconst 1, 1) := dk_4 (dk_at dksX0_formation_0 19 rfl rfl)
theorem dX0_formation_20 : decode cX0_formation 20 = .ok (.ireturn, 1) := dk_172 (dk_at dksX0_formation_0 20 rfl rfl)
theorem dX0_formation_21 : decode cX0_formation 21 = .ok (.astore 6, 2) := dk_58 6 (dk_at dksX0_formation_0 21 rfl rfl)
theorem dX0_formation_23 : decode cX0_formation 23 = .ok (.iconst 2, 1) := dk_5 (dk_at dksX0_formation_0 23 rfl rfl)
theorem dX0_formation_24 : decode cX0_formation 24 = .ok (.ireturn, 1) := dk_172 (dk_at dksX0_formation_1 0 rfl rfl)
theorem dX0_formation_25 : decode cX0_formation 25 = .ok (.iconst 0, 1) := dk_3 (dk_at dksX0_formation_1 1 rfl rfl)
theorem dX0_formation_26 : decode cX0_formation 26 = .ok (.ireturn, 1) := dk_172 (dk_at dksX0_formation_1 2 rfl rfl)
abbrev cX0_music : ByteArray := method_23_code
def yX0_music : MethodName := ⟨RX0, "music", "(LScrutineery;IIII[J)I"⟩
def dkwX0_music_0 : List UInt8 := [25, 5, 3, 42, 27, 28, 29, 21, 4, 182, 0, 84, 133, 80, 167, 0, 7, 58, 6, 4, 172, 3, 172]
abbrev dktX0_music_0 : List UInt8 := dkwX0_music_0 ++ []
theorem dksX0_music_0 : cX0_music.data.toList.drop 0 = dktX0_music_0 := by decide +kernel
theorem dX0_music_0 : decode cX0_music 0 = .ok (.aload 5, 2) := dk_25 5 (dk_at dksX0_music_0 0 rfl rfl)
theorem dX0_music_2 : decode cX0_music 2 = .ok (.iconst 0, 1) := dk_3 (dk_at dksX0_music_0 2 rfl rfl)
theorem dX0_music_3 : decode cX0_music 3 = .ok (.aload_n 0, 1) := dk_42 (dk_at dksX0_music_0 3 rfl rfl)
theorem dX0_music_4 : decode cX0_music 4 = .ok (.iload_n 1, 1) := dk_27 (dk_at dksX0_music_0 4 rfl rfl)
theorem dX0_music_5 : decode cX0_music 5 = .ok (.iload_n 2, 1) := dk_28 (dk_at dksX0_music_0 5 rfl rfl)
theorem dX0_music_6 : decode cX0_music 6 = .ok (.iload_n 3, 1) := dk_29 (dk_at dksX0_music_0 6 rfl rfl)
theorem dX0_music_7 : decode cX0_music 7 = .ok (.iload 4, 2) := dk_21 4 (dk_at dksX0_music_0 7 rfl rfl)
theorem dX0_music_9 : decode cX0_music 9 = .ok (.invokevirtual 84, 3) := dk_182 0 84 (dk_at dksX0_music_0 9 rfl rfl)
theorem dX0_music_12 : decode cX0_music 12 = .ok (.i2l, 1) := dk_133 (dk_at dksX0_music_0 12 rfl rfl)
theorem dX0_music_13 : decode cX0_music 13 = .ok (.lastore, 1) := dk_80 (dk_at dksX0_music_0 13 rfl rfl)
theorem dX0_music_14 : decode cX0_music 14 = .ok (.goto 7, 3) := dk_167 0 7 (dk_at dksX0_music_0 14 rfl rfl)
theorem dX0_music_17 : decode cX0_music 17 = .ok (.astore 6, 2) := dk_58 6 (dk_at dksX0_music_0 17 rfl rfl)
theorem dX0_music_19 : decode cX0_music 19 = .ok (.iconst 1, 1) := dk_4 (dk_at dksX0_music_0 19 rfl rfl)
theorem dX0_music_20 : decode cX0_music 20 = .ok (.ireturn, 1) := dk_172 (dk_at dksX0_music_0 20 rfl rfl)
theorem dX0_music_21 : decode cX0_music 21 = .ok (.iconst 0, 1) := dk_3 (dk_at dksX0_music_0 21 rfl rfl)
theorem dX0_music_22 : decode cX0_music 22 = .ok (.ireturn, 1) := dk_172 (dk_at dksX0_music_0 22 rfl rfl)
abbrev cX0_plan : ByteArray := method_24_code
def yX0_plan : MethodName := ⟨RX0, "plan", "(LScrutineery;II[J)I"⟩
def dkwX0_plan_0 : List UInt8 := [45, 3, 42, 27, 28, 182, 0, 87, 133, 80, 167, 0, 11, 58, 4, 4, 172, 58, 4, 5, 172, 3, 172]
abbrev dktX0_plan_0 : List UInt8 := dkwX0_plan_0 ++ []
theorem dksX0_plan_0 : cX0_plan.data.toList.drop 0 = dktX0_plan_0 := by decide +kernel
theorem dX0_plan_0 : decode cX0_plan 0 = .ok (.aload_n 3, 1) := dk_45 (dk_at dksX0_plan_0 0 rfl rfl)
theorem dX0_plan_1 : decode cX0_plan 1 = .ok (.iconst 0, 1) := dk_3 (dk_at dksX0_plan_0 1 rfl rfl)
theorem dX0_plan_2 : decode cX0_plan 2 = .ok (.aload_n 0, 1) := dk_42 (dk_at dksX0_plan_0 2 rfl rfl)
theorem dX0_plan_3 : decode cX0_plan 3 = .ok (.iload_n 1, 1) := dk_27 (dk_at dksX0_plan_0 3 rfl rfl)
theorem dX0_plan_4 : decode cX0_plan 4 = .ok (.iload_n 2, 1) := dk_28 (dk_at dksX0_plan_0 4 rfl rfl)
theorem dX0_plan_5 : decode cX0_plan 5 = .ok (.invokevirtual 87, 3) := dk_182 0 87 (dk_at dksX0_plan_0 5 rfl rfl)
theorem dX0_plan_8 : decode cX0_plan 8 = .ok (.i2l, 1) := dk_133 (dk_at dksX0_plan_0 8 rfl rfl)
theorem dX0_plan_9 : decode cX0_plan 9 = .ok (.lastore, 1) := dk_80 (dk_at dksX0_plan_0 9 rfl rfl)
theorem dX0_plan_10 : decode cX0_plan 10 = .ok (.goto 11, 3) := dk_167 0 11 (dk_at dksX0_plan_0 10 rfl rfl)
theorem dX0_plan_13 : decode cX0_plan 13 = .ok (.astore 4, 2) := dk_58 4 (dk_at dksX0_plan_0 13 rfl rfl)
theorem dX0_plan_15 : decode cX0_plan 15 = .ok (.iconst 1, 1) := dk_4 (dk_at dksX0_plan_0 15 rfl rfl)
theorem dX0_plan_16 : decode cX0_plan 16 = .ok (.ireturn, 1) := dk_172 (dk_at dksX0_plan_0 16 rfl rfl)
theorem dX0_plan_17 : decode cX0_plan 17 = .ok (.astore 4, 2) := dk_58 4 (dk_at dksX0_plan_0 17 rfl rfl)
theorem dX0_plan_19 : decode cX0_plan 19 = .ok (.iconst 2, 1) := dk_5 (dk_at dksX0_plan_0 19 rfl rfl)
theorem dX0_plan_20 : decode cX0_plan 20 = .ok (.ireturn, 1) := dk_172 (dk_at dksX0_plan_0 20 rfl rfl)
theorem dX0_plan_21 : decode cX0_plan 21 = .ok (.iconst 0, 1) := dk_3 (dk_at dksX0_plan_0 21 rfl rfl)
theorem dX0_plan_22 : decode cX0_plan 22 = .ok (.ireturn, 1) := dk_172 (dk_at dksX0_plan_0 22 rfl rfl)
abbrev cX0_late : ByteArray := method_25_code
def yX0_late : MethodName := ⟨RX0, "late", "(LScrutineery;II[J)I"⟩
def dkwX0_late_0 : List UInt8 := [45, 3, 42, 27, 28, 182, 0, 90, 133, 80, 167, 0, 11, 58, 4, 4, 172, 58, 4, 5, 172, 3, 172]
abbrev dktX0_late_0 : List UInt8 := dkwX0_late_0 ++ []
theorem dksX0_late_0 : cX0_late.data.toList.drop 0 = dktX0_late_0 := by decide +kernel
theorem dX0_late_0 : decode cX0_late 0 = .ok (.aload_n 3, 1) := dk_45 (dk_at dksX0_late_0 0 rfl rfl)
theorem dX0_late_1 : decode cX0_late 1 = .ok (.iconst 0, 1) := dk_3 (dk_at dksX0_late_0 1 rfl rfl)
theorem dX0_late_2 : decode cX0_late 2 = .ok (.aload_n 0, 1) := dk_42 (dk_at dksX0_late_0 2 rfl rfl)
theorem dX0_late_3 : decode cX0_late 3 = .ok (.iload_n 1, 1) := dk_27 (dk_at dksX0_late_0 3 rfl rfl)
theorem dX0_late_4 : decode cX0_late 4 = .ok (.iload_n 2, 1) := dk_28 (dk_at dksX0_late_0 4 rfl rfl)
theorem dX0_late_5 : decode cX0_late 5 = .ok (.invokevirtual 90, 3) := dk_182 0 90 (dk_at dksX0_late_0 5 rfl rfl)
theorem dX0_late_8 : decode cX0_late 8 = .ok (.i2l, 1) := dk_133 (dk_at dksX0_late_0 8 rfl rfl)
theorem dX0_late_9 : decode cX0_late 9 = .ok (.lastore, 1) := dk_80 (dk_at dksX0_late_0 9 rfl rfl)
theorem dX0_late_10 : decode cX0_late 10 = .ok (.goto 11, 3) := dk_167 0 11 (dk_at dksX0_late_0 10 rfl rfl)
theorem dX0_late_13 : decode cX0_late 13 = .ok (.astore 4, 2) := dk_58 4 (dk_at dksX0_late_0 13 rfl rfl)
theorem dX0_late_15 : decode cX0_late 15 = .ok (.iconst 1, 1) := dk_4 (dk_at dksX0_late_0 15 rfl rfl)
theorem dX0_late_16 : decode cX0_late 16 = .ok (.ireturn, 1) := dk_172 (dk_at dksX0_late_0 16 rfl rfl)
theorem dX0_late_17 : decode cX0_late 17 = .ok (.astore 4, 2) := dk_58 4 (dk_at dksX0_late_0 17 rfl rfl)
theorem dX0_late_19 : decode cX0_late 19 = .ok (.iconst 2, 1) := dk_5 (dk_at dksX0_late_0 19 rfl rfl)
theorem dX0_late_20 : decode cX0_late 20 = .ok (.ireturn, 1) := dk_172 (dk_at dksX0_late_0 20 rfl rfl)
theorem dX0_late_21 : decode cX0_late 21 = .ok (.iconst 0, 1) := dk_3 (dk_at dksX0_late_0 21 rfl rfl)
theorem dX0_late_22 : decode cX0_late 22 = .ok (.ireturn, 1) := dk_172 (dk_at dksX0_late_0 22 rfl rfl)
abbrev cX0_personAt : ByteArray := method_26_code
def yX0_personAt : MethodName := ⟨RX0, "personAt", "(LScrutineery;II[J)I"⟩
def dkwX0_personAt_0 : List UInt8 := [45, 3, 42, 27, 28, 182, 0, 93, 133, 80, 167, 0, 11, 58, 4, 4, 172, 58, 4, 5, 172, 3, 172]
abbrev dktX0_personAt_0 : List UInt8 := dkwX0_personAt_0 ++ []
theorem dksX0_personAt_0 : cX0_personAt.data.toList.drop 0 = dktX0_personAt_0 := by decide +kernel
theorem dX0_personAt_0 : decode cX0_personAt 0 = .ok (.aload_n 3, 1) := dk_45 (dk_at dksX0_personAt_0 0 rfl rfl)
theorem dX0_personAt_1 : decode cX0_personAt 1 = .ok (.iconst 0, 1) := dk_3 (dk_at dksX0_personAt_0 1 rfl rfl)
theorem dX0_personAt_2 : decode cX0_personAt 2 = .ok (.aload_n 0, 1) := dk_42 (dk_at dksX0_personAt_0 2 rfl rfl)
theorem dX0_personAt_3 : decode cX0_personAt 3 = .ok (.iload_n 1, 1) := dk_27 (dk_at dksX0_personAt_0 3 rfl rfl)
theorem dX0_personAt_4 : decode cX0_personAt 4 = .ok (.iload_n 2, 1) := dk_28 (dk_at dksX0_personAt_0 4 rfl rfl)
theorem dX0_personAt_5 : decode cX0_personAt 5 = .ok (.invokevirtual 93, 3) := dk_182 0 93 (dk_at dksX0_personAt_0 5 rfl rfl)
theorem dX0_personAt_8 : decode cX0_personAt 8 = .ok (.i2l, 1) := dk_133 (dk_at dksX0_personAt_0 8 rfl rfl)
theorem dX0_personAt_9 : decode cX0_personAt 9 = .ok (.lastore, 1) := dk_80 (dk_at dksX0_personAt_0 9 rfl rfl)
theorem dX0_personAt_10 : decode cX0_personAt 10 = .ok (.goto 11, 3) := dk_167 0 11 (dk_at dksX0_personAt_0 10 rfl rfl)
theorem dX0_personAt_13 : decode cX0_personAt 13 = .ok (.astore 4, 2) := dk_58 4 (dk_at dksX0_personAt_0 13 rfl rfl)
theorem dX0_personAt_15 : decode cX0_personAt 15 = .ok (.iconst 1, 1) := dk_4 (dk_at dksX0_personAt_0 15 rfl rfl)
theorem dX0_personAt_16 : decode cX0_personAt 16 = .ok (.ireturn, 1) := dk_172 (dk_at dksX0_personAt_0 16 rfl rfl)
theorem dX0_personAt_17 : decode cX0_personAt 17 = .ok (.astore 4, 2) := dk_58 4 (dk_at dksX0_personAt_0 17 rfl rfl)
theorem dX0_personAt_19 : decode cX0_personAt 19 = .ok (.iconst 2, 1) := dk_5 (dk_at dksX0_personAt_0 19 rfl rfl)
theorem dX0_personAt_20 : decode cX0_personAt 20 = .ok (.ireturn, 1) := dk_172 (dk_at dksX0_personAt_0 20 rfl rfl)
theorem dX0_personAt_21 : decode cX0_personAt 21 = .ok (.iconst 0, 1) := dk_3 (dk_at dksX0_personAt_0 21 rfl rfl)
theorem dX0_personAt_22 : decode cX0_personAt 22 = .ok (.ireturn, 1) := dk_172 (dk_at dksX0_personAt_0 22 rfl rfl)
abbrev cX0_coupleAt : ByteArray := method_27_code
def yX0_coupleAt : MethodName := ⟨RX0, "coupleAt", "(LScrutineery;II[J)I"⟩
def dkwX0_coupleAt_0 : List UInt8 := [45, 3, 42, 27, 28, 182, 0, 96, 133, 80, 167, 0, 11, 58, 4, 4, 172, 58, 4, 5, 172, 3, 172]
abbrev dktX0_coupleAt_0 : List UInt8 := dkwX0_coupleAt_0 ++ []
theorem dksX0_coupleAt_0 : cX0_coupleAt.data.toList.drop 0 = dktX0_coupleAt_0 := by decide +kernel
theorem dX0_coupleAt_0 : decode cX0_coupleAt 0 = .ok (.aload_n 3, 1) := dk_45 (dk_at dksX0_coupleAt_0 0 rfl rfl)
theorem dX0_coupleAt_1 : decode cX0_coupleAt 1 = .ok (.iconst 0, 1) := dk_3 (dk_at dksX0_coupleAt_0 1 rfl rfl)
theorem dX0_coupleAt_2 : decode cX0_coupleAt 2 = .ok (.aload_n 0, 1) := dk_42 (dk_at dksX0_coupleAt_0 2 rfl rfl)
theorem dX0_coupleAt_3 : decode cX0_coupleAt 3 = .ok (.iload_n 1, 1) := dk_27 (dk_at dksX0_coupleAt_0 3 rfl rfl)
theorem dX0_coupleAt_4 : decode cX0_coupleAt 4 = .ok (.iload_n 2, 1) := dk_28 (dk_at dksX0_coupleAt_0 4 rfl rfl)
theorem dX0_coupleAt_5 : decode cX0_coupleAt 5 = .ok (.invokevirtual 96, 3) := dk_182 0 96 (dk_at dksX0_coupleAt_0 5 rfl rfl)
theorem dX0_coupleAt_8 : decode cX0_coupleAt 8 = .ok (.i2l, 1) := dk_133 (dk_at dksX0_coupleAt_0 8 rfl rfl)
theorem dX0_coupleAt_9 : decode cX0_coupleAt 9 = .ok (.lastore, 1) := dk_80 (dk_at dksX0_coupleAt_0 9 rfl rfl)
theorem dX0_coupleAt_10 : decode cX0_coupleAt 10 = .ok (.goto 11, 3) := dk_167 0 11 (dk_at dksX0_coupleAt_0 10 rfl rfl)
theorem dX0_coupleAt_13 : decode cX0_coupleAt 13 = .ok (.astore 4, 2) := dk_58 4 (dk_at dksX0_coupleAt_0 13 rfl rfl)
theorem dX0_coupleAt_15 : decode cX0_coupleAt 15 = .ok (.iconst 1, 1) := dk_4 (dk_at dksX0_coupleAt_0 15 rfl rfl)
theorem dX0_coupleAt_16 : decode cX0_coupleAt 16 = .ok (.ireturn, 1) := dk_172 (dk_at dksX0_coupleAt_0 16 rfl rfl)
theorem dX0_coupleAt_17 : decode cX0_coupleAt 17 = .ok (.astore 4, 2) := dk_58 4 (dk_at dksX0_coupleAt_0 17 rfl rfl)
theorem dX0_coupleAt_19 : decode cX0_coupleAt 19 = .ok (.iconst 2, 1) := dk_5 (dk_at dksX0_coupleAt_0 19 rfl rfl)
theorem dX0_coupleAt_20 : decode cX0_coupleAt 20 = .ok (.ireturn, 1) := dk_172 (dk_at dksX0_coupleAt_0 20 rfl rfl)
theorem dX0_coupleAt_21 : decode cX0_coupleAt 21 = .ok (.iconst 0, 1) := dk_3 (dk_at dksX0_coupleAt_0 21 rfl rfl)
theorem dX0_coupleAt_22 : decode cX0_coupleAt 22 = .ok (.ireturn, 1) := dk_172 (dk_at dksX0_coupleAt_0 22 rfl rfl)
abbrev cX0_mayEnter : ByteArray := method_28_code
def yX0_mayEnter : MethodName := ⟨RX0, "mayEnter", "(LScrutineery;II[J)I"⟩
def dkwX0_mayEnter_0 : List UInt8 := [45, 3, 42, 27, 28, 182, 0, 99, 133, 80, 167, 0, 7, 58, 4, 4, 172, 3, 172]
abbrev dktX0_mayEnter_0 : List UInt8 := dkwX0_mayEnter_0 ++ []
theorem dksX0_mayEnter_0 : cX0_mayEnter.data.toList.drop 0 = dktX0_mayEnter_0 := by decide +kernel
theorem dX0_mayEnter_0 : decode cX0_mayEnter 0 = .ok (.aload_n 3, 1) := dk_45 (dk_at dksX0_mayEnter_0 0 rfl rfl)
theorem dX0_mayEnter_1 : decode cX0_mayEnter 1 = .ok (.iconst 0, 1) := dk_3 (dk_at dksX0_mayEnter_0 1 rfl rfl)
theorem dX0_mayEnter_2 : decode cX0_mayEnter 2 = .ok (.aload_n 0, 1) := dk_42 (dk_at dksX0_mayEnter_0 2 rfl rfl)
theorem dX0_mayEnter_3 : decode cX0_mayEnter 3 = .ok (.iload_n 1, 1) := dk_27 (dk_at dksX0_mayEnter_0 3 rfl rfl)
theorem dX0_mayEnter_4 : decode cX0_mayEnter 4 = .ok (.iload_n 2, 1) := dk_28 (dk_at dksX0_mayEnter_0 4 rfl rfl)
theorem dX0_mayEnter_5 : decode cX0_mayEnter 5 = .ok (.invokevirtual 99, 3) := dk_182 0 99 (dk_at dksX0_mayEnter_0 5 rfl rfl)
theorem dX0_mayEnter_8 : decode cX0_mayEnter 8 = .ok (.i2l, 1) := dk_133 (dk_at dksX0_mayEnter_0 8 rfl rfl)
theorem dX0_mayEnter_9 : decode cX0_mayEnter 9 = .ok (.lastore, 1) := dk_80 (dk_at dksX0_mayEnter_0 9 rfl rfl)
theorem dX0_mayEnter_10 : decode cX0_mayEnter 10 = .ok (.goto 7, 3) := dk_167 0 7 (dk_at dksX0_mayEnter_0 10 rfl rfl)
theorem dX0_mayEnter_13 : decode cX0_mayEnter 13 = .ok (.astore 4, 2) := dk_58 4 (dk_at dksX0_mayEnter_0 13 rfl rfl)
theorem dX0_mayEnter_15 : decode cX0_mayEnter 15 = .ok (.iconst 1, 1) := dk_4 (dk_at dksX0_mayEnter_0 15 rfl rfl)
theorem dX0_mayEnter_16 : decode cX0_mayEnter 16 = .ok (.ireturn, 1) := dk_172 (dk_at dksX0_mayEnter_0 16 rfl rfl)
theorem dX0_mayEnter_17 : decode cX0_mayEnter 17 = .ok (.iconst 0, 1) := dk_3 (dk_at dksX0_mayEnter_0 17 rfl rfl)
theorem dX0_mayEnter_18 : decode cX0_mayEnter 18 = .ok (.ireturn, 1) := dk_172 (dk_at dksX0_mayEnter_0 18 rfl rfl)
abbrev cX0_eventAt : ByteArray := method_29_code
def yX0_eventAt : MethodName := ⟨RX0, "eventAt", "(LScrutineery;II[J)I"⟩
def dkwX0_eventAt_0 : List UInt8 := [45, 3, 42, 27, 28, 182, 0, 102, 133, 80, 167, 0, 11, 58, 4, 4, 172, 58, 4, 5, 172, 3, 172]
abbrev dktX0_eventAt_0 : List UInt8 := dkwX0_eventAt_0 ++ []
theorem dksX0_eventAt_0 : cX0_eventAt.data.toList.drop 0 = dktX0_eventAt_0 := by decide +kernel
theorem dX0_eventAt_0 : decode cX0_eventAt 0 = .ok (.aload_n 3, 1) := dk_45 (dk_at dksX0_eventAt_0 0 rfl rfl)
theorem dX0_eventAt_1 : decode cX0_eventAt 1 = .ok (.iconst 0, 1) := dk_3 (dk_at dksX0_eventAt_0 1 rfl rfl)
theorem dX0_eventAt_2 : decode cX0_eventAt 2 = .ok (.aload_n 0, 1) := dk_42 (dk_at dksX0_eventAt_0 2 rfl rfl)
theorem dX0_eventAt_3 : decode cX0_eventAt 3 = .ok (.iload_n 1, 1) := dk_27 (dk_at dksX0_eventAt_0 3 rfl rfl)
theorem dX0_eventAt_4 : decode cX0_eventAt 4 = .ok (.iload_n 2, 1) := dk_28 (dk_at dksX0_eventAt_0 4 rfl rfl)
theorem dX0_eventAt_5 : decode cX0_eventAt 5 = .ok (.invokevirtual 102, 3) := dk_182 0 102 (dk_at dksX0_eventAt_0 5 rfl rfl)
theorem dX0_eventAt_8 : decode cX0_eventAt 8 = .ok (.i2l, 1) := dk_133 (dk_at dksX0_eventAt_0 8 rfl rfl)
theorem dX0_eventAt_9 : decode cX0_eventAt 9 = .ok (.lastore, 1) := dk_80 (dk_at dksX0_eventAt_0 9 rfl rfl)
theorem dX0_eventAt_10 : decode cX0_eventAt 10 = .ok (.goto 11, 3) := dk_167 0 11 (dk_at dksX0_eventAt_0 10 rfl rfl)
theorem dX0_eventAt_13 : decode cX0_eventAt 13 = .ok (.astore 4, 2) := dk_58 4 (dk_at dksX0_eventAt_0 13 rfl rfl)
theorem dX0_eventAt_15 : decode cX0_eventAt 15 = .ok (.iconst 1, 1) := dk_4 (dk_at dksX0_eventAt_0 15 rfl rfl)
theorem dX0_eventAt_16 : decode cX0_eventAt 16 = .ok (.ireturn, 1) := dk_172 (dk_at dksX0_eventAt_0 16 rfl rfl)
theorem dX0_eventAt_17 : decode cX0_eventAt 17 = .ok (.astore 4, 2) := dk_58 4 (dk_at dksX0_eventAt_0 17 rfl rfl)
theorem dX0_eventAt_19 : decode cX0_eventAt 19 = .ok (.iconst 2, 1) := dk_5 (dk_at dksX0_eventAt_0 19 rfl rfl)
theorem dX0_eventAt_20 : decode cX0_eventAt 20 = .ok (.ireturn, 1) := dk_172 (dk_at dksX0_eventAt_0 20 rfl rfl)
theorem dX0_eventAt_21 : decode cX0_eventAt 21 = .ok (.iconst 0, 1) := dk_3 (dk_at dksX0_eventAt_0 21 rfl rfl)
theorem dX0_eventAt_22 : decode cX0_eventAt 22 = .ok (.ireturn, 1) := dk_172 (dk_at dksX0_eventAt_0 22 rfl rfl)
abbrev cX0_entryAt : ByteArray := method_30_code
def yX0_entryAt : MethodName := ⟨RX0, "entryAt", "(LScrutineery;III[J)I"⟩
def dkwX0_entryAt_1 : List UInt8 := [172]
abbrev dktX0_entryAt_1 : List UInt8 := dkwX0_entryAt_1 ++ []
def dkwX0_entryAt_0 : List UInt8 := [25, 4, 3, 42, 27, 28, 29, 182, 0, 105, 133, 80, 167, 0, 11, 58, 5, 4, 172, 58, 5, 5, 172, 3]
abbrev dktX0_entryAt_0 : List UInt8 := dkwX0_entryAt_0 ++ dktX0_entryAt_1
theorem dksX0_entryAt_0 : cX0_entryAt.data.toList.drop 0 = dktX0_entryAt_0 := by decide +kernel
theorem dksX0_entryAt_1 : cX0_entryAt.data.toList.drop 24 = dktX0_entryAt_1 := dk_seg dksX0_entryAt_0 24 rfl rfl
theorem dX0_entryAt_0 : decode cX0_entryAt 0 = .ok (.aload 4, 2) := dk_25 4 (dk_at dksX0_entryAt_0 0 rfl rfl)
theorem dX0_entryAt_2 : decode cX0_entryAt 2 = .ok (.iconst 0, 1) := dk_3 (dk_at dksX0_entryAt_0 2 rfl rfl)
theorem dX0_entryAt_3 : decode cX0_entryAt 3 = .ok (.aload_n 0, 1) := dk_42 (dk_at dksX0_entryAt_0 3 rfl rfl)
theorem dX0_entryAt_4 : decode cX0_entryAt 4 = .ok (.iload_n 1, 1) := dk_27 (dk_at dksX0_entryAt_0 4 rfl rfl)
theorem dX0_entryAt_5 : decode cX0_entryAt 5 = .ok (.iload_n 2, 1) := dk_28 (dk_at dksX0_entryAt_0 5 rfl rfl)
theorem dX0_entryAt_6 : decode cX0_entryAt 6 = .ok (.iload_n 3, 1) := dk_29 (dk_at dksX0_entryAt_0 6 rfl rfl)
theorem dX0_entryAt_7 : decode cX0_entryAt 7 = .ok (.invokevirtual 105, 3) := dk_182 0 105 (dk_at dksX0_entryAt_0 7 rfl rfl)
theorem dX0_entryAt_10 : decode cX0_entryAt 10 = .ok (.i2l, 1) := dk_133 (dk_at dksX0_entryAt_0 10 rfl rfl)
theorem dX0_entryAt_11 : decode cX0_entryAt 11 = .ok (.lastore, 1) := dk_80 (dk_at dksX0_entryAt_0 11 rfl rfl)
theorem dX0_entryAt_12 : decode cX0_entryAt 12 = .ok (.goto 11, 3) := dk_167 0 11 (dk_at dksX0_entryAt_0 12 rfl rfl)
theorem dX0_entryAt_15 : decode cX0_entryAt 15 = .ok (.astore 5, 2) := dk_58 5 (dk_at dksX0_entryAt_0 15 rfl rfl)
theorem dX0_entryAt_17 : decode cX0_entryAt 17 = .ok (.iconst 1, 1) := dk_4 (dk_at dksX0_entryAt_0 17 rfl rfl)
theorem dX0_entryAt_18 : decode cX0_entryAt 18 = .ok (.ireturn, 1) := dk_172 (dk_at dksX0_entryAt_0 18 rfl rfl)
theorem dX0_entryAt_19 : decode cX0_entryAt 19 = .ok (.astore 5, 2) := dk_58 5 (dk_at dksX0_entryAt_0 19 rfl rfl)
theorem dX0_entryAt_21 : decode cX0_entryAt 21 = .ok (.iconst 2, 1) := dk_5 (dk_at dksX0_entryAt_0 21 rfl rfl)
theorem dX0_entryAt_22 : decode cX0_entryAt 22 = .ok (.ireturn, 1) := dk_172 (dk_at dksX0_entryAt_0 22 rfl rfl)
theorem dX0_entryAt_23 : decode cX0_entryAt 23 = .ok (.iconst 0, 1) := dk_3 (dk_at dksX0_entryAt_0 23 rfl rfl)
theorem dX0_entryAt_24 : decode cX0_entryAt 24 = .ok (.ireturn, 1) := dk_172 (dk_at dksX0_entryAt_1 0 rfl rfl)
abbrev cX0_judge : ByteArray := method_31_code
def yX0_judge : MethodName := ⟨RX0, "judge", "(LScrutineery;III[J)I"⟩
def dkwX0_judge_0 : List UInt8 := [25, 4, 3, 42, 27, 28, 29, 182, 0, 108, 133, 80, 167, 0, 7, 58, 5, 4, 172, 3, 172]
abbrev dktX0_judge_0 : List UInt8 := dkwX0_judge_0 ++ []
theorem dksX0_judge_0 : cX0_judge.data.toList.drop 0 = dktX0_judge_0 := by decide +kernel
theorem dX0_judge_0 : decode cX0_judge 0 = .ok (.aload 4, 2) := dk_25 4 (dk_at dksX0_judge_0 0 rfl rfl)
theorem dX0_judge_2 : decode cX0_judge 2 = .ok (.iconst 0, 1) := dk_3 (dk_at dksX0_judge_0 2 rfl rfl)
theorem dX0_judge_3 : decode cX0_judge 3 = .ok (.aload_n 0, 1) := dk_42 (dk_at dksX0_judge_0 3 rfl rfl)
theorem dX0_judge_4 : decode cX0_judge 4 = .ok (.iload_n 1, 1) := dk_27 (dk_at dksX0_judge_0 4 rfl rfl)
theorem dX0_judge_5 : decode cX0_judge 5 = .ok (.iload_n 2, 1) := dk_28 (dk_at dksX0_judge_0 5 rfl rfl)
theorem dX0_judge_6 : decode cX0_judge 6 = .ok (.iload_n 3, 1) := dk_29 (dk_at dksX0_judge_0 6 rfl rfl)
theorem dX0_judge_7 : decode cX0_judge 7 = .ok (.invokevirtual 108, 3) := dk_182 0 108 (dk_at dksX0_judge_0 7 rfl rfl)
theorem dX0_judge_10 : decode cX0_judge 10 = .ok (.i2l, 1) := dk_133 (dk_at dksX0_judge_0 10 rfl rfl)
theorem dX0_judge_11 : decode cX0_judge 11 = .ok (.lastore, 1) := dk_80 (dk_at dksX0_judge_0 11 rfl rfl)
theorem dX0_judge_12 : decode cX0_judge 12 = .ok (.goto 7, 3) := dk_167 0 7 (dk_at dksX0_judge_0 12 rfl rfl)
theorem dX0_judge_15 : decode cX0_judge 15 = .ok (.astore 5, 2) := dk_58 5 (dk_at dksX0_judge_0 15 rfl rfl)
theorem dX0_judge_17 : decode cX0_judge 17 = .ok (.iconst 1, 1) := dk_4 (dk_at dksX0_judge_0 17 rfl rfl)
theorem dX0_judge_18 : decode cX0_judge 18 = .ok (.ireturn, 1) := dk_172 (dk_at dksX0_judge_0 18 rfl rfl)
theorem dX0_judge_19 : decode cX0_judge 19 = .ok (.iconst 0, 1) := dk_3 (dk_at dksX0_judge_0 19 rfl rfl)
theorem dX0_judge_20 : decode cX0_judge 20 = .ok (.ireturn, 1) := dk_172 (dk_at dksX0_judge_0 20 rfl rfl)
abbrev cX0_markAt : ByteArray := method_32_code
def yX0_markAt : MethodName := ⟨RX0, "markAt", "(LScrutineery;III[J)I"⟩
def dkwX0_markAt_0 : List UInt8 := [25, 4, 3, 42, 27, 28, 29, 182, 0, 111, 133, 80, 167, 0, 7, 58, 5, 4, 172, 3, 172]
abbrev dktX0_markAt_0 : List UInt8 := dkwX0_markAt_0 ++ []
theorem dksX0_markAt_0 : cX0_markAt.data.toList.drop 0 = dktX0_markAt_0 := by decide +kernel
theorem dX0_markAt_0 : decode cX0_markAt 0 = .ok (.aload 4, 2) := dk_25 4 (dk_at dksX0_markAt_0 0 rfl rfl)
theorem dX0_markAt_2 : decode cX0_markAt 2 = .ok (.iconst 0, 1) := dk_3 (dk_at dksX0_markAt_0 2 rfl rfl)
theorem dX0_markAt_3 : decode cX0_markAt 3 = .ok (.aload_n 0, 1) := dk_42 (dk_at dksX0_markAt_0 3 rfl rfl)
theorem dX0_markAt_4 : decode cX0_markAt 4 = .ok (.iload_n 1, 1) := dk_27 (dk_at dksX0_markAt_0 4 rfl rfl)
theorem dX0_markAt_5 : decode cX0_markAt 5 = .ok (.iload_n 2, 1) := dk_28 (dk_at dksX0_markAt_0 5 rfl rfl)
theorem dX0_markAt_6 : decode cX0_markAt 6 = .ok (.iload_n 3, 1) := dk_29 (dk_at dksX0_markAt_0 6 rfl rfl)
theorem dX0_markAt_7 : decode cX0_markAt 7 = .ok (.invokevirtual 111, 3) := dk_182 0 111 (dk_at dksX0_markAt_0 7 rfl rfl)
theorem dX0_markAt_10 : decode cX0_markAt 10 = .ok (.i2l, 1) := dk_133 (dk_at dksX0_markAt_0 10 rfl rfl)
theorem dX0_markAt_11 : decode cX0_markAt 11 = .ok (.lastore, 1) := dk_80 (dk_at dksX0_markAt_0 11 rfl rfl)
theorem dX0_markAt_12 : decode cX0_markAt 12 = .ok (.goto 7, 3) := dk_167 0 7 (dk_at dksX0_markAt_0 12 rfl rfl)
theorem dX0_markAt_15 : decode cX0_markAt 15 = .ok (.astore 5, 2) := dk_58 5 (dk_at dksX0_markAt_0 15 rfl rfl)
theorem dX0_markAt_17 : decode cX0_markAt 17 = .ok (.iconst 1, 1) := dk_4 (dk_at dksX0_markAt_0 17 rfl rfl)
theorem dX0_markAt_18 : decode cX0_markAt 18 = .ok (.ireturn, 1) := dk_172 (dk_at dksX0_markAt_0 18 rfl rfl)
theorem dX0_markAt_19 : decode cX0_markAt 19 = .ok (.iconst 0, 1) := dk_3 (dk_at dksX0_markAt_0 19 rfl rfl)
theorem dX0_markAt_20 : decode cX0_markAt 20 = .ok (.ireturn, 1) := dk_172 (dk_at dksX0_markAt_0 20 rfl rfl)
abbrev cX0_placeIn : ByteArray := method_33_code
def yX0_placeIn : MethodName := ⟨RX0, "placeIn", "(LScrutineery;IIIZ[J)I"⟩
def dkwX0_placeIn_1 : List UInt8 := [172, 58, 6, 6, 172, 3, 172]
abbrev dktX0_placeIn_1 : List UInt8 := dkwX0_placeIn_1 ++ []
def dkwX0_placeIn_0 : List UInt8 := [25, 5, 3, 42, 27, 28, 29, 21, 4, 182, 0, 114, 133, 80, 167, 0, 15, 58, 6, 4, 172, 58, 6, 5]
abbrev dktX0_placeIn_0 : List UInt8 := dkwX0_placeIn_0 ++ dktX0_placeIn_1
theorem dksX0_placeIn_0 : cX0_placeIn.data.toList.drop 0 = dktX0_placeIn_0 := by decide +kernel
theorem dksX0_placeIn_1 : cX0_placeIn.data.toList.drop 24 = dktX0_placeIn_1 := dk_seg dksX0_placeIn_0 24 rfl rfl
theorem dX0_placeIn_0 : decode cX0_placeIn 0 = .ok (.aload 5, 2) := dk_25 5 (dk_at dksX0_placeIn_0 0 rfl rfl)
theorem dX0_placeIn_2 : decode cX0_placeIn 2 = .ok (.iconst 0, 1) := dk_3 (dk_at dksX0_placeIn_0 2 rfl rfl)
theorem dX0_placeIn_3 : decode cX0_placeIn 3 = .ok (.aload_n 0, 1) := dk_42 (dk_at dksX0_placeIn_0 3 rfl rfl)
theorem dX0_placeIn_4 : decode cX0_placeIn 4 = .ok (.iload_n 1, 1) := dk_27 (dk_at dksX0_placeIn_0 4 rfl rfl)
theorem dX0_placeIn_5 : decode cX0_placeIn 5 = .ok (.iload_n 2, 1) := dk_28 (dk_at dksX0_placeIn_0 5 rfl rfl)
theorem dX0_placeIn_6 : decode cX0_placeIn 6 = .ok (.iload_n 3, 1) := dk_29 (dk_at dksX0_placeIn_0 6 rfl rfl)
theorem dX0_placeIn_7 : decode cX0_placeIn 7 = .ok (.iload 4, 2) := dk_21 4 (dk_at dksX0_placeIn_0 7 rfl rfl)
theorem dX0_placeIn_9 : decode cX0_placeIn 9 = .ok (.invokevirtual 114, 3) := dk_182 0 114 (dk_at dksX0_placeIn_0 9 rfl rfl)
theorem dX0_placeIn_12 : decode cX0_placeIn 12 = .ok (.i2l, 1) := dk_133 (dk_at dksX0_placeIn_0 12 rfl rfl)
theorem dX0_placeIn_13 : decode cX0_placeIn 13 = .ok (.lastore, 1) := dk_80 (dk_at dksX0_placeIn_0 13 rfl rfl)
theorem dX0_placeIn_14 : decode cX0_placeIn 14 = .ok (.goto 15, 3) := dk_167 0 15 (dk_at dksX0_placeIn_0 14 rfl rfl)
theorem dX0_placeIn_17 : decode cX0_placeIn 17 = .ok (.astore 6, 2) := dk_58 6 (dk_at dksX0_placeIn_0 17 rfl rfl)
theorem dX0_placeIn_19 : decode cX0_placeIn 19 = .ok (.iconst 1, 1) := dk_4 (dk_at dksX0_placeIn_0 19 rfl rfl)
theorem dX0_placeIn_20 : decode cX0_placeIn 20 = .ok (.ireturn, 1) := dk_172 (dk_at dksX0_placeIn_0 20 rfl rfl)
theorem dX0_placeIn_21 : decode cX0_placeIn 21 = .ok (.astore 6, 2) := dk_58 6 (dk_at dksX0_placeIn_0 21 rfl rfl)
theorem dX0_placeIn_23 : decode cX0_placeIn 23 = .ok (.iconst 2, 1) := dk_5 (dk_at dksX0_placeIn_0 23 rfl rfl)
theorem dX0_placeIn_24 : decode cX0_placeIn 24 = .ok (.ireturn, 1) := dk_172 (dk_at dksX0_placeIn_1 0 rfl rfl)
theorem dX0_placeIn_25 : decode cX0_placeIn 25 = .ok (.astore 6, 2) := dk_58 6 (dk_at dksX0_placeIn_1 1 rfl rfl)
theorem dX0_placeIn_27 : decode cX0_placeIn 27 = .ok (.iconst 3, 1) := dk_6 (dk_at dksX0_placeIn_1 3 rfl rfl)
theorem dX0_placeIn_28 : decode cX0_placeIn 28 = .ok (.ireturn, 1) := dk_172 (dk_at dksX0_placeIn_1 4 rfl rfl)
theorem dX0_placeIn_29 : decode cX0_placeIn 29 = .ok (.iconst 0, 1) := dk_3 (dk_at dksX0_placeIn_1 5 rfl rfl)
theorem dX0_placeIn_30 : decode cX0_placeIn 30 = .ok (.ireturn, 1) := dk_172 (dk_at dksX0_placeIn_1 6 rfl rfl)
abbrev cX0_result : ByteArray := method_34_code
def yX0_result : MethodName := ⟨RX0, "result", "(LScrutineery;II[J)I"⟩
def dkwX0_result_1 : List UInt8 := [172, 3, 172]
abbrev dktX0_result_1 : List UInt8 := dkwX0_result_1 ++ []
def dkwX0_result_0 : List UInt8 := [45, 3, 42, 27, 28, 182, 0, 120, 133, 80, 167, 0, 15, 58, 4, 4, 172, 58, 4, 5, 172, 58, 4, 6]
abbrev dktX0_result_0 : List UInt8 := dkwX0_result_0 ++ dktX0_result_1
theorem dksX0_result_0 : cX0_result.data.toList.drop 0 = dktX0_result_0 := by decide +kernel
theorem dksX0_result_1 : cX0_result.data.toList.drop 24 = dktX0_result_1 := dk_seg dksX0_result_0 24 rfl rfl
theorem dX0_result_0 : decode cX0_result 0 = .ok (.aload_n 3, 1) := dk_45 (dk_at dksX0_result_0 0 rfl rfl)
theorem dX0_result_1 : decode cX0_result 1 = .ok (.iconst 0, 1) := dk_3 (dk_at dksX0_result_0 1 rfl rfl)
theorem dX0_result_2 : decode cX0_result 2 = .ok (.aload_n 0, 1) := dk_42 (dk_at dksX0_result_0 2 rfl rfl)
theorem dX0_result_3 : decode cX0_result 3 = .ok (.iload_n 1, 1) := dk_27 (dk_at dksX0_result_0 3 rfl rfl)
theorem dX0_result_4 : decode cX0_result 4 = .ok (.iload_n 2, 1) := dk_28 (dk_at dksX0_result_0 4 rfl rfl)
theorem dX0_result_5 : decode cX0_result 5 = .ok (.invokevirtual 120, 3) := dk_182 0 120 (dk_at dksX0_result_0 5 rfl rfl)
theorem dX0_result_8 : decode cX0_result 8 = .ok (.i2l, 1) := dk_133 (dk_at dksX0_result_0 8 rfl rfl)
theorem dX0_result_9 : decode cX0_result 9 = .ok (.lastore, 1) := dk_80 (dk_at dksX0_result_0 9 rfl rfl)
theorem dX0_result_10 : decode cX0_result 10 = .ok (.goto 15, 3) := dk_167 0 15 (dk_at dksX0_result_0 10 rfl rfl)
theorem dX0_result_13 : decode cX0_result 13 = .ok (.astore 4, 2) := dk_58 4 (dk_at dksX0_result_0 13 rfl rfl)
theorem dX0_result_15 : decode cX0_result 15 = .ok (.iconst 1, 1) := dk_4 (dk_at dksX0_result_0 15 rfl rfl)
theorem dX0_result_16 : decode cX0_result 16 = .ok (.ireturn, 1) := dk_172 (dk_at dksX0_result_0 16 rfl rfl)
theorem dX0_result_17 : decode cX0_result 17 = .ok (.astore 4, 2) := dk_58 4 (dk_at dksX0_result_0 17 rfl rfl)
theorem dX0_result_19 : decode cX0_result 19 = .ok (.iconst 2, 1) := dk_5 (dk_at dksX0_result_0 19 rfl rfl)
theorem dX0_result_20 : decode cX0_result 20 = .ok (.ireturn, 1) := dk_172 (dk_at dksX0_result_0 20 rfl rfl)
theorem dX0_result_21 : decode cX0_result 21 = .ok (.astore 4, 2) := dk_58 4 (dk_at dksX0_result_0 21 rfl rfl)
theorem dX0_result_23 : decode cX0_result 23 = .ok (.iconst 3, 1) := dk_6 (dk_at dksX0_result_0 23 rfl rfl)
theorem dX0_result_24 : decode cX0_result 24 = .ok (.ireturn, 1) := dk_172 (dk_at dksX0_result_1 0 rfl rfl)
theorem dX0_result_25 : decode cX0_result 25 = .ok (.iconst 0, 1) := dk_3 (dk_at dksX0_result_1 1 rfl rfl)
theorem dX0_result_26 : decode cX0_result 26 = .ok (.ireturn, 1) := dk_172 (dk_at dksX0_result_1 2 rfl rfl)
abbrev cX0_alike : ByteArray := method_35_code
def yX0_alike : MethodName := ⟨RX0, "alike", "(LScrutineery;I[J)I"⟩
def dkwX0_alike_0 : List UInt8 := [44, 3, 42, 27, 182, 0, 123, 133, 80, 167, 0, 9, 78, 4, 172, 78, 5, 172, 3, 172]
abbrev dktX0_alike_0 : List UInt8 := dkwX0_alike_0 ++ []
theorem dksX0_alike_0 : cX0_alike.data.toList.drop 0 = dktX0_alike_0 := by decide +kernel
theorem dX0_alike_0 : decode cX0_alike 0 = .ok (.aload_n 2, 1) := dk_44 (dk_at dksX0_alike_0 0 rfl rfl)
theorem dX0_alike_1 : decode cX0_alike 1 = .ok (.iconst 0, 1) := dk_3 (dk_at dksX0_alike_0 1 rfl rfl)
theorem dX0_alike_2 : decode cX0_alike 2 = .ok (.aload_n 0, 1) := dk_42 (dk_at dksX0_alike_0 2 rfl rfl)
theorem dX0_alike_3 : decode cX0_alike 3 = .ok (.iload_n 1, 1) := dk_27 (dk_at dksX0_alike_0 3 rfl rfl)
theorem dX0_alike_4 : decode cX0_alike 4 = .ok (.invokevirtual 123, 3) := dk_182 0 123 (dk_at dksX0_alike_0 4 rfl rfl)
theorem dX0_alike_7 : decode cX0_alike 7 = .ok (.i2l, 1) := dk_133 (dk_at dksX0_alike_0 7 rfl rfl)
theorem dX0_alike_8 : decode cX0_alike 8 = .ok (.lastore, 1) := dk_80 (dk_at dksX0_alike_0 8 rfl rfl)
theorem dX0_alike_9 : decode cX0_alike 9 = .ok (.goto 9, 3) := dk_167 0 9 (dk_at dksX0_alike_0 9 rfl rfl)
theorem dX0_alike_12 : decode cX0_alike 12 = .ok (.astore_n 3, 1) := dk_78 (dk_at dksX0_alike_0 12 rfl rfl)
theorem dX0_alike_13 : decode cX0_alike 13 = .ok (.iconst 1, 1) := dk_4 (dk_at dksX0_alike_0 13 rfl rfl)
theorem dX0_alike_14 : decode cX0_alike 14 = .ok (.ireturn, 1) := dk_172 (dk_at dksX0_alike_0 14 rfl rfl)
theorem dX0_alike_15 : decode cX0_alike 15 = .ok (.astore_n 3, 1) := dk_78 (dk_at dksX0_alike_0 15 rfl rfl)
theorem dX0_alike_16 : decode cX0_alike 16 = .ok (.iconst 2, 1) := dk_5 (dk_at dksX0_alike_0 16 rfl rfl)
theorem dX0_alike_17 : decode cX0_alike 17 = .ok (.ireturn, 1) := dk_172 (dk_at dksX0_alike_0 17 rfl rfl)
theorem dX0_alike_18 : decode cX0_alike 18 = .ok (.iconst 0, 1) := dk_3 (dk_at dksX0_alike_0 18 rfl rfl)
theorem dX0_alike_19 : decode cX0_alike 19 = .ok (.ireturn, 1) := dk_172 (dk_at dksX0_alike_0 19 rfl rfl)
abbrev cX0_bias : ByteArray := method_36_code
def yX0_bias : MethodName := ⟨RX0, "bias", "(LScrutineery;II[J)I"⟩
def dkwX0_bias_0 : List UInt8 := [45, 3, 42, 27, 28, 182, 0, 126, 133, 80, 167, 0, 7, 58, 4, 4, 172, 3, 172]
abbrev dktX0_bias_0 : List UInt8 := dkwX0_bias_0 ++ []
theorem dksX0_bias_0 : cX0_bias.data.toList.drop 0 = dktX0_bias_0 := by decide +kernel
theorem dX0_bias_0 : decode cX0_bias 0 = .ok (.aload_n 3, 1) := dk_45 (dk_at dksX0_bias_0 0 rfl rfl)
theorem dX0_bias_1 : decode cX0_bias 1 = .ok (.iconst 0, 1) := dk_3 (dk_at dksX0_bias_0 1 rfl rfl)
theorem dX0_bias_2 : decode cX0_bias 2 = .ok (.aload_n 0, 1) := dk_42 (dk_at dksX0_bias_0 2 rfl rfl)
theorem dX0_bias_3 : decode cX0_bias 3 = .ok (.iload_n 1, 1) := dk_27 (dk_at dksX0_bias_0 3 rfl rfl)
theorem dX0_bias_4 : decode cX0_bias 4 = .ok (.iload_n 2, 1) := dk_28 (dk_at dksX0_bias_0 4 rfl rfl)
theorem dX0_bias_5 : decode cX0_bias 5 = .ok (.invokevirtual 126, 3) := dk_182 0 126 (dk_at dksX0_bias_0 5 rfl rfl)
theorem dX0_bias_8 : decode cX0_bias 8 = .ok (.i2l, 1) := dk_133 (dk_at dksX0_bias_0 8 rfl rfl)
theorem dX0_bias_9 : decode cX0_bias 9 = .ok (.lastore, 1) := dk_80 (dk_at dksX0_bias_0 9 rfl rfl)
theorem dX0_bias_10 : decode cX0_bias 10 = .ok (.goto 7, 3) := dk_167 0 7 (dk_at dksX0_bias_0 10 rfl rfl)
theorem dX0_bias_13 : decode cX0_bias 13 = .ok (.astore 4, 2) := dk_58 4 (dk_at dksX0_bias_0 13 rfl rfl)
theorem dX0_bias_15 : decode cX0_bias 15 = .ok (.iconst 1, 1) := dk_4 (dk_at dksX0_bias_0 15 rfl rfl)
theorem dX0_bias_16 : decode cX0_bias 16 = .ok (.ireturn, 1) := dk_172 (dk_at dksX0_bias_0 16 rfl rfl)
theorem dX0_bias_17 : decode cX0_bias 17 = .ok (.iconst 0, 1) := dk_3 (dk_at dksX0_bias_0 17 rfl rfl)
theorem dX0_bias_18 : decode cX0_bias 18 = .ok (.ireturn, 1) := dk_172 (dk_at dksX0_bias_0 18 rfl rfl)
abbrev cX0_formationAt : ByteArray := method_37_code
def yX0_formationAt : MethodName := ⟨RX0, "formationAt", "(LScrutineery;IZ[J)I"⟩
def dkwX0_formationAt_0 : List UInt8 := [45, 3, 42, 27, 28, 182, 0, 129, 133, 80, 167, 0, 7, 58, 4, 4, 172, 3, 172]
abbrev dktX0_formationAt_0 : List UInt8 := dkwX0_formationAt_0 ++ []
theorem dksX0_formationAt_0 : cX0_formationAt.data.toList.drop 0 = dktX0_formationAt_0 := by decide +kernel
theorem dX0_formationAt_0 : decode cX0_formationAt 0 = .ok (.aload_n 3, 1) := dk_45 (dk_at dksX0_formationAt_0 0 rfl rfl)
theorem dX0_formationAt_1 : decode cX0_formationAt 1 = .ok (.iconst 0, 1) := dk_3 (dk_at dksX0_formationAt_0 1 rfl rfl)
theorem dX0_formationAt_2 : decode cX0_formationAt 2 = .ok (.aload_n 0, 1) := dk_42 (dk_at dksX0_formationAt_0 2 rfl rfl)
theorem dX0_formationAt_3 : decode cX0_formationAt 3 = .ok (.iload_n 1, 1) := dk_27 (dk_at dksX0_formationAt_0 3 rfl rfl)
theorem dX0_formationAt_4 : decode cX0_formationAt 4 = .ok (.iload_n 2, 1) := dk_28 (dk_at dksX0_formationAt_0 4 rfl rfl)
theorem dX0_formationAt_5 : decode cX0_formationAt 5 = .ok (.invokevirtual 129, 3) := dk_182 0 129 (dk_at dksX0_formationAt_0 5 rfl rfl)
theorem dX0_formationAt_8 : decode cX0_formationAt 8 = .ok (.i2l, 1) := dk_133 (dk_at dksX0_formationAt_0 8 rfl rfl)
theorem dX0_formationAt_9 : decode cX0_formationAt 9 = .ok (.lastore, 1) := dk_80 (dk_at dksX0_formationAt_0 9 rfl rfl)
theorem dX0_formationAt_10 : decode cX0_formationAt 10 = .ok (.goto 7, 3) := dk_167 0 7 (dk_at dksX0_formationAt_0 10 rfl rfl)
theorem dX0_formationAt_13 : decode cX0_formationAt 13 = .ok (.astore 4, 2) := dk_58 4 (dk_at dksX0_formationAt_0 13 rfl rfl)
theorem dX0_formationAt_15 : decode cX0_formationAt 15 = .ok (.iconst 1, 1) := dk_4 (dk_at dksX0_formationAt_0 15 rfl rfl)
theorem dX0_formationAt_16 : decode cX0_formationAt 16 = .ok (.ireturn, 1) := dk_172 (dk_at dksX0_formationAt_0 16 rfl rfl)
theorem dX0_formationAt_17 : decode cX0_formationAt 17 = .ok (.iconst 0, 1) := dk_3 (dk_at dksX0_formationAt_0 17 rfl rfl)
theorem dX0_formationAt_18 : decode cX0_formationAt 18 = .ok (.ireturn, 1) := dk_172 (dk_at dksX0_formationAt_0 18 rfl rfl)
abbrev cX0_planned : ByteArray := method_38_code
def yX0_planned : MethodName := ⟨RX0, "planned", "(LScrutineery;II[J)I"⟩
def dkwX0_planned_0 : List UInt8 := [45, 3, 42, 27, 28, 182, 0, 133, 133, 80, 167, 0, 11, 58, 4, 4, 172, 58, 4, 5, 172, 3, 172]
abbrev dktX0_planned_0 : List UInt8 := dkwX0_planned_0 ++ []
theorem dksX0_planned_0 : cX0_planned.data.toList.drop 0 = dktX0_planned_0 := by decide +kernel
theorem dX0_planned_0 : decode cX0_planned 0 = .ok (.aload_n 3, 1) := dk_45 (dk_at dksX0_planned_0 0 rfl rfl)
theorem dX0_planned_1 : decode cX0_planned 1 = .ok (.iconst 0, 1) := dk_3 (dk_at dksX0_planned_0 1 rfl rfl)
theorem dX0_planned_2 : decode cX0_planned 2 = .ok (.aload_n 0, 1) := dk_42 (dk_at dksX0_planned_0 2 rfl rfl)
theorem dX0_planned_3 : decode cX0_planned 3 = .ok (.iload_n 1, 1) := dk_27 (dk_at dksX0_planned_0 3 rfl rfl)
theorem dX0_planned_4 : decode cX0_planned 4 = .ok (.iload_n 2, 1) := dk_28 (dk_at dksX0_planned_0 4 rfl rfl)
theorem dX0_planned_5 : decode cX0_planned 5 = .ok (.invokevirtual 133, 3) := dk_182 0 133 (dk_at dksX0_planned_0 5 rfl rfl)
theorem dX0_planned_8 : decode cX0_planned 8 = .ok (.i2l, 1) := dk_133 (dk_at dksX0_planned_0 8 rfl rfl)
theorem dX0_planned_9 : decode cX0_planned 9 = .ok (.lastore, 1) := dk_80 (dk_at dksX0_planned_0 9 rfl rfl)
theorem dX0_planned_10 : decode cX0_planned 10 = .ok (.goto 11, 3) := dk_167 0 11 (dk_at dksX0_planned_0 10 rfl rfl)
theorem dX0_planned_13 : decode cX0_planned 13 = .ok (.astore 4, 2) := dk_58 4 (dk_at dksX0_planned_0 13 rfl rfl)
theorem dX0_planned_15 : decode cX0_planned 15 = .ok (.iconst 1, 1) := dk_4 (dk_at dksX0_planned_0 15 rfl rfl)
theorem dX0_planned_16 : decode cX0_planned 16 = .ok (.ireturn, 1) := dk_172 (dk_at dksX0_planned_0 16 rfl rfl)
theorem dX0_planned_17 : decode cX0_planned 17 = .ok (.astore 4, 2) := dk_58 4 (dk_at dksX0_planned_0 17 rfl rfl)
theorem dX0_planned_19 : decode cX0_planned 19 = .ok (.iconst 2, 1) := dk_5 (dk_at dksX0_planned_0 19 rfl rfl)
theorem dX0_planned_20 : decode cX0_planned 20 = .ok (.ireturn, 1) := dk_172 (dk_at dksX0_planned_0 20 rfl rfl)
theorem dX0_planned_21 : decode cX0_planned 21 = .ok (.iconst 0, 1) := dk_3 (dk_at dksX0_planned_0 21 rfl rfl)
theorem dX0_planned_22 : decode cX0_planned 22 = .ok (.ireturn, 1) := dk_172 (dk_at dksX0_planned_0 22 rfl rfl)
abbrev cX0_ranked : ByteArray := method_39_code
def yX0_ranked : MethodName := ⟨RX0, "ranked", "(LScrutineery;II[J)I"⟩
def dkwX0_ranked_0 : List UInt8 := [45, 3, 42, 27, 28, 182, 0, 136, 133, 80, 167, 0, 11, 58, 4, 4, 172, 58, 4, 5, 172, 3, 172]
abbrev dktX0_ranked_0 : List UInt8 := dkwX0_ranked_0 ++ []
theorem dksX0_ranked_0 : cX0_ranked.data.toList.drop 0 = dktX0_ranked_0 := by decide +kernel
theorem dX0_ranked_0 : decode cX0_ranked 0 = .ok (.aload_n 3, 1) := dk_45 (dk_at dksX0_ranked_0 0 rfl rfl)
theorem dX0_ranked_1 : decode cX0_ranked 1 = .ok (.iconst 0, 1) := dk_3 (dk_at dksX0_ranked_0 1 rfl rfl)
theorem dX0_ranked_2 : decode cX0_ranked 2 = .ok (.aload_n 0, 1) := dk_42 (dk_at dksX0_ranked_0 2 rfl rfl)
theorem dX0_ranked_3 : decode cX0_ranked 3 = .ok (.iload_n 1, 1) := dk_27 (dk_at dksX0_ranked_0 3 rfl rfl)
theorem dX0_ranked_4 : decode cX0_ranked 4 = .ok (.iload_n 2, 1) := dk_28 (dk_at dksX0_ranked_0 4 rfl rfl)
theorem dX0_ranked_5 : decode cX0_ranked 5 = .ok (.invokevirtual 136, 3) := dk_182 0 136 (dk_at dksX0_ranked_0 5 rfl rfl)
theorem dX0_ranked_8 : decode cX0_ranked 8 = .ok (.i2l, 1) := dk_133 (dk_at dksX0_ranked_0 8 rfl rfl)
theorem dX0_ranked_9 : decode cX0_ranked 9 = .ok (.lastore, 1) := dk_80 (dk_at dksX0_ranked_0 9 rfl rfl)
theorem dX0_ranked_10 : decode cX0_ranked 10 = .ok (.goto 11, 3) := dk_167 0 11 (dk_at dksX0_ranked_0 10 rfl rfl)
theorem dX0_ranked_13 : decode cX0_ranked 13 = .ok (.astore 4, 2) := dk_58 4 (dk_at dksX0_ranked_0 13 rfl rfl)
theorem dX0_ranked_15 : decode cX0_ranked 15 = .ok (.iconst 1, 1) := dk_4 (dk_at dksX0_ranked_0 15 rfl rfl)
theorem dX0_ranked_16 : decode cX0_ranked 16 = .ok (.ireturn, 1) := dk_172 (dk_at dksX0_ranked_0 16 rfl rfl)
theorem dX0_ranked_17 : decode cX0_ranked 17 = .ok (.astore 4, 2) := dk_58 4 (dk_at dksX0_ranked_0 17 rfl rfl)
theorem dX0_ranked_19 : decode cX0_ranked 19 = .ok (.iconst 2, 1) := dk_5 (dk_at dksX0_ranked_0 19 rfl rfl)
theorem dX0_ranked_20 : decode cX0_ranked 20 = .ok (.ireturn, 1) := dk_172 (dk_at dksX0_ranked_0 20 rfl rfl)
theorem dX0_ranked_21 : decode cX0_ranked 21 = .ok (.iconst 0, 1) := dk_3 (dk_at dksX0_ranked_0 21 rfl rfl)
theorem dX0_ranked_22 : decode cX0_ranked 22 = .ok (.ireturn, 1) := dk_172 (dk_at dksX0_ranked_0 22 rfl rfl)
abbrev cX0_count : ByteArray := method_40_code
def yX0_count : MethodName := ⟨RX0, "count", "(LScrutineery;I[J)I"⟩
def dkwX0_count_0 : List UInt8 := [44, 3, 42, 27, 182, 0, 139, 133, 80, 167, 0, 6, 78, 4, 172, 3, 172]
abbrev dktX0_count_0 : List UInt8 := dkwX0_count_0 ++ []
theorem dksX0_count_0 : cX0_count.data.toList.drop 0 = dktX0_count_0 := by decide +kernel
theorem dX0_count_0 : decode cX0_count 0 = .ok (.aload_n 2, 1) := dk_44 (dk_at dksX0_count_0 0 rfl rfl)
theorem dX0_count_1 : decode cX0_count 1 = .ok (.iconst 0, 1) := dk_3 (dk_at dksX0_count_0 1 rfl rfl)
theorem dX0_count_2 : decode cX0_count 2 = .ok (.aload_n 0, 1) := dk_42 (dk_at dksX0_count_0 2 rfl rfl)
theorem dX0_count_3 : decode cX0_count 3 = .ok (.iload_n 1, 1) := dk_27 (dk_at dksX0_count_0 3 rfl rfl)
theorem dX0_count_4 : decode cX0_count 4 = .ok (.invokevirtual 139, 3) := dk_182 0 139 (dk_at dksX0_count_0 4 rfl rfl)
theorem dX0_count_7 : decode cX0_count 7 = .ok (.i2l, 1) := dk_133 (dk_at dksX0_count_0 7 rfl rfl)
theorem dX0_count_8 : decode cX0_count 8 = .ok (.lastore, 1) := dk_80 (dk_at dksX0_count_0 8 rfl rfl)
theorem dX0_count_9 : decode cX0_count 9 = .ok (.goto 6, 3) := dk_167 0 6 (dk_at dksX0_count_0 9 rfl rfl)
theorem dX0_count_12 : decode cX0_count 12 = .ok (.astore_n 3, 1) := dk_78 (dk_at dksX0_count_0 12 rfl rfl)
theorem dX0_count_13 : decode cX0_count 13 = .ok (.iconst 1, 1) := dk_4 (dk_at dksX0_count_0 13 rfl rfl)
theorem dX0_count_14 : decode cX0_count 14 = .ok (.ireturn, 1) := dk_172 (dk_at dksX0_count_0 14 rfl rfl)
theorem dX0_count_15 : decode cX0_count 15 = .ok (.iconst 0, 1) := dk_3 (dk_at dksX0_count_0 15 rfl rfl)
theorem dX0_count_16 : decode cX0_count 16 = .ok (.ireturn, 1) := dk_172 (dk_at dksX0_count_0 16 rfl rfl)
theorem q110 : (Jvm.Cond.initialized "ScrutineeryLaw") ∈ lw_all := lw_g (lw_at lw_m1 0 rfl) rfl
theorem q153 : (Jvm.Cond.classLink "ScrutineeryLaw" (8 : Nat) "Scrutineery") ∈ lw_all := lw_g (lw_at lw_m1 43 rfl) rfl
theorem q155 : (Jvm.Cond.methodLink "ScrutineeryLaw" (142 : Nat) ({ cls := "Scrutineery", name := "<init>", desc := "()V" } : Jvm.MethodName)) ∈ lw_all := lw_g (lw_at lw_m1 45 rfl) rfl
theorem q241 : (Jvm.Cond.methodLink "ScrutineeryLaw" (146 : Nat) ({ cls := "Scrutineery", name := "begin", desc := "()I" } : Jvm.MethodName)) ∈ lw_all := lw_g (lw_at lw_m1 131 rfl) rfl
theorem q254 : (Jvm.Cond.methodLink "ScrutineeryLaw" (276 : Nat) ({ cls := "Scrutineery", name := "cause", desc := "(I)I" } : Jvm.MethodName)) ∈ lw_all := lw_g (lw_at lw_m1 144 rfl) rfl
theorem q285 : (Jvm.Cond.methodLink "ScrutineeryLaw" (283 : Nat) ({ cls := "Scrutineery", name := "errors", desc := "()I" } : Jvm.MethodName)) ∈ lw_all := lw_g (lw_at lw_m1 175 rfl) rfl
theorem q729 : (Jvm.Cond.methodLink "ScrutineeryLaw" (287 : Nat) ({ cls := "Scrutineery", name := "meanAge", desc := "()D" } : Jvm.MethodName)) ∈ lw_all := lw_g (lw_at lw_m3 139 rfl) rfl
theorem q736 : (Jvm.Cond.methodLink "ScrutineeryLaw" (292 : Nat) ({ cls := "Scrutineery", name := "decidedShare", desc := "()F" } : Jvm.MethodName)) ∈ lw_all := lw_g (lw_at lw_m3 146 rfl) rfl
theorem q763 : (Jvm.Cond.methodLink "ScrutineeryLaw" (151 : Nat) ({ cls := "ScrutineeryLaw", name := "pass", desc := "(LScrutineery;I[J)I" } : Jvm.MethodName)) ∈ lw_all := lw_g (lw_at lw_m3 173 rfl) rfl
theorem q764 : (Jvm.Cond.static ({ cls := "ScrutineeryLaw", name := "pass", desc := "(LScrutineery;I[J)I" } : Jvm.MethodName)) ∈ lw_all := lw_g (lw_at lw_m3 174 rfl) rfl
theorem q765 : (Jvm.Cond.codeWith ({ cls := "ScrutineeryLaw", name := "pass", desc := "(LScrutineery;I[J)I" } : Jvm.MethodName) method_3_code (4 : Nat) (Option.some Jvm.ClassFile.FieldType.int) [((0 : Nat), (9 : Nat), (12 : Nat), (13 : Nat)), ((0 : Nat), (9 : Nat), (15 : Nat), (15 : Nat))]) ∈ lw_all := lw_g (lw_at lw_m3 175 rfl) rfl
theorem q766 : (Jvm.Cond.classLink "ScrutineeryLaw" (13 : Nat) "java/lang/IllegalArgumentException") ∈ lw_all := lw_g (lw_at lw_m3 176 rfl) rfl
theorem q767 : (Jvm.Cond.classLink "ScrutineeryLaw" (15 : Nat) "java/lang/IllegalStateException") ∈ lw_all := lw_g (lw_at lw_m3 177 rfl) rfl
theorem q768 : (Jvm.Cond.methodLink "ScrutineeryLaw" (7 : Nat) ({ cls := "Scrutineery", name := "pass", desc := "(I)I" } : Jvm.MethodName)) ∈ lw_all := lw_g (lw_at lw_m3 178 rfl) rfl
theorem q790 : (Jvm.Cond.methodLink "ScrutineeryLaw" (160 : Nat) ({ cls := "ScrutineeryLaw", name := "person", desc := "(LScrutineery;I[J)I" } : Jvm.MethodName)) ∈ lw_all := lw_g (lw_at lw_m3 200 rfl) rfl
theorem q791 : (Jvm.Cond.static ({ cls := "ScrutineeryLaw", name := "person", desc := "(LScrutineery;I[J)I" } : Jvm.MethodName)) ∈ lw_all := lw_g (lw_at lw_m3 201 rfl) rfl
theorem q792 : (Jvm.Cond.codeWith ({ cls := "ScrutineeryLaw", name := "person", desc := "(LScrutineery;I[J)I" } : Jvm.MethodName) method_4_code (4 : Nat) (Option.some Jvm.ClassFile.FieldType.int) [((0 : Nat), (9 : Nat), (12 : Nat), (13 : Nat)), ((0 : Nat), (9 : Nat), (15 : Nat), (15 : Nat))]) ∈ lw_all := lw_g (lw_at lw_m3 202 rfl) rfl
theorem q793 : (Jvm.Cond.methodLink "ScrutineeryLaw" (17 : Nat) ({ cls := "Scrutineery", name := "person", desc := "(I)I" } : Jvm.MethodName)) ∈ lw_all := lw_g (lw_at lw_m3 203 rfl) rfl
theorem q843 : (Jvm.Cond.methodLink "ScrutineeryLaw" (163 : Nat) ({ cls := "ScrutineeryLaw", name := "licence", desc := "(LScrutineery;II[J)I" } : Jvm.MethodName)) ∈ lw_all := lw_g (lw_at lw_m4 13 rfl) rfl
theorem q844 : (Jvm.Cond.static ({ cls := "ScrutineeryLaw", name := "licence", desc := "(LScrutineery;II[J)I" } : Jvm.MethodName)) ∈ lw_all := lw_g (lw_at lw_m4 14 rfl) rfl
theorem q845 : (Jvm.Cond.codeWith ({ cls := "ScrutineeryLaw", name := "licence", desc := "(LScrutineery;II[J)I" } : Jvm.MethodName) method_5_code (5 : Nat) (Option.some Jvm.ClassFile.FieldType.int) [((0 : Nat), (10 : Nat), (13 : Nat), (24 : Nat)), ((0 : Nat), (10 : Nat), (17 : Nat), (13 : Nat))]) ∈ lw_all := lw_g (lw_at lw_m4 15 rfl) rfl
theorem q846 : (Jvm.Cond.classLink "ScrutineeryLaw" (24 : Nat) "java/lang/IndexOutOfBoundsException") ∈ lw_all := lw_g (lw_at lw_m4 16 rfl) rfl
theorem q879 : (Jvm.Cond.methodLink "ScrutineeryLaw" (20 : Nat) ({ cls := "Scrutineery", name := "licence", desc := "(II)I" } : Jvm.MethodName)) ∈ lw_all := lw_g (lw_at lw_m4 49 rfl) rfl
theorem q904 : (Jvm.Cond.methodLink "ScrutineeryLaw" (167 : Nat) ({ cls := "ScrutineeryLaw", name := "kin", desc := "(LScrutineery;II[J)I" } : Jvm.MethodName)) ∈ lw_all := lw_g (lw_at lw_m4 74 rfl) rfl
theorem q905 : (Jvm.Cond.static ({ cls := "ScrutineeryLaw", name := "kin", desc := "(LScrutineery;II[J)I" } : Jvm.MethodName)) ∈ lw_all := lw_g (lw_at lw_m4 75 rfl) rfl
theorem q906 : (Jvm.Cond.codeWith ({ cls := "ScrutineeryLaw", name := "kin", desc := "(LScrutineery;II[J)I" } : Jvm.MethodName) method_6_code (5 : Nat) (Option.some Jvm.ClassFile.FieldType.int) [((0 : Nat), (17 : Nat), (20 : Nat), (24 : Nat)), ((0 : Nat), (17 : Nat), (24 : Nat), (13 : Nat))]) ∈ lw_all := lw_g (lw_at lw_m4 76 rfl) rfl
theorem q907 : (Jvm.Cond.methodLink "ScrutineeryLaw" (26 : Nat) ({ cls := "Scrutineery", name := "kin", desc := "(II)Z" } : Jvm.MethodName)) ∈ lw_all := lw_g (lw_at lw_m4 77 rfl) rfl
theorem q913 : (Jvm.Cond.methodLink "ScrutineeryLaw" (170 : Nat) ({ cls := "ScrutineeryLaw", name := "lesson", desc := "(LScrutineery;II[J)I" } : Jvm.MethodName)) ∈ lw_all := lw_g (lw_at lw_m4 83 rfl) rfl
theorem q914 : (Jvm.Cond.static ({ cls := "ScrutineeryLaw", name := "lesson", desc := "(LScrutineery;II[J)I" } : Jvm.MethodName)) ∈ lw_all := lw_g (lw_at lw_m4 84 rfl) rfl
theorem q915 : (Jvm.Cond.codeWith ({ cls := "ScrutineeryLaw", name := "lesson", desc := "(LScrutineery;II[J)I" } : Jvm.MethodName) method_7_code (5 : Nat) (Option.some Jvm.ClassFile.FieldType.int) [((0 : Nat), (17 : Nat), (20 : Nat), (24 : Nat)), ((0 : Nat), (17 : Nat), (24 : Nat), (13 : Nat)), ((0 : Nat), (17 : Nat), (28 : Nat), (15 : Nat))]) ∈ lw_all := lw_g (lw_at lw_m4 85 rfl) rfl
theorem q916 : (Jvm.Cond.methodLink "ScrutineeryLaw" (30 : Nat) ({ cls := "Scrutineery", name := "lesson", desc := "(II)Z" } : Jvm.MethodName)) ∈ lw_all := lw_g (lw_at lw_m4 86 rfl) rfl
theorem q945 : (Jvm.Cond.methodLink "ScrutineeryLaw" (173 : Nat) ({ cls := "ScrutineeryLaw", name := "suspend", desc := "(LScrutineery;II[J)I" } : Jvm.MethodName)) ∈ lw_all := lw_g (lw_at lw_m4 115 rfl) rfl
theorem q946 : (Jvm.Cond.static ({ cls := "ScrutineeryLaw", name := "suspend", desc := "(LScrutineery;II[J)I" } : Jvm.MethodName)) ∈ lw_all := lw_g (lw_at lw_m4 116 rfl) rfl
theorem q947 : (Jvm.Cond.codeWith ({ cls := "ScrutineeryLaw", name := "suspend", desc := "(LScrutineery;II[J)I" } : Jvm.MethodName) method_8_code (5 : Nat) (Option.some Jvm.ClassFile.FieldType.int) [((0 : Nat), (10 : Nat), (13 : Nat), (24 : Nat)), ((0 : Nat), (10 : Nat), (17 : Nat), (13 : Nat))]) ∈ lw_all := lw_g (lw_at lw_m4 117 rfl) rfl
theorem q948 : (Jvm.Cond.methodLink "ScrutineeryLaw" (33 : Nat) ({ cls := "Scrutineery", name := "suspend", desc := "(II)I" } : Jvm.MethodName)) ∈ lw_all := lw_g (lw_at lw_m4 118 rfl) rfl
theorem q953 : (Jvm.Cond.methodLink "ScrutineeryLaw" (176 : Nat) ({ cls := "ScrutineeryLaw", name := "dress", desc := "(LScrutineery;II[J)I" } : Jvm.MethodName)) ∈ lw_all := lw_g (lw_at lw_m4 123 rfl) rfl
theorem q954 : (Jvm.Cond.static ({ cls := "ScrutineeryLaw", name := "dress", desc := "(LScrutineery;II[J)I" } : Jvm.MethodName)) ∈ lw_all := lw_g (lw_at lw_m4 124 rfl) rfl
theorem q955 : (Jvm.Cond.codeWith ({ cls := "ScrutineeryLaw", name := "dress", desc := "(LScrutineery;II[J)I" } : Jvm.MethodName) method_9_code (5 : Nat) (Option.some Jvm.ClassFile.FieldType.int) [((0 : Nat), (10 : Nat), (13 : Nat), (24 : Nat)), ((0 : Nat), (10 : Nat), (17 : Nat), (13 : Nat))]) ∈ lw_all := lw_g (lw_at lw_m4 125 rfl) rfl
theorem q956 : (Jvm.Cond.methodLink "ScrutineeryLaw" (36 : Nat) ({ cls := "Scrutineery", name := "dress", desc := "(II)I" } : Jvm.MethodName)) ∈ lw_all := lw_g (lw_at lw_m4 126 rfl) rfl
theorem q965 : (Jvm.Cond.methodLink "ScrutineeryLaw" (179 : Nat) ({ cls := "ScrutineeryLaw", name := "test", desc := "(LScrutineery;III[J)I" } : Jvm.MethodName)) ∈ lw_all := lw_g (lw_at lw_m4 135 rfl) rfl
theorem q966 : (Jvm.Cond.static ({ cls := "ScrutineeryLaw", name := "test", desc := "(LScrutineery;III[J)I" } : Jvm.MethodName)) ∈ lw_all := lw_g (lw_at lw_m4 136 rfl) rfl
theorem q967 : (Jvm.Cond.codeWith ({ cls := "ScrutineeryLaw", name := "test", desc := "(LScrutineery;III[J)I" } : Jvm.MethodName) method_10_code (6 : Nat) (Option.some Jvm.ClassFile.FieldType.int) [((0 : Nat), (12 : Nat), (15 : Nat), (24 : Nat)), ((0 : Nat), (12 : Nat), (19 : Nat), (13 : Nat)), ((0 : Nat), (12 : Nat), (23 : Nat), (15 : Nat))]) ∈ lw_all := lw_g (lw_at lw_m4 137 rfl) rfl
theorem q968 : (Jvm.Cond.methodLink "ScrutineeryLaw" (39 : Nat) ({ cls := "Scrutineery", name := "test", desc := "(III)I" } : Jvm.MethodName)) ∈ lw_all := lw_g (lw_at lw_m4 138 rfl) rfl
theorem q988 : (Jvm.Cond.methodLink "ScrutineeryLaw" (183 : Nat) ({ cls := "ScrutineeryLaw", name := "couple", desc := "(LScrutineery;II[J)I" } : Jvm.MethodName)) ∈ lw_all := lw_g (lw_at lw_m4 158 rfl) rfl
theorem q989 : (Jvm.Cond.static ({ cls := "ScrutineeryLaw", name := "couple", desc := "(LScrutineery;II[J)I" } : Jvm.MethodName)) ∈ lw_all := lw_g (lw_at lw_m4 159 rfl) rfl
theorem q990 : (Jvm.Cond.codeWith ({ cls := "ScrutineeryLaw", name := "couple", desc := "(LScrutineery;II[J)I" } : Jvm.MethodName) method_11_code (5 : Nat) (Option.some Jvm.ClassFile.FieldType.int) [((0 : Nat), (10 : Nat), (13 : Nat), (24 : Nat)), ((0 : Nat), (10 : Nat), (17 : Nat), (13 : Nat)), ((0 : Nat), (10 : Nat), (21 : Nat), (15 : Nat))]) ∈ lw_all := lw_g (lw_at lw_m4 160 rfl) rfl
theorem q991 : (Jvm.Cond.methodLink "ScrutineeryLaw" (43 : Nat) ({ cls := "Scrutineery", name := "couple", desc := "(II)I" } : Jvm.MethodName)) ∈ lw_all := lw_g (lw_at lw_m4 161 rfl) rfl
theorem q1031 : (Jvm.Cond.methodLink "ScrutineeryLaw" (186 : Nat) ({ cls := "ScrutineeryLaw", name := "part", desc := "(LScrutineery;I[J)I" } : Jvm.MethodName)) ∈ lw_all := lw_g (lw_at lw_m4 201 rfl) rfl
theorem q1032 : (Jvm.Cond.static ({ cls := "ScrutineeryLaw", name := "part", desc := "(LScrutineery;I[J)I" } : Jvm.MethodName)) ∈ lw_all := lw_g (lw_at lw_m4 202 rfl) rfl
theorem q1033 : (Jvm.Cond.codeWith ({ cls := "ScrutineeryLaw", name := "part", desc := "(LScrutineery;I[J)I" } : Jvm.MethodName) method_12_code (4 : Nat) (Option.some Jvm.ClassFile.FieldType.int) [((0 : Nat), (16 : Nat), (19 : Nat), (24 : Nat))]) ∈ lw_all := lw_g (lw_at lw_m4 203 rfl) rfl
theorem q1034 : (Jvm.Cond.methodLink "ScrutineeryLaw" (46 : Nat) ({ cls := "Scrutineery", name := "part", desc := "(I)Z" } : Jvm.MethodName)) ∈ lw_all := lw_g (lw_at lw_m4 204 rfl) rfl
theorem q1038 : (Jvm.Cond.methodLink "ScrutineeryLaw" (189 : Nat) ({ cls := "ScrutineeryLaw", name := "event", desc := "(LScrutineery;IIIIIZ[J)I" } : Jvm.MethodName)) ∈ lw_all := lw_g (lw_at lw_m4 208 rfl) rfl
theorem q1039 : (Jvm.Cond.static ({ cls := "ScrutineeryLaw", name := "event", desc := "(LScrutineery;IIIIIZ[J)I" } : Jvm.MethodName)) ∈ lw_all := lw_g (lw_at lw_m4 209 rfl) rfl
theorem q1040 : (Jvm.Cond.codeWith ({ cls := "ScrutineeryLaw", name := "event", desc := "(LScrutineery;IIIIIZ[J)I" } : Jvm.MethodName) method_13_code (9 : Nat) (Option.some Jvm.ClassFile.FieldType.int) [((0 : Nat), (18 : Nat), (21 : Nat), (13 : Nat)), ((0 : Nat), (18 : Nat), (25 : Nat), (15 : Nat))]) ∈ lw_all := lw_g (lw_at lw_m4 210 rfl) rfl
theorem q1041 : (Jvm.Cond.methodLink "ScrutineeryLaw" (50 : Nat) ({ cls := "Scrutineery", name := "event", desc := "(IIIIIZ)I" } : Jvm.MethodName)) ∈ lw_all := lw_g (lw_at lw_m4 211 rfl) rfl
theorem q1159 : (Jvm.Cond.methodLink "ScrutineeryLaw" (193 : Nat) ({ cls := "ScrutineeryLaw", name := "rules", desc := "(LScrutineery;IIIII[J)I" } : Jvm.MethodName)) ∈ lw_all := lw_g (lw_at lw_m5 89 rfl) rfl
theorem q1160 : (Jvm.Cond.static ({ cls := "ScrutineeryLaw", name := "rules", desc := "(LScrutineery;IIIII[J)I" } : Jvm.MethodName)) ∈ lw_all := lw_g (lw_at lw_m5 90 rfl) rfl
theorem q1161 : (Jvm.Cond.codeWith ({ cls := "ScrutineeryLaw", name := "rules", desc := "(LScrutineery;IIIII[J)I" } : Jvm.MethodName) method_14_code (8 : Nat) (Option.some Jvm.ClassFile.FieldType.int) [((0 : Nat), (16 : Nat), (19 : Nat), (24 : Nat)), ((0 : Nat), (16 : Nat), (23 : Nat), (13 : Nat)), ((0 : Nat), (16 : Nat), (27 : Nat), (15 : Nat))]) ∈ lw_all := lw_g (lw_at lw_m5 91 rfl) rfl
theorem q1162 : (Jvm.Cond.methodLink "ScrutineeryLaw" (54 : Nat) ({ cls := "Scrutineery", name := "rules", desc := "(IIIII)I" } : Jvm.MethodName)) ∈ lw_all := lw_g (lw_at lw_m5 92 rfl) rfl
theorem q1166 : (Jvm.Cond.methodLink "ScrutineeryLaw" (197 : Nat) ({ cls := "ScrutineeryLaw", name := "enter", desc := "(LScrutineery;II[J)I" } : Jvm.MethodName)) ∈ lw_all := lw_g (lw_at lw_m5 96 rfl) rfl
theorem q1167 : (Jvm.Cond.static ({ cls := "ScrutineeryLaw", name := "enter", desc := "(LScrutineery;II[J)I" } : Jvm.MethodName)) ∈ lw_all := lw_g (lw_at lw_m5 97 rfl) rfl
theorem q1168 : (Jvm.Cond.codeWith ({ cls := "ScrutineeryLaw", name := "enter", desc := "(LScrutineery;II[J)I" } : Jvm.MethodName) method_15_code (5 : Nat) (Option.some Jvm.ClassFile.FieldType.int) [((0 : Nat), (10 : Nat), (13 : Nat), (24 : Nat)), ((0 : Nat), (10 : Nat), (17 : Nat), (15 : Nat))]) ∈ lw_all := lw_g (lw_at lw_m5 98 rfl) rfl
theorem q1169 : (Jvm.Cond.methodLink "ScrutineeryLaw" (58 : Nat) ({ cls := "Scrutineery", name := "enter", desc := "(II)I" } : Jvm.MethodName)) ∈ lw_all := lw_g (lw_at lw_m5 99 rfl) rfl
theorem q1293 : (Jvm.Cond.methodLink "ScrutineeryLaw" (200 : Nat) ({ cls := "ScrutineeryLaw", name := "scratch", desc := "(LScrutineery;II[J)I" } : Jvm.MethodName)) ∈ lw_all := lw_g (lw_at lw_m5 223 rfl) rfl
theorem q1294 : (Jvm.Cond.static ({ cls := "ScrutineeryLaw", name := "scratch", desc := "(LScrutineery;II[J)I" } : Jvm.MethodName)) ∈ lw_all := lw_g (lw_at lw_m5 224 rfl) rfl
theorem q1295 : (Jvm.Cond.codeWith ({ cls := "ScrutineeryLaw", name := "scratch", desc := "(LScrutineery;II[J)I" } : Jvm.MethodName) method_16_code (5 : Nat) (Option.some Jvm.ClassFile.FieldType.int) [((0 : Nat), (10 : Nat), (13 : Nat), (24 : Nat)), ((0 : Nat), (10 : Nat), (17 : Nat), (15 : Nat))]) ∈ lw_all := lw_g (lw_at lw_m5 225 rfl) rfl
theorem q1296 : (Jvm.Cond.methodLink "ScrutineeryLaw" (61 : Nat) ({ cls := "Scrutineery", name := "scratch", desc := "(II)I" } : Jvm.MethodName)) ∈ lw_all := lw_g (lw_at lw_m5 226 rfl) rfl
theorem q1305 : (Jvm.Cond.methodLink "ScrutineeryLaw" (203 : Nat) ({ cls := "ScrutineeryLaw", name := "apart", desc := "(LScrutineery;III[J)I" } : Jvm.MethodName)) ∈ lw_all := lw_g (lw_at lw_m5 235 rfl) rfl
theorem q1306 : (Jvm.Cond.static ({ cls := "ScrutineeryLaw", name := "apart", desc := "(LScrutineery;III[J)I" } : Jvm.MethodName)) ∈ lw_all := lw_g (lw_at lw_m5 236 rfl) rfl
theorem q1307 : (Jvm.Cond.codeWith ({ cls := "ScrutineeryLaw", name := "apart", desc := "(LScrutineery;III[J)I" } : Jvm.MethodName) method_17_code (6 : Nat) (Option.some Jvm.ClassFile.FieldType.int) [((0 : Nat), (12 : Nat), (15 : Nat), (24 : Nat)), ((0 : Nat), (12 : Nat), (19 : Nat), (13 : Nat))]) ∈ lw_all := lw_g (lw_at lw_m5 237 rfl) rfl
theorem q1308 : (Jvm.Cond.methodLink "ScrutineeryLaw" (64 : Nat) ({ cls := "Scrutineery", name := "apart", desc := "(III)I" } : Jvm.MethodName)) ∈ lw_all := lw_g (lw_at lw_m5 238 rfl) rfl
theorem q1341 : (Jvm.Cond.methodLink "ScrutineeryLaw" (206 : Nat) ({ cls := "ScrutineeryLaw", name := "draw", desc := "(LScrutineery;IIII[J)I" } : Jvm.MethodName)) ∈ lw_all := lw_g (lw_at lw_m6 31 rfl) rfl
theorem q1342 : (Jvm.Cond.static ({ cls := "ScrutineeryLaw", name := "draw", desc := "(LScrutineery;IIII[J)I" } : Jvm.MethodName)) ∈ lw_all := lw_g (lw_at lw_m6 32 rfl) rfl
theorem q1343 : (Jvm.Cond.codeWith ({ cls := "ScrutineeryLaw", name := "draw", desc := "(LScrutineery;IIII[J)I" } : Jvm.MethodName) method_18_code (7 : Nat) (Option.some Jvm.ClassFile.FieldType.int) [((0 : Nat), (14 : Nat), (17 : Nat), (24 : Nat)), ((0 : Nat), (14 : Nat), (21 : Nat), (13 : Nat)), ((0 : Nat), (14 : Nat), (25 : Nat), (15 : Nat))]) ∈ lw_all := lw_g (lw_at lw_m6 33 rfl) rfl
theorem q1344 : (Jvm.Cond.methodLink "ScrutineeryLaw" (67 : Nat) ({ cls := "Scrutineery", name := "draw", desc := "(IIII)I" } : Jvm.MethodName)) ∈ lw_all := lw_g (lw_at lw_m6 34 rfl) rfl
theorem q1365 : (Jvm.Cond.methodLink "ScrutineeryLaw" (210 : Nat) ({ cls := "ScrutineeryLaw", name := "mark", desc := "(LScrutineery;IIII[J)I" } : Jvm.MethodName)) ∈ lw_all := lw_g (lw_at lw_m6 55 rfl) rfl
theorem q1366 : (Jvm.Cond.static ({ cls := "ScrutineeryLaw", name := "mark", desc := "(LScrutineery;IIII[J)I" } : Jvm.MethodName)) ∈ lw_all := lw_g (lw_at lw_m6 56 rfl) rfl
theorem q1367 : (Jvm.Cond.codeWith ({ cls := "ScrutineeryLaw", name := "mark", desc := "(LScrutineery;IIII[J)I" } : Jvm.MethodName) method_19_code (7 : Nat) (Option.some Jvm.ClassFile.FieldType.int) [((0 : Nat), (14 : Nat), (17 : Nat), (24 : Nat)), ((0 : Nat), (14 : Nat), (21 : Nat), (13 : Nat)), ((0 : Nat), (14 : Nat), (25 : Nat), (15 : Nat))]) ∈ lw_all := lw_g (lw_at lw_m6 57 rfl) rfl
theorem q1368 : (Jvm.Cond.methodLink "ScrutineeryLaw" (71 : Nat) ({ cls := "Scrutineery", name := "mark", desc := "(IIII)I" } : Jvm.MethodName)) ∈ lw_all := lw_g (lw_at lw_m6 58 rfl) rfl
theorem q1428 : (Jvm.Cond.methodLink "ScrutineeryLaw" (213 : Nat) ({ cls := "ScrutineeryLaw", name := "value", desc := "(LScrutineery;IIIIII[J)I" } : Jvm.MethodName)) ∈ lw_all := lw_g (lw_at lw_m6 118 rfl) rfl
theorem q1429 : (Jvm.Cond.static ({ cls := "ScrutineeryLaw", name := "value", desc := "(LScrutineery;IIIIII[J)I" } : Jvm.MethodName)) ∈ lw_all := lw_g (lw_at lw_m6 119 rfl) rfl
theorem q1430 : (Jvm.Cond.codeWith ({ cls := "ScrutineeryLaw", name := "value", desc := "(LScrutineery;IIIIII[J)I" } : Jvm.MethodName) method_20_code (9 : Nat) (Option.some Jvm.ClassFile.FieldType.int) [((0 : Nat), (18 : Nat), (21 : Nat), (24 : Nat)), ((0 : Nat), (18 : Nat), (25 : Nat), (13 : Nat)), ((0 : Nat), (18 : Nat), (29 : Nat), (15 : Nat))]) ∈ lw_all := lw_g (lw_at lw_m6 120 rfl) rfl
theorem q1431 : (Jvm.Cond.methodLink "ScrutineeryLaw" (74 : Nat) ({ cls := "Scrutineery", name := "value", desc := "(IIIIII)I" } : Jvm.MethodName)) ∈ lw_all := lw_g (lw_at lw_m6 121 rfl) rfl
theorem q1702 : (Jvm.Cond.methodLink "ScrutineeryLaw" (217 : Nat) ({ cls := "ScrutineeryLaw", name := "close", desc := "(LScrutineery;I[J)I" } : Jvm.MethodName)) ∈ lw_all := lw_g (lw_at lw_m7 152 rfl) rfl
theorem q1703 : (Jvm.Cond.static ({ cls := "ScrutineeryLaw", name := "close", desc := "(LScrutineery;I[J)I" } : Jvm.MethodName)) ∈ lw_all := lw_g (lw_at lw_m7 153 rfl) rfl
theorem q1704 : (Jvm.Cond.codeWith ({ cls := "ScrutineeryLaw", name := "close", desc := "(LScrutineery;I[J)I" } : Jvm.MethodName) method_21_code (4 : Nat) (Option.some Jvm.ClassFile.FieldType.int) [((0 : Nat), (9 : Nat), (12 : Nat), (24 : Nat)), ((0 : Nat), (9 : Nat), (15 : Nat), (15 : Nat))]) ∈ lw_all := lw_g (lw_at lw_m7 154 rfl) rfl
theorem q1705 : (Jvm.Cond.methodLink "ScrutineeryLaw" (78 : Nat) ({ cls := "Scrutineery", name := "close", desc := "(I)I" } : Jvm.MethodName)) ∈ lw_all := lw_g (lw_at lw_m7 155 rfl) rfl
theorem q1863 : (Jvm.Cond.methodLink "ScrutineeryLaw" (220 : Nat) ({ cls := "ScrutineeryLaw", name := "formation", desc := "(LScrutineery;IIII[J)I" } : Jvm.MethodName)) ∈ lw_all := lw_g (lw_at lw_m8 73 rfl) rfl
theorem q1864 : (Jvm.Cond.static ({ cls := "ScrutineeryLaw", name := "formation", desc := "(LScrutineery;IIII[J)I" } : Jvm.MethodName)) ∈ lw_all := lw_g (lw_at lw_m8 74 rfl) rfl
theorem q1865 : (Jvm.Cond.codeWith ({ cls := "ScrutineeryLaw", name := "formation", desc := "(LScrutineery;IIII[J)I" } : Jvm.MethodName) method_22_code (7 : Nat) (Option.some Jvm.ClassFile.FieldType.int) [((0 : Nat), (14 : Nat), (17 : Nat), (13 : Nat)), ((0 : Nat), (14 : Nat), (21 : Nat), (15 : Nat))]) ∈ lw_all := lw_g (lw_at lw_m8 75 rfl) rfl
theorem q1866 : (Jvm.Cond.methodLink "ScrutineeryLaw" (81 : Nat) ({ cls := "Scrutineery", name := "formation", desc := "(IIII)I" } : Jvm.MethodName)) ∈ lw_all := lw_g (lw_at lw_m8 76 rfl) rfl
theorem q1885 : (Jvm.Cond.methodLink "ScrutineeryLaw" (223 : Nat) ({ cls := "ScrutineeryLaw", name := "music", desc := "(LScrutineery;IIII[J)I" } : Jvm.MethodName)) ∈ lw_all := lw_g (lw_at lw_m8 95 rfl) rfl
theorem q1886 : (Jvm.Cond.static ({ cls := "ScrutineeryLaw", name := "music", desc := "(LScrutineery;IIII[J)I" } : Jvm.MethodName)) ∈ lw_all := lw_g (lw_at lw_m8 96 rfl) rfl
theorem q1887 : (Jvm.Cond.codeWith ({ cls := "ScrutineeryLaw", name := "music", desc := "(LScrutineery;IIII[J)I" } : Jvm.MethodName) method_23_code (7 : Nat) (Option.some Jvm.ClassFile.FieldType.int) [((0 : Nat), (14 : Nat), (17 : Nat), (13 : Nat))]) ∈ lw_all := lw_g (lw_at lw_m8 97 rfl) rfl
theorem q1888 : (Jvm.Cond.methodLink "ScrutineeryLaw" (84 : Nat) ({ cls := "Scrutineery", name := "music", desc := "(IIII)I" } : Jvm.MethodName)) ∈ lw_all := lw_g (lw_at lw_m8 98 rfl) rfl
theorem q1896 : (Jvm.Cond.methodLink "ScrutineeryLaw" (226 : Nat) ({ cls := "ScrutineeryLaw", name := "plan", desc := "(LScrutineery;II[J)I" } : Jvm.MethodName)) ∈ lw_all := lw_g (lw_at lw_m8 106 rfl) rfl
theorem q1897 : (Jvm.Cond.static ({ cls := "ScrutineeryLaw", name := "plan", desc := "(LScrutineery;II[J)I" } : Jvm.MethodName)) ∈ lw_all := lw_g (lw_at lw_m8 107 rfl) rfl
theorem q1898 : (Jvm.Cond.codeWith ({ cls := "ScrutineeryLaw", name := "plan", desc := "(LScrutineery;II[J)I" } : Jvm.MethodName) method_24_code (5 : Nat) (Option.some Jvm.ClassFile.FieldType.int) [((0 : Nat), (10 : Nat), (13 : Nat), (24 : Nat)), ((0 : Nat), (10 : Nat), (17 : Nat), (15 : Nat))]) ∈ lw_all := lw_g (lw_at lw_m8 108 rfl) rfl
theorem q1899 : (Jvm.Cond.methodLink "ScrutineeryLaw" (87 : Nat) ({ cls := "Scrutineery", name := "plan", desc := "(II)I" } : Jvm.MethodName)) ∈ lw_all := lw_g (lw_at lw_m8 109 rfl) rfl
theorem q1933 : (Jvm.Cond.methodLink "ScrutineeryLaw" (229 : Nat) ({ cls := "ScrutineeryLaw", name := "late", desc := "(LScrutineery;II[J)I" } : Jvm.MethodName)) ∈ lw_all := lw_g (lw_at lw_m8 143 rfl) rfl
theorem q1934 : (Jvm.Cond.static ({ cls := "ScrutineeryLaw", name := "late", desc := "(LScrutineery;II[J)I" } : Jvm.MethodName)) ∈ lw_all := lw_g (lw_at lw_m8 144 rfl) rfl
theorem q1935 : (Jvm.Cond.codeWith ({ cls := "ScrutineeryLaw", name := "late", desc := "(LScrutineery;II[J)I" } : Jvm.MethodName) method_25_code (5 : Nat) (Option.some Jvm.ClassFile.FieldType.int) [((0 : Nat), (10 : Nat), (13 : Nat), (24 : Nat)), ((0 : Nat), (10 : Nat), (17 : Nat), (13 : Nat))]) ∈ lw_all := lw_g (lw_at lw_m8 145 rfl) rfl
theorem q1936 : (Jvm.Cond.methodLink "ScrutineeryLaw" (90 : Nat) ({ cls := "Scrutineery", name := "late", desc := "(II)I" } : Jvm.MethodName)) ∈ lw_all := lw_g (lw_at lw_m8 146 rfl) rfl
theorem q1944 : (Jvm.Cond.methodLink "ScrutineeryLaw" (232 : Nat) ({ cls := "ScrutineeryLaw", name := "personAt", desc := "(LScrutineery;II[J)I" } : Jvm.MethodName)) ∈ lw_all := lw_g (lw_at lw_m8 154 rfl) rfl
theorem q1945 : (Jvm.Cond.static ({ cls := "ScrutineeryLaw", name := "personAt", desc := "(LScrutineery;II[J)I" } : Jvm.MethodName)) ∈ lw_all := lw_g (lw_at lw_m8 155 rfl) rfl
theorem q1946 : (Jvm.Cond.codeWith ({ cls := "ScrutineeryLaw", name := "personAt", desc := "(LScrutineery;II[J)I" } : Jvm.MethodName) method_26_code (5 : Nat) (Option.some Jvm.ClassFile.FieldType.int) [((0 : Nat), (10 : Nat), (13 : Nat), (24 : Nat)), ((0 : Nat), (10 : Nat), (17 : Nat), (13 : Nat))]) ∈ lw_all := lw_g (lw_at lw_m8 156 rfl) rfl
theorem q1947 : (Jvm.Cond.methodLink "ScrutineeryLaw" (93 : Nat) ({ cls := "Scrutineery", name := "personAt", desc := "(II)I" } : Jvm.MethodName)) ∈ lw_all := lw_g (lw_at lw_m8 157 rfl) rfl
theorem q1960 : (Jvm.Cond.methodLink "ScrutineeryLaw" (235 : Nat) ({ cls := "ScrutineeryLaw", name := "coupleAt", desc := "(LScrutineery;II[J)I" } : Jvm.MethodName)) ∈ lw_all := lw_g (lw_at lw_m8 170 rfl) rfl
theorem q1961 : (Jvm.Cond.static ({ cls := "ScrutineeryLaw", name := "coupleAt", desc := "(LScrutineery;II[J)I" } : Jvm.MethodName)) ∈ lw_all := lw_g (lw_at lw_m8 171 rfl) rfl
theorem q1962 : (Jvm.Cond.codeWith ({ cls := "ScrutineeryLaw", name := "coupleAt", desc := "(LScrutineery;II[J)I" } : Jvm.MethodName) method_27_code (5 : Nat) (Option.some Jvm.ClassFile.FieldType.int) [((0 : Nat), (10 : Nat), (13 : Nat), (24 : Nat)), ((0 : Nat), (10 : Nat), (17 : Nat), (13 : Nat))]) ∈ lw_all := lw_g (lw_at lw_m8 172 rfl) rfl
theorem q1963 : (Jvm.Cond.methodLink "ScrutineeryLaw" (96 : Nat) ({ cls := "Scrutineery", name := "coupleAt", desc := "(II)I" } : Jvm.MethodName)) ∈ lw_all := lw_g (lw_at lw_m8 173 rfl) rfl
theorem q1983 : (Jvm.Cond.methodLink "ScrutineeryLaw" (238 : Nat) ({ cls := "ScrutineeryLaw", name := "mayEnter", desc := "(LScrutineery;II[J)I" } : Jvm.MethodName)) ∈ lw_all := lw_g (lw_at lw_m8 193 rfl) rfl
theorem q1984 : (Jvm.Cond.static ({ cls := "ScrutineeryLaw", name := "mayEnter", desc := "(LScrutineery;II[J)I" } : Jvm.MethodName)) ∈ lw_all := lw_g (lw_at lw_m8 194 rfl) rfl
theorem q1985 : (Jvm.Cond.codeWith ({ cls := "ScrutineeryLaw", name := "mayEnter", desc := "(LScrutineery;II[J)I" } : Jvm.MethodName) method_28_code (5 : Nat) (Option.some Jvm.ClassFile.FieldType.int) [((0 : Nat), (10 : Nat), (13 : Nat), (24 : Nat))]) ∈ lw_all := lw_g (lw_at lw_m8 195 rfl) rfl
theorem q1986 : (Jvm.Cond.methodLink "ScrutineeryLaw" (99 : Nat) ({ cls := "Scrutineery", name := "mayEnter", desc := "(II)I" } : Jvm.MethodName)) ∈ lw_all := lw_g (lw_at lw_m8 196 rfl) rfl
theorem q1990 : (Jvm.Cond.methodLink "ScrutineeryLaw" (241 : Nat) ({ cls := "ScrutineeryLaw", name := "eventAt", desc := "(LScrutineery;II[J)I" } : Jvm.MethodName)) ∈ lw_all := lw_g (lw_at lw_m8 200 rfl) rfl
theorem q1991 : (Jvm.Cond.static ({ cls := "ScrutineeryLaw", name := "eventAt", desc := "(LScrutineery;II[J)I" } : Jvm.MethodName)) ∈ lw_all := lw_g (lw_at lw_m8 201 rfl) rfl
theorem q1992 : (Jvm.Cond.codeWith ({ cls := "ScrutineeryLaw", name := "eventAt", desc := "(LScrutineery;II[J)I" } : Jvm.MethodName) method_29_code (5 : Nat) (Option.some Jvm.ClassFile.FieldType.int) [((0 : Nat), (10 : Nat), (13 : Nat), (24 : Nat)), ((0 : Nat), (10 : Nat), (17 : Nat), (13 : Nat))]) ∈ lw_all := lw_g (lw_at lw_m8 202 rfl) rfl
theorem q1993 : (Jvm.Cond.methodLink "ScrutineeryLaw" (102 : Nat) ({ cls := "Scrutineery", name := "eventAt", desc := "(II)I" } : Jvm.MethodName)) ∈ lw_all := lw_g (lw_at lw_m8 203 rfl) rfl
theorem q1997 : (Jvm.Cond.methodLink "ScrutineeryLaw" (244 : Nat) ({ cls := "ScrutineeryLaw", name := "entryAt", desc := "(LScrutineery;III[J)I" } : Jvm.MethodName)) ∈ lw_all := lw_g (lw_at lw_m8 207 rfl) rfl
theorem q1998 : (Jvm.Cond.static ({ cls := "ScrutineeryLaw", name := "entryAt", desc := "(LScrutineery;III[J)I" } : Jvm.MethodName)) ∈ lw_all := lw_g (lw_at lw_m8 208 rfl) rfl
theorem q1999 : (Jvm.Cond.codeWith ({ cls := "ScrutineeryLaw", name := "entryAt", desc := "(LScrutineery;III[J)I" } : Jvm.MethodName) method_30_code (6 : Nat) (Option.some Jvm.ClassFile.FieldType.int) [((0 : Nat), (12 : Nat), (15 : Nat), (24 : Nat)), ((0 : Nat), (12 : Nat), (19 : Nat), (13 : Nat))]) ∈ lw_all := lw_g (lw_at lw_m8 209 rfl) rfl
theorem q2000 : (Jvm.Cond.methodLink "ScrutineeryLaw" (105 : Nat) ({ cls := "Scrutineery", name := "entryAt", desc := "(III)I" } : Jvm.MethodName)) ∈ lw_all := lw_g (lw_at lw_m8 210 rfl) rfl
theorem q2021 : (Jvm.Cond.methodLink "ScrutineeryLaw" (247 : Nat) ({ cls := "ScrutineeryLaw", name := "judge", desc := "(LScrutineery;III[J)I" } : Jvm.MethodName)) ∈ lw_all := lw_g (lw_at lw_m8 231 rfl) rfl
theorem q2022 : (Jvm.Cond.static ({ cls := "ScrutineeryLaw", name := "judge", desc := "(LScrutineery;III[J)I" } : Jvm.MethodName)) ∈ lw_all := lw_g (lw_at lw_m8 232 rfl) rfl
theorem q2023 : (Jvm.Cond.codeWith ({ cls := "ScrutineeryLaw", name := "judge", desc := "(LScrutineery;III[J)I" } : Jvm.MethodName) method_31_code (6 : Nat) (Option.some Jvm.ClassFile.FieldType.int) [((0 : Nat), (12 : Nat), (15 : Nat), (24 : Nat))]) ∈ lw_all := lw_g (lw_at lw_m8 233 rfl) rfl
theorem q2024 : (Jvm.Cond.methodLink "ScrutineeryLaw" (108 : Nat) ({ cls := "Scrutineery", name := "judge", desc := "(III)I" } : Jvm.MethodName)) ∈ lw_all := lw_g (lw_at lw_m8 234 rfl) rfl
theorem q2028 : (Jvm.Cond.methodLink "ScrutineeryLaw" (250 : Nat) ({ cls := "ScrutineeryLaw", name := "markAt", desc := "(LScrutineery;III[J)I" } : Jvm.MethodName)) ∈ lw_all := lw_g (lw_at lw_m8 238 rfl) rfl
theorem q2029 : (Jvm.Cond.static ({ cls := "ScrutineeryLaw", name := "markAt", desc := "(LScrutineery;III[J)I" } : Jvm.MethodName)) ∈ lw_all := lw_g (lw_at lw_m8 239 rfl) rfl
theorem q2030 : (Jvm.Cond.codeWith ({ cls := "ScrutineeryLaw", name := "markAt", desc := "(LScrutineery;III[J)I" } : Jvm.MethodName) method_32_code (6 : Nat) (Option.some Jvm.ClassFile.FieldType.int) [((0 : Nat), (12 : Nat), (15 : Nat), (24 : Nat))]) ∈ lw_all := lw_g (lw_at lw_m9 0 rfl) rfl
theorem q2031 : (Jvm.Cond.methodLink "ScrutineeryLaw" (111 : Nat) ({ cls := "Scrutineery", name := "markAt", desc := "(III)I" } : Jvm.MethodName)) ∈ lw_all := lw_g (lw_at lw_m9 1 rfl) rfl
theorem q2049 : (Jvm.Cond.methodLink "ScrutineeryLaw" (253 : Nat) ({ cls := "ScrutineeryLaw", name := "placeIn", desc := "(LScrutineery;IIIZ[J)I" } : Jvm.MethodName)) ∈ lw_all := lw_g (lw_at lw_m9 19 rfl) rfl
theorem q2050 : (Jvm.Cond.static ({ cls := "ScrutineeryLaw", name := "placeIn", desc := "(LScrutineery;IIIZ[J)I" } : Jvm.MethodName)) ∈ lw_all := lw_g (lw_at lw_m9 20 rfl) rfl
theorem q2051 : (Jvm.Cond.codeWith ({ cls := "ScrutineeryLaw", name := "placeIn", desc := "(LScrutineery;IIIZ[J)I" } : Jvm.MethodName) method_33_code (7 : Nat) (Option.some Jvm.ClassFile.FieldType.int) [((0 : Nat), (14 : Nat), (17 : Nat), (24 : Nat)), ((0 : Nat), (14 : Nat), (21 : Nat), (15 : Nat)), ((0 : Nat), (14 : Nat), (25 : Nat), (118 : Nat))]) ∈ lw_all := lw_g (lw_at lw_m9 21 rfl) rfl
theorem q2052 : (Jvm.Cond.classLink "ScrutineeryLaw" (118 : Nat) "java/util/NoSuchElementException") ∈ lw_all := lw_g (lw_at lw_m9 22 rfl) rfl
theorem q2053 : (Jvm.Cond.methodLink "ScrutineeryLaw" (114 : Nat) ({ cls := "Scrutineery", name := "placeIn", desc := "(IIIZ)I" } : Jvm.MethodName)) ∈ lw_all := lw_g (lw_at lw_m9 23 rfl) rfl
theorem q2059 : (Jvm.Cond.methodLink "ScrutineeryLaw" (257 : Nat) ({ cls := "ScrutineeryLaw", name := "result", desc := "(LScrutineery;II[J)I" } : Jvm.MethodName)) ∈ lw_all := lw_g (lw_at lw_m9 29 rfl) rfl
theorem q2060 : (Jvm.Cond.static ({ cls := "ScrutineeryLaw", name := "result", desc := "(LScrutineery;II[J)I" } : Jvm.MethodName)) ∈ lw_all := lw_g (lw_at lw_m9 30 rfl) rfl
theorem q2061 : (Jvm.Cond.codeWith ({ cls := "ScrutineeryLaw", name := "result", desc := "(LScrutineery;II[J)I" } : Jvm.MethodName) method_34_code (5 : Nat) (Option.some Jvm.ClassFile.FieldType.int) [((0 : Nat), (10 : Nat), (13 : Nat), (24 : Nat)), ((0 : Nat), (10 : Nat), (17 : Nat), (15 : Nat)), ((0 : Nat), (10 : Nat), (21 : Nat), (118 : Nat))]) ∈ lw_all := lw_g (lw_at lw_m9 31 rfl) rfl
theorem q2062 : (Jvm.Cond.methodLink "ScrutineeryLaw" (120 : Nat) ({ cls := "Scrutineery", name := "result", desc := "(II)I" } : Jvm.MethodName)) ∈ lw_all := lw_g (lw_at lw_m9 32 rfl) rfl
theorem q2068 : (Jvm.Cond.methodLink "ScrutineeryLaw" (260 : Nat) ({ cls := "ScrutineeryLaw", name := "alike", desc := "(LScrutineery;I[J)I" } : Jvm.MethodName)) ∈ lw_all := lw_g (lw_at lw_m9 38 rfl) rfl
theorem q2069 : (Jvm.Cond.static ({ cls := "ScrutineeryLaw", name := "alike", desc := "(LScrutineery;I[J)I" } : Jvm.MethodName)) ∈ lw_all := lw_g (lw_at lw_m9 39 rfl) rfl
theorem q2070 : (Jvm.Cond.codeWith ({ cls := "ScrutineeryLaw", name := "alike", desc := "(LScrutineery;I[J)I" } : Jvm.MethodName) method_35_code (4 : Nat) (Option.some Jvm.ClassFile.FieldType.int) [((0 : Nat), (9 : Nat), (12 : Nat), (24 : Nat)), ((0 : Nat), (9 : Nat), (15 : Nat), (15 : Nat))]) ∈ lw_all := lw_g (lw_at lw_m9 40 rfl) rfl
theorem q2071 : (Jvm.Cond.methodLink "ScrutineeryLaw" (123 : Nat) ({ cls := "Scrutineery", name := "alike", desc := "(I)I" } : Jvm.MethodName)) ∈ lw_all := lw_g (lw_at lw_m9 41 rfl) rfl
theorem q2078 : (Jvm.Cond.methodLink "ScrutineeryLaw" (263 : Nat) ({ cls := "ScrutineeryLaw", name := "bias", desc := "(LScrutineery;II[J)I" } : Jvm.MethodName)) ∈ lw_all := lw_g (lw_at lw_m9 48 rfl) rfl
theorem q2079 : (Jvm.Cond.static ({ cls := "ScrutineeryLaw", name := "bias", desc := "(LScrutineery;II[J)I" } : Jvm.MethodName)) ∈ lw_all := lw_g (lw_at lw_m9 49 rfl) rfl
theorem q2080 : (Jvm.Cond.codeWith ({ cls := "ScrutineeryLaw", name := "bias", desc := "(LScrutineery;II[J)I" } : Jvm.MethodName) method_36_code (5 : Nat) (Option.some Jvm.ClassFile.FieldType.int) [((0 : Nat), (10 : Nat), (13 : Nat), (24 : Nat))]) ∈ lw_all := lw_g (lw_at lw_m9 50 rfl) rfl
theorem q2081 : (Jvm.Cond.methodLink "ScrutineeryLaw" (126 : Nat) ({ cls := "Scrutineery", name := "bias", desc := "(II)I" } : Jvm.MethodName)) ∈ lw_all := lw_g (lw_at lw_m9 51 rfl) rfl
theorem q2091 : (Jvm.Cond.methodLink "ScrutineeryLaw" (266 : Nat) ({ cls := "ScrutineeryLaw", name := "formationAt", desc := "(LScrutineery;IZ[J)I" } : Jvm.MethodName)) ∈ lw_all := lw_g (lw_at lw_m9 61 rfl) rfl
theorem q2092 : (Jvm.Cond.static ({ cls := "ScrutineeryLaw", name := "formationAt", desc := "(LScrutineery;IZ[J)I" } : Jvm.MethodName)) ∈ lw_all := lw_g (lw_at lw_m9 62 rfl) rfl
theorem q2093 : (Jvm.Cond.codeWith ({ cls := "ScrutineeryLaw", name := "formationAt", desc := "(LScrutineery;IZ[J)I" } : Jvm.MethodName) method_37_code (5 : Nat) (Option.some Jvm.ClassFile.FieldType.int) [((0 : Nat), (10 : Nat), (13 : Nat), (24 : Nat))]) ∈ lw_all := lw_g (lw_at lw_m9 63 rfl) rfl
theorem q2094 : (Jvm.Cond.methodLink "ScrutineeryLaw" (129 : Nat) ({ cls := "Scrutineery", name := "formationAt", desc := "(IZ)I" } : Jvm.MethodName)) ∈ lw_all := lw_g (lw_at lw_m9 64 rfl) rfl
theorem q2098 : (Jvm.Cond.methodLink "ScrutineeryLaw" (270 : Nat) ({ cls := "ScrutineeryLaw", name := "planned", desc := "(LScrutineery;II[J)I" } : Jvm.MethodName)) ∈ lw_all := lw_g (lw_at lw_m9 68 rfl) rfl
theorem q2099 : (Jvm.Cond.static ({ cls := "ScrutineeryLaw", name := "planned", desc := "(LScrutineery;II[J)I" } : Jvm.MethodName)) ∈ lw_all := lw_g (lw_at lw_m9 69 rfl) rfl
theorem q2100 : (Jvm.Cond.codeWith ({ cls := "ScrutineeryLaw", name := "planned", desc := "(LScrutineery;II[J)I" } : Jvm.MethodName) method_38_code (5 : Nat) (Option.some Jvm.ClassFile.FieldType.int) [((0 : Nat), (10 : Nat), (13 : Nat), (24 : Nat)), ((0 : Nat), (10 : Nat), (17 : Nat), (13 : Nat))]) ∈ lw_all := lw_g (lw_at lw_m9 70 rfl) rfl
theorem q2101 : (Jvm.Cond.methodLink "ScrutineeryLaw" (133 : Nat) ({ cls := "Scrutineery", name := "planned", desc := "(II)I" } : Jvm.MethodName)) ∈ lw_all := lw_g (lw_at lw_m9 71 rfl) rfl
theorem q2105 : (Jvm.Cond.methodLink "ScrutineeryLaw" (273 : Nat) ({ cls := "ScrutineeryLaw", name := "ranked", desc := "(LScrutineery;II[J)I" } : Jvm.MethodName)) ∈ lw_all := lw_g (lw_at lw_m9 75 rfl) rfl
theorem q2106 : (Jvm.Cond.static ({ cls := "ScrutineeryLaw", name := "ranked", desc := "(LScrutineery;II[J)I" } : Jvm.MethodName)) ∈ lw_all := lw_g (lw_at lw_m9 76 rfl) rfl
theorem q2107 : (Jvm.Cond.codeWith ({ cls := "ScrutineeryLaw", name := "ranked", desc := "(LScrutineery;II[J)I" } : Jvm.MethodName) method_39_code (5 : Nat) (Option.some Jvm.ClassFile.FieldType.int) [((0 : Nat), (10 : Nat), (13 : Nat), (13 : Nat)), ((0 : Nat), (10 : Nat), (17 : Nat), (118 : Nat))]) ∈ lw_all := lw_g (lw_at lw_m9 77 rfl) rfl
theorem q2108 : (Jvm.Cond.methodLink "ScrutineeryLaw" (136 : Nat) ({ cls := "Scrutineery", name := "ranked", desc := "(II)I" } : Jvm.MethodName)) ∈ lw_all := lw_g (lw_at lw_m9 78 rfl) rfl
theorem q2112 : (Jvm.Cond.methodLink "ScrutineeryLaw" (280 : Nat) ({ cls := "ScrutineeryLaw", name := "count", desc := "(LScrutineery;I[J)I" } : Jvm.MethodName)) ∈ lw_all := lw_g (lw_at lw_m9 82 rfl) rfl
theorem q2113 : (Jvm.Cond.static ({ cls := "ScrutineeryLaw", name := "count", desc := "(LScrutineery;I[J)I" } : Jvm.MethodName)) ∈ lw_all := lw_g (lw_at lw_m9 83 rfl) rfl
theorem q2114 : (Jvm.Cond.codeWith ({ cls := "ScrutineeryLaw", name := "count", desc := "(LScrutineery;I[J)I" } : Jvm.MethodName) method_40_code (4 : Nat) (Option.some Jvm.ClassFile.FieldType.int) [((0 : Nat), (9 : Nat), (12 : Nat), (13 : Nat))]) ∈ lw_all := lw_g (lw_at lw_m9 84 rfl) rfl
theorem q2115 : (Jvm.Cond.methodLink "ScrutineeryLaw" (139 : Nat) ({ cls := "Scrutineery", name := "count", desc := "(I)I" } : Jvm.MethodName)) ∈ lw_all := lw_g (lw_at lw_m9 85 rfl) rfl
theorem q2116 : (Jvm.Cond.classLink "ScrutineeryLaw" (143 : Nat) "ScrutineeryModel") ∈ lw_all := lw_g (lw_at lw_m9 86 rfl) rfl
theorem q2118 : (Jvm.Cond.methodLink "ScrutineeryLaw" (145 : Nat) ({ cls := "ScrutineeryModel", name := "<init>", desc := "()V" } : Jvm.MethodName)) ∈ lw_all := lw_g (lw_at lw_m9 88 rfl) rfl
theorem q2357 : (Jvm.Cond.methodLink "ScrutineeryLaw" (157 : Nat) ({ cls := "ScrutineeryModel", name := "thrown", desc := "()I" } : Jvm.MethodName)) ∈ lw_all := lw_g (lw_at lw_m10 87 rfl) rfl
theorem q2361 : (Jvm.Cond.methodLink "ScrutineeryLaw" (150 : Nat) ({ cls := "ScrutineeryModel", name := "begin", desc := "()I" } : Jvm.MethodName)) ∈ lw_all := lw_g (lw_at lw_m10 91 rfl) rfl
theorem q2365 : (Jvm.Cond.methodLink "ScrutineeryLaw" (156 : Nat) ({ cls := "ScrutineeryModel", name := "pass", desc := "(I)I" } : Jvm.MethodName)) ∈ lw_all := lw_g (lw_at lw_m10 95 rfl) rfl
theorem q2380 : (Jvm.Cond.methodLink "ScrutineeryLaw" (162 : Nat) ({ cls := "ScrutineeryModel", name := "person", desc := "(I)I" } : Jvm.MethodName)) ∈ lw_all := lw_g (lw_at lw_m10 110 rfl) rfl
theorem q2384 : (Jvm.Cond.methodLink "ScrutineeryLaw" (166 : Nat) ({ cls := "ScrutineeryModel", name := "licence", desc := "(II)I" } : Jvm.MethodName)) ∈ lw_all := lw_g (lw_at lw_m10 114 rfl) rfl
theorem q2392 : (Jvm.Cond.methodLink "ScrutineeryLaw" (169 : Nat) ({ cls := "ScrutineeryModel", name := "kin", desc := "(II)Z" } : Jvm.MethodName)) ∈ lw_all := lw_g (lw_at lw_m10 122 rfl) rfl
theorem q2400 : (Jvm.Cond.methodLink "ScrutineeryLaw" (172 : Nat) ({ cls := "ScrutineeryModel", name := "lesson", desc := "(II)Z" } : Jvm.MethodName)) ∈ lw_all := lw_g (lw_at lw_m10 130 rfl) rfl
theorem q2404 : (Jvm.Cond.methodLink "ScrutineeryLaw" (175 : Nat) ({ cls := "ScrutineeryModel", name := "suspend", desc := "(II)I" } : Jvm.MethodName)) ∈ lw_all := lw_g (lw_at lw_m10 134 rfl) rfl
theorem q2412 : (Jvm.Cond.methodLink "ScrutineeryLaw" (178 : Nat) ({ cls := "ScrutineeryModel", name := "dress", desc := "(II)I" } : Jvm.MethodName)) ∈ lw_all := lw_g (lw_at lw_m10 142 rfl) rfl
theorem q2416 : (Jvm.Cond.methodLink "ScrutineeryLaw" (182 : Nat) ({ cls := "ScrutineeryModel", name := "test", desc := "(III)I" } : Jvm.MethodName)) ∈ lw_all := lw_g (lw_at lw_m10 146 rfl) rfl
theorem q2424 : (Jvm.Cond.methodLink "ScrutineeryLaw" (185 : Nat) ({ cls := "ScrutineeryModel", name := "couple", desc := "(II)I" } : Jvm.MethodName)) ∈ lw_all := lw_g (lw_at lw_m10 154 rfl) rfl
theorem q2432 : (Jvm.Cond.methodLink "ScrutineeryLaw" (188 : Nat) ({ cls := "ScrutineeryModel", name := "part", desc := "(I)Z" } : Jvm.MethodName)) ∈ lw_all := lw_g (lw_at lw_m10 162 rfl) rfl
theorem q2440 : (Jvm.Cond.methodLink "ScrutineeryLaw" (192 : Nat) ({ cls := "ScrutineeryModel", name := "event", desc := "(IIIIIZ)I" } : Jvm.MethodName)) ∈ lw_all := lw_g (lw_at lw_m10 170 rfl) rfl
theorem q2448 : (Jvm.Cond.methodLink "ScrutineeryLaw" (196 : Nat) ({ cls := "ScrutineeryModel", name := "rules", desc := "(IIIII)I" } : Jvm.MethodName)) ∈ lw_all := lw_g (lw_at lw_m10 178 rfl) rfl
theorem q2456 : (Jvm.Cond.methodLink "ScrutineeryLaw" (240 : Nat) ({ cls := "ScrutineeryModel", name := "mayEnter", desc := "(II)I" } : Jvm.MethodName)) ∈ lw_all := lw_g (lw_at lw_m10 186 rfl) rfl
theorem q2498 : (Jvm.Cond.methodLink "ScrutineeryLaw" (199 : Nat) ({ cls := "ScrutineeryModel", name := "enter", desc := "(II)I" } : Jvm.MethodName)) ∈ lw_all := lw_g (lw_at lw_m10 228 rfl) rfl
theorem q2502 : (Jvm.Cond.methodLink "ScrutineeryLaw" (202 : Nat) ({ cls := "ScrutineeryModel", name := "scratch", desc := "(II)I" } : Jvm.MethodName)) ∈ lw_all := lw_g (lw_at lw_m10 232 rfl) rfl
theorem q2510 : (Jvm.Cond.methodLink "ScrutineeryLaw" (205 : Nat) ({ cls := "ScrutineeryModel", name := "apart", desc := "(III)I" } : Jvm.MethodName)) ∈ lw_all := lw_g (lw_at lw_m11 0 rfl) rfl
theorem q2530 : (Jvm.Cond.methodLink "ScrutineeryLaw" (209 : Nat) ({ cls := "ScrutineeryModel", name := "draw", desc := "(IIII)I" } : Jvm.MethodName)) ∈ lw_all := lw_g (lw_at lw_m11 20 rfl) rfl
theorem q2542 : (Jvm.Cond.methodLink "ScrutineeryLaw" (212 : Nat) ({ cls := "ScrutineeryModel", name := "mark", desc := "(IIII)I" } : Jvm.MethodName)) ∈ lw_all := lw_g (lw_at lw_m11 32 rfl) rfl
theorem q2588 : (Jvm.Cond.methodLink "ScrutineeryLaw" (219 : Nat) ({ cls := "ScrutineeryModel", name := "close", desc := "(I)I" } : Jvm.MethodName)) ∈ lw_all := lw_g (lw_at lw_m11 78 rfl) rfl
theorem q2691 : (Jvm.Cond.methodLink "ScrutineeryLaw" (216 : Nat) ({ cls := "ScrutineeryModel", name := "value", desc := "(IIIIII)I" } : Jvm.MethodName)) ∈ lw_all := lw_g (lw_at lw_m11 181 rfl) rfl
theorem q2702 : (Jvm.Cond.methodLink "ScrutineeryLaw" (262 : Nat) ({ cls := "ScrutineeryModel", name := "alike", desc := "(I)I" } : Jvm.MethodName)) ∈ lw_all := lw_g (lw_at lw_m11 192 rfl) rfl
theorem q2718 : (Jvm.Cond.methodLink "ScrutineeryLaw" (265 : Nat) ({ cls := "ScrutineeryModel", name := "bias", desc := "(II)I" } : Jvm.MethodName)) ∈ lw_all := lw_g (lw_at lw_m11 208 rfl) rfl
theorem q2726 : (Jvm.Cond.methodLink "ScrutineeryLaw" (222 : Nat) ({ cls := "ScrutineeryModel", name := "formation", desc := "(IIII)I" } : Jvm.MethodName)) ∈ lw_all := lw_g (lw_at lw_m11 216 rfl) rfl
theorem q2730 : (Jvm.Cond.methodLink "ScrutineeryLaw" (269 : Nat) ({ cls := "ScrutineeryModel", name := "formationAt", desc := "(IZ)I" } : Jvm.MethodName)) ∈ lw_all := lw_g (lw_at lw_m11 220 rfl) rfl
theorem q2734 : (Jvm.Cond.methodLink "ScrutineeryLaw" (225 : Nat) ({ cls := "ScrutineeryModel", name := "music", desc := "(IIII)I" } : Jvm.MethodName)) ∈ lw_all := lw_g (lw_at lw_m11 224 rfl) rfl
theorem q2742 : (Jvm.Cond.methodLink "ScrutineeryLaw" (228 : Nat) ({ cls := "ScrutineeryModel", name := "plan", desc := "(II)I" } : Jvm.MethodName)) ∈ lw_all := lw_g (lw_at lw_m11 232 rfl) rfl
theorem q2750 : (Jvm.Cond.methodLink "ScrutineeryLaw" (231 : Nat) ({ cls := "ScrutineeryModel", name := "late", desc := "(II)I" } : Jvm.MethodName)) ∈ lw_all := lw_g (lw_at lw_m12 0 rfl) rfl
theorem q2766 : (Jvm.Cond.methodLink "ScrutineeryLaw" (272 : Nat) ({ cls := "ScrutineeryModel", name := "planned", desc := "(II)I" } : Jvm.MethodName)) ∈ lw_all := lw_g (lw_at lw_m12 16 rfl) rfl
theorem q2770 : (Jvm.Cond.methodLink "ScrutineeryLaw" (234 : Nat) ({ cls := "ScrutineeryModel", name := "personAt", desc := "(II)I" } : Jvm.MethodName)) ∈ lw_all := lw_g (lw_at lw_m12 20 rfl) rfl
theorem q2782 : (Jvm.Cond.methodLink "ScrutineeryLaw" (237 : Nat) ({ cls := "ScrutineeryModel", name := "coupleAt", desc := "(II)I" } : Jvm.MethodName)) ∈ lw_all := lw_g (lw_at lw_m12 32 rfl) rfl
theorem q2790 : (Jvm.Cond.methodLink "ScrutineeryLaw" (243 : Nat) ({ cls := "ScrutineeryModel", name := "eventAt", desc := "(II)I" } : Jvm.MethodName)) ∈ lw_all := lw_g (lw_at lw_m12 40 rfl) rfl
theorem q2794 : (Jvm.Cond.methodLink "ScrutineeryLaw" (246 : Nat) ({ cls := "ScrutineeryModel", name := "entryAt", desc := "(III)I" } : Jvm.MethodName)) ∈ lw_all := lw_g (lw_at lw_m12 44 rfl) rfl
theorem q2806 : (Jvm.Cond.methodLink "ScrutineeryLaw" (249 : Nat) ({ cls := "ScrutineeryModel", name := "judge", desc := "(III)I" } : Jvm.MethodName)) ∈ lw_all := lw_g (lw_at lw_m12 56 rfl) rfl
theorem q2810 : (Jvm.Cond.methodLink "ScrutineeryLaw" (252 : Nat) ({ cls := "ScrutineeryModel", name := "markAt", desc := "(III)I" } : Jvm.MethodName)) ∈ lw_all := lw_g (lw_at lw_m12 60 rfl) rfl
theorem q2814 : (Jvm.Cond.methodLink "ScrutineeryLaw" (256 : Nat) ({ cls := "ScrutineeryModel", name := "placeIn", desc := "(IIIZ)I" } : Jvm.MethodName)) ∈ lw_all := lw_g (lw_at lw_m12 64 rfl) rfl
theorem q2818 : (Jvm.Cond.methodLink "ScrutineeryLaw" (259 : Nat) ({ cls := "ScrutineeryModel", name := "result", desc := "(II)I" } : Jvm.MethodName)) ∈ lw_all := lw_g (lw_at lw_m12 68 rfl) rfl
theorem q2822 : (Jvm.Cond.methodLink "ScrutineeryLaw" (275 : Nat) ({ cls := "ScrutineeryModel", name := "ranked", desc := "(II)I" } : Jvm.MethodName)) ∈ lw_all := lw_g (lw_at lw_m12 72 rfl) rfl
theorem q2826 : (Jvm.Cond.methodLink "ScrutineeryLaw" (279 : Nat) ({ cls := "ScrutineeryModel", name := "cause", desc := "(I)I" } : Jvm.MethodName)) ∈ lw_all := lw_g (lw_at lw_m12 76 rfl) rfl
theorem q2830 : (Jvm.Cond.methodLink "ScrutineeryLaw" (282 : Nat) ({ cls := "ScrutineeryModel", name := "count", desc := "(I)I" } : Jvm.MethodName)) ∈ lw_all := lw_g (lw_at lw_m12 80 rfl) rfl
theorem q2838 : (Jvm.Cond.methodLink "ScrutineeryLaw" (286 : Nat) ({ cls := "ScrutineeryModel", name := "errors", desc := "()I" } : Jvm.MethodName)) ∈ lw_all := lw_g (lw_at lw_m12 88 rfl) rfl
theorem q2842 : (Jvm.Cond.methodLink "ScrutineeryLaw" (291 : Nat) ({ cls := "ScrutineeryModel", name := "meanAge", desc := "()D" } : Jvm.MethodName)) ∈ lw_all := lw_g (lw_at lw_m12 92 rfl) rfl
theorem q2846 : (Jvm.Cond.methodLink "ScrutineeryLaw" (296 : Nat) ({ cls := "ScrutineeryModel", name := "decidedShare", desc := "()F" } : Jvm.MethodName)) ∈ lw_all := lw_g (lw_at lw_m12 96 rfl) rfl
/-! the law's own entry -/
set_option maxRecDepth 100000
abbrev cL_law : ByteArray := code
def dkwL_law_132 : List UInt8 := [153, 0, 11, 24, 7, 24, 7, 151, 154, 0, 5, 3, 172, 167, 0, 3, 132, 4, 7, 167, 243, 88, 4, 172]
abbrev dktL_law_132 : List UInt8 := dkwL_law_132 ++ []
def dkwL_law_131 : List UInt8 := [57, 5, 44, 182, 1, 40, 141, 57, 7, 24, 5, 24, 7, 151, 153, 0, 21, 24, 5, 24, 5, 151]
abbrev dktL_law_131 : List UInt8 := dkwL_law_131 ++ dktL_law_132
def dkwL_law_130 : List UInt8 := [24, 5, 151, 153, 0, 11, 24, 7, 24, 7, 151, 154, 0, 5, 3, 172, 167, 0, 46, 43, 182, 1, 36, 141]
abbrev dktL_law_130 : List UInt8 := dkwL_law_130 ++ dktL_law_131
def dkwL_law_129 : List UInt8 := [3, 172, 43, 182, 1, 31, 57, 5, 44, 182, 1, 35, 57, 7, 24, 5, 24, 7, 151, 153, 0, 21, 24, 5]
abbrev dktL_law_129 : List UInt8 := dkwL_law_129 ++ dktL_law_130
def dkwL_law_128 : List UInt8 := [47, 21, 6, 133, 148, 153, 0, 5, 3, 172, 167, 0, 100, 43, 182, 1, 27, 44, 182, 1, 30, 159, 0, 89]
abbrev dktL_law_128 : List UInt8 := dkwL_law_128 ++ dktL_law_129
def dkwL_law_127 : List UInt8 := [46, 182, 1, 26, 54, 6, 44, 182, 0, 157, 21, 5, 159, 0, 5, 3, 172, 21, 5, 154, 0, 15, 45, 3]
abbrev dktL_law_127 : List UInt8 := dkwL_law_127 ++ dktL_law_128
def dkwL_law_126 : List UInt8 := [159, 0, 158, 3, 172, 43, 42, 21, 4, 4, 96, 46, 45, 184, 1, 24, 54, 5, 44, 42, 21, 4, 4, 96]
abbrev dktL_law_126 : List UInt8 := dkwL_law_126 ++ dktL_law_127
def dkwL_law_125 : List UInt8 := [167, 0, 181, 43, 42, 21, 4, 4, 96, 46, 182, 1, 20, 44, 42, 21, 4, 4, 96, 46, 182, 1, 23]
abbrev dktL_law_125 : List UInt8 := dkwL_law_125 ++ dktL_law_126
def dkwL_law_124 : List UInt8 := [159, 0, 5, 3, 172, 21, 5, 154, 0, 15, 45, 3, 47, 21, 6, 133, 148, 153, 0, 5, 3, 172]
abbrev dktL_law_124 : List UInt8 := dkwL_law_124 ++ dktL_law_125
def dkwL_law_123 : List UInt8 := [21, 4, 4, 96, 46, 42, 21, 4, 5, 96, 46, 182, 1, 19, 54, 6, 44, 182, 0, 157, 21, 5]
abbrev dktL_law_123 : List UInt8 := dkwL_law_123 ++ dktL_law_124
def dkwL_law_122 : List UInt8 := [167, 0, 249, 43, 42, 21, 4, 4, 96, 46, 42, 21, 4, 5, 96, 46, 45, 184, 1, 17, 54, 5, 44, 42]
abbrev dktL_law_122 : List UInt8 := dkwL_law_122 ++ dktL_law_123
def dkwL_law_121 : List UInt8 := [159, 0, 5, 3, 172, 21, 5, 154, 0, 15, 45, 3, 47, 21, 6, 133, 148, 153, 0, 5, 3, 172]
abbrev dktL_law_121 : List UInt8 := dkwL_law_121 ++ dktL_law_122
def dkwL_law_120 : List UInt8 := [21, 4, 4, 96, 46, 42, 21, 4, 5, 96, 46, 182, 1, 16, 54, 6, 44, 182, 0, 157, 21, 5]
abbrev dktL_law_120 : List UInt8 := dkwL_law_120 ++ dktL_law_121
def dkwL_law_119 : List UInt8 := [167, 1, 61, 43, 42, 21, 4, 4, 96, 46, 42, 21, 4, 5, 96, 46, 45, 184, 1, 14, 54, 5, 44, 42]
abbrev dktL_law_119 : List UInt8 := dkwL_law_119 ++ dktL_law_120
def dkwL_law_118 : List UInt8 := [159, 0, 5, 3, 172, 21, 5, 154, 0, 15, 45, 3, 47, 21, 6, 133, 148, 153, 0, 5, 3, 172]
abbrev dktL_law_118 : List UInt8 := dkwL_law_118 ++ dktL_law_119
def dkwL_law_117 : List UInt8 := [5, 96, 46, 153, 0, 7, 4, 167, 0, 4, 3, 182, 1, 13, 54, 6, 44, 182, 0, 157, 21, 5]
abbrev dktL_law_117 : List UInt8 := dkwL_law_117 ++ dktL_law_118
def dkwL_law_116 : List UInt8 := [153, 0, 7, 4, 167, 0, 4, 3, 45, 184, 1, 10, 54, 5, 44, 42, 21, 4, 4, 96, 46, 42, 21, 4]
abbrev dktL_law_116 : List UInt8 := dkwL_law_116 ++ dktL_law_117
def dkwL_law_115 : List UInt8 := [148, 153, 0, 5, 3, 172, 167, 1, 145, 43, 42, 21, 4, 4, 96, 46, 42, 21, 4, 5, 96, 46]
abbrev dktL_law_115 : List UInt8 := dkwL_law_115 ++ dktL_law_116
def dkwL_law_114 : List UInt8 := [54, 6, 44, 182, 0, 157, 21, 5, 159, 0, 5, 3, 172, 21, 5, 154, 0, 15, 45, 3, 47, 21, 6, 133]
abbrev dktL_law_114 : List UInt8 := dkwL_law_114 ++ dktL_law_115
def dkwL_law_113 : List UInt8 := [46, 45, 184, 1, 7, 54, 5, 44, 42, 21, 4, 4, 96, 46, 42, 21, 4, 5, 96, 46, 182, 1, 9]
abbrev dktL_law_113 : List UInt8 := dkwL_law_113 ++ dktL_law_114
def dkwL_law_112 : List UInt8 := [21, 6, 133, 148, 153, 0, 5, 3, 172, 167, 1, 213, 43, 42, 21, 4, 4, 96, 46, 42, 21, 4, 5, 96]
abbrev dktL_law_112 : List UInt8 := dkwL_law_112 ++ dktL_law_113
def dkwL_law_111 : List UInt8 := [182, 1, 6, 54, 6, 44, 182, 0, 157, 21, 5, 159, 0, 5, 3, 172, 21, 5, 154, 0, 15, 45, 3, 47]
abbrev dktL_law_111 : List UInt8 := dkwL_law_111 ++ dktL_law_112
def dkwL_law_110 : List UInt8 := [167, 2, 13, 43, 42, 21, 4, 4, 96, 46, 45, 184, 1, 4, 54, 5, 44, 42, 21, 4, 4, 96, 46]
abbrev dktL_law_110 : List UInt8 := dkwL_law_110 ++ dktL_law_111
def dkwL_law_109 : List UInt8 := [159, 0, 5, 3, 172, 21, 5, 154, 0, 15, 45, 3, 47, 21, 6, 133, 148, 153, 0, 5, 3, 172]
abbrev dktL_law_109 : List UInt8 := dkwL_law_109 ++ dktL_law_110
def dkwL_law_108 : List UInt8 := [21, 4, 4, 96, 46, 42, 21, 4, 5, 96, 46, 182, 1, 3, 54, 6, 44, 182, 0, 157, 21, 5]
abbrev dktL_law_108 : List UInt8 := dkwL_law_108 ++ dktL_law_109
def dkwL_law_107 : List UInt8 := [167, 2, 81, 43, 42, 21, 4, 4, 96, 46, 42, 21, 4, 5, 96, 46, 45, 184, 1, 1, 54, 5, 44, 42]
abbrev dktL_law_107 : List UInt8 := dkwL_law_107 ++ dktL_law_108
def dkwL_law_106 : List UInt8 := [21, 5, 159, 0, 5, 3, 172, 21, 5, 154, 0, 15, 45, 3, 47, 21, 6, 133, 148, 153, 0, 5, 3, 172]
abbrev dktL_law_106 : List UInt8 := dkwL_law_106 ++ dktL_law_107
def dkwL_law_105 : List UInt8 := [42, 21, 4, 7, 96, 46, 153, 0, 7, 4, 167, 0, 4, 3, 182, 1, 0, 54, 6, 44, 182, 0, 157]
abbrev dktL_law_105 : List UInt8 := dkwL_law_105 ++ dktL_law_106
def dkwL_law_104 : List UInt8 := [184, 0, 253, 54, 5, 44, 42, 21, 4, 4, 96, 46, 42, 21, 4, 5, 96, 46, 42, 21, 4, 6, 96, 46]
abbrev dktL_law_104 : List UInt8 := dkwL_law_104 ++ dktL_law_105
def dkwL_law_103 : List UInt8 := [46, 42, 21, 4, 6, 96, 46, 42, 21, 4, 7, 96, 46, 153, 0, 7, 4, 167, 0, 4, 3, 45]
abbrev dktL_law_103 : List UInt8 := dkwL_law_103 ++ dktL_law_104
def dkwL_law_102 : List UInt8 := [21, 6, 133, 148, 153, 0, 5, 3, 172, 167, 2, 189, 43, 42, 21, 4, 4, 96, 46, 42, 21, 4, 5, 96]
abbrev dktL_law_102 : List UInt8 := dkwL_law_102 ++ dktL_law_103
def dkwL_law_101 : List UInt8 := [182, 0, 252, 54, 6, 44, 182, 0, 157, 21, 5, 159, 0, 5, 3, 172, 21, 5, 154, 0, 15, 45, 3, 47]
abbrev dktL_law_101 : List UInt8 := dkwL_law_101 ++ dktL_law_102
def dkwL_law_100 : List UInt8 := [184, 0, 250, 54, 5, 44, 42, 21, 4, 4, 96, 46, 42, 21, 4, 5, 96, 46, 42, 21, 4, 6, 96, 46]
abbrev dktL_law_100 : List UInt8 := dkwL_law_100 ++ dktL_law_101
def dkwL_law_99 : List UInt8 := [167, 3, 13, 43, 42, 21, 4, 4, 96, 46, 42, 21, 4, 5, 96, 46, 42, 21, 4, 6, 96, 46, 45]
abbrev dktL_law_99 : List UInt8 := dkwL_law_99 ++ dktL_law_100
def dkwL_law_98 : List UInt8 := [21, 5, 159, 0, 5, 3, 172, 21, 5, 154, 0, 15, 45, 3, 47, 21, 6, 133, 148, 153, 0, 5, 3, 172]
abbrev dktL_law_98 : List UInt8 := dkwL_law_98 ++ dktL_law_99
def dkwL_law_97 : List UInt8 := [96, 46, 42, 21, 4, 5, 96, 46, 42, 21, 4, 6, 96, 46, 182, 0, 249, 54, 6, 44, 182, 0, 157]
abbrev dktL_law_97 : List UInt8 := dkwL_law_97 ++ dktL_law_98
def dkwL_law_96 : List UInt8 := [46, 42, 21, 4, 5, 96, 46, 42, 21, 4, 6, 96, 46, 45, 184, 0, 247, 54, 5, 44, 42, 21, 4, 4]
abbrev dktL_law_96 : List UInt8 := dkwL_law_96 ++ dktL_law_97
def dkwL_law_95 : List UInt8 := [154, 0, 15, 45, 3, 47, 21, 6, 133, 148, 153, 0, 5, 3, 172, 167, 3, 93, 43, 42, 21, 4, 4, 96]
abbrev dktL_law_95 : List UInt8 := dkwL_law_95 ++ dktL_law_96
def dkwL_law_94 : List UInt8 := [21, 4, 6, 96, 46, 182, 0, 246, 54, 6, 44, 182, 0, 157, 21, 5, 159, 0, 5, 3, 172, 21, 5]
abbrev dktL_law_94 : List UInt8 := dkwL_law_94 ++ dktL_law_95
def dkwL_law_93 : List UInt8 := [6, 96, 46, 45, 184, 0, 244, 54, 5, 44, 42, 21, 4, 4, 96, 46, 42, 21, 4, 5, 96, 46, 42]
abbrev dktL_law_93 : List UInt8 := dkwL_law_93 ++ dktL_law_94
def dkwL_law_92 : List UInt8 := [153, 0, 5, 3, 172, 167, 3, 173, 43, 42, 21, 4, 4, 96, 46, 42, 21, 4, 5, 96, 46, 42, 21, 4]
abbrev dktL_law_92 : List UInt8 := dkwL_law_92 ++ dktL_law_93
def dkwL_law_91 : List UInt8 := [182, 0, 157, 21, 5, 159, 0, 5, 3, 172, 21, 5, 154, 0, 15, 45, 3, 47, 21, 6, 133, 148]
abbrev dktL_law_91 : List UInt8 := dkwL_law_91 ++ dktL_law_92
def dkwL_law_90 : List UInt8 := [184, 0, 241, 54, 5, 44, 42, 21, 4, 4, 96, 46, 42, 21, 4, 5, 96, 46, 182, 0, 243, 54, 6, 44]
abbrev dktL_law_90 : List UInt8 := dkwL_law_90 ++ dktL_law_91
def dkwL_law_89 : List UInt8 := [153, 0, 5, 3, 172, 167, 3, 241, 43, 42, 21, 4, 4, 96, 46, 42, 21, 4, 5, 96, 46, 45]
abbrev dktL_law_89 : List UInt8 := dkwL_law_89 ++ dktL_law_90
def dkwL_law_88 : List UInt8 := [182, 0, 157, 21, 5, 159, 0, 5, 3, 172, 21, 5, 154, 0, 15, 45, 3, 47, 21, 6, 133, 148]
abbrev dktL_law_88 : List UInt8 := dkwL_law_88 ++ dktL_law_89
def dkwL_law_87 : List UInt8 := [184, 0, 238, 54, 5, 44, 42, 21, 4, 4, 96, 46, 42, 21, 4, 5, 96, 46, 182, 0, 240, 54, 6, 44]
abbrev dktL_law_87 : List UInt8 := dkwL_law_87 ++ dktL_law_88
def dkwL_law_86 : List UInt8 := [153, 0, 5, 3, 172, 167, 4, 53, 43, 42, 21, 4, 4, 96, 46, 42, 21, 4, 5, 96, 46, 45]
abbrev dktL_law_86 : List UInt8 := dkwL_law_86 ++ dktL_law_87
def dkwL_law_85 : List UInt8 := [182, 0, 157, 21, 5, 159, 0, 5, 3, 172, 21, 5, 154, 0, 15, 45, 3, 47, 21, 6, 133, 148]
abbrev dktL_law_85 : List UInt8 := dkwL_law_85 ++ dktL_law_86
def dkwL_law_84 : List UInt8 := [184, 0, 235, 54, 5, 44, 42, 21, 4, 4, 96, 46, 42, 21, 4, 5, 96, 46, 182, 0, 237, 54, 6, 44]
abbrev dktL_law_84 : List UInt8 := dkwL_law_84 ++ dktL_law_85
def dkwL_law_83 : List UInt8 := [153, 0, 5, 3, 172, 167, 4, 121, 43, 42, 21, 4, 4, 96, 46, 42, 21, 4, 5, 96, 46, 45]
abbrev dktL_law_83 : List UInt8 := dkwL_law_83 ++ dktL_law_84
def dkwL_law_82 : List UInt8 := [182, 0, 157, 21, 5, 159, 0, 5, 3, 172, 21, 5, 154, 0, 15, 45, 3, 47, 21, 6, 133, 148]
abbrev dktL_law_82 : List UInt8 := dkwL_law_82 ++ dktL_law_83
def dkwL_law_81 : List UInt8 := [184, 0, 232, 54, 5, 44, 42, 21, 4, 4, 96, 46, 42, 21, 4, 5, 96, 46, 182, 0, 234, 54, 6, 44]
abbrev dktL_law_81 : List UInt8 := dkwL_law_81 ++ dktL_law_82
def dkwL_law_80 : List UInt8 := [148, 153, 0, 5, 3, 172, 167, 4, 189, 43, 42, 21, 4, 4, 96, 46, 42, 21, 4, 5, 96, 46, 45]
abbrev dktL_law_80 : List UInt8 := dkwL_law_80 ++ dktL_law_81
def dkwL_law_79 : List UInt8 := [54, 6, 44, 182, 0, 157, 21, 5, 159, 0, 5, 3, 172, 21, 5, 154, 0, 15, 45, 3, 47, 21, 6, 133]
abbrev dktL_law_79 : List UInt8 := dkwL_law_79 ++ dktL_law_80
def dkwL_law_78 : List UInt8 := [46, 45, 184, 0, 229, 54, 5, 44, 42, 21, 4, 4, 96, 46, 42, 21, 4, 5, 96, 46, 182, 0, 231]
abbrev dktL_law_78 : List UInt8 := dkwL_law_78 ++ dktL_law_79
def dkwL_law_77 : List UInt8 := [21, 6, 133, 148, 153, 0, 5, 3, 172, 167, 5, 1, 43, 42, 21, 4, 4, 96, 46, 42, 21, 4, 5, 96]
abbrev dktL_law_77 : List UInt8 := dkwL_law_77 ++ dktL_law_78
def dkwL_law_76 : List UInt8 := [182, 0, 228, 54, 6, 44, 182, 0, 157, 21, 5, 159, 0, 5, 3, 172, 21, 5, 154, 0, 15, 45, 3, 47]
abbrev dktL_law_76 : List UInt8 := dkwL_law_76 ++ dktL_law_77
def dkwL_law_75 : List UInt8 := [21, 4, 5, 96, 46, 45, 184, 0, 226, 54, 5, 44, 42, 21, 4, 4, 96, 46, 42, 21, 4, 5, 96, 46]
abbrev dktL_law_75 : List UInt8 := dkwL_law_75 ++ dktL_law_76
def dkwL_law_74 : List UInt8 := [45, 3, 47, 21, 6, 133, 148, 153, 0, 5, 3, 172, 167, 5, 69, 43, 42, 21, 4, 4, 96, 46, 42]
abbrev dktL_law_74 : List UInt8 := dkwL_law_74 ++ dktL_law_75
def dkwL_law_73 : List UInt8 := [7, 96, 46, 182, 0, 225, 54, 6, 44, 182, 0, 157, 21, 5, 159, 0, 5, 3, 172, 21, 5, 154, 0, 15]
abbrev dktL_law_73 : List UInt8 := dkwL_law_73 ++ dktL_law_74
def dkwL_law_72 : List UInt8 := [54, 5, 44, 42, 21, 4, 4, 96, 46, 42, 21, 4, 5, 96, 46, 42, 21, 4, 6, 96, 46, 42, 21, 4]
abbrev dktL_law_72 : List UInt8 := dkwL_law_72 ++ dktL_law_73
def dkwL_law_71 : List UInt8 := [46, 42, 21, 4, 5, 96, 46, 42, 21, 4, 6, 96, 46, 42, 21, 4, 7, 96, 46, 45, 184, 0, 223]
abbrev dktL_law_71 : List UInt8 := dkwL_law_71 ++ dktL_law_72
def dkwL_law_70 : List UInt8 := [154, 0, 15, 45, 3, 47, 21, 6, 133, 148, 153, 0, 5, 3, 172, 167, 5, 161, 43, 42, 21, 4, 4, 96]
abbrev dktL_law_70 : List UInt8 := dkwL_law_70 ++ dktL_law_71
def dkwL_law_69 : List UInt8 := [42, 21, 4, 7, 96, 46, 182, 0, 222, 54, 6, 44, 182, 0, 157, 21, 5, 159, 0, 5, 3, 172, 21, 5]
abbrev dktL_law_69 : List UInt8 := dkwL_law_69 ++ dktL_law_70
def dkwL_law_68 : List UInt8 := [184, 0, 220, 54, 5, 44, 42, 21, 4, 4, 96, 46, 42, 21, 4, 5, 96, 46, 42, 21, 4, 6, 96, 46]
abbrev dktL_law_68 : List UInt8 := dkwL_law_68 ++ dktL_law_69
def dkwL_law_67 : List UInt8 := [21, 4, 4, 96, 46, 42, 21, 4, 5, 96, 46, 42, 21, 4, 6, 96, 46, 42, 21, 4, 7, 96, 46, 45]
abbrev dktL_law_67 : List UInt8 := dkwL_law_67 ++ dktL_law_68
def dkwL_law_66 : List UInt8 := [172, 21, 5, 154, 0, 15, 45, 3, 47, 21, 6, 133, 148, 153, 0, 5, 3, 172, 167, 5, 253, 43, 42]
abbrev dktL_law_66 : List UInt8 := dkwL_law_66 ++ dktL_law_67
def dkwL_law_65 : List UInt8 := [54, 5, 44, 42, 21, 4, 4, 96, 46, 182, 0, 219, 54, 6, 44, 182, 0, 157, 21, 5, 159, 0, 5, 3]
abbrev dktL_law_65 : List UInt8 := dkwL_law_65 ++ dktL_law_66
def dkwL_law_64 : List UInt8 := [21, 6, 133, 148, 153, 0, 5, 3, 172, 167, 6, 53, 43, 42, 21, 4, 4, 96, 46, 45, 184, 0, 217]
abbrev dktL_law_64 : List UInt8 := dkwL_law_64 ++ dktL_law_65
def dkwL_law_63 : List UInt8 := [182, 0, 216, 54, 6, 44, 182, 0, 157, 21, 5, 159, 0, 5, 3, 172, 21, 5, 154, 0, 15, 45, 3, 47]
abbrev dktL_law_63 : List UInt8 := dkwL_law_63 ++ dktL_law_64
def dkwL_law_62 : List UInt8 := [6, 96, 46, 42, 21, 4, 7, 96, 46, 42, 21, 4, 8, 96, 46, 42, 21, 4, 16, 6, 96, 46]
abbrev dktL_law_62 : List UInt8 := dkwL_law_62 ++ dktL_law_63
def dkwL_law_61 : List UInt8 := [96, 46, 45, 184, 0, 213, 54, 5, 44, 42, 21, 4, 4, 96, 46, 42, 21, 4, 5, 96, 46, 42, 21, 4]
abbrev dktL_law_61 : List UInt8 := dkwL_law_61 ++ dktL_law_62
def dkwL_law_60 : List UInt8 := [46, 42, 21, 4, 6, 96, 46, 42, 21, 4, 7, 96, 46, 42, 21, 4, 8, 96, 46, 42, 21, 4, 16, 6]
abbrev dktL_law_60 : List UInt8 := dkwL_law_60 ++ dktL_law_61
def dkwL_law_59 : List UInt8 := [21, 6, 133, 148, 153, 0, 5, 3, 172, 167, 6, 171, 43, 42, 21, 4, 4, 96, 46, 42, 21, 4, 5, 96]
abbrev dktL_law_59 : List UInt8 := dkwL_law_59 ++ dktL_law_60
def dkwL_law_58 : List UInt8 := [182, 0, 212, 54, 6, 44, 182, 0, 157, 21, 5, 159, 0, 5, 3, 172, 21, 5, 154, 0, 15, 45, 3, 47]
abbrev dktL_law_58 : List UInt8 := dkwL_law_58 ++ dktL_law_59
def dkwL_law_57 : List UInt8 := [42, 21, 4, 4, 96, 46, 42, 21, 4, 5, 96, 46, 42, 21, 4, 6, 96, 46, 42, 21, 4, 7, 96, 46]
abbrev dktL_law_57 : List UInt8 := dkwL_law_57 ++ dktL_law_58
def dkwL_law_56 : List UInt8 := [21, 4, 5, 96, 46, 42, 21, 4, 6, 96, 46, 42, 21, 4, 7, 96, 46, 45, 184, 0, 210, 54, 5, 44]
abbrev dktL_law_56 : List UInt8 := dkwL_law_56 ++ dktL_law_57
def dkwL_law_55 : List UInt8 := [45, 3, 47, 21, 6, 133, 148, 153, 0, 5, 3, 172, 167, 7, 7, 43, 42, 21, 4, 4, 96, 46, 42]
abbrev dktL_law_55 : List UInt8 := dkwL_law_55 ++ dktL_law_56
def dkwL_law_54 : List UInt8 := [7, 96, 46, 182, 0, 209, 54, 6, 44, 182, 0, 157, 21, 5, 159, 0, 5, 3, 172, 21, 5, 154, 0, 15]
abbrev dktL_law_54 : List UInt8 := dkwL_law_54 ++ dktL_law_55
def dkwL_law_53 : List UInt8 := [54, 5, 44, 42, 21, 4, 4, 96, 46, 42, 21, 4, 5, 96, 46, 42, 21, 4, 6, 96, 46, 42, 21, 4]
abbrev dktL_law_53 : List UInt8 := dkwL_law_53 ++ dktL_law_54
def dkwL_law_52 : List UInt8 := [46, 42, 21, 4, 5, 96, 46, 42, 21, 4, 6, 96, 46, 42, 21, 4, 7, 96, 46, 45, 184, 0, 206]
abbrev dktL_law_52 : List UInt8 := dkwL_law_52 ++ dktL_law_53
def dkwL_law_51 : List UInt8 := [154, 0, 15, 45, 3, 47, 21, 6, 133, 148, 153, 0, 5, 3, 172, 167, 7, 99, 43, 42, 21, 4, 4, 96]
abbrev dktL_law_51 : List UInt8 := dkwL_law_51 ++ dktL_law_52
def dkwL_law_50 : List UInt8 := [21, 4, 6, 96, 46, 182, 0, 205, 54, 6, 44, 182, 0, 157, 21, 5, 159, 0, 5, 3, 172, 21, 5]
abbrev dktL_law_50 : List UInt8 := dkwL_law_50 ++ dktL_law_51
def dkwL_law_49 : List UInt8 := [6, 96, 46, 45, 184, 0, 203, 54, 5, 44, 42, 21, 4, 4, 96, 46, 42, 21, 4, 5, 96, 46, 42]
abbrev dktL_law_49 : List UInt8 := dkwL_law_49 ++ dktL_law_50
def dkwL_law_48 : List UInt8 := [153, 0, 5, 3, 172, 167, 7, 179, 43, 42, 21, 4, 4, 96, 46, 42, 21, 4, 5, 96, 46, 42, 21, 4]
abbrev dktL_law_48 : List UInt8 := dkwL_law_48 ++ dktL_law_49
def dkwL_law_47 : List UInt8 := [182, 0, 157, 21, 5, 159, 0, 5, 3, 172, 21, 5, 154, 0, 15, 45, 3, 47, 21, 6, 133, 148]
abbrev dktL_law_47 : List UInt8 := dkwL_law_47 ++ dktL_law_48
def dkwL_law_46 : List UInt8 := [184, 0, 200, 54, 5, 44, 42, 21, 4, 4, 96, 46, 42, 21, 4, 5, 96, 46, 182, 0, 202, 54, 6, 44]
abbrev dktL_law_46 : List UInt8 := dkwL_law_46 ++ dktL_law_47
def dkwL_law_45 : List UInt8 := [148, 153, 0, 5, 3, 172, 167, 7, 247, 43, 42, 21, 4, 4, 96, 46, 42, 21, 4, 5, 96, 46, 45]
abbrev dktL_law_45 : List UInt8 := dkwL_law_45 ++ dktL_law_46
def dkwL_law_44 : List UInt8 := [54, 6, 44, 182, 0, 157, 21, 5, 159, 0, 5, 3, 172, 21, 5, 154, 0, 15, 45, 3, 47, 21, 6, 133]
abbrev dktL_law_44 : List UInt8 := dkwL_law_44 ++ dktL_law_45
def dkwL_law_43 : List UInt8 := [46, 45, 184, 0, 197, 54, 5, 44, 42, 21, 4, 4, 96, 46, 42, 21, 4, 5, 96, 46, 182, 0, 199]
abbrev dktL_law_43 : List UInt8 := dkwL_law_43 ++ dktL_law_44
def dkwL_law_42 : List UInt8 := [21, 6, 133, 148, 153, 0, 5, 3, 172, 167, 8, 59, 43, 42, 21, 4, 4, 96, 46, 42, 21, 4, 5, 96]
abbrev dktL_law_42 : List UInt8 := dkwL_law_42 ++ dktL_law_43
def dkwL_law_41 : List UInt8 := [182, 0, 196, 54, 6, 44, 182, 0, 157, 21, 5, 159, 0, 5, 3, 172, 21, 5, 154, 0, 15, 45, 3, 47]
abbrev dktL_law_41 : List UInt8 := dkwL_law_41 ++ dktL_law_42
def dkwL_law_40 : List UInt8 := [42, 21, 4, 5, 96, 46, 42, 21, 4, 6, 96, 46, 42, 21, 4, 7, 96, 46, 42, 21, 4, 8, 96, 46]
abbrev dktL_law_40 : List UInt8 := dkwL_law_40 ++ dktL_law_41
def dkwL_law_39 : List UInt8 := [21, 4, 7, 96, 46, 42, 21, 4, 8, 96, 46, 45, 184, 0, 193, 54, 5, 44, 42, 21, 4, 4, 96, 46]
abbrev dktL_law_39 : List UInt8 := dkwL_law_39 ++ dktL_law_40
def dkwL_law_38 : List UInt8 := [167, 8, 163, 43, 42, 21, 4, 4, 96, 46, 42, 21, 4, 5, 96, 46, 42, 21, 4, 6, 96, 46, 42]
abbrev dktL_law_38 : List UInt8 := dkwL_law_38 ++ dktL_law_39
def dkwL_law_37 : List UInt8 := [159, 0, 5, 3, 172, 21, 5, 154, 0, 15, 45, 3, 47, 21, 6, 133, 148, 153, 0, 5, 3, 172]
abbrev dktL_law_37 : List UInt8 := dkwL_law_37 ++ dktL_law_38
def dkwL_law_36 : List UInt8 := [16, 6, 96, 46, 153, 0, 7, 4, 167, 0, 4, 3, 182, 0, 192, 54, 6, 44, 182, 0, 157, 21, 5]
abbrev dktL_law_36 : List UInt8 := dkwL_law_36 ++ dktL_law_37
def dkwL_law_35 : List UInt8 := [5, 96, 46, 42, 21, 4, 6, 96, 46, 42, 21, 4, 7, 96, 46, 42, 21, 4, 8, 96, 46, 42, 21, 4]
abbrev dktL_law_35 : List UInt8 := dkwL_law_35 ++ dktL_law_36
def dkwL_law_34 : List UInt8 := [153, 0, 7, 4, 167, 0, 4, 3, 45, 184, 0, 189, 54, 5, 44, 42, 21, 4, 4, 96, 46, 42, 21, 4]
abbrev dktL_law_34 : List UInt8 := dkwL_law_34 ++ dktL_law_35
def dkwL_law_33 : List UInt8 := [6, 96, 46, 42, 21, 4, 7, 96, 46, 42, 21, 4, 8, 96, 46, 42, 21, 4, 16, 6, 96, 46]
abbrev dktL_law_33 : List UInt8 := dkwL_law_33 ++ dktL_law_34
def dkwL_law_32 : List UInt8 := [153, 0, 5, 3, 172, 167, 9, 41, 43, 42, 21, 4, 4, 96, 46, 42, 21, 4, 5, 96, 46, 42, 21, 4]
abbrev dktL_law_32 : List UInt8 := dkwL_law_32 ++ dktL_law_33
def dkwL_law_31 : List UInt8 := [159, 0, 5, 3, 172, 21, 5, 154, 0, 22, 45, 3, 47, 21, 6, 153, 0, 7, 10, 167, 0, 4, 9, 148]
abbrev dktL_law_31 : List UInt8 := dkwL_law_31 ++ dktL_law_32
def dkwL_law_30 : List UInt8 := [184, 0, 186, 54, 5, 44, 42, 21, 4, 4, 96, 46, 182, 0, 188, 54, 6, 44, 182, 0, 157, 21, 5]
abbrev dktL_law_30 : List UInt8 := dkwL_law_30 ++ dktL_law_31
def dkwL_law_29 : List UInt8 := [3, 47, 21, 6, 133, 148, 153, 0, 5, 3, 172, 167, 9, 104, 43, 42, 21, 4, 4, 96, 46, 45]
abbrev dktL_law_29 : List UInt8 := dkwL_law_29 ++ dktL_law_30
def dkwL_law_28 : List UInt8 := [96, 46, 182, 0, 185, 54, 6, 44, 182, 0, 157, 21, 5, 159, 0, 5, 3, 172, 21, 5, 154, 0, 15, 45]
abbrev dktL_law_28 : List UInt8 := dkwL_law_28 ++ dktL_law_29
def dkwL_law_27 : List UInt8 := [46, 42, 21, 4, 5, 96, 46, 45, 184, 0, 183, 54, 5, 44, 42, 21, 4, 4, 96, 46, 42, 21, 4, 5]
abbrev dktL_law_27 : List UInt8 := dkwL_law_27 ++ dktL_law_28
def dkwL_law_26 : List UInt8 := [154, 0, 15, 45, 3, 47, 21, 6, 133, 148, 153, 0, 5, 3, 172, 167, 9, 172, 43, 42, 21, 4, 4, 96]
abbrev dktL_law_26 : List UInt8 := dkwL_law_26 ++ dktL_law_27
def dkwL_law_25 : List UInt8 := [42, 21, 4, 6, 96, 46, 182, 0, 182, 54, 6, 44, 182, 0, 157, 21, 5, 159, 0, 5, 3, 172, 21, 5]
abbrev dktL_law_25 : List UInt8 := dkwL_law_25 ++ dktL_law_26
def dkwL_law_24 : List UInt8 := [21, 4, 6, 96, 46, 45, 184, 0, 179, 54, 5, 44, 42, 21, 4, 4, 96, 46, 42, 21, 4, 5, 96, 46]
abbrev dktL_law_24 : List UInt8 := dkwL_law_24 ++ dktL_law_25
def dkwL_law_23 : List UInt8 := [148, 153, 0, 5, 3, 172, 167, 9, 252, 43, 42, 21, 4, 4, 96, 46, 42, 21, 4, 5, 96, 46, 42]
abbrev dktL_law_23 : List UInt8 := dkwL_law_23 ++ dktL_law_24
def dkwL_law_22 : List UInt8 := [54, 6, 44, 182, 0, 157, 21, 5, 159, 0, 5, 3, 172, 21, 5, 154, 0, 15, 45, 3, 47, 21, 6, 133]
abbrev dktL_law_22 : List UInt8 := dkwL_law_22 ++ dktL_law_23
def dkwL_law_21 : List UInt8 := [96, 46, 45, 184, 0, 176, 54, 5, 44, 42, 21, 4, 4, 96, 46, 42, 21, 4, 5, 96, 46, 182, 0, 178]
abbrev dktL_law_21 : List UInt8 := dkwL_law_21 ++ dktL_law_22
def dkwL_law_20 : List UInt8 := [47, 21, 6, 133, 148, 153, 0, 5, 3, 172, 167, 10, 64, 43, 42, 21, 4, 4, 96, 46, 42, 21, 4, 5]
abbrev dktL_law_20 : List UInt8 := dkwL_law_20 ++ dktL_law_21
def dkwL_law_19 : List UInt8 := [46, 182, 0, 175, 54, 6, 44, 182, 0, 157, 21, 5, 159, 0, 5, 3, 172, 21, 5, 154, 0, 15, 45, 3]
abbrev dktL_law_19 : List UInt8 := dkwL_law_19 ++ dktL_law_20
def dkwL_law_18 : List UInt8 := [42, 21, 4, 5, 96, 46, 45, 184, 0, 173, 54, 5, 44, 42, 21, 4, 4, 96, 46, 42, 21, 4, 5, 96]
abbrev dktL_law_18 : List UInt8 := dkwL_law_18 ++ dktL_law_19
def dkwL_law_17 : List UInt8 := [153, 0, 7, 10, 167, 0, 4, 9, 148, 153, 0, 5, 3, 172, 167, 10, 132, 43, 42, 21, 4, 4, 96, 46]
abbrev dktL_law_17 : List UInt8 := dkwL_law_17 ++ dktL_law_18
def dkwL_law_16 : List UInt8 := [54, 6, 44, 182, 0, 157, 21, 5, 159, 0, 5, 3, 172, 21, 5, 154, 0, 22, 45, 3, 47, 21, 6]
abbrev dktL_law_16 : List UInt8 := dkwL_law_16 ++ dktL_law_17
def dkwL_law_15 : List UInt8 := [96, 46, 45, 184, 0, 170, 54, 5, 44, 42, 21, 4, 4, 96, 46, 42, 21, 4, 5, 96, 46, 182, 0, 172]
abbrev dktL_law_15 : List UInt8 := dkwL_law_15 ++ dktL_law_16
def dkwL_law_14 : List UInt8 := [167, 0, 4, 9, 148, 153, 0, 5, 3, 172, 167, 10, 207, 43, 42, 21, 4, 4, 96, 46, 42, 21, 4, 5]
abbrev dktL_law_14 : List UInt8 := dkwL_law_14 ++ dktL_law_15
def dkwL_law_13 : List UInt8 := [182, 0, 157, 21, 5, 159, 0, 5, 3, 172, 21, 5, 154, 0, 22, 45, 3, 47, 21, 6, 153, 0, 7, 10]
abbrev dktL_law_13 : List UInt8 := dkwL_law_13 ++ dktL_law_14
def dkwL_law_12 : List UInt8 := [184, 0, 167, 54, 5, 44, 42, 21, 4, 4, 96, 46, 42, 21, 4, 5, 96, 46, 182, 0, 169, 54, 6, 44]
abbrev dktL_law_12 : List UInt8 := dkwL_law_12 ++ dktL_law_13
def dkwL_law_11 : List UInt8 := [153, 0, 5, 3, 172, 167, 11, 26, 43, 42, 21, 4, 4, 96, 46, 42, 21, 4, 5, 96, 46, 45]
abbrev dktL_law_11 : List UInt8 := dkwL_law_11 ++ dktL_law_12
def dkwL_law_10 : List UInt8 := [182, 0, 157, 21, 5, 159, 0, 5, 3, 172, 21, 5, 154, 0, 15, 45, 3, 47, 21, 6, 133, 148]
abbrev dktL_law_10 : List UInt8 := dkwL_law_10 ++ dktL_law_11
def dkwL_law_9 : List UInt8 := [184, 0, 163, 54, 5, 44, 42, 21, 4, 4, 96, 46, 42, 21, 4, 5, 96, 46, 182, 0, 166, 54, 6, 44]
abbrev dktL_law_9 : List UInt8 := dkwL_law_9 ++ dktL_law_10
def dkwL_law_8 : List UInt8 := [153, 0, 5, 3, 172, 167, 11, 94, 43, 42, 21, 4, 4, 96, 46, 42, 21, 4, 5, 96, 46, 45]
abbrev dktL_law_8 : List UInt8 := dkwL_law_8 ++ dktL_law_9
def dkwL_law_7 : List UInt8 := [182, 0, 157, 21, 5, 159, 0, 5, 3, 172, 21, 5, 154, 0, 15, 45, 3, 47, 21, 6, 133, 148]
abbrev dktL_law_7 : List UInt8 := dkwL_law_7 ++ dktL_law_8
def dkwL_law_6 : List UInt8 := [21, 4, 4, 96, 46, 45, 184, 0, 160, 54, 5, 44, 42, 21, 4, 4, 96, 46, 182, 0, 162, 54, 6, 44]
abbrev dktL_law_6 : List UInt8 := dkwL_law_6 ++ dktL_law_7
def dkwL_law_5 : List UInt8 := [172, 21, 5, 154, 0, 15, 45, 3, 47, 21, 6, 133, 148, 153, 0, 5, 3, 172, 167, 11, 150, 43, 42]
abbrev dktL_law_5 : List UInt8 := dkwL_law_5 ++ dktL_law_6
def dkwL_law_4 : List UInt8 := [54, 5, 44, 42, 21, 4, 4, 96, 46, 182, 0, 156, 54, 6, 44, 182, 0, 157, 21, 5, 159, 0, 5, 3]
abbrev dktL_law_4 : List UInt8 := dkwL_law_4 ++ dktL_law_5
def dkwL_law_3 : List UInt8 := [43, 182, 0, 146, 44, 182, 0, 150, 159, 11, 208, 3, 172, 43, 42, 21, 4, 4, 96, 46, 45, 184, 0, 151]
abbrev dktL_law_3 : List UInt8 := dkwL_law_3 ++ dktL_law_4
def dkwL_law_2 : List UInt8 := [170, 0, 0, 0, 0, 0, 12, 148, 0, 0, 0, 0, 0, 0, 0, 42, 0, 0, 0, 188, 0, 0, 0, 201, 0, 0, 1, 1, 0, 0, 1, 57, 0, 0, 1, 125, 0, 0, 1, 200, 0, 0, 2, 19, 0, 0, 2, 87, 0, 0, 2, 155, 0, 0, 2, 235, 0, 0, 3, 47, 0, 0, 3, 110, 0, 0, 3, 244, 0, 0, 4, 92, 0, 0, 4, 160, 0, 0, 4, 228, 0, 0, 5, 52, 0, 0, 5, 144, 0, 0, 5, 236, 0, 0, 6, 98, 0, 0, 6, 154, 0, 0, 6, 246, 0, 0, 7, 82, 0, 0, 7, 150, 0, 0, 7, 218, 0, 0, 8, 30, 0, 0, 8, 98, 0, 0, 8, 166, 0, 0, 8, 234, 0, 0, 9, 58, 0, 0, 9, 138, 0, 0, 9, 218, 0, 0, 10, 70, 0, 0, 10, 138, 0, 0, 10, 194, 0, 0, 11, 6, 0, 0, 11, 90, 0, 0, 11, 158, 0, 0, 11, 226, 0, 0, 11, 251, 0, 0, 12, 51, 0, 0, 12, 64, 0, 0, 12, 105]
abbrev dktL_law_2 : List UInt8 := dkwL_law_2 ++ dktL_law_3
def dkwL_law_1 : List UInt8 := [21, 4, 42, 190, 16, 7, 100, 163, 12, 164, 42, 21, 4, 46, 16, 63, 126]
abbrev dktL_law_1 : List UInt8 := dkwL_law_1 ++ dktL_law_2
def dkwL_law_0 : List UInt8 := [187, 0, 8, 89, 183, 0, 142, 76, 187, 0, 143, 89, 183, 0, 145, 77, 4, 188, 11, 78, 3, 54, 4]
abbrev dktL_law_0 : List UInt8 := dkwL_law_0 ++ dktL_law_1
theorem dksL_law_0 : cL_law.data.toList.drop 0 = dktL_law_0 := by decide +kernel
theorem dksL_law_1 : cL_law.data.toList.drop 23 = dktL_law_1 := dk_seg dksL_law_0 23 rfl rfl
theorem dksL_law_2 : cL_law.data.toList.drop 40 = dktL_law_2 := dk_seg dksL_law_1 17 rfl rfl
theorem dksL_law_3 : cL_law.data.toList.drop 228 = dktL_law_3 := dk_seg dksL_law_2 188 rfl rfl
theorem dksL_law_4 : cL_law.data.toList.drop 252 = dktL_law_4 := dk_seg dksL_law_3 24 rfl rfl
theorem dksL_law_5 : cL_law.data.toList.drop 276 = dktL_law_5 := dk_seg dksL_law_4 24 rfl rfl
theorem dksL_law_6 : cL_law.data.toList.drop 299 = dktL_law_6 := dk_seg dksL_law_5 23 rfl rfl
theorem dksL_law_7 : cL_law.data.toList.drop 323 = dktL_law_7 := dk_seg dksL_law_6 24 rfl rfl
theorem dksL_law_8 : cL_law.data.toList.drop 345 = dktL_law_8 := dk_seg dksL_law_7 22 rfl rfl
theorem dksL_law_9 : cL_law.data.toList.drop 367 = dktL_law_9 := dk_seg dksL_law_8 22 rfl rfl
theorem dksL_law_10 : cL_law.data.toList.drop 391 = dktL_law_10 := dk_seg dksL_law_9 24 rfl rfl
theorem dksL_law_11 : cL_law.data.toList.drop 413 = dktL_law_11 := dk_seg dksL_law_10 22 rfl rfl
theorem dksL_law_12 : cL_law.data.toList.drop 435 = dktL_law_12 := dk_seg dksL_law_11 22 rfl rfl
theorem dksL_law_13 : cL_law.data.toList.drop 459 = dktL_law_13 := dk_seg dksL_law_12 24 rfl rfl
theorem dksL_law_14 : cL_law.data.toList.drop 483 = dktL_law_14 := dk_seg dksL_law_13 24 rfl rfl
theorem dksL_law_15 : cL_law.data.toList.drop 507 = dktL_law_15 := dk_seg dksL_law_14 24 rfl rfl
theorem dksL_law_16 : cL_law.data.toList.drop 531 = dktL_law_16 := dk_seg dksL_law_15 24 rfl rfl
theorem dksL_law_17 : cL_law.data.toList.drop 554 = dktL_law_17 := dk_seg dksL_law_16 23 rfl rfl
theorem dksL_law_18 : cL_law.data.toList.drop 578 = dktL_law_18 := dk_seg dksL_law_17 24 rfl rfl
theorem dksL_law_19 : cL_law.data.toList.drop 602 = dktL_law_19 := dk_seg dksL_law_18 24 rfl rfl
theorem dksL_law_20 : cL_law.data.toList.drop 626 = dktL_law_20 := dk_seg dksL_law_19 24 rfl rfl
theorem dksL_law_21 : cL_law.data.toList.drop 650 = dktL_law_21 := dk_seg dksL_law_20 24 rfl rfl
theorem dksL_law_22 : cL_law.data.toList.drop 674 = dktL_law_22 := dk_seg dksL_law_21 24 rfl rfl
theorem dksL_law_23 : cL_law.data.toList.drop 698 = dktL_law_23 := dk_seg dksL_law_22 24 rfl rfl
theorem dksL_law_24 : cL_law.data.toList.drop 721 = dktL_law_24 := dk_seg dksL_law_23 23 rfl rfl
theorem dksL_law_25 : cL_law.data.toList.drop 745 = dktL_law_25 := dk_seg dksL_law_24 24 rfl rfl
theorem dksL_law_26 : cL_law.data.toList.drop 769 = dktL_law_26 := dk_seg dksL_law_25 24 rfl rfl
theorem dksL_law_27 : cL_law.data.toList.drop 793 = dktL_law_27 := dk_seg dksL_law_26 24 rfl rfl
theorem dksL_law_28 : cL_law.data.toList.drop 817 = dktL_law_28 := dk_seg dksL_law_27 24 rfl rfl
theorem dksL_law_29 : cL_law.data.toList.drop 841 = dktL_law_29 := dk_seg dksL_law_28 24 rfl rfl
theorem dksL_law_30 : cL_law.data.toList.drop 863 = dktL_law_30 := dk_seg dksL_law_29 22 rfl rfl
theorem dksL_law_31 : cL_law.data.toList.drop 886 = dktL_law_31 := dk_seg dksL_law_30 23 rfl rfl
theorem dksL_law_32 : cL_law.data.toList.drop 910 = dktL_law_32 := dk_seg dksL_law_31 24 rfl rfl
theorem dksL_law_33 : cL_law.data.toList.drop 934 = dktL_law_33 := dk_seg dksL_law_32 24 rfl rfl
theorem dksL_law_34 : cL_law.data.toList.drop 956 = dktL_law_34 := dk_seg dksL_law_33 22 rfl rfl
theorem dksL_law_35 : cL_law.data.toList.drop 980 = dktL_law_35 := dk_seg dksL_law_34 24 rfl rfl
theorem dksL_law_36 : cL_law.data.toList.drop 1004 = dktL_law_36 := dk_seg dksL_law_35 24 rfl rfl
theorem dksL_law_37 : cL_law.data.toList.drop 1027 = dktL_law_37 := dk_seg dksL_law_36 23 rfl rfl
theorem dksL_law_38 : cL_law.data.toList.drop 1049 = dktL_law_38 := dk_seg dksL_law_37 22 rfl rfl
theorem dksL_law_39 : cL_law.data.toList.drop 1072 = dktL_law_39 := dk_seg dksL_law_38 23 rfl rfl
theorem dksL_law_40 : cL_law.data.toList.drop 1096 = dktL_law_40 := dk_seg dksL_law_39 24 rfl rfl
theorem dksL_law_41 : cL_law.data.toList.drop 1120 = dktL_law_41 := dk_seg dksL_law_40 24 rfl rfl
theorem dksL_law_42 : cL_law.data.toList.drop 1144 = dktL_law_42 := dk_seg dksL_law_41 24 rfl rfl
theorem dksL_law_43 : cL_law.data.toList.drop 1168 = dktL_law_43 := dk_seg dksL_law_42 24 rfl rfl
theorem dksL_law_44 : cL_law.data.toList.drop 1191 = dktL_law_44 := dk_seg dksL_law_43 23 rfl rfl
theorem dksL_law_45 : cL_law.data.toList.drop 1215 = dktL_law_45 := dk_seg dksL_law_44 24 rfl rfl
theorem dksL_law_46 : cL_law.data.toList.drop 1238 = dktL_law_46 := dk_seg dksL_law_45 23 rfl rfl
theorem dksL_law_47 : cL_law.data.toList.drop 1262 = dktL_law_47 := dk_seg dksL_law_46 24 rfl rfl
theorem dksL_law_48 : cL_law.data.toList.drop 1284 = dktL_law_48 := dk_seg dksL_law_47 22 rfl rfl
theorem dksL_law_49 : cL_law.data.toList.drop 1308 = dktL_law_49 := dk_seg dksL_law_48 24 rfl rfl
theorem dksL_law_50 : cL_law.data.toList.drop 1331 = dktL_law_50 := dk_seg dksL_law_49 23 rfl rfl
theorem dksL_law_51 : cL_law.data.toList.drop 1354 = dktL_law_51 := dk_seg dksL_law_50 23 rfl rfl
theorem dksL_law_52 : cL_law.data.toList.drop 1378 = dktL_law_52 := dk_seg dksL_law_51 24 rfl rfl
theorem dksL_law_53 : cL_law.data.toList.drop 1401 = dktL_law_53 := dk_seg dksL_law_52 23 rfl rfl
theorem dksL_law_54 : cL_law.data.toList.drop 1425 = dktL_law_54 := dk_seg dksL_law_53 24 rfl rfl
theorem dksL_law_55 : cL_law.data.toList.drop 1449 = dktL_law_55 := dk_seg dksL_law_54 24 rfl rfl
theorem dksL_law_56 : cL_law.data.toList.drop 1472 = dktL_law_56 := dk_seg dksL_law_55 23 rfl rfl
theorem dksL_law_57 : cL_law.data.toList.drop 1496 = dktL_law_57 := dk_seg dksL_law_56 24 rfl rfl
theorem dksL_law_58 : cL_law.data.toList.drop 1520 = dktL_law_58 := dk_seg dksL_law_57 24 rfl rfl
theorem dksL_law_59 : cL_law.data.toList.drop 1544 = dktL_law_59 := dk_seg dksL_law_58 24 rfl rfl
theorem dksL_law_60 : cL_law.data.toList.drop 1568 = dktL_law_60 := dk_seg dksL_law_59 24 rfl rfl
theorem dksL_law_61 : cL_law.data.toList.drop 1592 = dktL_law_61 := dk_seg dksL_law_60 24 rfl rfl
theorem dksL_law_62 : cL_law.data.toList.drop 1616 = dktL_law_62 := dk_seg dksL_law_61 24 rfl rfl
theorem dksL_law_63 : cL_law.data.toList.drop 1638 = dktL_law_63 := dk_seg dksL_law_62 22 rfl rfl
theorem dksL_law_64 : cL_law.data.toList.drop 1662 = dktL_law_64 := dk_seg dksL_law_63 24 rfl rfl
theorem dksL_law_65 : cL_law.data.toList.drop 1685 = dktL_law_65 := dk_seg dksL_law_64 23 rfl rfl
theorem dksL_law_66 : cL_law.data.toList.drop 1709 = dktL_law_66 := dk_seg dksL_law_65 24 rfl rfl
theorem dksL_law_67 : cL_law.data.toList.drop 1732 = dktL_law_67 := dk_seg dksL_law_66 23 rfl rfl
theorem dksL_law_68 : cL_law.data.toList.drop 1756 = dktL_law_68 := dk_seg dksL_law_67 24 rfl rfl
theorem dksL_law_69 : cL_law.data.toList.drop 1780 = dktL_law_69 := dk_seg dksL_law_68 24 rfl rfl
theorem dksL_law_70 : cL_law.data.toList.drop 1804 = dktL_law_70 := dk_seg dksL_law_69 24 rfl rfl
theorem dksL_law_71 : cL_law.data.toList.drop 1828 = dktL_law_71 := dk_seg dksL_law_70 24 rfl rfl
theorem dksL_law_72 : cL_law.data.toList.drop 1851 = dktL_law_72 := dk_seg dksL_law_71 23 rfl rfl
theorem dksL_law_73 : cL_law.data.toList.drop 1875 = dktL_law_73 := dk_seg dksL_law_72 24 rfl rfl
theorem dksL_law_74 : cL_law.data.toList.drop 1899 = dktL_law_74 := dk_seg dksL_law_73 24 rfl rfl
theorem dksL_law_75 : cL_law.data.toList.drop 1922 = dktL_law_75 := dk_seg dksL_law_74 23 rfl rfl
theorem dksL_law_76 : cL_law.data.toList.drop 1946 = dktL_law_76 := dk_seg dksL_law_75 24 rfl rfl
theorem dksL_law_77 : cL_law.data.toList.drop 1970 = dktL_law_77 := dk_seg dksL_law_76 24 rfl rfl
theorem dksL_law_78 : cL_law.data.toList.drop 1994 = dktL_law_78 := dk_seg dksL_law_77 24 rfl rfl
theorem dksL_law_79 : cL_law.data.toList.drop 2017 = dktL_law_79 := dk_seg dksL_law_78 23 rfl rfl
theorem dksL_law_80 : cL_law.data.toList.drop 2041 = dktL_law_80 := dk_seg dksL_law_79 24 rfl rfl
theorem dksL_law_81 : cL_law.data.toList.drop 2064 = dktL_law_81 := dk_seg dksL_law_80 23 rfl rfl
theorem dksL_law_82 : cL_law.data.toList.drop 2088 = dktL_law_82 := dk_seg dksL_law_81 24 rfl rfl
theorem dksL_law_83 : cL_law.data.toList.drop 2110 = dktL_law_83 := dk_seg dksL_law_82 22 rfl rfl
theorem dksL_law_84 : cL_law.data.toList.drop 2132 = dktL_law_84 := dk_seg dksL_law_83 22 rfl rfl
theorem dksL_law_85 : cL_law.data.toList.drop 2156 = dktL_law_85 := dk_seg dksL_law_84 24 rfl rfl
theorem dksL_law_86 : cL_law.data.toList.drop 2178 = dktL_law_86 := dk_seg dksL_law_85 22 rfl rfl
theorem dksL_law_87 : cL_law.data.toList.drop 2200 = dktL_law_87 := dk_seg dksL_law_86 22 rfl rfl
theorem dksL_law_88 : cL_law.data.toList.drop 2224 = dktL_law_88 := dk_seg dksL_law_87 24 rfl rfl
theorem dksL_law_89 : cL_law.data.toList.drop 2246 = dktL_law_89 := dk_seg dksL_law_88 22 rfl rfl
theorem dksL_law_90 : cL_law.data.toList.drop 2268 = dktL_law_90 := dk_seg dksL_law_89 22 rfl rfl
theorem dksL_law_91 : cL_law.data.toList.drop 2292 = dktL_law_91 := dk_seg dksL_law_90 24 rfl rfl
theorem dksL_law_92 : cL_law.data.toList.drop 2314 = dktL_law_92 := dk_seg dksL_law_91 22 rfl rfl
theorem dksL_law_93 : cL_law.data.toList.drop 2338 = dktL_law_93 := dk_seg dksL_law_92 24 rfl rfl
theorem dksL_law_94 : cL_law.data.toList.drop 2361 = dktL_law_94 := dk_seg dksL_law_93 23 rfl rfl
theorem dksL_law_95 : cL_law.data.toList.drop 2384 = dktL_law_95 := dk_seg dksL_law_94 23 rfl rfl
theorem dksL_law_96 : cL_law.data.toList.drop 2408 = dktL_law_96 := dk_seg dksL_law_95 24 rfl rfl
theorem dksL_law_97 : cL_law.data.toList.drop 2432 = dktL_law_97 := dk_seg dksL_law_96 24 rfl rfl
theorem dksL_law_98 : cL_law.data.toList.drop 2455 = dktL_law_98 := dk_seg dksL_law_97 23 rfl rfl
theorem dksL_law_99 : cL_law.data.toList.drop 2479 = dktL_law_99 := dk_seg dksL_law_98 24 rfl rfl
theorem dksL_law_100 : cL_law.data.toList.drop 2502 = dktL_law_100 := dk_seg dksL_law_99 23 rfl rfl
theorem dksL_law_101 : cL_law.data.toList.drop 2526 = dktL_law_101 := dk_seg dksL_law_100 24 rfl rfl
theorem dksL_law_102 : cL_law.data.toList.drop 2550 = dktL_law_102 := dk_seg dksL_law_101 24 rfl rfl
theorem dksL_law_103 : cL_law.data.toList.drop 2574 = dktL_law_103 := dk_seg dksL_law_102 24 rfl rfl
theorem dksL_law_104 : cL_law.data.toList.drop 2596 = dktL_law_104 := dk_seg dksL_law_103 22 rfl rfl
theorem dksL_law_105 : cL_law.data.toList.drop 2620 = dktL_law_105 := dk_seg dksL_law_104 24 rfl rfl
theorem dksL_law_106 : cL_law.data.toList.drop 2643 = dktL_law_106 := dk_seg dksL_law_105 23 rfl rfl
theorem dksL_law_107 : cL_law.data.toList.drop 2667 = dktL_law_107 := dk_seg dksL_law_106 24 rfl rfl
theorem dksL_law_108 : cL_law.data.toList.drop 2691 = dktL_law_108 := dk_seg dksL_law_107 24 rfl rfl
theorem dksL_law_109 : cL_law.data.toList.drop 2713 = dktL_law_109 := dk_seg dksL_law_108 22 rfl rfl
theorem dksL_law_110 : cL_law.data.toList.drop 2735 = dktL_law_110 := dk_seg dksL_law_109 22 rfl rfl
theorem dksL_law_111 : cL_law.data.toList.drop 2758 = dktL_law_111 := dk_seg dksL_law_110 23 rfl rfl
theorem dksL_law_112 : cL_law.data.toList.drop 2782 = dktL_law_112 := dk_seg dksL_law_111 24 rfl rfl
theorem dksL_law_113 : cL_law.data.toList.drop 2806 = dktL_law_113 := dk_seg dksL_law_112 24 rfl rfl
theorem dksL_law_114 : cL_law.data.toList.drop 2829 = dktL_law_114 := dk_seg dksL_law_113 23 rfl rfl
theorem dksL_law_115 : cL_law.data.toList.drop 2853 = dktL_law_115 := dk_seg dksL_law_114 24 rfl rfl
theorem dksL_law_116 : cL_law.data.toList.drop 2875 = dktL_law_116 := dk_seg dksL_law_115 22 rfl rfl
theorem dksL_law_117 : cL_law.data.toList.drop 2899 = dktL_law_117 := dk_seg dksL_law_116 24 rfl rfl
theorem dksL_law_118 : cL_law.data.toList.drop 2921 = dktL_law_118 := dk_seg dksL_law_117 22 rfl rfl
theorem dksL_law_119 : cL_law.data.toList.drop 2943 = dktL_law_119 := dk_seg dksL_law_118 22 rfl rfl
theorem dksL_law_120 : cL_law.data.toList.drop 2967 = dktL_law_120 := dk_seg dksL_law_119 24 rfl rfl
theorem dksL_law_121 : cL_law.data.toList.drop 2989 = dktL_law_121 := dk_seg dksL_law_120 22 rfl rfl
theorem dksL_law_122 : cL_law.data.toList.drop 3011 = dktL_law_122 := dk_seg dksL_law_121 22 rfl rfl
theorem dksL_law_123 : cL_law.data.toList.drop 3035 = dktL_law_123 := dk_seg dksL_law_122 24 rfl rfl
theorem dksL_law_124 : cL_law.data.toList.drop 3057 = dktL_law_124 := dk_seg dksL_law_123 22 rfl rfl
theorem dksL_law_125 : cL_law.data.toList.drop 3079 = dktL_law_125 := dk_seg dksL_law_124 22 rfl rfl
theorem dksL_law_126 : cL_law.data.toList.drop 3102 = dktL_law_126 := dk_seg dksL_law_125 23 rfl rfl
theorem dksL_law_127 : cL_law.data.toList.drop 3126 = dktL_law_127 := dk_seg dksL_law_126 24 rfl rfl
theorem dksL_law_128 : cL_law.data.toList.drop 3150 = dktL_law_128 := dk_seg dksL_law_127 24 rfl rfl
theorem dksL_law_129 : cL_law.data.toList.drop 3174 = dktL_law_129 := dk_seg dksL_law_128 24 rfl rfl
theorem dksL_law_130 : cL_law.data.toList.drop 3198 = dktL_law_130 := dk_seg dksL_law_129 24 rfl rfl
theorem dksL_law_131 : cL_law.data.toList.drop 3222 = dktL_law_131 := dk_seg dksL_law_130 24 rfl rfl
theorem dksL_law_132 : cL_law.data.toList.drop 3244 = dktL_law_132 := dk_seg dksL_law_131 22 rfl rfl
theorem dL_law_0 : decode cL_law 0 = .ok (.new 8, 3) := dk_187 0 8 (dk_at dksL_law_0 0 rfl rfl)
theorem dL_law_3 : decode cL_law 3 = .ok (.dup, 1) := dk_89 (dk_at dksL_law_0 3 rfl rfl)
theorem dL_law_4 : decode cL_law 4 = .ok (.invokespecial 142, 3) := dk_183 0 142 (dk_at dksL_law_0 4 rfl rfl)
theorem dL_law_7 : decode cL_law 7 = .ok (.astore_n 1, 1) := dk_76 (dk_at dksL_law_0 7 rfl rfl)
theorem dL_law_8 : decode cL_law 8 = .ok (.new 143, 3) := dk_187 0 143 (dk_at dksL_law_0 8 rfl rfl)
theorem dL_law_11 : decode cL_law 11 = .ok (.dup, 1) := dk_89 (dk_at dksL_law_0 11 rfl rfl)
theorem dL_law_12 : decode cL_law 12 = .ok (.invokespecial 145, 3) := dk_183 0 145 (dk_at dksL_law_0 12 rfl rfl)
theorem dL_law_15 : decode cL_law 15 = .ok (.astore_n 2, 1) := dk_77 (dk_at dksL_law_0 15 rfl rfl)
theorem dL_law_16 : decode cL_law 16 = .ok (.iconst 1, 1) := dk_4 (dk_at dksL_law_0 16 rfl rfl)
theorem dL_law_17 : decode cL_law 17 = .ok (.newarray .long, 2) := dk_188_11 (dk_at dksL_law_0 17 rfl rfl)
theorem dL_law_19 : decode cL_law 19 = .ok (.astore_n 3, 1) := dk_78 (dk_at dksL_law_0 19 rfl rfl)
theorem dL_law_20 : decode cL_law 20 = .ok (.iconst 0, 1) := dk_3 (dk_at dksL_law_0 20 rfl rfl)
theorem dL_law_21 : decode cL_law 21 = .ok (.istore 4, 2) := dk_54 4 (dk_at dksL_law_0 21 rfl rfl)
theorem dL_law_23 : decode cL_law 23 = .ok (.iload 4, 2) := dk_21 4 (dk_at dksL_law_1 0 rfl rfl)
theorem dL_law_25 : decode cL_law 25 = .ok (.aload_n 0, 1) := dk_42 (dk_at dksL_law_1 2 rfl rfl)
theorem dL_law_26 : decode cL_law 26 = .ok (.arraylength, 1) := dk_190 (dk_at dksL_law_1 3 rfl rfl)
theorem dL_law_27 : decode cL_law 27 = .ok (.bipush 7, 2) := dk_16 7 (dk_at dksL_law_1 4 rfl rfl)
theorem dL_law_29 : decode cL_law 29 = .ok (.isub, 1) := dk_100 (dk_at dksL_law_1 6 rfl rfl)
theorem dL_law_30 : decode cL_law 30 = .ok (.if_icmp .gt 3236, 3) := dk_163 12 164 (dk_at dksL_law_1 7 rfl rfl)
theorem dL_law_33 : decode cL_law 33 = .ok (.aload_n 0, 1) := dk_42 (dk_at dksL_law_1 10 rfl rfl)
theorem dL_law_34 : decode cL_law 34 = .ok (.iload 4, 2) := dk_21 4 (dk_at dksL_law_1 11 rfl rfl)
theorem dL_law_36 : decode cL_law 36 = .ok (.iaload, 1) := dk_46 (dk_at dksL_law_1 13 rfl rfl)
theorem dL_law_37 : decode cL_law 37 = .ok (.bipush 63, 2) := dk_16 63 (dk_at dksL_law_1 14 rfl rfl)
theorem dL_law_39 : decode cL_law 39 = .ok (.iand, 1) := dk_126 (dk_at dksL_law_1 16 rfl rfl)
theorem dL_law_40 : decode cL_law 40 = .ok (.tableswitch 3220 0 42 #[188, 201, 257, 313, 381, 456, 531, 599, 667, 747, 815, 878, 1012, 1116, 1184, 1252, 1332, 1424, 1516, 1634, 1690, 1782, 1874, 1942, 2010, 2078, 2146, 2214, 2282, 2362, 2442, 2522, 2630, 2698, 2754, 2822, 2906, 2974, 3042, 3067, 3123, 3136, 3177], 188) := by decide +kernel
theorem dL_law_228 : decode cL_law 228 = .ok (.aload_n 1, 1) := dk_43 (dk_at dksL_law_3 0 rfl rfl)
theorem dL_law_229 : decode cL_law 229 = .ok (.invokevirtual 146, 3) := dk_182 0 146 (dk_at dksL_law_3 1 rfl rfl)
theorem dL_law_232 : decode cL_law 232 = .ok (.aload_n 2, 1) := dk_44 (dk_at dksL_law_3 4 rfl rfl)
theorem dL_law_233 : decode cL_law 233 = .ok (.invokevirtual 150, 3) := dk_182 0 150 (dk_at dksL_law_3 5 rfl rfl)
theorem dL_law_236 : decode cL_law 236 = .ok (.if_icmp .eq 3024, 3) := dk_159 11 208 (dk_at dksL_law_3 8 rfl rfl)
theorem dL_law_239 : decode cL_law 239 = .ok (.iconst 0, 1) := dk_3 (dk_at dksL_law_3 11 rfl rfl)
theorem dL_law_240 : decode cL_law 240 = .ok (.ireturn, 1) := dk_172 (dk_at dksL_law_3 12 rfl rfl)
theorem dL_law_241 : decode cL_law 241 = .ok (.aload_n 1, 1) := dk_43 (dk_at dksL_law_3 13 rfl rfl)
theorem dL_law_242 : decode cL_law 242 = .ok (.aload_n 0, 1) := dk_42 (dk_at dksL_law_3 14 rfl rfl)
theorem dL_law_243 : decode cL_law 243 = .ok (.iload 4, 2) := dk_21 4 (dk_at dksL_law_3 15 rfl rfl)
theorem dL_law_245 : decode cL_law 245 = .ok (.iconst 1, 1) := dk_4 (dk_at dksL_law_3 17 rfl rfl)
theorem dL_law_246 : decode cL_law 246 = .ok (.iadd, 1) := dk_96 (dk_at dksL_law_3 18 rfl rfl)
theorem dL_law_247 : decode cL_law 247 = .ok (.iaload, 1) := dk_46 (dk_at dksL_law_3 19 rfl rfl)
theorem dL_law_248 : decode cL_law 248 = .ok (.aload_n 3, 1) := dk_45 (dk_at dksL_law_3 20 rfl rfl)
theorem dL_law_249 : decode cL_law 249 = .ok (.invokestatic 151, 3) := dk_184 0 151 (dk_at dksL_law_3 21 rfl rfl)
theorem dL_law_252 : decode cL_law 252 = .ok (.istore 5, 2) := dk_54 5 (dk_at dksL_law_4 0 rfl rfl)
theorem dL_law_254 : decode cL_law 254 = .ok (.aload_n 2, 1) := dk_44 (dk_at dksL_law_4 2 rfl rfl)
theorem dL_law_255 : decode cL_law 255 = .ok (.aload_n 0, 1) := dk_42 (dk_at dksL_law_4 3 rfl rfl)
theorem dL_law_256 : decode cL_law 256 = .ok (.iload 4, 2) := dk_21 4 (dk_at dksL_law_4 4 rfl rfl)
theorem dL_law_258 : decode cL_law 258 = .ok (.iconst 1, 1) := dk_4 (dk_at dksL_law_4 6 rfl rfl)
theorem dL_law_259 : decode cL_law 259 = .ok (.iadd, 1) := dk_96 (dk_at dksL_law_4 7 rfl rfl)
theorem dL_law_260 : decode cL_law 260 = .ok (.iaload, 1) := dk_46 (dk_at dksL_law_4 8 rfl rfl)
theorem dL_law_261 : decode cL_law 261 = .ok (.invokevirtual 156, 3) := dk_182 0 156 (dk_at dksL_law_4 9 rfl rfl)
theorem dL_law_264 : decode cL_law 264 = .ok (.istore 6, 2) := dk_54 6 (dk_at dksL_law_4 12 rfl rfl)
theorem dL_law_266 : decode cL_law 266 = .ok (.aload_n 2, 1) := dk_44 (dk_at dksL_law_4 14 rfl rfl)
theorem dL_law_267 : decode cL_law 267 = .ok (.invokevirtual 157, 3) := dk_182 0 157 (dk_at dksL_law_4 15 rfl rfl)
theorem dL_law_270 : decode cL_law 270 = .ok (.iload 5, 2) := dk_21 5 (dk_at dksL_law_4 18 rfl rfl)
theorem dL_law_272 : decode cL_law 272 = .ok (.if_icmp .eq 5, 3) := dk_159 0 5 (dk_at dksL_law_4 20 rfl rfl)
theorem dL_law_275 : decode cL_law 275 = .ok (.iconst 0, 1) := dk_3 (dk_at dksL_law_4 23 rfl rfl)
theorem dL_law_276 : decode cL_law 276 = .ok (.ireturn, 1) := dk_172 (dk_at dksL_law_5 0 rfl rfl)
theorem dL_law_277 : decode cL_law 277 = .ok (.iload 5, 2) := dk_21 5 (dk_at dksL_law_5 1 rfl rfl)
theorem dL_law_279 : decode cL_law 279 = .ok (.ifCond .ne 15, 3) := dk_154 0 15 (dk_at dksL_law_5 3 rfl rfl)
theorem dL_law_282 : decode cL_law 282 = .ok (.aload_n 3, 1) := dk_45 (dk_at dksL_law_5 6 rfl rfl)
theorem dL_law_283 : decode cL_law 283 = .ok (.iconst 0, 1) := dk_3 (dk_at dksL_law_5 7 rfl rfl)
theorem dL_law_284 : decode cL_law 284 = .ok (.laload, 1) := dk_47 (dk_at dksL_law_5 8 rfl rfl)
theorem dL_law_285 : decode cL_law 285 = .ok (.iload 6, 2) := dk_21 6 (dk_at dksL_law_5 9 rfl rfl)
theorem dL_law_287 : decode cL_law 287 = .ok (.i2l, 1) := dk_133 (dk_at dksL_law_5 11 rfl rfl)
theorem dL_law_288 : decode cL_law 288 = .ok (.lcmp, 1) := dk_148 (dk_at dksL_law_5 12 rfl rfl)
theorem dL_law_289 : decode cL_law 289 = .ok (.ifCond .eq 5, 3) := dk_153 0 5 (dk_at dksL_law_5 13 rfl rfl)
theorem dL_law_292 : decode cL_law 292 = .ok (.iconst 0, 1) := dk_3 (dk_at dksL_law_5 16 rfl rfl)
theorem dL_law_293 : decode cL_law 293 = .ok (.ireturn, 1) := dk_172 (dk_at dksL_law_5 17 rfl rfl)
theorem dL_law_294 : decode cL_law 294 = .ok (.goto 2966, 3) := dk_167 11 150 (dk_at dksL_law_5 18 rfl rfl)
theorem dL_law_297 : decode cL_law 297 = .ok (.aload_n 1, 1) := dk_43 (dk_at dksL_law_5 21 rfl rfl)
theorem dL_law_298 : decode cL_law 298 = .ok (.aload_n 0, 1) := dk_42 (dk_at dksL_law_5 22 rfl rfl)
theorem dL_law_299 : decode cL_law 299 = .ok (.iload 4, 2) := dk_21 4 (dk_at dksL_law_6 0 rfl rfl)
theorem dL_law_301 : decode cL_law 301 = .ok (.iconst 1, 1) := dk_4 (dk_at dksL_law_6 2 rfl rfl)
theorem dL_law_302 : decode cL_law 302 = .ok (.iadd, 1) := dk_96 (dk_at dksL_law_6 3 rfl rfl)
theorem dL_law_303 : decode cL_law 303 = .ok (.iaload, 1) := dk_46 (dk_at dksL_law_6 4 rfl rfl)
theorem dL_law_304 : decode cL_law 304 = .ok (.aload_n 3, 1) := dk_45 (dk_at dksL_law_6 5 rfl rfl)
theorem dL_law_305 : decode cL_law 305 = .ok (.invokestatic 160, 3) := dk_184 0 160 (dk_at dksL_law_6 6 rfl rfl)
theorem dL_law_308 : decode cL_law 308 = .ok (.istore 5, 2) := dk_54 5 (dk_at dksL_law_6 9 rfl rfl)
theorem dL_law_310 : decode cL_law 310 = .ok (.aload_n 2, 1) := dk_44 (dk_at dksL_law_6 11 rfl rfl)
theorem dL_law_311 : decode cL_law 311 = .ok (.aload_n 0, 1) := dk_42 (dk_at dksL_law_6 12 rfl rfl)
theorem dL_law_312 : decode cL_law 312 = .ok (.iload 4, 2) := dk_21 4 (dk_at dksL_law_6 13 rfl rfl)
theorem dL_law_314 : decode cL_law 314 = .ok (.iconst 1, 1) := dk_4 (dk_at dksL_law_6 15 rfl rfl)
theorem dL_law_315 : decode cL_law 315 = .ok (.iadd, 1) := dk_96 (dk_at dksL_law_6 16 rfl rfl)
theorem dL_law_316 : decode cL_law 316 = .ok (.iaload, 1) := dk_46 (dk_at dksL_law_6 17 rfl rfl)
theorem dL_law_317 : decode cL_law 317 = .ok (.invokevirtual 162, 3) := dk_182 0 162 (dk_at dksL_law_6 18 rfl rfl)
theorem dL_law_320 : decode cL_law 320 = .ok (.istore 6, 2) := dk_54 6 (dk_at dksL_law_6 21 rfl rfl)
theorem dL_law_322 : decode cL_law 322 = .ok (.aload_n 2, 1) := dk_44 (dk_at dksL_law_6 23 rfl rfl)
theorem dL_law_323 : decode cL_law 323 = .ok (.invokevirtual 157, 3) := dk_182 0 157 (dk_at dksL_law_7 0 rfl rfl)
theorem dL_law_326 : decode cL_law 326 = .ok (.iload 5, 2) := dk_21 5 (dk_at dksL_law_7 3 rfl rfl)
theorem dL_law_328 : decode cL_law 328 = .ok (.if_icmp .eq 5, 3) := dk_159 0 5 (dk_at dksL_law_7 5 rfl rfl)
theorem dL_law_331 : decode cL_law 331 = .ok (.iconst 0, 1) := dk_3 (dk_at dksL_law_7 8 rfl rfl)
theorem dL_law_332 : decode cL_law 332 = .ok (.ireturn, 1) := dk_172 (dk_at dksL_law_7 9 rfl rfl)
theorem dL_law_333 : decode cL_law 333 = .ok (.iload 5, 2) := dk_21 5 (dk_at dksL_law_7 10 rfl rfl)
theorem dL_law_335 : decode cL_law 335 = .ok (.ifCond .ne 15, 3) := dk_154 0 15 (dk_at dksL_law_7 12 rfl rfl)
theorem dL_law_338 : decode cL_law 338 = .ok (.aload_n 3, 1) := dk_45 (dk_at dksL_law_7 15 rfl rfl)
theorem dL_law_339 : decode cL_law 339 = .ok (.iconst 0, 1) := dk_3 (dk_at dksL_law_7 16 rfl rfl)
theorem dL_law_340 : decode cL_law 340 = .ok (.laload, 1) := dk_47 (dk_at dksL_law_7 17 rfl rfl)
theorem dL_law_341 : decode cL_law 341 = .ok (.iload 6, 2) := dk_21 6 (dk_at dksL_law_7 18 rfl rfl)
theorem dL_law_343 : decode cL_law 343 = .ok (.i2l, 1) := dk_133 (dk_at dksL_law_7 20 rfl rfl)
theorem dL_law_344 : decode cL_law 344 = .ok (.lcmp, 1) := dk_148 (dk_at dksL_law_7 21 rfl rfl)
theorem dL_law_345 : decode cL_law 345 = .ok (.ifCond .eq 5, 3) := dk_153 0 5 (dk_at dksL_law_8 0 rfl rfl)
theorem dL_law_348 : decode cL_law 348 = .ok (.iconst 0, 1) := dk_3 (dk_at dksL_law_8 3 rfl rfl)
theorem dL_law_349 : decode cL_law 349 = .ok (.ireturn, 1) := dk_172 (dk_at dksL_law_8 4 rfl rfl)
theorem dL_law_350 : decode cL_law 350 = .ok (.goto 2910, 3) := dk_167 11 94 (dk_at dksL_law_8 5 rfl rfl)
theorem dL_law_353 : decode cL_law 353 = .ok (.aload_n 1, 1) := dk_43 (dk_at dksL_law_8 8 rfl rfl)
theorem dL_law_354 : decode cL_law 354 = .ok (.aload_n 0, 1) := dk_42 (dk_at dksL_law_8 9 rfl rfl)
theorem dL_law_355 : decode cL_law 355 = .ok (.iload 4, 2) := dk_21 4 (dk_at dksL_law_8 10 rfl rfl)
theorem dL_law_357 : decode cL_law 357 = .ok (.iconst 1, 1) := dk_4 (dk_at dksL_law_8 12 rfl rfl)
theorem dL_law_358 : decode cL_law 358 = .ok (.iadd, 1) := dk_96 (dk_at dksL_law_8 13 rfl rfl)
theorem dL_law_359 : decode cL_law 359 = .ok (.iaload, 1) := dk_46 (dk_at dksL_law_8 14 rfl rfl)
theorem dL_law_360 : decode cL_law 360 = .ok (.aload_n 0, 1) := dk_42 (dk_at dksL_law_8 15 rfl rfl)
theorem dL_law_361 : decode cL_law 361 = .ok (.iload 4, 2) := dk_21 4 (dk_at dksL_law_8 16 rfl rfl)
theorem dL_law_363 : decode cL_law 363 = .ok (.iconst 2, 1) := dk_5 (dk_at dksL_law_8 18 rfl rfl)
theorem dL_law_364 : decode cL_law 364 = .ok (.iadd, 1) := dk_96 (dk_at dksL_law_8 19 rfl rfl)
theorem dL_law_365 : decode cL_law 365 = .ok (.iaload, 1) := dk_46 (dk_at dksL_law_8 20 rfl rfl)
theorem dL_law_366 : decode cL_law 366 = .ok (.aload_n 3, 1) := dk_45 (dk_at dksL_law_8 21 rfl rfl)
theorem dL_law_367 : decode cL_law 367 = .ok (.invokestatic 163, 3) := dk_184 0 163 (dk_at dksL_law_9 0 rfl rfl)
theorem dL_law_370 : decode cL_law 370 = .ok (.istore 5, 2) := dk_54 5 (dk_at dksL_law_9 3 rfl rfl)
theorem dL_law_372 : decode cL_law 372 = .ok (.aload_n 2, 1) := dk_44 (dk_at dksL_law_9 5 rfl rfl)
theorem dL_law_373 : decode cL_law 373 = .ok (.aload_n 0, 1) := dk_42 (dk_at dksL_law_9 6 rfl rfl)
theorem dL_law_374 : decode cL_law 374 = .ok (.iload 4, 2) := dk_21 4 (dk_at dksL_law_9 7 rfl rfl)
theorem dL_law_376 : decode cL_law 376 = .ok (.iconst 1, 1) := dk_4 (dk_at dksL_law_9 9 rfl rfl)
theorem dL_law_377 : decode cL_law 377 = .ok (.iadd, 1) := dk_96 (dk_at dksL_law_9 10 rfl rfl)
theorem dL_law_378 : decode cL_law 378 = .ok (.iaload, 1) := dk_46 (dk_at dksL_law_9 11 rfl rfl)
theorem dL_law_379 : decode cL_law 379 = .ok (.aload_n 0, 1) := dk_42 (dk_at dksL_law_9 12 rfl rfl)
theorem dL_law_380 : decode cL_law 380 = .ok (.iload 4, 2) := dk_21 4 (dk_at dksL_law_9 13 rfl rfl)
theorem dL_law_382 : decode cL_law 382 = .ok (.iconst 2, 1) := dk_5 (dk_at dksL_law_9 15 rfl rfl)
theorem dL_law_383 : decode cL_law 383 = .ok (.iadd, 1) := dk_96 (dk_at dksL_law_9 16 rfl rfl)
theorem dL_law_384 : decode cL_law 384 = .ok (.iaload, 1) := dk_46 (dk_at dksL_law_9 17 rfl rfl)
theorem dL_law_385 : decode cL_law 385 = .ok (.invokevirtual 166, 3) := dk_182 0 166 (dk_at dksL_law_9 18 rfl rfl)
theorem dL_law_388 : decode cL_law 388 = .ok (.istore 6, 2) := dk_54 6 (dk_at dksL_law_9 21 rfl rfl)
theorem dL_law_390 : decode cL_law 390 = .ok (.aload_n 2, 1) := dk_44 (dk_at dksL_law_9 23 rfl rfl)
theorem dL_law_391 : decode cL_law 391 = .ok (.invokevirtual 157, 3) := dk_182 0 157 (dk_at dksL_law_10 0 rfl rfl)
theorem dL_law_394 : decode cL_law 394 = .ok (.iload 5, 2) := dk_21 5 (dk_at dksL_law_10 3 rfl rfl)
theorem dL_law_396 : decode cL_law 396 = .ok (.if_icmp .eq 5, 3) := dk_159 0 5 (dk_at dksL_law_10 5 rfl rfl)
theorem dL_law_399 : decode cL_law 399 = .ok (.iconst 0, 1) := dk_3 (dk_at dksL_law_10 8 rfl rfl)
theorem dL_law_400 : decode cL_law 400 = .ok (.ireturn, 1) := dk_172 (dk_at dksL_law_10 9 rfl rfl)
theorem dL_law_401 : decode cL_law 401 = .ok (.iload 5, 2) := dk_21 5 (dk_at dksL_law_10 10 rfl rfl)
theorem dL_law_403 : decode cL_law 403 = .ok (.ifCond .ne 15, 3) := dk_154 0 15 (dk_at dksL_law_10 12 rfl rfl)
theorem dL_law_406 : decode cL_law 406 = .ok (.aload_n 3, 1) := dk_45 (dk_at dksL_law_10 15 rfl rfl)
theorem dL_law_407 : decode cL_law 407 = .ok (.iconst 0, 1) := dk_3 (dk_at dksL_law_10 16 rfl rfl)
theorem dL_law_408 : decode cL_law 408 = .ok (.laload, 1) := dk_47 (dk_at dksL_law_10 17 rfl rfl)
theorem dL_law_409 : decode cL_law 409 = .ok (.iload 6, 2) := dk_21 6 (dk_at dksL_law_10 18 rfl rfl)
theorem dL_law_411 : decode cL_law 411 = .ok (.i2l, 1) := dk_133 (dk_at dksL_law_10 20 rfl rfl)
theorem dL_law_412 : decode cL_law 412 = .ok (.lcmp, 1) := dk_148 (dk_at dksL_law_10 21 rfl rfl)
theorem dL_law_413 : decode cL_law 413 = .ok (.ifCond .eq 5, 3) := dk_153 0 5 (dk_at dksL_law_11 0 rfl rfl)
theorem dL_law_416 : decode cL_law 416 = .ok (.iconst 0, 1) := dk_3 (dk_at dksL_law_11 3 rfl rfl)
theorem dL_law_417 : decode cL_law 417 = .ok (.ireturn, 1) := dk_172 (dk_at dksL_law_11 4 rfl rfl)
theorem dL_law_418 : decode cL_law 418 = .ok (.goto 2842, 3) := dk_167 11 26 (dk_at dksL_law_11 5 rfl rfl)
theorem dL_law_421 : decode cL_law 421 = .ok (.aload_n 1, 1) := dk_43 (dk_at dksL_law_11 8 rfl rfl)
theorem dL_law_422 : decode cL_law 422 = .ok (.aload_n 0, 1) := dk_42 (dk_at dksL_law_11 9 rfl rfl)
theorem dL_law_423 : decode cL_law 423 = .ok (.iload 4, 2) := dk_21 4 (dk_at dksL_law_11 10 rfl rfl)
theorem dL_law_425 : decode cL_law 425 = .ok (.iconst 1, 1) := dk_4 (dk_at dksL_law_11 12 rfl rfl)
theorem dL_law_426 : decode cL_law 426 = .ok (.iadd, 1) := dk_96 (dk_at dksL_law_11 13 rfl rfl)
theorem dL_law_427 : decode cL_law 427 = .ok (.iaload, 1) := dk_46 (dk_at dksL_law_11 14 rfl rfl)
theorem dL_law_428 : decode cL_law 428 = .ok (.aload_n 0, 1) := dk_42 (dk_at dksL_law_11 15 rfl rfl)
theorem dL_law_429 : decode cL_law 429 = .ok (.iload 4, 2) := dk_21 4 (dk_at dksL_law_11 16 rfl rfl)
theorem dL_law_431 : decode cL_law 431 = .ok (.iconst 2, 1) := dk_5 (dk_at dksL_law_11 18 rfl rfl)
theorem dL_law_432 : decode cL_law 432 = .ok (.iadd, 1) := dk_96 (dk_at dksL_law_11 19 rfl rfl)
theorem dL_law_433 : decode cL_law 433 = .ok (.iaload, 1) := dk_46 (dk_at dksL_law_11 20 rfl rfl)
theorem dL_law_434 : decode cL_law 434 = .ok (.aload_n 3, 1) := dk_45 (dk_at dksL_law_11 21 rfl rfl)
theorem dL_law_435 : decode cL_law 435 = .ok (.invokestatic 167, 3) := dk_184 0 167 (dk_at dksL_law_12 0 rfl rfl)
theorem dL_law_438 : decode cL_law 438 = .ok (.istore 5, 2) := dk_54 5 (dk_at dksL_law_12 3 rfl rfl)
theorem dL_law_440 : decode cL_law 440 = .ok (.aload_n 2, 1) := dk_44 (dk_at dksL_law_12 5 rfl rfl)
theorem dL_law_441 : decode cL_law 441 = .ok (.aload_n 0, 1) := dk_42 (dk_at dksL_law_12 6 rfl rfl)
theorem dL_law_442 : decode cL_law 442 = .ok (.iload 4, 2) := dk_21 4 (dk_at dksL_law_12 7 rfl rfl)
theorem dL_law_444 : decode cL_law 444 = .ok (.iconst 1, 1) := dk_4 (dk_at dksL_law_12 9 rfl rfl)
theorem dL_law_445 : decode cL_law 445 = .ok (.iadd, 1) := dk_96 (dk_at dksL_law_12 10 rfl rfl)
theorem dL_law_446 : decode cL_law 446 = .ok (.iaload, 1) := dk_46 (dk_at dksL_law_12 11 rfl rfl)
theorem dL_law_447 : decode cL_law 447 = .ok (.aload_n 0, 1) := dk_42 (dk_at dksL_law_12 12 rfl rfl)
theorem dL_law_448 : decode cL_law 448 = .ok (.iload 4, 2) := dk_21 4 (dk_at dksL_law_12 13 rfl rfl)
theorem dL_law_450 : decode cL_law 450 = .ok (.iconst 2, 1) := dk_5 (dk_at dksL_law_12 15 rfl rfl)
theorem dL_law_451 : decode cL_law 451 = .ok (.iadd, 1) := dk_96 (dk_at dksL_law_12 16 rfl rfl)
theorem dL_law_452 : decode cL_law 452 = .ok (.iaload, 1) := dk_46 (dk_at dksL_law_12 17 rfl rfl)
theorem dL_law_453 : decode cL_law 453 = .ok (.invokevirtual 169, 3) := dk_182 0 169 (dk_at dksL_law_12 18 rfl rfl)
theorem dL_law_456 : decode cL_law 456 = .ok (.istore 6, 2) := dk_54 6 (dk_at dksL_law_12 21 rfl rfl)
theorem dL_law_458 : decode cL_law 458 = .ok (.aload_n 2, 1) := dk_44 (dk_at dksL_law_12 23 rfl rfl)
theorem dL_law_459 : decode cL_law 459 = .ok (.invokevirtual 157, 3) := dk_182 0 157 (dk_at dksL_law_13 0 rfl rfl)
theorem dL_law_462 : decode cL_law 462 = .ok (.iload 5, 2) := dk_21 5 (dk_at dksL_law_13 3 rfl rfl)
theorem dL_law_464 : decode cL_law 464 = .ok (.if_icmp .eq 5, 3) := dk_159 0 5 (dk_at dksL_law_13 5 rfl rfl)
theorem dL_law_467 : decode cL_law 467 = .ok (.iconst 0, 1) := dk_3 (dk_at dksL_law_13 8 rfl rfl)
theorem dL_law_468 : decode cL_law 468 = .ok (.ireturn, 1) := dk_172 (dk_at dksL_law_13 9 rfl rfl)
theorem dL_law_469 : decode cL_law 469 = .ok (.iload 5, 2) := dk_21 5 (dk_at dksL_law_13 10 rfl rfl)
theorem dL_law_471 : decode cL_law 471 = .ok (.ifCond .ne 22, 3) := dk_154 0 22 (dk_at dksL_law_13 12 rfl rfl)
theorem dL_law_474 : decode cL_law 474 = .ok (.aload_n 3, 1) := dk_45 (dk_at dksL_law_13 15 rfl rfl)
theorem dL_law_475 : decode cL_law 475 = .ok (.iconst 0, 1) := dk_3 (dk_at dksL_law_13 16 rfl rfl)
theorem dL_law_476 : decode cL_law 476 = .ok (.laload, 1) := dk_47 (dk_at dksL_law_13 17 rfl rfl)
theorem dL_law_477 : decode cL_law 477 = .ok (.iload 6, 2) := dk_21 6 (dk_at dksL_law_13 18 rfl rfl)
theorem dL_law_479 : decode cL_law 479 = .ok (.ifCond .eq 7, 3) := dk_153 0 7 (dk_at dksL_law_13 20 rfl rfl)
theorem dL_law_482 : decode cL_law 482 = .ok (.lconst 1, 1) := dk_10 (dk_at dksL_law_13 23 rfl rfl)
theorem dL_law_483 : decode cL_law 483 = .ok (.goto 4, 3) := dk_167 0 4 (dk_at dksL_law_14 0 rfl rfl)
theorem dL_law_486 : decode cL_law 486 = .ok (.lconst 0, 1) := dk_9 (dk_at dksL_law_14 3 rfl rfl)
theorem dL_law_487 : decode cL_law 487 = .ok (.lcmp, 1) := dk_148 (dk_at dksL_law_14 4 rfl rfl)
theorem dL_law_488 : decode cL_law 488 = .ok (.ifCond .eq 5, 3) := dk_153 0 5 (dk_at dksL_law_14 5 rfl rfl)
theorem dL_law_491 : decode cL_law 491 = .ok (.iconst 0, 1) := dk_3 (dk_at dksL_law_14 8 rfl rfl)
theorem dL_law_492 : decode cL_law 492 = .ok (.ireturn, 1) := dk_172 (dk_at dksL_law_14 9 rfl rfl)
theorem dL_law_493 : decode cL_law 493 = .ok (.goto 2767, 3) := dk_167 10 207 (dk_at dksL_law_14 10 rfl rfl)
theorem dL_law_496 : decode cL_law 496 = .ok (.aload_n 1, 1) := dk_43 (dk_at dksL_law_14 13 rfl rfl)
theorem dL_law_497 : decode cL_law 497 = .ok (.aload_n 0, 1) := dk_42 (dk_at dksL_law_14 14 rfl rfl)
theorem dL_law_498 : decode cL_law 498 = .ok (.iload 4, 2) := dk_21 4 (dk_at dksL_law_14 15 rfl rfl)
theorem dL_law_500 : decode cL_law 500 = .ok (.iconst 1, 1) := dk_4 (dk_at dksL_law_14 17 rfl rfl)
theorem dL_law_501 : decode cL_law 501 = .ok (.iadd, 1) := dk_96 (dk_at dksL_law_14 18 rfl rfl)
theorem dL_law_502 : decode cL_law 502 = .ok (.iaload, 1) := dk_46 (dk_at dksL_law_14 19 rfl rfl)
theorem dL_law_503 : decode cL_law 503 = .ok (.aload_n 0, 1) := dk_42 (dk_at dksL_law_14 20 rfl rfl)
theorem dL_law_504 : decode cL_law 504 = .ok (.iload 4, 2) := dk_21 4 (dk_at dksL_law_14 21 rfl rfl)
theorem dL_law_506 : decode cL_law 506 = .ok (.iconst 2, 1) := dk_5 (dk_at dksL_law_14 23 rfl rfl)
theorem dL_law_507 : decode cL_law 507 = .ok (.iadd, 1) := dk_96 (dk_at dksL_law_15 0 rfl rfl)
theorem dL_law_508 : decode cL_law 508 = .ok (.iaload, 1) := dk_46 (dk_at dksL_law_15 1 rfl rfl)
theorem dL_law_509 : decode cL_law 509 = .ok (.aload_n 3, 1) := dk_45 (dk_at dksL_law_15 2 rfl rfl)
theorem dL_law_510 : decode cL_law 510 = .ok (.invokestatic 170, 3) := dk_184 0 170 (dk_at dksL_law_15 3 rfl rfl)
theorem dL_law_513 : decode cL_law 513 = .ok (.istore 5, 2) := dk_54 5 (dk_at dksL_law_15 6 rfl rfl)
theorem dL_law_515 : decode cL_law 515 = .ok (.aload_n 2, 1) := dk_44 (dk_at dksL_law_15 8 rfl rfl)
theorem dL_law_516 : decode cL_law 516 = .ok (.aload_n 0, 1) := dk_42 (dk_at dksL_law_15 9 rfl rfl)
theorem dL_law_517 : decode cL_law 517 = .ok (.iload 4, 2) := dk_21 4 (dk_at dksL_law_15 10 rfl rfl)
theorem dL_law_519 : decode cL_law 519 = .ok (.iconst 1, 1) := dk_4 (dk_at dksL_law_15 12 rfl rfl)
theorem dL_law_520 : decode cL_law 520 = .ok (.iadd, 1) := dk_96 (dk_at dksL_law_15 13 rfl rfl)
theorem dL_law_521 : decode cL_law 521 = .ok (.iaload, 1) := dk_46 (dk_at dksL_law_15 14 rfl rfl)
theorem dL_law_522 : decode cL_law 522 = .ok (.aload_n 0, 1) := dk_42 (dk_at dksL_law_15 15 rfl rfl)
theorem dL_law_523 : decode cL_law 523 = .ok (.iload 4, 2) := dk_21 4 (dk_at dksL_law_15 16 rfl rfl)
theorem dL_law_525 : decode cL_law 525 = .ok (.iconst 2, 1) := dk_5 (dk_at dksL_law_15 18 rfl rfl)
theorem dL_law_526 : decode cL_law 526 = .ok (.iadd, 1) := dk_96 (dk_at dksL_law_15 19 rfl rfl)
theorem dL_law_527 : decode cL_law 527 = .ok (.iaload, 1) := dk_46 (dk_at dksL_law_15 20 rfl rfl)
theorem dL_law_528 : decode cL_law 528 = .ok (.invokevirtual 172, 3) := dk_182 0 172 (dk_at dksL_law_15 21 rfl rfl)
theorem dL_law_531 : decode cL_law 531 = .ok (.istore 6, 2) := dk_54 6 (dk_at dksL_law_16 0 rfl rfl)
theorem dL_law_533 : decode cL_law 533 = .ok (.aload_n 2, 1) := dk_44 (dk_at dksL_law_16 2 rfl rfl)
theorem dL_law_534 : decode cL_law 534 = .ok (.invokevirtual 157, 3) := dk_182 0 157 (dk_at dksL_law_16 3 rfl rfl)
theorem dL_law_537 : decode cL_law 537 = .ok (.iload 5, 2) := dk_21 5 (dk_at dksL_law_16 6 rfl rfl)
theorem dL_law_539 : decode cL_law 539 = .ok (.if_icmp .eq 5, 3) := dk_159 0 5 (dk_at dksL_law_16 8 rfl rfl)
theorem dL_law_542 : decode cL_law 542 = .ok (.iconst 0, 1) := dk_3 (dk_at dksL_law_16 11 rfl rfl)
theorem dL_law_543 : decode cL_law 543 = .ok (.ireturn, 1) := dk_172 (dk_at dksL_law_16 12 rfl rfl)
theorem dL_law_544 : decode cL_law 544 = .ok (.iload 5, 2) := dk_21 5 (dk_at dksL_law_16 13 rfl rfl)
theorem dL_law_546 : decode cL_law 546 = .ok (.ifCond .ne 22, 3) := dk_154 0 22 (dk_at dksL_law_16 15 rfl rfl)
theorem dL_law_549 : decode cL_law 549 = .ok (.aload_n 3, 1) := dk_45 (dk_at dksL_law_16 18 rfl rfl)
theorem dL_law_550 : decode cL_law 550 = .ok (.iconst 0, 1) := dk_3 (dk_at dksL_law_16 19 rfl rfl)
theorem dL_law_551 : decode cL_law 551 = .ok (.laload, 1) := dk_47 (dk_at dksL_law_16 20 rfl rfl)
theorem dL_law_552 : decode cL_law 552 = .ok (.iload 6, 2) := dk_21 6 (dk_at dksL_law_16 21 rfl rfl)
theorem dL_law_554 : decode cL_law 554 = .ok (.ifCond .eq 7, 3) := dk_153 0 7 (dk_at dksL_law_17 0 rfl rfl)
theorem dL_law_557 : decode cL_law 557 = .ok (.lconst 1, 1) := dk_10 (dk_at dksL_law_17 3 rfl rfl)
theorem dL_law_558 : decode cL_law 558 = .ok (.goto 4, 3) := dk_167 0 4 (dk_at dksL_law_17 4 rfl rfl)
theorem dL_law_561 : decode cL_law 561 = .ok (.lconst 0, 1) := dk_9 (dk_at dksL_law_17 7 rfl rfl)
theorem dL_law_562 : decode cL_law 562 = .ok (.lcmp, 1) := dk_148 (dk_at dksL_law_17 8 rfl rfl)
theorem dL_law_563 : decode cL_law 563 = .ok (.ifCond .eq 5, 3) := dk_153 0 5 (dk_at dksL_law_17 9 rfl rfl)
theorem dL_law_566 : decode cL_law 566 = .ok (.iconst 0, 1) := dk_3 (dk_at dksL_law_17 12 rfl rfl)
theorem dL_law_567 : decode cL_law 567 = .ok (.ireturn, 1) := dk_172 (dk_at dksL_law_17 13 rfl rfl)
theorem dL_law_568 : decode cL_law 568 = .ok (.goto 2692, 3) := dk_167 10 132 (dk_at dksL_law_17 14 rfl rfl)
theorem dL_law_571 : decode cL_law 571 = .ok (.aload_n 1, 1) := dk_43 (dk_at dksL_law_17 17 rfl rfl)
theorem dL_law_572 : decode cL_law 572 = .ok (.aload_n 0, 1) := dk_42 (dk_at dksL_law_17 18 rfl rfl)
theorem dL_law_573 : decode cL_law 573 = .ok (.iload 4, 2) := dk_21 4 (dk_at dksL_law_17 19 rfl rfl)
theorem dL_law_575 : decode cL_law 575 = .ok (.iconst 1, 1) := dk_4 (dk_at dksL_law_17 21 rfl rfl)
theorem dL_law_576 : decode cL_law 576 = .ok (.iadd, 1) := dk_96 (dk_at dksL_law_17 22 rfl rfl)
theorem dL_law_577 : decode cL_law 577 = .ok (.iaload, 1) := dk_46 (dk_at dksL_law_17 23 rfl rfl)
theorem dL_law_578 : decode cL_law 578 = .ok (.aload_n 0, 1) := dk_42 (dk_at dksL_law_18 0 rfl rfl)
theorem dL_law_579 : decode cL_law 579 = .ok (.iload 4, 2) := dk_21 4 (dk_at dksL_law_18 1 rfl rfl)
theorem dL_law_581 : decode cL_law 581 = .ok (.iconst 2, 1) := dk_5 (dk_at dksL_law_18 3 rfl rfl)
theorem dL_law_582 : decode cL_law 582 = .ok (.iadd, 1) := dk_96 (dk_at dksL_law_18 4 rfl rfl)
theorem dL_law_583 : decode cL_law 583 = .ok (.iaload, 1) := dk_46 (dk_at dksL_law_18 5 rfl rfl)
theorem dL_law_584 : decode cL_law 584 = .ok (.aload_n 3, 1) := dk_45 (dk_at dksL_law_18 6 rfl rfl)
theorem dL_law_585 : decode cL_law 585 = .ok (.invokestatic 173, 3) := dk_184 0 173 (dk_at dksL_law_18 7 rfl rfl)
theorem dL_law_588 : decode cL_law 588 = .ok (.istore 5, 2) := dk_54 5 (dk_at dksL_law_18 10 rfl rfl)
theorem dL_law_590 : decode cL_law 590 = .ok (.aload_n 2, 1) := dk_44 (dk_at dksL_law_18 12 rfl rfl)
theorem dL_law_591 : decode cL_law 591 = .ok (.aload_n 0, 1) := dk_42 (dk_at dksL_law_18 13 rfl rfl)
theorem dL_law_592 : decode cL_law 592 = .ok (.iload 4, 2) := dk_21 4 (dk_at dksL_law_18 14 rfl rfl)
theorem dL_law_594 : decode cL_law 594 = .ok (.iconst 1, 1) := dk_4 (dk_at dksL_law_18 16 rfl rfl)
theorem dL_law_595 : decode cL_law 595 = .ok (.iadd, 1) := dk_96 (dk_at dksL_law_18 17 rfl rfl)
theorem dL_law_596 : decode cL_law 596 = .ok (.iaload, 1) := dk_46 (dk_at dksL_law_18 18 rfl rfl)
theorem dL_law_597 : decode cL_law 597 = .ok (.aload_n 0, 1) := dk_42 (dk_at dksL_law_18 19 rfl rfl)
theorem dL_law_598 : decode cL_law 598 = .ok (.iload 4, 2) := dk_21 4 (dk_at dksL_law_18 20 rfl rfl)
theorem dL_law_600 : decode cL_law 600 = .ok (.iconst 2, 1) := dk_5 (dk_at dksL_law_18 22 rfl rfl)
theorem dL_law_601 : decode cL_law 601 = .ok (.iadd, 1) := dk_96 (dk_at dksL_law_18 23 rfl rfl)
theorem dL_law_602 : decode cL_law 602 = .ok (.iaload, 1) := dk_46 (dk_at dksL_law_19 0 rfl rfl)
theorem dL_law_603 : decode cL_law 603 = .ok (.invokevirtual 175, 3) := dk_182 0 175 (dk_at dksL_law_19 1 rfl rfl)
theorem dL_law_606 : decode cL_law 606 = .ok (.istore 6, 2) := dk_54 6 (dk_at dksL_law_19 4 rfl rfl)
theorem dL_law_608 : decode cL_law 608 = .ok (.aload_n 2, 1) := dk_44 (dk_at dksL_law_19 6 rfl rfl)
theorem dL_law_609 : decode cL_law 609 = .ok (.invokevirtual 157, 3) := dk_182 0 157 (dk_at dksL_law_19 7 rfl rfl)
theorem dL_law_612 : decode cL_law 612 = .ok (.iload 5, 2) := dk_21 5 (dk_at dksL_law_19 10 rfl rfl)
theorem dL_law_614 : decode cL_law 614 = .ok (.if_icmp .eq 5, 3) := dk_159 0 5 (dk_at dksL_law_19 12 rfl rfl)
theorem dL_law_617 : decode cL_law 617 = .ok (.iconst 0, 1) := dk_3 (dk_at dksL_law_19 15 rfl rfl)
theorem dL_law_618 : decode cL_law 618 = .ok (.ireturn, 1) := dk_172 (dk_at dksL_law_19 16 rfl rfl)
theorem dL_law_619 : decode cL_law 619 = .ok (.iload 5, 2) := dk_21 5 (dk_at dksL_law_19 17 rfl rfl)
theorem dL_law_621 : decode cL_law 621 = .ok (.ifCond .ne 15, 3) := dk_154 0 15 (dk_at dksL_law_19 19 rfl rfl)
theorem dL_law_624 : decode cL_law 624 = .ok (.aload_n 3, 1) := dk_45 (dk_at dksL_law_19 22 rfl rfl)
theorem dL_law_625 : decode cL_law 625 = .ok (.iconst 0, 1) := dk_3 (dk_at dksL_law_19 23 rfl rfl)
theorem dL_law_626 : decode cL_law 626 = .ok (.laload, 1) := dk_47 (dk_at dksL_law_20 0 rfl rfl)
theorem dL_law_627 : decode cL_law 627 = .ok (.iload 6, 2) := dk_21 6 (dk_at dksL_law_20 1 rfl rfl)
theorem dL_law_629 : decode cL_law 629 = .ok (.i2l, 1) := dk_133 (dk_at dksL_law_20 3 rfl rfl)
theorem dL_law_630 : decode cL_law 630 = .ok (.lcmp, 1) := dk_148 (dk_at dksL_law_20 4 rfl rfl)
theorem dL_law_631 : decode cL_law 631 = .ok (.ifCond .eq 5, 3) := dk_153 0 5 (dk_at dksL_law_20 5 rfl rfl)
theorem dL_law_634 : decode cL_law 634 = .ok (.iconst 0, 1) := dk_3 (dk_at dksL_law_20 8 rfl rfl)
theorem dL_law_635 : decode cL_law 635 = .ok (.ireturn, 1) := dk_172 (dk_at dksL_law_20 9 rfl rfl)
theorem dL_law_636 : decode cL_law 636 = .ok (.goto 2624, 3) := dk_167 10 64 (dk_at dksL_law_20 10 rfl rfl)
theorem dL_law_639 : decode cL_law 639 = .ok (.aload_n 1, 1) := dk_43 (dk_at dksL_law_20 13 rfl rfl)
theorem dL_law_640 : decode cL_law 640 = .ok (.aload_n 0, 1) := dk_42 (dk_at dksL_law_20 14 rfl rfl)
theorem dL_law_641 : decode cL_law 641 = .ok (.iload 4, 2) := dk_21 4 (dk_at dksL_law_20 15 rfl rfl)
theorem dL_law_643 : decode cL_law 643 = .ok (.iconst 1, 1) := dk_4 (dk_at dksL_law_20 17 rfl rfl)
theorem dL_law_644 : decode cL_law 644 = .ok (.iadd, 1) := dk_96 (dk_at dksL_law_20 18 rfl rfl)
theorem dL_law_645 : decode cL_law 645 = .ok (.iaload, 1) := dk_46 (dk_at dksL_law_20 19 rfl rfl)
theorem dL_law_646 : decode cL_law 646 = .ok (.aload_n 0, 1) := dk_42 (dk_at dksL_law_20 20 rfl rfl)
theorem dL_law_647 : decode cL_law 647 = .ok (.iload 4, 2) := dk_21 4 (dk_at dksL_law_20 21 rfl rfl)
theorem dL_law_649 : decode cL_law 649 = .ok (.iconst 2, 1) := dk_5 (dk_at dksL_law_20 23 rfl rfl)
theorem dL_law_650 : decode cL_law 650 = .ok (.iadd, 1) := dk_96 (dk_at dksL_law_21 0 rfl rfl)
theorem dL_law_651 : decode cL_law 651 = .ok (.iaload, 1) := dk_46 (dk_at dksL_law_21 1 rfl rfl)
theorem dL_law_652 : decode cL_law 652 = .ok (.aload_n 3, 1) := dk_45 (dk_at dksL_law_21 2 rfl rfl)
theorem dL_law_653 : decode cL_law 653 = .ok (.invokestatic 176, 3) := dk_184 0 176 (dk_at dksL_law_21 3 rfl rfl)
theorem dL_law_656 : decode cL_law 656 = .ok (.istore 5, 2) := dk_54 5 (dk_at dksL_law_21 6 rfl rfl)
theorem dL_law_658 : decode cL_law 658 = .ok (.aload_n 2, 1) := dk_44 (dk_at dksL_law_21 8 rfl rfl)
theorem dL_law_659 : decode cL_law 659 = .ok (.aload_n 0, 1) := dk_42 (dk_at dksL_law_21 9 rfl rfl)
theorem dL_law_660 : decode cL_law 660 = .ok (.iload 4, 2) := dk_21 4 (dk_at dksL_law_21 10 rfl rfl)
theorem dL_law_662 : decode cL_law 662 = .ok (.iconst 1, 1) := dk_4 (dk_at dksL_law_21 12 rfl rfl)
theorem dL_law_663 : decode cL_law 663 = .ok (.iadd, 1) := dk_96 (dk_at dksL_law_21 13 rfl rfl)
theorem dL_law_664 : decode cL_law 664 = .ok (.iaload, 1) := dk_46 (dk_at dksL_law_21 14 rfl rfl)
theorem dL_law_665 : decode cL_law 665 = .ok (.aload_n 0, 1) := dk_42 (dk_at dksL_law_21 15 rfl rfl)
theorem dL_law_666 : decode cL_law 666 = .ok (.iload 4, 2) := dk_21 4 (dk_at dksL_law_21 16 rfl rfl)
theorem dL_law_668 : decode cL_law 668 = .ok (.iconst 2, 1) := dk_5 (dk_at dksL_law_21 18 rfl rfl)
theorem dL_law_669 : decode cL_law 669 = .ok (.iadd, 1) := dk_96 (dk_at dksL_law_21 19 rfl rfl)
theorem dL_law_670 : decode cL_law 670 = .ok (.iaload, 1) := dk_46 (dk_at dksL_law_21 20 rfl rfl)
theorem dL_law_671 : decode cL_law 671 = .ok (.invokevirtual 178, 3) := dk_182 0 178 (dk_at dksL_law_21 21 rfl rfl)
theorem dL_law_674 : decode cL_law 674 = .ok (.istore 6, 2) := dk_54 6 (dk_at dksL_law_22 0 rfl rfl)
theorem dL_law_676 : decode cL_law 676 = .ok (.aload_n 2, 1) := dk_44 (dk_at dksL_law_22 2 rfl rfl)
theorem dL_law_677 : decode cL_law 677 = .ok (.invokevirtual 157, 3) := dk_182 0 157 (dk_at dksL_law_22 3 rfl rfl)
theorem dL_law_680 : decode cL_law 680 = .ok (.iload 5, 2) := dk_21 5 (dk_at dksL_law_22 6 rfl rfl)
theorem dL_law_682 : decode cL_law 682 = .ok (.if_icmp .eq 5, 3) := dk_159 0 5 (dk_at dksL_law_22 8 rfl rfl)
theorem dL_law_685 : decode cL_law 685 = .ok (.iconst 0, 1) := dk_3 (dk_at dksL_law_22 11 rfl rfl)
theorem dL_law_686 : decode cL_law 686 = .ok (.ireturn, 1) := dk_172 (dk_at dksL_law_22 12 rfl rfl)
theorem dL_law_687 : decode cL_law 687 = .ok (.iload 5, 2) := dk_21 5 (dk_at dksL_law_22 13 rfl rfl)
theorem dL_law_689 : decode cL_law 689 = .ok (.ifCond .ne 15, 3) := dk_154 0 15 (dk_at dksL_law_22 15 rfl rfl)
theorem dL_law_692 : decode cL_law 692 = .ok (.aload_n 3, 1) := dk_45 (dk_at dksL_law_22 18 rfl rfl)
theorem dL_law_693 : decode cL_law 693 = .ok (.iconst 0, 1) := dk_3 (dk_at dksL_law_22 19 rfl rfl)
theorem dL_law_694 : decode cL_law 694 = .ok (.laload, 1) := dk_47 (dk_at dksL_law_22 20 rfl rfl)
theorem dL_law_695 : decode cL_law 695 = .ok (.iload 6, 2) := dk_21 6 (dk_at dksL_law_22 21 rfl rfl)
theorem dL_law_697 : decode cL_law 697 = .ok (.i2l, 1) := dk_133 (dk_at dksL_law_22 23 rfl rfl)
theorem dL_law_698 : decode cL_law 698 = .ok (.lcmp, 1) := dk_148 (dk_at dksL_law_23 0 rfl rfl)
theorem dL_law_699 : decode cL_law 699 = .ok (.ifCond .eq 5, 3) := dk_153 0 5 (dk_at dksL_law_23 1 rfl rfl)
theorem dL_law_702 : decode cL_law 702 = .ok (.iconst 0, 1) := dk_3 (dk_at dksL_law_23 4 rfl rfl)
theorem dL_law_703 : decode cL_law 703 = .ok (.ireturn, 1) := dk_172 (dk_at dksL_law_23 5 rfl rfl)
theorem dL_law_704 : decode cL_law 704 = .ok (.goto 2556, 3) := dk_167 9 252 (dk_at dksL_law_23 6 rfl rfl)
theorem dL_law_707 : decode cL_law 707 = .ok (.aload_n 1, 1) := dk_43 (dk_at dksL_law_23 9 rfl rfl)
theorem dL_law_708 : decode cL_law 708 = .ok (.aload_n 0, 1) := dk_42 (dk_at dksL_law_23 10 rfl rfl)
theorem dL_law_709 : decode cL_law 709 = .ok (.iload 4, 2) := dk_21 4 (dk_at dksL_law_23 11 rfl rfl)
theorem dL_law_711 : decode cL_law 711 = .ok (.iconst 1, 1) := dk_4 (dk_at dksL_law_23 13 rfl rfl)
theorem dL_law_712 : decode cL_law 712 = .ok (.iadd, 1) := dk_96 (dk_at dksL_law_23 14 rfl rfl)
theorem dL_law_713 : decode cL_law 713 = .ok (.iaload, 1) := dk_46 (dk_at dksL_law_23 15 rfl rfl)
theorem dL_law_714 : decode cL_law 714 = .ok (.aload_n 0, 1) := dk_42 (dk_at dksL_law_23 16 rfl rfl)
theorem dL_law_715 : decode cL_law 715 = .ok (.iload 4, 2) := dk_21 4 (dk_at dksL_law_23 17 rfl rfl)
theorem dL_law_717 : decode cL_law 717 = .ok (.iconst 2, 1) := dk_5 (dk_at dksL_law_23 19 rfl rfl)
theorem dL_law_718 : decode cL_law 718 = .ok (.iadd, 1) := dk_96 (dk_at dksL_law_23 20 rfl rfl)
theorem dL_law_719 : decode cL_law 719 = .ok (.iaload, 1) := dk_46 (dk_at dksL_law_23 21 rfl rfl)
theorem dL_law_720 : decode cL_law 720 = .ok (.aload_n 0, 1) := dk_42 (dk_at dksL_law_23 22 rfl rfl)
theorem dL_law_721 : decode cL_law 721 = .ok (.iload 4, 2) := dk_21 4 (dk_at dksL_law_24 0 rfl rfl)
theorem dL_law_723 : decode cL_law 723 = .ok (.iconst 3, 1) := dk_6 (dk_at dksL_law_24 2 rfl rfl)
theorem dL_law_724 : decode cL_law 724 = .ok (.iadd, 1) := dk_96 (dk_at dksL_law_24 3 rfl rfl)
theorem dL_law_725 : decode cL_law 725 = .ok (.iaload, 1) := dk_46 (dk_at dksL_law_24 4 rfl rfl)
theorem dL_law_726 : decode cL_law 726 = .ok (.aload_n 3, 1) := dk_45 (dk_at dksL_law_24 5 rfl rfl)
theorem dL_law_727 : decode cL_law 727 = .ok (.invokestatic 179, 3) := dk_184 0 179 (dk_at dksL_law_24 6 rfl rfl)
theorem dL_law_730 : decode cL_law 730 = .ok (.istore 5, 2) := dk_54 5 (dk_at dksL_law_24 9 rfl rfl)
theorem dL_law_732 : decode cL_law 732 = .ok (.aload_n 2, 1) := dk_44 (dk_at dksL_law_24 11 rfl rfl)
theorem dL_law_733 : decode cL_law 733 = .ok (.aload_n 0, 1) := dk_42 (dk_at dksL_law_24 12 rfl rfl)
theorem dL_law_734 : decode cL_law 734 = .ok (.iload 4, 2) := dk_21 4 (dk_at dksL_law_24 13 rfl rfl)
theorem dL_law_736 : decode cL_law 736 = .ok (.iconst 1, 1) := dk_4 (dk_at dksL_law_24 15 rfl rfl)
theorem dL_law_737 : decode cL_law 737 = .ok (.iadd, 1) := dk_96 (dk_at dksL_law_24 16 rfl rfl)
theorem dL_law_738 : decode cL_law 738 = .ok (.iaload, 1) := dk_46 (dk_at dksL_law_24 17 rfl rfl)
theorem dL_law_739 : decode cL_law 739 = .ok (.aload_n 0, 1) := dk_42 (dk_at dksL_law_24 18 rfl rfl)
theorem dL_law_740 : decode cL_law 740 = .ok (.iload 4, 2) := dk_21 4 (dk_at dksL_law_24 19 rfl rfl)
theorem dL_law_742 : decode cL_law 742 = .ok (.iconst 2, 1) := dk_5 (dk_at dksL_law_24 21 rfl rfl)
theorem dL_law_743 : decode cL_law 743 = .ok (.iadd, 1) := dk_96 (dk_at dksL_law_24 22 rfl rfl)
theorem dL_law_744 : decode cL_law 744 = .ok (.iaload, 1) := dk_46 (dk_at dksL_law_24 23 rfl rfl)
theorem dL_law_745 : decode cL_law 745 = .ok (.aload_n 0, 1) := dk_42 (dk_at dksL_law_25 0 rfl rfl)
theorem dL_law_746 : decode cL_law 746 = .ok (.iload 4, 2) := dk_21 4 (dk_at dksL_law_25 1 rfl rfl)
theorem dL_law_748 : decode cL_law 748 = .ok (.iconst 3, 1) := dk_6 (dk_at dksL_law_25 3 rfl rfl)
theorem dL_law_749 : decode cL_law 749 = .ok (.iadd, 1) := dk_96 (dk_at dksL_law_25 4 rfl rfl)
theorem dL_law_750 : decode cL_law 750 = .ok (.iaload, 1) := dk_46 (dk_at dksL_law_25 5 rfl rfl)
theorem dL_law_751 : decode cL_law 751 = .ok (.invokevirtual 182, 3) := dk_182 0 182 (dk_at dksL_law_25 6 rfl rfl)
theorem dL_law_754 : decode cL_law 754 = .ok (.istore 6, 2) := dk_54 6 (dk_at dksL_law_25 9 rfl rfl)
theorem dL_law_756 : decode cL_law 756 = .ok (.aload_n 2, 1) := dk_44 (dk_at dksL_law_25 11 rfl rfl)
theorem dL_law_757 : decode cL_law 757 = .ok (.invokevirtual 157, 3) := dk_182 0 157 (dk_at dksL_law_25 12 rfl rfl)
theorem dL_law_760 : decode cL_law 760 = .ok (.iload 5, 2) := dk_21 5 (dk_at dksL_law_25 15 rfl rfl)
theorem dL_law_762 : decode cL_law 762 = .ok (.if_icmp .eq 5, 3) := dk_159 0 5 (dk_at dksL_law_25 17 rfl rfl)
theorem dL_law_765 : decode cL_law 765 = .ok (.iconst 0, 1) := dk_3 (dk_at dksL_law_25 20 rfl rfl)
theorem dL_law_766 : decode cL_law 766 = .ok (.ireturn, 1) := dk_172 (dk_at dksL_law_25 21 rfl rfl)
theorem dL_law_767 : decode cL_law 767 = .ok (.iload 5, 2) := dk_21 5 (dk_at dksL_law_25 22 rfl rfl)
theorem dL_law_769 : decode cL_law 769 = .ok (.ifCond .ne 15, 3) := dk_154 0 15 (dk_at dksL_law_26 0 rfl rfl)
theorem dL_law_772 : decode cL_law 772 = .ok (.aload_n 3, 1) := dk_45 (dk_at dksL_law_26 3 rfl rfl)
theorem dL_law_773 : decode cL_law 773 = .ok (.iconst 0, 1) := dk_3 (dk_at dksL_law_26 4 rfl rfl)
theorem dL_law_774 : decode cL_law 774 = .ok (.laload, 1) := dk_47 (dk_at dksL_law_26 5 rfl rfl)
theorem dL_law_775 : decode cL_law 775 = .ok (.iload 6, 2) := dk_21 6 (dk_at dksL_law_26 6 rfl rfl)
theorem dL_law_777 : decode cL_law 777 = .ok (.i2l, 1) := dk_133 (dk_at dksL_law_26 8 rfl rfl)
theorem dL_law_778 : decode cL_law 778 = .ok (.lcmp, 1) := dk_148 (dk_at dksL_law_26 9 rfl rfl)
theorem dL_law_779 : decode cL_law 779 = .ok (.ifCond .eq 5, 3) := dk_153 0 5 (dk_at dksL_law_26 10 rfl rfl)
theorem dL_law_782 : decode cL_law 782 = .ok (.iconst 0, 1) := dk_3 (dk_at dksL_law_26 13 rfl rfl)
theorem dL_law_783 : decode cL_law 783 = .ok (.ireturn, 1) := dk_172 (dk_at dksL_law_26 14 rfl rfl)
theorem dL_law_784 : decode cL_law 784 = .ok (.goto 2476, 3) := dk_167 9 172 (dk_at dksL_law_26 15 rfl rfl)
theorem dL_law_787 : decode cL_law 787 = .ok (.aload_n 1, 1) := dk_43 (dk_at dksL_law_26 18 rfl rfl)
theorem dL_law_788 : decode cL_law 788 = .ok (.aload_n 0, 1) := dk_42 (dk_at dksL_law_26 19 rfl rfl)
theorem dL_law_789 : decode cL_law 789 = .ok (.iload 4, 2) := dk_21 4 (dk_at dksL_law_26 20 rfl rfl)
theorem dL_law_791 : decode cL_law 791 = .ok (.iconst 1, 1) := dk_4 (dk_at dksL_law_26 22 rfl rfl)
theorem dL_law_792 : decode cL_law 792 = .ok (.iadd, 1) := dk_96 (dk_at dksL_law_26 23 rfl rfl)
theorem dL_law_793 : decode cL_law 793 = .ok (.iaload, 1) := dk_46 (dk_at dksL_law_27 0 rfl rfl)
theorem dL_law_794 : decode cL_law 794 = .ok (.aload_n 0, 1) := dk_42 (dk_at dksL_law_27 1 rfl rfl)
theorem dL_law_795 : decode cL_law 795 = .ok (.iload 4, 2) := dk_21 4 (dk_at dksL_law_27 2 rfl rfl)
theorem dL_law_797 : decode cL_law 797 = .ok (.iconst 2, 1) := dk_5 (dk_at dksL_law_27 4 rfl rfl)
theorem dL_law_798 : decode cL_law 798 = .ok (.iadd, 1) := dk_96 (dk_at dksL_law_27 5 rfl rfl)
theorem dL_law_799 : decode cL_law 799 = .ok (.iaload, 1) := dk_46 (dk_at dksL_law_27 6 rfl rfl)
theorem dL_law_800 : decode cL_law 800 = .ok (.aload_n 3, 1) := dk_45 (dk_at dksL_law_27 7 rfl rfl)
theorem dL_law_801 : decode cL_law 801 = .ok (.invokestatic 183, 3) := dk_184 0 183 (dk_at dksL_law_27 8 rfl rfl)
theorem dL_law_804 : decode cL_law 804 = .ok (.istore 5, 2) := dk_54 5 (dk_at dksL_law_27 11 rfl rfl)
theorem dL_law_806 : decode cL_law 806 = .ok (.aload_n 2, 1) := dk_44 (dk_at dksL_law_27 13 rfl rfl)
theorem dL_law_807 : decode cL_law 807 = .ok (.aload_n 0, 1) := dk_42 (dk_at dksL_law_27 14 rfl rfl)
theorem dL_law_808 : decode cL_law 808 = .ok (.iload 4, 2) := dk_21 4 (dk_at dksL_law_27 15 rfl rfl)
theorem dL_law_810 : decode cL_law 810 = .ok (.iconst 1, 1) := dk_4 (dk_at dksL_law_27 17 rfl rfl)
theorem dL_law_811 : decode cL_law 811 = .ok (.iadd, 1) := dk_96 (dk_at dksL_law_27 18 rfl rfl)
theorem dL_law_812 : decode cL_law 812 = .ok (.iaload, 1) := dk_46 (dk_at dksL_law_27 19 rfl rfl)
theorem dL_law_813 : decode cL_law 813 = .ok (.aload_n 0, 1) := dk_42 (dk_at dksL_law_27 20 rfl rfl)
theorem dL_law_814 : decode cL_law 814 = .ok (.iload 4, 2) := dk_21 4 (dk_at dksL_law_27 21 rfl rfl)
theorem dL_law_816 : decode cL_law 816 = .ok (.iconst 2, 1) := dk_5 (dk_at dksL_law_27 23 rfl rfl)
theorem dL_law_817 : decode cL_law 817 = .ok (.iadd, 1) := dk_96 (dk_at dksL_law_28 0 rfl rfl)
theorem dL_law_818 : decode cL_law 818 = .ok (.iaload, 1) := dk_46 (dk_at dksL_law_28 1 rfl rfl)
theorem dL_law_819 : decode cL_law 819 = .ok (.invokevirtual 185, 3) := dk_182 0 185 (dk_at dksL_law_28 2 rfl rfl)
theorem dL_law_822 : decode cL_law 822 = .ok (.istore 6, 2) := dk_54 6 (dk_at dksL_law_28 5 rfl rfl)
theorem dL_law_824 : decode cL_law 824 = .ok (.aload_n 2, 1) := dk_44 (dk_at dksL_law_28 7 rfl rfl)
theorem dL_law_825 : decode cL_law 825 = .ok (.invokevirtual 157, 3) := dk_182 0 157 (dk_at dksL_law_28 8 rfl rfl)
theorem dL_law_828 : decode cL_law 828 = .ok (.iload 5, 2) := dk_21 5 (dk_at dksL_law_28 11 rfl rfl)
theorem dL_law_830 : decode cL_law 830 = .ok (.if_icmp .eq 5, 3) := dk_159 0 5 (dk_at dksL_law_28 13 rfl rfl)
theorem dL_law_833 : decode cL_law 833 = .ok (.iconst 0, 1) := dk_3 (dk_at dksL_law_28 16 rfl rfl)
theorem dL_law_834 : decode cL_law 834 = .ok (.ireturn, 1) := dk_172 (dk_at dksL_law_28 17 rfl rfl)
theorem dL_law_835 : decode cL_law 835 = .ok (.iload 5, 2) := dk_21 5 (dk_at dksL_law_28 18 rfl rfl)
theorem dL_law_837 : decode cL_law 837 = .ok (.ifCond .ne 15, 3) := dk_154 0 15 (dk_at dksL_law_28 20 rfl rfl)
theorem dL_law_840 : decode cL_law 840 = .ok (.aload_n 3, 1) := dk_45 (dk_at dksL_law_28 23 rfl rfl)
theorem dL_law_841 : decode cL_law 841 = .ok (.iconst 0, 1) := dk_3 (dk_at dksL_law_29 0 rfl rfl)
theorem dL_law_842 : decode cL_law 842 = .ok (.laload, 1) := dk_47 (dk_at dksL_law_29 1 rfl rfl)
theorem dL_law_843 : decode cL_law 843 = .ok (.iload 6, 2) := dk_21 6 (dk_at dksL_law_29 2 rfl rfl)
theorem dL_law_845 : decode cL_law 845 = .ok (.i2l, 1) := dk_133 (dk_at dksL_law_29 4 rfl rfl)
theorem dL_law_846 : decode cL_law 846 = .ok (.lcmp, 1) := dk_148 (dk_at dksL_law_29 5 rfl rfl)
theorem dL_law_847 : decode cL_law 847 = .ok (.ifCond .eq 5, 3) := dk_153 0 5 (dk_at dksL_law_29 6 rfl rfl)
theorem dL_law_850 : decode cL_law 850 = .ok (.iconst 0, 1) := dk_3 (dk_at dksL_law_29 9 rfl rfl)
theorem dL_law_851 : decode cL_law 851 = .ok (.ireturn, 1) := dk_172 (dk_at dksL_law_29 10 rfl rfl)
theorem dL_law_852 : decode cL_law 852 = .ok (.goto 2408, 3) := dk_167 9 104 (dk_at dksL_law_29 11 rfl rfl)
theorem dL_law_855 : decode cL_law 855 = .ok (.aload_n 1, 1) := dk_43 (dk_at dksL_law_29 14 rfl rfl)
theorem dL_law_856 : decode cL_law 856 = .ok (.aload_n 0, 1) := dk_42 (dk_at dksL_law_29 15 rfl rfl)
theorem dL_law_857 : decode cL_law 857 = .ok (.iload 4, 2) := dk_21 4 (dk_at dksL_law_29 16 rfl rfl)
theorem dL_law_859 : decode cL_law 859 = .ok (.iconst 1, 1) := dk_4 (dk_at dksL_law_29 18 rfl rfl)
theorem dL_law_860 : decode cL_law 860 = .ok (.iadd, 1) := dk_96 (dk_at dksL_law_29 19 rfl rfl)
theorem dL_law_861 : decode cL_law 861 = .ok (.iaload, 1) := dk_46 (dk_at dksL_law_29 20 rfl rfl)
theorem dL_law_862 : decode cL_law 862 = .ok (.aload_n 3, 1) := dk_45 (dk_at dksL_law_29 21 rfl rfl)
theorem dL_law_863 : decode cL_law 863 = .ok (.invokestatic 186, 3) := dk_184 0 186 (dk_at dksL_law_30 0 rfl rfl)
theorem dL_law_866 : decode cL_law 866 = .ok (.istore 5, 2) := dk_54 5 (dk_at dksL_law_30 3 rfl rfl)
theorem dL_law_868 : decode cL_law 868 = .ok (.aload_n 2, 1) := dk_44 (dk_at dksL_law_30 5 rfl rfl)
theorem dL_law_869 : decode cL_law 869 = .ok (.aload_n 0, 1) := dk_42 (dk_at dksL_law_30 6 rfl rfl)
theorem dL_law_870 : decode cL_law 870 = .ok (.iload 4, 2) := dk_21 4 (dk_at dksL_law_30 7 rfl rfl)
theorem dL_law_872 : decode cL_law 872 = .ok (.iconst 1, 1) := dk_4 (dk_at dksL_law_30 9 rfl rfl)
theorem dL_law_873 : decode cL_law 873 = .ok (.iadd, 1) := dk_96 (dk_at dksL_law_30 10 rfl rfl)
theorem dL_law_874 : decode cL_law 874 = .ok (.iaload, 1) := dk_46 (dk_at dksL_law_30 11 rfl rfl)
theorem dL_law_875 : decode cL_law 875 = .ok (.invokevirtual 188, 3) := dk_182 0 188 (dk_at dksL_law_30 12 rfl rfl)
theorem dL_law_878 : decode cL_law 878 = .ok (.istore 6, 2) := dk_54 6 (dk_at dksL_law_30 15 rfl rfl)
theorem dL_law_880 : decode cL_law 880 = .ok (.aload_n 2, 1) := dk_44 (dk_at dksL_law_30 17 rfl rfl)
theorem dL_law_881 : decode cL_law 881 = .ok (.invokevirtual 157, 3) := dk_182 0 157 (dk_at dksL_law_30 18 rfl rfl)
theorem dL_law_884 : decode cL_law 884 = .ok (.iload 5, 2) := dk_21 5 (dk_at dksL_law_30 21 rfl rfl)
theorem dL_law_886 : decode cL_law 886 = .ok (.if_icmp .eq 5, 3) := dk_159 0 5 (dk_at dksL_law_31 0 rfl rfl)
theorem dL_law_889 : decode cL_law 889 = .ok (.iconst 0, 1) := dk_3 (dk_at dksL_law_31 3 rfl rfl)
theorem dL_law_890 : decode cL_law 890 = .ok (.ireturn, 1) := dk_172 (dk_at dksL_law_31 4 rfl rfl)
theorem dL_law_891 : decode cL_law 891 = .ok (.iload 5, 2) := dk_21 5 (dk_at dksL_law_31 5 rfl rfl)
theorem dL_law_893 : decode cL_law 893 = .ok (.ifCond .ne 22, 3) := dk_154 0 22 (dk_at dksL_law_31 7 rfl rfl)
theorem dL_law_896 : decode cL_law 896 = .ok (.aload_n 3, 1) := dk_45 (dk_at dksL_law_31 10 rfl rfl)
theorem dL_law_897 : decode cL_law 897 = .ok (.iconst 0, 1) := dk_3 (dk_at dksL_law_31 11 rfl rfl)
theorem dL_law_898 : decode cL_law 898 = .ok (.laload, 1) := dk_47 (dk_at dksL_law_31 12 rfl rfl)
theorem dL_law_899 : decode cL_law 899 = .ok (.iload 6, 2) := dk_21 6 (dk_at dksL_law_31 13 rfl rfl)
theorem dL_law_901 : decode cL_law 901 = .ok (.ifCond .eq 7, 3) := dk_153 0 7 (dk_at dksL_law_31 15 rfl rfl)
theorem dL_law_904 : decode cL_law 904 = .ok (.lconst 1, 1) := dk_10 (dk_at dksL_law_31 18 rfl rfl)
theorem dL_law_905 : decode cL_law 905 = .ok (.goto 4, 3) := dk_167 0 4 (dk_at dksL_law_31 19 rfl rfl)
theorem dL_law_908 : decode cL_law 908 = .ok (.lconst 0, 1) := dk_9 (dk_at dksL_law_31 22 rfl rfl)
theorem dL_law_909 : decode cL_law 909 = .ok (.lcmp, 1) := dk_148 (dk_at dksL_law_31 23 rfl rfl)
theorem dL_law_910 : decode cL_law 910 = .ok (.ifCond .eq 5, 3) := dk_153 0 5 (dk_at dksL_law_32 0 rfl rfl)
theorem dL_law_913 : decode cL_law 913 = .ok (.iconst 0, 1) := dk_3 (dk_at dksL_law_32 3 rfl rfl)
theorem dL_law_914 : decode cL_law 914 = .ok (.ireturn, 1) := dk_172 (dk_at dksL_law_32 4 rfl rfl)
theorem dL_law_915 : decode cL_law 915 = .ok (.goto 2345, 3) := dk_167 9 41 (dk_at dksL_law_32 5 rfl rfl)
theorem dL_law_918 : decode cL_law 918 = .ok (.aload_n 1, 1) := dk_43 (dk_at dksL_law_32 8 rfl rfl)
theorem dL_law_919 : decode cL_law 919 = .ok (.aload_n 0, 1) := dk_42 (dk_at dksL_law_32 9 rfl rfl)
theorem dL_law_920 : decode cL_law 920 = .ok (.iload 4, 2) := dk_21 4 (dk_at dksL_law_32 10 rfl rfl)
theorem dL_law_922 : decode cL_law 922 = .ok (.iconst 1, 1) := dk_4 (dk_at dksL_law_32 12 rfl rfl)
theorem dL_law_923 : decode cL_law 923 = .ok (.iadd, 1) := dk_96 (dk_at dksL_law_32 13 rfl rfl)
theorem dL_law_924 : decode cL_law 924 = .ok (.iaload, 1) := dk_46 (dk_at dksL_law_32 14 rfl rfl)
theorem dL_law_925 : decode cL_law 925 = .ok (.aload_n 0, 1) := dk_42 (dk_at dksL_law_32 15 rfl rfl)
theorem dL_law_926 : decode cL_law 926 = .ok (.iload 4, 2) := dk_21 4 (dk_at dksL_law_32 16 rfl rfl)
theorem dL_law_928 : decode cL_law 928 = .ok (.iconst 2, 1) := dk_5 (dk_at dksL_law_32 18 rfl rfl)
theorem dL_law_929 : decode cL_law 929 = .ok (.iadd, 1) := dk_96 (dk_at dksL_law_32 19 rfl rfl)
theorem dL_law_930 : decode cL_law 930 = .ok (.iaload, 1) := dk_46 (dk_at dksL_law_32 20 rfl rfl)
theorem dL_law_931 : decode cL_law 931 = .ok (.aload_n 0, 1) := dk_42 (dk_at dksL_law_32 21 rfl rfl)
theorem dL_law_932 : decode cL_law 932 = .ok (.iload 4, 2) := dk_21 4 (dk_at dksL_law_32 22 rfl rfl)
theorem dL_law_934 : decode cL_law 934 = .ok (.iconst 3, 1) := dk_6 (dk_at dksL_law_33 0 rfl rfl)
theorem dL_law_935 : decode cL_law 935 = .ok (.iadd, 1) := dk_96 (dk_at dksL_law_33 1 rfl rfl)
theorem dL_law_936 : decode cL_law 936 = .ok (.iaload, 1) := dk_46 (dk_at dksL_law_33 2 rfl rfl)
theorem dL_law_937 : decode cL_law 937 = .ok (.aload_n 0, 1) := dk_42 (dk_at dksL_law_33 3 rfl rfl)
theorem dL_law_938 : decode cL_law 938 = .ok (.iload 4, 2) := dk_21 4 (dk_at dksL_law_33 4 rfl rfl)
theorem dL_law_940 : decode cL_law 940 = .ok (.iconst 4, 1) := dk_7 (dk_at dksL_law_33 6 rfl rfl)
theorem dL_law_941 : decode cL_law 941 = .ok (.iadd, 1) := dk_96 (dk_at dksL_law_33 7 rfl rfl)
theorem dL_law_942 : decode cL_law 942 = .ok (.iaload, 1) := dk_46 (dk_at dksL_law_33 8 rfl rfl)
theorem dL_law_943 : decode cL_law 943 = .ok (.aload_n 0, 1) := dk_42 (dk_at dksL_law_33 9 rfl rfl)
theorem dL_law_944 : decode cL_law 944 = .ok (.iload 4, 2) := dk_21 4 (dk_at dksL_law_33 10 rfl rfl)
theorem dL_law_946 : decode cL_law 946 = .ok (.iconst 5, 1) := dk_8 (dk_at dksL_law_33 12 rfl rfl)
theorem dL_law_947 : decode cL_law 947 = .ok (.iadd, 1) := dk_96 (dk_at dksL_law_33 13 rfl rfl)
theorem dL_law_948 : decode cL_law 948 = .ok (.iaload, 1) := dk_46 (dk_at dksL_law_33 14 rfl rfl)
theorem dL_law_949 : decode cL_law 949 = .ok (.aload_n 0, 1) := dk_42 (dk_at dksL_law_33 15 rfl rfl)
theorem dL_law_950 : decode cL_law 950 = .ok (.iload 4, 2) := dk_21 4 (dk_at dksL_law_33 16 rfl rfl)
theorem dL_law_952 : decode cL_law 952 = .ok (.bipush 6, 2) := dk_16 6 (dk_at dksL_law_33 18 rfl rfl)
theorem dL_law_954 : decode cL_law 954 = .ok (.iadd, 1) := dk_96 (dk_at dksL_law_33 20 rfl rfl)
theorem dL_law_955 : decode cL_law 955 = .ok (.iaload, 1) := dk_46 (dk_at dksL_law_33 21 rfl rfl)
theorem dL_law_956 : decode cL_law 956 = .ok (.ifCond .eq 7, 3) := dk_153 0 7 (dk_at dksL_law_34 0 rfl rfl)
theorem dL_law_959 : decode cL_law 959 = .ok (.iconst 1, 1) := dk_4 (dk_at dksL_law_34 3 rfl rfl)
theorem dL_law_960 : decode cL_law 960 = .ok (.goto 4, 3) := dk_167 0 4 (dk_at dksL_law_34 4 rfl rfl)
theorem dL_law_963 : decode cL_law 963 = .ok (.iconst 0, 1) := dk_3 (dk_at dksL_law_34 7 rfl rfl)
theorem dL_law_964 : decode cL_law 964 = .ok (.aload_n 3, 1) := dk_45 (dk_at dksL_law_34 8 rfl rfl)
theorem dL_law_965 : decode cL_law 965 = .ok (.invokestatic 189, 3) := dk_184 0 189 (dk_at dksL_law_34 9 rfl rfl)
theorem dL_law_968 : decode cL_law 968 = .ok (.istore 5, 2) := dk_54 5 (dk_at dksL_law_34 12 rfl rfl)
theorem dL_law_970 : decode cL_law 970 = .ok (.aload_n 2, 1) := dk_44 (dk_at dksL_law_34 14 rfl rfl)
theorem dL_law_971 : decode cL_law 971 = .ok (.aload_n 0, 1) := dk_42 (dk_at dksL_law_34 15 rfl rfl)
theorem dL_law_972 : decode cL_law 972 = .ok (.iload 4, 2) := dk_21 4 (dk_at dksL_law_34 16 rfl rfl)
theorem dL_law_974 : decode cL_law 974 = .ok (.iconst 1, 1) := dk_4 (dk_at dksL_law_34 18 rfl rfl)
theorem dL_law_975 : decode cL_law 975 = .ok (.iadd, 1) := dk_96 (dk_at dksL_law_34 19 rfl rfl)
theorem dL_law_976 : decode cL_law 976 = .ok (.iaload, 1) := dk_46 (dk_at dksL_law_34 20 rfl rfl)
theorem dL_law_977 : decode cL_law 977 = .ok (.aload_n 0, 1) := dk_42 (dk_at dksL_law_34 21 rfl rfl)
theorem dL_law_978 : decode cL_law 978 = .ok (.iload 4, 2) := dk_21 4 (dk_at dksL_law_34 22 rfl rfl)
theorem dL_law_980 : decode cL_law 980 = .ok (.iconst 2, 1) := dk_5 (dk_at dksL_law_35 0 rfl rfl)
theorem dL_law_981 : decode cL_law 981 = .ok (.iadd, 1) := dk_96 (dk_at dksL_law_35 1 rfl rfl)
theorem dL_law_982 : decode cL_law 982 = .ok (.iaload, 1) := dk_46 (dk_at dksL_law_35 2 rfl rfl)
theorem dL_law_983 : decode cL_law 983 = .ok (.aload_n 0, 1) := dk_42 (dk_at dksL_law_35 3 rfl rfl)
theorem dL_law_984 : decode cL_law 984 = .ok (.iload 4, 2) := dk_21 4 (dk_at dksL_law_35 4 rfl rfl)
theorem dL_law_986 : decode cL_law 986 = .ok (.iconst 3, 1) := dk_6 (dk_at dksL_law_35 6 rfl rfl)
theorem dL_law_987 : decode cL_law 987 = .ok (.iadd, 1) := dk_96 (dk_at dksL_law_35 7 rfl rfl)
theorem dL_law_988 : decode cL_law 988 = .ok (.iaload, 1) := dk_46 (dk_at dksL_law_35 8 rfl rfl)
theorem dL_law_989 : decode cL_law 989 = .ok (.aload_n 0, 1) := dk_42 (dk_at dksL_law_35 9 rfl rfl)
theorem dL_law_990 : decode cL_law 990 = .ok (.iload 4, 2) := dk_21 4 (dk_at dksL_law_35 10 rfl rfl)
theorem dL_law_992 : decode cL_law 992 = .ok (.iconst 4, 1) := dk_7 (dk_at dksL_law_35 12 rfl rfl)
theorem dL_law_993 : decode cL_law 993 = .ok (.iadd, 1) := dk_96 (dk_at dksL_law_35 13 rfl rfl)
theorem dL_law_994 : decode cL_law 994 = .ok (.iaload, 1) := dk_46 (dk_at dksL_law_35 14 rfl rfl)
theorem dL_law_995 : decode cL_law 995 = .ok (.aload_n 0, 1) := dk_42 (dk_at dksL_law_35 15 rfl rfl)
theorem dL_law_996 : decode cL_law 996 = .ok (.iload 4, 2) := dk_21 4 (dk_at dksL_law_35 16 rfl rfl)
theorem dL_law_998 : decode cL_law 998 = .ok (.iconst 5, 1) := dk_8 (dk_at dksL_law_35 18 rfl rfl)
theorem dL_law_999 : decode cL_law 999 = .ok (.iadd, 1) := dk_96 (dk_at dksL_law_35 19 rfl rfl)
theorem dL_law_1000 : decode cL_law 1000 = .ok (.iaload, 1) := dk_46 (dk_at dksL_law_35 20 rfl rfl)
theorem dL_law_1001 : decode cL_law 1001 = .ok (.aload_n 0, 1) := dk_42 (dk_at dksL_law_35 21 rfl rfl)
theorem dL_law_1002 : decode cL_law 1002 = .ok (.iload 4, 2) := dk_21 4 (dk_at dksL_law_35 22 rfl rfl)
theorem dL_law_1004 : decode cL_law 1004 = .ok (.bipush 6, 2) := dk_16 6 (dk_at dksL_law_36 0 rfl rfl)
theorem dL_law_1006 : decode cL_law 1006 = .ok (.iadd, 1) := dk_96 (dk_at dksL_law_36 2 rfl rfl)
theorem dL_law_1007 : decode cL_law 1007 = .ok (.iaload, 1) := dk_46 (dk_at dksL_law_36 3 rfl rfl)
theorem dL_law_1008 : decode cL_law 1008 = .ok (.ifCond .eq 7, 3) := dk_153 0 7 (dk_at dksL_law_36 4 rfl rfl)
theorem dL_law_1011 : decode cL_law 1011 = .ok (.iconst 1, 1) := dk_4 (dk_at dksL_law_36 7 rfl rfl)
theorem dL_law_1012 : decode cL_law 1012 = .ok (.goto 4, 3) := dk_167 0 4 (dk_at dksL_law_36 8 rfl rfl)
theorem dL_law_1015 : decode cL_law 1015 = .ok (.iconst 0, 1) := dk_3 (dk_at dksL_law_36 11 rfl rfl)
theorem dL_law_1016 : decode cL_law 1016 = .ok (.invokevirtual 192, 3) := dk_182 0 192 (dk_at dksL_law_36 12 rfl rfl)
theorem dL_law_1019 : decode cL_law 1019 = .ok (.istore 6, 2) := dk_54 6 (dk_at dksL_law_36 15 rfl rfl)
theorem dL_law_1021 : decode cL_law 1021 = .ok (.aload_n 2, 1) := dk_44 (dk_at dksL_law_36 17 rfl rfl)
theorem dL_law_1022 : decode cL_law 1022 = .ok (.invokevirtual 157, 3) := dk_182 0 157 (dk_at dksL_law_36 18 rfl rfl)
theorem dL_law_1025 : decode cL_law 1025 = .ok (.iload 5, 2) := dk_21 5 (dk_at dksL_law_36 21 rfl rfl)
theorem dL_law_1027 : decode cL_law 1027 = .ok (.if_icmp .eq 5, 3) := dk_159 0 5 (dk_at dksL_law_37 0 rfl rfl)
theorem dL_law_1030 : decode cL_law 1030 = .ok (.iconst 0, 1) := dk_3 (dk_at dksL_law_37 3 rfl rfl)
theorem dL_law_1031 : decode cL_law 1031 = .ok (.ireturn, 1) := dk_172 (dk_at dksL_law_37 4 rfl rfl)
theorem dL_law_1032 : decode cL_law 1032 = .ok (.iload 5, 2) := dk_21 5 (dk_at dksL_law_37 5 rfl rfl)
theorem dL_law_1034 : decode cL_law 1034 = .ok (.ifCond .ne 15, 3) := dk_154 0 15 (dk_at dksL_law_37 7 rfl rfl)
theorem dL_law_1037 : decode cL_law 1037 = .ok (.aload_n 3, 1) := dk_45 (dk_at dksL_law_37 10 rfl rfl)
theorem dL_law_1038 : decode cL_law 1038 = .ok (.iconst 0, 1) := dk_3 (dk_at dksL_law_37 11 rfl rfl)
theorem dL_law_1039 : decode cL_law 1039 = .ok (.laload, 1) := dk_47 (dk_at dksL_law_37 12 rfl rfl)
theorem dL_law_1040 : decode cL_law 1040 = .ok (.iload 6, 2) := dk_21 6 (dk_at dksL_law_37 13 rfl rfl)
theorem dL_law_1042 : decode cL_law 1042 = .ok (.i2l, 1) := dk_133 (dk_at dksL_law_37 15 rfl rfl)
theorem dL_law_1043 : decode cL_law 1043 = .ok (.lcmp, 1) := dk_148 (dk_at dksL_law_37 16 rfl rfl)
theorem dL_law_1044 : decode cL_law 1044 = .ok (.ifCond .eq 5, 3) := dk_153 0 5 (dk_at dksL_law_37 17 rfl rfl)
theorem dL_law_1047 : decode cL_law 1047 = .ok (.iconst 0, 1) := dk_3 (dk_at dksL_law_37 20 rfl rfl)
theorem dL_law_1048 : decode cL_law 1048 = .ok (.ireturn, 1) := dk_172 (dk_at dksL_law_37 21 rfl rfl)
theorem dL_law_1049 : decode cL_law 1049 = .ok (.goto 2211, 3) := dk_167 8 163 (dk_at dksL_law_38 0 rfl rfl)
theorem dL_law_1052 : decode cL_law 1052 = .ok (.aload_n 1, 1) := dk_43 (dk_at dksL_law_38 3 rfl rfl)
theorem dL_law_1053 : decode cL_law 1053 = .ok (.aload_n 0, 1) := dk_42 (dk_at dksL_law_38 4 rfl rfl)
theorem dL_law_1054 : decode cL_law 1054 = .ok (.iload 4, 2) := dk_21 4 (dk_at dksL_law_38 5 rfl rfl)
theorem dL_law_1056 : decode cL_law 1056 = .ok (.iconst 1, 1) := dk_4 (dk_at dksL_law_38 7 rfl rfl)
theorem dL_law_1057 : decode cL_law 1057 = .ok (.iadd, 1) := dk_96 (dk_at dksL_law_38 8 rfl rfl)
theorem dL_law_1058 : decode cL_law 1058 = .ok (.iaload, 1) := dk_46 (dk_at dksL_law_38 9 rfl rfl)
theorem dL_law_1059 : decode cL_law 1059 = .ok (.aload_n 0, 1) := dk_42 (dk_at dksL_law_38 10 rfl rfl)
theorem dL_law_1060 : decode cL_law 1060 = .ok (.iload 4, 2) := dk_21 4 (dk_at dksL_law_38 11 rfl rfl)
theorem dL_law_1062 : decode cL_law 1062 = .ok (.iconst 2, 1) := dk_5 (dk_at dksL_law_38 13 rfl rfl)
theorem dL_law_1063 : decode cL_law 1063 = .ok (.iadd, 1) := dk_96 (dk_at dksL_law_38 14 rfl rfl)
theorem dL_law_1064 : decode cL_law 1064 = .ok (.iaload, 1) := dk_46 (dk_at dksL_law_38 15 rfl rfl)
theorem dL_law_1065 : decode cL_law 1065 = .ok (.aload_n 0, 1) := dk_42 (dk_at dksL_law_38 16 rfl rfl)
theorem dL_law_1066 : decode cL_law 1066 = .ok (.iload 4, 2) := dk_21 4 (dk_at dksL_law_38 17 rfl rfl)
theorem dL_law_1068 : decode cL_law 1068 = .ok (.iconst 3, 1) := dk_6 (dk_at dksL_law_38 19 rfl rfl)
theorem dL_law_1069 : decode cL_law 1069 = .ok (.iadd, 1) := dk_96 (dk_at dksL_law_38 20 rfl rfl)
theorem dL_law_1070 : decode cL_law 1070 = .ok (.iaload, 1) := dk_46 (dk_at dksL_law_38 21 rfl rfl)
theorem dL_law_1071 : decode cL_law 1071 = .ok (.aload_n 0, 1) := dk_42 (dk_at dksL_law_38 22 rfl rfl)
theorem dL_law_1072 : decode cL_law 1072 = .ok (.iload 4, 2) := dk_21 4 (dk_at dksL_law_39 0 rfl rfl)
theorem dL_law_1074 : decode cL_law 1074 = .ok (.iconst 4, 1) := dk_7 (dk_at dksL_law_39 2 rfl rfl)
theorem dL_law_1075 : decode cL_law 1075 = .ok (.iadd, 1) := dk_96 (dk_at dksL_law_39 3 rfl rfl)
theorem dL_law_1076 : decode cL_law 1076 = .ok (.iaload, 1) := dk_46 (dk_at dksL_law_39 4 rfl rfl)
theorem dL_law_1077 : decode cL_law 1077 = .ok (.aload_n 0, 1) := dk_42 (dk_at dksL_law_39 5 rfl rfl)
theorem dL_law_1078 : decode cL_law 1078 = .ok (.iload 4, 2) := dk_21 4 (dk_at dksL_law_39 6 rfl rfl)
theorem dL_law_1080 : decode cL_law 1080 = .ok (.iconst 5, 1) := dk_8 (dk_at dksL_law_39 8 rfl rfl)
theorem dL_law_1081 : decode cL_law 1081 = .ok (.iadd, 1) := dk_96 (dk_at dksL_law_39 9 rfl rfl)
theorem dL_law_1082 : decode cL_law 1082 = .ok (.iaload, 1) := dk_46 (dk_at dksL_law_39 10 rfl rfl)
theorem dL_law_1083 : decode cL_law 1083 = .ok (.aload_n 3, 1) := dk_45 (dk_at dksL_law_39 11 rfl rfl)
theorem dL_law_1084 : decode cL_law 1084 = .ok (.invokestatic 193, 3) := dk_184 0 193 (dk_at dksL_law_39 12 rfl rfl)
theorem dL_law_1087 : decode cL_law 1087 = .ok (.istore 5, 2) := dk_54 5 (dk_at dksL_law_39 15 rfl rfl)
theorem dL_law_1089 : decode cL_law 1089 = .ok (.aload_n 2, 1) := dk_44 (dk_at dksL_law_39 17 rfl rfl)
theorem dL_law_1090 : decode cL_law 1090 = .ok (.aload_n 0, 1) := dk_42 (dk_at dksL_law_39 18 rfl rfl)
theorem dL_law_1091 : decode cL_law 1091 = .ok (.iload 4, 2) := dk_21 4 (dk_at dksL_law_39 19 rfl rfl)
theorem dL_law_1093 : decode cL_law 1093 = .ok (.iconst 1, 1) := dk_4 (dk_at dksL_law_39 21 rfl rfl)
theorem dL_law_1094 : decode cL_law 1094 = .ok (.iadd, 1) := dk_96 (dk_at dksL_law_39 22 rfl rfl)
theorem dL_law_1095 : decode cL_law 1095 = .ok (.iaload, 1) := dk_46 (dk_at dksL_law_39 23 rfl rfl)
theorem dL_law_1096 : decode cL_law 1096 = .ok (.aload_n 0, 1) := dk_42 (dk_at dksL_law_40 0 rfl rfl)
theorem dL_law_1097 : decode cL_law 1097 = .ok (.iload 4, 2) := dk_21 4 (dk_at dksL_law_40 1 rfl rfl)
theorem dL_law_1099 : decode cL_law 1099 = .ok (.iconst 2, 1) := dk_5 (dk_at dksL_law_40 3 rfl rfl)
theorem dL_law_1100 : decode cL_law 1100 = .ok (.iadd, 1) := dk_96 (dk_at dksL_law_40 4 rfl rfl)
theorem dL_law_1101 : decode cL_law 1101 = .ok (.iaload, 1) := dk_46 (dk_at dksL_law_40 5 rfl rfl)
theorem dL_law_1102 : decode cL_law 1102 = .ok (.aload_n 0, 1) := dk_42 (dk_at dksL_law_40 6 rfl rfl)
theorem dL_law_1103 : decode cL_law 1103 = .ok (.iload 4, 2) := dk_21 4 (dk_at dksL_law_40 7 rfl rfl)
theorem dL_law_1105 : decode cL_law 1105 = .ok (.iconst 3, 1) := dk_6 (dk_at dksL_law_40 9 rfl rfl)
theorem dL_law_1106 : decode cL_law 1106 = .ok (.iadd, 1) := dk_96 (dk_at dksL_law_40 10 rfl rfl)
theorem dL_law_1107 : decode cL_law 1107 = .ok (.iaload, 1) := dk_46 (dk_at dksL_law_40 11 rfl rfl)
theorem dL_law_1108 : decode cL_law 1108 = .ok (.aload_n 0, 1) := dk_42 (dk_at dksL_law_40 12 rfl rfl)
theorem dL_law_1109 : decode cL_law 1109 = .ok (.iload 4, 2) := dk_21 4 (dk_at dksL_law_40 13 rfl rfl)
theorem dL_law_1111 : decode cL_law 1111 = .ok (.iconst 4, 1) := dk_7 (dk_at dksL_law_40 15 rfl rfl)
theorem dL_law_1112 : decode cL_law 1112 = .ok (.iadd, 1) := dk_96 (dk_at dksL_law_40 16 rfl rfl)
theorem dL_law_1113 : decode cL_law 1113 = .ok (.iaload, 1) := dk_46 (dk_at dksL_law_40 17 rfl rfl)
theorem dL_law_1114 : decode cL_law 1114 = .ok (.aload_n 0, 1) := dk_42 (dk_at dksL_law_40 18 rfl rfl)
theorem dL_law_1115 : decode cL_law 1115 = .ok (.iload 4, 2) := dk_21 4 (dk_at dksL_law_40 19 rfl rfl)
theorem dL_law_1117 : decode cL_law 1117 = .ok (.iconst 5, 1) := dk_8 (dk_at dksL_law_40 21 rfl rfl)
theorem dL_law_1118 : decode cL_law 1118 = .ok (.iadd, 1) := dk_96 (dk_at dksL_law_40 22 rfl rfl)
theorem dL_law_1119 : decode cL_law 1119 = .ok (.iaload, 1) := dk_46 (dk_at dksL_law_40 23 rfl rfl)
theorem dL_law_1120 : decode cL_law 1120 = .ok (.invokevirtual 196, 3) := dk_182 0 196 (dk_at dksL_law_41 0 rfl rfl)
theorem dL_law_1123 : decode cL_law 1123 = .ok (.istore 6, 2) := dk_54 6 (dk_at dksL_law_41 3 rfl rfl)
theorem dL_law_1125 : decode cL_law 1125 = .ok (.aload_n 2, 1) := dk_44 (dk_at dksL_law_41 5 rfl rfl)
theorem dL_law_1126 : decode cL_law 1126 = .ok (.invokevirtual 157, 3) := dk_182 0 157 (dk_at dksL_law_41 6 rfl rfl)
theorem dL_law_1129 : decode cL_law 1129 = .ok (.iload 5, 2) := dk_21 5 (dk_at dksL_law_41 9 rfl rfl)
theorem dL_law_1131 : decode cL_law 1131 = .ok (.if_icmp .eq 5, 3) := dk_159 0 5 (dk_at dksL_law_41 11 rfl rfl)
theorem dL_law_1134 : decode cL_law 1134 = .ok (.iconst 0, 1) := dk_3 (dk_at dksL_law_41 14 rfl rfl)
theorem dL_law_1135 : decode cL_law 1135 = .ok (.ireturn, 1) := dk_172 (dk_at dksL_law_41 15 rfl rfl)
theorem dL_law_1136 : decode cL_law 1136 = .ok (.iload 5, 2) := dk_21 5 (dk_at dksL_law_41 16 rfl rfl)
theorem dL_law_1138 : decode cL_law 1138 = .ok (.ifCond .ne 15, 3) := dk_154 0 15 (dk_at dksL_law_41 18 rfl rfl)
theorem dL_law_1141 : decode cL_law 1141 = .ok (.aload_n 3, 1) := dk_45 (dk_at dksL_law_41 21 rfl rfl)
theorem dL_law_1142 : decode cL_law 1142 = .ok (.iconst 0, 1) := dk_3 (dk_at dksL_law_41 22 rfl rfl)
theorem dL_law_1143 : decode cL_law 1143 = .ok (.laload, 1) := dk_47 (dk_at dksL_law_41 23 rfl rfl)
theorem dL_law_1144 : decode cL_law 1144 = .ok (.iload 6, 2) := dk_21 6 (dk_at dksL_law_42 0 rfl rfl)
theorem dL_law_1146 : decode cL_law 1146 = .ok (.i2l, 1) := dk_133 (dk_at dksL_law_42 2 rfl rfl)
theorem dL_law_1147 : decode cL_law 1147 = .ok (.lcmp, 1) := dk_148 (dk_at dksL_law_42 3 rfl rfl)
theorem dL_law_1148 : decode cL_law 1148 = .ok (.ifCond .eq 5, 3) := dk_153 0 5 (dk_at dksL_law_42 4 rfl rfl)
theorem dL_law_1151 : decode cL_law 1151 = .ok (.iconst 0, 1) := dk_3 (dk_at dksL_law_42 7 rfl rfl)
theorem dL_law_1152 : decode cL_law 1152 = .ok (.ireturn, 1) := dk_172 (dk_at dksL_law_42 8 rfl rfl)
theorem dL_law_1153 : decode cL_law 1153 = .ok (.goto 2107, 3) := dk_167 8 59 (dk_at dksL_law_42 9 rfl rfl)
theorem dL_law_1156 : decode cL_law 1156 = .ok (.aload_n 1, 1) := dk_43 (dk_at dksL_law_42 12 rfl rfl)
theorem dL_law_1157 : decode cL_law 1157 = .ok (.aload_n 0, 1) := dk_42 (dk_at dksL_law_42 13 rfl rfl)
theorem dL_law_1158 : decode cL_law 1158 = .ok (.iload 4, 2) := dk_21 4 (dk_at dksL_law_42 14 rfl rfl)
theorem dL_law_1160 : decode cL_law 1160 = .ok (.iconst 1, 1) := dk_4 (dk_at dksL_law_42 16 rfl rfl)
theorem dL_law_1161 : decode cL_law 1161 = .ok (.iadd, 1) := dk_96 (dk_at dksL_law_42 17 rfl rfl)
theorem dL_law_1162 : decode cL_law 1162 = .ok (.iaload, 1) := dk_46 (dk_at dksL_law_42 18 rfl rfl)
theorem dL_law_1163 : decode cL_law 1163 = .ok (.aload_n 0, 1) := dk_42 (dk_at dksL_law_42 19 rfl rfl)
theorem dL_law_1164 : decode cL_law 1164 = .ok (.iload 4, 2) := dk_21 4 (dk_at dksL_law_42 20 rfl rfl)
theorem dL_law_1166 : decode cL_law 1166 = .ok (.iconst 2, 1) := dk_5 (dk_at dksL_law_42 22 rfl rfl)
theorem dL_law_1167 : decode cL_law 1167 = .ok (.iadd, 1) := dk_96 (dk_at dksL_law_42 23 rfl rfl)
theorem dL_law_1168 : decode cL_law 1168 = .ok (.iaload, 1) := dk_46 (dk_at dksL_law_43 0 rfl rfl)
theorem dL_law_1169 : decode cL_law 1169 = .ok (.aload_n 3, 1) := dk_45 (dk_at dksL_law_43 1 rfl rfl)
theorem dL_law_1170 : decode cL_law 1170 = .ok (.invokestatic 197, 3) := dk_184 0 197 (dk_at dksL_law_43 2 rfl rfl)
theorem dL_law_1173 : decode cL_law 1173 = .ok (.istore 5, 2) := dk_54 5 (dk_at dksL_law_43 5 rfl rfl)
theorem dL_law_1175 : decode cL_law 1175 = .ok (.aload_n 2, 1) := dk_44 (dk_at dksL_law_43 7 rfl rfl)
theorem dL_law_1176 : decode cL_law 1176 = .ok (.aload_n 0, 1) := dk_42 (dk_at dksL_law_43 8 rfl rfl)
theorem dL_law_1177 : decode cL_law 1177 = .ok (.iload 4, 2) := dk_21 4 (dk_at dksL_law_43 9 rfl rfl)
theorem dL_law_1179 : decode cL_law 1179 = .ok (.iconst 1, 1) := dk_4 (dk_at dksL_law_43 11 rfl rfl)
theorem dL_law_1180 : decode cL_law 1180 = .ok (.iadd, 1) := dk_96 (dk_at dksL_law_43 12 rfl rfl)
theorem dL_law_1181 : decode cL_law 1181 = .ok (.iaload, 1) := dk_46 (dk_at dksL_law_43 13 rfl rfl)
theorem dL_law_1182 : decode cL_law 1182 = .ok (.aload_n 0, 1) := dk_42 (dk_at dksL_law_43 14 rfl rfl)
theorem dL_law_1183 : decode cL_law 1183 = .ok (.iload 4, 2) := dk_21 4 (dk_at dksL_law_43 15 rfl rfl)
theorem dL_law_1185 : decode cL_law 1185 = .ok (.iconst 2, 1) := dk_5 (dk_at dksL_law_43 17 rfl rfl)
theorem dL_law_1186 : decode cL_law 1186 = .ok (.iadd, 1) := dk_96 (dk_at dksL_law_43 18 rfl rfl)
theorem dL_law_1187 : decode cL_law 1187 = .ok (.iaload, 1) := dk_46 (dk_at dksL_law_43 19 rfl rfl)
theorem dL_law_1188 : decode cL_law 1188 = .ok (.invokevirtual 199, 3) := dk_182 0 199 (dk_at dksL_law_43 20 rfl rfl)
theorem dL_law_1191 : decode cL_law 1191 = .ok (.istore 6, 2) := dk_54 6 (dk_at dksL_law_44 0 rfl rfl)
theorem dL_law_1193 : decode cL_law 1193 = .ok (.aload_n 2, 1) := dk_44 (dk_at dksL_law_44 2 rfl rfl)
theorem dL_law_1194 : decode cL_law 1194 = .ok (.invokevirtual 157, 3) := dk_182 0 157 (dk_at dksL_law_44 3 rfl rfl)
theorem dL_law_1197 : decode cL_law 1197 = .ok (.iload 5, 2) := dk_21 5 (dk_at dksL_law_44 6 rfl rfl)
theorem dL_law_1199 : decode cL_law 1199 = .ok (.if_icmp .eq 5, 3) := dk_159 0 5 (dk_at dksL_law_44 8 rfl rfl)
theorem dL_law_1202 : decode cL_law 1202 = .ok (.iconst 0, 1) := dk_3 (dk_at dksL_law_44 11 rfl rfl)
theorem dL_law_1203 : decode cL_law 1203 = .ok (.ireturn, 1) := dk_172 (dk_at dksL_law_44 12 rfl rfl)
theorem dL_law_1204 : decode cL_law 1204 = .ok (.iload 5, 2) := dk_21 5 (dk_at dksL_law_44 13 rfl rfl)
theorem dL_law_1206 : decode cL_law 1206 = .ok (.ifCond .ne 15, 3) := dk_154 0 15 (dk_at dksL_law_44 15 rfl rfl)
theorem dL_law_1209 : decode cL_law 1209 = .ok (.aload_n 3, 1) := dk_45 (dk_at dksL_law_44 18 rfl rfl)
theorem dL_law_1210 : decode cL_law 1210 = .ok (.iconst 0, 1) := dk_3 (dk_at dksL_law_44 19 rfl rfl)
theorem dL_law_1211 : decode cL_law 1211 = .ok (.laload, 1) := dk_47 (dk_at dksL_law_44 20 rfl rfl)
theorem dL_law_1212 : decode cL_law 1212 = .ok (.iload 6, 2) := dk_21 6 (dk_at dksL_law_44 21 rfl rfl)
theorem dL_law_1214 : decode cL_law 1214 = .ok (.i2l, 1) := dk_133 (dk_at dksL_law_44 23 rfl rfl)
theorem dL_law_1215 : decode cL_law 1215 = .ok (.lcmp, 1) := dk_148 (dk_at dksL_law_45 0 rfl rfl)
theorem dL_law_1216 : decode cL_law 1216 = .ok (.ifCond .eq 5, 3) := dk_153 0 5 (dk_at dksL_law_45 1 rfl rfl)
theorem dL_law_1219 : decode cL_law 1219 = .ok (.iconst 0, 1) := dk_3 (dk_at dksL_law_45 4 rfl rfl)
theorem dL_law_1220 : decode cL_law 1220 = .ok (.ireturn, 1) := dk_172 (dk_at dksL_law_45 5 rfl rfl)
theorem dL_law_1221 : decode cL_law 1221 = .ok (.goto 2039, 3) := dk_167 7 247 (dk_at dksL_law_45 6 rfl rfl)
theorem dL_law_1224 : decode cL_law 1224 = .ok (.aload_n 1, 1) := dk_43 (dk_at dksL_law_45 9 rfl rfl)
theorem dL_law_1225 : decode cL_law 1225 = .ok (.aload_n 0, 1) := dk_42 (dk_at dksL_law_45 10 rfl rfl)
theorem dL_law_1226 : decode cL_law 1226 = .ok (.iload 4, 2) := dk_21 4 (dk_at dksL_law_45 11 rfl rfl)
theorem dL_law_1228 : decode cL_law 1228 = .ok (.iconst 1, 1) := dk_4 (dk_at dksL_law_45 13 rfl rfl)
theorem dL_law_1229 : decode cL_law 1229 = .ok (.iadd, 1) := dk_96 (dk_at dksL_law_45 14 rfl rfl)
theorem dL_law_1230 : decode cL_law 1230 = .ok (.iaload, 1) := dk_46 (dk_at dksL_law_45 15 rfl rfl)
theorem dL_law_1231 : decode cL_law 1231 = .ok (.aload_n 0, 1) := dk_42 (dk_at dksL_law_45 16 rfl rfl)
theorem dL_law_1232 : decode cL_law 1232 = .ok (.iload 4, 2) := dk_21 4 (dk_at dksL_law_45 17 rfl rfl)
theorem dL_law_1234 : decode cL_law 1234 = .ok (.iconst 2, 1) := dk_5 (dk_at dksL_law_45 19 rfl rfl)
theorem dL_law_1235 : decode cL_law 1235 = .ok (.iadd, 1) := dk_96 (dk_at dksL_law_45 20 rfl rfl)
theorem dL_law_1236 : decode cL_law 1236 = .ok (.iaload, 1) := dk_46 (dk_at dksL_law_45 21 rfl rfl)
theorem dL_law_1237 : decode cL_law 1237 = .ok (.aload_n 3, 1) := dk_45 (dk_at dksL_law_45 22 rfl rfl)
theorem dL_law_1238 : decode cL_law 1238 = .ok (.invokestatic 200, 3) := dk_184 0 200 (dk_at dksL_law_46 0 rfl rfl)
theorem dL_law_1241 : decode cL_law 1241 = .ok (.istore 5, 2) := dk_54 5 (dk_at dksL_law_46 3 rfl rfl)
theorem dL_law_1243 : decode cL_law 1243 = .ok (.aload_n 2, 1) := dk_44 (dk_at dksL_law_46 5 rfl rfl)
theorem dL_law_1244 : decode cL_law 1244 = .ok (.aload_n 0, 1) := dk_42 (dk_at dksL_law_46 6 rfl rfl)
theorem dL_law_1245 : decode cL_law 1245 = .ok (.iload 4, 2) := dk_21 4 (dk_at dksL_law_46 7 rfl rfl)
theorem dL_law_1247 : decode cL_law 1247 = .ok (.iconst 1, 1) := dk_4 (dk_at dksL_law_46 9 rfl rfl)
theorem dL_law_1248 : decode cL_law 1248 = .ok (.iadd, 1) := dk_96 (dk_at dksL_law_46 10 rfl rfl)
theorem dL_law_1249 : decode cL_law 1249 = .ok (.iaload, 1) := dk_46 (dk_at dksL_law_46 11 rfl rfl)
theorem dL_law_1250 : decode cL_law 1250 = .ok (.aload_n 0, 1) := dk_42 (dk_at dksL_law_46 12 rfl rfl)
theorem dL_law_1251 : decode cL_law 1251 = .ok (.iload 4, 2) := dk_21 4 (dk_at dksL_law_46 13 rfl rfl)
theorem dL_law_1253 : decode cL_law 1253 = .ok (.iconst 2, 1) := dk_5 (dk_at dksL_law_46 15 rfl rfl)
theorem dL_law_1254 : decode cL_law 1254 = .ok (.iadd, 1) := dk_96 (dk_at dksL_law_46 16 rfl rfl)
theorem dL_law_1255 : decode cL_law 1255 = .ok (.iaload, 1) := dk_46 (dk_at dksL_law_46 17 rfl rfl)
theorem dL_law_1256 : decode cL_law 1256 = .ok (.invokevirtual 202, 3) := dk_182 0 202 (dk_at dksL_law_46 18 rfl rfl)
theorem dL_law_1259 : decode cL_law 1259 = .ok (.istore 6, 2) := dk_54 6 (dk_at dksL_law_46 21 rfl rfl)
theorem dL_law_1261 : decode cL_law 1261 = .ok (.aload_n 2, 1) := dk_44 (dk_at dksL_law_46 23 rfl rfl)
theorem dL_law_1262 : decode cL_law 1262 = .ok (.invokevirtual 157, 3) := dk_182 0 157 (dk_at dksL_law_47 0 rfl rfl)
theorem dL_law_1265 : decode cL_law 1265 = .ok (.iload 5, 2) := dk_21 5 (dk_at dksL_law_47 3 rfl rfl)
theorem dL_law_1267 : decode cL_law 1267 = .ok (.if_icmp .eq 5, 3) := dk_159 0 5 (dk_at dksL_law_47 5 rfl rfl)
theorem dL_law_1270 : decode cL_law 1270 = .ok (.iconst 0, 1) := dk_3 (dk_at dksL_law_47 8 rfl rfl)
theorem dL_law_1271 : decode cL_law 1271 = .ok (.ireturn, 1) := dk_172 (dk_at dksL_law_47 9 rfl rfl)
theorem dL_law_1272 : decode cL_law 1272 = .ok (.iload 5, 2) := dk_21 5 (dk_at dksL_law_47 10 rfl rfl)
theorem dL_law_1274 : decode cL_law 1274 = .ok (.ifCond .ne 15, 3) := dk_154 0 15 (dk_at dksL_law_47 12 rfl rfl)
theorem dL_law_1277 : decode cL_law 1277 = .ok (.aload_n 3, 1) := dk_45 (dk_at dksL_law_47 15 rfl rfl)
theorem dL_law_1278 : decode cL_law 1278 = .ok (.iconst 0, 1) := dk_3 (dk_at dksL_law_47 16 rfl rfl)
theorem dL_law_1279 : decode cL_law 1279 = .ok (.laload, 1) := dk_47 (dk_at dksL_law_47 17 rfl rfl)
theorem dL_law_1280 : decode cL_law 1280 = .ok (.iload 6, 2) := dk_21 6 (dk_at dksL_law_47 18 rfl rfl)
theorem dL_law_1282 : decode cL_law 1282 = .ok (.i2l, 1) := dk_133 (dk_at dksL_law_47 20 rfl rfl)
theorem dL_law_1283 : decode cL_law 1283 = .ok (.lcmp, 1) := dk_148 (dk_at dksL_law_47 21 rfl rfl)
theorem dL_law_1284 : decode cL_law 1284 = .ok (.ifCond .eq 5, 3) := dk_153 0 5 (dk_at dksL_law_48 0 rfl rfl)
theorem dL_law_1287 : decode cL_law 1287 = .ok (.iconst 0, 1) := dk_3 (dk_at dksL_law_48 3 rfl rfl)
theorem dL_law_1288 : decode cL_law 1288 = .ok (.ireturn, 1) := dk_172 (dk_at dksL_law_48 4 rfl rfl)
theorem dL_law_1289 : decode cL_law 1289 = .ok (.goto 1971, 3) := dk_167 7 179 (dk_at dksL_law_48 5 rfl rfl)
theorem dL_law_1292 : decode cL_law 1292 = .ok (.aload_n 1, 1) := dk_43 (dk_at dksL_law_48 8 rfl rfl)
theorem dL_law_1293 : decode cL_law 1293 = .ok (.aload_n 0, 1) := dk_42 (dk_at dksL_law_48 9 rfl rfl)
theorem dL_law_1294 : decode cL_law 1294 = .ok (.iload 4, 2) := dk_21 4 (dk_at dksL_law_48 10 rfl rfl)
theorem dL_law_1296 : decode cL_law 1296 = .ok (.iconst 1, 1) := dk_4 (dk_at dksL_law_48 12 rfl rfl)
theorem dL_law_1297 : decode cL_law 1297 = .ok (.iadd, 1) := dk_96 (dk_at dksL_law_48 13 rfl rfl)
theorem dL_law_1298 : decode cL_law 1298 = .ok (.iaload, 1) := dk_46 (dk_at dksL_law_48 14 rfl rfl)
theorem dL_law_1299 : decode cL_law 1299 = .ok (.aload_n 0, 1) := dk_42 (dk_at dksL_law_48 15 rfl rfl)
theorem dL_law_1300 : decode cL_law 1300 = .ok (.iload 4, 2) := dk_21 4 (dk_at dksL_law_48 16 rfl rfl)
theorem dL_law_1302 : decode cL_law 1302 = .ok (.iconst 2, 1) := dk_5 (dk_at dksL_law_48 18 rfl rfl)
theorem dL_law_1303 : decode cL_law 1303 = .ok (.iadd, 1) := dk_96 (dk_at dksL_law_48 19 rfl rfl)
theorem dL_law_1304 : decode cL_law 1304 = .ok (.iaload, 1) := dk_46 (dk_at dksL_law_48 20 rfl rfl)
theorem dL_law_1305 : decode cL_law 1305 = .ok (.aload_n 0, 1) := dk_42 (dk_at dksL_law_48 21 rfl rfl)
theorem dL_law_1306 : decode cL_law 1306 = .ok (.iload 4, 2) := dk_21 4 (dk_at dksL_law_48 22 rfl rfl)
theorem dL_law_1308 : decode cL_law 1308 = .ok (.iconst 3, 1) := dk_6 (dk_at dksL_law_49 0 rfl rfl)
theorem dL_law_1309 : decode cL_law 1309 = .ok (.iadd, 1) := dk_96 (dk_at dksL_law_49 1 rfl rfl)
theorem dL_law_1310 : decode cL_law 1310 = .ok (.iaload, 1) := dk_46 (dk_at dksL_law_49 2 rfl rfl)
theorem dL_law_1311 : decode cL_law 1311 = .ok (.aload_n 3, 1) := dk_45 (dk_at dksL_law_49 3 rfl rfl)
theorem dL_law_1312 : decode cL_law 1312 = .ok (.invokestatic 203, 3) := dk_184 0 203 (dk_at dksL_law_49 4 rfl rfl)
theorem dL_law_1315 : decode cL_law 1315 = .ok (.istore 5, 2) := dk_54 5 (dk_at dksL_law_49 7 rfl rfl)
theorem dL_law_1317 : decode cL_law 1317 = .ok (.aload_n 2, 1) := dk_44 (dk_at dksL_law_49 9 rfl rfl)
theorem dL_law_1318 : decode cL_law 1318 = .ok (.aload_n 0, 1) := dk_42 (dk_at dksL_law_49 10 rfl rfl)
theorem dL_law_1319 : decode cL_law 1319 = .ok (.iload 4, 2) := dk_21 4 (dk_at dksL_law_49 11 rfl rfl)
theorem dL_law_1321 : decode cL_law 1321 = .ok (.iconst 1, 1) := dk_4 (dk_at dksL_law_49 13 rfl rfl)
theorem dL_law_1322 : decode cL_law 1322 = .ok (.iadd, 1) := dk_96 (dk_at dksL_law_49 14 rfl rfl)
theorem dL_law_1323 : decode cL_law 1323 = .ok (.iaload, 1) := dk_46 (dk_at dksL_law_49 15 rfl rfl)
theorem dL_law_1324 : decode cL_law 1324 = .ok (.aload_n 0, 1) := dk_42 (dk_at dksL_law_49 16 rfl rfl)
theorem dL_law_1325 : decode cL_law 1325 = .ok (.iload 4, 2) := dk_21 4 (dk_at dksL_law_49 17 rfl rfl)
theorem dL_law_1327 : decode cL_law 1327 = .ok (.iconst 2, 1) := dk_5 (dk_at dksL_law_49 19 rfl rfl)
theorem dL_law_1328 : decode cL_law 1328 = .ok (.iadd, 1) := dk_96 (dk_at dksL_law_49 20 rfl rfl)
theorem dL_law_1329 : decode cL_law 1329 = .ok (.iaload, 1) := dk_46 (dk_at dksL_law_49 21 rfl rfl)
theorem dL_law_1330 : decode cL_law 1330 = .ok (.aload_n 0, 1) := dk_42 (dk_at dksL_law_49 22 rfl rfl)
theorem dL_law_1331 : decode cL_law 1331 = .ok (.iload 4, 2) := dk_21 4 (dk_at dksL_law_50 0 rfl rfl)
theorem dL_law_1333 : decode cL_law 1333 = .ok (.iconst 3, 1) := dk_6 (dk_at dksL_law_50 2 rfl rfl)
theorem dL_law_1334 : decode cL_law 1334 = .ok (.iadd, 1) := dk_96 (dk_at dksL_law_50 3 rfl rfl)
theorem dL_law_1335 : decode cL_law 1335 = .ok (.iaload, 1) := dk_46 (dk_at dksL_law_50 4 rfl rfl)
theorem dL_law_1336 : decode cL_law 1336 = .ok (.invokevirtual 205, 3) := dk_182 0 205 (dk_at dksL_law_50 5 rfl rfl)
theorem dL_law_1339 : decode cL_law 1339 = .ok (.istore 6, 2) := dk_54 6 (dk_at dksL_law_50 8 rfl rfl)
theorem dL_law_1341 : decode cL_law 1341 = .ok (.aload_n 2, 1) := dk_44 (dk_at dksL_law_50 10 rfl rfl)
theorem dL_law_1342 : decode cL_law 1342 = .ok (.invokevirtual 157, 3) := dk_182 0 157 (dk_at dksL_law_50 11 rfl rfl)
theorem dL_law_1345 : decode cL_law 1345 = .ok (.iload 5, 2) := dk_21 5 (dk_at dksL_law_50 14 rfl rfl)
theorem dL_law_1347 : decode cL_law 1347 = .ok (.if_icmp .eq 5, 3) := dk_159 0 5 (dk_at dksL_law_50 16 rfl rfl)
theorem dL_law_1350 : decode cL_law 1350 = .ok (.iconst 0, 1) := dk_3 (dk_at dksL_law_50 19 rfl rfl)
theorem dL_law_1351 : decode cL_law 1351 = .ok (.ireturn, 1) := dk_172 (dk_at dksL_law_50 20 rfl rfl)
theorem dL_law_1352 : decode cL_law 1352 = .ok (.iload 5, 2) := dk_21 5 (dk_at dksL_law_50 21 rfl rfl)
theorem dL_law_1354 : decode cL_law 1354 = .ok (.ifCond .ne 15, 3) := dk_154 0 15 (dk_at dksL_law_51 0 rfl rfl)
theorem dL_law_1357 : decode cL_law 1357 = .ok (.aload_n 3, 1) := dk_45 (dk_at dksL_law_51 3 rfl rfl)
theorem dL_law_1358 : decode cL_law 1358 = .ok (.iconst 0, 1) := dk_3 (dk_at dksL_law_51 4 rfl rfl)
theorem dL_law_1359 : decode cL_law 1359 = .ok (.laload, 1) := dk_47 (dk_at dksL_law_51 5 rfl rfl)
theorem dL_law_1360 : decode cL_law 1360 = .ok (.iload 6, 2) := dk_21 6 (dk_at dksL_law_51 6 rfl rfl)
theorem dL_law_1362 : decode cL_law 1362 = .ok (.i2l, 1) := dk_133 (dk_at dksL_law_51 8 rfl rfl)
theorem dL_law_1363 : decode cL_law 1363 = .ok (.lcmp, 1) := dk_148 (dk_at dksL_law_51 9 rfl rfl)
theorem dL_law_1364 : decode cL_law 1364 = .ok (.ifCond .eq 5, 3) := dk_153 0 5 (dk_at dksL_law_51 10 rfl rfl)
theorem dL_law_1367 : decode cL_law 1367 = .ok (.iconst 0, 1) := dk_3 (dk_at dksL_law_51 13 rfl rfl)
theorem dL_law_1368 : decode cL_law 1368 = .ok (.ireturn, 1) := dk_172 (dk_at dksL_law_51 14 rfl rfl)
theorem dL_law_1369 : decode cL_law 1369 = .ok (.goto 1891, 3) := dk_167 7 99 (dk_at dksL_law_51 15 rfl rfl)
theorem dL_law_1372 : decode cL_law 1372 = .ok (.aload_n 1, 1) := dk_43 (dk_at dksL_law_51 18 rfl rfl)
theorem dL_law_1373 : decode cL_law 1373 = .ok (.aload_n 0, 1) := dk_42 (dk_at dksL_law_51 19 rfl rfl)
theorem dL_law_1374 : decode cL_law 1374 = .ok (.iload 4, 2) := dk_21 4 (dk_at dksL_law_51 20 rfl rfl)
theorem dL_law_1376 : decode cL_law 1376 = .ok (.iconst 1, 1) := dk_4 (dk_at dksL_law_51 22 rfl rfl)
theorem dL_law_1377 : decode cL_law 1377 = .ok (.iadd, 1) := dk_96 (dk_at dksL_law_51 23 rfl rfl)
theorem dL_law_1378 : decode cL_law 1378 = .ok (.iaload, 1) := dk_46 (dk_at dksL_law_52 0 rfl rfl)
theorem dL_law_1379 : decode cL_law 1379 = .ok (.aload_n 0, 1) := dk_42 (dk_at dksL_law_52 1 rfl rfl)
theorem dL_law_1380 : decode cL_law 1380 = .ok (.iload 4, 2) := dk_21 4 (dk_at dksL_law_52 2 rfl rfl)
theorem dL_law_1382 : decode cL_law 1382 = .ok (.iconst 2, 1) := dk_5 (dk_at dksL_law_52 4 rfl rfl)
theorem dL_law_1383 : decode cL_law 1383 = .ok (.iadd, 1) := dk_96 (dk_at dksL_law_52 5 rfl rfl)
theorem dL_law_1384 : decode cL_law 1384 = .ok (.iaload, 1) := dk_46 (dk_at dksL_law_52 6 rfl rfl)
theorem dL_law_1385 : decode cL_law 1385 = .ok (.aload_n 0, 1) := dk_42 (dk_at dksL_law_52 7 rfl rfl)
theorem dL_law_1386 : decode cL_law 1386 = .ok (.iload 4, 2) := dk_21 4 (dk_at dksL_law_52 8 rfl rfl)
theorem dL_law_1388 : decode cL_law 1388 = .ok (.iconst 3, 1) := dk_6 (dk_at dksL_law_52 10 rfl rfl)
theorem dL_law_1389 : decode cL_law 1389 = .ok (.iadd, 1) := dk_96 (dk_at dksL_law_52 11 rfl rfl)
theorem dL_law_1390 : decode cL_law 1390 = .ok (.iaload, 1) := dk_46 (dk_at dksL_law_52 12 rfl rfl)
theorem dL_law_1391 : decode cL_law 1391 = .ok (.aload_n 0, 1) := dk_42 (dk_at dksL_law_52 13 rfl rfl)
theorem dL_law_1392 : decode cL_law 1392 = .ok (.iload 4, 2) := dk_21 4 (dk_at dksL_law_52 14 rfl rfl)
theorem dL_law_1394 : decode cL_law 1394 = .ok (.iconst 4, 1) := dk_7 (dk_at dksL_law_52 16 rfl rfl)
theorem dL_law_1395 : decode cL_law 1395 = .ok (.iadd, 1) := dk_96 (dk_at dksL_law_52 17 rfl rfl)
theorem dL_law_1396 : decode cL_law 1396 = .ok (.iaload, 1) := dk_46 (dk_at dksL_law_52 18 rfl rfl)
theorem dL_law_1397 : decode cL_law 1397 = .ok (.aload_n 3, 1) := dk_45 (dk_at dksL_law_52 19 rfl rfl)
theorem dL_law_1398 : decode cL_law 1398 = .ok (.invokestatic 206, 3) := dk_184 0 206 (dk_at dksL_law_52 20 rfl rfl)
theorem dL_law_1401 : decode cL_law 1401 = .ok (.istore 5, 2) := dk_54 5 (dk_at dksL_law_53 0 rfl rfl)
theorem dL_law_1403 : decode cL_law 1403 = .ok (.aload_n 2, 1) := dk_44 (dk_at dksL_law_53 2 rfl rfl)
theorem dL_law_1404 : decode cL_law 1404 = .ok (.aload_n 0, 1) := dk_42 (dk_at dksL_law_53 3 rfl rfl)
theorem dL_law_1405 : decode cL_law 1405 = .ok (.iload 4, 2) := dk_21 4 (dk_at dksL_law_53 4 rfl rfl)
theorem dL_law_1407 : decode cL_law 1407 = .ok (.iconst 1, 1) := dk_4 (dk_at dksL_law_53 6 rfl rfl)
theorem dL_law_1408 : decode cL_law 1408 = .ok (.iadd, 1) := dk_96 (dk_at dksL_law_53 7 rfl rfl)
theorem dL_law_1409 : decode cL_law 1409 = .ok (.iaload, 1) := dk_46 (dk_at dksL_law_53 8 rfl rfl)
theorem dL_law_1410 : decode cL_law 1410 = .ok (.aload_n 0, 1) := dk_42 (dk_at dksL_law_53 9 rfl rfl)
theorem dL_law_1411 : decode cL_law 1411 = .ok (.iload 4, 2) := dk_21 4 (dk_at dksL_law_53 10 rfl rfl)
theorem dL_law_1413 : decode cL_law 1413 = .ok (.iconst 2, 1) := dk_5 (dk_at dksL_law_53 12 rfl rfl)
theorem dL_law_1414 : decode cL_law 1414 = .ok (.iadd, 1) := dk_96 (dk_at dksL_law_53 13 rfl rfl)
theorem dL_law_1415 : decode cL_law 1415 = .ok (.iaload, 1) := dk_46 (dk_at dksL_law_53 14 rfl rfl)
theorem dL_law_1416 : decode cL_law 1416 = .ok (.aload_n 0, 1) := dk_42 (dk_at dksL_law_53 15 rfl rfl)
theorem dL_law_1417 : decode cL_law 1417 = .ok (.iload 4, 2) := dk_21 4 (dk_at dksL_law_53 16 rfl rfl)
theorem dL_law_1419 : decode cL_law 1419 = .ok (.iconst 3, 1) := dk_6 (dk_at dksL_law_53 18 rfl rfl)
theorem dL_law_1420 : decode cL_law 1420 = .ok (.iadd, 1) := dk_96 (dk_at dksL_law_53 19 rfl rfl)
theorem dL_law_1421 : decode cL_law 1421 = .ok (.iaload, 1) := dk_46 (dk_at dksL_law_53 20 rfl rfl)
theorem dL_law_1422 : decode cL_law 1422 = .ok (.aload_n 0, 1) := dk_42 (dk_at dksL_law_53 21 rfl rfl)
theorem dL_law_1423 : decode cL_law 1423 = .ok (.iload 4, 2) := dk_21 4 (dk_at dksL_law_53 22 rfl rfl)
theorem dL_law_1425 : decode cL_law 1425 = .ok (.iconst 4, 1) := dk_7 (dk_at dksL_law_54 0 rfl rfl)
theorem dL_law_1426 : decode cL_law 1426 = .ok (.iadd, 1) := dk_96 (dk_at dksL_law_54 1 rfl rfl)
theorem dL_law_1427 : decode cL_law 1427 = .ok (.iaload, 1) := dk_46 (dk_at dksL_law_54 2 rfl rfl)
theorem dL_law_1428 : decode cL_law 1428 = .ok (.invokevirtual 209, 3) := dk_182 0 209 (dk_at dksL_law_54 3 rfl rfl)
theorem dL_law_1431 : decode cL_law 1431 = .ok (.istore 6, 2) := dk_54 6 (dk_at dksL_law_54 6 rfl rfl)
theorem dL_law_1433 : decode cL_law 1433 = .ok (.aload_n 2, 1) := dk_44 (dk_at dksL_law_54 8 rfl rfl)
theorem dL_law_1434 : decode cL_law 1434 = .ok (.invokevirtual 157, 3) := dk_182 0 157 (dk_at dksL_law_54 9 rfl rfl)
theorem dL_law_1437 : decode cL_law 1437 = .ok (.iload 5, 2) := dk_21 5 (dk_at dksL_law_54 12 rfl rfl)
theorem dL_law_1439 : decode cL_law 1439 = .ok (.if_icmp .eq 5, 3) := dk_159 0 5 (dk_at dksL_law_54 14 rfl rfl)
theorem dL_law_1442 : decode cL_law 1442 = .ok (.iconst 0, 1) := dk_3 (dk_at dksL_law_54 17 rfl rfl)
theorem dL_law_1443 : decode cL_law 1443 = .ok (.ireturn, 1) := dk_172 (dk_at dksL_law_54 18 rfl rfl)
theorem dL_law_1444 : decode cL_law 1444 = .ok (.iload 5, 2) := dk_21 5 (dk_at dksL_law_54 19 rfl rfl)
theorem dL_law_1446 : decode cL_law 1446 = .ok (.ifCond .ne 15, 3) := dk_154 0 15 (dk_at dksL_law_54 21 rfl rfl)
theorem dL_law_1449 : decode cL_law 1449 = .ok (.aload_n 3, 1) := dk_45 (dk_at dksL_law_55 0 rfl rfl)
theorem dL_law_1450 : decode cL_law 1450 = .ok (.iconst 0, 1) := dk_3 (dk_at dksL_law_55 1 rfl rfl)
theorem dL_law_1451 : decode cL_law 1451 = .ok (.laload, 1) := dk_47 (dk_at dksL_law_55 2 rfl rfl)
theorem dL_law_1452 : decode cL_law 1452 = .ok (.iload 6, 2) := dk_21 6 (dk_at dksL_law_55 3 rfl rfl)
theorem dL_law_1454 : decode cL_law 1454 = .ok (.i2l, 1) := dk_133 (dk_at dksL_law_55 5 rfl rfl)
theorem dL_law_1455 : decode cL_law 1455 = .ok (.lcmp, 1) := dk_148 (dk_at dksL_law_55 6 rfl rfl)
theorem dL_law_1456 : decode cL_law 1456 = .ok (.ifCond .eq 5, 3) := dk_153 0 5 (dk_at dksL_law_55 7 rfl rfl)
theorem dL_law_1459 : decode cL_law 1459 = .ok (.iconst 0, 1) := dk_3 (dk_at dksL_law_55 10 rfl rfl)
theorem dL_law_1460 : decode cL_law 1460 = .ok (.ireturn, 1) := dk_172 (dk_at dksL_law_55 11 rfl rfl)
theorem dL_law_1461 : decode cL_law 1461 = .ok (.goto 1799, 3) := dk_167 7 7 (dk_at dksL_law_55 12 rfl rfl)
theorem dL_law_1464 : decode cL_law 1464 = .ok (.aload_n 1, 1) := dk_43 (dk_at dksL_law_55 15 rfl rfl)
theorem dL_law_1465 : decode cL_law 1465 = .ok (.aload_n 0, 1) := dk_42 (dk_at dksL_law_55 16 rfl rfl)
theorem dL_law_1466 : decode cL_law 1466 = .ok (.iload 4, 2) := dk_21 4 (dk_at dksL_law_55 17 rfl rfl)
theorem dL_law_1468 : decode cL_law 1468 = .ok (.iconst 1, 1) := dk_4 (dk_at dksL_law_55 19 rfl rfl)
theorem dL_law_1469 : decode cL_law 1469 = .ok (.iadd, 1) := dk_96 (dk_at dksL_law_55 20 rfl rfl)
theorem dL_law_1470 : decode cL_law 1470 = .ok (.iaload, 1) := dk_46 (dk_at dksL_law_55 21 rfl rfl)
theorem dL_law_1471 : decode cL_law 1471 = .ok (.aload_n 0, 1) := dk_42 (dk_at dksL_law_55 22 rfl rfl)
theorem dL_law_1472 : decode cL_law 1472 = .ok (.iload 4, 2) := dk_21 4 (dk_at dksL_law_56 0 rfl rfl)
theorem dL_law_1474 : decode cL_law 1474 = .ok (.iconst 2, 1) := dk_5 (dk_at dksL_law_56 2 rfl rfl)
theorem dL_law_1475 : decode cL_law 1475 = .ok (.iadd, 1) := dk_96 (dk_at dksL_law_56 3 rfl rfl)
theorem dL_law_1476 : decode cL_law 1476 = .ok (.iaload, 1) := dk_46 (dk_at dksL_law_56 4 rfl rfl)
theorem dL_law_1477 : decode cL_law 1477 = .ok (.aload_n 0, 1) := dk_42 (dk_at dksL_law_56 5 rfl rfl)
theorem dL_law_1478 : decode cL_law 1478 = .ok (.iload 4, 2) := dk_21 4 (dk_at dksL_law_56 6 rfl rfl)
theorem dL_law_1480 : decode cL_law 1480 = .ok (.iconst 3, 1) := dk_6 (dk_at dksL_law_56 8 rfl rfl)
theorem dL_law_1481 : decode cL_law 1481 = .ok (.iadd, 1) := dk_96 (dk_at dksL_law_56 9 rfl rfl)
theorem dL_law_1482 : decode cL_law 1482 = .ok (.iaload, 1) := dk_46 (dk_at dksL_law_56 10 rfl rfl)
theorem dL_law_1483 : decode cL_law 1483 = .ok (.aload_n 0, 1) := dk_42 (dk_at dksL_law_56 11 rfl rfl)
theorem dL_law_1484 : decode cL_law 1484 = .ok (.iload 4, 2) := dk_21 4 (dk_at dksL_law_56 12 rfl rfl)
theorem dL_law_1486 : decode cL_law 1486 = .ok (.iconst 4, 1) := dk_7 (dk_at dksL_law_56 14 rfl rfl)
theorem dL_law_1487 : decode cL_law 1487 = .ok (.iadd, 1) := dk_96 (dk_at dksL_law_56 15 rfl rfl)
theorem dL_law_1488 : decode cL_law 1488 = .ok (.iaload, 1) := dk_46 (dk_at dksL_law_56 16 rfl rfl)
theorem dL_law_1489 : decode cL_law 1489 = .ok (.aload_n 3, 1) := dk_45 (dk_at dksL_law_56 17 rfl rfl)
theorem dL_law_1490 : decode cL_law 1490 = .ok (.invokestatic 210, 3) := dk_184 0 210 (dk_at dksL_law_56 18 rfl rfl)
theorem dL_law_1493 : decode cL_law 1493 = .ok (.istore 5, 2) := dk_54 5 (dk_at dksL_law_56 21 rfl rfl)
theorem dL_law_1495 : decode cL_law 1495 = .ok (.aload_n 2, 1) := dk_44 (dk_at dksL_law_56 23 rfl rfl)
theorem dL_law_1496 : decode cL_law 1496 = .ok (.aload_n 0, 1) := dk_42 (dk_at dksL_law_57 0 rfl rfl)
theorem dL_law_1497 : decode cL_law 1497 = .ok (.iload 4, 2) := dk_21 4 (dk_at dksL_law_57 1 rfl rfl)
theorem dL_law_1499 : decode cL_law 1499 = .ok (.iconst 1, 1) := dk_4 (dk_at dksL_law_57 3 rfl rfl)
theorem dL_law_1500 : decode cL_law 1500 = .ok (.iadd, 1) := dk_96 (dk_at dksL_law_57 4 rfl rfl)
theorem dL_law_1501 : decode cL_law 1501 = .ok (.iaload, 1) := dk_46 (dk_at dksL_law_57 5 rfl rfl)
theorem dL_law_1502 : decode cL_law 1502 = .ok (.aload_n 0, 1) := dk_42 (dk_at dksL_law_57 6 rfl rfl)
theorem dL_law_1503 : decode cL_law 1503 = .ok (.iload 4, 2) := dk_21 4 (dk_at dksL_law_57 7 rfl rfl)
theorem dL_law_1505 : decode cL_law 1505 = .ok (.iconst 2, 1) := dk_5 (dk_at dksL_law_57 9 rfl rfl)
theorem dL_law_1506 : decode cL_law 1506 = .ok (.iadd, 1) := dk_96 (dk_at dksL_law_57 10 rfl rfl)
theorem dL_law_1507 : decode cL_law 1507 = .ok (.iaload, 1) := dk_46 (dk_at dksL_law_57 11 rfl rfl)
theorem dL_law_1508 : decode cL_law 1508 = .ok (.aload_n 0, 1) := dk_42 (dk_at dksL_law_57 12 rfl rfl)
theorem dL_law_1509 : decode cL_law 1509 = .ok (.iload 4, 2) := dk_21 4 (dk_at dksL_law_57 13 rfl rfl)
theorem dL_law_1511 : decode cL_law 1511 = .ok (.iconst 3, 1) := dk_6 (dk_at dksL_law_57 15 rfl rfl)
theorem dL_law_1512 : decode cL_law 1512 = .ok (.iadd, 1) := dk_96 (dk_at dksL_law_57 16 rfl rfl)
theorem dL_law_1513 : decode cL_law 1513 = .ok (.iaload, 1) := dk_46 (dk_at dksL_law_57 17 rfl rfl)
theorem dL_law_1514 : decode cL_law 1514 = .ok (.aload_n 0, 1) := dk_42 (dk_at dksL_law_57 18 rfl rfl)
theorem dL_law_1515 : decode cL_law 1515 = .ok (.iload 4, 2) := dk_21 4 (dk_at dksL_law_57 19 rfl rfl)
theorem dL_law_1517 : decode cL_law 1517 = .ok (.iconst 4, 1) := dk_7 (dk_at dksL_law_57 21 rfl rfl)
theorem dL_law_1518 : decode cL_law 1518 = .ok (.iadd, 1) := dk_96 (dk_at dksL_law_57 22 rfl rfl)
theorem dL_law_1519 : decode cL_law 1519 = .ok (.iaload, 1) := dk_46 (dk_at dksL_law_57 23 rfl rfl)
theorem dL_law_1520 : decode cL_law 1520 = .ok (.invokevirtual 212, 3) := dk_182 0 212 (dk_at dksL_law_58 0 rfl rfl)
theorem dL_law_1523 : decode cL_law 1523 = .ok (.istore 6, 2) := dk_54 6 (dk_at dksL_law_58 3 rfl rfl)
theorem dL_law_1525 : decode cL_law 1525 = .ok (.aload_n 2, 1) := dk_44 (dk_at dksL_law_58 5 rfl rfl)
theorem dL_law_1526 : decode cL_law 1526 = .ok (.invokevirtual 157, 3) := dk_182 0 157 (dk_at dksL_law_58 6 rfl rfl)
theorem dL_law_1529 : decode cL_law 1529 = .ok (.iload 5, 2) := dk_21 5 (dk_at dksL_law_58 9 rfl rfl)
theorem dL_law_1531 : decode cL_law 1531 = .ok (.if_icmp .eq 5, 3) := dk_159 0 5 (dk_at dksL_law_58 11 rfl rfl)
theorem dL_law_1534 : decode cL_law 1534 = .ok (.iconst 0, 1) := dk_3 (dk_at dksL_law_58 14 rfl rfl)
theorem dL_law_1535 : decode cL_law 1535 = .ok (.ireturn, 1) := dk_172 (dk_at dksL_law_58 15 rfl rfl)
theorem dL_law_1536 : decode cL_law 1536 = .ok (.iload 5, 2) := dk_21 5 (dk_at dksL_law_58 16 rfl rfl)
theorem dL_law_1538 : decode cL_law 1538 = .ok (.ifCond .ne 15, 3) := dk_154 0 15 (dk_at dksL_law_58 18 rfl rfl)
theorem dL_law_1541 : decode cL_law 1541 = .ok (.aload_n 3, 1) := dk_45 (dk_at dksL_law_58 21 rfl rfl)
theorem dL_law_1542 : decode cL_law 1542 = .ok (.iconst 0, 1) := dk_3 (dk_at dksL_law_58 22 rfl rfl)
theorem dL_law_1543 : decode cL_law 1543 = .ok (.laload, 1) := dk_47 (dk_at dksL_law_58 23 rfl rfl)
theorem dL_law_1544 : decode cL_law 1544 = .ok (.iload 6, 2) := dk_21 6 (dk_at dksL_law_59 0 rfl rfl)
theorem dL_law_1546 : decode cL_law 1546 = .ok (.i2l, 1) := dk_133 (dk_at dksL_law_59 2 rfl rfl)
theorem dL_law_1547 : decode cL_law 1547 = .ok (.lcmp, 1) := dk_148 (dk_at dksL_law_59 3 rfl rfl)
theorem dL_law_1548 : decode cL_law 1548 = .ok (.ifCond .eq 5, 3) := dk_153 0 5 (dk_at dksL_law_59 4 rfl rfl)
theorem dL_law_1551 : decode cL_law 1551 = .ok (.iconst 0, 1) := dk_3 (dk_at dksL_law_59 7 rfl rfl)
theorem dL_law_1552 : decode cL_law 1552 = .ok (.ireturn, 1) := dk_172 (dk_at dksL_law_59 8 rfl rfl)
theorem dL_law_1553 : decode cL_law 1553 = .ok (.goto 1707, 3) := dk_167 6 171 (dk_at dksL_law_59 9 rfl rfl)
theorem dL_law_1556 : decode cL_law 1556 = .ok (.aload_n 1, 1) := dk_43 (dk_at dksL_law_59 12 rfl rfl)
theorem dL_law_1557 : decode cL_law 1557 = .ok (.aload_n 0, 1) := dk_42 (dk_at dksL_law_59 13 rfl rfl)
theorem dL_law_1558 : decode cL_law 1558 = .ok (.iload 4, 2) := dk_21 4 (dk_at dksL_law_59 14 rfl rfl)
theorem dL_law_1560 : decode cL_law 1560 = .ok (.iconst 1, 1) := dk_4 (dk_at dksL_law_59 16 rfl rfl)
theorem dL_law_1561 : decode cL_law 1561 = .ok (.iadd, 1) := dk_96 (dk_at dksL_law_59 17 rfl rfl)
theorem dL_law_1562 : decode cL_law 1562 = .ok (.iaload, 1) := dk_46 (dk_at dksL_law_59 18 rfl rfl)
theorem dL_law_1563 : decode cL_law 1563 = .ok (.aload_n 0, 1) := dk_42 (dk_at dksL_law_59 19 rfl rfl)
theorem dL_law_1564 : decode cL_law 1564 = .ok (.iload 4, 2) := dk_21 4 (dk_at dksL_law_59 20 rfl rfl)
theorem dL_law_1566 : decode cL_law 1566 = .ok (.iconst 2, 1) := dk_5 (dk_at dksL_law_59 22 rfl rfl)
theorem dL_law_1567 : decode cL_law 1567 = .ok (.iadd, 1) := dk_96 (dk_at dksL_law_59 23 rfl rfl)
theorem dL_law_1568 : decode cL_law 1568 = .ok (.iaload, 1) := dk_46 (dk_at dksL_law_60 0 rfl rfl)
theorem dL_law_1569 : decode cL_law 1569 = .ok (.aload_n 0, 1) := dk_42 (dk_at dksL_law_60 1 rfl rfl)
theorem dL_law_1570 : decode cL_law 1570 = .ok (.iload 4, 2) := dk_21 4 (dk_at dksL_law_60 2 rfl rfl)
theorem dL_law_1572 : decode cL_law 1572 = .ok (.iconst 3, 1) := dk_6 (dk_at dksL_law_60 4 rfl rfl)
theorem dL_law_1573 : decode cL_law 1573 = .ok (.iadd, 1) := dk_96 (dk_at dksL_law_60 5 rfl rfl)
theorem dL_law_1574 : decode cL_law 1574 = .ok (.iaload, 1) := dk_46 (dk_at dksL_law_60 6 rfl rfl)
theorem dL_law_1575 : decode cL_law 1575 = .ok (.aload_n 0, 1) := dk_42 (dk_at dksL_law_60 7 rfl rfl)
theorem dL_law_1576 : decode cL_law 1576 = .ok (.iload 4, 2) := dk_21 4 (dk_at dksL_law_60 8 rfl rfl)
theorem dL_law_1578 : decode cL_law 1578 = .ok (.iconst 4, 1) := dk_7 (dk_at dksL_law_60 10 rfl rfl)
theorem dL_law_1579 : decode cL_law 1579 = .ok (.iadd, 1) := dk_96 (dk_at dksL_law_60 11 rfl rfl)
theorem dL_law_1580 : decode cL_law 1580 = .ok (.iaload, 1) := dk_46 (dk_at dksL_law_60 12 rfl rfl)
theorem dL_law_1581 : decode cL_law 1581 = .ok (.aload_n 0, 1) := dk_42 (dk_at dksL_law_60 13 rfl rfl)
theorem dL_law_1582 : decode cL_law 1582 = .ok (.iload 4, 2) := dk_21 4 (dk_at dksL_law_60 14 rfl rfl)
theorem dL_law_1584 : decode cL_law 1584 = .ok (.iconst 5, 1) := dk_8 (dk_at dksL_law_60 16 rfl rfl)
theorem dL_law_1585 : decode cL_law 1585 = .ok (.iadd, 1) := dk_96 (dk_at dksL_law_60 17 rfl rfl)
theorem dL_law_1586 : decode cL_law 1586 = .ok (.iaload, 1) := dk_46 (dk_at dksL_law_60 18 rfl rfl)
theorem dL_law_1587 : decode cL_law 1587 = .ok (.aload_n 0, 1) := dk_42 (dk_at dksL_law_60 19 rfl rfl)
theorem dL_law_1588 : decode cL_law 1588 = .ok (.iload 4, 2) := dk_21 4 (dk_at dksL_law_60 20 rfl rfl)
theorem dL_law_1590 : decode cL_law 1590 = .ok (.bipush 6, 2) := dk_16 6 (dk_at dksL_law_60 22 rfl rfl)
theorem dL_law_1592 : decode cL_law 1592 = .ok (.iadd, 1) := dk_96 (dk_at dksL_law_61 0 rfl rfl)
theorem dL_law_1593 : decode cL_law 1593 = .ok (.iaload, 1) := dk_46 (dk_at dksL_law_61 1 rfl rfl)
theorem dL_law_1594 : decode cL_law 1594 = .ok (.aload_n 3, 1) := dk_45 (dk_at dksL_law_61 2 rfl rfl)
theorem dL_law_1595 : decode cL_law 1595 = .ok (.invokestatic 213, 3) := dk_184 0 213 (dk_at dksL_law_61 3 rfl rfl)
theorem dL_law_1598 : decode cL_law 1598 = .ok (.istore 5, 2) := dk_54 5 (dk_at dksL_law_61 6 rfl rfl)
theorem dL_law_1600 : decode cL_law 1600 = .ok (.aload_n 2, 1) := dk_44 (dk_at dksL_law_61 8 rfl rfl)
theorem dL_law_1601 : decode cL_law 1601 = .ok (.aload_n 0, 1) := dk_42 (dk_at dksL_law_61 9 rfl rfl)
theorem dL_law_1602 : decode cL_law 1602 = .ok (.iload 4, 2) := dk_21 4 (dk_at dksL_law_61 10 rfl rfl)
theorem dL_law_1604 : decode cL_law 1604 = .ok (.iconst 1, 1) := dk_4 (dk_at dksL_law_61 12 rfl rfl)
theorem dL_law_1605 : decode cL_law 1605 = .ok (.iadd, 1) := dk_96 (dk_at dksL_law_61 13 rfl rfl)
theorem dL_law_1606 : decode cL_law 1606 = .ok (.iaload, 1) := dk_46 (dk_at dksL_law_61 14 rfl rfl)
theorem dL_law_1607 : decode cL_law 1607 = .ok (.aload_n 0, 1) := dk_42 (dk_at dksL_law_61 15 rfl rfl)
theorem dL_law_1608 : decode cL_law 1608 = .ok (.iload 4, 2) := dk_21 4 (dk_at dksL_law_61 16 rfl rfl)
theorem dL_law_1610 : decode cL_law 1610 = .ok (.iconst 2, 1) := dk_5 (dk_at dksL_law_61 18 rfl rfl)
theorem dL_law_1611 : decode cL_law 1611 = .ok (.iadd, 1) := dk_96 (dk_at dksL_law_61 19 rfl rfl)
theorem dL_law_1612 : decode cL_law 1612 = .ok (.iaload, 1) := dk_46 (dk_at dksL_law_61 20 rfl rfl)
theorem dL_law_1613 : decode cL_law 1613 = .ok (.aload_n 0, 1) := dk_42 (dk_at dksL_law_61 21 rfl rfl)
theorem dL_law_1614 : decode cL_law 1614 = .ok (.iload 4, 2) := dk_21 4 (dk_at dksL_law_61 22 rfl rfl)
theorem dL_law_1616 : decode cL_law 1616 = .ok (.iconst 3, 1) := dk_6 (dk_at dksL_law_62 0 rfl rfl)
theorem dL_law_1617 : decode cL_law 1617 = .ok (.iadd, 1) := dk_96 (dk_at dksL_law_62 1 rfl rfl)
theorem dL_law_1618 : decode cL_law 1618 = .ok (.iaload, 1) := dk_46 (dk_at dksL_law_62 2 rfl rfl)
theorem dL_law_1619 : decode cL_law 1619 = .ok (.aload_n 0, 1) := dk_42 (dk_at dksL_law_62 3 rfl rfl)
theorem dL_law_1620 : decode cL_law 1620 = .ok (.iload 4, 2) := dk_21 4 (dk_at dksL_law_62 4 rfl rfl)
theorem dL_law_1622 : decode cL_law 1622 = .ok (.iconst 4, 1) := dk_7 (dk_at dksL_law_62 6 rfl rfl)
theorem dL_law_1623 : decode cL_law 1623 = .ok (.iadd, 1) := dk_96 (dk_at dksL_law_62 7 rfl rfl)
theorem dL_law_1624 : decode cL_law 1624 = .ok (.iaload, 1) := dk_46 (dk_at dksL_law_62 8 rfl rfl)
theorem dL_law_1625 : decode cL_law 1625 = .ok (.aload_n 0, 1) := dk_42 (dk_at dksL_law_62 9 rfl rfl)
theorem dL_law_1626 : decode cL_law 1626 = .ok (.iload 4, 2) := dk_21 4 (dk_at dksL_law_62 10 rfl rfl)
theorem dL_law_1628 : decode cL_law 1628 = .ok (.iconst 5, 1) := dk_8 (dk_at dksL_law_62 12 rfl rfl)
theorem dL_law_1629 : decode cL_law 1629 = .ok (.iadd, 1) := dk_96 (dk_at dksL_law_62 13 rfl rfl)
theorem dL_law_1630 : decode cL_law 1630 = .ok (.iaload, 1) := dk_46 (dk_at dksL_law_62 14 rfl rfl)
theorem dL_law_1631 : decode cL_law 1631 = .ok (.aload_n 0, 1) := dk_42 (dk_at dksL_law_62 15 rfl rfl)
theorem dL_law_1632 : decode cL_law 1632 = .ok (.iload 4, 2) := dk_21 4 (dk_at dksL_law_62 16 rfl rfl)
theorem dL_law_1634 : decode cL_law 1634 = .ok (.bipush 6, 2) := dk_16 6 (dk_at dksL_law_62 18 rfl rfl)
theorem dL_law_1636 : decode cL_law 1636 = .ok (.iadd, 1) := dk_96 (dk_at dksL_law_62 20 rfl rfl)
theorem dL_law_1637 : decode cL_law 1637 = .ok (.iaload, 1) := dk_46 (dk_at dksL_law_62 21 rfl rfl)
theorem dL_law_1638 : decode cL_law 1638 = .ok (.invokevirtual 216, 3) := dk_182 0 216 (dk_at dksL_law_63 0 rfl rfl)
theorem dL_law_1641 : decode cL_law 1641 = .ok (.istore 6, 2) := dk_54 6 (dk_at dksL_law_63 3 rfl rfl)
theorem dL_law_1643 : decode cL_law 1643 = .ok (.aload_n 2, 1) := dk_44 (dk_at dksL_law_63 5 rfl rfl)
theorem dL_law_1644 : decode cL_law 1644 = .ok (.invokevirtual 157, 3) := dk_182 0 157 (dk_at dksL_law_63 6 rfl rfl)
theorem dL_law_1647 : decode cL_law 1647 = .ok (.iload 5, 2) := dk_21 5 (dk_at dksL_law_63 9 rfl rfl)
theorem dL_law_1649 : decode cL_law 1649 = .ok (.if_icmp .eq 5, 3) := dk_159 0 5 (dk_at dksL_law_63 11 rfl rfl)
theorem dL_law_1652 : decode cL_law 1652 = .ok (.iconst 0, 1) := dk_3 (dk_at dksL_law_63 14 rfl rfl)
theorem dL_law_1653 : decode cL_law 1653 = .ok (.ireturn, 1) := dk_172 (dk_at dksL_law_63 15 rfl rfl)
theorem dL_law_1654 : decode cL_law 1654 = .ok (.iload 5, 2) := dk_21 5 (dk_at dksL_law_63 16 rfl rfl)
theorem dL_law_1656 : decode cL_law 1656 = .ok (.ifCond .ne 15, 3) := dk_154 0 15 (dk_at dksL_law_63 18 rfl rfl)
theorem dL_law_1659 : decode cL_law 1659 = .ok (.aload_n 3, 1) := dk_45 (dk_at dksL_law_63 21 rfl rfl)
theorem dL_law_1660 : decode cL_law 1660 = .ok (.iconst 0, 1) := dk_3 (dk_at dksL_law_63 22 rfl rfl)
theorem dL_law_1661 : decode cL_law 1661 = .ok (.laload, 1) := dk_47 (dk_at dksL_law_63 23 rfl rfl)
theorem dL_law_1662 : decode cL_law 1662 = .ok (.iload 6, 2) := dk_21 6 (dk_at dksL_law_64 0 rfl rfl)
theorem dL_law_1664 : decode cL_law 1664 = .ok (.i2l, 1) := dk_133 (dk_at dksL_law_64 2 rfl rfl)
theorem dL_law_1665 : decode cL_law 1665 = .ok (.lcmp, 1) := dk_148 (dk_at dksL_law_64 3 rfl rfl)
theorem dL_law_1666 : decode cL_law 1666 = .ok (.ifCond .eq 5, 3) := dk_153 0 5 (dk_at dksL_law_64 4 rfl rfl)
theorem dL_law_1669 : decode cL_law 1669 = .ok (.iconst 0, 1) := dk_3 (dk_at dksL_law_64 7 rfl rfl)
theorem dL_law_1670 : decode cL_law 1670 = .ok (.ireturn, 1) := dk_172 (dk_at dksL_law_64 8 rfl rfl)
theorem dL_law_1671 : decode cL_law 1671 = .ok (.goto 1589, 3) := dk_167 6 53 (dk_at dksL_law_64 9 rfl rfl)
theorem dL_law_1674 : decode cL_law 1674 = .ok (.aload_n 1, 1) := dk_43 (dk_at dksL_law_64 12 rfl rfl)
theorem dL_law_1675 : decode cL_law 1675 = .ok (.aload_n 0, 1) := dk_42 (dk_at dksL_law_64 13 rfl rfl)
theorem dL_law_1676 : decode cL_law 1676 = .ok (.iload 4, 2) := dk_21 4 (dk_at dksL_law_64 14 rfl rfl)
theorem dL_law_1678 : decode cL_law 1678 = .ok (.iconst 1, 1) := dk_4 (dk_at dksL_law_64 16 rfl rfl)
theorem dL_law_1679 : decode cL_law 1679 = .ok (.iadd, 1) := dk_96 (dk_at dksL_law_64 17 rfl rfl)
theorem dL_law_1680 : decode cL_law 1680 = .ok (.iaload, 1) := dk_46 (dk_at dksL_law_64 18 rfl rfl)
theorem dL_law_1681 : decode cL_law 1681 = .ok (.aload_n 3, 1) := dk_45 (dk_at dksL_law_64 19 rfl rfl)
theorem dL_law_1682 : decode cL_law 1682 = .ok (.invokestatic 217, 3) := dk_184 0 217 (dk_at dksL_law_64 20 rfl rfl)
theorem dL_law_1685 : decode cL_law 1685 = .ok (.istore 5, 2) := dk_54 5 (dk_at dksL_law_65 0 rfl rfl)
theorem dL_law_1687 : decode cL_law 1687 = .ok (.aload_n 2, 1) := dk_44 (dk_at dksL_law_65 2 rfl rfl)
theorem dL_law_1688 : decode cL_law 1688 = .ok (.aload_n 0, 1) := dk_42 (dk_at dksL_law_65 3 rfl rfl)
theorem dL_law_1689 : decode cL_law 1689 = .ok (.iload 4, 2) := dk_21 4 (dk_at dksL_law_65 4 rfl rfl)
theorem dL_law_1691 : decode cL_law 1691 = .ok (.iconst 1, 1) := dk_4 (dk_at dksL_law_65 6 rfl rfl)
theorem dL_law_1692 : decode cL_law 1692 = .ok (.iadd, 1) := dk_96 (dk_at dksL_law_65 7 rfl rfl)
theorem dL_law_1693 : decode cL_law 1693 = .ok (.iaload, 1) := dk_46 (dk_at dksL_law_65 8 rfl rfl)
theorem dL_law_1694 : decode cL_law 1694 = .ok (.invokevirtual 219, 3) := dk_182 0 219 (dk_at dksL_law_65 9 rfl rfl)
theorem dL_law_1697 : decode cL_law 1697 = .ok (.istore 6, 2) := dk_54 6 (dk_at dksL_law_65 12 rfl rfl)
theorem dL_law_1699 : decode cL_law 1699 = .ok (.aload_n 2, 1) := dk_44 (dk_at dksL_law_65 14 rfl rfl)
theorem dL_law_1700 : decode cL_law 1700 = .ok (.invokevirtual 157, 3) := dk_182 0 157 (dk_at dksL_law_65 15 rfl rfl)
theorem dL_law_1703 : decode cL_law 1703 = .ok (.iload 5, 2) := dk_21 5 (dk_at dksL_law_65 18 rfl rfl)
theorem dL_law_1705 : decode cL_law 1705 = .ok (.if_icmp .eq 5, 3) := dk_159 0 5 (dk_at dksL_law_65 20 rfl rfl)
theorem dL_law_1708 : decode cL_law 1708 = .ok (.iconst 0, 1) := dk_3 (dk_at dksL_law_65 23 rfl rfl)
theorem dL_law_1709 : decode cL_law 1709 = .ok (.ireturn, 1) := dk_172 (dk_at dksL_law_66 0 rfl rfl)
theorem dL_law_1710 : decode cL_law 1710 = .ok (.iload 5, 2) := dk_21 5 (dk_at dksL_law_66 1 rfl rfl)
theorem dL_law_1712 : decode cL_law 1712 = .ok (.ifCond .ne 15, 3) := dk_154 0 15 (dk_at dksL_law_66 3 rfl rfl)
theorem dL_law_1715 : decode cL_law 1715 = .ok (.aload_n 3, 1) := dk_45 (dk_at dksL_law_66 6 rfl rfl)
theorem dL_law_1716 : decode cL_law 1716 = .ok (.iconst 0, 1) := dk_3 (dk_at dksL_law_66 7 rfl rfl)
theorem dL_law_1717 : decode cL_law 1717 = .ok (.laload, 1) := dk_47 (dk_at dksL_law_66 8 rfl rfl)
theorem dL_law_1718 : decode cL_law 1718 = .ok (.iload 6, 2) := dk_21 6 (dk_at dksL_law_66 9 rfl rfl)
theorem dL_law_1720 : decode cL_law 1720 = .ok (.i2l, 1) := dk_133 (dk_at dksL_law_66 11 rfl rfl)
theorem dL_law_1721 : decode cL_law 1721 = .ok (.lcmp, 1) := dk_148 (dk_at dksL_law_66 12 rfl rfl)
theorem dL_law_1722 : decode cL_law 1722 = .ok (.ifCond .eq 5, 3) := dk_153 0 5 (dk_at dksL_law_66 13 rfl rfl)
theorem dL_law_1725 : decode cL_law 1725 = .ok (.iconst 0, 1) := dk_3 (dk_at dksL_law_66 16 rfl rfl)
theorem dL_law_1726 : decode cL_law 1726 = .ok (.ireturn, 1) := dk_172 (dk_at dksL_law_66 17 rfl rfl)
theorem dL_law_1727 : decode cL_law 1727 = .ok (.goto 1533, 3) := dk_167 5 253 (dk_at dksL_law_66 18 rfl rfl)
theorem dL_law_1730 : decode cL_law 1730 = .ok (.aload_n 1, 1) := dk_43 (dk_at dksL_law_66 21 rfl rfl)
theorem dL_law_1731 : decode cL_law 1731 = .ok (.aload_n 0, 1) := dk_42 (dk_at dksL_law_66 22 rfl rfl)
theorem dL_law_1732 : decode cL_law 1732 = .ok (.iload 4, 2) := dk_21 4 (dk_at dksL_law_67 0 rfl rfl)
theorem dL_law_1734 : decode cL_law 1734 = .ok (.iconst 1, 1) := dk_4 (dk_at dksL_law_67 2 rfl rfl)
theorem dL_law_1735 : decode cL_law 1735 = .ok (.iadd, 1) := dk_96 (dk_at dksL_law_67 3 rfl rfl)
theorem dL_law_1736 : decode cL_law 1736 = .ok (.iaload, 1) := dk_46 (dk_at dksL_law_67 4 rfl rfl)
theorem dL_law_1737 : decode cL_law 1737 = .ok (.aload_n 0, 1) := dk_42 (dk_at dksL_law_67 5 rfl rfl)
theorem dL_law_1738 : decode cL_law 1738 = .ok (.iload 4, 2) := dk_21 4 (dk_at dksL_law_67 6 rfl rfl)
theorem dL_law_1740 : decode cL_law 1740 = .ok (.iconst 2, 1) := dk_5 (dk_at dksL_law_67 8 rfl rfl)
theorem dL_law_1741 : decode cL_law 1741 = .ok (.iadd, 1) := dk_96 (dk_at dksL_law_67 9 rfl rfl)
theorem dL_law_1742 : decode cL_law 1742 = .ok (.iaload, 1) := dk_46 (dk_at dksL_law_67 10 rfl rfl)
theorem dL_law_1743 : decode cL_law 1743 = .ok (.aload_n 0, 1) := dk_42 (dk_at dksL_law_67 11 rfl rfl)
theorem dL_law_1744 : decode cL_law 1744 = .ok (.iload 4, 2) := dk_21 4 (dk_at dksL_law_67 12 rfl rfl)
theorem dL_law_1746 : decode cL_law 1746 = .ok (.iconst 3, 1) := dk_6 (dk_at dksL_law_67 14 rfl rfl)
theorem dL_law_1747 : decode cL_law 1747 = .ok (.iadd, 1) := dk_96 (dk_at dksL_law_67 15 rfl rfl)
theorem dL_law_1748 : decode cL_law 1748 = .ok (.iaload, 1) := dk_46 (dk_at dksL_law_67 16 rfl rfl)
theorem dL_law_1749 : decode cL_law 1749 = .ok (.aload_n 0, 1) := dk_42 (dk_at dksL_law_67 17 rfl rfl)
theorem dL_law_1750 : decode cL_law 1750 = .ok (.iload 4, 2) := dk_21 4 (dk_at dksL_law_67 18 rfl rfl)
theorem dL_law_1752 : decode cL_law 1752 = .ok (.iconst 4, 1) := dk_7 (dk_at dksL_law_67 20 rfl rfl)
theorem dL_law_1753 : decode cL_law 1753 = .ok (.iadd, 1) := dk_96 (dk_at dksL_law_67 21 rfl rfl)
theorem dL_law_1754 : decode cL_law 1754 = .ok (.iaload, 1) := dk_46 (dk_at dksL_law_67 22 rfl rfl)
theorem dL_law_1755 : decode cL_law 1755 = .ok (.aload_n 3, 1) := dk_45 (dk_at dksL_law_67 23 rfl rfl)
theorem dL_law_1756 : decode cL_law 1756 = .ok (.invokestatic 220, 3) := dk_184 0 220 (dk_at dksL_law_68 0 rfl rfl)
theorem dL_law_1759 : decode cL_law 1759 = .ok (.istore 5, 2) := dk_54 5 (dk_at dksL_law_68 3 rfl rfl)
theorem dL_law_1761 : decode cL_law 1761 = .ok (.aload_n 2, 1) := dk_44 (dk_at dksL_law_68 5 rfl rfl)
theorem dL_law_1762 : decode cL_law 1762 = .ok (.aload_n 0, 1) := dk_42 (dk_at dksL_law_68 6 rfl rfl)
theorem dL_law_1763 : decode cL_law 1763 = .ok (.iload 4, 2) := dk_21 4 (dk_at dksL_law_68 7 rfl rfl)
theorem dL_law_1765 : decode cL_law 1765 = .ok (.iconst 1, 1) := dk_4 (dk_at dksL_law_68 9 rfl rfl)
theorem dL_law_1766 : decode cL_law 1766 = .ok (.iadd, 1) := dk_96 (dk_at dksL_law_68 10 rfl rfl)
theorem dL_law_1767 : decode cL_law 1767 = .ok (.iaload, 1) := dk_46 (dk_at dksL_law_68 11 rfl rfl)
theorem dL_law_1768 : decode cL_law 1768 = .ok (.aload_n 0, 1) := dk_42 (dk_at dksL_law_68 12 rfl rfl)
theorem dL_law_1769 : decode cL_law 1769 = .ok (.iload 4, 2) := dk_21 4 (dk_at dksL_law_68 13 rfl rfl)
theorem dL_law_1771 : decode cL_law 1771 = .ok (.iconst 2, 1) := dk_5 (dk_at dksL_law_68 15 rfl rfl)
theorem dL_law_1772 : decode cL_law 1772 = .ok (.iadd, 1) := dk_96 (dk_at dksL_law_68 16 rfl rfl)
theorem dL_law_1773 : decode cL_law 1773 = .ok (.iaload, 1) := dk_46 (dk_at dksL_law_68 17 rfl rfl)
theorem dL_law_1774 : decode cL_law 1774 = .ok (.aload_n 0, 1) := dk_42 (dk_at dksL_law_68 18 rfl rfl)
theorem dL_law_1775 : decode cL_law 1775 = .ok (.iload 4, 2) := dk_21 4 (dk_at dksL_law_68 19 rfl rfl)
theorem dL_law_1777 : decode cL_law 1777 = .ok (.iconst 3, 1) := dk_6 (dk_at dksL_law_68 21 rfl rfl)
theorem dL_law_1778 : decode cL_law 1778 = .ok (.iadd, 1) := dk_96 (dk_at dksL_law_68 22 rfl rfl)
theorem dL_law_1779 : decode cL_law 1779 = .ok (.iaload, 1) := dk_46 (dk_at dksL_law_68 23 rfl rfl)
theorem dL_law_1780 : decode cL_law 1780 = .ok (.aload_n 0, 1) := dk_42 (dk_at dksL_law_69 0 rfl rfl)
theorem dL_law_1781 : decode cL_law 1781 = .ok (.iload 4, 2) := dk_21 4 (dk_at dksL_law_69 1 rfl rfl)
theorem dL_law_1783 : decode cL_law 1783 = .ok (.iconst 4, 1) := dk_7 (dk_at dksL_law_69 3 rfl rfl)
theorem dL_law_1784 : decode cL_law 1784 = .ok (.iadd, 1) := dk_96 (dk_at dksL_law_69 4 rfl rfl)
theorem dL_law_1785 : decode cL_law 1785 = .ok (.iaload, 1) := dk_46 (dk_at dksL_law_69 5 rfl rfl)
theorem dL_law_1786 : decode cL_law 1786 = .ok (.invokevirtual 222, 3) := dk_182 0 222 (dk_at dksL_law_69 6 rfl rfl)
theorem dL_law_1789 : decode cL_law 1789 = .ok (.istore 6, 2) := dk_54 6 (dk_at dksL_law_69 9 rfl rfl)
theorem dL_law_1791 : decode cL_law 1791 = .ok (.aload_n 2, 1) := dk_44 (dk_at dksL_law_69 11 rfl rfl)
theorem dL_law_1792 : decode cL_law 1792 = .ok (.invokevirtual 157, 3) := dk_182 0 157 (dk_at dksL_law_69 12 rfl rfl)
theorem dL_law_1795 : decode cL_law 1795 = .ok (.iload 5, 2) := dk_21 5 (dk_at dksL_law_69 15 rfl rfl)
theorem dL_law_1797 : decode cL_law 1797 = .ok (.if_icmp .eq 5, 3) := dk_159 0 5 (dk_at dksL_law_69 17 rfl rfl)
theorem dL_law_1800 : decode cL_law 1800 = .ok (.iconst 0, 1) := dk_3 (dk_at dksL_law_69 20 rfl rfl)
theorem dL_law_1801 : decode cL_law 1801 = .ok (.ireturn, 1) := dk_172 (dk_at dksL_law_69 21 rfl rfl)
theorem dL_law_1802 : decode cL_law 1802 = .ok (.iload 5, 2) := dk_21 5 (dk_at dksL_law_69 22 rfl rfl)
theorem dL_law_1804 : decode cL_law 1804 = .ok (.ifCond .ne 15, 3) := dk_154 0 15 (dk_at dksL_law_70 0 rfl rfl)
theorem dL_law_1807 : decode cL_law 1807 = .ok (.aload_n 3, 1) := dk_45 (dk_at dksL_law_70 3 rfl rfl)
theorem dL_law_1808 : decode cL_law 1808 = .ok (.iconst 0, 1) := dk_3 (dk_at dksL_law_70 4 rfl rfl)
theorem dL_law_1809 : decode cL_law 1809 = .ok (.laload, 1) := dk_47 (dk_at dksL_law_70 5 rfl rfl)
theorem dL_law_1810 : decode cL_law 1810 = .ok (.iload 6, 2) := dk_21 6 (dk_at dksL_law_70 6 rfl rfl)
theorem dL_law_1812 : decode cL_law 1812 = .ok (.i2l, 1) := dk_133 (dk_at dksL_law_70 8 rfl rfl)
theorem dL_law_1813 : decode cL_law 1813 = .ok (.lcmp, 1) := dk_148 (dk_at dksL_law_70 9 rfl rfl)
theorem dL_law_1814 : decode cL_law 1814 = .ok (.ifCond .eq 5, 3) := dk_153 0 5 (dk_at dksL_law_70 10 rfl rfl)
theorem dL_law_1817 : decode cL_law 1817 = .ok (.iconst 0, 1) := dk_3 (dk_at dksL_law_70 13 rfl rfl)
theorem dL_law_1818 : decode cL_law 1818 = .ok (.ireturn, 1) := dk_172 (dk_at dksL_law_70 14 rfl rfl)
theorem dL_law_1819 : decode cL_law 1819 = .ok (.goto 1441, 3) := dk_167 5 161 (dk_at dksL_law_70 15 rfl rfl)
theorem dL_law_1822 : decode cL_law 1822 = .ok (.aload_n 1, 1) := dk_43 (dk_at dksL_law_70 18 rfl rfl)
theorem dL_law_1823 : decode cL_law 1823 = .ok (.aload_n 0, 1) := dk_42 (dk_at dksL_law_70 19 rfl rfl)
theorem dL_law_1824 : decode cL_law 1824 = .ok (.iload 4, 2) := dk_21 4 (dk_at dksL_law_70 20 rfl rfl)
theorem dL_law_1826 : decode cL_law 1826 = .ok (.iconst 1, 1) := dk_4 (dk_at dksL_law_70 22 rfl rfl)
theorem dL_law_1827 : decode cL_law 1827 = .ok (.iadd, 1) := dk_96 (dk_at dksL_law_70 23 rfl rfl)
theorem dL_law_1828 : decode cL_law 1828 = .ok (.iaload, 1) := dk_46 (dk_at dksL_law_71 0 rfl rfl)
theorem dL_law_1829 : decode cL_law 1829 = .ok (.aload_n 0, 1) := dk_42 (dk_at dksL_law_71 1 rfl rfl)
theorem dL_law_1830 : decode cL_law 1830 = .ok (.iload 4, 2) := dk_21 4 (dk_at dksL_law_71 2 rfl rfl)
theorem dL_law_1832 : decode cL_law 1832 = .ok (.iconst 2, 1) := dk_5 (dk_at dksL_law_71 4 rfl rfl)
theorem dL_law_1833 : decode cL_law 1833 = .ok (.iadd, 1) := dk_96 (dk_at dksL_law_71 5 rfl rfl)
theorem dL_law_1834 : decode cL_law 1834 = .ok (.iaload, 1) := dk_46 (dk_at dksL_law_71 6 rfl rfl)
theorem dL_law_1835 : decode cL_law 1835 = .ok (.aload_n 0, 1) := dk_42 (dk_at dksL_law_71 7 rfl rfl)
theorem dL_law_1836 : decode cL_law 1836 = .ok (.iload 4, 2) := dk_21 4 (dk_at dksL_law_71 8 rfl rfl)
theorem dL_law_1838 : decode cL_law 1838 = .ok (.iconst 3, 1) := dk_6 (dk_at dksL_law_71 10 rfl rfl)
theorem dL_law_1839 : decode cL_law 1839 = .ok (.iadd, 1) := dk_96 (dk_at dksL_law_71 11 rfl rfl)
theorem dL_law_1840 : decode cL_law 1840 = .ok (.iaload, 1) := dk_46 (dk_at dksL_law_71 12 rfl rfl)
theorem dL_law_1841 : decode cL_law 1841 = .ok (.aload_n 0, 1) := dk_42 (dk_at dksL_law_71 13 rfl rfl)
theorem dL_law_1842 : decode cL_law 1842 = .ok (.iload 4, 2) := dk_21 4 (dk_at dksL_law_71 14 rfl rfl)
theorem dL_law_1844 : decode cL_law 1844 = .ok (.iconst 4, 1) := dk_7 (dk_at dksL_law_71 16 rfl rfl)
theorem dL_law_1845 : decode cL_law 1845 = .ok (.iadd, 1) := dk_96 (dk_at dksL_law_71 17 rfl rfl)
theorem dL_law_1846 : decode cL_law 1846 = .ok (.iaload, 1) := dk_46 (dk_at dksL_law_71 18 rfl rfl)
theorem dL_law_1847 : decode cL_law 1847 = .ok (.aload_n 3, 1) := dk_45 (dk_at dksL_law_71 19 rfl rfl)
theorem dL_law_1848 : decode cL_law 1848 = .ok (.invokestatic 223, 3) := dk_184 0 223 (dk_at dksL_law_71 20 rfl rfl)
theorem dL_law_1851 : decode cL_law 1851 = .ok (.istore 5, 2) := dk_54 5 (dk_at dksL_law_72 0 rfl rfl)
theorem dL_law_1853 : decode cL_law 1853 = .ok (.aload_n 2, 1) := dk_44 (dk_at dksL_law_72 2 rfl rfl)
theorem dL_law_1854 : decode cL_law 1854 = .ok (.aload_n 0, 1) := dk_42 (dk_at dksL_law_72 3 rfl rfl)
theorem dL_law_1855 : decode cL_law 1855 = .ok (.iload 4, 2) := dk_21 4 (dk_at dksL_law_72 4 rfl rfl)
theorem dL_law_1857 : decode cL_law 1857 = .ok (.iconst 1, 1) := dk_4 (dk_at dksL_law_72 6 rfl rfl)
theorem dL_law_1858 : decode cL_law 1858 = .ok (.iadd, 1) := dk_96 (dk_at dksL_law_72 7 rfl rfl)
theorem dL_law_1859 : decode cL_law 1859 = .ok (.iaload, 1) := dk_46 (dk_at dksL_law_72 8 rfl rfl)
theorem dL_law_1860 : decode cL_law 1860 = .ok (.aload_n 0, 1) := dk_42 (dk_at dksL_law_72 9 rfl rfl)
theorem dL_law_1861 : decode cL_law 1861 = .ok (.iload 4, 2) := dk_21 4 (dk_at dksL_law_72 10 rfl rfl)
theorem dL_law_1863 : decode cL_law 1863 = .ok (.iconst 2, 1) := dk_5 (dk_at dksL_law_72 12 rfl rfl)
theorem dL_law_1864 : decode cL_law 1864 = .ok (.iadd, 1) := dk_96 (dk_at dksL_law_72 13 rfl rfl)
theorem dL_law_1865 : decode cL_law 1865 = .ok (.iaload, 1) := dk_46 (dk_at dksL_law_72 14 rfl rfl)
theorem dL_law_1866 : decode cL_law 1866 = .ok (.aload_n 0, 1) := dk_42 (dk_at dksL_law_72 15 rfl rfl)
theorem dL_law_1867 : decode cL_law 1867 = .ok (.iload 4, 2) := dk_21 4 (dk_at dksL_law_72 16 rfl rfl)
theorem dL_law_1869 : decode cL_law 1869 = .ok (.iconst 3, 1) := dk_6 (dk_at dksL_law_72 18 rfl rfl)
theorem dL_law_1870 : decode cL_law 1870 = .ok (.iadd, 1) := dk_96 (dk_at dksL_law_72 19 rfl rfl)
theorem dL_law_1871 : decode cL_law 1871 = .ok (.iaload, 1) := dk_46 (dk_at dksL_law_72 20 rfl rfl)
theorem dL_law_1872 : decode cL_law 1872 = .ok (.aload_n 0, 1) := dk_42 (dk_at dksL_law_72 21 rfl rfl)
theorem dL_law_1873 : decode cL_law 1873 = .ok (.iload 4, 2) := dk_21 4 (dk_at dksL_law_72 22 rfl rfl)
theorem dL_law_1875 : decode cL_law 1875 = .ok (.iconst 4, 1) := dk_7 (dk_at dksL_law_73 0 rfl rfl)
theorem dL_law_1876 : decode cL_law 1876 = .ok (.iadd, 1) := dk_96 (dk_at dksL_law_73 1 rfl rfl)
theorem dL_law_1877 : decode cL_law 1877 = .ok (.iaload, 1) := dk_46 (dk_at dksL_law_73 2 rfl rfl)
theorem dL_law_1878 : decode cL_law 1878 = .ok (.invokevirtual 225, 3) := dk_182 0 225 (dk_at dksL_law_73 3 rfl rfl)
theorem dL_law_1881 : decode cL_law 1881 = .ok (.istore 6, 2) := dk_54 6 (dk_at dksL_law_73 6 rfl rfl)
theorem dL_law_1883 : decode cL_law 1883 = .ok (.aload_n 2, 1) := dk_44 (dk_at dksL_law_73 8 rfl rfl)
theorem dL_law_1884 : decode cL_law 1884 = .ok (.invokevirtual 157, 3) := dk_182 0 157 (dk_at dksL_law_73 9 rfl rfl)
theorem dL_law_1887 : decode cL_law 1887 = .ok (.iload 5, 2) := dk_21 5 (dk_at dksL_law_73 12 rfl rfl)
theorem dL_law_1889 : decode cL_law 1889 = .ok (.if_icmp .eq 5, 3) := dk_159 0 5 (dk_at dksL_law_73 14 rfl rfl)
theorem dL_law_1892 : decode cL_law 1892 = .ok (.iconst 0, 1) := dk_3 (dk_at dksL_law_73 17 rfl rfl)
theorem dL_law_1893 : decode cL_law 1893 = .ok (.ireturn, 1) := dk_172 (dk_at dksL_law_73 18 rfl rfl)
theorem dL_law_1894 : decode cL_law 1894 = .ok (.iload 5, 2) := dk_21 5 (dk_at dksL_law_73 19 rfl rfl)
theorem dL_law_1896 : decode cL_law 1896 = .ok (.ifCond .ne 15, 3) := dk_154 0 15 (dk_at dksL_law_73 21 rfl rfl)
theorem dL_law_1899 : decode cL_law 1899 = .ok (.aload_n 3, 1) := dk_45 (dk_at dksL_law_74 0 rfl rfl)
theorem dL_law_1900 : decode cL_law 1900 = .ok (.iconst 0, 1) := dk_3 (dk_at dksL_law_74 1 rfl rfl)
theorem dL_law_1901 : decode cL_law 1901 = .ok (.laload, 1) := dk_47 (dk_at dksL_law_74 2 rfl rfl)
theorem dL_law_1902 : decode cL_law 1902 = .ok (.iload 6, 2) := dk_21 6 (dk_at dksL_law_74 3 rfl rfl)
theorem dL_law_1904 : decode cL_law 1904 = .ok (.i2l, 1) := dk_133 (dk_at dksL_law_74 5 rfl rfl)
theorem dL_law_1905 : decode cL_law 1905 = .ok (.lcmp, 1) := dk_148 (dk_at dksL_law_74 6 rfl rfl)
theorem dL_law_1906 : decode cL_law 1906 = .ok (.ifCond .eq 5, 3) := dk_153 0 5 (dk_at dksL_law_74 7 rfl rfl)
theorem dL_law_1909 : decode cL_law 1909 = .ok (.iconst 0, 1) := dk_3 (dk_at dksL_law_74 10 rfl rfl)
theorem dL_law_1910 : decode cL_law 1910 = .ok (.ireturn, 1) := dk_172 (dk_at dksL_law_74 11 rfl rfl)
theorem dL_law_1911 : decode cL_law 1911 = .ok (.goto 1349, 3) := dk_167 5 69 (dk_at dksL_law_74 12 rfl rfl)
theorem dL_law_1914 : decode cL_law 1914 = .ok (.aload_n 1, 1) := dk_43 (dk_at dksL_law_74 15 rfl rfl)
theorem dL_law_1915 : decode cL_law 1915 = .ok (.aload_n 0, 1) := dk_42 (dk_at dksL_law_74 16 rfl rfl)
theorem dL_law_1916 : decode cL_law 1916 = .ok (.iload 4, 2) := dk_21 4 (dk_at dksL_law_74 17 rfl rfl)
theorem dL_law_1918 : decode cL_law 1918 = .ok (.iconst 1, 1) := dk_4 (dk_at dksL_law_74 19 rfl rfl)
theorem dL_law_1919 : decode cL_law 1919 = .ok (.iadd, 1) := dk_96 (dk_at dksL_law_74 20 rfl rfl)
theorem dL_law_1920 : decode cL_law 1920 = .ok (.iaload, 1) := dk_46 (dk_at dksL_law_74 21 rfl rfl)
theorem dL_law_1921 : decode cL_law 1921 = .ok (.aload_n 0, 1) := dk_42 (dk_at dksL_law_74 22 rfl rfl)
theorem dL_law_1922 : decode cL_law 1922 = .ok (.iload 4, 2) := dk_21 4 (dk_at dksL_law_75 0 rfl rfl)
theorem dL_law_1924 : decode cL_law 1924 = .ok (.iconst 2, 1) := dk_5 (dk_at dksL_law_75 2 rfl rfl)
theorem dL_law_1925 : decode cL_law 1925 = .ok (.iadd, 1) := dk_96 (dk_at dksL_law_75 3 rfl rfl)
theorem dL_law_1926 : decode cL_law 1926 = .ok (.iaload, 1) := dk_46 (dk_at dksL_law_75 4 rfl rfl)
theorem dL_law_1927 : decode cL_law 1927 = .ok (.aload_n 3, 1) := dk_45 (dk_at dksL_law_75 5 rfl rfl)
theorem dL_law_1928 : decode cL_law 1928 = .ok (.invokestatic 226, 3) := dk_184 0 226 (dk_at dksL_law_75 6 rfl rfl)
theorem dL_law_1931 : decode cL_law 1931 = .ok (.istore 5, 2) := dk_54 5 (dk_at dksL_law_75 9 rfl rfl)
theorem dL_law_1933 : decode cL_law 1933 = .ok (.aload_n 2, 1) := dk_44 (dk_at dksL_law_75 11 rfl rfl)
theorem dL_law_1934 : decode cL_law 1934 = .ok (.aload_n 0, 1) := dk_42 (dk_at dksL_law_75 12 rfl rfl)
theorem dL_law_1935 : decode cL_law 1935 = .ok (.iload 4, 2) := dk_21 4 (dk_at dksL_law_75 13 rfl rfl)
theorem dL_law_1937 : decode cL_law 1937 = .ok (.iconst 1, 1) := dk_4 (dk_at dksL_law_75 15 rfl rfl)
theorem dL_law_1938 : decode cL_law 1938 = .ok (.iadd, 1) := dk_96 (dk_at dksL_law_75 16 rfl rfl)
theorem dL_law_1939 : decode cL_law 1939 = .ok (.iaload, 1) := dk_46 (dk_at dksL_law_75 17 rfl rfl)
theorem dL_law_1940 : decode cL_law 1940 = .ok (.aload_n 0, 1) := dk_42 (dk_at dksL_law_75 18 rfl rfl)
theorem dL_law_1941 : decode cL_law 1941 = .ok (.iload 4, 2) := dk_21 4 (dk_at dksL_law_75 19 rfl rfl)
theorem dL_law_1943 : decode cL_law 1943 = .ok (.iconst 2, 1) := dk_5 (dk_at dksL_law_75 21 rfl rfl)
theorem dL_law_1944 : decode cL_law 1944 = .ok (.iadd, 1) := dk_96 (dk_at dksL_law_75 22 rfl rfl)
theorem dL_law_1945 : decode cL_law 1945 = .ok (.iaload, 1) := dk_46 (dk_at dksL_law_75 23 rfl rfl)
theorem dL_law_1946 : decode cL_law 1946 = .ok (.invokevirtual 228, 3) := dk_182 0 228 (dk_at dksL_law_76 0 rfl rfl)
theorem dL_law_1949 : decode cL_law 1949 = .ok (.istore 6, 2) := dk_54 6 (dk_at dksL_law_76 3 rfl rfl)
theorem dL_law_1951 : decode cL_law 1951 = .ok (.aload_n 2, 1) := dk_44 (dk_at dksL_law_76 5 rfl rfl)
theorem dL_law_1952 : decode cL_law 1952 = .ok (.invokevirtual 157, 3) := dk_182 0 157 (dk_at dksL_law_76 6 rfl rfl)
theorem dL_law_1955 : decode cL_law 1955 = .ok (.iload 5, 2) := dk_21 5 (dk_at dksL_law_76 9 rfl rfl)
theorem dL_law_1957 : decode cL_law 1957 = .ok (.if_icmp .eq 5, 3) := dk_159 0 5 (dk_at dksL_law_76 11 rfl rfl)
theorem dL_law_1960 : decode cL_law 1960 = .ok (.iconst 0, 1) := dk_3 (dk_at dksL_law_76 14 rfl rfl)
theorem dL_law_1961 : decode cL_law 1961 = .ok (.ireturn, 1) := dk_172 (dk_at dksL_law_76 15 rfl rfl)
theorem dL_law_1962 : decode cL_law 1962 = .ok (.iload 5, 2) := dk_21 5 (dk_at dksL_law_76 16 rfl rfl)
theorem dL_law_1964 : decode cL_law 1964 = .ok (.ifCond .ne 15, 3) := dk_154 0 15 (dk_at dksL_law_76 18 rfl rfl)
theorem dL_law_1967 : decode cL_law 1967 = .ok (.aload_n 3, 1) := dk_45 (dk_at dksL_law_76 21 rfl rfl)
theorem dL_law_1968 : decode cL_law 1968 = .ok (.iconst 0, 1) := dk_3 (dk_at dksL_law_76 22 rfl rfl)
theorem dL_law_1969 : decode cL_law 1969 = .ok (.laload, 1) := dk_47 (dk_at dksL_law_76 23 rfl rfl)
theorem dL_law_1970 : decode cL_law 1970 = .ok (.iload 6, 2) := dk_21 6 (dk_at dksL_law_77 0 rfl rfl)
theorem dL_law_1972 : decode cL_law 1972 = .ok (.i2l, 1) := dk_133 (dk_at dksL_law_77 2 rfl rfl)
theorem dL_law_1973 : decode cL_law 1973 = .ok (.lcmp, 1) := dk_148 (dk_at dksL_law_77 3 rfl rfl)
theorem dL_law_1974 : decode cL_law 1974 = .ok (.ifCond .eq 5, 3) := dk_153 0 5 (dk_at dksL_law_77 4 rfl rfl)
theorem dL_law_1977 : decode cL_law 1977 = .ok (.iconst 0, 1) := dk_3 (dk_at dksL_law_77 7 rfl rfl)
theorem dL_law_1978 : decode cL_law 1978 = .ok (.ireturn, 1) := dk_172 (dk_at dksL_law_77 8 rfl rfl)
theorem dL_law_1979 : decode cL_law 1979 = .ok (.goto 1281, 3) := dk_167 5 1 (dk_at dksL_law_77 9 rfl rfl)
theorem dL_law_1982 : decode cL_law 1982 = .ok (.aload_n 1, 1) := dk_43 (dk_at dksL_law_77 12 rfl rfl)
theorem dL_law_1983 : decode cL_law 1983 = .ok (.aload_n 0, 1) := dk_42 (dk_at dksL_law_77 13 rfl rfl)
theorem dL_law_1984 : decode cL_law 1984 = .ok (.iload 4, 2) := dk_21 4 (dk_at dksL_law_77 14 rfl rfl)
theorem dL_law_1986 : decode cL_law 1986 = .ok (.iconst 1, 1) := dk_4 (dk_at dksL_law_77 16 rfl rfl)
theorem dL_law_1987 : decode cL_law 1987 = .ok (.iadd, 1) := dk_96 (dk_at dksL_law_77 17 rfl rfl)
theorem dL_law_1988 : decode cL_law 1988 = .ok (.iaload, 1) := dk_46 (dk_at dksL_law_77 18 rfl rfl)
theorem dL_law_1989 : decode cL_law 1989 = .ok (.aload_n 0, 1) := dk_42 (dk_at dksL_law_77 19 rfl rfl)
theorem dL_law_1990 : decode cL_law 1990 = .ok (.iload 4, 2) := dk_21 4 (dk_at dksL_law_77 20 rfl rfl)
theorem dL_law_1992 : decode cL_law 1992 = .ok (.iconst 2, 1) := dk_5 (dk_at dksL_law_77 22 rfl rfl)
theorem dL_law_1993 : decode cL_law 1993 = .ok (.iadd, 1) := dk_96 (dk_at dksL_law_77 23 rfl rfl)
theorem dL_law_1994 : decode cL_law 1994 = .ok (.iaload, 1) := dk_46 (dk_at dksL_law_78 0 rfl rfl)
theorem dL_law_1995 : decode cL_law 1995 = .ok (.aload_n 3, 1) := dk_45 (dk_at dksL_law_78 1 rfl rfl)
theorem dL_law_1996 : decode cL_law 1996 = .ok (.invokestatic 229, 3) := dk_184 0 229 (dk_at dksL_law_78 2 rfl rfl)
theorem dL_law_1999 : decode cL_law 1999 = .ok (.istore 5, 2) := dk_54 5 (dk_at dksL_law_78 5 rfl rfl)
theorem dL_law_2001 : decode cL_law 2001 = .ok (.aload_n 2, 1) := dk_44 (dk_at dksL_law_78 7 rfl rfl)
theorem dL_law_2002 : decode cL_law 2002 = .ok (.aload_n 0, 1) := dk_42 (dk_at dksL_law_78 8 rfl rfl)
theorem dL_law_2003 : decode cL_law 2003 = .ok (.iload 4, 2) := dk_21 4 (dk_at dksL_law_78 9 rfl rfl)
theorem dL_law_2005 : decode cL_law 2005 = .ok (.iconst 1, 1) := dk_4 (dk_at dksL_law_78 11 rfl rfl)
theorem dL_law_2006 : decode cL_law 2006 = .ok (.iadd, 1) := dk_96 (dk_at dksL_law_78 12 rfl rfl)
theorem dL_law_2007 : decode cL_law 2007 = .ok (.iaload, 1) := dk_46 (dk_at dksL_law_78 13 rfl rfl)
theorem dL_law_2008 : decode cL_law 2008 = .ok (.aload_n 0, 1) := dk_42 (dk_at dksL_law_78 14 rfl rfl)
theorem dL_law_2009 : decode cL_law 2009 = .ok (.iload 4, 2) := dk_21 4 (dk_at dksL_law_78 15 rfl rfl)
theorem dL_law_2011 : decode cL_law 2011 = .ok (.iconst 2, 1) := dk_5 (dk_at dksL_law_78 17 rfl rfl)
theorem dL_law_2012 : decode cL_law 2012 = .ok (.iadd, 1) := dk_96 (dk_at dksL_law_78 18 rfl rfl)
theorem dL_law_2013 : decode cL_law 2013 = .ok (.iaload, 1) := dk_46 (dk_at dksL_law_78 19 rfl rfl)
theorem dL_law_2014 : decode cL_law 2014 = .ok (.invokevirtual 231, 3) := dk_182 0 231 (dk_at dksL_law_78 20 rfl rfl)
theorem dL_law_2017 : decode cL_law 2017 = .ok (.istore 6, 2) := dk_54 6 (dk_at dksL_law_79 0 rfl rfl)
theorem dL_law_2019 : decode cL_law 2019 = .ok (.aload_n 2, 1) := dk_44 (dk_at dksL_law_79 2 rfl rfl)
theorem dL_law_2020 : decode cL_law 2020 = .ok (.invokevirtual 157, 3) := dk_182 0 157 (dk_at dksL_law_79 3 rfl rfl)
theorem dL_law_2023 : decode cL_law 2023 = .ok (.iload 5, 2) := dk_21 5 (dk_at dksL_law_79 6 rfl rfl)
theorem dL_law_2025 : decode cL_law 2025 = .ok (.if_icmp .eq 5, 3) := dk_159 0 5 (dk_at dksL_law_79 8 rfl rfl)
theorem dL_law_2028 : decode cL_law 2028 = .ok (.iconst 0, 1) := dk_3 (dk_at dksL_law_79 11 rfl rfl)
theorem dL_law_2029 : decode cL_law 2029 = .ok (.ireturn, 1) := dk_172 (dk_at dksL_law_79 12 rfl rfl)
theorem dL_law_2030 : decode cL_law 2030 = .ok (.iload 5, 2) := dk_21 5 (dk_at dksL_law_79 13 rfl rfl)
theorem dL_law_2032 : decode cL_law 2032 = .ok (.ifCond .ne 15, 3) := dk_154 0 15 (dk_at dksL_law_79 15 rfl rfl)
theorem dL_law_2035 : decode cL_law 2035 = .ok (.aload_n 3, 1) := dk_45 (dk_at dksL_law_79 18 rfl rfl)
theorem dL_law_2036 : decode cL_law 2036 = .ok (.iconst 0, 1) := dk_3 (dk_at dksL_law_79 19 rfl rfl)
theorem dL_law_2037 : decode cL_law 2037 = .ok (.laload, 1) := dk_47 (dk_at dksL_law_79 20 rfl rfl)
theorem dL_law_2038 : decode cL_law 2038 = .ok (.iload 6, 2) := dk_21 6 (dk_at dksL_law_79 21 rfl rfl)
theorem dL_law_2040 : decode cL_law 2040 = .ok (.i2l, 1) := dk_133 (dk_at dksL_law_79 23 rfl rfl)
theorem dL_law_2041 : decode cL_law 2041 = .ok (.lcmp, 1) := dk_148 (dk_at dksL_law_80 0 rfl rfl)
theorem dL_law_2042 : decode cL_law 2042 = .ok (.ifCond .eq 5, 3) := dk_153 0 5 (dk_at dksL_law_80 1 rfl rfl)
theorem dL_law_2045 : decode cL_law 2045 = .ok (.iconst 0, 1) := dk_3 (dk_at dksL_law_80 4 rfl rfl)
theorem dL_law_2046 : decode cL_law 2046 = .ok (.ireturn, 1) := dk_172 (dk_at dksL_law_80 5 rfl rfl)
theorem dL_law_2047 : decode cL_law 2047 = .ok (.goto 1213, 3) := dk_167 4 189 (dk_at dksL_law_80 6 rfl rfl)
theorem dL_law_2050 : decode cL_law 2050 = .ok (.aload_n 1, 1) := dk_43 (dk_at dksL_law_80 9 rfl rfl)
theorem dL_law_2051 : decode cL_law 2051 = .ok (.aload_n 0, 1) := dk_42 (dk_at dksL_law_80 10 rfl rfl)
theorem dL_law_2052 : decode cL_law 2052 = .ok (.iload 4, 2) := dk_21 4 (dk_at dksL_law_80 11 rfl rfl)
theorem dL_law_2054 : decode cL_law 2054 = .ok (.iconst 1, 1) := dk_4 (dk_at dksL_law_80 13 rfl rfl)
theorem dL_law_2055 : decode cL_law 2055 = .ok (.iadd, 1) := dk_96 (dk_at dksL_law_80 14 rfl rfl)
theorem dL_law_2056 : decode cL_law 2056 = .ok (.iaload, 1) := dk_46 (dk_at dksL_law_80 15 rfl rfl)
theorem dL_law_2057 : decode cL_law 2057 = .ok (.aload_n 0, 1) := dk_42 (dk_at dksL_law_80 16 rfl rfl)
theorem dL_law_2058 : decode cL_law 2058 = .ok (.iload 4, 2) := dk_21 4 (dk_at dksL_law_80 17 rfl rfl)
theorem dL_law_2060 : decode cL_law 2060 = .ok (.iconst 2, 1) := dk_5 (dk_at dksL_law_80 19 rfl rfl)
theorem dL_law_2061 : decode cL_law 2061 = .ok (.iadd, 1) := dk_96 (dk_at dksL_law_80 20 rfl rfl)
theorem dL_law_2062 : decode cL_law 2062 = .ok (.iaload, 1) := dk_46 (dk_at dksL_law_80 21 rfl rfl)
theorem dL_law_2063 : decode cL_law 2063 = .ok (.aload_n 3, 1) := dk_45 (dk_at dksL_law_80 22 rfl rfl)
theorem dL_law_2064 : decode cL_law 2064 = .ok (.invokestatic 232, 3) := dk_184 0 232 (dk_at dksL_law_81 0 rfl rfl)
theorem dL_law_2067 : decode cL_law 2067 = .ok (.istore 5, 2) := dk_54 5 (dk_at dksL_law_81 3 rfl rfl)
theorem dL_law_2069 : decode cL_law 2069 = .ok (.aload_n 2, 1) := dk_44 (dk_at dksL_law_81 5 rfl rfl)
theorem dL_law_2070 : decode cL_law 2070 = .ok (.aload_n 0, 1) := dk_42 (dk_at dksL_law_81 6 rfl rfl)
theorem dL_law_2071 : decode cL_law 2071 = .ok (.iload 4, 2) := dk_21 4 (dk_at dksL_law_81 7 rfl rfl)
theorem dL_law_2073 : decode cL_law 2073 = .ok (.iconst 1, 1) := dk_4 (dk_at dksL_law_81 9 rfl rfl)
theorem dL_law_2074 : decode cL_law 2074 = .ok (.iadd, 1) := dk_96 (dk_at dksL_law_81 10 rfl rfl)
theorem dL_law_2075 : decode cL_law 2075 = .ok (.iaload, 1) := dk_46 (dk_at dksL_law_81 11 rfl rfl)
theorem dL_law_2076 : decode cL_law 2076 = .ok (.aload_n 0, 1) := dk_42 (dk_at dksL_law_81 12 rfl rfl)
theorem dL_law_2077 : decode cL_law 2077 = .ok (.iload 4, 2) := dk_21 4 (dk_at dksL_law_81 13 rfl rfl)
theorem dL_law_2079 : decode cL_law 2079 = .ok (.iconst 2, 1) := dk_5 (dk_at dksL_law_81 15 rfl rfl)
theorem dL_law_2080 : decode cL_law 2080 = .ok (.iadd, 1) := dk_96 (dk_at dksL_law_81 16 rfl rfl)
theorem dL_law_2081 : decode cL_law 2081 = .ok (.iaload, 1) := dk_46 (dk_at dksL_law_81 17 rfl rfl)
theorem dL_law_2082 : decode cL_law 2082 = .ok (.invokevirtual 234, 3) := dk_182 0 234 (dk_at dksL_law_81 18 rfl rfl)
theorem dL_law_2085 : decode cL_law 2085 = .ok (.istore 6, 2) := dk_54 6 (dk_at dksL_law_81 21 rfl rfl)
theorem dL_law_2087 : decode cL_law 2087 = .ok (.aload_n 2, 1) := dk_44 (dk_at dksL_law_81 23 rfl rfl)
theorem dL_law_2088 : decode cL_law 2088 = .ok (.invokevirtual 157, 3) := dk_182 0 157 (dk_at dksL_law_82 0 rfl rfl)
theorem dL_law_2091 : decode cL_law 2091 = .ok (.iload 5, 2) := dk_21 5 (dk_at dksL_law_82 3 rfl rfl)
theorem dL_law_2093 : decode cL_law 2093 = .ok (.if_icmp .eq 5, 3) := dk_159 0 5 (dk_at dksL_law_82 5 rfl rfl)
theorem dL_law_2096 : decode cL_law 2096 = .ok (.iconst 0, 1) := dk_3 (dk_at dksL_law_82 8 rfl rfl)
theorem dL_law_2097 : decode cL_law 2097 = .ok (.ireturn, 1) := dk_172 (dk_at dksL_law_82 9 rfl rfl)
theorem dL_law_2098 : decode cL_law 2098 = .ok (.iload 5, 2) := dk_21 5 (dk_at dksL_law_82 10 rfl rfl)
theorem dL_law_2100 : decode cL_law 2100 = .ok (.ifCond .ne 15, 3) := dk_154 0 15 (dk_at dksL_law_82 12 rfl rfl)
theorem dL_law_2103 : decode cL_law 2103 = .ok (.aload_n 3, 1) := dk_45 (dk_at dksL_law_82 15 rfl rfl)
theorem dL_law_2104 : decode cL_law 2104 = .ok (.iconst 0, 1) := dk_3 (dk_at dksL_law_82 16 rfl rfl)
theorem dL_law_2105 : decode cL_law 2105 = .ok (.laload, 1) := dk_47 (dk_at dksL_law_82 17 rfl rfl)
theorem dL_law_2106 : decode cL_law 2106 = .ok (.iload 6, 2) := dk_21 6 (dk_at dksL_law_82 18 rfl rfl)
theorem dL_law_2108 : decode cL_law 2108 = .ok (.i2l, 1) := dk_133 (dk_at dksL_law_82 20 rfl rfl)
theorem dL_law_2109 : decode cL_law 2109 = .ok (.lcmp, 1) := dk_148 (dk_at dksL_law_82 21 rfl rfl)
theorem dL_law_2110 : decode cL_law 2110 = .ok (.ifCond .eq 5, 3) := dk_153 0 5 (dk_at dksL_law_83 0 rfl rfl)
theorem dL_law_2113 : decode cL_law 2113 = .ok (.iconst 0, 1) := dk_3 (dk_at dksL_law_83 3 rfl rfl)
theorem dL_law_2114 : decode cL_law 2114 = .ok (.ireturn, 1) := dk_172 (dk_at dksL_law_83 4 rfl rfl)
theorem dL_law_2115 : decode cL_law 2115 = .ok (.goto 1145, 3) := dk_167 4 121 (dk_at dksL_law_83 5 rfl rfl)
theorem dL_law_2118 : decode cL_law 2118 = .ok (.aload_n 1, 1) := dk_43 (dk_at dksL_law_83 8 rfl rfl)
theorem dL_law_2119 : decode cL_law 2119 = .ok (.aload_n 0, 1) := dk_42 (dk_at dksL_law_83 9 rfl rfl)
theorem dL_law_2120 : decode cL_law 2120 = .ok (.iload 4, 2) := dk_21 4 (dk_at dksL_law_83 10 rfl rfl)
theorem dL_law_2122 : decode cL_law 2122 = .ok (.iconst 1, 1) := dk_4 (dk_at dksL_law_83 12 rfl rfl)
theorem dL_law_2123 : decode cL_law 2123 = .ok (.iadd, 1) := dk_96 (dk_at dksL_law_83 13 rfl rfl)
theorem dL_law_2124 : decode cL_law 2124 = .ok (.iaload, 1) := dk_46 (dk_at dksL_law_83 14 rfl rfl)
theorem dL_law_2125 : decode cL_law 2125 = .ok (.aload_n 0, 1) := dk_42 (dk_at dksL_law_83 15 rfl rfl)
theorem dL_law_2126 : decode cL_law 2126 = .ok (.iload 4, 2) := dk_21 4 (dk_at dksL_law_83 16 rfl rfl)
theorem dL_law_2128 : decode cL_law 2128 = .ok (.iconst 2, 1) := dk_5 (dk_at dksL_law_83 18 rfl rfl)
theorem dL_law_2129 : decode cL_law 2129 = .ok (.iadd, 1) := dk_96 (dk_at dksL_law_83 19 rfl rfl)
theorem dL_law_2130 : decode cL_law 2130 = .ok (.iaload, 1) := dk_46 (dk_at dksL_law_83 20 rfl rfl)
theorem dL_law_2131 : decode cL_law 2131 = .ok (.aload_n 3, 1) := dk_45 (dk_at dksL_law_83 21 rfl rfl)
theorem dL_law_2132 : decode cL_law 2132 = .ok (.invokestatic 235, 3) := dk_184 0 235 (dk_at dksL_law_84 0 rfl rfl)
theorem dL_law_2135 : decode cL_law 2135 = .ok (.istore 5, 2) := dk_54 5 (dk_at dksL_law_84 3 rfl rfl)
theorem dL_law_2137 : decode cL_law 2137 = .ok (.aload_n 2, 1) := dk_44 (dk_at dksL_law_84 5 rfl rfl)
theorem dL_law_2138 : decode cL_law 2138 = .ok (.aload_n 0, 1) := dk_42 (dk_at dksL_law_84 6 rfl rfl)
theorem dL_law_2139 : decode cL_law 2139 = .ok (.iload 4, 2) := dk_21 4 (dk_at dksL_law_84 7 rfl rfl)
theorem dL_law_2141 : decode cL_law 2141 = .ok (.iconst 1, 1) := dk_4 (dk_at dksL_law_84 9 rfl rfl)
theorem dL_law_2142 : decode cL_law 2142 = .ok (.iadd, 1) := dk_96 (dk_at dksL_law_84 10 rfl rfl)
theorem dL_law_2143 : decode cL_law 2143 = .ok (.iaload, 1) := dk_46 (dk_at dksL_law_84 11 rfl rfl)
theorem dL_law_2144 : decode cL_law 2144 = .ok (.aload_n 0, 1) := dk_42 (dk_at dksL_law_84 12 rfl rfl)
theorem dL_law_2145 : decode cL_law 2145 = .ok (.iload 4, 2) := dk_21 4 (dk_at dksL_law_84 13 rfl rfl)
theorem dL_law_2147 : decode cL_law 2147 = .ok (.iconst 2, 1) := dk_5 (dk_at dksL_law_84 15 rfl rfl)
theorem dL_law_2148 : decode cL_law 2148 = .ok (.iadd, 1) := dk_96 (dk_at dksL_law_84 16 rfl rfl)
theorem dL_law_2149 : decode cL_law 2149 = .ok (.iaload, 1) := dk_46 (dk_at dksL_law_84 17 rfl rfl)
theorem dL_law_2150 : decode cL_law 2150 = .ok (.invokevirtual 237, 3) := dk_182 0 237 (dk_at dksL_law_84 18 rfl rfl)
theorem dL_law_2153 : decode cL_law 2153 = .ok (.istore 6, 2) := dk_54 6 (dk_at dksL_law_84 21 rfl rfl)
theorem dL_law_2155 : decode cL_law 2155 = .ok (.aload_n 2, 1) := dk_44 (dk_at dksL_law_84 23 rfl rfl)
theorem dL_law_2156 : decode cL_law 2156 = .ok (.invokevirtual 157, 3) := dk_182 0 157 (dk_at dksL_law_85 0 rfl rfl)
theorem dL_law_2159 : decode cL_law 2159 = .ok (.iload 5, 2) := dk_21 5 (dk_at dksL_law_85 3 rfl rfl)
theorem dL_law_2161 : decode cL_law 2161 = .ok (.if_icmp .eq 5, 3) := dk_159 0 5 (dk_at dksL_law_85 5 rfl rfl)
theorem dL_law_2164 : decode cL_law 2164 = .ok (.iconst 0, 1) := dk_3 (dk_at dksL_law_85 8 rfl rfl)
theorem dL_law_2165 : decode cL_law 2165 = .ok (.ireturn, 1) := dk_172 (dk_at dksL_law_85 9 rfl rfl)
theorem dL_law_2166 : decode cL_law 2166 = .ok (.iload 5, 2) := dk_21 5 (dk_at dksL_law_85 10 rfl rfl)
theorem dL_law_2168 : decode cL_law 2168 = .ok (.ifCond .ne 15, 3) := dk_154 0 15 (dk_at dksL_law_85 12 rfl rfl)
theorem dL_law_2171 : decode cL_law 2171 = .ok (.aload_n 3, 1) := dk_45 (dk_at dksL_law_85 15 rfl rfl)
theorem dL_law_2172 : decode cL_law 2172 = .ok (.iconst 0, 1) := dk_3 (dk_at dksL_law_85 16 rfl rfl)
theorem dL_law_2173 : decode cL_law 2173 = .ok (.laload, 1) := dk_47 (dk_at dksL_law_85 17 rfl rfl)
theorem dL_law_2174 : decode cL_law 2174 = .ok (.iload 6, 2) := dk_21 6 (dk_at dksL_law_85 18 rfl rfl)
theorem dL_law_2176 : decode cL_law 2176 = .ok (.i2l, 1) := dk_133 (dk_at dksL_law_85 20 rfl rfl)
theorem dL_law_2177 : decode cL_law 2177 = .ok (.lcmp, 1) := dk_148 (dk_at dksL_law_85 21 rfl rfl)
theorem dL_law_2178 : decode cL_law 2178 = .ok (.ifCond .eq 5, 3) := dk_153 0 5 (dk_at dksL_law_86 0 rfl rfl)
theorem dL_law_2181 : decode cL_law 2181 = .ok (.iconst 0, 1) := dk_3 (dk_at dksL_law_86 3 rfl rfl)
theorem dL_law_2182 : decode cL_law 2182 = .ok (.ireturn, 1) := dk_172 (dk_at dksL_law_86 4 rfl rfl)
theorem dL_law_2183 : decode cL_law 2183 = .ok (.goto 1077, 3) := dk_167 4 53 (dk_at dksL_law_86 5 rfl rfl)
theorem dL_law_2186 : decode cL_law 2186 = .ok (.aload_n 1, 1) := dk_43 (dk_at dksL_law_86 8 rfl rfl)
theorem dL_law_2187 : decode cL_law 2187 = .ok (.aload_n 0, 1) := dk_42 (dk_at dksL_law_86 9 rfl rfl)
theorem dL_law_2188 : decode cL_law 2188 = .ok (.iload 4, 2) := dk_21 4 (dk_at dksL_law_86 10 rfl rfl)
theorem dL_law_2190 : decode cL_law 2190 = .ok (.iconst 1, 1) := dk_4 (dk_at dksL_law_86 12 rfl rfl)
theorem dL_law_2191 : decode cL_law 2191 = .ok (.iadd, 1) := dk_96 (dk_at dksL_law_86 13 rfl rfl)
theorem dL_law_2192 : decode cL_law 2192 = .ok (.iaload, 1) := dk_46 (dk_at dksL_law_86 14 rfl rfl)
theorem dL_law_2193 : decode cL_law 2193 = .ok (.aload_n 0, 1) := dk_42 (dk_at dksL_law_86 15 rfl rfl)
theorem dL_law_2194 : decode cL_law 2194 = .ok (.iload 4, 2) := dk_21 4 (dk_at dksL_law_86 16 rfl rfl)
theorem dL_law_2196 : decode cL_law 2196 = .ok (.iconst 2, 1) := dk_5 (dk_at dksL_law_86 18 rfl rfl)
theorem dL_law_2197 : decode cL_law 2197 = .ok (.iadd, 1) := dk_96 (dk_at dksL_law_86 19 rfl rfl)
theorem dL_law_2198 : decode cL_law 2198 = .ok (.iaload, 1) := dk_46 (dk_at dksL_law_86 20 rfl rfl)
theorem dL_law_2199 : decode cL_law 2199 = .ok (.aload_n 3, 1) := dk_45 (dk_at dksL_law_86 21 rfl rfl)
theorem dL_law_2200 : decode cL_law 2200 = .ok (.invokestatic 238, 3) := dk_184 0 238 (dk_at dksL_law_87 0 rfl rfl)
theorem dL_law_2203 : decode cL_law 2203 = .ok (.istore 5, 2) := dk_54 5 (dk_at dksL_law_87 3 rfl rfl)
theorem dL_law_2205 : decode cL_law 2205 = .ok (.aload_n 2, 1) := dk_44 (dk_at dksL_law_87 5 rfl rfl)
theorem dL_law_2206 : decode cL_law 2206 = .ok (.aload_n 0, 1) := dk_42 (dk_at dksL_law_87 6 rfl rfl)
theorem dL_law_2207 : decode cL_law 2207 = .ok (.iload 4, 2) := dk_21 4 (dk_at dksL_law_87 7 rfl rfl)
theorem dL_law_2209 : decode cL_law 2209 = .ok (.iconst 1, 1) := dk_4 (dk_at dksL_law_87 9 rfl rfl)
theorem dL_law_2210 : decode cL_law 2210 = .ok (.iadd, 1) := dk_96 (dk_at dksL_law_87 10 rfl rfl)
theorem dL_law_2211 : decode cL_law 2211 = .ok (.iaload, 1) := dk_46 (dk_at dksL_law_87 11 rfl rfl)
theorem dL_law_2212 : decode cL_law 2212 = .ok (.aload_n 0, 1) := dk_42 (dk_at dksL_law_87 12 rfl rfl)
theorem dL_law_2213 : decode cL_law 2213 = .ok (.iload 4, 2) := dk_21 4 (dk_at dksL_law_87 13 rfl rfl)
theorem dL_law_2215 : decode cL_law 2215 = .ok (.iconst 2, 1) := dk_5 (dk_at dksL_law_87 15 rfl rfl)
theorem dL_law_2216 : decode cL_law 2216 = .ok (.iadd, 1) := dk_96 (dk_at dksL_law_87 16 rfl rfl)
theorem dL_law_2217 : decode cL_law 2217 = .ok (.iaload, 1) := dk_46 (dk_at dksL_law_87 17 rfl rfl)
theorem dL_law_2218 : decode cL_law 2218 = .ok (.invokevirtual 240, 3) := dk_182 0 240 (dk_at dksL_law_87 18 rfl rfl)
theorem dL_law_2221 : decode cL_law 2221 = .ok (.istore 6, 2) := dk_54 6 (dk_at dksL_law_87 21 rfl rfl)
theorem dL_law_2223 : decode cL_law 2223 = .ok (.aload_n 2, 1) := dk_44 (dk_at dksL_law_87 23 rfl rfl)
theorem dL_law_2224 : decode cL_law 2224 = .ok (.invokevirtual 157, 3) := dk_182 0 157 (dk_at dksL_law_88 0 rfl rfl)
theorem dL_law_2227 : decode cL_law 2227 = .ok (.iload 5, 2) := dk_21 5 (dk_at dksL_law_88 3 rfl rfl)
theorem dL_law_2229 : decode cL_law 2229 = .ok (.if_icmp .eq 5, 3) := dk_159 0 5 (dk_at dksL_law_88 5 rfl rfl)
theorem dL_law_2232 : decode cL_law 2232 = .ok (.iconst 0, 1) := dk_3 (dk_at dksL_law_88 8 rfl rfl)
theorem dL_law_2233 : decode cL_law 2233 = .ok (.ireturn, 1) := dk_172 (dk_at dksL_law_88 9 rfl rfl)
theorem dL_law_2234 : decode cL_law 2234 = .ok (.iload 5, 2) := dk_21 5 (dk_at dksL_law_88 10 rfl rfl)
theorem dL_law_2236 : decode cL_law 2236 = .ok (.ifCond .ne 15, 3) := dk_154 0 15 (dk_at dksL_law_88 12 rfl rfl)
theorem dL_law_2239 : decode cL_law 2239 = .ok (.aload_n 3, 1) := dk_45 (dk_at dksL_law_88 15 rfl rfl)
theorem dL_law_2240 : decode cL_law 2240 = .ok (.iconst 0, 1) := dk_3 (dk_at dksL_law_88 16 rfl rfl)
theorem dL_law_2241 : decode cL_law 2241 = .ok (.laload, 1) := dk_47 (dk_at dksL_law_88 17 rfl rfl)
theorem dL_law_2242 : decode cL_law 2242 = .ok (.iload 6, 2) := dk_21 6 (dk_at dksL_law_88 18 rfl rfl)
theorem dL_law_2244 : decode cL_law 2244 = .ok (.i2l, 1) := dk_133 (dk_at dksL_law_88 20 rfl rfl)
theorem dL_law_2245 : decode cL_law 2245 = .ok (.lcmp, 1) := dk_148 (dk_at dksL_law_88 21 rfl rfl)
theorem dL_law_2246 : decode cL_law 2246 = .ok (.ifCond .eq 5, 3) := dk_153 0 5 (dk_at dksL_law_89 0 rfl rfl)
theorem dL_law_2249 : decode cL_law 2249 = .ok (.iconst 0, 1) := dk_3 (dk_at dksL_law_89 3 rfl rfl)
theorem dL_law_2250 : decode cL_law 2250 = .ok (.ireturn, 1) := dk_172 (dk_at dksL_law_89 4 rfl rfl)
theorem dL_law_2251 : decode cL_law 2251 = .ok (.goto 1009, 3) := dk_167 3 241 (dk_at dksL_law_89 5 rfl rfl)
theorem dL_law_2254 : decode cL_law 2254 = .ok (.aload_n 1, 1) := dk_43 (dk_at dksL_law_89 8 rfl rfl)
theorem dL_law_2255 : decode cL_law 2255 = .ok (.aload_n 0, 1) := dk_42 (dk_at dksL_law_89 9 rfl rfl)
theorem dL_law_2256 : decode cL_law 2256 = .ok (.iload 4, 2) := dk_21 4 (dk_at dksL_law_89 10 rfl rfl)
theorem dL_law_2258 : decode cL_law 2258 = .ok (.iconst 1, 1) := dk_4 (dk_at dksL_law_89 12 rfl rfl)
theorem dL_law_2259 : decode cL_law 2259 = .ok (.iadd, 1) := dk_96 (dk_at dksL_law_89 13 rfl rfl)
theorem dL_law_2260 : decode cL_law 2260 = .ok (.iaload, 1) := dk_46 (dk_at dksL_law_89 14 rfl rfl)
theorem dL_law_2261 : decode cL_law 2261 = .ok (.aload_n 0, 1) := dk_42 (dk_at dksL_law_89 15 rfl rfl)
theorem dL_law_2262 : decode cL_law 2262 = .ok (.iload 4, 2) := dk_21 4 (dk_at dksL_law_89 16 rfl rfl)
theorem dL_law_2264 : decode cL_law 2264 = .ok (.iconst 2, 1) := dk_5 (dk_at dksL_law_89 18 rfl rfl)
theorem dL_law_2265 : decode cL_law 2265 = .ok (.iadd, 1) := dk_96 (dk_at dksL_law_89 19 rfl rfl)
theorem dL_law_2266 : decode cL_law 2266 = .ok (.iaload, 1) := dk_46 (dk_at dksL_law_89 20 rfl rfl)
theorem dL_law_2267 : decode cL_law 2267 = .ok (.aload_n 3, 1) := dk_45 (dk_at dksL_law_89 21 rfl rfl)
theorem dL_law_2268 : decode cL_law 2268 = .ok (.invokestatic 241, 3) := dk_184 0 241 (dk_at dksL_law_90 0 rfl rfl)
theorem dL_law_2271 : decode cL_law 2271 = .ok (.istore 5, 2) := dk_54 5 (dk_at dksL_law_90 3 rfl rfl)
theorem dL_law_2273 : decode cL_law 2273 = .ok (.aload_n 2, 1) := dk_44 (dk_at dksL_law_90 5 rfl rfl)
theorem dL_law_2274 : decode cL_law 2274 = .ok (.aload_n 0, 1) := dk_42 (dk_at dksL_law_90 6 rfl rfl)
theorem dL_law_2275 : decode cL_law 2275 = .ok (.iload 4, 2) := dk_21 4 (dk_at dksL_law_90 7 rfl rfl)
theorem dL_law_2277 : decode cL_law 2277 = .ok (.iconst 1, 1) := dk_4 (dk_at dksL_law_90 9 rfl rfl)
theorem dL_law_2278 : decode cL_law 2278 = .ok (.iadd, 1) := dk_96 (dk_at dksL_law_90 10 rfl rfl)
theorem dL_law_2279 : decode cL_law 2279 = .ok (.iaload, 1) := dk_46 (dk_at dksL_law_90 11 rfl rfl)
theorem dL_law_2280 : decode cL_law 2280 = .ok (.aload_n 0, 1) := dk_42 (dk_at dksL_law_90 12 rfl rfl)
theorem dL_law_2281 : decode cL_law 2281 = .ok (.iload 4, 2) := dk_21 4 (dk_at dksL_law_90 13 rfl rfl)
theorem dL_law_2283 : decode cL_law 2283 = .ok (.iconst 2, 1) := dk_5 (dk_at dksL_law_90 15 rfl rfl)
theorem dL_law_2284 : decode cL_law 2284 = .ok (.iadd, 1) := dk_96 (dk_at dksL_law_90 16 rfl rfl)
theorem dL_law_2285 : decode cL_law 2285 = .ok (.iaload, 1) := dk_46 (dk_at dksL_law_90 17 rfl rfl)
theorem dL_law_2286 : decode cL_law 2286 = .ok (.invokevirtual 243, 3) := dk_182 0 243 (dk_at dksL_law_90 18 rfl rfl)
theorem dL_law_2289 : decode cL_law 2289 = .ok (.istore 6, 2) := dk_54 6 (dk_at dksL_law_90 21 rfl rfl)
theorem dL_law_2291 : decode cL_law 2291 = .ok (.aload_n 2, 1) := dk_44 (dk_at dksL_law_90 23 rfl rfl)
theorem dL_law_2292 : decode cL_law 2292 = .ok (.invokevirtual 157, 3) := dk_182 0 157 (dk_at dksL_law_91 0 rfl rfl)
theorem dL_law_2295 : decode cL_law 2295 = .ok (.iload 5, 2) := dk_21 5 (dk_at dksL_law_91 3 rfl rfl)
theorem dL_law_2297 : decode cL_law 2297 = .ok (.if_icmp .eq 5, 3) := dk_159 0 5 (dk_at dksL_law_91 5 rfl rfl)
theorem dL_law_2300 : decode cL_law 2300 = .ok (.iconst 0, 1) := dk_3 (dk_at dksL_law_91 8 rfl rfl)
theorem dL_law_2301 : decode cL_law 2301 = .ok (.ireturn, 1) := dk_172 (dk_at dksL_law_91 9 rfl rfl)
theorem dL_law_2302 : decode cL_law 2302 = .ok (.iload 5, 2) := dk_21 5 (dk_at dksL_law_91 10 rfl rfl)
theorem dL_law_2304 : decode cL_law 2304 = .ok (.ifCond .ne 15, 3) := dk_154 0 15 (dk_at dksL_law_91 12 rfl rfl)
theorem dL_law_2307 : decode cL_law 2307 = .ok (.aload_n 3, 1) := dk_45 (dk_at dksL_law_91 15 rfl rfl)
theorem dL_law_2308 : decode cL_law 2308 = .ok (.iconst 0, 1) := dk_3 (dk_at dksL_law_91 16 rfl rfl)
theorem dL_law_2309 : decode cL_law 2309 = .ok (.laload, 1) := dk_47 (dk_at dksL_law_91 17 rfl rfl)
theorem dL_law_2310 : decode cL_law 2310 = .ok (.iload 6, 2) := dk_21 6 (dk_at dksL_law_91 18 rfl rfl)
theorem dL_law_2312 : decode cL_law 2312 = .ok (.i2l, 1) := dk_133 (dk_at dksL_law_91 20 rfl rfl)
theorem dL_law_2313 : decode cL_law 2313 = .ok (.lcmp, 1) := dk_148 (dk_at dksL_law_91 21 rfl rfl)
theorem dL_law_2314 : decode cL_law 2314 = .ok (.ifCond .eq 5, 3) := dk_153 0 5 (dk_at dksL_law_92 0 rfl rfl)
theorem dL_law_2317 : decode cL_law 2317 = .ok (.iconst 0, 1) := dk_3 (dk_at dksL_law_92 3 rfl rfl)
theorem dL_law_2318 : decode cL_law 2318 = .ok (.ireturn, 1) := dk_172 (dk_at dksL_law_92 4 rfl rfl)
theorem dL_law_2319 : decode cL_law 2319 = .ok (.goto 941, 3) := dk_167 3 173 (dk_at dksL_law_92 5 rfl rfl)
theorem dL_law_2322 : decode cL_law 2322 = .ok (.aload_n 1, 1) := dk_43 (dk_at dksL_law_92 8 rfl rfl)
theorem dL_law_2323 : decode cL_law 2323 = .ok (.aload_n 0, 1) := dk_42 (dk_at dksL_law_92 9 rfl rfl)
theorem dL_law_2324 : decode cL_law 2324 = .ok (.iload 4, 2) := dk_21 4 (dk_at dksL_law_92 10 rfl rfl)
theorem dL_law_2326 : decode cL_law 2326 = .ok (.iconst 1, 1) := dk_4 (dk_at dksL_law_92 12 rfl rfl)
theorem dL_law_2327 : decode cL_law 2327 = .ok (.iadd, 1) := dk_96 (dk_at dksL_law_92 13 rfl rfl)
theorem dL_law_2328 : decode cL_law 2328 = .ok (.iaload, 1) := dk_46 (dk_at dksL_law_92 14 rfl rfl)
theorem dL_law_2329 : decode cL_law 2329 = .ok (.aload_n 0, 1) := dk_42 (dk_at dksL_law_92 15 rfl rfl)
theorem dL_law_2330 : decode cL_law 2330 = .ok (.iload 4, 2) := dk_21 4 (dk_at dksL_law_92 16 rfl rfl)
theorem dL_law_2332 : decode cL_law 2332 = .ok (.iconst 2, 1) := dk_5 (dk_at dksL_law_92 18 rfl rfl)
theorem dL_law_2333 : decode cL_law 2333 = .ok (.iadd, 1) := dk_96 (dk_at dksL_law_92 19 rfl rfl)
theorem dL_law_2334 : decode cL_law 2334 = .ok (.iaload, 1) := dk_46 (dk_at dksL_law_92 20 rfl rfl)
theorem dL_law_2335 : decode cL_law 2335 = .ok (.aload_n 0, 1) := dk_42 (dk_at dksL_law_92 21 rfl rfl)
theorem dL_law_2336 : decode cL_law 2336 = .ok (.iload 4, 2) := dk_21 4 (dk_at dksL_law_92 22 rfl rfl)
theorem dL_law_2338 : decode cL_law 2338 = .ok (.iconst 3, 1) := dk_6 (dk_at dksL_law_93 0 rfl rfl)
theorem dL_law_2339 : decode cL_law 2339 = .ok (.iadd, 1) := dk_96 (dk_at dksL_law_93 1 rfl rfl)
theorem dL_law_2340 : decode cL_law 2340 = .ok (.iaload, 1) := dk_46 (dk_at dksL_law_93 2 rfl rfl)
theorem dL_law_2341 : decode cL_law 2341 = .ok (.aload_n 3, 1) := dk_45 (dk_at dksL_law_93 3 rfl rfl)
theorem dL_law_2342 : decode cL_law 2342 = .ok (.invokestatic 244, 3) := dk_184 0 244 (dk_at dksL_law_93 4 rfl rfl)
theorem dL_law_2345 : decode cL_law 2345 = .ok (.istore 5, 2) := dk_54 5 (dk_at dksL_law_93 7 rfl rfl)
theorem dL_law_2347 : decode cL_law 2347 = .ok (.aload_n 2, 1) := dk_44 (dk_at dksL_law_93 9 rfl rfl)
theorem dL_law_2348 : decode cL_law 2348 = .ok (.aload_n 0, 1) := dk_42 (dk_at dksL_law_93 10 rfl rfl)
theorem dL_law_2349 : decode cL_law 2349 = .ok (.iload 4, 2) := dk_21 4 (dk_at dksL_law_93 11 rfl rfl)
theorem dL_law_2351 : decode cL_law 2351 = .ok (.iconst 1, 1) := dk_4 (dk_at dksL_law_93 13 rfl rfl)
theorem dL_law_2352 : decode cL_law 2352 = .ok (.iadd, 1) := dk_96 (dk_at dksL_law_93 14 rfl rfl)
theorem dL_law_2353 : decode cL_law 2353 = .ok (.iaload, 1) := dk_46 (dk_at dksL_law_93 15 rfl rfl)
theorem dL_law_2354 : decode cL_law 2354 = .ok (.aload_n 0, 1) := dk_42 (dk_at dksL_law_93 16 rfl rfl)
theorem dL_law_2355 : decode cL_law 2355 = .ok (.iload 4, 2) := dk_21 4 (dk_at dksL_law_93 17 rfl rfl)
theorem dL_law_2357 : decode cL_law 2357 = .ok (.iconst 2, 1) := dk_5 (dk_at dksL_law_93 19 rfl rfl)
theorem dL_law_2358 : decode cL_law 2358 = .ok (.iadd, 1) := dk_96 (dk_at dksL_law_93 20 rfl rfl)
theorem dL_law_2359 : decode cL_law 2359 = .ok (.iaload, 1) := dk_46 (dk_at dksL_law_93 21 rfl rfl)
theorem dL_law_2360 : decode cL_law 2360 = .ok (.aload_n 0, 1) := dk_42 (dk_at dksL_law_93 22 rfl rfl)
theorem dL_law_2361 : decode cL_law 2361 = .ok (.iload 4, 2) := dk_21 4 (dk_at dksL_law_94 0 rfl rfl)
theorem dL_law_2363 : decode cL_law 2363 = .ok (.iconst 3, 1) := dk_6 (dk_at dksL_law_94 2 rfl rfl)
theorem dL_law_2364 : decode cL_law 2364 = .ok (.iadd, 1) := dk_96 (dk_at dksL_law_94 3 rfl rfl)
theorem dL_law_2365 : decode cL_law 2365 = .ok (.iaload, 1) := dk_46 (dk_at dksL_law_94 4 rfl rfl)
theorem dL_law_2366 : decode cL_law 2366 = .ok (.invokevirtual 246, 3) := dk_182 0 246 (dk_at dksL_law_94 5 rfl rfl)
theorem dL_law_2369 : decode cL_law 2369 = .ok (.istore 6, 2) := dk_54 6 (dk_at dksL_law_94 8 rfl rfl)
theorem dL_law_2371 : decode cL_law 2371 = .ok (.aload_n 2, 1) := dk_44 (dk_at dksL_law_94 10 rfl rfl)
theorem dL_law_2372 : decode cL_law 2372 = .ok (.invokevirtual 157, 3) := dk_182 0 157 (dk_at dksL_law_94 11 rfl rfl)
theorem dL_law_2375 : decode cL_law 2375 = .ok (.iload 5, 2) := dk_21 5 (dk_at dksL_law_94 14 rfl rfl)
theorem dL_law_2377 : decode cL_law 2377 = .ok (.if_icmp .eq 5, 3) := dk_159 0 5 (dk_at dksL_law_94 16 rfl rfl)
theorem dL_law_2380 : decode cL_law 2380 = .ok (.iconst 0, 1) := dk_3 (dk_at dksL_law_94 19 rfl rfl)
theorem dL_law_2381 : decode cL_law 2381 = .ok (.ireturn, 1) := dk_172 (dk_at dksL_law_94 20 rfl rfl)
theorem dL_law_2382 : decode cL_law 2382 = .ok (.iload 5, 2) := dk_21 5 (dk_at dksL_law_94 21 rfl rfl)
theorem dL_law_2384 : decode cL_law 2384 = .ok (.ifCond .ne 15, 3) := dk_154 0 15 (dk_at dksL_law_95 0 rfl rfl)
theorem dL_law_2387 : decode cL_law 2387 = .ok (.aload_n 3, 1) := dk_45 (dk_at dksL_law_95 3 rfl rfl)
theorem dL_law_2388 : decode cL_law 2388 = .ok (.iconst 0, 1) := dk_3 (dk_at dksL_law_95 4 rfl rfl)
theorem dL_law_2389 : decode cL_law 2389 = .ok (.laload, 1) := dk_47 (dk_at dksL_law_95 5 rfl rfl)
theorem dL_law_2390 : decode cL_law 2390 = .ok (.iload 6, 2) := dk_21 6 (dk_at dksL_law_95 6 rfl rfl)
theorem dL_law_2392 : decode cL_law 2392 = .ok (.i2l, 1) := dk_133 (dk_at dksL_law_95 8 rfl rfl)
theorem dL_law_2393 : decode cL_law 2393 = .ok (.lcmp, 1) := dk_148 (dk_at dksL_law_95 9 rfl rfl)
theorem dL_law_2394 : decode cL_law 2394 = .ok (.ifCond .eq 5, 3) := dk_153 0 5 (dk_at dksL_law_95 10 rfl rfl)
theorem dL_law_2397 : decode cL_law 2397 = .ok (.iconst 0, 1) := dk_3 (dk_at dksL_law_95 13 rfl rfl)
theorem dL_law_2398 : decode cL_law 2398 = .ok (.ireturn, 1) := dk_172 (dk_at dksL_law_95 14 rfl rfl)
theorem dL_law_2399 : decode cL_law 2399 = .ok (.goto 861, 3) := dk_167 3 93 (dk_at dksL_law_95 15 rfl rfl)
theorem dL_law_2402 : decode cL_law 2402 = .ok (.aload_n 1, 1) := dk_43 (dk_at dksL_law_95 18 rfl rfl)
theorem dL_law_2403 : decode cL_law 2403 = .ok (.aload_n 0, 1) := dk_42 (dk_at dksL_law_95 19 rfl rfl)
theorem dL_law_2404 : decode cL_law 2404 = .ok (.iload 4, 2) := dk_21 4 (dk_at dksL_law_95 20 rfl rfl)
theorem dL_law_2406 : decode cL_law 2406 = .ok (.iconst 1, 1) := dk_4 (dk_at dksL_law_95 22 rfl rfl)
theorem dL_law_2407 : decode cL_law 2407 = .ok (.iadd, 1) := dk_96 (dk_at dksL_law_95 23 rfl rfl)
theorem dL_law_2408 : decode cL_law 2408 = .ok (.iaload, 1) := dk_46 (dk_at dksL_law_96 0 rfl rfl)
theorem dL_law_2409 : decode cL_law 2409 = .ok (.aload_n 0, 1) := dk_42 (dk_at dksL_law_96 1 rfl rfl)
theorem dL_law_2410 : decode cL_law 2410 = .ok (.iload 4, 2) := dk_21 4 (dk_at dksL_law_96 2 rfl rfl)
theorem dL_law_2412 : decode cL_law 2412 = .ok (.iconst 2, 1) := dk_5 (dk_at dksL_law_96 4 rfl rfl)
theorem dL_law_2413 : decode cL_law 2413 = .ok (.iadd, 1) := dk_96 (dk_at dksL_law_96 5 rfl rfl)
theorem dL_law_2414 : decode cL_law 2414 = .ok (.iaload, 1) := dk_46 (dk_at dksL_law_96 6 rfl rfl)
theorem dL_law_2415 : decode cL_law 2415 = .ok (.aload_n 0, 1) := dk_42 (dk_at dksL_law_96 7 rfl rfl)
theorem dL_law_2416 : decode cL_law 2416 = .ok (.iload 4, 2) := dk_21 4 (dk_at dksL_law_96 8 rfl rfl)
theorem dL_law_2418 : decode cL_law 2418 = .ok (.iconst 3, 1) := dk_6 (dk_at dksL_law_96 10 rfl rfl)
theorem dL_law_2419 : decode cL_law 2419 = .ok (.iadd, 1) := dk_96 (dk_at dksL_law_96 11 rfl rfl)
theorem dL_law_2420 : decode cL_law 2420 = .ok (.iaload, 1) := dk_46 (dk_at dksL_law_96 12 rfl rfl)
theorem dL_law_2421 : decode cL_law 2421 = .ok (.aload_n 3, 1) := dk_45 (dk_at dksL_law_96 13 rfl rfl)
theorem dL_law_2422 : decode cL_law 2422 = .ok (.invokestatic 247, 3) := dk_184 0 247 (dk_at dksL_law_96 14 rfl rfl)
theorem dL_law_2425 : decode cL_law 2425 = .ok (.istore 5, 2) := dk_54 5 (dk_at dksL_law_96 17 rfl rfl)
theorem dL_law_2427 : decode cL_law 2427 = .ok (.aload_n 2, 1) := dk_44 (dk_at dksL_law_96 19 rfl rfl)
theorem dL_law_2428 : decode cL_law 2428 = .ok (.aload_n 0, 1) := dk_42 (dk_at dksL_law_96 20 rfl rfl)
theorem dL_law_2429 : decode cL_law 2429 = .ok (.iload 4, 2) := dk_21 4 (dk_at dksL_law_96 21 rfl rfl)
theorem dL_law_2431 : decode cL_law 2431 = .ok (.iconst 1, 1) := dk_4 (dk_at dksL_law_96 23 rfl rfl)
theorem dL_law_2432 : decode cL_law 2432 = .ok (.iadd, 1) := dk_96 (dk_at dksL_law_97 0 rfl rfl)
theorem dL_law_2433 : decode cL_law 2433 = .ok (.iaload, 1) := dk_46 (dk_at dksL_law_97 1 rfl rfl)
theorem dL_law_2434 : decode cL_law 2434 = .ok (.aload_n 0, 1) := dk_42 (dk_at dksL_law_97 2 rfl rfl)
theorem dL_law_2435 : decode cL_law 2435 = .ok (.iload 4, 2) := dk_21 4 (dk_at dksL_law_97 3 rfl rfl)
theorem dL_law_2437 : decode cL_law 2437 = .ok (.iconst 2, 1) := dk_5 (dk_at dksL_law_97 5 rfl rfl)
theorem dL_law_2438 : decode cL_law 2438 = .ok (.iadd, 1) := dk_96 (dk_at dksL_law_97 6 rfl rfl)
theorem dL_law_2439 : decode cL_law 2439 = .ok (.iaload, 1) := dk_46 (dk_at dksL_law_97 7 rfl rfl)
theorem dL_law_2440 : decode cL_law 2440 = .ok (.aload_n 0, 1) := dk_42 (dk_at dksL_law_97 8 rfl rfl)
theorem dL_law_2441 : decode cL_law 2441 = .ok (.iload 4, 2) := dk_21 4 (dk_at dksL_law_97 9 rfl rfl)
theorem dL_law_2443 : decode cL_law 2443 = .ok (.iconst 3, 1) := dk_6 (dk_at dksL_law_97 11 rfl rfl)
theorem dL_law_2444 : decode cL_law 2444 = .ok (.iadd, 1) := dk_96 (dk_at dksL_law_97 12 rfl rfl)
theorem dL_law_2445 : decode cL_law 2445 = .ok (.iaload, 1) := dk_46 (dk_at dksL_law_97 13 rfl rfl)
theorem dL_law_2446 : decode cL_law 2446 = .ok (.invokevirtual 249, 3) := dk_182 0 249 (dk_at dksL_law_97 14 rfl rfl)
theorem dL_law_2449 : decode cL_law 2449 = .ok (.istore 6, 2) := dk_54 6 (dk_at dksL_law_97 17 rfl rfl)
theorem dL_law_2451 : decode cL_law 2451 = .ok (.aload_n 2, 1) := dk_44 (dk_at dksL_law_97 19 rfl rfl)
theorem dL_law_2452 : decode cL_law 2452 = .ok (.invokevirtual 157, 3) := dk_182 0 157 (dk_at dksL_law_97 20 rfl rfl)
theorem dL_law_2455 : decode cL_law 2455 = .ok (.iload 5, 2) := dk_21 5 (dk_at dksL_law_98 0 rfl rfl)
theorem dL_law_2457 : decode cL_law 2457 = .ok (.if_icmp .eq 5, 3) := dk_159 0 5 (dk_at dksL_law_98 2 rfl rfl)
theorem dL_law_2460 : decode cL_law 2460 = .ok (.iconst 0, 1) := dk_3 (dk_at dksL_law_98 5 rfl rfl)
theorem dL_law_2461 : decode cL_law 2461 = .ok (.ireturn, 1) := dk_172 (dk_at dksL_law_98 6 rfl rfl)
theorem dL_law_2462 : decode cL_law 2462 = .ok (.iload 5, 2) := dk_21 5 (dk_at dksL_law_98 7 rfl rfl)
theorem dL_law_2464 : decode cL_law 2464 = .ok (.ifCond .ne 15, 3) := dk_154 0 15 (dk_at dksL_law_98 9 rfl rfl)
theorem dL_law_2467 : decode cL_law 2467 = .ok (.aload_n 3, 1) := dk_45 (dk_at dksL_law_98 12 rfl rfl)
theorem dL_law_2468 : decode cL_law 2468 = .ok (.iconst 0, 1) := dk_3 (dk_at dksL_law_98 13 rfl rfl)
theorem dL_law_2469 : decode cL_law 2469 = .ok (.laload, 1) := dk_47 (dk_at dksL_law_98 14 rfl rfl)
theorem dL_law_2470 : decode cL_law 2470 = .ok (.iload 6, 2) := dk_21 6 (dk_at dksL_law_98 15 rfl rfl)
theorem dL_law_2472 : decode cL_law 2472 = .ok (.i2l, 1) := dk_133 (dk_at dksL_law_98 17 rfl rfl)
theorem dL_law_2473 : decode cL_law 2473 = .ok (.lcmp, 1) := dk_148 (dk_at dksL_law_98 18 rfl rfl)
theorem dL_law_2474 : decode cL_law 2474 = .ok (.ifCond .eq 5, 3) := dk_153 0 5 (dk_at dksL_law_98 19 rfl rfl)
theorem dL_law_2477 : decode cL_law 2477 = .ok (.iconst 0, 1) := dk_3 (dk_at dksL_law_98 22 rfl rfl)
theorem dL_law_2478 : decode cL_law 2478 = .ok (.ireturn, 1) := dk_172 (dk_at dksL_law_98 23 rfl rfl)
theorem dL_law_2479 : decode cL_law 2479 = .ok (.goto 781, 3) := dk_167 3 13 (dk_at dksL_law_99 0 rfl rfl)
theorem dL_law_2482 : decode cL_law 2482 = .ok (.aload_n 1, 1) := dk_43 (dk_at dksL_law_99 3 rfl rfl)
theorem dL_law_2483 : decode cL_law 2483 = .ok (.aload_n 0, 1) := dk_42 (dk_at dksL_law_99 4 rfl rfl)
theorem dL_law_2484 : decode cL_law 2484 = .ok (.iload 4, 2) := dk_21 4 (dk_at dksL_law_99 5 rfl rfl)
theorem dL_law_2486 : decode cL_law 2486 = .ok (.iconst 1, 1) := dk_4 (dk_at dksL_law_99 7 rfl rfl)
theorem dL_law_2487 : decode cL_law 2487 = .ok (.iadd, 1) := dk_96 (dk_at dksL_law_99 8 rfl rfl)
theorem dL_law_2488 : decode cL_law 2488 = .ok (.iaload, 1) := dk_46 (dk_at dksL_law_99 9 rfl rfl)
theorem dL_law_2489 : decode cL_law 2489 = .ok (.aload_n 0, 1) := dk_42 (dk_at dksL_law_99 10 rfl rfl)
theorem dL_law_2490 : decode cL_law 2490 = .ok (.iload 4, 2) := dk_21 4 (dk_at dksL_law_99 11 rfl rfl)
theorem dL_law_2492 : decode cL_law 2492 = .ok (.iconst 2, 1) := dk_5 (dk_at dksL_law_99 13 rfl rfl)
theorem dL_law_2493 : decode cL_law 2493 = .ok (.iadd, 1) := dk_96 (dk_at dksL_law_99 14 rfl rfl)
theorem dL_law_2494 : decode cL_law 2494 = .ok (.iaload, 1) := dk_46 (dk_at dksL_law_99 15 rfl rfl)
theorem dL_law_2495 : decode cL_law 2495 = .ok (.aload_n 0, 1) := dk_42 (dk_at dksL_law_99 16 rfl rfl)
theorem dL_law_2496 : decode cL_law 2496 = .ok (.iload 4, 2) := dk_21 4 (dk_at dksL_law_99 17 rfl rfl)
theorem dL_law_2498 : decode cL_law 2498 = .ok (.iconst 3, 1) := dk_6 (dk_at dksL_law_99 19 rfl rfl)
theorem dL_law_2499 : decode cL_law 2499 = .ok (.iadd, 1) := dk_96 (dk_at dksL_law_99 20 rfl rfl)
theorem dL_law_2500 : decode cL_law 2500 = .ok (.iaload, 1) := dk_46 (dk_at dksL_law_99 21 rfl rfl)
theorem dL_law_2501 : decode cL_law 2501 = .ok (.aload_n 3, 1) := dk_45 (dk_at dksL_law_99 22 rfl rfl)
theorem dL_law_2502 : decode cL_law 2502 = .ok (.invokestatic 250, 3) := dk_184 0 250 (dk_at dksL_law_100 0 rfl rfl)
theorem dL_law_2505 : decode cL_law 2505 = .ok (.istore 5, 2) := dk_54 5 (dk_at dksL_law_100 3 rfl rfl)
theorem dL_law_2507 : decode cL_law 2507 = .ok (.aload_n 2, 1) := dk_44 (dk_at dksL_law_100 5 rfl rfl)
theorem dL_law_2508 : decode cL_law 2508 = .ok (.aload_n 0, 1) := dk_42 (dk_at dksL_law_100 6 rfl rfl)
theorem dL_law_2509 : decode cL_law 2509 = .ok (.iload 4, 2) := dk_21 4 (dk_at dksL_law_100 7 rfl rfl)
theorem dL_law_2511 : decode cL_law 2511 = .ok (.iconst 1, 1) := dk_4 (dk_at dksL_law_100 9 rfl rfl)
theorem dL_law_2512 : decode cL_law 2512 = .ok (.iadd, 1) := dk_96 (dk_at dksL_law_100 10 rfl rfl)
theorem dL_law_2513 : decode cL_law 2513 = .ok (.iaload, 1) := dk_46 (dk_at dksL_law_100 11 rfl rfl)
theorem dL_law_2514 : decode cL_law 2514 = .ok (.aload_n 0, 1) := dk_42 (dk_at dksL_law_100 12 rfl rfl)
theorem dL_law_2515 : decode cL_law 2515 = .ok (.iload 4, 2) := dk_21 4 (dk_at dksL_law_100 13 rfl rfl)
theorem dL_law_2517 : decode cL_law 2517 = .ok (.iconst 2, 1) := dk_5 (dk_at dksL_law_100 15 rfl rfl)
theorem dL_law_2518 : decode cL_law 2518 = .ok (.iadd, 1) := dk_96 (dk_at dksL_law_100 16 rfl rfl)
theorem dL_law_2519 : decode cL_law 2519 = .ok (.iaload, 1) := dk_46 (dk_at dksL_law_100 17 rfl rfl)
theorem dL_law_2520 : decode cL_law 2520 = .ok (.aload_n 0, 1) := dk_42 (dk_at dksL_law_100 18 rfl rfl)
theorem dL_law_2521 : decode cL_law 2521 = .ok (.iload 4, 2) := dk_21 4 (dk_at dksL_law_100 19 rfl rfl)
theorem dL_law_2523 : decode cL_law 2523 = .ok (.iconst 3, 1) := dk_6 (dk_at dksL_law_100 21 rfl rfl)
theorem dL_law_2524 : decode cL_law 2524 = .ok (.iadd, 1) := dk_96 (dk_at dksL_law_100 22 rfl rfl)
theorem dL_law_2525 : decode cL_law 2525 = .ok (.iaload, 1) := dk_46 (dk_at dksL_law_100 23 rfl rfl)
theorem dL_law_2526 : decode cL_law 2526 = .ok (.invokevirtual 252, 3) := dk_182 0 252 (dk_at dksL_law_101 0 rfl rfl)
theorem dL_law_2529 : decode cL_law 2529 = .ok (.istore 6, 2) := dk_54 6 (dk_at dksL_law_101 3 rfl rfl)
theorem dL_law_2531 : decode cL_law 2531 = .ok (.aload_n 2, 1) := dk_44 (dk_at dksL_law_101 5 rfl rfl)
theorem dL_law_2532 : decode cL_law 2532 = .ok (.invokevirtual 157, 3) := dk_182 0 157 (dk_at dksL_law_101 6 rfl rfl)
theorem dL_law_2535 : decode cL_law 2535 = .ok (.iload 5, 2) := dk_21 5 (dk_at dksL_law_101 9 rfl rfl)
theorem dL_law_2537 : decode cL_law 2537 = .ok (.if_icmp .eq 5, 3) := dk_159 0 5 (dk_at dksL_law_101 11 rfl rfl)
theorem dL_law_2540 : decode cL_law 2540 = .ok (.iconst 0, 1) := dk_3 (dk_at dksL_law_101 14 rfl rfl)
theorem dL_law_2541 : decode cL_law 2541 = .ok (.ireturn, 1) := dk_172 (dk_at dksL_law_101 15 rfl rfl)
theorem dL_law_2542 : decode cL_law 2542 = .ok (.iload 5, 2) := dk_21 5 (dk_at dksL_law_101 16 rfl rfl)
theorem dL_law_2544 : decode cL_law 2544 = .ok (.ifCond .ne 15, 3) := dk_154 0 15 (dk_at dksL_law_101 18 rfl rfl)
theorem dL_law_2547 : decode cL_law 2547 = .ok (.aload_n 3, 1) := dk_45 (dk_at dksL_law_101 21 rfl rfl)
theorem dL_law_2548 : decode cL_law 2548 = .ok (.iconst 0, 1) := dk_3 (dk_at dksL_law_101 22 rfl rfl)
theorem dL_law_2549 : decode cL_law 2549 = .ok (.laload, 1) := dk_47 (dk_at dksL_law_101 23 rfl rfl)
theorem dL_law_2550 : decode cL_law 2550 = .ok (.iload 6, 2) := dk_21 6 (dk_at dksL_law_102 0 rfl rfl)
theorem dL_law_2552 : decode cL_law 2552 = .ok (.i2l, 1) := dk_133 (dk_at dksL_law_102 2 rfl rfl)
theorem dL_law_2553 : decode cL_law 2553 = .ok (.lcmp, 1) := dk_148 (dk_at dksL_law_102 3 rfl rfl)
theorem dL_law_2554 : decode cL_law 2554 = .ok (.ifCond .eq 5, 3) := dk_153 0 5 (dk_at dksL_law_102 4 rfl rfl)
theorem dL_law_2557 : decode cL_law 2557 = .ok (.iconst 0, 1) := dk_3 (dk_at dksL_law_102 7 rfl rfl)
theorem dL_law_2558 : decode cL_law 2558 = .ok (.ireturn, 1) := dk_172 (dk_at dksL_law_102 8 rfl rfl)
theorem dL_law_2559 : decode cL_law 2559 = .ok (.goto 701, 3) := dk_167 2 189 (dk_at dksL_law_102 9 rfl rfl)
theorem dL_law_2562 : decode cL_law 2562 = .ok (.aload_n 1, 1) := dk_43 (dk_at dksL_law_102 12 rfl rfl)
theorem dL_law_2563 : decode cL_law 2563 = .ok (.aload_n 0, 1) := dk_42 (dk_at dksL_law_102 13 rfl rfl)
theorem dL_law_2564 : decode cL_law 2564 = .ok (.iload 4, 2) := dk_21 4 (dk_at dksL_law_102 14 rfl rfl)
theorem dL_law_2566 : decode cL_law 2566 = .ok (.iconst 1, 1) := dk_4 (dk_at dksL_law_102 16 rfl rfl)
theorem dL_law_2567 : decode cL_law 2567 = .ok (.iadd, 1) := dk_96 (dk_at dksL_law_102 17 rfl rfl)
theorem dL_law_2568 : decode cL_law 2568 = .ok (.iaload, 1) := dk_46 (dk_at dksL_law_102 18 rfl rfl)
theorem dL_law_2569 : decode cL_law 2569 = .ok (.aload_n 0, 1) := dk_42 (dk_at dksL_law_102 19 rfl rfl)
theorem dL_law_2570 : decode cL_law 2570 = .ok (.iload 4, 2) := dk_21 4 (dk_at dksL_law_102 20 rfl rfl)
theorem dL_law_2572 : decode cL_law 2572 = .ok (.iconst 2, 1) := dk_5 (dk_at dksL_law_102 22 rfl rfl)
theorem dL_law_2573 : decode cL_law 2573 = .ok (.iadd, 1) := dk_96 (dk_at dksL_law_102 23 rfl rfl)
theorem dL_law_2574 : decode cL_law 2574 = .ok (.iaload, 1) := dk_46 (dk_at dksL_law_103 0 rfl rfl)
theorem dL_law_2575 : decode cL_law 2575 = .ok (.aload_n 0, 1) := dk_42 (dk_at dksL_law_103 1 rfl rfl)
theorem dL_law_2576 : decode cL_law 2576 = .ok (.iload 4, 2) := dk_21 4 (dk_at dksL_law_103 2 rfl rfl)
theorem dL_law_2578 : decode cL_law 2578 = .ok (.iconst 3, 1) := dk_6 (dk_at dksL_law_103 4 rfl rfl)
theorem dL_law_2579 : decode cL_law 2579 = .ok (.iadd, 1) := dk_96 (dk_at dksL_law_103 5 rfl rfl)
theorem dL_law_2580 : decode cL_law 2580 = .ok (.iaload, 1) := dk_46 (dk_at dksL_law_103 6 rfl rfl)
theorem dL_law_2581 : decode cL_law 2581 = .ok (.aload_n 0, 1) := dk_42 (dk_at dksL_law_103 7 rfl rfl)
theorem dL_law_2582 : decode cL_law 2582 = .ok (.iload 4, 2) := dk_21 4 (dk_at dksL_law_103 8 rfl rfl)
theorem dL_law_2584 : decode cL_law 2584 = .ok (.iconst 4, 1) := dk_7 (dk_at dksL_law_103 10 rfl rfl)
theorem dL_law_2585 : decode cL_law 2585 = .ok (.iadd, 1) := dk_96 (dk_at dksL_law_103 11 rfl rfl)
theorem dL_law_2586 : decode cL_law 2586 = .ok (.iaload, 1) := dk_46 (dk_at dksL_law_103 12 rfl rfl)
theorem dL_law_2587 : decode cL_law 2587 = .ok (.ifCond .eq 7, 3) := dk_153 0 7 (dk_at dksL_law_103 13 rfl rfl)
theorem dL_law_2590 : decode cL_law 2590 = .ok (.iconst 1, 1) := dk_4 (dk_at dksL_law_103 16 rfl rfl)
theorem dL_law_2591 : decode cL_law 2591 = .ok (.goto 4, 3) := dk_167 0 4 (dk_at dksL_law_103 17 rfl rfl)
theorem dL_law_2594 : decode cL_law 2594 = .ok (.iconst 0, 1) := dk_3 (dk_at dksL_law_103 20 rfl rfl)
theorem dL_law_2595 : decode cL_law 2595 = .ok (.aload_n 3, 1) := dk_45 (dk_at dksL_law_103 21 rfl rfl)
theorem dL_law_2596 : decode cL_law 2596 = .ok (.invokestatic 253, 3) := dk_184 0 253 (dk_at dksL_law_104 0 rfl rfl)
theorem dL_law_2599 : decode cL_law 2599 = .ok (.istore 5, 2) := dk_54 5 (dk_at dksL_law_104 3 rfl rfl)
theorem dL_law_2601 : decode cL_law 2601 = .ok (.aload_n 2, 1) := dk_44 (dk_at dksL_law_104 5 rfl rfl)
theorem dL_law_2602 : decode cL_law 2602 = .ok (.aload_n 0, 1) := dk_42 (dk_at dksL_law_104 6 rfl rfl)
theorem dL_law_2603 : decode cL_law 2603 = .ok (.iload 4, 2) := dk_21 4 (dk_at dksL_law_104 7 rfl rfl)
theorem dL_law_2605 : decode cL_law 2605 = .ok (.iconst 1, 1) := dk_4 (dk_at dksL_law_104 9 rfl rfl)
theorem dL_law_2606 : decode cL_law 2606 = .ok (.iadd, 1) := dk_96 (dk_at dksL_law_104 10 rfl rfl)
theorem dL_law_2607 : decode cL_law 2607 = .ok (.iaload, 1) := dk_46 (dk_at dksL_law_104 11 rfl rfl)
theorem dL_law_2608 : decode cL_law 2608 = .ok (.aload_n 0, 1) := dk_42 (dk_at dksL_law_104 12 rfl rfl)
theorem dL_law_2609 : decode cL_law 2609 = .ok (.iload 4, 2) := dk_21 4 (dk_at dksL_law_104 13 rfl rfl)
theorem dL_law_2611 : decode cL_law 2611 = .ok (.iconst 2, 1) := dk_5 (dk_at dksL_law_104 15 rfl rfl)
theorem dL_law_2612 : decode cL_law 2612 = .ok (.iadd, 1) := dk_96 (dk_at dksL_law_104 16 rfl rfl)
theorem dL_law_2613 : decode cL_law 2613 = .ok (.iaload, 1) := dk_46 (dk_at dksL_law_104 17 rfl rfl)
theorem dL_law_2614 : decode cL_law 2614 = .ok (.aload_n 0, 1) := dk_42 (dk_at dksL_law_104 18 rfl rfl)
theorem dL_law_2615 : decode cL_law 2615 = .ok (.iload 4, 2) := dk_21 4 (dk_at dksL_law_104 19 rfl rfl)
theorem dL_law_2617 : decode cL_law 2617 = .ok (.iconst 3, 1) := dk_6 (dk_at dksL_law_104 21 rfl rfl)
theorem dL_law_2618 : decode cL_law 2618 = .ok (.iadd, 1) := dk_96 (dk_at dksL_law_104 22 rfl rfl)
theorem dL_law_2619 : decode cL_law 2619 = .ok (.iaload, 1) := dk_46 (dk_at dksL_law_104 23 rfl rfl)
theorem dL_law_2620 : decode cL_law 2620 = .ok (.aload_n 0, 1) := dk_42 (dk_at dksL_law_105 0 rfl rfl)
theorem dL_law_2621 : decode cL_law 2621 = .ok (.iload 4, 2) := dk_21 4 (dk_at dksL_law_105 1 rfl rfl)
theorem dL_law_2623 : decode cL_law 2623 = .ok (.iconst 4, 1) := dk_7 (dk_at dksL_law_105 3 rfl rfl)
theorem dL_law_2624 : decode cL_law 2624 = .ok (.iadd, 1) := dk_96 (dk_at dksL_law_105 4 rfl rfl)
theorem dL_law_2625 : decode cL_law 2625 = .ok (.iaload, 1) := dk_46 (dk_at dksL_law_105 5 rfl rfl)
theorem dL_law_2626 : decode cL_law 2626 = .ok (.ifCond .eq 7, 3) := dk_153 0 7 (dk_at dksL_law_105 6 rfl rfl)
theorem dL_law_2629 : decode cL_law 2629 = .ok (.iconst 1, 1) := dk_4 (dk_at dksL_law_105 9 rfl rfl)
theorem dL_law_2630 : decode cL_law 2630 = .ok (.goto 4, 3) := dk_167 0 4 (dk_at dksL_law_105 10 rfl rfl)
theorem dL_law_2633 : decode cL_law 2633 = .ok (.iconst 0, 1) := dk_3 (dk_at dksL_law_105 13 rfl rfl)
theorem dL_law_2634 : decode cL_law 2634 = .ok (.invokevirtual 256, 3) := dk_182 1 0 (dk_at dksL_law_105 14 rfl rfl)
theorem dL_law_2637 : decode cL_law 2637 = .ok (.istore 6, 2) := dk_54 6 (dk_at dksL_law_105 17 rfl rfl)
theorem dL_law_2639 : decode cL_law 2639 = .ok (.aload_n 2, 1) := dk_44 (dk_at dksL_law_105 19 rfl rfl)
theorem dL_law_2640 : decode cL_law 2640 = .ok (.invokevirtual 157, 3) := dk_182 0 157 (dk_at dksL_law_105 20 rfl rfl)
theorem dL_law_2643 : decode cL_law 2643 = .ok (.iload 5, 2) := dk_21 5 (dk_at dksL_law_106 0 rfl rfl)
theorem dL_law_2645 : decode cL_law 2645 = .ok (.if_icmp .eq 5, 3) := dk_159 0 5 (dk_at dksL_law_106 2 rfl rfl)
theorem dL_law_2648 : decode cL_law 2648 = .ok (.iconst 0, 1) := dk_3 (dk_at dksL_law_106 5 rfl rfl)
theorem dL_law_2649 : decode cL_law 2649 = .ok (.ireturn, 1) := dk_172 (dk_at dksL_law_106 6 rfl rfl)
theorem dL_law_2650 : decode cL_law 2650 = .ok (.iload 5, 2) := dk_21 5 (dk_at dksL_law_106 7 rfl rfl)
theorem dL_law_2652 : decode cL_law 2652 = .ok (.ifCond .ne 15, 3) := dk_154 0 15 (dk_at dksL_law_106 9 rfl rfl)
theorem dL_law_2655 : decode cL_law 2655 = .ok (.aload_n 3, 1) := dk_45 (dk_at dksL_law_106 12 rfl rfl)
theorem dL_law_2656 : decode cL_law 2656 = .ok (.iconst 0, 1) := dk_3 (dk_at dksL_law_106 13 rfl rfl)
theorem dL_law_2657 : decode cL_law 2657 = .ok (.laload, 1) := dk_47 (dk_at dksL_law_106 14 rfl rfl)
theorem dL_law_2658 : decode cL_law 2658 = .ok (.iload 6, 2) := dk_21 6 (dk_at dksL_law_106 15 rfl rfl)
theorem dL_law_2660 : decode cL_law 2660 = .ok (.i2l, 1) := dk_133 (dk_at dksL_law_106 17 rfl rfl)
theorem dL_law_2661 : decode cL_law 2661 = .ok (.lcmp, 1) := dk_148 (dk_at dksL_law_106 18 rfl rfl)
theorem dL_law_2662 : decode cL_law 2662 = .ok (.ifCond .eq 5, 3) := dk_153 0 5 (dk_at dksL_law_106 19 rfl rfl)
theorem dL_law_2665 : decode cL_law 2665 = .ok (.iconst 0, 1) := dk_3 (dk_at dksL_law_106 22 rfl rfl)
theorem dL_law_2666 : decode cL_law 2666 = .ok (.ireturn, 1) := dk_172 (dk_at dksL_law_106 23 rfl rfl)
theorem dL_law_2667 : decode cL_law 2667 = .ok (.goto 593, 3) := dk_167 2 81 (dk_at dksL_law_107 0 rfl rfl)
theorem dL_law_2670 : decode cL_law 2670 = .ok (.aload_n 1, 1) := dk_43 (dk_at dksL_law_107 3 rfl rfl)
theorem dL_law_2671 : decode cL_law 2671 = .ok (.aload_n 0, 1) := dk_42 (dk_at dksL_law_107 4 rfl rfl)
theorem dL_law_2672 : decode cL_law 2672 = .ok (.iload 4, 2) := dk_21 4 (dk_at dksL_law_107 5 rfl rfl)
theorem dL_law_2674 : decode cL_law 2674 = .ok (.iconst 1, 1) := dk_4 (dk_at dksL_law_107 7 rfl rfl)
theorem dL_law_2675 : decode cL_law 2675 = .ok (.iadd, 1) := dk_96 (dk_at dksL_law_107 8 rfl rfl)
theorem dL_law_2676 : decode cL_law 2676 = .ok (.iaload, 1) := dk_46 (dk_at dksL_law_107 9 rfl rfl)
theorem dL_law_2677 : decode cL_law 2677 = .ok (.aload_n 0, 1) := dk_42 (dk_at dksL_law_107 10 rfl rfl)
theorem dL_law_2678 : decode cL_law 2678 = .ok (.iload 4, 2) := dk_21 4 (dk_at dksL_law_107 11 rfl rfl)
theorem dL_law_2680 : decode cL_law 2680 = .ok (.iconst 2, 1) := dk_5 (dk_at dksL_law_107 13 rfl rfl)
theorem dL_law_2681 : decode cL_law 2681 = .ok (.iadd, 1) := dk_96 (dk_at dksL_law_107 14 rfl rfl)
theorem dL_law_2682 : decode cL_law 2682 = .ok (.iaload, 1) := dk_46 (dk_at dksL_law_107 15 rfl rfl)
theorem dL_law_2683 : decode cL_law 2683 = .ok (.aload_n 3, 1) := dk_45 (dk_at dksL_law_107 16 rfl rfl)
theorem dL_law_2684 : decode cL_law 2684 = .ok (.invokestatic 257, 3) := dk_184 1 1 (dk_at dksL_law_107 17 rfl rfl)
theorem dL_law_2687 : decode cL_law 2687 = .ok (.istore 5, 2) := dk_54 5 (dk_at dksL_law_107 20 rfl rfl)
theorem dL_law_2689 : decode cL_law 2689 = .ok (.aload_n 2, 1) := dk_44 (dk_at dksL_law_107 22 rfl rfl)
theorem dL_law_2690 : decode cL_law 2690 = .ok (.aload_n 0, 1) := dk_42 (dk_at dksL_law_107 23 rfl rfl)
theorem dL_law_2691 : decode cL_law 2691 = .ok (.iload 4, 2) := dk_21 4 (dk_at dksL_law_108 0 rfl rfl)
theorem dL_law_2693 : decode cL_law 2693 = .ok (.iconst 1, 1) := dk_4 (dk_at dksL_law_108 2 rfl rfl)
theorem dL_law_2694 : decode cL_law 2694 = .ok (.iadd, 1) := dk_96 (dk_at dksL_law_108 3 rfl rfl)
theorem dL_law_2695 : decode cL_law 2695 = .ok (.iaload, 1) := dk_46 (dk_at dksL_law_108 4 rfl rfl)
theorem dL_law_2696 : decode cL_law 2696 = .ok (.aload_n 0, 1) := dk_42 (dk_at dksL_law_108 5 rfl rfl)
theorem dL_law_2697 : decode cL_law 2697 = .ok (.iload 4, 2) := dk_21 4 (dk_at dksL_law_108 6 rfl rfl)
theorem dL_law_2699 : decode cL_law 2699 = .ok (.iconst 2, 1) := dk_5 (dk_at dksL_law_108 8 rfl rfl)
theorem dL_law_2700 : decode cL_law 2700 = .ok (.iadd, 1) := dk_96 (dk_at dksL_law_108 9 rfl rfl)
theorem dL_law_2701 : decode cL_law 2701 = .ok (.iaload, 1) := dk_46 (dk_at dksL_law_108 10 rfl rfl)
theorem dL_law_2702 : decode cL_law 2702 = .ok (.invokevirtual 259, 3) := dk_182 1 3 (dk_at dksL_law_108 11 rfl rfl)
theorem dL_law_2705 : decode cL_law 2705 = .ok (.istore 6, 2) := dk_54 6 (dk_at dksL_law_108 14 rfl rfl)
theorem dL_law_2707 : decode cL_law 2707 = .ok (.aload_n 2, 1) := dk_44 (dk_at dksL_law_108 16 rfl rfl)
theorem dL_law_2708 : decode cL_law 2708 = .ok (.invokevirtual 157, 3) := dk_182 0 157 (dk_at dksL_law_108 17 rfl rfl)
theorem dL_law_2711 : decode cL_law 2711 = .ok (.iload 5, 2) := dk_21 5 (dk_at dksL_law_108 20 rfl rfl)
theorem dL_law_2713 : decode cL_law 2713 = .ok (.if_icmp .eq 5, 3) := dk_159 0 5 (dk_at dksL_law_109 0 rfl rfl)
theorem dL_law_2716 : decode cL_law 2716 = .ok (.iconst 0, 1) := dk_3 (dk_at dksL_law_109 3 rfl rfl)
theorem dL_law_2717 : decode cL_law 2717 = .ok (.ireturn, 1) := dk_172 (dk_at dksL_law_109 4 rfl rfl)
theorem dL_law_2718 : decode cL_law 2718 = .ok (.iload 5, 2) := dk_21 5 (dk_at dksL_law_109 5 rfl rfl)
theorem dL_law_2720 : decode cL_law 2720 = .ok (.ifCond .ne 15, 3) := dk_154 0 15 (dk_at dksL_law_109 7 rfl rfl)
theorem dL_law_2723 : decode cL_law 2723 = .ok (.aload_n 3, 1) := dk_45 (dk_at dksL_law_109 10 rfl rfl)
theorem dL_law_2724 : decode cL_law 2724 = .ok (.iconst 0, 1) := dk_3 (dk_at dksL_law_109 11 rfl rfl)
theorem dL_law_2725 : decode cL_law 2725 = .ok (.laload, 1) := dk_47 (dk_at dksL_law_109 12 rfl rfl)
theorem dL_law_2726 : decode cL_law 2726 = .ok (.iload 6, 2) := dk_21 6 (dk_at dksL_law_109 13 rfl rfl)
theorem dL_law_2728 : decode cL_law 2728 = .ok (.i2l, 1) := dk_133 (dk_at dksL_law_109 15 rfl rfl)
theorem dL_law_2729 : decode cL_law 2729 = .ok (.lcmp, 1) := dk_148 (dk_at dksL_law_109 16 rfl rfl)
theorem dL_law_2730 : decode cL_law 2730 = .ok (.ifCond .eq 5, 3) := dk_153 0 5 (dk_at dksL_law_109 17 rfl rfl)
theorem dL_law_2733 : decode cL_law 2733 = .ok (.iconst 0, 1) := dk_3 (dk_at dksL_law_109 20 rfl rfl)
theorem dL_law_2734 : decode cL_law 2734 = .ok (.ireturn, 1) := dk_172 (dk_at dksL_law_109 21 rfl rfl)
theorem dL_law_2735 : decode cL_law 2735 = .ok (.goto 525, 3) := dk_167 2 13 (dk_at dksL_law_110 0 rfl rfl)
theorem dL_law_2738 : decode cL_law 2738 = .ok (.aload_n 1, 1) := dk_43 (dk_at dksL_law_110 3 rfl rfl)
theorem dL_law_2739 : decode cL_law 2739 = .ok (.aload_n 0, 1) := dk_42 (dk_at dksL_law_110 4 rfl rfl)
theorem dL_law_2740 : decode cL_law 2740 = .ok (.iload 4, 2) := dk_21 4 (dk_at dksL_law_110 5 rfl rfl)
theorem dL_law_2742 : decode cL_law 2742 = .ok (.iconst 1, 1) := dk_4 (dk_at dksL_law_110 7 rfl rfl)
theorem dL_law_2743 : decode cL_law 2743 = .ok (.iadd, 1) := dk_96 (dk_at dksL_law_110 8 rfl rfl)
theorem dL_law_2744 : decode cL_law 2744 = .ok (.iaload, 1) := dk_46 (dk_at dksL_law_110 9 rfl rfl)
theorem dL_law_2745 : decode cL_law 2745 = .ok (.aload_n 3, 1) := dk_45 (dk_at dksL_law_110 10 rfl rfl)
theorem dL_law_2746 : decode cL_law 2746 = .ok (.invokestatic 260, 3) := dk_184 1 4 (dk_at dksL_law_110 11 rfl rfl)
theorem dL_law_2749 : decode cL_law 2749 = .ok (.istore 5, 2) := dk_54 5 (dk_at dksL_law_110 14 rfl rfl)
theorem dL_law_2751 : decode cL_law 2751 = .ok (.aload_n 2, 1) := dk_44 (dk_at dksL_law_110 16 rfl rfl)
theorem dL_law_2752 : decode cL_law 2752 = .ok (.aload_n 0, 1) := dk_42 (dk_at dksL_law_110 17 rfl rfl)
theorem dL_law_2753 : decode cL_law 2753 = .ok (.iload 4, 2) := dk_21 4 (dk_at dksL_law_110 18 rfl rfl)
theorem dL_law_2755 : decode cL_law 2755 = .ok (.iconst 1, 1) := dk_4 (dk_at dksL_law_110 20 rfl rfl)
theorem dL_law_2756 : decode cL_law 2756 = .ok (.iadd, 1) := dk_96 (dk_at dksL_law_110 21 rfl rfl)
theorem dL_law_2757 : decode cL_law 2757 = .ok (.iaload, 1) := dk_46 (dk_at dksL_law_110 22 rfl rfl)
theorem dL_law_2758 : decode cL_law 2758 = .ok (.invokevirtual 262, 3) := dk_182 1 6 (dk_at dksL_law_111 0 rfl rfl)
theorem dL_law_2761 : decode cL_law 2761 = .ok (.istore 6, 2) := dk_54 6 (dk_at dksL_law_111 3 rfl rfl)
theorem dL_law_2763 : decode cL_law 2763 = .ok (.aload_n 2, 1) := dk_44 (dk_at dksL_law_111 5 rfl rfl)
theorem dL_law_2764 : decode cL_law 2764 = .ok (.invokevirtual 157, 3) := dk_182 0 157 (dk_at dksL_law_111 6 rfl rfl)
theorem dL_law_2767 : decode cL_law 2767 = .ok (.iload 5, 2) := dk_21 5 (dk_at dksL_law_111 9 rfl rfl)
theorem dL_law_2769 : decode cL_law 2769 = .ok (.if_icmp .eq 5, 3) := dk_159 0 5 (dk_at dksL_law_111 11 rfl rfl)
theorem dL_law_2772 : decode cL_law 2772 = .ok (.iconst 0, 1) := dk_3 (dk_at dksL_law_111 14 rfl rfl)
theorem dL_law_2773 : decode cL_law 2773 = .ok (.ireturn, 1) := dk_172 (dk_at dksL_law_111 15 rfl rfl)
theorem dL_law_2774 : decode cL_law 2774 = .ok (.iload 5, 2) := dk_21 5 (dk_at dksL_law_111 16 rfl rfl)
theorem dL_law_2776 : decode cL_law 2776 = .ok (.ifCond .ne 15, 3) := dk_154 0 15 (dk_at dksL_law_111 18 rfl rfl)
theorem dL_law_2779 : decode cL_law 2779 = .ok (.aload_n 3, 1) := dk_45 (dk_at dksL_law_111 21 rfl rfl)
theorem dL_law_2780 : decode cL_law 2780 = .ok (.iconst 0, 1) := dk_3 (dk_at dksL_law_111 22 rfl rfl)
theorem dL_law_2781 : decode cL_law 2781 = .ok (.laload, 1) := dk_47 (dk_at dksL_law_111 23 rfl rfl)
theorem dL_law_2782 : decode cL_law 2782 = .ok (.iload 6, 2) := dk_21 6 (dk_at dksL_law_112 0 rfl rfl)
theorem dL_law_2784 : decode cL_law 2784 = .ok (.i2l, 1) := dk_133 (dk_at dksL_law_112 2 rfl rfl)
theorem dL_law_2785 : decode cL_law 2785 = .ok (.lcmp, 1) := dk_148 (dk_at dksL_law_112 3 rfl rfl)
theorem dL_law_2786 : decode cL_law 2786 = .ok (.ifCond .eq 5, 3) := dk_153 0 5 (dk_at dksL_law_112 4 rfl rfl)
theorem dL_law_2789 : decode cL_law 2789 = .ok (.iconst 0, 1) := dk_3 (dk_at dksL_law_112 7 rfl rfl)
theorem dL_law_2790 : decode cL_law 2790 = .ok (.ireturn, 1) := dk_172 (dk_at dksL_law_112 8 rfl rfl)
theorem dL_law_2791 : decode cL_law 2791 = .ok (.goto 469, 3) := dk_167 1 213 (dk_at dksL_law_112 9 rfl rfl)
theorem dL_law_2794 : decode cL_law 2794 = .ok (.aload_n 1, 1) := dk_43 (dk_at dksL_law_112 12 rfl rfl)
theorem dL_law_2795 : decode cL_law 2795 = .ok (.aload_n 0, 1) := dk_42 (dk_at dksL_law_112 13 rfl rfl)
theorem dL_law_2796 : decode cL_law 2796 = .ok (.iload 4, 2) := dk_21 4 (dk_at dksL_law_112 14 rfl rfl)
theorem dL_law_2798 : decode cL_law 2798 = .ok (.iconst 1, 1) := dk_4 (dk_at dksL_law_112 16 rfl rfl)
theorem dL_law_2799 : decode cL_law 2799 = .ok (.iadd, 1) := dk_96 (dk_at dksL_law_112 17 rfl rfl)
theorem dL_law_2800 : decode cL_law 2800 = .ok (.iaload, 1) := dk_46 (dk_at dksL_law_112 18 rfl rfl)
theorem dL_law_2801 : decode cL_law 2801 = .ok (.aload_n 0, 1) := dk_42 (dk_at dksL_law_112 19 rfl rfl)
theorem dL_law_2802 : decode cL_law 2802 = .ok (.iload 4, 2) := dk_21 4 (dk_at dksL_law_112 20 rfl rfl)
theorem dL_law_2804 : decode cL_law 2804 = .ok (.iconst 2, 1) := dk_5 (dk_at dksL_law_112 22 rfl rfl)
theorem dL_law_2805 : decode cL_law 2805 = .ok (.iadd, 1) := dk_96 (dk_at dksL_law_112 23 rfl rfl)
theorem dL_law_2806 : decode cL_law 2806 = .ok (.iaload, 1) := dk_46 (dk_at dksL_law_113 0 rfl rfl)
theorem dL_law_2807 : decode cL_law 2807 = .ok (.aload_n 3, 1) := dk_45 (dk_at dksL_law_113 1 rfl rfl)
theorem dL_law_2808 : decode cL_law 2808 = .ok (.invokestatic 263, 3) := dk_184 1 7 (dk_at dksL_law_113 2 rfl rfl)
theorem dL_law_2811 : decode cL_law 2811 = .ok (.istore 5, 2) := dk_54 5 (dk_at dksL_law_113 5 rfl rfl)
theorem dL_law_2813 : decode cL_law 2813 = .ok (.aload_n 2, 1) := dk_44 (dk_at dksL_law_113 7 rfl rfl)
theorem dL_law_2814 : decode cL_law 2814 = .ok (.aload_n 0, 1) := dk_42 (dk_at dksL_law_113 8 rfl rfl)
theorem dL_law_2815 : decode cL_law 2815 = .ok (.iload 4, 2) := dk_21 4 (dk_at dksL_law_113 9 rfl rfl)
theorem dL_law_2817 : decode cL_law 2817 = .ok (.iconst 1, 1) := dk_4 (dk_at dksL_law_113 11 rfl rfl)
theorem dL_law_2818 : decode cL_law 2818 = .ok (.iadd, 1) := dk_96 (dk_at dksL_law_113 12 rfl rfl)
theorem dL_law_2819 : decode cL_law 2819 = .ok (.iaload, 1) := dk_46 (dk_at dksL_law_113 13 rfl rfl)
theorem dL_law_2820 : decode cL_law 2820 = .ok (.aload_n 0, 1) := dk_42 (dk_at dksL_law_113 14 rfl rfl)
theorem dL_law_2821 : decode cL_law 2821 = .ok (.iload 4, 2) := dk_21 4 (dk_at dksL_law_113 15 rfl rfl)
theorem dL_law_2823 : decode cL_law 2823 = .ok (.iconst 2, 1) := dk_5 (dk_at dksL_law_113 17 rfl rfl)
theorem dL_law_2824 : decode cL_law 2824 = .ok (.iadd, 1) := dk_96 (dk_at dksL_law_113 18 rfl rfl)
theorem dL_law_2825 : decode cL_law 2825 = .ok (.iaload, 1) := dk_46 (dk_at dksL_law_113 19 rfl rfl)
theorem dL_law_2826 : decode cL_law 2826 = .ok (.invokevirtual 265, 3) := dk_182 1 9 (dk_at dksL_law_113 20 rfl rfl)
theorem dL_law_2829 : decode cL_law 2829 = .ok (.istore 6, 2) := dk_54 6 (dk_at dksL_law_114 0 rfl rfl)
theorem dL_law_2831 : decode cL_law 2831 = .ok (.aload_n 2, 1) := dk_44 (dk_at dksL_law_114 2 rfl rfl)
theorem dL_law_2832 : decode cL_law 2832 = .ok (.invokevirtual 157, 3) := dk_182 0 157 (dk_at dksL_law_114 3 rfl rfl)
theorem dL_law_2835 : decode cL_law 2835 = .ok (.iload 5, 2) := dk_21 5 (dk_at dksL_law_114 6 rfl rfl)
theorem dL_law_2837 : decode cL_law 2837 = .ok (.if_icmp .eq 5, 3) := dk_159 0 5 (dk_at dksL_law_114 8 rfl rfl)
theorem dL_law_2840 : decode cL_law 2840 = .ok (.iconst 0, 1) := dk_3 (dk_at dksL_law_114 11 rfl rfl)
theorem dL_law_2841 : decode cL_law 2841 = .ok (.ireturn, 1) := dk_172 (dk_at dksL_law_114 12 rfl rfl)
theorem dL_law_2842 : decode cL_law 2842 = .ok (.iload 5, 2) := dk_21 5 (dk_at dksL_law_114 13 rfl rfl)
theorem dL_law_2844 : decode cL_law 2844 = .ok (.ifCond .ne 15, 3) := dk_154 0 15 (dk_at dksL_law_114 15 rfl rfl)
theorem dL_law_2847 : decode cL_law 2847 = .ok (.aload_n 3, 1) := dk_45 (dk_at dksL_law_114 18 rfl rfl)
theorem dL_law_2848 : decode cL_law 2848 = .ok (.iconst 0, 1) := dk_3 (dk_at dksL_law_114 19 rfl rfl)
theorem dL_law_2849 : decode cL_law 2849 = .ok (.laload, 1) := dk_47 (dk_at dksL_law_114 20 rfl rfl)
theorem dL_law_2850 : decode cL_law 2850 = .ok (.iload 6, 2) := dk_21 6 (dk_at dksL_law_114 21 rfl rfl)
theorem dL_law_2852 : decode cL_law 2852 = .ok (.i2l, 1) := dk_133 (dk_at dksL_law_114 23 rfl rfl)
theorem dL_law_2853 : decode cL_law 2853 = .ok (.lcmp, 1) := dk_148 (dk_at dksL_law_115 0 rfl rfl)
theorem dL_law_2854 : decode cL_law 2854 = .ok (.ifCond .eq 5, 3) := dk_153 0 5 (dk_at dksL_law_115 1 rfl rfl)
theorem dL_law_2857 : decode cL_law 2857 = .ok (.iconst 0, 1) := dk_3 (dk_at dksL_law_115 4 rfl rfl)
theorem dL_law_2858 : decode cL_law 2858 = .ok (.ireturn, 1) := dk_172 (dk_at dksL_law_115 5 rfl rfl)
theorem dL_law_2859 : decode cL_law 2859 = .ok (.goto 401, 3) := dk_167 1 145 (dk_at dksL_law_115 6 rfl rfl)
theorem dL_law_2862 : decode cL_law 2862 = .ok (.aload_n 1, 1) := dk_43 (dk_at dksL_law_115 9 rfl rfl)
theorem dL_law_2863 : decode cL_law 2863 = .ok (.aload_n 0, 1) := dk_42 (dk_at dksL_law_115 10 rfl rfl)
theorem dL_law_2864 : decode cL_law 2864 = .ok (.iload 4, 2) := dk_21 4 (dk_at dksL_law_115 11 rfl rfl)
theorem dL_law_2866 : decode cL_law 2866 = .ok (.iconst 1, 1) := dk_4 (dk_at dksL_law_115 13 rfl rfl)
theorem dL_law_2867 : decode cL_law 2867 = .ok (.iadd, 1) := dk_96 (dk_at dksL_law_115 14 rfl rfl)
theorem dL_law_2868 : decode cL_law 2868 = .ok (.iaload, 1) := dk_46 (dk_at dksL_law_115 15 rfl rfl)
theorem dL_law_2869 : decode cL_law 2869 = .ok (.aload_n 0, 1) := dk_42 (dk_at dksL_law_115 16 rfl rfl)
theorem dL_law_2870 : decode cL_law 2870 = .ok (.iload 4, 2) := dk_21 4 (dk_at dksL_law_115 17 rfl rfl)
theorem dL_law_2872 : decode cL_law 2872 = .ok (.iconst 2, 1) := dk_5 (dk_at dksL_law_115 19 rfl rfl)
theorem dL_law_2873 : decode cL_law 2873 = .ok (.iadd, 1) := dk_96 (dk_at dksL_law_115 20 rfl rfl)
theorem dL_law_2874 : decode cL_law 2874 = .ok (.iaload, 1) := dk_46 (dk_at dksL_law_115 21 rfl rfl)
theorem dL_law_2875 : decode cL_law 2875 = .ok (.ifCond .eq 7, 3) := dk_153 0 7 (dk_at dksL_law_116 0 rfl rfl)
theorem dL_law_2878 : decode cL_law 2878 = .ok (.iconst 1, 1) := dk_4 (dk_at dksL_law_116 3 rfl rfl)
theorem dL_law_2879 : decode cL_law 2879 = .ok (.goto 4, 3) := dk_167 0 4 (dk_at dksL_law_116 4 rfl rfl)
theorem dL_law_2882 : decode cL_law 2882 = .ok (.iconst 0, 1) := dk_3 (dk_at dksL_law_116 7 rfl rfl)
theorem dL_law_2883 : decode cL_law 2883 = .ok (.aload_n 3, 1) := dk_45 (dk_at dksL_law_116 8 rfl rfl)
theorem dL_law_2884 : decode cL_law 2884 = .ok (.invokestatic 266, 3) := dk_184 1 10 (dk_at dksL_law_116 9 rfl rfl)
theorem dL_law_2887 : decode cL_law 2887 = .ok (.istore 5, 2) := dk_54 5 (dk_at dksL_law_116 12 rfl rfl)
theorem dL_law_2889 : decode cL_law 2889 = .ok (.aload_n 2, 1) := dk_44 (dk_at dksL_law_116 14 rfl rfl)
theorem dL_law_2890 : decode cL_law 2890 = .ok (.aload_n 0, 1) := dk_42 (dk_at dksL_law_116 15 rfl rfl)
theorem dL_law_2891 : decode cL_law 2891 = .ok (.iload 4, 2) := dk_21 4 (dk_at dksL_law_116 16 rfl rfl)
theorem dL_law_2893 : decode cL_law 2893 = .ok (.iconst 1, 1) := dk_4 (dk_at dksL_law_116 18 rfl rfl)
theorem dL_law_2894 : decode cL_law 2894 = .ok (.iadd, 1) := dk_96 (dk_at dksL_law_116 19 rfl rfl)
theorem dL_law_2895 : decode cL_law 2895 = .ok (.iaload, 1) := dk_46 (dk_at dksL_law_116 20 rfl rfl)
theorem dL_law_2896 : decode cL_law 2896 = .ok (.aload_n 0, 1) := dk_42 (dk_at dksL_law_116 21 rfl rfl)
theorem dL_law_2897 : decode cL_law 2897 = .ok (.iload 4, 2) := dk_21 4 (dk_at dksL_law_116 22 rfl rfl)
theorem dL_law_2899 : decode cL_law 2899 = .ok (.iconst 2, 1) := dk_5 (dk_at dksL_law_117 0 rfl rfl)
theorem dL_law_2900 : decode cL_law 2900 = .ok (.iadd, 1) := dk_96 (dk_at dksL_law_117 1 rfl rfl)
theorem dL_law_2901 : decode cL_law 2901 = .ok (.iaload, 1) := dk_46 (dk_at dksL_law_117 2 rfl rfl)
theorem dL_law_2902 : decode cL_law 2902 = .ok (.ifCond .eq 7, 3) := dk_153 0 7 (dk_at dksL_law_117 3 rfl rfl)
theorem dL_law_2905 : decode cL_law 2905 = .ok (.iconst 1, 1) := dk_4 (dk_at dksL_law_117 6 rfl rfl)
theorem dL_law_2906 : decode cL_law 2906 = .ok (.goto 4, 3) := dk_167 0 4 (dk_at dksL_law_117 7 rfl rfl)
theorem dL_law_2909 : decode cL_law 2909 = .ok (.iconst 0, 1) := dk_3 (dk_at dksL_law_117 10 rfl rfl)
theorem dL_law_2910 : decode cL_law 2910 = .ok (.invokevirtual 269, 3) := dk_182 1 13 (dk_at dksL_law_117 11 rfl rfl)
theorem dL_law_2913 : decode cL_law 2913 = .ok (.istore 6, 2) := dk_54 6 (dk_at dksL_law_117 14 rfl rfl)
theorem dL_law_2915 : decode cL_law 2915 = .ok (.aload_n 2, 1) := dk_44 (dk_at dksL_law_117 16 rfl rfl)
theorem dL_law_2916 : decode cL_law 2916 = .ok (.invokevirtual 157, 3) := dk_182 0 157 (dk_at dksL_law_117 17 rfl rfl)
theorem dL_law_2919 : decode cL_law 2919 = .ok (.iload 5, 2) := dk_21 5 (dk_at dksL_law_117 20 rfl rfl)
theorem dL_law_2921 : decode cL_law 2921 = .ok (.if_icmp .eq 5, 3) := dk_159 0 5 (dk_at dksL_law_118 0 rfl rfl)
theorem dL_law_2924 : decode cL_law 2924 = .ok (.iconst 0, 1) := dk_3 (dk_at dksL_law_118 3 rfl rfl)
theorem dL_law_2925 : decode cL_law 2925 = .ok (.ireturn, 1) := dk_172 (dk_at dksL_law_118 4 rfl rfl)
theorem dL_law_2926 : decode cL_law 2926 = .ok (.iload 5, 2) := dk_21 5 (dk_at dksL_law_118 5 rfl rfl)
theorem dL_law_2928 : decode cL_law 2928 = .ok (.ifCond .ne 15, 3) := dk_154 0 15 (dk_at dksL_law_118 7 rfl rfl)
theorem dL_law_2931 : decode cL_law 2931 = .ok (.aload_n 3, 1) := dk_45 (dk_at dksL_law_118 10 rfl rfl)
theorem dL_law_2932 : decode cL_law 2932 = .ok (.iconst 0, 1) := dk_3 (dk_at dksL_law_118 11 rfl rfl)
theorem dL_law_2933 : decode cL_law 2933 = .ok (.laload, 1) := dk_47 (dk_at dksL_law_118 12 rfl rfl)
theorem dL_law_2934 : decode cL_law 2934 = .ok (.iload 6, 2) := dk_21 6 (dk_at dksL_law_118 13 rfl rfl)
theorem dL_law_2936 : decode cL_law 2936 = .ok (.i2l, 1) := dk_133 (dk_at dksL_law_118 15 rfl rfl)
theorem dL_law_2937 : decode cL_law 2937 = .ok (.lcmp, 1) := dk_148 (dk_at dksL_law_118 16 rfl rfl)
theorem dL_law_2938 : decode cL_law 2938 = .ok (.ifCond .eq 5, 3) := dk_153 0 5 (dk_at dksL_law_118 17 rfl rfl)
theorem dL_law_2941 : decode cL_law 2941 = .ok (.iconst 0, 1) := dk_3 (dk_at dksL_law_118 20 rfl rfl)
theorem dL_law_2942 : decode cL_law 2942 = .ok (.ireturn, 1) := dk_172 (dk_at dksL_law_118 21 rfl rfl)
theorem dL_law_2943 : decode cL_law 2943 = .ok (.goto 317, 3) := dk_167 1 61 (dk_at dksL_law_119 0 rfl rfl)
theorem dL_law_2946 : decode cL_law 2946 = .ok (.aload_n 1, 1) := dk_43 (dk_at dksL_law_119 3 rfl rfl)
theorem dL_law_2947 : decode cL_law 2947 = .ok (.aload_n 0, 1) := dk_42 (dk_at dksL_law_119 4 rfl rfl)
theorem dL_law_2948 : decode cL_law 2948 = .ok (.iload 4, 2) := dk_21 4 (dk_at dksL_law_119 5 rfl rfl)
theorem dL_law_2950 : decode cL_law 2950 = .ok (.iconst 1, 1) := dk_4 (dk_at dksL_law_119 7 rfl rfl)
theorem dL_law_2951 : decode cL_law 2951 = .ok (.iadd, 1) := dk_96 (dk_at dksL_law_119 8 rfl rfl)
theorem dL_law_2952 : decode cL_law 2952 = .ok (.iaload, 1) := dk_46 (dk_at dksL_law_119 9 rfl rfl)
theorem dL_law_2953 : decode cL_law 2953 = .ok (.aload_n 0, 1) := dk_42 (dk_at dksL_law_119 10 rfl rfl)
theorem dL_law_2954 : decode cL_law 2954 = .ok (.iload 4, 2) := dk_21 4 (dk_at dksL_law_119 11 rfl rfl)
theorem dL_law_2956 : decode cL_law 2956 = .ok (.iconst 2, 1) := dk_5 (dk_at dksL_law_119 13 rfl rfl)
theorem dL_law_2957 : decode cL_law 2957 = .ok (.iadd, 1) := dk_96 (dk_at dksL_law_119 14 rfl rfl)
theorem dL_law_2958 : decode cL_law 2958 = .ok (.iaload, 1) := dk_46 (dk_at dksL_law_119 15 rfl rfl)
theorem dL_law_2959 : decode cL_law 2959 = .ok (.aload_n 3, 1) := dk_45 (dk_at dksL_law_119 16 rfl rfl)
theorem dL_law_2960 : decode cL_law 2960 = .ok (.invokestatic 270, 3) := dk_184 1 14 (dk_at dksL_law_119 17 rfl rfl)
theorem dL_law_2963 : decode cL_law 2963 = .ok (.istore 5, 2) := dk_54 5 (dk_at dksL_law_119 20 rfl rfl)
theorem dL_law_2965 : decode cL_law 2965 = .ok (.aload_n 2, 1) := dk_44 (dk_at dksL_law_119 22 rfl rfl)
theorem dL_law_2966 : decode cL_law 2966 = .ok (.aload_n 0, 1) := dk_42 (dk_at dksL_law_119 23 rfl rfl)
theorem dL_law_2967 : decode cL_law 2967 = .ok (.iload 4, 2) := dk_21 4 (dk_at dksL_law_120 0 rfl rfl)
theorem dL_law_2969 : decode cL_law 2969 = .ok (.iconst 1, 1) := dk_4 (dk_at dksL_law_120 2 rfl rfl)
theorem dL_law_2970 : decode cL_law 2970 = .ok (.iadd, 1) := dk_96 (dk_at dksL_law_120 3 rfl rfl)
theorem dL_law_2971 : decode cL_law 2971 = .ok (.iaload, 1) := dk_46 (dk_at dksL_law_120 4 rfl rfl)
theorem dL_law_2972 : decode cL_law 2972 = .ok (.aload_n 0, 1) := dk_42 (dk_at dksL_law_120 5 rfl rfl)
theorem dL_law_2973 : decode cL_law 2973 = .ok (.iload 4, 2) := dk_21 4 (dk_at dksL_law_120 6 rfl rfl)
theorem dL_law_2975 : decode cL_law 2975 = .ok (.iconst 2, 1) := dk_5 (dk_at dksL_law_120 8 rfl rfl)
theorem dL_law_2976 : decode cL_law 2976 = .ok (.iadd, 1) := dk_96 (dk_at dksL_law_120 9 rfl rfl)
theorem dL_law_2977 : decode cL_law 2977 = .ok (.iaload, 1) := dk_46 (dk_at dksL_law_120 10 rfl rfl)
theorem dL_law_2978 : decode cL_law 2978 = .ok (.invokevirtual 272, 3) := dk_182 1 16 (dk_at dksL_law_120 11 rfl rfl)
theorem dL_law_2981 : decode cL_law 2981 = .ok (.istore 6, 2) := dk_54 6 (dk_at dksL_law_120 14 rfl rfl)
theorem dL_law_2983 : decode cL_law 2983 = .ok (.aload_n 2, 1) := dk_44 (dk_at dksL_law_120 16 rfl rfl)
theorem dL_law_2984 : decode cL_law 2984 = .ok (.invokevirtual 157, 3) := dk_182 0 157 (dk_at dksL_law_120 17 rfl rfl)
theorem dL_law_2987 : decode cL_law 2987 = .ok (.iload 5, 2) := dk_21 5 (dk_at dksL_law_120 20 rfl rfl)
theorem dL_law_2989 : decode cL_law 2989 = .ok (.if_icmp .eq 5, 3) := dk_159 0 5 (dk_at dksL_law_121 0 rfl rfl)
theorem dL_law_2992 : decode cL_law 2992 = .ok (.iconst 0, 1) := dk_3 (dk_at dksL_law_121 3 rfl rfl)
theorem dL_law_2993 : decode cL_law 2993 = .ok (.ireturn, 1) := dk_172 (dk_at dksL_law_121 4 rfl rfl)
theorem dL_law_2994 : decode cL_law 2994 = .ok (.iload 5, 2) := dk_21 5 (dk_at dksL_law_121 5 rfl rfl)
theorem dL_law_2996 : decode cL_law 2996 = .ok (.ifCond .ne 15, 3) := dk_154 0 15 (dk_at dksL_law_121 7 rfl rfl)
theorem dL_law_2999 : decode cL_law 2999 = .ok (.aload_n 3, 1) := dk_45 (dk_at dksL_law_121 10 rfl rfl)
theorem dL_law_3000 : decode cL_law 3000 = .ok (.iconst 0, 1) := dk_3 (dk_at dksL_law_121 11 rfl rfl)
theorem dL_law_3001 : decode cL_law 3001 = .ok (.laload, 1) := dk_47 (dk_at dksL_law_121 12 rfl rfl)
theorem dL_law_3002 : decode cL_law 3002 = .ok (.iload 6, 2) := dk_21 6 (dk_at dksL_law_121 13 rfl rfl)
theorem dL_law_3004 : decode cL_law 3004 = .ok (.i2l, 1) := dk_133 (dk_at dksL_law_121 15 rfl rfl)
theorem dL_law_3005 : decode cL_law 3005 = .ok (.lcmp, 1) := dk_148 (dk_at dksL_law_121 16 rfl rfl)
theorem dL_law_3006 : decode cL_law 3006 = .ok (.ifCond .eq 5, 3) := dk_153 0 5 (dk_at dksL_law_121 17 rfl rfl)
theorem dL_law_3009 : decode cL_law 3009 = .ok (.iconst 0, 1) := dk_3 (dk_at dksL_law_121 20 rfl rfl)
theorem dL_law_3010 : decode cL_law 3010 = .ok (.ireturn, 1) := dk_172 (dk_at dksL_law_121 21 rfl rfl)
theorem dL_law_3011 : decode cL_law 3011 = .ok (.goto 249, 3) := dk_167 0 249 (dk_at dksL_law_122 0 rfl rfl)
theorem dL_law_3014 : decode cL_law 3014 = .ok (.aload_n 1, 1) := dk_43 (dk_at dksL_law_122 3 rfl rfl)
theorem dL_law_3015 : decode cL_law 3015 = .ok (.aload_n 0, 1) := dk_42 (dk_at dksL_law_122 4 rfl rfl)
theorem dL_law_3016 : decode cL_law 3016 = .ok (.iload 4, 2) := dk_21 4 (dk_at dksL_law_122 5 rfl rfl)
theorem dL_law_3018 : decode cL_law 3018 = .ok (.iconst 1, 1) := dk_4 (dk_at dksL_law_122 7 rfl rfl)
theorem dL_law_3019 : decode cL_law 3019 = .ok (.iadd, 1) := dk_96 (dk_at dksL_law_122 8 rfl rfl)
theorem dL_law_3020 : decode cL_law 3020 = .ok (.iaload, 1) := dk_46 (dk_at dksL_law_122 9 rfl rfl)
theorem dL_law_3021 : decode cL_law 3021 = .ok (.aload_n 0, 1) := dk_42 (dk_at dksL_law_122 10 rfl rfl)
theorem dL_law_3022 : decode cL_law 3022 = .ok (.iload 4, 2) := dk_21 4 (dk_at dksL_law_122 11 rfl rfl)
theorem dL_law_3024 : decode cL_law 3024 = .ok (.iconst 2, 1) := dk_5 (dk_at dksL_law_122 13 rfl rfl)
theorem dL_law_3025 : decode cL_law 3025 = .ok (.iadd, 1) := dk_96 (dk_at dksL_law_122 14 rfl rfl)
theorem dL_law_3026 : decode cL_law 3026 = .ok (.iaload, 1) := dk_46 (dk_at dksL_law_122 15 rfl rfl)
theorem dL_law_3027 : decode cL_law 3027 = .ok (.aload_n 3, 1) := dk_45 (dk_at dksL_law_122 16 rfl rfl)
theorem dL_law_3028 : decode cL_law 3028 = .ok (.invokestatic 273, 3) := dk_184 1 17 (dk_at dksL_law_122 17 rfl rfl)
theorem dL_law_3031 : decode cL_law 3031 = .ok (.istore 5, 2) := dk_54 5 (dk_at dksL_law_122 20 rfl rfl)
theorem dL_law_3033 : decode cL_law 3033 = .ok (.aload_n 2, 1) := dk_44 (dk_at dksL_law_122 22 rfl rfl)
theorem dL_law_3034 : decode cL_law 3034 = .ok (.aload_n 0, 1) := dk_42 (dk_at dksL_law_122 23 rfl rfl)
theorem dL_law_3035 : decode cL_law 3035 = .ok (.iload 4, 2) := dk_21 4 (dk_at dksL_law_123 0 rfl rfl)
theorem dL_law_3037 : decode cL_law 3037 = .ok (.iconst 1, 1) := dk_4 (dk_at dksL_law_123 2 rfl rfl)
theorem dL_law_3038 : decode cL_law 3038 = .ok (.iadd, 1) := dk_96 (dk_at dksL_law_123 3 rfl rfl)
theorem dL_law_3039 : decode cL_law 3039 = .ok (.iaload, 1) := dk_46 (dk_at dksL_law_123 4 rfl rfl)
theorem dL_law_3040 : decode cL_law 3040 = .ok (.aload_n 0, 1) := dk_42 (dk_at dksL_law_123 5 rfl rfl)
theorem dL_law_3041 : decode cL_law 3041 = .ok (.iload 4, 2) := dk_21 4 (dk_at dksL_law_123 6 rfl rfl)
theorem dL_law_3043 : decode cL_law 3043 = .ok (.iconst 2, 1) := dk_5 (dk_at dksL_law_123 8 rfl rfl)
theorem dL_law_3044 : decode cL_law 3044 = .ok (.iadd, 1) := dk_96 (dk_at dksL_law_123 9 rfl rfl)
theorem dL_law_3045 : decode cL_law 3045 = .ok (.iaload, 1) := dk_46 (dk_at dksL_law_123 10 rfl rfl)
theorem dL_law_3046 : decode cL_law 3046 = .ok (.invokevirtual 275, 3) := dk_182 1 19 (dk_at dksL_law_123 11 rfl rfl)
theorem dL_law_3049 : decode cL_law 3049 = .ok (.istore 6, 2) := dk_54 6 (dk_at dksL_law_123 14 rfl rfl)
theorem dL_law_3051 : decode cL_law 3051 = .ok (.aload_n 2, 1) := dk_44 (dk_at dksL_law_123 16 rfl rfl)
theorem dL_law_3052 : decode cL_law 3052 = .ok (.invokevirtual 157, 3) := dk_182 0 157 (dk_at dksL_law_123 17 rfl rfl)
theorem dL_law_3055 : decode cL_law 3055 = .ok (.iload 5, 2) := dk_21 5 (dk_at dksL_law_123 20 rfl rfl)
theorem dL_law_3057 : decode cL_law 3057 = .ok (.if_icmp .eq 5, 3) := dk_159 0 5 (dk_at dksL_law_124 0 rfl rfl)
theorem dL_law_3060 : decode cL_law 3060 = .ok (.iconst 0, 1) := dk_3 (dk_at dksL_law_124 3 rfl rfl)
theorem dL_law_3061 : decode cL_law 3061 = .ok (.ireturn, 1) := dk_172 (dk_at dksL_law_124 4 rfl rfl)
theorem dL_law_3062 : decode cL_law 3062 = .ok (.iload 5, 2) := dk_21 5 (dk_at dksL_law_124 5 rfl rfl)
theorem dL_law_3064 : decode cL_law 3064 = .ok (.ifCond .ne 15, 3) := dk_154 0 15 (dk_at dksL_law_124 7 rfl rfl)
theorem dL_law_3067 : decode cL_law 3067 = .ok (.aload_n 3, 1) := dk_45 (dk_at dksL_law_124 10 rfl rfl)
theorem dL_law_3068 : decode cL_law 3068 = .ok (.iconst 0, 1) := dk_3 (dk_at dksL_law_124 11 rfl rfl)
theorem dL_law_3069 : decode cL_law 3069 = .ok (.laload, 1) := dk_47 (dk_at dksL_law_124 12 rfl rfl)
theorem dL_law_3070 : decode cL_law 3070 = .ok (.iload 6, 2) := dk_21 6 (dk_at dksL_law_124 13 rfl rfl)
theorem dL_law_3072 : decode cL_law 3072 = .ok (.i2l, 1) := dk_133 (dk_at dksL_law_124 15 rfl rfl)
theorem dL_law_3073 : decode cL_law 3073 = .ok (.lcmp, 1) := dk_148 (dk_at dksL_law_124 16 rfl rfl)
theorem dL_law_3074 : decode cL_law 3074 = .ok (.ifCond .eq 5, 3) := dk_153 0 5 (dk_at dksL_law_124 17 rfl rfl)
theorem dL_law_3077 : decode cL_law 3077 = .ok (.iconst 0, 1) := dk_3 (dk_at dksL_law_124 20 rfl rfl)
theorem dL_law_3078 : decode cL_law 3078 = .ok (.ireturn, 1) := dk_172 (dk_at dksL_law_124 21 rfl rfl)
theorem dL_law_3079 : decode cL_law 3079 = .ok (.goto 181, 3) := dk_167 0 181 (dk_at dksL_law_125 0 rfl rfl)
theorem dL_law_3082 : decode cL_law 3082 = .ok (.aload_n 1, 1) := dk_43 (dk_at dksL_law_125 3 rfl rfl)
theorem dL_law_3083 : decode cL_law 3083 = .ok (.aload_n 0, 1) := dk_42 (dk_at dksL_law_125 4 rfl rfl)
theorem dL_law_3084 : decode cL_law 3084 = .ok (.iload 4, 2) := dk_21 4 (dk_at dksL_law_125 5 rfl rfl)
theorem dL_law_3086 : decode cL_law 3086 = .ok (.iconst 1, 1) := dk_4 (dk_at dksL_law_125 7 rfl rfl)
theorem dL_law_3087 : decode cL_law 3087 = .ok (.iadd, 1) := dk_96 (dk_at dksL_law_125 8 rfl rfl)
theorem dL_law_3088 : decode cL_law 3088 = .ok (.iaload, 1) := dk_46 (dk_at dksL_law_125 9 rfl rfl)
theorem dL_law_3089 : decode cL_law 3089 = .ok (.invokevirtual 276, 3) := dk_182 1 20 (dk_at dksL_law_125 10 rfl rfl)
theorem dL_law_3092 : decode cL_law 3092 = .ok (.aload_n 2, 1) := dk_44 (dk_at dksL_law_125 13 rfl rfl)
theorem dL_law_3093 : decode cL_law 3093 = .ok (.aload_n 0, 1) := dk_42 (dk_at dksL_law_125 14 rfl rfl)
theorem dL_law_3094 : decode cL_law 3094 = .ok (.iload 4, 2) := dk_21 4 (dk_at dksL_law_125 15 rfl rfl)
theorem dL_law_3096 : decode cL_law 3096 = .ok (.iconst 1, 1) := dk_4 (dk_at dksL_law_125 17 rfl rfl)
theorem dL_law_3097 : decode cL_law 3097 = .ok (.iadd, 1) := dk_96 (dk_at dksL_law_125 18 rfl rfl)
theorem dL_law_3098 : decode cL_law 3098 = .ok (.iaload, 1) := dk_46 (dk_at dksL_law_125 19 rfl rfl)
theorem dL_law_3099 : decode cL_law 3099 = .ok (.invokevirtual 279, 3) := dk_182 1 23 (dk_at dksL_law_125 20 rfl rfl)
theorem dL_law_3102 : decode cL_law 3102 = .ok (.if_icmp .eq 158, 3) := dk_159 0 158 (dk_at dksL_law_126 0 rfl rfl)
theorem dL_law_3105 : decode cL_law 3105 = .ok (.iconst 0, 1) := dk_3 (dk_at dksL_law_126 3 rfl rfl)
theorem dL_law_3106 : decode cL_law 3106 = .ok (.ireturn, 1) := dk_172 (dk_at dksL_law_126 4 rfl rfl)
theorem dL_law_3107 : decode cL_law 3107 = .ok (.aload_n 1, 1) := dk_43 (dk_at dksL_law_126 5 rfl rfl)
theorem dL_law_3108 : decode cL_law 3108 = .ok (.aload_n 0, 1) := dk_42 (dk_at dksL_law_126 6 rfl rfl)
theorem dL_law_3109 : decode cL_law 3109 = .ok (.iload 4, 2) := dk_21 4 (dk_at dksL_law_126 7 rfl rfl)
theorem dL_law_3111 : decode cL_law 3111 = .ok (.iconst 1, 1) := dk_4 (dk_at dksL_law_126 9 rfl rfl)
theorem dL_law_3112 : decode cL_law 3112 = .ok (.iadd, 1) := dk_96 (dk_at dksL_law_126 10 rfl rfl)
theorem dL_law_3113 : decode cL_law 3113 = .ok (.iaload, 1) := dk_46 (dk_at dksL_law_126 11 rfl rfl)
theorem dL_law_3114 : decode cL_law 3114 = .ok (.aload_n 3, 1) := dk_45 (dk_at dksL_law_126 12 rfl rfl)
theorem dL_law_3115 : decode cL_law 3115 = .ok (.invokestatic 280, 3) := dk_184 1 24 (dk_at dksL_law_126 13 rfl rfl)
theorem dL_law_3118 : decode cL_law 3118 = .ok (.istore 5, 2) := dk_54 5 (dk_at dksL_law_126 16 rfl rfl)
theorem dL_law_3120 : decode cL_law 3120 = .ok (.aload_n 2, 1) := dk_44 (dk_at dksL_law_126 18 rfl rfl)
theorem dL_law_3121 : decode cL_law 3121 = .ok (.aload_n 0, 1) := dk_42 (dk_at dksL_law_126 19 rfl rfl)
theorem dL_law_3122 : decode cL_law 3122 = .ok (.iload 4, 2) := dk_21 4 (dk_at dksL_law_126 20 rfl rfl)
theorem dL_law_3124 : decode cL_law 3124 = .ok (.iconst 1, 1) := dk_4 (dk_at dksL_law_126 22 rfl rfl)
theorem dL_law_3125 : decode cL_law 3125 = .ok (.iadd, 1) := dk_96 (dk_at dksL_law_126 23 rfl rfl)
theorem dL_law_3126 : decode cL_law 3126 = .ok (.iaload, 1) := dk_46 (dk_at dksL_law_127 0 rfl rfl)
theorem dL_law_3127 : decode cL_law 3127 = .ok (.invokevirtual 282, 3) := dk_182 1 26 (dk_at dksL_law_127 1 rfl rfl)
theorem dL_law_3130 : decode cL_law 3130 = .ok (.istore 6, 2) := dk_54 6 (dk_at dksL_law_127 4 rfl rfl)
theorem dL_law_3132 : decode cL_law 3132 = .ok (.aload_n 2, 1) := dk_44 (dk_at dksL_law_127 6 rfl rfl)
theorem dL_law_3133 : decode cL_law 3133 = .ok (.invokevirtual 157, 3) := dk_182 0 157 (dk_at dksL_law_127 7 rfl rfl)
theorem dL_law_3136 : decode cL_law 3136 = .ok (.iload 5, 2) := dk_21 5 (dk_at dksL_law_127 10 rfl rfl)
theorem dL_law_3138 : decode cL_law 3138 = .ok (.if_icmp .eq 5, 3) := dk_159 0 5 (dk_at dksL_law_127 12 rfl rfl)
theorem dL_law_3141 : decode cL_law 3141 = .ok (.iconst 0, 1) := dk_3 (dk_at dksL_law_127 15 rfl rfl)
theorem dL_law_3142 : decode cL_law 3142 = .ok (.ireturn, 1) := dk_172 (dk_at dksL_law_127 16 rfl rfl)
theorem dL_law_3143 : decode cL_law 3143 = .ok (.iload 5, 2) := dk_21 5 (dk_at dksL_law_127 17 rfl rfl)
theorem dL_law_3145 : decode cL_law 3145 = .ok (.ifCond .ne 15, 3) := dk_154 0 15 (dk_at dksL_law_127 19 rfl rfl)
theorem dL_law_3148 : decode cL_law 3148 = .ok (.aload_n 3, 1) := dk_45 (dk_at dksL_law_127 22 rfl rfl)
theorem dL_law_3149 : decode cL_law 3149 = .ok (.iconst 0, 1) := dk_3 (dk_at dksL_law_127 23 rfl rfl)
theorem dL_law_3150 : decode cL_law 3150 = .ok (.laload, 1) := dk_47 (dk_at dksL_law_128 0 rfl rfl)
theorem dL_law_3151 : decode cL_law 3151 = .ok (.iload 6, 2) := dk_21 6 (dk_at dksL_law_128 1 rfl rfl)
theorem dL_law_3153 : decode cL_law 3153 = .ok (.i2l, 1) := dk_133 (dk_at dksL_law_128 3 rfl rfl)
theorem dL_law_3154 : decode cL_law 3154 = .ok (.lcmp, 1) := dk_148 (dk_at dksL_law_128 4 rfl rfl)
theorem dL_law_3155 : decode cL_law 3155 = .ok (.ifCond .eq 5, 3) := dk_153 0 5 (dk_at dksL_law_128 5 rfl rfl)
theorem dL_law_3158 : decode cL_law 3158 = .ok (.iconst 0, 1) := dk_3 (dk_at dksL_law_128 8 rfl rfl)
theorem dL_law_3159 : decode cL_law 3159 = .ok (.ireturn, 1) := dk_172 (dk_at dksL_law_128 9 rfl rfl)
theorem dL_law_3160 : decode cL_law 3160 = .ok (.goto 100, 3) := dk_167 0 100 (dk_at dksL_law_128 10 rfl rfl)
theorem dL_law_3163 : decode cL_law 3163 = .ok (.aload_n 1, 1) := dk_43 (dk_at dksL_law_128 13 rfl rfl)
theorem dL_law_3164 : decode cL_law 3164 = .ok (.invokevirtual 283, 3) := dk_182 1 27 (dk_at dksL_law_128 14 rfl rfl)
theorem dL_law_3167 : decode cL_law 3167 = .ok (.aload_n 2, 1) := dk_44 (dk_at dksL_law_128 17 rfl rfl)
theorem dL_law_3168 : decode cL_law 3168 = .ok (.invokevirtual 286, 3) := dk_182 1 30 (dk_at dksL_law_128 18 rfl rfl)
theorem dL_law_3171 : decode cL_law 3171 = .ok (.if_icmp .eq 89, 3) := dk_159 0 89 (dk_at dksL_law_128 21 rfl rfl)
theorem dL_law_3174 : decode cL_law 3174 = .ok (.iconst 0, 1) := dk_3 (dk_at dksL_law_129 0 rfl rfl)
theorem dL_law_3175 : decode cL_law 3175 = .ok (.ireturn, 1) := dk_172 (dk_at dksL_law_129 1 rfl rfl)
theorem dL_law_3176 : decode cL_law 3176 = .ok (.aload_n 1, 1) := dk_43 (dk_at dksL_law_129 2 rfl rfl)
theorem dL_law_3177 : decode cL_law 3177 = .ok (.invokevirtual 287, 3) := dk_182 1 31 (dk_at dksL_law_129 3 rfl rfl)
theorem dL_law_3180 : decode cL_law 3180 = .ok (.dstore 5, 2) := dk_57 5 (dk_at dksL_law_129 6 rfl rfl)
theorem dL_law_3182 : decode cL_law 3182 = .ok (.aload_n 2, 1) := dk_44 (dk_at dksL_law_129 8 rfl rfl)
theorem dL_law_3183 : decode cL_law 3183 = .ok (.invokevirtual 291, 3) := dk_182 1 35 (dk_at dksL_law_129 9 rfl rfl)
theorem dL_law_3186 : decode cL_law 3186 = .ok (.dstore 7, 2) := dk_57 7 (dk_at dksL_law_129 12 rfl rfl)
theorem dL_law_3188 : decode cL_law 3188 = .ok (.dload 5, 2) := dk_24 5 (dk_at dksL_law_129 14 rfl rfl)
theorem dL_law_3190 : decode cL_law 3190 = .ok (.dload 7, 2) := dk_24 7 (dk_at dksL_law_129 16 rfl rfl)
theorem dL_law_3192 : decode cL_law 3192 = .ok (.dcmp .l, 1) := dk_151 (dk_at dksL_law_129 18 rfl rfl)
theorem dL_law_3193 : decode cL_law 3193 = .ok (.ifCond .eq 21, 3) := dk_153 0 21 (dk_at dksL_law_129 19 rfl rfl)
theorem dL_law_3196 : decode cL_law 3196 = .ok (.dload 5, 2) := dk_24 5 (dk_at dksL_law_129 22 rfl rfl)
theorem dL_law_3198 : decode cL_law 3198 = .ok (.dload 5, 2) := dk_24 5 (dk_at dksL_law_130 0 rfl rfl)
theorem dL_law_3200 : decode cL_law 3200 = .ok (.dcmp .l, 1) := dk_151 (dk_at dksL_law_130 2 rfl rfl)
theorem dL_law_3201 : decode cL_law 3201 = .ok (.ifCond .eq 11, 3) := dk_153 0 11 (dk_at dksL_law_130 3 rfl rfl)
theorem dL_law_3204 : decode cL_law 3204 = .ok (.dload 7, 2) := dk_24 7 (dk_at dksL_law_130 6 rfl rfl)
theorem dL_law_3206 : decode cL_law 3206 = .ok (.dload 7, 2) := dk_24 7 (dk_at dksL_law_130 8 rfl rfl)
theorem dL_law_3208 : decode cL_law 3208 = .ok (.dcmp .l, 1) := dk_151 (dk_at dksL_law_130 10 rfl rfl)
theorem dL_law_3209 : decode cL_law 3209 = .ok (.ifCond .ne 5, 3) := dk_154 0 5 (dk_at dksL_law_130 11 rfl rfl)
theorem dL_law_3212 : decode cL_law 3212 = .ok (.iconst 0, 1) := dk_3 (dk_at dksL_law_130 14 rfl rfl)
theorem dL_law_3213 : decode cL_law 3213 = .ok (.ireturn, 1) := dk_172 (dk_at dksL_law_130 15 rfl rfl)
theorem dL_law_3214 : decode cL_law 3214 = .ok (.goto 46, 3) := dk_167 0 46 (dk_at dksL_law_130 16 rfl rfl)
theorem dL_law_3217 : decode cL_law 3217 = .ok (.aload_n 1, 1) := dk_43 (dk_at dksL_law_130 19 rfl rfl)
theorem dL_law_3218 : decode cL_law 3218 = .ok (.invokevirtual 292, 3) := dk_182 1 36 (dk_at dksL_law_130 20 rfl rfl)
theorem dL_law_3221 : decode cL_law 3221 = .ok (.f2d, 1) := dk_141 (dk_at dksL_law_130 23 rfl rfl)
theorem dL_law_3222 : decode cL_law 3222 = .ok (.dstore 5, 2) := dk_57 5 (dk_at dksL_law_131 0 rfl rfl)
theorem dL_law_3224 : decode cL_law 3224 = .ok (.aload_n 2, 1) := dk_44 (dk_at dksL_law_131 2 rfl rfl)
theorem dL_law_3225 : decode cL_law 3225 = .ok (.invokevirtual 296, 3) := dk_182 1 40 (dk_at dksL_law_131 3 rfl rfl)
theorem dL_law_3228 : decode cL_law 3228 = .ok (.f2d, 1) := dk_141 (dk_at dksL_law_131 6 rfl rfl)
theorem dL_law_3229 : decode cL_law 3229 = .ok (.dstore 7, 2) := dk_57 7 (dk_at dksL_law_131 7 rfl rfl)
theorem dL_law_3231 : decode cL_law 3231 = .ok (.dload 5, 2) := dk_24 5 (dk_at dksL_law_131 9 rfl rfl)
theorem dL_law_3233 : decode cL_law 3233 = .ok (.dload 7, 2) := dk_24 7 (dk_at dksL_law_131 11 rfl rfl)
theorem dL_law_3235 : decode cL_law 3235 = .ok (.dcmp .l, 1) := dk_151 (dk_at dksL_law_131 13 rfl rfl)
theorem dL_law_3236 : decode cL_law 3236 = .ok (.ifCond .eq 21, 3) := dk_153 0 21 (dk_at dksL_law_131 14 rfl rfl)
theorem dL_law_3239 : decode cL_law 3239 = .ok (.dload 5, 2) := dk_24 5 (dk_at dksL_law_131 17 rfl rfl)
theorem dL_law_3241 : decode cL_law 3241 = .ok (.dload 5, 2) := dk_24 5 (dk_at dksL_law_131 19 rfl rfl)
theorem dL_law_3243 : decode cL_law 3243 = .ok (.dcmp .l, 1) := dk_151 (dk_at dksL_law_131 21 rfl rfl)
theorem dL_law_3244 : decode cL_law 3244 = .ok (.ifCond .eq 11, 3) := dk_153 0 11 (dk_at dksL_law_132 0 rfl rfl)
theorem dL_law_3247 : decode cL_law 3247 = .ok (.dload 7, 2) := dk_24 7 (dk_at dksL_law_132 3 rfl rfl)
theorem dL_law_3249 : decode cL_law 3249 = .ok (.dload 7, 2) := dk_24 7 (dk_at dksL_law_132 5 rfl rfl)
theorem dL_law_3251 : decode cL_law 3251 = .ok (.dcmp .l, 1) := dk_151 (dk_at dksL_law_132 7 rfl rfl)
theorem dL_law_3252 : decode cL_law 3252 = .ok (.ifCond .ne 5, 3) := dk_154 0 5 (dk_at dksL_law_132 8 rfl rfl)
theorem dL_law_3255 : decode cL_law 3255 = .ok (.iconst 0, 1) := dk_3 (dk_at dksL_law_132 11 rfl rfl)
theorem dL_law_3256 : decode cL_law 3256 = .ok (.ireturn, 1) := dk_172 (dk_at dksL_law_132 12 rfl rfl)
theorem dL_law_3257 : decode cL_law 3257 = .ok (.goto 3, 3) := dk_167 0 3 (dk_at dksL_law_132 13 rfl rfl)
theorem dL_law_3260 : decode cL_law 3260 = .ok (.iinc 4 7, 3) := dk_132 4 7 (dk_at dksL_law_132 16 rfl rfl)
theorem dL_law_3263 : decode cL_law 3263 = .ok (.goto (-3240), 3) := dk_167 243 88 (dk_at dksL_law_132 19 rfl rfl)
theorem dL_law_3266 : decode cL_law 3266 = .ok (.iconst 1, 1) := dk_4 (dk_at dksL_law_132 22 rfl rfl)
theorem dL_law_3267 : decode cL_law 3267 = .ok (.ireturn, 1) := dk_172 (dk_at dksL_law_132 23 rfl rfl)
