/-! Scrutineery$Person -/
set_option maxRecDepth 100000
def RX3 : String := "Scrutineery$Person"
def TX3 : u_T := fun k => match k with
  | 0 => ("Scrutineery$Person", "number", "I", true)
  | 1 => ("Scrutineery$Person", "age", "I", true)
  | 2 => ("Scrutineery$Person", "points", "[I", true)
  | 3 => ("Scrutineery$Person", "kin", "Ljava/util/List;", true)
  | 4 => ("Scrutineery$Person", "taught", "Ljava/util/List;", true)
  | 5 => ("Scrutineery$Person", "licence", "I", false)
  | 6 => ("Scrutineery$Person", "suspended", "I", false)
  | 7 => ("Scrutineery$Person", "warnings", "I", false)
  | _ => ("Scrutineery$Person", "medals", "I", false)
def tyX3 : Nat → FieldType := fun k => match k with
  | 0 => .int
  | 1 => .int
  | 2 => .array .int
  | 3 => .object "java/util/List"
  | 4 => .object "java/util/List"
  | 5 => .int
  | 6 => .int
  | 7 => .int
  | _ => .int
abbrev wsX30 : List Cond := u_ws RX3 TX3 9
theorem nmX3 : ∀ a, a < 9 → ∀ b, b < 9 → a ≠ b → (TX3 a).2.1 ≠ (TX3 b).2.1 := by decide +kernel
theorem tyX3_ok : ∀ k, k < 9 → parseFieldDescriptor (TX3 k).2.2.1 = some (tyX3 k) := by decide +kernel
abbrev cX3_init : ByteArray := prog_12_method_1_code
def yX3_init : MethodName := ⟨RX3, "<init>", "(II)V"⟩
def dkwX3_init_2 : List UInt8 := [181, 0, 32, 177]
abbrev dktX3_init_2 : List UInt8 := dkwX3_init_2 ++ []
def dkwX3_init_1 : List UInt8 := [187, 0, 15, 89, 183, 0, 17, 181, 0, 22, 42, 2, 181, 0, 25, 42, 27, 181, 0, 29, 42, 28]
abbrev dktX3_init_1 : List UInt8 := dkwX3_init_1 ++ dktX3_init_2
def dkwX3_init_0 : List UInt8 := [42, 183, 0, 3, 42, 5, 188, 10, 181, 0, 9, 42, 187, 0, 15, 89, 183, 0, 17, 181, 0, 18, 42]
abbrev dktX3_init_0 : List UInt8 := dkwX3_init_0 ++ dktX3_init_1
theorem dksX3_init_0 : cX3_init.data.toList.drop 0 = dktX3_init_0 := by decide +kernel
theorem dksX3_init_1 : cX3_init.data.toList.drop 23 = dktX3_init_1 := dk_seg dksX3_init_0 23 rfl rfl
theorem dksX3_init_2 : cX3_init.data.toList.drop 45 = dktX3_init_2 := dk_seg dksX3_init_1 22 rfl rfl
theorem dX3_init_0 : decode cX3_init 0 = .ok (.aload_n 0, 1) := dk_42 (dk_at dksX3_init_0 0 rfl rfl)
theorem dX3_init_1 : decode cX3_init 1 = .ok (.invokespecial 3, 3) := dk_183 0 3 (dk_at dksX3_init_0 1 rfl rfl)
theorem dX3_init_4 : decode cX3_init 4 = .ok (.aload_n 0, 1) := dk_42 (dk_at dksX3_init_0 4 rfl rfl)
theorem dX3_init_5 : decode cX3_init 5 = .ok (.iconst 2, 1) := dk_5 (dk_at dksX3_init_0 5 rfl rfl)
theorem dX3_init_6 : decode cX3_init 6 = .ok (.newarray .int, 2) := dk_188_10 (dk_at dksX3_init_0 6 rfl rfl)
theorem dX3_init_8 : decode cX3_init 8 = .ok (.putfield 9, 3) := dk_181 0 9 (dk_at dksX3_init_0 8 rfl rfl)
theorem dX3_init_11 : decode cX3_init 11 = .ok (.aload_n 0, 1) := dk_42 (dk_at dksX3_init_0 11 rfl rfl)
theorem dX3_init_12 : decode cX3_init 12 = .ok (.new 15, 3) := dk_187 0 15 (dk_at dksX3_init_0 12 rfl rfl)
theorem dX3_init_15 : decode cX3_init 15 = .ok (.dup, 1) := dk_89 (dk_at dksX3_init_0 15 rfl rfl)
theorem dX3_init_16 : decode cX3_init 16 = .ok (.invokespecial 17, 3) := dk_183 0 17 (dk_at dksX3_init_0 16 rfl rfl)
theorem dX3_init_19 : decode cX3_init 19 = .ok (.putfield 18, 3) := dk_181 0 18 (dk_at dksX3_init_0 19 rfl rfl)
theorem dX3_init_22 : decode cX3_init 22 = .ok (.aload_n 0, 1) := dk_42 (dk_at dksX3_init_0 22 rfl rfl)
theorem dX3_init_23 : decode cX3_init 23 = .ok (.new 15, 3) := dk_187 0 15 (dk_at dksX3_init_1 0 rfl rfl)
theorem dX3_init_26 : decode cX3_init 26 = .ok (.dup, 1) := dk_89 (dk_at dksX3_init_1 3 rfl rfl)
theorem dX3_init_27 : decode cX3_init 27 = .ok (.invokespecial 17, 3) := dk_183 0 17 (dk_at dksX3_init_1 4 rfl rfl)
theorem dX3_init_30 : decode cX3_init 30 = .ok (.putfield 22, 3) := dk_181 0 22 (dk_at dksX3_init_1 7 rfl rfl)
theorem dX3_init_33 : decode cX3_init 33 = .ok (.aload_n 0, 1) := dk_42 (dk_at dksX3_init_1 10 rfl rfl)
theorem dX3_init_34 : decode cX3_init 34 = .ok (.iconst (-1), 1) := dk_2 (dk_at dksX3_init_1 11 rfl rfl)
theorem dX3_init_35 : decode cX3_init 35 = .ok (.putfield 25, 3) := dk_181 0 25 (dk_at dksX3_init_1 12 rfl rfl)
theorem dX3_init_38 : decode cX3_init 38 = .ok (.aload_n 0, 1) := dk_42 (dk_at dksX3_init_1 15 rfl rfl)
theorem dX3_init_39 : decode cX3_init 39 = .ok (.iload_n 1, 1) := dk_27 (dk_at dksX3_init_1 16 rfl rfl)
theorem dX3_init_40 : decode cX3_init 40 = .ok (.putfield 29, 3) := dk_181 0 29 (dk_at dksX3_init_1 17 rfl rfl)
theorem dX3_init_43 : decode cX3_init 43 = .ok (.aload_n 0, 1) := dk_42 (dk_at dksX3_init_1 20 rfl rfl)
theorem dX3_init_44 : decode cX3_init 44 = .ok (.iload_n 2, 1) := dk_28 (dk_at dksX3_init_1 21 rfl rfl)
theorem dX3_init_45 : decode cX3_init 45 = .ok (.putfield 32, 3) := dk_181 0 32 (dk_at dksX3_init_2 0 rfl rfl)
theorem dX3_init_48 : decode cX3_init 48 = .ok (.return_, 1) := dk_177 (dk_at dksX3_init_2 3 rfl rfl)
abbrev cX3_isProfessional : ByteArray := prog_12_method_2_code
def yX3_isProfessional : MethodName := ⟨RX3, "isProfessional", "()Z"⟩
def dkwX3_isProfessional_0 : List UInt8 := [42, 180, 0, 22, 185, 0, 35, 1, 0, 6, 161, 0, 7, 4, 167, 0, 4, 3, 172]
abbrev dktX3_isProfessional_0 : List UInt8 := dkwX3_isProfessional_0 ++ []
theorem dksX3_isProfessional_0 : cX3_isProfessional.data.toList.drop 0 = dktX3_isProfessional_0 := by decide +kernel
theorem dX3_isProfessional_0 : decode cX3_isProfessional 0 = .ok (.aload_n 0, 1) := dk_42 (dk_at dksX3_isProfessional_0 0 rfl rfl)
theorem dX3_isProfessional_1 : decode cX3_isProfessional 1 = .ok (.getfield 22, 3) := dk_180 0 22 (dk_at dksX3_isProfessional_0 1 rfl rfl)
theorem dX3_isProfessional_4 : decode cX3_isProfessional 4 = .ok (.invokeinterface 35 1, 5) := by decide +kernel
theorem dX3_isProfessional_9 : decode cX3_isProfessional 9 = .ok (.iconst 3, 1) := dk_6 (dk_at dksX3_isProfessional_0 9 rfl rfl)
theorem dX3_isProfessional_10 : decode cX3_isProfessional 10 = .ok (.if_icmp .lt 7, 3) := dk_161 0 7 (dk_at dksX3_isProfessional_0 10 rfl rfl)
theorem dX3_isProfessional_13 : decode cX3_isProfessional 13 = .ok (.iconst 1, 1) := dk_4 (dk_at dksX3_isProfessional_0 13 rfl rfl)
theorem dX3_isProfessional_14 : decode cX3_isProfessional 14 = .ok (.goto 4, 3) := dk_167 0 4 (dk_at dksX3_isProfessional_0 14 rfl rfl)
theorem dX3_isProfessional_17 : decode cX3_isProfessional 17 = .ok (.iconst 0, 1) := dk_3 (dk_at dksX3_isProfessional_0 17 rfl rfl)
theorem dX3_isProfessional_18 : decode cX3_isProfessional 18 = .ok (.ireturn, 1) := dk_172 (dk_at dksX3_isProfessional_0 18 rfl rfl)
abbrev cX3_mayWear : ByteArray := prog_12_method_4_code
def yX3_mayWear : MethodName := ⟨RX3, "mayWear", "(I)Z"⟩
def dkwX3_mayWear_1 : List UInt8 := [167, 0, 4, 5, 163, 0, 7, 4, 167, 0, 4, 3, 172]
abbrev dktX3_mayWear_1 : List UInt8 := dkwX3_mayWear_1 ++ []
def dkwX3_mayWear_0 : List UInt8 := [27, 42, 180, 0, 32, 16, 12, 162, 0, 7, 3, 167, 0, 17, 42, 180, 0, 32, 16, 16, 162, 0, 7, 4]
abbrev dktX3_mayWear_0 : List UInt8 := dkwX3_mayWear_0 ++ dktX3_mayWear_1
theorem dksX3_mayWear_0 : cX3_mayWear.data.toList.drop 0 = dktX3_mayWear_0 := by decide +kernel
theorem dksX3_mayWear_1 : cX3_mayWear.data.toList.drop 24 = dktX3_mayWear_1 := dk_seg dksX3_mayWear_0 24 rfl rfl
theorem dX3_mayWear_0 : decode cX3_mayWear 0 = .ok (.iload_n 1, 1) := dk_27 (dk_at dksX3_mayWear_0 0 rfl rfl)
theorem dX3_mayWear_1 : decode cX3_mayWear 1 = .ok (.aload_n 0, 1) := dk_42 (dk_at dksX3_mayWear_0 1 rfl rfl)
theorem dX3_mayWear_2 : decode cX3_mayWear 2 = .ok (.getfield 32, 3) := dk_180 0 32 (dk_at dksX3_mayWear_0 2 rfl rfl)
theorem dX3_mayWear_5 : decode cX3_mayWear 5 = .ok (.bipush 12, 2) := dk_16 12 (dk_at dksX3_mayWear_0 5 rfl rfl)
theorem dX3_mayWear_7 : decode cX3_mayWear 7 = .ok (.if_icmp .ge 7, 3) := dk_162 0 7 (dk_at dksX3_mayWear_0 7 rfl rfl)
theorem dX3_mayWear_10 : decode cX3_mayWear 10 = .ok (.iconst 0, 1) := dk_3 (dk_at dksX3_mayWear_0 10 rfl rfl)
theorem dX3_mayWear_11 : decode cX3_mayWear 11 = .ok (.goto 17, 3) := dk_167 0 17 (dk_at dksX3_mayWear_0 11 rfl rfl)
theorem dX3_mayWear_14 : decode cX3_mayWear 14 = .ok (.aload_n 0, 1) := dk_42 (dk_at dksX3_mayWear_0 14 rfl rfl)
theorem dX3_mayWear_15 : decode cX3_mayWear 15 = .ok (.getfield 32, 3) := dk_180 0 32 (dk_at dksX3_mayWear_0 15 rfl rfl)
theorem dX3_mayWear_18 : decode cX3_mayWear 18 = .ok (.bipush 16, 2) := dk_16 16 (dk_at dksX3_mayWear_0 18 rfl rfl)
theorem dX3_mayWear_20 : decode cX3_mayWear 20 = .ok (.if_icmp .ge 7, 3) := dk_162 0 7 (dk_at dksX3_mayWear_0 20 rfl rfl)
theorem dX3_mayWear_23 : decode cX3_mayWear 23 = .ok (.iconst 1, 1) := dk_4 (dk_at dksX3_mayWear_0 23 rfl rfl)
theorem dX3_mayWear_24 : decode cX3_mayWear 24 = .ok (.goto 4, 3) := dk_167 0 4 (dk_at dksX3_mayWear_1 0 rfl rfl)
theorem dX3_mayWear_27 : decode cX3_mayWear 27 = .ok (.iconst 2, 1) := dk_5 (dk_at dksX3_mayWear_1 3 rfl rfl)
theorem dX3_mayWear_28 : decode cX3_mayWear 28 = .ok (.if_icmp .gt 7, 3) := dk_163 0 7 (dk_at dksX3_mayWear_1 4 rfl rfl)
theorem dX3_mayWear_31 : decode cX3_mayWear 31 = .ok (.iconst 1, 1) := dk_4 (dk_at dksX3_mayWear_1 7 rfl rfl)
theorem dX3_mayWear_32 : decode cX3_mayWear 32 = .ok (.goto 4, 3) := dk_167 0 4 (dk_at dksX3_mayWear_1 8 rfl rfl)
theorem dX3_mayWear_35 : decode cX3_mayWear 35 = .ok (.iconst 0, 1) := dk_3 (dk_at dksX3_mayWear_1 11 rfl rfl)
theorem dX3_mayWear_36 : decode cX3_mayWear 36 = .ok (.ireturn, 1) := dk_172 (dk_at dksX3_mayWear_1 12 rfl rfl)
abbrev cX3_grade : ByteArray := prog_12_method_3_code
def yX3_grade : MethodName := ⟨RX3, "grade", "(I)I"⟩
def dkwX3_grade_2 : List UInt8 := [7, 172]
abbrev dktX3_grade_2 : List UInt8 := dkwX3_grade_2 ++ []
def dkwX3_grade_1 : List UInt8 := [167, 0, 25, 28, 16, 70, 162, 0, 7, 5, 167, 0, 15, 28, 17, 0, 150, 162, 0, 7, 6, 167, 0, 4]
abbrev dktX3_grade_1 : List UInt8 := dkwX3_grade_1 ++ dktX3_grade_2
def dkwX3_grade_0 : List UInt8 := [42, 180, 0, 9, 27, 46, 61, 28, 16, 10, 162, 0, 7, 3, 167, 0, 35, 28, 16, 30, 162, 0, 7, 4]
abbrev dktX3_grade_0 : List UInt8 := dkwX3_grade_0 ++ dktX3_grade_1
theorem dksX3_grade_0 : cX3_grade.data.toList.drop 0 = dktX3_grade_0 := by decide +kernel
theorem dksX3_grade_1 : cX3_grade.data.toList.drop 24 = dktX3_grade_1 := dk_seg dksX3_grade_0 24 rfl rfl
theorem dksX3_grade_2 : cX3_grade.data.toList.drop 48 = dktX3_grade_2 := dk_seg dksX3_grade_1 24 rfl rfl
theorem dX3_grade_0 : decode cX3_grade 0 = .ok (.aload_n 0, 1) := dk_42 (dk_at dksX3_grade_0 0 rfl rfl)
theorem dX3_grade_1 : decode cX3_grade 1 = .ok (.getfield 9, 3) := dk_180 0 9 (dk_at dksX3_grade_0 1 rfl rfl)
theorem dX3_grade_4 : decode cX3_grade 4 = .ok (.iload_n 1, 1) := dk_27 (dk_at dksX3_grade_0 4 rfl rfl)
theorem dX3_grade_5 : decode cX3_grade 5 = .ok (.iaload, 1) := dk_46 (dk_at dksX3_grade_0 5 rfl rfl)
theorem dX3_grade_6 : decode cX3_grade 6 = .ok (.istore_n 2, 1) := dk_61 (dk_at dksX3_grade_0 6 rfl rfl)
theorem dX3_grade_7 : decode cX3_grade 7 = .ok (.iload_n 2, 1) := dk_28 (dk_at dksX3_grade_0 7 rfl rfl)
theorem dX3_grade_8 : decode cX3_grade 8 = .ok (.bipush 10, 2) := dk_16 10 (dk_at dksX3_grade_0 8 rfl rfl)
theorem dX3_grade_10 : decode cX3_grade 10 = .ok (.if_icmp .ge 7, 3) := dk_162 0 7 (dk_at dksX3_grade_0 10 rfl rfl)
theorem dX3_grade_13 : decode cX3_grade 13 = .ok (.iconst 0, 1) := dk_3 (dk_at dksX3_grade_0 13 rfl rfl)
theorem dX3_grade_14 : decode cX3_grade 14 = .ok (.goto 35, 3) := dk_167 0 35 (dk_at dksX3_grade_0 14 rfl rfl)
theorem dX3_grade_17 : decode cX3_grade 17 = .ok (.iload_n 2, 1) := dk_28 (dk_at dksX3_grade_0 17 rfl rfl)
theorem dX3_grade_18 : decode cX3_grade 18 = .ok (.bipush 30, 2) := dk_16 30 (dk_at dksX3_grade_0 18 rfl rfl)
theorem dX3_grade_20 : decode cX3_grade 20 = .ok (.if_icmp .ge 7, 3) := dk_162 0 7 (dk_at dksX3_grade_0 20 rfl rfl)
theorem dX3_grade_23 : decode cX3_grade 23 = .ok (.iconst 1, 1) := dk_4 (dk_at dksX3_grade_0 23 rfl rfl)
theorem dX3_grade_24 : decode cX3_grade 24 = .ok (.goto 25, 3) := dk_167 0 25 (dk_at dksX3_grade_1 0 rfl rfl)
theorem dX3_grade_27 : decode cX3_grade 27 = .ok (.iload_n 2, 1) := dk_28 (dk_at dksX3_grade_1 3 rfl rfl)
theorem dX3_grade_28 : decode cX3_grade 28 = .ok (.bipush 70, 2) := dk_16 70 (dk_at dksX3_grade_1 4 rfl rfl)
theorem dX3_grade_30 : decode cX3_grade 30 = .ok (.if_icmp .ge 7, 3) := dk_162 0 7 (dk_at dksX3_grade_1 6 rfl rfl)
theorem dX3_grade_33 : decode cX3_grade 33 = .ok (.iconst 2, 1) := dk_5 (dk_at dksX3_grade_1 9 rfl rfl)
theorem dX3_grade_34 : decode cX3_grade 34 = .ok (.goto 15, 3) := dk_167 0 15 (dk_at dksX3_grade_1 10 rfl rfl)
theorem dX3_grade_37 : decode cX3_grade 37 = .ok (.iload_n 2, 1) := dk_28 (dk_at dksX3_grade_1 13 rfl rfl)
theorem dX3_grade_38 : decode cX3_grade 38 = .ok (.sipush 150, 3) := dk_17 0 150 (dk_at dksX3_grade_1 14 rfl rfl)
theorem dX3_grade_41 : decode cX3_grade 41 = .ok (.if_icmp .ge 7, 3) := dk_162 0 7 (dk_at dksX3_grade_1 17 rfl rfl)
theorem dX3_grade_44 : decode cX3_grade 44 = .ok (.iconst 3, 1) := dk_6 (dk_at dksX3_grade_1 20 rfl rfl)
theorem dX3_grade_45 : decode cX3_grade 45 = .ok (.goto 4, 3) := dk_167 0 4 (dk_at dksX3_grade_1 21 rfl rfl)
theorem dX3_grade_48 : decode cX3_grade 48 = .ok (.iconst 4, 1) := dk_7 (dk_at dksX3_grade_2 0 rfl rfl)
theorem dX3_grade_49 : decode cX3_grade 49 = .ok (.ireturn, 1) := dk_172 (dk_at dksX3_grade_2 1 rfl rfl)
theorem q121 : (Jvm.Cond.initialized "Scrutineery$Person") ∈ lw_all := lw_g (lw_at lw_m1 11 rfl) rfl
theorem q503 : (Jvm.Cond.selects "Scrutineery$Person" ({ cls := "java/lang/Object", name := "equals", desc := "(Ljava/lang/Object;)Z" } : Jvm.MethodName) ({ cls := "java/lang/Object", name := "equals", desc := "(Ljava/lang/Object;)Z" } : Jvm.MethodName)) ∈ lw_all := lw_g (lw_at lw_m2 153 rfl) rfl
theorem q627 : (Jvm.Cond.selects "Scrutineery$Person" ({ cls := "java/lang/Object", name := "getClass", desc := "()Ljava/lang/Class;" } : Jvm.MethodName) ({ cls := "java/lang/Object", name := "getClass", desc := "()Ljava/lang/Class;" } : Jvm.MethodName)) ∈ lw_all := lw_g (lw_at lw_m3 37 rfl) rfl
theorem q797 : (Jvm.Cond.instantiable "Scrutineery$Person" (9 : Nat)) ∈ lw_all := lw_g (lw_at lw_m3 207 rfl) rfl
theorem q799 : (Jvm.Cond.instanceMethod ({ cls := "Scrutineery$Person", name := "<init>", desc := "(II)V" } : Jvm.MethodName)) ∈ lw_all := lw_g (lw_at lw_m3 209 rfl) rfl
theorem q800 : (Jvm.Cond.code ({ cls := "Scrutineery$Person", name := "<init>", desc := "(II)V" } : Jvm.MethodName) prog_12_method_1_code (3 : Nat) (Option.none : Option Jvm.ClassFile.FieldType)) ∈ lw_all := lw_g (lw_at lw_m3 210 rfl) rfl
theorem q801 : (Jvm.Cond.methodLink "Scrutineery$Person" (3 : Nat) ({ cls := "java/lang/Object", name := "<init>", desc := "()V" } : Jvm.MethodName)) ∈ lw_all := lw_g (lw_at lw_m3 211 rfl) rfl
theorem q802 : (Jvm.Cond.classLink "Scrutineery$Person" (15 : Nat) "java/util/ArrayList") ∈ lw_all := lw_g (lw_at lw_m3 212 rfl) rfl
theorem q803 : (Jvm.Cond.methodLink "Scrutineery$Person" (17 : Nat) ({ cls := "java/util/ArrayList", name := "<init>", desc := "()V" } : Jvm.MethodName)) ∈ lw_all := lw_g (lw_at lw_m3 213 rfl) rfl
theorem q804 : (Jvm.Cond.fieldLink "Scrutineery$Person" (29 : Nat) "Scrutineery$Person" "number" "I") ∈ lw_all := lw_g (lw_at lw_m3 214 rfl) rfl
theorem q806 : (Jvm.Cond.fieldLink "Scrutineery$Person" (32 : Nat) "Scrutineery$Person" "age" "I") ∈ lw_all := lw_g (lw_at lw_m3 216 rfl) rfl
theorem q809 : (Jvm.Cond.fieldLink "Scrutineery$Person" (9 : Nat) "Scrutineery$Person" "points" "[I") ∈ lw_all := lw_g (lw_at lw_m3 219 rfl) rfl
theorem q812 : (Jvm.Cond.fieldLink "Scrutineery$Person" (18 : Nat) "Scrutineery$Person" "kin" "Ljava/util/List;") ∈ lw_all := lw_g (lw_at lw_m3 222 rfl) rfl
theorem q814 : (Jvm.Cond.fieldLink "Scrutineery$Person" (22 : Nat) "Scrutineery$Person" "taught" "Ljava/util/List;") ∈ lw_all := lw_g (lw_at lw_m3 224 rfl) rfl
theorem q817 : (Jvm.Cond.fieldLink "Scrutineery$Person" (25 : Nat) "Scrutineery$Person" "suspended" "I") ∈ lw_all := lw_g (lw_at lw_m3 227 rfl) rfl
theorem q822 : (Jvm.Cond.laysFinal "Scrutineery$Person" "Scrutineery$Person" "number" "I") ∈ lw_all := lw_g (lw_at lw_m3 232 rfl) rfl
theorem q823 : (Jvm.Cond.soleField "Scrutineery$Person" "number") ∈ lw_all := lw_g (lw_at lw_m3 233 rfl) rfl
theorem q824 : (Jvm.Cond.laysFinal "Scrutineery$Person" "Scrutineery$Person" "age" "I") ∈ lw_all := lw_g (lw_at lw_m3 234 rfl) rfl
theorem q825 : (Jvm.Cond.soleField "Scrutineery$Person" "age") ∈ lw_all := lw_g (lw_at lw_m3 235 rfl) rfl
theorem q826 : (Jvm.Cond.laysFinal "Scrutineery$Person" "Scrutineery$Person" "points" "[I") ∈ lw_all := lw_g (lw_at lw_m3 236 rfl) rfl
theorem q827 : (Jvm.Cond.soleField "Scrutineery$Person" "points") ∈ lw_all := lw_g (lw_at lw_m3 237 rfl) rfl
theorem q828 : (Jvm.Cond.laysFinal "Scrutineery$Person" "Scrutineery$Person" "kin" "Ljava/util/List;") ∈ lw_all := lw_g (lw_at lw_m3 238 rfl) rfl
theorem q829 : (Jvm.Cond.soleField "Scrutineery$Person" "kin") ∈ lw_all := lw_g (lw_at lw_m3 239 rfl) rfl
theorem q830 : (Jvm.Cond.laysFinal "Scrutineery$Person" "Scrutineery$Person" "taught" "Ljava/util/List;") ∈ lw_all := lw_g (lw_at lw_m4 0 rfl) rfl
theorem q831 : (Jvm.Cond.soleField "Scrutineery$Person" "taught") ∈ lw_all := lw_g (lw_at lw_m4 1 rfl) rfl
theorem q832 : (Jvm.Cond.lays "Scrutineery$Person" "Scrutineery$Person" "licence" "I") ∈ lw_all := lw_g (lw_at lw_m4 2 rfl) rfl
theorem q833 : (Jvm.Cond.soleField "Scrutineery$Person" "licence") ∈ lw_all := lw_g (lw_at lw_m4 3 rfl) rfl
theorem q834 : (Jvm.Cond.lays "Scrutineery$Person" "Scrutineery$Person" "suspended" "I") ∈ lw_all := lw_g (lw_at lw_m4 4 rfl) rfl
theorem q835 : (Jvm.Cond.soleField "Scrutineery$Person" "suspended") ∈ lw_all := lw_g (lw_at lw_m4 5 rfl) rfl
theorem q836 : (Jvm.Cond.lays "Scrutineery$Person" "Scrutineery$Person" "warnings" "I") ∈ lw_all := lw_g (lw_at lw_m4 6 rfl) rfl
theorem q837 : (Jvm.Cond.soleField "Scrutineery$Person" "warnings") ∈ lw_all := lw_g (lw_at lw_m4 7 rfl) rfl
theorem q838 : (Jvm.Cond.lays "Scrutineery$Person" "Scrutineery$Person" "medals" "I") ∈ lw_all := lw_g (lw_at lw_m4 8 rfl) rfl
theorem q839 : (Jvm.Cond.soleField "Scrutineery$Person" "medals") ∈ lw_all := lw_g (lw_at lw_m4 9 rfl) rfl
theorem q840 : (Jvm.Cond.superclass "Scrutineery$Person" "java/lang/Object") ∈ lw_all := lw_g (lw_at lw_m4 10 rfl) rfl
theorem q940 : (Jvm.Cond.instanceMethod ({ cls := "Scrutineery$Person", name := "isProfessional", desc := "()Z" } : Jvm.MethodName)) ∈ lw_all := lw_g (lw_at lw_m4 110 rfl) rfl
theorem q941 : (Jvm.Cond.selects "Scrutineery$Person" ({ cls := "Scrutineery$Person", name := "isProfessional", desc := "()Z" } : Jvm.MethodName) ({ cls := "Scrutineery$Person", name := "isProfessional", desc := "()Z" } : Jvm.MethodName)) ∈ lw_all := lw_g (lw_at lw_m4 111 rfl) rfl
theorem q942 : (Jvm.Cond.code ({ cls := "Scrutineery$Person", name := "isProfessional", desc := "()Z" } : Jvm.MethodName) prog_12_method_2_code (1 : Nat) (Option.some Jvm.ClassFile.FieldType.boolean)) ∈ lw_all := lw_g (lw_at lw_m4 112 rfl) rfl
theorem q943 : (Jvm.Cond.interfaceEntry "Scrutineery$Person" (35 : Nat)) ∈ lw_tbl := lw_at lw_m4 113 rfl
theorem q944 : (Jvm.Cond.methodLink "Scrutineery$Person" (35 : Nat) ({ cls := "java/util/List", name := "size", desc := "()I" } : Jvm.MethodName)) ∈ lw_all := lw_g (lw_at lw_m4 114 rfl) rfl
theorem q961 : (Jvm.Cond.instanceMethod ({ cls := "Scrutineery$Person", name := "mayWear", desc := "(I)Z" } : Jvm.MethodName)) ∈ lw_all := lw_g (lw_at lw_m4 131 rfl) rfl
theorem q962 : (Jvm.Cond.selects "Scrutineery$Person" ({ cls := "Scrutineery$Person", name := "mayWear", desc := "(I)Z" } : Jvm.MethodName) ({ cls := "Scrutineery$Person", name := "mayWear", desc := "(I)Z" } : Jvm.MethodName)) ∈ lw_all := lw_g (lw_at lw_m4 132 rfl) rfl
theorem q963 : (Jvm.Cond.code ({ cls := "Scrutineery$Person", name := "mayWear", desc := "(I)Z" } : Jvm.MethodName) prog_12_method_4_code (2 : Nat) (Option.some Jvm.ClassFile.FieldType.boolean)) ∈ lw_all := lw_g (lw_at lw_m4 133 rfl) rfl
theorem q1208 : (Jvm.Cond.instanceMethod ({ cls := "Scrutineery$Person", name := "grade", desc := "(I)I" } : Jvm.MethodName)) ∈ lw_all := lw_g (lw_at lw_m5 138 rfl) rfl
theorem q1209 : (Jvm.Cond.selects "Scrutineery$Person" ({ cls := "Scrutineery$Person", name := "grade", desc := "(I)I" } : Jvm.MethodName) ({ cls := "Scrutineery$Person", name := "grade", desc := "(I)I" } : Jvm.MethodName)) ∈ lw_all := lw_g (lw_at lw_m5 139 rfl) rfl
theorem q1210 : (Jvm.Cond.code ({ cls := "Scrutineery$Person", name := "grade", desc := "(I)I" } : Jvm.MethodName) prog_12_method_3_code (3 : Nat) (Option.some Jvm.ClassFile.FieldType.int)) ∈ lw_all := lw_g (lw_at lw_m5 140 rfl) rfl
theorem q2868 : (Jvm.Cond.castable "Scrutineery$Person" "java/lang/Object") ∈ lw_tbl := lw_at lw_m12 118 rfl
theorem in_X3 : ∀ w ∈ wsX30, w ∈ lw_all := lw_in wsX30 [822, 824, 826, 828, 830, 832, 834, 836, 838] (by decide +kernel) (by decide +kernel)
/-! Scrutineery$Lesson -/
set_option maxRecDepth 100000
def RX4 : String := "Scrutineery$Lesson"
def TX4 : u_T := fun k => match k with
  | 0 => ("Scrutineery$Lesson", "teacher", "LScrutineery$Person;", true)
  | 1 => ("Scrutineery$Lesson", "pupil", "LScrutineery$Person;", true)
  | _ => ("Scrutineery$Lesson", "day", "I", true)
def tyX4 : Nat → FieldType := fun k => match k with
  | 0 => .object "Scrutineery$Person"
  | 1 => .object "Scrutineery$Person"
  | _ => .int
abbrev wsX40 : List Cond := u_ws RX4 TX4 3
theorem nmX4 : ∀ a, a < 3 → ∀ b, b < 3 → a ≠ b → (TX4 a).2.1 ≠ (TX4 b).2.1 := by decide +kernel
theorem tyX4_ok : ∀ k, k < 3 → parseFieldDescriptor (TX4 k).2.2.1 = some (tyX4 k) := by decide +kernel
abbrev cX4_equals : ByteArray := prog_10_method_4_code
def yX4_equals : MethodName := ⟨RX4, "equals", "(Ljava/lang/Object;)Z"⟩
def dkwX4_equals_0 : List UInt8 := [42, 43, 186, 0, 28, 0, 0, 172]
abbrev dktX4_equals_0 : List UInt8 := dkwX4_equals_0 ++ []
theorem dksX4_equals_0 : cX4_equals.data.toList.drop 0 = dktX4_equals_0 := by decide +kernel
theorem dX4_equals_0 : decode cX4_equals 0 = .ok (.aload_n 0, 1) := dk_42 (dk_at dksX4_equals_0 0 rfl rfl)
theorem dX4_equals_1 : decode cX4_equals 1 = .ok (.aload_n 1, 1) := dk_43 (dk_at dksX4_equals_0 1 rfl rfl)
theorem dX4_equals_2 : decode cX4_equals 2 = .ok (.invokedynamic 28, 5) := by decide +kernel
theorem dX4_equals_7 : decode cX4_equals 7 = .ok (.ireturn, 1) := dk_172 (dk_at dksX4_equals_0 7 rfl rfl)
abbrev cX4_init : ByteArray := prog_10_method_1_code
def yX4_init : MethodName := ⟨RX4, "<init>", "(LScrutineery$Person;LScrutineery$Person;I)V"⟩
def dkwX4_init_0 : List UInt8 := [42, 183, 0, 1, 42, 43, 181, 0, 7, 42, 44, 181, 0, 13, 42, 29, 181, 0, 16, 177]
abbrev dktX4_init_0 : List UInt8 := dkwX4_init_0 ++ []
theorem dksX4_init_0 : cX4_init.data.toList.drop 0 = dktX4_init_0 := by decide +kernel
theorem dX4_init_0 : decode cX4_init 0 = .ok (.aload_n 0, 1) := dk_42 (dk_at dksX4_init_0 0 rfl rfl)
theorem dX4_init_1 : decode cX4_init 1 = .ok (.invokespecial 1, 3) := dk_183 0 1 (dk_at dksX4_init_0 1 rfl rfl)
theorem dX4_init_4 : decode cX4_init 4 = .ok (.aload_n 0, 1) := dk_42 (dk_at dksX4_init_0 4 rfl rfl)
theorem dX4_init_5 : decode cX4_init 5 = .ok (.aload_n 1, 1) := dk_43 (dk_at dksX4_init_0 5 rfl rfl)
theorem dX4_init_6 : decode cX4_init 6 = .ok (.putfield 7, 3) := dk_181 0 7 (dk_at dksX4_init_0 6 rfl rfl)
theorem dX4_init_9 : decode cX4_init 9 = .ok (.aload_n 0, 1) := dk_42 (dk_at dksX4_init_0 9 rfl rfl)
theorem dX4_init_10 : decode cX4_init 10 = .ok (.aload_n 2, 1) := dk_44 (dk_at dksX4_init_0 10 rfl rfl)
theorem dX4_init_11 : decode cX4_init 11 = .ok (.putfield 13, 3) := dk_181 0 13 (dk_at dksX4_init_0 11 rfl rfl)
theorem dX4_init_14 : decode cX4_init 14 = .ok (.aload_n 0, 1) := dk_42 (dk_at dksX4_init_0 14 rfl rfl)
theorem dX4_init_15 : decode cX4_init 15 = .ok (.iload_n 3, 1) := dk_29 (dk_at dksX4_init_0 15 rfl rfl)
theorem dX4_init_16 : decode cX4_init 16 = .ok (.putfield 16, 3) := dk_181 0 16 (dk_at dksX4_init_0 16 rfl rfl)
theorem dX4_init_19 : decode cX4_init 19 = .ok (.return_, 1) := dk_177 (dk_at dksX4_init_0 19 rfl rfl)
abbrev cX4_teacher : ByteArray := prog_10_method_5_code
def yX4_teacher : MethodName := ⟨RX4, "teacher", "()LScrutineery$Person;"⟩
theorem dX4_teacher_0 : decode cX4_teacher 0 = .ok (.aload_n 0, 1) := by decide +kernel
theorem dX4_teacher_1 : decode cX4_teacher 1 = .ok (.getfield 7, 3) := by decide +kernel
theorem dX4_teacher_4 : decode cX4_teacher 4 = .ok (.areturn, 1) := by decide +kernel
abbrev cX4_pupil : ByteArray := prog_10_method_6_code
def yX4_pupil : MethodName := ⟨RX4, "pupil", "()LScrutineery$Person;"⟩
theorem dX4_pupil_0 : decode cX4_pupil 0 = .ok (.aload_n 0, 1) := by decide +kernel
theorem dX4_pupil_1 : decode cX4_pupil 1 = .ok (.getfield 13, 3) := by decide +kernel
theorem dX4_pupil_4 : decode cX4_pupil 4 = .ok (.areturn, 1) := by decide +kernel
abbrev cX4_day : ByteArray := prog_10_method_7_code
def yX4_day : MethodName := ⟨RX4, "day", "()I"⟩
theorem dX4_day_0 : decode cX4_day 0 = .ok (.aload_n 0, 1) := by decide +kernel
theorem dX4_day_1 : decode cX4_day 1 = .ok (.getfield 16, 3) := by decide +kernel
theorem dX4_day_4 : decode cX4_day 4 = .ok (.ireturn, 1) := by decide +kernel
theorem q133 : (Jvm.Cond.initialized "Scrutineery$Lesson") ∈ lw_all := lw_g (lw_at lw_m1 23 rfl) rfl
theorem q480 : (Jvm.Cond.instanceMethod ({ cls := "Scrutineery$Lesson", name := "equals", desc := "(Ljava/lang/Object;)Z" } : Jvm.MethodName)) ∈ lw_all := lw_g (lw_at lw_m2 130 rfl) rfl
theorem q481 : (Jvm.Cond.code ({ cls := "Scrutineery$Lesson", name := "equals", desc := "(Ljava/lang/Object;)Z" } : Jvm.MethodName) prog_10_method_4_code (2 : Nat) (Option.some Jvm.ClassFile.FieldType.boolean)) ∈ lw_all := lw_g (lw_at lw_m2 131 rfl) rfl
theorem q502 : (Jvm.Cond.selects "Scrutineery$Lesson" ({ cls := "java/lang/Object", name := "equals", desc := "(Ljava/lang/Object;)Z" } : Jvm.MethodName) ({ cls := "Scrutineery$Lesson", name := "equals", desc := "(Ljava/lang/Object;)Z" } : Jvm.MethodName)) ∈ lw_all := lw_g (lw_at lw_m2 152 rfl) rfl
theorem q626 : (Jvm.Cond.selects "Scrutineery$Lesson" ({ cls := "java/lang/Object", name := "getClass", desc := "()Ljava/lang/Class;" } : Jvm.MethodName) ({ cls := "java/lang/Object", name := "getClass", desc := "()Ljava/lang/Class;" } : Jvm.MethodName)) ∈ lw_all := lw_g (lw_at lw_m3 36 rfl) rfl
theorem q921 : (Jvm.Cond.instantiable "Scrutineery$Lesson" (3 : Nat)) ∈ lw_all := lw_g (lw_at lw_m4 91 rfl) rfl
theorem q923 : (Jvm.Cond.instanceMethod ({ cls := "Scrutineery$Lesson", name := "<init>", desc := "(LScrutineery$Person;LScrutineery$Person;I)V" } : Jvm.MethodName)) ∈ lw_all := lw_g (lw_at lw_m4 93 rfl) rfl
theorem q924 : (Jvm.Cond.code ({ cls := "Scrutineery$Lesson", name := "<init>", desc := "(LScrutineery$Person;LScrutineery$Person;I)V" } : Jvm.MethodName) prog_10_method_1_code (4 : Nat) (Option.none : Option Jvm.ClassFile.FieldType)) ∈ lw_all := lw_g (lw_at lw_m4 94 rfl) rfl
theorem q925 : (Jvm.Cond.methodLink "Scrutineery$Lesson" (1 : Nat) ({ cls := "java/lang/Record", name := "<init>", desc := "()V" } : Jvm.MethodName)) ∈ lw_all := lw_g (lw_at lw_m4 95 rfl) rfl
theorem q929 : (Jvm.Cond.fieldLink "Scrutineery$Lesson" (7 : Nat) "Scrutineery$Lesson" "teacher" "LScrutineery$Person;") ∈ lw_all := lw_g (lw_at lw_m4 99 rfl) rfl
theorem q930 : (Jvm.Cond.fieldLink "Scrutineery$Lesson" (13 : Nat) "Scrutineery$Lesson" "pupil" "LScrutineery$Person;") ∈ lw_all := lw_g (lw_at lw_m4 100 rfl) rfl
theorem q931 : (Jvm.Cond.fieldLink "Scrutineery$Lesson" (16 : Nat) "Scrutineery$Lesson" "day" "I") ∈ lw_all := lw_g (lw_at lw_m4 101 rfl) rfl
theorem q932 : (Jvm.Cond.laysFinal "Scrutineery$Lesson" "Scrutineery$Lesson" "teacher" "LScrutineery$Person;") ∈ lw_all := lw_g (lw_at lw_m4 102 rfl) rfl
theorem q933 : (Jvm.Cond.soleField "Scrutineery$Lesson" "teacher") ∈ lw_all := lw_g (lw_at lw_m4 103 rfl) rfl
theorem q934 : (Jvm.Cond.laysFinal "Scrutineery$Lesson" "Scrutineery$Lesson" "pupil" "LScrutineery$Person;") ∈ lw_all := lw_g (lw_at lw_m4 104 rfl) rfl
theorem q935 : (Jvm.Cond.soleField "Scrutineery$Lesson" "pupil") ∈ lw_all := lw_g (lw_at lw_m4 105 rfl) rfl
theorem q936 : (Jvm.Cond.laysFinal "Scrutineery$Lesson" "Scrutineery$Lesson" "day" "I") ∈ lw_all := lw_g (lw_at lw_m4 106 rfl) rfl
theorem q937 : (Jvm.Cond.soleField "Scrutineery$Lesson" "day") ∈ lw_all := lw_g (lw_at lw_m4 107 rfl) rfl
theorem q938 : (Jvm.Cond.superclass "Scrutineery$Lesson" "java/lang/Record") ∈ lw_all := lw_g (lw_at lw_m4 108 rfl) rfl
theorem q977 : (Jvm.Cond.instanceMethod ({ cls := "Scrutineery$Lesson", name := "teacher", desc := "()LScrutineery$Person;" } : Jvm.MethodName)) ∈ lw_all := lw_g (lw_at lw_m4 147 rfl) rfl
theorem q978 : (Jvm.Cond.selects "Scrutineery$Lesson" ({ cls := "Scrutineery$Lesson", name := "teacher", desc := "()LScrutineery$Person;" } : Jvm.MethodName) ({ cls := "Scrutineery$Lesson", name := "teacher", desc := "()LScrutineery$Person;" } : Jvm.MethodName)) ∈ lw_all := lw_g (lw_at lw_m4 148 rfl) rfl
theorem q979 : (Jvm.Cond.code ({ cls := "Scrutineery$Lesson", name := "teacher", desc := "()LScrutineery$Person;" } : Jvm.MethodName) prog_10_method_5_code (1 : Nat) (Option.some (Jvm.ClassFile.FieldType.object "Scrutineery$Person"))) ∈ lw_all := lw_g (lw_at lw_m4 149 rfl) rfl
theorem q981 : (Jvm.Cond.instanceMethod ({ cls := "Scrutineery$Lesson", name := "pupil", desc := "()LScrutineery$Person;" } : Jvm.MethodName)) ∈ lw_all := lw_g (lw_at lw_m4 151 rfl) rfl
theorem q982 : (Jvm.Cond.selects "Scrutineery$Lesson" ({ cls := "Scrutineery$Lesson", name := "pupil", desc := "()LScrutineery$Person;" } : Jvm.MethodName) ({ cls := "Scrutineery$Lesson", name := "pupil", desc := "()LScrutineery$Person;" } : Jvm.MethodName)) ∈ lw_all := lw_g (lw_at lw_m4 152 rfl) rfl
theorem q983 : (Jvm.Cond.code ({ cls := "Scrutineery$Lesson", name := "pupil", desc := "()LScrutineery$Person;" } : Jvm.MethodName) prog_10_method_6_code (1 : Nat) (Option.some (Jvm.ClassFile.FieldType.object "Scrutineery$Person"))) ∈ lw_all := lw_g (lw_at lw_m4 153 rfl) rfl
theorem q985 : (Jvm.Cond.instanceMethod ({ cls := "Scrutineery$Lesson", name := "day", desc := "()I" } : Jvm.MethodName)) ∈ lw_all := lw_g (lw_at lw_m4 155 rfl) rfl
theorem q986 : (Jvm.Cond.selects "Scrutineery$Lesson" ({ cls := "Scrutineery$Lesson", name := "day", desc := "()I" } : Jvm.MethodName) ({ cls := "Scrutineery$Lesson", name := "day", desc := "()I" } : Jvm.MethodName)) ∈ lw_all := lw_g (lw_at lw_m4 156 rfl) rfl
theorem q987 : (Jvm.Cond.code ({ cls := "Scrutineery$Lesson", name := "day", desc := "()I" } : Jvm.MethodName) prog_10_method_7_code (1 : Nat) (Option.some Jvm.ClassFile.FieldType.int)) ∈ lw_all := lw_g (lw_at lw_m4 157 rfl) rfl
theorem q2871 : (Jvm.Cond.castable "Scrutineery$Lesson" "java/lang/Object") ∈ lw_tbl := lw_at lw_m12 121 rfl
theorem in_X4 : ∀ w ∈ wsX40, w ∈ lw_all := lw_in wsX40 [932, 934, 936] (by decide +kernel) (by decide +kernel)
/-! Scrutineery$Couple -/
set_option maxRecDepth 100000
def RX5 : String := "Scrutineery$Couple"
def TX5 : u_T := fun k => match k with
  | 0 => ("Scrutineery$Couple", "number", "I", true)
  | 1 => ("Scrutineery$Couple", "one", "LScrutineery$Person;", true)
  | 2 => ("Scrutineery$Couple", "other", "LScrutineery$Person;", true)
  | 3 => ("Scrutineery$Couple", "scores", "Ljava/util/List;", true)
  | _ => ("Scrutineery$Couple", "stands", "Z", false)
def tyX5 : Nat → FieldType := fun k => match k with
  | 0 => .int
  | 1 => .object "Scrutineery$Person"
  | 2 => .object "Scrutineery$Person"
  | 3 => .object "java/util/List"
  | _ => .boolean
abbrev wsX50 : List Cond := u_ws RX5 TX5 5
theorem nmX5 : ∀ a, a < 5 → ∀ b, b < 5 → a ≠ b → (TX5 a).2.1 ≠ (TX5 b).2.1 := by decide +kernel
theorem tyX5_ok : ∀ k, k < 5 → parseFieldDescriptor (TX5 k).2.2.1 = some (tyX5 k) := by decide +kernel
abbrev cX5_has : ByteArray := prog_3_method_2_code
def yX5_has : MethodName := ⟨RX5, "has", "(LScrutineery$Person;)Z"⟩
def dkwX5_has_0 : List UInt8 := [42, 180, 0, 26, 43, 165, 0, 11, 42, 180, 0, 30, 43, 166, 0, 7, 4, 167, 0, 4, 3, 172]
abbrev dktX5_has_0 : List UInt8 := dkwX5_has_0 ++ []
theorem dksX5_has_0 : cX5_has.data.toList.drop 0 = dktX5_has_0 := by decide +kernel
theorem dX5_has_0 : decode cX5_has 0 = .ok (.aload_n 0, 1) := dk_42 (dk_at dksX5_has_0 0 rfl rfl)
theorem dX5_has_1 : decode cX5_has 1 = .ok (.getfield 26, 3) := dk_180 0 26 (dk_at dksX5_has_0 1 rfl rfl)
theorem dX5_has_4 : decode cX5_has 4 = .ok (.aload_n 1, 1) := dk_43 (dk_at dksX5_has_0 4 rfl rfl)
theorem dX5_has_5 : decode cX5_has 5 = .ok (.if_acmp .eq 11, 3) := dk_165 0 11 (dk_at dksX5_has_0 5 rfl rfl)
theorem dX5_has_8 : decode cX5_has 8 = .ok (.aload_n 0, 1) := dk_42 (dk_at dksX5_has_0 8 rfl rfl)
theorem dX5_has_9 : decode cX5_has 9 = .ok (.getfield 30, 3) := dk_180 0 30 (dk_at dksX5_has_0 9 rfl rfl)
theorem dX5_has_12 : decode cX5_has 12 = .ok (.aload_n 1, 1) := dk_43 (dk_at dksX5_has_0 12 rfl rfl)
theorem dX5_has_13 : decode cX5_has 13 = .ok (.if_acmp .ne 7, 3) := dk_166 0 7 (dk_at dksX5_has_0 13 rfl rfl)
theorem dX5_has_16 : decode cX5_has 16 = .ok (.iconst 1, 1) := dk_4 (dk_at dksX5_has_0 16 rfl rfl)
theorem dX5_has_17 : decode cX5_has 17 = .ok (.goto 4, 3) := dk_167 0 4 (dk_at dksX5_has_0 17 rfl rfl)
theorem dX5_has_20 : decode cX5_has 20 = .ok (.iconst 0, 1) := dk_3 (dk_at dksX5_has_0 20 rfl rfl)
theorem dX5_has_21 : decode cX5_has 21 = .ok (.ireturn, 1) := dk_172 (dk_at dksX5_has_0 21 rfl rfl)
abbrev cX5_init : ByteArray := prog_3_method_1_code
def yX5_init : MethodName := ⟨RX5, "<init>", "(ILScrutineery$Person;LScrutineery$Person;)V"⟩
def dkwX5_init_3 : List UInt8 := [153, 0, 7, 4, 167, 0, 4, 3, 54, 4, 177]
abbrev dktX5_init_3 : List UInt8 := dkwX5_init_3 ++ []
def dkwX5_init_2 : List UInt8 := [185, 0, 33, 2, 0, 153, 0, 26, 42, 180, 0, 12, 187, 0, 9, 89, 183, 0, 11, 185, 0, 33, 2, 0]
abbrev dktX5_init_2 : List UInt8 := dkwX5_init_2 ++ dktX5_init_3
def dkwX5_init_1 : List UInt8 := [181, 0, 22, 42, 44, 181, 0, 26, 42, 45, 181, 0, 30, 42, 180, 0, 12, 187, 0, 9, 89, 183, 0, 11]
abbrev dktX5_init_1 : List UInt8 := dkwX5_init_1 ++ dktX5_init_2
def dkwX5_init_0 : List UInt8 := [42, 183, 0, 3, 42, 187, 0, 9, 89, 183, 0, 11, 181, 0, 12, 42, 4, 181, 0, 18, 42, 27]
abbrev dktX5_init_0 : List UInt8 := dkwX5_init_0 ++ dktX5_init_1
theorem dksX5_init_0 : cX5_init.data.toList.drop 0 = dktX5_init_0 := by decide +kernel
theorem dksX5_init_1 : cX5_init.data.toList.drop 22 = dktX5_init_1 := dk_seg dksX5_init_0 22 rfl rfl
theorem dksX5_init_2 : cX5_init.data.toList.drop 46 = dktX5_init_2 := dk_seg dksX5_init_1 24 rfl rfl
theorem dksX5_init_3 : cX5_init.data.toList.drop 70 = dktX5_init_3 := dk_seg dksX5_init_2 24 rfl rfl
theorem dX5_init_0 : decode cX5_init 0 = .ok (.aload_n 0, 1) := dk_42 (dk_at dksX5_init_0 0 rfl rfl)
theorem dX5_init_1 : decode cX5_init 1 = .ok (.invokespecial 3, 3) := dk_183 0 3 (dk_at dksX5_init_0 1 rfl rfl)
theorem dX5_init_4 : decode cX5_init 4 = .ok (.aload_n 0, 1) := dk_42 (dk_at dksX5_init_0 4 rfl rfl)
theorem dX5_init_5 : decode cX5_init 5 = .ok (.new 9, 3) := dk_187 0 9 (dk_at dksX5_init_0 5 rfl rfl)
theorem dX5_init_8 : decode cX5_init 8 = .ok (.dup, 1) := dk_89 (dk_at dksX5_init_0 8 rfl rfl)
theorem dX5_init_9 : decode cX5_init 9 = .ok (.invokespecial 11, 3) := dk_183 0 11 (dk_at dksX5_init_0 9 rfl rfl)
theorem dX5_init_12 : decode cX5_init 12 = .ok (.putfield 12, 3) := dk_181 0 12 (dk_at dksX5_init_0 12 rfl rfl)
theorem dX5_init_15 : decode cX5_init 15 = .ok (.aload_n 0, 1) := dk_42 (dk_at dksX5_init_0 15 rfl rfl)
theorem dX5_init_16 : decode cX5_init 16 = .ok (.iconst 1, 1) := dk_4 (dk_at dksX5_init_0 16 rfl rfl)
theorem dX5_init_17 : decode cX5_init 17 = .ok (.putfield 18, 3) := dk_181 0 18 (dk_at dksX5_init_0 17 rfl rfl)
theorem dX5_init_20 : decode cX5_init 20 = .ok (.aload_n 0, 1) := dk_42 (dk_at dksX5_init_0 20 rfl rfl)
theorem dX5_init_21 : decode cX5_init 21 = .ok (.iload_n 1, 1) := dk_27 (dk_at dksX5_init_0 21 rfl rfl)
theorem dX5_init_22 : decode cX5_init 22 = .ok (.putfield 22, 3) := dk_181 0 22 (dk_at dksX5_init_1 0 rfl rfl)
theorem dX5_init_25 : decode cX5_init 25 = .ok (.aload_n 0, 1) := dk_42 (dk_at dksX5_init_1 3 rfl rfl)
theorem dX5_init_26 : decode cX5_init 26 = .ok (.aload_n 2, 1) := dk_44 (dk_at dksX5_init_1 4 rfl rfl)
theorem dX5_init_27 : decode cX5_init 27 = .ok (.putfield 26, 3) := dk_181 0 26 (dk_at dksX5_init_1 5 rfl rfl)
theorem dX5_init_30 : decode cX5_init 30 = .ok (.aload_n 0, 1) := dk_42 (dk_at dksX5_init_1 8 rfl rfl)
theorem dX5_init_31 : decode cX5_init 31 = .ok (.aload_n 3, 1) := dk_45 (dk_at dksX5_init_1 9 rfl rfl)
theorem dX5_init_32 : decode cX5_init 32 = .ok (.putfield 30, 3) := dk_181 0 30 (dk_at dksX5_init_1 10 rfl rfl)
theorem dX5_init_35 : decode cX5_init 35 = .ok (.aload_n 0, 1) := dk_42 (dk_at dksX5_init_1 13 rfl rfl)
theorem dX5_init_36 : decode cX5_init 36 = .ok (.getfield 12, 3) := dk_180 0 12 (dk_at dksX5_init_1 14 rfl rfl)
theorem dX5_init_39 : decode cX5_init 39 = .ok (.new 9, 3) := dk_187 0 9 (dk_at dksX5_init_1 17 rfl rfl)
theorem dX5_init_42 : decode cX5_init 42 = .ok (.dup, 1) := dk_89 (dk_at dksX5_init_1 20 rfl rfl)
theorem dX5_init_43 : decode cX5_init 43 = .ok (.invokespecial 11, 3) := dk_183 0 11 (dk_at dksX5_init_1 21 rfl rfl)
theorem dX5_init_46 : decode cX5_init 46 = .ok (.invokeinterface 33 2, 5) := by decide +kernel
theorem dX5_init_51 : decode cX5_init 51 = .ok (.ifCond .eq 26, 3) := dk_153 0 26 (dk_at dksX5_init_2 5 rfl rfl)
theorem dX5_init_54 : decode cX5_init 54 = .ok (.aload_n 0, 1) := dk_42 (dk_at dksX5_init_2 8 rfl rfl)
theorem dX5_init_55 : decode cX5_init 55 = .ok (.getfield 12, 3) := dk_180 0 12 (dk_at dksX5_init_2 9 rfl rfl)
theorem dX5_init_58 : decode cX5_init 58 = .ok (.new 9, 3) := dk_187 0 9 (dk_at dksX5_init_2 12 rfl rfl)
theorem dX5_init_61 : decode cX5_init 61 = .ok (.dup, 1) := dk_89 (dk_at dksX5_init_2 15 rfl rfl)
theorem dX5_init_62 : decode cX5_init 62 = .ok (.invokespecial 11, 3) := dk_183 0 11 (dk_at dksX5_init_2 16 rfl rfl)
theorem dX5_init_65 : decode cX5_init 65 = .ok (.invokeinterface 33 2, 5) := by decide +kernel
theorem dX5_init_70 : decode cX5_init 70 = .ok (.ifCond .eq 7, 3) := dk_153 0 7 (dk_at dksX5_init_3 0 rfl rfl)
theorem dX5_init_73 : decode cX5_init 73 = .ok (.iconst 1, 1) := dk_4 (dk_at dksX5_init_3 3 rfl rfl)
theorem dX5_init_74 : decode cX5_init 74 = .ok (.goto 4, 3) := dk_167 0 4 (dk_at dksX5_init_3 4 rfl rfl)
theorem dX5_init_77 : decode cX5_init 77 = .ok (.iconst 0, 1) := dk_3 (dk_at dksX5_init_3 7 rfl rfl)
theorem dX5_init_78 : decode cX5_init 78 = .ok (.istore 4, 2) := dk_54 4 (dk_at dksX5_init_3 8 rfl rfl)
theorem dX5_init_80 : decode cX5_init 80 = .ok (.return_, 1) := dk_177 (dk_at dksX5_init_3 10 rfl rfl)
abbrev cX5_isSuspended : ByteArray := prog_3_method_6_code
def yX5_isSuspended : MethodName := ⟨RX5, "isSuspended", "(I)Z"⟩
def dkwX5_isSuspended_1 : List UInt8 := [167, 0, 4, 3, 172]
abbrev dktX5_isSuspended_1 : List UInt8 := dkwX5_isSuspended_1 ++ []
def dkwX5_isSuspended_0 : List UInt8 := [42, 180, 0, 26, 180, 0, 58, 27, 162, 0, 14, 42, 180, 0, 30, 180, 0, 58, 27, 161, 0, 7, 4]
abbrev dktX5_isSuspended_0 : List UInt8 := dkwX5_isSuspended_0 ++ dktX5_isSuspended_1
theorem dksX5_isSuspended_0 : cX5_isSuspended.data.toList.drop 0 = dktX5_isSuspended_0 := by decide +kernel
theorem dksX5_isSuspended_1 : cX5_isSuspended.data.toList.drop 23 = dktX5_isSuspended_1 := dk_seg dksX5_isSuspended_0 23 rfl rfl
theorem dX5_isSuspended_0 : decode cX5_isSuspended 0 = .ok (.aload_n 0, 1) := dk_42 (dk_at dksX5_isSuspended_0 0 rfl rfl)
theorem dX5_isSuspended_1 : decode cX5_isSuspended 1 = .ok (.getfield 26, 3) := dk_180 0 26 (dk_at dksX5_isSuspended_0 1 rfl rfl)
theorem dX5_isSuspended_4 : decode cX5_isSuspended 4 = .ok (.getfield 58, 3) := dk_180 0 58 (dk_at dksX5_isSuspended_0 4 rfl rfl)
theorem dX5_isSuspended_7 : decode cX5_isSuspended 7 = .ok (.iload_n 1, 1) := dk_27 (dk_at dksX5_isSuspended_0 7 rfl rfl)
theorem dX5_isSuspended_8 : decode cX5_isSuspended 8 = .ok (.if_icmp .ge 14, 3) := dk_162 0 14 (dk_at dksX5_isSuspended_0 8 rfl rfl)
theorem dX5_isSuspended_11 : decode cX5_isSuspended 11 = .ok (.aload_n 0, 1) := dk_42 (dk_at dksX5_isSuspended_0 11 rfl rfl)
theorem dX5_isSuspended_12 : decode cX5_isSuspended 12 = .ok (.getfield 30, 3) := dk_180 0 30 (dk_at dksX5_isSuspended_0 12 rfl rfl)
theorem dX5_isSuspended_15 : decode cX5_isSuspended 15 = .ok (.getfield 58, 3) := dk_180 0 58 (dk_at dksX5_isSuspended_0 15 rfl rfl)
theorem dX5_isSuspended_18 : decode cX5_isSuspended 18 = .ok (.iload_n 1, 1) := dk_27 (dk_at dksX5_isSuspended_0 18 rfl rfl)
theorem dX5_isSuspended_19 : decode cX5_isSuspended 19 = .ok (.if_icmp .lt 7, 3) := dk_161 0 7 (dk_at dksX5_isSuspended_0 19 rfl rfl)
theorem dX5_isSuspended_22 : decode cX5_isSuspended 22 = .ok (.iconst 1, 1) := dk_4 (dk_at dksX5_isSuspended_0 22 rfl rfl)
theorem dX5_isSuspended_23 : decode cX5_isSuspended 23 = .ok (.goto 4, 3) := dk_167 0 4 (dk_at dksX5_isSuspended_1 0 rfl rfl)
theorem dX5_isSuspended_26 : decode cX5_isSuspended 26 = .ok (.iconst 0, 1) := dk_3 (dk_at dksX5_isSuspended_1 3 rfl rfl)
theorem dX5_isSuspended_27 : decode cX5_isSuspended 27 = .ok (.ireturn, 1) := dk_172 (dk_at dksX5_isSuspended_1 4 rfl rfl)
abbrev cX5_isProfessional : ByteArray := prog_3_method_3_code
def yX5_isProfessional : MethodName := ⟨RX5, "isProfessional", "()Z"⟩
def dkwX5_isProfessional_1 : List UInt8 := [3, 172]
abbrev dktX5_isProfessional_1 : List UInt8 := dkwX5_isProfessional_1 ++ []
def dkwX5_isProfessional_0 : List UInt8 := [42, 180, 0, 26, 182, 0, 39, 154, 0, 13, 42, 180, 0, 30, 182, 0, 39, 153, 0, 7, 4, 167, 0, 4]
abbrev dktX5_isProfessional_0 : List UInt8 := dkwX5_isProfessional_0 ++ dktX5_isProfessional_1
theorem dksX5_isProfessional_0 : cX5_isProfessional.data.toList.drop 0 = dktX5_isProfessional_0 := by decide +kernel
theorem dksX5_isProfessional_1 : cX5_isProfessional.data.toList.drop 24 = dktX5_isProfessional_1 := dk_seg dksX5_isProfessional_0 24 rfl rfl
theorem dX5_isProfessional_0 : decode cX5_isProfessional 0 = .ok (.aload_n 0, 1) := dk_42 (dk_at dksX5_isProfessional_0 0 rfl rfl)
theorem dX5_isProfessional_1 : decode cX5_isProfessional 1 = .ok (.getfield 26, 3) := dk_180 0 26 (dk_at dksX5_isProfessional_0 1 rfl rfl)
theorem dX5_isProfessional_4 : decode cX5_isProfessional 4 = .ok (.invokevirtual 39, 3) := dk_182 0 39 (dk_at dksX5_isProfessional_0 4 rfl rfl)
theorem dX5_isProfessional_7 : decode cX5_isProfessional 7 = .ok (.ifCond .ne 13, 3) := dk_154 0 13 (dk_at dksX5_isProfessional_0 7 rfl rfl)
theorem dX5_isProfessional_10 : decode cX5_isProfessional 10 = .ok (.aload_n 0, 1) := dk_42 (dk_at dksX5_isProfessional_0 10 rfl rfl)
theorem dX5_isProfessional_11 : decode cX5_isProfessional 11 = .ok (.getfield 30, 3) := dk_180 0 30 (dk_at dksX5_isProfessional_0 11 rfl rfl)
theorem dX5_isProfessional_14 : decode cX5_isProfessional 14 = .ok (.invokevirtual 39, 3) := dk_182 0 39 (dk_at dksX5_isProfessional_0 14 rfl rfl)
theorem dX5_isProfessional_17 : decode cX5_isProfessional 17 = .ok (.ifCond .eq 7, 3) := dk_153 0 7 (dk_at dksX5_isProfessional_0 17 rfl rfl)
theorem dX5_isProfessional_20 : decode cX5_isProfessional 20 = .ok (.iconst 1, 1) := dk_4 (dk_at dksX5_isProfessional_0 20 rfl rfl)
theorem dX5_isProfessional_21 : decode cX5_isProfessional 21 = .ok (.goto 4, 3) := dk_167 0 4 (dk_at dksX5_isProfessional_0 21 rfl rfl)
theorem dX5_isProfessional_24 : decode cX5_isProfessional 24 = .ok (.iconst 0, 1) := dk_3 (dk_at dksX5_isProfessional_1 0 rfl rfl)
theorem dX5_isProfessional_25 : decode cX5_isProfessional 25 = .ok (.ireturn, 1) := dk_172 (dk_at dksX5_isProfessional_1 1 rfl rfl)
abbrev cX5_age : ByteArray := prog_3_method_4_code
def yX5_age : MethodName := ⟨RX5, "age", "()I"⟩
def dkwX5_age_0 : List UInt8 := [42, 180, 0, 26, 180, 0, 45, 42, 180, 0, 30, 180, 0, 45, 184, 0, 48, 172]
abbrev dktX5_age_0 : List UInt8 := dkwX5_age_0 ++ []
theorem dksX5_age_0 : cX5_age.data.toList.drop 0 = dktX5_age_0 := by decide +kernel
theorem dX5_age_0 : decode cX5_age 0 = .ok (.aload_n 0, 1) := dk_42 (dk_at dksX5_age_0 0 rfl rfl)
theorem dX5_age_1 : decode cX5_age 1 = .ok (.getfield 26, 3) := dk_180 0 26 (dk_at dksX5_age_0 1 rfl rfl)
theorem dX5_age_4 : decode cX5_age 4 = .ok (.getfield 45, 3) := dk_180 0 45 (dk_at dksX5_age_0 4 rfl rfl)
theorem dX5_age_7 : decode cX5_age 7 = .ok (.aload_n 0, 1) := dk_42 (dk_at dksX5_age_0 7 rfl rfl)
theorem dX5_age_8 : decode cX5_age 8 = .ok (.getfield 30, 3) := dk_180 0 30 (dk_at dksX5_age_0 8 rfl rfl)
theorem dX5_age_11 : decode cX5_age 11 = .ok (.getfield 45, 3) := dk_180 0 45 (dk_at dksX5_age_0 11 rfl rfl)
theorem dX5_age_14 : decode cX5_age 14 = .ok (.invokestatic 48, 3) := dk_184 0 48 (dk_at dksX5_age_0 14 rfl rfl)
theorem dX5_age_17 : decode cX5_age 17 = .ok (.ireturn, 1) := dk_172 (dk_at dksX5_age_0 17 rfl rfl)
abbrev cX5_grade : ByteArray := prog_3_method_5_code
def yX5_grade : MethodName := ⟨RX5, "grade", "(I)I"⟩
def dkwX5_grade_0 : List UInt8 := [42, 180, 0, 26, 27, 182, 0, 54, 42, 180, 0, 30, 27, 182, 0, 54, 184, 0, 48, 172]
abbrev dktX5_grade_0 : List UInt8 := dkwX5_grade_0 ++ []
theorem dksX5_grade_0 : cX5_grade.data.toList.drop 0 = dktX5_grade_0 := by decide +kernel
theorem dX5_grade_0 : decode cX5_grade 0 = .ok (.aload_n 0, 1) := dk_42 (dk_at dksX5_grade_0 0 rfl rfl)
theorem dX5_grade_1 : decode cX5_grade 1 = .ok (.getfield 26, 3) := dk_180 0 26 (dk_at dksX5_grade_0 1 rfl rfl)
theorem dX5_grade_4 : decode cX5_grade 4 = .ok (.iload_n 1, 1) := dk_27 (dk_at dksX5_grade_0 4 rfl rfl)
theorem dX5_grade_5 : decode cX5_grade 5 = .ok (.invokevirtual 54, 3) := dk_182 0 54 (dk_at dksX5_grade_0 5 rfl rfl)
theorem dX5_grade_8 : decode cX5_grade 8 = .ok (.aload_n 0, 1) := dk_42 (dk_at dksX5_grade_0 8 rfl rfl)
theorem dX5_grade_9 : decode cX5_grade 9 = .ok (.getfield 30, 3) := dk_180 0 30 (dk_at dksX5_grade_0 9 rfl rfl)
theorem dX5_grade_12 : decode cX5_grade 12 = .ok (.iload_n 1, 1) := dk_27 (dk_at dksX5_grade_0 12 rfl rfl)
theorem dX5_grade_13 : decode cX5_grade 13 = .ok (.invokevirtual 54, 3) := dk_182 0 54 (dk_at dksX5_grade_0 13 rfl rfl)
theorem dX5_grade_16 : decode cX5_grade 16 = .ok (.invokestatic 48, 3) := dk_184 0 48 (dk_at dksX5_grade_0 16 rfl rfl)
theorem dX5_grade_19 : decode cX5_grade 19 = .ok (.ireturn, 1) := dk_172 (dk_at dksX5_grade_0 19 rfl rfl)
abbrev cX5_rank : ByteArray := prog_3_method_7_code
def yX5_rank : MethodName := ⟨RX5, "rank", "(I)I"⟩
def dkwX5_rank_5 : List UInt8 := [192, 0, 77, 182, 0, 79, 96, 62, 132, 4, 1, 167, 255, 158, 29, 172]
abbrev dktX5_rank_5 : List UInt8 := dkwX5_rank_5 ++ []
def dkwX5_rank_4 : List UInt8 := [167, 0, 5, 21, 5, 54, 5, 132, 6, 1, 167, 255, 202, 29, 44, 21, 5, 185, 0, 82, 2, 0]
abbrev dktX5_rank_4 : List UInt8 := dkwX5_rank_4 ++ dktX5_rank_5
def dkwX5_rank_3 : List UInt8 := [182, 0, 79, 44, 21, 5, 185, 0, 61, 2, 0, 192, 0, 77, 182, 0, 79, 164, 0, 8, 21, 6]
abbrev dktX5_rank_3 : List UInt8 := dkwX5_rank_3 ++ dktX5_rank_4
def dkwX5_rank_2 : List UInt8 := [21, 6, 44, 185, 0, 73, 1, 0, 162, 0, 49, 44, 21, 6, 185, 0, 61, 2, 0, 192, 0, 77]
abbrev dktX5_rank_2 : List UInt8 := dkwX5_rank_2 ++ dktX5_rank_3
def dkwX5_rank_1 : List UInt8 := [54, 4, 21, 4, 6, 162, 0, 98, 44, 185, 0, 70, 1, 0, 154, 0, 89, 3, 54, 5, 4, 54, 6]
abbrev dktX5_rank_1 : List UInt8 := dkwX5_rank_1 ++ dktX5_rank_2
def dkwX5_rank_0 : List UInt8 := [187, 0, 9, 89, 42, 180, 0, 12, 27, 185, 0, 61, 2, 0, 192, 0, 65, 183, 0, 67, 77, 3, 62, 3]
abbrev dktX5_rank_0 : List UInt8 := dkwX5_rank_0 ++ dktX5_rank_1
theorem dksX5_rank_0 : cX5_rank.data.toList.drop 0 = dktX5_rank_0 := by decide +kernel
theorem dksX5_rank_1 : cX5_rank.data.toList.drop 24 = dktX5_rank_1 := dk_seg dksX5_rank_0 24 rfl rfl
theorem dksX5_rank_2 : cX5_rank.data.toList.drop 47 = dktX5_rank_2 := dk_seg dksX5_rank_1 23 rfl rfl
theorem dksX5_rank_3 : cX5_rank.data.toList.drop 69 = dktX5_rank_3 := dk_seg dksX5_rank_2 22 rfl rfl
theorem dksX5_rank_4 : cX5_rank.data.toList.drop 91 = dktX5_rank_4 := dk_seg dksX5_rank_3 22 rfl rfl
theorem dksX5_rank_5 : cX5_rank.data.toList.drop 113 = dktX5_rank_5 := dk_seg dksX5_rank_4 22 rfl rfl
theorem dX5_rank_0 : decode cX5_rank 0 = .ok (.new 9, 3) := dk_187 0 9 (dk_at dksX5_rank_0 0 rfl rfl)
theorem dX5_rank_3 : decode cX5_rank 3 = .ok (.dup, 1) := dk_89 (dk_at dksX5_rank_0 3 rfl rfl)
theorem dX5_rank_4 : decode cX5_rank 4 = .ok (.aload_n 0, 1) := dk_42 (dk_at dksX5_rank_0 4 rfl rfl)
theorem dX5_rank_5 : decode cX5_rank 5 = .ok (.getfield 12, 3) := dk_180 0 12 (dk_at dksX5_rank_0 5 rfl rfl)
theorem dX5_rank_8 : decode cX5_rank 8 = .ok (.iload_n 1, 1) := dk_27 (dk_at dksX5_rank_0 8 rfl rfl)
theorem dX5_rank_9 : decode cX5_rank 9 = .ok (.invokeinterface 61 2, 5) := by decide +kernel
theorem dX5_rank_14 : decode cX5_rank 14 = .ok (.checkcast 65, 3) := dk_192 0 65 (dk_at dksX5_rank_0 14 rfl rfl)
theorem dX5_rank_17 : decode cX5_rank 17 = .ok (.invokespecial 67, 3) := dk_183 0 67 (dk_at dksX5_rank_0 17 rfl rfl)
theorem dX5_rank_20 : decode cX5_rank 20 = .ok (.astore_n 2, 1) := dk_77 (dk_at dksX5_rank_0 20 rfl rfl)
theorem dX5_rank_21 : decode cX5_rank 21 = .ok (.iconst 0, 1) := dk_3 (dk_at dksX5_rank_0 21 rfl rfl)
theorem dX5_rank_22 : decode cX5_rank 22 = .ok (.istore_n 3, 1) := dk_62 (dk_at dksX5_rank_0 22 rfl rfl)
theorem dX5_rank_23 : decode cX5_rank 23 = .ok (.iconst 0, 1) := dk_3 (dk_at dksX5_rank_0 23 rfl rfl)
theorem dX5_rank_24 : decode cX5_rank 24 = .ok (.istore 4, 2) := dk_54 4 (dk_at dksX5_rank_1 0 rfl rfl)
theorem dX5_rank_26 : decode cX5_rank 26 = .ok (.iload 4, 2) := dk_21 4 (dk_at dksX5_rank_1 2 rfl rfl)
theorem dX5_rank_28 : decode cX5_rank 28 = .ok (.iconst 3, 1) := dk_6 (dk_at dksX5_rank_1 4 rfl rfl)
theorem dX5_rank_29 : decode cX5_rank 29 = .ok (.if_icmp .ge 98, 3) := dk_162 0 98 (dk_at dksX5_rank_1 5 rfl rfl)
theorem dX5_rank_32 : decode cX5_rank 32 = .ok (.aload_n 2, 1) := dk_44 (dk_at dksX5_rank_1 8 rfl rfl)
theorem dX5_rank_33 : decode cX5_rank 33 = .ok (.invokeinterface 70 1, 5) := by decide +kernel
theorem dX5_rank_38 : decode cX5_rank 38 = .ok (.ifCond .ne 89, 3) := dk_154 0 89 (dk_at dksX5_rank_1 14 rfl rfl)
theorem dX5_rank_41 : decode cX5_rank 41 = .ok (.iconst 0, 1) := dk_3 (dk_at dksX5_rank_1 17 rfl rfl)
theorem dX5_rank_42 : decode cX5_rank 42 = .ok (.istore 5, 2) := dk_54 5 (dk_at dksX5_rank_1 18 rfl rfl)
theorem dX5_rank_44 : decode cX5_rank 44 = .ok (.iconst 1, 1) := dk_4 (dk_at dksX5_rank_1 20 rfl rfl)
theorem dX5_rank_45 : decode cX5_rank 45 = .ok (.istore 6, 2) := dk_54 6 (dk_at dksX5_rank_1 21 rfl rfl)
theorem dX5_rank_47 : decode cX5_rank 47 = .ok (.iload 6, 2) := dk_21 6 (dk_at dksX5_rank_2 0 rfl rfl)
theorem dX5_rank_49 : decode cX5_rank 49 = .ok (.aload_n 2, 1) := dk_44 (dk_at dksX5_rank_2 2 rfl rfl)
theorem dX5_rank_50 : decode cX5_rank 50 = .ok (.invokeinterface 73 1, 5) := by decide +kernel
theorem dX5_rank_55 : decode cX5_rank 55 = .ok (.if_icmp .ge 49, 3) := dk_162 0 49 (dk_at dksX5_rank_2 8 rfl rfl)
theorem dX5_rank_58 : decode cX5_rank 58 = .ok (.aload_n 2, 1) := dk_44 (dk_at dksX5_rank_2 11 rfl rfl)
theorem dX5_rank_59 : decode cX5_rank 59 = .ok (.iload 6, 2) := dk_21 6 (dk_at dksX5_rank_2 12 rfl rfl)
theorem dX5_rank_61 : decode cX5_rank 61 = .ok (.invokeinterface 61 2, 5) := by decide +kernel
theorem dX5_rank_66 : decode cX5_rank 66 = .ok (.checkcast 77, 3) := dk_192 0 77 (dk_at dksX5_rank_2 19 rfl rfl)
theorem dX5_rank_69 : decode cX5_rank 69 = .ok (.invokevirtual 79, 3) := dk_182 0 79 (dk_at dksX5_rank_3 0 rfl rfl)
theorem dX5_rank_72 : decode cX5_rank 72 = .ok (.aload_n 2, 1) := dk_44 (dk_at dksX5_rank_3 3 rfl rfl)
theorem dX5_rank_73 : decode cX5_rank 73 = .ok (.iload 5, 2) := dk_21 5 (dk_at dksX5_rank_3 4 rfl rfl)
theorem dX5_rank_75 : decode cX5_rank 75 = .ok (.invokeinterface 61 2, 5) := by decide +kernel
theorem dX5_rank_80 : decode cX5_rank 80 = .ok (.checkcast 77, 3) := dk_192 0 77 (dk_at dksX5_rank_3 11 rfl rfl)
theorem dX5_rank_83 : decode cX5_rank 83 = .ok (.invokevirtual 79, 3) := dk_182 0 79 (dk_at dksX5_rank_3 14 rfl rfl)
theorem dX5_rank_86 : decode cX5_rank 86 = .ok (.if_icmp .le 8, 3) := dk_164 0 8 (dk_at dksX5_rank_3 17 rfl rfl)
theorem dX5_rank_89 : decode cX5_rank 89 = .ok (.iload 6, 2) := dk_21 6 (dk_at dksX5_rank_3 20 rfl rfl)
theorem dX5_rank_91 : decode cX5_rank 91 = .ok (.goto 5, 3) := dk_167 0 5 (dk_at dksX5_rank_4 0 rfl rfl)
theorem dX5_rank_94 : decode cX5_rank 94 = .ok (.iload 5, 2) := dk_21 5 (dk_at dksX5_rank_4 3 rfl rfl)
theorem dX5_rank_96 : decode cX5_rank 96 = .ok (.istore 5, 2) := dk_54 5 (dk_at dksX5_rank_4 5 rfl rfl)
theorem dX5_rank_98 : decode cX5_rank 98 = .ok (.iinc 6 1, 3) := dk_132 6 1 (dk_at dksX5_rank_4 7 rfl rfl)
theorem dX5_rank_101 : decode cX5_rank 101 = .ok (.goto (-54), 3) := dk_167 255 202 (dk_at dksX5_rank_4 10 rfl rfl)
theorem dX5_rank_104 : decode cX5_rank 104 = .ok (.iload_n 3, 1) := dk_29 (dk_at dksX5_rank_4 13 rfl rfl)
theorem dX5_rank_105 : decode cX5_rank 105 = .ok (.aload_n 2, 1) := dk_44 (dk_at dksX5_rank_4 14 rfl rfl)
theorem dX5_rank_106 : decode cX5_rank 106 = .ok (.iload 5, 2) := dk_21 5 (dk_at dksX5_rank_4 15 rfl rfl)
theorem dX5_rank_108 : decode cX5_rank 108 = .ok (.invokeinterface 82 2, 5) := by decide +kernel
theorem dX5_rank_113 : decode cX5_rank 113 = .ok (.checkcast 77, 3) := dk_192 0 77 (dk_at dksX5_rank_5 0 rfl rfl)
theorem dX5_rank_116 : decode cX5_rank 116 = .ok (.invokevirtual 79, 3) := dk_182 0 79 (dk_at dksX5_rank_5 3 rfl rfl)
theorem dX5_rank_119 : decode cX5_rank 119 = .ok (.iadd, 1) := dk_96 (dk_at dksX5_rank_5 6 rfl rfl)
theorem dX5_rank_120 : decode cX5_rank 120 = .ok (.istore_n 3, 1) := dk_62 (dk_at dksX5_rank_5 7 rfl rfl)
theorem dX5_rank_121 : decode cX5_rank 121 = .ok (.iinc 4 1, 3) := dk_132 4 1 (dk_at dksX5_rank_5 8 rfl rfl)
theorem dX5_rank_124 : decode cX5_rank 124 = .ok (.goto (-98), 3) := dk_167 255 158 (dk_at dksX5_rank_5 11 rfl rfl)
theorem dX5_rank_127 : decode cX5_rank 127 = .ok (.iload_n 3, 1) := dk_29 (dk_at dksX5_rank_5 14 rfl rfl)
theorem dX5_rank_128 : decode cX5_rank 128 = .ok (.ireturn, 1) := dk_172 (dk_at dksX5_rank_5 15 rfl rfl)
theorem q136 : (Jvm.Cond.initialized "Scrutineery$Couple") ∈ lw_all := lw_g (lw_at lw_m1 26 rfl) rfl
theorem q496 : (Jvm.Cond.selects "Scrutineery$Couple" ({ cls := "java/lang/Object", name := "equals", desc := "(Ljava/lang/Object;)Z" } : Jvm.MethodName) ({ cls := "java/lang/Object", name := "equals", desc := "(Ljava/lang/Object;)Z" } : Jvm.MethodName)) ∈ lw_all := lw_g (lw_at lw_m2 146 rfl) rfl
theorem q620 : (Jvm.Cond.selects "Scrutineery$Couple" ({ cls := "java/lang/Object", name := "getClass", desc := "()Ljava/lang/Class;" } : Jvm.MethodName) ({ cls := "java/lang/Object", name := "getClass", desc := "()Ljava/lang/Class;" } : Jvm.MethodName)) ∈ lw_all := lw_g (lw_at lw_m3 30 rfl) rfl
theorem q807 : (Jvm.Cond.fieldLinkNest "Scrutineery$Couple" (45 : Nat) "Scrutineery$Person" "age" "I" "Scrutineery") ∈ lw_tbl := lw_at lw_m3 217 rfl
theorem q818 : (Jvm.Cond.fieldLinkNest "Scrutineery$Couple" (58 : Nat) "Scrutineery$Person" "suspended" "I" "Scrutineery") ∈ lw_tbl := lw_at lw_m3 228 rfl
theorem q996 : (Jvm.Cond.instanceMethod ({ cls := "Scrutineery$Couple", name := "has", desc := "(LScrutineery$Person;)Z" } : Jvm.MethodName)) ∈ lw_all := lw_g (lw_at lw_m4 166 rfl) rfl
theorem q997 : (Jvm.Cond.selects "Scrutineery$Couple" ({ cls := "Scrutineery$Couple", name := "has", desc := "(LScrutineery$Person;)Z" } : Jvm.MethodName) ({ cls := "Scrutineery$Couple", name := "has", desc := "(LScrutineery$Person;)Z" } : Jvm.MethodName)) ∈ lw_all := lw_g (lw_at lw_m4 167 rfl) rfl
theorem q998 : (Jvm.Cond.code ({ cls := "Scrutineery$Couple", name := "has", desc := "(LScrutineery$Person;)Z" } : Jvm.MethodName) prog_3_method_2_code (2 : Nat) (Option.some Jvm.ClassFile.FieldType.boolean)) ∈ lw_all := lw_g (lw_at lw_m4 168 rfl) rfl
theorem q999 : (Jvm.Cond.instantiable "Scrutineery$Couple" (5 : Nat)) ∈ lw_all := lw_g (lw_at lw_m4 169 rfl) rfl
theorem q1001 : (Jvm.Cond.instanceMethod ({ cls := "Scrutineery$Couple", name := "<init>", desc := "(ILScrutineery$Person;LScrutineery$Person;)V" } : Jvm.MethodName)) ∈ lw_all := lw_g (lw_at lw_m4 171 rfl) rfl
theorem q1002 : (Jvm.Cond.code ({ cls := "Scrutineery$Couple", name := "<init>", desc := "(ILScrutineery$Person;LScrutineery$Person;)V" } : Jvm.MethodName) prog_3_method_1_code (5 : Nat) (Option.none : Option Jvm.ClassFile.FieldType)) ∈ lw_all := lw_g (lw_at lw_m4 172 rfl) rfl
theorem q1003 : (Jvm.Cond.methodLink "Scrutineery$Couple" (3 : Nat) ({ cls := "java/lang/Object", name := "<init>", desc := "()V" } : Jvm.MethodName)) ∈ lw_all := lw_g (lw_at lw_m4 173 rfl) rfl
theorem q1004 : (Jvm.Cond.classLink "Scrutineery$Couple" (9 : Nat) "java/util/ArrayList") ∈ lw_all := lw_g (lw_at lw_m4 174 rfl) rfl
theorem q1005 : (Jvm.Cond.methodLink "Scrutineery$Couple" (11 : Nat) ({ cls := "java/util/ArrayList", name := "<init>", desc := "()V" } : Jvm.MethodName)) ∈ lw_all := lw_g (lw_at lw_m4 175 rfl) rfl
theorem q1006 : (Jvm.Cond.interfaceEntry "Scrutineery$Couple" (33 : Nat)) ∈ lw_tbl := lw_at lw_m4 176 rfl
theorem q1007 : (Jvm.Cond.methodLink "Scrutineery$Couple" (33 : Nat) ({ cls := "java/util/List", name := "add", desc := "(Ljava/lang/Object;)Z" } : Jvm.MethodName)) ∈ lw_all := lw_g (lw_at lw_m4 177 rfl) rfl
theorem q1008 : (Jvm.Cond.fieldLink "Scrutineery$Couple" (22 : Nat) "Scrutineery$Couple" "number" "I") ∈ lw_all := lw_g (lw_at lw_m4 178 rfl) rfl
theorem q1010 : (Jvm.Cond.fieldLink "Scrutineery$Couple" (26 : Nat) "Scrutineery$Couple" "one" "LScrutineery$Person;") ∈ lw_all := lw_g (lw_at lw_m4 180 rfl) rfl
theorem q1013 : (Jvm.Cond.fieldLink "Scrutineery$Couple" (30 : Nat) "Scrutineery$Couple" "other" "LScrutineery$Person;") ∈ lw_all := lw_g (lw_at lw_m4 183 rfl) rfl
theorem q1016 : (Jvm.Cond.fieldLink "Scrutineery$Couple" (12 : Nat) "Scrutineery$Couple" "scores" "Ljava/util/List;") ∈ lw_all := lw_g (lw_at lw_m4 186 rfl) rfl
theorem q1018 : (Jvm.Cond.fieldLink "Scrutineery$Couple" (18 : Nat) "Scrutineery$Couple" "stands" "Z") ∈ lw_all := lw_g (lw_at lw_m4 188 rfl) rfl
theorem q1020 : (Jvm.Cond.laysFinal "Scrutineery$Couple" "Scrutineery$Couple" "number" "I") ∈ lw_all := lw_g (lw_at lw_m4 190 rfl) rfl
theorem q1021 : (Jvm.Cond.soleField "Scrutineery$Couple" "number") ∈ lw_all := lw_g (lw_at lw_m4 191 rfl) rfl
theorem q1022 : (Jvm.Cond.laysFinal "Scrutineery$Couple" "Scrutineery$Couple" "one" "LScrutineery$Person;") ∈ lw_all := lw_g (lw_at lw_m4 192 rfl) rfl
theorem q1023 : (Jvm.Cond.soleField "Scrutineery$Couple" "one") ∈ lw_all := lw_g (lw_at lw_m4 193 rfl) rfl
theorem q1024 : (Jvm.Cond.laysFinal "Scrutineery$Couple" "Scrutineery$Couple" "other" "LScrutineery$Person;") ∈ lw_all := lw_g (lw_at lw_m4 194 rfl) rfl
theorem q1025 : (Jvm.Cond.soleField "Scrutineery$Couple" "other") ∈ lw_all := lw_g (lw_at lw_m4 195 rfl) rfl
theorem q1026 : (Jvm.Cond.laysFinal "Scrutineery$Couple" "Scrutineery$Couple" "scores" "Ljava/util/List;") ∈ lw_all := lw_g (lw_at lw_m4 196 rfl) rfl
theorem q1027 : (Jvm.Cond.soleField "Scrutineery$Couple" "scores") ∈ lw_all := lw_g (lw_at lw_m4 197 rfl) rfl
theorem q1028 : (Jvm.Cond.lays "Scrutineery$Couple" "Scrutineery$Couple" "stands" "Z") ∈ lw_all := lw_g (lw_at lw_m4 198 rfl) rfl
theorem q1029 : (Jvm.Cond.soleField "Scrutineery$Couple" "stands") ∈ lw_all := lw_g (lw_at lw_m4 199 rfl) rfl
theorem q1030 : (Jvm.Cond.superclass "Scrutineery$Couple" "java/lang/Object") ∈ lw_all := lw_g (lw_at lw_m4 200 rfl) rfl
theorem q1190 : (Jvm.Cond.instanceMethod ({ cls := "Scrutineery$Couple", name := "isSuspended", desc := "(I)Z" } : Jvm.MethodName)) ∈ lw_all := lw_g (lw_at lw_m5 120 rfl) rfl
theorem q1191 : (Jvm.Cond.selects "Scrutineery$Couple" ({ cls := "Scrutineery$Couple", name := "isSuspended", desc := "(I)Z" } : Jvm.MethodName) ({ cls := "Scrutineery$Couple", name := "isSuspended", desc := "(I)Z" } : Jvm.MethodName)) ∈ lw_all := lw_g (lw_at lw_m5 121 rfl) rfl
theorem q1192 : (Jvm.Cond.code ({ cls := "Scrutineery$Couple", name := "isSuspended", desc := "(I)Z" } : Jvm.MethodName) prog_3_method_6_code (2 : Nat) (Option.some Jvm.ClassFile.FieldType.boolean)) ∈ lw_all := lw_g (lw_at lw_m5 122 rfl) rfl
theorem q1194 : (Jvm.Cond.instanceMethod ({ cls := "Scrutineery$Couple", name := "isProfessional", desc := "()Z" } : Jvm.MethodName)) ∈ lw_all := lw_g (lw_at lw_m5 124 rfl) rfl
theorem q1195 : (Jvm.Cond.selects "Scrutineery$Couple" ({ cls := "Scrutineery$Couple", name := "isProfessional", desc := "()Z" } : Jvm.MethodName) ({ cls := "Scrutineery$Couple", name := "isProfessional", desc := "()Z" } : Jvm.MethodName)) ∈ lw_all := lw_g (lw_at lw_m5 125 rfl) rfl
theorem q1196 : (Jvm.Cond.code ({ cls := "Scrutineery$Couple", name := "isProfessional", desc := "()Z" } : Jvm.MethodName) prog_3_method_3_code (1 : Nat) (Option.some Jvm.ClassFile.FieldType.boolean)) ∈ lw_all := lw_g (lw_at lw_m5 126 rfl) rfl
theorem q1197 : (Jvm.Cond.methodLink "Scrutineery$Couple" (39 : Nat) ({ cls := "Scrutineery$Person", name := "isProfessional", desc := "()Z" } : Jvm.MethodName)) ∈ lw_all := lw_g (lw_at lw_m5 127 rfl) rfl
theorem q1199 : (Jvm.Cond.instanceMethod ({ cls := "Scrutineery$Couple", name := "age", desc := "()I" } : Jvm.MethodName)) ∈ lw_all := lw_g (lw_at lw_m5 129 rfl) rfl
theorem q1200 : (Jvm.Cond.selects "Scrutineery$Couple" ({ cls := "Scrutineery$Couple", name := "age", desc := "()I" } : Jvm.MethodName) ({ cls := "Scrutineery$Couple", name := "age", desc := "()I" } : Jvm.MethodName)) ∈ lw_all := lw_g (lw_at lw_m5 130 rfl) rfl
theorem q1201 : (Jvm.Cond.code ({ cls := "Scrutineery$Couple", name := "age", desc := "()I" } : Jvm.MethodName) prog_3_method_4_code (1 : Nat) (Option.some Jvm.ClassFile.FieldType.int)) ∈ lw_all := lw_g (lw_at lw_m5 131 rfl) rfl
theorem q1202 : (Jvm.Cond.methodLink "Scrutineery$Couple" (48 : Nat) ({ cls := "java/lang/Math", name := "max", desc := "(II)I" } : Jvm.MethodName)) ∈ lw_all := lw_g (lw_at lw_m5 132 rfl) rfl
theorem q1204 : (Jvm.Cond.instanceMethod ({ cls := "Scrutineery$Couple", name := "grade", desc := "(I)I" } : Jvm.MethodName)) ∈ lw_all := lw_g (lw_at lw_m5 134 rfl) rfl
theorem q1205 : (Jvm.Cond.selects "Scrutineery$Couple" ({ cls := "Scrutineery$Couple", name := "grade", desc := "(I)I" } : Jvm.MethodName) ({ cls := "Scrutineery$Couple", name := "grade", desc := "(I)I" } : Jvm.MethodName)) ∈ lw_all := lw_g (lw_at lw_m5 135 rfl) rfl
theorem q1206 : (Jvm.Cond.code ({ cls := "Scrutineery$Couple", name := "grade", desc := "(I)I" } : Jvm.MethodName) prog_3_method_5_code (2 : Nat) (Option.some Jvm.ClassFile.FieldType.int)) ∈ lw_all := lw_g (lw_at lw_m5 136 rfl) rfl
theorem q1207 : (Jvm.Cond.methodLink "Scrutineery$Couple" (54 : Nat) ({ cls := "Scrutineery$Person", name := "grade", desc := "(I)I" } : Jvm.MethodName)) ∈ lw_all := lw_g (lw_at lw_m5 137 rfl) rfl
theorem q1968 : (Jvm.Cond.instanceMethod ({ cls := "Scrutineery$Couple", name := "rank", desc := "(I)I" } : Jvm.MethodName)) ∈ lw_all := lw_g (lw_at lw_m8 178 rfl) rfl
theorem q1969 : (Jvm.Cond.selects "Scrutineery$Couple" ({ cls := "Scrutineery$Couple", name := "rank", desc := "(I)I" } : Jvm.MethodName) ({ cls := "Scrutineery$Couple", name := "rank", desc := "(I)I" } : Jvm.MethodName)) ∈ lw_all := lw_g (lw_at lw_m8 179 rfl) rfl
theorem q1970 : (Jvm.Cond.code ({ cls := "Scrutineery$Couple", name := "rank", desc := "(I)I" } : Jvm.MethodName) prog_3_method_7_code (7 : Nat) (Option.some Jvm.ClassFile.FieldType.int)) ∈ lw_all := lw_g (lw_at lw_m8 180 rfl) rfl
theorem q1971 : (Jvm.Cond.interfaceEntry "Scrutineery$Couple" (61 : Nat)) ∈ lw_tbl := lw_at lw_m8 181 rfl
theorem q1972 : (Jvm.Cond.methodLink "Scrutineery$Couple" (61 : Nat) ({ cls := "java/util/List", name := "get", desc := "(I)Ljava/lang/Object;" } : Jvm.MethodName)) ∈ lw_all := lw_g (lw_at lw_m8 182 rfl) rfl
theorem q1973 : (Jvm.Cond.classLink "Scrutineery$Couple" (65 : Nat) "java/util/Collection") ∈ lw_all := lw_g (lw_at lw_m8 183 rfl) rfl
theorem q1974 : (Jvm.Cond.methodLink "Scrutineery$Couple" (67 : Nat) ({ cls := "java/util/ArrayList", name := "<init>", desc := "(Ljava/util/Collection;)V" } : Jvm.MethodName)) ∈ lw_all := lw_g (lw_at lw_m8 184 rfl) rfl
theorem q1975 : (Jvm.Cond.interfaceEntry "Scrutineery$Couple" (70 : Nat)) ∈ lw_tbl := lw_at lw_m8 185 rfl
theorem q1976 : (Jvm.Cond.methodLink "Scrutineery$Couple" (70 : Nat) ({ cls := "java/util/List", name := "isEmpty", desc := "()Z" } : Jvm.MethodName)) ∈ lw_all := lw_g (lw_at lw_m8 186 rfl) rfl
theorem q1977 : (Jvm.Cond.interfaceEntry "Scrutineery$Couple" (73 : Nat)) ∈ lw_tbl := lw_at lw_m8 187 rfl
theorem q1978 : (Jvm.Cond.methodLink "Scrutineery$Couple" (73 : Nat) ({ cls := "java/util/List", name := "size", desc := "()I" } : Jvm.MethodName)) ∈ lw_all := lw_g (lw_at lw_m8 188 rfl) rfl
theorem q1979 : (Jvm.Cond.classLink "Scrutineery$Couple" (77 : Nat) "java/lang/Integer") ∈ lw_all := lw_g (lw_at lw_m8 189 rfl) rfl
theorem q1980 : (Jvm.Cond.methodLink "Scrutineery$Couple" (79 : Nat) ({ cls := "java/lang/Integer", name := "intValue", desc := "()I" } : Jvm.MethodName)) ∈ lw_all := lw_g (lw_at lw_m8 190 rfl) rfl
theorem q1981 : (Jvm.Cond.interfaceEntry "Scrutineery$Couple" (82 : Nat)) ∈ lw_tbl := lw_at lw_m8 191 rfl
theorem q1982 : (Jvm.Cond.methodLink "Scrutineery$Couple" (82 : Nat) ({ cls := "java/util/List", name := "remove", desc := "(I)Ljava/lang/Object;" } : Jvm.MethodName)) ∈ lw_all := lw_g (lw_at lw_m8 192 rfl) rfl
theorem q2874 : (Jvm.Cond.castable "Scrutineery$Couple" "java/lang/Object") ∈ lw_tbl := lw_at lw_m12 124 rfl
theorem in_X5 : ∀ w ∈ wsX50, w ∈ lw_all := lw_in wsX50 [1020, 1022, 1024, 1026, 1028] (by decide +kernel) (by decide +kernel)
/-! Scrutineery$Round -/
set_option maxRecDepth 100000
def RX7 : String := "Scrutineery$Round"
def TX7 : u_T := fun k => match k with
  | 0 => ("Scrutineery$Round", "number", "I", true)
  | 1 => ("Scrutineery$Round", "redances", "I", true)
  | 2 => ("Scrutineery$Round", "entries", "Ljava/util/List;", true)
  | 3 => ("Scrutineery$Round", "safe", "Ljava/util/List;", true)
  | _ => ("Scrutineery$Round", "marks", "[[LScrutineery$Marks;", true)
def tyX7 : Nat → FieldType := fun k => match k with
  | 0 => .int
  | 1 => .int
  | 2 => .object "java/util/List"
  | 3 => .object "java/util/List"
  | _ => .array (.array (.object "Scrutineery$Marks"))
abbrev wsX70 : List Cond := u_ws RX7 TX7 5
theorem nmX7 : ∀ a, a < 5 → ∀ b, b < 5 → a ≠ b → (TX7 a).2.1 ≠ (TX7 b).2.1 := by decide +kernel
theorem tyX7_ok : ∀ k, k < 5 → parseFieldDescriptor (TX7 k).2.2.1 = some (tyX7 k) := by decide +kernel
abbrev cX7_recalls : ByteArray := prog_15_method_4_code
def yX7_recalls : MethodName := ⟨RX7, "recalls", "(LScrutineery$Entry;)I"⟩
def dkwX7_recalls_4 : List UInt8 := [167, 255, 177, 28, 172]
abbrev dktX7_recalls_4 : List UInt8 := dkwX7_recalls_4 ++ []
def dkwX7_recalls_3 : List UInt8 := [182, 0, 37, 43, 182, 0, 41, 126, 153, 0, 6, 132, 2, 1, 132, 9, 1, 167, 255, 208, 132, 5, 1]
abbrev dktX7_recalls_3 : List UInt8 := dkwX7_recalls_3 ++ dktX7_recalls_4
def dkwX7_recalls_2 : List UInt8 := [21, 9, 50, 58, 10, 25, 10, 193, 0, 35, 153, 0, 26, 25, 10, 192, 0, 35, 58, 11, 25, 11]
abbrev dktX7_recalls_2 : List UInt8 := dkwX7_recalls_2 ++ dktX7_recalls_3
def dkwX7_recalls_1 : List UInt8 := [50, 58, 6, 25, 6, 58, 7, 25, 7, 190, 54, 8, 3, 54, 9, 21, 9, 21, 8, 162, 0, 47, 25, 7]
abbrev dktX7_recalls_1 : List UInt8 := dkwX7_recalls_1 ++ dktX7_recalls_2
def dkwX7_recalls_0 : List UInt8 := [3, 61, 42, 180, 0, 11, 78, 45, 190, 54, 4, 3, 54, 5, 21, 5, 21, 4, 162, 0, 78, 45, 21, 5]
abbrev dktX7_recalls_0 : List UInt8 := dkwX7_recalls_0 ++ dktX7_recalls_1
theorem dksX7_recalls_0 : cX7_recalls.data.toList.drop 0 = dktX7_recalls_0 := by decide +kernel
theorem dksX7_recalls_1 : cX7_recalls.data.toList.drop 24 = dktX7_recalls_1 := dk_seg dksX7_recalls_0 24 rfl rfl
theorem dksX7_recalls_2 : cX7_recalls.data.toList.drop 48 = dktX7_recalls_2 := dk_seg dksX7_recalls_1 24 rfl rfl
theorem dksX7_recalls_3 : cX7_recalls.data.toList.drop 70 = dktX7_recalls_3 := dk_seg dksX7_recalls_2 22 rfl rfl
theorem dksX7_recalls_4 : cX7_recalls.data.toList.drop 93 = dktX7_recalls_4 := dk_seg dksX7_recalls_3 23 rfl rfl
theorem dX7_recalls_0 : decode cX7_recalls 0 = .ok (.iconst 0, 1) := dk_3 (dk_at dksX7_recalls_0 0 rfl rfl)
theorem dX7_recalls_1 : decode cX7_recalls 1 = .ok (.istore_n 2, 1) := dk_61 (dk_at dksX7_recalls_0 1 rfl rfl)
theorem dX7_recalls_2 : decode cX7_recalls 2 = .ok (.aload_n 0, 1) := dk_42 (dk_at dksX7_recalls_0 2 rfl rfl)
theorem dX7_recalls_3 : decode cX7_recalls 3 = .ok (.getfield 11, 3) := dk_180 0 11 (dk_at dksX7_recalls_0 3 rfl rfl)
theorem dX7_recalls_6 : decode cX7_recalls 6 = .ok (.astore_n 3, 1) := dk_78 (dk_at dksX7_recalls_0 6 rfl rfl)
theorem dX7_recalls_7 : decode cX7_recalls 7 = .ok (.aload_n 3, 1) := dk_45 (dk_at dksX7_recalls_0 7 rfl rfl)
theorem dX7_recalls_8 : decode cX7_recalls 8 = .ok (.arraylength, 1) := dk_190 (dk_at dksX7_recalls_0 8 rfl rfl)
theorem dX7_recalls_9 : decode cX7_recalls 9 = .ok (.istore 4, 2) := dk_54 4 (dk_at dksX7_recalls_0 9 rfl rfl)
theorem dX7_recalls_11 : decode cX7_recalls 11 = .ok (.iconst 0, 1) := dk_3 (dk_at dksX7_recalls_0 11 rfl rfl)
theorem dX7_recalls_12 : decode cX7_recalls 12 = .ok (.istore 5, 2) := dk_54 5 (dk_at dksX7_recalls_0 12 rfl rfl)
theorem dX7_recalls_14 : decode cX7_recalls 14 = .ok (.iload 5, 2) := dk_21 5 (dk_at dksX7_recalls_0 14 rfl rfl)
theorem dX7_recalls_16 : decode cX7_recalls 16 = .ok (.iload 4, 2) := dk_21 4 (dk_at dksX7_recalls_0 16 rfl rfl)
theorem dX7_recalls_18 : decode cX7_recalls 18 = .ok (.if_icmp .ge 78, 3) := dk_162 0 78 (dk_at dksX7_recalls_0 18 rfl rfl)
theorem dX7_recalls_21 : decode cX7_recalls 21 = .ok (.aload_n 3, 1) := dk_45 (dk_at dksX7_recalls_0 21 rfl rfl)
theorem dX7_recalls_22 : decode cX7_recalls 22 = .ok (.iload 5, 2) := dk_21 5 (dk_at dksX7_recalls_0 22 rfl rfl)
theorem dX7_recalls_24 : decode cX7_recalls 24 = .ok (.aaload, 1) := dk_50 (dk_at dksX7_recalls_1 0 rfl rfl)
theorem dX7_recalls_25 : decode cX7_recalls 25 = .ok (.astore 6, 2) := dk_58 6 (dk_at dksX7_recalls_1 1 rfl rfl)
theorem dX7_recalls_27 : decode cX7_recalls 27 = .ok (.aload 6, 2) := dk_25 6 (dk_at dksX7_recalls_1 3 rfl rfl)
theorem dX7_recalls_29 : decode cX7_recalls 29 = .ok (.astore 7, 2) := dk_58 7 (dk_at dksX7_recalls_1 5 rfl rfl)
theorem dX7_recalls_31 : decode cX7_recalls 31 = .ok (.aload 7, 2) := dk_25 7 (dk_at dksX7_recalls_1 7 rfl rfl)
theorem dX7_recalls_33 : decode cX7_recalls 33 = .ok (.arraylength, 1) := dk_190 (dk_at dksX7_recalls_1 9 rfl rfl)
theorem dX7_recalls_34 : decode cX7_recalls 34 = .ok (.istore 8, 2) := dk_54 8 (dk_at dksX7_recalls_1 10 rfl rfl)
theorem dX7_recalls_36 : decode cX7_recalls 36 = .ok (.iconst 0, 1) := dk_3 (dk_at dksX7_recalls_1 12 rfl rfl)
theorem dX7_recalls_37 : decode cX7_recalls 37 = .ok (.istore 9, 2) := dk_54 9 (dk_at dksX7_recalls_1 13 rfl rfl)
theorem dX7_recalls_39 : decode cX7_recalls 39 = .ok (.iload 9, 2) := dk_21 9 (dk_at dksX7_recalls_1 15 rfl rfl)
theorem dX7_recalls_41 : decode cX7_recalls 41 = .ok (.iload 8, 2) := dk_21 8 (dk_at dksX7_recalls_1 17 rfl rfl)
theorem dX7_recalls_43 : decode cX7_recalls 43 = .ok (.if_icmp .ge 47, 3) := dk_162 0 47 (dk_at dksX7_recalls_1 19 rfl rfl)
theorem dX7_recalls_46 : decode cX7_recalls 46 = .ok (.aload 7, 2) := dk_25 7 (dk_at dksX7_recalls_1 22 rfl rfl)
theorem dX7_recalls_48 : decode cX7_recalls 48 = .ok (.iload 9, 2) := dk_21 9 (dk_at dksX7_recalls_2 0 rfl rfl)
theorem dX7_recalls_50 : decode cX7_recalls 50 = .ok (.aaload, 1) := dk_50 (dk_at dksX7_recalls_2 2 rfl rfl)
theorem dX7_recalls_51 : decode cX7_recalls 51 = .ok (.astore 10, 2) := dk_58 10 (dk_at dksX7_recalls_2 3 rfl rfl)
theorem dX7_recalls_53 : decode cX7_recalls 53 = .ok (.aload 10, 2) := dk_25 10 (dk_at dksX7_recalls_2 5 rfl rfl)
theorem dX7_recalls_55 : decode cX7_recalls 55 = .ok (.instanceof 35, 3) := dk_193 0 35 (dk_at dksX7_recalls_2 7 rfl rfl)
theorem dX7_recalls_58 : decode cX7_recalls 58 = .ok (.ifCond .eq 26, 3) := dk_153 0 26 (dk_at dksX7_recalls_2 10 rfl rfl)
theorem dX7_recalls_61 : decode cX7_recalls 61 = .ok (.aload 10, 2) := dk_25 10 (dk_at dksX7_recalls_2 13 rfl rfl)
theorem dX7_recalls_63 : decode cX7_recalls 63 = .ok (.checkcast 35, 3) := dk_192 0 35 (dk_at dksX7_recalls_2 15 rfl rfl)
theorem dX7_recalls_66 : decode cX7_recalls 66 = .ok (.astore 11, 2) := dk_58 11 (dk_at dksX7_recalls_2 18 rfl rfl)
theorem dX7_recalls_68 : decode cX7_recalls 68 = .ok (.aload 11, 2) := dk_25 11 (dk_at dksX7_recalls_2 20 rfl rfl)
theorem dX7_recalls_70 : decode cX7_recalls 70 = .ok (.invokevirtual 37, 3) := dk_182 0 37 (dk_at dksX7_recalls_3 0 rfl rfl)
theorem dX7_recalls_73 : decode cX7_recalls 73 = .ok (.aload_n 1, 1) := dk_43 (dk_at dksX7_recalls_3 3 rfl rfl)
theorem dX7_recalls_74 : decode cX7_recalls 74 = .ok (.invokevirtual 41, 3) := dk_182 0 41 (dk_at dksX7_recalls_3 4 rfl rfl)
theorem dX7_recalls_77 : decode cX7_recalls 77 = .ok (.iand, 1) := dk_126 (dk_at dksX7_recalls_3 7 rfl rfl)
theorem dX7_recalls_78 : decode cX7_recalls 78 = .ok (.ifCond .eq 6, 3) := dk_153 0 6 (dk_at dksX7_recalls_3 8 rfl rfl)
theorem dX7_recalls_81 : decode cX7_recalls 81 = .ok (.iinc 2 1, 3) := dk_132 2 1 (dk_at dksX7_recalls_3 11 rfl rfl)
theorem dX7_recalls_84 : decode cX7_recalls 84 = .ok (.iinc 9 1, 3) := dk_132 9 1 (dk_at dksX7_recalls_3 14 rfl rfl)
theorem dX7_recalls_87 : decode cX7_recalls 87 = .ok (.goto (-48), 3) := dk_167 255 208 (dk_at dksX7_recalls_3 17 rfl rfl)
theorem dX7_recalls_90 : decode cX7_recalls 90 = .ok (.iinc 5 1, 3) := dk_132 5 1 (dk_at dksX7_recalls_3 20 rfl rfl)
theorem dX7_recalls_93 : decode cX7_recalls 93 = .ok (.goto (-79), 3) := dk_167 255 177 (dk_at dksX7_recalls_4 0 rfl rfl)
theorem dX7_recalls_96 : decode cX7_recalls 96 = .ok (.iload_n 2, 1) := dk_28 (dk_at dksX7_recalls_4 3 rfl rfl)
theorem dX7_recalls_97 : decode cX7_recalls 97 = .ok (.ireturn, 1) := dk_172 (dk_at dksX7_recalls_4 4 rfl rfl)
abbrev cX7_place : ByteArray := prog_15_method_5_code
def yX7_place : MethodName := ⟨RX7, "place", "(IILScrutineery$Entry;)I"⟩
def dkwX7_place_1 : List UInt8 := [58, 4, 25, 4, 42, 180, 0, 23, 45, 185, 0, 48, 2, 0, 182, 0, 54, 167, 0, 4, 2, 172]
abbrev dktX7_place_1 : List UInt8 := dkwX7_place_1 ++ []
def dkwX7_place_0 : List UInt8 := [42, 180, 0, 11, 27, 50, 28, 50, 58, 5, 25, 5, 193, 0, 46, 153, 0, 28, 25, 5, 192, 0, 46]
abbrev dktX7_place_0 : List UInt8 := dkwX7_place_0 ++ dktX7_place_1
theorem dksX7_place_0 : cX7_place.data.toList.drop 0 = dktX7_place_0 := by decide +kernel
theorem dksX7_place_1 : cX7_place.data.toList.drop 23 = dktX7_place_1 := dk_seg dksX7_place_0 23 rfl rfl
theorem dX7_place_0 : decode cX7_place 0 = .ok (.aload_n 0, 1) := dk_42 (dk_at dksX7_place_0 0 rfl rfl)
theorem dX7_place_1 : decode cX7_place 1 = .ok (.getfield 11, 3) := dk_180 0 11 (dk_at dksX7_place_0 1 rfl rfl)
theorem dX7_place_4 : decode cX7_place 4 = .ok (.iload_n 1, 1) := dk_27 (dk_at dksX7_place_0 4 rfl rfl)
theorem dX7_place_5 : decode cX7_place 5 = .ok (.aaload, 1) := dk_50 (dk_at dksX7_place_0 5 rfl rfl)
theorem dX7_place_6 : decode cX7_place 6 = .ok (.iload_n 2, 1) := dk_28 (dk_at dksX7_place_0 6 rfl rfl)
theorem dX7_place_7 : decode cX7_place 7 = .ok (.aaload, 1) := dk_50 (dk_at dksX7_place_0 7 rfl rfl)
theorem dX7_place_8 : decode cX7_place 8 = .ok (.astore 5, 2) := dk_58 5 (dk_at dksX7_place_0 8 rfl rfl)
theorem dX7_place_10 : decode cX7_place 10 = .ok (.aload 5, 2) := dk_25 5 (dk_at dksX7_place_0 10 rfl rfl)
theorem dX7_place_12 : decode cX7_place 12 = .ok (.instanceof 46, 3) := dk_193 0 46 (dk_at dksX7_place_0 12 rfl rfl)
theorem dX7_place_15 : decode cX7_place 15 = .ok (.ifCond .eq 28, 3) := dk_153 0 28 (dk_at dksX7_place_0 15 rfl rfl)
theorem dX7_place_18 : decode cX7_place 18 = .ok (.aload 5, 2) := dk_25 5 (dk_at dksX7_place_0 18 rfl rfl)
theorem dX7_place_20 : decode cX7_place 20 = .ok (.checkcast 46, 3) := dk_192 0 46 (dk_at dksX7_place_0 20 rfl rfl)
theorem dX7_place_23 : decode cX7_place 23 = .ok (.astore 4, 2) := dk_58 4 (dk_at dksX7_place_1 0 rfl rfl)
theorem dX7_place_25 : decode cX7_place 25 = .ok (.aload 4, 2) := dk_25 4 (dk_at dksX7_place_1 2 rfl rfl)
theorem dX7_place_27 : decode cX7_place 27 = .ok (.aload_n 0, 1) := dk_42 (dk_at dksX7_place_1 4 rfl rfl)
theorem dX7_place_28 : decode cX7_place 28 = .ok (.getfield 23, 3) := dk_180 0 23 (dk_at dksX7_place_1 5 rfl rfl)
theorem dX7_place_31 : decode cX7_place 31 = .ok (.aload_n 3, 1) := dk_45 (dk_at dksX7_place_1 8 rfl rfl)
theorem dX7_place_32 : decode cX7_place 32 = .ok (.invokeinterface 48 2, 5) := by decide +kernel
theorem dX7_place_37 : decode cX7_place 37 = .ok (.invokevirtual 54, 3) := dk_182 0 54 (dk_at dksX7_place_1 14 rfl rfl)
theorem dX7_place_40 : decode cX7_place 40 = .ok (.goto 4, 3) := dk_167 0 4 (dk_at dksX7_place_1 17 rfl rfl)
theorem dX7_place_43 : decode cX7_place 43 = .ok (.iconst (-1), 1) := dk_2 (dk_at dksX7_place_1 20 rfl rfl)
theorem dX7_place_44 : decode cX7_place 44 = .ok (.ireturn, 1) := dk_172 (dk_at dksX7_place_1 21 rfl rfl)
abbrev cX7_init : ByteArray := prog_15_method_1_code
def yX7_init : MethodName := ⟨RX7, "<init>", "(IILjava/util/List;Ljava/util/List;)V"⟩
def dkwX7_init_1 : List UInt8 := [181, 0, 20, 42, 45, 181, 0, 23, 42, 25, 4, 181, 0, 27, 177]
abbrev dktX7_init_1 : List UInt8 := dkwX7_init_1 ++ []
def dkwX7_init_0 : List UInt8 := [42, 183, 0, 3, 42, 8, 16, 7, 197, 0, 9, 2, 181, 0, 11, 42, 27, 181, 0, 16, 42, 28]
abbrev dktX7_init_0 : List UInt8 := dkwX7_init_0 ++ dktX7_init_1
theorem dksX7_init_0 : cX7_init.data.toList.drop 0 = dktX7_init_0 := by decide +kernel
theorem dksX7_init_1 : cX7_init.data.toList.drop 22 = dktX7_init_1 := dk_seg dksX7_init_0 22 rfl rfl
theorem dX7_init_0 : decode cX7_init 0 = .ok (.aload_n 0, 1) := dk_42 (dk_at dksX7_init_0 0 rfl rfl)
theorem dX7_init_1 : decode cX7_init 1 = .ok (.invokespecial 3, 3) := dk_183 0 3 (dk_at dksX7_init_0 1 rfl rfl)
theorem dX7_init_4 : decode cX7_init 4 = .ok (.aload_n 0, 1) := dk_42 (dk_at dksX7_init_0 4 rfl rfl)
theorem dX7_init_5 : decode cX7_init 5 = .ok (.iconst 5, 1) := dk_8 (dk_at dksX7_init_0 5 rfl rfl)
theorem dX7_init_6 : decode cX7_init 6 = .ok (.bipush 7, 2) := dk_16 7 (dk_at dksX7_init_0 6 rfl rfl)
theorem dX7_init_8 : decode cX7_init 8 = .ok (.multianewarray 9 2, 4) := by decide +kernel
theorem dX7_init_12 : decode cX7_init 12 = .ok (.putfield 11, 3) := dk_181 0 11 (dk_at dksX7_init_0 12 rfl rfl)
theorem dX7_init_15 : decode cX7_init 15 = .ok (.aload_n 0, 1) := dk_42 (dk_at dksX7_init_0 15 rfl rfl)
theorem dX7_init_16 : decode cX7_init 16 = .ok (.iload_n 1, 1) := dk_27 (dk_at dksX7_init_0 16 rfl rfl)
theorem dX7_init_17 : decode cX7_init 17 = .ok (.putfield 16, 3) := dk_181 0 16 (dk_at dksX7_init_0 17 rfl rfl)
theorem dX7_init_20 : decode cX7_init 20 = .ok (.aload_n 0, 1) := dk_42 (dk_at dksX7_init_0 20 rfl rfl)
theorem dX7_init_21 : decode cX7_init 21 = .ok (.iload_n 2, 1) := dk_28 (dk_at dksX7_init_0 21 rfl rfl)
theorem dX7_init_22 : decode cX7_init 22 = .ok (.putfield 20, 3) := dk_181 0 20 (dk_at dksX7_init_1 0 rfl rfl)
theorem dX7_init_25 : decode cX7_init 25 = .ok (.aload_n 0, 1) := dk_42 (dk_at dksX7_init_1 3 rfl rfl)
theorem dX7_init_26 : decode cX7_init 26 = .ok (.aload_n 3, 1) := dk_45 (dk_at dksX7_init_1 4 rfl rfl)
theorem dX7_init_27 : decode cX7_init 27 = .ok (.putfield 23, 3) := dk_181 0 23 (dk_at dksX7_init_1 5 rfl rfl)
theorem dX7_init_30 : decode cX7_init 30 = .ok (.aload_n 0, 1) := dk_42 (dk_at dksX7_init_1 8 rfl rfl)
theorem dX7_init_31 : decode cX7_init 31 = .ok (.aload 4, 2) := dk_25 4 (dk_at dksX7_init_1 9 rfl rfl)
theorem dX7_init_33 : decode cX7_init 33 = .ok (.putfield 27, 3) := dk_181 0 27 (dk_at dksX7_init_1 11 rfl rfl)
theorem dX7_init_36 : decode cX7_init 36 = .ok (.return_, 1) := dk_177 (dk_at dksX7_init_1 14 rfl rfl)
abbrev cX7_isRedance : ByteArray := prog_15_method_2_code
def yX7_isRedance : MethodName := ⟨RX7, "isRedance", "()Z"⟩
def dkwX7_isRedance_0 : List UInt8 := [42, 180, 0, 20, 158, 0, 7, 4, 167, 0, 4, 3, 172]
abbrev dktX7_isRedance_0 : List UInt8 := dkwX7_isRedance_0 ++ []
theorem dksX7_isRedance_0 : cX7_isRedance.data.toList.drop 0 = dktX7_isRedance_0 := by decide +kernel
theorem dX7_isRedance_0 : decode cX7_isRedance 0 = .ok (.aload_n 0, 1) := dk_42 (dk_at dksX7_isRedance_0 0 rfl rfl)
theorem dX7_isRedance_1 : decode cX7_isRedance 1 = .ok (.getfield 20, 3) := dk_180 0 20 (dk_at dksX7_isRedance_0 1 rfl rfl)
theorem dX7_isRedance_4 : decode cX7_isRedance 4 = .ok (.ifCond .le 7, 3) := dk_158 0 7 (dk_at dksX7_isRedance_0 4 rfl rfl)
theorem dX7_isRedance_7 : decode cX7_isRedance 7 = .ok (.iconst 1, 1) := dk_4 (dk_at dksX7_isRedance_0 7 rfl rfl)
theorem dX7_isRedance_8 : decode cX7_isRedance 8 = .ok (.goto 4, 3) := dk_167 0 4 (dk_at dksX7_isRedance_0 8 rfl rfl)
theorem dX7_isRedance_11 : decode cX7_isRedance 11 = .ok (.iconst 0, 1) := dk_3 (dk_at dksX7_isRedance_0 11 rfl rfl)
theorem dX7_isRedance_12 : decode cX7_isRedance 12 = .ok (.ireturn, 1) := dk_172 (dk_at dksX7_isRedance_0 12 rfl rfl)
abbrev cX7_iterator : ByteArray := prog_15_method_3_code
def yX7_iterator : MethodName := ⟨RX7, "iterator", "()Ljava/util/Iterator;"⟩
def dkwX7_iterator_0 : List UInt8 := [187, 0, 30, 89, 42, 183, 0, 32, 176]
abbrev dktX7_iterator_0 : List UInt8 := dkwX7_iterator_0 ++ []
theorem dksX7_iterator_0 : cX7_iterator.data.toList.drop 0 = dktX7_iterator_0 := by decide +kernel
theorem dX7_iterator_0 : decode cX7_iterator 0 = .ok (.new 30, 3) := dk_187 0 30 (dk_at dksX7_iterator_0 0 rfl rfl)
theorem dX7_iterator_3 : decode cX7_iterator 3 = .ok (.dup, 1) := dk_89 (dk_at dksX7_iterator_0 3 rfl rfl)
theorem dX7_iterator_4 : decode cX7_iterator 4 = .ok (.aload_n 0, 1) := dk_42 (dk_at dksX7_iterator_0 4 rfl rfl)
theorem dX7_iterator_5 : decode cX7_iterator 5 = .ok (.invokespecial 32, 3) := dk_183 0 32 (dk_at dksX7_iterator_0 5 rfl rfl)
theorem dX7_iterator_8 : decode cX7_iterator 8 = .ok (.areturn, 1) := dk_176 (dk_at dksX7_iterator_0 8 rfl rfl)
theorem q138 : (Jvm.Cond.initialized "Scrutineery$Round") ∈ lw_all := lw_g (lw_at lw_m1 28 rfl) rfl
theorem q442 : (Jvm.Cond.instanceMethod ({ cls := "Scrutineery$Round", name := "recalls", desc := "(LScrutineery$Entry;)I" } : Jvm.MethodName)) ∈ lw_all := lw_g (lw_at lw_m2 92 rfl) rfl
theorem q443 : (Jvm.Cond.selects "Scrutineery$Round" ({ cls := "Scrutineery$Round", name := "recalls", desc := "(LScrutineery$Entry;)I" } : Jvm.MethodName) ({ cls := "Scrutineery$Round", name := "recalls", desc := "(LScrutineery$Entry;)I" } : Jvm.MethodName)) ∈ lw_all := lw_g (lw_at lw_m2 93 rfl) rfl
theorem q444 : (Jvm.Cond.code ({ cls := "Scrutineery$Round", name := "recalls", desc := "(LScrutineery$Entry;)I" } : Jvm.MethodName) prog_15_method_4_code (12 : Nat) (Option.some Jvm.ClassFile.FieldType.int)) ∈ lw_all := lw_g (lw_at lw_m2 94 rfl) rfl
theorem q445 : (Jvm.Cond.classLink "Scrutineery$Round" (35 : Nat) "Scrutineery$Crosses") ∈ lw_all := lw_g (lw_at lw_m2 95 rfl) rfl
theorem q446 : (Jvm.Cond.methodLink "Scrutineery$Round" (37 : Nat) ({ cls := "Scrutineery$Crosses", name := "told", desc := "()I" } : Jvm.MethodName)) ∈ lw_all := lw_g (lw_at lw_m2 96 rfl) rfl
theorem q450 : (Jvm.Cond.methodLink "Scrutineery$Round" (41 : Nat) ({ cls := "Scrutineery$Entry", name := "bit", desc := "()I" } : Jvm.MethodName)) ∈ lw_all := lw_g (lw_at lw_m2 100 rfl) rfl
theorem q506 : (Jvm.Cond.selects "Scrutineery$Round" ({ cls := "java/lang/Object", name := "equals", desc := "(Ljava/lang/Object;)Z" } : Jvm.MethodName) ({ cls := "java/lang/Object", name := "equals", desc := "(Ljava/lang/Object;)Z" } : Jvm.MethodName)) ∈ lw_all := lw_g (lw_at lw_m2 156 rfl) rfl
theorem q560 : (Jvm.Cond.instanceMethod ({ cls := "Scrutineery$Round", name := "place", desc := "(IILScrutineery$Entry;)I" } : Jvm.MethodName)) ∈ lw_all := lw_g (lw_at lw_m2 210 rfl) rfl
theorem q561 : (Jvm.Cond.selects "Scrutineery$Round" ({ cls := "Scrutineery$Round", name := "place", desc := "(IILScrutineery$Entry;)I" } : Jvm.MethodName) ({ cls := "Scrutineery$Round", name := "place", desc := "(IILScrutineery$Entry;)I" } : Jvm.MethodName)) ∈ lw_all := lw_g (lw_at lw_m2 211 rfl) rfl
theorem q562 : (Jvm.Cond.code ({ cls := "Scrutineery$Round", name := "place", desc := "(IILScrutineery$Entry;)I" } : Jvm.MethodName) prog_15_method_5_code (6 : Nat) (Option.some Jvm.ClassFile.FieldType.int)) ∈ lw_all := lw_g (lw_at lw_m2 212 rfl) rfl
theorem q563 : (Jvm.Cond.classLink "Scrutineery$Round" (46 : Nat) "Scrutineery$Places") ∈ lw_all := lw_g (lw_at lw_m2 213 rfl) rfl
theorem q564 : (Jvm.Cond.interfaceEntry "Scrutineery$Round" (48 : Nat)) ∈ lw_tbl := lw_at lw_m2 214 rfl
theorem q565 : (Jvm.Cond.methodLink "Scrutineery$Round" (48 : Nat) ({ cls := "java/util/List", name := "indexOf", desc := "(Ljava/lang/Object;)I" } : Jvm.MethodName)) ∈ lw_all := lw_g (lw_at lw_m2 215 rfl) rfl
theorem q577 : (Jvm.Cond.methodLink "Scrutineery$Round" (54 : Nat) ({ cls := "Scrutineery$Places", name := "of", desc := "(I)I" } : Jvm.MethodName)) ∈ lw_all := lw_g (lw_at lw_m2 227 rfl) rfl
theorem q630 : (Jvm.Cond.selects "Scrutineery$Round" ({ cls := "java/lang/Object", name := "getClass", desc := "()Ljava/lang/Class;" } : Jvm.MethodName) ({ cls := "java/lang/Object", name := "getClass", desc := "()Ljava/lang/Class;" } : Jvm.MethodName)) ∈ lw_all := lw_g (lw_at lw_m3 40 rfl) rfl
theorem q1051 : (Jvm.Cond.instantiable "Scrutineery$Round" (5 : Nat)) ∈ lw_all := lw_g (lw_at lw_m4 221 rfl) rfl
theorem q1053 : (Jvm.Cond.instanceMethod ({ cls := "Scrutineery$Round", name := "<init>", desc := "(IILjava/util/List;Ljava/util/List;)V" } : Jvm.MethodName)) ∈ lw_all := lw_g (lw_at lw_m4 223 rfl) rfl
theorem q1054 : (Jvm.Cond.code ({ cls := "Scrutineery$Round", name := "<init>", desc := "(IILjava/util/List;Ljava/util/List;)V" } : Jvm.MethodName) prog_15_method_1_code (5 : Nat) (Option.none : Option Jvm.ClassFile.FieldType)) ∈ lw_all := lw_g (lw_at lw_m4 224 rfl) rfl
theorem q1055 : (Jvm.Cond.methodLink "Scrutineery$Round" (3 : Nat) ({ cls := "java/lang/Object", name := "<init>", desc := "()V" } : Jvm.MethodName)) ∈ lw_all := lw_g (lw_at lw_m4 225 rfl) rfl
theorem q1056 : (Jvm.Cond.classLink "Scrutineery$Round" (9 : Nat) "[[LScrutineery$Marks;") ∈ lw_all := lw_g (lw_at lw_m4 226 rfl) rfl
theorem q1060 : (Jvm.Cond.fieldLink "Scrutineery$Round" (16 : Nat) "Scrutineery$Round" "number" "I") ∈ lw_all := lw_g (lw_at lw_m4 230 rfl) rfl
theorem q1063 : (Jvm.Cond.fieldLink "Scrutineery$Round" (20 : Nat) "Scrutineery$Round" "redances" "I") ∈ lw_all := lw_g (lw_at lw_m4 233 rfl) rfl
theorem q1066 : (Jvm.Cond.fieldLink "Scrutineery$Round" (23 : Nat) "Scrutineery$Round" "entries" "Ljava/util/List;") ∈ lw_all := lw_g (lw_at lw_m4 236 rfl) rfl
theorem q1069 : (Jvm.Cond.fieldLink "Scrutineery$Round" (27 : Nat) "Scrutineery$Round" "safe" "Ljava/util/List;") ∈ lw_all := lw_g (lw_at lw_m4 239 rfl) rfl
theorem q1071 : (Jvm.Cond.fieldLink "Scrutineery$Round" (11 : Nat) "Scrutineery$Round" "marks" "[[LScrutineery$Marks;") ∈ lw_all := lw_g (lw_at lw_m5 1 rfl) rfl
theorem q1074 : (Jvm.Cond.laysFinal "Scrutineery$Round" "Scrutineery$Round" "number" "I") ∈ lw_all := lw_g (lw_at lw_m5 4 rfl) rfl
theorem q1075 : (Jvm.Cond.soleField "Scrutineery$Round" "number") ∈ lw_all := lw_g (lw_at lw_m5 5 rfl) rfl
theorem q1076 : (Jvm.Cond.laysFinal "Scrutineery$Round" "Scrutineery$Round" "redances" "I") ∈ lw_all := lw_g (lw_at lw_m5 6 rfl) rfl
theorem q1077 : (Jvm.Cond.soleField "Scrutineery$Round" "redances") ∈ lw_all := lw_g (lw_at lw_m5 7 rfl) rfl
theorem q1078 : (Jvm.Cond.laysFinal "Scrutineery$Round" "Scrutineery$Round" "entries" "Ljava/util/List;") ∈ lw_all := lw_g (lw_at lw_m5 8 rfl) rfl
theorem q1079 : (Jvm.Cond.soleField "Scrutineery$Round" "entries") ∈ lw_all := lw_g (lw_at lw_m5 9 rfl) rfl
theorem q1080 : (Jvm.Cond.laysFinal "Scrutineery$Round" "Scrutineery$Round" "safe" "Ljava/util/List;") ∈ lw_all := lw_g (lw_at lw_m5 10 rfl) rfl
theorem q1081 : (Jvm.Cond.soleField "Scrutineery$Round" "safe") ∈ lw_all := lw_g (lw_at lw_m5 11 rfl) rfl
theorem q1082 : (Jvm.Cond.laysFinal "Scrutineery$Round" "Scrutineery$Round" "marks" "[[LScrutineery$Marks;") ∈ lw_all := lw_g (lw_at lw_m5 12 rfl) rfl
theorem q1083 : (Jvm.Cond.soleField "Scrutineery$Round" "marks") ∈ lw_all := lw_g (lw_at lw_m5 13 rfl) rfl
theorem q1084 : (Jvm.Cond.superclass "Scrutineery$Round" "java/lang/Object") ∈ lw_all := lw_g (lw_at lw_m5 14 rfl) rfl
theorem q1182 : (Jvm.Cond.instanceMethod ({ cls := "Scrutineery$Round", name := "isRedance", desc := "()Z" } : Jvm.MethodName)) ∈ lw_all := lw_g (lw_at lw_m5 112 rfl) rfl
theorem q1183 : (Jvm.Cond.selects "Scrutineery$Round" ({ cls := "Scrutineery$Round", name := "isRedance", desc := "()Z" } : Jvm.MethodName) ({ cls := "Scrutineery$Round", name := "isRedance", desc := "()Z" } : Jvm.MethodName)) ∈ lw_all := lw_g (lw_at lw_m5 113 rfl) rfl
theorem q1184 : (Jvm.Cond.code ({ cls := "Scrutineery$Round", name := "isRedance", desc := "()Z" } : Jvm.MethodName) prog_15_method_2_code (1 : Nat) (Option.some Jvm.ClassFile.FieldType.boolean)) ∈ lw_all := lw_g (lw_at lw_m5 114 rfl) rfl
theorem q1831 : (Jvm.Cond.instanceMethod ({ cls := "Scrutineery$Round", name := "iterator", desc := "()Ljava/util/Iterator;" } : Jvm.MethodName)) ∈ lw_all := lw_g (lw_at lw_m8 41 rfl) rfl
theorem q1832 : (Jvm.Cond.selects "Scrutineery$Round" ({ cls := "Scrutineery$Round", name := "iterator", desc := "()Ljava/util/Iterator;" } : Jvm.MethodName) ({ cls := "Scrutineery$Round", name := "iterator", desc := "()Ljava/util/Iterator;" } : Jvm.MethodName)) ∈ lw_all := lw_g (lw_at lw_m8 42 rfl) rfl
theorem q1833 : (Jvm.Cond.code ({ cls := "Scrutineery$Round", name := "iterator", desc := "()Ljava/util/Iterator;" } : Jvm.MethodName) prog_15_method_3_code (1 : Nat) (Option.some (Jvm.ClassFile.FieldType.object "java/util/Iterator"))) ∈ lw_all := lw_g (lw_at lw_m8 43 rfl) rfl
theorem q1834 : (Jvm.Cond.classLink "Scrutineery$Round" (30 : Nat) "Scrutineery$Round$ByRecalls") ∈ lw_all := lw_g (lw_at lw_m8 44 rfl) rfl
theorem q1836 : (Jvm.Cond.methodLinkNest "Scrutineery$Round" (32 : Nat) ({ cls := "Scrutineery$Round$ByRecalls", name := "<init>", desc := "(LScrutineery$Round;)V" } : Jvm.MethodName) "Scrutineery") ∈ lw_tbl := lw_at lw_m8 46 rfl
theorem q2876 : (Jvm.Cond.castable "Scrutineery$Round" "java/lang/Object") ∈ lw_tbl := lw_at lw_m12 126 rfl
theorem in_X7 : ∀ w ∈ wsX70, w ∈ lw_all := lw_in wsX70 [1074, 1076, 1078, 1080, 1082] (by decide +kernel) (by decide +kernel)
/-! Scrutineery$Entry -/
set_option maxRecDepth 100000
def RX8 : String := "Scrutineery$Entry"
def TX8 : u_T := fun k => match k with
  | 0 => ("Scrutineery$Entry", "number", "I", true)
  | 1 => ("Scrutineery$Entry", "couple", "LScrutineery$Couple;", true)
  | 2 => ("Scrutineery$Entry", "values", "[I", true)
  | 3 => ("Scrutineery$Entry", "doubled", "[I", true)
  | 4 => ("Scrutineery$Entry", "rules", "[I", true)
  | 5 => ("Scrutineery$Entry", "isScratched", "Z", false)
  | 6 => ("Scrutineery$Entry", "lastRound", "I", false)
  | 7 => ("Scrutineery$Entry", "result", "I", false)
  | 8 => ("Scrutineery$Entry", "total", "I", false)
  | _ => ("Scrutineery$Entry", "rule", "I", false)
def tyX8 : Nat → FieldType := fun k => match k with
  | 0 => .int
  | 1 => .object "Scrutineery$Couple"
  | 2 => .array .int
  | 3 => .array .int
  | 4 => .array .int
  | 5 => .boolean
  | 6 => .int
  | 7 => .int
  | 8 => .int
  | _ => .int
abbrev wsX80 : List Cond := u_ws RX8 TX8 10
theorem nmX8 : ∀ a, a < 10 → ∀ b, b < 10 → a ≠ b → (TX8 a).2.1 ≠ (TX8 b).2.1 := by decide +kernel
theorem tyX8_ok : ∀ k, k < 10 → parseFieldDescriptor (TX8 k).2.2.1 = some (tyX8 k) := by decide +kernel
abbrev cX8_bit : ByteArray := prog_6_method_2_code
def yX8_bit : MethodName := ⟨RX8, "bit", "()I"⟩
def dkwX8_bit_0 : List UInt8 := [4, 42, 180, 0, 21, 4, 100, 120, 172]
abbrev dktX8_bit_0 : List UInt8 := dkwX8_bit_0 ++ []
theorem dksX8_bit_0 : cX8_bit.data.toList.drop 0 = dktX8_bit_0 := by decide +kernel
theorem dX8_bit_0 : decode cX8_bit 0 = .ok (.iconst 1, 1) := dk_4 (dk_at dksX8_bit_0 0 rfl rfl)
theorem dX8_bit_1 : decode cX8_bit 1 = .ok (.aload_n 0, 1) := dk_42 (dk_at dksX8_bit_0 1 rfl rfl)
theorem dX8_bit_2 : decode cX8_bit 2 = .ok (.getfield 21, 3) := dk_180 0 21 (dk_at dksX8_bit_0 2 rfl rfl)
theorem dX8_bit_5 : decode cX8_bit 5 = .ok (.iconst 1, 1) := dk_4 (dk_at dksX8_bit_0 5 rfl rfl)
theorem dX8_bit_6 : decode cX8_bit 6 = .ok (.isub, 1) := dk_100 (dk_at dksX8_bit_0 6 rfl rfl)
theorem dX8_bit_7 : decode cX8_bit 7 = .ok (.ishl, 1) := dk_120 (dk_at dksX8_bit_0 7 rfl rfl)
theorem dX8_bit_8 : decode cX8_bit 8 = .ok (.ireturn, 1) := dk_172 (dk_at dksX8_bit_0 8 rfl rfl)
abbrev cX8_init : ByteArray := prog_6_method_1_code
def yX8_init : MethodName := ⟨RX8, "<init>", "(ILScrutineery$Couple;)V"⟩
def dkwX8_init_2 : List UInt8 := [42, 180, 0, 9, 29, 2, 79, 132, 3, 1, 167, 255, 237, 177]
abbrev dktX8_init_2 : List UInt8 := dkwX8_init_2 ++ []
def dkwX8_init_1 : List UInt8 := [181, 0, 18, 42, 27, 181, 0, 21, 42, 44, 181, 0, 25, 3, 62, 29, 42, 180, 0, 9, 190, 162, 0, 16]
abbrev dktX8_init_1 : List UInt8 := dkwX8_init_1 ++ dktX8_init_2
def dkwX8_init_0 : List UInt8 := [42, 183, 0, 3, 42, 17, 0, 140, 188, 10, 181, 0, 9, 42, 8, 188, 10, 181, 0, 15, 42, 8, 188, 10]
abbrev dktX8_init_0 : List UInt8 := dkwX8_init_0 ++ dktX8_init_1
theorem dksX8_init_0 : cX8_init.data.toList.drop 0 = dktX8_init_0 := by decide +kernel
theorem dksX8_init_1 : cX8_init.data.toList.drop 24 = dktX8_init_1 := dk_seg dksX8_init_0 24 rfl rfl
theorem dksX8_init_2 : cX8_init.data.toList.drop 48 = dktX8_init_2 := dk_seg dksX8_init_1 24 rfl rfl
theorem dX8_init_0 : decode cX8_init 0 = .ok (.aload_n 0, 1) := dk_42 (dk_at dksX8_init_0 0 rfl rfl)
theorem dX8_init_1 : decode cX8_init 1 = .ok (.invokespecial 3, 3) := dk_183 0 3 (dk_at dksX8_init_0 1 rfl rfl)
theorem dX8_init_4 : decode cX8_init 4 = .ok (.aload_n 0, 1) := dk_42 (dk_at dksX8_init_0 4 rfl rfl)
theorem dX8_init_5 : decode cX8_init 5 = .ok (.sipush 140, 3) := dk_17 0 140 (dk_at dksX8_init_0 5 rfl rfl)
theorem dX8_init_8 : decode cX8_init 8 = .ok (.newarray .int, 2) := dk_188_10 (dk_at dksX8_init_0 8 rfl rfl)
theorem dX8_init_10 : decode cX8_init 10 = .ok (.putfield 9, 3) := dk_181 0 9 (dk_at dksX8_init_0 10 rfl rfl)
theorem dX8_init_13 : decode cX8_init 13 = .ok (.aload_n 0, 1) := dk_42 (dk_at dksX8_init_0 13 rfl rfl)
theorem dX8_init_14 : decode cX8_init 14 = .ok (.iconst 5, 1) := dk_8 (dk_at dksX8_init_0 14 rfl rfl)
theorem dX8_init_15 : decode cX8_init 15 = .ok (.newarray .int, 2) := dk_188_10 (dk_at dksX8_init_0 15 rfl rfl)
theorem dX8_init_17 : decode cX8_init 17 = .ok (.putfield 15, 3) := dk_181 0 15 (dk_at dksX8_init_0 17 rfl rfl)
theorem dX8_init_20 : decode cX8_init 20 = .ok (.aload_n 0, 1) := dk_42 (dk_at dksX8_init_0 20 rfl rfl)
theorem dX8_init_21 : decode cX8_init 21 = .ok (.iconst 5, 1) := dk_8 (dk_at dksX8_init_0 21 rfl rfl)
theorem dX8_init_22 : decode cX8_init 22 = .ok (.newarray .int, 2) := dk_188_10 (dk_at dksX8_init_0 22 rfl rfl)
theorem dX8_init_24 : decode cX8_init 24 = .ok (.putfield 18, 3) := dk_181 0 18 (dk_at dksX8_init_1 0 rfl rfl)
theorem dX8_init_27 : decode cX8_init 27 = .ok (.aload_n 0, 1) := dk_42 (dk_at dksX8_init_1 3 rfl rfl)
theorem dX8_init_28 : decode cX8_init 28 = .ok (.iload_n 1, 1) := dk_27 (dk_at dksX8_init_1 4 rfl rfl)
theorem dX8_init_29 : decode cX8_init 29 = .ok (.putfield 21, 3) := dk_181 0 21 (dk_at dksX8_init_1 5 rfl rfl)
theorem dX8_init_32 : decode cX8_init 32 = .ok (.aload_n 0, 1) := dk_42 (dk_at dksX8_init_1 8 rfl rfl)
theorem dX8_init_33 : decode cX8_init 33 = .ok (.aload_n 2, 1) := dk_44 (dk_at dksX8_init_1 9 rfl rfl)
theorem dX8_init_34 : decode cX8_init 34 = .ok (.putfield 25, 3) := dk_181 0 25 (dk_at dksX8_init_1 10 rfl rfl)
theorem dX8_init_37 : decode cX8_init 37 = .ok (.iconst 0, 1) := dk_3 (dk_at dksX8_init_1 13 rfl rfl)
theorem dX8_init_38 : decode cX8_init 38 = .ok (.istore_n 3, 1) := dk_62 (dk_at dksX8_init_1 14 rfl rfl)
theorem dX8_init_39 : decode cX8_init 39 = .ok (.iload_n 3, 1) := dk_29 (dk_at dksX8_init_1 15 rfl rfl)
theorem dX8_init_40 : decode cX8_init 40 = .ok (.aload_n 0, 1) := dk_42 (dk_at dksX8_init_1 16 rfl rfl)
theorem dX8_init_41 : decode cX8_init 41 = .ok (.getfield 9, 3) := dk_180 0 9 (dk_at dksX8_init_1 17 rfl rfl)
theorem dX8_init_44 : decode cX8_init 44 = .ok (.arraylength, 1) := dk_190 (dk_at dksX8_init_1 20 rfl rfl)
theorem dX8_init_45 : decode cX8_init 45 = .ok (.if_icmp .ge 16, 3) := dk_162 0 16 (dk_at dksX8_init_1 21 rfl rfl)
theorem dX8_init_48 : decode cX8_init 48 = .ok (.aload_n 0, 1) := dk_42 (dk_at dksX8_init_2 0 rfl rfl)
theorem dX8_init_49 : decode cX8_init 49 = .ok (.getfield 9, 3) := dk_180 0 9 (dk_at dksX8_init_2 1 rfl rfl)
theorem dX8_init_52 : decode cX8_init 52 = .ok (.iload_n 3, 1) := dk_29 (dk_at dksX8_init_2 4 rfl rfl)
theorem dX8_init_53 : decode cX8_init 53 = .ok (.iconst (-1), 1) := dk_2 (dk_at dksX8_init_2 5 rfl rfl)
theorem dX8_init_54 : decode cX8_init 54 = .ok (.iastore, 1) := dk_79 (dk_at dksX8_init_2 6 rfl rfl)
theorem dX8_init_55 : decode cX8_init 55 = .ok (.iinc 3 1, 3) := dk_132 3 1 (dk_at dksX8_init_2 7 rfl rfl)
theorem dX8_init_58 : decode cX8_init 58 = .ok (.goto (-19), 3) := dk_167 255 237 (dk_at dksX8_init_2 10 rfl rfl)
theorem dX8_init_61 : decode cX8_init 61 = .ok (.return_, 1) := dk_177 (dk_at dksX8_init_2 13 rfl rfl)
abbrev cX8_at : ByteArray := prog_6_method_3_code
def yX8_at : MethodName := ⟨RX8, "at", "(III)I"⟩
def dkwX8_at_0 : List UInt8 := [26, 16, 7, 104, 27, 96, 7, 104, 28, 96, 172]
abbrev dktX8_at_0 : List UInt8 := dkwX8_at_0 ++ []
theorem dksX8_at_0 : cX8_at.data.toList.drop 0 = dktX8_at_0 := by decide +kernel
theorem dX8_at_0 : decode cX8_at 0 = .ok (.iload_n 0, 1) := dk_26 (dk_at dksX8_at_0 0 rfl rfl)
theorem dX8_at_1 : decode cX8_at 1 = .ok (.bipush 7, 2) := dk_16 7 (dk_at dksX8_at_0 1 rfl rfl)
theorem dX8_at_3 : decode cX8_at 3 = .ok (.imul, 1) := dk_104 (dk_at dksX8_at_0 3 rfl rfl)
theorem dX8_at_4 : decode cX8_at 4 = .ok (.iload_n 1, 1) := dk_27 (dk_at dksX8_at_0 4 rfl rfl)
theorem dX8_at_5 : decode cX8_at 5 = .ok (.iadd, 1) := dk_96 (dk_at dksX8_at_0 5 rfl rfl)
theorem dX8_at_6 : decode cX8_at 6 = .ok (.iconst 4, 1) := dk_7 (dk_at dksX8_at_0 6 rfl rfl)
theorem dX8_at_7 : decode cX8_at 7 = .ok (.imul, 1) := dk_104 (dk_at dksX8_at_0 7 rfl rfl)
theorem dX8_at_8 : decode cX8_at 8 = .ok (.iload_n 2, 1) := dk_28 (dk_at dksX8_at_0 8 rfl rfl)
theorem dX8_at_9 : decode cX8_at 9 = .ok (.iadd, 1) := dk_96 (dk_at dksX8_at_0 9 rfl rfl)
theorem dX8_at_10 : decode cX8_at 10 = .ok (.ireturn, 1) := dk_172 (dk_at dksX8_at_0 10 rfl rfl)
abbrev cX8_given : ByteArray := prog_6_method_5_code
def yX8_given : MethodName := ⟨RX8, "given", "(II)Ljava/util/List;"⟩
def dkwX8_given_4 : List UInt8 := [167, 255, 174, 45, 176]
abbrev dktX8_given_4 : List UInt8 := dkwX8_given_4 ++ []
def dkwX8_given_3 : List UInt8 := [132, 6, 255, 167, 255, 227, 45, 21, 6, 21, 5, 184, 0, 54, 185, 0, 58, 3, 0, 132, 4, 1]
abbrev dktX8_given_3 : List UInt8 := dkwX8_given_3 ++ dktX8_given_4
def dkwX8_given_2 : List UInt8 := [158, 0, 30, 45, 21, 6, 4, 100, 185, 0, 45, 2, 0, 192, 0, 49, 182, 0, 51, 21, 5, 164, 0, 9]
abbrev dktX8_given_2 : List UInt8 := dkwX8_given_2 ++ dktX8_given_3
def dkwX8_given_1 : List UInt8 := [182, 0, 36, 54, 5, 21, 5, 2, 160, 0, 6, 167, 0, 56, 45, 185, 0, 39, 1, 0, 54, 6, 21, 6]
abbrev dktX8_given_1 : List UInt8 := dkwX8_given_1 ++ dktX8_given_2
def dkwX8_given_0 : List UInt8 := [187, 0, 33, 89, 183, 0, 35, 78, 3, 54, 4, 21, 4, 16, 7, 162, 0, 81, 42, 27, 21, 4, 28]
abbrev dktX8_given_0 : List UInt8 := dkwX8_given_0 ++ dktX8_given_1
theorem dksX8_given_0 : cX8_given.data.toList.drop 0 = dktX8_given_0 := by decide +kernel
theorem dksX8_given_1 : cX8_given.data.toList.drop 23 = dktX8_given_1 := dk_seg dksX8_given_0 23 rfl rfl
theorem dksX8_given_2 : cX8_given.data.toList.drop 47 = dktX8_given_2 := dk_seg dksX8_given_1 24 rfl rfl
theorem dksX8_given_3 : cX8_given.data.toList.drop 71 = dktX8_given_3 := dk_seg dksX8_given_2 24 rfl rfl
theorem dksX8_given_4 : cX8_given.data.toList.drop 93 = dktX8_given_4 := dk_seg dksX8_given_3 22 rfl rfl
theorem dX8_given_0 : decode cX8_given 0 = .ok (.new 33, 3) := dk_187 0 33 (dk_at dksX8_given_0 0 rfl rfl)
theorem dX8_given_3 : decode cX8_given 3 = .ok (.dup, 1) := dk_89 (dk_at dksX8_given_0 3 rfl rfl)
theorem dX8_given_4 : decode cX8_given 4 = .ok (.invokespecial 35, 3) := dk_183 0 35 (dk_at dksX8_given_0 4 rfl rfl)
theorem dX8_given_7 : decode cX8_given 7 = .ok (.astore_n 3, 1) := dk_78 (dk_at dksX8_given_0 7 rfl rfl)
theorem dX8_given_8 : decode cX8_given 8 = .ok (.iconst 0, 1) := dk_3 (dk_at dksX8_given_0 8 rfl rfl)
theorem dX8_given_9 : decode cX8_given 9 = .ok (.istore 4, 2) := dk_54 4 (dk_at dksX8_given_0 9 rfl rfl)
theorem dX8_given_11 : decode cX8_given 11 = .ok (.iload 4, 2) := dk_21 4 (dk_at dksX8_given_0 11 rfl rfl)
theorem dX8_given_13 : decode cX8_given 13 = .ok (.bipush 7, 2) := dk_16 7 (dk_at dksX8_given_0 13 rfl rfl)
theorem dX8_given_15 : decode cX8_given 15 = .ok (.if_icmp .ge 81, 3) := dk_162 0 81 (dk_at dksX8_given_0 15 rfl rfl)
theorem dX8_given_18 : decode cX8_given 18 = .ok (.aload_n 0, 1) := dk_42 (dk_at dksX8_given_0 18 rfl rfl)
theorem dX8_given_19 : decode cX8_given 19 = .ok (.iload_n 1, 1) := dk_27 (dk_at dksX8_given_0 19 rfl rfl)
theorem dX8_given_20 : decode cX8_given 20 = .ok (.iload 4, 2) := dk_21 4 (dk_at dksX8_given_0 20 rfl rfl)
theorem dX8_given_22 : decode cX8_given 22 = .ok (.iload_n 2, 1) := dk_28 (dk_at dksX8_given_0 22 rfl rfl)
theorem dX8_given_23 : decode cX8_given 23 = .ok (.invokevirtual 36, 3) := dk_182 0 36 (dk_at dksX8_given_1 0 rfl rfl)
theorem dX8_given_26 : decode cX8_given 26 = .ok (.istore 5, 2) := dk_54 5 (dk_at dksX8_given_1 3 rfl rfl)
theorem dX8_given_28 : decode cX8_given 28 = .ok (.iload 5, 2) := dk_21 5 (dk_at dksX8_given_1 5 rfl rfl)
theorem dX8_given_30 : decode cX8_given 30 = .ok (.iconst (-1), 1) := dk_2 (dk_at dksX8_given_1 7 rfl rfl)
theorem dX8_given_31 : decode cX8_given 31 = .ok (.if_icmp .ne 6, 3) := dk_160 0 6 (dk_at dksX8_given_1 8 rfl rfl)
theorem dX8_given_34 : decode cX8_given 34 = .ok (.goto 56, 3) := dk_167 0 56 (dk_at dksX8_given_1 11 rfl rfl)
theorem dX8_given_37 : decode cX8_given 37 = .ok (.aload_n 3, 1) := dk_45 (dk_at dksX8_given_1 14 rfl rfl)
theorem dX8_given_38 : decode cX8_given 38 = .ok (.invokeinterface 39 1, 5) := by decide +kernel
theorem dX8_given_43 : decode cX8_given 43 = .ok (.istore 6, 2) := dk_54 6 (dk_at dksX8_given_1 20 rfl rfl)
theorem dX8_given_45 : decode cX8_given 45 = .ok (.iload 6, 2) := dk_21 6 (dk_at dksX8_given_1 22 rfl rfl)
theorem dX8_given_47 : decode cX8_given 47 = .ok (.ifCond .le 30, 3) := dk_158 0 30 (dk_at dksX8_given_2 0 rfl rfl)
theorem dX8_given_50 : decode cX8_given 50 = .ok (.aload_n 3, 1) := dk_45 (dk_at dksX8_given_2 3 rfl rfl)
theorem dX8_given_51 : decode cX8_given 51 = .ok (.iload 6, 2) := dk_21 6 (dk_at dksX8_given_2 4 rfl rfl)
theorem dX8_given_53 : decode cX8_given 53 = .ok (.iconst 1, 1) := dk_4 (dk_at dksX8_given_2 6 rfl rfl)
theorem dX8_given_54 : decode cX8_given 54 = .ok (.isub, 1) := dk_100 (dk_at dksX8_given_2 7 rfl rfl)
theorem dX8_given_55 : decode cX8_given 55 = .ok (.invokeinterface 45 2, 5) := by decide +kernel
theorem dX8_given_60 : decode cX8_given 60 = .ok (.checkcast 49, 3) := dk_192 0 49 (dk_at dksX8_given_2 13 rfl rfl)
theorem dX8_given_63 : decode cX8_given 63 = .ok (.invokevirtual 51, 3) := dk_182 0 51 (dk_at dksX8_given_2 16 rfl rfl)
theorem dX8_given_66 : decode cX8_given 66 = .ok (.iload 5, 2) := dk_21 5 (dk_at dksX8_given_2 19 rfl rfl)
theorem dX8_given_68 : decode cX8_given 68 = .ok (.if_icmp .le 9, 3) := dk_164 0 9 (dk_at dksX8_given_2 21 rfl rfl)
theorem dX8_given_71 : decode cX8_given 71 = .ok (.iinc 6 (-1), 3) := dk_132 6 255 (dk_at dksX8_given_3 0 rfl rfl)
theorem dX8_given_74 : decode cX8_given 74 = .ok (.goto (-29), 3) := dk_167 255 227 (dk_at dksX8_given_3 3 rfl rfl)
theorem dX8_given_77 : decode cX8_given 77 = .ok (.aload_n 3, 1) := dk_45 (dk_at dksX8_given_3 6 rfl rfl)
theorem dX8_given_78 : decode cX8_given 78 = .ok (.iload 6, 2) := dk_21 6 (dk_at dksX8_given_3 7 rfl rfl)
theorem dX8_given_80 : decode cX8_given 80 = .ok (.iload 5, 2) := dk_21 5 (dk_at dksX8_given_3 9 rfl rfl)
theorem dX8_given_82 : decode cX8_given 82 = .ok (.invokestatic 54, 3) := dk_184 0 54 (dk_at dksX8_given_3 11 rfl rfl)
theorem dX8_given_85 : decode cX8_given 85 = .ok (.invokeinterface 58 3, 5) := by decide +kernel
theorem dX8_given_90 : decode cX8_given 90 = .ok (.iinc 4 1, 3) := dk_132 4 1 (dk_at dksX8_given_3 19 rfl rfl)
theorem dX8_given_93 : decode cX8_given 93 = .ok (.goto (-82), 3) := dk_167 255 174 (dk_at dksX8_given_4 0 rfl rfl)
theorem dX8_given_96 : decode cX8_given 96 = .ok (.aload_n 3, 1) := dk_45 (dk_at dksX8_given_4 3 rfl rfl)
theorem dX8_given_97 : decode cX8_given 97 = .ok (.areturn, 1) := dk_176 (dk_at dksX8_given_4 4 rfl rfl)
abbrev cX8_value : ByteArray := prog_6_method_4_code
def yX8_value : MethodName := ⟨RX8, "value", "(III)I"⟩
def dkwX8_value_0 : List UInt8 := [42, 180, 0, 9, 27, 28, 29, 184, 0, 29, 46, 172]
abbrev dktX8_value_0 : List UInt8 := dkwX8_value_0 ++ []
theorem dksX8_value_0 : cX8_value.data.toList.drop 0 = dktX8_value_0 := by decide +kernel
theorem dX8_value_0 : decode cX8_value 0 = .ok (.aload_n 0, 1) := dk_42 (dk_at dksX8_value_0 0 rfl rfl)
theorem dX8_value_1 : decode cX8_value 1 = .ok (.getfield 9, 3) := dk_180 0 9 (dk_at dksX8_value_0 1 rfl rfl)
theorem dX8_value_4 : decode cX8_value 4 = .ok (.iload_n 1, 1) := dk_27 (dk_at dksX8_value_0 4 rfl rfl)
theorem dX8_value_5 : decode cX8_value 5 = .ok (.iload_n 2, 1) := dk_28 (dk_at dksX8_value_0 5 rfl rfl)
theorem dX8_value_6 : decode cX8_value 6 = .ok (.iload_n 3, 1) := dk_29 (dk_at dksX8_value_0 6 rfl rfl)
theorem dX8_value_7 : decode cX8_value 7 = .ok (.invokestatic 29, 3) := dk_184 0 29 (dk_at dksX8_value_0 7 rfl rfl)
theorem dX8_value_10 : decode cX8_value 10 = .ok (.iaload, 1) := dk_46 (dk_at dksX8_value_0 10 rfl rfl)
theorem dX8_value_11 : decode cX8_value 11 = .ok (.ireturn, 1) := dk_172 (dk_at dksX8_value_0 11 rfl rfl)
abbrev cX8_sum : ByteArray := prog_6_method_7_code
def yX8_sum : MethodName := ⟨RX8, "sum", "()I"⟩
def dkwX8_sum_1 : List UInt8 := [60, 132, 3, 1, 167, 255, 239, 132, 2, 1, 167, 255, 226, 27, 172]
abbrev dktX8_sum_1 : List UInt8 := dkwX8_sum_1 ++ []
def dkwX8_sum_0 : List UInt8 := [3, 60, 3, 61, 28, 8, 162, 0, 31, 3, 62, 29, 7, 162, 0, 18, 27, 42, 28, 29, 182, 0, 79, 96]
abbrev dktX8_sum_0 : List UInt8 := dkwX8_sum_0 ++ dktX8_sum_1
theorem dksX8_sum_0 : cX8_sum.data.toList.drop 0 = dktX8_sum_0 := by decide +kernel
theorem dksX8_sum_1 : cX8_sum.data.toList.drop 24 = dktX8_sum_1 := dk_seg dksX8_sum_0 24 rfl rfl
theorem dX8_sum_0 : decode cX8_sum 0 = .ok (.iconst 0, 1) := dk_3 (dk_at dksX8_sum_0 0 rfl rfl)
theorem dX8_sum_1 : decode cX8_sum 1 = .ok (.istore_n 1, 1) := dk_60 (dk_at dksX8_sum_0 1 rfl rfl)
theorem dX8_sum_2 : decode cX8_sum 2 = .ok (.iconst 0, 1) := dk_3 (dk_at dksX8_sum_0 2 rfl rfl)
theorem dX8_sum_3 : decode cX8_sum 3 = .ok (.istore_n 2, 1) := dk_61 (dk_at dksX8_sum_0 3 rfl rfl)
theorem dX8_sum_4 : decode cX8_sum 4 = .ok (.iload_n 2, 1) := dk_28 (dk_at dksX8_sum_0 4 rfl rfl)
theorem dX8_sum_5 : decode cX8_sum 5 = .ok (.iconst 5, 1) := dk_8 (dk_at dksX8_sum_0 5 rfl rfl)
theorem dX8_sum_6 : decode cX8_sum 6 = .ok (.if_icmp .ge 31, 3) := dk_162 0 31 (dk_at dksX8_sum_0 6 rfl rfl)
theorem dX8_sum_9 : decode cX8_sum 9 = .ok (.iconst 0, 1) := dk_3 (dk_at dksX8_sum_0 9 rfl rfl)
theorem dX8_sum_10 : decode cX8_sum 10 = .ok (.istore_n 3, 1) := dk_62 (dk_at dksX8_sum_0 10 rfl rfl)
theorem dX8_sum_11 : decode cX8_sum 11 = .ok (.iload_n 3, 1) := dk_29 (dk_at dksX8_sum_0 11 rfl rfl)
theorem dX8_sum_12 : decode cX8_sum 12 = .ok (.iconst 4, 1) := dk_7 (dk_at dksX8_sum_0 12 rfl rfl)
theorem dX8_sum_13 : decode cX8_sum 13 = .ok (.if_icmp .ge 18, 3) := dk_162 0 18 (dk_at dksX8_sum_0 13 rfl rfl)
theorem dX8_sum_16 : decode cX8_sum 16 = .ok (.iload_n 1, 1) := dk_27 (dk_at dksX8_sum_0 16 rfl rfl)
theorem dX8_sum_17 : decode cX8_sum 17 = .ok (.aload_n 0, 1) := dk_42 (dk_at dksX8_sum_0 17 rfl rfl)
theorem dX8_sum_18 : decode cX8_sum 18 = .ok (.iload_n 2, 1) := dk_28 (dk_at dksX8_sum_0 18 rfl rfl)
theorem dX8_sum_19 : decode cX8_sum 19 = .ok (.iload_n 3, 1) := dk_29 (dk_at dksX8_sum_0 19 rfl rfl)
theorem dX8_sum_20 : decode cX8_sum 20 = .ok (.invokevirtual 79, 3) := dk_182 0 79 (dk_at dksX8_sum_0 20 rfl rfl)
theorem dX8_sum_23 : decode cX8_sum 23 = .ok (.iadd, 1) := dk_96 (dk_at dksX8_sum_0 23 rfl rfl)
theorem dX8_sum_24 : decode cX8_sum 24 = .ok (.istore_n 1, 1) := dk_60 (dk_at dksX8_sum_1 0 rfl rfl)
theorem dX8_sum_25 : decode cX8_sum 25 = .ok (.iinc 3 1, 3) := dk_132 3 1 (dk_at dksX8_sum_1 1 rfl rfl)
theorem dX8_sum_28 : decode cX8_sum 28 = .ok (.goto (-17), 3) := dk_167 255 239 (dk_at dksX8_sum_1 4 rfl rfl)
theorem dX8_sum_31 : decode cX8_sum 31 = .ok (.iinc 2 1, 3) := dk_132 2 1 (dk_at dksX8_sum_1 7 rfl rfl)
theorem dX8_sum_34 : decode cX8_sum 34 = .ok (.goto (-30), 3) := dk_167 255 226 (dk_at dksX8_sum_1 10 rfl rfl)
theorem dX8_sum_37 : decode cX8_sum 37 = .ok (.iload_n 1, 1) := dk_27 (dk_at dksX8_sum_1 13 rfl rfl)
theorem dX8_sum_38 : decode cX8_sum 38 = .ok (.ireturn, 1) := dk_172 (dk_at dksX8_sum_1 14 rfl rfl)
abbrev cX8_brings : ByteArray := prog_6_method_6_code
def yX8_brings : MethodName := ⟨RX8, "brings", "(II)I"⟩
def dkwX8_brings_4 : List UInt8 := [153, 0, 7, 3, 167, 0, 15, 16, 10, 21, 4, 104, 45, 185, 0, 39, 1, 0, 108, 172]
abbrev dktX8_brings_4 : List UInt8 := dkwX8_brings_4 ++ []
def dkwX8_brings_3 : List UInt8 := [182, 0, 51, 184, 0, 66, 184, 0, 72, 96, 54, 4, 132, 5, 1, 167, 255, 183, 45, 185, 0, 75, 1, 0]
abbrev dktX8_brings_3 : List UInt8 := dkwX8_brings_3 ++ dktX8_brings_4
def dkwX8_brings_2 : List UInt8 := [21, 4, 21, 6, 16, 15, 100, 21, 6, 16, 15, 96, 45, 21, 5, 185, 0, 45, 2, 0, 192, 0, 49]
abbrev dktX8_brings_2 : List UInt8 := dkwX8_brings_2 ++ dktX8_brings_3
def dkwX8_brings_1 : List UInt8 := [45, 45, 185, 0, 39, 1, 0, 4, 100, 5, 108, 185, 0, 45, 2, 0, 192, 0, 49, 182, 0, 51, 54, 6]
abbrev dktX8_brings_1 : List UInt8 := dkwX8_brings_1 ++ dktX8_brings_2
def dkwX8_brings_0 : List UInt8 := [42, 27, 28, 182, 0, 62, 78, 3, 54, 4, 3, 54, 5, 21, 5, 45, 185, 0, 39, 1, 0, 162, 0, 68]
abbrev dktX8_brings_0 : List UInt8 := dkwX8_brings_0 ++ dktX8_brings_1
theorem dksX8_brings_0 : cX8_brings.data.toList.drop 0 = dktX8_brings_0 := by decide +kernel
theorem dksX8_brings_1 : cX8_brings.data.toList.drop 24 = dktX8_brings_1 := dk_seg dksX8_brings_0 24 rfl rfl
theorem dksX8_brings_2 : cX8_brings.data.toList.drop 48 = dktX8_brings_2 := dk_seg dksX8_brings_1 24 rfl rfl
theorem dksX8_brings_3 : cX8_brings.data.toList.drop 71 = dktX8_brings_3 := dk_seg dksX8_brings_2 23 rfl rfl
theorem dksX8_brings_4 : cX8_brings.data.toList.drop 95 = dktX8_brings_4 := dk_seg dksX8_brings_3 24 rfl rfl
theorem dX8_brings_0 : decode cX8_brings 0 = .ok (.aload_n 0, 1) := dk_42 (dk_at dksX8_brings_0 0 rfl rfl)
theorem dX8_brings_1 : decode cX8_brings 1 = .ok (.iload_n 1, 1) := dk_27 (dk_at dksX8_brings_0 1 rfl rfl)
theorem dX8_brings_2 : decode cX8_brings 2 = .ok (.iload_n 2, 1) := dk_28 (dk_at dksX8_brings_0 2 rfl rfl)
theorem dX8_brings_3 : decode cX8_brings 3 = .ok (.invokevirtual 62, 3) := dk_182 0 62 (dk_at dksX8_brings_0 3 rfl rfl)
theorem dX8_brings_6 : decode cX8_brings 6 = .ok (.astore_n 3, 1) := dk_78 (dk_at dksX8_brings_0 6 rfl rfl)
theorem dX8_brings_7 : decode cX8_brings 7 = .ok (.iconst 0, 1) := dk_3 (dk_at dksX8_brings_0 7 rfl rfl)
theorem dX8_brings_8 : decode cX8_brings 8 = .ok (.istore 4, 2) := dk_54 4 (dk_at dksX8_brings_0 8 rfl rfl)
theorem dX8_brings_10 : decode cX8_brings 10 = .ok (.iconst 0, 1) := dk_3 (dk_at dksX8_brings_0 10 rfl rfl)
theorem dX8_brings_11 : decode cX8_brings 11 = .ok (.istore 5, 2) := dk_54 5 (dk_at dksX8_brings_0 11 rfl rfl)
theorem dX8_brings_13 : decode cX8_brings 13 = .ok (.iload 5, 2) := dk_21 5 (dk_at dksX8_brings_0 13 rfl rfl)
theorem dX8_brings_15 : decode cX8_brings 15 = .ok (.aload_n 3, 1) := dk_45 (dk_at dksX8_brings_0 15 rfl rfl)
theorem dX8_brings_16 : decode cX8_brings 16 = .ok (.invokeinterface 39 1, 5) := by decide +kernel
theorem dX8_brings_21 : decode cX8_brings 21 = .ok (.if_icmp .ge 68, 3) := dk_162 0 68 (dk_at dksX8_brings_0 21 rfl rfl)
theorem dX8_brings_24 : decode cX8_brings 24 = .ok (.aload_n 3, 1) := dk_45 (dk_at dksX8_brings_1 0 rfl rfl)
theorem dX8_brings_25 : decode cX8_brings 25 = .ok (.aload_n 3, 1) := dk_45 (dk_at dksX8_brings_1 1 rfl rfl)
theorem dX8_brings_26 : decode cX8_brings 26 = .ok (.invokeinterface 39 1, 5) := by decide +kernel
theorem dX8_brings_31 : decode cX8_brings 31 = .ok (.iconst 1, 1) := dk_4 (dk_at dksX8_brings_1 7 rfl rfl)
theorem dX8_brings_32 : decode cX8_brings 32 = .ok (.isub, 1) := dk_100 (dk_at dksX8_brings_1 8 rfl rfl)
theorem dX8_brings_33 : decode cX8_brings 33 = .ok (.iconst 2, 1) := dk_5 (dk_at dksX8_brings_1 9 rfl rfl)
theorem dX8_brings_34 : decode cX8_brings 34 = .ok (.idiv, 1) := dk_108 (dk_at dksX8_brings_1 10 rfl rfl)
theorem dX8_brings_35 : decode cX8_brings 35 = .ok (.invokeinterface 45 2, 5) := by decide +kernel
theorem dX8_brings_40 : decode cX8_brings 40 = .ok (.checkcast 49, 3) := dk_192 0 49 (dk_at dksX8_brings_1 16 rfl rfl)
theorem dX8_brings_43 : decode cX8_brings 43 = .ok (.invokevirtual 51, 3) := dk_182 0 51 (dk_at dksX8_brings_1 19 rfl rfl)
theorem dX8_brings_46 : decode cX8_brings 46 = .ok (.istore 6, 2) := dk_54 6 (dk_at dksX8_brings_1 22 rfl rfl)
theorem dX8_brings_48 : decode cX8_brings 48 = .ok (.iload 4, 2) := dk_21 4 (dk_at dksX8_brings_2 0 rfl rfl)
theorem dX8_brings_50 : decode cX8_brings 50 = .ok (.iload 6, 2) := dk_21 6 (dk_at dksX8_brings_2 2 rfl rfl)
theorem dX8_brings_52 : decode cX8_brings 52 = .ok (.bipush 15, 2) := dk_16 15 (dk_at dksX8_brings_2 4 rfl rfl)
theorem dX8_brings_54 : decode cX8_brings 54 = .ok (.isub, 1) := dk_100 (dk_at dksX8_brings_2 6 rfl rfl)
theorem dX8_brings_55 : decode cX8_brings 55 = .ok (.iload 6, 2) := dk_21 6 (dk_at dksX8_brings_2 7 rfl rfl)
theorem dX8_brings_57 : decode cX8_brings 57 = .ok (.bipush 15, 2) := dk_16 15 (dk_at dksX8_brings_2 9 rfl rfl)
theorem dX8_brings_59 : decode cX8_brings 59 = .ok (.iadd, 1) := dk_96 (dk_at dksX8_brings_2 11 rfl rfl)
theorem dX8_brings_60 : decode cX8_brings 60 = .ok (.aload_n 3, 1) := dk_45 (dk_at dksX8_brings_2 12 rfl rfl)
theorem dX8_brings_61 : decode cX8_brings 61 = .ok (.iload 5, 2) := dk_21 5 (dk_at dksX8_brings_2 13 rfl rfl)
theorem dX8_brings_63 : decode cX8_brings 63 = .ok (.invokeinterface 45 2, 5) := by decide +kernel
theorem dX8_brings_68 : decode cX8_brings 68 = .ok (.checkcast 49, 3) := dk_192 0 49 (dk_at dksX8_brings_2 20 rfl rfl)
theorem dX8_brings_71 : decode cX8_brings 71 = .ok (.invokevirtual 51, 3) := dk_182 0 51 (dk_at dksX8_brings_3 0 rfl rfl)
theorem dX8_brings_74 : decode cX8_brings 74 = .ok (.invokestatic 66, 3) := dk_184 0 66 (dk_at dksX8_brings_3 3 rfl rfl)
theorem dX8_brings_77 : decode cX8_brings 77 = .ok (.invokestatic 72, 3) := dk_184 0 72 (dk_at dksX8_brings_3 6 rfl rfl)
theorem dX8_brings_80 : decode cX8_brings 80 = .ok (.iadd, 1) := dk_96 (dk_at dksX8_brings_3 9 rfl rfl)
theorem dX8_brings_81 : decode cX8_brings 81 = .ok (.istore 4, 2) := dk_54 4 (dk_at dksX8_brings_3 10 rfl rfl)
theorem dX8_brings_83 : decode cX8_brings 83 = .ok (.iinc 5 1, 3) := dk_132 5 1 (dk_at dksX8_brings_3 12 rfl rfl)
theorem dX8_brings_86 : decode cX8_brings 86 = .ok (.goto (-73), 3) := dk_167 255 183 (dk_at dksX8_brings_3 15 rfl rfl)
theorem dX8_brings_89 : decode cX8_brings 89 = .ok (.aload_n 3, 1) := dk_45 (dk_at dksX8_brings_3 18 rfl rfl)
theorem dX8_brings_90 : decode cX8_brings 90 = .ok (.invokeinterface 75 1, 5) := by decide +kernel
theorem dX8_brings_95 : decode cX8_brings 95 = .ok (.ifCond .eq 7, 3) := dk_153 0 7 (dk_at dksX8_brings_4 0 rfl rfl)
theorem dX8_brings_98 : decode cX8_brings 98 = .ok (.iconst 0, 1) := dk_3 (dk_at dksX8_brings_4 3 rfl rfl)
theorem dX8_brings_99 : decode cX8_brings 99 = .ok (.goto 15, 3) := dk_167 0 15 (dk_at dksX8_brings_4 4 rfl rfl)
theorem dX8_brings_102 : decode cX8_brings 102 = .ok (.bipush 10, 2) := dk_16 10 (dk_at dksX8_brings_4 7 rfl rfl)
theorem dX8_brings_104 : decode cX8_brings 104 = .ok (.iload 4, 2) := dk_21 4 (dk_at dksX8_brings_4 9 rfl rfl)
theorem dX8_brings_106 : decode cX8_brings 106 = .ok (.imul, 1) := dk_104 (dk_at dksX8_brings_4 11 rfl rfl)
theorem dX8_brings_107 : decode cX8_brings 107 = .ok (.aload_n 3, 1) := dk_45 (dk_at dksX8_brings_4 12 rfl rfl)
theorem dX8_brings_108 : decode cX8_brings 108 = .ok (.invokeinterface 39 1, 5) := by decide +kernel
theorem dX8_brings_113 : decode cX8_brings 113 = .ok (.idiv, 1) := dk_108 (dk_at dksX8_brings_4 18 rfl rfl)
theorem dX8_brings_114 : decode cX8_brings 114 = .ok (.ireturn, 1) := dk_172 (dk_at dksX8_brings_4 19 rfl rfl)
theorem q142 : (Jvm.Cond.initialized "Scrutineery$Entry") ∈ lw_all := lw_g (lw_at lw_m1 32 rfl) rfl
theorem q451 : (Jvm.Cond.instanceMethod ({ cls := "Scrutineery$Entry", name := "bit", desc := "()I" } : Jvm.MethodName)) ∈ lw_all := lw_g (lw_at lw_m2 101 rfl) rfl
theorem q452 : (Jvm.Cond.selects "Scrutineery$Entry" ({ cls := "Scrutineery$Entry", name := "bit", desc := "()I" } : Jvm.MethodName) ({ cls := "Scrutineery$Entry", name := "bit", desc := "()I" } : Jvm.MethodName)) ∈ lw_all := lw_g (lw_at lw_m2 102 rfl) rfl
theorem q453 : (Jvm.Cond.code ({ cls := "Scrutineery$Entry", name := "bit", desc := "()I" } : Jvm.MethodName) prog_6_method_2_code (1 : Nat) (Option.some Jvm.ClassFile.FieldType.int)) ∈ lw_all := lw_g (lw_at lw_m2 103 rfl) rfl
theorem q499 : (Jvm.Cond.selects "Scrutineery$Entry" ({ cls := "java/lang/Object", name := "equals", desc := "(Ljava/lang/Object;)Z" } : Jvm.MethodName) ({ cls := "java/lang/Object", name := "equals", desc := "(Ljava/lang/Object;)Z" } : Jvm.MethodName)) ∈ lw_all := lw_g (lw_at lw_m2 149 rfl) rfl
theorem q623 : (Jvm.Cond.selects "Scrutineery$Entry" ({ cls := "java/lang/Object", name := "getClass", desc := "()Ljava/lang/Class;" } : Jvm.MethodName) ({ cls := "java/lang/Object", name := "getClass", desc := "()Ljava/lang/Class;" } : Jvm.MethodName)) ∈ lw_all := lw_g (lw_at lw_m3 33 rfl) rfl
theorem q1244 : (Jvm.Cond.instantiable "Scrutineery$Entry" (10 : Nat)) ∈ lw_all := lw_g (lw_at lw_m5 174 rfl) rfl
theorem q1246 : (Jvm.Cond.instanceMethod ({ cls := "Scrutineery$Entry", name := "<init>", desc := "(ILScrutineery$Couple;)V" } : Jvm.MethodName)) ∈ lw_all := lw_g (lw_at lw_m5 176 rfl) rfl
theorem q1247 : (Jvm.Cond.code ({ cls := "Scrutineery$Entry", name := "<init>", desc := "(ILScrutineery$Couple;)V" } : Jvm.MethodName) prog_6_method_1_code (4 : Nat) (Option.none : Option Jvm.ClassFile.FieldType)) ∈ lw_all := lw_g (lw_at lw_m5 177 rfl) rfl
theorem q1248 : (Jvm.Cond.methodLink "Scrutineery$Entry" (3 : Nat) ({ cls := "java/lang/Object", name := "<init>", desc := "()V" } : Jvm.MethodName)) ∈ lw_all := lw_g (lw_at lw_m5 178 rfl) rfl
theorem q1249 : (Jvm.Cond.fieldLink "Scrutineery$Entry" (21 : Nat) "Scrutineery$Entry" "number" "I") ∈ lw_all := lw_g (lw_at lw_m5 179 rfl) rfl
theorem q1251 : (Jvm.Cond.fieldLink "Scrutineery$Entry" (25 : Nat) "Scrutineery$Entry" "couple" "LScrutineery$Couple;") ∈ lw_all := lw_g (lw_at lw_m5 181 rfl) rfl
theorem q1254 : (Jvm.Cond.fieldLink "Scrutineery$Entry" (9 : Nat) "Scrutineery$Entry" "values" "[I") ∈ lw_all := lw_g (lw_at lw_m5 184 rfl) rfl
theorem q1256 : (Jvm.Cond.fieldLink "Scrutineery$Entry" (15 : Nat) "Scrutineery$Entry" "doubled" "[I") ∈ lw_all := lw_g (lw_at lw_m5 186 rfl) rfl
theorem q1259 : (Jvm.Cond.fieldLink "Scrutineery$Entry" (18 : Nat) "Scrutineery$Entry" "rules" "[I") ∈ lw_all := lw_g (lw_at lw_m5 189 rfl) rfl
theorem q1272 : (Jvm.Cond.laysFinal "Scrutineery$Entry" "Scrutineery$Entry" "number" "I") ∈ lw_all := lw_g (lw_at lw_m5 202 rfl) rfl
theorem q1273 : (Jvm.Cond.soleField "Scrutineery$Entry" "number") ∈ lw_all := lw_g (lw_at lw_m5 203 rfl) rfl
theorem q1274 : (Jvm.Cond.laysFinal "Scrutineery$Entry" "Scrutineery$Entry" "couple" "LScrutineery$Couple;") ∈ lw_all := lw_g (lw_at lw_m5 204 rfl) rfl
theorem q1275 : (Jvm.Cond.soleField "Scrutineery$Entry" "couple") ∈ lw_all := lw_g (lw_at lw_m5 205 rfl) rfl
theorem q1276 : (Jvm.Cond.laysFinal "Scrutineery$Entry" "Scrutineery$Entry" "values" "[I") ∈ lw_all := lw_g (lw_at lw_m5 206 rfl) rfl
theorem q1277 : (Jvm.Cond.soleField "Scrutineery$Entry" "values") ∈ lw_all := lw_g (lw_at lw_m5 207 rfl) rfl
theorem q1278 : (Jvm.Cond.laysFinal "Scrutineery$Entry" "Scrutineery$Entry" "doubled" "[I") ∈ lw_all := lw_g (lw_at lw_m5 208 rfl) rfl
theorem q1279 : (Jvm.Cond.soleField "Scrutineery$Entry" "doubled") ∈ lw_all := lw_g (lw_at lw_m5 209 rfl) rfl
theorem q1280 : (Jvm.Cond.laysFinal "Scrutineery$Entry" "Scrutineery$Entry" "rules" "[I") ∈ lw_all := lw_g (lw_at lw_m5 210 rfl) rfl
theorem q1281 : (Jvm.Cond.soleField "Scrutineery$Entry" "rules") ∈ lw_all := lw_g (lw_at lw_m5 211 rfl) rfl
theorem q1282 : (Jvm.Cond.lays "Scrutineery$Entry" "Scrutineery$Entry" "isScratched" "Z") ∈ lw_all := lw_g (lw_at lw_m5 212 rfl) rfl
theorem q1283 : (Jvm.Cond.soleField "Scrutineery$Entry" "isScratched") ∈ lw_all := lw_g (lw_at lw_m5 213 rfl) rfl
theorem q1284 : (Jvm.Cond.lays "Scrutineery$Entry" "Scrutineery$Entry" "lastRound" "I") ∈ lw_all := lw_g (lw_at lw_m5 214 rfl) rfl
theorem q1285 : (Jvm.Cond.soleField "Scrutineery$Entry" "lastRound") ∈ lw_all := lw_g (lw_at lw_m5 215 rfl) rfl
theorem q1286 : (Jvm.Cond.lays "Scrutineery$Entry" "Scrutineery$Entry" "result" "I") ∈ lw_all := lw_g (lw_at lw_m5 216 rfl) rfl
theorem q1287 : (Jvm.Cond.soleField "Scrutineery$Entry" "result") ∈ lw_all := lw_g (lw_at lw_m5 217 rfl) rfl
theorem q1288 : (Jvm.Cond.lays "Scrutineery$Entry" "Scrutineery$Entry" "total" "I") ∈ lw_all := lw_g (lw_at lw_m5 218 rfl) rfl
theorem q1289 : (Jvm.Cond.soleField "Scrutineery$Entry" "total") ∈ lw_all := lw_g (lw_at lw_m5 219 rfl) rfl
theorem q1290 : (Jvm.Cond.lays "Scrutineery$Entry" "Scrutineery$Entry" "rule" "I") ∈ lw_all := lw_g (lw_at lw_m5 220 rfl) rfl
theorem q1291 : (Jvm.Cond.soleField "Scrutineery$Entry" "rule") ∈ lw_all := lw_g (lw_at lw_m5 221 rfl) rfl
theorem q1292 : (Jvm.Cond.superclass "Scrutineery$Entry" "java/lang/Object") ∈ lw_all := lw_g (lw_at lw_m5 222 rfl) rfl
theorem q1436 : (Jvm.Cond.static ({ cls := "Scrutineery$Entry", name := "at", desc := "(III)I" } : Jvm.MethodName)) ∈ lw_all := lw_g (lw_at lw_m6 126 rfl) rfl
theorem q1437 : (Jvm.Cond.code ({ cls := "Scrutineery$Entry", name := "at", desc := "(III)I" } : Jvm.MethodName) prog_6_method_3_code (3 : Nat) (Option.some Jvm.ClassFile.FieldType.int)) ∈ lw_all := lw_g (lw_at lw_m6 127 rfl) rfl
theorem q1439 : (Jvm.Cond.instanceMethod ({ cls := "Scrutineery$Entry", name := "given", desc := "(II)Ljava/util/List;" } : Jvm.MethodName)) ∈ lw_all := lw_g (lw_at lw_m6 129 rfl) rfl
theorem q1440 : (Jvm.Cond.selects "Scrutineery$Entry" ({ cls := "Scrutineery$Entry", name := "given", desc := "(II)Ljava/util/List;" } : Jvm.MethodName) ({ cls := "Scrutineery$Entry", name := "given", desc := "(II)Ljava/util/List;" } : Jvm.MethodName)) ∈ lw_all := lw_g (lw_at lw_m6 130 rfl) rfl
theorem q1441 : (Jvm.Cond.code ({ cls := "Scrutineery$Entry", name := "given", desc := "(II)Ljava/util/List;" } : Jvm.MethodName) prog_6_method_5_code (7 : Nat) (Option.some (Jvm.ClassFile.FieldType.object "java/util/List"))) ∈ lw_all := lw_g (lw_at lw_m6 131 rfl) rfl
theorem q1442 : (Jvm.Cond.classLink "Scrutineery$Entry" (33 : Nat) "java/util/ArrayList") ∈ lw_all := lw_g (lw_at lw_m6 132 rfl) rfl
theorem q1443 : (Jvm.Cond.methodLink "Scrutineery$Entry" (35 : Nat) ({ cls := "java/util/ArrayList", name := "<init>", desc := "()V" } : Jvm.MethodName)) ∈ lw_all := lw_g (lw_at lw_m6 133 rfl) rfl
theorem q1444 : (Jvm.Cond.methodLink "Scrutineery$Entry" (36 : Nat) ({ cls := "Scrutineery$Entry", name := "value", desc := "(III)I" } : Jvm.MethodName)) ∈ lw_all := lw_g (lw_at lw_m6 134 rfl) rfl
theorem q1445 : (Jvm.Cond.instanceMethod ({ cls := "Scrutineery$Entry", name := "value", desc := "(III)I" } : Jvm.MethodName)) ∈ lw_all := lw_g (lw_at lw_m6 135 rfl) rfl
theorem q1446 : (Jvm.Cond.selects "Scrutineery$Entry" ({ cls := "Scrutineery$Entry", name := "value", desc := "(III)I" } : Jvm.MethodName) ({ cls := "Scrutineery$Entry", name := "value", desc := "(III)I" } : Jvm.MethodName)) ∈ lw_all := lw_g (lw_at lw_m6 136 rfl) rfl
theorem q1447 : (Jvm.Cond.code ({ cls := "Scrutineery$Entry", name := "value", desc := "(III)I" } : Jvm.MethodName) prog_6_method_4_code (4 : Nat) (Option.some Jvm.ClassFile.FieldType.int)) ∈ lw_all := lw_g (lw_at lw_m6 137 rfl) rfl
theorem q1448 : (Jvm.Cond.methodLink "Scrutineery$Entry" (29 : Nat) ({ cls := "Scrutineery$Entry", name := "at", desc := "(III)I" } : Jvm.MethodName)) ∈ lw_all := lw_g (lw_at lw_m6 138 rfl) rfl
theorem q1449 : (Jvm.Cond.interfaceEntry "Scrutineery$Entry" (39 : Nat)) ∈ lw_tbl := lw_at lw_m6 139 rfl
theorem q1450 : (Jvm.Cond.methodLink "Scrutineery$Entry" (39 : Nat) ({ cls := "java/util/List", name := "size", desc := "()I" } : Jvm.MethodName)) ∈ lw_all := lw_g (lw_at lw_m6 140 rfl) rfl
theorem q1451 : (Jvm.Cond.interfaceEntry "Scrutineery$Entry" (45 : Nat)) ∈ lw_tbl := lw_at lw_m6 141 rfl
theorem q1452 : (Jvm.Cond.methodLink "Scrutineery$Entry" (45 : Nat) ({ cls := "java/util/List", name := "get", desc := "(I)Ljava/lang/Object;" } : Jvm.MethodName)) ∈ lw_all := lw_g (lw_at lw_m6 142 rfl) rfl
theorem q1453 : (Jvm.Cond.classLink "Scrutineery$Entry" (49 : Nat) "java/lang/Integer") ∈ lw_all := lw_g (lw_at lw_m6 143 rfl) rfl
theorem q1454 : (Jvm.Cond.methodLink "Scrutineery$Entry" (51 : Nat) ({ cls := "java/lang/Integer", name := "intValue", desc := "()I" } : Jvm.MethodName)) ∈ lw_all := lw_g (lw_at lw_m6 144 rfl) rfl
theorem q1455 : (Jvm.Cond.methodLink "Scrutineery$Entry" (54 : Nat) ({ cls := "java/lang/Integer", name := "valueOf", desc := "(I)Ljava/lang/Integer;" } : Jvm.MethodName)) ∈ lw_all := lw_g (lw_at lw_m6 145 rfl) rfl
theorem q1456 : (Jvm.Cond.interfaceEntry "Scrutineery$Entry" (58 : Nat)) ∈ lw_tbl := lw_at lw_m6 146 rfl
theorem q1457 : (Jvm.Cond.methodLink "Scrutineery$Entry" (58 : Nat) ({ cls := "java/util/List", name := "add", desc := "(ILjava/lang/Object;)V" } : Jvm.MethodName)) ∈ lw_all := lw_g (lw_at lw_m6 147 rfl) rfl
theorem q2009 : (Jvm.Cond.instanceMethod ({ cls := "Scrutineery$Entry", name := "sum", desc := "()I" } : Jvm.MethodName)) ∈ lw_all := lw_g (lw_at lw_m8 219 rfl) rfl
theorem q2010 : (Jvm.Cond.selects "Scrutineery$Entry" ({ cls := "Scrutineery$Entry", name := "sum", desc := "()I" } : Jvm.MethodName) ({ cls := "Scrutineery$Entry", name := "sum", desc := "()I" } : Jvm.MethodName)) ∈ lw_all := lw_g (lw_at lw_m8 220 rfl) rfl
theorem q2011 : (Jvm.Cond.code ({ cls := "Scrutineery$Entry", name := "sum", desc := "()I" } : Jvm.MethodName) prog_6_method_7_code (4 : Nat) (Option.some Jvm.ClassFile.FieldType.int)) ∈ lw_all := lw_g (lw_at lw_m8 221 rfl) rfl
theorem q2012 : (Jvm.Cond.methodLink "Scrutineery$Entry" (79 : Nat) ({ cls := "Scrutineery$Entry", name := "brings", desc := "(II)I" } : Jvm.MethodName)) ∈ lw_all := lw_g (lw_at lw_m8 222 rfl) rfl
theorem q2013 : (Jvm.Cond.instanceMethod ({ cls := "Scrutineery$Entry", name := "brings", desc := "(II)I" } : Jvm.MethodName)) ∈ lw_all := lw_g (lw_at lw_m8 223 rfl) rfl
theorem q2014 : (Jvm.Cond.selects "Scrutineery$Entry" ({ cls := "Scrutineery$Entry", name := "brings", desc := "(II)I" } : Jvm.MethodName) ({ cls := "Scrutineery$Entry", name := "brings", desc := "(II)I" } : Jvm.MethodName)) ∈ lw_all := lw_g (lw_at lw_m8 224 rfl) rfl
theorem q2015 : (Jvm.Cond.code ({ cls := "Scrutineery$Entry", name := "brings", desc := "(II)I" } : Jvm.MethodName) prog_6_method_6_code (7 : Nat) (Option.some Jvm.ClassFile.FieldType.int)) ∈ lw_all := lw_g (lw_at lw_m8 225 rfl) rfl
theorem q2016 : (Jvm.Cond.methodLink "Scrutineery$Entry" (62 : Nat) ({ cls := "Scrutineery$Entry", name := "given", desc := "(II)Ljava/util/List;" } : Jvm.MethodName)) ∈ lw_all := lw_g (lw_at lw_m8 226 rfl) rfl
theorem q2017 : (Jvm.Cond.methodLink "Scrutineery$Entry" (66 : Nat) ({ cls := "java/lang/Math", name := "min", desc := "(II)I" } : Jvm.MethodName)) ∈ lw_all := lw_g (lw_at lw_m8 227 rfl) rfl
theorem q2018 : (Jvm.Cond.methodLink "Scrutineery$Entry" (72 : Nat) ({ cls := "java/lang/Math", name := "max", desc := "(II)I" } : Jvm.MethodName)) ∈ lw_all := lw_g (lw_at lw_m8 228 rfl) rfl
theorem q2019 : (Jvm.Cond.interfaceEntry "Scrutineery$Entry" (75 : Nat)) ∈ lw_tbl := lw_at lw_m8 229 rfl
theorem q2020 : (Jvm.Cond.methodLink "Scrutineery$Entry" (75 : Nat) ({ cls := "java/util/List", name := "isEmpty", desc := "()Z" } : Jvm.MethodName)) ∈ lw_all := lw_g (lw_at lw_m8 230 rfl) rfl
theorem q2878 : (Jvm.Cond.castable "Scrutineery$Entry" "java/lang/Object") ∈ lw_tbl := lw_at lw_m12 128 rfl
theorem in_X8 : ∀ w ∈ wsX80, w ∈ lw_all := lw_in wsX80 [1272, 1274, 1276, 1278, 1280, 1282, 1284, 1286, 1288, 1290] (by decide +kernel) (by decide +kernel)
/-! Scrutineery$Apart -/
set_option maxRecDepth 100000
def RX9 : String := "Scrutineery$Apart"
def TX9 : u_T := fun k => match k with
  | 0 => ("Scrutineery$Apart", "one", "LScrutineery$Entry;", true)
  | _ => ("Scrutineery$Apart", "other", "LScrutineery$Entry;", true)
def tyX9 : Nat → FieldType := fun k => match k with
  | 0 => .object "Scrutineery$Entry"
  | _ => .object "Scrutineery$Entry"
abbrev wsX90 : List Cond := u_ws RX9 TX9 2
theorem nmX9 : ∀ a, a < 2 → ∀ b, b < 2 → a ≠ b → (TX9 a).2.1 ≠ (TX9 b).2.1 := by decide +kernel
theorem tyX9_ok : ∀ k, k < 2 → parseFieldDescriptor (TX9 k).2.2.1 = some (tyX9 k) := by decide +kernel
abbrev cX9_equals : ByteArray := prog_2_method_5_code
def yX9_equals : MethodName := ⟨RX9, "equals", "(Ljava/lang/Object;)Z"⟩
def dkwX9_equals_0 : List UInt8 := [42, 43, 186, 0, 24, 0, 0, 172]
abbrev dktX9_equals_0 : List UInt8 := dkwX9_equals_0 ++ []
theorem dksX9_equals_0 : cX9_equals.data.toList.drop 0 = dktX9_equals_0 := by decide +kernel
theorem dX9_equals_0 : decode cX9_equals 0 = .ok (.aload_n 0, 1) := dk_42 (dk_at dksX9_equals_0 0 rfl rfl)
theorem dX9_equals_1 : decode cX9_equals 1 = .ok (.aload_n 1, 1) := dk_43 (dk_at dksX9_equals_0 1 rfl rfl)
theorem dX9_equals_2 : decode cX9_equals 2 = .ok (.invokedynamic 24, 5) := by decide +kernel
theorem dX9_equals_7 : decode cX9_equals 7 = .ok (.ireturn, 1) := dk_172 (dk_at dksX9_equals_0 7 rfl rfl)
abbrev cX9_init : ByteArray := prog_2_method_1_code
def yX9_init : MethodName := ⟨RX9, "<init>", "(LScrutineery$Entry;LScrutineery$Entry;)V"⟩
def dkwX9_init_0 : List UInt8 := [42, 183, 0, 1, 42, 43, 181, 0, 7, 42, 44, 181, 0, 13, 177]
abbrev dktX9_init_0 : List UInt8 := dkwX9_init_0 ++ []
theorem dksX9_init_0 : cX9_init.data.toList.drop 0 = dktX9_init_0 := by decide +kernel
theorem dX9_init_0 : decode cX9_init 0 = .ok (.aload_n 0, 1) := dk_42 (dk_at dksX9_init_0 0 rfl rfl)
theorem dX9_init_1 : decode cX9_init 1 = .ok (.invokespecial 1, 3) := dk_183 0 1 (dk_at dksX9_init_0 1 rfl rfl)
theorem dX9_init_4 : decode cX9_init 4 = .ok (.aload_n 0, 1) := dk_42 (dk_at dksX9_init_0 4 rfl rfl)
theorem dX9_init_5 : decode cX9_init 5 = .ok (.aload_n 1, 1) := dk_43 (dk_at dksX9_init_0 5 rfl rfl)
theorem dX9_init_6 : decode cX9_init 6 = .ok (.putfield 7, 3) := dk_181 0 7 (dk_at dksX9_init_0 6 rfl rfl)
theorem dX9_init_9 : decode cX9_init 9 = .ok (.aload_n 0, 1) := dk_42 (dk_at dksX9_init_0 9 rfl rfl)
theorem dX9_init_10 : decode cX9_init 10 = .ok (.aload_n 2, 1) := dk_44 (dk_at dksX9_init_0 10 rfl rfl)
theorem dX9_init_11 : decode cX9_init 11 = .ok (.putfield 13, 3) := dk_181 0 13 (dk_at dksX9_init_0 11 rfl rfl)
theorem dX9_init_14 : decode cX9_init 14 = .ok (.return_, 1) := dk_177 (dk_at dksX9_init_0 14 rfl rfl)
abbrev cX9_are : ByteArray := prog_2_method_2_code
def yX9_are : MethodName := ⟨RX9, "are", "(LScrutineery$Entry;LScrutineery$Entry;)Z"⟩
def dkwX9_are_1 : List UInt8 := [42, 180, 0, 13, 43, 166, 0, 7, 4, 167, 0, 4, 3, 172]
abbrev dktX9_are_1 : List UInt8 := dkwX9_are_1 ++ []
def dkwX9_are_0 : List UInt8 := [42, 180, 0, 7, 43, 166, 0, 11, 42, 180, 0, 13, 44, 165, 0, 19, 42, 180, 0, 7, 44, 166, 0, 15]
abbrev dktX9_are_0 : List UInt8 := dkwX9_are_0 ++ dktX9_are_1
theorem dksX9_are_0 : cX9_are.data.toList.drop 0 = dktX9_are_0 := by decide +kernel
theorem dksX9_are_1 : cX9_are.data.toList.drop 24 = dktX9_are_1 := dk_seg dksX9_are_0 24 rfl rfl
theorem dX9_are_0 : decode cX9_are 0 = .ok (.aload_n 0, 1) := dk_42 (dk_at dksX9_are_0 0 rfl rfl)
theorem dX9_are_1 : decode cX9_are 1 = .ok (.getfield 7, 3) := dk_180 0 7 (dk_at dksX9_are_0 1 rfl rfl)
theorem dX9_are_4 : decode cX9_are 4 = .ok (.aload_n 1, 1) := dk_43 (dk_at dksX9_are_0 4 rfl rfl)
theorem dX9_are_5 : decode cX9_are 5 = .ok (.if_acmp .ne 11, 3) := dk_166 0 11 (dk_at dksX9_are_0 5 rfl rfl)
theorem dX9_are_8 : decode cX9_are 8 = .ok (.aload_n 0, 1) := dk_42 (dk_at dksX9_are_0 8 rfl rfl)
theorem dX9_are_9 : decode cX9_are 9 = .ok (.getfield 13, 3) := dk_180 0 13 (dk_at dksX9_are_0 9 rfl rfl)
theorem dX9_are_12 : decode cX9_are 12 = .ok (.aload_n 2, 1) := dk_44 (dk_at dksX9_are_0 12 rfl rfl)
theorem dX9_are_13 : decode cX9_are 13 = .ok (.if_acmp .eq 19, 3) := dk_165 0 19 (dk_at dksX9_are_0 13 rfl rfl)
theorem dX9_are_16 : decode cX9_are 16 = .ok (.aload_n 0, 1) := dk_42 (dk_at dksX9_are_0 16 rfl rfl)
theorem dX9_are_17 : decode cX9_are 17 = .ok (.getfield 7, 3) := dk_180 0 7 (dk_at dksX9_are_0 17 rfl rfl)
theorem dX9_are_20 : decode cX9_are 20 = .ok (.aload_n 2, 1) := dk_44 (dk_at dksX9_are_0 20 rfl rfl)
theorem dX9_are_21 : decode cX9_are 21 = .ok (.if_acmp .ne 15, 3) := dk_166 0 15 (dk_at dksX9_are_0 21 rfl rfl)
theorem dX9_are_24 : decode cX9_are 24 = .ok (.aload_n 0, 1) := dk_42 (dk_at dksX9_are_1 0 rfl rfl)
theorem dX9_are_25 : decode cX9_are 25 = .ok (.getfield 13, 3) := dk_180 0 13 (dk_at dksX9_are_1 1 rfl rfl)
theorem dX9_are_28 : decode cX9_are 28 = .ok (.aload_n 1, 1) := dk_43 (dk_at dksX9_are_1 4 rfl rfl)
theorem dX9_are_29 : decode cX9_are 29 = .ok (.if_acmp .ne 7, 3) := dk_166 0 7 (dk_at dksX9_are_1 5 rfl rfl)
theorem dX9_are_32 : decode cX9_are 32 = .ok (.iconst 1, 1) := dk_4 (dk_at dksX9_are_1 8 rfl rfl)
theorem dX9_are_33 : decode cX9_are 33 = .ok (.goto 4, 3) := dk_167 0 4 (dk_at dksX9_are_1 9 rfl rfl)
theorem dX9_are_36 : decode cX9_are 36 = .ok (.iconst 0, 1) := dk_3 (dk_at dksX9_are_1 12 rfl rfl)
theorem dX9_are_37 : decode cX9_are 37 = .ok (.ireturn, 1) := dk_172 (dk_at dksX9_are_1 13 rfl rfl)
theorem q143 : (Jvm.Cond.initialized "Scrutineery$Apart") ∈ lw_all := lw_g (lw_at lw_m1 33 rfl) rfl
theorem q468 : (Jvm.Cond.selects "Scrutineery$Apart" ({ cls := "java/lang/Object", name := "equals", desc := "(Ljava/lang/Object;)Z" } : Jvm.MethodName) ({ cls := "Scrutineery$Apart", name := "equals", desc := "(Ljava/lang/Object;)Z" } : Jvm.MethodName)) ∈ lw_all := lw_g (lw_at lw_m2 118 rfl) rfl
theorem q469 : (Jvm.Cond.instanceMethod ({ cls := "Scrutineery$Apart", name := "equals", desc := "(Ljava/lang/Object;)Z" } : Jvm.MethodName)) ∈ lw_all := lw_g (lw_at lw_m2 119 rfl) rfl
theorem q470 : (Jvm.Cond.code ({ cls := "Scrutineery$Apart", name := "equals", desc := "(Ljava/lang/Object;)Z" } : Jvm.MethodName) prog_2_method_5_code (2 : Nat) (Option.some Jvm.ClassFile.FieldType.boolean)) ∈ lw_all := lw_g (lw_at lw_m2 120 rfl) rfl
theorem q619 : (Jvm.Cond.selects "Scrutineery$Apart" ({ cls := "java/lang/Object", name := "getClass", desc := "()Ljava/lang/Class;" } : Jvm.MethodName) ({ cls := "java/lang/Object", name := "getClass", desc := "()Ljava/lang/Class;" } : Jvm.MethodName)) ∈ lw_all := lw_g (lw_at lw_m3 29 rfl) rfl
theorem q1313 : (Jvm.Cond.instantiable "Scrutineery$Apart" (2 : Nat)) ∈ lw_all := lw_g (lw_at lw_m6 3 rfl) rfl
theorem q1315 : (Jvm.Cond.instanceMethod ({ cls := "Scrutineery$Apart", name := "<init>", desc := "(LScrutineery$Entry;LScrutineery$Entry;)V" } : Jvm.MethodName)) ∈ lw_all := lw_g (lw_at lw_m6 5 rfl) rfl
theorem q1316 : (Jvm.Cond.code ({ cls := "Scrutineery$Apart", name := "<init>", desc := "(LScrutineery$Entry;LScrutineery$Entry;)V" } : Jvm.MethodName) prog_2_method_1_code (3 : Nat) (Option.none : Option Jvm.ClassFile.FieldType)) ∈ lw_all := lw_g (lw_at lw_m6 6 rfl) rfl
theorem q1317 : (Jvm.Cond.methodLink "Scrutineery$Apart" (1 : Nat) ({ cls := "java/lang/Record", name := "<init>", desc := "()V" } : Jvm.MethodName)) ∈ lw_all := lw_g (lw_at lw_m6 7 rfl) rfl
theorem q1318 : (Jvm.Cond.fieldLink "Scrutineery$Apart" (7 : Nat) "Scrutineery$Apart" "one" "LScrutineery$Entry;") ∈ lw_all := lw_g (lw_at lw_m6 8 rfl) rfl
theorem q1319 : (Jvm.Cond.fieldLink "Scrutineery$Apart" (13 : Nat) "Scrutineery$Apart" "other" "LScrutineery$Entry;") ∈ lw_all := lw_g (lw_at lw_m6 9 rfl) rfl
theorem q1320 : (Jvm.Cond.laysFinal "Scrutineery$Apart" "Scrutineery$Apart" "one" "LScrutineery$Entry;") ∈ lw_all := lw_g (lw_at lw_m6 10 rfl) rfl
theorem q1321 : (Jvm.Cond.soleField "Scrutineery$Apart" "one") ∈ lw_all := lw_g (lw_at lw_m6 11 rfl) rfl
theorem q1322 : (Jvm.Cond.laysFinal "Scrutineery$Apart" "Scrutineery$Apart" "other" "LScrutineery$Entry;") ∈ lw_all := lw_g (lw_at lw_m6 12 rfl) rfl
theorem q1323 : (Jvm.Cond.soleField "Scrutineery$Apart" "other") ∈ lw_all := lw_g (lw_at lw_m6 13 rfl) rfl
theorem q1324 : (Jvm.Cond.superclass "Scrutineery$Apart" "java/lang/Record") ∈ lw_all := lw_g (lw_at lw_m6 14 rfl) rfl
theorem q1338 : (Jvm.Cond.instanceMethod ({ cls := "Scrutineery$Apart", name := "are", desc := "(LScrutineery$Entry;LScrutineery$Entry;)Z" } : Jvm.MethodName)) ∈ lw_all := lw_g (lw_at lw_m6 28 rfl) rfl
theorem q1339 : (Jvm.Cond.selects "Scrutineery$Apart" ({ cls := "Scrutineery$Apart", name := "are", desc := "(LScrutineery$Entry;LScrutineery$Entry;)Z" } : Jvm.MethodName) ({ cls := "Scrutineery$Apart", name := "are", desc := "(LScrutineery$Entry;LScrutineery$Entry;)Z" } : Jvm.MethodName)) ∈ lw_all := lw_g (lw_at lw_m6 29 rfl) rfl
theorem q1340 : (Jvm.Cond.code ({ cls := "Scrutineery$Apart", name := "are", desc := "(LScrutineery$Entry;LScrutineery$Entry;)Z" } : Jvm.MethodName) prog_2_method_2_code (3 : Nat) (Option.some Jvm.ClassFile.FieldType.boolean)) ∈ lw_all := lw_g (lw_at lw_m6 30 rfl) rfl
theorem q2879 : (Jvm.Cond.castable "Scrutineery$Apart" "java/lang/Object") ∈ lw_tbl := lw_at lw_m12 129 rfl
theorem in_X9 : ∀ w ∈ wsX90, w ∈ lw_all := lw_in wsX90 [1320, 1322] (by decide +kernel) (by decide +kernel)
/-! Scrutineery$Places -/
set_option maxRecDepth 100000
def RX10 : String := "Scrutineery$Places"
def TX10 : u_T := fun k => match k with
  | 0 => ("Scrutineery$Places", "told", "I", true)
  | _ => ("Scrutineery$Places", "many", "I", true)
def tyX10 : Nat → FieldType := fun k => match k with
  | 0 => .int
  | _ => .int
abbrev wsX100 : List Cond := u_ws RX10 TX10 2
theorem nmX10 : ∀ a, a < 2 → ∀ b, b < 2 → a ≠ b → (TX10 a).2.1 ≠ (TX10 b).2.1 := by decide +kernel
theorem tyX10_ok : ∀ k, k < 2 → parseFieldDescriptor (TX10 k).2.2.1 = some (tyX10 k) := by decide +kernel
abbrev cX10_equals : ByteArray := prog_13_method_6_code
def yX10_equals : MethodName := ⟨RX10, "equals", "(Ljava/lang/Object;)Z"⟩
def dkwX10_equals_0 : List UInt8 := [42, 43, 186, 0, 34, 0, 0, 172]
abbrev dktX10_equals_0 : List UInt8 := dkwX10_equals_0 ++ []
theorem dksX10_equals_0 : cX10_equals.data.toList.drop 0 = dktX10_equals_0 := by decide +kernel
theorem dX10_equals_0 : decode cX10_equals 0 = .ok (.aload_n 0, 1) := dk_42 (dk_at dksX10_equals_0 0 rfl rfl)
theorem dX10_equals_1 : decode cX10_equals 1 = .ok (.aload_n 1, 1) := dk_43 (dk_at dksX10_equals_0 1 rfl rfl)
theorem dX10_equals_2 : decode cX10_equals 2 = .ok (.invokedynamic 34, 5) := by decide +kernel
theorem dX10_equals_7 : decode cX10_equals 7 = .ok (.ireturn, 1) := dk_172 (dk_at dksX10_equals_0 7 rfl rfl)
abbrev cX10_of : ByteArray := prog_13_method_2_code
def yX10_of : MethodName := ⟨RX10, "of", "(I)I"⟩
def dkwX10_of_1 : List UInt8 := [132, 3, 255, 167, 255, 243, 28, 16, 10, 112, 172]
abbrev dktX10_of_1 : List UInt8 := dkwX10_of_1 ++ []
def dkwX10_of_0 : List UInt8 := [42, 180, 0, 9, 61, 42, 180, 0, 15, 4, 100, 62, 29, 27, 164, 0, 14, 28, 16, 10, 108, 61]
abbrev dktX10_of_0 : List UInt8 := dkwX10_of_0 ++ dktX10_of_1
theorem dksX10_of_0 : cX10_of.data.toList.drop 0 = dktX10_of_0 := by decide +kernel
theorem dksX10_of_1 : cX10_of.data.toList.drop 22 = dktX10_of_1 := dk_seg dksX10_of_0 22 rfl rfl
theorem dX10_of_0 : decode cX10_of 0 = .ok (.aload_n 0, 1) := dk_42 (dk_at dksX10_of_0 0 rfl rfl)
theorem dX10_of_1 : decode cX10_of 1 = .ok (.getfield 9, 3) := dk_180 0 9 (dk_at dksX10_of_0 1 rfl rfl)
theorem dX10_of_4 : decode cX10_of 4 = .ok (.istore_n 2, 1) := dk_61 (dk_at dksX10_of_0 4 rfl rfl)
theorem dX10_of_5 : decode cX10_of 5 = .ok (.aload_n 0, 1) := dk_42 (dk_at dksX10_of_0 5 rfl rfl)
theorem dX10_of_6 : decode cX10_of 6 = .ok (.getfield 15, 3) := dk_180 0 15 (dk_at dksX10_of_0 6 rfl rfl)
theorem dX10_of_9 : decode cX10_of 9 = .ok (.iconst 1, 1) := dk_4 (dk_at dksX10_of_0 9 rfl rfl)
theorem dX10_of_10 : decode cX10_of 10 = .ok (.isub, 1) := dk_100 (dk_at dksX10_of_0 10 rfl rfl)
theorem dX10_of_11 : decode cX10_of 11 = .ok (.istore_n 3, 1) := dk_62 (dk_at dksX10_of_0 11 rfl rfl)
theorem dX10_of_12 : decode cX10_of 12 = .ok (.iload_n 3, 1) := dk_29 (dk_at dksX10_of_0 12 rfl rfl)
theorem dX10_of_13 : decode cX10_of 13 = .ok (.iload_n 1, 1) := dk_27 (dk_at dksX10_of_0 13 rfl rfl)
theorem dX10_of_14 : decode cX10_of 14 = .ok (.if_icmp .le 14, 3) := dk_164 0 14 (dk_at dksX10_of_0 14 rfl rfl)
theorem dX10_of_17 : decode cX10_of 17 = .ok (.iload_n 2, 1) := dk_28 (dk_at dksX10_of_0 17 rfl rfl)
theorem dX10_of_18 : decode cX10_of 18 = .ok (.bipush 10, 2) := dk_16 10 (dk_at dksX10_of_0 18 rfl rfl)
theorem dX10_of_20 : decode cX10_of 20 = .ok (.idiv, 1) := dk_108 (dk_at dksX10_of_0 20 rfl rfl)
theorem dX10_of_21 : decode cX10_of 21 = .ok (.istore_n 2, 1) := dk_61 (dk_at dksX10_of_0 21 rfl rfl)
theorem dX10_of_22 : decode cX10_of 22 = .ok (.iinc 3 (-1), 3) := dk_132 3 255 (dk_at dksX10_of_1 0 rfl rfl)
theorem dX10_of_25 : decode cX10_of 25 = .ok (.goto (-13), 3) := dk_167 255 243 (dk_at dksX10_of_1 3 rfl rfl)
theorem dX10_of_28 : decode cX10_of 28 = .ok (.iload_n 2, 1) := dk_28 (dk_at dksX10_of_1 6 rfl rfl)
theorem dX10_of_29 : decode cX10_of 29 = .ok (.bipush 10, 2) := dk_16 10 (dk_at dksX10_of_1 7 rfl rfl)
theorem dX10_of_31 : decode cX10_of 31 = .ok (.irem, 1) := dk_112 (dk_at dksX10_of_1 9 rfl rfl)
theorem dX10_of_32 : decode cX10_of 32 = .ok (.ireturn, 1) := dk_172 (dk_at dksX10_of_1 10 rfl rfl)
abbrev cX10_init : ByteArray := prog_13_method_1_code
def yX10_init : MethodName := ⟨RX10, "<init>", "(II)V"⟩
def dkwX10_init_0 : List UInt8 := [42, 183, 0, 3, 42, 27, 181, 0, 9, 42, 28, 181, 0, 15, 177]
abbrev dktX10_init_0 : List UInt8 := dkwX10_init_0 ++ []
theorem dksX10_init_0 : cX10_init.data.toList.drop 0 = dktX10_init_0 := by decide +kernel
theorem dX10_init_0 : decode cX10_init 0 = .ok (.aload_n 0, 1) := dk_42 (dk_at dksX10_init_0 0 rfl rfl)
theorem dX10_init_1 : decode cX10_init 1 = .ok (.invokespecial 3, 3) := dk_183 0 3 (dk_at dksX10_init_0 1 rfl rfl)
theorem dX10_init_4 : decode cX10_init 4 = .ok (.aload_n 0, 1) := dk_42 (dk_at dksX10_init_0 4 rfl rfl)
theorem dX10_init_5 : decode cX10_init 5 = .ok (.iload_n 1, 1) := dk_27 (dk_at dksX10_init_0 5 rfl rfl)
theorem dX10_init_6 : decode cX10_init 6 = .ok (.putfield 9, 3) := dk_181 0 9 (dk_at dksX10_init_0 6 rfl rfl)
theorem dX10_init_9 : decode cX10_init 9 = .ok (.aload_n 0, 1) := dk_42 (dk_at dksX10_init_0 9 rfl rfl)
theorem dX10_init_10 : decode cX10_init 10 = .ok (.iload_n 2, 1) := dk_28 (dk_at dksX10_init_0 10 rfl rfl)
theorem dX10_init_11 : decode cX10_init 11 = .ok (.putfield 15, 3) := dk_181 0 15 (dk_at dksX10_init_0 11 rfl rfl)
theorem dX10_init_14 : decode cX10_init 14 = .ok (.return_, 1) := dk_177 (dk_at dksX10_init_0 14 rfl rfl)
abbrev cX10_areAll : ByteArray := prog_13_method_3_code
def yX10_areAll : MethodName := ⟨RX10, "areAll", "()Z"⟩
def dkwX10_areAll_3 : List UInt8 := [4, 42, 180, 0, 15, 4, 96, 120, 5, 100, 160, 0, 7, 4, 167, 0, 4, 3, 172]
abbrev dktX10_areAll_3 : List UInt8 := dkwX10_areAll_3 ++ []
def dkwX10_areAll_2 : List UInt8 := [132, 3, 1, 167, 255, 240, 42, 180, 0, 9, 28, 16, 10, 108, 28, 4, 100, 184, 0, 22, 153, 0, 21, 27]
abbrev dktX10_areAll_2 : List UInt8 := dkwX10_areAll_2 ++ dktX10_areAll_3
def dkwX10_areAll_1 : List UInt8 := [132, 2, 1, 167, 255, 235, 4, 61, 3, 62, 29, 42, 180, 0, 15, 162, 0, 14, 28, 16, 10, 104, 61]
abbrev dktX10_areAll_1 : List UInt8 := dkwX10_areAll_1 ++ dktX10_areAll_2
def dkwX10_areAll_0 : List UInt8 := [3, 60, 3, 61, 28, 42, 180, 0, 15, 162, 0, 19, 27, 4, 42, 28, 182, 0, 18, 120, 128, 60]
abbrev dktX10_areAll_0 : List UInt8 := dkwX10_areAll_0 ++ dktX10_areAll_1
theorem dksX10_areAll_0 : cX10_areAll.data.toList.drop 0 = dktX10_areAll_0 := by decide +kernel
theorem dksX10_areAll_1 : cX10_areAll.data.toList.drop 22 = dktX10_areAll_1 := dk_seg dksX10_areAll_0 22 rfl rfl
theorem dksX10_areAll_2 : cX10_areAll.data.toList.drop 45 = dktX10_areAll_2 := dk_seg dksX10_areAll_1 23 rfl rfl
theorem dksX10_areAll_3 : cX10_areAll.data.toList.drop 69 = dktX10_areAll_3 := dk_seg dksX10_areAll_2 24 rfl rfl
theorem dX10_areAll_0 : decode cX10_areAll 0 = .ok (.iconst 0, 1) := dk_3 (dk_at dksX10_areAll_0 0 rfl rfl)
theorem dX10_areAll_1 : decode cX10_areAll 1 = .ok (.istore_n 1, 1) := dk_60 (dk_at dksX10_areAll_0 1 rfl rfl)
theorem dX10_areAll_2 : decode cX10_areAll 2 = .ok (.iconst 0, 1) := dk_3 (dk_at dksX10_areAll_0 2 rfl rfl)
theorem dX10_areAll_3 : decode cX10_areAll 3 = .ok (.istore_n 2, 1) := dk_61 (dk_at dksX10_areAll_0 3 rfl rfl)
theorem dX10_areAll_4 : decode cX10_areAll 4 = .ok (.iload_n 2, 1) := dk_28 (dk_at dksX10_areAll_0 4 rfl rfl)
theorem dX10_areAll_5 : decode cX10_areAll 5 = .ok (.aload_n 0, 1) := dk_42 (dk_at dksX10_areAll_0 5 rfl rfl)
theorem dX10_areAll_6 : decode cX10_areAll 6 = .ok (.getfield 15, 3) := dk_180 0 15 (dk_at dksX10_areAll_0 6 rfl rfl)
theorem dX10_areAll_9 : decode cX10_areAll 9 = .ok (.if_icmp .ge 19, 3) := dk_162 0 19 (dk_at dksX10_areAll_0 9 rfl rfl)
theorem dX10_areAll_12 : decode cX10_areAll 12 = .ok (.iload_n 1, 1) := dk_27 (dk_at dksX10_areAll_0 12 rfl rfl)
theorem dX10_areAll_13 : decode cX10_areAll 13 = .ok (.iconst 1, 1) := dk_4 (dk_at dksX10_areAll_0 13 rfl rfl)
theorem dX10_areAll_14 : decode cX10_areAll 14 = .ok (.aload_n 0, 1) := dk_42 (dk_at dksX10_areAll_0 14 rfl rfl)
theorem dX10_areAll_15 : decode cX10_areAll 15 = .ok (.iload_n 2, 1) := dk_28 (dk_at dksX10_areAll_0 15 rfl rfl)
theorem dX10_areAll_16 : decode cX10_areAll 16 = .ok (.invokevirtual 18, 3) := dk_182 0 18 (dk_at dksX10_areAll_0 16 rfl rfl)
theorem dX10_areAll_19 : decode cX10_areAll 19 = .ok (.ishl, 1) := dk_120 (dk_at dksX10_areAll_0 19 rfl rfl)
theorem dX10_areAll_20 : decode cX10_areAll 20 = .ok (.ior, 1) := dk_128 (dk_at dksX10_areAll_0 20 rfl rfl)
theorem dX10_areAll_21 : decode cX10_areAll 21 = .ok (.istore_n 1, 1) := dk_60 (dk_at dksX10_areAll_0 21 rfl rfl)
theorem dX10_areAll_22 : decode cX10_areAll 22 = .ok (.iinc 2 1, 3) := dk_132 2 1 (dk_at dksX10_areAll_1 0 rfl rfl)
theorem dX10_areAll_25 : decode cX10_areAll 25 = .ok (.goto (-21), 3) := dk_167 255 235 (dk_at dksX10_areAll_1 3 rfl rfl)
theorem dX10_areAll_28 : decode cX10_areAll 28 = .ok (.iconst 1, 1) := dk_4 (dk_at dksX10_areAll_1 6 rfl rfl)
theorem dX10_areAll_29 : decode cX10_areAll 29 = .ok (.istore_n 2, 1) := dk_61 (dk_at dksX10_areAll_1 7 rfl rfl)
theorem dX10_areAll_30 : decode cX10_areAll 30 = .ok (.iconst 0, 1) := dk_3 (dk_at dksX10_areAll_1 8 rfl rfl)
theorem dX10_areAll_31 : decode cX10_areAll 31 = .ok (.istore_n 3, 1) := dk_62 (dk_at dksX10_areAll_1 9 rfl rfl)
theorem dX10_areAll_32 : decode cX10_areAll 32 = .ok (.iload_n 3, 1) := dk_29 (dk_at dksX10_areAll_1 10 rfl rfl)
theorem dX10_areAll_33 : decode cX10_areAll 33 = .ok (.aload_n 0, 1) := dk_42 (dk_at dksX10_areAll_1 11 rfl rfl)
theorem dX10_areAll_34 : decode cX10_areAll 34 = .ok (.getfield 15, 3) := dk_180 0 15 (dk_at dksX10_areAll_1 12 rfl rfl)
theorem dX10_areAll_37 : decode cX10_areAll 37 = .ok (.if_icmp .ge 14, 3) := dk_162 0 14 (dk_at dksX10_areAll_1 15 rfl rfl)
theorem dX10_areAll_40 : decode cX10_areAll 40 = .ok (.iload_n 2, 1) := dk_28 (dk_at dksX10_areAll_1 18 rfl rfl)
theorem dX10_areAll_41 : decode cX10_areAll 41 = .ok (.bipush 10, 2) := dk_16 10 (dk_at dksX10_areAll_1 19 rfl rfl)
theorem dX10_areAll_43 : decode cX10_areAll 43 = .ok (.imul, 1) := dk_104 (dk_at dksX10_areAll_1 21 rfl rfl)
theorem dX10_areAll_44 : decode cX10_areAll 44 = .ok (.istore_n 2, 1) := dk_61 (dk_at dksX10_areAll_1 22 rfl rfl)
theorem dX10_areAll_45 : decode cX10_areAll 45 = .ok (.iinc 3 1, 3) := dk_132 3 1 (dk_at dksX10_areAll_2 0 rfl rfl)
theorem dX10_areAll_48 : decode cX10_areAll 48 = .ok (.goto (-16), 3) := dk_167 255 240 (dk_at dksX10_areAll_2 3 rfl rfl)
theorem dX10_areAll_51 : decode cX10_areAll 51 = .ok (.aload_n 0, 1) := dk_42 (dk_at dksX10_areAll_2 6 rfl rfl)
theorem dX10_areAll_52 : decode cX10_areAll 52 = .ok (.getfield 9, 3) := dk_180 0 9 (dk_at dksX10_areAll_2 7 rfl rfl)
theorem dX10_areAll_55 : decode cX10_areAll 55 = .ok (.iload_n 2, 1) := dk_28 (dk_at dksX10_areAll_2 10 rfl rfl)
theorem dX10_areAll_56 : decode cX10_areAll 56 = .ok (.bipush 10, 2) := dk_16 10 (dk_at dksX10_areAll_2 11 rfl rfl)
theorem dX10_areAll_58 : decode cX10_areAll 58 = .ok (.idiv, 1) := dk_108 (dk_at dksX10_areAll_2 13 rfl rfl)
theorem dX10_areAll_59 : decode cX10_areAll 59 = .ok (.iload_n 2, 1) := dk_28 (dk_at dksX10_areAll_2 14 rfl rfl)
theorem dX10_areAll_60 : decode cX10_areAll 60 = .ok (.iconst 1, 1) := dk_4 (dk_at dksX10_areAll_2 15 rfl rfl)
theorem dX10_areAll_61 : decode cX10_areAll 61 = .ok (.isub, 1) := dk_100 (dk_at dksX10_areAll_2 16 rfl rfl)
theorem dX10_areAll_62 : decode cX10_areAll 62 = .ok (.invokestatic 22, 3) := dk_184 0 22 (dk_at dksX10_areAll_2 17 rfl rfl)
theorem dX10_areAll_65 : decode cX10_areAll 65 = .ok (.ifCond .eq 21, 3) := dk_153 0 21 (dk_at dksX10_areAll_2 20 rfl rfl)
theorem dX10_areAll_68 : decode cX10_areAll 68 = .ok (.iload_n 1, 1) := dk_27 (dk_at dksX10_areAll_2 23 rfl rfl)
theorem dX10_areAll_69 : decode cX10_areAll 69 = .ok (.iconst 1, 1) := dk_4 (dk_at dksX10_areAll_3 0 rfl rfl)
theorem dX10_areAll_70 : decode cX10_areAll 70 = .ok (.aload_n 0, 1) := dk_42 (dk_at dksX10_areAll_3 1 rfl rfl)
theorem dX10_areAll_71 : decode cX10_areAll 71 = .ok (.getfield 15, 3) := dk_180 0 15 (dk_at dksX10_areAll_3 2 rfl rfl)
theorem dX10_areAll_74 : decode cX10_areAll 74 = .ok (.iconst 1, 1) := dk_4 (dk_at dksX10_areAll_3 5 rfl rfl)
theorem dX10_areAll_75 : decode cX10_areAll 75 = .ok (.iadd, 1) := dk_96 (dk_at dksX10_areAll_3 6 rfl rfl)
theorem dX10_areAll_76 : decode cX10_areAll 76 = .ok (.ishl, 1) := dk_120 (dk_at dksX10_areAll_3 7 rfl rfl)
theorem dX10_areAll_77 : decode cX10_areAll 77 = .ok (.iconst 2, 1) := dk_5 (dk_at dksX10_areAll_3 8 rfl rfl)
theorem dX10_areAll_78 : decode cX10_areAll 78 = .ok (.isub, 1) := dk_100 (dk_at dksX10_areAll_3 9 rfl rfl)
theorem dX10_areAll_79 : decode cX10_areAll 79 = .ok (.if_icmp .ne 7, 3) := dk_160 0 7 (dk_at dksX10_areAll_3 10 rfl rfl)
theorem dX10_areAll_82 : decode cX10_areAll 82 = .ok (.iconst 1, 1) := dk_4 (dk_at dksX10_areAll_3 13 rfl rfl)
theorem dX10_areAll_83 : decode cX10_areAll 83 = .ok (.goto 4, 3) := dk_167 0 4 (dk_at dksX10_areAll_3 14 rfl rfl)
theorem dX10_areAll_86 : decode cX10_areAll 86 = .ok (.iconst 0, 1) := dk_3 (dk_at dksX10_areAll_3 17 rfl rfl)
theorem dX10_areAll_87 : decode cX10_areAll 87 = .ok (.ireturn, 1) := dk_172 (dk_at dksX10_areAll_3 18 rfl rfl)
abbrev cX10_told : ByteArray := prog_13_method_7_code
def yX10_told : MethodName := ⟨RX10, "told", "()I"⟩
theorem dX10_told_0 : decode cX10_told 0 = .ok (.aload_n 0, 1) := by decide +kernel
theorem dX10_told_1 : decode cX10_told 1 = .ok (.getfield 9, 3) := by decide +kernel
theorem dX10_told_4 : decode cX10_told 4 = .ok (.ireturn, 1) := by decide +kernel
theorem q144 : (Jvm.Cond.initialized "Scrutineery$Places") ∈ lw_all := lw_g (lw_at lw_m1 34 rfl) rfl
theorem q482 : (Jvm.Cond.instanceMethod ({ cls := "Scrutineery$Places", name := "equals", desc := "(Ljava/lang/Object;)Z" } : Jvm.MethodName)) ∈ lw_all := lw_g (lw_at lw_m2 132 rfl) rfl
theorem q483 : (Jvm.Cond.code ({ cls := "Scrutineery$Places", name := "equals", desc := "(Ljava/lang/Object;)Z" } : Jvm.MethodName) prog_13_method_6_code (2 : Nat) (Option.some Jvm.ClassFile.FieldType.boolean)) ∈ lw_all := lw_g (lw_at lw_m2 133 rfl) rfl
theorem q504 : (Jvm.Cond.selects "Scrutineery$Places" ({ cls := "java/lang/Object", name := "equals", desc := "(Ljava/lang/Object;)Z" } : Jvm.MethodName) ({ cls := "Scrutineery$Places", name := "equals", desc := "(Ljava/lang/Object;)Z" } : Jvm.MethodName)) ∈ lw_all := lw_g (lw_at lw_m2 154 rfl) rfl
theorem q578 : (Jvm.Cond.instanceMethod ({ cls := "Scrutineery$Places", name := "of", desc := "(I)I" } : Jvm.MethodName)) ∈ lw_all := lw_g (lw_at lw_m2 228 rfl) rfl
theorem q579 : (Jvm.Cond.selects "Scrutineery$Places" ({ cls := "Scrutineery$Places", name := "of", desc := "(I)I" } : Jvm.MethodName) ({ cls := "Scrutineery$Places", name := "of", desc := "(I)I" } : Jvm.MethodName)) ∈ lw_all := lw_g (lw_at lw_m2 229 rfl) rfl
theorem q580 : (Jvm.Cond.code ({ cls := "Scrutineery$Places", name := "of", desc := "(I)I" } : Jvm.MethodName) prog_13_method_2_code (4 : Nat) (Option.some Jvm.ClassFile.FieldType.int)) ∈ lw_all := lw_g (lw_at lw_m2 230 rfl) rfl
theorem q628 : (Jvm.Cond.selects "Scrutineery$Places" ({ cls := "java/lang/Object", name := "getClass", desc := "()Ljava/lang/Class;" } : Jvm.MethodName) ({ cls := "java/lang/Object", name := "getClass", desc := "()Ljava/lang/Class;" } : Jvm.MethodName)) ∈ lw_all := lw_g (lw_at lw_m3 38 rfl) rfl
theorem q1381 : (Jvm.Cond.instantiable "Scrutineery$Places" (2 : Nat)) ∈ lw_all := lw_g (lw_at lw_m6 71 rfl) rfl
theorem q1383 : (Jvm.Cond.instanceMethod ({ cls := "Scrutineery$Places", name := "<init>", desc := "(II)V" } : Jvm.MethodName)) ∈ lw_all := lw_g (lw_at lw_m6 73 rfl) rfl
theorem q1384 : (Jvm.Cond.code ({ cls := "Scrutineery$Places", name := "<init>", desc := "(II)V" } : Jvm.MethodName) prog_13_method_1_code (3 : Nat) (Option.none : Option Jvm.ClassFile.FieldType)) ∈ lw_all := lw_g (lw_at lw_m6 74 rfl) rfl
theorem q1385 : (Jvm.Cond.methodLink "Scrutineery$Places" (3 : Nat) ({ cls := "java/lang/Record", name := "<init>", desc := "()V" } : Jvm.MethodName)) ∈ lw_all := lw_g (lw_at lw_m6 75 rfl) rfl
theorem q1386 : (Jvm.Cond.fieldLink "Scrutineery$Places" (9 : Nat) "Scrutineery$Places" "told" "I") ∈ lw_all := lw_g (lw_at lw_m6 76 rfl) rfl
theorem q1387 : (Jvm.Cond.fieldLink "Scrutineery$Places" (15 : Nat) "Scrutineery$Places" "many" "I") ∈ lw_all := lw_g (lw_at lw_m6 77 rfl) rfl
theorem q1388 : (Jvm.Cond.laysFinal "Scrutineery$Places" "Scrutineery$Places" "told" "I") ∈ lw_all := lw_g (lw_at lw_m6 78 rfl) rfl
theorem q1389 : (Jvm.Cond.soleField "Scrutineery$Places" "told") ∈ lw_all := lw_g (lw_at lw_m6 79 rfl) rfl
theorem q1390 : (Jvm.Cond.laysFinal "Scrutineery$Places" "Scrutineery$Places" "many" "I") ∈ lw_all := lw_g (lw_at lw_m6 80 rfl) rfl
theorem q1391 : (Jvm.Cond.soleField "Scrutineery$Places" "many") ∈ lw_all := lw_g (lw_at lw_m6 81 rfl) rfl
theorem q1392 : (Jvm.Cond.superclass "Scrutineery$Places" "java/lang/Record") ∈ lw_all := lw_g (lw_at lw_m6 82 rfl) rfl
theorem q1394 : (Jvm.Cond.instanceMethod ({ cls := "Scrutineery$Places", name := "areAll", desc := "()Z" } : Jvm.MethodName)) ∈ lw_all := lw_g (lw_at lw_m6 84 rfl) rfl
theorem q1395 : (Jvm.Cond.selects "Scrutineery$Places" ({ cls := "Scrutineery$Places", name := "areAll", desc := "()Z" } : Jvm.MethodName) ({ cls := "Scrutineery$Places", name := "areAll", desc := "()Z" } : Jvm.MethodName)) ∈ lw_all := lw_g (lw_at lw_m6 85 rfl) rfl
theorem q1396 : (Jvm.Cond.code ({ cls := "Scrutineery$Places", name := "areAll", desc := "()Z" } : Jvm.MethodName) prog_13_method_3_code (4 : Nat) (Option.some Jvm.ClassFile.FieldType.boolean)) ∈ lw_all := lw_g (lw_at lw_m6 86 rfl) rfl
theorem q1397 : (Jvm.Cond.methodLink "Scrutineery$Places" (18 : Nat) ({ cls := "Scrutineery$Places", name := "of", desc := "(I)I" } : Jvm.MethodName)) ∈ lw_all := lw_g (lw_at lw_m6 87 rfl) rfl
theorem q1398 : (Jvm.Cond.methodLinkNest "Scrutineery$Places" (22 : Nat) ({ cls := "Scrutineery", name := "isBetween", desc := "(III)Z" } : Jvm.MethodName) "Scrutineery") ∈ lw_tbl := lw_at lw_m6 88 rfl
theorem q2043 : (Jvm.Cond.castable "Scrutineery$Places" "Scrutineery$Marks") ∈ lw_tbl := lw_at lw_m9 13 rfl
theorem q2044 : (Jvm.Cond.selects "Scrutineery$Places" ({ cls := "Scrutineery$Marks", name := "told", desc := "()I" } : Jvm.MethodName) ({ cls := "Scrutineery$Places", name := "told", desc := "()I" } : Jvm.MethodName)) ∈ lw_all := lw_g (lw_at lw_m9 14 rfl) rfl
theorem q2045 : (Jvm.Cond.unhidden "Scrutineery$Places" "told" "()I") ∈ lw_tbl := lw_at lw_m9 15 rfl
theorem q2046 : (Jvm.Cond.instanceMethod ({ cls := "Scrutineery$Places", name := "told", desc := "()I" } : Jvm.MethodName)) ∈ lw_all := lw_g (lw_at lw_m9 16 rfl) rfl
theorem q2047 : (Jvm.Cond.publicMethod ({ cls := "Scrutineery$Places", name := "told", desc := "()I" } : Jvm.MethodName)) ∈ lw_tbl := lw_at lw_m9 17 rfl
theorem q2048 : (Jvm.Cond.code ({ cls := "Scrutineery$Places", name := "told", desc := "()I" } : Jvm.MethodName) prog_13_method_7_code (1 : Nat) (Option.some Jvm.ClassFile.FieldType.int)) ∈ lw_all := lw_g (lw_at lw_m9 18 rfl) rfl
theorem q2880 : (Jvm.Cond.castable "Scrutineery$Places" "java/lang/Object") ∈ lw_tbl := lw_at lw_m12 130 rfl
theorem in_X10 : ∀ w ∈ wsX100, w ∈ lw_all := lw_in wsX100 [1388, 1390] (by decide +kernel) (by decide +kernel)
/-! Scrutineery$Crosses -/
set_option maxRecDepth 100000
def RX11 : String := "Scrutineery$Crosses"
def TX11 : u_T := fun k => match k with
  | _ => ("Scrutineery$Crosses", "told", "I", true)
def tyX11 : Nat → FieldType := fun k => match k with
  | _ => .int
abbrev wsX110 : List Cond := u_ws RX11 TX11 1
theorem nmX11 : ∀ a, a < 1 → ∀ b, b < 1 → a ≠ b → (TX11 a).2.1 ≠ (TX11 b).2.1 := by decide +kernel
theorem tyX11_ok : ∀ k, k < 1 → parseFieldDescriptor (TX11 k).2.2.1 = some (tyX11 k) := by decide +kernel
abbrev cX11_told : ByteArray := prog_4_method_5_code
def yX11_told : MethodName := ⟨RX11, "told", "()I"⟩
theorem dX11_told_0 : decode cX11_told 0 = .ok (.aload_n 0, 1) := by decide +kernel
theorem dX11_told_1 : decode cX11_told 1 = .ok (.getfield 7, 3) := by decide +kernel
theorem dX11_told_4 : decode cX11_told 4 = .ok (.ireturn, 1) := by decide +kernel
abbrev cX11_equals : ByteArray := prog_4_method_4_code
def yX11_equals : MethodName := ⟨RX11, "equals", "(Ljava/lang/Object;)Z"⟩
def dkwX11_equals_0 : List UInt8 := [42, 43, 186, 0, 21, 0, 0, 172]
abbrev dktX11_equals_0 : List UInt8 := dkwX11_equals_0 ++ []
theorem dksX11_equals_0 : cX11_equals.data.toList.drop 0 = dktX11_equals_0 := by decide +kernel
theorem dX11_equals_0 : decode cX11_equals 0 = .ok (.aload_n 0, 1) := dk_42 (dk_at dksX11_equals_0 0 rfl rfl)
theorem dX11_equals_1 : decode cX11_equals 1 = .ok (.aload_n 1, 1) := dk_43 (dk_at dksX11_equals_0 1 rfl rfl)
theorem dX11_equals_2 : decode cX11_equals 2 = .ok (.invokedynamic 21, 5) := by decide +kernel
theorem dX11_equals_7 : decode cX11_equals 7 = .ok (.ireturn, 1) := dk_172 (dk_at dksX11_equals_0 7 rfl rfl)
abbrev cX11_init : ByteArray := prog_4_method_1_code
def yX11_init : MethodName := ⟨RX11, "<init>", "(I)V"⟩
def dkwX11_init_0 : List UInt8 := [42, 183, 0, 1, 42, 27, 181, 0, 7, 177]
abbrev dktX11_init_0 : List UInt8 := dkwX11_init_0 ++ []
theorem dksX11_init_0 : cX11_init.data.toList.drop 0 = dktX11_init_0 := by decide +kernel
theorem dX11_init_0 : decode cX11_init 0 = .ok (.aload_n 0, 1) := dk_42 (dk_at dksX11_init_0 0 rfl rfl)
theorem dX11_init_1 : decode cX11_init 1 = .ok (.invokespecial 1, 3) := dk_183 0 1 (dk_at dksX11_init_0 1 rfl rfl)
theorem dX11_init_4 : decode cX11_init 4 = .ok (.aload_n 0, 1) := dk_42 (dk_at dksX11_init_0 4 rfl rfl)
theorem dX11_init_5 : decode cX11_init 5 = .ok (.iload_n 1, 1) := dk_27 (dk_at dksX11_init_0 5 rfl rfl)
theorem dX11_init_6 : decode cX11_init 6 = .ok (.putfield 7, 3) := dk_181 0 7 (dk_at dksX11_init_0 6 rfl rfl)
theorem dX11_init_9 : decode cX11_init 9 = .ok (.return_, 1) := dk_177 (dk_at dksX11_init_0 9 rfl rfl)
theorem q145 : (Jvm.Cond.initialized "Scrutineery$Crosses") ∈ lw_all := lw_g (lw_at lw_m1 35 rfl) rfl
theorem q447 : (Jvm.Cond.instanceMethod ({ cls := "Scrutineery$Crosses", name := "told", desc := "()I" } : Jvm.MethodName)) ∈ lw_all := lw_g (lw_at lw_m2 97 rfl) rfl
theorem q448 : (Jvm.Cond.selects "Scrutineery$Crosses" ({ cls := "Scrutineery$Crosses", name := "told", desc := "()I" } : Jvm.MethodName) ({ cls := "Scrutineery$Crosses", name := "told", desc := "()I" } : Jvm.MethodName)) ∈ lw_all := lw_g (lw_at lw_m2 98 rfl) rfl
theorem q449 : (Jvm.Cond.code ({ cls := "Scrutineery$Crosses", name := "told", desc := "()I" } : Jvm.MethodName) prog_4_method_5_code (1 : Nat) (Option.some Jvm.ClassFile.FieldType.int)) ∈ lw_all := lw_g (lw_at lw_m2 99 rfl) rfl
theorem q474 : (Jvm.Cond.instanceMethod ({ cls := "Scrutineery$Crosses", name := "equals", desc := "(Ljava/lang/Object;)Z" } : Jvm.MethodName)) ∈ lw_all := lw_g (lw_at lw_m2 124 rfl) rfl
theorem q475 : (Jvm.Cond.code ({ cls := "Scrutineery$Crosses", name := "equals", desc := "(Ljava/lang/Object;)Z" } : Jvm.MethodName) prog_4_method_4_code (2 : Nat) (Option.some Jvm.ClassFile.FieldType.boolean)) ∈ lw_all := lw_g (lw_at lw_m2 125 rfl) rfl
theorem q497 : (Jvm.Cond.selects "Scrutineery$Crosses" ({ cls := "java/lang/Object", name := "equals", desc := "(Ljava/lang/Object;)Z" } : Jvm.MethodName) ({ cls := "Scrutineery$Crosses", name := "equals", desc := "(Ljava/lang/Object;)Z" } : Jvm.MethodName)) ∈ lw_all := lw_g (lw_at lw_m2 147 rfl) rfl
theorem q621 : (Jvm.Cond.selects "Scrutineery$Crosses" ({ cls := "java/lang/Object", name := "getClass", desc := "()Ljava/lang/Class;" } : Jvm.MethodName) ({ cls := "java/lang/Object", name := "getClass", desc := "()Ljava/lang/Class;" } : Jvm.MethodName)) ∈ lw_all := lw_g (lw_at lw_m3 31 rfl) rfl
theorem q1411 : (Jvm.Cond.instantiable "Scrutineery$Crosses" (1 : Nat)) ∈ lw_all := lw_g (lw_at lw_m6 101 rfl) rfl
theorem q1413 : (Jvm.Cond.instanceMethod ({ cls := "Scrutineery$Crosses", name := "<init>", desc := "(I)V" } : Jvm.MethodName)) ∈ lw_all := lw_g (lw_at lw_m6 103 rfl) rfl
theorem q1414 : (Jvm.Cond.code ({ cls := "Scrutineery$Crosses", name := "<init>", desc := "(I)V" } : Jvm.MethodName) prog_4_method_1_code (2 : Nat) (Option.none : Option Jvm.ClassFile.FieldType)) ∈ lw_all := lw_g (lw_at lw_m6 104 rfl) rfl
theorem q1415 : (Jvm.Cond.methodLink "Scrutineery$Crosses" (1 : Nat) ({ cls := "java/lang/Record", name := "<init>", desc := "()V" } : Jvm.MethodName)) ∈ lw_all := lw_g (lw_at lw_m6 105 rfl) rfl
theorem q1416 : (Jvm.Cond.fieldLink "Scrutineery$Crosses" (7 : Nat) "Scrutineery$Crosses" "told" "I") ∈ lw_all := lw_g (lw_at lw_m6 106 rfl) rfl
theorem q1417 : (Jvm.Cond.laysFinal "Scrutineery$Crosses" "Scrutineery$Crosses" "told" "I") ∈ lw_all := lw_g (lw_at lw_m6 107 rfl) rfl
theorem q1418 : (Jvm.Cond.soleField "Scrutineery$Crosses" "told") ∈ lw_all := lw_g (lw_at lw_m6 108 rfl) rfl
theorem q1419 : (Jvm.Cond.superclass "Scrutineery$Crosses" "java/lang/Record") ∈ lw_all := lw_g (lw_at lw_m6 109 rfl) rfl
theorem q2039 : (Jvm.Cond.castable "Scrutineery$Crosses" "Scrutineery$Marks") ∈ lw_tbl := lw_at lw_m9 9 rfl
theorem q2040 : (Jvm.Cond.selects "Scrutineery$Crosses" ({ cls := "Scrutineery$Marks", name := "told", desc := "()I" } : Jvm.MethodName) ({ cls := "Scrutineery$Crosses", name := "told", desc := "()I" } : Jvm.MethodName)) ∈ lw_all := lw_g (lw_at lw_m9 10 rfl) rfl
theorem q2041 : (Jvm.Cond.unhidden "Scrutineery$Crosses" "told" "()I") ∈ lw_tbl := lw_at lw_m9 11 rfl
theorem q2042 : (Jvm.Cond.publicMethod ({ cls := "Scrutineery$Crosses", name := "told", desc := "()I" } : Jvm.MethodName)) ∈ lw_tbl := lw_at lw_m9 12 rfl
theorem q2881 : (Jvm.Cond.castable "Scrutineery$Crosses" "java/lang/Object") ∈ lw_tbl := lw_at lw_m12 131 rfl
theorem in_X11 : ∀ w ∈ wsX110, w ∈ lw_all := lw_in wsX110 [1417] (by decide +kernel) (by decide +kernel)
/-! Scrutineery$Duel -/
set_option maxRecDepth 100000
def RX12 : String := "Scrutineery$Duel"
def TX12 : u_T := fun k => match k with
  | 0 => ("Scrutineery$Duel", "sign", "I", true)
  | _ => ("Scrutineery$Duel", "rule", "I", true)
def tyX12 : Nat → FieldType := fun k => match k with
  | 0 => .int
  | _ => .int
abbrev wsX120 : List Cond := u_ws RX12 TX12 2
theorem nmX12 : ∀ a, a < 2 → ∀ b, b < 2 → a ≠ b → (TX12 a).2.1 ≠ (TX12 b).2.1 := by decide +kernel
theorem tyX12_ok : ∀ k, k < 2 → parseFieldDescriptor (TX12 k).2.2.1 = some (tyX12 k) := by decide +kernel
abbrev cX12_equals : ByteArray := prog_5_method_4_code
def yX12_equals : MethodName := ⟨RX12, "equals", "(Ljava/lang/Object;)Z"⟩
def dkwX12_equals_0 : List UInt8 := [42, 43, 186, 0, 24, 0, 0, 172]
abbrev dktX12_equals_0 : List UInt8 := dkwX12_equals_0 ++ []
theorem dksX12_equals_0 : cX12_equals.data.toList.drop 0 = dktX12_equals_0 := by decide +kernel
theorem dX12_equals_0 : decode cX12_equals 0 = .ok (.aload_n 0, 1) := dk_42 (dk_at dksX12_equals_0 0 rfl rfl)
theorem dX12_equals_1 : decode cX12_equals 1 = .ok (.aload_n 1, 1) := dk_43 (dk_at dksX12_equals_0 1 rfl rfl)
theorem dX12_equals_2 : decode cX12_equals 2 = .ok (.invokedynamic 24, 5) := by decide +kernel
theorem dX12_equals_7 : decode cX12_equals 7 = .ok (.ireturn, 1) := dk_172 (dk_at dksX12_equals_0 7 rfl rfl)
abbrev cX12_init : ByteArray := prog_5_method_1_code
def yX12_init : MethodName := ⟨RX12, "<init>", "(II)V"⟩
def dkwX12_init_0 : List UInt8 := [42, 183, 0, 1, 42, 27, 181, 0, 7, 42, 28, 181, 0, 13, 177]
abbrev dktX12_init_0 : List UInt8 := dkwX12_init_0 ++ []
theorem dksX12_init_0 : cX12_init.data.toList.drop 0 = dktX12_init_0 := by decide +kernel
theorem dX12_init_0 : decode cX12_init 0 = .ok (.aload_n 0, 1) := dk_42 (dk_at dksX12_init_0 0 rfl rfl)
theorem dX12_init_1 : decode cX12_init 1 = .ok (.invokespecial 1, 3) := dk_183 0 1 (dk_at dksX12_init_0 1 rfl rfl)
theorem dX12_init_4 : decode cX12_init 4 = .ok (.aload_n 0, 1) := dk_42 (dk_at dksX12_init_0 4 rfl rfl)
theorem dX12_init_5 : decode cX12_init 5 = .ok (.iload_n 1, 1) := dk_27 (dk_at dksX12_init_0 5 rfl rfl)
theorem dX12_init_6 : decode cX12_init 6 = .ok (.putfield 7, 3) := dk_181 0 7 (dk_at dksX12_init_0 6 rfl rfl)
theorem dX12_init_9 : decode cX12_init 9 = .ok (.aload_n 0, 1) := dk_42 (dk_at dksX12_init_0 9 rfl rfl)
theorem dX12_init_10 : decode cX12_init 10 = .ok (.iload_n 2, 1) := dk_28 (dk_at dksX12_init_0 10 rfl rfl)
theorem dX12_init_11 : decode cX12_init 11 = .ok (.putfield 13, 3) := dk_181 0 13 (dk_at dksX12_init_0 11 rfl rfl)
theorem dX12_init_14 : decode cX12_init 14 = .ok (.return_, 1) := dk_177 (dk_at dksX12_init_0 14 rfl rfl)
abbrev cX12_sign : ByteArray := prog_5_method_5_code
def yX12_sign : MethodName := ⟨RX12, "sign", "()I"⟩
theorem dX12_sign_0 : decode cX12_sign 0 = .ok (.aload_n 0, 1) := by decide +kernel
theorem dX12_sign_1 : decode cX12_sign 1 = .ok (.getfield 7, 3) := by decide +kernel
theorem dX12_sign_4 : decode cX12_sign 4 = .ok (.ireturn, 1) := by decide +kernel
abbrev cX12_rule : ByteArray := prog_5_method_6_code
def yX12_rule : MethodName := ⟨RX12, "rule", "()I"⟩
theorem dX12_rule_0 : decode cX12_rule 0 = .ok (.aload_n 0, 1) := by decide +kernel
theorem dX12_rule_1 : decode cX12_rule 1 = .ok (.getfield 13, 3) := by decide +kernel
theorem dX12_rule_4 : decode cX12_rule 4 = .ok (.ireturn, 1) := by decide +kernel
theorem q149 : (Jvm.Cond.initialized "Scrutineery$Duel") ∈ lw_all := lw_g (lw_at lw_m1 39 rfl) rfl
theorem q476 : (Jvm.Cond.instanceMethod ({ cls := "Scrutineery$Duel", name := "equals", desc := "(Ljava/lang/Object;)Z" } : Jvm.MethodName)) ∈ lw_all := lw_g (lw_at lw_m2 126 rfl) rfl
theorem q477 : (Jvm.Cond.code ({ cls := "Scrutineery$Duel", name := "equals", desc := "(Ljava/lang/Object;)Z" } : Jvm.MethodName) prog_5_method_4_code (2 : Nat) (Option.some Jvm.ClassFile.FieldType.boolean)) ∈ lw_all := lw_g (lw_at lw_m2 127 rfl) rfl
theorem q498 : (Jvm.Cond.selects "Scrutineery$Duel" ({ cls := "java/lang/Object", name := "equals", desc := "(Ljava/lang/Object;)Z" } : Jvm.MethodName) ({ cls := "Scrutineery$Duel", name := "equals", desc := "(Ljava/lang/Object;)Z" } : Jvm.MethodName)) ∈ lw_all := lw_g (lw_at lw_m2 148 rfl) rfl
theorem q622 : (Jvm.Cond.selects "Scrutineery$Duel" ({ cls := "java/lang/Object", name := "getClass", desc := "()Ljava/lang/Class;" } : Jvm.MethodName) ({ cls := "java/lang/Object", name := "getClass", desc := "()Ljava/lang/Class;" } : Jvm.MethodName)) ∈ lw_all := lw_g (lw_at lw_m3 32 rfl) rfl
theorem q1730 : (Jvm.Cond.instantiable "Scrutineery$Duel" (2 : Nat)) ∈ lw_all := lw_g (lw_at lw_m7 180 rfl) rfl
theorem q1732 : (Jvm.Cond.instanceMethod ({ cls := "Scrutineery$Duel", name := "<init>", desc := "(II)V" } : Jvm.MethodName)) ∈ lw_all := lw_g (lw_at lw_m7 182 rfl) rfl
theorem q1733 : (Jvm.Cond.code ({ cls := "Scrutineery$Duel", name := "<init>", desc := "(II)V" } : Jvm.MethodName) prog_5_method_1_code (3 : Nat) (Option.none : Option Jvm.ClassFile.FieldType)) ∈ lw_all := lw_g (lw_at lw_m7 183 rfl) rfl
theorem q1734 : (Jvm.Cond.methodLink "Scrutineery$Duel" (1 : Nat) ({ cls := "java/lang/Record", name := "<init>", desc := "()V" } : Jvm.MethodName)) ∈ lw_all := lw_g (lw_at lw_m7 184 rfl) rfl
theorem q1735 : (Jvm.Cond.fieldLink "Scrutineery$Duel" (7 : Nat) "Scrutineery$Duel" "sign" "I") ∈ lw_all := lw_g (lw_at lw_m7 185 rfl) rfl
theorem q1736 : (Jvm.Cond.fieldLink "Scrutineery$Duel" (13 : Nat) "Scrutineery$Duel" "rule" "I") ∈ lw_all := lw_g (lw_at lw_m7 186 rfl) rfl
theorem q1737 : (Jvm.Cond.laysFinal "Scrutineery$Duel" "Scrutineery$Duel" "sign" "I") ∈ lw_all := lw_g (lw_at lw_m7 187 rfl) rfl
theorem q1738 : (Jvm.Cond.soleField "Scrutineery$Duel" "sign") ∈ lw_all := lw_g (lw_at lw_m7 188 rfl) rfl
theorem q1739 : (Jvm.Cond.laysFinal "Scrutineery$Duel" "Scrutineery$Duel" "rule" "I") ∈ lw_all := lw_g (lw_at lw_m7 189 rfl) rfl
theorem q1740 : (Jvm.Cond.soleField "Scrutineery$Duel" "rule") ∈ lw_all := lw_g (lw_at lw_m7 190 rfl) rfl
theorem q1741 : (Jvm.Cond.superclass "Scrutineery$Duel" "java/lang/Record") ∈ lw_all := lw_g (lw_at lw_m7 191 rfl) rfl
theorem q1743 : (Jvm.Cond.instanceMethod ({ cls := "Scrutineery$Duel", name := "sign", desc := "()I" } : Jvm.MethodName)) ∈ lw_all := lw_g (lw_at lw_m7 193 rfl) rfl
theorem q1744 : (Jvm.Cond.selects "Scrutineery$Duel" ({ cls := "Scrutineery$Duel", name := "sign", desc := "()I" } : Jvm.MethodName) ({ cls := "Scrutineery$Duel", name := "sign", desc := "()I" } : Jvm.MethodName)) ∈ lw_all := lw_g (lw_at lw_m7 194 rfl) rfl
theorem q1745 : (Jvm.Cond.code ({ cls := "Scrutineery$Duel", name := "sign", desc := "()I" } : Jvm.MethodName) prog_5_method_5_code (1 : Nat) (Option.some Jvm.ClassFile.FieldType.int)) ∈ lw_all := lw_g (lw_at lw_m7 195 rfl) rfl
theorem q1747 : (Jvm.Cond.instanceMethod ({ cls := "Scrutineery$Duel", name := "rule", desc := "()I" } : Jvm.MethodName)) ∈ lw_all := lw_g (lw_at lw_m7 197 rfl) rfl
theorem q1748 : (Jvm.Cond.selects "Scrutineery$Duel" ({ cls := "Scrutineery$Duel", name := "rule", desc := "()I" } : Jvm.MethodName) ({ cls := "Scrutineery$Duel", name := "rule", desc := "()I" } : Jvm.MethodName)) ∈ lw_all := lw_g (lw_at lw_m7 198 rfl) rfl
theorem q1749 : (Jvm.Cond.code ({ cls := "Scrutineery$Duel", name := "rule", desc := "()I" } : Jvm.MethodName) prog_5_method_6_code (1 : Nat) (Option.some Jvm.ClassFile.FieldType.int)) ∈ lw_all := lw_g (lw_at lw_m7 199 rfl) rfl
theorem q2884 : (Jvm.Cond.castable "Scrutineery$Duel" "java/lang/Object") ∈ lw_tbl := lw_at lw_m12 134 rfl
theorem in_X12 : ∀ w ∈ wsX120, w ∈ lw_all := lw_in wsX120 [1737, 1739] (by decide +kernel) (by decide +kernel)
/-! Scrutineery$Formation -/
set_option maxRecDepth 100000
def RX14 : String := "Scrutineery$Formation"
def TX14 : u_T := fun k => match k with
  | _ => ("Scrutineery$Formation", "points", "I", true)
def tyX14 : Nat → FieldType := fun k => match k with
  | _ => .int
abbrev wsX140 : List Cond := u_ws RX14 TX14 1
theorem nmX14 : ∀ a, a < 1 → ∀ b, b < 1 → a ≠ b → (TX14 a).2.1 ≠ (TX14 b).2.1 := by decide +kernel
theorem tyX14_ok : ∀ k, k < 1 → parseFieldDescriptor (TX14 k).2.2.1 = some (tyX14 k) := by decide +kernel
abbrev cX14_equals : ByteArray := prog_9_method_4_code
def yX14_equals : MethodName := ⟨RX14, "equals", "(Ljava/lang/Object;)Z"⟩
def dkwX14_equals_0 : List UInt8 := [42, 43, 186, 0, 21, 0, 0, 172]
abbrev dktX14_equals_0 : List UInt8 := dkwX14_equals_0 ++ []
theorem dksX14_equals_0 : cX14_equals.data.toList.drop 0 = dktX14_equals_0 := by decide +kernel
theorem dX14_equals_0 : decode cX14_equals 0 = .ok (.aload_n 0, 1) := dk_42 (dk_at dksX14_equals_0 0 rfl rfl)
theorem dX14_equals_1 : decode cX14_equals 1 = .ok (.aload_n 1, 1) := dk_43 (dk_at dksX14_equals_0 1 rfl rfl)
theorem dX14_equals_2 : decode cX14_equals 2 = .ok (.invokedynamic 21, 5) := by decide +kernel
theorem dX14_equals_7 : decode cX14_equals 7 = .ok (.ireturn, 1) := dk_172 (dk_at dksX14_equals_0 7 rfl rfl)
abbrev cX14_init : ByteArray := prog_9_method_1_code
def yX14_init : MethodName := ⟨RX14, "<init>", "(I)V"⟩
def dkwX14_init_0 : List UInt8 := [42, 183, 0, 1, 42, 27, 181, 0, 7, 177]
abbrev dktX14_init_0 : List UInt8 := dkwX14_init_0 ++ []
theorem dksX14_init_0 : cX14_init.data.toList.drop 0 = dktX14_init_0 := by decide +kernel
theorem dX14_init_0 : decode cX14_init 0 = .ok (.aload_n 0, 1) := dk_42 (dk_at dksX14_init_0 0 rfl rfl)
theorem dX14_init_1 : decode cX14_init 1 = .ok (.invokespecial 1, 3) := dk_183 0 1 (dk_at dksX14_init_0 1 rfl rfl)
theorem dX14_init_4 : decode cX14_init 4 = .ok (.aload_n 0, 1) := dk_42 (dk_at dksX14_init_0 4 rfl rfl)
theorem dX14_init_5 : decode cX14_init 5 = .ok (.iload_n 1, 1) := dk_27 (dk_at dksX14_init_0 5 rfl rfl)
theorem dX14_init_6 : decode cX14_init 6 = .ok (.putfield 7, 3) := dk_181 0 7 (dk_at dksX14_init_0 6 rfl rfl)
theorem dX14_init_9 : decode cX14_init 9 = .ok (.return_, 1) := dk_177 (dk_at dksX14_init_0 9 rfl rfl)
abbrev cX14_points : ByteArray := prog_9_method_5_code
def yX14_points : MethodName := ⟨RX14, "points", "()I"⟩
theorem dX14_points_0 : decode cX14_points 0 = .ok (.aload_n 0, 1) := by decide +kernel
theorem dX14_points_1 : decode cX14_points 1 = .ok (.getfield 7, 3) := by decide +kernel
theorem dX14_points_4 : decode cX14_points 4 = .ok (.ireturn, 1) := by decide +kernel
theorem q151 : (Jvm.Cond.initialized "Scrutineery$Formation") ∈ lw_all := lw_g (lw_at lw_m1 41 rfl) rfl
theorem q478 : (Jvm.Cond.instanceMethod ({ cls := "Scrutineery$Formation", name := "equals", desc := "(Ljava/lang/Object;)Z" } : Jvm.MethodName)) ∈ lw_all := lw_g (lw_at lw_m2 128 rfl) rfl
theorem q479 : (Jvm.Cond.code ({ cls := "Scrutineery$Formation", name := "equals", desc := "(Ljava/lang/Object;)Z" } : Jvm.MethodName) prog_9_method_4_code (2 : Nat) (Option.some Jvm.ClassFile.FieldType.boolean)) ∈ lw_all := lw_g (lw_at lw_m2 129 rfl) rfl
theorem q501 : (Jvm.Cond.selects "Scrutineery$Formation" ({ cls := "java/lang/Object", name := "equals", desc := "(Ljava/lang/Object;)Z" } : Jvm.MethodName) ({ cls := "Scrutineery$Formation", name := "equals", desc := "(Ljava/lang/Object;)Z" } : Jvm.MethodName)) ∈ lw_all := lw_g (lw_at lw_m2 151 rfl) rfl
theorem q625 : (Jvm.Cond.selects "Scrutineery$Formation" ({ cls := "java/lang/Object", name := "getClass", desc := "()Ljava/lang/Class;" } : Jvm.MethodName) ({ cls := "java/lang/Object", name := "getClass", desc := "()Ljava/lang/Class;" } : Jvm.MethodName)) ∈ lw_all := lw_g (lw_at lw_m3 35 rfl) rfl
theorem q1872 : (Jvm.Cond.instantiable "Scrutineery$Formation" (1 : Nat)) ∈ lw_all := lw_g (lw_at lw_m8 82 rfl) rfl
theorem q1874 : (Jvm.Cond.instanceMethod ({ cls := "Scrutineery$Formation", name := "<init>", desc := "(I)V" } : Jvm.MethodName)) ∈ lw_all := lw_g (lw_at lw_m8 84 rfl) rfl
theorem q1875 : (Jvm.Cond.code ({ cls := "Scrutineery$Formation", name := "<init>", desc := "(I)V" } : Jvm.MethodName) prog_9_method_1_code (2 : Nat) (Option.none : Option Jvm.ClassFile.FieldType)) ∈ lw_all := lw_g (lw_at lw_m8 85 rfl) rfl
theorem q1876 : (Jvm.Cond.methodLink "Scrutineery$Formation" (1 : Nat) ({ cls := "java/lang/Record", name := "<init>", desc := "()V" } : Jvm.MethodName)) ∈ lw_all := lw_g (lw_at lw_m8 86 rfl) rfl
theorem q1877 : (Jvm.Cond.fieldLink "Scrutineery$Formation" (7 : Nat) "Scrutineery$Formation" "points" "I") ∈ lw_all := lw_g (lw_at lw_m8 87 rfl) rfl
theorem q1878 : (Jvm.Cond.laysFinal "Scrutineery$Formation" "Scrutineery$Formation" "points" "I") ∈ lw_all := lw_g (lw_at lw_m8 88 rfl) rfl
theorem q1879 : (Jvm.Cond.soleField "Scrutineery$Formation" "points") ∈ lw_all := lw_g (lw_at lw_m8 89 rfl) rfl
theorem q1880 : (Jvm.Cond.superclass "Scrutineery$Formation" "java/lang/Record") ∈ lw_all := lw_g (lw_at lw_m8 90 rfl) rfl
theorem q1882 : (Jvm.Cond.instanceMethod ({ cls := "Scrutineery$Formation", name := "points", desc := "()I" } : Jvm.MethodName)) ∈ lw_all := lw_g (lw_at lw_m8 92 rfl) rfl
theorem q1883 : (Jvm.Cond.selects "Scrutineery$Formation" ({ cls := "Scrutineery$Formation", name := "points", desc := "()I" } : Jvm.MethodName) ({ cls := "Scrutineery$Formation", name := "points", desc := "()I" } : Jvm.MethodName)) ∈ lw_all := lw_g (lw_at lw_m8 93 rfl) rfl
theorem q1884 : (Jvm.Cond.code ({ cls := "Scrutineery$Formation", name := "points", desc := "()I" } : Jvm.MethodName) prog_9_method_5_code (1 : Nat) (Option.some Jvm.ClassFile.FieldType.int)) ∈ lw_all := lw_g (lw_at lw_m8 94 rfl) rfl
theorem q2886 : (Jvm.Cond.castable "Scrutineery$Formation" "java/lang/Object") ∈ lw_tbl := lw_at lw_m12 136 rfl
theorem in_X14 : ∀ w ∈ wsX140, w ∈ lw_all := lw_in wsX140 [1878] (by decide +kernel) (by decide +kernel)
/-! Scrutineery$Plan -/
set_option maxRecDepth 100000
def RX15 : String := "Scrutineery$Plan"
def TX15 : u_T := fun k => match k with
  | 0 => ("Scrutineery$Plan", "event", "LScrutineery$Event;", true)
  | 1 => ("Scrutineery$Plan", "floor", "I", true)
  | 2 => ("Scrutineery$Plan", "takes", "I", true)
  | 3 => ("Scrutineery$Plan", "dancers", "I", true)
  | _ => ("Scrutineery$Plan", "late", "I", false)
def tyX15 : Nat → FieldType := fun k => match k with
  | 0 => .object "Scrutineery$Event"
  | 1 => .int
  | 2 => .int
  | 3 => .int
  | _ => .int
abbrev wsX150 : List Cond := u_ws RX15 TX15 5
theorem nmX15 : ∀ a, a < 5 → ∀ b, b < 5 → a ≠ b → (TX15 a).2.1 ≠ (TX15 b).2.1 := by decide +kernel
theorem tyX15_ok : ∀ k, k < 5 → parseFieldDescriptor (TX15 k).2.2.1 = some (tyX15 k) := by decide +kernel
abbrev cX15_init : ByteArray := prog_14_method_1_code
def yX15_init : MethodName := ⟨RX15, "<init>", "(LScrutineery$Event;III)V"⟩
def dkwX15_init_1 : List UInt8 := [181, 0, 20, 177]
abbrev dktX15_init_1 : List UInt8 := dkwX15_init_1 ++ []
def dkwX15_init_0 : List UInt8 := [42, 183, 0, 1, 42, 43, 181, 0, 7, 42, 28, 181, 0, 13, 42, 29, 181, 0, 17, 42, 21, 4]
abbrev dktX15_init_0 : List UInt8 := dkwX15_init_0 ++ dktX15_init_1
theorem dksX15_init_0 : cX15_init.data.toList.drop 0 = dktX15_init_0 := by decide +kernel
theorem dksX15_init_1 : cX15_init.data.toList.drop 22 = dktX15_init_1 := dk_seg dksX15_init_0 22 rfl rfl
theorem dX15_init_0 : decode cX15_init 0 = .ok (.aload_n 0, 1) := dk_42 (dk_at dksX15_init_0 0 rfl rfl)
theorem dX15_init_1 : decode cX15_init 1 = .ok (.invokespecial 1, 3) := dk_183 0 1 (dk_at dksX15_init_0 1 rfl rfl)
theorem dX15_init_4 : decode cX15_init 4 = .ok (.aload_n 0, 1) := dk_42 (dk_at dksX15_init_0 4 rfl rfl)
theorem dX15_init_5 : decode cX15_init 5 = .ok (.aload_n 1, 1) := dk_43 (dk_at dksX15_init_0 5 rfl rfl)
theorem dX15_init_6 : decode cX15_init 6 = .ok (.putfield 7, 3) := dk_181 0 7 (dk_at dksX15_init_0 6 rfl rfl)
theorem dX15_init_9 : decode cX15_init 9 = .ok (.aload_n 0, 1) := dk_42 (dk_at dksX15_init_0 9 rfl rfl)
theorem dX15_init_10 : decode cX15_init 10 = .ok (.iload_n 2, 1) := dk_28 (dk_at dksX15_init_0 10 rfl rfl)
theorem dX15_init_11 : decode cX15_init 11 = .ok (.putfield 13, 3) := dk_181 0 13 (dk_at dksX15_init_0 11 rfl rfl)
theorem dX15_init_14 : decode cX15_init 14 = .ok (.aload_n 0, 1) := dk_42 (dk_at dksX15_init_0 14 rfl rfl)
theorem dX15_init_15 : decode cX15_init 15 = .ok (.iload_n 3, 1) := dk_29 (dk_at dksX15_init_0 15 rfl rfl)
theorem dX15_init_16 : decode cX15_init 16 = .ok (.putfield 17, 3) := dk_181 0 17 (dk_at dksX15_init_0 16 rfl rfl)
theorem dX15_init_19 : decode cX15_init 19 = .ok (.aload_n 0, 1) := dk_42 (dk_at dksX15_init_0 19 rfl rfl)
theorem dX15_init_20 : decode cX15_init 20 = .ok (.iload 4, 2) := dk_21 4 (dk_at dksX15_init_0 20 rfl rfl)
theorem dX15_init_22 : decode cX15_init 22 = .ok (.putfield 20, 3) := dk_181 0 20 (dk_at dksX15_init_1 0 rfl rfl)
theorem dX15_init_25 : decode cX15_init 25 = .ok (.return_, 1) := dk_177 (dk_at dksX15_init_1 3 rfl rfl)
theorem q152 : (Jvm.Cond.initialized "Scrutineery$Plan") ∈ lw_all := lw_g (lw_at lw_m1 42 rfl) rfl
theorem q505 : (Jvm.Cond.selects "Scrutineery$Plan" ({ cls := "java/lang/Object", name := "equals", desc := "(Ljava/lang/Object;)Z" } : Jvm.MethodName) ({ cls := "java/lang/Object", name := "equals", desc := "(Ljava/lang/Object;)Z" } : Jvm.MethodName)) ∈ lw_all := lw_g (lw_at lw_m2 155 rfl) rfl
theorem q629 : (Jvm.Cond.selects "Scrutineery$Plan" ({ cls := "java/lang/Object", name := "getClass", desc := "()Ljava/lang/Class;" } : Jvm.MethodName) ({ cls := "java/lang/Object", name := "getClass", desc := "()Ljava/lang/Class;" } : Jvm.MethodName)) ∈ lw_all := lw_g (lw_at lw_m3 39 rfl) rfl
theorem q1904 : (Jvm.Cond.instantiable "Scrutineery$Plan" (5 : Nat)) ∈ lw_all := lw_g (lw_at lw_m8 114 rfl) rfl
theorem q1910 : (Jvm.Cond.instanceMethod ({ cls := "Scrutineery$Plan", name := "<init>", desc := "(LScrutineery$Event;III)V" } : Jvm.MethodName)) ∈ lw_all := lw_g (lw_at lw_m8 120 rfl) rfl
theorem q1911 : (Jvm.Cond.code ({ cls := "Scrutineery$Plan", name := "<init>", desc := "(LScrutineery$Event;III)V" } : Jvm.MethodName) prog_14_method_1_code (5 : Nat) (Option.none : Option Jvm.ClassFile.FieldType)) ∈ lw_all := lw_g (lw_at lw_m8 121 rfl) rfl
theorem q1912 : (Jvm.Cond.methodLink "Scrutineery$Plan" (1 : Nat) ({ cls := "java/lang/Object", name := "<init>", desc := "()V" } : Jvm.MethodName)) ∈ lw_all := lw_g (lw_at lw_m8 122 rfl) rfl
theorem q1913 : (Jvm.Cond.fieldLink "Scrutineery$Plan" (7 : Nat) "Scrutineery$Plan" "event" "LScrutineery$Event;") ∈ lw_all := lw_g (lw_at lw_m8 123 rfl) rfl
theorem q1915 : (Jvm.Cond.fieldLink "Scrutineery$Plan" (13 : Nat) "Scrutineery$Plan" "floor" "I") ∈ lw_all := lw_g (lw_at lw_m8 125 rfl) rfl
theorem q1917 : (Jvm.Cond.fieldLink "Scrutineery$Plan" (17 : Nat) "Scrutineery$Plan" "takes" "I") ∈ lw_all := lw_g (lw_at lw_m8 127 rfl) rfl
theorem q1919 : (Jvm.Cond.fieldLink "Scrutineery$Plan" (20 : Nat) "Scrutineery$Plan" "dancers" "I") ∈ lw_all := lw_g (lw_at lw_m8 129 rfl) rfl
theorem q1922 : (Jvm.Cond.laysFinal "Scrutineery$Plan" "Scrutineery$Plan" "event" "LScrutineery$Event;") ∈ lw_all := lw_g (lw_at lw_m8 132 rfl) rfl
theorem q1923 : (Jvm.Cond.soleField "Scrutineery$Plan" "event") ∈ lw_all := lw_g (lw_at lw_m8 133 rfl) rfl
theorem q1924 : (Jvm.Cond.laysFinal "Scrutineery$Plan" "Scrutineery$Plan" "floor" "I") ∈ lw_all := lw_g (lw_at lw_m8 134 rfl) rfl
theorem q1925 : (Jvm.Cond.soleField "Scrutineery$Plan" "floor") ∈ lw_all := lw_g (lw_at lw_m8 135 rfl) rfl
theorem q1926 : (Jvm.Cond.laysFinal "Scrutineery$Plan" "Scrutineery$Plan" "takes" "I") ∈ lw_all := lw_g (lw_at lw_m8 136 rfl) rfl
theorem q1927 : (Jvm.Cond.soleField "Scrutineery$Plan" "takes") ∈ lw_all := lw_g (lw_at lw_m8 137 rfl) rfl
theorem q1928 : (Jvm.Cond.laysFinal "Scrutineery$Plan" "Scrutineery$Plan" "dancers" "I") ∈ lw_all := lw_g (lw_at lw_m8 138 rfl) rfl
theorem q1929 : (Jvm.Cond.soleField "Scrutineery$Plan" "dancers") ∈ lw_all := lw_g (lw_at lw_m8 139 rfl) rfl
theorem q1930 : (Jvm.Cond.lays "Scrutineery$Plan" "Scrutineery$Plan" "late" "I") ∈ lw_all := lw_g (lw_at lw_m8 140 rfl) rfl
theorem q1931 : (Jvm.Cond.soleField "Scrutineery$Plan" "late") ∈ lw_all := lw_g (lw_at lw_m8 141 rfl) rfl
theorem q1932 : (Jvm.Cond.superclass "Scrutineery$Plan" "java/lang/Object") ∈ lw_all := lw_g (lw_at lw_m8 142 rfl) rfl
theorem q2887 : (Jvm.Cond.castable "Scrutineery$Plan" "java/lang/Object") ∈ lw_tbl := lw_at lw_m12 137 rfl
theorem in_X15 : ∀ w ∈ wsX150, w ∈ lw_all := lw_in wsX150 [1922, 1924, 1926, 1928, 1930] (by decide +kernel) (by decide +kernel)
/-! Scrutineery$Event -/
set_option maxRecDepth 100000
def RX6 : String := "Scrutineery$Event"
def TX6 : u_T := fun k => match k with
  | 0 => ("Scrutineery$Event", "number", "I", true)
  | 1 => ("Scrutineery$Event", "style", "I", true)
  | 2 => ("Scrutineery$Event", "dances", "I", true)
  | 3 => ("Scrutineery$Event", "from", "I", true)
  | 4 => ("Scrutineery$Event", "to", "I", true)
  | 5 => ("Scrutineery$Event", "grade", "I", true)
  | 6 => ("Scrutineery$Event", "isProfessional", "Z", true)
  | 7 => ("Scrutineery$Event", "entries", "Ljava/util/List;", true)
  | 8 => ("Scrutineery$Event", "panels", "Ljava/util/List;", true)
  | 9 => ("Scrutineery$Event", "apart", "Ljava/util/List;", true)
  | 10 => ("Scrutineery$Event", "floor", "I", false)
  | 11 => ("Scrutineery$Event", "finalists", "I", false)
  | 12 => ("Scrutineery$Event", "fee", "I", false)
  | 13 => ("Scrutineery$Event", "strength", "I", false)
  | 14 => ("Scrutineery$Event", "changes", "I", false)
  | 15 => ("Scrutineery$Event", "hasBegun", "Z", false)
  | 16 => ("Scrutineery$Event", "isDecided", "Z", false)
  | 17 => ("Scrutineery$Event", "hasEnded", "Z", false)
  | _ => ("Scrutineery$Event", "round", "LScrutineery$Round;", false)
def tyX6 : Nat → FieldType := fun k => match k with
  | 0 => .int
  | 1 => .int
  | 2 => .int
  | 3 => .int
  | 4 => .int
  | 5 => .int
  | 6 => .boolean
  | 7 => .object "java/util/List"
  | 8 => .object "java/util/List"
  | 9 => .object "java/util/List"
  | 10 => .int
  | 11 => .int
  | 12 => .int
  | 13 => .int
  | 14 => .int
  | 15 => .boolean
  | 16 => .boolean
  | 17 => .boolean
  | _ => .object "Scrutineery$Round"
abbrev wsX60 : List Cond := u_ws RX6 TX6 19
set_option maxRecDepth 100000 in
theorem nmX6 : ∀ a, a < 19 → ∀ b, b < 19 → a ≠ b → (TX6 a).2.1 ≠ (TX6 b).2.1 := by decide +kernel
set_option maxRecDepth 100000 in
theorem tyX6_ok : ∀ k, k < 19 → parseFieldDescriptor (TX6 k).2.2.1 = some (tyX6 k) := by decide +kernel
abbrev cX6_valid : ByteArray := prog_7_method_25_code
def yX6_valid : MethodName := ⟨RX6, "valid", "()I"⟩
def dkwX6_valid_2 : List UInt8 := [167, 255, 222, 27, 172]
abbrev dktX6_valid_2 : List UInt8 := dkwX6_valid_2 ++ []
def dkwX6_valid_1 : List UInt8 := [185, 0, 117, 1, 0, 192, 0, 121, 78, 27, 45, 180, 0, 123, 153, 0, 7, 3, 167, 0, 4, 4, 96, 60]
abbrev dktX6_valid_1 : List UInt8 := dkwX6_valid_1 ++ dktX6_valid_2
def dkwX6_valid_0 : List UInt8 := [3, 60, 42, 180, 0, 12, 185, 0, 108, 1, 0, 77, 44, 185, 0, 112, 1, 0, 153, 0, 31, 44]
abbrev dktX6_valid_0 : List UInt8 := dkwX6_valid_0 ++ dktX6_valid_1
theorem dksX6_valid_0 : cX6_valid.data.toList.drop 0 = dktX6_valid_0 := by decide +kernel
theorem dksX6_valid_1 : cX6_valid.data.toList.drop 22 = dktX6_valid_1 := dk_seg dksX6_valid_0 22 rfl rfl
theorem dksX6_valid_2 : cX6_valid.data.toList.drop 46 = dktX6_valid_2 := dk_seg dksX6_valid_1 24 rfl rfl
theorem dX6_valid_0 : decode cX6_valid 0 = .ok (.iconst 0, 1) := dk_3 (dk_at dksX6_valid_0 0 rfl rfl)
theorem dX6_valid_1 : decode cX6_valid 1 = .ok (.istore_n 1, 1) := dk_60 (dk_at dksX6_valid_0 1 rfl rfl)
theorem dX6_valid_2 : decode cX6_valid 2 = .ok (.aload_n 0, 1) := dk_42 (dk_at dksX6_valid_0 2 rfl rfl)
theorem dX6_valid_3 : decode cX6_valid 3 = .ok (.getfield 12, 3) := dk_180 0 12 (dk_at dksX6_valid_0 3 rfl rfl)
theorem dX6_valid_6 : decode cX6_valid 6 = .ok (.invokeinterface 108 1, 5) := by decide +kernel
theorem dX6_valid_11 : decode cX6_valid 11 = .ok (.astore_n 2, 1) := dk_77 (dk_at dksX6_valid_0 11 rfl rfl)
theorem dX6_valid_12 : decode cX6_valid 12 = .ok (.aload_n 2, 1) := dk_44 (dk_at dksX6_valid_0 12 rfl rfl)
theorem dX6_valid_13 : decode cX6_valid 13 = .ok (.invokeinterface 112 1, 5) := by decide +kernel
theorem dX6_valid_18 : decode cX6_valid 18 = .ok (.ifCond .eq 31, 3) := dk_153 0 31 (dk_at dksX6_valid_0 18 rfl rfl)
theorem dX6_valid_21 : decode cX6_valid 21 = .ok (.aload_n 2, 1) := dk_44 (dk_at dksX6_valid_0 21 rfl rfl)
theorem dX6_valid_22 : decode cX6_valid 22 = .ok (.invokeinterface 117 1, 5) := by decide +kernel
theorem dX6_valid_27 : decode cX6_valid 27 = .ok (.checkcast 121, 3) := dk_192 0 121 (dk_at dksX6_valid_1 5 rfl rfl)
theorem dX6_valid_30 : decode cX6_valid 30 = .ok (.astore_n 3, 1) := dk_78 (dk_at dksX6_valid_1 8 rfl rfl)
theorem dX6_valid_31 : decode cX6_valid 31 = .ok (.iload_n 1, 1) := dk_27 (dk_at dksX6_valid_1 9 rfl rfl)
theorem dX6_valid_32 : decode cX6_valid 32 = .ok (.aload_n 3, 1) := dk_45 (dk_at dksX6_valid_1 10 rfl rfl)
theorem dX6_valid_33 : decode cX6_valid 33 = .ok (.getfield 123, 3) := dk_180 0 123 (dk_at dksX6_valid_1 11 rfl rfl)
theorem dX6_valid_36 : decode cX6_valid 36 = .ok (.ifCond .eq 7, 3) := dk_153 0 7 (dk_at dksX6_valid_1 14 rfl rfl)
theorem dX6_valid_39 : decode cX6_valid 39 = .ok (.iconst 0, 1) := dk_3 (dk_at dksX6_valid_1 17 rfl rfl)
theorem dX6_valid_40 : decode cX6_valid 40 = .ok (.goto 4, 3) := dk_167 0 4 (dk_at dksX6_valid_1 18 rfl rfl)
theorem dX6_valid_43 : decode cX6_valid 43 = .ok (.iconst 1, 1) := dk_4 (dk_at dksX6_valid_1 21 rfl rfl)
theorem dX6_valid_44 : decode cX6_valid 44 = .ok (.iadd, 1) := dk_96 (dk_at dksX6_valid_1 22 rfl rfl)
theorem dX6_valid_45 : decode cX6_valid 45 = .ok (.istore_n 1, 1) := dk_60 (dk_at dksX6_valid_1 23 rfl rfl)
theorem dX6_valid_46 : decode cX6_valid 46 = .ok (.goto (-34), 3) := dk_167 255 222 (dk_at dksX6_valid_2 0 rfl rfl)
theorem dX6_valid_49 : decode cX6_valid 49 = .ok (.iload_n 1, 1) := dk_27 (dk_at dksX6_valid_2 3 rfl rfl)
theorem dX6_valid_50 : decode cX6_valid 50 = .ok (.ireturn, 1) := dk_172 (dk_at dksX6_valid_2 4 rfl rfl)
abbrev cX6_allocated : ByteArray := prog_7_method_29_code
def yX6_allocated : MethodName := ⟨RX6, "allocated", "(I)[I"⟩
def dkwX6_allocated_14 : List UInt8 := [185, 0, 249, 2, 0, 54, 10, 167, 255, 63, 132, 5, 1, 167, 254, 205, 45, 176]
abbrev dktX6_allocated_14 : List UInt8 := dkwX6_allocated_14 ++ []
def dkwX6_allocated_13 : List UInt8 := [185, 0, 76, 1, 0, 160, 0, 6, 167, 0, 22, 25, 6, 25, 9, 186, 1, 58, 0, 0]
abbrev dktX6_allocated_13 : List UInt8 := dkwX6_allocated_13 ++ dktX6_allocated_14
def dkwX6_allocated_12 : List UInt8 := [21, 4, 25, 9, 185, 0, 76, 1, 0, 96, 54, 4, 25, 9, 185, 0, 76, 1, 0, 25, 6]
abbrev dktX6_allocated_12 : List UInt8 := dkwX6_allocated_12 ++ dktX6_allocated_13
def dkwX6_allocated_11 : List UInt8 := [185, 1, 54, 2, 0, 5, 21, 4, 104, 25, 9, 185, 0, 76, 1, 0, 96, 4, 100, 79, 167, 255, 204]
abbrev dktX6_allocated_11 : List UInt8 := dkwX6_allocated_11 ++ dktX6_allocated_12
def dkwX6_allocated_10 : List UInt8 := [185, 0, 117, 1, 0, 192, 0, 121, 58, 11, 45, 42, 180, 0, 39, 180, 0, 75, 25, 11]
abbrev dktX6_allocated_10 : List UInt8 := dkwX6_allocated_10 ++ dktX6_allocated_11
def dkwX6_allocated_9 : List UInt8 := [58, 9, 25, 9, 185, 0, 108, 1, 0, 58, 10, 25, 10, 185, 0, 112, 1, 0, 153, 0, 48, 25, 10]
abbrev dktX6_allocated_9 : List UInt8 := dkwX6_allocated_9 ++ dktX6_allocated_10
def dkwX6_allocated_8 : List UInt8 := [25, 8, 42, 27, 21, 10, 186, 1, 53, 0, 0, 184, 0, 203, 58, 8, 132, 9, 1, 167, 255, 200, 25, 8]
abbrev dktX6_allocated_8 : List UInt8 := dkwX6_allocated_8 ++ dktX6_allocated_9
def dkwX6_allocated_7 : List UInt8 := [164, 0, 45, 21, 9, 54, 10, 25, 8, 42, 27, 21, 10, 186, 1, 50, 0, 0, 184, 0, 203, 58, 8]
abbrev dktX6_allocated_7 : List UInt8 := dkwX6_allocated_7 ++ dktX6_allocated_8
def dkwX6_allocated_6 : List UInt8 := [25, 6, 58, 8, 21, 5, 54, 9, 21, 9, 28, 163, 0, 56, 25, 8, 185, 0, 76, 1, 0, 4]
abbrev dktX6_allocated_6 : List UInt8 := dkwX6_allocated_6 ++ dktX6_allocated_7
def dkwX6_allocated_5 : List UInt8 := [185, 0, 65, 2, 0, 126, 54, 7, 132, 8, 1, 167, 255, 172, 25, 6, 185, 0, 211, 1, 0, 154, 0, 189]
abbrev dktX6_allocated_5 : List UInt8 := dkwX6_allocated_5 ++ dktX6_allocated_6
def dkwX6_allocated_4 : List UInt8 := [164, 0, 32, 21, 7, 25, 6, 42, 180, 0, 39, 180, 0, 75, 21, 8, 185, 0, 104, 2, 0, 192, 0, 121]
abbrev dktX6_allocated_4 : List UInt8 := dkwX6_allocated_4 ++ dktX6_allocated_5
def dkwX6_allocated_3 : List UInt8 := [185, 0, 104, 2, 0, 192, 0, 121, 21, 5, 182, 0, 157, 104, 42, 27, 182, 0, 145, 185, 0, 76, 1, 0]
abbrev dktX6_allocated_3 : List UInt8 := dkwX6_allocated_3 ++ dktX6_allocated_4
def dkwX6_allocated_2 : List UInt8 := [162, 0, 84, 45, 21, 8, 46, 154, 0, 71, 5, 42, 27, 42, 180, 0, 39, 180, 0, 75, 21, 8]
abbrev dktX6_allocated_2 : List UInt8 := dkwX6_allocated_2 ++ dktX6_allocated_3
def dkwX6_allocated_1 : List UInt8 := [21, 5, 28, 163, 1, 51, 187, 0, 9, 89, 183, 0, 11, 58, 6, 4, 54, 7, 3, 54, 8, 21, 8, 28]
abbrev dktX6_allocated_1 : List UInt8 := dkwX6_allocated_1 ++ dktX6_allocated_2
def dkwX6_allocated_0 : List UInt8 := [42, 180, 0, 39, 180, 0, 75, 185, 0, 76, 1, 0, 61, 28, 188, 10, 78, 4, 54, 4, 4, 54, 5]
abbrev dktX6_allocated_0 : List UInt8 := dkwX6_allocated_0 ++ dktX6_allocated_1
theorem dksX6_allocated_0 : cX6_allocated.data.toList.drop 0 = dktX6_allocated_0 := by decide +kernel
theorem dksX6_allocated_1 : cX6_allocated.data.toList.drop 23 = dktX6_allocated_1 := dk_seg dksX6_allocated_0 23 rfl rfl
theorem dksX6_allocated_2 : cX6_allocated.data.toList.drop 47 = dktX6_allocated_2 := dk_seg dksX6_allocated_1 24 rfl rfl
theorem dksX6_allocated_3 : cX6_allocated.data.toList.drop 69 = dktX6_allocated_3 := dk_seg dksX6_allocated_2 22 rfl rfl
theorem dksX6_allocated_4 : cX6_allocated.data.toList.drop 93 = dktX6_allocated_4 := dk_seg dksX6_allocated_3 24 rfl rfl
theorem dksX6_allocated_5 : cX6_allocated.data.toList.drop 117 = dktX6_allocated_5 := dk_seg dksX6_allocated_4 24 rfl rfl
theorem dksX6_allocated_6 : cX6_allocated.data.toList.drop 141 = dktX6_allocated_6 := dk_seg dksX6_allocated_5 24 rfl rfl
theorem dksX6_allocated_7 : cX6_allocated.data.toList.drop 163 = dktX6_allocated_7 := dk_seg dksX6_allocated_6 22 rfl rfl
theorem dksX6_allocated_8 : cX6_allocated.data.toList.drop 186 = dktX6_allocated_8 := dk_seg dksX6_allocated_7 23 rfl rfl
theorem dksX6_allocated_9 : cX6_allocated.data.toList.drop 210 = dktX6_allocated_9 := dk_seg dksX6_allocated_8 24 rfl rfl
theorem dksX6_allocated_10 : cX6_allocated.data.toList.drop 233 = dktX6_allocated_10 := dk_seg dksX6_allocated_9 23 rfl rfl
theorem dksX6_allocated_11 : cX6_allocated.data.toList.drop 253 = dktX6_allocated_11 := dk_seg dksX6_allocated_10 20 rfl rfl
theorem dksX6_allocated_12 : cX6_allocated.data.toList.drop 276 = dktX6_allocated_12 := dk_seg dksX6_allocated_11 23 rfl rfl
theorem dksX6_allocated_13 : cX6_allocated.data.toList.drop 297 = dktX6_allocated_13 := dk_seg dksX6_allocated_12 21 rfl rfl
theorem dksX6_allocated_14 : cX6_allocated.data.toList.drop 317 = dktX6_allocated_14 := dk_seg dksX6_allocated_13 20 rfl rfl
theorem dX6_allocated_0 : decode cX6_allocated 0 = .ok (.aload_n 0, 1) := dk_42 (dk_at dksX6_allocated_0 0 rfl rfl)
theorem dX6_allocated_1 : decode cX6_allocated 1 = .ok (.getfield 39, 3) := dk_180 0 39 (dk_at dksX6_allocated_0 1 rfl rfl)
theorem dX6_allocated_4 : decode cX6_allocated 4 = .ok (.getfield 75, 3) := dk_180 0 75 (dk_at dksX6_allocated_0 4 rfl rfl)
theorem dX6_allocated_7 : decode cX6_allocated 7 = .ok (.invokeinterface 76 1, 5) := by decide +kernel
theorem dX6_allocated_12 : decode cX6_allocated 12 = .ok (.istore_n 2, 1) := dk_61 (dk_at dksX6_allocated_0 12 rfl rfl)
theorem dX6_allocated_13 : decode cX6_allocated 13 = .ok (.iload_n 2, 1) := dk_28 (dk_at dksX6_allocated_0 13 rfl rfl)
theorem dX6_allocated_14 : decode cX6_allocated 14 = .ok (.newarray .int, 2) := dk_188_10 (dk_at dksX6_allocated_0 14 rfl rfl)
theorem dX6_allocated_16 : decode cX6_allocated 16 = .ok (.astore_n 3, 1) := dk_78 (dk_at dksX6_allocated_0 16 rfl rfl)
theorem dX6_allocated_17 : decode cX6_allocated 17 = .ok (.iconst 1, 1) := dk_4 (dk_at dksX6_allocated_0 17 rfl rfl)
theorem dX6_allocated_18 : decode cX6_allocated 18 = .ok (.istore 4, 2) := dk_54 4 (dk_at dksX6_allocated_0 18 rfl rfl)
theorem dX6_allocated_20 : decode cX6_allocated 20 = .ok (.iconst 1, 1) := dk_4 (dk_at dksX6_allocated_0 20 rfl rfl)
theorem dX6_allocated_21 : decode cX6_allocated 21 = .ok (.istore 5, 2) := dk_54 5 (dk_at dksX6_allocated_0 21 rfl rfl)
theorem dX6_allocated_23 : decode cX6_allocated 23 = .ok (.iload 5, 2) := dk_21 5 (dk_at dksX6_allocated_1 0 rfl rfl)
theorem dX6_allocated_25 : decode cX6_allocated 25 = .ok (.iload_n 2, 1) := dk_28 (dk_at dksX6_allocated_1 2 rfl rfl)
theorem dX6_allocated_26 : decode cX6_allocated 26 = .ok (.if_icmp .gt 307, 3) := dk_163 1 51 (dk_at dksX6_allocated_1 3 rfl rfl)
theorem dX6_allocated_29 : decode cX6_allocated 29 = .ok (.new 9, 3) := dk_187 0 9 (dk_at dksX6_allocated_1 6 rfl rfl)
theorem dX6_allocated_32 : decode cX6_allocated 32 = .ok (.dup, 1) := dk_89 (dk_at dksX6_allocated_1 9 rfl rfl)
theorem dX6_allocated_33 : decode cX6_allocated 33 = .ok (.invokespecial 11, 3) := dk_183 0 11 (dk_at dksX6_allocated_1 10 rfl rfl)
theorem dX6_allocated_36 : decode cX6_allocated 36 = .ok (.astore 6, 2) := dk_58 6 (dk_at dksX6_allocated_1 13 rfl rfl)
theorem dX6_allocated_38 : decode cX6_allocated 38 = .ok (.iconst 1, 1) := dk_4 (dk_at dksX6_allocated_1 15 rfl rfl)
theorem dX6_allocated_39 : decode cX6_allocated 39 = .ok (.istore 7, 2) := dk_54 7 (dk_at dksX6_allocated_1 16 rfl rfl)
theorem dX6_allocated_41 : decode cX6_allocated 41 = .ok (.iconst 0, 1) := dk_3 (dk_at dksX6_allocated_1 18 rfl rfl)
theorem dX6_allocated_42 : decode cX6_allocated 42 = .ok (.istore 8, 2) := dk_54 8 (dk_at dksX6_allocated_1 19 rfl rfl)
theorem dX6_allocated_44 : decode cX6_allocated 44 = .ok (.iload 8, 2) := dk_21 8 (dk_at dksX6_allocated_1 21 rfl rfl)
theorem dX6_allocated_46 : decode cX6_allocated 46 = .ok (.iload_n 2, 1) := dk_28 (dk_at dksX6_allocated_1 23 rfl rfl)
theorem dX6_allocated_47 : decode cX6_allocated 47 = .ok (.if_icmp .ge 84, 3) := dk_162 0 84 (dk_at dksX6_allocated_2 0 rfl rfl)
theorem dX6_allocated_50 : decode cX6_allocated 50 = .ok (.aload_n 3, 1) := dk_45 (dk_at dksX6_allocated_2 3 rfl rfl)
theorem dX6_allocated_51 : decode cX6_allocated 51 = .ok (.iload 8, 2) := dk_21 8 (dk_at dksX6_allocated_2 4 rfl rfl)
theorem dX6_allocated_53 : decode cX6_allocated 53 = .ok (.iaload, 1) := dk_46 (dk_at dksX6_allocated_2 6 rfl rfl)
theorem dX6_allocated_54 : decode cX6_allocated 54 = .ok (.ifCond .ne 71, 3) := dk_154 0 71 (dk_at dksX6_allocated_2 7 rfl rfl)
theorem dX6_allocated_57 : decode cX6_allocated 57 = .ok (.iconst 2, 1) := dk_5 (dk_at dksX6_allocated_2 10 rfl rfl)
theorem dX6_allocated_58 : decode cX6_allocated 58 = .ok (.aload_n 0, 1) := dk_42 (dk_at dksX6_allocated_2 11 rfl rfl)
theorem dX6_allocated_59 : decode cX6_allocated 59 = .ok (.iload_n 1, 1) := dk_27 (dk_at dksX6_allocated_2 12 rfl rfl)
theorem dX6_allocated_60 : decode cX6_allocated 60 = .ok (.aload_n 0, 1) := dk_42 (dk_at dksX6_allocated_2 13 rfl rfl)
theorem dX6_allocated_61 : decode cX6_allocated 61 = .ok (.getfield 39, 3) := dk_180 0 39 (dk_at dksX6_allocated_2 14 rfl rfl)
theorem dX6_allocated_64 : decode cX6_allocated 64 = .ok (.getfield 75, 3) := dk_180 0 75 (dk_at dksX6_allocated_2 17 rfl rfl)
theorem dX6_allocated_67 : decode cX6_allocated 67 = .ok (.iload 8, 2) := dk_21 8 (dk_at dksX6_allocated_2 20 rfl rfl)
theorem dX6_allocated_69 : decode cX6_allocated 69 = .ok (.invokeinterface 104 2, 5) := by decide +kernel
theorem dX6_allocated_74 : decode cX6_allocated 74 = .ok (.checkcast 121, 3) := dk_192 0 121 (dk_at dksX6_allocated_3 5 rfl rfl)
theorem dX6_allocated_77 : decode cX6_allocated 77 = .ok (.iload 5, 2) := dk_21 5 (dk_at dksX6_allocated_3 8 rfl rfl)
theorem dX6_allocated_79 : decode cX6_allocated 79 = .ok (.invokevirtual 157, 3) := dk_182 0 157 (dk_at dksX6_allocated_3 10 rfl rfl)
theorem dX6_allocated_82 : decode cX6_allocated 82 = .ok (.imul, 1) := dk_104 (dk_at dksX6_allocated_3 13 rfl rfl)
theorem dX6_allocated_83 : decode cX6_allocated 83 = .ok (.aload_n 0, 1) := dk_42 (dk_at dksX6_allocated_3 14 rfl rfl)
theorem dX6_allocated_84 : decode cX6_allocated 84 = .ok (.iload_n 1, 1) := dk_27 (dk_at dksX6_allocated_3 15 rfl rfl)
theorem dX6_allocated_85 : decode cX6_allocated 85 = .ok (.invokevirtual 145, 3) := dk_182 0 145 (dk_at dksX6_allocated_3 16 rfl rfl)
theorem dX6_allocated_88 : decode cX6_allocated 88 = .ok (.invokeinterface 76 1, 5) := by decide +kernel
theorem dX6_allocated_93 : decode cX6_allocated 93 = .ok (.if_icmp .le 32, 3) := dk_164 0 32 (dk_at dksX6_allocated_4 0 rfl rfl)
theorem dX6_allocated_96 : decode cX6_allocated 96 = .ok (.iload 7, 2) := dk_21 7 (dk_at dksX6_allocated_4 3 rfl rfl)
theorem dX6_allocated_98 : decode cX6_allocated 98 = .ok (.aload 6, 2) := dk_25 6 (dk_at dksX6_allocated_4 5 rfl rfl)
theorem dX6_allocated_100 : decode cX6_allocated 100 = .ok (.aload_n 0, 1) := dk_42 (dk_at dksX6_allocated_4 7 rfl rfl)
theorem dX6_allocated_101 : decode cX6_allocated 101 = .ok (.getfield 39, 3) := dk_180 0 39 (dk_at dksX6_allocated_4 8 rfl rfl)
theorem dX6_allocated_104 : decode cX6_allocated 104 = .ok (.getfield 75, 3) := dk_180 0 75 (dk_at dksX6_allocated_4 11 rfl rfl)
theorem dX6_allocated_107 : decode cX6_allocated 107 = .ok (.iload 8, 2) := dk_21 8 (dk_at dksX6_allocated_4 14 rfl rfl)
theorem dX6_allocated_109 : decode cX6_allocated 109 = .ok (.invokeinterface 104 2, 5) := by decide +kernel
theorem dX6_allocated_114 : decode cX6_allocated 114 = .ok (.checkcast 121, 3) := dk_192 0 121 (dk_at dksX6_allocated_4 21 rfl rfl)
theorem dX6_allocated_117 : decode cX6_allocated 117 = .ok (.invokeinterface 65 2, 5) := by decide +kernel
theorem dX6_allocated_122 : decode cX6_allocated 122 = .ok (.iand, 1) := dk_126 (dk_at dksX6_allocated_5 5 rfl rfl)
theorem dX6_allocated_123 : decode cX6_allocated 123 = .ok (.istore 7, 2) := dk_54 7 (dk_at dksX6_allocated_5 6 rfl rfl)
theorem dX6_allocated_125 : decode cX6_allocated 125 = .ok (.iinc 8 1, 3) := dk_132 8 1 (dk_at dksX6_allocated_5 8 rfl rfl)
theorem dX6_allocated_128 : decode cX6_allocated 128 = .ok (.goto (-84), 3) := dk_167 255 172 (dk_at dksX6_allocated_5 11 rfl rfl)
theorem dX6_allocated_131 : decode cX6_allocated 131 = .ok (.aload 6, 2) := dk_25 6 (dk_at dksX6_allocated_5 14 rfl rfl)
theorem dX6_allocated_133 : decode cX6_allocated 133 = .ok (.invokeinterface 211 1, 5) := by decide +kernel
theorem dX6_allocated_138 : decode cX6_allocated 138 = .ok (.ifCond .ne 189, 3) := dk_154 0 189 (dk_at dksX6_allocated_5 21 rfl rfl)
theorem dX6_allocated_141 : decode cX6_allocated 141 = .ok (.aload 6, 2) := dk_25 6 (dk_at dksX6_allocated_6 0 rfl rfl)
theorem dX6_allocated_143 : decode cX6_allocated 143 = .ok (.astore 8, 2) := dk_58 8 (dk_at dksX6_allocated_6 2 rfl rfl)
theorem dX6_allocated_145 : decode cX6_allocated 145 = .ok (.iload 5, 2) := dk_21 5 (dk_at dksX6_allocated_6 4 rfl rfl)
theorem dX6_allocated_147 : decode cX6_allocated 147 = .ok (.istore 9, 2) := dk_54 9 (dk_at dksX6_allocated_6 6 rfl rfl)
theorem dX6_allocated_149 : decode cX6_allocated 149 = .ok (.iload 9, 2) := dk_21 9 (dk_at dksX6_allocated_6 8 rfl rfl)
theorem dX6_allocated_151 : decode cX6_allocated 151 = .ok (.iload_n 2, 1) := dk_28 (dk_at dksX6_allocated_6 10 rfl rfl)
theorem dX6_allocated_152 : decode cX6_allocated 152 = .ok (.if_icmp .gt 56, 3) := dk_163 0 56 (dk_at dksX6_allocated_6 11 rfl rfl)
theorem dX6_allocated_155 : decode cX6_allocated 155 = .ok (.aload 8, 2) := dk_25 8 (dk_at dksX6_allocated_6 14 rfl rfl)
theorem dX6_allocated_157 : decode cX6_allocated 157 = .ok (.invokeinterface 76 1, 5) := by decide +kernel
theorem dX6_allocated_162 : decode cX6_allocated 162 = .ok (.iconst 1, 1) := dk_4 (dk_at dksX6_allocated_6 21 rfl rfl)
theorem dX6_allocated_163 : decode cX6_allocated 163 = .ok (.if_icmp .le 45, 3) := dk_164 0 45 (dk_at dksX6_allocated_7 0 rfl rfl)
theorem dX6_allocated_166 : decode cX6_allocated 166 = .ok (.iload 9, 2) := dk_21 9 (dk_at dksX6_allocated_7 3 rfl rfl)
theorem dX6_allocated_168 : decode cX6_allocated 168 = .ok (.istore 10, 2) := dk_54 10 (dk_at dksX6_allocated_7 5 rfl rfl)
theorem dX6_allocated_170 : decode cX6_allocated 170 = .ok (.aload 8, 2) := dk_25 8 (dk_at dksX6_allocated_7 7 rfl rfl)
theorem dX6_allocated_172 : decode cX6_allocated 172 = .ok (.aload_n 0, 1) := dk_42 (dk_at dksX6_allocated_7 9 rfl rfl)
theorem dX6_allocated_173 : decode cX6_allocated 173 = .ok (.iload_n 1, 1) := dk_27 (dk_at dksX6_allocated_7 10 rfl rfl)
theorem dX6_allocated_174 : decode cX6_allocated 174 = .ok (.iload 10, 2) := dk_21 10 (dk_at dksX6_allocated_7 11 rfl rfl)
theorem dX6_allocated_176 : decode cX6_allocated 176 = .ok (.invokedynamic 306, 5) := by decide +kernel
theorem dX6_allocated_181 : decode cX6_allocated 181 = .ok (.invokestatic 203, 3) := dk_184 0 203 (dk_at dksX6_allocated_7 18 rfl rfl)
theorem dX6_allocated_184 : decode cX6_allocated 184 = .ok (.astore 8, 2) := dk_58 8 (dk_at dksX6_allocated_7 21 rfl rfl)
theorem dX6_allocated_186 : decode cX6_allocated 186 = .ok (.aload 8, 2) := dk_25 8 (dk_at dksX6_allocated_8 0 rfl rfl)
theorem dX6_allocated_188 : decode cX6_allocated 188 = .ok (.aload_n 0, 1) := dk_42 (dk_at dksX6_allocated_8 2 rfl rfl)
theorem dX6_allocated_189 : decode cX6_allocated 189 = .ok (.iload_n 1, 1) := dk_27 (dk_at dksX6_allocated_8 3 rfl rfl)
theorem dX6_allocated_190 : decode cX6_allocated 190 = .ok (.iload 10, 2) := dk_21 10 (dk_at dksX6_allocated_8 4 rfl rfl)
theorem dX6_allocated_192 : decode cX6_allocated 192 = .ok (.invokedynamic 309, 5) := by decide +kernel
theorem dX6_allocated_197 : decode cX6_allocated 197 = .ok (.invokestatic 203, 3) := dk_184 0 203 (dk_at dksX6_allocated_8 11 rfl rfl)
theorem dX6_allocated_200 : decode cX6_allocated 200 = .ok (.astore 8, 2) := dk_58 8 (dk_at dksX6_allocated_8 14 rfl rfl)
theorem dX6_allocated_202 : decode cX6_allocated 202 = .ok (.iinc 9 1, 3) := dk_132 9 1 (dk_at dksX6_allocated_8 16 rfl rfl)
theorem dX6_allocated_205 : decode cX6_allocated 205 = .ok (.goto (-56), 3) := dk_167 255 200 (dk_at dksX6_allocated_8 19 rfl rfl)
theorem dX6_allocated_208 : decode cX6_allocated 208 = .ok (.aload 8, 2) := dk_25 8 (dk_at dksX6_allocated_8 22 rfl rfl)
theorem dX6_allocated_210 : decode cX6_allocated 210 = .ok (.astore 9, 2) := dk_58 9 (dk_at dksX6_allocated_9 0 rfl rfl)
theorem dX6_allocated_212 : decode cX6_allocated 212 = .ok (.aload 9, 2) := dk_25 9 (dk_at dksX6_allocated_9 2 rfl rfl)
theorem dX6_allocated_214 : decode cX6_allocated 214 = .ok (.invokeinterface 108 1, 5) := by decide +kernel
theorem dX6_allocated_219 : decode cX6_allocated 219 = .ok (.astore 10, 2) := dk_58 10 (dk_at dksX6_allocated_9 9 rfl rfl)
theorem dX6_allocated_221 : decode cX6_allocated 221 = .ok (.aload 10, 2) := dk_25 10 (dk_at dksX6_allocated_9 11 rfl rfl)
theorem dX6_allocated_223 : decode cX6_allocated 223 = .ok (.invokeinterface 112 1, 5) := by decide +kernel
theorem dX6_allocated_228 : decode cX6_allocated 228 = .ok (.ifCond .eq 48, 3) := dk_153 0 48 (dk_at dksX6_allocated_9 18 rfl rfl)
theorem dX6_allocated_231 : decode cX6_allocated 231 = .ok (.aload 10, 2) := dk_25 10 (dk_at dksX6_allocated_9 21 rfl rfl)
theorem dX6_allocated_233 : decode cX6_allocated 233 = .ok (.invokeinterface 117 1, 5) := by decide +kernel
theorem dX6_allocated_238 : decode cX6_allocated 238 = .ok (.checkcast 121, 3) := dk_192 0 121 (dk_at dksX6_allocated_10 5 rfl rfl)
theorem dX6_allocated_241 : decode cX6_allocated 241 = .ok (.astore 11, 2) := dk_58 11 (dk_at dksX6_allocated_10 8 rfl rfl)
theorem dX6_allocated_243 : decode cX6_allocated 243 = .ok (.aload_n 3, 1) := dk_45 (dk_at dksX6_allocated_10 10 rfl rfl)
theorem dX6_allocated_244 : decode cX6_allocated 244 = .ok (.aload_n 0, 1) := dk_42 (dk_at dksX6_allocated_10 11 rfl rfl)
theorem dX6_allocated_245 : decode cX6_allocated 245 = .ok (.getfield 39, 3) := dk_180 0 39 (dk_at dksX6_allocated_10 12 rfl rfl)
theorem dX6_allocated_248 : decode cX6_allocated 248 = .ok (.getfield 75, 3) := dk_180 0 75 (dk_at dksX6_allocated_10 15 rfl rfl)
theorem dX6_allocated_251 : decode cX6_allocated 251 = .ok (.aload 11, 2) := dk_25 11 (dk_at dksX6_allocated_10 18 rfl rfl)
theorem dX6_allocated_253 : decode cX6_allocated 253 = .ok (.invokeinterface 310 2, 5) := by decide +kernel
theorem dX6_allocated_258 : decode cX6_allocated 258 = .ok (.iconst 2, 1) := dk_5 (dk_at dksX6_allocated_11 5 rfl rfl)
theorem dX6_allocated_259 : decode cX6_allocated 259 = .ok (.iload 4, 2) := dk_21 4 (dk_at dksX6_allocated_11 6 rfl rfl)
theorem dX6_allocated_261 : decode cX6_allocated 261 = .ok (.imul, 1) := dk_104 (dk_at dksX6_allocated_11 8 rfl rfl)
theorem dX6_allocated_262 : decode cX6_allocated 262 = .ok (.aload 9, 2) := dk_25 9 (dk_at dksX6_allocated_11 9 rfl rfl)
theorem dX6_allocated_264 : decode cX6_allocated 264 = .ok (.invokeinterface 76 1, 5) := by decide +kernel
theorem dX6_allocated_269 : decode cX6_allocated 269 = .ok (.iadd, 1) := dk_96 (dk_at dksX6_allocated_11 16 rfl rfl)
theorem dX6_allocated_270 : decode cX6_allocated 270 = .ok (.iconst 1, 1) := dk_4 (dk_at dksX6_allocated_11 17 rfl rfl)
theorem dX6_allocated_271 : decode cX6_allocated 271 = .ok (.isub, 1) := dk_100 (dk_at dksX6_allocated_11 18 rfl rfl)
theorem dX6_allocated_272 : decode cX6_allocated 272 = .ok (.iastore, 1) := dk_79 (dk_at dksX6_allocated_11 19 rfl rfl)
theorem dX6_allocated_273 : decode cX6_allocated 273 = .ok (.goto (-52), 3) := dk_167 255 204 (dk_at dksX6_allocated_11 20 rfl rfl)
theorem dX6_allocated_276 : decode cX6_allocated 276 = .ok (.iload 4, 2) := dk_21 4 (dk_at dksX6_allocated_12 0 rfl rfl)
theorem dX6_allocated_278 : decode cX6_allocated 278 = .ok (.aload 9, 2) := dk_25 9 (dk_at dksX6_allocated_12 2 rfl rfl)
theorem dX6_allocated_280 : decode cX6_allocated 280 = .ok (.invokeinterface 76 1, 5) := by decide +kernel
theorem dX6_allocated_285 : decode cX6_allocated 285 = .ok (.iadd, 1) := dk_96 (dk_at dksX6_allocated_12 9 rfl rfl)
theorem dX6_allocated_286 : decode cX6_allocated 286 = .ok (.istore 4, 2) := dk_54 4 (dk_at dksX6_allocated_12 10 rfl rfl)
theorem dX6_allocated_288 : decode cX6_allocated 288 = .ok (.aload 9, 2) := dk_25 9 (dk_at dksX6_allocated_12 12 rfl rfl)
theorem dX6_allocated_290 : decode cX6_allocated 290 = .ok (.invokeinterface 76 1, 5) := by decide +kernel
theorem dX6_allocated_295 : decode cX6_allocated 295 = .ok (.aload 6, 2) := dk_25 6 (dk_at dksX6_allocated_12 19 rfl rfl)
theorem dX6_allocated_297 : decode cX6_allocated 297 = .ok (.invokeinterface 76 1, 5) := by decide +kernel
theorem dX6_allocated_302 : decode cX6_allocated 302 = .ok (.if_icmp .ne 6, 3) := dk_160 0 6 (dk_at dksX6_allocated_13 5 rfl rfl)
theorem dX6_allocated_305 : decode cX6_allocated 305 = .ok (.goto 22, 3) := dk_167 0 22 (dk_at dksX6_allocated_13 8 rfl rfl)
theorem dX6_allocated_308 : decode cX6_allocated 308 = .ok (.aload 6, 2) := dk_25 6 (dk_at dksX6_allocated_13 11 rfl rfl)
theorem dX6_allocated_310 : decode cX6_allocated 310 = .ok (.aload 9, 2) := dk_25 9 (dk_at dksX6_allocated_13 13 rfl rfl)
theorem dX6_allocated_312 : decode cX6_allocated 312 = .ok (.invokedynamic 314, 5) := by decide +kernel
theorem dX6_allocated_317 : decode cX6_allocated 317 = .ok (.invokeinterface 249 2, 5) := by decide +kernel
theorem dX6_allocated_322 : decode cX6_allocated 322 = .ok (.istore 10, 2) := dk_54 10 (dk_at dksX6_allocated_14 5 rfl rfl)
theorem dX6_allocated_324 : decode cX6_allocated 324 = .ok (.goto (-193), 3) := dk_167 255 63 (dk_at dksX6_allocated_14 7 rfl rfl)
theorem dX6_allocated_327 : decode cX6_allocated 327 = .ok (.iinc 5 1, 3) := dk_132 5 1 (dk_at dksX6_allocated_14 10 rfl rfl)
theorem dX6_allocated_330 : decode cX6_allocated 330 = .ok (.goto (-307), 3) := dk_167 254 205 (dk_at dksX6_allocated_14 13 rfl rfl)
theorem dX6_allocated_333 : decode cX6_allocated 333 = .ok (.aload_n 3, 1) := dk_45 (dk_at dksX6_allocated_14 16 rfl rfl)
theorem dX6_allocated_334 : decode cX6_allocated 334 = .ok (.areturn, 1) := dk_176 (dk_at dksX6_allocated_14 17 rfl rfl)
abbrev cX6_count : ByteArray := prog_7_method_11_code
def yX6_count : MethodName := ⟨RX6, "count", "(ILScrutineery$Entry;I)I"⟩
def dkwX6_count_2 : List UInt8 := [132, 5, 1, 167, 255, 213, 21, 4, 172]
abbrev dktX6_count_2 : List UInt8 := dkwX6_count_2 ++ []
def dkwX6_count_1 : List UInt8 := [180, 0, 39, 27, 21, 5, 44, 182, 0, 153, 29, 163, 0, 7, 4, 167, 0, 4, 3, 96, 54, 4]
abbrev dktX6_count_1 : List UInt8 := dkwX6_count_1 ++ dktX6_count_2
def dkwX6_count_0 : List UInt8 := [3, 54, 4, 3, 54, 5, 21, 5, 42, 27, 182, 0, 145, 185, 0, 76, 1, 0, 162, 0, 34, 21, 4, 42]
abbrev dktX6_count_0 : List UInt8 := dkwX6_count_0 ++ dktX6_count_1
theorem dksX6_count_0 : cX6_count.data.toList.drop 0 = dktX6_count_0 := by decide +kernel
theorem dksX6_count_1 : cX6_count.data.toList.drop 24 = dktX6_count_1 := dk_seg dksX6_count_0 24 rfl rfl
theorem dksX6_count_2 : cX6_count.data.toList.drop 46 = dktX6_count_2 := dk_seg dksX6_count_1 22 rfl rfl
theorem dX6_count_0 : decode cX6_count 0 = .ok (.iconst 0, 1) := dk_3 (dk_at dksX6_count_0 0 rfl rfl)
theorem dX6_count_1 : decode cX6_count 1 = .ok (.istore 4, 2) := dk_54 4 (dk_at dksX6_count_0 1 rfl rfl)
theorem dX6_count_3 : decode cX6_count 3 = .ok (.iconst 0, 1) := dk_3 (dk_at dksX6_count_0 3 rfl rfl)
theorem dX6_count_4 : decode cX6_count 4 = .ok (.istore 5, 2) := dk_54 5 (dk_at dksX6_count_0 4 rfl rfl)
theorem dX6_count_6 : decode cX6_count 6 = .ok (.iload 5, 2) := dk_21 5 (dk_at dksX6_count_0 6 rfl rfl)
theorem dX6_count_8 : decode cX6_count 8 = .ok (.aload_n 0, 1) := dk_42 (dk_at dksX6_count_0 8 rfl rfl)
theorem dX6_count_9 : decode cX6_count 9 = .ok (.iload_n 1, 1) := dk_27 (dk_at dksX6_count_0 9 rfl rfl)
theorem dX6_count_10 : decode cX6_count 10 = .ok (.invokevirtual 145, 3) := dk_182 0 145 (dk_at dksX6_count_0 10 rfl rfl)
theorem dX6_count_13 : decode cX6_count 13 = .ok (.invokeinterface 76 1, 5) := by decide +kernel
theorem dX6_count_18 : decode cX6_count 18 = .ok (.if_icmp .ge 34, 3) := dk_162 0 34 (dk_at dksX6_count_0 18 rfl rfl)
theorem dX6_count_21 : decode cX6_count 21 = .ok (.iload 4, 2) := dk_21 4 (dk_at dksX6_count_0 21 rfl rfl)
theorem dX6_count_23 : decode cX6_count 23 = .ok (.aload_n 0, 1) := dk_42 (dk_at dksX6_count_0 23 rfl rfl)
theorem dX6_count_24 : decode cX6_count 24 = .ok (.getfield 39, 3) := dk_180 0 39 (dk_at dksX6_count_1 0 rfl rfl)
theorem dX6_count_27 : decode cX6_count 27 = .ok (.iload_n 1, 1) := dk_27 (dk_at dksX6_count_1 3 rfl rfl)
theorem dX6_count_28 : decode cX6_count 28 = .ok (.iload 5, 2) := dk_21 5 (dk_at dksX6_count_1 4 rfl rfl)
theorem dX6_count_30 : decode cX6_count 30 = .ok (.aload_n 2, 1) := dk_44 (dk_at dksX6_count_1 6 rfl rfl)
theorem dX6_count_31 : decode cX6_count 31 = .ok (.invokevirtual 153, 3) := dk_182 0 153 (dk_at dksX6_count_1 7 rfl rfl)
theorem dX6_count_34 : decode cX6_count 34 = .ok (.iload_n 3, 1) := dk_29 (dk_at dksX6_count_1 10 rfl rfl)
theorem dX6_count_35 : decode cX6_count 35 = .ok (.if_icmp .gt 7, 3) := dk_163 0 7 (dk_at dksX6_count_1 11 rfl rfl)
theorem dX6_count_38 : decode cX6_count 38 = .ok (.iconst 1, 1) := dk_4 (dk_at dksX6_count_1 14 rfl rfl)
theorem dX6_count_39 : decode cX6_count 39 = .ok (.goto 4, 3) := dk_167 0 4 (dk_at dksX6_count_1 15 rfl rfl)
theorem dX6_count_42 : decode cX6_count 42 = .ok (.iconst 0, 1) := dk_3 (dk_at dksX6_count_1 18 rfl rfl)
theorem dX6_count_43 : decode cX6_count 43 = .ok (.iadd, 1) := dk_96 (dk_at dksX6_count_1 19 rfl rfl)
theorem dX6_count_44 : decode cX6_count 44 = .ok (.istore 4, 2) := dk_54 4 (dk_at dksX6_count_1 20 rfl rfl)
theorem dX6_count_46 : decode cX6_count 46 = .ok (.iinc 5 1, 3) := dk_132 5 1 (dk_at dksX6_count_2 0 rfl rfl)
theorem dX6_count_49 : decode cX6_count 49 = .ok (.goto (-43), 3) := dk_167 255 213 (dk_at dksX6_count_2 3 rfl rfl)
theorem dX6_count_52 : decode cX6_count 52 = .ok (.iload 4, 2) := dk_21 4 (dk_at dksX6_count_2 6 rfl rfl)
theorem dX6_count_54 : decode cX6_count 54 = .ok (.ireturn, 1) := dk_172 (dk_at dksX6_count_2 8 rfl rfl)
abbrev cX6_panel : ByteArray := prog_7_method_6_code
def yX6_panel : MethodName := ⟨RX6, "panel", "(I)Ljava/util/List;"⟩
def dkwX6_panel_0 : List UInt8 := [42, 180, 0, 18, 27, 5, 112, 185, 0, 104, 2, 0, 192, 0, 66, 176]
abbrev dktX6_panel_0 : List UInt8 := dkwX6_panel_0 ++ []
theorem dksX6_panel_0 : cX6_panel.data.toList.drop 0 = dktX6_panel_0 := by decide +kernel
theorem dX6_panel_0 : decode cX6_panel 0 = .ok (.aload_n 0, 1) := dk_42 (dk_at dksX6_panel_0 0 rfl rfl)
theorem dX6_panel_1 : decode cX6_panel 1 = .ok (.getfield 18, 3) := dk_180 0 18 (dk_at dksX6_panel_0 1 rfl rfl)
theorem dX6_panel_4 : decode cX6_panel 4 = .ok (.iload_n 1, 1) := dk_27 (dk_at dksX6_panel_0 4 rfl rfl)
theorem dX6_panel_5 : decode cX6_panel 5 = .ok (.iconst 2, 1) := dk_5 (dk_at dksX6_panel_0 5 rfl rfl)
theorem dX6_panel_6 : decode cX6_panel 6 = .ok (.irem, 1) := dk_112 (dk_at dksX6_panel_0 6 rfl rfl)
theorem dX6_panel_7 : decode cX6_panel 7 = .ok (.invokeinterface 104 2, 5) := by decide +kernel
theorem dX6_panel_12 : decode cX6_panel 12 = .ok (.checkcast 66, 3) := dk_192 0 66 (dk_at dksX6_panel_0 12 rfl rfl)
theorem dX6_panel_15 : decode cX6_panel 15 = .ok (.areturn, 1) := dk_176 (dk_at dksX6_panel_0 15 rfl rfl)
abbrev cX6_lambda_allocated_6 : ByteArray := prog_7_method_32_code
def yX6_lambda_allocated_6 : MethodName := ⟨RX6, "lambda$allocated$6", "(IILScrutineery$Entry;)I"⟩
def dkwX6_lambda_allocated_6_0 : List UInt8 := [42, 27, 45, 28, 182, 0, 157, 172]
abbrev dktX6_lambda_allocated_6_0 : List UInt8 := dkwX6_lambda_allocated_6_0 ++ []
theorem dksX6_lambda_allocated_6_0 : cX6_lambda_allocated_6.data.toList.drop 0 = dktX6_lambda_allocated_6_0 := by decide +kernel
theorem dX6_lambda_allocated_6_0 : decode cX6_lambda_allocated_6 0 = .ok (.aload_n 0, 1) := dk_42 (dk_at dksX6_lambda_allocated_6_0 0 rfl rfl)
theorem dX6_lambda_allocated_6_1 : decode cX6_lambda_allocated_6 1 = .ok (.iload_n 1, 1) := dk_27 (dk_at dksX6_lambda_allocated_6_0 1 rfl rfl)
theorem dX6_lambda_allocated_6_2 : decode cX6_lambda_allocated_6 2 = .ok (.aload_n 3, 1) := dk_45 (dk_at dksX6_lambda_allocated_6_0 2 rfl rfl)
theorem dX6_lambda_allocated_6_3 : decode cX6_lambda_allocated_6 3 = .ok (.iload_n 2, 1) := dk_28 (dk_at dksX6_lambda_allocated_6_0 3 rfl rfl)
theorem dX6_lambda_allocated_6_4 : decode cX6_lambda_allocated_6 4 = .ok (.invokevirtual 157, 3) := dk_182 0 157 (dk_at dksX6_lambda_allocated_6_0 4 rfl rfl)
theorem dX6_lambda_allocated_6_7 : decode cX6_lambda_allocated_6 7 = .ok (.ireturn, 1) := dk_172 (dk_at dksX6_lambda_allocated_6_0 7 rfl rfl)
abbrev cX6_most : ByteArray := prog_7_method_16_code
def yX6_most : MethodName := ⟨RX6, "most", "(Ljava/util/List;LScrutineery$Event$Measure;)Ljava/util/List;"⟩
def dkwX6_most_6 : List UInt8 := [44, 176]
abbrev dktX6_most_6 : List UInt8 := dkwX6_most_6 ++ []
def dkwX6_most_5 : List UInt8 := [185, 0, 190, 2, 0, 21, 4, 160, 0, 14, 29, 44, 25, 6, 185, 0, 65, 2, 0, 126, 62, 167, 255, 210]
abbrev dktX6_most_5 : List UInt8 := dkwX6_most_5 ++ dktX6_most_6
def dkwX6_most_4 : List UInt8 := [185, 0, 112, 1, 0, 153, 0, 42, 25, 5, 185, 0, 117, 1, 0, 192, 0, 121, 58, 6, 43, 25, 6]
abbrev dktX6_most_4 : List UInt8 := dkwX6_most_4 ++ dktX6_most_5
def dkwX6_most_3 : List UInt8 := [185, 0, 190, 2, 0, 184, 0, 99, 54, 4, 167, 255, 219, 42, 185, 0, 108, 1, 0, 58, 5, 25, 5]
abbrev dktX6_most_3 : List UInt8 := dkwX6_most_3 ++ dktX6_most_4
def dkwX6_most_2 : List UInt8 := [153, 0, 33, 25, 5, 185, 0, 117, 1, 0, 192, 0, 121, 58, 6, 21, 4, 43, 25, 6]
abbrev dktX6_most_2 : List UInt8 := dkwX6_most_2 ++ dktX6_most_3
def dkwX6_most_1 : List UInt8 := [185, 0, 190, 2, 0, 54, 4, 42, 185, 0, 108, 1, 0, 58, 5, 25, 5, 185, 0, 112, 1, 0]
abbrev dktX6_most_1 : List UInt8 := dkwX6_most_1 ++ dktX6_most_2
def dkwX6_most_0 : List UInt8 := [187, 0, 9, 89, 183, 0, 11, 77, 4, 62, 43, 42, 3, 185, 0, 104, 2, 0, 192, 0, 121]
abbrev dktX6_most_0 : List UInt8 := dkwX6_most_0 ++ dktX6_most_1
theorem dksX6_most_0 : cX6_most.data.toList.drop 0 = dktX6_most_0 := by decide +kernel
theorem dksX6_most_1 : cX6_most.data.toList.drop 21 = dktX6_most_1 := dk_seg dksX6_most_0 21 rfl rfl
theorem dksX6_most_2 : cX6_most.data.toList.drop 43 = dktX6_most_2 := dk_seg dksX6_most_1 22 rfl rfl
theorem dksX6_most_3 : cX6_most.data.toList.drop 63 = dktX6_most_3 := dk_seg dksX6_most_2 20 rfl rfl
theorem dksX6_most_4 : cX6_most.data.toList.drop 86 = dktX6_most_4 := dk_seg dksX6_most_3 23 rfl rfl
theorem dksX6_most_5 : cX6_most.data.toList.drop 109 = dktX6_most_5 := dk_seg dksX6_most_4 23 rfl rfl
theorem dksX6_most_6 : cX6_most.data.toList.drop 133 = dktX6_most_6 := dk_seg dksX6_most_5 24 rfl rfl
theorem dX6_most_0 : decode cX6_most 0 = .ok (.new 9, 3) := dk_187 0 9 (dk_at dksX6_most_0 0 rfl rfl)
theorem dX6_most_3 : decode cX6_most 3 = .ok (.dup, 1) := dk_89 (dk_at dksX6_most_0 3 rfl rfl)
theorem dX6_most_4 : decode cX6_most 4 = .ok (.invokespecial 11, 3) := dk_183 0 11 (dk_at dksX6_most_0 4 rfl rfl)
theorem dX6_most_7 : decode cX6_most 7 = .ok (.astore_n 2, 1) := dk_77 (dk_at dksX6_most_0 7 rfl rfl)
theorem dX6_most_8 : decode cX6_most 8 = .ok (.iconst 1, 1) := dk_4 (dk_at dksX6_most_0 8 rfl rfl)
theorem dX6_most_9 : decode cX6_most 9 = .ok (.istore_n 3, 1) := dk_62 (dk_at dksX6_most_0 9 rfl rfl)
theorem dX6_most_10 : decode cX6_most 10 = .ok (.aload_n 1, 1) := dk_43 (dk_at dksX6_most_0 10 rfl rfl)
theorem dX6_most_11 : decode cX6_most 11 = .ok (.aload_n 0, 1) := dk_42 (dk_at dksX6_most_0 11 rfl rfl)
theorem dX6_most_12 : decode cX6_most 12 = .ok (.iconst 0, 1) := dk_3 (dk_at dksX6_most_0 12 rfl rfl)
theorem dX6_most_13 : decode cX6_most 13 = .ok (.invokeinterface 104 2, 5) := by decide +kernel
theorem dX6_most_18 : decode cX6_most 18 = .ok (.checkcast 121, 3) := dk_192 0 121 (dk_at dksX6_most_0 18 rfl rfl)
theorem dX6_most_21 : decode cX6_most 21 = .ok (.invokeinterface 190 2, 5) := by decide +kernel
theorem dX6_most_26 : decode cX6_most 26 = .ok (.istore 4, 2) := dk_54 4 (dk_at dksX6_most_1 5 rfl rfl)
theorem dX6_most_28 : decode cX6_most 28 = .ok (.aload_n 0, 1) := dk_42 (dk_at dksX6_most_1 7 rfl rfl)
theorem dX6_most_29 : decode cX6_most 29 = .ok (.invokeinterface 108 1, 5) := by decide +kernel
theorem dX6_most_34 : decode cX6_most 34 = .ok (.astore 5, 2) := dk_58 5 (dk_at dksX6_most_1 13 rfl rfl)
theorem dX6_most_36 : decode cX6_most 36 = .ok (.aload 5, 2) := dk_25 5 (dk_at dksX6_most_1 15 rfl rfl)
theorem dX6_most_38 : decode cX6_most 38 = .ok (.invokeinterface 112 1, 5) := by decide +kernel
theorem dX6_most_43 : decode cX6_most 43 = .ok (.ifCond .eq 33, 3) := dk_153 0 33 (dk_at dksX6_most_2 0 rfl rfl)
theorem dX6_most_46 : decode cX6_most 46 = .ok (.aload 5, 2) := dk_25 5 (dk_at dksX6_most_2 3 rfl rfl)
theorem dX6_most_48 : decode cX6_most 48 = .ok (.invokeinterface 117 1, 5) := by decide +kernel
theorem dX6_most_53 : decode cX6_most 53 = .ok (.checkcast 121, 3) := dk_192 0 121 (dk_at dksX6_most_2 10 rfl rfl)
theorem dX6_most_56 : decode cX6_most 56 = .ok (.astore 6, 2) := dk_58 6 (dk_at dksX6_most_2 13 rfl rfl)
theorem dX6_most_58 : decode cX6_most 58 = .ok (.iload 4, 2) := dk_21 4 (dk_at dksX6_most_2 15 rfl rfl)
theorem dX6_most_60 : decode cX6_most 60 = .ok (.aload_n 1, 1) := dk_43 (dk_at dksX6_most_2 17 rfl rfl)
theorem dX6_most_61 : decode cX6_most 61 = .ok (.aload 6, 2) := dk_25 6 (dk_at dksX6_most_2 18 rfl rfl)
theorem dX6_most_63 : decode cX6_most 63 = .ok (.invokeinterface 190 2, 5) := by decide +kernel
theorem dX6_most_68 : decode cX6_most 68 = .ok (.invokestatic 99, 3) := dk_184 0 99 (dk_at dksX6_most_3 5 rfl rfl)
theorem dX6_most_71 : decode cX6_most 71 = .ok (.istore 4, 2) := dk_54 4 (dk_at dksX6_most_3 8 rfl rfl)
theorem dX6_most_73 : decode cX6_most 73 = .ok (.goto (-37), 3) := dk_167 255 219 (dk_at dksX6_most_3 10 rfl rfl)
theorem dX6_most_76 : decode cX6_most 76 = .ok (.aload_n 0, 1) := dk_42 (dk_at dksX6_most_3 13 rfl rfl)
theorem dX6_most_77 : decode cX6_most 77 = .ok (.invokeinterface 108 1, 5) := by decide +kernel
theorem dX6_most_82 : decode cX6_most 82 = .ok (.astore 5, 2) := dk_58 5 (dk_at dksX6_most_3 19 rfl rfl)
theorem dX6_most_84 : decode cX6_most 84 = .ok (.aload 5, 2) := dk_25 5 (dk_at dksX6_most_3 21 rfl rfl)
theorem dX6_most_86 : decode cX6_most 86 = .ok (.invokeinterface 112 1, 5) := by decide +kernel
theorem dX6_most_91 : decode cX6_most 91 = .ok (.ifCond .eq 42, 3) := dk_153 0 42 (dk_at dksX6_most_4 5 rfl rfl)
theorem dX6_most_94 : decode cX6_most 94 = .ok (.aload 5, 2) := dk_25 5 (dk_at dksX6_most_4 8 rfl rfl)
theorem dX6_most_96 : decode cX6_most 96 = .ok (.invokeinterface 117 1, 5) := by decide +kernel
theorem dX6_most_101 : decode cX6_most 101 = .ok (.checkcast 121, 3) := dk_192 0 121 (dk_at dksX6_most_4 15 rfl rfl)
theorem dX6_most_104 : decode cX6_most 104 = .ok (.astore 6, 2) := dk_58 6 (dk_at dksX6_most_4 18 rfl rfl)
theorem dX6_most_106 : decode cX6_most 106 = .ok (.aload_n 1, 1) := dk_43 (dk_at dksX6_most_4 20 rfl rfl)
theorem dX6_most_107 : decode cX6_most 107 = .ok (.aload 6, 2) := dk_25 6 (dk_at dksX6_most_4 21 rfl rfl)
theorem dX6_most_109 : decode cX6_most 109 = .ok (.invokeinterface 190 2, 5) := by decide +kernel
theorem dX6_most_114 : decode cX6_most 114 = .ok (.iload 4, 2) := dk_21 4 (dk_at dksX6_most_5 5 rfl rfl)
theorem dX6_most_116 : decode cX6_most 116 = .ok (.if_icmp .ne 14, 3) := dk_160 0 14 (dk_at dksX6_most_5 7 rfl rfl)
theorem dX6_most_119 : decode cX6_most 119 = .ok (.iload_n 3, 1) := dk_29 (dk_at dksX6_most_5 10 rfl rfl)
theorem dX6_most_120 : decode cX6_most 120 = .ok (.aload_n 2, 1) := dk_44 (dk_at dksX6_most_5 11 rfl rfl)
theorem dX6_most_121 : decode cX6_most 121 = .ok (.aload 6, 2) := dk_25 6 (dk_at dksX6_most_5 12 rfl rfl)
theorem dX6_most_123 : decode cX6_most 123 = .ok (.invokeinterface 65 2, 5) := by decide +kernel
theorem dX6_most_128 : decode cX6_most 128 = .ok (.iand, 1) := dk_126 (dk_at dksX6_most_5 19 rfl rfl)
theorem dX6_most_129 : decode cX6_most 129 = .ok (.istore_n 3, 1) := dk_62 (dk_at dksX6_most_5 20 rfl rfl)
theorem dX6_most_130 : decode cX6_most 130 = .ok (.goto (-46), 3) := dk_167 255 210 (dk_at dksX6_most_5 21 rfl rfl)
theorem dX6_most_133 : decode cX6_most 133 = .ok (.aload_n 2, 1) := dk_44 (dk_at dksX6_most_6 0 rfl rfl)
theorem dX6_most_134 : decode cX6_most 134 = .ok (.areturn, 1) := dk_176 (dk_at dksX6_most_6 1 rfl rfl)
abbrev cX6_lambda_allocated_7 : ByteArray := prog_7_method_31_code
def yX6_lambda_allocated_7 : MethodName := ⟨RX6, "lambda$allocated$7", "(IILScrutineery$Entry;)I"⟩
def dkwX6_lambda_allocated_7_0 : List UInt8 := [42, 27, 45, 28, 182, 0, 170, 116, 172]
abbrev dktX6_lambda_allocated_7_0 : List UInt8 := dkwX6_lambda_allocated_7_0 ++ []
theorem dksX6_lambda_allocated_7_0 : cX6_lambda_allocated_7.data.toList.drop 0 = dktX6_lambda_allocated_7_0 := by decide +kernel
theorem dX6_lambda_allocated_7_0 : decode cX6_lambda_allocated_7 0 = .ok (.aload_n 0, 1) := dk_42 (dk_at dksX6_lambda_allocated_7_0 0 rfl rfl)
theorem dX6_lambda_allocated_7_1 : decode cX6_lambda_allocated_7 1 = .ok (.iload_n 1, 1) := dk_27 (dk_at dksX6_lambda_allocated_7_0 1 rfl rfl)
theorem dX6_lambda_allocated_7_2 : decode cX6_lambda_allocated_7 2 = .ok (.aload_n 3, 1) := dk_45 (dk_at dksX6_lambda_allocated_7_0 2 rfl rfl)
theorem dX6_lambda_allocated_7_3 : decode cX6_lambda_allocated_7 3 = .ok (.iload_n 2, 1) := dk_28 (dk_at dksX6_lambda_allocated_7_0 3 rfl rfl)
theorem dX6_lambda_allocated_7_4 : decode cX6_lambda_allocated_7 4 = .ok (.invokevirtual 170, 3) := dk_182 0 170 (dk_at dksX6_lambda_allocated_7_0 4 rfl rfl)
theorem dX6_lambda_allocated_7_7 : decode cX6_lambda_allocated_7 7 = .ok (.ineg, 1) := dk_116 (dk_at dksX6_lambda_allocated_7_0 7 rfl rfl)
theorem dX6_lambda_allocated_7_8 : decode cX6_lambda_allocated_7 8 = .ok (.ireturn, 1) := dk_172 (dk_at dksX6_lambda_allocated_7_0 8 rfl rfl)
abbrev cX6_sum : ByteArray := prog_7_method_12_code
def yX6_sum : MethodName := ⟨RX6, "sum", "(ILScrutineery$Entry;I)I"⟩
def dkwX6_sum_2 : List UInt8 := [167, 0, 4, 3, 96, 54, 4, 132, 5, 1, 167, 255, 208, 21, 4, 172]
abbrev dktX6_sum_2 : List UInt8 := dkwX6_sum_2 ++ []
def dkwX6_sum_1 : List UInt8 := [180, 0, 39, 27, 21, 5, 44, 182, 0, 153, 54, 6, 21, 4, 21, 6, 29, 163, 0, 8, 21, 6]
abbrev dktX6_sum_1 : List UInt8 := dkwX6_sum_1 ++ dktX6_sum_2
def dkwX6_sum_0 : List UInt8 := [3, 54, 4, 3, 54, 5, 21, 5, 42, 27, 182, 0, 145, 185, 0, 76, 1, 0, 162, 0, 39, 42]
abbrev dktX6_sum_0 : List UInt8 := dkwX6_sum_0 ++ dktX6_sum_1
theorem dksX6_sum_0 : cX6_sum.data.toList.drop 0 = dktX6_sum_0 := by decide +kernel
theorem dksX6_sum_1 : cX6_sum.data.toList.drop 22 = dktX6_sum_1 := dk_seg dksX6_sum_0 22 rfl rfl
theorem dksX6_sum_2 : cX6_sum.data.toList.drop 44 = dktX6_sum_2 := dk_seg dksX6_sum_1 22 rfl rfl
theorem dX6_sum_0 : decode cX6_sum 0 = .ok (.iconst 0, 1) := dk_3 (dk_at dksX6_sum_0 0 rfl rfl)
theorem dX6_sum_1 : decode cX6_sum 1 = .ok (.istore 4, 2) := dk_54 4 (dk_at dksX6_sum_0 1 rfl rfl)
theorem dX6_sum_3 : decode cX6_sum 3 = .ok (.iconst 0, 1) := dk_3 (dk_at dksX6_sum_0 3 rfl rfl)
theorem dX6_sum_4 : decode cX6_sum 4 = .ok (.istore 5, 2) := dk_54 5 (dk_at dksX6_sum_0 4 rfl rfl)
theorem dX6_sum_6 : decode cX6_sum 6 = .ok (.iload 5, 2) := dk_21 5 (dk_at dksX6_sum_0 6 rfl rfl)
theorem dX6_sum_8 : decode cX6_sum 8 = .ok (.aload_n 0, 1) := dk_42 (dk_at dksX6_sum_0 8 rfl rfl)
theorem dX6_sum_9 : decode cX6_sum 9 = .ok (.iload_n 1, 1) := dk_27 (dk_at dksX6_sum_0 9 rfl rfl)
theorem dX6_sum_10 : decode cX6_sum 10 = .ok (.invokevirtual 145, 3) := dk_182 0 145 (dk_at dksX6_sum_0 10 rfl rfl)
theorem dX6_sum_13 : decode cX6_sum 13 = .ok (.invokeinterface 76 1, 5) := by decide +kernel
theorem dX6_sum_18 : decode cX6_sum 18 = .ok (.if_icmp .ge 39, 3) := dk_162 0 39 (dk_at dksX6_sum_0 18 rfl rfl)
theorem dX6_sum_21 : decode cX6_sum 21 = .ok (.aload_n 0, 1) := dk_42 (dk_at dksX6_sum_0 21 rfl rfl)
theorem dX6_sum_22 : decode cX6_sum 22 = .ok (.getfield 39, 3) := dk_180 0 39 (dk_at dksX6_sum_1 0 rfl rfl)
theorem dX6_sum_25 : decode cX6_sum 25 = .ok (.iload_n 1, 1) := dk_27 (dk_at dksX6_sum_1 3 rfl rfl)
theorem dX6_sum_26 : decode cX6_sum 26 = .ok (.iload 5, 2) := dk_21 5 (dk_at dksX6_sum_1 4 rfl rfl)
theorem dX6_sum_28 : decode cX6_sum 28 = .ok (.aload_n 2, 1) := dk_44 (dk_at dksX6_sum_1 6 rfl rfl)
theorem dX6_sum_29 : decode cX6_sum 29 = .ok (.invokevirtual 153, 3) := dk_182 0 153 (dk_at dksX6_sum_1 7 rfl rfl)
theorem dX6_sum_32 : decode cX6_sum 32 = .ok (.istore 6, 2) := dk_54 6 (dk_at dksX6_sum_1 10 rfl rfl)
theorem dX6_sum_34 : decode cX6_sum 34 = .ok (.iload 4, 2) := dk_21 4 (dk_at dksX6_sum_1 12 rfl rfl)
theorem dX6_sum_36 : decode cX6_sum 36 = .ok (.iload 6, 2) := dk_21 6 (dk_at dksX6_sum_1 14 rfl rfl)
theorem dX6_sum_38 : decode cX6_sum 38 = .ok (.iload_n 3, 1) := dk_29 (dk_at dksX6_sum_1 16 rfl rfl)
theorem dX6_sum_39 : decode cX6_sum 39 = .ok (.if_icmp .gt 8, 3) := dk_163 0 8 (dk_at dksX6_sum_1 17 rfl rfl)
theorem dX6_sum_42 : decode cX6_sum 42 = .ok (.iload 6, 2) := dk_21 6 (dk_at dksX6_sum_1 20 rfl rfl)
theorem dX6_sum_44 : decode cX6_sum 44 = .ok (.goto 4, 3) := dk_167 0 4 (dk_at dksX6_sum_2 0 rfl rfl)
theorem dX6_sum_47 : decode cX6_sum 47 = .ok (.iconst 0, 1) := dk_3 (dk_at dksX6_sum_2 3 rfl rfl)
theorem dX6_sum_48 : decode cX6_sum 48 = .ok (.iadd, 1) := dk_96 (dk_at dksX6_sum_2 4 rfl rfl)
theorem dX6_sum_49 : decode cX6_sum 49 = .ok (.istore 4, 2) := dk_54 4 (dk_at dksX6_sum_2 5 rfl rfl)
theorem dX6_sum_51 : decode cX6_sum 51 = .ok (.iinc 5 1, 3) := dk_132 5 1 (dk_at dksX6_sum_2 7 rfl rfl)
theorem dX6_sum_54 : decode cX6_sum 54 = .ok (.goto (-48), 3) := dk_167 255 208 (dk_at dksX6_sum_2 10 rfl rfl)
theorem dX6_sum_57 : decode cX6_sum 57 = .ok (.iload 4, 2) := dk_21 4 (dk_at dksX6_sum_2 13 rfl rfl)
theorem dX6_sum_59 : decode cX6_sum 59 = .ok (.ireturn, 1) := dk_172 (dk_at dksX6_sum_2 15 rfl rfl)
abbrev cX6_lambda_allocated_8 : ByteArray := prog_7_method_30_code
def yX6_lambda_allocated_8 : MethodName := ⟨RX6, "lambda$allocated$8", "(Ljava/util/List;LScrutineery$Entry;)Z"⟩
def dkwX6_lambda_allocated_8_0 : List UInt8 := [42, 43, 185, 0, 225, 2, 0, 172]
abbrev dktX6_lambda_allocated_8_0 : List UInt8 := dkwX6_lambda_allocated_8_0 ++ []
theorem dksX6_lambda_allocated_8_0 : cX6_lambda_allocated_8.data.toList.drop 0 = dktX6_lambda_allocated_8_0 := by decide +kernel
theorem dX6_lambda_allocated_8_0 : decode cX6_lambda_allocated_8 0 = .ok (.aload_n 0, 1) := dk_42 (dk_at dksX6_lambda_allocated_8_0 0 rfl rfl)
theorem dX6_lambda_allocated_8_1 : decode cX6_lambda_allocated_8 1 = .ok (.aload_n 1, 1) := dk_43 (dk_at dksX6_lambda_allocated_8_0 1 rfl rfl)
theorem dX6_lambda_allocated_8_2 : decode cX6_lambda_allocated_8 2 = .ok (.invokeinterface 225 2, 5) := by decide +kernel
theorem dX6_lambda_allocated_8_7 : decode cX6_lambda_allocated_8 7 = .ok (.ireturn, 1) := dk_172 (dk_at dksX6_lambda_allocated_8_0 7 rfl rfl)
abbrev cX6_init : ByteArray := prog_7_method_1_code
def yX6_init : MethodName := ⟨RX6, "<init>", "(IIIIIIZ)V"⟩
def dkwX6_init_7 : List UInt8 := [54, 8, 177]
abbrev dktX6_init_7 : List UInt8 := dkwX6_init_7 ++ []
def dkwX6_init_6 : List UInt8 := [42, 180, 0, 18, 187, 0, 9, 89, 183, 0, 11, 185, 0, 65, 2, 0, 153, 0, 7, 4, 167, 0, 4, 3]
abbrev dktX6_init_6 : List UInt8 := dkwX6_init_6 ++ dktX6_init_7
def dkwX6_init_5 : List UInt8 := [21, 7, 181, 0, 61, 42, 180, 0, 18, 187, 0, 9, 89, 183, 0, 11, 185, 0, 65, 2, 0, 153, 0, 26]
abbrev dktX6_init_5 : List UInt8 := dkwX6_init_5 ++ dktX6_init_6
def dkwX6_init_4 : List UInt8 := [29, 181, 0, 49, 42, 21, 4, 181, 0, 52, 42, 21, 5, 181, 0, 55, 42, 21, 6, 181, 0, 58, 42]
abbrev dktX6_init_4 : List UInt8 := dkwX6_init_4 ++ dktX6_init_5
def dkwX6_init_3 : List UInt8 := [187, 0, 9, 89, 183, 0, 11, 183, 0, 36, 181, 0, 39, 42, 27, 181, 0, 43, 42, 28, 181, 0, 46, 42]
abbrev dktX6_init_3 : List UInt8 := dkwX6_init_3 ++ dktX6_init_4
def dkwX6_init_2 : List UInt8 := [181, 0, 28, 42, 4, 181, 0, 31, 42, 187, 0, 34, 89, 3, 3, 187, 0, 9, 89, 183, 0, 11]
abbrev dktX6_init_2 : List UInt8 := dkwX6_init_2 ++ dktX6_init_3
def dkwX6_init_1 : List UInt8 := [181, 0, 18, 42, 187, 0, 9, 89, 183, 0, 11, 181, 0, 21, 42, 16, 6, 181, 0, 24, 42, 16, 6]
abbrev dktX6_init_1 : List UInt8 := dkwX6_init_1 ++ dktX6_init_2
def dkwX6_init_0 : List UInt8 := [42, 183, 0, 3, 42, 187, 0, 9, 89, 183, 0, 11, 181, 0, 12, 42, 187, 0, 9, 89, 183, 0, 11]
abbrev dktX6_init_0 : List UInt8 := dkwX6_init_0 ++ dktX6_init_1
theorem dksX6_init_0 : cX6_init.data.toList.drop 0 = dktX6_init_0 := by decide +kernel
theorem dksX6_init_1 : cX6_init.data.toList.drop 23 = dktX6_init_1 := dk_seg dksX6_init_0 23 rfl rfl
theorem dksX6_init_2 : cX6_init.data.toList.drop 46 = dktX6_init_2 := dk_seg dksX6_init_1 23 rfl rfl
theorem dksX6_init_3 : cX6_init.data.toList.drop 68 = dktX6_init_3 := dk_seg dksX6_init_2 22 rfl rfl
theorem dksX6_init_4 : cX6_init.data.toList.drop 92 = dktX6_init_4 := dk_seg dksX6_init_3 24 rfl rfl
theorem dksX6_init_5 : cX6_init.data.toList.drop 115 = dktX6_init_5 := dk_seg dksX6_init_4 23 rfl rfl
theorem dksX6_init_6 : cX6_init.data.toList.drop 139 = dktX6_init_6 := dk_seg dksX6_init_5 24 rfl rfl
theorem dksX6_init_7 : cX6_init.data.toList.drop 163 = dktX6_init_7 := dk_seg dksX6_init_6 24 rfl rfl
theorem dX6_init_0 : decode cX6_init 0 = .ok (.aload_n 0, 1) := dk_42 (dk_at dksX6_init_0 0 rfl rfl)
theorem dX6_init_1 : decode cX6_init 1 = .ok (.invokespecial 3, 3) := dk_183 0 3 (dk_at dksX6_init_0 1 rfl rfl)
theorem dX6_init_4 : decode cX6_init 4 = .ok (.aload_n 0, 1) := dk_42 (dk_at dksX6_init_0 4 rfl rfl)
theorem dX6_init_5 : decode cX6_init 5 = .ok (.new 9, 3) := dk_187 0 9 (dk_at dksX6_init_0 5 rfl rfl)
theorem dX6_init_8 : decode cX6_init 8 = .ok (.dup, 1) := dk_89 (dk_at dksX6_init_0 8 rfl rfl)
theorem dX6_init_9 : decode cX6_init 9 = .ok (.invokespecial 11, 3) := dk_183 0 11 (dk_at dksX6_init_0 9 rfl rfl)
theorem dX6_init_12 : decode cX6_init 12 = .ok (.putfield 12, 3) := dk_181 0 12 (dk_at dksX6_init_0 12 rfl rfl)
theorem dX6_init_15 : decode cX6_init 15 = .ok (.aload_n 0, 1) := dk_42 (dk_at dksX6_init_0 15 rfl rfl)
theorem dX6_init_16 : decode cX6_init 16 = .ok (.new 9, 3) := dk_187 0 9 (dk_at dksX6_init_0 16 rfl rfl)
theorem dX6_init_19 : decode cX6_init 19 = .ok (.dup, 1) := dk_89 (dk_at dksX6_init_0 19 rfl rfl)
theorem dX6_init_20 : decode cX6_init 20 = .ok (.invokespecial 11, 3) := dk_183 0 11 (dk_at dksX6_init_0 20 rfl rfl)
theorem dX6_init_23 : decode cX6_init 23 = .ok (.putfield 18, 3) := dk_181 0 18 (dk_at dksX6_init_1 0 rfl rfl)
theorem dX6_init_26 : decode cX6_init 26 = .ok (.aload_n 0, 1) := dk_42 (dk_at dksX6_init_1 3 rfl rfl)
theorem dX6_init_27 : decode cX6_init 27 = .ok (.new 9, 3) := dk_187 0 9 (dk_at dksX6_init_1 4 rfl rfl)
theorem dX6_init_30 : decode cX6_init 30 = .ok (.dup, 1) := dk_89 (dk_at dksX6_init_1 7 rfl rfl)
theorem dX6_init_31 : decode cX6_init 31 = .ok (.invokespecial 11, 3) := dk_183 0 11 (dk_at dksX6_init_1 8 rfl rfl)
theorem dX6_init_34 : decode cX6_init 34 = .ok (.putfield 21, 3) := dk_181 0 21 (dk_at dksX6_init_1 11 rfl rfl)
theorem dX6_init_37 : decode cX6_init 37 = .ok (.aload_n 0, 1) := dk_42 (dk_at dksX6_init_1 14 rfl rfl)
theorem dX6_init_38 : decode cX6_init 38 = .ok (.bipush 6, 2) := dk_16 6 (dk_at dksX6_init_1 15 rfl rfl)
theorem dX6_init_40 : decode cX6_init 40 = .ok (.putfield 24, 3) := dk_181 0 24 (dk_at dksX6_init_1 17 rfl rfl)
theorem dX6_init_43 : decode cX6_init 43 = .ok (.aload_n 0, 1) := dk_42 (dk_at dksX6_init_1 20 rfl rfl)
theorem dX6_init_44 : decode cX6_init 44 = .ok (.bipush 6, 2) := dk_16 6 (dk_at dksX6_init_1 21 rfl rfl)
theorem dX6_init_46 : decode cX6_init 46 = .ok (.putfield 28, 3) := dk_181 0 28 (dk_at dksX6_init_2 0 rfl rfl)
theorem dX6_init_49 : decode cX6_init 49 = .ok (.aload_n 0, 1) := dk_42 (dk_at dksX6_init_2 3 rfl rfl)
theorem dX6_init_50 : decode cX6_init 50 = .ok (.iconst 1, 1) := dk_4 (dk_at dksX6_init_2 4 rfl rfl)
theorem dX6_init_51 : decode cX6_init 51 = .ok (.putfield 31, 3) := dk_181 0 31 (dk_at dksX6_init_2 5 rfl rfl)
theorem dX6_init_54 : decode cX6_init 54 = .ok (.aload_n 0, 1) := dk_42 (dk_at dksX6_init_2 8 rfl rfl)
theorem dX6_init_55 : decode cX6_init 55 = .ok (.new 34, 3) := dk_187 0 34 (dk_at dksX6_init_2 9 rfl rfl)
theorem dX6_init_58 : decode cX6_init 58 = .ok (.dup, 1) := dk_89 (dk_at dksX6_init_2 12 rfl rfl)
theorem dX6_init_59 : decode cX6_init 59 = .ok (.iconst 0, 1) := dk_3 (dk_at dksX6_init_2 13 rfl rfl)
theorem dX6_init_60 : decode cX6_init 60 = .ok (.iconst 0, 1) := dk_3 (dk_at dksX6_init_2 14 rfl rfl)
theorem dX6_init_61 : decode cX6_init 61 = .ok (.new 9, 3) := dk_187 0 9 (dk_at dksX6_init_2 15 rfl rfl)
theorem dX6_init_64 : decode cX6_init 64 = .ok (.dup, 1) := dk_89 (dk_at dksX6_init_2 18 rfl rfl)
theorem dX6_init_65 : decode cX6_init 65 = .ok (.invokespecial 11, 3) := dk_183 0 11 (dk_at dksX6_init_2 19 rfl rfl)
theorem dX6_init_68 : decode cX6_init 68 = .ok (.new 9, 3) := dk_187 0 9 (dk_at dksX6_init_3 0 rfl rfl)
theorem dX6_init_71 : decode cX6_init 71 = .ok (.dup, 1) := dk_89 (dk_at dksX6_init_3 3 rfl rfl)
theorem dX6_init_72 : decode cX6_init 72 = .ok (.invokespecial 11, 3) := dk_183 0 11 (dk_at dksX6_init_3 4 rfl rfl)
theorem dX6_init_75 : decode cX6_init 75 = .ok (.invokespecial 36, 3) := dk_183 0 36 (dk_at dksX6_init_3 7 rfl rfl)
theorem dX6_init_78 : decode cX6_init 78 = .ok (.putfield 39, 3) := dk_181 0 39 (dk_at dksX6_init_3 10 rfl rfl)
theorem dX6_init_81 : decode cX6_init 81 = .ok (.aload_n 0, 1) := dk_42 (dk_at dksX6_init_3 13 rfl rfl)
theorem dX6_init_82 : decode cX6_init 82 = .ok (.iload_n 1, 1) := dk_27 (dk_at dksX6_init_3 14 rfl rfl)
theorem dX6_init_83 : decode cX6_init 83 = .ok (.putfield 43, 3) := dk_181 0 43 (dk_at dksX6_init_3 15 rfl rfl)
theorem dX6_init_86 : decode cX6_init 86 = .ok (.aload_n 0, 1) := dk_42 (dk_at dksX6_init_3 18 rfl rfl)
theorem dX6_init_87 : decode cX6_init 87 = .ok (.iload_n 2, 1) := dk_28 (dk_at dksX6_init_3 19 rfl rfl)
theorem dX6_init_88 : decode cX6_init 88 = .ok (.putfield 46, 3) := dk_181 0 46 (dk_at dksX6_init_3 20 rfl rfl)
theorem dX6_init_91 : decode cX6_init 91 = .ok (.aload_n 0, 1) := dk_42 (dk_at dksX6_init_3 23 rfl rfl)
theorem dX6_init_92 : decode cX6_init 92 = .ok (.iload_n 3, 1) := dk_29 (dk_at dksX6_init_4 0 rfl rfl)
theorem dX6_init_93 : decode cX6_init 93 = .ok (.putfield 49, 3) := dk_181 0 49 (dk_at dksX6_init_4 1 rfl rfl)
theorem dX6_init_96 : decode cX6_init 96 = .ok (.aload_n 0, 1) := dk_42 (dk_at dksX6_init_4 4 rfl rfl)
theorem dX6_init_97 : decode cX6_init 97 = .ok (.iload 4, 2) := dk_21 4 (dk_at dksX6_init_4 5 rfl rfl)
theorem dX6_init_99 : decode cX6_init 99 = .ok (.putfield 52, 3) := dk_181 0 52 (dk_at dksX6_init_4 7 rfl rfl)
theorem dX6_init_102 : decode cX6_init 102 = .ok (.aload_n 0, 1) := dk_42 (dk_at dksX6_init_4 10 rfl rfl)
theorem dX6_init_103 : decode cX6_init 103 = .ok (.iload 5, 2) := dk_21 5 (dk_at dksX6_init_4 11 rfl rfl)
theorem dX6_init_105 : decode cX6_init 105 = .ok (.putfield 55, 3) := dk_181 0 55 (dk_at dksX6_init_4 13 rfl rfl)
theorem dX6_init_108 : decode cX6_init 108 = .ok (.aload_n 0, 1) := dk_42 (dk_at dksX6_init_4 16 rfl rfl)
theorem dX6_init_109 : decode cX6_init 109 = .ok (.iload 6, 2) := dk_21 6 (dk_at dksX6_init_4 17 rfl rfl)
theorem dX6_init_111 : decode cX6_init 111 = .ok (.putfield 58, 3) := dk_181 0 58 (dk_at dksX6_init_4 19 rfl rfl)
theorem dX6_init_114 : decode cX6_init 114 = .ok (.aload_n 0, 1) := dk_42 (dk_at dksX6_init_4 22 rfl rfl)
theorem dX6_init_115 : decode cX6_init 115 = .ok (.iload 7, 2) := dk_21 7 (dk_at dksX6_init_5 0 rfl rfl)
theorem dX6_init_117 : decode cX6_init 117 = .ok (.putfield 61, 3) := dk_181 0 61 (dk_at dksX6_init_5 2 rfl rfl)
theorem dX6_init_120 : decode cX6_init 120 = .ok (.aload_n 0, 1) := dk_42 (dk_at dksX6_init_5 5 rfl rfl)
theorem dX6_init_121 : decode cX6_init 121 = .ok (.getfield 18, 3) := dk_180 0 18 (dk_at dksX6_init_5 6 rfl rfl)
theorem dX6_init_124 : decode cX6_init 124 = .ok (.new 9, 3) := dk_187 0 9 (dk_at dksX6_init_5 9 rfl rfl)
theorem dX6_init_127 : decode cX6_init 127 = .ok (.dup, 1) := dk_89 (dk_at dksX6_init_5 12 rfl rfl)
theorem dX6_init_128 : decode cX6_init 128 = .ok (.invokespecial 11, 3) := dk_183 0 11 (dk_at dksX6_init_5 13 rfl rfl)
theorem dX6_init_131 : decode cX6_init 131 = .ok (.invokeinterface 65 2, 5) := by decide +kernel
theorem dX6_init_136 : decode cX6_init 136 = .ok (.ifCond .eq 26, 3) := dk_153 0 26 (dk_at dksX6_init_5 21 rfl rfl)
theorem dX6_init_139 : decode cX6_init 139 = .ok (.aload_n 0, 1) := dk_42 (dk_at dksX6_init_6 0 rfl rfl)
theorem dX6_init_140 : decode cX6_init 140 = .ok (.getfield 18, 3) := dk_180 0 18 (dk_at dksX6_init_6 1 rfl rfl)
theorem dX6_init_143 : decode cX6_init 143 = .ok (.new 9, 3) := dk_187 0 9 (dk_at dksX6_init_6 4 rfl rfl)
theorem dX6_init_146 : decode cX6_init 146 = .ok (.dup, 1) := dk_89 (dk_at dksX6_init_6 7 rfl rfl)
theorem dX6_init_147 : decode cX6_init 147 = .ok (.invokespecial 11, 3) := dk_183 0 11 (dk_at dksX6_init_6 8 rfl rfl)
theorem dX6_init_150 : decode cX6_init 150 = .ok (.invokeinterface 65 2, 5) := by decide +kernel
theorem dX6_init_155 : decode cX6_init 155 = .ok (.ifCond .eq 7, 3) := dk_153 0 7 (dk_at dksX6_init_6 16 rfl rfl)
theorem dX6_init_158 : decode cX6_init 158 = .ok (.iconst 1, 1) := dk_4 (dk_at dksX6_init_6 19 rfl rfl)
theorem dX6_init_159 : decode cX6_init 159 = .ok (.goto 4, 3) := dk_167 0 4 (dk_at dksX6_init_6 20 rfl rfl)
theorem dX6_init_162 : decode cX6_init 162 = .ok (.iconst 0, 1) := dk_3 (dk_at dksX6_init_6 23 rfl rfl)
theorem dX6_init_163 : decode cX6_init 163 = .ok (.istore 8, 2) := dk_54 8 (dk_at dksX6_init_7 0 rfl rfl)
theorem dX6_init_165 : decode cX6_init 165 = .ok (.return_, 1) := dk_177 (dk_at dksX6_init_7 2 rfl rfl)
abbrev cX6_state : ByteArray := prog_7_method_3_code
def yX6_state : MethodName := ⟨RX6, "state", "()I"⟩
def dkwX6_state_2 : List UInt8 := [42, 182, 0, 89, 153, 0, 7, 6, 167, 0, 4, 4, 172]
abbrev dktX6_state_2 : List UInt8 := dkwX6_state_2 ++ []
def dkwX6_state_1 : List UInt8 := [180, 0, 86, 154, 0, 7, 3, 167, 0, 29, 42, 180, 0, 39, 182, 0, 71, 153, 0, 7, 5, 167, 0, 15]
abbrev dktX6_state_1 : List UInt8 := dkwX6_state_1 ++ dktX6_state_2
def dkwX6_state_0 : List UInt8 := [42, 180, 0, 80, 153, 0, 7, 8, 167, 0, 51, 42, 180, 0, 83, 153, 0, 7, 7, 167, 0, 40, 42]
abbrev dktX6_state_0 : List UInt8 := dkwX6_state_0 ++ dktX6_state_1
theorem dksX6_state_0 : cX6_state.data.toList.drop 0 = dktX6_state_0 := by decide +kernel
theorem dksX6_state_1 : cX6_state.data.toList.drop 23 = dktX6_state_1 := dk_seg dksX6_state_0 23 rfl rfl
theorem dksX6_state_2 : cX6_state.data.toList.drop 47 = dktX6_state_2 := dk_seg dksX6_state_1 24 rfl rfl
theorem dX6_state_0 : decode cX6_state 0 = .ok (.aload_n 0, 1) := dk_42 (dk_at dksX6_state_0 0 rfl rfl)
theorem dX6_state_1 : decode cX6_state 1 = .ok (.getfield 80, 3) := dk_180 0 80 (dk_at dksX6_state_0 1 rfl rfl)
theorem dX6_state_4 : decode cX6_state 4 = .ok (.ifCond .eq 7, 3) := dk_153 0 7 (dk_at dksX6_state_0 4 rfl rfl)
theorem dX6_state_7 : decode cX6_state 7 = .ok (.iconst 5, 1) := dk_8 (dk_at dksX6_state_0 7 rfl rfl)
theorem dX6_state_8 : decode cX6_state 8 = .ok (.goto 51, 3) := dk_167 0 51 (dk_at dksX6_state_0 8 rfl rfl)
theorem dX6_state_11 : decode cX6_state 11 = .ok (.aload_n 0, 1) := dk_42 (dk_at dksX6_state_0 11 rfl rfl)
theorem dX6_state_12 : decode cX6_state 12 = .ok (.getfield 83, 3) := dk_180 0 83 (dk_at dksX6_state_0 12 rfl rfl)
theorem dX6_state_15 : decode cX6_state 15 = .ok (.ifCond .eq 7, 3) := dk_153 0 7 (dk_at dksX6_state_0 15 rfl rfl)
theorem dX6_state_18 : decode cX6_state 18 = .ok (.iconst 4, 1) := dk_7 (dk_at dksX6_state_0 18 rfl rfl)
theorem dX6_state_19 : decode cX6_state 19 = .ok (.goto 40, 3) := dk_167 0 40 (dk_at dksX6_state_0 19 rfl rfl)
theorem dX6_state_22 : decode cX6_state 22 = .ok (.aload_n 0, 1) := dk_42 (dk_at dksX6_state_0 22 rfl rfl)
theorem dX6_state_23 : decode cX6_state 23 = .ok (.getfield 86, 3) := dk_180 0 86 (dk_at dksX6_state_1 0 rfl rfl)
theorem dX6_state_26 : decode cX6_state 26 = .ok (.ifCond .ne 7, 3) := dk_154 0 7 (dk_at dksX6_state_1 3 rfl rfl)
theorem dX6_state_29 : decode cX6_state 29 = .ok (.iconst 0, 1) := dk_3 (dk_at dksX6_state_1 6 rfl rfl)
theorem dX6_state_30 : decode cX6_state 30 = .ok (.goto 29, 3) := dk_167 0 29 (dk_at dksX6_state_1 7 rfl rfl)
theorem dX6_state_33 : decode cX6_state 33 = .ok (.aload_n 0, 1) := dk_42 (dk_at dksX6_state_1 10 rfl rfl)
theorem dX6_state_34 : decode cX6_state 34 = .ok (.getfield 39, 3) := dk_180 0 39 (dk_at dksX6_state_1 11 rfl rfl)
theorem dX6_state_37 : decode cX6_state 37 = .ok (.invokevirtual 71, 3) := dk_182 0 71 (dk_at dksX6_state_1 14 rfl rfl)
theorem dX6_state_40 : decode cX6_state 40 = .ok (.ifCond .eq 7, 3) := dk_153 0 7 (dk_at dksX6_state_1 17 rfl rfl)
theorem dX6_state_43 : decode cX6_state 43 = .ok (.iconst 2, 1) := dk_5 (dk_at dksX6_state_1 20 rfl rfl)
theorem dX6_state_44 : decode cX6_state 44 = .ok (.goto 15, 3) := dk_167 0 15 (dk_at dksX6_state_1 21 rfl rfl)
theorem dX6_state_47 : decode cX6_state 47 = .ok (.aload_n 0, 1) := dk_42 (dk_at dksX6_state_2 0 rfl rfl)
theorem dX6_state_48 : decode cX6_state 48 = .ok (.invokevirtual 89, 3) := dk_182 0 89 (dk_at dksX6_state_2 1 rfl rfl)
theorem dX6_state_51 : decode cX6_state 51 = .ok (.ifCond .eq 7, 3) := dk_153 0 7 (dk_at dksX6_state_2 4 rfl rfl)
theorem dX6_state_54 : decode cX6_state 54 = .ok (.iconst 3, 1) := dk_6 (dk_at dksX6_state_2 7 rfl rfl)
theorem dX6_state_55 : decode cX6_state 55 = .ok (.goto 4, 3) := dk_167 0 4 (dk_at dksX6_state_2 8 rfl rfl)
theorem dX6_state_58 : decode cX6_state 58 = .ok (.iconst 1, 1) := dk_4 (dk_at dksX6_state_2 11 rfl rfl)
theorem dX6_state_59 : decode cX6_state 59 = .ok (.ireturn, 1) := dk_172 (dk_at dksX6_state_2 12 rfl rfl)
abbrev cX6_isFinal : ByteArray := prog_7_method_2_code
def yX6_isFinal : MethodName := ⟨RX6, "isFinal", "()Z"⟩
def dkwX6_isFinal_1 : List UInt8 := [180, 0, 28, 163, 0, 7, 4, 167, 0, 4, 3, 172]
abbrev dktX6_isFinal_1 : List UInt8 := dkwX6_isFinal_1 ++ []
def dkwX6_isFinal_0 : List UInt8 := [42, 180, 0, 39, 182, 0, 71, 154, 0, 26, 42, 180, 0, 39, 180, 0, 75, 185, 0, 76, 1, 0, 42]
abbrev dktX6_isFinal_0 : List UInt8 := dkwX6_isFinal_0 ++ dktX6_isFinal_1
theorem dksX6_isFinal_0 : cX6_isFinal.data.toList.drop 0 = dktX6_isFinal_0 := by decide +kernel
theorem dksX6_isFinal_1 : cX6_isFinal.data.toList.drop 23 = dktX6_isFinal_1 := dk_seg dksX6_isFinal_0 23 rfl rfl
theorem dX6_isFinal_0 : decode cX6_isFinal 0 = .ok (.aload_n 0, 1) := dk_42 (dk_at dksX6_isFinal_0 0 rfl rfl)
theorem dX6_isFinal_1 : decode cX6_isFinal 1 = .ok (.getfield 39, 3) := dk_180 0 39 (dk_at dksX6_isFinal_0 1 rfl rfl)
theorem dX6_isFinal_4 : decode cX6_isFinal 4 = .ok (.invokevirtual 71, 3) := dk_182 0 71 (dk_at dksX6_isFinal_0 4 rfl rfl)
theorem dX6_isFinal_7 : decode cX6_isFinal 7 = .ok (.ifCond .ne 26, 3) := dk_154 0 26 (dk_at dksX6_isFinal_0 7 rfl rfl)
theorem dX6_isFinal_10 : decode cX6_isFinal 10 = .ok (.aload_n 0, 1) := dk_42 (dk_at dksX6_isFinal_0 10 rfl rfl)
theorem dX6_isFinal_11 : decode cX6_isFinal 11 = .ok (.getfield 39, 3) := dk_180 0 39 (dk_at dksX6_isFinal_0 11 rfl rfl)
theorem dX6_isFinal_14 : decode cX6_isFinal 14 = .ok (.getfield 75, 3) := dk_180 0 75 (dk_at dksX6_isFinal_0 14 rfl rfl)
theorem dX6_isFinal_17 : decode cX6_isFinal 17 = .ok (.invokeinterface 76 1, 5) := by decide +kernel
theorem dX6_isFinal_22 : decode cX6_isFinal 22 = .ok (.aload_n 0, 1) := dk_42 (dk_at dksX6_isFinal_0 22 rfl rfl)
theorem dX6_isFinal_23 : decode cX6_isFinal 23 = .ok (.getfield 28, 3) := dk_180 0 28 (dk_at dksX6_isFinal_1 0 rfl rfl)
theorem dX6_isFinal_26 : decode cX6_isFinal 26 = .ok (.if_icmp .gt 7, 3) := dk_163 0 7 (dk_at dksX6_isFinal_1 3 rfl rfl)
theorem dX6_isFinal_29 : decode cX6_isFinal 29 = .ok (.iconst 1, 1) := dk_4 (dk_at dksX6_isFinal_1 6 rfl rfl)
theorem dX6_isFinal_30 : decode cX6_isFinal 30 = .ok (.goto 4, 3) := dk_167 0 4 (dk_at dksX6_isFinal_1 7 rfl rfl)
theorem dX6_isFinal_33 : decode cX6_isFinal 33 = .ok (.iconst 0, 1) := dk_3 (dk_at dksX6_isFinal_1 10 rfl rfl)
theorem dX6_isFinal_34 : decode cX6_isFinal 34 = .ok (.ireturn, 1) := dk_172 (dk_at dksX6_isFinal_1 11 rfl rfl)
abbrev cX6_hasIn : ByteArray := prog_7_method_7_code
def yX6_hasIn : MethodName := ⟨RX6, "hasIn", "(LScrutineery$Person;)Z"⟩
def dkwX6_hasIn_2 : List UInt8 := [43, 182, 0, 130, 153, 0, 7, 4, 167, 0, 4, 3, 128, 61, 167, 255, 208, 28, 172]
abbrev dktX6_hasIn_2 : List UInt8 := dkwX6_hasIn_2 ++ []
def dkwX6_hasIn_1 : List UInt8 := [185, 0, 117, 1, 0, 192, 0, 121, 58, 4, 28, 25, 4, 180, 0, 123, 154, 0, 19, 25, 4, 180, 0, 126]
abbrev dktX6_hasIn_1 : List UInt8 := dkwX6_hasIn_1 ++ dktX6_hasIn_2
def dkwX6_hasIn_0 : List UInt8 := [3, 61, 42, 180, 0, 12, 185, 0, 108, 1, 0, 78, 45, 185, 0, 112, 1, 0, 153, 0, 45, 45]
abbrev dktX6_hasIn_0 : List UInt8 := dkwX6_hasIn_0 ++ dktX6_hasIn_1
theorem dksX6_hasIn_0 : cX6_hasIn.data.toList.drop 0 = dktX6_hasIn_0 := by decide +kernel
theorem dksX6_hasIn_1 : cX6_hasIn.data.toList.drop 22 = dktX6_hasIn_1 := dk_seg dksX6_hasIn_0 22 rfl rfl
theorem dksX6_hasIn_2 : cX6_hasIn.data.toList.drop 46 = dktX6_hasIn_2 := dk_seg dksX6_hasIn_1 24 rfl rfl
theorem dX6_hasIn_0 : decode cX6_hasIn 0 = .ok (.iconst 0, 1) := dk_3 (dk_at dksX6_hasIn_0 0 rfl rfl)
theorem dX6_hasIn_1 : decode cX6_hasIn 1 = .ok (.istore_n 2, 1) := dk_61 (dk_at dksX6_hasIn_0 1 rfl rfl)
theorem dX6_hasIn_2 : decode cX6_hasIn 2 = .ok (.aload_n 0, 1) := dk_42 (dk_at dksX6_hasIn_0 2 rfl rfl)
theorem dX6_hasIn_3 : decode cX6_hasIn 3 = .ok (.getfield 12, 3) := dk_180 0 12 (dk_at dksX6_hasIn_0 3 rfl rfl)
theorem dX6_hasIn_6 : decode cX6_hasIn 6 = .ok (.invokeinterface 108 1, 5) := by decide +kernel
theorem dX6_hasIn_11 : decode cX6_hasIn 11 = .ok (.astore_n 3, 1) := dk_78 (dk_at dksX6_hasIn_0 11 rfl rfl)
theorem dX6_hasIn_12 : decode cX6_hasIn 12 = .ok (.aload_n 3, 1) := dk_45 (dk_at dksX6_hasIn_0 12 rfl rfl)
theorem dX6_hasIn_13 : decode cX6_hasIn 13 = .ok (.invokeinterface 112 1, 5) := by decide +kernel
theorem dX6_hasIn_18 : decode cX6_hasIn 18 = .ok (.ifCond .eq 45, 3) := dk_153 0 45 (dk_at dksX6_hasIn_0 18 rfl rfl)
theorem dX6_hasIn_21 : decode cX6_hasIn 21 = .ok (.aload_n 3, 1) := dk_45 (dk_at dksX6_hasIn_0 21 rfl rfl)
theorem dX6_hasIn_22 : decode cX6_hasIn 22 = .ok (.invokeinterface 117 1, 5) := by decide +kernel
theorem dX6_hasIn_27 : decode cX6_hasIn 27 = .ok (.checkcast 121, 3) := dk_192 0 121 (dk_at dksX6_hasIn_1 5 rfl rfl)
theorem dX6_hasIn_30 : decode cX6_hasIn 30 = .ok (.astore 4, 2) := dk_58 4 (dk_at dksX6_hasIn_1 8 rfl rfl)
theorem dX6_hasIn_32 : decode cX6_hasIn 32 = .ok (.iload_n 2, 1) := dk_28 (dk_at dksX6_hasIn_1 10 rfl rfl)
theorem dX6_hasIn_33 : decode cX6_hasIn 33 = .ok (.aload 4, 2) := dk_25 4 (dk_at dksX6_hasIn_1 11 rfl rfl)
theorem dX6_hasIn_35 : decode cX6_hasIn 35 = .ok (.getfield 123, 3) := dk_180 0 123 (dk_at dksX6_hasIn_1 13 rfl rfl)
theorem dX6_hasIn_38 : decode cX6_hasIn 38 = .ok (.ifCond .ne 19, 3) := dk_154 0 19 (dk_at dksX6_hasIn_1 16 rfl rfl)
theorem dX6_hasIn_41 : decode cX6_hasIn 41 = .ok (.aload 4, 2) := dk_25 4 (dk_at dksX6_hasIn_1 19 rfl rfl)
theorem dX6_hasIn_43 : decode cX6_hasIn 43 = .ok (.getfield 126, 3) := dk_180 0 126 (dk_at dksX6_hasIn_1 21 rfl rfl)
theorem dX6_hasIn_46 : decode cX6_hasIn 46 = .ok (.aload_n 1, 1) := dk_43 (dk_at dksX6_hasIn_2 0 rfl rfl)
theorem dX6_hasIn_47 : decode cX6_hasIn 47 = .ok (.invokevirtual 130, 3) := dk_182 0 130 (dk_at dksX6_hasIn_2 1 rfl rfl)
theorem dX6_hasIn_50 : decode cX6_hasIn 50 = .ok (.ifCond .eq 7, 3) := dk_153 0 7 (dk_at dksX6_hasIn_2 4 rfl rfl)
theorem dX6_hasIn_53 : decode cX6_hasIn 53 = .ok (.iconst 1, 1) := dk_4 (dk_at dksX6_hasIn_2 7 rfl rfl)
theorem dX6_hasIn_54 : decode cX6_hasIn 54 = .ok (.goto 4, 3) := dk_167 0 4 (dk_at dksX6_hasIn_2 8 rfl rfl)
theorem dX6_hasIn_57 : decode cX6_hasIn 57 = .ok (.iconst 0, 1) := dk_3 (dk_at dksX6_hasIn_2 11 rfl rfl)
theorem dX6_hasIn_58 : decode cX6_hasIn 58 = .ok (.ior, 1) := dk_128 (dk_at dksX6_hasIn_2 12 rfl rfl)
theorem dX6_hasIn_59 : decode cX6_hasIn 59 = .ok (.istore_n 2, 1) := dk_61 (dk_at dksX6_hasIn_2 13 rfl rfl)
theorem dX6_hasIn_60 : decode cX6_hasIn 60 = .ok (.goto (-48), 3) := dk_167 255 208 (dk_at dksX6_hasIn_2 14 rfl rfl)
theorem dX6_hasIn_63 : decode cX6_hasIn 63 = .ok (.iload_n 2, 1) := dk_28 (dk_at dksX6_hasIn_2 17 rfl rfl)
theorem dX6_hasIn_64 : decode cX6_hasIn 64 = .ok (.ireturn, 1) := dk_172 (dk_at dksX6_hasIn_2 18 rfl rfl)
abbrev cX6_heats : ByteArray := prog_7_method_9_code
def yX6_heats : MethodName := ⟨RX6, "heats", "()Ljava/util/List;"⟩
def dkwX6_heats_11 : List UInt8 := [167, 0, 4, 3, 126, 61, 167, 255, 86, 43, 176]
abbrev dktX6_heats_11 : List UInt8 := dkwX6_heats_11 ++ []
def dkwX6_heats_10 : List UInt8 := [25, 8, 25, 7, 185, 0, 65, 2, 0, 153, 0, 18, 43, 25, 8, 185, 0, 65, 2, 0, 153, 0, 7, 4]
abbrev dktX6_heats_10 : List UInt8 := dkwX6_heats_10 ++ dktX6_heats_11
def dkwX6_heats_9 : List UInt8 := [25, 9, 25, 7, 185, 0, 65, 2, 0, 126, 61, 167, 255, 129, 187, 0, 9, 89, 183, 0, 11, 58, 8, 28]
abbrev dktX6_heats_9 : List UInt8 := dkwX6_heats_9 ++ dktX6_heats_10
def dkwX6_heats_8 : List UInt8 := [192, 0, 121, 58, 11, 42, 25, 7, 25, 11, 182, 0, 142, 153, 0, 6, 167, 255, 177, 167, 255, 220, 28]
abbrev dktX6_heats_8 : List UInt8 := dkwX6_heats_8 ++ dktX6_heats_9
def dkwX6_heats_7 : List UInt8 := [185, 0, 108, 1, 0, 58, 10, 25, 10, 185, 0, 112, 1, 0, 153, 0, 32, 25, 10, 185, 0, 117, 1, 0]
abbrev dktX6_heats_7 : List UInt8 := dkwX6_heats_7 ++ dktX6_heats_8
def dkwX6_heats_6 : List UInt8 := [192, 0, 66, 58, 9, 25, 9, 185, 0, 76, 1, 0, 21, 5, 161, 0, 6, 167, 255, 222, 25, 9]
abbrev dktX6_heats_6 : List UInt8 := dkwX6_heats_6 ++ dktX6_heats_7
def dkwX6_heats_5 : List UInt8 := [185, 0, 108, 1, 0, 58, 8, 25, 8, 185, 0, 112, 1, 0, 153, 0, 93, 25, 8, 185, 0, 117, 1, 0]
abbrev dktX6_heats_5 : List UInt8 := dkwX6_heats_5 ++ dktX6_heats_6
def dkwX6_heats_4 : List UInt8 := [185, 0, 112, 1, 0, 153, 0, 166, 25, 6, 185, 0, 117, 1, 0, 192, 0, 121, 58, 7, 43]
abbrev dktX6_heats_4 : List UInt8 := dkwX6_heats_4 ++ dktX6_heats_5
def dkwX6_heats_3 : List UInt8 := [61, 132, 6, 1, 167, 255, 230, 42, 180, 0, 39, 180, 0, 75, 185, 0, 108, 1, 0, 58, 6, 25, 6]
abbrev dktX6_heats_3 : List UInt8 := dkwX6_heats_3 ++ dktX6_heats_4
def dkwX6_heats_2 : List UInt8 := [54, 6, 21, 6, 21, 4, 162, 0, 25, 28, 43, 187, 0, 9, 89, 183, 0, 11, 185, 0, 65, 2, 0, 126]
abbrev dktX6_heats_2 : List UInt8 := dkwX6_heats_2 ++ dktX6_heats_3
def dkwX6_heats_1 : List UInt8 := [154, 0, 5, 43, 176, 29, 42, 180, 0, 24, 184, 0, 95, 54, 4, 29, 21, 4, 184, 0, 95, 54, 5, 3]
abbrev dktX6_heats_1 : List UInt8 := dkwX6_heats_1 ++ dktX6_heats_2
def dkwX6_heats_0 : List UInt8 := [187, 0, 9, 89, 183, 0, 11, 76, 4, 61, 42, 180, 0, 39, 180, 0, 75, 185, 0, 76, 1, 0, 62, 29]
abbrev dktX6_heats_0 : List UInt8 := dkwX6_heats_0 ++ dktX6_heats_1
theorem dksX6_heats_0 : cX6_heats.data.toList.drop 0 = dktX6_heats_0 := by decide +kernel
theorem dksX6_heats_1 : cX6_heats.data.toList.drop 24 = dktX6_heats_1 := dk_seg dksX6_heats_0 24 rfl rfl
theorem dksX6_heats_2 : cX6_heats.data.toList.drop 48 = dktX6_heats_2 := dk_seg dksX6_heats_1 24 rfl rfl
theorem dksX6_heats_3 : cX6_heats.data.toList.drop 72 = dktX6_heats_3 := dk_seg dksX6_heats_2 24 rfl rfl
theorem dksX6_heats_4 : cX6_heats.data.toList.drop 95 = dktX6_heats_4 := dk_seg dksX6_heats_3 23 rfl rfl
theorem dksX6_heats_5 : cX6_heats.data.toList.drop 116 = dktX6_heats_5 := dk_seg dksX6_heats_4 21 rfl rfl
theorem dksX6_heats_6 : cX6_heats.data.toList.drop 140 = dktX6_heats_6 := dk_seg dksX6_heats_5 24 rfl rfl
theorem dksX6_heats_7 : cX6_heats.data.toList.drop 162 = dktX6_heats_7 := dk_seg dksX6_heats_6 22 rfl rfl
theorem dksX6_heats_8 : cX6_heats.data.toList.drop 186 = dktX6_heats_8 := dk_seg dksX6_heats_7 24 rfl rfl
theorem dksX6_heats_9 : cX6_heats.data.toList.drop 209 = dktX6_heats_9 := dk_seg dksX6_heats_8 23 rfl rfl
theorem dksX6_heats_10 : cX6_heats.data.toList.drop 233 = dktX6_heats_10 := dk_seg dksX6_heats_9 24 rfl rfl
theorem dksX6_heats_11 : cX6_heats.data.toList.drop 257 = dktX6_heats_11 := dk_seg dksX6_heats_10 24 rfl rfl
theorem dX6_heats_0 : decode cX6_heats 0 = .ok (.new 9, 3) := dk_187 0 9 (dk_at dksX6_heats_0 0 rfl rfl)
theorem dX6_heats_3 : decode cX6_heats 3 = .ok (.dup, 1) := dk_89 (dk_at dksX6_heats_0 3 rfl rfl)
theorem dX6_heats_4 : decode cX6_heats 4 = .ok (.invokespecial 11, 3) := dk_183 0 11 (dk_at dksX6_heats_0 4 rfl rfl)
theorem dX6_heats_7 : decode cX6_heats 7 = .ok (.astore_n 1, 1) := dk_76 (dk_at dksX6_heats_0 7 rfl rfl)
theorem dX6_heats_8 : decode cX6_heats 8 = .ok (.iconst 1, 1) := dk_4 (dk_at dksX6_heats_0 8 rfl rfl)
theorem dX6_heats_9 : decode cX6_heats 9 = .ok (.istore_n 2, 1) := dk_61 (dk_at dksX6_heats_0 9 rfl rfl)
theorem dX6_heats_10 : decode cX6_heats 10 = .ok (.aload_n 0, 1) := dk_42 (dk_at dksX6_heats_0 10 rfl rfl)
theorem dX6_heats_11 : decode cX6_heats 11 = .ok (.getfield 39, 3) := dk_180 0 39 (dk_at dksX6_heats_0 11 rfl rfl)
theorem dX6_heats_14 : decode cX6_heats 14 = .ok (.getfield 75, 3) := dk_180 0 75 (dk_at dksX6_heats_0 14 rfl rfl)
theorem dX6_heats_17 : decode cX6_heats 17 = .ok (.invokeinterface 76 1, 5) := by decide +kernel
theorem dX6_heats_22 : decode cX6_heats 22 = .ok (.istore_n 3, 1) := dk_62 (dk_at dksX6_heats_0 22 rfl rfl)
theorem dX6_heats_23 : decode cX6_heats 23 = .ok (.iload_n 3, 1) := dk_29 (dk_at dksX6_heats_0 23 rfl rfl)
theorem dX6_heats_24 : decode cX6_heats 24 = .ok (.ifCond .ne 5, 3) := dk_154 0 5 (dk_at dksX6_heats_1 0 rfl rfl)
theorem dX6_heats_27 : decode cX6_heats 27 = .ok (.aload_n 1, 1) := dk_43 (dk_at dksX6_heats_1 3 rfl rfl)
theorem dX6_heats_28 : decode cX6_heats 28 = .ok (.areturn, 1) := dk_176 (dk_at dksX6_heats_1 4 rfl rfl)
theorem dX6_heats_29 : decode cX6_heats 29 = .ok (.iload_n 3, 1) := dk_29 (dk_at dksX6_heats_1 5 rfl rfl)
theorem dX6_heats_30 : decode cX6_heats 30 = .ok (.aload_n 0, 1) := dk_42 (dk_at dksX6_heats_1 6 rfl rfl)
theorem dX6_heats_31 : decode cX6_heats 31 = .ok (.getfield 24, 3) := dk_180 0 24 (dk_at dksX6_heats_1 7 rfl rfl)
theorem dX6_heats_34 : decode cX6_heats 34 = .ok (.invokestatic 95, 3) := dk_184 0 95 (dk_at dksX6_heats_1 10 rfl rfl)
theorem dX6_heats_37 : decode cX6_heats 37 = .ok (.istore 4, 2) := dk_54 4 (dk_at dksX6_heats_1 13 rfl rfl)
theorem dX6_heats_39 : decode cX6_heats 39 = .ok (.iload_n 3, 1) := dk_29 (dk_at dksX6_heats_1 15 rfl rfl)
theorem dX6_heats_40 : decode cX6_heats 40 = .ok (.iload 4, 2) := dk_21 4 (dk_at dksX6_heats_1 16 rfl rfl)
theorem dX6_heats_42 : decode cX6_heats 42 = .ok (.invokestatic 95, 3) := dk_184 0 95 (dk_at dksX6_heats_1 18 rfl rfl)
theorem dX6_heats_45 : decode cX6_heats 45 = .ok (.istore 5, 2) := dk_54 5 (dk_at dksX6_heats_1 21 rfl rfl)
theorem dX6_heats_47 : decode cX6_heats 47 = .ok (.iconst 0, 1) := dk_3 (dk_at dksX6_heats_1 23 rfl rfl)
theorem dX6_heats_48 : decode cX6_heats 48 = .ok (.istore 6, 2) := dk_54 6 (dk_at dksX6_heats_2 0 rfl rfl)
theorem dX6_heats_50 : decode cX6_heats 50 = .ok (.iload 6, 2) := dk_21 6 (dk_at dksX6_heats_2 2 rfl rfl)
theorem dX6_heats_52 : decode cX6_heats 52 = .ok (.iload 4, 2) := dk_21 4 (dk_at dksX6_heats_2 4 rfl rfl)
theorem dX6_heats_54 : decode cX6_heats 54 = .ok (.if_icmp .ge 25, 3) := dk_162 0 25 (dk_at dksX6_heats_2 6 rfl rfl)
theorem dX6_heats_57 : decode cX6_heats 57 = .ok (.iload_n 2, 1) := dk_28 (dk_at dksX6_heats_2 9 rfl rfl)
theorem dX6_heats_58 : decode cX6_heats 58 = .ok (.aload_n 1, 1) := dk_43 (dk_at dksX6_heats_2 10 rfl rfl)
theorem dX6_heats_59 : decode cX6_heats 59 = .ok (.new 9, 3) := dk_187 0 9 (dk_at dksX6_heats_2 11 rfl rfl)
theorem dX6_heats_62 : decode cX6_heats 62 = .ok (.dup, 1) := dk_89 (dk_at dksX6_heats_2 14 rfl rfl)
theorem dX6_heats_63 : decode cX6_heats 63 = .ok (.invokespecial 11, 3) := dk_183 0 11 (dk_at dksX6_heats_2 15 rfl rfl)
theorem dX6_heats_66 : decode cX6_heats 66 = .ok (.invokeinterface 65 2, 5) := by decide +kernel
theorem dX6_heats_71 : decode cX6_heats 71 = .ok (.iand, 1) := dk_126 (dk_at dksX6_heats_2 23 rfl rfl)
theorem dX6_heats_72 : decode cX6_heats 72 = .ok (.istore_n 2, 1) := dk_61 (dk_at dksX6_heats_3 0 rfl rfl)
theorem dX6_heats_73 : decode cX6_heats 73 = .ok (.iinc 6 1, 3) := dk_132 6 1 (dk_at dksX6_heats_3 1 rfl rfl)
theorem dX6_heats_76 : decode cX6_heats 76 = .ok (.goto (-26), 3) := dk_167 255 230 (dk_at dksX6_heats_3 4 rfl rfl)
theorem dX6_heats_79 : decode cX6_heats 79 = .ok (.aload_n 0, 1) := dk_42 (dk_at dksX6_heats_3 7 rfl rfl)
theorem dX6_heats_80 : decode cX6_heats 80 = .ok (.getfield 39, 3) := dk_180 0 39 (dk_at dksX6_heats_3 8 rfl rfl)
theorem dX6_heats_83 : decode cX6_heats 83 = .ok (.getfield 75, 3) := dk_180 0 75 (dk_at dksX6_heats_3 11 rfl rfl)
theorem dX6_heats_86 : decode cX6_heats 86 = .ok (.invokeinterface 108 1, 5) := by decide +kernel
theorem dX6_heats_91 : decode cX6_heats 91 = .ok (.astore 6, 2) := dk_58 6 (dk_at dksX6_heats_3 19 rfl rfl)
theorem dX6_heats_93 : decode cX6_heats 93 = .ok (.aload 6, 2) := dk_25 6 (dk_at dksX6_heats_3 21 rfl rfl)
theorem dX6_heats_95 : decode cX6_heats 95 = .ok (.invokeinterface 112 1, 5) := by decide +kernel
theorem dX6_heats_100 : decode cX6_heats 100 = .ok (.ifCond .eq 166, 3) := dk_153 0 166 (dk_at dksX6_heats_4 5 rfl rfl)
theorem dX6_heats_103 : decode cX6_heats 103 = .ok (.aload 6, 2) := dk_25 6 (dk_at dksX6_heats_4 8 rfl rfl)
theorem dX6_heats_105 : decode cX6_heats 105 = .ok (.invokeinterface 117 1, 5) := by decide +kernel
theorem dX6_heats_110 : decode cX6_heats 110 = .ok (.checkcast 121, 3) := dk_192 0 121 (dk_at dksX6_heats_4 15 rfl rfl)
theorem dX6_heats_113 : decode cX6_heats 113 = .ok (.astore 7, 2) := dk_58 7 (dk_at dksX6_heats_4 18 rfl rfl)
theorem dX6_heats_115 : decode cX6_heats 115 = .ok (.aload_n 1, 1) := dk_43 (dk_at dksX6_heats_4 20 rfl rfl)
theorem dX6_heats_116 : decode cX6_heats 116 = .ok (.invokeinterface 108 1, 5) := by decide +kernel
theorem dX6_heats_121 : decode cX6_heats 121 = .ok (.astore 8, 2) := dk_58 8 (dk_at dksX6_heats_5 5 rfl rfl)
theorem dX6_heats_123 : decode cX6_heats 123 = .ok (.aload 8, 2) := dk_25 8 (dk_at dksX6_heats_5 7 rfl rfl)
theorem dX6_heats_125 : decode cX6_heats 125 = .ok (.invokeinterface 112 1, 5) := by decide +kernel
theorem dX6_heats_130 : decode cX6_heats 130 = .ok (.ifCond .eq 93, 3) := dk_153 0 93 (dk_at dksX6_heats_5 14 rfl rfl)
theorem dX6_heats_133 : decode cX6_heats 133 = .ok (.aload 8, 2) := dk_25 8 (dk_at dksX6_heats_5 17 rfl rfl)
theorem dX6_heats_135 : decode cX6_heats 135 = .ok (.invokeinterface 117 1, 5) := by decide +kernel
theorem dX6_heats_140 : decode cX6_heats 140 = .ok (.checkcast 66, 3) := dk_192 0 66 (dk_at dksX6_heats_6 0 rfl rfl)
theorem dX6_heats_143 : decode cX6_heats 143 = .ok (.astore 9, 2) := dk_58 9 (dk_at dksX6_heats_6 3 rfl rfl)
theorem dX6_heats_145 : decode cX6_heats 145 = .ok (.aload 9, 2) := dk_25 9 (dk_at dksX6_heats_6 5 rfl rfl)
theorem dX6_heats_147 : decode cX6_heats 147 = .ok (.invokeinterface 76 1, 5) := by decide +kernel
theorem dX6_heats_152 : decode cX6_heats 152 = .ok (.iload 5, 2) := dk_21 5 (dk_at dksX6_heats_6 12 rfl rfl)
theorem dX6_heats_154 : decode cX6_heats 154 = .ok (.if_icmp .lt 6, 3) := dk_161 0 6 (dk_at dksX6_heats_6 14 rfl rfl)
theorem dX6_heats_157 : decode cX6_heats 157 = .ok (.goto (-34), 3) := dk_167 255 222 (dk_at dksX6_heats_6 17 rfl rfl)
theorem dX6_heats_160 : decode cX6_heats 160 = .ok (.aload 9, 2) := dk_25 9 (dk_at dksX6_heats_6 20 rfl rfl)
theorem dX6_heats_162 : decode cX6_heats 162 = .ok (.invokeinterface 108 1, 5) := by decide +kernel
theorem dX6_heats_167 : decode cX6_heats 167 = .ok (.astore 10, 2) := dk_58 10 (dk_at dksX6_heats_7 5 rfl rfl)
theorem dX6_heats_169 : decode cX6_heats 169 = .ok (.aload 10, 2) := dk_25 10 (dk_at dksX6_heats_7 7 rfl rfl)
theorem dX6_heats_171 : decode cX6_heats 171 = .ok (.invokeinterface 112 1, 5) := by decide +kernel
theorem dX6_heats_176 : decode cX6_heats 176 = .ok (.ifCond .eq 32, 3) := dk_153 0 32 (dk_at dksX6_heats_7 14 rfl rfl)
theorem dX6_heats_179 : decode cX6_heats 179 = .ok (.aload 10, 2) := dk_25 10 (dk_at dksX6_heats_7 17 rfl rfl)
theorem dX6_heats_181 : decode cX6_heats 181 = .ok (.invokeinterface 117 1, 5) := by decide +kernel
theorem dX6_heats_186 : decode cX6_heats 186 = .ok (.checkcast 121, 3) := dk_192 0 121 (dk_at dksX6_heats_8 0 rfl rfl)
theorem dX6_heats_189 : decode cX6_heats 189 = .ok (.astore 11, 2) := dk_58 11 (dk_at dksX6_heats_8 3 rfl rfl)
theorem dX6_heats_191 : decode cX6_heats 191 = .ok (.aload_n 0, 1) := dk_42 (dk_at dksX6_heats_8 5 rfl rfl)
theorem dX6_heats_192 : decode cX6_heats 192 = .ok (.aload 7, 2) := dk_25 7 (dk_at dksX6_heats_8 6 rfl rfl)
theorem dX6_heats_194 : decode cX6_heats 194 = .ok (.aload 11, 2) := dk_25 11 (dk_at dksX6_heats_8 8 rfl rfl)
theorem dX6_heats_196 : decode cX6_heats 196 = .ok (.invokevirtual 142, 3) := dk_182 0 142 (dk_at dksX6_heats_8 10 rfl rfl)
theorem dX6_heats_199 : decode cX6_heats 199 = .ok (.ifCond .eq 6, 3) := dk_153 0 6 (dk_at dksX6_heats_8 13 rfl rfl)
theorem dX6_heats_202 : decode cX6_heats 202 = .ok (.goto (-79), 3) := dk_167 255 177 (dk_at dksX6_heats_8 16 rfl rfl)
theorem dX6_heats_205 : decode cX6_heats 205 = .ok (.goto (-36), 3) := dk_167 255 220 (dk_at dksX6_heats_8 19 rfl rfl)
theorem dX6_heats_208 : decode cX6_heats 208 = .ok (.iload_n 2, 1) := dk_28 (dk_at dksX6_heats_8 22 rfl rfl)
theorem dX6_heats_209 : decode cX6_heats 209 = .ok (.aload 9, 2) := dk_25 9 (dk_at dksX6_heats_9 0 rfl rfl)
theorem dX6_heats_211 : decode cX6_heats 211 = .ok (.aload 7, 2) := dk_25 7 (dk_at dksX6_heats_9 2 rfl rfl)
theorem dX6_heats_213 : decode cX6_heats 213 = .ok (.invokeinterface 65 2, 5) := by decide +kernel
theorem dX6_heats_218 : decode cX6_heats 218 = .ok (.iand, 1) := dk_126 (dk_at dksX6_heats_9 9 rfl rfl)
theorem dX6_heats_219 : decode cX6_heats 219 = .ok (.istore_n 2, 1) := dk_61 (dk_at dksX6_heats_9 10 rfl rfl)
theorem dX6_heats_220 : decode cX6_heats 220 = .ok (.goto (-127), 3) := dk_167 255 129 (dk_at dksX6_heats_9 11 rfl rfl)
theorem dX6_heats_223 : decode cX6_heats 223 = .ok (.new 9, 3) := dk_187 0 9 (dk_at dksX6_heats_9 14 rfl rfl)
theorem dX6_heats_226 : decode cX6_heats 226 = .ok (.dup, 1) := dk_89 (dk_at dksX6_heats_9 17 rfl rfl)
theorem dX6_heats_227 : decode cX6_heats 227 = .ok (.invokespecial 11, 3) := dk_183 0 11 (dk_at dksX6_heats_9 18 rfl rfl)
theorem dX6_heats_230 : decode cX6_heats 230 = .ok (.astore 8, 2) := dk_58 8 (dk_at dksX6_heats_9 21 rfl rfl)
theorem dX6_heats_232 : decode cX6_heats 232 = .ok (.iload_n 2, 1) := dk_28 (dk_at dksX6_heats_9 23 rfl rfl)
theorem dX6_heats_233 : decode cX6_heats 233 = .ok (.aload 8, 2) := dk_25 8 (dk_at dksX6_heats_10 0 rfl rfl)
theorem dX6_heats_235 : decode cX6_heats 235 = .ok (.aload 7, 2) := dk_25 7 (dk_at dksX6_heats_10 2 rfl rfl)
theorem dX6_heats_237 : decode cX6_heats 237 = .ok (.invokeinterface 65 2, 5) := by decide +kernel
theorem dX6_heats_242 : decode cX6_heats 242 = .ok (.ifCond .eq 18, 3) := dk_153 0 18 (dk_at dksX6_heats_10 9 rfl rfl)
theorem dX6_heats_245 : decode cX6_heats 245 = .ok (.aload_n 1, 1) := dk_43 (dk_at dksX6_heats_10 12 rfl rfl)
theorem dX6_heats_246 : decode cX6_heats 246 = .ok (.aload 8, 2) := dk_25 8 (dk_at dksX6_heats_10 13 rfl rfl)
theorem dX6_heats_248 : decode cX6_heats 248 = .ok (.invokeinterface 65 2, 5) := by decide +kernel
theorem dX6_heats_253 : decode cX6_heats 253 = .ok (.ifCond .eq 7, 3) := dk_153 0 7 (dk_at dksX6_heats_10 20 rfl rfl)
theorem dX6_heats_256 : decode cX6_heats 256 = .ok (.iconst 1, 1) := dk_4 (dk_at dksX6_heats_10 23 rfl rfl)
theorem dX6_heats_257 : decode cX6_heats 257 = .ok (.goto 4, 3) := dk_167 0 4 (dk_at dksX6_heats_11 0 rfl rfl)
theorem dX6_heats_260 : decode cX6_heats 260 = .ok (.iconst 0, 1) := dk_3 (dk_at dksX6_heats_11 3 rfl rfl)
theorem dX6_heats_261 : decode cX6_heats 261 = .ok (.iand, 1) := dk_126 (dk_at dksX6_heats_11 4 rfl rfl)
theorem dX6_heats_262 : decode cX6_heats 262 = .ok (.istore_n 2, 1) := dk_61 (dk_at dksX6_heats_11 5 rfl rfl)
theorem dX6_heats_263 : decode cX6_heats 263 = .ok (.goto (-170), 3) := dk_167 255 86 (dk_at dksX6_heats_11 6 rfl rfl)
theorem dX6_heats_266 : decode cX6_heats 266 = .ok (.aload_n 1, 1) := dk_43 (dk_at dksX6_heats_11 9 rfl rfl)
theorem dX6_heats_267 : decode cX6_heats 267 = .ok (.areturn, 1) := dk_176 (dk_at dksX6_heats_11 10 rfl rfl)
abbrev cX6_areApart : ByteArray := prog_7_method_8_code
def yX6_areApart : MethodName := ⟨RX6, "areApart", "(LScrutineery$Entry;LScrutineery$Entry;)Z"⟩
def dkwX6_areApart_2 : List UInt8 := [172]
abbrev dktX6_areApart_2 : List UInt8 := dkwX6_areApart_2 ++ []
def dkwX6_areApart_1 : List UInt8 := [21, 4, 185, 0, 104, 2, 0, 192, 0, 136, 43, 44, 182, 0, 138, 128, 62, 132, 4, 1, 167, 255, 217, 29]
abbrev dktX6_areApart_1 : List UInt8 := dkwX6_areApart_1 ++ dktX6_areApart_2
def dkwX6_areApart_0 : List UInt8 := [3, 62, 3, 54, 4, 21, 4, 42, 180, 0, 21, 185, 0, 76, 1, 0, 162, 0, 31, 29, 42, 180, 0, 21]
abbrev dktX6_areApart_0 : List UInt8 := dkwX6_areApart_0 ++ dktX6_areApart_1
theorem dksX6_areApart_0 : cX6_areApart.data.toList.drop 0 = dktX6_areApart_0 := by decide +kernel
theorem dksX6_areApart_1 : cX6_areApart.data.toList.drop 24 = dktX6_areApart_1 := dk_seg dksX6_areApart_0 24 rfl rfl
theorem dksX6_areApart_2 : cX6_areApart.data.toList.drop 48 = dktX6_areApart_2 := dk_seg dksX6_areApart_1 24 rfl rfl
theorem dX6_areApart_0 : decode cX6_areApart 0 = .ok (.iconst 0, 1) := dk_3 (dk_at dksX6_areApart_0 0 rfl rfl)
theorem dX6_areApart_1 : decode cX6_areApart 1 = .ok (.istore_n 3, 1) := dk_62 (dk_at dksX6_areApart_0 1 rfl rfl)
theorem dX6_areApart_2 : decode cX6_areApart 2 = .ok (.iconst 0, 1) := dk_3 (dk_at dksX6_areApart_0 2 rfl rfl)
theorem dX6_areApart_3 : decode cX6_areApart 3 = .ok (.istore 4, 2) := dk_54 4 (dk_at dksX6_areApart_0 3 rfl rfl)
theorem dX6_areApart_5 : decode cX6_areApart 5 = .ok (.iload 4, 2) := dk_21 4 (dk_at dksX6_areApart_0 5 rfl rfl)
theorem dX6_areApart_7 : decode cX6_areApart 7 = .ok (.aload_n 0, 1) := dk_42 (dk_at dksX6_areApart_0 7 rfl rfl)
theorem dX6_areApart_8 : decode cX6_areApart 8 = .ok (.getfield 21, 3) := dk_180 0 21 (dk_at dksX6_areApart_0 8 rfl rfl)
theorem dX6_areApart_11 : decode cX6_areApart 11 = .ok (.invokeinterface 76 1, 5) := by decide +kernel
theorem dX6_areApart_16 : decode cX6_areApart 16 = .ok (.if_icmp .ge 31, 3) := dk_162 0 31 (dk_at dksX6_areApart_0 16 rfl rfl)
theorem dX6_areApart_19 : decode cX6_areApart 19 = .ok (.iload_n 3, 1) := dk_29 (dk_at dksX6_areApart_0 19 rfl rfl)
theorem dX6_areApart_20 : decode cX6_areApart 20 = .ok (.aload_n 0, 1) := dk_42 (dk_at dksX6_areApart_0 20 rfl rfl)
theorem dX6_areApart_21 : decode cX6_areApart 21 = .ok (.getfield 21, 3) := dk_180 0 21 (dk_at dksX6_areApart_0 21 rfl rfl)
theorem dX6_areApart_24 : decode cX6_areApart 24 = .ok (.iload 4, 2) := dk_21 4 (dk_at dksX6_areApart_1 0 rfl rfl)
theorem dX6_areApart_26 : decode cX6_areApart 26 = .ok (.invokeinterface 104 2, 5) := by decide +kernel
theorem dX6_areApart_31 : decode cX6_areApart 31 = .ok (.checkcast 136, 3) := dk_192 0 136 (dk_at dksX6_areApart_1 7 rfl rfl)
theorem dX6_areApart_34 : decode cX6_areApart 34 = .ok (.aload_n 1, 1) := dk_43 (dk_at dksX6_areApart_1 10 rfl rfl)
theorem dX6_areApart_35 : decode cX6_areApart 35 = .ok (.aload_n 2, 1) := dk_44 (dk_at dksX6_areApart_1 11 rfl rfl)
theorem dX6_areApart_36 : decode cX6_areApart 36 = .ok (.invokevirtual 138, 3) := dk_182 0 138 (dk_at dksX6_areApart_1 12 rfl rfl)
theorem dX6_areApart_39 : decode cX6_areApart 39 = .ok (.ior, 1) := dk_128 (dk_at dksX6_areApart_1 15 rfl rfl)
theorem dX6_areApart_40 : decode cX6_areApart 40 = .ok (.istore_n 3, 1) := dk_62 (dk_at dksX6_areApart_1 16 rfl rfl)
theorem dX6_areApart_41 : decode cX6_areApart 41 = .ok (.iinc 4 1, 3) := dk_132 4 1 (dk_at dksX6_areApart_1 17 rfl rfl)
theorem dX6_areApart_44 : decode cX6_areApart 44 = .ok (.goto (-39), 3) := dk_167 255 217 (dk_at dksX6_areApart_1 20 rfl rfl)
theorem dX6_areApart_47 : decode cX6_areApart 47 = .ok (.iload_n 3, 1) := dk_29 (dk_at dksX6_areApart_1 23 rfl rfl)
theorem dX6_areApart_48 : decode cX6_areApart 48 = .ok (.ireturn, 1) := dk_172 (dk_at dksX6_areApart_2 0 rfl rfl)
abbrev cX6_wanted : ByteArray := prog_7_method_5_code
def yX6_wanted : MethodName := ⟨RX6, "wanted", "()I"⟩
def dkwX6_wanted_2 : List UInt8 := [184, 0, 95, 184, 0, 99, 172]
abbrev dktX6_wanted_2 : List UInt8 := dkwX6_wanted_2 ++ []
def dkwX6_wanted_1 : List UInt8 := [153, 0, 7, 3, 167, 0, 26, 42, 180, 0, 28, 42, 180, 0, 39, 180, 0, 75, 185, 0, 76, 1, 0, 5]
abbrev dktX6_wanted_1 : List UInt8 := dkwX6_wanted_1 ++ dktX6_wanted_2
def dkwX6_wanted_0 : List UInt8 := [42, 180, 0, 39, 182, 0, 71, 153, 0, 13, 42, 180, 0, 39, 180, 0, 92, 167, 0, 37, 42, 182, 0, 89]
abbrev dktX6_wanted_0 : List UInt8 := dkwX6_wanted_0 ++ dktX6_wanted_1
theorem dksX6_wanted_0 : cX6_wanted.data.toList.drop 0 = dktX6_wanted_0 := by decide +kernel
theorem dksX6_wanted_1 : cX6_wanted.data.toList.drop 24 = dktX6_wanted_1 := dk_seg dksX6_wanted_0 24 rfl rfl
theorem dksX6_wanted_2 : cX6_wanted.data.toList.drop 48 = dktX6_wanted_2 := dk_seg dksX6_wanted_1 24 rfl rfl
theorem dX6_wanted_0 : decode cX6_wanted 0 = .ok (.aload_n 0, 1) := dk_42 (dk_at dksX6_wanted_0 0 rfl rfl)
theorem dX6_wanted_1 : decode cX6_wanted 1 = .ok (.getfield 39, 3) := dk_180 0 39 (dk_at dksX6_wanted_0 1 rfl rfl)
theorem dX6_wanted_4 : decode cX6_wanted 4 = .ok (.invokevirtual 71, 3) := dk_182 0 71 (dk_at dksX6_wanted_0 4 rfl rfl)
theorem dX6_wanted_7 : decode cX6_wanted 7 = .ok (.ifCond .eq 13, 3) := dk_153 0 13 (dk_at dksX6_wanted_0 7 rfl rfl)
theorem dX6_wanted_10 : decode cX6_wanted 10 = .ok (.aload_n 0, 1) := dk_42 (dk_at dksX6_wanted_0 10 rfl rfl)
theorem dX6_wanted_11 : decode cX6_wanted 11 = .ok (.getfield 39, 3) := dk_180 0 39 (dk_at dksX6_wanted_0 11 rfl rfl)
theorem dX6_wanted_14 : decode cX6_wanted 14 = .ok (.getfield 92, 3) := dk_180 0 92 (dk_at dksX6_wanted_0 14 rfl rfl)
theorem dX6_wanted_17 : decode cX6_wanted 17 = .ok (.goto 37, 3) := dk_167 0 37 (dk_at dksX6_wanted_0 17 rfl rfl)
theorem dX6_wanted_20 : decode cX6_wanted 20 = .ok (.aload_n 0, 1) := dk_42 (dk_at dksX6_wanted_0 20 rfl rfl)
theorem dX6_wanted_21 : decode cX6_wanted 21 = .ok (.invokevirtual 89, 3) := dk_182 0 89 (dk_at dksX6_wanted_0 21 rfl rfl)
theorem dX6_wanted_24 : decode cX6_wanted 24 = .ok (.ifCond .eq 7, 3) := dk_153 0 7 (dk_at dksX6_wanted_1 0 rfl rfl)
theorem dX6_wanted_27 : decode cX6_wanted 27 = .ok (.iconst 0, 1) := dk_3 (dk_at dksX6_wanted_1 3 rfl rfl)
theorem dX6_wanted_28 : decode cX6_wanted 28 = .ok (.goto 26, 3) := dk_167 0 26 (dk_at dksX6_wanted_1 4 rfl rfl)
theorem dX6_wanted_31 : decode cX6_wanted 31 = .ok (.aload_n 0, 1) := dk_42 (dk_at dksX6_wanted_1 7 rfl rfl)
theorem dX6_wanted_32 : decode cX6_wanted 32 = .ok (.getfield 28, 3) := dk_180 0 28 (dk_at dksX6_wanted_1 8 rfl rfl)
theorem dX6_wanted_35 : decode cX6_wanted 35 = .ok (.aload_n 0, 1) := dk_42 (dk_at dksX6_wanted_1 11 rfl rfl)
theorem dX6_wanted_36 : decode cX6_wanted 36 = .ok (.getfield 39, 3) := dk_180 0 39 (dk_at dksX6_wanted_1 12 rfl rfl)
theorem dX6_wanted_39 : decode cX6_wanted 39 = .ok (.getfield 75, 3) := dk_180 0 75 (dk_at dksX6_wanted_1 15 rfl rfl)
theorem dX6_wanted_42 : decode cX6_wanted 42 = .ok (.invokeinterface 76 1, 5) := by decide +kernel
theorem dX6_wanted_47 : decode cX6_wanted 47 = .ok (.iconst 2, 1) := dk_5 (dk_at dksX6_wanted_1 23 rfl rfl)
theorem dX6_wanted_48 : decode cX6_wanted 48 = .ok (.invokestatic 95, 3) := dk_184 0 95 (dk_at dksX6_wanted_2 0 rfl rfl)
theorem dX6_wanted_51 : decode cX6_wanted 51 = .ok (.invokestatic 99, 3) := dk_184 0 99 (dk_at dksX6_wanted_2 3 rfl rfl)
theorem dX6_wanted_54 : decode cX6_wanted 54 = .ok (.ireturn, 1) := dk_172 (dk_at dksX6_wanted_2 6 rfl rfl)
abbrev cX6_isOver : ByteArray := prog_7_method_4_code
def yX6_isOver : MethodName := ⟨RX6, "isOver", "()Z"⟩
def dkwX6_isOver_0 : List UInt8 := [42, 180, 0, 83, 154, 0, 10, 42, 180, 0, 80, 153, 0, 7, 4, 167, 0, 4, 3, 172]
abbrev dktX6_isOver_0 : List UInt8 := dkwX6_isOver_0 ++ []
theorem dksX6_isOver_0 : cX6_isOver.data.toList.drop 0 = dktX6_isOver_0 := by decide +kernel
theorem dX6_isOver_0 : decode cX6_isOver 0 = .ok (.aload_n 0, 1) := dk_42 (dk_at dksX6_isOver_0 0 rfl rfl)
theorem dX6_isOver_1 : decode cX6_isOver 1 = .ok (.getfield 83, 3) := dk_180 0 83 (dk_at dksX6_isOver_0 1 rfl rfl)
theorem dX6_isOver_4 : decode cX6_isOver 4 = .ok (.ifCond .ne 10, 3) := dk_154 0 10 (dk_at dksX6_isOver_0 4 rfl rfl)
theorem dX6_isOver_7 : decode cX6_isOver 7 = .ok (.aload_n 0, 1) := dk_42 (dk_at dksX6_isOver_0 7 rfl rfl)
theorem dX6_isOver_8 : decode cX6_isOver 8 = .ok (.getfield 80, 3) := dk_180 0 80 (dk_at dksX6_isOver_0 8 rfl rfl)
theorem dX6_isOver_11 : decode cX6_isOver 11 = .ok (.ifCond .eq 7, 3) := dk_153 0 7 (dk_at dksX6_isOver_0 11 rfl rfl)
theorem dX6_isOver_14 : decode cX6_isOver 14 = .ok (.iconst 1, 1) := dk_4 (dk_at dksX6_isOver_0 14 rfl rfl)
theorem dX6_isOver_15 : decode cX6_isOver 15 = .ok (.goto 4, 3) := dk_167 0 4 (dk_at dksX6_isOver_0 15 rfl rfl)
theorem dX6_isOver_18 : decode cX6_isOver 18 = .ok (.iconst 0, 1) := dk_3 (dk_at dksX6_isOver_0 18 rfl rfl)
theorem dX6_isOver_19 : decode cX6_isOver 19 = .ok (.ireturn, 1) := dk_172 (dk_at dksX6_isOver_0 19 rfl rfl)
abbrev cX6_missing : ByteArray := prog_7_method_10_code
def yX6_missing : MethodName := ⟨RX6, "missing", "()I"⟩
def dkwX6_missing_2 : List UInt8 := [167, 0, 4, 3, 96, 60, 132, 3, 1, 167, 255, 217, 132, 2, 1, 167, 255, 201, 27, 172]
abbrev dktX6_missing_2 : List UInt8 := dkwX6_missing_2 ++ []
def dkwX6_missing_1 : List UInt8 := [185, 0, 76, 1, 0, 162, 0, 31, 27, 42, 180, 0, 39, 180, 0, 149, 28, 50, 29, 50, 199, 0, 7, 4]
abbrev dktX6_missing_1 : List UInt8 := dkwX6_missing_1 ++ dktX6_missing_2
def dkwX6_missing_0 : List UInt8 := [3, 60, 3, 61, 28, 42, 180, 0, 49, 162, 0, 53, 3, 62, 29, 42, 28, 182, 0, 145]
abbrev dktX6_missing_0 : List UInt8 := dkwX6_missing_0 ++ dktX6_missing_1
theorem dksX6_missing_0 : cX6_missing.data.toList.drop 0 = dktX6_missing_0 := by decide +kernel
theorem dksX6_missing_1 : cX6_missing.data.toList.drop 20 = dktX6_missing_1 := dk_seg dksX6_missing_0 20 rfl rfl
theorem dksX6_missing_2 : cX6_missing.data.toList.drop 44 = dktX6_missing_2 := dk_seg dksX6_missing_1 24 rfl rfl
theorem dX6_missing_0 : decode cX6_missing 0 = .ok (.iconst 0, 1) := dk_3 (dk_at dksX6_missing_0 0 rfl rfl)
theorem dX6_missing_1 : decode cX6_missing 1 = .ok (.istore_n 1, 1) := dk_60 (dk_at dksX6_missing_0 1 rfl rfl)
theorem dX6_missing_2 : decode cX6_missing 2 = .ok (.iconst 0, 1) := dk_3 (dk_at dksX6_missing_0 2 rfl rfl)
theorem dX6_missing_3 : decode cX6_missing 3 = .ok (.istore_n 2, 1) := dk_61 (dk_at dksX6_missing_0 3 rfl rfl)
theorem dX6_missing_4 : decode cX6_missing 4 = .ok (.iload_n 2, 1) := dk_28 (dk_at dksX6_missing_0 4 rfl rfl)
theorem dX6_missing_5 : decode cX6_missing 5 = .ok (.aload_n 0, 1) := dk_42 (dk_at dksX6_missing_0 5 rfl rfl)
theorem dX6_missing_6 : decode cX6_missing 6 = .ok (.getfield 49, 3) := dk_180 0 49 (dk_at dksX6_missing_0 6 rfl rfl)
theorem dX6_missing_9 : decode cX6_missing 9 = .ok (.if_icmp .ge 53, 3) := dk_162 0 53 (dk_at dksX6_missing_0 9 rfl rfl)
theorem dX6_missing_12 : decode cX6_missing 12 = .ok (.iconst 0, 1) := dk_3 (dk_at dksX6_missing_0 12 rfl rfl)
theorem dX6_missing_13 : decode cX6_missing 13 = .ok (.istore_n 3, 1) := dk_62 (dk_at dksX6_missing_0 13 rfl rfl)
theorem dX6_missing_14 : decode cX6_missing 14 = .ok (.iload_n 3, 1) := dk_29 (dk_at dksX6_missing_0 14 rfl rfl)
theorem dX6_missing_15 : decode cX6_missing 15 = .ok (.aload_n 0, 1) := dk_42 (dk_at dksX6_missing_0 15 rfl rfl)
theorem dX6_missing_16 : decode cX6_missing 16 = .ok (.iload_n 2, 1) := dk_28 (dk_at dksX6_missing_0 16 rfl rfl)
theorem dX6_missing_17 : decode cX6_missing 17 = .ok (.invokevirtual 145, 3) := dk_182 0 145 (dk_at dksX6_missing_0 17 rfl rfl)
theorem dX6_missing_20 : decode cX6_missing 20 = .ok (.invokeinterface 76 1, 5) := by decide +kernel
theorem dX6_missing_25 : decode cX6_missing 25 = .ok (.if_icmp .ge 31, 3) := dk_162 0 31 (dk_at dksX6_missing_1 5 rfl rfl)
theorem dX6_missing_28 : decode cX6_missing 28 = .ok (.iload_n 1, 1) := dk_27 (dk_at dksX6_missing_1 8 rfl rfl)
theorem dX6_missing_29 : decode cX6_missing 29 = .ok (.aload_n 0, 1) := dk_42 (dk_at dksX6_missing_1 9 rfl rfl)
theorem dX6_missing_30 : decode cX6_missing 30 = .ok (.getfield 39, 3) := dk_180 0 39 (dk_at dksX6_missing_1 10 rfl rfl)
theorem dX6_missing_33 : decode cX6_missing 33 = .ok (.getfield 149, 3) := dk_180 0 149 (dk_at dksX6_missing_1 13 rfl rfl)
theorem dX6_missing_36 : decode cX6_missing 36 = .ok (.iload_n 2, 1) := dk_28 (dk_at dksX6_missing_1 16 rfl rfl)
theorem dX6_missing_37 : decode cX6_missing 37 = .ok (.aaload, 1) := dk_50 (dk_at dksX6_missing_1 17 rfl rfl)
theorem dX6_missing_38 : decode cX6_missing 38 = .ok (.iload_n 3, 1) := dk_29 (dk_at dksX6_missing_1 18 rfl rfl)
theorem dX6_missing_39 : decode cX6_missing 39 = .ok (.aaload, 1) := dk_50 (dk_at dksX6_missing_1 19 rfl rfl)
theorem dX6_missing_40 : decode cX6_missing 40 = .ok (.ifnonnull 7, 3) := dk_199 0 7 (dk_at dksX6_missing_1 20 rfl rfl)
theorem dX6_missing_43 : decode cX6_missing 43 = .ok (.iconst 1, 1) := dk_4 (dk_at dksX6_missing_1 23 rfl rfl)
theorem dX6_missing_44 : decode cX6_missing 44 = .ok (.goto 4, 3) := dk_167 0 4 (dk_at dksX6_missing_2 0 rfl rfl)
theorem dX6_missing_47 : decode cX6_missing 47 = .ok (.iconst 0, 1) := dk_3 (dk_at dksX6_missing_2 3 rfl rfl)
theorem dX6_missing_48 : decode cX6_missing 48 = .ok (.iadd, 1) := dk_96 (dk_at dksX6_missing_2 4 rfl rfl)
theorem dX6_missing_49 : decode cX6_missing 49 = .ok (.istore_n 1, 1) := dk_60 (dk_at dksX6_missing_2 5 rfl rfl)
theorem dX6_missing_50 : decode cX6_missing 50 = .ok (.iinc 3 1, 3) := dk_132 3 1 (dk_at dksX6_missing_2 6 rfl rfl)
theorem dX6_missing_53 : decode cX6_missing 53 = .ok (.goto (-39), 3) := dk_167 255 217 (dk_at dksX6_missing_2 9 rfl rfl)
theorem dX6_missing_56 : decode cX6_missing 56 = .ok (.iinc 2 1, 3) := dk_132 2 1 (dk_at dksX6_missing_2 12 rfl rfl)
theorem dX6_missing_59 : decode cX6_missing 59 = .ok (.goto (-55), 3) := dk_167 255 201 (dk_at dksX6_missing_2 15 rfl rfl)
theorem dX6_missing_62 : decode cX6_missing 62 = .ok (.iload_n 1, 1) := dk_27 (dk_at dksX6_missing_2 18 rfl rfl)
theorem dX6_missing_63 : decode cX6_missing 63 = .ok (.ireturn, 1) := dk_172 (dk_at dksX6_missing_2 19 rfl rfl)
abbrev cX6_decides : ByteArray := prog_7_method_26_code
def yX6_decides : MethodName := ⟨RX6, "decides", "()V"⟩
def dkwX6_decides_17 : List UInt8 := [184, 1, 26, 185, 0, 65, 2, 0, 126, 62, 167, 255, 107, 177]
abbrev dktX6_decides_17 : List UInt8 := dkwX6_decides_17 ++ []
def dkwX6_decides_16 : List UInt8 := [192, 0, 66, 42, 180, 0, 31, 5, 42, 182, 1, 23, 104, 5, 96, 25, 5, 180, 0, 220, 100, 104]
abbrev dktX6_decides_16 : List UInt8 := dkwX6_decides_16 ++ dktX6_decides_17
def dkwX6_decides_15 : List UInt8 := [92, 46, 21, 6, 96, 79, 29, 25, 5, 180, 0, 126, 180, 1, 20, 42, 180, 0, 46, 185, 0, 104, 2, 0]
abbrev dktX6_decides_15 : List UInt8 := dkwX6_decides_15 ++ dktX6_decides_16
def dkwX6_decides_14 : List UInt8 := [180, 0, 46, 92, 46, 21, 6, 96, 79, 25, 5, 180, 0, 126, 180, 1, 17, 180, 1, 12, 42, 180, 0, 46]
abbrev dktX6_decides_14 : List UInt8 := dkwX6_decides_14 ++ dktX6_decides_15
def dkwX6_decides_13 : List UInt8 := [25, 5, 182, 1, 2, 184, 1, 5, 54, 6, 25, 5, 180, 0, 126, 180, 1, 8, 180, 1, 12, 42]
abbrev dktX6_decides_13 : List UInt8 := dkwX6_decides_13 ++ dktX6_decides_14
def dkwX6_decides_12 : List UInt8 := [180, 0, 123, 153, 0, 6, 167, 255, 226, 42, 180, 0, 61, 153, 0, 7, 3, 167, 0, 14, 16, 10, 42]
abbrev dktX6_decides_12 : List UInt8 := dkwX6_decides_12 ++ dktX6_decides_13
def dkwX6_decides_11 : List UInt8 := [185, 0, 112, 1, 0, 153, 0, 145, 25, 4, 185, 0, 117, 1, 0, 192, 0, 121, 58, 5, 25, 5]
abbrev dktX6_decides_11 : List UInt8 := dkwX6_decides_11 ++ dktX6_decides_12
def dkwX6_decides_10 : List UInt8 := [167, 255, 183, 42, 4, 181, 0, 83, 4, 62, 42, 180, 0, 12, 185, 0, 108, 1, 0, 58, 4, 25, 4]
abbrev dktX6_decides_10 : List UInt8 := dkwX6_decides_10 ++ dktX6_decides_11
def dkwX6_decides_9 : List UInt8 := [180, 0, 228, 4, 182, 0, 254, 104, 4, 96, 42, 25, 4, 180, 0, 228, 3, 182, 0, 254, 96, 181, 0, 220]
abbrev dktX6_decides_9 : List UInt8 := dkwX6_decides_9 ++ dktX6_decides_10
def dkwX6_decides_8 : List UInt8 := [154, 0, 48, 25, 4, 180, 0, 228, 42, 180, 0, 39, 180, 0, 253, 162, 0, 33, 25, 4, 5, 42, 25, 4]
abbrev dktX6_decides_8 : List UInt8 := dkwX6_decides_8 ++ dktX6_decides_9
def dkwX6_decides_7 : List UInt8 := [185, 0, 112, 1, 0, 153, 0, 70, 45, 185, 0, 117, 1, 0, 192, 0, 121, 58, 4, 25, 4, 180, 0, 123]
abbrev dktX6_decides_7 : List UInt8 := dkwX6_decides_7 ++ dktX6_decides_8
def dkwX6_decides_6 : List UInt8 := [185, 0, 249, 2, 0, 54, 4, 167, 255, 216, 42, 180, 0, 12, 185, 0, 108, 1, 0, 78, 45]
abbrev dktX6_decides_6 : List UInt8 := dkwX6_decides_6 ++ dktX6_decides_7
def dkwX6_decides_5 : List UInt8 := [186, 0, 238, 0, 0, 184, 0, 203, 78, 42, 45, 28, 182, 0, 241, 61, 43, 45, 186, 0, 245, 0, 0]
abbrev dktX6_decides_5 : List UInt8 := dkwX6_decides_5 ++ dktX6_decides_6
def dkwX6_decides_4 : List UInt8 := [180, 0, 39, 180, 0, 75, 183, 0, 208, 76, 4, 61, 43, 185, 0, 211, 1, 0, 154, 0, 37, 43]
abbrev dktX6_decides_4 : List UInt8 := dkwX6_decides_4 ++ dktX6_decides_5
def dkwX6_decides_3 : List UInt8 := [44, 180, 0, 183, 29, 46, 96, 181, 0, 235, 132, 3, 1, 167, 255, 230, 167, 255, 206, 187, 0, 9, 89, 42]
abbrev dktX6_decides_3 : List UInt8 := dkwX6_decides_3 ++ dktX6_decides_4
def dkwX6_decides_2 : List UInt8 := [185, 0, 117, 1, 0, 192, 0, 121, 77, 3, 62, 29, 42, 180, 0, 49, 162, 0, 24, 44, 89, 180, 0, 235]
abbrev dktX6_decides_2 : List UInt8 := dkwX6_decides_2 ++ dktX6_decides_3
def dkwX6_decides_1 : List UInt8 := [180, 0, 39, 180, 0, 75, 185, 0, 108, 1, 0, 76, 43, 185, 0, 112, 1, 0, 153, 0, 47, 43]
abbrev dktX6_decides_1 : List UInt8 := dkwX6_decides_1 ++ dktX6_decides_2
def dkwX6_decides_0 : List UInt8 := [3, 60, 27, 42, 180, 0, 49, 162, 0, 14, 42, 27, 182, 0, 231, 132, 1, 1, 167, 255, 240, 42]
abbrev dktX6_decides_0 : List UInt8 := dkwX6_decides_0 ++ dktX6_decides_1
theorem dksX6_decides_0 : cX6_decides.data.toList.drop 0 = dktX6_decides_0 := by decide +kernel
theorem dksX6_decides_1 : cX6_decides.data.toList.drop 22 = dktX6_decides_1 := dk_seg dksX6_decides_0 22 rfl rfl
theorem dksX6_decides_2 : cX6_decides.data.toList.drop 44 = dktX6_decides_2 := dk_seg dksX6_decides_1 22 rfl rfl
theorem dksX6_decides_3 : cX6_decides.data.toList.drop 68 = dktX6_decides_3 := dk_seg dksX6_decides_2 24 rfl rfl
theorem dksX6_decides_4 : cX6_decides.data.toList.drop 92 = dktX6_decides_4 := dk_seg dksX6_decides_3 24 rfl rfl
theorem dksX6_decides_5 : cX6_decides.data.toList.drop 114 = dktX6_decides_5 := dk_seg dksX6_decides_4 22 rfl rfl
theorem dksX6_decides_6 : cX6_decides.data.toList.drop 137 = dktX6_decides_6 := dk_seg dksX6_decides_5 23 rfl rfl
theorem dksX6_decides_7 : cX6_decides.data.toList.drop 158 = dktX6_decides_7 := dk_seg dksX6_decides_6 21 rfl rfl
theorem dksX6_decides_8 : cX6_decides.data.toList.drop 182 = dktX6_decides_8 := dk_seg dksX6_decides_7 24 rfl rfl
theorem dksX6_decides_9 : cX6_decides.data.toList.drop 206 = dktX6_decides_9 := dk_seg dksX6_decides_8 24 rfl rfl
theorem dksX6_decides_10 : cX6_decides.data.toList.drop 230 = dktX6_decides_10 := dk_seg dksX6_decides_9 24 rfl rfl
theorem dksX6_decides_11 : cX6_decides.data.toList.drop 253 = dktX6_decides_11 := dk_seg dksX6_decides_10 23 rfl rfl
theorem dksX6_decides_12 : cX6_decides.data.toList.drop 275 = dktX6_decides_12 := dk_seg dksX6_decides_11 22 rfl rfl
theorem dksX6_decides_13 : cX6_decides.data.toList.drop 298 = dktX6_decides_13 := dk_seg dksX6_decides_12 23 rfl rfl
theorem dksX6_decides_14 : cX6_decides.data.toList.drop 320 = dktX6_decides_14 := dk_seg dksX6_decides_13 22 rfl rfl
theorem dksX6_decides_15 : cX6_decides.data.toList.drop 344 = dktX6_decides_15 := dk_seg dksX6_decides_14 24 rfl rfl
theorem dksX6_decides_16 : cX6_decides.data.toList.drop 368 = dktX6_decides_16 := dk_seg dksX6_decides_15 24 rfl rfl
theorem dksX6_decides_17 : cX6_decides.data.toList.drop 390 = dktX6_decides_17 := dk_seg dksX6_decides_16 22 rfl rfl
theorem dX6_decides_0 : decode cX6_decides 0 = .ok (.iconst 0, 1) := dk_3 (dk_at dksX6_decides_0 0 rfl rfl)
theorem dX6_decides_1 : decode cX6_decides 1 = .ok (.istore_n 1, 1) := dk_60 (dk_at dksX6_decides_0 1 rfl rfl)
theorem dX6_decides_2 : decode cX6_decides 2 = .ok (.iload_n 1, 1) := dk_27 (dk_at dksX6_decides_0 2 rfl rfl)
theorem dX6_decides_3 : decode cX6_decides 3 = .ok (.aload_n 0, 1) := dk_42 (dk_at dksX6_decides_0 3 rfl rfl)
theorem dX6_decides_4 : decode cX6_decides 4 = .ok (.getfield 49, 3) := dk_180 0 49 (dk_at dksX6_decides_0 4 rfl rfl)
theorem dX6_decides_7 : decode cX6_decides 7 = .ok (.if_icmp .ge 14, 3) := dk_162 0 14 (dk_at dksX6_decides_0 7 rfl rfl)
theorem dX6_decides_10 : decode cX6_decides 10 = .ok (.aload_n 0, 1) := dk_42 (dk_at dksX6_decides_0 10 rfl rfl)
theorem dX6_decides_11 : decode cX6_decides 11 = .ok (.iload_n 1, 1) := dk_27 (dk_at dksX6_decides_0 11 rfl rfl)
theorem dX6_decides_12 : decode cX6_decides 12 = .ok (.invokevirtual 231, 3) := dk_182 0 231 (dk_at dksX6_decides_0 12 rfl rfl)
theorem dX6_decides_15 : decode cX6_decides 15 = .ok (.iinc 1 1, 3) := dk_132 1 1 (dk_at dksX6_decides_0 15 rfl rfl)
theorem dX6_decides_18 : decode cX6_decides 18 = .ok (.goto (-16), 3) := dk_167 255 240 (dk_at dksX6_decides_0 18 rfl rfl)
theorem dX6_decides_21 : decode cX6_decides 21 = .ok (.aload_n 0, 1) := dk_42 (dk_at dksX6_decides_0 21 rfl rfl)
theorem dX6_decides_22 : decode cX6_decides 22 = .ok (.getfield 39, 3) := dk_180 0 39 (dk_at dksX6_decides_1 0 rfl rfl)
theorem dX6_decides_25 : decode cX6_decides 25 = .ok (.getfield 75, 3) := dk_180 0 75 (dk_at dksX6_decides_1 3 rfl rfl)
theorem dX6_decides_28 : decode cX6_decides 28 = .ok (.invokeinterface 108 1, 5) := by decide +kernel
theorem dX6_decides_33 : decode cX6_decides 33 = .ok (.astore_n 1, 1) := dk_76 (dk_at dksX6_decides_1 11 rfl rfl)
theorem dX6_decides_34 : decode cX6_decides 34 = .ok (.aload_n 1, 1) := dk_43 (dk_at dksX6_decides_1 12 rfl rfl)
theorem dX6_decides_35 : decode cX6_decides 35 = .ok (.invokeinterface 112 1, 5) := by decide +kernel
theorem dX6_decides_40 : decode cX6_decides 40 = .ok (.ifCond .eq 47, 3) := dk_153 0 47 (dk_at dksX6_decides_1 18 rfl rfl)
theorem dX6_decides_43 : decode cX6_decides 43 = .ok (.aload_n 1, 1) := dk_43 (dk_at dksX6_decides_1 21 rfl rfl)
theorem dX6_decides_44 : decode cX6_decides 44 = .ok (.invokeinterface 117 1, 5) := by decide +kernel
theorem dX6_decides_49 : decode cX6_decides 49 = .ok (.checkcast 121, 3) := dk_192 0 121 (dk_at dksX6_decides_2 5 rfl rfl)
theorem dX6_decides_52 : decode cX6_decides 52 = .ok (.astore_n 2, 1) := dk_77 (dk_at dksX6_decides_2 8 rfl rfl)
theorem dX6_decides_53 : decode cX6_decides 53 = .ok (.iconst 0, 1) := dk_3 (dk_at dksX6_decides_2 9 rfl rfl)
theorem dX6_decides_54 : decode cX6_decides 54 = .ok (.istore_n 3, 1) := dk_62 (dk_at dksX6_decides_2 10 rfl rfl)
theorem dX6_decides_55 : decode cX6_decides 55 = .ok (.iload_n 3, 1) := dk_29 (dk_at dksX6_decides_2 11 rfl rfl)
theorem dX6_decides_56 : decode cX6_decides 56 = .ok (.aload_n 0, 1) := dk_42 (dk_at dksX6_decides_2 12 rfl rfl)
theorem dX6_decides_57 : decode cX6_decides 57 = .ok (.getfield 49, 3) := dk_180 0 49 (dk_at dksX6_decides_2 13 rfl rfl)
theorem dX6_decides_60 : decode cX6_decides 60 = .ok (.if_icmp .ge 24, 3) := dk_162 0 24 (dk_at dksX6_decides_2 16 rfl rfl)
theorem dX6_decides_63 : decode cX6_decides 63 = .ok (.aload_n 2, 1) := dk_44 (dk_at dksX6_decides_2 19 rfl rfl)
theorem dX6_decides_64 : decode cX6_decides 64 = .ok (.dup, 1) := dk_89 (dk_at dksX6_decides_2 20 rfl rfl)
theorem dX6_decides_65 : decode cX6_decides 65 = .ok (.getfield 235, 3) := dk_180 0 235 (dk_at dksX6_decides_2 21 rfl rfl)
theorem dX6_decides_68 : decode cX6_decides 68 = .ok (.aload_n 2, 1) := dk_44 (dk_at dksX6_decides_3 0 rfl rfl)
theorem dX6_decides_69 : decode cX6_decides 69 = .ok (.getfield 183, 3) := dk_180 0 183 (dk_at dksX6_decides_3 1 rfl rfl)
theorem dX6_decides_72 : decode cX6_decides 72 = .ok (.iload_n 3, 1) := dk_29 (dk_at dksX6_decides_3 4 rfl rfl)
theorem dX6_decides_73 : decode cX6_decides 73 = .ok (.iaload, 1) := dk_46 (dk_at dksX6_decides_3 5 rfl rfl)
theorem dX6_decides_74 : decode cX6_decides 74 = .ok (.iadd, 1) := dk_96 (dk_at dksX6_decides_3 6 rfl rfl)
theorem dX6_decides_75 : decode cX6_decides 75 = .ok (.putfield 235, 3) := dk_181 0 235 (dk_at dksX6_decides_3 7 rfl rfl)
theorem dX6_decides_78 : decode cX6_decides 78 = .ok (.iinc 3 1, 3) := dk_132 3 1 (dk_at dksX6_decides_3 10 rfl rfl)
theorem dX6_decides_81 : decode cX6_decides 81 = .ok (.goto (-26), 3) := dk_167 255 230 (dk_at dksX6_decides_3 13 rfl rfl)
theorem dX6_decides_84 : decode cX6_decides 84 = .ok (.goto (-50), 3) := dk_167 255 206 (dk_at dksX6_decides_3 16 rfl rfl)
theorem dX6_decides_87 : decode cX6_decides 87 = .ok (.new 9, 3) := dk_187 0 9 (dk_at dksX6_decides_3 19 rfl rfl)
theorem dX6_decides_90 : decode cX6_decides 90 = .ok (.dup, 1) := dk_89 (dk_at dksX6_decides_3 22 rfl rfl)
theorem dX6_decides_91 : decode cX6_decides 91 = .ok (.aload_n 0, 1) := dk_42 (dk_at dksX6_decides_3 23 rfl rfl)
theorem dX6_decides_92 : decode cX6_decides 92 = .ok (.getfield 39, 3) := dk_180 0 39 (dk_at dksX6_decides_4 0 rfl rfl)
theorem dX6_decides_95 : decode cX6_decides 95 = .ok (.getfield 75, 3) := dk_180 0 75 (dk_at dksX6_decides_4 3 rfl rfl)
theorem dX6_decides_98 : decode cX6_decides 98 = .ok (.invokespecial 208, 3) := dk_183 0 208 (dk_at dksX6_decides_4 6 rfl rfl)
theorem dX6_decides_101 : decode cX6_decides 101 = .ok (.astore_n 1, 1) := dk_76 (dk_at dksX6_decides_4 9 rfl rfl)
theorem dX6_decides_102 : decode cX6_decides 102 = .ok (.iconst 1, 1) := dk_4 (dk_at dksX6_decides_4 10 rfl rfl)
theorem dX6_decides_103 : decode cX6_decides 103 = .ok (.istore_n 2, 1) := dk_61 (dk_at dksX6_decides_4 11 rfl rfl)
theorem dX6_decides_104 : decode cX6_decides 104 = .ok (.aload_n 1, 1) := dk_43 (dk_at dksX6_decides_4 12 rfl rfl)
theorem dX6_decides_105 : decode cX6_decides 105 = .ok (.invokeinterface 211 1, 5) := by decide +kernel
theorem dX6_decides_110 : decode cX6_decides 110 = .ok (.ifCond .ne 37, 3) := dk_154 0 37 (dk_at dksX6_decides_4 18 rfl rfl)
theorem dX6_decides_113 : decode cX6_decides 113 = .ok (.aload_n 1, 1) := dk_43 (dk_at dksX6_decides_4 21 rfl rfl)
theorem dX6_decides_114 : decode cX6_decides 114 = .ok (.invokedynamic 238, 5) := by decide +kernel
theorem dX6_decides_119 : decode cX6_decides 119 = .ok (.invokestatic 203, 3) := dk_184 0 203 (dk_at dksX6_decides_5 5 rfl rfl)
theorem dX6_decides_122 : decode cX6_decides 122 = .ok (.astore_n 3, 1) := dk_78 (dk_at dksX6_decides_5 8 rfl rfl)
theorem dX6_decides_123 : decode cX6_decides 123 = .ok (.aload_n 0, 1) := dk_42 (dk_at dksX6_decides_5 9 rfl rfl)
theorem dX6_decides_124 : decode cX6_decides 124 = .ok (.aload_n 3, 1) := dk_45 (dk_at dksX6_decides_5 10 rfl rfl)
theorem dX6_decides_125 : decode cX6_decides 125 = .ok (.iload_n 2, 1) := dk_28 (dk_at dksX6_decides_5 11 rfl rfl)
theorem dX6_decides_126 : decode cX6_decides 126 = .ok (.invokevirtual 241, 3) := dk_182 0 241 (dk_at dksX6_decides_5 12 rfl rfl)
theorem dX6_decides_129 : decode cX6_decides 129 = .ok (.istore_n 2, 1) := dk_61 (dk_at dksX6_decides_5 15 rfl rfl)
theorem dX6_decides_130 : decode cX6_decides 130 = .ok (.aload_n 1, 1) := dk_43 (dk_at dksX6_decides_5 16 rfl rfl)
theorem dX6_decides_131 : decode cX6_decides 131 = .ok (.aload_n 3, 1) := dk_45 (dk_at dksX6_decides_5 17 rfl rfl)
theorem dX6_decides_132 : decode cX6_decides 132 = .ok (.invokedynamic 245, 5) := by decide +kernel
theorem dX6_decides_137 : decode cX6_decides 137 = .ok (.invokeinterface 249 2, 5) := by decide +kernel
theorem dX6_decides_142 : decode cX6_decides 142 = .ok (.istore 4, 2) := dk_54 4 (dk_at dksX6_decides_6 5 rfl rfl)
theorem dX6_decides_144 : decode cX6_decides 144 = .ok (.goto (-40), 3) := dk_167 255 216 (dk_at dksX6_decides_6 7 rfl rfl)
theorem dX6_decides_147 : decode cX6_decides 147 = .ok (.aload_n 0, 1) := dk_42 (dk_at dksX6_decides_6 10 rfl rfl)
theorem dX6_decides_148 : decode cX6_decides 148 = .ok (.getfield 12, 3) := dk_180 0 12 (dk_at dksX6_decides_6 11 rfl rfl)
theorem dX6_decides_151 : decode cX6_decides 151 = .ok (.invokeinterface 108 1, 5) := by decide +kernel
theorem dX6_decides_156 : decode cX6_decides 156 = .ok (.astore_n 3, 1) := dk_78 (dk_at dksX6_decides_6 19 rfl rfl)
theorem dX6_decides_157 : decode cX6_decides 157 = .ok (.aload_n 3, 1) := dk_45 (dk_at dksX6_decides_6 20 rfl rfl)
theorem dX6_decides_158 : decode cX6_decides 158 = .ok (.invokeinterface 112 1, 5) := by decide +kernel
theorem dX6_decides_163 : decode cX6_decides 163 = .ok (.ifCond .eq 70, 3) := dk_153 0 70 (dk_at dksX6_decides_7 5 rfl rfl)
theorem dX6_decides_166 : decode cX6_decides 166 = .ok (.aload_n 3, 1) := dk_45 (dk_at dksX6_decides_7 8 rfl rfl)
theorem dX6_decides_167 : decode cX6_decides 167 = .ok (.invokeinterface 117 1, 5) := by decide +kernel
theorem dX6_decides_172 : decode cX6_decides 172 = .ok (.checkcast 121, 3) := dk_192 0 121 (dk_at dksX6_decides_7 14 rfl rfl)
theorem dX6_decides_175 : decode cX6_decides 175 = .ok (.astore 4, 2) := dk_58 4 (dk_at dksX6_decides_7 17 rfl rfl)
theorem dX6_decides_177 : decode cX6_decides 177 = .ok (.aload 4, 2) := dk_25 4 (dk_at dksX6_decides_7 19 rfl rfl)
theorem dX6_decides_179 : decode cX6_decides 179 = .ok (.getfield 123, 3) := dk_180 0 123 (dk_at dksX6_decides_7 21 rfl rfl)
theorem dX6_decides_182 : decode cX6_decides 182 = .ok (.ifCond .ne 48, 3) := dk_154 0 48 (dk_at dksX6_decides_8 0 rfl rfl)
theorem dX6_decides_185 : decode cX6_decides 185 = .ok (.aload 4, 2) := dk_25 4 (dk_at dksX6_decides_8 3 rfl rfl)
theorem dX6_decides_187 : decode cX6_decides 187 = .ok (.getfield 228, 3) := dk_180 0 228 (dk_at dksX6_decides_8 5 rfl rfl)
theorem dX6_decides_190 : decode cX6_decides 190 = .ok (.aload_n 0, 1) := dk_42 (dk_at dksX6_decides_8 8 rfl rfl)
theorem dX6_decides_191 : decode cX6_decides 191 = .ok (.getfield 39, 3) := dk_180 0 39 (dk_at dksX6_decides_8 9 rfl rfl)
theorem dX6_decides_194 : decode cX6_decides 194 = .ok (.getfield 253, 3) := dk_180 0 253 (dk_at dksX6_decides_8 12 rfl rfl)
theorem dX6_decides_197 : decode cX6_decides 197 = .ok (.if_icmp .ge 33, 3) := dk_162 0 33 (dk_at dksX6_decides_8 15 rfl rfl)
theorem dX6_decides_200 : decode cX6_decides 200 = .ok (.aload 4, 2) := dk_25 4 (dk_at dksX6_decides_8 18 rfl rfl)
theorem dX6_decides_202 : decode cX6_decides 202 = .ok (.iconst 2, 1) := dk_5 (dk_at dksX6_decides_8 20 rfl rfl)
theorem dX6_decides_203 : decode cX6_decides 203 = .ok (.aload_n 0, 1) := dk_42 (dk_at dksX6_decides_8 21 rfl rfl)
theorem dX6_decides_204 : decode cX6_decides 204 = .ok (.aload 4, 2) := dk_25 4 (dk_at dksX6_decides_8 22 rfl rfl)
theorem dX6_decides_206 : decode cX6_decides 206 = .ok (.getfield 228, 3) := dk_180 0 228 (dk_at dksX6_decides_9 0 rfl rfl)
theorem dX6_decides_209 : decode cX6_decides 209 = .ok (.iconst 1, 1) := dk_4 (dk_at dksX6_decides_9 3 rfl rfl)
theorem dX6_decides_210 : decode cX6_decides 210 = .ok (.invokevirtual 254, 3) := dk_182 0 254 (dk_at dksX6_decides_9 4 rfl rfl)
theorem dX6_decides_213 : decode cX6_decides 213 = .ok (.imul, 1) := dk_104 (dk_at dksX6_decides_9 7 rfl rfl)
theorem dX6_decides_214 : decode cX6_decides 214 = .ok (.iconst 1, 1) := dk_4 (dk_at dksX6_decides_9 8 rfl rfl)
theorem dX6_decides_215 : decode cX6_decides 215 = .ok (.iadd, 1) := dk_96 (dk_at dksX6_decides_9 9 rfl rfl)
theorem dX6_decides_216 : decode cX6_decides 216 = .ok (.aload_n 0, 1) := dk_42 (dk_at dksX6_decides_9 10 rfl rfl)
theorem dX6_decides_217 : decode cX6_decides 217 = .ok (.aload 4, 2) := dk_25 4 (dk_at dksX6_decides_9 11 rfl rfl)
theorem dX6_decides_219 : decode cX6_decides 219 = .ok (.getfield 228, 3) := dk_180 0 228 (dk_at dksX6_decides_9 13 rfl rfl)
theorem dX6_decides_222 : decode cX6_decides 222 = .ok (.iconst 0, 1) := dk_3 (dk_at dksX6_decides_9 16 rfl rfl)
theorem dX6_decides_223 : decode cX6_decides 223 = .ok (.invokevirtual 254, 3) := dk_182 0 254 (dk_at dksX6_decides_9 17 rfl rfl)
theorem dX6_decides_226 : decode cX6_decides 226 = .ok (.iadd, 1) := dk_96 (dk_at dksX6_decides_9 20 rfl rfl)
theorem dX6_decides_227 : decode cX6_decides 227 = .ok (.putfield 220, 3) := dk_181 0 220 (dk_at dksX6_decides_9 21 rfl rfl)
theorem dX6_decides_230 : decode cX6_decides 230 = .ok (.goto (-73), 3) := dk_167 255 183 (dk_at dksX6_decides_10 0 rfl rfl)
theorem dX6_decides_233 : decode cX6_decides 233 = .ok (.aload_n 0, 1) := dk_42 (dk_at dksX6_decides_10 3 rfl rfl)
theorem dX6_decides_234 : decode cX6_decides 234 = .ok (.iconst 1, 1) := dk_4 (dk_at dksX6_decides_10 4 rfl rfl)
theorem dX6_decides_235 : decode cX6_decides 235 = .ok (.putfield 83, 3) := dk_181 0 83 (dk_at dksX6_decides_10 5 rfl rfl)
theorem dX6_decides_238 : decode cX6_decides 238 = .ok (.iconst 1, 1) := dk_4 (dk_at dksX6_decides_10 8 rfl rfl)
theorem dX6_decides_239 : decode cX6_decides 239 = .ok (.istore_n 3, 1) := dk_62 (dk_at dksX6_decides_10 9 rfl rfl)
theorem dX6_decides_240 : decode cX6_decides 240 = .ok (.aload_n 0, 1) := dk_42 (dk_at dksX6_decides_10 10 rfl rfl)
theorem dX6_decides_241 : decode cX6_decides 241 = .ok (.getfield 12, 3) := dk_180 0 12 (dk_at dksX6_decides_10 11 rfl rfl)
theorem dX6_decides_244 : decode cX6_decides 244 = .ok (.invokeinterface 108 1, 5) := by decide +kernel
theorem dX6_decides_249 : decode cX6_decides 249 = .ok (.astore 4, 2) := dk_58 4 (dk_at dksX6_decides_10 19 rfl rfl)
theorem dX6_decides_251 : decode cX6_decides 251 = .ok (.aload 4, 2) := dk_25 4 (dk_at dksX6_decides_10 21 rfl rfl)
theorem dX6_decides_253 : decode cX6_decides 253 = .ok (.invokeinterface 112 1, 5) := by decide +kernel
theorem dX6_decides_258 : decode cX6_decides 258 = .ok (.ifCond .eq 145, 3) := dk_153 0 145 (dk_at dksX6_decides_11 5 rfl rfl)
theorem dX6_decides_261 : decode cX6_decides 261 = .ok (.aload 4, 2) := dk_25 4 (dk_at dksX6_decides_11 8 rfl rfl)
theorem dX6_decides_263 : decode cX6_decides 263 = .ok (.invokeinterface 117 1, 5) := by decide +kernel
theorem dX6_decides_268 : decode cX6_decides 268 = .ok (.checkcast 121, 3) := dk_192 0 121 (dk_at dksX6_decides_11 15 rfl rfl)
theorem dX6_decides_271 : decode cX6_decides 271 = .ok (.astore 5, 2) := dk_58 5 (dk_at dksX6_decides_11 18 rfl rfl)
theorem dX6_decides_273 : decode cX6_decides 273 = .ok (.aload 5, 2) := dk_25 5 (dk_at dksX6_decides_11 20 rfl rfl)
theorem dX6_decides_275 : decode cX6_decides 275 = .ok (.getfield 123, 3) := dk_180 0 123 (dk_at dksX6_decides_12 0 rfl rfl)
theorem dX6_decides_278 : decode cX6_decides 278 = .ok (.ifCond .eq 6, 3) := dk_153 0 6 (dk_at dksX6_decides_12 3 rfl rfl)
theorem dX6_decides_281 : decode cX6_decides 281 = .ok (.goto (-30), 3) := dk_167 255 226 (dk_at dksX6_decides_12 6 rfl rfl)
theorem dX6_decides_284 : decode cX6_decides 284 = .ok (.aload_n 0, 1) := dk_42 (dk_at dksX6_decides_12 9 rfl rfl)
theorem dX6_decides_285 : decode cX6_decides 285 = .ok (.getfield 61, 3) := dk_180 0 61 (dk_at dksX6_decides_12 10 rfl rfl)
theorem dX6_decides_288 : decode cX6_decides 288 = .ok (.ifCond .eq 7, 3) := dk_153 0 7 (dk_at dksX6_decides_12 13 rfl rfl)
theorem dX6_decides_291 : decode cX6_decides 291 = .ok (.iconst 0, 1) := dk_3 (dk_at dksX6_decides_12 16 rfl rfl)
theorem dX6_decides_292 : decode cX6_decides 292 = .ok (.goto 14, 3) := dk_167 0 14 (dk_at dksX6_decides_12 17 rfl rfl)
theorem dX6_decides_295 : decode cX6_decides 295 = .ok (.bipush 10, 2) := dk_16 10 (dk_at dksX6_decides_12 20 rfl rfl)
theorem dX6_decides_297 : decode cX6_decides 297 = .ok (.aload_n 0, 1) := dk_42 (dk_at dksX6_decides_12 22 rfl rfl)
theorem dX6_decides_298 : decode cX6_decides 298 = .ok (.aload 5, 2) := dk_25 5 (dk_at dksX6_decides_13 0 rfl rfl)
theorem dX6_decides_300 : decode cX6_decides 300 = .ok (.invokevirtual 258, 3) := dk_182 1 2 (dk_at dksX6_decides_13 2 rfl rfl)
theorem dX6_decides_303 : decode cX6_decides 303 = .ok (.invokestatic 261, 3) := dk_184 1 5 (dk_at dksX6_decides_13 5 rfl rfl)
theorem dX6_decides_306 : decode cX6_decides 306 = .ok (.istore 6, 2) := dk_54 6 (dk_at dksX6_decides_13 8 rfl rfl)
theorem dX6_decides_308 : decode cX6_decides 308 = .ok (.aload 5, 2) := dk_25 5 (dk_at dksX6_decides_13 10 rfl rfl)
theorem dX6_decides_310 : decode cX6_decides 310 = .ok (.getfield 126, 3) := dk_180 0 126 (dk_at dksX6_decides_13 12 rfl rfl)
theorem dX6_decides_313 : decode cX6_decides 313 = .ok (.getfield 264, 3) := dk_180 1 8 (dk_at dksX6_decides_13 15 rfl rfl)
theorem dX6_decides_316 : decode cX6_decides 316 = .ok (.getfield 268, 3) := dk_180 1 12 (dk_at dksX6_decides_13 18 rfl rfl)
theorem dX6_decides_319 : decode cX6_decides 319 = .ok (.aload_n 0, 1) := dk_42 (dk_at dksX6_decides_13 21 rfl rfl)
theorem dX6_decides_320 : decode cX6_decides 320 = .ok (.getfield 46, 3) := dk_180 0 46 (dk_at dksX6_decides_14 0 rfl rfl)
theorem dX6_decides_323 : decode cX6_decides 323 = .ok (.dup2, 1) := dk_92 (dk_at dksX6_decides_14 3 rfl rfl)
theorem dX6_decides_324 : decode cX6_decides 324 = .ok (.iaload, 1) := dk_46 (dk_at dksX6_decides_14 4 rfl rfl)
theorem dX6_decides_325 : decode cX6_decides 325 = .ok (.iload 6, 2) := dk_21 6 (dk_at dksX6_decides_14 5 rfl rfl)
theorem dX6_decides_327 : decode cX6_decides 327 = .ok (.iadd, 1) := dk_96 (dk_at dksX6_decides_14 7 rfl rfl)
theorem dX6_decides_328 : decode cX6_decides 328 = .ok (.iastore, 1) := dk_79 (dk_at dksX6_decides_14 8 rfl rfl)
theorem dX6_decides_329 : decode cX6_decides 329 = .ok (.aload 5, 2) := dk_25 5 (dk_at dksX6_decides_14 9 rfl rfl)
theorem dX6_decides_331 : decode cX6_decides 331 = .ok (.getfield 126, 3) := dk_180 0 126 (dk_at dksX6_decides_14 11 rfl rfl)
theorem dX6_decides_334 : decode cX6_decides 334 = .ok (.getfield 273, 3) := dk_180 1 17 (dk_at dksX6_decides_14 14 rfl rfl)
theorem dX6_decides_337 : decode cX6_decides 337 = .ok (.getfield 268, 3) := dk_180 1 12 (dk_at dksX6_decides_14 17 rfl rfl)
theorem dX6_decides_340 : decode cX6_decides 340 = .ok (.aload_n 0, 1) := dk_42 (dk_at dksX6_decides_14 20 rfl rfl)
theorem dX6_decides_341 : decode cX6_decides 341 = .ok (.getfield 46, 3) := dk_180 0 46 (dk_at dksX6_decides_14 21 rfl rfl)
theorem dX6_decides_344 : decode cX6_decides 344 = .ok (.dup2, 1) := dk_92 (dk_at dksX6_decides_15 0 rfl rfl)
theorem dX6_decides_345 : decode cX6_decides 345 = .ok (.iaload, 1) := dk_46 (dk_at dksX6_decides_15 1 rfl rfl)
theorem dX6_decides_346 : decode cX6_decides 346 = .ok (.iload 6, 2) := dk_21 6 (dk_at dksX6_decides_15 2 rfl rfl)
theorem dX6_decides_348 : decode cX6_decides 348 = .ok (.iadd, 1) := dk_96 (dk_at dksX6_decides_15 4 rfl rfl)
theorem dX6_decides_349 : decode cX6_decides 349 = .ok (.iastore, 1) := dk_79 (dk_at dksX6_decides_15 5 rfl rfl)
theorem dX6_decides_350 : decode cX6_decides 350 = .ok (.iload_n 3, 1) := dk_29 (dk_at dksX6_decides_15 6 rfl rfl)
theorem dX6_decides_351 : decode cX6_decides 351 = .ok (.aload 5, 2) := dk_25 5 (dk_at dksX6_decides_15 7 rfl rfl)
theorem dX6_decides_353 : decode cX6_decides 353 = .ok (.getfield 126, 3) := dk_180 0 126 (dk_at dksX6_decides_15 9 rfl rfl)
theorem dX6_decides_356 : decode cX6_decides 356 = .ok (.getfield 276, 3) := dk_180 1 20 (dk_at dksX6_decides_15 12 rfl rfl)
theorem dX6_decides_359 : decode cX6_decides 359 = .ok (.aload_n 0, 1) := dk_42 (dk_at dksX6_decides_15 15 rfl rfl)
theorem dX6_decides_360 : decode cX6_decides 360 = .ok (.getfield 46, 3) := dk_180 0 46 (dk_at dksX6_decides_15 16 rfl rfl)
theorem dX6_decides_363 : decode cX6_decides 363 = .ok (.invokeinterface 104 2, 5) := by decide +kernel
theorem dX6_decides_368 : decode cX6_decides 368 = .ok (.checkcast 66, 3) := dk_192 0 66 (dk_at dksX6_decides_16 0 rfl rfl)
theorem dX6_decides_371 : decode cX6_decides 371 = .ok (.aload_n 0, 1) := dk_42 (dk_at dksX6_decides_16 3 rfl rfl)
theorem dX6_decides_372 : decode cX6_decides 372 = .ok (.getfield 31, 3) := dk_180 0 31 (dk_at dksX6_decides_16 4 rfl rfl)
theorem dX6_decides_375 : decode cX6_decides 375 = .ok (.iconst 2, 1) := dk_5 (dk_at dksX6_decides_16 7 rfl rfl)
theorem dX6_decides_376 : decode cX6_decides 376 = .ok (.aload_n 0, 1) := dk_42 (dk_at dksX6_decides_16 8 rfl rfl)
theorem dX6_decides_377 : decode cX6_decides 377 = .ok (.invokevirtual 279, 3) := dk_182 1 23 (dk_at dksX6_decides_16 9 rfl rfl)
theorem dX6_decides_380 : decode cX6_decides 380 = .ok (.imul, 1) := dk_104 (dk_at dksX6_decides_16 12 rfl rfl)
theorem dX6_decides_381 : decode cX6_decides 381 = .ok (.iconst 2, 1) := dk_5 (dk_at dksX6_decides_16 13 rfl rfl)
theorem dX6_decides_382 : decode cX6_decides 382 = .ok (.iadd, 1) := dk_96 (dk_at dksX6_decides_16 14 rfl rfl)
theorem dX6_decides_383 : decode cX6_decides 383 = .ok (.aload 5, 2) := dk_25 5 (dk_at dksX6_decides_16 15 rfl rfl)
theorem dX6_decides_385 : decode cX6_decides 385 = .ok (.getfield 220, 3) := dk_180 0 220 (dk_at dksX6_decides_16 17 rfl rfl)
theorem dX6_decides_388 : decode cX6_decides 388 = .ok (.isub, 1) := dk_100 (dk_at dksX6_decides_16 20 rfl rfl)
theorem dX6_decides_389 : decode cX6_decides 389 = .ok (.imul, 1) := dk_104 (dk_at dksX6_decides_16 21 rfl rfl)
theorem dX6_decides_390 : decode cX6_decides 390 = .ok (.invokestatic 282, 3) := dk_184 1 26 (dk_at dksX6_decides_17 0 rfl rfl)
theorem dX6_decides_393 : decode cX6_decides 393 = .ok (.invokeinterface 65 2, 5) := by decide +kernel
theorem dX6_decides_398 : decode cX6_decides 398 = .ok (.iand, 1) := dk_126 (dk_at dksX6_decides_17 8 rfl rfl)
theorem dX6_decides_399 : decode cX6_decides 399 = .ok (.istore_n 3, 1) := dk_62 (dk_at dksX6_decides_17 9 rfl rfl)
theorem dX6_decides_400 : decode cX6_decides 400 = .ok (.goto (-149), 3) := dk_167 255 107 (dk_at dksX6_decides_17 10 rfl rfl)
theorem dX6_decides_403 : decode cX6_decides 403 = .ok (.return_, 1) := dk_177 (dk_at dksX6_decides_17 13 rfl rfl)
abbrev cX6_places : ByteArray := prog_7_method_15_code
def yX6_places : MethodName := ⟨RX6, "places", "(I)V"⟩
def dkwX6_places_7 : List UInt8 := [96, 79, 45, 180, 0, 187, 27, 21, 6, 79, 167, 255, 99, 177]
abbrev dktX6_places_7 : List UInt8 := dkwX6_places_7 ++ []
def dkwX6_places_6 : List UInt8 := [182, 0, 180, 184, 0, 99, 54, 6, 167, 255, 167, 45, 180, 0, 183, 27, 5, 21, 4, 104, 4, 96, 21, 5]
abbrev dktX6_places_6 : List UInt8 := dkwX6_places_6 ++ dktX6_places_7
def dkwX6_places_5 : List UInt8 := [21, 5, 25, 9, 182, 0, 177, 154, 0, 7, 4, 167, 0, 4, 3, 96, 54, 5, 21, 6, 25, 9]
abbrev dktX6_places_5 : List UInt8 := dkwX6_places_5 ++ dktX6_places_6
def dkwX6_places_4 : List UInt8 := [182, 0, 173, 58, 9, 21, 4, 25, 9, 182, 0, 177, 158, 0, 7, 4, 167, 0, 4, 3, 96, 54, 4]
abbrev dktX6_places_4 : List UInt8 := dkwX6_places_4 ++ dktX6_places_5
def dkwX6_places_3 : List UInt8 := [185, 0, 117, 1, 0, 192, 0, 121, 58, 8, 25, 8, 45, 166, 0, 6, 167, 255, 228, 42, 27, 45, 25, 8]
abbrev dktX6_places_3 : List UInt8 := dkwX6_places_3 ++ dktX6_places_4
def dkwX6_places_2 : List UInt8 := [180, 0, 75, 185, 0, 108, 1, 0, 58, 7, 25, 7, 185, 0, 112, 1, 0, 153, 0, 85, 25, 7]
abbrev dktX6_places_2 : List UInt8 := dkwX6_places_2 ++ dktX6_places_3
def dkwX6_places_1 : List UInt8 := [185, 0, 117, 1, 0, 192, 0, 121, 78, 3, 54, 4, 4, 54, 5, 8, 54, 6, 42, 180, 0, 39]
abbrev dktX6_places_1 : List UInt8 := dkwX6_places_1 ++ dktX6_places_2
def dkwX6_places_0 : List UInt8 := [42, 180, 0, 39, 180, 0, 75, 185, 0, 108, 1, 0, 77, 44, 185, 0, 112, 1, 0, 153, 0, 154, 44]
abbrev dktX6_places_0 : List UInt8 := dkwX6_places_0 ++ dktX6_places_1
theorem dksX6_places_0 : cX6_places.data.toList.drop 0 = dktX6_places_0 := by decide +kernel
theorem dksX6_places_1 : cX6_places.data.toList.drop 23 = dktX6_places_1 := dk_seg dksX6_places_0 23 rfl rfl
theorem dksX6_places_2 : cX6_places.data.toList.drop 45 = dktX6_places_2 := dk_seg dksX6_places_1 22 rfl rfl
theorem dksX6_places_3 : cX6_places.data.toList.drop 67 = dktX6_places_3 := dk_seg dksX6_places_2 22 rfl rfl
theorem dksX6_places_4 : cX6_places.data.toList.drop 91 = dktX6_places_4 := dk_seg dksX6_places_3 24 rfl rfl
theorem dksX6_places_5 : cX6_places.data.toList.drop 114 = dktX6_places_5 := dk_seg dksX6_places_4 23 rfl rfl
theorem dksX6_places_6 : cX6_places.data.toList.drop 136 = dktX6_places_6 := dk_seg dksX6_places_5 22 rfl rfl
theorem dksX6_places_7 : cX6_places.data.toList.drop 160 = dktX6_places_7 := dk_seg dksX6_places_6 24 rfl rfl
theorem dX6_places_0 : decode cX6_places 0 = .ok (.aload_n 0, 1) := dk_42 (dk_at dksX6_places_0 0 rfl rfl)
theorem dX6_places_1 : decode cX6_places 1 = .ok (.getfield 39, 3) := dk_180 0 39 (dk_at dksX6_places_0 1 rfl rfl)
theorem dX6_places_4 : decode cX6_places 4 = .ok (.getfield 75, 3) := dk_180 0 75 (dk_at dksX6_places_0 4 rfl rfl)
theorem dX6_places_7 : decode cX6_places 7 = .ok (.invokeinterface 108 1, 5) := by decide +kernel
theorem dX6_places_12 : decode cX6_places 12 = .ok (.astore_n 2, 1) := dk_77 (dk_at dksX6_places_0 12 rfl rfl)
theorem dX6_places_13 : decode cX6_places 13 = .ok (.aload_n 2, 1) := dk_44 (dk_at dksX6_places_0 13 rfl rfl)
theorem dX6_places_14 : decode cX6_places 14 = .ok (.invokeinterface 112 1, 5) := by decide +kernel
theorem dX6_places_19 : decode cX6_places 19 = .ok (.ifCond .eq 154, 3) := dk_153 0 154 (dk_at dksX6_places_0 19 rfl rfl)
theorem dX6_places_22 : decode cX6_places 22 = .ok (.aload_n 2, 1) := dk_44 (dk_at dksX6_places_0 22 rfl rfl)
theorem dX6_places_23 : decode cX6_places 23 = .ok (.invokeinterface 117 1, 5) := by decide +kernel
theorem dX6_places_28 : decode cX6_places 28 = .ok (.checkcast 121, 3) := dk_192 0 121 (dk_at dksX6_places_1 5 rfl rfl)
theorem dX6_places_31 : decode cX6_places 31 = .ok (.astore_n 3, 1) := dk_78 (dk_at dksX6_places_1 8 rfl rfl)
theorem dX6_places_32 : decode cX6_places 32 = .ok (.iconst 0, 1) := dk_3 (dk_at dksX6_places_1 9 rfl rfl)
theorem dX6_places_33 : decode cX6_places 33 = .ok (.istore 4, 2) := dk_54 4 (dk_at dksX6_places_1 10 rfl rfl)
theorem dX6_places_35 : decode cX6_places 35 = .ok (.iconst 1, 1) := dk_4 (dk_at dksX6_places_1 12 rfl rfl)
theorem dX6_places_36 : decode cX6_places 36 = .ok (.istore 5, 2) := dk_54 5 (dk_at dksX6_places_1 13 rfl rfl)
theorem dX6_places_38 : decode cX6_places 38 = .ok (.iconst 5, 1) := dk_8 (dk_at dksX6_places_1 15 rfl rfl)
theorem dX6_places_39 : decode cX6_places 39 = .ok (.istore 6, 2) := dk_54 6 (dk_at dksX6_places_1 16 rfl rfl)
theorem dX6_places_41 : decode cX6_places 41 = .ok (.aload_n 0, 1) := dk_42 (dk_at dksX6_places_1 18 rfl rfl)
theorem dX6_places_42 : decode cX6_places 42 = .ok (.getfield 39, 3) := dk_180 0 39 (dk_at dksX6_places_1 19 rfl rfl)
theorem dX6_places_45 : decode cX6_places 45 = .ok (.getfield 75, 3) := dk_180 0 75 (dk_at dksX6_places_2 0 rfl rfl)
theorem dX6_places_48 : decode cX6_places 48 = .ok (.invokeinterface 108 1, 5) := by decide +kernel
theorem dX6_places_53 : decode cX6_places 53 = .ok (.astore 7, 2) := dk_58 7 (dk_at dksX6_places_2 8 rfl rfl)
theorem dX6_places_55 : decode cX6_places 55 = .ok (.aload 7, 2) := dk_25 7 (dk_at dksX6_places_2 10 rfl rfl)
theorem dX6_places_57 : decode cX6_places 57 = .ok (.invokeinterface 112 1, 5) := by decide +kernel
theorem dX6_places_62 : decode cX6_places 62 = .ok (.ifCond .eq 85, 3) := dk_153 0 85 (dk_at dksX6_places_2 17 rfl rfl)
theorem dX6_places_65 : decode cX6_places 65 = .ok (.aload 7, 2) := dk_25 7 (dk_at dksX6_places_2 20 rfl rfl)
theorem dX6_places_67 : decode cX6_places 67 = .ok (.invokeinterface 117 1, 5) := by decide +kernel
theorem dX6_places_72 : decode cX6_places 72 = .ok (.checkcast 121, 3) := dk_192 0 121 (dk_at dksX6_places_3 5 rfl rfl)
theorem dX6_places_75 : decode cX6_places 75 = .ok (.astore 8, 2) := dk_58 8 (dk_at dksX6_places_3 8 rfl rfl)
theorem dX6_places_77 : decode cX6_places 77 = .ok (.aload 8, 2) := dk_25 8 (dk_at dksX6_places_3 10 rfl rfl)
theorem dX6_places_79 : decode cX6_places 79 = .ok (.aload_n 3, 1) := dk_45 (dk_at dksX6_places_3 12 rfl rfl)
theorem dX6_places_80 : decode cX6_places 80 = .ok (.if_acmp .ne 6, 3) := dk_166 0 6 (dk_at dksX6_places_3 13 rfl rfl)
theorem dX6_places_83 : decode cX6_places 83 = .ok (.goto (-28), 3) := dk_167 255 228 (dk_at dksX6_places_3 16 rfl rfl)
theorem dX6_places_86 : decode cX6_places 86 = .ok (.aload_n 0, 1) := dk_42 (dk_at dksX6_places_3 19 rfl rfl)
theorem dX6_places_87 : decode cX6_places 87 = .ok (.iload_n 1, 1) := dk_27 (dk_at dksX6_places_3 20 rfl rfl)
theorem dX6_places_88 : decode cX6_places 88 = .ok (.aload_n 3, 1) := dk_45 (dk_at dksX6_places_3 21 rfl rfl)
theorem dX6_places_89 : decode cX6_places 89 = .ok (.aload 8, 2) := dk_25 8 (dk_at dksX6_places_3 22 rfl rfl)
theorem dX6_places_91 : decode cX6_places 91 = .ok (.invokevirtual 173, 3) := dk_182 0 173 (dk_at dksX6_places_4 0 rfl rfl)
theorem dX6_places_94 : decode cX6_places 94 = .ok (.astore 9, 2) := dk_58 9 (dk_at dksX6_places_4 3 rfl rfl)
theorem dX6_places_96 : decode cX6_places 96 = .ok (.iload 4, 2) := dk_21 4 (dk_at dksX6_places_4 5 rfl rfl)
theorem dX6_places_98 : decode cX6_places 98 = .ok (.aload 9, 2) := dk_25 9 (dk_at dksX6_places_4 7 rfl rfl)
theorem dX6_places_100 : decode cX6_places 100 = .ok (.invokevirtual 177, 3) := dk_182 0 177 (dk_at dksX6_places_4 9 rfl rfl)
theorem dX6_places_103 : decode cX6_places 103 = .ok (.ifCond .le 7, 3) := dk_158 0 7 (dk_at dksX6_places_4 12 rfl rfl)
theorem dX6_places_106 : decode cX6_places 106 = .ok (.iconst 1, 1) := dk_4 (dk_at dksX6_places_4 15 rfl rfl)
theorem dX6_places_107 : decode cX6_places 107 = .ok (.goto 4, 3) := dk_167 0 4 (dk_at dksX6_places_4 16 rfl rfl)
theorem dX6_places_110 : decode cX6_places 110 = .ok (.iconst 0, 1) := dk_3 (dk_at dksX6_places_4 19 rfl rfl)
theorem dX6_places_111 : decode cX6_places 111 = .ok (.iadd, 1) := dk_96 (dk_at dksX6_places_4 20 rfl rfl)
theorem dX6_places_112 : decode cX6_places 112 = .ok (.istore 4, 2) := dk_54 4 (dk_at dksX6_places_4 21 rfl rfl)
theorem dX6_places_114 : decode cX6_places 114 = .ok (.iload 5, 2) := dk_21 5 (dk_at dksX6_places_5 0 rfl rfl)
theorem dX6_places_116 : decode cX6_places 116 = .ok (.aload 9, 2) := dk_25 9 (dk_at dksX6_places_5 2 rfl rfl)
theorem dX6_places_118 : decode cX6_places 118 = .ok (.invokevirtual 177, 3) := dk_182 0 177 (dk_at dksX6_places_5 4 rfl rfl)
theorem dX6_places_121 : decode cX6_places 121 = .ok (.ifCond .ne 7, 3) := dk_154 0 7 (dk_at dksX6_places_5 7 rfl rfl)
theorem dX6_places_124 : decode cX6_places 124 = .ok (.iconst 1, 1) := dk_4 (dk_at dksX6_places_5 10 rfl rfl)
theorem dX6_places_125 : decode cX6_places 125 = .ok (.goto 4, 3) := dk_167 0 4 (dk_at dksX6_places_5 11 rfl rfl)
theorem dX6_places_128 : decode cX6_places 128 = .ok (.iconst 0, 1) := dk_3 (dk_at dksX6_places_5 14 rfl rfl)
theorem dX6_places_129 : decode cX6_places 129 = .ok (.iadd, 1) := dk_96 (dk_at dksX6_places_5 15 rfl rfl)
theorem dX6_places_130 : decode cX6_places 130 = .ok (.istore 5, 2) := dk_54 5 (dk_at dksX6_places_5 16 rfl rfl)
theorem dX6_places_132 : decode cX6_places 132 = .ok (.iload 6, 2) := dk_21 6 (dk_at dksX6_places_5 18 rfl rfl)
theorem dX6_places_134 : decode cX6_places 134 = .ok (.aload 9, 2) := dk_25 9 (dk_at dksX6_places_5 20 rfl rfl)
theorem dX6_places_136 : decode cX6_places 136 = .ok (.invokevirtual 180, 3) := dk_182 0 180 (dk_at dksX6_places_6 0 rfl rfl)
theorem dX6_places_139 : decode cX6_places 139 = .ok (.invokestatic 99, 3) := dk_184 0 99 (dk_at dksX6_places_6 3 rfl rfl)
theorem dX6_places_142 : decode cX6_places 142 = .ok (.istore 6, 2) := dk_54 6 (dk_at dksX6_places_6 6 rfl rfl)
theorem dX6_places_144 : decode cX6_places 144 = .ok (.goto (-89), 3) := dk_167 255 167 (dk_at dksX6_places_6 8 rfl rfl)
theorem dX6_places_147 : decode cX6_places 147 = .ok (.aload_n 3, 1) := dk_45 (dk_at dksX6_places_6 11 rfl rfl)
theorem dX6_places_148 : decode cX6_places 148 = .ok (.getfield 183, 3) := dk_180 0 183 (dk_at dksX6_places_6 12 rfl rfl)
theorem dX6_places_151 : decode cX6_places 151 = .ok (.iload_n 1, 1) := dk_27 (dk_at dksX6_places_6 15 rfl rfl)
theorem dX6_places_152 : decode cX6_places 152 = .ok (.iconst 2, 1) := dk_5 (dk_at dksX6_places_6 16 rfl rfl)
theorem dX6_places_153 : decode cX6_places 153 = .ok (.iload 4, 2) := dk_21 4 (dk_at dksX6_places_6 17 rfl rfl)
theorem dX6_places_155 : decode cX6_places 155 = .ok (.imul, 1) := dk_104 (dk_at dksX6_places_6 19 rfl rfl)
theorem dX6_places_156 : decode cX6_places 156 = .ok (.iconst 1, 1) := dk_4 (dk_at dksX6_places_6 20 rfl rfl)
theorem dX6_places_157 : decode cX6_places 157 = .ok (.iadd, 1) := dk_96 (dk_at dksX6_places_6 21 rfl rfl)
theorem dX6_places_158 : decode cX6_places 158 = .ok (.iload 5, 2) := dk_21 5 (dk_at dksX6_places_6 22 rfl rfl)
theorem dX6_places_160 : decode cX6_places 160 = .ok (.iadd, 1) := dk_96 (dk_at dksX6_places_7 0 rfl rfl)
theorem dX6_places_161 : decode cX6_places 161 = .ok (.iastore, 1) := dk_79 (dk_at dksX6_places_7 1 rfl rfl)
theorem dX6_places_162 : decode cX6_places 162 = .ok (.aload_n 3, 1) := dk_45 (dk_at dksX6_places_7 2 rfl rfl)
theorem dX6_places_163 : decode cX6_places 163 = .ok (.getfield 187, 3) := dk_180 0 187 (dk_at dksX6_places_7 3 rfl rfl)
theorem dX6_places_166 : decode cX6_places 166 = .ok (.iload_n 1, 1) := dk_27 (dk_at dksX6_places_7 6 rfl rfl)
theorem dX6_places_167 : decode cX6_places 167 = .ok (.iload 6, 2) := dk_21 6 (dk_at dksX6_places_7 7 rfl rfl)
theorem dX6_places_169 : decode cX6_places 169 = .ok (.iastore, 1) := dk_79 (dk_at dksX6_places_7 9 rfl rfl)
theorem dX6_places_170 : decode cX6_places 170 = .ok (.goto (-157), 3) := dk_167 255 99 (dk_at dksX6_places_7 10 rfl rfl)
theorem dX6_places_173 : decode cX6_places 173 = .ok (.return_, 1) := dk_177 (dk_at dksX6_places_7 13 rfl rfl)
abbrev cX6_duel : ByteArray := prog_7_method_14_code
def yX6_duel : MethodName := ⟨RX6, "duel", "(ILScrutineery$Entry;LScrutineery$Entry;)LScrutineery$Duel;"⟩
def dkwX6_duel_8 : List UInt8 := [187, 0, 165, 89, 21, 5, 16, 8, 183, 0, 167, 176]
abbrev dktX6_duel_8 : List UInt8 := dkwX6_duel_8 ++ []
def dkwX6_duel_7 : List UInt8 := [42, 27, 44, 21, 4, 182, 0, 170, 42, 27, 45, 21, 4, 182, 0, 170, 100, 54, 5, 167, 255, 183]
abbrev dktX6_duel_7 : List UInt8 := dkwX6_duel_7 ++ dktX6_duel_8
def dkwX6_duel_6 : List UInt8 := [182, 0, 157, 42, 27, 44, 21, 4, 182, 0, 157, 100, 54, 5, 21, 5, 153, 0, 8, 21, 5, 167, 0, 20]
abbrev dktX6_duel_6 : List UInt8 := dkwX6_duel_6 ++ dktX6_duel_7
def dkwX6_duel_5 : List UInt8 := [42, 180, 0, 39, 180, 0, 75, 185, 0, 76, 1, 0, 162, 0, 57, 132, 4, 1, 42, 27, 45, 21, 4]
abbrev dktX6_duel_5 : List UInt8 := dkwX6_duel_5 ++ dktX6_duel_6
def dkwX6_duel_4 : List UInt8 := [21, 5, 153, 0, 15, 187, 0, 165, 89, 21, 5, 16, 7, 183, 0, 167, 176, 21, 5, 154, 0, 74, 21, 4]
abbrev dktX6_duel_4 : List UInt8 := dkwX6_duel_4 ++ dktX6_duel_5
def dkwX6_duel_3 : List UInt8 := [183, 0, 167, 176, 42, 27, 44, 21, 4, 182, 0, 170, 42, 27, 45, 21, 4, 182, 0, 170, 100, 54, 5]
abbrev dktX6_duel_3 : List UInt8 := dkwX6_duel_3 ++ dktX6_duel_4
def dkwX6_duel_2 : List UInt8 := [44, 21, 4, 182, 0, 157, 100, 54, 5, 21, 5, 153, 0, 15, 187, 0, 165, 89, 21, 5, 16, 6]
abbrev dktX6_duel_2 : List UInt8 := dkwX6_duel_2 ++ dktX6_duel_3
def dkwX6_duel_1 : List UInt8 := [21, 4, 42, 27, 45, 182, 0, 161, 100, 8, 183, 0, 167, 176, 42, 27, 45, 21, 4, 182, 0, 157, 42, 27]
abbrev dktX6_duel_1 : List UInt8 := dkwX6_duel_1 ++ dktX6_duel_2
def dkwX6_duel_0 : List UInt8 := [42, 27, 44, 182, 0, 161, 54, 4, 21, 4, 42, 27, 45, 182, 0, 161, 159, 0, 21, 187, 0, 165, 89]
abbrev dktX6_duel_0 : List UInt8 := dkwX6_duel_0 ++ dktX6_duel_1
theorem dksX6_duel_0 : cX6_duel.data.toList.drop 0 = dktX6_duel_0 := by decide +kernel
theorem dksX6_duel_1 : cX6_duel.data.toList.drop 23 = dktX6_duel_1 := dk_seg dksX6_duel_0 23 rfl rfl
theorem dksX6_duel_2 : cX6_duel.data.toList.drop 47 = dktX6_duel_2 := dk_seg dksX6_duel_1 24 rfl rfl
theorem dksX6_duel_3 : cX6_duel.data.toList.drop 69 = dktX6_duel_3 := dk_seg dksX6_duel_2 22 rfl rfl
theorem dksX6_duel_4 : cX6_duel.data.toList.drop 92 = dktX6_duel_4 := dk_seg dksX6_duel_3 23 rfl rfl
theorem dksX6_duel_5 : cX6_duel.data.toList.drop 116 = dktX6_duel_5 := dk_seg dksX6_duel_4 24 rfl rfl
theorem dksX6_duel_6 : cX6_duel.data.toList.drop 139 = dktX6_duel_6 := dk_seg dksX6_duel_5 23 rfl rfl
theorem dksX6_duel_7 : cX6_duel.data.toList.drop 163 = dktX6_duel_7 := dk_seg dksX6_duel_6 24 rfl rfl
theorem dksX6_duel_8 : cX6_duel.data.toList.drop 185 = dktX6_duel_8 := dk_seg dksX6_duel_7 22 rfl rfl
theorem dX6_duel_0 : decode cX6_duel 0 = .ok (.aload_n 0, 1) := dk_42 (dk_at dksX6_duel_0 0 rfl rfl)
theorem dX6_duel_1 : decode cX6_duel 1 = .ok (.iload_n 1, 1) := dk_27 (dk_at dksX6_duel_0 1 rfl rfl)
theorem dX6_duel_2 : decode cX6_duel 2 = .ok (.aload_n 2, 1) := dk_44 (dk_at dksX6_duel_0 2 rfl rfl)
theorem dX6_duel_3 : decode cX6_duel 3 = .ok (.invokevirtual 161, 3) := dk_182 0 161 (dk_at dksX6_duel_0 3 rfl rfl)
theorem dX6_duel_6 : decode cX6_duel 6 = .ok (.istore 4, 2) := dk_54 4 (dk_at dksX6_duel_0 6 rfl rfl)
theorem dX6_duel_8 : decode cX6_duel 8 = .ok (.iload 4, 2) := dk_21 4 (dk_at dksX6_duel_0 8 rfl rfl)
theorem dX6_duel_10 : decode cX6_duel 10 = .ok (.aload_n 0, 1) := dk_42 (dk_at dksX6_duel_0 10 rfl rfl)
theorem dX6_duel_11 : decode cX6_duel 11 = .ok (.iload_n 1, 1) := dk_27 (dk_at dksX6_duel_0 11 rfl rfl)
theorem dX6_duel_12 : decode cX6_duel 12 = .ok (.aload_n 3, 1) := dk_45 (dk_at dksX6_duel_0 12 rfl rfl)
theorem dX6_duel_13 : decode cX6_duel 13 = .ok (.invokevirtual 161, 3) := dk_182 0 161 (dk_at dksX6_duel_0 13 rfl rfl)
theorem dX6_duel_16 : decode cX6_duel 16 = .ok (.if_icmp .eq 21, 3) := dk_159 0 21 (dk_at dksX6_duel_0 16 rfl rfl)
theorem dX6_duel_19 : decode cX6_duel 19 = .ok (.new 165, 3) := dk_187 0 165 (dk_at dksX6_duel_0 19 rfl rfl)
theorem dX6_duel_22 : decode cX6_duel 22 = .ok (.dup, 1) := dk_89 (dk_at dksX6_duel_0 22 rfl rfl)
theorem dX6_duel_23 : decode cX6_duel 23 = .ok (.iload 4, 2) := dk_21 4 (dk_at dksX6_duel_1 0 rfl rfl)
theorem dX6_duel_25 : decode cX6_duel 25 = .ok (.aload_n 0, 1) := dk_42 (dk_at dksX6_duel_1 2 rfl rfl)
theorem dX6_duel_26 : decode cX6_duel 26 = .ok (.iload_n 1, 1) := dk_27 (dk_at dksX6_duel_1 3 rfl rfl)
theorem dX6_duel_27 : decode cX6_duel 27 = .ok (.aload_n 3, 1) := dk_45 (dk_at dksX6_duel_1 4 rfl rfl)
theorem dX6_duel_28 : decode cX6_duel 28 = .ok (.invokevirtual 161, 3) := dk_182 0 161 (dk_at dksX6_duel_1 5 rfl rfl)
theorem dX6_duel_31 : decode cX6_duel 31 = .ok (.isub, 1) := dk_100 (dk_at dksX6_duel_1 8 rfl rfl)
theorem dX6_duel_32 : decode cX6_duel 32 = .ok (.iconst 5, 1) := dk_8 (dk_at dksX6_duel_1 9 rfl rfl)
theorem dX6_duel_33 : decode cX6_duel 33 = .ok (.invokespecial 167, 3) := dk_183 0 167 (dk_at dksX6_duel_1 10 rfl rfl)
theorem dX6_duel_36 : decode cX6_duel 36 = .ok (.areturn, 1) := dk_176 (dk_at dksX6_duel_1 13 rfl rfl)
theorem dX6_duel_37 : decode cX6_duel 37 = .ok (.aload_n 0, 1) := dk_42 (dk_at dksX6_duel_1 14 rfl rfl)
theorem dX6_duel_38 : decode cX6_duel 38 = .ok (.iload_n 1, 1) := dk_27 (dk_at dksX6_duel_1 15 rfl rfl)
theorem dX6_duel_39 : decode cX6_duel 39 = .ok (.aload_n 3, 1) := dk_45 (dk_at dksX6_duel_1 16 rfl rfl)
theorem dX6_duel_40 : decode cX6_duel 40 = .ok (.iload 4, 2) := dk_21 4 (dk_at dksX6_duel_1 17 rfl rfl)
theorem dX6_duel_42 : decode cX6_duel 42 = .ok (.invokevirtual 157, 3) := dk_182 0 157 (dk_at dksX6_duel_1 19 rfl rfl)
theorem dX6_duel_45 : decode cX6_duel 45 = .ok (.aload_n 0, 1) := dk_42 (dk_at dksX6_duel_1 22 rfl rfl)
theorem dX6_duel_46 : decode cX6_duel 46 = .ok (.iload_n 1, 1) := dk_27 (dk_at dksX6_duel_1 23 rfl rfl)
theorem dX6_duel_47 : decode cX6_duel 47 = .ok (.aload_n 2, 1) := dk_44 (dk_at dksX6_duel_2 0 rfl rfl)
theorem dX6_duel_48 : decode cX6_duel 48 = .ok (.iload 4, 2) := dk_21 4 (dk_at dksX6_duel_2 1 rfl rfl)
theorem dX6_duel_50 : decode cX6_duel 50 = .ok (.invokevirtual 157, 3) := dk_182 0 157 (dk_at dksX6_duel_2 3 rfl rfl)
theorem dX6_duel_53 : decode cX6_duel 53 = .ok (.isub, 1) := dk_100 (dk_at dksX6_duel_2 6 rfl rfl)
theorem dX6_duel_54 : decode cX6_duel 54 = .ok (.istore 5, 2) := dk_54 5 (dk_at dksX6_duel_2 7 rfl rfl)
theorem dX6_duel_56 : decode cX6_duel 56 = .ok (.iload 5, 2) := dk_21 5 (dk_at dksX6_duel_2 9 rfl rfl)
theorem dX6_duel_58 : decode cX6_duel 58 = .ok (.ifCond .eq 15, 3) := dk_153 0 15 (dk_at dksX6_duel_2 11 rfl rfl)
theorem dX6_duel_61 : decode cX6_duel 61 = .ok (.new 165, 3) := dk_187 0 165 (dk_at dksX6_duel_2 14 rfl rfl)
theorem dX6_duel_64 : decode cX6_duel 64 = .ok (.dup, 1) := dk_89 (dk_at dksX6_duel_2 17 rfl rfl)
theorem dX6_duel_65 : decode cX6_duel 65 = .ok (.iload 5, 2) := dk_21 5 (dk_at dksX6_duel_2 18 rfl rfl)
theorem dX6_duel_67 : decode cX6_duel 67 = .ok (.bipush 6, 2) := dk_16 6 (dk_at dksX6_duel_2 20 rfl rfl)
theorem dX6_duel_69 : decode cX6_duel 69 = .ok (.invokespecial 167, 3) := dk_183 0 167 (dk_at dksX6_duel_3 0 rfl rfl)
theorem dX6_duel_72 : decode cX6_duel 72 = .ok (.areturn, 1) := dk_176 (dk_at dksX6_duel_3 3 rfl rfl)
theorem dX6_duel_73 : decode cX6_duel 73 = .ok (.aload_n 0, 1) := dk_42 (dk_at dksX6_duel_3 4 rfl rfl)
theorem dX6_duel_74 : decode cX6_duel 74 = .ok (.iload_n 1, 1) := dk_27 (dk_at dksX6_duel_3 5 rfl rfl)
theorem dX6_duel_75 : decode cX6_duel 75 = .ok (.aload_n 2, 1) := dk_44 (dk_at dksX6_duel_3 6 rfl rfl)
theorem dX6_duel_76 : decode cX6_duel 76 = .ok (.iload 4, 2) := dk_21 4 (dk_at dksX6_duel_3 7 rfl rfl)
theorem dX6_duel_78 : decode cX6_duel 78 = .ok (.invokevirtual 170, 3) := dk_182 0 170 (dk_at dksX6_duel_3 9 rfl rfl)
theorem dX6_duel_81 : decode cX6_duel 81 = .ok (.aload_n 0, 1) := dk_42 (dk_at dksX6_duel_3 12 rfl rfl)
theorem dX6_duel_82 : decode cX6_duel 82 = .ok (.iload_n 1, 1) := dk_27 (dk_at dksX6_duel_3 13 rfl rfl)
theorem dX6_duel_83 : decode cX6_duel 83 = .ok (.aload_n 3, 1) := dk_45 (dk_at dksX6_duel_3 14 rfl rfl)
theorem dX6_duel_84 : decode cX6_duel 84 = .ok (.iload 4, 2) := dk_21 4 (dk_at dksX6_duel_3 15 rfl rfl)
theorem dX6_duel_86 : decode cX6_duel 86 = .ok (.invokevirtual 170, 3) := dk_182 0 170 (dk_at dksX6_duel_3 17 rfl rfl)
theorem dX6_duel_89 : decode cX6_duel 89 = .ok (.isub, 1) := dk_100 (dk_at dksX6_duel_3 20 rfl rfl)
theorem dX6_duel_90 : decode cX6_duel 90 = .ok (.istore 5, 2) := dk_54 5 (dk_at dksX6_duel_3 21 rfl rfl)
theorem dX6_duel_92 : decode cX6_duel 92 = .ok (.iload 5, 2) := dk_21 5 (dk_at dksX6_duel_4 0 rfl rfl)
theorem dX6_duel_94 : decode cX6_duel 94 = .ok (.ifCond .eq 15, 3) := dk_153 0 15 (dk_at dksX6_duel_4 2 rfl rfl)
theorem dX6_duel_97 : decode cX6_duel 97 = .ok (.new 165, 3) := dk_187 0 165 (dk_at dksX6_duel_4 5 rfl rfl)
theorem dX6_duel_100 : decode cX6_duel 100 = .ok (.dup, 1) := dk_89 (dk_at dksX6_duel_4 8 rfl rfl)
theorem dX6_duel_101 : decode cX6_duel 101 = .ok (.iload 5, 2) := dk_21 5 (dk_at dksX6_duel_4 9 rfl rfl)
theorem dX6_duel_103 : decode cX6_duel 103 = .ok (.bipush 7, 2) := dk_16 7 (dk_at dksX6_duel_4 11 rfl rfl)
theorem dX6_duel_105 : decode cX6_duel 105 = .ok (.invokespecial 167, 3) := dk_183 0 167 (dk_at dksX6_duel_4 13 rfl rfl)
theorem dX6_duel_108 : decode cX6_duel 108 = .ok (.areturn, 1) := dk_176 (dk_at dksX6_duel_4 16 rfl rfl)
theorem dX6_duel_109 : decode cX6_duel 109 = .ok (.iload 5, 2) := dk_21 5 (dk_at dksX6_duel_4 17 rfl rfl)
theorem dX6_duel_111 : decode cX6_duel 111 = .ok (.ifCond .ne 74, 3) := dk_154 0 74 (dk_at dksX6_duel_4 19 rfl rfl)
theorem dX6_duel_114 : decode cX6_duel 114 = .ok (.iload 4, 2) := dk_21 4 (dk_at dksX6_duel_4 22 rfl rfl)
theorem dX6_duel_116 : decode cX6_duel 116 = .ok (.aload_n 0, 1) := dk_42 (dk_at dksX6_duel_5 0 rfl rfl)
theorem dX6_duel_117 : decode cX6_duel 117 = .ok (.getfield 39, 3) := dk_180 0 39 (dk_at dksX6_duel_5 1 rfl rfl)
theorem dX6_duel_120 : decode cX6_duel 120 = .ok (.getfield 75, 3) := dk_180 0 75 (dk_at dksX6_duel_5 4 rfl rfl)
theorem dX6_duel_123 : decode cX6_duel 123 = .ok (.invokeinterface 76 1, 5) := by decide +kernel
theorem dX6_duel_128 : decode cX6_duel 128 = .ok (.if_icmp .ge 57, 3) := dk_162 0 57 (dk_at dksX6_duel_5 12 rfl rfl)
theorem dX6_duel_131 : decode cX6_duel 131 = .ok (.iinc 4 1, 3) := dk_132 4 1 (dk_at dksX6_duel_5 15 rfl rfl)
theorem dX6_duel_134 : decode cX6_duel 134 = .ok (.aload_n 0, 1) := dk_42 (dk_at dksX6_duel_5 18 rfl rfl)
theorem dX6_duel_135 : decode cX6_duel 135 = .ok (.iload_n 1, 1) := dk_27 (dk_at dksX6_duel_5 19 rfl rfl)
theorem dX6_duel_136 : decode cX6_duel 136 = .ok (.aload_n 3, 1) := dk_45 (dk_at dksX6_duel_5 20 rfl rfl)
theorem dX6_duel_137 : decode cX6_duel 137 = .ok (.iload 4, 2) := dk_21 4 (dk_at dksX6_duel_5 21 rfl rfl)
theorem dX6_duel_139 : decode cX6_duel 139 = .ok (.invokevirtual 157, 3) := dk_182 0 157 (dk_at dksX6_duel_6 0 rfl rfl)
theorem dX6_duel_142 : decode cX6_duel 142 = .ok (.aload_n 0, 1) := dk_42 (dk_at dksX6_duel_6 3 rfl rfl)
theorem dX6_duel_143 : decode cX6_duel 143 = .ok (.iload_n 1, 1) := dk_27 (dk_at dksX6_duel_6 4 rfl rfl)
theorem dX6_duel_144 : decode cX6_duel 144 = .ok (.aload_n 2, 1) := dk_44 (dk_at dksX6_duel_6 5 rfl rfl)
theorem dX6_duel_145 : decode cX6_duel 145 = .ok (.iload 4, 2) := dk_21 4 (dk_at dksX6_duel_6 6 rfl rfl)
theorem dX6_duel_147 : decode cX6_duel 147 = .ok (.invokevirtual 157, 3) := dk_182 0 157 (dk_at dksX6_duel_6 8 rfl rfl)
theorem dX6_duel_150 : decode cX6_duel 150 = .ok (.isub, 1) := dk_100 (dk_at dksX6_duel_6 11 rfl rfl)
theorem dX6_duel_151 : decode cX6_duel 151 = .ok (.istore 5, 2) := dk_54 5 (dk_at dksX6_duel_6 12 rfl rfl)
theorem dX6_duel_153 : decode cX6_duel 153 = .ok (.iload 5, 2) := dk_21 5 (dk_at dksX6_duel_6 14 rfl rfl)
theorem dX6_duel_155 : decode cX6_duel 155 = .ok (.ifCond .eq 8, 3) := dk_153 0 8 (dk_at dksX6_duel_6 16 rfl rfl)
theorem dX6_duel_158 : decode cX6_duel 158 = .ok (.iload 5, 2) := dk_21 5 (dk_at dksX6_duel_6 19 rfl rfl)
theorem dX6_duel_160 : decode cX6_duel 160 = .ok (.goto 20, 3) := dk_167 0 20 (dk_at dksX6_duel_6 21 rfl rfl)
theorem dX6_duel_163 : decode cX6_duel 163 = .ok (.aload_n 0, 1) := dk_42 (dk_at dksX6_duel_7 0 rfl rfl)
theorem dX6_duel_164 : decode cX6_duel 164 = .ok (.iload_n 1, 1) := dk_27 (dk_at dksX6_duel_7 1 rfl rfl)
theorem dX6_duel_165 : decode cX6_duel 165 = .ok (.aload_n 2, 1) := dk_44 (dk_at dksX6_duel_7 2 rfl rfl)
theorem dX6_duel_166 : decode cX6_duel 166 = .ok (.iload 4, 2) := dk_21 4 (dk_at dksX6_duel_7 3 rfl rfl)
theorem dX6_duel_168 : decode cX6_duel 168 = .ok (.invokevirtual 170, 3) := dk_182 0 170 (dk_at dksX6_duel_7 5 rfl rfl)
theorem dX6_duel_171 : decode cX6_duel 171 = .ok (.aload_n 0, 1) := dk_42 (dk_at dksX6_duel_7 8 rfl rfl)
theorem dX6_duel_172 : decode cX6_duel 172 = .ok (.iload_n 1, 1) := dk_27 (dk_at dksX6_duel_7 9 rfl rfl)
theorem dX6_duel_173 : decode cX6_duel 173 = .ok (.aload_n 3, 1) := dk_45 (dk_at dksX6_duel_7 10 rfl rfl)
theorem dX6_duel_174 : decode cX6_duel 174 = .ok (.iload 4, 2) := dk_21 4 (dk_at dksX6_duel_7 11 rfl rfl)
theorem dX6_duel_176 : decode cX6_duel 176 = .ok (.invokevirtual 170, 3) := dk_182 0 170 (dk_at dksX6_duel_7 13 rfl rfl)
theorem dX6_duel_179 : decode cX6_duel 179 = .ok (.isub, 1) := dk_100 (dk_at dksX6_duel_7 16 rfl rfl)
theorem dX6_duel_180 : decode cX6_duel 180 = .ok (.istore 5, 2) := dk_54 5 (dk_at dksX6_duel_7 17 rfl rfl)
theorem dX6_duel_182 : decode cX6_duel 182 = .ok (.goto (-73), 3) := dk_167 255 183 (dk_at dksX6_duel_7 19 rfl rfl)
theorem dX6_duel_185 : decode cX6_duel 185 = .ok (.new 165, 3) := dk_187 0 165 (dk_at dksX6_duel_8 0 rfl rfl)
theorem dX6_duel_188 : decode cX6_duel 188 = .ok (.dup, 1) := dk_89 (dk_at dksX6_duel_8 3 rfl rfl)
theorem dX6_duel_189 : decode cX6_duel 189 = .ok (.iload 5, 2) := dk_21 5 (dk_at dksX6_duel_8 4 rfl rfl)
theorem dX6_duel_191 : decode cX6_duel 191 = .ok (.bipush 8, 2) := dk_16 8 (dk_at dksX6_duel_8 6 rfl rfl)
theorem dX6_duel_193 : decode cX6_duel 193 = .ok (.invokespecial 167, 3) := dk_183 0 167 (dk_at dksX6_duel_8 8 rfl rfl)
theorem dX6_duel_196 : decode cX6_duel 196 = .ok (.areturn, 1) := dk_176 (dk_at dksX6_duel_8 11 rfl rfl)
abbrev cX6_first : ByteArray := prog_7_method_13_code
def yX6_first : MethodName := ⟨RX6, "first", "(ILScrutineery$Entry;)I"⟩
def dkwX6_first_1 : List UInt8 := [132, 3, 1, 167, 255, 231, 29, 172]
abbrev dktX6_first_1 : List UInt8 := dkwX6_first_1 ++ []
def dkwX6_first_0 : List UInt8 := [4, 62, 5, 42, 27, 44, 29, 182, 0, 157, 104, 42, 27, 182, 0, 145, 185, 0, 76, 1, 0, 163, 0, 9]
abbrev dktX6_first_0 : List UInt8 := dkwX6_first_0 ++ dktX6_first_1
theorem dksX6_first_0 : cX6_first.data.toList.drop 0 = dktX6_first_0 := by decide +kernel
theorem dksX6_first_1 : cX6_first.data.toList.drop 24 = dktX6_first_1 := dk_seg dksX6_first_0 24 rfl rfl
theorem dX6_first_0 : decode cX6_first 0 = .ok (.iconst 1, 1) := dk_4 (dk_at dksX6_first_0 0 rfl rfl)
theorem dX6_first_1 : decode cX6_first 1 = .ok (.istore_n 3, 1) := dk_62 (dk_at dksX6_first_0 1 rfl rfl)
theorem dX6_first_2 : decode cX6_first 2 = .ok (.iconst 2, 1) := dk_5 (dk_at dksX6_first_0 2 rfl rfl)
theorem dX6_first_3 : decode cX6_first 3 = .ok (.aload_n 0, 1) := dk_42 (dk_at dksX6_first_0 3 rfl rfl)
theorem dX6_first_4 : decode cX6_first 4 = .ok (.iload_n 1, 1) := dk_27 (dk_at dksX6_first_0 4 rfl rfl)
theorem dX6_first_5 : decode cX6_first 5 = .ok (.aload_n 2, 1) := dk_44 (dk_at dksX6_first_0 5 rfl rfl)
theorem dX6_first_6 : decode cX6_first 6 = .ok (.iload_n 3, 1) := dk_29 (dk_at dksX6_first_0 6 rfl rfl)
theorem dX6_first_7 : decode cX6_first 7 = .ok (.invokevirtual 157, 3) := dk_182 0 157 (dk_at dksX6_first_0 7 rfl rfl)
theorem dX6_first_10 : decode cX6_first 10 = .ok (.imul, 1) := dk_104 (dk_at dksX6_first_0 10 rfl rfl)
theorem dX6_first_11 : decode cX6_first 11 = .ok (.aload_n 0, 1) := dk_42 (dk_at dksX6_first_0 11 rfl rfl)
theorem dX6_first_12 : decode cX6_first 12 = .ok (.iload_n 1, 1) := dk_27 (dk_at dksX6_first_0 12 rfl rfl)
theorem dX6_first_13 : decode cX6_first 13 = .ok (.invokevirtual 145, 3) := dk_182 0 145 (dk_at dksX6_first_0 13 rfl rfl)
theorem dX6_first_16 : decode cX6_first 16 = .ok (.invokeinterface 76 1, 5) := by decide +kernel
theorem dX6_first_21 : decode cX6_first 21 = .ok (.if_icmp .gt 9, 3) := dk_163 0 9 (dk_at dksX6_first_0 21 rfl rfl)
theorem dX6_first_24 : decode cX6_first 24 = .ok (.iinc 3 1, 3) := dk_132 3 1 (dk_at dksX6_first_1 0 rfl rfl)
theorem dX6_first_27 : decode cX6_first 27 = .ok (.goto (-25), 3) := dk_167 255 231 (dk_at dksX6_first_1 3 rfl rfl)
theorem dX6_first_30 : decode cX6_first 30 = .ok (.iload_n 3, 1) := dk_29 (dk_at dksX6_first_1 6 rfl rfl)
theorem dX6_first_31 : decode cX6_first 31 = .ok (.ireturn, 1) := dk_172 (dk_at dksX6_first_1 7 rfl rfl)
abbrev cX6_lambda_decides_4 : ByteArray := prog_7_method_34_code
def yX6_lambda_decides_4 : MethodName := ⟨RX6, "lambda$decides$4", "(LScrutineery$Entry;)I"⟩
def dkwX6_lambda_decides_4_0 : List UInt8 := [42, 180, 0, 235, 116, 172]
abbrev dktX6_lambda_decides_4_0 : List UInt8 := dkwX6_lambda_decides_4_0 ++ []
theorem dksX6_lambda_decides_4_0 : cX6_lambda_decides_4.data.toList.drop 0 = dktX6_lambda_decides_4_0 := by decide +kernel
theorem dX6_lambda_decides_4_0 : decode cX6_lambda_decides_4 0 = .ok (.aload_n 0, 1) := dk_42 (dk_at dksX6_lambda_decides_4_0 0 rfl rfl)
theorem dX6_lambda_decides_4_1 : decode cX6_lambda_decides_4 1 = .ok (.getfield 235, 3) := dk_180 0 235 (dk_at dksX6_lambda_decides_4_0 1 rfl rfl)
theorem dX6_lambda_decides_4_4 : decode cX6_lambda_decides_4 4 = .ok (.ineg, 1) := dk_116 (dk_at dksX6_lambda_decides_4_0 4 rfl rfl)
theorem dX6_lambda_decides_4_5 : decode cX6_lambda_decides_4 5 = .ok (.ireturn, 1) := dk_172 (dk_at dksX6_lambda_decides_4_0 5 rfl rfl)
abbrev cX6_shares : ByteArray := prog_7_method_22_code
def yX6_shares : MethodName := ⟨RX6, "shares", "(Ljava/util/List;I)I"⟩
def dkwX6_shares_11 : List UInt8 := [54, 4, 167, 255, 11, 21, 4, 172]
abbrev dktX6_shares_11 : List UInt8 := dkwX6_shares_11 ++ []
def dkwX6_shares_10 : List UInt8 := [25, 9, 25, 12, 185, 0, 65, 2, 0, 126, 54, 10, 167, 255, 208, 25, 9, 78, 21, 4, 21, 8, 96]
abbrev dktX6_shares_10 : List UInt8 := dkwX6_shares_10 ++ dktX6_shares_11
def dkwX6_shares_9 : List UInt8 := [185, 0, 117, 1, 0, 192, 0, 121, 58, 12, 25, 6, 25, 12, 185, 0, 225, 2, 0, 154, 0, 17, 21, 10]
abbrev dktX6_shares_9 : List UInt8 := dkwX6_shares_9 ++ dktX6_shares_10
def dkwX6_shares_8 : List UInt8 := [4, 54, 10, 45, 185, 0, 108, 1, 0, 58, 11, 25, 11, 185, 0, 112, 1, 0, 153, 0, 44, 25, 11]
abbrev dktX6_shares_8 : List UInt8 := dkwX6_shares_8 ++ dktX6_shares_9
def dkwX6_shares_7 : List UInt8 := [4, 100, 181, 0, 220, 25, 10, 21, 5, 181, 0, 223, 167, 255, 213, 187, 0, 9, 89, 183, 0, 11, 58, 9]
abbrev dktX6_shares_7 : List UInt8 := dkwX6_shares_7 ++ dktX6_shares_8
def dkwX6_shares_6 : List UInt8 := [153, 0, 39, 25, 9, 185, 0, 117, 1, 0, 192, 0, 121, 58, 10, 25, 10, 5, 21, 4, 104, 21, 8, 96]
abbrev dktX6_shares_6 : List UInt8 := dkwX6_shares_6 ++ dktX6_shares_7
def dkwX6_shares_5 : List UInt8 := [185, 0, 76, 1, 0, 54, 8, 25, 6, 185, 0, 108, 1, 0, 58, 9, 25, 9, 185, 0, 112, 1, 0]
abbrev dktX6_shares_5 : List UInt8 := dkwX6_shares_5 ++ dktX6_shares_6
def dkwX6_shares_4 : List UInt8 := [58, 6, 25, 6, 185, 0, 76, 1, 0, 4, 164, 0, 8, 16, 12, 167, 0, 5, 16, 11, 54, 5, 25, 6]
abbrev dktX6_shares_4 : List UInt8 := dkwX6_shares_4 ++ dktX6_shares_5
def dkwX6_shares_3 : List UInt8 := [184, 0, 203, 58, 6, 25, 6, 185, 0, 76, 1, 0, 4, 164, 0, 33, 42, 25, 6, 21, 7, 182, 0, 216]
abbrev dktX6_shares_3 : List UInt8 := dkwX6_shares_3 ++ dktX6_shares_4
def dkwX6_shares_2 : List UInt8 := [45, 42, 21, 7, 186, 0, 214, 0, 0, 184, 0, 203, 58, 6, 25, 6, 42, 21, 7, 186, 0, 215, 0, 0]
abbrev dktX6_shares_2 : List UInt8 := dkwX6_shares_2 ++ dktX6_shares_3
def dkwX6_shares_1 : List UInt8 := [154, 0, 242, 45, 58, 6, 21, 4, 54, 7, 45, 185, 0, 76, 1, 0, 4, 164, 0, 77, 16, 10, 54, 5]
abbrev dktX6_shares_1 : List UInt8 := dkwX6_shares_1 ++ dktX6_shares_2
def dkwX6_shares_0 : List UInt8 := [187, 0, 9, 89, 43, 183, 0, 208, 78, 28, 54, 4, 16, 9, 54, 5, 45, 185, 0, 211, 1, 0]
abbrev dktX6_shares_0 : List UInt8 := dkwX6_shares_0 ++ dktX6_shares_1
theorem dksX6_shares_0 : cX6_shares.data.toList.drop 0 = dktX6_shares_0 := by decide +kernel
theorem dksX6_shares_1 : cX6_shares.data.toList.drop 22 = dktX6_shares_1 := dk_seg dksX6_shares_0 22 rfl rfl
theorem dksX6_shares_2 : cX6_shares.data.toList.drop 46 = dktX6_shares_2 := dk_seg dksX6_shares_1 24 rfl rfl
theorem dksX6_shares_3 : cX6_shares.data.toList.drop 70 = dktX6_shares_3 := dk_seg dksX6_shares_2 24 rfl rfl
theorem dksX6_shares_4 : cX6_shares.data.toList.drop 94 = dktX6_shares_4 := dk_seg dksX6_shares_3 24 rfl rfl
theorem dksX6_shares_5 : cX6_shares.data.toList.drop 118 = dktX6_shares_5 := dk_seg dksX6_shares_4 24 rfl rfl
theorem dksX6_shares_6 : cX6_shares.data.toList.drop 141 = dktX6_shares_6 := dk_seg dksX6_shares_5 23 rfl rfl
theorem dksX6_shares_7 : cX6_shares.data.toList.drop 165 = dktX6_shares_7 := dk_seg dksX6_shares_6 24 rfl rfl
theorem dksX6_shares_8 : cX6_shares.data.toList.drop 189 = dktX6_shares_8 := dk_seg dksX6_shares_7 24 rfl rfl
theorem dksX6_shares_9 : cX6_shares.data.toList.drop 212 = dktX6_shares_9 := dk_seg dksX6_shares_8 23 rfl rfl
theorem dksX6_shares_10 : cX6_shares.data.toList.drop 236 = dktX6_shares_10 := dk_seg dksX6_shares_9 24 rfl rfl
theorem dksX6_shares_11 : cX6_shares.data.toList.drop 259 = dktX6_shares_11 := dk_seg dksX6_shares_10 23 rfl rfl
theorem dX6_shares_0 : decode cX6_shares 0 = .ok (.new 9, 3) := dk_187 0 9 (dk_at dksX6_shares_0 0 rfl rfl)
theorem dX6_shares_3 : decode cX6_shares 3 = .ok (.dup, 1) := dk_89 (dk_at dksX6_shares_0 3 rfl rfl)
theorem dX6_shares_4 : decode cX6_shares 4 = .ok (.aload_n 1, 1) := dk_43 (dk_at dksX6_shares_0 4 rfl rfl)
theorem dX6_shares_5 : decode cX6_shares 5 = .ok (.invokespecial 208, 3) := dk_183 0 208 (dk_at dksX6_shares_0 5 rfl rfl)
theorem dX6_shares_8 : decode cX6_shares 8 = .ok (.astore_n 3, 1) := dk_78 (dk_at dksX6_shares_0 8 rfl rfl)
theorem dX6_shares_9 : decode cX6_shares 9 = .ok (.iload_n 2, 1) := dk_28 (dk_at dksX6_shares_0 9 rfl rfl)
theorem dX6_shares_10 : decode cX6_shares 10 = .ok (.istore 4, 2) := dk_54 4 (dk_at dksX6_shares_0 10 rfl rfl)
theorem dX6_shares_12 : decode cX6_shares 12 = .ok (.bipush 9, 2) := dk_16 9 (dk_at dksX6_shares_0 12 rfl rfl)
theorem dX6_shares_14 : decode cX6_shares 14 = .ok (.istore 5, 2) := dk_54 5 (dk_at dksX6_shares_0 14 rfl rfl)
theorem dX6_shares_16 : decode cX6_shares 16 = .ok (.aload_n 3, 1) := dk_45 (dk_at dksX6_shares_0 16 rfl rfl)
theorem dX6_shares_17 : decode cX6_shares 17 = .ok (.invokeinterface 211 1, 5) := by decide +kernel
theorem dX6_shares_22 : decode cX6_shares 22 = .ok (.ifCond .ne 242, 3) := dk_154 0 242 (dk_at dksX6_shares_1 0 rfl rfl)
theorem dX6_shares_25 : decode cX6_shares 25 = .ok (.aload_n 3, 1) := dk_45 (dk_at dksX6_shares_1 3 rfl rfl)
theorem dX6_shares_26 : decode cX6_shares 26 = .ok (.astore 6, 2) := dk_58 6 (dk_at dksX6_shares_1 4 rfl rfl)
theorem dX6_shares_28 : decode cX6_shares 28 = .ok (.iload 4, 2) := dk_21 4 (dk_at dksX6_shares_1 6 rfl rfl)
theorem dX6_shares_30 : decode cX6_shares 30 = .ok (.istore 7, 2) := dk_54 7 (dk_at dksX6_shares_1 8 rfl rfl)
theorem dX6_shares_32 : decode cX6_shares 32 = .ok (.aload_n 3, 1) := dk_45 (dk_at dksX6_shares_1 10 rfl rfl)
theorem dX6_shares_33 : decode cX6_shares 33 = .ok (.invokeinterface 76 1, 5) := by decide +kernel
theorem dX6_shares_38 : decode cX6_shares 38 = .ok (.iconst 1, 1) := dk_4 (dk_at dksX6_shares_1 16 rfl rfl)
theorem dX6_shares_39 : decode cX6_shares 39 = .ok (.if_icmp .le 77, 3) := dk_164 0 77 (dk_at dksX6_shares_1 17 rfl rfl)
theorem dX6_shares_42 : decode cX6_shares 42 = .ok (.bipush 10, 2) := dk_16 10 (dk_at dksX6_shares_1 20 rfl rfl)
theorem dX6_shares_44 : decode cX6_shares 44 = .ok (.istore 5, 2) := dk_54 5 (dk_at dksX6_shares_1 22 rfl rfl)
theorem dX6_shares_46 : decode cX6_shares 46 = .ok (.aload_n 3, 1) := dk_45 (dk_at dksX6_shares_2 0 rfl rfl)
theorem dX6_shares_47 : decode cX6_shares 47 = .ok (.aload_n 0, 1) := dk_42 (dk_at dksX6_shares_2 1 rfl rfl)
theorem dX6_shares_48 : decode cX6_shares 48 = .ok (.iload 7, 2) := dk_21 7 (dk_at dksX6_shares_2 2 rfl rfl)
theorem dX6_shares_50 : decode cX6_shares 50 = .ok (.invokedynamic 214, 5) := by decide +kernel
theorem dX6_shares_55 : decode cX6_shares 55 = .ok (.invokestatic 203, 3) := dk_184 0 203 (dk_at dksX6_shares_2 9 rfl rfl)
theorem dX6_shares_58 : decode cX6_shares 58 = .ok (.astore 6, 2) := dk_58 6 (dk_at dksX6_shares_2 12 rfl rfl)
theorem dX6_shares_60 : decode cX6_shares 60 = .ok (.aload 6, 2) := dk_25 6 (dk_at dksX6_shares_2 14 rfl rfl)
theorem dX6_shares_62 : decode cX6_shares 62 = .ok (.aload_n 0, 1) := dk_42 (dk_at dksX6_shares_2 16 rfl rfl)
theorem dX6_shares_63 : decode cX6_shares 63 = .ok (.iload 7, 2) := dk_21 7 (dk_at dksX6_shares_2 17 rfl rfl)
theorem dX6_shares_65 : decode cX6_shares 65 = .ok (.invokedynamic 215, 5) := by decide +kernel
theorem dX6_shares_70 : decode cX6_shares 70 = .ok (.invokestatic 203, 3) := dk_184 0 203 (dk_at dksX6_shares_3 0 rfl rfl)
theorem dX6_shares_73 : decode cX6_shares 73 = .ok (.astore 6, 2) := dk_58 6 (dk_at dksX6_shares_3 3 rfl rfl)
theorem dX6_shares_75 : decode cX6_shares 75 = .ok (.aload 6, 2) := dk_25 6 (dk_at dksX6_shares_3 5 rfl rfl)
theorem dX6_shares_77 : decode cX6_shares 77 = .ok (.invokeinterface 76 1, 5) := by decide +kernel
theorem dX6_shares_82 : decode cX6_shares 82 = .ok (.iconst 1, 1) := dk_4 (dk_at dksX6_shares_3 12 rfl rfl)
theorem dX6_shares_83 : decode cX6_shares 83 = .ok (.if_icmp .le 33, 3) := dk_164 0 33 (dk_at dksX6_shares_3 13 rfl rfl)
theorem dX6_shares_86 : decode cX6_shares 86 = .ok (.aload_n 0, 1) := dk_42 (dk_at dksX6_shares_3 16 rfl rfl)
theorem dX6_shares_87 : decode cX6_shares 87 = .ok (.aload 6, 2) := dk_25 6 (dk_at dksX6_shares_3 17 rfl rfl)
theorem dX6_shares_89 : decode cX6_shares 89 = .ok (.iload 7, 2) := dk_21 7 (dk_at dksX6_shares_3 19 rfl rfl)
theorem dX6_shares_91 : decode cX6_shares 91 = .ok (.invokevirtual 216, 3) := dk_182 0 216 (dk_at dksX6_shares_3 21 rfl rfl)
theorem dX6_shares_94 : decode cX6_shares 94 = .ok (.astore 6, 2) := dk_58 6 (dk_at dksX6_shares_4 0 rfl rfl)
theorem dX6_shares_96 : decode cX6_shares 96 = .ok (.aload 6, 2) := dk_25 6 (dk_at dksX6_shares_4 2 rfl rfl)
theorem dX6_shares_98 : decode cX6_shares 98 = .ok (.invokeinterface 76 1, 5) := by decide +kernel
theorem dX6_shares_103 : decode cX6_shares 103 = .ok (.iconst 1, 1) := dk_4 (dk_at dksX6_shares_4 9 rfl rfl)
theorem dX6_shares_104 : decode cX6_shares 104 = .ok (.if_icmp .le 8, 3) := dk_164 0 8 (dk_at dksX6_shares_4 10 rfl rfl)
theorem dX6_shares_107 : decode cX6_shares 107 = .ok (.bipush 12, 2) := dk_16 12 (dk_at dksX6_shares_4 13 rfl rfl)
theorem dX6_shares_109 : decode cX6_shares 109 = .ok (.goto 5, 3) := dk_167 0 5 (dk_at dksX6_shares_4 15 rfl rfl)
theorem dX6_shares_112 : decode cX6_shares 112 = .ok (.bipush 11, 2) := dk_16 11 (dk_at dksX6_shares_4 18 rfl rfl)
theorem dX6_shares_114 : decode cX6_shares 114 = .ok (.istore 5, 2) := dk_54 5 (dk_at dksX6_shares_4 20 rfl rfl)
theorem dX6_shares_116 : decode cX6_shares 116 = .ok (.aload 6, 2) := dk_25 6 (dk_at dksX6_shares_4 22 rfl rfl)
theorem dX6_shares_118 : decode cX6_shares 118 = .ok (.invokeinterface 76 1, 5) := by decide +kernel
theorem dX6_shares_123 : decode cX6_shares 123 = .ok (.istore 8, 2) := dk_54 8 (dk_at dksX6_shares_5 5 rfl rfl)
theorem dX6_shares_125 : decode cX6_shares 125 = .ok (.aload 6, 2) := dk_25 6 (dk_at dksX6_shares_5 7 rfl rfl)
theorem dX6_shares_127 : decode cX6_shares 127 = .ok (.invokeinterface 108 1, 5) := by decide +kernel
theorem dX6_shares_132 : decode cX6_shares 132 = .ok (.astore 9, 2) := dk_58 9 (dk_at dksX6_shares_5 14 rfl rfl)
theorem dX6_shares_134 : decode cX6_shares 134 = .ok (.aload 9, 2) := dk_25 9 (dk_at dksX6_shares_5 16 rfl rfl)
theorem dX6_shares_136 : decode cX6_shares 136 = .ok (.invokeinterface 112 1, 5) := by decide +kernel
theorem dX6_shares_141 : decode cX6_shares 141 = .ok (.ifCond .eq 39, 3) := dk_153 0 39 (dk_at dksX6_shares_6 0 rfl rfl)
theorem dX6_shares_144 : decode cX6_shares 144 = .ok (.aload 9, 2) := dk_25 9 (dk_at dksX6_shares_6 3 rfl rfl)
theorem dX6_shares_146 : decode cX6_shares 146 = .ok (.invokeinterface 117 1, 5) := by decide +kernel
theorem dX6_shares_151 : decode cX6_shares 151 = .ok (.checkcast 121, 3) := dk_192 0 121 (dk_at dksX6_shares_6 10 rfl rfl)
theorem dX6_shares_154 : decode cX6_shares 154 = .ok (.astore 10, 2) := dk_58 10 (dk_at dksX6_shares_6 13 rfl rfl)
theorem dX6_shares_156 : decode cX6_shares 156 = .ok (.aload 10, 2) := dk_25 10 (dk_at dksX6_shares_6 15 rfl rfl)
theorem dX6_shares_158 : decode cX6_shares 158 = .ok (.iconst 2, 1) := dk_5 (dk_at dksX6_shares_6 17 rfl rfl)
theorem dX6_shares_159 : decode cX6_shares 159 = .ok (.iload 4, 2) := dk_21 4 (dk_at dksX6_shares_6 18 rfl rfl)
theorem dX6_shares_161 : decode cX6_shares 161 = .ok (.imul, 1) := dk_104 (dk_at dksX6_shares_6 20 rfl rfl)
theorem dX6_shares_162 : decode cX6_shares 162 = .ok (.iload 8, 2) := dk_21 8 (dk_at dksX6_shares_6 21 rfl rfl)
theorem dX6_shares_164 : decode cX6_shares 164 = .ok (.iadd, 1) := dk_96 (dk_at dksX6_shares_6 23 rfl rfl)
theorem dX6_shares_165 : decode cX6_shares 165 = .ok (.iconst 1, 1) := dk_4 (dk_at dksX6_shares_7 0 rfl rfl)
theorem dX6_shares_166 : decode cX6_shares 166 = .ok (.isub, 1) := dk_100 (dk_at dksX6_shares_7 1 rfl rfl)
theorem dX6_shares_167 : decode cX6_shares 167 = .ok (.putfield 220, 3) := dk_181 0 220 (dk_at dksX6_shares_7 2 rfl rfl)
theorem dX6_shares_170 : decode cX6_shares 170 = .ok (.aload 10, 2) := dk_25 10 (dk_at dksX6_shares_7 5 rfl rfl)
theorem dX6_shares_172 : decode cX6_shares 172 = .ok (.iload 5, 2) := dk_21 5 (dk_at dksX6_shares_7 7 rfl rfl)
theorem dX6_shares_174 : decode cX6_shares 174 = .ok (.putfield 223, 3) := dk_181 0 223 (dk_at dksX6_shares_7 9 rfl rfl)
theorem dX6_shares_177 : decode cX6_shares 177 = .ok (.goto (-43), 3) := dk_167 255 213 (dk_at dksX6_shares_7 12 rfl rfl)
theorem dX6_shares_180 : decode cX6_shares 180 = .ok (.new 9, 3) := dk_187 0 9 (dk_at dksX6_shares_7 15 rfl rfl)
theorem dX6_shares_183 : decode cX6_shares 183 = .ok (.dup, 1) := dk_89 (dk_at dksX6_shares_7 18 rfl rfl)
theorem dX6_shares_184 : decode cX6_shares 184 = .ok (.invokespecial 11, 3) := dk_183 0 11 (dk_at dksX6_shares_7 19 rfl rfl)
theorem dX6_shares_187 : decode cX6_shares 187 = .ok (.astore 9, 2) := dk_58 9 (dk_at dksX6_shares_7 22 rfl rfl)
theorem dX6_shares_189 : decode cX6_shares 189 = .ok (.iconst 1, 1) := dk_4 (dk_at dksX6_shares_8 0 rfl rfl)
theorem dX6_shares_190 : decode cX6_shares 190 = .ok (.istore 10, 2) := dk_54 10 (dk_at dksX6_shares_8 1 rfl rfl)
theorem dX6_shares_192 : decode cX6_shares 192 = .ok (.aload_n 3, 1) := dk_45 (dk_at dksX6_shares_8 3 rfl rfl)
theorem dX6_shares_193 : decode cX6_shares 193 = .ok (.invokeinterface 108 1, 5) := by decide +kernel
theorem dX6_shares_198 : decode cX6_shares 198 = .ok (.astore 11, 2) := dk_58 11 (dk_at dksX6_shares_8 9 rfl rfl)
theorem dX6_shares_200 : decode cX6_shares 200 = .ok (.aload 11, 2) := dk_25 11 (dk_at dksX6_shares_8 11 rfl rfl)
theorem dX6_shares_202 : decode cX6_shares 202 = .ok (.invokeinterface 112 1, 5) := by decide +kernel
theorem dX6_shares_207 : decode cX6_shares 207 = .ok (.ifCond .eq 44, 3) := dk_153 0 44 (dk_at dksX6_shares_8 18 rfl rfl)
theorem dX6_shares_210 : decode cX6_shares 210 = .ok (.aload 11, 2) := dk_25 11 (dk_at dksX6_shares_8 21 rfl rfl)
theorem dX6_shares_212 : decode cX6_shares 212 = .ok (.invokeinterface 117 1, 5) := by decide +kernel
theorem dX6_shares_217 : decode cX6_shares 217 = .ok (.checkcast 121, 3) := dk_192 0 121 (dk_at dksX6_shares_9 5 rfl rfl)
theorem dX6_shares_220 : decode cX6_shares 220 = .ok (.astore 12, 2) := dk_58 12 (dk_at dksX6_shares_9 8 rfl rfl)
theorem dX6_shares_222 : decode cX6_shares 222 = .ok (.aload 6, 2) := dk_25 6 (dk_at dksX6_shares_9 10 rfl rfl)
theorem dX6_shares_224 : decode cX6_shares 224 = .ok (.aload 12, 2) := dk_25 12 (dk_at dksX6_shares_9 12 rfl rfl)
theorem dX6_shares_226 : decode cX6_shares 226 = .ok (.invokeinterface 225 2, 5) := by decide +kernel
theorem dX6_shares_231 : decode cX6_shares 231 = .ok (.ifCond .ne 17, 3) := dk_154 0 17 (dk_at dksX6_shares_9 19 rfl rfl)
theorem dX6_shares_234 : decode cX6_shares 234 = .ok (.iload 10, 2) := dk_21 10 (dk_at dksX6_shares_9 22 rfl rfl)
theorem dX6_shares_236 : decode cX6_shares 236 = .ok (.aload 9, 2) := dk_25 9 (dk_at dksX6_shares_10 0 rfl rfl)
theorem dX6_shares_238 : decode cX6_shares 238 = .ok (.aload 12, 2) := dk_25 12 (dk_at dksX6_shares_10 2 rfl rfl)
theorem dX6_shares_240 : decode cX6_shares 240 = .ok (.invokeinterface 65 2, 5) := by decide +kernel
theorem dX6_shares_245 : decode cX6_shares 245 = .ok (.iand, 1) := dk_126 (dk_at dksX6_shares_10 9 rfl rfl)
theorem dX6_shares_246 : decode cX6_shares 246 = .ok (.istore 10, 2) := dk_54 10 (dk_at dksX6_shares_10 10 rfl rfl)
theorem dX6_shares_248 : decode cX6_shares 248 = .ok (.goto (-48), 3) := dk_167 255 208 (dk_at dksX6_shares_10 12 rfl rfl)
theorem dX6_shares_251 : decode cX6_shares 251 = .ok (.aload 9, 2) := dk_25 9 (dk_at dksX6_shares_10 15 rfl rfl)
theorem dX6_shares_253 : decode cX6_shares 253 = .ok (.astore_n 3, 1) := dk_78 (dk_at dksX6_shares_10 17 rfl rfl)
theorem dX6_shares_254 : decode cX6_shares 254 = .ok (.iload 4, 2) := dk_21 4 (dk_at dksX6_shares_10 18 rfl rfl)
theorem dX6_shares_256 : decode cX6_shares 256 = .ok (.iload 8, 2) := dk_21 8 (dk_at dksX6_shares_10 20 rfl rfl)
theorem dX6_shares_258 : decode cX6_shares 258 = .ok (.iadd, 1) := dk_96 (dk_at dksX6_shares_10 22 rfl rfl)
theorem dX6_shares_259 : decode cX6_shares 259 = .ok (.istore 4, 2) := dk_54 4 (dk_at dksX6_shares_11 0 rfl rfl)
theorem dX6_shares_261 : decode cX6_shares 261 = .ok (.goto (-245), 3) := dk_167 255 11 (dk_at dksX6_shares_11 2 rfl rfl)
theorem dX6_shares_264 : decode cX6_shares 264 = .ok (.iload 4, 2) := dk_21 4 (dk_at dksX6_shares_11 5 rfl rfl)
theorem dX6_shares_266 : decode cX6_shares 266 = .ok (.ireturn, 1) := dk_172 (dk_at dksX6_shares_11 7 rfl rfl)
abbrev cX6_lambda_shares_2 : ByteArray := prog_7_method_36_code
def yX6_lambda_shares_2 : MethodName := ⟨RX6, "lambda$shares$2", "(ILScrutineery$Entry;)I"⟩
def dkwX6_lambda_shares_2_0 : List UInt8 := [42, 44, 27, 182, 1, 62, 172]
abbrev dktX6_lambda_shares_2_0 : List UInt8 := dkwX6_lambda_shares_2_0 ++ []
theorem dksX6_lambda_shares_2_0 : cX6_lambda_shares_2.data.toList.drop 0 = dktX6_lambda_shares_2_0 := by decide +kernel
theorem dX6_lambda_shares_2_0 : decode cX6_lambda_shares_2 0 = .ok (.aload_n 0, 1) := dk_42 (dk_at dksX6_lambda_shares_2_0 0 rfl rfl)
theorem dX6_lambda_shares_2_1 : decode cX6_lambda_shares_2 1 = .ok (.aload_n 2, 1) := dk_44 (dk_at dksX6_lambda_shares_2_0 1 rfl rfl)
theorem dX6_lambda_shares_2_2 : decode cX6_lambda_shares_2 2 = .ok (.iload_n 1, 1) := dk_27 (dk_at dksX6_lambda_shares_2_0 2 rfl rfl)
theorem dX6_lambda_shares_2_3 : decode cX6_lambda_shares_2 3 = .ok (.invokevirtual 318, 3) := dk_182 1 62 (dk_at dksX6_lambda_shares_2_0 3 rfl rfl)
theorem dX6_lambda_shares_2_6 : decode cX6_lambda_shares_2 6 = .ok (.ireturn, 1) := dk_172 (dk_at dksX6_lambda_shares_2_0 6 rfl rfl)
abbrev cX6_wins : ByteArray := prog_7_method_17_code
def yX6_wins : MethodName := ⟨RX6, "wins", "(LScrutineery$Entry;I)I"⟩
def dkwX6_wins_1 : List UInt8 := [104, 163, 0, 7, 4, 167, 0, 4, 3, 96, 62, 132, 4, 1, 167, 255, 223, 29, 172]
abbrev dktX6_wins_1 : List UInt8 := dkwX6_wins_1 ++ []
def dkwX6_wins_0 : List UInt8 := [3, 62, 3, 54, 4, 21, 4, 42, 180, 0, 49, 162, 0, 30, 29, 43, 180, 0, 183, 21, 4, 46, 5, 28]
abbrev dktX6_wins_0 : List UInt8 := dkwX6_wins_0 ++ dktX6_wins_1
theorem dksX6_wins_0 : cX6_wins.data.toList.drop 0 = dktX6_wins_0 := by decide +kernel
theorem dksX6_wins_1 : cX6_wins.data.toList.drop 24 = dktX6_wins_1 := dk_seg dksX6_wins_0 24 rfl rfl
theorem dX6_wins_0 : decode cX6_wins 0 = .ok (.iconst 0, 1) := dk_3 (dk_at dksX6_wins_0 0 rfl rfl)
theorem dX6_wins_1 : decode cX6_wins 1 = .ok (.istore_n 3, 1) := dk_62 (dk_at dksX6_wins_0 1 rfl rfl)
theorem dX6_wins_2 : decode cX6_wins 2 = .ok (.iconst 0, 1) := dk_3 (dk_at dksX6_wins_0 2 rfl rfl)
theorem dX6_wins_3 : decode cX6_wins 3 = .ok (.istore 4, 2) := dk_54 4 (dk_at dksX6_wins_0 3 rfl rfl)
theorem dX6_wins_5 : decode cX6_wins 5 = .ok (.iload 4, 2) := dk_21 4 (dk_at dksX6_wins_0 5 rfl rfl)
theorem dX6_wins_7 : decode cX6_wins 7 = .ok (.aload_n 0, 1) := dk_42 (dk_at dksX6_wins_0 7 rfl rfl)
theorem dX6_wins_8 : decode cX6_wins 8 = .ok (.getfield 49, 3) := dk_180 0 49 (dk_at dksX6_wins_0 8 rfl rfl)
theorem dX6_wins_11 : decode cX6_wins 11 = .ok (.if_icmp .ge 30, 3) := dk_162 0 30 (dk_at dksX6_wins_0 11 rfl rfl)
theorem dX6_wins_14 : decode cX6_wins 14 = .ok (.iload_n 3, 1) := dk_29 (dk_at dksX6_wins_0 14 rfl rfl)
theorem dX6_wins_15 : decode cX6_wins 15 = .ok (.aload_n 1, 1) := dk_43 (dk_at dksX6_wins_0 15 rfl rfl)
theorem dX6_wins_16 : decode cX6_wins 16 = .ok (.getfield 183, 3) := dk_180 0 183 (dk_at dksX6_wins_0 16 rfl rfl)
theorem dX6_wins_19 : decode cX6_wins 19 = .ok (.iload 4, 2) := dk_21 4 (dk_at dksX6_wins_0 19 rfl rfl)
theorem dX6_wins_21 : decode cX6_wins 21 = .ok (.iaload, 1) := dk_46 (dk_at dksX6_wins_0 21 rfl rfl)
theorem dX6_wins_22 : decode cX6_wins 22 = .ok (.iconst 2, 1) := dk_5 (dk_at dksX6_wins_0 22 rfl rfl)
theorem dX6_wins_23 : decode cX6_wins 23 = .ok (.iload_n 2, 1) := dk_28 (dk_at dksX6_wins_0 23 rfl rfl)
theorem dX6_wins_24 : decode cX6_wins 24 = .ok (.imul, 1) := dk_104 (dk_at dksX6_wins_1 0 rfl rfl)
theorem dX6_wins_25 : decode cX6_wins 25 = .ok (.if_icmp .gt 7, 3) := dk_163 0 7 (dk_at dksX6_wins_1 1 rfl rfl)
theorem dX6_wins_28 : decode cX6_wins 28 = .ok (.iconst 1, 1) := dk_4 (dk_at dksX6_wins_1 4 rfl rfl)
theorem dX6_wins_29 : decode cX6_wins 29 = .ok (.goto 4, 3) := dk_167 0 4 (dk_at dksX6_wins_1 5 rfl rfl)
theorem dX6_wins_32 : decode cX6_wins 32 = .ok (.iconst 0, 1) := dk_3 (dk_at dksX6_wins_1 8 rfl rfl)
theorem dX6_wins_33 : decode cX6_wins 33 = .ok (.iadd, 1) := dk_96 (dk_at dksX6_wins_1 9 rfl rfl)
theorem dX6_wins_34 : decode cX6_wins 34 = .ok (.istore_n 3, 1) := dk_62 (dk_at dksX6_wins_1 10 rfl rfl)
theorem dX6_wins_35 : decode cX6_wins 35 = .ok (.iinc 4 1, 3) := dk_132 4 1 (dk_at dksX6_wins_1 11 rfl rfl)
theorem dX6_wins_38 : decode cX6_wins 38 = .ok (.goto (-33), 3) := dk_167 255 223 (dk_at dksX6_wins_1 14 rfl rfl)
theorem dX6_wins_41 : decode cX6_wins 41 = .ok (.iload_n 3, 1) := dk_29 (dk_at dksX6_wins_1 17 rfl rfl)
theorem dX6_wins_42 : decode cX6_wins 42 = .ok (.ireturn, 1) := dk_172 (dk_at dksX6_wins_1 18 rfl rfl)
abbrev cX6_lambda_shares_3 : ByteArray := prog_7_method_35_code
def yX6_lambda_shares_3 : MethodName := ⟨RX6, "lambda$shares$3", "(ILScrutineery$Entry;)I"⟩
def dkwX6_lambda_shares_3_0 : List UInt8 := [42, 44, 27, 182, 1, 59, 116, 172]
abbrev dktX6_lambda_shares_3_0 : List UInt8 := dkwX6_lambda_shares_3_0 ++ []
theorem dksX6_lambda_shares_3_0 : cX6_lambda_shares_3.data.toList.drop 0 = dktX6_lambda_shares_3_0 := by decide +kernel
theorem dX6_lambda_shares_3_0 : decode cX6_lambda_shares_3 0 = .ok (.aload_n 0, 1) := dk_42 (dk_at dksX6_lambda_shares_3_0 0 rfl rfl)
theorem dX6_lambda_shares_3_1 : decode cX6_lambda_shares_3 1 = .ok (.aload_n 2, 1) := dk_44 (dk_at dksX6_lambda_shares_3_0 1 rfl rfl)
theorem dX6_lambda_shares_3_2 : decode cX6_lambda_shares_3 2 = .ok (.iload_n 1, 1) := dk_27 (dk_at dksX6_lambda_shares_3_0 2 rfl rfl)
theorem dX6_lambda_shares_3_3 : decode cX6_lambda_shares_3 3 = .ok (.invokevirtual 315, 3) := dk_182 1 59 (dk_at dksX6_lambda_shares_3_0 3 rfl rfl)
theorem dX6_lambda_shares_3_6 : decode cX6_lambda_shares_3 6 = .ok (.ineg, 1) := dk_116 (dk_at dksX6_lambda_shares_3_0 6 rfl rfl)
theorem dX6_lambda_shares_3_7 : decode cX6_lambda_shares_3 7 = .ok (.ireturn, 1) := dk_172 (dk_at dksX6_lambda_shares_3_0 7 rfl rfl)
abbrev cX6_low : ByteArray := prog_7_method_18_code
def yX6_low : MethodName := ⟨RX6, "low", "(LScrutineery$Entry;I)I"⟩
def dkwX6_low_2 : List UInt8 := [172]
abbrev dktX6_low_2 : List UInt8 := dkwX6_low_2 ++ []
def dkwX6_low_1 : List UInt8 := [104, 163, 0, 13, 43, 180, 0, 183, 21, 4, 46, 167, 0, 4, 3, 96, 62, 132, 4, 1, 167, 255, 217, 29]
abbrev dktX6_low_1 : List UInt8 := dkwX6_low_1 ++ dktX6_low_2
def dkwX6_low_0 : List UInt8 := [3, 62, 3, 54, 4, 21, 4, 42, 180, 0, 49, 162, 0, 36, 29, 43, 180, 0, 183, 21, 4, 46, 5, 28]
abbrev dktX6_low_0 : List UInt8 := dkwX6_low_0 ++ dktX6_low_1
theorem dksX6_low_0 : cX6_low.data.toList.drop 0 = dktX6_low_0 := by decide +kernel
theorem dksX6_low_1 : cX6_low.data.toList.drop 24 = dktX6_low_1 := dk_seg dksX6_low_0 24 rfl rfl
theorem dksX6_low_2 : cX6_low.data.toList.drop 48 = dktX6_low_2 := dk_seg dksX6_low_1 24 rfl rfl
theorem dX6_low_0 : decode cX6_low 0 = .ok (.iconst 0, 1) := dk_3 (dk_at dksX6_low_0 0 rfl rfl)
theorem dX6_low_1 : decode cX6_low 1 = .ok (.istore_n 3, 1) := dk_62 (dk_at dksX6_low_0 1 rfl rfl)
theorem dX6_low_2 : decode cX6_low 2 = .ok (.iconst 0, 1) := dk_3 (dk_at dksX6_low_0 2 rfl rfl)
theorem dX6_low_3 : decode cX6_low 3 = .ok (.istore 4, 2) := dk_54 4 (dk_at dksX6_low_0 3 rfl rfl)
theorem dX6_low_5 : decode cX6_low 5 = .ok (.iload 4, 2) := dk_21 4 (dk_at dksX6_low_0 5 rfl rfl)
theorem dX6_low_7 : decode cX6_low 7 = .ok (.aload_n 0, 1) := dk_42 (dk_at dksX6_low_0 7 rfl rfl)
theorem dX6_low_8 : decode cX6_low 8 = .ok (.getfield 49, 3) := dk_180 0 49 (dk_at dksX6_low_0 8 rfl rfl)
theorem dX6_low_11 : decode cX6_low 11 = .ok (.if_icmp .ge 36, 3) := dk_162 0 36 (dk_at dksX6_low_0 11 rfl rfl)
theorem dX6_low_14 : decode cX6_low 14 = .ok (.iload_n 3, 1) := dk_29 (dk_at dksX6_low_0 14 rfl rfl)
theorem dX6_low_15 : decode cX6_low 15 = .ok (.aload_n 1, 1) := dk_43 (dk_at dksX6_low_0 15 rfl rfl)
theorem dX6_low_16 : decode cX6_low 16 = .ok (.getfield 183, 3) := dk_180 0 183 (dk_at dksX6_low_0 16 rfl rfl)
theorem dX6_low_19 : decode cX6_low 19 = .ok (.iload 4, 2) := dk_21 4 (dk_at dksX6_low_0 19 rfl rfl)
theorem dX6_low_21 : decode cX6_low 21 = .ok (.iaload, 1) := dk_46 (dk_at dksX6_low_0 21 rfl rfl)
theorem dX6_low_22 : decode cX6_low 22 = .ok (.iconst 2, 1) := dk_5 (dk_at dksX6_low_0 22 rfl rfl)
theorem dX6_low_23 : decode cX6_low 23 = .ok (.iload_n 2, 1) := dk_28 (dk_at dksX6_low_0 23 rfl rfl)
theorem dX6_low_24 : decode cX6_low 24 = .ok (.imul, 1) := dk_104 (dk_at dksX6_low_1 0 rfl rfl)
theorem dX6_low_25 : decode cX6_low 25 = .ok (.if_icmp .gt 13, 3) := dk_163 0 13 (dk_at dksX6_low_1 1 rfl rfl)
theorem dX6_low_28 : decode cX6_low 28 = .ok (.aload_n 1, 1) := dk_43 (dk_at dksX6_low_1 4 rfl rfl)
theorem dX6_low_29 : decode cX6_low 29 = .ok (.getfield 183, 3) := dk_180 0 183 (dk_at dksX6_low_1 5 rfl rfl)
theorem dX6_low_32 : decode cX6_low 32 = .ok (.iload 4, 2) := dk_21 4 (dk_at dksX6_low_1 8 rfl rfl)
theorem dX6_low_34 : decode cX6_low 34 = .ok (.iaload, 1) := dk_46 (dk_at dksX6_low_1 10 rfl rfl)
theorem dX6_low_35 : decode cX6_low 35 = .ok (.goto 4, 3) := dk_167 0 4 (dk_at dksX6_low_1 11 rfl rfl)
theorem dX6_low_38 : decode cX6_low 38 = .ok (.iconst 0, 1) := dk_3 (dk_at dksX6_low_1 14 rfl rfl)
theorem dX6_low_39 : decode cX6_low 39 = .ok (.iadd, 1) := dk_96 (dk_at dksX6_low_1 15 rfl rfl)
theorem dX6_low_40 : decode cX6_low 40 = .ok (.istore_n 3, 1) := dk_62 (dk_at dksX6_low_1 16 rfl rfl)
theorem dX6_low_41 : decode cX6_low 41 = .ok (.iinc 4 1, 3) := dk_132 4 1 (dk_at dksX6_low_1 17 rfl rfl)
theorem dX6_low_44 : decode cX6_low 44 = .ok (.goto (-39), 3) := dk_167 255 217 (dk_at dksX6_low_1 20 rfl rfl)
theorem dX6_low_47 : decode cX6_low 47 = .ok (.iload_n 3, 1) := dk_29 (dk_at dksX6_low_1 23 rfl rfl)
theorem dX6_low_48 : decode cX6_low 48 = .ok (.ireturn, 1) := dk_172 (dk_at dksX6_low_2 0 rfl rfl)
abbrev cX6_byAllMarks : ByteArray := prog_7_method_21_code
def yX6_byAllMarks : MethodName := ⟨RX6, "byAllMarks", "(Ljava/util/List;I)Ljava/util/List;"⟩
def dkwX6_byAllMarks_7 : List UInt8 := [132, 6, 1, 167, 255, 130, 45, 176]
abbrev dktX6_byAllMarks_7 : List UInt8 := dkwX6_byAllMarks_7 ++ []
def dkwX6_byAllMarks_6 : List UInt8 := [186, 0, 200, 0, 0, 184, 0, 203, 78, 45, 42, 21, 7, 186, 0, 207, 0, 0, 184, 0, 203, 78]
abbrev dktX6_byAllMarks_6 : List UInt8 := dkwX6_byAllMarks_6 ++ dktX6_byAllMarks_7
def dkwX6_byAllMarks_5 : List UInt8 := [167, 0, 4, 3, 128, 54, 4, 167, 255, 209, 21, 4, 154, 0, 6, 167, 0, 29, 45, 42, 21, 7]
abbrev dktX6_byAllMarks_5 : List UInt8 := dkwX6_byAllMarks_5 ++ dktX6_byAllMarks_6
def dkwX6_byAllMarks_4 : List UInt8 := [192, 0, 121, 58, 9, 21, 4, 5, 42, 25, 9, 21, 7, 182, 0, 196, 104, 21, 5, 164, 0, 7, 4]
abbrev dktX6_byAllMarks_4 : List UInt8 := dkwX6_byAllMarks_4 ++ dktX6_byAllMarks_5
def dkwX6_byAllMarks_3 : List UInt8 := [185, 0, 108, 1, 0, 58, 8, 25, 8, 185, 0, 112, 1, 0, 153, 0, 43, 25, 8, 185, 0, 117, 1, 0]
abbrev dktX6_byAllMarks_3 : List UInt8 := dkwX6_byAllMarks_3 ++ dktX6_byAllMarks_4
def dkwX6_byAllMarks_2 : List UInt8 := [185, 0, 76, 1, 0, 163, 0, 115, 45, 185, 0, 76, 1, 0, 4, 164, 0, 105, 21, 6, 54, 7, 45]
abbrev dktX6_byAllMarks_2 : List UInt8 := dkwX6_byAllMarks_2 ++ dktX6_byAllMarks_3
def dkwX6_byAllMarks_1 : List UInt8 := [185, 0, 76, 1, 0, 182, 0, 196, 54, 5, 28, 54, 6, 21, 6, 42, 180, 0, 39, 180, 0, 75]
abbrev dktX6_byAllMarks_1 : List UInt8 := dkwX6_byAllMarks_1 ++ dktX6_byAllMarks_2
def dkwX6_byAllMarks_0 : List UInt8 := [43, 78, 3, 54, 4, 42, 43, 3, 185, 0, 104, 2, 0, 192, 0, 121, 42, 180, 0, 39, 180, 0, 75]
abbrev dktX6_byAllMarks_0 : List UInt8 := dkwX6_byAllMarks_0 ++ dktX6_byAllMarks_1
theorem dksX6_byAllMarks_0 : cX6_byAllMarks.data.toList.drop 0 = dktX6_byAllMarks_0 := by decide +kernel
theorem dksX6_byAllMarks_1 : cX6_byAllMarks.data.toList.drop 23 = dktX6_byAllMarks_1 := dk_seg dksX6_byAllMarks_0 23 rfl rfl
theorem dksX6_byAllMarks_2 : cX6_byAllMarks.data.toList.drop 45 = dktX6_byAllMarks_2 := dk_seg dksX6_byAllMarks_1 22 rfl rfl
theorem dksX6_byAllMarks_3 : cX6_byAllMarks.data.toList.drop 68 = dktX6_byAllMarks_3 := dk_seg dksX6_byAllMarks_2 23 rfl rfl
theorem dksX6_byAllMarks_4 : cX6_byAllMarks.data.toList.drop 92 = dktX6_byAllMarks_4 := dk_seg dksX6_byAllMarks_3 24 rfl rfl
theorem dksX6_byAllMarks_5 : cX6_byAllMarks.data.toList.drop 115 = dktX6_byAllMarks_5 := dk_seg dksX6_byAllMarks_4 23 rfl rfl
theorem dksX6_byAllMarks_6 : cX6_byAllMarks.data.toList.drop 137 = dktX6_byAllMarks_6 := dk_seg dksX6_byAllMarks_5 22 rfl rfl
theorem dksX6_byAllMarks_7 : cX6_byAllMarks.data.toList.drop 159 = dktX6_byAllMarks_7 := dk_seg dksX6_byAllMarks_6 22 rfl rfl
theorem dX6_byAllMarks_0 : decode cX6_byAllMarks 0 = .ok (.aload_n 1, 1) := dk_43 (dk_at dksX6_byAllMarks_0 0 rfl rfl)
theorem dX6_byAllMarks_1 : decode cX6_byAllMarks 1 = .ok (.astore_n 3, 1) := dk_78 (dk_at dksX6_byAllMarks_0 1 rfl rfl)
theorem dX6_byAllMarks_2 : decode cX6_byAllMarks 2 = .ok (.iconst 0, 1) := dk_3 (dk_at dksX6_byAllMarks_0 2 rfl rfl)
theorem dX6_byAllMarks_3 : decode cX6_byAllMarks 3 = .ok (.istore 4, 2) := dk_54 4 (dk_at dksX6_byAllMarks_0 3 rfl rfl)
theorem dX6_byAllMarks_5 : decode cX6_byAllMarks 5 = .ok (.aload_n 0, 1) := dk_42 (dk_at dksX6_byAllMarks_0 5 rfl rfl)
theorem dX6_byAllMarks_6 : decode cX6_byAllMarks 6 = .ok (.aload_n 1, 1) := dk_43 (dk_at dksX6_byAllMarks_0 6 rfl rfl)
theorem dX6_byAllMarks_7 : decode cX6_byAllMarks 7 = .ok (.iconst 0, 1) := dk_3 (dk_at dksX6_byAllMarks_0 7 rfl rfl)
theorem dX6_byAllMarks_8 : decode cX6_byAllMarks 8 = .ok (.invokeinterface 104 2, 5) := by decide +kernel
theorem dX6_byAllMarks_13 : decode cX6_byAllMarks 13 = .ok (.checkcast 121, 3) := dk_192 0 121 (dk_at dksX6_byAllMarks_0 13 rfl rfl)
theorem dX6_byAllMarks_16 : decode cX6_byAllMarks 16 = .ok (.aload_n 0, 1) := dk_42 (dk_at dksX6_byAllMarks_0 16 rfl rfl)
theorem dX6_byAllMarks_17 : decode cX6_byAllMarks 17 = .ok (.getfield 39, 3) := dk_180 0 39 (dk_at dksX6_byAllMarks_0 17 rfl rfl)
theorem dX6_byAllMarks_20 : decode cX6_byAllMarks 20 = .ok (.getfield 75, 3) := dk_180 0 75 (dk_at dksX6_byAllMarks_0 20 rfl rfl)
theorem dX6_byAllMarks_23 : decode cX6_byAllMarks 23 = .ok (.invokeinterface 76 1, 5) := by decide +kernel
theorem dX6_byAllMarks_28 : decode cX6_byAllMarks 28 = .ok (.invokevirtual 196, 3) := dk_182 0 196 (dk_at dksX6_byAllMarks_1 5 rfl rfl)
theorem dX6_byAllMarks_31 : decode cX6_byAllMarks 31 = .ok (.istore 5, 2) := dk_54 5 (dk_at dksX6_byAllMarks_1 8 rfl rfl)
theorem dX6_byAllMarks_33 : decode cX6_byAllMarks 33 = .ok (.iload_n 2, 1) := dk_28 (dk_at dksX6_byAllMarks_1 10 rfl rfl)
theorem dX6_byAllMarks_34 : decode cX6_byAllMarks 34 = .ok (.istore 6, 2) := dk_54 6 (dk_at dksX6_byAllMarks_1 11 rfl rfl)
theorem dX6_byAllMarks_36 : decode cX6_byAllMarks 36 = .ok (.iload 6, 2) := dk_21 6 (dk_at dksX6_byAllMarks_1 13 rfl rfl)
theorem dX6_byAllMarks_38 : decode cX6_byAllMarks 38 = .ok (.aload_n 0, 1) := dk_42 (dk_at dksX6_byAllMarks_1 15 rfl rfl)
theorem dX6_byAllMarks_39 : decode cX6_byAllMarks 39 = .ok (.getfield 39, 3) := dk_180 0 39 (dk_at dksX6_byAllMarks_1 16 rfl rfl)
theorem dX6_byAllMarks_42 : decode cX6_byAllMarks 42 = .ok (.getfield 75, 3) := dk_180 0 75 (dk_at dksX6_byAllMarks_1 19 rfl rfl)
theorem dX6_byAllMarks_45 : decode cX6_byAllMarks 45 = .ok (.invokeinterface 76 1, 5) := by decide +kernel
theorem dX6_byAllMarks_50 : decode cX6_byAllMarks 50 = .ok (.if_icmp .gt 115, 3) := dk_163 0 115 (dk_at dksX6_byAllMarks_2 5 rfl rfl)
theorem dX6_byAllMarks_53 : decode cX6_byAllMarks 53 = .ok (.aload_n 3, 1) := dk_45 (dk_at dksX6_byAllMarks_2 8 rfl rfl)
theorem dX6_byAllMarks_54 : decode cX6_byAllMarks 54 = .ok (.invokeinterface 76 1, 5) := by decide +kernel
theorem dX6_byAllMarks_59 : decode cX6_byAllMarks 59 = .ok (.iconst 1, 1) := dk_4 (dk_at dksX6_byAllMarks_2 14 rfl rfl)
theorem dX6_byAllMarks_60 : decode cX6_byAllMarks 60 = .ok (.if_icmp .le 105, 3) := dk_164 0 105 (dk_at dksX6_byAllMarks_2 15 rfl rfl)
theorem dX6_byAllMarks_63 : decode cX6_byAllMarks 63 = .ok (.iload 6, 2) := dk_21 6 (dk_at dksX6_byAllMarks_2 18 rfl rfl)
theorem dX6_byAllMarks_65 : decode cX6_byAllMarks 65 = .ok (.istore 7, 2) := dk_54 7 (dk_at dksX6_byAllMarks_2 20 rfl rfl)
theorem dX6_byAllMarks_67 : decode cX6_byAllMarks 67 = .ok (.aload_n 3, 1) := dk_45 (dk_at dksX6_byAllMarks_2 22 rfl rfl)
theorem dX6_byAllMarks_68 : decode cX6_byAllMarks 68 = .ok (.invokeinterface 108 1, 5) := by decide +kernel
theorem dX6_byAllMarks_73 : decode cX6_byAllMarks 73 = .ok (.astore 8, 2) := dk_58 8 (dk_at dksX6_byAllMarks_3 5 rfl rfl)
theorem dX6_byAllMarks_75 : decode cX6_byAllMarks 75 = .ok (.aload 8, 2) := dk_25 8 (dk_at dksX6_byAllMarks_3 7 rfl rfl)
theorem dX6_byAllMarks_77 : decode cX6_byAllMarks 77 = .ok (.invokeinterface 112 1, 5) := by decide +kernel
theorem dX6_byAllMarks_82 : decode cX6_byAllMarks 82 = .ok (.ifCond .eq 43, 3) := dk_153 0 43 (dk_at dksX6_byAllMarks_3 14 rfl rfl)
theorem dX6_byAllMarks_85 : decode cX6_byAllMarks 85 = .ok (.aload 8, 2) := dk_25 8 (dk_at dksX6_byAllMarks_3 17 rfl rfl)
theorem dX6_byAllMarks_87 : decode cX6_byAllMarks 87 = .ok (.invokeinterface 117 1, 5) := by decide +kernel
theorem dX6_byAllMarks_92 : decode cX6_byAllMarks 92 = .ok (.checkcast 121, 3) := dk_192 0 121 (dk_at dksX6_byAllMarks_4 0 rfl rfl)
theorem dX6_byAllMarks_95 : decode cX6_byAllMarks 95 = .ok (.astore 9, 2) := dk_58 9 (dk_at dksX6_byAllMarks_4 3 rfl rfl)
theorem dX6_byAllMarks_97 : decode cX6_byAllMarks 97 = .ok (.iload 4, 2) := dk_21 4 (dk_at dksX6_byAllMarks_4 5 rfl rfl)
theorem dX6_byAllMarks_99 : decode cX6_byAllMarks 99 = .ok (.iconst 2, 1) := dk_5 (dk_at dksX6_byAllMarks_4 7 rfl rfl)
theorem dX6_byAllMarks_100 : decode cX6_byAllMarks 100 = .ok (.aload_n 0, 1) := dk_42 (dk_at dksX6_byAllMarks_4 8 rfl rfl)
theorem dX6_byAllMarks_101 : decode cX6_byAllMarks 101 = .ok (.aload 9, 2) := dk_25 9 (dk_at dksX6_byAllMarks_4 9 rfl rfl)
theorem dX6_byAllMarks_103 : decode cX6_byAllMarks 103 = .ok (.iload 7, 2) := dk_21 7 (dk_at dksX6_byAllMarks_4 11 rfl rfl)
theorem dX6_byAllMarks_105 : decode cX6_byAllMarks 105 = .ok (.invokevirtual 196, 3) := dk_182 0 196 (dk_at dksX6_byAllMarks_4 13 rfl rfl)
theorem dX6_byAllMarks_108 : decode cX6_byAllMarks 108 = .ok (.imul, 1) := dk_104 (dk_at dksX6_byAllMarks_4 16 rfl rfl)
theorem dX6_byAllMarks_109 : decode cX6_byAllMarks 109 = .ok (.iload 5, 2) := dk_21 5 (dk_at dksX6_byAllMarks_4 17 rfl rfl)
theorem dX6_byAllMarks_111 : decode cX6_byAllMarks 111 = .ok (.if_icmp .le 7, 3) := dk_164 0 7 (dk_at dksX6_byAllMarks_4 19 rfl rfl)
theorem dX6_byAllMarks_114 : decode cX6_byAllMarks 114 = .ok (.iconst 1, 1) := dk_4 (dk_at dksX6_byAllMarks_4 22 rfl rfl)
theorem dX6_byAllMarks_115 : decode cX6_byAllMarks 115 = .ok (.goto 4, 3) := dk_167 0 4 (dk_at dksX6_byAllMarks_5 0 rfl rfl)
theorem dX6_byAllMarks_118 : decode cX6_byAllMarks 118 = .ok (.iconst 0, 1) := dk_3 (dk_at dksX6_byAllMarks_5 3 rfl rfl)
theorem dX6_byAllMarks_119 : decode cX6_byAllMarks 119 = .ok (.ior, 1) := dk_128 (dk_at dksX6_byAllMarks_5 4 rfl rfl)
theorem dX6_byAllMarks_120 : decode cX6_byAllMarks 120 = .ok (.istore 4, 2) := dk_54 4 (dk_at dksX6_byAllMarks_5 5 rfl rfl)
theorem dX6_byAllMarks_122 : decode cX6_byAllMarks 122 = .ok (.goto (-47), 3) := dk_167 255 209 (dk_at dksX6_byAllMarks_5 7 rfl rfl)
theorem dX6_byAllMarks_125 : decode cX6_byAllMarks 125 = .ok (.iload 4, 2) := dk_21 4 (dk_at dksX6_byAllMarks_5 10 rfl rfl)
theorem dX6_byAllMarks_127 : decode cX6_byAllMarks 127 = .ok (.ifCond .ne 6, 3) := dk_154 0 6 (dk_at dksX6_byAllMarks_5 12 rfl rfl)
theorem dX6_byAllMarks_130 : decode cX6_byAllMarks 130 = .ok (.goto 29, 3) := dk_167 0 29 (dk_at dksX6_byAllMarks_5 15 rfl rfl)
theorem dX6_byAllMarks_133 : decode cX6_byAllMarks 133 = .ok (.aload_n 3, 1) := dk_45 (dk_at dksX6_byAllMarks_5 18 rfl rfl)
theorem dX6_byAllMarks_134 : decode cX6_byAllMarks 134 = .ok (.aload_n 0, 1) := dk_42 (dk_at dksX6_byAllMarks_5 19 rfl rfl)
theorem dX6_byAllMarks_135 : decode cX6_byAllMarks 135 = .ok (.iload 7, 2) := dk_21 7 (dk_at dksX6_byAllMarks_5 20 rfl rfl)
theorem dX6_byAllMarks_137 : decode cX6_byAllMarks 137 = .ok (.invokedynamic 200, 5) := by decide +kernel
theorem dX6_byAllMarks_142 : decode cX6_byAllMarks 142 = .ok (.invokestatic 203, 3) := dk_184 0 203 (dk_at dksX6_byAllMarks_6 5 rfl rfl)
theorem dX6_byAllMarks_145 : decode cX6_byAllMarks 145 = .ok (.astore_n 3, 1) := dk_78 (dk_at dksX6_byAllMarks_6 8 rfl rfl)
theorem dX6_byAllMarks_146 : decode cX6_byAllMarks 146 = .ok (.aload_n 3, 1) := dk_45 (dk_at dksX6_byAllMarks_6 9 rfl rfl)
theorem dX6_byAllMarks_147 : decode cX6_byAllMarks 147 = .ok (.aload_n 0, 1) := dk_42 (dk_at dksX6_byAllMarks_6 10 rfl rfl)
theorem dX6_byAllMarks_148 : decode cX6_byAllMarks 148 = .ok (.iload 7, 2) := dk_21 7 (dk_at dksX6_byAllMarks_6 11 rfl rfl)
theorem dX6_byAllMarks_150 : decode cX6_byAllMarks 150 = .ok (.invokedynamic 207, 5) := by decide +kernel
theorem dX6_byAllMarks_155 : decode cX6_byAllMarks 155 = .ok (.invokestatic 203, 3) := dk_184 0 203 (dk_at dksX6_byAllMarks_6 18 rfl rfl)
theorem dX6_byAllMarks_158 : decode cX6_byAllMarks 158 = .ok (.astore_n 3, 1) := dk_78 (dk_at dksX6_byAllMarks_6 21 rfl rfl)
theorem dX6_byAllMarks_159 : decode cX6_byAllMarks 159 = .ok (.iinc 6 1, 3) := dk_132 6 1 (dk_at dksX6_byAllMarks_7 0 rfl rfl)
theorem dX6_byAllMarks_162 : decode cX6_byAllMarks 162 = .ok (.goto (-126), 3) := dk_167 255 130 (dk_at dksX6_byAllMarks_7 3 rfl rfl)
theorem dX6_byAllMarks_165 : decode cX6_byAllMarks 165 = .ok (.aload_n 3, 1) := dk_45 (dk_at dksX6_byAllMarks_7 6 rfl rfl)
theorem dX6_byAllMarks_166 : decode cX6_byAllMarks 166 = .ok (.areturn, 1) := dk_176 (dk_at dksX6_byAllMarks_7 7 rfl rfl)
abbrev cX6_countOfAll : ByteArray := prog_7_method_19_code
def yX6_countOfAll : MethodName := ⟨RX6, "countOfAll", "(LScrutineery$Entry;I)I"⟩
def dkwX6_countOfAll_1 : List UInt8 := [62, 132, 4, 1, 167, 255, 233, 29, 172]
abbrev dktX6_countOfAll_1 : List UInt8 := dkwX6_countOfAll_1 ++ []
def dkwX6_countOfAll_0 : List UInt8 := [3, 62, 3, 54, 4, 21, 4, 42, 180, 0, 49, 162, 0, 20, 29, 42, 21, 4, 43, 28, 182, 0, 157, 96]
abbrev dktX6_countOfAll_0 : List UInt8 := dkwX6_countOfAll_0 ++ dktX6_countOfAll_1
theorem dksX6_countOfAll_0 : cX6_countOfAll.data.toList.drop 0 = dktX6_countOfAll_0 := by decide +kernel
theorem dksX6_countOfAll_1 : cX6_countOfAll.data.toList.drop 24 = dktX6_countOfAll_1 := dk_seg dksX6_countOfAll_0 24 rfl rfl
theorem dX6_countOfAll_0 : decode cX6_countOfAll 0 = .ok (.iconst 0, 1) := dk_3 (dk_at dksX6_countOfAll_0 0 rfl rfl)
theorem dX6_countOfAll_1 : decode cX6_countOfAll 1 = .ok (.istore_n 3, 1) := dk_62 (dk_at dksX6_countOfAll_0 1 rfl rfl)
theorem dX6_countOfAll_2 : decode cX6_countOfAll 2 = .ok (.iconst 0, 1) := dk_3 (dk_at dksX6_countOfAll_0 2 rfl rfl)
theorem dX6_countOfAll_3 : decode cX6_countOfAll 3 = .ok (.istore 4, 2) := dk_54 4 (dk_at dksX6_countOfAll_0 3 rfl rfl)
theorem dX6_countOfAll_5 : decode cX6_countOfAll 5 = .ok (.iload 4, 2) := dk_21 4 (dk_at dksX6_countOfAll_0 5 rfl rfl)
theorem dX6_countOfAll_7 : decode cX6_countOfAll 7 = .ok (.aload_n 0, 1) := dk_42 (dk_at dksX6_countOfAll_0 7 rfl rfl)
theorem dX6_countOfAll_8 : decode cX6_countOfAll 8 = .ok (.getfield 49, 3) := dk_180 0 49 (dk_at dksX6_countOfAll_0 8 rfl rfl)
theorem dX6_countOfAll_11 : decode cX6_countOfAll 11 = .ok (.if_icmp .ge 20, 3) := dk_162 0 20 (dk_at dksX6_countOfAll_0 11 rfl rfl)
theorem dX6_countOfAll_14 : decode cX6_countOfAll 14 = .ok (.iload_n 3, 1) := dk_29 (dk_at dksX6_countOfAll_0 14 rfl rfl)
theorem dX6_countOfAll_15 : decode cX6_countOfAll 15 = .ok (.aload_n 0, 1) := dk_42 (dk_at dksX6_countOfAll_0 15 rfl rfl)
theorem dX6_countOfAll_16 : decode cX6_countOfAll 16 = .ok (.iload 4, 2) := dk_21 4 (dk_at dksX6_countOfAll_0 16 rfl rfl)
theorem dX6_countOfAll_18 : decode cX6_countOfAll 18 = .ok (.aload_n 1, 1) := dk_43 (dk_at dksX6_countOfAll_0 18 rfl rfl)
theorem dX6_countOfAll_19 : decode cX6_countOfAll 19 = .ok (.iload_n 2, 1) := dk_28 (dk_at dksX6_countOfAll_0 19 rfl rfl)
theorem dX6_countOfAll_20 : decode cX6_countOfAll 20 = .ok (.invokevirtual 157, 3) := dk_182 0 157 (dk_at dksX6_countOfAll_0 20 rfl rfl)
theorem dX6_countOfAll_23 : decode cX6_countOfAll 23 = .ok (.iadd, 1) := dk_96 (dk_at dksX6_countOfAll_0 23 rfl rfl)
theorem dX6_countOfAll_24 : decode cX6_countOfAll 24 = .ok (.istore_n 3, 1) := dk_62 (dk_at dksX6_countOfAll_1 0 rfl rfl)
theorem dX6_countOfAll_25 : decode cX6_countOfAll 25 = .ok (.iinc 4 1, 3) := dk_132 4 1 (dk_at dksX6_countOfAll_1 1 rfl rfl)
theorem dX6_countOfAll_28 : decode cX6_countOfAll 28 = .ok (.goto (-23), 3) := dk_167 255 233 (dk_at dksX6_countOfAll_1 4 rfl rfl)
theorem dX6_countOfAll_31 : decode cX6_countOfAll 31 = .ok (.iload_n 3, 1) := dk_29 (dk_at dksX6_countOfAll_1 7 rfl rfl)
theorem dX6_countOfAll_32 : decode cX6_countOfAll 32 = .ok (.ireturn, 1) := dk_172 (dk_at dksX6_countOfAll_1 8 rfl rfl)
abbrev cX6_lambda_byAllMarks_0 : ByteArray := prog_7_method_38_code
def yX6_lambda_byAllMarks_0 : MethodName := ⟨RX6, "lambda$byAllMarks$0", "(ILScrutineery$Entry;)I"⟩
def dkwX6_lambda_byAllMarks_0_0 : List UInt8 := [42, 44, 27, 182, 0, 196, 172]
abbrev dktX6_lambda_byAllMarks_0_0 : List UInt8 := dkwX6_lambda_byAllMarks_0_0 ++ []
theorem dksX6_lambda_byAllMarks_0_0 : cX6_lambda_byAllMarks_0.data.toList.drop 0 = dktX6_lambda_byAllMarks_0_0 := by decide +kernel
theorem dX6_lambda_byAllMarks_0_0 : decode cX6_lambda_byAllMarks_0 0 = .ok (.aload_n 0, 1) := dk_42 (dk_at dksX6_lambda_byAllMarks_0_0 0 rfl rfl)
theorem dX6_lambda_byAllMarks_0_1 : decode cX6_lambda_byAllMarks_0 1 = .ok (.aload_n 2, 1) := dk_44 (dk_at dksX6_lambda_byAllMarks_0_0 1 rfl rfl)
theorem dX6_lambda_byAllMarks_0_2 : decode cX6_lambda_byAllMarks_0 2 = .ok (.iload_n 1, 1) := dk_27 (dk_at dksX6_lambda_byAllMarks_0_0 2 rfl rfl)
theorem dX6_lambda_byAllMarks_0_3 : decode cX6_lambda_byAllMarks_0 3 = .ok (.invokevirtual 196, 3) := dk_182 0 196 (dk_at dksX6_lambda_byAllMarks_0_0 3 rfl rfl)
theorem dX6_lambda_byAllMarks_0_6 : decode cX6_lambda_byAllMarks_0 6 = .ok (.ireturn, 1) := dk_172 (dk_at dksX6_lambda_byAllMarks_0_0 6 rfl rfl)
abbrev cX6_lambda_byAllMarks_1 : ByteArray := prog_7_method_37_code
def yX6_lambda_byAllMarks_1 : MethodName := ⟨RX6, "lambda$byAllMarks$1", "(ILScrutineery$Entry;)I"⟩
def dkwX6_lambda_byAllMarks_1_0 : List UInt8 := [42, 44, 27, 182, 1, 65, 116, 172]
abbrev dktX6_lambda_byAllMarks_1_0 : List UInt8 := dkwX6_lambda_byAllMarks_1_0 ++ []
theorem dksX6_lambda_byAllMarks_1_0 : cX6_lambda_byAllMarks_1.data.toList.drop 0 = dktX6_lambda_byAllMarks_1_0 := by decide +kernel
theorem dX6_lambda_byAllMarks_1_0 : decode cX6_lambda_byAllMarks_1 0 = .ok (.aload_n 0, 1) := dk_42 (dk_at dksX6_lambda_byAllMarks_1_0 0 rfl rfl)
theorem dX6_lambda_byAllMarks_1_1 : decode cX6_lambda_byAllMarks_1 1 = .ok (.aload_n 2, 1) := dk_44 (dk_at dksX6_lambda_byAllMarks_1_0 1 rfl rfl)
theorem dX6_lambda_byAllMarks_1_2 : decode cX6_lambda_byAllMarks_1 2 = .ok (.iload_n 1, 1) := dk_27 (dk_at dksX6_lambda_byAllMarks_1_0 2 rfl rfl)
theorem dX6_lambda_byAllMarks_1_3 : decode cX6_lambda_byAllMarks_1 3 = .ok (.invokevirtual 321, 3) := dk_182 1 65 (dk_at dksX6_lambda_byAllMarks_1_0 3 rfl rfl)
theorem dX6_lambda_byAllMarks_1_6 : decode cX6_lambda_byAllMarks_1 6 = .ok (.ineg, 1) := dk_116 (dk_at dksX6_lambda_byAllMarks_1_0 6 rfl rfl)
theorem dX6_lambda_byAllMarks_1_7 : decode cX6_lambda_byAllMarks_1 7 = .ok (.ireturn, 1) := dk_172 (dk_at dksX6_lambda_byAllMarks_1_0 7 rfl rfl)
abbrev cX6_sumOfAll : ByteArray := prog_7_method_20_code
def yX6_sumOfAll : MethodName := ⟨RX6, "sumOfAll", "(LScrutineery$Entry;I)I"⟩
def dkwX6_sumOfAll_1 : List UInt8 := [62, 132, 4, 1, 167, 255, 233, 29, 172]
abbrev dktX6_sumOfAll_1 : List UInt8 := dkwX6_sumOfAll_1 ++ []
def dkwX6_sumOfAll_0 : List UInt8 := [3, 62, 3, 54, 4, 21, 4, 42, 180, 0, 49, 162, 0, 20, 29, 42, 21, 4, 43, 28, 182, 0, 170, 96]
abbrev dktX6_sumOfAll_0 : List UInt8 := dkwX6_sumOfAll_0 ++ dktX6_sumOfAll_1
theorem dksX6_sumOfAll_0 : cX6_sumOfAll.data.toList.drop 0 = dktX6_sumOfAll_0 := by decide +kernel
theorem dksX6_sumOfAll_1 : cX6_sumOfAll.data.toList.drop 24 = dktX6_sumOfAll_1 := dk_seg dksX6_sumOfAll_0 24 rfl rfl
theorem dX6_sumOfAll_0 : decode cX6_sumOfAll 0 = .ok (.iconst 0, 1) := dk_3 (dk_at dksX6_sumOfAll_0 0 rfl rfl)
theorem dX6_sumOfAll_1 : decode cX6_sumOfAll 1 = .ok (.istore_n 3, 1) := dk_62 (dk_at dksX6_sumOfAll_0 1 rfl rfl)
theorem dX6_sumOfAll_2 : decode cX6_sumOfAll 2 = .ok (.iconst 0, 1) := dk_3 (dk_at dksX6_sumOfAll_0 2 rfl rfl)
theorem dX6_sumOfAll_3 : decode cX6_sumOfAll 3 = .ok (.istore 4, 2) := dk_54 4 (dk_at dksX6_sumOfAll_0 3 rfl rfl)
theorem dX6_sumOfAll_5 : decode cX6_sumOfAll 5 = .ok (.iload 4, 2) := dk_21 4 (dk_at dksX6_sumOfAll_0 5 rfl rfl)
theorem dX6_sumOfAll_7 : decode cX6_sumOfAll 7 = .ok (.aload_n 0, 1) := dk_42 (dk_at dksX6_sumOfAll_0 7 rfl rfl)
theorem dX6_sumOfAll_8 : decode cX6_sumOfAll 8 = .ok (.getfield 49, 3) := dk_180 0 49 (dk_at dksX6_sumOfAll_0 8 rfl rfl)
theorem dX6_sumOfAll_11 : decode cX6_sumOfAll 11 = .ok (.if_icmp .ge 20, 3) := dk_162 0 20 (dk_at dksX6_sumOfAll_0 11 rfl rfl)
theorem dX6_sumOfAll_14 : decode cX6_sumOfAll 14 = .ok (.iload_n 3, 1) := dk_29 (dk_at dksX6_sumOfAll_0 14 rfl rfl)
theorem dX6_sumOfAll_15 : decode cX6_sumOfAll 15 = .ok (.aload_n 0, 1) := dk_42 (dk_at dksX6_sumOfAll_0 15 rfl rfl)
theorem dX6_sumOfAll_16 : decode cX6_sumOfAll 16 = .ok (.iload 4, 2) := dk_21 4 (dk_at dksX6_sumOfAll_0 16 rfl rfl)
theorem dX6_sumOfAll_18 : decode cX6_sumOfAll 18 = .ok (.aload_n 1, 1) := dk_43 (dk_at dksX6_sumOfAll_0 18 rfl rfl)
theorem dX6_sumOfAll_19 : decode cX6_sumOfAll 19 = .ok (.iload_n 2, 1) := dk_28 (dk_at dksX6_sumOfAll_0 19 rfl rfl)
theorem dX6_sumOfAll_20 : decode cX6_sumOfAll 20 = .ok (.invokevirtual 170, 3) := dk_182 0 170 (dk_at dksX6_sumOfAll_0 20 rfl rfl)
theorem dX6_sumOfAll_23 : decode cX6_sumOfAll 23 = .ok (.iadd, 1) := dk_96 (dk_at dksX6_sumOfAll_0 23 rfl rfl)
theorem dX6_sumOfAll_24 : decode cX6_sumOfAll 24 = .ok (.istore_n 3, 1) := dk_62 (dk_at dksX6_sumOfAll_1 0 rfl rfl)
theorem dX6_sumOfAll_25 : decode cX6_sumOfAll 25 = .ok (.iinc 4 1, 3) := dk_132 4 1 (dk_at dksX6_sumOfAll_1 1 rfl rfl)
theorem dX6_sumOfAll_28 : decode cX6_sumOfAll 28 = .ok (.goto (-23), 3) := dk_167 255 233 (dk_at dksX6_sumOfAll_1 4 rfl rfl)
theorem dX6_sumOfAll_31 : decode cX6_sumOfAll 31 = .ok (.iload_n 3, 1) := dk_29 (dk_at dksX6_sumOfAll_1 7 rfl rfl)
theorem dX6_sumOfAll_32 : decode cX6_sumOfAll 32 = .ok (.ireturn, 1) := dk_172 (dk_at dksX6_sumOfAll_1 8 rfl rfl)
abbrev cX6_lambda_decides_5 : ByteArray := prog_7_method_33_code
def yX6_lambda_decides_5 : MethodName := ⟨RX6, "lambda$decides$5", "(Ljava/util/List;LScrutineery$Entry;)Z"⟩
def dkwX6_lambda_decides_5_0 : List UInt8 := [42, 43, 185, 0, 225, 2, 0, 172]
abbrev dktX6_lambda_decides_5_0 : List UInt8 := dkwX6_lambda_decides_5_0 ++ []
theorem dksX6_lambda_decides_5_0 : cX6_lambda_decides_5.data.toList.drop 0 = dktX6_lambda_decides_5_0 := by decide +kernel
theorem dX6_lambda_decides_5_0 : decode cX6_lambda_decides_5 0 = .ok (.aload_n 0, 1) := dk_42 (dk_at dksX6_lambda_decides_5_0 0 rfl rfl)
theorem dX6_lambda_decides_5_1 : decode cX6_lambda_decides_5 1 = .ok (.aload_n 1, 1) := dk_43 (dk_at dksX6_lambda_decides_5_0 1 rfl rfl)
theorem dX6_lambda_decides_5_2 : decode cX6_lambda_decides_5 2 = .ok (.invokeinterface 225 2, 5) := by decide +kernel
theorem dX6_lambda_decides_5_7 : decode cX6_lambda_decides_5 7 = .ok (.ireturn, 1) := dk_172 (dk_at dksX6_lambda_decides_5_0 7 rfl rfl)
abbrev cX6_withLast : ByteArray := prog_7_method_23_code
def yX6_withLast : MethodName := ⟨RX6, "withLast", "(IZ)I"⟩
def dkwX6_withLast_3 : List UInt8 := [4, 167, 0, 4, 3, 96, 62, 167, 255, 193, 29, 172]
abbrev dktX6_withLast_3 : List UInt8 := dkwX6_withLast_3 ++ []
def dkwX6_withLast_2 : List UInt8 := [153, 0, 15, 25, 5, 180, 0, 228, 27, 164, 0, 19, 167, 0, 12, 25, 5, 180, 0, 228, 27, 160, 0, 7]
abbrev dktX6_withLast_2 : List UInt8 := dkwX6_withLast_2 ++ dktX6_withLast_3
def dkwX6_withLast_1 : List UInt8 := [25, 4, 185, 0, 117, 1, 0, 192, 0, 121, 58, 5, 29, 25, 5, 180, 0, 123, 154, 0, 32, 28]
abbrev dktX6_withLast_1 : List UInt8 := dkwX6_withLast_1 ++ dktX6_withLast_2
def dkwX6_withLast_0 : List UInt8 := [3, 62, 42, 180, 0, 12, 185, 0, 108, 1, 0, 58, 4, 25, 4, 185, 0, 112, 1, 0, 153, 0, 59]
abbrev dktX6_withLast_0 : List UInt8 := dkwX6_withLast_0 ++ dktX6_withLast_1
theorem dksX6_withLast_0 : cX6_withLast.data.toList.drop 0 = dktX6_withLast_0 := by decide +kernel
theorem dksX6_withLast_1 : cX6_withLast.data.toList.drop 23 = dktX6_withLast_1 := dk_seg dksX6_withLast_0 23 rfl rfl
theorem dksX6_withLast_2 : cX6_withLast.data.toList.drop 45 = dktX6_withLast_2 := dk_seg dksX6_withLast_1 22 rfl rfl
theorem dksX6_withLast_3 : cX6_withLast.data.toList.drop 69 = dktX6_withLast_3 := dk_seg dksX6_withLast_2 24 rfl rfl
theorem dX6_withLast_0 : decode cX6_withLast 0 = .ok (.iconst 0, 1) := dk_3 (dk_at dksX6_withLast_0 0 rfl rfl)
theorem dX6_withLast_1 : decode cX6_withLast 1 = .ok (.istore_n 3, 1) := dk_62 (dk_at dksX6_withLast_0 1 rfl rfl)
theorem dX6_withLast_2 : decode cX6_withLast 2 = .ok (.aload_n 0, 1) := dk_42 (dk_at dksX6_withLast_0 2 rfl rfl)
theorem dX6_withLast_3 : decode cX6_withLast 3 = .ok (.getfield 12, 3) := dk_180 0 12 (dk_at dksX6_withLast_0 3 rfl rfl)
theorem dX6_withLast_6 : decode cX6_withLast 6 = .ok (.invokeinterface 108 1, 5) := by decide +kernel
theorem dX6_withLast_11 : decode cX6_withLast 11 = .ok (.astore 4, 2) := dk_58 4 (dk_at dksX6_withLast_0 11 rfl rfl)
theorem dX6_withLast_13 : decode cX6_withLast 13 = .ok (.aload 4, 2) := dk_25 4 (dk_at dksX6_withLast_0 13 rfl rfl)
theorem dX6_withLast_15 : decode cX6_withLast 15 = .ok (.invokeinterface 112 1, 5) := by decide +kernel
theorem dX6_withLast_20 : decode cX6_withLast 20 = .ok (.ifCond .eq 59, 3) := dk_153 0 59 (dk_at dksX6_withLast_0 20 rfl rfl)
theorem dX6_withLast_23 : decode cX6_withLast 23 = .ok (.aload 4, 2) := dk_25 4 (dk_at dksX6_withLast_1 0 rfl rfl)
theorem dX6_withLast_25 : decode cX6_withLast 25 = .ok (.invokeinterface 117 1, 5) := by decide +kernel
theorem dX6_withLast_30 : decode cX6_withLast 30 = .ok (.checkcast 121, 3) := dk_192 0 121 (dk_at dksX6_withLast_1 7 rfl rfl)
theorem dX6_withLast_33 : decode cX6_withLast 33 = .ok (.astore 5, 2) := dk_58 5 (dk_at dksX6_withLast_1 10 rfl rfl)
theorem dX6_withLast_35 : decode cX6_withLast 35 = .ok (.iload_n 3, 1) := dk_29 (dk_at dksX6_withLast_1 12 rfl rfl)
theorem dX6_withLast_36 : decode cX6_withLast 36 = .ok (.aload 5, 2) := dk_25 5 (dk_at dksX6_withLast_1 13 rfl rfl)
theorem dX6_withLast_38 : decode cX6_withLast 38 = .ok (.getfield 123, 3) := dk_180 0 123 (dk_at dksX6_withLast_1 15 rfl rfl)
theorem dX6_withLast_41 : decode cX6_withLast 41 = .ok (.ifCond .ne 32, 3) := dk_154 0 32 (dk_at dksX6_withLast_1 18 rfl rfl)
theorem dX6_withLast_44 : decode cX6_withLast 44 = .ok (.iload_n 2, 1) := dk_28 (dk_at dksX6_withLast_1 21 rfl rfl)
theorem dX6_withLast_45 : decode cX6_withLast 45 = .ok (.ifCond .eq 15, 3) := dk_153 0 15 (dk_at dksX6_withLast_2 0 rfl rfl)
theorem dX6_withLast_48 : decode cX6_withLast 48 = .ok (.aload 5, 2) := dk_25 5 (dk_at dksX6_withLast_2 3 rfl rfl)
theorem dX6_withLast_50 : decode cX6_withLast 50 = .ok (.getfield 228, 3) := dk_180 0 228 (dk_at dksX6_withLast_2 5 rfl rfl)
theorem dX6_withLast_53 : decode cX6_withLast 53 = .ok (.iload_n 1, 1) := dk_27 (dk_at dksX6_withLast_2 8 rfl rfl)
theorem dX6_withLast_54 : decode cX6_withLast 54 = .ok (.if_icmp .le 19, 3) := dk_164 0 19 (dk_at dksX6_withLast_2 9 rfl rfl)
theorem dX6_withLast_57 : decode cX6_withLast 57 = .ok (.goto 12, 3) := dk_167 0 12 (dk_at dksX6_withLast_2 12 rfl rfl)
theorem dX6_withLast_60 : decode cX6_withLast 60 = .ok (.aload 5, 2) := dk_25 5 (dk_at dksX6_withLast_2 15 rfl rfl)
theorem dX6_withLast_62 : decode cX6_withLast 62 = .ok (.getfield 228, 3) := dk_180 0 228 (dk_at dksX6_withLast_2 17 rfl rfl)
theorem dX6_withLast_65 : decode cX6_withLast 65 = .ok (.iload_n 1, 1) := dk_27 (dk_at dksX6_withLast_2 20 rfl rfl)
theorem dX6_withLast_66 : decode cX6_withLast 66 = .ok (.if_icmp .ne 7, 3) := dk_160 0 7 (dk_at dksX6_withLast_2 21 rfl rfl)
theorem dX6_withLast_69 : decode cX6_withLast 69 = .ok (.iconst 1, 1) := dk_4 (dk_at dksX6_withLast_3 0 rfl rfl)
theorem dX6_withLast_70 : decode cX6_withLast 70 = .ok (.goto 4, 3) := dk_167 0 4 (dk_at dksX6_withLast_3 1 rfl rfl)
theorem dX6_withLast_73 : decode cX6_withLast 73 = .ok (.iconst 0, 1) := dk_3 (dk_at dksX6_withLast_3 4 rfl rfl)
theorem dX6_withLast_74 : decode cX6_withLast 74 = .ok (.iadd, 1) := dk_96 (dk_at dksX6_withLast_3 5 rfl rfl)
theorem dX6_withLast_75 : decode cX6_withLast 75 = .ok (.istore_n 3, 1) := dk_62 (dk_at dksX6_withLast_3 6 rfl rfl)
theorem dX6_withLast_76 : decode cX6_withLast 76 = .ok (.goto (-63), 3) := dk_167 255 193 (dk_at dksX6_withLast_3 7 rfl rfl)
theorem dX6_withLast_79 : decode cX6_withLast 79 = .ok (.iload_n 3, 1) := dk_29 (dk_at dksX6_withLast_3 10 rfl rfl)
theorem dX6_withLast_80 : decode cX6_withLast 80 = .ok (.ireturn, 1) := dk_172 (dk_at dksX6_withLast_3 11 rfl rfl)
abbrev cX6_behind : ByteArray := prog_7_method_24_code
def yX6_behind : MethodName := ⟨RX6, "behind", "(LScrutineery$Entry;)I"⟩
def dkwX6_behind_2 : List UInt8 := [43, 180, 0, 220, 164, 0, 7, 4, 167, 0, 4, 3, 96, 61, 167, 255, 208, 28, 172]
abbrev dktX6_behind_2 : List UInt8 := dkwX6_behind_2 ++ []
def dkwX6_behind_1 : List UInt8 := [185, 0, 117, 1, 0, 192, 0, 121, 58, 4, 28, 25, 4, 180, 0, 123, 154, 0, 19, 25, 4, 180, 0, 220]
abbrev dktX6_behind_1 : List UInt8 := dkwX6_behind_1 ++ dktX6_behind_2
def dkwX6_behind_0 : List UInt8 := [3, 61, 42, 180, 0, 12, 185, 0, 108, 1, 0, 78, 45, 185, 0, 112, 1, 0, 153, 0, 45, 45]
abbrev dktX6_behind_0 : List UInt8 := dkwX6_behind_0 ++ dktX6_behind_1
theorem dksX6_behind_0 : cX6_behind.data.toList.drop 0 = dktX6_behind_0 := by decide +kernel
theorem dksX6_behind_1 : cX6_behind.data.toList.drop 22 = dktX6_behind_1 := dk_seg dksX6_behind_0 22 rfl rfl
theorem dksX6_behind_2 : cX6_behind.data.toList.drop 46 = dktX6_behind_2 := dk_seg dksX6_behind_1 24 rfl rfl
theorem dX6_behind_0 : decode cX6_behind 0 = .ok (.iconst 0, 1) := dk_3 (dk_at dksX6_behind_0 0 rfl rfl)
theorem dX6_behind_1 : decode cX6_behind 1 = .ok (.istore_n 2, 1) := dk_61 (dk_at dksX6_behind_0 1 rfl rfl)
theorem dX6_behind_2 : decode cX6_behind 2 = .ok (.aload_n 0, 1) := dk_42 (dk_at dksX6_behind_0 2 rfl rfl)
theorem dX6_behind_3 : decode cX6_behind 3 = .ok (.getfield 12, 3) := dk_180 0 12 (dk_at dksX6_behind_0 3 rfl rfl)
theorem dX6_behind_6 : decode cX6_behind 6 = .ok (.invokeinterface 108 1, 5) := by decide +kernel
theorem dX6_behind_11 : decode cX6_behind 11 = .ok (.astore_n 3, 1) := dk_78 (dk_at dksX6_behind_0 11 rfl rfl)
theorem dX6_behind_12 : decode cX6_behind 12 = .ok (.aload_n 3, 1) := dk_45 (dk_at dksX6_behind_0 12 rfl rfl)
theorem dX6_behind_13 : decode cX6_behind 13 = .ok (.invokeinterface 112 1, 5) := by decide +kernel
theorem dX6_behind_18 : decode cX6_behind 18 = .ok (.ifCond .eq 45, 3) := dk_153 0 45 (dk_at dksX6_behind_0 18 rfl rfl)
theorem dX6_behind_21 : decode cX6_behind 21 = .ok (.aload_n 3, 1) := dk_45 (dk_at dksX6_behind_0 21 rfl rfl)
theorem dX6_behind_22 : decode cX6_behind 22 = .ok (.invokeinterface 117 1, 5) := by decide +kernel
theorem dX6_behind_27 : decode cX6_behind 27 = .ok (.checkcast 121, 3) := dk_192 0 121 (dk_at dksX6_behind_1 5 rfl rfl)
theorem dX6_behind_30 : decode cX6_behind 30 = .ok (.astore 4, 2) := dk_58 4 (dk_at dksX6_behind_1 8 rfl rfl)
theorem dX6_behind_32 : decode cX6_behind 32 = .ok (.iload_n 2, 1) := dk_28 (dk_at dksX6_behind_1 10 rfl rfl)
theorem dX6_behind_33 : decode cX6_behind 33 = .ok (.aload 4, 2) := dk_25 4 (dk_at dksX6_behind_1 11 rfl rfl)
theorem dX6_behind_35 : decode cX6_behind 35 = .ok (.getfield 123, 3) := dk_180 0 123 (dk_at dksX6_behind_1 13 rfl rfl)
theorem dX6_behind_38 : decode cX6_behind 38 = .ok (.ifCond .ne 19, 3) := dk_154 0 19 (dk_at dksX6_behind_1 16 rfl rfl)
theorem dX6_behind_41 : decode cX6_behind 41 = .ok (.aload 4, 2) := dk_25 4 (dk_at dksX6_behind_1 19 rfl rfl)
theorem dX6_behind_43 : decode cX6_behind 43 = .ok (.getfield 220, 3) := dk_180 0 220 (dk_at dksX6_behind_1 21 rfl rfl)
theorem dX6_behind_46 : decode cX6_behind 46 = .ok (.aload_n 1, 1) := dk_43 (dk_at dksX6_behind_2 0 rfl rfl)
theorem dX6_behind_47 : decode cX6_behind 47 = .ok (.getfield 220, 3) := dk_180 0 220 (dk_at dksX6_behind_2 1 rfl rfl)
theorem dX6_behind_50 : decode cX6_behind 50 = .ok (.if_icmp .le 7, 3) := dk_164 0 7 (dk_at dksX6_behind_2 4 rfl rfl)
theorem dX6_behind_53 : decode cX6_behind 53 = .ok (.iconst 1, 1) := dk_4 (dk_at dksX6_behind_2 7 rfl rfl)
theorem dX6_behind_54 : decode cX6_behind 54 = .ok (.goto 4, 3) := dk_167 0 4 (dk_at dksX6_behind_2 8 rfl rfl)
theorem dX6_behind_57 : decode cX6_behind 57 = .ok (.iconst 0, 1) := dk_3 (dk_at dksX6_behind_2 11 rfl rfl)
theorem dX6_behind_58 : decode cX6_behind 58 = .ok (.iadd, 1) := dk_96 (dk_at dksX6_behind_2 12 rfl rfl)
theorem dX6_behind_59 : decode cX6_behind 59 = .ok (.istore_n 2, 1) := dk_61 (dk_at dksX6_behind_2 13 rfl rfl)
theorem dX6_behind_60 : decode cX6_behind 60 = .ok (.goto (-48), 3) := dk_167 255 208 (dk_at dksX6_behind_2 14 rfl rfl)
theorem dX6_behind_63 : decode cX6_behind 63 = .ok (.iload_n 2, 1) := dk_28 (dk_at dksX6_behind_2 17 rfl rfl)
theorem dX6_behind_64 : decode cX6_behind 64 = .ok (.ireturn, 1) := dk_172 (dk_at dksX6_behind_2 18 rfl rfl)
abbrev cX6_cuts : ByteArray := prog_7_method_28_code
def yX6_cuts : MethodName := ⟨RX6, "cuts", "()V"⟩
def dkwX6_cuts_13 : List UInt8 := [182, 1, 46, 167, 0, 20, 42, 25, 6, 25, 5, 27, 25, 5, 185, 0, 76, 1, 0, 100, 182, 1, 46, 177]
abbrev dktX6_cuts_13 : List UInt8 := dkwX6_cuts_13 ++ []
def dkwX6_cuts_12 : List UInt8 := [185, 0, 76, 1, 0, 27, 27, 5, 108, 96, 163, 0, 20, 42, 25, 7, 187, 0, 9, 89, 183, 0, 11, 3]
abbrev dktX6_cuts_12 : List UInt8 := dkwX6_cuts_12 ++ dktX6_cuts_13
def dkwX6_cuts_11 : List UInt8 := [62, 42, 25, 7, 187, 0, 9, 89, 183, 0, 11, 3, 182, 1, 46, 167, 0, 52, 25, 7]
abbrev dktX6_cuts_11 : List UInt8 := dkwX6_cuts_11 ++ dktX6_cuts_12
def dkwX6_cuts_10 : List UInt8 := [154, 0, 18, 42, 180, 0, 39, 180, 1, 43, 185, 0, 211, 1, 0, 153, 0, 7, 4, 167, 0, 4, 3, 126]
abbrev dktX6_cuts_10 : List UInt8 := dkwX6_cuts_10 ++ dktX6_cuts_11
def dkwX6_cuts_9 : List UInt8 := [180, 0, 39, 182, 0, 71, 153, 0, 60, 29, 25, 7, 42, 180, 0, 39, 180, 1, 43, 185, 1, 39, 2, 0]
abbrev dktX6_cuts_9 : List UInt8 := dkwX6_cuts_9 ++ dktX6_cuts_10
def dkwX6_cuts_8 : List UInt8 := [187, 0, 9, 89, 25, 5, 183, 0, 208, 58, 7, 29, 25, 7, 25, 6, 185, 1, 39, 2, 0, 126, 62, 42]
abbrev dktX6_cuts_8 : List UInt8 := dkwX6_cuts_8 ++ dktX6_cuts_9
def dkwX6_cuts_7 : List UInt8 := [182, 1, 36, 21, 4, 160, 0, 15, 29, 25, 6, 25, 8, 185, 0, 65, 2, 0, 126, 62, 167, 255, 182]
abbrev dktX6_cuts_7 : List UInt8 := dkwX6_cuts_7 ++ dktX6_cuts_8
def dkwX6_cuts_6 : List UInt8 := [21, 4, 164, 0, 15, 29, 25, 5, 25, 8, 185, 0, 65, 2, 0, 126, 62, 42, 180, 0, 39, 25, 8]
abbrev dktX6_cuts_6 : List UInt8 := dkwX6_cuts_6 ++ dktX6_cuts_7
def dkwX6_cuts_5 : List UInt8 := [153, 0, 70, 25, 7, 185, 0, 117, 1, 0, 192, 0, 121, 58, 8, 42, 180, 0, 39, 25, 8, 182, 1, 36]
abbrev dktX6_cuts_5 : List UInt8 := dkwX6_cuts_5 ++ dktX6_cuts_6
def dkwX6_cuts_4 : List UInt8 := [187, 0, 9, 89, 183, 0, 11, 58, 6, 44, 185, 0, 108, 1, 0, 58, 7, 25, 7, 185, 0, 112, 1, 0]
abbrev dktX6_cuts_4 : List UInt8 := dkwX6_cuts_4 ++ dktX6_cuts_5
def dkwX6_cuts_3 : List UInt8 := [185, 0, 104, 2, 0, 192, 0, 121, 182, 1, 36, 54, 4, 187, 0, 9, 89, 183, 0, 11, 58, 5]
abbrev dktX6_cuts_3 : List UInt8 := dkwX6_cuts_3 ++ dktX6_cuts_4
def dkwX6_cuts_2 : List UInt8 := [25, 5, 185, 0, 65, 2, 0, 126, 62, 167, 255, 223, 42, 180, 0, 39, 44, 27, 4, 100]
abbrev dktX6_cuts_2 : List UInt8 := dkwX6_cuts_2 ++ dktX6_cuts_3
def dkwX6_cuts_1 : List UInt8 := [25, 4, 185, 0, 112, 1, 0, 153, 0, 29, 25, 4, 185, 0, 117, 1, 0, 192, 0, 121, 58, 5, 29, 44]
abbrev dktX6_cuts_1 : List UInt8 := dkwX6_cuts_1 ++ dktX6_cuts_2
def dkwX6_cuts_0 : List UInt8 := [42, 182, 1, 32, 60, 187, 0, 9, 89, 183, 0, 11, 77, 4, 62, 42, 180, 0, 39, 182, 1, 35, 58, 4]
abbrev dktX6_cuts_0 : List UInt8 := dkwX6_cuts_0 ++ dktX6_cuts_1
theorem dksX6_cuts_0 : cX6_cuts.data.toList.drop 0 = dktX6_cuts_0 := by decide +kernel
theorem dksX6_cuts_1 : cX6_cuts.data.toList.drop 24 = dktX6_cuts_1 := dk_seg dksX6_cuts_0 24 rfl rfl
theorem dksX6_cuts_2 : cX6_cuts.data.toList.drop 48 = dktX6_cuts_2 := dk_seg dksX6_cuts_1 24 rfl rfl
theorem dksX6_cuts_3 : cX6_cuts.data.toList.drop 68 = dktX6_cuts_3 := dk_seg dksX6_cuts_2 20 rfl rfl
theorem dksX6_cuts_4 : cX6_cuts.data.toList.drop 90 = dktX6_cuts_4 := dk_seg dksX6_cuts_3 22 rfl rfl
theorem dksX6_cuts_5 : cX6_cuts.data.toList.drop 114 = dktX6_cuts_5 := dk_seg dksX6_cuts_4 24 rfl rfl
theorem dksX6_cuts_6 : cX6_cuts.data.toList.drop 138 = dktX6_cuts_6 := dk_seg dksX6_cuts_5 24 rfl rfl
theorem dksX6_cuts_7 : cX6_cuts.data.toList.drop 161 = dktX6_cuts_7 := dk_seg dksX6_cuts_6 23 rfl rfl
theorem dksX6_cuts_8 : cX6_cuts.data.toList.drop 184 = dktX6_cuts_8 := dk_seg dksX6_cuts_7 23 rfl rfl
theorem dksX6_cuts_9 : cX6_cuts.data.toList.drop 208 = dktX6_cuts_9 := dk_seg dksX6_cuts_8 24 rfl rfl
theorem dksX6_cuts_10 : cX6_cuts.data.toList.drop 232 = dktX6_cuts_10 := dk_seg dksX6_cuts_9 24 rfl rfl
theorem dksX6_cuts_11 : cX6_cuts.data.toList.drop 256 = dktX6_cuts_11 := dk_seg dksX6_cuts_10 24 rfl rfl
theorem dksX6_cuts_12 : cX6_cuts.data.toList.drop 276 = dktX6_cuts_12 := dk_seg dksX6_cuts_11 20 rfl rfl
theorem dksX6_cuts_13 : cX6_cuts.data.toList.drop 300 = dktX6_cuts_13 := dk_seg dksX6_cuts_12 24 rfl rfl
theorem dX6_cuts_0 : decode cX6_cuts 0 = .ok (.aload_n 0, 1) := dk_42 (dk_at dksX6_cuts_0 0 rfl rfl)
theorem dX6_cuts_1 : decode cX6_cuts 1 = .ok (.invokevirtual 288, 3) := dk_182 1 32 (dk_at dksX6_cuts_0 1 rfl rfl)
theorem dX6_cuts_4 : decode cX6_cuts 4 = .ok (.istore_n 1, 1) := dk_60 (dk_at dksX6_cuts_0 4 rfl rfl)
theorem dX6_cuts_5 : decode cX6_cuts 5 = .ok (.new 9, 3) := dk_187 0 9 (dk_at dksX6_cuts_0 5 rfl rfl)
theorem dX6_cuts_8 : decode cX6_cuts 8 = .ok (.dup, 1) := dk_89 (dk_at dksX6_cuts_0 8 rfl rfl)
theorem dX6_cuts_9 : decode cX6_cuts 9 = .ok (.invokespecial 11, 3) := dk_183 0 11 (dk_at dksX6_cuts_0 9 rfl rfl)
theorem dX6_cuts_12 : decode cX6_cuts 12 = .ok (.astore_n 2, 1) := dk_77 (dk_at dksX6_cuts_0 12 rfl rfl)
theorem dX6_cuts_13 : decode cX6_cuts 13 = .ok (.iconst 1, 1) := dk_4 (dk_at dksX6_cuts_0 13 rfl rfl)
theorem dX6_cuts_14 : decode cX6_cuts 14 = .ok (.istore_n 3, 1) := dk_62 (dk_at dksX6_cuts_0 14 rfl rfl)
theorem dX6_cuts_15 : decode cX6_cuts 15 = .ok (.aload_n 0, 1) := dk_42 (dk_at dksX6_cuts_0 15 rfl rfl)
theorem dX6_cuts_16 : decode cX6_cuts 16 = .ok (.getfield 39, 3) := dk_180 0 39 (dk_at dksX6_cuts_0 16 rfl rfl)
theorem dX6_cuts_19 : decode cX6_cuts 19 = .ok (.invokevirtual 291, 3) := dk_182 1 35 (dk_at dksX6_cuts_0 19 rfl rfl)
theorem dX6_cuts_22 : decode cX6_cuts 22 = .ok (.astore 4, 2) := dk_58 4 (dk_at dksX6_cuts_0 22 rfl rfl)
theorem dX6_cuts_24 : decode cX6_cuts 24 = .ok (.aload 4, 2) := dk_25 4 (dk_at dksX6_cuts_1 0 rfl rfl)
theorem dX6_cuts_26 : decode cX6_cuts 26 = .ok (.invokeinterface 112 1, 5) := by decide +kernel
theorem dX6_cuts_31 : decode cX6_cuts 31 = .ok (.ifCond .eq 29, 3) := dk_153 0 29 (dk_at dksX6_cuts_1 7 rfl rfl)
theorem dX6_cuts_34 : decode cX6_cuts 34 = .ok (.aload 4, 2) := dk_25 4 (dk_at dksX6_cuts_1 10 rfl rfl)
theorem dX6_cuts_36 : decode cX6_cuts 36 = .ok (.invokeinterface 117 1, 5) := by decide +kernel
theorem dX6_cuts_41 : decode cX6_cuts 41 = .ok (.checkcast 121, 3) := dk_192 0 121 (dk_at dksX6_cuts_1 17 rfl rfl)
theorem dX6_cuts_44 : decode cX6_cuts 44 = .ok (.astore 5, 2) := dk_58 5 (dk_at dksX6_cuts_1 20 rfl rfl)
theorem dX6_cuts_46 : decode cX6_cuts 46 = .ok (.iload_n 3, 1) := dk_29 (dk_at dksX6_cuts_1 22 rfl rfl)
theorem dX6_cuts_47 : decode cX6_cuts 47 = .ok (.aload_n 2, 1) := dk_44 (dk_at dksX6_cuts_1 23 rfl rfl)
theorem dX6_cuts_48 : decode cX6_cuts 48 = .ok (.aload 5, 2) := dk_25 5 (dk_at dksX6_cuts_2 0 rfl rfl)
theorem dX6_cuts_50 : decode cX6_cuts 50 = .ok (.invokeinterface 65 2, 5) := by decide +kernel
theorem dX6_cuts_55 : decode cX6_cuts 55 = .ok (.iand, 1) := dk_126 (dk_at dksX6_cuts_2 7 rfl rfl)
theorem dX6_cuts_56 : decode cX6_cuts 56 = .ok (.istore_n 3, 1) := dk_62 (dk_at dksX6_cuts_2 8 rfl rfl)
theorem dX6_cuts_57 : decode cX6_cuts 57 = .ok (.goto (-33), 3) := dk_167 255 223 (dk_at dksX6_cuts_2 9 rfl rfl)
theorem dX6_cuts_60 : decode cX6_cuts 60 = .ok (.aload_n 0, 1) := dk_42 (dk_at dksX6_cuts_2 12 rfl rfl)
theorem dX6_cuts_61 : decode cX6_cuts 61 = .ok (.getfield 39, 3) := dk_180 0 39 (dk_at dksX6_cuts_2 13 rfl rfl)
theorem dX6_cuts_64 : decode cX6_cuts 64 = .ok (.aload_n 2, 1) := dk_44 (dk_at dksX6_cuts_2 16 rfl rfl)
theorem dX6_cuts_65 : decode cX6_cuts 65 = .ok (.iload_n 1, 1) := dk_27 (dk_at dksX6_cuts_2 17 rfl rfl)
theorem dX6_cuts_66 : decode cX6_cuts 66 = .ok (.iconst 1, 1) := dk_4 (dk_at dksX6_cuts_2 18 rfl rfl)
theorem dX6_cuts_67 : decode cX6_cuts 67 = .ok (.isub, 1) := dk_100 (dk_at dksX6_cuts_2 19 rfl rfl)
theorem dX6_cuts_68 : decode cX6_cuts 68 = .ok (.invokeinterface 104 2, 5) := by decide +kernel
theorem dX6_cuts_73 : decode cX6_cuts 73 = .ok (.checkcast 121, 3) := dk_192 0 121 (dk_at dksX6_cuts_3 5 rfl rfl)
theorem dX6_cuts_76 : decode cX6_cuts 76 = .ok (.invokevirtual 292, 3) := dk_182 1 36 (dk_at dksX6_cuts_3 8 rfl rfl)
theorem dX6_cuts_79 : decode cX6_cuts 79 = .ok (.istore 4, 2) := dk_54 4 (dk_at dksX6_cuts_3 11 rfl rfl)
theorem dX6_cuts_81 : decode cX6_cuts 81 = .ok (.new 9, 3) := dk_187 0 9 (dk_at dksX6_cuts_3 13 rfl rfl)
theorem dX6_cuts_84 : decode cX6_cuts 84 = .ok (.dup, 1) := dk_89 (dk_at dksX6_cuts_3 16 rfl rfl)
theorem dX6_cuts_85 : decode cX6_cuts 85 = .ok (.invokespecial 11, 3) := dk_183 0 11 (dk_at dksX6_cuts_3 17 rfl rfl)
theorem dX6_cuts_88 : decode cX6_cuts 88 = .ok (.astore 5, 2) := dk_58 5 (dk_at dksX6_cuts_3 20 rfl rfl)
theorem dX6_cuts_90 : decode cX6_cuts 90 = .ok (.new 9, 3) := dk_187 0 9 (dk_at dksX6_cuts_4 0 rfl rfl)
theorem dX6_cuts_93 : decode cX6_cuts 93 = .ok (.dup, 1) := dk_89 (dk_at dksX6_cuts_4 3 rfl rfl)
theorem dX6_cuts_94 : decode cX6_cuts 94 = .ok (.invokespecial 11, 3) := dk_183 0 11 (dk_at dksX6_cuts_4 4 rfl rfl)
theorem dX6_cuts_97 : decode cX6_cuts 97 = .ok (.astore 6, 2) := dk_58 6 (dk_at dksX6_cuts_4 7 rfl rfl)
theorem dX6_cuts_99 : decode cX6_cuts 99 = .ok (.aload_n 2, 1) := dk_44 (dk_at dksX6_cuts_4 9 rfl rfl)
theorem dX6_cuts_100 : decode cX6_cuts 100 = .ok (.invokeinterface 108 1, 5) := by decide +kernel
theorem dX6_cuts_105 : decode cX6_cuts 105 = .ok (.astore 7, 2) := dk_58 7 (dk_at dksX6_cuts_4 15 rfl rfl)
theorem dX6_cuts_107 : decode cX6_cuts 107 = .ok (.aload 7, 2) := dk_25 7 (dk_at dksX6_cuts_4 17 rfl rfl)
theorem dX6_cuts_109 : decode cX6_cuts 109 = .ok (.invokeinterface 112 1, 5) := by decide +kernel
theorem dX6_cuts_114 : decode cX6_cuts 114 = .ok (.ifCond .eq 70, 3) := dk_153 0 70 (dk_at dksX6_cuts_5 0 rfl rfl)
theorem dX6_cuts_117 : decode cX6_cuts 117 = .ok (.aload 7, 2) := dk_25 7 (dk_at dksX6_cuts_5 3 rfl rfl)
theorem dX6_cuts_119 : decode cX6_cuts 119 = .ok (.invokeinterface 117 1, 5) := by decide +kernel
theorem dX6_cuts_124 : decode cX6_cuts 124 = .ok (.checkcast 121, 3) := dk_192 0 121 (dk_at dksX6_cuts_5 10 rfl rfl)
theorem dX6_cuts_127 : decode cX6_cuts 127 = .ok (.astore 8, 2) := dk_58 8 (dk_at dksX6_cuts_5 13 rfl rfl)
theorem dX6_cuts_129 : decode cX6_cuts 129 = .ok (.aload_n 0, 1) := dk_42 (dk_at dksX6_cuts_5 15 rfl rfl)
theorem dX6_cuts_130 : decode cX6_cuts 130 = .ok (.getfield 39, 3) := dk_180 0 39 (dk_at dksX6_cuts_5 16 rfl rfl)
theorem dX6_cuts_133 : decode cX6_cuts 133 = .ok (.aload 8, 2) := dk_25 8 (dk_at dksX6_cuts_5 19 rfl rfl)
theorem dX6_cuts_135 : decode cX6_cuts 135 = .ok (.invokevirtual 292, 3) := dk_182 1 36 (dk_at dksX6_cuts_5 21 rfl rfl)
theorem dX6_cuts_138 : decode cX6_cuts 138 = .ok (.iload 4, 2) := dk_21 4 (dk_at dksX6_cuts_6 0 rfl rfl)
theorem dX6_cuts_140 : decode cX6_cuts 140 = .ok (.if_icmp .le 15, 3) := dk_164 0 15 (dk_at dksX6_cuts_6 2 rfl rfl)
theorem dX6_cuts_143 : decode cX6_cuts 143 = .ok (.iload_n 3, 1) := dk_29 (dk_at dksX6_cuts_6 5 rfl rfl)
theorem dX6_cuts_144 : decode cX6_cuts 144 = .ok (.aload 5, 2) := dk_25 5 (dk_at dksX6_cuts_6 6 rfl rfl)
theorem dX6_cuts_146 : decode cX6_cuts 146 = .ok (.aload 8, 2) := dk_25 8 (dk_at dksX6_cuts_6 8 rfl rfl)
theorem dX6_cuts_148 : decode cX6_cuts 148 = .ok (.invokeinterface 65 2, 5) := by decide +kernel
theorem dX6_cuts_153 : decode cX6_cuts 153 = .ok (.iand, 1) := dk_126 (dk_at dksX6_cuts_6 15 rfl rfl)
theorem dX6_cuts_154 : decode cX6_cuts 154 = .ok (.istore_n 3, 1) := dk_62 (dk_at dksX6_cuts_6 16 rfl rfl)
theorem dX6_cuts_155 : decode cX6_cuts 155 = .ok (.aload_n 0, 1) := dk_42 (dk_at dksX6_cuts_6 17 rfl rfl)
theorem dX6_cuts_156 : decode cX6_cuts 156 = .ok (.getfield 39, 3) := dk_180 0 39 (dk_at dksX6_cuts_6 18 rfl rfl)
theorem dX6_cuts_159 : decode cX6_cuts 159 = .ok (.aload 8, 2) := dk_25 8 (dk_at dksX6_cuts_6 21 rfl rfl)
theorem dX6_cuts_161 : decode cX6_cuts 161 = .ok (.invokevirtual 292, 3) := dk_182 1 36 (dk_at dksX6_cuts_7 0 rfl rfl)
theorem dX6_cuts_164 : decode cX6_cuts 164 = .ok (.iload 4, 2) := dk_21 4 (dk_at dksX6_cuts_7 3 rfl rfl)
theorem dX6_cuts_166 : decode cX6_cuts 166 = .ok (.if_icmp .ne 15, 3) := dk_160 0 15 (dk_at dksX6_cuts_7 5 rfl rfl)
theorem dX6_cuts_169 : decode cX6_cuts 169 = .ok (.iload_n 3, 1) := dk_29 (dk_at dksX6_cuts_7 8 rfl rfl)
theorem dX6_cuts_170 : decode cX6_cuts 170 = .ok (.aload 6, 2) := dk_25 6 (dk_at dksX6_cuts_7 9 rfl rfl)
theorem dX6_cuts_172 : decode cX6_cuts 172 = .ok (.aload 8, 2) := dk_25 8 (dk_at dksX6_cuts_7 11 rfl rfl)
theorem dX6_cuts_174 : decode cX6_cuts 174 = .ok (.invokeinterface 65 2, 5) := by decide +kernel
theorem dX6_cuts_179 : decode cX6_cuts 179 = .ok (.iand, 1) := dk_126 (dk_at dksX6_cuts_7 18 rfl rfl)
theorem dX6_cuts_180 : decode cX6_cuts 180 = .ok (.istore_n 3, 1) := dk_62 (dk_at dksX6_cuts_7 19 rfl rfl)
theorem dX6_cuts_181 : decode cX6_cuts 181 = .ok (.goto (-74), 3) := dk_167 255 182 (dk_at dksX6_cuts_7 20 rfl rfl)
theorem dX6_cuts_184 : decode cX6_cuts 184 = .ok (.new 9, 3) := dk_187 0 9 (dk_at dksX6_cuts_8 0 rfl rfl)
theorem dX6_cuts_187 : decode cX6_cuts 187 = .ok (.dup, 1) := dk_89 (dk_at dksX6_cuts_8 3 rfl rfl)
theorem dX6_cuts_188 : decode cX6_cuts 188 = .ok (.aload 5, 2) := dk_25 5 (dk_at dksX6_cuts_8 4 rfl rfl)
theorem dX6_cuts_190 : decode cX6_cuts 190 = .ok (.invokespecial 208, 3) := dk_183 0 208 (dk_at dksX6_cuts_8 6 rfl rfl)
theorem dX6_cuts_193 : decode cX6_cuts 193 = .ok (.astore 7, 2) := dk_58 7 (dk_at dksX6_cuts_8 9 rfl rfl)
theorem dX6_cuts_195 : decode cX6_cuts 195 = .ok (.iload_n 3, 1) := dk_29 (dk_at dksX6_cuts_8 11 rfl rfl)
theorem dX6_cuts_196 : decode cX6_cuts 196 = .ok (.aload 7, 2) := dk_25 7 (dk_at dksX6_cuts_8 12 rfl rfl)
theorem dX6_cuts_198 : decode cX6_cuts 198 = .ok (.aload 6, 2) := dk_25 6 (dk_at dksX6_cuts_8 14 rfl rfl)
theorem dX6_cuts_200 : decode cX6_cuts 200 = .ok (.invokeinterface 295 2, 5) := by decide +kernel
theorem dX6_cuts_205 : decode cX6_cuts 205 = .ok (.iand, 1) := dk_126 (dk_at dksX6_cuts_8 21 rfl rfl)
theorem dX6_cuts_206 : decode cX6_cuts 206 = .ok (.istore_n 3, 1) := dk_62 (dk_at dksX6_cuts_8 22 rfl rfl)
theorem dX6_cuts_207 : decode cX6_cuts 207 = .ok (.aload_n 0, 1) := dk_42 (dk_at dksX6_cuts_8 23 rfl rfl)
theorem dX6_cuts_208 : decode cX6_cuts 208 = .ok (.getfield 39, 3) := dk_180 0 39 (dk_at dksX6_cuts_9 0 rfl rfl)
theorem dX6_cuts_211 : decode cX6_cuts 211 = .ok (.invokevirtual 71, 3) := dk_182 0 71 (dk_at dksX6_cuts_9 3 rfl rfl)
theorem dX6_cuts_214 : decode cX6_cuts 214 = .ok (.ifCond .eq 60, 3) := dk_153 0 60 (dk_at dksX6_cuts_9 6 rfl rfl)
theorem dX6_cuts_217 : decode cX6_cuts 217 = .ok (.iload_n 3, 1) := dk_29 (dk_at dksX6_cuts_9 9 rfl rfl)
theorem dX6_cuts_218 : decode cX6_cuts 218 = .ok (.aload 7, 2) := dk_25 7 (dk_at dksX6_cuts_9 10 rfl rfl)
theorem dX6_cuts_220 : decode cX6_cuts 220 = .ok (.aload_n 0, 1) := dk_42 (dk_at dksX6_cuts_9 12 rfl rfl)
theorem dX6_cuts_221 : decode cX6_cuts 221 = .ok (.getfield 39, 3) := dk_180 0 39 (dk_at dksX6_cuts_9 13 rfl rfl)
theorem dX6_cuts_224 : decode cX6_cuts 224 = .ok (.getfield 299, 3) := dk_180 1 43 (dk_at dksX6_cuts_9 16 rfl rfl)
theorem dX6_cuts_227 : decode cX6_cuts 227 = .ok (.invokeinterface 295 2, 5) := by decide +kernel
theorem dX6_cuts_232 : decode cX6_cuts 232 = .ok (.ifCond .ne 18, 3) := dk_154 0 18 (dk_at dksX6_cuts_10 0 rfl rfl)
theorem dX6_cuts_235 : decode cX6_cuts 235 = .ok (.aload_n 0, 1) := dk_42 (dk_at dksX6_cuts_10 3 rfl rfl)
theorem dX6_cuts_236 : decode cX6_cuts 236 = .ok (.getfield 39, 3) := dk_180 0 39 (dk_at dksX6_cuts_10 4 rfl rfl)
theorem dX6_cuts_239 : decode cX6_cuts 239 = .ok (.getfield 299, 3) := dk_180 1 43 (dk_at dksX6_cuts_10 7 rfl rfl)
theorem dX6_cuts_242 : decode cX6_cuts 242 = .ok (.invokeinterface 211 1, 5) := by decide +kernel
theorem dX6_cuts_247 : decode cX6_cuts 247 = .ok (.ifCond .eq 7, 3) := dk_153 0 7 (dk_at dksX6_cuts_10 15 rfl rfl)
theorem dX6_cuts_250 : decode cX6_cuts 250 = .ok (.iconst 1, 1) := dk_4 (dk_at dksX6_cuts_10 18 rfl rfl)
theorem dX6_cuts_251 : decode cX6_cuts 251 = .ok (.goto 4, 3) := dk_167 0 4 (dk_at dksX6_cuts_10 19 rfl rfl)
theorem dX6_cuts_254 : decode cX6_cuts 254 = .ok (.iconst 0, 1) := dk_3 (dk_at dksX6_cuts_10 22 rfl rfl)
theorem dX6_cuts_255 : decode cX6_cuts 255 = .ok (.iand, 1) := dk_126 (dk_at dksX6_cuts_10 23 rfl rfl)
theorem dX6_cuts_256 : decode cX6_cuts 256 = .ok (.istore_n 3, 1) := dk_62 (dk_at dksX6_cuts_11 0 rfl rfl)
theorem dX6_cuts_257 : decode cX6_cuts 257 = .ok (.aload_n 0, 1) := dk_42 (dk_at dksX6_cuts_11 1 rfl rfl)
theorem dX6_cuts_258 : decode cX6_cuts 258 = .ok (.aload 7, 2) := dk_25 7 (dk_at dksX6_cuts_11 2 rfl rfl)
theorem dX6_cuts_260 : decode cX6_cuts 260 = .ok (.new 9, 3) := dk_187 0 9 (dk_at dksX6_cuts_11 4 rfl rfl)
theorem dX6_cuts_263 : decode cX6_cuts 263 = .ok (.dup, 1) := dk_89 (dk_at dksX6_cuts_11 7 rfl rfl)
theorem dX6_cuts_264 : decode cX6_cuts 264 = .ok (.invokespecial 11, 3) := dk_183 0 11 (dk_at dksX6_cuts_11 8 rfl rfl)
theorem dX6_cuts_267 : decode cX6_cuts 267 = .ok (.iconst 0, 1) := dk_3 (dk_at dksX6_cuts_11 11 rfl rfl)
theorem dX6_cuts_268 : decode cX6_cuts 268 = .ok (.invokevirtual 302, 3) := dk_182 1 46 (dk_at dksX6_cuts_11 12 rfl rfl)
theorem dX6_cuts_271 : decode cX6_cuts 271 = .ok (.goto 52, 3) := dk_167 0 52 (dk_at dksX6_cuts_11 15 rfl rfl)
theorem dX6_cuts_274 : decode cX6_cuts 274 = .ok (.aload 7, 2) := dk_25 7 (dk_at dksX6_cuts_11 18 rfl rfl)
theorem dX6_cuts_276 : decode cX6_cuts 276 = .ok (.invokeinterface 76 1, 5) := by decide +kernel
theorem dX6_cuts_281 : decode cX6_cuts 281 = .ok (.iload_n 1, 1) := dk_27 (dk_at dksX6_cuts_12 5 rfl rfl)
theorem dX6_cuts_282 : decode cX6_cuts 282 = .ok (.iload_n 1, 1) := dk_27 (dk_at dksX6_cuts_12 6 rfl rfl)
theorem dX6_cuts_283 : decode cX6_cuts 283 = .ok (.iconst 2, 1) := dk_5 (dk_at dksX6_cuts_12 7 rfl rfl)
theorem dX6_cuts_284 : decode cX6_cuts 284 = .ok (.idiv, 1) := dk_108 (dk_at dksX6_cuts_12 8 rfl rfl)
theorem dX6_cuts_285 : decode cX6_cuts 285 = .ok (.iadd, 1) := dk_96 (dk_at dksX6_cuts_12 9 rfl rfl)
theorem dX6_cuts_286 : decode cX6_cuts 286 = .ok (.if_icmp .gt 20, 3) := dk_163 0 20 (dk_at dksX6_cuts_12 10 rfl rfl)
theorem dX6_cuts_289 : decode cX6_cuts 289 = .ok (.aload_n 0, 1) := dk_42 (dk_at dksX6_cuts_12 13 rfl rfl)
theorem dX6_cuts_290 : decode cX6_cuts 290 = .ok (.aload 7, 2) := dk_25 7 (dk_at dksX6_cuts_12 14 rfl rfl)
theorem dX6_cuts_292 : decode cX6_cuts 292 = .ok (.new 9, 3) := dk_187 0 9 (dk_at dksX6_cuts_12 16 rfl rfl)
theorem dX6_cuts_295 : decode cX6_cuts 295 = .ok (.dup, 1) := dk_89 (dk_at dksX6_cuts_12 19 rfl rfl)
theorem dX6_cuts_296 : decode cX6_cuts 296 = .ok (.invokespecial 11, 3) := dk_183 0 11 (dk_at dksX6_cuts_12 20 rfl rfl)
theorem dX6_cuts_299 : decode cX6_cuts 299 = .ok (.iconst 0, 1) := dk_3 (dk_at dksX6_cuts_12 23 rfl rfl)
theorem dX6_cuts_300 : decode cX6_cuts 300 = .ok (.invokevirtual 302, 3) := dk_182 1 46 (dk_at dksX6_cuts_13 0 rfl rfl)
theorem dX6_cuts_303 : decode cX6_cuts 303 = .ok (.goto 20, 3) := dk_167 0 20 (dk_at dksX6_cuts_13 3 rfl rfl)
theorem dX6_cuts_306 : decode cX6_cuts 306 = .ok (.aload_n 0, 1) := dk_42 (dk_at dksX6_cuts_13 6 rfl rfl)
theorem dX6_cuts_307 : decode cX6_cuts 307 = .ok (.aload 6, 2) := dk_25 6 (dk_at dksX6_cuts_13 7 rfl rfl)
theorem dX6_cuts_309 : decode cX6_cuts 309 = .ok (.aload 5, 2) := dk_25 5 (dk_at dksX6_cuts_13 9 rfl rfl)
theorem dX6_cuts_311 : decode cX6_cuts 311 = .ok (.iload_n 1, 1) := dk_27 (dk_at dksX6_cuts_13 11 rfl rfl)
theorem dX6_cuts_312 : decode cX6_cuts 312 = .ok (.aload 5, 2) := dk_25 5 (dk_at dksX6_cuts_13 12 rfl rfl)
theorem dX6_cuts_314 : decode cX6_cuts 314 = .ok (.invokeinterface 76 1, 5) := by decide +kernel
theorem dX6_cuts_319 : decode cX6_cuts 319 = .ok (.isub, 1) := dk_100 (dk_at dksX6_cuts_13 19 rfl rfl)
theorem dX6_cuts_320 : decode cX6_cuts 320 = .ok (.invokevirtual 302, 3) := dk_182 1 46 (dk_at dksX6_cuts_13 20 rfl rfl)
theorem dX6_cuts_323 : decode cX6_cuts 323 = .ok (.return_, 1) := dk_177 (dk_at dksX6_cuts_13 23 rfl rfl)
abbrev cX6_goesOn : ByteArray := prog_7_method_27_code
def yX6_goesOn : MethodName := ⟨RX6, "goesOn", "(Ljava/util/List;Ljava/util/List;I)V"⟩
def dkwX6_goesOn_7 : List UInt8 := [167, 255, 222, 177]
abbrev dktX6_goesOn_7 : List UInt8 := dkwX6_goesOn_7 ++ []
def dkwX6_goesOn_6 : List UInt8 := [185, 0, 117, 1, 0, 192, 0, 121, 58, 7, 25, 7, 42, 180, 0, 39, 180, 0, 253, 181, 0, 228]
abbrev dktX6_goesOn_6 : List UInt8 := dkwX6_goesOn_6 ++ dktX6_goesOn_7
def dkwX6_goesOn_5 : List UInt8 := [181, 0, 39, 25, 4, 185, 0, 108, 1, 0, 58, 6, 25, 6, 185, 0, 112, 1, 0, 153, 0, 30, 25, 6]
abbrev dktX6_goesOn_5 : List UInt8 := dkwX6_goesOn_5 ++ dktX6_goesOn_6
def dkwX6_goesOn_4 : List UInt8 := [167, 255, 209, 42, 187, 0, 34, 89, 42, 180, 0, 39, 180, 0, 253, 4, 96, 29, 25, 4, 44, 183, 0, 36]
abbrev dktX6_goesOn_4 : List UInt8 := dkwX6_goesOn_4 ++ dktX6_goesOn_5
def dkwX6_goesOn_3 : List UInt8 := [185, 0, 225, 2, 0, 153, 0, 17, 21, 5, 25, 4, 25, 7, 185, 0, 65, 2, 0, 126, 54, 5]
abbrev dktX6_goesOn_3 : List UInt8 := dkwX6_goesOn_3 ++ dktX6_goesOn_4
def dkwX6_goesOn_2 : List UInt8 := [185, 0, 112, 1, 0, 153, 0, 43, 25, 6, 185, 0, 117, 1, 0, 192, 0, 121, 58, 7, 43, 25, 7]
abbrev dktX6_goesOn_2 : List UInt8 := dkwX6_goesOn_2 ++ dktX6_goesOn_3
def dkwX6_goesOn_1 : List UInt8 := [183, 0, 11, 58, 4, 4, 54, 5, 42, 180, 0, 12, 185, 0, 108, 1, 0, 58, 6, 25, 6]
abbrev dktX6_goesOn_1 : List UInt8 := dkwX6_goesOn_1 ++ dktX6_goesOn_2
def dkwX6_goesOn_0 : List UInt8 := [42, 180, 0, 39, 180, 0, 253, 4, 96, 16, 8, 160, 0, 9, 42, 4, 181, 0, 80, 177, 187, 0, 9, 89]
abbrev dktX6_goesOn_0 : List UInt8 := dkwX6_goesOn_0 ++ dktX6_goesOn_1
theorem dksX6_goesOn_0 : cX6_goesOn.data.toList.drop 0 = dktX6_goesOn_0 := by decide +kernel
theorem dksX6_goesOn_1 : cX6_goesOn.data.toList.drop 24 = dktX6_goesOn_1 := dk_seg dksX6_goesOn_0 24 rfl rfl
theorem dksX6_goesOn_2 : cX6_goesOn.data.toList.drop 45 = dktX6_goesOn_2 := dk_seg dksX6_goesOn_1 21 rfl rfl
theorem dksX6_goesOn_3 : cX6_goesOn.data.toList.drop 68 = dktX6_goesOn_3 := dk_seg dksX6_goesOn_2 23 rfl rfl
theorem dksX6_goesOn_4 : cX6_goesOn.data.toList.drop 90 = dktX6_goesOn_4 := dk_seg dksX6_goesOn_3 22 rfl rfl
theorem dksX6_goesOn_5 : cX6_goesOn.data.toList.drop 114 = dktX6_goesOn_5 := dk_seg dksX6_goesOn_4 24 rfl rfl
theorem dksX6_goesOn_6 : cX6_goesOn.data.toList.drop 138 = dktX6_goesOn_6 := dk_seg dksX6_goesOn_5 24 rfl rfl
theorem dksX6_goesOn_7 : cX6_goesOn.data.toList.drop 160 = dktX6_goesOn_7 := dk_seg dksX6_goesOn_6 22 rfl rfl
theorem dX6_goesOn_0 : decode cX6_goesOn 0 = .ok (.aload_n 0, 1) := dk_42 (dk_at dksX6_goesOn_0 0 rfl rfl)
theorem dX6_goesOn_1 : decode cX6_goesOn 1 = .ok (.getfield 39, 3) := dk_180 0 39 (dk_at dksX6_goesOn_0 1 rfl rfl)
theorem dX6_goesOn_4 : decode cX6_goesOn 4 = .ok (.getfield 253, 3) := dk_180 0 253 (dk_at dksX6_goesOn_0 4 rfl rfl)
theorem dX6_goesOn_7 : decode cX6_goesOn 7 = .ok (.iconst 1, 1) := dk_4 (dk_at dksX6_goesOn_0 7 rfl rfl)
theorem dX6_goesOn_8 : decode cX6_goesOn 8 = .ok (.iadd, 1) := dk_96 (dk_at dksX6_goesOn_0 8 rfl rfl)
theorem dX6_goesOn_9 : decode cX6_goesOn 9 = .ok (.bipush 8, 2) := dk_16 8 (dk_at dksX6_goesOn_0 9 rfl rfl)
theorem dX6_goesOn_11 : decode cX6_goesOn 11 = .ok (.if_icmp .ne 9, 3) := dk_160 0 9 (dk_at dksX6_goesOn_0 11 rfl rfl)
theorem dX6_goesOn_14 : decode cX6_goesOn 14 = .ok (.aload_n 0, 1) := dk_42 (dk_at dksX6_goesOn_0 14 rfl rfl)
theorem dX6_goesOn_15 : decode cX6_goesOn 15 = .ok (.iconst 1, 1) := dk_4 (dk_at dksX6_goesOn_0 15 rfl rfl)
theorem dX6_goesOn_16 : decode cX6_goesOn 16 = .ok (.putfield 80, 3) := dk_181 0 80 (dk_at dksX6_goesOn_0 16 rfl rfl)
theorem dX6_goesOn_19 : decode cX6_goesOn 19 = .ok (.return_, 1) := dk_177 (dk_at dksX6_goesOn_0 19 rfl rfl)
theorem dX6_goesOn_20 : decode cX6_goesOn 20 = .ok (.new 9, 3) := dk_187 0 9 (dk_at dksX6_goesOn_0 20 rfl rfl)
theorem dX6_goesOn_23 : decode cX6_goesOn 23 = .ok (.dup, 1) := dk_89 (dk_at dksX6_goesOn_0 23 rfl rfl)
theorem dX6_goesOn_24 : decode cX6_goesOn 24 = .ok (.invokespecial 11, 3) := dk_183 0 11 (dk_at dksX6_goesOn_1 0 rfl rfl)
theorem dX6_goesOn_27 : decode cX6_goesOn 27 = .ok (.astore 4, 2) := dk_58 4 (dk_at dksX6_goesOn_1 3 rfl rfl)
theorem dX6_goesOn_29 : decode cX6_goesOn 29 = .ok (.iconst 1, 1) := dk_4 (dk_at dksX6_goesOn_1 5 rfl rfl)
theorem dX6_goesOn_30 : decode cX6_goesOn 30 = .ok (.istore 5, 2) := dk_54 5 (dk_at dksX6_goesOn_1 6 rfl rfl)
theorem dX6_goesOn_32 : decode cX6_goesOn 32 = .ok (.aload_n 0, 1) := dk_42 (dk_at dksX6_goesOn_1 8 rfl rfl)
theorem dX6_goesOn_33 : decode cX6_goesOn 33 = .ok (.getfield 12, 3) := dk_180 0 12 (dk_at dksX6_goesOn_1 9 rfl rfl)
theorem dX6_goesOn_36 : decode cX6_goesOn 36 = .ok (.invokeinterface 108 1, 5) := by decide +kernel
theorem dX6_goesOn_41 : decode cX6_goesOn 41 = .ok (.astore 6, 2) := dk_58 6 (dk_at dksX6_goesOn_1 17 rfl rfl)
theorem dX6_goesOn_43 : decode cX6_goesOn 43 = .ok (.aload 6, 2) := dk_25 6 (dk_at dksX6_goesOn_1 19 rfl rfl)
theorem dX6_goesOn_45 : decode cX6_goesOn 45 = .ok (.invokeinterface 112 1, 5) := by decide +kernel
theorem dX6_goesOn_50 : decode cX6_goesOn 50 = .ok (.ifCond .eq 43, 3) := dk_153 0 43 (dk_at dksX6_goesOn_2 5 rfl rfl)
theorem dX6_goesOn_53 : decode cX6_goesOn 53 = .ok (.aload 6, 2) := dk_25 6 (dk_at dksX6_goesOn_2 8 rfl rfl)
theorem dX6_goesOn_55 : decode cX6_goesOn 55 = .ok (.invokeinterface 117 1, 5) := by decide +kernel
theorem dX6_goesOn_60 : decode cX6_goesOn 60 = .ok (.checkcast 121, 3) := dk_192 0 121 (dk_at dksX6_goesOn_2 15 rfl rfl)
theorem dX6_goesOn_63 : decode cX6_goesOn 63 = .ok (.astore 7, 2) := dk_58 7 (dk_at dksX6_goesOn_2 18 rfl rfl)
theorem dX6_goesOn_65 : decode cX6_goesOn 65 = .ok (.aload_n 1, 1) := dk_43 (dk_at dksX6_goesOn_2 20 rfl rfl)
theorem dX6_goesOn_66 : decode cX6_goesOn 66 = .ok (.aload 7, 2) := dk_25 7 (dk_at dksX6_goesOn_2 21 rfl rfl)
theorem dX6_goesOn_68 : decode cX6_goesOn 68 = .ok (.invokeinterface 225 2, 5) := by decide +kernel
theorem dX6_goesOn_73 : decode cX6_goesOn 73 = .ok (.ifCond .eq 17, 3) := dk_153 0 17 (dk_at dksX6_goesOn_3 5 rfl rfl)
theorem dX6_goesOn_76 : decode cX6_goesOn 76 = .ok (.iload 5, 2) := dk_21 5 (dk_at dksX6_goesOn_3 8 rfl rfl)
theorem dX6_goesOn_78 : decode cX6_goesOn 78 = .ok (.aload 4, 2) := dk_25 4 (dk_at dksX6_goesOn_3 10 rfl rfl)
theorem dX6_goesOn_80 : decode cX6_goesOn 80 = .ok (.aload 7, 2) := dk_25 7 (dk_at dksX6_goesOn_3 12 rfl rfl)
theorem dX6_goesOn_82 : decode cX6_goesOn 82 = .ok (.invokeinterface 65 2, 5) := by decide +kernel
theorem dX6_goesOn_87 : decode cX6_goesOn 87 = .ok (.iand, 1) := dk_126 (dk_at dksX6_goesOn_3 19 rfl rfl)
theorem dX6_goesOn_88 : decode cX6_goesOn 88 = .ok (.istore 5, 2) := dk_54 5 (dk_at dksX6_goesOn_3 20 rfl rfl)
theorem dX6_goesOn_90 : decode cX6_goesOn 90 = .ok (.goto (-47), 3) := dk_167 255 209 (dk_at dksX6_goesOn_4 0 rfl rfl)
theorem dX6_goesOn_93 : decode cX6_goesOn 93 = .ok (.aload_n 0, 1) := dk_42 (dk_at dksX6_goesOn_4 3 rfl rfl)
theorem dX6_goesOn_94 : decode cX6_goesOn 94 = .ok (.new 34, 3) := dk_187 0 34 (dk_at dksX6_goesOn_4 4 rfl rfl)
theorem dX6_goesOn_97 : decode cX6_goesOn 97 = .ok (.dup, 1) := dk_89 (dk_at dksX6_goesOn_4 7 rfl rfl)
theorem dX6_goesOn_98 : decode cX6_goesOn 98 = .ok (.aload_n 0, 1) := dk_42 (dk_at dksX6_goesOn_4 8 rfl rfl)
theorem dX6_goesOn_99 : decode cX6_goesOn 99 = .ok (.getfield 39, 3) := dk_180 0 39 (dk_at dksX6_goesOn_4 9 rfl rfl)
theorem dX6_goesOn_102 : decode cX6_goesOn 102 = .ok (.getfield 253, 3) := dk_180 0 253 (dk_at dksX6_goesOn_4 12 rfl rfl)
theorem dX6_goesOn_105 : decode cX6_goesOn 105 = .ok (.iconst 1, 1) := dk_4 (dk_at dksX6_goesOn_4 15 rfl rfl)
theorem dX6_goesOn_106 : decode cX6_goesOn 106 = .ok (.iadd, 1) := dk_96 (dk_at dksX6_goesOn_4 16 rfl rfl)
theorem dX6_goesOn_107 : decode cX6_goesOn 107 = .ok (.iload_n 3, 1) := dk_29 (dk_at dksX6_goesOn_4 17 rfl rfl)
theorem dX6_goesOn_108 : decode cX6_goesOn 108 = .ok (.aload 4, 2) := dk_25 4 (dk_at dksX6_goesOn_4 18 rfl rfl)
theorem dX6_goesOn_110 : decode cX6_goesOn 110 = .ok (.aload_n 2, 1) := dk_44 (dk_at dksX6_goesOn_4 20 rfl rfl)
theorem dX6_goesOn_111 : decode cX6_goesOn 111 = .ok (.invokespecial 36, 3) := dk_183 0 36 (dk_at dksX6_goesOn_4 21 rfl rfl)
theorem dX6_goesOn_114 : decode cX6_goesOn 114 = .ok (.putfield 39, 3) := dk_181 0 39 (dk_at dksX6_goesOn_5 0 rfl rfl)
theorem dX6_goesOn_117 : decode cX6_goesOn 117 = .ok (.aload 4, 2) := dk_25 4 (dk_at dksX6_goesOn_5 3 rfl rfl)
theorem dX6_goesOn_119 : decode cX6_goesOn 119 = .ok (.invokeinterface 108 1, 5) := by decide +kernel
theorem dX6_goesOn_124 : decode cX6_goesOn 124 = .ok (.astore 6, 2) := dk_58 6 (dk_at dksX6_goesOn_5 10 rfl rfl)
theorem dX6_goesOn_126 : decode cX6_goesOn 126 = .ok (.aload 6, 2) := dk_25 6 (dk_at dksX6_goesOn_5 12 rfl rfl)
theorem dX6_goesOn_128 : decode cX6_goesOn 128 = .ok (.invokeinterface 112 1, 5) := by decide +kernel
theorem dX6_goesOn_133 : decode cX6_goesOn 133 = .ok (.ifCond .eq 30, 3) := dk_153 0 30 (dk_at dksX6_goesOn_5 19 rfl rfl)
theorem dX6_goesOn_136 : decode cX6_goesOn 136 = .ok (.aload 6, 2) := dk_25 6 (dk_at dksX6_goesOn_5 22 rfl rfl)
theorem dX6_goesOn_138 : decode cX6_goesOn 138 = .ok (.invokeinterface 117 1, 5) := by decide +kernel
theorem dX6_goesOn_143 : decode cX6_goesOn 143 = .ok (.checkcast 121, 3) := dk_192 0 121 (dk_at dksX6_goesOn_6 5 rfl rfl)
theorem dX6_goesOn_146 : decode cX6_goesOn 146 = .ok (.astore 7, 2) := dk_58 7 (dk_at dksX6_goesOn_6 8 rfl rfl)
theorem dX6_goesOn_148 : decode cX6_goesOn 148 = .ok (.aload 7, 2) := dk_25 7 (dk_at dksX6_goesOn_6 10 rfl rfl)
theorem dX6_goesOn_150 : decode cX6_goesOn 150 = .ok (.aload_n 0, 1) := dk_42 (dk_at dksX6_goesOn_6 12 rfl rfl)
theorem dX6_goesOn_151 : decode cX6_goesOn 151 = .ok (.getfield 39, 3) := dk_180 0 39 (dk_at dksX6_goesOn_6 13 rfl rfl)
theorem dX6_goesOn_154 : decode cX6_goesOn 154 = .ok (.getfield 253, 3) := dk_180 0 253 (dk_at dksX6_goesOn_6 16 rfl rfl)
theorem dX6_goesOn_157 : decode cX6_goesOn 157 = .ok (.putfield 228, 3) := dk_181 0 228 (dk_at dksX6_goesOn_6 19 rfl rfl)
theorem dX6_goesOn_160 : decode cX6_goesOn 160 = .ok (.goto (-34), 3) := dk_167 255 222 (dk_at dksX6_goesOn_7 0 rfl rfl)
theorem dX6_goesOn_163 : decode cX6_goesOn 163 = .ok (.return_, 1) := dk_177 (dk_at dksX6_goesOn_7 3 rfl rfl)
theorem q137 : (Jvm.Cond.initialized "Scrutineery$Event") ∈ lw_all := lw_g (lw_at lw_m1 27 rfl) rfl
theorem q500 : (Jvm.Cond.selects "Scrutineery$Event" ({ cls := "java/lang/Object", name := "equals", desc := "(Ljava/lang/Object;)Z" } : Jvm.MethodName) ({ cls := "java/lang/Object", name := "equals", desc := "(Ljava/lang/Object;)Z" } : Jvm.MethodName)) ∈ lw_all := lw_g (lw_at lw_m2 150 rfl) rfl
theorem q527 : (Jvm.Cond.instanceMethod ({ cls := "Scrutineery$Event", name := "valid", desc := "()I" } : Jvm.MethodName)) ∈ lw_all := lw_g (lw_at lw_m2 177 rfl) rfl
theorem q528 : (Jvm.Cond.selects "Scrutineery$Event" ({ cls := "Scrutineery$Event", name := "valid", desc := "()I" } : Jvm.MethodName) ({ cls := "Scrutineery$Event", name := "valid", desc := "()I" } : Jvm.MethodName)) ∈ lw_all := lw_g (lw_at lw_m2 178 rfl) rfl
theorem q529 : (Jvm.Cond.code ({ cls := "Scrutineery$Event", name := "valid", desc := "()I" } : Jvm.MethodName) prog_7_method_25_code (4 : Nat) (Option.some Jvm.ClassFile.FieldType.int)) ∈ lw_all := lw_g (lw_at lw_m2 179 rfl) rfl
theorem q530 : (Jvm.Cond.interfaceEntry "Scrutineery$Event" (108 : Nat)) ∈ lw_tbl := lw_at lw_m2 180 rfl
theorem q531 : (Jvm.Cond.methodLink "Scrutineery$Event" (108 : Nat) ({ cls := "java/util/List", name := "iterator", desc := "()Ljava/util/Iterator;" } : Jvm.MethodName)) ∈ lw_all := lw_g (lw_at lw_m2 181 rfl) rfl
theorem q532 : (Jvm.Cond.interfaceEntry "Scrutineery$Event" (112 : Nat)) ∈ lw_tbl := lw_at lw_m2 182 rfl
theorem q533 : (Jvm.Cond.methodLink "Scrutineery$Event" (112 : Nat) ({ cls := "java/util/Iterator", name := "hasNext", desc := "()Z" } : Jvm.MethodName)) ∈ lw_all := lw_g (lw_at lw_m2 183 rfl) rfl
theorem q534 : (Jvm.Cond.interfaceEntry "Scrutineery$Event" (117 : Nat)) ∈ lw_tbl := lw_at lw_m2 184 rfl
theorem q535 : (Jvm.Cond.methodLink "Scrutineery$Event" (117 : Nat) ({ cls := "java/util/Iterator", name := "next", desc := "()Ljava/lang/Object;" } : Jvm.MethodName)) ∈ lw_all := lw_g (lw_at lw_m2 185 rfl) rfl
theorem q536 : (Jvm.Cond.classLink "Scrutineery$Event" (121 : Nat) "Scrutineery$Entry") ∈ lw_all := lw_g (lw_at lw_m2 186 rfl) rfl
theorem q541 : (Jvm.Cond.instanceMethod ({ cls := "Scrutineery$Event", name := "allocated", desc := "(I)[I" } : Jvm.MethodName)) ∈ lw_all := lw_g (lw_at lw_m2 191 rfl) rfl
theorem q542 : (Jvm.Cond.selects "Scrutineery$Event" ({ cls := "Scrutineery$Event", name := "allocated", desc := "(I)[I" } : Jvm.MethodName) ({ cls := "Scrutineery$Event", name := "allocated", desc := "(I)[I" } : Jvm.MethodName)) ∈ lw_all := lw_g (lw_at lw_m2 192 rfl) rfl
theorem q543 : (Jvm.Cond.code ({ cls := "Scrutineery$Event", name := "allocated", desc := "(I)[I" } : Jvm.MethodName) prog_7_method_29_code (12 : Nat) (Option.some (Jvm.ClassFile.FieldType.array Jvm.ClassFile.FieldType.int))) ∈ lw_all := lw_g (lw_at lw_m2 193 rfl) rfl
theorem q544 : (Jvm.Cond.interfaceEntry "Scrutineery$Event" (76 : Nat)) ∈ lw_tbl := lw_at lw_m2 194 rfl
theorem q545 : (Jvm.Cond.methodLink "Scrutineery$Event" (76 : Nat) ({ cls := "java/util/List", name := "size", desc := "()I" } : Jvm.MethodName)) ∈ lw_all := lw_g (lw_at lw_m2 195 rfl) rfl
theorem q546 : (Jvm.Cond.classLink "Scrutineery$Event" (9 : Nat) "java/util/ArrayList") ∈ lw_all := lw_g (lw_at lw_m2 196 rfl) rfl
theorem q547 : (Jvm.Cond.methodLink "Scrutineery$Event" (11 : Nat) ({ cls := "java/util/ArrayList", name := "<init>", desc := "()V" } : Jvm.MethodName)) ∈ lw_all := lw_g (lw_at lw_m2 197 rfl) rfl
theorem q548 : (Jvm.Cond.interfaceEntry "Scrutineery$Event" (104 : Nat)) ∈ lw_tbl := lw_at lw_m2 198 rfl
theorem q549 : (Jvm.Cond.methodLink "Scrutineery$Event" (104 : Nat) ({ cls := "java/util/List", name := "get", desc := "(I)Ljava/lang/Object;" } : Jvm.MethodName)) ∈ lw_all := lw_g (lw_at lw_m2 199 rfl) rfl
theorem q550 : (Jvm.Cond.methodLink "Scrutineery$Event" (157 : Nat) ({ cls := "Scrutineery$Event", name := "count", desc := "(ILScrutineery$Entry;I)I" } : Jvm.MethodName)) ∈ lw_all := lw_g (lw_at lw_m2 200 rfl) rfl
theorem q551 : (Jvm.Cond.instanceMethod ({ cls := "Scrutineery$Event", name := "count", desc := "(ILScrutineery$Entry;I)I" } : Jvm.MethodName)) ∈ lw_all := lw_g (lw_at lw_m2 201 rfl) rfl
theorem q552 : (Jvm.Cond.selects "Scrutineery$Event" ({ cls := "Scrutineery$Event", name := "count", desc := "(ILScrutineery$Entry;I)I" } : Jvm.MethodName) ({ cls := "Scrutineery$Event", name := "count", desc := "(ILScrutineery$Entry;I)I" } : Jvm.MethodName)) ∈ lw_all := lw_g (lw_at lw_m2 202 rfl) rfl
theorem q553 : (Jvm.Cond.code ({ cls := "Scrutineery$Event", name := "count", desc := "(ILScrutineery$Entry;I)I" } : Jvm.MethodName) prog_7_method_11_code (6 : Nat) (Option.some Jvm.ClassFile.FieldType.int)) ∈ lw_all := lw_g (lw_at lw_m2 203 rfl) rfl
theorem q554 : (Jvm.Cond.methodLink "Scrutineery$Event" (145 : Nat) ({ cls := "Scrutineery$Event", name := "panel", desc := "(I)Ljava/util/List;" } : Jvm.MethodName)) ∈ lw_all := lw_g (lw_at lw_m2 204 rfl) rfl
theorem q555 : (Jvm.Cond.instanceMethod ({ cls := "Scrutineery$Event", name := "panel", desc := "(I)Ljava/util/List;" } : Jvm.MethodName)) ∈ lw_all := lw_g (lw_at lw_m2 205 rfl) rfl
theorem q556 : (Jvm.Cond.selects "Scrutineery$Event" ({ cls := "Scrutineery$Event", name := "panel", desc := "(I)Ljava/util/List;" } : Jvm.MethodName) ({ cls := "Scrutineery$Event", name := "panel", desc := "(I)Ljava/util/List;" } : Jvm.MethodName)) ∈ lw_all := lw_g (lw_at lw_m2 206 rfl) rfl
theorem q557 : (Jvm.Cond.code ({ cls := "Scrutineery$Event", name := "panel", desc := "(I)Ljava/util/List;" } : Jvm.MethodName) prog_7_method_6_code (2 : Nat) (Option.some (Jvm.ClassFile.FieldType.object "java/util/List"))) ∈ lw_all := lw_g (lw_at lw_m2 207 rfl) rfl
theorem q558 : (Jvm.Cond.classLink "Scrutineery$Event" (66 : Nat) "java/util/List") ∈ lw_all := lw_g (lw_at lw_m2 208 rfl) rfl
theorem q559 : (Jvm.Cond.methodLink "Scrutineery$Event" (153 : Nat) ({ cls := "Scrutineery$Round", name := "place", desc := "(IILScrutineery$Entry;)I" } : Jvm.MethodName)) ∈ lw_all := lw_g (lw_at lw_m2 209 rfl) rfl
theorem q581 : (Jvm.Cond.interfaceEntry "Scrutineery$Event" (65 : Nat)) ∈ lw_tbl := lw_at lw_m2 231 rfl
theorem q582 : (Jvm.Cond.methodLink "Scrutineery$Event" (65 : Nat) ({ cls := "java/util/List", name := "add", desc := "(Ljava/lang/Object;)Z" } : Jvm.MethodName)) ∈ lw_all := lw_g (lw_at lw_m2 232 rfl) rfl
theorem q624 : (Jvm.Cond.selects "Scrutineery$Event" ({ cls := "java/lang/Object", name := "getClass", desc := "()Ljava/lang/Class;" } : Jvm.MethodName) ({ cls := "java/lang/Object", name := "getClass", desc := "()Ljava/lang/Class;" } : Jvm.MethodName)) ∈ lw_all := lw_g (lw_at lw_m3 34 rfl) rfl
theorem q656 : (Jvm.Cond.interfaceEntry "Scrutineery$Event" (211 : Nat)) ∈ lw_tbl := lw_at lw_m3 66 rfl
theorem q657 : (Jvm.Cond.methodLink "Scrutineery$Event" (211 : Nat) ({ cls := "java/util/List", name := "isEmpty", desc := "()Z" } : Jvm.MethodName)) ∈ lw_all := lw_g (lw_at lw_m3 67 rfl) rfl
theorem q658 : (Jvm.Cond.privateMethod ({ cls := "Scrutineery$Event", name := "lambda$allocated$6", desc := "(IILScrutineery$Entry;)I" } : Jvm.MethodName)) ∈ lw_tbl := lw_at lw_m3 68 rfl
theorem q659 : (Jvm.Cond.instanceMethod ({ cls := "Scrutineery$Event", name := "lambda$allocated$6", desc := "(IILScrutineery$Entry;)I" } : Jvm.MethodName)) ∈ lw_all := lw_g (lw_at lw_m3 69 rfl) rfl
theorem q660 : (Jvm.Cond.code ({ cls := "Scrutineery$Event", name := "lambda$allocated$6", desc := "(IILScrutineery$Entry;)I" } : Jvm.MethodName) prog_7_method_32_code (4 : Nat) (Option.some Jvm.ClassFile.FieldType.int)) ∈ lw_all := lw_g (lw_at lw_m3 70 rfl) rfl
theorem q661 : (Jvm.Cond.methodLink "Scrutineery$Event" (203 : Nat) ({ cls := "Scrutineery$Event", name := "most", desc := "(Ljava/util/List;LScrutineery$Event$Measure;)Ljava/util/List;" } : Jvm.MethodName)) ∈ lw_all := lw_g (lw_at lw_m3 71 rfl) rfl
theorem q662 : (Jvm.Cond.static ({ cls := "Scrutineery$Event", name := "most", desc := "(Ljava/util/List;LScrutineery$Event$Measure;)Ljava/util/List;" } : Jvm.MethodName)) ∈ lw_all := lw_g (lw_at lw_m3 72 rfl) rfl
theorem q663 : (Jvm.Cond.code ({ cls := "Scrutineery$Event", name := "most", desc := "(Ljava/util/List;LScrutineery$Event$Measure;)Ljava/util/List;" } : Jvm.MethodName) prog_7_method_16_code (7 : Nat) (Option.some (Jvm.ClassFile.FieldType.object "java/util/List"))) ∈ lw_all := lw_g (lw_at lw_m3 73 rfl) rfl
theorem q664 : (Jvm.Cond.interfaceEntry "Scrutineery$Event" (190 : Nat)) ∈ lw_tbl := lw_at lw_m3 74 rfl
theorem q665 : (Jvm.Cond.methodLink "Scrutineery$Event" (190 : Nat) ({ cls := "Scrutineery$Event$Measure", name := "of", desc := "(LScrutineery$Entry;)I" } : Jvm.MethodName)) ∈ lw_all := lw_g (lw_at lw_m3 75 rfl) rfl
theorem q668 : (Jvm.Cond.methodLink "Scrutineery$Event" (99 : Nat) ({ cls := "java/lang/Math", name := "max", desc := "(II)I" } : Jvm.MethodName)) ∈ lw_all := lw_g (lw_at lw_m3 78 rfl) rfl
theorem q669 : (Jvm.Cond.privateMethod ({ cls := "Scrutineery$Event", name := "lambda$allocated$7", desc := "(IILScrutineery$Entry;)I" } : Jvm.MethodName)) ∈ lw_tbl := lw_at lw_m3 79 rfl
theorem q670 : (Jvm.Cond.instanceMethod ({ cls := "Scrutineery$Event", name := "lambda$allocated$7", desc := "(IILScrutineery$Entry;)I" } : Jvm.MethodName)) ∈ lw_all := lw_g (lw_at lw_m3 80 rfl) rfl
theorem q671 : (Jvm.Cond.code ({ cls := "Scrutineery$Event", name := "lambda$allocated$7", desc := "(IILScrutineery$Entry;)I" } : Jvm.MethodName) prog_7_method_31_code (4 : Nat) (Option.some Jvm.ClassFile.FieldType.int)) ∈ lw_all := lw_g (lw_at lw_m3 81 rfl) rfl
theorem q672 : (Jvm.Cond.methodLink "Scrutineery$Event" (170 : Nat) ({ cls := "Scrutineery$Event", name := "sum", desc := "(ILScrutineery$Entry;I)I" } : Jvm.MethodName)) ∈ lw_all := lw_g (lw_at lw_m3 82 rfl) rfl
theorem q673 : (Jvm.Cond.instanceMethod ({ cls := "Scrutineery$Event", name := "sum", desc := "(ILScrutineery$Entry;I)I" } : Jvm.MethodName)) ∈ lw_all := lw_g (lw_at lw_m3 83 rfl) rfl
theorem q674 : (Jvm.Cond.selects "Scrutineery$Event" ({ cls := "Scrutineery$Event", name := "sum", desc := "(ILScrutineery$Entry;I)I" } : Jvm.MethodName) ({ cls := "Scrutineery$Event", name := "sum", desc := "(ILScrutineery$Entry;I)I" } : Jvm.MethodName)) ∈ lw_all := lw_g (lw_at lw_m3 84 rfl) rfl
theorem q675 : (Jvm.Cond.code ({ cls := "Scrutineery$Event", name := "sum", desc := "(ILScrutineery$Entry;I)I" } : Jvm.MethodName) prog_7_method_12_code (7 : Nat) (Option.some Jvm.ClassFile.FieldType.int)) ∈ lw_all := lw_g (lw_at lw_m3 85 rfl) rfl
theorem q676 : (Jvm.Cond.interfaceEntry "Scrutineery$Event" (310 : Nat)) ∈ lw_tbl := lw_at lw_m3 86 rfl
theorem q677 : (Jvm.Cond.methodLink "Scrutineery$Event" (310 : Nat) ({ cls := "java/util/List", name := "indexOf", desc := "(Ljava/lang/Object;)I" } : Jvm.MethodName)) ∈ lw_all := lw_g (lw_at lw_m3 87 rfl) rfl
theorem q678 : (Jvm.Cond.static ({ cls := "Scrutineery$Event", name := "lambda$allocated$8", desc := "(Ljava/util/List;LScrutineery$Entry;)Z" } : Jvm.MethodName)) ∈ lw_all := lw_g (lw_at lw_m3 88 rfl) rfl
theorem q679 : (Jvm.Cond.code ({ cls := "Scrutineery$Event", name := "lambda$allocated$8", desc := "(Ljava/util/List;LScrutineery$Entry;)Z" } : Jvm.MethodName) prog_7_method_30_code (2 : Nat) (Option.some Jvm.ClassFile.FieldType.boolean)) ∈ lw_all := lw_g (lw_at lw_m3 89 rfl) rfl
theorem q680 : (Jvm.Cond.interfaceEntry "Scrutineery$Event" (225 : Nat)) ∈ lw_tbl := lw_at lw_m3 90 rfl
theorem q681 : (Jvm.Cond.methodLink "Scrutineery$Event" (225 : Nat) ({ cls := "java/util/List", name := "contains", desc := "(Ljava/lang/Object;)Z" } : Jvm.MethodName)) ∈ lw_all := lw_g (lw_at lw_m3 91 rfl) rfl
theorem q690 : (Jvm.Cond.interfaceEntry "Scrutineery$Event" (249 : Nat)) ∈ lw_tbl := lw_at lw_m3 100 rfl
theorem q810 : (Jvm.Cond.fieldLinkNest "Scrutineery$Event" (268 : Nat) "Scrutineery$Person" "points" "[I" "Scrutineery") ∈ lw_tbl := lw_at lw_m3 220 rfl
theorem q1012 : (Jvm.Cond.fieldLinkNest "Scrutineery$Event" (264 : Nat) "Scrutineery$Couple" "one" "LScrutineery$Person;" "Scrutineery") ∈ lw_tbl := lw_at lw_m4 182 rfl
theorem q1015 : (Jvm.Cond.fieldLinkNest "Scrutineery$Event" (273 : Nat) "Scrutineery$Couple" "other" "LScrutineery$Person;" "Scrutineery") ∈ lw_tbl := lw_at lw_m4 185 rfl
theorem q1017 : (Jvm.Cond.fieldLinkNest "Scrutineery$Event" (276 : Nat) "Scrutineery$Couple" "scores" "Ljava/util/List;" "Scrutineery") ∈ lw_tbl := lw_at lw_m4 187 rfl
theorem q1045 : (Jvm.Cond.instantiable "Scrutineery$Event" (19 : Nat)) ∈ lw_all := lw_g (lw_at lw_m4 215 rfl) rfl
theorem q1047 : (Jvm.Cond.instanceMethod ({ cls := "Scrutineery$Event", name := "<init>", desc := "(IIIIIIZ)V" } : Jvm.MethodName)) ∈ lw_all := lw_g (lw_at lw_m4 217 rfl) rfl
theorem q1048 : (Jvm.Cond.code ({ cls := "Scrutineery$Event", name := "<init>", desc := "(IIIIIIZ)V" } : Jvm.MethodName) prog_7_method_1_code (9 : Nat) (Option.none : Option Jvm.ClassFile.FieldType)) ∈ lw_all := lw_g (lw_at lw_m4 218 rfl) rfl
theorem q1049 : (Jvm.Cond.methodLink "Scrutineery$Event" (3 : Nat) ({ cls := "java/lang/Object", name := "<init>", desc := "()V" } : Jvm.MethodName)) ∈ lw_all := lw_g (lw_at lw_m4 219 rfl) rfl
theorem q1050 : (Jvm.Cond.classLink "Scrutineery$Event" (34 : Nat) "Scrutineery$Round") ∈ lw_all := lw_g (lw_at lw_m4 220 rfl) rfl
theorem q1052 : (Jvm.Cond.methodLink "Scrutineery$Event" (36 : Nat) ({ cls := "Scrutineery$Round", name := "<init>", desc := "(IILjava/util/List;Ljava/util/List;)V" } : Jvm.MethodName)) ∈ lw_all := lw_g (lw_at lw_m4 222 rfl) rfl
theorem q1061 : (Jvm.Cond.fieldLinkNest "Scrutineery$Event" (253 : Nat) "Scrutineery$Round" "number" "I" "Scrutineery") ∈ lw_tbl := lw_at lw_m4 231 rfl
theorem q1064 : (Jvm.Cond.fieldLinkNest "Scrutineery$Event" (92 : Nat) "Scrutineery$Round" "redances" "I" "Scrutineery") ∈ lw_tbl := lw_at lw_m4 234 rfl
theorem q1067 : (Jvm.Cond.fieldLinkNest "Scrutineery$Event" (75 : Nat) "Scrutineery$Round" "entries" "Ljava/util/List;" "Scrutineery") ∈ lw_tbl := lw_at lw_m4 237 rfl
theorem q1070 : (Jvm.Cond.fieldLinkNest "Scrutineery$Event" (299 : Nat) "Scrutineery$Round" "safe" "Ljava/util/List;" "Scrutineery") ∈ lw_tbl := lw_at lw_m5 0 rfl
theorem q1072 : (Jvm.Cond.fieldLinkNest "Scrutineery$Event" (149 : Nat) "Scrutineery$Round" "marks" "[[LScrutineery$Marks;" "Scrutineery") ∈ lw_tbl := lw_at lw_m5 2 rfl
theorem q1085 : (Jvm.Cond.fieldLink "Scrutineery$Event" (43 : Nat) "Scrutineery$Event" "number" "I") ∈ lw_all := lw_g (lw_at lw_m5 15 rfl) rfl
theorem q1087 : (Jvm.Cond.fieldLink "Scrutineery$Event" (46 : Nat) "Scrutineery$Event" "style" "I") ∈ lw_all := lw_g (lw_at lw_m5 17 rfl) rfl
theorem q1089 : (Jvm.Cond.fieldLink "Scrutineery$Event" (49 : Nat) "Scrutineery$Event" "dances" "I") ∈ lw_all := lw_g (lw_at lw_m5 19 rfl) rfl
theorem q1091 : (Jvm.Cond.fieldLink "Scrutineery$Event" (52 : Nat) "Scrutineery$Event" "from" "I") ∈ lw_all := lw_g (lw_at lw_m5 21 rfl) rfl
theorem q1093 : (Jvm.Cond.fieldLink "Scrutineery$Event" (55 : Nat) "Scrutineery$Event" "to" "I") ∈ lw_all := lw_g (lw_at lw_m5 23 rfl) rfl
theorem q1095 : (Jvm.Cond.fieldLink "Scrutineery$Event" (58 : Nat) "Scrutineery$Event" "grade" "I") ∈ lw_all := lw_g (lw_at lw_m5 25 rfl) rfl
theorem q1097 : (Jvm.Cond.fieldLink "Scrutineery$Event" (61 : Nat) "Scrutineery$Event" "isProfessional" "Z") ∈ lw_all := lw_g (lw_at lw_m5 27 rfl) rfl
theorem q1099 : (Jvm.Cond.fieldLink "Scrutineery$Event" (12 : Nat) "Scrutineery$Event" "entries" "Ljava/util/List;") ∈ lw_all := lw_g (lw_at lw_m5 29 rfl) rfl
theorem q1101 : (Jvm.Cond.fieldLink "Scrutineery$Event" (18 : Nat) "Scrutineery$Event" "panels" "Ljava/util/List;") ∈ lw_all := lw_g (lw_at lw_m5 31 rfl) rfl
theorem q1103 : (Jvm.Cond.fieldLink "Scrutineery$Event" (21 : Nat) "Scrutineery$Event" "apart" "Ljava/util/List;") ∈ lw_all := lw_g (lw_at lw_m5 33 rfl) rfl
theorem q1105 : (Jvm.Cond.fieldLink "Scrutineery$Event" (24 : Nat) "Scrutineery$Event" "floor" "I") ∈ lw_all := lw_g (lw_at lw_m5 35 rfl) rfl
theorem q1107 : (Jvm.Cond.fieldLink "Scrutineery$Event" (28 : Nat) "Scrutineery$Event" "finalists" "I") ∈ lw_all := lw_g (lw_at lw_m5 37 rfl) rfl
theorem q1110 : (Jvm.Cond.fieldLink "Scrutineery$Event" (31 : Nat) "Scrutineery$Event" "strength" "I") ∈ lw_all := lw_g (lw_at lw_m5 40 rfl) rfl
theorem q1113 : (Jvm.Cond.fieldLink "Scrutineery$Event" (86 : Nat) "Scrutineery$Event" "hasBegun" "Z") ∈ lw_all := lw_g (lw_at lw_m5 43 rfl) rfl
theorem q1115 : (Jvm.Cond.fieldLink "Scrutineery$Event" (83 : Nat) "Scrutineery$Event" "isDecided" "Z") ∈ lw_all := lw_g (lw_at lw_m5 45 rfl) rfl
theorem q1117 : (Jvm.Cond.fieldLink "Scrutineery$Event" (80 : Nat) "Scrutineery$Event" "hasEnded" "Z") ∈ lw_all := lw_g (lw_at lw_m5 47 rfl) rfl
theorem q1118 : (Jvm.Cond.fieldLink "Scrutineery$Event" (39 : Nat) "Scrutineery$Event" "round" "LScrutineery$Round;") ∈ lw_all := lw_g (lw_at lw_m5 48 rfl) rfl
theorem q1120 : (Jvm.Cond.laysFinal "Scrutineery$Event" "Scrutineery$Event" "number" "I") ∈ lw_all := lw_g (lw_at lw_m5 50 rfl) rfl
theorem q1121 : (Jvm.Cond.soleField "Scrutineery$Event" "number") ∈ lw_all := lw_g (lw_at lw_m5 51 rfl) rfl
theorem q1122 : (Jvm.Cond.laysFinal "Scrutineery$Event" "Scrutineery$Event" "style" "I") ∈ lw_all := lw_g (lw_at lw_m5 52 rfl) rfl
theorem q1123 : (Jvm.Cond.soleField "Scrutineery$Event" "style") ∈ lw_all := lw_g (lw_at lw_m5 53 rfl) rfl
theorem q1124 : (Jvm.Cond.laysFinal "Scrutineery$Event" "Scrutineery$Event" "dances" "I") ∈ lw_all := lw_g (lw_at lw_m5 54 rfl) rfl
theorem q1125 : (Jvm.Cond.soleField "Scrutineery$Event" "dances") ∈ lw_all := lw_g (lw_at lw_m5 55 rfl) rfl
theorem q1126 : (Jvm.Cond.laysFinal "Scrutineery$Event" "Scrutineery$Event" "from" "I") ∈ lw_all := lw_g (lw_at lw_m5 56 rfl) rfl
theorem q1127 : (Jvm.Cond.soleField "Scrutineery$Event" "from") ∈ lw_all := lw_g (lw_at lw_m5 57 rfl) rfl
theorem q1128 : (Jvm.Cond.laysFinal "Scrutineery$Event" "Scrutineery$Event" "to" "I") ∈ lw_all := lw_g (lw_at lw_m5 58 rfl) rfl
theorem q1129 : (Jvm.Cond.soleField "Scrutineery$Event" "to") ∈ lw_all := lw_g (lw_at lw_m5 59 rfl) rfl
theorem q1130 : (Jvm.Cond.laysFinal "Scrutineery$Event" "Scrutineery$Event" "grade" "I") ∈ lw_all := lw_g (lw_at lw_m5 60 rfl) rfl
theorem q1131 : (Jvm.Cond.soleField "Scrutineery$Event" "grade") ∈ lw_all := lw_g (lw_at lw_m5 61 rfl) rfl
theorem q1132 : (Jvm.Cond.laysFinal "Scrutineery$Event" "Scrutineery$Event" "isProfessional" "Z") ∈ lw_all := lw_g (lw_at lw_m5 62 rfl) rfl
theorem q1133 : (Jvm.Cond.soleField "Scrutineery$Event" "isProfessional") ∈ lw_all := lw_g (lw_at lw_m5 63 rfl) rfl
theorem q1134 : (Jvm.Cond.laysFinal "Scrutineery$Event" "Scrutineery$Event" "entries" "Ljava/util/List;") ∈ lw_all := lw_g (lw_at lw_m5 64 rfl) rfl
theorem q1135 : (Jvm.Cond.soleField "Scrutineery$Event" "entries") ∈ lw_all := lw_g (lw_at lw_m5 65 rfl) rfl
theorem q1136 : (Jvm.Cond.laysFinal "Scrutineery$Event" "Scrutineery$Event" "panels" "Ljava/util/List;") ∈ lw_all := lw_g (lw_at lw_m5 66 rfl) rfl
theorem q1137 : (Jvm.Cond.soleField "Scrutineery$Event" "panels") ∈ lw_all := lw_g (lw_at lw_m5 67 rfl) rfl
theorem q1138 : (Jvm.Cond.laysFinal "Scrutineery$Event" "Scrutineery$Event" "apart" "Ljava/util/List;") ∈ lw_all := lw_g (lw_at lw_m5 68 rfl) rfl
theorem q1139 : (Jvm.Cond.soleField "Scrutineery$Event" "apart") ∈ lw_all := lw_g (lw_at lw_m5 69 rfl) rfl
theorem q1140 : (Jvm.Cond.lays "Scrutineery$Event" "Scrutineery$Event" "floor" "I") ∈ lw_all := lw_g (lw_at lw_m5 70 rfl) rfl
theorem q1141 : (Jvm.Cond.soleField "Scrutineery$Event" "floor") ∈ lw_all := lw_g (lw_at lw_m5 71 rfl) rfl
theorem q1142 : (Jvm.Cond.lays "Scrutineery$Event" "Scrutineery$Event" "finalists" "I") ∈ lw_all := lw_g (lw_at lw_m5 72 rfl) rfl
theorem q1143 : (Jvm.Cond.soleField "Scrutineery$Event" "finalists") ∈ lw_all := lw_g (lw_at lw_m5 73 rfl) rfl
theorem q1144 : (Jvm.Cond.lays "Scrutineery$Event" "Scrutineery$Event" "fee" "I") ∈ lw_all := lw_g (lw_at lw_m5 74 rfl) rfl
theorem q1145 : (Jvm.Cond.soleField "Scrutineery$Event" "fee") ∈ lw_all := lw_g (lw_at lw_m5 75 rfl) rfl
theorem q1146 : (Jvm.Cond.lays "Scrutineery$Event" "Scrutineery$Event" "strength" "I") ∈ lw_all := lw_g (lw_at lw_m5 76 rfl) rfl
theorem q1147 : (Jvm.Cond.soleField "Scrutineery$Event" "strength") ∈ lw_all := lw_g (lw_at lw_m5 77 rfl) rfl
theorem q1148 : (Jvm.Cond.lays "Scrutineery$Event" "Scrutineery$Event" "changes" "I") ∈ lw_all := lw_g (lw_at lw_m5 78 rfl) rfl
theorem q1149 : (Jvm.Cond.soleField "Scrutineery$Event" "changes") ∈ lw_all := lw_g (lw_at lw_m5 79 rfl) rfl
theorem q1150 : (Jvm.Cond.lays "Scrutineery$Event" "Scrutineery$Event" "hasBegun" "Z") ∈ lw_all := lw_g (lw_at lw_m5 80 rfl) rfl
theorem q1151 : (Jvm.Cond.soleField "Scrutineery$Event" "hasBegun") ∈ lw_all := lw_g (lw_at lw_m5 81 rfl) rfl
theorem q1152 : (Jvm.Cond.lays "Scrutineery$Event" "Scrutineery$Event" "isDecided" "Z") ∈ lw_all := lw_g (lw_at lw_m5 82 rfl) rfl
theorem q1153 : (Jvm.Cond.soleField "Scrutineery$Event" "isDecided") ∈ lw_all := lw_g (lw_at lw_m5 83 rfl) rfl
theorem q1154 : (Jvm.Cond.lays "Scrutineery$Event" "Scrutineery$Event" "hasEnded" "Z") ∈ lw_all := lw_g (lw_at lw_m5 84 rfl) rfl
theorem q1155 : (Jvm.Cond.soleField "Scrutineery$Event" "hasEnded") ∈ lw_all := lw_g (lw_at lw_m5 85 rfl) rfl
theorem q1156 : (Jvm.Cond.lays "Scrutineery$Event" "Scrutineery$Event" "round" "LScrutineery$Round;") ∈ lw_all := lw_g (lw_at lw_m5 86 rfl) rfl
theorem q1157 : (Jvm.Cond.soleField "Scrutineery$Event" "round") ∈ lw_all := lw_g (lw_at lw_m5 87 rfl) rfl
theorem q1158 : (Jvm.Cond.superclass "Scrutineery$Event" "java/lang/Object") ∈ lw_all := lw_g (lw_at lw_m5 88 rfl) rfl
theorem q1178 : (Jvm.Cond.instanceMethod ({ cls := "Scrutineery$Event", name := "state", desc := "()I" } : Jvm.MethodName)) ∈ lw_all := lw_g (lw_at lw_m5 108 rfl) rfl
theorem q1179 : (Jvm.Cond.selects "Scrutineery$Event" ({ cls := "Scrutineery$Event", name := "state", desc := "()I" } : Jvm.MethodName) ({ cls := "Scrutineery$Event", name := "state", desc := "()I" } : Jvm.MethodName)) ∈ lw_all := lw_g (lw_at lw_m5 109 rfl) rfl
theorem q1180 : (Jvm.Cond.code ({ cls := "Scrutineery$Event", name := "state", desc := "()I" } : Jvm.MethodName) prog_7_method_3_code (1 : Nat) (Option.some Jvm.ClassFile.FieldType.int)) ∈ lw_all := lw_g (lw_at lw_m5 110 rfl) rfl
theorem q1181 : (Jvm.Cond.methodLink "Scrutineery$Event" (71 : Nat) ({ cls := "Scrutineery$Round", name := "isRedance", desc := "()Z" } : Jvm.MethodName)) ∈ lw_all := lw_g (lw_at lw_m5 111 rfl) rfl
theorem q1185 : (Jvm.Cond.methodLink "Scrutineery$Event" (89 : Nat) ({ cls := "Scrutineery$Event", name := "isFinal", desc := "()Z" } : Jvm.MethodName)) ∈ lw_all := lw_g (lw_at lw_m5 115 rfl) rfl
theorem q1186 : (Jvm.Cond.instanceMethod ({ cls := "Scrutineery$Event", name := "isFinal", desc := "()Z" } : Jvm.MethodName)) ∈ lw_all := lw_g (lw_at lw_m5 116 rfl) rfl
theorem q1187 : (Jvm.Cond.selects "Scrutineery$Event" ({ cls := "Scrutineery$Event", name := "isFinal", desc := "()Z" } : Jvm.MethodName) ({ cls := "Scrutineery$Event", name := "isFinal", desc := "()Z" } : Jvm.MethodName)) ∈ lw_all := lw_g (lw_at lw_m5 117 rfl) rfl
theorem q1188 : (Jvm.Cond.code ({ cls := "Scrutineery$Event", name := "isFinal", desc := "()Z" } : Jvm.MethodName) prog_7_method_2_code (1 : Nat) (Option.some Jvm.ClassFile.FieldType.boolean)) ∈ lw_all := lw_g (lw_at lw_m5 118 rfl) rfl
theorem q1212 : (Jvm.Cond.instanceMethod ({ cls := "Scrutineery$Event", name := "hasIn", desc := "(LScrutineery$Person;)Z" } : Jvm.MethodName)) ∈ lw_all := lw_g (lw_at lw_m5 142 rfl) rfl
theorem q1213 : (Jvm.Cond.selects "Scrutineery$Event" ({ cls := "Scrutineery$Event", name := "hasIn", desc := "(LScrutineery$Person;)Z" } : Jvm.MethodName) ({ cls := "Scrutineery$Event", name := "hasIn", desc := "(LScrutineery$Person;)Z" } : Jvm.MethodName)) ∈ lw_all := lw_g (lw_at lw_m5 143 rfl) rfl
theorem q1214 : (Jvm.Cond.code ({ cls := "Scrutineery$Event", name := "hasIn", desc := "(LScrutineery$Person;)Z" } : Jvm.MethodName) prog_7_method_7_code (5 : Nat) (Option.some Jvm.ClassFile.FieldType.boolean)) ∈ lw_all := lw_g (lw_at lw_m5 144 rfl) rfl
theorem q1215 : (Jvm.Cond.methodLink "Scrutineery$Event" (130 : Nat) ({ cls := "Scrutineery$Couple", name := "has", desc := "(LScrutineery$Person;)Z" } : Jvm.MethodName)) ∈ lw_all := lw_g (lw_at lw_m5 145 rfl) rfl
theorem q1252 : (Jvm.Cond.fieldLinkNest "Scrutineery$Event" (126 : Nat) "Scrutineery$Entry" "couple" "LScrutineery$Couple;" "Scrutineery") ∈ lw_tbl := lw_at lw_m5 182 rfl
theorem q1257 : (Jvm.Cond.fieldLinkNest "Scrutineery$Event" (183 : Nat) "Scrutineery$Entry" "doubled" "[I" "Scrutineery") ∈ lw_tbl := lw_at lw_m5 187 rfl
theorem q1260 : (Jvm.Cond.fieldLinkNest "Scrutineery$Event" (187 : Nat) "Scrutineery$Entry" "rules" "[I" "Scrutineery") ∈ lw_tbl := lw_at lw_m5 190 rfl
theorem q1262 : (Jvm.Cond.fieldLinkNest "Scrutineery$Event" (123 : Nat) "Scrutineery$Entry" "isScratched" "Z" "Scrutineery") ∈ lw_tbl := lw_at lw_m5 192 rfl
theorem q1264 : (Jvm.Cond.fieldLinkNest "Scrutineery$Event" (228 : Nat) "Scrutineery$Entry" "lastRound" "I" "Scrutineery") ∈ lw_tbl := lw_at lw_m5 194 rfl
theorem q1266 : (Jvm.Cond.fieldLinkNest "Scrutineery$Event" (220 : Nat) "Scrutineery$Entry" "result" "I" "Scrutineery") ∈ lw_tbl := lw_at lw_m5 196 rfl
theorem q1268 : (Jvm.Cond.fieldLinkNest "Scrutineery$Event" (235 : Nat) "Scrutineery$Entry" "total" "I" "Scrutineery") ∈ lw_tbl := lw_at lw_m5 198 rfl
theorem q1270 : (Jvm.Cond.fieldLinkNest "Scrutineery$Event" (223 : Nat) "Scrutineery$Entry" "rule" "I" "Scrutineery") ∈ lw_tbl := lw_at lw_m5 200 rfl
theorem q1326 : (Jvm.Cond.instanceMethod ({ cls := "Scrutineery$Event", name := "heats", desc := "()Ljava/util/List;" } : Jvm.MethodName)) ∈ lw_all := lw_g (lw_at lw_m6 16 rfl) rfl
theorem q1327 : (Jvm.Cond.selects "Scrutineery$Event" ({ cls := "Scrutineery$Event", name := "heats", desc := "()Ljava/util/List;" } : Jvm.MethodName) ({ cls := "Scrutineery$Event", name := "heats", desc := "()Ljava/util/List;" } : Jvm.MethodName)) ∈ lw_all := lw_g (lw_at lw_m6 17 rfl) rfl
theorem q1328 : (Jvm.Cond.code ({ cls := "Scrutineery$Event", name := "heats", desc := "()Ljava/util/List;" } : Jvm.MethodName) prog_7_method_9_code (12 : Nat) (Option.some (Jvm.ClassFile.FieldType.object "java/util/List"))) ∈ lw_all := lw_g (lw_at lw_m6 18 rfl) rfl
theorem q1329 : (Jvm.Cond.methodLinkNest "Scrutineery$Event" (95 : Nat) ({ cls := "Scrutineery", name := "up", desc := "(II)I" } : Jvm.MethodName) "Scrutineery") ∈ lw_tbl := lw_at lw_m6 19 rfl
theorem q1332 : (Jvm.Cond.methodLink "Scrutineery$Event" (142 : Nat) ({ cls := "Scrutineery$Event", name := "areApart", desc := "(LScrutineery$Entry;LScrutineery$Entry;)Z" } : Jvm.MethodName)) ∈ lw_all := lw_g (lw_at lw_m6 22 rfl) rfl
theorem q1333 : (Jvm.Cond.instanceMethod ({ cls := "Scrutineery$Event", name := "areApart", desc := "(LScrutineery$Entry;LScrutineery$Entry;)Z" } : Jvm.MethodName)) ∈ lw_all := lw_g (lw_at lw_m6 23 rfl) rfl
theorem q1334 : (Jvm.Cond.selects "Scrutineery$Event" ({ cls := "Scrutineery$Event", name := "areApart", desc := "(LScrutineery$Entry;LScrutineery$Entry;)Z" } : Jvm.MethodName) ({ cls := "Scrutineery$Event", name := "areApart", desc := "(LScrutineery$Entry;LScrutineery$Entry;)Z" } : Jvm.MethodName)) ∈ lw_all := lw_g (lw_at lw_m6 24 rfl) rfl
theorem q1335 : (Jvm.Cond.code ({ cls := "Scrutineery$Event", name := "areApart", desc := "(LScrutineery$Entry;LScrutineery$Entry;)Z" } : Jvm.MethodName) prog_7_method_8_code (5 : Nat) (Option.some Jvm.ClassFile.FieldType.boolean)) ∈ lw_all := lw_g (lw_at lw_m6 25 rfl) rfl
theorem q1336 : (Jvm.Cond.classLink "Scrutineery$Event" (136 : Nat) "Scrutineery$Apart") ∈ lw_all := lw_g (lw_at lw_m6 26 rfl) rfl
theorem q1337 : (Jvm.Cond.methodLink "Scrutineery$Event" (138 : Nat) ({ cls := "Scrutineery$Apart", name := "are", desc := "(LScrutineery$Entry;LScrutineery$Entry;)Z" } : Jvm.MethodName)) ∈ lw_all := lw_g (lw_at lw_m6 27 rfl) rfl
theorem q1407 : (Jvm.Cond.instanceMethod ({ cls := "Scrutineery$Event", name := "wanted", desc := "()I" } : Jvm.MethodName)) ∈ lw_all := lw_g (lw_at lw_m6 97 rfl) rfl
theorem q1408 : (Jvm.Cond.selects "Scrutineery$Event" ({ cls := "Scrutineery$Event", name := "wanted", desc := "()I" } : Jvm.MethodName) ({ cls := "Scrutineery$Event", name := "wanted", desc := "()I" } : Jvm.MethodName)) ∈ lw_all := lw_g (lw_at lw_m6 98 rfl) rfl
theorem q1409 : (Jvm.Cond.code ({ cls := "Scrutineery$Event", name := "wanted", desc := "()I" } : Jvm.MethodName) prog_7_method_5_code (1 : Nat) (Option.some Jvm.ClassFile.FieldType.int)) ∈ lw_all := lw_g (lw_at lw_m6 99 rfl) rfl
theorem q1421 : (Jvm.Cond.instanceMethod ({ cls := "Scrutineery$Event", name := "isOver", desc := "()Z" } : Jvm.MethodName)) ∈ lw_all := lw_g (lw_at lw_m6 111 rfl) rfl
theorem q1422 : (Jvm.Cond.selects "Scrutineery$Event" ({ cls := "Scrutineery$Event", name := "isOver", desc := "()Z" } : Jvm.MethodName) ({ cls := "Scrutineery$Event", name := "isOver", desc := "()Z" } : Jvm.MethodName)) ∈ lw_all := lw_g (lw_at lw_m6 112 rfl) rfl
theorem q1423 : (Jvm.Cond.code ({ cls := "Scrutineery$Event", name := "isOver", desc := "()Z" } : Jvm.MethodName) prog_7_method_4_code (1 : Nat) (Option.some Jvm.ClassFile.FieldType.boolean)) ∈ lw_all := lw_g (lw_at lw_m6 113 rfl) rfl
theorem q1425 : (Jvm.Cond.instanceMethod ({ cls := "Scrutineery$Event", name := "missing", desc := "()I" } : Jvm.MethodName)) ∈ lw_all := lw_g (lw_at lw_m6 115 rfl) rfl
theorem q1426 : (Jvm.Cond.selects "Scrutineery$Event" ({ cls := "Scrutineery$Event", name := "missing", desc := "()I" } : Jvm.MethodName) ({ cls := "Scrutineery$Event", name := "missing", desc := "()I" } : Jvm.MethodName)) ∈ lw_all := lw_g (lw_at lw_m6 116 rfl) rfl
theorem q1427 : (Jvm.Cond.code ({ cls := "Scrutineery$Event", name := "missing", desc := "()I" } : Jvm.MethodName) prog_7_method_10_code (4 : Nat) (Option.some Jvm.ClassFile.FieldType.int)) ∈ lw_all := lw_g (lw_at lw_m6 117 rfl) rfl
theorem q1714 : (Jvm.Cond.instanceMethod ({ cls := "Scrutineery$Event", name := "decides", desc := "()V" } : Jvm.MethodName)) ∈ lw_all := lw_g (lw_at lw_m7 164 rfl) rfl
theorem q1715 : (Jvm.Cond.selects "Scrutineery$Event" ({ cls := "Scrutineery$Event", name := "decides", desc := "()V" } : Jvm.MethodName) ({ cls := "Scrutineery$Event", name := "decides", desc := "()V" } : Jvm.MethodName)) ∈ lw_all := lw_g (lw_at lw_m7 165 rfl) rfl
theorem q1716 : (Jvm.Cond.code ({ cls := "Scrutineery$Event", name := "decides", desc := "()V" } : Jvm.MethodName) prog_7_method_26_code (7 : Nat) (Option.none : Option Jvm.ClassFile.FieldType)) ∈ lw_all := lw_g (lw_at lw_m7 166 rfl) rfl
theorem q1717 : (Jvm.Cond.methodLink "Scrutineery$Event" (231 : Nat) ({ cls := "Scrutineery$Event", name := "places", desc := "(I)V" } : Jvm.MethodName)) ∈ lw_all := lw_g (lw_at lw_m7 167 rfl) rfl
theorem q1718 : (Jvm.Cond.instanceMethod ({ cls := "Scrutineery$Event", name := "places", desc := "(I)V" } : Jvm.MethodName)) ∈ lw_all := lw_g (lw_at lw_m7 168 rfl) rfl
theorem q1719 : (Jvm.Cond.selects "Scrutineery$Event" ({ cls := "Scrutineery$Event", name := "places", desc := "(I)V" } : Jvm.MethodName) ({ cls := "Scrutineery$Event", name := "places", desc := "(I)V" } : Jvm.MethodName)) ∈ lw_all := lw_g (lw_at lw_m7 169 rfl) rfl
theorem q1720 : (Jvm.Cond.code ({ cls := "Scrutineery$Event", name := "places", desc := "(I)V" } : Jvm.MethodName) prog_7_method_15_code (10 : Nat) (Option.none : Option Jvm.ClassFile.FieldType)) ∈ lw_all := lw_g (lw_at lw_m7 170 rfl) rfl
theorem q1721 : (Jvm.Cond.methodLink "Scrutineery$Event" (173 : Nat) ({ cls := "Scrutineery$Event", name := "duel", desc := "(ILScrutineery$Entry;LScrutineery$Entry;)LScrutineery$Duel;" } : Jvm.MethodName)) ∈ lw_all := lw_g (lw_at lw_m7 171 rfl) rfl
theorem q1722 : (Jvm.Cond.instanceMethod ({ cls := "Scrutineery$Event", name := "duel", desc := "(ILScrutineery$Entry;LScrutineery$Entry;)LScrutineery$Duel;" } : Jvm.MethodName)) ∈ lw_all := lw_g (lw_at lw_m7 172 rfl) rfl
theorem q1723 : (Jvm.Cond.selects "Scrutineery$Event" ({ cls := "Scrutineery$Event", name := "duel", desc := "(ILScrutineery$Entry;LScrutineery$Entry;)LScrutineery$Duel;" } : Jvm.MethodName) ({ cls := "Scrutineery$Event", name := "duel", desc := "(ILScrutineery$Entry;LScrutineery$Entry;)LScrutineery$Duel;" } : Jvm.MethodName)) ∈ lw_all := lw_g (lw_at lw_m7 173 rfl) rfl
theorem q1724 : (Jvm.Cond.code ({ cls := "Scrutineery$Event", name := "duel", desc := "(ILScrutineery$Entry;LScrutineery$Entry;)LScrutineery$Duel;" } : Jvm.MethodName) prog_7_method_14_code (6 : Nat) (Option.some (Jvm.ClassFile.FieldType.object "Scrutineery$Duel"))) ∈ lw_all := lw_g (lw_at lw_m7 174 rfl) rfl
theorem q1725 : (Jvm.Cond.methodLink "Scrutineery$Event" (161 : Nat) ({ cls := "Scrutineery$Event", name := "first", desc := "(ILScrutineery$Entry;)I" } : Jvm.MethodName)) ∈ lw_all := lw_g (lw_at lw_m7 175 rfl) rfl
theorem q1726 : (Jvm.Cond.instanceMethod ({ cls := "Scrutineery$Event", name := "first", desc := "(ILScrutineery$Entry;)I" } : Jvm.MethodName)) ∈ lw_all := lw_g (lw_at lw_m7 176 rfl) rfl
theorem q1727 : (Jvm.Cond.selects "Scrutineery$Event" ({ cls := "Scrutineery$Event", name := "first", desc := "(ILScrutineery$Entry;)I" } : Jvm.MethodName) ({ cls := "Scrutineery$Event", name := "first", desc := "(ILScrutineery$Entry;)I" } : Jvm.MethodName)) ∈ lw_all := lw_g (lw_at lw_m7 177 rfl) rfl
theorem q1728 : (Jvm.Cond.code ({ cls := "Scrutineery$Event", name := "first", desc := "(ILScrutineery$Entry;)I" } : Jvm.MethodName) prog_7_method_13_code (4 : Nat) (Option.some Jvm.ClassFile.FieldType.int)) ∈ lw_all := lw_g (lw_at lw_m7 178 rfl) rfl
theorem q1729 : (Jvm.Cond.classLink "Scrutineery$Event" (165 : Nat) "Scrutineery$Duel") ∈ lw_all := lw_g (lw_at lw_m7 179 rfl) rfl
theorem q1731 : (Jvm.Cond.methodLinkNest "Scrutineery$Event" (167 : Nat) ({ cls := "Scrutineery$Duel", name := "<init>", desc := "(II)V" } : Jvm.MethodName) "Scrutineery") ∈ lw_tbl := lw_at lw_m7 181 rfl
theorem q1742 : (Jvm.Cond.methodLink "Scrutineery$Event" (177 : Nat) ({ cls := "Scrutineery$Duel", name := "sign", desc := "()I" } : Jvm.MethodName)) ∈ lw_all := lw_g (lw_at lw_m7 192 rfl) rfl
theorem q1746 : (Jvm.Cond.methodLink "Scrutineery$Event" (180 : Nat) ({ cls := "Scrutineery$Duel", name := "rule", desc := "()I" } : Jvm.MethodName)) ∈ lw_all := lw_g (lw_at lw_m7 196 rfl) rfl
theorem q1750 : (Jvm.Cond.methodLink "Scrutineery$Event" (208 : Nat) ({ cls := "java/util/ArrayList", name := "<init>", desc := "(Ljava/util/Collection;)V" } : Jvm.MethodName)) ∈ lw_all := lw_g (lw_at lw_m7 200 rfl) rfl
theorem q1774 : (Jvm.Cond.static ({ cls := "Scrutineery$Event", name := "lambda$decides$4", desc := "(LScrutineery$Entry;)I" } : Jvm.MethodName)) ∈ lw_all := lw_g (lw_at lw_m7 224 rfl) rfl
theorem q1775 : (Jvm.Cond.code ({ cls := "Scrutineery$Event", name := "lambda$decides$4", desc := "(LScrutineery$Entry;)I" } : Jvm.MethodName) prog_7_method_34_code (1 : Nat) (Option.some Jvm.ClassFile.FieldType.int)) ∈ lw_all := lw_g (lw_at lw_m7 225 rfl) rfl
theorem q1776 : (Jvm.Cond.methodLink "Scrutineery$Event" (241 : Nat) ({ cls := "Scrutineery$Event", name := "shares", desc := "(Ljava/util/List;I)I" } : Jvm.MethodName)) ∈ lw_all := lw_g (lw_at lw_m7 226 rfl) rfl
theorem q1777 : (Jvm.Cond.privateMethod ({ cls := "Scrutineery$Event", name := "shares", desc := "(Ljava/util/List;I)I" } : Jvm.MethodName)) ∈ lw_tbl := lw_at lw_m7 227 rfl
theorem q1778 : (Jvm.Cond.instanceMethod ({ cls := "Scrutineery$Event", name := "shares", desc := "(Ljava/util/List;I)I" } : Jvm.MethodName)) ∈ lw_all := lw_g (lw_at lw_m7 228 rfl) rfl
theorem q1779 : (Jvm.Cond.code ({ cls := "Scrutineery$Event", name := "shares", desc := "(Ljava/util/List;I)I" } : Jvm.MethodName) prog_7_method_22_code (13 : Nat) (Option.some Jvm.ClassFile.FieldType.int)) ∈ lw_all := lw_g (lw_at lw_m7 229 rfl) rfl
theorem q1780 : (Jvm.Cond.privateMethod ({ cls := "Scrutineery$Event", name := "lambda$shares$2", desc := "(ILScrutineery$Entry;)I" } : Jvm.MethodName)) ∈ lw_tbl := lw_at lw_m7 230 rfl
theorem q1781 : (Jvm.Cond.instanceMethod ({ cls := "Scrutineery$Event", name := "lambda$shares$2", desc := "(ILScrutineery$Entry;)I" } : Jvm.MethodName)) ∈ lw_all := lw_g (lw_at lw_m7 231 rfl) rfl
theorem q1782 : (Jvm.Cond.code ({ cls := "Scrutineery$Event", name := "lambda$shares$2", desc := "(ILScrutineery$Entry;)I" } : Jvm.MethodName) prog_7_method_36_code (3 : Nat) (Option.some Jvm.ClassFile.FieldType.int)) ∈ lw_all := lw_g (lw_at lw_m7 232 rfl) rfl
theorem q1783 : (Jvm.Cond.methodLink "Scrutineery$Event" (318 : Nat) ({ cls := "Scrutineery$Event", name := "wins", desc := "(LScrutineery$Entry;I)I" } : Jvm.MethodName)) ∈ lw_all := lw_g (lw_at lw_m7 233 rfl) rfl
theorem q1784 : (Jvm.Cond.privateMethod ({ cls := "Scrutineery$Event", name := "wins", desc := "(LScrutineery$Entry;I)I" } : Jvm.MethodName)) ∈ lw_tbl := lw_at lw_m7 234 rfl
theorem q1785 : (Jvm.Cond.instanceMethod ({ cls := "Scrutineery$Event", name := "wins", desc := "(LScrutineery$Entry;I)I" } : Jvm.MethodName)) ∈ lw_all := lw_g (lw_at lw_m7 235 rfl) rfl
theorem q1786 : (Jvm.Cond.code ({ cls := "Scrutineery$Event", name := "wins", desc := "(LScrutineery$Entry;I)I" } : Jvm.MethodName) prog_7_method_17_code (5 : Nat) (Option.some Jvm.ClassFile.FieldType.int)) ∈ lw_all := lw_g (lw_at lw_m7 236 rfl) rfl
theorem q1787 : (Jvm.Cond.privateMethod ({ cls := "Scrutineery$Event", name := "lambda$shares$3", desc := "(ILScrutineery$Entry;)I" } : Jvm.MethodName)) ∈ lw_tbl := lw_at lw_m7 237 rfl
theorem q1788 : (Jvm.Cond.instanceMethod ({ cls := "Scrutineery$Event", name := "lambda$shares$3", desc := "(ILScrutineery$Entry;)I" } : Jvm.MethodName)) ∈ lw_all := lw_g (lw_at lw_m7 238 rfl) rfl
theorem q1789 : (Jvm.Cond.code ({ cls := "Scrutineery$Event", name := "lambda$shares$3", desc := "(ILScrutineery$Entry;)I" } : Jvm.MethodName) prog_7_method_35_code (3 : Nat) (Option.some Jvm.ClassFile.FieldType.int)) ∈ lw_all := lw_g (lw_at lw_m7 239 rfl) rfl
theorem q1790 : (Jvm.Cond.methodLink "Scrutineery$Event" (315 : Nat) ({ cls := "Scrutineery$Event", name := "low", desc := "(LScrutineery$Entry;I)I" } : Jvm.MethodName)) ∈ lw_all := lw_g (lw_at lw_m8 0 rfl) rfl
theorem q1791 : (Jvm.Cond.privateMethod ({ cls := "Scrutineery$Event", name := "low", desc := "(LScrutineery$Entry;I)I" } : Jvm.MethodName)) ∈ lw_tbl := lw_at lw_m8 1 rfl
theorem q1792 : (Jvm.Cond.instanceMethod ({ cls := "Scrutineery$Event", name := "low", desc := "(LScrutineery$Entry;I)I" } : Jvm.MethodName)) ∈ lw_all := lw_g (lw_at lw_m8 2 rfl) rfl
theorem q1793 : (Jvm.Cond.code ({ cls := "Scrutineery$Event", name := "low", desc := "(LScrutineery$Entry;I)I" } : Jvm.MethodName) prog_7_method_18_code (5 : Nat) (Option.some Jvm.ClassFile.FieldType.int)) ∈ lw_all := lw_g (lw_at lw_m8 3 rfl) rfl
theorem q1794 : (Jvm.Cond.methodLink "Scrutineery$Event" (216 : Nat) ({ cls := "Scrutineery$Event", name := "byAllMarks", desc := "(Ljava/util/List;I)Ljava/util/List;" } : Jvm.MethodName)) ∈ lw_all := lw_g (lw_at lw_m8 4 rfl) rfl
theorem q1795 : (Jvm.Cond.privateMethod ({ cls := "Scrutineery$Event", name := "byAllMarks", desc := "(Ljava/util/List;I)Ljava/util/List;" } : Jvm.MethodName)) ∈ lw_tbl := lw_at lw_m8 5 rfl
theorem q1796 : (Jvm.Cond.instanceMethod ({ cls := "Scrutineery$Event", name := "byAllMarks", desc := "(Ljava/util/List;I)Ljava/util/List;" } : Jvm.MethodName)) ∈ lw_all := lw_g (lw_at lw_m8 6 rfl) rfl
theorem q1797 : (Jvm.Cond.code ({ cls := "Scrutineery$Event", name := "byAllMarks", desc := "(Ljava/util/List;I)Ljava/util/List;" } : Jvm.MethodName) prog_7_method_21_code (10 : Nat) (Option.some (Jvm.ClassFile.FieldType.object "java/util/List"))) ∈ lw_all := lw_g (lw_at lw_m8 7 rfl) rfl
theorem q1798 : (Jvm.Cond.methodLink "Scrutineery$Event" (196 : Nat) ({ cls := "Scrutineery$Event", name := "countOfAll", desc := "(LScrutineery$Entry;I)I" } : Jvm.MethodName)) ∈ lw_all := lw_g (lw_at lw_m8 8 rfl) rfl
theorem q1799 : (Jvm.Cond.privateMethod ({ cls := "Scrutineery$Event", name := "countOfAll", desc := "(LScrutineery$Entry;I)I" } : Jvm.MethodName)) ∈ lw_tbl := lw_at lw_m8 9 rfl
theorem q1800 : (Jvm.Cond.instanceMethod ({ cls := "Scrutineery$Event", name := "countOfAll", desc := "(LScrutineery$Entry;I)I" } : Jvm.MethodName)) ∈ lw_all := lw_g (lw_at lw_m8 10 rfl) rfl
theorem q1801 : (Jvm.Cond.code ({ cls := "Scrutineery$Event", name := "countOfAll", desc := "(LScrutineery$Entry;I)I" } : Jvm.MethodName) prog_7_method_19_code (5 : Nat) (Option.some Jvm.ClassFile.FieldType.int)) ∈ lw_all := lw_g (lw_at lw_m8 11 rfl) rfl
theorem q1802 : (Jvm.Cond.privateMethod ({ cls := "Scrutineery$Event", name := "lambda$byAllMarks$0", desc := "(ILScrutineery$Entry;)I" } : Jvm.MethodName)) ∈ lw_tbl := lw_at lw_m8 12 rfl
theorem q1803 : (Jvm.Cond.instanceMethod ({ cls := "Scrutineery$Event", name := "lambda$byAllMarks$0", desc := "(ILScrutineery$Entry;)I" } : Jvm.MethodName)) ∈ lw_all := lw_g (lw_at lw_m8 13 rfl) rfl
theorem q1804 : (Jvm.Cond.code ({ cls := "Scrutineery$Event", name := "lambda$byAllMarks$0", desc := "(ILScrutineery$Entry;)I" } : Jvm.MethodName) prog_7_method_38_code (3 : Nat) (Option.some Jvm.ClassFile.FieldType.int)) ∈ lw_all := lw_g (lw_at lw_m8 14 rfl) rfl
theorem q1805 : (Jvm.Cond.privateMethod ({ cls := "Scrutineery$Event", name := "lambda$byAllMarks$1", desc := "(ILScrutineery$Entry;)I" } : Jvm.MethodName)) ∈ lw_tbl := lw_at lw_m8 15 rfl
theorem q1806 : (Jvm.Cond.instanceMethod ({ cls := "Scrutineery$Event", name := "lambda$byAllMarks$1", desc := "(ILScrutineery$Entry;)I" } : Jvm.MethodName)) ∈ lw_all := lw_g (lw_at lw_m8 16 rfl) rfl
theorem q1807 : (Jvm.Cond.code ({ cls := "Scrutineery$Event", name := "lambda$byAllMarks$1", desc := "(ILScrutineery$Entry;)I" } : Jvm.MethodName) prog_7_method_37_code (3 : Nat) (Option.some Jvm.ClassFile.FieldType.int)) ∈ lw_all := lw_g (lw_at lw_m8 17 rfl) rfl
theorem q1808 : (Jvm.Cond.methodLink "Scrutineery$Event" (321 : Nat) ({ cls := "Scrutineery$Event", name := "sumOfAll", desc := "(LScrutineery$Entry;I)I" } : Jvm.MethodName)) ∈ lw_all := lw_g (lw_at lw_m8 18 rfl) rfl
theorem q1809 : (Jvm.Cond.privateMethod ({ cls := "Scrutineery$Event", name := "sumOfAll", desc := "(LScrutineery$Entry;I)I" } : Jvm.MethodName)) ∈ lw_tbl := lw_at lw_m8 19 rfl
theorem q1810 : (Jvm.Cond.instanceMethod ({ cls := "Scrutineery$Event", name := "sumOfAll", desc := "(LScrutineery$Entry;I)I" } : Jvm.MethodName)) ∈ lw_all := lw_g (lw_at lw_m8 20 rfl) rfl
theorem q1811 : (Jvm.Cond.code ({ cls := "Scrutineery$Event", name := "sumOfAll", desc := "(LScrutineery$Entry;I)I" } : Jvm.MethodName) prog_7_method_20_code (5 : Nat) (Option.some Jvm.ClassFile.FieldType.int)) ∈ lw_all := lw_g (lw_at lw_m8 21 rfl) rfl
theorem q1812 : (Jvm.Cond.static ({ cls := "Scrutineery$Event", name := "lambda$decides$5", desc := "(Ljava/util/List;LScrutineery$Entry;)Z" } : Jvm.MethodName)) ∈ lw_all := lw_g (lw_at lw_m8 22 rfl) rfl
theorem q1813 : (Jvm.Cond.code ({ cls := "Scrutineery$Event", name := "lambda$decides$5", desc := "(Ljava/util/List;LScrutineery$Entry;)Z" } : Jvm.MethodName) prog_7_method_33_code (2 : Nat) (Option.some Jvm.ClassFile.FieldType.boolean)) ∈ lw_all := lw_g (lw_at lw_m8 23 rfl) rfl
theorem q1814 : (Jvm.Cond.methodLink "Scrutineery$Event" (254 : Nat) ({ cls := "Scrutineery$Event", name := "withLast", desc := "(IZ)I" } : Jvm.MethodName)) ∈ lw_all := lw_g (lw_at lw_m8 24 rfl) rfl
theorem q1815 : (Jvm.Cond.privateMethod ({ cls := "Scrutineery$Event", name := "withLast", desc := "(IZ)I" } : Jvm.MethodName)) ∈ lw_tbl := lw_at lw_m8 25 rfl
theorem q1816 : (Jvm.Cond.instanceMethod ({ cls := "Scrutineery$Event", name := "withLast", desc := "(IZ)I" } : Jvm.MethodName)) ∈ lw_all := lw_g (lw_at lw_m8 26 rfl) rfl
theorem q1817 : (Jvm.Cond.code ({ cls := "Scrutineery$Event", name := "withLast", desc := "(IZ)I" } : Jvm.MethodName) prog_7_method_23_code (6 : Nat) (Option.some Jvm.ClassFile.FieldType.int)) ∈ lw_all := lw_g (lw_at lw_m8 27 rfl) rfl
theorem q1818 : (Jvm.Cond.methodLink "Scrutineery$Event" (258 : Nat) ({ cls := "Scrutineery$Event", name := "behind", desc := "(LScrutineery$Entry;)I" } : Jvm.MethodName)) ∈ lw_all := lw_g (lw_at lw_m8 28 rfl) rfl
theorem q1819 : (Jvm.Cond.privateMethod ({ cls := "Scrutineery$Event", name := "behind", desc := "(LScrutineery$Entry;)I" } : Jvm.MethodName)) ∈ lw_tbl := lw_at lw_m8 29 rfl
theorem q1820 : (Jvm.Cond.instanceMethod ({ cls := "Scrutineery$Event", name := "behind", desc := "(LScrutineery$Entry;)I" } : Jvm.MethodName)) ∈ lw_all := lw_g (lw_at lw_m8 30 rfl) rfl
theorem q1821 : (Jvm.Cond.code ({ cls := "Scrutineery$Event", name := "behind", desc := "(LScrutineery$Entry;)I" } : Jvm.MethodName) prog_7_method_24_code (5 : Nat) (Option.some Jvm.ClassFile.FieldType.int)) ∈ lw_all := lw_g (lw_at lw_m8 31 rfl) rfl
theorem q1822 : (Jvm.Cond.methodLink "Scrutineery$Event" (261 : Nat) ({ cls := "java/lang/Math", name := "min", desc := "(II)I" } : Jvm.MethodName)) ∈ lw_all := lw_g (lw_at lw_m8 32 rfl) rfl
theorem q1823 : (Jvm.Cond.methodLink "Scrutineery$Event" (279 : Nat) ({ cls := "Scrutineery$Event", name := "valid", desc := "()I" } : Jvm.MethodName)) ∈ lw_all := lw_g (lw_at lw_m8 33 rfl) rfl
theorem q1824 : (Jvm.Cond.methodLink "Scrutineery$Event" (282 : Nat) ({ cls := "java/lang/Integer", name := "valueOf", desc := "(I)Ljava/lang/Integer;" } : Jvm.MethodName)) ∈ lw_all := lw_g (lw_at lw_m8 34 rfl) rfl
theorem q1826 : (Jvm.Cond.instanceMethod ({ cls := "Scrutineery$Event", name := "cuts", desc := "()V" } : Jvm.MethodName)) ∈ lw_all := lw_g (lw_at lw_m8 36 rfl) rfl
theorem q1827 : (Jvm.Cond.selects "Scrutineery$Event" ({ cls := "Scrutineery$Event", name := "cuts", desc := "()V" } : Jvm.MethodName) ({ cls := "Scrutineery$Event", name := "cuts", desc := "()V" } : Jvm.MethodName)) ∈ lw_all := lw_g (lw_at lw_m8 37 rfl) rfl
theorem q1828 : (Jvm.Cond.code ({ cls := "Scrutineery$Event", name := "cuts", desc := "()V" } : Jvm.MethodName) prog_7_method_28_code (9 : Nat) (Option.none : Option Jvm.ClassFile.FieldType)) ∈ lw_all := lw_g (lw_at lw_m8 38 rfl) rfl
theorem q1829 : (Jvm.Cond.methodLink "Scrutineery$Event" (288 : Nat) ({ cls := "Scrutineery$Event", name := "wanted", desc := "()I" } : Jvm.MethodName)) ∈ lw_all := lw_g (lw_at lw_m8 39 rfl) rfl
theorem q1830 : (Jvm.Cond.methodLink "Scrutineery$Event" (291 : Nat) ({ cls := "Scrutineery$Round", name := "iterator", desc := "()Ljava/util/Iterator;" } : Jvm.MethodName)) ∈ lw_all := lw_g (lw_at lw_m8 40 rfl) rfl
theorem q1849 : (Jvm.Cond.methodLink "Scrutineery$Event" (292 : Nat) ({ cls := "Scrutineery$Round", name := "recalls", desc := "(LScrutineery$Entry;)I" } : Jvm.MethodName)) ∈ lw_all := lw_g (lw_at lw_m8 59 rfl) rfl
theorem q1850 : (Jvm.Cond.interfaceEntry "Scrutineery$Event" (295 : Nat)) ∈ lw_tbl := lw_at lw_m8 60 rfl
theorem q1851 : (Jvm.Cond.methodLink "Scrutineery$Event" (295 : Nat) ({ cls := "java/util/List", name := "addAll", desc := "(Ljava/util/Collection;)Z" } : Jvm.MethodName)) ∈ lw_all := lw_g (lw_at lw_m8 61 rfl) rfl
theorem q1859 : (Jvm.Cond.methodLink "Scrutineery$Event" (302 : Nat) ({ cls := "Scrutineery$Event", name := "goesOn", desc := "(Ljava/util/List;Ljava/util/List;I)V" } : Jvm.MethodName)) ∈ lw_all := lw_g (lw_at lw_m8 69 rfl) rfl
theorem q1860 : (Jvm.Cond.privateMethod ({ cls := "Scrutineery$Event", name := "goesOn", desc := "(Ljava/util/List;Ljava/util/List;I)V" } : Jvm.MethodName)) ∈ lw_tbl := lw_at lw_m8 70 rfl
theorem q1861 : (Jvm.Cond.instanceMethod ({ cls := "Scrutineery$Event", name := "goesOn", desc := "(Ljava/util/List;Ljava/util/List;I)V" } : Jvm.MethodName)) ∈ lw_all := lw_g (lw_at lw_m8 71 rfl) rfl
theorem q1862 : (Jvm.Cond.code ({ cls := "Scrutineery$Event", name := "goesOn", desc := "(Ljava/util/List;Ljava/util/List;I)V" } : Jvm.MethodName) prog_7_method_27_code (8 : Nat) (Option.none : Option Jvm.ClassFile.FieldType)) ∈ lw_all := lw_g (lw_at lw_m8 72 rfl) rfl
theorem q2875 : (Jvm.Cond.castable "Scrutineery$Event" "java/lang/Object") ∈ lw_tbl := lw_at lw_m12 125 rfl
theorem in_X6 : ∀ w ∈ wsX60, w ∈ lw_all := lw_in wsX60 [1120, 1122, 1124, 1126, 1128, 1130, 1132, 1134, 1136, 1138, 1140, 1142, 1144, 1146, 1148, 1150, 1152, 1154, 1156] (by decide +kernel) (by decide +kernel)
