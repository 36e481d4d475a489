/-! Scrutineery -/
set_option maxRecDepth 100000
def RX1 : String := "Scrutineery"
def TX1 : u_T := fun k => match k with
  | 0 => ("Scrutineery", "people", "Ljava/util/List;", true)
  | 1 => ("Scrutineery", "lessons", "Ljava/util/List;", true)
  | 2 => ("Scrutineery", "couples", "Ljava/util/List;", true)
  | 3 => ("Scrutineery", "events", "Ljava/util/List;", true)
  | 4 => ("Scrutineery", "formations", "Ljava/util/List;", true)
  | 5 => ("Scrutineery", "plans", "Ljava/util/List;", true)
  | 6 => ("Scrutineery", "causes", "Ljava/util/List;", true)
  | 7 => ("Scrutineery", "tempos", "[[I", true)
  | 8 => ("Scrutineery", "bars", "[[I", true)
  | 9 => ("Scrutineery", "today", "I", false)
  | _ => ("Scrutineery", "money", "I", false)
def tyX1 : Nat → FieldType := fun k => match k with
  | 0 => .object "java/util/List"
  | 1 => .object "java/util/List"
  | 2 => .object "java/util/List"
  | 3 => .object "java/util/List"
  | 4 => .object "java/util/List"
  | 5 => .object "java/util/List"
  | 6 => .object "java/util/List"
  | 7 => .array (.array .int)
  | 8 => .array (.array .int)
  | 9 => .int
  | _ => .int
abbrev wsX10 : List Cond := u_ws RX1 TX1 11
theorem nmX1 : ∀ a, a < 11 → ∀ b, b < 11 → a ≠ b → (TX1 a).2.1 ≠ (TX1 b).2.1 := by decide +kernel
theorem tyX1_ok : ∀ k, k < 11 → parseFieldDescriptor (TX1 k).2.2.1 = some (tyX1 k) := by decide +kernel
abbrev cX1_init : ByteArray := prog_1_method_7_code
def yX1_init : MethodName := ⟨RX1, "<init>", "()V"⟩
def dkwX1_init_4 : List UInt8 := [42, 5, 8, 197, 0, 61, 2, 181, 0, 66, 42, 182, 0, 69, 177]
abbrev dktX1_init_4 : List UInt8 := dkwX1_init_4 ++ []
def dkwX1_init_3 : List UInt8 := [181, 0, 55, 42, 187, 0, 36, 89, 183, 0, 38, 181, 0, 58, 42, 5, 8, 197, 0, 61, 2, 181, 0, 63]
abbrev dktX1_init_3 : List UInt8 := dkwX1_init_3 ++ dktX1_init_4
def dkwX1_init_2 : List UInt8 := [181, 0, 49, 42, 187, 0, 36, 89, 183, 0, 38, 181, 0, 52, 42, 187, 0, 36, 89, 183, 0, 38]
abbrev dktX1_init_2 : List UInt8 := dkwX1_init_2 ++ dktX1_init_3
def dkwX1_init_1 : List UInt8 := [181, 0, 43, 42, 187, 0, 36, 89, 183, 0, 38, 181, 0, 46, 42, 187, 0, 36, 89, 183, 0, 38]
abbrev dktX1_init_1 : List UInt8 := dkwX1_init_1 ++ dktX1_init_2
def dkwX1_init_0 : List UInt8 := [42, 183, 0, 33, 42, 187, 0, 36, 89, 183, 0, 38, 181, 0, 39, 42, 187, 0, 36, 89, 183, 0, 38]
abbrev dktX1_init_0 : List UInt8 := dkwX1_init_0 ++ dktX1_init_1
theorem dksX1_init_0 : cX1_init.data.toList.drop 0 = dktX1_init_0 := by decide +kernel
theorem dksX1_init_1 : cX1_init.data.toList.drop 23 = dktX1_init_1 := dk_seg dksX1_init_0 23 rfl rfl
theorem dksX1_init_2 : cX1_init.data.toList.drop 45 = dktX1_init_2 := dk_seg dksX1_init_1 22 rfl rfl
theorem dksX1_init_3 : cX1_init.data.toList.drop 67 = dktX1_init_3 := dk_seg dksX1_init_2 22 rfl rfl
theorem dksX1_init_4 : cX1_init.data.toList.drop 91 = dktX1_init_4 := dk_seg dksX1_init_3 24 rfl rfl
theorem dX1_init_0 : decode cX1_init 0 = .ok (.aload_n 0, 1) := dk_42 (dk_at dksX1_init_0 0 rfl rfl)
theorem dX1_init_1 : decode cX1_init 1 = .ok (.invokespecial 33, 3) := dk_183 0 33 (dk_at dksX1_init_0 1 rfl rfl)
theorem dX1_init_4 : decode cX1_init 4 = .ok (.aload_n 0, 1) := dk_42 (dk_at dksX1_init_0 4 rfl rfl)
theorem dX1_init_5 : decode cX1_init 5 = .ok (.new 36, 3) := dk_187 0 36 (dk_at dksX1_init_0 5 rfl rfl)
theorem dX1_init_8 : decode cX1_init 8 = .ok (.dup, 1) := dk_89 (dk_at dksX1_init_0 8 rfl rfl)
theorem dX1_init_9 : decode cX1_init 9 = .ok (.invokespecial 38, 3) := dk_183 0 38 (dk_at dksX1_init_0 9 rfl rfl)
theorem dX1_init_12 : decode cX1_init 12 = .ok (.putfield 39, 3) := dk_181 0 39 (dk_at dksX1_init_0 12 rfl rfl)
theorem dX1_init_15 : decode cX1_init 15 = .ok (.aload_n 0, 1) := dk_42 (dk_at dksX1_init_0 15 rfl rfl)
theorem dX1_init_16 : decode cX1_init 16 = .ok (.new 36, 3) := dk_187 0 36 (dk_at dksX1_init_0 16 rfl rfl)
theorem dX1_init_19 : decode cX1_init 19 = .ok (.dup, 1) := dk_89 (dk_at dksX1_init_0 19 rfl rfl)
theorem dX1_init_20 : decode cX1_init 20 = .ok (.invokespecial 38, 3) := dk_183 0 38 (dk_at dksX1_init_0 20 rfl rfl)
theorem dX1_init_23 : decode cX1_init 23 = .ok (.putfield 43, 3) := dk_181 0 43 (dk_at dksX1_init_1 0 rfl rfl)
theorem dX1_init_26 : decode cX1_init 26 = .ok (.aload_n 0, 1) := dk_42 (dk_at dksX1_init_1 3 rfl rfl)
theorem dX1_init_27 : decode cX1_init 27 = .ok (.new 36, 3) := dk_187 0 36 (dk_at dksX1_init_1 4 rfl rfl)
theorem dX1_init_30 : decode cX1_init 30 = .ok (.dup, 1) := dk_89 (dk_at dksX1_init_1 7 rfl rfl)
theorem dX1_init_31 : decode cX1_init 31 = .ok (.invokespecial 38, 3) := dk_183 0 38 (dk_at dksX1_init_1 8 rfl rfl)
theorem dX1_init_34 : decode cX1_init 34 = .ok (.putfield 46, 3) := dk_181 0 46 (dk_at dksX1_init_1 11 rfl rfl)
theorem dX1_init_37 : decode cX1_init 37 = .ok (.aload_n 0, 1) := dk_42 (dk_at dksX1_init_1 14 rfl rfl)
theorem dX1_init_38 : decode cX1_init 38 = .ok (.new 36, 3) := dk_187 0 36 (dk_at dksX1_init_1 15 rfl rfl)
theorem dX1_init_41 : decode cX1_init 41 = .ok (.dup, 1) := dk_89 (dk_at dksX1_init_1 18 rfl rfl)
theorem dX1_init_42 : decode cX1_init 42 = .ok (.invokespecial 38, 3) := dk_183 0 38 (dk_at dksX1_init_1 19 rfl rfl)
theorem dX1_init_45 : decode cX1_init 45 = .ok (.putfield 49, 3) := dk_181 0 49 (dk_at dksX1_init_2 0 rfl rfl)
theorem dX1_init_48 : decode cX1_init 48 = .ok (.aload_n 0, 1) := dk_42 (dk_at dksX1_init_2 3 rfl rfl)
theorem dX1_init_49 : decode cX1_init 49 = .ok (.new 36, 3) := dk_187 0 36 (dk_at dksX1_init_2 4 rfl rfl)
theorem dX1_init_52 : decode cX1_init 52 = .ok (.dup, 1) := dk_89 (dk_at dksX1_init_2 7 rfl rfl)
theorem dX1_init_53 : decode cX1_init 53 = .ok (.invokespecial 38, 3) := dk_183 0 38 (dk_at dksX1_init_2 8 rfl rfl)
theorem dX1_init_56 : decode cX1_init 56 = .ok (.putfield 52, 3) := dk_181 0 52 (dk_at dksX1_init_2 11 rfl rfl)
theorem dX1_init_59 : decode cX1_init 59 = .ok (.aload_n 0, 1) := dk_42 (dk_at dksX1_init_2 14 rfl rfl)
theorem dX1_init_60 : decode cX1_init 60 = .ok (.new 36, 3) := dk_187 0 36 (dk_at dksX1_init_2 15 rfl rfl)
theorem dX1_init_63 : decode cX1_init 63 = .ok (.dup, 1) := dk_89 (dk_at dksX1_init_2 18 rfl rfl)
theorem dX1_init_64 : decode cX1_init 64 = .ok (.invokespecial 38, 3) := dk_183 0 38 (dk_at dksX1_init_2 19 rfl rfl)
theorem dX1_init_67 : decode cX1_init 67 = .ok (.putfield 55, 3) := dk_181 0 55 (dk_at dksX1_init_3 0 rfl rfl)
theorem dX1_init_70 : decode cX1_init 70 = .ok (.aload_n 0, 1) := dk_42 (dk_at dksX1_init_3 3 rfl rfl)
theorem dX1_init_71 : decode cX1_init 71 = .ok (.new 36, 3) := dk_187 0 36 (dk_at dksX1_init_3 4 rfl rfl)
theorem dX1_init_74 : decode cX1_init 74 = .ok (.dup, 1) := dk_89 (dk_at dksX1_init_3 7 rfl rfl)
theorem dX1_init_75 : decode cX1_init 75 = .ok (.invokespecial 38, 3) := dk_183 0 38 (dk_at dksX1_init_3 8 rfl rfl)
theorem dX1_init_78 : decode cX1_init 78 = .ok (.putfield 58, 3) := dk_181 0 58 (dk_at dksX1_init_3 11 rfl rfl)
theorem dX1_init_81 : decode cX1_init 81 = .ok (.aload_n 0, 1) := dk_42 (dk_at dksX1_init_3 14 rfl rfl)
theorem dX1_init_82 : decode cX1_init 82 = .ok (.iconst 2, 1) := dk_5 (dk_at dksX1_init_3 15 rfl rfl)
theorem dX1_init_83 : decode cX1_init 83 = .ok (.iconst 5, 1) := dk_8 (dk_at dksX1_init_3 16 rfl rfl)
theorem dX1_init_84 : decode cX1_init 84 = .ok (.multianewarray 61 2, 4) := by decide +kernel
theorem dX1_init_88 : decode cX1_init 88 = .ok (.putfield 63, 3) := dk_181 0 63 (dk_at dksX1_init_3 21 rfl rfl)
theorem dX1_init_91 : decode cX1_init 91 = .ok (.aload_n 0, 1) := dk_42 (dk_at dksX1_init_4 0 rfl rfl)
theorem dX1_init_92 : decode cX1_init 92 = .ok (.iconst 2, 1) := dk_5 (dk_at dksX1_init_4 1 rfl rfl)
theorem dX1_init_93 : decode cX1_init 93 = .ok (.iconst 5, 1) := dk_8 (dk_at dksX1_init_4 2 rfl rfl)
theorem dX1_init_94 : decode cX1_init 94 = .ok (.multianewarray 61 2, 4) := by decide +kernel
theorem dX1_init_98 : decode cX1_init 98 = .ok (.putfield 66, 3) := dk_181 0 66 (dk_at dksX1_init_4 7 rfl rfl)
theorem dX1_init_101 : decode cX1_init 101 = .ok (.aload_n 0, 1) := dk_42 (dk_at dksX1_init_4 10 rfl rfl)
theorem dX1_init_102 : decode cX1_init 102 = .ok (.invokevirtual 69, 3) := dk_182 0 69 (dk_at dksX1_init_4 11 rfl rfl)
theorem dX1_init_105 : decode cX1_init 105 = .ok (.return_, 1) := dk_177 (dk_at dksX1_init_4 14 rfl rfl)
abbrev cX1_opens : ByteArray := prog_1_method_8_code
def yX1_opens : MethodName := ⟨RX1, "opens", "()V"⟩
def dkwX1_opens_5 : List UInt8 := [181, 0, 79, 177]
abbrev dktX1_opens_5 : List UInt8 := dkwX1_opens_5 ++ []
def dkwX1_opens_4 : List UInt8 := [16, 50, 79, 132, 2, 1, 167, 255, 228, 132, 1, 1, 167, 255, 215, 42, 3, 181, 0, 75, 42, 3]
abbrev dktX1_opens_4 : List UInt8 := dkwX1_opens_4 ++ dktX1_opens_5
def dkwX1_opens_3 : List UInt8 := [3, 61, 28, 8, 162, 0, 29, 42, 180, 0, 63, 27, 50, 28, 16, 30, 79, 42, 180, 0, 66, 27, 50, 28]
abbrev dktX1_opens_3 : List UInt8 := dkwX1_opens_3 ++ dktX1_opens_4
def dkwX1_opens_2 : List UInt8 := [180, 0, 55, 185, 0, 72, 1, 0, 42, 180, 0, 58, 185, 0, 72, 1, 0, 3, 60, 27, 5, 162, 0, 42]
abbrev dktX1_opens_2 : List UInt8 := dkwX1_opens_2 ++ dktX1_opens_3
def dkwX1_opens_1 : List UInt8 := [185, 0, 72, 1, 0, 42, 180, 0, 49, 185, 0, 72, 1, 0, 42, 180, 0, 52, 185, 0, 72, 1, 0, 42]
abbrev dktX1_opens_1 : List UInt8 := dkwX1_opens_1 ++ dktX1_opens_2
def dkwX1_opens_0 : List UInt8 := [42, 180, 0, 39, 185, 0, 72, 1, 0, 42, 180, 0, 43, 185, 0, 72, 1, 0, 42, 180, 0, 46]
abbrev dktX1_opens_0 : List UInt8 := dkwX1_opens_0 ++ dktX1_opens_1
theorem dksX1_opens_0 : cX1_opens.data.toList.drop 0 = dktX1_opens_0 := by decide +kernel
theorem dksX1_opens_1 : cX1_opens.data.toList.drop 22 = dktX1_opens_1 := dk_seg dksX1_opens_0 22 rfl rfl
theorem dksX1_opens_2 : cX1_opens.data.toList.drop 46 = dktX1_opens_2 := dk_seg dksX1_opens_1 24 rfl rfl
theorem dksX1_opens_3 : cX1_opens.data.toList.drop 70 = dktX1_opens_3 := dk_seg dksX1_opens_2 24 rfl rfl
theorem dksX1_opens_4 : cX1_opens.data.toList.drop 94 = dktX1_opens_4 := dk_seg dksX1_opens_3 24 rfl rfl
theorem dksX1_opens_5 : cX1_opens.data.toList.drop 116 = dktX1_opens_5 := dk_seg dksX1_opens_4 22 rfl rfl
theorem dX1_opens_0 : decode cX1_opens 0 = .ok (.aload_n 0, 1) := dk_42 (dk_at dksX1_opens_0 0 rfl rfl)
theorem dX1_opens_1 : decode cX1_opens 1 = .ok (.getfield 39, 3) := dk_180 0 39 (dk_at dksX1_opens_0 1 rfl rfl)
theorem dX1_opens_4 : decode cX1_opens 4 = .ok (.invokeinterface 72 1, 5) := by decide +kernel
theorem dX1_opens_9 : decode cX1_opens 9 = .ok (.aload_n 0, 1) := dk_42 (dk_at dksX1_opens_0 9 rfl rfl)
theorem dX1_opens_10 : decode cX1_opens 10 = .ok (.getfield 43, 3) := dk_180 0 43 (dk_at dksX1_opens_0 10 rfl rfl)
theorem dX1_opens_13 : decode cX1_opens 13 = .ok (.invokeinterface 72 1, 5) := by decide +kernel
theorem dX1_opens_18 : decode cX1_opens 18 = .ok (.aload_n 0, 1) := dk_42 (dk_at dksX1_opens_0 18 rfl rfl)
theorem dX1_opens_19 : decode cX1_opens 19 = .ok (.getfield 46, 3) := dk_180 0 46 (dk_at dksX1_opens_0 19 rfl rfl)
theorem dX1_opens_22 : decode cX1_opens 22 = .ok (.invokeinterface 72 1, 5) := by decide +kernel
theorem dX1_opens_27 : decode cX1_opens 27 = .ok (.aload_n 0, 1) := dk_42 (dk_at dksX1_opens_1 5 rfl rfl)
theorem dX1_opens_28 : decode cX1_opens 28 = .ok (.getfield 49, 3) := dk_180 0 49 (dk_at dksX1_opens_1 6 rfl rfl)
theorem dX1_opens_31 : decode cX1_opens 31 = .ok (.invokeinterface 72 1, 5) := by decide +kernel
theorem dX1_opens_36 : decode cX1_opens 36 = .ok (.aload_n 0, 1) := dk_42 (dk_at dksX1_opens_1 14 rfl rfl)
theorem dX1_opens_37 : decode cX1_opens 37 = .ok (.getfield 52, 3) := dk_180 0 52 (dk_at dksX1_opens_1 15 rfl rfl)
theorem dX1_opens_40 : decode cX1_opens 40 = .ok (.invokeinterface 72 1, 5) := by decide +kernel
theorem dX1_opens_45 : decode cX1_opens 45 = .ok (.aload_n 0, 1) := dk_42 (dk_at dksX1_opens_1 23 rfl rfl)
theorem dX1_opens_46 : decode cX1_opens 46 = .ok (.getfield 55, 3) := dk_180 0 55 (dk_at dksX1_opens_2 0 rfl rfl)
theorem dX1_opens_49 : decode cX1_opens 49 = .ok (.invokeinterface 72 1, 5) := by decide +kernel
theorem dX1_opens_54 : decode cX1_opens 54 = .ok (.aload_n 0, 1) := dk_42 (dk_at dksX1_opens_2 8 rfl rfl)
theorem dX1_opens_55 : decode cX1_opens 55 = .ok (.getfield 58, 3) := dk_180 0 58 (dk_at dksX1_opens_2 9 rfl rfl)
theorem dX1_opens_58 : decode cX1_opens 58 = .ok (.invokeinterface 72 1, 5) := by decide +kernel
theorem dX1_opens_63 : decode cX1_opens 63 = .ok (.iconst 0, 1) := dk_3 (dk_at dksX1_opens_2 17 rfl rfl)
theorem dX1_opens_64 : decode cX1_opens 64 = .ok (.istore_n 1, 1) := dk_60 (dk_at dksX1_opens_2 18 rfl rfl)
theorem dX1_opens_65 : decode cX1_opens 65 = .ok (.iload_n 1, 1) := dk_27 (dk_at dksX1_opens_2 19 rfl rfl)
theorem dX1_opens_66 : decode cX1_opens 66 = .ok (.iconst 2, 1) := dk_5 (dk_at dksX1_opens_2 20 rfl rfl)
theorem dX1_opens_67 : decode cX1_opens 67 = .ok (.if_icmp .ge 42, 3) := dk_162 0 42 (dk_at dksX1_opens_2 21 rfl rfl)
theorem dX1_opens_70 : decode cX1_opens 70 = .ok (.iconst 0, 1) := dk_3 (dk_at dksX1_opens_3 0 rfl rfl)
theorem dX1_opens_71 : decode cX1_opens 71 = .ok (.istore_n 2, 1) := dk_61 (dk_at dksX1_opens_3 1 rfl rfl)
theorem dX1_opens_72 : decode cX1_opens 72 = .ok (.iload_n 2, 1) := dk_28 (dk_at dksX1_opens_3 2 rfl rfl)
theorem dX1_opens_73 : decode cX1_opens 73 = .ok (.iconst 5, 1) := dk_8 (dk_at dksX1_opens_3 3 rfl rfl)
theorem dX1_opens_74 : decode cX1_opens 74 = .ok (.if_icmp .ge 29, 3) := dk_162 0 29 (dk_at dksX1_opens_3 4 rfl rfl)
theorem dX1_opens_77 : decode cX1_opens 77 = .ok (.aload_n 0, 1) := dk_42 (dk_at dksX1_opens_3 7 rfl rfl)
theorem dX1_opens_78 : decode cX1_opens 78 = .ok (.getfield 63, 3) := dk_180 0 63 (dk_at dksX1_opens_3 8 rfl rfl)
theorem dX1_opens_81 : decode cX1_opens 81 = .ok (.iload_n 1, 1) := dk_27 (dk_at dksX1_opens_3 11 rfl rfl)
theorem dX1_opens_82 : decode cX1_opens 82 = .ok (.aaload, 1) := dk_50 (dk_at dksX1_opens_3 12 rfl rfl)
theorem dX1_opens_83 : decode cX1_opens 83 = .ok (.iload_n 2, 1) := dk_28 (dk_at dksX1_opens_3 13 rfl rfl)
theorem dX1_opens_84 : decode cX1_opens 84 = .ok (.bipush 30, 2) := dk_16 30 (dk_at dksX1_opens_3 14 rfl rfl)
theorem dX1_opens_86 : decode cX1_opens 86 = .ok (.iastore, 1) := dk_79 (dk_at dksX1_opens_3 16 rfl rfl)
theorem dX1_opens_87 : decode cX1_opens 87 = .ok (.aload_n 0, 1) := dk_42 (dk_at dksX1_opens_3 17 rfl rfl)
theorem dX1_opens_88 : decode cX1_opens 88 = .ok (.getfield 66, 3) := dk_180 0 66 (dk_at dksX1_opens_3 18 rfl rfl)
theorem dX1_opens_91 : decode cX1_opens 91 = .ok (.iload_n 1, 1) := dk_27 (dk_at dksX1_opens_3 21 rfl rfl)
theorem dX1_opens_92 : decode cX1_opens 92 = .ok (.aaload, 1) := dk_50 (dk_at dksX1_opens_3 22 rfl rfl)
theorem dX1_opens_93 : decode cX1_opens 93 = .ok (.iload_n 2, 1) := dk_28 (dk_at dksX1_opens_3 23 rfl rfl)
theorem dX1_opens_94 : decode cX1_opens 94 = .ok (.bipush 50, 2) := dk_16 50 (dk_at dksX1_opens_4 0 rfl rfl)
theorem dX1_opens_96 : decode cX1_opens 96 = .ok (.iastore, 1) := dk_79 (dk_at dksX1_opens_4 2 rfl rfl)
theorem dX1_opens_97 : decode cX1_opens 97 = .ok (.iinc 2 1, 3) := dk_132 2 1 (dk_at dksX1_opens_4 3 rfl rfl)
theorem dX1_opens_100 : decode cX1_opens 100 = .ok (.goto (-28), 3) := dk_167 255 228 (dk_at dksX1_opens_4 6 rfl rfl)
theorem dX1_opens_103 : decode cX1_opens 103 = .ok (.iinc 1 1, 3) := dk_132 1 1 (dk_at dksX1_opens_4 9 rfl rfl)
theorem dX1_opens_106 : decode cX1_opens 106 = .ok (.goto (-41), 3) := dk_167 255 215 (dk_at dksX1_opens_4 12 rfl rfl)
theorem dX1_opens_109 : decode cX1_opens 109 = .ok (.aload_n 0, 1) := dk_42 (dk_at dksX1_opens_4 15 rfl rfl)
theorem dX1_opens_110 : decode cX1_opens 110 = .ok (.iconst 0, 1) := dk_3 (dk_at dksX1_opens_4 16 rfl rfl)
theorem dX1_opens_111 : decode cX1_opens 111 = .ok (.putfield 75, 3) := dk_181 0 75 (dk_at dksX1_opens_4 17 rfl rfl)
theorem dX1_opens_114 : decode cX1_opens 114 = .ok (.aload_n 0, 1) := dk_42 (dk_at dksX1_opens_4 20 rfl rfl)
theorem dX1_opens_115 : decode cX1_opens 115 = .ok (.iconst 0, 1) := dk_3 (dk_at dksX1_opens_4 21 rfl rfl)
theorem dX1_opens_116 : decode cX1_opens 116 = .ok (.putfield 79, 3) := dk_181 0 79 (dk_at dksX1_opens_5 0 rfl rfl)
theorem dX1_opens_119 : decode cX1_opens 119 = .ok (.return_, 1) := dk_177 (dk_at dksX1_opens_5 3 rfl rfl)
abbrev cX1_begin : ByteArray := prog_1_method_9_code
def yX1_begin : MethodName := ⟨RX1, "begin", "()I"⟩
def dkwX1_begin_0 : List UInt8 := [42, 180, 0, 39, 185, 0, 13, 1, 0, 60, 42, 182, 0, 69, 27, 172]
abbrev dktX1_begin_0 : List UInt8 := dkwX1_begin_0 ++ []
theorem dksX1_begin_0 : cX1_begin.data.toList.drop 0 = dktX1_begin_0 := by decide +kernel
theorem dX1_begin_0 : decode cX1_begin 0 = .ok (.aload_n 0, 1) := dk_42 (dk_at dksX1_begin_0 0 rfl rfl)
theorem dX1_begin_1 : decode cX1_begin 1 = .ok (.getfield 39, 3) := dk_180 0 39 (dk_at dksX1_begin_0 1 rfl rfl)
theorem dX1_begin_4 : decode cX1_begin 4 = .ok (.invokeinterface 13 1, 5) := by decide +kernel
theorem dX1_begin_9 : decode cX1_begin 9 = .ok (.istore_n 1, 1) := dk_60 (dk_at dksX1_begin_0 9 rfl rfl)
theorem dX1_begin_10 : decode cX1_begin 10 = .ok (.aload_n 0, 1) := dk_42 (dk_at dksX1_begin_0 10 rfl rfl)
theorem dX1_begin_11 : decode cX1_begin 11 = .ok (.invokevirtual 69, 3) := dk_182 0 69 (dk_at dksX1_begin_0 11 rfl rfl)
theorem dX1_begin_14 : decode cX1_begin 14 = .ok (.iload_n 1, 1) := dk_27 (dk_at dksX1_begin_0 14 rfl rfl)
theorem dX1_begin_15 : decode cX1_begin 15 = .ok (.ireturn, 1) := dk_172 (dk_at dksX1_begin_0 15 rfl rfl)
abbrev cX1_cause : ByteArray := prog_1_method_64_code
def yX1_cause : MethodName := ⟨RX1, "cause", "(I)I"⟩
def dkwX1_cause_1 : List UInt8 := [185, 0, 29, 2, 0, 192, 0, 252, 182, 1, 132, 167, 0, 4, 2, 172]
abbrev dktX1_cause_1 : List UInt8 := dkwX1_cause_1 ++ []
def dkwX1_cause_0 : List UInt8 := [27, 3, 42, 180, 0, 58, 185, 0, 13, 1, 0, 4, 100, 184, 0, 19, 153, 0, 22, 42, 180, 0, 58, 27]
abbrev dktX1_cause_0 : List UInt8 := dkwX1_cause_0 ++ dktX1_cause_1
theorem dksX1_cause_0 : cX1_cause.data.toList.drop 0 = dktX1_cause_0 := by decide +kernel
theorem dksX1_cause_1 : cX1_cause.data.toList.drop 24 = dktX1_cause_1 := dk_seg dksX1_cause_0 24 rfl rfl
theorem dX1_cause_0 : decode cX1_cause 0 = .ok (.iload_n 1, 1) := dk_27 (dk_at dksX1_cause_0 0 rfl rfl)
theorem dX1_cause_1 : decode cX1_cause 1 = .ok (.iconst 0, 1) := dk_3 (dk_at dksX1_cause_0 1 rfl rfl)
theorem dX1_cause_2 : decode cX1_cause 2 = .ok (.aload_n 0, 1) := dk_42 (dk_at dksX1_cause_0 2 rfl rfl)
theorem dX1_cause_3 : decode cX1_cause 3 = .ok (.getfield 58, 3) := dk_180 0 58 (dk_at dksX1_cause_0 3 rfl rfl)
theorem dX1_cause_6 : decode cX1_cause 6 = .ok (.invokeinterface 13 1, 5) := by decide +kernel
theorem dX1_cause_11 : decode cX1_cause 11 = .ok (.iconst 1, 1) := dk_4 (dk_at dksX1_cause_0 11 rfl rfl)
theorem dX1_cause_12 : decode cX1_cause 12 = .ok (.isub, 1) := dk_100 (dk_at dksX1_cause_0 12 rfl rfl)
theorem dX1_cause_13 : decode cX1_cause 13 = .ok (.invokestatic 19, 3) := dk_184 0 19 (dk_at dksX1_cause_0 13 rfl rfl)
theorem dX1_cause_16 : decode cX1_cause 16 = .ok (.ifCond .eq 22, 3) := dk_153 0 22 (dk_at dksX1_cause_0 16 rfl rfl)
theorem dX1_cause_19 : decode cX1_cause 19 = .ok (.aload_n 0, 1) := dk_42 (dk_at dksX1_cause_0 19 rfl rfl)
theorem dX1_cause_20 : decode cX1_cause 20 = .ok (.getfield 58, 3) := dk_180 0 58 (dk_at dksX1_cause_0 20 rfl rfl)
theorem dX1_cause_23 : decode cX1_cause 23 = .ok (.iload_n 1, 1) := dk_27 (dk_at dksX1_cause_0 23 rfl rfl)
theorem dX1_cause_24 : decode cX1_cause 24 = .ok (.invokeinterface 29 2, 5) := by decide +kernel
theorem dX1_cause_29 : decode cX1_cause 29 = .ok (.checkcast 252, 3) := dk_192 0 252 (dk_at dksX1_cause_1 5 rfl rfl)
theorem dX1_cause_32 : decode cX1_cause 32 = .ok (.invokevirtual 388, 3) := dk_182 1 132 (dk_at dksX1_cause_1 8 rfl rfl)
theorem dX1_cause_35 : decode cX1_cause 35 = .ok (.goto 4, 3) := dk_167 0 4 (dk_at dksX1_cause_1 11 rfl rfl)
theorem dX1_cause_38 : decode cX1_cause 38 = .ok (.iconst (-1), 1) := dk_2 (dk_at dksX1_cause_1 14 rfl rfl)
theorem dX1_cause_39 : decode cX1_cause 39 = .ok (.ireturn, 1) := dk_172 (dk_at dksX1_cause_1 15 rfl rfl)
abbrev cX1_isBetween : ByteArray := prog_1_method_1_code
def yX1_isBetween : MethodName := ⟨RX1, "isBetween", "(III)Z"⟩
def dkwX1_isBetween_0 : List UInt8 := [26, 27, 161, 0, 12, 26, 28, 163, 0, 7, 4, 167, 0, 4, 3, 172]
abbrev dktX1_isBetween_0 : List UInt8 := dkwX1_isBetween_0 ++ []
theorem dksX1_isBetween_0 : cX1_isBetween.data.toList.drop 0 = dktX1_isBetween_0 := by decide +kernel
theorem dX1_isBetween_0 : decode cX1_isBetween 0 = .ok (.iload_n 0, 1) := dk_26 (dk_at dksX1_isBetween_0 0 rfl rfl)
theorem dX1_isBetween_1 : decode cX1_isBetween 1 = .ok (.iload_n 1, 1) := dk_27 (dk_at dksX1_isBetween_0 1 rfl rfl)
theorem dX1_isBetween_2 : decode cX1_isBetween 2 = .ok (.if_icmp .lt 12, 3) := dk_161 0 12 (dk_at dksX1_isBetween_0 2 rfl rfl)
theorem dX1_isBetween_5 : decode cX1_isBetween 5 = .ok (.iload_n 0, 1) := dk_26 (dk_at dksX1_isBetween_0 5 rfl rfl)
theorem dX1_isBetween_6 : decode cX1_isBetween 6 = .ok (.iload_n 2, 1) := dk_28 (dk_at dksX1_isBetween_0 6 rfl rfl)
theorem dX1_isBetween_7 : decode cX1_isBetween 7 = .ok (.if_icmp .gt 7, 3) := dk_163 0 7 (dk_at dksX1_isBetween_0 7 rfl rfl)
theorem dX1_isBetween_10 : decode cX1_isBetween 10 = .ok (.iconst 1, 1) := dk_4 (dk_at dksX1_isBetween_0 10 rfl rfl)
theorem dX1_isBetween_11 : decode cX1_isBetween 11 = .ok (.goto 4, 3) := dk_167 0 4 (dk_at dksX1_isBetween_0 11 rfl rfl)
theorem dX1_isBetween_14 : decode cX1_isBetween 14 = .ok (.iconst 0, 1) := dk_3 (dk_at dksX1_isBetween_0 14 rfl rfl)
theorem dX1_isBetween_15 : decode cX1_isBetween 15 = .ok (.ireturn, 1) := dk_172 (dk_at dksX1_isBetween_0 15 rfl rfl)
abbrev cX1_errors : ByteArray := prog_1_method_67_code
def yX1_errors : MethodName := ⟨RX1, "errors", "()I"⟩
def dkwX1_errors_11 : List UInt8 := [27, 172]
abbrev dktX1_errors_11 : List UInt8 := dkwX1_errors_11 ++ []
def dkwX1_errors_10 : List UInt8 := [25, 8, 180, 1, 207, 161, 0, 7, 4, 167, 0, 4, 3, 96, 60, 167, 255, 200, 167, 255, 161, 167, 255, 15]
abbrev dktX1_errors_10 : List UInt8 := dkwX1_errors_10 ++ dktX1_errors_11
def dkwX1_errors_9 : List UInt8 := [192, 1, 9, 58, 8, 27, 25, 6, 180, 1, 210, 25, 8, 180, 1, 210, 162, 0, 20, 25, 6, 180, 1, 207]
abbrev dktX1_errors_9 : List UInt8 := dkwX1_errors_9 ++ dktX1_errors_10
def dkwX1_errors_8 : List UInt8 := [185, 0, 158, 1, 0, 58, 7, 25, 7, 185, 0, 162, 1, 0, 153, 0, 52, 25, 7, 185, 0, 167, 1, 0]
abbrev dktX1_errors_8 : List UInt8 := dkwX1_errors_8 ++ dktX1_errors_9
def dkwX1_errors_7 : List UInt8 := [153, 0, 91, 25, 5, 185, 0, 167, 1, 0, 192, 1, 9, 58, 6, 45, 180, 1, 14, 180, 1, 18]
abbrev dktX1_errors_7 : List UInt8 := dkwX1_errors_7 ++ dktX1_errors_8
def dkwX1_errors_6 : List UInt8 := [167, 255, 235, 45, 180, 1, 14, 180, 1, 18, 185, 0, 158, 1, 0, 58, 5, 25, 5, 185, 0, 162, 1, 0]
abbrev dktX1_errors_6 : List UInt8 := dkwX1_errors_6 ++ dktX1_errors_7
def dkwX1_errors_5 : List UInt8 := [54, 5, 21, 5, 45, 180, 1, 67, 162, 0, 18, 27, 45, 21, 5, 184, 2, 11, 96, 60, 132, 5, 1]
abbrev dktX1_errors_5 : List UInt8 := dkwX1_errors_5 ++ dktX1_errors_6
def dkwX1_errors_4 : List UInt8 := [21, 4, 45, 182, 1, 195, 45, 182, 1, 195, 4, 96, 104, 160, 0, 7, 3, 167, 0, 4, 4, 96, 60, 3]
abbrev dktX1_errors_4 : List UInt8 := dkwX1_errors_4 ++ dktX1_errors_5
def dkwX1_errors_3 : List UInt8 := [185, 0, 167, 1, 0, 192, 1, 9, 58, 6, 21, 4, 25, 6, 180, 1, 207, 96, 54, 4, 167, 255, 224, 27]
abbrev dktX1_errors_3 : List UInt8 := dkwX1_errors_3 ++ dktX1_errors_4
def dkwX1_errors_2 : List UInt8 := [180, 0, 189, 185, 0, 158, 1, 0, 58, 5, 25, 5, 185, 0, 162, 1, 0, 153, 0, 28, 25, 5]
abbrev dktX1_errors_2 : List UInt8 := dkwX1_errors_2 ++ dktX1_errors_3
def dkwX1_errors_1 : List UInt8 := [185, 0, 167, 1, 0, 192, 0, 184, 78, 45, 180, 1, 224, 154, 0, 6, 167, 255, 230, 3, 54, 4, 45]
abbrev dktX1_errors_1 : List UInt8 := dkwX1_errors_1 ++ dktX1_errors_2
def dkwX1_errors_0 : List UInt8 := [3, 60, 42, 180, 0, 49, 185, 0, 158, 1, 0, 77, 44, 185, 0, 162, 1, 0, 153, 0, 238, 44]
abbrev dktX1_errors_0 : List UInt8 := dkwX1_errors_0 ++ dktX1_errors_1
theorem dksX1_errors_0 : cX1_errors.data.toList.drop 0 = dktX1_errors_0 := by decide +kernel
theorem dksX1_errors_1 : cX1_errors.data.toList.drop 22 = dktX1_errors_1 := dk_seg dksX1_errors_0 22 rfl rfl
theorem dksX1_errors_2 : cX1_errors.data.toList.drop 45 = dktX1_errors_2 := dk_seg dksX1_errors_1 23 rfl rfl
theorem dksX1_errors_3 : cX1_errors.data.toList.drop 67 = dktX1_errors_3 := dk_seg dksX1_errors_2 22 rfl rfl
theorem dksX1_errors_4 : cX1_errors.data.toList.drop 91 = dktX1_errors_4 := dk_seg dksX1_errors_3 24 rfl rfl
theorem dksX1_errors_5 : cX1_errors.data.toList.drop 115 = dktX1_errors_5 := dk_seg dksX1_errors_4 24 rfl rfl
theorem dksX1_errors_6 : cX1_errors.data.toList.drop 138 = dktX1_errors_6 := dk_seg dksX1_errors_5 23 rfl rfl
theorem dksX1_errors_7 : cX1_errors.data.toList.drop 162 = dktX1_errors_7 := dk_seg dksX1_errors_6 24 rfl rfl
theorem dksX1_errors_8 : cX1_errors.data.toList.drop 184 = dktX1_errors_8 := dk_seg dksX1_errors_7 22 rfl rfl
theorem dksX1_errors_9 : cX1_errors.data.toList.drop 208 = dktX1_errors_9 := dk_seg dksX1_errors_8 24 rfl rfl
theorem dksX1_errors_10 : cX1_errors.data.toList.drop 232 = dktX1_errors_10 := dk_seg dksX1_errors_9 24 rfl rfl
theorem dksX1_errors_11 : cX1_errors.data.toList.drop 256 = dktX1_errors_11 := dk_seg dksX1_errors_10 24 rfl rfl
theorem dX1_errors_0 : decode cX1_errors 0 = .ok (.iconst 0, 1) := dk_3 (dk_at dksX1_errors_0 0 rfl rfl)
theorem dX1_errors_1 : decode cX1_errors 1 = .ok (.istore_n 1, 1) := dk_60 (dk_at dksX1_errors_0 1 rfl rfl)
theorem dX1_errors_2 : decode cX1_errors 2 = .ok (.aload_n 0, 1) := dk_42 (dk_at dksX1_errors_0 2 rfl rfl)
theorem dX1_errors_3 : decode cX1_errors 3 = .ok (.getfield 49, 3) := dk_180 0 49 (dk_at dksX1_errors_0 3 rfl rfl)
theorem dX1_errors_6 : decode cX1_errors 6 = .ok (.invokeinterface 158 1, 5) := by decide +kernel
theorem dX1_errors_11 : decode cX1_errors 11 = .ok (.astore_n 2, 1) := dk_77 (dk_at dksX1_errors_0 11 rfl rfl)
theorem dX1_errors_12 : decode cX1_errors 12 = .ok (.aload_n 2, 1) := dk_44 (dk_at dksX1_errors_0 12 rfl rfl)
theorem dX1_errors_13 : decode cX1_errors 13 = .ok (.invokeinterface 162 1, 5) := by decide +kernel
theorem dX1_errors_18 : decode cX1_errors 18 = .ok (.ifCond .eq 238, 3) := dk_153 0 238 (dk_at dksX1_errors_0 18 rfl rfl)
theorem dX1_errors_21 : decode cX1_errors 21 = .ok (.aload_n 2, 1) := dk_44 (dk_at dksX1_errors_0 21 rfl rfl)
theorem dX1_errors_22 : decode cX1_errors 22 = .ok (.invokeinterface 167 1, 5) := by decide +kernel
theorem dX1_errors_27 : decode cX1_errors 27 = .ok (.checkcast 184, 3) := dk_192 0 184 (dk_at dksX1_errors_1 5 rfl rfl)
theorem dX1_errors_30 : decode cX1_errors 30 = .ok (.astore_n 3, 1) := dk_78 (dk_at dksX1_errors_1 8 rfl rfl)
theorem dX1_errors_31 : decode cX1_errors 31 = .ok (.aload_n 3, 1) := dk_45 (dk_at dksX1_errors_1 9 rfl rfl)
theorem dX1_errors_32 : decode cX1_errors 32 = .ok (.getfield 480, 3) := dk_180 1 224 (dk_at dksX1_errors_1 10 rfl rfl)
theorem dX1_errors_35 : decode cX1_errors 35 = .ok (.ifCond .ne 6, 3) := dk_154 0 6 (dk_at dksX1_errors_1 13 rfl rfl)
theorem dX1_errors_38 : decode cX1_errors 38 = .ok (.goto (-26), 3) := dk_167 255 230 (dk_at dksX1_errors_1 16 rfl rfl)
theorem dX1_errors_41 : decode cX1_errors 41 = .ok (.iconst 0, 1) := dk_3 (dk_at dksX1_errors_1 19 rfl rfl)
theorem dX1_errors_42 : decode cX1_errors 42 = .ok (.istore 4, 2) := dk_54 4 (dk_at dksX1_errors_1 20 rfl rfl)
theorem dX1_errors_44 : decode cX1_errors 44 = .ok (.aload_n 3, 1) := dk_45 (dk_at dksX1_errors_1 22 rfl rfl)
theorem dX1_errors_45 : decode cX1_errors 45 = .ok (.getfield 189, 3) := dk_180 0 189 (dk_at dksX1_errors_2 0 rfl rfl)
theorem dX1_errors_48 : decode cX1_errors 48 = .ok (.invokeinterface 158 1, 5) := by decide +kernel
theorem dX1_errors_53 : decode cX1_errors 53 = .ok (.astore 5, 2) := dk_58 5 (dk_at dksX1_errors_2 8 rfl rfl)
theorem dX1_errors_55 : decode cX1_errors 55 = .ok (.aload 5, 2) := dk_25 5 (dk_at dksX1_errors_2 10 rfl rfl)
theorem dX1_errors_57 : decode cX1_errors 57 = .ok (.invokeinterface 162 1, 5) := by decide +kernel
theorem dX1_errors_62 : decode cX1_errors 62 = .ok (.ifCond .eq 28, 3) := dk_153 0 28 (dk_at dksX1_errors_2 17 rfl rfl)
theorem dX1_errors_65 : decode cX1_errors 65 = .ok (.aload 5, 2) := dk_25 5 (dk_at dksX1_errors_2 20 rfl rfl)
theorem dX1_errors_67 : decode cX1_errors 67 = .ok (.invokeinterface 167 1, 5) := by decide +kernel
theorem dX1_errors_72 : decode cX1_errors 72 = .ok (.checkcast 265, 3) := dk_192 1 9 (dk_at dksX1_errors_3 5 rfl rfl)
theorem dX1_errors_75 : decode cX1_errors 75 = .ok (.astore 6, 2) := dk_58 6 (dk_at dksX1_errors_3 8 rfl rfl)
theorem dX1_errors_77 : decode cX1_errors 77 = .ok (.iload 4, 2) := dk_21 4 (dk_at dksX1_errors_3 10 rfl rfl)
theorem dX1_errors_79 : decode cX1_errors 79 = .ok (.aload 6, 2) := dk_25 6 (dk_at dksX1_errors_3 12 rfl rfl)
theorem dX1_errors_81 : decode cX1_errors 81 = .ok (.getfield 463, 3) := dk_180 1 207 (dk_at dksX1_errors_3 14 rfl rfl)
theorem dX1_errors_84 : decode cX1_errors 84 = .ok (.iadd, 1) := dk_96 (dk_at dksX1_errors_3 17 rfl rfl)
theorem dX1_errors_85 : decode cX1_errors 85 = .ok (.istore 4, 2) := dk_54 4 (dk_at dksX1_errors_3 18 rfl rfl)
theorem dX1_errors_87 : decode cX1_errors 87 = .ok (.goto (-32), 3) := dk_167 255 224 (dk_at dksX1_errors_3 20 rfl rfl)
theorem dX1_errors_90 : decode cX1_errors 90 = .ok (.iload_n 1, 1) := dk_27 (dk_at dksX1_errors_3 23 rfl rfl)
theorem dX1_errors_91 : decode cX1_errors 91 = .ok (.iload 4, 2) := dk_21 4 (dk_at dksX1_errors_4 0 rfl rfl)
theorem dX1_errors_93 : decode cX1_errors 93 = .ok (.aload_n 3, 1) := dk_45 (dk_at dksX1_errors_4 2 rfl rfl)
theorem dX1_errors_94 : decode cX1_errors 94 = .ok (.invokevirtual 451, 3) := dk_182 1 195 (dk_at dksX1_errors_4 3 rfl rfl)
theorem dX1_errors_97 : decode cX1_errors 97 = .ok (.aload_n 3, 1) := dk_45 (dk_at dksX1_errors_4 6 rfl rfl)
theorem dX1_errors_98 : decode cX1_errors 98 = .ok (.invokevirtual 451, 3) := dk_182 1 195 (dk_at dksX1_errors_4 7 rfl rfl)
theorem dX1_errors_101 : decode cX1_errors 101 = .ok (.iconst 1, 1) := dk_4 (dk_at dksX1_errors_4 10 rfl rfl)
theorem dX1_errors_102 : decode cX1_errors 102 = .ok (.iadd, 1) := dk_96 (dk_at dksX1_errors_4 11 rfl rfl)
theorem dX1_errors_103 : decode cX1_errors 103 = .ok (.imul, 1) := dk_104 (dk_at dksX1_errors_4 12 rfl rfl)
theorem dX1_errors_104 : decode cX1_errors 104 = .ok (.if_icmp .ne 7, 3) := dk_160 0 7 (dk_at dksX1_errors_4 13 rfl rfl)
theorem dX1_errors_107 : decode cX1_errors 107 = .ok (.iconst 0, 1) := dk_3 (dk_at dksX1_errors_4 16 rfl rfl)
theorem dX1_errors_108 : decode cX1_errors 108 = .ok (.goto 4, 3) := dk_167 0 4 (dk_at dksX1_errors_4 17 rfl rfl)
theorem dX1_errors_111 : decode cX1_errors 111 = .ok (.iconst 1, 1) := dk_4 (dk_at dksX1_errors_4 20 rfl rfl)
theorem dX1_errors_112 : decode cX1_errors 112 = .ok (.iadd, 1) := dk_96 (dk_at dksX1_errors_4 21 rfl rfl)
theorem dX1_errors_113 : decode cX1_errors 113 = .ok (.istore_n 1, 1) := dk_60 (dk_at dksX1_errors_4 22 rfl rfl)
theorem dX1_errors_114 : decode cX1_errors 114 = .ok (.iconst 0, 1) := dk_3 (dk_at dksX1_errors_4 23 rfl rfl)
theorem dX1_errors_115 : decode cX1_errors 115 = .ok (.istore 5, 2) := dk_54 5 (dk_at dksX1_errors_5 0 rfl rfl)
theorem dX1_errors_117 : decode cX1_errors 117 = .ok (.iload 5, 2) := dk_21 5 (dk_at dksX1_errors_5 2 rfl rfl)
theorem dX1_errors_119 : decode cX1_errors 119 = .ok (.aload_n 3, 1) := dk_45 (dk_at dksX1_errors_5 4 rfl rfl)
theorem dX1_errors_120 : decode cX1_errors 120 = .ok (.getfield 323, 3) := dk_180 1 67 (dk_at dksX1_errors_5 5 rfl rfl)
theorem dX1_errors_123 : decode cX1_errors 123 = .ok (.if_icmp .ge 18, 3) := dk_162 0 18 (dk_at dksX1_errors_5 8 rfl rfl)
theorem dX1_errors_126 : decode cX1_errors 126 = .ok (.iload_n 1, 1) := dk_27 (dk_at dksX1_errors_5 11 rfl rfl)
theorem dX1_errors_127 : decode cX1_errors 127 = .ok (.aload_n 3, 1) := dk_45 (dk_at dksX1_errors_5 12 rfl rfl)
theorem dX1_errors_128 : decode cX1_errors 128 = .ok (.iload 5, 2) := dk_21 5 (dk_at dksX1_errors_5 13 rfl rfl)
theorem dX1_errors_130 : decode cX1_errors 130 = .ok (.invokestatic 523, 3) := dk_184 2 11 (dk_at dksX1_errors_5 15 rfl rfl)
theorem dX1_errors_133 : decode cX1_errors 133 = .ok (.iadd, 1) := dk_96 (dk_at dksX1_errors_5 18 rfl rfl)
theorem dX1_errors_134 : decode cX1_errors 134 = .ok (.istore_n 1, 1) := dk_60 (dk_at dksX1_errors_5 19 rfl rfl)
theorem dX1_errors_135 : decode cX1_errors 135 = .ok (.iinc 5 1, 3) := dk_132 5 1 (dk_at dksX1_errors_5 20 rfl rfl)
theorem dX1_errors_138 : decode cX1_errors 138 = .ok (.goto (-21), 3) := dk_167 255 235 (dk_at dksX1_errors_6 0 rfl rfl)
theorem dX1_errors_141 : decode cX1_errors 141 = .ok (.aload_n 3, 1) := dk_45 (dk_at dksX1_errors_6 3 rfl rfl)
theorem dX1_errors_142 : decode cX1_errors 142 = .ok (.getfield 270, 3) := dk_180 1 14 (dk_at dksX1_errors_6 4 rfl rfl)
theorem dX1_errors_145 : decode cX1_errors 145 = .ok (.getfield 274, 3) := dk_180 1 18 (dk_at dksX1_errors_6 7 rfl rfl)
theorem dX1_errors_148 : decode cX1_errors 148 = .ok (.invokeinterface 158 1, 5) := by decide +kernel
theorem dX1_errors_153 : decode cX1_errors 153 = .ok (.astore 5, 2) := dk_58 5 (dk_at dksX1_errors_6 15 rfl rfl)
theorem dX1_errors_155 : decode cX1_errors 155 = .ok (.aload 5, 2) := dk_25 5 (dk_at dksX1_errors_6 17 rfl rfl)
theorem dX1_errors_157 : decode cX1_errors 157 = .ok (.invokeinterface 162 1, 5) := by decide +kernel
theorem dX1_errors_162 : decode cX1_errors 162 = .ok (.ifCond .eq 91, 3) := dk_153 0 91 (dk_at dksX1_errors_7 0 rfl rfl)
theorem dX1_errors_165 : decode cX1_errors 165 = .ok (.aload 5, 2) := dk_25 5 (dk_at dksX1_errors_7 3 rfl rfl)
theorem dX1_errors_167 : decode cX1_errors 167 = .ok (.invokeinterface 167 1, 5) := by decide +kernel
theorem dX1_errors_172 : decode cX1_errors 172 = .ok (.checkcast 265, 3) := dk_192 1 9 (dk_at dksX1_errors_7 10 rfl rfl)
theorem dX1_errors_175 : decode cX1_errors 175 = .ok (.astore 6, 2) := dk_58 6 (dk_at dksX1_errors_7 13 rfl rfl)
theorem dX1_errors_177 : decode cX1_errors 177 = .ok (.aload_n 3, 1) := dk_45 (dk_at dksX1_errors_7 15 rfl rfl)
theorem dX1_errors_178 : decode cX1_errors 178 = .ok (.getfield 270, 3) := dk_180 1 14 (dk_at dksX1_errors_7 16 rfl rfl)
theorem dX1_errors_181 : decode cX1_errors 181 = .ok (.getfield 274, 3) := dk_180 1 18 (dk_at dksX1_errors_7 19 rfl rfl)
theorem dX1_errors_184 : decode cX1_errors 184 = .ok (.invokeinterface 158 1, 5) := by decide +kernel
theorem dX1_errors_189 : decode cX1_errors 189 = .ok (.astore 7, 2) := dk_58 7 (dk_at dksX1_errors_8 5 rfl rfl)
theorem dX1_errors_191 : decode cX1_errors 191 = .ok (.aload 7, 2) := dk_25 7 (dk_at dksX1_errors_8 7 rfl rfl)
theorem dX1_errors_193 : decode cX1_errors 193 = .ok (.invokeinterface 162 1, 5) := by decide +kernel
theorem dX1_errors_198 : decode cX1_errors 198 = .ok (.ifCond .eq 52, 3) := dk_153 0 52 (dk_at dksX1_errors_8 14 rfl rfl)
theorem dX1_errors_201 : decode cX1_errors 201 = .ok (.aload 7, 2) := dk_25 7 (dk_at dksX1_errors_8 17 rfl rfl)
theorem dX1_errors_203 : decode cX1_errors 203 = .ok (.invokeinterface 167 1, 5) := by decide +kernel
theorem dX1_errors_208 : decode cX1_errors 208 = .ok (.checkcast 265, 3) := dk_192 1 9 (dk_at dksX1_errors_9 0 rfl rfl)
theorem dX1_errors_211 : decode cX1_errors 211 = .ok (.astore 8, 2) := dk_58 8 (dk_at dksX1_errors_9 3 rfl rfl)
theorem dX1_errors_213 : decode cX1_errors 213 = .ok (.iload_n 1, 1) := dk_27 (dk_at dksX1_errors_9 5 rfl rfl)
theorem dX1_errors_214 : decode cX1_errors 214 = .ok (.aload 6, 2) := dk_25 6 (dk_at dksX1_errors_9 6 rfl rfl)
theorem dX1_errors_216 : decode cX1_errors 216 = .ok (.getfield 466, 3) := dk_180 1 210 (dk_at dksX1_errors_9 8 rfl rfl)
theorem dX1_errors_219 : decode cX1_errors 219 = .ok (.aload 8, 2) := dk_25 8 (dk_at dksX1_errors_9 11 rfl rfl)
theorem dX1_errors_221 : decode cX1_errors 221 = .ok (.getfield 466, 3) := dk_180 1 210 (dk_at dksX1_errors_9 13 rfl rfl)
theorem dX1_errors_224 : decode cX1_errors 224 = .ok (.if_icmp .ge 20, 3) := dk_162 0 20 (dk_at dksX1_errors_9 16 rfl rfl)
theorem dX1_errors_227 : decode cX1_errors 227 = .ok (.aload 6, 2) := dk_25 6 (dk_at dksX1_errors_9 19 rfl rfl)
theorem dX1_errors_229 : decode cX1_errors 229 = .ok (.getfield 463, 3) := dk_180 1 207 (dk_at dksX1_errors_9 21 rfl rfl)
theorem dX1_errors_232 : decode cX1_errors 232 = .ok (.aload 8, 2) := dk_25 8 (dk_at dksX1_errors_10 0 rfl rfl)
theorem dX1_errors_234 : decode cX1_errors 234 = .ok (.getfield 463, 3) := dk_180 1 207 (dk_at dksX1_errors_10 2 rfl rfl)
theorem dX1_errors_237 : decode cX1_errors 237 = .ok (.if_icmp .lt 7, 3) := dk_161 0 7 (dk_at dksX1_errors_10 5 rfl rfl)
theorem dX1_errors_240 : decode cX1_errors 240 = .ok (.iconst 1, 1) := dk_4 (dk_at dksX1_errors_10 8 rfl rfl)
theorem dX1_errors_241 : decode cX1_errors 241 = .ok (.goto 4, 3) := dk_167 0 4 (dk_at dksX1_errors_10 9 rfl rfl)
theorem dX1_errors_244 : decode cX1_errors 244 = .ok (.iconst 0, 1) := dk_3 (dk_at dksX1_errors_10 12 rfl rfl)
theorem dX1_errors_245 : decode cX1_errors 245 = .ok (.iadd, 1) := dk_96 (dk_at dksX1_errors_10 13 rfl rfl)
theorem dX1_errors_246 : decode cX1_errors 246 = .ok (.istore_n 1, 1) := dk_60 (dk_at dksX1_errors_10 14 rfl rfl)
theorem dX1_errors_247 : decode cX1_errors 247 = .ok (.goto (-56), 3) := dk_167 255 200 (dk_at dksX1_errors_10 15 rfl rfl)
theorem dX1_errors_250 : decode cX1_errors 250 = .ok (.goto (-95), 3) := dk_167 255 161 (dk_at dksX1_errors_10 18 rfl rfl)
theorem dX1_errors_253 : decode cX1_errors 253 = .ok (.goto (-241), 3) := dk_167 255 15 (dk_at dksX1_errors_10 21 rfl rfl)
theorem dX1_errors_256 : decode cX1_errors 256 = .ok (.iload_n 1, 1) := dk_27 (dk_at dksX1_errors_11 0 rfl rfl)
theorem dX1_errors_257 : decode cX1_errors 257 = .ok (.ireturn, 1) := dk_172 (dk_at dksX1_errors_11 1 rfl rfl)
abbrev cX1_errorsIn : ByteArray := prog_1_method_66_code
def yX1_errorsIn : MethodName := ⟨RX1, "errorsIn", "(LScrutineery$Event;I)I"⟩
def dkwX1_errorsIn_6 : List UInt8 := [185, 0, 13, 1, 0, 44, 185, 0, 13, 1, 0, 4, 96, 104, 160, 0, 7, 3, 167, 0, 4, 4, 96, 172]
abbrev dktX1_errorsIn_6 : List UInt8 := dkwX1_errorsIn_6 ++ []
def dkwX1_errorsIn_5 : List UInt8 := [167, 0, 4, 4, 96, 54, 4, 132, 7, 1, 167, 255, 187, 132, 6, 1, 167, 255, 146, 21, 4, 21, 5, 44]
abbrev dktX1_errorsIn_5 : List UInt8 := dkwX1_errorsIn_5 ++ dktX1_errorsIn_6
def dkwX1_errorsIn_4 : List UInt8 := [21, 6, 185, 0, 29, 2, 0, 192, 1, 9, 180, 1, 233, 27, 46, 184, 1, 239, 160, 0, 7, 3]
abbrev dktX1_errorsIn_4 : List UInt8 := dkwX1_errorsIn_4 ++ dktX1_errorsIn_5
def dkwX1_errorsIn_3 : List UInt8 := [45, 21, 6, 46, 184, 1, 239, 44, 21, 7, 185, 0, 29, 2, 0, 192, 1, 9, 180, 1, 233, 27, 46, 44]
abbrev dktX1_errorsIn_3 : List UInt8 := dkwX1_errorsIn_3 ++ dktX1_errorsIn_4
def dkwX1_errorsIn_2 : List UInt8 := [180, 1, 233, 27, 46, 96, 54, 5, 3, 54, 7, 21, 7, 21, 6, 162, 0, 68, 21, 4, 45, 21, 7, 46]
abbrev dktX1_errorsIn_2 : List UInt8 := dkwX1_errorsIn_2 ++ dktX1_errorsIn_3
def dkwX1_errorsIn_1 : List UInt8 := [21, 6, 44, 185, 0, 13, 1, 0, 162, 0, 105, 21, 5, 44, 21, 6, 185, 0, 29, 2, 0, 192, 1, 9]
abbrev dktX1_errorsIn_1 : List UInt8 := dkwX1_errorsIn_1 ++ dktX1_errorsIn_2
def dkwX1_errorsIn_0 : List UInt8 := [42, 180, 1, 14, 180, 1, 18, 77, 42, 27, 182, 2, 7, 78, 3, 54, 4, 3, 54, 5, 3, 54, 6]
abbrev dktX1_errorsIn_0 : List UInt8 := dkwX1_errorsIn_0 ++ dktX1_errorsIn_1
theorem dksX1_errorsIn_0 : cX1_errorsIn.data.toList.drop 0 = dktX1_errorsIn_0 := by decide +kernel
theorem dksX1_errorsIn_1 : cX1_errorsIn.data.toList.drop 23 = dktX1_errorsIn_1 := dk_seg dksX1_errorsIn_0 23 rfl rfl
theorem dksX1_errorsIn_2 : cX1_errorsIn.data.toList.drop 47 = dktX1_errorsIn_2 := dk_seg dksX1_errorsIn_1 24 rfl rfl
theorem dksX1_errorsIn_3 : cX1_errorsIn.data.toList.drop 71 = dktX1_errorsIn_3 := dk_seg dksX1_errorsIn_2 24 rfl rfl
theorem dksX1_errorsIn_4 : cX1_errorsIn.data.toList.drop 95 = dktX1_errorsIn_4 := dk_seg dksX1_errorsIn_3 24 rfl rfl
theorem dksX1_errorsIn_5 : cX1_errorsIn.data.toList.drop 117 = dktX1_errorsIn_5 := dk_seg dksX1_errorsIn_4 22 rfl rfl
theorem dksX1_errorsIn_6 : cX1_errorsIn.data.toList.drop 141 = dktX1_errorsIn_6 := dk_seg dksX1_errorsIn_5 24 rfl rfl
theorem dX1_errorsIn_0 : decode cX1_errorsIn 0 = .ok (.aload_n 0, 1) := dk_42 (dk_at dksX1_errorsIn_0 0 rfl rfl)
theorem dX1_errorsIn_1 : decode cX1_errorsIn 1 = .ok (.getfield 270, 3) := dk_180 1 14 (dk_at dksX1_errorsIn_0 1 rfl rfl)
theorem dX1_errorsIn_4 : decode cX1_errorsIn 4 = .ok (.getfield 274, 3) := dk_180 1 18 (dk_at dksX1_errorsIn_0 4 rfl rfl)
theorem dX1_errorsIn_7 : decode cX1_errorsIn 7 = .ok (.astore_n 2, 1) := dk_77 (dk_at dksX1_errorsIn_0 7 rfl rfl)
theorem dX1_errorsIn_8 : decode cX1_errorsIn 8 = .ok (.aload_n 0, 1) := dk_42 (dk_at dksX1_errorsIn_0 8 rfl rfl)
theorem dX1_errorsIn_9 : decode cX1_errorsIn 9 = .ok (.iload_n 1, 1) := dk_27 (dk_at dksX1_errorsIn_0 9 rfl rfl)
theorem dX1_errorsIn_10 : decode cX1_errorsIn 10 = .ok (.invokevirtual 519, 3) := dk_182 2 7 (dk_at dksX1_errorsIn_0 10 rfl rfl)
theorem dX1_errorsIn_13 : decode cX1_errorsIn 13 = .ok (.astore_n 3, 1) := dk_78 (dk_at dksX1_errorsIn_0 13 rfl rfl)
theorem dX1_errorsIn_14 : decode cX1_errorsIn 14 = .ok (.iconst 0, 1) := dk_3 (dk_at dksX1_errorsIn_0 14 rfl rfl)
theorem dX1_errorsIn_15 : decode cX1_errorsIn 15 = .ok (.istore 4, 2) := dk_54 4 (dk_at dksX1_errorsIn_0 15 rfl rfl)
theorem dX1_errorsIn_17 : decode cX1_errorsIn 17 = .ok (.iconst 0, 1) := dk_3 (dk_at dksX1_errorsIn_0 17 rfl rfl)
theorem dX1_errorsIn_18 : decode cX1_errorsIn 18 = .ok (.istore 5, 2) := dk_54 5 (dk_at dksX1_errorsIn_0 18 rfl rfl)
theorem dX1_errorsIn_20 : decode cX1_errorsIn 20 = .ok (.iconst 0, 1) := dk_3 (dk_at dksX1_errorsIn_0 20 rfl rfl)
theorem dX1_errorsIn_21 : decode cX1_errorsIn 21 = .ok (.istore 6, 2) := dk_54 6 (dk_at dksX1_errorsIn_0 21 rfl rfl)
theorem dX1_errorsIn_23 : decode cX1_errorsIn 23 = .ok (.iload 6, 2) := dk_21 6 (dk_at dksX1_errorsIn_1 0 rfl rfl)
theorem dX1_errorsIn_25 : decode cX1_errorsIn 25 = .ok (.aload_n 2, 1) := dk_44 (dk_at dksX1_errorsIn_1 2 rfl rfl)
theorem dX1_errorsIn_26 : decode cX1_errorsIn 26 = .ok (.invokeinterface 13 1, 5) := by decide +kernel
theorem dX1_errorsIn_31 : decode cX1_errorsIn 31 = .ok (.if_icmp .ge 105, 3) := dk_162 0 105 (dk_at dksX1_errorsIn_1 8 rfl rfl)
theorem dX1_errorsIn_34 : decode cX1_errorsIn 34 = .ok (.iload 5, 2) := dk_21 5 (dk_at dksX1_errorsIn_1 11 rfl rfl)
theorem dX1_errorsIn_36 : decode cX1_errorsIn 36 = .ok (.aload_n 2, 1) := dk_44 (dk_at dksX1_errorsIn_1 13 rfl rfl)
theorem dX1_errorsIn_37 : decode cX1_errorsIn 37 = .ok (.iload 6, 2) := dk_21 6 (dk_at dksX1_errorsIn_1 14 rfl rfl)
theorem dX1_errorsIn_39 : decode cX1_errorsIn 39 = .ok (.invokeinterface 29 2, 5) := by decide +kernel
theorem dX1_errorsIn_44 : decode cX1_errorsIn 44 = .ok (.checkcast 265, 3) := dk_192 1 9 (dk_at dksX1_errorsIn_1 21 rfl rfl)
theorem dX1_errorsIn_47 : decode cX1_errorsIn 47 = .ok (.getfield 489, 3) := dk_180 1 233 (dk_at dksX1_errorsIn_2 0 rfl rfl)
theorem dX1_errorsIn_50 : decode cX1_errorsIn 50 = .ok (.iload_n 1, 1) := dk_27 (dk_at dksX1_errorsIn_2 3 rfl rfl)
theorem dX1_errorsIn_51 : decode cX1_errorsIn 51 = .ok (.iaload, 1) := dk_46 (dk_at dksX1_errorsIn_2 4 rfl rfl)
theorem dX1_errorsIn_52 : decode cX1_errorsIn 52 = .ok (.iadd, 1) := dk_96 (dk_at dksX1_errorsIn_2 5 rfl rfl)
theorem dX1_errorsIn_53 : decode cX1_errorsIn 53 = .ok (.istore 5, 2) := dk_54 5 (dk_at dksX1_errorsIn_2 6 rfl rfl)
theorem dX1_errorsIn_55 : decode cX1_errorsIn 55 = .ok (.iconst 0, 1) := dk_3 (dk_at dksX1_errorsIn_2 8 rfl rfl)
theorem dX1_errorsIn_56 : decode cX1_errorsIn 56 = .ok (.istore 7, 2) := dk_54 7 (dk_at dksX1_errorsIn_2 9 rfl rfl)
theorem dX1_errorsIn_58 : decode cX1_errorsIn 58 = .ok (.iload 7, 2) := dk_21 7 (dk_at dksX1_errorsIn_2 11 rfl rfl)
theorem dX1_errorsIn_60 : decode cX1_errorsIn 60 = .ok (.iload 6, 2) := dk_21 6 (dk_at dksX1_errorsIn_2 13 rfl rfl)
theorem dX1_errorsIn_62 : decode cX1_errorsIn 62 = .ok (.if_icmp .ge 68, 3) := dk_162 0 68 (dk_at dksX1_errorsIn_2 15 rfl rfl)
theorem dX1_errorsIn_65 : decode cX1_errorsIn 65 = .ok (.iload 4, 2) := dk_21 4 (dk_at dksX1_errorsIn_2 18 rfl rfl)
theorem dX1_errorsIn_67 : decode cX1_errorsIn 67 = .ok (.aload_n 3, 1) := dk_45 (dk_at dksX1_errorsIn_2 20 rfl rfl)
theorem dX1_errorsIn_68 : decode cX1_errorsIn 68 = .ok (.iload 7, 2) := dk_21 7 (dk_at dksX1_errorsIn_2 21 rfl rfl)
theorem dX1_errorsIn_70 : decode cX1_errorsIn 70 = .ok (.iaload, 1) := dk_46 (dk_at dksX1_errorsIn_2 23 rfl rfl)
theorem dX1_errorsIn_71 : decode cX1_errorsIn 71 = .ok (.aload_n 3, 1) := dk_45 (dk_at dksX1_errorsIn_3 0 rfl rfl)
theorem dX1_errorsIn_72 : decode cX1_errorsIn 72 = .ok (.iload 6, 2) := dk_21 6 (dk_at dksX1_errorsIn_3 1 rfl rfl)
theorem dX1_errorsIn_74 : decode cX1_errorsIn 74 = .ok (.iaload, 1) := dk_46 (dk_at dksX1_errorsIn_3 3 rfl rfl)
theorem dX1_errorsIn_75 : decode cX1_errorsIn 75 = .ok (.invokestatic 495, 3) := dk_184 1 239 (dk_at dksX1_errorsIn_3 4 rfl rfl)
theorem dX1_errorsIn_78 : decode cX1_errorsIn 78 = .ok (.aload_n 2, 1) := dk_44 (dk_at dksX1_errorsIn_3 7 rfl rfl)
theorem dX1_errorsIn_79 : decode cX1_errorsIn 79 = .ok (.iload 7, 2) := dk_21 7 (dk_at dksX1_errorsIn_3 8 rfl rfl)
theorem dX1_errorsIn_81 : decode cX1_errorsIn 81 = .ok (.invokeinterface 29 2, 5) := by decide +kernel
theorem dX1_errorsIn_86 : decode cX1_errorsIn 86 = .ok (.checkcast 265, 3) := dk_192 1 9 (dk_at dksX1_errorsIn_3 15 rfl rfl)
theorem dX1_errorsIn_89 : decode cX1_errorsIn 89 = .ok (.getfield 489, 3) := dk_180 1 233 (dk_at dksX1_errorsIn_3 18 rfl rfl)
theorem dX1_errorsIn_92 : decode cX1_errorsIn 92 = .ok (.iload_n 1, 1) := dk_27 (dk_at dksX1_errorsIn_3 21 rfl rfl)
theorem dX1_errorsIn_93 : decode cX1_errorsIn 93 = .ok (.iaload, 1) := dk_46 (dk_at dksX1_errorsIn_3 22 rfl rfl)
theorem dX1_errorsIn_94 : decode cX1_errorsIn 94 = .ok (.aload_n 2, 1) := dk_44 (dk_at dksX1_errorsIn_3 23 rfl rfl)
theorem dX1_errorsIn_95 : decode cX1_errorsIn 95 = .ok (.iload 6, 2) := dk_21 6 (dk_at dksX1_errorsIn_4 0 rfl rfl)
theorem dX1_errorsIn_97 : decode cX1_errorsIn 97 = .ok (.invokeinterface 29 2, 5) := by decide +kernel
theorem dX1_errorsIn_102 : decode cX1_errorsIn 102 = .ok (.checkcast 265, 3) := dk_192 1 9 (dk_at dksX1_errorsIn_4 7 rfl rfl)
theorem dX1_errorsIn_105 : decode cX1_errorsIn 105 = .ok (.getfield 489, 3) := dk_180 1 233 (dk_at dksX1_errorsIn_4 10 rfl rfl)
theorem dX1_errorsIn_108 : decode cX1_errorsIn 108 = .ok (.iload_n 1, 1) := dk_27 (dk_at dksX1_errorsIn_4 13 rfl rfl)
theorem dX1_errorsIn_109 : decode cX1_errorsIn 109 = .ok (.iaload, 1) := dk_46 (dk_at dksX1_errorsIn_4 14 rfl rfl)
theorem dX1_errorsIn_110 : decode cX1_errorsIn 110 = .ok (.invokestatic 495, 3) := dk_184 1 239 (dk_at dksX1_errorsIn_4 15 rfl rfl)
theorem dX1_errorsIn_113 : decode cX1_errorsIn 113 = .ok (.if_icmp .ne 7, 3) := dk_160 0 7 (dk_at dksX1_errorsIn_4 18 rfl rfl)
theorem dX1_errorsIn_116 : decode cX1_errorsIn 116 = .ok (.iconst 0, 1) := dk_3 (dk_at dksX1_errorsIn_4 21 rfl rfl)
theorem dX1_errorsIn_117 : decode cX1_errorsIn 117 = .ok (.goto 4, 3) := dk_167 0 4 (dk_at dksX1_errorsIn_5 0 rfl rfl)
theorem dX1_errorsIn_120 : decode cX1_errorsIn 120 = .ok (.iconst 1, 1) := dk_4 (dk_at dksX1_errorsIn_5 3 rfl rfl)
theorem dX1_errorsIn_121 : decode cX1_errorsIn 121 = .ok (.iadd, 1) := dk_96 (dk_at dksX1_errorsIn_5 4 rfl rfl)
theorem dX1_errorsIn_122 : decode cX1_errorsIn 122 = .ok (.istore 4, 2) := dk_54 4 (dk_at dksX1_errorsIn_5 5 rfl rfl)
theorem dX1_errorsIn_124 : decode cX1_errorsIn 124 = .ok (.iinc 7 1, 3) := dk_132 7 1 (dk_at dksX1_errorsIn_5 7 rfl rfl)
theorem dX1_errorsIn_127 : decode cX1_errorsIn 127 = .ok (.goto (-69), 3) := dk_167 255 187 (dk_at dksX1_errorsIn_5 10 rfl rfl)
theorem dX1_errorsIn_130 : decode cX1_errorsIn 130 = .ok (.iinc 6 1, 3) := dk_132 6 1 (dk_at dksX1_errorsIn_5 13 rfl rfl)
theorem dX1_errorsIn_133 : decode cX1_errorsIn 133 = .ok (.goto (-110), 3) := dk_167 255 146 (dk_at dksX1_errorsIn_5 16 rfl rfl)
theorem dX1_errorsIn_136 : decode cX1_errorsIn 136 = .ok (.iload 4, 2) := dk_21 4 (dk_at dksX1_errorsIn_5 19 rfl rfl)
theorem dX1_errorsIn_138 : decode cX1_errorsIn 138 = .ok (.iload 5, 2) := dk_21 5 (dk_at dksX1_errorsIn_5 21 rfl rfl)
theorem dX1_errorsIn_140 : decode cX1_errorsIn 140 = .ok (.aload_n 2, 1) := dk_44 (dk_at dksX1_errorsIn_5 23 rfl rfl)
theorem dX1_errorsIn_141 : decode cX1_errorsIn 141 = .ok (.invokeinterface 13 1, 5) := by decide +kernel
theorem dX1_errorsIn_146 : decode cX1_errorsIn 146 = .ok (.aload_n 2, 1) := dk_44 (dk_at dksX1_errorsIn_6 5 rfl rfl)
theorem dX1_errorsIn_147 : decode cX1_errorsIn 147 = .ok (.invokeinterface 13 1, 5) := by decide +kernel
theorem dX1_errorsIn_152 : decode cX1_errorsIn 152 = .ok (.iconst 1, 1) := dk_4 (dk_at dksX1_errorsIn_6 11 rfl rfl)
theorem dX1_errorsIn_153 : decode cX1_errorsIn 153 = .ok (.iadd, 1) := dk_96 (dk_at dksX1_errorsIn_6 12 rfl rfl)
theorem dX1_errorsIn_154 : decode cX1_errorsIn 154 = .ok (.imul, 1) := dk_104 (dk_at dksX1_errorsIn_6 13 rfl rfl)
theorem dX1_errorsIn_155 : decode cX1_errorsIn 155 = .ok (.if_icmp .ne 7, 3) := dk_160 0 7 (dk_at dksX1_errorsIn_6 14 rfl rfl)
theorem dX1_errorsIn_158 : decode cX1_errorsIn 158 = .ok (.iconst 0, 1) := dk_3 (dk_at dksX1_errorsIn_6 17 rfl rfl)
theorem dX1_errorsIn_159 : decode cX1_errorsIn 159 = .ok (.goto 4, 3) := dk_167 0 4 (dk_at dksX1_errorsIn_6 18 rfl rfl)
theorem dX1_errorsIn_162 : decode cX1_errorsIn 162 = .ok (.iconst 1, 1) := dk_4 (dk_at dksX1_errorsIn_6 21 rfl rfl)
theorem dX1_errorsIn_163 : decode cX1_errorsIn 163 = .ok (.iadd, 1) := dk_96 (dk_at dksX1_errorsIn_6 22 rfl rfl)
theorem dX1_errorsIn_164 : decode cX1_errorsIn 164 = .ok (.ireturn, 1) := dk_172 (dk_at dksX1_errorsIn_6 23 rfl rfl)
abbrev cX1_meanAge : ByteArray := prog_1_method_68_code
def yX1_meanAge : MethodName := ⟨RX1, "meanAge", "()D"⟩
def dkwX1_meanAge_3 : List UInt8 := [111, 175]
abbrev dktX1_meanAge_3 : List UInt8 := dkwX1_meanAge_3 ++ []
def dkwX1_meanAge_2 : List UInt8 := [185, 0, 192, 1, 0, 153, 0, 7, 14, 167, 0, 16, 27, 135, 42, 180, 0, 39, 185, 0, 13, 1, 0, 135]
abbrev dktX1_meanAge_2 : List UInt8 := dkwX1_meanAge_2 ++ dktX1_meanAge_3
def dkwX1_meanAge_1 : List UInt8 := [185, 0, 167, 1, 0, 192, 0, 88, 78, 27, 45, 180, 1, 180, 96, 60, 167, 255, 230, 42, 180, 0, 39]
abbrev dktX1_meanAge_1 : List UInt8 := dkwX1_meanAge_1 ++ dktX1_meanAge_2
def dkwX1_meanAge_0 : List UInt8 := [3, 60, 42, 180, 0, 39, 185, 0, 158, 1, 0, 77, 44, 185, 0, 162, 1, 0, 153, 0, 23, 44]
abbrev dktX1_meanAge_0 : List UInt8 := dkwX1_meanAge_0 ++ dktX1_meanAge_1
theorem dksX1_meanAge_0 : cX1_meanAge.data.toList.drop 0 = dktX1_meanAge_0 := by decide +kernel
theorem dksX1_meanAge_1 : cX1_meanAge.data.toList.drop 22 = dktX1_meanAge_1 := dk_seg dksX1_meanAge_0 22 rfl rfl
theorem dksX1_meanAge_2 : cX1_meanAge.data.toList.drop 45 = dktX1_meanAge_2 := dk_seg dksX1_meanAge_1 23 rfl rfl
theorem dksX1_meanAge_3 : cX1_meanAge.data.toList.drop 69 = dktX1_meanAge_3 := dk_seg dksX1_meanAge_2 24 rfl rfl
theorem dX1_meanAge_0 : decode cX1_meanAge 0 = .ok (.iconst 0, 1) := dk_3 (dk_at dksX1_meanAge_0 0 rfl rfl)
theorem dX1_meanAge_1 : decode cX1_meanAge 1 = .ok (.istore_n 1, 1) := dk_60 (dk_at dksX1_meanAge_0 1 rfl rfl)
theorem dX1_meanAge_2 : decode cX1_meanAge 2 = .ok (.aload_n 0, 1) := dk_42 (dk_at dksX1_meanAge_0 2 rfl rfl)
theorem dX1_meanAge_3 : decode cX1_meanAge 3 = .ok (.getfield 39, 3) := dk_180 0 39 (dk_at dksX1_meanAge_0 3 rfl rfl)
theorem dX1_meanAge_6 : decode cX1_meanAge 6 = .ok (.invokeinterface 158 1, 5) := by decide +kernel
theorem dX1_meanAge_11 : decode cX1_meanAge 11 = .ok (.astore_n 2, 1) := dk_77 (dk_at dksX1_meanAge_0 11 rfl rfl)
theorem dX1_meanAge_12 : decode cX1_meanAge 12 = .ok (.aload_n 2, 1) := dk_44 (dk_at dksX1_meanAge_0 12 rfl rfl)
theorem dX1_meanAge_13 : decode cX1_meanAge 13 = .ok (.invokeinterface 162 1, 5) := by decide +kernel
theorem dX1_meanAge_18 : decode cX1_meanAge 18 = .ok (.ifCond .eq 23, 3) := dk_153 0 23 (dk_at dksX1_meanAge_0 18 rfl rfl)
theorem dX1_meanAge_21 : decode cX1_meanAge 21 = .ok (.aload_n 2, 1) := dk_44 (dk_at dksX1_meanAge_0 21 rfl rfl)
theorem dX1_meanAge_22 : decode cX1_meanAge 22 = .ok (.invokeinterface 167 1, 5) := by decide +kernel
theorem dX1_meanAge_27 : decode cX1_meanAge 27 = .ok (.checkcast 88, 3) := dk_192 0 88 (dk_at dksX1_meanAge_1 5 rfl rfl)
theorem dX1_meanAge_30 : decode cX1_meanAge 30 = .ok (.astore_n 3, 1) := dk_78 (dk_at dksX1_meanAge_1 8 rfl rfl)
theorem dX1_meanAge_31 : decode cX1_meanAge 31 = .ok (.iload_n 1, 1) := dk_27 (dk_at dksX1_meanAge_1 9 rfl rfl)
theorem dX1_meanAge_32 : decode cX1_meanAge 32 = .ok (.aload_n 3, 1) := dk_45 (dk_at dksX1_meanAge_1 10 rfl rfl)
theorem dX1_meanAge_33 : decode cX1_meanAge 33 = .ok (.getfield 436, 3) := dk_180 1 180 (dk_at dksX1_meanAge_1 11 rfl rfl)
theorem dX1_meanAge_36 : decode cX1_meanAge 36 = .ok (.iadd, 1) := dk_96 (dk_at dksX1_meanAge_1 14 rfl rfl)
theorem dX1_meanAge_37 : decode cX1_meanAge 37 = .ok (.istore_n 1, 1) := dk_60 (dk_at dksX1_meanAge_1 15 rfl rfl)
theorem dX1_meanAge_38 : decode cX1_meanAge 38 = .ok (.goto (-26), 3) := dk_167 255 230 (dk_at dksX1_meanAge_1 16 rfl rfl)
theorem dX1_meanAge_41 : decode cX1_meanAge 41 = .ok (.aload_n 0, 1) := dk_42 (dk_at dksX1_meanAge_1 19 rfl rfl)
theorem dX1_meanAge_42 : decode cX1_meanAge 42 = .ok (.getfield 39, 3) := dk_180 0 39 (dk_at dksX1_meanAge_1 20 rfl rfl)
theorem dX1_meanAge_45 : decode cX1_meanAge 45 = .ok (.invokeinterface 192 1, 5) := by decide +kernel
theorem dX1_meanAge_50 : decode cX1_meanAge 50 = .ok (.ifCond .eq 7, 3) := dk_153 0 7 (dk_at dksX1_meanAge_2 5 rfl rfl)
theorem dX1_meanAge_53 : decode cX1_meanAge 53 = .ok (.dconst 0, 1) := dk_14 (dk_at dksX1_meanAge_2 8 rfl rfl)
theorem dX1_meanAge_54 : decode cX1_meanAge 54 = .ok (.goto 16, 3) := dk_167 0 16 (dk_at dksX1_meanAge_2 9 rfl rfl)
theorem dX1_meanAge_57 : decode cX1_meanAge 57 = .ok (.iload_n 1, 1) := dk_27 (dk_at dksX1_meanAge_2 12 rfl rfl)
theorem dX1_meanAge_58 : decode cX1_meanAge 58 = .ok (.i2d, 1) := dk_135 (dk_at dksX1_meanAge_2 13 rfl rfl)
theorem dX1_meanAge_59 : decode cX1_meanAge 59 = .ok (.aload_n 0, 1) := dk_42 (dk_at dksX1_meanAge_2 14 rfl rfl)
theorem dX1_meanAge_60 : decode cX1_meanAge 60 = .ok (.getfield 39, 3) := dk_180 0 39 (dk_at dksX1_meanAge_2 15 rfl rfl)
theorem dX1_meanAge_63 : decode cX1_meanAge 63 = .ok (.invokeinterface 13 1, 5) := by decide +kernel
theorem dX1_meanAge_68 : decode cX1_meanAge 68 = .ok (.i2d, 1) := dk_135 (dk_at dksX1_meanAge_2 23 rfl rfl)
theorem dX1_meanAge_69 : decode cX1_meanAge 69 = .ok (.ddiv, 1) := dk_111 (dk_at dksX1_meanAge_3 0 rfl rfl)
theorem dX1_meanAge_70 : decode cX1_meanAge 70 = .ok (.dreturn, 1) := dk_175 (dk_at dksX1_meanAge_3 1 rfl rfl)
abbrev cX1_decidedShare : ByteArray := prog_1_method_69_code
def yX1_decidedShare : MethodName := ⟨RX1, "decidedShare", "()F"⟩
def dkwX1_decidedShare_1 : List UInt8 := [180, 0, 49, 185, 0, 13, 1, 0, 134, 110, 174]
abbrev dktX1_decidedShare_1 : List UInt8 := dkwX1_decidedShare_1 ++ []
def dkwX1_decidedShare_0 : List UInt8 := [42, 180, 0, 49, 185, 0, 192, 1, 0, 153, 0, 7, 11, 167, 0, 20, 42, 8, 182, 2, 15, 134, 42]
abbrev dktX1_decidedShare_0 : List UInt8 := dkwX1_decidedShare_0 ++ dktX1_decidedShare_1
theorem dksX1_decidedShare_0 : cX1_decidedShare.data.toList.drop 0 = dktX1_decidedShare_0 := by decide +kernel
theorem dksX1_decidedShare_1 : cX1_decidedShare.data.toList.drop 23 = dktX1_decidedShare_1 := dk_seg dksX1_decidedShare_0 23 rfl rfl
theorem dX1_decidedShare_0 : decode cX1_decidedShare 0 = .ok (.aload_n 0, 1) := dk_42 (dk_at dksX1_decidedShare_0 0 rfl rfl)
theorem dX1_decidedShare_1 : decode cX1_decidedShare 1 = .ok (.getfield 49, 3) := dk_180 0 49 (dk_at dksX1_decidedShare_0 1 rfl rfl)
theorem dX1_decidedShare_4 : decode cX1_decidedShare 4 = .ok (.invokeinterface 192 1, 5) := by decide +kernel
theorem dX1_decidedShare_9 : decode cX1_decidedShare 9 = .ok (.ifCond .eq 7, 3) := dk_153 0 7 (dk_at dksX1_decidedShare_0 9 rfl rfl)
theorem dX1_decidedShare_12 : decode cX1_decidedShare 12 = .ok (.fconst 0, 1) := dk_11 (dk_at dksX1_decidedShare_0 12 rfl rfl)
theorem dX1_decidedShare_13 : decode cX1_decidedShare 13 = .ok (.goto 20, 3) := dk_167 0 20 (dk_at dksX1_decidedShare_0 13 rfl rfl)
theorem dX1_decidedShare_16 : decode cX1_decidedShare 16 = .ok (.aload_n 0, 1) := dk_42 (dk_at dksX1_decidedShare_0 16 rfl rfl)
theorem dX1_decidedShare_17 : decode cX1_decidedShare 17 = .ok (.iconst 5, 1) := dk_8 (dk_at dksX1_decidedShare_0 17 rfl rfl)
theorem dX1_decidedShare_18 : decode cX1_decidedShare 18 = .ok (.invokevirtual 527, 3) := dk_182 2 15 (dk_at dksX1_decidedShare_0 18 rfl rfl)
theorem dX1_decidedShare_21 : decode cX1_decidedShare 21 = .ok (.i2f, 1) := dk_134 (dk_at dksX1_decidedShare_0 21 rfl rfl)
theorem dX1_decidedShare_22 : decode cX1_decidedShare 22 = .ok (.aload_n 0, 1) := dk_42 (dk_at dksX1_decidedShare_0 22 rfl rfl)
theorem dX1_decidedShare_23 : decode cX1_decidedShare 23 = .ok (.getfield 49, 3) := dk_180 0 49 (dk_at dksX1_decidedShare_1 0 rfl rfl)
theorem dX1_decidedShare_26 : decode cX1_decidedShare 26 = .ok (.invokeinterface 13 1, 5) := by decide +kernel
theorem dX1_decidedShare_31 : decode cX1_decidedShare 31 = .ok (.i2f, 1) := dk_134 (dk_at dksX1_decidedShare_1 8 rfl rfl)
theorem dX1_decidedShare_32 : decode cX1_decidedShare 32 = .ok (.fdiv, 1) := dk_110 (dk_at dksX1_decidedShare_1 9 rfl rfl)
theorem dX1_decidedShare_33 : decode cX1_decidedShare 33 = .ok (.freturn, 1) := dk_174 (dk_at dksX1_decidedShare_1 10 rfl rfl)
abbrev cX1_count : ByteArray := prog_1_method_65_code
def yX1_count : MethodName := ⟨RX1, "count", "(I)I"⟩
def dkwX1_count_13 : List UInt8 := [21, 4, 172]
abbrev dktX1_count_13 : List UInt8 := dkwX1_count_13 ++ []
def dkwX1_count_12 : List UInt8 := [180, 0, 55, 185, 0, 13, 1, 0, 167, 0, 17, 42, 180, 0, 43, 185, 0, 13, 1, 0, 167, 0, 5]
abbrev dktX1_count_12 : List UInt8 := dkwX1_count_12 ++ dktX1_count_13
def dkwX1_count_11 : List UInt8 := [29, 167, 0, 48, 42, 180, 0, 79, 167, 0, 41, 42, 180, 0, 52, 185, 0, 13, 1, 0, 167, 0, 29, 42]
abbrev dktX1_count_11 : List UInt8 := dkwX1_count_11 ++ dktX1_count_12
def dkwX1_count_10 : List UInt8 := [185, 0, 13, 1, 0, 167, 0, 68, 28, 167, 0, 64, 42, 180, 0, 49, 185, 0, 13, 1, 0, 167, 0, 52]
abbrev dktX1_count_10 : List UInt8 := dkwX1_count_10 ++ dktX1_count_11
def dkwX1_count_9 : List UInt8 := [42, 180, 0, 75, 167, 0, 92, 42, 180, 0, 39, 185, 0, 13, 1, 0, 167, 0, 80, 42, 180, 0, 46]
abbrev dktX1_count_9 : List UInt8 := dkwX1_count_9 ++ dktX1_count_10
def dkwX1_count_8 : List UInt8 := [170, 0, 0, 0, 0, 0, 0, 150, 0, 0, 0, 0, 0, 0, 0, 9, 0, 0, 0, 56, 0, 0, 0, 63, 0, 0, 0, 75, 0, 0, 0, 87, 0, 0, 0, 91, 0, 0, 0, 103, 0, 0, 0, 107, 0, 0, 0, 114, 0, 0, 0, 126, 0, 0, 0, 138]
abbrev dktX1_count_8 : List UInt8 := dkwX1_count_8 ++ dktX1_count_9
def dkwX1_count_7 : List UInt8 := [54, 4, 167, 255, 224, 27]
abbrev dktX1_count_7 : List UInt8 := dkwX1_count_7 ++ dktX1_count_8
def dkwX1_count_6 : List UInt8 := [153, 0, 28, 25, 5, 185, 0, 167, 1, 0, 192, 0, 88, 58, 6, 21, 4, 25, 6, 180, 0, 155, 96]
abbrev dktX1_count_6 : List UInt8 := dkwX1_count_6 ++ dktX1_count_7
def dkwX1_count_5 : List UInt8 := [96, 62, 167, 255, 218, 42, 180, 0, 39, 185, 0, 158, 1, 0, 58, 5, 25, 5, 185, 0, 162, 1, 0]
abbrev dktX1_count_5 : List UInt8 := dkwX1_count_5 ++ dktX1_count_6
def dkwX1_count_4 : List UInt8 := [185, 0, 167, 1, 0, 192, 0, 184, 58, 6, 29, 25, 6, 180, 1, 224, 153, 0, 7, 4, 167, 0, 4, 3]
abbrev dktX1_count_4 : List UInt8 := dkwX1_count_4 ++ dktX1_count_5
def dkwX1_count_3 : List UInt8 := [42, 180, 0, 49, 185, 0, 158, 1, 0, 58, 5, 25, 5, 185, 0, 162, 1, 0, 153, 0, 34, 25, 5]
abbrev dktX1_count_3 : List UInt8 := dkwX1_count_3 ++ dktX1_count_4
def dkwX1_count_2 : List UInt8 := [192, 0, 171, 58, 6, 28, 25, 6, 180, 0, 173, 153, 0, 7, 4, 167, 0, 4, 3, 96, 61, 167, 255, 218]
abbrev dktX1_count_2 : List UInt8 := dkwX1_count_2 ++ dktX1_count_3
def dkwX1_count_1 : List UInt8 := [185, 0, 158, 1, 0, 58, 5, 25, 5, 185, 0, 162, 1, 0, 153, 0, 34, 25, 5, 185, 0, 167, 1, 0]
abbrev dktX1_count_1 : List UInt8 := dkwX1_count_1 ++ dktX1_count_2
def dkwX1_count_0 : List UInt8 := [27, 3, 16, 10, 184, 0, 19, 184, 0, 82, 3, 61, 3, 62, 3, 54, 4, 42, 180, 0, 46]
abbrev dktX1_count_0 : List UInt8 := dkwX1_count_0 ++ dktX1_count_1
theorem dksX1_count_0 : cX1_count.data.toList.drop 0 = dktX1_count_0 := by decide +kernel
theorem dksX1_count_1 : cX1_count.data.toList.drop 21 = dktX1_count_1 := dk_seg dksX1_count_0 21 rfl rfl
theorem dksX1_count_2 : cX1_count.data.toList.drop 45 = dktX1_count_2 := dk_seg dksX1_count_1 24 rfl rfl
theorem dksX1_count_3 : cX1_count.data.toList.drop 69 = dktX1_count_3 := dk_seg dksX1_count_2 24 rfl rfl
theorem dksX1_count_4 : cX1_count.data.toList.drop 92 = dktX1_count_4 := dk_seg dksX1_count_3 23 rfl rfl
theorem dksX1_count_5 : cX1_count.data.toList.drop 116 = dktX1_count_5 := dk_seg dksX1_count_4 24 rfl rfl
theorem dksX1_count_6 : cX1_count.data.toList.drop 139 = dktX1_count_6 := dk_seg dksX1_count_5 23 rfl rfl
theorem dksX1_count_7 : cX1_count.data.toList.drop 162 = dktX1_count_7 := dk_seg dksX1_count_6 23 rfl rfl
theorem dksX1_count_8 : cX1_count.data.toList.drop 168 = dktX1_count_8 := dk_seg dksX1_count_7 6 rfl rfl
theorem dksX1_count_9 : cX1_count.data.toList.drop 224 = dktX1_count_9 := dk_seg dksX1_count_8 56 rfl rfl
theorem dksX1_count_10 : cX1_count.data.toList.drop 247 = dktX1_count_10 := dk_seg dksX1_count_9 23 rfl rfl
theorem dksX1_count_11 : cX1_count.data.toList.drop 271 = dktX1_count_11 := dk_seg dksX1_count_10 24 rfl rfl
theorem dksX1_count_12 : cX1_count.data.toList.drop 295 = dktX1_count_12 := dk_seg dksX1_count_11 24 rfl rfl
theorem dksX1_count_13 : cX1_count.data.toList.drop 318 = dktX1_count_13 := dk_seg dksX1_count_12 23 rfl rfl
theorem dX1_count_0 : decode cX1_count 0 = .ok (.iload_n 1, 1) := dk_27 (dk_at dksX1_count_0 0 rfl rfl)
theorem dX1_count_1 : decode cX1_count 1 = .ok (.iconst 0, 1) := dk_3 (dk_at dksX1_count_0 1 rfl rfl)
theorem dX1_count_2 : decode cX1_count 2 = .ok (.bipush 10, 2) := dk_16 10 (dk_at dksX1_count_0 2 rfl rfl)
theorem dX1_count_4 : decode cX1_count 4 = .ok (.invokestatic 19, 3) := dk_184 0 19 (dk_at dksX1_count_0 4 rfl rfl)
theorem dX1_count_7 : decode cX1_count 7 = .ok (.invokestatic 82, 3) := dk_184 0 82 (dk_at dksX1_count_0 7 rfl rfl)
theorem dX1_count_10 : decode cX1_count 10 = .ok (.iconst 0, 1) := dk_3 (dk_at dksX1_count_0 10 rfl rfl)
theorem dX1_count_11 : decode cX1_count 11 = .ok (.istore_n 2, 1) := dk_61 (dk_at dksX1_count_0 11 rfl rfl)
theorem dX1_count_12 : decode cX1_count 12 = .ok (.iconst 0, 1) := dk_3 (dk_at dksX1_count_0 12 rfl rfl)
theorem dX1_count_13 : decode cX1_count 13 = .ok (.istore_n 3, 1) := dk_62 (dk_at dksX1_count_0 13 rfl rfl)
theorem dX1_count_14 : decode cX1_count 14 = .ok (.iconst 0, 1) := dk_3 (dk_at dksX1_count_0 14 rfl rfl)
theorem dX1_count_15 : decode cX1_count 15 = .ok (.istore 4, 2) := dk_54 4 (dk_at dksX1_count_0 15 rfl rfl)
theorem dX1_count_17 : decode cX1_count 17 = .ok (.aload_n 0, 1) := dk_42 (dk_at dksX1_count_0 17 rfl rfl)
theorem dX1_count_18 : decode cX1_count 18 = .ok (.getfield 46, 3) := dk_180 0 46 (dk_at dksX1_count_0 18 rfl rfl)
theorem dX1_count_21 : decode cX1_count 21 = .ok (.invokeinterface 158 1, 5) := by decide +kernel
theorem dX1_count_26 : decode cX1_count 26 = .ok (.astore 5, 2) := dk_58 5 (dk_at dksX1_count_1 5 rfl rfl)
theorem dX1_count_28 : decode cX1_count 28 = .ok (.aload 5, 2) := dk_25 5 (dk_at dksX1_count_1 7 rfl rfl)
theorem dX1_count_30 : decode cX1_count 30 = .ok (.invokeinterface 162 1, 5) := by decide +kernel
theorem dX1_count_35 : decode cX1_count 35 = .ok (.ifCond .eq 34, 3) := dk_153 0 34 (dk_at dksX1_count_1 14 rfl rfl)
theorem dX1_count_38 : decode cX1_count 38 = .ok (.aload 5, 2) := dk_25 5 (dk_at dksX1_count_1 17 rfl rfl)
theorem dX1_count_40 : decode cX1_count 40 = .ok (.invokeinterface 167 1, 5) := by decide +kernel
theorem dX1_count_45 : decode cX1_count 45 = .ok (.checkcast 171, 3) := dk_192 0 171 (dk_at dksX1_count_2 0 rfl rfl)
theorem dX1_count_48 : decode cX1_count 48 = .ok (.astore 6, 2) := dk_58 6 (dk_at dksX1_count_2 3 rfl rfl)
theorem dX1_count_50 : decode cX1_count 50 = .ok (.iload_n 2, 1) := dk_28 (dk_at dksX1_count_2 5 rfl rfl)
theorem dX1_count_51 : decode cX1_count 51 = .ok (.aload 6, 2) := dk_25 6 (dk_at dksX1_count_2 6 rfl rfl)
theorem dX1_count_53 : decode cX1_count 53 = .ok (.getfield 173, 3) := dk_180 0 173 (dk_at dksX1_count_2 8 rfl rfl)
theorem dX1_count_56 : decode cX1_count 56 = .ok (.ifCond .eq 7, 3) := dk_153 0 7 (dk_at dksX1_count_2 11 rfl rfl)
theorem dX1_count_59 : decode cX1_count 59 = .ok (.iconst 1, 1) := dk_4 (dk_at dksX1_count_2 14 rfl rfl)
theorem dX1_count_60 : decode cX1_count 60 = .ok (.goto 4, 3) := dk_167 0 4 (dk_at dksX1_count_2 15 rfl rfl)
theorem dX1_count_63 : decode cX1_count 63 = .ok (.iconst 0, 1) := dk_3 (dk_at dksX1_count_2 18 rfl rfl)
theorem dX1_count_64 : decode cX1_count 64 = .ok (.iadd, 1) := dk_96 (dk_at dksX1_count_2 19 rfl rfl)
theorem dX1_count_65 : decode cX1_count 65 = .ok (.istore_n 2, 1) := dk_61 (dk_at dksX1_count_2 20 rfl rfl)
theorem dX1_count_66 : decode cX1_count 66 = .ok (.goto (-38), 3) := dk_167 255 218 (dk_at dksX1_count_2 21 rfl rfl)
theorem dX1_count_69 : decode cX1_count 69 = .ok (.aload_n 0, 1) := dk_42 (dk_at dksX1_count_3 0 rfl rfl)
theorem dX1_count_70 : decode cX1_count 70 = .ok (.getfield 49, 3) := dk_180 0 49 (dk_at dksX1_count_3 1 rfl rfl)
theorem dX1_count_73 : decode cX1_count 73 = .ok (.invokeinterface 158 1, 5) := by decide +kernel
theorem dX1_count_78 : decode cX1_count 78 = .ok (.astore 5, 2) := dk_58 5 (dk_at dksX1_count_3 9 rfl rfl)
theorem dX1_count_80 : decode cX1_count 80 = .ok (.aload 5, 2) := dk_25 5 (dk_at dksX1_count_3 11 rfl rfl)
theorem dX1_count_82 : decode cX1_count 82 = .ok (.invokeinterface 162 1, 5) := by decide +kernel
theorem dX1_count_87 : decode cX1_count 87 = .ok (.ifCond .eq 34, 3) := dk_153 0 34 (dk_at dksX1_count_3 18 rfl rfl)
theorem dX1_count_90 : decode cX1_count 90 = .ok (.aload 5, 2) := dk_25 5 (dk_at dksX1_count_3 21 rfl rfl)
theorem dX1_count_92 : decode cX1_count 92 = .ok (.invokeinterface 167 1, 5) := by decide +kernel
theorem dX1_count_97 : decode cX1_count 97 = .ok (.checkcast 184, 3) := dk_192 0 184 (dk_at dksX1_count_4 5 rfl rfl)
theorem dX1_count_100 : decode cX1_count 100 = .ok (.astore 6, 2) := dk_58 6 (dk_at dksX1_count_4 8 rfl rfl)
theorem dX1_count_102 : decode cX1_count 102 = .ok (.iload_n 3, 1) := dk_29 (dk_at dksX1_count_4 10 rfl rfl)
theorem dX1_count_103 : decode cX1_count 103 = .ok (.aload 6, 2) := dk_25 6 (dk_at dksX1_count_4 11 rfl rfl)
theorem dX1_count_105 : decode cX1_count 105 = .ok (.getfield 480, 3) := dk_180 1 224 (dk_at dksX1_count_4 13 rfl rfl)
theorem dX1_count_108 : decode cX1_count 108 = .ok (.ifCond .eq 7, 3) := dk_153 0 7 (dk_at dksX1_count_4 16 rfl rfl)
theorem dX1_count_111 : decode cX1_count 111 = .ok (.iconst 1, 1) := dk_4 (dk_at dksX1_count_4 19 rfl rfl)
theorem dX1_count_112 : decode cX1_count 112 = .ok (.goto 4, 3) := dk_167 0 4 (dk_at dksX1_count_4 20 rfl rfl)
theorem dX1_count_115 : decode cX1_count 115 = .ok (.iconst 0, 1) := dk_3 (dk_at dksX1_count_4 23 rfl rfl)
theorem dX1_count_116 : decode cX1_count 116 = .ok (.iadd, 1) := dk_96 (dk_at dksX1_count_5 0 rfl rfl)
theorem dX1_count_117 : decode cX1_count 117 = .ok (.istore_n 3, 1) := dk_62 (dk_at dksX1_count_5 1 rfl rfl)
theorem dX1_count_118 : decode cX1_count 118 = .ok (.goto (-38), 3) := dk_167 255 218 (dk_at dksX1_count_5 2 rfl rfl)
theorem dX1_count_121 : decode cX1_count 121 = .ok (.aload_n 0, 1) := dk_42 (dk_at dksX1_count_5 5 rfl rfl)
theorem dX1_count_122 : decode cX1_count 122 = .ok (.getfield 39, 3) := dk_180 0 39 (dk_at dksX1_count_5 6 rfl rfl)
theorem dX1_count_125 : decode cX1_count 125 = .ok (.invokeinterface 158 1, 5) := by decide +kernel
theorem dX1_count_130 : decode cX1_count 130 = .ok (.astore 5, 2) := dk_58 5 (dk_at dksX1_count_5 14 rfl rfl)
theorem dX1_count_132 : decode cX1_count 132 = .ok (.aload 5, 2) := dk_25 5 (dk_at dksX1_count_5 16 rfl rfl)
theorem dX1_count_134 : decode cX1_count 134 = .ok (.invokeinterface 162 1, 5) := by decide +kernel
theorem dX1_count_139 : decode cX1_count 139 = .ok (.ifCond .eq 28, 3) := dk_153 0 28 (dk_at dksX1_count_6 0 rfl rfl)
theorem dX1_count_142 : decode cX1_count 142 = .ok (.aload 5, 2) := dk_25 5 (dk_at dksX1_count_6 3 rfl rfl)
theorem dX1_count_144 : decode cX1_count 144 = .ok (.invokeinterface 167 1, 5) := by decide +kernel
theorem dX1_count_149 : decode cX1_count 149 = .ok (.checkcast 88, 3) := dk_192 0 88 (dk_at dksX1_count_6 10 rfl rfl)
theorem dX1_count_152 : decode cX1_count 152 = .ok (.astore 6, 2) := dk_58 6 (dk_at dksX1_count_6 13 rfl rfl)
theorem dX1_count_154 : decode cX1_count 154 = .ok (.iload 4, 2) := dk_21 4 (dk_at dksX1_count_6 15 rfl rfl)
theorem dX1_count_156 : decode cX1_count 156 = .ok (.aload 6, 2) := dk_25 6 (dk_at dksX1_count_6 17 rfl rfl)
theorem dX1_count_158 : decode cX1_count 158 = .ok (.getfield 155, 3) := dk_180 0 155 (dk_at dksX1_count_6 19 rfl rfl)
theorem dX1_count_161 : decode cX1_count 161 = .ok (.iadd, 1) := dk_96 (dk_at dksX1_count_6 22 rfl rfl)
theorem dX1_count_162 : decode cX1_count 162 = .ok (.istore 4, 2) := dk_54 4 (dk_at dksX1_count_7 0 rfl rfl)
theorem dX1_count_164 : decode cX1_count 164 = .ok (.goto (-32), 3) := dk_167 255 224 (dk_at dksX1_count_7 2 rfl rfl)
theorem dX1_count_167 : decode cX1_count 167 = .ok (.iload_n 1, 1) := dk_27 (dk_at dksX1_count_7 5 rfl rfl)
theorem dX1_count_168 : decode cX1_count 168 = .ok (.tableswitch 150 0 9 #[56, 63, 75, 87, 91, 103, 107, 114, 126, 138], 56) := by decide +kernel
theorem dX1_count_224 : decode cX1_count 224 = .ok (.aload_n 0, 1) := dk_42 (dk_at dksX1_count_9 0 rfl rfl)
theorem dX1_count_225 : decode cX1_count 225 = .ok (.getfield 75, 3) := dk_180 0 75 (dk_at dksX1_count_9 1 rfl rfl)
theorem dX1_count_228 : decode cX1_count 228 = .ok (.goto 92, 3) := dk_167 0 92 (dk_at dksX1_count_9 4 rfl rfl)
theorem dX1_count_231 : decode cX1_count 231 = .ok (.aload_n 0, 1) := dk_42 (dk_at dksX1_count_9 7 rfl rfl)
theorem dX1_count_232 : decode cX1_count 232 = .ok (.getfield 39, 3) := dk_180 0 39 (dk_at dksX1_count_9 8 rfl rfl)
theorem dX1_count_235 : decode cX1_count 235 = .ok (.invokeinterface 13 1, 5) := by decide +kernel
theorem dX1_count_240 : decode cX1_count 240 = .ok (.goto 80, 3) := dk_167 0 80 (dk_at dksX1_count_9 16 rfl rfl)
theorem dX1_count_243 : decode cX1_count 243 = .ok (.aload_n 0, 1) := dk_42 (dk_at dksX1_count_9 19 rfl rfl)
theorem dX1_count_244 : decode cX1_count 244 = .ok (.getfield 46, 3) := dk_180 0 46 (dk_at dksX1_count_9 20 rfl rfl)
theorem dX1_count_247 : decode cX1_count 247 = .ok (.invokeinterface 13 1, 5) := by decide +kernel
theorem dX1_count_252 : decode cX1_count 252 = .ok (.goto 68, 3) := dk_167 0 68 (dk_at dksX1_count_10 5 rfl rfl)
theorem dX1_count_255 : decode cX1_count 255 = .ok (.iload_n 2, 1) := dk_28 (dk_at dksX1_count_10 8 rfl rfl)
theorem dX1_count_256 : decode cX1_count 256 = .ok (.goto 64, 3) := dk_167 0 64 (dk_at dksX1_count_10 9 rfl rfl)
theorem dX1_count_259 : decode cX1_count 259 = .ok (.aload_n 0, 1) := dk_42 (dk_at dksX1_count_10 12 rfl rfl)
theorem dX1_count_260 : decode cX1_count 260 = .ok (.getfield 49, 3) := dk_180 0 49 (dk_at dksX1_count_10 13 rfl rfl)
theorem dX1_count_263 : decode cX1_count 263 = .ok (.invokeinterface 13 1, 5) := by decide +kernel
theorem dX1_count_268 : decode cX1_count 268 = .ok (.goto 52, 3) := dk_167 0 52 (dk_at dksX1_count_10 21 rfl rfl)
theorem dX1_count_271 : decode cX1_count 271 = .ok (.iload_n 3, 1) := dk_29 (dk_at dksX1_count_11 0 rfl rfl)
theorem dX1_count_272 : decode cX1_count 272 = .ok (.goto 48, 3) := dk_167 0 48 (dk_at dksX1_count_11 1 rfl rfl)
theorem dX1_count_275 : decode cX1_count 275 = .ok (.aload_n 0, 1) := dk_42 (dk_at dksX1_count_11 4 rfl rfl)
theorem dX1_count_276 : decode cX1_count 276 = .ok (.getfield 79, 3) := dk_180 0 79 (dk_at dksX1_count_11 5 rfl rfl)
theorem dX1_count_279 : decode cX1_count 279 = .ok (.goto 41, 3) := dk_167 0 41 (dk_at dksX1_count_11 8 rfl rfl)
theorem dX1_count_282 : decode cX1_count 282 = .ok (.aload_n 0, 1) := dk_42 (dk_at dksX1_count_11 11 rfl rfl)
theorem dX1_count_283 : decode cX1_count 283 = .ok (.getfield 52, 3) := dk_180 0 52 (dk_at dksX1_count_11 12 rfl rfl)
theorem dX1_count_286 : decode cX1_count 286 = .ok (.invokeinterface 13 1, 5) := by decide +kernel
theorem dX1_count_291 : decode cX1_count 291 = .ok (.goto 29, 3) := dk_167 0 29 (dk_at dksX1_count_11 20 rfl rfl)
theorem dX1_count_294 : decode cX1_count 294 = .ok (.aload_n 0, 1) := dk_42 (dk_at dksX1_count_11 23 rfl rfl)
theorem dX1_count_295 : decode cX1_count 295 = .ok (.getfield 55, 3) := dk_180 0 55 (dk_at dksX1_count_12 0 rfl rfl)
theorem dX1_count_298 : decode cX1_count 298 = .ok (.invokeinterface 13 1, 5) := by decide +kernel
theorem dX1_count_303 : decode cX1_count 303 = .ok (.goto 17, 3) := dk_167 0 17 (dk_at dksX1_count_12 8 rfl rfl)
theorem dX1_count_306 : decode cX1_count 306 = .ok (.aload_n 0, 1) := dk_42 (dk_at dksX1_count_12 11 rfl rfl)
theorem dX1_count_307 : decode cX1_count 307 = .ok (.getfield 43, 3) := dk_180 0 43 (dk_at dksX1_count_12 12 rfl rfl)
theorem dX1_count_310 : decode cX1_count 310 = .ok (.invokeinterface 13 1, 5) := by decide +kernel
theorem dX1_count_315 : decode cX1_count 315 = .ok (.goto 5, 3) := dk_167 0 5 (dk_at dksX1_count_12 20 rfl rfl)
theorem dX1_count_318 : decode cX1_count 318 = .ok (.iload 4, 2) := dk_21 4 (dk_at dksX1_count_13 0 rfl rfl)
theorem dX1_count_320 : decode cX1_count 320 = .ok (.ireturn, 1) := dk_172 (dk_at dksX1_count_13 2 rfl rfl)
abbrev cX1_requireArgument : ByteArray := prog_1_method_3_code
def yX1_requireArgument : MethodName := ⟨RX1, "requireArgument", "(Z)V"⟩
def dkwX1_requireArgument_0 : List UInt8 := [26, 154, 0, 11, 187, 0, 7, 89, 183, 0, 9, 191, 177]
abbrev dktX1_requireArgument_0 : List UInt8 := dkwX1_requireArgument_0 ++ []
theorem dksX1_requireArgument_0 : cX1_requireArgument.data.toList.drop 0 = dktX1_requireArgument_0 := by decide +kernel
theorem dX1_requireArgument_0 : decode cX1_requireArgument 0 = .ok (.iload_n 0, 1) := dk_26 (dk_at dksX1_requireArgument_0 0 rfl rfl)
theorem dX1_requireArgument_1 : decode cX1_requireArgument 1 = .ok (.ifCond .ne 11, 3) := dk_154 0 11 (dk_at dksX1_requireArgument_0 1 rfl rfl)
theorem dX1_requireArgument_4 : decode cX1_requireArgument 4 = .ok (.new 7, 3) := dk_187 0 7 (dk_at dksX1_requireArgument_0 4 rfl rfl)
theorem dX1_requireArgument_7 : decode cX1_requireArgument 7 = .ok (.dup, 1) := dk_89 (dk_at dksX1_requireArgument_0 7 rfl rfl)
theorem dX1_requireArgument_8 : decode cX1_requireArgument 8 = .ok (.invokespecial 9, 3) := dk_183 0 9 (dk_at dksX1_requireArgument_0 8 rfl rfl)
theorem dX1_requireArgument_11 : decode cX1_requireArgument 11 = .ok (.athrow, 1) := dk_191 (dk_at dksX1_requireArgument_0 11 rfl rfl)
theorem dX1_requireArgument_12 : decode cX1_requireArgument 12 = .ok (.return_, 1) := dk_177 (dk_at dksX1_requireArgument_0 12 rfl rfl)
abbrev cX1_pass : ByteArray := prog_1_method_10_code
def yX1_pass : MethodName := ⟨RX1, "pass", "(I)I"⟩
def dkwX1_pass_1 : List UInt8 := [167, 0, 4, 3, 184, 0, 85, 42, 89, 180, 0, 75, 27, 96, 181, 0, 75, 42, 180, 0, 75, 172]
abbrev dktX1_pass_1 : List UInt8 := dkwX1_pass_1 ++ []
def dkwX1_pass_0 : List UInt8 := [27, 4, 16, 100, 184, 0, 19, 184, 0, 82, 42, 180, 0, 75, 27, 96, 17, 1, 103, 163, 0, 7, 4]
abbrev dktX1_pass_0 : List UInt8 := dkwX1_pass_0 ++ dktX1_pass_1
theorem dksX1_pass_0 : cX1_pass.data.toList.drop 0 = dktX1_pass_0 := by decide +kernel
theorem dksX1_pass_1 : cX1_pass.data.toList.drop 23 = dktX1_pass_1 := dk_seg dksX1_pass_0 23 rfl rfl
theorem dX1_pass_0 : decode cX1_pass 0 = .ok (.iload_n 1, 1) := dk_27 (dk_at dksX1_pass_0 0 rfl rfl)
theorem dX1_pass_1 : decode cX1_pass 1 = .ok (.iconst 1, 1) := dk_4 (dk_at dksX1_pass_0 1 rfl rfl)
theorem dX1_pass_2 : decode cX1_pass 2 = .ok (.bipush 100, 2) := dk_16 100 (dk_at dksX1_pass_0 2 rfl rfl)
theorem dX1_pass_4 : decode cX1_pass 4 = .ok (.invokestatic 19, 3) := dk_184 0 19 (dk_at dksX1_pass_0 4 rfl rfl)
theorem dX1_pass_7 : decode cX1_pass 7 = .ok (.invokestatic 82, 3) := dk_184 0 82 (dk_at dksX1_pass_0 7 rfl rfl)
theorem dX1_pass_10 : decode cX1_pass 10 = .ok (.aload_n 0, 1) := dk_42 (dk_at dksX1_pass_0 10 rfl rfl)
theorem dX1_pass_11 : decode cX1_pass 11 = .ok (.getfield 75, 3) := dk_180 0 75 (dk_at dksX1_pass_0 11 rfl rfl)
theorem dX1_pass_14 : decode cX1_pass 14 = .ok (.iload_n 1, 1) := dk_27 (dk_at dksX1_pass_0 14 rfl rfl)
theorem dX1_pass_15 : decode cX1_pass 15 = .ok (.iadd, 1) := dk_96 (dk_at dksX1_pass_0 15 rfl rfl)
theorem dX1_pass_16 : decode cX1_pass 16 = .ok (.sipush 359, 3) := dk_17 1 103 (dk_at dksX1_pass_0 16 rfl rfl)
theorem dX1_pass_19 : decode cX1_pass 19 = .ok (.if_icmp .gt 7, 3) := dk_163 0 7 (dk_at dksX1_pass_0 19 rfl rfl)
theorem dX1_pass_22 : decode cX1_pass 22 = .ok (.iconst 1, 1) := dk_4 (dk_at dksX1_pass_0 22 rfl rfl)
theorem dX1_pass_23 : decode cX1_pass 23 = .ok (.goto 4, 3) := dk_167 0 4 (dk_at dksX1_pass_1 0 rfl rfl)
theorem dX1_pass_26 : decode cX1_pass 26 = .ok (.iconst 0, 1) := dk_3 (dk_at dksX1_pass_1 3 rfl rfl)
theorem dX1_pass_27 : decode cX1_pass 27 = .ok (.invokestatic 85, 3) := dk_184 0 85 (dk_at dksX1_pass_1 4 rfl rfl)
theorem dX1_pass_30 : decode cX1_pass 30 = .ok (.aload_n 0, 1) := dk_42 (dk_at dksX1_pass_1 7 rfl rfl)
theorem dX1_pass_31 : decode cX1_pass 31 = .ok (.dup, 1) := dk_89 (dk_at dksX1_pass_1 8 rfl rfl)
theorem dX1_pass_32 : decode cX1_pass 32 = .ok (.getfield 75, 3) := dk_180 0 75 (dk_at dksX1_pass_1 9 rfl rfl)
theorem dX1_pass_35 : decode cX1_pass 35 = .ok (.iload_n 1, 1) := dk_27 (dk_at dksX1_pass_1 12 rfl rfl)
theorem dX1_pass_36 : decode cX1_pass 36 = .ok (.iadd, 1) := dk_96 (dk_at dksX1_pass_1 13 rfl rfl)
theorem dX1_pass_37 : decode cX1_pass 37 = .ok (.putfield 75, 3) := dk_181 0 75 (dk_at dksX1_pass_1 14 rfl rfl)
theorem dX1_pass_40 : decode cX1_pass 40 = .ok (.aload_n 0, 1) := dk_42 (dk_at dksX1_pass_1 17 rfl rfl)
theorem dX1_pass_41 : decode cX1_pass 41 = .ok (.getfield 75, 3) := dk_180 0 75 (dk_at dksX1_pass_1 18 rfl rfl)
theorem dX1_pass_44 : decode cX1_pass 44 = .ok (.ireturn, 1) := dk_172 (dk_at dksX1_pass_1 21 rfl rfl)
abbrev cX1_requireState : ByteArray := prog_1_method_4_code
def yX1_requireState : MethodName := ⟨RX1, "requireState", "(Z)V"⟩
def dkwX1_requireState_0 : List UInt8 := [26, 154, 0, 11, 187, 0, 10, 89, 183, 0, 12, 191, 177]
abbrev dktX1_requireState_0 : List UInt8 := dkwX1_requireState_0 ++ []
theorem dksX1_requireState_0 : cX1_requireState.data.toList.drop 0 = dktX1_requireState_0 := by decide +kernel
theorem dX1_requireState_0 : decode cX1_requireState 0 = .ok (.iload_n 0, 1) := dk_26 (dk_at dksX1_requireState_0 0 rfl rfl)
theorem dX1_requireState_1 : decode cX1_requireState 1 = .ok (.ifCond .ne 11, 3) := dk_154 0 11 (dk_at dksX1_requireState_0 1 rfl rfl)
theorem dX1_requireState_4 : decode cX1_requireState 4 = .ok (.new 10, 3) := dk_187 0 10 (dk_at dksX1_requireState_0 4 rfl rfl)
theorem dX1_requireState_7 : decode cX1_requireState 7 = .ok (.dup, 1) := dk_89 (dk_at dksX1_requireState_0 7 rfl rfl)
theorem dX1_requireState_8 : decode cX1_requireState 8 = .ok (.invokespecial 12, 3) := dk_183 0 12 (dk_at dksX1_requireState_0 8 rfl rfl)
theorem dX1_requireState_11 : decode cX1_requireState 11 = .ok (.athrow, 1) := dk_191 (dk_at dksX1_requireState_0 11 rfl rfl)
theorem dX1_requireState_12 : decode cX1_requireState 12 = .ok (.return_, 1) := dk_177 (dk_at dksX1_requireState_0 12 rfl rfl)
abbrev cX1_person : ByteArray := prog_1_method_11_code
def yX1_person : MethodName := ⟨RX1, "person", "(I)I"⟩
def dkwX1_person_3 : List UInt8 := [4, 100, 172]
abbrev dktX1_person_3 : List UInt8 := dkwX1_person_3 ++ []
def dkwX1_person_2 : List UInt8 := [185, 0, 13, 1, 0, 27, 183, 0, 90, 185, 0, 93, 2, 0, 61, 42, 180, 0, 39, 185, 0, 13, 1, 0]
abbrev dktX1_person_2 : List UInt8 := dkwX1_person_2 ++ dktX1_person_3
def dkwX1_person_1 : List UInt8 := [162, 0, 7, 4, 167, 0, 4, 3, 184, 0, 85, 42, 180, 0, 39, 187, 0, 88, 89, 42, 180, 0, 39]
abbrev dktX1_person_1 : List UInt8 := dkwX1_person_1 ++ dktX1_person_2
def dkwX1_person_0 : List UInt8 := [27, 16, 6, 16, 99, 184, 0, 19, 184, 0, 82, 42, 180, 0, 39, 185, 0, 13, 1, 0, 16, 20]
abbrev dktX1_person_0 : List UInt8 := dkwX1_person_0 ++ dktX1_person_1
theorem dksX1_person_0 : cX1_person.data.toList.drop 0 = dktX1_person_0 := by decide +kernel
theorem dksX1_person_1 : cX1_person.data.toList.drop 22 = dktX1_person_1 := dk_seg dksX1_person_0 22 rfl rfl
theorem dksX1_person_2 : cX1_person.data.toList.drop 45 = dktX1_person_2 := dk_seg dksX1_person_1 23 rfl rfl
theorem dksX1_person_3 : cX1_person.data.toList.drop 69 = dktX1_person_3 := dk_seg dksX1_person_2 24 rfl rfl
theorem dX1_person_0 : decode cX1_person 0 = .ok (.iload_n 1, 1) := dk_27 (dk_at dksX1_person_0 0 rfl rfl)
theorem dX1_person_1 : decode cX1_person 1 = .ok (.bipush 6, 2) := dk_16 6 (dk_at dksX1_person_0 1 rfl rfl)
theorem dX1_person_3 : decode cX1_person 3 = .ok (.bipush 99, 2) := dk_16 99 (dk_at dksX1_person_0 3 rfl rfl)
theorem dX1_person_5 : decode cX1_person 5 = .ok (.invokestatic 19, 3) := dk_184 0 19 (dk_at dksX1_person_0 5 rfl rfl)
theorem dX1_person_8 : decode cX1_person 8 = .ok (.invokestatic 82, 3) := dk_184 0 82 (dk_at dksX1_person_0 8 rfl rfl)
theorem dX1_person_11 : decode cX1_person 11 = .ok (.aload_n 0, 1) := dk_42 (dk_at dksX1_person_0 11 rfl rfl)
theorem dX1_person_12 : decode cX1_person 12 = .ok (.getfield 39, 3) := dk_180 0 39 (dk_at dksX1_person_0 12 rfl rfl)
theorem dX1_person_15 : decode cX1_person 15 = .ok (.invokeinterface 13 1, 5) := by decide +kernel
theorem dX1_person_20 : decode cX1_person 20 = .ok (.bipush 20, 2) := dk_16 20 (dk_at dksX1_person_0 20 rfl rfl)
theorem dX1_person_22 : decode cX1_person 22 = .ok (.if_icmp .ge 7, 3) := dk_162 0 7 (dk_at dksX1_person_1 0 rfl rfl)
theorem dX1_person_25 : decode cX1_person 25 = .ok (.iconst 1, 1) := dk_4 (dk_at dksX1_person_1 3 rfl rfl)
theorem dX1_person_26 : decode cX1_person 26 = .ok (.goto 4, 3) := dk_167 0 4 (dk_at dksX1_person_1 4 rfl rfl)
theorem dX1_person_29 : decode cX1_person 29 = .ok (.iconst 0, 1) := dk_3 (dk_at dksX1_person_1 7 rfl rfl)
theorem dX1_person_30 : decode cX1_person 30 = .ok (.invokestatic 85, 3) := dk_184 0 85 (dk_at dksX1_person_1 8 rfl rfl)
theorem dX1_person_33 : decode cX1_person 33 = .ok (.aload_n 0, 1) := dk_42 (dk_at dksX1_person_1 11 rfl rfl)
theorem dX1_person_34 : decode cX1_person 34 = .ok (.getfield 39, 3) := dk_180 0 39 (dk_at dksX1_person_1 12 rfl rfl)
theorem dX1_person_37 : decode cX1_person 37 = .ok (.new 88, 3) := dk_187 0 88 (dk_at dksX1_person_1 15 rfl rfl)
theorem dX1_person_40 : decode cX1_person 40 = .ok (.dup, 1) := dk_89 (dk_at dksX1_person_1 18 rfl rfl)
theorem dX1_person_41 : decode cX1_person 41 = .ok (.aload_n 0, 1) := dk_42 (dk_at dksX1_person_1 19 rfl rfl)
theorem dX1_person_42 : decode cX1_person 42 = .ok (.getfield 39, 3) := dk_180 0 39 (dk_at dksX1_person_1 20 rfl rfl)
theorem dX1_person_45 : decode cX1_person 45 = .ok (.invokeinterface 13 1, 5) := by decide +kernel
theorem dX1_person_50 : decode cX1_person 50 = .ok (.iload_n 1, 1) := dk_27 (dk_at dksX1_person_2 5 rfl rfl)
theorem dX1_person_51 : decode cX1_person 51 = .ok (.invokespecial 90, 3) := dk_183 0 90 (dk_at dksX1_person_2 6 rfl rfl)
theorem dX1_person_54 : decode cX1_person 54 = .ok (.invokeinterface 93 2, 5) := by decide +kernel
theorem dX1_person_59 : decode cX1_person 59 = .ok (.istore_n 2, 1) := dk_61 (dk_at dksX1_person_2 14 rfl rfl)
theorem dX1_person_60 : decode cX1_person 60 = .ok (.aload_n 0, 1) := dk_42 (dk_at dksX1_person_2 15 rfl rfl)
theorem dX1_person_61 : decode cX1_person 61 = .ok (.getfield 39, 3) := dk_180 0 39 (dk_at dksX1_person_2 16 rfl rfl)
theorem dX1_person_64 : decode cX1_person 64 = .ok (.invokeinterface 13 1, 5) := by decide +kernel
theorem dX1_person_69 : decode cX1_person 69 = .ok (.iconst 1, 1) := dk_4 (dk_at dksX1_person_3 0 rfl rfl)
theorem dX1_person_70 : decode cX1_person 70 = .ok (.isub, 1) := dk_100 (dk_at dksX1_person_3 1 rfl rfl)
theorem dX1_person_71 : decode cX1_person 71 = .ok (.ireturn, 1) := dk_172 (dk_at dksX1_person_3 2 rfl rfl)
abbrev cX1_licence : ByteArray := prog_1_method_12_code
def yX1_licence : MethodName := ⟨RX1, "licence", "(II)I"⟩
def dkwX1_licence_1 : List UInt8 := [180, 0, 101, 54, 4, 45, 28, 181, 0, 101, 21, 4, 172]
abbrev dktX1_licence_1 : List UInt8 := dkwX1_licence_1 ++ []
def dkwX1_licence_0 : List UInt8 := [42, 180, 0, 39, 27, 184, 0, 97, 192, 0, 88, 78, 28, 3, 6, 184, 0, 19, 184, 0, 82, 45]
abbrev dktX1_licence_0 : List UInt8 := dkwX1_licence_0 ++ dktX1_licence_1
theorem dksX1_licence_0 : cX1_licence.data.toList.drop 0 = dktX1_licence_0 := by decide +kernel
theorem dksX1_licence_1 : cX1_licence.data.toList.drop 22 = dktX1_licence_1 := dk_seg dksX1_licence_0 22 rfl rfl
theorem dX1_licence_0 : decode cX1_licence 0 = .ok (.aload_n 0, 1) := dk_42 (dk_at dksX1_licence_0 0 rfl rfl)
theorem dX1_licence_1 : decode cX1_licence 1 = .ok (.getfield 39, 3) := dk_180 0 39 (dk_at dksX1_licence_0 1 rfl rfl)
theorem dX1_licence_4 : decode cX1_licence 4 = .ok (.iload_n 1, 1) := dk_27 (dk_at dksX1_licence_0 4 rfl rfl)
theorem dX1_licence_5 : decode cX1_licence 5 = .ok (.invokestatic 97, 3) := dk_184 0 97 (dk_at dksX1_licence_0 5 rfl rfl)
theorem dX1_licence_8 : decode cX1_licence 8 = .ok (.checkcast 88, 3) := dk_192 0 88 (dk_at dksX1_licence_0 8 rfl rfl)
theorem dX1_licence_11 : decode cX1_licence 11 = .ok (.astore_n 3, 1) := dk_78 (dk_at dksX1_licence_0 11 rfl rfl)
theorem dX1_licence_12 : decode cX1_licence 12 = .ok (.iload_n 2, 1) := dk_28 (dk_at dksX1_licence_0 12 rfl rfl)
theorem dX1_licence_13 : decode cX1_licence 13 = .ok (.iconst 0, 1) := dk_3 (dk_at dksX1_licence_0 13 rfl rfl)
theorem dX1_licence_14 : decode cX1_licence 14 = .ok (.iconst 3, 1) := dk_6 (dk_at dksX1_licence_0 14 rfl rfl)
theorem dX1_licence_15 : decode cX1_licence 15 = .ok (.invokestatic 19, 3) := dk_184 0 19 (dk_at dksX1_licence_0 15 rfl rfl)
theorem dX1_licence_18 : decode cX1_licence 18 = .ok (.invokestatic 82, 3) := dk_184 0 82 (dk_at dksX1_licence_0 18 rfl rfl)
theorem dX1_licence_21 : decode cX1_licence 21 = .ok (.aload_n 3, 1) := dk_45 (dk_at dksX1_licence_0 21 rfl rfl)
theorem dX1_licence_22 : decode cX1_licence 22 = .ok (.getfield 101, 3) := dk_180 0 101 (dk_at dksX1_licence_1 0 rfl rfl)
theorem dX1_licence_25 : decode cX1_licence 25 = .ok (.istore 4, 2) := dk_54 4 (dk_at dksX1_licence_1 3 rfl rfl)
theorem dX1_licence_27 : decode cX1_licence 27 = .ok (.aload_n 3, 1) := dk_45 (dk_at dksX1_licence_1 5 rfl rfl)
theorem dX1_licence_28 : decode cX1_licence 28 = .ok (.iload_n 2, 1) := dk_28 (dk_at dksX1_licence_1 6 rfl rfl)
theorem dX1_licence_29 : decode cX1_licence 29 = .ok (.putfield 101, 3) := dk_181 0 101 (dk_at dksX1_licence_1 7 rfl rfl)
theorem dX1_licence_32 : decode cX1_licence 32 = .ok (.iload 4, 2) := dk_21 4 (dk_at dksX1_licence_1 10 rfl rfl)
theorem dX1_licence_34 : decode cX1_licence 34 = .ok (.ireturn, 1) := dk_172 (dk_at dksX1_licence_1 12 rfl rfl)
abbrev cX1_at : ByteArray := prog_1_method_5_code
def yX1_at : MethodName := ⟨RX1, "at", "(Ljava/util/List;I)Ljava/lang/Object;"⟩
def dkwX1_at_0 : List UInt8 := [27, 3, 42, 185, 0, 13, 1, 0, 4, 100, 184, 0, 19, 184, 0, 25, 42, 27, 185, 0, 29, 2, 0, 176]
abbrev dktX1_at_0 : List UInt8 := dkwX1_at_0 ++ []
theorem dksX1_at_0 : cX1_at.data.toList.drop 0 = dktX1_at_0 := by decide +kernel
theorem dX1_at_0 : decode cX1_at 0 = .ok (.iload_n 1, 1) := dk_27 (dk_at dksX1_at_0 0 rfl rfl)
theorem dX1_at_1 : decode cX1_at 1 = .ok (.iconst 0, 1) := dk_3 (dk_at dksX1_at_0 1 rfl rfl)
theorem dX1_at_2 : decode cX1_at 2 = .ok (.aload_n 0, 1) := dk_42 (dk_at dksX1_at_0 2 rfl rfl)
theorem dX1_at_3 : decode cX1_at 3 = .ok (.invokeinterface 13 1, 5) := by decide +kernel
theorem dX1_at_8 : decode cX1_at 8 = .ok (.iconst 1, 1) := dk_4 (dk_at dksX1_at_0 8 rfl rfl)
theorem dX1_at_9 : decode cX1_at 9 = .ok (.isub, 1) := dk_100 (dk_at dksX1_at_0 9 rfl rfl)
theorem dX1_at_10 : decode cX1_at 10 = .ok (.invokestatic 19, 3) := dk_184 0 19 (dk_at dksX1_at_0 10 rfl rfl)
theorem dX1_at_13 : decode cX1_at 13 = .ok (.invokestatic 25, 3) := dk_184 0 25 (dk_at dksX1_at_0 13 rfl rfl)
theorem dX1_at_16 : decode cX1_at 16 = .ok (.aload_n 0, 1) := dk_42 (dk_at dksX1_at_0 16 rfl rfl)
theorem dX1_at_17 : decode cX1_at 17 = .ok (.iload_n 1, 1) := dk_27 (dk_at dksX1_at_0 17 rfl rfl)
theorem dX1_at_18 : decode cX1_at 18 = .ok (.invokeinterface 29 2, 5) := by decide +kernel
theorem dX1_at_23 : decode cX1_at 23 = .ok (.areturn, 1) := dk_176 (dk_at dksX1_at_0 23 rfl rfl)
abbrev cX1_requireIndex : ByteArray := prog_1_method_2_code
def yX1_requireIndex : MethodName := ⟨RX1, "requireIndex", "(Z)V"⟩
def dkwX1_requireIndex_0 : List UInt8 := [26, 154, 0, 11, 187, 0, 1, 89, 183, 0, 3, 191, 177]
abbrev dktX1_requireIndex_0 : List UInt8 := dkwX1_requireIndex_0 ++ []
theorem dksX1_requireIndex_0 : cX1_requireIndex.data.toList.drop 0 = dktX1_requireIndex_0 := by decide +kernel
theorem dX1_requireIndex_0 : decode cX1_requireIndex 0 = .ok (.iload_n 0, 1) := dk_26 (dk_at dksX1_requireIndex_0 0 rfl rfl)
theorem dX1_requireIndex_1 : decode cX1_requireIndex 1 = .ok (.ifCond .ne 11, 3) := dk_154 0 11 (dk_at dksX1_requireIndex_0 1 rfl rfl)
theorem dX1_requireIndex_4 : decode cX1_requireIndex 4 = .ok (.new 1, 3) := dk_187 0 1 (dk_at dksX1_requireIndex_0 4 rfl rfl)
theorem dX1_requireIndex_7 : decode cX1_requireIndex 7 = .ok (.dup, 1) := dk_89 (dk_at dksX1_requireIndex_0 7 rfl rfl)
theorem dX1_requireIndex_8 : decode cX1_requireIndex 8 = .ok (.invokespecial 3, 3) := dk_183 0 3 (dk_at dksX1_requireIndex_0 8 rfl rfl)
theorem dX1_requireIndex_11 : decode cX1_requireIndex 11 = .ok (.athrow, 1) := dk_191 (dk_at dksX1_requireIndex_0 11 rfl rfl)
theorem dX1_requireIndex_12 : decode cX1_requireIndex 12 = .ok (.return_, 1) := dk_177 (dk_at dksX1_requireIndex_0 12 rfl rfl)
abbrev cX1_kin : ByteArray := prog_1_method_13_code
def yX1_kin : MethodName := ⟨RX1, "kin", "(II)Z"⟩
def dkwX1_kin_4 : List UInt8 := [21, 5, 172]
abbrev dktX1_kin_4 : List UInt8 := dkwX1_kin_4 ++ []
def dkwX1_kin_3 : List UInt8 := [153, 0, 21, 25, 4, 180, 0, 104, 45, 185, 0, 93, 2, 0, 153, 0, 7, 4, 167, 0, 4, 3, 54, 6]
abbrev dktX1_kin_3 : List UInt8 := dkwX1_kin_3 ++ dktX1_kin_4
def dkwX1_kin_2 : List UInt8 := [185, 0, 107, 2, 0, 54, 5, 21, 5, 154, 0, 31, 45, 180, 0, 104, 25, 4, 185, 0, 93, 2, 0]
abbrev dktX1_kin_2 : List UInt8 := dkwX1_kin_2 ++ dktX1_kin_3
def dkwX1_kin_1 : List UInt8 := [58, 4, 45, 25, 4, 165, 0, 7, 4, 167, 0, 4, 3, 184, 0, 82, 45, 180, 0, 104, 25, 4]
abbrev dktX1_kin_1 : List UInt8 := dkwX1_kin_1 ++ dktX1_kin_2
def dkwX1_kin_0 : List UInt8 := [42, 180, 0, 39, 27, 184, 0, 97, 192, 0, 88, 78, 42, 180, 0, 39, 28, 184, 0, 97, 192, 0, 88]
abbrev dktX1_kin_0 : List UInt8 := dkwX1_kin_0 ++ dktX1_kin_1
theorem dksX1_kin_0 : cX1_kin.data.toList.drop 0 = dktX1_kin_0 := by decide +kernel
theorem dksX1_kin_1 : cX1_kin.data.toList.drop 23 = dktX1_kin_1 := dk_seg dksX1_kin_0 23 rfl rfl
theorem dksX1_kin_2 : cX1_kin.data.toList.drop 45 = dktX1_kin_2 := dk_seg dksX1_kin_1 22 rfl rfl
theorem dksX1_kin_3 : cX1_kin.data.toList.drop 68 = dktX1_kin_3 := dk_seg dksX1_kin_2 23 rfl rfl
theorem dksX1_kin_4 : cX1_kin.data.toList.drop 92 = dktX1_kin_4 := dk_seg dksX1_kin_3 24 rfl rfl
theorem dX1_kin_0 : decode cX1_kin 0 = .ok (.aload_n 0, 1) := dk_42 (dk_at dksX1_kin_0 0 rfl rfl)
theorem dX1_kin_1 : decode cX1_kin 1 = .ok (.getfield 39, 3) := dk_180 0 39 (dk_at dksX1_kin_0 1 rfl rfl)
theorem dX1_kin_4 : decode cX1_kin 4 = .ok (.iload_n 1, 1) := dk_27 (dk_at dksX1_kin_0 4 rfl rfl)
theorem dX1_kin_5 : decode cX1_kin 5 = .ok (.invokestatic 97, 3) := dk_184 0 97 (dk_at dksX1_kin_0 5 rfl rfl)
theorem dX1_kin_8 : decode cX1_kin 8 = .ok (.checkcast 88, 3) := dk_192 0 88 (dk_at dksX1_kin_0 8 rfl rfl)
theorem dX1_kin_11 : decode cX1_kin 11 = .ok (.astore_n 3, 1) := dk_78 (dk_at dksX1_kin_0 11 rfl rfl)
theorem dX1_kin_12 : decode cX1_kin 12 = .ok (.aload_n 0, 1) := dk_42 (dk_at dksX1_kin_0 12 rfl rfl)
theorem dX1_kin_13 : decode cX1_kin 13 = .ok (.getfield 39, 3) := dk_180 0 39 (dk_at dksX1_kin_0 13 rfl rfl)
theorem dX1_kin_16 : decode cX1_kin 16 = .ok (.iload_n 2, 1) := dk_28 (dk_at dksX1_kin_0 16 rfl rfl)
theorem dX1_kin_17 : decode cX1_kin 17 = .ok (.invokestatic 97, 3) := dk_184 0 97 (dk_at dksX1_kin_0 17 rfl rfl)
theorem dX1_kin_20 : decode cX1_kin 20 = .ok (.checkcast 88, 3) := dk_192 0 88 (dk_at dksX1_kin_0 20 rfl rfl)
theorem dX1_kin_23 : decode cX1_kin 23 = .ok (.astore 4, 2) := dk_58 4 (dk_at dksX1_kin_1 0 rfl rfl)
theorem dX1_kin_25 : decode cX1_kin 25 = .ok (.aload_n 3, 1) := dk_45 (dk_at dksX1_kin_1 2 rfl rfl)
theorem dX1_kin_26 : decode cX1_kin 26 = .ok (.aload 4, 2) := dk_25 4 (dk_at dksX1_kin_1 3 rfl rfl)
theorem dX1_kin_28 : decode cX1_kin 28 = .ok (.if_acmp .eq 7, 3) := dk_165 0 7 (dk_at dksX1_kin_1 5 rfl rfl)
theorem dX1_kin_31 : decode cX1_kin 31 = .ok (.iconst 1, 1) := dk_4 (dk_at dksX1_kin_1 8 rfl rfl)
theorem dX1_kin_32 : decode cX1_kin 32 = .ok (.goto 4, 3) := dk_167 0 4 (dk_at dksX1_kin_1 9 rfl rfl)
theorem dX1_kin_35 : decode cX1_kin 35 = .ok (.iconst 0, 1) := dk_3 (dk_at dksX1_kin_1 12 rfl rfl)
theorem dX1_kin_36 : decode cX1_kin 36 = .ok (.invokestatic 82, 3) := dk_184 0 82 (dk_at dksX1_kin_1 13 rfl rfl)
theorem dX1_kin_39 : decode cX1_kin 39 = .ok (.aload_n 3, 1) := dk_45 (dk_at dksX1_kin_1 16 rfl rfl)
theorem dX1_kin_40 : decode cX1_kin 40 = .ok (.getfield 104, 3) := dk_180 0 104 (dk_at dksX1_kin_1 17 rfl rfl)
theorem dX1_kin_43 : decode cX1_kin 43 = .ok (.aload 4, 2) := dk_25 4 (dk_at dksX1_kin_1 20 rfl rfl)
theorem dX1_kin_45 : decode cX1_kin 45 = .ok (.invokeinterface 107 2, 5) := by decide +kernel
theorem dX1_kin_50 : decode cX1_kin 50 = .ok (.istore 5, 2) := dk_54 5 (dk_at dksX1_kin_2 5 rfl rfl)
theorem dX1_kin_52 : decode cX1_kin 52 = .ok (.iload 5, 2) := dk_21 5 (dk_at dksX1_kin_2 7 rfl rfl)
theorem dX1_kin_54 : decode cX1_kin 54 = .ok (.ifCond .ne 31, 3) := dk_154 0 31 (dk_at dksX1_kin_2 9 rfl rfl)
theorem dX1_kin_57 : decode cX1_kin 57 = .ok (.aload_n 3, 1) := dk_45 (dk_at dksX1_kin_2 12 rfl rfl)
theorem dX1_kin_58 : decode cX1_kin 58 = .ok (.getfield 104, 3) := dk_180 0 104 (dk_at dksX1_kin_2 13 rfl rfl)
theorem dX1_kin_61 : decode cX1_kin 61 = .ok (.aload 4, 2) := dk_25 4 (dk_at dksX1_kin_2 16 rfl rfl)
theorem dX1_kin_63 : decode cX1_kin 63 = .ok (.invokeinterface 93 2, 5) := by decide +kernel
theorem dX1_kin_68 : decode cX1_kin 68 = .ok (.ifCond .eq 21, 3) := dk_153 0 21 (dk_at dksX1_kin_3 0 rfl rfl)
theorem dX1_kin_71 : decode cX1_kin 71 = .ok (.aload 4, 2) := dk_25 4 (dk_at dksX1_kin_3 3 rfl rfl)
theorem dX1_kin_73 : decode cX1_kin 73 = .ok (.getfield 104, 3) := dk_180 0 104 (dk_at dksX1_kin_3 5 rfl rfl)
theorem dX1_kin_76 : decode cX1_kin 76 = .ok (.aload_n 3, 1) := dk_45 (dk_at dksX1_kin_3 8 rfl rfl)
theorem dX1_kin_77 : decode cX1_kin 77 = .ok (.invokeinterface 93 2, 5) := by decide +kernel
theorem dX1_kin_82 : decode cX1_kin 82 = .ok (.ifCond .eq 7, 3) := dk_153 0 7 (dk_at dksX1_kin_3 14 rfl rfl)
theorem dX1_kin_85 : decode cX1_kin 85 = .ok (.iconst 1, 1) := dk_4 (dk_at dksX1_kin_3 17 rfl rfl)
theorem dX1_kin_86 : decode cX1_kin 86 = .ok (.goto 4, 3) := dk_167 0 4 (dk_at dksX1_kin_3 18 rfl rfl)
theorem dX1_kin_89 : decode cX1_kin 89 = .ok (.iconst 0, 1) := dk_3 (dk_at dksX1_kin_3 21 rfl rfl)
theorem dX1_kin_90 : decode cX1_kin 90 = .ok (.istore 6, 2) := dk_54 6 (dk_at dksX1_kin_3 22 rfl rfl)
theorem dX1_kin_92 : decode cX1_kin 92 = .ok (.iload 5, 2) := dk_21 5 (dk_at dksX1_kin_4 0 rfl rfl)
theorem dX1_kin_94 : decode cX1_kin 94 = .ok (.ireturn, 1) := dk_172 (dk_at dksX1_kin_4 2 rfl rfl)
abbrev cX1_lesson : ByteArray := prog_1_method_14_code
def yX1_lesson : MethodName := ⟨RX1, "lesson", "(II)Z"⟩
def dkwX1_lesson_5 : List UInt8 := [185, 0, 93, 2, 0, 126, 54, 5, 45, 182, 0, 118, 172]
abbrev dktX1_lesson_5 : List UInt8 := dkwX1_lesson_5 ++ []
def dkwX1_lesson_4 : List UInt8 := [180, 0, 115, 25, 4, 185, 0, 107, 2, 0, 154, 0, 19, 21, 5, 45, 180, 0, 115, 25, 4]
abbrev dktX1_lesson_4 : List UInt8 := dkwX1_lesson_4 ++ dktX1_lesson_5
def dkwX1_lesson_3 : List UInt8 := [187, 0, 110, 89, 45, 25, 4, 42, 180, 0, 75, 183, 0, 112, 185, 0, 93, 2, 0, 54, 5, 45]
abbrev dktX1_lesson_3 : List UInt8 := dkwX1_lesson_3 ++ dktX1_lesson_4
def dkwX1_lesson_2 : List UInt8 := [185, 0, 13, 1, 0, 16, 40, 162, 0, 7, 4, 167, 0, 4, 3, 184, 0, 85, 42, 180, 0, 43]
abbrev dktX1_lesson_2 : List UInt8 := dkwX1_lesson_2 ++ dktX1_lesson_3
def dkwX1_lesson_1 : List UInt8 := [58, 4, 45, 25, 4, 165, 0, 7, 4, 167, 0, 4, 3, 184, 0, 82, 42, 180, 0, 43]
abbrev dktX1_lesson_1 : List UInt8 := dkwX1_lesson_1 ++ dktX1_lesson_2
def dkwX1_lesson_0 : List UInt8 := [42, 180, 0, 39, 27, 184, 0, 97, 192, 0, 88, 78, 42, 180, 0, 39, 28, 184, 0, 97, 192, 0, 88]
abbrev dktX1_lesson_0 : List UInt8 := dkwX1_lesson_0 ++ dktX1_lesson_1
theorem dksX1_lesson_0 : cX1_lesson.data.toList.drop 0 = dktX1_lesson_0 := by decide +kernel
theorem dksX1_lesson_1 : cX1_lesson.data.toList.drop 23 = dktX1_lesson_1 := dk_seg dksX1_lesson_0 23 rfl rfl
theorem dksX1_lesson_2 : cX1_lesson.data.toList.drop 43 = dktX1_lesson_2 := dk_seg dksX1_lesson_1 20 rfl rfl
theorem dksX1_lesson_3 : cX1_lesson.data.toList.drop 65 = dktX1_lesson_3 := dk_seg dksX1_lesson_2 22 rfl rfl
theorem dksX1_lesson_4 : cX1_lesson.data.toList.drop 87 = dktX1_lesson_4 := dk_seg dksX1_lesson_3 22 rfl rfl
theorem dksX1_lesson_5 : cX1_lesson.data.toList.drop 108 = dktX1_lesson_5 := dk_seg dksX1_lesson_4 21 rfl rfl
theorem dX1_lesson_0 : decode cX1_lesson 0 = .ok (.aload_n 0, 1) := dk_42 (dk_at dksX1_lesson_0 0 rfl rfl)
theorem dX1_lesson_1 : decode cX1_lesson 1 = .ok (.getfield 39, 3) := dk_180 0 39 (dk_at dksX1_lesson_0 1 rfl rfl)
theorem dX1_lesson_4 : decode cX1_lesson 4 = .ok (.iload_n 1, 1) := dk_27 (dk_at dksX1_lesson_0 4 rfl rfl)
theorem dX1_lesson_5 : decode cX1_lesson 5 = .ok (.invokestatic 97, 3) := dk_184 0 97 (dk_at dksX1_lesson_0 5 rfl rfl)
theorem dX1_lesson_8 : decode cX1_lesson 8 = .ok (.checkcast 88, 3) := dk_192 0 88 (dk_at dksX1_lesson_0 8 rfl rfl)
theorem dX1_lesson_11 : decode cX1_lesson 11 = .ok (.astore_n 3, 1) := dk_78 (dk_at dksX1_lesson_0 11 rfl rfl)
theorem dX1_lesson_12 : decode cX1_lesson 12 = .ok (.aload_n 0, 1) := dk_42 (dk_at dksX1_lesson_0 12 rfl rfl)
theorem dX1_lesson_13 : decode cX1_lesson 13 = .ok (.getfield 39, 3) := dk_180 0 39 (dk_at dksX1_lesson_0 13 rfl rfl)
theorem dX1_lesson_16 : decode cX1_lesson 16 = .ok (.iload_n 2, 1) := dk_28 (dk_at dksX1_lesson_0 16 rfl rfl)
theorem dX1_lesson_17 : decode cX1_lesson 17 = .ok (.invokestatic 97, 3) := dk_184 0 97 (dk_at dksX1_lesson_0 17 rfl rfl)
theorem dX1_lesson_20 : decode cX1_lesson 20 = .ok (.checkcast 88, 3) := dk_192 0 88 (dk_at dksX1_lesson_0 20 rfl rfl)
theorem dX1_lesson_23 : decode cX1_lesson 23 = .ok (.astore 4, 2) := dk_58 4 (dk_at dksX1_lesson_1 0 rfl rfl)
theorem dX1_lesson_25 : decode cX1_lesson 25 = .ok (.aload_n 3, 1) := dk_45 (dk_at dksX1_lesson_1 2 rfl rfl)
theorem dX1_lesson_26 : decode cX1_lesson 26 = .ok (.aload 4, 2) := dk_25 4 (dk_at dksX1_lesson_1 3 rfl rfl)
theorem dX1_lesson_28 : decode cX1_lesson 28 = .ok (.if_acmp .eq 7, 3) := dk_165 0 7 (dk_at dksX1_lesson_1 5 rfl rfl)
theorem dX1_lesson_31 : decode cX1_lesson 31 = .ok (.iconst 1, 1) := dk_4 (dk_at dksX1_lesson_1 8 rfl rfl)
theorem dX1_lesson_32 : decode cX1_lesson 32 = .ok (.goto 4, 3) := dk_167 0 4 (dk_at dksX1_lesson_1 9 rfl rfl)
theorem dX1_lesson_35 : decode cX1_lesson 35 = .ok (.iconst 0, 1) := dk_3 (dk_at dksX1_lesson_1 12 rfl rfl)
theorem dX1_lesson_36 : decode cX1_lesson 36 = .ok (.invokestatic 82, 3) := dk_184 0 82 (dk_at dksX1_lesson_1 13 rfl rfl)
theorem dX1_lesson_39 : decode cX1_lesson 39 = .ok (.aload_n 0, 1) := dk_42 (dk_at dksX1_lesson_1 16 rfl rfl)
theorem dX1_lesson_40 : decode cX1_lesson 40 = .ok (.getfield 43, 3) := dk_180 0 43 (dk_at dksX1_lesson_1 17 rfl rfl)
theorem dX1_lesson_43 : decode cX1_lesson 43 = .ok (.invokeinterface 13 1, 5) := by decide +kernel
theorem dX1_lesson_48 : decode cX1_lesson 48 = .ok (.bipush 40, 2) := dk_16 40 (dk_at dksX1_lesson_2 5 rfl rfl)
theorem dX1_lesson_50 : decode cX1_lesson 50 = .ok (.if_icmp .ge 7, 3) := dk_162 0 7 (dk_at dksX1_lesson_2 7 rfl rfl)
theorem dX1_lesson_53 : decode cX1_lesson 53 = .ok (.iconst 1, 1) := dk_4 (dk_at dksX1_lesson_2 10 rfl rfl)
theorem dX1_lesson_54 : decode cX1_lesson 54 = .ok (.goto 4, 3) := dk_167 0 4 (dk_at dksX1_lesson_2 11 rfl rfl)
theorem dX1_lesson_57 : decode cX1_lesson 57 = .ok (.iconst 0, 1) := dk_3 (dk_at dksX1_lesson_2 14 rfl rfl)
theorem dX1_lesson_58 : decode cX1_lesson 58 = .ok (.invokestatic 85, 3) := dk_184 0 85 (dk_at dksX1_lesson_2 15 rfl rfl)
theorem dX1_lesson_61 : decode cX1_lesson 61 = .ok (.aload_n 0, 1) := dk_42 (dk_at dksX1_lesson_2 18 rfl rfl)
theorem dX1_lesson_62 : decode cX1_lesson 62 = .ok (.getfield 43, 3) := dk_180 0 43 (dk_at dksX1_lesson_2 19 rfl rfl)
theorem dX1_lesson_65 : decode cX1_lesson 65 = .ok (.new 110, 3) := dk_187 0 110 (dk_at dksX1_lesson_3 0 rfl rfl)
theorem dX1_lesson_68 : decode cX1_lesson 68 = .ok (.dup, 1) := dk_89 (dk_at dksX1_lesson_3 3 rfl rfl)
theorem dX1_lesson_69 : decode cX1_lesson 69 = .ok (.aload_n 3, 1) := dk_45 (dk_at dksX1_lesson_3 4 rfl rfl)
theorem dX1_lesson_70 : decode cX1_lesson 70 = .ok (.aload 4, 2) := dk_25 4 (dk_at dksX1_lesson_3 5 rfl rfl)
theorem dX1_lesson_72 : decode cX1_lesson 72 = .ok (.aload_n 0, 1) := dk_42 (dk_at dksX1_lesson_3 7 rfl rfl)
theorem dX1_lesson_73 : decode cX1_lesson 73 = .ok (.getfield 75, 3) := dk_180 0 75 (dk_at dksX1_lesson_3 8 rfl rfl)
theorem dX1_lesson_76 : decode cX1_lesson 76 = .ok (.invokespecial 112, 3) := dk_183 0 112 (dk_at dksX1_lesson_3 11 rfl rfl)
theorem dX1_lesson_79 : decode cX1_lesson 79 = .ok (.invokeinterface 93 2, 5) := by decide +kernel
theorem dX1_lesson_84 : decode cX1_lesson 84 = .ok (.istore 5, 2) := dk_54 5 (dk_at dksX1_lesson_3 19 rfl rfl)
theorem dX1_lesson_86 : decode cX1_lesson 86 = .ok (.aload_n 3, 1) := dk_45 (dk_at dksX1_lesson_3 21 rfl rfl)
theorem dX1_lesson_87 : decode cX1_lesson 87 = .ok (.getfield 115, 3) := dk_180 0 115 (dk_at dksX1_lesson_4 0 rfl rfl)
theorem dX1_lesson_90 : decode cX1_lesson 90 = .ok (.aload 4, 2) := dk_25 4 (dk_at dksX1_lesson_4 3 rfl rfl)
theorem dX1_lesson_92 : decode cX1_lesson 92 = .ok (.invokeinterface 107 2, 5) := by decide +kernel
theorem dX1_lesson_97 : decode cX1_lesson 97 = .ok (.ifCond .ne 19, 3) := dk_154 0 19 (dk_at dksX1_lesson_4 10 rfl rfl)
theorem dX1_lesson_100 : decode cX1_lesson 100 = .ok (.iload 5, 2) := dk_21 5 (dk_at dksX1_lesson_4 13 rfl rfl)
theorem dX1_lesson_102 : decode cX1_lesson 102 = .ok (.aload_n 3, 1) := dk_45 (dk_at dksX1_lesson_4 15 rfl rfl)
theorem dX1_lesson_103 : decode cX1_lesson 103 = .ok (.getfield 115, 3) := dk_180 0 115 (dk_at dksX1_lesson_4 16 rfl rfl)
theorem dX1_lesson_106 : decode cX1_lesson 106 = .ok (.aload 4, 2) := dk_25 4 (dk_at dksX1_lesson_4 19 rfl rfl)
theorem dX1_lesson_108 : decode cX1_lesson 108 = .ok (.invokeinterface 93 2, 5) := by decide +kernel
theorem dX1_lesson_113 : decode cX1_lesson 113 = .ok (.iand, 1) := dk_126 (dk_at dksX1_lesson_5 5 rfl rfl)
theorem dX1_lesson_114 : decode cX1_lesson 114 = .ok (.istore 5, 2) := dk_54 5 (dk_at dksX1_lesson_5 6 rfl rfl)
theorem dX1_lesson_116 : decode cX1_lesson 116 = .ok (.aload_n 3, 1) := dk_45 (dk_at dksX1_lesson_5 8 rfl rfl)
theorem dX1_lesson_117 : decode cX1_lesson 117 = .ok (.invokevirtual 118, 3) := dk_182 0 118 (dk_at dksX1_lesson_5 9 rfl rfl)
theorem dX1_lesson_120 : decode cX1_lesson 120 = .ok (.ireturn, 1) := dk_172 (dk_at dksX1_lesson_5 12 rfl rfl)
abbrev cX1_suspend : ByteArray := prog_1_method_16_code
def yX1_suspend : MethodName := ⟨RX1, "suspend", "(II)I"⟩
def dkwX1_suspend_1 : List UInt8 := [17, 1, 103, 42, 180, 0, 75, 28, 96, 184, 0, 132, 181, 0, 138, 45, 180, 0, 138, 172]
abbrev dktX1_suspend_1 : List UInt8 := dkwX1_suspend_1 ++ []
def dkwX1_suspend_0 : List UInt8 := [42, 180, 0, 39, 27, 184, 0, 97, 192, 0, 88, 78, 28, 3, 16, 100, 184, 0, 19, 184, 0, 82, 45]
abbrev dktX1_suspend_0 : List UInt8 := dkwX1_suspend_0 ++ dktX1_suspend_1
theorem dksX1_suspend_0 : cX1_suspend.data.toList.drop 0 = dktX1_suspend_0 := by decide +kernel
theorem dksX1_suspend_1 : cX1_suspend.data.toList.drop 23 = dktX1_suspend_1 := dk_seg dksX1_suspend_0 23 rfl rfl
theorem dX1_suspend_0 : decode cX1_suspend 0 = .ok (.aload_n 0, 1) := dk_42 (dk_at dksX1_suspend_0 0 rfl rfl)
theorem dX1_suspend_1 : decode cX1_suspend 1 = .ok (.getfield 39, 3) := dk_180 0 39 (dk_at dksX1_suspend_0 1 rfl rfl)
theorem dX1_suspend_4 : decode cX1_suspend 4 = .ok (.iload_n 1, 1) := dk_27 (dk_at dksX1_suspend_0 4 rfl rfl)
theorem dX1_suspend_5 : decode cX1_suspend 5 = .ok (.invokestatic 97, 3) := dk_184 0 97 (dk_at dksX1_suspend_0 5 rfl rfl)
theorem dX1_suspend_8 : decode cX1_suspend 8 = .ok (.checkcast 88, 3) := dk_192 0 88 (dk_at dksX1_suspend_0 8 rfl rfl)
theorem dX1_suspend_11 : decode cX1_suspend 11 = .ok (.astore_n 3, 1) := dk_78 (dk_at dksX1_suspend_0 11 rfl rfl)
theorem dX1_suspend_12 : decode cX1_suspend 12 = .ok (.iload_n 2, 1) := dk_28 (dk_at dksX1_suspend_0 12 rfl rfl)
theorem dX1_suspend_13 : decode cX1_suspend 13 = .ok (.iconst 0, 1) := dk_3 (dk_at dksX1_suspend_0 13 rfl rfl)
theorem dX1_suspend_14 : decode cX1_suspend 14 = .ok (.bipush 100, 2) := dk_16 100 (dk_at dksX1_suspend_0 14 rfl rfl)
theorem dX1_suspend_16 : decode cX1_suspend 16 = .ok (.invokestatic 19, 3) := dk_184 0 19 (dk_at dksX1_suspend_0 16 rfl rfl)
theorem dX1_suspend_19 : decode cX1_suspend 19 = .ok (.invokestatic 82, 3) := dk_184 0 82 (dk_at dksX1_suspend_0 19 rfl rfl)
theorem dX1_suspend_22 : decode cX1_suspend 22 = .ok (.aload_n 3, 1) := dk_45 (dk_at dksX1_suspend_0 22 rfl rfl)
theorem dX1_suspend_23 : decode cX1_suspend 23 = .ok (.sipush 359, 3) := dk_17 1 103 (dk_at dksX1_suspend_1 0 rfl rfl)
theorem dX1_suspend_26 : decode cX1_suspend 26 = .ok (.aload_n 0, 1) := dk_42 (dk_at dksX1_suspend_1 3 rfl rfl)
theorem dX1_suspend_27 : decode cX1_suspend 27 = .ok (.getfield 75, 3) := dk_180 0 75 (dk_at dksX1_suspend_1 4 rfl rfl)
theorem dX1_suspend_30 : decode cX1_suspend 30 = .ok (.iload_n 2, 1) := dk_28 (dk_at dksX1_suspend_1 7 rfl rfl)
theorem dX1_suspend_31 : decode cX1_suspend 31 = .ok (.iadd, 1) := dk_96 (dk_at dksX1_suspend_1 8 rfl rfl)
theorem dX1_suspend_32 : decode cX1_suspend 32 = .ok (.invokestatic 132, 3) := dk_184 0 132 (dk_at dksX1_suspend_1 9 rfl rfl)
theorem dX1_suspend_35 : decode cX1_suspend 35 = .ok (.putfield 138, 3) := dk_181 0 138 (dk_at dksX1_suspend_1 12 rfl rfl)
theorem dX1_suspend_38 : decode cX1_suspend 38 = .ok (.aload_n 3, 1) := dk_45 (dk_at dksX1_suspend_1 15 rfl rfl)
theorem dX1_suspend_39 : decode cX1_suspend 39 = .ok (.getfield 138, 3) := dk_180 0 138 (dk_at dksX1_suspend_1 16 rfl rfl)
theorem dX1_suspend_42 : decode cX1_suspend 42 = .ok (.ireturn, 1) := dk_172 (dk_at dksX1_suspend_1 19 rfl rfl)
abbrev cX1_dress : ByteArray := prog_1_method_17_code
def yX1_dress : MethodName := ⟨RX1, "dress", "(II)I"⟩
def dkwX1_dress_3 : List UInt8 := [184, 0, 132, 184, 0, 148, 181, 0, 138, 45, 180, 0, 145, 172]
abbrev dktX1_dress_3 : List UInt8 := dkwX1_dress_3 ++ []
def dkwX1_dress_2 : List UInt8 := [180, 0, 145, 5, 112, 154, 0, 27, 45, 45, 180, 0, 138, 17, 1, 103, 42, 180, 0, 75, 16, 30, 96]
abbrev dktX1_dress_2 : List UInt8 := dkwX1_dress_2 ++ dktX1_dress_3
def dkwX1_dress_1 : List UInt8 := [182, 0, 141, 153, 0, 8, 45, 180, 0, 145, 172, 45, 89, 180, 0, 145, 4, 96, 181, 0, 145, 45]
abbrev dktX1_dress_1 : List UInt8 := dkwX1_dress_1 ++ dktX1_dress_2
def dkwX1_dress_0 : List UInt8 := [42, 180, 0, 39, 27, 184, 0, 97, 192, 0, 88, 78, 28, 3, 5, 184, 0, 19, 184, 0, 82, 45, 28]
abbrev dktX1_dress_0 : List UInt8 := dkwX1_dress_0 ++ dktX1_dress_1
theorem dksX1_dress_0 : cX1_dress.data.toList.drop 0 = dktX1_dress_0 := by decide +kernel
theorem dksX1_dress_1 : cX1_dress.data.toList.drop 23 = dktX1_dress_1 := dk_seg dksX1_dress_0 23 rfl rfl
theorem dksX1_dress_2 : cX1_dress.data.toList.drop 45 = dktX1_dress_2 := dk_seg dksX1_dress_1 22 rfl rfl
theorem dksX1_dress_3 : cX1_dress.data.toList.drop 68 = dktX1_dress_3 := dk_seg dksX1_dress_2 23 rfl rfl
theorem dX1_dress_0 : decode cX1_dress 0 = .ok (.aload_n 0, 1) := dk_42 (dk_at dksX1_dress_0 0 rfl rfl)
theorem dX1_dress_1 : decode cX1_dress 1 = .ok (.getfield 39, 3) := dk_180 0 39 (dk_at dksX1_dress_0 1 rfl rfl)
theorem dX1_dress_4 : decode cX1_dress 4 = .ok (.iload_n 1, 1) := dk_27 (dk_at dksX1_dress_0 4 rfl rfl)
theorem dX1_dress_5 : decode cX1_dress 5 = .ok (.invokestatic 97, 3) := dk_184 0 97 (dk_at dksX1_dress_0 5 rfl rfl)
theorem dX1_dress_8 : decode cX1_dress 8 = .ok (.checkcast 88, 3) := dk_192 0 88 (dk_at dksX1_dress_0 8 rfl rfl)
theorem dX1_dress_11 : decode cX1_dress 11 = .ok (.astore_n 3, 1) := dk_78 (dk_at dksX1_dress_0 11 rfl rfl)
theorem dX1_dress_12 : decode cX1_dress 12 = .ok (.iload_n 2, 1) := dk_28 (dk_at dksX1_dress_0 12 rfl rfl)
theorem dX1_dress_13 : decode cX1_dress 13 = .ok (.iconst 0, 1) := dk_3 (dk_at dksX1_dress_0 13 rfl rfl)
theorem dX1_dress_14 : decode cX1_dress 14 = .ok (.iconst 2, 1) := dk_5 (dk_at dksX1_dress_0 14 rfl rfl)
theorem dX1_dress_15 : decode cX1_dress 15 = .ok (.invokestatic 19, 3) := dk_184 0 19 (dk_at dksX1_dress_0 15 rfl rfl)
theorem dX1_dress_18 : decode cX1_dress 18 = .ok (.invokestatic 82, 3) := dk_184 0 82 (dk_at dksX1_dress_0 18 rfl rfl)
theorem dX1_dress_21 : decode cX1_dress 21 = .ok (.aload_n 3, 1) := dk_45 (dk_at dksX1_dress_0 21 rfl rfl)
theorem dX1_dress_22 : decode cX1_dress 22 = .ok (.iload_n 2, 1) := dk_28 (dk_at dksX1_dress_0 22 rfl rfl)
theorem dX1_dress_23 : decode cX1_dress 23 = .ok (.invokevirtual 141, 3) := dk_182 0 141 (dk_at dksX1_dress_1 0 rfl rfl)
theorem dX1_dress_26 : decode cX1_dress 26 = .ok (.ifCond .eq 8, 3) := dk_153 0 8 (dk_at dksX1_dress_1 3 rfl rfl)
theorem dX1_dress_29 : decode cX1_dress 29 = .ok (.aload_n 3, 1) := dk_45 (dk_at dksX1_dress_1 6 rfl rfl)
theorem dX1_dress_30 : decode cX1_dress 30 = .ok (.getfield 145, 3) := dk_180 0 145 (dk_at dksX1_dress_1 7 rfl rfl)
theorem dX1_dress_33 : decode cX1_dress 33 = .ok (.ireturn, 1) := dk_172 (dk_at dksX1_dress_1 10 rfl rfl)
theorem dX1_dress_34 : decode cX1_dress 34 = .ok (.aload_n 3, 1) := dk_45 (dk_at dksX1_dress_1 11 rfl rfl)
theorem dX1_dress_35 : decode cX1_dress 35 = .ok (.dup, 1) := dk_89 (dk_at dksX1_dress_1 12 rfl rfl)
theorem dX1_dress_36 : decode cX1_dress 36 = .ok (.getfield 145, 3) := dk_180 0 145 (dk_at dksX1_dress_1 13 rfl rfl)
theorem dX1_dress_39 : decode cX1_dress 39 = .ok (.iconst 1, 1) := dk_4 (dk_at dksX1_dress_1 16 rfl rfl)
theorem dX1_dress_40 : decode cX1_dress 40 = .ok (.iadd, 1) := dk_96 (dk_at dksX1_dress_1 17 rfl rfl)
theorem dX1_dress_41 : decode cX1_dress 41 = .ok (.putfield 145, 3) := dk_181 0 145 (dk_at dksX1_dress_1 18 rfl rfl)
theorem dX1_dress_44 : decode cX1_dress 44 = .ok (.aload_n 3, 1) := dk_45 (dk_at dksX1_dress_1 21 rfl rfl)
theorem dX1_dress_45 : decode cX1_dress 45 = .ok (.getfield 145, 3) := dk_180 0 145 (dk_at dksX1_dress_2 0 rfl rfl)
theorem dX1_dress_48 : decode cX1_dress 48 = .ok (.iconst 2, 1) := dk_5 (dk_at dksX1_dress_2 3 rfl rfl)
theorem dX1_dress_49 : decode cX1_dress 49 = .ok (.irem, 1) := dk_112 (dk_at dksX1_dress_2 4 rfl rfl)
theorem dX1_dress_50 : decode cX1_dress 50 = .ok (.ifCond .ne 27, 3) := dk_154 0 27 (dk_at dksX1_dress_2 5 rfl rfl)
theorem dX1_dress_53 : decode cX1_dress 53 = .ok (.aload_n 3, 1) := dk_45 (dk_at dksX1_dress_2 8 rfl rfl)
theorem dX1_dress_54 : decode cX1_dress 54 = .ok (.aload_n 3, 1) := dk_45 (dk_at dksX1_dress_2 9 rfl rfl)
theorem dX1_dress_55 : decode cX1_dress 55 = .ok (.getfield 138, 3) := dk_180 0 138 (dk_at dksX1_dress_2 10 rfl rfl)
theorem dX1_dress_58 : decode cX1_dress 58 = .ok (.sipush 359, 3) := dk_17 1 103 (dk_at dksX1_dress_2 13 rfl rfl)
theorem dX1_dress_61 : decode cX1_dress 61 = .ok (.aload_n 0, 1) := dk_42 (dk_at dksX1_dress_2 16 rfl rfl)
theorem dX1_dress_62 : decode cX1_dress 62 = .ok (.getfield 75, 3) := dk_180 0 75 (dk_at dksX1_dress_2 17 rfl rfl)
theorem dX1_dress_65 : decode cX1_dress 65 = .ok (.bipush 30, 2) := dk_16 30 (dk_at dksX1_dress_2 20 rfl rfl)
theorem dX1_dress_67 : decode cX1_dress 67 = .ok (.iadd, 1) := dk_96 (dk_at dksX1_dress_2 22 rfl rfl)
theorem dX1_dress_68 : decode cX1_dress 68 = .ok (.invokestatic 132, 3) := dk_184 0 132 (dk_at dksX1_dress_3 0 rfl rfl)
theorem dX1_dress_71 : decode cX1_dress 71 = .ok (.invokestatic 148, 3) := dk_184 0 148 (dk_at dksX1_dress_3 3 rfl rfl)
theorem dX1_dress_74 : decode cX1_dress 74 = .ok (.putfield 138, 3) := dk_181 0 138 (dk_at dksX1_dress_3 6 rfl rfl)
theorem dX1_dress_77 : decode cX1_dress 77 = .ok (.aload_n 3, 1) := dk_45 (dk_at dksX1_dress_3 9 rfl rfl)
theorem dX1_dress_78 : decode cX1_dress 78 = .ok (.getfield 145, 3) := dk_180 0 145 (dk_at dksX1_dress_3 10 rfl rfl)
theorem dX1_dress_81 : decode cX1_dress 81 = .ok (.ireturn, 1) := dk_172 (dk_at dksX1_dress_3 13 rfl rfl)
abbrev cX1_test : ByteArray := prog_1_method_18_code
def yX1_test : MethodName := ⟨RX1, "test", "(III)I"⟩
def dkwX1_test_5 : List UInt8 := [161, 0, 7, 4, 167, 0, 4, 3, 96, 181, 0, 155, 25, 4, 180, 0, 155, 172]
abbrev dktX1_test_5 : List UInt8 := dkwX1_test_5 ++ []
def dkwX1_test_4 : List UInt8 := [167, 0, 4, 3, 184, 0, 85, 25, 4, 89, 180, 0, 155, 29, 16, 60, 8, 25, 4, 180, 0, 155, 104, 96]
abbrev dktX1_test_4 : List UInt8 := dkwX1_test_4 ++ dktX1_test_5
def dkwX1_test_3 : List UInt8 := [154, 0, 27, 42, 25, 4, 25, 5, 182, 0, 151, 154, 0, 16, 25, 4, 180, 0, 155, 8, 162, 0, 7, 4]
abbrev dktX1_test_3 : List UInt8 := dkwX1_test_3 ++ dktX1_test_4
def dkwX1_test_2 : List UInt8 := [184, 0, 82, 25, 5, 180, 0, 101, 5, 161, 0, 42, 25, 5, 180, 0, 104, 25, 4, 185, 0, 107, 2, 0]
abbrev dktX1_test_2 : List UInt8 := dkwX1_test_2 ++ dktX1_test_3
def dkwX1_test_1 : List UInt8 := [58, 5, 29, 3, 16, 100, 184, 0, 19, 153, 0, 14, 25, 4, 25, 5, 165, 0, 7, 4, 167, 0, 4, 3]
abbrev dktX1_test_1 : List UInt8 := dkwX1_test_1 ++ dktX1_test_2
def dkwX1_test_0 : List UInt8 := [42, 180, 0, 39, 27, 184, 0, 97, 192, 0, 88, 58, 4, 42, 180, 0, 39, 28, 184, 0, 97, 192, 0, 88]
abbrev dktX1_test_0 : List UInt8 := dkwX1_test_0 ++ dktX1_test_1
theorem dksX1_test_0 : cX1_test.data.toList.drop 0 = dktX1_test_0 := by decide +kernel
theorem dksX1_test_1 : cX1_test.data.toList.drop 24 = dktX1_test_1 := dk_seg dksX1_test_0 24 rfl rfl
theorem dksX1_test_2 : cX1_test.data.toList.drop 48 = dktX1_test_2 := dk_seg dksX1_test_1 24 rfl rfl
theorem dksX1_test_3 : cX1_test.data.toList.drop 72 = dktX1_test_3 := dk_seg dksX1_test_2 24 rfl rfl
theorem dksX1_test_4 : cX1_test.data.toList.drop 96 = dktX1_test_4 := dk_seg dksX1_test_3 24 rfl rfl
theorem dksX1_test_5 : cX1_test.data.toList.drop 120 = dktX1_test_5 := dk_seg dksX1_test_4 24 rfl rfl
theorem dX1_test_0 : decode cX1_test 0 = .ok (.aload_n 0, 1) := dk_42 (dk_at dksX1_test_0 0 rfl rfl)
theorem dX1_test_1 : decode cX1_test 1 = .ok (.getfield 39, 3) := dk_180 0 39 (dk_at dksX1_test_0 1 rfl rfl)
theorem dX1_test_4 : decode cX1_test 4 = .ok (.iload_n 1, 1) := dk_27 (dk_at dksX1_test_0 4 rfl rfl)
theorem dX1_test_5 : decode cX1_test 5 = .ok (.invokestatic 97, 3) := dk_184 0 97 (dk_at dksX1_test_0 5 rfl rfl)
theorem dX1_test_8 : decode cX1_test 8 = .ok (.checkcast 88, 3) := dk_192 0 88 (dk_at dksX1_test_0 8 rfl rfl)
theorem dX1_test_11 : decode cX1_test 11 = .ok (.astore 4, 2) := dk_58 4 (dk_at dksX1_test_0 11 rfl rfl)
theorem dX1_test_13 : decode cX1_test 13 = .ok (.aload_n 0, 1) := dk_42 (dk_at dksX1_test_0 13 rfl rfl)
theorem dX1_test_14 : decode cX1_test 14 = .ok (.getfield 39, 3) := dk_180 0 39 (dk_at dksX1_test_0 14 rfl rfl)
theorem dX1_test_17 : decode cX1_test 17 = .ok (.iload_n 2, 1) := dk_28 (dk_at dksX1_test_0 17 rfl rfl)
theorem dX1_test_18 : decode cX1_test 18 = .ok (.invokestatic 97, 3) := dk_184 0 97 (dk_at dksX1_test_0 18 rfl rfl)
theorem dX1_test_21 : decode cX1_test 21 = .ok (.checkcast 88, 3) := dk_192 0 88 (dk_at dksX1_test_0 21 rfl rfl)
theorem dX1_test_24 : decode cX1_test 24 = .ok (.astore 5, 2) := dk_58 5 (dk_at dksX1_test_1 0 rfl rfl)
theorem dX1_test_26 : decode cX1_test 26 = .ok (.iload_n 3, 1) := dk_29 (dk_at dksX1_test_1 2 rfl rfl)
theorem dX1_test_27 : decode cX1_test 27 = .ok (.iconst 0, 1) := dk_3 (dk_at dksX1_test_1 3 rfl rfl)
theorem dX1_test_28 : decode cX1_test 28 = .ok (.bipush 100, 2) := dk_16 100 (dk_at dksX1_test_1 4 rfl rfl)
theorem dX1_test_30 : decode cX1_test 30 = .ok (.invokestatic 19, 3) := dk_184 0 19 (dk_at dksX1_test_1 6 rfl rfl)
theorem dX1_test_33 : decode cX1_test 33 = .ok (.ifCond .eq 14, 3) := dk_153 0 14 (dk_at dksX1_test_1 9 rfl rfl)
theorem dX1_test_36 : decode cX1_test 36 = .ok (.aload 4, 2) := dk_25 4 (dk_at dksX1_test_1 12 rfl rfl)
theorem dX1_test_38 : decode cX1_test 38 = .ok (.aload 5, 2) := dk_25 5 (dk_at dksX1_test_1 14 rfl rfl)
theorem dX1_test_40 : decode cX1_test 40 = .ok (.if_acmp .eq 7, 3) := dk_165 0 7 (dk_at dksX1_test_1 16 rfl rfl)
theorem dX1_test_43 : decode cX1_test 43 = .ok (.iconst 1, 1) := dk_4 (dk_at dksX1_test_1 19 rfl rfl)
theorem dX1_test_44 : decode cX1_test 44 = .ok (.goto 4, 3) := dk_167 0 4 (dk_at dksX1_test_1 20 rfl rfl)
theorem dX1_test_47 : decode cX1_test 47 = .ok (.iconst 0, 1) := dk_3 (dk_at dksX1_test_1 23 rfl rfl)
theorem dX1_test_48 : decode cX1_test 48 = .ok (.invokestatic 82, 3) := dk_184 0 82 (dk_at dksX1_test_2 0 rfl rfl)
theorem dX1_test_51 : decode cX1_test 51 = .ok (.aload 5, 2) := dk_25 5 (dk_at dksX1_test_2 3 rfl rfl)
theorem dX1_test_53 : decode cX1_test 53 = .ok (.getfield 101, 3) := dk_180 0 101 (dk_at dksX1_test_2 5 rfl rfl)
theorem dX1_test_56 : decode cX1_test 56 = .ok (.iconst 2, 1) := dk_5 (dk_at dksX1_test_2 8 rfl rfl)
theorem dX1_test_57 : decode cX1_test 57 = .ok (.if_icmp .lt 42, 3) := dk_161 0 42 (dk_at dksX1_test_2 9 rfl rfl)
theorem dX1_test_60 : decode cX1_test 60 = .ok (.aload 5, 2) := dk_25 5 (dk_at dksX1_test_2 12 rfl rfl)
theorem dX1_test_62 : decode cX1_test 62 = .ok (.getfield 104, 3) := dk_180 0 104 (dk_at dksX1_test_2 14 rfl rfl)
theorem dX1_test_65 : decode cX1_test 65 = .ok (.aload 4, 2) := dk_25 4 (dk_at dksX1_test_2 17 rfl rfl)
theorem dX1_test_67 : decode cX1_test 67 = .ok (.invokeinterface 107 2, 5) := by decide +kernel
theorem dX1_test_72 : decode cX1_test 72 = .ok (.ifCond .ne 27, 3) := dk_154 0 27 (dk_at dksX1_test_3 0 rfl rfl)
theorem dX1_test_75 : decode cX1_test 75 = .ok (.aload_n 0, 1) := dk_42 (dk_at dksX1_test_3 3 rfl rfl)
theorem dX1_test_76 : decode cX1_test 76 = .ok (.aload 4, 2) := dk_25 4 (dk_at dksX1_test_3 4 rfl rfl)
theorem dX1_test_78 : decode cX1_test 78 = .ok (.aload 5, 2) := dk_25 5 (dk_at dksX1_test_3 6 rfl rfl)
theorem dX1_test_80 : decode cX1_test 80 = .ok (.invokevirtual 151, 3) := dk_182 0 151 (dk_at dksX1_test_3 8 rfl rfl)
theorem dX1_test_83 : decode cX1_test 83 = .ok (.ifCond .ne 16, 3) := dk_154 0 16 (dk_at dksX1_test_3 11 rfl rfl)
theorem dX1_test_86 : decode cX1_test 86 = .ok (.aload 4, 2) := dk_25 4 (dk_at dksX1_test_3 14 rfl rfl)
theorem dX1_test_88 : decode cX1_test 88 = .ok (.getfield 155, 3) := dk_180 0 155 (dk_at dksX1_test_3 16 rfl rfl)
theorem dX1_test_91 : decode cX1_test 91 = .ok (.iconst 5, 1) := dk_8 (dk_at dksX1_test_3 19 rfl rfl)
theorem dX1_test_92 : decode cX1_test 92 = .ok (.if_icmp .ge 7, 3) := dk_162 0 7 (dk_at dksX1_test_3 20 rfl rfl)
theorem dX1_test_95 : decode cX1_test 95 = .ok (.iconst 1, 1) := dk_4 (dk_at dksX1_test_3 23 rfl rfl)
theorem dX1_test_96 : decode cX1_test 96 = .ok (.goto 4, 3) := dk_167 0 4 (dk_at dksX1_test_4 0 rfl rfl)
theorem dX1_test_99 : decode cX1_test 99 = .ok (.iconst 0, 1) := dk_3 (dk_at dksX1_test_4 3 rfl rfl)
theorem dX1_test_100 : decode cX1_test 100 = .ok (.invokestatic 85, 3) := dk_184 0 85 (dk_at dksX1_test_4 4 rfl rfl)
theorem dX1_test_103 : decode cX1_test 103 = .ok (.aload 4, 2) := dk_25 4 (dk_at dksX1_test_4 7 rfl rfl)
theorem dX1_test_105 : decode cX1_test 105 = .ok (.dup, 1) := dk_89 (dk_at dksX1_test_4 9 rfl rfl)
theorem dX1_test_106 : decode cX1_test 106 = .ok (.getfield 155, 3) := dk_180 0 155 (dk_at dksX1_test_4 10 rfl rfl)
theorem dX1_test_109 : decode cX1_test 109 = .ok (.iload_n 3, 1) := dk_29 (dk_at dksX1_test_4 13 rfl rfl)
theorem dX1_test_110 : decode cX1_test 110 = .ok (.bipush 60, 2) := dk_16 60 (dk_at dksX1_test_4 14 rfl rfl)
theorem dX1_test_112 : decode cX1_test 112 = .ok (.iconst 5, 1) := dk_8 (dk_at dksX1_test_4 16 rfl rfl)
theorem dX1_test_113 : decode cX1_test 113 = .ok (.aload 4, 2) := dk_25 4 (dk_at dksX1_test_4 17 rfl rfl)
theorem dX1_test_115 : decode cX1_test 115 = .ok (.getfield 155, 3) := dk_180 0 155 (dk_at dksX1_test_4 19 rfl rfl)
theorem dX1_test_118 : decode cX1_test 118 = .ok (.imul, 1) := dk_104 (dk_at dksX1_test_4 22 rfl rfl)
theorem dX1_test_119 : decode cX1_test 119 = .ok (.iadd, 1) := dk_96 (dk_at dksX1_test_4 23 rfl rfl)
theorem dX1_test_120 : decode cX1_test 120 = .ok (.if_icmp .lt 7, 3) := dk_161 0 7 (dk_at dksX1_test_5 0 rfl rfl)
theorem dX1_test_123 : decode cX1_test 123 = .ok (.iconst 1, 1) := dk_4 (dk_at dksX1_test_5 3 rfl rfl)
theorem dX1_test_124 : decode cX1_test 124 = .ok (.goto 4, 3) := dk_167 0 4 (dk_at dksX1_test_5 4 rfl rfl)
theorem dX1_test_127 : decode cX1_test 127 = .ok (.iconst 0, 1) := dk_3 (dk_at dksX1_test_5 7 rfl rfl)
theorem dX1_test_128 : decode cX1_test 128 = .ok (.iadd, 1) := dk_96 (dk_at dksX1_test_5 8 rfl rfl)
theorem dX1_test_129 : decode cX1_test 129 = .ok (.putfield 155, 3) := dk_181 0 155 (dk_at dksX1_test_5 9 rfl rfl)
theorem dX1_test_132 : decode cX1_test 132 = .ok (.aload 4, 2) := dk_25 4 (dk_at dksX1_test_5 12 rfl rfl)
theorem dX1_test_134 : decode cX1_test 134 = .ok (.getfield 155, 3) := dk_180 0 155 (dk_at dksX1_test_5 14 rfl rfl)
theorem dX1_test_137 : decode cX1_test 137 = .ok (.ireturn, 1) := dk_172 (dk_at dksX1_test_5 17 rfl rfl)
abbrev cX1_isPupil : ByteArray := prog_1_method_15_code
def yX1_isPupil : MethodName := ⟨RX1, "isPupil", "(LScrutineery$Person;LScrutineery$Person;)Z"⟩
def dkwX1_isPupil_4 : List UInt8 := [167, 0, 4, 3, 128, 62, 132, 4, 1, 167, 255, 162, 29, 172]
abbrev dktX1_isPupil_4 : List UInt8 := dkwX1_isPupil_4 ++ []
def dkwX1_isPupil_3 : List UInt8 := [185, 0, 29, 2, 0, 192, 0, 110, 182, 0, 129, 42, 180, 0, 75, 16, 60, 100, 161, 0, 7, 4]
abbrev dktX1_isPupil_3 : List UInt8 := dkwX1_isPupil_3 ++ dktX1_isPupil_4
def dkwX1_isPupil_2 : List UInt8 := [185, 0, 29, 2, 0, 192, 0, 110, 182, 0, 126, 43, 166, 0, 34, 42, 180, 0, 43, 21, 4]
abbrev dktX1_isPupil_2 : List UInt8 := dkwX1_isPupil_2 ++ dktX1_isPupil_3
def dkwX1_isPupil_1 : List UInt8 := [21, 4, 185, 0, 29, 2, 0, 192, 0, 110, 182, 0, 122, 44, 166, 0, 55, 42, 180, 0, 43, 21, 4]
abbrev dktX1_isPupil_1 : List UInt8 := dkwX1_isPupil_1 ++ dktX1_isPupil_2
def dkwX1_isPupil_0 : List UInt8 := [3, 62, 3, 54, 4, 21, 4, 42, 180, 0, 43, 185, 0, 13, 1, 0, 162, 0, 86, 29, 42, 180, 0, 43]
abbrev dktX1_isPupil_0 : List UInt8 := dkwX1_isPupil_0 ++ dktX1_isPupil_1
theorem dksX1_isPupil_0 : cX1_isPupil.data.toList.drop 0 = dktX1_isPupil_0 := by decide +kernel
theorem dksX1_isPupil_1 : cX1_isPupil.data.toList.drop 24 = dktX1_isPupil_1 := dk_seg dksX1_isPupil_0 24 rfl rfl
theorem dksX1_isPupil_2 : cX1_isPupil.data.toList.drop 47 = dktX1_isPupil_2 := dk_seg dksX1_isPupil_1 23 rfl rfl
theorem dksX1_isPupil_3 : cX1_isPupil.data.toList.drop 68 = dktX1_isPupil_3 := dk_seg dksX1_isPupil_2 21 rfl rfl
theorem dksX1_isPupil_4 : cX1_isPupil.data.toList.drop 90 = dktX1_isPupil_4 := dk_seg dksX1_isPupil_3 22 rfl rfl
theorem dX1_isPupil_0 : decode cX1_isPupil 0 = .ok (.iconst 0, 1) := dk_3 (dk_at dksX1_isPupil_0 0 rfl rfl)
theorem dX1_isPupil_1 : decode cX1_isPupil 1 = .ok (.istore_n 3, 1) := dk_62 (dk_at dksX1_isPupil_0 1 rfl rfl)
theorem dX1_isPupil_2 : decode cX1_isPupil 2 = .ok (.iconst 0, 1) := dk_3 (dk_at dksX1_isPupil_0 2 rfl rfl)
theorem dX1_isPupil_3 : decode cX1_isPupil 3 = .ok (.istore 4, 2) := dk_54 4 (dk_at dksX1_isPupil_0 3 rfl rfl)
theorem dX1_isPupil_5 : decode cX1_isPupil 5 = .ok (.iload 4, 2) := dk_21 4 (dk_at dksX1_isPupil_0 5 rfl rfl)
theorem dX1_isPupil_7 : decode cX1_isPupil 7 = .ok (.aload_n 0, 1) := dk_42 (dk_at dksX1_isPupil_0 7 rfl rfl)
theorem dX1_isPupil_8 : decode cX1_isPupil 8 = .ok (.getfield 43, 3) := dk_180 0 43 (dk_at dksX1_isPupil_0 8 rfl rfl)
theorem dX1_isPupil_11 : decode cX1_isPupil 11 = .ok (.invokeinterface 13 1, 5) := by decide +kernel
theorem dX1_isPupil_16 : decode cX1_isPupil 16 = .ok (.if_icmp .ge 86, 3) := dk_162 0 86 (dk_at dksX1_isPupil_0 16 rfl rfl)
theorem dX1_isPupil_19 : decode cX1_isPupil 19 = .ok (.iload_n 3, 1) := dk_29 (dk_at dksX1_isPupil_0 19 rfl rfl)
theorem dX1_isPupil_20 : decode cX1_isPupil 20 = .ok (.aload_n 0, 1) := dk_42 (dk_at dksX1_isPupil_0 20 rfl rfl)
theorem dX1_isPupil_21 : decode cX1_isPupil 21 = .ok (.getfield 43, 3) := dk_180 0 43 (dk_at dksX1_isPupil_0 21 rfl rfl)
theorem dX1_isPupil_24 : decode cX1_isPupil 24 = .ok (.iload 4, 2) := dk_21 4 (dk_at dksX1_isPupil_1 0 rfl rfl)
theorem dX1_isPupil_26 : decode cX1_isPupil 26 = .ok (.invokeinterface 29 2, 5) := by decide +kernel
theorem dX1_isPupil_31 : decode cX1_isPupil 31 = .ok (.checkcast 110, 3) := dk_192 0 110 (dk_at dksX1_isPupil_1 7 rfl rfl)
theorem dX1_isPupil_34 : decode cX1_isPupil 34 = .ok (.invokevirtual 122, 3) := dk_182 0 122 (dk_at dksX1_isPupil_1 10 rfl rfl)
theorem dX1_isPupil_37 : decode cX1_isPupil 37 = .ok (.aload_n 2, 1) := dk_44 (dk_at dksX1_isPupil_1 13 rfl rfl)
theorem dX1_isPupil_38 : decode cX1_isPupil 38 = .ok (.if_acmp .ne 55, 3) := dk_166 0 55 (dk_at dksX1_isPupil_1 14 rfl rfl)
theorem dX1_isPupil_41 : decode cX1_isPupil 41 = .ok (.aload_n 0, 1) := dk_42 (dk_at dksX1_isPupil_1 17 rfl rfl)
theorem dX1_isPupil_42 : decode cX1_isPupil 42 = .ok (.getfield 43, 3) := dk_180 0 43 (dk_at dksX1_isPupil_1 18 rfl rfl)
theorem dX1_isPupil_45 : decode cX1_isPupil 45 = .ok (.iload 4, 2) := dk_21 4 (dk_at dksX1_isPupil_1 21 rfl rfl)
theorem dX1_isPupil_47 : decode cX1_isPupil 47 = .ok (.invokeinterface 29 2, 5) := by decide +kernel
theorem dX1_isPupil_52 : decode cX1_isPupil 52 = .ok (.checkcast 110, 3) := dk_192 0 110 (dk_at dksX1_isPupil_2 5 rfl rfl)
theorem dX1_isPupil_55 : decode cX1_isPupil 55 = .ok (.invokevirtual 126, 3) := dk_182 0 126 (dk_at dksX1_isPupil_2 8 rfl rfl)
theorem dX1_isPupil_58 : decode cX1_isPupil 58 = .ok (.aload_n 1, 1) := dk_43 (dk_at dksX1_isPupil_2 11 rfl rfl)
theorem dX1_isPupil_59 : decode cX1_isPupil 59 = .ok (.if_acmp .ne 34, 3) := dk_166 0 34 (dk_at dksX1_isPupil_2 12 rfl rfl)
theorem dX1_isPupil_62 : decode cX1_isPupil 62 = .ok (.aload_n 0, 1) := dk_42 (dk_at dksX1_isPupil_2 15 rfl rfl)
theorem dX1_isPupil_63 : decode cX1_isPupil 63 = .ok (.getfield 43, 3) := dk_180 0 43 (dk_at dksX1_isPupil_2 16 rfl rfl)
theorem dX1_isPupil_66 : decode cX1_isPupil 66 = .ok (.iload 4, 2) := dk_21 4 (dk_at dksX1_isPupil_2 19 rfl rfl)
theorem dX1_isPupil_68 : decode cX1_isPupil 68 = .ok (.invokeinterface 29 2, 5) := by decide +kernel
theorem dX1_isPupil_73 : decode cX1_isPupil 73 = .ok (.checkcast 110, 3) := dk_192 0 110 (dk_at dksX1_isPupil_3 5 rfl rfl)
theorem dX1_isPupil_76 : decode cX1_isPupil 76 = .ok (.invokevirtual 129, 3) := dk_182 0 129 (dk_at dksX1_isPupil_3 8 rfl rfl)
theorem dX1_isPupil_79 : decode cX1_isPupil 79 = .ok (.aload_n 0, 1) := dk_42 (dk_at dksX1_isPupil_3 11 rfl rfl)
theorem dX1_isPupil_80 : decode cX1_isPupil 80 = .ok (.getfield 75, 3) := dk_180 0 75 (dk_at dksX1_isPupil_3 12 rfl rfl)
theorem dX1_isPupil_83 : decode cX1_isPupil 83 = .ok (.bipush 60, 2) := dk_16 60 (dk_at dksX1_isPupil_3 15 rfl rfl)
theorem dX1_isPupil_85 : decode cX1_isPupil 85 = .ok (.isub, 1) := dk_100 (dk_at dksX1_isPupil_3 17 rfl rfl)
theorem dX1_isPupil_86 : decode cX1_isPupil 86 = .ok (.if_icmp .lt 7, 3) := dk_161 0 7 (dk_at dksX1_isPupil_3 18 rfl rfl)
theorem dX1_isPupil_89 : decode cX1_isPupil 89 = .ok (.iconst 1, 1) := dk_4 (dk_at dksX1_isPupil_3 21 rfl rfl)
theorem dX1_isPupil_90 : decode cX1_isPupil 90 = .ok (.goto 4, 3) := dk_167 0 4 (dk_at dksX1_isPupil_4 0 rfl rfl)
theorem dX1_isPupil_93 : decode cX1_isPupil 93 = .ok (.iconst 0, 1) := dk_3 (dk_at dksX1_isPupil_4 3 rfl rfl)
theorem dX1_isPupil_94 : decode cX1_isPupil 94 = .ok (.ior, 1) := dk_128 (dk_at dksX1_isPupil_4 4 rfl rfl)
theorem dX1_isPupil_95 : decode cX1_isPupil 95 = .ok (.istore_n 3, 1) := dk_62 (dk_at dksX1_isPupil_4 5 rfl rfl)
theorem dX1_isPupil_96 : decode cX1_isPupil 96 = .ok (.iinc 4 1, 3) := dk_132 4 1 (dk_at dksX1_isPupil_4 6 rfl rfl)
theorem dX1_isPupil_99 : decode cX1_isPupil 99 = .ok (.goto (-94), 3) := dk_167 255 162 (dk_at dksX1_isPupil_4 9 rfl rfl)
theorem dX1_isPupil_102 : decode cX1_isPupil 102 = .ok (.iload_n 3, 1) := dk_29 (dk_at dksX1_isPupil_4 12 rfl rfl)
theorem dX1_isPupil_103 : decode cX1_isPupil 103 = .ok (.ireturn, 1) := dk_172 (dk_at dksX1_isPupil_4 13 rfl rfl)
abbrev cX1_couple : ByteArray := prog_1_method_19_code
def yX1_couple : MethodName := ⟨RX1, "couple", "(II)I"⟩
def dkwX1_couple_7 : List UInt8 := [54, 5, 42, 180, 0, 46, 185, 0, 13, 1, 0, 4, 100, 172]
abbrev dktX1_couple_7 : List UInt8 := dkwX1_couple_7 ++ []
def dkwX1_couple_6 : List UInt8 := [187, 0, 171, 89, 42, 180, 0, 46, 185, 0, 13, 1, 0, 45, 25, 4, 183, 0, 181, 185, 0, 93, 2, 0]
abbrev dktX1_couple_6 : List UInt8 := dkwX1_couple_6 ++ dktX1_couple_7
def dkwX1_couple_5 : List UInt8 := [182, 0, 177, 154, 0, 7, 4, 167, 0, 4, 3, 126, 181, 0, 173, 167, 255, 200, 42, 180, 0, 46]
abbrev dktX1_couple_5 : List UInt8 := dkwX1_couple_5 ++ dktX1_couple_6
def dkwX1_couple_4 : List UInt8 := [192, 0, 171, 58, 6, 25, 6, 89, 180, 0, 173, 25, 6, 45, 182, 0, 177, 154, 0, 17, 25, 6, 25, 4]
abbrev dktX1_couple_4 : List UInt8 := dkwX1_couple_4 ++ dktX1_couple_5
def dkwX1_couple_3 : List UInt8 := [185, 0, 158, 1, 0, 58, 5, 25, 5, 185, 0, 162, 1, 0, 153, 0, 52, 25, 5, 185, 0, 167, 1, 0]
abbrev dktX1_couple_3 : List UInt8 := dkwX1_couple_3 ++ dktX1_couple_4
def dkwX1_couple_2 : List UInt8 := [185, 0, 13, 1, 0, 16, 16, 162, 0, 7, 4, 167, 0, 4, 3, 184, 0, 85, 42, 180, 0, 46]
abbrev dktX1_couple_2 : List UInt8 := dkwX1_couple_2 ++ dktX1_couple_3
def dkwX1_couple_1 : List UInt8 := [58, 4, 45, 25, 4, 165, 0, 7, 4, 167, 0, 4, 3, 184, 0, 82, 42, 180, 0, 46]
abbrev dktX1_couple_1 : List UInt8 := dkwX1_couple_1 ++ dktX1_couple_2
def dkwX1_couple_0 : List UInt8 := [42, 180, 0, 39, 27, 184, 0, 97, 192, 0, 88, 78, 42, 180, 0, 39, 28, 184, 0, 97, 192, 0, 88]
abbrev dktX1_couple_0 : List UInt8 := dkwX1_couple_0 ++ dktX1_couple_1
theorem dksX1_couple_0 : cX1_couple.data.toList.drop 0 = dktX1_couple_0 := by decide +kernel
theorem dksX1_couple_1 : cX1_couple.data.toList.drop 23 = dktX1_couple_1 := dk_seg dksX1_couple_0 23 rfl rfl
theorem dksX1_couple_2 : cX1_couple.data.toList.drop 43 = dktX1_couple_2 := dk_seg dksX1_couple_1 20 rfl rfl
theorem dksX1_couple_3 : cX1_couple.data.toList.drop 65 = dktX1_couple_3 := dk_seg dksX1_couple_2 22 rfl rfl
theorem dksX1_couple_4 : cX1_couple.data.toList.drop 89 = dktX1_couple_4 := dk_seg dksX1_couple_3 24 rfl rfl
theorem dksX1_couple_5 : cX1_couple.data.toList.drop 113 = dktX1_couple_5 := dk_seg dksX1_couple_4 24 rfl rfl
theorem dksX1_couple_6 : cX1_couple.data.toList.drop 135 = dktX1_couple_6 := dk_seg dksX1_couple_5 22 rfl rfl
theorem dksX1_couple_7 : cX1_couple.data.toList.drop 159 = dktX1_couple_7 := dk_seg dksX1_couple_6 24 rfl rfl
theorem dX1_couple_0 : decode cX1_couple 0 = .ok (.aload_n 0, 1) := dk_42 (dk_at dksX1_couple_0 0 rfl rfl)
theorem dX1_couple_1 : decode cX1_couple 1 = .ok (.getfield 39, 3) := dk_180 0 39 (dk_at dksX1_couple_0 1 rfl rfl)
theorem dX1_couple_4 : decode cX1_couple 4 = .ok (.iload_n 1, 1) := dk_27 (dk_at dksX1_couple_0 4 rfl rfl)
theorem dX1_couple_5 : decode cX1_couple 5 = .ok (.invokestatic 97, 3) := dk_184 0 97 (dk_at dksX1_couple_0 5 rfl rfl)
theorem dX1_couple_8 : decode cX1_couple 8 = .ok (.checkcast 88, 3) := dk_192 0 88 (dk_at dksX1_couple_0 8 rfl rfl)
theorem dX1_couple_11 : decode cX1_couple 11 = .ok (.astore_n 3, 1) := dk_78 (dk_at dksX1_couple_0 11 rfl rfl)
theorem dX1_couple_12 : decode cX1_couple 12 = .ok (.aload_n 0, 1) := dk_42 (dk_at dksX1_couple_0 12 rfl rfl)
theorem dX1_couple_13 : decode cX1_couple 13 = .ok (.getfield 39, 3) := dk_180 0 39 (dk_at dksX1_couple_0 13 rfl rfl)
theorem dX1_couple_16 : decode cX1_couple 16 = .ok (.iload_n 2, 1) := dk_28 (dk_at dksX1_couple_0 16 rfl rfl)
theorem dX1_couple_17 : decode cX1_couple 17 = .ok (.invokestatic 97, 3) := dk_184 0 97 (dk_at dksX1_couple_0 17 rfl rfl)
theorem dX1_couple_20 : decode cX1_couple 20 = .ok (.checkcast 88, 3) := dk_192 0 88 (dk_at dksX1_couple_0 20 rfl rfl)
theorem dX1_couple_23 : decode cX1_couple 23 = .ok (.astore 4, 2) := dk_58 4 (dk_at dksX1_couple_1 0 rfl rfl)
theorem dX1_couple_25 : decode cX1_couple 25 = .ok (.aload_n 3, 1) := dk_45 (dk_at dksX1_couple_1 2 rfl rfl)
theorem dX1_couple_26 : decode cX1_couple 26 = .ok (.aload 4, 2) := dk_25 4 (dk_at dksX1_couple_1 3 rfl rfl)
theorem dX1_couple_28 : decode cX1_couple 28 = .ok (.if_acmp .eq 7, 3) := dk_165 0 7 (dk_at dksX1_couple_1 5 rfl rfl)
theorem dX1_couple_31 : decode cX1_couple 31 = .ok (.iconst 1, 1) := dk_4 (dk_at dksX1_couple_1 8 rfl rfl)
theorem dX1_couple_32 : decode cX1_couple 32 = .ok (.goto 4, 3) := dk_167 0 4 (dk_at dksX1_couple_1 9 rfl rfl)
theorem dX1_couple_35 : decode cX1_couple 35 = .ok (.iconst 0, 1) := dk_3 (dk_at dksX1_couple_1 12 rfl rfl)
theorem dX1_couple_36 : decode cX1_couple 36 = .ok (.invokestatic 82, 3) := dk_184 0 82 (dk_at dksX1_couple_1 13 rfl rfl)
theorem dX1_couple_39 : decode cX1_couple 39 = .ok (.aload_n 0, 1) := dk_42 (dk_at dksX1_couple_1 16 rfl rfl)
theorem dX1_couple_40 : decode cX1_couple 40 = .ok (.getfield 46, 3) := dk_180 0 46 (dk_at dksX1_couple_1 17 rfl rfl)
theorem dX1_couple_43 : decode cX1_couple 43 = .ok (.invokeinterface 13 1, 5) := by decide +kernel
theorem dX1_couple_48 : decode cX1_couple 48 = .ok (.bipush 16, 2) := dk_16 16 (dk_at dksX1_couple_2 5 rfl rfl)
theorem dX1_couple_50 : decode cX1_couple 50 = .ok (.if_icmp .ge 7, 3) := dk_162 0 7 (dk_at dksX1_couple_2 7 rfl rfl)
theorem dX1_couple_53 : decode cX1_couple 53 = .ok (.iconst 1, 1) := dk_4 (dk_at dksX1_couple_2 10 rfl rfl)
theorem dX1_couple_54 : decode cX1_couple 54 = .ok (.goto 4, 3) := dk_167 0 4 (dk_at dksX1_couple_2 11 rfl rfl)
theorem dX1_couple_57 : decode cX1_couple 57 = .ok (.iconst 0, 1) := dk_3 (dk_at dksX1_couple_2 14 rfl rfl)
theorem dX1_couple_58 : decode cX1_couple 58 = .ok (.invokestatic 85, 3) := dk_184 0 85 (dk_at dksX1_couple_2 15 rfl rfl)
theorem dX1_couple_61 : decode cX1_couple 61 = .ok (.aload_n 0, 1) := dk_42 (dk_at dksX1_couple_2 18 rfl rfl)
theorem dX1_couple_62 : decode cX1_couple 62 = .ok (.getfield 46, 3) := dk_180 0 46 (dk_at dksX1_couple_2 19 rfl rfl)
theorem dX1_couple_65 : decode cX1_couple 65 = .ok (.invokeinterface 158 1, 5) := by decide +kernel
theorem dX1_couple_70 : decode cX1_couple 70 = .ok (.astore 5, 2) := dk_58 5 (dk_at dksX1_couple_3 5 rfl rfl)
theorem dX1_couple_72 : decode cX1_couple 72 = .ok (.aload 5, 2) := dk_25 5 (dk_at dksX1_couple_3 7 rfl rfl)
theorem dX1_couple_74 : decode cX1_couple 74 = .ok (.invokeinterface 162 1, 5) := by decide +kernel
theorem dX1_couple_79 : decode cX1_couple 79 = .ok (.ifCond .eq 52, 3) := dk_153 0 52 (dk_at dksX1_couple_3 14 rfl rfl)
theorem dX1_couple_82 : decode cX1_couple 82 = .ok (.aload 5, 2) := dk_25 5 (dk_at dksX1_couple_3 17 rfl rfl)
theorem dX1_couple_84 : decode cX1_couple 84 = .ok (.invokeinterface 167 1, 5) := by decide +kernel
theorem dX1_couple_89 : decode cX1_couple 89 = .ok (.checkcast 171, 3) := dk_192 0 171 (dk_at dksX1_couple_4 0 rfl rfl)
theorem dX1_couple_92 : decode cX1_couple 92 = .ok (.astore 6, 2) := dk_58 6 (dk_at dksX1_couple_4 3 rfl rfl)
theorem dX1_couple_94 : decode cX1_couple 94 = .ok (.aload 6, 2) := dk_25 6 (dk_at dksX1_couple_4 5 rfl rfl)
theorem dX1_couple_96 : decode cX1_couple 96 = .ok (.dup, 1) := dk_89 (dk_at dksX1_couple_4 7 rfl rfl)
theorem dX1_couple_97 : decode cX1_couple 97 = .ok (.getfield 173, 3) := dk_180 0 173 (dk_at dksX1_couple_4 8 rfl rfl)
theorem dX1_couple_100 : decode cX1_couple 100 = .ok (.aload 6, 2) := dk_25 6 (dk_at dksX1_couple_4 11 rfl rfl)
theorem dX1_couple_102 : decode cX1_couple 102 = .ok (.aload_n 3, 1) := dk_45 (dk_at dksX1_couple_4 13 rfl rfl)
theorem dX1_couple_103 : decode cX1_couple 103 = .ok (.invokevirtual 177, 3) := dk_182 0 177 (dk_at dksX1_couple_4 14 rfl rfl)
theorem dX1_couple_106 : decode cX1_couple 106 = .ok (.ifCond .ne 17, 3) := dk_154 0 17 (dk_at dksX1_couple_4 17 rfl rfl)
theorem dX1_couple_109 : decode cX1_couple 109 = .ok (.aload 6, 2) := dk_25 6 (dk_at dksX1_couple_4 20 rfl rfl)
theorem dX1_couple_111 : decode cX1_couple 111 = .ok (.aload 4, 2) := dk_25 4 (dk_at dksX1_couple_4 22 rfl rfl)
theorem dX1_couple_113 : decode cX1_couple 113 = .ok (.invokevirtual 177, 3) := dk_182 0 177 (dk_at dksX1_couple_5 0 rfl rfl)
theorem dX1_couple_116 : decode cX1_couple 116 = .ok (.ifCond .ne 7, 3) := dk_154 0 7 (dk_at dksX1_couple_5 3 rfl rfl)
theorem dX1_couple_119 : decode cX1_couple 119 = .ok (.iconst 1, 1) := dk_4 (dk_at dksX1_couple_5 6 rfl rfl)
theorem dX1_couple_120 : decode cX1_couple 120 = .ok (.goto 4, 3) := dk_167 0 4 (dk_at dksX1_couple_5 7 rfl rfl)
theorem dX1_couple_123 : decode cX1_couple 123 = .ok (.iconst 0, 1) := dk_3 (dk_at dksX1_couple_5 10 rfl rfl)
theorem dX1_couple_124 : decode cX1_couple 124 = .ok (.iand, 1) := dk_126 (dk_at dksX1_couple_5 11 rfl rfl)
theorem dX1_couple_125 : decode cX1_couple 125 = .ok (.putfield 173, 3) := dk_181 0 173 (dk_at dksX1_couple_5 12 rfl rfl)
theorem dX1_couple_128 : decode cX1_couple 128 = .ok (.goto (-56), 3) := dk_167 255 200 (dk_at dksX1_couple_5 15 rfl rfl)
theorem dX1_couple_131 : decode cX1_couple 131 = .ok (.aload_n 0, 1) := dk_42 (dk_at dksX1_couple_5 18 rfl rfl)
theorem dX1_couple_132 : decode cX1_couple 132 = .ok (.getfield 46, 3) := dk_180 0 46 (dk_at dksX1_couple_5 19 rfl rfl)
theorem dX1_couple_135 : decode cX1_couple 135 = .ok (.new 171, 3) := dk_187 0 171 (dk_at dksX1_couple_6 0 rfl rfl)
theorem dX1_couple_138 : decode cX1_couple 138 = .ok (.dup, 1) := dk_89 (dk_at dksX1_couple_6 3 rfl rfl)
theorem dX1_couple_139 : decode cX1_couple 139 = .ok (.aload_n 0, 1) := dk_42 (dk_at dksX1_couple_6 4 rfl rfl)
theorem dX1_couple_140 : decode cX1_couple 140 = .ok (.getfield 46, 3) := dk_180 0 46 (dk_at dksX1_couple_6 5 rfl rfl)
theorem dX1_couple_143 : decode cX1_couple 143 = .ok (.invokeinterface 13 1, 5) := by decide +kernel
theorem dX1_couple_148 : decode cX1_couple 148 = .ok (.aload_n 3, 1) := dk_45 (dk_at dksX1_couple_6 13 rfl rfl)
theorem dX1_couple_149 : decode cX1_couple 149 = .ok (.aload 4, 2) := dk_25 4 (dk_at dksX1_couple_6 14 rfl rfl)
theorem dX1_couple_151 : decode cX1_couple 151 = .ok (.invokespecial 181, 3) := dk_183 0 181 (dk_at dksX1_couple_6 16 rfl rfl)
theorem dX1_couple_154 : decode cX1_couple 154 = .ok (.invokeinterface 93 2, 5) := by decide +kernel
theorem dX1_couple_159 : decode cX1_couple 159 = .ok (.istore 5, 2) := dk_54 5 (dk_at dksX1_couple_7 0 rfl rfl)
theorem dX1_couple_161 : decode cX1_couple 161 = .ok (.aload_n 0, 1) := dk_42 (dk_at dksX1_couple_7 2 rfl rfl)
theorem dX1_couple_162 : decode cX1_couple 162 = .ok (.getfield 46, 3) := dk_180 0 46 (dk_at dksX1_couple_7 3 rfl rfl)
theorem dX1_couple_165 : decode cX1_couple 165 = .ok (.invokeinterface 13 1, 5) := by decide +kernel
theorem dX1_couple_170 : decode cX1_couple 170 = .ok (.iconst 1, 1) := dk_4 (dk_at dksX1_couple_7 11 rfl rfl)
theorem dX1_couple_171 : decode cX1_couple 171 = .ok (.isub, 1) := dk_100 (dk_at dksX1_couple_7 12 rfl rfl)
theorem dX1_couple_172 : decode cX1_couple 172 = .ok (.ireturn, 1) := dk_172 (dk_at dksX1_couple_7 13 rfl rfl)
abbrev cX1_part : ByteArray := prog_1_method_20_code
def yX1_part : MethodName := ⟨RX1, "part", "(I)Z"⟩
def dkwX1_part_0 : List UInt8 := [42, 180, 0, 46, 27, 184, 0, 97, 192, 0, 171, 77, 44, 180, 0, 173, 62, 44, 3, 181, 0, 173, 29, 172]
abbrev dktX1_part_0 : List UInt8 := dkwX1_part_0 ++ []
theorem dksX1_part_0 : cX1_part.data.toList.drop 0 = dktX1_part_0 := by decide +kernel
theorem dX1_part_0 : decode cX1_part 0 = .ok (.aload_n 0, 1) := dk_42 (dk_at dksX1_part_0 0 rfl rfl)
theorem dX1_part_1 : decode cX1_part 1 = .ok (.getfield 46, 3) := dk_180 0 46 (dk_at dksX1_part_0 1 rfl rfl)
theorem dX1_part_4 : decode cX1_part 4 = .ok (.iload_n 1, 1) := dk_27 (dk_at dksX1_part_0 4 rfl rfl)
theorem dX1_part_5 : decode cX1_part 5 = .ok (.invokestatic 97, 3) := dk_184 0 97 (dk_at dksX1_part_0 5 rfl rfl)
theorem dX1_part_8 : decode cX1_part 8 = .ok (.checkcast 171, 3) := dk_192 0 171 (dk_at dksX1_part_0 8 rfl rfl)
theorem dX1_part_11 : decode cX1_part 11 = .ok (.astore_n 2, 1) := dk_77 (dk_at dksX1_part_0 11 rfl rfl)
theorem dX1_part_12 : decode cX1_part 12 = .ok (.aload_n 2, 1) := dk_44 (dk_at dksX1_part_0 12 rfl rfl)
theorem dX1_part_13 : decode cX1_part 13 = .ok (.getfield 173, 3) := dk_180 0 173 (dk_at dksX1_part_0 13 rfl rfl)
theorem dX1_part_16 : decode cX1_part 16 = .ok (.istore_n 3, 1) := dk_62 (dk_at dksX1_part_0 16 rfl rfl)
theorem dX1_part_17 : decode cX1_part 17 = .ok (.aload_n 2, 1) := dk_44 (dk_at dksX1_part_0 17 rfl rfl)
theorem dX1_part_18 : decode cX1_part 18 = .ok (.iconst 0, 1) := dk_3 (dk_at dksX1_part_0 18 rfl rfl)
theorem dX1_part_19 : decode cX1_part 19 = .ok (.putfield 173, 3) := dk_181 0 173 (dk_at dksX1_part_0 19 rfl rfl)
theorem dX1_part_22 : decode cX1_part 22 = .ok (.iload_n 3, 1) := dk_29 (dk_at dksX1_part_0 22 rfl rfl)
theorem dX1_part_23 : decode cX1_part 23 = .ok (.ireturn, 1) := dk_172 (dk_at dksX1_part_0 23 rfl rfl)
abbrev cX1_event : ByteArray := prog_1_method_21_code
def yX1_event : MethodName := ⟨RX1, "event", "(IIIIIZ)I"⟩
def dkwX1_event_5 : List UInt8 := [42, 180, 0, 49, 185, 0, 13, 1, 0, 4, 100, 172]
abbrev dktX1_event_5 : List UInt8 := dkwX1_event_5 ++ []
def dkwX1_event_4 : List UInt8 := [185, 0, 13, 1, 0, 27, 28, 29, 21, 4, 21, 5, 21, 6, 183, 0, 186, 185, 0, 93, 2, 0, 54, 7]
abbrev dktX1_event_4 : List UInt8 := dkwX1_event_4 ++ dktX1_event_5
def dkwX1_event_3 : List UInt8 := [4, 167, 0, 4, 3, 184, 0, 85, 42, 180, 0, 49, 187, 0, 184, 89, 42, 180, 0, 49]
abbrev dktX1_event_3 : List UInt8 := dkwX1_event_3 ++ dktX1_event_4
def dkwX1_event_2 : List UInt8 := [153, 0, 7, 4, 167, 0, 4, 3, 184, 0, 82, 42, 180, 0, 49, 185, 0, 13, 1, 0, 8, 162, 0, 7]
abbrev dktX1_event_2 : List UInt8 := dkwX1_event_2 ++ dktX1_event_3
def dkwX1_event_1 : List UInt8 := [184, 0, 19, 153, 0, 28, 21, 4, 29, 16, 99, 184, 0, 19, 153, 0, 17, 21, 5, 3, 7, 184, 0, 19]
abbrev dktX1_event_1 : List UInt8 := dkwX1_event_1 ++ dktX1_event_2
def dkwX1_event_0 : List UInt8 := [27, 3, 4, 184, 0, 19, 153, 0, 48, 28, 4, 8, 184, 0, 19, 153, 0, 39, 29, 16, 6, 16, 99]
abbrev dktX1_event_0 : List UInt8 := dkwX1_event_0 ++ dktX1_event_1
theorem dksX1_event_0 : cX1_event.data.toList.drop 0 = dktX1_event_0 := by decide +kernel
theorem dksX1_event_1 : cX1_event.data.toList.drop 23 = dktX1_event_1 := dk_seg dksX1_event_0 23 rfl rfl
theorem dksX1_event_2 : cX1_event.data.toList.drop 47 = dktX1_event_2 := dk_seg dksX1_event_1 24 rfl rfl
theorem dksX1_event_3 : cX1_event.data.toList.drop 71 = dktX1_event_3 := dk_seg dksX1_event_2 24 rfl rfl
theorem dksX1_event_4 : cX1_event.data.toList.drop 91 = dktX1_event_4 := dk_seg dksX1_event_3 20 rfl rfl
theorem dksX1_event_5 : cX1_event.data.toList.drop 115 = dktX1_event_5 := dk_seg dksX1_event_4 24 rfl rfl
theorem dX1_event_0 : decode cX1_event 0 = .ok (.iload_n 1, 1) := dk_27 (dk_at dksX1_event_0 0 rfl rfl)
theorem dX1_event_1 : decode cX1_event 1 = .ok (.iconst 0, 1) := dk_3 (dk_at dksX1_event_0 1 rfl rfl)
theorem dX1_event_2 : decode cX1_event 2 = .ok (.iconst 1, 1) := dk_4 (dk_at dksX1_event_0 2 rfl rfl)
theorem dX1_event_3 : decode cX1_event 3 = .ok (.invokestatic 19, 3) := dk_184 0 19 (dk_at dksX1_event_0 3 rfl rfl)
theorem dX1_event_6 : decode cX1_event 6 = .ok (.ifCond .eq 48, 3) := dk_153 0 48 (dk_at dksX1_event_0 6 rfl rfl)
theorem dX1_event_9 : decode cX1_event 9 = .ok (.iload_n 2, 1) := dk_28 (dk_at dksX1_event_0 9 rfl rfl)
theorem dX1_event_10 : decode cX1_event 10 = .ok (.iconst 1, 1) := dk_4 (dk_at dksX1_event_0 10 rfl rfl)
theorem dX1_event_11 : decode cX1_event 11 = .ok (.iconst 5, 1) := dk_8 (dk_at dksX1_event_0 11 rfl rfl)
theorem dX1_event_12 : decode cX1_event 12 = .ok (.invokestatic 19, 3) := dk_184 0 19 (dk_at dksX1_event_0 12 rfl rfl)
theorem dX1_event_15 : decode cX1_event 15 = .ok (.ifCond .eq 39, 3) := dk_153 0 39 (dk_at dksX1_event_0 15 rfl rfl)
theorem dX1_event_18 : decode cX1_event 18 = .ok (.iload_n 3, 1) := dk_29 (dk_at dksX1_event_0 18 rfl rfl)
theorem dX1_event_19 : decode cX1_event 19 = .ok (.bipush 6, 2) := dk_16 6 (dk_at dksX1_event_0 19 rfl rfl)
theorem dX1_event_21 : decode cX1_event 21 = .ok (.bipush 99, 2) := dk_16 99 (dk_at dksX1_event_0 21 rfl rfl)
theorem dX1_event_23 : decode cX1_event 23 = .ok (.invokestatic 19, 3) := dk_184 0 19 (dk_at dksX1_event_1 0 rfl rfl)
theorem dX1_event_26 : decode cX1_event 26 = .ok (.ifCond .eq 28, 3) := dk_153 0 28 (dk_at dksX1_event_1 3 rfl rfl)
theorem dX1_event_29 : decode cX1_event 29 = .ok (.iload 4, 2) := dk_21 4 (dk_at dksX1_event_1 6 rfl rfl)
theorem dX1_event_31 : decode cX1_event 31 = .ok (.iload_n 3, 1) := dk_29 (dk_at dksX1_event_1 8 rfl rfl)
theorem dX1_event_32 : decode cX1_event 32 = .ok (.bipush 99, 2) := dk_16 99 (dk_at dksX1_event_1 9 rfl rfl)
theorem dX1_event_34 : decode cX1_event 34 = .ok (.invokestatic 19, 3) := dk_184 0 19 (dk_at dksX1_event_1 11 rfl rfl)
theorem dX1_event_37 : decode cX1_event 37 = .ok (.ifCond .eq 17, 3) := dk_153 0 17 (dk_at dksX1_event_1 14 rfl rfl)
theorem dX1_event_40 : decode cX1_event 40 = .ok (.iload 5, 2) := dk_21 5 (dk_at dksX1_event_1 17 rfl rfl)
theorem dX1_event_42 : decode cX1_event 42 = .ok (.iconst 0, 1) := dk_3 (dk_at dksX1_event_1 19 rfl rfl)
theorem dX1_event_43 : decode cX1_event 43 = .ok (.iconst 4, 1) := dk_7 (dk_at dksX1_event_1 20 rfl rfl)
theorem dX1_event_44 : decode cX1_event 44 = .ok (.invokestatic 19, 3) := dk_184 0 19 (dk_at dksX1_event_1 21 rfl rfl)
theorem dX1_event_47 : decode cX1_event 47 = .ok (.ifCond .eq 7, 3) := dk_153 0 7 (dk_at dksX1_event_2 0 rfl rfl)
theorem dX1_event_50 : decode cX1_event 50 = .ok (.iconst 1, 1) := dk_4 (dk_at dksX1_event_2 3 rfl rfl)
theorem dX1_event_51 : decode cX1_event 51 = .ok (.goto 4, 3) := dk_167 0 4 (dk_at dksX1_event_2 4 rfl rfl)
theorem dX1_event_54 : decode cX1_event 54 = .ok (.iconst 0, 1) := dk_3 (dk_at dksX1_event_2 7 rfl rfl)
theorem dX1_event_55 : decode cX1_event 55 = .ok (.invokestatic 82, 3) := dk_184 0 82 (dk_at dksX1_event_2 8 rfl rfl)
theorem dX1_event_58 : decode cX1_event 58 = .ok (.aload_n 0, 1) := dk_42 (dk_at dksX1_event_2 11 rfl rfl)
theorem dX1_event_59 : decode cX1_event 59 = .ok (.getfield 49, 3) := dk_180 0 49 (dk_at dksX1_event_2 12 rfl rfl)
theorem dX1_event_62 : decode cX1_event 62 = .ok (.invokeinterface 13 1, 5) := by decide +kernel
theorem dX1_event_67 : decode cX1_event 67 = .ok (.iconst 5, 1) := dk_8 (dk_at dksX1_event_2 20 rfl rfl)
theorem dX1_event_68 : decode cX1_event 68 = .ok (.if_icmp .ge 7, 3) := dk_162 0 7 (dk_at dksX1_event_2 21 rfl rfl)
theorem dX1_event_71 : decode cX1_event 71 = .ok (.iconst 1, 1) := dk_4 (dk_at dksX1_event_3 0 rfl rfl)
theorem dX1_event_72 : decode cX1_event 72 = .ok (.goto 4, 3) := dk_167 0 4 (dk_at dksX1_event_3 1 rfl rfl)
theorem dX1_event_75 : decode cX1_event 75 = .ok (.iconst 0, 1) := dk_3 (dk_at dksX1_event_3 4 rfl rfl)
theorem dX1_event_76 : decode cX1_event 76 = .ok (.invokestatic 85, 3) := dk_184 0 85 (dk_at dksX1_event_3 5 rfl rfl)
theorem dX1_event_79 : decode cX1_event 79 = .ok (.aload_n 0, 1) := dk_42 (dk_at dksX1_event_3 8 rfl rfl)
theorem dX1_event_80 : decode cX1_event 80 = .ok (.getfield 49, 3) := dk_180 0 49 (dk_at dksX1_event_3 9 rfl rfl)
theorem dX1_event_83 : decode cX1_event 83 = .ok (.new 184, 3) := dk_187 0 184 (dk_at dksX1_event_3 12 rfl rfl)
theorem dX1_event_86 : decode cX1_event 86 = .ok (.dup, 1) := dk_89 (dk_at dksX1_event_3 15 rfl rfl)
theorem dX1_event_87 : decode cX1_event 87 = .ok (.aload_n 0, 1) := dk_42 (dk_at dksX1_event_3 16 rfl rfl)
theorem dX1_event_88 : decode cX1_event 88 = .ok (.getfield 49, 3) := dk_180 0 49 (dk_at dksX1_event_3 17 rfl rfl)
theorem dX1_event_91 : decode cX1_event 91 = .ok (.invokeinterface 13 1, 5) := by decide +kernel
theorem dX1_event_96 : decode cX1_event 96 = .ok (.iload_n 1, 1) := dk_27 (dk_at dksX1_event_4 5 rfl rfl)
theorem dX1_event_97 : decode cX1_event 97 = .ok (.iload_n 2, 1) := dk_28 (dk_at dksX1_event_4 6 rfl rfl)
theorem dX1_event_98 : decode cX1_event 98 = .ok (.iload_n 3, 1) := dk_29 (dk_at dksX1_event_4 7 rfl rfl)
theorem dX1_event_99 : decode cX1_event 99 = .ok (.iload 4, 2) := dk_21 4 (dk_at dksX1_event_4 8 rfl rfl)
theorem dX1_event_101 : decode cX1_event 101 = .ok (.iload 5, 2) := dk_21 5 (dk_at dksX1_event_4 10 rfl rfl)
theorem dX1_event_103 : decode cX1_event 103 = .ok (.iload 6, 2) := dk_21 6 (dk_at dksX1_event_4 12 rfl rfl)
theorem dX1_event_105 : decode cX1_event 105 = .ok (.invokespecial 186, 3) := dk_183 0 186 (dk_at dksX1_event_4 14 rfl rfl)
theorem dX1_event_108 : decode cX1_event 108 = .ok (.invokeinterface 93 2, 5) := by decide +kernel
theorem dX1_event_113 : decode cX1_event 113 = .ok (.istore 7, 2) := dk_54 7 (dk_at dksX1_event_4 22 rfl rfl)
theorem dX1_event_115 : decode cX1_event 115 = .ok (.aload_n 0, 1) := dk_42 (dk_at dksX1_event_5 0 rfl rfl)
theorem dX1_event_116 : decode cX1_event 116 = .ok (.getfield 49, 3) := dk_180 0 49 (dk_at dksX1_event_5 1 rfl rfl)
theorem dX1_event_119 : decode cX1_event 119 = .ok (.invokeinterface 13 1, 5) := by decide +kernel
theorem dX1_event_124 : decode cX1_event 124 = .ok (.iconst 1, 1) := dk_4 (dk_at dksX1_event_5 9 rfl rfl)
theorem dX1_event_125 : decode cX1_event 125 = .ok (.isub, 1) := dk_100 (dk_at dksX1_event_5 10 rfl rfl)
theorem dX1_event_126 : decode cX1_event 126 = .ok (.ireturn, 1) := dk_172 (dk_at dksX1_event_5 11 rfl rfl)
abbrev cX1_rules : ByteArray := prog_1_method_22_code
def yX1_rules : MethodName := ⟨RX1, "rules", "(IIIII)I"⟩
def dkwX1_rules_4 : List UInt8 := [181, 0, 201, 25, 6, 21, 4, 181, 0, 204, 25, 6, 21, 5, 181, 0, 195, 21, 7, 172]
abbrev dktX1_rules_4 : List UInt8 := dkwX1_rules_4 ++ []
def dkwX1_rules_3 : List UInt8 := [185, 0, 192, 1, 0, 184, 0, 85, 25, 6, 180, 0, 195, 54, 7, 25, 6, 28, 181, 0, 198, 25, 6, 29]
abbrev dktX1_rules_3 : List UInt8 := dkwX1_rules_3 ++ dktX1_rules_4
def dkwX1_rules_2 : List UInt8 := [8, 184, 0, 19, 153, 0, 7, 4, 167, 0, 4, 3, 184, 0, 82, 25, 6, 180, 0, 189]
abbrev dktX1_rules_2 : List UInt8 := dkwX1_rules_2 ++ dktX1_rules_3
def dkwX1_rules_1 : List UInt8 := [5, 16, 6, 184, 0, 19, 153, 0, 29, 21, 4, 3, 17, 3, 232, 184, 0, 19, 153, 0, 17, 21, 5, 4]
abbrev dktX1_rules_1 : List UInt8 := dkwX1_rules_1 ++ dktX1_rules_2
def dkwX1_rules_0 : List UInt8 := [42, 180, 0, 49, 27, 184, 0, 97, 192, 0, 184, 58, 6, 28, 5, 16, 6, 184, 0, 19, 153, 0, 39, 29]
abbrev dktX1_rules_0 : List UInt8 := dkwX1_rules_0 ++ dktX1_rules_1
theorem dksX1_rules_0 : cX1_rules.data.toList.drop 0 = dktX1_rules_0 := by decide +kernel
theorem dksX1_rules_1 : cX1_rules.data.toList.drop 24 = dktX1_rules_1 := dk_seg dksX1_rules_0 24 rfl rfl
theorem dksX1_rules_2 : cX1_rules.data.toList.drop 48 = dktX1_rules_2 := dk_seg dksX1_rules_1 24 rfl rfl
theorem dksX1_rules_3 : cX1_rules.data.toList.drop 68 = dktX1_rules_3 := dk_seg dksX1_rules_2 20 rfl rfl
theorem dksX1_rules_4 : cX1_rules.data.toList.drop 92 = dktX1_rules_4 := dk_seg dksX1_rules_3 24 rfl rfl
theorem dX1_rules_0 : decode cX1_rules 0 = .ok (.aload_n 0, 1) := dk_42 (dk_at dksX1_rules_0 0 rfl rfl)
theorem dX1_rules_1 : decode cX1_rules 1 = .ok (.getfield 49, 3) := dk_180 0 49 (dk_at dksX1_rules_0 1 rfl rfl)
theorem dX1_rules_4 : decode cX1_rules 4 = .ok (.iload_n 1, 1) := dk_27 (dk_at dksX1_rules_0 4 rfl rfl)
theorem dX1_rules_5 : decode cX1_rules 5 = .ok (.invokestatic 97, 3) := dk_184 0 97 (dk_at dksX1_rules_0 5 rfl rfl)
theorem dX1_rules_8 : decode cX1_rules 8 = .ok (.checkcast 184, 3) := dk_192 0 184 (dk_at dksX1_rules_0 8 rfl rfl)
theorem dX1_rules_11 : decode cX1_rules 11 = .ok (.astore 6, 2) := dk_58 6 (dk_at dksX1_rules_0 11 rfl rfl)
theorem dX1_rules_13 : decode cX1_rules 13 = .ok (.iload_n 2, 1) := dk_28 (dk_at dksX1_rules_0 13 rfl rfl)
theorem dX1_rules_14 : decode cX1_rules 14 = .ok (.iconst 2, 1) := dk_5 (dk_at dksX1_rules_0 14 rfl rfl)
theorem dX1_rules_15 : decode cX1_rules 15 = .ok (.bipush 6, 2) := dk_16 6 (dk_at dksX1_rules_0 15 rfl rfl)
theorem dX1_rules_17 : decode cX1_rules 17 = .ok (.invokestatic 19, 3) := dk_184 0 19 (dk_at dksX1_rules_0 17 rfl rfl)
theorem dX1_rules_20 : decode cX1_rules 20 = .ok (.ifCond .eq 39, 3) := dk_153 0 39 (dk_at dksX1_rules_0 20 rfl rfl)
theorem dX1_rules_23 : decode cX1_rules 23 = .ok (.iload_n 3, 1) := dk_29 (dk_at dksX1_rules_0 23 rfl rfl)
theorem dX1_rules_24 : decode cX1_rules 24 = .ok (.iconst 2, 1) := dk_5 (dk_at dksX1_rules_1 0 rfl rfl)
theorem dX1_rules_25 : decode cX1_rules 25 = .ok (.bipush 6, 2) := dk_16 6 (dk_at dksX1_rules_1 1 rfl rfl)
theorem dX1_rules_27 : decode cX1_rules 27 = .ok (.invokestatic 19, 3) := dk_184 0 19 (dk_at dksX1_rules_1 3 rfl rfl)
theorem dX1_rules_30 : decode cX1_rules 30 = .ok (.ifCond .eq 29, 3) := dk_153 0 29 (dk_at dksX1_rules_1 6 rfl rfl)
theorem dX1_rules_33 : decode cX1_rules 33 = .ok (.iload 4, 2) := dk_21 4 (dk_at dksX1_rules_1 9 rfl rfl)
theorem dX1_rules_35 : decode cX1_rules 35 = .ok (.iconst 0, 1) := dk_3 (dk_at dksX1_rules_1 11 rfl rfl)
theorem dX1_rules_36 : decode cX1_rules 36 = .ok (.sipush 1000, 3) := dk_17 3 232 (dk_at dksX1_rules_1 12 rfl rfl)
theorem dX1_rules_39 : decode cX1_rules 39 = .ok (.invokestatic 19, 3) := dk_184 0 19 (dk_at dksX1_rules_1 15 rfl rfl)
theorem dX1_rules_42 : decode cX1_rules 42 = .ok (.ifCond .eq 17, 3) := dk_153 0 17 (dk_at dksX1_rules_1 18 rfl rfl)
theorem dX1_rules_45 : decode cX1_rules 45 = .ok (.iload 5, 2) := dk_21 5 (dk_at dksX1_rules_1 21 rfl rfl)
theorem dX1_rules_47 : decode cX1_rules 47 = .ok (.iconst 1, 1) := dk_4 (dk_at dksX1_rules_1 23 rfl rfl)
theorem dX1_rules_48 : decode cX1_rules 48 = .ok (.iconst 5, 1) := dk_8 (dk_at dksX1_rules_2 0 rfl rfl)
theorem dX1_rules_49 : decode cX1_rules 49 = .ok (.invokestatic 19, 3) := dk_184 0 19 (dk_at dksX1_rules_2 1 rfl rfl)
theorem dX1_rules_52 : decode cX1_rules 52 = .ok (.ifCond .eq 7, 3) := dk_153 0 7 (dk_at dksX1_rules_2 4 rfl rfl)
theorem dX1_rules_55 : decode cX1_rules 55 = .ok (.iconst 1, 1) := dk_4 (dk_at dksX1_rules_2 7 rfl rfl)
theorem dX1_rules_56 : decode cX1_rules 56 = .ok (.goto 4, 3) := dk_167 0 4 (dk_at dksX1_rules_2 8 rfl rfl)
theorem dX1_rules_59 : decode cX1_rules 59 = .ok (.iconst 0, 1) := dk_3 (dk_at dksX1_rules_2 11 rfl rfl)
theorem dX1_rules_60 : decode cX1_rules 60 = .ok (.invokestatic 82, 3) := dk_184 0 82 (dk_at dksX1_rules_2 12 rfl rfl)
theorem dX1_rules_63 : decode cX1_rules 63 = .ok (.aload 6, 2) := dk_25 6 (dk_at dksX1_rules_2 15 rfl rfl)
theorem dX1_rules_65 : decode cX1_rules 65 = .ok (.getfield 189, 3) := dk_180 0 189 (dk_at dksX1_rules_2 17 rfl rfl)
theorem dX1_rules_68 : decode cX1_rules 68 = .ok (.invokeinterface 192 1, 5) := by decide +kernel
theorem dX1_rules_73 : decode cX1_rules 73 = .ok (.invokestatic 85, 3) := dk_184 0 85 (dk_at dksX1_rules_3 5 rfl rfl)
theorem dX1_rules_76 : decode cX1_rules 76 = .ok (.aload 6, 2) := dk_25 6 (dk_at dksX1_rules_3 8 rfl rfl)
theorem dX1_rules_78 : decode cX1_rules 78 = .ok (.getfield 195, 3) := dk_180 0 195 (dk_at dksX1_rules_3 10 rfl rfl)
theorem dX1_rules_81 : decode cX1_rules 81 = .ok (.istore 7, 2) := dk_54 7 (dk_at dksX1_rules_3 13 rfl rfl)
theorem dX1_rules_83 : decode cX1_rules 83 = .ok (.aload 6, 2) := dk_25 6 (dk_at dksX1_rules_3 15 rfl rfl)
theorem dX1_rules_85 : decode cX1_rules 85 = .ok (.iload_n 2, 1) := dk_28 (dk_at dksX1_rules_3 17 rfl rfl)
theorem dX1_rules_86 : decode cX1_rules 86 = .ok (.putfield 198, 3) := dk_181 0 198 (dk_at dksX1_rules_3 18 rfl rfl)
theorem dX1_rules_89 : decode cX1_rules 89 = .ok (.aload 6, 2) := dk_25 6 (dk_at dksX1_rules_3 21 rfl rfl)
theorem dX1_rules_91 : decode cX1_rules 91 = .ok (.iload_n 3, 1) := dk_29 (dk_at dksX1_rules_3 23 rfl rfl)
theorem dX1_rules_92 : decode cX1_rules 92 = .ok (.putfield 201, 3) := dk_181 0 201 (dk_at dksX1_rules_4 0 rfl rfl)
theorem dX1_rules_95 : decode cX1_rules 95 = .ok (.aload 6, 2) := dk_25 6 (dk_at dksX1_rules_4 3 rfl rfl)
theorem dX1_rules_97 : decode cX1_rules 97 = .ok (.iload 4, 2) := dk_21 4 (dk_at dksX1_rules_4 5 rfl rfl)
theorem dX1_rules_99 : decode cX1_rules 99 = .ok (.putfield 204, 3) := dk_181 0 204 (dk_at dksX1_rules_4 7 rfl rfl)
theorem dX1_rules_102 : decode cX1_rules 102 = .ok (.aload 6, 2) := dk_25 6 (dk_at dksX1_rules_4 10 rfl rfl)
theorem dX1_rules_104 : decode cX1_rules 104 = .ok (.iload 5, 2) := dk_21 5 (dk_at dksX1_rules_4 12 rfl rfl)
theorem dX1_rules_106 : decode cX1_rules 106 = .ok (.putfield 195, 3) := dk_181 0 195 (dk_at dksX1_rules_4 14 rfl rfl)
theorem dX1_rules_109 : decode cX1_rules 109 = .ok (.iload 7, 2) := dk_21 7 (dk_at dksX1_rules_4 17 rfl rfl)
theorem dX1_rules_111 : decode cX1_rules 111 = .ok (.ireturn, 1) := dk_172 (dk_at dksX1_rules_4 19 rfl rfl)
abbrev cX1_enter : ByteArray := prog_1_method_26_code
def yX1_enter : MethodName := ⟨RX1, "enter", "(II)I"⟩
def dkwX1_enter_5 : List UInt8 := [89, 180, 0, 79, 45, 180, 0, 204, 96, 181, 0, 79, 25, 6, 180, 1, 21, 172]
abbrev dktX1_enter_5 : List UInt8 := dkwX1_enter_5 ++ []
def dkwX1_enter_4 : List UInt8 := [180, 1, 14, 180, 1, 18, 25, 6, 185, 0, 93, 2, 0, 153, 0, 7, 4, 167, 0, 4, 3, 54, 7, 42]
abbrev dktX1_enter_4 : List UInt8 := dkwX1_enter_4 ++ dktX1_enter_5
def dkwX1_enter_3 : List UInt8 := [4, 96, 25, 4, 183, 1, 11, 58, 6, 45, 180, 0, 189, 25, 6, 185, 0, 93, 2, 0, 153, 0, 24, 45]
abbrev dktX1_enter_3 : List UInt8 := dkwX1_enter_3 ++ dktX1_enter_4
def dkwX1_enter_2 : List UInt8 := [89, 4, 16, 10, 21, 5, 96, 79, 182, 1, 5, 187, 1, 9, 89, 45, 180, 0, 189, 185, 0, 13, 1, 0]
abbrev dktX1_enter_2 : List UInt8 := dkwX1_enter_2 ++ dktX1_enter_3
def dkwX1_enter_1 : List UInt8 := [58, 4, 42, 45, 25, 4, 182, 1, 1, 54, 5, 21, 5, 153, 0, 22, 42, 5, 188, 10, 89, 3, 4, 79]
abbrev dktX1_enter_1 : List UInt8 := dkwX1_enter_1 ++ dktX1_enter_2
def dkwX1_enter_0 : List UInt8 := [42, 180, 0, 49, 27, 184, 0, 97, 192, 0, 184, 78, 42, 180, 0, 46, 28, 184, 0, 97, 192, 0, 171]
abbrev dktX1_enter_0 : List UInt8 := dkwX1_enter_0 ++ dktX1_enter_1
theorem dksX1_enter_0 : cX1_enter.data.toList.drop 0 = dktX1_enter_0 := by decide +kernel
theorem dksX1_enter_1 : cX1_enter.data.toList.drop 23 = dktX1_enter_1 := dk_seg dksX1_enter_0 23 rfl rfl
theorem dksX1_enter_2 : cX1_enter.data.toList.drop 47 = dktX1_enter_2 := dk_seg dksX1_enter_1 24 rfl rfl
theorem dksX1_enter_3 : cX1_enter.data.toList.drop 71 = dktX1_enter_3 := dk_seg dksX1_enter_2 24 rfl rfl
theorem dksX1_enter_4 : cX1_enter.data.toList.drop 95 = dktX1_enter_4 := dk_seg dksX1_enter_3 24 rfl rfl
theorem dksX1_enter_5 : cX1_enter.data.toList.drop 119 = dktX1_enter_5 := dk_seg dksX1_enter_4 24 rfl rfl
theorem dX1_enter_0 : decode cX1_enter 0 = .ok (.aload_n 0, 1) := dk_42 (dk_at dksX1_enter_0 0 rfl rfl)
theorem dX1_enter_1 : decode cX1_enter 1 = .ok (.getfield 49, 3) := dk_180 0 49 (dk_at dksX1_enter_0 1 rfl rfl)
theorem dX1_enter_4 : decode cX1_enter 4 = .ok (.iload_n 1, 1) := dk_27 (dk_at dksX1_enter_0 4 rfl rfl)
theorem dX1_enter_5 : decode cX1_enter 5 = .ok (.invokestatic 97, 3) := dk_184 0 97 (dk_at dksX1_enter_0 5 rfl rfl)
theorem dX1_enter_8 : decode cX1_enter 8 = .ok (.checkcast 184, 3) := dk_192 0 184 (dk_at dksX1_enter_0 8 rfl rfl)
theorem dX1_enter_11 : decode cX1_enter 11 = .ok (.astore_n 3, 1) := dk_78 (dk_at dksX1_enter_0 11 rfl rfl)
theorem dX1_enter_12 : decode cX1_enter 12 = .ok (.aload_n 0, 1) := dk_42 (dk_at dksX1_enter_0 12 rfl rfl)
theorem dX1_enter_13 : decode cX1_enter 13 = .ok (.getfield 46, 3) := dk_180 0 46 (dk_at dksX1_enter_0 13 rfl rfl)
theorem dX1_enter_16 : decode cX1_enter 16 = .ok (.iload_n 2, 1) := dk_28 (dk_at dksX1_enter_0 16 rfl rfl)
theorem dX1_enter_17 : decode cX1_enter 17 = .ok (.invokestatic 97, 3) := dk_184 0 97 (dk_at dksX1_enter_0 17 rfl rfl)
theorem dX1_enter_20 : decode cX1_enter 20 = .ok (.checkcast 171, 3) := dk_192 0 171 (dk_at dksX1_enter_0 20 rfl rfl)
theorem dX1_enter_23 : decode cX1_enter 23 = .ok (.astore 4, 2) := dk_58 4 (dk_at dksX1_enter_1 0 rfl rfl)
theorem dX1_enter_25 : decode cX1_enter 25 = .ok (.aload_n 0, 1) := dk_42 (dk_at dksX1_enter_1 2 rfl rfl)
theorem dX1_enter_26 : decode cX1_enter 26 = .ok (.aload_n 3, 1) := dk_45 (dk_at dksX1_enter_1 3 rfl rfl)
theorem dX1_enter_27 : decode cX1_enter 27 = .ok (.aload 4, 2) := dk_25 4 (dk_at dksX1_enter_1 4 rfl rfl)
theorem dX1_enter_29 : decode cX1_enter 29 = .ok (.invokevirtual 257, 3) := dk_182 1 1 (dk_at dksX1_enter_1 6 rfl rfl)
theorem dX1_enter_32 : decode cX1_enter 32 = .ok (.istore 5, 2) := dk_54 5 (dk_at dksX1_enter_1 9 rfl rfl)
theorem dX1_enter_34 : decode cX1_enter 34 = .ok (.iload 5, 2) := dk_21 5 (dk_at dksX1_enter_1 11 rfl rfl)
theorem dX1_enter_36 : decode cX1_enter 36 = .ok (.ifCond .eq 22, 3) := dk_153 0 22 (dk_at dksX1_enter_1 13 rfl rfl)
theorem dX1_enter_39 : decode cX1_enter 39 = .ok (.aload_n 0, 1) := dk_42 (dk_at dksX1_enter_1 16 rfl rfl)
theorem dX1_enter_40 : decode cX1_enter 40 = .ok (.iconst 2, 1) := dk_5 (dk_at dksX1_enter_1 17 rfl rfl)
theorem dX1_enter_41 : decode cX1_enter 41 = .ok (.newarray .int, 2) := dk_188_10 (dk_at dksX1_enter_1 18 rfl rfl)
theorem dX1_enter_43 : decode cX1_enter 43 = .ok (.dup, 1) := dk_89 (dk_at dksX1_enter_1 20 rfl rfl)
theorem dX1_enter_44 : decode cX1_enter 44 = .ok (.iconst 0, 1) := dk_3 (dk_at dksX1_enter_1 21 rfl rfl)
theorem dX1_enter_45 : decode cX1_enter 45 = .ok (.iconst 1, 1) := dk_4 (dk_at dksX1_enter_1 22 rfl rfl)
theorem dX1_enter_46 : decode cX1_enter 46 = .ok (.iastore, 1) := dk_79 (dk_at dksX1_enter_1 23 rfl rfl)
theorem dX1_enter_47 : decode cX1_enter 47 = .ok (.dup, 1) := dk_89 (dk_at dksX1_enter_2 0 rfl rfl)
theorem dX1_enter_48 : decode cX1_enter 48 = .ok (.iconst 1, 1) := dk_4 (dk_at dksX1_enter_2 1 rfl rfl)
theorem dX1_enter_49 : decode cX1_enter 49 = .ok (.bipush 10, 2) := dk_16 10 (dk_at dksX1_enter_2 2 rfl rfl)
theorem dX1_enter_51 : decode cX1_enter 51 = .ok (.iload 5, 2) := dk_21 5 (dk_at dksX1_enter_2 4 rfl rfl)
theorem dX1_enter_53 : decode cX1_enter 53 = .ok (.iadd, 1) := dk_96 (dk_at dksX1_enter_2 6 rfl rfl)
theorem dX1_enter_54 : decode cX1_enter 54 = .ok (.iastore, 1) := dk_79 (dk_at dksX1_enter_2 7 rfl rfl)
theorem dX1_enter_55 : decode cX1_enter 55 = .ok (.invokevirtual 261, 3) := dk_182 1 5 (dk_at dksX1_enter_2 8 rfl rfl)
theorem dX1_enter_58 : decode cX1_enter 58 = .ok (.new 265, 3) := dk_187 1 9 (dk_at dksX1_enter_2 11 rfl rfl)
theorem dX1_enter_61 : decode cX1_enter 61 = .ok (.dup, 1) := dk_89 (dk_at dksX1_enter_2 14 rfl rfl)
theorem dX1_enter_62 : decode cX1_enter 62 = .ok (.aload_n 3, 1) := dk_45 (dk_at dksX1_enter_2 15 rfl rfl)
theorem dX1_enter_63 : decode cX1_enter 63 = .ok (.getfield 189, 3) := dk_180 0 189 (dk_at dksX1_enter_2 16 rfl rfl)
theorem dX1_enter_66 : decode cX1_enter 66 = .ok (.invokeinterface 13 1, 5) := by decide +kernel
theorem dX1_enter_71 : decode cX1_enter 71 = .ok (.iconst 1, 1) := dk_4 (dk_at dksX1_enter_3 0 rfl rfl)
theorem dX1_enter_72 : decode cX1_enter 72 = .ok (.iadd, 1) := dk_96 (dk_at dksX1_enter_3 1 rfl rfl)
theorem dX1_enter_73 : decode cX1_enter 73 = .ok (.aload 4, 2) := dk_25 4 (dk_at dksX1_enter_3 2 rfl rfl)
theorem dX1_enter_75 : decode cX1_enter 75 = .ok (.invokespecial 267, 3) := dk_183 1 11 (dk_at dksX1_enter_3 4 rfl rfl)
theorem dX1_enter_78 : decode cX1_enter 78 = .ok (.astore 6, 2) := dk_58 6 (dk_at dksX1_enter_3 7 rfl rfl)
theorem dX1_enter_80 : decode cX1_enter 80 = .ok (.aload_n 3, 1) := dk_45 (dk_at dksX1_enter_3 9 rfl rfl)
theorem dX1_enter_81 : decode cX1_enter 81 = .ok (.getfield 189, 3) := dk_180 0 189 (dk_at dksX1_enter_3 10 rfl rfl)
theorem dX1_enter_84 : decode cX1_enter 84 = .ok (.aload 6, 2) := dk_25 6 (dk_at dksX1_enter_3 13 rfl rfl)
theorem dX1_enter_86 : decode cX1_enter 86 = .ok (.invokeinterface 93 2, 5) := by decide +kernel
theorem dX1_enter_91 : decode cX1_enter 91 = .ok (.ifCond .eq 24, 3) := dk_153 0 24 (dk_at dksX1_enter_3 20 rfl rfl)
theorem dX1_enter_94 : decode cX1_enter 94 = .ok (.aload_n 3, 1) := dk_45 (dk_at dksX1_enter_3 23 rfl rfl)
theorem dX1_enter_95 : decode cX1_enter 95 = .ok (.getfield 270, 3) := dk_180 1 14 (dk_at dksX1_enter_4 0 rfl rfl)
theorem dX1_enter_98 : decode cX1_enter 98 = .ok (.getfield 274, 3) := dk_180 1 18 (dk_at dksX1_enter_4 3 rfl rfl)
theorem dX1_enter_101 : decode cX1_enter 101 = .ok (.aload 6, 2) := dk_25 6 (dk_at dksX1_enter_4 6 rfl rfl)
theorem dX1_enter_103 : decode cX1_enter 103 = .ok (.invokeinterface 93 2, 5) := by decide +kernel
theorem dX1_enter_108 : decode cX1_enter 108 = .ok (.ifCond .eq 7, 3) := dk_153 0 7 (dk_at dksX1_enter_4 13 rfl rfl)
theorem dX1_enter_111 : decode cX1_enter 111 = .ok (.iconst 1, 1) := dk_4 (dk_at dksX1_enter_4 16 rfl rfl)
theorem dX1_enter_112 : decode cX1_enter 112 = .ok (.goto 4, 3) := dk_167 0 4 (dk_at dksX1_enter_4 17 rfl rfl)
theorem dX1_enter_115 : decode cX1_enter 115 = .ok (.iconst 0, 1) := dk_3 (dk_at dksX1_enter_4 20 rfl rfl)
theorem dX1_enter_116 : decode cX1_enter 116 = .ok (.istore 7, 2) := dk_54 7 (dk_at dksX1_enter_4 21 rfl rfl)
theorem dX1_enter_118 : decode cX1_enter 118 = .ok (.aload_n 0, 1) := dk_42 (dk_at dksX1_enter_4 23 rfl rfl)
theorem dX1_enter_119 : decode cX1_enter 119 = .ok (.dup, 1) := dk_89 (dk_at dksX1_enter_5 0 rfl rfl)
theorem dX1_enter_120 : decode cX1_enter 120 = .ok (.getfield 79, 3) := dk_180 0 79 (dk_at dksX1_enter_5 1 rfl rfl)
theorem dX1_enter_123 : decode cX1_enter 123 = .ok (.aload_n 3, 1) := dk_45 (dk_at dksX1_enter_5 4 rfl rfl)
theorem dX1_enter_124 : decode cX1_enter 124 = .ok (.getfield 204, 3) := dk_180 0 204 (dk_at dksX1_enter_5 5 rfl rfl)
theorem dX1_enter_127 : decode cX1_enter 127 = .ok (.iadd, 1) := dk_96 (dk_at dksX1_enter_5 8 rfl rfl)
theorem dX1_enter_128 : decode cX1_enter 128 = .ok (.putfield 79, 3) := dk_181 0 79 (dk_at dksX1_enter_5 9 rfl rfl)
theorem dX1_enter_131 : decode cX1_enter 131 = .ok (.aload 6, 2) := dk_25 6 (dk_at dksX1_enter_5 12 rfl rfl)
theorem dX1_enter_133 : decode cX1_enter 133 = .ok (.getfield 277, 3) := dk_180 1 21 (dk_at dksX1_enter_5 14 rfl rfl)
theorem dX1_enter_136 : decode cX1_enter 136 = .ok (.ireturn, 1) := dk_172 (dk_at dksX1_enter_5 17 rfl rfl)
abbrev cX1_against : ByteArray := prog_1_method_24_code
def yX1_against : MethodName := ⟨RX1, "against", "(LScrutineery$Event;LScrutineery$Couple;)I"⟩
def dkwX1_against_6 : List UInt8 := [180, 0, 244, 182, 0, 247, 153, 0, 8, 16, 9, 167, 0, 4, 3, 172]
abbrev dktX1_against_6 : List UInt8 := dkwX1_against_6 ++ []
def dkwX1_against_5 : List UInt8 := [16, 10, 160, 0, 6, 16, 8, 172, 42, 43, 44, 180, 0, 237, 182, 0, 247, 154, 0, 15, 42, 43, 44]
abbrev dktX1_against_5 : List UInt8 := dkwX1_against_5 ++ dktX1_against_6
def dkwX1_against_4 : List UInt8 := [43, 44, 180, 0, 244, 182, 0, 241, 153, 0, 6, 16, 7, 172, 43, 180, 0, 189, 185, 0, 13, 1, 0]
abbrev dktX1_against_4 : List UInt8 := dkwX1_against_4 ++ dktX1_against_5
def dkwX1_against_3 : List UInt8 := [182, 0, 231, 43, 180, 0, 235, 164, 0, 6, 16, 6, 172, 43, 44, 180, 0, 237, 182, 0, 241, 154, 0, 14]
abbrev dktX1_against_3 : List UInt8 := dkwX1_against_3 ++ dktX1_against_4
def dkwX1_against_2 : List UInt8 := [182, 0, 219, 43, 180, 0, 222, 43, 180, 0, 225, 184, 0, 19, 154, 0, 5, 8, 172, 44, 43, 180, 0, 228]
abbrev dktX1_against_2 : List UInt8 := dkwX1_against_2 ++ dktX1_against_3
def dkwX1_against_1 : List UInt8 := [182, 0, 213, 153, 0, 5, 6, 172, 44, 182, 0, 216, 43, 180, 0, 217, 159, 0, 5, 7, 172, 44]
abbrev dktX1_against_1 : List UInt8 := dkwX1_against_1 ++ dktX1_against_2
def dkwX1_against_0 : List UInt8 := [43, 182, 0, 210, 153, 0, 5, 4, 172, 44, 180, 0, 173, 154, 0, 5, 5, 172, 44, 42, 180, 0, 75]
abbrev dktX1_against_0 : List UInt8 := dkwX1_against_0 ++ dktX1_against_1
theorem dksX1_against_0 : cX1_against.data.toList.drop 0 = dktX1_against_0 := by decide +kernel
theorem dksX1_against_1 : cX1_against.data.toList.drop 23 = dktX1_against_1 := dk_seg dksX1_against_0 23 rfl rfl
theorem dksX1_against_2 : cX1_against.data.toList.drop 45 = dktX1_against_2 := dk_seg dksX1_against_1 22 rfl rfl
theorem dksX1_against_3 : cX1_against.data.toList.drop 69 = dktX1_against_3 := dk_seg dksX1_against_2 24 rfl rfl
theorem dksX1_against_4 : cX1_against.data.toList.drop 93 = dktX1_against_4 := dk_seg dksX1_against_3 24 rfl rfl
theorem dksX1_against_5 : cX1_against.data.toList.drop 116 = dktX1_against_5 := dk_seg dksX1_against_4 23 rfl rfl
theorem dksX1_against_6 : cX1_against.data.toList.drop 139 = dktX1_against_6 := dk_seg dksX1_against_5 23 rfl rfl
theorem dX1_against_0 : decode cX1_against 0 = .ok (.aload_n 1, 1) := dk_43 (dk_at dksX1_against_0 0 rfl rfl)
theorem dX1_against_1 : decode cX1_against 1 = .ok (.invokevirtual 210, 3) := dk_182 0 210 (dk_at dksX1_against_0 1 rfl rfl)
theorem dX1_against_4 : decode cX1_against 4 = .ok (.ifCond .eq 5, 3) := dk_153 0 5 (dk_at dksX1_against_0 4 rfl rfl)
theorem dX1_against_7 : decode cX1_against 7 = .ok (.iconst 1, 1) := dk_4 (dk_at dksX1_against_0 7 rfl rfl)
theorem dX1_against_8 : decode cX1_against 8 = .ok (.ireturn, 1) := dk_172 (dk_at dksX1_against_0 8 rfl rfl)
theorem dX1_against_9 : decode cX1_against 9 = .ok (.aload_n 2, 1) := dk_44 (dk_at dksX1_against_0 9 rfl rfl)
theorem dX1_against_10 : decode cX1_against 10 = .ok (.getfield 173, 3) := dk_180 0 173 (dk_at dksX1_against_0 10 rfl rfl)
theorem dX1_against_13 : decode cX1_against 13 = .ok (.ifCond .ne 5, 3) := dk_154 0 5 (dk_at dksX1_against_0 13 rfl rfl)
theorem dX1_against_16 : decode cX1_against 16 = .ok (.iconst 2, 1) := dk_5 (dk_at dksX1_against_0 16 rfl rfl)
theorem dX1_against_17 : decode cX1_against 17 = .ok (.ireturn, 1) := dk_172 (dk_at dksX1_against_0 17 rfl rfl)
theorem dX1_against_18 : decode cX1_against 18 = .ok (.aload_n 2, 1) := dk_44 (dk_at dksX1_against_0 18 rfl rfl)
theorem dX1_against_19 : decode cX1_against 19 = .ok (.aload_n 0, 1) := dk_42 (dk_at dksX1_against_0 19 rfl rfl)
theorem dX1_against_20 : decode cX1_against 20 = .ok (.getfield 75, 3) := dk_180 0 75 (dk_at dksX1_against_0 20 rfl rfl)
theorem dX1_against_23 : decode cX1_against 23 = .ok (.invokevirtual 213, 3) := dk_182 0 213 (dk_at dksX1_against_1 0 rfl rfl)
theorem dX1_against_26 : decode cX1_against 26 = .ok (.ifCond .eq 5, 3) := dk_153 0 5 (dk_at dksX1_against_1 3 rfl rfl)
theorem dX1_against_29 : decode cX1_against 29 = .ok (.iconst 3, 1) := dk_6 (dk_at dksX1_against_1 6 rfl rfl)
theorem dX1_against_30 : decode cX1_against 30 = .ok (.ireturn, 1) := dk_172 (dk_at dksX1_against_1 7 rfl rfl)
theorem dX1_against_31 : decode cX1_against 31 = .ok (.aload_n 2, 1) := dk_44 (dk_at dksX1_against_1 8 rfl rfl)
theorem dX1_against_32 : decode cX1_against 32 = .ok (.invokevirtual 216, 3) := dk_182 0 216 (dk_at dksX1_against_1 9 rfl rfl)
theorem dX1_against_35 : decode cX1_against 35 = .ok (.aload_n 1, 1) := dk_43 (dk_at dksX1_against_1 12 rfl rfl)
theorem dX1_against_36 : decode cX1_against 36 = .ok (.getfield 217, 3) := dk_180 0 217 (dk_at dksX1_against_1 13 rfl rfl)
theorem dX1_against_39 : decode cX1_against 39 = .ok (.if_icmp .eq 5, 3) := dk_159 0 5 (dk_at dksX1_against_1 16 rfl rfl)
theorem dX1_against_42 : decode cX1_against 42 = .ok (.iconst 4, 1) := dk_7 (dk_at dksX1_against_1 19 rfl rfl)
theorem dX1_against_43 : decode cX1_against 43 = .ok (.ireturn, 1) := dk_172 (dk_at dksX1_against_1 20 rfl rfl)
theorem dX1_against_44 : decode cX1_against 44 = .ok (.aload_n 2, 1) := dk_44 (dk_at dksX1_against_1 21 rfl rfl)
theorem dX1_against_45 : decode cX1_against 45 = .ok (.invokevirtual 219, 3) := dk_182 0 219 (dk_at dksX1_against_2 0 rfl rfl)
theorem dX1_against_48 : decode cX1_against 48 = .ok (.aload_n 1, 1) := dk_43 (dk_at dksX1_against_2 3 rfl rfl)
theorem dX1_against_49 : decode cX1_against 49 = .ok (.getfield 222, 3) := dk_180 0 222 (dk_at dksX1_against_2 4 rfl rfl)
theorem dX1_against_52 : decode cX1_against 52 = .ok (.aload_n 1, 1) := dk_43 (dk_at dksX1_against_2 7 rfl rfl)
theorem dX1_against_53 : decode cX1_against 53 = .ok (.getfield 225, 3) := dk_180 0 225 (dk_at dksX1_against_2 8 rfl rfl)
theorem dX1_against_56 : decode cX1_against 56 = .ok (.invokestatic 19, 3) := dk_184 0 19 (dk_at dksX1_against_2 11 rfl rfl)
theorem dX1_against_59 : decode cX1_against 59 = .ok (.ifCond .ne 5, 3) := dk_154 0 5 (dk_at dksX1_against_2 14 rfl rfl)
theorem dX1_against_62 : decode cX1_against 62 = .ok (.iconst 5, 1) := dk_8 (dk_at dksX1_against_2 17 rfl rfl)
theorem dX1_against_63 : decode cX1_against 63 = .ok (.ireturn, 1) := dk_172 (dk_at dksX1_against_2 18 rfl rfl)
theorem dX1_against_64 : decode cX1_against 64 = .ok (.aload_n 2, 1) := dk_44 (dk_at dksX1_against_2 19 rfl rfl)
theorem dX1_against_65 : decode cX1_against 65 = .ok (.aload_n 1, 1) := dk_43 (dk_at dksX1_against_2 20 rfl rfl)
theorem dX1_against_66 : decode cX1_against 66 = .ok (.getfield 228, 3) := dk_180 0 228 (dk_at dksX1_against_2 21 rfl rfl)
theorem dX1_against_69 : decode cX1_against 69 = .ok (.invokevirtual 231, 3) := dk_182 0 231 (dk_at dksX1_against_3 0 rfl rfl)
theorem dX1_against_72 : decode cX1_against 72 = .ok (.aload_n 1, 1) := dk_43 (dk_at dksX1_against_3 3 rfl rfl)
theorem dX1_against_73 : decode cX1_against 73 = .ok (.getfield 235, 3) := dk_180 0 235 (dk_at dksX1_against_3 4 rfl rfl)
theorem dX1_against_76 : decode cX1_against 76 = .ok (.if_icmp .le 6, 3) := dk_164 0 6 (dk_at dksX1_against_3 7 rfl rfl)
theorem dX1_against_79 : decode cX1_against 79 = .ok (.bipush 6, 2) := dk_16 6 (dk_at dksX1_against_3 10 rfl rfl)
theorem dX1_against_81 : decode cX1_against 81 = .ok (.ireturn, 1) := dk_172 (dk_at dksX1_against_3 12 rfl rfl)
theorem dX1_against_82 : decode cX1_against 82 = .ok (.aload_n 1, 1) := dk_43 (dk_at dksX1_against_3 13 rfl rfl)
theorem dX1_against_83 : decode cX1_against 83 = .ok (.aload_n 2, 1) := dk_44 (dk_at dksX1_against_3 14 rfl rfl)
theorem dX1_against_84 : decode cX1_against 84 = .ok (.getfield 237, 3) := dk_180 0 237 (dk_at dksX1_against_3 15 rfl rfl)
theorem dX1_against_87 : decode cX1_against 87 = .ok (.invokevirtual 241, 3) := dk_182 0 241 (dk_at dksX1_against_3 18 rfl rfl)
theorem dX1_against_90 : decode cX1_against 90 = .ok (.ifCond .ne 14, 3) := dk_154 0 14 (dk_at dksX1_against_3 21 rfl rfl)
theorem dX1_against_93 : decode cX1_against 93 = .ok (.aload_n 1, 1) := dk_43 (dk_at dksX1_against_4 0 rfl rfl)
theorem dX1_against_94 : decode cX1_against 94 = .ok (.aload_n 2, 1) := dk_44 (dk_at dksX1_against_4 1 rfl rfl)
theorem dX1_against_95 : decode cX1_against 95 = .ok (.getfield 244, 3) := dk_180 0 244 (dk_at dksX1_against_4 2 rfl rfl)
theorem dX1_against_98 : decode cX1_against 98 = .ok (.invokevirtual 241, 3) := dk_182 0 241 (dk_at dksX1_against_4 5 rfl rfl)
theorem dX1_against_101 : decode cX1_against 101 = .ok (.ifCond .eq 6, 3) := dk_153 0 6 (dk_at dksX1_against_4 8 rfl rfl)
theorem dX1_against_104 : decode cX1_against 104 = .ok (.bipush 7, 2) := dk_16 7 (dk_at dksX1_against_4 11 rfl rfl)
theorem dX1_against_106 : decode cX1_against 106 = .ok (.ireturn, 1) := dk_172 (dk_at dksX1_against_4 13 rfl rfl)
theorem dX1_against_107 : decode cX1_against 107 = .ok (.aload_n 1, 1) := dk_43 (dk_at dksX1_against_4 14 rfl rfl)
theorem dX1_against_108 : decode cX1_against 108 = .ok (.getfield 189, 3) := dk_180 0 189 (dk_at dksX1_against_4 15 rfl rfl)
theorem dX1_against_111 : decode cX1_against 111 = .ok (.invokeinterface 13 1, 5) := by decide +kernel
theorem dX1_against_116 : decode cX1_against 116 = .ok (.bipush 10, 2) := dk_16 10 (dk_at dksX1_against_5 0 rfl rfl)
theorem dX1_against_118 : decode cX1_against 118 = .ok (.if_icmp .ne 6, 3) := dk_160 0 6 (dk_at dksX1_against_5 2 rfl rfl)
theorem dX1_against_121 : decode cX1_against 121 = .ok (.bipush 8, 2) := dk_16 8 (dk_at dksX1_against_5 5 rfl rfl)
theorem dX1_against_123 : decode cX1_against 123 = .ok (.ireturn, 1) := dk_172 (dk_at dksX1_against_5 7 rfl rfl)
theorem dX1_against_124 : decode cX1_against 124 = .ok (.aload_n 0, 1) := dk_42 (dk_at dksX1_against_5 8 rfl rfl)
theorem dX1_against_125 : decode cX1_against 125 = .ok (.aload_n 1, 1) := dk_43 (dk_at dksX1_against_5 9 rfl rfl)
theorem dX1_against_126 : decode cX1_against 126 = .ok (.aload_n 2, 1) := dk_44 (dk_at dksX1_against_5 10 rfl rfl)
theorem dX1_against_127 : decode cX1_against 127 = .ok (.getfield 237, 3) := dk_180 0 237 (dk_at dksX1_against_5 11 rfl rfl)
theorem dX1_against_130 : decode cX1_against 130 = .ok (.invokevirtual 247, 3) := dk_182 0 247 (dk_at dksX1_against_5 14 rfl rfl)
theorem dX1_against_133 : decode cX1_against 133 = .ok (.ifCond .ne 15, 3) := dk_154 0 15 (dk_at dksX1_against_5 17 rfl rfl)
theorem dX1_against_136 : decode cX1_against 136 = .ok (.aload_n 0, 1) := dk_42 (dk_at dksX1_against_5 20 rfl rfl)
theorem dX1_against_137 : decode cX1_against 137 = .ok (.aload_n 1, 1) := dk_43 (dk_at dksX1_against_5 21 rfl rfl)
theorem dX1_against_138 : decode cX1_against 138 = .ok (.aload_n 2, 1) := dk_44 (dk_at dksX1_against_5 22 rfl rfl)
theorem dX1_against_139 : decode cX1_against 139 = .ok (.getfield 244, 3) := dk_180 0 244 (dk_at dksX1_against_6 0 rfl rfl)
theorem dX1_against_142 : decode cX1_against 142 = .ok (.invokevirtual 247, 3) := dk_182 0 247 (dk_at dksX1_against_6 3 rfl rfl)
theorem dX1_against_145 : decode cX1_against 145 = .ok (.ifCond .eq 8, 3) := dk_153 0 8 (dk_at dksX1_against_6 6 rfl rfl)
theorem dX1_against_148 : decode cX1_against 148 = .ok (.bipush 9, 2) := dk_16 9 (dk_at dksX1_against_6 9 rfl rfl)
theorem dX1_against_150 : decode cX1_against 150 = .ok (.goto 4, 3) := dk_167 0 4 (dk_at dksX1_against_6 11 rfl rfl)
theorem dX1_against_153 : decode cX1_against 153 = .ok (.iconst 0, 1) := dk_3 (dk_at dksX1_against_6 14 rfl rfl)
theorem dX1_against_154 : decode cX1_against 154 = .ok (.ireturn, 1) := dk_172 (dk_at dksX1_against_6 15 rfl rfl)
abbrev cX1_isOfPanel : ByteArray := prog_1_method_23_code
def yX1_isOfPanel : MethodName := ⟨RX1, "isOfPanel", "(LScrutineery$Event;LScrutineery$Person;)Z"⟩
def dkwX1_isOfPanel_2 : List UInt8 := [167, 0, 4, 3, 172]
abbrev dktX1_isOfPanel_2 : List UInt8 := dkwX1_isOfPanel_2 ++ []
def dkwX1_isOfPanel_1 : List UInt8 := [180, 0, 207, 4, 185, 0, 29, 2, 0, 192, 0, 14, 44, 185, 0, 107, 2, 0, 153, 0, 7, 4]
abbrev dktX1_isOfPanel_1 : List UInt8 := dkwX1_isOfPanel_1 ++ dktX1_isOfPanel_2
def dkwX1_isOfPanel_0 : List UInt8 := [43, 180, 0, 207, 3, 185, 0, 29, 2, 0, 192, 0, 14, 44, 185, 0, 107, 2, 0, 154, 0, 25, 43]
abbrev dktX1_isOfPanel_0 : List UInt8 := dkwX1_isOfPanel_0 ++ dktX1_isOfPanel_1
theorem dksX1_isOfPanel_0 : cX1_isOfPanel.data.toList.drop 0 = dktX1_isOfPanel_0 := by decide +kernel
theorem dksX1_isOfPanel_1 : cX1_isOfPanel.data.toList.drop 23 = dktX1_isOfPanel_1 := dk_seg dksX1_isOfPanel_0 23 rfl rfl
theorem dksX1_isOfPanel_2 : cX1_isOfPanel.data.toList.drop 45 = dktX1_isOfPanel_2 := dk_seg dksX1_isOfPanel_1 22 rfl rfl
theorem dX1_isOfPanel_0 : decode cX1_isOfPanel 0 = .ok (.aload_n 1, 1) := dk_43 (dk_at dksX1_isOfPanel_0 0 rfl rfl)
theorem dX1_isOfPanel_1 : decode cX1_isOfPanel 1 = .ok (.getfield 207, 3) := dk_180 0 207 (dk_at dksX1_isOfPanel_0 1 rfl rfl)
theorem dX1_isOfPanel_4 : decode cX1_isOfPanel 4 = .ok (.iconst 0, 1) := dk_3 (dk_at dksX1_isOfPanel_0 4 rfl rfl)
theorem dX1_isOfPanel_5 : decode cX1_isOfPanel 5 = .ok (.invokeinterface 29 2, 5) := by decide +kernel
theorem dX1_isOfPanel_10 : decode cX1_isOfPanel 10 = .ok (.checkcast 14, 3) := dk_192 0 14 (dk_at dksX1_isOfPanel_0 10 rfl rfl)
theorem dX1_isOfPanel_13 : decode cX1_isOfPanel 13 = .ok (.aload_n 2, 1) := dk_44 (dk_at dksX1_isOfPanel_0 13 rfl rfl)
theorem dX1_isOfPanel_14 : decode cX1_isOfPanel 14 = .ok (.invokeinterface 107 2, 5) := by decide +kernel
theorem dX1_isOfPanel_19 : decode cX1_isOfPanel 19 = .ok (.ifCond .ne 25, 3) := dk_154 0 25 (dk_at dksX1_isOfPanel_0 19 rfl rfl)
theorem dX1_isOfPanel_22 : decode cX1_isOfPanel 22 = .ok (.aload_n 1, 1) := dk_43 (dk_at dksX1_isOfPanel_0 22 rfl rfl)
theorem dX1_isOfPanel_23 : decode cX1_isOfPanel 23 = .ok (.getfield 207, 3) := dk_180 0 207 (dk_at dksX1_isOfPanel_1 0 rfl rfl)
theorem dX1_isOfPanel_26 : decode cX1_isOfPanel 26 = .ok (.iconst 1, 1) := dk_4 (dk_at dksX1_isOfPanel_1 3 rfl rfl)
theorem dX1_isOfPanel_27 : decode cX1_isOfPanel 27 = .ok (.invokeinterface 29 2, 5) := by decide +kernel
theorem dX1_isOfPanel_32 : decode cX1_isOfPanel 32 = .ok (.checkcast 14, 3) := dk_192 0 14 (dk_at dksX1_isOfPanel_1 9 rfl rfl)
theorem dX1_isOfPanel_35 : decode cX1_isOfPanel 35 = .ok (.aload_n 2, 1) := dk_44 (dk_at dksX1_isOfPanel_1 12 rfl rfl)
theorem dX1_isOfPanel_36 : decode cX1_isOfPanel 36 = .ok (.invokeinterface 107 2, 5) := by decide +kernel
theorem dX1_isOfPanel_41 : decode cX1_isOfPanel 41 = .ok (.ifCond .eq 7, 3) := dk_153 0 7 (dk_at dksX1_isOfPanel_1 18 rfl rfl)
theorem dX1_isOfPanel_44 : decode cX1_isOfPanel 44 = .ok (.iconst 1, 1) := dk_4 (dk_at dksX1_isOfPanel_1 21 rfl rfl)
theorem dX1_isOfPanel_45 : decode cX1_isOfPanel 45 = .ok (.goto 4, 3) := dk_167 0 4 (dk_at dksX1_isOfPanel_2 0 rfl rfl)
theorem dX1_isOfPanel_48 : decode cX1_isOfPanel 48 = .ok (.iconst 0, 1) := dk_3 (dk_at dksX1_isOfPanel_2 3 rfl rfl)
theorem dX1_isOfPanel_49 : decode cX1_isOfPanel 49 = .ok (.ireturn, 1) := dk_172 (dk_at dksX1_isOfPanel_2 4 rfl rfl)
abbrev cX1_refuses : ByteArray := prog_1_method_25_code
def yX1_refuses : MethodName := ⟨RX1, "refuses", "([I)V"⟩
def dkwX1_refuses_2 : List UInt8 := [126, 61, 132, 5, 1, 167, 255, 223, 187, 0, 10, 89, 183, 0, 12, 191]
abbrev dktX1_refuses_2 : List UInt8 := dkwX1_refuses_2 ++ []
def dkwX1_refuses_1 : List UInt8 := [162, 0, 32, 45, 21, 5, 46, 54, 6, 28, 42, 180, 0, 58, 21, 6, 184, 0, 251, 185, 0, 93, 2, 0]
abbrev dktX1_refuses_1 : List UInt8 := dkwX1_refuses_1 ++ dktX1_refuses_2
def dkwX1_refuses_0 : List UInt8 := [42, 180, 0, 58, 185, 0, 72, 1, 0, 4, 61, 43, 78, 45, 190, 54, 4, 3, 54, 5, 21, 5, 21, 4]
abbrev dktX1_refuses_0 : List UInt8 := dkwX1_refuses_0 ++ dktX1_refuses_1
theorem dksX1_refuses_0 : cX1_refuses.data.toList.drop 0 = dktX1_refuses_0 := by decide +kernel
theorem dksX1_refuses_1 : cX1_refuses.data.toList.drop 24 = dktX1_refuses_1 := dk_seg dksX1_refuses_0 24 rfl rfl
theorem dksX1_refuses_2 : cX1_refuses.data.toList.drop 48 = dktX1_refuses_2 := dk_seg dksX1_refuses_1 24 rfl rfl
theorem dX1_refuses_0 : decode cX1_refuses 0 = .ok (.aload_n 0, 1) := dk_42 (dk_at dksX1_refuses_0 0 rfl rfl)
theorem dX1_refuses_1 : decode cX1_refuses 1 = .ok (.getfield 58, 3) := dk_180 0 58 (dk_at dksX1_refuses_0 1 rfl rfl)
theorem dX1_refuses_4 : decode cX1_refuses 4 = .ok (.invokeinterface 72 1, 5) := by decide +kernel
theorem dX1_refuses_9 : decode cX1_refuses 9 = .ok (.iconst 1, 1) := dk_4 (dk_at dksX1_refuses_0 9 rfl rfl)
theorem dX1_refuses_10 : decode cX1_refuses 10 = .ok (.istore_n 2, 1) := dk_61 (dk_at dksX1_refuses_0 10 rfl rfl)
theorem dX1_refuses_11 : decode cX1_refuses 11 = .ok (.aload_n 1, 1) := dk_43 (dk_at dksX1_refuses_0 11 rfl rfl)
theorem dX1_refuses_12 : decode cX1_refuses 12 = .ok (.astore_n 3, 1) := dk_78 (dk_at dksX1_refuses_0 12 rfl rfl)
theorem dX1_refuses_13 : decode cX1_refuses 13 = .ok (.aload_n 3, 1) := dk_45 (dk_at dksX1_refuses_0 13 rfl rfl)
theorem dX1_refuses_14 : decode cX1_refuses 14 = .ok (.arraylength, 1) := dk_190 (dk_at dksX1_refuses_0 14 rfl rfl)
theorem dX1_refuses_15 : decode cX1_refuses 15 = .ok (.istore 4, 2) := dk_54 4 (dk_at dksX1_refuses_0 15 rfl rfl)
theorem dX1_refuses_17 : decode cX1_refuses 17 = .ok (.iconst 0, 1) := dk_3 (dk_at dksX1_refuses_0 17 rfl rfl)
theorem dX1_refuses_18 : decode cX1_refuses 18 = .ok (.istore 5, 2) := dk_54 5 (dk_at dksX1_refuses_0 18 rfl rfl)
theorem dX1_refuses_20 : decode cX1_refuses 20 = .ok (.iload 5, 2) := dk_21 5 (dk_at dksX1_refuses_0 20 rfl rfl)
theorem dX1_refuses_22 : decode cX1_refuses 22 = .ok (.iload 4, 2) := dk_21 4 (dk_at dksX1_refuses_0 22 rfl rfl)
theorem dX1_refuses_24 : decode cX1_refuses 24 = .ok (.if_icmp .ge 32, 3) := dk_162 0 32 (dk_at dksX1_refuses_1 0 rfl rfl)
theorem dX1_refuses_27 : decode cX1_refuses 27 = .ok (.aload_n 3, 1) := dk_45 (dk_at dksX1_refuses_1 3 rfl rfl)
theorem dX1_refuses_28 : decode cX1_refuses 28 = .ok (.iload 5, 2) := dk_21 5 (dk_at dksX1_refuses_1 4 rfl rfl)
theorem dX1_refuses_30 : decode cX1_refuses 30 = .ok (.iaload, 1) := dk_46 (dk_at dksX1_refuses_1 6 rfl rfl)
theorem dX1_refuses_31 : decode cX1_refuses 31 = .ok (.istore 6, 2) := dk_54 6 (dk_at dksX1_refuses_1 7 rfl rfl)
theorem dX1_refuses_33 : decode cX1_refuses 33 = .ok (.iload_n 2, 1) := dk_28 (dk_at dksX1_refuses_1 9 rfl rfl)
theorem dX1_refuses_34 : decode cX1_refuses 34 = .ok (.aload_n 0, 1) := dk_42 (dk_at dksX1_refuses_1 10 rfl rfl)
theorem dX1_refuses_35 : decode cX1_refuses 35 = .ok (.getfield 58, 3) := dk_180 0 58 (dk_at dksX1_refuses_1 11 rfl rfl)
theorem dX1_refuses_38 : decode cX1_refuses 38 = .ok (.iload 6, 2) := dk_21 6 (dk_at dksX1_refuses_1 14 rfl rfl)
theorem dX1_refuses_40 : decode cX1_refuses 40 = .ok (.invokestatic 251, 3) := dk_184 0 251 (dk_at dksX1_refuses_1 16 rfl rfl)
theorem dX1_refuses_43 : decode cX1_refuses 43 = .ok (.invokeinterface 93 2, 5) := by decide +kernel
theorem dX1_refuses_48 : decode cX1_refuses 48 = .ok (.iand, 1) := dk_126 (dk_at dksX1_refuses_2 0 rfl rfl)
theorem dX1_refuses_49 : decode cX1_refuses 49 = .ok (.istore_n 2, 1) := dk_61 (dk_at dksX1_refuses_2 1 rfl rfl)
theorem dX1_refuses_50 : decode cX1_refuses 50 = .ok (.iinc 5 1, 3) := dk_132 5 1 (dk_at dksX1_refuses_2 2 rfl rfl)
theorem dX1_refuses_53 : decode cX1_refuses 53 = .ok (.goto (-33), 3) := dk_167 255 223 (dk_at dksX1_refuses_2 5 rfl rfl)
theorem dX1_refuses_56 : decode cX1_refuses 56 = .ok (.new 10, 3) := dk_187 0 10 (dk_at dksX1_refuses_2 8 rfl rfl)
theorem dX1_refuses_59 : decode cX1_refuses 59 = .ok (.dup, 1) := dk_89 (dk_at dksX1_refuses_2 11 rfl rfl)
theorem dX1_refuses_60 : decode cX1_refuses 60 = .ok (.invokespecial 12, 3) := dk_183 0 12 (dk_at dksX1_refuses_2 12 rfl rfl)
theorem dX1_refuses_63 : decode cX1_refuses 63 = .ok (.athrow, 1) := dk_191 (dk_at dksX1_refuses_2 15 rfl rfl)
abbrev cX1_scratch : ByteArray := prog_1_method_28_code
def yX1_scratch : MethodName := ⟨RX1, "scratch", "(II)I"⟩
def dkwX1_scratch_3 : List UInt8 := [54, 5, 42, 89, 180, 0, 79, 45, 180, 0, 204, 5, 108, 100, 181, 0, 79, 42, 180, 0, 79, 172]
abbrev dktX1_scratch_3 : List UInt8 := dkwX1_scratch_3 ++ []
def dkwX1_scratch_2 : List UInt8 := [181, 1, 28, 25, 4, 2, 181, 1, 31, 45, 180, 1, 14, 180, 1, 18, 25, 4, 185, 1, 34, 2, 0]
abbrev dktX1_scratch_2 : List UInt8 := dkwX1_scratch_2 ++ dktX1_scratch_3
def dkwX1_scratch_1 : List UInt8 := [154, 0, 15, 25, 4, 180, 1, 28, 154, 0, 7, 4, 167, 0, 4, 3, 184, 0, 85, 25, 4, 4]
abbrev dktX1_scratch_1 : List UInt8 := dkwX1_scratch_1 ++ dktX1_scratch_2
def dkwX1_scratch_0 : List UInt8 := [42, 180, 0, 49, 27, 184, 0, 97, 192, 0, 184, 78, 45, 28, 184, 1, 24, 58, 4, 45, 182, 0, 210]
abbrev dktX1_scratch_0 : List UInt8 := dkwX1_scratch_0 ++ dktX1_scratch_1
theorem dksX1_scratch_0 : cX1_scratch.data.toList.drop 0 = dktX1_scratch_0 := by decide +kernel
theorem dksX1_scratch_1 : cX1_scratch.data.toList.drop 23 = dktX1_scratch_1 := dk_seg dksX1_scratch_0 23 rfl rfl
theorem dksX1_scratch_2 : cX1_scratch.data.toList.drop 45 = dktX1_scratch_2 := dk_seg dksX1_scratch_1 22 rfl rfl
theorem dksX1_scratch_3 : cX1_scratch.data.toList.drop 68 = dktX1_scratch_3 := dk_seg dksX1_scratch_2 23 rfl rfl
theorem dX1_scratch_0 : decode cX1_scratch 0 = .ok (.aload_n 0, 1) := dk_42 (dk_at dksX1_scratch_0 0 rfl rfl)
theorem dX1_scratch_1 : decode cX1_scratch 1 = .ok (.getfield 49, 3) := dk_180 0 49 (dk_at dksX1_scratch_0 1 rfl rfl)
theorem dX1_scratch_4 : decode cX1_scratch 4 = .ok (.iload_n 1, 1) := dk_27 (dk_at dksX1_scratch_0 4 rfl rfl)
theorem dX1_scratch_5 : decode cX1_scratch 5 = .ok (.invokestatic 97, 3) := dk_184 0 97 (dk_at dksX1_scratch_0 5 rfl rfl)
theorem dX1_scratch_8 : decode cX1_scratch 8 = .ok (.checkcast 184, 3) := dk_192 0 184 (dk_at dksX1_scratch_0 8 rfl rfl)
theorem dX1_scratch_11 : decode cX1_scratch 11 = .ok (.astore_n 3, 1) := dk_78 (dk_at dksX1_scratch_0 11 rfl rfl)
theorem dX1_scratch_12 : decode cX1_scratch 12 = .ok (.aload_n 3, 1) := dk_45 (dk_at dksX1_scratch_0 12 rfl rfl)
theorem dX1_scratch_13 : decode cX1_scratch 13 = .ok (.iload_n 2, 1) := dk_28 (dk_at dksX1_scratch_0 13 rfl rfl)
theorem dX1_scratch_14 : decode cX1_scratch 14 = .ok (.invokestatic 280, 3) := dk_184 1 24 (dk_at dksX1_scratch_0 14 rfl rfl)
theorem dX1_scratch_17 : decode cX1_scratch 17 = .ok (.astore 4, 2) := dk_58 4 (dk_at dksX1_scratch_0 17 rfl rfl)
theorem dX1_scratch_19 : decode cX1_scratch 19 = .ok (.aload_n 3, 1) := dk_45 (dk_at dksX1_scratch_0 19 rfl rfl)
theorem dX1_scratch_20 : decode cX1_scratch 20 = .ok (.invokevirtual 210, 3) := dk_182 0 210 (dk_at dksX1_scratch_0 20 rfl rfl)
theorem dX1_scratch_23 : decode cX1_scratch 23 = .ok (.ifCond .ne 15, 3) := dk_154 0 15 (dk_at dksX1_scratch_1 0 rfl rfl)
theorem dX1_scratch_26 : decode cX1_scratch 26 = .ok (.aload 4, 2) := dk_25 4 (dk_at dksX1_scratch_1 3 rfl rfl)
theorem dX1_scratch_28 : decode cX1_scratch 28 = .ok (.getfield 284, 3) := dk_180 1 28 (dk_at dksX1_scratch_1 5 rfl rfl)
theorem dX1_scratch_31 : decode cX1_scratch 31 = .ok (.ifCond .ne 7, 3) := dk_154 0 7 (dk_at dksX1_scratch_1 8 rfl rfl)
theorem dX1_scratch_34 : decode cX1_scratch 34 = .ok (.iconst 1, 1) := dk_4 (dk_at dksX1_scratch_1 11 rfl rfl)
theorem dX1_scratch_35 : decode cX1_scratch 35 = .ok (.goto 4, 3) := dk_167 0 4 (dk_at dksX1_scratch_1 12 rfl rfl)
theorem dX1_scratch_38 : decode cX1_scratch 38 = .ok (.iconst 0, 1) := dk_3 (dk_at dksX1_scratch_1 15 rfl rfl)
theorem dX1_scratch_39 : decode cX1_scratch 39 = .ok (.invokestatic 85, 3) := dk_184 0 85 (dk_at dksX1_scratch_1 16 rfl rfl)
theorem dX1_scratch_42 : decode cX1_scratch 42 = .ok (.aload 4, 2) := dk_25 4 (dk_at dksX1_scratch_1 19 rfl rfl)
theorem dX1_scratch_44 : decode cX1_scratch 44 = .ok (.iconst 1, 1) := dk_4 (dk_at dksX1_scratch_1 21 rfl rfl)
theorem dX1_scratch_45 : decode cX1_scratch 45 = .ok (.putfield 284, 3) := dk_181 1 28 (dk_at dksX1_scratch_2 0 rfl rfl)
theorem dX1_scratch_48 : decode cX1_scratch 48 = .ok (.aload 4, 2) := dk_25 4 (dk_at dksX1_scratch_2 3 rfl rfl)
theorem dX1_scratch_50 : decode cX1_scratch 50 = .ok (.iconst (-1), 1) := dk_2 (dk_at dksX1_scratch_2 5 rfl rfl)
theorem dX1_scratch_51 : decode cX1_scratch 51 = .ok (.putfield 287, 3) := dk_181 1 31 (dk_at dksX1_scratch_2 6 rfl rfl)
theorem dX1_scratch_54 : decode cX1_scratch 54 = .ok (.aload_n 3, 1) := dk_45 (dk_at dksX1_scratch_2 9 rfl rfl)
theorem dX1_scratch_55 : decode cX1_scratch 55 = .ok (.getfield 270, 3) := dk_180 1 14 (dk_at dksX1_scratch_2 10 rfl rfl)
theorem dX1_scratch_58 : decode cX1_scratch 58 = .ok (.getfield 274, 3) := dk_180 1 18 (dk_at dksX1_scratch_2 13 rfl rfl)
theorem dX1_scratch_61 : decode cX1_scratch 61 = .ok (.aload 4, 2) := dk_25 4 (dk_at dksX1_scratch_2 16 rfl rfl)
theorem dX1_scratch_63 : decode cX1_scratch 63 = .ok (.invokeinterface 290 2, 5) := by decide +kernel
theorem dX1_scratch_68 : decode cX1_scratch 68 = .ok (.istore 5, 2) := dk_54 5 (dk_at dksX1_scratch_3 0 rfl rfl)
theorem dX1_scratch_70 : decode cX1_scratch 70 = .ok (.aload_n 0, 1) := dk_42 (dk_at dksX1_scratch_3 2 rfl rfl)
theorem dX1_scratch_71 : decode cX1_scratch 71 = .ok (.dup, 1) := dk_89 (dk_at dksX1_scratch_3 3 rfl rfl)
theorem dX1_scratch_72 : decode cX1_scratch 72 = .ok (.getfield 79, 3) := dk_180 0 79 (dk_at dksX1_scratch_3 4 rfl rfl)
theorem dX1_scratch_75 : decode cX1_scratch 75 = .ok (.aload_n 3, 1) := dk_45 (dk_at dksX1_scratch_3 7 rfl rfl)
theorem dX1_scratch_76 : decode cX1_scratch 76 = .ok (.getfield 204, 3) := dk_180 0 204 (dk_at dksX1_scratch_3 8 rfl rfl)
theorem dX1_scratch_79 : decode cX1_scratch 79 = .ok (.iconst 2, 1) := dk_5 (dk_at dksX1_scratch_3 11 rfl rfl)
theorem dX1_scratch_80 : decode cX1_scratch 80 = .ok (.idiv, 1) := dk_108 (dk_at dksX1_scratch_3 12 rfl rfl)
theorem dX1_scratch_81 : decode cX1_scratch 81 = .ok (.isub, 1) := dk_100 (dk_at dksX1_scratch_3 13 rfl rfl)
theorem dX1_scratch_82 : decode cX1_scratch 82 = .ok (.putfield 79, 3) := dk_181 0 79 (dk_at dksX1_scratch_3 14 rfl rfl)
theorem dX1_scratch_85 : decode cX1_scratch 85 = .ok (.aload_n 0, 1) := dk_42 (dk_at dksX1_scratch_3 17 rfl rfl)
theorem dX1_scratch_86 : decode cX1_scratch 86 = .ok (.getfield 79, 3) := dk_180 0 79 (dk_at dksX1_scratch_3 18 rfl rfl)
theorem dX1_scratch_89 : decode cX1_scratch 89 = .ok (.ireturn, 1) := dk_172 (dk_at dksX1_scratch_3 21 rfl rfl)
abbrev cX1_entryOf : ByteArray := prog_1_method_27_code
def yX1_entryOf : MethodName := ⟨RX1, "entryOf", "(LScrutineery$Event;I)LScrutineery$Entry;"⟩
def dkwX1_entryOf_0 : List UInt8 := [42, 180, 0, 189, 27, 4, 100, 184, 0, 97, 192, 1, 9, 176]
abbrev dktX1_entryOf_0 : List UInt8 := dkwX1_entryOf_0 ++ []
theorem dksX1_entryOf_0 : cX1_entryOf.data.toList.drop 0 = dktX1_entryOf_0 := by decide +kernel
theorem dX1_entryOf_0 : decode cX1_entryOf 0 = .ok (.aload_n 0, 1) := dk_42 (dk_at dksX1_entryOf_0 0 rfl rfl)
theorem dX1_entryOf_1 : decode cX1_entryOf 1 = .ok (.getfield 189, 3) := dk_180 0 189 (dk_at dksX1_entryOf_0 1 rfl rfl)
theorem dX1_entryOf_4 : decode cX1_entryOf 4 = .ok (.iload_n 1, 1) := dk_27 (dk_at dksX1_entryOf_0 4 rfl rfl)
theorem dX1_entryOf_5 : decode cX1_entryOf 5 = .ok (.iconst 1, 1) := dk_4 (dk_at dksX1_entryOf_0 5 rfl rfl)
theorem dX1_entryOf_6 : decode cX1_entryOf 6 = .ok (.isub, 1) := dk_100 (dk_at dksX1_entryOf_0 6 rfl rfl)
theorem dX1_entryOf_7 : decode cX1_entryOf 7 = .ok (.invokestatic 97, 3) := dk_184 0 97 (dk_at dksX1_entryOf_0 7 rfl rfl)
theorem dX1_entryOf_10 : decode cX1_entryOf 10 = .ok (.checkcast 265, 3) := dk_192 1 9 (dk_at dksX1_entryOf_0 10 rfl rfl)
theorem dX1_entryOf_13 : decode cX1_entryOf 13 = .ok (.areturn, 1) := dk_176 (dk_at dksX1_entryOf_0 13 rfl rfl)
abbrev cX1_apart : ByteArray := prog_1_method_29_code
def yX1_apart : MethodName := ⟨RX1, "apart", "(III)I"⟩
def dkwX1_apart_3 : List UInt8 := [182, 1, 45, 185, 0, 13, 1, 0, 172]
abbrev dktX1_apart_3 : List UInt8 := dkwX1_apart_3 ++ []
def dkwX1_apart_2 : List UInt8 := [180, 1, 37, 187, 1, 40, 89, 25, 5, 25, 6, 183, 1, 42, 185, 0, 93, 2, 0, 54, 7, 25, 4]
abbrev dktX1_apart_2 : List UInt8 := dkwX1_apart_2 ++ dktX1_apart_3
def dkwX1_apart_1 : List UInt8 := [184, 1, 24, 58, 6, 25, 5, 25, 6, 165, 0, 7, 4, 167, 0, 4, 3, 184, 0, 82, 25, 4]
abbrev dktX1_apart_1 : List UInt8 := dkwX1_apart_1 ++ dktX1_apart_2
def dkwX1_apart_0 : List UInt8 := [42, 180, 0, 49, 27, 184, 0, 97, 192, 0, 184, 58, 4, 25, 4, 28, 184, 1, 24, 58, 5, 25, 4, 29]
abbrev dktX1_apart_0 : List UInt8 := dkwX1_apart_0 ++ dktX1_apart_1
theorem dksX1_apart_0 : cX1_apart.data.toList.drop 0 = dktX1_apart_0 := by decide +kernel
theorem dksX1_apart_1 : cX1_apart.data.toList.drop 24 = dktX1_apart_1 := dk_seg dksX1_apart_0 24 rfl rfl
theorem dksX1_apart_2 : cX1_apart.data.toList.drop 46 = dktX1_apart_2 := dk_seg dksX1_apart_1 22 rfl rfl
theorem dksX1_apart_3 : cX1_apart.data.toList.drop 69 = dktX1_apart_3 := dk_seg dksX1_apart_2 23 rfl rfl
theorem dX1_apart_0 : decode cX1_apart 0 = .ok (.aload_n 0, 1) := dk_42 (dk_at dksX1_apart_0 0 rfl rfl)
theorem dX1_apart_1 : decode cX1_apart 1 = .ok (.getfield 49, 3) := dk_180 0 49 (dk_at dksX1_apart_0 1 rfl rfl)
theorem dX1_apart_4 : decode cX1_apart 4 = .ok (.iload_n 1, 1) := dk_27 (dk_at dksX1_apart_0 4 rfl rfl)
theorem dX1_apart_5 : decode cX1_apart 5 = .ok (.invokestatic 97, 3) := dk_184 0 97 (dk_at dksX1_apart_0 5 rfl rfl)
theorem dX1_apart_8 : decode cX1_apart 8 = .ok (.checkcast 184, 3) := dk_192 0 184 (dk_at dksX1_apart_0 8 rfl rfl)
theorem dX1_apart_11 : decode cX1_apart 11 = .ok (.astore 4, 2) := dk_58 4 (dk_at dksX1_apart_0 11 rfl rfl)
theorem dX1_apart_13 : decode cX1_apart 13 = .ok (.aload 4, 2) := dk_25 4 (dk_at dksX1_apart_0 13 rfl rfl)
theorem dX1_apart_15 : decode cX1_apart 15 = .ok (.iload_n 2, 1) := dk_28 (dk_at dksX1_apart_0 15 rfl rfl)
theorem dX1_apart_16 : decode cX1_apart 16 = .ok (.invokestatic 280, 3) := dk_184 1 24 (dk_at dksX1_apart_0 16 rfl rfl)
theorem dX1_apart_19 : decode cX1_apart 19 = .ok (.astore 5, 2) := dk_58 5 (dk_at dksX1_apart_0 19 rfl rfl)
theorem dX1_apart_21 : decode cX1_apart 21 = .ok (.aload 4, 2) := dk_25 4 (dk_at dksX1_apart_0 21 rfl rfl)
theorem dX1_apart_23 : decode cX1_apart 23 = .ok (.iload_n 3, 1) := dk_29 (dk_at dksX1_apart_0 23 rfl rfl)
theorem dX1_apart_24 : decode cX1_apart 24 = .ok (.invokestatic 280, 3) := dk_184 1 24 (dk_at dksX1_apart_1 0 rfl rfl)
theorem dX1_apart_27 : decode cX1_apart 27 = .ok (.astore 6, 2) := dk_58 6 (dk_at dksX1_apart_1 3 rfl rfl)
theorem dX1_apart_29 : decode cX1_apart 29 = .ok (.aload 5, 2) := dk_25 5 (dk_at dksX1_apart_1 5 rfl rfl)
theorem dX1_apart_31 : decode cX1_apart 31 = .ok (.aload 6, 2) := dk_25 6 (dk_at dksX1_apart_1 7 rfl rfl)
theorem dX1_apart_33 : decode cX1_apart 33 = .ok (.if_acmp .eq 7, 3) := dk_165 0 7 (dk_at dksX1_apart_1 9 rfl rfl)
theorem dX1_apart_36 : decode cX1_apart 36 = .ok (.iconst 1, 1) := dk_4 (dk_at dksX1_apart_1 12 rfl rfl)
theorem dX1_apart_37 : decode cX1_apart 37 = .ok (.goto 4, 3) := dk_167 0 4 (dk_at dksX1_apart_1 13 rfl rfl)
theorem dX1_apart_40 : decode cX1_apart 40 = .ok (.iconst 0, 1) := dk_3 (dk_at dksX1_apart_1 16 rfl rfl)
theorem dX1_apart_41 : decode cX1_apart 41 = .ok (.invokestatic 82, 3) := dk_184 0 82 (dk_at dksX1_apart_1 17 rfl rfl)
theorem dX1_apart_44 : decode cX1_apart 44 = .ok (.aload 4, 2) := dk_25 4 (dk_at dksX1_apart_1 20 rfl rfl)
theorem dX1_apart_46 : decode cX1_apart 46 = .ok (.getfield 293, 3) := dk_180 1 37 (dk_at dksX1_apart_2 0 rfl rfl)
theorem dX1_apart_49 : decode cX1_apart 49 = .ok (.new 296, 3) := dk_187 1 40 (dk_at dksX1_apart_2 3 rfl rfl)
theorem dX1_apart_52 : decode cX1_apart 52 = .ok (.dup, 1) := dk_89 (dk_at dksX1_apart_2 6 rfl rfl)
theorem dX1_apart_53 : decode cX1_apart 53 = .ok (.aload 5, 2) := dk_25 5 (dk_at dksX1_apart_2 7 rfl rfl)
theorem dX1_apart_55 : decode cX1_apart 55 = .ok (.aload 6, 2) := dk_25 6 (dk_at dksX1_apart_2 9 rfl rfl)
theorem dX1_apart_57 : decode cX1_apart 57 = .ok (.invokespecial 298, 3) := dk_183 1 42 (dk_at dksX1_apart_2 11 rfl rfl)
theorem dX1_apart_60 : decode cX1_apart 60 = .ok (.invokeinterface 93 2, 5) := by decide +kernel
theorem dX1_apart_65 : decode cX1_apart 65 = .ok (.istore 7, 2) := dk_54 7 (dk_at dksX1_apart_2 19 rfl rfl)
theorem dX1_apart_67 : decode cX1_apart 67 = .ok (.aload 4, 2) := dk_25 4 (dk_at dksX1_apart_2 21 rfl rfl)
theorem dX1_apart_69 : decode cX1_apart 69 = .ok (.invokevirtual 301, 3) := dk_182 1 45 (dk_at dksX1_apart_3 0 rfl rfl)
theorem dX1_apart_72 : decode cX1_apart 72 = .ok (.invokeinterface 13 1, 5) := by decide +kernel
theorem dX1_apart_77 : decode cX1_apart 77 = .ok (.ireturn, 1) := dk_172 (dk_at dksX1_apart_3 8 rfl rfl)
abbrev cX1_up : ByteArray := prog_1_method_6_code
def yX1_up : MethodName := ⟨RX1, "up", "(II)I"⟩
def dkwX1_up_0 : List UInt8 := [26, 27, 96, 4, 100, 27, 108, 172]
abbrev dktX1_up_0 : List UInt8 := dkwX1_up_0 ++ []
theorem dksX1_up_0 : cX1_up.data.toList.drop 0 = dktX1_up_0 := by decide +kernel
theorem dX1_up_0 : decode cX1_up 0 = .ok (.iload_n 0, 1) := dk_26 (dk_at dksX1_up_0 0 rfl rfl)
theorem dX1_up_1 : decode cX1_up 1 = .ok (.iload_n 1, 1) := dk_27 (dk_at dksX1_up_0 1 rfl rfl)
theorem dX1_up_2 : decode cX1_up 2 = .ok (.iadd, 1) := dk_96 (dk_at dksX1_up_0 2 rfl rfl)
theorem dX1_up_3 : decode cX1_up 3 = .ok (.iconst 1, 1) := dk_4 (dk_at dksX1_up_0 3 rfl rfl)
theorem dX1_up_4 : decode cX1_up 4 = .ok (.isub, 1) := dk_100 (dk_at dksX1_up_0 4 rfl rfl)
theorem dX1_up_5 : decode cX1_up 5 = .ok (.iload_n 1, 1) := dk_27 (dk_at dksX1_up_0 5 rfl rfl)
theorem dX1_up_6 : decode cX1_up 6 = .ok (.idiv, 1) := dk_108 (dk_at dksX1_up_0 6 rfl rfl)
theorem dX1_up_7 : decode cX1_up 7 = .ok (.ireturn, 1) := dk_172 (dk_at dksX1_up_0 7 rfl rfl)
abbrev cX1_draw : ByteArray := prog_1_method_31_code
def yX1_draw : MethodName := ⟨RX1, "draw", "(IIII)I"⟩
def dkwX1_draw_10 : List UInt8 := [192, 0, 88, 185, 0, 93, 2, 0, 126, 54, 7, 132, 12, 1, 167, 255, 193, 21, 8, 172]
abbrev dktX1_draw_10 : List UInt8 := dkwX1_draw_10 ++ []
def dkwX1_draw_9 : List UInt8 := [25, 6, 22, 10, 20, 1, 63, 109, 25, 6, 185, 0, 13, 1, 0, 133, 113, 136, 185, 1, 65, 2, 0]
abbrev dktX1_draw_9 : List UInt8 := dkwX1_draw_9 ++ dktX1_draw_10
def dkwX1_draw_8 : List UInt8 := [162, 0, 63, 22, 10, 20, 1, 57, 105, 20, 1, 59, 97, 20, 1, 61, 113, 55, 10, 21, 7, 25, 9]
abbrev dktX1_draw_8 : List UInt8 := dkwX1_draw_8 ++ dktX1_draw_9
def dkwX1_draw_7 : List UInt8 := [192, 0, 14, 58, 9, 25, 9, 185, 0, 72, 1, 0, 21, 4, 133, 55, 10, 3, 54, 12, 21, 12, 29]
abbrev dktX1_draw_7 : List UInt8 := dkwX1_draw_7 ++ dktX1_draw_8
def dkwX1_draw_6 : List UInt8 := [29, 161, 0, 7, 4, 167, 0, 4, 3, 184, 0, 85, 25, 5, 180, 0, 207, 28, 185, 0, 29, 2, 0]
abbrev dktX1_draw_6 : List UInt8 := dkwX1_draw_6 ++ dktX1_draw_7
def dkwX1_draw_5 : List UInt8 := [54, 7, 167, 255, 209, 25, 6, 185, 0, 13, 1, 0, 54, 8, 25, 5, 182, 0, 210, 154, 0, 13, 21, 8]
abbrev dktX1_draw_5 : List UInt8 := dkwX1_draw_5 ++ dktX1_draw_6
def dkwX1_draw_4 : List UInt8 := [42, 25, 9, 25, 5, 182, 1, 53, 153, 0, 17, 21, 7, 25, 6, 25, 9, 185, 0, 93, 2, 0, 126]
abbrev dktX1_draw_4 : List UInt8 := dkwX1_draw_4 ++ dktX1_draw_5
def dkwX1_draw_3 : List UInt8 := [58, 8, 25, 8, 185, 0, 162, 1, 0, 153, 0, 43, 25, 8, 185, 0, 167, 1, 0, 192, 0, 88, 58, 9]
abbrev dktX1_draw_3 : List UInt8 := dkwX1_draw_3 ++ dktX1_draw_4
def dkwX1_draw_2 : List UInt8 := [184, 0, 82, 187, 0, 36, 89, 183, 0, 38, 58, 6, 4, 54, 7, 42, 180, 0, 39, 185, 0, 158, 1, 0]
abbrev dktX1_draw_2 : List UInt8 := dkwX1_draw_2 ++ dktX1_draw_3
def dkwX1_draw_1 : List UInt8 := [159, 0, 14, 29, 8, 159, 0, 9, 29, 16, 7, 160, 0, 12, 21, 4, 155, 0, 7, 4, 167, 0, 4, 3]
abbrev dktX1_draw_1 : List UInt8 := dkwX1_draw_1 ++ dktX1_draw_2
def dkwX1_draw_0 : List UInt8 := [42, 180, 0, 49, 27, 184, 0, 97, 192, 0, 184, 58, 5, 28, 3, 4, 184, 0, 19, 184, 0, 25, 29, 6]
abbrev dktX1_draw_0 : List UInt8 := dkwX1_draw_0 ++ dktX1_draw_1
theorem dksX1_draw_0 : cX1_draw.data.toList.drop 0 = dktX1_draw_0 := by decide +kernel
theorem dksX1_draw_1 : cX1_draw.data.toList.drop 24 = dktX1_draw_1 := dk_seg dksX1_draw_0 24 rfl rfl
theorem dksX1_draw_2 : cX1_draw.data.toList.drop 48 = dktX1_draw_2 := dk_seg dksX1_draw_1 24 rfl rfl
theorem dksX1_draw_3 : cX1_draw.data.toList.drop 72 = dktX1_draw_3 := dk_seg dksX1_draw_2 24 rfl rfl
theorem dksX1_draw_4 : cX1_draw.data.toList.drop 96 = dktX1_draw_4 := dk_seg dksX1_draw_3 24 rfl rfl
theorem dksX1_draw_5 : cX1_draw.data.toList.drop 119 = dktX1_draw_5 := dk_seg dksX1_draw_4 23 rfl rfl
theorem dksX1_draw_6 : cX1_draw.data.toList.drop 143 = dktX1_draw_6 := dk_seg dksX1_draw_5 24 rfl rfl
theorem dksX1_draw_7 : cX1_draw.data.toList.drop 166 = dktX1_draw_7 := dk_seg dksX1_draw_6 23 rfl rfl
theorem dksX1_draw_8 : cX1_draw.data.toList.drop 189 = dktX1_draw_8 := dk_seg dksX1_draw_7 23 rfl rfl
theorem dksX1_draw_9 : cX1_draw.data.toList.drop 212 = dktX1_draw_9 := dk_seg dksX1_draw_8 23 rfl rfl
theorem dksX1_draw_10 : cX1_draw.data.toList.drop 235 = dktX1_draw_10 := dk_seg dksX1_draw_9 23 rfl rfl
theorem dX1_draw_0 : decode cX1_draw 0 = .ok (.aload_n 0, 1) := dk_42 (dk_at dksX1_draw_0 0 rfl rfl)
theorem dX1_draw_1 : decode cX1_draw 1 = .ok (.getfield 49, 3) := dk_180 0 49 (dk_at dksX1_draw_0 1 rfl rfl)
theorem dX1_draw_4 : decode cX1_draw 4 = .ok (.iload_n 1, 1) := dk_27 (dk_at dksX1_draw_0 4 rfl rfl)
theorem dX1_draw_5 : decode cX1_draw 5 = .ok (.invokestatic 97, 3) := dk_184 0 97 (dk_at dksX1_draw_0 5 rfl rfl)
theorem dX1_draw_8 : decode cX1_draw 8 = .ok (.checkcast 184, 3) := dk_192 0 184 (dk_at dksX1_draw_0 8 rfl rfl)
theorem dX1_draw_11 : decode cX1_draw 11 = .ok (.astore 5, 2) := dk_58 5 (dk_at dksX1_draw_0 11 rfl rfl)
theorem dX1_draw_13 : decode cX1_draw 13 = .ok (.iload_n 2, 1) := dk_28 (dk_at dksX1_draw_0 13 rfl rfl)
theorem dX1_draw_14 : decode cX1_draw 14 = .ok (.iconst 0, 1) := dk_3 (dk_at dksX1_draw_0 14 rfl rfl)
theorem dX1_draw_15 : decode cX1_draw 15 = .ok (.iconst 1, 1) := dk_4 (dk_at dksX1_draw_0 15 rfl rfl)
theorem dX1_draw_16 : decode cX1_draw 16 = .ok (.invokestatic 19, 3) := dk_184 0 19 (dk_at dksX1_draw_0 16 rfl rfl)
theorem dX1_draw_19 : decode cX1_draw 19 = .ok (.invokestatic 25, 3) := dk_184 0 25 (dk_at dksX1_draw_0 19 rfl rfl)
theorem dX1_draw_22 : decode cX1_draw 22 = .ok (.iload_n 3, 1) := dk_29 (dk_at dksX1_draw_0 22 rfl rfl)
theorem dX1_draw_23 : decode cX1_draw 23 = .ok (.iconst 3, 1) := dk_6 (dk_at dksX1_draw_0 23 rfl rfl)
theorem dX1_draw_24 : decode cX1_draw 24 = .ok (.if_icmp .eq 14, 3) := dk_159 0 14 (dk_at dksX1_draw_1 0 rfl rfl)
theorem dX1_draw_27 : decode cX1_draw 27 = .ok (.iload_n 3, 1) := dk_29 (dk_at dksX1_draw_1 3 rfl rfl)
theorem dX1_draw_28 : decode cX1_draw 28 = .ok (.iconst 5, 1) := dk_8 (dk_at dksX1_draw_1 4 rfl rfl)
theorem dX1_draw_29 : decode cX1_draw 29 = .ok (.if_icmp .eq 9, 3) := dk_159 0 9 (dk_at dksX1_draw_1 5 rfl rfl)
theorem dX1_draw_32 : decode cX1_draw 32 = .ok (.iload_n 3, 1) := dk_29 (dk_at dksX1_draw_1 8 rfl rfl)
theorem dX1_draw_33 : decode cX1_draw 33 = .ok (.bipush 7, 2) := dk_16 7 (dk_at dksX1_draw_1 9 rfl rfl)
theorem dX1_draw_35 : decode cX1_draw 35 = .ok (.if_icmp .ne 12, 3) := dk_160 0 12 (dk_at dksX1_draw_1 11 rfl rfl)
theorem dX1_draw_38 : decode cX1_draw 38 = .ok (.iload 4, 2) := dk_21 4 (dk_at dksX1_draw_1 14 rfl rfl)
theorem dX1_draw_40 : decode cX1_draw 40 = .ok (.ifCond .lt 7, 3) := dk_155 0 7 (dk_at dksX1_draw_1 16 rfl rfl)
theorem dX1_draw_43 : decode cX1_draw 43 = .ok (.iconst 1, 1) := dk_4 (dk_at dksX1_draw_1 19 rfl rfl)
theorem dX1_draw_44 : decode cX1_draw 44 = .ok (.goto 4, 3) := dk_167 0 4 (dk_at dksX1_draw_1 20 rfl rfl)
theorem dX1_draw_47 : decode cX1_draw 47 = .ok (.iconst 0, 1) := dk_3 (dk_at dksX1_draw_1 23 rfl rfl)
theorem dX1_draw_48 : decode cX1_draw 48 = .ok (.invokestatic 82, 3) := dk_184 0 82 (dk_at dksX1_draw_2 0 rfl rfl)
theorem dX1_draw_51 : decode cX1_draw 51 = .ok (.new 36, 3) := dk_187 0 36 (dk_at dksX1_draw_2 3 rfl rfl)
theorem dX1_draw_54 : decode cX1_draw 54 = .ok (.dup, 1) := dk_89 (dk_at dksX1_draw_2 6 rfl rfl)
theorem dX1_draw_55 : decode cX1_draw 55 = .ok (.invokespecial 38, 3) := dk_183 0 38 (dk_at dksX1_draw_2 7 rfl rfl)
theorem dX1_draw_58 : decode cX1_draw 58 = .ok (.astore 6, 2) := dk_58 6 (dk_at dksX1_draw_2 10 rfl rfl)
theorem dX1_draw_60 : decode cX1_draw 60 = .ok (.iconst 1, 1) := dk_4 (dk_at dksX1_draw_2 12 rfl rfl)
theorem dX1_draw_61 : decode cX1_draw 61 = .ok (.istore 7, 2) := dk_54 7 (dk_at dksX1_draw_2 13 rfl rfl)
theorem dX1_draw_63 : decode cX1_draw 63 = .ok (.aload_n 0, 1) := dk_42 (dk_at dksX1_draw_2 15 rfl rfl)
theorem dX1_draw_64 : decode cX1_draw 64 = .ok (.getfield 39, 3) := dk_180 0 39 (dk_at dksX1_draw_2 16 rfl rfl)
theorem dX1_draw_67 : decode cX1_draw 67 = .ok (.invokeinterface 158 1, 5) := by decide +kernel
theorem dX1_draw_72 : decode cX1_draw 72 = .ok (.astore 8, 2) := dk_58 8 (dk_at dksX1_draw_3 0 rfl rfl)
theorem dX1_draw_74 : decode cX1_draw 74 = .ok (.aload 8, 2) := dk_25 8 (dk_at dksX1_draw_3 2 rfl rfl)
theorem dX1_draw_76 : decode cX1_draw 76 = .ok (.invokeinterface 162 1, 5) := by decide +kernel
theorem dX1_draw_81 : decode cX1_draw 81 = .ok (.ifCond .eq 43, 3) := dk_153 0 43 (dk_at dksX1_draw_3 9 rfl rfl)
theorem dX1_draw_84 : decode cX1_draw 84 = .ok (.aload 8, 2) := dk_25 8 (dk_at dksX1_draw_3 12 rfl rfl)
theorem dX1_draw_86 : decode cX1_draw 86 = .ok (.invokeinterface 167 1, 5) := by decide +kernel
theorem dX1_draw_91 : decode cX1_draw 91 = .ok (.checkcast 88, 3) := dk_192 0 88 (dk_at dksX1_draw_3 19 rfl rfl)
theorem dX1_draw_94 : decode cX1_draw 94 = .ok (.astore 9, 2) := dk_58 9 (dk_at dksX1_draw_3 22 rfl rfl)
theorem dX1_draw_96 : decode cX1_draw 96 = .ok (.aload_n 0, 1) := dk_42 (dk_at dksX1_draw_4 0 rfl rfl)
theorem dX1_draw_97 : decode cX1_draw 97 = .ok (.aload 9, 2) := dk_25 9 (dk_at dksX1_draw_4 1 rfl rfl)
theorem dX1_draw_99 : decode cX1_draw 99 = .ok (.aload 5, 2) := dk_25 5 (dk_at dksX1_draw_4 3 rfl rfl)
theorem dX1_draw_101 : decode cX1_draw 101 = .ok (.invokevirtual 309, 3) := dk_182 1 53 (dk_at dksX1_draw_4 5 rfl rfl)
theorem dX1_draw_104 : decode cX1_draw 104 = .ok (.ifCond .eq 17, 3) := dk_153 0 17 (dk_at dksX1_draw_4 8 rfl rfl)
theorem dX1_draw_107 : decode cX1_draw 107 = .ok (.iload 7, 2) := dk_21 7 (dk_at dksX1_draw_4 11 rfl rfl)
theorem dX1_draw_109 : decode cX1_draw 109 = .ok (.aload 6, 2) := dk_25 6 (dk_at dksX1_draw_4 13 rfl rfl)
theorem dX1_draw_111 : decode cX1_draw 111 = .ok (.aload 9, 2) := dk_25 9 (dk_at dksX1_draw_4 15 rfl rfl)
theorem dX1_draw_113 : decode cX1_draw 113 = .ok (.invokeinterface 93 2, 5) := by decide +kernel
theorem dX1_draw_118 : decode cX1_draw 118 = .ok (.iand, 1) := dk_126 (dk_at dksX1_draw_4 22 rfl rfl)
theorem dX1_draw_119 : decode cX1_draw 119 = .ok (.istore 7, 2) := dk_54 7 (dk_at dksX1_draw_5 0 rfl rfl)
theorem dX1_draw_121 : decode cX1_draw 121 = .ok (.goto (-47), 3) := dk_167 255 209 (dk_at dksX1_draw_5 2 rfl rfl)
theorem dX1_draw_124 : decode cX1_draw 124 = .ok (.aload 6, 2) := dk_25 6 (dk_at dksX1_draw_5 5 rfl rfl)
theorem dX1_draw_126 : decode cX1_draw 126 = .ok (.invokeinterface 13 1, 5) := by decide +kernel
theorem dX1_draw_131 : decode cX1_draw 131 = .ok (.istore 8, 2) := dk_54 8 (dk_at dksX1_draw_5 12 rfl rfl)
theorem dX1_draw_133 : decode cX1_draw 133 = .ok (.aload 5, 2) := dk_25 5 (dk_at dksX1_draw_5 14 rfl rfl)
theorem dX1_draw_135 : decode cX1_draw 135 = .ok (.invokevirtual 210, 3) := dk_182 0 210 (dk_at dksX1_draw_5 16 rfl rfl)
theorem dX1_draw_138 : decode cX1_draw 138 = .ok (.ifCond .ne 13, 3) := dk_154 0 13 (dk_at dksX1_draw_5 19 rfl rfl)
theorem dX1_draw_141 : decode cX1_draw 141 = .ok (.iload 8, 2) := dk_21 8 (dk_at dksX1_draw_5 22 rfl rfl)
theorem dX1_draw_143 : decode cX1_draw 143 = .ok (.iload_n 3, 1) := dk_29 (dk_at dksX1_draw_6 0 rfl rfl)
theorem dX1_draw_144 : decode cX1_draw 144 = .ok (.if_icmp .lt 7, 3) := dk_161 0 7 (dk_at dksX1_draw_6 1 rfl rfl)
theorem dX1_draw_147 : decode cX1_draw 147 = .ok (.iconst 1, 1) := dk_4 (dk_at dksX1_draw_6 4 rfl rfl)
theorem dX1_draw_148 : decode cX1_draw 148 = .ok (.goto 4, 3) := dk_167 0 4 (dk_at dksX1_draw_6 5 rfl rfl)
theorem dX1_draw_151 : decode cX1_draw 151 = .ok (.iconst 0, 1) := dk_3 (dk_at dksX1_draw_6 8 rfl rfl)
theorem dX1_draw_152 : decode cX1_draw 152 = .ok (.invokestatic 85, 3) := dk_184 0 85 (dk_at dksX1_draw_6 9 rfl rfl)
theorem dX1_draw_155 : decode cX1_draw 155 = .ok (.aload 5, 2) := dk_25 5 (dk_at dksX1_draw_6 12 rfl rfl)
theorem dX1_draw_157 : decode cX1_draw 157 = .ok (.getfield 207, 3) := dk_180 0 207 (dk_at dksX1_draw_6 14 rfl rfl)
theorem dX1_draw_160 : decode cX1_draw 160 = .ok (.iload_n 2, 1) := dk_28 (dk_at dksX1_draw_6 17 rfl rfl)
theorem dX1_draw_161 : decode cX1_draw 161 = .ok (.invokeinterface 29 2, 5) := by decide +kernel
theorem dX1_draw_166 : decode cX1_draw 166 = .ok (.checkcast 14, 3) := dk_192 0 14 (dk_at dksX1_draw_7 0 rfl rfl)
theorem dX1_draw_169 : decode cX1_draw 169 = .ok (.astore 9, 2) := dk_58 9 (dk_at dksX1_draw_7 3 rfl rfl)
theorem dX1_draw_171 : decode cX1_draw 171 = .ok (.aload 9, 2) := dk_25 9 (dk_at dksX1_draw_7 5 rfl rfl)
theorem dX1_draw_173 : decode cX1_draw 173 = .ok (.invokeinterface 72 1, 5) := by decide +kernel
theorem dX1_draw_178 : decode cX1_draw 178 = .ok (.iload 4, 2) := dk_21 4 (dk_at dksX1_draw_7 12 rfl rfl)
theorem dX1_draw_180 : decode cX1_draw 180 = .ok (.i2l, 1) := dk_133 (dk_at dksX1_draw_7 14 rfl rfl)
theorem dX1_draw_181 : decode cX1_draw 181 = .ok (.lstore 10, 2) := dk_55 10 (dk_at dksX1_draw_7 15 rfl rfl)
theorem dX1_draw_183 : decode cX1_draw 183 = .ok (.iconst 0, 1) := dk_3 (dk_at dksX1_draw_7 17 rfl rfl)
theorem dX1_draw_184 : decode cX1_draw 184 = .ok (.istore 12, 2) := dk_54 12 (dk_at dksX1_draw_7 18 rfl rfl)
theorem dX1_draw_186 : decode cX1_draw 186 = .ok (.iload 12, 2) := dk_21 12 (dk_at dksX1_draw_7 20 rfl rfl)
theorem dX1_draw_188 : decode cX1_draw 188 = .ok (.iload_n 3, 1) := dk_29 (dk_at dksX1_draw_7 22 rfl rfl)
theorem dX1_draw_189 : decode cX1_draw 189 = .ok (.if_icmp .ge 63, 3) := dk_162 0 63 (dk_at dksX1_draw_8 0 rfl rfl)
theorem dX1_draw_192 : decode cX1_draw 192 = .ok (.lload 10, 2) := dk_22 10 (dk_at dksX1_draw_8 3 rfl rfl)
theorem dX1_draw_194 : decode cX1_draw 194 = .ok (.ldc2_w 313, 3) := dk_20 1 57 (dk_at dksX1_draw_8 5 rfl rfl)
theorem dX1_draw_197 : decode cX1_draw 197 = .ok (.lmul, 1) := dk_105 (dk_at dksX1_draw_8 8 rfl rfl)
theorem dX1_draw_198 : decode cX1_draw 198 = .ok (.ldc2_w 315, 3) := dk_20 1 59 (dk_at dksX1_draw_8 9 rfl rfl)
theorem dX1_draw_201 : decode cX1_draw 201 = .ok (.ladd, 1) := dk_97 (dk_at dksX1_draw_8 12 rfl rfl)
theorem dX1_draw_202 : decode cX1_draw 202 = .ok (.ldc2_w 317, 3) := dk_20 1 61 (dk_at dksX1_draw_8 13 rfl rfl)
theorem dX1_draw_205 : decode cX1_draw 205 = .ok (.lrem, 1) := dk_113 (dk_at dksX1_draw_8 16 rfl rfl)
theorem dX1_draw_206 : decode cX1_draw 206 = .ok (.lstore 10, 2) := dk_55 10 (dk_at dksX1_draw_8 17 rfl rfl)
theorem dX1_draw_208 : decode cX1_draw 208 = .ok (.iload 7, 2) := dk_21 7 (dk_at dksX1_draw_8 19 rfl rfl)
theorem dX1_draw_210 : decode cX1_draw 210 = .ok (.aload 9, 2) := dk_25 9 (dk_at dksX1_draw_8 21 rfl rfl)
theorem dX1_draw_212 : decode cX1_draw 212 = .ok (.aload 6, 2) := dk_25 6 (dk_at dksX1_draw_9 0 rfl rfl)
theorem dX1_draw_214 : decode cX1_draw 214 = .ok (.lload 10, 2) := dk_22 10 (dk_at dksX1_draw_9 2 rfl rfl)
theorem dX1_draw_216 : decode cX1_draw 216 = .ok (.ldc2_w 319, 3) := dk_20 1 63 (dk_at dksX1_draw_9 4 rfl rfl)
theorem dX1_draw_219 : decode cX1_draw 219 = .ok (.ldiv, 1) := dk_109 (dk_at dksX1_draw_9 7 rfl rfl)
theorem dX1_draw_220 : decode cX1_draw 220 = .ok (.aload 6, 2) := dk_25 6 (dk_at dksX1_draw_9 8 rfl rfl)
theorem dX1_draw_222 : decode cX1_draw 222 = .ok (.invokeinterface 13 1, 5) := by decide +kernel
theorem dX1_draw_227 : decode cX1_draw 227 = .ok (.i2l, 1) := dk_133 (dk_at dksX1_draw_9 15 rfl rfl)
theorem dX1_draw_228 : decode cX1_draw 228 = .ok (.lrem, 1) := dk_113 (dk_at dksX1_draw_9 16 rfl rfl)
theorem dX1_draw_229 : decode cX1_draw 229 = .ok (.l2i, 1) := dk_136 (dk_at dksX1_draw_9 17 rfl rfl)
theorem dX1_draw_230 : decode cX1_draw 230 = .ok (.invokeinterface 321 2, 5) := by decide +kernel
theorem dX1_draw_235 : decode cX1_draw 235 = .ok (.checkcast 88, 3) := dk_192 0 88 (dk_at dksX1_draw_10 0 rfl rfl)
theorem dX1_draw_238 : decode cX1_draw 238 = .ok (.invokeinterface 93 2, 5) := by decide +kernel
theorem dX1_draw_243 : decode cX1_draw 243 = .ok (.iand, 1) := dk_126 (dk_at dksX1_draw_10 8 rfl rfl)
theorem dX1_draw_244 : decode cX1_draw 244 = .ok (.istore 7, 2) := dk_54 7 (dk_at dksX1_draw_10 9 rfl rfl)
theorem dX1_draw_246 : decode cX1_draw 246 = .ok (.iinc 12 1, 3) := dk_132 12 1 (dk_at dksX1_draw_10 11 rfl rfl)
theorem dX1_draw_249 : decode cX1_draw 249 = .ok (.goto (-63), 3) := dk_167 255 193 (dk_at dksX1_draw_10 14 rfl rfl)
theorem dX1_draw_252 : decode cX1_draw 252 = .ok (.iload 8, 2) := dk_21 8 (dk_at dksX1_draw_10 17 rfl rfl)
theorem dX1_draw_254 : decode cX1_draw 254 = .ok (.ireturn, 1) := dk_172 (dk_at dksX1_draw_10 19 rfl rfl)
abbrev cX1_isCandidate : ByteArray := prog_1_method_30_code
def yX1_isCandidate : MethodName := ⟨RX1, "isCandidate", "(LScrutineery$Person;LScrutineery$Event;)Z"⟩
def dkwX1_isCandidate_7 : List UInt8 := [167, 255, 139, 29, 172]
abbrev dktX1_isCandidate_7 : List UInt8 := dkwX1_isCandidate_7 ++ []
def dkwX1_isCandidate_6 : List UInt8 := [154, 0, 20, 42, 25, 6, 180, 0, 244, 43, 182, 0, 151, 154, 0, 7, 4, 167, 0, 4, 3, 126, 62]
abbrev dktX1_isCandidate_6 : List UInt8 := dkwX1_isCandidate_6 ++ dktX1_isCandidate_7
def dkwX1_isCandidate_5 : List UInt8 := [25, 6, 180, 0, 244, 185, 0, 107, 2, 0, 154, 0, 33, 42, 25, 6, 180, 0, 237, 43, 182, 0, 151]
abbrev dktX1_isCandidate_5 : List UInt8 := dkwX1_isCandidate_5 ++ dktX1_isCandidate_6
def dkwX1_isCandidate_4 : List UInt8 := [154, 0, 67, 43, 180, 0, 104, 25, 6, 180, 0, 237, 185, 0, 107, 2, 0, 154, 0, 50, 43, 180, 0, 104]
abbrev dktX1_isCandidate_4 : List UInt8 := dkwX1_isCandidate_4 ++ dktX1_isCandidate_5
def dkwX1_isCandidate_3 : List UInt8 := [180, 1, 28, 153, 0, 6, 167, 255, 226, 25, 5, 180, 1, 49, 58, 6, 29, 25, 6, 43, 182, 0, 177]
abbrev dktX1_isCandidate_3 : List UInt8 := dkwX1_isCandidate_3 ++ dktX1_isCandidate_4
def dkwX1_isCandidate_2 : List UInt8 := [25, 4, 185, 0, 162, 1, 0, 153, 0, 113, 25, 4, 185, 0, 167, 1, 0, 192, 1, 9, 58, 5, 25, 5]
abbrev dktX1_isCandidate_2 : List UInt8 := dkwX1_isCandidate_2 ++ dktX1_isCandidate_3
def dkwX1_isCandidate_1 : List UInt8 := [42, 180, 0, 75, 162, 0, 7, 4, 167, 0, 4, 3, 62, 44, 180, 0, 189, 185, 0, 158, 1, 0, 58, 4]
abbrev dktX1_isCandidate_1 : List UInt8 := dkwX1_isCandidate_1 ++ dktX1_isCandidate_2
def dkwX1_isCandidate_0 : List UInt8 := [43, 180, 0, 101, 44, 180, 0, 195, 7, 161, 0, 7, 5, 167, 0, 4, 4, 161, 0, 18, 43, 180, 0, 138]
abbrev dktX1_isCandidate_0 : List UInt8 := dkwX1_isCandidate_0 ++ dktX1_isCandidate_1
theorem dksX1_isCandidate_0 : cX1_isCandidate.data.toList.drop 0 = dktX1_isCandidate_0 := by decide +kernel
theorem dksX1_isCandidate_1 : cX1_isCandidate.data.toList.drop 24 = dktX1_isCandidate_1 := dk_seg dksX1_isCandidate_0 24 rfl rfl
theorem dksX1_isCandidate_2 : cX1_isCandidate.data.toList.drop 48 = dktX1_isCandidate_2 := dk_seg dksX1_isCandidate_1 24 rfl rfl
theorem dksX1_isCandidate_3 : cX1_isCandidate.data.toList.drop 72 = dktX1_isCandidate_3 := dk_seg dksX1_isCandidate_2 24 rfl rfl
theorem dksX1_isCandidate_4 : cX1_isCandidate.data.toList.drop 95 = dktX1_isCandidate_4 := dk_seg dksX1_isCandidate_3 23 rfl rfl
theorem dksX1_isCandidate_5 : cX1_isCandidate.data.toList.drop 119 = dktX1_isCandidate_5 := dk_seg dksX1_isCandidate_4 24 rfl rfl
theorem dksX1_isCandidate_6 : cX1_isCandidate.data.toList.drop 142 = dktX1_isCandidate_6 := dk_seg dksX1_isCandidate_5 23 rfl rfl
theorem dksX1_isCandidate_7 : cX1_isCandidate.data.toList.drop 165 = dktX1_isCandidate_7 := dk_seg dksX1_isCandidate_6 23 rfl rfl
theorem dX1_isCandidate_0 : decode cX1_isCandidate 0 = .ok (.aload_n 1, 1) := dk_43 (dk_at dksX1_isCandidate_0 0 rfl rfl)
theorem dX1_isCandidate_1 : decode cX1_isCandidate 1 = .ok (.getfield 101, 3) := dk_180 0 101 (dk_at dksX1_isCandidate_0 1 rfl rfl)
theorem dX1_isCandidate_4 : decode cX1_isCandidate 4 = .ok (.aload_n 2, 1) := dk_44 (dk_at dksX1_isCandidate_0 4 rfl rfl)
theorem dX1_isCandidate_5 : decode cX1_isCandidate 5 = .ok (.getfield 195, 3) := dk_180 0 195 (dk_at dksX1_isCandidate_0 5 rfl rfl)
theorem dX1_isCandidate_8 : decode cX1_isCandidate 8 = .ok (.iconst 4, 1) := dk_7 (dk_at dksX1_isCandidate_0 8 rfl rfl)
theorem dX1_isCandidate_9 : decode cX1_isCandidate 9 = .ok (.if_icmp .lt 7, 3) := dk_161 0 7 (dk_at dksX1_isCandidate_0 9 rfl rfl)
theorem dX1_isCandidate_12 : decode cX1_isCandidate 12 = .ok (.iconst 2, 1) := dk_5 (dk_at dksX1_isCandidate_0 12 rfl rfl)
theorem dX1_isCandidate_13 : decode cX1_isCandidate 13 = .ok (.goto 4, 3) := dk_167 0 4 (dk_at dksX1_isCandidate_0 13 rfl rfl)
theorem dX1_isCandidate_16 : decode cX1_isCandidate 16 = .ok (.iconst 1, 1) := dk_4 (dk_at dksX1_isCandidate_0 16 rfl rfl)
theorem dX1_isCandidate_17 : decode cX1_isCandidate 17 = .ok (.if_icmp .lt 18, 3) := dk_161 0 18 (dk_at dksX1_isCandidate_0 17 rfl rfl)
theorem dX1_isCandidate_20 : decode cX1_isCandidate 20 = .ok (.aload_n 1, 1) := dk_43 (dk_at dksX1_isCandidate_0 20 rfl rfl)
theorem dX1_isCandidate_21 : decode cX1_isCandidate 21 = .ok (.getfield 138, 3) := dk_180 0 138 (dk_at dksX1_isCandidate_0 21 rfl rfl)
theorem dX1_isCandidate_24 : decode cX1_isCandidate 24 = .ok (.aload_n 0, 1) := dk_42 (dk_at dksX1_isCandidate_1 0 rfl rfl)
theorem dX1_isCandidate_25 : decode cX1_isCandidate 25 = .ok (.getfield 75, 3) := dk_180 0 75 (dk_at dksX1_isCandidate_1 1 rfl rfl)
theorem dX1_isCandidate_28 : decode cX1_isCandidate 28 = .ok (.if_icmp .ge 7, 3) := dk_162 0 7 (dk_at dksX1_isCandidate_1 4 rfl rfl)
theorem dX1_isCandidate_31 : decode cX1_isCandidate 31 = .ok (.iconst 1, 1) := dk_4 (dk_at dksX1_isCandidate_1 7 rfl rfl)
theorem dX1_isCandidate_32 : decode cX1_isCandidate 32 = .ok (.goto 4, 3) := dk_167 0 4 (dk_at dksX1_isCandidate_1 8 rfl rfl)
theorem dX1_isCandidate_35 : decode cX1_isCandidate 35 = .ok (.iconst 0, 1) := dk_3 (dk_at dksX1_isCandidate_1 11 rfl rfl)
theorem dX1_isCandidate_36 : decode cX1_isCandidate 36 = .ok (.istore_n 3, 1) := dk_62 (dk_at dksX1_isCandidate_1 12 rfl rfl)
theorem dX1_isCandidate_37 : decode cX1_isCandidate 37 = .ok (.aload_n 2, 1) := dk_44 (dk_at dksX1_isCandidate_1 13 rfl rfl)
theorem dX1_isCandidate_38 : decode cX1_isCandidate 38 = .ok (.getfield 189, 3) := dk_180 0 189 (dk_at dksX1_isCandidate_1 14 rfl rfl)
theorem dX1_isCandidate_41 : decode cX1_isCandidate 41 = .ok (.invokeinterface 158 1, 5) := by decide +kernel
theorem dX1_isCandidate_46 : decode cX1_isCandidate 46 = .ok (.astore 4, 2) := dk_58 4 (dk_at dksX1_isCandidate_1 22 rfl rfl)
theorem dX1_isCandidate_48 : decode cX1_isCandidate 48 = .ok (.aload 4, 2) := dk_25 4 (dk_at dksX1_isCandidate_2 0 rfl rfl)
theorem dX1_isCandidate_50 : decode cX1_isCandidate 50 = .ok (.invokeinterface 162 1, 5) := by decide +kernel
theorem dX1_isCandidate_55 : decode cX1_isCandidate 55 = .ok (.ifCond .eq 113, 3) := dk_153 0 113 (dk_at dksX1_isCandidate_2 7 rfl rfl)
theorem dX1_isCandidate_58 : decode cX1_isCandidate 58 = .ok (.aload 4, 2) := dk_25 4 (dk_at dksX1_isCandidate_2 10 rfl rfl)
theorem dX1_isCandidate_60 : decode cX1_isCandidate 60 = .ok (.invokeinterface 167 1, 5) := by decide +kernel
theorem dX1_isCandidate_65 : decode cX1_isCandidate 65 = .ok (.checkcast 265, 3) := dk_192 1 9 (dk_at dksX1_isCandidate_2 17 rfl rfl)
theorem dX1_isCandidate_68 : decode cX1_isCandidate 68 = .ok (.astore 5, 2) := dk_58 5 (dk_at dksX1_isCandidate_2 20 rfl rfl)
theorem dX1_isCandidate_70 : decode cX1_isCandidate 70 = .ok (.aload 5, 2) := dk_25 5 (dk_at dksX1_isCandidate_2 22 rfl rfl)
theorem dX1_isCandidate_72 : decode cX1_isCandidate 72 = .ok (.getfield 284, 3) := dk_180 1 28 (dk_at dksX1_isCandidate_3 0 rfl rfl)
theorem dX1_isCandidate_75 : decode cX1_isCandidate 75 = .ok (.ifCond .eq 6, 3) := dk_153 0 6 (dk_at dksX1_isCandidate_3 3 rfl rfl)
theorem dX1_isCandidate_78 : decode cX1_isCandidate 78 = .ok (.goto (-30), 3) := dk_167 255 226 (dk_at dksX1_isCandidate_3 6 rfl rfl)
theorem dX1_isCandidate_81 : decode cX1_isCandidate 81 = .ok (.aload 5, 2) := dk_25 5 (dk_at dksX1_isCandidate_3 9 rfl rfl)
theorem dX1_isCandidate_83 : decode cX1_isCandidate 83 = .ok (.getfield 305, 3) := dk_180 1 49 (dk_at dksX1_isCandidate_3 11 rfl rfl)
theorem dX1_isCandidate_86 : decode cX1_isCandidate 86 = .ok (.astore 6, 2) := dk_58 6 (dk_at dksX1_isCandidate_3 14 rfl rfl)
theorem dX1_isCandidate_88 : decode cX1_isCandidate 88 = .ok (.iload_n 3, 1) := dk_29 (dk_at dksX1_isCandidate_3 16 rfl rfl)
theorem dX1_isCandidate_89 : decode cX1_isCandidate 89 = .ok (.aload 6, 2) := dk_25 6 (dk_at dksX1_isCandidate_3 17 rfl rfl)
theorem dX1_isCandidate_91 : decode cX1_isCandidate 91 = .ok (.aload_n 1, 1) := dk_43 (dk_at dksX1_isCandidate_3 19 rfl rfl)
theorem dX1_isCandidate_92 : decode cX1_isCandidate 92 = .ok (.invokevirtual 177, 3) := dk_182 0 177 (dk_at dksX1_isCandidate_3 20 rfl rfl)
theorem dX1_isCandidate_95 : decode cX1_isCandidate 95 = .ok (.ifCond .ne 67, 3) := dk_154 0 67 (dk_at dksX1_isCandidate_4 0 rfl rfl)
theorem dX1_isCandidate_98 : decode cX1_isCandidate 98 = .ok (.aload_n 1, 1) := dk_43 (dk_at dksX1_isCandidate_4 3 rfl rfl)
theorem dX1_isCandidate_99 : decode cX1_isCandidate 99 = .ok (.getfield 104, 3) := dk_180 0 104 (dk_at dksX1_isCandidate_4 4 rfl rfl)
theorem dX1_isCandidate_102 : decode cX1_isCandidate 102 = .ok (.aload 6, 2) := dk_25 6 (dk_at dksX1_isCandidate_4 7 rfl rfl)
theorem dX1_isCandidate_104 : decode cX1_isCandidate 104 = .ok (.getfield 237, 3) := dk_180 0 237 (dk_at dksX1_isCandidate_4 9 rfl rfl)
theorem dX1_isCandidate_107 : decode cX1_isCandidate 107 = .ok (.invokeinterface 107 2, 5) := by decide +kernel
theorem dX1_isCandidate_112 : decode cX1_isCandidate 112 = .ok (.ifCond .ne 50, 3) := dk_154 0 50 (dk_at dksX1_isCandidate_4 17 rfl rfl)
theorem dX1_isCandidate_115 : decode cX1_isCandidate 115 = .ok (.aload_n 1, 1) := dk_43 (dk_at dksX1_isCandidate_4 20 rfl rfl)
theorem dX1_isCandidate_116 : decode cX1_isCandidate 116 = .ok (.getfield 104, 3) := dk_180 0 104 (dk_at dksX1_isCandidate_4 21 rfl rfl)
theorem dX1_isCandidate_119 : decode cX1_isCandidate 119 = .ok (.aload 6, 2) := dk_25 6 (dk_at dksX1_isCandidate_5 0 rfl rfl)
theorem dX1_isCandidate_121 : decode cX1_isCandidate 121 = .ok (.getfield 244, 3) := dk_180 0 244 (dk_at dksX1_isCandidate_5 2 rfl rfl)
theorem dX1_isCandidate_124 : decode cX1_isCandidate 124 = .ok (.invokeinterface 107 2, 5) := by decide +kernel
theorem dX1_isCandidate_129 : decode cX1_isCandidate 129 = .ok (.ifCond .ne 33, 3) := dk_154 0 33 (dk_at dksX1_isCandidate_5 10 rfl rfl)
theorem dX1_isCandidate_132 : decode cX1_isCandidate 132 = .ok (.aload_n 0, 1) := dk_42 (dk_at dksX1_isCandidate_5 13 rfl rfl)
theorem dX1_isCandidate_133 : decode cX1_isCandidate 133 = .ok (.aload 6, 2) := dk_25 6 (dk_at dksX1_isCandidate_5 14 rfl rfl)
theorem dX1_isCandidate_135 : decode cX1_isCandidate 135 = .ok (.getfield 237, 3) := dk_180 0 237 (dk_at dksX1_isCandidate_5 16 rfl rfl)
theorem dX1_isCandidate_138 : decode cX1_isCandidate 138 = .ok (.aload_n 1, 1) := dk_43 (dk_at dksX1_isCandidate_5 19 rfl rfl)
theorem dX1_isCandidate_139 : decode cX1_isCandidate 139 = .ok (.invokevirtual 151, 3) := dk_182 0 151 (dk_at dksX1_isCandidate_5 20 rfl rfl)
theorem dX1_isCandidate_142 : decode cX1_isCandidate 142 = .ok (.ifCond .ne 20, 3) := dk_154 0 20 (dk_at dksX1_isCandidate_6 0 rfl rfl)
theorem dX1_isCandidate_145 : decode cX1_isCandidate 145 = .ok (.aload_n 0, 1) := dk_42 (dk_at dksX1_isCandidate_6 3 rfl rfl)
theorem dX1_isCandidate_146 : decode cX1_isCandidate 146 = .ok (.aload 6, 2) := dk_25 6 (dk_at dksX1_isCandidate_6 4 rfl rfl)
theorem dX1_isCandidate_148 : decode cX1_isCandidate 148 = .ok (.getfield 244, 3) := dk_180 0 244 (dk_at dksX1_isCandidate_6 6 rfl rfl)
theorem dX1_isCandidate_151 : decode cX1_isCandidate 151 = .ok (.aload_n 1, 1) := dk_43 (dk_at dksX1_isCandidate_6 9 rfl rfl)
theorem dX1_isCandidate_152 : decode cX1_isCandidate 152 = .ok (.invokevirtual 151, 3) := dk_182 0 151 (dk_at dksX1_isCandidate_6 10 rfl rfl)
theorem dX1_isCandidate_155 : decode cX1_isCandidate 155 = .ok (.ifCond .ne 7, 3) := dk_154 0 7 (dk_at dksX1_isCandidate_6 13 rfl rfl)
theorem dX1_isCandidate_158 : decode cX1_isCandidate 158 = .ok (.iconst 1, 1) := dk_4 (dk_at dksX1_isCandidate_6 16 rfl rfl)
theorem dX1_isCandidate_159 : decode cX1_isCandidate 159 = .ok (.goto 4, 3) := dk_167 0 4 (dk_at dksX1_isCandidate_6 17 rfl rfl)
theorem dX1_isCandidate_162 : decode cX1_isCandidate 162 = .ok (.iconst 0, 1) := dk_3 (dk_at dksX1_isCandidate_6 20 rfl rfl)
theorem dX1_isCandidate_163 : decode cX1_isCandidate 163 = .ok (.iand, 1) := dk_126 (dk_at dksX1_isCandidate_6 21 rfl rfl)
theorem dX1_isCandidate_164 : decode cX1_isCandidate 164 = .ok (.istore_n 3, 1) := dk_62 (dk_at dksX1_isCandidate_6 22 rfl rfl)
theorem dX1_isCandidate_165 : decode cX1_isCandidate 165 = .ok (.goto (-117), 3) := dk_167 255 139 (dk_at dksX1_isCandidate_7 0 rfl rfl)
theorem dX1_isCandidate_168 : decode cX1_isCandidate 168 = .ok (.iload_n 3, 1) := dk_29 (dk_at dksX1_isCandidate_7 3 rfl rfl)
theorem dX1_isCandidate_169 : decode cX1_isCandidate 169 = .ok (.ireturn, 1) := dk_172 (dk_at dksX1_isCandidate_7 4 rfl rfl)
abbrev cX1_mark : ByteArray := prog_1_method_34_code
def yX1_mark : MethodName := ⟨RX1, "mark", "(IIII)I"⟩
def dkwX1_mark_4 : List UInt8 := [180, 1, 111, 28, 50, 29, 25, 6, 83, 25, 5, 4, 181, 1, 115, 25, 5, 182, 1, 118, 172]
abbrev dktX1_mark_4 : List UInt8 := dkwX1_mark_4 ++ []
def dkwX1_mark_3 : List UInt8 := [180, 1, 111, 28, 50, 29, 50, 199, 0, 7, 3, 167, 0, 4, 4, 96, 181, 1, 108, 25, 5, 180, 1, 14]
abbrev dktX1_mark_3 : List UInt8 := dkwX1_mark_3 ++ dktX1_mark_4
def dkwX1_mark_2 : List UInt8 := [154, 0, 7, 4, 167, 0, 4, 3, 184, 0, 85, 25, 5, 89, 180, 1, 108, 25, 5, 180, 1, 14]
abbrev dktX1_mark_2 : List UInt8 := dkwX1_mark_2 ++ dktX1_mark_3
def dkwX1_mark_1 : List UInt8 := [184, 1, 101, 58, 6, 25, 6, 198, 0, 7, 4, 167, 0, 4, 3, 184, 0, 82, 25, 5, 182, 1, 105]
abbrev dktX1_mark_1 : List UInt8 := dkwX1_mark_1 ++ dktX1_mark_2
def dkwX1_mark_0 : List UInt8 := [42, 180, 0, 49, 27, 184, 0, 97, 192, 0, 184, 58, 5, 25, 5, 28, 29, 184, 1, 97, 25, 5, 21, 4]
abbrev dktX1_mark_0 : List UInt8 := dkwX1_mark_0 ++ dktX1_mark_1
theorem dksX1_mark_0 : cX1_mark.data.toList.drop 0 = dktX1_mark_0 := by decide +kernel
theorem dksX1_mark_1 : cX1_mark.data.toList.drop 24 = dktX1_mark_1 := dk_seg dksX1_mark_0 24 rfl rfl
theorem dksX1_mark_2 : cX1_mark.data.toList.drop 47 = dktX1_mark_2 := dk_seg dksX1_mark_1 23 rfl rfl
theorem dksX1_mark_3 : cX1_mark.data.toList.drop 69 = dktX1_mark_3 := dk_seg dksX1_mark_2 22 rfl rfl
theorem dksX1_mark_4 : cX1_mark.data.toList.drop 93 = dktX1_mark_4 := dk_seg dksX1_mark_3 24 rfl rfl
theorem dX1_mark_0 : decode cX1_mark 0 = .ok (.aload_n 0, 1) := dk_42 (dk_at dksX1_mark_0 0 rfl rfl)
theorem dX1_mark_1 : decode cX1_mark 1 = .ok (.getfield 49, 3) := dk_180 0 49 (dk_at dksX1_mark_0 1 rfl rfl)
theorem dX1_mark_4 : decode cX1_mark 4 = .ok (.iload_n 1, 1) := dk_27 (dk_at dksX1_mark_0 4 rfl rfl)
theorem dX1_mark_5 : decode cX1_mark 5 = .ok (.invokestatic 97, 3) := dk_184 0 97 (dk_at dksX1_mark_0 5 rfl rfl)
theorem dX1_mark_8 : decode cX1_mark 8 = .ok (.checkcast 184, 3) := dk_192 0 184 (dk_at dksX1_mark_0 8 rfl rfl)
theorem dX1_mark_11 : decode cX1_mark 11 = .ok (.astore 5, 2) := dk_58 5 (dk_at dksX1_mark_0 11 rfl rfl)
theorem dX1_mark_13 : decode cX1_mark 13 = .ok (.aload 5, 2) := dk_25 5 (dk_at dksX1_mark_0 13 rfl rfl)
theorem dX1_mark_15 : decode cX1_mark 15 = .ok (.iload_n 2, 1) := dk_28 (dk_at dksX1_mark_0 15 rfl rfl)
theorem dX1_mark_16 : decode cX1_mark 16 = .ok (.iload_n 3, 1) := dk_29 (dk_at dksX1_mark_0 16 rfl rfl)
theorem dX1_mark_17 : decode cX1_mark 17 = .ok (.invokestatic 353, 3) := dk_184 1 97 (dk_at dksX1_mark_0 17 rfl rfl)
theorem dX1_mark_20 : decode cX1_mark 20 = .ok (.aload 5, 2) := dk_25 5 (dk_at dksX1_mark_0 20 rfl rfl)
theorem dX1_mark_22 : decode cX1_mark 22 = .ok (.iload 4, 2) := dk_21 4 (dk_at dksX1_mark_0 22 rfl rfl)
theorem dX1_mark_24 : decode cX1_mark 24 = .ok (.invokestatic 357, 3) := dk_184 1 101 (dk_at dksX1_mark_1 0 rfl rfl)
theorem dX1_mark_27 : decode cX1_mark 27 = .ok (.astore 6, 2) := dk_58 6 (dk_at dksX1_mark_1 3 rfl rfl)
theorem dX1_mark_29 : decode cX1_mark 29 = .ok (.aload 6, 2) := dk_25 6 (dk_at dksX1_mark_1 5 rfl rfl)
theorem dX1_mark_31 : decode cX1_mark 31 = .ok (.ifnull 7, 3) := dk_198 0 7 (dk_at dksX1_mark_1 7 rfl rfl)
theorem dX1_mark_34 : decode cX1_mark 34 = .ok (.iconst 1, 1) := dk_4 (dk_at dksX1_mark_1 10 rfl rfl)
theorem dX1_mark_35 : decode cX1_mark 35 = .ok (.goto 4, 3) := dk_167 0 4 (dk_at dksX1_mark_1 11 rfl rfl)
theorem dX1_mark_38 : decode cX1_mark 38 = .ok (.iconst 0, 1) := dk_3 (dk_at dksX1_mark_1 14 rfl rfl)
theorem dX1_mark_39 : decode cX1_mark 39 = .ok (.invokestatic 82, 3) := dk_184 0 82 (dk_at dksX1_mark_1 15 rfl rfl)
theorem dX1_mark_42 : decode cX1_mark 42 = .ok (.aload 5, 2) := dk_25 5 (dk_at dksX1_mark_1 18 rfl rfl)
theorem dX1_mark_44 : decode cX1_mark 44 = .ok (.invokevirtual 361, 3) := dk_182 1 105 (dk_at dksX1_mark_1 20 rfl rfl)
theorem dX1_mark_47 : decode cX1_mark 47 = .ok (.ifCond .ne 7, 3) := dk_154 0 7 (dk_at dksX1_mark_2 0 rfl rfl)
theorem dX1_mark_50 : decode cX1_mark 50 = .ok (.iconst 1, 1) := dk_4 (dk_at dksX1_mark_2 3 rfl rfl)
theorem dX1_mark_51 : decode cX1_mark 51 = .ok (.goto 4, 3) := dk_167 0 4 (dk_at dksX1_mark_2 4 rfl rfl)
theorem dX1_mark_54 : decode cX1_mark 54 = .ok (.iconst 0, 1) := dk_3 (dk_at dksX1_mark_2 7 rfl rfl)
theorem dX1_mark_55 : decode cX1_mark 55 = .ok (.invokestatic 85, 3) := dk_184 0 85 (dk_at dksX1_mark_2 8 rfl rfl)
theorem dX1_mark_58 : decode cX1_mark 58 = .ok (.aload 5, 2) := dk_25 5 (dk_at dksX1_mark_2 11 rfl rfl)
theorem dX1_mark_60 : decode cX1_mark 60 = .ok (.dup, 1) := dk_89 (dk_at dksX1_mark_2 13 rfl rfl)
theorem dX1_mark_61 : decode cX1_mark 61 = .ok (.getfield 364, 3) := dk_180 1 108 (dk_at dksX1_mark_2 14 rfl rfl)
theorem dX1_mark_64 : decode cX1_mark 64 = .ok (.aload 5, 2) := dk_25 5 (dk_at dksX1_mark_2 17 rfl rfl)
theorem dX1_mark_66 : decode cX1_mark 66 = .ok (.getfield 270, 3) := dk_180 1 14 (dk_at dksX1_mark_2 19 rfl rfl)
theorem dX1_mark_69 : decode cX1_mark 69 = .ok (.getfield 367, 3) := dk_180 1 111 (dk_at dksX1_mark_3 0 rfl rfl)
theorem dX1_mark_72 : decode cX1_mark 72 = .ok (.iload_n 2, 1) := dk_28 (dk_at dksX1_mark_3 3 rfl rfl)
theorem dX1_mark_73 : decode cX1_mark 73 = .ok (.aaload, 1) := dk_50 (dk_at dksX1_mark_3 4 rfl rfl)
theorem dX1_mark_74 : decode cX1_mark 74 = .ok (.iload_n 3, 1) := dk_29 (dk_at dksX1_mark_3 5 rfl rfl)
theorem dX1_mark_75 : decode cX1_mark 75 = .ok (.aaload, 1) := dk_50 (dk_at dksX1_mark_3 6 rfl rfl)
theorem dX1_mark_76 : decode cX1_mark 76 = .ok (.ifnonnull 7, 3) := dk_199 0 7 (dk_at dksX1_mark_3 7 rfl rfl)
theorem dX1_mark_79 : decode cX1_mark 79 = .ok (.iconst 0, 1) := dk_3 (dk_at dksX1_mark_3 10 rfl rfl)
theorem dX1_mark_80 : decode cX1_mark 80 = .ok (.goto 4, 3) := dk_167 0 4 (dk_at dksX1_mark_3 11 rfl rfl)
theorem dX1_mark_83 : decode cX1_mark 83 = .ok (.iconst 1, 1) := dk_4 (dk_at dksX1_mark_3 14 rfl rfl)
theorem dX1_mark_84 : decode cX1_mark 84 = .ok (.iadd, 1) := dk_96 (dk_at dksX1_mark_3 15 rfl rfl)
theorem dX1_mark_85 : decode cX1_mark 85 = .ok (.putfield 364, 3) := dk_181 1 108 (dk_at dksX1_mark_3 16 rfl rfl)
theorem dX1_mark_88 : decode cX1_mark 88 = .ok (.aload 5, 2) := dk_25 5 (dk_at dksX1_mark_3 19 rfl rfl)
theorem dX1_mark_90 : decode cX1_mark 90 = .ok (.getfield 270, 3) := dk_180 1 14 (dk_at dksX1_mark_3 21 rfl rfl)
theorem dX1_mark_93 : decode cX1_mark 93 = .ok (.getfield 367, 3) := dk_180 1 111 (dk_at dksX1_mark_4 0 rfl rfl)
theorem dX1_mark_96 : decode cX1_mark 96 = .ok (.iload_n 2, 1) := dk_28 (dk_at dksX1_mark_4 3 rfl rfl)
theorem dX1_mark_97 : decode cX1_mark 97 = .ok (.aaload, 1) := dk_50 (dk_at dksX1_mark_4 4 rfl rfl)
theorem dX1_mark_98 : decode cX1_mark 98 = .ok (.iload_n 3, 1) := dk_29 (dk_at dksX1_mark_4 5 rfl rfl)
theorem dX1_mark_99 : decode cX1_mark 99 = .ok (.aload 6, 2) := dk_25 6 (dk_at dksX1_mark_4 6 rfl rfl)
theorem dX1_mark_101 : decode cX1_mark 101 = .ok (.aastore, 1) := dk_83 (dk_at dksX1_mark_4 8 rfl rfl)
theorem dX1_mark_102 : decode cX1_mark 102 = .ok (.aload 5, 2) := dk_25 5 (dk_at dksX1_mark_4 9 rfl rfl)
theorem dX1_mark_104 : decode cX1_mark 104 = .ok (.iconst 1, 1) := dk_4 (dk_at dksX1_mark_4 11 rfl rfl)
theorem dX1_mark_105 : decode cX1_mark 105 = .ok (.putfield 371, 3) := dk_181 1 115 (dk_at dksX1_mark_4 12 rfl rfl)
theorem dX1_mark_108 : decode cX1_mark 108 = .ok (.aload 5, 2) := dk_25 5 (dk_at dksX1_mark_4 15 rfl rfl)
theorem dX1_mark_110 : decode cX1_mark 110 = .ok (.invokevirtual 374, 3) := dk_182 1 118 (dk_at dksX1_mark_4 17 rfl rfl)
theorem dX1_mark_113 : decode cX1_mark 113 = .ok (.ireturn, 1) := dk_172 (dk_at dksX1_mark_4 20 rfl rfl)
abbrev cX1_requireJudge : ByteArray := prog_1_method_32_code
def yX1_requireJudge : MethodName := ⟨RX1, "requireJudge", "(LScrutineery$Event;II)V"⟩
def dkwX1_requireJudge_1 : List UInt8 := [185, 0, 13, 1, 0, 4, 100, 184, 0, 19, 153, 0, 7, 4, 167, 0, 4, 3, 184, 0, 25, 177]
abbrev dktX1_requireJudge_1 : List UInt8 := dkwX1_requireJudge_1 ++ []
def dkwX1_requireJudge_0 : List UInt8 := [27, 3, 42, 180, 1, 67, 4, 100, 184, 0, 19, 153, 0, 27, 28, 3, 42, 27, 182, 1, 70]
abbrev dktX1_requireJudge_0 : List UInt8 := dkwX1_requireJudge_0 ++ dktX1_requireJudge_1
theorem dksX1_requireJudge_0 : cX1_requireJudge.data.toList.drop 0 = dktX1_requireJudge_0 := by decide +kernel
theorem dksX1_requireJudge_1 : cX1_requireJudge.data.toList.drop 21 = dktX1_requireJudge_1 := dk_seg dksX1_requireJudge_0 21 rfl rfl
theorem dX1_requireJudge_0 : decode cX1_requireJudge 0 = .ok (.iload_n 1, 1) := dk_27 (dk_at dksX1_requireJudge_0 0 rfl rfl)
theorem dX1_requireJudge_1 : decode cX1_requireJudge 1 = .ok (.iconst 0, 1) := dk_3 (dk_at dksX1_requireJudge_0 1 rfl rfl)
theorem dX1_requireJudge_2 : decode cX1_requireJudge 2 = .ok (.aload_n 0, 1) := dk_42 (dk_at dksX1_requireJudge_0 2 rfl rfl)
theorem dX1_requireJudge_3 : decode cX1_requireJudge 3 = .ok (.getfield 323, 3) := dk_180 1 67 (dk_at dksX1_requireJudge_0 3 rfl rfl)
theorem dX1_requireJudge_6 : decode cX1_requireJudge 6 = .ok (.iconst 1, 1) := dk_4 (dk_at dksX1_requireJudge_0 6 rfl rfl)
theorem dX1_requireJudge_7 : decode cX1_requireJudge 7 = .ok (.isub, 1) := dk_100 (dk_at dksX1_requireJudge_0 7 rfl rfl)
theorem dX1_requireJudge_8 : decode cX1_requireJudge 8 = .ok (.invokestatic 19, 3) := dk_184 0 19 (dk_at dksX1_requireJudge_0 8 rfl rfl)
theorem dX1_requireJudge_11 : decode cX1_requireJudge 11 = .ok (.ifCond .eq 27, 3) := dk_153 0 27 (dk_at dksX1_requireJudge_0 11 rfl rfl)
theorem dX1_requireJudge_14 : decode cX1_requireJudge 14 = .ok (.iload_n 2, 1) := dk_28 (dk_at dksX1_requireJudge_0 14 rfl rfl)
theorem dX1_requireJudge_15 : decode cX1_requireJudge 15 = .ok (.iconst 0, 1) := dk_3 (dk_at dksX1_requireJudge_0 15 rfl rfl)
theorem dX1_requireJudge_16 : decode cX1_requireJudge 16 = .ok (.aload_n 0, 1) := dk_42 (dk_at dksX1_requireJudge_0 16 rfl rfl)
theorem dX1_requireJudge_17 : decode cX1_requireJudge 17 = .ok (.iload_n 1, 1) := dk_27 (dk_at dksX1_requireJudge_0 17 rfl rfl)
theorem dX1_requireJudge_18 : decode cX1_requireJudge 18 = .ok (.invokevirtual 326, 3) := dk_182 1 70 (dk_at dksX1_requireJudge_0 18 rfl rfl)
theorem dX1_requireJudge_21 : decode cX1_requireJudge 21 = .ok (.invokeinterface 13 1, 5) := by decide +kernel
theorem dX1_requireJudge_26 : decode cX1_requireJudge 26 = .ok (.iconst 1, 1) := dk_4 (dk_at dksX1_requireJudge_1 5 rfl rfl)
theorem dX1_requireJudge_27 : decode cX1_requireJudge 27 = .ok (.isub, 1) := dk_100 (dk_at dksX1_requireJudge_1 6 rfl rfl)
theorem dX1_requireJudge_28 : decode cX1_requireJudge 28 = .ok (.invokestatic 19, 3) := dk_184 0 19 (dk_at dksX1_requireJudge_1 7 rfl rfl)
theorem dX1_requireJudge_31 : decode cX1_requireJudge 31 = .ok (.ifCond .eq 7, 3) := dk_153 0 7 (dk_at dksX1_requireJudge_1 10 rfl rfl)
theorem dX1_requireJudge_34 : decode cX1_requireJudge 34 = .ok (.iconst 1, 1) := dk_4 (dk_at dksX1_requireJudge_1 13 rfl rfl)
theorem dX1_requireJudge_35 : decode cX1_requireJudge 35 = .ok (.goto 4, 3) := dk_167 0 4 (dk_at dksX1_requireJudge_1 14 rfl rfl)
theorem dX1_requireJudge_38 : decode cX1_requireJudge 38 = .ok (.iconst 0, 1) := dk_3 (dk_at dksX1_requireJudge_1 17 rfl rfl)
theorem dX1_requireJudge_39 : decode cX1_requireJudge 39 = .ok (.invokestatic 25, 3) := dk_184 0 25 (dk_at dksX1_requireJudge_1 18 rfl rfl)
theorem dX1_requireJudge_42 : decode cX1_requireJudge 42 = .ok (.return_, 1) := dk_177 (dk_at dksX1_requireJudge_1 21 rfl rfl)
abbrev cX1_read : ByteArray := prog_1_method_33_code
def yX1_read : MethodName := ⟨RX1, "read", "(LScrutineery$Event;I)LScrutineery$Marks;"⟩
def dkwX1_read_5 : List UInt8 := [42, 182, 1, 89, 160, 0, 14, 187, 1, 92, 89, 27, 183, 1, 94, 167, 0, 4, 1, 176]
abbrev dktX1_read_5 : List UInt8 := dkwX1_read_5 ++ []
def dkwX1_read_4 : List UInt8 := [182, 1, 83, 128, 62, 167, 255, 226, 27, 158, 0, 33, 27, 29, 2, 130, 126, 154, 0, 25, 27, 184, 1, 86]
abbrev dktX1_read_4 : List UInt8 := dkwX1_read_4 ++ dktX1_read_5
def dkwX1_read_3 : List UInt8 := [185, 0, 162, 1, 0, 153, 0, 26, 25, 4, 185, 0, 167, 1, 0, 192, 1, 9, 58, 5, 29, 25, 5]
abbrev dktX1_read_3 : List UInt8 := dkwX1_read_3 ++ dktX1_read_4
def dkwX1_read_2 : List UInt8 := [1, 176, 3, 62, 42, 180, 1, 14, 180, 1, 18, 185, 0, 158, 1, 0, 58, 4, 25, 4]
abbrev dktX1_read_2 : List UInt8 := dkwX1_read_2 ++ dktX1_read_3
def dkwX1_read_1 : List UInt8 := [153, 0, 26, 187, 1, 77, 89, 27, 28, 183, 1, 79, 78, 45, 182, 1, 80, 153, 0, 7, 45, 167, 0, 4]
abbrev dktX1_read_1 : List UInt8 := dkwX1_read_1 ++ dktX1_read_2
def dkwX1_read_0 : List UInt8 := [42, 180, 1, 14, 180, 1, 18, 185, 0, 13, 1, 0, 61, 28, 154, 0, 5, 1, 176, 42, 182, 1, 74]
abbrev dktX1_read_0 : List UInt8 := dkwX1_read_0 ++ dktX1_read_1
theorem dksX1_read_0 : cX1_read.data.toList.drop 0 = dktX1_read_0 := by decide +kernel
theorem dksX1_read_1 : cX1_read.data.toList.drop 23 = dktX1_read_1 := dk_seg dksX1_read_0 23 rfl rfl
theorem dksX1_read_2 : cX1_read.data.toList.drop 47 = dktX1_read_2 := dk_seg dksX1_read_1 24 rfl rfl
theorem dksX1_read_3 : cX1_read.data.toList.drop 67 = dktX1_read_3 := dk_seg dksX1_read_2 20 rfl rfl
theorem dksX1_read_4 : cX1_read.data.toList.drop 90 = dktX1_read_4 := dk_seg dksX1_read_3 23 rfl rfl
theorem dksX1_read_5 : cX1_read.data.toList.drop 114 = dktX1_read_5 := dk_seg dksX1_read_4 24 rfl rfl
theorem dX1_read_0 : decode cX1_read 0 = .ok (.aload_n 0, 1) := dk_42 (dk_at dksX1_read_0 0 rfl rfl)
theorem dX1_read_1 : decode cX1_read 1 = .ok (.getfield 270, 3) := dk_180 1 14 (dk_at dksX1_read_0 1 rfl rfl)
theorem dX1_read_4 : decode cX1_read 4 = .ok (.getfield 274, 3) := dk_180 1 18 (dk_at dksX1_read_0 4 rfl rfl)
theorem dX1_read_7 : decode cX1_read 7 = .ok (.invokeinterface 13 1, 5) := by decide +kernel
theorem dX1_read_12 : decode cX1_read 12 = .ok (.istore_n 2, 1) := dk_61 (dk_at dksX1_read_0 12 rfl rfl)
theorem dX1_read_13 : decode cX1_read 13 = .ok (.iload_n 2, 1) := dk_28 (dk_at dksX1_read_0 13 rfl rfl)
theorem dX1_read_14 : decode cX1_read 14 = .ok (.ifCond .ne 5, 3) := dk_154 0 5 (dk_at dksX1_read_0 14 rfl rfl)
theorem dX1_read_17 : decode cX1_read 17 = .ok (.aconst_null, 1) := dk_1 (dk_at dksX1_read_0 17 rfl rfl)
theorem dX1_read_18 : decode cX1_read 18 = .ok (.areturn, 1) := dk_176 (dk_at dksX1_read_0 18 rfl rfl)
theorem dX1_read_19 : decode cX1_read 19 = .ok (.aload_n 0, 1) := dk_42 (dk_at dksX1_read_0 19 rfl rfl)
theorem dX1_read_20 : decode cX1_read 20 = .ok (.invokevirtual 330, 3) := dk_182 1 74 (dk_at dksX1_read_0 20 rfl rfl)
theorem dX1_read_23 : decode cX1_read 23 = .ok (.ifCond .eq 26, 3) := dk_153 0 26 (dk_at dksX1_read_1 0 rfl rfl)
theorem dX1_read_26 : decode cX1_read 26 = .ok (.new 333, 3) := dk_187 1 77 (dk_at dksX1_read_1 3 rfl rfl)
theorem dX1_read_29 : decode cX1_read 29 = .ok (.dup, 1) := dk_89 (dk_at dksX1_read_1 6 rfl rfl)
theorem dX1_read_30 : decode cX1_read 30 = .ok (.iload_n 1, 1) := dk_27 (dk_at dksX1_read_1 7 rfl rfl)
theorem dX1_read_31 : decode cX1_read 31 = .ok (.iload_n 2, 1) := dk_28 (dk_at dksX1_read_1 8 rfl rfl)
theorem dX1_read_32 : decode cX1_read 32 = .ok (.invokespecial 335, 3) := dk_183 1 79 (dk_at dksX1_read_1 9 rfl rfl)
theorem dX1_read_35 : decode cX1_read 35 = .ok (.astore_n 3, 1) := dk_78 (dk_at dksX1_read_1 12 rfl rfl)
theorem dX1_read_36 : decode cX1_read 36 = .ok (.aload_n 3, 1) := dk_45 (dk_at dksX1_read_1 13 rfl rfl)
theorem dX1_read_37 : decode cX1_read 37 = .ok (.invokevirtual 336, 3) := dk_182 1 80 (dk_at dksX1_read_1 14 rfl rfl)
theorem dX1_read_40 : decode cX1_read 40 = .ok (.ifCond .eq 7, 3) := dk_153 0 7 (dk_at dksX1_read_1 17 rfl rfl)
theorem dX1_read_43 : decode cX1_read 43 = .ok (.aload_n 3, 1) := dk_45 (dk_at dksX1_read_1 20 rfl rfl)
theorem dX1_read_44 : decode cX1_read 44 = .ok (.goto 4, 3) := dk_167 0 4 (dk_at dksX1_read_1 21 rfl rfl)
theorem dX1_read_47 : decode cX1_read 47 = .ok (.aconst_null, 1) := dk_1 (dk_at dksX1_read_2 0 rfl rfl)
theorem dX1_read_48 : decode cX1_read 48 = .ok (.areturn, 1) := dk_176 (dk_at dksX1_read_2 1 rfl rfl)
theorem dX1_read_49 : decode cX1_read 49 = .ok (.iconst 0, 1) := dk_3 (dk_at dksX1_read_2 2 rfl rfl)
theorem dX1_read_50 : decode cX1_read 50 = .ok (.istore_n 3, 1) := dk_62 (dk_at dksX1_read_2 3 rfl rfl)
theorem dX1_read_51 : decode cX1_read 51 = .ok (.aload_n 0, 1) := dk_42 (dk_at dksX1_read_2 4 rfl rfl)
theorem dX1_read_52 : decode cX1_read 52 = .ok (.getfield 270, 3) := dk_180 1 14 (dk_at dksX1_read_2 5 rfl rfl)
theorem dX1_read_55 : decode cX1_read 55 = .ok (.getfield 274, 3) := dk_180 1 18 (dk_at dksX1_read_2 8 rfl rfl)
theorem dX1_read_58 : decode cX1_read 58 = .ok (.invokeinterface 158 1, 5) := by decide +kernel
theorem dX1_read_63 : decode cX1_read 63 = .ok (.astore 4, 2) := dk_58 4 (dk_at dksX1_read_2 16 rfl rfl)
theorem dX1_read_65 : decode cX1_read 65 = .ok (.aload 4, 2) := dk_25 4 (dk_at dksX1_read_2 18 rfl rfl)
theorem dX1_read_67 : decode cX1_read 67 = .ok (.invokeinterface 162 1, 5) := by decide +kernel
theorem dX1_read_72 : decode cX1_read 72 = .ok (.ifCond .eq 26, 3) := dk_153 0 26 (dk_at dksX1_read_3 5 rfl rfl)
theorem dX1_read_75 : decode cX1_read 75 = .ok (.aload 4, 2) := dk_25 4 (dk_at dksX1_read_3 8 rfl rfl)
theorem dX1_read_77 : decode cX1_read 77 = .ok (.invokeinterface 167 1, 5) := by decide +kernel
theorem dX1_read_82 : decode cX1_read 82 = .ok (.checkcast 265, 3) := dk_192 1 9 (dk_at dksX1_read_3 15 rfl rfl)
theorem dX1_read_85 : decode cX1_read 85 = .ok (.astore 5, 2) := dk_58 5 (dk_at dksX1_read_3 18 rfl rfl)
theorem dX1_read_87 : decode cX1_read 87 = .ok (.iload_n 3, 1) := dk_29 (dk_at dksX1_read_3 20 rfl rfl)
theorem dX1_read_88 : decode cX1_read 88 = .ok (.aload 5, 2) := dk_25 5 (dk_at dksX1_read_3 21 rfl rfl)
theorem dX1_read_90 : decode cX1_read 90 = .ok (.invokevirtual 339, 3) := dk_182 1 83 (dk_at dksX1_read_4 0 rfl rfl)
theorem dX1_read_93 : decode cX1_read 93 = .ok (.ior, 1) := dk_128 (dk_at dksX1_read_4 3 rfl rfl)
theorem dX1_read_94 : decode cX1_read 94 = .ok (.istore_n 3, 1) := dk_62 (dk_at dksX1_read_4 4 rfl rfl)
theorem dX1_read_95 : decode cX1_read 95 = .ok (.goto (-30), 3) := dk_167 255 226 (dk_at dksX1_read_4 5 rfl rfl)
theorem dX1_read_98 : decode cX1_read 98 = .ok (.iload_n 1, 1) := dk_27 (dk_at dksX1_read_4 8 rfl rfl)
theorem dX1_read_99 : decode cX1_read 99 = .ok (.ifCond .le 33, 3) := dk_158 0 33 (dk_at dksX1_read_4 9 rfl rfl)
theorem dX1_read_102 : decode cX1_read 102 = .ok (.iload_n 1, 1) := dk_27 (dk_at dksX1_read_4 12 rfl rfl)
theorem dX1_read_103 : decode cX1_read 103 = .ok (.iload_n 3, 1) := dk_29 (dk_at dksX1_read_4 13 rfl rfl)
theorem dX1_read_104 : decode cX1_read 104 = .ok (.iconst (-1), 1) := dk_2 (dk_at dksX1_read_4 14 rfl rfl)
theorem dX1_read_105 : decode cX1_read 105 = .ok (.ixor, 1) := dk_130 (dk_at dksX1_read_4 15 rfl rfl)
theorem dX1_read_106 : decode cX1_read 106 = .ok (.iand, 1) := dk_126 (dk_at dksX1_read_4 16 rfl rfl)
theorem dX1_read_107 : decode cX1_read 107 = .ok (.ifCond .ne 25, 3) := dk_154 0 25 (dk_at dksX1_read_4 17 rfl rfl)
theorem dX1_read_110 : decode cX1_read 110 = .ok (.iload_n 1, 1) := dk_27 (dk_at dksX1_read_4 20 rfl rfl)
theorem dX1_read_111 : decode cX1_read 111 = .ok (.invokestatic 342, 3) := dk_184 1 86 (dk_at dksX1_read_4 21 rfl rfl)
theorem dX1_read_114 : decode cX1_read 114 = .ok (.aload_n 0, 1) := dk_42 (dk_at dksX1_read_5 0 rfl rfl)
theorem dX1_read_115 : decode cX1_read 115 = .ok (.invokevirtual 345, 3) := dk_182 1 89 (dk_at dksX1_read_5 1 rfl rfl)
theorem dX1_read_118 : decode cX1_read 118 = .ok (.if_icmp .ne 14, 3) := dk_160 0 14 (dk_at dksX1_read_5 4 rfl rfl)
theorem dX1_read_121 : decode cX1_read 121 = .ok (.new 348, 3) := dk_187 1 92 (dk_at dksX1_read_5 7 rfl rfl)
theorem dX1_read_124 : decode cX1_read 124 = .ok (.dup, 1) := dk_89 (dk_at dksX1_read_5 10 rfl rfl)
theorem dX1_read_125 : decode cX1_read 125 = .ok (.iload_n 1, 1) := dk_27 (dk_at dksX1_read_5 11 rfl rfl)
theorem dX1_read_126 : decode cX1_read 126 = .ok (.invokespecial 350, 3) := dk_183 1 94 (dk_at dksX1_read_5 12 rfl rfl)
theorem dX1_read_129 : decode cX1_read 129 = .ok (.goto 4, 3) := dk_167 0 4 (dk_at dksX1_read_5 15 rfl rfl)
theorem dX1_read_132 : decode cX1_read 132 = .ok (.aconst_null, 1) := dk_1 (dk_at dksX1_read_5 18 rfl rfl)
theorem dX1_read_133 : decode cX1_read 133 = .ok (.areturn, 1) := dk_176 (dk_at dksX1_read_5 19 rfl rfl)
abbrev cX1_value : ByteArray := prog_1_method_35_code
def yX1_value : MethodName := ⟨RX1, "value", "(IIIIII)I"⟩
def dkwX1_value_6 : List UInt8 := [182, 1, 132, 172]
abbrev dktX1_value_6 : List UInt8 := dkwX1_value_6 ++ []
def dkwX1_value_5 : List UInt8 := [58, 9, 25, 9, 25, 9, 185, 0, 13, 1, 0, 4, 100, 5, 108, 185, 0, 29, 2, 0, 192, 0, 252]
abbrev dktX1_value_5 : List UInt8 := dkwX1_value_5 ++ dktX1_value_6
def dkwX1_value_4 : List UInt8 := [25, 8, 180, 1, 121, 28, 29, 21, 5, 184, 1, 125, 21, 6, 79, 25, 8, 28, 21, 5, 182, 1, 128]
abbrev dktX1_value_4 : List UInt8 := dkwX1_value_4 ++ dktX1_value_5
def dkwX1_value_3 : List UInt8 := [180, 1, 14, 180, 1, 18, 25, 8, 185, 0, 107, 2, 0, 153, 0, 7, 4, 167, 0, 4, 3, 184, 0, 85]
abbrev dktX1_value_3 : List UInt8 := dkwX1_value_3 ++ dktX1_value_4
def dkwX1_value_2 : List UInt8 := [153, 0, 7, 4, 167, 0, 4, 3, 184, 0, 82, 25, 7, 182, 0, 210, 6, 160, 0, 25, 25, 7]
abbrev dktX1_value_2 : List UInt8 := dkwX1_value_2 ++ dktX1_value_3
def dkwX1_value_1 : List UInt8 := [184, 1, 24, 58, 8, 21, 5, 3, 6, 184, 0, 19, 153, 0, 18, 21, 6, 3, 16, 100, 184, 0, 19]
abbrev dktX1_value_1 : List UInt8 := dkwX1_value_1 ++ dktX1_value_2
def dkwX1_value_0 : List UInt8 := [42, 180, 0, 49, 27, 184, 0, 97, 192, 0, 184, 58, 7, 25, 7, 28, 29, 184, 1, 97, 25, 7, 21, 4]
abbrev dktX1_value_0 : List UInt8 := dkwX1_value_0 ++ dktX1_value_1
theorem dksX1_value_0 : cX1_value.data.toList.drop 0 = dktX1_value_0 := by decide +kernel
theorem dksX1_value_1 : cX1_value.data.toList.drop 24 = dktX1_value_1 := dk_seg dksX1_value_0 24 rfl rfl
theorem dksX1_value_2 : cX1_value.data.toList.drop 47 = dktX1_value_2 := dk_seg dksX1_value_1 23 rfl rfl
theorem dksX1_value_3 : cX1_value.data.toList.drop 69 = dktX1_value_3 := dk_seg dksX1_value_2 22 rfl rfl
theorem dksX1_value_4 : cX1_value.data.toList.drop 93 = dktX1_value_4 := dk_seg dksX1_value_3 24 rfl rfl
theorem dksX1_value_5 : cX1_value.data.toList.drop 116 = dktX1_value_5 := dk_seg dksX1_value_4 23 rfl rfl
theorem dksX1_value_6 : cX1_value.data.toList.drop 139 = dktX1_value_6 := dk_seg dksX1_value_5 23 rfl rfl
theorem dX1_value_0 : decode cX1_value 0 = .ok (.aload_n 0, 1) := dk_42 (dk_at dksX1_value_0 0 rfl rfl)
theorem dX1_value_1 : decode cX1_value 1 = .ok (.getfield 49, 3) := dk_180 0 49 (dk_at dksX1_value_0 1 rfl rfl)
theorem dX1_value_4 : decode cX1_value 4 = .ok (.iload_n 1, 1) := dk_27 (dk_at dksX1_value_0 4 rfl rfl)
theorem dX1_value_5 : decode cX1_value 5 = .ok (.invokestatic 97, 3) := dk_184 0 97 (dk_at dksX1_value_0 5 rfl rfl)
theorem dX1_value_8 : decode cX1_value 8 = .ok (.checkcast 184, 3) := dk_192 0 184 (dk_at dksX1_value_0 8 rfl rfl)
theorem dX1_value_11 : decode cX1_value 11 = .ok (.astore 7, 2) := dk_58 7 (dk_at dksX1_value_0 11 rfl rfl)
theorem dX1_value_13 : decode cX1_value 13 = .ok (.aload 7, 2) := dk_25 7 (dk_at dksX1_value_0 13 rfl rfl)
theorem dX1_value_15 : decode cX1_value 15 = .ok (.iload_n 2, 1) := dk_28 (dk_at dksX1_value_0 15 rfl rfl)
theorem dX1_value_16 : decode cX1_value 16 = .ok (.iload_n 3, 1) := dk_29 (dk_at dksX1_value_0 16 rfl rfl)
theorem dX1_value_17 : decode cX1_value 17 = .ok (.invokestatic 353, 3) := dk_184 1 97 (dk_at dksX1_value_0 17 rfl rfl)
theorem dX1_value_20 : decode cX1_value 20 = .ok (.aload 7, 2) := dk_25 7 (dk_at dksX1_value_0 20 rfl rfl)
theorem dX1_value_22 : decode cX1_value 22 = .ok (.iload 4, 2) := dk_21 4 (dk_at dksX1_value_0 22 rfl rfl)
theorem dX1_value_24 : decode cX1_value 24 = .ok (.invokestatic 280, 3) := dk_184 1 24 (dk_at dksX1_value_1 0 rfl rfl)
theorem dX1_value_27 : decode cX1_value 27 = .ok (.astore 8, 2) := dk_58 8 (dk_at dksX1_value_1 3 rfl rfl)
theorem dX1_value_29 : decode cX1_value 29 = .ok (.iload 5, 2) := dk_21 5 (dk_at dksX1_value_1 5 rfl rfl)
theorem dX1_value_31 : decode cX1_value 31 = .ok (.iconst 0, 1) := dk_3 (dk_at dksX1_value_1 7 rfl rfl)
theorem dX1_value_32 : decode cX1_value 32 = .ok (.iconst 3, 1) := dk_6 (dk_at dksX1_value_1 8 rfl rfl)
theorem dX1_value_33 : decode cX1_value 33 = .ok (.invokestatic 19, 3) := dk_184 0 19 (dk_at dksX1_value_1 9 rfl rfl)
theorem dX1_value_36 : decode cX1_value 36 = .ok (.ifCond .eq 18, 3) := dk_153 0 18 (dk_at dksX1_value_1 12 rfl rfl)
theorem dX1_value_39 : decode cX1_value 39 = .ok (.iload 6, 2) := dk_21 6 (dk_at dksX1_value_1 15 rfl rfl)
theorem dX1_value_41 : decode cX1_value 41 = .ok (.iconst 0, 1) := dk_3 (dk_at dksX1_value_1 17 rfl rfl)
theorem dX1_value_42 : decode cX1_value 42 = .ok (.bipush 100, 2) := dk_16 100 (dk_at dksX1_value_1 18 rfl rfl)
theorem dX1_value_44 : decode cX1_value 44 = .ok (.invokestatic 19, 3) := dk_184 0 19 (dk_at dksX1_value_1 20 rfl rfl)
theorem dX1_value_47 : decode cX1_value 47 = .ok (.ifCond .eq 7, 3) := dk_153 0 7 (dk_at dksX1_value_2 0 rfl rfl)
theorem dX1_value_50 : decode cX1_value 50 = .ok (.iconst 1, 1) := dk_4 (dk_at dksX1_value_2 3 rfl rfl)
theorem dX1_value_51 : decode cX1_value 51 = .ok (.goto 4, 3) := dk_167 0 4 (dk_at dksX1_value_2 4 rfl rfl)
theorem dX1_value_54 : decode cX1_value 54 = .ok (.iconst 0, 1) := dk_3 (dk_at dksX1_value_2 7 rfl rfl)
theorem dX1_value_55 : decode cX1_value 55 = .ok (.invokestatic 82, 3) := dk_184 0 82 (dk_at dksX1_value_2 8 rfl rfl)
theorem dX1_value_58 : decode cX1_value 58 = .ok (.aload 7, 2) := dk_25 7 (dk_at dksX1_value_2 11 rfl rfl)
theorem dX1_value_60 : decode cX1_value 60 = .ok (.invokevirtual 210, 3) := dk_182 0 210 (dk_at dksX1_value_2 13 rfl rfl)
theorem dX1_value_63 : decode cX1_value 63 = .ok (.iconst 3, 1) := dk_6 (dk_at dksX1_value_2 16 rfl rfl)
theorem dX1_value_64 : decode cX1_value 64 = .ok (.if_icmp .ne 25, 3) := dk_160 0 25 (dk_at dksX1_value_2 17 rfl rfl)
theorem dX1_value_67 : decode cX1_value 67 = .ok (.aload 7, 2) := dk_25 7 (dk_at dksX1_value_2 20 rfl rfl)
theorem dX1_value_69 : decode cX1_value 69 = .ok (.getfield 270, 3) := dk_180 1 14 (dk_at dksX1_value_3 0 rfl rfl)
theorem dX1_value_72 : decode cX1_value 72 = .ok (.getfield 274, 3) := dk_180 1 18 (dk_at dksX1_value_3 3 rfl rfl)
theorem dX1_value_75 : decode cX1_value 75 = .ok (.aload 8, 2) := dk_25 8 (dk_at dksX1_value_3 6 rfl rfl)
theorem dX1_value_77 : decode cX1_value 77 = .ok (.invokeinterface 107 2, 5) := by decide +kernel
theorem dX1_value_82 : decode cX1_value 82 = .ok (.ifCond .eq 7, 3) := dk_153 0 7 (dk_at dksX1_value_3 13 rfl rfl)
theorem dX1_value_85 : decode cX1_value 85 = .ok (.iconst 1, 1) := dk_4 (dk_at dksX1_value_3 16 rfl rfl)
theorem dX1_value_86 : decode cX1_value 86 = .ok (.goto 4, 3) := dk_167 0 4 (dk_at dksX1_value_3 17 rfl rfl)
theorem dX1_value_89 : decode cX1_value 89 = .ok (.iconst 0, 1) := dk_3 (dk_at dksX1_value_3 20 rfl rfl)
theorem dX1_value_90 : decode cX1_value 90 = .ok (.invokestatic 85, 3) := dk_184 0 85 (dk_at dksX1_value_3 21 rfl rfl)
theorem dX1_value_93 : decode cX1_value 93 = .ok (.aload 8, 2) := dk_25 8 (dk_at dksX1_value_4 0 rfl rfl)
theorem dX1_value_95 : decode cX1_value 95 = .ok (.getfield 377, 3) := dk_180 1 121 (dk_at dksX1_value_4 2 rfl rfl)
theorem dX1_value_98 : decode cX1_value 98 = .ok (.iload_n 2, 1) := dk_28 (dk_at dksX1_value_4 5 rfl rfl)
theorem dX1_value_99 : decode cX1_value 99 = .ok (.iload_n 3, 1) := dk_29 (dk_at dksX1_value_4 6 rfl rfl)
theorem dX1_value_100 : decode cX1_value 100 = .ok (.iload 5, 2) := dk_21 5 (dk_at dksX1_value_4 7 rfl rfl)
theorem dX1_value_102 : decode cX1_value 102 = .ok (.invokestatic 381, 3) := dk_184 1 125 (dk_at dksX1_value_4 9 rfl rfl)
theorem dX1_value_105 : decode cX1_value 105 = .ok (.iload 6, 2) := dk_21 6 (dk_at dksX1_value_4 12 rfl rfl)
theorem dX1_value_107 : decode cX1_value 107 = .ok (.iastore, 1) := dk_79 (dk_at dksX1_value_4 14 rfl rfl)
theorem dX1_value_108 : decode cX1_value 108 = .ok (.aload 8, 2) := dk_25 8 (dk_at dksX1_value_4 15 rfl rfl)
theorem dX1_value_110 : decode cX1_value 110 = .ok (.iload_n 2, 1) := dk_28 (dk_at dksX1_value_4 17 rfl rfl)
theorem dX1_value_111 : decode cX1_value 111 = .ok (.iload 5, 2) := dk_21 5 (dk_at dksX1_value_4 18 rfl rfl)
theorem dX1_value_113 : decode cX1_value 113 = .ok (.invokevirtual 384, 3) := dk_182 1 128 (dk_at dksX1_value_4 20 rfl rfl)
theorem dX1_value_116 : decode cX1_value 116 = .ok (.astore 9, 2) := dk_58 9 (dk_at dksX1_value_5 0 rfl rfl)
theorem dX1_value_118 : decode cX1_value 118 = .ok (.aload 9, 2) := dk_25 9 (dk_at dksX1_value_5 2 rfl rfl)
theorem dX1_value_120 : decode cX1_value 120 = .ok (.aload 9, 2) := dk_25 9 (dk_at dksX1_value_5 4 rfl rfl)
theorem dX1_value_122 : decode cX1_value 122 = .ok (.invokeinterface 13 1, 5) := by decide +kernel
theorem dX1_value_127 : decode cX1_value 127 = .ok (.iconst 1, 1) := dk_4 (dk_at dksX1_value_5 11 rfl rfl)
theorem dX1_value_128 : decode cX1_value 128 = .ok (.isub, 1) := dk_100 (dk_at dksX1_value_5 12 rfl rfl)
theorem dX1_value_129 : decode cX1_value 129 = .ok (.iconst 2, 1) := dk_5 (dk_at dksX1_value_5 13 rfl rfl)
theorem dX1_value_130 : decode cX1_value 130 = .ok (.idiv, 1) := dk_108 (dk_at dksX1_value_5 14 rfl rfl)
theorem dX1_value_131 : decode cX1_value 131 = .ok (.invokeinterface 29 2, 5) := by decide +kernel
theorem dX1_value_136 : decode cX1_value 136 = .ok (.checkcast 252, 3) := dk_192 0 252 (dk_at dksX1_value_5 20 rfl rfl)
theorem dX1_value_139 : decode cX1_value 139 = .ok (.invokevirtual 388, 3) := dk_182 1 132 (dk_at dksX1_value_6 0 rfl rfl)
theorem dX1_value_142 : decode cX1_value 142 = .ok (.ireturn, 1) := dk_172 (dk_at dksX1_value_6 3 rfl rfl)
abbrev cX1_close : ByteArray := prog_1_method_37_code
def yX1_close : MethodName := ⟨RX1, "close", "(I)I"⟩
def dkwX1_close_2 : List UInt8 := [182, 1, 142, 44, 182, 0, 210, 172]
abbrev dktX1_close_2 : List UInt8 := dkwX1_close_2 ++ []
def dkwX1_close_1 : List UInt8 := [184, 0, 85, 42, 44, 182, 1, 135, 44, 182, 1, 74, 153, 0, 10, 44, 182, 1, 139, 167, 0, 7, 44]
abbrev dktX1_close_1 : List UInt8 := dkwX1_close_1 ++ dktX1_close_2
def dkwX1_close_0 : List UInt8 := [42, 180, 0, 49, 27, 184, 0, 97, 192, 0, 184, 77, 44, 182, 1, 105, 154, 0, 7, 4, 167, 0, 4, 3]
abbrev dktX1_close_0 : List UInt8 := dkwX1_close_0 ++ dktX1_close_1
theorem dksX1_close_0 : cX1_close.data.toList.drop 0 = dktX1_close_0 := by decide +kernel
theorem dksX1_close_1 : cX1_close.data.toList.drop 24 = dktX1_close_1 := dk_seg dksX1_close_0 24 rfl rfl
theorem dksX1_close_2 : cX1_close.data.toList.drop 47 = dktX1_close_2 := dk_seg dksX1_close_1 23 rfl rfl
theorem dX1_close_0 : decode cX1_close 0 = .ok (.aload_n 0, 1) := dk_42 (dk_at dksX1_close_0 0 rfl rfl)
theorem dX1_close_1 : decode cX1_close 1 = .ok (.getfield 49, 3) := dk_180 0 49 (dk_at dksX1_close_0 1 rfl rfl)
theorem dX1_close_4 : decode cX1_close 4 = .ok (.iload_n 1, 1) := dk_27 (dk_at dksX1_close_0 4 rfl rfl)
theorem dX1_close_5 : decode cX1_close 5 = .ok (.invokestatic 97, 3) := dk_184 0 97 (dk_at dksX1_close_0 5 rfl rfl)
theorem dX1_close_8 : decode cX1_close 8 = .ok (.checkcast 184, 3) := dk_192 0 184 (dk_at dksX1_close_0 8 rfl rfl)
theorem dX1_close_11 : decode cX1_close 11 = .ok (.astore_n 2, 1) := dk_77 (dk_at dksX1_close_0 11 rfl rfl)
theorem dX1_close_12 : decode cX1_close 12 = .ok (.aload_n 2, 1) := dk_44 (dk_at dksX1_close_0 12 rfl rfl)
theorem dX1_close_13 : decode cX1_close 13 = .ok (.invokevirtual 361, 3) := dk_182 1 105 (dk_at dksX1_close_0 13 rfl rfl)
theorem dX1_close_16 : decode cX1_close 16 = .ok (.ifCond .ne 7, 3) := dk_154 0 7 (dk_at dksX1_close_0 16 rfl rfl)
theorem dX1_close_19 : decode cX1_close 19 = .ok (.iconst 1, 1) := dk_4 (dk_at dksX1_close_0 19 rfl rfl)
theorem dX1_close_20 : decode cX1_close 20 = .ok (.goto 4, 3) := dk_167 0 4 (dk_at dksX1_close_0 20 rfl rfl)
theorem dX1_close_23 : decode cX1_close 23 = .ok (.iconst 0, 1) := dk_3 (dk_at dksX1_close_0 23 rfl rfl)
theorem dX1_close_24 : decode cX1_close 24 = .ok (.invokestatic 85, 3) := dk_184 0 85 (dk_at dksX1_close_1 0 rfl rfl)
theorem dX1_close_27 : decode cX1_close 27 = .ok (.aload_n 0, 1) := dk_42 (dk_at dksX1_close_1 3 rfl rfl)
theorem dX1_close_28 : decode cX1_close 28 = .ok (.aload_n 2, 1) := dk_44 (dk_at dksX1_close_1 4 rfl rfl)
theorem dX1_close_29 : decode cX1_close 29 = .ok (.invokevirtual 391, 3) := dk_182 1 135 (dk_at dksX1_close_1 5 rfl rfl)
theorem dX1_close_32 : decode cX1_close 32 = .ok (.aload_n 2, 1) := dk_44 (dk_at dksX1_close_1 8 rfl rfl)
theorem dX1_close_33 : decode cX1_close 33 = .ok (.invokevirtual 330, 3) := dk_182 1 74 (dk_at dksX1_close_1 9 rfl rfl)
theorem dX1_close_36 : decode cX1_close 36 = .ok (.ifCond .eq 10, 3) := dk_153 0 10 (dk_at dksX1_close_1 12 rfl rfl)
theorem dX1_close_39 : decode cX1_close 39 = .ok (.aload_n 2, 1) := dk_44 (dk_at dksX1_close_1 15 rfl rfl)
theorem dX1_close_40 : decode cX1_close 40 = .ok (.invokevirtual 395, 3) := dk_182 1 139 (dk_at dksX1_close_1 16 rfl rfl)
theorem dX1_close_43 : decode cX1_close 43 = .ok (.goto 7, 3) := dk_167 0 7 (dk_at dksX1_close_1 19 rfl rfl)
theorem dX1_close_46 : decode cX1_close 46 = .ok (.aload_n 2, 1) := dk_44 (dk_at dksX1_close_1 22 rfl rfl)
theorem dX1_close_47 : decode cX1_close 47 = .ok (.invokevirtual 398, 3) := dk_182 1 142 (dk_at dksX1_close_2 0 rfl rfl)
theorem dX1_close_50 : decode cX1_close 50 = .ok (.aload_n 2, 1) := dk_44 (dk_at dksX1_close_2 3 rfl rfl)
theorem dX1_close_51 : decode cX1_close 51 = .ok (.invokevirtual 210, 3) := dk_182 0 210 (dk_at dksX1_close_2 4 rfl rfl)
theorem dX1_close_54 : decode cX1_close 54 = .ok (.ireturn, 1) := dk_172 (dk_at dksX1_close_2 7 rfl rfl)
abbrev cX1_requireReady : ByteArray := prog_1_method_36_code
def yX1_requireReady : MethodName := ⟨RX1, "requireReady", "(LScrutineery$Event;)V"⟩
def dkwX1_requireReady_6 : List UInt8 := [132, 3, 1, 167, 255, 201, 132, 2, 1, 167, 255, 185, 177]
abbrev dktX1_requireReady_6 : List UInt8 := dkwX1_requireReady_6 ++ []
def dkwX1_requireReady_5 : List UInt8 := [188, 10, 89, 3, 5, 79, 89, 4, 16, 22, 79, 89, 5, 28, 79, 89, 6, 29, 79, 182, 1, 5]
abbrev dktX1_requireReady_5 : List UInt8 := dkwX1_requireReady_5 ++ dktX1_requireReady_6
def dkwX1_requireReady_4 : List UInt8 := [185, 0, 13, 1, 0, 162, 0, 47, 43, 180, 1, 14, 180, 1, 111, 28, 50, 29, 50, 199, 0, 27, 42, 7]
abbrev dktX1_requireReady_4 : List UInt8 := dkwX1_requireReady_4 ++ dktX1_requireReady_5
def dkwX1_requireReady_3 : List UInt8 := [132, 2, 1, 167, 255, 216, 3, 61, 28, 43, 180, 1, 67, 162, 0, 69, 3, 62, 29, 43, 28, 182, 1, 70]
abbrev dktX1_requireReady_3 : List UInt8 := dkwX1_requireReady_3 ++ dktX1_requireReady_4
def dkwX1_requireReady_2 : List UInt8 := [185, 0, 192, 1, 0, 153, 0, 19, 42, 5, 188, 10, 89, 3, 5, 79, 89, 4, 16, 21, 79, 182, 1, 5]
abbrev dktX1_requireReady_2 : List UInt8 := dkwX1_requireReady_2 ++ dktX1_requireReady_3
def dkwX1_requireReady_1 : List UInt8 := [4, 16, 21, 79, 182, 1, 5, 3, 61, 28, 43, 180, 1, 67, 162, 0, 38, 43, 28, 182, 1, 70]
abbrev dktX1_requireReady_1 : List UInt8 := dkwX1_requireReady_1 ++ dktX1_requireReady_2
def dkwX1_requireReady_0 : List UInt8 := [43, 180, 1, 14, 180, 1, 18, 185, 0, 192, 1, 0, 153, 0, 19, 42, 5, 188, 10, 89, 3, 5, 79, 89]
abbrev dktX1_requireReady_0 : List UInt8 := dkwX1_requireReady_0 ++ dktX1_requireReady_1
theorem dksX1_requireReady_0 : cX1_requireReady.data.toList.drop 0 = dktX1_requireReady_0 := by decide +kernel
theorem dksX1_requireReady_1 : cX1_requireReady.data.toList.drop 24 = dktX1_requireReady_1 := dk_seg dksX1_requireReady_0 24 rfl rfl
theorem dksX1_requireReady_2 : cX1_requireReady.data.toList.drop 46 = dktX1_requireReady_2 := dk_seg dksX1_requireReady_1 22 rfl rfl
theorem dksX1_requireReady_3 : cX1_requireReady.data.toList.drop 70 = dktX1_requireReady_3 := dk_seg dksX1_requireReady_2 24 rfl rfl
theorem dksX1_requireReady_4 : cX1_requireReady.data.toList.drop 94 = dktX1_requireReady_4 := dk_seg dksX1_requireReady_3 24 rfl rfl
theorem dksX1_requireReady_5 : cX1_requireReady.data.toList.drop 118 = dktX1_requireReady_5 := dk_seg dksX1_requireReady_4 24 rfl rfl
theorem dksX1_requireReady_6 : cX1_requireReady.data.toList.drop 140 = dktX1_requireReady_6 := dk_seg dksX1_requireReady_5 22 rfl rfl
theorem dX1_requireReady_0 : decode cX1_requireReady 0 = .ok (.aload_n 1, 1) := dk_43 (dk_at dksX1_requireReady_0 0 rfl rfl)
theorem dX1_requireReady_1 : decode cX1_requireReady 1 = .ok (.getfield 270, 3) := dk_180 1 14 (dk_at dksX1_requireReady_0 1 rfl rfl)
theorem dX1_requireReady_4 : decode cX1_requireReady 4 = .ok (.getfield 274, 3) := dk_180 1 18 (dk_at dksX1_requireReady_0 4 rfl rfl)
theorem dX1_requireReady_7 : decode cX1_requireReady 7 = .ok (.invokeinterface 192 1, 5) := by decide +kernel
theorem dX1_requireReady_12 : decode cX1_requireReady 12 = .ok (.ifCond .eq 19, 3) := dk_153 0 19 (dk_at dksX1_requireReady_0 12 rfl rfl)
theorem dX1_requireReady_15 : decode cX1_requireReady 15 = .ok (.aload_n 0, 1) := dk_42 (dk_at dksX1_requireReady_0 15 rfl rfl)
theorem dX1_requireReady_16 : decode cX1_requireReady 16 = .ok (.iconst 2, 1) := dk_5 (dk_at dksX1_requireReady_0 16 rfl rfl)
theorem dX1_requireReady_17 : decode cX1_requireReady 17 = .ok (.newarray .int, 2) := dk_188_10 (dk_at dksX1_requireReady_0 17 rfl rfl)
theorem dX1_requireReady_19 : decode cX1_requireReady 19 = .ok (.dup, 1) := dk_89 (dk_at dksX1_requireReady_0 19 rfl rfl)
theorem dX1_requireReady_20 : decode cX1_requireReady 20 = .ok (.iconst 0, 1) := dk_3 (dk_at dksX1_requireReady_0 20 rfl rfl)
theorem dX1_requireReady_21 : decode cX1_requireReady 21 = .ok (.iconst 2, 1) := dk_5 (dk_at dksX1_requireReady_0 21 rfl rfl)
theorem dX1_requireReady_22 : decode cX1_requireReady 22 = .ok (.iastore, 1) := dk_79 (dk_at dksX1_requireReady_0 22 rfl rfl)
theorem dX1_requireReady_23 : decode cX1_requireReady 23 = .ok (.dup, 1) := dk_89 (dk_at dksX1_requireReady_0 23 rfl rfl)
theorem dX1_requireReady_24 : decode cX1_requireReady 24 = .ok (.iconst 1, 1) := dk_4 (dk_at dksX1_requireReady_1 0 rfl rfl)
theorem dX1_requireReady_25 : decode cX1_requireReady 25 = .ok (.bipush 21, 2) := dk_16 21 (dk_at dksX1_requireReady_1 1 rfl rfl)
theorem dX1_requireReady_27 : decode cX1_requireReady 27 = .ok (.iastore, 1) := dk_79 (dk_at dksX1_requireReady_1 3 rfl rfl)
theorem dX1_requireReady_28 : decode cX1_requireReady 28 = .ok (.invokevirtual 261, 3) := dk_182 1 5 (dk_at dksX1_requireReady_1 4 rfl rfl)
theorem dX1_requireReady_31 : decode cX1_requireReady 31 = .ok (.iconst 0, 1) := dk_3 (dk_at dksX1_requireReady_1 7 rfl rfl)
theorem dX1_requireReady_32 : decode cX1_requireReady 32 = .ok (.istore_n 2, 1) := dk_61 (dk_at dksX1_requireReady_1 8 rfl rfl)
theorem dX1_requireReady_33 : decode cX1_requireReady 33 = .ok (.iload_n 2, 1) := dk_28 (dk_at dksX1_requireReady_1 9 rfl rfl)
theorem dX1_requireReady_34 : decode cX1_requireReady 34 = .ok (.aload_n 1, 1) := dk_43 (dk_at dksX1_requireReady_1 10 rfl rfl)
theorem dX1_requireReady_35 : decode cX1_requireReady 35 = .ok (.getfield 323, 3) := dk_180 1 67 (dk_at dksX1_requireReady_1 11 rfl rfl)
theorem dX1_requireReady_38 : decode cX1_requireReady 38 = .ok (.if_icmp .ge 38, 3) := dk_162 0 38 (dk_at dksX1_requireReady_1 14 rfl rfl)
theorem dX1_requireReady_41 : decode cX1_requireReady 41 = .ok (.aload_n 1, 1) := dk_43 (dk_at dksX1_requireReady_1 17 rfl rfl)
theorem dX1_requireReady_42 : decode cX1_requireReady 42 = .ok (.iload_n 2, 1) := dk_28 (dk_at dksX1_requireReady_1 18 rfl rfl)
theorem dX1_requireReady_43 : decode cX1_requireReady 43 = .ok (.invokevirtual 326, 3) := dk_182 1 70 (dk_at dksX1_requireReady_1 19 rfl rfl)
theorem dX1_requireReady_46 : decode cX1_requireReady 46 = .ok (.invokeinterface 192 1, 5) := by decide +kernel
theorem dX1_requireReady_51 : decode cX1_requireReady 51 = .ok (.ifCond .eq 19, 3) := dk_153 0 19 (dk_at dksX1_requireReady_2 5 rfl rfl)
theorem dX1_requireReady_54 : decode cX1_requireReady 54 = .ok (.aload_n 0, 1) := dk_42 (dk_at dksX1_requireReady_2 8 rfl rfl)
theorem dX1_requireReady_55 : decode cX1_requireReady 55 = .ok (.iconst 2, 1) := dk_5 (dk_at dksX1_requireReady_2 9 rfl rfl)
theorem dX1_requireReady_56 : decode cX1_requireReady 56 = .ok (.newarray .int, 2) := dk_188_10 (dk_at dksX1_requireReady_2 10 rfl rfl)
theorem dX1_requireReady_58 : decode cX1_requireReady 58 = .ok (.dup, 1) := dk_89 (dk_at dksX1_requireReady_2 12 rfl rfl)
theorem dX1_requireReady_59 : decode cX1_requireReady 59 = .ok (.iconst 0, 1) := dk_3 (dk_at dksX1_requireReady_2 13 rfl rfl)
theorem dX1_requireReady_60 : decode cX1_requireReady 60 = .ok (.iconst 2, 1) := dk_5 (dk_at dksX1_requireReady_2 14 rfl rfl)
theorem dX1_requireReady_61 : decode cX1_requireReady 61 = .ok (.iastore, 1) := dk_79 (dk_at dksX1_requireReady_2 15 rfl rfl)
theorem dX1_requireReady_62 : decode cX1_requireReady 62 = .ok (.dup, 1) := dk_89 (dk_at dksX1_requireReady_2 16 rfl rfl)
theorem dX1_requireReady_63 : decode cX1_requireReady 63 = .ok (.iconst 1, 1) := dk_4 (dk_at dksX1_requireReady_2 17 rfl rfl)
theorem dX1_requireReady_64 : decode cX1_requireReady 64 = .ok (.bipush 21, 2) := dk_16 21 (dk_at dksX1_requireReady_2 18 rfl rfl)
theorem dX1_requireReady_66 : decode cX1_requireReady 66 = .ok (.iastore, 1) := dk_79 (dk_at dksX1_requireReady_2 20 rfl rfl)
theorem dX1_requireReady_67 : decode cX1_requireReady 67 = .ok (.invokevirtual 261, 3) := dk_182 1 5 (dk_at dksX1_requireReady_2 21 rfl rfl)
theorem dX1_requireReady_70 : decode cX1_requireReady 70 = .ok (.iinc 2 1, 3) := dk_132 2 1 (dk_at dksX1_requireReady_3 0 rfl rfl)
theorem dX1_requireReady_73 : decode cX1_requireReady 73 = .ok (.goto (-40), 3) := dk_167 255 216 (dk_at dksX1_requireReady_3 3 rfl rfl)
theorem dX1_requireReady_76 : decode cX1_requireReady 76 = .ok (.iconst 0, 1) := dk_3 (dk_at dksX1_requireReady_3 6 rfl rfl)
theorem dX1_requireReady_77 : decode cX1_requireReady 77 = .ok (.istore_n 2, 1) := dk_61 (dk_at dksX1_requireReady_3 7 rfl rfl)
theorem dX1_requireReady_78 : decode cX1_requireReady 78 = .ok (.iload_n 2, 1) := dk_28 (dk_at dksX1_requireReady_3 8 rfl rfl)
theorem dX1_requireReady_79 : decode cX1_requireReady 79 = .ok (.aload_n 1, 1) := dk_43 (dk_at dksX1_requireReady_3 9 rfl rfl)
theorem dX1_requireReady_80 : decode cX1_requireReady 80 = .ok (.getfield 323, 3) := dk_180 1 67 (dk_at dksX1_requireReady_3 10 rfl rfl)
theorem dX1_requireReady_83 : decode cX1_requireReady 83 = .ok (.if_icmp .ge 69, 3) := dk_162 0 69 (dk_at dksX1_requireReady_3 13 rfl rfl)
theorem dX1_requireReady_86 : decode cX1_requireReady 86 = .ok (.iconst 0, 1) := dk_3 (dk_at dksX1_requireReady_3 16 rfl rfl)
theorem dX1_requireReady_87 : decode cX1_requireReady 87 = .ok (.istore_n 3, 1) := dk_62 (dk_at dksX1_requireReady_3 17 rfl rfl)
theorem dX1_requireReady_88 : decode cX1_requireReady 88 = .ok (.iload_n 3, 1) := dk_29 (dk_at dksX1_requireReady_3 18 rfl rfl)
theorem dX1_requireReady_89 : decode cX1_requireReady 89 = .ok (.aload_n 1, 1) := dk_43 (dk_at dksX1_requireReady_3 19 rfl rfl)
theorem dX1_requireReady_90 : decode cX1_requireReady 90 = .ok (.iload_n 2, 1) := dk_28 (dk_at dksX1_requireReady_3 20 rfl rfl)
theorem dX1_requireReady_91 : decode cX1_requireReady 91 = .ok (.invokevirtual 326, 3) := dk_182 1 70 (dk_at dksX1_requireReady_3 21 rfl rfl)
theorem dX1_requireReady_94 : decode cX1_requireReady 94 = .ok (.invokeinterface 13 1, 5) := by decide +kernel
theorem dX1_requireReady_99 : decode cX1_requireReady 99 = .ok (.if_icmp .ge 47, 3) := dk_162 0 47 (dk_at dksX1_requireReady_4 5 rfl rfl)
theorem dX1_requireReady_102 : decode cX1_requireReady 102 = .ok (.aload_n 1, 1) := dk_43 (dk_at dksX1_requireReady_4 8 rfl rfl)
theorem dX1_requireReady_103 : decode cX1_requireReady 103 = .ok (.getfield 270, 3) := dk_180 1 14 (dk_at dksX1_requireReady_4 9 rfl rfl)
theorem dX1_requireReady_106 : decode cX1_requireReady 106 = .ok (.getfield 367, 3) := dk_180 1 111 (dk_at dksX1_requireReady_4 12 rfl rfl)
theorem dX1_requireReady_109 : decode cX1_requireReady 109 = .ok (.iload_n 2, 1) := dk_28 (dk_at dksX1_requireReady_4 15 rfl rfl)
theorem dX1_requireReady_110 : decode cX1_requireReady 110 = .ok (.aaload, 1) := dk_50 (dk_at dksX1_requireReady_4 16 rfl rfl)
theorem dX1_requireReady_111 : decode cX1_requireReady 111 = .ok (.iload_n 3, 1) := dk_29 (dk_at dksX1_requireReady_4 17 rfl rfl)
theorem dX1_requireReady_112 : decode cX1_requireReady 112 = .ok (.aaload, 1) := dk_50 (dk_at dksX1_requireReady_4 18 rfl rfl)
theorem dX1_requireReady_113 : decode cX1_requireReady 113 = .ok (.ifnonnull 27, 3) := dk_199 0 27 (dk_at dksX1_requireReady_4 19 rfl rfl)
theorem dX1_requireReady_116 : decode cX1_requireReady 116 = .ok (.aload_n 0, 1) := dk_42 (dk_at dksX1_requireReady_4 22 rfl rfl)
theorem dX1_requireReady_117 : decode cX1_requireReady 117 = .ok (.iconst 4, 1) := dk_7 (dk_at dksX1_requireReady_4 23 rfl rfl)
theorem dX1_requireReady_118 : decode cX1_requireReady 118 = .ok (.newarray .int, 2) := dk_188_10 (dk_at dksX1_requireReady_5 0 rfl rfl)
theorem dX1_requireReady_120 : decode cX1_requireReady 120 = .ok (.dup, 1) := dk_89 (dk_at dksX1_requireReady_5 2 rfl rfl)
theorem dX1_requireReady_121 : decode cX1_requireReady 121 = .ok (.iconst 0, 1) := dk_3 (dk_at dksX1_requireReady_5 3 rfl rfl)
theorem dX1_requireReady_122 : decode cX1_requireReady 122 = .ok (.iconst 2, 1) := dk_5 (dk_at dksX1_requireReady_5 4 rfl rfl)
theorem dX1_requireReady_123 : decode cX1_requireReady 123 = .ok (.iastore, 1) := dk_79 (dk_at dksX1_requireReady_5 5 rfl rfl)
theorem dX1_requireReady_124 : decode cX1_requireReady 124 = .ok (.dup, 1) := dk_89 (dk_at dksX1_requireReady_5 6 rfl rfl)
theorem dX1_requireReady_125 : decode cX1_requireReady 125 = .ok (.iconst 1, 1) := dk_4 (dk_at dksX1_requireReady_5 7 rfl rfl)
theorem dX1_requireReady_126 : decode cX1_requireReady 126 = .ok (.bipush 22, 2) := dk_16 22 (dk_at dksX1_requireReady_5 8 rfl rfl)
theorem dX1_requireReady_128 : decode cX1_requireReady 128 = .ok (.iastore, 1) := dk_79 (dk_at dksX1_requireReady_5 10 rfl rfl)
theorem dX1_requireReady_129 : decode cX1_requireReady 129 = .ok (.dup, 1) := dk_89 (dk_at dksX1_requireReady_5 11 rfl rfl)
theorem dX1_requireReady_130 : decode cX1_requireReady 130 = .ok (.iconst 2, 1) := dk_5 (dk_at dksX1_requireReady_5 12 rfl rfl)
theorem dX1_requireReady_131 : decode cX1_requireReady 131 = .ok (.iload_n 2, 1) := dk_28 (dk_at dksX1_requireReady_5 13 rfl rfl)
theorem dX1_requireReady_132 : decode cX1_requireReady 132 = .ok (.iastore, 1) := dk_79 (dk_at dksX1_requireReady_5 14 rfl rfl)
theorem dX1_requireReady_133 : decode cX1_requireReady 133 = .ok (.dup, 1) := dk_89 (dk_at dksX1_requireReady_5 15 rfl rfl)
theorem dX1_requireReady_134 : decode cX1_requireReady 134 = .ok (.iconst 3, 1) := dk_6 (dk_at dksX1_requireReady_5 16 rfl rfl)
theorem dX1_requireReady_135 : decode cX1_requireReady 135 = .ok (.iload_n 3, 1) := dk_29 (dk_at dksX1_requireReady_5 17 rfl rfl)
theorem dX1_requireReady_136 : decode cX1_requireReady 136 = .ok (.iastore, 1) := dk_79 (dk_at dksX1_requireReady_5 18 rfl rfl)
theorem dX1_requireReady_137 : decode cX1_requireReady 137 = .ok (.invokevirtual 261, 3) := dk_182 1 5 (dk_at dksX1_requireReady_5 19 rfl rfl)
theorem dX1_requireReady_140 : decode cX1_requireReady 140 = .ok (.iinc 3 1, 3) := dk_132 3 1 (dk_at dksX1_requireReady_6 0 rfl rfl)
theorem dX1_requireReady_143 : decode cX1_requireReady 143 = .ok (.goto (-55), 3) := dk_167 255 201 (dk_at dksX1_requireReady_6 3 rfl rfl)
theorem dX1_requireReady_146 : decode cX1_requireReady 146 = .ok (.iinc 2 1, 3) := dk_132 2 1 (dk_at dksX1_requireReady_6 6 rfl rfl)
theorem dX1_requireReady_149 : decode cX1_requireReady 149 = .ok (.goto (-71), 3) := dk_167 255 185 (dk_at dksX1_requireReady_6 9 rfl rfl)
theorem dX1_requireReady_152 : decode cX1_requireReady 152 = .ok (.return_, 1) := dk_177 (dk_at dksX1_requireReady_6 12 rfl rfl)
abbrev cX1_formation : ByteArray := prog_1_method_38_code
def yX1_formation : MethodName := ⟨RX1, "formation", "(IIII)I"⟩
def dkwX1_formation_7 : List UInt8 := [25, 6, 182, 1, 151, 172]
abbrev dktX1_formation_7 : List UInt8 := dkwX1_formation_7 ++ []
def dkwX1_formation_6 : List UInt8 := [21, 5, 100, 184, 0, 148, 183, 1, 150, 58, 6, 42, 180, 0, 52, 25, 6, 185, 0, 93, 2, 0, 54, 7]
abbrev dktX1_formation_6 : List UInt8 := dkwX1_formation_6 ++ dktX1_formation_7
def dkwX1_formation_5 : List UInt8 := [100, 184, 0, 148, 3, 27, 16, 8, 100, 184, 0, 148, 96, 104, 96, 54, 5, 187, 1, 148, 89, 3, 21, 4]
abbrev dktX1_formation_5 : List UInt8 := dkwX1_formation_5 ++ dktX1_formation_6
def dkwX1_formation_4 : List UInt8 := [184, 1, 145, 96, 3, 29, 17, 0, 210, 100, 184, 0, 148, 8, 184, 1, 145, 96, 16, 10, 3, 16, 6, 27]
abbrev dktX1_formation_4 : List UInt8 := dkwX1_formation_4 ++ dktX1_formation_5
def dkwX1_formation_3 : List UInt8 := [3, 184, 0, 85, 8, 3, 28, 6, 100, 184, 0, 148, 104, 3, 17, 0, 150, 29, 100, 184, 0, 148, 8]
abbrev dktX1_formation_3 : List UInt8 := dkwX1_formation_3 ++ dktX1_formation_4
def dkwX1_formation_2 : List UInt8 := [167, 0, 4, 3, 184, 0, 82, 42, 180, 0, 52, 185, 0, 13, 1, 0, 7, 162, 0, 7, 4, 167, 0, 4]
abbrev dktX1_formation_2 : List UInt8 := dkwX1_formation_2 ++ dktX1_formation_3
def dkwX1_formation_1 : List UInt8 := [17, 2, 88, 184, 0, 19, 153, 0, 19, 21, 4, 3, 17, 3, 232, 184, 0, 19, 153, 0, 7, 4]
abbrev dktX1_formation_1 : List UInt8 := dkwX1_formation_1 ++ dktX1_formation_2
def dkwX1_formation_0 : List UInt8 := [27, 4, 16, 12, 184, 0, 19, 153, 0, 40, 28, 3, 16, 20, 184, 0, 19, 153, 0, 30, 29, 4]
abbrev dktX1_formation_0 : List UInt8 := dkwX1_formation_0 ++ dktX1_formation_1
theorem dksX1_formation_0 : cX1_formation.data.toList.drop 0 = dktX1_formation_0 := by decide +kernel
theorem dksX1_formation_1 : cX1_formation.data.toList.drop 22 = dktX1_formation_1 := dk_seg dksX1_formation_0 22 rfl rfl
theorem dksX1_formation_2 : cX1_formation.data.toList.drop 44 = dktX1_formation_2 := dk_seg dksX1_formation_1 22 rfl rfl
theorem dksX1_formation_3 : cX1_formation.data.toList.drop 68 = dktX1_formation_3 := dk_seg dksX1_formation_2 24 rfl rfl
theorem dksX1_formation_4 : cX1_formation.data.toList.drop 91 = dktX1_formation_4 := dk_seg dksX1_formation_3 23 rfl rfl
theorem dksX1_formation_5 : cX1_formation.data.toList.drop 115 = dktX1_formation_5 := dk_seg dksX1_formation_4 24 rfl rfl
theorem dksX1_formation_6 : cX1_formation.data.toList.drop 139 = dktX1_formation_6 := dk_seg dksX1_formation_5 24 rfl rfl
theorem dksX1_formation_7 : cX1_formation.data.toList.drop 163 = dktX1_formation_7 := dk_seg dksX1_formation_6 24 rfl rfl
theorem dX1_formation_0 : decode cX1_formation 0 = .ok (.iload_n 1, 1) := dk_27 (dk_at dksX1_formation_0 0 rfl rfl)
theorem dX1_formation_1 : decode cX1_formation 1 = .ok (.iconst 1, 1) := dk_4 (dk_at dksX1_formation_0 1 rfl rfl)
theorem dX1_formation_2 : decode cX1_formation 2 = .ok (.bipush 12, 2) := dk_16 12 (dk_at dksX1_formation_0 2 rfl rfl)
theorem dX1_formation_4 : decode cX1_formation 4 = .ok (.invokestatic 19, 3) := dk_184 0 19 (dk_at dksX1_formation_0 4 rfl rfl)
theorem dX1_formation_7 : decode cX1_formation 7 = .ok (.ifCond .eq 40, 3) := dk_153 0 40 (dk_at dksX1_formation_0 7 rfl rfl)
theorem dX1_formation_10 : decode cX1_formation 10 = .ok (.iload_n 2, 1) := dk_28 (dk_at dksX1_formation_0 10 rfl rfl)
theorem dX1_formation_11 : decode cX1_formation 11 = .ok (.iconst 0, 1) := dk_3 (dk_at dksX1_formation_0 11 rfl rfl)
theorem dX1_formation_12 : decode cX1_formation 12 = .ok (.bipush 20, 2) := dk_16 20 (dk_at dksX1_formation_0 12 rfl rfl)
theorem dX1_formation_14 : decode cX1_formation 14 = .ok (.invokestatic 19, 3) := dk_184 0 19 (dk_at dksX1_formation_0 14 rfl rfl)
theorem dX1_formation_17 : decode cX1_formation 17 = .ok (.ifCond .eq 30, 3) := dk_153 0 30 (dk_at dksX1_formation_0 17 rfl rfl)
theorem dX1_formation_20 : decode cX1_formation 20 = .ok (.iload_n 3, 1) := dk_29 (dk_at dksX1_formation_0 20 rfl rfl)
theorem dX1_formation_21 : decode cX1_formation 21 = .ok (.iconst 1, 1) := dk_4 (dk_at dksX1_formation_0 21 rfl rfl)
theorem dX1_formation_22 : decode cX1_formation 22 = .ok (.sipush 600, 3) := dk_17 2 88 (dk_at dksX1_formation_1 0 rfl rfl)
theorem dX1_formation_25 : decode cX1_formation 25 = .ok (.invokestatic 19, 3) := dk_184 0 19 (dk_at dksX1_formation_1 3 rfl rfl)
theorem dX1_formation_28 : decode cX1_formation 28 = .ok (.ifCond .eq 19, 3) := dk_153 0 19 (dk_at dksX1_formation_1 6 rfl rfl)
theorem dX1_formation_31 : decode cX1_formation 31 = .ok (.iload 4, 2) := dk_21 4 (dk_at dksX1_formation_1 9 rfl rfl)
theorem dX1_formation_33 : decode cX1_formation 33 = .ok (.iconst 0, 1) := dk_3 (dk_at dksX1_formation_1 11 rfl rfl)
theorem dX1_formation_34 : decode cX1_formation 34 = .ok (.sipush 1000, 3) := dk_17 3 232 (dk_at dksX1_formation_1 12 rfl rfl)
theorem dX1_formation_37 : decode cX1_formation 37 = .ok (.invokestatic 19, 3) := dk_184 0 19 (dk_at dksX1_formation_1 15 rfl rfl)
theorem dX1_formation_40 : decode cX1_formation 40 = .ok (.ifCond .eq 7, 3) := dk_153 0 7 (dk_at dksX1_formation_1 18 rfl rfl)
theorem dX1_formation_43 : decode cX1_formation 43 = .ok (.iconst 1, 1) := dk_4 (dk_at dksX1_formation_1 21 rfl rfl)
theorem dX1_formation_44 : decode cX1_formation 44 = .ok (.goto 4, 3) := dk_167 0 4 (dk_at dksX1_formation_2 0 rfl rfl)
theorem dX1_formation_47 : decode cX1_formation 47 = .ok (.iconst 0, 1) := dk_3 (dk_at dksX1_formation_2 3 rfl rfl)
theorem dX1_formation_48 : decode cX1_formation 48 = .ok (.invokestatic 82, 3) := dk_184 0 82 (dk_at dksX1_formation_2 4 rfl rfl)
theorem dX1_formation_51 : decode cX1_formation 51 = .ok (.aload_n 0, 1) := dk_42 (dk_at dksX1_formation_2 7 rfl rfl)
theorem dX1_formation_52 : decode cX1_formation 52 = .ok (.getfield 52, 3) := dk_180 0 52 (dk_at dksX1_formation_2 8 rfl rfl)
theorem dX1_formation_55 : decode cX1_formation 55 = .ok (.invokeinterface 13 1, 5) := by decide +kernel
theorem dX1_formation_60 : decode cX1_formation 60 = .ok (.iconst 4, 1) := dk_7 (dk_at dksX1_formation_2 16 rfl rfl)
theorem dX1_formation_61 : decode cX1_formation 61 = .ok (.if_icmp .ge 7, 3) := dk_162 0 7 (dk_at dksX1_formation_2 17 rfl rfl)
theorem dX1_formation_64 : decode cX1_formation 64 = .ok (.iconst 1, 1) := dk_4 (dk_at dksX1_formation_2 20 rfl rfl)
theorem dX1_formation_65 : decode cX1_formation 65 = .ok (.goto 4, 3) := dk_167 0 4 (dk_at dksX1_formation_2 21 rfl rfl)
theorem dX1_formation_68 : decode cX1_formation 68 = .ok (.iconst 0, 1) := dk_3 (dk_at dksX1_formation_3 0 rfl rfl)
theorem dX1_formation_69 : decode cX1_formation 69 = .ok (.invokestatic 85, 3) := dk_184 0 85 (dk_at dksX1_formation_3 1 rfl rfl)
theorem dX1_formation_72 : decode cX1_formation 72 = .ok (.iconst 5, 1) := dk_8 (dk_at dksX1_formation_3 4 rfl rfl)
theorem dX1_formation_73 : decode cX1_formation 73 = .ok (.iconst 0, 1) := dk_3 (dk_at dksX1_formation_3 5 rfl rfl)
theorem dX1_formation_74 : decode cX1_formation 74 = .ok (.iload_n 2, 1) := dk_28 (dk_at dksX1_formation_3 6 rfl rfl)
theorem dX1_formation_75 : decode cX1_formation 75 = .ok (.iconst 3, 1) := dk_6 (dk_at dksX1_formation_3 7 rfl rfl)
theorem dX1_formation_76 : decode cX1_formation 76 = .ok (.isub, 1) := dk_100 (dk_at dksX1_formation_3 8 rfl rfl)
theorem dX1_formation_77 : decode cX1_formation 77 = .ok (.invokestatic 148, 3) := dk_184 0 148 (dk_at dksX1_formation_3 9 rfl rfl)
theorem dX1_formation_80 : decode cX1_formation 80 = .ok (.imul, 1) := dk_104 (dk_at dksX1_formation_3 12 rfl rfl)
theorem dX1_formation_81 : decode cX1_formation 81 = .ok (.iconst 0, 1) := dk_3 (dk_at dksX1_formation_3 13 rfl rfl)
theorem dX1_formation_82 : decode cX1_formation 82 = .ok (.sipush 150, 3) := dk_17 0 150 (dk_at dksX1_formation_3 14 rfl rfl)
theorem dX1_formation_85 : decode cX1_formation 85 = .ok (.iload_n 3, 1) := dk_29 (dk_at dksX1_formation_3 17 rfl rfl)
theorem dX1_formation_86 : decode cX1_formation 86 = .ok (.isub, 1) := dk_100 (dk_at dksX1_formation_3 18 rfl rfl)
theorem dX1_formation_87 : decode cX1_formation 87 = .ok (.invokestatic 148, 3) := dk_184 0 148 (dk_at dksX1_formation_3 19 rfl rfl)
theorem dX1_formation_90 : decode cX1_formation 90 = .ok (.iconst 5, 1) := dk_8 (dk_at dksX1_formation_3 22 rfl rfl)
theorem dX1_formation_91 : decode cX1_formation 91 = .ok (.invokestatic 401, 3) := dk_184 1 145 (dk_at dksX1_formation_4 0 rfl rfl)
theorem dX1_formation_94 : decode cX1_formation 94 = .ok (.iadd, 1) := dk_96 (dk_at dksX1_formation_4 3 rfl rfl)
theorem dX1_formation_95 : decode cX1_formation 95 = .ok (.iconst 0, 1) := dk_3 (dk_at dksX1_formation_4 4 rfl rfl)
theorem dX1_formation_96 : decode cX1_formation 96 = .ok (.iload_n 3, 1) := dk_29 (dk_at dksX1_formation_4 5 rfl rfl)
theorem dX1_formation_97 : decode cX1_formation 97 = .ok (.sipush 210, 3) := dk_17 0 210 (dk_at dksX1_formation_4 6 rfl rfl)
theorem dX1_formation_100 : decode cX1_formation 100 = .ok (.isub, 1) := dk_100 (dk_at dksX1_formation_4 9 rfl rfl)
theorem dX1_formation_101 : decode cX1_formation 101 = .ok (.invokestatic 148, 3) := dk_184 0 148 (dk_at dksX1_formation_4 10 rfl rfl)
theorem dX1_formation_104 : decode cX1_formation 104 = .ok (.iconst 5, 1) := dk_8 (dk_at dksX1_formation_4 13 rfl rfl)
theorem dX1_formation_105 : decode cX1_formation 105 = .ok (.invokestatic 401, 3) := dk_184 1 145 (dk_at dksX1_formation_4 14 rfl rfl)
theorem dX1_formation_108 : decode cX1_formation 108 = .ok (.iadd, 1) := dk_96 (dk_at dksX1_formation_4 17 rfl rfl)
theorem dX1_formation_109 : decode cX1_formation 109 = .ok (.bipush 10, 2) := dk_16 10 (dk_at dksX1_formation_4 18 rfl rfl)
theorem dX1_formation_111 : decode cX1_formation 111 = .ok (.iconst 0, 1) := dk_3 (dk_at dksX1_formation_4 20 rfl rfl)
theorem dX1_formation_112 : decode cX1_formation 112 = .ok (.bipush 6, 2) := dk_16 6 (dk_at dksX1_formation_4 21 rfl rfl)
theorem dX1_formation_114 : decode cX1_formation 114 = .ok (.iload_n 1, 1) := dk_27 (dk_at dksX1_formation_4 23 rfl rfl)
theorem dX1_formation_115 : decode cX1_formation 115 = .ok (.isub, 1) := dk_100 (dk_at dksX1_formation_5 0 rfl rfl)
theorem dX1_formation_116 : decode cX1_formation 116 = .ok (.invokestatic 148, 3) := dk_184 0 148 (dk_at dksX1_formation_5 1 rfl rfl)
theorem dX1_formation_119 : decode cX1_formation 119 = .ok (.iconst 0, 1) := dk_3 (dk_at dksX1_formation_5 4 rfl rfl)
theorem dX1_formation_120 : decode cX1_formation 120 = .ok (.iload_n 1, 1) := dk_27 (dk_at dksX1_formation_5 5 rfl rfl)
theorem dX1_formation_121 : decode cX1_formation 121 = .ok (.bipush 8, 2) := dk_16 8 (dk_at dksX1_formation_5 6 rfl rfl)
theorem dX1_formation_123 : decode cX1_formation 123 = .ok (.isub, 1) := dk_100 (dk_at dksX1_formation_5 8 rfl rfl)
theorem dX1_formation_124 : decode cX1_formation 124 = .ok (.invokestatic 148, 3) := dk_184 0 148 (dk_at dksX1_formation_5 9 rfl rfl)
theorem dX1_formation_127 : decode cX1_formation 127 = .ok (.iadd, 1) := dk_96 (dk_at dksX1_formation_5 12 rfl rfl)
theorem dX1_formation_128 : decode cX1_formation 128 = .ok (.imul, 1) := dk_104 (dk_at dksX1_formation_5 13 rfl rfl)
theorem dX1_formation_129 : decode cX1_formation 129 = .ok (.iadd, 1) := dk_96 (dk_at dksX1_formation_5 14 rfl rfl)
theorem dX1_formation_130 : decode cX1_formation 130 = .ok (.istore 5, 2) := dk_54 5 (dk_at dksX1_formation_5 15 rfl rfl)
theorem dX1_formation_132 : decode cX1_formation 132 = .ok (.new 404, 3) := dk_187 1 148 (dk_at dksX1_formation_5 17 rfl rfl)
theorem dX1_formation_135 : decode cX1_formation 135 = .ok (.dup, 1) := dk_89 (dk_at dksX1_formation_5 20 rfl rfl)
theorem dX1_formation_136 : decode cX1_formation 136 = .ok (.iconst 0, 1) := dk_3 (dk_at dksX1_formation_5 21 rfl rfl)
theorem dX1_formation_137 : decode cX1_formation 137 = .ok (.iload 4, 2) := dk_21 4 (dk_at dksX1_formation_5 22 rfl rfl)
theorem dX1_formation_139 : decode cX1_formation 139 = .ok (.iload 5, 2) := dk_21 5 (dk_at dksX1_formation_6 0 rfl rfl)
theorem dX1_formation_141 : decode cX1_formation 141 = .ok (.isub, 1) := dk_100 (dk_at dksX1_formation_6 2 rfl rfl)
theorem dX1_formation_142 : decode cX1_formation 142 = .ok (.invokestatic 148, 3) := dk_184 0 148 (dk_at dksX1_formation_6 3 rfl rfl)
theorem dX1_formation_145 : decode cX1_formation 145 = .ok (.invokespecial 406, 3) := dk_183 1 150 (dk_at dksX1_formation_6 6 rfl rfl)
theorem dX1_formation_148 : decode cX1_formation 148 = .ok (.astore 6, 2) := dk_58 6 (dk_at dksX1_formation_6 9 rfl rfl)
theorem dX1_formation_150 : decode cX1_formation 150 = .ok (.aload_n 0, 1) := dk_42 (dk_at dksX1_formation_6 11 rfl rfl)
theorem dX1_formation_151 : decode cX1_formation 151 = .ok (.getfield 52, 3) := dk_180 0 52 (dk_at dksX1_formation_6 12 rfl rfl)
theorem dX1_formation_154 : decode cX1_formation 154 = .ok (.aload 6, 2) := dk_25 6 (dk_at dksX1_formation_6 15 rfl rfl)
theorem dX1_formation_156 : decode cX1_formation 156 = .ok (.invokeinterface 93 2, 5) := by decide +kernel
theorem dX1_formation_161 : decode cX1_formation 161 = .ok (.istore 7, 2) := dk_54 7 (dk_at dksX1_formation_6 22 rfl rfl)
theorem dX1_formation_163 : decode cX1_formation 163 = .ok (.aload 6, 2) := dk_25 6 (dk_at dksX1_formation_7 0 rfl rfl)
theorem dX1_formation_165 : decode cX1_formation 165 = .ok (.invokevirtual 407, 3) := dk_182 1 151 (dk_at dksX1_formation_7 2 rfl rfl)
theorem dX1_formation_168 : decode cX1_formation 168 = .ok (.ireturn, 1) := dk_172 (dk_at dksX1_formation_7 5 rfl rfl)
abbrev cX1_music : ByteArray := prog_1_method_40_code
def yX1_music : MethodName := ⟨RX1, "music", "(IIII)I"⟩
def dkwX1_music_3 : List UInt8 := [28, 182, 1, 154, 172]
abbrev dktX1_music_3 : List UInt8 := dkwX1_music_3 ++ []
def dkwX1_music_2 : List UInt8 := [184, 0, 82, 42, 180, 0, 63, 27, 50, 28, 29, 79, 42, 180, 0, 66, 27, 50, 28, 21, 4, 79, 42, 27]
abbrev dktX1_music_2 : List UInt8 := dkwX1_music_2 ++ dktX1_music_3
def dkwX1_music_1 : List UInt8 := [184, 0, 19, 153, 0, 19, 21, 4, 16, 20, 16, 120, 184, 0, 19, 153, 0, 7, 4, 167, 0, 4, 3]
abbrev dktX1_music_1 : List UInt8 := dkwX1_music_1 ++ dktX1_music_2
def dkwX1_music_0 : List UInt8 := [27, 3, 4, 184, 0, 19, 153, 0, 39, 28, 3, 7, 184, 0, 19, 153, 0, 30, 29, 16, 20, 16, 70]
abbrev dktX1_music_0 : List UInt8 := dkwX1_music_0 ++ dktX1_music_1
theorem dksX1_music_0 : cX1_music.data.toList.drop 0 = dktX1_music_0 := by decide +kernel
theorem dksX1_music_1 : cX1_music.data.toList.drop 23 = dktX1_music_1 := dk_seg dksX1_music_0 23 rfl rfl
theorem dksX1_music_2 : cX1_music.data.toList.drop 46 = dktX1_music_2 := dk_seg dksX1_music_1 23 rfl rfl
theorem dksX1_music_3 : cX1_music.data.toList.drop 70 = dktX1_music_3 := dk_seg dksX1_music_2 24 rfl rfl
theorem dX1_music_0 : decode cX1_music 0 = .ok (.iload_n 1, 1) := dk_27 (dk_at dksX1_music_0 0 rfl rfl)
theorem dX1_music_1 : decode cX1_music 1 = .ok (.iconst 0, 1) := dk_3 (dk_at dksX1_music_0 1 rfl rfl)
theorem dX1_music_2 : decode cX1_music 2 = .ok (.iconst 1, 1) := dk_4 (dk_at dksX1_music_0 2 rfl rfl)
theorem dX1_music_3 : decode cX1_music 3 = .ok (.invokestatic 19, 3) := dk_184 0 19 (dk_at dksX1_music_0 3 rfl rfl)
theorem dX1_music_6 : decode cX1_music 6 = .ok (.ifCond .eq 39, 3) := dk_153 0 39 (dk_at dksX1_music_0 6 rfl rfl)
theorem dX1_music_9 : decode cX1_music 9 = .ok (.iload_n 2, 1) := dk_28 (dk_at dksX1_music_0 9 rfl rfl)
theorem dX1_music_10 : decode cX1_music 10 = .ok (.iconst 0, 1) := dk_3 (dk_at dksX1_music_0 10 rfl rfl)
theorem dX1_music_11 : decode cX1_music 11 = .ok (.iconst 4, 1) := dk_7 (dk_at dksX1_music_0 11 rfl rfl)
theorem dX1_music_12 : decode cX1_music 12 = .ok (.invokestatic 19, 3) := dk_184 0 19 (dk_at dksX1_music_0 12 rfl rfl)
theorem dX1_music_15 : decode cX1_music 15 = .ok (.ifCond .eq 30, 3) := dk_153 0 30 (dk_at dksX1_music_0 15 rfl rfl)
theorem dX1_music_18 : decode cX1_music 18 = .ok (.iload_n 3, 1) := dk_29 (dk_at dksX1_music_0 18 rfl rfl)
theorem dX1_music_19 : decode cX1_music 19 = .ok (.bipush 20, 2) := dk_16 20 (dk_at dksX1_music_0 19 rfl rfl)
theorem dX1_music_21 : decode cX1_music 21 = .ok (.bipush 70, 2) := dk_16 70 (dk_at dksX1_music_0 21 rfl rfl)
theorem dX1_music_23 : decode cX1_music 23 = .ok (.invokestatic 19, 3) := dk_184 0 19 (dk_at dksX1_music_1 0 rfl rfl)
theorem dX1_music_26 : decode cX1_music 26 = .ok (.ifCond .eq 19, 3) := dk_153 0 19 (dk_at dksX1_music_1 3 rfl rfl)
theorem dX1_music_29 : decode cX1_music 29 = .ok (.iload 4, 2) := dk_21 4 (dk_at dksX1_music_1 6 rfl rfl)
theorem dX1_music_31 : decode cX1_music 31 = .ok (.bipush 20, 2) := dk_16 20 (dk_at dksX1_music_1 8 rfl rfl)
theorem dX1_music_33 : decode cX1_music 33 = .ok (.bipush 120, 2) := dk_16 120 (dk_at dksX1_music_1 10 rfl rfl)
theorem dX1_music_35 : decode cX1_music 35 = .ok (.invokestatic 19, 3) := dk_184 0 19 (dk_at dksX1_music_1 12 rfl rfl)
theorem dX1_music_38 : decode cX1_music 38 = .ok (.ifCond .eq 7, 3) := dk_153 0 7 (dk_at dksX1_music_1 15 rfl rfl)
theorem dX1_music_41 : decode cX1_music 41 = .ok (.iconst 1, 1) := dk_4 (dk_at dksX1_music_1 18 rfl rfl)
theorem dX1_music_42 : decode cX1_music 42 = .ok (.goto 4, 3) := dk_167 0 4 (dk_at dksX1_music_1 19 rfl rfl)
theorem dX1_music_45 : decode cX1_music 45 = .ok (.iconst 0, 1) := dk_3 (dk_at dksX1_music_1 22 rfl rfl)
theorem dX1_music_46 : decode cX1_music 46 = .ok (.invokestatic 82, 3) := dk_184 0 82 (dk_at dksX1_music_2 0 rfl rfl)
theorem dX1_music_49 : decode cX1_music 49 = .ok (.aload_n 0, 1) := dk_42 (dk_at dksX1_music_2 3 rfl rfl)
theorem dX1_music_50 : decode cX1_music 50 = .ok (.getfield 63, 3) := dk_180 0 63 (dk_at dksX1_music_2 4 rfl rfl)
theorem dX1_music_53 : decode cX1_music 53 = .ok (.iload_n 1, 1) := dk_27 (dk_at dksX1_music_2 7 rfl rfl)
theorem dX1_music_54 : decode cX1_music 54 = .ok (.aaload, 1) := dk_50 (dk_at dksX1_music_2 8 rfl rfl)
theorem dX1_music_55 : decode cX1_music 55 = .ok (.iload_n 2, 1) := dk_28 (dk_at dksX1_music_2 9 rfl rfl)
theorem dX1_music_56 : decode cX1_music 56 = .ok (.iload_n 3, 1) := dk_29 (dk_at dksX1_music_2 10 rfl rfl)
theorem dX1_music_57 : decode cX1_music 57 = .ok (.iastore, 1) := dk_79 (dk_at dksX1_music_2 11 rfl rfl)
theorem dX1_music_58 : decode cX1_music 58 = .ok (.aload_n 0, 1) := dk_42 (dk_at dksX1_music_2 12 rfl rfl)
theorem dX1_music_59 : decode cX1_music 59 = .ok (.getfield 66, 3) := dk_180 0 66 (dk_at dksX1_music_2 13 rfl rfl)
theorem dX1_music_62 : decode cX1_music 62 = .ok (.iload_n 1, 1) := dk_27 (dk_at dksX1_music_2 16 rfl rfl)
theorem dX1_music_63 : decode cX1_music 63 = .ok (.aaload, 1) := dk_50 (dk_at dksX1_music_2 17 rfl rfl)
theorem dX1_music_64 : decode cX1_music 64 = .ok (.iload_n 2, 1) := dk_28 (dk_at dksX1_music_2 18 rfl rfl)
theorem dX1_music_65 : decode cX1_music 65 = .ok (.iload 4, 2) := dk_21 4 (dk_at dksX1_music_2 19 rfl rfl)
theorem dX1_music_67 : decode cX1_music 67 = .ok (.iastore, 1) := dk_79 (dk_at dksX1_music_2 21 rfl rfl)
theorem dX1_music_68 : decode cX1_music 68 = .ok (.aload_n 0, 1) := dk_42 (dk_at dksX1_music_2 22 rfl rfl)
theorem dX1_music_69 : decode cX1_music 69 = .ok (.iload_n 1, 1) := dk_27 (dk_at dksX1_music_2 23 rfl rfl)
theorem dX1_music_70 : decode cX1_music 70 = .ok (.iload_n 2, 1) := dk_28 (dk_at dksX1_music_3 0 rfl rfl)
theorem dX1_music_71 : decode cX1_music 71 = .ok (.invokevirtual 410, 3) := dk_182 1 154 (dk_at dksX1_music_3 1 rfl rfl)
theorem dX1_music_74 : decode cX1_music 74 = .ok (.ireturn, 1) := dk_172 (dk_at dksX1_music_3 4 rfl rfl)
abbrev cX1_length : ByteArray := prog_1_method_39_code
def yX1_length : MethodName := ⟨RX1, "length", "(II)I"⟩
def dkwX1_length_0 : List UInt8 := [16, 60, 42, 180, 0, 66, 27, 50, 28, 46, 104, 42, 180, 0, 63, 27, 50, 28, 46, 184, 1, 145, 172]
abbrev dktX1_length_0 : List UInt8 := dkwX1_length_0 ++ []
theorem dksX1_length_0 : cX1_length.data.toList.drop 0 = dktX1_length_0 := by decide +kernel
theorem dX1_length_0 : decode cX1_length 0 = .ok (.bipush 60, 2) := dk_16 60 (dk_at dksX1_length_0 0 rfl rfl)
theorem dX1_length_2 : decode cX1_length 2 = .ok (.aload_n 0, 1) := dk_42 (dk_at dksX1_length_0 2 rfl rfl)
theorem dX1_length_3 : decode cX1_length 3 = .ok (.getfield 66, 3) := dk_180 0 66 (dk_at dksX1_length_0 3 rfl rfl)
theorem dX1_length_6 : decode cX1_length 6 = .ok (.iload_n 1, 1) := dk_27 (dk_at dksX1_length_0 6 rfl rfl)
theorem dX1_length_7 : decode cX1_length 7 = .ok (.aaload, 1) := dk_50 (dk_at dksX1_length_0 7 rfl rfl)
theorem dX1_length_8 : decode cX1_length 8 = .ok (.iload_n 2, 1) := dk_28 (dk_at dksX1_length_0 8 rfl rfl)
theorem dX1_length_9 : decode cX1_length 9 = .ok (.iaload, 1) := dk_46 (dk_at dksX1_length_0 9 rfl rfl)
theorem dX1_length_10 : decode cX1_length 10 = .ok (.imul, 1) := dk_104 (dk_at dksX1_length_0 10 rfl rfl)
theorem dX1_length_11 : decode cX1_length 11 = .ok (.aload_n 0, 1) := dk_42 (dk_at dksX1_length_0 11 rfl rfl)
theorem dX1_length_12 : decode cX1_length 12 = .ok (.getfield 63, 3) := dk_180 0 63 (dk_at dksX1_length_0 12 rfl rfl)
theorem dX1_length_15 : decode cX1_length 15 = .ok (.iload_n 1, 1) := dk_27 (dk_at dksX1_length_0 15 rfl rfl)
theorem dX1_length_16 : decode cX1_length 16 = .ok (.aaload, 1) := dk_50 (dk_at dksX1_length_0 16 rfl rfl)
theorem dX1_length_17 : decode cX1_length 17 = .ok (.iload_n 2, 1) := dk_28 (dk_at dksX1_length_0 17 rfl rfl)
theorem dX1_length_18 : decode cX1_length 18 = .ok (.iaload, 1) := dk_46 (dk_at dksX1_length_0 18 rfl rfl)
theorem dX1_length_19 : decode cX1_length 19 = .ok (.invokestatic 401, 3) := dk_184 1 145 (dk_at dksX1_length_0 19 rfl rfl)
theorem dX1_length_22 : decode cX1_length 22 = .ok (.ireturn, 1) := dk_172 (dk_at dksX1_length_0 22 rfl rfl)
abbrev cX1_plan : ByteArray := prog_1_method_42_code
def yX1_plan : MethodName := ⟨RX1, "plan", "(II)I"⟩
def dkwX1_plan_7 : List UInt8 := [185, 0, 93, 2, 0, 54, 5, 42, 180, 0, 55, 185, 0, 13, 1, 0, 4, 100, 172]
abbrev dktX1_plan_7 : List UInt8 := dkwX1_plan_7 ++ []
def dkwX1_plan_6 : List UInt8 := [42, 180, 0, 55, 187, 1, 158, 89, 45, 28, 42, 45, 182, 1, 160, 21, 4, 183, 1, 164]
abbrev dktX1_plan_6 : List UInt8 := dkwX1_plan_6 ++ dktX1_plan_7
def dkwX1_plan_5 : List UInt8 := [180, 1, 157, 120, 4, 25, 6, 180, 1, 49, 180, 0, 244, 180, 1, 157, 120, 128, 128, 54, 4, 167, 255, 202]
abbrev dktX1_plan_5 : List UInt8 := dkwX1_plan_5 ++ dktX1_plan_6
def dkwX1_plan_4 : List UInt8 := [25, 5, 185, 0, 167, 1, 0, 192, 1, 9, 58, 6, 21, 4, 4, 25, 6, 180, 1, 49, 180, 0, 237]
abbrev dktX1_plan_4 : List UInt8 := dkwX1_plan_4 ++ dktX1_plan_5
def dkwX1_plan_3 : List UInt8 := [45, 180, 1, 14, 180, 1, 18, 185, 0, 158, 1, 0, 58, 5, 25, 5, 185, 0, 162, 1, 0, 153, 0, 50]
abbrev dktX1_plan_3 : List UInt8 := dkwX1_plan_3 ++ dktX1_plan_4
def dkwX1_plan_2 : List UInt8 := [180, 0, 55, 185, 0, 13, 1, 0, 16, 16, 162, 0, 7, 4, 167, 0, 4, 3, 184, 0, 85, 3, 54, 4]
abbrev dktX1_plan_2 : List UInt8 := dkwX1_plan_2 ++ dktX1_plan_3
def dkwX1_plan_1 : List UInt8 := [182, 1, 105, 154, 0, 36, 45, 180, 1, 14, 180, 1, 18, 185, 0, 192, 1, 0, 154, 0, 21, 42]
abbrev dktX1_plan_1 : List UInt8 := dkwX1_plan_1 ++ dktX1_plan_2
def dkwX1_plan_0 : List UInt8 := [42, 180, 0, 49, 27, 184, 0, 97, 192, 0, 184, 78, 28, 3, 4, 184, 0, 19, 184, 0, 25, 45]
abbrev dktX1_plan_0 : List UInt8 := dkwX1_plan_0 ++ dktX1_plan_1
theorem dksX1_plan_0 : cX1_plan.data.toList.drop 0 = dktX1_plan_0 := by decide +kernel
theorem dksX1_plan_1 : cX1_plan.data.toList.drop 22 = dktX1_plan_1 := dk_seg dksX1_plan_0 22 rfl rfl
theorem dksX1_plan_2 : cX1_plan.data.toList.drop 44 = dktX1_plan_2 := dk_seg dksX1_plan_1 22 rfl rfl
theorem dksX1_plan_3 : cX1_plan.data.toList.drop 68 = dktX1_plan_3 := dk_seg dksX1_plan_2 24 rfl rfl
theorem dksX1_plan_4 : cX1_plan.data.toList.drop 92 = dktX1_plan_4 := dk_seg dksX1_plan_3 24 rfl rfl
theorem dksX1_plan_5 : cX1_plan.data.toList.drop 115 = dktX1_plan_5 := dk_seg dksX1_plan_4 23 rfl rfl
theorem dksX1_plan_6 : cX1_plan.data.toList.drop 139 = dktX1_plan_6 := dk_seg dksX1_plan_5 24 rfl rfl
theorem dksX1_plan_7 : cX1_plan.data.toList.drop 159 = dktX1_plan_7 := dk_seg dksX1_plan_6 20 rfl rfl
theorem dX1_plan_0 : decode cX1_plan 0 = .ok (.aload_n 0, 1) := dk_42 (dk_at dksX1_plan_0 0 rfl rfl)
theorem dX1_plan_1 : decode cX1_plan 1 = .ok (.getfield 49, 3) := dk_180 0 49 (dk_at dksX1_plan_0 1 rfl rfl)
theorem dX1_plan_4 : decode cX1_plan 4 = .ok (.iload_n 1, 1) := dk_27 (dk_at dksX1_plan_0 4 rfl rfl)
theorem dX1_plan_5 : decode cX1_plan 5 = .ok (.invokestatic 97, 3) := dk_184 0 97 (dk_at dksX1_plan_0 5 rfl rfl)
theorem dX1_plan_8 : decode cX1_plan 8 = .ok (.checkcast 184, 3) := dk_192 0 184 (dk_at dksX1_plan_0 8 rfl rfl)
theorem dX1_plan_11 : decode cX1_plan 11 = .ok (.astore_n 3, 1) := dk_78 (dk_at dksX1_plan_0 11 rfl rfl)
theorem dX1_plan_12 : decode cX1_plan 12 = .ok (.iload_n 2, 1) := dk_28 (dk_at dksX1_plan_0 12 rfl rfl)
theorem dX1_plan_13 : decode cX1_plan 13 = .ok (.iconst 0, 1) := dk_3 (dk_at dksX1_plan_0 13 rfl rfl)
theorem dX1_plan_14 : decode cX1_plan 14 = .ok (.iconst 1, 1) := dk_4 (dk_at dksX1_plan_0 14 rfl rfl)
theorem dX1_plan_15 : decode cX1_plan 15 = .ok (.invokestatic 19, 3) := dk_184 0 19 (dk_at dksX1_plan_0 15 rfl rfl)
theorem dX1_plan_18 : decode cX1_plan 18 = .ok (.invokestatic 25, 3) := dk_184 0 25 (dk_at dksX1_plan_0 18 rfl rfl)
theorem dX1_plan_21 : decode cX1_plan 21 = .ok (.aload_n 3, 1) := dk_45 (dk_at dksX1_plan_0 21 rfl rfl)
theorem dX1_plan_22 : decode cX1_plan 22 = .ok (.invokevirtual 361, 3) := dk_182 1 105 (dk_at dksX1_plan_1 0 rfl rfl)
theorem dX1_plan_25 : decode cX1_plan 25 = .ok (.ifCond .ne 36, 3) := dk_154 0 36 (dk_at dksX1_plan_1 3 rfl rfl)
theorem dX1_plan_28 : decode cX1_plan 28 = .ok (.aload_n 3, 1) := dk_45 (dk_at dksX1_plan_1 6 rfl rfl)
theorem dX1_plan_29 : decode cX1_plan 29 = .ok (.getfield 270, 3) := dk_180 1 14 (dk_at dksX1_plan_1 7 rfl rfl)
theorem dX1_plan_32 : decode cX1_plan 32 = .ok (.getfield 274, 3) := dk_180 1 18 (dk_at dksX1_plan_1 10 rfl rfl)
theorem dX1_plan_35 : decode cX1_plan 35 = .ok (.invokeinterface 192 1, 5) := by decide +kernel
theorem dX1_plan_40 : decode cX1_plan 40 = .ok (.ifCond .ne 21, 3) := dk_154 0 21 (dk_at dksX1_plan_1 18 rfl rfl)
theorem dX1_plan_43 : decode cX1_plan 43 = .ok (.aload_n 0, 1) := dk_42 (dk_at dksX1_plan_1 21 rfl rfl)
theorem dX1_plan_44 : decode cX1_plan 44 = .ok (.getfield 55, 3) := dk_180 0 55 (dk_at dksX1_plan_2 0 rfl rfl)
theorem dX1_plan_47 : decode cX1_plan 47 = .ok (.invokeinterface 13 1, 5) := by decide +kernel
theorem dX1_plan_52 : decode cX1_plan 52 = .ok (.bipush 16, 2) := dk_16 16 (dk_at dksX1_plan_2 8 rfl rfl)
theorem dX1_plan_54 : decode cX1_plan 54 = .ok (.if_icmp .ge 7, 3) := dk_162 0 7 (dk_at dksX1_plan_2 10 rfl rfl)
theorem dX1_plan_57 : decode cX1_plan 57 = .ok (.iconst 1, 1) := dk_4 (dk_at dksX1_plan_2 13 rfl rfl)
theorem dX1_plan_58 : decode cX1_plan 58 = .ok (.goto 4, 3) := dk_167 0 4 (dk_at dksX1_plan_2 14 rfl rfl)
theorem dX1_plan_61 : decode cX1_plan 61 = .ok (.iconst 0, 1) := dk_3 (dk_at dksX1_plan_2 17 rfl rfl)
theorem dX1_plan_62 : decode cX1_plan 62 = .ok (.invokestatic 85, 3) := dk_184 0 85 (dk_at dksX1_plan_2 18 rfl rfl)
theorem dX1_plan_65 : decode cX1_plan 65 = .ok (.iconst 0, 1) := dk_3 (dk_at dksX1_plan_2 21 rfl rfl)
theorem dX1_plan_66 : decode cX1_plan 66 = .ok (.istore 4, 2) := dk_54 4 (dk_at dksX1_plan_2 22 rfl rfl)
theorem dX1_plan_68 : decode cX1_plan 68 = .ok (.aload_n 3, 1) := dk_45 (dk_at dksX1_plan_3 0 rfl rfl)
theorem dX1_plan_69 : decode cX1_plan 69 = .ok (.getfield 270, 3) := dk_180 1 14 (dk_at dksX1_plan_3 1 rfl rfl)
theorem dX1_plan_72 : decode cX1_plan 72 = .ok (.getfield 274, 3) := dk_180 1 18 (dk_at dksX1_plan_3 4 rfl rfl)
theorem dX1_plan_75 : decode cX1_plan 75 = .ok (.invokeinterface 158 1, 5) := by decide +kernel
theorem dX1_plan_80 : decode cX1_plan 80 = .ok (.astore 5, 2) := dk_58 5 (dk_at dksX1_plan_3 12 rfl rfl)
theorem dX1_plan_82 : decode cX1_plan 82 = .ok (.aload 5, 2) := dk_25 5 (dk_at dksX1_plan_3 14 rfl rfl)
theorem dX1_plan_84 : decode cX1_plan 84 = .ok (.invokeinterface 162 1, 5) := by decide +kernel
theorem dX1_plan_89 : decode cX1_plan 89 = .ok (.ifCond .eq 50, 3) := dk_153 0 50 (dk_at dksX1_plan_3 21 rfl rfl)
theorem dX1_plan_92 : decode cX1_plan 92 = .ok (.aload 5, 2) := dk_25 5 (dk_at dksX1_plan_4 0 rfl rfl)
theorem dX1_plan_94 : decode cX1_plan 94 = .ok (.invokeinterface 167 1, 5) := by decide +kernel
theorem dX1_plan_99 : decode cX1_plan 99 = .ok (.checkcast 265, 3) := dk_192 1 9 (dk_at dksX1_plan_4 7 rfl rfl)
theorem dX1_plan_102 : decode cX1_plan 102 = .ok (.astore 6, 2) := dk_58 6 (dk_at dksX1_plan_4 10 rfl rfl)
theorem dX1_plan_104 : decode cX1_plan 104 = .ok (.iload 4, 2) := dk_21 4 (dk_at dksX1_plan_4 12 rfl rfl)
theorem dX1_plan_106 : decode cX1_plan 106 = .ok (.iconst 1, 1) := dk_4 (dk_at dksX1_plan_4 14 rfl rfl)
theorem dX1_plan_107 : decode cX1_plan 107 = .ok (.aload 6, 2) := dk_25 6 (dk_at dksX1_plan_4 15 rfl rfl)
theorem dX1_plan_109 : decode cX1_plan 109 = .ok (.getfield 305, 3) := dk_180 1 49 (dk_at dksX1_plan_4 17 rfl rfl)
theorem dX1_plan_112 : decode cX1_plan 112 = .ok (.getfield 237, 3) := dk_180 0 237 (dk_at dksX1_plan_4 20 rfl rfl)
theorem dX1_plan_115 : decode cX1_plan 115 = .ok (.getfield 413, 3) := dk_180 1 157 (dk_at dksX1_plan_5 0 rfl rfl)
theorem dX1_plan_118 : decode cX1_plan 118 = .ok (.ishl, 1) := dk_120 (dk_at dksX1_plan_5 3 rfl rfl)
theorem dX1_plan_119 : decode cX1_plan 119 = .ok (.iconst 1, 1) := dk_4 (dk_at dksX1_plan_5 4 rfl rfl)
theorem dX1_plan_120 : decode cX1_plan 120 = .ok (.aload 6, 2) := dk_25 6 (dk_at dksX1_plan_5 5 rfl rfl)
theorem dX1_plan_122 : decode cX1_plan 122 = .ok (.getfield 305, 3) := dk_180 1 49 (dk_at dksX1_plan_5 7 rfl rfl)
theorem dX1_plan_125 : decode cX1_plan 125 = .ok (.getfield 244, 3) := dk_180 0 244 (dk_at dksX1_plan_5 10 rfl rfl)
theorem dX1_plan_128 : decode cX1_plan 128 = .ok (.getfield 413, 3) := dk_180 1 157 (dk_at dksX1_plan_5 13 rfl rfl)
theorem dX1_plan_131 : decode cX1_plan 131 = .ok (.ishl, 1) := dk_120 (dk_at dksX1_plan_5 16 rfl rfl)
theorem dX1_plan_132 : decode cX1_plan 132 = .ok (.ior, 1) := dk_128 (dk_at dksX1_plan_5 17 rfl rfl)
theorem dX1_plan_133 : decode cX1_plan 133 = .ok (.ior, 1) := dk_128 (dk_at dksX1_plan_5 18 rfl rfl)
theorem dX1_plan_134 : decode cX1_plan 134 = .ok (.istore 4, 2) := dk_54 4 (dk_at dksX1_plan_5 19 rfl rfl)
theorem dX1_plan_136 : decode cX1_plan 136 = .ok (.goto (-54), 3) := dk_167 255 202 (dk_at dksX1_plan_5 21 rfl rfl)
theorem dX1_plan_139 : decode cX1_plan 139 = .ok (.aload_n 0, 1) := dk_42 (dk_at dksX1_plan_6 0 rfl rfl)
theorem dX1_plan_140 : decode cX1_plan 140 = .ok (.getfield 55, 3) := dk_180 0 55 (dk_at dksX1_plan_6 1 rfl rfl)
theorem dX1_plan_143 : decode cX1_plan 143 = .ok (.new 414, 3) := dk_187 1 158 (dk_at dksX1_plan_6 4 rfl rfl)
theorem dX1_plan_146 : decode cX1_plan 146 = .ok (.dup, 1) := dk_89 (dk_at dksX1_plan_6 7 rfl rfl)
theorem dX1_plan_147 : decode cX1_plan 147 = .ok (.aload_n 3, 1) := dk_45 (dk_at dksX1_plan_6 8 rfl rfl)
theorem dX1_plan_148 : decode cX1_plan 148 = .ok (.iload_n 2, 1) := dk_28 (dk_at dksX1_plan_6 9 rfl rfl)
theorem dX1_plan_149 : decode cX1_plan 149 = .ok (.aload_n 0, 1) := dk_42 (dk_at dksX1_plan_6 10 rfl rfl)
theorem dX1_plan_150 : decode cX1_plan 150 = .ok (.aload_n 3, 1) := dk_45 (dk_at dksX1_plan_6 11 rfl rfl)
theorem dX1_plan_151 : decode cX1_plan 151 = .ok (.invokevirtual 416, 3) := dk_182 1 160 (dk_at dksX1_plan_6 12 rfl rfl)
theorem dX1_plan_154 : decode cX1_plan 154 = .ok (.iload 4, 2) := dk_21 4 (dk_at dksX1_plan_6 15 rfl rfl)
theorem dX1_plan_156 : decode cX1_plan 156 = .ok (.invokespecial 420, 3) := dk_183 1 164 (dk_at dksX1_plan_6 17 rfl rfl)
theorem dX1_plan_159 : decode cX1_plan 159 = .ok (.invokeinterface 93 2, 5) := by decide +kernel
theorem dX1_plan_164 : decode cX1_plan 164 = .ok (.istore 5, 2) := dk_54 5 (dk_at dksX1_plan_7 5 rfl rfl)
theorem dX1_plan_166 : decode cX1_plan 166 = .ok (.aload_n 0, 1) := dk_42 (dk_at dksX1_plan_7 7 rfl rfl)
theorem dX1_plan_167 : decode cX1_plan 167 = .ok (.getfield 55, 3) := dk_180 0 55 (dk_at dksX1_plan_7 8 rfl rfl)
theorem dX1_plan_170 : decode cX1_plan 170 = .ok (.invokeinterface 13 1, 5) := by decide +kernel
theorem dX1_plan_175 : decode cX1_plan 175 = .ok (.iconst 1, 1) := dk_4 (dk_at dksX1_plan_7 16 rfl rfl)
theorem dX1_plan_176 : decode cX1_plan 176 = .ok (.isub, 1) := dk_100 (dk_at dksX1_plan_7 17 rfl rfl)
theorem dX1_plan_177 : decode cX1_plan 177 = .ok (.ireturn, 1) := dk_172 (dk_at dksX1_plan_7 18 rfl rfl)
abbrev cX1_takes : ByteArray := prog_1_method_41_code
def yX1_takes : MethodName := ⟨RX1, "takes", "(LScrutineery$Event;)I"⟩
def dkwX1_takes_2 : List UInt8 := [167, 255, 226, 28, 154, 0, 7, 3, 167, 0, 4, 29, 172]
abbrev dktX1_takes_2 : List UInt8 := dkwX1_takes_2 ++ []
def dkwX1_takes_1 : List UInt8 := [162, 0, 27, 29, 28, 42, 43, 180, 0, 228, 21, 4, 182, 1, 154, 16, 15, 96, 104, 96, 62, 132, 4, 1]
abbrev dktX1_takes_1 : List UInt8 := dkwX1_takes_1 ++ dktX1_takes_2
def dkwX1_takes_0 : List UInt8 := [43, 182, 1, 45, 185, 0, 13, 1, 0, 61, 16, 60, 62, 3, 54, 4, 21, 4, 43, 180, 1, 67]
abbrev dktX1_takes_0 : List UInt8 := dkwX1_takes_0 ++ dktX1_takes_1
theorem dksX1_takes_0 : cX1_takes.data.toList.drop 0 = dktX1_takes_0 := by decide +kernel
theorem dksX1_takes_1 : cX1_takes.data.toList.drop 22 = dktX1_takes_1 := dk_seg dksX1_takes_0 22 rfl rfl
theorem dksX1_takes_2 : cX1_takes.data.toList.drop 46 = dktX1_takes_2 := dk_seg dksX1_takes_1 24 rfl rfl
theorem dX1_takes_0 : decode cX1_takes 0 = .ok (.aload_n 1, 1) := dk_43 (dk_at dksX1_takes_0 0 rfl rfl)
theorem dX1_takes_1 : decode cX1_takes 1 = .ok (.invokevirtual 301, 3) := dk_182 1 45 (dk_at dksX1_takes_0 1 rfl rfl)
theorem dX1_takes_4 : decode cX1_takes 4 = .ok (.invokeinterface 13 1, 5) := by decide +kernel
theorem dX1_takes_9 : decode cX1_takes 9 = .ok (.istore_n 2, 1) := dk_61 (dk_at dksX1_takes_0 9 rfl rfl)
theorem dX1_takes_10 : decode cX1_takes 10 = .ok (.bipush 60, 2) := dk_16 60 (dk_at dksX1_takes_0 10 rfl rfl)
theorem dX1_takes_12 : decode cX1_takes 12 = .ok (.istore_n 3, 1) := dk_62 (dk_at dksX1_takes_0 12 rfl rfl)
theorem dX1_takes_13 : decode cX1_takes 13 = .ok (.iconst 0, 1) := dk_3 (dk_at dksX1_takes_0 13 rfl rfl)
theorem dX1_takes_14 : decode cX1_takes 14 = .ok (.istore 4, 2) := dk_54 4 (dk_at dksX1_takes_0 14 rfl rfl)
theorem dX1_takes_16 : decode cX1_takes 16 = .ok (.iload 4, 2) := dk_21 4 (dk_at dksX1_takes_0 16 rfl rfl)
theorem dX1_takes_18 : decode cX1_takes 18 = .ok (.aload_n 1, 1) := dk_43 (dk_at dksX1_takes_0 18 rfl rfl)
theorem dX1_takes_19 : decode cX1_takes 19 = .ok (.getfield 323, 3) := dk_180 1 67 (dk_at dksX1_takes_0 19 rfl rfl)
theorem dX1_takes_22 : decode cX1_takes 22 = .ok (.if_icmp .ge 27, 3) := dk_162 0 27 (dk_at dksX1_takes_1 0 rfl rfl)
theorem dX1_takes_25 : decode cX1_takes 25 = .ok (.iload_n 3, 1) := dk_29 (dk_at dksX1_takes_1 3 rfl rfl)
theorem dX1_takes_26 : decode cX1_takes 26 = .ok (.iload_n 2, 1) := dk_28 (dk_at dksX1_takes_1 4 rfl rfl)
theorem dX1_takes_27 : decode cX1_takes 27 = .ok (.aload_n 0, 1) := dk_42 (dk_at dksX1_takes_1 5 rfl rfl)
theorem dX1_takes_28 : decode cX1_takes 28 = .ok (.aload_n 1, 1) := dk_43 (dk_at dksX1_takes_1 6 rfl rfl)
theorem dX1_takes_29 : decode cX1_takes 29 = .ok (.getfield 228, 3) := dk_180 0 228 (dk_at dksX1_takes_1 7 rfl rfl)
theorem dX1_takes_32 : decode cX1_takes 32 = .ok (.iload 4, 2) := dk_21 4 (dk_at dksX1_takes_1 10 rfl rfl)
theorem dX1_takes_34 : decode cX1_takes 34 = .ok (.invokevirtual 410, 3) := dk_182 1 154 (dk_at dksX1_takes_1 12 rfl rfl)
theorem dX1_takes_37 : decode cX1_takes 37 = .ok (.bipush 15, 2) := dk_16 15 (dk_at dksX1_takes_1 15 rfl rfl)
theorem dX1_takes_39 : decode cX1_takes 39 = .ok (.iadd, 1) := dk_96 (dk_at dksX1_takes_1 17 rfl rfl)
theorem dX1_takes_40 : decode cX1_takes 40 = .ok (.imul, 1) := dk_104 (dk_at dksX1_takes_1 18 rfl rfl)
theorem dX1_takes_41 : decode cX1_takes 41 = .ok (.iadd, 1) := dk_96 (dk_at dksX1_takes_1 19 rfl rfl)
theorem dX1_takes_42 : decode cX1_takes 42 = .ok (.istore_n 3, 1) := dk_62 (dk_at dksX1_takes_1 20 rfl rfl)
theorem dX1_takes_43 : decode cX1_takes 43 = .ok (.iinc 4 1, 3) := dk_132 4 1 (dk_at dksX1_takes_1 21 rfl rfl)
theorem dX1_takes_46 : decode cX1_takes 46 = .ok (.goto (-30), 3) := dk_167 255 226 (dk_at dksX1_takes_2 0 rfl rfl)
theorem dX1_takes_49 : decode cX1_takes 49 = .ok (.iload_n 2, 1) := dk_28 (dk_at dksX1_takes_2 3 rfl rfl)
theorem dX1_takes_50 : decode cX1_takes 50 = .ok (.ifCond .ne 7, 3) := dk_154 0 7 (dk_at dksX1_takes_2 4 rfl rfl)
theorem dX1_takes_53 : decode cX1_takes 53 = .ok (.iconst 0, 1) := dk_3 (dk_at dksX1_takes_2 7 rfl rfl)
theorem dX1_takes_54 : decode cX1_takes 54 = .ok (.goto 4, 3) := dk_167 0 4 (dk_at dksX1_takes_2 8 rfl rfl)
theorem dX1_takes_57 : decode cX1_takes 57 = .ok (.iload_n 3, 1) := dk_29 (dk_at dksX1_takes_2 11 rfl rfl)
theorem dX1_takes_58 : decode cX1_takes 58 = .ok (.ireturn, 1) := dk_172 (dk_at dksX1_takes_2 12 rfl rfl)
abbrev cX1_late : ByteArray := prog_1_method_44_code
def yX1_late : MethodName := ⟨RX1, "late", "(II)I"⟩
def dkwX1_late_1 : List UInt8 := [28, 181, 1, 171, 42, 27, 182, 1, 176, 172]
abbrev dktX1_late_1 : List UInt8 := dkwX1_late_1 ++ []
def dkwX1_late_0 : List UInt8 := [42, 180, 0, 55, 27, 184, 0, 97, 192, 1, 158, 78, 28, 3, 17, 14, 16, 184, 0, 19, 184, 0, 82, 45]
abbrev dktX1_late_0 : List UInt8 := dkwX1_late_0 ++ dktX1_late_1
theorem dksX1_late_0 : cX1_late.data.toList.drop 0 = dktX1_late_0 := by decide +kernel
theorem dksX1_late_1 : cX1_late.data.toList.drop 24 = dktX1_late_1 := dk_seg dksX1_late_0 24 rfl rfl
theorem dX1_late_0 : decode cX1_late 0 = .ok (.aload_n 0, 1) := dk_42 (dk_at dksX1_late_0 0 rfl rfl)
theorem dX1_late_1 : decode cX1_late 1 = .ok (.getfield 55, 3) := dk_180 0 55 (dk_at dksX1_late_0 1 rfl rfl)
theorem dX1_late_4 : decode cX1_late 4 = .ok (.iload_n 1, 1) := dk_27 (dk_at dksX1_late_0 4 rfl rfl)
theorem dX1_late_5 : decode cX1_late 5 = .ok (.invokestatic 97, 3) := dk_184 0 97 (dk_at dksX1_late_0 5 rfl rfl)
theorem dX1_late_8 : decode cX1_late 8 = .ok (.checkcast 414, 3) := dk_192 1 158 (dk_at dksX1_late_0 8 rfl rfl)
theorem dX1_late_11 : decode cX1_late 11 = .ok (.astore_n 3, 1) := dk_78 (dk_at dksX1_late_0 11 rfl rfl)
theorem dX1_late_12 : decode cX1_late 12 = .ok (.iload_n 2, 1) := dk_28 (dk_at dksX1_late_0 12 rfl rfl)
theorem dX1_late_13 : decode cX1_late 13 = .ok (.iconst 0, 1) := dk_3 (dk_at dksX1_late_0 13 rfl rfl)
theorem dX1_late_14 : decode cX1_late 14 = .ok (.sipush 3600, 3) := dk_17 14 16 (dk_at dksX1_late_0 14 rfl rfl)
theorem dX1_late_17 : decode cX1_late 17 = .ok (.invokestatic 19, 3) := dk_184 0 19 (dk_at dksX1_late_0 17 rfl rfl)
theorem dX1_late_20 : decode cX1_late 20 = .ok (.invokestatic 82, 3) := dk_184 0 82 (dk_at dksX1_late_0 20 rfl rfl)
theorem dX1_late_23 : decode cX1_late 23 = .ok (.aload_n 3, 1) := dk_45 (dk_at dksX1_late_0 23 rfl rfl)
theorem dX1_late_24 : decode cX1_late 24 = .ok (.iload_n 2, 1) := dk_28 (dk_at dksX1_late_1 0 rfl rfl)
theorem dX1_late_25 : decode cX1_late 25 = .ok (.putfield 427, 3) := dk_181 1 171 (dk_at dksX1_late_1 1 rfl rfl)
theorem dX1_late_28 : decode cX1_late 28 = .ok (.aload_n 0, 1) := dk_42 (dk_at dksX1_late_1 4 rfl rfl)
theorem dX1_late_29 : decode cX1_late 29 = .ok (.iload_n 1, 1) := dk_27 (dk_at dksX1_late_1 5 rfl rfl)
theorem dX1_late_30 : decode cX1_late 30 = .ok (.invokevirtual 432, 3) := dk_182 1 176 (dk_at dksX1_late_1 6 rfl rfl)
theorem dX1_late_33 : decode cX1_late 33 = .ok (.ireturn, 1) := dk_172 (dk_at dksX1_late_1 9 rfl rfl)
abbrev cX1_begins : ByteArray := prog_1_method_43_code
def yX1_begins : MethodName := ⟨RX1, "begins", "(I)I"⟩
def dkwX1_begins_6 : List UInt8 := [132, 4, 1, 167, 255, 129, 29, 172]
abbrev dktX1_begins_6 : List UInt8 := dkwX1_begins_6 ++ []
def dkwX1_begins_5 : List UInt8 := [167, 255, 181, 29, 25, 5, 180, 1, 171, 96, 62, 44, 21, 4, 29, 25, 5, 180, 1, 174, 96, 79]
abbrev dktX1_begins_5 : List UInt8 := dkwX1_begins_5 ++ dktX1_begins_6
def dkwX1_begins_4 : List UInt8 := [180, 1, 168, 126, 153, 0, 16, 29, 44, 21, 6, 46, 17, 1, 44, 96, 184, 0, 148, 62, 132, 6, 1]
abbrev dktX1_begins_4 : List UInt8 := dkwX1_begins_4 ++ dktX1_begins_5
def dkwX1_begins_3 : List UInt8 := [180, 1, 167, 160, 0, 12, 29, 44, 21, 6, 46, 184, 0, 148, 62, 25, 7, 180, 1, 168, 25, 5]
abbrev dktX1_begins_3 : List UInt8 := dkwX1_begins_3 ++ dktX1_begins_4
def dkwX1_begins_2 : List UInt8 := [180, 0, 55, 21, 6, 185, 0, 29, 2, 0, 192, 1, 158, 58, 7, 25, 7, 180, 1, 167, 25, 5]
abbrev dktX1_begins_2 : List UInt8 := dkwX1_begins_2 ++ dktX1_begins_3
def dkwX1_begins_1 : List UInt8 := [185, 0, 29, 2, 0, 192, 1, 158, 58, 5, 3, 62, 3, 54, 6, 21, 6, 21, 4, 162, 0, 74, 42]
abbrev dktX1_begins_1 : List UInt8 := dkwX1_begins_1 ++ dktX1_begins_2
def dkwX1_begins_0 : List UInt8 := [16, 16, 188, 10, 77, 3, 62, 3, 54, 4, 21, 4, 27, 163, 0, 127, 42, 180, 0, 55, 21, 4]
abbrev dktX1_begins_0 : List UInt8 := dkwX1_begins_0 ++ dktX1_begins_1
theorem dksX1_begins_0 : cX1_begins.data.toList.drop 0 = dktX1_begins_0 := by decide +kernel
theorem dksX1_begins_1 : cX1_begins.data.toList.drop 22 = dktX1_begins_1 := dk_seg dksX1_begins_0 22 rfl rfl
theorem dksX1_begins_2 : cX1_begins.data.toList.drop 45 = dktX1_begins_2 := dk_seg dksX1_begins_1 23 rfl rfl
theorem dksX1_begins_3 : cX1_begins.data.toList.drop 67 = dktX1_begins_3 := dk_seg dksX1_begins_2 22 rfl rfl
theorem dksX1_begins_4 : cX1_begins.data.toList.drop 89 = dktX1_begins_4 := dk_seg dksX1_begins_3 22 rfl rfl
theorem dksX1_begins_5 : cX1_begins.data.toList.drop 112 = dktX1_begins_5 := dk_seg dksX1_begins_4 23 rfl rfl
theorem dksX1_begins_6 : cX1_begins.data.toList.drop 134 = dktX1_begins_6 := dk_seg dksX1_begins_5 22 rfl rfl
theorem dX1_begins_0 : decode cX1_begins 0 = .ok (.bipush 16, 2) := dk_16 16 (dk_at dksX1_begins_0 0 rfl rfl)
theorem dX1_begins_2 : decode cX1_begins 2 = .ok (.newarray .int, 2) := dk_188_10 (dk_at dksX1_begins_0 2 rfl rfl)
theorem dX1_begins_4 : decode cX1_begins 4 = .ok (.astore_n 2, 1) := dk_77 (dk_at dksX1_begins_0 4 rfl rfl)
theorem dX1_begins_5 : decode cX1_begins 5 = .ok (.iconst 0, 1) := dk_3 (dk_at dksX1_begins_0 5 rfl rfl)
theorem dX1_begins_6 : decode cX1_begins 6 = .ok (.istore_n 3, 1) := dk_62 (dk_at dksX1_begins_0 6 rfl rfl)
theorem dX1_begins_7 : decode cX1_begins 7 = .ok (.iconst 0, 1) := dk_3 (dk_at dksX1_begins_0 7 rfl rfl)
theorem dX1_begins_8 : decode cX1_begins 8 = .ok (.istore 4, 2) := dk_54 4 (dk_at dksX1_begins_0 8 rfl rfl)
theorem dX1_begins_10 : decode cX1_begins 10 = .ok (.iload 4, 2) := dk_21 4 (dk_at dksX1_begins_0 10 rfl rfl)
theorem dX1_begins_12 : decode cX1_begins 12 = .ok (.iload_n 1, 1) := dk_27 (dk_at dksX1_begins_0 12 rfl rfl)
theorem dX1_begins_13 : decode cX1_begins 13 = .ok (.if_icmp .gt 127, 3) := dk_163 0 127 (dk_at dksX1_begins_0 13 rfl rfl)
theorem dX1_begins_16 : decode cX1_begins 16 = .ok (.aload_n 0, 1) := dk_42 (dk_at dksX1_begins_0 16 rfl rfl)
theorem dX1_begins_17 : decode cX1_begins 17 = .ok (.getfield 55, 3) := dk_180 0 55 (dk_at dksX1_begins_0 17 rfl rfl)
theorem dX1_begins_20 : decode cX1_begins 20 = .ok (.iload 4, 2) := dk_21 4 (dk_at dksX1_begins_0 20 rfl rfl)
theorem dX1_begins_22 : decode cX1_begins 22 = .ok (.invokeinterface 29 2, 5) := by decide +kernel
theorem dX1_begins_27 : decode cX1_begins 27 = .ok (.checkcast 414, 3) := dk_192 1 158 (dk_at dksX1_begins_1 5 rfl rfl)
theorem dX1_begins_30 : decode cX1_begins 30 = .ok (.astore 5, 2) := dk_58 5 (dk_at dksX1_begins_1 8 rfl rfl)
theorem dX1_begins_32 : decode cX1_begins 32 = .ok (.iconst 0, 1) := dk_3 (dk_at dksX1_begins_1 10 rfl rfl)
theorem dX1_begins_33 : decode cX1_begins 33 = .ok (.istore_n 3, 1) := dk_62 (dk_at dksX1_begins_1 11 rfl rfl)
theorem dX1_begins_34 : decode cX1_begins 34 = .ok (.iconst 0, 1) := dk_3 (dk_at dksX1_begins_1 12 rfl rfl)
theorem dX1_begins_35 : decode cX1_begins 35 = .ok (.istore 6, 2) := dk_54 6 (dk_at dksX1_begins_1 13 rfl rfl)
theorem dX1_begins_37 : decode cX1_begins 37 = .ok (.iload 6, 2) := dk_21 6 (dk_at dksX1_begins_1 15 rfl rfl)
theorem dX1_begins_39 : decode cX1_begins 39 = .ok (.iload 4, 2) := dk_21 4 (dk_at dksX1_begins_1 17 rfl rfl)
theorem dX1_begins_41 : decode cX1_begins 41 = .ok (.if_icmp .ge 74, 3) := dk_162 0 74 (dk_at dksX1_begins_1 19 rfl rfl)
theorem dX1_begins_44 : decode cX1_begins 44 = .ok (.aload_n 0, 1) := dk_42 (dk_at dksX1_begins_1 22 rfl rfl)
theorem dX1_begins_45 : decode cX1_begins 45 = .ok (.getfield 55, 3) := dk_180 0 55 (dk_at dksX1_begins_2 0 rfl rfl)
theorem dX1_begins_48 : decode cX1_begins 48 = .ok (.iload 6, 2) := dk_21 6 (dk_at dksX1_begins_2 3 rfl rfl)
theorem dX1_begins_50 : decode cX1_begins 50 = .ok (.invokeinterface 29 2, 5) := by decide +kernel
theorem dX1_begins_55 : decode cX1_begins 55 = .ok (.checkcast 414, 3) := dk_192 1 158 (dk_at dksX1_begins_2 10 rfl rfl)
theorem dX1_begins_58 : decode cX1_begins 58 = .ok (.astore 7, 2) := dk_58 7 (dk_at dksX1_begins_2 13 rfl rfl)
theorem dX1_begins_60 : decode cX1_begins 60 = .ok (.aload 7, 2) := dk_25 7 (dk_at dksX1_begins_2 15 rfl rfl)
theorem dX1_begins_62 : decode cX1_begins 62 = .ok (.getfield 423, 3) := dk_180 1 167 (dk_at dksX1_begins_2 17 rfl rfl)
theorem dX1_begins_65 : decode cX1_begins 65 = .ok (.aload 5, 2) := dk_25 5 (dk_at dksX1_begins_2 20 rfl rfl)
theorem dX1_begins_67 : decode cX1_begins 67 = .ok (.getfield 423, 3) := dk_180 1 167 (dk_at dksX1_begins_3 0 rfl rfl)
theorem dX1_begins_70 : decode cX1_begins 70 = .ok (.if_icmp .ne 12, 3) := dk_160 0 12 (dk_at dksX1_begins_3 3 rfl rfl)
theorem dX1_begins_73 : decode cX1_begins 73 = .ok (.iload_n 3, 1) := dk_29 (dk_at dksX1_begins_3 6 rfl rfl)
theorem dX1_begins_74 : decode cX1_begins 74 = .ok (.aload_n 2, 1) := dk_44 (dk_at dksX1_begins_3 7 rfl rfl)
theorem dX1_begins_75 : decode cX1_begins 75 = .ok (.iload 6, 2) := dk_21 6 (dk_at dksX1_begins_3 8 rfl rfl)
theorem dX1_begins_77 : decode cX1_begins 77 = .ok (.iaload, 1) := dk_46 (dk_at dksX1_begins_3 10 rfl rfl)
theorem dX1_begins_78 : decode cX1_begins 78 = .ok (.invokestatic 148, 3) := dk_184 0 148 (dk_at dksX1_begins_3 11 rfl rfl)
theorem dX1_begins_81 : decode cX1_begins 81 = .ok (.istore_n 3, 1) := dk_62 (dk_at dksX1_begins_3 14 rfl rfl)
theorem dX1_begins_82 : decode cX1_begins 82 = .ok (.aload 7, 2) := dk_25 7 (dk_at dksX1_begins_3 15 rfl rfl)
theorem dX1_begins_84 : decode cX1_begins 84 = .ok (.getfield 424, 3) := dk_180 1 168 (dk_at dksX1_begins_3 17 rfl rfl)
theorem dX1_begins_87 : decode cX1_begins 87 = .ok (.aload 5, 2) := dk_25 5 (dk_at dksX1_begins_3 20 rfl rfl)
theorem dX1_begins_89 : decode cX1_begins 89 = .ok (.getfield 424, 3) := dk_180 1 168 (dk_at dksX1_begins_4 0 rfl rfl)
theorem dX1_begins_92 : decode cX1_begins 92 = .ok (.iand, 1) := dk_126 (dk_at dksX1_begins_4 3 rfl rfl)
theorem dX1_begins_93 : decode cX1_begins 93 = .ok (.ifCond .eq 16, 3) := dk_153 0 16 (dk_at dksX1_begins_4 4 rfl rfl)
theorem dX1_begins_96 : decode cX1_begins 96 = .ok (.iload_n 3, 1) := dk_29 (dk_at dksX1_begins_4 7 rfl rfl)
theorem dX1_begins_97 : decode cX1_begins 97 = .ok (.aload_n 2, 1) := dk_44 (dk_at dksX1_begins_4 8 rfl rfl)
theorem dX1_begins_98 : decode cX1_begins 98 = .ok (.iload 6, 2) := dk_21 6 (dk_at dksX1_begins_4 9 rfl rfl)
theorem dX1_begins_100 : decode cX1_begins 100 = .ok (.iaload, 1) := dk_46 (dk_at dksX1_begins_4 11 rfl rfl)
theorem dX1_begins_101 : decode cX1_begins 101 = .ok (.sipush 300, 3) := dk_17 1 44 (dk_at dksX1_begins_4 12 rfl rfl)
theorem dX1_begins_104 : decode cX1_begins 104 = .ok (.iadd, 1) := dk_96 (dk_at dksX1_begins_4 15 rfl rfl)
theorem dX1_begins_105 : decode cX1_begins 105 = .ok (.invokestatic 148, 3) := dk_184 0 148 (dk_at dksX1_begins_4 16 rfl rfl)
theorem dX1_begins_108 : decode cX1_begins 108 = .ok (.istore_n 3, 1) := dk_62 (dk_at dksX1_begins_4 19 rfl rfl)
theorem dX1_begins_109 : decode cX1_begins 109 = .ok (.iinc 6 1, 3) := dk_132 6 1 (dk_at dksX1_begins_4 20 rfl rfl)
theorem dX1_begins_112 : decode cX1_begins 112 = .ok (.goto (-75), 3) := dk_167 255 181 (dk_at dksX1_begins_5 0 rfl rfl)
theorem dX1_begins_115 : decode cX1_begins 115 = .ok (.iload_n 3, 1) := dk_29 (dk_at dksX1_begins_5 3 rfl rfl)
theorem dX1_begins_116 : decode cX1_begins 116 = .ok (.aload 5, 2) := dk_25 5 (dk_at dksX1_begins_5 4 rfl rfl)
theorem dX1_begins_118 : decode cX1_begins 118 = .ok (.getfield 427, 3) := dk_180 1 171 (dk_at dksX1_begins_5 6 rfl rfl)
theorem dX1_begins_121 : decode cX1_begins 121 = .ok (.iadd, 1) := dk_96 (dk_at dksX1_begins_5 9 rfl rfl)
theorem dX1_begins_122 : decode cX1_begins 122 = .ok (.istore_n 3, 1) := dk_62 (dk_at dksX1_begins_5 10 rfl rfl)
theorem dX1_begins_123 : decode cX1_begins 123 = .ok (.aload_n 2, 1) := dk_44 (dk_at dksX1_begins_5 11 rfl rfl)
theorem dX1_begins_124 : decode cX1_begins 124 = .ok (.iload 4, 2) := dk_21 4 (dk_at dksX1_begins_5 12 rfl rfl)
theorem dX1_begins_126 : decode cX1_begins 126 = .ok (.iload_n 3, 1) := dk_29 (dk_at dksX1_begins_5 14 rfl rfl)
theorem dX1_begins_127 : decode cX1_begins 127 = .ok (.aload 5, 2) := dk_25 5 (dk_at dksX1_begins_5 15 rfl rfl)
theorem dX1_begins_129 : decode cX1_begins 129 = .ok (.getfield 430, 3) := dk_180 1 174 (dk_at dksX1_begins_5 17 rfl rfl)
theorem dX1_begins_132 : decode cX1_begins 132 = .ok (.iadd, 1) := dk_96 (dk_at dksX1_begins_5 20 rfl rfl)
theorem dX1_begins_133 : decode cX1_begins 133 = .ok (.iastore, 1) := dk_79 (dk_at dksX1_begins_5 21 rfl rfl)
theorem dX1_begins_134 : decode cX1_begins 134 = .ok (.iinc 4 1, 3) := dk_132 4 1 (dk_at dksX1_begins_6 0 rfl rfl)
theorem dX1_begins_137 : decode cX1_begins 137 = .ok (.goto (-127), 3) := dk_167 255 129 (dk_at dksX1_begins_6 3 rfl rfl)
theorem dX1_begins_140 : decode cX1_begins 140 = .ok (.iload_n 3, 1) := dk_29 (dk_at dksX1_begins_6 6 rfl rfl)
theorem dX1_begins_141 : decode cX1_begins 141 = .ok (.ireturn, 1) := dk_172 (dk_at dksX1_begins_6 7 rfl rfl)
abbrev cX1_personAt : ByteArray := prog_1_method_47_code
def yX1_personAt : MethodName := ⟨RX1, "personAt", "(II)I"⟩
def dkwX1_personAt_5 : List UInt8 := [167, 0, 16, 42, 45, 182, 1, 185, 167, 0, 8, 42, 45, 182, 1, 189, 172]
abbrev dktX1_personAt_5 : List UInt8 := dkwX1_personAt_5 ++ []
def dkwX1_personAt_4 : List UInt8 := [182, 1, 184, 167, 0, 37, 45, 180, 0, 138, 167, 0, 30, 45, 180, 0, 145, 167, 0, 23, 45, 180, 0, 155]
abbrev dktX1_personAt_4 : List UInt8 := dkwX1_personAt_4 ++ dktX1_personAt_5
def dkwX1_personAt_3 : List UInt8 := [167, 0, 62, 3, 167, 0, 58, 45, 180, 1, 182, 28, 6, 100, 46, 167, 0, 47, 45, 28, 8, 100]
abbrev dktX1_personAt_3 : List UInt8 := dkwX1_personAt_3 ++ dktX1_personAt_4
def dkwX1_personAt_2 : List UInt8 := [45, 180, 1, 180, 167, 0, 80, 45, 180, 0, 101, 167, 0, 73, 45, 182, 0, 118, 153, 0, 7, 4]
abbrev dktX1_personAt_2 : List UInt8 := dkwX1_personAt_2 ++ dktX1_personAt_3
def dkwX1_personAt_1 : List UInt8 := [170, 0, 0, 0, 136, 0, 0, 0, 0, 0, 0, 0, 10, 0, 0, 0, 57, 0, 0, 0, 64, 0, 0, 0, 71, 0, 0, 0, 86, 0, 0, 0, 86, 0, 0, 0, 97, 0, 0, 0, 97, 0, 0, 0, 107, 0, 0, 0, 114, 0, 0, 0, 121, 0, 0, 0, 128]
abbrev dktX1_personAt_1 : List UInt8 := dkwX1_personAt_1 ++ dktX1_personAt_2
def dkwX1_personAt_0 : List UInt8 := [42, 180, 0, 39, 27, 184, 0, 97, 192, 0, 88, 78, 28, 3, 16, 11, 184, 0, 19, 184, 0, 82, 28]
abbrev dktX1_personAt_0 : List UInt8 := dkwX1_personAt_0 ++ dktX1_personAt_1
theorem dksX1_personAt_0 : cX1_personAt.data.toList.drop 0 = dktX1_personAt_0 := by decide +kernel
theorem dksX1_personAt_1 : cX1_personAt.data.toList.drop 23 = dktX1_personAt_1 := dk_seg dksX1_personAt_0 23 rfl rfl
theorem dksX1_personAt_2 : cX1_personAt.data.toList.drop 80 = dktX1_personAt_2 := dk_seg dksX1_personAt_1 57 rfl rfl
theorem dksX1_personAt_3 : cX1_personAt.data.toList.drop 102 = dktX1_personAt_3 := dk_seg dksX1_personAt_2 22 rfl rfl
theorem dksX1_personAt_4 : cX1_personAt.data.toList.drop 124 = dktX1_personAt_4 := dk_seg dksX1_personAt_3 22 rfl rfl
theorem dksX1_personAt_5 : cX1_personAt.data.toList.drop 148 = dktX1_personAt_5 := dk_seg dksX1_personAt_4 24 rfl rfl
theorem dX1_personAt_0 : decode cX1_personAt 0 = .ok (.aload_n 0, 1) := dk_42 (dk_at dksX1_personAt_0 0 rfl rfl)
theorem dX1_personAt_1 : decode cX1_personAt 1 = .ok (.getfield 39, 3) := dk_180 0 39 (dk_at dksX1_personAt_0 1 rfl rfl)
theorem dX1_personAt_4 : decode cX1_personAt 4 = .ok (.iload_n 1, 1) := dk_27 (dk_at dksX1_personAt_0 4 rfl rfl)
theorem dX1_personAt_5 : decode cX1_personAt 5 = .ok (.invokestatic 97, 3) := dk_184 0 97 (dk_at dksX1_personAt_0 5 rfl rfl)
theorem dX1_personAt_8 : decode cX1_personAt 8 = .ok (.checkcast 88, 3) := dk_192 0 88 (dk_at dksX1_personAt_0 8 rfl rfl)
theorem dX1_personAt_11 : decode cX1_personAt 11 = .ok (.astore_n 3, 1) := dk_78 (dk_at dksX1_personAt_0 11 rfl rfl)
theorem dX1_personAt_12 : decode cX1_personAt 12 = .ok (.iload_n 2, 1) := dk_28 (dk_at dksX1_personAt_0 12 rfl rfl)
theorem dX1_personAt_13 : decode cX1_personAt 13 = .ok (.iconst 0, 1) := dk_3 (dk_at dksX1_personAt_0 13 rfl rfl)
theorem dX1_personAt_14 : decode cX1_personAt 14 = .ok (.bipush 11, 2) := dk_16 11 (dk_at dksX1_personAt_0 14 rfl rfl)
theorem dX1_personAt_16 : decode cX1_personAt 16 = .ok (.invokestatic 19, 3) := dk_184 0 19 (dk_at dksX1_personAt_0 16 rfl rfl)
theorem dX1_personAt_19 : decode cX1_personAt 19 = .ok (.invokestatic 82, 3) := dk_184 0 82 (dk_at dksX1_personAt_0 19 rfl rfl)
theorem dX1_personAt_22 : decode cX1_personAt 22 = .ok (.iload_n 2, 1) := dk_28 (dk_at dksX1_personAt_0 22 rfl rfl)
theorem dX1_personAt_23 : decode cX1_personAt 23 = .ok (.tableswitch 136 0 10 #[57, 64, 71, 86, 86, 97, 97, 107, 114, 121, 128], 57) := by decide +kernel
theorem dX1_personAt_80 : decode cX1_personAt 80 = .ok (.aload_n 3, 1) := dk_45 (dk_at dksX1_personAt_2 0 rfl rfl)
theorem dX1_personAt_81 : decode cX1_personAt 81 = .ok (.getfield 436, 3) := dk_180 1 180 (dk_at dksX1_personAt_2 1 rfl rfl)
theorem dX1_personAt_84 : decode cX1_personAt 84 = .ok (.goto 80, 3) := dk_167 0 80 (dk_at dksX1_personAt_2 4 rfl rfl)
theorem dX1_personAt_87 : decode cX1_personAt 87 = .ok (.aload_n 3, 1) := dk_45 (dk_at dksX1_personAt_2 7 rfl rfl)
theorem dX1_personAt_88 : decode cX1_personAt 88 = .ok (.getfield 101, 3) := dk_180 0 101 (dk_at dksX1_personAt_2 8 rfl rfl)
theorem dX1_personAt_91 : decode cX1_personAt 91 = .ok (.goto 73, 3) := dk_167 0 73 (dk_at dksX1_personAt_2 11 rfl rfl)
theorem dX1_personAt_94 : decode cX1_personAt 94 = .ok (.aload_n 3, 1) := dk_45 (dk_at dksX1_personAt_2 14 rfl rfl)
theorem dX1_personAt_95 : decode cX1_personAt 95 = .ok (.invokevirtual 118, 3) := dk_182 0 118 (dk_at dksX1_personAt_2 15 rfl rfl)
theorem dX1_personAt_98 : decode cX1_personAt 98 = .ok (.ifCond .eq 7, 3) := dk_153 0 7 (dk_at dksX1_personAt_2 18 rfl rfl)
theorem dX1_personAt_101 : decode cX1_personAt 101 = .ok (.iconst 1, 1) := dk_4 (dk_at dksX1_personAt_2 21 rfl rfl)
theorem dX1_personAt_102 : decode cX1_personAt 102 = .ok (.goto 62, 3) := dk_167 0 62 (dk_at dksX1_personAt_3 0 rfl rfl)
theorem dX1_personAt_105 : decode cX1_personAt 105 = .ok (.iconst 0, 1) := dk_3 (dk_at dksX1_personAt_3 3 rfl rfl)
theorem dX1_personAt_106 : decode cX1_personAt 106 = .ok (.goto 58, 3) := dk_167 0 58 (dk_at dksX1_personAt_3 4 rfl rfl)
theorem dX1_personAt_109 : decode cX1_personAt 109 = .ok (.aload_n 3, 1) := dk_45 (dk_at dksX1_personAt_3 7 rfl rfl)
theorem dX1_personAt_110 : decode cX1_personAt 110 = .ok (.getfield 438, 3) := dk_180 1 182 (dk_at dksX1_personAt_3 8 rfl rfl)
theorem dX1_personAt_113 : decode cX1_personAt 113 = .ok (.iload_n 2, 1) := dk_28 (dk_at dksX1_personAt_3 11 rfl rfl)
theorem dX1_personAt_114 : decode cX1_personAt 114 = .ok (.iconst 3, 1) := dk_6 (dk_at dksX1_personAt_3 12 rfl rfl)
theorem dX1_personAt_115 : decode cX1_personAt 115 = .ok (.isub, 1) := dk_100 (dk_at dksX1_personAt_3 13 rfl rfl)
theorem dX1_personAt_116 : decode cX1_personAt 116 = .ok (.iaload, 1) := dk_46 (dk_at dksX1_personAt_3 14 rfl rfl)
theorem dX1_personAt_117 : decode cX1_personAt 117 = .ok (.goto 47, 3) := dk_167 0 47 (dk_at dksX1_personAt_3 15 rfl rfl)
theorem dX1_personAt_120 : decode cX1_personAt 120 = .ok (.aload_n 3, 1) := dk_45 (dk_at dksX1_personAt_3 18 rfl rfl)
theorem dX1_personAt_121 : decode cX1_personAt 121 = .ok (.iload_n 2, 1) := dk_28 (dk_at dksX1_personAt_3 19 rfl rfl)
theorem dX1_personAt_122 : decode cX1_personAt 122 = .ok (.iconst 5, 1) := dk_8 (dk_at dksX1_personAt_3 20 rfl rfl)
theorem dX1_personAt_123 : decode cX1_personAt 123 = .ok (.isub, 1) := dk_100 (dk_at dksX1_personAt_3 21 rfl rfl)
theorem dX1_personAt_124 : decode cX1_personAt 124 = .ok (.invokevirtual 440, 3) := dk_182 1 184 (dk_at dksX1_personAt_4 0 rfl rfl)
theorem dX1_personAt_127 : decode cX1_personAt 127 = .ok (.goto 37, 3) := dk_167 0 37 (dk_at dksX1_personAt_4 3 rfl rfl)
theorem dX1_personAt_130 : decode cX1_personAt 130 = .ok (.aload_n 3, 1) := dk_45 (dk_at dksX1_personAt_4 6 rfl rfl)
theorem dX1_personAt_131 : decode cX1_personAt 131 = .ok (.getfield 138, 3) := dk_180 0 138 (dk_at dksX1_personAt_4 7 rfl rfl)
theorem dX1_personAt_134 : decode cX1_personAt 134 = .ok (.goto 30, 3) := dk_167 0 30 (dk_at dksX1_personAt_4 10 rfl rfl)
theorem dX1_personAt_137 : decode cX1_personAt 137 = .ok (.aload_n 3, 1) := dk_45 (dk_at dksX1_personAt_4 13 rfl rfl)
theorem dX1_personAt_138 : decode cX1_personAt 138 = .ok (.getfield 145, 3) := dk_180 0 145 (dk_at dksX1_personAt_4 14 rfl rfl)
theorem dX1_personAt_141 : decode cX1_personAt 141 = .ok (.goto 23, 3) := dk_167 0 23 (dk_at dksX1_personAt_4 17 rfl rfl)
theorem dX1_personAt_144 : decode cX1_personAt 144 = .ok (.aload_n 3, 1) := dk_45 (dk_at dksX1_personAt_4 20 rfl rfl)
theorem dX1_personAt_145 : decode cX1_personAt 145 = .ok (.getfield 155, 3) := dk_180 0 155 (dk_at dksX1_personAt_4 21 rfl rfl)
theorem dX1_personAt_148 : decode cX1_personAt 148 = .ok (.goto 16, 3) := dk_167 0 16 (dk_at dksX1_personAt_5 0 rfl rfl)
theorem dX1_personAt_151 : decode cX1_personAt 151 = .ok (.aload_n 0, 1) := dk_42 (dk_at dksX1_personAt_5 3 rfl rfl)
theorem dX1_personAt_152 : decode cX1_personAt 152 = .ok (.aload_n 3, 1) := dk_45 (dk_at dksX1_personAt_5 4 rfl rfl)
theorem dX1_personAt_153 : decode cX1_personAt 153 = .ok (.invokevirtual 441, 3) := dk_182 1 185 (dk_at dksX1_personAt_5 5 rfl rfl)
theorem dX1_personAt_156 : decode cX1_personAt 156 = .ok (.goto 8, 3) := dk_167 0 8 (dk_at dksX1_personAt_5 8 rfl rfl)
theorem dX1_personAt_159 : decode cX1_personAt 159 = .ok (.aload_n 0, 1) := dk_42 (dk_at dksX1_personAt_5 11 rfl rfl)
theorem dX1_personAt_160 : decode cX1_personAt 160 = .ok (.aload_n 3, 1) := dk_45 (dk_at dksX1_personAt_5 12 rfl rfl)
theorem dX1_personAt_161 : decode cX1_personAt 161 = .ok (.invokevirtual 445, 3) := dk_182 1 189 (dk_at dksX1_personAt_5 13 rfl rfl)
theorem dX1_personAt_164 : decode cX1_personAt 164 = .ok (.ireturn, 1) := dk_172 (dk_at dksX1_personAt_5 16 rfl rfl)
abbrev cX1_coupleOf : ByteArray := prog_1_method_45_code
def yX1_coupleOf : MethodName := ⟨RX1, "coupleOf", "(LScrutineery$Person;)I"⟩
def dkwX1_coupleOf_2 : List UInt8 := [153, 0, 11, 25, 4, 180, 1, 179, 167, 0, 4, 28, 61, 167, 255, 209, 28, 172]
abbrev dktX1_coupleOf_2 : List UInt8 := dkwX1_coupleOf_2 ++ []
def dkwX1_coupleOf_1 : List UInt8 := [185, 0, 167, 1, 0, 192, 0, 171, 58, 4, 25, 4, 180, 0, 173, 153, 0, 20, 25, 4, 43, 182, 0, 177]
abbrev dktX1_coupleOf_1 : List UInt8 := dkwX1_coupleOf_1 ++ dktX1_coupleOf_2
def dkwX1_coupleOf_0 : List UInt8 := [2, 61, 42, 180, 0, 46, 185, 0, 158, 1, 0, 78, 45, 185, 0, 162, 1, 0, 153, 0, 44, 45]
abbrev dktX1_coupleOf_0 : List UInt8 := dkwX1_coupleOf_0 ++ dktX1_coupleOf_1
theorem dksX1_coupleOf_0 : cX1_coupleOf.data.toList.drop 0 = dktX1_coupleOf_0 := by decide +kernel
theorem dksX1_coupleOf_1 : cX1_coupleOf.data.toList.drop 22 = dktX1_coupleOf_1 := dk_seg dksX1_coupleOf_0 22 rfl rfl
theorem dksX1_coupleOf_2 : cX1_coupleOf.data.toList.drop 46 = dktX1_coupleOf_2 := dk_seg dksX1_coupleOf_1 24 rfl rfl
theorem dX1_coupleOf_0 : decode cX1_coupleOf 0 = .ok (.iconst (-1), 1) := dk_2 (dk_at dksX1_coupleOf_0 0 rfl rfl)
theorem dX1_coupleOf_1 : decode cX1_coupleOf 1 = .ok (.istore_n 2, 1) := dk_61 (dk_at dksX1_coupleOf_0 1 rfl rfl)
theorem dX1_coupleOf_2 : decode cX1_coupleOf 2 = .ok (.aload_n 0, 1) := dk_42 (dk_at dksX1_coupleOf_0 2 rfl rfl)
theorem dX1_coupleOf_3 : decode cX1_coupleOf 3 = .ok (.getfield 46, 3) := dk_180 0 46 (dk_at dksX1_coupleOf_0 3 rfl rfl)
theorem dX1_coupleOf_6 : decode cX1_coupleOf 6 = .ok (.invokeinterface 158 1, 5) := by decide +kernel
theorem dX1_coupleOf_11 : decode cX1_coupleOf 11 = .ok (.astore_n 3, 1) := dk_78 (dk_at dksX1_coupleOf_0 11 rfl rfl)
theorem dX1_coupleOf_12 : decode cX1_coupleOf 12 = .ok (.aload_n 3, 1) := dk_45 (dk_at dksX1_coupleOf_0 12 rfl rfl)
theorem dX1_coupleOf_13 : decode cX1_coupleOf 13 = .ok (.invokeinterface 162 1, 5) := by decide +kernel
theorem dX1_coupleOf_18 : decode cX1_coupleOf 18 = .ok (.ifCond .eq 44, 3) := dk_153 0 44 (dk_at dksX1_coupleOf_0 18 rfl rfl)
theorem dX1_coupleOf_21 : decode cX1_coupleOf 21 = .ok (.aload_n 3, 1) := dk_45 (dk_at dksX1_coupleOf_0 21 rfl rfl)
theorem dX1_coupleOf_22 : decode cX1_coupleOf 22 = .ok (.invokeinterface 167 1, 5) := by decide +kernel
theorem dX1_coupleOf_27 : decode cX1_coupleOf 27 = .ok (.checkcast 171, 3) := dk_192 0 171 (dk_at dksX1_coupleOf_1 5 rfl rfl)
theorem dX1_coupleOf_30 : decode cX1_coupleOf 30 = .ok (.astore 4, 2) := dk_58 4 (dk_at dksX1_coupleOf_1 8 rfl rfl)
theorem dX1_coupleOf_32 : decode cX1_coupleOf 32 = .ok (.aload 4, 2) := dk_25 4 (dk_at dksX1_coupleOf_1 10 rfl rfl)
theorem dX1_coupleOf_34 : decode cX1_coupleOf 34 = .ok (.getfield 173, 3) := dk_180 0 173 (dk_at dksX1_coupleOf_1 12 rfl rfl)
theorem dX1_coupleOf_37 : decode cX1_coupleOf 37 = .ok (.ifCond .eq 20, 3) := dk_153 0 20 (dk_at dksX1_coupleOf_1 15 rfl rfl)
theorem dX1_coupleOf_40 : decode cX1_coupleOf 40 = .ok (.aload 4, 2) := dk_25 4 (dk_at dksX1_coupleOf_1 18 rfl rfl)
theorem dX1_coupleOf_42 : decode cX1_coupleOf 42 = .ok (.aload_n 1, 1) := dk_43 (dk_at dksX1_coupleOf_1 20 rfl rfl)
theorem dX1_coupleOf_43 : decode cX1_coupleOf 43 = .ok (.invokevirtual 177, 3) := dk_182 0 177 (dk_at dksX1_coupleOf_1 21 rfl rfl)
theorem dX1_coupleOf_46 : decode cX1_coupleOf 46 = .ok (.ifCond .eq 11, 3) := dk_153 0 11 (dk_at dksX1_coupleOf_2 0 rfl rfl)
theorem dX1_coupleOf_49 : decode cX1_coupleOf 49 = .ok (.aload 4, 2) := dk_25 4 (dk_at dksX1_coupleOf_2 3 rfl rfl)
theorem dX1_coupleOf_51 : decode cX1_coupleOf 51 = .ok (.getfield 435, 3) := dk_180 1 179 (dk_at dksX1_coupleOf_2 5 rfl rfl)
theorem dX1_coupleOf_54 : decode cX1_coupleOf 54 = .ok (.goto 4, 3) := dk_167 0 4 (dk_at dksX1_coupleOf_2 8 rfl rfl)
theorem dX1_coupleOf_57 : decode cX1_coupleOf 57 = .ok (.iload_n 2, 1) := dk_28 (dk_at dksX1_coupleOf_2 11 rfl rfl)
theorem dX1_coupleOf_58 : decode cX1_coupleOf 58 = .ok (.istore_n 2, 1) := dk_61 (dk_at dksX1_coupleOf_2 12 rfl rfl)
theorem dX1_coupleOf_59 : decode cX1_coupleOf 59 = .ok (.goto (-47), 3) := dk_167 255 209 (dk_at dksX1_coupleOf_2 13 rfl rfl)
theorem dX1_coupleOf_62 : decode cX1_coupleOf 62 = .ok (.iload_n 2, 1) := dk_28 (dk_at dksX1_coupleOf_2 16 rfl rfl)
theorem dX1_coupleOf_63 : decode cX1_coupleOf 63 = .ok (.ireturn, 1) := dk_172 (dk_at dksX1_coupleOf_2 17 rfl rfl)
abbrev cX1_pupilsOf : ByteArray := prog_1_method_46_code
def yX1_pupilsOf : MethodName := ⟨RX1, "pupilsOf", "(LScrutineery$Person;)I"⟩
def dkwX1_pupilsOf_2 : List UInt8 := [167, 0, 4, 3, 96, 61, 167, 255, 218, 28, 172]
abbrev dktX1_pupilsOf_2 : List UInt8 := dkwX1_pupilsOf_2 ++ []
def dkwX1_pupilsOf_1 : List UInt8 := [185, 0, 167, 1, 0, 192, 0, 88, 58, 4, 28, 42, 25, 4, 43, 182, 0, 151, 153, 0, 7, 4]
abbrev dktX1_pupilsOf_1 : List UInt8 := dkwX1_pupilsOf_1 ++ dktX1_pupilsOf_2
def dkwX1_pupilsOf_0 : List UInt8 := [3, 61, 43, 180, 0, 115, 185, 0, 158, 1, 0, 78, 45, 185, 0, 162, 1, 0, 153, 0, 35, 45]
abbrev dktX1_pupilsOf_0 : List UInt8 := dkwX1_pupilsOf_0 ++ dktX1_pupilsOf_1
theorem dksX1_pupilsOf_0 : cX1_pupilsOf.data.toList.drop 0 = dktX1_pupilsOf_0 := by decide +kernel
theorem dksX1_pupilsOf_1 : cX1_pupilsOf.data.toList.drop 22 = dktX1_pupilsOf_1 := dk_seg dksX1_pupilsOf_0 22 rfl rfl
theorem dksX1_pupilsOf_2 : cX1_pupilsOf.data.toList.drop 44 = dktX1_pupilsOf_2 := dk_seg dksX1_pupilsOf_1 22 rfl rfl
theorem dX1_pupilsOf_0 : decode cX1_pupilsOf 0 = .ok (.iconst 0, 1) := dk_3 (dk_at dksX1_pupilsOf_0 0 rfl rfl)
theorem dX1_pupilsOf_1 : decode cX1_pupilsOf 1 = .ok (.istore_n 2, 1) := dk_61 (dk_at dksX1_pupilsOf_0 1 rfl rfl)
theorem dX1_pupilsOf_2 : decode cX1_pupilsOf 2 = .ok (.aload_n 1, 1) := dk_43 (dk_at dksX1_pupilsOf_0 2 rfl rfl)
theorem dX1_pupilsOf_3 : decode cX1_pupilsOf 3 = .ok (.getfield 115, 3) := dk_180 0 115 (dk_at dksX1_pupilsOf_0 3 rfl rfl)
theorem dX1_pupilsOf_6 : decode cX1_pupilsOf 6 = .ok (.invokeinterface 158 1, 5) := by decide +kernel
theorem dX1_pupilsOf_11 : decode cX1_pupilsOf 11 = .ok (.astore_n 3, 1) := dk_78 (dk_at dksX1_pupilsOf_0 11 rfl rfl)
theorem dX1_pupilsOf_12 : decode cX1_pupilsOf 12 = .ok (.aload_n 3, 1) := dk_45 (dk_at dksX1_pupilsOf_0 12 rfl rfl)
theorem dX1_pupilsOf_13 : decode cX1_pupilsOf 13 = .ok (.invokeinterface 162 1, 5) := by decide +kernel
theorem dX1_pupilsOf_18 : decode cX1_pupilsOf 18 = .ok (.ifCond .eq 35, 3) := dk_153 0 35 (dk_at dksX1_pupilsOf_0 18 rfl rfl)
theorem dX1_pupilsOf_21 : decode cX1_pupilsOf 21 = .ok (.aload_n 3, 1) := dk_45 (dk_at dksX1_pupilsOf_0 21 rfl rfl)
theorem dX1_pupilsOf_22 : decode cX1_pupilsOf 22 = .ok (.invokeinterface 167 1, 5) := by decide +kernel
theorem dX1_pupilsOf_27 : decode cX1_pupilsOf 27 = .ok (.checkcast 88, 3) := dk_192 0 88 (dk_at dksX1_pupilsOf_1 5 rfl rfl)
theorem dX1_pupilsOf_30 : decode cX1_pupilsOf 30 = .ok (.astore 4, 2) := dk_58 4 (dk_at dksX1_pupilsOf_1 8 rfl rfl)
theorem dX1_pupilsOf_32 : decode cX1_pupilsOf 32 = .ok (.iload_n 2, 1) := dk_28 (dk_at dksX1_pupilsOf_1 10 rfl rfl)
theorem dX1_pupilsOf_33 : decode cX1_pupilsOf 33 = .ok (.aload_n 0, 1) := dk_42 (dk_at dksX1_pupilsOf_1 11 rfl rfl)
theorem dX1_pupilsOf_34 : decode cX1_pupilsOf 34 = .ok (.aload 4, 2) := dk_25 4 (dk_at dksX1_pupilsOf_1 12 rfl rfl)
theorem dX1_pupilsOf_36 : decode cX1_pupilsOf 36 = .ok (.aload_n 1, 1) := dk_43 (dk_at dksX1_pupilsOf_1 14 rfl rfl)
theorem dX1_pupilsOf_37 : decode cX1_pupilsOf 37 = .ok (.invokevirtual 151, 3) := dk_182 0 151 (dk_at dksX1_pupilsOf_1 15 rfl rfl)
theorem dX1_pupilsOf_40 : decode cX1_pupilsOf 40 = .ok (.ifCond .eq 7, 3) := dk_153 0 7 (dk_at dksX1_pupilsOf_1 18 rfl rfl)
theorem dX1_pupilsOf_43 : decode cX1_pupilsOf 43 = .ok (.iconst 1, 1) := dk_4 (dk_at dksX1_pupilsOf_1 21 rfl rfl)
theorem dX1_pupilsOf_44 : decode cX1_pupilsOf 44 = .ok (.goto 4, 3) := dk_167 0 4 (dk_at dksX1_pupilsOf_2 0 rfl rfl)
theorem dX1_pupilsOf_47 : decode cX1_pupilsOf 47 = .ok (.iconst 0, 1) := dk_3 (dk_at dksX1_pupilsOf_2 3 rfl rfl)
theorem dX1_pupilsOf_48 : decode cX1_pupilsOf 48 = .ok (.iadd, 1) := dk_96 (dk_at dksX1_pupilsOf_2 4 rfl rfl)
theorem dX1_pupilsOf_49 : decode cX1_pupilsOf 49 = .ok (.istore_n 2, 1) := dk_61 (dk_at dksX1_pupilsOf_2 5 rfl rfl)
theorem dX1_pupilsOf_50 : decode cX1_pupilsOf 50 = .ok (.goto (-38), 3) := dk_167 255 218 (dk_at dksX1_pupilsOf_2 6 rfl rfl)
theorem dX1_pupilsOf_53 : decode cX1_pupilsOf 53 = .ok (.iload_n 2, 1) := dk_28 (dk_at dksX1_pupilsOf_2 9 rfl rfl)
theorem dX1_pupilsOf_54 : decode cX1_pupilsOf 54 = .ok (.ireturn, 1) := dk_172 (dk_at dksX1_pupilsOf_2 10 rfl rfl)
abbrev cX1_coupleAt : ByteArray := prog_1_method_48_code
def yX1_coupleAt : MethodName := ⟨RX1, "coupleAt", "(II)I"⟩
def dkwX1_coupleAt_5 : List UInt8 := [16, 7, 100, 182, 1, 192, 172]
abbrev dktX1_coupleAt_5 : List UInt8 := dkwX1_coupleAt_5 ++ []
def dkwX1_coupleAt_4 : List UInt8 := [182, 0, 231, 167, 0, 26, 45, 182, 0, 216, 153, 0, 7, 4, 167, 0, 15, 3, 167, 0, 11, 45, 28]
abbrev dktX1_coupleAt_4 : List UInt8 := dkwX1_coupleAt_4 ++ dktX1_coupleAt_5
def dkwX1_coupleAt_3 : List UInt8 := [153, 0, 7, 4, 167, 0, 47, 3, 167, 0, 43, 45, 182, 0, 219, 167, 0, 36, 45, 28, 7, 100]
abbrev dktX1_coupleAt_3 : List UInt8 := dkwX1_coupleAt_3 ++ dktX1_coupleAt_4
def dkwX1_coupleAt_2 : List UInt8 := [45, 180, 0, 237, 180, 1, 157, 167, 0, 68, 45, 180, 0, 244, 180, 1, 157, 167, 0, 58, 45, 180, 0, 173]
abbrev dktX1_coupleAt_2 : List UInt8 := dkwX1_coupleAt_2 ++ dktX1_coupleAt_3
def dkwX1_coupleAt_1 : List UInt8 := [170, 0, 0, 0, 108, 0, 0, 0, 0, 0, 0, 0, 6, 0, 0, 0, 41, 0, 0, 0, 51, 0, 0, 0, 61, 0, 0, 0, 76, 0, 0, 0, 83, 0, 0, 0, 83, 0, 0, 0, 93]
abbrev dktX1_coupleAt_1 : List UInt8 := dkwX1_coupleAt_1 ++ dktX1_coupleAt_2
def dkwX1_coupleAt_0 : List UInt8 := [42, 180, 0, 46, 27, 184, 0, 97, 192, 0, 171, 78, 28, 3, 16, 8, 184, 0, 19, 184, 0, 82, 28]
abbrev dktX1_coupleAt_0 : List UInt8 := dkwX1_coupleAt_0 ++ dktX1_coupleAt_1
theorem dksX1_coupleAt_0 : cX1_coupleAt.data.toList.drop 0 = dktX1_coupleAt_0 := by decide +kernel
theorem dksX1_coupleAt_1 : cX1_coupleAt.data.toList.drop 23 = dktX1_coupleAt_1 := dk_seg dksX1_coupleAt_0 23 rfl rfl
theorem dksX1_coupleAt_2 : cX1_coupleAt.data.toList.drop 64 = dktX1_coupleAt_2 := dk_seg dksX1_coupleAt_1 41 rfl rfl
theorem dksX1_coupleAt_3 : cX1_coupleAt.data.toList.drop 88 = dktX1_coupleAt_3 := dk_seg dksX1_coupleAt_2 24 rfl rfl
theorem dksX1_coupleAt_4 : cX1_coupleAt.data.toList.drop 110 = dktX1_coupleAt_4 := dk_seg dksX1_coupleAt_3 22 rfl rfl
theorem dksX1_coupleAt_5 : cX1_coupleAt.data.toList.drop 133 = dktX1_coupleAt_5 := dk_seg dksX1_coupleAt_4 23 rfl rfl
theorem dX1_coupleAt_0 : decode cX1_coupleAt 0 = .ok (.aload_n 0, 1) := dk_42 (dk_at dksX1_coupleAt_0 0 rfl rfl)
theorem dX1_coupleAt_1 : decode cX1_coupleAt 1 = .ok (.getfield 46, 3) := dk_180 0 46 (dk_at dksX1_coupleAt_0 1 rfl rfl)
theorem dX1_coupleAt_4 : decode cX1_coupleAt 4 = .ok (.iload_n 1, 1) := dk_27 (dk_at dksX1_coupleAt_0 4 rfl rfl)
theorem dX1_coupleAt_5 : decode cX1_coupleAt 5 = .ok (.invokestatic 97, 3) := dk_184 0 97 (dk_at dksX1_coupleAt_0 5 rfl rfl)
theorem dX1_coupleAt_8 : decode cX1_coupleAt 8 = .ok (.checkcast 171, 3) := dk_192 0 171 (dk_at dksX1_coupleAt_0 8 rfl rfl)
theorem dX1_coupleAt_11 : decode cX1_coupleAt 11 = .ok (.astore_n 3, 1) := dk_78 (dk_at dksX1_coupleAt_0 11 rfl rfl)
theorem dX1_coupleAt_12 : decode cX1_coupleAt 12 = .ok (.iload_n 2, 1) := dk_28 (dk_at dksX1_coupleAt_0 12 rfl rfl)
theorem dX1_coupleAt_13 : decode cX1_coupleAt 13 = .ok (.iconst 0, 1) := dk_3 (dk_at dksX1_coupleAt_0 13 rfl rfl)
theorem dX1_coupleAt_14 : decode cX1_coupleAt 14 = .ok (.bipush 8, 2) := dk_16 8 (dk_at dksX1_coupleAt_0 14 rfl rfl)
theorem dX1_coupleAt_16 : decode cX1_coupleAt 16 = .ok (.invokestatic 19, 3) := dk_184 0 19 (dk_at dksX1_coupleAt_0 16 rfl rfl)
theorem dX1_coupleAt_19 : decode cX1_coupleAt 19 = .ok (.invokestatic 82, 3) := dk_184 0 82 (dk_at dksX1_coupleAt_0 19 rfl rfl)
theorem dX1_coupleAt_22 : decode cX1_coupleAt 22 = .ok (.iload_n 2, 1) := dk_28 (dk_at dksX1_coupleAt_0 22 rfl rfl)
theorem dX1_coupleAt_23 : decode cX1_coupleAt 23 = .ok (.tableswitch 108 0 6 #[41, 51, 61, 76, 83, 83, 93], 41) := by decide +kernel
theorem dX1_coupleAt_64 : decode cX1_coupleAt 64 = .ok (.aload_n 3, 1) := dk_45 (dk_at dksX1_coupleAt_2 0 rfl rfl)
theorem dX1_coupleAt_65 : decode cX1_coupleAt 65 = .ok (.getfield 237, 3) := dk_180 0 237 (dk_at dksX1_coupleAt_2 1 rfl rfl)
theorem dX1_coupleAt_68 : decode cX1_coupleAt 68 = .ok (.getfield 413, 3) := dk_180 1 157 (dk_at dksX1_coupleAt_2 4 rfl rfl)
theorem dX1_coupleAt_71 : decode cX1_coupleAt 71 = .ok (.goto 68, 3) := dk_167 0 68 (dk_at dksX1_coupleAt_2 7 rfl rfl)
theorem dX1_coupleAt_74 : decode cX1_coupleAt 74 = .ok (.aload_n 3, 1) := dk_45 (dk_at dksX1_coupleAt_2 10 rfl rfl)
theorem dX1_coupleAt_75 : decode cX1_coupleAt 75 = .ok (.getfield 244, 3) := dk_180 0 244 (dk_at dksX1_coupleAt_2 11 rfl rfl)
theorem dX1_coupleAt_78 : decode cX1_coupleAt 78 = .ok (.getfield 413, 3) := dk_180 1 157 (dk_at dksX1_coupleAt_2 14 rfl rfl)
theorem dX1_coupleAt_81 : decode cX1_coupleAt 81 = .ok (.goto 58, 3) := dk_167 0 58 (dk_at dksX1_coupleAt_2 17 rfl rfl)
theorem dX1_coupleAt_84 : decode cX1_coupleAt 84 = .ok (.aload_n 3, 1) := dk_45 (dk_at dksX1_coupleAt_2 20 rfl rfl)
theorem dX1_coupleAt_85 : decode cX1_coupleAt 85 = .ok (.getfield 173, 3) := dk_180 0 173 (dk_at dksX1_coupleAt_2 21 rfl rfl)
theorem dX1_coupleAt_88 : decode cX1_coupleAt 88 = .ok (.ifCond .eq 7, 3) := dk_153 0 7 (dk_at dksX1_coupleAt_3 0 rfl rfl)
theorem dX1_coupleAt_91 : decode cX1_coupleAt 91 = .ok (.iconst 1, 1) := dk_4 (dk_at dksX1_coupleAt_3 3 rfl rfl)
theorem dX1_coupleAt_92 : decode cX1_coupleAt 92 = .ok (.goto 47, 3) := dk_167 0 47 (dk_at dksX1_coupleAt_3 4 rfl rfl)
theorem dX1_coupleAt_95 : decode cX1_coupleAt 95 = .ok (.iconst 0, 1) := dk_3 (dk_at dksX1_coupleAt_3 7 rfl rfl)
theorem dX1_coupleAt_96 : decode cX1_coupleAt 96 = .ok (.goto 43, 3) := dk_167 0 43 (dk_at dksX1_coupleAt_3 8 rfl rfl)
theorem dX1_coupleAt_99 : decode cX1_coupleAt 99 = .ok (.aload_n 3, 1) := dk_45 (dk_at dksX1_coupleAt_3 11 rfl rfl)
theorem dX1_coupleAt_100 : decode cX1_coupleAt 100 = .ok (.invokevirtual 219, 3) := dk_182 0 219 (dk_at dksX1_coupleAt_3 12 rfl rfl)
theorem dX1_coupleAt_103 : decode cX1_coupleAt 103 = .ok (.goto 36, 3) := dk_167 0 36 (dk_at dksX1_coupleAt_3 15 rfl rfl)
theorem dX1_coupleAt_106 : decode cX1_coupleAt 106 = .ok (.aload_n 3, 1) := dk_45 (dk_at dksX1_coupleAt_3 18 rfl rfl)
theorem dX1_coupleAt_107 : decode cX1_coupleAt 107 = .ok (.iload_n 2, 1) := dk_28 (dk_at dksX1_coupleAt_3 19 rfl rfl)
theorem dX1_coupleAt_108 : decode cX1_coupleAt 108 = .ok (.iconst 4, 1) := dk_7 (dk_at dksX1_coupleAt_3 20 rfl rfl)
theorem dX1_coupleAt_109 : decode cX1_coupleAt 109 = .ok (.isub, 1) := dk_100 (dk_at dksX1_coupleAt_3 21 rfl rfl)
theorem dX1_coupleAt_110 : decode cX1_coupleAt 110 = .ok (.invokevirtual 231, 3) := dk_182 0 231 (dk_at dksX1_coupleAt_4 0 rfl rfl)
theorem dX1_coupleAt_113 : decode cX1_coupleAt 113 = .ok (.goto 26, 3) := dk_167 0 26 (dk_at dksX1_coupleAt_4 3 rfl rfl)
theorem dX1_coupleAt_116 : decode cX1_coupleAt 116 = .ok (.aload_n 3, 1) := dk_45 (dk_at dksX1_coupleAt_4 6 rfl rfl)
theorem dX1_coupleAt_117 : decode cX1_coupleAt 117 = .ok (.invokevirtual 216, 3) := dk_182 0 216 (dk_at dksX1_coupleAt_4 7 rfl rfl)
theorem dX1_coupleAt_120 : decode cX1_coupleAt 120 = .ok (.ifCond .eq 7, 3) := dk_153 0 7 (dk_at dksX1_coupleAt_4 10 rfl rfl)
theorem dX1_coupleAt_123 : decode cX1_coupleAt 123 = .ok (.iconst 1, 1) := dk_4 (dk_at dksX1_coupleAt_4 13 rfl rfl)
theorem dX1_coupleAt_124 : decode cX1_coupleAt 124 = .ok (.goto 15, 3) := dk_167 0 15 (dk_at dksX1_coupleAt_4 14 rfl rfl)
theorem dX1_coupleAt_127 : decode cX1_coupleAt 127 = .ok (.iconst 0, 1) := dk_3 (dk_at dksX1_coupleAt_4 17 rfl rfl)
theorem dX1_coupleAt_128 : decode cX1_coupleAt 128 = .ok (.goto 11, 3) := dk_167 0 11 (dk_at dksX1_coupleAt_4 18 rfl rfl)
theorem dX1_coupleAt_131 : decode cX1_coupleAt 131 = .ok (.aload_n 3, 1) := dk_45 (dk_at dksX1_coupleAt_4 21 rfl rfl)
theorem dX1_coupleAt_132 : decode cX1_coupleAt 132 = .ok (.iload_n 2, 1) := dk_28 (dk_at dksX1_coupleAt_4 22 rfl rfl)
theorem dX1_coupleAt_133 : decode cX1_coupleAt 133 = .ok (.bipush 7, 2) := dk_16 7 (dk_at dksX1_coupleAt_5 0 rfl rfl)
theorem dX1_coupleAt_135 : decode cX1_coupleAt 135 = .ok (.isub, 1) := dk_100 (dk_at dksX1_coupleAt_5 2 rfl rfl)
theorem dX1_coupleAt_136 : decode cX1_coupleAt 136 = .ok (.invokevirtual 448, 3) := dk_182 1 192 (dk_at dksX1_coupleAt_5 3 rfl rfl)
theorem dX1_coupleAt_139 : decode cX1_coupleAt 139 = .ok (.ireturn, 1) := dk_172 (dk_at dksX1_coupleAt_5 6 rfl rfl)
abbrev cX1_mayEnter : ByteArray := prog_1_method_49_code
def yX1_mayEnter : MethodName := ⟨RX1, "mayEnter", "(II)I"⟩
def dkwX1_mayEnter_1 : List UInt8 := [192, 0, 171, 182, 1, 1, 172]
abbrev dktX1_mayEnter_1 : List UInt8 := dkwX1_mayEnter_1 ++ []
def dkwX1_mayEnter_0 : List UInt8 := [42, 180, 0, 49, 27, 184, 0, 97, 192, 0, 184, 78, 42, 45, 42, 180, 0, 46, 28, 184, 0, 97]
abbrev dktX1_mayEnter_0 : List UInt8 := dkwX1_mayEnter_0 ++ dktX1_mayEnter_1
theorem dksX1_mayEnter_0 : cX1_mayEnter.data.toList.drop 0 = dktX1_mayEnter_0 := by decide +kernel
theorem dksX1_mayEnter_1 : cX1_mayEnter.data.toList.drop 22 = dktX1_mayEnter_1 := dk_seg dksX1_mayEnter_0 22 rfl rfl
theorem dX1_mayEnter_0 : decode cX1_mayEnter 0 = .ok (.aload_n 0, 1) := dk_42 (dk_at dksX1_mayEnter_0 0 rfl rfl)
theorem dX1_mayEnter_1 : decode cX1_mayEnter 1 = .ok (.getfield 49, 3) := dk_180 0 49 (dk_at dksX1_mayEnter_0 1 rfl rfl)
theorem dX1_mayEnter_4 : decode cX1_mayEnter 4 = .ok (.iload_n 1, 1) := dk_27 (dk_at dksX1_mayEnter_0 4 rfl rfl)
theorem dX1_mayEnter_5 : decode cX1_mayEnter 5 = .ok (.invokestatic 97, 3) := dk_184 0 97 (dk_at dksX1_mayEnter_0 5 rfl rfl)
theorem dX1_mayEnter_8 : decode cX1_mayEnter 8 = .ok (.checkcast 184, 3) := dk_192 0 184 (dk_at dksX1_mayEnter_0 8 rfl rfl)
theorem dX1_mayEnter_11 : decode cX1_mayEnter 11 = .ok (.astore_n 3, 1) := dk_78 (dk_at dksX1_mayEnter_0 11 rfl rfl)
theorem dX1_mayEnter_12 : decode cX1_mayEnter 12 = .ok (.aload_n 0, 1) := dk_42 (dk_at dksX1_mayEnter_0 12 rfl rfl)
theorem dX1_mayEnter_13 : decode cX1_mayEnter 13 = .ok (.aload_n 3, 1) := dk_45 (dk_at dksX1_mayEnter_0 13 rfl rfl)
theorem dX1_mayEnter_14 : decode cX1_mayEnter 14 = .ok (.aload_n 0, 1) := dk_42 (dk_at dksX1_mayEnter_0 14 rfl rfl)
theorem dX1_mayEnter_15 : decode cX1_mayEnter 15 = .ok (.getfield 46, 3) := dk_180 0 46 (dk_at dksX1_mayEnter_0 15 rfl rfl)
theorem dX1_mayEnter_18 : decode cX1_mayEnter 18 = .ok (.iload_n 2, 1) := dk_28 (dk_at dksX1_mayEnter_0 18 rfl rfl)
theorem dX1_mayEnter_19 : decode cX1_mayEnter 19 = .ok (.invokestatic 97, 3) := dk_184 0 97 (dk_at dksX1_mayEnter_0 19 rfl rfl)
theorem dX1_mayEnter_22 : decode cX1_mayEnter 22 = .ok (.checkcast 171, 3) := dk_192 0 171 (dk_at dksX1_mayEnter_1 0 rfl rfl)
theorem dX1_mayEnter_25 : decode cX1_mayEnter 25 = .ok (.invokevirtual 257, 3) := dk_182 1 1 (dk_at dksX1_mayEnter_1 3 rfl rfl)
theorem dX1_mayEnter_28 : decode cX1_mayEnter 28 = .ok (.ireturn, 1) := dk_172 (dk_at dksX1_mayEnter_1 6 rfl rfl)
abbrev cX1_eventAt : ByteArray := prog_1_method_50_code
def yX1_eventAt : MethodName := ⟨RX1, "eventAt", "(II)I"⟩
def dkwX1_eventAt_6 : List UInt8 := [167, 0, 8, 42, 45, 182, 1, 160, 172]
abbrev dktX1_eventAt_6 : List UInt8 := dkwX1_eventAt_6 ++ []
def dkwX1_eventAt_5 : List UInt8 := [167, 0, 32, 45, 180, 0, 207, 28, 16, 8, 100, 185, 0, 29, 2, 0, 192, 0, 14, 185, 0, 13, 1, 0]
abbrev dktX1_eventAt_5 : List UInt8 := dkwX1_eventAt_5 ++ dktX1_eventAt_6
def dkwX1_eventAt_4 : List UInt8 := [182, 1, 45, 185, 0, 13, 1, 0, 167, 0, 46, 45, 182, 1, 118, 167, 0, 39, 45, 180, 1, 108]
abbrev dktX1_eventAt_4 : List UInt8 := dkwX1_eventAt_4 ++ dktX1_eventAt_5
def dkwX1_eventAt_3 : List UInt8 := [45, 180, 1, 14, 180, 1, 18, 185, 0, 13, 1, 0, 167, 0, 65, 45, 182, 1, 89, 167, 0, 58, 45]
abbrev dktX1_eventAt_3 : List UInt8 := dkwX1_eventAt_3 ++ dktX1_eventAt_4
def dkwX1_eventAt_2 : List UInt8 := [45, 182, 0, 210, 167, 0, 97, 45, 182, 1, 195, 167, 0, 90, 45, 180, 1, 14, 180, 1, 198, 167, 0, 80]
abbrev dktX1_eventAt_2 : List UInt8 := dkwX1_eventAt_2 ++ dktX1_eventAt_3
def dkwX1_eventAt_1 : List UInt8 := [170, 0, 0, 0, 149, 0, 0, 0, 0, 0, 0, 0, 9, 0, 0, 0, 53, 0, 0, 0, 60, 0, 0, 0, 67, 0, 0, 0, 77, 0, 0, 0, 92, 0, 0, 0, 99, 0, 0, 0, 111, 0, 0, 0, 118, 0, 0, 0, 125, 0, 0, 0, 125]
abbrev dktX1_eventAt_1 : List UInt8 := dkwX1_eventAt_1 ++ dktX1_eventAt_2
def dkwX1_eventAt_0 : List UInt8 := [42, 180, 0, 49, 27, 184, 0, 97, 192, 0, 184, 78, 28, 3, 16, 10, 184, 0, 19, 184, 0, 82, 28]
abbrev dktX1_eventAt_0 : List UInt8 := dkwX1_eventAt_0 ++ dktX1_eventAt_1
theorem dksX1_eventAt_0 : cX1_eventAt.data.toList.drop 0 = dktX1_eventAt_0 := by decide +kernel
theorem dksX1_eventAt_1 : cX1_eventAt.data.toList.drop 23 = dktX1_eventAt_1 := dk_seg dksX1_eventAt_0 23 rfl rfl
theorem dksX1_eventAt_2 : cX1_eventAt.data.toList.drop 76 = dktX1_eventAt_2 := dk_seg dksX1_eventAt_1 53 rfl rfl
theorem dksX1_eventAt_3 : cX1_eventAt.data.toList.drop 100 = dktX1_eventAt_3 := dk_seg dksX1_eventAt_2 24 rfl rfl
theorem dksX1_eventAt_4 : cX1_eventAt.data.toList.drop 123 = dktX1_eventAt_4 := dk_seg dksX1_eventAt_3 23 rfl rfl
theorem dksX1_eventAt_5 : cX1_eventAt.data.toList.drop 145 = dktX1_eventAt_5 := dk_seg dksX1_eventAt_4 22 rfl rfl
theorem dksX1_eventAt_6 : cX1_eventAt.data.toList.drop 169 = dktX1_eventAt_6 := dk_seg dksX1_eventAt_5 24 rfl rfl
theorem dX1_eventAt_0 : decode cX1_eventAt 0 = .ok (.aload_n 0, 1) := dk_42 (dk_at dksX1_eventAt_0 0 rfl rfl)
theorem dX1_eventAt_1 : decode cX1_eventAt 1 = .ok (.getfield 49, 3) := dk_180 0 49 (dk_at dksX1_eventAt_0 1 rfl rfl)
theorem dX1_eventAt_4 : decode cX1_eventAt 4 = .ok (.iload_n 1, 1) := dk_27 (dk_at dksX1_eventAt_0 4 rfl rfl)
theorem dX1_eventAt_5 : decode cX1_eventAt 5 = .ok (.invokestatic 97, 3) := dk_184 0 97 (dk_at dksX1_eventAt_0 5 rfl rfl)
theorem dX1_eventAt_8 : decode cX1_eventAt 8 = .ok (.checkcast 184, 3) := dk_192 0 184 (dk_at dksX1_eventAt_0 8 rfl rfl)
theorem dX1_eventAt_11 : decode cX1_eventAt 11 = .ok (.astore_n 3, 1) := dk_78 (dk_at dksX1_eventAt_0 11 rfl rfl)
theorem dX1_eventAt_12 : decode cX1_eventAt 12 = .ok (.iload_n 2, 1) := dk_28 (dk_at dksX1_eventAt_0 12 rfl rfl)
theorem dX1_eventAt_13 : decode cX1_eventAt 13 = .ok (.iconst 0, 1) := dk_3 (dk_at dksX1_eventAt_0 13 rfl rfl)
theorem dX1_eventAt_14 : decode cX1_eventAt 14 = .ok (.bipush 10, 2) := dk_16 10 (dk_at dksX1_eventAt_0 14 rfl rfl)
theorem dX1_eventAt_16 : decode cX1_eventAt 16 = .ok (.invokestatic 19, 3) := dk_184 0 19 (dk_at dksX1_eventAt_0 16 rfl rfl)
theorem dX1_eventAt_19 : decode cX1_eventAt 19 = .ok (.invokestatic 82, 3) := dk_184 0 82 (dk_at dksX1_eventAt_0 19 rfl rfl)
theorem dX1_eventAt_22 : decode cX1_eventAt 22 = .ok (.iload_n 2, 1) := dk_28 (dk_at dksX1_eventAt_0 22 rfl rfl)
theorem dX1_eventAt_23 : decode cX1_eventAt 23 = .ok (.tableswitch 149 0 9 #[53, 60, 67, 77, 92, 99, 111, 118, 125, 125], 53) := by decide +kernel
theorem dX1_eventAt_76 : decode cX1_eventAt 76 = .ok (.aload_n 3, 1) := dk_45 (dk_at dksX1_eventAt_2 0 rfl rfl)
theorem dX1_eventAt_77 : decode cX1_eventAt 77 = .ok (.invokevirtual 210, 3) := dk_182 0 210 (dk_at dksX1_eventAt_2 1 rfl rfl)
theorem dX1_eventAt_80 : decode cX1_eventAt 80 = .ok (.goto 97, 3) := dk_167 0 97 (dk_at dksX1_eventAt_2 4 rfl rfl)
theorem dX1_eventAt_83 : decode cX1_eventAt 83 = .ok (.aload_n 3, 1) := dk_45 (dk_at dksX1_eventAt_2 7 rfl rfl)
theorem dX1_eventAt_84 : decode cX1_eventAt 84 = .ok (.invokevirtual 451, 3) := dk_182 1 195 (dk_at dksX1_eventAt_2 8 rfl rfl)
theorem dX1_eventAt_87 : decode cX1_eventAt 87 = .ok (.goto 90, 3) := dk_167 0 90 (dk_at dksX1_eventAt_2 11 rfl rfl)
theorem dX1_eventAt_90 : decode cX1_eventAt 90 = .ok (.aload_n 3, 1) := dk_45 (dk_at dksX1_eventAt_2 14 rfl rfl)
theorem dX1_eventAt_91 : decode cX1_eventAt 91 = .ok (.getfield 270, 3) := dk_180 1 14 (dk_at dksX1_eventAt_2 15 rfl rfl)
theorem dX1_eventAt_94 : decode cX1_eventAt 94 = .ok (.getfield 454, 3) := dk_180 1 198 (dk_at dksX1_eventAt_2 18 rfl rfl)
theorem dX1_eventAt_97 : decode cX1_eventAt 97 = .ok (.goto 80, 3) := dk_167 0 80 (dk_at dksX1_eventAt_2 21 rfl rfl)
theorem dX1_eventAt_100 : decode cX1_eventAt 100 = .ok (.aload_n 3, 1) := dk_45 (dk_at dksX1_eventAt_3 0 rfl rfl)
theorem dX1_eventAt_101 : decode cX1_eventAt 101 = .ok (.getfield 270, 3) := dk_180 1 14 (dk_at dksX1_eventAt_3 1 rfl rfl)
theorem dX1_eventAt_104 : decode cX1_eventAt 104 = .ok (.getfield 274, 3) := dk_180 1 18 (dk_at dksX1_eventAt_3 4 rfl rfl)
theorem dX1_eventAt_107 : decode cX1_eventAt 107 = .ok (.invokeinterface 13 1, 5) := by decide +kernel
theorem dX1_eventAt_112 : decode cX1_eventAt 112 = .ok (.goto 65, 3) := dk_167 0 65 (dk_at dksX1_eventAt_3 12 rfl rfl)
theorem dX1_eventAt_115 : decode cX1_eventAt 115 = .ok (.aload_n 3, 1) := dk_45 (dk_at dksX1_eventAt_3 15 rfl rfl)
theorem dX1_eventAt_116 : decode cX1_eventAt 116 = .ok (.invokevirtual 345, 3) := dk_182 1 89 (dk_at dksX1_eventAt_3 16 rfl rfl)
theorem dX1_eventAt_119 : decode cX1_eventAt 119 = .ok (.goto 58, 3) := dk_167 0 58 (dk_at dksX1_eventAt_3 19 rfl rfl)
theorem dX1_eventAt_122 : decode cX1_eventAt 122 = .ok (.aload_n 3, 1) := dk_45 (dk_at dksX1_eventAt_3 22 rfl rfl)
theorem dX1_eventAt_123 : decode cX1_eventAt 123 = .ok (.invokevirtual 301, 3) := dk_182 1 45 (dk_at dksX1_eventAt_4 0 rfl rfl)
theorem dX1_eventAt_126 : decode cX1_eventAt 126 = .ok (.invokeinterface 13 1, 5) := by decide +kernel
theorem dX1_eventAt_131 : decode cX1_eventAt 131 = .ok (.goto 46, 3) := dk_167 0 46 (dk_at dksX1_eventAt_4 8 rfl rfl)
theorem dX1_eventAt_134 : decode cX1_eventAt 134 = .ok (.aload_n 3, 1) := dk_45 (dk_at dksX1_eventAt_4 11 rfl rfl)
theorem dX1_eventAt_135 : decode cX1_eventAt 135 = .ok (.invokevirtual 374, 3) := dk_182 1 118 (dk_at dksX1_eventAt_4 12 rfl rfl)
theorem dX1_eventAt_138 : decode cX1_eventAt 138 = .ok (.goto 39, 3) := dk_167 0 39 (dk_at dksX1_eventAt_4 15 rfl rfl)
theorem dX1_eventAt_141 : decode cX1_eventAt 141 = .ok (.aload_n 3, 1) := dk_45 (dk_at dksX1_eventAt_4 18 rfl rfl)
theorem dX1_eventAt_142 : decode cX1_eventAt 142 = .ok (.getfield 364, 3) := dk_180 1 108 (dk_at dksX1_eventAt_4 19 rfl rfl)
theorem dX1_eventAt_145 : decode cX1_eventAt 145 = .ok (.goto 32, 3) := dk_167 0 32 (dk_at dksX1_eventAt_5 0 rfl rfl)
theorem dX1_eventAt_148 : decode cX1_eventAt 148 = .ok (.aload_n 3, 1) := dk_45 (dk_at dksX1_eventAt_5 3 rfl rfl)
theorem dX1_eventAt_149 : decode cX1_eventAt 149 = .ok (.getfield 207, 3) := dk_180 0 207 (dk_at dksX1_eventAt_5 4 rfl rfl)
theorem dX1_eventAt_152 : decode cX1_eventAt 152 = .ok (.iload_n 2, 1) := dk_28 (dk_at dksX1_eventAt_5 7 rfl rfl)
theorem dX1_eventAt_153 : decode cX1_eventAt 153 = .ok (.bipush 8, 2) := dk_16 8 (dk_at dksX1_eventAt_5 8 rfl rfl)
theorem dX1_eventAt_155 : decode cX1_eventAt 155 = .ok (.isub, 1) := dk_100 (dk_at dksX1_eventAt_5 10 rfl rfl)
theorem dX1_eventAt_156 : decode cX1_eventAt 156 = .ok (.invokeinterface 29 2, 5) := by decide +kernel
theorem dX1_eventAt_161 : decode cX1_eventAt 161 = .ok (.checkcast 14, 3) := dk_192 0 14 (dk_at dksX1_eventAt_5 16 rfl rfl)
theorem dX1_eventAt_164 : decode cX1_eventAt 164 = .ok (.invokeinterface 13 1, 5) := by decide +kernel
theorem dX1_eventAt_169 : decode cX1_eventAt 169 = .ok (.goto 8, 3) := dk_167 0 8 (dk_at dksX1_eventAt_6 0 rfl rfl)
theorem dX1_eventAt_172 : decode cX1_eventAt 172 = .ok (.aload_n 0, 1) := dk_42 (dk_at dksX1_eventAt_6 3 rfl rfl)
theorem dX1_eventAt_173 : decode cX1_eventAt 173 = .ok (.aload_n 3, 1) := dk_45 (dk_at dksX1_eventAt_6 4 rfl rfl)
theorem dX1_eventAt_174 : decode cX1_eventAt 174 = .ok (.invokevirtual 416, 3) := dk_182 1 160 (dk_at dksX1_eventAt_6 5 rfl rfl)
theorem dX1_eventAt_177 : decode cX1_eventAt 177 = .ok (.ireturn, 1) := dk_172 (dk_at dksX1_eventAt_6 8 rfl rfl)
abbrev cX1_entryAt : ByteArray := prog_1_method_52_code
def yX1_entryAt : MethodName := ⟨RX1, "entryAt", "(III)I"⟩
def dkwX1_entryAt_7 : List UInt8 := [180, 1, 210, 167, 0, 16, 25, 5, 180, 1, 213, 167, 0, 8, 25, 5, 182, 1, 216, 172]
abbrev dktX1_entryAt_7 : List UInt8 := dkwX1_entryAt_7 ++ []
def dkwX1_entryAt_6 : List UInt8 := [182, 1, 203, 167, 0, 40, 25, 5, 180, 1, 31, 167, 0, 32, 25, 5, 180, 1, 207, 167, 0, 24, 25, 5]
abbrev dktX1_entryAt_6 : List UInt8 := dkwX1_entryAt_6 ++ dktX1_entryAt_7
def dkwX1_entryAt_5 : List UInt8 := [167, 0, 67, 3, 167, 0, 63, 25, 4, 25, 5, 184, 1, 199, 167, 0, 53, 25, 4, 180, 1, 14, 25, 5]
abbrev dktX1_entryAt_5 : List UInt8 := dkwX1_entryAt_5 ++ dktX1_entryAt_6
def dkwX1_entryAt_4 : List UInt8 := [167, 0, 89, 25, 4, 180, 1, 14, 180, 1, 18, 25, 5, 185, 0, 107, 2, 0, 153, 0, 7, 4]
abbrev dktX1_entryAt_4 : List UInt8 := dkwX1_entryAt_4 ++ dktX1_entryAt_5
def dkwX1_entryAt_3 : List UInt8 := [25, 5, 180, 1, 49, 180, 1, 179, 167, 0, 105, 25, 5, 180, 1, 28, 153, 0, 7, 4, 167, 0, 93, 3]
abbrev dktX1_entryAt_3 : List UInt8 := dkwX1_entryAt_3 ++ dktX1_entryAt_4
def dkwX1_entryAt_2 : List UInt8 := [170, 0, 0, 0, 0, 0, 0, 160, 0, 0, 0, 0, 0, 0, 0, 8, 0, 0, 0, 52, 0, 0, 0, 63, 0, 0, 0, 79, 0, 0, 0, 105, 0, 0, 0, 115, 0, 0, 0, 128, 0, 0, 0, 136, 0, 0, 0, 144, 0, 0, 0, 152]
abbrev dktX1_entryAt_2 : List UInt8 := dkwX1_entryAt_2 ++ dktX1_entryAt_3
def dkwX1_entryAt_1 : List UInt8 := [16, 9, 184, 0, 19, 184, 0, 82, 29]
abbrev dktX1_entryAt_1 : List UInt8 := dkwX1_entryAt_1 ++ dktX1_entryAt_2
def dkwX1_entryAt_0 : List UInt8 := [42, 180, 0, 49, 27, 184, 0, 97, 192, 0, 184, 58, 4, 25, 4, 28, 184, 1, 24, 58, 5, 29, 3]
abbrev dktX1_entryAt_0 : List UInt8 := dkwX1_entryAt_0 ++ dktX1_entryAt_1
theorem dksX1_entryAt_0 : cX1_entryAt.data.toList.drop 0 = dktX1_entryAt_0 := by decide +kernel
theorem dksX1_entryAt_1 : cX1_entryAt.data.toList.drop 23 = dktX1_entryAt_1 := dk_seg dksX1_entryAt_0 23 rfl rfl
theorem dksX1_entryAt_2 : cX1_entryAt.data.toList.drop 32 = dktX1_entryAt_2 := dk_seg dksX1_entryAt_1 9 rfl rfl
theorem dksX1_entryAt_3 : cX1_entryAt.data.toList.drop 84 = dktX1_entryAt_3 := dk_seg dksX1_entryAt_2 52 rfl rfl
theorem dksX1_entryAt_4 : cX1_entryAt.data.toList.drop 108 = dktX1_entryAt_4 := dk_seg dksX1_entryAt_3 24 rfl rfl
theorem dksX1_entryAt_5 : cX1_entryAt.data.toList.drop 130 = dktX1_entryAt_5 := dk_seg dksX1_entryAt_4 22 rfl rfl
theorem dksX1_entryAt_6 : cX1_entryAt.data.toList.drop 154 = dktX1_entryAt_6 := dk_seg dksX1_entryAt_5 24 rfl rfl
theorem dksX1_entryAt_7 : cX1_entryAt.data.toList.drop 178 = dktX1_entryAt_7 := dk_seg dksX1_entryAt_6 24 rfl rfl
theorem dX1_entryAt_0 : decode cX1_entryAt 0 = .ok (.aload_n 0, 1) := dk_42 (dk_at dksX1_entryAt_0 0 rfl rfl)
theorem dX1_entryAt_1 : decode cX1_entryAt 1 = .ok (.getfield 49, 3) := dk_180 0 49 (dk_at dksX1_entryAt_0 1 rfl rfl)
theorem dX1_entryAt_4 : decode cX1_entryAt 4 = .ok (.iload_n 1, 1) := dk_27 (dk_at dksX1_entryAt_0 4 rfl rfl)
theorem dX1_entryAt_5 : decode cX1_entryAt 5 = .ok (.invokestatic 97, 3) := dk_184 0 97 (dk_at dksX1_entryAt_0 5 rfl rfl)
theorem dX1_entryAt_8 : decode cX1_entryAt 8 = .ok (.checkcast 184, 3) := dk_192 0 184 (dk_at dksX1_entryAt_0 8 rfl rfl)
theorem dX1_entryAt_11 : decode cX1_entryAt 11 = .ok (.astore 4, 2) := dk_58 4 (dk_at dksX1_entryAt_0 11 rfl rfl)
theorem dX1_entryAt_13 : decode cX1_entryAt 13 = .ok (.aload 4, 2) := dk_25 4 (dk_at dksX1_entryAt_0 13 rfl rfl)
theorem dX1_entryAt_15 : decode cX1_entryAt 15 = .ok (.iload_n 2, 1) := dk_28 (dk_at dksX1_entryAt_0 15 rfl rfl)
theorem dX1_entryAt_16 : decode cX1_entryAt 16 = .ok (.invokestatic 280, 3) := dk_184 1 24 (dk_at dksX1_entryAt_0 16 rfl rfl)
theorem dX1_entryAt_19 : decode cX1_entryAt 19 = .ok (.astore 5, 2) := dk_58 5 (dk_at dksX1_entryAt_0 19 rfl rfl)
theorem dX1_entryAt_21 : decode cX1_entryAt 21 = .ok (.iload_n 3, 1) := dk_29 (dk_at dksX1_entryAt_0 21 rfl rfl)
theorem dX1_entryAt_22 : decode cX1_entryAt 22 = .ok (.iconst 0, 1) := dk_3 (dk_at dksX1_entryAt_0 22 rfl rfl)
theorem dX1_entryAt_23 : decode cX1_entryAt 23 = .ok (.bipush 9, 2) := dk_16 9 (dk_at dksX1_entryAt_1 0 rfl rfl)
theorem dX1_entryAt_25 : decode cX1_entryAt 25 = .ok (.invokestatic 19, 3) := dk_184 0 19 (dk_at dksX1_entryAt_1 2 rfl rfl)
theorem dX1_entryAt_28 : decode cX1_entryAt 28 = .ok (.invokestatic 82, 3) := dk_184 0 82 (dk_at dksX1_entryAt_1 5 rfl rfl)
theorem dX1_entryAt_31 : decode cX1_entryAt 31 = .ok (.iload_n 3, 1) := dk_29 (dk_at dksX1_entryAt_1 8 rfl rfl)
theorem dX1_entryAt_32 : decode cX1_entryAt 32 = .ok (.tableswitch 160 0 8 #[52, 63, 79, 105, 115, 128, 136, 144, 152], 52) := by decide +kernel
theorem dX1_entryAt_84 : decode cX1_entryAt 84 = .ok (.aload 5, 2) := dk_25 5 (dk_at dksX1_entryAt_3 0 rfl rfl)
theorem dX1_entryAt_86 : decode cX1_entryAt 86 = .ok (.getfield 305, 3) := dk_180 1 49 (dk_at dksX1_entryAt_3 2 rfl rfl)
theorem dX1_entryAt_89 : decode cX1_entryAt 89 = .ok (.getfield 435, 3) := dk_180 1 179 (dk_at dksX1_entryAt_3 5 rfl rfl)
theorem dX1_entryAt_92 : decode cX1_entryAt 92 = .ok (.goto 105, 3) := dk_167 0 105 (dk_at dksX1_entryAt_3 8 rfl rfl)
theorem dX1_entryAt_95 : decode cX1_entryAt 95 = .ok (.aload 5, 2) := dk_25 5 (dk_at dksX1_entryAt_3 11 rfl rfl)
theorem dX1_entryAt_97 : decode cX1_entryAt 97 = .ok (.getfield 284, 3) := dk_180 1 28 (dk_at dksX1_entryAt_3 13 rfl rfl)
theorem dX1_entryAt_100 : decode cX1_entryAt 100 = .ok (.ifCond .eq 7, 3) := dk_153 0 7 (dk_at dksX1_entryAt_3 16 rfl rfl)
theorem dX1_entryAt_103 : decode cX1_entryAt 103 = .ok (.iconst 1, 1) := dk_4 (dk_at dksX1_entryAt_3 19 rfl rfl)
theorem dX1_entryAt_104 : decode cX1_entryAt 104 = .ok (.goto 93, 3) := dk_167 0 93 (dk_at dksX1_entryAt_3 20 rfl rfl)
theorem dX1_entryAt_107 : decode cX1_entryAt 107 = .ok (.iconst 0, 1) := dk_3 (dk_at dksX1_entryAt_3 23 rfl rfl)
theorem dX1_entryAt_108 : decode cX1_entryAt 108 = .ok (.goto 89, 3) := dk_167 0 89 (dk_at dksX1_entryAt_4 0 rfl rfl)
theorem dX1_entryAt_111 : decode cX1_entryAt 111 = .ok (.aload 4, 2) := dk_25 4 (dk_at dksX1_entryAt_4 3 rfl rfl)
theorem dX1_entryAt_113 : decode cX1_entryAt 113 = .ok (.getfield 270, 3) := dk_180 1 14 (dk_at dksX1_entryAt_4 5 rfl rfl)
theorem dX1_entryAt_116 : decode cX1_entryAt 116 = .ok (.getfield 274, 3) := dk_180 1 18 (dk_at dksX1_entryAt_4 8 rfl rfl)
theorem dX1_entryAt_119 : decode cX1_entryAt 119 = .ok (.aload 5, 2) := dk_25 5 (dk_at dksX1_entryAt_4 11 rfl rfl)
theorem dX1_entryAt_121 : decode cX1_entryAt 121 = .ok (.invokeinterface 107 2, 5) := by decide +kernel
theorem dX1_entryAt_126 : decode cX1_entryAt 126 = .ok (.ifCond .eq 7, 3) := dk_153 0 7 (dk_at dksX1_entryAt_4 18 rfl rfl)
theorem dX1_entryAt_129 : decode cX1_entryAt 129 = .ok (.iconst 1, 1) := dk_4 (dk_at dksX1_entryAt_4 21 rfl rfl)
theorem dX1_entryAt_130 : decode cX1_entryAt 130 = .ok (.goto 67, 3) := dk_167 0 67 (dk_at dksX1_entryAt_5 0 rfl rfl)
theorem dX1_entryAt_133 : decode cX1_entryAt 133 = .ok (.iconst 0, 1) := dk_3 (dk_at dksX1_entryAt_5 3 rfl rfl)
theorem dX1_entryAt_134 : decode cX1_entryAt 134 = .ok (.goto 63, 3) := dk_167 0 63 (dk_at dksX1_entryAt_5 4 rfl rfl)
theorem dX1_entryAt_137 : decode cX1_entryAt 137 = .ok (.aload 4, 2) := dk_25 4 (dk_at dksX1_entryAt_5 7 rfl rfl)
theorem dX1_entryAt_139 : decode cX1_entryAt 139 = .ok (.aload 5, 2) := dk_25 5 (dk_at dksX1_entryAt_5 9 rfl rfl)
theorem dX1_entryAt_141 : decode cX1_entryAt 141 = .ok (.invokestatic 455, 3) := dk_184 1 199 (dk_at dksX1_entryAt_5 11 rfl rfl)
theorem dX1_entryAt_144 : decode cX1_entryAt 144 = .ok (.goto 53, 3) := dk_167 0 53 (dk_at dksX1_entryAt_5 14 rfl rfl)
theorem dX1_entryAt_147 : decode cX1_entryAt 147 = .ok (.aload 4, 2) := dk_25 4 (dk_at dksX1_entryAt_5 17 rfl rfl)
theorem dX1_entryAt_149 : decode cX1_entryAt 149 = .ok (.getfield 270, 3) := dk_180 1 14 (dk_at dksX1_entryAt_5 19 rfl rfl)
theorem dX1_entryAt_152 : decode cX1_entryAt 152 = .ok (.aload 5, 2) := dk_25 5 (dk_at dksX1_entryAt_5 22 rfl rfl)
theorem dX1_entryAt_154 : decode cX1_entryAt 154 = .ok (.invokevirtual 459, 3) := dk_182 1 203 (dk_at dksX1_entryAt_6 0 rfl rfl)
theorem dX1_entryAt_157 : decode cX1_entryAt 157 = .ok (.goto 40, 3) := dk_167 0 40 (dk_at dksX1_entryAt_6 3 rfl rfl)
theorem dX1_entryAt_160 : decode cX1_entryAt 160 = .ok (.aload 5, 2) := dk_25 5 (dk_at dksX1_entryAt_6 6 rfl rfl)
theorem dX1_entryAt_162 : decode cX1_entryAt 162 = .ok (.getfield 287, 3) := dk_180 1 31 (dk_at dksX1_entryAt_6 8 rfl rfl)
theorem dX1_entryAt_165 : decode cX1_entryAt 165 = .ok (.goto 32, 3) := dk_167 0 32 (dk_at dksX1_entryAt_6 11 rfl rfl)
theorem dX1_entryAt_168 : decode cX1_entryAt 168 = .ok (.aload 5, 2) := dk_25 5 (dk_at dksX1_entryAt_6 14 rfl rfl)
theorem dX1_entryAt_170 : decode cX1_entryAt 170 = .ok (.getfield 463, 3) := dk_180 1 207 (dk_at dksX1_entryAt_6 16 rfl rfl)
theorem dX1_entryAt_173 : decode cX1_entryAt 173 = .ok (.goto 24, 3) := dk_167 0 24 (dk_at dksX1_entryAt_6 19 rfl rfl)
theorem dX1_entryAt_176 : decode cX1_entryAt 176 = .ok (.aload 5, 2) := dk_25 5 (dk_at dksX1_entryAt_6 22 rfl rfl)
theorem dX1_entryAt_178 : decode cX1_entryAt 178 = .ok (.getfield 466, 3) := dk_180 1 210 (dk_at dksX1_entryAt_7 0 rfl rfl)
theorem dX1_entryAt_181 : decode cX1_entryAt 181 = .ok (.goto 16, 3) := dk_167 0 16 (dk_at dksX1_entryAt_7 3 rfl rfl)
theorem dX1_entryAt_184 : decode cX1_entryAt 184 = .ok (.aload 5, 2) := dk_25 5 (dk_at dksX1_entryAt_7 6 rfl rfl)
theorem dX1_entryAt_186 : decode cX1_entryAt 186 = .ok (.getfield 469, 3) := dk_180 1 213 (dk_at dksX1_entryAt_7 8 rfl rfl)
theorem dX1_entryAt_189 : decode cX1_entryAt 189 = .ok (.goto 8, 3) := dk_167 0 8 (dk_at dksX1_entryAt_7 11 rfl rfl)
theorem dX1_entryAt_192 : decode cX1_entryAt 192 = .ok (.aload 5, 2) := dk_25 5 (dk_at dksX1_entryAt_7 14 rfl rfl)
theorem dX1_entryAt_194 : decode cX1_entryAt 194 = .ok (.invokevirtual 472, 3) := dk_182 1 216 (dk_at dksX1_entryAt_7 16 rfl rfl)
theorem dX1_entryAt_197 : decode cX1_entryAt 197 = .ok (.ireturn, 1) := dk_172 (dk_at dksX1_entryAt_7 19 rfl rfl)
abbrev cX1_heatOf : ByteArray := prog_1_method_51_code
def yX1_heatOf : MethodName := ⟨RX1, "heatOf", "(LScrutineery$Event;LScrutineery$Entry;)I"⟩
def dkwX1_heatOf_2 : List UInt8 := [132, 4, 1, 167, 255, 215, 29, 172]
abbrev dktX1_heatOf_2 : List UInt8 := dkwX1_heatOf_2 ++ []
def dkwX1_heatOf_1 : List UInt8 := [185, 0, 29, 2, 0, 192, 0, 14, 43, 185, 0, 107, 2, 0, 153, 0, 8, 21, 4, 167, 0, 4, 29, 62]
abbrev dktX1_heatOf_1 : List UInt8 := dkwX1_heatOf_1 ++ dktX1_heatOf_2
def dkwX1_heatOf_0 : List UInt8 := [42, 182, 1, 45, 77, 2, 62, 3, 54, 4, 21, 4, 44, 185, 0, 13, 1, 0, 162, 0, 36, 44, 21, 4]
abbrev dktX1_heatOf_0 : List UInt8 := dkwX1_heatOf_0 ++ dktX1_heatOf_1
theorem dksX1_heatOf_0 : cX1_heatOf.data.toList.drop 0 = dktX1_heatOf_0 := by decide +kernel
theorem dksX1_heatOf_1 : cX1_heatOf.data.toList.drop 24 = dktX1_heatOf_1 := dk_seg dksX1_heatOf_0 24 rfl rfl
theorem dksX1_heatOf_2 : cX1_heatOf.data.toList.drop 48 = dktX1_heatOf_2 := dk_seg dksX1_heatOf_1 24 rfl rfl
theorem dX1_heatOf_0 : decode cX1_heatOf 0 = .ok (.aload_n 0, 1) := dk_42 (dk_at dksX1_heatOf_0 0 rfl rfl)
theorem dX1_heatOf_1 : decode cX1_heatOf 1 = .ok (.invokevirtual 301, 3) := dk_182 1 45 (dk_at dksX1_heatOf_0 1 rfl rfl)
theorem dX1_heatOf_4 : decode cX1_heatOf 4 = .ok (.astore_n 2, 1) := dk_77 (dk_at dksX1_heatOf_0 4 rfl rfl)
theorem dX1_heatOf_5 : decode cX1_heatOf 5 = .ok (.iconst (-1), 1) := dk_2 (dk_at dksX1_heatOf_0 5 rfl rfl)
theorem dX1_heatOf_6 : decode cX1_heatOf 6 = .ok (.istore_n 3, 1) := dk_62 (dk_at dksX1_heatOf_0 6 rfl rfl)
theorem dX1_heatOf_7 : decode cX1_heatOf 7 = .ok (.iconst 0, 1) := dk_3 (dk_at dksX1_heatOf_0 7 rfl rfl)
theorem dX1_heatOf_8 : decode cX1_heatOf 8 = .ok (.istore 4, 2) := dk_54 4 (dk_at dksX1_heatOf_0 8 rfl rfl)
theorem dX1_heatOf_10 : decode cX1_heatOf 10 = .ok (.iload 4, 2) := dk_21 4 (dk_at dksX1_heatOf_0 10 rfl rfl)
theorem dX1_heatOf_12 : decode cX1_heatOf 12 = .ok (.aload_n 2, 1) := dk_44 (dk_at dksX1_heatOf_0 12 rfl rfl)
theorem dX1_heatOf_13 : decode cX1_heatOf 13 = .ok (.invokeinterface 13 1, 5) := by decide +kernel
theorem dX1_heatOf_18 : decode cX1_heatOf 18 = .ok (.if_icmp .ge 36, 3) := dk_162 0 36 (dk_at dksX1_heatOf_0 18 rfl rfl)
theorem dX1_heatOf_21 : decode cX1_heatOf 21 = .ok (.aload_n 2, 1) := dk_44 (dk_at dksX1_heatOf_0 21 rfl rfl)
theorem dX1_heatOf_22 : decode cX1_heatOf 22 = .ok (.iload 4, 2) := dk_21 4 (dk_at dksX1_heatOf_0 22 rfl rfl)
theorem dX1_heatOf_24 : decode cX1_heatOf 24 = .ok (.invokeinterface 29 2, 5) := by decide +kernel
theorem dX1_heatOf_29 : decode cX1_heatOf 29 = .ok (.checkcast 14, 3) := dk_192 0 14 (dk_at dksX1_heatOf_1 5 rfl rfl)
theorem dX1_heatOf_32 : decode cX1_heatOf 32 = .ok (.aload_n 1, 1) := dk_43 (dk_at dksX1_heatOf_1 8 rfl rfl)
theorem dX1_heatOf_33 : decode cX1_heatOf 33 = .ok (.invokeinterface 107 2, 5) := by decide +kernel
theorem dX1_heatOf_38 : decode cX1_heatOf 38 = .ok (.ifCond .eq 8, 3) := dk_153 0 8 (dk_at dksX1_heatOf_1 14 rfl rfl)
theorem dX1_heatOf_41 : decode cX1_heatOf 41 = .ok (.iload 4, 2) := dk_21 4 (dk_at dksX1_heatOf_1 17 rfl rfl)
theorem dX1_heatOf_43 : decode cX1_heatOf 43 = .ok (.goto 4, 3) := dk_167 0 4 (dk_at dksX1_heatOf_1 19 rfl rfl)
theorem dX1_heatOf_46 : decode cX1_heatOf 46 = .ok (.iload_n 3, 1) := dk_29 (dk_at dksX1_heatOf_1 22 rfl rfl)
theorem dX1_heatOf_47 : decode cX1_heatOf 47 = .ok (.istore_n 3, 1) := dk_62 (dk_at dksX1_heatOf_1 23 rfl rfl)
theorem dX1_heatOf_48 : decode cX1_heatOf 48 = .ok (.iinc 4 1, 3) := dk_132 4 1 (dk_at dksX1_heatOf_2 0 rfl rfl)
theorem dX1_heatOf_51 : decode cX1_heatOf 51 = .ok (.goto (-41), 3) := dk_167 255 215 (dk_at dksX1_heatOf_2 3 rfl rfl)
theorem dX1_heatOf_54 : decode cX1_heatOf 54 = .ok (.iload_n 3, 1) := dk_29 (dk_at dksX1_heatOf_2 6 rfl rfl)
theorem dX1_heatOf_55 : decode cX1_heatOf 55 = .ok (.ireturn, 1) := dk_172 (dk_at dksX1_heatOf_2 7 rfl rfl)
abbrev cX1_judge : ByteArray := prog_1_method_53_code
def yX1_judge : MethodName := ⟨RX1, "judge", "(III)I"⟩
def dkwX1_judge_1 : List UInt8 := [180, 0, 207, 28, 185, 0, 29, 2, 0, 192, 0, 14, 29, 184, 0, 97, 192, 0, 88, 180, 1, 157, 172]
abbrev dktX1_judge_1 : List UInt8 := dkwX1_judge_1 ++ []
def dkwX1_judge_0 : List UInt8 := [42, 180, 0, 49, 27, 184, 0, 97, 192, 0, 184, 58, 4, 28, 3, 4, 184, 0, 19, 184, 0, 25, 25, 4]
abbrev dktX1_judge_0 : List UInt8 := dkwX1_judge_0 ++ dktX1_judge_1
theorem dksX1_judge_0 : cX1_judge.data.toList.drop 0 = dktX1_judge_0 := by decide +kernel
theorem dksX1_judge_1 : cX1_judge.data.toList.drop 24 = dktX1_judge_1 := dk_seg dksX1_judge_0 24 rfl rfl
theorem dX1_judge_0 : decode cX1_judge 0 = .ok (.aload_n 0, 1) := dk_42 (dk_at dksX1_judge_0 0 rfl rfl)
theorem dX1_judge_1 : decode cX1_judge 1 = .ok (.getfield 49, 3) := dk_180 0 49 (dk_at dksX1_judge_0 1 rfl rfl)
theorem dX1_judge_4 : decode cX1_judge 4 = .ok (.iload_n 1, 1) := dk_27 (dk_at dksX1_judge_0 4 rfl rfl)
theorem dX1_judge_5 : decode cX1_judge 5 = .ok (.invokestatic 97, 3) := dk_184 0 97 (dk_at dksX1_judge_0 5 rfl rfl)
theorem dX1_judge_8 : decode cX1_judge 8 = .ok (.checkcast 184, 3) := dk_192 0 184 (dk_at dksX1_judge_0 8 rfl rfl)
theorem dX1_judge_11 : decode cX1_judge 11 = .ok (.astore 4, 2) := dk_58 4 (dk_at dksX1_judge_0 11 rfl rfl)
theorem dX1_judge_13 : decode cX1_judge 13 = .ok (.iload_n 2, 1) := dk_28 (dk_at dksX1_judge_0 13 rfl rfl)
theorem dX1_judge_14 : decode cX1_judge 14 = .ok (.iconst 0, 1) := dk_3 (dk_at dksX1_judge_0 14 rfl rfl)
theorem dX1_judge_15 : decode cX1_judge 15 = .ok (.iconst 1, 1) := dk_4 (dk_at dksX1_judge_0 15 rfl rfl)
theorem dX1_judge_16 : decode cX1_judge 16 = .ok (.invokestatic 19, 3) := dk_184 0 19 (dk_at dksX1_judge_0 16 rfl rfl)
theorem dX1_judge_19 : decode cX1_judge 19 = .ok (.invokestatic 25, 3) := dk_184 0 25 (dk_at dksX1_judge_0 19 rfl rfl)
theorem dX1_judge_22 : decode cX1_judge 22 = .ok (.aload 4, 2) := dk_25 4 (dk_at dksX1_judge_0 22 rfl rfl)
theorem dX1_judge_24 : decode cX1_judge 24 = .ok (.getfield 207, 3) := dk_180 0 207 (dk_at dksX1_judge_1 0 rfl rfl)
theorem dX1_judge_27 : decode cX1_judge 27 = .ok (.iload_n 2, 1) := dk_28 (dk_at dksX1_judge_1 3 rfl rfl)
theorem dX1_judge_28 : decode cX1_judge 28 = .ok (.invokeinterface 29 2, 5) := by decide +kernel
theorem dX1_judge_33 : decode cX1_judge 33 = .ok (.checkcast 14, 3) := dk_192 0 14 (dk_at dksX1_judge_1 9 rfl rfl)
theorem dX1_judge_36 : decode cX1_judge 36 = .ok (.iload_n 3, 1) := dk_29 (dk_at dksX1_judge_1 12 rfl rfl)
theorem dX1_judge_37 : decode cX1_judge 37 = .ok (.invokestatic 97, 3) := dk_184 0 97 (dk_at dksX1_judge_1 13 rfl rfl)
theorem dX1_judge_40 : decode cX1_judge 40 = .ok (.checkcast 88, 3) := dk_192 0 88 (dk_at dksX1_judge_1 16 rfl rfl)
theorem dX1_judge_43 : decode cX1_judge 43 = .ok (.getfield 413, 3) := dk_180 1 157 (dk_at dksX1_judge_1 19 rfl rfl)
theorem dX1_judge_46 : decode cX1_judge 46 = .ok (.ireturn, 1) := dk_172 (dk_at dksX1_judge_1 22 rfl rfl)
abbrev cX1_markAt : ByteArray := prog_1_method_54_code
def yX1_markAt : MethodName := ⟨RX1, "markAt", "(III)I"⟩
def dkwX1_markAt_2 : List UInt8 := [185, 1, 219, 1, 0, 172]
abbrev dktX1_markAt_2 : List UInt8 := dkwX1_markAt_2 ++ []
def dkwX1_markAt_1 : List UInt8 := [180, 1, 14, 180, 1, 111, 28, 50, 29, 50, 58, 5, 25, 5, 199, 0, 7, 2, 167, 0, 10, 25, 5]
abbrev dktX1_markAt_1 : List UInt8 := dkwX1_markAt_1 ++ dktX1_markAt_2
def dkwX1_markAt_0 : List UInt8 := [42, 180, 0, 49, 27, 184, 0, 97, 192, 0, 184, 58, 4, 25, 4, 28, 29, 184, 1, 97, 25, 4]
abbrev dktX1_markAt_0 : List UInt8 := dkwX1_markAt_0 ++ dktX1_markAt_1
theorem dksX1_markAt_0 : cX1_markAt.data.toList.drop 0 = dktX1_markAt_0 := by decide +kernel
theorem dksX1_markAt_1 : cX1_markAt.data.toList.drop 22 = dktX1_markAt_1 := dk_seg dksX1_markAt_0 22 rfl rfl
theorem dksX1_markAt_2 : cX1_markAt.data.toList.drop 45 = dktX1_markAt_2 := dk_seg dksX1_markAt_1 23 rfl rfl
theorem dX1_markAt_0 : decode cX1_markAt 0 = .ok (.aload_n 0, 1) := dk_42 (dk_at dksX1_markAt_0 0 rfl rfl)
theorem dX1_markAt_1 : decode cX1_markAt 1 = .ok (.getfield 49, 3) := dk_180 0 49 (dk_at dksX1_markAt_0 1 rfl rfl)
theorem dX1_markAt_4 : decode cX1_markAt 4 = .ok (.iload_n 1, 1) := dk_27 (dk_at dksX1_markAt_0 4 rfl rfl)
theorem dX1_markAt_5 : decode cX1_markAt 5 = .ok (.invokestatic 97, 3) := dk_184 0 97 (dk_at dksX1_markAt_0 5 rfl rfl)
theorem dX1_markAt_8 : decode cX1_markAt 8 = .ok (.checkcast 184, 3) := dk_192 0 184 (dk_at dksX1_markAt_0 8 rfl rfl)
theorem dX1_markAt_11 : decode cX1_markAt 11 = .ok (.astore 4, 2) := dk_58 4 (dk_at dksX1_markAt_0 11 rfl rfl)
theorem dX1_markAt_13 : decode cX1_markAt 13 = .ok (.aload 4, 2) := dk_25 4 (dk_at dksX1_markAt_0 13 rfl rfl)
theorem dX1_markAt_15 : decode cX1_markAt 15 = .ok (.iload_n 2, 1) := dk_28 (dk_at dksX1_markAt_0 15 rfl rfl)
theorem dX1_markAt_16 : decode cX1_markAt 16 = .ok (.iload_n 3, 1) := dk_29 (dk_at dksX1_markAt_0 16 rfl rfl)
theorem dX1_markAt_17 : decode cX1_markAt 17 = .ok (.invokestatic 353, 3) := dk_184 1 97 (dk_at dksX1_markAt_0 17 rfl rfl)
theorem dX1_markAt_20 : decode cX1_markAt 20 = .ok (.aload 4, 2) := dk_25 4 (dk_at dksX1_markAt_0 20 rfl rfl)
theorem dX1_markAt_22 : decode cX1_markAt 22 = .ok (.getfield 270, 3) := dk_180 1 14 (dk_at dksX1_markAt_1 0 rfl rfl)
theorem dX1_markAt_25 : decode cX1_markAt 25 = .ok (.getfield 367, 3) := dk_180 1 111 (dk_at dksX1_markAt_1 3 rfl rfl)
theorem dX1_markAt_28 : decode cX1_markAt 28 = .ok (.iload_n 2, 1) := dk_28 (dk_at dksX1_markAt_1 6 rfl rfl)
theorem dX1_markAt_29 : decode cX1_markAt 29 = .ok (.aaload, 1) := dk_50 (dk_at dksX1_markAt_1 7 rfl rfl)
theorem dX1_markAt_30 : decode cX1_markAt 30 = .ok (.iload_n 3, 1) := dk_29 (dk_at dksX1_markAt_1 8 rfl rfl)
theorem dX1_markAt_31 : decode cX1_markAt 31 = .ok (.aaload, 1) := dk_50 (dk_at dksX1_markAt_1 9 rfl rfl)
theorem dX1_markAt_32 : decode cX1_markAt 32 = .ok (.astore 5, 2) := dk_58 5 (dk_at dksX1_markAt_1 10 rfl rfl)
theorem dX1_markAt_34 : decode cX1_markAt 34 = .ok (.aload 5, 2) := dk_25 5 (dk_at dksX1_markAt_1 12 rfl rfl)
theorem dX1_markAt_36 : decode cX1_markAt 36 = .ok (.ifnonnull 7, 3) := dk_199 0 7 (dk_at dksX1_markAt_1 14 rfl rfl)
theorem dX1_markAt_39 : decode cX1_markAt 39 = .ok (.iconst (-1), 1) := dk_2 (dk_at dksX1_markAt_1 17 rfl rfl)
theorem dX1_markAt_40 : decode cX1_markAt 40 = .ok (.goto 10, 3) := dk_167 0 10 (dk_at dksX1_markAt_1 18 rfl rfl)
theorem dX1_markAt_43 : decode cX1_markAt 43 = .ok (.aload 5, 2) := dk_25 5 (dk_at dksX1_markAt_1 21 rfl rfl)
theorem dX1_markAt_45 : decode cX1_markAt 45 = .ok (.invokeinterface 475 1, 5) := by decide +kernel
theorem dX1_markAt_50 : decode cX1_markAt 50 = .ok (.ireturn, 1) := dk_172 (dk_at dksX1_markAt_2 5 rfl rfl)
abbrev cX1_placeIn : ByteArray := prog_1_method_55_code
def yX1_placeIn : MethodName := ⟨RX1, "placeIn", "(IIIZ)I"⟩
def dkwX1_placeIn_3 : List UInt8 := [21, 4, 153, 0, 13, 25, 6, 180, 1, 230, 28, 46, 167, 0, 10, 25, 6, 180, 1, 233, 28, 46, 172]
abbrev dktX1_placeIn_3 : List UInt8 := dkwX1_placeIn_3 ++ []
def dkwX1_placeIn_2 : List UInt8 := [180, 1, 14, 180, 1, 18, 25, 6, 185, 0, 107, 2, 0, 154, 0, 11, 187, 1, 227, 89, 183, 1, 229, 191]
abbrev dktX1_placeIn_2 : List UInt8 := dkwX1_placeIn_2 ++ dktX1_placeIn_3
def dkwX1_placeIn_1 : List UInt8 := [184, 0, 19, 184, 0, 25, 25, 5, 29, 184, 1, 24, 58, 6, 25, 5, 180, 1, 224, 184, 0, 85, 25, 5]
abbrev dktX1_placeIn_1 : List UInt8 := dkwX1_placeIn_1 ++ dktX1_placeIn_2
def dkwX1_placeIn_0 : List UInt8 := [42, 180, 0, 49, 27, 184, 0, 97, 192, 0, 184, 58, 5, 28, 3, 25, 5, 180, 1, 67, 4, 100]
abbrev dktX1_placeIn_0 : List UInt8 := dkwX1_placeIn_0 ++ dktX1_placeIn_1
theorem dksX1_placeIn_0 : cX1_placeIn.data.toList.drop 0 = dktX1_placeIn_0 := by decide +kernel
theorem dksX1_placeIn_1 : cX1_placeIn.data.toList.drop 22 = dktX1_placeIn_1 := dk_seg dksX1_placeIn_0 22 rfl rfl
theorem dksX1_placeIn_2 : cX1_placeIn.data.toList.drop 46 = dktX1_placeIn_2 := dk_seg dksX1_placeIn_1 24 rfl rfl
theorem dksX1_placeIn_3 : cX1_placeIn.data.toList.drop 70 = dktX1_placeIn_3 := dk_seg dksX1_placeIn_2 24 rfl rfl
theorem dX1_placeIn_0 : decode cX1_placeIn 0 = .ok (.aload_n 0, 1) := dk_42 (dk_at dksX1_placeIn_0 0 rfl rfl)
theorem dX1_placeIn_1 : decode cX1_placeIn 1 = .ok (.getfield 49, 3) := dk_180 0 49 (dk_at dksX1_placeIn_0 1 rfl rfl)
theorem dX1_placeIn_4 : decode cX1_placeIn 4 = .ok (.iload_n 1, 1) := dk_27 (dk_at dksX1_placeIn_0 4 rfl rfl)
theorem dX1_placeIn_5 : decode cX1_placeIn 5 = .ok (.invokestatic 97, 3) := dk_184 0 97 (dk_at dksX1_placeIn_0 5 rfl rfl)
theorem dX1_placeIn_8 : decode cX1_placeIn 8 = .ok (.checkcast 184, 3) := dk_192 0 184 (dk_at dksX1_placeIn_0 8 rfl rfl)
theorem dX1_placeIn_11 : decode cX1_placeIn 11 = .ok (.astore 5, 2) := dk_58 5 (dk_at dksX1_placeIn_0 11 rfl rfl)
theorem dX1_placeIn_13 : decode cX1_placeIn 13 = .ok (.iload_n 2, 1) := dk_28 (dk_at dksX1_placeIn_0 13 rfl rfl)
theorem dX1_placeIn_14 : decode cX1_placeIn 14 = .ok (.iconst 0, 1) := dk_3 (dk_at dksX1_placeIn_0 14 rfl rfl)
theorem dX1_placeIn_15 : decode cX1_placeIn 15 = .ok (.aload 5, 2) := dk_25 5 (dk_at dksX1_placeIn_0 15 rfl rfl)
theorem dX1_placeIn_17 : decode cX1_placeIn 17 = .ok (.getfield 323, 3) := dk_180 1 67 (dk_at dksX1_placeIn_0 17 rfl rfl)
theorem dX1_placeIn_20 : decode cX1_placeIn 20 = .ok (.iconst 1, 1) := dk_4 (dk_at dksX1_placeIn_0 20 rfl rfl)
theorem dX1_placeIn_21 : decode cX1_placeIn 21 = .ok (.isub, 1) := dk_100 (dk_at dksX1_placeIn_0 21 rfl rfl)
theorem dX1_placeIn_22 : decode cX1_placeIn 22 = .ok (.invokestatic 19, 3) := dk_184 0 19 (dk_at dksX1_placeIn_1 0 rfl rfl)
theorem dX1_placeIn_25 : decode cX1_placeIn 25 = .ok (.invokestatic 25, 3) := dk_184 0 25 (dk_at dksX1_placeIn_1 3 rfl rfl)
theorem dX1_placeIn_28 : decode cX1_placeIn 28 = .ok (.aload 5, 2) := dk_25 5 (dk_at dksX1_placeIn_1 6 rfl rfl)
theorem dX1_placeIn_30 : decode cX1_placeIn 30 = .ok (.iload_n 3, 1) := dk_29 (dk_at dksX1_placeIn_1 8 rfl rfl)
theorem dX1_placeIn_31 : decode cX1_placeIn 31 = .ok (.invokestatic 280, 3) := dk_184 1 24 (dk_at dksX1_placeIn_1 9 rfl rfl)
theorem dX1_placeIn_34 : decode cX1_placeIn 34 = .ok (.astore 6, 2) := dk_58 6 (dk_at dksX1_placeIn_1 12 rfl rfl)
theorem dX1_placeIn_36 : decode cX1_placeIn 36 = .ok (.aload 5, 2) := dk_25 5 (dk_at dksX1_placeIn_1 14 rfl rfl)
theorem dX1_placeIn_38 : decode cX1_placeIn 38 = .ok (.getfield 480, 3) := dk_180 1 224 (dk_at dksX1_placeIn_1 16 rfl rfl)
theorem dX1_placeIn_41 : decode cX1_placeIn 41 = .ok (.invokestatic 85, 3) := dk_184 0 85 (dk_at dksX1_placeIn_1 19 rfl rfl)
theorem dX1_placeIn_44 : decode cX1_placeIn 44 = .ok (.aload 5, 2) := dk_25 5 (dk_at dksX1_placeIn_1 22 rfl rfl)
theorem dX1_placeIn_46 : decode cX1_placeIn 46 = .ok (.getfield 270, 3) := dk_180 1 14 (dk_at dksX1_placeIn_2 0 rfl rfl)
theorem dX1_placeIn_49 : decode cX1_placeIn 49 = .ok (.getfield 274, 3) := dk_180 1 18 (dk_at dksX1_placeIn_2 3 rfl rfl)
theorem dX1_placeIn_52 : decode cX1_placeIn 52 = .ok (.aload 6, 2) := dk_25 6 (dk_at dksX1_placeIn_2 6 rfl rfl)
theorem dX1_placeIn_54 : decode cX1_placeIn 54 = .ok (.invokeinterface 107 2, 5) := by decide +kernel
theorem dX1_placeIn_59 : decode cX1_placeIn 59 = .ok (.ifCond .ne 11, 3) := dk_154 0 11 (dk_at dksX1_placeIn_2 13 rfl rfl)
theorem dX1_placeIn_62 : decode cX1_placeIn 62 = .ok (.new 483, 3) := dk_187 1 227 (dk_at dksX1_placeIn_2 16 rfl rfl)
theorem dX1_placeIn_65 : decode cX1_placeIn 65 = .ok (.dup, 1) := dk_89 (dk_at dksX1_placeIn_2 19 rfl rfl)
theorem dX1_placeIn_66 : decode cX1_placeIn 66 = .ok (.invokespecial 485, 3) := dk_183 1 229 (dk_at dksX1_placeIn_2 20 rfl rfl)
theorem dX1_placeIn_69 : decode cX1_placeIn 69 = .ok (.athrow, 1) := dk_191 (dk_at dksX1_placeIn_2 23 rfl rfl)
theorem dX1_placeIn_70 : decode cX1_placeIn 70 = .ok (.iload 4, 2) := dk_21 4 (dk_at dksX1_placeIn_3 0 rfl rfl)
theorem dX1_placeIn_72 : decode cX1_placeIn 72 = .ok (.ifCond .eq 13, 3) := dk_153 0 13 (dk_at dksX1_placeIn_3 2 rfl rfl)
theorem dX1_placeIn_75 : decode cX1_placeIn 75 = .ok (.aload 6, 2) := dk_25 6 (dk_at dksX1_placeIn_3 5 rfl rfl)
theorem dX1_placeIn_77 : decode cX1_placeIn 77 = .ok (.getfield 486, 3) := dk_180 1 230 (dk_at dksX1_placeIn_3 7 rfl rfl)
theorem dX1_placeIn_80 : decode cX1_placeIn 80 = .ok (.iload_n 2, 1) := dk_28 (dk_at dksX1_placeIn_3 10 rfl rfl)
theorem dX1_placeIn_81 : decode cX1_placeIn 81 = .ok (.iaload, 1) := dk_46 (dk_at dksX1_placeIn_3 11 rfl rfl)
theorem dX1_placeIn_82 : decode cX1_placeIn 82 = .ok (.goto 10, 3) := dk_167 0 10 (dk_at dksX1_placeIn_3 12 rfl rfl)
theorem dX1_placeIn_85 : decode cX1_placeIn 85 = .ok (.aload 6, 2) := dk_25 6 (dk_at dksX1_placeIn_3 15 rfl rfl)
theorem dX1_placeIn_87 : decode cX1_placeIn 87 = .ok (.getfield 489, 3) := dk_180 1 233 (dk_at dksX1_placeIn_3 17 rfl rfl)
theorem dX1_placeIn_90 : decode cX1_placeIn 90 = .ok (.iload_n 2, 1) := dk_28 (dk_at dksX1_placeIn_3 20 rfl rfl)
theorem dX1_placeIn_91 : decode cX1_placeIn 91 = .ok (.iaload, 1) := dk_46 (dk_at dksX1_placeIn_3 21 rfl rfl)
theorem dX1_placeIn_92 : decode cX1_placeIn 92 = .ok (.ireturn, 1) := dk_172 (dk_at dksX1_placeIn_3 22 rfl rfl)
abbrev cX1_result : ByteArray := prog_1_method_56_code
def yX1_result : MethodName := ⟨RX1, "result", "(II)I"⟩
def dkwX1_result_7 : List UInt8 := [185, 0, 29, 2, 0, 192, 1, 9, 180, 1, 21, 172]
abbrev dktX1_result_7 : List UInt8 := dkwX1_result_7 ++ []
def dkwX1_result_6 : List UInt8 := [185, 0, 13, 1, 0, 4, 100, 184, 0, 19, 154, 0, 11, 187, 1, 227, 89, 183, 1, 229, 191, 25, 4, 28]
abbrev dktX1_result_6 : List UInt8 := dkwX1_result_6 ++ dktX1_result_7
def dkwX1_result_5 : List UInt8 := [167, 255, 223, 25, 4, 21, 7, 25, 6, 185, 1, 236, 3, 0, 167, 255, 167, 28, 3, 25, 4]
abbrev dktX1_result_5 : List UInt8 := dkwX1_result_5 ++ dktX1_result_6
def dkwX1_result_4 : List UInt8 := [185, 0, 29, 2, 0, 192, 1, 9, 180, 1, 207, 25, 6, 180, 1, 207, 164, 0, 9, 132, 7, 255]
abbrev dktX1_result_4 : List UInt8 := dkwX1_result_4 ++ dktX1_result_5
def dkwX1_result_3 : List UInt8 := [167, 255, 226, 25, 4, 185, 0, 13, 1, 0, 54, 7, 21, 7, 158, 0, 34, 25, 4, 21, 7, 4, 100]
abbrev dktX1_result_3 : List UInt8 := dkwX1_result_3 ++ dktX1_result_4
def dkwX1_result_2 : List UInt8 := [153, 0, 85, 25, 5, 185, 0, 167, 1, 0, 192, 1, 9, 58, 6, 25, 6, 180, 1, 28, 153, 0, 6]
abbrev dktX1_result_2 : List UInt8 := dkwX1_result_2 ++ dktX1_result_3
def dkwX1_result_1 : List UInt8 := [183, 0, 38, 58, 4, 45, 180, 0, 189, 185, 0, 158, 1, 0, 58, 5, 25, 5, 185, 0, 162, 1, 0]
abbrev dktX1_result_1 : List UInt8 := dkwX1_result_1 ++ dktX1_result_2
def dkwX1_result_0 : List UInt8 := [42, 180, 0, 49, 27, 184, 0, 97, 192, 0, 184, 78, 45, 180, 1, 224, 184, 0, 85, 187, 0, 36, 89]
abbrev dktX1_result_0 : List UInt8 := dkwX1_result_0 ++ dktX1_result_1
theorem dksX1_result_0 : cX1_result.data.toList.drop 0 = dktX1_result_0 := by decide +kernel
theorem dksX1_result_1 : cX1_result.data.toList.drop 23 = dktX1_result_1 := dk_seg dksX1_result_0 23 rfl rfl
theorem dksX1_result_2 : cX1_result.data.toList.drop 46 = dktX1_result_2 := dk_seg dksX1_result_1 23 rfl rfl
theorem dksX1_result_3 : cX1_result.data.toList.drop 69 = dktX1_result_3 := dk_seg dksX1_result_2 23 rfl rfl
theorem dksX1_result_4 : cX1_result.data.toList.drop 92 = dktX1_result_4 := dk_seg dksX1_result_3 23 rfl rfl
theorem dksX1_result_5 : cX1_result.data.toList.drop 114 = dktX1_result_5 := dk_seg dksX1_result_4 22 rfl rfl
theorem dksX1_result_6 : cX1_result.data.toList.drop 135 = dktX1_result_6 := dk_seg dksX1_result_5 21 rfl rfl
theorem dksX1_result_7 : cX1_result.data.toList.drop 159 = dktX1_result_7 := dk_seg dksX1_result_6 24 rfl rfl
theorem dX1_result_0 : decode cX1_result 0 = .ok (.aload_n 0, 1) := dk_42 (dk_at dksX1_result_0 0 rfl rfl)
theorem dX1_result_1 : decode cX1_result 1 = .ok (.getfield 49, 3) := dk_180 0 49 (dk_at dksX1_result_0 1 rfl rfl)
theorem dX1_result_4 : decode cX1_result 4 = .ok (.iload_n 1, 1) := dk_27 (dk_at dksX1_result_0 4 rfl rfl)
theorem dX1_result_5 : decode cX1_result 5 = .ok (.invokestatic 97, 3) := dk_184 0 97 (dk_at dksX1_result_0 5 rfl rfl)
theorem dX1_result_8 : decode cX1_result 8 = .ok (.checkcast 184, 3) := dk_192 0 184 (dk_at dksX1_result_0 8 rfl rfl)
theorem dX1_result_11 : decode cX1_result 11 = .ok (.astore_n 3, 1) := dk_78 (dk_at dksX1_result_0 11 rfl rfl)
theorem dX1_result_12 : decode cX1_result 12 = .ok (.aload_n 3, 1) := dk_45 (dk_at dksX1_result_0 12 rfl rfl)
theorem dX1_result_13 : decode cX1_result 13 = .ok (.getfield 480, 3) := dk_180 1 224 (dk_at dksX1_result_0 13 rfl rfl)
theorem dX1_result_16 : decode cX1_result 16 = .ok (.invokestatic 85, 3) := dk_184 0 85 (dk_at dksX1_result_0 16 rfl rfl)
theorem dX1_result_19 : decode cX1_result 19 = .ok (.new 36, 3) := dk_187 0 36 (dk_at dksX1_result_0 19 rfl rfl)
theorem dX1_result_22 : decode cX1_result 22 = .ok (.dup, 1) := dk_89 (dk_at dksX1_result_0 22 rfl rfl)
theorem dX1_result_23 : decode cX1_result 23 = .ok (.invokespecial 38, 3) := dk_183 0 38 (dk_at dksX1_result_1 0 rfl rfl)
theorem dX1_result_26 : decode cX1_result 26 = .ok (.astore 4, 2) := dk_58 4 (dk_at dksX1_result_1 3 rfl rfl)
theorem dX1_result_28 : decode cX1_result 28 = .ok (.aload_n 3, 1) := dk_45 (dk_at dksX1_result_1 5 rfl rfl)
theorem dX1_result_29 : decode cX1_result 29 = .ok (.getfield 189, 3) := dk_180 0 189 (dk_at dksX1_result_1 6 rfl rfl)
theorem dX1_result_32 : decode cX1_result 32 = .ok (.invokeinterface 158 1, 5) := by decide +kernel
theorem dX1_result_37 : decode cX1_result 37 = .ok (.astore 5, 2) := dk_58 5 (dk_at dksX1_result_1 14 rfl rfl)
theorem dX1_result_39 : decode cX1_result 39 = .ok (.aload 5, 2) := dk_25 5 (dk_at dksX1_result_1 16 rfl rfl)
theorem dX1_result_41 : decode cX1_result 41 = .ok (.invokeinterface 162 1, 5) := by decide +kernel
theorem dX1_result_46 : decode cX1_result 46 = .ok (.ifCond .eq 85, 3) := dk_153 0 85 (dk_at dksX1_result_2 0 rfl rfl)
theorem dX1_result_49 : decode cX1_result 49 = .ok (.aload 5, 2) := dk_25 5 (dk_at dksX1_result_2 3 rfl rfl)
theorem dX1_result_51 : decode cX1_result 51 = .ok (.invokeinterface 167 1, 5) := by decide +kernel
theorem dX1_result_56 : decode cX1_result 56 = .ok (.checkcast 265, 3) := dk_192 1 9 (dk_at dksX1_result_2 10 rfl rfl)
theorem dX1_result_59 : decode cX1_result 59 = .ok (.astore 6, 2) := dk_58 6 (dk_at dksX1_result_2 13 rfl rfl)
theorem dX1_result_61 : decode cX1_result 61 = .ok (.aload 6, 2) := dk_25 6 (dk_at dksX1_result_2 15 rfl rfl)
theorem dX1_result_63 : decode cX1_result 63 = .ok (.getfield 284, 3) := dk_180 1 28 (dk_at dksX1_result_2 17 rfl rfl)
theorem dX1_result_66 : decode cX1_result 66 = .ok (.ifCond .eq 6, 3) := dk_153 0 6 (dk_at dksX1_result_2 20 rfl rfl)
theorem dX1_result_69 : decode cX1_result 69 = .ok (.goto (-30), 3) := dk_167 255 226 (dk_at dksX1_result_3 0 rfl rfl)
theorem dX1_result_72 : decode cX1_result 72 = .ok (.aload 4, 2) := dk_25 4 (dk_at dksX1_result_3 3 rfl rfl)
theorem dX1_result_74 : decode cX1_result 74 = .ok (.invokeinterface 13 1, 5) := by decide +kernel
theorem dX1_result_79 : decode cX1_result 79 = .ok (.istore 7, 2) := dk_54 7 (dk_at dksX1_result_3 10 rfl rfl)
theorem dX1_result_81 : decode cX1_result 81 = .ok (.iload 7, 2) := dk_21 7 (dk_at dksX1_result_3 12 rfl rfl)
theorem dX1_result_83 : decode cX1_result 83 = .ok (.ifCond .le 34, 3) := dk_158 0 34 (dk_at dksX1_result_3 14 rfl rfl)
theorem dX1_result_86 : decode cX1_result 86 = .ok (.aload 4, 2) := dk_25 4 (dk_at dksX1_result_3 17 rfl rfl)
theorem dX1_result_88 : decode cX1_result 88 = .ok (.iload 7, 2) := dk_21 7 (dk_at dksX1_result_3 19 rfl rfl)
theorem dX1_result_90 : decode cX1_result 90 = .ok (.iconst 1, 1) := dk_4 (dk_at dksX1_result_3 21 rfl rfl)
theorem dX1_result_91 : decode cX1_result 91 = .ok (.isub, 1) := dk_100 (dk_at dksX1_result_3 22 rfl rfl)
theorem dX1_result_92 : decode cX1_result 92 = .ok (.invokeinterface 29 2, 5) := by decide +kernel
theorem dX1_result_97 : decode cX1_result 97 = .ok (.checkcast 265, 3) := dk_192 1 9 (dk_at dksX1_result_4 5 rfl rfl)
theorem dX1_result_100 : decode cX1_result 100 = .ok (.getfield 463, 3) := dk_180 1 207 (dk_at dksX1_result_4 8 rfl rfl)
theorem dX1_result_103 : decode cX1_result 103 = .ok (.aload 6, 2) := dk_25 6 (dk_at dksX1_result_4 11 rfl rfl)
theorem dX1_result_105 : decode cX1_result 105 = .ok (.getfield 463, 3) := dk_180 1 207 (dk_at dksX1_result_4 13 rfl rfl)
theorem dX1_result_108 : decode cX1_result 108 = .ok (.if_icmp .le 9, 3) := dk_164 0 9 (dk_at dksX1_result_4 16 rfl rfl)
theorem dX1_result_111 : decode cX1_result 111 = .ok (.iinc 7 (-1), 3) := dk_132 7 255 (dk_at dksX1_result_4 19 rfl rfl)
theorem dX1_result_114 : decode cX1_result 114 = .ok (.goto (-33), 3) := dk_167 255 223 (dk_at dksX1_result_5 0 rfl rfl)
theorem dX1_result_117 : decode cX1_result 117 = .ok (.aload 4, 2) := dk_25 4 (dk_at dksX1_result_5 3 rfl rfl)
theorem dX1_result_119 : decode cX1_result 119 = .ok (.iload 7, 2) := dk_21 7 (dk_at dksX1_result_5 5 rfl rfl)
theorem dX1_result_121 : decode cX1_result 121 = .ok (.aload 6, 2) := dk_25 6 (dk_at dksX1_result_5 7 rfl rfl)
theorem dX1_result_123 : decode cX1_result 123 = .ok (.invokeinterface 492 3, 5) := by decide +kernel
theorem dX1_result_128 : decode cX1_result 128 = .ok (.goto (-89), 3) := dk_167 255 167 (dk_at dksX1_result_5 14 rfl rfl)
theorem dX1_result_131 : decode cX1_result 131 = .ok (.iload_n 2, 1) := dk_28 (dk_at dksX1_result_5 17 rfl rfl)
theorem dX1_result_132 : decode cX1_result 132 = .ok (.iconst 0, 1) := dk_3 (dk_at dksX1_result_5 18 rfl rfl)
theorem dX1_result_133 : decode cX1_result 133 = .ok (.aload 4, 2) := dk_25 4 (dk_at dksX1_result_5 19 rfl rfl)
theorem dX1_result_135 : decode cX1_result 135 = .ok (.invokeinterface 13 1, 5) := by decide +kernel
theorem dX1_result_140 : decode cX1_result 140 = .ok (.iconst 1, 1) := dk_4 (dk_at dksX1_result_6 5 rfl rfl)
theorem dX1_result_141 : decode cX1_result 141 = .ok (.isub, 1) := dk_100 (dk_at dksX1_result_6 6 rfl rfl)
theorem dX1_result_142 : decode cX1_result 142 = .ok (.invokestatic 19, 3) := dk_184 0 19 (dk_at dksX1_result_6 7 rfl rfl)
theorem dX1_result_145 : decode cX1_result 145 = .ok (.ifCond .ne 11, 3) := dk_154 0 11 (dk_at dksX1_result_6 10 rfl rfl)
theorem dX1_result_148 : decode cX1_result 148 = .ok (.new 483, 3) := dk_187 1 227 (dk_at dksX1_result_6 13 rfl rfl)
theorem dX1_result_151 : decode cX1_result 151 = .ok (.dup, 1) := dk_89 (dk_at dksX1_result_6 16 rfl rfl)
theorem dX1_result_152 : decode cX1_result 152 = .ok (.invokespecial 485, 3) := dk_183 1 229 (dk_at dksX1_result_6 17 rfl rfl)
theorem dX1_result_155 : decode cX1_result 155 = .ok (.athrow, 1) := dk_191 (dk_at dksX1_result_6 20 rfl rfl)
theorem dX1_result_156 : decode cX1_result 156 = .ok (.aload 4, 2) := dk_25 4 (dk_at dksX1_result_6 21 rfl rfl)
theorem dX1_result_158 : decode cX1_result 158 = .ok (.iload_n 2, 1) := dk_28 (dk_at dksX1_result_6 23 rfl rfl)
theorem dX1_result_159 : decode cX1_result 159 = .ok (.invokeinterface 29 2, 5) := by decide +kernel
theorem dX1_result_164 : decode cX1_result 164 = .ok (.checkcast 265, 3) := dk_192 1 9 (dk_at dksX1_result_7 5 rfl rfl)
theorem dX1_result_167 : decode cX1_result 167 = .ok (.getfield 277, 3) := dk_180 1 21 (dk_at dksX1_result_7 8 rfl rfl)
theorem dX1_result_170 : decode cX1_result 170 = .ok (.ireturn, 1) := dk_172 (dk_at dksX1_result_7 11 rfl rfl)
abbrev cX1_alike : ByteArray := prog_1_method_58_code
def yX1_alike : MethodName := ⟨RX1, "alike", "(I)I"⟩
def dkwX1_alike_4 : List UInt8 := [132, 6, 1, 167, 255, 208, 132, 5, 1, 167, 255, 188, 21, 4, 172]
abbrev dktX1_alike_4 : List UInt8 := dkwX1_alike_4 ++ []
def dkwX1_alike_3 : List UInt8 := [185, 0, 29, 2, 0, 192, 1, 9, 184, 1, 242, 153, 0, 7, 4, 167, 0, 4, 3, 96, 54, 4]
abbrev dktX1_alike_3 : List UInt8 := dkwX1_alike_3 ++ dktX1_alike_4
def dkwX1_alike_2 : List UInt8 := [21, 6, 21, 5, 162, 0, 47, 21, 4, 45, 21, 6, 185, 0, 29, 2, 0, 192, 1, 9, 45, 21, 5]
abbrev dktX1_alike_2 : List UInt8 := dkwX1_alike_2 ++ dktX1_alike_3
def dkwX1_alike_1 : List UInt8 := [180, 1, 18, 78, 3, 54, 4, 3, 54, 5, 21, 5, 45, 185, 0, 13, 1, 0, 162, 0, 63, 3, 54, 6]
abbrev dktX1_alike_1 : List UInt8 := dkwX1_alike_1 ++ dktX1_alike_2
def dkwX1_alike_0 : List UInt8 := [42, 180, 0, 49, 27, 184, 0, 97, 192, 0, 184, 77, 44, 180, 1, 224, 184, 0, 85, 44, 180, 1, 14]
abbrev dktX1_alike_0 : List UInt8 := dkwX1_alike_0 ++ dktX1_alike_1
theorem dksX1_alike_0 : cX1_alike.data.toList.drop 0 = dktX1_alike_0 := by decide +kernel
theorem dksX1_alike_1 : cX1_alike.data.toList.drop 23 = dktX1_alike_1 := dk_seg dksX1_alike_0 23 rfl rfl
theorem dksX1_alike_2 : cX1_alike.data.toList.drop 47 = dktX1_alike_2 := dk_seg dksX1_alike_1 24 rfl rfl
theorem dksX1_alike_3 : cX1_alike.data.toList.drop 70 = dktX1_alike_3 := dk_seg dksX1_alike_2 23 rfl rfl
theorem dksX1_alike_4 : cX1_alike.data.toList.drop 92 = dktX1_alike_4 := dk_seg dksX1_alike_3 22 rfl rfl
theorem dX1_alike_0 : decode cX1_alike 0 = .ok (.aload_n 0, 1) := dk_42 (dk_at dksX1_alike_0 0 rfl rfl)
theorem dX1_alike_1 : decode cX1_alike 1 = .ok (.getfield 49, 3) := dk_180 0 49 (dk_at dksX1_alike_0 1 rfl rfl)
theorem dX1_alike_4 : decode cX1_alike 4 = .ok (.iload_n 1, 1) := dk_27 (dk_at dksX1_alike_0 4 rfl rfl)
theorem dX1_alike_5 : decode cX1_alike 5 = .ok (.invokestatic 97, 3) := dk_184 0 97 (dk_at dksX1_alike_0 5 rfl rfl)
theorem dX1_alike_8 : decode cX1_alike 8 = .ok (.checkcast 184, 3) := dk_192 0 184 (dk_at dksX1_alike_0 8 rfl rfl)
theorem dX1_alike_11 : decode cX1_alike 11 = .ok (.astore_n 2, 1) := dk_77 (dk_at dksX1_alike_0 11 rfl rfl)
theorem dX1_alike_12 : decode cX1_alike 12 = .ok (.aload_n 2, 1) := dk_44 (dk_at dksX1_alike_0 12 rfl rfl)
theorem dX1_alike_13 : decode cX1_alike 13 = .ok (.getfield 480, 3) := dk_180 1 224 (dk_at dksX1_alike_0 13 rfl rfl)
theorem dX1_alike_16 : decode cX1_alike 16 = .ok (.invokestatic 85, 3) := dk_184 0 85 (dk_at dksX1_alike_0 16 rfl rfl)
theorem dX1_alike_19 : decode cX1_alike 19 = .ok (.aload_n 2, 1) := dk_44 (dk_at dksX1_alike_0 19 rfl rfl)
theorem dX1_alike_20 : decode cX1_alike 20 = .ok (.getfield 270, 3) := dk_180 1 14 (dk_at dksX1_alike_0 20 rfl rfl)
theorem dX1_alike_23 : decode cX1_alike 23 = .ok (.getfield 274, 3) := dk_180 1 18 (dk_at dksX1_alike_1 0 rfl rfl)
theorem dX1_alike_26 : decode cX1_alike 26 = .ok (.astore_n 3, 1) := dk_78 (dk_at dksX1_alike_1 3 rfl rfl)
theorem dX1_alike_27 : decode cX1_alike 27 = .ok (.iconst 0, 1) := dk_3 (dk_at dksX1_alike_1 4 rfl rfl)
theorem dX1_alike_28 : decode cX1_alike 28 = .ok (.istore 4, 2) := dk_54 4 (dk_at dksX1_alike_1 5 rfl rfl)
theorem dX1_alike_30 : decode cX1_alike 30 = .ok (.iconst 0, 1) := dk_3 (dk_at dksX1_alike_1 7 rfl rfl)
theorem dX1_alike_31 : decode cX1_alike 31 = .ok (.istore 5, 2) := dk_54 5 (dk_at dksX1_alike_1 8 rfl rfl)
theorem dX1_alike_33 : decode cX1_alike 33 = .ok (.iload 5, 2) := dk_21 5 (dk_at dksX1_alike_1 10 rfl rfl)
theorem dX1_alike_35 : decode cX1_alike 35 = .ok (.aload_n 3, 1) := dk_45 (dk_at dksX1_alike_1 12 rfl rfl)
theorem dX1_alike_36 : decode cX1_alike 36 = .ok (.invokeinterface 13 1, 5) := by decide +kernel
theorem dX1_alike_41 : decode cX1_alike 41 = .ok (.if_icmp .ge 63, 3) := dk_162 0 63 (dk_at dksX1_alike_1 18 rfl rfl)
theorem dX1_alike_44 : decode cX1_alike 44 = .ok (.iconst 0, 1) := dk_3 (dk_at dksX1_alike_1 21 rfl rfl)
theorem dX1_alike_45 : decode cX1_alike 45 = .ok (.istore 6, 2) := dk_54 6 (dk_at dksX1_alike_1 22 rfl rfl)
theorem dX1_alike_47 : decode cX1_alike 47 = .ok (.iload 6, 2) := dk_21 6 (dk_at dksX1_alike_2 0 rfl rfl)
theorem dX1_alike_49 : decode cX1_alike 49 = .ok (.iload 5, 2) := dk_21 5 (dk_at dksX1_alike_2 2 rfl rfl)
theorem dX1_alike_51 : decode cX1_alike 51 = .ok (.if_icmp .ge 47, 3) := dk_162 0 47 (dk_at dksX1_alike_2 4 rfl rfl)
theorem dX1_alike_54 : decode cX1_alike 54 = .ok (.iload 4, 2) := dk_21 4 (dk_at dksX1_alike_2 7 rfl rfl)
theorem dX1_alike_56 : decode cX1_alike 56 = .ok (.aload_n 3, 1) := dk_45 (dk_at dksX1_alike_2 9 rfl rfl)
theorem dX1_alike_57 : decode cX1_alike 57 = .ok (.iload 6, 2) := dk_21 6 (dk_at dksX1_alike_2 10 rfl rfl)
theorem dX1_alike_59 : decode cX1_alike 59 = .ok (.invokeinterface 29 2, 5) := by decide +kernel
theorem dX1_alike_64 : decode cX1_alike 64 = .ok (.checkcast 265, 3) := dk_192 1 9 (dk_at dksX1_alike_2 17 rfl rfl)
theorem dX1_alike_67 : decode cX1_alike 67 = .ok (.aload_n 3, 1) := dk_45 (dk_at dksX1_alike_2 20 rfl rfl)
theorem dX1_alike_68 : decode cX1_alike 68 = .ok (.iload 5, 2) := dk_21 5 (dk_at dksX1_alike_2 21 rfl rfl)
theorem dX1_alike_70 : decode cX1_alike 70 = .ok (.invokeinterface 29 2, 5) := by decide +kernel
theorem dX1_alike_75 : decode cX1_alike 75 = .ok (.checkcast 265, 3) := dk_192 1 9 (dk_at dksX1_alike_3 5 rfl rfl)
theorem dX1_alike_78 : decode cX1_alike 78 = .ok (.invokestatic 498, 3) := dk_184 1 242 (dk_at dksX1_alike_3 8 rfl rfl)
theorem dX1_alike_81 : decode cX1_alike 81 = .ok (.ifCond .eq 7, 3) := dk_153 0 7 (dk_at dksX1_alike_3 11 rfl rfl)
theorem dX1_alike_84 : decode cX1_alike 84 = .ok (.iconst 1, 1) := dk_4 (dk_at dksX1_alike_3 14 rfl rfl)
theorem dX1_alike_85 : decode cX1_alike 85 = .ok (.goto 4, 3) := dk_167 0 4 (dk_at dksX1_alike_3 15 rfl rfl)
theorem dX1_alike_88 : decode cX1_alike 88 = .ok (.iconst 0, 1) := dk_3 (dk_at dksX1_alike_3 18 rfl rfl)
theorem dX1_alike_89 : decode cX1_alike 89 = .ok (.iadd, 1) := dk_96 (dk_at dksX1_alike_3 19 rfl rfl)
theorem dX1_alike_90 : decode cX1_alike 90 = .ok (.istore 4, 2) := dk_54 4 (dk_at dksX1_alike_3 20 rfl rfl)
theorem dX1_alike_92 : decode cX1_alike 92 = .ok (.iinc 6 1, 3) := dk_132 6 1 (dk_at dksX1_alike_4 0 rfl rfl)
theorem dX1_alike_95 : decode cX1_alike 95 = .ok (.goto (-48), 3) := dk_167 255 208 (dk_at dksX1_alike_4 3 rfl rfl)
theorem dX1_alike_98 : decode cX1_alike 98 = .ok (.iinc 5 1, 3) := dk_132 5 1 (dk_at dksX1_alike_4 6 rfl rfl)
theorem dX1_alike_101 : decode cX1_alike 101 = .ok (.goto (-68), 3) := dk_167 255 188 (dk_at dksX1_alike_4 9 rfl rfl)
theorem dX1_alike_104 : decode cX1_alike 104 = .ok (.iload 4, 2) := dk_21 4 (dk_at dksX1_alike_4 12 rfl rfl)
theorem dX1_alike_106 : decode cX1_alike 106 = .ok (.ireturn, 1) := dk_172 (dk_at dksX1_alike_4 14 rfl rfl)
abbrev cX1_areAlike : ByteArray := prog_1_method_57_code
def yX1_areAlike : MethodName := ⟨RX1, "areAlike", "(LScrutineery$Entry;LScrutineery$Entry;)Z"⟩
def dkwX1_areAlike_1 : List UInt8 := [160, 0, 7, 4, 167, 0, 4, 3, 172]
abbrev dktX1_areAlike_1 : List UInt8 := dkwX1_areAlike_1 ++ []
def dkwX1_areAlike_0 : List UInt8 := [42, 180, 1, 207, 43, 180, 1, 207, 184, 1, 239, 43, 182, 1, 216, 42, 182, 1, 216, 184, 1, 239]
abbrev dktX1_areAlike_0 : List UInt8 := dkwX1_areAlike_0 ++ dktX1_areAlike_1
theorem dksX1_areAlike_0 : cX1_areAlike.data.toList.drop 0 = dktX1_areAlike_0 := by decide +kernel
theorem dksX1_areAlike_1 : cX1_areAlike.data.toList.drop 22 = dktX1_areAlike_1 := dk_seg dksX1_areAlike_0 22 rfl rfl
theorem dX1_areAlike_0 : decode cX1_areAlike 0 = .ok (.aload_n 0, 1) := dk_42 (dk_at dksX1_areAlike_0 0 rfl rfl)
theorem dX1_areAlike_1 : decode cX1_areAlike 1 = .ok (.getfield 463, 3) := dk_180 1 207 (dk_at dksX1_areAlike_0 1 rfl rfl)
theorem dX1_areAlike_4 : decode cX1_areAlike 4 = .ok (.aload_n 1, 1) := dk_43 (dk_at dksX1_areAlike_0 4 rfl rfl)
theorem dX1_areAlike_5 : decode cX1_areAlike 5 = .ok (.getfield 463, 3) := dk_180 1 207 (dk_at dksX1_areAlike_0 5 rfl rfl)
theorem dX1_areAlike_8 : decode cX1_areAlike 8 = .ok (.invokestatic 495, 3) := dk_184 1 239 (dk_at dksX1_areAlike_0 8 rfl rfl)
theorem dX1_areAlike_11 : decode cX1_areAlike 11 = .ok (.aload_n 1, 1) := dk_43 (dk_at dksX1_areAlike_0 11 rfl rfl)
theorem dX1_areAlike_12 : decode cX1_areAlike 12 = .ok (.invokevirtual 472, 3) := dk_182 1 216 (dk_at dksX1_areAlike_0 12 rfl rfl)
theorem dX1_areAlike_15 : decode cX1_areAlike 15 = .ok (.aload_n 0, 1) := dk_42 (dk_at dksX1_areAlike_0 15 rfl rfl)
theorem dX1_areAlike_16 : decode cX1_areAlike 16 = .ok (.invokevirtual 472, 3) := dk_182 1 216 (dk_at dksX1_areAlike_0 16 rfl rfl)
theorem dX1_areAlike_19 : decode cX1_areAlike 19 = .ok (.invokestatic 495, 3) := dk_184 1 239 (dk_at dksX1_areAlike_0 19 rfl rfl)
theorem dX1_areAlike_22 : decode cX1_areAlike 22 = .ok (.if_icmp .ne 7, 3) := dk_160 0 7 (dk_at dksX1_areAlike_1 0 rfl rfl)
theorem dX1_areAlike_25 : decode cX1_areAlike 25 = .ok (.iconst 1, 1) := dk_4 (dk_at dksX1_areAlike_1 3 rfl rfl)
theorem dX1_areAlike_26 : decode cX1_areAlike 26 = .ok (.goto 4, 3) := dk_167 0 4 (dk_at dksX1_areAlike_1 4 rfl rfl)
theorem dX1_areAlike_29 : decode cX1_areAlike 29 = .ok (.iconst 0, 1) := dk_3 (dk_at dksX1_areAlike_1 7 rfl rfl)
theorem dX1_areAlike_30 : decode cX1_areAlike 30 = .ok (.ireturn, 1) := dk_172 (dk_at dksX1_areAlike_1 8 rfl rfl)
abbrev cX1_bias : ByteArray := prog_1_method_60_code
def yX1_bias : MethodName := ⟨RX1, "bias", "(II)I"⟩
def dkwX1_bias_3 : List UInt8 := [153, 0, 14, 25, 7, 45, 25, 4, 184, 1, 254, 167, 0, 4, 3, 96, 54, 5, 167, 255, 209, 21, 5, 172]
abbrev dktX1_bias_3 : List UInt8 := dkwX1_bias_3 ++ []
def dkwX1_bias_2 : List UInt8 := [153, 0, 43, 25, 6, 185, 0, 167, 1, 0, 192, 0, 184, 58, 7, 21, 5, 25, 7, 180, 1, 224]
abbrev dktX1_bias_2 : List UInt8 := dkwX1_bias_2 ++ dktX1_bias_3
def dkwX1_bias_1 : List UInt8 := [58, 4, 3, 54, 5, 42, 180, 0, 49, 185, 0, 158, 1, 0, 58, 6, 25, 6, 185, 0, 162, 1, 0]
abbrev dktX1_bias_1 : List UInt8 := dkwX1_bias_1 ++ dktX1_bias_2
def dkwX1_bias_0 : List UInt8 := [42, 180, 0, 39, 27, 184, 0, 97, 192, 0, 88, 78, 42, 180, 0, 39, 28, 184, 0, 97, 192, 0, 88]
abbrev dktX1_bias_0 : List UInt8 := dkwX1_bias_0 ++ dktX1_bias_1
theorem dksX1_bias_0 : cX1_bias.data.toList.drop 0 = dktX1_bias_0 := by decide +kernel
theorem dksX1_bias_1 : cX1_bias.data.toList.drop 23 = dktX1_bias_1 := dk_seg dksX1_bias_0 23 rfl rfl
theorem dksX1_bias_2 : cX1_bias.data.toList.drop 46 = dktX1_bias_2 := dk_seg dksX1_bias_1 23 rfl rfl
theorem dksX1_bias_3 : cX1_bias.data.toList.drop 68 = dktX1_bias_3 := dk_seg dksX1_bias_2 22 rfl rfl
theorem dX1_bias_0 : decode cX1_bias 0 = .ok (.aload_n 0, 1) := dk_42 (dk_at dksX1_bias_0 0 rfl rfl)
theorem dX1_bias_1 : decode cX1_bias 1 = .ok (.getfield 39, 3) := dk_180 0 39 (dk_at dksX1_bias_0 1 rfl rfl)
theorem dX1_bias_4 : decode cX1_bias 4 = .ok (.iload_n 1, 1) := dk_27 (dk_at dksX1_bias_0 4 rfl rfl)
theorem dX1_bias_5 : decode cX1_bias 5 = .ok (.invokestatic 97, 3) := dk_184 0 97 (dk_at dksX1_bias_0 5 rfl rfl)
theorem dX1_bias_8 : decode cX1_bias 8 = .ok (.checkcast 88, 3) := dk_192 0 88 (dk_at dksX1_bias_0 8 rfl rfl)
theorem dX1_bias_11 : decode cX1_bias 11 = .ok (.astore_n 3, 1) := dk_78 (dk_at dksX1_bias_0 11 rfl rfl)
theorem dX1_bias_12 : decode cX1_bias 12 = .ok (.aload_n 0, 1) := dk_42 (dk_at dksX1_bias_0 12 rfl rfl)
theorem dX1_bias_13 : decode cX1_bias 13 = .ok (.getfield 39, 3) := dk_180 0 39 (dk_at dksX1_bias_0 13 rfl rfl)
theorem dX1_bias_16 : decode cX1_bias 16 = .ok (.iload_n 2, 1) := dk_28 (dk_at dksX1_bias_0 16 rfl rfl)
theorem dX1_bias_17 : decode cX1_bias 17 = .ok (.invokestatic 97, 3) := dk_184 0 97 (dk_at dksX1_bias_0 17 rfl rfl)
theorem dX1_bias_20 : decode cX1_bias 20 = .ok (.checkcast 88, 3) := dk_192 0 88 (dk_at dksX1_bias_0 20 rfl rfl)
theorem dX1_bias_23 : decode cX1_bias 23 = .ok (.astore 4, 2) := dk_58 4 (dk_at dksX1_bias_1 0 rfl rfl)
theorem dX1_bias_25 : decode cX1_bias 25 = .ok (.iconst 0, 1) := dk_3 (dk_at dksX1_bias_1 2 rfl rfl)
theorem dX1_bias_26 : decode cX1_bias 26 = .ok (.istore 5, 2) := dk_54 5 (dk_at dksX1_bias_1 3 rfl rfl)
theorem dX1_bias_28 : decode cX1_bias 28 = .ok (.aload_n 0, 1) := dk_42 (dk_at dksX1_bias_1 5 rfl rfl)
theorem dX1_bias_29 : decode cX1_bias 29 = .ok (.getfield 49, 3) := dk_180 0 49 (dk_at dksX1_bias_1 6 rfl rfl)
theorem dX1_bias_32 : decode cX1_bias 32 = .ok (.invokeinterface 158 1, 5) := by decide +kernel
theorem dX1_bias_37 : decode cX1_bias 37 = .ok (.astore 6, 2) := dk_58 6 (dk_at dksX1_bias_1 14 rfl rfl)
theorem dX1_bias_39 : decode cX1_bias 39 = .ok (.aload 6, 2) := dk_25 6 (dk_at dksX1_bias_1 16 rfl rfl)
theorem dX1_bias_41 : decode cX1_bias 41 = .ok (.invokeinterface 162 1, 5) := by decide +kernel
theorem dX1_bias_46 : decode cX1_bias 46 = .ok (.ifCond .eq 43, 3) := dk_153 0 43 (dk_at dksX1_bias_2 0 rfl rfl)
theorem dX1_bias_49 : decode cX1_bias 49 = .ok (.aload 6, 2) := dk_25 6 (dk_at dksX1_bias_2 3 rfl rfl)
theorem dX1_bias_51 : decode cX1_bias 51 = .ok (.invokeinterface 167 1, 5) := by decide +kernel
theorem dX1_bias_56 : decode cX1_bias 56 = .ok (.checkcast 184, 3) := dk_192 0 184 (dk_at dksX1_bias_2 10 rfl rfl)
theorem dX1_bias_59 : decode cX1_bias 59 = .ok (.astore 7, 2) := dk_58 7 (dk_at dksX1_bias_2 13 rfl rfl)
theorem dX1_bias_61 : decode cX1_bias 61 = .ok (.iload 5, 2) := dk_21 5 (dk_at dksX1_bias_2 15 rfl rfl)
theorem dX1_bias_63 : decode cX1_bias 63 = .ok (.aload 7, 2) := dk_25 7 (dk_at dksX1_bias_2 17 rfl rfl)
theorem dX1_bias_65 : decode cX1_bias 65 = .ok (.getfield 480, 3) := dk_180 1 224 (dk_at dksX1_bias_2 19 rfl rfl)
theorem dX1_bias_68 : decode cX1_bias 68 = .ok (.ifCond .eq 14, 3) := dk_153 0 14 (dk_at dksX1_bias_3 0 rfl rfl)
theorem dX1_bias_71 : decode cX1_bias 71 = .ok (.aload 7, 2) := dk_25 7 (dk_at dksX1_bias_3 3 rfl rfl)
theorem dX1_bias_73 : decode cX1_bias 73 = .ok (.aload_n 3, 1) := dk_45 (dk_at dksX1_bias_3 5 rfl rfl)
theorem dX1_bias_74 : decode cX1_bias 74 = .ok (.aload 4, 2) := dk_25 4 (dk_at dksX1_bias_3 6 rfl rfl)
theorem dX1_bias_76 : decode cX1_bias 76 = .ok (.invokestatic 510, 3) := dk_184 1 254 (dk_at dksX1_bias_3 8 rfl rfl)
theorem dX1_bias_79 : decode cX1_bias 79 = .ok (.goto 4, 3) := dk_167 0 4 (dk_at dksX1_bias_3 11 rfl rfl)
theorem dX1_bias_82 : decode cX1_bias 82 = .ok (.iconst 0, 1) := dk_3 (dk_at dksX1_bias_3 14 rfl rfl)
theorem dX1_bias_83 : decode cX1_bias 83 = .ok (.iadd, 1) := dk_96 (dk_at dksX1_bias_3 15 rfl rfl)
theorem dX1_bias_84 : decode cX1_bias 84 = .ok (.istore 5, 2) := dk_54 5 (dk_at dksX1_bias_3 16 rfl rfl)
theorem dX1_bias_86 : decode cX1_bias 86 = .ok (.goto (-47), 3) := dk_167 255 209 (dk_at dksX1_bias_3 18 rfl rfl)
theorem dX1_bias_89 : decode cX1_bias 89 = .ok (.iload 5, 2) := dk_21 5 (dk_at dksX1_bias_3 21 rfl rfl)
theorem dX1_bias_91 : decode cX1_bias 91 = .ok (.ireturn, 1) := dk_172 (dk_at dksX1_bias_3 23 rfl rfl)
abbrev cX1_biasIn : ByteArray := prog_1_method_59_code
def yX1_biasIn : MethodName := ⟨RX1, "biasIn", "(LScrutineery$Event;LScrutineery$Person;LScrutineery$Person;)I"⟩
def dkwX1_biasIn_5 : List UInt8 := [62, 167, 255, 191, 132, 4, 1, 167, 255, 139, 29, 172]
abbrev dktX1_biasIn_5 : List UInt8 := dkwX1_biasIn_5 ++ []
def dkwX1_biasIn_4 : List UInt8 := [21, 4, 21, 5, 25, 7, 182, 1, 250, 104, 25, 7, 180, 1, 233, 21, 4, 46, 100, 167, 0, 4, 3, 96]
abbrev dktX1_biasIn_4 : List UInt8 := dkwX1_biasIn_4 ++ dktX1_biasIn_5
def dkwX1_biasIn_3 : List UInt8 := [192, 1, 9, 58, 7, 29, 25, 7, 180, 1, 49, 44, 182, 0, 177, 153, 0, 30, 5, 42, 180, 1, 14]
abbrev dktX1_biasIn_3 : List UInt8 := dkwX1_biasIn_3 ++ dktX1_biasIn_4
def dkwX1_biasIn_2 : List UInt8 := [185, 0, 158, 1, 0, 58, 6, 25, 6, 185, 0, 162, 1, 0, 153, 0, 61, 25, 6, 185, 0, 167, 1, 0]
abbrev dktX1_biasIn_2 : List UInt8 := dkwX1_biasIn_2 ++ dktX1_biasIn_3
def dkwX1_biasIn_1 : List UInt8 := [185, 1, 246, 2, 0, 54, 5, 21, 5, 2, 160, 0, 6, 167, 0, 85, 42, 180, 1, 14, 180, 1, 18]
abbrev dktX1_biasIn_1 : List UInt8 := dkwX1_biasIn_1 ++ dktX1_biasIn_2
def dkwX1_biasIn_0 : List UInt8 := [3, 62, 3, 54, 4, 21, 4, 42, 180, 1, 67, 162, 0, 114, 42, 21, 4, 182, 1, 70, 43]
abbrev dktX1_biasIn_0 : List UInt8 := dkwX1_biasIn_0 ++ dktX1_biasIn_1
theorem dksX1_biasIn_0 : cX1_biasIn.data.toList.drop 0 = dktX1_biasIn_0 := by decide +kernel
theorem dksX1_biasIn_1 : cX1_biasIn.data.toList.drop 21 = dktX1_biasIn_1 := dk_seg dksX1_biasIn_0 21 rfl rfl
theorem dksX1_biasIn_2 : cX1_biasIn.data.toList.drop 44 = dktX1_biasIn_2 := dk_seg dksX1_biasIn_1 23 rfl rfl
theorem dksX1_biasIn_3 : cX1_biasIn.data.toList.drop 68 = dktX1_biasIn_3 := dk_seg dksX1_biasIn_2 24 rfl rfl
theorem dksX1_biasIn_4 : cX1_biasIn.data.toList.drop 91 = dktX1_biasIn_4 := dk_seg dksX1_biasIn_3 23 rfl rfl
theorem dksX1_biasIn_5 : cX1_biasIn.data.toList.drop 115 = dktX1_biasIn_5 := dk_seg dksX1_biasIn_4 24 rfl rfl
theorem dX1_biasIn_0 : decode cX1_biasIn 0 = .ok (.iconst 0, 1) := dk_3 (dk_at dksX1_biasIn_0 0 rfl rfl)
theorem dX1_biasIn_1 : decode cX1_biasIn 1 = .ok (.istore_n 3, 1) := dk_62 (dk_at dksX1_biasIn_0 1 rfl rfl)
theorem dX1_biasIn_2 : decode cX1_biasIn 2 = .ok (.iconst 0, 1) := dk_3 (dk_at dksX1_biasIn_0 2 rfl rfl)
theorem dX1_biasIn_3 : decode cX1_biasIn 3 = .ok (.istore 4, 2) := dk_54 4 (dk_at dksX1_biasIn_0 3 rfl rfl)
theorem dX1_biasIn_5 : decode cX1_biasIn 5 = .ok (.iload 4, 2) := dk_21 4 (dk_at dksX1_biasIn_0 5 rfl rfl)
theorem dX1_biasIn_7 : decode cX1_biasIn 7 = .ok (.aload_n 0, 1) := dk_42 (dk_at dksX1_biasIn_0 7 rfl rfl)
theorem dX1_biasIn_8 : decode cX1_biasIn 8 = .ok (.getfield 323, 3) := dk_180 1 67 (dk_at dksX1_biasIn_0 8 rfl rfl)
theorem dX1_biasIn_11 : decode cX1_biasIn 11 = .ok (.if_icmp .ge 114, 3) := dk_162 0 114 (dk_at dksX1_biasIn_0 11 rfl rfl)
theorem dX1_biasIn_14 : decode cX1_biasIn 14 = .ok (.aload_n 0, 1) := dk_42 (dk_at dksX1_biasIn_0 14 rfl rfl)
theorem dX1_biasIn_15 : decode cX1_biasIn 15 = .ok (.iload 4, 2) := dk_21 4 (dk_at dksX1_biasIn_0 15 rfl rfl)
theorem dX1_biasIn_17 : decode cX1_biasIn 17 = .ok (.invokevirtual 326, 3) := dk_182 1 70 (dk_at dksX1_biasIn_0 17 rfl rfl)
theorem dX1_biasIn_20 : decode cX1_biasIn 20 = .ok (.aload_n 1, 1) := dk_43 (dk_at dksX1_biasIn_0 20 rfl rfl)
theorem dX1_biasIn_21 : decode cX1_biasIn 21 = .ok (.invokeinterface 502 2, 5) := by decide +kernel
theorem dX1_biasIn_26 : decode cX1_biasIn 26 = .ok (.istore 5, 2) := dk_54 5 (dk_at dksX1_biasIn_1 5 rfl rfl)
theorem dX1_biasIn_28 : decode cX1_biasIn 28 = .ok (.iload 5, 2) := dk_21 5 (dk_at dksX1_biasIn_1 7 rfl rfl)
theorem dX1_biasIn_30 : decode cX1_biasIn 30 = .ok (.iconst (-1), 1) := dk_2 (dk_at dksX1_biasIn_1 9 rfl rfl)
theorem dX1_biasIn_31 : decode cX1_biasIn 31 = .ok (.if_icmp .ne 6, 3) := dk_160 0 6 (dk_at dksX1_biasIn_1 10 rfl rfl)
theorem dX1_biasIn_34 : decode cX1_biasIn 34 = .ok (.goto 85, 3) := dk_167 0 85 (dk_at dksX1_biasIn_1 13 rfl rfl)
theorem dX1_biasIn_37 : decode cX1_biasIn 37 = .ok (.aload_n 0, 1) := dk_42 (dk_at dksX1_biasIn_1 16 rfl rfl)
theorem dX1_biasIn_38 : decode cX1_biasIn 38 = .ok (.getfield 270, 3) := dk_180 1 14 (dk_at dksX1_biasIn_1 17 rfl rfl)
theorem dX1_biasIn_41 : decode cX1_biasIn 41 = .ok (.getfield 274, 3) := dk_180 1 18 (dk_at dksX1_biasIn_1 20 rfl rfl)
theorem dX1_biasIn_44 : decode cX1_biasIn 44 = .ok (.invokeinterface 158 1, 5) := by decide +kernel
theorem dX1_biasIn_49 : decode cX1_biasIn 49 = .ok (.astore 6, 2) := dk_58 6 (dk_at dksX1_biasIn_2 5 rfl rfl)
theorem dX1_biasIn_51 : decode cX1_biasIn 51 = .ok (.aload 6, 2) := dk_25 6 (dk_at dksX1_biasIn_2 7 rfl rfl)
theorem dX1_biasIn_53 : decode cX1_biasIn 53 = .ok (.invokeinterface 162 1, 5) := by decide +kernel
theorem dX1_biasIn_58 : decode cX1_biasIn 58 = .ok (.ifCond .eq 61, 3) := dk_153 0 61 (dk_at dksX1_biasIn_2 14 rfl rfl)
theorem dX1_biasIn_61 : decode cX1_biasIn 61 = .ok (.aload 6, 2) := dk_25 6 (dk_at dksX1_biasIn_2 17 rfl rfl)
theorem dX1_biasIn_63 : decode cX1_biasIn 63 = .ok (.invokeinterface 167 1, 5) := by decide +kernel
theorem dX1_biasIn_68 : decode cX1_biasIn 68 = .ok (.checkcast 265, 3) := dk_192 1 9 (dk_at dksX1_biasIn_3 0 rfl rfl)
theorem dX1_biasIn_71 : decode cX1_biasIn 71 = .ok (.astore 7, 2) := dk_58 7 (dk_at dksX1_biasIn_3 3 rfl rfl)
theorem dX1_biasIn_73 : decode cX1_biasIn 73 = .ok (.iload_n 3, 1) := dk_29 (dk_at dksX1_biasIn_3 5 rfl rfl)
theorem dX1_biasIn_74 : decode cX1_biasIn 74 = .ok (.aload 7, 2) := dk_25 7 (dk_at dksX1_biasIn_3 6 rfl rfl)
theorem dX1_biasIn_76 : decode cX1_biasIn 76 = .ok (.getfield 305, 3) := dk_180 1 49 (dk_at dksX1_biasIn_3 8 rfl rfl)
theorem dX1_biasIn_79 : decode cX1_biasIn 79 = .ok (.aload_n 2, 1) := dk_44 (dk_at dksX1_biasIn_3 11 rfl rfl)
theorem dX1_biasIn_80 : decode cX1_biasIn 80 = .ok (.invokevirtual 177, 3) := dk_182 0 177 (dk_at dksX1_biasIn_3 12 rfl rfl)
theorem dX1_biasIn_83 : decode cX1_biasIn 83 = .ok (.ifCond .eq 30, 3) := dk_153 0 30 (dk_at dksX1_biasIn_3 15 rfl rfl)
theorem dX1_biasIn_86 : decode cX1_biasIn 86 = .ok (.iconst 2, 1) := dk_5 (dk_at dksX1_biasIn_3 18 rfl rfl)
theorem dX1_biasIn_87 : decode cX1_biasIn 87 = .ok (.aload_n 0, 1) := dk_42 (dk_at dksX1_biasIn_3 19 rfl rfl)
theorem dX1_biasIn_88 : decode cX1_biasIn 88 = .ok (.getfield 270, 3) := dk_180 1 14 (dk_at dksX1_biasIn_3 20 rfl rfl)
theorem dX1_biasIn_91 : decode cX1_biasIn 91 = .ok (.iload 4, 2) := dk_21 4 (dk_at dksX1_biasIn_4 0 rfl rfl)
theorem dX1_biasIn_93 : decode cX1_biasIn 93 = .ok (.iload 5, 2) := dk_21 5 (dk_at dksX1_biasIn_4 2 rfl rfl)
theorem dX1_biasIn_95 : decode cX1_biasIn 95 = .ok (.aload 7, 2) := dk_25 7 (dk_at dksX1_biasIn_4 4 rfl rfl)
theorem dX1_biasIn_97 : decode cX1_biasIn 97 = .ok (.invokevirtual 506, 3) := dk_182 1 250 (dk_at dksX1_biasIn_4 6 rfl rfl)
theorem dX1_biasIn_100 : decode cX1_biasIn 100 = .ok (.imul, 1) := dk_104 (dk_at dksX1_biasIn_4 9 rfl rfl)
theorem dX1_biasIn_101 : decode cX1_biasIn 101 = .ok (.aload 7, 2) := dk_25 7 (dk_at dksX1_biasIn_4 10 rfl rfl)
theorem dX1_biasIn_103 : decode cX1_biasIn 103 = .ok (.getfield 489, 3) := dk_180 1 233 (dk_at dksX1_biasIn_4 12 rfl rfl)
theorem dX1_biasIn_106 : decode cX1_biasIn 106 = .ok (.iload 4, 2) := dk_21 4 (dk_at dksX1_biasIn_4 15 rfl rfl)
theorem dX1_biasIn_108 : decode cX1_biasIn 108 = .ok (.iaload, 1) := dk_46 (dk_at dksX1_biasIn_4 17 rfl rfl)
theorem dX1_biasIn_109 : decode cX1_biasIn 109 = .ok (.isub, 1) := dk_100 (dk_at dksX1_biasIn_4 18 rfl rfl)
theorem dX1_biasIn_110 : decode cX1_biasIn 110 = .ok (.goto 4, 3) := dk_167 0 4 (dk_at dksX1_biasIn_4 19 rfl rfl)
theorem dX1_biasIn_113 : decode cX1_biasIn 113 = .ok (.iconst 0, 1) := dk_3 (dk_at dksX1_biasIn_4 22 rfl rfl)
theorem dX1_biasIn_114 : decode cX1_biasIn 114 = .ok (.iadd, 1) := dk_96 (dk_at dksX1_biasIn_4 23 rfl rfl)
theorem dX1_biasIn_115 : decode cX1_biasIn 115 = .ok (.istore_n 3, 1) := dk_62 (dk_at dksX1_biasIn_5 0 rfl rfl)
theorem dX1_biasIn_116 : decode cX1_biasIn 116 = .ok (.goto (-65), 3) := dk_167 255 191 (dk_at dksX1_biasIn_5 1 rfl rfl)
theorem dX1_biasIn_119 : decode cX1_biasIn 119 = .ok (.iinc 4 1, 3) := dk_132 4 1 (dk_at dksX1_biasIn_5 4 rfl rfl)
theorem dX1_biasIn_122 : decode cX1_biasIn 122 = .ok (.goto (-117), 3) := dk_167 255 139 (dk_at dksX1_biasIn_5 7 rfl rfl)
theorem dX1_biasIn_125 : decode cX1_biasIn 125 = .ok (.iload_n 3, 1) := dk_29 (dk_at dksX1_biasIn_5 10 rfl rfl)
theorem dX1_biasIn_126 : decode cX1_biasIn 126 = .ok (.ireturn, 1) := dk_172 (dk_at dksX1_biasIn_5 11 rfl rfl)
abbrev cX1_formationAt : ByteArray := prog_1_method_61_code
def yX1_formationAt : MethodName := ⟨RX1, "formationAt", "(IZ)I"⟩
def dkwX1_formationAt_3 : List UInt8 := [164, 0, 6, 132, 4, 1, 167, 255, 207, 28, 153, 0, 8, 21, 4, 167, 0, 7, 45, 182, 1, 151, 172]
abbrev dktX1_formationAt_3 : List UInt8 := dkwX1_formationAt_3 ++ []
def dkwX1_formationAt_2 : List UInt8 := [193, 1, 148, 153, 0, 25, 25, 6, 192, 1, 148, 58, 7, 25, 7, 182, 1, 151, 45, 182, 1, 151]
abbrev dktX1_formationAt_2 : List UInt8 := dkwX1_formationAt_2 ++ dktX1_formationAt_3
def dkwX1_formationAt_1 : List UInt8 := [58, 5, 25, 5, 185, 0, 162, 1, 0, 153, 0, 45, 25, 5, 185, 0, 167, 1, 0, 58, 6, 25, 6]
abbrev dktX1_formationAt_1 : List UInt8 := dkwX1_formationAt_1 ++ dktX1_formationAt_2
def dkwX1_formationAt_0 : List UInt8 := [42, 180, 0, 52, 27, 184, 0, 97, 192, 1, 148, 78, 4, 54, 4, 42, 180, 0, 52, 185, 0, 158, 1, 0]
abbrev dktX1_formationAt_0 : List UInt8 := dkwX1_formationAt_0 ++ dktX1_formationAt_1
theorem dksX1_formationAt_0 : cX1_formationAt.data.toList.drop 0 = dktX1_formationAt_0 := by decide +kernel
theorem dksX1_formationAt_1 : cX1_formationAt.data.toList.drop 24 = dktX1_formationAt_1 := dk_seg dksX1_formationAt_0 24 rfl rfl
theorem dksX1_formationAt_2 : cX1_formationAt.data.toList.drop 47 = dktX1_formationAt_2 := dk_seg dksX1_formationAt_1 23 rfl rfl
theorem dksX1_formationAt_3 : cX1_formationAt.data.toList.drop 69 = dktX1_formationAt_3 := dk_seg dksX1_formationAt_2 22 rfl rfl
theorem dX1_formationAt_0 : decode cX1_formationAt 0 = .ok (.aload_n 0, 1) := dk_42 (dk_at dksX1_formationAt_0 0 rfl rfl)
theorem dX1_formationAt_1 : decode cX1_formationAt 1 = .ok (.getfield 52, 3) := dk_180 0 52 (dk_at dksX1_formationAt_0 1 rfl rfl)
theorem dX1_formationAt_4 : decode cX1_formationAt 4 = .ok (.iload_n 1, 1) := dk_27 (dk_at dksX1_formationAt_0 4 rfl rfl)
theorem dX1_formationAt_5 : decode cX1_formationAt 5 = .ok (.invokestatic 97, 3) := dk_184 0 97 (dk_at dksX1_formationAt_0 5 rfl rfl)
theorem dX1_formationAt_8 : decode cX1_formationAt 8 = .ok (.checkcast 404, 3) := dk_192 1 148 (dk_at dksX1_formationAt_0 8 rfl rfl)
theorem dX1_formationAt_11 : decode cX1_formationAt 11 = .ok (.astore_n 3, 1) := dk_78 (dk_at dksX1_formationAt_0 11 rfl rfl)
theorem dX1_formationAt_12 : decode cX1_formationAt 12 = .ok (.iconst 1, 1) := dk_4 (dk_at dksX1_formationAt_0 12 rfl rfl)
theorem dX1_formationAt_13 : decode cX1_formationAt 13 = .ok (.istore 4, 2) := dk_54 4 (dk_at dksX1_formationAt_0 13 rfl rfl)
theorem dX1_formationAt_15 : decode cX1_formationAt 15 = .ok (.aload_n 0, 1) := dk_42 (dk_at dksX1_formationAt_0 15 rfl rfl)
theorem dX1_formationAt_16 : decode cX1_formationAt 16 = .ok (.getfield 52, 3) := dk_180 0 52 (dk_at dksX1_formationAt_0 16 rfl rfl)
theorem dX1_formationAt_19 : decode cX1_formationAt 19 = .ok (.invokeinterface 158 1, 5) := by decide +kernel
theorem dX1_formationAt_24 : decode cX1_formationAt 24 = .ok (.astore 5, 2) := dk_58 5 (dk_at dksX1_formationAt_1 0 rfl rfl)
theorem dX1_formationAt_26 : decode cX1_formationAt 26 = .ok (.aload 5, 2) := dk_25 5 (dk_at dksX1_formationAt_1 2 rfl rfl)
theorem dX1_formationAt_28 : decode cX1_formationAt 28 = .ok (.invokeinterface 162 1, 5) := by decide +kernel
theorem dX1_formationAt_33 : decode cX1_formationAt 33 = .ok (.ifCond .eq 45, 3) := dk_153 0 45 (dk_at dksX1_formationAt_1 9 rfl rfl)
theorem dX1_formationAt_36 : decode cX1_formationAt 36 = .ok (.aload 5, 2) := dk_25 5 (dk_at dksX1_formationAt_1 12 rfl rfl)
theorem dX1_formationAt_38 : decode cX1_formationAt 38 = .ok (.invokeinterface 167 1, 5) := by decide +kernel
theorem dX1_formationAt_43 : decode cX1_formationAt 43 = .ok (.astore 6, 2) := dk_58 6 (dk_at dksX1_formationAt_1 19 rfl rfl)
theorem dX1_formationAt_45 : decode cX1_formationAt 45 = .ok (.aload 6, 2) := dk_25 6 (dk_at dksX1_formationAt_1 21 rfl rfl)
theorem dX1_formationAt_47 : decode cX1_formationAt 47 = .ok (.instanceof 404, 3) := dk_193 1 148 (dk_at dksX1_formationAt_2 0 rfl rfl)
theorem dX1_formationAt_50 : decode cX1_formationAt 50 = .ok (.ifCond .eq 25, 3) := dk_153 0 25 (dk_at dksX1_formationAt_2 3 rfl rfl)
theorem dX1_formationAt_53 : decode cX1_formationAt 53 = .ok (.aload 6, 2) := dk_25 6 (dk_at dksX1_formationAt_2 6 rfl rfl)
theorem dX1_formationAt_55 : decode cX1_formationAt 55 = .ok (.checkcast 404, 3) := dk_192 1 148 (dk_at dksX1_formationAt_2 8 rfl rfl)
theorem dX1_formationAt_58 : decode cX1_formationAt 58 = .ok (.astore 7, 2) := dk_58 7 (dk_at dksX1_formationAt_2 11 rfl rfl)
theorem dX1_formationAt_60 : decode cX1_formationAt 60 = .ok (.aload 7, 2) := dk_25 7 (dk_at dksX1_formationAt_2 13 rfl rfl)
theorem dX1_formationAt_62 : decode cX1_formationAt 62 = .ok (.invokevirtual 407, 3) := dk_182 1 151 (dk_at dksX1_formationAt_2 15 rfl rfl)
theorem dX1_formationAt_65 : decode cX1_formationAt 65 = .ok (.aload_n 3, 1) := dk_45 (dk_at dksX1_formationAt_2 18 rfl rfl)
theorem dX1_formationAt_66 : decode cX1_formationAt 66 = .ok (.invokevirtual 407, 3) := dk_182 1 151 (dk_at dksX1_formationAt_2 19 rfl rfl)
theorem dX1_formationAt_69 : decode cX1_formationAt 69 = .ok (.if_icmp .le 6, 3) := dk_164 0 6 (dk_at dksX1_formationAt_3 0 rfl rfl)
theorem dX1_formationAt_72 : decode cX1_formationAt 72 = .ok (.iinc 4 1, 3) := dk_132 4 1 (dk_at dksX1_formationAt_3 3 rfl rfl)
theorem dX1_formationAt_75 : decode cX1_formationAt 75 = .ok (.goto (-49), 3) := dk_167 255 207 (dk_at dksX1_formationAt_3 6 rfl rfl)
theorem dX1_formationAt_78 : decode cX1_formationAt 78 = .ok (.iload_n 2, 1) := dk_28 (dk_at dksX1_formationAt_3 9 rfl rfl)
theorem dX1_formationAt_79 : decode cX1_formationAt 79 = .ok (.ifCond .eq 8, 3) := dk_153 0 8 (dk_at dksX1_formationAt_3 10 rfl rfl)
theorem dX1_formationAt_82 : decode cX1_formationAt 82 = .ok (.iload 4, 2) := dk_21 4 (dk_at dksX1_formationAt_3 13 rfl rfl)
theorem dX1_formationAt_84 : decode cX1_formationAt 84 = .ok (.goto 7, 3) := dk_167 0 7 (dk_at dksX1_formationAt_3 15 rfl rfl)
theorem dX1_formationAt_87 : decode cX1_formationAt 87 = .ok (.aload_n 3, 1) := dk_45 (dk_at dksX1_formationAt_3 18 rfl rfl)
theorem dX1_formationAt_88 : decode cX1_formationAt 88 = .ok (.invokevirtual 407, 3) := dk_182 1 151 (dk_at dksX1_formationAt_3 19 rfl rfl)
theorem dX1_formationAt_91 : decode cX1_formationAt 91 = .ok (.ireturn, 1) := dk_172 (dk_at dksX1_formationAt_3 22 rfl rfl)
abbrev cX1_planned : ByteArray := prog_1_method_62_code
def yX1_planned : MethodName := ⟨RX1, "planned", "(II)I"⟩
def dkwX1_planned_3 : List UInt8 := [167, 0, 20, 42, 27, 182, 1, 176, 45, 180, 1, 174, 96, 167, 0, 7, 45, 180, 1, 171, 172]
abbrev dktX1_planned_3 : List UInt8 := dkwX1_planned_3 ++ []
def dkwX1_planned_2 : List UInt8 := [45, 180, 2, 2, 180, 2, 6, 167, 0, 35, 45, 180, 1, 167, 167, 0, 28, 42, 27, 182, 1, 176]
abbrev dktX1_planned_2 : List UInt8 := dkwX1_planned_2 ++ dktX1_planned_3
def dkwX1_planned_1 : List UInt8 := [170, 0, 0, 0, 0, 68, 0, 0, 0, 0, 0, 0, 0, 3, 0, 0, 0, 30, 0, 0, 0, 40, 0, 0, 0, 47, 0, 0, 0, 55]
abbrev dktX1_planned_1 : List UInt8 := dkwX1_planned_1 ++ dktX1_planned_2
def dkwX1_planned_0 : List UInt8 := [42, 180, 0, 55, 27, 184, 0, 97, 192, 1, 158, 78, 28, 3, 7, 184, 0, 19, 184, 0, 82, 28]
abbrev dktX1_planned_0 : List UInt8 := dkwX1_planned_0 ++ dktX1_planned_1
theorem dksX1_planned_0 : cX1_planned.data.toList.drop 0 = dktX1_planned_0 := by decide +kernel
theorem dksX1_planned_1 : cX1_planned.data.toList.drop 22 = dktX1_planned_1 := dk_seg dksX1_planned_0 22 rfl rfl
theorem dksX1_planned_2 : cX1_planned.data.toList.drop 52 = dktX1_planned_2 := dk_seg dksX1_planned_1 30 rfl rfl
theorem dksX1_planned_3 : cX1_planned.data.toList.drop 74 = dktX1_planned_3 := dk_seg dksX1_planned_2 22 rfl rfl
theorem dX1_planned_0 : decode cX1_planned 0 = .ok (.aload_n 0, 1) := dk_42 (dk_at dksX1_planned_0 0 rfl rfl)
theorem dX1_planned_1 : decode cX1_planned 1 = .ok (.getfield 55, 3) := dk_180 0 55 (dk_at dksX1_planned_0 1 rfl rfl)
theorem dX1_planned_4 : decode cX1_planned 4 = .ok (.iload_n 1, 1) := dk_27 (dk_at dksX1_planned_0 4 rfl rfl)
theorem dX1_planned_5 : decode cX1_planned 5 = .ok (.invokestatic 97, 3) := dk_184 0 97 (dk_at dksX1_planned_0 5 rfl rfl)
theorem dX1_planned_8 : decode cX1_planned 8 = .ok (.checkcast 414, 3) := dk_192 1 158 (dk_at dksX1_planned_0 8 rfl rfl)
theorem dX1_planned_11 : decode cX1_planned 11 = .ok (.astore_n 3, 1) := dk_78 (dk_at dksX1_planned_0 11 rfl rfl)
theorem dX1_planned_12 : decode cX1_planned 12 = .ok (.iload_n 2, 1) := dk_28 (dk_at dksX1_planned_0 12 rfl rfl)
theorem dX1_planned_13 : decode cX1_planned 13 = .ok (.iconst 0, 1) := dk_3 (dk_at dksX1_planned_0 13 rfl rfl)
theorem dX1_planned_14 : decode cX1_planned 14 = .ok (.iconst 4, 1) := dk_7 (dk_at dksX1_planned_0 14 rfl rfl)
theorem dX1_planned_15 : decode cX1_planned 15 = .ok (.invokestatic 19, 3) := dk_184 0 19 (dk_at dksX1_planned_0 15 rfl rfl)
theorem dX1_planned_18 : decode cX1_planned 18 = .ok (.invokestatic 82, 3) := dk_184 0 82 (dk_at dksX1_planned_0 18 rfl rfl)
theorem dX1_planned_21 : decode cX1_planned 21 = .ok (.iload_n 2, 1) := dk_28 (dk_at dksX1_planned_0 21 rfl rfl)
theorem dX1_planned_22 : decode cX1_planned 22 = .ok (.tableswitch 68 0 3 #[30, 40, 47, 55], 30) := by decide +kernel
theorem dX1_planned_52 : decode cX1_planned 52 = .ok (.aload_n 3, 1) := dk_45 (dk_at dksX1_planned_2 0 rfl rfl)
theorem dX1_planned_53 : decode cX1_planned 53 = .ok (.getfield 514, 3) := dk_180 2 2 (dk_at dksX1_planned_2 1 rfl rfl)
theorem dX1_planned_56 : decode cX1_planned 56 = .ok (.getfield 518, 3) := dk_180 2 6 (dk_at dksX1_planned_2 4 rfl rfl)
theorem dX1_planned_59 : decode cX1_planned 59 = .ok (.goto 35, 3) := dk_167 0 35 (dk_at dksX1_planned_2 7 rfl rfl)
theorem dX1_planned_62 : decode cX1_planned 62 = .ok (.aload_n 3, 1) := dk_45 (dk_at dksX1_planned_2 10 rfl rfl)
theorem dX1_planned_63 : decode cX1_planned 63 = .ok (.getfield 423, 3) := dk_180 1 167 (dk_at dksX1_planned_2 11 rfl rfl)
theorem dX1_planned_66 : decode cX1_planned 66 = .ok (.goto 28, 3) := dk_167 0 28 (dk_at dksX1_planned_2 14 rfl rfl)
theorem dX1_planned_69 : decode cX1_planned 69 = .ok (.aload_n 0, 1) := dk_42 (dk_at dksX1_planned_2 17 rfl rfl)
theorem dX1_planned_70 : decode cX1_planned 70 = .ok (.iload_n 1, 1) := dk_27 (dk_at dksX1_planned_2 18 rfl rfl)
theorem dX1_planned_71 : decode cX1_planned 71 = .ok (.invokevirtual 432, 3) := dk_182 1 176 (dk_at dksX1_planned_2 19 rfl rfl)
theorem dX1_planned_74 : decode cX1_planned 74 = .ok (.goto 20, 3) := dk_167 0 20 (dk_at dksX1_planned_3 0 rfl rfl)
theorem dX1_planned_77 : decode cX1_planned 77 = .ok (.aload_n 0, 1) := dk_42 (dk_at dksX1_planned_3 3 rfl rfl)
theorem dX1_planned_78 : decode cX1_planned 78 = .ok (.iload_n 1, 1) := dk_27 (dk_at dksX1_planned_3 4 rfl rfl)
theorem dX1_planned_79 : decode cX1_planned 79 = .ok (.invokevirtual 432, 3) := dk_182 1 176 (dk_at dksX1_planned_3 5 rfl rfl)
theorem dX1_planned_82 : decode cX1_planned 82 = .ok (.aload_n 3, 1) := dk_45 (dk_at dksX1_planned_3 8 rfl rfl)
theorem dX1_planned_83 : decode cX1_planned 83 = .ok (.getfield 430, 3) := dk_180 1 174 (dk_at dksX1_planned_3 9 rfl rfl)
theorem dX1_planned_86 : decode cX1_planned 86 = .ok (.iadd, 1) := dk_96 (dk_at dksX1_planned_3 12 rfl rfl)
theorem dX1_planned_87 : decode cX1_planned 87 = .ok (.goto 7, 3) := dk_167 0 7 (dk_at dksX1_planned_3 13 rfl rfl)
theorem dX1_planned_90 : decode cX1_planned 90 = .ok (.aload_n 3, 1) := dk_45 (dk_at dksX1_planned_3 16 rfl rfl)
theorem dX1_planned_91 : decode cX1_planned 91 = .ok (.getfield 427, 3) := dk_180 1 171 (dk_at dksX1_planned_3 17 rfl rfl)
theorem dX1_planned_94 : decode cX1_planned 94 = .ok (.ireturn, 1) := dk_172 (dk_at dksX1_planned_3 20 rfl rfl)
abbrev cX1_ranked : ByteArray := prog_1_method_63_code
def yX1_ranked : MethodName := ⟨RX1, "ranked", "(II)I"⟩
def dkwX1_ranked_6 : List UInt8 := [185, 0, 29, 2, 0, 192, 0, 171, 180, 1, 179, 172]
abbrev dktX1_ranked_6 : List UInt8 := dkwX1_ranked_6 ++ []
def dkwX1_ranked_5 : List UInt8 := [162, 0, 9, 132, 6, 255, 167, 255, 222, 45, 21, 6, 25, 5, 185, 1, 236, 3, 0, 167, 255, 179, 45, 28]
abbrev dktX1_ranked_5 : List UInt8 := dkwX1_ranked_5 ++ dktX1_ranked_6
def dkwX1_ranked_4 : List UInt8 := [21, 6, 4, 100, 185, 0, 29, 2, 0, 192, 0, 171, 27, 182, 1, 192, 25, 5, 27, 182, 1, 192]
abbrev dktX1_ranked_4 : List UInt8 := dkwX1_ranked_4 ++ dktX1_ranked_5
def dkwX1_ranked_3 : List UInt8 := [185, 0, 167, 1, 0, 192, 0, 171, 58, 5, 45, 185, 0, 13, 1, 0, 54, 6, 21, 6, 158, 0, 35, 45]
abbrev dktX1_ranked_3 : List UInt8 := dkwX1_ranked_3 ++ dktX1_ranked_4
def dkwX1_ranked_2 : List UInt8 := [180, 0, 46, 185, 0, 158, 1, 0, 58, 4, 25, 4, 185, 0, 162, 1, 0, 153, 0, 73, 25, 4]
abbrev dktX1_ranked_2 : List UInt8 := dkwX1_ranked_2 ++ dktX1_ranked_3
def dkwX1_ranked_1 : List UInt8 := [184, 0, 19, 154, 0, 11, 187, 1, 227, 89, 183, 1, 229, 191, 187, 0, 36, 89, 183, 0, 38, 78, 42]
abbrev dktX1_ranked_1 : List UInt8 := dkwX1_ranked_1 ++ dktX1_ranked_2
def dkwX1_ranked_0 : List UInt8 := [27, 3, 4, 184, 0, 19, 184, 0, 82, 28, 3, 42, 180, 0, 46, 185, 0, 13, 1, 0, 4, 100]
abbrev dktX1_ranked_0 : List UInt8 := dkwX1_ranked_0 ++ dktX1_ranked_1
theorem dksX1_ranked_0 : cX1_ranked.data.toList.drop 0 = dktX1_ranked_0 := by decide +kernel
theorem dksX1_ranked_1 : cX1_ranked.data.toList.drop 22 = dktX1_ranked_1 := dk_seg dksX1_ranked_0 22 rfl rfl
theorem dksX1_ranked_2 : cX1_ranked.data.toList.drop 45 = dktX1_ranked_2 := dk_seg dksX1_ranked_1 23 rfl rfl
theorem dksX1_ranked_3 : cX1_ranked.data.toList.drop 67 = dktX1_ranked_3 := dk_seg dksX1_ranked_2 22 rfl rfl
theorem dksX1_ranked_4 : cX1_ranked.data.toList.drop 91 = dktX1_ranked_4 := dk_seg dksX1_ranked_3 24 rfl rfl
theorem dksX1_ranked_5 : cX1_ranked.data.toList.drop 113 = dktX1_ranked_5 := dk_seg dksX1_ranked_4 22 rfl rfl
theorem dksX1_ranked_6 : cX1_ranked.data.toList.drop 137 = dktX1_ranked_6 := dk_seg dksX1_ranked_5 24 rfl rfl
theorem dX1_ranked_0 : decode cX1_ranked 0 = .ok (.iload_n 1, 1) := dk_27 (dk_at dksX1_ranked_0 0 rfl rfl)
theorem dX1_ranked_1 : decode cX1_ranked 1 = .ok (.iconst 0, 1) := dk_3 (dk_at dksX1_ranked_0 1 rfl rfl)
theorem dX1_ranked_2 : decode cX1_ranked 2 = .ok (.iconst 1, 1) := dk_4 (dk_at dksX1_ranked_0 2 rfl rfl)
theorem dX1_ranked_3 : decode cX1_ranked 3 = .ok (.invokestatic 19, 3) := dk_184 0 19 (dk_at dksX1_ranked_0 3 rfl rfl)
theorem dX1_ranked_6 : decode cX1_ranked 6 = .ok (.invokestatic 82, 3) := dk_184 0 82 (dk_at dksX1_ranked_0 6 rfl rfl)
theorem dX1_ranked_9 : decode cX1_ranked 9 = .ok (.iload_n 2, 1) := dk_28 (dk_at dksX1_ranked_0 9 rfl rfl)
theorem dX1_ranked_10 : decode cX1_ranked 10 = .ok (.iconst 0, 1) := dk_3 (dk_at dksX1_ranked_0 10 rfl rfl)
theorem dX1_ranked_11 : decode cX1_ranked 11 = .ok (.aload_n 0, 1) := dk_42 (dk_at dksX1_ranked_0 11 rfl rfl)
theorem dX1_ranked_12 : decode cX1_ranked 12 = .ok (.getfield 46, 3) := dk_180 0 46 (dk_at dksX1_ranked_0 12 rfl rfl)
theorem dX1_ranked_15 : decode cX1_ranked 15 = .ok (.invokeinterface 13 1, 5) := by decide +kernel
theorem dX1_ranked_20 : decode cX1_ranked 20 = .ok (.iconst 1, 1) := dk_4 (dk_at dksX1_ranked_0 20 rfl rfl)
theorem dX1_ranked_21 : decode cX1_ranked 21 = .ok (.isub, 1) := dk_100 (dk_at dksX1_ranked_0 21 rfl rfl)
theorem dX1_ranked_22 : decode cX1_ranked 22 = .ok (.invokestatic 19, 3) := dk_184 0 19 (dk_at dksX1_ranked_1 0 rfl rfl)
theorem dX1_ranked_25 : decode cX1_ranked 25 = .ok (.ifCond .ne 11, 3) := dk_154 0 11 (dk_at dksX1_ranked_1 3 rfl rfl)
theorem dX1_ranked_28 : decode cX1_ranked 28 = .ok (.new 483, 3) := dk_187 1 227 (dk_at dksX1_ranked_1 6 rfl rfl)
theorem dX1_ranked_31 : decode cX1_ranked 31 = .ok (.dup, 1) := dk_89 (dk_at dksX1_ranked_1 9 rfl rfl)
theorem dX1_ranked_32 : decode cX1_ranked 32 = .ok (.invokespecial 485, 3) := dk_183 1 229 (dk_at dksX1_ranked_1 10 rfl rfl)
theorem dX1_ranked_35 : decode cX1_ranked 35 = .ok (.athrow, 1) := dk_191 (dk_at dksX1_ranked_1 13 rfl rfl)
theorem dX1_ranked_36 : decode cX1_ranked 36 = .ok (.new 36, 3) := dk_187 0 36 (dk_at dksX1_ranked_1 14 rfl rfl)
theorem dX1_ranked_39 : decode cX1_ranked 39 = .ok (.dup, 1) := dk_89 (dk_at dksX1_ranked_1 17 rfl rfl)
theorem dX1_ranked_40 : decode cX1_ranked 40 = .ok (.invokespecial 38, 3) := dk_183 0 38 (dk_at dksX1_ranked_1 18 rfl rfl)
theorem dX1_ranked_43 : decode cX1_ranked 43 = .ok (.astore_n 3, 1) := dk_78 (dk_at dksX1_ranked_1 21 rfl rfl)
theorem dX1_ranked_44 : decode cX1_ranked 44 = .ok (.aload_n 0, 1) := dk_42 (dk_at dksX1_ranked_1 22 rfl rfl)
theorem dX1_ranked_45 : decode cX1_ranked 45 = .ok (.getfield 46, 3) := dk_180 0 46 (dk_at dksX1_ranked_2 0 rfl rfl)
theorem dX1_ranked_48 : decode cX1_ranked 48 = .ok (.invokeinterface 158 1, 5) := by decide +kernel
theorem dX1_ranked_53 : decode cX1_ranked 53 = .ok (.astore 4, 2) := dk_58 4 (dk_at dksX1_ranked_2 8 rfl rfl)
theorem dX1_ranked_55 : decode cX1_ranked 55 = .ok (.aload 4, 2) := dk_25 4 (dk_at dksX1_ranked_2 10 rfl rfl)
theorem dX1_ranked_57 : decode cX1_ranked 57 = .ok (.invokeinterface 162 1, 5) := by decide +kernel
theorem dX1_ranked_62 : decode cX1_ranked 62 = .ok (.ifCond .eq 73, 3) := dk_153 0 73 (dk_at dksX1_ranked_2 17 rfl rfl)
theorem dX1_ranked_65 : decode cX1_ranked 65 = .ok (.aload 4, 2) := dk_25 4 (dk_at dksX1_ranked_2 20 rfl rfl)
theorem dX1_ranked_67 : decode cX1_ranked 67 = .ok (.invokeinterface 167 1, 5) := by decide +kernel
theorem dX1_ranked_72 : decode cX1_ranked 72 = .ok (.checkcast 171, 3) := dk_192 0 171 (dk_at dksX1_ranked_3 5 rfl rfl)
theorem dX1_ranked_75 : decode cX1_ranked 75 = .ok (.astore 5, 2) := dk_58 5 (dk_at dksX1_ranked_3 8 rfl rfl)
theorem dX1_ranked_77 : decode cX1_ranked 77 = .ok (.aload_n 3, 1) := dk_45 (dk_at dksX1_ranked_3 10 rfl rfl)
theorem dX1_ranked_78 : decode cX1_ranked 78 = .ok (.invokeinterface 13 1, 5) := by decide +kernel
theorem dX1_ranked_83 : decode cX1_ranked 83 = .ok (.istore 6, 2) := dk_54 6 (dk_at dksX1_ranked_3 16 rfl rfl)
theorem dX1_ranked_85 : decode cX1_ranked 85 = .ok (.iload 6, 2) := dk_21 6 (dk_at dksX1_ranked_3 18 rfl rfl)
theorem dX1_ranked_87 : decode cX1_ranked 87 = .ok (.ifCond .le 35, 3) := dk_158 0 35 (dk_at dksX1_ranked_3 20 rfl rfl)
theorem dX1_ranked_90 : decode cX1_ranked 90 = .ok (.aload_n 3, 1) := dk_45 (dk_at dksX1_ranked_3 23 rfl rfl)
theorem dX1_ranked_91 : decode cX1_ranked 91 = .ok (.iload 6, 2) := dk_21 6 (dk_at dksX1_ranked_4 0 rfl rfl)
theorem dX1_ranked_93 : decode cX1_ranked 93 = .ok (.iconst 1, 1) := dk_4 (dk_at dksX1_ranked_4 2 rfl rfl)
theorem dX1_ranked_94 : decode cX1_ranked 94 = .ok (.isub, 1) := dk_100 (dk_at dksX1_ranked_4 3 rfl rfl)
theorem dX1_ranked_95 : decode cX1_ranked 95 = .ok (.invokeinterface 29 2, 5) := by decide +kernel
theorem dX1_ranked_100 : decode cX1_ranked 100 = .ok (.checkcast 171, 3) := dk_192 0 171 (dk_at dksX1_ranked_4 9 rfl rfl)
theorem dX1_ranked_103 : decode cX1_ranked 103 = .ok (.iload_n 1, 1) := dk_27 (dk_at dksX1_ranked_4 12 rfl rfl)
theorem dX1_ranked_104 : decode cX1_ranked 104 = .ok (.invokevirtual 448, 3) := dk_182 1 192 (dk_at dksX1_ranked_4 13 rfl rfl)
theorem dX1_ranked_107 : decode cX1_ranked 107 = .ok (.aload 5, 2) := dk_25 5 (dk_at dksX1_ranked_4 16 rfl rfl)
theorem dX1_ranked_109 : decode cX1_ranked 109 = .ok (.iload_n 1, 1) := dk_27 (dk_at dksX1_ranked_4 18 rfl rfl)
theorem dX1_ranked_110 : decode cX1_ranked 110 = .ok (.invokevirtual 448, 3) := dk_182 1 192 (dk_at dksX1_ranked_4 19 rfl rfl)
theorem dX1_ranked_113 : decode cX1_ranked 113 = .ok (.if_icmp .ge 9, 3) := dk_162 0 9 (dk_at dksX1_ranked_5 0 rfl rfl)
theorem dX1_ranked_116 : decode cX1_ranked 116 = .ok (.iinc 6 (-1), 3) := dk_132 6 255 (dk_at dksX1_ranked_5 3 rfl rfl)
theorem dX1_ranked_119 : decode cX1_ranked 119 = .ok (.goto (-34), 3) := dk_167 255 222 (dk_at dksX1_ranked_5 6 rfl rfl)
theorem dX1_ranked_122 : decode cX1_ranked 122 = .ok (.aload_n 3, 1) := dk_45 (dk_at dksX1_ranked_5 9 rfl rfl)
theorem dX1_ranked_123 : decode cX1_ranked 123 = .ok (.iload 6, 2) := dk_21 6 (dk_at dksX1_ranked_5 10 rfl rfl)
theorem dX1_ranked_125 : decode cX1_ranked 125 = .ok (.aload 5, 2) := dk_25 5 (dk_at dksX1_ranked_5 12 rfl rfl)
theorem dX1_ranked_127 : decode cX1_ranked 127 = .ok (.invokeinterface 492 3, 5) := by decide +kernel
theorem dX1_ranked_132 : decode cX1_ranked 132 = .ok (.goto (-77), 3) := dk_167 255 179 (dk_at dksX1_ranked_5 19 rfl rfl)
theorem dX1_ranked_135 : decode cX1_ranked 135 = .ok (.aload_n 3, 1) := dk_45 (dk_at dksX1_ranked_5 22 rfl rfl)
theorem dX1_ranked_136 : decode cX1_ranked 136 = .ok (.iload_n 2, 1) := dk_28 (dk_at dksX1_ranked_5 23 rfl rfl)
theorem dX1_ranked_137 : decode cX1_ranked 137 = .ok (.invokeinterface 29 2, 5) := by decide +kernel
theorem dX1_ranked_142 : decode cX1_ranked 142 = .ok (.checkcast 171, 3) := dk_192 0 171 (dk_at dksX1_ranked_6 5 rfl rfl)
theorem dX1_ranked_145 : decode cX1_ranked 145 = .ok (.getfield 435, 3) := dk_180 1 179 (dk_at dksX1_ranked_6 8 rfl rfl)
theorem dX1_ranked_148 : decode cX1_ranked 148 = .ok (.ireturn, 1) := dk_172 (dk_at dksX1_ranked_6 11 rfl rfl)
theorem q111 : (Jvm.Cond.initialized "Scrutineery") ∈ lw_all := lw_g (lw_at lw_m1 1 rfl) rfl
theorem q154 : (Jvm.Cond.instantiable "Scrutineery" (11 : Nat)) ∈ lw_all := lw_g (lw_at lw_m1 44 rfl) rfl
theorem q156 : (Jvm.Cond.instanceMethod ({ cls := "Scrutineery", name := "<init>", desc := "()V" } : Jvm.MethodName)) ∈ lw_all := lw_g (lw_at lw_m1 46 rfl) rfl
theorem q157 : (Jvm.Cond.code ({ cls := "Scrutineery", name := "<init>", desc := "()V" } : Jvm.MethodName) prog_1_method_7_code (1 : Nat) (Option.none : Option Jvm.ClassFile.FieldType)) ∈ lw_all := lw_g (lw_at lw_m1 47 rfl) rfl
theorem q158 : (Jvm.Cond.methodLink "Scrutineery" (33 : Nat) ({ cls := "java/lang/Object", name := "<init>", desc := "()V" } : Jvm.MethodName)) ∈ lw_all := lw_g (lw_at lw_m1 48 rfl) rfl
theorem q161 : (Jvm.Cond.classLink "Scrutineery" (36 : Nat) "java/util/ArrayList") ∈ lw_all := lw_g (lw_at lw_m1 51 rfl) rfl
theorem q163 : (Jvm.Cond.methodLink "Scrutineery" (38 : Nat) ({ cls := "java/util/ArrayList", name := "<init>", desc := "()V" } : Jvm.MethodName)) ∈ lw_all := lw_g (lw_at lw_m1 53 rfl) rfl
theorem q190 : (Jvm.Cond.classLink "Scrutineery" (61 : Nat) "[[I") ∈ lw_all := lw_g (lw_at lw_m1 80 rfl) rfl
theorem q192 : (Jvm.Cond.methodLink "Scrutineery" (69 : Nat) ({ cls := "Scrutineery", name := "opens", desc := "()V" } : Jvm.MethodName)) ∈ lw_all := lw_g (lw_at lw_m1 82 rfl) rfl
theorem q193 : (Jvm.Cond.privateMethod ({ cls := "Scrutineery", name := "opens", desc := "()V" } : Jvm.MethodName)) ∈ lw_tbl := lw_at lw_m1 83 rfl
theorem q194 : (Jvm.Cond.instanceMethod ({ cls := "Scrutineery", name := "opens", desc := "()V" } : Jvm.MethodName)) ∈ lw_all := lw_g (lw_at lw_m1 84 rfl) rfl
theorem q195 : (Jvm.Cond.code ({ cls := "Scrutineery", name := "opens", desc := "()V" } : Jvm.MethodName) prog_1_method_8_code (3 : Nat) (Option.none : Option Jvm.ClassFile.FieldType)) ∈ lw_all := lw_g (lw_at lw_m1 85 rfl) rfl
theorem q196 : (Jvm.Cond.interfaceEntry "Scrutineery" (72 : Nat)) ∈ lw_tbl := lw_at lw_m1 86 rfl
theorem q197 : (Jvm.Cond.methodLink "Scrutineery" (72 : Nat) ({ cls := "java/util/List", name := "clear", desc := "()V" } : Jvm.MethodName)) ∈ lw_all := lw_g (lw_at lw_m1 87 rfl) rfl
theorem q206 : (Jvm.Cond.fieldLink "Scrutineery" (39 : Nat) "Scrutineery" "people" "Ljava/util/List;") ∈ lw_all := lw_g (lw_at lw_m1 96 rfl) rfl
theorem q207 : (Jvm.Cond.fieldLink "Scrutineery" (43 : Nat) "Scrutineery" "lessons" "Ljava/util/List;") ∈ lw_all := lw_g (lw_at lw_m1 97 rfl) rfl
theorem q208 : (Jvm.Cond.fieldLink "Scrutineery" (46 : Nat) "Scrutineery" "couples" "Ljava/util/List;") ∈ lw_all := lw_g (lw_at lw_m1 98 rfl) rfl
theorem q209 : (Jvm.Cond.fieldLink "Scrutineery" (49 : Nat) "Scrutineery" "events" "Ljava/util/List;") ∈ lw_all := lw_g (lw_at lw_m1 99 rfl) rfl
theorem q210 : (Jvm.Cond.fieldLink "Scrutineery" (52 : Nat) "Scrutineery" "formations" "Ljava/util/List;") ∈ lw_all := lw_g (lw_at lw_m1 100 rfl) rfl
theorem q211 : (Jvm.Cond.fieldLink "Scrutineery" (55 : Nat) "Scrutineery" "plans" "Ljava/util/List;") ∈ lw_all := lw_g (lw_at lw_m1 101 rfl) rfl
theorem q212 : (Jvm.Cond.fieldLink "Scrutineery" (58 : Nat) "Scrutineery" "causes" "Ljava/util/List;") ∈ lw_all := lw_g (lw_at lw_m1 102 rfl) rfl
theorem q213 : (Jvm.Cond.fieldLink "Scrutineery" (63 : Nat) "Scrutineery" "tempos" "[[I") ∈ lw_all := lw_g (lw_at lw_m1 103 rfl) rfl
theorem q214 : (Jvm.Cond.fieldLink "Scrutineery" (66 : Nat) "Scrutineery" "bars" "[[I") ∈ lw_all := lw_g (lw_at lw_m1 104 rfl) rfl
theorem q215 : (Jvm.Cond.fieldLink "Scrutineery" (75 : Nat) "Scrutineery" "today" "I") ∈ lw_all := lw_g (lw_at lw_m1 105 rfl) rfl
theorem q216 : (Jvm.Cond.fieldLink "Scrutineery" (79 : Nat) "Scrutineery" "money" "I") ∈ lw_all := lw_g (lw_at lw_m1 106 rfl) rfl
theorem q217 : (Jvm.Cond.laysFinal "Scrutineery" "Scrutineery" "people" "Ljava/util/List;") ∈ lw_all := lw_g (lw_at lw_m1 107 rfl) rfl
theorem q218 : (Jvm.Cond.soleField "Scrutineery" "people") ∈ lw_all := lw_g (lw_at lw_m1 108 rfl) rfl
theorem q219 : (Jvm.Cond.laysFinal "Scrutineery" "Scrutineery" "lessons" "Ljava/util/List;") ∈ lw_all := lw_g (lw_at lw_m1 109 rfl) rfl
theorem q220 : (Jvm.Cond.soleField "Scrutineery" "lessons") ∈ lw_all := lw_g (lw_at lw_m1 110 rfl) rfl
theorem q221 : (Jvm.Cond.laysFinal "Scrutineery" "Scrutineery" "couples" "Ljava/util/List;") ∈ lw_all := lw_g (lw_at lw_m1 111 rfl) rfl
theorem q222 : (Jvm.Cond.soleField "Scrutineery" "couples") ∈ lw_all := lw_g (lw_at lw_m1 112 rfl) rfl
theorem q223 : (Jvm.Cond.laysFinal "Scrutineery" "Scrutineery" "events" "Ljava/util/List;") ∈ lw_all := lw_g (lw_at lw_m1 113 rfl) rfl
theorem q224 : (Jvm.Cond.soleField "Scrutineery" "events") ∈ lw_all := lw_g (lw_at lw_m1 114 rfl) rfl
theorem q225 : (Jvm.Cond.laysFinal "Scrutineery" "Scrutineery" "formations" "Ljava/util/List;") ∈ lw_all := lw_g (lw_at lw_m1 115 rfl) rfl
theorem q226 : (Jvm.Cond.soleField "Scrutineery" "formations") ∈ lw_all := lw_g (lw_at lw_m1 116 rfl) rfl
theorem q227 : (Jvm.Cond.laysFinal "Scrutineery" "Scrutineery" "plans" "Ljava/util/List;") ∈ lw_all := lw_g (lw_at lw_m1 117 rfl) rfl
theorem q228 : (Jvm.Cond.soleField "Scrutineery" "plans") ∈ lw_all := lw_g (lw_at lw_m1 118 rfl) rfl
theorem q229 : (Jvm.Cond.laysFinal "Scrutineery" "Scrutineery" "causes" "Ljava/util/List;") ∈ lw_all := lw_g (lw_at lw_m1 119 rfl) rfl
theorem q230 : (Jvm.Cond.soleField "Scrutineery" "causes") ∈ lw_all := lw_g (lw_at lw_m1 120 rfl) rfl
theorem q231 : (Jvm.Cond.laysFinal "Scrutineery" "Scrutineery" "tempos" "[[I") ∈ lw_all := lw_g (lw_at lw_m1 121 rfl) rfl
theorem q232 : (Jvm.Cond.soleField "Scrutineery" "tempos") ∈ lw_all := lw_g (lw_at lw_m1 122 rfl) rfl
theorem q233 : (Jvm.Cond.laysFinal "Scrutineery" "Scrutineery" "bars" "[[I") ∈ lw_all := lw_g (lw_at lw_m1 123 rfl) rfl
theorem q234 : (Jvm.Cond.soleField "Scrutineery" "bars") ∈ lw_all := lw_g (lw_at lw_m1 124 rfl) rfl
theorem q235 : (Jvm.Cond.lays "Scrutineery" "Scrutineery" "today" "I") ∈ lw_all := lw_g (lw_at lw_m1 125 rfl) rfl
theorem q236 : (Jvm.Cond.soleField "Scrutineery" "today") ∈ lw_all := lw_g (lw_at lw_m1 126 rfl) rfl
theorem q237 : (Jvm.Cond.lays "Scrutineery" "Scrutineery" "money" "I") ∈ lw_all := lw_g (lw_at lw_m1 127 rfl) rfl
theorem q238 : (Jvm.Cond.soleField "Scrutineery" "money") ∈ lw_all := lw_g (lw_at lw_m1 128 rfl) rfl
theorem q239 : (Jvm.Cond.superclass "Scrutineery" "java/lang/Object") ∈ lw_all := lw_g (lw_at lw_m1 129 rfl) rfl
theorem q242 : (Jvm.Cond.instanceMethod ({ cls := "Scrutineery", name := "begin", desc := "()I" } : Jvm.MethodName)) ∈ lw_all := lw_g (lw_at lw_m1 132 rfl) rfl
theorem q243 : (Jvm.Cond.selects "Scrutineery" ({ cls := "Scrutineery", name := "begin", desc := "()I" } : Jvm.MethodName) ({ cls := "Scrutineery", name := "begin", desc := "()I" } : Jvm.MethodName)) ∈ lw_all := lw_g (lw_at lw_m1 133 rfl) rfl
theorem q244 : (Jvm.Cond.code ({ cls := "Scrutineery", name := "begin", desc := "()I" } : Jvm.MethodName) prog_1_method_9_code (2 : Nat) (Option.some Jvm.ClassFile.FieldType.int)) ∈ lw_all := lw_g (lw_at lw_m1 134 rfl) rfl
theorem q245 : (Jvm.Cond.interfaceEntry "Scrutineery" (13 : Nat)) ∈ lw_tbl := lw_at lw_m1 135 rfl
theorem q246 : (Jvm.Cond.methodLink "Scrutineery" (13 : Nat) ({ cls := "java/util/List", name := "size", desc := "()I" } : Jvm.MethodName)) ∈ lw_all := lw_g (lw_at lw_m1 136 rfl) rfl
theorem q255 : (Jvm.Cond.instanceMethod ({ cls := "Scrutineery", name := "cause", desc := "(I)I" } : Jvm.MethodName)) ∈ lw_all := lw_g (lw_at lw_m1 145 rfl) rfl
theorem q256 : (Jvm.Cond.selects "Scrutineery" ({ cls := "Scrutineery", name := "cause", desc := "(I)I" } : Jvm.MethodName) ({ cls := "Scrutineery", name := "cause", desc := "(I)I" } : Jvm.MethodName)) ∈ lw_all := lw_g (lw_at lw_m1 146 rfl) rfl
theorem q257 : (Jvm.Cond.code ({ cls := "Scrutineery", name := "cause", desc := "(I)I" } : Jvm.MethodName) prog_1_method_64_code (2 : Nat) (Option.some Jvm.ClassFile.FieldType.int)) ∈ lw_all := lw_g (lw_at lw_m1 147 rfl) rfl
theorem q258 : (Jvm.Cond.methodLink "Scrutineery" (19 : Nat) ({ cls := "Scrutineery", name := "isBetween", desc := "(III)Z" } : Jvm.MethodName)) ∈ lw_all := lw_g (lw_at lw_m1 148 rfl) rfl
theorem q259 : (Jvm.Cond.static ({ cls := "Scrutineery", name := "isBetween", desc := "(III)Z" } : Jvm.MethodName)) ∈ lw_all := lw_g (lw_at lw_m1 149 rfl) rfl
theorem q260 : (Jvm.Cond.code ({ cls := "Scrutineery", name := "isBetween", desc := "(III)Z" } : Jvm.MethodName) prog_1_method_1_code (3 : Nat) (Option.some Jvm.ClassFile.FieldType.boolean)) ∈ lw_all := lw_g (lw_at lw_m1 150 rfl) rfl
theorem q261 : (Jvm.Cond.interfaceEntry "Scrutineery" (29 : Nat)) ∈ lw_tbl := lw_at lw_m1 151 rfl
theorem q262 : (Jvm.Cond.methodLink "Scrutineery" (29 : Nat) ({ cls := "java/util/List", name := "get", desc := "(I)Ljava/lang/Object;" } : Jvm.MethodName)) ∈ lw_all := lw_g (lw_at lw_m1 152 rfl) rfl
theorem q280 : (Jvm.Cond.classLink "Scrutineery" (252 : Nat) "java/lang/Integer") ∈ lw_all := lw_g (lw_at lw_m1 170 rfl) rfl
theorem q281 : (Jvm.Cond.methodLink "Scrutineery" (388 : Nat) ({ cls := "java/lang/Integer", name := "intValue", desc := "()I" } : Jvm.MethodName)) ∈ lw_all := lw_g (lw_at lw_m1 171 rfl) rfl
theorem q286 : (Jvm.Cond.instanceMethod ({ cls := "Scrutineery", name := "errors", desc := "()I" } : Jvm.MethodName)) ∈ lw_all := lw_g (lw_at lw_m1 176 rfl) rfl
theorem q287 : (Jvm.Cond.selects "Scrutineery" ({ cls := "Scrutineery", name := "errors", desc := "()I" } : Jvm.MethodName) ({ cls := "Scrutineery", name := "errors", desc := "()I" } : Jvm.MethodName)) ∈ lw_all := lw_g (lw_at lw_m1 177 rfl) rfl
theorem q288 : (Jvm.Cond.code ({ cls := "Scrutineery", name := "errors", desc := "()I" } : Jvm.MethodName) prog_1_method_67_code (9 : Nat) (Option.some Jvm.ClassFile.FieldType.int)) ∈ lw_all := lw_g (lw_at lw_m1 178 rfl) rfl
theorem q289 : (Jvm.Cond.interfaceEntry "Scrutineery" (158 : Nat)) ∈ lw_tbl := lw_at lw_m1 179 rfl
theorem q290 : (Jvm.Cond.methodLink "Scrutineery" (158 : Nat) ({ cls := "java/util/List", name := "iterator", desc := "()Ljava/util/Iterator;" } : Jvm.MethodName)) ∈ lw_all := lw_g (lw_at lw_m1 180 rfl) rfl
theorem q317 : (Jvm.Cond.interfaceEntry "Scrutineery" (162 : Nat)) ∈ lw_tbl := lw_at lw_m1 207 rfl
theorem q318 : (Jvm.Cond.methodLink "Scrutineery" (162 : Nat) ({ cls := "java/util/Iterator", name := "hasNext", desc := "()Z" } : Jvm.MethodName)) ∈ lw_all := lw_g (lw_at lw_m1 208 rfl) rfl
theorem q342 : (Jvm.Cond.interfaceEntry "Scrutineery" (167 : Nat)) ∈ lw_tbl := lw_at lw_m1 232 rfl
theorem q343 : (Jvm.Cond.methodLink "Scrutineery" (167 : Nat) ({ cls := "java/util/Iterator", name := "next", desc := "()Ljava/lang/Object;" } : Jvm.MethodName)) ∈ lw_all := lw_g (lw_at lw_m1 233 rfl) rfl
theorem q467 : (Jvm.Cond.selects "Scrutineery" ({ cls := "java/lang/Object", name := "equals", desc := "(Ljava/lang/Object;)Z" } : Jvm.MethodName) ({ cls := "java/lang/Object", name := "equals", desc := "(Ljava/lang/Object;)Z" } : Jvm.MethodName)) ∈ lw_all := lw_g (lw_at lw_m2 117 rfl) rfl
theorem q524 : (Jvm.Cond.classLink "Scrutineery" (184 : Nat) "Scrutineery$Event") ∈ lw_all := lw_g (lw_at lw_m2 174 rfl) rfl
theorem q525 : (Jvm.Cond.classLink "Scrutineery" (265 : Nat) "Scrutineery$Entry") ∈ lw_all := lw_g (lw_at lw_m2 175 rfl) rfl
theorem q526 : (Jvm.Cond.methodLink "Scrutineery" (451 : Nat) ({ cls := "Scrutineery$Event", name := "valid", desc := "()I" } : Jvm.MethodName)) ∈ lw_all := lw_g (lw_at lw_m2 176 rfl) rfl
theorem q537 : (Jvm.Cond.methodLink "Scrutineery" (523 : Nat) ({ cls := "Scrutineery", name := "errorsIn", desc := "(LScrutineery$Event;I)I" } : Jvm.MethodName)) ∈ lw_all := lw_g (lw_at lw_m2 187 rfl) rfl
theorem q538 : (Jvm.Cond.static ({ cls := "Scrutineery", name := "errorsIn", desc := "(LScrutineery$Event;I)I" } : Jvm.MethodName)) ∈ lw_all := lw_g (lw_at lw_m2 188 rfl) rfl
theorem q539 : (Jvm.Cond.code ({ cls := "Scrutineery", name := "errorsIn", desc := "(LScrutineery$Event;I)I" } : Jvm.MethodName) prog_1_method_66_code (8 : Nat) (Option.some Jvm.ClassFile.FieldType.int)) ∈ lw_all := lw_g (lw_at lw_m2 189 rfl) rfl
theorem q540 : (Jvm.Cond.methodLink "Scrutineery" (519 : Nat) ({ cls := "Scrutineery$Event", name := "allocated", desc := "(I)[I" } : Jvm.MethodName)) ∈ lw_all := lw_g (lw_at lw_m2 190 rfl) rfl
theorem q618 : (Jvm.Cond.selects "Scrutineery" ({ cls := "java/lang/Object", name := "getClass", desc := "()Ljava/lang/Class;" } : Jvm.MethodName) ({ cls := "java/lang/Object", name := "getClass", desc := "()Ljava/lang/Class;" } : Jvm.MethodName)) ∈ lw_all := lw_g (lw_at lw_m3 28 rfl) rfl
theorem q725 : (Jvm.Cond.methodLink "Scrutineery" (495 : Nat) ({ cls := "java/lang/Integer", name := "compare", desc := "(II)I" } : Jvm.MethodName)) ∈ lw_all := lw_g (lw_at lw_m3 135 rfl) rfl
theorem q730 : (Jvm.Cond.instanceMethod ({ cls := "Scrutineery", name := "meanAge", desc := "()D" } : Jvm.MethodName)) ∈ lw_all := lw_g (lw_at lw_m3 140 rfl) rfl
theorem q731 : (Jvm.Cond.selects "Scrutineery" ({ cls := "Scrutineery", name := "meanAge", desc := "()D" } : Jvm.MethodName) ({ cls := "Scrutineery", name := "meanAge", desc := "()D" } : Jvm.MethodName)) ∈ lw_all := lw_g (lw_at lw_m3 141 rfl) rfl
theorem q732 : (Jvm.Cond.code ({ cls := "Scrutineery", name := "meanAge", desc := "()D" } : Jvm.MethodName) prog_1_method_68_code (4 : Nat) (Option.some Jvm.ClassFile.FieldType.double)) ∈ lw_all := lw_g (lw_at lw_m3 142 rfl) rfl
theorem q733 : (Jvm.Cond.classLink "Scrutineery" (88 : Nat) "Scrutineery$Person") ∈ lw_all := lw_g (lw_at lw_m3 143 rfl) rfl
theorem q734 : (Jvm.Cond.interfaceEntry "Scrutineery" (192 : Nat)) ∈ lw_tbl := lw_at lw_m3 144 rfl
theorem q735 : (Jvm.Cond.methodLink "Scrutineery" (192 : Nat) ({ cls := "java/util/List", name := "isEmpty", desc := "()Z" } : Jvm.MethodName)) ∈ lw_all := lw_g (lw_at lw_m3 145 rfl) rfl
theorem q737 : (Jvm.Cond.instanceMethod ({ cls := "Scrutineery", name := "decidedShare", desc := "()F" } : Jvm.MethodName)) ∈ lw_all := lw_g (lw_at lw_m3 147 rfl) rfl
theorem q738 : (Jvm.Cond.selects "Scrutineery" ({ cls := "Scrutineery", name := "decidedShare", desc := "()F" } : Jvm.MethodName) ({ cls := "Scrutineery", name := "decidedShare", desc := "()F" } : Jvm.MethodName)) ∈ lw_all := lw_g (lw_at lw_m3 148 rfl) rfl
theorem q739 : (Jvm.Cond.code ({ cls := "Scrutineery", name := "decidedShare", desc := "()F" } : Jvm.MethodName) prog_1_method_69_code (1 : Nat) (Option.some Jvm.ClassFile.FieldType.float)) ∈ lw_all := lw_g (lw_at lw_m3 149 rfl) rfl
theorem q740 : (Jvm.Cond.methodLink "Scrutineery" (527 : Nat) ({ cls := "Scrutineery", name := "count", desc := "(I)I" } : Jvm.MethodName)) ∈ lw_all := lw_g (lw_at lw_m3 150 rfl) rfl
theorem q741 : (Jvm.Cond.instanceMethod ({ cls := "Scrutineery", name := "count", desc := "(I)I" } : Jvm.MethodName)) ∈ lw_all := lw_g (lw_at lw_m3 151 rfl) rfl
theorem q742 : (Jvm.Cond.selects "Scrutineery" ({ cls := "Scrutineery", name := "count", desc := "(I)I" } : Jvm.MethodName) ({ cls := "Scrutineery", name := "count", desc := "(I)I" } : Jvm.MethodName)) ∈ lw_all := lw_g (lw_at lw_m3 152 rfl) rfl
theorem q743 : (Jvm.Cond.code ({ cls := "Scrutineery", name := "count", desc := "(I)I" } : Jvm.MethodName) prog_1_method_65_code (7 : Nat) (Option.some Jvm.ClassFile.FieldType.int)) ∈ lw_all := lw_g (lw_at lw_m3 153 rfl) rfl
theorem q744 : (Jvm.Cond.methodLink "Scrutineery" (82 : Nat) ({ cls := "Scrutineery", name := "requireArgument", desc := "(Z)V" } : Jvm.MethodName)) ∈ lw_all := lw_g (lw_at lw_m3 154 rfl) rfl
theorem q745 : (Jvm.Cond.static ({ cls := "Scrutineery", name := "requireArgument", desc := "(Z)V" } : Jvm.MethodName)) ∈ lw_all := lw_g (lw_at lw_m3 155 rfl) rfl
theorem q746 : (Jvm.Cond.code ({ cls := "Scrutineery", name := "requireArgument", desc := "(Z)V" } : Jvm.MethodName) prog_1_method_3_code (1 : Nat) (Option.none : Option Jvm.ClassFile.FieldType)) ∈ lw_all := lw_g (lw_at lw_m3 156 rfl) rfl
theorem q747 : (Jvm.Cond.classLink "Scrutineery" (7 : Nat) "java/lang/IllegalArgumentException") ∈ lw_all := lw_g (lw_at lw_m3 157 rfl) rfl
theorem q756 : (Jvm.Cond.methodLink "Scrutineery" (9 : Nat) ({ cls := "java/lang/IllegalArgumentException", name := "<init>", desc := "()V" } : Jvm.MethodName)) ∈ lw_all := lw_g (lw_at lw_m3 166 rfl) rfl
theorem q762 : (Jvm.Cond.classLink "Scrutineery" (171 : Nat) "Scrutineery$Couple") ∈ lw_all := lw_g (lw_at lw_m3 172 rfl) rfl
theorem q769 : (Jvm.Cond.instanceMethod ({ cls := "Scrutineery", name := "pass", desc := "(I)I" } : Jvm.MethodName)) ∈ lw_all := lw_g (lw_at lw_m3 179 rfl) rfl
theorem q770 : (Jvm.Cond.selects "Scrutineery" ({ cls := "Scrutineery", name := "pass", desc := "(I)I" } : Jvm.MethodName) ({ cls := "Scrutineery", name := "pass", desc := "(I)I" } : Jvm.MethodName)) ∈ lw_all := lw_g (lw_at lw_m3 180 rfl) rfl
theorem q771 : (Jvm.Cond.code ({ cls := "Scrutineery", name := "pass", desc := "(I)I" } : Jvm.MethodName) prog_1_method_10_code (2 : Nat) (Option.some Jvm.ClassFile.FieldType.int)) ∈ lw_all := lw_g (lw_at lw_m3 181 rfl) rfl
theorem q772 : (Jvm.Cond.methodLink "Scrutineery" (85 : Nat) ({ cls := "Scrutineery", name := "requireState", desc := "(Z)V" } : Jvm.MethodName)) ∈ lw_all := lw_g (lw_at lw_m3 182 rfl) rfl
theorem q773 : (Jvm.Cond.static ({ cls := "Scrutineery", name := "requireState", desc := "(Z)V" } : Jvm.MethodName)) ∈ lw_all := lw_g (lw_at lw_m3 183 rfl) rfl
theorem q774 : (Jvm.Cond.code ({ cls := "Scrutineery", name := "requireState", desc := "(Z)V" } : Jvm.MethodName) prog_1_method_4_code (1 : Nat) (Option.none : Option Jvm.ClassFile.FieldType)) ∈ lw_all := lw_g (lw_at lw_m3 184 rfl) rfl
theorem q775 : (Jvm.Cond.classLink "Scrutineery" (10 : Nat) "java/lang/IllegalStateException") ∈ lw_all := lw_g (lw_at lw_m3 185 rfl) rfl
theorem q784 : (Jvm.Cond.methodLink "Scrutineery" (12 : Nat) ({ cls := "java/lang/IllegalStateException", name := "<init>", desc := "()V" } : Jvm.MethodName)) ∈ lw_all := lw_g (lw_at lw_m3 194 rfl) rfl
theorem q794 : (Jvm.Cond.instanceMethod ({ cls := "Scrutineery", name := "person", desc := "(I)I" } : Jvm.MethodName)) ∈ lw_all := lw_g (lw_at lw_m3 204 rfl) rfl
theorem q795 : (Jvm.Cond.selects "Scrutineery" ({ cls := "Scrutineery", name := "person", desc := "(I)I" } : Jvm.MethodName) ({ cls := "Scrutineery", name := "person", desc := "(I)I" } : Jvm.MethodName)) ∈ lw_all := lw_g (lw_at lw_m3 205 rfl) rfl
theorem q796 : (Jvm.Cond.code ({ cls := "Scrutineery", name := "person", desc := "(I)I" } : Jvm.MethodName) prog_1_method_11_code (3 : Nat) (Option.some Jvm.ClassFile.FieldType.int)) ∈ lw_all := lw_g (lw_at lw_m3 206 rfl) rfl
theorem q798 : (Jvm.Cond.methodLink "Scrutineery" (90 : Nat) ({ cls := "Scrutineery$Person", name := "<init>", desc := "(II)V" } : Jvm.MethodName)) ∈ lw_all := lw_g (lw_at lw_m3 208 rfl) rfl
theorem q805 : (Jvm.Cond.fieldLinkNest "Scrutineery" (413 : Nat) "Scrutineery$Person" "number" "I" "Scrutineery") ∈ lw_tbl := lw_at lw_m3 215 rfl
theorem q808 : (Jvm.Cond.fieldLinkNest "Scrutineery" (436 : Nat) "Scrutineery$Person" "age" "I" "Scrutineery") ∈ lw_tbl := lw_at lw_m3 218 rfl
theorem q811 : (Jvm.Cond.fieldLinkNest "Scrutineery" (438 : Nat) "Scrutineery$Person" "points" "[I" "Scrutineery") ∈ lw_tbl := lw_at lw_m3 221 rfl
theorem q813 : (Jvm.Cond.fieldLinkNest "Scrutineery" (104 : Nat) "Scrutineery$Person" "kin" "Ljava/util/List;" "Scrutineery") ∈ lw_tbl := lw_at lw_m3 223 rfl
theorem q815 : (Jvm.Cond.fieldLinkNest "Scrutineery" (115 : Nat) "Scrutineery$Person" "taught" "Ljava/util/List;" "Scrutineery") ∈ lw_tbl := lw_at lw_m3 225 rfl
theorem q816 : (Jvm.Cond.fieldLinkNest "Scrutineery" (101 : Nat) "Scrutineery$Person" "licence" "I" "Scrutineery") ∈ lw_tbl := lw_at lw_m3 226 rfl
theorem q819 : (Jvm.Cond.fieldLinkNest "Scrutineery" (138 : Nat) "Scrutineery$Person" "suspended" "I" "Scrutineery") ∈ lw_tbl := lw_at lw_m3 229 rfl
theorem q820 : (Jvm.Cond.fieldLinkNest "Scrutineery" (145 : Nat) "Scrutineery$Person" "warnings" "I" "Scrutineery") ∈ lw_tbl := lw_at lw_m3 230 rfl
theorem q821 : (Jvm.Cond.fieldLinkNest "Scrutineery" (155 : Nat) "Scrutineery$Person" "medals" "I" "Scrutineery") ∈ lw_tbl := lw_at lw_m3 231 rfl
theorem q841 : (Jvm.Cond.interfaceEntry "Scrutineery" (93 : Nat)) ∈ lw_tbl := lw_at lw_m4 11 rfl
theorem q842 : (Jvm.Cond.methodLink "Scrutineery" (93 : Nat) ({ cls := "java/util/List", name := "add", desc := "(Ljava/lang/Object;)Z" } : Jvm.MethodName)) ∈ lw_all := lw_g (lw_at lw_m4 12 rfl) rfl
theorem q880 : (Jvm.Cond.instanceMethod ({ cls := "Scrutineery", name := "licence", desc := "(II)I" } : Jvm.MethodName)) ∈ lw_all := lw_g (lw_at lw_m4 50 rfl) rfl
theorem q881 : (Jvm.Cond.selects "Scrutineery" ({ cls := "Scrutineery", name := "licence", desc := "(II)I" } : Jvm.MethodName) ({ cls := "Scrutineery", name := "licence", desc := "(II)I" } : Jvm.MethodName)) ∈ lw_all := lw_g (lw_at lw_m4 51 rfl) rfl
theorem q882 : (Jvm.Cond.code ({ cls := "Scrutineery", name := "licence", desc := "(II)I" } : Jvm.MethodName) prog_1_method_12_code (5 : Nat) (Option.some Jvm.ClassFile.FieldType.int)) ∈ lw_all := lw_g (lw_at lw_m4 52 rfl) rfl
theorem q883 : (Jvm.Cond.methodLink "Scrutineery" (97 : Nat) ({ cls := "Scrutineery", name := "at", desc := "(Ljava/util/List;I)Ljava/lang/Object;" } : Jvm.MethodName)) ∈ lw_all := lw_g (lw_at lw_m4 53 rfl) rfl
theorem q884 : (Jvm.Cond.static ({ cls := "Scrutineery", name := "at", desc := "(Ljava/util/List;I)Ljava/lang/Object;" } : Jvm.MethodName)) ∈ lw_all := lw_g (lw_at lw_m4 54 rfl) rfl
theorem q885 : (Jvm.Cond.code ({ cls := "Scrutineery", name := "at", desc := "(Ljava/util/List;I)Ljava/lang/Object;" } : Jvm.MethodName) prog_1_method_5_code (2 : Nat) (Option.some (Jvm.ClassFile.FieldType.object "java/lang/Object"))) ∈ lw_all := lw_g (lw_at lw_m4 55 rfl) rfl
theorem q886 : (Jvm.Cond.methodLink "Scrutineery" (25 : Nat) ({ cls := "Scrutineery", name := "requireIndex", desc := "(Z)V" } : Jvm.MethodName)) ∈ lw_all := lw_g (lw_at lw_m4 56 rfl) rfl
theorem q887 : (Jvm.Cond.static ({ cls := "Scrutineery", name := "requireIndex", desc := "(Z)V" } : Jvm.MethodName)) ∈ lw_all := lw_g (lw_at lw_m4 57 rfl) rfl
theorem q888 : (Jvm.Cond.code ({ cls := "Scrutineery", name := "requireIndex", desc := "(Z)V" } : Jvm.MethodName) prog_1_method_2_code (1 : Nat) (Option.none : Option Jvm.ClassFile.FieldType)) ∈ lw_all := lw_g (lw_at lw_m4 58 rfl) rfl
theorem q889 : (Jvm.Cond.classLink "Scrutineery" (1 : Nat) "java/lang/IndexOutOfBoundsException") ∈ lw_all := lw_g (lw_at lw_m4 59 rfl) rfl
theorem q898 : (Jvm.Cond.methodLink "Scrutineery" (3 : Nat) ({ cls := "java/lang/IndexOutOfBoundsException", name := "<init>", desc := "()V" } : Jvm.MethodName)) ∈ lw_all := lw_g (lw_at lw_m4 68 rfl) rfl
theorem q908 : (Jvm.Cond.instanceMethod ({ cls := "Scrutineery", name := "kin", desc := "(II)Z" } : Jvm.MethodName)) ∈ lw_all := lw_g (lw_at lw_m4 78 rfl) rfl
theorem q909 : (Jvm.Cond.selects "Scrutineery" ({ cls := "Scrutineery", name := "kin", desc := "(II)Z" } : Jvm.MethodName) ({ cls := "Scrutineery", name := "kin", desc := "(II)Z" } : Jvm.MethodName)) ∈ lw_all := lw_g (lw_at lw_m4 79 rfl) rfl
theorem q910 : (Jvm.Cond.code ({ cls := "Scrutineery", name := "kin", desc := "(II)Z" } : Jvm.MethodName) prog_1_method_13_code (7 : Nat) (Option.some Jvm.ClassFile.FieldType.boolean)) ∈ lw_all := lw_g (lw_at lw_m4 80 rfl) rfl
theorem q911 : (Jvm.Cond.interfaceEntry "Scrutineery" (107 : Nat)) ∈ lw_tbl := lw_at lw_m4 81 rfl
theorem q912 : (Jvm.Cond.methodLink "Scrutineery" (107 : Nat) ({ cls := "java/util/List", name := "contains", desc := "(Ljava/lang/Object;)Z" } : Jvm.MethodName)) ∈ lw_all := lw_g (lw_at lw_m4 82 rfl) rfl
theorem q917 : (Jvm.Cond.instanceMethod ({ cls := "Scrutineery", name := "lesson", desc := "(II)Z" } : Jvm.MethodName)) ∈ lw_all := lw_g (lw_at lw_m4 87 rfl) rfl
theorem q918 : (Jvm.Cond.selects "Scrutineery" ({ cls := "Scrutineery", name := "lesson", desc := "(II)Z" } : Jvm.MethodName) ({ cls := "Scrutineery", name := "lesson", desc := "(II)Z" } : Jvm.MethodName)) ∈ lw_all := lw_g (lw_at lw_m4 88 rfl) rfl
theorem q919 : (Jvm.Cond.code ({ cls := "Scrutineery", name := "lesson", desc := "(II)Z" } : Jvm.MethodName) prog_1_method_14_code (6 : Nat) (Option.some Jvm.ClassFile.FieldType.boolean)) ∈ lw_all := lw_g (lw_at lw_m4 89 rfl) rfl
theorem q920 : (Jvm.Cond.classLink "Scrutineery" (110 : Nat) "Scrutineery$Lesson") ∈ lw_all := lw_g (lw_at lw_m4 90 rfl) rfl
theorem q922 : (Jvm.Cond.methodLinkNest "Scrutineery" (112 : Nat) ({ cls := "Scrutineery$Lesson", name := "<init>", desc := "(LScrutineery$Person;LScrutineery$Person;I)V" } : Jvm.MethodName) "Scrutineery") ∈ lw_tbl := lw_at lw_m4 92 rfl
theorem q939 : (Jvm.Cond.methodLink "Scrutineery" (118 : Nat) ({ cls := "Scrutineery$Person", name := "isProfessional", desc := "()Z" } : Jvm.MethodName)) ∈ lw_all := lw_g (lw_at lw_m4 109 rfl) rfl
theorem q949 : (Jvm.Cond.instanceMethod ({ cls := "Scrutineery", name := "suspend", desc := "(II)I" } : Jvm.MethodName)) ∈ lw_all := lw_g (lw_at lw_m4 119 rfl) rfl
theorem q950 : (Jvm.Cond.selects "Scrutineery" ({ cls := "Scrutineery", name := "suspend", desc := "(II)I" } : Jvm.MethodName) ({ cls := "Scrutineery", name := "suspend", desc := "(II)I" } : Jvm.MethodName)) ∈ lw_all := lw_g (lw_at lw_m4 120 rfl) rfl
theorem q951 : (Jvm.Cond.code ({ cls := "Scrutineery", name := "suspend", desc := "(II)I" } : Jvm.MethodName) prog_1_method_16_code (4 : Nat) (Option.some Jvm.ClassFile.FieldType.int)) ∈ lw_all := lw_g (lw_at lw_m4 121 rfl) rfl
theorem q952 : (Jvm.Cond.methodLink "Scrutineery" (132 : Nat) ({ cls := "java/lang/Math", name := "min", desc := "(II)I" } : Jvm.MethodName)) ∈ lw_all := lw_g (lw_at lw_m4 122 rfl) rfl
theorem q957 : (Jvm.Cond.instanceMethod ({ cls := "Scrutineery", name := "dress", desc := "(II)I" } : Jvm.MethodName)) ∈ lw_all := lw_g (lw_at lw_m4 127 rfl) rfl
theorem q958 : (Jvm.Cond.selects "Scrutineery" ({ cls := "Scrutineery", name := "dress", desc := "(II)I" } : Jvm.MethodName) ({ cls := "Scrutineery", name := "dress", desc := "(II)I" } : Jvm.MethodName)) ∈ lw_all := lw_g (lw_at lw_m4 128 rfl) rfl
theorem q959 : (Jvm.Cond.code ({ cls := "Scrutineery", name := "dress", desc := "(II)I" } : Jvm.MethodName) prog_1_method_17_code (4 : Nat) (Option.some Jvm.ClassFile.FieldType.int)) ∈ lw_all := lw_g (lw_at lw_m4 129 rfl) rfl
theorem q960 : (Jvm.Cond.methodLink "Scrutineery" (141 : Nat) ({ cls := "Scrutineery$Person", name := "mayWear", desc := "(I)Z" } : Jvm.MethodName)) ∈ lw_all := lw_g (lw_at lw_m4 130 rfl) rfl
theorem q964 : (Jvm.Cond.methodLink "Scrutineery" (148 : Nat) ({ cls := "java/lang/Math", name := "max", desc := "(II)I" } : Jvm.MethodName)) ∈ lw_all := lw_g (lw_at lw_m4 134 rfl) rfl
theorem q969 : (Jvm.Cond.instanceMethod ({ cls := "Scrutineery", name := "test", desc := "(III)I" } : Jvm.MethodName)) ∈ lw_all := lw_g (lw_at lw_m4 139 rfl) rfl
theorem q970 : (Jvm.Cond.selects "Scrutineery" ({ cls := "Scrutineery", name := "test", desc := "(III)I" } : Jvm.MethodName) ({ cls := "Scrutineery", name := "test", desc := "(III)I" } : Jvm.MethodName)) ∈ lw_all := lw_g (lw_at lw_m4 140 rfl) rfl
theorem q971 : (Jvm.Cond.code ({ cls := "Scrutineery", name := "test", desc := "(III)I" } : Jvm.MethodName) prog_1_method_18_code (6 : Nat) (Option.some Jvm.ClassFile.FieldType.int)) ∈ lw_all := lw_g (lw_at lw_m4 141 rfl) rfl
theorem q972 : (Jvm.Cond.methodLink "Scrutineery" (151 : Nat) ({ cls := "Scrutineery", name := "isPupil", desc := "(LScrutineery$Person;LScrutineery$Person;)Z" } : Jvm.MethodName)) ∈ lw_all := lw_g (lw_at lw_m4 142 rfl) rfl
theorem q973 : (Jvm.Cond.privateMethod ({ cls := "Scrutineery", name := "isPupil", desc := "(LScrutineery$Person;LScrutineery$Person;)Z" } : Jvm.MethodName)) ∈ lw_tbl := lw_at lw_m4 143 rfl
theorem q974 : (Jvm.Cond.instanceMethod ({ cls := "Scrutineery", name := "isPupil", desc := "(LScrutineery$Person;LScrutineery$Person;)Z" } : Jvm.MethodName)) ∈ lw_all := lw_g (lw_at lw_m4 144 rfl) rfl
theorem q975 : (Jvm.Cond.code ({ cls := "Scrutineery", name := "isPupil", desc := "(LScrutineery$Person;LScrutineery$Person;)Z" } : Jvm.MethodName) prog_1_method_15_code (5 : Nat) (Option.some Jvm.ClassFile.FieldType.boolean)) ∈ lw_all := lw_g (lw_at lw_m4 145 rfl) rfl
theorem q976 : (Jvm.Cond.methodLink "Scrutineery" (122 : Nat) ({ cls := "Scrutineery$Lesson", name := "teacher", desc := "()LScrutineery$Person;" } : Jvm.MethodName)) ∈ lw_all := lw_g (lw_at lw_m4 146 rfl) rfl
theorem q980 : (Jvm.Cond.methodLink "Scrutineery" (126 : Nat) ({ cls := "Scrutineery$Lesson", name := "pupil", desc := "()LScrutineery$Person;" } : Jvm.MethodName)) ∈ lw_all := lw_g (lw_at lw_m4 150 rfl) rfl
theorem q984 : (Jvm.Cond.methodLink "Scrutineery" (129 : Nat) ({ cls := "Scrutineery$Lesson", name := "day", desc := "()I" } : Jvm.MethodName)) ∈ lw_all := lw_g (lw_at lw_m4 154 rfl) rfl
theorem q992 : (Jvm.Cond.instanceMethod ({ cls := "Scrutineery", name := "couple", desc := "(II)I" } : Jvm.MethodName)) ∈ lw_all := lw_g (lw_at lw_m4 162 rfl) rfl
theorem q993 : (Jvm.Cond.selects "Scrutineery" ({ cls := "Scrutineery", name := "couple", desc := "(II)I" } : Jvm.MethodName) ({ cls := "Scrutineery", name := "couple", desc := "(II)I" } : Jvm.MethodName)) ∈ lw_all := lw_g (lw_at lw_m4 163 rfl) rfl
theorem q994 : (Jvm.Cond.code ({ cls := "Scrutineery", name := "couple", desc := "(II)I" } : Jvm.MethodName) prog_1_method_19_code (7 : Nat) (Option.some Jvm.ClassFile.FieldType.int)) ∈ lw_all := lw_g (lw_at lw_m4 164 rfl) rfl
theorem q995 : (Jvm.Cond.methodLink "Scrutineery" (177 : Nat) ({ cls := "Scrutineery$Couple", name := "has", desc := "(LScrutineery$Person;)Z" } : Jvm.MethodName)) ∈ lw_all := lw_g (lw_at lw_m4 165 rfl) rfl
theorem q1000 : (Jvm.Cond.methodLink "Scrutineery" (181 : Nat) ({ cls := "Scrutineery$Couple", name := "<init>", desc := "(ILScrutineery$Person;LScrutineery$Person;)V" } : Jvm.MethodName)) ∈ lw_all := lw_g (lw_at lw_m4 170 rfl) rfl
theorem q1009 : (Jvm.Cond.fieldLinkNest "Scrutineery" (435 : Nat) "Scrutineery$Couple" "number" "I" "Scrutineery") ∈ lw_tbl := lw_at lw_m4 179 rfl
theorem q1011 : (Jvm.Cond.fieldLinkNest "Scrutineery" (237 : Nat) "Scrutineery$Couple" "one" "LScrutineery$Person;" "Scrutineery") ∈ lw_tbl := lw_at lw_m4 181 rfl
theorem q1014 : (Jvm.Cond.fieldLinkNest "Scrutineery" (244 : Nat) "Scrutineery$Couple" "other" "LScrutineery$Person;" "Scrutineery") ∈ lw_tbl := lw_at lw_m4 184 rfl
theorem q1019 : (Jvm.Cond.fieldLinkNest "Scrutineery" (173 : Nat) "Scrutineery$Couple" "stands" "Z" "Scrutineery") ∈ lw_tbl := lw_at lw_m4 189 rfl
theorem q1035 : (Jvm.Cond.instanceMethod ({ cls := "Scrutineery", name := "part", desc := "(I)Z" } : Jvm.MethodName)) ∈ lw_all := lw_g (lw_at lw_m4 205 rfl) rfl
theorem q1036 : (Jvm.Cond.selects "Scrutineery" ({ cls := "Scrutineery", name := "part", desc := "(I)Z" } : Jvm.MethodName) ({ cls := "Scrutineery", name := "part", desc := "(I)Z" } : Jvm.MethodName)) ∈ lw_all := lw_g (lw_at lw_m4 206 rfl) rfl
theorem q1037 : (Jvm.Cond.code ({ cls := "Scrutineery", name := "part", desc := "(I)Z" } : Jvm.MethodName) prog_1_method_20_code (4 : Nat) (Option.some Jvm.ClassFile.FieldType.boolean)) ∈ lw_all := lw_g (lw_at lw_m4 207 rfl) rfl
theorem q1042 : (Jvm.Cond.instanceMethod ({ cls := "Scrutineery", name := "event", desc := "(IIIIIZ)I" } : Jvm.MethodName)) ∈ lw_all := lw_g (lw_at lw_m4 212 rfl) rfl
theorem q1043 : (Jvm.Cond.selects "Scrutineery" ({ cls := "Scrutineery", name := "event", desc := "(IIIIIZ)I" } : Jvm.MethodName) ({ cls := "Scrutineery", name := "event", desc := "(IIIIIZ)I" } : Jvm.MethodName)) ∈ lw_all := lw_g (lw_at lw_m4 213 rfl) rfl
theorem q1044 : (Jvm.Cond.code ({ cls := "Scrutineery", name := "event", desc := "(IIIIIZ)I" } : Jvm.MethodName) prog_1_method_21_code (8 : Nat) (Option.some Jvm.ClassFile.FieldType.int)) ∈ lw_all := lw_g (lw_at lw_m4 214 rfl) rfl
theorem q1046 : (Jvm.Cond.methodLink "Scrutineery" (186 : Nat) ({ cls := "Scrutineery$Event", name := "<init>", desc := "(IIIIIIZ)V" } : Jvm.MethodName)) ∈ lw_all := lw_g (lw_at lw_m4 216 rfl) rfl
theorem q1062 : (Jvm.Cond.fieldLinkNest "Scrutineery" (454 : Nat) "Scrutineery$Round" "number" "I" "Scrutineery") ∈ lw_tbl := lw_at lw_m4 232 rfl
theorem q1068 : (Jvm.Cond.fieldLinkNest "Scrutineery" (274 : Nat) "Scrutineery$Round" "entries" "Ljava/util/List;" "Scrutineery") ∈ lw_tbl := lw_at lw_m4 238 rfl
theorem q1073 : (Jvm.Cond.fieldLinkNest "Scrutineery" (367 : Nat) "Scrutineery$Round" "marks" "[[LScrutineery$Marks;" "Scrutineery") ∈ lw_tbl := lw_at lw_m5 3 rfl
theorem q1086 : (Jvm.Cond.fieldLinkNest "Scrutineery" (518 : Nat) "Scrutineery$Event" "number" "I" "Scrutineery") ∈ lw_tbl := lw_at lw_m5 16 rfl
theorem q1088 : (Jvm.Cond.fieldLinkNest "Scrutineery" (228 : Nat) "Scrutineery$Event" "style" "I" "Scrutineery") ∈ lw_tbl := lw_at lw_m5 18 rfl
theorem q1090 : (Jvm.Cond.fieldLinkNest "Scrutineery" (323 : Nat) "Scrutineery$Event" "dances" "I" "Scrutineery") ∈ lw_tbl := lw_at lw_m5 20 rfl
theorem q1092 : (Jvm.Cond.fieldLinkNest "Scrutineery" (222 : Nat) "Scrutineery$Event" "from" "I" "Scrutineery") ∈ lw_tbl := lw_at lw_m5 22 rfl
theorem q1094 : (Jvm.Cond.fieldLinkNest "Scrutineery" (225 : Nat) "Scrutineery$Event" "to" "I" "Scrutineery") ∈ lw_tbl := lw_at lw_m5 24 rfl
theorem q1096 : (Jvm.Cond.fieldLinkNest "Scrutineery" (235 : Nat) "Scrutineery$Event" "grade" "I" "Scrutineery") ∈ lw_tbl := lw_at lw_m5 26 rfl
theorem q1098 : (Jvm.Cond.fieldLinkNest "Scrutineery" (217 : Nat) "Scrutineery$Event" "isProfessional" "Z" "Scrutineery") ∈ lw_tbl := lw_at lw_m5 28 rfl
theorem q1100 : (Jvm.Cond.fieldLinkNest "Scrutineery" (189 : Nat) "Scrutineery$Event" "entries" "Ljava/util/List;" "Scrutineery") ∈ lw_tbl := lw_at lw_m5 30 rfl
theorem q1102 : (Jvm.Cond.fieldLinkNest "Scrutineery" (207 : Nat) "Scrutineery$Event" "panels" "Ljava/util/List;" "Scrutineery") ∈ lw_tbl := lw_at lw_m5 32 rfl
theorem q1104 : (Jvm.Cond.fieldLinkNest "Scrutineery" (293 : Nat) "Scrutineery$Event" "apart" "Ljava/util/List;" "Scrutineery") ∈ lw_tbl := lw_at lw_m5 34 rfl
theorem q1106 : (Jvm.Cond.fieldLinkNest "Scrutineery" (198 : Nat) "Scrutineery$Event" "floor" "I" "Scrutineery") ∈ lw_tbl := lw_at lw_m5 36 rfl
theorem q1108 : (Jvm.Cond.fieldLinkNest "Scrutineery" (201 : Nat) "Scrutineery$Event" "finalists" "I" "Scrutineery") ∈ lw_tbl := lw_at lw_m5 38 rfl
theorem q1109 : (Jvm.Cond.fieldLinkNest "Scrutineery" (204 : Nat) "Scrutineery$Event" "fee" "I" "Scrutineery") ∈ lw_tbl := lw_at lw_m5 39 rfl
theorem q1111 : (Jvm.Cond.fieldLinkNest "Scrutineery" (195 : Nat) "Scrutineery$Event" "strength" "I" "Scrutineery") ∈ lw_tbl := lw_at lw_m5 41 rfl
theorem q1112 : (Jvm.Cond.fieldLinkNest "Scrutineery" (364 : Nat) "Scrutineery$Event" "changes" "I" "Scrutineery") ∈ lw_tbl := lw_at lw_m5 42 rfl
theorem q1114 : (Jvm.Cond.fieldLinkNest "Scrutineery" (371 : Nat) "Scrutineery$Event" "hasBegun" "Z" "Scrutineery") ∈ lw_tbl := lw_at lw_m5 44 rfl
theorem q1116 : (Jvm.Cond.fieldLinkNest "Scrutineery" (480 : Nat) "Scrutineery$Event" "isDecided" "Z" "Scrutineery") ∈ lw_tbl := lw_at lw_m5 46 rfl
theorem q1119 : (Jvm.Cond.fieldLinkNest "Scrutineery" (270 : Nat) "Scrutineery$Event" "round" "LScrutineery$Round;" "Scrutineery") ∈ lw_tbl := lw_at lw_m5 49 rfl
theorem q1163 : (Jvm.Cond.instanceMethod ({ cls := "Scrutineery", name := "rules", desc := "(IIIII)I" } : Jvm.MethodName)) ∈ lw_all := lw_g (lw_at lw_m5 93 rfl) rfl
theorem q1164 : (Jvm.Cond.selects "Scrutineery" ({ cls := "Scrutineery", name := "rules", desc := "(IIIII)I" } : Jvm.MethodName) ({ cls := "Scrutineery", name := "rules", desc := "(IIIII)I" } : Jvm.MethodName)) ∈ lw_all := lw_g (lw_at lw_m5 94 rfl) rfl
theorem q1165 : (Jvm.Cond.code ({ cls := "Scrutineery", name := "rules", desc := "(IIIII)I" } : Jvm.MethodName) prog_1_method_22_code (8 : Nat) (Option.some Jvm.ClassFile.FieldType.int)) ∈ lw_all := lw_g (lw_at lw_m5 95 rfl) rfl
theorem q1170 : (Jvm.Cond.instanceMethod ({ cls := "Scrutineery", name := "enter", desc := "(II)I" } : Jvm.MethodName)) ∈ lw_all := lw_g (lw_at lw_m5 100 rfl) rfl
theorem q1171 : (Jvm.Cond.selects "Scrutineery" ({ cls := "Scrutineery", name := "enter", desc := "(II)I" } : Jvm.MethodName) ({ cls := "Scrutineery", name := "enter", desc := "(II)I" } : Jvm.MethodName)) ∈ lw_all := lw_g (lw_at lw_m5 101 rfl) rfl
theorem q1172 : (Jvm.Cond.code ({ cls := "Scrutineery", name := "enter", desc := "(II)I" } : Jvm.MethodName) prog_1_method_26_code (8 : Nat) (Option.some Jvm.ClassFile.FieldType.int)) ∈ lw_all := lw_g (lw_at lw_m5 102 rfl) rfl
theorem q1173 : (Jvm.Cond.methodLink "Scrutineery" (257 : Nat) ({ cls := "Scrutineery", name := "against", desc := "(LScrutineery$Event;LScrutineery$Couple;)I" } : Jvm.MethodName)) ∈ lw_all := lw_g (lw_at lw_m5 103 rfl) rfl
theorem q1174 : (Jvm.Cond.privateMethod ({ cls := "Scrutineery", name := "against", desc := "(LScrutineery$Event;LScrutineery$Couple;)I" } : Jvm.MethodName)) ∈ lw_tbl := lw_at lw_m5 104 rfl
theorem q1175 : (Jvm.Cond.instanceMethod ({ cls := "Scrutineery", name := "against", desc := "(LScrutineery$Event;LScrutineery$Couple;)I" } : Jvm.MethodName)) ∈ lw_all := lw_g (lw_at lw_m5 105 rfl) rfl
theorem q1176 : (Jvm.Cond.code ({ cls := "Scrutineery", name := "against", desc := "(LScrutineery$Event;LScrutineery$Couple;)I" } : Jvm.MethodName) prog_1_method_24_code (3 : Nat) (Option.some Jvm.ClassFile.FieldType.int)) ∈ lw_all := lw_g (lw_at lw_m5 106 rfl) rfl
theorem q1177 : (Jvm.Cond.methodLink "Scrutineery" (210 : Nat) ({ cls := "Scrutineery$Event", name := "state", desc := "()I" } : Jvm.MethodName)) ∈ lw_all := lw_g (lw_at lw_m5 107 rfl) rfl
theorem q1189 : (Jvm.Cond.methodLink "Scrutineery" (213 : Nat) ({ cls := "Scrutineery$Couple", name := "isSuspended", desc := "(I)Z" } : Jvm.MethodName)) ∈ lw_all := lw_g (lw_at lw_m5 119 rfl) rfl
theorem q1193 : (Jvm.Cond.methodLink "Scrutineery" (216 : Nat) ({ cls := "Scrutineery$Couple", name := "isProfessional", desc := "()Z" } : Jvm.MethodName)) ∈ lw_all := lw_g (lw_at lw_m5 123 rfl) rfl
theorem q1198 : (Jvm.Cond.methodLink "Scrutineery" (219 : Nat) ({ cls := "Scrutineery$Couple", name := "age", desc := "()I" } : Jvm.MethodName)) ∈ lw_all := lw_g (lw_at lw_m5 128 rfl) rfl
theorem q1203 : (Jvm.Cond.methodLink "Scrutineery" (231 : Nat) ({ cls := "Scrutineery$Couple", name := "grade", desc := "(I)I" } : Jvm.MethodName)) ∈ lw_all := lw_g (lw_at lw_m5 133 rfl) rfl
theorem q1211 : (Jvm.Cond.methodLink "Scrutineery" (241 : Nat) ({ cls := "Scrutineery$Event", name := "hasIn", desc := "(LScrutineery$Person;)Z" } : Jvm.MethodName)) ∈ lw_all := lw_g (lw_at lw_m5 141 rfl) rfl
theorem q1216 : (Jvm.Cond.methodLink "Scrutineery" (247 : Nat) ({ cls := "Scrutineery", name := "isOfPanel", desc := "(LScrutineery$Event;LScrutineery$Person;)Z" } : Jvm.MethodName)) ∈ lw_all := lw_g (lw_at lw_m5 146 rfl) rfl
theorem q1217 : (Jvm.Cond.privateMethod ({ cls := "Scrutineery", name := "isOfPanel", desc := "(LScrutineery$Event;LScrutineery$Person;)Z" } : Jvm.MethodName)) ∈ lw_tbl := lw_at lw_m5 147 rfl
theorem q1218 : (Jvm.Cond.instanceMethod ({ cls := "Scrutineery", name := "isOfPanel", desc := "(LScrutineery$Event;LScrutineery$Person;)Z" } : Jvm.MethodName)) ∈ lw_all := lw_g (lw_at lw_m5 148 rfl) rfl
theorem q1219 : (Jvm.Cond.code ({ cls := "Scrutineery", name := "isOfPanel", desc := "(LScrutineery$Event;LScrutineery$Person;)Z" } : Jvm.MethodName) prog_1_method_23_code (3 : Nat) (Option.some Jvm.ClassFile.FieldType.boolean)) ∈ lw_all := lw_g (lw_at lw_m5 149 rfl) rfl
theorem q1220 : (Jvm.Cond.classLink "Scrutineery" (14 : Nat) "java/util/List") ∈ lw_all := lw_g (lw_at lw_m5 150 rfl) rfl
theorem q1221 : (Jvm.Cond.methodLink "Scrutineery" (261 : Nat) ({ cls := "Scrutineery", name := "refuses", desc := "([I)V" } : Jvm.MethodName)) ∈ lw_all := lw_g (lw_at lw_m5 151 rfl) rfl
theorem q1222 : (Jvm.Cond.privateMethod ({ cls := "Scrutineery", name := "refuses", desc := "([I)V" } : Jvm.MethodName)) ∈ lw_tbl := lw_at lw_m5 152 rfl
theorem q1223 : (Jvm.Cond.instanceMethod ({ cls := "Scrutineery", name := "refuses", desc := "([I)V" } : Jvm.MethodName)) ∈ lw_all := lw_g (lw_at lw_m5 153 rfl) rfl
theorem q1224 : (Jvm.Cond.code ({ cls := "Scrutineery", name := "refuses", desc := "([I)V" } : Jvm.MethodName) prog_1_method_25_code (7 : Nat) (Option.none : Option Jvm.ClassFile.FieldType)) ∈ lw_all := lw_g (lw_at lw_m5 154 rfl) rfl
theorem q1225 : (Jvm.Cond.methodLink "Scrutineery" (251 : Nat) ({ cls := "java/lang/Integer", name := "valueOf", desc := "(I)Ljava/lang/Integer;" } : Jvm.MethodName)) ∈ lw_all := lw_g (lw_at lw_m5 155 rfl) rfl
theorem q1245 : (Jvm.Cond.methodLink "Scrutineery" (267 : Nat) ({ cls := "Scrutineery$Entry", name := "<init>", desc := "(ILScrutineery$Couple;)V" } : Jvm.MethodName)) ∈ lw_all := lw_g (lw_at lw_m5 175 rfl) rfl
theorem q1250 : (Jvm.Cond.fieldLinkNest "Scrutineery" (277 : Nat) "Scrutineery$Entry" "number" "I" "Scrutineery") ∈ lw_tbl := lw_at lw_m5 180 rfl
theorem q1253 : (Jvm.Cond.fieldLinkNest "Scrutineery" (305 : Nat) "Scrutineery$Entry" "couple" "LScrutineery$Couple;" "Scrutineery") ∈ lw_tbl := lw_at lw_m5 183 rfl
theorem q1255 : (Jvm.Cond.fieldLinkNest "Scrutineery" (377 : Nat) "Scrutineery$Entry" "values" "[I" "Scrutineery") ∈ lw_tbl := lw_at lw_m5 185 rfl
theorem q1258 : (Jvm.Cond.fieldLinkNest "Scrutineery" (489 : Nat) "Scrutineery$Entry" "doubled" "[I" "Scrutineery") ∈ lw_tbl := lw_at lw_m5 188 rfl
theorem q1261 : (Jvm.Cond.fieldLinkNest "Scrutineery" (486 : Nat) "Scrutineery$Entry" "rules" "[I" "Scrutineery") ∈ lw_tbl := lw_at lw_m5 191 rfl
theorem q1263 : (Jvm.Cond.fieldLinkNest "Scrutineery" (284 : Nat) "Scrutineery$Entry" "isScratched" "Z" "Scrutineery") ∈ lw_tbl := lw_at lw_m5 193 rfl
theorem q1265 : (Jvm.Cond.fieldLinkNest "Scrutineery" (287 : Nat) "Scrutineery$Entry" "lastRound" "I" "Scrutineery") ∈ lw_tbl := lw_at lw_m5 195 rfl
theorem q1267 : (Jvm.Cond.fieldLinkNest "Scrutineery" (463 : Nat) "Scrutineery$Entry" "result" "I" "Scrutineery") ∈ lw_tbl := lw_at lw_m5 197 rfl
theorem q1269 : (Jvm.Cond.fieldLinkNest "Scrutineery" (466 : Nat) "Scrutineery$Entry" "total" "I" "Scrutineery") ∈ lw_tbl := lw_at lw_m5 199 rfl
theorem q1271 : (Jvm.Cond.fieldLinkNest "Scrutineery" (469 : Nat) "Scrutineery$Entry" "rule" "I" "Scrutineery") ∈ lw_tbl := lw_at lw_m5 201 rfl
theorem q1297 : (Jvm.Cond.instanceMethod ({ cls := "Scrutineery", name := "scratch", desc := "(II)I" } : Jvm.MethodName)) ∈ lw_all := lw_g (lw_at lw_m5 227 rfl) rfl
theorem q1298 : (Jvm.Cond.selects "Scrutineery" ({ cls := "Scrutineery", name := "scratch", desc := "(II)I" } : Jvm.MethodName) ({ cls := "Scrutineery", name := "scratch", desc := "(II)I" } : Jvm.MethodName)) ∈ lw_all := lw_g (lw_at lw_m5 228 rfl) rfl
theorem q1299 : (Jvm.Cond.code ({ cls := "Scrutineery", name := "scratch", desc := "(II)I" } : Jvm.MethodName) prog_1_method_28_code (6 : Nat) (Option.some Jvm.ClassFile.FieldType.int)) ∈ lw_all := lw_g (lw_at lw_m5 229 rfl) rfl
theorem q1300 : (Jvm.Cond.methodLink "Scrutineery" (280 : Nat) ({ cls := "Scrutineery", name := "entryOf", desc := "(LScrutineery$Event;I)LScrutineery$Entry;" } : Jvm.MethodName)) ∈ lw_all := lw_g (lw_at lw_m5 230 rfl) rfl
theorem q1301 : (Jvm.Cond.static ({ cls := "Scrutineery", name := "entryOf", desc := "(LScrutineery$Event;I)LScrutineery$Entry;" } : Jvm.MethodName)) ∈ lw_all := lw_g (lw_at lw_m5 231 rfl) rfl
theorem q1302 : (Jvm.Cond.code ({ cls := "Scrutineery", name := "entryOf", desc := "(LScrutineery$Event;I)LScrutineery$Entry;" } : Jvm.MethodName) prog_1_method_27_code (2 : Nat) (Option.some (Jvm.ClassFile.FieldType.object "Scrutineery$Entry"))) ∈ lw_all := lw_g (lw_at lw_m5 232 rfl) rfl
theorem q1303 : (Jvm.Cond.interfaceEntry "Scrutineery" (290 : Nat)) ∈ lw_tbl := lw_at lw_m5 233 rfl
theorem q1304 : (Jvm.Cond.methodLink "Scrutineery" (290 : Nat) ({ cls := "java/util/List", name := "remove", desc := "(Ljava/lang/Object;)Z" } : Jvm.MethodName)) ∈ lw_all := lw_g (lw_at lw_m5 234 rfl) rfl
theorem q1309 : (Jvm.Cond.instanceMethod ({ cls := "Scrutineery", name := "apart", desc := "(III)I" } : Jvm.MethodName)) ∈ lw_all := lw_g (lw_at lw_m5 239 rfl) rfl
theorem q1310 : (Jvm.Cond.selects "Scrutineery" ({ cls := "Scrutineery", name := "apart", desc := "(III)I" } : Jvm.MethodName) ({ cls := "Scrutineery", name := "apart", desc := "(III)I" } : Jvm.MethodName)) ∈ lw_all := lw_g (lw_at lw_m6 0 rfl) rfl
theorem q1311 : (Jvm.Cond.code ({ cls := "Scrutineery", name := "apart", desc := "(III)I" } : Jvm.MethodName) prog_1_method_29_code (8 : Nat) (Option.some Jvm.ClassFile.FieldType.int)) ∈ lw_all := lw_g (lw_at lw_m6 1 rfl) rfl
theorem q1312 : (Jvm.Cond.classLink "Scrutineery" (296 : Nat) "Scrutineery$Apart") ∈ lw_all := lw_g (lw_at lw_m6 2 rfl) rfl
theorem q1314 : (Jvm.Cond.methodLinkNest "Scrutineery" (298 : Nat) ({ cls := "Scrutineery$Apart", name := "<init>", desc := "(LScrutineery$Entry;LScrutineery$Entry;)V" } : Jvm.MethodName) "Scrutineery") ∈ lw_tbl := lw_at lw_m6 4 rfl
theorem q1325 : (Jvm.Cond.methodLink "Scrutineery" (301 : Nat) ({ cls := "Scrutineery$Event", name := "heats", desc := "()Ljava/util/List;" } : Jvm.MethodName)) ∈ lw_all := lw_g (lw_at lw_m6 15 rfl) rfl
theorem q1330 : (Jvm.Cond.static ({ cls := "Scrutineery", name := "up", desc := "(II)I" } : Jvm.MethodName)) ∈ lw_all := lw_g (lw_at lw_m6 20 rfl) rfl
theorem q1331 : (Jvm.Cond.code ({ cls := "Scrutineery", name := "up", desc := "(II)I" } : Jvm.MethodName) prog_1_method_6_code (2 : Nat) (Option.some Jvm.ClassFile.FieldType.int)) ∈ lw_all := lw_g (lw_at lw_m6 21 rfl) rfl
theorem q1345 : (Jvm.Cond.instanceMethod ({ cls := "Scrutineery", name := "draw", desc := "(IIII)I" } : Jvm.MethodName)) ∈ lw_all := lw_g (lw_at lw_m6 35 rfl) rfl
theorem q1346 : (Jvm.Cond.selects "Scrutineery" ({ cls := "Scrutineery", name := "draw", desc := "(IIII)I" } : Jvm.MethodName) ({ cls := "Scrutineery", name := "draw", desc := "(IIII)I" } : Jvm.MethodName)) ∈ lw_all := lw_g (lw_at lw_m6 36 rfl) rfl
theorem q1347 : (Jvm.Cond.code ({ cls := "Scrutineery", name := "draw", desc := "(IIII)I" } : Jvm.MethodName) prog_1_method_31_code (13 : Nat) (Option.some Jvm.ClassFile.FieldType.int)) ∈ lw_all := lw_g (lw_at lw_m6 37 rfl) rfl
theorem q1348 : (Jvm.Cond.methodLink "Scrutineery" (309 : Nat) ({ cls := "Scrutineery", name := "isCandidate", desc := "(LScrutineery$Person;LScrutineery$Event;)Z" } : Jvm.MethodName)) ∈ lw_all := lw_g (lw_at lw_m6 38 rfl) rfl
theorem q1349 : (Jvm.Cond.privateMethod ({ cls := "Scrutineery", name := "isCandidate", desc := "(LScrutineery$Person;LScrutineery$Event;)Z" } : Jvm.MethodName)) ∈ lw_tbl := lw_at lw_m6 39 rfl
theorem q1350 : (Jvm.Cond.instanceMethod ({ cls := "Scrutineery", name := "isCandidate", desc := "(LScrutineery$Person;LScrutineery$Event;)Z" } : Jvm.MethodName)) ∈ lw_all := lw_g (lw_at lw_m6 40 rfl) rfl
theorem q1351 : (Jvm.Cond.code ({ cls := "Scrutineery", name := "isCandidate", desc := "(LScrutineery$Person;LScrutineery$Event;)Z" } : Jvm.MethodName) prog_1_method_30_code (7 : Nat) (Option.some Jvm.ClassFile.FieldType.boolean)) ∈ lw_all := lw_g (lw_at lw_m6 41 rfl) rfl
theorem q1352 : (Jvm.Cond.constantLong "Scrutineery" (313 : Nat) (1103515245 : Int64)) ∈ lw_all := lw_g (lw_at lw_m6 42 rfl) rfl
theorem q1353 : (Jvm.Cond.constantLong "Scrutineery" (315 : Nat) (12345 : Int64)) ∈ lw_all := lw_g (lw_at lw_m6 43 rfl) rfl
theorem q1354 : (Jvm.Cond.constantLong "Scrutineery" (317 : Nat) (2147483648 : Int64)) ∈ lw_all := lw_g (lw_at lw_m6 44 rfl) rfl
theorem q1355 : (Jvm.Cond.constantLong "Scrutineery" (319 : Nat) (65536 : Int64)) ∈ lw_all := lw_g (lw_at lw_m6 45 rfl) rfl
theorem q1356 : (Jvm.Cond.interfaceEntry "Scrutineery" (321 : Nat)) ∈ lw_tbl := lw_at lw_m6 46 rfl
theorem q1357 : (Jvm.Cond.methodLink "Scrutineery" (321 : Nat) ({ cls := "java/util/List", name := "remove", desc := "(I)Ljava/lang/Object;" } : Jvm.MethodName)) ∈ lw_all := lw_g (lw_at lw_m6 47 rfl) rfl
theorem q1369 : (Jvm.Cond.instanceMethod ({ cls := "Scrutineery", name := "mark", desc := "(IIII)I" } : Jvm.MethodName)) ∈ lw_all := lw_g (lw_at lw_m6 59 rfl) rfl
theorem q1370 : (Jvm.Cond.selects "Scrutineery" ({ cls := "Scrutineery", name := "mark", desc := "(IIII)I" } : Jvm.MethodName) ({ cls := "Scrutineery", name := "mark", desc := "(IIII)I" } : Jvm.MethodName)) ∈ lw_all := lw_g (lw_at lw_m6 60 rfl) rfl
theorem q1371 : (Jvm.Cond.code ({ cls := "Scrutineery", name := "mark", desc := "(IIII)I" } : Jvm.MethodName) prog_1_method_34_code (7 : Nat) (Option.some Jvm.ClassFile.FieldType.int)) ∈ lw_all := lw_g (lw_at lw_m6 61 rfl) rfl
theorem q1372 : (Jvm.Cond.methodLink "Scrutineery" (353 : Nat) ({ cls := "Scrutineery", name := "requireJudge", desc := "(LScrutineery$Event;II)V" } : Jvm.MethodName)) ∈ lw_all := lw_g (lw_at lw_m6 62 rfl) rfl
theorem q1373 : (Jvm.Cond.static ({ cls := "Scrutineery", name := "requireJudge", desc := "(LScrutineery$Event;II)V" } : Jvm.MethodName)) ∈ lw_all := lw_g (lw_at lw_m6 63 rfl) rfl
theorem q1374 : (Jvm.Cond.code ({ cls := "Scrutineery", name := "requireJudge", desc := "(LScrutineery$Event;II)V" } : Jvm.MethodName) prog_1_method_32_code (3 : Nat) (Option.none : Option Jvm.ClassFile.FieldType)) ∈ lw_all := lw_g (lw_at lw_m6 64 rfl) rfl
theorem q1375 : (Jvm.Cond.methodLink "Scrutineery" (326 : Nat) ({ cls := "Scrutineery$Event", name := "panel", desc := "(I)Ljava/util/List;" } : Jvm.MethodName)) ∈ lw_all := lw_g (lw_at lw_m6 65 rfl) rfl
theorem q1376 : (Jvm.Cond.methodLink "Scrutineery" (357 : Nat) ({ cls := "Scrutineery", name := "read", desc := "(LScrutineery$Event;I)LScrutineery$Marks;" } : Jvm.MethodName)) ∈ lw_all := lw_g (lw_at lw_m6 66 rfl) rfl
theorem q1377 : (Jvm.Cond.static ({ cls := "Scrutineery", name := "read", desc := "(LScrutineery$Event;I)LScrutineery$Marks;" } : Jvm.MethodName)) ∈ lw_all := lw_g (lw_at lw_m6 67 rfl) rfl
theorem q1378 : (Jvm.Cond.code ({ cls := "Scrutineery", name := "read", desc := "(LScrutineery$Event;I)LScrutineery$Marks;" } : Jvm.MethodName) prog_1_method_33_code (6 : Nat) (Option.some (Jvm.ClassFile.FieldType.object "Scrutineery$Marks"))) ∈ lw_all := lw_g (lw_at lw_m6 68 rfl) rfl
theorem q1379 : (Jvm.Cond.methodLink "Scrutineery" (330 : Nat) ({ cls := "Scrutineery$Event", name := "isFinal", desc := "()Z" } : Jvm.MethodName)) ∈ lw_all := lw_g (lw_at lw_m6 69 rfl) rfl
theorem q1380 : (Jvm.Cond.classLink "Scrutineery" (333 : Nat) "Scrutineery$Places") ∈ lw_all := lw_g (lw_at lw_m6 70 rfl) rfl
theorem q1382 : (Jvm.Cond.methodLinkNest "Scrutineery" (335 : Nat) ({ cls := "Scrutineery$Places", name := "<init>", desc := "(II)V" } : Jvm.MethodName) "Scrutineery") ∈ lw_tbl := lw_at lw_m6 72 rfl
theorem q1393 : (Jvm.Cond.methodLink "Scrutineery" (336 : Nat) ({ cls := "Scrutineery$Places", name := "areAll", desc := "()Z" } : Jvm.MethodName)) ∈ lw_all := lw_g (lw_at lw_m6 83 rfl) rfl
theorem q1399 : (Jvm.Cond.methodLink "Scrutineery" (339 : Nat) ({ cls := "Scrutineery$Entry", name := "bit", desc := "()I" } : Jvm.MethodName)) ∈ lw_all := lw_g (lw_at lw_m6 89 rfl) rfl
theorem q1400 : (Jvm.Cond.methodLink "Scrutineery" (342 : Nat) ({ cls := "java/lang/Integer", name := "bitCount", desc := "(I)I" } : Jvm.MethodName)) ∈ lw_all := lw_g (lw_at lw_m6 90 rfl) rfl
theorem q1406 : (Jvm.Cond.methodLink "Scrutineery" (345 : Nat) ({ cls := "Scrutineery$Event", name := "wanted", desc := "()I" } : Jvm.MethodName)) ∈ lw_all := lw_g (lw_at lw_m6 96 rfl) rfl
theorem q1410 : (Jvm.Cond.classLink "Scrutineery" (348 : Nat) "Scrutineery$Crosses") ∈ lw_all := lw_g (lw_at lw_m6 100 rfl) rfl
theorem q1412 : (Jvm.Cond.methodLinkNest "Scrutineery" (350 : Nat) ({ cls := "Scrutineery$Crosses", name := "<init>", desc := "(I)V" } : Jvm.MethodName) "Scrutineery") ∈ lw_tbl := lw_at lw_m6 102 rfl
theorem q1420 : (Jvm.Cond.methodLink "Scrutineery" (361 : Nat) ({ cls := "Scrutineery$Event", name := "isOver", desc := "()Z" } : Jvm.MethodName)) ∈ lw_all := lw_g (lw_at lw_m6 110 rfl) rfl
theorem q1424 : (Jvm.Cond.methodLink "Scrutineery" (374 : Nat) ({ cls := "Scrutineery$Event", name := "missing", desc := "()I" } : Jvm.MethodName)) ∈ lw_all := lw_g (lw_at lw_m6 114 rfl) rfl
theorem q1432 : (Jvm.Cond.instanceMethod ({ cls := "Scrutineery", name := "value", desc := "(IIIIII)I" } : Jvm.MethodName)) ∈ lw_all := lw_g (lw_at lw_m6 122 rfl) rfl
theorem q1433 : (Jvm.Cond.selects "Scrutineery" ({ cls := "Scrutineery", name := "value", desc := "(IIIIII)I" } : Jvm.MethodName) ({ cls := "Scrutineery", name := "value", desc := "(IIIIII)I" } : Jvm.MethodName)) ∈ lw_all := lw_g (lw_at lw_m6 123 rfl) rfl
theorem q1434 : (Jvm.Cond.code ({ cls := "Scrutineery", name := "value", desc := "(IIIIII)I" } : Jvm.MethodName) prog_1_method_35_code (10 : Nat) (Option.some Jvm.ClassFile.FieldType.int)) ∈ lw_all := lw_g (lw_at lw_m6 124 rfl) rfl
theorem q1435 : (Jvm.Cond.methodLinkNest "Scrutineery" (381 : Nat) ({ cls := "Scrutineery$Entry", name := "at", desc := "(III)I" } : Jvm.MethodName) "Scrutineery") ∈ lw_tbl := lw_at lw_m6 125 rfl
theorem q1438 : (Jvm.Cond.methodLink "Scrutineery" (384 : Nat) ({ cls := "Scrutineery$Entry", name := "given", desc := "(II)Ljava/util/List;" } : Jvm.MethodName)) ∈ lw_all := lw_g (lw_at lw_m6 128 rfl) rfl
theorem q1706 : (Jvm.Cond.instanceMethod ({ cls := "Scrutineery", name := "close", desc := "(I)I" } : Jvm.MethodName)) ∈ lw_all := lw_g (lw_at lw_m7 156 rfl) rfl
theorem q1707 : (Jvm.Cond.selects "Scrutineery" ({ cls := "Scrutineery", name := "close", desc := "(I)I" } : Jvm.MethodName) ({ cls := "Scrutineery", name := "close", desc := "(I)I" } : Jvm.MethodName)) ∈ lw_all := lw_g (lw_at lw_m7 157 rfl) rfl
theorem q1708 : (Jvm.Cond.code ({ cls := "Scrutineery", name := "close", desc := "(I)I" } : Jvm.MethodName) prog_1_method_37_code (3 : Nat) (Option.some Jvm.ClassFile.FieldType.int)) ∈ lw_all := lw_g (lw_at lw_m7 158 rfl) rfl
theorem q1709 : (Jvm.Cond.methodLink "Scrutineery" (391 : Nat) ({ cls := "Scrutineery", name := "requireReady", desc := "(LScrutineery$Event;)V" } : Jvm.MethodName)) ∈ lw_all := lw_g (lw_at lw_m7 159 rfl) rfl
theorem q1710 : (Jvm.Cond.privateMethod ({ cls := "Scrutineery", name := "requireReady", desc := "(LScrutineery$Event;)V" } : Jvm.MethodName)) ∈ lw_tbl := lw_at lw_m7 160 rfl
theorem q1711 : (Jvm.Cond.instanceMethod ({ cls := "Scrutineery", name := "requireReady", desc := "(LScrutineery$Event;)V" } : Jvm.MethodName)) ∈ lw_all := lw_g (lw_at lw_m7 161 rfl) rfl
theorem q1712 : (Jvm.Cond.code ({ cls := "Scrutineery", name := "requireReady", desc := "(LScrutineery$Event;)V" } : Jvm.MethodName) prog_1_method_36_code (4 : Nat) (Option.none : Option Jvm.ClassFile.FieldType)) ∈ lw_all := lw_g (lw_at lw_m7 162 rfl) rfl
theorem q1713 : (Jvm.Cond.methodLink "Scrutineery" (395 : Nat) ({ cls := "Scrutineery$Event", name := "decides", desc := "()V" } : Jvm.MethodName)) ∈ lw_all := lw_g (lw_at lw_m7 163 rfl) rfl
theorem q1825 : (Jvm.Cond.methodLink "Scrutineery" (398 : Nat) ({ cls := "Scrutineery$Event", name := "cuts", desc := "()V" } : Jvm.MethodName)) ∈ lw_all := lw_g (lw_at lw_m8 35 rfl) rfl
theorem q1867 : (Jvm.Cond.instanceMethod ({ cls := "Scrutineery", name := "formation", desc := "(IIII)I" } : Jvm.MethodName)) ∈ lw_all := lw_g (lw_at lw_m8 77 rfl) rfl
theorem q1868 : (Jvm.Cond.selects "Scrutineery" ({ cls := "Scrutineery", name := "formation", desc := "(IIII)I" } : Jvm.MethodName) ({ cls := "Scrutineery", name := "formation", desc := "(IIII)I" } : Jvm.MethodName)) ∈ lw_all := lw_g (lw_at lw_m8 78 rfl) rfl
theorem q1869 : (Jvm.Cond.code ({ cls := "Scrutineery", name := "formation", desc := "(IIII)I" } : Jvm.MethodName) prog_1_method_38_code (8 : Nat) (Option.some Jvm.ClassFile.FieldType.int)) ∈ lw_all := lw_g (lw_at lw_m8 79 rfl) rfl
theorem q1870 : (Jvm.Cond.methodLink "Scrutineery" (401 : Nat) ({ cls := "Scrutineery", name := "up", desc := "(II)I" } : Jvm.MethodName)) ∈ lw_all := lw_g (lw_at lw_m8 80 rfl) rfl
theorem q1871 : (Jvm.Cond.classLink "Scrutineery" (404 : Nat) "Scrutineery$Formation") ∈ lw_all := lw_g (lw_at lw_m8 81 rfl) rfl
theorem q1873 : (Jvm.Cond.methodLinkNest "Scrutineery" (406 : Nat) ({ cls := "Scrutineery$Formation", name := "<init>", desc := "(I)V" } : Jvm.MethodName) "Scrutineery") ∈ lw_tbl := lw_at lw_m8 83 rfl
theorem q1881 : (Jvm.Cond.methodLink "Scrutineery" (407 : Nat) ({ cls := "Scrutineery$Formation", name := "points", desc := "()I" } : Jvm.MethodName)) ∈ lw_all := lw_g (lw_at lw_m8 91 rfl) rfl
theorem q1889 : (Jvm.Cond.instanceMethod ({ cls := "Scrutineery", name := "music", desc := "(IIII)I" } : Jvm.MethodName)) ∈ lw_all := lw_g (lw_at lw_m8 99 rfl) rfl
theorem q1890 : (Jvm.Cond.selects "Scrutineery" ({ cls := "Scrutineery", name := "music", desc := "(IIII)I" } : Jvm.MethodName) ({ cls := "Scrutineery", name := "music", desc := "(IIII)I" } : Jvm.MethodName)) ∈ lw_all := lw_g (lw_at lw_m8 100 rfl) rfl
theorem q1891 : (Jvm.Cond.code ({ cls := "Scrutineery", name := "music", desc := "(IIII)I" } : Jvm.MethodName) prog_1_method_40_code (5 : Nat) (Option.some Jvm.ClassFile.FieldType.int)) ∈ lw_all := lw_g (lw_at lw_m8 101 rfl) rfl
theorem q1892 : (Jvm.Cond.methodLink "Scrutineery" (410 : Nat) ({ cls := "Scrutineery", name := "length", desc := "(II)I" } : Jvm.MethodName)) ∈ lw_all := lw_g (lw_at lw_m8 102 rfl) rfl
theorem q1893 : (Jvm.Cond.privateMethod ({ cls := "Scrutineery", name := "length", desc := "(II)I" } : Jvm.MethodName)) ∈ lw_tbl := lw_at lw_m8 103 rfl
theorem q1894 : (Jvm.Cond.instanceMethod ({ cls := "Scrutineery", name := "length", desc := "(II)I" } : Jvm.MethodName)) ∈ lw_all := lw_g (lw_at lw_m8 104 rfl) rfl
theorem q1895 : (Jvm.Cond.code ({ cls := "Scrutineery", name := "length", desc := "(II)I" } : Jvm.MethodName) prog_1_method_39_code (3 : Nat) (Option.some Jvm.ClassFile.FieldType.int)) ∈ lw_all := lw_g (lw_at lw_m8 105 rfl) rfl
theorem q1900 : (Jvm.Cond.instanceMethod ({ cls := "Scrutineery", name := "plan", desc := "(II)I" } : Jvm.MethodName)) ∈ lw_all := lw_g (lw_at lw_m8 110 rfl) rfl
theorem q1901 : (Jvm.Cond.selects "Scrutineery" ({ cls := "Scrutineery", name := "plan", desc := "(II)I" } : Jvm.MethodName) ({ cls := "Scrutineery", name := "plan", desc := "(II)I" } : Jvm.MethodName)) ∈ lw_all := lw_g (lw_at lw_m8 111 rfl) rfl
theorem q1902 : (Jvm.Cond.code ({ cls := "Scrutineery", name := "plan", desc := "(II)I" } : Jvm.MethodName) prog_1_method_42_code (7 : Nat) (Option.some Jvm.ClassFile.FieldType.int)) ∈ lw_all := lw_g (lw_at lw_m8 112 rfl) rfl
theorem q1903 : (Jvm.Cond.classLink "Scrutineery" (414 : Nat) "Scrutineery$Plan") ∈ lw_all := lw_g (lw_at lw_m8 113 rfl) rfl
theorem q1905 : (Jvm.Cond.methodLink "Scrutineery" (416 : Nat) ({ cls := "Scrutineery", name := "takes", desc := "(LScrutineery$Event;)I" } : Jvm.MethodName)) ∈ lw_all := lw_g (lw_at lw_m8 115 rfl) rfl
theorem q1906 : (Jvm.Cond.privateMethod ({ cls := "Scrutineery", name := "takes", desc := "(LScrutineery$Event;)I" } : Jvm.MethodName)) ∈ lw_tbl := lw_at lw_m8 116 rfl
theorem q1907 : (Jvm.Cond.instanceMethod ({ cls := "Scrutineery", name := "takes", desc := "(LScrutineery$Event;)I" } : Jvm.MethodName)) ∈ lw_all := lw_g (lw_at lw_m8 117 rfl) rfl
theorem q1908 : (Jvm.Cond.code ({ cls := "Scrutineery", name := "takes", desc := "(LScrutineery$Event;)I" } : Jvm.MethodName) prog_1_method_41_code (5 : Nat) (Option.some Jvm.ClassFile.FieldType.int)) ∈ lw_all := lw_g (lw_at lw_m8 118 rfl) rfl
theorem q1909 : (Jvm.Cond.methodLink "Scrutineery" (420 : Nat) ({ cls := "Scrutineery$Plan", name := "<init>", desc := "(LScrutineery$Event;III)V" } : Jvm.MethodName)) ∈ lw_all := lw_g (lw_at lw_m8 119 rfl) rfl
theorem q1914 : (Jvm.Cond.fieldLinkNest "Scrutineery" (514 : Nat) "Scrutineery$Plan" "event" "LScrutineery$Event;" "Scrutineery") ∈ lw_tbl := lw_at lw_m8 124 rfl
theorem q1916 : (Jvm.Cond.fieldLinkNest "Scrutineery" (423 : Nat) "Scrutineery$Plan" "floor" "I" "Scrutineery") ∈ lw_tbl := lw_at lw_m8 126 rfl
theorem q1918 : (Jvm.Cond.fieldLinkNest "Scrutineery" (430 : Nat) "Scrutineery$Plan" "takes" "I" "Scrutineery") ∈ lw_tbl := lw_at lw_m8 128 rfl
theorem q1920 : (Jvm.Cond.fieldLinkNest "Scrutineery" (424 : Nat) "Scrutineery$Plan" "dancers" "I" "Scrutineery") ∈ lw_tbl := lw_at lw_m8 130 rfl
theorem q1921 : (Jvm.Cond.fieldLinkNest "Scrutineery" (427 : Nat) "Scrutineery$Plan" "late" "I" "Scrutineery") ∈ lw_tbl := lw_at lw_m8 131 rfl
theorem q1937 : (Jvm.Cond.instanceMethod ({ cls := "Scrutineery", name := "late", desc := "(II)I" } : Jvm.MethodName)) ∈ lw_all := lw_g (lw_at lw_m8 147 rfl) rfl
theorem q1938 : (Jvm.Cond.selects "Scrutineery" ({ cls := "Scrutineery", name := "late", desc := "(II)I" } : Jvm.MethodName) ({ cls := "Scrutineery", name := "late", desc := "(II)I" } : Jvm.MethodName)) ∈ lw_all := lw_g (lw_at lw_m8 148 rfl) rfl
theorem q1939 : (Jvm.Cond.code ({ cls := "Scrutineery", name := "late", desc := "(II)I" } : Jvm.MethodName) prog_1_method_44_code (4 : Nat) (Option.some Jvm.ClassFile.FieldType.int)) ∈ lw_all := lw_g (lw_at lw_m8 149 rfl) rfl
theorem q1940 : (Jvm.Cond.methodLink "Scrutineery" (432 : Nat) ({ cls := "Scrutineery", name := "begins", desc := "(I)I" } : Jvm.MethodName)) ∈ lw_all := lw_g (lw_at lw_m8 150 rfl) rfl
theorem q1941 : (Jvm.Cond.privateMethod ({ cls := "Scrutineery", name := "begins", desc := "(I)I" } : Jvm.MethodName)) ∈ lw_tbl := lw_at lw_m8 151 rfl
theorem q1942 : (Jvm.Cond.instanceMethod ({ cls := "Scrutineery", name := "begins", desc := "(I)I" } : Jvm.MethodName)) ∈ lw_all := lw_g (lw_at lw_m8 152 rfl) rfl
theorem q1943 : (Jvm.Cond.code ({ cls := "Scrutineery", name := "begins", desc := "(I)I" } : Jvm.MethodName) prog_1_method_43_code (8 : Nat) (Option.some Jvm.ClassFile.FieldType.int)) ∈ lw_all := lw_g (lw_at lw_m8 153 rfl) rfl
theorem q1948 : (Jvm.Cond.instanceMethod ({ cls := "Scrutineery", name := "personAt", desc := "(II)I" } : Jvm.MethodName)) ∈ lw_all := lw_g (lw_at lw_m8 158 rfl) rfl
theorem q1949 : (Jvm.Cond.selects "Scrutineery" ({ cls := "Scrutineery", name := "personAt", desc := "(II)I" } : Jvm.MethodName) ({ cls := "Scrutineery", name := "personAt", desc := "(II)I" } : Jvm.MethodName)) ∈ lw_all := lw_g (lw_at lw_m8 159 rfl) rfl
theorem q1950 : (Jvm.Cond.code ({ cls := "Scrutineery", name := "personAt", desc := "(II)I" } : Jvm.MethodName) prog_1_method_47_code (4 : Nat) (Option.some Jvm.ClassFile.FieldType.int)) ∈ lw_all := lw_g (lw_at lw_m8 160 rfl) rfl
theorem q1951 : (Jvm.Cond.methodLink "Scrutineery" (440 : Nat) ({ cls := "Scrutineery$Person", name := "grade", desc := "(I)I" } : Jvm.MethodName)) ∈ lw_all := lw_g (lw_at lw_m8 161 rfl) rfl
theorem q1952 : (Jvm.Cond.methodLink "Scrutineery" (441 : Nat) ({ cls := "Scrutineery", name := "coupleOf", desc := "(LScrutineery$Person;)I" } : Jvm.MethodName)) ∈ lw_all := lw_g (lw_at lw_m8 162 rfl) rfl
theorem q1953 : (Jvm.Cond.privateMethod ({ cls := "Scrutineery", name := "coupleOf", desc := "(LScrutineery$Person;)I" } : Jvm.MethodName)) ∈ lw_tbl := lw_at lw_m8 163 rfl
theorem q1954 : (Jvm.Cond.instanceMethod ({ cls := "Scrutineery", name := "coupleOf", desc := "(LScrutineery$Person;)I" } : Jvm.MethodName)) ∈ lw_all := lw_g (lw_at lw_m8 164 rfl) rfl
theorem q1955 : (Jvm.Cond.code ({ cls := "Scrutineery", name := "coupleOf", desc := "(LScrutineery$Person;)I" } : Jvm.MethodName) prog_1_method_45_code (5 : Nat) (Option.some Jvm.ClassFile.FieldType.int)) ∈ lw_all := lw_g (lw_at lw_m8 165 rfl) rfl
theorem q1956 : (Jvm.Cond.methodLink "Scrutineery" (445 : Nat) ({ cls := "Scrutineery", name := "pupilsOf", desc := "(LScrutineery$Person;)I" } : Jvm.MethodName)) ∈ lw_all := lw_g (lw_at lw_m8 166 rfl) rfl
theorem q1957 : (Jvm.Cond.privateMethod ({ cls := "Scrutineery", name := "pupilsOf", desc := "(LScrutineery$Person;)I" } : Jvm.MethodName)) ∈ lw_tbl := lw_at lw_m8 167 rfl
theorem q1958 : (Jvm.Cond.instanceMethod ({ cls := "Scrutineery", name := "pupilsOf", desc := "(LScrutineery$Person;)I" } : Jvm.MethodName)) ∈ lw_all := lw_g (lw_at lw_m8 168 rfl) rfl
theorem q1959 : (Jvm.Cond.code ({ cls := "Scrutineery", name := "pupilsOf", desc := "(LScrutineery$Person;)I" } : Jvm.MethodName) prog_1_method_46_code (5 : Nat) (Option.some Jvm.ClassFile.FieldType.int)) ∈ lw_all := lw_g (lw_at lw_m8 169 rfl) rfl
theorem q1964 : (Jvm.Cond.instanceMethod ({ cls := "Scrutineery", name := "coupleAt", desc := "(II)I" } : Jvm.MethodName)) ∈ lw_all := lw_g (lw_at lw_m8 174 rfl) rfl
theorem q1965 : (Jvm.Cond.selects "Scrutineery" ({ cls := "Scrutineery", name := "coupleAt", desc := "(II)I" } : Jvm.MethodName) ({ cls := "Scrutineery", name := "coupleAt", desc := "(II)I" } : Jvm.MethodName)) ∈ lw_all := lw_g (lw_at lw_m8 175 rfl) rfl
theorem q1966 : (Jvm.Cond.code ({ cls := "Scrutineery", name := "coupleAt", desc := "(II)I" } : Jvm.MethodName) prog_1_method_48_code (4 : Nat) (Option.some Jvm.ClassFile.FieldType.int)) ∈ lw_all := lw_g (lw_at lw_m8 176 rfl) rfl
theorem q1967 : (Jvm.Cond.methodLink "Scrutineery" (448 : Nat) ({ cls := "Scrutineery$Couple", name := "rank", desc := "(I)I" } : Jvm.MethodName)) ∈ lw_all := lw_g (lw_at lw_m8 177 rfl) rfl
theorem q1987 : (Jvm.Cond.instanceMethod ({ cls := "Scrutineery", name := "mayEnter", desc := "(II)I" } : Jvm.MethodName)) ∈ lw_all := lw_g (lw_at lw_m8 197 rfl) rfl
theorem q1988 : (Jvm.Cond.selects "Scrutineery" ({ cls := "Scrutineery", name := "mayEnter", desc := "(II)I" } : Jvm.MethodName) ({ cls := "Scrutineery", name := "mayEnter", desc := "(II)I" } : Jvm.MethodName)) ∈ lw_all := lw_g (lw_at lw_m8 198 rfl) rfl
theorem q1989 : (Jvm.Cond.code ({ cls := "Scrutineery", name := "mayEnter", desc := "(II)I" } : Jvm.MethodName) prog_1_method_49_code (4 : Nat) (Option.some Jvm.ClassFile.FieldType.int)) ∈ lw_all := lw_g (lw_at lw_m8 199 rfl) rfl
theorem q1994 : (Jvm.Cond.instanceMethod ({ cls := "Scrutineery", name := "eventAt", desc := "(II)I" } : Jvm.MethodName)) ∈ lw_all := lw_g (lw_at lw_m8 204 rfl) rfl
theorem q1995 : (Jvm.Cond.selects "Scrutineery" ({ cls := "Scrutineery", name := "eventAt", desc := "(II)I" } : Jvm.MethodName) ({ cls := "Scrutineery", name := "eventAt", desc := "(II)I" } : Jvm.MethodName)) ∈ lw_all := lw_g (lw_at lw_m8 205 rfl) rfl
theorem q1996 : (Jvm.Cond.code ({ cls := "Scrutineery", name := "eventAt", desc := "(II)I" } : Jvm.MethodName) prog_1_method_50_code (4 : Nat) (Option.some Jvm.ClassFile.FieldType.int)) ∈ lw_all := lw_g (lw_at lw_m8 206 rfl) rfl
theorem q2001 : (Jvm.Cond.instanceMethod ({ cls := "Scrutineery", name := "entryAt", desc := "(III)I" } : Jvm.MethodName)) ∈ lw_all := lw_g (lw_at lw_m8 211 rfl) rfl
theorem q2002 : (Jvm.Cond.selects "Scrutineery" ({ cls := "Scrutineery", name := "entryAt", desc := "(III)I" } : Jvm.MethodName) ({ cls := "Scrutineery", name := "entryAt", desc := "(III)I" } : Jvm.MethodName)) ∈ lw_all := lw_g (lw_at lw_m8 212 rfl) rfl
theorem q2003 : (Jvm.Cond.code ({ cls := "Scrutineery", name := "entryAt", desc := "(III)I" } : Jvm.MethodName) prog_1_method_52_code (6 : Nat) (Option.some Jvm.ClassFile.FieldType.int)) ∈ lw_all := lw_g (lw_at lw_m8 213 rfl) rfl
theorem q2004 : (Jvm.Cond.methodLink "Scrutineery" (455 : Nat) ({ cls := "Scrutineery", name := "heatOf", desc := "(LScrutineery$Event;LScrutineery$Entry;)I" } : Jvm.MethodName)) ∈ lw_all := lw_g (lw_at lw_m8 214 rfl) rfl
theorem q2005 : (Jvm.Cond.static ({ cls := "Scrutineery", name := "heatOf", desc := "(LScrutineery$Event;LScrutineery$Entry;)I" } : Jvm.MethodName)) ∈ lw_all := lw_g (lw_at lw_m8 215 rfl) rfl
theorem q2006 : (Jvm.Cond.code ({ cls := "Scrutineery", name := "heatOf", desc := "(LScrutineery$Event;LScrutineery$Entry;)I" } : Jvm.MethodName) prog_1_method_51_code (5 : Nat) (Option.some Jvm.ClassFile.FieldType.int)) ∈ lw_all := lw_g (lw_at lw_m8 216 rfl) rfl
theorem q2007 : (Jvm.Cond.methodLink "Scrutineery" (459 : Nat) ({ cls := "Scrutineery$Round", name := "recalls", desc := "(LScrutineery$Entry;)I" } : Jvm.MethodName)) ∈ lw_all := lw_g (lw_at lw_m8 217 rfl) rfl
theorem q2008 : (Jvm.Cond.methodLink "Scrutineery" (472 : Nat) ({ cls := "Scrutineery$Entry", name := "sum", desc := "()I" } : Jvm.MethodName)) ∈ lw_all := lw_g (lw_at lw_m8 218 rfl) rfl
theorem q2025 : (Jvm.Cond.instanceMethod ({ cls := "Scrutineery", name := "judge", desc := "(III)I" } : Jvm.MethodName)) ∈ lw_all := lw_g (lw_at lw_m8 235 rfl) rfl
theorem q2026 : (Jvm.Cond.selects "Scrutineery" ({ cls := "Scrutineery", name := "judge", desc := "(III)I" } : Jvm.MethodName) ({ cls := "Scrutineery", name := "judge", desc := "(III)I" } : Jvm.MethodName)) ∈ lw_all := lw_g (lw_at lw_m8 236 rfl) rfl
theorem q2027 : (Jvm.Cond.code ({ cls := "Scrutineery", name := "judge", desc := "(III)I" } : Jvm.MethodName) prog_1_method_53_code (5 : Nat) (Option.some Jvm.ClassFile.FieldType.int)) ∈ lw_all := lw_g (lw_at lw_m8 237 rfl) rfl
theorem q2032 : (Jvm.Cond.instanceMethod ({ cls := "Scrutineery", name := "markAt", desc := "(III)I" } : Jvm.MethodName)) ∈ lw_all := lw_g (lw_at lw_m9 2 rfl) rfl
theorem q2033 : (Jvm.Cond.selects "Scrutineery" ({ cls := "Scrutineery", name := "markAt", desc := "(III)I" } : Jvm.MethodName) ({ cls := "Scrutineery", name := "markAt", desc := "(III)I" } : Jvm.MethodName)) ∈ lw_all := lw_g (lw_at lw_m9 3 rfl) rfl
theorem q2034 : (Jvm.Cond.code ({ cls := "Scrutineery", name := "markAt", desc := "(III)I" } : Jvm.MethodName) prog_1_method_54_code (6 : Nat) (Option.some Jvm.ClassFile.FieldType.int)) ∈ lw_all := lw_g (lw_at lw_m9 4 rfl) rfl
theorem q2035 : (Jvm.Cond.interfaceEntry "Scrutineery" (475 : Nat)) ∈ lw_tbl := lw_at lw_m9 5 rfl
theorem q2036 : (Jvm.Cond.methodLink "Scrutineery" (475 : Nat) ({ cls := "Scrutineery$Marks", name := "told", desc := "()I" } : Jvm.MethodName)) ∈ lw_all := lw_g (lw_at lw_m9 6 rfl) rfl
theorem q2054 : (Jvm.Cond.instanceMethod ({ cls := "Scrutineery", name := "placeIn", desc := "(IIIZ)I" } : Jvm.MethodName)) ∈ lw_all := lw_g (lw_at lw_m9 24 rfl) rfl
theorem q2055 : (Jvm.Cond.selects "Scrutineery" ({ cls := "Scrutineery", name := "placeIn", desc := "(IIIZ)I" } : Jvm.MethodName) ({ cls := "Scrutineery", name := "placeIn", desc := "(IIIZ)I" } : Jvm.MethodName)) ∈ lw_all := lw_g (lw_at lw_m9 25 rfl) rfl
theorem q2056 : (Jvm.Cond.code ({ cls := "Scrutineery", name := "placeIn", desc := "(IIIZ)I" } : Jvm.MethodName) prog_1_method_55_code (7 : Nat) (Option.some Jvm.ClassFile.FieldType.int)) ∈ lw_all := lw_g (lw_at lw_m9 26 rfl) rfl
theorem q2057 : (Jvm.Cond.classLink "Scrutineery" (483 : Nat) "java/util/NoSuchElementException") ∈ lw_all := lw_g (lw_at lw_m9 27 rfl) rfl
theorem q2058 : (Jvm.Cond.methodLink "Scrutineery" (485 : Nat) ({ cls := "java/util/NoSuchElementException", name := "<init>", desc := "()V" } : Jvm.MethodName)) ∈ lw_all := lw_g (lw_at lw_m9 28 rfl) rfl
theorem q2063 : (Jvm.Cond.instanceMethod ({ cls := "Scrutineery", name := "result", desc := "(II)I" } : Jvm.MethodName)) ∈ lw_all := lw_g (lw_at lw_m9 33 rfl) rfl
theorem q2064 : (Jvm.Cond.selects "Scrutineery" ({ cls := "Scrutineery", name := "result", desc := "(II)I" } : Jvm.MethodName) ({ cls := "Scrutineery", name := "result", desc := "(II)I" } : Jvm.MethodName)) ∈ lw_all := lw_g (lw_at lw_m9 34 rfl) rfl
theorem q2065 : (Jvm.Cond.code ({ cls := "Scrutineery", name := "result", desc := "(II)I" } : Jvm.MethodName) prog_1_method_56_code (8 : Nat) (Option.some Jvm.ClassFile.FieldType.int)) ∈ lw_all := lw_g (lw_at lw_m9 35 rfl) rfl
theorem q2066 : (Jvm.Cond.interfaceEntry "Scrutineery" (492 : Nat)) ∈ lw_tbl := lw_at lw_m9 36 rfl
theorem q2067 : (Jvm.Cond.methodLink "Scrutineery" (492 : Nat) ({ cls := "java/util/List", name := "add", desc := "(ILjava/lang/Object;)V" } : Jvm.MethodName)) ∈ lw_all := lw_g (lw_at lw_m9 37 rfl) rfl
theorem q2072 : (Jvm.Cond.instanceMethod ({ cls := "Scrutineery", name := "alike", desc := "(I)I" } : Jvm.MethodName)) ∈ lw_all := lw_g (lw_at lw_m9 42 rfl) rfl
theorem q2073 : (Jvm.Cond.selects "Scrutineery" ({ cls := "Scrutineery", name := "alike", desc := "(I)I" } : Jvm.MethodName) ({ cls := "Scrutineery", name := "alike", desc := "(I)I" } : Jvm.MethodName)) ∈ lw_all := lw_g (lw_at lw_m9 43 rfl) rfl
theorem q2074 : (Jvm.Cond.code ({ cls := "Scrutineery", name := "alike", desc := "(I)I" } : Jvm.MethodName) prog_1_method_58_code (7 : Nat) (Option.some Jvm.ClassFile.FieldType.int)) ∈ lw_all := lw_g (lw_at lw_m9 44 rfl) rfl
theorem q2075 : (Jvm.Cond.methodLink "Scrutineery" (498 : Nat) ({ cls := "Scrutineery", name := "areAlike", desc := "(LScrutineery$Entry;LScrutineery$Entry;)Z" } : Jvm.MethodName)) ∈ lw_all := lw_g (lw_at lw_m9 45 rfl) rfl
theorem q2076 : (Jvm.Cond.static ({ cls := "Scrutineery", name := "areAlike", desc := "(LScrutineery$Entry;LScrutineery$Entry;)Z" } : Jvm.MethodName)) ∈ lw_all := lw_g (lw_at lw_m9 46 rfl) rfl
theorem q2077 : (Jvm.Cond.code ({ cls := "Scrutineery", name := "areAlike", desc := "(LScrutineery$Entry;LScrutineery$Entry;)Z" } : Jvm.MethodName) prog_1_method_57_code (2 : Nat) (Option.some Jvm.ClassFile.FieldType.boolean)) ∈ lw_all := lw_g (lw_at lw_m9 47 rfl) rfl
theorem q2082 : (Jvm.Cond.instanceMethod ({ cls := "Scrutineery", name := "bias", desc := "(II)I" } : Jvm.MethodName)) ∈ lw_all := lw_g (lw_at lw_m9 52 rfl) rfl
theorem q2083 : (Jvm.Cond.selects "Scrutineery" ({ cls := "Scrutineery", name := "bias", desc := "(II)I" } : Jvm.MethodName) ({ cls := "Scrutineery", name := "bias", desc := "(II)I" } : Jvm.MethodName)) ∈ lw_all := lw_g (lw_at lw_m9 53 rfl) rfl
theorem q2084 : (Jvm.Cond.code ({ cls := "Scrutineery", name := "bias", desc := "(II)I" } : Jvm.MethodName) prog_1_method_60_code (8 : Nat) (Option.some Jvm.ClassFile.FieldType.int)) ∈ lw_all := lw_g (lw_at lw_m9 54 rfl) rfl
theorem q2085 : (Jvm.Cond.methodLink "Scrutineery" (510 : Nat) ({ cls := "Scrutineery", name := "biasIn", desc := "(LScrutineery$Event;LScrutineery$Person;LScrutineery$Person;)I" } : Jvm.MethodName)) ∈ lw_all := lw_g (lw_at lw_m9 55 rfl) rfl
theorem q2086 : (Jvm.Cond.static ({ cls := "Scrutineery", name := "biasIn", desc := "(LScrutineery$Event;LScrutineery$Person;LScrutineery$Person;)I" } : Jvm.MethodName)) ∈ lw_all := lw_g (lw_at lw_m9 56 rfl) rfl
theorem q2087 : (Jvm.Cond.code ({ cls := "Scrutineery", name := "biasIn", desc := "(LScrutineery$Event;LScrutineery$Person;LScrutineery$Person;)I" } : Jvm.MethodName) prog_1_method_59_code (8 : Nat) (Option.some Jvm.ClassFile.FieldType.int)) ∈ lw_all := lw_g (lw_at lw_m9 57 rfl) rfl
theorem q2088 : (Jvm.Cond.interfaceEntry "Scrutineery" (502 : Nat)) ∈ lw_tbl := lw_at lw_m9 58 rfl
theorem q2089 : (Jvm.Cond.methodLink "Scrutineery" (502 : Nat) ({ cls := "java/util/List", name := "indexOf", desc := "(Ljava/lang/Object;)I" } : Jvm.MethodName)) ∈ lw_all := lw_g (lw_at lw_m9 59 rfl) rfl
theorem q2090 : (Jvm.Cond.methodLink "Scrutineery" (506 : Nat) ({ cls := "Scrutineery$Round", name := "place", desc := "(IILScrutineery$Entry;)I" } : Jvm.MethodName)) ∈ lw_all := lw_g (lw_at lw_m9 60 rfl) rfl
theorem q2095 : (Jvm.Cond.instanceMethod ({ cls := "Scrutineery", name := "formationAt", desc := "(IZ)I" } : Jvm.MethodName)) ∈ lw_all := lw_g (lw_at lw_m9 65 rfl) rfl
theorem q2096 : (Jvm.Cond.selects "Scrutineery" ({ cls := "Scrutineery", name := "formationAt", desc := "(IZ)I" } : Jvm.MethodName) ({ cls := "Scrutineery", name := "formationAt", desc := "(IZ)I" } : Jvm.MethodName)) ∈ lw_all := lw_g (lw_at lw_m9 66 rfl) rfl
theorem q2097 : (Jvm.Cond.code ({ cls := "Scrutineery", name := "formationAt", desc := "(IZ)I" } : Jvm.MethodName) prog_1_method_61_code (8 : Nat) (Option.some Jvm.ClassFile.FieldType.int)) ∈ lw_all := lw_g (lw_at lw_m9 67 rfl) rfl
theorem q2102 : (Jvm.Cond.instanceMethod ({ cls := "Scrutineery", name := "planned", desc := "(II)I" } : Jvm.MethodName)) ∈ lw_all := lw_g (lw_at lw_m9 72 rfl) rfl
theorem q2103 : (Jvm.Cond.selects "Scrutineery" ({ cls := "Scrutineery", name := "planned", desc := "(II)I" } : Jvm.MethodName) ({ cls := "Scrutineery", name := "planned", desc := "(II)I" } : Jvm.MethodName)) ∈ lw_all := lw_g (lw_at lw_m9 73 rfl) rfl
theorem q2104 : (Jvm.Cond.code ({ cls := "Scrutineery", name := "planned", desc := "(II)I" } : Jvm.MethodName) prog_1_method_62_code (4 : Nat) (Option.some Jvm.ClassFile.FieldType.int)) ∈ lw_all := lw_g (lw_at lw_m9 74 rfl) rfl
theorem q2109 : (Jvm.Cond.instanceMethod ({ cls := "Scrutineery", name := "ranked", desc := "(II)I" } : Jvm.MethodName)) ∈ lw_all := lw_g (lw_at lw_m9 79 rfl) rfl
theorem q2110 : (Jvm.Cond.selects "Scrutineery" ({ cls := "Scrutineery", name := "ranked", desc := "(II)I" } : Jvm.MethodName) ({ cls := "Scrutineery", name := "ranked", desc := "(II)I" } : Jvm.MethodName)) ∈ lw_all := lw_g (lw_at lw_m9 80 rfl) rfl
theorem q2111 : (Jvm.Cond.code ({ cls := "Scrutineery", name := "ranked", desc := "(II)I" } : Jvm.MethodName) prog_1_method_63_code (7 : Nat) (Option.some Jvm.ClassFile.FieldType.int)) ∈ lw_all := lw_g (lw_at lw_m9 81 rfl) rfl
theorem q2863 : (Jvm.Cond.castable "Scrutineery" "java/lang/Object") ∈ lw_tbl := lw_at lw_m12 113 rfl
theorem in_X1 : ∀ w ∈ wsX10, w ∈ lw_all := lw_in wsX10 [217, 219, 221, 223, 225, 227, 229, 231, 233, 235, 237] (by decide +kernel) (by decide +kernel)
