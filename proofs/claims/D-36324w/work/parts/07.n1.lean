/-! Vaultyard -/
set_option maxRecDepth 100000
def RX1 : String := "Vaultyard"
def TX1 : u_T := fun k => match k with
  | 0 => ("Vaultyard", "materials", "Ljava/util/ArrayList;", true)
  | 1 => ("Vaultyard", "rooms", "Ljava/util/ArrayList;", true)
  | 2 => ("Vaultyard", "things", "Ljava/util/ArrayList;", true)
  | 3 => ("Vaultyard", "loans", "Ljava/util/ArrayList;", true)
  | 4 => ("Vaultyard", "methods", "Ljava/util/ArrayList;", true)
  | 5 => ("Vaultyard", "boxes", "Ljava/util/ArrayList;", true)
  | 6 => ("Vaultyard", "opinions", "Ljava/util/ArrayList;", true)
  | 7 => ("Vaultyard", "funds", "Ljava/util/ArrayList;", true)
  | 8 => ("Vaultyard", "laws", "[I", true)
  | _ => ("Vaultyard", "day", "I", false)
def tyX1 : Nat → FieldType := fun k => match k with
  | 0 => .object "java/util/ArrayList"
  | 1 => .object "java/util/ArrayList"
  | 2 => .object "java/util/ArrayList"
  | 3 => .object "java/util/ArrayList"
  | 4 => .object "java/util/ArrayList"
  | 5 => .object "java/util/ArrayList"
  | 6 => .object "java/util/ArrayList"
  | 7 => .object "java/util/ArrayList"
  | 8 => .array .int
  | _ => .int
abbrev wsX10 : List Cond := u_ws RX1 TX1 10
theorem nmX1 : ∀ a, a < 10 → ∀ b, b < 10 → a ≠ b → (TX1 a).2.1 ≠ (TX1 b).2.1 := by decide +kernel
theorem tyX1_ok : ∀ k, k < 10 → parseFieldDescriptor (TX1 k).2.2.1 = some (tyX1 k) := by decide +kernel
abbrev cX1_init : ByteArray := prog_1_method_1_code
def yX1_init : MethodName := ⟨RX1, "<init>", "()V"⟩
def dkwX1_init_4 : List UInt8 := [181, 0, 34, 42, 7, 188, 10, 181, 0, 37, 42, 180, 0, 37, 16, 100, 184, 0, 41, 177]
abbrev dktX1_init_4 : List UInt8 := dkwX1_init_4 ++ []
def dkwX1_init_3 : List UInt8 := [181, 0, 28, 42, 187, 0, 7, 89, 183, 0, 9, 181, 0, 31, 42, 187, 0, 7, 89, 183, 0, 9]
abbrev dktX1_init_3 : List UInt8 := dkwX1_init_3 ++ dktX1_init_4
def dkwX1_init_2 : List UInt8 := [181, 0, 22, 42, 187, 0, 7, 89, 183, 0, 9, 181, 0, 25, 42, 187, 0, 7, 89, 183, 0, 9]
abbrev dktX1_init_2 : List UInt8 := dkwX1_init_2 ++ dktX1_init_3
def dkwX1_init_1 : List UInt8 := [181, 0, 16, 42, 187, 0, 7, 89, 183, 0, 9, 181, 0, 19, 42, 187, 0, 7, 89, 183, 0, 9]
abbrev dktX1_init_1 : List UInt8 := dkwX1_init_1 ++ dktX1_init_2
def dkwX1_init_0 : List UInt8 := [42, 183, 0, 1, 42, 187, 0, 7, 89, 183, 0, 9, 181, 0, 10, 42, 187, 0, 7, 89, 183, 0, 9]
abbrev dktX1_init_0 : List UInt8 := dkwX1_init_0 ++ dktX1_init_1
theorem dksX1_init_0 : cX1_init.data.toList.drop 0 = dktX1_init_0 := by decide +kernel
theorem dksX1_init_1 : cX1_init.data.toList.drop 23 = dktX1_init_1 := dk_seg dksX1_init_0 23 rfl rfl
theorem dksX1_init_2 : cX1_init.data.toList.drop 45 = dktX1_init_2 := dk_seg dksX1_init_1 22 rfl rfl
theorem dksX1_init_3 : cX1_init.data.toList.drop 67 = dktX1_init_3 := dk_seg dksX1_init_2 22 rfl rfl
theorem dksX1_init_4 : cX1_init.data.toList.drop 89 = dktX1_init_4 := dk_seg dksX1_init_3 22 rfl rfl
theorem dX1_init_0 : decode cX1_init 0 = .ok (.aload_n 0, 1) := dk_42 (dk_at dksX1_init_0 0 rfl rfl)
theorem dX1_init_1 : decode cX1_init 1 = .ok (.invokespecial 1, 3) := dk_183 0 1 (dk_at dksX1_init_0 1 rfl rfl)
theorem dX1_init_4 : decode cX1_init 4 = .ok (.aload_n 0, 1) := dk_42 (dk_at dksX1_init_0 4 rfl rfl)
theorem dX1_init_5 : decode cX1_init 5 = .ok (.new 7, 3) := dk_187 0 7 (dk_at dksX1_init_0 5 rfl rfl)
theorem dX1_init_8 : decode cX1_init 8 = .ok (.dup, 1) := dk_89 (dk_at dksX1_init_0 8 rfl rfl)
theorem dX1_init_9 : decode cX1_init 9 = .ok (.invokespecial 9, 3) := dk_183 0 9 (dk_at dksX1_init_0 9 rfl rfl)
theorem dX1_init_12 : decode cX1_init 12 = .ok (.putfield 10, 3) := dk_181 0 10 (dk_at dksX1_init_0 12 rfl rfl)
theorem dX1_init_15 : decode cX1_init 15 = .ok (.aload_n 0, 1) := dk_42 (dk_at dksX1_init_0 15 rfl rfl)
theorem dX1_init_16 : decode cX1_init 16 = .ok (.new 7, 3) := dk_187 0 7 (dk_at dksX1_init_0 16 rfl rfl)
theorem dX1_init_19 : decode cX1_init 19 = .ok (.dup, 1) := dk_89 (dk_at dksX1_init_0 19 rfl rfl)
theorem dX1_init_20 : decode cX1_init 20 = .ok (.invokespecial 9, 3) := dk_183 0 9 (dk_at dksX1_init_0 20 rfl rfl)
theorem dX1_init_23 : decode cX1_init 23 = .ok (.putfield 16, 3) := dk_181 0 16 (dk_at dksX1_init_1 0 rfl rfl)
theorem dX1_init_26 : decode cX1_init 26 = .ok (.aload_n 0, 1) := dk_42 (dk_at dksX1_init_1 3 rfl rfl)
theorem dX1_init_27 : decode cX1_init 27 = .ok (.new 7, 3) := dk_187 0 7 (dk_at dksX1_init_1 4 rfl rfl)
theorem dX1_init_30 : decode cX1_init 30 = .ok (.dup, 1) := dk_89 (dk_at dksX1_init_1 7 rfl rfl)
theorem dX1_init_31 : decode cX1_init 31 = .ok (.invokespecial 9, 3) := dk_183 0 9 (dk_at dksX1_init_1 8 rfl rfl)
theorem dX1_init_34 : decode cX1_init 34 = .ok (.putfield 19, 3) := dk_181 0 19 (dk_at dksX1_init_1 11 rfl rfl)
theorem dX1_init_37 : decode cX1_init 37 = .ok (.aload_n 0, 1) := dk_42 (dk_at dksX1_init_1 14 rfl rfl)
theorem dX1_init_38 : decode cX1_init 38 = .ok (.new 7, 3) := dk_187 0 7 (dk_at dksX1_init_1 15 rfl rfl)
theorem dX1_init_41 : decode cX1_init 41 = .ok (.dup, 1) := dk_89 (dk_at dksX1_init_1 18 rfl rfl)
theorem dX1_init_42 : decode cX1_init 42 = .ok (.invokespecial 9, 3) := dk_183 0 9 (dk_at dksX1_init_1 19 rfl rfl)
theorem dX1_init_45 : decode cX1_init 45 = .ok (.putfield 22, 3) := dk_181 0 22 (dk_at dksX1_init_2 0 rfl rfl)
theorem dX1_init_48 : decode cX1_init 48 = .ok (.aload_n 0, 1) := dk_42 (dk_at dksX1_init_2 3 rfl rfl)
theorem dX1_init_49 : decode cX1_init 49 = .ok (.new 7, 3) := dk_187 0 7 (dk_at dksX1_init_2 4 rfl rfl)
theorem dX1_init_52 : decode cX1_init 52 = .ok (.dup, 1) := dk_89 (dk_at dksX1_init_2 7 rfl rfl)
theorem dX1_init_53 : decode cX1_init 53 = .ok (.invokespecial 9, 3) := dk_183 0 9 (dk_at dksX1_init_2 8 rfl rfl)
theorem dX1_init_56 : decode cX1_init 56 = .ok (.putfield 25, 3) := dk_181 0 25 (dk_at dksX1_init_2 11 rfl rfl)
theorem dX1_init_59 : decode cX1_init 59 = .ok (.aload_n 0, 1) := dk_42 (dk_at dksX1_init_2 14 rfl rfl)
theorem dX1_init_60 : decode cX1_init 60 = .ok (.new 7, 3) := dk_187 0 7 (dk_at dksX1_init_2 15 rfl rfl)
theorem dX1_init_63 : decode cX1_init 63 = .ok (.dup, 1) := dk_89 (dk_at dksX1_init_2 18 rfl rfl)
theorem dX1_init_64 : decode cX1_init 64 = .ok (.invokespecial 9, 3) := dk_183 0 9 (dk_at dksX1_init_2 19 rfl rfl)
theorem dX1_init_67 : decode cX1_init 67 = .ok (.putfield 28, 3) := dk_181 0 28 (dk_at dksX1_init_3 0 rfl rfl)
theorem dX1_init_70 : decode cX1_init 70 = .ok (.aload_n 0, 1) := dk_42 (dk_at dksX1_init_3 3 rfl rfl)
theorem dX1_init_71 : decode cX1_init 71 = .ok (.new 7, 3) := dk_187 0 7 (dk_at dksX1_init_3 4 rfl rfl)
theorem dX1_init_74 : decode cX1_init 74 = .ok (.dup, 1) := dk_89 (dk_at dksX1_init_3 7 rfl rfl)
theorem dX1_init_75 : decode cX1_init 75 = .ok (.invokespecial 9, 3) := dk_183 0 9 (dk_at dksX1_init_3 8 rfl rfl)
theorem dX1_init_78 : decode cX1_init 78 = .ok (.putfield 31, 3) := dk_181 0 31 (dk_at dksX1_init_3 11 rfl rfl)
theorem dX1_init_81 : decode cX1_init 81 = .ok (.aload_n 0, 1) := dk_42 (dk_at dksX1_init_3 14 rfl rfl)
theorem dX1_init_82 : decode cX1_init 82 = .ok (.new 7, 3) := dk_187 0 7 (dk_at dksX1_init_3 15 rfl rfl)
theorem dX1_init_85 : decode cX1_init 85 = .ok (.dup, 1) := dk_89 (dk_at dksX1_init_3 18 rfl rfl)
theorem dX1_init_86 : decode cX1_init 86 = .ok (.invokespecial 9, 3) := dk_183 0 9 (dk_at dksX1_init_3 19 rfl rfl)
theorem dX1_init_89 : decode cX1_init 89 = .ok (.putfield 34, 3) := dk_181 0 34 (dk_at dksX1_init_4 0 rfl rfl)
theorem dX1_init_92 : decode cX1_init 92 = .ok (.aload_n 0, 1) := dk_42 (dk_at dksX1_init_4 3 rfl rfl)
theorem dX1_init_93 : decode cX1_init 93 = .ok (.iconst 4, 1) := dk_7 (dk_at dksX1_init_4 4 rfl rfl)
theorem dX1_init_94 : decode cX1_init 94 = .ok (.newarray .int, 2) := dk_188_10 (dk_at dksX1_init_4 5 rfl rfl)
theorem dX1_init_96 : decode cX1_init 96 = .ok (.putfield 37, 3) := dk_181 0 37 (dk_at dksX1_init_4 7 rfl rfl)
theorem dX1_init_99 : decode cX1_init 99 = .ok (.aload_n 0, 1) := dk_42 (dk_at dksX1_init_4 10 rfl rfl)
theorem dX1_init_100 : decode cX1_init 100 = .ok (.getfield 37, 3) := dk_180 0 37 (dk_at dksX1_init_4 11 rfl rfl)
theorem dX1_init_103 : decode cX1_init 103 = .ok (.bipush 100, 2) := dk_16 100 (dk_at dksX1_init_4 14 rfl rfl)
theorem dX1_init_105 : decode cX1_init 105 = .ok (.invokestatic 41, 3) := dk_184 0 41 (dk_at dksX1_init_4 16 rfl rfl)
theorem dX1_init_108 : decode cX1_init 108 = .ok (.return_, 1) := dk_177 (dk_at dksX1_init_4 19 rfl rfl)
abbrev cX1_year : ByteArray := prog_1_method_28_code
def yX1_year : MethodName := ⟨RX1, "year", "()I"⟩
theorem dX1_year_0 : decode cX1_year 0 = .ok (.aload_n 0, 1) := by decide +kernel
theorem dX1_year_1 : decode cX1_year 1 = .ok (.invokevirtual 220, 3) := by decide +kernel
theorem dX1_year_4 : decode cX1_year 4 = .ok (.ireturn, 1) := by decide +kernel
abbrev cX1_yearNow : ByteArray := prog_1_method_11_code
def yX1_yearNow : MethodName := ⟨RX1, "yearNow", "()I"⟩
def dkwX1_yearNow_0 : List UInt8 := [17, 7, 208, 42, 180, 0, 80, 17, 1, 109, 108, 96, 172]
abbrev dktX1_yearNow_0 : List UInt8 := dkwX1_yearNow_0 ++ []
theorem dksX1_yearNow_0 : cX1_yearNow.data.toList.drop 0 = dktX1_yearNow_0 := by decide +kernel
theorem dX1_yearNow_0 : decode cX1_yearNow 0 = .ok (.sipush 2000, 3) := dk_17 7 208 (dk_at dksX1_yearNow_0 0 rfl rfl)
theorem dX1_yearNow_3 : decode cX1_yearNow 3 = .ok (.aload_n 0, 1) := dk_42 (dk_at dksX1_yearNow_0 3 rfl rfl)
theorem dX1_yearNow_4 : decode cX1_yearNow 4 = .ok (.getfield 80, 3) := dk_180 0 80 (dk_at dksX1_yearNow_0 4 rfl rfl)
theorem dX1_yearNow_7 : decode cX1_yearNow 7 = .ok (.sipush 365, 3) := dk_17 1 109 (dk_at dksX1_yearNow_0 7 rfl rfl)
theorem dX1_yearNow_10 : decode cX1_yearNow 10 = .ok (.idiv, 1) := dk_108 (dk_at dksX1_yearNow_0 10 rfl rfl)
theorem dX1_yearNow_11 : decode cX1_yearNow 11 = .ok (.iadd, 1) := dk_96 (dk_at dksX1_yearNow_0 11 rfl rfl)
theorem dX1_yearNow_12 : decode cX1_yearNow 12 = .ok (.ireturn, 1) := dk_172 (dk_at dksX1_yearNow_0 12 rfl rfl)
abbrev cX1_checksum : ByteArray := prog_1_method_86_code
def yX1_checksum : MethodName := ⟨RX1, "checksum", "()J"⟩
def dkwX1_checksum_5 : List UInt8 := [167, 255, 223, 31, 173]
abbrev dktX1_checksum_5 : List UInt8 := dkwX1_checksum_5 ++ []
def dkwX1_checksum_4 : List UInt8 := [185, 0, 94, 1, 0, 192, 1, 13, 58, 4, 20, 2, 3, 31, 105, 25, 4, 180, 1, 19, 133, 97, 64]
abbrev dktX1_checksum_4 : List UInt8 := dkwX1_checksum_4 ++ dktX1_checksum_5
def dkwX1_checksum_3 : List UInt8 := [64, 167, 255, 198, 42, 180, 0, 34, 182, 0, 84, 78, 45, 185, 0, 88, 1, 0, 153, 0, 30, 45]
abbrev dktX1_checksum_3 : List UInt8 := dkwX1_checksum_3 ++ dktX1_checksum_4
def dkwX1_checksum_2 : List UInt8 := [180, 0, 223, 133, 97, 105, 25, 4, 182, 0, 201, 133, 97, 105, 25, 4, 180, 0, 226, 182, 0, 62, 133, 97]
abbrev dktX1_checksum_2 : List UInt8 := dkwX1_checksum_2 ++ dktX1_checksum_3
def dkwX1_checksum_1 : List UInt8 := [185, 0, 94, 1, 0, 192, 0, 76, 58, 4, 20, 2, 3, 20, 2, 3, 20, 2, 3, 31, 105, 25, 4]
abbrev dktX1_checksum_1 : List UInt8 := dkwX1_checksum_1 ++ dktX1_checksum_2
def dkwX1_checksum_0 : List UInt8 := [20, 2, 1, 64, 42, 180, 0, 19, 182, 0, 84, 78, 45, 185, 0, 88, 1, 0, 153, 0, 55, 45]
abbrev dktX1_checksum_0 : List UInt8 := dkwX1_checksum_0 ++ dktX1_checksum_1
theorem dksX1_checksum_0 : cX1_checksum.data.toList.drop 0 = dktX1_checksum_0 := by decide +kernel
theorem dksX1_checksum_1 : cX1_checksum.data.toList.drop 22 = dktX1_checksum_1 := dk_seg dksX1_checksum_0 22 rfl rfl
theorem dksX1_checksum_2 : cX1_checksum.data.toList.drop 45 = dktX1_checksum_2 := dk_seg dksX1_checksum_1 23 rfl rfl
theorem dksX1_checksum_3 : cX1_checksum.data.toList.drop 69 = dktX1_checksum_3 := dk_seg dksX1_checksum_2 24 rfl rfl
theorem dksX1_checksum_4 : cX1_checksum.data.toList.drop 91 = dktX1_checksum_4 := dk_seg dksX1_checksum_3 22 rfl rfl
theorem dksX1_checksum_5 : cX1_checksum.data.toList.drop 114 = dktX1_checksum_5 := dk_seg dksX1_checksum_4 23 rfl rfl
theorem dX1_checksum_0 : decode cX1_checksum 0 = .ok (.ldc2_w 513, 3) := dk_20 2 1 (dk_at dksX1_checksum_0 0 rfl rfl)
theorem dX1_checksum_3 : decode cX1_checksum 3 = .ok (.lstore_n 1, 1) := dk_64 (dk_at dksX1_checksum_0 3 rfl rfl)
theorem dX1_checksum_4 : decode cX1_checksum 4 = .ok (.aload_n 0, 1) := dk_42 (dk_at dksX1_checksum_0 4 rfl rfl)
theorem dX1_checksum_5 : decode cX1_checksum 5 = .ok (.getfield 19, 3) := dk_180 0 19 (dk_at dksX1_checksum_0 5 rfl rfl)
theorem dX1_checksum_8 : decode cX1_checksum 8 = .ok (.invokevirtual 84, 3) := dk_182 0 84 (dk_at dksX1_checksum_0 8 rfl rfl)
theorem dX1_checksum_11 : decode cX1_checksum 11 = .ok (.astore_n 3, 1) := dk_78 (dk_at dksX1_checksum_0 11 rfl rfl)
theorem dX1_checksum_12 : decode cX1_checksum 12 = .ok (.aload_n 3, 1) := dk_45 (dk_at dksX1_checksum_0 12 rfl rfl)
theorem dX1_checksum_13 : decode cX1_checksum 13 = .ok (.invokeinterface 88 1, 5) := by decide +kernel
theorem dX1_checksum_18 : decode cX1_checksum 18 = .ok (.ifCond .eq 55, 3) := dk_153 0 55 (dk_at dksX1_checksum_0 18 rfl rfl)
theorem dX1_checksum_21 : decode cX1_checksum 21 = .ok (.aload_n 3, 1) := dk_45 (dk_at dksX1_checksum_0 21 rfl rfl)
theorem dX1_checksum_22 : decode cX1_checksum 22 = .ok (.invokeinterface 94 1, 5) := by decide +kernel
theorem dX1_checksum_27 : decode cX1_checksum 27 = .ok (.checkcast 76, 3) := dk_192 0 76 (dk_at dksX1_checksum_1 5 rfl rfl)
theorem dX1_checksum_30 : decode cX1_checksum 30 = .ok (.astore 4, 2) := dk_58 4 (dk_at dksX1_checksum_1 8 rfl rfl)
theorem dX1_checksum_32 : decode cX1_checksum 32 = .ok (.ldc2_w 515, 3) := dk_20 2 3 (dk_at dksX1_checksum_1 10 rfl rfl)
theorem dX1_checksum_35 : decode cX1_checksum 35 = .ok (.ldc2_w 515, 3) := dk_20 2 3 (dk_at dksX1_checksum_1 13 rfl rfl)
theorem dX1_checksum_38 : decode cX1_checksum 38 = .ok (.ldc2_w 515, 3) := dk_20 2 3 (dk_at dksX1_checksum_1 16 rfl rfl)
theorem dX1_checksum_41 : decode cX1_checksum 41 = .ok (.lload_n 1, 1) := dk_31 (dk_at dksX1_checksum_1 19 rfl rfl)
theorem dX1_checksum_42 : decode cX1_checksum 42 = .ok (.lmul, 1) := dk_105 (dk_at dksX1_checksum_1 20 rfl rfl)
theorem dX1_checksum_43 : decode cX1_checksum 43 = .ok (.aload 4, 2) := dk_25 4 (dk_at dksX1_checksum_1 21 rfl rfl)
theorem dX1_checksum_45 : decode cX1_checksum 45 = .ok (.getfield 223, 3) := dk_180 0 223 (dk_at dksX1_checksum_2 0 rfl rfl)
theorem dX1_checksum_48 : decode cX1_checksum 48 = .ok (.i2l, 1) := dk_133 (dk_at dksX1_checksum_2 3 rfl rfl)
theorem dX1_checksum_49 : decode cX1_checksum 49 = .ok (.ladd, 1) := dk_97 (dk_at dksX1_checksum_2 4 rfl rfl)
theorem dX1_checksum_50 : decode cX1_checksum 50 = .ok (.lmul, 1) := dk_105 (dk_at dksX1_checksum_2 5 rfl rfl)
theorem dX1_checksum_51 : decode cX1_checksum 51 = .ok (.aload 4, 2) := dk_25 4 (dk_at dksX1_checksum_2 6 rfl rfl)
theorem dX1_checksum_53 : decode cX1_checksum 53 = .ok (.invokevirtual 201, 3) := dk_182 0 201 (dk_at dksX1_checksum_2 8 rfl rfl)
theorem dX1_checksum_56 : decode cX1_checksum 56 = .ok (.i2l, 1) := dk_133 (dk_at dksX1_checksum_2 11 rfl rfl)
theorem dX1_checksum_57 : decode cX1_checksum 57 = .ok (.ladd, 1) := dk_97 (dk_at dksX1_checksum_2 12 rfl rfl)
theorem dX1_checksum_58 : decode cX1_checksum 58 = .ok (.lmul, 1) := dk_105 (dk_at dksX1_checksum_2 13 rfl rfl)
theorem dX1_checksum_59 : decode cX1_checksum 59 = .ok (.aload 4, 2) := dk_25 4 (dk_at dksX1_checksum_2 14 rfl rfl)
theorem dX1_checksum_61 : decode cX1_checksum 61 = .ok (.getfield 226, 3) := dk_180 0 226 (dk_at dksX1_checksum_2 16 rfl rfl)
theorem dX1_checksum_64 : decode cX1_checksum 64 = .ok (.invokevirtual 62, 3) := dk_182 0 62 (dk_at dksX1_checksum_2 19 rfl rfl)
theorem dX1_checksum_67 : decode cX1_checksum 67 = .ok (.i2l, 1) := dk_133 (dk_at dksX1_checksum_2 22 rfl rfl)
theorem dX1_checksum_68 : decode cX1_checksum 68 = .ok (.ladd, 1) := dk_97 (dk_at dksX1_checksum_2 23 rfl rfl)
theorem dX1_checksum_69 : decode cX1_checksum 69 = .ok (.lstore_n 1, 1) := dk_64 (dk_at dksX1_checksum_3 0 rfl rfl)
theorem dX1_checksum_70 : decode cX1_checksum 70 = .ok (.goto (-58), 3) := dk_167 255 198 (dk_at dksX1_checksum_3 1 rfl rfl)
theorem dX1_checksum_73 : decode cX1_checksum 73 = .ok (.aload_n 0, 1) := dk_42 (dk_at dksX1_checksum_3 4 rfl rfl)
theorem dX1_checksum_74 : decode cX1_checksum 74 = .ok (.getfield 34, 3) := dk_180 0 34 (dk_at dksX1_checksum_3 5 rfl rfl)
theorem dX1_checksum_77 : decode cX1_checksum 77 = .ok (.invokevirtual 84, 3) := dk_182 0 84 (dk_at dksX1_checksum_3 8 rfl rfl)
theorem dX1_checksum_80 : decode cX1_checksum 80 = .ok (.astore_n 3, 1) := dk_78 (dk_at dksX1_checksum_3 11 rfl rfl)
theorem dX1_checksum_81 : decode cX1_checksum 81 = .ok (.aload_n 3, 1) := dk_45 (dk_at dksX1_checksum_3 12 rfl rfl)
theorem dX1_checksum_82 : decode cX1_checksum 82 = .ok (.invokeinterface 88 1, 5) := by decide +kernel
theorem dX1_checksum_87 : decode cX1_checksum 87 = .ok (.ifCond .eq 30, 3) := dk_153 0 30 (dk_at dksX1_checksum_3 18 rfl rfl)
theorem dX1_checksum_90 : decode cX1_checksum 90 = .ok (.aload_n 3, 1) := dk_45 (dk_at dksX1_checksum_3 21 rfl rfl)
theorem dX1_checksum_91 : decode cX1_checksum 91 = .ok (.invokeinterface 94 1, 5) := by decide +kernel
theorem dX1_checksum_96 : decode cX1_checksum 96 = .ok (.checkcast 269, 3) := dk_192 1 13 (dk_at dksX1_checksum_4 5 rfl rfl)
theorem dX1_checksum_99 : decode cX1_checksum 99 = .ok (.astore 4, 2) := dk_58 4 (dk_at dksX1_checksum_4 8 rfl rfl)
theorem dX1_checksum_101 : decode cX1_checksum 101 = .ok (.ldc2_w 515, 3) := dk_20 2 3 (dk_at dksX1_checksum_4 10 rfl rfl)
theorem dX1_checksum_104 : decode cX1_checksum 104 = .ok (.lload_n 1, 1) := dk_31 (dk_at dksX1_checksum_4 13 rfl rfl)
theorem dX1_checksum_105 : decode cX1_checksum 105 = .ok (.lmul, 1) := dk_105 (dk_at dksX1_checksum_4 14 rfl rfl)
theorem dX1_checksum_106 : decode cX1_checksum 106 = .ok (.aload 4, 2) := dk_25 4 (dk_at dksX1_checksum_4 15 rfl rfl)
theorem dX1_checksum_108 : decode cX1_checksum 108 = .ok (.getfield 275, 3) := dk_180 1 19 (dk_at dksX1_checksum_4 17 rfl rfl)
theorem dX1_checksum_111 : decode cX1_checksum 111 = .ok (.i2l, 1) := dk_133 (dk_at dksX1_checksum_4 20 rfl rfl)
theorem dX1_checksum_112 : decode cX1_checksum 112 = .ok (.ladd, 1) := dk_97 (dk_at dksX1_checksum_4 21 rfl rfl)
theorem dX1_checksum_113 : decode cX1_checksum 113 = .ok (.lstore_n 1, 1) := dk_64 (dk_at dksX1_checksum_4 22 rfl rfl)
theorem dX1_checksum_114 : decode cX1_checksum 114 = .ok (.goto (-33), 3) := dk_167 255 223 (dk_at dksX1_checksum_5 0 rfl rfl)
theorem dX1_checksum_117 : decode cX1_checksum 117 = .ok (.lload_n 1, 1) := dk_31 (dk_at dksX1_checksum_5 3 rfl rfl)
theorem dX1_checksum_118 : decode cX1_checksum 118 = .ok (.lreturn, 1) := dk_173 (dk_at dksX1_checksum_5 4 rfl rfl)
abbrev cX1_isSound : ByteArray := prog_1_method_89_code
def yX1_isSound : MethodName := ⟨RX1, "isSound", "()Z"⟩
def dkwX1_isSound_8 : List UInt8 := [167, 255, 222, 27, 172]
abbrev dktX1_isSound_8 : List UInt8 := dkwX1_isSound_8 ++ []
def dkwX1_isSound_7 : List UInt8 := [185, 0, 94, 1, 0, 192, 1, 13, 78, 27, 45, 180, 1, 19, 155, 0, 7, 4, 167, 0, 4, 3, 126, 60]
abbrev dktX1_isSound_7 : List UInt8 := dkwX1_isSound_7 ++ dktX1_isSound_8
def dkwX1_isSound_6 : List UInt8 := [167, 255, 217, 42, 180, 0, 34, 182, 0, 84, 77, 44, 185, 0, 88, 1, 0, 153, 0, 31, 44]
abbrev dktX1_isSound_6 : List UInt8 := dkwX1_isSound_6 ++ dktX1_isSound_7
def dkwX1_isSound_5 : List UInt8 := [192, 0, 78, 78, 27, 42, 45, 182, 1, 147, 45, 180, 1, 151, 163, 0, 7, 4, 167, 0, 4, 3, 126, 60]
abbrev dktX1_isSound_5 : List UInt8 := dkwX1_isSound_5 ++ dktX1_isSound_6
def dkwX1_isSound_4 : List UInt8 := [180, 0, 28, 182, 0, 84, 77, 44, 185, 0, 88, 1, 0, 153, 0, 36, 44, 185, 0, 94, 1, 0]
abbrev dktX1_isSound_4 : List UInt8 := dkwX1_isSound_4 ++ dktX1_isSound_5
def dkwX1_isSound_3 : List UInt8 := [42, 45, 182, 0, 108, 45, 180, 0, 112, 163, 0, 7, 4, 167, 0, 4, 3, 126, 60, 167, 255, 217, 42]
abbrev dktX1_isSound_3 : List UInt8 := dkwX1_isSound_3 ++ dktX1_isSound_4
def dkwX1_isSound_2 : List UInt8 := [182, 0, 84, 77, 44, 185, 0, 88, 1, 0, 153, 0, 36, 44, 185, 0, 94, 1, 0, 192, 0, 74, 78, 27]
abbrev dktX1_isSound_2 : List UInt8 := dkwX1_isSound_2 ++ dktX1_isSound_3
def dkwX1_isSound_1 : List UInt8 := [185, 0, 94, 1, 0, 192, 0, 76, 78, 27, 42, 45, 182, 2, 8, 126, 60, 167, 255, 229, 42, 180, 0, 16]
abbrev dktX1_isSound_1 : List UInt8 := dkwX1_isSound_1 ++ dktX1_isSound_2
def dkwX1_isSound_0 : List UInt8 := [4, 60, 42, 180, 0, 19, 182, 0, 84, 77, 44, 185, 0, 88, 1, 0, 153, 0, 24, 44]
abbrev dktX1_isSound_0 : List UInt8 := dkwX1_isSound_0 ++ dktX1_isSound_1
theorem dksX1_isSound_0 : cX1_isSound.data.toList.drop 0 = dktX1_isSound_0 := by decide +kernel
theorem dksX1_isSound_1 : cX1_isSound.data.toList.drop 20 = dktX1_isSound_1 := dk_seg dksX1_isSound_0 20 rfl rfl
theorem dksX1_isSound_2 : cX1_isSound.data.toList.drop 44 = dktX1_isSound_2 := dk_seg dksX1_isSound_1 24 rfl rfl
theorem dksX1_isSound_3 : cX1_isSound.data.toList.drop 68 = dktX1_isSound_3 := dk_seg dksX1_isSound_2 24 rfl rfl
theorem dksX1_isSound_4 : cX1_isSound.data.toList.drop 91 = dktX1_isSound_4 := dk_seg dksX1_isSound_3 23 rfl rfl
theorem dksX1_isSound_5 : cX1_isSound.data.toList.drop 113 = dktX1_isSound_5 := dk_seg dksX1_isSound_4 22 rfl rfl
theorem dksX1_isSound_6 : cX1_isSound.data.toList.drop 137 = dktX1_isSound_6 := dk_seg dksX1_isSound_5 24 rfl rfl
theorem dksX1_isSound_7 : cX1_isSound.data.toList.drop 158 = dktX1_isSound_7 := dk_seg dksX1_isSound_6 21 rfl rfl
theorem dksX1_isSound_8 : cX1_isSound.data.toList.drop 182 = dktX1_isSound_8 := dk_seg dksX1_isSound_7 24 rfl rfl
theorem dX1_isSound_0 : decode cX1_isSound 0 = .ok (.iconst 1, 1) := dk_4 (dk_at dksX1_isSound_0 0 rfl rfl)
theorem dX1_isSound_1 : decode cX1_isSound 1 = .ok (.istore_n 1, 1) := dk_60 (dk_at dksX1_isSound_0 1 rfl rfl)
theorem dX1_isSound_2 : decode cX1_isSound 2 = .ok (.aload_n 0, 1) := dk_42 (dk_at dksX1_isSound_0 2 rfl rfl)
theorem dX1_isSound_3 : decode cX1_isSound 3 = .ok (.getfield 19, 3) := dk_180 0 19 (dk_at dksX1_isSound_0 3 rfl rfl)
theorem dX1_isSound_6 : decode cX1_isSound 6 = .ok (.invokevirtual 84, 3) := dk_182 0 84 (dk_at dksX1_isSound_0 6 rfl rfl)
theorem dX1_isSound_9 : decode cX1_isSound 9 = .ok (.astore_n 2, 1) := dk_77 (dk_at dksX1_isSound_0 9 rfl rfl)
theorem dX1_isSound_10 : decode cX1_isSound 10 = .ok (.aload_n 2, 1) := dk_44 (dk_at dksX1_isSound_0 10 rfl rfl)
theorem dX1_isSound_11 : decode cX1_isSound 11 = .ok (.invokeinterface 88 1, 5) := by decide +kernel
theorem dX1_isSound_16 : decode cX1_isSound 16 = .ok (.ifCond .eq 24, 3) := dk_153 0 24 (dk_at dksX1_isSound_0 16 rfl rfl)
theorem dX1_isSound_19 : decode cX1_isSound 19 = .ok (.aload_n 2, 1) := dk_44 (dk_at dksX1_isSound_0 19 rfl rfl)
theorem dX1_isSound_20 : decode cX1_isSound 20 = .ok (.invokeinterface 94 1, 5) := by decide +kernel
theorem dX1_isSound_25 : decode cX1_isSound 25 = .ok (.checkcast 76, 3) := dk_192 0 76 (dk_at dksX1_isSound_1 5 rfl rfl)
theorem dX1_isSound_28 : decode cX1_isSound 28 = .ok (.astore_n 3, 1) := dk_78 (dk_at dksX1_isSound_1 8 rfl rfl)
theorem dX1_isSound_29 : decode cX1_isSound 29 = .ok (.iload_n 1, 1) := dk_27 (dk_at dksX1_isSound_1 9 rfl rfl)
theorem dX1_isSound_30 : decode cX1_isSound 30 = .ok (.aload_n 0, 1) := dk_42 (dk_at dksX1_isSound_1 10 rfl rfl)
theorem dX1_isSound_31 : decode cX1_isSound 31 = .ok (.aload_n 3, 1) := dk_45 (dk_at dksX1_isSound_1 11 rfl rfl)
theorem dX1_isSound_32 : decode cX1_isSound 32 = .ok (.invokevirtual 520, 3) := dk_182 2 8 (dk_at dksX1_isSound_1 12 rfl rfl)
theorem dX1_isSound_35 : decode cX1_isSound 35 = .ok (.iand, 1) := dk_126 (dk_at dksX1_isSound_1 15 rfl rfl)
theorem dX1_isSound_36 : decode cX1_isSound 36 = .ok (.istore_n 1, 1) := dk_60 (dk_at dksX1_isSound_1 16 rfl rfl)
theorem dX1_isSound_37 : decode cX1_isSound 37 = .ok (.goto (-27), 3) := dk_167 255 229 (dk_at dksX1_isSound_1 17 rfl rfl)
theorem dX1_isSound_40 : decode cX1_isSound 40 = .ok (.aload_n 0, 1) := dk_42 (dk_at dksX1_isSound_1 20 rfl rfl)
theorem dX1_isSound_41 : decode cX1_isSound 41 = .ok (.getfield 16, 3) := dk_180 0 16 (dk_at dksX1_isSound_1 21 rfl rfl)
theorem dX1_isSound_44 : decode cX1_isSound 44 = .ok (.invokevirtual 84, 3) := dk_182 0 84 (dk_at dksX1_isSound_2 0 rfl rfl)
theorem dX1_isSound_47 : decode cX1_isSound 47 = .ok (.astore_n 2, 1) := dk_77 (dk_at dksX1_isSound_2 3 rfl rfl)
theorem dX1_isSound_48 : decode cX1_isSound 48 = .ok (.aload_n 2, 1) := dk_44 (dk_at dksX1_isSound_2 4 rfl rfl)
theorem dX1_isSound_49 : decode cX1_isSound 49 = .ok (.invokeinterface 88 1, 5) := by decide +kernel
theorem dX1_isSound_54 : decode cX1_isSound 54 = .ok (.ifCond .eq 36, 3) := dk_153 0 36 (dk_at dksX1_isSound_2 10 rfl rfl)
theorem dX1_isSound_57 : decode cX1_isSound 57 = .ok (.aload_n 2, 1) := dk_44 (dk_at dksX1_isSound_2 13 rfl rfl)
theorem dX1_isSound_58 : decode cX1_isSound 58 = .ok (.invokeinterface 94 1, 5) := by decide +kernel
theorem dX1_isSound_63 : decode cX1_isSound 63 = .ok (.checkcast 74, 3) := dk_192 0 74 (dk_at dksX1_isSound_2 19 rfl rfl)
theorem dX1_isSound_66 : decode cX1_isSound 66 = .ok (.astore_n 3, 1) := dk_78 (dk_at dksX1_isSound_2 22 rfl rfl)
theorem dX1_isSound_67 : decode cX1_isSound 67 = .ok (.iload_n 1, 1) := dk_27 (dk_at dksX1_isSound_2 23 rfl rfl)
theorem dX1_isSound_68 : decode cX1_isSound 68 = .ok (.aload_n 0, 1) := dk_42 (dk_at dksX1_isSound_3 0 rfl rfl)
theorem dX1_isSound_69 : decode cX1_isSound 69 = .ok (.aload_n 3, 1) := dk_45 (dk_at dksX1_isSound_3 1 rfl rfl)
theorem dX1_isSound_70 : decode cX1_isSound 70 = .ok (.invokevirtual 108, 3) := dk_182 0 108 (dk_at dksX1_isSound_3 2 rfl rfl)
theorem dX1_isSound_73 : decode cX1_isSound 73 = .ok (.aload_n 3, 1) := dk_45 (dk_at dksX1_isSound_3 5 rfl rfl)
theorem dX1_isSound_74 : decode cX1_isSound 74 = .ok (.getfield 112, 3) := dk_180 0 112 (dk_at dksX1_isSound_3 6 rfl rfl)
theorem dX1_isSound_77 : decode cX1_isSound 77 = .ok (.if_icmp .gt 7, 3) := dk_163 0 7 (dk_at dksX1_isSound_3 9 rfl rfl)
theorem dX1_isSound_80 : decode cX1_isSound 80 = .ok (.iconst 1, 1) := dk_4 (dk_at dksX1_isSound_3 12 rfl rfl)
theorem dX1_isSound_81 : decode cX1_isSound 81 = .ok (.goto 4, 3) := dk_167 0 4 (dk_at dksX1_isSound_3 13 rfl rfl)
theorem dX1_isSound_84 : decode cX1_isSound 84 = .ok (.iconst 0, 1) := dk_3 (dk_at dksX1_isSound_3 16 rfl rfl)
theorem dX1_isSound_85 : decode cX1_isSound 85 = .ok (.iand, 1) := dk_126 (dk_at dksX1_isSound_3 17 rfl rfl)
theorem dX1_isSound_86 : decode cX1_isSound 86 = .ok (.istore_n 1, 1) := dk_60 (dk_at dksX1_isSound_3 18 rfl rfl)
theorem dX1_isSound_87 : decode cX1_isSound 87 = .ok (.goto (-39), 3) := dk_167 255 217 (dk_at dksX1_isSound_3 19 rfl rfl)
theorem dX1_isSound_90 : decode cX1_isSound 90 = .ok (.aload_n 0, 1) := dk_42 (dk_at dksX1_isSound_3 22 rfl rfl)
theorem dX1_isSound_91 : decode cX1_isSound 91 = .ok (.getfield 28, 3) := dk_180 0 28 (dk_at dksX1_isSound_4 0 rfl rfl)
theorem dX1_isSound_94 : decode cX1_isSound 94 = .ok (.invokevirtual 84, 3) := dk_182 0 84 (dk_at dksX1_isSound_4 3 rfl rfl)
theorem dX1_isSound_97 : decode cX1_isSound 97 = .ok (.astore_n 2, 1) := dk_77 (dk_at dksX1_isSound_4 6 rfl rfl)
theorem dX1_isSound_98 : decode cX1_isSound 98 = .ok (.aload_n 2, 1) := dk_44 (dk_at dksX1_isSound_4 7 rfl rfl)
theorem dX1_isSound_99 : decode cX1_isSound 99 = .ok (.invokeinterface 88 1, 5) := by decide +kernel
theorem dX1_isSound_104 : decode cX1_isSound 104 = .ok (.ifCond .eq 36, 3) := dk_153 0 36 (dk_at dksX1_isSound_4 13 rfl rfl)
theorem dX1_isSound_107 : decode cX1_isSound 107 = .ok (.aload_n 2, 1) := dk_44 (dk_at dksX1_isSound_4 16 rfl rfl)
theorem dX1_isSound_108 : decode cX1_isSound 108 = .ok (.invokeinterface 94 1, 5) := by decide +kernel
theorem dX1_isSound_113 : decode cX1_isSound 113 = .ok (.checkcast 78, 3) := dk_192 0 78 (dk_at dksX1_isSound_5 0 rfl rfl)
theorem dX1_isSound_116 : decode cX1_isSound 116 = .ok (.astore_n 3, 1) := dk_78 (dk_at dksX1_isSound_5 3 rfl rfl)
theorem dX1_isSound_117 : decode cX1_isSound 117 = .ok (.iload_n 1, 1) := dk_27 (dk_at dksX1_isSound_5 4 rfl rfl)
theorem dX1_isSound_118 : decode cX1_isSound 118 = .ok (.aload_n 0, 1) := dk_42 (dk_at dksX1_isSound_5 5 rfl rfl)
theorem dX1_isSound_119 : decode cX1_isSound 119 = .ok (.aload_n 3, 1) := dk_45 (dk_at dksX1_isSound_5 6 rfl rfl)
theorem dX1_isSound_120 : decode cX1_isSound 120 = .ok (.invokevirtual 403, 3) := dk_182 1 147 (dk_at dksX1_isSound_5 7 rfl rfl)
theorem dX1_isSound_123 : decode cX1_isSound 123 = .ok (.aload_n 3, 1) := dk_45 (dk_at dksX1_isSound_5 10 rfl rfl)
theorem dX1_isSound_124 : decode cX1_isSound 124 = .ok (.getfield 407, 3) := dk_180 1 151 (dk_at dksX1_isSound_5 11 rfl rfl)
theorem dX1_isSound_127 : decode cX1_isSound 127 = .ok (.if_icmp .gt 7, 3) := dk_163 0 7 (dk_at dksX1_isSound_5 14 rfl rfl)
theorem dX1_isSound_130 : decode cX1_isSound 130 = .ok (.iconst 1, 1) := dk_4 (dk_at dksX1_isSound_5 17 rfl rfl)
theorem dX1_isSound_131 : decode cX1_isSound 131 = .ok (.goto 4, 3) := dk_167 0 4 (dk_at dksX1_isSound_5 18 rfl rfl)
theorem dX1_isSound_134 : decode cX1_isSound 134 = .ok (.iconst 0, 1) := dk_3 (dk_at dksX1_isSound_5 21 rfl rfl)
theorem dX1_isSound_135 : decode cX1_isSound 135 = .ok (.iand, 1) := dk_126 (dk_at dksX1_isSound_5 22 rfl rfl)
theorem dX1_isSound_136 : decode cX1_isSound 136 = .ok (.istore_n 1, 1) := dk_60 (dk_at dksX1_isSound_5 23 rfl rfl)
theorem dX1_isSound_137 : decode cX1_isSound 137 = .ok (.goto (-39), 3) := dk_167 255 217 (dk_at dksX1_isSound_6 0 rfl rfl)
theorem dX1_isSound_140 : decode cX1_isSound 140 = .ok (.aload_n 0, 1) := dk_42 (dk_at dksX1_isSound_6 3 rfl rfl)
theorem dX1_isSound_141 : decode cX1_isSound 141 = .ok (.getfield 34, 3) := dk_180 0 34 (dk_at dksX1_isSound_6 4 rfl rfl)
theorem dX1_isSound_144 : decode cX1_isSound 144 = .ok (.invokevirtual 84, 3) := dk_182 0 84 (dk_at dksX1_isSound_6 7 rfl rfl)
theorem dX1_isSound_147 : decode cX1_isSound 147 = .ok (.astore_n 2, 1) := dk_77 (dk_at dksX1_isSound_6 10 rfl rfl)
theorem dX1_isSound_148 : decode cX1_isSound 148 = .ok (.aload_n 2, 1) := dk_44 (dk_at dksX1_isSound_6 11 rfl rfl)
theorem dX1_isSound_149 : decode cX1_isSound 149 = .ok (.invokeinterface 88 1, 5) := by decide +kernel
theorem dX1_isSound_154 : decode cX1_isSound 154 = .ok (.ifCond .eq 31, 3) := dk_153 0 31 (dk_at dksX1_isSound_6 17 rfl rfl)
theorem dX1_isSound_157 : decode cX1_isSound 157 = .ok (.aload_n 2, 1) := dk_44 (dk_at dksX1_isSound_6 20 rfl rfl)
theorem dX1_isSound_158 : decode cX1_isSound 158 = .ok (.invokeinterface 94 1, 5) := by decide +kernel
theorem dX1_isSound_163 : decode cX1_isSound 163 = .ok (.checkcast 269, 3) := dk_192 1 13 (dk_at dksX1_isSound_7 5 rfl rfl)
theorem dX1_isSound_166 : decode cX1_isSound 166 = .ok (.astore_n 3, 1) := dk_78 (dk_at dksX1_isSound_7 8 rfl rfl)
theorem dX1_isSound_167 : decode cX1_isSound 167 = .ok (.iload_n 1, 1) := dk_27 (dk_at dksX1_isSound_7 9 rfl rfl)
theorem dX1_isSound_168 : decode cX1_isSound 168 = .ok (.aload_n 3, 1) := dk_45 (dk_at dksX1_isSound_7 10 rfl rfl)
theorem dX1_isSound_169 : decode cX1_isSound 169 = .ok (.getfield 275, 3) := dk_180 1 19 (dk_at dksX1_isSound_7 11 rfl rfl)
theorem dX1_isSound_172 : decode cX1_isSound 172 = .ok (.ifCond .lt 7, 3) := dk_155 0 7 (dk_at dksX1_isSound_7 14 rfl rfl)
theorem dX1_isSound_175 : decode cX1_isSound 175 = .ok (.iconst 1, 1) := dk_4 (dk_at dksX1_isSound_7 17 rfl rfl)
theorem dX1_isSound_176 : decode cX1_isSound 176 = .ok (.goto 4, 3) := dk_167 0 4 (dk_at dksX1_isSound_7 18 rfl rfl)
theorem dX1_isSound_179 : decode cX1_isSound 179 = .ok (.iconst 0, 1) := dk_3 (dk_at dksX1_isSound_7 21 rfl rfl)
theorem dX1_isSound_180 : decode cX1_isSound 180 = .ok (.iand, 1) := dk_126 (dk_at dksX1_isSound_7 22 rfl rfl)
theorem dX1_isSound_181 : decode cX1_isSound 181 = .ok (.istore_n 1, 1) := dk_60 (dk_at dksX1_isSound_7 23 rfl rfl)
theorem dX1_isSound_182 : decode cX1_isSound 182 = .ok (.goto (-34), 3) := dk_167 255 222 (dk_at dksX1_isSound_8 0 rfl rfl)
theorem dX1_isSound_185 : decode cX1_isSound 185 = .ok (.iload_n 1, 1) := dk_27 (dk_at dksX1_isSound_8 3 rfl rfl)
theorem dX1_isSound_186 : decode cX1_isSound 186 = .ok (.ireturn, 1) := dk_172 (dk_at dksX1_isSound_8 4 rfl rfl)
abbrev cX1_isTold : ByteArray := prog_1_method_90_code
def yX1_isTold : MethodName := ⟨RX1, "isTold", "(LVaultyard$Thing;)Z"⟩
def dkwX1_isTold_6 : List UInt8 := [167, 0, 4, 3, 172]
abbrev dktX1_isTold_6 : List UInt8 := dkwX1_isTold_6 ++ []
def dkwX1_isTold_5 : List UInt8 := [17, 3, 232, 163, 0, 22, 43, 180, 0, 98, 199, 0, 11, 29, 43, 180, 0, 115, 160, 0, 7, 4]
abbrev dktX1_isTold_5 : List UInt8 := dkwX1_isTold_5 ++ dktX1_isTold_6
def dkwX1_isTold_4 : List UInt8 := [16, 119, 62, 167, 0, 9, 25, 5, 182, 0, 233, 62, 167, 255, 119, 28, 43, 180, 0, 223, 160, 0, 29, 28]
abbrev dktX1_isTold_4 : List UInt8 := dkwX1_isTold_4 ++ dktX1_isTold_5
def dkwX1_isTold_3 : List UInt8 := [28, 25, 5, 182, 0, 236, 96, 61, 167, 0, 27, 16, 114, 62, 167, 0, 21, 16, 108, 62, 167, 0, 15]
abbrev dktX1_isTold_3 : List UInt8 := dkwX1_isTold_3 ++ dktX1_isTold_4
def dkwX1_isTold_2 : List UInt8 := [170, 0, 0, 0, 0, 0, 104, 0, 0, 0, 100, 0, 0, 0, 114, 0, 0, 0, 75, 0, 0, 0, 75, 0, 0, 0, 75, 0, 0, 0, 104, 0, 0, 0, 75, 0, 0, 0, 86, 0, 0, 0, 104, 0, 0, 0, 104, 0, 0, 0, 104, 0, 0, 0, 104, 0, 0, 0, 104, 0, 0, 0, 92, 0, 0, 0, 104, 0, 0, 0, 104, 0, 0, 0, 98]
abbrev dktX1_isTold_2 : List UInt8 := dkwX1_isTold_2 ++ dktX1_isTold_3
def dkwX1_isTold_1 : List UInt8 := [25, 4, 185, 0, 94, 1, 0, 192, 0, 229, 58, 5, 25, 5, 182, 0, 233]
abbrev dktX1_isTold_1 : List UInt8 := dkwX1_isTold_1 ++ dktX1_isTold_2
def dkwX1_isTold_0 : List UInt8 := [3, 61, 16, 114, 62, 43, 180, 0, 226, 182, 0, 84, 58, 4, 25, 4, 185, 0, 88, 1, 0, 153, 0, 133]
abbrev dktX1_isTold_0 : List UInt8 := dkwX1_isTold_0 ++ dktX1_isTold_1
theorem dksX1_isTold_0 : cX1_isTold.data.toList.drop 0 = dktX1_isTold_0 := by decide +kernel
theorem dksX1_isTold_1 : cX1_isTold.data.toList.drop 24 = dktX1_isTold_1 := dk_seg dksX1_isTold_0 24 rfl rfl
theorem dksX1_isTold_2 : cX1_isTold.data.toList.drop 41 = dktX1_isTold_2 := dk_seg dksX1_isTold_1 17 rfl rfl
theorem dksX1_isTold_3 : cX1_isTold.data.toList.drop 116 = dktX1_isTold_3 := dk_seg dksX1_isTold_2 75 rfl rfl
theorem dksX1_isTold_4 : cX1_isTold.data.toList.drop 139 = dktX1_isTold_4 := dk_seg dksX1_isTold_3 23 rfl rfl
theorem dksX1_isTold_5 : cX1_isTold.data.toList.drop 163 = dktX1_isTold_5 := dk_seg dksX1_isTold_4 24 rfl rfl
theorem dksX1_isTold_6 : cX1_isTold.data.toList.drop 185 = dktX1_isTold_6 := dk_seg dksX1_isTold_5 22 rfl rfl
theorem dX1_isTold_0 : decode cX1_isTold 0 = .ok (.iconst 0, 1) := dk_3 (dk_at dksX1_isTold_0 0 rfl rfl)
theorem dX1_isTold_1 : decode cX1_isTold 1 = .ok (.istore_n 2, 1) := dk_61 (dk_at dksX1_isTold_0 1 rfl rfl)
theorem dX1_isTold_2 : decode cX1_isTold 2 = .ok (.bipush 114, 2) := dk_16 114 (dk_at dksX1_isTold_0 2 rfl rfl)
theorem dX1_isTold_4 : decode cX1_isTold 4 = .ok (.istore_n 3, 1) := dk_62 (dk_at dksX1_isTold_0 4 rfl rfl)
theorem dX1_isTold_5 : decode cX1_isTold 5 = .ok (.aload_n 1, 1) := dk_43 (dk_at dksX1_isTold_0 5 rfl rfl)
theorem dX1_isTold_6 : decode cX1_isTold 6 = .ok (.getfield 226, 3) := dk_180 0 226 (dk_at dksX1_isTold_0 6 rfl rfl)
theorem dX1_isTold_9 : decode cX1_isTold 9 = .ok (.invokevirtual 84, 3) := dk_182 0 84 (dk_at dksX1_isTold_0 9 rfl rfl)
theorem dX1_isTold_12 : decode cX1_isTold 12 = .ok (.astore 4, 2) := dk_58 4 (dk_at dksX1_isTold_0 12 rfl rfl)
theorem dX1_isTold_14 : decode cX1_isTold 14 = .ok (.aload 4, 2) := dk_25 4 (dk_at dksX1_isTold_0 14 rfl rfl)
theorem dX1_isTold_16 : decode cX1_isTold 16 = .ok (.invokeinterface 88 1, 5) := by decide +kernel
theorem dX1_isTold_21 : decode cX1_isTold 21 = .ok (.ifCond .eq 133, 3) := dk_153 0 133 (dk_at dksX1_isTold_0 21 rfl rfl)
theorem dX1_isTold_24 : decode cX1_isTold 24 = .ok (.aload 4, 2) := dk_25 4 (dk_at dksX1_isTold_1 0 rfl rfl)
theorem dX1_isTold_26 : decode cX1_isTold 26 = .ok (.invokeinterface 94 1, 5) := by decide +kernel
theorem dX1_isTold_31 : decode cX1_isTold 31 = .ok (.checkcast 229, 3) := dk_192 0 229 (dk_at dksX1_isTold_1 7 rfl rfl)
theorem dX1_isTold_34 : decode cX1_isTold 34 = .ok (.astore 5, 2) := dk_58 5 (dk_at dksX1_isTold_1 10 rfl rfl)
theorem dX1_isTold_36 : decode cX1_isTold 36 = .ok (.aload 5, 2) := dk_25 5 (dk_at dksX1_isTold_1 12 rfl rfl)
theorem dX1_isTold_38 : decode cX1_isTold 38 = .ok (.invokevirtual 233, 3) := dk_182 0 233 (dk_at dksX1_isTold_1 14 rfl rfl)
theorem dX1_isTold_41 : decode cX1_isTold 41 = .ok (.tableswitch 104 100 114 #[75, 75, 75, 104, 75, 86, 104, 104, 104, 104, 104, 92, 104, 104, 98], 75) := by decide +kernel
theorem dX1_isTold_116 : decode cX1_isTold 116 = .ok (.iload_n 2, 1) := dk_28 (dk_at dksX1_isTold_3 0 rfl rfl)
theorem dX1_isTold_117 : decode cX1_isTold 117 = .ok (.aload 5, 2) := dk_25 5 (dk_at dksX1_isTold_3 1 rfl rfl)
theorem dX1_isTold_119 : decode cX1_isTold 119 = .ok (.invokevirtual 236, 3) := dk_182 0 236 (dk_at dksX1_isTold_3 3 rfl rfl)
theorem dX1_isTold_122 : decode cX1_isTold 122 = .ok (.iadd, 1) := dk_96 (dk_at dksX1_isTold_3 6 rfl rfl)
theorem dX1_isTold_123 : decode cX1_isTold 123 = .ok (.istore_n 2, 1) := dk_61 (dk_at dksX1_isTold_3 7 rfl rfl)
theorem dX1_isTold_124 : decode cX1_isTold 124 = .ok (.goto 27, 3) := dk_167 0 27 (dk_at dksX1_isTold_3 8 rfl rfl)
theorem dX1_isTold_127 : decode cX1_isTold 127 = .ok (.bipush 114, 2) := dk_16 114 (dk_at dksX1_isTold_3 11 rfl rfl)
theorem dX1_isTold_129 : decode cX1_isTold 129 = .ok (.istore_n 3, 1) := dk_62 (dk_at dksX1_isTold_3 13 rfl rfl)
theorem dX1_isTold_130 : decode cX1_isTold 130 = .ok (.goto 21, 3) := dk_167 0 21 (dk_at dksX1_isTold_3 14 rfl rfl)
theorem dX1_isTold_133 : decode cX1_isTold 133 = .ok (.bipush 108, 2) := dk_16 108 (dk_at dksX1_isTold_3 17 rfl rfl)
theorem dX1_isTold_135 : decode cX1_isTold 135 = .ok (.istore_n 3, 1) := dk_62 (dk_at dksX1_isTold_3 19 rfl rfl)
theorem dX1_isTold_136 : decode cX1_isTold 136 = .ok (.goto 15, 3) := dk_167 0 15 (dk_at dksX1_isTold_3 20 rfl rfl)
theorem dX1_isTold_139 : decode cX1_isTold 139 = .ok (.bipush 119, 2) := dk_16 119 (dk_at dksX1_isTold_4 0 rfl rfl)
theorem dX1_isTold_141 : decode cX1_isTold 141 = .ok (.istore_n 3, 1) := dk_62 (dk_at dksX1_isTold_4 2 rfl rfl)
theorem dX1_isTold_142 : decode cX1_isTold 142 = .ok (.goto 9, 3) := dk_167 0 9 (dk_at dksX1_isTold_4 3 rfl rfl)
theorem dX1_isTold_145 : decode cX1_isTold 145 = .ok (.aload 5, 2) := dk_25 5 (dk_at dksX1_isTold_4 6 rfl rfl)
theorem dX1_isTold_147 : decode cX1_isTold 147 = .ok (.invokevirtual 233, 3) := dk_182 0 233 (dk_at dksX1_isTold_4 8 rfl rfl)
theorem dX1_isTold_150 : decode cX1_isTold 150 = .ok (.istore_n 3, 1) := dk_62 (dk_at dksX1_isTold_4 11 rfl rfl)
theorem dX1_isTold_151 : decode cX1_isTold 151 = .ok (.goto (-137), 3) := dk_167 255 119 (dk_at dksX1_isTold_4 12 rfl rfl)
theorem dX1_isTold_154 : decode cX1_isTold 154 = .ok (.iload_n 2, 1) := dk_28 (dk_at dksX1_isTold_4 15 rfl rfl)
theorem dX1_isTold_155 : decode cX1_isTold 155 = .ok (.aload_n 1, 1) := dk_43 (dk_at dksX1_isTold_4 16 rfl rfl)
theorem dX1_isTold_156 : decode cX1_isTold 156 = .ok (.getfield 223, 3) := dk_180 0 223 (dk_at dksX1_isTold_4 17 rfl rfl)
theorem dX1_isTold_159 : decode cX1_isTold 159 = .ok (.if_icmp .ne 29, 3) := dk_160 0 29 (dk_at dksX1_isTold_4 20 rfl rfl)
theorem dX1_isTold_162 : decode cX1_isTold 162 = .ok (.iload_n 2, 1) := dk_28 (dk_at dksX1_isTold_4 23 rfl rfl)
theorem dX1_isTold_163 : decode cX1_isTold 163 = .ok (.sipush 1000, 3) := dk_17 3 232 (dk_at dksX1_isTold_5 0 rfl rfl)
theorem dX1_isTold_166 : decode cX1_isTold 166 = .ok (.if_icmp .gt 22, 3) := dk_163 0 22 (dk_at dksX1_isTold_5 3 rfl rfl)
theorem dX1_isTold_169 : decode cX1_isTold 169 = .ok (.aload_n 1, 1) := dk_43 (dk_at dksX1_isTold_5 6 rfl rfl)
theorem dX1_isTold_170 : decode cX1_isTold 170 = .ok (.getfield 98, 3) := dk_180 0 98 (dk_at dksX1_isTold_5 7 rfl rfl)
theorem dX1_isTold_173 : decode cX1_isTold 173 = .ok (.ifnonnull 11, 3) := dk_199 0 11 (dk_at dksX1_isTold_5 10 rfl rfl)
theorem dX1_isTold_176 : decode cX1_isTold 176 = .ok (.iload_n 3, 1) := dk_29 (dk_at dksX1_isTold_5 13 rfl rfl)
theorem dX1_isTold_177 : decode cX1_isTold 177 = .ok (.aload_n 1, 1) := dk_43 (dk_at dksX1_isTold_5 14 rfl rfl)
theorem dX1_isTold_178 : decode cX1_isTold 178 = .ok (.getfield 115, 3) := dk_180 0 115 (dk_at dksX1_isTold_5 15 rfl rfl)
theorem dX1_isTold_181 : decode cX1_isTold 181 = .ok (.if_icmp .ne 7, 3) := dk_160 0 7 (dk_at dksX1_isTold_5 18 rfl rfl)
theorem dX1_isTold_184 : decode cX1_isTold 184 = .ok (.iconst 1, 1) := dk_4 (dk_at dksX1_isTold_5 21 rfl rfl)
theorem dX1_isTold_185 : decode cX1_isTold 185 = .ok (.goto 4, 3) := dk_167 0 4 (dk_at dksX1_isTold_6 0 rfl rfl)
theorem dX1_isTold_188 : decode cX1_isTold 188 = .ok (.iconst 0, 1) := dk_3 (dk_at dksX1_isTold_6 3 rfl rfl)
theorem dX1_isTold_189 : decode cX1_isTold 189 = .ok (.ireturn, 1) := dk_172 (dk_at dksX1_isTold_6 4 rfl rfl)
abbrev cX1_taken : ByteArray := prog_1_method_12_code
def yX1_taken : MethodName := ⟨RX1, "taken", "(LVaultyard$Room;)I"⟩
def dkwX1_taken_2 : List UInt8 := [182, 0, 102, 153, 0, 11, 25, 4, 180, 0, 106, 167, 0, 4, 3, 96, 61, 167, 255, 207, 28, 172]
abbrev dktX1_taken_2 : List UInt8 := dkwX1_taken_2 ++ []
def dkwX1_taken_1 : List UInt8 := [185, 0, 94, 1, 0, 192, 0, 76, 58, 4, 28, 25, 4, 180, 0, 98, 199, 0, 20, 25, 4, 43]
abbrev dktX1_taken_1 : List UInt8 := dkwX1_taken_1 ++ dktX1_taken_2
def dkwX1_taken_0 : List UInt8 := [3, 61, 42, 180, 0, 19, 182, 0, 84, 78, 45, 185, 0, 88, 1, 0, 153, 0, 46, 45]
abbrev dktX1_taken_0 : List UInt8 := dkwX1_taken_0 ++ dktX1_taken_1
theorem dksX1_taken_0 : cX1_taken.data.toList.drop 0 = dktX1_taken_0 := by decide +kernel
theorem dksX1_taken_1 : cX1_taken.data.toList.drop 20 = dktX1_taken_1 := dk_seg dksX1_taken_0 20 rfl rfl
theorem dksX1_taken_2 : cX1_taken.data.toList.drop 42 = dktX1_taken_2 := dk_seg dksX1_taken_1 22 rfl rfl
theorem dX1_taken_0 : decode cX1_taken 0 = .ok (.iconst 0, 1) := dk_3 (dk_at dksX1_taken_0 0 rfl rfl)
theorem dX1_taken_1 : decode cX1_taken 1 = .ok (.istore_n 2, 1) := dk_61 (dk_at dksX1_taken_0 1 rfl rfl)
theorem dX1_taken_2 : decode cX1_taken 2 = .ok (.aload_n 0, 1) := dk_42 (dk_at dksX1_taken_0 2 rfl rfl)
theorem dX1_taken_3 : decode cX1_taken 3 = .ok (.getfield 19, 3) := dk_180 0 19 (dk_at dksX1_taken_0 3 rfl rfl)
theorem dX1_taken_6 : decode cX1_taken 6 = .ok (.invokevirtual 84, 3) := dk_182 0 84 (dk_at dksX1_taken_0 6 rfl rfl)
theorem dX1_taken_9 : decode cX1_taken 9 = .ok (.astore_n 3, 1) := dk_78 (dk_at dksX1_taken_0 9 rfl rfl)
theorem dX1_taken_10 : decode cX1_taken 10 = .ok (.aload_n 3, 1) := dk_45 (dk_at dksX1_taken_0 10 rfl rfl)
theorem dX1_taken_11 : decode cX1_taken 11 = .ok (.invokeinterface 88 1, 5) := by decide +kernel
theorem dX1_taken_16 : decode cX1_taken 16 = .ok (.ifCond .eq 46, 3) := dk_153 0 46 (dk_at dksX1_taken_0 16 rfl rfl)
theorem dX1_taken_19 : decode cX1_taken 19 = .ok (.aload_n 3, 1) := dk_45 (dk_at dksX1_taken_0 19 rfl rfl)
theorem dX1_taken_20 : decode cX1_taken 20 = .ok (.invokeinterface 94 1, 5) := by decide +kernel
theorem dX1_taken_25 : decode cX1_taken 25 = .ok (.checkcast 76, 3) := dk_192 0 76 (dk_at dksX1_taken_1 5 rfl rfl)
theorem dX1_taken_28 : decode cX1_taken 28 = .ok (.astore 4, 2) := dk_58 4 (dk_at dksX1_taken_1 8 rfl rfl)
theorem dX1_taken_30 : decode cX1_taken 30 = .ok (.iload_n 2, 1) := dk_28 (dk_at dksX1_taken_1 10 rfl rfl)
theorem dX1_taken_31 : decode cX1_taken 31 = .ok (.aload 4, 2) := dk_25 4 (dk_at dksX1_taken_1 11 rfl rfl)
theorem dX1_taken_33 : decode cX1_taken 33 = .ok (.getfield 98, 3) := dk_180 0 98 (dk_at dksX1_taken_1 13 rfl rfl)
theorem dX1_taken_36 : decode cX1_taken 36 = .ok (.ifnonnull 20, 3) := dk_199 0 20 (dk_at dksX1_taken_1 16 rfl rfl)
theorem dX1_taken_39 : decode cX1_taken 39 = .ok (.aload 4, 2) := dk_25 4 (dk_at dksX1_taken_1 19 rfl rfl)
theorem dX1_taken_41 : decode cX1_taken 41 = .ok (.aload_n 1, 1) := dk_43 (dk_at dksX1_taken_1 21 rfl rfl)
theorem dX1_taken_42 : decode cX1_taken 42 = .ok (.invokevirtual 102, 3) := dk_182 0 102 (dk_at dksX1_taken_2 0 rfl rfl)
theorem dX1_taken_45 : decode cX1_taken 45 = .ok (.ifCond .eq 11, 3) := dk_153 0 11 (dk_at dksX1_taken_2 3 rfl rfl)
theorem dX1_taken_48 : decode cX1_taken 48 = .ok (.aload 4, 2) := dk_25 4 (dk_at dksX1_taken_2 6 rfl rfl)
theorem dX1_taken_50 : decode cX1_taken 50 = .ok (.getfield 106, 3) := dk_180 0 106 (dk_at dksX1_taken_2 8 rfl rfl)
theorem dX1_taken_53 : decode cX1_taken 53 = .ok (.goto 4, 3) := dk_167 0 4 (dk_at dksX1_taken_2 11 rfl rfl)
theorem dX1_taken_56 : decode cX1_taken 56 = .ok (.iconst 0, 1) := dk_3 (dk_at dksX1_taken_2 14 rfl rfl)
theorem dX1_taken_57 : decode cX1_taken 57 = .ok (.iadd, 1) := dk_96 (dk_at dksX1_taken_2 15 rfl rfl)
theorem dX1_taken_58 : decode cX1_taken 58 = .ok (.istore_n 2, 1) := dk_61 (dk_at dksX1_taken_2 16 rfl rfl)
theorem dX1_taken_59 : decode cX1_taken 59 = .ok (.goto (-49), 3) := dk_167 255 207 (dk_at dksX1_taken_2 17 rfl rfl)
theorem dX1_taken_62 : decode cX1_taken 62 = .ok (.iload_n 2, 1) := dk_28 (dk_at dksX1_taken_2 20 rfl rfl)
theorem dX1_taken_63 : decode cX1_taken 63 = .ok (.ireturn, 1) := dk_172 (dk_at dksX1_taken_2 21 rfl rfl)
abbrev cX1_filled : ByteArray := prog_1_method_14_code
def yX1_filled : MethodName := ⟨RX1, "filled", "(LVaultyard$Box;)I"⟩
def dkwX1_filled_3 : List UInt8 := [61, 167, 255, 197, 28, 172]
abbrev dktX1_filled_3 : List UInt8 := dkwX1_filled_3 ++ []
def dkwX1_filled_2 : List UInt8 := [16, 98, 160, 0, 20, 25, 4, 180, 0, 119, 43, 166, 0, 11, 25, 4, 180, 0, 106, 167, 0, 4, 3, 96]
abbrev dktX1_filled_2 : List UInt8 := dkwX1_filled_2 ++ dktX1_filled_3
def dkwX1_filled_1 : List UInt8 := [185, 0, 94, 1, 0, 192, 0, 76, 58, 4, 28, 25, 4, 180, 0, 98, 199, 0, 30, 25, 4, 180, 0, 115]
abbrev dktX1_filled_1 : List UInt8 := dkwX1_filled_1 ++ dktX1_filled_2
def dkwX1_filled_0 : List UInt8 := [3, 61, 42, 180, 0, 19, 182, 0, 84, 78, 45, 185, 0, 88, 1, 0, 153, 0, 56, 45]
abbrev dktX1_filled_0 : List UInt8 := dkwX1_filled_0 ++ dktX1_filled_1
theorem dksX1_filled_0 : cX1_filled.data.toList.drop 0 = dktX1_filled_0 := by decide +kernel
theorem dksX1_filled_1 : cX1_filled.data.toList.drop 20 = dktX1_filled_1 := dk_seg dksX1_filled_0 20 rfl rfl
theorem dksX1_filled_2 : cX1_filled.data.toList.drop 44 = dktX1_filled_2 := dk_seg dksX1_filled_1 24 rfl rfl
theorem dksX1_filled_3 : cX1_filled.data.toList.drop 68 = dktX1_filled_3 := dk_seg dksX1_filled_2 24 rfl rfl
theorem dX1_filled_0 : decode cX1_filled 0 = .ok (.iconst 0, 1) := dk_3 (dk_at dksX1_filled_0 0 rfl rfl)
theorem dX1_filled_1 : decode cX1_filled 1 = .ok (.istore_n 2, 1) := dk_61 (dk_at dksX1_filled_0 1 rfl rfl)
theorem dX1_filled_2 : decode cX1_filled 2 = .ok (.aload_n 0, 1) := dk_42 (dk_at dksX1_filled_0 2 rfl rfl)
theorem dX1_filled_3 : decode cX1_filled 3 = .ok (.getfield 19, 3) := dk_180 0 19 (dk_at dksX1_filled_0 3 rfl rfl)
theorem dX1_filled_6 : decode cX1_filled 6 = .ok (.invokevirtual 84, 3) := dk_182 0 84 (dk_at dksX1_filled_0 6 rfl rfl)
theorem dX1_filled_9 : decode cX1_filled 9 = .ok (.astore_n 3, 1) := dk_78 (dk_at dksX1_filled_0 9 rfl rfl)
theorem dX1_filled_10 : decode cX1_filled 10 = .ok (.aload_n 3, 1) := dk_45 (dk_at dksX1_filled_0 10 rfl rfl)
theorem dX1_filled_11 : decode cX1_filled 11 = .ok (.invokeinterface 88 1, 5) := by decide +kernel
theorem dX1_filled_16 : decode cX1_filled 16 = .ok (.ifCond .eq 56, 3) := dk_153 0 56 (dk_at dksX1_filled_0 16 rfl rfl)
theorem dX1_filled_19 : decode cX1_filled 19 = .ok (.aload_n 3, 1) := dk_45 (dk_at dksX1_filled_0 19 rfl rfl)
theorem dX1_filled_20 : decode cX1_filled 20 = .ok (.invokeinterface 94 1, 5) := by decide +kernel
theorem dX1_filled_25 : decode cX1_filled 25 = .ok (.checkcast 76, 3) := dk_192 0 76 (dk_at dksX1_filled_1 5 rfl rfl)
theorem dX1_filled_28 : decode cX1_filled 28 = .ok (.astore 4, 2) := dk_58 4 (dk_at dksX1_filled_1 8 rfl rfl)
theorem dX1_filled_30 : decode cX1_filled 30 = .ok (.iload_n 2, 1) := dk_28 (dk_at dksX1_filled_1 10 rfl rfl)
theorem dX1_filled_31 : decode cX1_filled 31 = .ok (.aload 4, 2) := dk_25 4 (dk_at dksX1_filled_1 11 rfl rfl)
theorem dX1_filled_33 : decode cX1_filled 33 = .ok (.getfield 98, 3) := dk_180 0 98 (dk_at dksX1_filled_1 13 rfl rfl)
theorem dX1_filled_36 : decode cX1_filled 36 = .ok (.ifnonnull 30, 3) := dk_199 0 30 (dk_at dksX1_filled_1 16 rfl rfl)
theorem dX1_filled_39 : decode cX1_filled 39 = .ok (.aload 4, 2) := dk_25 4 (dk_at dksX1_filled_1 19 rfl rfl)
theorem dX1_filled_41 : decode cX1_filled 41 = .ok (.getfield 115, 3) := dk_180 0 115 (dk_at dksX1_filled_1 21 rfl rfl)
theorem dX1_filled_44 : decode cX1_filled 44 = .ok (.bipush 98, 2) := dk_16 98 (dk_at dksX1_filled_2 0 rfl rfl)
theorem dX1_filled_46 : decode cX1_filled 46 = .ok (.if_icmp .ne 20, 3) := dk_160 0 20 (dk_at dksX1_filled_2 2 rfl rfl)
theorem dX1_filled_49 : decode cX1_filled 49 = .ok (.aload 4, 2) := dk_25 4 (dk_at dksX1_filled_2 5 rfl rfl)
theorem dX1_filled_51 : decode cX1_filled 51 = .ok (.getfield 119, 3) := dk_180 0 119 (dk_at dksX1_filled_2 7 rfl rfl)
theorem dX1_filled_54 : decode cX1_filled 54 = .ok (.aload_n 1, 1) := dk_43 (dk_at dksX1_filled_2 10 rfl rfl)
theorem dX1_filled_55 : decode cX1_filled 55 = .ok (.if_acmp .ne 11, 3) := dk_166 0 11 (dk_at dksX1_filled_2 11 rfl rfl)
theorem dX1_filled_58 : decode cX1_filled 58 = .ok (.aload 4, 2) := dk_25 4 (dk_at dksX1_filled_2 14 rfl rfl)
theorem dX1_filled_60 : decode cX1_filled 60 = .ok (.getfield 106, 3) := dk_180 0 106 (dk_at dksX1_filled_2 16 rfl rfl)
theorem dX1_filled_63 : decode cX1_filled 63 = .ok (.goto 4, 3) := dk_167 0 4 (dk_at dksX1_filled_2 19 rfl rfl)
theorem dX1_filled_66 : decode cX1_filled 66 = .ok (.iconst 0, 1) := dk_3 (dk_at dksX1_filled_2 22 rfl rfl)
theorem dX1_filled_67 : decode cX1_filled 67 = .ok (.iadd, 1) := dk_96 (dk_at dksX1_filled_2 23 rfl rfl)
theorem dX1_filled_68 : decode cX1_filled 68 = .ok (.istore_n 2, 1) := dk_61 (dk_at dksX1_filled_3 0 rfl rfl)
theorem dX1_filled_69 : decode cX1_filled 69 = .ok (.goto (-59), 3) := dk_167 255 197 (dk_at dksX1_filled_3 1 rfl rfl)
theorem dX1_filled_72 : decode cX1_filled 72 = .ok (.iload_n 2, 1) := dk_28 (dk_at dksX1_filled_3 4 rfl rfl)
theorem dX1_filled_73 : decode cX1_filled 73 = .ok (.ireturn, 1) := dk_172 (dk_at dksX1_filled_3 5 rfl rfl)
abbrev cX1_material : ByteArray := prog_1_method_17_code
def yX1_material : MethodName := ⟨RX1, "material", "(IIIIZ)I"⟩
def dkwX1_material_4 : List UInt8 := [180, 0, 10, 182, 0, 62, 4, 100, 172]
abbrev dktX1_material_4 : List UInt8 := dkwX1_material_4 ++ []
def dkwX1_material_3 : List UInt8 := [180, 0, 10, 187, 0, 146, 89, 27, 28, 29, 21, 4, 21, 5, 183, 0, 148, 182, 0, 131, 87, 42]
abbrev dktX1_material_3 : List UInt8 := dkwX1_material_3 ++ dktX1_material_4
def dkwX1_material_2 : List UInt8 := [184, 0, 135, 42, 180, 0, 10, 182, 0, 62, 16, 6, 162, 0, 7, 4, 167, 0, 4, 3, 184, 0, 143, 42]
abbrev dktX1_material_2 : List UInt8 := dkwX1_material_2 ++ dktX1_material_3
def dkwX1_material_1 : List UInt8 := [16, 100, 184, 0, 139, 153, 0, 18, 21, 4, 3, 16, 15, 184, 0, 139, 153, 0, 7, 4, 167, 0, 4, 3]
abbrev dktX1_material_1 : List UInt8 := dkwX1_material_1 ++ dktX1_material_2
def dkwX1_material_0 : List UInt8 := [27, 3, 17, 39, 15, 184, 0, 139, 153, 0, 38, 28, 3, 16, 100, 184, 0, 139, 153, 0, 28, 29, 28]
abbrev dktX1_material_0 : List UInt8 := dkwX1_material_0 ++ dktX1_material_1
theorem dksX1_material_0 : cX1_material.data.toList.drop 0 = dktX1_material_0 := by decide +kernel
theorem dksX1_material_1 : cX1_material.data.toList.drop 23 = dktX1_material_1 := dk_seg dksX1_material_0 23 rfl rfl
theorem dksX1_material_2 : cX1_material.data.toList.drop 47 = dktX1_material_2 := dk_seg dksX1_material_1 24 rfl rfl
theorem dksX1_material_3 : cX1_material.data.toList.drop 71 = dktX1_material_3 := dk_seg dksX1_material_2 24 rfl rfl
theorem dksX1_material_4 : cX1_material.data.toList.drop 93 = dktX1_material_4 := dk_seg dksX1_material_3 22 rfl rfl
theorem dX1_material_0 : decode cX1_material 0 = .ok (.iload_n 1, 1) := dk_27 (dk_at dksX1_material_0 0 rfl rfl)
theorem dX1_material_1 : decode cX1_material 1 = .ok (.iconst 0, 1) := dk_3 (dk_at dksX1_material_0 1 rfl rfl)
theorem dX1_material_2 : decode cX1_material 2 = .ok (.sipush 9999, 3) := dk_17 39 15 (dk_at dksX1_material_0 2 rfl rfl)
theorem dX1_material_5 : decode cX1_material 5 = .ok (.invokestatic 139, 3) := dk_184 0 139 (dk_at dksX1_material_0 5 rfl rfl)
theorem dX1_material_8 : decode cX1_material 8 = .ok (.ifCond .eq 38, 3) := dk_153 0 38 (dk_at dksX1_material_0 8 rfl rfl)
theorem dX1_material_11 : decode cX1_material 11 = .ok (.iload_n 2, 1) := dk_28 (dk_at dksX1_material_0 11 rfl rfl)
theorem dX1_material_12 : decode cX1_material 12 = .ok (.iconst 0, 1) := dk_3 (dk_at dksX1_material_0 12 rfl rfl)
theorem dX1_material_13 : decode cX1_material 13 = .ok (.bipush 100, 2) := dk_16 100 (dk_at dksX1_material_0 13 rfl rfl)
theorem dX1_material_15 : decode cX1_material 15 = .ok (.invokestatic 139, 3) := dk_184 0 139 (dk_at dksX1_material_0 15 rfl rfl)
theorem dX1_material_18 : decode cX1_material 18 = .ok (.ifCond .eq 28, 3) := dk_153 0 28 (dk_at dksX1_material_0 18 rfl rfl)
theorem dX1_material_21 : decode cX1_material 21 = .ok (.iload_n 3, 1) := dk_29 (dk_at dksX1_material_0 21 rfl rfl)
theorem dX1_material_22 : decode cX1_material 22 = .ok (.iload_n 2, 1) := dk_28 (dk_at dksX1_material_0 22 rfl rfl)
theorem dX1_material_23 : decode cX1_material 23 = .ok (.bipush 100, 2) := dk_16 100 (dk_at dksX1_material_1 0 rfl rfl)
theorem dX1_material_25 : decode cX1_material 25 = .ok (.invokestatic 139, 3) := dk_184 0 139 (dk_at dksX1_material_1 2 rfl rfl)
theorem dX1_material_28 : decode cX1_material 28 = .ok (.ifCond .eq 18, 3) := dk_153 0 18 (dk_at dksX1_material_1 5 rfl rfl)
theorem dX1_material_31 : decode cX1_material 31 = .ok (.iload 4, 2) := dk_21 4 (dk_at dksX1_material_1 8 rfl rfl)
theorem dX1_material_33 : decode cX1_material 33 = .ok (.iconst 0, 1) := dk_3 (dk_at dksX1_material_1 10 rfl rfl)
theorem dX1_material_34 : decode cX1_material 34 = .ok (.bipush 15, 2) := dk_16 15 (dk_at dksX1_material_1 11 rfl rfl)
theorem dX1_material_36 : decode cX1_material 36 = .ok (.invokestatic 139, 3) := dk_184 0 139 (dk_at dksX1_material_1 13 rfl rfl)
theorem dX1_material_39 : decode cX1_material 39 = .ok (.ifCond .eq 7, 3) := dk_153 0 7 (dk_at dksX1_material_1 16 rfl rfl)
theorem dX1_material_42 : decode cX1_material 42 = .ok (.iconst 1, 1) := dk_4 (dk_at dksX1_material_1 19 rfl rfl)
theorem dX1_material_43 : decode cX1_material 43 = .ok (.goto 4, 3) := dk_167 0 4 (dk_at dksX1_material_1 20 rfl rfl)
theorem dX1_material_46 : decode cX1_material 46 = .ok (.iconst 0, 1) := dk_3 (dk_at dksX1_material_1 23 rfl rfl)
theorem dX1_material_47 : decode cX1_material 47 = .ok (.invokestatic 135, 3) := dk_184 0 135 (dk_at dksX1_material_2 0 rfl rfl)
theorem dX1_material_50 : decode cX1_material 50 = .ok (.aload_n 0, 1) := dk_42 (dk_at dksX1_material_2 3 rfl rfl)
theorem dX1_material_51 : decode cX1_material 51 = .ok (.getfield 10, 3) := dk_180 0 10 (dk_at dksX1_material_2 4 rfl rfl)
theorem dX1_material_54 : decode cX1_material 54 = .ok (.invokevirtual 62, 3) := dk_182 0 62 (dk_at dksX1_material_2 7 rfl rfl)
theorem dX1_material_57 : decode cX1_material 57 = .ok (.bipush 6, 2) := dk_16 6 (dk_at dksX1_material_2 10 rfl rfl)
theorem dX1_material_59 : decode cX1_material 59 = .ok (.if_icmp .ge 7, 3) := dk_162 0 7 (dk_at dksX1_material_2 12 rfl rfl)
theorem dX1_material_62 : decode cX1_material 62 = .ok (.iconst 1, 1) := dk_4 (dk_at dksX1_material_2 15 rfl rfl)
theorem dX1_material_63 : decode cX1_material 63 = .ok (.goto 4, 3) := dk_167 0 4 (dk_at dksX1_material_2 16 rfl rfl)
theorem dX1_material_66 : decode cX1_material 66 = .ok (.iconst 0, 1) := dk_3 (dk_at dksX1_material_2 19 rfl rfl)
theorem dX1_material_67 : decode cX1_material 67 = .ok (.invokestatic 143, 3) := dk_184 0 143 (dk_at dksX1_material_2 20 rfl rfl)
theorem dX1_material_70 : decode cX1_material 70 = .ok (.aload_n 0, 1) := dk_42 (dk_at dksX1_material_2 23 rfl rfl)
theorem dX1_material_71 : decode cX1_material 71 = .ok (.getfield 10, 3) := dk_180 0 10 (dk_at dksX1_material_3 0 rfl rfl)
theorem dX1_material_74 : decode cX1_material 74 = .ok (.new 146, 3) := dk_187 0 146 (dk_at dksX1_material_3 3 rfl rfl)
theorem dX1_material_77 : decode cX1_material 77 = .ok (.dup, 1) := dk_89 (dk_at dksX1_material_3 6 rfl rfl)
theorem dX1_material_78 : decode cX1_material 78 = .ok (.iload_n 1, 1) := dk_27 (dk_at dksX1_material_3 7 rfl rfl)
theorem dX1_material_79 : decode cX1_material 79 = .ok (.iload_n 2, 1) := dk_28 (dk_at dksX1_material_3 8 rfl rfl)
theorem dX1_material_80 : decode cX1_material 80 = .ok (.iload_n 3, 1) := dk_29 (dk_at dksX1_material_3 9 rfl rfl)
theorem dX1_material_81 : decode cX1_material 81 = .ok (.iload 4, 2) := dk_21 4 (dk_at dksX1_material_3 10 rfl rfl)
theorem dX1_material_83 : decode cX1_material 83 = .ok (.iload 5, 2) := dk_21 5 (dk_at dksX1_material_3 12 rfl rfl)
theorem dX1_material_85 : decode cX1_material 85 = .ok (.invokespecial 148, 3) := dk_183 0 148 (dk_at dksX1_material_3 14 rfl rfl)
theorem dX1_material_88 : decode cX1_material 88 = .ok (.invokevirtual 131, 3) := dk_182 0 131 (dk_at dksX1_material_3 17 rfl rfl)
theorem dX1_material_91 : decode cX1_material 91 = .ok (.pop, 1) := dk_87 (dk_at dksX1_material_3 20 rfl rfl)
theorem dX1_material_92 : decode cX1_material 92 = .ok (.aload_n 0, 1) := dk_42 (dk_at dksX1_material_3 21 rfl rfl)
theorem dX1_material_93 : decode cX1_material 93 = .ok (.getfield 10, 3) := dk_180 0 10 (dk_at dksX1_material_4 0 rfl rfl)
theorem dX1_material_96 : decode cX1_material 96 = .ok (.invokevirtual 62, 3) := dk_182 0 62 (dk_at dksX1_material_4 3 rfl rfl)
theorem dX1_material_99 : decode cX1_material 99 = .ok (.iconst 1, 1) := dk_4 (dk_at dksX1_material_4 6 rfl rfl)
theorem dX1_material_100 : decode cX1_material 100 = .ok (.isub, 1) := dk_100 (dk_at dksX1_material_4 7 rfl rfl)
theorem dX1_material_101 : decode cX1_material 101 = .ok (.ireturn, 1) := dk_172 (dk_at dksX1_material_4 8 rfl rfl)
abbrev cX1_in : ByteArray := prog_1_method_7_code
def yX1_in : MethodName := ⟨RX1, "in", "(III)Z"⟩
def dkwX1_in_0 : List UInt8 := [26, 27, 161, 0, 12, 26, 28, 163, 0, 7, 4, 167, 0, 4, 3, 172]
abbrev dktX1_in_0 : List UInt8 := dkwX1_in_0 ++ []
theorem dksX1_in_0 : cX1_in.data.toList.drop 0 = dktX1_in_0 := by decide +kernel
theorem dX1_in_0 : decode cX1_in 0 = .ok (.iload_n 0, 1) := dk_26 (dk_at dksX1_in_0 0 rfl rfl)
theorem dX1_in_1 : decode cX1_in 1 = .ok (.iload_n 1, 1) := dk_27 (dk_at dksX1_in_0 1 rfl rfl)
theorem dX1_in_2 : decode cX1_in 2 = .ok (.if_icmp .lt 12, 3) := dk_161 0 12 (dk_at dksX1_in_0 2 rfl rfl)
theorem dX1_in_5 : decode cX1_in 5 = .ok (.iload_n 0, 1) := dk_26 (dk_at dksX1_in_0 5 rfl rfl)
theorem dX1_in_6 : decode cX1_in 6 = .ok (.iload_n 2, 1) := dk_28 (dk_at dksX1_in_0 6 rfl rfl)
theorem dX1_in_7 : decode cX1_in 7 = .ok (.if_icmp .gt 7, 3) := dk_163 0 7 (dk_at dksX1_in_0 7 rfl rfl)
theorem dX1_in_10 : decode cX1_in 10 = .ok (.iconst 1, 1) := dk_4 (dk_at dksX1_in_0 10 rfl rfl)
theorem dX1_in_11 : decode cX1_in 11 = .ok (.goto 4, 3) := dk_167 0 4 (dk_at dksX1_in_0 11 rfl rfl)
theorem dX1_in_14 : decode cX1_in 14 = .ok (.iconst 0, 1) := dk_3 (dk_at dksX1_in_0 14 rfl rfl)
theorem dX1_in_15 : decode cX1_in 15 = .ok (.ireturn, 1) := dk_172 (dk_at dksX1_in_0 15 rfl rfl)
abbrev cX1_fits : ByteArray := prog_1_method_3_code
def yX1_fits : MethodName := ⟨RX1, "fits", "(Z)V"⟩
def dkwX1_fits_0 : List UInt8 := [26, 154, 0, 11, 187, 0, 50, 89, 183, 0, 52, 191, 177]
abbrev dktX1_fits_0 : List UInt8 := dkwX1_fits_0 ++ []
theorem dksX1_fits_0 : cX1_fits.data.toList.drop 0 = dktX1_fits_0 := by decide +kernel
theorem dX1_fits_0 : decode cX1_fits 0 = .ok (.iload_n 0, 1) := dk_26 (dk_at dksX1_fits_0 0 rfl rfl)
theorem dX1_fits_1 : decode cX1_fits 1 = .ok (.ifCond .ne 11, 3) := dk_154 0 11 (dk_at dksX1_fits_0 1 rfl rfl)
theorem dX1_fits_4 : decode cX1_fits 4 = .ok (.new 50, 3) := dk_187 0 50 (dk_at dksX1_fits_0 4 rfl rfl)
theorem dX1_fits_7 : decode cX1_fits 7 = .ok (.dup, 1) := dk_89 (dk_at dksX1_fits_0 7 rfl rfl)
theorem dX1_fits_8 : decode cX1_fits 8 = .ok (.invokespecial 52, 3) := dk_183 0 52 (dk_at dksX1_fits_0 8 rfl rfl)
theorem dX1_fits_11 : decode cX1_fits 11 = .ok (.athrow, 1) := dk_191 (dk_at dksX1_fits_0 11 rfl rfl)
theorem dX1_fits_12 : decode cX1_fits 12 = .ok (.return_, 1) := dk_177 (dk_at dksX1_fits_0 12 rfl rfl)
abbrev cX1_ready : ByteArray := prog_1_method_4_code
def yX1_ready : MethodName := ⟨RX1, "ready", "(Z)V"⟩
def dkwX1_ready_0 : List UInt8 := [26, 154, 0, 11, 187, 0, 53, 89, 183, 0, 55, 191, 177]
abbrev dktX1_ready_0 : List UInt8 := dkwX1_ready_0 ++ []
theorem dksX1_ready_0 : cX1_ready.data.toList.drop 0 = dktX1_ready_0 := by decide +kernel
theorem dX1_ready_0 : decode cX1_ready 0 = .ok (.iload_n 0, 1) := dk_26 (dk_at dksX1_ready_0 0 rfl rfl)
theorem dX1_ready_1 : decode cX1_ready 1 = .ok (.ifCond .ne 11, 3) := dk_154 0 11 (dk_at dksX1_ready_0 1 rfl rfl)
theorem dX1_ready_4 : decode cX1_ready 4 = .ok (.new 53, 3) := dk_187 0 53 (dk_at dksX1_ready_0 4 rfl rfl)
theorem dX1_ready_7 : decode cX1_ready 7 = .ok (.dup, 1) := dk_89 (dk_at dksX1_ready_0 7 rfl rfl)
theorem dX1_ready_8 : decode cX1_ready 8 = .ok (.invokespecial 55, 3) := dk_183 0 55 (dk_at dksX1_ready_0 8 rfl rfl)
theorem dX1_ready_11 : decode cX1_ready 11 = .ok (.athrow, 1) := dk_191 (dk_at dksX1_ready_0 11 rfl rfl)
theorem dX1_ready_12 : decode cX1_ready 12 = .ok (.return_, 1) := dk_177 (dk_at dksX1_ready_0 12 rfl rfl)
abbrev cX1_room : ByteArray := prog_1_method_19_code
def yX1_room : MethodName := ⟨RX1, "room", "(III)I"⟩
def dkwX1_room_3 : List UInt8 := [42, 180, 0, 16, 182, 0, 62, 4, 100, 172]
abbrev dktX1_room_3 : List UInt8 := dkwX1_room_3 ++ []
def dkwX1_room_2 : List UInt8 := [180, 0, 16, 187, 0, 74, 89, 42, 180, 0, 16, 182, 0, 62, 27, 28, 29, 183, 0, 155, 182, 0, 131, 87]
abbrev dktX1_room_2 : List UInt8 := dkwX1_room_2 ++ dktX1_room_3
def dkwX1_room_1 : List UInt8 := [184, 0, 135, 42, 180, 0, 16, 182, 0, 62, 8, 162, 0, 7, 4, 167, 0, 4, 3, 184, 0, 143, 42]
abbrev dktX1_room_1 : List UInt8 := dkwX1_room_1 ++ dktX1_room_2
def dkwX1_room_0 : List UInt8 := [27, 28, 184, 0, 151, 153, 0, 17, 29, 4, 16, 100, 184, 0, 139, 153, 0, 7, 4, 167, 0, 4, 3]
abbrev dktX1_room_0 : List UInt8 := dkwX1_room_0 ++ dktX1_room_1
theorem dksX1_room_0 : cX1_room.data.toList.drop 0 = dktX1_room_0 := by decide +kernel
theorem dksX1_room_1 : cX1_room.data.toList.drop 23 = dktX1_room_1 := dk_seg dksX1_room_0 23 rfl rfl
theorem dksX1_room_2 : cX1_room.data.toList.drop 46 = dktX1_room_2 := dk_seg dksX1_room_1 23 rfl rfl
theorem dksX1_room_3 : cX1_room.data.toList.drop 70 = dktX1_room_3 := dk_seg dksX1_room_2 24 rfl rfl
theorem dX1_room_0 : decode cX1_room 0 = .ok (.iload_n 1, 1) := dk_27 (dk_at dksX1_room_0 0 rfl rfl)
theorem dX1_room_1 : decode cX1_room 1 = .ok (.iload_n 2, 1) := dk_28 (dk_at dksX1_room_0 1 rfl rfl)
theorem dX1_room_2 : decode cX1_room 2 = .ok (.invokestatic 151, 3) := dk_184 0 151 (dk_at dksX1_room_0 2 rfl rfl)
theorem dX1_room_5 : decode cX1_room 5 = .ok (.ifCond .eq 17, 3) := dk_153 0 17 (dk_at dksX1_room_0 5 rfl rfl)
theorem dX1_room_8 : decode cX1_room 8 = .ok (.iload_n 3, 1) := dk_29 (dk_at dksX1_room_0 8 rfl rfl)
theorem dX1_room_9 : decode cX1_room 9 = .ok (.iconst 1, 1) := dk_4 (dk_at dksX1_room_0 9 rfl rfl)
theorem dX1_room_10 : decode cX1_room 10 = .ok (.bipush 100, 2) := dk_16 100 (dk_at dksX1_room_0 10 rfl rfl)
theorem dX1_room_12 : decode cX1_room 12 = .ok (.invokestatic 139, 3) := dk_184 0 139 (dk_at dksX1_room_0 12 rfl rfl)
theorem dX1_room_15 : decode cX1_room 15 = .ok (.ifCond .eq 7, 3) := dk_153 0 7 (dk_at dksX1_room_0 15 rfl rfl)
theorem dX1_room_18 : decode cX1_room 18 = .ok (.iconst 1, 1) := dk_4 (dk_at dksX1_room_0 18 rfl rfl)
theorem dX1_room_19 : decode cX1_room 19 = .ok (.goto 4, 3) := dk_167 0 4 (dk_at dksX1_room_0 19 rfl rfl)
theorem dX1_room_22 : decode cX1_room 22 = .ok (.iconst 0, 1) := dk_3 (dk_at dksX1_room_0 22 rfl rfl)
theorem dX1_room_23 : decode cX1_room 23 = .ok (.invokestatic 135, 3) := dk_184 0 135 (dk_at dksX1_room_1 0 rfl rfl)
theorem dX1_room_26 : decode cX1_room 26 = .ok (.aload_n 0, 1) := dk_42 (dk_at dksX1_room_1 3 rfl rfl)
theorem dX1_room_27 : decode cX1_room 27 = .ok (.getfield 16, 3) := dk_180 0 16 (dk_at dksX1_room_1 4 rfl rfl)
theorem dX1_room_30 : decode cX1_room 30 = .ok (.invokevirtual 62, 3) := dk_182 0 62 (dk_at dksX1_room_1 7 rfl rfl)
theorem dX1_room_33 : decode cX1_room 33 = .ok (.iconst 5, 1) := dk_8 (dk_at dksX1_room_1 10 rfl rfl)
theorem dX1_room_34 : decode cX1_room 34 = .ok (.if_icmp .ge 7, 3) := dk_162 0 7 (dk_at dksX1_room_1 11 rfl rfl)
theorem dX1_room_37 : decode cX1_room 37 = .ok (.iconst 1, 1) := dk_4 (dk_at dksX1_room_1 14 rfl rfl)
theorem dX1_room_38 : decode cX1_room 38 = .ok (.goto 4, 3) := dk_167 0 4 (dk_at dksX1_room_1 15 rfl rfl)
theorem dX1_room_41 : decode cX1_room 41 = .ok (.iconst 0, 1) := dk_3 (dk_at dksX1_room_1 18 rfl rfl)
theorem dX1_room_42 : decode cX1_room 42 = .ok (.invokestatic 143, 3) := dk_184 0 143 (dk_at dksX1_room_1 19 rfl rfl)
theorem dX1_room_45 : decode cX1_room 45 = .ok (.aload_n 0, 1) := dk_42 (dk_at dksX1_room_1 22 rfl rfl)
theorem dX1_room_46 : decode cX1_room 46 = .ok (.getfield 16, 3) := dk_180 0 16 (dk_at dksX1_room_2 0 rfl rfl)
theorem dX1_room_49 : decode cX1_room 49 = .ok (.new 74, 3) := dk_187 0 74 (dk_at dksX1_room_2 3 rfl rfl)
theorem dX1_room_52 : decode cX1_room 52 = .ok (.dup, 1) := dk_89 (dk_at dksX1_room_2 6 rfl rfl)
theorem dX1_room_53 : decode cX1_room 53 = .ok (.aload_n 0, 1) := dk_42 (dk_at dksX1_room_2 7 rfl rfl)
theorem dX1_room_54 : decode cX1_room 54 = .ok (.getfield 16, 3) := dk_180 0 16 (dk_at dksX1_room_2 8 rfl rfl)
theorem dX1_room_57 : decode cX1_room 57 = .ok (.invokevirtual 62, 3) := dk_182 0 62 (dk_at dksX1_room_2 11 rfl rfl)
theorem dX1_room_60 : decode cX1_room 60 = .ok (.iload_n 1, 1) := dk_27 (dk_at dksX1_room_2 14 rfl rfl)
theorem dX1_room_61 : decode cX1_room 61 = .ok (.iload_n 2, 1) := dk_28 (dk_at dksX1_room_2 15 rfl rfl)
theorem dX1_room_62 : decode cX1_room 62 = .ok (.iload_n 3, 1) := dk_29 (dk_at dksX1_room_2 16 rfl rfl)
theorem dX1_room_63 : decode cX1_room 63 = .ok (.invokespecial 155, 3) := dk_183 0 155 (dk_at dksX1_room_2 17 rfl rfl)
theorem dX1_room_66 : decode cX1_room 66 = .ok (.invokevirtual 131, 3) := dk_182 0 131 (dk_at dksX1_room_2 20 rfl rfl)
theorem dX1_room_69 : decode cX1_room 69 = .ok (.pop, 1) := dk_87 (dk_at dksX1_room_2 23 rfl rfl)
theorem dX1_room_70 : decode cX1_room 70 = .ok (.aload_n 0, 1) := dk_42 (dk_at dksX1_room_3 0 rfl rfl)
theorem dX1_room_71 : decode cX1_room 71 = .ok (.getfield 16, 3) := dk_180 0 16 (dk_at dksX1_room_3 1 rfl rfl)
theorem dX1_room_74 : decode cX1_room 74 = .ok (.invokevirtual 62, 3) := dk_182 0 62 (dk_at dksX1_room_3 4 rfl rfl)
theorem dX1_room_77 : decode cX1_room 77 = .ok (.iconst 1, 1) := dk_4 (dk_at dksX1_room_3 7 rfl rfl)
theorem dX1_room_78 : decode cX1_room 78 = .ok (.isub, 1) := dk_100 (dk_at dksX1_room_3 8 rfl rfl)
theorem dX1_room_79 : decode cX1_room 79 = .ok (.ireturn, 1) := dk_172 (dk_at dksX1_room_3 9 rfl rfl)
abbrev cX1_isClimate : ByteArray := prog_1_method_18_code
def yX1_isClimate : MethodName := ⟨RX1, "isClimate", "(II)Z"⟩
def dkwX1_isClimate_1 : List UInt8 := [167, 0, 4, 3, 172]
abbrev dktX1_isClimate_1 : List UInt8 := dkwX1_isClimate_1 ++ []
def dkwX1_isClimate_0 : List UInt8 := [26, 3, 17, 0, 200, 184, 0, 139, 153, 0, 17, 27, 3, 16, 100, 184, 0, 139, 153, 0, 7, 4]
abbrev dktX1_isClimate_0 : List UInt8 := dkwX1_isClimate_0 ++ dktX1_isClimate_1
theorem dksX1_isClimate_0 : cX1_isClimate.data.toList.drop 0 = dktX1_isClimate_0 := by decide +kernel
theorem dksX1_isClimate_1 : cX1_isClimate.data.toList.drop 22 = dktX1_isClimate_1 := dk_seg dksX1_isClimate_0 22 rfl rfl
theorem dX1_isClimate_0 : decode cX1_isClimate 0 = .ok (.iload_n 0, 1) := dk_26 (dk_at dksX1_isClimate_0 0 rfl rfl)
theorem dX1_isClimate_1 : decode cX1_isClimate 1 = .ok (.iconst 0, 1) := dk_3 (dk_at dksX1_isClimate_0 1 rfl rfl)
theorem dX1_isClimate_2 : decode cX1_isClimate 2 = .ok (.sipush 200, 3) := dk_17 0 200 (dk_at dksX1_isClimate_0 2 rfl rfl)
theorem dX1_isClimate_5 : decode cX1_isClimate 5 = .ok (.invokestatic 139, 3) := dk_184 0 139 (dk_at dksX1_isClimate_0 5 rfl rfl)
theorem dX1_isClimate_8 : decode cX1_isClimate 8 = .ok (.ifCond .eq 17, 3) := dk_153 0 17 (dk_at dksX1_isClimate_0 8 rfl rfl)
theorem dX1_isClimate_11 : decode cX1_isClimate 11 = .ok (.iload_n 1, 1) := dk_27 (dk_at dksX1_isClimate_0 11 rfl rfl)
theorem dX1_isClimate_12 : decode cX1_isClimate 12 = .ok (.iconst 0, 1) := dk_3 (dk_at dksX1_isClimate_0 12 rfl rfl)
theorem dX1_isClimate_13 : decode cX1_isClimate 13 = .ok (.bipush 100, 2) := dk_16 100 (dk_at dksX1_isClimate_0 13 rfl rfl)
theorem dX1_isClimate_15 : decode cX1_isClimate 15 = .ok (.invokestatic 139, 3) := dk_184 0 139 (dk_at dksX1_isClimate_0 15 rfl rfl)
theorem dX1_isClimate_18 : decode cX1_isClimate 18 = .ok (.ifCond .eq 7, 3) := dk_153 0 7 (dk_at dksX1_isClimate_0 18 rfl rfl)
theorem dX1_isClimate_21 : decode cX1_isClimate 21 = .ok (.iconst 1, 1) := dk_4 (dk_at dksX1_isClimate_0 21 rfl rfl)
theorem dX1_isClimate_22 : decode cX1_isClimate 22 = .ok (.goto 4, 3) := dk_167 0 4 (dk_at dksX1_isClimate_1 0 rfl rfl)
theorem dX1_isClimate_25 : decode cX1_isClimate 25 = .ok (.iconst 0, 1) := dk_3 (dk_at dksX1_isClimate_1 3 rfl rfl)
theorem dX1_isClimate_26 : decode cX1_isClimate 26 = .ok (.ireturn, 1) := dk_172 (dk_at dksX1_isClimate_1 4 rfl rfl)
abbrev cX1_climate : ByteArray := prog_1_method_20_code
def yX1_climate : MethodName := ⟨RX1, "climate", "(III)I"⟩
def dkwX1_climate_1 : List UInt8 := [28, 181, 0, 162, 25, 4, 29, 181, 0, 165, 21, 5, 172]
abbrev dktX1_climate_1 : List UInt8 := dkwX1_climate_1 ++ []
def dkwX1_climate_0 : List UInt8 := [42, 27, 182, 0, 158, 58, 4, 28, 29, 184, 0, 151, 184, 0, 135, 25, 4, 180, 0, 162, 54, 5, 25, 4]
abbrev dktX1_climate_0 : List UInt8 := dkwX1_climate_0 ++ dktX1_climate_1
theorem dksX1_climate_0 : cX1_climate.data.toList.drop 0 = dktX1_climate_0 := by decide +kernel
theorem dksX1_climate_1 : cX1_climate.data.toList.drop 24 = dktX1_climate_1 := dk_seg dksX1_climate_0 24 rfl rfl
theorem dX1_climate_0 : decode cX1_climate 0 = .ok (.aload_n 0, 1) := dk_42 (dk_at dksX1_climate_0 0 rfl rfl)
theorem dX1_climate_1 : decode cX1_climate 1 = .ok (.iload_n 1, 1) := dk_27 (dk_at dksX1_climate_0 1 rfl rfl)
theorem dX1_climate_2 : decode cX1_climate 2 = .ok (.invokevirtual 158, 3) := dk_182 0 158 (dk_at dksX1_climate_0 2 rfl rfl)
theorem dX1_climate_5 : decode cX1_climate 5 = .ok (.astore 4, 2) := dk_58 4 (dk_at dksX1_climate_0 5 rfl rfl)
theorem dX1_climate_7 : decode cX1_climate 7 = .ok (.iload_n 2, 1) := dk_28 (dk_at dksX1_climate_0 7 rfl rfl)
theorem dX1_climate_8 : decode cX1_climate 8 = .ok (.iload_n 3, 1) := dk_29 (dk_at dksX1_climate_0 8 rfl rfl)
theorem dX1_climate_9 : decode cX1_climate 9 = .ok (.invokestatic 151, 3) := dk_184 0 151 (dk_at dksX1_climate_0 9 rfl rfl)
theorem dX1_climate_12 : decode cX1_climate 12 = .ok (.invokestatic 135, 3) := dk_184 0 135 (dk_at dksX1_climate_0 12 rfl rfl)
theorem dX1_climate_15 : decode cX1_climate 15 = .ok (.aload 4, 2) := dk_25 4 (dk_at dksX1_climate_0 15 rfl rfl)
theorem dX1_climate_17 : decode cX1_climate 17 = .ok (.getfield 162, 3) := dk_180 0 162 (dk_at dksX1_climate_0 17 rfl rfl)
theorem dX1_climate_20 : decode cX1_climate 20 = .ok (.istore 5, 2) := dk_54 5 (dk_at dksX1_climate_0 20 rfl rfl)
theorem dX1_climate_22 : decode cX1_climate 22 = .ok (.aload 4, 2) := dk_25 4 (dk_at dksX1_climate_0 22 rfl rfl)
theorem dX1_climate_24 : decode cX1_climate 24 = .ok (.iload_n 2, 1) := dk_28 (dk_at dksX1_climate_1 0 rfl rfl)
theorem dX1_climate_25 : decode cX1_climate 25 = .ok (.putfield 162, 3) := dk_181 0 162 (dk_at dksX1_climate_1 1 rfl rfl)
theorem dX1_climate_28 : decode cX1_climate 28 = .ok (.aload 4, 2) := dk_25 4 (dk_at dksX1_climate_1 4 rfl rfl)
theorem dX1_climate_30 : decode cX1_climate 30 = .ok (.iload_n 3, 1) := dk_29 (dk_at dksX1_climate_1 6 rfl rfl)
theorem dX1_climate_31 : decode cX1_climate 31 = .ok (.putfield 165, 3) := dk_181 0 165 (dk_at dksX1_climate_1 7 rfl rfl)
theorem dX1_climate_34 : decode cX1_climate 34 = .ok (.iload 5, 2) := dk_21 5 (dk_at dksX1_climate_1 10 rfl rfl)
theorem dX1_climate_36 : decode cX1_climate 36 = .ok (.ireturn, 1) := dk_172 (dk_at dksX1_climate_1 12 rfl rfl)
abbrev cX1_roomAt : ByteArray := prog_1_method_8_code
def yX1_roomAt : MethodName := ⟨RX1, "roomAt", "(I)LVaultyard$Room;"⟩
def dkwX1_roomAt_0 : List UInt8 := [27, 42, 180, 0, 16, 182, 0, 62, 184, 0, 66, 42, 180, 0, 16, 27, 182, 0, 70, 192, 0, 74, 176]
abbrev dktX1_roomAt_0 : List UInt8 := dkwX1_roomAt_0 ++ []
theorem dksX1_roomAt_0 : cX1_roomAt.data.toList.drop 0 = dktX1_roomAt_0 := by decide +kernel
theorem dX1_roomAt_0 : decode cX1_roomAt 0 = .ok (.iload_n 1, 1) := dk_27 (dk_at dksX1_roomAt_0 0 rfl rfl)
theorem dX1_roomAt_1 : decode cX1_roomAt 1 = .ok (.aload_n 0, 1) := dk_42 (dk_at dksX1_roomAt_0 1 rfl rfl)
theorem dX1_roomAt_2 : decode cX1_roomAt 2 = .ok (.getfield 16, 3) := dk_180 0 16 (dk_at dksX1_roomAt_0 2 rfl rfl)
theorem dX1_roomAt_5 : decode cX1_roomAt 5 = .ok (.invokevirtual 62, 3) := dk_182 0 62 (dk_at dksX1_roomAt_0 5 rfl rfl)
theorem dX1_roomAt_8 : decode cX1_roomAt 8 = .ok (.invokestatic 66, 3) := dk_184 0 66 (dk_at dksX1_roomAt_0 8 rfl rfl)
theorem dX1_roomAt_11 : decode cX1_roomAt 11 = .ok (.aload_n 0, 1) := dk_42 (dk_at dksX1_roomAt_0 11 rfl rfl)
theorem dX1_roomAt_12 : decode cX1_roomAt 12 = .ok (.getfield 16, 3) := dk_180 0 16 (dk_at dksX1_roomAt_0 12 rfl rfl)
theorem dX1_roomAt_15 : decode cX1_roomAt 15 = .ok (.iload_n 1, 1) := dk_27 (dk_at dksX1_roomAt_0 15 rfl rfl)
theorem dX1_roomAt_16 : decode cX1_roomAt 16 = .ok (.invokevirtual 70, 3) := dk_182 0 70 (dk_at dksX1_roomAt_0 16 rfl rfl)
theorem dX1_roomAt_19 : decode cX1_roomAt 19 = .ok (.checkcast 74, 3) := dk_192 0 74 (dk_at dksX1_roomAt_0 19 rfl rfl)
theorem dX1_roomAt_22 : decode cX1_roomAt 22 = .ok (.areturn, 1) := dk_176 (dk_at dksX1_roomAt_0 22 rfl rfl)
abbrev cX1_within : ByteArray := prog_1_method_2_code
def yX1_within : MethodName := ⟨RX1, "within", "(II)V"⟩
def dkwX1_within_0 : List UInt8 := [26, 155, 0, 8, 26, 27, 161, 0, 11, 187, 0, 47, 89, 183, 0, 49, 191, 177]
abbrev dktX1_within_0 : List UInt8 := dkwX1_within_0 ++ []
theorem dksX1_within_0 : cX1_within.data.toList.drop 0 = dktX1_within_0 := by decide +kernel
theorem dX1_within_0 : decode cX1_within 0 = .ok (.iload_n 0, 1) := dk_26 (dk_at dksX1_within_0 0 rfl rfl)
theorem dX1_within_1 : decode cX1_within 1 = .ok (.ifCond .lt 8, 3) := dk_155 0 8 (dk_at dksX1_within_0 1 rfl rfl)
theorem dX1_within_4 : decode cX1_within 4 = .ok (.iload_n 0, 1) := dk_26 (dk_at dksX1_within_0 4 rfl rfl)
theorem dX1_within_5 : decode cX1_within 5 = .ok (.iload_n 1, 1) := dk_27 (dk_at dksX1_within_0 5 rfl rfl)
theorem dX1_within_6 : decode cX1_within 6 = .ok (.if_icmp .lt 11, 3) := dk_161 0 11 (dk_at dksX1_within_0 6 rfl rfl)
theorem dX1_within_9 : decode cX1_within 9 = .ok (.new 47, 3) := dk_187 0 47 (dk_at dksX1_within_0 9 rfl rfl)
theorem dX1_within_12 : decode cX1_within 12 = .ok (.dup, 1) := dk_89 (dk_at dksX1_within_0 12 rfl rfl)
theorem dX1_within_13 : decode cX1_within 13 = .ok (.invokespecial 49, 3) := dk_183 0 49 (dk_at dksX1_within_0 13 rfl rfl)
theorem dX1_within_16 : decode cX1_within 16 = .ok (.athrow, 1) := dk_191 (dk_at dksX1_within_0 16 rfl rfl)
theorem dX1_within_17 : decode cX1_within 17 = .ok (.return_, 1) := dk_177 (dk_at dksX1_within_0 17 rfl rfl)
abbrev cX1_infest : ByteArray := prog_1_method_21_code
def yX1_infest : MethodName := ⟨RX1, "infest", "(IIZ)Z"⟩
def dkwX1_infest_2 : List UInt8 := [28, 120, 128, 167, 0, 14, 25, 4, 180, 0, 168, 4, 28, 120, 2, 130, 126, 181, 0, 168, 21, 5, 172]
abbrev dktX1_infest_2 : List UInt8 := dkwX1_infest_2 ++ []
def dkwX1_infest_1 : List UInt8 := [126, 4, 160, 0, 7, 4, 167, 0, 4, 3, 54, 5, 25, 4, 29, 153, 0, 15, 25, 4, 180, 0, 168, 4]
abbrev dktX1_infest_1 : List UInt8 := dkwX1_infest_1 ++ dktX1_infest_2
def dkwX1_infest_0 : List UInt8 := [42, 27, 182, 0, 158, 58, 4, 28, 3, 6, 184, 0, 139, 184, 0, 135, 25, 4, 180, 0, 168, 28, 122, 4]
abbrev dktX1_infest_0 : List UInt8 := dkwX1_infest_0 ++ dktX1_infest_1
theorem dksX1_infest_0 : cX1_infest.data.toList.drop 0 = dktX1_infest_0 := by decide +kernel
theorem dksX1_infest_1 : cX1_infest.data.toList.drop 24 = dktX1_infest_1 := dk_seg dksX1_infest_0 24 rfl rfl
theorem dksX1_infest_2 : cX1_infest.data.toList.drop 48 = dktX1_infest_2 := dk_seg dksX1_infest_1 24 rfl rfl
theorem dX1_infest_0 : decode cX1_infest 0 = .ok (.aload_n 0, 1) := dk_42 (dk_at dksX1_infest_0 0 rfl rfl)
theorem dX1_infest_1 : decode cX1_infest 1 = .ok (.iload_n 1, 1) := dk_27 (dk_at dksX1_infest_0 1 rfl rfl)
theorem dX1_infest_2 : decode cX1_infest 2 = .ok (.invokevirtual 158, 3) := dk_182 0 158 (dk_at dksX1_infest_0 2 rfl rfl)
theorem dX1_infest_5 : decode cX1_infest 5 = .ok (.astore 4, 2) := dk_58 4 (dk_at dksX1_infest_0 5 rfl rfl)
theorem dX1_infest_7 : decode cX1_infest 7 = .ok (.iload_n 2, 1) := dk_28 (dk_at dksX1_infest_0 7 rfl rfl)
theorem dX1_infest_8 : decode cX1_infest 8 = .ok (.iconst 0, 1) := dk_3 (dk_at dksX1_infest_0 8 rfl rfl)
theorem dX1_infest_9 : decode cX1_infest 9 = .ok (.iconst 3, 1) := dk_6 (dk_at dksX1_infest_0 9 rfl rfl)
theorem dX1_infest_10 : decode cX1_infest 10 = .ok (.invokestatic 139, 3) := dk_184 0 139 (dk_at dksX1_infest_0 10 rfl rfl)
theorem dX1_infest_13 : decode cX1_infest 13 = .ok (.invokestatic 135, 3) := dk_184 0 135 (dk_at dksX1_infest_0 13 rfl rfl)
theorem dX1_infest_16 : decode cX1_infest 16 = .ok (.aload 4, 2) := dk_25 4 (dk_at dksX1_infest_0 16 rfl rfl)
theorem dX1_infest_18 : decode cX1_infest 18 = .ok (.getfield 168, 3) := dk_180 0 168 (dk_at dksX1_infest_0 18 rfl rfl)
theorem dX1_infest_21 : decode cX1_infest 21 = .ok (.iload_n 2, 1) := dk_28 (dk_at dksX1_infest_0 21 rfl rfl)
theorem dX1_infest_22 : decode cX1_infest 22 = .ok (.ishr, 1) := dk_122 (dk_at dksX1_infest_0 22 rfl rfl)
theorem dX1_infest_23 : decode cX1_infest 23 = .ok (.iconst 1, 1) := dk_4 (dk_at dksX1_infest_0 23 rfl rfl)
theorem dX1_infest_24 : decode cX1_infest 24 = .ok (.iand, 1) := dk_126 (dk_at dksX1_infest_1 0 rfl rfl)
theorem dX1_infest_25 : decode cX1_infest 25 = .ok (.iconst 1, 1) := dk_4 (dk_at dksX1_infest_1 1 rfl rfl)
theorem dX1_infest_26 : decode cX1_infest 26 = .ok (.if_icmp .ne 7, 3) := dk_160 0 7 (dk_at dksX1_infest_1 2 rfl rfl)
theorem dX1_infest_29 : decode cX1_infest 29 = .ok (.iconst 1, 1) := dk_4 (dk_at dksX1_infest_1 5 rfl rfl)
theorem dX1_infest_30 : decode cX1_infest 30 = .ok (.goto 4, 3) := dk_167 0 4 (dk_at dksX1_infest_1 6 rfl rfl)
theorem dX1_infest_33 : decode cX1_infest 33 = .ok (.iconst 0, 1) := dk_3 (dk_at dksX1_infest_1 9 rfl rfl)
theorem dX1_infest_34 : decode cX1_infest 34 = .ok (.istore 5, 2) := dk_54 5 (dk_at dksX1_infest_1 10 rfl rfl)
theorem dX1_infest_36 : decode cX1_infest 36 = .ok (.aload 4, 2) := dk_25 4 (dk_at dksX1_infest_1 12 rfl rfl)
theorem dX1_infest_38 : decode cX1_infest 38 = .ok (.iload_n 3, 1) := dk_29 (dk_at dksX1_infest_1 14 rfl rfl)
theorem dX1_infest_39 : decode cX1_infest 39 = .ok (.ifCond .eq 15, 3) := dk_153 0 15 (dk_at dksX1_infest_1 15 rfl rfl)
theorem dX1_infest_42 : decode cX1_infest 42 = .ok (.aload 4, 2) := dk_25 4 (dk_at dksX1_infest_1 18 rfl rfl)
theorem dX1_infest_44 : decode cX1_infest 44 = .ok (.getfield 168, 3) := dk_180 0 168 (dk_at dksX1_infest_1 20 rfl rfl)
theorem dX1_infest_47 : decode cX1_infest 47 = .ok (.iconst 1, 1) := dk_4 (dk_at dksX1_infest_1 23 rfl rfl)
theorem dX1_infest_48 : decode cX1_infest 48 = .ok (.iload_n 2, 1) := dk_28 (dk_at dksX1_infest_2 0 rfl rfl)
theorem dX1_infest_49 : decode cX1_infest 49 = .ok (.ishl, 1) := dk_120 (dk_at dksX1_infest_2 1 rfl rfl)
theorem dX1_infest_50 : decode cX1_infest 50 = .ok (.ior, 1) := dk_128 (dk_at dksX1_infest_2 2 rfl rfl)
theorem dX1_infest_51 : decode cX1_infest 51 = .ok (.goto 14, 3) := dk_167 0 14 (dk_at dksX1_infest_2 3 rfl rfl)
theorem dX1_infest_54 : decode cX1_infest 54 = .ok (.aload 4, 2) := dk_25 4 (dk_at dksX1_infest_2 6 rfl rfl)
theorem dX1_infest_56 : decode cX1_infest 56 = .ok (.getfield 168, 3) := dk_180 0 168 (dk_at dksX1_infest_2 8 rfl rfl)
theorem dX1_infest_59 : decode cX1_infest 59 = .ok (.iconst 1, 1) := dk_4 (dk_at dksX1_infest_2 11 rfl rfl)
theorem dX1_infest_60 : decode cX1_infest 60 = .ok (.iload_n 2, 1) := dk_28 (dk_at dksX1_infest_2 12 rfl rfl)
theorem dX1_infest_61 : decode cX1_infest 61 = .ok (.ishl, 1) := dk_120 (dk_at dksX1_infest_2 13 rfl rfl)
theorem dX1_infest_62 : decode cX1_infest 62 = .ok (.iconst (-1), 1) := dk_2 (dk_at dksX1_infest_2 14 rfl rfl)
theorem dX1_infest_63 : decode cX1_infest 63 = .ok (.ixor, 1) := dk_130 (dk_at dksX1_infest_2 15 rfl rfl)
theorem dX1_infest_64 : decode cX1_infest 64 = .ok (.iand, 1) := dk_126 (dk_at dksX1_infest_2 16 rfl rfl)
theorem dX1_infest_65 : decode cX1_infest 65 = .ok (.putfield 168, 3) := dk_181 0 168 (dk_at dksX1_infest_2 17 rfl rfl)
theorem dX1_infest_68 : decode cX1_infest 68 = .ok (.iload 5, 2) := dk_21 5 (dk_at dksX1_infest_2 20 rfl rfl)
theorem dX1_infest_70 : decode cX1_infest 70 = .ok (.ireturn, 1) := dk_172 (dk_at dksX1_infest_2 22 rfl rfl)
abbrev cX1_thing : ByteArray := prog_1_method_22_code
def yX1_thing : MethodName := ⟨RX1, "thing", "(IIII)I"⟩
def dkwX1_thing_5 : List UInt8 := [172]
abbrev dktX1_thing_5 : List UInt8 := dkwX1_thing_5 ++ []
def dkwX1_thing_4 : List UInt8 := [192, 0, 146, 28, 29, 1, 25, 5, 183, 0, 179, 182, 0, 131, 87, 42, 180, 0, 19, 182, 0, 62, 4, 100]
abbrev dktX1_thing_4 : List UInt8 := dkwX1_thing_4 ++ dktX1_thing_5
def dkwX1_thing_3 : List UInt8 := [167, 0, 4, 3, 184, 0, 143, 42, 180, 0, 19, 187, 0, 76, 89, 42, 42, 180, 0, 10, 27, 182, 0, 70]
abbrev dktX1_thing_3 : List UInt8 := dkwX1_thing_3 ++ dktX1_thing_4
def dkwX1_thing_2 : List UInt8 := [42, 25, 5, 29, 182, 0, 172, 184, 0, 176, 42, 180, 0, 19, 182, 0, 62, 16, 14, 162, 0, 7, 4]
abbrev dktX1_thing_2 : List UInt8 := dkwX1_thing_2 ++ dktX1_thing_3
def dkwX1_thing_1 : List UInt8 := [184, 0, 139, 153, 0, 17, 29, 4, 16, 20, 184, 0, 139, 153, 0, 7, 4, 167, 0, 4, 3, 184, 0, 135]
abbrev dktX1_thing_1 : List UInt8 := dkwX1_thing_1 ++ dktX1_thing_2
def dkwX1_thing_0 : List UInt8 := [27, 42, 180, 0, 10, 182, 0, 62, 184, 0, 66, 42, 21, 4, 182, 0, 158, 58, 5, 28, 4, 18, 171]
abbrev dktX1_thing_0 : List UInt8 := dkwX1_thing_0 ++ dktX1_thing_1
theorem dksX1_thing_0 : cX1_thing.data.toList.drop 0 = dktX1_thing_0 := by decide +kernel
theorem dksX1_thing_1 : cX1_thing.data.toList.drop 23 = dktX1_thing_1 := dk_seg dksX1_thing_0 23 rfl rfl
theorem dksX1_thing_2 : cX1_thing.data.toList.drop 47 = dktX1_thing_2 := dk_seg dksX1_thing_1 24 rfl rfl
theorem dksX1_thing_3 : cX1_thing.data.toList.drop 70 = dktX1_thing_3 := dk_seg dksX1_thing_2 23 rfl rfl
theorem dksX1_thing_4 : cX1_thing.data.toList.drop 94 = dktX1_thing_4 := dk_seg dksX1_thing_3 24 rfl rfl
theorem dksX1_thing_5 : cX1_thing.data.toList.drop 118 = dktX1_thing_5 := dk_seg dksX1_thing_4 24 rfl rfl
theorem dX1_thing_0 : decode cX1_thing 0 = .ok (.iload_n 1, 1) := dk_27 (dk_at dksX1_thing_0 0 rfl rfl)
theorem dX1_thing_1 : decode cX1_thing 1 = .ok (.aload_n 0, 1) := dk_42 (dk_at dksX1_thing_0 1 rfl rfl)
theorem dX1_thing_2 : decode cX1_thing 2 = .ok (.getfield 10, 3) := dk_180 0 10 (dk_at dksX1_thing_0 2 rfl rfl)
theorem dX1_thing_5 : decode cX1_thing 5 = .ok (.invokevirtual 62, 3) := dk_182 0 62 (dk_at dksX1_thing_0 5 rfl rfl)
theorem dX1_thing_8 : decode cX1_thing 8 = .ok (.invokestatic 66, 3) := dk_184 0 66 (dk_at dksX1_thing_0 8 rfl rfl)
theorem dX1_thing_11 : decode cX1_thing 11 = .ok (.aload_n 0, 1) := dk_42 (dk_at dksX1_thing_0 11 rfl rfl)
theorem dX1_thing_12 : decode cX1_thing 12 = .ok (.iload 4, 2) := dk_21 4 (dk_at dksX1_thing_0 12 rfl rfl)
theorem dX1_thing_14 : decode cX1_thing 14 = .ok (.invokevirtual 158, 3) := dk_182 0 158 (dk_at dksX1_thing_0 14 rfl rfl)
theorem dX1_thing_17 : decode cX1_thing 17 = .ok (.astore 5, 2) := dk_58 5 (dk_at dksX1_thing_0 17 rfl rfl)
theorem dX1_thing_19 : decode cX1_thing 19 = .ok (.iload_n 2, 1) := dk_28 (dk_at dksX1_thing_0 19 rfl rfl)
theorem dX1_thing_20 : decode cX1_thing 20 = .ok (.iconst 1, 1) := dk_4 (dk_at dksX1_thing_0 20 rfl rfl)
theorem dX1_thing_21 : decode cX1_thing 21 = .ok (.ldc 171, 2) := dk_18 171 (dk_at dksX1_thing_0 21 rfl rfl)
theorem dX1_thing_23 : decode cX1_thing 23 = .ok (.invokestatic 139, 3) := dk_184 0 139 (dk_at dksX1_thing_1 0 rfl rfl)
theorem dX1_thing_26 : decode cX1_thing 26 = .ok (.ifCond .eq 17, 3) := dk_153 0 17 (dk_at dksX1_thing_1 3 rfl rfl)
theorem dX1_thing_29 : decode cX1_thing 29 = .ok (.iload_n 3, 1) := dk_29 (dk_at dksX1_thing_1 6 rfl rfl)
theorem dX1_thing_30 : decode cX1_thing 30 = .ok (.iconst 1, 1) := dk_4 (dk_at dksX1_thing_1 7 rfl rfl)
theorem dX1_thing_31 : decode cX1_thing 31 = .ok (.bipush 20, 2) := dk_16 20 (dk_at dksX1_thing_1 8 rfl rfl)
theorem dX1_thing_33 : decode cX1_thing 33 = .ok (.invokestatic 139, 3) := dk_184 0 139 (dk_at dksX1_thing_1 10 rfl rfl)
theorem dX1_thing_36 : decode cX1_thing 36 = .ok (.ifCond .eq 7, 3) := dk_153 0 7 (dk_at dksX1_thing_1 13 rfl rfl)
theorem dX1_thing_39 : decode cX1_thing 39 = .ok (.iconst 1, 1) := dk_4 (dk_at dksX1_thing_1 16 rfl rfl)
theorem dX1_thing_40 : decode cX1_thing 40 = .ok (.goto 4, 3) := dk_167 0 4 (dk_at dksX1_thing_1 17 rfl rfl)
theorem dX1_thing_43 : decode cX1_thing 43 = .ok (.iconst 0, 1) := dk_3 (dk_at dksX1_thing_1 20 rfl rfl)
theorem dX1_thing_44 : decode cX1_thing 44 = .ok (.invokestatic 135, 3) := dk_184 0 135 (dk_at dksX1_thing_1 21 rfl rfl)
theorem dX1_thing_47 : decode cX1_thing 47 = .ok (.aload_n 0, 1) := dk_42 (dk_at dksX1_thing_2 0 rfl rfl)
theorem dX1_thing_48 : decode cX1_thing 48 = .ok (.aload 5, 2) := dk_25 5 (dk_at dksX1_thing_2 1 rfl rfl)
theorem dX1_thing_50 : decode cX1_thing 50 = .ok (.iload_n 3, 1) := dk_29 (dk_at dksX1_thing_2 3 rfl rfl)
theorem dX1_thing_51 : decode cX1_thing 51 = .ok (.invokevirtual 172, 3) := dk_182 0 172 (dk_at dksX1_thing_2 4 rfl rfl)
theorem dX1_thing_54 : decode cX1_thing 54 = .ok (.invokestatic 176, 3) := dk_184 0 176 (dk_at dksX1_thing_2 7 rfl rfl)
theorem dX1_thing_57 : decode cX1_thing 57 = .ok (.aload_n 0, 1) := dk_42 (dk_at dksX1_thing_2 10 rfl rfl)
theorem dX1_thing_58 : decode cX1_thing 58 = .ok (.getfield 19, 3) := dk_180 0 19 (dk_at dksX1_thing_2 11 rfl rfl)
theorem dX1_thing_61 : decode cX1_thing 61 = .ok (.invokevirtual 62, 3) := dk_182 0 62 (dk_at dksX1_thing_2 14 rfl rfl)
theorem dX1_thing_64 : decode cX1_thing 64 = .ok (.bipush 14, 2) := dk_16 14 (dk_at dksX1_thing_2 17 rfl rfl)
theorem dX1_thing_66 : decode cX1_thing 66 = .ok (.if_icmp .ge 7, 3) := dk_162 0 7 (dk_at dksX1_thing_2 19 rfl rfl)
theorem dX1_thing_69 : decode cX1_thing 69 = .ok (.iconst 1, 1) := dk_4 (dk_at dksX1_thing_2 22 rfl rfl)
theorem dX1_thing_70 : decode cX1_thing 70 = .ok (.goto 4, 3) := dk_167 0 4 (dk_at dksX1_thing_3 0 rfl rfl)
theorem dX1_thing_73 : decode cX1_thing 73 = .ok (.iconst 0, 1) := dk_3 (dk_at dksX1_thing_3 3 rfl rfl)
theorem dX1_thing_74 : decode cX1_thing 74 = .ok (.invokestatic 143, 3) := dk_184 0 143 (dk_at dksX1_thing_3 4 rfl rfl)
theorem dX1_thing_77 : decode cX1_thing 77 = .ok (.aload_n 0, 1) := dk_42 (dk_at dksX1_thing_3 7 rfl rfl)
theorem dX1_thing_78 : decode cX1_thing 78 = .ok (.getfield 19, 3) := dk_180 0 19 (dk_at dksX1_thing_3 8 rfl rfl)
theorem dX1_thing_81 : decode cX1_thing 81 = .ok (.new 76, 3) := dk_187 0 76 (dk_at dksX1_thing_3 11 rfl rfl)
theorem dX1_thing_84 : decode cX1_thing 84 = .ok (.dup, 1) := dk_89 (dk_at dksX1_thing_3 14 rfl rfl)
theorem dX1_thing_85 : decode cX1_thing 85 = .ok (.aload_n 0, 1) := dk_42 (dk_at dksX1_thing_3 15 rfl rfl)
theorem dX1_thing_86 : decode cX1_thing 86 = .ok (.aload_n 0, 1) := dk_42 (dk_at dksX1_thing_3 16 rfl rfl)
theorem dX1_thing_87 : decode cX1_thing 87 = .ok (.getfield 10, 3) := dk_180 0 10 (dk_at dksX1_thing_3 17 rfl rfl)
theorem dX1_thing_90 : decode cX1_thing 90 = .ok (.iload_n 1, 1) := dk_27 (dk_at dksX1_thing_3 20 rfl rfl)
theorem dX1_thing_91 : decode cX1_thing 91 = .ok (.invokevirtual 70, 3) := dk_182 0 70 (dk_at dksX1_thing_3 21 rfl rfl)
theorem dX1_thing_94 : decode cX1_thing 94 = .ok (.checkcast 146, 3) := dk_192 0 146 (dk_at dksX1_thing_4 0 rfl rfl)
theorem dX1_thing_97 : decode cX1_thing 97 = .ok (.iload_n 2, 1) := dk_28 (dk_at dksX1_thing_4 3 rfl rfl)
theorem dX1_thing_98 : decode cX1_thing 98 = .ok (.iload_n 3, 1) := dk_29 (dk_at dksX1_thing_4 4 rfl rfl)
theorem dX1_thing_99 : decode cX1_thing 99 = .ok (.aconst_null, 1) := dk_1 (dk_at dksX1_thing_4 5 rfl rfl)
theorem dX1_thing_100 : decode cX1_thing 100 = .ok (.aload 5, 2) := dk_25 5 (dk_at dksX1_thing_4 6 rfl rfl)
theorem dX1_thing_102 : decode cX1_thing 102 = .ok (.invokespecial 179, 3) := dk_183 0 179 (dk_at dksX1_thing_4 8 rfl rfl)
theorem dX1_thing_105 : decode cX1_thing 105 = .ok (.invokevirtual 131, 3) := dk_182 0 131 (dk_at dksX1_thing_4 11 rfl rfl)
theorem dX1_thing_108 : decode cX1_thing 108 = .ok (.pop, 1) := dk_87 (dk_at dksX1_thing_4 14 rfl rfl)
theorem dX1_thing_109 : decode cX1_thing 109 = .ok (.aload_n 0, 1) := dk_42 (dk_at dksX1_thing_4 15 rfl rfl)
theorem dX1_thing_110 : decode cX1_thing 110 = .ok (.getfield 19, 3) := dk_180 0 19 (dk_at dksX1_thing_4 16 rfl rfl)
theorem dX1_thing_113 : decode cX1_thing 113 = .ok (.invokevirtual 62, 3) := dk_182 0 62 (dk_at dksX1_thing_4 19 rfl rfl)
theorem dX1_thing_116 : decode cX1_thing 116 = .ok (.iconst 1, 1) := dk_4 (dk_at dksX1_thing_4 22 rfl rfl)
theorem dX1_thing_117 : decode cX1_thing 117 = .ok (.isub, 1) := dk_100 (dk_at dksX1_thing_4 23 rfl rfl)
theorem dX1_thing_118 : decode cX1_thing 118 = .ok (.ireturn, 1) := dk_172 (dk_at dksX1_thing_5 0 rfl rfl)
abbrev cX1_goesIn : ByteArray := prog_1_method_13_code
def yX1_goesIn : MethodName := ⟨RX1, "goesIn", "(LVaultyard$Room;I)Z"⟩
def dkwX1_goesIn_0 : List UInt8 := [42, 43, 182, 0, 108, 28, 96, 43, 180, 0, 112, 163, 0, 7, 4, 167, 0, 4, 3, 172]
abbrev dktX1_goesIn_0 : List UInt8 := dkwX1_goesIn_0 ++ []
theorem dksX1_goesIn_0 : cX1_goesIn.data.toList.drop 0 = dktX1_goesIn_0 := by decide +kernel
theorem dX1_goesIn_0 : decode cX1_goesIn 0 = .ok (.aload_n 0, 1) := dk_42 (dk_at dksX1_goesIn_0 0 rfl rfl)
theorem dX1_goesIn_1 : decode cX1_goesIn 1 = .ok (.aload_n 1, 1) := dk_43 (dk_at dksX1_goesIn_0 1 rfl rfl)
theorem dX1_goesIn_2 : decode cX1_goesIn 2 = .ok (.invokevirtual 108, 3) := dk_182 0 108 (dk_at dksX1_goesIn_0 2 rfl rfl)
theorem dX1_goesIn_5 : decode cX1_goesIn 5 = .ok (.iload_n 2, 1) := dk_28 (dk_at dksX1_goesIn_0 5 rfl rfl)
theorem dX1_goesIn_6 : decode cX1_goesIn 6 = .ok (.iadd, 1) := dk_96 (dk_at dksX1_goesIn_0 6 rfl rfl)
theorem dX1_goesIn_7 : decode cX1_goesIn 7 = .ok (.aload_n 1, 1) := dk_43 (dk_at dksX1_goesIn_0 7 rfl rfl)
theorem dX1_goesIn_8 : decode cX1_goesIn 8 = .ok (.getfield 112, 3) := dk_180 0 112 (dk_at dksX1_goesIn_0 8 rfl rfl)
theorem dX1_goesIn_11 : decode cX1_goesIn 11 = .ok (.if_icmp .gt 7, 3) := dk_163 0 7 (dk_at dksX1_goesIn_0 11 rfl rfl)
theorem dX1_goesIn_14 : decode cX1_goesIn 14 = .ok (.iconst 1, 1) := dk_4 (dk_at dksX1_goesIn_0 14 rfl rfl)
theorem dX1_goesIn_15 : decode cX1_goesIn 15 = .ok (.goto 4, 3) := dk_167 0 4 (dk_at dksX1_goesIn_0 15 rfl rfl)
theorem dX1_goesIn_18 : decode cX1_goesIn 18 = .ok (.iconst 0, 1) := dk_3 (dk_at dksX1_goesIn_0 18 rfl rfl)
theorem dX1_goesIn_19 : decode cX1_goesIn 19 = .ok (.ireturn, 1) := dk_172 (dk_at dksX1_goesIn_0 19 rfl rfl)
abbrev cX1_can : ByteArray := prog_1_method_5_code
def yX1_can : MethodName := ⟨RX1, "can", "(Z)V"⟩
def dkwX1_can_0 : List UInt8 := [26, 154, 0, 11, 187, 0, 56, 89, 183, 0, 58, 191, 177]
abbrev dktX1_can_0 : List UInt8 := dkwX1_can_0 ++ []
theorem dksX1_can_0 : cX1_can.data.toList.drop 0 = dktX1_can_0 := by decide +kernel
theorem dX1_can_0 : decode cX1_can 0 = .ok (.iload_n 0, 1) := dk_26 (dk_at dksX1_can_0 0 rfl rfl)
theorem dX1_can_1 : decode cX1_can 1 = .ok (.ifCond .ne 11, 3) := dk_154 0 11 (dk_at dksX1_can_0 1 rfl rfl)
theorem dX1_can_4 : decode cX1_can 4 = .ok (.new 56, 3) := dk_187 0 56 (dk_at dksX1_can_0 4 rfl rfl)
theorem dX1_can_7 : decode cX1_can 7 = .ok (.dup, 1) := dk_89 (dk_at dksX1_can_0 7 rfl rfl)
theorem dX1_can_8 : decode cX1_can 8 = .ok (.invokespecial 58, 3) := dk_183 0 58 (dk_at dksX1_can_0 8 rfl rfl)
theorem dX1_can_11 : decode cX1_can 11 = .ok (.athrow, 1) := dk_191 (dk_at dksX1_can_0 11 rfl rfl)
theorem dX1_can_12 : decode cX1_can 12 = .ok (.return_, 1) := dk_177 (dk_at dksX1_can_0 12 rfl rfl)
abbrev cX1_part : ByteArray := prog_1_method_23_code
def yX1_part : MethodName := ⟨RX1, "part", "(III)I"⟩
def dkwX1_part_5 : List UInt8 := [25, 4, 180, 0, 190, 25, 5, 182, 0, 131, 87, 25, 5, 180, 0, 128, 172]
abbrev dktX1_part_5 : List UInt8 := dkwX1_part_5 ++ []
def dkwX1_part_4 : List UInt8 := [29, 4, 25, 4, 25, 4, 180, 0, 193, 183, 0, 179, 58, 5, 42, 180, 0, 19, 25, 5, 182, 0, 131, 87]
abbrev dktX1_part_4 : List UInt8 := dkwX1_part_4 ++ dktX1_part_5
def dkwX1_part_3 : List UInt8 := [4, 167, 0, 4, 3, 184, 0, 143, 187, 0, 76, 89, 42, 42, 180, 0, 10, 28, 182, 0, 70, 192, 0, 146]
abbrev dktX1_part_3 : List UInt8 := dkwX1_part_3 ++ dktX1_part_4
def dkwX1_part_2 : List UInt8 := [6, 162, 0, 7, 4, 167, 0, 4, 3, 184, 0, 176, 42, 180, 0, 19, 182, 0, 62, 16, 14, 162, 0, 7]
abbrev dktX1_part_2 : List UInt8 := dkwX1_part_2 ++ dktX1_part_3
def dkwX1_part_1 : List UInt8 := [184, 0, 139, 184, 0, 135, 25, 4, 16, 114, 182, 0, 186, 153, 0, 19, 25, 4, 180, 0, 190, 182, 0, 62]
abbrev dktX1_part_1 : List UInt8 := dkwX1_part_1 ++ dktX1_part_2
def dkwX1_part_0 : List UInt8 := [42, 27, 182, 0, 182, 58, 4, 28, 42, 180, 0, 10, 182, 0, 62, 184, 0, 66, 29, 4, 18, 171]
abbrev dktX1_part_0 : List UInt8 := dkwX1_part_0 ++ dktX1_part_1
theorem dksX1_part_0 : cX1_part.data.toList.drop 0 = dktX1_part_0 := by decide +kernel
theorem dksX1_part_1 : cX1_part.data.toList.drop 22 = dktX1_part_1 := dk_seg dksX1_part_0 22 rfl rfl
theorem dksX1_part_2 : cX1_part.data.toList.drop 46 = dktX1_part_2 := dk_seg dksX1_part_1 24 rfl rfl
theorem dksX1_part_3 : cX1_part.data.toList.drop 70 = dktX1_part_3 := dk_seg dksX1_part_2 24 rfl rfl
theorem dksX1_part_4 : cX1_part.data.toList.drop 94 = dktX1_part_4 := dk_seg dksX1_part_3 24 rfl rfl
theorem dksX1_part_5 : cX1_part.data.toList.drop 118 = dktX1_part_5 := dk_seg dksX1_part_4 24 rfl rfl
theorem dX1_part_0 : decode cX1_part 0 = .ok (.aload_n 0, 1) := dk_42 (dk_at dksX1_part_0 0 rfl rfl)
theorem dX1_part_1 : decode cX1_part 1 = .ok (.iload_n 1, 1) := dk_27 (dk_at dksX1_part_0 1 rfl rfl)
theorem dX1_part_2 : decode cX1_part 2 = .ok (.invokevirtual 182, 3) := dk_182 0 182 (dk_at dksX1_part_0 2 rfl rfl)
theorem dX1_part_5 : decode cX1_part 5 = .ok (.astore 4, 2) := dk_58 4 (dk_at dksX1_part_0 5 rfl rfl)
theorem dX1_part_7 : decode cX1_part 7 = .ok (.iload_n 2, 1) := dk_28 (dk_at dksX1_part_0 7 rfl rfl)
theorem dX1_part_8 : decode cX1_part 8 = .ok (.aload_n 0, 1) := dk_42 (dk_at dksX1_part_0 8 rfl rfl)
theorem dX1_part_9 : decode cX1_part 9 = .ok (.getfield 10, 3) := dk_180 0 10 (dk_at dksX1_part_0 9 rfl rfl)
theorem dX1_part_12 : decode cX1_part 12 = .ok (.invokevirtual 62, 3) := dk_182 0 62 (dk_at dksX1_part_0 12 rfl rfl)
theorem dX1_part_15 : decode cX1_part 15 = .ok (.invokestatic 66, 3) := dk_184 0 66 (dk_at dksX1_part_0 15 rfl rfl)
theorem dX1_part_18 : decode cX1_part 18 = .ok (.iload_n 3, 1) := dk_29 (dk_at dksX1_part_0 18 rfl rfl)
theorem dX1_part_19 : decode cX1_part 19 = .ok (.iconst 1, 1) := dk_4 (dk_at dksX1_part_0 19 rfl rfl)
theorem dX1_part_20 : decode cX1_part 20 = .ok (.ldc 171, 2) := dk_18 171 (dk_at dksX1_part_0 20 rfl rfl)
theorem dX1_part_22 : decode cX1_part 22 = .ok (.invokestatic 139, 3) := dk_184 0 139 (dk_at dksX1_part_1 0 rfl rfl)
theorem dX1_part_25 : decode cX1_part 25 = .ok (.invokestatic 135, 3) := dk_184 0 135 (dk_at dksX1_part_1 3 rfl rfl)
theorem dX1_part_28 : decode cX1_part 28 = .ok (.aload 4, 2) := dk_25 4 (dk_at dksX1_part_1 6 rfl rfl)
theorem dX1_part_30 : decode cX1_part 30 = .ok (.bipush 114, 2) := dk_16 114 (dk_at dksX1_part_1 8 rfl rfl)
theorem dX1_part_32 : decode cX1_part 32 = .ok (.invokevirtual 186, 3) := dk_182 0 186 (dk_at dksX1_part_1 10 rfl rfl)
theorem dX1_part_35 : decode cX1_part 35 = .ok (.ifCond .eq 19, 3) := dk_153 0 19 (dk_at dksX1_part_1 13 rfl rfl)
theorem dX1_part_38 : decode cX1_part 38 = .ok (.aload 4, 2) := dk_25 4 (dk_at dksX1_part_1 16 rfl rfl)
theorem dX1_part_40 : decode cX1_part 40 = .ok (.getfield 190, 3) := dk_180 0 190 (dk_at dksX1_part_1 18 rfl rfl)
theorem dX1_part_43 : decode cX1_part 43 = .ok (.invokevirtual 62, 3) := dk_182 0 62 (dk_at dksX1_part_1 21 rfl rfl)
theorem dX1_part_46 : decode cX1_part 46 = .ok (.iconst 3, 1) := dk_6 (dk_at dksX1_part_2 0 rfl rfl)
theorem dX1_part_47 : decode cX1_part 47 = .ok (.if_icmp .ge 7, 3) := dk_162 0 7 (dk_at dksX1_part_2 1 rfl rfl)
theorem dX1_part_50 : decode cX1_part 50 = .ok (.iconst 1, 1) := dk_4 (dk_at dksX1_part_2 4 rfl rfl)
theorem dX1_part_51 : decode cX1_part 51 = .ok (.goto 4, 3) := dk_167 0 4 (dk_at dksX1_part_2 5 rfl rfl)
theorem dX1_part_54 : decode cX1_part 54 = .ok (.iconst 0, 1) := dk_3 (dk_at dksX1_part_2 8 rfl rfl)
theorem dX1_part_55 : decode cX1_part 55 = .ok (.invokestatic 176, 3) := dk_184 0 176 (dk_at dksX1_part_2 9 rfl rfl)
theorem dX1_part_58 : decode cX1_part 58 = .ok (.aload_n 0, 1) := dk_42 (dk_at dksX1_part_2 12 rfl rfl)
theorem dX1_part_59 : decode cX1_part 59 = .ok (.getfield 19, 3) := dk_180 0 19 (dk_at dksX1_part_2 13 rfl rfl)
theorem dX1_part_62 : decode cX1_part 62 = .ok (.invokevirtual 62, 3) := dk_182 0 62 (dk_at dksX1_part_2 16 rfl rfl)
theorem dX1_part_65 : decode cX1_part 65 = .ok (.bipush 14, 2) := dk_16 14 (dk_at dksX1_part_2 19 rfl rfl)
theorem dX1_part_67 : decode cX1_part 67 = .ok (.if_icmp .ge 7, 3) := dk_162 0 7 (dk_at dksX1_part_2 21 rfl rfl)
theorem dX1_part_70 : decode cX1_part 70 = .ok (.iconst 1, 1) := dk_4 (dk_at dksX1_part_3 0 rfl rfl)
theorem dX1_part_71 : decode cX1_part 71 = .ok (.goto 4, 3) := dk_167 0 4 (dk_at dksX1_part_3 1 rfl rfl)
theorem dX1_part_74 : decode cX1_part 74 = .ok (.iconst 0, 1) := dk_3 (dk_at dksX1_part_3 4 rfl rfl)
theorem dX1_part_75 : decode cX1_part 75 = .ok (.invokestatic 143, 3) := dk_184 0 143 (dk_at dksX1_part_3 5 rfl rfl)
theorem dX1_part_78 : decode cX1_part 78 = .ok (.new 76, 3) := dk_187 0 76 (dk_at dksX1_part_3 8 rfl rfl)
theorem dX1_part_81 : decode cX1_part 81 = .ok (.dup, 1) := dk_89 (dk_at dksX1_part_3 11 rfl rfl)
theorem dX1_part_82 : decode cX1_part 82 = .ok (.aload_n 0, 1) := dk_42 (dk_at dksX1_part_3 12 rfl rfl)
theorem dX1_part_83 : decode cX1_part 83 = .ok (.aload_n 0, 1) := dk_42 (dk_at dksX1_part_3 13 rfl rfl)
theorem dX1_part_84 : decode cX1_part 84 = .ok (.getfield 10, 3) := dk_180 0 10 (dk_at dksX1_part_3 14 rfl rfl)
theorem dX1_part_87 : decode cX1_part 87 = .ok (.iload_n 2, 1) := dk_28 (dk_at dksX1_part_3 17 rfl rfl)
theorem dX1_part_88 : decode cX1_part 88 = .ok (.invokevirtual 70, 3) := dk_182 0 70 (dk_at dksX1_part_3 18 rfl rfl)
theorem dX1_part_91 : decode cX1_part 91 = .ok (.checkcast 146, 3) := dk_192 0 146 (dk_at dksX1_part_3 21 rfl rfl)
theorem dX1_part_94 : decode cX1_part 94 = .ok (.iload_n 3, 1) := dk_29 (dk_at dksX1_part_4 0 rfl rfl)
theorem dX1_part_95 : decode cX1_part 95 = .ok (.iconst 1, 1) := dk_4 (dk_at dksX1_part_4 1 rfl rfl)
theorem dX1_part_96 : decode cX1_part 96 = .ok (.aload 4, 2) := dk_25 4 (dk_at dksX1_part_4 2 rfl rfl)
theorem dX1_part_98 : decode cX1_part 98 = .ok (.aload 4, 2) := dk_25 4 (dk_at dksX1_part_4 4 rfl rfl)
theorem dX1_part_100 : decode cX1_part 100 = .ok (.getfield 193, 3) := dk_180 0 193 (dk_at dksX1_part_4 6 rfl rfl)
theorem dX1_part_103 : decode cX1_part 103 = .ok (.invokespecial 179, 3) := dk_183 0 179 (dk_at dksX1_part_4 9 rfl rfl)
theorem dX1_part_106 : decode cX1_part 106 = .ok (.astore 5, 2) := dk_58 5 (dk_at dksX1_part_4 12 rfl rfl)
theorem dX1_part_108 : decode cX1_part 108 = .ok (.aload_n 0, 1) := dk_42 (dk_at dksX1_part_4 14 rfl rfl)
theorem dX1_part_109 : decode cX1_part 109 = .ok (.getfield 19, 3) := dk_180 0 19 (dk_at dksX1_part_4 15 rfl rfl)
theorem dX1_part_112 : decode cX1_part 112 = .ok (.aload 5, 2) := dk_25 5 (dk_at dksX1_part_4 18 rfl rfl)
theorem dX1_part_114 : decode cX1_part 114 = .ok (.invokevirtual 131, 3) := dk_182 0 131 (dk_at dksX1_part_4 20 rfl rfl)
theorem dX1_part_117 : decode cX1_part 117 = .ok (.pop, 1) := dk_87 (dk_at dksX1_part_4 23 rfl rfl)
theorem dX1_part_118 : decode cX1_part 118 = .ok (.aload 4, 2) := dk_25 4 (dk_at dksX1_part_5 0 rfl rfl)
theorem dX1_part_120 : decode cX1_part 120 = .ok (.getfield 190, 3) := dk_180 0 190 (dk_at dksX1_part_5 2 rfl rfl)
theorem dX1_part_123 : decode cX1_part 123 = .ok (.aload 5, 2) := dk_25 5 (dk_at dksX1_part_5 5 rfl rfl)
theorem dX1_part_125 : decode cX1_part 125 = .ok (.invokevirtual 131, 3) := dk_182 0 131 (dk_at dksX1_part_5 7 rfl rfl)
theorem dX1_part_128 : decode cX1_part 128 = .ok (.pop, 1) := dk_87 (dk_at dksX1_part_5 10 rfl rfl)
theorem dX1_part_129 : decode cX1_part 129 = .ok (.aload 5, 2) := dk_25 5 (dk_at dksX1_part_5 11 rfl rfl)
theorem dX1_part_131 : decode cX1_part 131 = .ok (.getfield 128, 3) := dk_180 0 128 (dk_at dksX1_part_5 13 rfl rfl)
theorem dX1_part_134 : decode cX1_part 134 = .ok (.ireturn, 1) := dk_172 (dk_at dksX1_part_5 16 rfl rfl)
abbrev cX1_thingAt : ByteArray := prog_1_method_9_code
def yX1_thingAt : MethodName := ⟨RX1, "thingAt", "(I)LVaultyard$Thing;"⟩
def dkwX1_thingAt_0 : List UInt8 := [27, 42, 180, 0, 19, 182, 0, 62, 184, 0, 66, 42, 180, 0, 19, 27, 182, 0, 70, 192, 0, 76, 176]
abbrev dktX1_thingAt_0 : List UInt8 := dkwX1_thingAt_0 ++ []
theorem dksX1_thingAt_0 : cX1_thingAt.data.toList.drop 0 = dktX1_thingAt_0 := by decide +kernel
theorem dX1_thingAt_0 : decode cX1_thingAt 0 = .ok (.iload_n 1, 1) := dk_27 (dk_at dksX1_thingAt_0 0 rfl rfl)
theorem dX1_thingAt_1 : decode cX1_thingAt 1 = .ok (.aload_n 0, 1) := dk_42 (dk_at dksX1_thingAt_0 1 rfl rfl)
theorem dX1_thingAt_2 : decode cX1_thingAt 2 = .ok (.getfield 19, 3) := dk_180 0 19 (dk_at dksX1_thingAt_0 2 rfl rfl)
theorem dX1_thingAt_5 : decode cX1_thingAt 5 = .ok (.invokevirtual 62, 3) := dk_182 0 62 (dk_at dksX1_thingAt_0 5 rfl rfl)
theorem dX1_thingAt_8 : decode cX1_thingAt 8 = .ok (.invokestatic 66, 3) := dk_184 0 66 (dk_at dksX1_thingAt_0 8 rfl rfl)
theorem dX1_thingAt_11 : decode cX1_thingAt 11 = .ok (.aload_n 0, 1) := dk_42 (dk_at dksX1_thingAt_0 11 rfl rfl)
theorem dX1_thingAt_12 : decode cX1_thingAt 12 = .ok (.getfield 19, 3) := dk_180 0 19 (dk_at dksX1_thingAt_0 12 rfl rfl)
theorem dX1_thingAt_15 : decode cX1_thingAt 15 = .ok (.iload_n 1, 1) := dk_27 (dk_at dksX1_thingAt_0 15 rfl rfl)
theorem dX1_thingAt_16 : decode cX1_thingAt 16 = .ok (.invokevirtual 70, 3) := dk_182 0 70 (dk_at dksX1_thingAt_0 16 rfl rfl)
theorem dX1_thingAt_19 : decode cX1_thingAt 19 = .ok (.checkcast 76, 3) := dk_192 0 76 (dk_at dksX1_thingAt_0 19 rfl rfl)
theorem dX1_thingAt_22 : decode cX1_thingAt 22 = .ok (.areturn, 1) := dk_176 (dk_at dksX1_thingAt_0 22 rfl rfl)
abbrev cX1_move : ByteArray := prog_1_method_24_code
def yX1_move : MethodName := ⟨RX1, "move", "(II)I"⟩
def dkwX1_move_3 : List UInt8 := [180, 0, 112, 42, 25, 4, 182, 0, 108, 100, 172]
abbrev dktX1_move_3 : List UInt8 := dkwX1_move_3 ++ []
def dkwX1_move_2 : List UInt8 := [184, 0, 176, 42, 25, 4, 45, 180, 0, 106, 182, 0, 172, 184, 0, 176, 45, 25, 4, 182, 0, 197, 25, 4]
abbrev dktX1_move_2 : List UInt8 := dkwX1_move_2 ++ dktX1_move_3
def dkwX1_move_1 : List UInt8 := [180, 0, 193, 25, 4, 166, 0, 12, 45, 16, 98, 182, 0, 186, 153, 0, 7, 4, 167, 0, 4, 3]
abbrev dktX1_move_1 : List UInt8 := dkwX1_move_1 ++ dktX1_move_2
def dkwX1_move_0 : List UInt8 := [42, 27, 182, 0, 182, 78, 42, 28, 182, 0, 158, 58, 4, 45, 16, 114, 182, 0, 186, 153, 0, 12, 45]
abbrev dktX1_move_0 : List UInt8 := dkwX1_move_0 ++ dktX1_move_1
theorem dksX1_move_0 : cX1_move.data.toList.drop 0 = dktX1_move_0 := by decide +kernel
theorem dksX1_move_1 : cX1_move.data.toList.drop 23 = dktX1_move_1 := dk_seg dksX1_move_0 23 rfl rfl
theorem dksX1_move_2 : cX1_move.data.toList.drop 45 = dktX1_move_2 := dk_seg dksX1_move_1 22 rfl rfl
theorem dksX1_move_3 : cX1_move.data.toList.drop 69 = dktX1_move_3 := dk_seg dksX1_move_2 24 rfl rfl
theorem dX1_move_0 : decode cX1_move 0 = .ok (.aload_n 0, 1) := dk_42 (dk_at dksX1_move_0 0 rfl rfl)
theorem dX1_move_1 : decode cX1_move 1 = .ok (.iload_n 1, 1) := dk_27 (dk_at dksX1_move_0 1 rfl rfl)
theorem dX1_move_2 : decode cX1_move 2 = .ok (.invokevirtual 182, 3) := dk_182 0 182 (dk_at dksX1_move_0 2 rfl rfl)
theorem dX1_move_5 : decode cX1_move 5 = .ok (.astore_n 3, 1) := dk_78 (dk_at dksX1_move_0 5 rfl rfl)
theorem dX1_move_6 : decode cX1_move 6 = .ok (.aload_n 0, 1) := dk_42 (dk_at dksX1_move_0 6 rfl rfl)
theorem dX1_move_7 : decode cX1_move 7 = .ok (.iload_n 2, 1) := dk_28 (dk_at dksX1_move_0 7 rfl rfl)
theorem dX1_move_8 : decode cX1_move 8 = .ok (.invokevirtual 158, 3) := dk_182 0 158 (dk_at dksX1_move_0 8 rfl rfl)
theorem dX1_move_11 : decode cX1_move 11 = .ok (.astore 4, 2) := dk_58 4 (dk_at dksX1_move_0 11 rfl rfl)
theorem dX1_move_13 : decode cX1_move 13 = .ok (.aload_n 3, 1) := dk_45 (dk_at dksX1_move_0 13 rfl rfl)
theorem dX1_move_14 : decode cX1_move 14 = .ok (.bipush 114, 2) := dk_16 114 (dk_at dksX1_move_0 14 rfl rfl)
theorem dX1_move_16 : decode cX1_move 16 = .ok (.invokevirtual 186, 3) := dk_182 0 186 (dk_at dksX1_move_0 16 rfl rfl)
theorem dX1_move_19 : decode cX1_move 19 = .ok (.ifCond .eq 12, 3) := dk_153 0 12 (dk_at dksX1_move_0 19 rfl rfl)
theorem dX1_move_22 : decode cX1_move 22 = .ok (.aload_n 3, 1) := dk_45 (dk_at dksX1_move_0 22 rfl rfl)
theorem dX1_move_23 : decode cX1_move 23 = .ok (.getfield 193, 3) := dk_180 0 193 (dk_at dksX1_move_1 0 rfl rfl)
theorem dX1_move_26 : decode cX1_move 26 = .ok (.aload 4, 2) := dk_25 4 (dk_at dksX1_move_1 3 rfl rfl)
theorem dX1_move_28 : decode cX1_move 28 = .ok (.if_acmp .ne 12, 3) := dk_166 0 12 (dk_at dksX1_move_1 5 rfl rfl)
theorem dX1_move_31 : decode cX1_move 31 = .ok (.aload_n 3, 1) := dk_45 (dk_at dksX1_move_1 8 rfl rfl)
theorem dX1_move_32 : decode cX1_move 32 = .ok (.bipush 98, 2) := dk_16 98 (dk_at dksX1_move_1 9 rfl rfl)
theorem dX1_move_34 : decode cX1_move 34 = .ok (.invokevirtual 186, 3) := dk_182 0 186 (dk_at dksX1_move_1 11 rfl rfl)
theorem dX1_move_37 : decode cX1_move 37 = .ok (.ifCond .eq 7, 3) := dk_153 0 7 (dk_at dksX1_move_1 14 rfl rfl)
theorem dX1_move_40 : decode cX1_move 40 = .ok (.iconst 1, 1) := dk_4 (dk_at dksX1_move_1 17 rfl rfl)
theorem dX1_move_41 : decode cX1_move 41 = .ok (.goto 4, 3) := dk_167 0 4 (dk_at dksX1_move_1 18 rfl rfl)
theorem dX1_move_44 : decode cX1_move 44 = .ok (.iconst 0, 1) := dk_3 (dk_at dksX1_move_1 21 rfl rfl)
theorem dX1_move_45 : decode cX1_move 45 = .ok (.invokestatic 176, 3) := dk_184 0 176 (dk_at dksX1_move_2 0 rfl rfl)
theorem dX1_move_48 : decode cX1_move 48 = .ok (.aload_n 0, 1) := dk_42 (dk_at dksX1_move_2 3 rfl rfl)
theorem dX1_move_49 : decode cX1_move 49 = .ok (.aload 4, 2) := dk_25 4 (dk_at dksX1_move_2 4 rfl rfl)
theorem dX1_move_51 : decode cX1_move 51 = .ok (.aload_n 3, 1) := dk_45 (dk_at dksX1_move_2 6 rfl rfl)
theorem dX1_move_52 : decode cX1_move 52 = .ok (.getfield 106, 3) := dk_180 0 106 (dk_at dksX1_move_2 7 rfl rfl)
theorem dX1_move_55 : decode cX1_move 55 = .ok (.invokevirtual 172, 3) := dk_182 0 172 (dk_at dksX1_move_2 10 rfl rfl)
theorem dX1_move_58 : decode cX1_move 58 = .ok (.invokestatic 176, 3) := dk_184 0 176 (dk_at dksX1_move_2 13 rfl rfl)
theorem dX1_move_61 : decode cX1_move 61 = .ok (.aload_n 3, 1) := dk_45 (dk_at dksX1_move_2 16 rfl rfl)
theorem dX1_move_62 : decode cX1_move 62 = .ok (.aload 4, 2) := dk_25 4 (dk_at dksX1_move_2 17 rfl rfl)
theorem dX1_move_64 : decode cX1_move 64 = .ok (.invokevirtual 197, 3) := dk_182 0 197 (dk_at dksX1_move_2 19 rfl rfl)
theorem dX1_move_67 : decode cX1_move 67 = .ok (.aload 4, 2) := dk_25 4 (dk_at dksX1_move_2 22 rfl rfl)
theorem dX1_move_69 : decode cX1_move 69 = .ok (.getfield 112, 3) := dk_180 0 112 (dk_at dksX1_move_3 0 rfl rfl)
theorem dX1_move_72 : decode cX1_move 72 = .ok (.aload_n 0, 1) := dk_42 (dk_at dksX1_move_3 3 rfl rfl)
theorem dX1_move_73 : decode cX1_move 73 = .ok (.aload 4, 2) := dk_25 4 (dk_at dksX1_move_3 4 rfl rfl)
theorem dX1_move_75 : decode cX1_move 75 = .ok (.invokevirtual 108, 3) := dk_182 0 108 (dk_at dksX1_move_3 6 rfl rfl)
theorem dX1_move_78 : decode cX1_move 78 = .ok (.isub, 1) := dk_100 (dk_at dksX1_move_3 9 rfl rfl)
theorem dX1_move_79 : decode cX1_move 79 = .ok (.ireturn, 1) := dk_172 (dk_at dksX1_move_3 10 rfl rfl)
abbrev cX1_place : ByteArray := prog_1_method_25_code
def yX1_place : MethodName := ⟨RX1, "place", "(I)C"⟩
def dkwX1_place_0 : List UInt8 := [42, 27, 182, 0, 182, 182, 0, 201, 172]
abbrev dktX1_place_0 : List UInt8 := dkwX1_place_0 ++ []
theorem dksX1_place_0 : cX1_place.data.toList.drop 0 = dktX1_place_0 := by decide +kernel
theorem dX1_place_0 : decode cX1_place 0 = .ok (.aload_n 0, 1) := dk_42 (dk_at dksX1_place_0 0 rfl rfl)
theorem dX1_place_1 : decode cX1_place 1 = .ok (.iload_n 1, 1) := dk_27 (dk_at dksX1_place_0 1 rfl rfl)
theorem dX1_place_2 : decode cX1_place 2 = .ok (.invokevirtual 182, 3) := dk_182 0 182 (dk_at dksX1_place_0 2 rfl rfl)
theorem dX1_place_5 : decode cX1_place 5 = .ok (.invokevirtual 201, 3) := dk_182 0 201 (dk_at dksX1_place_0 5 rfl rfl)
theorem dX1_place_8 : decode cX1_place 8 = .ok (.ireturn, 1) := dk_172 (dk_at dksX1_place_0 8 rfl rfl)
abbrev cX1_roomOf : ByteArray := prog_1_method_26_code
def yX1_roomOf : MethodName := ⟨RX1, "roomOf", "(I)I"⟩
def dkwX1_roomOf_1 : List UInt8 := [182, 0, 208, 180, 0, 193, 180, 0, 212, 172]
abbrev dktX1_roomOf_1 : List UInt8 := dkwX1_roomOf_1 ++ []
def dkwX1_roomOf_0 : List UInt8 := [42, 27, 182, 0, 182, 77, 44, 182, 0, 201, 16, 114, 160, 0, 7, 4, 167, 0, 4, 3, 184, 0, 205, 44]
abbrev dktX1_roomOf_0 : List UInt8 := dkwX1_roomOf_0 ++ dktX1_roomOf_1
theorem dksX1_roomOf_0 : cX1_roomOf.data.toList.drop 0 = dktX1_roomOf_0 := by decide +kernel
theorem dksX1_roomOf_1 : cX1_roomOf.data.toList.drop 24 = dktX1_roomOf_1 := dk_seg dksX1_roomOf_0 24 rfl rfl
theorem dX1_roomOf_0 : decode cX1_roomOf 0 = .ok (.aload_n 0, 1) := dk_42 (dk_at dksX1_roomOf_0 0 rfl rfl)
theorem dX1_roomOf_1 : decode cX1_roomOf 1 = .ok (.iload_n 1, 1) := dk_27 (dk_at dksX1_roomOf_0 1 rfl rfl)
theorem dX1_roomOf_2 : decode cX1_roomOf 2 = .ok (.invokevirtual 182, 3) := dk_182 0 182 (dk_at dksX1_roomOf_0 2 rfl rfl)
theorem dX1_roomOf_5 : decode cX1_roomOf 5 = .ok (.astore_n 2, 1) := dk_77 (dk_at dksX1_roomOf_0 5 rfl rfl)
theorem dX1_roomOf_6 : decode cX1_roomOf 6 = .ok (.aload_n 2, 1) := dk_44 (dk_at dksX1_roomOf_0 6 rfl rfl)
theorem dX1_roomOf_7 : decode cX1_roomOf 7 = .ok (.invokevirtual 201, 3) := dk_182 0 201 (dk_at dksX1_roomOf_0 7 rfl rfl)
theorem dX1_roomOf_10 : decode cX1_roomOf 10 = .ok (.bipush 114, 2) := dk_16 114 (dk_at dksX1_roomOf_0 10 rfl rfl)
theorem dX1_roomOf_12 : decode cX1_roomOf 12 = .ok (.if_icmp .ne 7, 3) := dk_160 0 7 (dk_at dksX1_roomOf_0 12 rfl rfl)
theorem dX1_roomOf_15 : decode cX1_roomOf 15 = .ok (.iconst 1, 1) := dk_4 (dk_at dksX1_roomOf_0 15 rfl rfl)
theorem dX1_roomOf_16 : decode cX1_roomOf 16 = .ok (.goto 4, 3) := dk_167 0 4 (dk_at dksX1_roomOf_0 16 rfl rfl)
theorem dX1_roomOf_19 : decode cX1_roomOf 19 = .ok (.iconst 0, 1) := dk_3 (dk_at dksX1_roomOf_0 19 rfl rfl)
theorem dX1_roomOf_20 : decode cX1_roomOf 20 = .ok (.invokestatic 205, 3) := dk_184 0 205 (dk_at dksX1_roomOf_0 20 rfl rfl)
theorem dX1_roomOf_23 : decode cX1_roomOf 23 = .ok (.aload_n 2, 1) := dk_44 (dk_at dksX1_roomOf_0 23 rfl rfl)
theorem dX1_roomOf_24 : decode cX1_roomOf 24 = .ok (.invokevirtual 208, 3) := dk_182 0 208 (dk_at dksX1_roomOf_1 0 rfl rfl)
theorem dX1_roomOf_27 : decode cX1_roomOf 27 = .ok (.getfield 193, 3) := dk_180 0 193 (dk_at dksX1_roomOf_1 3 rfl rfl)
theorem dX1_roomOf_30 : decode cX1_roomOf 30 = .ok (.getfield 212, 3) := dk_180 0 212 (dk_at dksX1_roomOf_1 6 rfl rfl)
theorem dX1_roomOf_33 : decode cX1_roomOf 33 = .ok (.ireturn, 1) := dk_172 (dk_at dksX1_roomOf_1 9 rfl rfl)
abbrev cX1_there : ByteArray := prog_1_method_6_code
def yX1_there : MethodName := ⟨RX1, "there", "(Z)V"⟩
def dkwX1_there_0 : List UInt8 := [26, 154, 0, 11, 187, 0, 59, 89, 183, 0, 61, 191, 177]
abbrev dktX1_there_0 : List UInt8 := dkwX1_there_0 ++ []
theorem dksX1_there_0 : cX1_there.data.toList.drop 0 = dktX1_there_0 := by decide +kernel
theorem dX1_there_0 : decode cX1_there 0 = .ok (.iload_n 0, 1) := dk_26 (dk_at dksX1_there_0 0 rfl rfl)
theorem dX1_there_1 : decode cX1_there 1 = .ok (.ifCond .ne 11, 3) := dk_154 0 11 (dk_at dksX1_there_0 1 rfl rfl)
theorem dX1_there_4 : decode cX1_there 4 = .ok (.new 59, 3) := dk_187 0 59 (dk_at dksX1_there_0 4 rfl rfl)
theorem dX1_there_7 : decode cX1_there 7 = .ok (.dup, 1) := dk_89 (dk_at dksX1_there_0 7 rfl rfl)
theorem dX1_there_8 : decode cX1_there 8 = .ok (.invokespecial 61, 3) := dk_183 0 61 (dk_at dksX1_there_0 8 rfl rfl)
theorem dX1_there_11 : decode cX1_there 11 = .ok (.athrow, 1) := dk_191 (dk_at dksX1_there_0 11 rfl rfl)
theorem dX1_there_12 : decode cX1_there 12 = .ok (.return_, 1) := dk_177 (dk_at dksX1_there_0 12 rfl rfl)
abbrev cX1_day : ByteArray := prog_1_method_27_code
def yX1_day : MethodName := ⟨RX1, "day", "(I)I"⟩
def dkwX1_day_10 : List UInt8 := [172]
abbrev dktX1_day_10 : List UInt8 := dkwX1_day_10 ++ []
def dkwX1_day_9 : List UInt8 := [167, 0, 8, 25, 4, 180, 0, 219, 181, 0, 219, 167, 255, 211, 132, 2, 1, 167, 255, 66, 42, 180, 0, 80]
abbrev dktX1_day_9 : List UInt8 := dkwX1_day_9 ++ dktX1_day_10
def dkwX1_day_8 : List UInt8 := [185, 0, 94, 1, 0, 192, 0, 76, 58, 4, 25, 4, 42, 180, 0, 80, 17, 1, 109, 112, 154, 0, 7, 3]
abbrev dktX1_day_8 : List UInt8 := dkwX1_day_8 ++ dktX1_day_9
def dkwX1_day_7 : List UInt8 := [181, 0, 80, 42, 180, 0, 19, 182, 0, 84, 78, 45, 185, 0, 88, 1, 0, 153, 0, 42, 45]
abbrev dktX1_day_7 : List UInt8 := dkwX1_day_7 ++ dktX1_day_8
def dkwX1_day_6 : List UInt8 := [153, 0, 13, 25, 4, 25, 4, 180, 0, 193, 182, 0, 197, 167, 255, 187, 42, 89, 180, 0, 80, 4, 96]
abbrev dktX1_day_6 : List UInt8 := dkwX1_day_6 ++ dktX1_day_7
def dkwX1_day_5 : List UInt8 := [180, 0, 216, 42, 180, 0, 80, 163, 0, 30, 42, 25, 4, 180, 0, 193, 25, 4, 180, 0, 106, 182, 0, 172]
abbrev dktX1_day_5 : List UInt8 := dkwX1_day_5 ++ dktX1_day_6
def dkwX1_day_4 : List UInt8 := [185, 0, 94, 1, 0, 192, 0, 76, 58, 4, 25, 4, 16, 119, 182, 0, 186, 153, 0, 42, 25, 4]
abbrev dktX1_day_4 : List UInt8 := dkwX1_day_4 ++ dktX1_day_5
def dkwX1_day_3 : List UInt8 := [167, 255, 231, 42, 180, 0, 19, 182, 0, 84, 78, 45, 185, 0, 88, 1, 0, 153, 0, 66, 45]
abbrev dktX1_day_3 : List UInt8 := dkwX1_day_3 ++ dktX1_day_4
def dkwX1_day_2 : List UInt8 := [185, 0, 88, 1, 0, 153, 0, 22, 45, 185, 0, 94, 1, 0, 192, 0, 76, 58, 4, 25, 4, 182, 0, 213]
abbrev dktX1_day_2 : List UInt8 := dkwX1_day_2 ++ dktX1_day_3
def dkwX1_day_1 : List UInt8 := [167, 0, 4, 3, 184, 0, 143, 3, 61, 28, 27, 162, 0, 191, 42, 180, 0, 19, 182, 0, 84, 78, 45]
abbrev dktX1_day_1 : List UInt8 := dkwX1_day_1 ++ dktX1_day_2
def dkwX1_day_0 : List UInt8 := [27, 4, 17, 1, 144, 184, 0, 139, 184, 0, 135, 42, 180, 0, 80, 27, 96, 17, 117, 48, 163, 0, 7, 4]
abbrev dktX1_day_0 : List UInt8 := dkwX1_day_0 ++ dktX1_day_1
theorem dksX1_day_0 : cX1_day.data.toList.drop 0 = dktX1_day_0 := by decide +kernel
theorem dksX1_day_1 : cX1_day.data.toList.drop 24 = dktX1_day_1 := dk_seg dksX1_day_0 24 rfl rfl
theorem dksX1_day_2 : cX1_day.data.toList.drop 47 = dktX1_day_2 := dk_seg dksX1_day_1 23 rfl rfl
theorem dksX1_day_3 : cX1_day.data.toList.drop 71 = dktX1_day_3 := dk_seg dksX1_day_2 24 rfl rfl
theorem dksX1_day_4 : cX1_day.data.toList.drop 92 = dktX1_day_4 := dk_seg dksX1_day_3 21 rfl rfl
theorem dksX1_day_5 : cX1_day.data.toList.drop 114 = dktX1_day_5 := dk_seg dksX1_day_4 22 rfl rfl
theorem dksX1_day_6 : cX1_day.data.toList.drop 138 = dktX1_day_6 := dk_seg dksX1_day_5 24 rfl rfl
theorem dksX1_day_7 : cX1_day.data.toList.drop 161 = dktX1_day_7 := dk_seg dksX1_day_6 23 rfl rfl
theorem dksX1_day_8 : cX1_day.data.toList.drop 182 = dktX1_day_8 := dk_seg dksX1_day_7 21 rfl rfl
theorem dksX1_day_9 : cX1_day.data.toList.drop 206 = dktX1_day_9 := dk_seg dksX1_day_8 24 rfl rfl
theorem dksX1_day_10 : cX1_day.data.toList.drop 230 = dktX1_day_10 := dk_seg dksX1_day_9 24 rfl rfl
theorem dX1_day_0 : decode cX1_day 0 = .ok (.iload_n 1, 1) := dk_27 (dk_at dksX1_day_0 0 rfl rfl)
theorem dX1_day_1 : decode cX1_day 1 = .ok (.iconst 1, 1) := dk_4 (dk_at dksX1_day_0 1 rfl rfl)
theorem dX1_day_2 : decode cX1_day 2 = .ok (.sipush 400, 3) := dk_17 1 144 (dk_at dksX1_day_0 2 rfl rfl)
theorem dX1_day_5 : decode cX1_day 5 = .ok (.invokestatic 139, 3) := dk_184 0 139 (dk_at dksX1_day_0 5 rfl rfl)
theorem dX1_day_8 : decode cX1_day 8 = .ok (.invokestatic 135, 3) := dk_184 0 135 (dk_at dksX1_day_0 8 rfl rfl)
theorem dX1_day_11 : decode cX1_day 11 = .ok (.aload_n 0, 1) := dk_42 (dk_at dksX1_day_0 11 rfl rfl)
theorem dX1_day_12 : decode cX1_day 12 = .ok (.getfield 80, 3) := dk_180 0 80 (dk_at dksX1_day_0 12 rfl rfl)
theorem dX1_day_15 : decode cX1_day 15 = .ok (.iload_n 1, 1) := dk_27 (dk_at dksX1_day_0 15 rfl rfl)
theorem dX1_day_16 : decode cX1_day 16 = .ok (.iadd, 1) := dk_96 (dk_at dksX1_day_0 16 rfl rfl)
theorem dX1_day_17 : decode cX1_day 17 = .ok (.sipush 30000, 3) := dk_17 117 48 (dk_at dksX1_day_0 17 rfl rfl)
theorem dX1_day_20 : decode cX1_day 20 = .ok (.if_icmp .gt 7, 3) := dk_163 0 7 (dk_at dksX1_day_0 20 rfl rfl)
theorem dX1_day_23 : decode cX1_day 23 = .ok (.iconst 1, 1) := dk_4 (dk_at dksX1_day_0 23 rfl rfl)
theorem dX1_day_24 : decode cX1_day 24 = .ok (.goto 4, 3) := dk_167 0 4 (dk_at dksX1_day_1 0 rfl rfl)
theorem dX1_day_27 : decode cX1_day 27 = .ok (.iconst 0, 1) := dk_3 (dk_at dksX1_day_1 3 rfl rfl)
theorem dX1_day_28 : decode cX1_day 28 = .ok (.invokestatic 143, 3) := dk_184 0 143 (dk_at dksX1_day_1 4 rfl rfl)
theorem dX1_day_31 : decode cX1_day 31 = .ok (.iconst 0, 1) := dk_3 (dk_at dksX1_day_1 7 rfl rfl)
theorem dX1_day_32 : decode cX1_day 32 = .ok (.istore_n 2, 1) := dk_61 (dk_at dksX1_day_1 8 rfl rfl)
theorem dX1_day_33 : decode cX1_day 33 = .ok (.iload_n 2, 1) := dk_28 (dk_at dksX1_day_1 9 rfl rfl)
theorem dX1_day_34 : decode cX1_day 34 = .ok (.iload_n 1, 1) := dk_27 (dk_at dksX1_day_1 10 rfl rfl)
theorem dX1_day_35 : decode cX1_day 35 = .ok (.if_icmp .ge 191, 3) := dk_162 0 191 (dk_at dksX1_day_1 11 rfl rfl)
theorem dX1_day_38 : decode cX1_day 38 = .ok (.aload_n 0, 1) := dk_42 (dk_at dksX1_day_1 14 rfl rfl)
theorem dX1_day_39 : decode cX1_day 39 = .ok (.getfield 19, 3) := dk_180 0 19 (dk_at dksX1_day_1 15 rfl rfl)
theorem dX1_day_42 : decode cX1_day 42 = .ok (.invokevirtual 84, 3) := dk_182 0 84 (dk_at dksX1_day_1 18 rfl rfl)
theorem dX1_day_45 : decode cX1_day 45 = .ok (.astore_n 3, 1) := dk_78 (dk_at dksX1_day_1 21 rfl rfl)
theorem dX1_day_46 : decode cX1_day 46 = .ok (.aload_n 3, 1) := dk_45 (dk_at dksX1_day_1 22 rfl rfl)
theorem dX1_day_47 : decode cX1_day 47 = .ok (.invokeinterface 88 1, 5) := by decide +kernel
theorem dX1_day_52 : decode cX1_day 52 = .ok (.ifCond .eq 22, 3) := dk_153 0 22 (dk_at dksX1_day_2 5 rfl rfl)
theorem dX1_day_55 : decode cX1_day 55 = .ok (.aload_n 3, 1) := dk_45 (dk_at dksX1_day_2 8 rfl rfl)
theorem dX1_day_56 : decode cX1_day 56 = .ok (.invokeinterface 94 1, 5) := by decide +kernel
theorem dX1_day_61 : decode cX1_day 61 = .ok (.checkcast 76, 3) := dk_192 0 76 (dk_at dksX1_day_2 14 rfl rfl)
theorem dX1_day_64 : decode cX1_day 64 = .ok (.astore 4, 2) := dk_58 4 (dk_at dksX1_day_2 17 rfl rfl)
theorem dX1_day_66 : decode cX1_day 66 = .ok (.aload 4, 2) := dk_25 4 (dk_at dksX1_day_2 19 rfl rfl)
theorem dX1_day_68 : decode cX1_day 68 = .ok (.invokevirtual 213, 3) := dk_182 0 213 (dk_at dksX1_day_2 21 rfl rfl)
theorem dX1_day_71 : decode cX1_day 71 = .ok (.goto (-25), 3) := dk_167 255 231 (dk_at dksX1_day_3 0 rfl rfl)
theorem dX1_day_74 : decode cX1_day 74 = .ok (.aload_n 0, 1) := dk_42 (dk_at dksX1_day_3 3 rfl rfl)
theorem dX1_day_75 : decode cX1_day 75 = .ok (.getfield 19, 3) := dk_180 0 19 (dk_at dksX1_day_3 4 rfl rfl)
theorem dX1_day_78 : decode cX1_day 78 = .ok (.invokevirtual 84, 3) := dk_182 0 84 (dk_at dksX1_day_3 7 rfl rfl)
theorem dX1_day_81 : decode cX1_day 81 = .ok (.astore_n 3, 1) := dk_78 (dk_at dksX1_day_3 10 rfl rfl)
theorem dX1_day_82 : decode cX1_day 82 = .ok (.aload_n 3, 1) := dk_45 (dk_at dksX1_day_3 11 rfl rfl)
theorem dX1_day_83 : decode cX1_day 83 = .ok (.invokeinterface 88 1, 5) := by decide +kernel
theorem dX1_day_88 : decode cX1_day 88 = .ok (.ifCond .eq 66, 3) := dk_153 0 66 (dk_at dksX1_day_3 17 rfl rfl)
theorem dX1_day_91 : decode cX1_day 91 = .ok (.aload_n 3, 1) := dk_45 (dk_at dksX1_day_3 20 rfl rfl)
theorem dX1_day_92 : decode cX1_day 92 = .ok (.invokeinterface 94 1, 5) := by decide +kernel
theorem dX1_day_97 : decode cX1_day 97 = .ok (.checkcast 76, 3) := dk_192 0 76 (dk_at dksX1_day_4 5 rfl rfl)
theorem dX1_day_100 : decode cX1_day 100 = .ok (.astore 4, 2) := dk_58 4 (dk_at dksX1_day_4 8 rfl rfl)
theorem dX1_day_102 : decode cX1_day 102 = .ok (.aload 4, 2) := dk_25 4 (dk_at dksX1_day_4 10 rfl rfl)
theorem dX1_day_104 : decode cX1_day 104 = .ok (.bipush 119, 2) := dk_16 119 (dk_at dksX1_day_4 12 rfl rfl)
theorem dX1_day_106 : decode cX1_day 106 = .ok (.invokevirtual 186, 3) := dk_182 0 186 (dk_at dksX1_day_4 14 rfl rfl)
theorem dX1_day_109 : decode cX1_day 109 = .ok (.ifCond .eq 42, 3) := dk_153 0 42 (dk_at dksX1_day_4 17 rfl rfl)
theorem dX1_day_112 : decode cX1_day 112 = .ok (.aload 4, 2) := dk_25 4 (dk_at dksX1_day_4 20 rfl rfl)
theorem dX1_day_114 : decode cX1_day 114 = .ok (.getfield 216, 3) := dk_180 0 216 (dk_at dksX1_day_5 0 rfl rfl)
theorem dX1_day_117 : decode cX1_day 117 = .ok (.aload_n 0, 1) := dk_42 (dk_at dksX1_day_5 3 rfl rfl)
theorem dX1_day_118 : decode cX1_day 118 = .ok (.getfield 80, 3) := dk_180 0 80 (dk_at dksX1_day_5 4 rfl rfl)
theorem dX1_day_121 : decode cX1_day 121 = .ok (.if_icmp .gt 30, 3) := dk_163 0 30 (dk_at dksX1_day_5 7 rfl rfl)
theorem dX1_day_124 : decode cX1_day 124 = .ok (.aload_n 0, 1) := dk_42 (dk_at dksX1_day_5 10 rfl rfl)
theorem dX1_day_125 : decode cX1_day 125 = .ok (.aload 4, 2) := dk_25 4 (dk_at dksX1_day_5 11 rfl rfl)
theorem dX1_day_127 : decode cX1_day 127 = .ok (.getfield 193, 3) := dk_180 0 193 (dk_at dksX1_day_5 13 rfl rfl)
theorem dX1_day_130 : decode cX1_day 130 = .ok (.aload 4, 2) := dk_25 4 (dk_at dksX1_day_5 16 rfl rfl)
theorem dX1_day_132 : decode cX1_day 132 = .ok (.getfield 106, 3) := dk_180 0 106 (dk_at dksX1_day_5 18 rfl rfl)
theorem dX1_day_135 : decode cX1_day 135 = .ok (.invokevirtual 172, 3) := dk_182 0 172 (dk_at dksX1_day_5 21 rfl rfl)
theorem dX1_day_138 : decode cX1_day 138 = .ok (.ifCond .eq 13, 3) := dk_153 0 13 (dk_at dksX1_day_6 0 rfl rfl)
theorem dX1_day_141 : decode cX1_day 141 = .ok (.aload 4, 2) := dk_25 4 (dk_at dksX1_day_6 3 rfl rfl)
theorem dX1_day_143 : decode cX1_day 143 = .ok (.aload 4, 2) := dk_25 4 (dk_at dksX1_day_6 5 rfl rfl)
theorem dX1_day_145 : decode cX1_day 145 = .ok (.getfield 193, 3) := dk_180 0 193 (dk_at dksX1_day_6 7 rfl rfl)
theorem dX1_day_148 : decode cX1_day 148 = .ok (.invokevirtual 197, 3) := dk_182 0 197 (dk_at dksX1_day_6 10 rfl rfl)
theorem dX1_day_151 : decode cX1_day 151 = .ok (.goto (-69), 3) := dk_167 255 187 (dk_at dksX1_day_6 13 rfl rfl)
theorem dX1_day_154 : decode cX1_day 154 = .ok (.aload_n 0, 1) := dk_42 (dk_at dksX1_day_6 16 rfl rfl)
theorem dX1_day_155 : decode cX1_day 155 = .ok (.dup, 1) := dk_89 (dk_at dksX1_day_6 17 rfl rfl)
theorem dX1_day_156 : decode cX1_day 156 = .ok (.getfield 80, 3) := dk_180 0 80 (dk_at dksX1_day_6 18 rfl rfl)
theorem dX1_day_159 : decode cX1_day 159 = .ok (.iconst 1, 1) := dk_4 (dk_at dksX1_day_6 21 rfl rfl)
theorem dX1_day_160 : decode cX1_day 160 = .ok (.iadd, 1) := dk_96 (dk_at dksX1_day_6 22 rfl rfl)
theorem dX1_day_161 : decode cX1_day 161 = .ok (.putfield 80, 3) := dk_181 0 80 (dk_at dksX1_day_7 0 rfl rfl)
theorem dX1_day_164 : decode cX1_day 164 = .ok (.aload_n 0, 1) := dk_42 (dk_at dksX1_day_7 3 rfl rfl)
theorem dX1_day_165 : decode cX1_day 165 = .ok (.getfield 19, 3) := dk_180 0 19 (dk_at dksX1_day_7 4 rfl rfl)
theorem dX1_day_168 : decode cX1_day 168 = .ok (.invokevirtual 84, 3) := dk_182 0 84 (dk_at dksX1_day_7 7 rfl rfl)
theorem dX1_day_171 : decode cX1_day 171 = .ok (.astore_n 3, 1) := dk_78 (dk_at dksX1_day_7 10 rfl rfl)
theorem dX1_day_172 : decode cX1_day 172 = .ok (.aload_n 3, 1) := dk_45 (dk_at dksX1_day_7 11 rfl rfl)
theorem dX1_day_173 : decode cX1_day 173 = .ok (.invokeinterface 88 1, 5) := by decide +kernel
theorem dX1_day_178 : decode cX1_day 178 = .ok (.ifCond .eq 42, 3) := dk_153 0 42 (dk_at dksX1_day_7 17 rfl rfl)
theorem dX1_day_181 : decode cX1_day 181 = .ok (.aload_n 3, 1) := dk_45 (dk_at dksX1_day_7 20 rfl rfl)
theorem dX1_day_182 : decode cX1_day 182 = .ok (.invokeinterface 94 1, 5) := by decide +kernel
theorem dX1_day_187 : decode cX1_day 187 = .ok (.checkcast 76, 3) := dk_192 0 76 (dk_at dksX1_day_8 5 rfl rfl)
theorem dX1_day_190 : decode cX1_day 190 = .ok (.astore 4, 2) := dk_58 4 (dk_at dksX1_day_8 8 rfl rfl)
theorem dX1_day_192 : decode cX1_day 192 = .ok (.aload 4, 2) := dk_25 4 (dk_at dksX1_day_8 10 rfl rfl)
theorem dX1_day_194 : decode cX1_day 194 = .ok (.aload_n 0, 1) := dk_42 (dk_at dksX1_day_8 12 rfl rfl)
theorem dX1_day_195 : decode cX1_day 195 = .ok (.getfield 80, 3) := dk_180 0 80 (dk_at dksX1_day_8 13 rfl rfl)
theorem dX1_day_198 : decode cX1_day 198 = .ok (.sipush 365, 3) := dk_17 1 109 (dk_at dksX1_day_8 16 rfl rfl)
theorem dX1_day_201 : decode cX1_day 201 = .ok (.irem, 1) := dk_112 (dk_at dksX1_day_8 19 rfl rfl)
theorem dX1_day_202 : decode cX1_day 202 = .ok (.ifCond .ne 7, 3) := dk_154 0 7 (dk_at dksX1_day_8 20 rfl rfl)
theorem dX1_day_205 : decode cX1_day 205 = .ok (.iconst 0, 1) := dk_3 (dk_at dksX1_day_8 23 rfl rfl)
theorem dX1_day_206 : decode cX1_day 206 = .ok (.goto 8, 3) := dk_167 0 8 (dk_at dksX1_day_9 0 rfl rfl)
theorem dX1_day_209 : decode cX1_day 209 = .ok (.aload 4, 2) := dk_25 4 (dk_at dksX1_day_9 3 rfl rfl)
theorem dX1_day_211 : decode cX1_day 211 = .ok (.getfield 219, 3) := dk_180 0 219 (dk_at dksX1_day_9 5 rfl rfl)
theorem dX1_day_214 : decode cX1_day 214 = .ok (.putfield 219, 3) := dk_181 0 219 (dk_at dksX1_day_9 8 rfl rfl)
theorem dX1_day_217 : decode cX1_day 217 = .ok (.goto (-45), 3) := dk_167 255 211 (dk_at dksX1_day_9 11 rfl rfl)
theorem dX1_day_220 : decode cX1_day 220 = .ok (.iinc 2 1, 3) := dk_132 2 1 (dk_at dksX1_day_9 14 rfl rfl)
theorem dX1_day_223 : decode cX1_day 223 = .ok (.goto (-190), 3) := dk_167 255 66 (dk_at dksX1_day_9 17 rfl rfl)
theorem dX1_day_226 : decode cX1_day 226 = .ok (.aload_n 0, 1) := dk_42 (dk_at dksX1_day_9 20 rfl rfl)
theorem dX1_day_227 : decode cX1_day 227 = .ok (.getfield 80, 3) := dk_180 0 80 (dk_at dksX1_day_9 21 rfl rfl)
theorem dX1_day_230 : decode cX1_day 230 = .ok (.ireturn, 1) := dk_172 (dk_at dksX1_day_10 0 rfl rfl)
abbrev cX1_light : ByteArray := prog_1_method_29_code
def yX1_light : MethodName := ⟨RX1, "light", "(I)I"⟩
def dkwX1_light_0 : List UInt8 := [42, 27, 182, 0, 182, 180, 0, 219, 172]
abbrev dktX1_light_0 : List UInt8 := dkwX1_light_0 ++ []
theorem dksX1_light_0 : cX1_light.data.toList.drop 0 = dktX1_light_0 := by decide +kernel
theorem dX1_light_0 : decode cX1_light 0 = .ok (.aload_n 0, 1) := dk_42 (dk_at dksX1_light_0 0 rfl rfl)
theorem dX1_light_1 : decode cX1_light 1 = .ok (.iload_n 1, 1) := dk_27 (dk_at dksX1_light_0 1 rfl rfl)
theorem dX1_light_2 : decode cX1_light 2 = .ok (.invokevirtual 182, 3) := dk_182 0 182 (dk_at dksX1_light_0 2 rfl rfl)
theorem dX1_light_5 : decode cX1_light 5 = .ok (.getfield 219, 3) := dk_180 0 219 (dk_at dksX1_light_0 5 rfl rfl)
theorem dX1_light_8 : decode cX1_light 8 = .ok (.ireturn, 1) := dk_172 (dk_at dksX1_light_0 8 rfl rfl)
abbrev cX1_damage : ByteArray := prog_1_method_30_code
def yX1_damage : MethodName := ⟨RX1, "damage", "(I)I"⟩
def dkwX1_damage_0 : List UInt8 := [42, 27, 182, 0, 182, 180, 0, 223, 172]
abbrev dktX1_damage_0 : List UInt8 := dkwX1_damage_0 ++ []
theorem dksX1_damage_0 : cX1_damage.data.toList.drop 0 = dktX1_damage_0 := by decide +kernel
theorem dX1_damage_0 : decode cX1_damage 0 = .ok (.aload_n 0, 1) := dk_42 (dk_at dksX1_damage_0 0 rfl rfl)
theorem dX1_damage_1 : decode cX1_damage 1 = .ok (.iload_n 1, 1) := dk_27 (dk_at dksX1_damage_0 1 rfl rfl)
theorem dX1_damage_2 : decode cX1_damage 2 = .ok (.invokevirtual 182, 3) := dk_182 0 182 (dk_at dksX1_damage_0 2 rfl rfl)
theorem dX1_damage_5 : decode cX1_damage 5 = .ok (.getfield 223, 3) := dk_180 0 223 (dk_at dksX1_damage_0 5 rfl rfl)
theorem dX1_damage_8 : decode cX1_damage 8 = .ok (.ireturn, 1) := dk_172 (dk_at dksX1_damage_0 8 rfl rfl)
abbrev cX1_journal : ByteArray := prog_1_method_31_code
def yX1_journal : MethodName := ⟨RX1, "journal", "(I)I"⟩
def dkwX1_journal_0 : List UInt8 := [42, 27, 182, 0, 182, 180, 0, 226, 182, 0, 62, 172]
abbrev dktX1_journal_0 : List UInt8 := dkwX1_journal_0 ++ []
theorem dksX1_journal_0 : cX1_journal.data.toList.drop 0 = dktX1_journal_0 := by decide +kernel
theorem dX1_journal_0 : decode cX1_journal 0 = .ok (.aload_n 0, 1) := dk_42 (dk_at dksX1_journal_0 0 rfl rfl)
theorem dX1_journal_1 : decode cX1_journal 1 = .ok (.iload_n 1, 1) := dk_27 (dk_at dksX1_journal_0 1 rfl rfl)
theorem dX1_journal_2 : decode cX1_journal 2 = .ok (.invokevirtual 182, 3) := dk_182 0 182 (dk_at dksX1_journal_0 2 rfl rfl)
theorem dX1_journal_5 : decode cX1_journal 5 = .ok (.getfield 226, 3) := dk_180 0 226 (dk_at dksX1_journal_0 5 rfl rfl)
theorem dX1_journal_8 : decode cX1_journal 8 = .ok (.invokevirtual 62, 3) := dk_182 0 62 (dk_at dksX1_journal_0 8 rfl rfl)
theorem dX1_journal_11 : decode cX1_journal 11 = .ok (.ireturn, 1) := dk_172 (dk_at dksX1_journal_0 11 rfl rfl)
abbrev cX1_entry : ByteArray := prog_1_method_32_code
def yX1_entry : MethodName := ⟨RX1, "entry", "(IIC)I"⟩
def dkwX1_entry_4 : List UInt8 := [167, 0, 8, 25, 5, 182, 0, 236, 172]
abbrev dktX1_entry_4 : List UInt8 := dkwX1_entry_4 ++ []
def dkwX1_entry_3 : List UInt8 := [160, 0, 11, 25, 5, 182, 0, 231, 167, 0, 22, 29, 16, 108, 160, 0, 11, 25, 5, 182, 0, 233]
abbrev dktX1_entry_3 : List UInt8 := dkwX1_entry_3 ++ dktX1_entry_4
def dkwX1_entry_2 : List UInt8 := [184, 0, 139, 184, 0, 205, 25, 4, 180, 0, 226, 28, 182, 0, 70, 192, 0, 229, 58, 5, 29, 16, 100]
abbrev dktX1_entry_2 : List UInt8 := dkwX1_entry_2 ++ dktX1_entry_3
def dkwX1_entry_1 : List UInt8 := [160, 0, 7, 4, 167, 0, 4, 3, 184, 0, 135, 28, 3, 25, 4, 180, 0, 226, 182, 0, 62, 4, 100]
abbrev dktX1_entry_1 : List UInt8 := dkwX1_entry_1 ++ dktX1_entry_2
def dkwX1_entry_0 : List UInt8 := [42, 27, 182, 0, 182, 58, 4, 29, 16, 100, 159, 0, 15, 29, 16, 108, 159, 0, 9, 29, 16, 97]
abbrev dktX1_entry_0 : List UInt8 := dkwX1_entry_0 ++ dktX1_entry_1
theorem dksX1_entry_0 : cX1_entry.data.toList.drop 0 = dktX1_entry_0 := by decide +kernel
theorem dksX1_entry_1 : cX1_entry.data.toList.drop 22 = dktX1_entry_1 := dk_seg dksX1_entry_0 22 rfl rfl
theorem dksX1_entry_2 : cX1_entry.data.toList.drop 45 = dktX1_entry_2 := dk_seg dksX1_entry_1 23 rfl rfl
theorem dksX1_entry_3 : cX1_entry.data.toList.drop 68 = dktX1_entry_3 := dk_seg dksX1_entry_2 23 rfl rfl
theorem dksX1_entry_4 : cX1_entry.data.toList.drop 90 = dktX1_entry_4 := dk_seg dksX1_entry_3 22 rfl rfl
theorem dX1_entry_0 : decode cX1_entry 0 = .ok (.aload_n 0, 1) := dk_42 (dk_at dksX1_entry_0 0 rfl rfl)
theorem dX1_entry_1 : decode cX1_entry 1 = .ok (.iload_n 1, 1) := dk_27 (dk_at dksX1_entry_0 1 rfl rfl)
theorem dX1_entry_2 : decode cX1_entry 2 = .ok (.invokevirtual 182, 3) := dk_182 0 182 (dk_at dksX1_entry_0 2 rfl rfl)
theorem dX1_entry_5 : decode cX1_entry 5 = .ok (.astore 4, 2) := dk_58 4 (dk_at dksX1_entry_0 5 rfl rfl)
theorem dX1_entry_7 : decode cX1_entry 7 = .ok (.iload_n 3, 1) := dk_29 (dk_at dksX1_entry_0 7 rfl rfl)
theorem dX1_entry_8 : decode cX1_entry 8 = .ok (.bipush 100, 2) := dk_16 100 (dk_at dksX1_entry_0 8 rfl rfl)
theorem dX1_entry_10 : decode cX1_entry 10 = .ok (.if_icmp .eq 15, 3) := dk_159 0 15 (dk_at dksX1_entry_0 10 rfl rfl)
theorem dX1_entry_13 : decode cX1_entry 13 = .ok (.iload_n 3, 1) := dk_29 (dk_at dksX1_entry_0 13 rfl rfl)
theorem dX1_entry_14 : decode cX1_entry 14 = .ok (.bipush 108, 2) := dk_16 108 (dk_at dksX1_entry_0 14 rfl rfl)
theorem dX1_entry_16 : decode cX1_entry 16 = .ok (.if_icmp .eq 9, 3) := dk_159 0 9 (dk_at dksX1_entry_0 16 rfl rfl)
theorem dX1_entry_19 : decode cX1_entry 19 = .ok (.iload_n 3, 1) := dk_29 (dk_at dksX1_entry_0 19 rfl rfl)
theorem dX1_entry_20 : decode cX1_entry 20 = .ok (.bipush 97, 2) := dk_16 97 (dk_at dksX1_entry_0 20 rfl rfl)
theorem dX1_entry_22 : decode cX1_entry 22 = .ok (.if_icmp .ne 7, 3) := dk_160 0 7 (dk_at dksX1_entry_1 0 rfl rfl)
theorem dX1_entry_25 : decode cX1_entry 25 = .ok (.iconst 1, 1) := dk_4 (dk_at dksX1_entry_1 3 rfl rfl)
theorem dX1_entry_26 : decode cX1_entry 26 = .ok (.goto 4, 3) := dk_167 0 4 (dk_at dksX1_entry_1 4 rfl rfl)
theorem dX1_entry_29 : decode cX1_entry 29 = .ok (.iconst 0, 1) := dk_3 (dk_at dksX1_entry_1 7 rfl rfl)
theorem dX1_entry_30 : decode cX1_entry 30 = .ok (.invokestatic 135, 3) := dk_184 0 135 (dk_at dksX1_entry_1 8 rfl rfl)
theorem dX1_entry_33 : decode cX1_entry 33 = .ok (.iload_n 2, 1) := dk_28 (dk_at dksX1_entry_1 11 rfl rfl)
theorem dX1_entry_34 : decode cX1_entry 34 = .ok (.iconst 0, 1) := dk_3 (dk_at dksX1_entry_1 12 rfl rfl)
theorem dX1_entry_35 : decode cX1_entry 35 = .ok (.aload 4, 2) := dk_25 4 (dk_at dksX1_entry_1 13 rfl rfl)
theorem dX1_entry_37 : decode cX1_entry 37 = .ok (.getfield 226, 3) := dk_180 0 226 (dk_at dksX1_entry_1 15 rfl rfl)
theorem dX1_entry_40 : decode cX1_entry 40 = .ok (.invokevirtual 62, 3) := dk_182 0 62 (dk_at dksX1_entry_1 18 rfl rfl)
theorem dX1_entry_43 : decode cX1_entry 43 = .ok (.iconst 1, 1) := dk_4 (dk_at dksX1_entry_1 21 rfl rfl)
theorem dX1_entry_44 : decode cX1_entry 44 = .ok (.isub, 1) := dk_100 (dk_at dksX1_entry_1 22 rfl rfl)
theorem dX1_entry_45 : decode cX1_entry 45 = .ok (.invokestatic 139, 3) := dk_184 0 139 (dk_at dksX1_entry_2 0 rfl rfl)
theorem dX1_entry_48 : decode cX1_entry 48 = .ok (.invokestatic 205, 3) := dk_184 0 205 (dk_at dksX1_entry_2 3 rfl rfl)
theorem dX1_entry_51 : decode cX1_entry 51 = .ok (.aload 4, 2) := dk_25 4 (dk_at dksX1_entry_2 6 rfl rfl)
theorem dX1_entry_53 : decode cX1_entry 53 = .ok (.getfield 226, 3) := dk_180 0 226 (dk_at dksX1_entry_2 8 rfl rfl)
theorem dX1_entry_56 : decode cX1_entry 56 = .ok (.iload_n 2, 1) := dk_28 (dk_at dksX1_entry_2 11 rfl rfl)
theorem dX1_entry_57 : decode cX1_entry 57 = .ok (.invokevirtual 70, 3) := dk_182 0 70 (dk_at dksX1_entry_2 12 rfl rfl)
theorem dX1_entry_60 : decode cX1_entry 60 = .ok (.checkcast 229, 3) := dk_192 0 229 (dk_at dksX1_entry_2 15 rfl rfl)
theorem dX1_entry_63 : decode cX1_entry 63 = .ok (.astore 5, 2) := dk_58 5 (dk_at dksX1_entry_2 18 rfl rfl)
theorem dX1_entry_65 : decode cX1_entry 65 = .ok (.iload_n 3, 1) := dk_29 (dk_at dksX1_entry_2 20 rfl rfl)
theorem dX1_entry_66 : decode cX1_entry 66 = .ok (.bipush 100, 2) := dk_16 100 (dk_at dksX1_entry_2 21 rfl rfl)
theorem dX1_entry_68 : decode cX1_entry 68 = .ok (.if_icmp .ne 11, 3) := dk_160 0 11 (dk_at dksX1_entry_3 0 rfl rfl)
theorem dX1_entry_71 : decode cX1_entry 71 = .ok (.aload 5, 2) := dk_25 5 (dk_at dksX1_entry_3 3 rfl rfl)
theorem dX1_entry_73 : decode cX1_entry 73 = .ok (.invokevirtual 231, 3) := dk_182 0 231 (dk_at dksX1_entry_3 5 rfl rfl)
theorem dX1_entry_76 : decode cX1_entry 76 = .ok (.goto 22, 3) := dk_167 0 22 (dk_at dksX1_entry_3 8 rfl rfl)
theorem dX1_entry_79 : decode cX1_entry 79 = .ok (.iload_n 3, 1) := dk_29 (dk_at dksX1_entry_3 11 rfl rfl)
theorem dX1_entry_80 : decode cX1_entry 80 = .ok (.bipush 108, 2) := dk_16 108 (dk_at dksX1_entry_3 12 rfl rfl)
theorem dX1_entry_82 : decode cX1_entry 82 = .ok (.if_icmp .ne 11, 3) := dk_160 0 11 (dk_at dksX1_entry_3 14 rfl rfl)
theorem dX1_entry_85 : decode cX1_entry 85 = .ok (.aload 5, 2) := dk_25 5 (dk_at dksX1_entry_3 17 rfl rfl)
theorem dX1_entry_87 : decode cX1_entry 87 = .ok (.invokevirtual 233, 3) := dk_182 0 233 (dk_at dksX1_entry_3 19 rfl rfl)
theorem dX1_entry_90 : decode cX1_entry 90 = .ok (.goto 8, 3) := dk_167 0 8 (dk_at dksX1_entry_4 0 rfl rfl)
theorem dX1_entry_93 : decode cX1_entry 93 = .ok (.aload 5, 2) := dk_25 5 (dk_at dksX1_entry_4 3 rfl rfl)
theorem dX1_entry_95 : decode cX1_entry 95 = .ok (.invokevirtual 236, 3) := dk_182 0 236 (dk_at dksX1_entry_4 5 rfl rfl)
theorem dX1_entry_98 : decode cX1_entry 98 = .ok (.ireturn, 1) := dk_172 (dk_at dksX1_entry_4 8 rfl rfl)
abbrev cX1_visitors : ByteArray := prog_1_method_33_code
def yX1_visitors : MethodName := ⟨RX1, "visitors", "(II)I"⟩
def dkwX1_visitors_5 : List UInt8 := [132, 5, 1, 167, 255, 207, 21, 5, 172]
abbrev dktX1_visitors_5 : List UInt8 := dkwX1_visitors_5 ++ []
def dkwX1_visitors_4 : List UInt8 := [182, 0, 208, 180, 1, 2, 153, 0, 6, 167, 255, 223, 25, 7, 16, 104, 21, 4, 182, 1, 6, 87]
abbrev dktX1_visitors_4 : List UInt8 := dkwX1_visitors_4 ++ dktX1_visitors_5
def dkwX1_visitors_3 : List UInt8 := [185, 0, 88, 1, 0, 153, 0, 45, 25, 6, 185, 0, 94, 1, 0, 192, 0, 76, 58, 7, 25, 7]
abbrev dktX1_visitors_3 : List UInt8 := dkwX1_visitors_3 ++ dktX1_visitors_4
def dkwX1_visitors_2 : List UInt8 := [181, 0, 248, 3, 54, 5, 42, 45, 182, 0, 251, 185, 0, 255, 1, 0, 58, 6, 25, 6]
abbrev dktX1_visitors_2 : List UInt8 := dkwX1_visitors_2 ++ dktX1_visitors_3
def dkwX1_visitors_1 : List UInt8 := [184, 0, 242, 16, 50, 108, 54, 4, 21, 4, 154, 0, 5, 3, 172, 45, 89, 180, 0, 248, 4, 96]
abbrev dktX1_visitors_1 : List UInt8 := dkwX1_visitors_1 ++ dktX1_visitors_2
def dkwX1_visitors_0 : List UInt8 := [42, 27, 182, 0, 158, 78, 28, 3, 17, 3, 231, 184, 0, 139, 184, 0, 135, 3, 28, 45, 180, 0, 239, 100]
abbrev dktX1_visitors_0 : List UInt8 := dkwX1_visitors_0 ++ dktX1_visitors_1
theorem dksX1_visitors_0 : cX1_visitors.data.toList.drop 0 = dktX1_visitors_0 := by decide +kernel
theorem dksX1_visitors_1 : cX1_visitors.data.toList.drop 24 = dktX1_visitors_1 := dk_seg dksX1_visitors_0 24 rfl rfl
theorem dksX1_visitors_2 : cX1_visitors.data.toList.drop 46 = dktX1_visitors_2 := dk_seg dksX1_visitors_1 22 rfl rfl
theorem dksX1_visitors_3 : cX1_visitors.data.toList.drop 66 = dktX1_visitors_3 := dk_seg dksX1_visitors_2 20 rfl rfl
theorem dksX1_visitors_4 : cX1_visitors.data.toList.drop 88 = dktX1_visitors_4 := dk_seg dksX1_visitors_3 22 rfl rfl
theorem dksX1_visitors_5 : cX1_visitors.data.toList.drop 110 = dktX1_visitors_5 := dk_seg dksX1_visitors_4 22 rfl rfl
theorem dX1_visitors_0 : decode cX1_visitors 0 = .ok (.aload_n 0, 1) := dk_42 (dk_at dksX1_visitors_0 0 rfl rfl)
theorem dX1_visitors_1 : decode cX1_visitors 1 = .ok (.iload_n 1, 1) := dk_27 (dk_at dksX1_visitors_0 1 rfl rfl)
theorem dX1_visitors_2 : decode cX1_visitors 2 = .ok (.invokevirtual 158, 3) := dk_182 0 158 (dk_at dksX1_visitors_0 2 rfl rfl)
theorem dX1_visitors_5 : decode cX1_visitors 5 = .ok (.astore_n 3, 1) := dk_78 (dk_at dksX1_visitors_0 5 rfl rfl)
theorem dX1_visitors_6 : decode cX1_visitors 6 = .ok (.iload_n 2, 1) := dk_28 (dk_at dksX1_visitors_0 6 rfl rfl)
theorem dX1_visitors_7 : decode cX1_visitors 7 = .ok (.iconst 0, 1) := dk_3 (dk_at dksX1_visitors_0 7 rfl rfl)
theorem dX1_visitors_8 : decode cX1_visitors 8 = .ok (.sipush 999, 3) := dk_17 3 231 (dk_at dksX1_visitors_0 8 rfl rfl)
theorem dX1_visitors_11 : decode cX1_visitors 11 = .ok (.invokestatic 139, 3) := dk_184 0 139 (dk_at dksX1_visitors_0 11 rfl rfl)
theorem dX1_visitors_14 : decode cX1_visitors 14 = .ok (.invokestatic 135, 3) := dk_184 0 135 (dk_at dksX1_visitors_0 14 rfl rfl)
theorem dX1_visitors_17 : decode cX1_visitors 17 = .ok (.iconst 0, 1) := dk_3 (dk_at dksX1_visitors_0 17 rfl rfl)
theorem dX1_visitors_18 : decode cX1_visitors 18 = .ok (.iload_n 2, 1) := dk_28 (dk_at dksX1_visitors_0 18 rfl rfl)
theorem dX1_visitors_19 : decode cX1_visitors 19 = .ok (.aload_n 3, 1) := dk_45 (dk_at dksX1_visitors_0 19 rfl rfl)
theorem dX1_visitors_20 : decode cX1_visitors 20 = .ok (.getfield 239, 3) := dk_180 0 239 (dk_at dksX1_visitors_0 20 rfl rfl)
theorem dX1_visitors_23 : decode cX1_visitors 23 = .ok (.isub, 1) := dk_100 (dk_at dksX1_visitors_0 23 rfl rfl)
theorem dX1_visitors_24 : decode cX1_visitors 24 = .ok (.invokestatic 242, 3) := dk_184 0 242 (dk_at dksX1_visitors_1 0 rfl rfl)
theorem dX1_visitors_27 : decode cX1_visitors 27 = .ok (.bipush 50, 2) := dk_16 50 (dk_at dksX1_visitors_1 3 rfl rfl)
theorem dX1_visitors_29 : decode cX1_visitors 29 = .ok (.idiv, 1) := dk_108 (dk_at dksX1_visitors_1 5 rfl rfl)
theorem dX1_visitors_30 : decode cX1_visitors 30 = .ok (.istore 4, 2) := dk_54 4 (dk_at dksX1_visitors_1 6 rfl rfl)
theorem dX1_visitors_32 : decode cX1_visitors 32 = .ok (.iload 4, 2) := dk_21 4 (dk_at dksX1_visitors_1 8 rfl rfl)
theorem dX1_visitors_34 : decode cX1_visitors 34 = .ok (.ifCond .ne 5, 3) := dk_154 0 5 (dk_at dksX1_visitors_1 10 rfl rfl)
theorem dX1_visitors_37 : decode cX1_visitors 37 = .ok (.iconst 0, 1) := dk_3 (dk_at dksX1_visitors_1 13 rfl rfl)
theorem dX1_visitors_38 : decode cX1_visitors 38 = .ok (.ireturn, 1) := dk_172 (dk_at dksX1_visitors_1 14 rfl rfl)
theorem dX1_visitors_39 : decode cX1_visitors 39 = .ok (.aload_n 3, 1) := dk_45 (dk_at dksX1_visitors_1 15 rfl rfl)
theorem dX1_visitors_40 : decode cX1_visitors 40 = .ok (.dup, 1) := dk_89 (dk_at dksX1_visitors_1 16 rfl rfl)
theorem dX1_visitors_41 : decode cX1_visitors 41 = .ok (.getfield 248, 3) := dk_180 0 248 (dk_at dksX1_visitors_1 17 rfl rfl)
theorem dX1_visitors_44 : decode cX1_visitors 44 = .ok (.iconst 1, 1) := dk_4 (dk_at dksX1_visitors_1 20 rfl rfl)
theorem dX1_visitors_45 : decode cX1_visitors 45 = .ok (.iadd, 1) := dk_96 (dk_at dksX1_visitors_1 21 rfl rfl)
theorem dX1_visitors_46 : decode cX1_visitors 46 = .ok (.putfield 248, 3) := dk_181 0 248 (dk_at dksX1_visitors_2 0 rfl rfl)
theorem dX1_visitors_49 : decode cX1_visitors 49 = .ok (.iconst 0, 1) := dk_3 (dk_at dksX1_visitors_2 3 rfl rfl)
theorem dX1_visitors_50 : decode cX1_visitors 50 = .ok (.istore 5, 2) := dk_54 5 (dk_at dksX1_visitors_2 4 rfl rfl)
theorem dX1_visitors_52 : decode cX1_visitors 52 = .ok (.aload_n 0, 1) := dk_42 (dk_at dksX1_visitors_2 6 rfl rfl)
theorem dX1_visitors_53 : decode cX1_visitors 53 = .ok (.aload_n 3, 1) := dk_45 (dk_at dksX1_visitors_2 7 rfl rfl)
theorem dX1_visitors_54 : decode cX1_visitors 54 = .ok (.invokevirtual 251, 3) := dk_182 0 251 (dk_at dksX1_visitors_2 8 rfl rfl)
theorem dX1_visitors_57 : decode cX1_visitors 57 = .ok (.invokeinterface 255 1, 5) := by decide +kernel
theorem dX1_visitors_62 : decode cX1_visitors 62 = .ok (.astore 6, 2) := dk_58 6 (dk_at dksX1_visitors_2 16 rfl rfl)
theorem dX1_visitors_64 : decode cX1_visitors 64 = .ok (.aload 6, 2) := dk_25 6 (dk_at dksX1_visitors_2 18 rfl rfl)
theorem dX1_visitors_66 : decode cX1_visitors 66 = .ok (.invokeinterface 88 1, 5) := by decide +kernel
theorem dX1_visitors_71 : decode cX1_visitors 71 = .ok (.ifCond .eq 45, 3) := dk_153 0 45 (dk_at dksX1_visitors_3 5 rfl rfl)
theorem dX1_visitors_74 : decode cX1_visitors 74 = .ok (.aload 6, 2) := dk_25 6 (dk_at dksX1_visitors_3 8 rfl rfl)
theorem dX1_visitors_76 : decode cX1_visitors 76 = .ok (.invokeinterface 94 1, 5) := by decide +kernel
theorem dX1_visitors_81 : decode cX1_visitors 81 = .ok (.checkcast 76, 3) := dk_192 0 76 (dk_at dksX1_visitors_3 15 rfl rfl)
theorem dX1_visitors_84 : decode cX1_visitors 84 = .ok (.astore 7, 2) := dk_58 7 (dk_at dksX1_visitors_3 18 rfl rfl)
theorem dX1_visitors_86 : decode cX1_visitors 86 = .ok (.aload 7, 2) := dk_25 7 (dk_at dksX1_visitors_3 20 rfl rfl)
theorem dX1_visitors_88 : decode cX1_visitors 88 = .ok (.invokevirtual 208, 3) := dk_182 0 208 (dk_at dksX1_visitors_4 0 rfl rfl)
theorem dX1_visitors_91 : decode cX1_visitors 91 = .ok (.getfield 258, 3) := dk_180 1 2 (dk_at dksX1_visitors_4 3 rfl rfl)
theorem dX1_visitors_94 : decode cX1_visitors 94 = .ok (.ifCond .eq 6, 3) := dk_153 0 6 (dk_at dksX1_visitors_4 6 rfl rfl)
theorem dX1_visitors_97 : decode cX1_visitors 97 = .ok (.goto (-33), 3) := dk_167 255 223 (dk_at dksX1_visitors_4 9 rfl rfl)
theorem dX1_visitors_100 : decode cX1_visitors 100 = .ok (.aload 7, 2) := dk_25 7 (dk_at dksX1_visitors_4 12 rfl rfl)
theorem dX1_visitors_102 : decode cX1_visitors 102 = .ok (.bipush 104, 2) := dk_16 104 (dk_at dksX1_visitors_4 14 rfl rfl)
theorem dX1_visitors_104 : decode cX1_visitors 104 = .ok (.iload 4, 2) := dk_21 4 (dk_at dksX1_visitors_4 16 rfl rfl)
theorem dX1_visitors_106 : decode cX1_visitors 106 = .ok (.invokevirtual 262, 3) := dk_182 1 6 (dk_at dksX1_visitors_4 18 rfl rfl)
theorem dX1_visitors_109 : decode cX1_visitors 109 = .ok (.pop, 1) := dk_87 (dk_at dksX1_visitors_4 21 rfl rfl)
theorem dX1_visitors_110 : decode cX1_visitors 110 = .ok (.iinc 5 1, 3) := dk_132 5 1 (dk_at dksX1_visitors_5 0 rfl rfl)
theorem dX1_visitors_113 : decode cX1_visitors 113 = .ok (.goto (-49), 3) := dk_167 255 207 (dk_at dksX1_visitors_5 3 rfl rfl)
theorem dX1_visitors_116 : decode cX1_visitors 116 = .ok (.iload 5, 2) := dk_21 5 (dk_at dksX1_visitors_5 6 rfl rfl)
theorem dX1_visitors_118 : decode cX1_visitors 118 = .ok (.ireturn, 1) := dk_172 (dk_at dksX1_visitors_5 8 rfl rfl)
abbrev cX1_thingsIn : ByteArray := prog_1_method_15_code
def yX1_thingsIn : MethodName := ⟨RX1, "thingsIn", "(LVaultyard$Room;)Ljava/lang/Iterable;"⟩
def dkwX1_thingsIn_0 : List UInt8 := [187, 0, 123, 89, 42, 42, 180, 0, 19, 43, 183, 0, 125, 176]
abbrev dktX1_thingsIn_0 : List UInt8 := dkwX1_thingsIn_0 ++ []
theorem dksX1_thingsIn_0 : cX1_thingsIn.data.toList.drop 0 = dktX1_thingsIn_0 := by decide +kernel
theorem dX1_thingsIn_0 : decode cX1_thingsIn 0 = .ok (.new 123, 3) := dk_187 0 123 (dk_at dksX1_thingsIn_0 0 rfl rfl)
theorem dX1_thingsIn_3 : decode cX1_thingsIn 3 = .ok (.dup, 1) := dk_89 (dk_at dksX1_thingsIn_0 3 rfl rfl)
theorem dX1_thingsIn_4 : decode cX1_thingsIn 4 = .ok (.aload_n 0, 1) := dk_42 (dk_at dksX1_thingsIn_0 4 rfl rfl)
theorem dX1_thingsIn_5 : decode cX1_thingsIn 5 = .ok (.aload_n 0, 1) := dk_42 (dk_at dksX1_thingsIn_0 5 rfl rfl)
theorem dX1_thingsIn_6 : decode cX1_thingsIn 6 = .ok (.getfield 19, 3) := dk_180 0 19 (dk_at dksX1_thingsIn_0 6 rfl rfl)
theorem dX1_thingsIn_9 : decode cX1_thingsIn 9 = .ok (.aload_n 1, 1) := dk_43 (dk_at dksX1_thingsIn_0 9 rfl rfl)
theorem dX1_thingsIn_10 : decode cX1_thingsIn 10 = .ok (.invokespecial 125, 3) := dk_183 0 125 (dk_at dksX1_thingsIn_0 10 rfl rfl)
theorem dX1_thingsIn_13 : decode cX1_thingsIn 13 = .ok (.areturn, 1) := dk_176 (dk_at dksX1_thingsIn_0 13 rfl rfl)
abbrev cX1_crowd : ByteArray := prog_1_method_34_code
def yX1_crowd : MethodName := ⟨RX1, "crowd", "(II)I"⟩
def dkwX1_crowd_1 : List UInt8 := [28, 181, 0, 239, 21, 4, 172]
abbrev dktX1_crowd_1 : List UInt8 := dkwX1_crowd_1 ++ []
def dkwX1_crowd_0 : List UInt8 := [42, 27, 182, 0, 158, 78, 28, 3, 17, 3, 231, 184, 0, 139, 184, 0, 135, 45, 180, 0, 239, 54, 4, 45]
abbrev dktX1_crowd_0 : List UInt8 := dkwX1_crowd_0 ++ dktX1_crowd_1
theorem dksX1_crowd_0 : cX1_crowd.data.toList.drop 0 = dktX1_crowd_0 := by decide +kernel
theorem dksX1_crowd_1 : cX1_crowd.data.toList.drop 24 = dktX1_crowd_1 := dk_seg dksX1_crowd_0 24 rfl rfl
theorem dX1_crowd_0 : decode cX1_crowd 0 = .ok (.aload_n 0, 1) := dk_42 (dk_at dksX1_crowd_0 0 rfl rfl)
theorem dX1_crowd_1 : decode cX1_crowd 1 = .ok (.iload_n 1, 1) := dk_27 (dk_at dksX1_crowd_0 1 rfl rfl)
theorem dX1_crowd_2 : decode cX1_crowd 2 = .ok (.invokevirtual 158, 3) := dk_182 0 158 (dk_at dksX1_crowd_0 2 rfl rfl)
theorem dX1_crowd_5 : decode cX1_crowd 5 = .ok (.astore_n 3, 1) := dk_78 (dk_at dksX1_crowd_0 5 rfl rfl)
theorem dX1_crowd_6 : decode cX1_crowd 6 = .ok (.iload_n 2, 1) := dk_28 (dk_at dksX1_crowd_0 6 rfl rfl)
theorem dX1_crowd_7 : decode cX1_crowd 7 = .ok (.iconst 0, 1) := dk_3 (dk_at dksX1_crowd_0 7 rfl rfl)
theorem dX1_crowd_8 : decode cX1_crowd 8 = .ok (.sipush 999, 3) := dk_17 3 231 (dk_at dksX1_crowd_0 8 rfl rfl)
theorem dX1_crowd_11 : decode cX1_crowd 11 = .ok (.invokestatic 139, 3) := dk_184 0 139 (dk_at dksX1_crowd_0 11 rfl rfl)
theorem dX1_crowd_14 : decode cX1_crowd 14 = .ok (.invokestatic 135, 3) := dk_184 0 135 (dk_at dksX1_crowd_0 14 rfl rfl)
theorem dX1_crowd_17 : decode cX1_crowd 17 = .ok (.aload_n 3, 1) := dk_45 (dk_at dksX1_crowd_0 17 rfl rfl)
theorem dX1_crowd_18 : decode cX1_crowd 18 = .ok (.getfield 239, 3) := dk_180 0 239 (dk_at dksX1_crowd_0 18 rfl rfl)
theorem dX1_crowd_21 : decode cX1_crowd 21 = .ok (.istore 4, 2) := dk_54 4 (dk_at dksX1_crowd_0 21 rfl rfl)
theorem dX1_crowd_23 : decode cX1_crowd 23 = .ok (.aload_n 3, 1) := dk_45 (dk_at dksX1_crowd_0 23 rfl rfl)
theorem dX1_crowd_24 : decode cX1_crowd 24 = .ok (.iload_n 2, 1) := dk_28 (dk_at dksX1_crowd_1 0 rfl rfl)
theorem dX1_crowd_25 : decode cX1_crowd 25 = .ok (.putfield 239, 3) := dk_181 0 239 (dk_at dksX1_crowd_1 1 rfl rfl)
theorem dX1_crowd_28 : decode cX1_crowd 28 = .ok (.iload 4, 2) := dk_21 4 (dk_at dksX1_crowd_1 4 rfl rfl)
theorem dX1_crowd_30 : decode cX1_crowd 30 = .ok (.ireturn, 1) := dk_172 (dk_at dksX1_crowd_1 6 rfl rfl)
abbrev cX1_alarms : ByteArray := prog_1_method_35_code
def yX1_alarms : MethodName := ⟨RX1, "alarms", "(I)I"⟩
def dkwX1_alarms_0 : List UInt8 := [42, 27, 182, 0, 158, 180, 0, 248, 172]
abbrev dktX1_alarms_0 : List UInt8 := dkwX1_alarms_0 ++ []
theorem dksX1_alarms_0 : cX1_alarms.data.toList.drop 0 = dktX1_alarms_0 := by decide +kernel
theorem dX1_alarms_0 : decode cX1_alarms 0 = .ok (.aload_n 0, 1) := dk_42 (dk_at dksX1_alarms_0 0 rfl rfl)
theorem dX1_alarms_1 : decode cX1_alarms 1 = .ok (.iload_n 1, 1) := dk_27 (dk_at dksX1_alarms_0 1 rfl rfl)
theorem dX1_alarms_2 : decode cX1_alarms 2 = .ok (.invokevirtual 158, 3) := dk_182 0 158 (dk_at dksX1_alarms_0 2 rfl rfl)
theorem dX1_alarms_5 : decode cX1_alarms 5 = .ok (.getfield 248, 3) := dk_180 0 248 (dk_at dksX1_alarms_0 5 rfl rfl)
theorem dX1_alarms_8 : decode cX1_alarms 8 = .ok (.ireturn, 1) := dk_172 (dk_at dksX1_alarms_0 8 rfl rfl)
abbrev cX1_encase : ByteArray := prog_1_method_36_code
def yX1_encase : MethodName := ⟨RX1, "encase", "(IZ)Z"⟩
def dkwX1_encase_1 : List UInt8 := [167, 0, 4, 3, 184, 0, 176, 45, 180, 1, 2, 54, 4, 45, 28, 181, 1, 2, 21, 4, 172]
abbrev dktX1_encase_1 : List UInt8 := dkwX1_encase_1 ++ []
def dkwX1_encase_0 : List UInt8 := [42, 27, 182, 0, 182, 78, 45, 180, 0, 98, 199, 0, 16, 45, 180, 0, 115, 16, 103, 159, 0, 7, 4]
abbrev dktX1_encase_0 : List UInt8 := dkwX1_encase_0 ++ dktX1_encase_1
theorem dksX1_encase_0 : cX1_encase.data.toList.drop 0 = dktX1_encase_0 := by decide +kernel
theorem dksX1_encase_1 : cX1_encase.data.toList.drop 23 = dktX1_encase_1 := dk_seg dksX1_encase_0 23 rfl rfl
theorem dX1_encase_0 : decode cX1_encase 0 = .ok (.aload_n 0, 1) := dk_42 (dk_at dksX1_encase_0 0 rfl rfl)
theorem dX1_encase_1 : decode cX1_encase 1 = .ok (.iload_n 1, 1) := dk_27 (dk_at dksX1_encase_0 1 rfl rfl)
theorem dX1_encase_2 : decode cX1_encase 2 = .ok (.invokevirtual 182, 3) := dk_182 0 182 (dk_at dksX1_encase_0 2 rfl rfl)
theorem dX1_encase_5 : decode cX1_encase 5 = .ok (.astore_n 3, 1) := dk_78 (dk_at dksX1_encase_0 5 rfl rfl)
theorem dX1_encase_6 : decode cX1_encase 6 = .ok (.aload_n 3, 1) := dk_45 (dk_at dksX1_encase_0 6 rfl rfl)
theorem dX1_encase_7 : decode cX1_encase 7 = .ok (.getfield 98, 3) := dk_180 0 98 (dk_at dksX1_encase_0 7 rfl rfl)
theorem dX1_encase_10 : decode cX1_encase 10 = .ok (.ifnonnull 16, 3) := dk_199 0 16 (dk_at dksX1_encase_0 10 rfl rfl)
theorem dX1_encase_13 : decode cX1_encase 13 = .ok (.aload_n 3, 1) := dk_45 (dk_at dksX1_encase_0 13 rfl rfl)
theorem dX1_encase_14 : decode cX1_encase 14 = .ok (.getfield 115, 3) := dk_180 0 115 (dk_at dksX1_encase_0 14 rfl rfl)
theorem dX1_encase_17 : decode cX1_encase 17 = .ok (.bipush 103, 2) := dk_16 103 (dk_at dksX1_encase_0 17 rfl rfl)
theorem dX1_encase_19 : decode cX1_encase 19 = .ok (.if_icmp .eq 7, 3) := dk_159 0 7 (dk_at dksX1_encase_0 19 rfl rfl)
theorem dX1_encase_22 : decode cX1_encase 22 = .ok (.iconst 1, 1) := dk_4 (dk_at dksX1_encase_0 22 rfl rfl)
theorem dX1_encase_23 : decode cX1_encase 23 = .ok (.goto 4, 3) := dk_167 0 4 (dk_at dksX1_encase_1 0 rfl rfl)
theorem dX1_encase_26 : decode cX1_encase 26 = .ok (.iconst 0, 1) := dk_3 (dk_at dksX1_encase_1 3 rfl rfl)
theorem dX1_encase_27 : decode cX1_encase 27 = .ok (.invokestatic 176, 3) := dk_184 0 176 (dk_at dksX1_encase_1 4 rfl rfl)
theorem dX1_encase_30 : decode cX1_encase 30 = .ok (.aload_n 3, 1) := dk_45 (dk_at dksX1_encase_1 7 rfl rfl)
theorem dX1_encase_31 : decode cX1_encase 31 = .ok (.getfield 258, 3) := dk_180 1 2 (dk_at dksX1_encase_1 8 rfl rfl)
theorem dX1_encase_34 : decode cX1_encase 34 = .ok (.istore 4, 2) := dk_54 4 (dk_at dksX1_encase_1 11 rfl rfl)
theorem dX1_encase_36 : decode cX1_encase 36 = .ok (.aload_n 3, 1) := dk_45 (dk_at dksX1_encase_1 13 rfl rfl)
theorem dX1_encase_37 : decode cX1_encase 37 = .ok (.iload_n 2, 1) := dk_28 (dk_at dksX1_encase_1 14 rfl rfl)
theorem dX1_encase_38 : decode cX1_encase 38 = .ok (.putfield 258, 3) := dk_181 1 2 (dk_at dksX1_encase_1 15 rfl rfl)
theorem dX1_encase_41 : decode cX1_encase 41 = .ok (.iload 4, 2) := dk_21 4 (dk_at dksX1_encase_1 18 rfl rfl)
theorem dX1_encase_43 : decode cX1_encase 43 = .ok (.ireturn, 1) := dk_172 (dk_at dksX1_encase_1 20 rfl rfl)
abbrev cX1_lend : ByteArray := prog_1_method_40_code
def yX1_lend : MethodName := ⟨RX1, "lend", "(III)I"⟩
def dkwX1_lend_6 : List UInt8 := [25, 6, 42, 180, 0, 80, 29, 183, 1, 77, 182, 0, 131, 87, 42, 180, 0, 22, 182, 0, 62, 4, 100, 172]
abbrev dktX1_lend_6 : List UInt8 := dkwX1_lend_6 ++ []
def dkwX1_lend_5 : List UInt8 := [25, 4, 16, 108, 42, 180, 0, 22, 182, 0, 62, 182, 1, 73, 42, 180, 0, 22, 187, 1, 49, 89, 25, 4]
abbrev dktX1_lend_5 : List UInt8 := dkwX1_lend_5 ++ dktX1_lend_6
def dkwX1_lend_4 : List UInt8 := [198, 0, 7, 4, 167, 0, 4, 3, 184, 0, 176, 25, 6, 89, 180, 1, 19, 21, 5, 100, 181, 1, 19]
abbrev dktX1_lend_4 : List UInt8 := dkwX1_lend_4 ++ dktX1_lend_5
def dkwX1_lend_3 : List UInt8 := [184, 0, 176, 25, 4, 29, 184, 1, 65, 54, 5, 42, 4, 21, 5, 182, 1, 69, 58, 6, 25, 6]
abbrev dktX1_lend_3 : List UInt8 := dkwX1_lend_3 ++ dktX1_lend_4
def dkwX1_lend_2 : List UInt8 := [180, 0, 22, 182, 0, 62, 16, 12, 162, 0, 15, 42, 182, 1, 62, 5, 162, 0, 7, 4, 167, 0, 4, 3]
abbrev dktX1_lend_2 : List UInt8 := dkwX1_lend_2 ++ dktX1_lend_3
def dkwX1_lend_1 : List UInt8 := [153, 0, 7, 4, 167, 0, 4, 3, 184, 0, 135, 25, 4, 16, 114, 182, 0, 186, 153, 0, 27, 42]
abbrev dktX1_lend_1 : List UInt8 := dkwX1_lend_1 ++ dktX1_lend_2
def dkwX1_lend_0 : List UInt8 := [42, 27, 182, 0, 182, 58, 4, 28, 3, 6, 184, 0, 139, 153, 0, 18, 29, 4, 17, 1, 144, 184, 0, 139]
abbrev dktX1_lend_0 : List UInt8 := dkwX1_lend_0 ++ dktX1_lend_1
theorem dksX1_lend_0 : cX1_lend.data.toList.drop 0 = dktX1_lend_0 := by decide +kernel
theorem dksX1_lend_1 : cX1_lend.data.toList.drop 24 = dktX1_lend_1 := dk_seg dksX1_lend_0 24 rfl rfl
theorem dksX1_lend_2 : cX1_lend.data.toList.drop 46 = dktX1_lend_2 := dk_seg dksX1_lend_1 22 rfl rfl
theorem dksX1_lend_3 : cX1_lend.data.toList.drop 70 = dktX1_lend_3 := dk_seg dksX1_lend_2 24 rfl rfl
theorem dksX1_lend_4 : cX1_lend.data.toList.drop 92 = dktX1_lend_4 := dk_seg dksX1_lend_3 22 rfl rfl
theorem dksX1_lend_5 : cX1_lend.data.toList.drop 115 = dktX1_lend_5 := dk_seg dksX1_lend_4 23 rfl rfl
theorem dksX1_lend_6 : cX1_lend.data.toList.drop 139 = dktX1_lend_6 := dk_seg dksX1_lend_5 24 rfl rfl
theorem dX1_lend_0 : decode cX1_lend 0 = .ok (.aload_n 0, 1) := dk_42 (dk_at dksX1_lend_0 0 rfl rfl)
theorem dX1_lend_1 : decode cX1_lend 1 = .ok (.iload_n 1, 1) := dk_27 (dk_at dksX1_lend_0 1 rfl rfl)
theorem dX1_lend_2 : decode cX1_lend 2 = .ok (.invokevirtual 182, 3) := dk_182 0 182 (dk_at dksX1_lend_0 2 rfl rfl)
theorem dX1_lend_5 : decode cX1_lend 5 = .ok (.astore 4, 2) := dk_58 4 (dk_at dksX1_lend_0 5 rfl rfl)
theorem dX1_lend_7 : decode cX1_lend 7 = .ok (.iload_n 2, 1) := dk_28 (dk_at dksX1_lend_0 7 rfl rfl)
theorem dX1_lend_8 : decode cX1_lend 8 = .ok (.iconst 0, 1) := dk_3 (dk_at dksX1_lend_0 8 rfl rfl)
theorem dX1_lend_9 : decode cX1_lend 9 = .ok (.iconst 3, 1) := dk_6 (dk_at dksX1_lend_0 9 rfl rfl)
theorem dX1_lend_10 : decode cX1_lend 10 = .ok (.invokestatic 139, 3) := dk_184 0 139 (dk_at dksX1_lend_0 10 rfl rfl)
theorem dX1_lend_13 : decode cX1_lend 13 = .ok (.ifCond .eq 18, 3) := dk_153 0 18 (dk_at dksX1_lend_0 13 rfl rfl)
theorem dX1_lend_16 : decode cX1_lend 16 = .ok (.iload_n 3, 1) := dk_29 (dk_at dksX1_lend_0 16 rfl rfl)
theorem dX1_lend_17 : decode cX1_lend 17 = .ok (.iconst 1, 1) := dk_4 (dk_at dksX1_lend_0 17 rfl rfl)
theorem dX1_lend_18 : decode cX1_lend 18 = .ok (.sipush 400, 3) := dk_17 1 144 (dk_at dksX1_lend_0 18 rfl rfl)
theorem dX1_lend_21 : decode cX1_lend 21 = .ok (.invokestatic 139, 3) := dk_184 0 139 (dk_at dksX1_lend_0 21 rfl rfl)
theorem dX1_lend_24 : decode cX1_lend 24 = .ok (.ifCond .eq 7, 3) := dk_153 0 7 (dk_at dksX1_lend_1 0 rfl rfl)
theorem dX1_lend_27 : decode cX1_lend 27 = .ok (.iconst 1, 1) := dk_4 (dk_at dksX1_lend_1 3 rfl rfl)
theorem dX1_lend_28 : decode cX1_lend 28 = .ok (.goto 4, 3) := dk_167 0 4 (dk_at dksX1_lend_1 4 rfl rfl)
theorem dX1_lend_31 : decode cX1_lend 31 = .ok (.iconst 0, 1) := dk_3 (dk_at dksX1_lend_1 7 rfl rfl)
theorem dX1_lend_32 : decode cX1_lend 32 = .ok (.invokestatic 135, 3) := dk_184 0 135 (dk_at dksX1_lend_1 8 rfl rfl)
theorem dX1_lend_35 : decode cX1_lend 35 = .ok (.aload 4, 2) := dk_25 4 (dk_at dksX1_lend_1 11 rfl rfl)
theorem dX1_lend_37 : decode cX1_lend 37 = .ok (.bipush 114, 2) := dk_16 114 (dk_at dksX1_lend_1 13 rfl rfl)
theorem dX1_lend_39 : decode cX1_lend 39 = .ok (.invokevirtual 186, 3) := dk_182 0 186 (dk_at dksX1_lend_1 15 rfl rfl)
theorem dX1_lend_42 : decode cX1_lend 42 = .ok (.ifCond .eq 27, 3) := dk_153 0 27 (dk_at dksX1_lend_1 18 rfl rfl)
theorem dX1_lend_45 : decode cX1_lend 45 = .ok (.aload_n 0, 1) := dk_42 (dk_at dksX1_lend_1 21 rfl rfl)
theorem dX1_lend_46 : decode cX1_lend 46 = .ok (.getfield 22, 3) := dk_180 0 22 (dk_at dksX1_lend_2 0 rfl rfl)
theorem dX1_lend_49 : decode cX1_lend 49 = .ok (.invokevirtual 62, 3) := dk_182 0 62 (dk_at dksX1_lend_2 3 rfl rfl)
theorem dX1_lend_52 : decode cX1_lend 52 = .ok (.bipush 12, 2) := dk_16 12 (dk_at dksX1_lend_2 6 rfl rfl)
theorem dX1_lend_54 : decode cX1_lend 54 = .ok (.if_icmp .ge 15, 3) := dk_162 0 15 (dk_at dksX1_lend_2 8 rfl rfl)
theorem dX1_lend_57 : decode cX1_lend 57 = .ok (.aload_n 0, 1) := dk_42 (dk_at dksX1_lend_2 11 rfl rfl)
theorem dX1_lend_58 : decode cX1_lend 58 = .ok (.invokevirtual 318, 3) := dk_182 1 62 (dk_at dksX1_lend_2 12 rfl rfl)
theorem dX1_lend_61 : decode cX1_lend 61 = .ok (.iconst 2, 1) := dk_5 (dk_at dksX1_lend_2 15 rfl rfl)
theorem dX1_lend_62 : decode cX1_lend 62 = .ok (.if_icmp .ge 7, 3) := dk_162 0 7 (dk_at dksX1_lend_2 16 rfl rfl)
theorem dX1_lend_65 : decode cX1_lend 65 = .ok (.iconst 1, 1) := dk_4 (dk_at dksX1_lend_2 19 rfl rfl)
theorem dX1_lend_66 : decode cX1_lend 66 = .ok (.goto 4, 3) := dk_167 0 4 (dk_at dksX1_lend_2 20 rfl rfl)
theorem dX1_lend_69 : decode cX1_lend 69 = .ok (.iconst 0, 1) := dk_3 (dk_at dksX1_lend_2 23 rfl rfl)
theorem dX1_lend_70 : decode cX1_lend 70 = .ok (.invokestatic 176, 3) := dk_184 0 176 (dk_at dksX1_lend_3 0 rfl rfl)
theorem dX1_lend_73 : decode cX1_lend 73 = .ok (.aload 4, 2) := dk_25 4 (dk_at dksX1_lend_3 3 rfl rfl)
theorem dX1_lend_75 : decode cX1_lend 75 = .ok (.iload_n 3, 1) := dk_29 (dk_at dksX1_lend_3 5 rfl rfl)
theorem dX1_lend_76 : decode cX1_lend 76 = .ok (.invokestatic 321, 3) := dk_184 1 65 (dk_at dksX1_lend_3 6 rfl rfl)
theorem dX1_lend_79 : decode cX1_lend 79 = .ok (.istore 5, 2) := dk_54 5 (dk_at dksX1_lend_3 9 rfl rfl)
theorem dX1_lend_81 : decode cX1_lend 81 = .ok (.aload_n 0, 1) := dk_42 (dk_at dksX1_lend_3 11 rfl rfl)
theorem dX1_lend_82 : decode cX1_lend 82 = .ok (.iconst 1, 1) := dk_4 (dk_at dksX1_lend_3 12 rfl rfl)
theorem dX1_lend_83 : decode cX1_lend 83 = .ok (.iload 5, 2) := dk_21 5 (dk_at dksX1_lend_3 13 rfl rfl)
theorem dX1_lend_85 : decode cX1_lend 85 = .ok (.invokevirtual 325, 3) := dk_182 1 69 (dk_at dksX1_lend_3 15 rfl rfl)
theorem dX1_lend_88 : decode cX1_lend 88 = .ok (.astore 6, 2) := dk_58 6 (dk_at dksX1_lend_3 18 rfl rfl)
theorem dX1_lend_90 : decode cX1_lend 90 = .ok (.aload 6, 2) := dk_25 6 (dk_at dksX1_lend_3 20 rfl rfl)
theorem dX1_lend_92 : decode cX1_lend 92 = .ok (.ifnull 7, 3) := dk_198 0 7 (dk_at dksX1_lend_4 0 rfl rfl)
theorem dX1_lend_95 : decode cX1_lend 95 = .ok (.iconst 1, 1) := dk_4 (dk_at dksX1_lend_4 3 rfl rfl)
theorem dX1_lend_96 : decode cX1_lend 96 = .ok (.goto 4, 3) := dk_167 0 4 (dk_at dksX1_lend_4 4 rfl rfl)
theorem dX1_lend_99 : decode cX1_lend 99 = .ok (.iconst 0, 1) := dk_3 (dk_at dksX1_lend_4 7 rfl rfl)
theorem dX1_lend_100 : decode cX1_lend 100 = .ok (.invokestatic 176, 3) := dk_184 0 176 (dk_at dksX1_lend_4 8 rfl rfl)
theorem dX1_lend_103 : decode cX1_lend 103 = .ok (.aload 6, 2) := dk_25 6 (dk_at dksX1_lend_4 11 rfl rfl)
theorem dX1_lend_105 : decode cX1_lend 105 = .ok (.dup, 1) := dk_89 (dk_at dksX1_lend_4 13 rfl rfl)
theorem dX1_lend_106 : decode cX1_lend 106 = .ok (.getfield 275, 3) := dk_180 1 19 (dk_at dksX1_lend_4 14 rfl rfl)
theorem dX1_lend_109 : decode cX1_lend 109 = .ok (.iload 5, 2) := dk_21 5 (dk_at dksX1_lend_4 17 rfl rfl)
theorem dX1_lend_111 : decode cX1_lend 111 = .ok (.isub, 1) := dk_100 (dk_at dksX1_lend_4 19 rfl rfl)
theorem dX1_lend_112 : decode cX1_lend 112 = .ok (.putfield 275, 3) := dk_181 1 19 (dk_at dksX1_lend_4 20 rfl rfl)
theorem dX1_lend_115 : decode cX1_lend 115 = .ok (.aload 4, 2) := dk_25 4 (dk_at dksX1_lend_5 0 rfl rfl)
theorem dX1_lend_117 : decode cX1_lend 117 = .ok (.bipush 108, 2) := dk_16 108 (dk_at dksX1_lend_5 2 rfl rfl)
theorem dX1_lend_119 : decode cX1_lend 119 = .ok (.aload_n 0, 1) := dk_42 (dk_at dksX1_lend_5 4 rfl rfl)
theorem dX1_lend_120 : decode cX1_lend 120 = .ok (.getfield 22, 3) := dk_180 0 22 (dk_at dksX1_lend_5 5 rfl rfl)
theorem dX1_lend_123 : decode cX1_lend 123 = .ok (.invokevirtual 62, 3) := dk_182 0 62 (dk_at dksX1_lend_5 8 rfl rfl)
theorem dX1_lend_126 : decode cX1_lend 126 = .ok (.invokevirtual 329, 3) := dk_182 1 73 (dk_at dksX1_lend_5 11 rfl rfl)
theorem dX1_lend_129 : decode cX1_lend 129 = .ok (.aload_n 0, 1) := dk_42 (dk_at dksX1_lend_5 14 rfl rfl)
theorem dX1_lend_130 : decode cX1_lend 130 = .ok (.getfield 22, 3) := dk_180 0 22 (dk_at dksX1_lend_5 15 rfl rfl)
theorem dX1_lend_133 : decode cX1_lend 133 = .ok (.new 305, 3) := dk_187 1 49 (dk_at dksX1_lend_5 18 rfl rfl)
theorem dX1_lend_136 : decode cX1_lend 136 = .ok (.dup, 1) := dk_89 (dk_at dksX1_lend_5 21 rfl rfl)
theorem dX1_lend_137 : decode cX1_lend 137 = .ok (.aload 4, 2) := dk_25 4 (dk_at dksX1_lend_5 22 rfl rfl)
theorem dX1_lend_139 : decode cX1_lend 139 = .ok (.aload 6, 2) := dk_25 6 (dk_at dksX1_lend_6 0 rfl rfl)
theorem dX1_lend_141 : decode cX1_lend 141 = .ok (.aload_n 0, 1) := dk_42 (dk_at dksX1_lend_6 2 rfl rfl)
theorem dX1_lend_142 : decode cX1_lend 142 = .ok (.getfield 80, 3) := dk_180 0 80 (dk_at dksX1_lend_6 3 rfl rfl)
theorem dX1_lend_145 : decode cX1_lend 145 = .ok (.iload_n 3, 1) := dk_29 (dk_at dksX1_lend_6 6 rfl rfl)
theorem dX1_lend_146 : decode cX1_lend 146 = .ok (.invokespecial 333, 3) := dk_183 1 77 (dk_at dksX1_lend_6 7 rfl rfl)
theorem dX1_lend_149 : decode cX1_lend 149 = .ok (.invokevirtual 131, 3) := dk_182 0 131 (dk_at dksX1_lend_6 10 rfl rfl)
theorem dX1_lend_152 : decode cX1_lend 152 = .ok (.pop, 1) := dk_87 (dk_at dksX1_lend_6 13 rfl rfl)
theorem dX1_lend_153 : decode cX1_lend 153 = .ok (.aload_n 0, 1) := dk_42 (dk_at dksX1_lend_6 14 rfl rfl)
theorem dX1_lend_154 : decode cX1_lend 154 = .ok (.getfield 22, 3) := dk_180 0 22 (dk_at dksX1_lend_6 15 rfl rfl)
theorem dX1_lend_157 : decode cX1_lend 157 = .ok (.invokevirtual 62, 3) := dk_182 0 62 (dk_at dksX1_lend_6 18 rfl rfl)
theorem dX1_lend_160 : decode cX1_lend 160 = .ok (.iconst 1, 1) := dk_4 (dk_at dksX1_lend_6 21 rfl rfl)
theorem dX1_lend_161 : decode cX1_lend 161 = .ok (.isub, 1) := dk_100 (dk_at dksX1_lend_6 22 rfl rfl)
theorem dX1_lend_162 : decode cX1_lend 162 = .ok (.ireturn, 1) := dk_172 (dk_at dksX1_lend_6 23 rfl rfl)
abbrev cX1_couriersAway : ByteArray := prog_1_method_38_code
def yX1_couriersAway : MethodName := ⟨RX1, "couriersAway", "()I"⟩
def dkwX1_couriersAway_2 : List UInt8 := [167, 0, 4, 3, 96, 60, 167, 255, 216, 27, 172]
abbrev dktX1_couriersAway_2 : List UInt8 := dkwX1_couriersAway_2 ++ []
def dkwX1_couriersAway_1 : List UInt8 := [185, 0, 94, 1, 0, 192, 1, 49, 78, 27, 42, 180, 0, 80, 45, 180, 1, 51, 100, 6, 162, 0, 7, 4]
abbrev dktX1_couriersAway_1 : List UInt8 := dkwX1_couriersAway_1 ++ dktX1_couriersAway_2
def dkwX1_couriersAway_0 : List UInt8 := [3, 60, 42, 180, 0, 22, 182, 0, 84, 77, 44, 185, 0, 88, 1, 0, 153, 0, 37, 44]
abbrev dktX1_couriersAway_0 : List UInt8 := dkwX1_couriersAway_0 ++ dktX1_couriersAway_1
theorem dksX1_couriersAway_0 : cX1_couriersAway.data.toList.drop 0 = dktX1_couriersAway_0 := by decide +kernel
theorem dksX1_couriersAway_1 : cX1_couriersAway.data.toList.drop 20 = dktX1_couriersAway_1 := dk_seg dksX1_couriersAway_0 20 rfl rfl
theorem dksX1_couriersAway_2 : cX1_couriersAway.data.toList.drop 44 = dktX1_couriersAway_2 := dk_seg dksX1_couriersAway_1 24 rfl rfl
theorem dX1_couriersAway_0 : decode cX1_couriersAway 0 = .ok (.iconst 0, 1) := dk_3 (dk_at dksX1_couriersAway_0 0 rfl rfl)
theorem dX1_couriersAway_1 : decode cX1_couriersAway 1 = .ok (.istore_n 1, 1) := dk_60 (dk_at dksX1_couriersAway_0 1 rfl rfl)
theorem dX1_couriersAway_2 : decode cX1_couriersAway 2 = .ok (.aload_n 0, 1) := dk_42 (dk_at dksX1_couriersAway_0 2 rfl rfl)
theorem dX1_couriersAway_3 : decode cX1_couriersAway 3 = .ok (.getfield 22, 3) := dk_180 0 22 (dk_at dksX1_couriersAway_0 3 rfl rfl)
theorem dX1_couriersAway_6 : decode cX1_couriersAway 6 = .ok (.invokevirtual 84, 3) := dk_182 0 84 (dk_at dksX1_couriersAway_0 6 rfl rfl)
theorem dX1_couriersAway_9 : decode cX1_couriersAway 9 = .ok (.astore_n 2, 1) := dk_77 (dk_at dksX1_couriersAway_0 9 rfl rfl)
theorem dX1_couriersAway_10 : decode cX1_couriersAway 10 = .ok (.aload_n 2, 1) := dk_44 (dk_at dksX1_couriersAway_0 10 rfl rfl)
theorem dX1_couriersAway_11 : decode cX1_couriersAway 11 = .ok (.invokeinterface 88 1, 5) := by decide +kernel
theorem dX1_couriersAway_16 : decode cX1_couriersAway 16 = .ok (.ifCond .eq 37, 3) := dk_153 0 37 (dk_at dksX1_couriersAway_0 16 rfl rfl)
theorem dX1_couriersAway_19 : decode cX1_couriersAway 19 = .ok (.aload_n 2, 1) := dk_44 (dk_at dksX1_couriersAway_0 19 rfl rfl)
theorem dX1_couriersAway_20 : decode cX1_couriersAway 20 = .ok (.invokeinterface 94 1, 5) := by decide +kernel
theorem dX1_couriersAway_25 : decode cX1_couriersAway 25 = .ok (.checkcast 305, 3) := dk_192 1 49 (dk_at dksX1_couriersAway_1 5 rfl rfl)
theorem dX1_couriersAway_28 : decode cX1_couriersAway 28 = .ok (.astore_n 3, 1) := dk_78 (dk_at dksX1_couriersAway_1 8 rfl rfl)
theorem dX1_couriersAway_29 : decode cX1_couriersAway 29 = .ok (.iload_n 1, 1) := dk_27 (dk_at dksX1_couriersAway_1 9 rfl rfl)
theorem dX1_couriersAway_30 : decode cX1_couriersAway 30 = .ok (.aload_n 0, 1) := dk_42 (dk_at dksX1_couriersAway_1 10 rfl rfl)
theorem dX1_couriersAway_31 : decode cX1_couriersAway 31 = .ok (.getfield 80, 3) := dk_180 0 80 (dk_at dksX1_couriersAway_1 11 rfl rfl)
theorem dX1_couriersAway_34 : decode cX1_couriersAway 34 = .ok (.aload_n 3, 1) := dk_45 (dk_at dksX1_couriersAway_1 14 rfl rfl)
theorem dX1_couriersAway_35 : decode cX1_couriersAway 35 = .ok (.getfield 307, 3) := dk_180 1 51 (dk_at dksX1_couriersAway_1 15 rfl rfl)
theorem dX1_couriersAway_38 : decode cX1_couriersAway 38 = .ok (.isub, 1) := dk_100 (dk_at dksX1_couriersAway_1 18 rfl rfl)
theorem dX1_couriersAway_39 : decode cX1_couriersAway 39 = .ok (.iconst 3, 1) := dk_6 (dk_at dksX1_couriersAway_1 19 rfl rfl)
theorem dX1_couriersAway_40 : decode cX1_couriersAway 40 = .ok (.if_icmp .ge 7, 3) := dk_162 0 7 (dk_at dksX1_couriersAway_1 20 rfl rfl)
theorem dX1_couriersAway_43 : decode cX1_couriersAway 43 = .ok (.iconst 1, 1) := dk_4 (dk_at dksX1_couriersAway_1 23 rfl rfl)
theorem dX1_couriersAway_44 : decode cX1_couriersAway 44 = .ok (.goto 4, 3) := dk_167 0 4 (dk_at dksX1_couriersAway_2 0 rfl rfl)
theorem dX1_couriersAway_47 : decode cX1_couriersAway 47 = .ok (.iconst 0, 1) := dk_3 (dk_at dksX1_couriersAway_2 3 rfl rfl)
theorem dX1_couriersAway_48 : decode cX1_couriersAway 48 = .ok (.iadd, 1) := dk_96 (dk_at dksX1_couriersAway_2 4 rfl rfl)
theorem dX1_couriersAway_49 : decode cX1_couriersAway 49 = .ok (.istore_n 1, 1) := dk_60 (dk_at dksX1_couriersAway_2 5 rfl rfl)
theorem dX1_couriersAway_50 : decode cX1_couriersAway 50 = .ok (.goto (-40), 3) := dk_167 255 216 (dk_at dksX1_couriersAway_2 6 rfl rfl)
theorem dX1_couriersAway_53 : decode cX1_couriersAway 53 = .ok (.iload_n 1, 1) := dk_27 (dk_at dksX1_couriersAway_2 9 rfl rfl)
theorem dX1_couriersAway_54 : decode cX1_couriersAway 54 = .ok (.ireturn, 1) := dk_172 (dk_at dksX1_couriersAway_2 10 rfl rfl)
abbrev cX1_premiumOf : ByteArray := prog_1_method_39_code
def yX1_premiumOf : MethodName := ⟨RX1, "premiumOf", "(LVaultyard$Thing;I)I"⟩
def dkwX1_premiumOf_0 : List UInt8 := [10, 42, 182, 1, 54, 133, 27, 16, 9, 96, 16, 10, 108, 133, 105, 20, 1, 57, 109, 184, 1, 59, 136, 172]
abbrev dktX1_premiumOf_0 : List UInt8 := dkwX1_premiumOf_0 ++ []
theorem dksX1_premiumOf_0 : cX1_premiumOf.data.toList.drop 0 = dktX1_premiumOf_0 := by decide +kernel
theorem dX1_premiumOf_0 : decode cX1_premiumOf 0 = .ok (.lconst 1, 1) := dk_10 (dk_at dksX1_premiumOf_0 0 rfl rfl)
theorem dX1_premiumOf_1 : decode cX1_premiumOf 1 = .ok (.aload_n 0, 1) := dk_42 (dk_at dksX1_premiumOf_0 1 rfl rfl)
theorem dX1_premiumOf_2 : decode cX1_premiumOf 2 = .ok (.invokevirtual 310, 3) := dk_182 1 54 (dk_at dksX1_premiumOf_0 2 rfl rfl)
theorem dX1_premiumOf_5 : decode cX1_premiumOf 5 = .ok (.i2l, 1) := dk_133 (dk_at dksX1_premiumOf_0 5 rfl rfl)
theorem dX1_premiumOf_6 : decode cX1_premiumOf 6 = .ok (.iload_n 1, 1) := dk_27 (dk_at dksX1_premiumOf_0 6 rfl rfl)
theorem dX1_premiumOf_7 : decode cX1_premiumOf 7 = .ok (.bipush 9, 2) := dk_16 9 (dk_at dksX1_premiumOf_0 7 rfl rfl)
theorem dX1_premiumOf_9 : decode cX1_premiumOf 9 = .ok (.iadd, 1) := dk_96 (dk_at dksX1_premiumOf_0 9 rfl rfl)
theorem dX1_premiumOf_10 : decode cX1_premiumOf 10 = .ok (.bipush 10, 2) := dk_16 10 (dk_at dksX1_premiumOf_0 10 rfl rfl)
theorem dX1_premiumOf_12 : decode cX1_premiumOf 12 = .ok (.idiv, 1) := dk_108 (dk_at dksX1_premiumOf_0 12 rfl rfl)
theorem dX1_premiumOf_13 : decode cX1_premiumOf 13 = .ok (.i2l, 1) := dk_133 (dk_at dksX1_premiumOf_0 13 rfl rfl)
theorem dX1_premiumOf_14 : decode cX1_premiumOf 14 = .ok (.lmul, 1) := dk_105 (dk_at dksX1_premiumOf_0 14 rfl rfl)
theorem dX1_premiumOf_15 : decode cX1_premiumOf 15 = .ok (.ldc2_w 313, 3) := dk_20 1 57 (dk_at dksX1_premiumOf_0 15 rfl rfl)
theorem dX1_premiumOf_18 : decode cX1_premiumOf 18 = .ok (.ldiv, 1) := dk_109 (dk_at dksX1_premiumOf_0 18 rfl rfl)
theorem dX1_premiumOf_19 : decode cX1_premiumOf 19 = .ok (.invokestatic 315, 3) := dk_184 1 59 (dk_at dksX1_premiumOf_0 19 rfl rfl)
theorem dX1_premiumOf_22 : decode cX1_premiumOf 22 = .ok (.l2i, 1) := dk_136 (dk_at dksX1_premiumOf_0 22 rfl rfl)
theorem dX1_premiumOf_23 : decode cX1_premiumOf 23 = .ok (.ireturn, 1) := dk_172 (dk_at dksX1_premiumOf_0 23 rfl rfl)
abbrev cX1_payer : ByteArray := prog_1_method_37_code
def yX1_payer : MethodName := ⟨RX1, "payer", "(II)LVaultyard$Fund;"⟩
def dkwX1_payer_4 : List UInt8 := [176]
abbrev dktX1_payer_4 : List UInt8 := dkwX1_payer_4 ++ []
def dkwX1_payer_3 : List UInt8 := [25, 5, 180, 1, 19, 184, 1, 31, 184, 1, 35, 182, 1, 41, 167, 255, 188, 45, 180, 1, 45, 192, 1, 13]
abbrev dktX1_payer_3 : List UInt8 := dkwX1_payer_3 ++ dktX1_payer_4
def dkwX1_payer_2 : List UInt8 := [25, 5, 180, 1, 19, 28, 161, 0, 31, 45, 25, 5, 25, 5, 180, 1, 22, 184, 1, 25, 184, 1, 31]
abbrev dktX1_payer_2 : List UInt8 := dkwX1_payer_2 ++ dktX1_payer_3
def dkwX1_payer_1 : List UInt8 := [153, 0, 64, 25, 4, 185, 0, 94, 1, 0, 192, 1, 13, 58, 5, 25, 5, 27, 182, 1, 15, 153, 0, 40]
abbrev dktX1_payer_1 : List UInt8 := dkwX1_payer_1 ++ dktX1_payer_2
def dkwX1_payer_0 : List UInt8 := [187, 1, 10, 89, 183, 1, 12, 78, 42, 180, 0, 34, 182, 0, 84, 58, 4, 25, 4, 185, 0, 88, 1, 0]
abbrev dktX1_payer_0 : List UInt8 := dkwX1_payer_0 ++ dktX1_payer_1
theorem dksX1_payer_0 : cX1_payer.data.toList.drop 0 = dktX1_payer_0 := by decide +kernel
theorem dksX1_payer_1 : cX1_payer.data.toList.drop 24 = dktX1_payer_1 := dk_seg dksX1_payer_0 24 rfl rfl
theorem dksX1_payer_2 : cX1_payer.data.toList.drop 48 = dktX1_payer_2 := dk_seg dksX1_payer_1 24 rfl rfl
theorem dksX1_payer_3 : cX1_payer.data.toList.drop 71 = dktX1_payer_3 := dk_seg dksX1_payer_2 23 rfl rfl
theorem dksX1_payer_4 : cX1_payer.data.toList.drop 95 = dktX1_payer_4 := dk_seg dksX1_payer_3 24 rfl rfl
theorem dX1_payer_0 : decode cX1_payer 0 = .ok (.new 266, 3) := dk_187 1 10 (dk_at dksX1_payer_0 0 rfl rfl)
theorem dX1_payer_3 : decode cX1_payer 3 = .ok (.dup, 1) := dk_89 (dk_at dksX1_payer_0 3 rfl rfl)
theorem dX1_payer_4 : decode cX1_payer 4 = .ok (.invokespecial 268, 3) := dk_183 1 12 (dk_at dksX1_payer_0 4 rfl rfl)
theorem dX1_payer_7 : decode cX1_payer 7 = .ok (.astore_n 3, 1) := dk_78 (dk_at dksX1_payer_0 7 rfl rfl)
theorem dX1_payer_8 : decode cX1_payer 8 = .ok (.aload_n 0, 1) := dk_42 (dk_at dksX1_payer_0 8 rfl rfl)
theorem dX1_payer_9 : decode cX1_payer 9 = .ok (.getfield 34, 3) := dk_180 0 34 (dk_at dksX1_payer_0 9 rfl rfl)
theorem dX1_payer_12 : decode cX1_payer 12 = .ok (.invokevirtual 84, 3) := dk_182 0 84 (dk_at dksX1_payer_0 12 rfl rfl)
theorem dX1_payer_15 : decode cX1_payer 15 = .ok (.astore 4, 2) := dk_58 4 (dk_at dksX1_payer_0 15 rfl rfl)
theorem dX1_payer_17 : decode cX1_payer 17 = .ok (.aload 4, 2) := dk_25 4 (dk_at dksX1_payer_0 17 rfl rfl)
theorem dX1_payer_19 : decode cX1_payer 19 = .ok (.invokeinterface 88 1, 5) := by decide +kernel
theorem dX1_payer_24 : decode cX1_payer 24 = .ok (.ifCond .eq 64, 3) := dk_153 0 64 (dk_at dksX1_payer_1 0 rfl rfl)
theorem dX1_payer_27 : decode cX1_payer 27 = .ok (.aload 4, 2) := dk_25 4 (dk_at dksX1_payer_1 3 rfl rfl)
theorem dX1_payer_29 : decode cX1_payer 29 = .ok (.invokeinterface 94 1, 5) := by decide +kernel
theorem dX1_payer_34 : decode cX1_payer 34 = .ok (.checkcast 269, 3) := dk_192 1 13 (dk_at dksX1_payer_1 10 rfl rfl)
theorem dX1_payer_37 : decode cX1_payer 37 = .ok (.astore 5, 2) := dk_58 5 (dk_at dksX1_payer_1 13 rfl rfl)
theorem dX1_payer_39 : decode cX1_payer 39 = .ok (.aload 5, 2) := dk_25 5 (dk_at dksX1_payer_1 15 rfl rfl)
theorem dX1_payer_41 : decode cX1_payer 41 = .ok (.iload_n 1, 1) := dk_27 (dk_at dksX1_payer_1 17 rfl rfl)
theorem dX1_payer_42 : decode cX1_payer 42 = .ok (.invokevirtual 271, 3) := dk_182 1 15 (dk_at dksX1_payer_1 18 rfl rfl)
theorem dX1_payer_45 : decode cX1_payer 45 = .ok (.ifCond .eq 40, 3) := dk_153 0 40 (dk_at dksX1_payer_1 21 rfl rfl)
theorem dX1_payer_48 : decode cX1_payer 48 = .ok (.aload 5, 2) := dk_25 5 (dk_at dksX1_payer_2 0 rfl rfl)
theorem dX1_payer_50 : decode cX1_payer 50 = .ok (.getfield 275, 3) := dk_180 1 19 (dk_at dksX1_payer_2 2 rfl rfl)
theorem dX1_payer_53 : decode cX1_payer 53 = .ok (.iload_n 2, 1) := dk_28 (dk_at dksX1_payer_2 5 rfl rfl)
theorem dX1_payer_54 : decode cX1_payer 54 = .ok (.if_icmp .lt 31, 3) := dk_161 0 31 (dk_at dksX1_payer_2 6 rfl rfl)
theorem dX1_payer_57 : decode cX1_payer 57 = .ok (.aload_n 3, 1) := dk_45 (dk_at dksX1_payer_2 9 rfl rfl)
theorem dX1_payer_58 : decode cX1_payer 58 = .ok (.aload 5, 2) := dk_25 5 (dk_at dksX1_payer_2 10 rfl rfl)
theorem dX1_payer_60 : decode cX1_payer 60 = .ok (.aload 5, 2) := dk_25 5 (dk_at dksX1_payer_2 12 rfl rfl)
theorem dX1_payer_62 : decode cX1_payer 62 = .ok (.getfield 278, 3) := dk_180 1 22 (dk_at dksX1_payer_2 14 rfl rfl)
theorem dX1_payer_65 : decode cX1_payer 65 = .ok (.invokestatic 281, 3) := dk_184 1 25 (dk_at dksX1_payer_2 17 rfl rfl)
theorem dX1_payer_68 : decode cX1_payer 68 = .ok (.invokestatic 287, 3) := dk_184 1 31 (dk_at dksX1_payer_2 20 rfl rfl)
theorem dX1_payer_71 : decode cX1_payer 71 = .ok (.aload 5, 2) := dk_25 5 (dk_at dksX1_payer_3 0 rfl rfl)
theorem dX1_payer_73 : decode cX1_payer 73 = .ok (.getfield 275, 3) := dk_180 1 19 (dk_at dksX1_payer_3 2 rfl rfl)
theorem dX1_payer_76 : decode cX1_payer 76 = .ok (.invokestatic 287, 3) := dk_184 1 31 (dk_at dksX1_payer_3 5 rfl rfl)
theorem dX1_payer_79 : decode cX1_payer 79 = .ok (.invokestatic 291, 3) := dk_184 1 35 (dk_at dksX1_payer_3 8 rfl rfl)
theorem dX1_payer_82 : decode cX1_payer 82 = .ok (.invokevirtual 297, 3) := dk_182 1 41 (dk_at dksX1_payer_3 11 rfl rfl)
theorem dX1_payer_85 : decode cX1_payer 85 = .ok (.goto (-68), 3) := dk_167 255 188 (dk_at dksX1_payer_3 14 rfl rfl)
theorem dX1_payer_88 : decode cX1_payer 88 = .ok (.aload_n 3, 1) := dk_45 (dk_at dksX1_payer_3 17 rfl rfl)
theorem dX1_payer_89 : decode cX1_payer 89 = .ok (.getfield 301, 3) := dk_180 1 45 (dk_at dksX1_payer_3 18 rfl rfl)
theorem dX1_payer_92 : decode cX1_payer 92 = .ok (.checkcast 269, 3) := dk_192 1 13 (dk_at dksX1_payer_3 21 rfl rfl)
theorem dX1_payer_95 : decode cX1_payer 95 = .ok (.areturn, 1) := dk_176 (dk_at dksX1_payer_4 0 rfl rfl)
abbrev cX1_premium : ByteArray := prog_1_method_41_code
def yX1_premium : MethodName := ⟨RX1, "premium", "(II)I"⟩
def dkwX1_premium_0 : List UInt8 := [42, 27, 182, 0, 182, 78, 28, 4, 17, 1, 144, 184, 0, 139, 184, 0, 135, 45, 28, 184, 1, 65, 172]
abbrev dktX1_premium_0 : List UInt8 := dkwX1_premium_0 ++ []
theorem dksX1_premium_0 : cX1_premium.data.toList.drop 0 = dktX1_premium_0 := by decide +kernel
theorem dX1_premium_0 : decode cX1_premium 0 = .ok (.aload_n 0, 1) := dk_42 (dk_at dksX1_premium_0 0 rfl rfl)
theorem dX1_premium_1 : decode cX1_premium 1 = .ok (.iload_n 1, 1) := dk_27 (dk_at dksX1_premium_0 1 rfl rfl)
theorem dX1_premium_2 : decode cX1_premium 2 = .ok (.invokevirtual 182, 3) := dk_182 0 182 (dk_at dksX1_premium_0 2 rfl rfl)
theorem dX1_premium_5 : decode cX1_premium 5 = .ok (.astore_n 3, 1) := dk_78 (dk_at dksX1_premium_0 5 rfl rfl)
theorem dX1_premium_6 : decode cX1_premium 6 = .ok (.iload_n 2, 1) := dk_28 (dk_at dksX1_premium_0 6 rfl rfl)
theorem dX1_premium_7 : decode cX1_premium 7 = .ok (.iconst 1, 1) := dk_4 (dk_at dksX1_premium_0 7 rfl rfl)
theorem dX1_premium_8 : decode cX1_premium 8 = .ok (.sipush 400, 3) := dk_17 1 144 (dk_at dksX1_premium_0 8 rfl rfl)
theorem dX1_premium_11 : decode cX1_premium 11 = .ok (.invokestatic 139, 3) := dk_184 0 139 (dk_at dksX1_premium_0 11 rfl rfl)
theorem dX1_premium_14 : decode cX1_premium 14 = .ok (.invokestatic 135, 3) := dk_184 0 135 (dk_at dksX1_premium_0 14 rfl rfl)
theorem dX1_premium_17 : decode cX1_premium 17 = .ok (.aload_n 3, 1) := dk_45 (dk_at dksX1_premium_0 17 rfl rfl)
theorem dX1_premium_18 : decode cX1_premium 18 = .ok (.iload_n 2, 1) := dk_28 (dk_at dksX1_premium_0 18 rfl rfl)
theorem dX1_premium_19 : decode cX1_premium 19 = .ok (.invokestatic 321, 3) := dk_184 1 65 (dk_at dksX1_premium_0 19 rfl rfl)
theorem dX1_premium_22 : decode cX1_premium 22 = .ok (.ireturn, 1) := dk_172 (dk_at dksX1_premium_0 22 rfl rfl)
abbrev cX1_isLate : ByteArray := prog_1_method_43_code
def yX1_isLate : MethodName := ⟨RX1, "isLate", "(I)Z"⟩
def dkwX1_isLate_1 : List UInt8 := [180, 0, 80, 44, 180, 1, 51, 44, 180, 1, 87, 96, 164, 0, 7, 4, 167, 0, 4, 3, 172]
abbrev dktX1_isLate_1 : List UInt8 := dkwX1_isLate_1 ++ []
def dkwX1_isLate_0 : List UInt8 := [42, 27, 182, 1, 80, 77, 44, 180, 1, 84, 154, 0, 7, 4, 167, 0, 4, 3, 184, 0, 176, 42]
abbrev dktX1_isLate_0 : List UInt8 := dkwX1_isLate_0 ++ dktX1_isLate_1
theorem dksX1_isLate_0 : cX1_isLate.data.toList.drop 0 = dktX1_isLate_0 := by decide +kernel
theorem dksX1_isLate_1 : cX1_isLate.data.toList.drop 22 = dktX1_isLate_1 := dk_seg dksX1_isLate_0 22 rfl rfl
theorem dX1_isLate_0 : decode cX1_isLate 0 = .ok (.aload_n 0, 1) := dk_42 (dk_at dksX1_isLate_0 0 rfl rfl)
theorem dX1_isLate_1 : decode cX1_isLate 1 = .ok (.iload_n 1, 1) := dk_27 (dk_at dksX1_isLate_0 1 rfl rfl)
theorem dX1_isLate_2 : decode cX1_isLate 2 = .ok (.invokevirtual 336, 3) := dk_182 1 80 (dk_at dksX1_isLate_0 2 rfl rfl)
theorem dX1_isLate_5 : decode cX1_isLate 5 = .ok (.astore_n 2, 1) := dk_77 (dk_at dksX1_isLate_0 5 rfl rfl)
theorem dX1_isLate_6 : decode cX1_isLate 6 = .ok (.aload_n 2, 1) := dk_44 (dk_at dksX1_isLate_0 6 rfl rfl)
theorem dX1_isLate_7 : decode cX1_isLate 7 = .ok (.getfield 340, 3) := dk_180 1 84 (dk_at dksX1_isLate_0 7 rfl rfl)
theorem dX1_isLate_10 : decode cX1_isLate 10 = .ok (.ifCond .ne 7, 3) := dk_154 0 7 (dk_at dksX1_isLate_0 10 rfl rfl)
theorem dX1_isLate_13 : decode cX1_isLate 13 = .ok (.iconst 1, 1) := dk_4 (dk_at dksX1_isLate_0 13 rfl rfl)
theorem dX1_isLate_14 : decode cX1_isLate 14 = .ok (.goto 4, 3) := dk_167 0 4 (dk_at dksX1_isLate_0 14 rfl rfl)
theorem dX1_isLate_17 : decode cX1_isLate 17 = .ok (.iconst 0, 1) := dk_3 (dk_at dksX1_isLate_0 17 rfl rfl)
theorem dX1_isLate_18 : decode cX1_isLate 18 = .ok (.invokestatic 176, 3) := dk_184 0 176 (dk_at dksX1_isLate_0 18 rfl rfl)
theorem dX1_isLate_21 : decode cX1_isLate 21 = .ok (.aload_n 0, 1) := dk_42 (dk_at dksX1_isLate_0 21 rfl rfl)
theorem dX1_isLate_22 : decode cX1_isLate 22 = .ok (.getfield 80, 3) := dk_180 0 80 (dk_at dksX1_isLate_1 0 rfl rfl)
theorem dX1_isLate_25 : decode cX1_isLate 25 = .ok (.aload_n 2, 1) := dk_44 (dk_at dksX1_isLate_1 3 rfl rfl)
theorem dX1_isLate_26 : decode cX1_isLate 26 = .ok (.getfield 307, 3) := dk_180 1 51 (dk_at dksX1_isLate_1 4 rfl rfl)
theorem dX1_isLate_29 : decode cX1_isLate 29 = .ok (.aload_n 2, 1) := dk_44 (dk_at dksX1_isLate_1 7 rfl rfl)
theorem dX1_isLate_30 : decode cX1_isLate 30 = .ok (.getfield 343, 3) := dk_180 1 87 (dk_at dksX1_isLate_1 8 rfl rfl)
theorem dX1_isLate_33 : decode cX1_isLate 33 = .ok (.iadd, 1) := dk_96 (dk_at dksX1_isLate_1 11 rfl rfl)
theorem dX1_isLate_34 : decode cX1_isLate 34 = .ok (.if_icmp .le 7, 3) := dk_164 0 7 (dk_at dksX1_isLate_1 12 rfl rfl)
theorem dX1_isLate_37 : decode cX1_isLate 37 = .ok (.iconst 1, 1) := dk_4 (dk_at dksX1_isLate_1 15 rfl rfl)
theorem dX1_isLate_38 : decode cX1_isLate 38 = .ok (.goto 4, 3) := dk_167 0 4 (dk_at dksX1_isLate_1 16 rfl rfl)
theorem dX1_isLate_41 : decode cX1_isLate 41 = .ok (.iconst 0, 1) := dk_3 (dk_at dksX1_isLate_1 19 rfl rfl)
theorem dX1_isLate_42 : decode cX1_isLate 42 = .ok (.ireturn, 1) := dk_172 (dk_at dksX1_isLate_1 20 rfl rfl)
abbrev cX1_loanAt : ByteArray := prog_1_method_42_code
def yX1_loanAt : MethodName := ⟨RX1, "loanAt", "(I)LVaultyard$Loan;"⟩
def dkwX1_loanAt_0 : List UInt8 := [27, 42, 180, 0, 22, 182, 0, 62, 184, 0, 66, 42, 180, 0, 22, 27, 182, 0, 70, 192, 1, 49, 176]
abbrev dktX1_loanAt_0 : List UInt8 := dkwX1_loanAt_0 ++ []
theorem dksX1_loanAt_0 : cX1_loanAt.data.toList.drop 0 = dktX1_loanAt_0 := by decide +kernel
theorem dX1_loanAt_0 : decode cX1_loanAt 0 = .ok (.iload_n 1, 1) := dk_27 (dk_at dksX1_loanAt_0 0 rfl rfl)
theorem dX1_loanAt_1 : decode cX1_loanAt 1 = .ok (.aload_n 0, 1) := dk_42 (dk_at dksX1_loanAt_0 1 rfl rfl)
theorem dX1_loanAt_2 : decode cX1_loanAt 2 = .ok (.getfield 22, 3) := dk_180 0 22 (dk_at dksX1_loanAt_0 2 rfl rfl)
theorem dX1_loanAt_5 : decode cX1_loanAt 5 = .ok (.invokevirtual 62, 3) := dk_182 0 62 (dk_at dksX1_loanAt_0 5 rfl rfl)
theorem dX1_loanAt_8 : decode cX1_loanAt 8 = .ok (.invokestatic 66, 3) := dk_184 0 66 (dk_at dksX1_loanAt_0 8 rfl rfl)
theorem dX1_loanAt_11 : decode cX1_loanAt 11 = .ok (.aload_n 0, 1) := dk_42 (dk_at dksX1_loanAt_0 11 rfl rfl)
theorem dX1_loanAt_12 : decode cX1_loanAt 12 = .ok (.getfield 22, 3) := dk_180 0 22 (dk_at dksX1_loanAt_0 12 rfl rfl)
theorem dX1_loanAt_15 : decode cX1_loanAt 15 = .ok (.iload_n 1, 1) := dk_27 (dk_at dksX1_loanAt_0 15 rfl rfl)
theorem dX1_loanAt_16 : decode cX1_loanAt 16 = .ok (.invokevirtual 70, 3) := dk_182 0 70 (dk_at dksX1_loanAt_0 16 rfl rfl)
theorem dX1_loanAt_19 : decode cX1_loanAt 19 = .ok (.checkcast 305, 3) := dk_192 1 49 (dk_at dksX1_loanAt_0 19 rfl rfl)
theorem dX1_loanAt_22 : decode cX1_loanAt 22 = .ok (.areturn, 1) := dk_176 (dk_at dksX1_loanAt_0 22 rfl rfl)
abbrev cX1_back : ByteArray := prog_1_method_44_code
def yX1_back : MethodName := ⟨RX1, "back", "(III)I"⟩
def dkwX1_back_5 : List UInt8 := [96, 181, 1, 19, 21, 6, 172]
abbrev dktX1_back_5 : List UInt8 := dkwX1_back_5 ++ []
def dkwX1_back_4 : List UInt8 := [136, 54, 6, 25, 4, 180, 1, 90, 25, 5, 182, 0, 197, 25, 4, 180, 1, 96, 89, 180, 1, 19, 21, 6]
abbrev dktX1_back_4 : List UInt8 := dkwX1_back_4 ++ dktX1_back_5
def dkwX1_back_3 : List UInt8 := [180, 1, 90, 180, 1, 93, 133, 25, 4, 180, 1, 90, 16, 101, 29, 182, 1, 6, 133, 105, 20, 1, 57, 109]
abbrev dktX1_back_3 : List UInt8 := dkwX1_back_3 ++ dktX1_back_4
def dkwX1_back_2 : List UInt8 := [182, 0, 172, 153, 0, 7, 4, 167, 0, 4, 3, 184, 0, 176, 25, 4, 4, 181, 1, 84, 25, 4]
abbrev dktX1_back_2 : List UInt8 := dkwX1_back_2 ++ dktX1_back_3
def dkwX1_back_1 : List UInt8 := [184, 0, 135, 25, 4, 180, 1, 84, 154, 0, 24, 42, 25, 5, 25, 4, 180, 1, 90, 180, 0, 106]
abbrev dktX1_back_1 : List UInt8 := dkwX1_back_1 ++ dktX1_back_2
def dkwX1_back_0 : List UInt8 := [42, 27, 182, 1, 80, 58, 4, 42, 28, 182, 0, 158, 58, 5, 29, 3, 17, 3, 232, 184, 0, 139]
abbrev dktX1_back_0 : List UInt8 := dkwX1_back_0 ++ dktX1_back_1
theorem dksX1_back_0 : cX1_back.data.toList.drop 0 = dktX1_back_0 := by decide +kernel
theorem dksX1_back_1 : cX1_back.data.toList.drop 22 = dktX1_back_1 := dk_seg dksX1_back_0 22 rfl rfl
theorem dksX1_back_2 : cX1_back.data.toList.drop 44 = dktX1_back_2 := dk_seg dksX1_back_1 22 rfl rfl
theorem dksX1_back_3 : cX1_back.data.toList.drop 66 = dktX1_back_3 := dk_seg dksX1_back_2 22 rfl rfl
theorem dksX1_back_4 : cX1_back.data.toList.drop 90 = dktX1_back_4 := dk_seg dksX1_back_3 24 rfl rfl
theorem dksX1_back_5 : cX1_back.data.toList.drop 114 = dktX1_back_5 := dk_seg dksX1_back_4 24 rfl rfl
theorem dX1_back_0 : decode cX1_back 0 = .ok (.aload_n 0, 1) := dk_42 (dk_at dksX1_back_0 0 rfl rfl)
theorem dX1_back_1 : decode cX1_back 1 = .ok (.iload_n 1, 1) := dk_27 (dk_at dksX1_back_0 1 rfl rfl)
theorem dX1_back_2 : decode cX1_back 2 = .ok (.invokevirtual 336, 3) := dk_182 1 80 (dk_at dksX1_back_0 2 rfl rfl)
theorem dX1_back_5 : decode cX1_back 5 = .ok (.astore 4, 2) := dk_58 4 (dk_at dksX1_back_0 5 rfl rfl)
theorem dX1_back_7 : decode cX1_back 7 = .ok (.aload_n 0, 1) := dk_42 (dk_at dksX1_back_0 7 rfl rfl)
theorem dX1_back_8 : decode cX1_back 8 = .ok (.iload_n 2, 1) := dk_28 (dk_at dksX1_back_0 8 rfl rfl)
theorem dX1_back_9 : decode cX1_back 9 = .ok (.invokevirtual 158, 3) := dk_182 0 158 (dk_at dksX1_back_0 9 rfl rfl)
theorem dX1_back_12 : decode cX1_back 12 = .ok (.astore 5, 2) := dk_58 5 (dk_at dksX1_back_0 12 rfl rfl)
theorem dX1_back_14 : decode cX1_back 14 = .ok (.iload_n 3, 1) := dk_29 (dk_at dksX1_back_0 14 rfl rfl)
theorem dX1_back_15 : decode cX1_back 15 = .ok (.iconst 0, 1) := dk_3 (dk_at dksX1_back_0 15 rfl rfl)
theorem dX1_back_16 : decode cX1_back 16 = .ok (.sipush 1000, 3) := dk_17 3 232 (dk_at dksX1_back_0 16 rfl rfl)
theorem dX1_back_19 : decode cX1_back 19 = .ok (.invokestatic 139, 3) := dk_184 0 139 (dk_at dksX1_back_0 19 rfl rfl)
theorem dX1_back_22 : decode cX1_back 22 = .ok (.invokestatic 135, 3) := dk_184 0 135 (dk_at dksX1_back_1 0 rfl rfl)
theorem dX1_back_25 : decode cX1_back 25 = .ok (.aload 4, 2) := dk_25 4 (dk_at dksX1_back_1 3 rfl rfl)
theorem dX1_back_27 : decode cX1_back 27 = .ok (.getfield 340, 3) := dk_180 1 84 (dk_at dksX1_back_1 5 rfl rfl)
theorem dX1_back_30 : decode cX1_back 30 = .ok (.ifCond .ne 24, 3) := dk_154 0 24 (dk_at dksX1_back_1 8 rfl rfl)
theorem dX1_back_33 : decode cX1_back 33 = .ok (.aload_n 0, 1) := dk_42 (dk_at dksX1_back_1 11 rfl rfl)
theorem dX1_back_34 : decode cX1_back 34 = .ok (.aload 5, 2) := dk_25 5 (dk_at dksX1_back_1 12 rfl rfl)
theorem dX1_back_36 : decode cX1_back 36 = .ok (.aload 4, 2) := dk_25 4 (dk_at dksX1_back_1 14 rfl rfl)
theorem dX1_back_38 : decode cX1_back 38 = .ok (.getfield 346, 3) := dk_180 1 90 (dk_at dksX1_back_1 16 rfl rfl)
theorem dX1_back_41 : decode cX1_back 41 = .ok (.getfield 106, 3) := dk_180 0 106 (dk_at dksX1_back_1 19 rfl rfl)
theorem dX1_back_44 : decode cX1_back 44 = .ok (.invokevirtual 172, 3) := dk_182 0 172 (dk_at dksX1_back_2 0 rfl rfl)
theorem dX1_back_47 : decode cX1_back 47 = .ok (.ifCond .eq 7, 3) := dk_153 0 7 (dk_at dksX1_back_2 3 rfl rfl)
theorem dX1_back_50 : decode cX1_back 50 = .ok (.iconst 1, 1) := dk_4 (dk_at dksX1_back_2 6 rfl rfl)
theorem dX1_back_51 : decode cX1_back 51 = .ok (.goto 4, 3) := dk_167 0 4 (dk_at dksX1_back_2 7 rfl rfl)
theorem dX1_back_54 : decode cX1_back 54 = .ok (.iconst 0, 1) := dk_3 (dk_at dksX1_back_2 10 rfl rfl)
theorem dX1_back_55 : decode cX1_back 55 = .ok (.invokestatic 176, 3) := dk_184 0 176 (dk_at dksX1_back_2 11 rfl rfl)
theorem dX1_back_58 : decode cX1_back 58 = .ok (.aload 4, 2) := dk_25 4 (dk_at dksX1_back_2 14 rfl rfl)
theorem dX1_back_60 : decode cX1_back 60 = .ok (.iconst 1, 1) := dk_4 (dk_at dksX1_back_2 16 rfl rfl)
theorem dX1_back_61 : decode cX1_back 61 = .ok (.putfield 340, 3) := dk_181 1 84 (dk_at dksX1_back_2 17 rfl rfl)
theorem dX1_back_64 : decode cX1_back 64 = .ok (.aload 4, 2) := dk_25 4 (dk_at dksX1_back_2 20 rfl rfl)
theorem dX1_back_66 : decode cX1_back 66 = .ok (.getfield 346, 3) := dk_180 1 90 (dk_at dksX1_back_3 0 rfl rfl)
theorem dX1_back_69 : decode cX1_back 69 = .ok (.getfield 349, 3) := dk_180 1 93 (dk_at dksX1_back_3 3 rfl rfl)
theorem dX1_back_72 : decode cX1_back 72 = .ok (.i2l, 1) := dk_133 (dk_at dksX1_back_3 6 rfl rfl)
theorem dX1_back_73 : decode cX1_back 73 = .ok (.aload 4, 2) := dk_25 4 (dk_at dksX1_back_3 7 rfl rfl)
theorem dX1_back_75 : decode cX1_back 75 = .ok (.getfield 346, 3) := dk_180 1 90 (dk_at dksX1_back_3 9 rfl rfl)
theorem dX1_back_78 : decode cX1_back 78 = .ok (.bipush 101, 2) := dk_16 101 (dk_at dksX1_back_3 12 rfl rfl)
theorem dX1_back_80 : decode cX1_back 80 = .ok (.iload_n 3, 1) := dk_29 (dk_at dksX1_back_3 14 rfl rfl)
theorem dX1_back_81 : decode cX1_back 81 = .ok (.invokevirtual 262, 3) := dk_182 1 6 (dk_at dksX1_back_3 15 rfl rfl)
theorem dX1_back_84 : decode cX1_back 84 = .ok (.i2l, 1) := dk_133 (dk_at dksX1_back_3 18 rfl rfl)
theorem dX1_back_85 : decode cX1_back 85 = .ok (.lmul, 1) := dk_105 (dk_at dksX1_back_3 19 rfl rfl)
theorem dX1_back_86 : decode cX1_back 86 = .ok (.ldc2_w 313, 3) := dk_20 1 57 (dk_at dksX1_back_3 20 rfl rfl)
theorem dX1_back_89 : decode cX1_back 89 = .ok (.ldiv, 1) := dk_109 (dk_at dksX1_back_3 23 rfl rfl)
theorem dX1_back_90 : decode cX1_back 90 = .ok (.l2i, 1) := dk_136 (dk_at dksX1_back_4 0 rfl rfl)
theorem dX1_back_91 : decode cX1_back 91 = .ok (.istore 6, 2) := dk_54 6 (dk_at dksX1_back_4 1 rfl rfl)
theorem dX1_back_93 : decode cX1_back 93 = .ok (.aload 4, 2) := dk_25 4 (dk_at dksX1_back_4 3 rfl rfl)
theorem dX1_back_95 : decode cX1_back 95 = .ok (.getfield 346, 3) := dk_180 1 90 (dk_at dksX1_back_4 5 rfl rfl)
theorem dX1_back_98 : decode cX1_back 98 = .ok (.aload 5, 2) := dk_25 5 (dk_at dksX1_back_4 8 rfl rfl)
theorem dX1_back_100 : decode cX1_back 100 = .ok (.invokevirtual 197, 3) := dk_182 0 197 (dk_at dksX1_back_4 10 rfl rfl)
theorem dX1_back_103 : decode cX1_back 103 = .ok (.aload 4, 2) := dk_25 4 (dk_at dksX1_back_4 13 rfl rfl)
theorem dX1_back_105 : decode cX1_back 105 = .ok (.getfield 352, 3) := dk_180 1 96 (dk_at dksX1_back_4 15 rfl rfl)
theorem dX1_back_108 : decode cX1_back 108 = .ok (.dup, 1) := dk_89 (dk_at dksX1_back_4 18 rfl rfl)
theorem dX1_back_109 : decode cX1_back 109 = .ok (.getfield 275, 3) := dk_180 1 19 (dk_at dksX1_back_4 19 rfl rfl)
theorem dX1_back_112 : decode cX1_back 112 = .ok (.iload 6, 2) := dk_21 6 (dk_at dksX1_back_4 22 rfl rfl)
theorem dX1_back_114 : decode cX1_back 114 = .ok (.iadd, 1) := dk_96 (dk_at dksX1_back_5 0 rfl rfl)
theorem dX1_back_115 : decode cX1_back 115 = .ok (.putfield 275, 3) := dk_181 1 19 (dk_at dksX1_back_5 1 rfl rfl)
theorem dX1_back_118 : decode cX1_back 118 = .ok (.iload 6, 2) := dk_21 6 (dk_at dksX1_back_5 4 rfl rfl)
theorem dX1_back_120 : decode cX1_back 120 = .ok (.ireturn, 1) := dk_172 (dk_at dksX1_back_5 6 rfl rfl)
abbrev cX1_owner : ByteArray := prog_1_method_45_code
def yX1_owner : MethodName := ⟨RX1, "owner", "(IIIIC)I"⟩
def dkwX1_owner_8 : List UInt8 := [182, 0, 62, 172]
abbrev dktX1_owner_8 : List UInt8 := dkwX1_owner_8 ++ []
def dkwX1_owner_7 : List UInt8 := [187, 1, 106, 89, 28, 29, 21, 4, 21, 5, 183, 1, 111, 182, 0, 131, 87, 25, 6, 180, 1, 100]
abbrev dktX1_owner_7 : List UInt8 := dkwX1_owner_7 ++ dktX1_owner_8
def dkwX1_owner_6 : List UInt8 := [180, 1, 100, 182, 0, 62, 16, 8, 162, 0, 7, 4, 167, 0, 4, 3, 184, 0, 143, 25, 6, 180, 1, 100]
abbrev dktX1_owner_6 : List UInt8 := dkwX1_owner_6 ++ dktX1_owner_7
def dkwX1_owner_5 : List UInt8 := [182, 0, 70, 192, 1, 106, 182, 1, 108, 161, 0, 7, 4, 167, 0, 4, 3, 184, 0, 176, 25, 6]
abbrev dktX1_owner_5 : List UInt8 := dkwX1_owner_5 ++ dktX1_owner_6
def dkwX1_owner_4 : List UInt8 := [182, 1, 103, 154, 0, 31, 29, 25, 6, 180, 1, 100, 25, 6, 180, 1, 100, 182, 0, 62, 4, 100]
abbrev dktX1_owner_4 : List UInt8 := dkwX1_owner_4 ++ dktX1_owner_5
def dkwX1_owner_3 : List UInt8 := [17, 8, 152, 184, 0, 139, 153, 0, 7, 4, 167, 0, 4, 3, 184, 0, 135, 25, 6, 180, 1, 100]
abbrev dktX1_owner_3 : List UInt8 := dkwX1_owner_3 ++ dktX1_owner_4
def dkwX1_owner_2 : List UInt8 := [184, 0, 139, 153, 0, 32, 29, 17, 5, 220, 17, 8, 152, 184, 0, 139, 153, 0, 19, 21, 4, 29]
abbrev dktX1_owner_2 : List UInt8 := dkwX1_owner_2 ++ dktX1_owner_3
def dkwX1_owner_1 : List UInt8 := [16, 105, 159, 0, 17, 21, 5, 16, 116, 159, 0, 10, 21, 5, 16, 102, 160, 0, 42, 28, 3, 16, 99]
abbrev dktX1_owner_1 : List UInt8 := dkwX1_owner_1 ++ dktX1_owner_2
def dkwX1_owner_0 : List UInt8 := [42, 27, 182, 0, 182, 58, 6, 21, 5, 16, 98, 159, 0, 31, 21, 5, 16, 103, 159, 0, 24, 21, 5]
abbrev dktX1_owner_0 : List UInt8 := dkwX1_owner_0 ++ dktX1_owner_1
theorem dksX1_owner_0 : cX1_owner.data.toList.drop 0 = dktX1_owner_0 := by decide +kernel
theorem dksX1_owner_1 : cX1_owner.data.toList.drop 23 = dktX1_owner_1 := dk_seg dksX1_owner_0 23 rfl rfl
theorem dksX1_owner_2 : cX1_owner.data.toList.drop 46 = dktX1_owner_2 := dk_seg dksX1_owner_1 23 rfl rfl
theorem dksX1_owner_3 : cX1_owner.data.toList.drop 68 = dktX1_owner_3 := dk_seg dksX1_owner_2 22 rfl rfl
theorem dksX1_owner_4 : cX1_owner.data.toList.drop 90 = dktX1_owner_4 := dk_seg dksX1_owner_3 22 rfl rfl
theorem dksX1_owner_5 : cX1_owner.data.toList.drop 112 = dktX1_owner_5 := dk_seg dksX1_owner_4 22 rfl rfl
theorem dksX1_owner_6 : cX1_owner.data.toList.drop 134 = dktX1_owner_6 := dk_seg dksX1_owner_5 22 rfl rfl
theorem dksX1_owner_7 : cX1_owner.data.toList.drop 158 = dktX1_owner_7 := dk_seg dksX1_owner_6 24 rfl rfl
theorem dksX1_owner_8 : cX1_owner.data.toList.drop 180 = dktX1_owner_8 := dk_seg dksX1_owner_7 22 rfl rfl
theorem dX1_owner_0 : decode cX1_owner 0 = .ok (.aload_n 0, 1) := dk_42 (dk_at dksX1_owner_0 0 rfl rfl)
theorem dX1_owner_1 : decode cX1_owner 1 = .ok (.iload_n 1, 1) := dk_27 (dk_at dksX1_owner_0 1 rfl rfl)
theorem dX1_owner_2 : decode cX1_owner 2 = .ok (.invokevirtual 182, 3) := dk_182 0 182 (dk_at dksX1_owner_0 2 rfl rfl)
theorem dX1_owner_5 : decode cX1_owner 5 = .ok (.astore 6, 2) := dk_58 6 (dk_at dksX1_owner_0 5 rfl rfl)
theorem dX1_owner_7 : decode cX1_owner 7 = .ok (.iload 5, 2) := dk_21 5 (dk_at dksX1_owner_0 7 rfl rfl)
theorem dX1_owner_9 : decode cX1_owner 9 = .ok (.bipush 98, 2) := dk_16 98 (dk_at dksX1_owner_0 9 rfl rfl)
theorem dX1_owner_11 : decode cX1_owner 11 = .ok (.if_icmp .eq 31, 3) := dk_159 0 31 (dk_at dksX1_owner_0 11 rfl rfl)
theorem dX1_owner_14 : decode cX1_owner 14 = .ok (.iload 5, 2) := dk_21 5 (dk_at dksX1_owner_0 14 rfl rfl)
theorem dX1_owner_16 : decode cX1_owner 16 = .ok (.bipush 103, 2) := dk_16 103 (dk_at dksX1_owner_0 16 rfl rfl)
theorem dX1_owner_18 : decode cX1_owner 18 = .ok (.if_icmp .eq 24, 3) := dk_159 0 24 (dk_at dksX1_owner_0 18 rfl rfl)
theorem dX1_owner_21 : decode cX1_owner 21 = .ok (.iload 5, 2) := dk_21 5 (dk_at dksX1_owner_0 21 rfl rfl)
theorem dX1_owner_23 : decode cX1_owner 23 = .ok (.bipush 105, 2) := dk_16 105 (dk_at dksX1_owner_1 0 rfl rfl)
theorem dX1_owner_25 : decode cX1_owner 25 = .ok (.if_icmp .eq 17, 3) := dk_159 0 17 (dk_at dksX1_owner_1 2 rfl rfl)
theorem dX1_owner_28 : decode cX1_owner 28 = .ok (.iload 5, 2) := dk_21 5 (dk_at dksX1_owner_1 5 rfl rfl)
theorem dX1_owner_30 : decode cX1_owner 30 = .ok (.bipush 116, 2) := dk_16 116 (dk_at dksX1_owner_1 7 rfl rfl)
theorem dX1_owner_32 : decode cX1_owner 32 = .ok (.if_icmp .eq 10, 3) := dk_159 0 10 (dk_at dksX1_owner_1 9 rfl rfl)
theorem dX1_owner_35 : decode cX1_owner 35 = .ok (.iload 5, 2) := dk_21 5 (dk_at dksX1_owner_1 12 rfl rfl)
theorem dX1_owner_37 : decode cX1_owner 37 = .ok (.bipush 102, 2) := dk_16 102 (dk_at dksX1_owner_1 14 rfl rfl)
theorem dX1_owner_39 : decode cX1_owner 39 = .ok (.if_icmp .ne 42, 3) := dk_160 0 42 (dk_at dksX1_owner_1 16 rfl rfl)
theorem dX1_owner_42 : decode cX1_owner 42 = .ok (.iload_n 2, 1) := dk_28 (dk_at dksX1_owner_1 19 rfl rfl)
theorem dX1_owner_43 : decode cX1_owner 43 = .ok (.iconst 0, 1) := dk_3 (dk_at dksX1_owner_1 20 rfl rfl)
theorem dX1_owner_44 : decode cX1_owner 44 = .ok (.bipush 99, 2) := dk_16 99 (dk_at dksX1_owner_1 21 rfl rfl)
theorem dX1_owner_46 : decode cX1_owner 46 = .ok (.invokestatic 139, 3) := dk_184 0 139 (dk_at dksX1_owner_2 0 rfl rfl)
theorem dX1_owner_49 : decode cX1_owner 49 = .ok (.ifCond .eq 32, 3) := dk_153 0 32 (dk_at dksX1_owner_2 3 rfl rfl)
theorem dX1_owner_52 : decode cX1_owner 52 = .ok (.iload_n 3, 1) := dk_29 (dk_at dksX1_owner_2 6 rfl rfl)
theorem dX1_owner_53 : decode cX1_owner 53 = .ok (.sipush 1500, 3) := dk_17 5 220 (dk_at dksX1_owner_2 7 rfl rfl)
theorem dX1_owner_56 : decode cX1_owner 56 = .ok (.sipush 2200, 3) := dk_17 8 152 (dk_at dksX1_owner_2 10 rfl rfl)
theorem dX1_owner_59 : decode cX1_owner 59 = .ok (.invokestatic 139, 3) := dk_184 0 139 (dk_at dksX1_owner_2 13 rfl rfl)
theorem dX1_owner_62 : decode cX1_owner 62 = .ok (.ifCond .eq 19, 3) := dk_153 0 19 (dk_at dksX1_owner_2 16 rfl rfl)
theorem dX1_owner_65 : decode cX1_owner 65 = .ok (.iload 4, 2) := dk_21 4 (dk_at dksX1_owner_2 19 rfl rfl)
theorem dX1_owner_67 : decode cX1_owner 67 = .ok (.iload_n 3, 1) := dk_29 (dk_at dksX1_owner_2 21 rfl rfl)
theorem dX1_owner_68 : decode cX1_owner 68 = .ok (.sipush 2200, 3) := dk_17 8 152 (dk_at dksX1_owner_3 0 rfl rfl)
theorem dX1_owner_71 : decode cX1_owner 71 = .ok (.invokestatic 139, 3) := dk_184 0 139 (dk_at dksX1_owner_3 3 rfl rfl)
theorem dX1_owner_74 : decode cX1_owner 74 = .ok (.ifCond .eq 7, 3) := dk_153 0 7 (dk_at dksX1_owner_3 6 rfl rfl)
theorem dX1_owner_77 : decode cX1_owner 77 = .ok (.iconst 1, 1) := dk_4 (dk_at dksX1_owner_3 9 rfl rfl)
theorem dX1_owner_78 : decode cX1_owner 78 = .ok (.goto 4, 3) := dk_167 0 4 (dk_at dksX1_owner_3 10 rfl rfl)
theorem dX1_owner_81 : decode cX1_owner 81 = .ok (.iconst 0, 1) := dk_3 (dk_at dksX1_owner_3 13 rfl rfl)
theorem dX1_owner_82 : decode cX1_owner 82 = .ok (.invokestatic 135, 3) := dk_184 0 135 (dk_at dksX1_owner_3 14 rfl rfl)
theorem dX1_owner_85 : decode cX1_owner 85 = .ok (.aload 6, 2) := dk_25 6 (dk_at dksX1_owner_3 17 rfl rfl)
theorem dX1_owner_87 : decode cX1_owner 87 = .ok (.getfield 356, 3) := dk_180 1 100 (dk_at dksX1_owner_3 19 rfl rfl)
theorem dX1_owner_90 : decode cX1_owner 90 = .ok (.invokevirtual 359, 3) := dk_182 1 103 (dk_at dksX1_owner_4 0 rfl rfl)
theorem dX1_owner_93 : decode cX1_owner 93 = .ok (.ifCond .ne 31, 3) := dk_154 0 31 (dk_at dksX1_owner_4 3 rfl rfl)
theorem dX1_owner_96 : decode cX1_owner 96 = .ok (.iload_n 3, 1) := dk_29 (dk_at dksX1_owner_4 6 rfl rfl)
theorem dX1_owner_97 : decode cX1_owner 97 = .ok (.aload 6, 2) := dk_25 6 (dk_at dksX1_owner_4 7 rfl rfl)
theorem dX1_owner_99 : decode cX1_owner 99 = .ok (.getfield 356, 3) := dk_180 1 100 (dk_at dksX1_owner_4 9 rfl rfl)
theorem dX1_owner_102 : decode cX1_owner 102 = .ok (.aload 6, 2) := dk_25 6 (dk_at dksX1_owner_4 12 rfl rfl)
theorem dX1_owner_104 : decode cX1_owner 104 = .ok (.getfield 356, 3) := dk_180 1 100 (dk_at dksX1_owner_4 14 rfl rfl)
theorem dX1_owner_107 : decode cX1_owner 107 = .ok (.invokevirtual 62, 3) := dk_182 0 62 (dk_at dksX1_owner_4 17 rfl rfl)
theorem dX1_owner_110 : decode cX1_owner 110 = .ok (.iconst 1, 1) := dk_4 (dk_at dksX1_owner_4 20 rfl rfl)
theorem dX1_owner_111 : decode cX1_owner 111 = .ok (.isub, 1) := dk_100 (dk_at dksX1_owner_4 21 rfl rfl)
theorem dX1_owner_112 : decode cX1_owner 112 = .ok (.invokevirtual 70, 3) := dk_182 0 70 (dk_at dksX1_owner_5 0 rfl rfl)
theorem dX1_owner_115 : decode cX1_owner 115 = .ok (.checkcast 362, 3) := dk_192 1 106 (dk_at dksX1_owner_5 3 rfl rfl)
theorem dX1_owner_118 : decode cX1_owner 118 = .ok (.invokevirtual 364, 3) := dk_182 1 108 (dk_at dksX1_owner_5 6 rfl rfl)
theorem dX1_owner_121 : decode cX1_owner 121 = .ok (.if_icmp .lt 7, 3) := dk_161 0 7 (dk_at dksX1_owner_5 9 rfl rfl)
theorem dX1_owner_124 : decode cX1_owner 124 = .ok (.iconst 1, 1) := dk_4 (dk_at dksX1_owner_5 12 rfl rfl)
theorem dX1_owner_125 : decode cX1_owner 125 = .ok (.goto 4, 3) := dk_167 0 4 (dk_at dksX1_owner_5 13 rfl rfl)
theorem dX1_owner_128 : decode cX1_owner 128 = .ok (.iconst 0, 1) := dk_3 (dk_at dksX1_owner_5 16 rfl rfl)
theorem dX1_owner_129 : decode cX1_owner 129 = .ok (.invokestatic 176, 3) := dk_184 0 176 (dk_at dksX1_owner_5 17 rfl rfl)
theorem dX1_owner_132 : decode cX1_owner 132 = .ok (.aload 6, 2) := dk_25 6 (dk_at dksX1_owner_5 20 rfl rfl)
theorem dX1_owner_134 : decode cX1_owner 134 = .ok (.getfield 356, 3) := dk_180 1 100 (dk_at dksX1_owner_6 0 rfl rfl)
theorem dX1_owner_137 : decode cX1_owner 137 = .ok (.invokevirtual 62, 3) := dk_182 0 62 (dk_at dksX1_owner_6 3 rfl rfl)
theorem dX1_owner_140 : decode cX1_owner 140 = .ok (.bipush 8, 2) := dk_16 8 (dk_at dksX1_owner_6 6 rfl rfl)
theorem dX1_owner_142 : decode cX1_owner 142 = .ok (.if_icmp .ge 7, 3) := dk_162 0 7 (dk_at dksX1_owner_6 8 rfl rfl)
theorem dX1_owner_145 : decode cX1_owner 145 = .ok (.iconst 1, 1) := dk_4 (dk_at dksX1_owner_6 11 rfl rfl)
theorem dX1_owner_146 : decode cX1_owner 146 = .ok (.goto 4, 3) := dk_167 0 4 (dk_at dksX1_owner_6 12 rfl rfl)
theorem dX1_owner_149 : decode cX1_owner 149 = .ok (.iconst 0, 1) := dk_3 (dk_at dksX1_owner_6 15 rfl rfl)
theorem dX1_owner_150 : decode cX1_owner 150 = .ok (.invokestatic 143, 3) := dk_184 0 143 (dk_at dksX1_owner_6 16 rfl rfl)
theorem dX1_owner_153 : decode cX1_owner 153 = .ok (.aload 6, 2) := dk_25 6 (dk_at dksX1_owner_6 19 rfl rfl)
theorem dX1_owner_155 : decode cX1_owner 155 = .ok (.getfield 356, 3) := dk_180 1 100 (dk_at dksX1_owner_6 21 rfl rfl)
theorem dX1_owner_158 : decode cX1_owner 158 = .ok (.new 362, 3) := dk_187 1 106 (dk_at dksX1_owner_7 0 rfl rfl)
theorem dX1_owner_161 : decode cX1_owner 161 = .ok (.dup, 1) := dk_89 (dk_at dksX1_owner_7 3 rfl rfl)
theorem dX1_owner_162 : decode cX1_owner 162 = .ok (.iload_n 2, 1) := dk_28 (dk_at dksX1_owner_7 4 rfl rfl)
theorem dX1_owner_163 : decode cX1_owner 163 = .ok (.iload_n 3, 1) := dk_29 (dk_at dksX1_owner_7 5 rfl rfl)
theorem dX1_owner_164 : decode cX1_owner 164 = .ok (.iload 4, 2) := dk_21 4 (dk_at dksX1_owner_7 6 rfl rfl)
theorem dX1_owner_166 : decode cX1_owner 166 = .ok (.iload 5, 2) := dk_21 5 (dk_at dksX1_owner_7 8 rfl rfl)
theorem dX1_owner_168 : decode cX1_owner 168 = .ok (.invokespecial 367, 3) := dk_183 1 111 (dk_at dksX1_owner_7 10 rfl rfl)
theorem dX1_owner_171 : decode cX1_owner 171 = .ok (.invokevirtual 131, 3) := dk_182 0 131 (dk_at dksX1_owner_7 13 rfl rfl)
theorem dX1_owner_174 : decode cX1_owner 174 = .ok (.pop, 1) := dk_87 (dk_at dksX1_owner_7 16 rfl rfl)
theorem dX1_owner_175 : decode cX1_owner 175 = .ok (.aload 6, 2) := dk_25 6 (dk_at dksX1_owner_7 17 rfl rfl)
theorem dX1_owner_177 : decode cX1_owner 177 = .ok (.getfield 356, 3) := dk_180 1 100 (dk_at dksX1_owner_7 19 rfl rfl)
theorem dX1_owner_180 : decode cX1_owner 180 = .ok (.invokevirtual 62, 3) := dk_182 0 62 (dk_at dksX1_owner_8 0 rfl rfl)
theorem dX1_owner_183 : decode cX1_owner 183 = .ok (.ireturn, 1) := dk_172 (dk_at dksX1_owner_8 3 rfl rfl)
abbrev cX1_gaps : ByteArray := prog_1_method_46_code
def yX1_gaps : MethodName := ⟨RX1, "gaps", "(I)I"⟩
def dkwX1_gaps_3 : List UInt8 := [172]
abbrev dktX1_gaps_3 : List UInt8 := dkwX1_gaps_3 ++ []
def dkwX1_gaps_2 : List UInt8 := [182, 0, 70, 192, 1, 106, 182, 1, 108, 100, 4, 100, 184, 0, 242, 96, 62, 132, 4, 1, 167, 255, 199, 29]
abbrev dktX1_gaps_2 : List UInt8 := dkwX1_gaps_2 ++ dktX1_gaps_3
def dkwX1_gaps_1 : List UInt8 := [3, 44, 180, 1, 100, 21, 4, 182, 0, 70, 192, 1, 106, 182, 1, 114, 44, 180, 1, 100, 21, 4, 4, 100]
abbrev dktX1_gaps_1 : List UInt8 := dkwX1_gaps_1 ++ dktX1_gaps_2
def dkwX1_gaps_0 : List UInt8 := [42, 27, 182, 0, 182, 77, 3, 62, 4, 54, 4, 21, 4, 44, 180, 1, 100, 182, 0, 62, 162, 0, 51, 29]
abbrev dktX1_gaps_0 : List UInt8 := dkwX1_gaps_0 ++ dktX1_gaps_1
theorem dksX1_gaps_0 : cX1_gaps.data.toList.drop 0 = dktX1_gaps_0 := by decide +kernel
theorem dksX1_gaps_1 : cX1_gaps.data.toList.drop 24 = dktX1_gaps_1 := dk_seg dksX1_gaps_0 24 rfl rfl
theorem dksX1_gaps_2 : cX1_gaps.data.toList.drop 48 = dktX1_gaps_2 := dk_seg dksX1_gaps_1 24 rfl rfl
theorem dksX1_gaps_3 : cX1_gaps.data.toList.drop 72 = dktX1_gaps_3 := dk_seg dksX1_gaps_2 24 rfl rfl
theorem dX1_gaps_0 : decode cX1_gaps 0 = .ok (.aload_n 0, 1) := dk_42 (dk_at dksX1_gaps_0 0 rfl rfl)
theorem dX1_gaps_1 : decode cX1_gaps 1 = .ok (.iload_n 1, 1) := dk_27 (dk_at dksX1_gaps_0 1 rfl rfl)
theorem dX1_gaps_2 : decode cX1_gaps 2 = .ok (.invokevirtual 182, 3) := dk_182 0 182 (dk_at dksX1_gaps_0 2 rfl rfl)
theorem dX1_gaps_5 : decode cX1_gaps 5 = .ok (.astore_n 2, 1) := dk_77 (dk_at dksX1_gaps_0 5 rfl rfl)
theorem dX1_gaps_6 : decode cX1_gaps 6 = .ok (.iconst 0, 1) := dk_3 (dk_at dksX1_gaps_0 6 rfl rfl)
theorem dX1_gaps_7 : decode cX1_gaps 7 = .ok (.istore_n 3, 1) := dk_62 (dk_at dksX1_gaps_0 7 rfl rfl)
theorem dX1_gaps_8 : decode cX1_gaps 8 = .ok (.iconst 1, 1) := dk_4 (dk_at dksX1_gaps_0 8 rfl rfl)
theorem dX1_gaps_9 : decode cX1_gaps 9 = .ok (.istore 4, 2) := dk_54 4 (dk_at dksX1_gaps_0 9 rfl rfl)
theorem dX1_gaps_11 : decode cX1_gaps 11 = .ok (.iload 4, 2) := dk_21 4 (dk_at dksX1_gaps_0 11 rfl rfl)
theorem dX1_gaps_13 : decode cX1_gaps 13 = .ok (.aload_n 2, 1) := dk_44 (dk_at dksX1_gaps_0 13 rfl rfl)
theorem dX1_gaps_14 : decode cX1_gaps 14 = .ok (.getfield 356, 3) := dk_180 1 100 (dk_at dksX1_gaps_0 14 rfl rfl)
theorem dX1_gaps_17 : decode cX1_gaps 17 = .ok (.invokevirtual 62, 3) := dk_182 0 62 (dk_at dksX1_gaps_0 17 rfl rfl)
theorem dX1_gaps_20 : decode cX1_gaps 20 = .ok (.if_icmp .ge 51, 3) := dk_162 0 51 (dk_at dksX1_gaps_0 20 rfl rfl)
theorem dX1_gaps_23 : decode cX1_gaps 23 = .ok (.iload_n 3, 1) := dk_29 (dk_at dksX1_gaps_0 23 rfl rfl)
theorem dX1_gaps_24 : decode cX1_gaps 24 = .ok (.iconst 0, 1) := dk_3 (dk_at dksX1_gaps_1 0 rfl rfl)
theorem dX1_gaps_25 : decode cX1_gaps 25 = .ok (.aload_n 2, 1) := dk_44 (dk_at dksX1_gaps_1 1 rfl rfl)
theorem dX1_gaps_26 : decode cX1_gaps 26 = .ok (.getfield 356, 3) := dk_180 1 100 (dk_at dksX1_gaps_1 2 rfl rfl)
theorem dX1_gaps_29 : decode cX1_gaps 29 = .ok (.iload 4, 2) := dk_21 4 (dk_at dksX1_gaps_1 5 rfl rfl)
theorem dX1_gaps_31 : decode cX1_gaps 31 = .ok (.invokevirtual 70, 3) := dk_182 0 70 (dk_at dksX1_gaps_1 7 rfl rfl)
theorem dX1_gaps_34 : decode cX1_gaps 34 = .ok (.checkcast 362, 3) := dk_192 1 106 (dk_at dksX1_gaps_1 10 rfl rfl)
theorem dX1_gaps_37 : decode cX1_gaps 37 = .ok (.invokevirtual 370, 3) := dk_182 1 114 (dk_at dksX1_gaps_1 13 rfl rfl)
theorem dX1_gaps_40 : decode cX1_gaps 40 = .ok (.aload_n 2, 1) := dk_44 (dk_at dksX1_gaps_1 16 rfl rfl)
theorem dX1_gaps_41 : decode cX1_gaps 41 = .ok (.getfield 356, 3) := dk_180 1 100 (dk_at dksX1_gaps_1 17 rfl rfl)
theorem dX1_gaps_44 : decode cX1_gaps 44 = .ok (.iload 4, 2) := dk_21 4 (dk_at dksX1_gaps_1 20 rfl rfl)
theorem dX1_gaps_46 : decode cX1_gaps 46 = .ok (.iconst 1, 1) := dk_4 (dk_at dksX1_gaps_1 22 rfl rfl)
theorem dX1_gaps_47 : decode cX1_gaps 47 = .ok (.isub, 1) := dk_100 (dk_at dksX1_gaps_1 23 rfl rfl)
theorem dX1_gaps_48 : decode cX1_gaps 48 = .ok (.invokevirtual 70, 3) := dk_182 0 70 (dk_at dksX1_gaps_2 0 rfl rfl)
theorem dX1_gaps_51 : decode cX1_gaps 51 = .ok (.checkcast 362, 3) := dk_192 1 106 (dk_at dksX1_gaps_2 3 rfl rfl)
theorem dX1_gaps_54 : decode cX1_gaps 54 = .ok (.invokevirtual 364, 3) := dk_182 1 108 (dk_at dksX1_gaps_2 6 rfl rfl)
theorem dX1_gaps_57 : decode cX1_gaps 57 = .ok (.isub, 1) := dk_100 (dk_at dksX1_gaps_2 9 rfl rfl)
theorem dX1_gaps_58 : decode cX1_gaps 58 = .ok (.iconst 1, 1) := dk_4 (dk_at dksX1_gaps_2 10 rfl rfl)
theorem dX1_gaps_59 : decode cX1_gaps 59 = .ok (.isub, 1) := dk_100 (dk_at dksX1_gaps_2 11 rfl rfl)
theorem dX1_gaps_60 : decode cX1_gaps 60 = .ok (.invokestatic 242, 3) := dk_184 0 242 (dk_at dksX1_gaps_2 12 rfl rfl)
theorem dX1_gaps_63 : decode cX1_gaps 63 = .ok (.iadd, 1) := dk_96 (dk_at dksX1_gaps_2 15 rfl rfl)
theorem dX1_gaps_64 : decode cX1_gaps 64 = .ok (.istore_n 3, 1) := dk_62 (dk_at dksX1_gaps_2 16 rfl rfl)
theorem dX1_gaps_65 : decode cX1_gaps 65 = .ok (.iinc 4 1, 3) := dk_132 4 1 (dk_at dksX1_gaps_2 17 rfl rfl)
theorem dX1_gaps_68 : decode cX1_gaps 68 = .ok (.goto (-57), 3) := dk_167 255 199 (dk_at dksX1_gaps_2 20 rfl rfl)
theorem dX1_gaps_71 : decode cX1_gaps 71 = .ok (.iload_n 3, 1) := dk_29 (dk_at dksX1_gaps_2 23 rfl rfl)
theorem dX1_gaps_72 : decode cX1_gaps 72 = .ok (.ireturn, 1) := dk_172 (dk_at dksX1_gaps_3 0 rfl rfl)
abbrev cX1_law : ByteArray := prog_1_method_47_code
def yX1_law : MethodName := ⟨RX1, "law", "(II)I"⟩
def dkwX1_law_1 : List UInt8 := [3, 184, 0, 135, 42, 180, 0, 37, 27, 46, 62, 42, 180, 0, 37, 27, 28, 79, 29, 172]
abbrev dktX1_law_1 : List UInt8 := dkwX1_law_1 ++ []
def dkwX1_law_0 : List UInt8 := [27, 3, 6, 184, 0, 139, 153, 0, 18, 28, 3, 17, 1, 44, 184, 0, 139, 153, 0, 7, 4, 167, 0, 4]
abbrev dktX1_law_0 : List UInt8 := dkwX1_law_0 ++ dktX1_law_1
theorem dksX1_law_0 : cX1_law.data.toList.drop 0 = dktX1_law_0 := by decide +kernel
theorem dksX1_law_1 : cX1_law.data.toList.drop 24 = dktX1_law_1 := dk_seg dksX1_law_0 24 rfl rfl
theorem dX1_law_0 : decode cX1_law 0 = .ok (.iload_n 1, 1) := dk_27 (dk_at dksX1_law_0 0 rfl rfl)
theorem dX1_law_1 : decode cX1_law 1 = .ok (.iconst 0, 1) := dk_3 (dk_at dksX1_law_0 1 rfl rfl)
theorem dX1_law_2 : decode cX1_law 2 = .ok (.iconst 3, 1) := dk_6 (dk_at dksX1_law_0 2 rfl rfl)
theorem dX1_law_3 : decode cX1_law 3 = .ok (.invokestatic 139, 3) := dk_184 0 139 (dk_at dksX1_law_0 3 rfl rfl)
theorem dX1_law_6 : decode cX1_law 6 = .ok (.ifCond .eq 18, 3) := dk_153 0 18 (dk_at dksX1_law_0 6 rfl rfl)
theorem dX1_law_9 : decode cX1_law 9 = .ok (.iload_n 2, 1) := dk_28 (dk_at dksX1_law_0 9 rfl rfl)
theorem dX1_law_10 : decode cX1_law 10 = .ok (.iconst 0, 1) := dk_3 (dk_at dksX1_law_0 10 rfl rfl)
theorem dX1_law_11 : decode cX1_law 11 = .ok (.sipush 300, 3) := dk_17 1 44 (dk_at dksX1_law_0 11 rfl rfl)
theorem dX1_law_14 : decode cX1_law 14 = .ok (.invokestatic 139, 3) := dk_184 0 139 (dk_at dksX1_law_0 14 rfl rfl)
theorem dX1_law_17 : decode cX1_law 17 = .ok (.ifCond .eq 7, 3) := dk_153 0 7 (dk_at dksX1_law_0 17 rfl rfl)
theorem dX1_law_20 : decode cX1_law 20 = .ok (.iconst 1, 1) := dk_4 (dk_at dksX1_law_0 20 rfl rfl)
theorem dX1_law_21 : decode cX1_law 21 = .ok (.goto 4, 3) := dk_167 0 4 (dk_at dksX1_law_0 21 rfl rfl)
theorem dX1_law_24 : decode cX1_law 24 = .ok (.iconst 0, 1) := dk_3 (dk_at dksX1_law_1 0 rfl rfl)
theorem dX1_law_25 : decode cX1_law 25 = .ok (.invokestatic 135, 3) := dk_184 0 135 (dk_at dksX1_law_1 1 rfl rfl)
theorem dX1_law_28 : decode cX1_law 28 = .ok (.aload_n 0, 1) := dk_42 (dk_at dksX1_law_1 4 rfl rfl)
theorem dX1_law_29 : decode cX1_law 29 = .ok (.getfield 37, 3) := dk_180 0 37 (dk_at dksX1_law_1 5 rfl rfl)
theorem dX1_law_32 : decode cX1_law 32 = .ok (.iload_n 1, 1) := dk_27 (dk_at dksX1_law_1 8 rfl rfl)
theorem dX1_law_33 : decode cX1_law 33 = .ok (.iaload, 1) := dk_46 (dk_at dksX1_law_1 9 rfl rfl)
theorem dX1_law_34 : decode cX1_law 34 = .ok (.istore_n 3, 1) := dk_62 (dk_at dksX1_law_1 10 rfl rfl)
theorem dX1_law_35 : decode cX1_law 35 = .ok (.aload_n 0, 1) := dk_42 (dk_at dksX1_law_1 11 rfl rfl)
theorem dX1_law_36 : decode cX1_law 36 = .ok (.getfield 37, 3) := dk_180 0 37 (dk_at dksX1_law_1 12 rfl rfl)
theorem dX1_law_39 : decode cX1_law 39 = .ok (.iload_n 1, 1) := dk_27 (dk_at dksX1_law_1 15 rfl rfl)
theorem dX1_law_40 : decode cX1_law 40 = .ok (.iload_n 2, 1) := dk_28 (dk_at dksX1_law_1 16 rfl rfl)
theorem dX1_law_41 : decode cX1_law 41 = .ok (.iastore, 1) := dk_79 (dk_at dksX1_law_1 17 rfl rfl)
theorem dX1_law_42 : decode cX1_law 42 = .ok (.iload_n 3, 1) := dk_29 (dk_at dksX1_law_1 18 rfl rfl)
theorem dX1_law_43 : decode cX1_law 43 = .ok (.ireturn, 1) := dk_172 (dk_at dksX1_law_1 19 rfl rfl)
abbrev cX1_claimant : ByteArray := prog_1_method_48_code
def yX1_claimant : MethodName := ⟨RX1, "claimant", "(II)I"⟩
def dkwX1_claimant_1 : List UInt8 := [182, 1, 117, 54, 4, 21, 4, 2, 159, 0, 7, 4, 167, 0, 4, 3, 184, 0, 205, 21, 4, 172]
abbrev dktX1_claimant_1 : List UInt8 := dkwX1_claimant_1 ++ []
def dkwX1_claimant_0 : List UInt8 := [42, 27, 182, 0, 182, 78, 28, 3, 6, 184, 0, 139, 184, 0, 135, 45, 42, 180, 0, 37, 28, 46]
abbrev dktX1_claimant_0 : List UInt8 := dkwX1_claimant_0 ++ dktX1_claimant_1
theorem dksX1_claimant_0 : cX1_claimant.data.toList.drop 0 = dktX1_claimant_0 := by decide +kernel
theorem dksX1_claimant_1 : cX1_claimant.data.toList.drop 22 = dktX1_claimant_1 := dk_seg dksX1_claimant_0 22 rfl rfl
theorem dX1_claimant_0 : decode cX1_claimant 0 = .ok (.aload_n 0, 1) := dk_42 (dk_at dksX1_claimant_0 0 rfl rfl)
theorem dX1_claimant_1 : decode cX1_claimant 1 = .ok (.iload_n 1, 1) := dk_27 (dk_at dksX1_claimant_0 1 rfl rfl)
theorem dX1_claimant_2 : decode cX1_claimant 2 = .ok (.invokevirtual 182, 3) := dk_182 0 182 (dk_at dksX1_claimant_0 2 rfl rfl)
theorem dX1_claimant_5 : decode cX1_claimant 5 = .ok (.astore_n 3, 1) := dk_78 (dk_at dksX1_claimant_0 5 rfl rfl)
theorem dX1_claimant_6 : decode cX1_claimant 6 = .ok (.iload_n 2, 1) := dk_28 (dk_at dksX1_claimant_0 6 rfl rfl)
theorem dX1_claimant_7 : decode cX1_claimant 7 = .ok (.iconst 0, 1) := dk_3 (dk_at dksX1_claimant_0 7 rfl rfl)
theorem dX1_claimant_8 : decode cX1_claimant 8 = .ok (.iconst 3, 1) := dk_6 (dk_at dksX1_claimant_0 8 rfl rfl)
theorem dX1_claimant_9 : decode cX1_claimant 9 = .ok (.invokestatic 139, 3) := dk_184 0 139 (dk_at dksX1_claimant_0 9 rfl rfl)
theorem dX1_claimant_12 : decode cX1_claimant 12 = .ok (.invokestatic 135, 3) := dk_184 0 135 (dk_at dksX1_claimant_0 12 rfl rfl)
theorem dX1_claimant_15 : decode cX1_claimant 15 = .ok (.aload_n 3, 1) := dk_45 (dk_at dksX1_claimant_0 15 rfl rfl)
theorem dX1_claimant_16 : decode cX1_claimant 16 = .ok (.aload_n 0, 1) := dk_42 (dk_at dksX1_claimant_0 16 rfl rfl)
theorem dX1_claimant_17 : decode cX1_claimant 17 = .ok (.getfield 37, 3) := dk_180 0 37 (dk_at dksX1_claimant_0 17 rfl rfl)
theorem dX1_claimant_20 : decode cX1_claimant 20 = .ok (.iload_n 2, 1) := dk_28 (dk_at dksX1_claimant_0 20 rfl rfl)
theorem dX1_claimant_21 : decode cX1_claimant 21 = .ok (.iaload, 1) := dk_46 (dk_at dksX1_claimant_0 21 rfl rfl)
theorem dX1_claimant_22 : decode cX1_claimant 22 = .ok (.invokevirtual 373, 3) := dk_182 1 117 (dk_at dksX1_claimant_1 0 rfl rfl)
theorem dX1_claimant_25 : decode cX1_claimant 25 = .ok (.istore 4, 2) := dk_54 4 (dk_at dksX1_claimant_1 3 rfl rfl)
theorem dX1_claimant_27 : decode cX1_claimant 27 = .ok (.iload 4, 2) := dk_21 4 (dk_at dksX1_claimant_1 5 rfl rfl)
theorem dX1_claimant_29 : decode cX1_claimant 29 = .ok (.iconst (-1), 1) := dk_2 (dk_at dksX1_claimant_1 7 rfl rfl)
theorem dX1_claimant_30 : decode cX1_claimant 30 = .ok (.if_icmp .eq 7, 3) := dk_159 0 7 (dk_at dksX1_claimant_1 8 rfl rfl)
theorem dX1_claimant_33 : decode cX1_claimant 33 = .ok (.iconst 1, 1) := dk_4 (dk_at dksX1_claimant_1 11 rfl rfl)
theorem dX1_claimant_34 : decode cX1_claimant 34 = .ok (.goto 4, 3) := dk_167 0 4 (dk_at dksX1_claimant_1 12 rfl rfl)
theorem dX1_claimant_37 : decode cX1_claimant 37 = .ok (.iconst 0, 1) := dk_3 (dk_at dksX1_claimant_1 15 rfl rfl)
theorem dX1_claimant_38 : decode cX1_claimant 38 = .ok (.invokestatic 205, 3) := dk_184 0 205 (dk_at dksX1_claimant_1 16 rfl rfl)
theorem dX1_claimant_41 : decode cX1_claimant 41 = .ok (.iload 4, 2) := dk_21 4 (dk_at dksX1_claimant_1 19 rfl rfl)
theorem dX1_claimant_43 : decode cX1_claimant 43 = .ok (.ireturn, 1) := dk_172 (dk_at dksX1_claimant_1 21 rfl rfl)
abbrev cX1_method : ByteArray := prog_1_method_49_code
def yX1_method : MethodName := ⟨RX1, "method", "(IIII)I"⟩
def dkwX1_method_4 : List UInt8 := [182, 0, 62, 4, 100, 172]
abbrev dktX1_method_4 : List UInt8 := dkwX1_method_4 ++ []
def dkwX1_method_3 : List UInt8 := [42, 180, 0, 25, 187, 1, 120, 89, 27, 28, 29, 21, 4, 183, 1, 122, 182, 0, 131, 87, 42, 180, 0, 25]
abbrev dktX1_method_3 : List UInt8 := dkwX1_method_3 ++ dktX1_method_4
def dkwX1_method_2 : List UInt8 := [3, 184, 0, 135, 42, 180, 0, 25, 182, 0, 62, 16, 8, 162, 0, 7, 4, 167, 0, 4, 3, 184, 0, 143]
abbrev dktX1_method_2 : List UInt8 := dkwX1_method_2 ++ dktX1_method_3
def dkwX1_method_1 : List UInt8 := [16, 60, 184, 0, 139, 153, 0, 19, 21, 4, 3, 17, 0, 255, 184, 0, 139, 153, 0, 7, 4, 167, 0, 4]
abbrev dktX1_method_1 : List UInt8 := dkwX1_method_1 ++ dktX1_method_2
def dkwX1_method_0 : List UInt8 := [27, 4, 16, 15, 184, 0, 139, 153, 0, 40, 28, 3, 17, 39, 15, 184, 0, 139, 153, 0, 29, 29, 4]
abbrev dktX1_method_0 : List UInt8 := dkwX1_method_0 ++ dktX1_method_1
theorem dksX1_method_0 : cX1_method.data.toList.drop 0 = dktX1_method_0 := by decide +kernel
theorem dksX1_method_1 : cX1_method.data.toList.drop 23 = dktX1_method_1 := dk_seg dksX1_method_0 23 rfl rfl
theorem dksX1_method_2 : cX1_method.data.toList.drop 47 = dktX1_method_2 := dk_seg dksX1_method_1 24 rfl rfl
theorem dksX1_method_3 : cX1_method.data.toList.drop 71 = dktX1_method_3 := dk_seg dksX1_method_2 24 rfl rfl
theorem dksX1_method_4 : cX1_method.data.toList.drop 95 = dktX1_method_4 := dk_seg dksX1_method_3 24 rfl rfl
theorem dX1_method_0 : decode cX1_method 0 = .ok (.iload_n 1, 1) := dk_27 (dk_at dksX1_method_0 0 rfl rfl)
theorem dX1_method_1 : decode cX1_method 1 = .ok (.iconst 1, 1) := dk_4 (dk_at dksX1_method_0 1 rfl rfl)
theorem dX1_method_2 : decode cX1_method 2 = .ok (.bipush 15, 2) := dk_16 15 (dk_at dksX1_method_0 2 rfl rfl)
theorem dX1_method_4 : decode cX1_method 4 = .ok (.invokestatic 139, 3) := dk_184 0 139 (dk_at dksX1_method_0 4 rfl rfl)
theorem dX1_method_7 : decode cX1_method 7 = .ok (.ifCond .eq 40, 3) := dk_153 0 40 (dk_at dksX1_method_0 7 rfl rfl)
theorem dX1_method_10 : decode cX1_method 10 = .ok (.iload_n 2, 1) := dk_28 (dk_at dksX1_method_0 10 rfl rfl)
theorem dX1_method_11 : decode cX1_method 11 = .ok (.iconst 0, 1) := dk_3 (dk_at dksX1_method_0 11 rfl rfl)
theorem dX1_method_12 : decode cX1_method 12 = .ok (.sipush 9999, 3) := dk_17 39 15 (dk_at dksX1_method_0 12 rfl rfl)
theorem dX1_method_15 : decode cX1_method 15 = .ok (.invokestatic 139, 3) := dk_184 0 139 (dk_at dksX1_method_0 15 rfl rfl)
theorem dX1_method_18 : decode cX1_method 18 = .ok (.ifCond .eq 29, 3) := dk_153 0 29 (dk_at dksX1_method_0 18 rfl rfl)
theorem dX1_method_21 : decode cX1_method 21 = .ok (.iload_n 3, 1) := dk_29 (dk_at dksX1_method_0 21 rfl rfl)
theorem dX1_method_22 : decode cX1_method 22 = .ok (.iconst 1, 1) := dk_4 (dk_at dksX1_method_0 22 rfl rfl)
theorem dX1_method_23 : decode cX1_method 23 = .ok (.bipush 60, 2) := dk_16 60 (dk_at dksX1_method_1 0 rfl rfl)
theorem dX1_method_25 : decode cX1_method 25 = .ok (.invokestatic 139, 3) := dk_184 0 139 (dk_at dksX1_method_1 2 rfl rfl)
theorem dX1_method_28 : decode cX1_method 28 = .ok (.ifCond .eq 19, 3) := dk_153 0 19 (dk_at dksX1_method_1 5 rfl rfl)
theorem dX1_method_31 : decode cX1_method 31 = .ok (.iload 4, 2) := dk_21 4 (dk_at dksX1_method_1 8 rfl rfl)
theorem dX1_method_33 : decode cX1_method 33 = .ok (.iconst 0, 1) := dk_3 (dk_at dksX1_method_1 10 rfl rfl)
theorem dX1_method_34 : decode cX1_method 34 = .ok (.sipush 255, 3) := dk_17 0 255 (dk_at dksX1_method_1 11 rfl rfl)
theorem dX1_method_37 : decode cX1_method 37 = .ok (.invokestatic 139, 3) := dk_184 0 139 (dk_at dksX1_method_1 14 rfl rfl)
theorem dX1_method_40 : decode cX1_method 40 = .ok (.ifCond .eq 7, 3) := dk_153 0 7 (dk_at dksX1_method_1 17 rfl rfl)
theorem dX1_method_43 : decode cX1_method 43 = .ok (.iconst 1, 1) := dk_4 (dk_at dksX1_method_1 20 rfl rfl)
theorem dX1_method_44 : decode cX1_method 44 = .ok (.goto 4, 3) := dk_167 0 4 (dk_at dksX1_method_1 21 rfl rfl)
theorem dX1_method_47 : decode cX1_method 47 = .ok (.iconst 0, 1) := dk_3 (dk_at dksX1_method_2 0 rfl rfl)
theorem dX1_method_48 : decode cX1_method 48 = .ok (.invokestatic 135, 3) := dk_184 0 135 (dk_at dksX1_method_2 1 rfl rfl)
theorem dX1_method_51 : decode cX1_method 51 = .ok (.aload_n 0, 1) := dk_42 (dk_at dksX1_method_2 4 rfl rfl)
theorem dX1_method_52 : decode cX1_method 52 = .ok (.getfield 25, 3) := dk_180 0 25 (dk_at dksX1_method_2 5 rfl rfl)
theorem dX1_method_55 : decode cX1_method 55 = .ok (.invokevirtual 62, 3) := dk_182 0 62 (dk_at dksX1_method_2 8 rfl rfl)
theorem dX1_method_58 : decode cX1_method 58 = .ok (.bipush 8, 2) := dk_16 8 (dk_at dksX1_method_2 11 rfl rfl)
theorem dX1_method_60 : decode cX1_method 60 = .ok (.if_icmp .ge 7, 3) := dk_162 0 7 (dk_at dksX1_method_2 13 rfl rfl)
theorem dX1_method_63 : decode cX1_method 63 = .ok (.iconst 1, 1) := dk_4 (dk_at dksX1_method_2 16 rfl rfl)
theorem dX1_method_64 : decode cX1_method 64 = .ok (.goto 4, 3) := dk_167 0 4 (dk_at dksX1_method_2 17 rfl rfl)
theorem dX1_method_67 : decode cX1_method 67 = .ok (.iconst 0, 1) := dk_3 (dk_at dksX1_method_2 20 rfl rfl)
theorem dX1_method_68 : decode cX1_method 68 = .ok (.invokestatic 143, 3) := dk_184 0 143 (dk_at dksX1_method_2 21 rfl rfl)
theorem dX1_method_71 : decode cX1_method 71 = .ok (.aload_n 0, 1) := dk_42 (dk_at dksX1_method_3 0 rfl rfl)
theorem dX1_method_72 : decode cX1_method 72 = .ok (.getfield 25, 3) := dk_180 0 25 (dk_at dksX1_method_3 1 rfl rfl)
theorem dX1_method_75 : decode cX1_method 75 = .ok (.new 376, 3) := dk_187 1 120 (dk_at dksX1_method_3 4 rfl rfl)
theorem dX1_method_78 : decode cX1_method 78 = .ok (.dup, 1) := dk_89 (dk_at dksX1_method_3 7 rfl rfl)
theorem dX1_method_79 : decode cX1_method 79 = .ok (.iload_n 1, 1) := dk_27 (dk_at dksX1_method_3 8 rfl rfl)
theorem dX1_method_80 : decode cX1_method 80 = .ok (.iload_n 2, 1) := dk_28 (dk_at dksX1_method_3 9 rfl rfl)
theorem dX1_method_81 : decode cX1_method 81 = .ok (.iload_n 3, 1) := dk_29 (dk_at dksX1_method_3 10 rfl rfl)
theorem dX1_method_82 : decode cX1_method 82 = .ok (.iload 4, 2) := dk_21 4 (dk_at dksX1_method_3 11 rfl rfl)
theorem dX1_method_84 : decode cX1_method 84 = .ok (.invokespecial 378, 3) := dk_183 1 122 (dk_at dksX1_method_3 13 rfl rfl)
theorem dX1_method_87 : decode cX1_method 87 = .ok (.invokevirtual 131, 3) := dk_182 0 131 (dk_at dksX1_method_3 16 rfl rfl)
theorem dX1_method_90 : decode cX1_method 90 = .ok (.pop, 1) := dk_87 (dk_at dksX1_method_3 19 rfl rfl)
theorem dX1_method_91 : decode cX1_method 91 = .ok (.aload_n 0, 1) := dk_42 (dk_at dksX1_method_3 20 rfl rfl)
theorem dX1_method_92 : decode cX1_method 92 = .ok (.getfield 25, 3) := dk_180 0 25 (dk_at dksX1_method_3 21 rfl rfl)
theorem dX1_method_95 : decode cX1_method 95 = .ok (.invokevirtual 62, 3) := dk_182 0 62 (dk_at dksX1_method_4 0 rfl rfl)
theorem dX1_method_98 : decode cX1_method 98 = .ok (.iconst 1, 1) := dk_4 (dk_at dksX1_method_4 3 rfl rfl)
theorem dX1_method_99 : decode cX1_method 99 = .ok (.isub, 1) := dk_100 (dk_at dksX1_method_4 4 rfl rfl)
theorem dX1_method_100 : decode cX1_method 100 = .ok (.ireturn, 1) := dk_172 (dk_at dksX1_method_4 5 rfl rfl)
abbrev cX1_treat : ByteArray := prog_1_method_51_code
def yX1_treat : MethodName := ⟨RX1, "treat", "(II)I"⟩
def dkwX1_treat_5 : List UInt8 := [16, 119, 28, 182, 1, 73, 45, 180, 0, 216, 172]
abbrev dktX1_treat_5 : List UInt8 := dkwX1_treat_5 ++ []
def dkwX1_treat_4 : List UInt8 := [4, 28, 120, 128, 181, 1, 123, 45, 42, 180, 0, 80, 25, 4, 182, 1, 136, 96, 4, 100, 181, 0, 216, 45]
abbrev dktX1_treat_4 : List UInt8 := dkwX1_treat_4 ++ dktX1_treat_5
def dkwX1_treat_3 : List UInt8 := [3, 184, 0, 176, 25, 5, 89, 180, 1, 19, 25, 4, 182, 1, 129, 100, 181, 1, 19, 45, 89, 180, 1, 123]
abbrev dktX1_treat_3 : List UInt8 := dkwX1_treat_3 ++ dktX1_treat_4
def dkwX1_treat_2 : List UInt8 := [182, 0, 186, 153, 0, 21, 42, 45, 28, 182, 1, 132, 154, 0, 12, 25, 5, 198, 0, 7, 4, 167, 0, 4]
abbrev dktX1_treat_2 : List UInt8 := dkwX1_treat_2 ++ dktX1_treat_3
def dkwX1_treat_1 : List UInt8 := [182, 0, 70, 192, 1, 120, 58, 4, 42, 5, 25, 4, 182, 1, 129, 182, 1, 69, 58, 5, 45, 16, 114]
abbrev dktX1_treat_1 : List UInt8 := dkwX1_treat_1 ++ dktX1_treat_2
def dkwX1_treat_0 : List UInt8 := [42, 27, 182, 0, 182, 78, 28, 42, 180, 0, 25, 182, 0, 62, 184, 0, 66, 42, 180, 0, 25, 28]
abbrev dktX1_treat_0 : List UInt8 := dkwX1_treat_0 ++ dktX1_treat_1
theorem dksX1_treat_0 : cX1_treat.data.toList.drop 0 = dktX1_treat_0 := by decide +kernel
theorem dksX1_treat_1 : cX1_treat.data.toList.drop 22 = dktX1_treat_1 := dk_seg dksX1_treat_0 22 rfl rfl
theorem dksX1_treat_2 : cX1_treat.data.toList.drop 45 = dktX1_treat_2 := dk_seg dksX1_treat_1 23 rfl rfl
theorem dksX1_treat_3 : cX1_treat.data.toList.drop 69 = dktX1_treat_3 := dk_seg dksX1_treat_2 24 rfl rfl
theorem dksX1_treat_4 : cX1_treat.data.toList.drop 93 = dktX1_treat_4 := dk_seg dksX1_treat_3 24 rfl rfl
theorem dksX1_treat_5 : cX1_treat.data.toList.drop 117 = dktX1_treat_5 := dk_seg dksX1_treat_4 24 rfl rfl
theorem dX1_treat_0 : decode cX1_treat 0 = .ok (.aload_n 0, 1) := dk_42 (dk_at dksX1_treat_0 0 rfl rfl)
theorem dX1_treat_1 : decode cX1_treat 1 = .ok (.iload_n 1, 1) := dk_27 (dk_at dksX1_treat_0 1 rfl rfl)
theorem dX1_treat_2 : decode cX1_treat 2 = .ok (.invokevirtual 182, 3) := dk_182 0 182 (dk_at dksX1_treat_0 2 rfl rfl)
theorem dX1_treat_5 : decode cX1_treat 5 = .ok (.astore_n 3, 1) := dk_78 (dk_at dksX1_treat_0 5 rfl rfl)
theorem dX1_treat_6 : decode cX1_treat 6 = .ok (.iload_n 2, 1) := dk_28 (dk_at dksX1_treat_0 6 rfl rfl)
theorem dX1_treat_7 : decode cX1_treat 7 = .ok (.aload_n 0, 1) := dk_42 (dk_at dksX1_treat_0 7 rfl rfl)
theorem dX1_treat_8 : decode cX1_treat 8 = .ok (.getfield 25, 3) := dk_180 0 25 (dk_at dksX1_treat_0 8 rfl rfl)
theorem dX1_treat_11 : decode cX1_treat 11 = .ok (.invokevirtual 62, 3) := dk_182 0 62 (dk_at dksX1_treat_0 11 rfl rfl)
theorem dX1_treat_14 : decode cX1_treat 14 = .ok (.invokestatic 66, 3) := dk_184 0 66 (dk_at dksX1_treat_0 14 rfl rfl)
theorem dX1_treat_17 : decode cX1_treat 17 = .ok (.aload_n 0, 1) := dk_42 (dk_at dksX1_treat_0 17 rfl rfl)
theorem dX1_treat_18 : decode cX1_treat 18 = .ok (.getfield 25, 3) := dk_180 0 25 (dk_at dksX1_treat_0 18 rfl rfl)
theorem dX1_treat_21 : decode cX1_treat 21 = .ok (.iload_n 2, 1) := dk_28 (dk_at dksX1_treat_0 21 rfl rfl)
theorem dX1_treat_22 : decode cX1_treat 22 = .ok (.invokevirtual 70, 3) := dk_182 0 70 (dk_at dksX1_treat_1 0 rfl rfl)
theorem dX1_treat_25 : decode cX1_treat 25 = .ok (.checkcast 376, 3) := dk_192 1 120 (dk_at dksX1_treat_1 3 rfl rfl)
theorem dX1_treat_28 : decode cX1_treat 28 = .ok (.astore 4, 2) := dk_58 4 (dk_at dksX1_treat_1 6 rfl rfl)
theorem dX1_treat_30 : decode cX1_treat 30 = .ok (.aload_n 0, 1) := dk_42 (dk_at dksX1_treat_1 8 rfl rfl)
theorem dX1_treat_31 : decode cX1_treat 31 = .ok (.iconst 2, 1) := dk_5 (dk_at dksX1_treat_1 9 rfl rfl)
theorem dX1_treat_32 : decode cX1_treat 32 = .ok (.aload 4, 2) := dk_25 4 (dk_at dksX1_treat_1 10 rfl rfl)
theorem dX1_treat_34 : decode cX1_treat 34 = .ok (.invokevirtual 385, 3) := dk_182 1 129 (dk_at dksX1_treat_1 12 rfl rfl)
theorem dX1_treat_37 : decode cX1_treat 37 = .ok (.invokevirtual 325, 3) := dk_182 1 69 (dk_at dksX1_treat_1 15 rfl rfl)
theorem dX1_treat_40 : decode cX1_treat 40 = .ok (.astore 5, 2) := dk_58 5 (dk_at dksX1_treat_1 18 rfl rfl)
theorem dX1_treat_42 : decode cX1_treat 42 = .ok (.aload_n 3, 1) := dk_45 (dk_at dksX1_treat_1 20 rfl rfl)
theorem dX1_treat_43 : decode cX1_treat 43 = .ok (.bipush 114, 2) := dk_16 114 (dk_at dksX1_treat_1 21 rfl rfl)
theorem dX1_treat_45 : decode cX1_treat 45 = .ok (.invokevirtual 186, 3) := dk_182 0 186 (dk_at dksX1_treat_2 0 rfl rfl)
theorem dX1_treat_48 : decode cX1_treat 48 = .ok (.ifCond .eq 21, 3) := dk_153 0 21 (dk_at dksX1_treat_2 3 rfl rfl)
theorem dX1_treat_51 : decode cX1_treat 51 = .ok (.aload_n 0, 1) := dk_42 (dk_at dksX1_treat_2 6 rfl rfl)
theorem dX1_treat_52 : decode cX1_treat 52 = .ok (.aload_n 3, 1) := dk_45 (dk_at dksX1_treat_2 7 rfl rfl)
theorem dX1_treat_53 : decode cX1_treat 53 = .ok (.iload_n 2, 1) := dk_28 (dk_at dksX1_treat_2 8 rfl rfl)
theorem dX1_treat_54 : decode cX1_treat 54 = .ok (.invokevirtual 388, 3) := dk_182 1 132 (dk_at dksX1_treat_2 9 rfl rfl)
theorem dX1_treat_57 : decode cX1_treat 57 = .ok (.ifCond .ne 12, 3) := dk_154 0 12 (dk_at dksX1_treat_2 12 rfl rfl)
theorem dX1_treat_60 : decode cX1_treat 60 = .ok (.aload 5, 2) := dk_25 5 (dk_at dksX1_treat_2 15 rfl rfl)
theorem dX1_treat_62 : decode cX1_treat 62 = .ok (.ifnull 7, 3) := dk_198 0 7 (dk_at dksX1_treat_2 17 rfl rfl)
theorem dX1_treat_65 : decode cX1_treat 65 = .ok (.iconst 1, 1) := dk_4 (dk_at dksX1_treat_2 20 rfl rfl)
theorem dX1_treat_66 : decode cX1_treat 66 = .ok (.goto 4, 3) := dk_167 0 4 (dk_at dksX1_treat_2 21 rfl rfl)
theorem dX1_treat_69 : decode cX1_treat 69 = .ok (.iconst 0, 1) := dk_3 (dk_at dksX1_treat_3 0 rfl rfl)
theorem dX1_treat_70 : decode cX1_treat 70 = .ok (.invokestatic 176, 3) := dk_184 0 176 (dk_at dksX1_treat_3 1 rfl rfl)
theorem dX1_treat_73 : decode cX1_treat 73 = .ok (.aload 5, 2) := dk_25 5 (dk_at dksX1_treat_3 4 rfl rfl)
theorem dX1_treat_75 : decode cX1_treat 75 = .ok (.dup, 1) := dk_89 (dk_at dksX1_treat_3 6 rfl rfl)
theorem dX1_treat_76 : decode cX1_treat 76 = .ok (.getfield 275, 3) := dk_180 1 19 (dk_at dksX1_treat_3 7 rfl rfl)
theorem dX1_treat_79 : decode cX1_treat 79 = .ok (.aload 4, 2) := dk_25 4 (dk_at dksX1_treat_3 10 rfl rfl)
theorem dX1_treat_81 : decode cX1_treat 81 = .ok (.invokevirtual 385, 3) := dk_182 1 129 (dk_at dksX1_treat_3 12 rfl rfl)
theorem dX1_treat_84 : decode cX1_treat 84 = .ok (.isub, 1) := dk_100 (dk_at dksX1_treat_3 15 rfl rfl)
theorem dX1_treat_85 : decode cX1_treat 85 = .ok (.putfield 275, 3) := dk_181 1 19 (dk_at dksX1_treat_3 16 rfl rfl)
theorem dX1_treat_88 : decode cX1_treat 88 = .ok (.aload_n 3, 1) := dk_45 (dk_at dksX1_treat_3 19 rfl rfl)
theorem dX1_treat_89 : decode cX1_treat 89 = .ok (.dup, 1) := dk_89 (dk_at dksX1_treat_3 20 rfl rfl)
theorem dX1_treat_90 : decode cX1_treat 90 = .ok (.getfield 379, 3) := dk_180 1 123 (dk_at dksX1_treat_3 21 rfl rfl)
theorem dX1_treat_93 : decode cX1_treat 93 = .ok (.iconst 1, 1) := dk_4 (dk_at dksX1_treat_4 0 rfl rfl)
theorem dX1_treat_94 : decode cX1_treat 94 = .ok (.iload_n 2, 1) := dk_28 (dk_at dksX1_treat_4 1 rfl rfl)
theorem dX1_treat_95 : decode cX1_treat 95 = .ok (.ishl, 1) := dk_120 (dk_at dksX1_treat_4 2 rfl rfl)
theorem dX1_treat_96 : decode cX1_treat 96 = .ok (.ior, 1) := dk_128 (dk_at dksX1_treat_4 3 rfl rfl)
theorem dX1_treat_97 : decode cX1_treat 97 = .ok (.putfield 379, 3) := dk_181 1 123 (dk_at dksX1_treat_4 4 rfl rfl)
theorem dX1_treat_100 : decode cX1_treat 100 = .ok (.aload_n 3, 1) := dk_45 (dk_at dksX1_treat_4 7 rfl rfl)
theorem dX1_treat_101 : decode cX1_treat 101 = .ok (.aload_n 0, 1) := dk_42 (dk_at dksX1_treat_4 8 rfl rfl)
theorem dX1_treat_102 : decode cX1_treat 102 = .ok (.getfield 80, 3) := dk_180 0 80 (dk_at dksX1_treat_4 9 rfl rfl)
theorem dX1_treat_105 : decode cX1_treat 105 = .ok (.aload 4, 2) := dk_25 4 (dk_at dksX1_treat_4 12 rfl rfl)
theorem dX1_treat_107 : decode cX1_treat 107 = .ok (.invokevirtual 392, 3) := dk_182 1 136 (dk_at dksX1_treat_4 14 rfl rfl)
theorem dX1_treat_110 : decode cX1_treat 110 = .ok (.iadd, 1) := dk_96 (dk_at dksX1_treat_4 17 rfl rfl)
theorem dX1_treat_111 : decode cX1_treat 111 = .ok (.iconst 1, 1) := dk_4 (dk_at dksX1_treat_4 18 rfl rfl)
theorem dX1_treat_112 : decode cX1_treat 112 = .ok (.isub, 1) := dk_100 (dk_at dksX1_treat_4 19 rfl rfl)
theorem dX1_treat_113 : decode cX1_treat 113 = .ok (.putfield 216, 3) := dk_181 0 216 (dk_at dksX1_treat_4 20 rfl rfl)
theorem dX1_treat_116 : decode cX1_treat 116 = .ok (.aload_n 3, 1) := dk_45 (dk_at dksX1_treat_4 23 rfl rfl)
theorem dX1_treat_117 : decode cX1_treat 117 = .ok (.bipush 119, 2) := dk_16 119 (dk_at dksX1_treat_5 0 rfl rfl)
theorem dX1_treat_119 : decode cX1_treat 119 = .ok (.iload_n 2, 1) := dk_28 (dk_at dksX1_treat_5 2 rfl rfl)
theorem dX1_treat_120 : decode cX1_treat 120 = .ok (.invokevirtual 329, 3) := dk_182 1 73 (dk_at dksX1_treat_5 3 rfl rfl)
theorem dX1_treat_123 : decode cX1_treat 123 = .ok (.aload_n 3, 1) := dk_45 (dk_at dksX1_treat_5 6 rfl rfl)
theorem dX1_treat_124 : decode cX1_treat 124 = .ok (.getfield 216, 3) := dk_180 0 216 (dk_at dksX1_treat_5 7 rfl rfl)
theorem dX1_treat_127 : decode cX1_treat 127 = .ok (.ireturn, 1) := dk_172 (dk_at dksX1_treat_5 10 rfl rfl)
abbrev cX1_isForbidden : ByteArray := prog_1_method_50_code
def yX1_isForbidden : MethodName := ⟨RX1, "isForbidden", "(LVaultyard$Thing;I)Z"⟩
def dkwX1_isForbidden_3 : List UInt8 := [167, 0, 4, 3, 128, 62, 132, 4, 1, 167, 255, 197, 29, 172]
abbrev dktX1_isForbidden_3 : List UInt8 := dkwX1_isForbidden_3 ++ []
def dkwX1_isForbidden_2 : List UInt8 := [180, 0, 25, 21, 4, 182, 0, 70, 192, 1, 120, 182, 1, 126, 28, 122, 4, 126, 4, 160, 0, 7, 4]
abbrev dktX1_isForbidden_2 : List UInt8 := dkwX1_isForbidden_2 ++ dktX1_isForbidden_3
def dkwX1_isForbidden_1 : List UInt8 := [180, 0, 25, 182, 0, 62, 162, 0, 53, 29, 43, 180, 1, 123, 21, 4, 122, 4, 126, 4, 160, 0, 30, 42]
abbrev dktX1_isForbidden_1 : List UInt8 := dkwX1_isForbidden_1 ++ dktX1_isForbidden_2
def dkwX1_isForbidden_0 : List UInt8 := [43, 180, 1, 123, 28, 122, 4, 126, 4, 160, 0, 7, 4, 167, 0, 4, 3, 62, 3, 54, 4, 21, 4, 42]
abbrev dktX1_isForbidden_0 : List UInt8 := dkwX1_isForbidden_0 ++ dktX1_isForbidden_1
theorem dksX1_isForbidden_0 : cX1_isForbidden.data.toList.drop 0 = dktX1_isForbidden_0 := by decide +kernel
theorem dksX1_isForbidden_1 : cX1_isForbidden.data.toList.drop 24 = dktX1_isForbidden_1 := dk_seg dksX1_isForbidden_0 24 rfl rfl
theorem dksX1_isForbidden_2 : cX1_isForbidden.data.toList.drop 48 = dktX1_isForbidden_2 := dk_seg dksX1_isForbidden_1 24 rfl rfl
theorem dksX1_isForbidden_3 : cX1_isForbidden.data.toList.drop 71 = dktX1_isForbidden_3 := dk_seg dksX1_isForbidden_2 23 rfl rfl
theorem dX1_isForbidden_0 : decode cX1_isForbidden 0 = .ok (.aload_n 1, 1) := dk_43 (dk_at dksX1_isForbidden_0 0 rfl rfl)
theorem dX1_isForbidden_1 : decode cX1_isForbidden 1 = .ok (.getfield 379, 3) := dk_180 1 123 (dk_at dksX1_isForbidden_0 1 rfl rfl)
theorem dX1_isForbidden_4 : decode cX1_isForbidden 4 = .ok (.iload_n 2, 1) := dk_28 (dk_at dksX1_isForbidden_0 4 rfl rfl)
theorem dX1_isForbidden_5 : decode cX1_isForbidden 5 = .ok (.ishr, 1) := dk_122 (dk_at dksX1_isForbidden_0 5 rfl rfl)
theorem dX1_isForbidden_6 : decode cX1_isForbidden 6 = .ok (.iconst 1, 1) := dk_4 (dk_at dksX1_isForbidden_0 6 rfl rfl)
theorem dX1_isForbidden_7 : decode cX1_isForbidden 7 = .ok (.iand, 1) := dk_126 (dk_at dksX1_isForbidden_0 7 rfl rfl)
theorem dX1_isForbidden_8 : decode cX1_isForbidden 8 = .ok (.iconst 1, 1) := dk_4 (dk_at dksX1_isForbidden_0 8 rfl rfl)
theorem dX1_isForbidden_9 : decode cX1_isForbidden 9 = .ok (.if_icmp .ne 7, 3) := dk_160 0 7 (dk_at dksX1_isForbidden_0 9 rfl rfl)
theorem dX1_isForbidden_12 : decode cX1_isForbidden 12 = .ok (.iconst 1, 1) := dk_4 (dk_at dksX1_isForbidden_0 12 rfl rfl)
theorem dX1_isForbidden_13 : decode cX1_isForbidden 13 = .ok (.goto 4, 3) := dk_167 0 4 (dk_at dksX1_isForbidden_0 13 rfl rfl)
theorem dX1_isForbidden_16 : decode cX1_isForbidden 16 = .ok (.iconst 0, 1) := dk_3 (dk_at dksX1_isForbidden_0 16 rfl rfl)
theorem dX1_isForbidden_17 : decode cX1_isForbidden 17 = .ok (.istore_n 3, 1) := dk_62 (dk_at dksX1_isForbidden_0 17 rfl rfl)
theorem dX1_isForbidden_18 : decode cX1_isForbidden 18 = .ok (.iconst 0, 1) := dk_3 (dk_at dksX1_isForbidden_0 18 rfl rfl)
theorem dX1_isForbidden_19 : decode cX1_isForbidden 19 = .ok (.istore 4, 2) := dk_54 4 (dk_at dksX1_isForbidden_0 19 rfl rfl)
theorem dX1_isForbidden_21 : decode cX1_isForbidden 21 = .ok (.iload 4, 2) := dk_21 4 (dk_at dksX1_isForbidden_0 21 rfl rfl)
theorem dX1_isForbidden_23 : decode cX1_isForbidden 23 = .ok (.aload_n 0, 1) := dk_42 (dk_at dksX1_isForbidden_0 23 rfl rfl)
theorem dX1_isForbidden_24 : decode cX1_isForbidden 24 = .ok (.getfield 25, 3) := dk_180 0 25 (dk_at dksX1_isForbidden_1 0 rfl rfl)
theorem dX1_isForbidden_27 : decode cX1_isForbidden 27 = .ok (.invokevirtual 62, 3) := dk_182 0 62 (dk_at dksX1_isForbidden_1 3 rfl rfl)
theorem dX1_isForbidden_30 : decode cX1_isForbidden 30 = .ok (.if_icmp .ge 53, 3) := dk_162 0 53 (dk_at dksX1_isForbidden_1 6 rfl rfl)
theorem dX1_isForbidden_33 : decode cX1_isForbidden 33 = .ok (.iload_n 3, 1) := dk_29 (dk_at dksX1_isForbidden_1 9 rfl rfl)
theorem dX1_isForbidden_34 : decode cX1_isForbidden 34 = .ok (.aload_n 1, 1) := dk_43 (dk_at dksX1_isForbidden_1 10 rfl rfl)
theorem dX1_isForbidden_35 : decode cX1_isForbidden 35 = .ok (.getfield 379, 3) := dk_180 1 123 (dk_at dksX1_isForbidden_1 11 rfl rfl)
theorem dX1_isForbidden_38 : decode cX1_isForbidden 38 = .ok (.iload 4, 2) := dk_21 4 (dk_at dksX1_isForbidden_1 14 rfl rfl)
theorem dX1_isForbidden_40 : decode cX1_isForbidden 40 = .ok (.ishr, 1) := dk_122 (dk_at dksX1_isForbidden_1 16 rfl rfl)
theorem dX1_isForbidden_41 : decode cX1_isForbidden 41 = .ok (.iconst 1, 1) := dk_4 (dk_at dksX1_isForbidden_1 17 rfl rfl)
theorem dX1_isForbidden_42 : decode cX1_isForbidden 42 = .ok (.iand, 1) := dk_126 (dk_at dksX1_isForbidden_1 18 rfl rfl)
theorem dX1_isForbidden_43 : decode cX1_isForbidden 43 = .ok (.iconst 1, 1) := dk_4 (dk_at dksX1_isForbidden_1 19 rfl rfl)
theorem dX1_isForbidden_44 : decode cX1_isForbidden 44 = .ok (.if_icmp .ne 30, 3) := dk_160 0 30 (dk_at dksX1_isForbidden_1 20 rfl rfl)
theorem dX1_isForbidden_47 : decode cX1_isForbidden 47 = .ok (.aload_n 0, 1) := dk_42 (dk_at dksX1_isForbidden_1 23 rfl rfl)
theorem dX1_isForbidden_48 : decode cX1_isForbidden 48 = .ok (.getfield 25, 3) := dk_180 0 25 (dk_at dksX1_isForbidden_2 0 rfl rfl)
theorem dX1_isForbidden_51 : decode cX1_isForbidden 51 = .ok (.iload 4, 2) := dk_21 4 (dk_at dksX1_isForbidden_2 3 rfl rfl)
theorem dX1_isForbidden_53 : decode cX1_isForbidden 53 = .ok (.invokevirtual 70, 3) := dk_182 0 70 (dk_at dksX1_isForbidden_2 5 rfl rfl)
theorem dX1_isForbidden_56 : decode cX1_isForbidden 56 = .ok (.checkcast 376, 3) := dk_192 1 120 (dk_at dksX1_isForbidden_2 8 rfl rfl)
theorem dX1_isForbidden_59 : decode cX1_isForbidden 59 = .ok (.invokevirtual 382, 3) := dk_182 1 126 (dk_at dksX1_isForbidden_2 11 rfl rfl)
theorem dX1_isForbidden_62 : decode cX1_isForbidden 62 = .ok (.iload_n 2, 1) := dk_28 (dk_at dksX1_isForbidden_2 14 rfl rfl)
theorem dX1_isForbidden_63 : decode cX1_isForbidden 63 = .ok (.ishr, 1) := dk_122 (dk_at dksX1_isForbidden_2 15 rfl rfl)
theorem dX1_isForbidden_64 : decode cX1_isForbidden 64 = .ok (.iconst 1, 1) := dk_4 (dk_at dksX1_isForbidden_2 16 rfl rfl)
theorem dX1_isForbidden_65 : decode cX1_isForbidden 65 = .ok (.iand, 1) := dk_126 (dk_at dksX1_isForbidden_2 17 rfl rfl)
theorem dX1_isForbidden_66 : decode cX1_isForbidden 66 = .ok (.iconst 1, 1) := dk_4 (dk_at dksX1_isForbidden_2 18 rfl rfl)
theorem dX1_isForbidden_67 : decode cX1_isForbidden 67 = .ok (.if_icmp .ne 7, 3) := dk_160 0 7 (dk_at dksX1_isForbidden_2 19 rfl rfl)
theorem dX1_isForbidden_70 : decode cX1_isForbidden 70 = .ok (.iconst 1, 1) := dk_4 (dk_at dksX1_isForbidden_2 22 rfl rfl)
theorem dX1_isForbidden_71 : decode cX1_isForbidden 71 = .ok (.goto 4, 3) := dk_167 0 4 (dk_at dksX1_isForbidden_3 0 rfl rfl)
theorem dX1_isForbidden_74 : decode cX1_isForbidden 74 = .ok (.iconst 0, 1) := dk_3 (dk_at dksX1_isForbidden_3 3 rfl rfl)
theorem dX1_isForbidden_75 : decode cX1_isForbidden 75 = .ok (.ior, 1) := dk_128 (dk_at dksX1_isForbidden_3 4 rfl rfl)
theorem dX1_isForbidden_76 : decode cX1_isForbidden 76 = .ok (.istore_n 3, 1) := dk_62 (dk_at dksX1_isForbidden_3 5 rfl rfl)
theorem dX1_isForbidden_77 : decode cX1_isForbidden 77 = .ok (.iinc 4 1, 3) := dk_132 4 1 (dk_at dksX1_isForbidden_3 6 rfl rfl)
theorem dX1_isForbidden_80 : decode cX1_isForbidden 80 = .ok (.goto (-59), 3) := dk_167 255 197 (dk_at dksX1_isForbidden_3 9 rfl rfl)
theorem dX1_isForbidden_83 : decode cX1_isForbidden 83 = .ok (.iload_n 3, 1) := dk_29 (dk_at dksX1_isForbidden_3 12 rfl rfl)
theorem dX1_isForbidden_84 : decode cX1_isForbidden 84 = .ok (.ireturn, 1) := dk_172 (dk_at dksX1_isForbidden_3 13 rfl rfl)
abbrev cX1_kept : ByteArray := prog_1_method_52_code
def yX1_kept : MethodName := ⟨RX1, "kept", "(I)I"⟩
def dkwX1_kept_0 : List UInt8 := [42, 27, 182, 0, 182, 182, 1, 138, 172]
abbrev dktX1_kept_0 : List UInt8 := dkwX1_kept_0 ++ []
theorem dksX1_kept_0 : cX1_kept.data.toList.drop 0 = dktX1_kept_0 := by decide +kernel
theorem dX1_kept_0 : decode cX1_kept 0 = .ok (.aload_n 0, 1) := dk_42 (dk_at dksX1_kept_0 0 rfl rfl)
theorem dX1_kept_1 : decode cX1_kept 1 = .ok (.iload_n 1, 1) := dk_27 (dk_at dksX1_kept_0 1 rfl rfl)
theorem dX1_kept_2 : decode cX1_kept 2 = .ok (.invokevirtual 182, 3) := dk_182 0 182 (dk_at dksX1_kept_0 2 rfl rfl)
theorem dX1_kept_5 : decode cX1_kept 5 = .ok (.invokevirtual 394, 3) := dk_182 1 138 (dk_at dksX1_kept_0 5 rfl rfl)
theorem dX1_kept_8 : decode cX1_kept 8 = .ok (.ireturn, 1) := dk_172 (dk_at dksX1_kept_0 8 rfl rfl)
abbrev cX1_box : ByteArray := prog_1_method_53_code
def yX1_box : MethodName := ⟨RX1, "box", "(I)I"⟩
def dkwX1_box_2 : List UInt8 := [183, 1, 141, 182, 0, 131, 87, 42, 180, 0, 28, 182, 0, 62, 4, 100, 172]
abbrev dktX1_box_2 : List UInt8 := dkwX1_box_2 ++ []
def dkwX1_box_1 : List UInt8 := [167, 0, 4, 3, 184, 0, 143, 42, 180, 0, 28, 187, 0, 78, 89, 42, 180, 0, 28, 182, 0, 62, 27]
abbrev dktX1_box_1 : List UInt8 := dkwX1_box_1 ++ dktX1_box_2
def dkwX1_box_0 : List UInt8 := [27, 4, 16, 60, 184, 0, 139, 184, 0, 135, 42, 180, 0, 28, 182, 0, 62, 16, 6, 162, 0, 7, 4]
abbrev dktX1_box_0 : List UInt8 := dkwX1_box_0 ++ dktX1_box_1
theorem dksX1_box_0 : cX1_box.data.toList.drop 0 = dktX1_box_0 := by decide +kernel
theorem dksX1_box_1 : cX1_box.data.toList.drop 23 = dktX1_box_1 := dk_seg dksX1_box_0 23 rfl rfl
theorem dksX1_box_2 : cX1_box.data.toList.drop 46 = dktX1_box_2 := dk_seg dksX1_box_1 23 rfl rfl
theorem dX1_box_0 : decode cX1_box 0 = .ok (.iload_n 1, 1) := dk_27 (dk_at dksX1_box_0 0 rfl rfl)
theorem dX1_box_1 : decode cX1_box 1 = .ok (.iconst 1, 1) := dk_4 (dk_at dksX1_box_0 1 rfl rfl)
theorem dX1_box_2 : decode cX1_box 2 = .ok (.bipush 60, 2) := dk_16 60 (dk_at dksX1_box_0 2 rfl rfl)
theorem dX1_box_4 : decode cX1_box 4 = .ok (.invokestatic 139, 3) := dk_184 0 139 (dk_at dksX1_box_0 4 rfl rfl)
theorem dX1_box_7 : decode cX1_box 7 = .ok (.invokestatic 135, 3) := dk_184 0 135 (dk_at dksX1_box_0 7 rfl rfl)
theorem dX1_box_10 : decode cX1_box 10 = .ok (.aload_n 0, 1) := dk_42 (dk_at dksX1_box_0 10 rfl rfl)
theorem dX1_box_11 : decode cX1_box 11 = .ok (.getfield 28, 3) := dk_180 0 28 (dk_at dksX1_box_0 11 rfl rfl)
theorem dX1_box_14 : decode cX1_box 14 = .ok (.invokevirtual 62, 3) := dk_182 0 62 (dk_at dksX1_box_0 14 rfl rfl)
theorem dX1_box_17 : decode cX1_box 17 = .ok (.bipush 6, 2) := dk_16 6 (dk_at dksX1_box_0 17 rfl rfl)
theorem dX1_box_19 : decode cX1_box 19 = .ok (.if_icmp .ge 7, 3) := dk_162 0 7 (dk_at dksX1_box_0 19 rfl rfl)
theorem dX1_box_22 : decode cX1_box 22 = .ok (.iconst 1, 1) := dk_4 (dk_at dksX1_box_0 22 rfl rfl)
theorem dX1_box_23 : decode cX1_box 23 = .ok (.goto 4, 3) := dk_167 0 4 (dk_at dksX1_box_1 0 rfl rfl)
theorem dX1_box_26 : decode cX1_box 26 = .ok (.iconst 0, 1) := dk_3 (dk_at dksX1_box_1 3 rfl rfl)
theorem dX1_box_27 : decode cX1_box 27 = .ok (.invokestatic 143, 3) := dk_184 0 143 (dk_at dksX1_box_1 4 rfl rfl)
theorem dX1_box_30 : decode cX1_box 30 = .ok (.aload_n 0, 1) := dk_42 (dk_at dksX1_box_1 7 rfl rfl)
theorem dX1_box_31 : decode cX1_box 31 = .ok (.getfield 28, 3) := dk_180 0 28 (dk_at dksX1_box_1 8 rfl rfl)
theorem dX1_box_34 : decode cX1_box 34 = .ok (.new 78, 3) := dk_187 0 78 (dk_at dksX1_box_1 11 rfl rfl)
theorem dX1_box_37 : decode cX1_box 37 = .ok (.dup, 1) := dk_89 (dk_at dksX1_box_1 14 rfl rfl)
theorem dX1_box_38 : decode cX1_box 38 = .ok (.aload_n 0, 1) := dk_42 (dk_at dksX1_box_1 15 rfl rfl)
theorem dX1_box_39 : decode cX1_box 39 = .ok (.getfield 28, 3) := dk_180 0 28 (dk_at dksX1_box_1 16 rfl rfl)
theorem dX1_box_42 : decode cX1_box 42 = .ok (.invokevirtual 62, 3) := dk_182 0 62 (dk_at dksX1_box_1 19 rfl rfl)
theorem dX1_box_45 : decode cX1_box 45 = .ok (.iload_n 1, 1) := dk_27 (dk_at dksX1_box_1 22 rfl rfl)
theorem dX1_box_46 : decode cX1_box 46 = .ok (.invokespecial 397, 3) := dk_183 1 141 (dk_at dksX1_box_2 0 rfl rfl)
theorem dX1_box_49 : decode cX1_box 49 = .ok (.invokevirtual 131, 3) := dk_182 0 131 (dk_at dksX1_box_2 3 rfl rfl)
theorem dX1_box_52 : decode cX1_box 52 = .ok (.pop, 1) := dk_87 (dk_at dksX1_box_2 6 rfl rfl)
theorem dX1_box_53 : decode cX1_box 53 = .ok (.aload_n 0, 1) := dk_42 (dk_at dksX1_box_2 7 rfl rfl)
theorem dX1_box_54 : decode cX1_box 54 = .ok (.getfield 28, 3) := dk_180 0 28 (dk_at dksX1_box_2 8 rfl rfl)
theorem dX1_box_57 : decode cX1_box 57 = .ok (.invokevirtual 62, 3) := dk_182 0 62 (dk_at dksX1_box_2 11 rfl rfl)
theorem dX1_box_60 : decode cX1_box 60 = .ok (.iconst 1, 1) := dk_4 (dk_at dksX1_box_2 14 rfl rfl)
theorem dX1_box_61 : decode cX1_box 61 = .ok (.isub, 1) := dk_100 (dk_at dksX1_box_2 15 rfl rfl)
theorem dX1_box_62 : decode cX1_box 62 = .ok (.ireturn, 1) := dk_172 (dk_at dksX1_box_2 16 rfl rfl)
abbrev cX1_pack : ByteArray := prog_1_method_54_code
def yX1_pack : MethodName := ⟨RX1, "pack", "(II)I"⟩
def dkwX1_pack_4 : List UInt8 := [182, 1, 147, 100, 172]
abbrev dktX1_pack_4 : List UInt8 := dkwX1_pack_4 ++ []
def dkwX1_pack_3 : List UInt8 := [181, 0, 119, 45, 16, 98, 25, 4, 180, 1, 153, 182, 1, 73, 25, 4, 180, 1, 151, 42, 25, 4]
abbrev dktX1_pack_3 : List UInt8 := dkwX1_pack_3 ++ dktX1_pack_4
def dkwX1_pack_2 : List UInt8 := [184, 0, 176, 25, 4, 89, 180, 1, 152, 45, 180, 0, 193, 180, 0, 168, 128, 181, 1, 152, 45, 25, 4]
abbrev dktX1_pack_2 : List UInt8 := dkwX1_pack_2 ++ dktX1_pack_3
def dkwX1_pack_1 : List UInt8 := [25, 4, 182, 1, 147, 45, 180, 0, 106, 96, 25, 4, 180, 1, 151, 163, 0, 7, 4, 167, 0, 4, 3]
abbrev dktX1_pack_1 : List UInt8 := dkwX1_pack_1 ++ dktX1_pack_2
def dkwX1_pack_0 : List UInt8 := [42, 27, 182, 0, 182, 78, 42, 28, 182, 1, 143, 58, 4, 45, 16, 114, 182, 0, 186, 153, 0, 26, 42]
abbrev dktX1_pack_0 : List UInt8 := dkwX1_pack_0 ++ dktX1_pack_1
theorem dksX1_pack_0 : cX1_pack.data.toList.drop 0 = dktX1_pack_0 := by decide +kernel
theorem dksX1_pack_1 : cX1_pack.data.toList.drop 23 = dktX1_pack_1 := dk_seg dksX1_pack_0 23 rfl rfl
theorem dksX1_pack_2 : cX1_pack.data.toList.drop 46 = dktX1_pack_2 := dk_seg dksX1_pack_1 23 rfl rfl
theorem dksX1_pack_3 : cX1_pack.data.toList.drop 69 = dktX1_pack_3 := dk_seg dksX1_pack_2 23 rfl rfl
theorem dksX1_pack_4 : cX1_pack.data.toList.drop 91 = dktX1_pack_4 := dk_seg dksX1_pack_3 22 rfl rfl
theorem dX1_pack_0 : decode cX1_pack 0 = .ok (.aload_n 0, 1) := dk_42 (dk_at dksX1_pack_0 0 rfl rfl)
theorem dX1_pack_1 : decode cX1_pack 1 = .ok (.iload_n 1, 1) := dk_27 (dk_at dksX1_pack_0 1 rfl rfl)
theorem dX1_pack_2 : decode cX1_pack 2 = .ok (.invokevirtual 182, 3) := dk_182 0 182 (dk_at dksX1_pack_0 2 rfl rfl)
theorem dX1_pack_5 : decode cX1_pack 5 = .ok (.astore_n 3, 1) := dk_78 (dk_at dksX1_pack_0 5 rfl rfl)
theorem dX1_pack_6 : decode cX1_pack 6 = .ok (.aload_n 0, 1) := dk_42 (dk_at dksX1_pack_0 6 rfl rfl)
theorem dX1_pack_7 : decode cX1_pack 7 = .ok (.iload_n 2, 1) := dk_28 (dk_at dksX1_pack_0 7 rfl rfl)
theorem dX1_pack_8 : decode cX1_pack 8 = .ok (.invokevirtual 399, 3) := dk_182 1 143 (dk_at dksX1_pack_0 8 rfl rfl)
theorem dX1_pack_11 : decode cX1_pack 11 = .ok (.astore 4, 2) := dk_58 4 (dk_at dksX1_pack_0 11 rfl rfl)
theorem dX1_pack_13 : decode cX1_pack 13 = .ok (.aload_n 3, 1) := dk_45 (dk_at dksX1_pack_0 13 rfl rfl)
theorem dX1_pack_14 : decode cX1_pack 14 = .ok (.bipush 114, 2) := dk_16 114 (dk_at dksX1_pack_0 14 rfl rfl)
theorem dX1_pack_16 : decode cX1_pack 16 = .ok (.invokevirtual 186, 3) := dk_182 0 186 (dk_at dksX1_pack_0 16 rfl rfl)
theorem dX1_pack_19 : decode cX1_pack 19 = .ok (.ifCond .eq 26, 3) := dk_153 0 26 (dk_at dksX1_pack_0 19 rfl rfl)
theorem dX1_pack_22 : decode cX1_pack 22 = .ok (.aload_n 0, 1) := dk_42 (dk_at dksX1_pack_0 22 rfl rfl)
theorem dX1_pack_23 : decode cX1_pack 23 = .ok (.aload 4, 2) := dk_25 4 (dk_at dksX1_pack_1 0 rfl rfl)
theorem dX1_pack_25 : decode cX1_pack 25 = .ok (.invokevirtual 403, 3) := dk_182 1 147 (dk_at dksX1_pack_1 2 rfl rfl)
theorem dX1_pack_28 : decode cX1_pack 28 = .ok (.aload_n 3, 1) := dk_45 (dk_at dksX1_pack_1 5 rfl rfl)
theorem dX1_pack_29 : decode cX1_pack 29 = .ok (.getfield 106, 3) := dk_180 0 106 (dk_at dksX1_pack_1 6 rfl rfl)
theorem dX1_pack_32 : decode cX1_pack 32 = .ok (.iadd, 1) := dk_96 (dk_at dksX1_pack_1 9 rfl rfl)
theorem dX1_pack_33 : decode cX1_pack 33 = .ok (.aload 4, 2) := dk_25 4 (dk_at dksX1_pack_1 10 rfl rfl)
theorem dX1_pack_35 : decode cX1_pack 35 = .ok (.getfield 407, 3) := dk_180 1 151 (dk_at dksX1_pack_1 12 rfl rfl)
theorem dX1_pack_38 : decode cX1_pack 38 = .ok (.if_icmp .gt 7, 3) := dk_163 0 7 (dk_at dksX1_pack_1 15 rfl rfl)
theorem dX1_pack_41 : decode cX1_pack 41 = .ok (.iconst 1, 1) := dk_4 (dk_at dksX1_pack_1 18 rfl rfl)
theorem dX1_pack_42 : decode cX1_pack 42 = .ok (.goto 4, 3) := dk_167 0 4 (dk_at dksX1_pack_1 19 rfl rfl)
theorem dX1_pack_45 : decode cX1_pack 45 = .ok (.iconst 0, 1) := dk_3 (dk_at dksX1_pack_1 22 rfl rfl)
theorem dX1_pack_46 : decode cX1_pack 46 = .ok (.invokestatic 176, 3) := dk_184 0 176 (dk_at dksX1_pack_2 0 rfl rfl)
theorem dX1_pack_49 : decode cX1_pack 49 = .ok (.aload 4, 2) := dk_25 4 (dk_at dksX1_pack_2 3 rfl rfl)
theorem dX1_pack_51 : decode cX1_pack 51 = .ok (.dup, 1) := dk_89 (dk_at dksX1_pack_2 5 rfl rfl)
theorem dX1_pack_52 : decode cX1_pack 52 = .ok (.getfield 408, 3) := dk_180 1 152 (dk_at dksX1_pack_2 6 rfl rfl)
theorem dX1_pack_55 : decode cX1_pack 55 = .ok (.aload_n 3, 1) := dk_45 (dk_at dksX1_pack_2 9 rfl rfl)
theorem dX1_pack_56 : decode cX1_pack 56 = .ok (.getfield 193, 3) := dk_180 0 193 (dk_at dksX1_pack_2 10 rfl rfl)
theorem dX1_pack_59 : decode cX1_pack 59 = .ok (.getfield 168, 3) := dk_180 0 168 (dk_at dksX1_pack_2 13 rfl rfl)
theorem dX1_pack_62 : decode cX1_pack 62 = .ok (.ior, 1) := dk_128 (dk_at dksX1_pack_2 16 rfl rfl)
theorem dX1_pack_63 : decode cX1_pack 63 = .ok (.putfield 408, 3) := dk_181 1 152 (dk_at dksX1_pack_2 17 rfl rfl)
theorem dX1_pack_66 : decode cX1_pack 66 = .ok (.aload_n 3, 1) := dk_45 (dk_at dksX1_pack_2 20 rfl rfl)
theorem dX1_pack_67 : decode cX1_pack 67 = .ok (.aload 4, 2) := dk_25 4 (dk_at dksX1_pack_2 21 rfl rfl)
theorem dX1_pack_69 : decode cX1_pack 69 = .ok (.putfield 119, 3) := dk_181 0 119 (dk_at dksX1_pack_3 0 rfl rfl)
theorem dX1_pack_72 : decode cX1_pack 72 = .ok (.aload_n 3, 1) := dk_45 (dk_at dksX1_pack_3 3 rfl rfl)
theorem dX1_pack_73 : decode cX1_pack 73 = .ok (.bipush 98, 2) := dk_16 98 (dk_at dksX1_pack_3 4 rfl rfl)
theorem dX1_pack_75 : decode cX1_pack 75 = .ok (.aload 4, 2) := dk_25 4 (dk_at dksX1_pack_3 6 rfl rfl)
theorem dX1_pack_77 : decode cX1_pack 77 = .ok (.getfield 409, 3) := dk_180 1 153 (dk_at dksX1_pack_3 8 rfl rfl)
theorem dX1_pack_80 : decode cX1_pack 80 = .ok (.invokevirtual 329, 3) := dk_182 1 73 (dk_at dksX1_pack_3 11 rfl rfl)
theorem dX1_pack_83 : decode cX1_pack 83 = .ok (.aload 4, 2) := dk_25 4 (dk_at dksX1_pack_3 14 rfl rfl)
theorem dX1_pack_85 : decode cX1_pack 85 = .ok (.getfield 407, 3) := dk_180 1 151 (dk_at dksX1_pack_3 16 rfl rfl)
theorem dX1_pack_88 : decode cX1_pack 88 = .ok (.aload_n 0, 1) := dk_42 (dk_at dksX1_pack_3 19 rfl rfl)
theorem dX1_pack_89 : decode cX1_pack 89 = .ok (.aload 4, 2) := dk_25 4 (dk_at dksX1_pack_3 20 rfl rfl)
theorem dX1_pack_91 : decode cX1_pack 91 = .ok (.invokevirtual 403, 3) := dk_182 1 147 (dk_at dksX1_pack_4 0 rfl rfl)
theorem dX1_pack_94 : decode cX1_pack 94 = .ok (.isub, 1) := dk_100 (dk_at dksX1_pack_4 3 rfl rfl)
theorem dX1_pack_95 : decode cX1_pack 95 = .ok (.ireturn, 1) := dk_172 (dk_at dksX1_pack_4 4 rfl rfl)
abbrev cX1_boxAt : ByteArray := prog_1_method_10_code
def yX1_boxAt : MethodName := ⟨RX1, "boxAt", "(I)LVaultyard$Box;"⟩
def dkwX1_boxAt_0 : List UInt8 := [27, 42, 180, 0, 28, 182, 0, 62, 184, 0, 66, 42, 180, 0, 28, 27, 182, 0, 70, 192, 0, 78, 176]
abbrev dktX1_boxAt_0 : List UInt8 := dkwX1_boxAt_0 ++ []
theorem dksX1_boxAt_0 : cX1_boxAt.data.toList.drop 0 = dktX1_boxAt_0 := by decide +kernel
theorem dX1_boxAt_0 : decode cX1_boxAt 0 = .ok (.iload_n 1, 1) := dk_27 (dk_at dksX1_boxAt_0 0 rfl rfl)
theorem dX1_boxAt_1 : decode cX1_boxAt 1 = .ok (.aload_n 0, 1) := dk_42 (dk_at dksX1_boxAt_0 1 rfl rfl)
theorem dX1_boxAt_2 : decode cX1_boxAt 2 = .ok (.getfield 28, 3) := dk_180 0 28 (dk_at dksX1_boxAt_0 2 rfl rfl)
theorem dX1_boxAt_5 : decode cX1_boxAt 5 = .ok (.invokevirtual 62, 3) := dk_182 0 62 (dk_at dksX1_boxAt_0 5 rfl rfl)
theorem dX1_boxAt_8 : decode cX1_boxAt 8 = .ok (.invokestatic 66, 3) := dk_184 0 66 (dk_at dksX1_boxAt_0 8 rfl rfl)
theorem dX1_boxAt_11 : decode cX1_boxAt 11 = .ok (.aload_n 0, 1) := dk_42 (dk_at dksX1_boxAt_0 11 rfl rfl)
theorem dX1_boxAt_12 : decode cX1_boxAt 12 = .ok (.getfield 28, 3) := dk_180 0 28 (dk_at dksX1_boxAt_0 12 rfl rfl)
theorem dX1_boxAt_15 : decode cX1_boxAt 15 = .ok (.iload_n 1, 1) := dk_27 (dk_at dksX1_boxAt_0 15 rfl rfl)
theorem dX1_boxAt_16 : decode cX1_boxAt 16 = .ok (.invokevirtual 70, 3) := dk_182 0 70 (dk_at dksX1_boxAt_0 16 rfl rfl)
theorem dX1_boxAt_19 : decode cX1_boxAt 19 = .ok (.checkcast 78, 3) := dk_192 0 78 (dk_at dksX1_boxAt_0 19 rfl rfl)
theorem dX1_boxAt_22 : decode cX1_boxAt 22 = .ok (.areturn, 1) := dk_176 (dk_at dksX1_boxAt_0 22 rfl rfl)
abbrev cX1_pests : ByteArray := prog_1_method_55_code
def yX1_pests : MethodName := ⟨RX1, "pests", "(I)I"⟩
def dkwX1_pests_0 : List UInt8 := [42, 27, 182, 1, 143, 180, 1, 152, 172]
abbrev dktX1_pests_0 : List UInt8 := dkwX1_pests_0 ++ []
theorem dksX1_pests_0 : cX1_pests.data.toList.drop 0 = dktX1_pests_0 := by decide +kernel
theorem dX1_pests_0 : decode cX1_pests 0 = .ok (.aload_n 0, 1) := dk_42 (dk_at dksX1_pests_0 0 rfl rfl)
theorem dX1_pests_1 : decode cX1_pests 1 = .ok (.iload_n 1, 1) := dk_27 (dk_at dksX1_pests_0 1 rfl rfl)
theorem dX1_pests_2 : decode cX1_pests 2 = .ok (.invokevirtual 399, 3) := dk_182 1 143 (dk_at dksX1_pests_0 2 rfl rfl)
theorem dX1_pests_5 : decode cX1_pests 5 = .ok (.getfield 408, 3) := dk_180 1 152 (dk_at dksX1_pests_0 5 rfl rfl)
theorem dX1_pests_8 : decode cX1_pests 8 = .ok (.ireturn, 1) := dk_172 (dk_at dksX1_pests_0 8 rfl rfl)
abbrev cX1_boxes : ByteArray := prog_1_method_57_code
def yX1_boxes : MethodName := ⟨RX1, "boxes", "(II)I"⟩
def dkwX1_boxes_4 : List UInt8 := [184, 0, 41, 45, 3, 25, 6, 184, 1, 156, 153, 0, 6, 21, 5, 172, 132, 5, 1, 167, 255, 228]
abbrev dktX1_boxes_4 : List UInt8 := dkwX1_boxes_4 ++ []
def dkwX1_boxes_3 : List UInt8 := [154, 0, 7, 4, 167, 0, 4, 3, 184, 0, 205, 3, 54, 5, 21, 5, 188, 10, 58, 6, 25, 6, 28]
abbrev dktX1_boxes_3 : List UInt8 := dkwX1_boxes_3 ++ dktX1_boxes_4
def dkwX1_boxes_2 : List UInt8 := [21, 4, 25, 6, 180, 0, 106, 28, 164, 0, 7, 4, 167, 0, 4, 3, 128, 54, 4, 167, 255, 215, 21, 4]
abbrev dktX1_boxes_2 : List UInt8 := dkwX1_boxes_2 ++ dktX1_boxes_3
def dkwX1_boxes_1 : List UInt8 := [58, 5, 25, 5, 185, 0, 88, 1, 0, 153, 0, 37, 25, 5, 185, 0, 94, 1, 0, 192, 0, 76, 58, 6]
abbrev dktX1_boxes_1 : List UInt8 := dkwX1_boxes_1 ++ dktX1_boxes_2
def dkwX1_boxes_0 : List UInt8 := [42, 27, 182, 1, 160, 78, 28, 4, 16, 60, 184, 0, 139, 184, 0, 135, 3, 54, 4, 45, 182, 0, 84]
abbrev dktX1_boxes_0 : List UInt8 := dkwX1_boxes_0 ++ dktX1_boxes_1
theorem dksX1_boxes_0 : cX1_boxes.data.toList.drop 0 = dktX1_boxes_0 := by decide +kernel
theorem dksX1_boxes_1 : cX1_boxes.data.toList.drop 23 = dktX1_boxes_1 := dk_seg dksX1_boxes_0 23 rfl rfl
theorem dksX1_boxes_2 : cX1_boxes.data.toList.drop 47 = dktX1_boxes_2 := dk_seg dksX1_boxes_1 24 rfl rfl
theorem dksX1_boxes_3 : cX1_boxes.data.toList.drop 71 = dktX1_boxes_3 := dk_seg dksX1_boxes_2 24 rfl rfl
theorem dksX1_boxes_4 : cX1_boxes.data.toList.drop 94 = dktX1_boxes_4 := dk_seg dksX1_boxes_3 23 rfl rfl
theorem dX1_boxes_0 : decode cX1_boxes 0 = .ok (.aload_n 0, 1) := dk_42 (dk_at dksX1_boxes_0 0 rfl rfl)
theorem dX1_boxes_1 : decode cX1_boxes 1 = .ok (.iload_n 1, 1) := dk_27 (dk_at dksX1_boxes_0 1 rfl rfl)
theorem dX1_boxes_2 : decode cX1_boxes 2 = .ok (.invokevirtual 416, 3) := dk_182 1 160 (dk_at dksX1_boxes_0 2 rfl rfl)
theorem dX1_boxes_5 : decode cX1_boxes 5 = .ok (.astore_n 3, 1) := dk_78 (dk_at dksX1_boxes_0 5 rfl rfl)
theorem dX1_boxes_6 : decode cX1_boxes 6 = .ok (.iload_n 2, 1) := dk_28 (dk_at dksX1_boxes_0 6 rfl rfl)
theorem dX1_boxes_7 : decode cX1_boxes 7 = .ok (.iconst 1, 1) := dk_4 (dk_at dksX1_boxes_0 7 rfl rfl)
theorem dX1_boxes_8 : decode cX1_boxes 8 = .ok (.bipush 60, 2) := dk_16 60 (dk_at dksX1_boxes_0 8 rfl rfl)
theorem dX1_boxes_10 : decode cX1_boxes 10 = .ok (.invokestatic 139, 3) := dk_184 0 139 (dk_at dksX1_boxes_0 10 rfl rfl)
theorem dX1_boxes_13 : decode cX1_boxes 13 = .ok (.invokestatic 135, 3) := dk_184 0 135 (dk_at dksX1_boxes_0 13 rfl rfl)
theorem dX1_boxes_16 : decode cX1_boxes 16 = .ok (.iconst 0, 1) := dk_3 (dk_at dksX1_boxes_0 16 rfl rfl)
theorem dX1_boxes_17 : decode cX1_boxes 17 = .ok (.istore 4, 2) := dk_54 4 (dk_at dksX1_boxes_0 17 rfl rfl)
theorem dX1_boxes_19 : decode cX1_boxes 19 = .ok (.aload_n 3, 1) := dk_45 (dk_at dksX1_boxes_0 19 rfl rfl)
theorem dX1_boxes_20 : decode cX1_boxes 20 = .ok (.invokevirtual 84, 3) := dk_182 0 84 (dk_at dksX1_boxes_0 20 rfl rfl)
theorem dX1_boxes_23 : decode cX1_boxes 23 = .ok (.astore 5, 2) := dk_58 5 (dk_at dksX1_boxes_1 0 rfl rfl)
theorem dX1_boxes_25 : decode cX1_boxes 25 = .ok (.aload 5, 2) := dk_25 5 (dk_at dksX1_boxes_1 2 rfl rfl)
theorem dX1_boxes_27 : decode cX1_boxes 27 = .ok (.invokeinterface 88 1, 5) := by decide +kernel
theorem dX1_boxes_32 : decode cX1_boxes 32 = .ok (.ifCond .eq 37, 3) := dk_153 0 37 (dk_at dksX1_boxes_1 9 rfl rfl)
theorem dX1_boxes_35 : decode cX1_boxes 35 = .ok (.aload 5, 2) := dk_25 5 (dk_at dksX1_boxes_1 12 rfl rfl)
theorem dX1_boxes_37 : decode cX1_boxes 37 = .ok (.invokeinterface 94 1, 5) := by decide +kernel
theorem dX1_boxes_42 : decode cX1_boxes 42 = .ok (.checkcast 76, 3) := dk_192 0 76 (dk_at dksX1_boxes_1 19 rfl rfl)
theorem dX1_boxes_45 : decode cX1_boxes 45 = .ok (.astore 6, 2) := dk_58 6 (dk_at dksX1_boxes_1 22 rfl rfl)
theorem dX1_boxes_47 : decode cX1_boxes 47 = .ok (.iload 4, 2) := dk_21 4 (dk_at dksX1_boxes_2 0 rfl rfl)
theorem dX1_boxes_49 : decode cX1_boxes 49 = .ok (.aload 6, 2) := dk_25 6 (dk_at dksX1_boxes_2 2 rfl rfl)
theorem dX1_boxes_51 : decode cX1_boxes 51 = .ok (.getfield 106, 3) := dk_180 0 106 (dk_at dksX1_boxes_2 4 rfl rfl)
theorem dX1_boxes_54 : decode cX1_boxes 54 = .ok (.iload_n 2, 1) := dk_28 (dk_at dksX1_boxes_2 7 rfl rfl)
theorem dX1_boxes_55 : decode cX1_boxes 55 = .ok (.if_icmp .le 7, 3) := dk_164 0 7 (dk_at dksX1_boxes_2 8 rfl rfl)
theorem dX1_boxes_58 : decode cX1_boxes 58 = .ok (.iconst 1, 1) := dk_4 (dk_at dksX1_boxes_2 11 rfl rfl)
theorem dX1_boxes_59 : decode cX1_boxes 59 = .ok (.goto 4, 3) := dk_167 0 4 (dk_at dksX1_boxes_2 12 rfl rfl)
theorem dX1_boxes_62 : decode cX1_boxes 62 = .ok (.iconst 0, 1) := dk_3 (dk_at dksX1_boxes_2 15 rfl rfl)
theorem dX1_boxes_63 : decode cX1_boxes 63 = .ok (.ior, 1) := dk_128 (dk_at dksX1_boxes_2 16 rfl rfl)
theorem dX1_boxes_64 : decode cX1_boxes 64 = .ok (.istore 4, 2) := dk_54 4 (dk_at dksX1_boxes_2 17 rfl rfl)
theorem dX1_boxes_66 : decode cX1_boxes 66 = .ok (.goto (-41), 3) := dk_167 255 215 (dk_at dksX1_boxes_2 19 rfl rfl)
theorem dX1_boxes_69 : decode cX1_boxes 69 = .ok (.iload 4, 2) := dk_21 4 (dk_at dksX1_boxes_2 22 rfl rfl)
theorem dX1_boxes_71 : decode cX1_boxes 71 = .ok (.ifCond .ne 7, 3) := dk_154 0 7 (dk_at dksX1_boxes_3 0 rfl rfl)
theorem dX1_boxes_74 : decode cX1_boxes 74 = .ok (.iconst 1, 1) := dk_4 (dk_at dksX1_boxes_3 3 rfl rfl)
theorem dX1_boxes_75 : decode cX1_boxes 75 = .ok (.goto 4, 3) := dk_167 0 4 (dk_at dksX1_boxes_3 4 rfl rfl)
theorem dX1_boxes_78 : decode cX1_boxes 78 = .ok (.iconst 0, 1) := dk_3 (dk_at dksX1_boxes_3 7 rfl rfl)
theorem dX1_boxes_79 : decode cX1_boxes 79 = .ok (.invokestatic 205, 3) := dk_184 0 205 (dk_at dksX1_boxes_3 8 rfl rfl)
theorem dX1_boxes_82 : decode cX1_boxes 82 = .ok (.iconst 0, 1) := dk_3 (dk_at dksX1_boxes_3 11 rfl rfl)
theorem dX1_boxes_83 : decode cX1_boxes 83 = .ok (.istore 5, 2) := dk_54 5 (dk_at dksX1_boxes_3 12 rfl rfl)
theorem dX1_boxes_85 : decode cX1_boxes 85 = .ok (.iload 5, 2) := dk_21 5 (dk_at dksX1_boxes_3 14 rfl rfl)
theorem dX1_boxes_87 : decode cX1_boxes 87 = .ok (.newarray .int, 2) := dk_188_10 (dk_at dksX1_boxes_3 16 rfl rfl)
theorem dX1_boxes_89 : decode cX1_boxes 89 = .ok (.astore 6, 2) := dk_58 6 (dk_at dksX1_boxes_3 18 rfl rfl)
theorem dX1_boxes_91 : decode cX1_boxes 91 = .ok (.aload 6, 2) := dk_25 6 (dk_at dksX1_boxes_3 20 rfl rfl)
theorem dX1_boxes_93 : decode cX1_boxes 93 = .ok (.iload_n 2, 1) := dk_28 (dk_at dksX1_boxes_3 22 rfl rfl)
theorem dX1_boxes_94 : decode cX1_boxes 94 = .ok (.invokestatic 41, 3) := dk_184 0 41 (dk_at dksX1_boxes_4 0 rfl rfl)
theorem dX1_boxes_97 : decode cX1_boxes 97 = .ok (.aload_n 3, 1) := dk_45 (dk_at dksX1_boxes_4 3 rfl rfl)
theorem dX1_boxes_98 : decode cX1_boxes 98 = .ok (.iconst 0, 1) := dk_3 (dk_at dksX1_boxes_4 4 rfl rfl)
theorem dX1_boxes_99 : decode cX1_boxes 99 = .ok (.aload 6, 2) := dk_25 6 (dk_at dksX1_boxes_4 5 rfl rfl)
theorem dX1_boxes_101 : decode cX1_boxes 101 = .ok (.invokestatic 412, 3) := dk_184 1 156 (dk_at dksX1_boxes_4 7 rfl rfl)
theorem dX1_boxes_104 : decode cX1_boxes 104 = .ok (.ifCond .eq 6, 3) := dk_153 0 6 (dk_at dksX1_boxes_4 10 rfl rfl)
theorem dX1_boxes_107 : decode cX1_boxes 107 = .ok (.iload 5, 2) := dk_21 5 (dk_at dksX1_boxes_4 13 rfl rfl)
theorem dX1_boxes_109 : decode cX1_boxes 109 = .ok (.ireturn, 1) := dk_172 (dk_at dksX1_boxes_4 15 rfl rfl)
theorem dX1_boxes_110 : decode cX1_boxes 110 = .ok (.iinc 5 1, 3) := dk_132 5 1 (dk_at dksX1_boxes_4 16 rfl rfl)
theorem dX1_boxes_113 : decode cX1_boxes 113 = .ok (.goto (-28), 3) := dk_167 255 228 (dk_at dksX1_boxes_4 19 rfl rfl)
abbrev cX1_wholes : ByteArray := prog_1_method_16_code
def yX1_wholes : MethodName := ⟨RX1, "wholes", "(I)Ljava/util/ArrayList;"⟩
def dkwX1_wholes_4 : List UInt8 := [167, 0, 4, 3, 126, 62, 44, 25, 5, 182, 0, 131, 87, 167, 255, 196, 29, 184, 0, 135, 44, 176]
abbrev dktX1_wholes_4 : List UInt8 := dkwX1_wholes_4 ++ []
def dkwX1_wholes_3 : List UInt8 := [180, 0, 128, 122, 4, 126, 154, 0, 6, 167, 255, 222, 29, 25, 5, 180, 0, 98, 199, 0, 7, 4]
abbrev dktX1_wholes_3 : List UInt8 := dkwX1_wholes_3 ++ dktX1_wholes_4
def dkwX1_wholes_2 : List UInt8 := [185, 0, 88, 1, 0, 153, 0, 56, 25, 4, 185, 0, 94, 1, 0, 192, 0, 76, 58, 5, 27, 25, 5]
abbrev dktX1_wholes_2 : List UInt8 := dkwX1_wholes_2 ++ dktX1_wholes_3
def dkwX1_wholes_1 : List UInt8 := [162, 0, 7, 4, 167, 0, 4, 3, 62, 42, 180, 0, 19, 182, 0, 84, 58, 4, 25, 4]
abbrev dktX1_wholes_1 : List UInt8 := dkwX1_wholes_1 ++ dktX1_wholes_2
def dkwX1_wholes_0 : List UInt8 := [187, 0, 7, 89, 183, 0, 9, 77, 27, 155, 0, 20, 27, 4, 42, 180, 0, 19, 182, 0, 62, 120]
abbrev dktX1_wholes_0 : List UInt8 := dkwX1_wholes_0 ++ dktX1_wholes_1
theorem dksX1_wholes_0 : cX1_wholes.data.toList.drop 0 = dktX1_wholes_0 := by decide +kernel
theorem dksX1_wholes_1 : cX1_wholes.data.toList.drop 22 = dktX1_wholes_1 := dk_seg dksX1_wholes_0 22 rfl rfl
theorem dksX1_wholes_2 : cX1_wholes.data.toList.drop 42 = dktX1_wholes_2 := dk_seg dksX1_wholes_1 20 rfl rfl
theorem dksX1_wholes_3 : cX1_wholes.data.toList.drop 65 = dktX1_wholes_3 := dk_seg dksX1_wholes_2 23 rfl rfl
theorem dksX1_wholes_4 : cX1_wholes.data.toList.drop 87 = dktX1_wholes_4 := dk_seg dksX1_wholes_3 22 rfl rfl
theorem dX1_wholes_0 : decode cX1_wholes 0 = .ok (.new 7, 3) := dk_187 0 7 (dk_at dksX1_wholes_0 0 rfl rfl)
theorem dX1_wholes_3 : decode cX1_wholes 3 = .ok (.dup, 1) := dk_89 (dk_at dksX1_wholes_0 3 rfl rfl)
theorem dX1_wholes_4 : decode cX1_wholes 4 = .ok (.invokespecial 9, 3) := dk_183 0 9 (dk_at dksX1_wholes_0 4 rfl rfl)
theorem dX1_wholes_7 : decode cX1_wholes 7 = .ok (.astore_n 2, 1) := dk_77 (dk_at dksX1_wholes_0 7 rfl rfl)
theorem dX1_wholes_8 : decode cX1_wholes 8 = .ok (.iload_n 1, 1) := dk_27 (dk_at dksX1_wholes_0 8 rfl rfl)
theorem dX1_wholes_9 : decode cX1_wholes 9 = .ok (.ifCond .lt 20, 3) := dk_155 0 20 (dk_at dksX1_wholes_0 9 rfl rfl)
theorem dX1_wholes_12 : decode cX1_wholes 12 = .ok (.iload_n 1, 1) := dk_27 (dk_at dksX1_wholes_0 12 rfl rfl)
theorem dX1_wholes_13 : decode cX1_wholes 13 = .ok (.iconst 1, 1) := dk_4 (dk_at dksX1_wholes_0 13 rfl rfl)
theorem dX1_wholes_14 : decode cX1_wholes 14 = .ok (.aload_n 0, 1) := dk_42 (dk_at dksX1_wholes_0 14 rfl rfl)
theorem dX1_wholes_15 : decode cX1_wholes 15 = .ok (.getfield 19, 3) := dk_180 0 19 (dk_at dksX1_wholes_0 15 rfl rfl)
theorem dX1_wholes_18 : decode cX1_wholes 18 = .ok (.invokevirtual 62, 3) := dk_182 0 62 (dk_at dksX1_wholes_0 18 rfl rfl)
theorem dX1_wholes_21 : decode cX1_wholes 21 = .ok (.ishl, 1) := dk_120 (dk_at dksX1_wholes_0 21 rfl rfl)
theorem dX1_wholes_22 : decode cX1_wholes 22 = .ok (.if_icmp .ge 7, 3) := dk_162 0 7 (dk_at dksX1_wholes_1 0 rfl rfl)
theorem dX1_wholes_25 : decode cX1_wholes 25 = .ok (.iconst 1, 1) := dk_4 (dk_at dksX1_wholes_1 3 rfl rfl)
theorem dX1_wholes_26 : decode cX1_wholes 26 = .ok (.goto 4, 3) := dk_167 0 4 (dk_at dksX1_wholes_1 4 rfl rfl)
theorem dX1_wholes_29 : decode cX1_wholes 29 = .ok (.iconst 0, 1) := dk_3 (dk_at dksX1_wholes_1 7 rfl rfl)
theorem dX1_wholes_30 : decode cX1_wholes 30 = .ok (.istore_n 3, 1) := dk_62 (dk_at dksX1_wholes_1 8 rfl rfl)
theorem dX1_wholes_31 : decode cX1_wholes 31 = .ok (.aload_n 0, 1) := dk_42 (dk_at dksX1_wholes_1 9 rfl rfl)
theorem dX1_wholes_32 : decode cX1_wholes 32 = .ok (.getfield 19, 3) := dk_180 0 19 (dk_at dksX1_wholes_1 10 rfl rfl)
theorem dX1_wholes_35 : decode cX1_wholes 35 = .ok (.invokevirtual 84, 3) := dk_182 0 84 (dk_at dksX1_wholes_1 13 rfl rfl)
theorem dX1_wholes_38 : decode cX1_wholes 38 = .ok (.astore 4, 2) := dk_58 4 (dk_at dksX1_wholes_1 16 rfl rfl)
theorem dX1_wholes_40 : decode cX1_wholes 40 = .ok (.aload 4, 2) := dk_25 4 (dk_at dksX1_wholes_1 18 rfl rfl)
theorem dX1_wholes_42 : decode cX1_wholes 42 = .ok (.invokeinterface 88 1, 5) := by decide +kernel
theorem dX1_wholes_47 : decode cX1_wholes 47 = .ok (.ifCond .eq 56, 3) := dk_153 0 56 (dk_at dksX1_wholes_2 5 rfl rfl)
theorem dX1_wholes_50 : decode cX1_wholes 50 = .ok (.aload 4, 2) := dk_25 4 (dk_at dksX1_wholes_2 8 rfl rfl)
theorem dX1_wholes_52 : decode cX1_wholes 52 = .ok (.invokeinterface 94 1, 5) := by decide +kernel
theorem dX1_wholes_57 : decode cX1_wholes 57 = .ok (.checkcast 76, 3) := dk_192 0 76 (dk_at dksX1_wholes_2 15 rfl rfl)
theorem dX1_wholes_60 : decode cX1_wholes 60 = .ok (.astore 5, 2) := dk_58 5 (dk_at dksX1_wholes_2 18 rfl rfl)
theorem dX1_wholes_62 : decode cX1_wholes 62 = .ok (.iload_n 1, 1) := dk_27 (dk_at dksX1_wholes_2 20 rfl rfl)
theorem dX1_wholes_63 : decode cX1_wholes 63 = .ok (.aload 5, 2) := dk_25 5 (dk_at dksX1_wholes_2 21 rfl rfl)
theorem dX1_wholes_65 : decode cX1_wholes 65 = .ok (.getfield 128, 3) := dk_180 0 128 (dk_at dksX1_wholes_3 0 rfl rfl)
theorem dX1_wholes_68 : decode cX1_wholes 68 = .ok (.ishr, 1) := dk_122 (dk_at dksX1_wholes_3 3 rfl rfl)
theorem dX1_wholes_69 : decode cX1_wholes 69 = .ok (.iconst 1, 1) := dk_4 (dk_at dksX1_wholes_3 4 rfl rfl)
theorem dX1_wholes_70 : decode cX1_wholes 70 = .ok (.iand, 1) := dk_126 (dk_at dksX1_wholes_3 5 rfl rfl)
theorem dX1_wholes_71 : decode cX1_wholes 71 = .ok (.ifCond .ne 6, 3) := dk_154 0 6 (dk_at dksX1_wholes_3 6 rfl rfl)
theorem dX1_wholes_74 : decode cX1_wholes 74 = .ok (.goto (-34), 3) := dk_167 255 222 (dk_at dksX1_wholes_3 9 rfl rfl)
theorem dX1_wholes_77 : decode cX1_wholes 77 = .ok (.iload_n 3, 1) := dk_29 (dk_at dksX1_wholes_3 12 rfl rfl)
theorem dX1_wholes_78 : decode cX1_wholes 78 = .ok (.aload 5, 2) := dk_25 5 (dk_at dksX1_wholes_3 13 rfl rfl)
theorem dX1_wholes_80 : decode cX1_wholes 80 = .ok (.getfield 98, 3) := dk_180 0 98 (dk_at dksX1_wholes_3 15 rfl rfl)
theorem dX1_wholes_83 : decode cX1_wholes 83 = .ok (.ifnonnull 7, 3) := dk_199 0 7 (dk_at dksX1_wholes_3 18 rfl rfl)
theorem dX1_wholes_86 : decode cX1_wholes 86 = .ok (.iconst 1, 1) := dk_4 (dk_at dksX1_wholes_3 21 rfl rfl)
theorem dX1_wholes_87 : decode cX1_wholes 87 = .ok (.goto 4, 3) := dk_167 0 4 (dk_at dksX1_wholes_4 0 rfl rfl)
theorem dX1_wholes_90 : decode cX1_wholes 90 = .ok (.iconst 0, 1) := dk_3 (dk_at dksX1_wholes_4 3 rfl rfl)
theorem dX1_wholes_91 : decode cX1_wholes 91 = .ok (.iand, 1) := dk_126 (dk_at dksX1_wholes_4 4 rfl rfl)
theorem dX1_wholes_92 : decode cX1_wholes 92 = .ok (.istore_n 3, 1) := dk_62 (dk_at dksX1_wholes_4 5 rfl rfl)
theorem dX1_wholes_93 : decode cX1_wholes 93 = .ok (.aload_n 2, 1) := dk_44 (dk_at dksX1_wholes_4 6 rfl rfl)
theorem dX1_wholes_94 : decode cX1_wholes 94 = .ok (.aload 5, 2) := dk_25 5 (dk_at dksX1_wholes_4 7 rfl rfl)
theorem dX1_wholes_96 : decode cX1_wholes 96 = .ok (.invokevirtual 131, 3) := dk_182 0 131 (dk_at dksX1_wholes_4 9 rfl rfl)
theorem dX1_wholes_99 : decode cX1_wholes 99 = .ok (.pop, 1) := dk_87 (dk_at dksX1_wholes_4 12 rfl rfl)
theorem dX1_wholes_100 : decode cX1_wholes 100 = .ok (.goto (-60), 3) := dk_167 255 196 (dk_at dksX1_wholes_4 13 rfl rfl)
theorem dX1_wholes_103 : decode cX1_wholes 103 = .ok (.iload_n 3, 1) := dk_29 (dk_at dksX1_wholes_4 16 rfl rfl)
theorem dX1_wholes_104 : decode cX1_wholes 104 = .ok (.invokestatic 135, 3) := dk_184 0 135 (dk_at dksX1_wholes_4 17 rfl rfl)
theorem dX1_wholes_107 : decode cX1_wholes 107 = .ok (.aload_n 2, 1) := dk_44 (dk_at dksX1_wholes_4 20 rfl rfl)
theorem dX1_wholes_108 : decode cX1_wholes 108 = .ok (.areturn, 1) := dk_176 (dk_at dksX1_wholes_4 21 rfl rfl)
abbrev cX1_goInto : ByteArray := prog_1_method_56_code
def yX1_goInto : MethodName := ⟨RX1, "goInto", "(Ljava/util/List;I[I)Z"⟩
def dkwX1_goInto_6 : List UInt8 := [172, 132, 3, 1, 167, 255, 127, 3, 172]
abbrev dktX1_goInto_6 : List UInt8 := dkwX1_goInto_6 ++ []
def dkwX1_goInto_5 : List UInt8 := [29, 92, 46, 42, 27, 185, 1, 155, 2, 0, 192, 0, 76, 180, 0, 106, 96, 79, 21, 5, 153, 0, 5, 4]
abbrev dktX1_goInto_5 : List UInt8 := dkwX1_goInto_5 ++ dktX1_goInto_6
def dkwX1_goInto_4 : List UInt8 := [185, 1, 155, 2, 0, 192, 0, 76, 180, 0, 106, 100, 79, 42, 27, 4, 96, 44, 184, 1, 156, 54, 5, 44]
abbrev dktX1_goInto_4 : List UInt8 := dkwX1_goInto_4 ++ dktX1_goInto_5
def dkwX1_goInto_3 : List UInt8 := [185, 1, 155, 2, 0, 192, 0, 76, 180, 0, 106, 162, 0, 6, 167, 0, 58, 44, 29, 92, 46, 42, 27]
abbrev dktX1_goInto_3 : List UInt8 := dkwX1_goInto_3 ++ dktX1_goInto_4
def dkwX1_goInto_2 : List UInt8 := [3, 128, 54, 4, 132, 5, 1, 167, 255, 227, 21, 4, 154, 0, 80, 44, 29, 46, 42, 27]
abbrev dktX1_goInto_2 : List UInt8 := dkwX1_goInto_2 ++ dktX1_goInto_3
def dkwX1_goInto_1 : List UInt8 := [54, 5, 21, 5, 29, 162, 0, 29, 21, 4, 44, 21, 5, 46, 44, 29, 46, 160, 0, 7, 4, 167, 0, 4]
abbrev dktX1_goInto_1 : List UInt8 := dkwX1_goInto_1 ++ dktX1_goInto_2
def dkwX1_goInto_0 : List UInt8 := [27, 42, 185, 1, 154, 1, 0, 160, 0, 5, 4, 172, 3, 62, 29, 44, 190, 162, 0, 129, 3, 54, 4, 3]
abbrev dktX1_goInto_0 : List UInt8 := dkwX1_goInto_0 ++ dktX1_goInto_1
theorem dksX1_goInto_0 : cX1_goInto.data.toList.drop 0 = dktX1_goInto_0 := by decide +kernel
theorem dksX1_goInto_1 : cX1_goInto.data.toList.drop 24 = dktX1_goInto_1 := dk_seg dksX1_goInto_0 24 rfl rfl
theorem dksX1_goInto_2 : cX1_goInto.data.toList.drop 48 = dktX1_goInto_2 := dk_seg dksX1_goInto_1 24 rfl rfl
theorem dksX1_goInto_3 : cX1_goInto.data.toList.drop 68 = dktX1_goInto_3 := dk_seg dksX1_goInto_2 20 rfl rfl
theorem dksX1_goInto_4 : cX1_goInto.data.toList.drop 91 = dktX1_goInto_4 := dk_seg dksX1_goInto_3 23 rfl rfl
theorem dksX1_goInto_5 : cX1_goInto.data.toList.drop 115 = dktX1_goInto_5 := dk_seg dksX1_goInto_4 24 rfl rfl
theorem dksX1_goInto_6 : cX1_goInto.data.toList.drop 139 = dktX1_goInto_6 := dk_seg dksX1_goInto_5 24 rfl rfl
theorem dX1_goInto_0 : decode cX1_goInto 0 = .ok (.iload_n 1, 1) := dk_27 (dk_at dksX1_goInto_0 0 rfl rfl)
theorem dX1_goInto_1 : decode cX1_goInto 1 = .ok (.aload_n 0, 1) := dk_42 (dk_at dksX1_goInto_0 1 rfl rfl)
theorem dX1_goInto_2 : decode cX1_goInto 2 = .ok (.invokeinterface 410 1, 5) := by decide +kernel
theorem dX1_goInto_7 : decode cX1_goInto 7 = .ok (.if_icmp .ne 5, 3) := dk_160 0 5 (dk_at dksX1_goInto_0 7 rfl rfl)
theorem dX1_goInto_10 : decode cX1_goInto 10 = .ok (.iconst 1, 1) := dk_4 (dk_at dksX1_goInto_0 10 rfl rfl)
theorem dX1_goInto_11 : decode cX1_goInto 11 = .ok (.ireturn, 1) := dk_172 (dk_at dksX1_goInto_0 11 rfl rfl)
theorem dX1_goInto_12 : decode cX1_goInto 12 = .ok (.iconst 0, 1) := dk_3 (dk_at dksX1_goInto_0 12 rfl rfl)
theorem dX1_goInto_13 : decode cX1_goInto 13 = .ok (.istore_n 3, 1) := dk_62 (dk_at dksX1_goInto_0 13 rfl rfl)
theorem dX1_goInto_14 : decode cX1_goInto 14 = .ok (.iload_n 3, 1) := dk_29 (dk_at dksX1_goInto_0 14 rfl rfl)
theorem dX1_goInto_15 : decode cX1_goInto 15 = .ok (.aload_n 2, 1) := dk_44 (dk_at dksX1_goInto_0 15 rfl rfl)
theorem dX1_goInto_16 : decode cX1_goInto 16 = .ok (.arraylength, 1) := dk_190 (dk_at dksX1_goInto_0 16 rfl rfl)
theorem dX1_goInto_17 : decode cX1_goInto 17 = .ok (.if_icmp .ge 129, 3) := dk_162 0 129 (dk_at dksX1_goInto_0 17 rfl rfl)
theorem dX1_goInto_20 : decode cX1_goInto 20 = .ok (.iconst 0, 1) := dk_3 (dk_at dksX1_goInto_0 20 rfl rfl)
theorem dX1_goInto_21 : decode cX1_goInto 21 = .ok (.istore 4, 2) := dk_54 4 (dk_at dksX1_goInto_0 21 rfl rfl)
theorem dX1_goInto_23 : decode cX1_goInto 23 = .ok (.iconst 0, 1) := dk_3 (dk_at dksX1_goInto_0 23 rfl rfl)
theorem dX1_goInto_24 : decode cX1_goInto 24 = .ok (.istore 5, 2) := dk_54 5 (dk_at dksX1_goInto_1 0 rfl rfl)
theorem dX1_goInto_26 : decode cX1_goInto 26 = .ok (.iload 5, 2) := dk_21 5 (dk_at dksX1_goInto_1 2 rfl rfl)
theorem dX1_goInto_28 : decode cX1_goInto 28 = .ok (.iload_n 3, 1) := dk_29 (dk_at dksX1_goInto_1 4 rfl rfl)
theorem dX1_goInto_29 : decode cX1_goInto 29 = .ok (.if_icmp .ge 29, 3) := dk_162 0 29 (dk_at dksX1_goInto_1 5 rfl rfl)
theorem dX1_goInto_32 : decode cX1_goInto 32 = .ok (.iload 4, 2) := dk_21 4 (dk_at dksX1_goInto_1 8 rfl rfl)
theorem dX1_goInto_34 : decode cX1_goInto 34 = .ok (.aload_n 2, 1) := dk_44 (dk_at dksX1_goInto_1 10 rfl rfl)
theorem dX1_goInto_35 : decode cX1_goInto 35 = .ok (.iload 5, 2) := dk_21 5 (dk_at dksX1_goInto_1 11 rfl rfl)
theorem dX1_goInto_37 : decode cX1_goInto 37 = .ok (.iaload, 1) := dk_46 (dk_at dksX1_goInto_1 13 rfl rfl)
theorem dX1_goInto_38 : decode cX1_goInto 38 = .ok (.aload_n 2, 1) := dk_44 (dk_at dksX1_goInto_1 14 rfl rfl)
theorem dX1_goInto_39 : decode cX1_goInto 39 = .ok (.iload_n 3, 1) := dk_29 (dk_at dksX1_goInto_1 15 rfl rfl)
theorem dX1_goInto_40 : decode cX1_goInto 40 = .ok (.iaload, 1) := dk_46 (dk_at dksX1_goInto_1 16 rfl rfl)
theorem dX1_goInto_41 : decode cX1_goInto 41 = .ok (.if_icmp .ne 7, 3) := dk_160 0 7 (dk_at dksX1_goInto_1 17 rfl rfl)
theorem dX1_goInto_44 : decode cX1_goInto 44 = .ok (.iconst 1, 1) := dk_4 (dk_at dksX1_goInto_1 20 rfl rfl)
theorem dX1_goInto_45 : decode cX1_goInto 45 = .ok (.goto 4, 3) := dk_167 0 4 (dk_at dksX1_goInto_1 21 rfl rfl)
theorem dX1_goInto_48 : decode cX1_goInto 48 = .ok (.iconst 0, 1) := dk_3 (dk_at dksX1_goInto_2 0 rfl rfl)
theorem dX1_goInto_49 : decode cX1_goInto 49 = .ok (.ior, 1) := dk_128 (dk_at dksX1_goInto_2 1 rfl rfl)
theorem dX1_goInto_50 : decode cX1_goInto 50 = .ok (.istore 4, 2) := dk_54 4 (dk_at dksX1_goInto_2 2 rfl rfl)
theorem dX1_goInto_52 : decode cX1_goInto 52 = .ok (.iinc 5 1, 3) := dk_132 5 1 (dk_at dksX1_goInto_2 4 rfl rfl)
theorem dX1_goInto_55 : decode cX1_goInto 55 = .ok (.goto (-29), 3) := dk_167 255 227 (dk_at dksX1_goInto_2 7 rfl rfl)
theorem dX1_goInto_58 : decode cX1_goInto 58 = .ok (.iload 4, 2) := dk_21 4 (dk_at dksX1_goInto_2 10 rfl rfl)
theorem dX1_goInto_60 : decode cX1_goInto 60 = .ok (.ifCond .ne 80, 3) := dk_154 0 80 (dk_at dksX1_goInto_2 12 rfl rfl)
theorem dX1_goInto_63 : decode cX1_goInto 63 = .ok (.aload_n 2, 1) := dk_44 (dk_at dksX1_goInto_2 15 rfl rfl)
theorem dX1_goInto_64 : decode cX1_goInto 64 = .ok (.iload_n 3, 1) := dk_29 (dk_at dksX1_goInto_2 16 rfl rfl)
theorem dX1_goInto_65 : decode cX1_goInto 65 = .ok (.iaload, 1) := dk_46 (dk_at dksX1_goInto_2 17 rfl rfl)
theorem dX1_goInto_66 : decode cX1_goInto 66 = .ok (.aload_n 0, 1) := dk_42 (dk_at dksX1_goInto_2 18 rfl rfl)
theorem dX1_goInto_67 : decode cX1_goInto 67 = .ok (.iload_n 1, 1) := dk_27 (dk_at dksX1_goInto_2 19 rfl rfl)
theorem dX1_goInto_68 : decode cX1_goInto 68 = .ok (.invokeinterface 411 2, 5) := by decide +kernel
theorem dX1_goInto_73 : decode cX1_goInto 73 = .ok (.checkcast 76, 3) := dk_192 0 76 (dk_at dksX1_goInto_3 5 rfl rfl)
theorem dX1_goInto_76 : decode cX1_goInto 76 = .ok (.getfield 106, 3) := dk_180 0 106 (dk_at dksX1_goInto_3 8 rfl rfl)
theorem dX1_goInto_79 : decode cX1_goInto 79 = .ok (.if_icmp .ge 6, 3) := dk_162 0 6 (dk_at dksX1_goInto_3 11 rfl rfl)
theorem dX1_goInto_82 : decode cX1_goInto 82 = .ok (.goto 58, 3) := dk_167 0 58 (dk_at dksX1_goInto_3 14 rfl rfl)
theorem dX1_goInto_85 : decode cX1_goInto 85 = .ok (.aload_n 2, 1) := dk_44 (dk_at dksX1_goInto_3 17 rfl rfl)
theorem dX1_goInto_86 : decode cX1_goInto 86 = .ok (.iload_n 3, 1) := dk_29 (dk_at dksX1_goInto_3 18 rfl rfl)
theorem dX1_goInto_87 : decode cX1_goInto 87 = .ok (.dup2, 1) := dk_92 (dk_at dksX1_goInto_3 19 rfl rfl)
theorem dX1_goInto_88 : decode cX1_goInto 88 = .ok (.iaload, 1) := dk_46 (dk_at dksX1_goInto_3 20 rfl rfl)
theorem dX1_goInto_89 : decode cX1_goInto 89 = .ok (.aload_n 0, 1) := dk_42 (dk_at dksX1_goInto_3 21 rfl rfl)
theorem dX1_goInto_90 : decode cX1_goInto 90 = .ok (.iload_n 1, 1) := dk_27 (dk_at dksX1_goInto_3 22 rfl rfl)
theorem dX1_goInto_91 : decode cX1_goInto 91 = .ok (.invokeinterface 411 2, 5) := by decide +kernel
theorem dX1_goInto_96 : decode cX1_goInto 96 = .ok (.checkcast 76, 3) := dk_192 0 76 (dk_at dksX1_goInto_4 5 rfl rfl)
theorem dX1_goInto_99 : decode cX1_goInto 99 = .ok (.getfield 106, 3) := dk_180 0 106 (dk_at dksX1_goInto_4 8 rfl rfl)
theorem dX1_goInto_102 : decode cX1_goInto 102 = .ok (.isub, 1) := dk_100 (dk_at dksX1_goInto_4 11 rfl rfl)
theorem dX1_goInto_103 : decode cX1_goInto 103 = .ok (.iastore, 1) := dk_79 (dk_at dksX1_goInto_4 12 rfl rfl)
theorem dX1_goInto_104 : decode cX1_goInto 104 = .ok (.aload_n 0, 1) := dk_42 (dk_at dksX1_goInto_4 13 rfl rfl)
theorem dX1_goInto_105 : decode cX1_goInto 105 = .ok (.iload_n 1, 1) := dk_27 (dk_at dksX1_goInto_4 14 rfl rfl)
theorem dX1_goInto_106 : decode cX1_goInto 106 = .ok (.iconst 1, 1) := dk_4 (dk_at dksX1_goInto_4 15 rfl rfl)
theorem dX1_goInto_107 : decode cX1_goInto 107 = .ok (.iadd, 1) := dk_96 (dk_at dksX1_goInto_4 16 rfl rfl)
theorem dX1_goInto_108 : decode cX1_goInto 108 = .ok (.aload_n 2, 1) := dk_44 (dk_at dksX1_goInto_4 17 rfl rfl)
theorem dX1_goInto_109 : decode cX1_goInto 109 = .ok (.invokestatic 412, 3) := dk_184 1 156 (dk_at dksX1_goInto_4 18 rfl rfl)
theorem dX1_goInto_112 : decode cX1_goInto 112 = .ok (.istore 5, 2) := dk_54 5 (dk_at dksX1_goInto_4 21 rfl rfl)
theorem dX1_goInto_114 : decode cX1_goInto 114 = .ok (.aload_n 2, 1) := dk_44 (dk_at dksX1_goInto_4 23 rfl rfl)
theorem dX1_goInto_115 : decode cX1_goInto 115 = .ok (.iload_n 3, 1) := dk_29 (dk_at dksX1_goInto_5 0 rfl rfl)
theorem dX1_goInto_116 : decode cX1_goInto 116 = .ok (.dup2, 1) := dk_92 (dk_at dksX1_goInto_5 1 rfl rfl)
theorem dX1_goInto_117 : decode cX1_goInto 117 = .ok (.iaload, 1) := dk_46 (dk_at dksX1_goInto_5 2 rfl rfl)
theorem dX1_goInto_118 : decode cX1_goInto 118 = .ok (.aload_n 0, 1) := dk_42 (dk_at dksX1_goInto_5 3 rfl rfl)
theorem dX1_goInto_119 : decode cX1_goInto 119 = .ok (.iload_n 1, 1) := dk_27 (dk_at dksX1_goInto_5 4 rfl rfl)
theorem dX1_goInto_120 : decode cX1_goInto 120 = .ok (.invokeinterface 411 2, 5) := by decide +kernel
theorem dX1_goInto_125 : decode cX1_goInto 125 = .ok (.checkcast 76, 3) := dk_192 0 76 (dk_at dksX1_goInto_5 10 rfl rfl)
theorem dX1_goInto_128 : decode cX1_goInto 128 = .ok (.getfield 106, 3) := dk_180 0 106 (dk_at dksX1_goInto_5 13 rfl rfl)
theorem dX1_goInto_131 : decode cX1_goInto 131 = .ok (.iadd, 1) := dk_96 (dk_at dksX1_goInto_5 16 rfl rfl)
theorem dX1_goInto_132 : decode cX1_goInto 132 = .ok (.iastore, 1) := dk_79 (dk_at dksX1_goInto_5 17 rfl rfl)
theorem dX1_goInto_133 : decode cX1_goInto 133 = .ok (.iload 5, 2) := dk_21 5 (dk_at dksX1_goInto_5 18 rfl rfl)
theorem dX1_goInto_135 : decode cX1_goInto 135 = .ok (.ifCond .eq 5, 3) := dk_153 0 5 (dk_at dksX1_goInto_5 20 rfl rfl)
theorem dX1_goInto_138 : decode cX1_goInto 138 = .ok (.iconst 1, 1) := dk_4 (dk_at dksX1_goInto_5 23 rfl rfl)
theorem dX1_goInto_139 : decode cX1_goInto 139 = .ok (.ireturn, 1) := dk_172 (dk_at dksX1_goInto_6 0 rfl rfl)
theorem dX1_goInto_140 : decode cX1_goInto 140 = .ok (.iinc 3 1, 3) := dk_132 3 1 (dk_at dksX1_goInto_6 1 rfl rfl)
theorem dX1_goInto_143 : decode cX1_goInto 143 = .ok (.goto (-129), 3) := dk_167 255 127 (dk_at dksX1_goInto_6 4 rfl rfl)
theorem dX1_goInto_146 : decode cX1_goInto 146 = .ok (.iconst 0, 1) := dk_3 (dk_at dksX1_goInto_6 7 rfl rfl)
theorem dX1_goInto_147 : decode cX1_goInto 147 = .ok (.ireturn, 1) := dk_172 (dk_at dksX1_goInto_6 8 rfl rfl)
abbrev cX1_miss : ByteArray := prog_1_method_59_code
def yX1_miss : MethodName := ⟨RX1, "miss", "(I)I"⟩
def dkwX1_miss_1 : List UInt8 := [4, 167, 0, 4, 3, 184, 0, 176, 44, 16, 109, 3, 182, 1, 73, 42, 182, 1, 164, 172]
abbrev dktX1_miss_1 : List UInt8 := dkwX1_miss_1 ++ []
def dkwX1_miss_0 : List UInt8 := [42, 27, 182, 0, 182, 77, 44, 16, 114, 182, 0, 186, 154, 0, 12, 44, 16, 98, 182, 0, 186, 153, 0, 7]
abbrev dktX1_miss_0 : List UInt8 := dkwX1_miss_0 ++ dktX1_miss_1
theorem dksX1_miss_0 : cX1_miss.data.toList.drop 0 = dktX1_miss_0 := by decide +kernel
theorem dksX1_miss_1 : cX1_miss.data.toList.drop 24 = dktX1_miss_1 := dk_seg dksX1_miss_0 24 rfl rfl
theorem dX1_miss_0 : decode cX1_miss 0 = .ok (.aload_n 0, 1) := dk_42 (dk_at dksX1_miss_0 0 rfl rfl)
theorem dX1_miss_1 : decode cX1_miss 1 = .ok (.iload_n 1, 1) := dk_27 (dk_at dksX1_miss_0 1 rfl rfl)
theorem dX1_miss_2 : decode cX1_miss 2 = .ok (.invokevirtual 182, 3) := dk_182 0 182 (dk_at dksX1_miss_0 2 rfl rfl)
theorem dX1_miss_5 : decode cX1_miss 5 = .ok (.astore_n 2, 1) := dk_77 (dk_at dksX1_miss_0 5 rfl rfl)
theorem dX1_miss_6 : decode cX1_miss 6 = .ok (.aload_n 2, 1) := dk_44 (dk_at dksX1_miss_0 6 rfl rfl)
theorem dX1_miss_7 : decode cX1_miss 7 = .ok (.bipush 114, 2) := dk_16 114 (dk_at dksX1_miss_0 7 rfl rfl)
theorem dX1_miss_9 : decode cX1_miss 9 = .ok (.invokevirtual 186, 3) := dk_182 0 186 (dk_at dksX1_miss_0 9 rfl rfl)
theorem dX1_miss_12 : decode cX1_miss 12 = .ok (.ifCond .ne 12, 3) := dk_154 0 12 (dk_at dksX1_miss_0 12 rfl rfl)
theorem dX1_miss_15 : decode cX1_miss 15 = .ok (.aload_n 2, 1) := dk_44 (dk_at dksX1_miss_0 15 rfl rfl)
theorem dX1_miss_16 : decode cX1_miss 16 = .ok (.bipush 98, 2) := dk_16 98 (dk_at dksX1_miss_0 16 rfl rfl)
theorem dX1_miss_18 : decode cX1_miss 18 = .ok (.invokevirtual 186, 3) := dk_182 0 186 (dk_at dksX1_miss_0 18 rfl rfl)
theorem dX1_miss_21 : decode cX1_miss 21 = .ok (.ifCond .eq 7, 3) := dk_153 0 7 (dk_at dksX1_miss_0 21 rfl rfl)
theorem dX1_miss_24 : decode cX1_miss 24 = .ok (.iconst 1, 1) := dk_4 (dk_at dksX1_miss_1 0 rfl rfl)
theorem dX1_miss_25 : decode cX1_miss 25 = .ok (.goto 4, 3) := dk_167 0 4 (dk_at dksX1_miss_1 1 rfl rfl)
theorem dX1_miss_28 : decode cX1_miss 28 = .ok (.iconst 0, 1) := dk_3 (dk_at dksX1_miss_1 4 rfl rfl)
theorem dX1_miss_29 : decode cX1_miss 29 = .ok (.invokestatic 176, 3) := dk_184 0 176 (dk_at dksX1_miss_1 5 rfl rfl)
theorem dX1_miss_32 : decode cX1_miss 32 = .ok (.aload_n 2, 1) := dk_44 (dk_at dksX1_miss_1 8 rfl rfl)
theorem dX1_miss_33 : decode cX1_miss 33 = .ok (.bipush 109, 2) := dk_16 109 (dk_at dksX1_miss_1 9 rfl rfl)
theorem dX1_miss_35 : decode cX1_miss 35 = .ok (.iconst 0, 1) := dk_3 (dk_at dksX1_miss_1 11 rfl rfl)
theorem dX1_miss_36 : decode cX1_miss 36 = .ok (.invokevirtual 329, 3) := dk_182 1 73 (dk_at dksX1_miss_1 12 rfl rfl)
theorem dX1_miss_39 : decode cX1_miss 39 = .ok (.aload_n 0, 1) := dk_42 (dk_at dksX1_miss_1 15 rfl rfl)
theorem dX1_miss_40 : decode cX1_miss 40 = .ok (.invokevirtual 420, 3) := dk_182 1 164 (dk_at dksX1_miss_1 16 rfl rfl)
theorem dX1_miss_43 : decode cX1_miss 43 = .ok (.ireturn, 1) := dk_172 (dk_at dksX1_miss_1 19 rfl rfl)
abbrev cX1_missing : ByteArray := prog_1_method_58_code
def yX1_missing : MethodName := ⟨RX1, "missing", "()I"⟩
def dkwX1_missing_2 : List UInt8 := [96, 60, 167, 255, 220, 27, 172]
abbrev dktX1_missing_2 : List UInt8 := dkwX1_missing_2 ++ []
def dkwX1_missing_1 : List UInt8 := [185, 0, 94, 1, 0, 192, 0, 76, 78, 27, 45, 16, 109, 182, 0, 186, 153, 0, 7, 4, 167, 0, 4, 3]
abbrev dktX1_missing_1 : List UInt8 := dkwX1_missing_1 ++ dktX1_missing_2
def dkwX1_missing_0 : List UInt8 := [3, 60, 42, 180, 0, 19, 182, 0, 84, 77, 44, 185, 0, 88, 1, 0, 153, 0, 33, 44]
abbrev dktX1_missing_0 : List UInt8 := dkwX1_missing_0 ++ dktX1_missing_1
theorem dksX1_missing_0 : cX1_missing.data.toList.drop 0 = dktX1_missing_0 := by decide +kernel
theorem dksX1_missing_1 : cX1_missing.data.toList.drop 20 = dktX1_missing_1 := dk_seg dksX1_missing_0 20 rfl rfl
theorem dksX1_missing_2 : cX1_missing.data.toList.drop 44 = dktX1_missing_2 := dk_seg dksX1_missing_1 24 rfl rfl
theorem dX1_missing_0 : decode cX1_missing 0 = .ok (.iconst 0, 1) := dk_3 (dk_at dksX1_missing_0 0 rfl rfl)
theorem dX1_missing_1 : decode cX1_missing 1 = .ok (.istore_n 1, 1) := dk_60 (dk_at dksX1_missing_0 1 rfl rfl)
theorem dX1_missing_2 : decode cX1_missing 2 = .ok (.aload_n 0, 1) := dk_42 (dk_at dksX1_missing_0 2 rfl rfl)
theorem dX1_missing_3 : decode cX1_missing 3 = .ok (.getfield 19, 3) := dk_180 0 19 (dk_at dksX1_missing_0 3 rfl rfl)
theorem dX1_missing_6 : decode cX1_missing 6 = .ok (.invokevirtual 84, 3) := dk_182 0 84 (dk_at dksX1_missing_0 6 rfl rfl)
theorem dX1_missing_9 : decode cX1_missing 9 = .ok (.astore_n 2, 1) := dk_77 (dk_at dksX1_missing_0 9 rfl rfl)
theorem dX1_missing_10 : decode cX1_missing 10 = .ok (.aload_n 2, 1) := dk_44 (dk_at dksX1_missing_0 10 rfl rfl)
theorem dX1_missing_11 : decode cX1_missing 11 = .ok (.invokeinterface 88 1, 5) := by decide +kernel
theorem dX1_missing_16 : decode cX1_missing 16 = .ok (.ifCond .eq 33, 3) := dk_153 0 33 (dk_at dksX1_missing_0 16 rfl rfl)
theorem dX1_missing_19 : decode cX1_missing 19 = .ok (.aload_n 2, 1) := dk_44 (dk_at dksX1_missing_0 19 rfl rfl)
theorem dX1_missing_20 : decode cX1_missing 20 = .ok (.invokeinterface 94 1, 5) := by decide +kernel
theorem dX1_missing_25 : decode cX1_missing 25 = .ok (.checkcast 76, 3) := dk_192 0 76 (dk_at dksX1_missing_1 5 rfl rfl)
theorem dX1_missing_28 : decode cX1_missing 28 = .ok (.astore_n 3, 1) := dk_78 (dk_at dksX1_missing_1 8 rfl rfl)
theorem dX1_missing_29 : decode cX1_missing 29 = .ok (.iload_n 1, 1) := dk_27 (dk_at dksX1_missing_1 9 rfl rfl)
theorem dX1_missing_30 : decode cX1_missing 30 = .ok (.aload_n 3, 1) := dk_45 (dk_at dksX1_missing_1 10 rfl rfl)
theorem dX1_missing_31 : decode cX1_missing 31 = .ok (.bipush 109, 2) := dk_16 109 (dk_at dksX1_missing_1 11 rfl rfl)
theorem dX1_missing_33 : decode cX1_missing 33 = .ok (.invokevirtual 186, 3) := dk_182 0 186 (dk_at dksX1_missing_1 13 rfl rfl)
theorem dX1_missing_36 : decode cX1_missing 36 = .ok (.ifCond .eq 7, 3) := dk_153 0 7 (dk_at dksX1_missing_1 16 rfl rfl)
theorem dX1_missing_39 : decode cX1_missing 39 = .ok (.iconst 1, 1) := dk_4 (dk_at dksX1_missing_1 19 rfl rfl)
theorem dX1_missing_40 : decode cX1_missing 40 = .ok (.goto 4, 3) := dk_167 0 4 (dk_at dksX1_missing_1 20 rfl rfl)
theorem dX1_missing_43 : decode cX1_missing 43 = .ok (.iconst 0, 1) := dk_3 (dk_at dksX1_missing_1 23 rfl rfl)
theorem dX1_missing_44 : decode cX1_missing 44 = .ok (.iadd, 1) := dk_96 (dk_at dksX1_missing_2 0 rfl rfl)
theorem dX1_missing_45 : decode cX1_missing 45 = .ok (.istore_n 1, 1) := dk_60 (dk_at dksX1_missing_2 1 rfl rfl)
theorem dX1_missing_46 : decode cX1_missing 46 = .ok (.goto (-36), 3) := dk_167 255 220 (dk_at dksX1_missing_2 2 rfl rfl)
theorem dX1_missing_49 : decode cX1_missing 49 = .ok (.iload_n 1, 1) := dk_27 (dk_at dksX1_missing_2 5 rfl rfl)
theorem dX1_missing_50 : decode cX1_missing 50 = .ok (.ireturn, 1) := dk_172 (dk_at dksX1_missing_2 6 rfl rfl)
abbrev cX1_find : ByteArray := prog_1_method_60_code
def yX1_find : MethodName := ⟨RX1, "find", "(II)I"⟩
def dkwX1_find_2 : List UInt8 := [182, 0, 197, 42, 182, 1, 164, 172]
abbrev dktX1_find_2 : List UInt8 := dkwX1_find_2 ++ []
def dkwX1_find_1 : List UInt8 := [25, 4, 45, 180, 0, 106, 182, 0, 172, 153, 0, 7, 4, 167, 0, 4, 3, 184, 0, 176, 45, 25, 4]
abbrev dktX1_find_1 : List UInt8 := dkwX1_find_1 ++ dktX1_find_2
def dkwX1_find_0 : List UInt8 := [42, 27, 182, 0, 182, 78, 42, 28, 182, 0, 158, 58, 4, 45, 16, 109, 182, 0, 186, 153, 0, 20, 42]
abbrev dktX1_find_0 : List UInt8 := dkwX1_find_0 ++ dktX1_find_1
theorem dksX1_find_0 : cX1_find.data.toList.drop 0 = dktX1_find_0 := by decide +kernel
theorem dksX1_find_1 : cX1_find.data.toList.drop 23 = dktX1_find_1 := dk_seg dksX1_find_0 23 rfl rfl
theorem dksX1_find_2 : cX1_find.data.toList.drop 46 = dktX1_find_2 := dk_seg dksX1_find_1 23 rfl rfl
theorem dX1_find_0 : decode cX1_find 0 = .ok (.aload_n 0, 1) := dk_42 (dk_at dksX1_find_0 0 rfl rfl)
theorem dX1_find_1 : decode cX1_find 1 = .ok (.iload_n 1, 1) := dk_27 (dk_at dksX1_find_0 1 rfl rfl)
theorem dX1_find_2 : decode cX1_find 2 = .ok (.invokevirtual 182, 3) := dk_182 0 182 (dk_at dksX1_find_0 2 rfl rfl)
theorem dX1_find_5 : decode cX1_find 5 = .ok (.astore_n 3, 1) := dk_78 (dk_at dksX1_find_0 5 rfl rfl)
theorem dX1_find_6 : decode cX1_find 6 = .ok (.aload_n 0, 1) := dk_42 (dk_at dksX1_find_0 6 rfl rfl)
theorem dX1_find_7 : decode cX1_find 7 = .ok (.iload_n 2, 1) := dk_28 (dk_at dksX1_find_0 7 rfl rfl)
theorem dX1_find_8 : decode cX1_find 8 = .ok (.invokevirtual 158, 3) := dk_182 0 158 (dk_at dksX1_find_0 8 rfl rfl)
theorem dX1_find_11 : decode cX1_find 11 = .ok (.astore 4, 2) := dk_58 4 (dk_at dksX1_find_0 11 rfl rfl)
theorem dX1_find_13 : decode cX1_find 13 = .ok (.aload_n 3, 1) := dk_45 (dk_at dksX1_find_0 13 rfl rfl)
theorem dX1_find_14 : decode cX1_find 14 = .ok (.bipush 109, 2) := dk_16 109 (dk_at dksX1_find_0 14 rfl rfl)
theorem dX1_find_16 : decode cX1_find 16 = .ok (.invokevirtual 186, 3) := dk_182 0 186 (dk_at dksX1_find_0 16 rfl rfl)
theorem dX1_find_19 : decode cX1_find 19 = .ok (.ifCond .eq 20, 3) := dk_153 0 20 (dk_at dksX1_find_0 19 rfl rfl)
theorem dX1_find_22 : decode cX1_find 22 = .ok (.aload_n 0, 1) := dk_42 (dk_at dksX1_find_0 22 rfl rfl)
theorem dX1_find_23 : decode cX1_find 23 = .ok (.aload 4, 2) := dk_25 4 (dk_at dksX1_find_1 0 rfl rfl)
theorem dX1_find_25 : decode cX1_find 25 = .ok (.aload_n 3, 1) := dk_45 (dk_at dksX1_find_1 2 rfl rfl)
theorem dX1_find_26 : decode cX1_find 26 = .ok (.getfield 106, 3) := dk_180 0 106 (dk_at dksX1_find_1 3 rfl rfl)
theorem dX1_find_29 : decode cX1_find 29 = .ok (.invokevirtual 172, 3) := dk_182 0 172 (dk_at dksX1_find_1 6 rfl rfl)
theorem dX1_find_32 : decode cX1_find 32 = .ok (.ifCond .eq 7, 3) := dk_153 0 7 (dk_at dksX1_find_1 9 rfl rfl)
theorem dX1_find_35 : decode cX1_find 35 = .ok (.iconst 1, 1) := dk_4 (dk_at dksX1_find_1 12 rfl rfl)
theorem dX1_find_36 : decode cX1_find 36 = .ok (.goto 4, 3) := dk_167 0 4 (dk_at dksX1_find_1 13 rfl rfl)
theorem dX1_find_39 : decode cX1_find 39 = .ok (.iconst 0, 1) := dk_3 (dk_at dksX1_find_1 16 rfl rfl)
theorem dX1_find_40 : decode cX1_find 40 = .ok (.invokestatic 176, 3) := dk_184 0 176 (dk_at dksX1_find_1 17 rfl rfl)
theorem dX1_find_43 : decode cX1_find 43 = .ok (.aload_n 3, 1) := dk_45 (dk_at dksX1_find_1 20 rfl rfl)
theorem dX1_find_44 : decode cX1_find 44 = .ok (.aload 4, 2) := dk_25 4 (dk_at dksX1_find_1 21 rfl rfl)
theorem dX1_find_46 : decode cX1_find 46 = .ok (.invokevirtual 197, 3) := dk_182 0 197 (dk_at dksX1_find_2 0 rfl rfl)
theorem dX1_find_49 : decode cX1_find 49 = .ok (.aload_n 0, 1) := dk_42 (dk_at dksX1_find_2 3 rfl rfl)
theorem dX1_find_50 : decode cX1_find 50 = .ok (.invokevirtual 420, 3) := dk_182 1 164 (dk_at dksX1_find_2 4 rfl rfl)
theorem dX1_find_53 : decode cX1_find 53 = .ok (.ireturn, 1) := dk_172 (dk_at dksX1_find_2 7 rfl rfl)
abbrev cX1_shown : ByteArray := prog_1_method_62_code
def yX1_shown : MethodName := ⟨RX1, "shown", "(IIII)I"⟩
def dkwX1_shown_1 : List UInt8 := [184, 0, 139, 184, 0, 205, 25, 5, 21, 4, 182, 0, 70, 192, 0, 76, 180, 0, 128, 172]
abbrev dktX1_shown_1 : List UInt8 := dkwX1_shown_1 ++ []
def dkwX1_shown_0 : List UInt8 := [42, 42, 27, 182, 0, 158, 28, 29, 182, 1, 179, 58, 5, 21, 4, 3, 25, 5, 182, 0, 62, 4, 100]
abbrev dktX1_shown_0 : List UInt8 := dkwX1_shown_0 ++ dktX1_shown_1
theorem dksX1_shown_0 : cX1_shown.data.toList.drop 0 = dktX1_shown_0 := by decide +kernel
theorem dksX1_shown_1 : cX1_shown.data.toList.drop 23 = dktX1_shown_1 := dk_seg dksX1_shown_0 23 rfl rfl
theorem dX1_shown_0 : decode cX1_shown 0 = .ok (.aload_n 0, 1) := dk_42 (dk_at dksX1_shown_0 0 rfl rfl)
theorem dX1_shown_1 : decode cX1_shown 1 = .ok (.aload_n 0, 1) := dk_42 (dk_at dksX1_shown_0 1 rfl rfl)
theorem dX1_shown_2 : decode cX1_shown 2 = .ok (.iload_n 1, 1) := dk_27 (dk_at dksX1_shown_0 2 rfl rfl)
theorem dX1_shown_3 : decode cX1_shown 3 = .ok (.invokevirtual 158, 3) := dk_182 0 158 (dk_at dksX1_shown_0 3 rfl rfl)
theorem dX1_shown_6 : decode cX1_shown 6 = .ok (.iload_n 2, 1) := dk_28 (dk_at dksX1_shown_0 6 rfl rfl)
theorem dX1_shown_7 : decode cX1_shown 7 = .ok (.iload_n 3, 1) := dk_29 (dk_at dksX1_shown_0 7 rfl rfl)
theorem dX1_shown_8 : decode cX1_shown 8 = .ok (.invokevirtual 435, 3) := dk_182 1 179 (dk_at dksX1_shown_0 8 rfl rfl)
theorem dX1_shown_11 : decode cX1_shown 11 = .ok (.astore 5, 2) := dk_58 5 (dk_at dksX1_shown_0 11 rfl rfl)
theorem dX1_shown_13 : decode cX1_shown 13 = .ok (.iload 4, 2) := dk_21 4 (dk_at dksX1_shown_0 13 rfl rfl)
theorem dX1_shown_15 : decode cX1_shown 15 = .ok (.iconst 0, 1) := dk_3 (dk_at dksX1_shown_0 15 rfl rfl)
theorem dX1_shown_16 : decode cX1_shown 16 = .ok (.aload 5, 2) := dk_25 5 (dk_at dksX1_shown_0 16 rfl rfl)
theorem dX1_shown_18 : decode cX1_shown 18 = .ok (.invokevirtual 62, 3) := dk_182 0 62 (dk_at dksX1_shown_0 18 rfl rfl)
theorem dX1_shown_21 : decode cX1_shown 21 = .ok (.iconst 1, 1) := dk_4 (dk_at dksX1_shown_0 21 rfl rfl)
theorem dX1_shown_22 : decode cX1_shown 22 = .ok (.isub, 1) := dk_100 (dk_at dksX1_shown_0 22 rfl rfl)
theorem dX1_shown_23 : decode cX1_shown 23 = .ok (.invokestatic 139, 3) := dk_184 0 139 (dk_at dksX1_shown_1 0 rfl rfl)
theorem dX1_shown_26 : decode cX1_shown 26 = .ok (.invokestatic 205, 3) := dk_184 0 205 (dk_at dksX1_shown_1 3 rfl rfl)
theorem dX1_shown_29 : decode cX1_shown 29 = .ok (.aload 5, 2) := dk_25 5 (dk_at dksX1_shown_1 6 rfl rfl)
theorem dX1_shown_31 : decode cX1_shown 31 = .ok (.iload 4, 2) := dk_21 4 (dk_at dksX1_shown_1 8 rfl rfl)
theorem dX1_shown_33 : decode cX1_shown 33 = .ok (.invokevirtual 70, 3) := dk_182 0 70 (dk_at dksX1_shown_1 10 rfl rfl)
theorem dX1_shown_36 : decode cX1_shown 36 = .ok (.checkcast 76, 3) := dk_192 0 76 (dk_at dksX1_shown_1 13 rfl rfl)
theorem dX1_shown_39 : decode cX1_shown 39 = .ok (.getfield 128, 3) := dk_180 0 128 (dk_at dksX1_shown_1 16 rfl rfl)
theorem dX1_shown_42 : decode cX1_shown 42 = .ok (.ireturn, 1) := dk_172 (dk_at dksX1_shown_1 19 rfl rfl)
abbrev cX1_plan : ByteArray := prog_1_method_61_code
def yX1_plan : MethodName := ⟨RX1, "plan", "(LVaultyard$Room;II)Ljava/util/ArrayList;"⟩
def dkwX1_plan_8 : List UInt8 := [162, 0, 17, 25, 5, 25, 7, 182, 0, 131, 87, 132, 9, 1, 167, 255, 229, 167, 255, 92, 25, 5, 176]
abbrev dktX1_plan_8 : List UInt8 := dkwX1_plan_8 ++ []
def dkwX1_plan_7 : List UInt8 := [180, 0, 162, 108, 54, 8, 3, 54, 9, 21, 9, 21, 8, 162, 0, 26, 25, 5, 182, 0, 62, 29]
abbrev dktX1_plan_7 : List UInt8 := dkwX1_plan_7 ++ dktX1_plan_8
def dkwX1_plan_6 : List UInt8 := [167, 0, 26, 3, 25, 7, 180, 1, 173, 182, 1, 177, 25, 7, 180, 0, 219, 100, 184, 0, 242, 43]
abbrev dktX1_plan_6 : List UInt8 := dkwX1_plan_6 ++ dktX1_plan_7
def dkwX1_plan_5 : List UInt8 := [180, 1, 45, 192, 0, 76, 58, 7, 25, 4, 25, 7, 182, 1, 170, 87, 43, 180, 0, 162, 154, 0, 7, 29]
abbrev dktX1_plan_5 : List UInt8 := dkwX1_plan_5 ++ dktX1_plan_6
def dkwX1_plan_4 : List UInt8 := [25, 8, 25, 8, 180, 1, 93, 116, 184, 1, 31, 184, 1, 167, 182, 1, 41, 167, 255, 215, 25, 6]
abbrev dktX1_plan_4 : List UInt8 := dkwX1_plan_4 ++ dktX1_plan_5
def dkwX1_plan_3 : List UInt8 := [25, 7, 185, 0, 88, 1, 0, 153, 0, 37, 25, 7, 185, 0, 94, 1, 0, 192, 0, 76, 58, 8, 25, 6]
abbrev dktX1_plan_3 : List UInt8 := dkwX1_plan_3 ++ dktX1_plan_4
def dkwX1_plan_2 : List UInt8 := [182, 0, 62, 29, 162, 0, 153, 187, 1, 10, 89, 183, 1, 12, 58, 6, 25, 4, 182, 0, 84, 58, 7]
abbrev dktX1_plan_2 : List UInt8 := dkwX1_plan_2 ++ dktX1_plan_3
def dkwX1_plan_1 : List UInt8 := [184, 0, 135, 187, 0, 7, 89, 183, 0, 9, 58, 5, 25, 4, 182, 1, 103, 154, 0, 162, 25, 5]
abbrev dktX1_plan_1 : List UInt8 := dkwX1_plan_1 ++ dktX1_plan_2
def dkwX1_plan_0 : List UInt8 := [42, 28, 182, 1, 160, 58, 4, 29, 4, 17, 1, 109, 42, 180, 0, 80, 17, 1, 109, 112, 100, 184, 0, 139]
abbrev dktX1_plan_0 : List UInt8 := dkwX1_plan_0 ++ dktX1_plan_1
theorem dksX1_plan_0 : cX1_plan.data.toList.drop 0 = dktX1_plan_0 := by decide +kernel
theorem dksX1_plan_1 : cX1_plan.data.toList.drop 24 = dktX1_plan_1 := dk_seg dksX1_plan_0 24 rfl rfl
theorem dksX1_plan_2 : cX1_plan.data.toList.drop 46 = dktX1_plan_2 := dk_seg dksX1_plan_1 22 rfl rfl
theorem dksX1_plan_3 : cX1_plan.data.toList.drop 69 = dktX1_plan_3 := dk_seg dksX1_plan_2 23 rfl rfl
theorem dksX1_plan_4 : cX1_plan.data.toList.drop 93 = dktX1_plan_4 := dk_seg dksX1_plan_3 24 rfl rfl
theorem dksX1_plan_5 : cX1_plan.data.toList.drop 115 = dktX1_plan_5 := dk_seg dksX1_plan_4 22 rfl rfl
theorem dksX1_plan_6 : cX1_plan.data.toList.drop 139 = dktX1_plan_6 := dk_seg dksX1_plan_5 24 rfl rfl
theorem dksX1_plan_7 : cX1_plan.data.toList.drop 161 = dktX1_plan_7 := dk_seg dksX1_plan_6 22 rfl rfl
theorem dksX1_plan_8 : cX1_plan.data.toList.drop 183 = dktX1_plan_8 := dk_seg dksX1_plan_7 22 rfl rfl
theorem dX1_plan_0 : decode cX1_plan 0 = .ok (.aload_n 0, 1) := dk_42 (dk_at dksX1_plan_0 0 rfl rfl)
theorem dX1_plan_1 : decode cX1_plan 1 = .ok (.iload_n 2, 1) := dk_28 (dk_at dksX1_plan_0 1 rfl rfl)
theorem dX1_plan_2 : decode cX1_plan 2 = .ok (.invokevirtual 416, 3) := dk_182 1 160 (dk_at dksX1_plan_0 2 rfl rfl)
theorem dX1_plan_5 : decode cX1_plan 5 = .ok (.astore 4, 2) := dk_58 4 (dk_at dksX1_plan_0 5 rfl rfl)
theorem dX1_plan_7 : decode cX1_plan 7 = .ok (.iload_n 3, 1) := dk_29 (dk_at dksX1_plan_0 7 rfl rfl)
theorem dX1_plan_8 : decode cX1_plan 8 = .ok (.iconst 1, 1) := dk_4 (dk_at dksX1_plan_0 8 rfl rfl)
theorem dX1_plan_9 : decode cX1_plan 9 = .ok (.sipush 365, 3) := dk_17 1 109 (dk_at dksX1_plan_0 9 rfl rfl)
theorem dX1_plan_12 : decode cX1_plan 12 = .ok (.aload_n 0, 1) := dk_42 (dk_at dksX1_plan_0 12 rfl rfl)
theorem dX1_plan_13 : decode cX1_plan 13 = .ok (.getfield 80, 3) := dk_180 0 80 (dk_at dksX1_plan_0 13 rfl rfl)
theorem dX1_plan_16 : decode cX1_plan 16 = .ok (.sipush 365, 3) := dk_17 1 109 (dk_at dksX1_plan_0 16 rfl rfl)
theorem dX1_plan_19 : decode cX1_plan 19 = .ok (.irem, 1) := dk_112 (dk_at dksX1_plan_0 19 rfl rfl)
theorem dX1_plan_20 : decode cX1_plan 20 = .ok (.isub, 1) := dk_100 (dk_at dksX1_plan_0 20 rfl rfl)
theorem dX1_plan_21 : decode cX1_plan 21 = .ok (.invokestatic 139, 3) := dk_184 0 139 (dk_at dksX1_plan_0 21 rfl rfl)
theorem dX1_plan_24 : decode cX1_plan 24 = .ok (.invokestatic 135, 3) := dk_184 0 135 (dk_at dksX1_plan_1 0 rfl rfl)
theorem dX1_plan_27 : decode cX1_plan 27 = .ok (.new 7, 3) := dk_187 0 7 (dk_at dksX1_plan_1 3 rfl rfl)
theorem dX1_plan_30 : decode cX1_plan 30 = .ok (.dup, 1) := dk_89 (dk_at dksX1_plan_1 6 rfl rfl)
theorem dX1_plan_31 : decode cX1_plan 31 = .ok (.invokespecial 9, 3) := dk_183 0 9 (dk_at dksX1_plan_1 7 rfl rfl)
theorem dX1_plan_34 : decode cX1_plan 34 = .ok (.astore 5, 2) := dk_58 5 (dk_at dksX1_plan_1 10 rfl rfl)
theorem dX1_plan_36 : decode cX1_plan 36 = .ok (.aload 4, 2) := dk_25 4 (dk_at dksX1_plan_1 12 rfl rfl)
theorem dX1_plan_38 : decode cX1_plan 38 = .ok (.invokevirtual 359, 3) := dk_182 1 103 (dk_at dksX1_plan_1 14 rfl rfl)
theorem dX1_plan_41 : decode cX1_plan 41 = .ok (.ifCond .ne 162, 3) := dk_154 0 162 (dk_at dksX1_plan_1 17 rfl rfl)
theorem dX1_plan_44 : decode cX1_plan 44 = .ok (.aload 5, 2) := dk_25 5 (dk_at dksX1_plan_1 20 rfl rfl)
theorem dX1_plan_46 : decode cX1_plan 46 = .ok (.invokevirtual 62, 3) := dk_182 0 62 (dk_at dksX1_plan_2 0 rfl rfl)
theorem dX1_plan_49 : decode cX1_plan 49 = .ok (.iload_n 3, 1) := dk_29 (dk_at dksX1_plan_2 3 rfl rfl)
theorem dX1_plan_50 : decode cX1_plan 50 = .ok (.if_icmp .ge 153, 3) := dk_162 0 153 (dk_at dksX1_plan_2 4 rfl rfl)
theorem dX1_plan_53 : decode cX1_plan 53 = .ok (.new 266, 3) := dk_187 1 10 (dk_at dksX1_plan_2 7 rfl rfl)
theorem dX1_plan_56 : decode cX1_plan 56 = .ok (.dup, 1) := dk_89 (dk_at dksX1_plan_2 10 rfl rfl)
theorem dX1_plan_57 : decode cX1_plan 57 = .ok (.invokespecial 268, 3) := dk_183 1 12 (dk_at dksX1_plan_2 11 rfl rfl)
theorem dX1_plan_60 : decode cX1_plan 60 = .ok (.astore 6, 2) := dk_58 6 (dk_at dksX1_plan_2 14 rfl rfl)
theorem dX1_plan_62 : decode cX1_plan 62 = .ok (.aload 4, 2) := dk_25 4 (dk_at dksX1_plan_2 16 rfl rfl)
theorem dX1_plan_64 : decode cX1_plan 64 = .ok (.invokevirtual 84, 3) := dk_182 0 84 (dk_at dksX1_plan_2 18 rfl rfl)
theorem dX1_plan_67 : decode cX1_plan 67 = .ok (.astore 7, 2) := dk_58 7 (dk_at dksX1_plan_2 21 rfl rfl)
theorem dX1_plan_69 : decode cX1_plan 69 = .ok (.aload 7, 2) := dk_25 7 (dk_at dksX1_plan_3 0 rfl rfl)
theorem dX1_plan_71 : decode cX1_plan 71 = .ok (.invokeinterface 88 1, 5) := by decide +kernel
theorem dX1_plan_76 : decode cX1_plan 76 = .ok (.ifCond .eq 37, 3) := dk_153 0 37 (dk_at dksX1_plan_3 7 rfl rfl)
theorem dX1_plan_79 : decode cX1_plan 79 = .ok (.aload 7, 2) := dk_25 7 (dk_at dksX1_plan_3 10 rfl rfl)
theorem dX1_plan_81 : decode cX1_plan 81 = .ok (.invokeinterface 94 1, 5) := by decide +kernel
theorem dX1_plan_86 : decode cX1_plan 86 = .ok (.checkcast 76, 3) := dk_192 0 76 (dk_at dksX1_plan_3 17 rfl rfl)
theorem dX1_plan_89 : decode cX1_plan 89 = .ok (.astore 8, 2) := dk_58 8 (dk_at dksX1_plan_3 20 rfl rfl)
theorem dX1_plan_91 : decode cX1_plan 91 = .ok (.aload 6, 2) := dk_25 6 (dk_at dksX1_plan_3 22 rfl rfl)
theorem dX1_plan_93 : decode cX1_plan 93 = .ok (.aload 8, 2) := dk_25 8 (dk_at dksX1_plan_4 0 rfl rfl)
theorem dX1_plan_95 : decode cX1_plan 95 = .ok (.aload 8, 2) := dk_25 8 (dk_at dksX1_plan_4 2 rfl rfl)
theorem dX1_plan_97 : decode cX1_plan 97 = .ok (.getfield 349, 3) := dk_180 1 93 (dk_at dksX1_plan_4 4 rfl rfl)
theorem dX1_plan_100 : decode cX1_plan 100 = .ok (.ineg, 1) := dk_116 (dk_at dksX1_plan_4 7 rfl rfl)
theorem dX1_plan_101 : decode cX1_plan 101 = .ok (.invokestatic 287, 3) := dk_184 1 31 (dk_at dksX1_plan_4 8 rfl rfl)
theorem dX1_plan_104 : decode cX1_plan 104 = .ok (.invokestatic 423, 3) := dk_184 1 167 (dk_at dksX1_plan_4 11 rfl rfl)
theorem dX1_plan_107 : decode cX1_plan 107 = .ok (.invokevirtual 297, 3) := dk_182 1 41 (dk_at dksX1_plan_4 14 rfl rfl)
theorem dX1_plan_110 : decode cX1_plan 110 = .ok (.goto (-41), 3) := dk_167 255 215 (dk_at dksX1_plan_4 17 rfl rfl)
theorem dX1_plan_113 : decode cX1_plan 113 = .ok (.aload 6, 2) := dk_25 6 (dk_at dksX1_plan_4 20 rfl rfl)
theorem dX1_plan_115 : decode cX1_plan 115 = .ok (.getfield 301, 3) := dk_180 1 45 (dk_at dksX1_plan_5 0 rfl rfl)
theorem dX1_plan_118 : decode cX1_plan 118 = .ok (.checkcast 76, 3) := dk_192 0 76 (dk_at dksX1_plan_5 3 rfl rfl)
theorem dX1_plan_121 : decode cX1_plan 121 = .ok (.astore 7, 2) := dk_58 7 (dk_at dksX1_plan_5 6 rfl rfl)
theorem dX1_plan_123 : decode cX1_plan 123 = .ok (.aload 4, 2) := dk_25 4 (dk_at dksX1_plan_5 8 rfl rfl)
theorem dX1_plan_125 : decode cX1_plan 125 = .ok (.aload 7, 2) := dk_25 7 (dk_at dksX1_plan_5 10 rfl rfl)
theorem dX1_plan_127 : decode cX1_plan 127 = .ok (.invokevirtual 426, 3) := dk_182 1 170 (dk_at dksX1_plan_5 12 rfl rfl)
theorem dX1_plan_130 : decode cX1_plan 130 = .ok (.pop, 1) := dk_87 (dk_at dksX1_plan_5 15 rfl rfl)
theorem dX1_plan_131 : decode cX1_plan 131 = .ok (.aload_n 1, 1) := dk_43 (dk_at dksX1_plan_5 16 rfl rfl)
theorem dX1_plan_132 : decode cX1_plan 132 = .ok (.getfield 162, 3) := dk_180 0 162 (dk_at dksX1_plan_5 17 rfl rfl)
theorem dX1_plan_135 : decode cX1_plan 135 = .ok (.ifCond .ne 7, 3) := dk_154 0 7 (dk_at dksX1_plan_5 20 rfl rfl)
theorem dX1_plan_138 : decode cX1_plan 138 = .ok (.iload_n 3, 1) := dk_29 (dk_at dksX1_plan_5 23 rfl rfl)
theorem dX1_plan_139 : decode cX1_plan 139 = .ok (.goto 26, 3) := dk_167 0 26 (dk_at dksX1_plan_6 0 rfl rfl)
theorem dX1_plan_142 : decode cX1_plan 142 = .ok (.iconst 0, 1) := dk_3 (dk_at dksX1_plan_6 3 rfl rfl)
theorem dX1_plan_143 : decode cX1_plan 143 = .ok (.aload 7, 2) := dk_25 7 (dk_at dksX1_plan_6 4 rfl rfl)
theorem dX1_plan_145 : decode cX1_plan 145 = .ok (.getfield 429, 3) := dk_180 1 173 (dk_at dksX1_plan_6 6 rfl rfl)
theorem dX1_plan_148 : decode cX1_plan 148 = .ok (.invokevirtual 433, 3) := dk_182 1 177 (dk_at dksX1_plan_6 9 rfl rfl)
theorem dX1_plan_151 : decode cX1_plan 151 = .ok (.aload 7, 2) := dk_25 7 (dk_at dksX1_plan_6 12 rfl rfl)
theorem dX1_plan_153 : decode cX1_plan 153 = .ok (.getfield 219, 3) := dk_180 0 219 (dk_at dksX1_plan_6 14 rfl rfl)
theorem dX1_plan_156 : decode cX1_plan 156 = .ok (.isub, 1) := dk_100 (dk_at dksX1_plan_6 17 rfl rfl)
theorem dX1_plan_157 : decode cX1_plan 157 = .ok (.invokestatic 242, 3) := dk_184 0 242 (dk_at dksX1_plan_6 18 rfl rfl)
theorem dX1_plan_160 : decode cX1_plan 160 = .ok (.aload_n 1, 1) := dk_43 (dk_at dksX1_plan_6 21 rfl rfl)
theorem dX1_plan_161 : decode cX1_plan 161 = .ok (.getfield 162, 3) := dk_180 0 162 (dk_at dksX1_plan_7 0 rfl rfl)
theorem dX1_plan_164 : decode cX1_plan 164 = .ok (.idiv, 1) := dk_108 (dk_at dksX1_plan_7 3 rfl rfl)
theorem dX1_plan_165 : decode cX1_plan 165 = .ok (.istore 8, 2) := dk_54 8 (dk_at dksX1_plan_7 4 rfl rfl)
theorem dX1_plan_167 : decode cX1_plan 167 = .ok (.iconst 0, 1) := dk_3 (dk_at dksX1_plan_7 6 rfl rfl)
theorem dX1_plan_168 : decode cX1_plan 168 = .ok (.istore 9, 2) := dk_54 9 (dk_at dksX1_plan_7 7 rfl rfl)
theorem dX1_plan_170 : decode cX1_plan 170 = .ok (.iload 9, 2) := dk_21 9 (dk_at dksX1_plan_7 9 rfl rfl)
theorem dX1_plan_172 : decode cX1_plan 172 = .ok (.iload 8, 2) := dk_21 8 (dk_at dksX1_plan_7 11 rfl rfl)
theorem dX1_plan_174 : decode cX1_plan 174 = .ok (.if_icmp .ge 26, 3) := dk_162 0 26 (dk_at dksX1_plan_7 13 rfl rfl)
theorem dX1_plan_177 : decode cX1_plan 177 = .ok (.aload 5, 2) := dk_25 5 (dk_at dksX1_plan_7 16 rfl rfl)
theorem dX1_plan_179 : decode cX1_plan 179 = .ok (.invokevirtual 62, 3) := dk_182 0 62 (dk_at dksX1_plan_7 18 rfl rfl)
theorem dX1_plan_182 : decode cX1_plan 182 = .ok (.iload_n 3, 1) := dk_29 (dk_at dksX1_plan_7 21 rfl rfl)
theorem dX1_plan_183 : decode cX1_plan 183 = .ok (.if_icmp .ge 17, 3) := dk_162 0 17 (dk_at dksX1_plan_8 0 rfl rfl)
theorem dX1_plan_186 : decode cX1_plan 186 = .ok (.aload 5, 2) := dk_25 5 (dk_at dksX1_plan_8 3 rfl rfl)
theorem dX1_plan_188 : decode cX1_plan 188 = .ok (.aload 7, 2) := dk_25 7 (dk_at dksX1_plan_8 5 rfl rfl)
theorem dX1_plan_190 : decode cX1_plan 190 = .ok (.invokevirtual 131, 3) := dk_182 0 131 (dk_at dksX1_plan_8 7 rfl rfl)
theorem dX1_plan_193 : decode cX1_plan 193 = .ok (.pop, 1) := dk_87 (dk_at dksX1_plan_8 10 rfl rfl)
theorem dX1_plan_194 : decode cX1_plan 194 = .ok (.iinc 9 1, 3) := dk_132 9 1 (dk_at dksX1_plan_8 11 rfl rfl)
theorem dX1_plan_197 : decode cX1_plan 197 = .ok (.goto (-27), 3) := dk_167 255 229 (dk_at dksX1_plan_8 14 rfl rfl)
theorem dX1_plan_200 : decode cX1_plan 200 = .ok (.goto (-164), 3) := dk_167 255 92 (dk_at dksX1_plan_8 17 rfl rfl)
theorem dX1_plan_203 : decode cX1_plan 203 = .ok (.aload 5, 2) := dk_25 5 (dk_at dksX1_plan_8 20 rfl rfl)
theorem dX1_plan_205 : decode cX1_plan 205 = .ok (.areturn, 1) := dk_176 (dk_at dksX1_plan_8 22 rfl rfl)
abbrev cX1_planned : ByteArray := prog_1_method_63_code
def yX1_planned : MethodName := ⟨RX1, "planned", "(III)I"⟩
def dkwX1_planned_0 : List UInt8 := [42, 42, 27, 182, 0, 158, 28, 29, 182, 1, 179, 182, 0, 62, 172]
abbrev dktX1_planned_0 : List UInt8 := dkwX1_planned_0 ++ []
theorem dksX1_planned_0 : cX1_planned.data.toList.drop 0 = dktX1_planned_0 := by decide +kernel
theorem dX1_planned_0 : decode cX1_planned 0 = .ok (.aload_n 0, 1) := dk_42 (dk_at dksX1_planned_0 0 rfl rfl)
theorem dX1_planned_1 : decode cX1_planned 1 = .ok (.aload_n 0, 1) := dk_42 (dk_at dksX1_planned_0 1 rfl rfl)
theorem dX1_planned_2 : decode cX1_planned 2 = .ok (.iload_n 1, 1) := dk_27 (dk_at dksX1_planned_0 2 rfl rfl)
theorem dX1_planned_3 : decode cX1_planned 3 = .ok (.invokevirtual 158, 3) := dk_182 0 158 (dk_at dksX1_planned_0 3 rfl rfl)
theorem dX1_planned_6 : decode cX1_planned 6 = .ok (.iload_n 2, 1) := dk_28 (dk_at dksX1_planned_0 6 rfl rfl)
theorem dX1_planned_7 : decode cX1_planned 7 = .ok (.iload_n 3, 1) := dk_29 (dk_at dksX1_planned_0 7 rfl rfl)
theorem dX1_planned_8 : decode cX1_planned 8 = .ok (.invokevirtual 435, 3) := dk_182 1 179 (dk_at dksX1_planned_0 8 rfl rfl)
theorem dX1_planned_11 : decode cX1_planned 11 = .ok (.invokevirtual 62, 3) := dk_182 0 62 (dk_at dksX1_planned_0 11 rfl rfl)
theorem dX1_planned_14 : decode cX1_planned 14 = .ok (.ireturn, 1) := dk_172 (dk_at dksX1_planned_0 14 rfl rfl)
abbrev cX1_prior : ByteArray := prog_1_method_64_code
def yX1_prior : MethodName := ⟨RX1, "prior", "(III)I"⟩
def dkwX1_prior_3 : List UInt8 := [181, 1, 190, 21, 5, 172]
abbrev dktX1_prior_3 : List UInt8 := dkwX1_prior_3 ++ []
def dkwX1_prior_2 : List UInt8 := [184, 0, 176, 25, 4, 180, 1, 186, 136, 54, 5, 25, 4, 28, 133, 181, 1, 186, 25, 4, 29, 133]
abbrev dktX1_prior_2 : List UInt8 := dkwX1_prior_2 ++ dktX1_prior_3
def dkwX1_prior_1 : List UInt8 := [153, 0, 7, 4, 167, 0, 4, 3, 184, 0, 135, 25, 4, 180, 1, 183, 154, 0, 7, 4, 167, 0, 4, 3]
abbrev dktX1_prior_1 : List UInt8 := dkwX1_prior_1 ++ dktX1_prior_2
def dkwX1_prior_0 : List UInt8 := [42, 27, 182, 0, 182, 58, 4, 28, 4, 16, 99, 184, 0, 139, 153, 0, 17, 29, 4, 16, 99, 184, 0, 139]
abbrev dktX1_prior_0 : List UInt8 := dkwX1_prior_0 ++ dktX1_prior_1
theorem dksX1_prior_0 : cX1_prior.data.toList.drop 0 = dktX1_prior_0 := by decide +kernel
theorem dksX1_prior_1 : cX1_prior.data.toList.drop 24 = dktX1_prior_1 := dk_seg dksX1_prior_0 24 rfl rfl
theorem dksX1_prior_2 : cX1_prior.data.toList.drop 48 = dktX1_prior_2 := dk_seg dksX1_prior_1 24 rfl rfl
theorem dksX1_prior_3 : cX1_prior.data.toList.drop 70 = dktX1_prior_3 := dk_seg dksX1_prior_2 22 rfl rfl
theorem dX1_prior_0 : decode cX1_prior 0 = .ok (.aload_n 0, 1) := dk_42 (dk_at dksX1_prior_0 0 rfl rfl)
theorem dX1_prior_1 : decode cX1_prior 1 = .ok (.iload_n 1, 1) := dk_27 (dk_at dksX1_prior_0 1 rfl rfl)
theorem dX1_prior_2 : decode cX1_prior 2 = .ok (.invokevirtual 182, 3) := dk_182 0 182 (dk_at dksX1_prior_0 2 rfl rfl)
theorem dX1_prior_5 : decode cX1_prior 5 = .ok (.astore 4, 2) := dk_58 4 (dk_at dksX1_prior_0 5 rfl rfl)
theorem dX1_prior_7 : decode cX1_prior 7 = .ok (.iload_n 2, 1) := dk_28 (dk_at dksX1_prior_0 7 rfl rfl)
theorem dX1_prior_8 : decode cX1_prior 8 = .ok (.iconst 1, 1) := dk_4 (dk_at dksX1_prior_0 8 rfl rfl)
theorem dX1_prior_9 : decode cX1_prior 9 = .ok (.bipush 99, 2) := dk_16 99 (dk_at dksX1_prior_0 9 rfl rfl)
theorem dX1_prior_11 : decode cX1_prior 11 = .ok (.invokestatic 139, 3) := dk_184 0 139 (dk_at dksX1_prior_0 11 rfl rfl)
theorem dX1_prior_14 : decode cX1_prior 14 = .ok (.ifCond .eq 17, 3) := dk_153 0 17 (dk_at dksX1_prior_0 14 rfl rfl)
theorem dX1_prior_17 : decode cX1_prior 17 = .ok (.iload_n 3, 1) := dk_29 (dk_at dksX1_prior_0 17 rfl rfl)
theorem dX1_prior_18 : decode cX1_prior 18 = .ok (.iconst 1, 1) := dk_4 (dk_at dksX1_prior_0 18 rfl rfl)
theorem dX1_prior_19 : decode cX1_prior 19 = .ok (.bipush 99, 2) := dk_16 99 (dk_at dksX1_prior_0 19 rfl rfl)
theorem dX1_prior_21 : decode cX1_prior 21 = .ok (.invokestatic 139, 3) := dk_184 0 139 (dk_at dksX1_prior_0 21 rfl rfl)
theorem dX1_prior_24 : decode cX1_prior 24 = .ok (.ifCond .eq 7, 3) := dk_153 0 7 (dk_at dksX1_prior_1 0 rfl rfl)
theorem dX1_prior_27 : decode cX1_prior 27 = .ok (.iconst 1, 1) := dk_4 (dk_at dksX1_prior_1 3 rfl rfl)
theorem dX1_prior_28 : decode cX1_prior 28 = .ok (.goto 4, 3) := dk_167 0 4 (dk_at dksX1_prior_1 4 rfl rfl)
theorem dX1_prior_31 : decode cX1_prior 31 = .ok (.iconst 0, 1) := dk_3 (dk_at dksX1_prior_1 7 rfl rfl)
theorem dX1_prior_32 : decode cX1_prior 32 = .ok (.invokestatic 135, 3) := dk_184 0 135 (dk_at dksX1_prior_1 8 rfl rfl)
theorem dX1_prior_35 : decode cX1_prior 35 = .ok (.aload 4, 2) := dk_25 4 (dk_at dksX1_prior_1 11 rfl rfl)
theorem dX1_prior_37 : decode cX1_prior 37 = .ok (.getfield 439, 3) := dk_180 1 183 (dk_at dksX1_prior_1 13 rfl rfl)
theorem dX1_prior_40 : decode cX1_prior 40 = .ok (.ifCond .ne 7, 3) := dk_154 0 7 (dk_at dksX1_prior_1 16 rfl rfl)
theorem dX1_prior_43 : decode cX1_prior 43 = .ok (.iconst 1, 1) := dk_4 (dk_at dksX1_prior_1 19 rfl rfl)
theorem dX1_prior_44 : decode cX1_prior 44 = .ok (.goto 4, 3) := dk_167 0 4 (dk_at dksX1_prior_1 20 rfl rfl)
theorem dX1_prior_47 : decode cX1_prior 47 = .ok (.iconst 0, 1) := dk_3 (dk_at dksX1_prior_1 23 rfl rfl)
theorem dX1_prior_48 : decode cX1_prior 48 = .ok (.invokestatic 176, 3) := dk_184 0 176 (dk_at dksX1_prior_2 0 rfl rfl)
theorem dX1_prior_51 : decode cX1_prior 51 = .ok (.aload 4, 2) := dk_25 4 (dk_at dksX1_prior_2 3 rfl rfl)
theorem dX1_prior_53 : decode cX1_prior 53 = .ok (.getfield 442, 3) := dk_180 1 186 (dk_at dksX1_prior_2 5 rfl rfl)
theorem dX1_prior_56 : decode cX1_prior 56 = .ok (.l2i, 1) := dk_136 (dk_at dksX1_prior_2 8 rfl rfl)
theorem dX1_prior_57 : decode cX1_prior 57 = .ok (.istore 5, 2) := dk_54 5 (dk_at dksX1_prior_2 9 rfl rfl)
theorem dX1_prior_59 : decode cX1_prior 59 = .ok (.aload 4, 2) := dk_25 4 (dk_at dksX1_prior_2 11 rfl rfl)
theorem dX1_prior_61 : decode cX1_prior 61 = .ok (.iload_n 2, 1) := dk_28 (dk_at dksX1_prior_2 13 rfl rfl)
theorem dX1_prior_62 : decode cX1_prior 62 = .ok (.i2l, 1) := dk_133 (dk_at dksX1_prior_2 14 rfl rfl)
theorem dX1_prior_63 : decode cX1_prior 63 = .ok (.putfield 442, 3) := dk_181 1 186 (dk_at dksX1_prior_2 15 rfl rfl)
theorem dX1_prior_66 : decode cX1_prior 66 = .ok (.aload 4, 2) := dk_25 4 (dk_at dksX1_prior_2 18 rfl rfl)
theorem dX1_prior_68 : decode cX1_prior 68 = .ok (.iload_n 3, 1) := dk_29 (dk_at dksX1_prior_2 20 rfl rfl)
theorem dX1_prior_69 : decode cX1_prior 69 = .ok (.i2l, 1) := dk_133 (dk_at dksX1_prior_2 21 rfl rfl)
theorem dX1_prior_70 : decode cX1_prior 70 = .ok (.putfield 446, 3) := dk_181 1 190 (dk_at dksX1_prior_3 0 rfl rfl)
theorem dX1_prior_73 : decode cX1_prior 73 = .ok (.iload 5, 2) := dk_21 5 (dk_at dksX1_prior_3 3 rfl rfl)
theorem dX1_prior_75 : decode cX1_prior 75 = .ok (.ireturn, 1) := dk_172 (dk_at dksX1_prior_3 5 rfl rfl)
abbrev cX1_test : ByteArray := prog_1_method_66_code
def yX1_test : MethodName := ⟨RX1, "test", "(IIIZ)I"⟩
def dkwX1_test_5 : List UInt8 := [180, 1, 183, 172]
abbrev dktX1_test_5 : List UInt8 := dkwX1_test_5 ++ []
def dkwX1_test_4 : List UInt8 := [180, 1, 190, 21, 4, 153, 0, 8, 29, 133, 167, 0, 8, 16, 100, 29, 100, 133, 105, 181, 1, 190, 25, 5]
abbrev dktX1_test_4 : List UInt8 := dkwX1_test_4 ++ dktX1_test_5
def dkwX1_test_3 : List UInt8 := [21, 4, 153, 0, 8, 28, 133, 167, 0, 8, 16, 100, 28, 100, 133, 105, 181, 1, 186, 25, 5, 89]
abbrev dktX1_test_3 : List UInt8 := dkwX1_test_3 ++ dktX1_test_4
def dkwX1_test_2 : List UInt8 := [167, 0, 4, 3, 184, 0, 143, 25, 5, 89, 180, 1, 183, 4, 96, 181, 1, 183, 25, 5, 89, 180, 1, 186]
abbrev dktX1_test_2 : List UInt8 := dkwX1_test_2 ++ dktX1_test_3
def dkwX1_test_1 : List UInt8 := [153, 0, 7, 4, 167, 0, 4, 3, 184, 0, 135, 25, 5, 180, 1, 183, 16, 8, 162, 0, 7, 4]
abbrev dktX1_test_1 : List UInt8 := dkwX1_test_1 ++ dktX1_test_2
def dkwX1_test_0 : List UInt8 := [42, 27, 182, 0, 182, 58, 5, 28, 4, 16, 99, 184, 0, 139, 153, 0, 17, 29, 4, 16, 99, 184, 0, 139]
abbrev dktX1_test_0 : List UInt8 := dkwX1_test_0 ++ dktX1_test_1
theorem dksX1_test_0 : cX1_test.data.toList.drop 0 = dktX1_test_0 := by decide +kernel
theorem dksX1_test_1 : cX1_test.data.toList.drop 24 = dktX1_test_1 := dk_seg dksX1_test_0 24 rfl rfl
theorem dksX1_test_2 : cX1_test.data.toList.drop 46 = dktX1_test_2 := dk_seg dksX1_test_1 22 rfl rfl
theorem dksX1_test_3 : cX1_test.data.toList.drop 70 = dktX1_test_3 := dk_seg dksX1_test_2 24 rfl rfl
theorem dksX1_test_4 : cX1_test.data.toList.drop 92 = dktX1_test_4 := dk_seg dksX1_test_3 22 rfl rfl
theorem dksX1_test_5 : cX1_test.data.toList.drop 116 = dktX1_test_5 := dk_seg dksX1_test_4 24 rfl rfl
theorem dX1_test_0 : decode cX1_test 0 = .ok (.aload_n 0, 1) := dk_42 (dk_at dksX1_test_0 0 rfl rfl)
theorem dX1_test_1 : decode cX1_test 1 = .ok (.iload_n 1, 1) := dk_27 (dk_at dksX1_test_0 1 rfl rfl)
theorem dX1_test_2 : decode cX1_test 2 = .ok (.invokevirtual 182, 3) := dk_182 0 182 (dk_at dksX1_test_0 2 rfl rfl)
theorem dX1_test_5 : decode cX1_test 5 = .ok (.astore 5, 2) := dk_58 5 (dk_at dksX1_test_0 5 rfl rfl)
theorem dX1_test_7 : decode cX1_test 7 = .ok (.iload_n 2, 1) := dk_28 (dk_at dksX1_test_0 7 rfl rfl)
theorem dX1_test_8 : decode cX1_test 8 = .ok (.iconst 1, 1) := dk_4 (dk_at dksX1_test_0 8 rfl rfl)
theorem dX1_test_9 : decode cX1_test 9 = .ok (.bipush 99, 2) := dk_16 99 (dk_at dksX1_test_0 9 rfl rfl)
theorem dX1_test_11 : decode cX1_test 11 = .ok (.invokestatic 139, 3) := dk_184 0 139 (dk_at dksX1_test_0 11 rfl rfl)
theorem dX1_test_14 : decode cX1_test 14 = .ok (.ifCond .eq 17, 3) := dk_153 0 17 (dk_at dksX1_test_0 14 rfl rfl)
theorem dX1_test_17 : decode cX1_test 17 = .ok (.iload_n 3, 1) := dk_29 (dk_at dksX1_test_0 17 rfl rfl)
theorem dX1_test_18 : decode cX1_test 18 = .ok (.iconst 1, 1) := dk_4 (dk_at dksX1_test_0 18 rfl rfl)
theorem dX1_test_19 : decode cX1_test 19 = .ok (.bipush 99, 2) := dk_16 99 (dk_at dksX1_test_0 19 rfl rfl)
theorem dX1_test_21 : decode cX1_test 21 = .ok (.invokestatic 139, 3) := dk_184 0 139 (dk_at dksX1_test_0 21 rfl rfl)
theorem dX1_test_24 : decode cX1_test 24 = .ok (.ifCond .eq 7, 3) := dk_153 0 7 (dk_at dksX1_test_1 0 rfl rfl)
theorem dX1_test_27 : decode cX1_test 27 = .ok (.iconst 1, 1) := dk_4 (dk_at dksX1_test_1 3 rfl rfl)
theorem dX1_test_28 : decode cX1_test 28 = .ok (.goto 4, 3) := dk_167 0 4 (dk_at dksX1_test_1 4 rfl rfl)
theorem dX1_test_31 : decode cX1_test 31 = .ok (.iconst 0, 1) := dk_3 (dk_at dksX1_test_1 7 rfl rfl)
theorem dX1_test_32 : decode cX1_test 32 = .ok (.invokestatic 135, 3) := dk_184 0 135 (dk_at dksX1_test_1 8 rfl rfl)
theorem dX1_test_35 : decode cX1_test 35 = .ok (.aload 5, 2) := dk_25 5 (dk_at dksX1_test_1 11 rfl rfl)
theorem dX1_test_37 : decode cX1_test 37 = .ok (.getfield 439, 3) := dk_180 1 183 (dk_at dksX1_test_1 13 rfl rfl)
theorem dX1_test_40 : decode cX1_test 40 = .ok (.bipush 8, 2) := dk_16 8 (dk_at dksX1_test_1 16 rfl rfl)
theorem dX1_test_42 : decode cX1_test 42 = .ok (.if_icmp .ge 7, 3) := dk_162 0 7 (dk_at dksX1_test_1 18 rfl rfl)
theorem dX1_test_45 : decode cX1_test 45 = .ok (.iconst 1, 1) := dk_4 (dk_at dksX1_test_1 21 rfl rfl)
theorem dX1_test_46 : decode cX1_test 46 = .ok (.goto 4, 3) := dk_167 0 4 (dk_at dksX1_test_2 0 rfl rfl)
theorem dX1_test_49 : decode cX1_test 49 = .ok (.iconst 0, 1) := dk_3 (dk_at dksX1_test_2 3 rfl rfl)
theorem dX1_test_50 : decode cX1_test 50 = .ok (.invokestatic 143, 3) := dk_184 0 143 (dk_at dksX1_test_2 4 rfl rfl)
theorem dX1_test_53 : decode cX1_test 53 = .ok (.aload 5, 2) := dk_25 5 (dk_at dksX1_test_2 7 rfl rfl)
theorem dX1_test_55 : decode cX1_test 55 = .ok (.dup, 1) := dk_89 (dk_at dksX1_test_2 9 rfl rfl)
theorem dX1_test_56 : decode cX1_test 56 = .ok (.getfield 439, 3) := dk_180 1 183 (dk_at dksX1_test_2 10 rfl rfl)
theorem dX1_test_59 : decode cX1_test 59 = .ok (.iconst 1, 1) := dk_4 (dk_at dksX1_test_2 13 rfl rfl)
theorem dX1_test_60 : decode cX1_test 60 = .ok (.iadd, 1) := dk_96 (dk_at dksX1_test_2 14 rfl rfl)
theorem dX1_test_61 : decode cX1_test 61 = .ok (.putfield 439, 3) := dk_181 1 183 (dk_at dksX1_test_2 15 rfl rfl)
theorem dX1_test_64 : decode cX1_test 64 = .ok (.aload 5, 2) := dk_25 5 (dk_at dksX1_test_2 18 rfl rfl)
theorem dX1_test_66 : decode cX1_test 66 = .ok (.dup, 1) := dk_89 (dk_at dksX1_test_2 20 rfl rfl)
theorem dX1_test_67 : decode cX1_test 67 = .ok (.getfield 442, 3) := dk_180 1 186 (dk_at dksX1_test_2 21 rfl rfl)
theorem dX1_test_70 : decode cX1_test 70 = .ok (.iload 4, 2) := dk_21 4 (dk_at dksX1_test_3 0 rfl rfl)
theorem dX1_test_72 : decode cX1_test 72 = .ok (.ifCond .eq 8, 3) := dk_153 0 8 (dk_at dksX1_test_3 2 rfl rfl)
theorem dX1_test_75 : decode cX1_test 75 = .ok (.iload_n 2, 1) := dk_28 (dk_at dksX1_test_3 5 rfl rfl)
theorem dX1_test_76 : decode cX1_test 76 = .ok (.i2l, 1) := dk_133 (dk_at dksX1_test_3 6 rfl rfl)
theorem dX1_test_77 : decode cX1_test 77 = .ok (.goto 8, 3) := dk_167 0 8 (dk_at dksX1_test_3 7 rfl rfl)
theorem dX1_test_80 : decode cX1_test 80 = .ok (.bipush 100, 2) := dk_16 100 (dk_at dksX1_test_3 10 rfl rfl)
theorem dX1_test_82 : decode cX1_test 82 = .ok (.iload_n 2, 1) := dk_28 (dk_at dksX1_test_3 12 rfl rfl)
theorem dX1_test_83 : decode cX1_test 83 = .ok (.isub, 1) := dk_100 (dk_at dksX1_test_3 13 rfl rfl)
theorem dX1_test_84 : decode cX1_test 84 = .ok (.i2l, 1) := dk_133 (dk_at dksX1_test_3 14 rfl rfl)
theorem dX1_test_85 : decode cX1_test 85 = .ok (.lmul, 1) := dk_105 (dk_at dksX1_test_3 15 rfl rfl)
theorem dX1_test_86 : decode cX1_test 86 = .ok (.putfield 442, 3) := dk_181 1 186 (dk_at dksX1_test_3 16 rfl rfl)
theorem dX1_test_89 : decode cX1_test 89 = .ok (.aload 5, 2) := dk_25 5 (dk_at dksX1_test_3 19 rfl rfl)
theorem dX1_test_91 : decode cX1_test 91 = .ok (.dup, 1) := dk_89 (dk_at dksX1_test_3 21 rfl rfl)
theorem dX1_test_92 : decode cX1_test 92 = .ok (.getfield 446, 3) := dk_180 1 190 (dk_at dksX1_test_4 0 rfl rfl)
theorem dX1_test_95 : decode cX1_test 95 = .ok (.iload 4, 2) := dk_21 4 (dk_at dksX1_test_4 3 rfl rfl)
theorem dX1_test_97 : decode cX1_test 97 = .ok (.ifCond .eq 8, 3) := dk_153 0 8 (dk_at dksX1_test_4 5 rfl rfl)
theorem dX1_test_100 : decode cX1_test 100 = .ok (.iload_n 3, 1) := dk_29 (dk_at dksX1_test_4 8 rfl rfl)
theorem dX1_test_101 : decode cX1_test 101 = .ok (.i2l, 1) := dk_133 (dk_at dksX1_test_4 9 rfl rfl)
theorem dX1_test_102 : decode cX1_test 102 = .ok (.goto 8, 3) := dk_167 0 8 (dk_at dksX1_test_4 10 rfl rfl)
theorem dX1_test_105 : decode cX1_test 105 = .ok (.bipush 100, 2) := dk_16 100 (dk_at dksX1_test_4 13 rfl rfl)
theorem dX1_test_107 : decode cX1_test 107 = .ok (.iload_n 3, 1) := dk_29 (dk_at dksX1_test_4 15 rfl rfl)
theorem dX1_test_108 : decode cX1_test 108 = .ok (.isub, 1) := dk_100 (dk_at dksX1_test_4 16 rfl rfl)
theorem dX1_test_109 : decode cX1_test 109 = .ok (.i2l, 1) := dk_133 (dk_at dksX1_test_4 17 rfl rfl)
theorem dX1_test_110 : decode cX1_test 110 = .ok (.lmul, 1) := dk_105 (dk_at dksX1_test_4 18 rfl rfl)
theorem dX1_test_111 : decode cX1_test 111 = .ok (.putfield 446, 3) := dk_181 1 190 (dk_at dksX1_test_4 19 rfl rfl)
theorem dX1_test_114 : decode cX1_test 114 = .ok (.aload 5, 2) := dk_25 5 (dk_at dksX1_test_4 22 rfl rfl)
theorem dX1_test_116 : decode cX1_test 116 = .ok (.getfield 439, 3) := dk_180 1 183 (dk_at dksX1_test_5 0 rfl rfl)
theorem dX1_test_119 : decode cX1_test 119 = .ok (.ireturn, 1) := dk_172 (dk_at dksX1_test_5 3 rfl rfl)
abbrev cX1_oddsFor : ByteArray := prog_1_method_67_code
def yX1_oddsFor : MethodName := ⟨RX1, "oddsFor", "(I)J"⟩
def dkwX1_oddsFor_0 : List UInt8 := [42, 27, 182, 0, 182, 77, 44, 180, 1, 186, 44, 180, 1, 186, 44, 180, 1, 190, 184, 1, 193, 109, 173]
abbrev dktX1_oddsFor_0 : List UInt8 := dkwX1_oddsFor_0 ++ []
theorem dksX1_oddsFor_0 : cX1_oddsFor.data.toList.drop 0 = dktX1_oddsFor_0 := by decide +kernel
theorem dX1_oddsFor_0 : decode cX1_oddsFor 0 = .ok (.aload_n 0, 1) := dk_42 (dk_at dksX1_oddsFor_0 0 rfl rfl)
theorem dX1_oddsFor_1 : decode cX1_oddsFor 1 = .ok (.iload_n 1, 1) := dk_27 (dk_at dksX1_oddsFor_0 1 rfl rfl)
theorem dX1_oddsFor_2 : decode cX1_oddsFor 2 = .ok (.invokevirtual 182, 3) := dk_182 0 182 (dk_at dksX1_oddsFor_0 2 rfl rfl)
theorem dX1_oddsFor_5 : decode cX1_oddsFor 5 = .ok (.astore_n 2, 1) := dk_77 (dk_at dksX1_oddsFor_0 5 rfl rfl)
theorem dX1_oddsFor_6 : decode cX1_oddsFor 6 = .ok (.aload_n 2, 1) := dk_44 (dk_at dksX1_oddsFor_0 6 rfl rfl)
theorem dX1_oddsFor_7 : decode cX1_oddsFor 7 = .ok (.getfield 442, 3) := dk_180 1 186 (dk_at dksX1_oddsFor_0 7 rfl rfl)
theorem dX1_oddsFor_10 : decode cX1_oddsFor 10 = .ok (.aload_n 2, 1) := dk_44 (dk_at dksX1_oddsFor_0 10 rfl rfl)
theorem dX1_oddsFor_11 : decode cX1_oddsFor 11 = .ok (.getfield 442, 3) := dk_180 1 186 (dk_at dksX1_oddsFor_0 11 rfl rfl)
theorem dX1_oddsFor_14 : decode cX1_oddsFor 14 = .ok (.aload_n 2, 1) := dk_44 (dk_at dksX1_oddsFor_0 14 rfl rfl)
theorem dX1_oddsFor_15 : decode cX1_oddsFor 15 = .ok (.getfield 446, 3) := dk_180 1 190 (dk_at dksX1_oddsFor_0 15 rfl rfl)
theorem dX1_oddsFor_18 : decode cX1_oddsFor 18 = .ok (.invokestatic 449, 3) := dk_184 1 193 (dk_at dksX1_oddsFor_0 18 rfl rfl)
theorem dX1_oddsFor_21 : decode cX1_oddsFor 21 = .ok (.ldiv, 1) := dk_109 (dk_at dksX1_oddsFor_0 21 rfl rfl)
theorem dX1_oddsFor_22 : decode cX1_oddsFor 22 = .ok (.lreturn, 1) := dk_173 (dk_at dksX1_oddsFor_0 22 rfl rfl)
abbrev cX1_common : ByteArray := prog_1_method_65_code
def yX1_common : MethodName := ⟨RX1, "common", "(JJ)J"⟩
def dkwX1_common_0 : List UInt8 := [32, 9, 148, 154, 0, 7, 30, 167, 0, 10, 32, 30, 32, 113, 184, 1, 193, 173]
abbrev dktX1_common_0 : List UInt8 := dkwX1_common_0 ++ []
theorem dksX1_common_0 : cX1_common.data.toList.drop 0 = dktX1_common_0 := by decide +kernel
theorem dX1_common_0 : decode cX1_common 0 = .ok (.lload_n 2, 1) := dk_32 (dk_at dksX1_common_0 0 rfl rfl)
theorem dX1_common_1 : decode cX1_common 1 = .ok (.lconst 0, 1) := dk_9 (dk_at dksX1_common_0 1 rfl rfl)
theorem dX1_common_2 : decode cX1_common 2 = .ok (.lcmp, 1) := dk_148 (dk_at dksX1_common_0 2 rfl rfl)
theorem dX1_common_3 : decode cX1_common 3 = .ok (.ifCond .ne 7, 3) := dk_154 0 7 (dk_at dksX1_common_0 3 rfl rfl)
theorem dX1_common_6 : decode cX1_common 6 = .ok (.lload_n 0, 1) := dk_30 (dk_at dksX1_common_0 6 rfl rfl)
theorem dX1_common_7 : decode cX1_common 7 = .ok (.goto 10, 3) := dk_167 0 10 (dk_at dksX1_common_0 7 rfl rfl)
theorem dX1_common_10 : decode cX1_common 10 = .ok (.lload_n 2, 1) := dk_32 (dk_at dksX1_common_0 10 rfl rfl)
theorem dX1_common_11 : decode cX1_common 11 = .ok (.lload_n 0, 1) := dk_30 (dk_at dksX1_common_0 11 rfl rfl)
theorem dX1_common_12 : decode cX1_common 12 = .ok (.lload_n 2, 1) := dk_32 (dk_at dksX1_common_0 12 rfl rfl)
theorem dX1_common_13 : decode cX1_common 13 = .ok (.lrem, 1) := dk_113 (dk_at dksX1_common_0 13 rfl rfl)
theorem dX1_common_14 : decode cX1_common 14 = .ok (.invokestatic 449, 3) := dk_184 1 193 (dk_at dksX1_common_0 14 rfl rfl)
theorem dX1_common_17 : decode cX1_common 17 = .ok (.lreturn, 1) := dk_173 (dk_at dksX1_common_0 17 rfl rfl)
abbrev cX1_oddsAgainst : ByteArray := prog_1_method_68_code
def yX1_oddsAgainst : MethodName := ⟨RX1, "oddsAgainst", "(I)J"⟩
def dkwX1_oddsAgainst_0 : List UInt8 := [42, 27, 182, 0, 182, 77, 44, 180, 1, 190, 44, 180, 1, 186, 44, 180, 1, 190, 184, 1, 193, 109, 173]
abbrev dktX1_oddsAgainst_0 : List UInt8 := dkwX1_oddsAgainst_0 ++ []
theorem dksX1_oddsAgainst_0 : cX1_oddsAgainst.data.toList.drop 0 = dktX1_oddsAgainst_0 := by decide +kernel
theorem dX1_oddsAgainst_0 : decode cX1_oddsAgainst 0 = .ok (.aload_n 0, 1) := dk_42 (dk_at dksX1_oddsAgainst_0 0 rfl rfl)
theorem dX1_oddsAgainst_1 : decode cX1_oddsAgainst 1 = .ok (.iload_n 1, 1) := dk_27 (dk_at dksX1_oddsAgainst_0 1 rfl rfl)
theorem dX1_oddsAgainst_2 : decode cX1_oddsAgainst 2 = .ok (.invokevirtual 182, 3) := dk_182 0 182 (dk_at dksX1_oddsAgainst_0 2 rfl rfl)
theorem dX1_oddsAgainst_5 : decode cX1_oddsAgainst 5 = .ok (.astore_n 2, 1) := dk_77 (dk_at dksX1_oddsAgainst_0 5 rfl rfl)
theorem dX1_oddsAgainst_6 : decode cX1_oddsAgainst 6 = .ok (.aload_n 2, 1) := dk_44 (dk_at dksX1_oddsAgainst_0 6 rfl rfl)
theorem dX1_oddsAgainst_7 : decode cX1_oddsAgainst 7 = .ok (.getfield 446, 3) := dk_180 1 190 (dk_at dksX1_oddsAgainst_0 7 rfl rfl)
theorem dX1_oddsAgainst_10 : decode cX1_oddsAgainst 10 = .ok (.aload_n 2, 1) := dk_44 (dk_at dksX1_oddsAgainst_0 10 rfl rfl)
theorem dX1_oddsAgainst_11 : decode cX1_oddsAgainst 11 = .ok (.getfield 442, 3) := dk_180 1 186 (dk_at dksX1_oddsAgainst_0 11 rfl rfl)
theorem dX1_oddsAgainst_14 : decode cX1_oddsAgainst 14 = .ok (.aload_n 2, 1) := dk_44 (dk_at dksX1_oddsAgainst_0 14 rfl rfl)
theorem dX1_oddsAgainst_15 : decode cX1_oddsAgainst 15 = .ok (.getfield 446, 3) := dk_180 1 190 (dk_at dksX1_oddsAgainst_0 15 rfl rfl)
theorem dX1_oddsAgainst_18 : decode cX1_oddsAgainst 18 = .ok (.invokestatic 449, 3) := dk_184 1 193 (dk_at dksX1_oddsAgainst_0 18 rfl rfl)
theorem dX1_oddsAgainst_21 : decode cX1_oddsAgainst 21 = .ok (.ldiv, 1) := dk_109 (dk_at dksX1_oddsAgainst_0 21 rfl rfl)
theorem dX1_oddsAgainst_22 : decode cX1_oddsAgainst 22 = .ok (.lreturn, 1) := dk_173 (dk_at dksX1_oddsAgainst_0 22 rfl rfl)
abbrev cX1_isFake : ByteArray := prog_1_method_69_code
def yX1_isFake : MethodName := ⟨RX1, "isFake", "(I)Z"⟩
def dkwX1_isFake_0 : List UInt8 := [42, 27, 182, 0, 182, 182, 1, 196, 172]
abbrev dktX1_isFake_0 : List UInt8 := dkwX1_isFake_0 ++ []
theorem dksX1_isFake_0 : cX1_isFake.data.toList.drop 0 = dktX1_isFake_0 := by decide +kernel
theorem dX1_isFake_0 : decode cX1_isFake 0 = .ok (.aload_n 0, 1) := dk_42 (dk_at dksX1_isFake_0 0 rfl rfl)
theorem dX1_isFake_1 : decode cX1_isFake 1 = .ok (.iload_n 1, 1) := dk_27 (dk_at dksX1_isFake_0 1 rfl rfl)
theorem dX1_isFake_2 : decode cX1_isFake 2 = .ok (.invokevirtual 182, 3) := dk_182 0 182 (dk_at dksX1_isFake_0 2 rfl rfl)
theorem dX1_isFake_5 : decode cX1_isFake 5 = .ok (.invokevirtual 452, 3) := dk_182 1 196 (dk_at dksX1_isFake_0 5 rfl rfl)
theorem dX1_isFake_8 : decode cX1_isFake 8 = .ok (.ireturn, 1) := dk_172 (dk_at dksX1_isFake_0 8 rfl rfl)
abbrev cX1_opinion : ByteArray := prog_1_method_70_code
def yX1_opinion : MethodName := ⟨RX1, "opinion", "(III)I"⟩
def dkwX1_opinion_3 : List UInt8 := [182, 0, 131, 87, 42, 25, 4, 182, 1, 204, 182, 0, 62, 172]
abbrev dktX1_opinion_3 : List UInt8 := dkwX1_opinion_3 ++ []
def dkwX1_opinion_2 : List UInt8 := [167, 0, 4, 3, 184, 0, 143, 42, 180, 0, 31, 187, 1, 199, 89, 25, 4, 28, 29, 183, 1, 201]
abbrev dktX1_opinion_2 : List UInt8 := dkwX1_opinion_2 ++ dktX1_opinion_3
def dkwX1_opinion_1 : List UInt8 := [153, 0, 7, 4, 167, 0, 4, 3, 184, 0, 135, 42, 180, 0, 31, 182, 0, 62, 16, 40, 162, 0, 7, 4]
abbrev dktX1_opinion_1 : List UInt8 := dkwX1_opinion_1 ++ dktX1_opinion_2
def dkwX1_opinion_0 : List UInt8 := [42, 27, 182, 0, 182, 58, 4, 28, 3, 16, 9, 184, 0, 139, 153, 0, 17, 29, 3, 16, 99, 184, 0, 139]
abbrev dktX1_opinion_0 : List UInt8 := dkwX1_opinion_0 ++ dktX1_opinion_1
theorem dksX1_opinion_0 : cX1_opinion.data.toList.drop 0 = dktX1_opinion_0 := by decide +kernel
theorem dksX1_opinion_1 : cX1_opinion.data.toList.drop 24 = dktX1_opinion_1 := dk_seg dksX1_opinion_0 24 rfl rfl
theorem dksX1_opinion_2 : cX1_opinion.data.toList.drop 48 = dktX1_opinion_2 := dk_seg dksX1_opinion_1 24 rfl rfl
theorem dksX1_opinion_3 : cX1_opinion.data.toList.drop 70 = dktX1_opinion_3 := dk_seg dksX1_opinion_2 22 rfl rfl
theorem dX1_opinion_0 : decode cX1_opinion 0 = .ok (.aload_n 0, 1) := dk_42 (dk_at dksX1_opinion_0 0 rfl rfl)
theorem dX1_opinion_1 : decode cX1_opinion 1 = .ok (.iload_n 1, 1) := dk_27 (dk_at dksX1_opinion_0 1 rfl rfl)
theorem dX1_opinion_2 : decode cX1_opinion 2 = .ok (.invokevirtual 182, 3) := dk_182 0 182 (dk_at dksX1_opinion_0 2 rfl rfl)
theorem dX1_opinion_5 : decode cX1_opinion 5 = .ok (.astore 4, 2) := dk_58 4 (dk_at dksX1_opinion_0 5 rfl rfl)
theorem dX1_opinion_7 : decode cX1_opinion 7 = .ok (.iload_n 2, 1) := dk_28 (dk_at dksX1_opinion_0 7 rfl rfl)
theorem dX1_opinion_8 : decode cX1_opinion 8 = .ok (.iconst 0, 1) := dk_3 (dk_at dksX1_opinion_0 8 rfl rfl)
theorem dX1_opinion_9 : decode cX1_opinion 9 = .ok (.bipush 9, 2) := dk_16 9 (dk_at dksX1_opinion_0 9 rfl rfl)
theorem dX1_opinion_11 : decode cX1_opinion 11 = .ok (.invokestatic 139, 3) := dk_184 0 139 (dk_at dksX1_opinion_0 11 rfl rfl)
theorem dX1_opinion_14 : decode cX1_opinion 14 = .ok (.ifCond .eq 17, 3) := dk_153 0 17 (dk_at dksX1_opinion_0 14 rfl rfl)
theorem dX1_opinion_17 : decode cX1_opinion 17 = .ok (.iload_n 3, 1) := dk_29 (dk_at dksX1_opinion_0 17 rfl rfl)
theorem dX1_opinion_18 : decode cX1_opinion 18 = .ok (.iconst 0, 1) := dk_3 (dk_at dksX1_opinion_0 18 rfl rfl)
theorem dX1_opinion_19 : decode cX1_opinion 19 = .ok (.bipush 99, 2) := dk_16 99 (dk_at dksX1_opinion_0 19 rfl rfl)
theorem dX1_opinion_21 : decode cX1_opinion 21 = .ok (.invokestatic 139, 3) := dk_184 0 139 (dk_at dksX1_opinion_0 21 rfl rfl)
theorem dX1_opinion_24 : decode cX1_opinion 24 = .ok (.ifCond .eq 7, 3) := dk_153 0 7 (dk_at dksX1_opinion_1 0 rfl rfl)
theorem dX1_opinion_27 : decode cX1_opinion 27 = .ok (.iconst 1, 1) := dk_4 (dk_at dksX1_opinion_1 3 rfl rfl)
theorem dX1_opinion_28 : decode cX1_opinion 28 = .ok (.goto 4, 3) := dk_167 0 4 (dk_at dksX1_opinion_1 4 rfl rfl)
theorem dX1_opinion_31 : decode cX1_opinion 31 = .ok (.iconst 0, 1) := dk_3 (dk_at dksX1_opinion_1 7 rfl rfl)
theorem dX1_opinion_32 : decode cX1_opinion 32 = .ok (.invokestatic 135, 3) := dk_184 0 135 (dk_at dksX1_opinion_1 8 rfl rfl)
theorem dX1_opinion_35 : decode cX1_opinion 35 = .ok (.aload_n 0, 1) := dk_42 (dk_at dksX1_opinion_1 11 rfl rfl)
theorem dX1_opinion_36 : decode cX1_opinion 36 = .ok (.getfield 31, 3) := dk_180 0 31 (dk_at dksX1_opinion_1 12 rfl rfl)
theorem dX1_opinion_39 : decode cX1_opinion 39 = .ok (.invokevirtual 62, 3) := dk_182 0 62 (dk_at dksX1_opinion_1 15 rfl rfl)
theorem dX1_opinion_42 : decode cX1_opinion 42 = .ok (.bipush 40, 2) := dk_16 40 (dk_at dksX1_opinion_1 18 rfl rfl)
theorem dX1_opinion_44 : decode cX1_opinion 44 = .ok (.if_icmp .ge 7, 3) := dk_162 0 7 (dk_at dksX1_opinion_1 20 rfl rfl)
theorem dX1_opinion_47 : decode cX1_opinion 47 = .ok (.iconst 1, 1) := dk_4 (dk_at dksX1_opinion_1 23 rfl rfl)
theorem dX1_opinion_48 : decode cX1_opinion 48 = .ok (.goto 4, 3) := dk_167 0 4 (dk_at dksX1_opinion_2 0 rfl rfl)
theorem dX1_opinion_51 : decode cX1_opinion 51 = .ok (.iconst 0, 1) := dk_3 (dk_at dksX1_opinion_2 3 rfl rfl)
theorem dX1_opinion_52 : decode cX1_opinion 52 = .ok (.invokestatic 143, 3) := dk_184 0 143 (dk_at dksX1_opinion_2 4 rfl rfl)
theorem dX1_opinion_55 : decode cX1_opinion 55 = .ok (.aload_n 0, 1) := dk_42 (dk_at dksX1_opinion_2 7 rfl rfl)
theorem dX1_opinion_56 : decode cX1_opinion 56 = .ok (.getfield 31, 3) := dk_180 0 31 (dk_at dksX1_opinion_2 8 rfl rfl)
theorem dX1_opinion_59 : decode cX1_opinion 59 = .ok (.new 455, 3) := dk_187 1 199 (dk_at dksX1_opinion_2 11 rfl rfl)
theorem dX1_opinion_62 : decode cX1_opinion 62 = .ok (.dup, 1) := dk_89 (dk_at dksX1_opinion_2 14 rfl rfl)
theorem dX1_opinion_63 : decode cX1_opinion 63 = .ok (.aload 4, 2) := dk_25 4 (dk_at dksX1_opinion_2 15 rfl rfl)
theorem dX1_opinion_65 : decode cX1_opinion 65 = .ok (.iload_n 2, 1) := dk_28 (dk_at dksX1_opinion_2 17 rfl rfl)
theorem dX1_opinion_66 : decode cX1_opinion 66 = .ok (.iload_n 3, 1) := dk_29 (dk_at dksX1_opinion_2 18 rfl rfl)
theorem dX1_opinion_67 : decode cX1_opinion 67 = .ok (.invokespecial 457, 3) := dk_183 1 201 (dk_at dksX1_opinion_2 19 rfl rfl)
theorem dX1_opinion_70 : decode cX1_opinion 70 = .ok (.invokevirtual 131, 3) := dk_182 0 131 (dk_at dksX1_opinion_3 0 rfl rfl)
theorem dX1_opinion_73 : decode cX1_opinion 73 = .ok (.pop, 1) := dk_87 (dk_at dksX1_opinion_3 3 rfl rfl)
theorem dX1_opinion_74 : decode cX1_opinion 74 = .ok (.aload_n 0, 1) := dk_42 (dk_at dksX1_opinion_3 4 rfl rfl)
theorem dX1_opinion_75 : decode cX1_opinion 75 = .ok (.aload 4, 2) := dk_25 4 (dk_at dksX1_opinion_3 5 rfl rfl)
theorem dX1_opinion_77 : decode cX1_opinion 77 = .ok (.invokevirtual 460, 3) := dk_182 1 204 (dk_at dksX1_opinion_3 7 rfl rfl)
theorem dX1_opinion_80 : decode cX1_opinion 80 = .ok (.invokevirtual 62, 3) := dk_182 0 62 (dk_at dksX1_opinion_3 10 rfl rfl)
theorem dX1_opinion_83 : decode cX1_opinion 83 = .ok (.ireturn, 1) := dk_172 (dk_at dksX1_opinion_3 13 rfl rfl)
abbrev cX1_of : ByteArray := prog_1_method_71_code
def yX1_of : MethodName := ⟨RX1, "of", "(LVaultyard$Thing;)Ljava/util/ArrayList;"⟩
def dkwX1_of_2 : List UInt8 := [25, 4, 182, 0, 131, 87, 167, 255, 220, 44, 176]
abbrev dktX1_of_2 : List UInt8 := dkwX1_of_2 ++ []
def dkwX1_of_1 : List UInt8 := [153, 0, 33, 45, 185, 0, 94, 1, 0, 192, 1, 199, 58, 4, 25, 4, 182, 1, 207, 43, 166, 0, 10, 44]
abbrev dktX1_of_1 : List UInt8 := dkwX1_of_1 ++ dktX1_of_2
def dkwX1_of_0 : List UInt8 := [187, 0, 7, 89, 183, 0, 9, 77, 42, 180, 0, 31, 182, 0, 84, 78, 45, 185, 0, 88, 1, 0]
abbrev dktX1_of_0 : List UInt8 := dkwX1_of_0 ++ dktX1_of_1
theorem dksX1_of_0 : cX1_of.data.toList.drop 0 = dktX1_of_0 := by decide +kernel
theorem dksX1_of_1 : cX1_of.data.toList.drop 22 = dktX1_of_1 := dk_seg dksX1_of_0 22 rfl rfl
theorem dksX1_of_2 : cX1_of.data.toList.drop 46 = dktX1_of_2 := dk_seg dksX1_of_1 24 rfl rfl
theorem dX1_of_0 : decode cX1_of 0 = .ok (.new 7, 3) := dk_187 0 7 (dk_at dksX1_of_0 0 rfl rfl)
theorem dX1_of_3 : decode cX1_of 3 = .ok (.dup, 1) := dk_89 (dk_at dksX1_of_0 3 rfl rfl)
theorem dX1_of_4 : decode cX1_of 4 = .ok (.invokespecial 9, 3) := dk_183 0 9 (dk_at dksX1_of_0 4 rfl rfl)
theorem dX1_of_7 : decode cX1_of 7 = .ok (.astore_n 2, 1) := dk_77 (dk_at dksX1_of_0 7 rfl rfl)
theorem dX1_of_8 : decode cX1_of 8 = .ok (.aload_n 0, 1) := dk_42 (dk_at dksX1_of_0 8 rfl rfl)
theorem dX1_of_9 : decode cX1_of 9 = .ok (.getfield 31, 3) := dk_180 0 31 (dk_at dksX1_of_0 9 rfl rfl)
theorem dX1_of_12 : decode cX1_of 12 = .ok (.invokevirtual 84, 3) := dk_182 0 84 (dk_at dksX1_of_0 12 rfl rfl)
theorem dX1_of_15 : decode cX1_of 15 = .ok (.astore_n 3, 1) := dk_78 (dk_at dksX1_of_0 15 rfl rfl)
theorem dX1_of_16 : decode cX1_of 16 = .ok (.aload_n 3, 1) := dk_45 (dk_at dksX1_of_0 16 rfl rfl)
theorem dX1_of_17 : decode cX1_of 17 = .ok (.invokeinterface 88 1, 5) := by decide +kernel
theorem dX1_of_22 : decode cX1_of 22 = .ok (.ifCond .eq 33, 3) := dk_153 0 33 (dk_at dksX1_of_1 0 rfl rfl)
theorem dX1_of_25 : decode cX1_of 25 = .ok (.aload_n 3, 1) := dk_45 (dk_at dksX1_of_1 3 rfl rfl)
theorem dX1_of_26 : decode cX1_of 26 = .ok (.invokeinterface 94 1, 5) := by decide +kernel
theorem dX1_of_31 : decode cX1_of 31 = .ok (.checkcast 455, 3) := dk_192 1 199 (dk_at dksX1_of_1 9 rfl rfl)
theorem dX1_of_34 : decode cX1_of 34 = .ok (.astore 4, 2) := dk_58 4 (dk_at dksX1_of_1 12 rfl rfl)
theorem dX1_of_36 : decode cX1_of 36 = .ok (.aload 4, 2) := dk_25 4 (dk_at dksX1_of_1 14 rfl rfl)
theorem dX1_of_38 : decode cX1_of 38 = .ok (.invokevirtual 463, 3) := dk_182 1 207 (dk_at dksX1_of_1 16 rfl rfl)
theorem dX1_of_41 : decode cX1_of 41 = .ok (.aload_n 1, 1) := dk_43 (dk_at dksX1_of_1 19 rfl rfl)
theorem dX1_of_42 : decode cX1_of 42 = .ok (.if_acmp .ne 10, 3) := dk_166 0 10 (dk_at dksX1_of_1 20 rfl rfl)
theorem dX1_of_45 : decode cX1_of 45 = .ok (.aload_n 2, 1) := dk_44 (dk_at dksX1_of_1 23 rfl rfl)
theorem dX1_of_46 : decode cX1_of 46 = .ok (.aload 4, 2) := dk_25 4 (dk_at dksX1_of_2 0 rfl rfl)
theorem dX1_of_48 : decode cX1_of 48 = .ok (.invokevirtual 131, 3) := dk_182 0 131 (dk_at dksX1_of_2 2 rfl rfl)
theorem dX1_of_51 : decode cX1_of 51 = .ok (.pop, 1) := dk_87 (dk_at dksX1_of_2 5 rfl rfl)
theorem dX1_of_52 : decode cX1_of 52 = .ok (.goto (-36), 3) := dk_167 255 220 (dk_at dksX1_of_2 6 rfl rfl)
theorem dX1_of_55 : decode cX1_of 55 = .ok (.aload_n 2, 1) := dk_44 (dk_at dksX1_of_2 9 rfl rfl)
theorem dX1_of_56 : decode cX1_of 56 = .ok (.areturn, 1) := dk_176 (dk_at dksX1_of_2 10 rfl rfl)
abbrev cX1_held : ByteArray := prog_1_method_75_code
def yX1_held : MethodName := ⟨RX1, "held", "(II)I"⟩
def dkwX1_held_3 : List UInt8 := [183, 0, 61, 191]
abbrev dktX1_held_3 : List UInt8 := dkwX1_held_3 ++ []
def dkwX1_held_2 : List UInt8 := [25, 5, 182, 1, 209, 28, 160, 0, 9, 25, 5, 182, 1, 215, 172, 167, 255, 219, 187, 0, 59, 89]
abbrev dktX1_held_2 : List UInt8 := dkwX1_held_2 ++ dktX1_held_3
def dkwX1_held_1 : List UInt8 := [58, 4, 25, 4, 185, 0, 88, 1, 0, 153, 0, 33, 25, 4, 185, 0, 94, 1, 0, 192, 1, 199, 58, 5]
abbrev dktX1_held_1 : List UInt8 := dkwX1_held_1 ++ dktX1_held_2
def dkwX1_held_0 : List UInt8 := [42, 27, 182, 0, 182, 78, 28, 3, 16, 9, 184, 0, 139, 184, 0, 135, 42, 45, 182, 1, 218, 182, 0, 84]
abbrev dktX1_held_0 : List UInt8 := dkwX1_held_0 ++ dktX1_held_1
theorem dksX1_held_0 : cX1_held.data.toList.drop 0 = dktX1_held_0 := by decide +kernel
theorem dksX1_held_1 : cX1_held.data.toList.drop 24 = dktX1_held_1 := dk_seg dksX1_held_0 24 rfl rfl
theorem dksX1_held_2 : cX1_held.data.toList.drop 48 = dktX1_held_2 := dk_seg dksX1_held_1 24 rfl rfl
theorem dksX1_held_3 : cX1_held.data.toList.drop 70 = dktX1_held_3 := dk_seg dksX1_held_2 22 rfl rfl
theorem dX1_held_0 : decode cX1_held 0 = .ok (.aload_n 0, 1) := dk_42 (dk_at dksX1_held_0 0 rfl rfl)
theorem dX1_held_1 : decode cX1_held 1 = .ok (.iload_n 1, 1) := dk_27 (dk_at dksX1_held_0 1 rfl rfl)
theorem dX1_held_2 : decode cX1_held 2 = .ok (.invokevirtual 182, 3) := dk_182 0 182 (dk_at dksX1_held_0 2 rfl rfl)
theorem dX1_held_5 : decode cX1_held 5 = .ok (.astore_n 3, 1) := dk_78 (dk_at dksX1_held_0 5 rfl rfl)
theorem dX1_held_6 : decode cX1_held 6 = .ok (.iload_n 2, 1) := dk_28 (dk_at dksX1_held_0 6 rfl rfl)
theorem dX1_held_7 : decode cX1_held 7 = .ok (.iconst 0, 1) := dk_3 (dk_at dksX1_held_0 7 rfl rfl)
theorem dX1_held_8 : decode cX1_held 8 = .ok (.bipush 9, 2) := dk_16 9 (dk_at dksX1_held_0 8 rfl rfl)
theorem dX1_held_10 : decode cX1_held 10 = .ok (.invokestatic 139, 3) := dk_184 0 139 (dk_at dksX1_held_0 10 rfl rfl)
theorem dX1_held_13 : decode cX1_held 13 = .ok (.invokestatic 135, 3) := dk_184 0 135 (dk_at dksX1_held_0 13 rfl rfl)
theorem dX1_held_16 : decode cX1_held 16 = .ok (.aload_n 0, 1) := dk_42 (dk_at dksX1_held_0 16 rfl rfl)
theorem dX1_held_17 : decode cX1_held 17 = .ok (.aload_n 3, 1) := dk_45 (dk_at dksX1_held_0 17 rfl rfl)
theorem dX1_held_18 : decode cX1_held 18 = .ok (.invokevirtual 474, 3) := dk_182 1 218 (dk_at dksX1_held_0 18 rfl rfl)
theorem dX1_held_21 : decode cX1_held 21 = .ok (.invokevirtual 84, 3) := dk_182 0 84 (dk_at dksX1_held_0 21 rfl rfl)
theorem dX1_held_24 : decode cX1_held 24 = .ok (.astore 4, 2) := dk_58 4 (dk_at dksX1_held_1 0 rfl rfl)
theorem dX1_held_26 : decode cX1_held 26 = .ok (.aload 4, 2) := dk_25 4 (dk_at dksX1_held_1 2 rfl rfl)
theorem dX1_held_28 : decode cX1_held 28 = .ok (.invokeinterface 88 1, 5) := by decide +kernel
theorem dX1_held_33 : decode cX1_held 33 = .ok (.ifCond .eq 33, 3) := dk_153 0 33 (dk_at dksX1_held_1 9 rfl rfl)
theorem dX1_held_36 : decode cX1_held 36 = .ok (.aload 4, 2) := dk_25 4 (dk_at dksX1_held_1 12 rfl rfl)
theorem dX1_held_38 : decode cX1_held 38 = .ok (.invokeinterface 94 1, 5) := by decide +kernel
theorem dX1_held_43 : decode cX1_held 43 = .ok (.checkcast 455, 3) := dk_192 1 199 (dk_at dksX1_held_1 19 rfl rfl)
theorem dX1_held_46 : decode cX1_held 46 = .ok (.astore 5, 2) := dk_58 5 (dk_at dksX1_held_1 22 rfl rfl)
theorem dX1_held_48 : decode cX1_held 48 = .ok (.aload 5, 2) := dk_25 5 (dk_at dksX1_held_2 0 rfl rfl)
theorem dX1_held_50 : decode cX1_held 50 = .ok (.invokevirtual 465, 3) := dk_182 1 209 (dk_at dksX1_held_2 2 rfl rfl)
theorem dX1_held_53 : decode cX1_held 53 = .ok (.iload_n 2, 1) := dk_28 (dk_at dksX1_held_2 5 rfl rfl)
theorem dX1_held_54 : decode cX1_held 54 = .ok (.if_icmp .ne 9, 3) := dk_160 0 9 (dk_at dksX1_held_2 6 rfl rfl)
theorem dX1_held_57 : decode cX1_held 57 = .ok (.aload 5, 2) := dk_25 5 (dk_at dksX1_held_2 9 rfl rfl)
theorem dX1_held_59 : decode cX1_held 59 = .ok (.invokevirtual 471, 3) := dk_182 1 215 (dk_at dksX1_held_2 11 rfl rfl)
theorem dX1_held_62 : decode cX1_held 62 = .ok (.ireturn, 1) := dk_172 (dk_at dksX1_held_2 14 rfl rfl)
theorem dX1_held_63 : decode cX1_held 63 = .ok (.goto (-37), 3) := dk_167 255 219 (dk_at dksX1_held_2 15 rfl rfl)
theorem dX1_held_66 : decode cX1_held 66 = .ok (.new 59, 3) := dk_187 0 59 (dk_at dksX1_held_2 18 rfl rfl)
theorem dX1_held_69 : decode cX1_held 69 = .ok (.dup, 1) := dk_89 (dk_at dksX1_held_2 21 rfl rfl)
theorem dX1_held_70 : decode cX1_held 70 = .ok (.invokespecial 61, 3) := dk_183 0 61 (dk_at dksX1_held_3 0 rfl rfl)
theorem dX1_held_73 : decode cX1_held 73 = .ok (.athrow, 1) := dk_191 (dk_at dksX1_held_3 3 rfl rfl)
abbrev cX1_holding : ByteArray := prog_1_method_72_code
def yX1_holding : MethodName := ⟨RX1, "holding", "(LVaultyard$Thing;)Ljava/util/ArrayList;"⟩
def dkwX1_holding_3 : List UInt8 := [21, 5, 182, 1, 212, 87, 132, 5, 255, 167, 255, 221, 44, 25, 4, 182, 0, 131, 87, 167, 255, 183, 44, 176]
abbrev dktX1_holding_3 : List UInt8 := dkwX1_holding_3 ++ []
def dkwX1_holding_2 : List UInt8 := [155, 0, 36, 44, 21, 5, 182, 0, 70, 192, 1, 199, 182, 1, 209, 25, 4, 182, 1, 209, 160, 0, 10, 44]
abbrev dktX1_holding_2 : List UInt8 := dkwX1_holding_2 ++ dktX1_holding_3
def dkwX1_holding_1 : List UInt8 := [153, 0, 70, 45, 185, 0, 94, 1, 0, 192, 1, 199, 58, 4, 44, 182, 0, 62, 4, 100, 54, 5, 21, 5]
abbrev dktX1_holding_1 : List UInt8 := dkwX1_holding_1 ++ dktX1_holding_2
def dkwX1_holding_0 : List UInt8 := [187, 0, 7, 89, 183, 0, 9, 77, 42, 43, 182, 1, 204, 182, 0, 84, 78, 45, 185, 0, 88, 1, 0]
abbrev dktX1_holding_0 : List UInt8 := dkwX1_holding_0 ++ dktX1_holding_1
theorem dksX1_holding_0 : cX1_holding.data.toList.drop 0 = dktX1_holding_0 := by decide +kernel
theorem dksX1_holding_1 : cX1_holding.data.toList.drop 23 = dktX1_holding_1 := dk_seg dksX1_holding_0 23 rfl rfl
theorem dksX1_holding_2 : cX1_holding.data.toList.drop 47 = dktX1_holding_2 := dk_seg dksX1_holding_1 24 rfl rfl
theorem dksX1_holding_3 : cX1_holding.data.toList.drop 71 = dktX1_holding_3 := dk_seg dksX1_holding_2 24 rfl rfl
theorem dX1_holding_0 : decode cX1_holding 0 = .ok (.new 7, 3) := dk_187 0 7 (dk_at dksX1_holding_0 0 rfl rfl)
theorem dX1_holding_3 : decode cX1_holding 3 = .ok (.dup, 1) := dk_89 (dk_at dksX1_holding_0 3 rfl rfl)
theorem dX1_holding_4 : decode cX1_holding 4 = .ok (.invokespecial 9, 3) := dk_183 0 9 (dk_at dksX1_holding_0 4 rfl rfl)
theorem dX1_holding_7 : decode cX1_holding 7 = .ok (.astore_n 2, 1) := dk_77 (dk_at dksX1_holding_0 7 rfl rfl)
theorem dX1_holding_8 : decode cX1_holding 8 = .ok (.aload_n 0, 1) := dk_42 (dk_at dksX1_holding_0 8 rfl rfl)
theorem dX1_holding_9 : decode cX1_holding 9 = .ok (.aload_n 1, 1) := dk_43 (dk_at dksX1_holding_0 9 rfl rfl)
theorem dX1_holding_10 : decode cX1_holding 10 = .ok (.invokevirtual 460, 3) := dk_182 1 204 (dk_at dksX1_holding_0 10 rfl rfl)
theorem dX1_holding_13 : decode cX1_holding 13 = .ok (.invokevirtual 84, 3) := dk_182 0 84 (dk_at dksX1_holding_0 13 rfl rfl)
theorem dX1_holding_16 : decode cX1_holding 16 = .ok (.astore_n 3, 1) := dk_78 (dk_at dksX1_holding_0 16 rfl rfl)
theorem dX1_holding_17 : decode cX1_holding 17 = .ok (.aload_n 3, 1) := dk_45 (dk_at dksX1_holding_0 17 rfl rfl)
theorem dX1_holding_18 : decode cX1_holding 18 = .ok (.invokeinterface 88 1, 5) := by decide +kernel
theorem dX1_holding_23 : decode cX1_holding 23 = .ok (.ifCond .eq 70, 3) := dk_153 0 70 (dk_at dksX1_holding_1 0 rfl rfl)
theorem dX1_holding_26 : decode cX1_holding 26 = .ok (.aload_n 3, 1) := dk_45 (dk_at dksX1_holding_1 3 rfl rfl)
theorem dX1_holding_27 : decode cX1_holding 27 = .ok (.invokeinterface 94 1, 5) := by decide +kernel
theorem dX1_holding_32 : decode cX1_holding 32 = .ok (.checkcast 455, 3) := dk_192 1 199 (dk_at dksX1_holding_1 9 rfl rfl)
theorem dX1_holding_35 : decode cX1_holding 35 = .ok (.astore 4, 2) := dk_58 4 (dk_at dksX1_holding_1 12 rfl rfl)
theorem dX1_holding_37 : decode cX1_holding 37 = .ok (.aload_n 2, 1) := dk_44 (dk_at dksX1_holding_1 14 rfl rfl)
theorem dX1_holding_38 : decode cX1_holding 38 = .ok (.invokevirtual 62, 3) := dk_182 0 62 (dk_at dksX1_holding_1 15 rfl rfl)
theorem dX1_holding_41 : decode cX1_holding 41 = .ok (.iconst 1, 1) := dk_4 (dk_at dksX1_holding_1 18 rfl rfl)
theorem dX1_holding_42 : decode cX1_holding 42 = .ok (.isub, 1) := dk_100 (dk_at dksX1_holding_1 19 rfl rfl)
theorem dX1_holding_43 : decode cX1_holding 43 = .ok (.istore 5, 2) := dk_54 5 (dk_at dksX1_holding_1 20 rfl rfl)
theorem dX1_holding_45 : decode cX1_holding 45 = .ok (.iload 5, 2) := dk_21 5 (dk_at dksX1_holding_1 22 rfl rfl)
theorem dX1_holding_47 : decode cX1_holding 47 = .ok (.ifCond .lt 36, 3) := dk_155 0 36 (dk_at dksX1_holding_2 0 rfl rfl)
theorem dX1_holding_50 : decode cX1_holding 50 = .ok (.aload_n 2, 1) := dk_44 (dk_at dksX1_holding_2 3 rfl rfl)
theorem dX1_holding_51 : decode cX1_holding 51 = .ok (.iload 5, 2) := dk_21 5 (dk_at dksX1_holding_2 4 rfl rfl)
theorem dX1_holding_53 : decode cX1_holding 53 = .ok (.invokevirtual 70, 3) := dk_182 0 70 (dk_at dksX1_holding_2 6 rfl rfl)
theorem dX1_holding_56 : decode cX1_holding 56 = .ok (.checkcast 455, 3) := dk_192 1 199 (dk_at dksX1_holding_2 9 rfl rfl)
theorem dX1_holding_59 : decode cX1_holding 59 = .ok (.invokevirtual 465, 3) := dk_182 1 209 (dk_at dksX1_holding_2 12 rfl rfl)
theorem dX1_holding_62 : decode cX1_holding 62 = .ok (.aload 4, 2) := dk_25 4 (dk_at dksX1_holding_2 15 rfl rfl)
theorem dX1_holding_64 : decode cX1_holding 64 = .ok (.invokevirtual 465, 3) := dk_182 1 209 (dk_at dksX1_holding_2 17 rfl rfl)
theorem dX1_holding_67 : decode cX1_holding 67 = .ok (.if_icmp .ne 10, 3) := dk_160 0 10 (dk_at dksX1_holding_2 20 rfl rfl)
theorem dX1_holding_70 : decode cX1_holding 70 = .ok (.aload_n 2, 1) := dk_44 (dk_at dksX1_holding_2 23 rfl rfl)
theorem dX1_holding_71 : decode cX1_holding 71 = .ok (.iload 5, 2) := dk_21 5 (dk_at dksX1_holding_3 0 rfl rfl)
theorem dX1_holding_73 : decode cX1_holding 73 = .ok (.invokevirtual 468, 3) := dk_182 1 212 (dk_at dksX1_holding_3 2 rfl rfl)
theorem dX1_holding_76 : decode cX1_holding 76 = .ok (.pop, 1) := dk_87 (dk_at dksX1_holding_3 5 rfl rfl)
theorem dX1_holding_77 : decode cX1_holding 77 = .ok (.iinc 5 (-1), 3) := dk_132 5 255 (dk_at dksX1_holding_3 6 rfl rfl)
theorem dX1_holding_80 : decode cX1_holding 80 = .ok (.goto (-35), 3) := dk_167 255 221 (dk_at dksX1_holding_3 9 rfl rfl)
theorem dX1_holding_83 : decode cX1_holding 83 = .ok (.aload_n 2, 1) := dk_44 (dk_at dksX1_holding_3 12 rfl rfl)
theorem dX1_holding_84 : decode cX1_holding 84 = .ok (.aload 4, 2) := dk_25 4 (dk_at dksX1_holding_3 13 rfl rfl)
theorem dX1_holding_86 : decode cX1_holding 86 = .ok (.invokevirtual 131, 3) := dk_182 0 131 (dk_at dksX1_holding_3 15 rfl rfl)
theorem dX1_holding_89 : decode cX1_holding 89 = .ok (.pop, 1) := dk_87 (dk_at dksX1_holding_3 18 rfl rfl)
theorem dX1_holding_90 : decode cX1_holding 90 = .ok (.goto (-73), 3) := dk_167 255 183 (dk_at dksX1_holding_3 19 rfl rfl)
theorem dX1_holding_93 : decode cX1_holding 93 = .ok (.aload_n 2, 1) := dk_44 (dk_at dksX1_holding_3 22 rfl rfl)
theorem dX1_holding_94 : decode cX1_holding 94 = .ok (.areturn, 1) := dk_176 (dk_at dksX1_holding_3 23 rfl rfl)
abbrev cX1_code : ByteArray := prog_1_method_76_code
def yX1_code : MethodName := ⟨RX1, "code", "(I)I"⟩
def dkwX1_code_1 : List UInt8 := [172]
abbrev dktX1_code_1 : List UInt8 := dkwX1_code_1 ++ []
def dkwX1_code_0 : List UInt8 := [42, 42, 27, 182, 0, 182, 182, 1, 225, 61, 28, 2, 159, 0, 7, 4, 167, 0, 4, 3, 184, 0, 205, 28]
abbrev dktX1_code_0 : List UInt8 := dkwX1_code_0 ++ dktX1_code_1
theorem dksX1_code_0 : cX1_code.data.toList.drop 0 = dktX1_code_0 := by decide +kernel
theorem dksX1_code_1 : cX1_code.data.toList.drop 24 = dktX1_code_1 := dk_seg dksX1_code_0 24 rfl rfl
theorem dX1_code_0 : decode cX1_code 0 = .ok (.aload_n 0, 1) := dk_42 (dk_at dksX1_code_0 0 rfl rfl)
theorem dX1_code_1 : decode cX1_code 1 = .ok (.aload_n 0, 1) := dk_42 (dk_at dksX1_code_0 1 rfl rfl)
theorem dX1_code_2 : decode cX1_code 2 = .ok (.iload_n 1, 1) := dk_27 (dk_at dksX1_code_0 2 rfl rfl)
theorem dX1_code_3 : decode cX1_code 3 = .ok (.invokevirtual 182, 3) := dk_182 0 182 (dk_at dksX1_code_0 3 rfl rfl)
theorem dX1_code_6 : decode cX1_code 6 = .ok (.invokevirtual 481, 3) := dk_182 1 225 (dk_at dksX1_code_0 6 rfl rfl)
theorem dX1_code_9 : decode cX1_code 9 = .ok (.istore_n 2, 1) := dk_61 (dk_at dksX1_code_0 9 rfl rfl)
theorem dX1_code_10 : decode cX1_code 10 = .ok (.iload_n 2, 1) := dk_28 (dk_at dksX1_code_0 10 rfl rfl)
theorem dX1_code_11 : decode cX1_code 11 = .ok (.iconst (-1), 1) := dk_2 (dk_at dksX1_code_0 11 rfl rfl)
theorem dX1_code_12 : decode cX1_code 12 = .ok (.if_icmp .eq 7, 3) := dk_159 0 7 (dk_at dksX1_code_0 12 rfl rfl)
theorem dX1_code_15 : decode cX1_code 15 = .ok (.iconst 1, 1) := dk_4 (dk_at dksX1_code_0 15 rfl rfl)
theorem dX1_code_16 : decode cX1_code 16 = .ok (.goto 4, 3) := dk_167 0 4 (dk_at dksX1_code_0 16 rfl rfl)
theorem dX1_code_19 : decode cX1_code 19 = .ok (.iconst 0, 1) := dk_3 (dk_at dksX1_code_0 19 rfl rfl)
theorem dX1_code_20 : decode cX1_code 20 = .ok (.invokestatic 205, 3) := dk_184 0 205 (dk_at dksX1_code_0 20 rfl rfl)
theorem dX1_code_23 : decode cX1_code 23 = .ok (.iload_n 2, 1) := dk_28 (dk_at dksX1_code_0 23 rfl rfl)
theorem dX1_code_24 : decode cX1_code 24 = .ok (.ireturn, 1) := dk_172 (dk_at dksX1_code_1 0 rfl rfl)
abbrev cX1_codeOf : ByteArray := prog_1_method_74_code
def yX1_codeOf : MethodName := ⟨RX1, "codeOf", "(LVaultyard$Thing;)I"⟩
def dkwX1_codeOf_3 : List UInt8 := [180, 1, 45, 199, 0, 7, 2, 167, 0, 13, 45, 180, 1, 45, 192, 1, 199, 182, 1, 215, 172]
abbrev dktX1_codeOf_3 : List UInt8 := dkwX1_codeOf_3 ++ []
def dkwX1_codeOf_2 : List UInt8 := [25, 5, 182, 1, 215, 184, 1, 221, 116, 184, 1, 31, 184, 1, 167, 182, 1, 41, 167, 255, 212, 45]
abbrev dktX1_codeOf_2 : List UInt8 := dkwX1_codeOf_2 ++ dktX1_codeOf_3
def dkwX1_codeOf_1 : List UInt8 := [185, 0, 88, 1, 0, 153, 0, 40, 25, 4, 185, 0, 94, 1, 0, 192, 1, 199, 58, 5, 45, 25, 5, 44]
abbrev dktX1_codeOf_1 : List UInt8 := dkwX1_codeOf_1 ++ dktX1_codeOf_2
def dkwX1_codeOf_0 : List UInt8 := [42, 43, 182, 1, 218, 77, 187, 1, 10, 89, 183, 1, 12, 78, 44, 182, 0, 84, 58, 4, 25, 4]
abbrev dktX1_codeOf_0 : List UInt8 := dkwX1_codeOf_0 ++ dktX1_codeOf_1
theorem dksX1_codeOf_0 : cX1_codeOf.data.toList.drop 0 = dktX1_codeOf_0 := by decide +kernel
theorem dksX1_codeOf_1 : cX1_codeOf.data.toList.drop 22 = dktX1_codeOf_1 := dk_seg dksX1_codeOf_0 22 rfl rfl
theorem dksX1_codeOf_2 : cX1_codeOf.data.toList.drop 46 = dktX1_codeOf_2 := dk_seg dksX1_codeOf_1 24 rfl rfl
theorem dksX1_codeOf_3 : cX1_codeOf.data.toList.drop 68 = dktX1_codeOf_3 := dk_seg dksX1_codeOf_2 22 rfl rfl
theorem dX1_codeOf_0 : decode cX1_codeOf 0 = .ok (.aload_n 0, 1) := dk_42 (dk_at dksX1_codeOf_0 0 rfl rfl)
theorem dX1_codeOf_1 : decode cX1_codeOf 1 = .ok (.aload_n 1, 1) := dk_43 (dk_at dksX1_codeOf_0 1 rfl rfl)
theorem dX1_codeOf_2 : decode cX1_codeOf 2 = .ok (.invokevirtual 474, 3) := dk_182 1 218 (dk_at dksX1_codeOf_0 2 rfl rfl)
theorem dX1_codeOf_5 : decode cX1_codeOf 5 = .ok (.astore_n 2, 1) := dk_77 (dk_at dksX1_codeOf_0 5 rfl rfl)
theorem dX1_codeOf_6 : decode cX1_codeOf 6 = .ok (.new 266, 3) := dk_187 1 10 (dk_at dksX1_codeOf_0 6 rfl rfl)
theorem dX1_codeOf_9 : decode cX1_codeOf 9 = .ok (.dup, 1) := dk_89 (dk_at dksX1_codeOf_0 9 rfl rfl)
theorem dX1_codeOf_10 : decode cX1_codeOf 10 = .ok (.invokespecial 268, 3) := dk_183 1 12 (dk_at dksX1_codeOf_0 10 rfl rfl)
theorem dX1_codeOf_13 : decode cX1_codeOf 13 = .ok (.astore_n 3, 1) := dk_78 (dk_at dksX1_codeOf_0 13 rfl rfl)
theorem dX1_codeOf_14 : decode cX1_codeOf 14 = .ok (.aload_n 2, 1) := dk_44 (dk_at dksX1_codeOf_0 14 rfl rfl)
theorem dX1_codeOf_15 : decode cX1_codeOf 15 = .ok (.invokevirtual 84, 3) := dk_182 0 84 (dk_at dksX1_codeOf_0 15 rfl rfl)
theorem dX1_codeOf_18 : decode cX1_codeOf 18 = .ok (.astore 4, 2) := dk_58 4 (dk_at dksX1_codeOf_0 18 rfl rfl)
theorem dX1_codeOf_20 : decode cX1_codeOf 20 = .ok (.aload 4, 2) := dk_25 4 (dk_at dksX1_codeOf_0 20 rfl rfl)
theorem dX1_codeOf_22 : decode cX1_codeOf 22 = .ok (.invokeinterface 88 1, 5) := by decide +kernel
theorem dX1_codeOf_27 : decode cX1_codeOf 27 = .ok (.ifCond .eq 40, 3) := dk_153 0 40 (dk_at dksX1_codeOf_1 5 rfl rfl)
theorem dX1_codeOf_30 : decode cX1_codeOf 30 = .ok (.aload 4, 2) := dk_25 4 (dk_at dksX1_codeOf_1 8 rfl rfl)
theorem dX1_codeOf_32 : decode cX1_codeOf 32 = .ok (.invokeinterface 94 1, 5) := by decide +kernel
theorem dX1_codeOf_37 : decode cX1_codeOf 37 = .ok (.checkcast 455, 3) := dk_192 1 199 (dk_at dksX1_codeOf_1 15 rfl rfl)
theorem dX1_codeOf_40 : decode cX1_codeOf 40 = .ok (.astore 5, 2) := dk_58 5 (dk_at dksX1_codeOf_1 18 rfl rfl)
theorem dX1_codeOf_42 : decode cX1_codeOf 42 = .ok (.aload_n 3, 1) := dk_45 (dk_at dksX1_codeOf_1 20 rfl rfl)
theorem dX1_codeOf_43 : decode cX1_codeOf 43 = .ok (.aload 5, 2) := dk_25 5 (dk_at dksX1_codeOf_1 21 rfl rfl)
theorem dX1_codeOf_45 : decode cX1_codeOf 45 = .ok (.aload_n 2, 1) := dk_44 (dk_at dksX1_codeOf_1 23 rfl rfl)
theorem dX1_codeOf_46 : decode cX1_codeOf 46 = .ok (.aload 5, 2) := dk_25 5 (dk_at dksX1_codeOf_2 0 rfl rfl)
theorem dX1_codeOf_48 : decode cX1_codeOf 48 = .ok (.invokevirtual 471, 3) := dk_182 1 215 (dk_at dksX1_codeOf_2 2 rfl rfl)
theorem dX1_codeOf_51 : decode cX1_codeOf 51 = .ok (.invokestatic 477, 3) := dk_184 1 221 (dk_at dksX1_codeOf_2 5 rfl rfl)
theorem dX1_codeOf_54 : decode cX1_codeOf 54 = .ok (.ineg, 1) := dk_116 (dk_at dksX1_codeOf_2 8 rfl rfl)
theorem dX1_codeOf_55 : decode cX1_codeOf 55 = .ok (.invokestatic 287, 3) := dk_184 1 31 (dk_at dksX1_codeOf_2 9 rfl rfl)
theorem dX1_codeOf_58 : decode cX1_codeOf 58 = .ok (.invokestatic 423, 3) := dk_184 1 167 (dk_at dksX1_codeOf_2 12 rfl rfl)
theorem dX1_codeOf_61 : decode cX1_codeOf 61 = .ok (.invokevirtual 297, 3) := dk_182 1 41 (dk_at dksX1_codeOf_2 15 rfl rfl)
theorem dX1_codeOf_64 : decode cX1_codeOf 64 = .ok (.goto (-44), 3) := dk_167 255 212 (dk_at dksX1_codeOf_2 18 rfl rfl)
theorem dX1_codeOf_67 : decode cX1_codeOf 67 = .ok (.aload_n 3, 1) := dk_45 (dk_at dksX1_codeOf_2 21 rfl rfl)
theorem dX1_codeOf_68 : decode cX1_codeOf 68 = .ok (.getfield 301, 3) := dk_180 1 45 (dk_at dksX1_codeOf_3 0 rfl rfl)
theorem dX1_codeOf_71 : decode cX1_codeOf 71 = .ok (.ifnonnull 7, 3) := dk_199 0 7 (dk_at dksX1_codeOf_3 3 rfl rfl)
theorem dX1_codeOf_74 : decode cX1_codeOf 74 = .ok (.iconst (-1), 1) := dk_2 (dk_at dksX1_codeOf_3 6 rfl rfl)
theorem dX1_codeOf_75 : decode cX1_codeOf 75 = .ok (.goto 13, 3) := dk_167 0 13 (dk_at dksX1_codeOf_3 7 rfl rfl)
theorem dX1_codeOf_78 : decode cX1_codeOf 78 = .ok (.aload_n 3, 1) := dk_45 (dk_at dksX1_codeOf_3 10 rfl rfl)
theorem dX1_codeOf_79 : decode cX1_codeOf 79 = .ok (.getfield 301, 3) := dk_180 1 45 (dk_at dksX1_codeOf_3 11 rfl rfl)
theorem dX1_codeOf_82 : decode cX1_codeOf 82 = .ok (.checkcast 455, 3) := dk_192 1 199 (dk_at dksX1_codeOf_3 14 rfl rfl)
theorem dX1_codeOf_85 : decode cX1_codeOf 85 = .ok (.invokevirtual 471, 3) := dk_182 1 215 (dk_at dksX1_codeOf_3 17 rfl rfl)
theorem dX1_codeOf_88 : decode cX1_codeOf 88 = .ok (.ireturn, 1) := dk_172 (dk_at dksX1_codeOf_3 20 rfl rfl)
abbrev cX1_many : ByteArray := prog_1_method_73_code
def yX1_many : MethodName := ⟨RX1, "many", "(Ljava/util/List;I)I"⟩
def dkwX1_many_2 : List UInt8 := [167, 255, 219, 28, 172]
abbrev dktX1_many_2 : List UInt8 := dkwX1_many_2 ++ []
def dkwX1_many_1 : List UInt8 := [192, 1, 199, 58, 4, 28, 25, 4, 182, 1, 215, 27, 160, 0, 7, 4, 167, 0, 4, 3, 96, 61]
abbrev dktX1_many_1 : List UInt8 := dkwX1_many_1 ++ dktX1_many_2
def dkwX1_many_0 : List UInt8 := [3, 61, 42, 185, 1, 214, 1, 0, 78, 45, 185, 0, 88, 1, 0, 153, 0, 34, 45, 185, 0, 94, 1, 0]
abbrev dktX1_many_0 : List UInt8 := dkwX1_many_0 ++ dktX1_many_1
theorem dksX1_many_0 : cX1_many.data.toList.drop 0 = dktX1_many_0 := by decide +kernel
theorem dksX1_many_1 : cX1_many.data.toList.drop 24 = dktX1_many_1 := dk_seg dksX1_many_0 24 rfl rfl
theorem dksX1_many_2 : cX1_many.data.toList.drop 46 = dktX1_many_2 := dk_seg dksX1_many_1 22 rfl rfl
theorem dX1_many_0 : decode cX1_many 0 = .ok (.iconst 0, 1) := dk_3 (dk_at dksX1_many_0 0 rfl rfl)
theorem dX1_many_1 : decode cX1_many 1 = .ok (.istore_n 2, 1) := dk_61 (dk_at dksX1_many_0 1 rfl rfl)
theorem dX1_many_2 : decode cX1_many 2 = .ok (.aload_n 0, 1) := dk_42 (dk_at dksX1_many_0 2 rfl rfl)
theorem dX1_many_3 : decode cX1_many 3 = .ok (.invokeinterface 470 1, 5) := by decide +kernel
theorem dX1_many_8 : decode cX1_many 8 = .ok (.astore_n 3, 1) := dk_78 (dk_at dksX1_many_0 8 rfl rfl)
theorem dX1_many_9 : decode cX1_many 9 = .ok (.aload_n 3, 1) := dk_45 (dk_at dksX1_many_0 9 rfl rfl)
theorem dX1_many_10 : decode cX1_many 10 = .ok (.invokeinterface 88 1, 5) := by decide +kernel
theorem dX1_many_15 : decode cX1_many 15 = .ok (.ifCond .eq 34, 3) := dk_153 0 34 (dk_at dksX1_many_0 15 rfl rfl)
theorem dX1_many_18 : decode cX1_many 18 = .ok (.aload_n 3, 1) := dk_45 (dk_at dksX1_many_0 18 rfl rfl)
theorem dX1_many_19 : decode cX1_many 19 = .ok (.invokeinterface 94 1, 5) := by decide +kernel
theorem dX1_many_24 : decode cX1_many 24 = .ok (.checkcast 455, 3) := dk_192 1 199 (dk_at dksX1_many_1 0 rfl rfl)
theorem dX1_many_27 : decode cX1_many 27 = .ok (.astore 4, 2) := dk_58 4 (dk_at dksX1_many_1 3 rfl rfl)
theorem dX1_many_29 : decode cX1_many 29 = .ok (.iload_n 2, 1) := dk_28 (dk_at dksX1_many_1 5 rfl rfl)
theorem dX1_many_30 : decode cX1_many 30 = .ok (.aload 4, 2) := dk_25 4 (dk_at dksX1_many_1 6 rfl rfl)
theorem dX1_many_32 : decode cX1_many 32 = .ok (.invokevirtual 471, 3) := dk_182 1 215 (dk_at dksX1_many_1 8 rfl rfl)
theorem dX1_many_35 : decode cX1_many 35 = .ok (.iload_n 1, 1) := dk_27 (dk_at dksX1_many_1 11 rfl rfl)
theorem dX1_many_36 : decode cX1_many 36 = .ok (.if_icmp .ne 7, 3) := dk_160 0 7 (dk_at dksX1_many_1 12 rfl rfl)
theorem dX1_many_39 : decode cX1_many 39 = .ok (.iconst 1, 1) := dk_4 (dk_at dksX1_many_1 15 rfl rfl)
theorem dX1_many_40 : decode cX1_many 40 = .ok (.goto 4, 3) := dk_167 0 4 (dk_at dksX1_many_1 16 rfl rfl)
theorem dX1_many_43 : decode cX1_many 43 = .ok (.iconst 0, 1) := dk_3 (dk_at dksX1_many_1 19 rfl rfl)
theorem dX1_many_44 : decode cX1_many 44 = .ok (.iadd, 1) := dk_96 (dk_at dksX1_many_1 20 rfl rfl)
theorem dX1_many_45 : decode cX1_many 45 = .ok (.istore_n 2, 1) := dk_61 (dk_at dksX1_many_1 21 rfl rfl)
theorem dX1_many_46 : decode cX1_many 46 = .ok (.goto (-37), 3) := dk_167 255 219 (dk_at dksX1_many_2 0 rfl rfl)
theorem dX1_many_49 : decode cX1_many 49 = .ok (.iload_n 2, 1) := dk_28 (dk_at dksX1_many_2 3 rfl rfl)
theorem dX1_many_50 : decode cX1_many 50 = .ok (.ireturn, 1) := dk_172 (dk_at dksX1_many_2 4 rfl rfl)
abbrev cX1_told : ByteArray := prog_1_method_77_code
def yX1_told : MethodName := ⟨RX1, "told", "(II)I"⟩
def dkwX1_told_2 : List UInt8 := [182, 1, 215, 96, 172]
abbrev dktX1_told_2 : List UInt8 := dkwX1_told_2 ++ []
def dkwX1_told_1 : List UInt8 := [16, 100, 45, 28, 182, 0, 70, 192, 1, 199, 182, 1, 209, 104, 45, 28, 182, 0, 70, 192, 1, 199]
abbrev dktX1_told_1 : List UInt8 := dkwX1_told_1 ++ dktX1_told_2
def dkwX1_told_0 : List UInt8 := [42, 42, 27, 182, 0, 182, 182, 1, 204, 78, 28, 3, 45, 182, 0, 62, 4, 100, 184, 0, 139, 184, 0, 205]
abbrev dktX1_told_0 : List UInt8 := dkwX1_told_0 ++ dktX1_told_1
theorem dksX1_told_0 : cX1_told.data.toList.drop 0 = dktX1_told_0 := by decide +kernel
theorem dksX1_told_1 : cX1_told.data.toList.drop 24 = dktX1_told_1 := dk_seg dksX1_told_0 24 rfl rfl
theorem dksX1_told_2 : cX1_told.data.toList.drop 46 = dktX1_told_2 := dk_seg dksX1_told_1 22 rfl rfl
theorem dX1_told_0 : decode cX1_told 0 = .ok (.aload_n 0, 1) := dk_42 (dk_at dksX1_told_0 0 rfl rfl)
theorem dX1_told_1 : decode cX1_told 1 = .ok (.aload_n 0, 1) := dk_42 (dk_at dksX1_told_0 1 rfl rfl)
theorem dX1_told_2 : decode cX1_told 2 = .ok (.iload_n 1, 1) := dk_27 (dk_at dksX1_told_0 2 rfl rfl)
theorem dX1_told_3 : decode cX1_told 3 = .ok (.invokevirtual 182, 3) := dk_182 0 182 (dk_at dksX1_told_0 3 rfl rfl)
theorem dX1_told_6 : decode cX1_told 6 = .ok (.invokevirtual 460, 3) := dk_182 1 204 (dk_at dksX1_told_0 6 rfl rfl)
theorem dX1_told_9 : decode cX1_told 9 = .ok (.astore_n 3, 1) := dk_78 (dk_at dksX1_told_0 9 rfl rfl)
theorem dX1_told_10 : decode cX1_told 10 = .ok (.iload_n 2, 1) := dk_28 (dk_at dksX1_told_0 10 rfl rfl)
theorem dX1_told_11 : decode cX1_told 11 = .ok (.iconst 0, 1) := dk_3 (dk_at dksX1_told_0 11 rfl rfl)
theorem dX1_told_12 : decode cX1_told 12 = .ok (.aload_n 3, 1) := dk_45 (dk_at dksX1_told_0 12 rfl rfl)
theorem dX1_told_13 : decode cX1_told 13 = .ok (.invokevirtual 62, 3) := dk_182 0 62 (dk_at dksX1_told_0 13 rfl rfl)
theorem dX1_told_16 : decode cX1_told 16 = .ok (.iconst 1, 1) := dk_4 (dk_at dksX1_told_0 16 rfl rfl)
theorem dX1_told_17 : decode cX1_told 17 = .ok (.isub, 1) := dk_100 (dk_at dksX1_told_0 17 rfl rfl)
theorem dX1_told_18 : decode cX1_told 18 = .ok (.invokestatic 139, 3) := dk_184 0 139 (dk_at dksX1_told_0 18 rfl rfl)
theorem dX1_told_21 : decode cX1_told 21 = .ok (.invokestatic 205, 3) := dk_184 0 205 (dk_at dksX1_told_0 21 rfl rfl)
theorem dX1_told_24 : decode cX1_told 24 = .ok (.bipush 100, 2) := dk_16 100 (dk_at dksX1_told_1 0 rfl rfl)
theorem dX1_told_26 : decode cX1_told 26 = .ok (.aload_n 3, 1) := dk_45 (dk_at dksX1_told_1 2 rfl rfl)
theorem dX1_told_27 : decode cX1_told 27 = .ok (.iload_n 2, 1) := dk_28 (dk_at dksX1_told_1 3 rfl rfl)
theorem dX1_told_28 : decode cX1_told 28 = .ok (.invokevirtual 70, 3) := dk_182 0 70 (dk_at dksX1_told_1 4 rfl rfl)
theorem dX1_told_31 : decode cX1_told 31 = .ok (.checkcast 455, 3) := dk_192 1 199 (dk_at dksX1_told_1 7 rfl rfl)
theorem dX1_told_34 : decode cX1_told 34 = .ok (.invokevirtual 465, 3) := dk_182 1 209 (dk_at dksX1_told_1 10 rfl rfl)
theorem dX1_told_37 : decode cX1_told 37 = .ok (.imul, 1) := dk_104 (dk_at dksX1_told_1 13 rfl rfl)
theorem dX1_told_38 : decode cX1_told 38 = .ok (.aload_n 3, 1) := dk_45 (dk_at dksX1_told_1 14 rfl rfl)
theorem dX1_told_39 : decode cX1_told 39 = .ok (.iload_n 2, 1) := dk_28 (dk_at dksX1_told_1 15 rfl rfl)
theorem dX1_told_40 : decode cX1_told 40 = .ok (.invokevirtual 70, 3) := dk_182 0 70 (dk_at dksX1_told_1 16 rfl rfl)
theorem dX1_told_43 : decode cX1_told 43 = .ok (.checkcast 455, 3) := dk_192 1 199 (dk_at dksX1_told_1 19 rfl rfl)
theorem dX1_told_46 : decode cX1_told 46 = .ok (.invokevirtual 471, 3) := dk_182 1 215 (dk_at dksX1_told_2 0 rfl rfl)
theorem dX1_told_49 : decode cX1_told 49 = .ok (.iadd, 1) := dk_96 (dk_at dksX1_told_2 3 rfl rfl)
theorem dX1_told_50 : decode cX1_told 50 = .ok (.ireturn, 1) := dk_172 (dk_at dksX1_told_2 4 rfl rfl)
abbrev cX1_fund : ByteArray := prog_1_method_78_code
def yX1_fund : MethodName := ⟨RX1, "fund", "(II)I"⟩
def dkwX1_fund_3 : List UInt8 := [182, 0, 131, 87, 42, 180, 0, 34, 182, 0, 62, 4, 100, 172]
abbrev dktX1_fund_3 : List UInt8 := dkwX1_fund_3 ++ []
def dkwX1_fund_2 : List UInt8 := [184, 0, 143, 42, 180, 0, 34, 187, 1, 13, 89, 42, 180, 0, 34, 182, 0, 62, 27, 28, 183, 1, 230]
abbrev dktX1_fund_2 : List UInt8 := dkwX1_fund_2 ++ dktX1_fund_3
def dkwX1_fund_1 : List UInt8 := [167, 0, 4, 3, 184, 0, 135, 42, 180, 0, 34, 182, 0, 62, 8, 162, 0, 7, 4, 167, 0, 4, 3]
abbrev dktX1_fund_1 : List UInt8 := dkwX1_fund_1 ++ dktX1_fund_2
def dkwX1_fund_0 : List UInt8 := [27, 3, 19, 1, 229, 184, 0, 139, 153, 0, 17, 28, 4, 16, 15, 184, 0, 139, 153, 0, 7, 4]
abbrev dktX1_fund_0 : List UInt8 := dkwX1_fund_0 ++ dktX1_fund_1
theorem dksX1_fund_0 : cX1_fund.data.toList.drop 0 = dktX1_fund_0 := by decide +kernel
theorem dksX1_fund_1 : cX1_fund.data.toList.drop 22 = dktX1_fund_1 := dk_seg dksX1_fund_0 22 rfl rfl
theorem dksX1_fund_2 : cX1_fund.data.toList.drop 45 = dktX1_fund_2 := dk_seg dksX1_fund_1 23 rfl rfl
theorem dksX1_fund_3 : cX1_fund.data.toList.drop 68 = dktX1_fund_3 := dk_seg dksX1_fund_2 23 rfl rfl
theorem dX1_fund_0 : decode cX1_fund 0 = .ok (.iload_n 1, 1) := dk_27 (dk_at dksX1_fund_0 0 rfl rfl)
theorem dX1_fund_1 : decode cX1_fund 1 = .ok (.iconst 0, 1) := dk_3 (dk_at dksX1_fund_0 1 rfl rfl)
theorem dX1_fund_2 : decode cX1_fund 2 = .ok (.ldc_w 485, 3) := dk_19 1 229 (dk_at dksX1_fund_0 2 rfl rfl)
theorem dX1_fund_5 : decode cX1_fund 5 = .ok (.invokestatic 139, 3) := dk_184 0 139 (dk_at dksX1_fund_0 5 rfl rfl)
theorem dX1_fund_8 : decode cX1_fund 8 = .ok (.ifCond .eq 17, 3) := dk_153 0 17 (dk_at dksX1_fund_0 8 rfl rfl)
theorem dX1_fund_11 : decode cX1_fund 11 = .ok (.iload_n 2, 1) := dk_28 (dk_at dksX1_fund_0 11 rfl rfl)
theorem dX1_fund_12 : decode cX1_fund 12 = .ok (.iconst 1, 1) := dk_4 (dk_at dksX1_fund_0 12 rfl rfl)
theorem dX1_fund_13 : decode cX1_fund 13 = .ok (.bipush 15, 2) := dk_16 15 (dk_at dksX1_fund_0 13 rfl rfl)
theorem dX1_fund_15 : decode cX1_fund 15 = .ok (.invokestatic 139, 3) := dk_184 0 139 (dk_at dksX1_fund_0 15 rfl rfl)
theorem dX1_fund_18 : decode cX1_fund 18 = .ok (.ifCond .eq 7, 3) := dk_153 0 7 (dk_at dksX1_fund_0 18 rfl rfl)
theorem dX1_fund_21 : decode cX1_fund 21 = .ok (.iconst 1, 1) := dk_4 (dk_at dksX1_fund_0 21 rfl rfl)
theorem dX1_fund_22 : decode cX1_fund 22 = .ok (.goto 4, 3) := dk_167 0 4 (dk_at dksX1_fund_1 0 rfl rfl)
theorem dX1_fund_25 : decode cX1_fund 25 = .ok (.iconst 0, 1) := dk_3 (dk_at dksX1_fund_1 3 rfl rfl)
theorem dX1_fund_26 : decode cX1_fund 26 = .ok (.invokestatic 135, 3) := dk_184 0 135 (dk_at dksX1_fund_1 4 rfl rfl)
theorem dX1_fund_29 : decode cX1_fund 29 = .ok (.aload_n 0, 1) := dk_42 (dk_at dksX1_fund_1 7 rfl rfl)
theorem dX1_fund_30 : decode cX1_fund 30 = .ok (.getfield 34, 3) := dk_180 0 34 (dk_at dksX1_fund_1 8 rfl rfl)
theorem dX1_fund_33 : decode cX1_fund 33 = .ok (.invokevirtual 62, 3) := dk_182 0 62 (dk_at dksX1_fund_1 11 rfl rfl)
theorem dX1_fund_36 : decode cX1_fund 36 = .ok (.iconst 5, 1) := dk_8 (dk_at dksX1_fund_1 14 rfl rfl)
theorem dX1_fund_37 : decode cX1_fund 37 = .ok (.if_icmp .ge 7, 3) := dk_162 0 7 (dk_at dksX1_fund_1 15 rfl rfl)
theorem dX1_fund_40 : decode cX1_fund 40 = .ok (.iconst 1, 1) := dk_4 (dk_at dksX1_fund_1 18 rfl rfl)
theorem dX1_fund_41 : decode cX1_fund 41 = .ok (.goto 4, 3) := dk_167 0 4 (dk_at dksX1_fund_1 19 rfl rfl)
theorem dX1_fund_44 : decode cX1_fund 44 = .ok (.iconst 0, 1) := dk_3 (dk_at dksX1_fund_1 22 rfl rfl)
theorem dX1_fund_45 : decode cX1_fund 45 = .ok (.invokestatic 143, 3) := dk_184 0 143 (dk_at dksX1_fund_2 0 rfl rfl)
theorem dX1_fund_48 : decode cX1_fund 48 = .ok (.aload_n 0, 1) := dk_42 (dk_at dksX1_fund_2 3 rfl rfl)
theorem dX1_fund_49 : decode cX1_fund 49 = .ok (.getfield 34, 3) := dk_180 0 34 (dk_at dksX1_fund_2 4 rfl rfl)
theorem dX1_fund_52 : decode cX1_fund 52 = .ok (.new 269, 3) := dk_187 1 13 (dk_at dksX1_fund_2 7 rfl rfl)
theorem dX1_fund_55 : decode cX1_fund 55 = .ok (.dup, 1) := dk_89 (dk_at dksX1_fund_2 10 rfl rfl)
theorem dX1_fund_56 : decode cX1_fund 56 = .ok (.aload_n 0, 1) := dk_42 (dk_at dksX1_fund_2 11 rfl rfl)
theorem dX1_fund_57 : decode cX1_fund 57 = .ok (.getfield 34, 3) := dk_180 0 34 (dk_at dksX1_fund_2 12 rfl rfl)
theorem dX1_fund_60 : decode cX1_fund 60 = .ok (.invokevirtual 62, 3) := dk_182 0 62 (dk_at dksX1_fund_2 15 rfl rfl)
theorem dX1_fund_63 : decode cX1_fund 63 = .ok (.iload_n 1, 1) := dk_27 (dk_at dksX1_fund_2 18 rfl rfl)
theorem dX1_fund_64 : decode cX1_fund 64 = .ok (.iload_n 2, 1) := dk_28 (dk_at dksX1_fund_2 19 rfl rfl)
theorem dX1_fund_65 : decode cX1_fund 65 = .ok (.invokespecial 486, 3) := dk_183 1 230 (dk_at dksX1_fund_2 20 rfl rfl)
theorem dX1_fund_68 : decode cX1_fund 68 = .ok (.invokevirtual 131, 3) := dk_182 0 131 (dk_at dksX1_fund_3 0 rfl rfl)
theorem dX1_fund_71 : decode cX1_fund 71 = .ok (.pop, 1) := dk_87 (dk_at dksX1_fund_3 3 rfl rfl)
theorem dX1_fund_72 : decode cX1_fund 72 = .ok (.aload_n 0, 1) := dk_42 (dk_at dksX1_fund_3 4 rfl rfl)
theorem dX1_fund_73 : decode cX1_fund 73 = .ok (.getfield 34, 3) := dk_180 0 34 (dk_at dksX1_fund_3 5 rfl rfl)
theorem dX1_fund_76 : decode cX1_fund 76 = .ok (.invokevirtual 62, 3) := dk_182 0 62 (dk_at dksX1_fund_3 8 rfl rfl)
theorem dX1_fund_79 : decode cX1_fund 79 = .ok (.iconst 1, 1) := dk_4 (dk_at dksX1_fund_3 11 rfl rfl)
theorem dX1_fund_80 : decode cX1_fund 80 = .ok (.isub, 1) := dk_100 (dk_at dksX1_fund_3 12 rfl rfl)
theorem dX1_fund_81 : decode cX1_fund 81 = .ok (.ireturn, 1) := dk_172 (dk_at dksX1_fund_3 13 rfl rfl)
abbrev cX1_money : ByteArray := prog_1_method_79_code
def yX1_money : MethodName := ⟨RX1, "money", "(I)I"⟩
def dkwX1_money_1 : List UInt8 := [180, 1, 19, 172]
abbrev dktX1_money_1 : List UInt8 := dkwX1_money_1 ++ []
def dkwX1_money_0 : List UInt8 := [27, 42, 180, 0, 34, 182, 0, 62, 184, 0, 66, 42, 180, 0, 34, 27, 182, 0, 70, 192, 1, 13]
abbrev dktX1_money_0 : List UInt8 := dkwX1_money_0 ++ dktX1_money_1
theorem dksX1_money_0 : cX1_money.data.toList.drop 0 = dktX1_money_0 := by decide +kernel
theorem dksX1_money_1 : cX1_money.data.toList.drop 22 = dktX1_money_1 := dk_seg dksX1_money_0 22 rfl rfl
theorem dX1_money_0 : decode cX1_money 0 = .ok (.iload_n 1, 1) := dk_27 (dk_at dksX1_money_0 0 rfl rfl)
theorem dX1_money_1 : decode cX1_money 1 = .ok (.aload_n 0, 1) := dk_42 (dk_at dksX1_money_0 1 rfl rfl)
theorem dX1_money_2 : decode cX1_money 2 = .ok (.getfield 34, 3) := dk_180 0 34 (dk_at dksX1_money_0 2 rfl rfl)
theorem dX1_money_5 : decode cX1_money 5 = .ok (.invokevirtual 62, 3) := dk_182 0 62 (dk_at dksX1_money_0 5 rfl rfl)
theorem dX1_money_8 : decode cX1_money 8 = .ok (.invokestatic 66, 3) := dk_184 0 66 (dk_at dksX1_money_0 8 rfl rfl)
theorem dX1_money_11 : decode cX1_money 11 = .ok (.aload_n 0, 1) := dk_42 (dk_at dksX1_money_0 11 rfl rfl)
theorem dX1_money_12 : decode cX1_money 12 = .ok (.getfield 34, 3) := dk_180 0 34 (dk_at dksX1_money_0 12 rfl rfl)
theorem dX1_money_15 : decode cX1_money 15 = .ok (.iload_n 1, 1) := dk_27 (dk_at dksX1_money_0 15 rfl rfl)
theorem dX1_money_16 : decode cX1_money 16 = .ok (.invokevirtual 70, 3) := dk_182 0 70 (dk_at dksX1_money_0 16 rfl rfl)
theorem dX1_money_19 : decode cX1_money 19 = .ok (.checkcast 269, 3) := dk_192 1 13 (dk_at dksX1_money_0 19 rfl rfl)
theorem dX1_money_22 : decode cX1_money 22 = .ok (.getfield 275, 3) := dk_180 1 19 (dk_at dksX1_money_1 0 rfl rfl)
theorem dX1_money_25 : decode cX1_money 25 = .ok (.ireturn, 1) := dk_172 (dk_at dksX1_money_1 3 rfl rfl)
abbrev cX1_water : ByteArray := prog_1_method_81_code
def yX1_water : MethodName := ⟨RX1, "water", "(III)I"⟩
def dkwX1_water_5 : List UInt8 := [87, 132, 6, 1, 167, 255, 198, 21, 6, 172]
abbrev dktX1_water_5 : List UInt8 := dkwX1_water_5 ++ []
def dkwX1_water_4 : List UInt8 := [25, 5, 25, 8, 182, 0, 208, 182, 1, 246, 153, 0, 6, 167, 255, 213, 25, 8, 16, 102, 28, 182, 1, 6]
abbrev dktX1_water_4 : List UInt8 := dkwX1_water_4 ++ dktX1_water_5
def dkwX1_water_3 : List UInt8 := [153, 0, 54, 25, 7, 185, 0, 94, 1, 0, 192, 0, 76, 58, 8, 25, 8, 182, 1, 243, 153, 255, 229]
abbrev dktX1_water_3 : List UInt8 := dkwX1_water_3 ++ dktX1_water_4
def dkwX1_water_2 : List UInt8 := [54, 6, 42, 25, 4, 182, 0, 251, 185, 0, 255, 1, 0, 58, 7, 25, 7, 185, 0, 88, 1, 0]
abbrev dktX1_water_2 : List UInt8 := dkwX1_water_2 ++ dktX1_water_3
def dkwX1_water_1 : List UInt8 := [184, 0, 139, 153, 0, 7, 4, 167, 0, 4, 3, 184, 0, 135, 42, 25, 4, 29, 182, 1, 239, 58, 5, 3]
abbrev dktX1_water_1 : List UInt8 := dkwX1_water_1 ++ dktX1_water_2
def dkwX1_water_0 : List UInt8 := [42, 27, 182, 0, 158, 58, 4, 28, 4, 17, 1, 244, 184, 0, 139, 153, 0, 17, 29, 3, 16, 20]
abbrev dktX1_water_0 : List UInt8 := dkwX1_water_0 ++ dktX1_water_1
theorem dksX1_water_0 : cX1_water.data.toList.drop 0 = dktX1_water_0 := by decide +kernel
theorem dksX1_water_1 : cX1_water.data.toList.drop 22 = dktX1_water_1 := dk_seg dksX1_water_0 22 rfl rfl
theorem dksX1_water_2 : cX1_water.data.toList.drop 46 = dktX1_water_2 := dk_seg dksX1_water_1 24 rfl rfl
theorem dksX1_water_3 : cX1_water.data.toList.drop 68 = dktX1_water_3 := dk_seg dksX1_water_2 22 rfl rfl
theorem dksX1_water_4 : cX1_water.data.toList.drop 91 = dktX1_water_4 := dk_seg dksX1_water_3 23 rfl rfl
theorem dksX1_water_5 : cX1_water.data.toList.drop 115 = dktX1_water_5 := dk_seg dksX1_water_4 24 rfl rfl
theorem dX1_water_0 : decode cX1_water 0 = .ok (.aload_n 0, 1) := dk_42 (dk_at dksX1_water_0 0 rfl rfl)
theorem dX1_water_1 : decode cX1_water 1 = .ok (.iload_n 1, 1) := dk_27 (dk_at dksX1_water_0 1 rfl rfl)
theorem dX1_water_2 : decode cX1_water 2 = .ok (.invokevirtual 158, 3) := dk_182 0 158 (dk_at dksX1_water_0 2 rfl rfl)
theorem dX1_water_5 : decode cX1_water 5 = .ok (.astore 4, 2) := dk_58 4 (dk_at dksX1_water_0 5 rfl rfl)
theorem dX1_water_7 : decode cX1_water 7 = .ok (.iload_n 2, 1) := dk_28 (dk_at dksX1_water_0 7 rfl rfl)
theorem dX1_water_8 : decode cX1_water 8 = .ok (.iconst 1, 1) := dk_4 (dk_at dksX1_water_0 8 rfl rfl)
theorem dX1_water_9 : decode cX1_water 9 = .ok (.sipush 500, 3) := dk_17 1 244 (dk_at dksX1_water_0 9 rfl rfl)
theorem dX1_water_12 : decode cX1_water 12 = .ok (.invokestatic 139, 3) := dk_184 0 139 (dk_at dksX1_water_0 12 rfl rfl)
theorem dX1_water_15 : decode cX1_water 15 = .ok (.ifCond .eq 17, 3) := dk_153 0 17 (dk_at dksX1_water_0 15 rfl rfl)
theorem dX1_water_18 : decode cX1_water 18 = .ok (.iload_n 3, 1) := dk_29 (dk_at dksX1_water_0 18 rfl rfl)
theorem dX1_water_19 : decode cX1_water 19 = .ok (.iconst 0, 1) := dk_3 (dk_at dksX1_water_0 19 rfl rfl)
theorem dX1_water_20 : decode cX1_water 20 = .ok (.bipush 20, 2) := dk_16 20 (dk_at dksX1_water_0 20 rfl rfl)
theorem dX1_water_22 : decode cX1_water 22 = .ok (.invokestatic 139, 3) := dk_184 0 139 (dk_at dksX1_water_1 0 rfl rfl)
theorem dX1_water_25 : decode cX1_water 25 = .ok (.ifCond .eq 7, 3) := dk_153 0 7 (dk_at dksX1_water_1 3 rfl rfl)
theorem dX1_water_28 : decode cX1_water 28 = .ok (.iconst 1, 1) := dk_4 (dk_at dksX1_water_1 6 rfl rfl)
theorem dX1_water_29 : decode cX1_water 29 = .ok (.goto 4, 3) := dk_167 0 4 (dk_at dksX1_water_1 7 rfl rfl)
theorem dX1_water_32 : decode cX1_water 32 = .ok (.iconst 0, 1) := dk_3 (dk_at dksX1_water_1 10 rfl rfl)
theorem dX1_water_33 : decode cX1_water 33 = .ok (.invokestatic 135, 3) := dk_184 0 135 (dk_at dksX1_water_1 11 rfl rfl)
theorem dX1_water_36 : decode cX1_water 36 = .ok (.aload_n 0, 1) := dk_42 (dk_at dksX1_water_1 14 rfl rfl)
theorem dX1_water_37 : decode cX1_water 37 = .ok (.aload 4, 2) := dk_25 4 (dk_at dksX1_water_1 15 rfl rfl)
theorem dX1_water_39 : decode cX1_water 39 = .ok (.iload_n 3, 1) := dk_29 (dk_at dksX1_water_1 17 rfl rfl)
theorem dX1_water_40 : decode cX1_water 40 = .ok (.invokevirtual 495, 3) := dk_182 1 239 (dk_at dksX1_water_1 18 rfl rfl)
theorem dX1_water_43 : decode cX1_water 43 = .ok (.astore 5, 2) := dk_58 5 (dk_at dksX1_water_1 21 rfl rfl)
theorem dX1_water_45 : decode cX1_water 45 = .ok (.iconst 0, 1) := dk_3 (dk_at dksX1_water_1 23 rfl rfl)
theorem dX1_water_46 : decode cX1_water 46 = .ok (.istore 6, 2) := dk_54 6 (dk_at dksX1_water_2 0 rfl rfl)
theorem dX1_water_48 : decode cX1_water 48 = .ok (.aload_n 0, 1) := dk_42 (dk_at dksX1_water_2 2 rfl rfl)
theorem dX1_water_49 : decode cX1_water 49 = .ok (.aload 4, 2) := dk_25 4 (dk_at dksX1_water_2 3 rfl rfl)
theorem dX1_water_51 : decode cX1_water 51 = .ok (.invokevirtual 251, 3) := dk_182 0 251 (dk_at dksX1_water_2 5 rfl rfl)
theorem dX1_water_54 : decode cX1_water 54 = .ok (.invokeinterface 255 1, 5) := by decide +kernel
theorem dX1_water_59 : decode cX1_water 59 = .ok (.astore 7, 2) := dk_58 7 (dk_at dksX1_water_2 13 rfl rfl)
theorem dX1_water_61 : decode cX1_water 61 = .ok (.aload 7, 2) := dk_25 7 (dk_at dksX1_water_2 15 rfl rfl)
theorem dX1_water_63 : decode cX1_water 63 = .ok (.invokeinterface 88 1, 5) := by decide +kernel
theorem dX1_water_68 : decode cX1_water 68 = .ok (.ifCond .eq 54, 3) := dk_153 0 54 (dk_at dksX1_water_3 0 rfl rfl)
theorem dX1_water_71 : decode cX1_water 71 = .ok (.aload 7, 2) := dk_25 7 (dk_at dksX1_water_3 3 rfl rfl)
theorem dX1_water_73 : decode cX1_water 73 = .ok (.invokeinterface 94 1, 5) := by decide +kernel
theorem dX1_water_78 : decode cX1_water 78 = .ok (.checkcast 76, 3) := dk_192 0 76 (dk_at dksX1_water_3 10 rfl rfl)
theorem dX1_water_81 : decode cX1_water 81 = .ok (.astore 8, 2) := dk_58 8 (dk_at dksX1_water_3 13 rfl rfl)
theorem dX1_water_83 : decode cX1_water 83 = .ok (.aload 8, 2) := dk_25 8 (dk_at dksX1_water_3 15 rfl rfl)
theorem dX1_water_85 : decode cX1_water 85 = .ok (.invokevirtual 499, 3) := dk_182 1 243 (dk_at dksX1_water_3 17 rfl rfl)
theorem dX1_water_88 : decode cX1_water 88 = .ok (.ifCond .eq (-27), 3) := dk_153 255 229 (dk_at dksX1_water_3 20 rfl rfl)
theorem dX1_water_91 : decode cX1_water 91 = .ok (.aload 5, 2) := dk_25 5 (dk_at dksX1_water_4 0 rfl rfl)
theorem dX1_water_93 : decode cX1_water 93 = .ok (.aload 8, 2) := dk_25 8 (dk_at dksX1_water_4 2 rfl rfl)
theorem dX1_water_95 : decode cX1_water 95 = .ok (.invokevirtual 208, 3) := dk_182 0 208 (dk_at dksX1_water_4 4 rfl rfl)
theorem dX1_water_98 : decode cX1_water 98 = .ok (.invokevirtual 502, 3) := dk_182 1 246 (dk_at dksX1_water_4 7 rfl rfl)
theorem dX1_water_101 : decode cX1_water 101 = .ok (.ifCond .eq 6, 3) := dk_153 0 6 (dk_at dksX1_water_4 10 rfl rfl)
theorem dX1_water_104 : decode cX1_water 104 = .ok (.goto (-43), 3) := dk_167 255 213 (dk_at dksX1_water_4 13 rfl rfl)
theorem dX1_water_107 : decode cX1_water 107 = .ok (.aload 8, 2) := dk_25 8 (dk_at dksX1_water_4 16 rfl rfl)
theorem dX1_water_109 : decode cX1_water 109 = .ok (.bipush 102, 2) := dk_16 102 (dk_at dksX1_water_4 18 rfl rfl)
theorem dX1_water_111 : decode cX1_water 111 = .ok (.iload_n 2, 1) := dk_28 (dk_at dksX1_water_4 20 rfl rfl)
theorem dX1_water_112 : decode cX1_water 112 = .ok (.invokevirtual 262, 3) := dk_182 1 6 (dk_at dksX1_water_4 21 rfl rfl)
theorem dX1_water_115 : decode cX1_water 115 = .ok (.pop, 1) := dk_87 (dk_at dksX1_water_5 0 rfl rfl)
theorem dX1_water_116 : decode cX1_water 116 = .ok (.iinc 6 1, 3) := dk_132 6 1 (dk_at dksX1_water_5 1 rfl rfl)
theorem dX1_water_119 : decode cX1_water 119 = .ok (.goto (-58), 3) := dk_167 255 198 (dk_at dksX1_water_5 4 rfl rfl)
theorem dX1_water_122 : decode cX1_water 122 = .ok (.iload 6, 2) := dk_21 6 (dk_at dksX1_water_5 7 rfl rfl)
theorem dX1_water_124 : decode cX1_water 124 = .ok (.ireturn, 1) := dk_172 (dk_at dksX1_water_5 9 rfl rfl)
abbrev cX1_carried : ByteArray := prog_1_method_80_code
def yX1_carried : MethodName := ⟨RX1, "carried", "(LVaultyard$Room;I)Ljava/util/ArrayList;"⟩
def dkwX1_carried_8 : List UInt8 := [25, 4, 25, 6, 180, 1, 45, 192, 0, 76, 182, 0, 131, 87, 167, 255, 136, 25, 4, 176]
abbrev dktX1_carried_8 : List UInt8 := dkwX1_carried_8 ++ []
def dkwX1_carried_7 : List UInt8 := [182, 1, 236, 100, 54, 5, 21, 5, 156, 0, 6, 25, 4, 176, 45, 25, 6, 180, 1, 45, 182, 1, 170, 87]
abbrev dktX1_carried_7 : List UInt8 := dkwX1_carried_7 ++ dktX1_carried_8
def dkwX1_carried_6 : List UInt8 := [108, 116, 184, 1, 31, 184, 1, 167, 182, 1, 41, 167, 255, 209, 21, 5, 25, 6, 180, 1, 45, 192, 0, 76]
abbrev dktX1_carried_6 : List UInt8 := dkwX1_carried_6 ++ dktX1_carried_7
def dkwX1_carried_5 : List UInt8 := [185, 0, 94, 1, 0, 192, 0, 76, 58, 8, 25, 6, 25, 8, 25, 8, 182, 1, 54, 25, 8, 182, 1, 236]
abbrev dktX1_carried_5 : List UInt8 := dkwX1_carried_5 ++ dktX1_carried_6
def dkwX1_carried_4 : List UInt8 := [183, 1, 12, 58, 6, 45, 182, 0, 84, 58, 7, 25, 7, 185, 0, 88, 1, 0, 153, 0, 43, 25, 7]
abbrev dktX1_carried_4 : List UInt8 := dkwX1_carried_4 ++ dktX1_carried_5
def dkwX1_carried_3 : List UInt8 := [187, 0, 7, 89, 183, 0, 9, 58, 4, 28, 54, 5, 45, 182, 1, 103, 154, 0, 119, 187, 1, 10, 89]
abbrev dktX1_carried_3 : List UInt8 := dkwX1_carried_3 ++ dktX1_carried_4
def dkwX1_carried_2 : List UInt8 := [180, 0, 98, 199, 0, 18, 25, 5, 182, 1, 233, 153, 0, 10, 45, 25, 5, 182, 0, 131, 87, 167, 255, 211]
abbrev dktX1_carried_2 : List UInt8 := dkwX1_carried_2 ++ dktX1_carried_3
def dkwX1_carried_1 : List UInt8 := [185, 0, 88, 1, 0, 153, 0, 41, 25, 4, 185, 0, 94, 1, 0, 192, 0, 76, 58, 5, 25, 5]
abbrev dktX1_carried_1 : List UInt8 := dkwX1_carried_1 ++ dktX1_carried_2
def dkwX1_carried_0 : List UInt8 := [187, 0, 7, 89, 183, 0, 9, 78, 42, 43, 182, 0, 251, 185, 0, 255, 1, 0, 58, 4, 25, 4]
abbrev dktX1_carried_0 : List UInt8 := dkwX1_carried_0 ++ dktX1_carried_1
theorem dksX1_carried_0 : cX1_carried.data.toList.drop 0 = dktX1_carried_0 := by decide +kernel
theorem dksX1_carried_1 : cX1_carried.data.toList.drop 22 = dktX1_carried_1 := dk_seg dksX1_carried_0 22 rfl rfl
theorem dksX1_carried_2 : cX1_carried.data.toList.drop 44 = dktX1_carried_2 := dk_seg dksX1_carried_1 22 rfl rfl
theorem dksX1_carried_3 : cX1_carried.data.toList.drop 68 = dktX1_carried_3 := dk_seg dksX1_carried_2 24 rfl rfl
theorem dksX1_carried_4 : cX1_carried.data.toList.drop 91 = dktX1_carried_4 := dk_seg dksX1_carried_3 23 rfl rfl
theorem dksX1_carried_5 : cX1_carried.data.toList.drop 114 = dktX1_carried_5 := dk_seg dksX1_carried_4 23 rfl rfl
theorem dksX1_carried_6 : cX1_carried.data.toList.drop 138 = dktX1_carried_6 := dk_seg dksX1_carried_5 24 rfl rfl
theorem dksX1_carried_7 : cX1_carried.data.toList.drop 162 = dktX1_carried_7 := dk_seg dksX1_carried_6 24 rfl rfl
theorem dksX1_carried_8 : cX1_carried.data.toList.drop 186 = dktX1_carried_8 := dk_seg dksX1_carried_7 24 rfl rfl
theorem dX1_carried_0 : decode cX1_carried 0 = .ok (.new 7, 3) := dk_187 0 7 (dk_at dksX1_carried_0 0 rfl rfl)
theorem dX1_carried_3 : decode cX1_carried 3 = .ok (.dup, 1) := dk_89 (dk_at dksX1_carried_0 3 rfl rfl)
theorem dX1_carried_4 : decode cX1_carried 4 = .ok (.invokespecial 9, 3) := dk_183 0 9 (dk_at dksX1_carried_0 4 rfl rfl)
theorem dX1_carried_7 : decode cX1_carried 7 = .ok (.astore_n 3, 1) := dk_78 (dk_at dksX1_carried_0 7 rfl rfl)
theorem dX1_carried_8 : decode cX1_carried 8 = .ok (.aload_n 0, 1) := dk_42 (dk_at dksX1_carried_0 8 rfl rfl)
theorem dX1_carried_9 : decode cX1_carried 9 = .ok (.aload_n 1, 1) := dk_43 (dk_at dksX1_carried_0 9 rfl rfl)
theorem dX1_carried_10 : decode cX1_carried 10 = .ok (.invokevirtual 251, 3) := dk_182 0 251 (dk_at dksX1_carried_0 10 rfl rfl)
theorem dX1_carried_13 : decode cX1_carried 13 = .ok (.invokeinterface 255 1, 5) := by decide +kernel
theorem dX1_carried_18 : decode cX1_carried 18 = .ok (.astore 4, 2) := dk_58 4 (dk_at dksX1_carried_0 18 rfl rfl)
theorem dX1_carried_20 : decode cX1_carried 20 = .ok (.aload 4, 2) := dk_25 4 (dk_at dksX1_carried_0 20 rfl rfl)
theorem dX1_carried_22 : decode cX1_carried 22 = .ok (.invokeinterface 88 1, 5) := by decide +kernel
theorem dX1_carried_27 : decode cX1_carried 27 = .ok (.ifCond .eq 41, 3) := dk_153 0 41 (dk_at dksX1_carried_1 5 rfl rfl)
theorem dX1_carried_30 : decode cX1_carried 30 = .ok (.aload 4, 2) := dk_25 4 (dk_at dksX1_carried_1 8 rfl rfl)
theorem dX1_carried_32 : decode cX1_carried 32 = .ok (.invokeinterface 94 1, 5) := by decide +kernel
theorem dX1_carried_37 : decode cX1_carried 37 = .ok (.checkcast 76, 3) := dk_192 0 76 (dk_at dksX1_carried_1 15 rfl rfl)
theorem dX1_carried_40 : decode cX1_carried 40 = .ok (.astore 5, 2) := dk_58 5 (dk_at dksX1_carried_1 18 rfl rfl)
theorem dX1_carried_42 : decode cX1_carried 42 = .ok (.aload 5, 2) := dk_25 5 (dk_at dksX1_carried_1 20 rfl rfl)
theorem dX1_carried_44 : decode cX1_carried 44 = .ok (.getfield 98, 3) := dk_180 0 98 (dk_at dksX1_carried_2 0 rfl rfl)
theorem dX1_carried_47 : decode cX1_carried 47 = .ok (.ifnonnull 18, 3) := dk_199 0 18 (dk_at dksX1_carried_2 3 rfl rfl)
theorem dX1_carried_50 : decode cX1_carried 50 = .ok (.aload 5, 2) := dk_25 5 (dk_at dksX1_carried_2 6 rfl rfl)
theorem dX1_carried_52 : decode cX1_carried 52 = .ok (.invokevirtual 489, 3) := dk_182 1 233 (dk_at dksX1_carried_2 8 rfl rfl)
theorem dX1_carried_55 : decode cX1_carried 55 = .ok (.ifCond .eq 10, 3) := dk_153 0 10 (dk_at dksX1_carried_2 11 rfl rfl)
theorem dX1_carried_58 : decode cX1_carried 58 = .ok (.aload_n 3, 1) := dk_45 (dk_at dksX1_carried_2 14 rfl rfl)
theorem dX1_carried_59 : decode cX1_carried 59 = .ok (.aload 5, 2) := dk_25 5 (dk_at dksX1_carried_2 15 rfl rfl)
theorem dX1_carried_61 : decode cX1_carried 61 = .ok (.invokevirtual 131, 3) := dk_182 0 131 (dk_at dksX1_carried_2 17 rfl rfl)
theorem dX1_carried_64 : decode cX1_carried 64 = .ok (.pop, 1) := dk_87 (dk_at dksX1_carried_2 20 rfl rfl)
theorem dX1_carried_65 : decode cX1_carried 65 = .ok (.goto (-45), 3) := dk_167 255 211 (dk_at dksX1_carried_2 21 rfl rfl)
theorem dX1_carried_68 : decode cX1_carried 68 = .ok (.new 7, 3) := dk_187 0 7 (dk_at dksX1_carried_3 0 rfl rfl)
theorem dX1_carried_71 : decode cX1_carried 71 = .ok (.dup, 1) := dk_89 (dk_at dksX1_carried_3 3 rfl rfl)
theorem dX1_carried_72 : decode cX1_carried 72 = .ok (.invokespecial 9, 3) := dk_183 0 9 (dk_at dksX1_carried_3 4 rfl rfl)
theorem dX1_carried_75 : decode cX1_carried 75 = .ok (.astore 4, 2) := dk_58 4 (dk_at dksX1_carried_3 7 rfl rfl)
theorem dX1_carried_77 : decode cX1_carried 77 = .ok (.iload_n 2, 1) := dk_28 (dk_at dksX1_carried_3 9 rfl rfl)
theorem dX1_carried_78 : decode cX1_carried 78 = .ok (.istore 5, 2) := dk_54 5 (dk_at dksX1_carried_3 10 rfl rfl)
theorem dX1_carried_80 : decode cX1_carried 80 = .ok (.aload_n 3, 1) := dk_45 (dk_at dksX1_carried_3 12 rfl rfl)
theorem dX1_carried_81 : decode cX1_carried 81 = .ok (.invokevirtual 359, 3) := dk_182 1 103 (dk_at dksX1_carried_3 13 rfl rfl)
theorem dX1_carried_84 : decode cX1_carried 84 = .ok (.ifCond .ne 119, 3) := dk_154 0 119 (dk_at dksX1_carried_3 16 rfl rfl)
theorem dX1_carried_87 : decode cX1_carried 87 = .ok (.new 266, 3) := dk_187 1 10 (dk_at dksX1_carried_3 19 rfl rfl)
theorem dX1_carried_90 : decode cX1_carried 90 = .ok (.dup, 1) := dk_89 (dk_at dksX1_carried_3 22 rfl rfl)
theorem dX1_carried_91 : decode cX1_carried 91 = .ok (.invokespecial 268, 3) := dk_183 1 12 (dk_at dksX1_carried_4 0 rfl rfl)
theorem dX1_carried_94 : decode cX1_carried 94 = .ok (.astore 6, 2) := dk_58 6 (dk_at dksX1_carried_4 3 rfl rfl)
theorem dX1_carried_96 : decode cX1_carried 96 = .ok (.aload_n 3, 1) := dk_45 (dk_at dksX1_carried_4 5 rfl rfl)
theorem dX1_carried_97 : decode cX1_carried 97 = .ok (.invokevirtual 84, 3) := dk_182 0 84 (dk_at dksX1_carried_4 6 rfl rfl)
theorem dX1_carried_100 : decode cX1_carried 100 = .ok (.astore 7, 2) := dk_58 7 (dk_at dksX1_carried_4 9 rfl rfl)
theorem dX1_carried_102 : decode cX1_carried 102 = .ok (.aload 7, 2) := dk_25 7 (dk_at dksX1_carried_4 11 rfl rfl)
theorem dX1_carried_104 : decode cX1_carried 104 = .ok (.invokeinterface 88 1, 5) := by decide +kernel
theorem dX1_carried_109 : decode cX1_carried 109 = .ok (.ifCond .eq 43, 3) := dk_153 0 43 (dk_at dksX1_carried_4 18 rfl rfl)
theorem dX1_carried_112 : decode cX1_carried 112 = .ok (.aload 7, 2) := dk_25 7 (dk_at dksX1_carried_4 21 rfl rfl)
theorem dX1_carried_114 : decode cX1_carried 114 = .ok (.invokeinterface 94 1, 5) := by decide +kernel
theorem dX1_carried_119 : decode cX1_carried 119 = .ok (.checkcast 76, 3) := dk_192 0 76 (dk_at dksX1_carried_5 5 rfl rfl)
theorem dX1_carried_122 : decode cX1_carried 122 = .ok (.astore 8, 2) := dk_58 8 (dk_at dksX1_carried_5 8 rfl rfl)
theorem dX1_carried_124 : decode cX1_carried 124 = .ok (.aload 6, 2) := dk_25 6 (dk_at dksX1_carried_5 10 rfl rfl)
theorem dX1_carried_126 : decode cX1_carried 126 = .ok (.aload 8, 2) := dk_25 8 (dk_at dksX1_carried_5 12 rfl rfl)
theorem dX1_carried_128 : decode cX1_carried 128 = .ok (.aload 8, 2) := dk_25 8 (dk_at dksX1_carried_5 14 rfl rfl)
theorem dX1_carried_130 : decode cX1_carried 130 = .ok (.invokevirtual 310, 3) := dk_182 1 54 (dk_at dksX1_carried_5 16 rfl rfl)
theorem dX1_carried_133 : decode cX1_carried 133 = .ok (.aload 8, 2) := dk_25 8 (dk_at dksX1_carried_5 19 rfl rfl)
theorem dX1_carried_135 : decode cX1_carried 135 = .ok (.invokevirtual 492, 3) := dk_182 1 236 (dk_at dksX1_carried_5 21 rfl rfl)
theorem dX1_carried_138 : decode cX1_carried 138 = .ok (.idiv, 1) := dk_108 (dk_at dksX1_carried_6 0 rfl rfl)
theorem dX1_carried_139 : decode cX1_carried 139 = .ok (.ineg, 1) := dk_116 (dk_at dksX1_carried_6 1 rfl rfl)
theorem dX1_carried_140 : decode cX1_carried 140 = .ok (.invokestatic 287, 3) := dk_184 1 31 (dk_at dksX1_carried_6 2 rfl rfl)
theorem dX1_carried_143 : decode cX1_carried 143 = .ok (.invokestatic 423, 3) := dk_184 1 167 (dk_at dksX1_carried_6 5 rfl rfl)
theorem dX1_carried_146 : decode cX1_carried 146 = .ok (.invokevirtual 297, 3) := dk_182 1 41 (dk_at dksX1_carried_6 8 rfl rfl)
theorem dX1_carried_149 : decode cX1_carried 149 = .ok (.goto (-47), 3) := dk_167 255 209 (dk_at dksX1_carried_6 11 rfl rfl)
theorem dX1_carried_152 : decode cX1_carried 152 = .ok (.iload 5, 2) := dk_21 5 (dk_at dksX1_carried_6 14 rfl rfl)
theorem dX1_carried_154 : decode cX1_carried 154 = .ok (.aload 6, 2) := dk_25 6 (dk_at dksX1_carried_6 16 rfl rfl)
theorem dX1_carried_156 : decode cX1_carried 156 = .ok (.getfield 301, 3) := dk_180 1 45 (dk_at dksX1_carried_6 18 rfl rfl)
theorem dX1_carried_159 : decode cX1_carried 159 = .ok (.checkcast 76, 3) := dk_192 0 76 (dk_at dksX1_carried_6 21 rfl rfl)
theorem dX1_carried_162 : decode cX1_carried 162 = .ok (.invokevirtual 492, 3) := dk_182 1 236 (dk_at dksX1_carried_7 0 rfl rfl)
theorem dX1_carried_165 : decode cX1_carried 165 = .ok (.isub, 1) := dk_100 (dk_at dksX1_carried_7 3 rfl rfl)
theorem dX1_carried_166 : decode cX1_carried 166 = .ok (.istore 5, 2) := dk_54 5 (dk_at dksX1_carried_7 4 rfl rfl)
theorem dX1_carried_168 : decode cX1_carried 168 = .ok (.iload 5, 2) := dk_21 5 (dk_at dksX1_carried_7 6 rfl rfl)
theorem dX1_carried_170 : decode cX1_carried 170 = .ok (.ifCond .ge 6, 3) := dk_156 0 6 (dk_at dksX1_carried_7 8 rfl rfl)
theorem dX1_carried_173 : decode cX1_carried 173 = .ok (.aload 4, 2) := dk_25 4 (dk_at dksX1_carried_7 11 rfl rfl)
theorem dX1_carried_175 : decode cX1_carried 175 = .ok (.areturn, 1) := dk_176 (dk_at dksX1_carried_7 13 rfl rfl)
theorem dX1_carried_176 : decode cX1_carried 176 = .ok (.aload_n 3, 1) := dk_45 (dk_at dksX1_carried_7 14 rfl rfl)
theorem dX1_carried_177 : decode cX1_carried 177 = .ok (.aload 6, 2) := dk_25 6 (dk_at dksX1_carried_7 15 rfl rfl)
theorem dX1_carried_179 : decode cX1_carried 179 = .ok (.getfield 301, 3) := dk_180 1 45 (dk_at dksX1_carried_7 17 rfl rfl)
theorem dX1_carried_182 : decode cX1_carried 182 = .ok (.invokevirtual 426, 3) := dk_182 1 170 (dk_at dksX1_carried_7 20 rfl rfl)
theorem dX1_carried_185 : decode cX1_carried 185 = .ok (.pop, 1) := dk_87 (dk_at dksX1_carried_7 23 rfl rfl)
theorem dX1_carried_186 : decode cX1_carried 186 = .ok (.aload 4, 2) := dk_25 4 (dk_at dksX1_carried_8 0 rfl rfl)
theorem dX1_carried_188 : decode cX1_carried 188 = .ok (.aload 6, 2) := dk_25 6 (dk_at dksX1_carried_8 2 rfl rfl)
theorem dX1_carried_190 : decode cX1_carried 190 = .ok (.getfield 301, 3) := dk_180 1 45 (dk_at dksX1_carried_8 4 rfl rfl)
theorem dX1_carried_193 : decode cX1_carried 193 = .ok (.checkcast 76, 3) := dk_192 0 76 (dk_at dksX1_carried_8 7 rfl rfl)
theorem dX1_carried_196 : decode cX1_carried 196 = .ok (.invokevirtual 131, 3) := dk_182 0 131 (dk_at dksX1_carried_8 10 rfl rfl)
theorem dX1_carried_199 : decode cX1_carried 199 = .ok (.pop, 1) := dk_87 (dk_at dksX1_carried_8 13 rfl rfl)
theorem dX1_carried_200 : decode cX1_carried 200 = .ok (.goto (-120), 3) := dk_167 255 136 (dk_at dksX1_carried_8 14 rfl rfl)
theorem dX1_carried_203 : decode cX1_carried 203 = .ok (.aload 4, 2) := dk_25 4 (dk_at dksX1_carried_8 17 rfl rfl)
theorem dX1_carried_205 : decode cX1_carried 205 = .ok (.areturn, 1) := dk_176 (dk_at dksX1_carried_8 19 rfl rfl)
abbrev cX1_saved : ByteArray := prog_1_method_82_code
def yX1_saved : MethodName := ⟨RX1, "saved", "(III)I"⟩
def dkwX1_saved_2 : List UInt8 := [192, 0, 76, 180, 0, 128, 172]
abbrev dktX1_saved_2 : List UInt8 := dkwX1_saved_2 ++ []
def dkwX1_saved_1 : List UInt8 := [58, 5, 29, 3, 25, 5, 182, 0, 62, 4, 100, 184, 0, 139, 184, 0, 205, 25, 5, 29, 182, 0, 70]
abbrev dktX1_saved_1 : List UInt8 := dkwX1_saved_1 ++ dktX1_saved_2
def dkwX1_saved_0 : List UInt8 := [42, 27, 182, 0, 158, 58, 4, 28, 3, 16, 20, 184, 0, 139, 184, 0, 135, 42, 25, 4, 28, 182, 1, 239]
abbrev dktX1_saved_0 : List UInt8 := dkwX1_saved_0 ++ dktX1_saved_1
theorem dksX1_saved_0 : cX1_saved.data.toList.drop 0 = dktX1_saved_0 := by decide +kernel
theorem dksX1_saved_1 : cX1_saved.data.toList.drop 24 = dktX1_saved_1 := dk_seg dksX1_saved_0 24 rfl rfl
theorem dksX1_saved_2 : cX1_saved.data.toList.drop 47 = dktX1_saved_2 := dk_seg dksX1_saved_1 23 rfl rfl
theorem dX1_saved_0 : decode cX1_saved 0 = .ok (.aload_n 0, 1) := dk_42 (dk_at dksX1_saved_0 0 rfl rfl)
theorem dX1_saved_1 : decode cX1_saved 1 = .ok (.iload_n 1, 1) := dk_27 (dk_at dksX1_saved_0 1 rfl rfl)
theorem dX1_saved_2 : decode cX1_saved 2 = .ok (.invokevirtual 158, 3) := dk_182 0 158 (dk_at dksX1_saved_0 2 rfl rfl)
theorem dX1_saved_5 : decode cX1_saved 5 = .ok (.astore 4, 2) := dk_58 4 (dk_at dksX1_saved_0 5 rfl rfl)
theorem dX1_saved_7 : decode cX1_saved 7 = .ok (.iload_n 2, 1) := dk_28 (dk_at dksX1_saved_0 7 rfl rfl)
theorem dX1_saved_8 : decode cX1_saved 8 = .ok (.iconst 0, 1) := dk_3 (dk_at dksX1_saved_0 8 rfl rfl)
theorem dX1_saved_9 : decode cX1_saved 9 = .ok (.bipush 20, 2) := dk_16 20 (dk_at dksX1_saved_0 9 rfl rfl)
theorem dX1_saved_11 : decode cX1_saved 11 = .ok (.invokestatic 139, 3) := dk_184 0 139 (dk_at dksX1_saved_0 11 rfl rfl)
theorem dX1_saved_14 : decode cX1_saved 14 = .ok (.invokestatic 135, 3) := dk_184 0 135 (dk_at dksX1_saved_0 14 rfl rfl)
theorem dX1_saved_17 : decode cX1_saved 17 = .ok (.aload_n 0, 1) := dk_42 (dk_at dksX1_saved_0 17 rfl rfl)
theorem dX1_saved_18 : decode cX1_saved 18 = .ok (.aload 4, 2) := dk_25 4 (dk_at dksX1_saved_0 18 rfl rfl)
theorem dX1_saved_20 : decode cX1_saved 20 = .ok (.iload_n 2, 1) := dk_28 (dk_at dksX1_saved_0 20 rfl rfl)
theorem dX1_saved_21 : decode cX1_saved 21 = .ok (.invokevirtual 495, 3) := dk_182 1 239 (dk_at dksX1_saved_0 21 rfl rfl)
theorem dX1_saved_24 : decode cX1_saved 24 = .ok (.astore 5, 2) := dk_58 5 (dk_at dksX1_saved_1 0 rfl rfl)
theorem dX1_saved_26 : decode cX1_saved 26 = .ok (.iload_n 3, 1) := dk_29 (dk_at dksX1_saved_1 2 rfl rfl)
theorem dX1_saved_27 : decode cX1_saved 27 = .ok (.iconst 0, 1) := dk_3 (dk_at dksX1_saved_1 3 rfl rfl)
theorem dX1_saved_28 : decode cX1_saved 28 = .ok (.aload 5, 2) := dk_25 5 (dk_at dksX1_saved_1 4 rfl rfl)
theorem dX1_saved_30 : decode cX1_saved 30 = .ok (.invokevirtual 62, 3) := dk_182 0 62 (dk_at dksX1_saved_1 6 rfl rfl)
theorem dX1_saved_33 : decode cX1_saved 33 = .ok (.iconst 1, 1) := dk_4 (dk_at dksX1_saved_1 9 rfl rfl)
theorem dX1_saved_34 : decode cX1_saved 34 = .ok (.isub, 1) := dk_100 (dk_at dksX1_saved_1 10 rfl rfl)
theorem dX1_saved_35 : decode cX1_saved 35 = .ok (.invokestatic 139, 3) := dk_184 0 139 (dk_at dksX1_saved_1 11 rfl rfl)
theorem dX1_saved_38 : decode cX1_saved 38 = .ok (.invokestatic 205, 3) := dk_184 0 205 (dk_at dksX1_saved_1 14 rfl rfl)
theorem dX1_saved_41 : decode cX1_saved 41 = .ok (.aload 5, 2) := dk_25 5 (dk_at dksX1_saved_1 17 rfl rfl)
theorem dX1_saved_43 : decode cX1_saved 43 = .ok (.iload_n 3, 1) := dk_29 (dk_at dksX1_saved_1 19 rfl rfl)
theorem dX1_saved_44 : decode cX1_saved 44 = .ok (.invokevirtual 70, 3) := dk_182 0 70 (dk_at dksX1_saved_1 20 rfl rfl)
theorem dX1_saved_47 : decode cX1_saved 47 = .ok (.checkcast 76, 3) := dk_192 0 76 (dk_at dksX1_saved_2 0 rfl rfl)
theorem dX1_saved_50 : decode cX1_saved 50 = .ok (.getfield 128, 3) := dk_180 0 128 (dk_at dksX1_saved_2 3 rfl rfl)
theorem dX1_saved_53 : decode cX1_saved 53 = .ok (.ireturn, 1) := dk_172 (dk_at dksX1_saved_2 6 rfl rfl)
abbrev cX1_go : ByteArray := prog_1_method_85_code
def yX1_go : MethodName := ⟨RX1, "go", "(I)I"⟩
def dkwX1_go_5 : List UInt8 := [180, 1, 45, 192, 1, 13, 180, 2, 0, 172]
abbrev dktX1_go_5 : List UInt8 := dkwX1_go_5 ++ []
def dkwX1_go_4 : List UInt8 := [2, 172, 45, 180, 1, 45, 192, 1, 13, 89, 180, 1, 19, 44, 180, 1, 93, 96, 181, 1, 19, 45]
abbrev dktX1_go_4 : List UInt8 := dkwX1_go_4 ++ dktX1_go_5
def dkwX1_go_3 : List UInt8 := [25, 5, 180, 1, 19, 184, 1, 31, 184, 1, 167, 182, 1, 41, 167, 255, 208, 45, 180, 1, 45, 199, 0, 5]
abbrev dktX1_go_3 : List UInt8 := dkwX1_go_3 ++ dktX1_go_4
def dkwX1_go_2 : List UInt8 := [25, 4, 185, 0, 94, 1, 0, 192, 1, 13, 58, 5, 25, 5, 7, 182, 1, 15, 153, 0, 20, 45, 25, 5]
abbrev dktX1_go_2 : List UInt8 := dkwX1_go_2 ++ dktX1_go_3
def dkwX1_go_1 : List UInt8 := [89, 183, 1, 12, 78, 42, 180, 0, 34, 182, 0, 84, 58, 4, 25, 4, 185, 0, 88, 1, 0, 153, 0, 44]
abbrev dktX1_go_1 : List UInt8 := dkwX1_go_1 ++ dktX1_go_2
def dkwX1_go_0 : List UInt8 := [42, 27, 182, 0, 182, 77, 42, 44, 182, 1, 253, 184, 0, 176, 44, 16, 103, 3, 182, 1, 73, 187, 1, 10]
abbrev dktX1_go_0 : List UInt8 := dkwX1_go_0 ++ dktX1_go_1
theorem dksX1_go_0 : cX1_go.data.toList.drop 0 = dktX1_go_0 := by decide +kernel
theorem dksX1_go_1 : cX1_go.data.toList.drop 24 = dktX1_go_1 := dk_seg dksX1_go_0 24 rfl rfl
theorem dksX1_go_2 : cX1_go.data.toList.drop 48 = dktX1_go_2 := dk_seg dksX1_go_1 24 rfl rfl
theorem dksX1_go_3 : cX1_go.data.toList.drop 72 = dktX1_go_3 := dk_seg dksX1_go_2 24 rfl rfl
theorem dksX1_go_4 : cX1_go.data.toList.drop 96 = dktX1_go_4 := dk_seg dksX1_go_3 24 rfl rfl
theorem dksX1_go_5 : cX1_go.data.toList.drop 118 = dktX1_go_5 := dk_seg dksX1_go_4 22 rfl rfl
theorem dX1_go_0 : decode cX1_go 0 = .ok (.aload_n 0, 1) := dk_42 (dk_at dksX1_go_0 0 rfl rfl)
theorem dX1_go_1 : decode cX1_go 1 = .ok (.iload_n 1, 1) := dk_27 (dk_at dksX1_go_0 1 rfl rfl)
theorem dX1_go_2 : decode cX1_go 2 = .ok (.invokevirtual 182, 3) := dk_182 0 182 (dk_at dksX1_go_0 2 rfl rfl)
theorem dX1_go_5 : decode cX1_go 5 = .ok (.astore_n 2, 1) := dk_77 (dk_at dksX1_go_0 5 rfl rfl)
theorem dX1_go_6 : decode cX1_go 6 = .ok (.aload_n 0, 1) := dk_42 (dk_at dksX1_go_0 6 rfl rfl)
theorem dX1_go_7 : decode cX1_go 7 = .ok (.aload_n 2, 1) := dk_44 (dk_at dksX1_go_0 7 rfl rfl)
theorem dX1_go_8 : decode cX1_go 8 = .ok (.invokevirtual 509, 3) := dk_182 1 253 (dk_at dksX1_go_0 8 rfl rfl)
theorem dX1_go_11 : decode cX1_go 11 = .ok (.invokestatic 176, 3) := dk_184 0 176 (dk_at dksX1_go_0 11 rfl rfl)
theorem dX1_go_14 : decode cX1_go 14 = .ok (.aload_n 2, 1) := dk_44 (dk_at dksX1_go_0 14 rfl rfl)
theorem dX1_go_15 : decode cX1_go 15 = .ok (.bipush 103, 2) := dk_16 103 (dk_at dksX1_go_0 15 rfl rfl)
theorem dX1_go_17 : decode cX1_go 17 = .ok (.iconst 0, 1) := dk_3 (dk_at dksX1_go_0 17 rfl rfl)
theorem dX1_go_18 : decode cX1_go 18 = .ok (.invokevirtual 329, 3) := dk_182 1 73 (dk_at dksX1_go_0 18 rfl rfl)
theorem dX1_go_21 : decode cX1_go 21 = .ok (.new 266, 3) := dk_187 1 10 (dk_at dksX1_go_0 21 rfl rfl)
theorem dX1_go_24 : decode cX1_go 24 = .ok (.dup, 1) := dk_89 (dk_at dksX1_go_1 0 rfl rfl)
theorem dX1_go_25 : decode cX1_go 25 = .ok (.invokespecial 268, 3) := dk_183 1 12 (dk_at dksX1_go_1 1 rfl rfl)
theorem dX1_go_28 : decode cX1_go 28 = .ok (.astore_n 3, 1) := dk_78 (dk_at dksX1_go_1 4 rfl rfl)
theorem dX1_go_29 : decode cX1_go 29 = .ok (.aload_n 0, 1) := dk_42 (dk_at dksX1_go_1 5 rfl rfl)
theorem dX1_go_30 : decode cX1_go 30 = .ok (.getfield 34, 3) := dk_180 0 34 (dk_at dksX1_go_1 6 rfl rfl)
theorem dX1_go_33 : decode cX1_go 33 = .ok (.invokevirtual 84, 3) := dk_182 0 84 (dk_at dksX1_go_1 9 rfl rfl)
theorem dX1_go_36 : decode cX1_go 36 = .ok (.astore 4, 2) := dk_58 4 (dk_at dksX1_go_1 12 rfl rfl)
theorem dX1_go_38 : decode cX1_go 38 = .ok (.aload 4, 2) := dk_25 4 (dk_at dksX1_go_1 14 rfl rfl)
theorem dX1_go_40 : decode cX1_go 40 = .ok (.invokeinterface 88 1, 5) := by decide +kernel
theorem dX1_go_45 : decode cX1_go 45 = .ok (.ifCond .eq 44, 3) := dk_153 0 44 (dk_at dksX1_go_1 21 rfl rfl)
theorem dX1_go_48 : decode cX1_go 48 = .ok (.aload 4, 2) := dk_25 4 (dk_at dksX1_go_2 0 rfl rfl)
theorem dX1_go_50 : decode cX1_go 50 = .ok (.invokeinterface 94 1, 5) := by decide +kernel
theorem dX1_go_55 : decode cX1_go 55 = .ok (.checkcast 269, 3) := dk_192 1 13 (dk_at dksX1_go_2 7 rfl rfl)
theorem dX1_go_58 : decode cX1_go 58 = .ok (.astore 5, 2) := dk_58 5 (dk_at dksX1_go_2 10 rfl rfl)
theorem dX1_go_60 : decode cX1_go 60 = .ok (.aload 5, 2) := dk_25 5 (dk_at dksX1_go_2 12 rfl rfl)
theorem dX1_go_62 : decode cX1_go 62 = .ok (.iconst 4, 1) := dk_7 (dk_at dksX1_go_2 14 rfl rfl)
theorem dX1_go_63 : decode cX1_go 63 = .ok (.invokevirtual 271, 3) := dk_182 1 15 (dk_at dksX1_go_2 15 rfl rfl)
theorem dX1_go_66 : decode cX1_go 66 = .ok (.ifCond .eq 20, 3) := dk_153 0 20 (dk_at dksX1_go_2 18 rfl rfl)
theorem dX1_go_69 : decode cX1_go 69 = .ok (.aload_n 3, 1) := dk_45 (dk_at dksX1_go_2 21 rfl rfl)
theorem dX1_go_70 : decode cX1_go 70 = .ok (.aload 5, 2) := dk_25 5 (dk_at dksX1_go_2 22 rfl rfl)
theorem dX1_go_72 : decode cX1_go 72 = .ok (.aload 5, 2) := dk_25 5 (dk_at dksX1_go_3 0 rfl rfl)
theorem dX1_go_74 : decode cX1_go 74 = .ok (.getfield 275, 3) := dk_180 1 19 (dk_at dksX1_go_3 2 rfl rfl)
theorem dX1_go_77 : decode cX1_go 77 = .ok (.invokestatic 287, 3) := dk_184 1 31 (dk_at dksX1_go_3 5 rfl rfl)
theorem dX1_go_80 : decode cX1_go 80 = .ok (.invokestatic 423, 3) := dk_184 1 167 (dk_at dksX1_go_3 8 rfl rfl)
theorem dX1_go_83 : decode cX1_go 83 = .ok (.invokevirtual 297, 3) := dk_182 1 41 (dk_at dksX1_go_3 11 rfl rfl)
theorem dX1_go_86 : decode cX1_go 86 = .ok (.goto (-48), 3) := dk_167 255 208 (dk_at dksX1_go_3 14 rfl rfl)
theorem dX1_go_89 : decode cX1_go 89 = .ok (.aload_n 3, 1) := dk_45 (dk_at dksX1_go_3 17 rfl rfl)
theorem dX1_go_90 : decode cX1_go 90 = .ok (.getfield 301, 3) := dk_180 1 45 (dk_at dksX1_go_3 18 rfl rfl)
theorem dX1_go_93 : decode cX1_go 93 = .ok (.ifnonnull 5, 3) := dk_199 0 5 (dk_at dksX1_go_3 21 rfl rfl)
theorem dX1_go_96 : decode cX1_go 96 = .ok (.iconst (-1), 1) := dk_2 (dk_at dksX1_go_4 0 rfl rfl)
theorem dX1_go_97 : decode cX1_go 97 = .ok (.ireturn, 1) := dk_172 (dk_at dksX1_go_4 1 rfl rfl)
theorem dX1_go_98 : decode cX1_go 98 = .ok (.aload_n 3, 1) := dk_45 (dk_at dksX1_go_4 2 rfl rfl)
theorem dX1_go_99 : decode cX1_go 99 = .ok (.getfield 301, 3) := dk_180 1 45 (dk_at dksX1_go_4 3 rfl rfl)
theorem dX1_go_102 : decode cX1_go 102 = .ok (.checkcast 269, 3) := dk_192 1 13 (dk_at dksX1_go_4 6 rfl rfl)
theorem dX1_go_105 : decode cX1_go 105 = .ok (.dup, 1) := dk_89 (dk_at dksX1_go_4 9 rfl rfl)
theorem dX1_go_106 : decode cX1_go 106 = .ok (.getfield 275, 3) := dk_180 1 19 (dk_at dksX1_go_4 10 rfl rfl)
theorem dX1_go_109 : decode cX1_go 109 = .ok (.aload_n 2, 1) := dk_44 (dk_at dksX1_go_4 13 rfl rfl)
theorem dX1_go_110 : decode cX1_go 110 = .ok (.getfield 349, 3) := dk_180 1 93 (dk_at dksX1_go_4 14 rfl rfl)
theorem dX1_go_113 : decode cX1_go 113 = .ok (.iadd, 1) := dk_96 (dk_at dksX1_go_4 17 rfl rfl)
theorem dX1_go_114 : decode cX1_go 114 = .ok (.putfield 275, 3) := dk_181 1 19 (dk_at dksX1_go_4 18 rfl rfl)
theorem dX1_go_117 : decode cX1_go 117 = .ok (.aload_n 3, 1) := dk_45 (dk_at dksX1_go_4 21 rfl rfl)
theorem dX1_go_118 : decode cX1_go 118 = .ok (.getfield 301, 3) := dk_180 1 45 (dk_at dksX1_go_5 0 rfl rfl)
theorem dX1_go_121 : decode cX1_go 121 = .ok (.checkcast 269, 3) := dk_192 1 13 (dk_at dksX1_go_5 3 rfl rfl)
theorem dX1_go_124 : decode cX1_go 124 = .ok (.getfield 512, 3) := dk_180 2 0 (dk_at dksX1_go_5 6 rfl rfl)
theorem dX1_go_127 : decode cX1_go 127 = .ok (.ireturn, 1) := dk_172 (dk_at dksX1_go_5 9 rfl rfl)
abbrev cX1_canGo : ByteArray := prog_1_method_84_code
def yX1_canGo : MethodName := ⟨RX1, "canGo", "(LVaultyard$Thing;)Z"⟩
def dkwX1_canGo_4 : List UInt8 := [3, 172]
abbrev dktX1_canGo_4 : List UInt8 := dkwX1_canGo_4 ++ []
def dkwX1_canGo_3 : List UInt8 := [43, 182, 1, 196, 153, 0, 20, 42, 43, 182, 1, 218, 3, 184, 1, 221, 4, 164, 0, 7, 4, 167, 0, 4]
abbrev dktX1_canGo_3 : List UInt8 := dkwX1_canGo_3 ++ dktX1_canGo_4
def dkwX1_canGo_2 : List UInt8 := [167, 255, 222, 43, 16, 114, 182, 0, 186, 153, 0, 39, 28, 154, 0, 35, 42, 43, 182, 1, 249, 154, 0, 10]
abbrev dktX1_canGo_2 : List UInt8 := dkwX1_canGo_2 ++ dktX1_canGo_3
def dkwX1_canGo_1 : List UInt8 := [46, 54, 6, 28, 43, 21, 6, 182, 1, 117, 2, 159, 0, 7, 4, 167, 0, 4, 3, 128, 61, 132, 5, 1]
abbrev dktX1_canGo_1 : List UInt8 := dkwX1_canGo_1 ++ dktX1_canGo_2
def dkwX1_canGo_0 : List UInt8 := [3, 61, 42, 180, 0, 37, 78, 45, 190, 54, 4, 3, 54, 5, 21, 5, 21, 4, 162, 0, 33, 45, 21, 5]
abbrev dktX1_canGo_0 : List UInt8 := dkwX1_canGo_0 ++ dktX1_canGo_1
theorem dksX1_canGo_0 : cX1_canGo.data.toList.drop 0 = dktX1_canGo_0 := by decide +kernel
theorem dksX1_canGo_1 : cX1_canGo.data.toList.drop 24 = dktX1_canGo_1 := dk_seg dksX1_canGo_0 24 rfl rfl
theorem dksX1_canGo_2 : cX1_canGo.data.toList.drop 48 = dktX1_canGo_2 := dk_seg dksX1_canGo_1 24 rfl rfl
theorem dksX1_canGo_3 : cX1_canGo.data.toList.drop 72 = dktX1_canGo_3 := dk_seg dksX1_canGo_2 24 rfl rfl
theorem dksX1_canGo_4 : cX1_canGo.data.toList.drop 96 = dktX1_canGo_4 := dk_seg dksX1_canGo_3 24 rfl rfl
theorem dX1_canGo_0 : decode cX1_canGo 0 = .ok (.iconst 0, 1) := dk_3 (dk_at dksX1_canGo_0 0 rfl rfl)
theorem dX1_canGo_1 : decode cX1_canGo 1 = .ok (.istore_n 2, 1) := dk_61 (dk_at dksX1_canGo_0 1 rfl rfl)
theorem dX1_canGo_2 : decode cX1_canGo 2 = .ok (.aload_n 0, 1) := dk_42 (dk_at dksX1_canGo_0 2 rfl rfl)
theorem dX1_canGo_3 : decode cX1_canGo 3 = .ok (.getfield 37, 3) := dk_180 0 37 (dk_at dksX1_canGo_0 3 rfl rfl)
theorem dX1_canGo_6 : decode cX1_canGo 6 = .ok (.astore_n 3, 1) := dk_78 (dk_at dksX1_canGo_0 6 rfl rfl)
theorem dX1_canGo_7 : decode cX1_canGo 7 = .ok (.aload_n 3, 1) := dk_45 (dk_at dksX1_canGo_0 7 rfl rfl)
theorem dX1_canGo_8 : decode cX1_canGo 8 = .ok (.arraylength, 1) := dk_190 (dk_at dksX1_canGo_0 8 rfl rfl)
theorem dX1_canGo_9 : decode cX1_canGo 9 = .ok (.istore 4, 2) := dk_54 4 (dk_at dksX1_canGo_0 9 rfl rfl)
theorem dX1_canGo_11 : decode cX1_canGo 11 = .ok (.iconst 0, 1) := dk_3 (dk_at dksX1_canGo_0 11 rfl rfl)
theorem dX1_canGo_12 : decode cX1_canGo 12 = .ok (.istore 5, 2) := dk_54 5 (dk_at dksX1_canGo_0 12 rfl rfl)
theorem dX1_canGo_14 : decode cX1_canGo 14 = .ok (.iload 5, 2) := dk_21 5 (dk_at dksX1_canGo_0 14 rfl rfl)
theorem dX1_canGo_16 : decode cX1_canGo 16 = .ok (.iload 4, 2) := dk_21 4 (dk_at dksX1_canGo_0 16 rfl rfl)
theorem dX1_canGo_18 : decode cX1_canGo 18 = .ok (.if_icmp .ge 33, 3) := dk_162 0 33 (dk_at dksX1_canGo_0 18 rfl rfl)
theorem dX1_canGo_21 : decode cX1_canGo 21 = .ok (.aload_n 3, 1) := dk_45 (dk_at dksX1_canGo_0 21 rfl rfl)
theorem dX1_canGo_22 : decode cX1_canGo 22 = .ok (.iload 5, 2) := dk_21 5 (dk_at dksX1_canGo_0 22 rfl rfl)
theorem dX1_canGo_24 : decode cX1_canGo 24 = .ok (.iaload, 1) := dk_46 (dk_at dksX1_canGo_1 0 rfl rfl)
theorem dX1_canGo_25 : decode cX1_canGo 25 = .ok (.istore 6, 2) := dk_54 6 (dk_at dksX1_canGo_1 1 rfl rfl)
theorem dX1_canGo_27 : decode cX1_canGo 27 = .ok (.iload_n 2, 1) := dk_28 (dk_at dksX1_canGo_1 3 rfl rfl)
theorem dX1_canGo_28 : decode cX1_canGo 28 = .ok (.aload_n 1, 1) := dk_43 (dk_at dksX1_canGo_1 4 rfl rfl)
theorem dX1_canGo_29 : decode cX1_canGo 29 = .ok (.iload 6, 2) := dk_21 6 (dk_at dksX1_canGo_1 5 rfl rfl)
theorem dX1_canGo_31 : decode cX1_canGo 31 = .ok (.invokevirtual 373, 3) := dk_182 1 117 (dk_at dksX1_canGo_1 7 rfl rfl)
theorem dX1_canGo_34 : decode cX1_canGo 34 = .ok (.iconst (-1), 1) := dk_2 (dk_at dksX1_canGo_1 10 rfl rfl)
theorem dX1_canGo_35 : decode cX1_canGo 35 = .ok (.if_icmp .eq 7, 3) := dk_159 0 7 (dk_at dksX1_canGo_1 11 rfl rfl)
theorem dX1_canGo_38 : decode cX1_canGo 38 = .ok (.iconst 1, 1) := dk_4 (dk_at dksX1_canGo_1 14 rfl rfl)
theorem dX1_canGo_39 : decode cX1_canGo 39 = .ok (.goto 4, 3) := dk_167 0 4 (dk_at dksX1_canGo_1 15 rfl rfl)
theorem dX1_canGo_42 : decode cX1_canGo 42 = .ok (.iconst 0, 1) := dk_3 (dk_at dksX1_canGo_1 18 rfl rfl)
theorem dX1_canGo_43 : decode cX1_canGo 43 = .ok (.ior, 1) := dk_128 (dk_at dksX1_canGo_1 19 rfl rfl)
theorem dX1_canGo_44 : decode cX1_canGo 44 = .ok (.istore_n 2, 1) := dk_61 (dk_at dksX1_canGo_1 20 rfl rfl)
theorem dX1_canGo_45 : decode cX1_canGo 45 = .ok (.iinc 5 1, 3) := dk_132 5 1 (dk_at dksX1_canGo_1 21 rfl rfl)
theorem dX1_canGo_48 : decode cX1_canGo 48 = .ok (.goto (-34), 3) := dk_167 255 222 (dk_at dksX1_canGo_2 0 rfl rfl)
theorem dX1_canGo_51 : decode cX1_canGo 51 = .ok (.aload_n 1, 1) := dk_43 (dk_at dksX1_canGo_2 3 rfl rfl)
theorem dX1_canGo_52 : decode cX1_canGo 52 = .ok (.bipush 114, 2) := dk_16 114 (dk_at dksX1_canGo_2 4 rfl rfl)
theorem dX1_canGo_54 : decode cX1_canGo 54 = .ok (.invokevirtual 186, 3) := dk_182 0 186 (dk_at dksX1_canGo_2 6 rfl rfl)
theorem dX1_canGo_57 : decode cX1_canGo 57 = .ok (.ifCond .eq 39, 3) := dk_153 0 39 (dk_at dksX1_canGo_2 9 rfl rfl)
theorem dX1_canGo_60 : decode cX1_canGo 60 = .ok (.iload_n 2, 1) := dk_28 (dk_at dksX1_canGo_2 12 rfl rfl)
theorem dX1_canGo_61 : decode cX1_canGo 61 = .ok (.ifCond .ne 35, 3) := dk_154 0 35 (dk_at dksX1_canGo_2 13 rfl rfl)
theorem dX1_canGo_64 : decode cX1_canGo 64 = .ok (.aload_n 0, 1) := dk_42 (dk_at dksX1_canGo_2 16 rfl rfl)
theorem dX1_canGo_65 : decode cX1_canGo 65 = .ok (.aload_n 1, 1) := dk_43 (dk_at dksX1_canGo_2 17 rfl rfl)
theorem dX1_canGo_66 : decode cX1_canGo 66 = .ok (.invokevirtual 505, 3) := dk_182 1 249 (dk_at dksX1_canGo_2 18 rfl rfl)
theorem dX1_canGo_69 : decode cX1_canGo 69 = .ok (.ifCond .ne 10, 3) := dk_154 0 10 (dk_at dksX1_canGo_2 21 rfl rfl)
theorem dX1_canGo_72 : decode cX1_canGo 72 = .ok (.aload_n 1, 1) := dk_43 (dk_at dksX1_canGo_3 0 rfl rfl)
theorem dX1_canGo_73 : decode cX1_canGo 73 = .ok (.invokevirtual 452, 3) := dk_182 1 196 (dk_at dksX1_canGo_3 1 rfl rfl)
theorem dX1_canGo_76 : decode cX1_canGo 76 = .ok (.ifCond .eq 20, 3) := dk_153 0 20 (dk_at dksX1_canGo_3 4 rfl rfl)
theorem dX1_canGo_79 : decode cX1_canGo 79 = .ok (.aload_n 0, 1) := dk_42 (dk_at dksX1_canGo_3 7 rfl rfl)
theorem dX1_canGo_80 : decode cX1_canGo 80 = .ok (.aload_n 1, 1) := dk_43 (dk_at dksX1_canGo_3 8 rfl rfl)
theorem dX1_canGo_81 : decode cX1_canGo 81 = .ok (.invokevirtual 474, 3) := dk_182 1 218 (dk_at dksX1_canGo_3 9 rfl rfl)
theorem dX1_canGo_84 : decode cX1_canGo 84 = .ok (.iconst 0, 1) := dk_3 (dk_at dksX1_canGo_3 12 rfl rfl)
theorem dX1_canGo_85 : decode cX1_canGo 85 = .ok (.invokestatic 477, 3) := dk_184 1 221 (dk_at dksX1_canGo_3 13 rfl rfl)
theorem dX1_canGo_88 : decode cX1_canGo 88 = .ok (.iconst 1, 1) := dk_4 (dk_at dksX1_canGo_3 16 rfl rfl)
theorem dX1_canGo_89 : decode cX1_canGo 89 = .ok (.if_icmp .le 7, 3) := dk_164 0 7 (dk_at dksX1_canGo_3 17 rfl rfl)
theorem dX1_canGo_92 : decode cX1_canGo 92 = .ok (.iconst 1, 1) := dk_4 (dk_at dksX1_canGo_3 20 rfl rfl)
theorem dX1_canGo_93 : decode cX1_canGo 93 = .ok (.goto 4, 3) := dk_167 0 4 (dk_at dksX1_canGo_3 21 rfl rfl)
theorem dX1_canGo_96 : decode cX1_canGo 96 = .ok (.iconst 0, 1) := dk_3 (dk_at dksX1_canGo_4 0 rfl rfl)
theorem dX1_canGo_97 : decode cX1_canGo 97 = .ok (.ireturn, 1) := dk_172 (dk_at dksX1_canGo_4 1 rfl rfl)
abbrev cX1_isDouble : ByteArray := prog_1_method_83_code
def yX1_isDouble : MethodName := ⟨RX1, "isDouble", "(LVaultyard$Thing;)Z"⟩
def dkwX1_isDouble_4 : List UInt8 := [172]
abbrev dktX1_isDouble_4 : List UInt8 := dkwX1_isDouble_4 ++ []
def dkwX1_isDouble_3 : List UInt8 := [159, 0, 17, 42, 25, 5, 182, 1, 225, 29, 160, 0, 7, 4, 167, 0, 4, 3, 128, 61, 167, 255, 183, 28]
abbrev dktX1_isDouble_3 : List UInt8 := dkwX1_isDouble_3 ++ dktX1_isDouble_4
def dkwX1_isDouble_2 : List UInt8 := [180, 1, 173, 43, 180, 1, 173, 166, 0, 32, 25, 5, 182, 0, 201, 16, 103, 159, 0, 22, 29, 2]
abbrev dktX1_isDouble_2 : List UInt8 := dkwX1_isDouble_2 ++ dktX1_isDouble_3
def dkwX1_isDouble_1 : List UInt8 := [153, 0, 69, 25, 4, 185, 0, 94, 1, 0, 192, 0, 76, 58, 5, 28, 25, 5, 43, 165, 0, 44, 25, 5]
abbrev dktX1_isDouble_1 : List UInt8 := dkwX1_isDouble_1 ++ dktX1_isDouble_2
def dkwX1_isDouble_0 : List UInt8 := [3, 61, 42, 43, 182, 1, 225, 62, 42, 180, 0, 19, 182, 0, 84, 58, 4, 25, 4, 185, 0, 88, 1, 0]
abbrev dktX1_isDouble_0 : List UInt8 := dkwX1_isDouble_0 ++ dktX1_isDouble_1
theorem dksX1_isDouble_0 : cX1_isDouble.data.toList.drop 0 = dktX1_isDouble_0 := by decide +kernel
theorem dksX1_isDouble_1 : cX1_isDouble.data.toList.drop 24 = dktX1_isDouble_1 := dk_seg dksX1_isDouble_0 24 rfl rfl
theorem dksX1_isDouble_2 : cX1_isDouble.data.toList.drop 48 = dktX1_isDouble_2 := dk_seg dksX1_isDouble_1 24 rfl rfl
theorem dksX1_isDouble_3 : cX1_isDouble.data.toList.drop 70 = dktX1_isDouble_3 := dk_seg dksX1_isDouble_2 22 rfl rfl
theorem dksX1_isDouble_4 : cX1_isDouble.data.toList.drop 94 = dktX1_isDouble_4 := dk_seg dksX1_isDouble_3 24 rfl rfl
theorem dX1_isDouble_0 : decode cX1_isDouble 0 = .ok (.iconst 0, 1) := dk_3 (dk_at dksX1_isDouble_0 0 rfl rfl)
theorem dX1_isDouble_1 : decode cX1_isDouble 1 = .ok (.istore_n 2, 1) := dk_61 (dk_at dksX1_isDouble_0 1 rfl rfl)
theorem dX1_isDouble_2 : decode cX1_isDouble 2 = .ok (.aload_n 0, 1) := dk_42 (dk_at dksX1_isDouble_0 2 rfl rfl)
theorem dX1_isDouble_3 : decode cX1_isDouble 3 = .ok (.aload_n 1, 1) := dk_43 (dk_at dksX1_isDouble_0 3 rfl rfl)
theorem dX1_isDouble_4 : decode cX1_isDouble 4 = .ok (.invokevirtual 481, 3) := dk_182 1 225 (dk_at dksX1_isDouble_0 4 rfl rfl)
theorem dX1_isDouble_7 : decode cX1_isDouble 7 = .ok (.istore_n 3, 1) := dk_62 (dk_at dksX1_isDouble_0 7 rfl rfl)
theorem dX1_isDouble_8 : decode cX1_isDouble 8 = .ok (.aload_n 0, 1) := dk_42 (dk_at dksX1_isDouble_0 8 rfl rfl)
theorem dX1_isDouble_9 : decode cX1_isDouble 9 = .ok (.getfield 19, 3) := dk_180 0 19 (dk_at dksX1_isDouble_0 9 rfl rfl)
theorem dX1_isDouble_12 : decode cX1_isDouble 12 = .ok (.invokevirtual 84, 3) := dk_182 0 84 (dk_at dksX1_isDouble_0 12 rfl rfl)
theorem dX1_isDouble_15 : decode cX1_isDouble 15 = .ok (.astore 4, 2) := dk_58 4 (dk_at dksX1_isDouble_0 15 rfl rfl)
theorem dX1_isDouble_17 : decode cX1_isDouble 17 = .ok (.aload 4, 2) := dk_25 4 (dk_at dksX1_isDouble_0 17 rfl rfl)
theorem dX1_isDouble_19 : decode cX1_isDouble 19 = .ok (.invokeinterface 88 1, 5) := by decide +kernel
theorem dX1_isDouble_24 : decode cX1_isDouble 24 = .ok (.ifCond .eq 69, 3) := dk_153 0 69 (dk_at dksX1_isDouble_1 0 rfl rfl)
theorem dX1_isDouble_27 : decode cX1_isDouble 27 = .ok (.aload 4, 2) := dk_25 4 (dk_at dksX1_isDouble_1 3 rfl rfl)
theorem dX1_isDouble_29 : decode cX1_isDouble 29 = .ok (.invokeinterface 94 1, 5) := by decide +kernel
theorem dX1_isDouble_34 : decode cX1_isDouble 34 = .ok (.checkcast 76, 3) := dk_192 0 76 (dk_at dksX1_isDouble_1 10 rfl rfl)
theorem dX1_isDouble_37 : decode cX1_isDouble 37 = .ok (.astore 5, 2) := dk_58 5 (dk_at dksX1_isDouble_1 13 rfl rfl)
theorem dX1_isDouble_39 : decode cX1_isDouble 39 = .ok (.iload_n 2, 1) := dk_28 (dk_at dksX1_isDouble_1 15 rfl rfl)
theorem dX1_isDouble_40 : decode cX1_isDouble 40 = .ok (.aload 5, 2) := dk_25 5 (dk_at dksX1_isDouble_1 16 rfl rfl)
theorem dX1_isDouble_42 : decode cX1_isDouble 42 = .ok (.aload_n 1, 1) := dk_43 (dk_at dksX1_isDouble_1 18 rfl rfl)
theorem dX1_isDouble_43 : decode cX1_isDouble 43 = .ok (.if_acmp .eq 44, 3) := dk_165 0 44 (dk_at dksX1_isDouble_1 19 rfl rfl)
theorem dX1_isDouble_46 : decode cX1_isDouble 46 = .ok (.aload 5, 2) := dk_25 5 (dk_at dksX1_isDouble_1 22 rfl rfl)
theorem dX1_isDouble_48 : decode cX1_isDouble 48 = .ok (.getfield 429, 3) := dk_180 1 173 (dk_at dksX1_isDouble_2 0 rfl rfl)
theorem dX1_isDouble_51 : decode cX1_isDouble 51 = .ok (.aload_n 1, 1) := dk_43 (dk_at dksX1_isDouble_2 3 rfl rfl)
theorem dX1_isDouble_52 : decode cX1_isDouble 52 = .ok (.getfield 429, 3) := dk_180 1 173 (dk_at dksX1_isDouble_2 4 rfl rfl)
theorem dX1_isDouble_55 : decode cX1_isDouble 55 = .ok (.if_acmp .ne 32, 3) := dk_166 0 32 (dk_at dksX1_isDouble_2 7 rfl rfl)
theorem dX1_isDouble_58 : decode cX1_isDouble 58 = .ok (.aload 5, 2) := dk_25 5 (dk_at dksX1_isDouble_2 10 rfl rfl)
theorem dX1_isDouble_60 : decode cX1_isDouble 60 = .ok (.invokevirtual 201, 3) := dk_182 0 201 (dk_at dksX1_isDouble_2 12 rfl rfl)
theorem dX1_isDouble_63 : decode cX1_isDouble 63 = .ok (.bipush 103, 2) := dk_16 103 (dk_at dksX1_isDouble_2 15 rfl rfl)
theorem dX1_isDouble_65 : decode cX1_isDouble 65 = .ok (.if_icmp .eq 22, 3) := dk_159 0 22 (dk_at dksX1_isDouble_2 17 rfl rfl)
theorem dX1_isDouble_68 : decode cX1_isDouble 68 = .ok (.iload_n 3, 1) := dk_29 (dk_at dksX1_isDouble_2 20 rfl rfl)
theorem dX1_isDouble_69 : decode cX1_isDouble 69 = .ok (.iconst (-1), 1) := dk_2 (dk_at dksX1_isDouble_2 21 rfl rfl)
theorem dX1_isDouble_70 : decode cX1_isDouble 70 = .ok (.if_icmp .eq 17, 3) := dk_159 0 17 (dk_at dksX1_isDouble_3 0 rfl rfl)
theorem dX1_isDouble_73 : decode cX1_isDouble 73 = .ok (.aload_n 0, 1) := dk_42 (dk_at dksX1_isDouble_3 3 rfl rfl)
theorem dX1_isDouble_74 : decode cX1_isDouble 74 = .ok (.aload 5, 2) := dk_25 5 (dk_at dksX1_isDouble_3 4 rfl rfl)
theorem dX1_isDouble_76 : decode cX1_isDouble 76 = .ok (.invokevirtual 481, 3) := dk_182 1 225 (dk_at dksX1_isDouble_3 6 rfl rfl)
theorem dX1_isDouble_79 : decode cX1_isDouble 79 = .ok (.iload_n 3, 1) := dk_29 (dk_at dksX1_isDouble_3 9 rfl rfl)
theorem dX1_isDouble_80 : decode cX1_isDouble 80 = .ok (.if_icmp .ne 7, 3) := dk_160 0 7 (dk_at dksX1_isDouble_3 10 rfl rfl)
theorem dX1_isDouble_83 : decode cX1_isDouble 83 = .ok (.iconst 1, 1) := dk_4 (dk_at dksX1_isDouble_3 13 rfl rfl)
theorem dX1_isDouble_84 : decode cX1_isDouble 84 = .ok (.goto 4, 3) := dk_167 0 4 (dk_at dksX1_isDouble_3 14 rfl rfl)
theorem dX1_isDouble_87 : decode cX1_isDouble 87 = .ok (.iconst 0, 1) := dk_3 (dk_at dksX1_isDouble_3 17 rfl rfl)
theorem dX1_isDouble_88 : decode cX1_isDouble 88 = .ok (.ior, 1) := dk_128 (dk_at dksX1_isDouble_3 18 rfl rfl)
theorem dX1_isDouble_89 : decode cX1_isDouble 89 = .ok (.istore_n 2, 1) := dk_61 (dk_at dksX1_isDouble_3 19 rfl rfl)
theorem dX1_isDouble_90 : decode cX1_isDouble 90 = .ok (.goto (-73), 3) := dk_167 255 183 (dk_at dksX1_isDouble_3 20 rfl rfl)
theorem dX1_isDouble_93 : decode cX1_isDouble 93 = .ok (.iload_n 2, 1) := dk_28 (dk_at dksX1_isDouble_3 23 rfl rfl)
theorem dX1_isDouble_94 : decode cX1_isDouble 94 = .ok (.ireturn, 1) := dk_172 (dk_at dksX1_isDouble_4 0 rfl rfl)
abbrev cX1_safeShare : ByteArray := prog_1_method_87_code
def yX1_safeShare : MethodName := ⟨RX1, "safeShare", "()F"⟩
def dkwX1_safeShare_3 : List UInt8 := [182, 0, 62, 134, 110, 174]
abbrev dktX1_safeShare_3 : List UInt8 := dkwX1_safeShare_3 ++ []
def dkwX1_safeShare_2 : List UInt8 := [45, 180, 0, 223, 154, 0, 7, 4, 167, 0, 4, 3, 96, 60, 167, 255, 222, 27, 134, 42, 180, 0, 19]
abbrev dktX1_safeShare_2 : List UInt8 := dkwX1_safeShare_2 ++ dktX1_safeShare_3
def dkwX1_safeShare_1 : List UInt8 := [182, 0, 84, 77, 44, 185, 0, 88, 1, 0, 153, 0, 31, 44, 185, 0, 94, 1, 0, 192, 0, 76, 78, 27]
abbrev dktX1_safeShare_1 : List UInt8 := dkwX1_safeShare_1 ++ dktX1_safeShare_2
def dkwX1_safeShare_0 : List UInt8 := [42, 180, 0, 19, 182, 1, 103, 153, 0, 11, 187, 2, 5, 89, 183, 2, 7, 191, 3, 60, 42, 180, 0, 19]
abbrev dktX1_safeShare_0 : List UInt8 := dkwX1_safeShare_0 ++ dktX1_safeShare_1
theorem dksX1_safeShare_0 : cX1_safeShare.data.toList.drop 0 = dktX1_safeShare_0 := by decide +kernel
theorem dksX1_safeShare_1 : cX1_safeShare.data.toList.drop 24 = dktX1_safeShare_1 := dk_seg dksX1_safeShare_0 24 rfl rfl
theorem dksX1_safeShare_2 : cX1_safeShare.data.toList.drop 48 = dktX1_safeShare_2 := dk_seg dksX1_safeShare_1 24 rfl rfl
theorem dksX1_safeShare_3 : cX1_safeShare.data.toList.drop 71 = dktX1_safeShare_3 := dk_seg dksX1_safeShare_2 23 rfl rfl
theorem dX1_safeShare_0 : decode cX1_safeShare 0 = .ok (.aload_n 0, 1) := dk_42 (dk_at dksX1_safeShare_0 0 rfl rfl)
theorem dX1_safeShare_1 : decode cX1_safeShare 1 = .ok (.getfield 19, 3) := dk_180 0 19 (dk_at dksX1_safeShare_0 1 rfl rfl)
theorem dX1_safeShare_4 : decode cX1_safeShare 4 = .ok (.invokevirtual 359, 3) := dk_182 1 103 (dk_at dksX1_safeShare_0 4 rfl rfl)
theorem dX1_safeShare_7 : decode cX1_safeShare 7 = .ok (.ifCond .eq 11, 3) := dk_153 0 11 (dk_at dksX1_safeShare_0 7 rfl rfl)
theorem dX1_safeShare_10 : decode cX1_safeShare 10 = .ok (.new 517, 3) := dk_187 2 5 (dk_at dksX1_safeShare_0 10 rfl rfl)
theorem dX1_safeShare_13 : decode cX1_safeShare 13 = .ok (.dup, 1) := dk_89 (dk_at dksX1_safeShare_0 13 rfl rfl)
theorem dX1_safeShare_14 : decode cX1_safeShare 14 = .ok (.invokespecial 519, 3) := dk_183 2 7 (dk_at dksX1_safeShare_0 14 rfl rfl)
theorem dX1_safeShare_17 : decode cX1_safeShare 17 = .ok (.athrow, 1) := dk_191 (dk_at dksX1_safeShare_0 17 rfl rfl)
theorem dX1_safeShare_18 : decode cX1_safeShare 18 = .ok (.iconst 0, 1) := dk_3 (dk_at dksX1_safeShare_0 18 rfl rfl)
theorem dX1_safeShare_19 : decode cX1_safeShare 19 = .ok (.istore_n 1, 1) := dk_60 (dk_at dksX1_safeShare_0 19 rfl rfl)
theorem dX1_safeShare_20 : decode cX1_safeShare 20 = .ok (.aload_n 0, 1) := dk_42 (dk_at dksX1_safeShare_0 20 rfl rfl)
theorem dX1_safeShare_21 : decode cX1_safeShare 21 = .ok (.getfield 19, 3) := dk_180 0 19 (dk_at dksX1_safeShare_0 21 rfl rfl)
theorem dX1_safeShare_24 : decode cX1_safeShare 24 = .ok (.invokevirtual 84, 3) := dk_182 0 84 (dk_at dksX1_safeShare_1 0 rfl rfl)
theorem dX1_safeShare_27 : decode cX1_safeShare 27 = .ok (.astore_n 2, 1) := dk_77 (dk_at dksX1_safeShare_1 3 rfl rfl)
theorem dX1_safeShare_28 : decode cX1_safeShare 28 = .ok (.aload_n 2, 1) := dk_44 (dk_at dksX1_safeShare_1 4 rfl rfl)
theorem dX1_safeShare_29 : decode cX1_safeShare 29 = .ok (.invokeinterface 88 1, 5) := by decide +kernel
theorem dX1_safeShare_34 : decode cX1_safeShare 34 = .ok (.ifCond .eq 31, 3) := dk_153 0 31 (dk_at dksX1_safeShare_1 10 rfl rfl)
theorem dX1_safeShare_37 : decode cX1_safeShare 37 = .ok (.aload_n 2, 1) := dk_44 (dk_at dksX1_safeShare_1 13 rfl rfl)
theorem dX1_safeShare_38 : decode cX1_safeShare 38 = .ok (.invokeinterface 94 1, 5) := by decide +kernel
theorem dX1_safeShare_43 : decode cX1_safeShare 43 = .ok (.checkcast 76, 3) := dk_192 0 76 (dk_at dksX1_safeShare_1 19 rfl rfl)
theorem dX1_safeShare_46 : decode cX1_safeShare 46 = .ok (.astore_n 3, 1) := dk_78 (dk_at dksX1_safeShare_1 22 rfl rfl)
theorem dX1_safeShare_47 : decode cX1_safeShare 47 = .ok (.iload_n 1, 1) := dk_27 (dk_at dksX1_safeShare_1 23 rfl rfl)
theorem dX1_safeShare_48 : decode cX1_safeShare 48 = .ok (.aload_n 3, 1) := dk_45 (dk_at dksX1_safeShare_2 0 rfl rfl)
theorem dX1_safeShare_49 : decode cX1_safeShare 49 = .ok (.getfield 223, 3) := dk_180 0 223 (dk_at dksX1_safeShare_2 1 rfl rfl)
theorem dX1_safeShare_52 : decode cX1_safeShare 52 = .ok (.ifCond .ne 7, 3) := dk_154 0 7 (dk_at dksX1_safeShare_2 4 rfl rfl)
theorem dX1_safeShare_55 : decode cX1_safeShare 55 = .ok (.iconst 1, 1) := dk_4 (dk_at dksX1_safeShare_2 7 rfl rfl)
theorem dX1_safeShare_56 : decode cX1_safeShare 56 = .ok (.goto 4, 3) := dk_167 0 4 (dk_at dksX1_safeShare_2 8 rfl rfl)
theorem dX1_safeShare_59 : decode cX1_safeShare 59 = .ok (.iconst 0, 1) := dk_3 (dk_at dksX1_safeShare_2 11 rfl rfl)
theorem dX1_safeShare_60 : decode cX1_safeShare 60 = .ok (.iadd, 1) := dk_96 (dk_at dksX1_safeShare_2 12 rfl rfl)
theorem dX1_safeShare_61 : decode cX1_safeShare 61 = .ok (.istore_n 1, 1) := dk_60 (dk_at dksX1_safeShare_2 13 rfl rfl)
theorem dX1_safeShare_62 : decode cX1_safeShare 62 = .ok (.goto (-34), 3) := dk_167 255 222 (dk_at dksX1_safeShare_2 14 rfl rfl)
theorem dX1_safeShare_65 : decode cX1_safeShare 65 = .ok (.iload_n 1, 1) := dk_27 (dk_at dksX1_safeShare_2 17 rfl rfl)
theorem dX1_safeShare_66 : decode cX1_safeShare 66 = .ok (.i2f, 1) := dk_134 (dk_at dksX1_safeShare_2 18 rfl rfl)
theorem dX1_safeShare_67 : decode cX1_safeShare 67 = .ok (.aload_n 0, 1) := dk_42 (dk_at dksX1_safeShare_2 19 rfl rfl)
theorem dX1_safeShare_68 : decode cX1_safeShare 68 = .ok (.getfield 19, 3) := dk_180 0 19 (dk_at dksX1_safeShare_2 20 rfl rfl)
theorem dX1_safeShare_71 : decode cX1_safeShare 71 = .ok (.invokevirtual 62, 3) := dk_182 0 62 (dk_at dksX1_safeShare_3 0 rfl rfl)
theorem dX1_safeShare_74 : decode cX1_safeShare 74 = .ok (.i2f, 1) := dk_134 (dk_at dksX1_safeShare_3 3 rfl rfl)
theorem dX1_safeShare_75 : decode cX1_safeShare 75 = .ok (.fdiv, 1) := dk_110 (dk_at dksX1_safeShare_3 4 rfl rfl)
theorem dX1_safeShare_76 : decode cX1_safeShare 76 = .ok (.freturn, 1) := dk_174 (dk_at dksX1_safeShare_3 5 rfl rfl)
abbrev cX1_meanDamage : ByteArray := prog_1_method_88_code
def yX1_meanDamage : MethodName := ⟨RX1, "meanDamage", "()D"⟩
def dkwX1_meanDamage_2 : List UInt8 := [45, 180, 0, 223, 96, 60, 167, 255, 230, 27, 135, 42, 180, 0, 19, 182, 0, 62, 135, 111, 175]
abbrev dktX1_meanDamage_2 : List UInt8 := dkwX1_meanDamage_2 ++ []
def dkwX1_meanDamage_1 : List UInt8 := [182, 0, 84, 77, 44, 185, 0, 88, 1, 0, 153, 0, 23, 44, 185, 0, 94, 1, 0, 192, 0, 76, 78, 27]
abbrev dktX1_meanDamage_1 : List UInt8 := dkwX1_meanDamage_1 ++ dktX1_meanDamage_2
def dkwX1_meanDamage_0 : List UInt8 := [42, 180, 0, 19, 182, 1, 103, 153, 0, 11, 187, 2, 5, 89, 183, 2, 7, 191, 3, 60, 42, 180, 0, 19]
abbrev dktX1_meanDamage_0 : List UInt8 := dkwX1_meanDamage_0 ++ dktX1_meanDamage_1
theorem dksX1_meanDamage_0 : cX1_meanDamage.data.toList.drop 0 = dktX1_meanDamage_0 := by decide +kernel
theorem dksX1_meanDamage_1 : cX1_meanDamage.data.toList.drop 24 = dktX1_meanDamage_1 := dk_seg dksX1_meanDamage_0 24 rfl rfl
theorem dksX1_meanDamage_2 : cX1_meanDamage.data.toList.drop 48 = dktX1_meanDamage_2 := dk_seg dksX1_meanDamage_1 24 rfl rfl
theorem dX1_meanDamage_0 : decode cX1_meanDamage 0 = .ok (.aload_n 0, 1) := dk_42 (dk_at dksX1_meanDamage_0 0 rfl rfl)
theorem dX1_meanDamage_1 : decode cX1_meanDamage 1 = .ok (.getfield 19, 3) := dk_180 0 19 (dk_at dksX1_meanDamage_0 1 rfl rfl)
theorem dX1_meanDamage_4 : decode cX1_meanDamage 4 = .ok (.invokevirtual 359, 3) := dk_182 1 103 (dk_at dksX1_meanDamage_0 4 rfl rfl)
theorem dX1_meanDamage_7 : decode cX1_meanDamage 7 = .ok (.ifCond .eq 11, 3) := dk_153 0 11 (dk_at dksX1_meanDamage_0 7 rfl rfl)
theorem dX1_meanDamage_10 : decode cX1_meanDamage 10 = .ok (.new 517, 3) := dk_187 2 5 (dk_at dksX1_meanDamage_0 10 rfl rfl)
theorem dX1_meanDamage_13 : decode cX1_meanDamage 13 = .ok (.dup, 1) := dk_89 (dk_at dksX1_meanDamage_0 13 rfl rfl)
theorem dX1_meanDamage_14 : decode cX1_meanDamage 14 = .ok (.invokespecial 519, 3) := dk_183 2 7 (dk_at dksX1_meanDamage_0 14 rfl rfl)
theorem dX1_meanDamage_17 : decode cX1_meanDamage 17 = .ok (.athrow, 1) := dk_191 (dk_at dksX1_meanDamage_0 17 rfl rfl)
theorem dX1_meanDamage_18 : decode cX1_meanDamage 18 = .ok (.iconst 0, 1) := dk_3 (dk_at dksX1_meanDamage_0 18 rfl rfl)
theorem dX1_meanDamage_19 : decode cX1_meanDamage 19 = .ok (.istore_n 1, 1) := dk_60 (dk_at dksX1_meanDamage_0 19 rfl rfl)
theorem dX1_meanDamage_20 : decode cX1_meanDamage 20 = .ok (.aload_n 0, 1) := dk_42 (dk_at dksX1_meanDamage_0 20 rfl rfl)
theorem dX1_meanDamage_21 : decode cX1_meanDamage 21 = .ok (.getfield 19, 3) := dk_180 0 19 (dk_at dksX1_meanDamage_0 21 rfl rfl)
theorem dX1_meanDamage_24 : decode cX1_meanDamage 24 = .ok (.invokevirtual 84, 3) := dk_182 0 84 (dk_at dksX1_meanDamage_1 0 rfl rfl)
theorem dX1_meanDamage_27 : decode cX1_meanDamage 27 = .ok (.astore_n 2, 1) := dk_77 (dk_at dksX1_meanDamage_1 3 rfl rfl)
theorem dX1_meanDamage_28 : decode cX1_meanDamage 28 = .ok (.aload_n 2, 1) := dk_44 (dk_at dksX1_meanDamage_1 4 rfl rfl)
theorem dX1_meanDamage_29 : decode cX1_meanDamage 29 = .ok (.invokeinterface 88 1, 5) := by decide +kernel
theorem dX1_meanDamage_34 : decode cX1_meanDamage 34 = .ok (.ifCond .eq 23, 3) := dk_153 0 23 (dk_at dksX1_meanDamage_1 10 rfl rfl)
theorem dX1_meanDamage_37 : decode cX1_meanDamage 37 = .ok (.aload_n 2, 1) := dk_44 (dk_at dksX1_meanDamage_1 13 rfl rfl)
theorem dX1_meanDamage_38 : decode cX1_meanDamage 38 = .ok (.invokeinterface 94 1, 5) := by decide +kernel
theorem dX1_meanDamage_43 : decode cX1_meanDamage 43 = .ok (.checkcast 76, 3) := dk_192 0 76 (dk_at dksX1_meanDamage_1 19 rfl rfl)
theorem dX1_meanDamage_46 : decode cX1_meanDamage 46 = .ok (.astore_n 3, 1) := dk_78 (dk_at dksX1_meanDamage_1 22 rfl rfl)
theorem dX1_meanDamage_47 : decode cX1_meanDamage 47 = .ok (.iload_n 1, 1) := dk_27 (dk_at dksX1_meanDamage_1 23 rfl rfl)
theorem dX1_meanDamage_48 : decode cX1_meanDamage 48 = .ok (.aload_n 3, 1) := dk_45 (dk_at dksX1_meanDamage_2 0 rfl rfl)
theorem dX1_meanDamage_49 : decode cX1_meanDamage 49 = .ok (.getfield 223, 3) := dk_180 0 223 (dk_at dksX1_meanDamage_2 1 rfl rfl)
theorem dX1_meanDamage_52 : decode cX1_meanDamage 52 = .ok (.iadd, 1) := dk_96 (dk_at dksX1_meanDamage_2 4 rfl rfl)
theorem dX1_meanDamage_53 : decode cX1_meanDamage 53 = .ok (.istore_n 1, 1) := dk_60 (dk_at dksX1_meanDamage_2 5 rfl rfl)
theorem dX1_meanDamage_54 : decode cX1_meanDamage 54 = .ok (.goto (-26), 3) := dk_167 255 230 (dk_at dksX1_meanDamage_2 6 rfl rfl)
theorem dX1_meanDamage_57 : decode cX1_meanDamage 57 = .ok (.iload_n 1, 1) := dk_27 (dk_at dksX1_meanDamage_2 9 rfl rfl)
theorem dX1_meanDamage_58 : decode cX1_meanDamage 58 = .ok (.i2d, 1) := dk_135 (dk_at dksX1_meanDamage_2 10 rfl rfl)
theorem dX1_meanDamage_59 : decode cX1_meanDamage 59 = .ok (.aload_n 0, 1) := dk_42 (dk_at dksX1_meanDamage_2 11 rfl rfl)
theorem dX1_meanDamage_60 : decode cX1_meanDamage 60 = .ok (.getfield 19, 3) := dk_180 0 19 (dk_at dksX1_meanDamage_2 12 rfl rfl)
theorem dX1_meanDamage_63 : decode cX1_meanDamage 63 = .ok (.invokevirtual 62, 3) := dk_182 0 62 (dk_at dksX1_meanDamage_2 15 rfl rfl)
theorem dX1_meanDamage_66 : decode cX1_meanDamage 66 = .ok (.i2d, 1) := dk_135 (dk_at dksX1_meanDamage_2 18 rfl rfl)
theorem dX1_meanDamage_67 : decode cX1_meanDamage 67 = .ok (.ddiv, 1) := dk_111 (dk_at dksX1_meanDamage_2 19 rfl rfl)
theorem dX1_meanDamage_68 : decode cX1_meanDamage 68 = .ok (.dreturn, 1) := dk_175 (dk_at dksX1_meanDamage_2 20 rfl rfl)
theorem q91 : (Jvm.Cond.initialized "Vaultyard") ∈ lw_all := lw_g (lw_at lw_m1 1 rfl) rfl
theorem q152 : (Jvm.Cond.instantiable "Vaultyard" (10 : Nat)) ∈ lw_all := lw_g (lw_at lw_m1 62 rfl) rfl
theorem q154 : (Jvm.Cond.instanceMethod ({ cls := "Vaultyard", name := "<init>", desc := "()V" } : Jvm.MethodName)) ∈ lw_all := lw_g (lw_at lw_m1 64 rfl) rfl
theorem q155 : (Jvm.Cond.code ({ cls := "Vaultyard", name := "<init>", desc := "()V" } : Jvm.MethodName) prog_1_method_1_code (1 : Nat) (Option.none : Option Jvm.ClassFile.FieldType)) ∈ lw_all := lw_g (lw_at lw_m1 65 rfl) rfl
theorem q156 : (Jvm.Cond.methodLink "Vaultyard" (1 : Nat) ({ cls := "java/lang/Object", name := "<init>", desc := "()V" } : Jvm.MethodName)) ∈ lw_all := lw_g (lw_at lw_m1 66 rfl) rfl
theorem q159 : (Jvm.Cond.classLink "Vaultyard" (7 : Nat) "java/util/ArrayList") ∈ lw_all := lw_g (lw_at lw_m1 69 rfl) rfl
theorem q161 : (Jvm.Cond.methodLink "Vaultyard" (9 : Nat) ({ cls := "java/util/ArrayList", name := "<init>", desc := "()V" } : Jvm.MethodName)) ∈ lw_all := lw_g (lw_at lw_m1 71 rfl) rfl
theorem q188 : (Jvm.Cond.methodLink "Vaultyard" (41 : Nat) ({ cls := "java/util/Arrays", name := "fill", desc := "([II)V" } : Jvm.MethodName)) ∈ lw_all := lw_g (lw_at lw_m1 98 rfl) rfl
theorem q191 : (Jvm.Cond.fieldLink "Vaultyard" (10 : Nat) "Vaultyard" "materials" "Ljava/util/ArrayList;") ∈ lw_all := lw_g (lw_at lw_m1 101 rfl) rfl
theorem q192 : (Jvm.Cond.fieldLink "Vaultyard" (16 : Nat) "Vaultyard" "rooms" "Ljava/util/ArrayList;") ∈ lw_all := lw_g (lw_at lw_m1 102 rfl) rfl
theorem q194 : (Jvm.Cond.fieldLink "Vaultyard" (19 : Nat) "Vaultyard" "things" "Ljava/util/ArrayList;") ∈ lw_all := lw_g (lw_at lw_m1 104 rfl) rfl
theorem q195 : (Jvm.Cond.fieldLink "Vaultyard" (22 : Nat) "Vaultyard" "loans" "Ljava/util/ArrayList;") ∈ lw_all := lw_g (lw_at lw_m1 105 rfl) rfl
theorem q196 : (Jvm.Cond.fieldLink "Vaultyard" (25 : Nat) "Vaultyard" "methods" "Ljava/util/ArrayList;") ∈ lw_all := lw_g (lw_at lw_m1 106 rfl) rfl
theorem q198 : (Jvm.Cond.fieldLink "Vaultyard" (28 : Nat) "Vaultyard" "boxes" "Ljava/util/ArrayList;") ∈ lw_all := lw_g (lw_at lw_m1 108 rfl) rfl
theorem q199 : (Jvm.Cond.fieldLink "Vaultyard" (31 : Nat) "Vaultyard" "opinions" "Ljava/util/ArrayList;") ∈ lw_all := lw_g (lw_at lw_m1 109 rfl) rfl
theorem q200 : (Jvm.Cond.fieldLink "Vaultyard" (34 : Nat) "Vaultyard" "funds" "Ljava/util/ArrayList;") ∈ lw_all := lw_g (lw_at lw_m1 110 rfl) rfl
theorem q201 : (Jvm.Cond.fieldLink "Vaultyard" (37 : Nat) "Vaultyard" "laws" "[I") ∈ lw_all := lw_g (lw_at lw_m1 111 rfl) rfl
theorem q203 : (Jvm.Cond.fieldLink "Vaultyard" (80 : Nat) "Vaultyard" "day" "I") ∈ lw_all := lw_g (lw_at lw_m1 113 rfl) rfl
theorem q204 : (Jvm.Cond.laysFinal "Vaultyard" "Vaultyard" "materials" "Ljava/util/ArrayList;") ∈ lw_all := lw_g (lw_at lw_m1 114 rfl) rfl
theorem q205 : (Jvm.Cond.soleField "Vaultyard" "materials") ∈ lw_all := lw_g (lw_at lw_m1 115 rfl) rfl
theorem q206 : (Jvm.Cond.laysFinal "Vaultyard" "Vaultyard" "rooms" "Ljava/util/ArrayList;") ∈ lw_all := lw_g (lw_at lw_m1 116 rfl) rfl
theorem q207 : (Jvm.Cond.soleField "Vaultyard" "rooms") ∈ lw_all := lw_g (lw_at lw_m1 117 rfl) rfl
theorem q208 : (Jvm.Cond.laysFinal "Vaultyard" "Vaultyard" "things" "Ljava/util/ArrayList;") ∈ lw_all := lw_g (lw_at lw_m1 118 rfl) rfl
theorem q209 : (Jvm.Cond.soleField "Vaultyard" "things") ∈ lw_all := lw_g (lw_at lw_m1 119 rfl) rfl
theorem q210 : (Jvm.Cond.laysFinal "Vaultyard" "Vaultyard" "loans" "Ljava/util/ArrayList;") ∈ lw_all := lw_g (lw_at lw_m1 120 rfl) rfl
theorem q211 : (Jvm.Cond.soleField "Vaultyard" "loans") ∈ lw_all := lw_g (lw_at lw_m1 121 rfl) rfl
theorem q212 : (Jvm.Cond.laysFinal "Vaultyard" "Vaultyard" "methods" "Ljava/util/ArrayList;") ∈ lw_all := lw_g (lw_at lw_m1 122 rfl) rfl
theorem q213 : (Jvm.Cond.soleField "Vaultyard" "methods") ∈ lw_all := lw_g (lw_at lw_m1 123 rfl) rfl
theorem q214 : (Jvm.Cond.laysFinal "Vaultyard" "Vaultyard" "boxes" "Ljava/util/ArrayList;") ∈ lw_all := lw_g (lw_at lw_m1 124 rfl) rfl
theorem q215 : (Jvm.Cond.soleField "Vaultyard" "boxes") ∈ lw_all := lw_g (lw_at lw_m1 125 rfl) rfl
theorem q216 : (Jvm.Cond.laysFinal "Vaultyard" "Vaultyard" "opinions" "Ljava/util/ArrayList;") ∈ lw_all := lw_g (lw_at lw_m1 126 rfl) rfl
theorem q217 : (Jvm.Cond.soleField "Vaultyard" "opinions") ∈ lw_all := lw_g (lw_at lw_m1 127 rfl) rfl
theorem q218 : (Jvm.Cond.laysFinal "Vaultyard" "Vaultyard" "funds" "Ljava/util/ArrayList;") ∈ lw_all := lw_g (lw_at lw_m1 128 rfl) rfl
theorem q219 : (Jvm.Cond.soleField "Vaultyard" "funds") ∈ lw_all := lw_g (lw_at lw_m1 129 rfl) rfl
theorem q220 : (Jvm.Cond.laysFinal "Vaultyard" "Vaultyard" "laws" "[I") ∈ lw_all := lw_g (lw_at lw_m1 130 rfl) rfl
theorem q221 : (Jvm.Cond.soleField "Vaultyard" "laws") ∈ lw_all := lw_g (lw_at lw_m1 131 rfl) rfl
theorem q222 : (Jvm.Cond.lays "Vaultyard" "Vaultyard" "day" "I") ∈ lw_all := lw_g (lw_at lw_m1 132 rfl) rfl
theorem q223 : (Jvm.Cond.soleField "Vaultyard" "day") ∈ lw_all := lw_g (lw_at lw_m1 133 rfl) rfl
theorem q224 : (Jvm.Cond.superclass "Vaultyard" "java/lang/Object") ∈ lw_all := lw_g (lw_at lw_m1 134 rfl) rfl
theorem q227 : (Jvm.Cond.instanceMethod ({ cls := "Vaultyard", name := "year", desc := "()I" } : Jvm.MethodName)) ∈ lw_all := lw_g (lw_at lw_m1 137 rfl) rfl
theorem q228 : (Jvm.Cond.selects "Vaultyard" ({ cls := "Vaultyard", name := "year", desc := "()I" } : Jvm.MethodName) ({ cls := "Vaultyard", name := "year", desc := "()I" } : Jvm.MethodName)) ∈ lw_all := lw_g (lw_at lw_m1 138 rfl) rfl
theorem q229 : (Jvm.Cond.code ({ cls := "Vaultyard", name := "year", desc := "()I" } : Jvm.MethodName) prog_1_method_28_code (1 : Nat) (Option.some Jvm.ClassFile.FieldType.int)) ∈ lw_all := lw_g (lw_at lw_m1 139 rfl) rfl
theorem q230 : (Jvm.Cond.methodLink "Vaultyard" (220 : Nat) ({ cls := "Vaultyard", name := "yearNow", desc := "()I" } : Jvm.MethodName)) ∈ lw_all := lw_g (lw_at lw_m1 140 rfl) rfl
theorem q231 : (Jvm.Cond.privateMethod ({ cls := "Vaultyard", name := "yearNow", desc := "()I" } : Jvm.MethodName)) ∈ lw_tbl := lw_at lw_m1 141 rfl
theorem q232 : (Jvm.Cond.instanceMethod ({ cls := "Vaultyard", name := "yearNow", desc := "()I" } : Jvm.MethodName)) ∈ lw_all := lw_g (lw_at lw_m1 142 rfl) rfl
theorem q233 : (Jvm.Cond.code ({ cls := "Vaultyard", name := "yearNow", desc := "()I" } : Jvm.MethodName) prog_1_method_11_code (1 : Nat) (Option.some Jvm.ClassFile.FieldType.int)) ∈ lw_all := lw_g (lw_at lw_m1 143 rfl) rfl
theorem q235 : (Jvm.Cond.instanceMethod ({ cls := "Vaultyard", name := "checksum", desc := "()J" } : Jvm.MethodName)) ∈ lw_all := lw_g (lw_at lw_m1 145 rfl) rfl
theorem q236 : (Jvm.Cond.selects "Vaultyard" ({ cls := "Vaultyard", name := "checksum", desc := "()J" } : Jvm.MethodName) ({ cls := "Vaultyard", name := "checksum", desc := "()J" } : Jvm.MethodName)) ∈ lw_all := lw_g (lw_at lw_m1 146 rfl) rfl
theorem q237 : (Jvm.Cond.code ({ cls := "Vaultyard", name := "checksum", desc := "()J" } : Jvm.MethodName) prog_1_method_86_code (5 : Nat) (Option.some Jvm.ClassFile.FieldType.long)) ∈ lw_all := lw_g (lw_at lw_m1 147 rfl) rfl
theorem q238 : (Jvm.Cond.constantLong "Vaultyard" (513 : Nat) (7 : Int64)) ∈ lw_all := lw_g (lw_at lw_m1 148 rfl) rfl
theorem q239 : (Jvm.Cond.methodLink "Vaultyard" (84 : Nat) ({ cls := "java/util/ArrayList", name := "iterator", desc := "()Ljava/util/Iterator;" } : Jvm.MethodName)) ∈ lw_all := lw_g (lw_at lw_m1 149 rfl) rfl
theorem q262 : (Jvm.Cond.interfaceEntry "Vaultyard" (88 : Nat)) ∈ lw_tbl := lw_at lw_m1 172 rfl
theorem q263 : (Jvm.Cond.methodLink "Vaultyard" (88 : Nat) ({ cls := "java/util/Iterator", name := "hasNext", desc := "()Z" } : Jvm.MethodName)) ∈ lw_all := lw_g (lw_at lw_m1 173 rfl) rfl
theorem q302 : (Jvm.Cond.interfaceEntry "Vaultyard" (94 : Nat)) ∈ lw_tbl := lw_at lw_m1 212 rfl
theorem q303 : (Jvm.Cond.methodLink "Vaultyard" (94 : Nat) ({ cls := "java/util/Iterator", name := "next", desc := "()Ljava/lang/Object;" } : Jvm.MethodName)) ∈ lw_all := lw_g (lw_at lw_m1 213 rfl) rfl
theorem q743 : (Jvm.Cond.classLink "Vaultyard" (76 : Nat) "Vaultyard$Thing") ∈ lw_all := lw_g (lw_at lw_m3 173 rfl) rfl
theorem q744 : (Jvm.Cond.constantLong "Vaultyard" (515 : Nat) (31 : Int64)) ∈ lw_all := lw_g (lw_at lw_m3 174 rfl) rfl
theorem q745 : (Jvm.Cond.methodLinkNest "Vaultyard" (201 : Nat) ({ cls := "Vaultyard$Thing", name := "where", desc := "()C" } : Jvm.MethodName) "Vaultyard") ∈ lw_tbl := lw_at lw_m3 175 rfl
theorem q746 : (Jvm.Cond.methodLink "Vaultyard" (62 : Nat) ({ cls := "java/util/ArrayList", name := "size", desc := "()I" } : Jvm.MethodName)) ∈ lw_all := lw_g (lw_at lw_m3 176 rfl) rfl
theorem q747 : (Jvm.Cond.classLink "Vaultyard" (269 : Nat) "Vaultyard$Fund") ∈ lw_all := lw_g (lw_at lw_m3 177 rfl) rfl
theorem q749 : (Jvm.Cond.instanceMethod ({ cls := "Vaultyard", name := "isSound", desc := "()Z" } : Jvm.MethodName)) ∈ lw_all := lw_g (lw_at lw_m3 179 rfl) rfl
theorem q750 : (Jvm.Cond.selects "Vaultyard" ({ cls := "Vaultyard", name := "isSound", desc := "()Z" } : Jvm.MethodName) ({ cls := "Vaultyard", name := "isSound", desc := "()Z" } : Jvm.MethodName)) ∈ lw_all := lw_g (lw_at lw_m3 180 rfl) rfl
theorem q751 : (Jvm.Cond.code ({ cls := "Vaultyard", name := "isSound", desc := "()Z" } : Jvm.MethodName) prog_1_method_89_code (4 : Nat) (Option.some Jvm.ClassFile.FieldType.boolean)) ∈ lw_all := lw_g (lw_at lw_m3 181 rfl) rfl
theorem q752 : (Jvm.Cond.methodLink "Vaultyard" (520 : Nat) ({ cls := "Vaultyard", name := "isTold", desc := "(LVaultyard$Thing;)Z" } : Jvm.MethodName)) ∈ lw_all := lw_g (lw_at lw_m3 182 rfl) rfl
theorem q753 : (Jvm.Cond.privateMethod ({ cls := "Vaultyard", name := "isTold", desc := "(LVaultyard$Thing;)Z" } : Jvm.MethodName)) ∈ lw_tbl := lw_at lw_m3 183 rfl
theorem q754 : (Jvm.Cond.instanceMethod ({ cls := "Vaultyard", name := "isTold", desc := "(LVaultyard$Thing;)Z" } : Jvm.MethodName)) ∈ lw_all := lw_g (lw_at lw_m3 184 rfl) rfl
theorem q755 : (Jvm.Cond.code ({ cls := "Vaultyard", name := "isTold", desc := "(LVaultyard$Thing;)Z" } : Jvm.MethodName) prog_1_method_90_code (6 : Nat) (Option.some Jvm.ClassFile.FieldType.boolean)) ∈ lw_all := lw_g (lw_at lw_m3 185 rfl) rfl
theorem q756 : (Jvm.Cond.classLink "Vaultyard" (229 : Nat) "Vaultyard$Entry") ∈ lw_all := lw_g (lw_at lw_m3 186 rfl) rfl
theorem q757 : (Jvm.Cond.methodLink "Vaultyard" (233 : Nat) ({ cls := "Vaultyard$Entry", name := "letter", desc := "()C" } : Jvm.MethodName)) ∈ lw_all := lw_g (lw_at lw_m3 187 rfl) rfl
theorem q761 : (Jvm.Cond.methodLink "Vaultyard" (236 : Nat) ({ cls := "Vaultyard$Entry", name := "amount", desc := "()I" } : Jvm.MethodName)) ∈ lw_all := lw_g (lw_at lw_m3 191 rfl) rfl
theorem q765 : (Jvm.Cond.classLink "Vaultyard" (74 : Nat) "Vaultyard$Room") ∈ lw_all := lw_g (lw_at lw_m3 195 rfl) rfl
theorem q766 : (Jvm.Cond.methodLink "Vaultyard" (108 : Nat) ({ cls := "Vaultyard", name := "taken", desc := "(LVaultyard$Room;)I" } : Jvm.MethodName)) ∈ lw_all := lw_g (lw_at lw_m3 196 rfl) rfl
theorem q767 : (Jvm.Cond.privateMethod ({ cls := "Vaultyard", name := "taken", desc := "(LVaultyard$Room;)I" } : Jvm.MethodName)) ∈ lw_tbl := lw_at lw_m3 197 rfl
theorem q768 : (Jvm.Cond.instanceMethod ({ cls := "Vaultyard", name := "taken", desc := "(LVaultyard$Room;)I" } : Jvm.MethodName)) ∈ lw_all := lw_g (lw_at lw_m3 198 rfl) rfl
theorem q769 : (Jvm.Cond.code ({ cls := "Vaultyard", name := "taken", desc := "(LVaultyard$Room;)I" } : Jvm.MethodName) prog_1_method_12_code (5 : Nat) (Option.some Jvm.ClassFile.FieldType.int)) ∈ lw_all := lw_g (lw_at lw_m3 199 rfl) rfl
theorem q770 : (Jvm.Cond.methodLinkNest "Vaultyard" (102 : Nat) ({ cls := "Vaultyard$Thing", name := "isIn", desc := "(LVaultyard$Room;)Z" } : Jvm.MethodName) "Vaultyard") ∈ lw_tbl := lw_at lw_m3 200 rfl
theorem q771 : (Jvm.Cond.classLink "Vaultyard" (78 : Nat) "Vaultyard$Box") ∈ lw_all := lw_g (lw_at lw_m3 201 rfl) rfl
theorem q772 : (Jvm.Cond.methodLink "Vaultyard" (403 : Nat) ({ cls := "Vaultyard", name := "filled", desc := "(LVaultyard$Box;)I" } : Jvm.MethodName)) ∈ lw_all := lw_g (lw_at lw_m3 202 rfl) rfl
theorem q773 : (Jvm.Cond.privateMethod ({ cls := "Vaultyard", name := "filled", desc := "(LVaultyard$Box;)I" } : Jvm.MethodName)) ∈ lw_tbl := lw_at lw_m3 203 rfl
theorem q774 : (Jvm.Cond.instanceMethod ({ cls := "Vaultyard", name := "filled", desc := "(LVaultyard$Box;)I" } : Jvm.MethodName)) ∈ lw_all := lw_g (lw_at lw_m3 204 rfl) rfl
theorem q775 : (Jvm.Cond.code ({ cls := "Vaultyard", name := "filled", desc := "(LVaultyard$Box;)I" } : Jvm.MethodName) prog_1_method_14_code (5 : Nat) (Option.some Jvm.ClassFile.FieldType.int)) ∈ lw_all := lw_g (lw_at lw_m3 205 rfl) rfl
theorem q782 : (Jvm.Cond.instanceMethod ({ cls := "Vaultyard", name := "material", desc := "(IIIIZ)I" } : Jvm.MethodName)) ∈ lw_all := lw_g (lw_at lw_m3 212 rfl) rfl
theorem q783 : (Jvm.Cond.selects "Vaultyard" ({ cls := "Vaultyard", name := "material", desc := "(IIIIZ)I" } : Jvm.MethodName) ({ cls := "Vaultyard", name := "material", desc := "(IIIIZ)I" } : Jvm.MethodName)) ∈ lw_all := lw_g (lw_at lw_m3 213 rfl) rfl
theorem q784 : (Jvm.Cond.code ({ cls := "Vaultyard", name := "material", desc := "(IIIIZ)I" } : Jvm.MethodName) prog_1_method_17_code (6 : Nat) (Option.some Jvm.ClassFile.FieldType.int)) ∈ lw_all := lw_g (lw_at lw_m3 214 rfl) rfl
theorem q785 : (Jvm.Cond.methodLink "Vaultyard" (139 : Nat) ({ cls := "Vaultyard", name := "in", desc := "(III)Z" } : Jvm.MethodName)) ∈ lw_all := lw_g (lw_at lw_m3 215 rfl) rfl
theorem q786 : (Jvm.Cond.static ({ cls := "Vaultyard", name := "in", desc := "(III)Z" } : Jvm.MethodName)) ∈ lw_all := lw_g (lw_at lw_m3 216 rfl) rfl
theorem q787 : (Jvm.Cond.code ({ cls := "Vaultyard", name := "in", desc := "(III)Z" } : Jvm.MethodName) prog_1_method_7_code (3 : Nat) (Option.some Jvm.ClassFile.FieldType.boolean)) ∈ lw_all := lw_g (lw_at lw_m3 217 rfl) rfl
theorem q788 : (Jvm.Cond.methodLink "Vaultyard" (135 : Nat) ({ cls := "Vaultyard", name := "fits", desc := "(Z)V" } : Jvm.MethodName)) ∈ lw_all := lw_g (lw_at lw_m3 218 rfl) rfl
theorem q789 : (Jvm.Cond.static ({ cls := "Vaultyard", name := "fits", desc := "(Z)V" } : Jvm.MethodName)) ∈ lw_all := lw_g (lw_at lw_m3 219 rfl) rfl
theorem q790 : (Jvm.Cond.code ({ cls := "Vaultyard", name := "fits", desc := "(Z)V" } : Jvm.MethodName) prog_1_method_3_code (1 : Nat) (Option.none : Option Jvm.ClassFile.FieldType)) ∈ lw_all := lw_g (lw_at lw_m3 220 rfl) rfl
theorem q791 : (Jvm.Cond.classLink "Vaultyard" (50 : Nat) "java/lang/IllegalArgumentException") ∈ lw_all := lw_g (lw_at lw_m3 221 rfl) rfl
theorem q792 : (Jvm.Cond.methodLink "Vaultyard" (52 : Nat) ({ cls := "java/lang/IllegalArgumentException", name := "<init>", desc := "()V" } : Jvm.MethodName)) ∈ lw_all := lw_g (lw_at lw_m3 222 rfl) rfl
theorem q796 : (Jvm.Cond.methodLink "Vaultyard" (143 : Nat) ({ cls := "Vaultyard", name := "ready", desc := "(Z)V" } : Jvm.MethodName)) ∈ lw_all := lw_g (lw_at lw_m3 226 rfl) rfl
theorem q797 : (Jvm.Cond.static ({ cls := "Vaultyard", name := "ready", desc := "(Z)V" } : Jvm.MethodName)) ∈ lw_all := lw_g (lw_at lw_m3 227 rfl) rfl
theorem q798 : (Jvm.Cond.code ({ cls := "Vaultyard", name := "ready", desc := "(Z)V" } : Jvm.MethodName) prog_1_method_4_code (1 : Nat) (Option.none : Option Jvm.ClassFile.FieldType)) ∈ lw_all := lw_g (lw_at lw_m3 228 rfl) rfl
theorem q799 : (Jvm.Cond.classLink "Vaultyard" (53 : Nat) "java/lang/IllegalStateException") ∈ lw_all := lw_g (lw_at lw_m3 229 rfl) rfl
theorem q808 : (Jvm.Cond.methodLink "Vaultyard" (55 : Nat) ({ cls := "java/lang/IllegalStateException", name := "<init>", desc := "()V" } : Jvm.MethodName)) ∈ lw_all := lw_g (lw_at lw_m3 238 rfl) rfl
theorem q814 : (Jvm.Cond.classLink "Vaultyard" (146 : Nat) "Vaultyard$Material") ∈ lw_all := lw_g (lw_at lw_m4 4 rfl) rfl
theorem q816 : (Jvm.Cond.methodLinkNest "Vaultyard" (148 : Nat) ({ cls := "Vaultyard$Material", name := "<init>", desc := "(IIIIZ)V" } : Jvm.MethodName) "Vaultyard") ∈ lw_tbl := lw_at lw_m4 6 rfl
theorem q839 : (Jvm.Cond.methodLink "Vaultyard" (131 : Nat) ({ cls := "java/util/ArrayList", name := "add", desc := "(Ljava/lang/Object;)Z" } : Jvm.MethodName)) ∈ lw_all := lw_g (lw_at lw_m4 29 rfl) rfl
theorem q862 : (Jvm.Cond.selects "Vaultyard" ({ cls := "java/lang/Object", name := "getClass", desc := "()Ljava/lang/Class;" } : Jvm.MethodName) ({ cls := "java/lang/Object", name := "getClass", desc := "()Ljava/lang/Class;" } : Jvm.MethodName)) ∈ lw_all := lw_g (lw_at lw_m4 52 rfl) rfl
theorem q910 : (Jvm.Cond.instanceMethod ({ cls := "Vaultyard", name := "room", desc := "(III)I" } : Jvm.MethodName)) ∈ lw_all := lw_g (lw_at lw_m4 100 rfl) rfl
theorem q911 : (Jvm.Cond.selects "Vaultyard" ({ cls := "Vaultyard", name := "room", desc := "(III)I" } : Jvm.MethodName) ({ cls := "Vaultyard", name := "room", desc := "(III)I" } : Jvm.MethodName)) ∈ lw_all := lw_g (lw_at lw_m4 101 rfl) rfl
theorem q912 : (Jvm.Cond.code ({ cls := "Vaultyard", name := "room", desc := "(III)I" } : Jvm.MethodName) prog_1_method_19_code (4 : Nat) (Option.some Jvm.ClassFile.FieldType.int)) ∈ lw_all := lw_g (lw_at lw_m4 102 rfl) rfl
theorem q913 : (Jvm.Cond.methodLink "Vaultyard" (151 : Nat) ({ cls := "Vaultyard", name := "isClimate", desc := "(II)Z" } : Jvm.MethodName)) ∈ lw_all := lw_g (lw_at lw_m4 103 rfl) rfl
theorem q914 : (Jvm.Cond.static ({ cls := "Vaultyard", name := "isClimate", desc := "(II)Z" } : Jvm.MethodName)) ∈ lw_all := lw_g (lw_at lw_m4 104 rfl) rfl
theorem q915 : (Jvm.Cond.code ({ cls := "Vaultyard", name := "isClimate", desc := "(II)Z" } : Jvm.MethodName) prog_1_method_18_code (2 : Nat) (Option.some Jvm.ClassFile.FieldType.boolean)) ∈ lw_all := lw_g (lw_at lw_m4 105 rfl) rfl
theorem q917 : (Jvm.Cond.methodLink "Vaultyard" (155 : Nat) ({ cls := "Vaultyard$Room", name := "<init>", desc := "(IIII)V" } : Jvm.MethodName)) ∈ lw_all := lw_g (lw_at lw_m4 107 rfl) rfl
theorem q923 : (Jvm.Cond.fieldLinkNest "Vaultyard" (212 : Nat) "Vaultyard$Room" "number" "I" "Vaultyard") ∈ lw_tbl := lw_at lw_m4 113 rfl
theorem q925 : (Jvm.Cond.fieldLinkNest "Vaultyard" (112 : Nat) "Vaultyard$Room" "sizes" "I" "Vaultyard") ∈ lw_tbl := lw_at lw_m4 115 rfl
theorem q928 : (Jvm.Cond.fieldLinkNest "Vaultyard" (162 : Nat) "Vaultyard$Room" "light" "I" "Vaultyard") ∈ lw_tbl := lw_at lw_m4 118 rfl
theorem q931 : (Jvm.Cond.fieldLinkNest "Vaultyard" (165 : Nat) "Vaultyard$Room" "humidity" "I" "Vaultyard") ∈ lw_tbl := lw_at lw_m4 121 rfl
theorem q933 : (Jvm.Cond.fieldLinkNest "Vaultyard" (168 : Nat) "Vaultyard$Room" "pests" "I" "Vaultyard") ∈ lw_tbl := lw_at lw_m4 123 rfl
theorem q935 : (Jvm.Cond.fieldLinkNest "Vaultyard" (239 : Nat) "Vaultyard$Room" "limit" "I" "Vaultyard") ∈ lw_tbl := lw_at lw_m4 125 rfl
theorem q936 : (Jvm.Cond.fieldLinkNest "Vaultyard" (248 : Nat) "Vaultyard$Room" "alarms" "I" "Vaultyard") ∈ lw_tbl := lw_at lw_m4 126 rfl
theorem q972 : (Jvm.Cond.instanceMethod ({ cls := "Vaultyard", name := "climate", desc := "(III)I" } : Jvm.MethodName)) ∈ lw_all := lw_g (lw_at lw_m4 162 rfl) rfl
theorem q973 : (Jvm.Cond.selects "Vaultyard" ({ cls := "Vaultyard", name := "climate", desc := "(III)I" } : Jvm.MethodName) ({ cls := "Vaultyard", name := "climate", desc := "(III)I" } : Jvm.MethodName)) ∈ lw_all := lw_g (lw_at lw_m4 163 rfl) rfl
theorem q974 : (Jvm.Cond.code ({ cls := "Vaultyard", name := "climate", desc := "(III)I" } : Jvm.MethodName) prog_1_method_20_code (6 : Nat) (Option.some Jvm.ClassFile.FieldType.int)) ∈ lw_all := lw_g (lw_at lw_m4 164 rfl) rfl
theorem q975 : (Jvm.Cond.methodLink "Vaultyard" (158 : Nat) ({ cls := "Vaultyard", name := "roomAt", desc := "(I)LVaultyard$Room;" } : Jvm.MethodName)) ∈ lw_all := lw_g (lw_at lw_m4 165 rfl) rfl
theorem q976 : (Jvm.Cond.privateMethod ({ cls := "Vaultyard", name := "roomAt", desc := "(I)LVaultyard$Room;" } : Jvm.MethodName)) ∈ lw_tbl := lw_at lw_m4 166 rfl
theorem q977 : (Jvm.Cond.instanceMethod ({ cls := "Vaultyard", name := "roomAt", desc := "(I)LVaultyard$Room;" } : Jvm.MethodName)) ∈ lw_all := lw_g (lw_at lw_m4 167 rfl) rfl
theorem q978 : (Jvm.Cond.code ({ cls := "Vaultyard", name := "roomAt", desc := "(I)LVaultyard$Room;" } : Jvm.MethodName) prog_1_method_8_code (2 : Nat) (Option.some (Jvm.ClassFile.FieldType.object "Vaultyard$Room"))) ∈ lw_all := lw_g (lw_at lw_m4 168 rfl) rfl
theorem q979 : (Jvm.Cond.methodLink "Vaultyard" (66 : Nat) ({ cls := "Vaultyard", name := "within", desc := "(II)V" } : Jvm.MethodName)) ∈ lw_all := lw_g (lw_at lw_m4 169 rfl) rfl
theorem q980 : (Jvm.Cond.static ({ cls := "Vaultyard", name := "within", desc := "(II)V" } : Jvm.MethodName)) ∈ lw_all := lw_g (lw_at lw_m4 170 rfl) rfl
theorem q981 : (Jvm.Cond.code ({ cls := "Vaultyard", name := "within", desc := "(II)V" } : Jvm.MethodName) prog_1_method_2_code (2 : Nat) (Option.none : Option Jvm.ClassFile.FieldType)) ∈ lw_all := lw_g (lw_at lw_m4 171 rfl) rfl
theorem q982 : (Jvm.Cond.classLink "Vaultyard" (47 : Nat) "java/lang/IndexOutOfBoundsException") ∈ lw_all := lw_g (lw_at lw_m4 172 rfl) rfl
theorem q983 : (Jvm.Cond.methodLink "Vaultyard" (49 : Nat) ({ cls := "java/lang/IndexOutOfBoundsException", name := "<init>", desc := "()V" } : Jvm.MethodName)) ∈ lw_all := lw_g (lw_at lw_m4 173 rfl) rfl
theorem q987 : (Jvm.Cond.methodLink "Vaultyard" (70 : Nat) ({ cls := "java/util/ArrayList", name := "get", desc := "(I)Ljava/lang/Object;" } : Jvm.MethodName)) ∈ lw_all := lw_g (lw_at lw_m4 177 rfl) rfl
theorem q992 : (Jvm.Cond.instanceMethod ({ cls := "Vaultyard", name := "infest", desc := "(IIZ)Z" } : Jvm.MethodName)) ∈ lw_all := lw_g (lw_at lw_m4 182 rfl) rfl
theorem q993 : (Jvm.Cond.selects "Vaultyard" ({ cls := "Vaultyard", name := "infest", desc := "(IIZ)Z" } : Jvm.MethodName) ({ cls := "Vaultyard", name := "infest", desc := "(IIZ)Z" } : Jvm.MethodName)) ∈ lw_all := lw_g (lw_at lw_m4 183 rfl) rfl
theorem q994 : (Jvm.Cond.code ({ cls := "Vaultyard", name := "infest", desc := "(IIZ)Z" } : Jvm.MethodName) prog_1_method_21_code (6 : Nat) (Option.some Jvm.ClassFile.FieldType.boolean)) ∈ lw_all := lw_g (lw_at lw_m4 184 rfl) rfl
theorem q1000 : (Jvm.Cond.instanceMethod ({ cls := "Vaultyard", name := "thing", desc := "(IIII)I" } : Jvm.MethodName)) ∈ lw_all := lw_g (lw_at lw_m4 190 rfl) rfl
theorem q1001 : (Jvm.Cond.selects "Vaultyard" ({ cls := "Vaultyard", name := "thing", desc := "(IIII)I" } : Jvm.MethodName) ({ cls := "Vaultyard", name := "thing", desc := "(IIII)I" } : Jvm.MethodName)) ∈ lw_all := lw_g (lw_at lw_m4 191 rfl) rfl
theorem q1002 : (Jvm.Cond.code ({ cls := "Vaultyard", name := "thing", desc := "(IIII)I" } : Jvm.MethodName) prog_1_method_22_code (6 : Nat) (Option.some Jvm.ClassFile.FieldType.int)) ∈ lw_all := lw_g (lw_at lw_m4 192 rfl) rfl
theorem q1003 : (Jvm.Cond.constant "Vaultyard" (171 : Nat) (99999 : Int32)) ∈ lw_all := lw_g (lw_at lw_m4 193 rfl) rfl
theorem q1004 : (Jvm.Cond.methodLink "Vaultyard" (172 : Nat) ({ cls := "Vaultyard", name := "goesIn", desc := "(LVaultyard$Room;I)Z" } : Jvm.MethodName)) ∈ lw_all := lw_g (lw_at lw_m4 194 rfl) rfl
theorem q1005 : (Jvm.Cond.privateMethod ({ cls := "Vaultyard", name := "goesIn", desc := "(LVaultyard$Room;I)Z" } : Jvm.MethodName)) ∈ lw_tbl := lw_at lw_m4 195 rfl
theorem q1006 : (Jvm.Cond.instanceMethod ({ cls := "Vaultyard", name := "goesIn", desc := "(LVaultyard$Room;I)Z" } : Jvm.MethodName)) ∈ lw_all := lw_g (lw_at lw_m4 196 rfl) rfl
theorem q1007 : (Jvm.Cond.code ({ cls := "Vaultyard", name := "goesIn", desc := "(LVaultyard$Room;I)Z" } : Jvm.MethodName) prog_1_method_13_code (3 : Nat) (Option.some Jvm.ClassFile.FieldType.boolean)) ∈ lw_all := lw_g (lw_at lw_m4 197 rfl) rfl
theorem q1008 : (Jvm.Cond.methodLink "Vaultyard" (176 : Nat) ({ cls := "Vaultyard", name := "can", desc := "(Z)V" } : Jvm.MethodName)) ∈ lw_all := lw_g (lw_at lw_m4 198 rfl) rfl
theorem q1009 : (Jvm.Cond.static ({ cls := "Vaultyard", name := "can", desc := "(Z)V" } : Jvm.MethodName)) ∈ lw_all := lw_g (lw_at lw_m4 199 rfl) rfl
theorem q1010 : (Jvm.Cond.code ({ cls := "Vaultyard", name := "can", desc := "(Z)V" } : Jvm.MethodName) prog_1_method_5_code (1 : Nat) (Option.none : Option Jvm.ClassFile.FieldType)) ∈ lw_all := lw_g (lw_at lw_m4 200 rfl) rfl
theorem q1011 : (Jvm.Cond.classLink "Vaultyard" (56 : Nat) "java/lang/UnsupportedOperationException") ∈ lw_all := lw_g (lw_at lw_m4 201 rfl) rfl
theorem q1020 : (Jvm.Cond.methodLink "Vaultyard" (58 : Nat) ({ cls := "java/lang/UnsupportedOperationException", name := "<init>", desc := "()V" } : Jvm.MethodName)) ∈ lw_all := lw_g (lw_at lw_m4 210 rfl) rfl
theorem q1026 : (Jvm.Cond.methodLink "Vaultyard" (179 : Nat) ({ cls := "Vaultyard$Thing", name := "<init>", desc := "(LVaultyard;LVaultyard$Material;IILVaultyard$Thing;LVaultyard$Room;)V" } : Jvm.MethodName)) ∈ lw_all := lw_g (lw_at lw_m4 216 rfl) rfl
theorem q1056 : (Jvm.Cond.fieldLinkNest "Vaultyard" (128 : Nat) "Vaultyard$Thing" "number" "I" "Vaultyard") ∈ lw_tbl := lw_at lw_m5 6 rfl
theorem q1058 : (Jvm.Cond.fieldLinkNest "Vaultyard" (349 : Nat) "Vaultyard$Thing" "value" "I" "Vaultyard") ∈ lw_tbl := lw_at lw_m5 8 rfl
theorem q1060 : (Jvm.Cond.fieldLinkNest "Vaultyard" (106 : Nat) "Vaultyard$Thing" "size" "I" "Vaultyard") ∈ lw_tbl := lw_at lw_m5 10 rfl
theorem q1062 : (Jvm.Cond.fieldLinkNest "Vaultyard" (429 : Nat) "Vaultyard$Thing" "material" "LVaultyard$Material;" "Vaultyard") ∈ lw_tbl := lw_at lw_m5 12 rfl
theorem q1064 : (Jvm.Cond.fieldLinkNest "Vaultyard" (98 : Nat) "Vaultyard$Thing" "whole" "LVaultyard$Thing;" "Vaultyard") ∈ lw_tbl := lw_at lw_m5 14 rfl
theorem q1066 : (Jvm.Cond.fieldLinkNest "Vaultyard" (190 : Nat) "Vaultyard$Thing" "parts" "Ljava/util/ArrayList;" "Vaultyard") ∈ lw_tbl := lw_at lw_m5 16 rfl
theorem q1068 : (Jvm.Cond.fieldLinkNest "Vaultyard" (226 : Nat) "Vaultyard$Thing" "journal" "Ljava/util/ArrayList;" "Vaultyard") ∈ lw_tbl := lw_at lw_m5 18 rfl
theorem q1070 : (Jvm.Cond.fieldLinkNest "Vaultyard" (356 : Nat) "Vaultyard$Thing" "chain" "Ljava/util/ArrayList;" "Vaultyard") ∈ lw_tbl := lw_at lw_m5 20 rfl
theorem q1072 : (Jvm.Cond.fieldLinkNest "Vaultyard" (115 : Nat) "Vaultyard$Thing" "place" "C" "Vaultyard") ∈ lw_tbl := lw_at lw_m5 22 rfl
theorem q1074 : (Jvm.Cond.fieldLinkNest "Vaultyard" (193 : Nat) "Vaultyard$Thing" "room" "LVaultyard$Room;" "Vaultyard") ∈ lw_tbl := lw_at lw_m5 24 rfl
theorem q1075 : (Jvm.Cond.fieldLinkNest "Vaultyard" (119 : Nat) "Vaultyard$Thing" "box" "LVaultyard$Box;" "Vaultyard") ∈ lw_tbl := lw_at lw_m5 25 rfl
theorem q1077 : (Jvm.Cond.fieldLinkNest "Vaultyard" (216 : Nat) "Vaultyard$Thing" "back" "I" "Vaultyard") ∈ lw_tbl := lw_at lw_m5 27 rfl
theorem q1079 : (Jvm.Cond.fieldLinkNest "Vaultyard" (219 : Nat) "Vaultyard$Thing" "light" "I" "Vaultyard") ∈ lw_tbl := lw_at lw_m5 29 rfl
theorem q1082 : (Jvm.Cond.fieldLinkNest "Vaultyard" (223 : Nat) "Vaultyard$Thing" "damage" "I" "Vaultyard") ∈ lw_tbl := lw_at lw_m5 32 rfl
theorem q1084 : (Jvm.Cond.fieldLinkNest "Vaultyard" (379 : Nat) "Vaultyard$Thing" "done" "I" "Vaultyard") ∈ lw_tbl := lw_at lw_m5 34 rfl
theorem q1085 : (Jvm.Cond.fieldLinkNest "Vaultyard" (439 : Nat) "Vaultyard$Thing" "tests" "I" "Vaultyard") ∈ lw_tbl := lw_at lw_m5 35 rfl
theorem q1086 : (Jvm.Cond.fieldLinkNest "Vaultyard" (258 : Nat) "Vaultyard$Thing" "hasCase" "Z" "Vaultyard") ∈ lw_tbl := lw_at lw_m5 36 rfl
theorem q1088 : (Jvm.Cond.fieldLinkNest "Vaultyard" (442 : Nat) "Vaultyard$Thing" "genuine" "J" "Vaultyard") ∈ lw_tbl := lw_at lw_m5 38 rfl
theorem q1090 : (Jvm.Cond.fieldLinkNest "Vaultyard" (446 : Nat) "Vaultyard$Thing" "fake" "J" "Vaultyard") ∈ lw_tbl := lw_at lw_m5 40 rfl
theorem q1139 : (Jvm.Cond.instanceMethod ({ cls := "Vaultyard", name := "part", desc := "(III)I" } : Jvm.MethodName)) ∈ lw_all := lw_g (lw_at lw_m5 89 rfl) rfl
theorem q1140 : (Jvm.Cond.selects "Vaultyard" ({ cls := "Vaultyard", name := "part", desc := "(III)I" } : Jvm.MethodName) ({ cls := "Vaultyard", name := "part", desc := "(III)I" } : Jvm.MethodName)) ∈ lw_all := lw_g (lw_at lw_m5 90 rfl) rfl
theorem q1141 : (Jvm.Cond.code ({ cls := "Vaultyard", name := "part", desc := "(III)I" } : Jvm.MethodName) prog_1_method_23_code (6 : Nat) (Option.some Jvm.ClassFile.FieldType.int)) ∈ lw_all := lw_g (lw_at lw_m5 91 rfl) rfl
theorem q1142 : (Jvm.Cond.methodLink "Vaultyard" (182 : Nat) ({ cls := "Vaultyard", name := "thingAt", desc := "(I)LVaultyard$Thing;" } : Jvm.MethodName)) ∈ lw_all := lw_g (lw_at lw_m5 92 rfl) rfl
theorem q1143 : (Jvm.Cond.privateMethod ({ cls := "Vaultyard", name := "thingAt", desc := "(I)LVaultyard$Thing;" } : Jvm.MethodName)) ∈ lw_tbl := lw_at lw_m5 93 rfl
theorem q1144 : (Jvm.Cond.instanceMethod ({ cls := "Vaultyard", name := "thingAt", desc := "(I)LVaultyard$Thing;" } : Jvm.MethodName)) ∈ lw_all := lw_g (lw_at lw_m5 94 rfl) rfl
theorem q1145 : (Jvm.Cond.code ({ cls := "Vaultyard", name := "thingAt", desc := "(I)LVaultyard$Thing;" } : Jvm.MethodName) prog_1_method_9_code (2 : Nat) (Option.some (Jvm.ClassFile.FieldType.object "Vaultyard$Thing"))) ∈ lw_all := lw_g (lw_at lw_m5 95 rfl) rfl
theorem q1146 : (Jvm.Cond.methodLinkNest "Vaultyard" (186 : Nat) ({ cls := "Vaultyard$Thing", name := "isWholeIn", desc := "(C)Z" } : Jvm.MethodName) "Vaultyard") ∈ lw_tbl := lw_at lw_m5 96 rfl
theorem q1154 : (Jvm.Cond.instanceMethod ({ cls := "Vaultyard", name := "move", desc := "(II)I" } : Jvm.MethodName)) ∈ lw_all := lw_g (lw_at lw_m5 104 rfl) rfl
theorem q1155 : (Jvm.Cond.selects "Vaultyard" ({ cls := "Vaultyard", name := "move", desc := "(II)I" } : Jvm.MethodName) ({ cls := "Vaultyard", name := "move", desc := "(II)I" } : Jvm.MethodName)) ∈ lw_all := lw_g (lw_at lw_m5 105 rfl) rfl
theorem q1156 : (Jvm.Cond.code ({ cls := "Vaultyard", name := "move", desc := "(II)I" } : Jvm.MethodName) prog_1_method_24_code (5 : Nat) (Option.some Jvm.ClassFile.FieldType.int)) ∈ lw_all := lw_g (lw_at lw_m5 106 rfl) rfl
theorem q1157 : (Jvm.Cond.methodLinkNest "Vaultyard" (197 : Nat) ({ cls := "Vaultyard$Thing", name := "comes", desc := "(LVaultyard$Room;)V" } : Jvm.MethodName) "Vaultyard") ∈ lw_tbl := lw_at lw_m5 107 rfl
theorem q1170 : (Jvm.Cond.instanceMethod ({ cls := "Vaultyard", name := "place", desc := "(I)C" } : Jvm.MethodName)) ∈ lw_all := lw_g (lw_at lw_m5 120 rfl) rfl
theorem q1171 : (Jvm.Cond.selects "Vaultyard" ({ cls := "Vaultyard", name := "place", desc := "(I)C" } : Jvm.MethodName) ({ cls := "Vaultyard", name := "place", desc := "(I)C" } : Jvm.MethodName)) ∈ lw_all := lw_g (lw_at lw_m5 121 rfl) rfl
theorem q1172 : (Jvm.Cond.code ({ cls := "Vaultyard", name := "place", desc := "(I)C" } : Jvm.MethodName) prog_1_method_25_code (2 : Nat) (Option.some Jvm.ClassFile.FieldType.char)) ∈ lw_all := lw_g (lw_at lw_m5 122 rfl) rfl
theorem q1178 : (Jvm.Cond.instanceMethod ({ cls := "Vaultyard", name := "roomOf", desc := "(I)I" } : Jvm.MethodName)) ∈ lw_all := lw_g (lw_at lw_m5 128 rfl) rfl
theorem q1179 : (Jvm.Cond.selects "Vaultyard" ({ cls := "Vaultyard", name := "roomOf", desc := "(I)I" } : Jvm.MethodName) ({ cls := "Vaultyard", name := "roomOf", desc := "(I)I" } : Jvm.MethodName)) ∈ lw_all := lw_g (lw_at lw_m5 129 rfl) rfl
theorem q1180 : (Jvm.Cond.code ({ cls := "Vaultyard", name := "roomOf", desc := "(I)I" } : Jvm.MethodName) prog_1_method_26_code (3 : Nat) (Option.some Jvm.ClassFile.FieldType.int)) ∈ lw_all := lw_g (lw_at lw_m5 130 rfl) rfl
theorem q1181 : (Jvm.Cond.methodLink "Vaultyard" (205 : Nat) ({ cls := "Vaultyard", name := "there", desc := "(Z)V" } : Jvm.MethodName)) ∈ lw_all := lw_g (lw_at lw_m5 131 rfl) rfl
theorem q1182 : (Jvm.Cond.static ({ cls := "Vaultyard", name := "there", desc := "(Z)V" } : Jvm.MethodName)) ∈ lw_all := lw_g (lw_at lw_m5 132 rfl) rfl
theorem q1183 : (Jvm.Cond.code ({ cls := "Vaultyard", name := "there", desc := "(Z)V" } : Jvm.MethodName) prog_1_method_6_code (1 : Nat) (Option.none : Option Jvm.ClassFile.FieldType)) ∈ lw_all := lw_g (lw_at lw_m5 133 rfl) rfl
theorem q1184 : (Jvm.Cond.classLink "Vaultyard" (59 : Nat) "java/util/NoSuchElementException") ∈ lw_all := lw_g (lw_at lw_m5 134 rfl) rfl
theorem q1185 : (Jvm.Cond.methodLink "Vaultyard" (61 : Nat) ({ cls := "java/util/NoSuchElementException", name := "<init>", desc := "()V" } : Jvm.MethodName)) ∈ lw_all := lw_g (lw_at lw_m5 135 rfl) rfl
theorem q1186 : (Jvm.Cond.methodLinkNest "Vaultyard" (208 : Nat) ({ cls := "Vaultyard$Thing", name := "all", desc := "()LVaultyard$Thing;" } : Jvm.MethodName) "Vaultyard") ∈ lw_tbl := lw_at lw_m5 136 rfl
theorem q1191 : (Jvm.Cond.instanceMethod ({ cls := "Vaultyard", name := "day", desc := "(I)I" } : Jvm.MethodName)) ∈ lw_all := lw_g (lw_at lw_m5 141 rfl) rfl
theorem q1192 : (Jvm.Cond.selects "Vaultyard" ({ cls := "Vaultyard", name := "day", desc := "(I)I" } : Jvm.MethodName) ({ cls := "Vaultyard", name := "day", desc := "(I)I" } : Jvm.MethodName)) ∈ lw_all := lw_g (lw_at lw_m5 142 rfl) rfl
theorem q1193 : (Jvm.Cond.code ({ cls := "Vaultyard", name := "day", desc := "(I)I" } : Jvm.MethodName) prog_1_method_27_code (5 : Nat) (Option.some Jvm.ClassFile.FieldType.int)) ∈ lw_all := lw_g (lw_at lw_m5 143 rfl) rfl
theorem q1194 : (Jvm.Cond.methodLinkNest "Vaultyard" (213 : Nat) ({ cls := "Vaultyard$Thing", name := "passes", desc := "()V" } : Jvm.MethodName) "Vaultyard") ∈ lw_tbl := lw_at lw_m5 144 rfl
theorem q1252 : (Jvm.Cond.instanceMethod ({ cls := "Vaultyard", name := "light", desc := "(I)I" } : Jvm.MethodName)) ∈ lw_all := lw_g (lw_at lw_m5 202 rfl) rfl
theorem q1253 : (Jvm.Cond.selects "Vaultyard" ({ cls := "Vaultyard", name := "light", desc := "(I)I" } : Jvm.MethodName) ({ cls := "Vaultyard", name := "light", desc := "(I)I" } : Jvm.MethodName)) ∈ lw_all := lw_g (lw_at lw_m5 203 rfl) rfl
theorem q1254 : (Jvm.Cond.code ({ cls := "Vaultyard", name := "light", desc := "(I)I" } : Jvm.MethodName) prog_1_method_29_code (2 : Nat) (Option.some Jvm.ClassFile.FieldType.int)) ∈ lw_all := lw_g (lw_at lw_m5 204 rfl) rfl
theorem q1259 : (Jvm.Cond.instanceMethod ({ cls := "Vaultyard", name := "damage", desc := "(I)I" } : Jvm.MethodName)) ∈ lw_all := lw_g (lw_at lw_m5 209 rfl) rfl
theorem q1260 : (Jvm.Cond.selects "Vaultyard" ({ cls := "Vaultyard", name := "damage", desc := "(I)I" } : Jvm.MethodName) ({ cls := "Vaultyard", name := "damage", desc := "(I)I" } : Jvm.MethodName)) ∈ lw_all := lw_g (lw_at lw_m5 210 rfl) rfl
theorem q1261 : (Jvm.Cond.code ({ cls := "Vaultyard", name := "damage", desc := "(I)I" } : Jvm.MethodName) prog_1_method_30_code (2 : Nat) (Option.some Jvm.ClassFile.FieldType.int)) ∈ lw_all := lw_g (lw_at lw_m5 211 rfl) rfl
theorem q1266 : (Jvm.Cond.instanceMethod ({ cls := "Vaultyard", name := "journal", desc := "(I)I" } : Jvm.MethodName)) ∈ lw_all := lw_g (lw_at lw_m5 216 rfl) rfl
theorem q1267 : (Jvm.Cond.selects "Vaultyard" ({ cls := "Vaultyard", name := "journal", desc := "(I)I" } : Jvm.MethodName) ({ cls := "Vaultyard", name := "journal", desc := "(I)I" } : Jvm.MethodName)) ∈ lw_all := lw_g (lw_at lw_m5 217 rfl) rfl
theorem q1268 : (Jvm.Cond.code ({ cls := "Vaultyard", name := "journal", desc := "(I)I" } : Jvm.MethodName) prog_1_method_31_code (2 : Nat) (Option.some Jvm.ClassFile.FieldType.int)) ∈ lw_all := lw_g (lw_at lw_m5 218 rfl) rfl
theorem q1273 : (Jvm.Cond.instanceMethod ({ cls := "Vaultyard", name := "entry", desc := "(IIC)I" } : Jvm.MethodName)) ∈ lw_all := lw_g (lw_at lw_m5 223 rfl) rfl
theorem q1274 : (Jvm.Cond.selects "Vaultyard" ({ cls := "Vaultyard", name := "entry", desc := "(IIC)I" } : Jvm.MethodName) ({ cls := "Vaultyard", name := "entry", desc := "(IIC)I" } : Jvm.MethodName)) ∈ lw_all := lw_g (lw_at lw_m5 224 rfl) rfl
theorem q1275 : (Jvm.Cond.code ({ cls := "Vaultyard", name := "entry", desc := "(IIC)I" } : Jvm.MethodName) prog_1_method_32_code (6 : Nat) (Option.some Jvm.ClassFile.FieldType.int)) ∈ lw_all := lw_g (lw_at lw_m5 225 rfl) rfl
theorem q1276 : (Jvm.Cond.methodLink "Vaultyard" (231 : Nat) ({ cls := "Vaultyard$Entry", name := "day", desc := "()I" } : Jvm.MethodName)) ∈ lw_all := lw_g (lw_at lw_m5 226 rfl) rfl
theorem q1284 : (Jvm.Cond.instanceMethod ({ cls := "Vaultyard", name := "visitors", desc := "(II)I" } : Jvm.MethodName)) ∈ lw_all := lw_g (lw_at lw_m5 234 rfl) rfl
theorem q1285 : (Jvm.Cond.selects "Vaultyard" ({ cls := "Vaultyard", name := "visitors", desc := "(II)I" } : Jvm.MethodName) ({ cls := "Vaultyard", name := "visitors", desc := "(II)I" } : Jvm.MethodName)) ∈ lw_all := lw_g (lw_at lw_m5 235 rfl) rfl
theorem q1286 : (Jvm.Cond.code ({ cls := "Vaultyard", name := "visitors", desc := "(II)I" } : Jvm.MethodName) prog_1_method_33_code (8 : Nat) (Option.some Jvm.ClassFile.FieldType.int)) ∈ lw_all := lw_g (lw_at lw_m5 236 rfl) rfl
theorem q1287 : (Jvm.Cond.methodLink "Vaultyard" (242 : Nat) ({ cls := "java/lang/Math", name := "max", desc := "(II)I" } : Jvm.MethodName)) ∈ lw_all := lw_g (lw_at lw_m5 237 rfl) rfl
theorem q1288 : (Jvm.Cond.methodLink "Vaultyard" (251 : Nat) ({ cls := "Vaultyard", name := "thingsIn", desc := "(LVaultyard$Room;)Ljava/lang/Iterable;" } : Jvm.MethodName)) ∈ lw_all := lw_g (lw_at lw_m5 238 rfl) rfl
theorem q1289 : (Jvm.Cond.privateMethod ({ cls := "Vaultyard", name := "thingsIn", desc := "(LVaultyard$Room;)Ljava/lang/Iterable;" } : Jvm.MethodName)) ∈ lw_tbl := lw_at lw_m5 239 rfl
theorem q1290 : (Jvm.Cond.instanceMethod ({ cls := "Vaultyard", name := "thingsIn", desc := "(LVaultyard$Room;)Ljava/lang/Iterable;" } : Jvm.MethodName)) ∈ lw_all := lw_g (lw_at lw_m6 0 rfl) rfl
theorem q1291 : (Jvm.Cond.code ({ cls := "Vaultyard", name := "thingsIn", desc := "(LVaultyard$Room;)Ljava/lang/Iterable;" } : Jvm.MethodName) prog_1_method_15_code (2 : Nat) (Option.some (Jvm.ClassFile.FieldType.object "java/lang/Iterable"))) ∈ lw_all := lw_g (lw_at lw_m6 1 rfl) rfl
theorem q1292 : (Jvm.Cond.classLink "Vaultyard" (123 : Nat) "Vaultyard$1") ∈ lw_all := lw_g (lw_at lw_m6 2 rfl) rfl
theorem q1294 : (Jvm.Cond.methodLink "Vaultyard" (125 : Nat) ({ cls := "Vaultyard$1", name := "<init>", desc := "(LVaultyard;Ljava/util/List;LVaultyard$Room;)V" } : Jvm.MethodName)) ∈ lw_all := lw_g (lw_at lw_m6 4 rfl) rfl
theorem q1312 : (Jvm.Cond.interfaceEntry "Vaultyard" (255 : Nat)) ∈ lw_tbl := lw_at lw_m6 22 rfl
theorem q1313 : (Jvm.Cond.methodLink "Vaultyard" (255 : Nat) ({ cls := "java/lang/Iterable", name := "iterator", desc := "()Ljava/util/Iterator;" } : Jvm.MethodName)) ∈ lw_all := lw_g (lw_at lw_m6 23 rfl) rfl
theorem q1363 : (Jvm.Cond.methodLinkNest "Vaultyard" (262 : Nat) ({ cls := "Vaultyard$Thing", name := "hurts", desc := "(CI)I" } : Jvm.MethodName) "Vaultyard") ∈ lw_tbl := lw_at lw_m6 73 rfl
theorem q1368 : (Jvm.Cond.instanceMethod ({ cls := "Vaultyard", name := "crowd", desc := "(II)I" } : Jvm.MethodName)) ∈ lw_all := lw_g (lw_at lw_m6 78 rfl) rfl
theorem q1369 : (Jvm.Cond.selects "Vaultyard" ({ cls := "Vaultyard", name := "crowd", desc := "(II)I" } : Jvm.MethodName) ({ cls := "Vaultyard", name := "crowd", desc := "(II)I" } : Jvm.MethodName)) ∈ lw_all := lw_g (lw_at lw_m6 79 rfl) rfl
theorem q1370 : (Jvm.Cond.code ({ cls := "Vaultyard", name := "crowd", desc := "(II)I" } : Jvm.MethodName) prog_1_method_34_code (5 : Nat) (Option.some Jvm.ClassFile.FieldType.int)) ∈ lw_all := lw_g (lw_at lw_m6 80 rfl) rfl
theorem q1375 : (Jvm.Cond.instanceMethod ({ cls := "Vaultyard", name := "alarms", desc := "(I)I" } : Jvm.MethodName)) ∈ lw_all := lw_g (lw_at lw_m6 85 rfl) rfl
theorem q1376 : (Jvm.Cond.selects "Vaultyard" ({ cls := "Vaultyard", name := "alarms", desc := "(I)I" } : Jvm.MethodName) ({ cls := "Vaultyard", name := "alarms", desc := "(I)I" } : Jvm.MethodName)) ∈ lw_all := lw_g (lw_at lw_m6 86 rfl) rfl
theorem q1377 : (Jvm.Cond.code ({ cls := "Vaultyard", name := "alarms", desc := "(I)I" } : Jvm.MethodName) prog_1_method_35_code (2 : Nat) (Option.some Jvm.ClassFile.FieldType.int)) ∈ lw_all := lw_g (lw_at lw_m6 87 rfl) rfl
theorem q1382 : (Jvm.Cond.instanceMethod ({ cls := "Vaultyard", name := "encase", desc := "(IZ)Z" } : Jvm.MethodName)) ∈ lw_all := lw_g (lw_at lw_m6 92 rfl) rfl
theorem q1383 : (Jvm.Cond.selects "Vaultyard" ({ cls := "Vaultyard", name := "encase", desc := "(IZ)Z" } : Jvm.MethodName) ({ cls := "Vaultyard", name := "encase", desc := "(IZ)Z" } : Jvm.MethodName)) ∈ lw_all := lw_g (lw_at lw_m6 93 rfl) rfl
theorem q1384 : (Jvm.Cond.code ({ cls := "Vaultyard", name := "encase", desc := "(IZ)Z" } : Jvm.MethodName) prog_1_method_36_code (5 : Nat) (Option.some Jvm.ClassFile.FieldType.boolean)) ∈ lw_all := lw_g (lw_at lw_m6 94 rfl) rfl
theorem q1389 : (Jvm.Cond.instanceMethod ({ cls := "Vaultyard", name := "lend", desc := "(III)I" } : Jvm.MethodName)) ∈ lw_all := lw_g (lw_at lw_m6 99 rfl) rfl
theorem q1390 : (Jvm.Cond.selects "Vaultyard" ({ cls := "Vaultyard", name := "lend", desc := "(III)I" } : Jvm.MethodName) ({ cls := "Vaultyard", name := "lend", desc := "(III)I" } : Jvm.MethodName)) ∈ lw_all := lw_g (lw_at lw_m6 100 rfl) rfl
theorem q1391 : (Jvm.Cond.code ({ cls := "Vaultyard", name := "lend", desc := "(III)I" } : Jvm.MethodName) prog_1_method_40_code (7 : Nat) (Option.some Jvm.ClassFile.FieldType.int)) ∈ lw_all := lw_g (lw_at lw_m6 101 rfl) rfl
theorem q1392 : (Jvm.Cond.methodLink "Vaultyard" (318 : Nat) ({ cls := "Vaultyard", name := "couriersAway", desc := "()I" } : Jvm.MethodName)) ∈ lw_all := lw_g (lw_at lw_m6 102 rfl) rfl
theorem q1393 : (Jvm.Cond.privateMethod ({ cls := "Vaultyard", name := "couriersAway", desc := "()I" } : Jvm.MethodName)) ∈ lw_tbl := lw_at lw_m6 103 rfl
theorem q1394 : (Jvm.Cond.instanceMethod ({ cls := "Vaultyard", name := "couriersAway", desc := "()I" } : Jvm.MethodName)) ∈ lw_all := lw_g (lw_at lw_m6 104 rfl) rfl
theorem q1395 : (Jvm.Cond.code ({ cls := "Vaultyard", name := "couriersAway", desc := "()I" } : Jvm.MethodName) prog_1_method_38_code (4 : Nat) (Option.some Jvm.ClassFile.FieldType.int)) ∈ lw_all := lw_g (lw_at lw_m6 105 rfl) rfl
theorem q1396 : (Jvm.Cond.classLink "Vaultyard" (305 : Nat) "Vaultyard$Loan") ∈ lw_all := lw_g (lw_at lw_m6 106 rfl) rfl
theorem q1397 : (Jvm.Cond.methodLink "Vaultyard" (321 : Nat) ({ cls := "Vaultyard", name := "premiumOf", desc := "(LVaultyard$Thing;I)I" } : Jvm.MethodName)) ∈ lw_all := lw_g (lw_at lw_m6 107 rfl) rfl
theorem q1398 : (Jvm.Cond.static ({ cls := "Vaultyard", name := "premiumOf", desc := "(LVaultyard$Thing;I)I" } : Jvm.MethodName)) ∈ lw_all := lw_g (lw_at lw_m6 108 rfl) rfl
theorem q1399 : (Jvm.Cond.code ({ cls := "Vaultyard", name := "premiumOf", desc := "(LVaultyard$Thing;I)I" } : Jvm.MethodName) prog_1_method_39_code (2 : Nat) (Option.some Jvm.ClassFile.FieldType.int)) ∈ lw_all := lw_g (lw_at lw_m6 109 rfl) rfl
theorem q1400 : (Jvm.Cond.methodLinkNest "Vaultyard" (310 : Nat) ({ cls := "Vaultyard$Thing", name := "worth", desc := "()I" } : Jvm.MethodName) "Vaultyard") ∈ lw_tbl := lw_at lw_m6 110 rfl
theorem q1410 : (Jvm.Cond.constantLong "Vaultyard" (313 : Nat) (1000 : Int64)) ∈ lw_all := lw_g (lw_at lw_m6 120 rfl) rfl
theorem q1411 : (Jvm.Cond.methodLink "Vaultyard" (315 : Nat) ({ cls := "java/lang/Math", name := "max", desc := "(JJ)J" } : Jvm.MethodName)) ∈ lw_all := lw_g (lw_at lw_m6 121 rfl) rfl
theorem q1414 : (Jvm.Cond.methodLink "Vaultyard" (325 : Nat) ({ cls := "Vaultyard", name := "payer", desc := "(II)LVaultyard$Fund;" } : Jvm.MethodName)) ∈ lw_all := lw_g (lw_at lw_m6 124 rfl) rfl
theorem q1415 : (Jvm.Cond.privateMethod ({ cls := "Vaultyard", name := "payer", desc := "(II)LVaultyard$Fund;" } : Jvm.MethodName)) ∈ lw_tbl := lw_at lw_m6 125 rfl
theorem q1416 : (Jvm.Cond.instanceMethod ({ cls := "Vaultyard", name := "payer", desc := "(II)LVaultyard$Fund;" } : Jvm.MethodName)) ∈ lw_all := lw_g (lw_at lw_m6 126 rfl) rfl
theorem q1417 : (Jvm.Cond.code ({ cls := "Vaultyard", name := "payer", desc := "(II)LVaultyard$Fund;" } : Jvm.MethodName) prog_1_method_37_code (6 : Nat) (Option.some (Jvm.ClassFile.FieldType.object "Vaultyard$Fund"))) ∈ lw_all := lw_g (lw_at lw_m6 127 rfl) rfl
theorem q1418 : (Jvm.Cond.classLink "Vaultyard" (266 : Nat) "Vaultyard$Least") ∈ lw_all := lw_g (lw_at lw_m6 128 rfl) rfl
theorem q1420 : (Jvm.Cond.methodLinkNest "Vaultyard" (268 : Nat) ({ cls := "Vaultyard$Least", name := "<init>", desc := "()V" } : Jvm.MethodName) "Vaultyard") ∈ lw_tbl := lw_at lw_m6 130 rfl
theorem q1426 : (Jvm.Cond.fieldLinkNest "Vaultyard" (301 : Nat) "Vaultyard$Least" "what" "Ljava/lang/Object;" "Vaultyard") ∈ lw_tbl := lw_at lw_m6 136 rfl
theorem q1432 : (Jvm.Cond.methodLinkNest "Vaultyard" (271 : Nat) ({ cls := "Vaultyard$Fund", name := "isFor", desc := "(I)Z" } : Jvm.MethodName) "Vaultyard") ∈ lw_tbl := lw_at lw_m6 142 rfl
theorem q1437 : (Jvm.Cond.methodLink "Vaultyard" (281 : Nat) ({ cls := "java/lang/Integer", name := "bitCount", desc := "(I)I" } : Jvm.MethodName)) ∈ lw_all := lw_g (lw_at lw_m6 147 rfl) rfl
theorem q1438 : (Jvm.Cond.methodLink "Vaultyard" (287 : Nat) ({ cls := "java/lang/Integer", name := "valueOf", desc := "(I)Ljava/lang/Integer;" } : Jvm.MethodName)) ∈ lw_all := lw_g (lw_at lw_m6 148 rfl) rfl
theorem q1458 : (Jvm.Cond.methodLink "Vaultyard" (291 : Nat) ({ cls := "java/util/List", name := "of", desc := "(Ljava/lang/Object;Ljava/lang/Object;)Ljava/util/List;" } : Jvm.MethodName)) ∈ lw_all := lw_g (lw_at lw_m6 168 rfl) rfl
theorem q1483 : (Jvm.Cond.methodLinkNest "Vaultyard" (297 : Nat) ({ cls := "Vaultyard$Least", name := "offer", desc := "(Ljava/lang/Object;Ljava/util/List;)V" } : Jvm.MethodName) "Vaultyard") ∈ lw_tbl := lw_at lw_m6 193 rfl
theorem q1688 : (Jvm.Cond.methodLinkNest "Vaultyard" (329 : Nat) ({ cls := "Vaultyard$Thing", name := "goes", desc := "(CI)V" } : Jvm.MethodName) "Vaultyard") ∈ lw_tbl := lw_at lw_m7 158 rfl
theorem q1693 : (Jvm.Cond.methodLink "Vaultyard" (333 : Nat) ({ cls := "Vaultyard$Loan", name := "<init>", desc := "(LVaultyard$Thing;LVaultyard$Fund;II)V" } : Jvm.MethodName)) ∈ lw_all := lw_g (lw_at lw_m7 163 rfl) rfl
theorem q1698 : (Jvm.Cond.fieldLinkNest "Vaultyard" (346 : Nat) "Vaultyard$Loan" "thing" "LVaultyard$Thing;" "Vaultyard") ∈ lw_tbl := lw_at lw_m7 168 rfl
theorem q1700 : (Jvm.Cond.fieldLinkNest "Vaultyard" (352 : Nat) "Vaultyard$Loan" "fund" "LVaultyard$Fund;" "Vaultyard") ∈ lw_tbl := lw_at lw_m7 170 rfl
theorem q1702 : (Jvm.Cond.fieldLinkNest "Vaultyard" (307 : Nat) "Vaultyard$Loan" "went" "I" "Vaultyard") ∈ lw_tbl := lw_at lw_m7 172 rfl
theorem q1704 : (Jvm.Cond.fieldLinkNest "Vaultyard" (343 : Nat) "Vaultyard$Loan" "days" "I" "Vaultyard") ∈ lw_tbl := lw_at lw_m7 174 rfl
theorem q1705 : (Jvm.Cond.fieldLinkNest "Vaultyard" (340 : Nat) "Vaultyard$Loan" "isBack" "Z" "Vaultyard") ∈ lw_tbl := lw_at lw_m7 175 rfl
theorem q1721 : (Jvm.Cond.instanceMethod ({ cls := "Vaultyard", name := "premium", desc := "(II)I" } : Jvm.MethodName)) ∈ lw_all := lw_g (lw_at lw_m7 191 rfl) rfl
theorem q1722 : (Jvm.Cond.selects "Vaultyard" ({ cls := "Vaultyard", name := "premium", desc := "(II)I" } : Jvm.MethodName) ({ cls := "Vaultyard", name := "premium", desc := "(II)I" } : Jvm.MethodName)) ∈ lw_all := lw_g (lw_at lw_m7 192 rfl) rfl
theorem q1723 : (Jvm.Cond.code ({ cls := "Vaultyard", name := "premium", desc := "(II)I" } : Jvm.MethodName) prog_1_method_41_code (4 : Nat) (Option.some Jvm.ClassFile.FieldType.int)) ∈ lw_all := lw_g (lw_at lw_m7 193 rfl) rfl
theorem q1728 : (Jvm.Cond.instanceMethod ({ cls := "Vaultyard", name := "isLate", desc := "(I)Z" } : Jvm.MethodName)) ∈ lw_all := lw_g (lw_at lw_m7 198 rfl) rfl
theorem q1729 : (Jvm.Cond.selects "Vaultyard" ({ cls := "Vaultyard", name := "isLate", desc := "(I)Z" } : Jvm.MethodName) ({ cls := "Vaultyard", name := "isLate", desc := "(I)Z" } : Jvm.MethodName)) ∈ lw_all := lw_g (lw_at lw_m7 199 rfl) rfl
theorem q1730 : (Jvm.Cond.code ({ cls := "Vaultyard", name := "isLate", desc := "(I)Z" } : Jvm.MethodName) prog_1_method_43_code (3 : Nat) (Option.some Jvm.ClassFile.FieldType.boolean)) ∈ lw_all := lw_g (lw_at lw_m7 200 rfl) rfl
theorem q1731 : (Jvm.Cond.methodLink "Vaultyard" (336 : Nat) ({ cls := "Vaultyard", name := "loanAt", desc := "(I)LVaultyard$Loan;" } : Jvm.MethodName)) ∈ lw_all := lw_g (lw_at lw_m7 201 rfl) rfl
theorem q1732 : (Jvm.Cond.privateMethod ({ cls := "Vaultyard", name := "loanAt", desc := "(I)LVaultyard$Loan;" } : Jvm.MethodName)) ∈ lw_tbl := lw_at lw_m7 202 rfl
theorem q1733 : (Jvm.Cond.instanceMethod ({ cls := "Vaultyard", name := "loanAt", desc := "(I)LVaultyard$Loan;" } : Jvm.MethodName)) ∈ lw_all := lw_g (lw_at lw_m7 203 rfl) rfl
theorem q1734 : (Jvm.Cond.code ({ cls := "Vaultyard", name := "loanAt", desc := "(I)LVaultyard$Loan;" } : Jvm.MethodName) prog_1_method_42_code (2 : Nat) (Option.some (Jvm.ClassFile.FieldType.object "Vaultyard$Loan"))) ∈ lw_all := lw_g (lw_at lw_m7 204 rfl) rfl
theorem q1739 : (Jvm.Cond.instanceMethod ({ cls := "Vaultyard", name := "back", desc := "(III)I" } : Jvm.MethodName)) ∈ lw_all := lw_g (lw_at lw_m7 209 rfl) rfl
theorem q1740 : (Jvm.Cond.selects "Vaultyard" ({ cls := "Vaultyard", name := "back", desc := "(III)I" } : Jvm.MethodName) ({ cls := "Vaultyard", name := "back", desc := "(III)I" } : Jvm.MethodName)) ∈ lw_all := lw_g (lw_at lw_m7 210 rfl) rfl
theorem q1741 : (Jvm.Cond.code ({ cls := "Vaultyard", name := "back", desc := "(III)I" } : Jvm.MethodName) prog_1_method_44_code (7 : Nat) (Option.some Jvm.ClassFile.FieldType.int)) ∈ lw_all := lw_g (lw_at lw_m7 211 rfl) rfl
theorem q1746 : (Jvm.Cond.instanceMethod ({ cls := "Vaultyard", name := "owner", desc := "(IIIIC)I" } : Jvm.MethodName)) ∈ lw_all := lw_g (lw_at lw_m7 216 rfl) rfl
theorem q1747 : (Jvm.Cond.selects "Vaultyard" ({ cls := "Vaultyard", name := "owner", desc := "(IIIIC)I" } : Jvm.MethodName) ({ cls := "Vaultyard", name := "owner", desc := "(IIIIC)I" } : Jvm.MethodName)) ∈ lw_all := lw_g (lw_at lw_m7 217 rfl) rfl
theorem q1748 : (Jvm.Cond.code ({ cls := "Vaultyard", name := "owner", desc := "(IIIIC)I" } : Jvm.MethodName) prog_1_method_45_code (7 : Nat) (Option.some Jvm.ClassFile.FieldType.int)) ∈ lw_all := lw_g (lw_at lw_m7 218 rfl) rfl
theorem q1749 : (Jvm.Cond.methodLink "Vaultyard" (359 : Nat) ({ cls := "java/util/ArrayList", name := "isEmpty", desc := "()Z" } : Jvm.MethodName)) ∈ lw_all := lw_g (lw_at lw_m7 219 rfl) rfl
theorem q1753 : (Jvm.Cond.classLink "Vaultyard" (362 : Nat) "Vaultyard$Owner") ∈ lw_all := lw_g (lw_at lw_m7 223 rfl) rfl
theorem q1754 : (Jvm.Cond.methodLink "Vaultyard" (364 : Nat) ({ cls := "Vaultyard$Owner", name := "to", desc := "()I" } : Jvm.MethodName)) ∈ lw_all := lw_g (lw_at lw_m7 224 rfl) rfl
theorem q1759 : (Jvm.Cond.methodLinkNest "Vaultyard" (367 : Nat) ({ cls := "Vaultyard$Owner", name := "<init>", desc := "(IIIC)V" } : Jvm.MethodName) "Vaultyard") ∈ lw_tbl := lw_at lw_m7 229 rfl
theorem q1780 : (Jvm.Cond.instanceMethod ({ cls := "Vaultyard", name := "gaps", desc := "(I)I" } : Jvm.MethodName)) ∈ lw_all := lw_g (lw_at lw_m8 10 rfl) rfl
theorem q1781 : (Jvm.Cond.selects "Vaultyard" ({ cls := "Vaultyard", name := "gaps", desc := "(I)I" } : Jvm.MethodName) ({ cls := "Vaultyard", name := "gaps", desc := "(I)I" } : Jvm.MethodName)) ∈ lw_all := lw_g (lw_at lw_m8 11 rfl) rfl
theorem q1782 : (Jvm.Cond.code ({ cls := "Vaultyard", name := "gaps", desc := "(I)I" } : Jvm.MethodName) prog_1_method_46_code (5 : Nat) (Option.some Jvm.ClassFile.FieldType.int)) ∈ lw_all := lw_g (lw_at lw_m8 12 rfl) rfl
theorem q1783 : (Jvm.Cond.methodLink "Vaultyard" (370 : Nat) ({ cls := "Vaultyard$Owner", name := "from", desc := "()I" } : Jvm.MethodName)) ∈ lw_all := lw_g (lw_at lw_m8 13 rfl) rfl
theorem q1791 : (Jvm.Cond.instanceMethod ({ cls := "Vaultyard", name := "law", desc := "(II)I" } : Jvm.MethodName)) ∈ lw_all := lw_g (lw_at lw_m8 21 rfl) rfl
theorem q1792 : (Jvm.Cond.selects "Vaultyard" ({ cls := "Vaultyard", name := "law", desc := "(II)I" } : Jvm.MethodName) ({ cls := "Vaultyard", name := "law", desc := "(II)I" } : Jvm.MethodName)) ∈ lw_all := lw_g (lw_at lw_m8 22 rfl) rfl
theorem q1793 : (Jvm.Cond.code ({ cls := "Vaultyard", name := "law", desc := "(II)I" } : Jvm.MethodName) prog_1_method_47_code (4 : Nat) (Option.some Jvm.ClassFile.FieldType.int)) ∈ lw_all := lw_g (lw_at lw_m8 23 rfl) rfl
theorem q1798 : (Jvm.Cond.instanceMethod ({ cls := "Vaultyard", name := "claimant", desc := "(II)I" } : Jvm.MethodName)) ∈ lw_all := lw_g (lw_at lw_m8 28 rfl) rfl
theorem q1799 : (Jvm.Cond.selects "Vaultyard" ({ cls := "Vaultyard", name := "claimant", desc := "(II)I" } : Jvm.MethodName) ({ cls := "Vaultyard", name := "claimant", desc := "(II)I" } : Jvm.MethodName)) ∈ lw_all := lw_g (lw_at lw_m8 29 rfl) rfl
theorem q1800 : (Jvm.Cond.code ({ cls := "Vaultyard", name := "claimant", desc := "(II)I" } : Jvm.MethodName) prog_1_method_48_code (5 : Nat) (Option.some Jvm.ClassFile.FieldType.int)) ∈ lw_all := lw_g (lw_at lw_m8 30 rfl) rfl
theorem q1801 : (Jvm.Cond.methodLinkNest "Vaultyard" (373 : Nat) ({ cls := "Vaultyard$Thing", name := "claimant", desc := "(I)I" } : Jvm.MethodName) "Vaultyard") ∈ lw_tbl := lw_at lw_m8 31 rfl
theorem q1820 : (Jvm.Cond.instanceMethod ({ cls := "Vaultyard", name := "method", desc := "(IIII)I" } : Jvm.MethodName)) ∈ lw_all := lw_g (lw_at lw_m8 50 rfl) rfl
theorem q1821 : (Jvm.Cond.selects "Vaultyard" ({ cls := "Vaultyard", name := "method", desc := "(IIII)I" } : Jvm.MethodName) ({ cls := "Vaultyard", name := "method", desc := "(IIII)I" } : Jvm.MethodName)) ∈ lw_all := lw_g (lw_at lw_m8 51 rfl) rfl
theorem q1822 : (Jvm.Cond.code ({ cls := "Vaultyard", name := "method", desc := "(IIII)I" } : Jvm.MethodName) prog_1_method_49_code (5 : Nat) (Option.some Jvm.ClassFile.FieldType.int)) ∈ lw_all := lw_g (lw_at lw_m8 52 rfl) rfl
theorem q1823 : (Jvm.Cond.classLink "Vaultyard" (376 : Nat) "Vaultyard$Method") ∈ lw_all := lw_g (lw_at lw_m8 53 rfl) rfl
theorem q1825 : (Jvm.Cond.methodLinkNest "Vaultyard" (378 : Nat) ({ cls := "Vaultyard$Method", name := "<init>", desc := "(IIII)V" } : Jvm.MethodName) "Vaultyard") ∈ lw_tbl := lw_at lw_m8 55 rfl
theorem q1846 : (Jvm.Cond.instanceMethod ({ cls := "Vaultyard", name := "treat", desc := "(II)I" } : Jvm.MethodName)) ∈ lw_all := lw_g (lw_at lw_m8 76 rfl) rfl
theorem q1847 : (Jvm.Cond.selects "Vaultyard" ({ cls := "Vaultyard", name := "treat", desc := "(II)I" } : Jvm.MethodName) ({ cls := "Vaultyard", name := "treat", desc := "(II)I" } : Jvm.MethodName)) ∈ lw_all := lw_g (lw_at lw_m8 77 rfl) rfl
theorem q1848 : (Jvm.Cond.code ({ cls := "Vaultyard", name := "treat", desc := "(II)I" } : Jvm.MethodName) prog_1_method_51_code (6 : Nat) (Option.some Jvm.ClassFile.FieldType.int)) ∈ lw_all := lw_g (lw_at lw_m8 78 rfl) rfl
theorem q1849 : (Jvm.Cond.methodLink "Vaultyard" (385 : Nat) ({ cls := "Vaultyard$Method", name := "cost", desc := "()I" } : Jvm.MethodName)) ∈ lw_all := lw_g (lw_at lw_m8 79 rfl) rfl
theorem q1853 : (Jvm.Cond.methodLink "Vaultyard" (388 : Nat) ({ cls := "Vaultyard", name := "isForbidden", desc := "(LVaultyard$Thing;I)Z" } : Jvm.MethodName)) ∈ lw_all := lw_g (lw_at lw_m8 83 rfl) rfl
theorem q1854 : (Jvm.Cond.privateMethod ({ cls := "Vaultyard", name := "isForbidden", desc := "(LVaultyard$Thing;I)Z" } : Jvm.MethodName)) ∈ lw_tbl := lw_at lw_m8 84 rfl
theorem q1855 : (Jvm.Cond.instanceMethod ({ cls := "Vaultyard", name := "isForbidden", desc := "(LVaultyard$Thing;I)Z" } : Jvm.MethodName)) ∈ lw_all := lw_g (lw_at lw_m8 85 rfl) rfl
theorem q1856 : (Jvm.Cond.code ({ cls := "Vaultyard", name := "isForbidden", desc := "(LVaultyard$Thing;I)Z" } : Jvm.MethodName) prog_1_method_50_code (5 : Nat) (Option.some Jvm.ClassFile.FieldType.boolean)) ∈ lw_all := lw_g (lw_at lw_m8 86 rfl) rfl
theorem q1857 : (Jvm.Cond.methodLink "Vaultyard" (382 : Nat) ({ cls := "Vaultyard$Method", name := "forbids", desc := "()I" } : Jvm.MethodName)) ∈ lw_all := lw_g (lw_at lw_m8 87 rfl) rfl
theorem q1861 : (Jvm.Cond.methodLink "Vaultyard" (392 : Nat) ({ cls := "Vaultyard$Method", name := "days", desc := "()I" } : Jvm.MethodName)) ∈ lw_all := lw_g (lw_at lw_m8 91 rfl) rfl
theorem q1869 : (Jvm.Cond.instanceMethod ({ cls := "Vaultyard", name := "kept", desc := "(I)I" } : Jvm.MethodName)) ∈ lw_all := lw_g (lw_at lw_m8 99 rfl) rfl
theorem q1870 : (Jvm.Cond.selects "Vaultyard" ({ cls := "Vaultyard", name := "kept", desc := "(I)I" } : Jvm.MethodName) ({ cls := "Vaultyard", name := "kept", desc := "(I)I" } : Jvm.MethodName)) ∈ lw_all := lw_g (lw_at lw_m8 100 rfl) rfl
theorem q1871 : (Jvm.Cond.code ({ cls := "Vaultyard", name := "kept", desc := "(I)I" } : Jvm.MethodName) prog_1_method_52_code (2 : Nat) (Option.some Jvm.ClassFile.FieldType.int)) ∈ lw_all := lw_g (lw_at lw_m8 101 rfl) rfl
theorem q1872 : (Jvm.Cond.methodLinkNest "Vaultyard" (394 : Nat) ({ cls := "Vaultyard$Thing", name := "kept", desc := "()I" } : Jvm.MethodName) "Vaultyard") ∈ lw_tbl := lw_at lw_m8 102 rfl
theorem q1877 : (Jvm.Cond.instanceMethod ({ cls := "Vaultyard", name := "box", desc := "(I)I" } : Jvm.MethodName)) ∈ lw_all := lw_g (lw_at lw_m8 107 rfl) rfl
theorem q1878 : (Jvm.Cond.selects "Vaultyard" ({ cls := "Vaultyard", name := "box", desc := "(I)I" } : Jvm.MethodName) ({ cls := "Vaultyard", name := "box", desc := "(I)I" } : Jvm.MethodName)) ∈ lw_all := lw_g (lw_at lw_m8 108 rfl) rfl
theorem q1879 : (Jvm.Cond.code ({ cls := "Vaultyard", name := "box", desc := "(I)I" } : Jvm.MethodName) prog_1_method_53_code (2 : Nat) (Option.some Jvm.ClassFile.FieldType.int)) ∈ lw_all := lw_g (lw_at lw_m8 109 rfl) rfl
theorem q1881 : (Jvm.Cond.methodLink "Vaultyard" (397 : Nat) ({ cls := "Vaultyard$Box", name := "<init>", desc := "(II)V" } : Jvm.MethodName)) ∈ lw_all := lw_g (lw_at lw_m8 111 rfl) rfl
theorem q1886 : (Jvm.Cond.fieldLinkNest "Vaultyard" (409 : Nat) "Vaultyard$Box" "number" "I" "Vaultyard") ∈ lw_tbl := lw_at lw_m8 116 rfl
theorem q1888 : (Jvm.Cond.fieldLinkNest "Vaultyard" (407 : Nat) "Vaultyard$Box" "size" "I" "Vaultyard") ∈ lw_tbl := lw_at lw_m8 118 rfl
theorem q1890 : (Jvm.Cond.fieldLinkNest "Vaultyard" (408 : Nat) "Vaultyard$Box" "pests" "I" "Vaultyard") ∈ lw_tbl := lw_at lw_m8 120 rfl
theorem q1902 : (Jvm.Cond.instanceMethod ({ cls := "Vaultyard", name := "pack", desc := "(II)I" } : Jvm.MethodName)) ∈ lw_all := lw_g (lw_at lw_m8 132 rfl) rfl
theorem q1903 : (Jvm.Cond.selects "Vaultyard" ({ cls := "Vaultyard", name := "pack", desc := "(II)I" } : Jvm.MethodName) ({ cls := "Vaultyard", name := "pack", desc := "(II)I" } : Jvm.MethodName)) ∈ lw_all := lw_g (lw_at lw_m8 133 rfl) rfl
theorem q1904 : (Jvm.Cond.code ({ cls := "Vaultyard", name := "pack", desc := "(II)I" } : Jvm.MethodName) prog_1_method_54_code (5 : Nat) (Option.some Jvm.ClassFile.FieldType.int)) ∈ lw_all := lw_g (lw_at lw_m8 134 rfl) rfl
theorem q1905 : (Jvm.Cond.methodLink "Vaultyard" (399 : Nat) ({ cls := "Vaultyard", name := "boxAt", desc := "(I)LVaultyard$Box;" } : Jvm.MethodName)) ∈ lw_all := lw_g (lw_at lw_m8 135 rfl) rfl
theorem q1906 : (Jvm.Cond.privateMethod ({ cls := "Vaultyard", name := "boxAt", desc := "(I)LVaultyard$Box;" } : Jvm.MethodName)) ∈ lw_tbl := lw_at lw_m8 136 rfl
theorem q1907 : (Jvm.Cond.instanceMethod ({ cls := "Vaultyard", name := "boxAt", desc := "(I)LVaultyard$Box;" } : Jvm.MethodName)) ∈ lw_all := lw_g (lw_at lw_m8 137 rfl) rfl
theorem q1908 : (Jvm.Cond.code ({ cls := "Vaultyard", name := "boxAt", desc := "(I)LVaultyard$Box;" } : Jvm.MethodName) prog_1_method_10_code (2 : Nat) (Option.some (Jvm.ClassFile.FieldType.object "Vaultyard$Box"))) ∈ lw_all := lw_g (lw_at lw_m8 138 rfl) rfl
theorem q1913 : (Jvm.Cond.instanceMethod ({ cls := "Vaultyard", name := "pests", desc := "(I)I" } : Jvm.MethodName)) ∈ lw_all := lw_g (lw_at lw_m8 143 rfl) rfl
theorem q1914 : (Jvm.Cond.selects "Vaultyard" ({ cls := "Vaultyard", name := "pests", desc := "(I)I" } : Jvm.MethodName) ({ cls := "Vaultyard", name := "pests", desc := "(I)I" } : Jvm.MethodName)) ∈ lw_all := lw_g (lw_at lw_m8 144 rfl) rfl
theorem q1915 : (Jvm.Cond.code ({ cls := "Vaultyard", name := "pests", desc := "(I)I" } : Jvm.MethodName) prog_1_method_55_code (2 : Nat) (Option.some Jvm.ClassFile.FieldType.int)) ∈ lw_all := lw_g (lw_at lw_m8 145 rfl) rfl
theorem q1920 : (Jvm.Cond.instanceMethod ({ cls := "Vaultyard", name := "boxes", desc := "(II)I" } : Jvm.MethodName)) ∈ lw_all := lw_g (lw_at lw_m8 150 rfl) rfl
theorem q1921 : (Jvm.Cond.selects "Vaultyard" ({ cls := "Vaultyard", name := "boxes", desc := "(II)I" } : Jvm.MethodName) ({ cls := "Vaultyard", name := "boxes", desc := "(II)I" } : Jvm.MethodName)) ∈ lw_all := lw_g (lw_at lw_m8 151 rfl) rfl
theorem q1922 : (Jvm.Cond.code ({ cls := "Vaultyard", name := "boxes", desc := "(II)I" } : Jvm.MethodName) prog_1_method_57_code (7 : Nat) (Option.some Jvm.ClassFile.FieldType.int)) ∈ lw_all := lw_g (lw_at lw_m8 152 rfl) rfl
theorem q1923 : (Jvm.Cond.methodLink "Vaultyard" (416 : Nat) ({ cls := "Vaultyard", name := "wholes", desc := "(I)Ljava/util/ArrayList;" } : Jvm.MethodName)) ∈ lw_all := lw_g (lw_at lw_m8 153 rfl) rfl
theorem q1924 : (Jvm.Cond.privateMethod ({ cls := "Vaultyard", name := "wholes", desc := "(I)Ljava/util/ArrayList;" } : Jvm.MethodName)) ∈ lw_tbl := lw_at lw_m8 154 rfl
theorem q1925 : (Jvm.Cond.instanceMethod ({ cls := "Vaultyard", name := "wholes", desc := "(I)Ljava/util/ArrayList;" } : Jvm.MethodName)) ∈ lw_all := lw_g (lw_at lw_m8 155 rfl) rfl
theorem q1926 : (Jvm.Cond.code ({ cls := "Vaultyard", name := "wholes", desc := "(I)Ljava/util/ArrayList;" } : Jvm.MethodName) prog_1_method_16_code (6 : Nat) (Option.some (Jvm.ClassFile.FieldType.object "java/util/ArrayList"))) ∈ lw_all := lw_g (lw_at lw_m8 156 rfl) rfl
theorem q1927 : (Jvm.Cond.methodLink "Vaultyard" (412 : Nat) ({ cls := "Vaultyard", name := "goInto", desc := "(Ljava/util/List;I[I)Z" } : Jvm.MethodName)) ∈ lw_all := lw_g (lw_at lw_m8 157 rfl) rfl
theorem q1928 : (Jvm.Cond.static ({ cls := "Vaultyard", name := "goInto", desc := "(Ljava/util/List;I[I)Z" } : Jvm.MethodName)) ∈ lw_all := lw_g (lw_at lw_m8 158 rfl) rfl
theorem q1929 : (Jvm.Cond.code ({ cls := "Vaultyard", name := "goInto", desc := "(Ljava/util/List;I[I)Z" } : Jvm.MethodName) prog_1_method_56_code (6 : Nat) (Option.some Jvm.ClassFile.FieldType.boolean)) ∈ lw_all := lw_g (lw_at lw_m8 159 rfl) rfl
theorem q1930 : (Jvm.Cond.interfaceEntry "Vaultyard" (410 : Nat)) ∈ lw_tbl := lw_at lw_m8 160 rfl
theorem q1931 : (Jvm.Cond.methodLink "Vaultyard" (410 : Nat) ({ cls := "java/util/List", name := "size", desc := "()I" } : Jvm.MethodName)) ∈ lw_all := lw_g (lw_at lw_m8 161 rfl) rfl
theorem q1932 : (Jvm.Cond.interfaceEntry "Vaultyard" (411 : Nat)) ∈ lw_tbl := lw_at lw_m8 162 rfl
theorem q1933 : (Jvm.Cond.methodLink "Vaultyard" (411 : Nat) ({ cls := "java/util/List", name := "get", desc := "(I)Ljava/lang/Object;" } : Jvm.MethodName)) ∈ lw_all := lw_g (lw_at lw_m8 163 rfl) rfl
theorem q1938 : (Jvm.Cond.instanceMethod ({ cls := "Vaultyard", name := "miss", desc := "(I)I" } : Jvm.MethodName)) ∈ lw_all := lw_g (lw_at lw_m8 168 rfl) rfl
theorem q1939 : (Jvm.Cond.selects "Vaultyard" ({ cls := "Vaultyard", name := "miss", desc := "(I)I" } : Jvm.MethodName) ({ cls := "Vaultyard", name := "miss", desc := "(I)I" } : Jvm.MethodName)) ∈ lw_all := lw_g (lw_at lw_m8 169 rfl) rfl
theorem q1940 : (Jvm.Cond.code ({ cls := "Vaultyard", name := "miss", desc := "(I)I" } : Jvm.MethodName) prog_1_method_59_code (3 : Nat) (Option.some Jvm.ClassFile.FieldType.int)) ∈ lw_all := lw_g (lw_at lw_m8 170 rfl) rfl
theorem q1941 : (Jvm.Cond.methodLink "Vaultyard" (420 : Nat) ({ cls := "Vaultyard", name := "missing", desc := "()I" } : Jvm.MethodName)) ∈ lw_all := lw_g (lw_at lw_m8 171 rfl) rfl
theorem q1942 : (Jvm.Cond.privateMethod ({ cls := "Vaultyard", name := "missing", desc := "()I" } : Jvm.MethodName)) ∈ lw_tbl := lw_at lw_m8 172 rfl
theorem q1943 : (Jvm.Cond.instanceMethod ({ cls := "Vaultyard", name := "missing", desc := "()I" } : Jvm.MethodName)) ∈ lw_all := lw_g (lw_at lw_m8 173 rfl) rfl
theorem q1944 : (Jvm.Cond.code ({ cls := "Vaultyard", name := "missing", desc := "()I" } : Jvm.MethodName) prog_1_method_58_code (4 : Nat) (Option.some Jvm.ClassFile.FieldType.int)) ∈ lw_all := lw_g (lw_at lw_m8 174 rfl) rfl
theorem q1949 : (Jvm.Cond.instanceMethod ({ cls := "Vaultyard", name := "find", desc := "(II)I" } : Jvm.MethodName)) ∈ lw_all := lw_g (lw_at lw_m8 179 rfl) rfl
theorem q1950 : (Jvm.Cond.selects "Vaultyard" ({ cls := "Vaultyard", name := "find", desc := "(II)I" } : Jvm.MethodName) ({ cls := "Vaultyard", name := "find", desc := "(II)I" } : Jvm.MethodName)) ∈ lw_all := lw_g (lw_at lw_m8 180 rfl) rfl
theorem q1951 : (Jvm.Cond.code ({ cls := "Vaultyard", name := "find", desc := "(II)I" } : Jvm.MethodName) prog_1_method_60_code (5 : Nat) (Option.some Jvm.ClassFile.FieldType.int)) ∈ lw_all := lw_g (lw_at lw_m8 181 rfl) rfl
theorem q1956 : (Jvm.Cond.instanceMethod ({ cls := "Vaultyard", name := "shown", desc := "(IIII)I" } : Jvm.MethodName)) ∈ lw_all := lw_g (lw_at lw_m8 186 rfl) rfl
theorem q1957 : (Jvm.Cond.selects "Vaultyard" ({ cls := "Vaultyard", name := "shown", desc := "(IIII)I" } : Jvm.MethodName) ({ cls := "Vaultyard", name := "shown", desc := "(IIII)I" } : Jvm.MethodName)) ∈ lw_all := lw_g (lw_at lw_m8 187 rfl) rfl
theorem q1958 : (Jvm.Cond.code ({ cls := "Vaultyard", name := "shown", desc := "(IIII)I" } : Jvm.MethodName) prog_1_method_62_code (6 : Nat) (Option.some Jvm.ClassFile.FieldType.int)) ∈ lw_all := lw_g (lw_at lw_m8 188 rfl) rfl
theorem q1959 : (Jvm.Cond.methodLink "Vaultyard" (435 : Nat) ({ cls := "Vaultyard", name := "plan", desc := "(LVaultyard$Room;II)Ljava/util/ArrayList;" } : Jvm.MethodName)) ∈ lw_all := lw_g (lw_at lw_m8 189 rfl) rfl
theorem q1960 : (Jvm.Cond.privateMethod ({ cls := "Vaultyard", name := "plan", desc := "(LVaultyard$Room;II)Ljava/util/ArrayList;" } : Jvm.MethodName)) ∈ lw_tbl := lw_at lw_m8 190 rfl
theorem q1961 : (Jvm.Cond.instanceMethod ({ cls := "Vaultyard", name := "plan", desc := "(LVaultyard$Room;II)Ljava/util/ArrayList;" } : Jvm.MethodName)) ∈ lw_all := lw_g (lw_at lw_m8 191 rfl) rfl
theorem q1962 : (Jvm.Cond.code ({ cls := "Vaultyard", name := "plan", desc := "(LVaultyard$Room;II)Ljava/util/ArrayList;" } : Jvm.MethodName) prog_1_method_61_code (10 : Nat) (Option.some (Jvm.ClassFile.FieldType.object "java/util/ArrayList"))) ∈ lw_all := lw_g (lw_at lw_m8 192 rfl) rfl
theorem q1963 : (Jvm.Cond.methodLink "Vaultyard" (423 : Nat) ({ cls := "java/util/List", name := "of", desc := "(Ljava/lang/Object;)Ljava/util/List;" } : Jvm.MethodName)) ∈ lw_all := lw_g (lw_at lw_m8 193 rfl) rfl
theorem q1969 : (Jvm.Cond.methodLink "Vaultyard" (426 : Nat) ({ cls := "java/util/ArrayList", name := "remove", desc := "(Ljava/lang/Object;)Z" } : Jvm.MethodName)) ∈ lw_all := lw_g (lw_at lw_m8 199 rfl) rfl
theorem q1977 : (Jvm.Cond.selects "Vaultyard" ({ cls := "java/lang/Object", name := "equals", desc := "(Ljava/lang/Object;)Z" } : Jvm.MethodName) ({ cls := "java/lang/Object", name := "equals", desc := "(Ljava/lang/Object;)Z" } : Jvm.MethodName)) ∈ lw_all := lw_g (lw_at lw_m8 207 rfl) rfl
theorem q2037 : (Jvm.Cond.methodLink "Vaultyard" (433 : Nat) ({ cls := "Vaultyard$Material", name := "light", desc := "()I" } : Jvm.MethodName)) ∈ lw_all := lw_g (lw_at lw_m9 27 rfl) rfl
theorem q2042 : (Jvm.Cond.instanceMethod ({ cls := "Vaultyard", name := "planned", desc := "(III)I" } : Jvm.MethodName)) ∈ lw_all := lw_g (lw_at lw_m9 32 rfl) rfl
theorem q2043 : (Jvm.Cond.selects "Vaultyard" ({ cls := "Vaultyard", name := "planned", desc := "(III)I" } : Jvm.MethodName) ({ cls := "Vaultyard", name := "planned", desc := "(III)I" } : Jvm.MethodName)) ∈ lw_all := lw_g (lw_at lw_m9 33 rfl) rfl
theorem q2044 : (Jvm.Cond.code ({ cls := "Vaultyard", name := "planned", desc := "(III)I" } : Jvm.MethodName) prog_1_method_63_code (4 : Nat) (Option.some Jvm.ClassFile.FieldType.int)) ∈ lw_all := lw_g (lw_at lw_m9 34 rfl) rfl
theorem q2049 : (Jvm.Cond.instanceMethod ({ cls := "Vaultyard", name := "prior", desc := "(III)I" } : Jvm.MethodName)) ∈ lw_all := lw_g (lw_at lw_m9 39 rfl) rfl
theorem q2050 : (Jvm.Cond.selects "Vaultyard" ({ cls := "Vaultyard", name := "prior", desc := "(III)I" } : Jvm.MethodName) ({ cls := "Vaultyard", name := "prior", desc := "(III)I" } : Jvm.MethodName)) ∈ lw_all := lw_g (lw_at lw_m9 40 rfl) rfl
theorem q2051 : (Jvm.Cond.code ({ cls := "Vaultyard", name := "prior", desc := "(III)I" } : Jvm.MethodName) prog_1_method_64_code (6 : Nat) (Option.some Jvm.ClassFile.FieldType.int)) ∈ lw_all := lw_g (lw_at lw_m9 41 rfl) rfl
theorem q2056 : (Jvm.Cond.instanceMethod ({ cls := "Vaultyard", name := "test", desc := "(IIIZ)I" } : Jvm.MethodName)) ∈ lw_all := lw_g (lw_at lw_m9 46 rfl) rfl
theorem q2057 : (Jvm.Cond.selects "Vaultyard" ({ cls := "Vaultyard", name := "test", desc := "(IIIZ)I" } : Jvm.MethodName) ({ cls := "Vaultyard", name := "test", desc := "(IIIZ)I" } : Jvm.MethodName)) ∈ lw_all := lw_g (lw_at lw_m9 47 rfl) rfl
theorem q2058 : (Jvm.Cond.code ({ cls := "Vaultyard", name := "test", desc := "(IIIZ)I" } : Jvm.MethodName) prog_1_method_66_code (6 : Nat) (Option.some Jvm.ClassFile.FieldType.int)) ∈ lw_all := lw_g (lw_at lw_m9 48 rfl) rfl
theorem q2063 : (Jvm.Cond.instanceMethod ({ cls := "Vaultyard", name := "oddsFor", desc := "(I)J" } : Jvm.MethodName)) ∈ lw_all := lw_g (lw_at lw_m9 53 rfl) rfl
theorem q2064 : (Jvm.Cond.selects "Vaultyard" ({ cls := "Vaultyard", name := "oddsFor", desc := "(I)J" } : Jvm.MethodName) ({ cls := "Vaultyard", name := "oddsFor", desc := "(I)J" } : Jvm.MethodName)) ∈ lw_all := lw_g (lw_at lw_m9 54 rfl) rfl
theorem q2065 : (Jvm.Cond.code ({ cls := "Vaultyard", name := "oddsFor", desc := "(I)J" } : Jvm.MethodName) prog_1_method_67_code (3 : Nat) (Option.some Jvm.ClassFile.FieldType.long)) ∈ lw_all := lw_g (lw_at lw_m9 55 rfl) rfl
theorem q2066 : (Jvm.Cond.methodLink "Vaultyard" (449 : Nat) ({ cls := "Vaultyard", name := "common", desc := "(JJ)J" } : Jvm.MethodName)) ∈ lw_all := lw_g (lw_at lw_m9 56 rfl) rfl
theorem q2067 : (Jvm.Cond.static ({ cls := "Vaultyard", name := "common", desc := "(JJ)J" } : Jvm.MethodName)) ∈ lw_all := lw_g (lw_at lw_m9 57 rfl) rfl
theorem q2068 : (Jvm.Cond.code ({ cls := "Vaultyard", name := "common", desc := "(JJ)J" } : Jvm.MethodName) prog_1_method_65_code (4 : Nat) (Option.some Jvm.ClassFile.FieldType.long)) ∈ lw_all := lw_g (lw_at lw_m9 58 rfl) rfl
theorem q2073 : (Jvm.Cond.instanceMethod ({ cls := "Vaultyard", name := "oddsAgainst", desc := "(I)J" } : Jvm.MethodName)) ∈ lw_all := lw_g (lw_at lw_m9 63 rfl) rfl
theorem q2074 : (Jvm.Cond.selects "Vaultyard" ({ cls := "Vaultyard", name := "oddsAgainst", desc := "(I)J" } : Jvm.MethodName) ({ cls := "Vaultyard", name := "oddsAgainst", desc := "(I)J" } : Jvm.MethodName)) ∈ lw_all := lw_g (lw_at lw_m9 64 rfl) rfl
theorem q2075 : (Jvm.Cond.code ({ cls := "Vaultyard", name := "oddsAgainst", desc := "(I)J" } : Jvm.MethodName) prog_1_method_68_code (3 : Nat) (Option.some Jvm.ClassFile.FieldType.long)) ∈ lw_all := lw_g (lw_at lw_m9 65 rfl) rfl
theorem q2080 : (Jvm.Cond.instanceMethod ({ cls := "Vaultyard", name := "isFake", desc := "(I)Z" } : Jvm.MethodName)) ∈ lw_all := lw_g (lw_at lw_m9 70 rfl) rfl
theorem q2081 : (Jvm.Cond.selects "Vaultyard" ({ cls := "Vaultyard", name := "isFake", desc := "(I)Z" } : Jvm.MethodName) ({ cls := "Vaultyard", name := "isFake", desc := "(I)Z" } : Jvm.MethodName)) ∈ lw_all := lw_g (lw_at lw_m9 71 rfl) rfl
theorem q2082 : (Jvm.Cond.code ({ cls := "Vaultyard", name := "isFake", desc := "(I)Z" } : Jvm.MethodName) prog_1_method_69_code (2 : Nat) (Option.some Jvm.ClassFile.FieldType.boolean)) ∈ lw_all := lw_g (lw_at lw_m9 72 rfl) rfl
theorem q2083 : (Jvm.Cond.methodLinkNest "Vaultyard" (452 : Nat) ({ cls := "Vaultyard$Thing", name := "isTakenForFake", desc := "()Z" } : Jvm.MethodName) "Vaultyard") ∈ lw_tbl := lw_at lw_m9 73 rfl
theorem q2092 : (Jvm.Cond.instanceMethod ({ cls := "Vaultyard", name := "opinion", desc := "(III)I" } : Jvm.MethodName)) ∈ lw_all := lw_g (lw_at lw_m9 82 rfl) rfl
theorem q2093 : (Jvm.Cond.selects "Vaultyard" ({ cls := "Vaultyard", name := "opinion", desc := "(III)I" } : Jvm.MethodName) ({ cls := "Vaultyard", name := "opinion", desc := "(III)I" } : Jvm.MethodName)) ∈ lw_all := lw_g (lw_at lw_m9 83 rfl) rfl
theorem q2094 : (Jvm.Cond.code ({ cls := "Vaultyard", name := "opinion", desc := "(III)I" } : Jvm.MethodName) prog_1_method_70_code (5 : Nat) (Option.some Jvm.ClassFile.FieldType.int)) ∈ lw_all := lw_g (lw_at lw_m9 84 rfl) rfl
theorem q2095 : (Jvm.Cond.classLink "Vaultyard" (455 : Nat) "Vaultyard$Opinion") ∈ lw_all := lw_g (lw_at lw_m9 85 rfl) rfl
theorem q2097 : (Jvm.Cond.methodLinkNest "Vaultyard" (457 : Nat) ({ cls := "Vaultyard$Opinion", name := "<init>", desc := "(LVaultyard$Thing;II)V" } : Jvm.MethodName) "Vaultyard") ∈ lw_tbl := lw_at lw_m9 87 rfl
theorem q2111 : (Jvm.Cond.methodLink "Vaultyard" (460 : Nat) ({ cls := "Vaultyard", name := "of", desc := "(LVaultyard$Thing;)Ljava/util/ArrayList;" } : Jvm.MethodName)) ∈ lw_all := lw_g (lw_at lw_m9 101 rfl) rfl
theorem q2112 : (Jvm.Cond.privateMethod ({ cls := "Vaultyard", name := "of", desc := "(LVaultyard$Thing;)Ljava/util/ArrayList;" } : Jvm.MethodName)) ∈ lw_tbl := lw_at lw_m9 102 rfl
theorem q2113 : (Jvm.Cond.instanceMethod ({ cls := "Vaultyard", name := "of", desc := "(LVaultyard$Thing;)Ljava/util/ArrayList;" } : Jvm.MethodName)) ∈ lw_all := lw_g (lw_at lw_m9 103 rfl) rfl
theorem q2114 : (Jvm.Cond.code ({ cls := "Vaultyard", name := "of", desc := "(LVaultyard$Thing;)Ljava/util/ArrayList;" } : Jvm.MethodName) prog_1_method_71_code (5 : Nat) (Option.some (Jvm.ClassFile.FieldType.object "java/util/ArrayList"))) ∈ lw_all := lw_g (lw_at lw_m9 104 rfl) rfl
theorem q2115 : (Jvm.Cond.methodLink "Vaultyard" (463 : Nat) ({ cls := "Vaultyard$Opinion", name := "thing", desc := "()LVaultyard$Thing;" } : Jvm.MethodName)) ∈ lw_all := lw_g (lw_at lw_m9 105 rfl) rfl
theorem q2123 : (Jvm.Cond.instanceMethod ({ cls := "Vaultyard", name := "held", desc := "(II)I" } : Jvm.MethodName)) ∈ lw_all := lw_g (lw_at lw_m9 113 rfl) rfl
theorem q2124 : (Jvm.Cond.selects "Vaultyard" ({ cls := "Vaultyard", name := "held", desc := "(II)I" } : Jvm.MethodName) ({ cls := "Vaultyard", name := "held", desc := "(II)I" } : Jvm.MethodName)) ∈ lw_all := lw_g (lw_at lw_m9 114 rfl) rfl
theorem q2125 : (Jvm.Cond.code ({ cls := "Vaultyard", name := "held", desc := "(II)I" } : Jvm.MethodName) prog_1_method_75_code (6 : Nat) (Option.some Jvm.ClassFile.FieldType.int)) ∈ lw_all := lw_g (lw_at lw_m9 115 rfl) rfl
theorem q2126 : (Jvm.Cond.methodLink "Vaultyard" (474 : Nat) ({ cls := "Vaultyard", name := "holding", desc := "(LVaultyard$Thing;)Ljava/util/ArrayList;" } : Jvm.MethodName)) ∈ lw_all := lw_g (lw_at lw_m9 116 rfl) rfl
theorem q2127 : (Jvm.Cond.privateMethod ({ cls := "Vaultyard", name := "holding", desc := "(LVaultyard$Thing;)Ljava/util/ArrayList;" } : Jvm.MethodName)) ∈ lw_tbl := lw_at lw_m9 117 rfl
theorem q2128 : (Jvm.Cond.instanceMethod ({ cls := "Vaultyard", name := "holding", desc := "(LVaultyard$Thing;)Ljava/util/ArrayList;" } : Jvm.MethodName)) ∈ lw_all := lw_g (lw_at lw_m9 118 rfl) rfl
theorem q2129 : (Jvm.Cond.code ({ cls := "Vaultyard", name := "holding", desc := "(LVaultyard$Thing;)Ljava/util/ArrayList;" } : Jvm.MethodName) prog_1_method_72_code (6 : Nat) (Option.some (Jvm.ClassFile.FieldType.object "java/util/ArrayList"))) ∈ lw_all := lw_g (lw_at lw_m9 119 rfl) rfl
theorem q2130 : (Jvm.Cond.methodLink "Vaultyard" (465 : Nat) ({ cls := "Vaultyard$Opinion", name := "person", desc := "()I" } : Jvm.MethodName)) ∈ lw_all := lw_g (lw_at lw_m9 120 rfl) rfl
theorem q2134 : (Jvm.Cond.methodLink "Vaultyard" (468 : Nat) ({ cls := "java/util/ArrayList", name := "remove", desc := "(I)Ljava/lang/Object;" } : Jvm.MethodName)) ∈ lw_all := lw_g (lw_at lw_m9 124 rfl) rfl
theorem q2138 : (Jvm.Cond.methodLink "Vaultyard" (471 : Nat) ({ cls := "Vaultyard$Opinion", name := "code", desc := "()I" } : Jvm.MethodName)) ∈ lw_all := lw_g (lw_at lw_m9 128 rfl) rfl
theorem q2146 : (Jvm.Cond.instanceMethod ({ cls := "Vaultyard", name := "code", desc := "(I)I" } : Jvm.MethodName)) ∈ lw_all := lw_g (lw_at lw_m9 136 rfl) rfl
theorem q2147 : (Jvm.Cond.selects "Vaultyard" ({ cls := "Vaultyard", name := "code", desc := "(I)I" } : Jvm.MethodName) ({ cls := "Vaultyard", name := "code", desc := "(I)I" } : Jvm.MethodName)) ∈ lw_all := lw_g (lw_at lw_m9 137 rfl) rfl
theorem q2148 : (Jvm.Cond.code ({ cls := "Vaultyard", name := "code", desc := "(I)I" } : Jvm.MethodName) prog_1_method_76_code (3 : Nat) (Option.some Jvm.ClassFile.FieldType.int)) ∈ lw_all := lw_g (lw_at lw_m9 138 rfl) rfl
theorem q2149 : (Jvm.Cond.methodLink "Vaultyard" (481 : Nat) ({ cls := "Vaultyard", name := "codeOf", desc := "(LVaultyard$Thing;)I" } : Jvm.MethodName)) ∈ lw_all := lw_g (lw_at lw_m9 139 rfl) rfl
theorem q2150 : (Jvm.Cond.privateMethod ({ cls := "Vaultyard", name := "codeOf", desc := "(LVaultyard$Thing;)I" } : Jvm.MethodName)) ∈ lw_tbl := lw_at lw_m9 140 rfl
theorem q2151 : (Jvm.Cond.instanceMethod ({ cls := "Vaultyard", name := "codeOf", desc := "(LVaultyard$Thing;)I" } : Jvm.MethodName)) ∈ lw_all := lw_g (lw_at lw_m9 141 rfl) rfl
theorem q2152 : (Jvm.Cond.code ({ cls := "Vaultyard", name := "codeOf", desc := "(LVaultyard$Thing;)I" } : Jvm.MethodName) prog_1_method_74_code (6 : Nat) (Option.some Jvm.ClassFile.FieldType.int)) ∈ lw_all := lw_g (lw_at lw_m9 142 rfl) rfl
theorem q2153 : (Jvm.Cond.methodLink "Vaultyard" (477 : Nat) ({ cls := "Vaultyard", name := "many", desc := "(Ljava/util/List;I)I" } : Jvm.MethodName)) ∈ lw_all := lw_g (lw_at lw_m9 143 rfl) rfl
theorem q2154 : (Jvm.Cond.static ({ cls := "Vaultyard", name := "many", desc := "(Ljava/util/List;I)I" } : Jvm.MethodName)) ∈ lw_all := lw_g (lw_at lw_m9 144 rfl) rfl
theorem q2155 : (Jvm.Cond.code ({ cls := "Vaultyard", name := "many", desc := "(Ljava/util/List;I)I" } : Jvm.MethodName) prog_1_method_73_code (5 : Nat) (Option.some Jvm.ClassFile.FieldType.int)) ∈ lw_all := lw_g (lw_at lw_m9 145 rfl) rfl
theorem q2156 : (Jvm.Cond.interfaceEntry "Vaultyard" (470 : Nat)) ∈ lw_tbl := lw_at lw_m9 146 rfl
theorem q2157 : (Jvm.Cond.methodLink "Vaultyard" (470 : Nat) ({ cls := "java/util/List", name := "iterator", desc := "()Ljava/util/Iterator;" } : Jvm.MethodName)) ∈ lw_all := lw_g (lw_at lw_m9 147 rfl) rfl
theorem q2166 : (Jvm.Cond.instanceMethod ({ cls := "Vaultyard", name := "told", desc := "(II)I" } : Jvm.MethodName)) ∈ lw_all := lw_g (lw_at lw_m9 156 rfl) rfl
theorem q2167 : (Jvm.Cond.selects "Vaultyard" ({ cls := "Vaultyard", name := "told", desc := "(II)I" } : Jvm.MethodName) ({ cls := "Vaultyard", name := "told", desc := "(II)I" } : Jvm.MethodName)) ∈ lw_all := lw_g (lw_at lw_m9 157 rfl) rfl
theorem q2168 : (Jvm.Cond.code ({ cls := "Vaultyard", name := "told", desc := "(II)I" } : Jvm.MethodName) prog_1_method_77_code (4 : Nat) (Option.some Jvm.ClassFile.FieldType.int)) ∈ lw_all := lw_g (lw_at lw_m9 158 rfl) rfl
theorem q2173 : (Jvm.Cond.instanceMethod ({ cls := "Vaultyard", name := "fund", desc := "(II)I" } : Jvm.MethodName)) ∈ lw_all := lw_g (lw_at lw_m9 163 rfl) rfl
theorem q2174 : (Jvm.Cond.selects "Vaultyard" ({ cls := "Vaultyard", name := "fund", desc := "(II)I" } : Jvm.MethodName) ({ cls := "Vaultyard", name := "fund", desc := "(II)I" } : Jvm.MethodName)) ∈ lw_all := lw_g (lw_at lw_m9 164 rfl) rfl
theorem q2175 : (Jvm.Cond.code ({ cls := "Vaultyard", name := "fund", desc := "(II)I" } : Jvm.MethodName) prog_1_method_78_code (3 : Nat) (Option.some Jvm.ClassFile.FieldType.int)) ∈ lw_all := lw_g (lw_at lw_m9 165 rfl) rfl
theorem q2176 : (Jvm.Cond.constant "Vaultyard" (485 : Nat) (999999 : Int32)) ∈ lw_all := lw_g (lw_at lw_m9 166 rfl) rfl
theorem q2177 : (Jvm.Cond.methodLink "Vaultyard" (486 : Nat) ({ cls := "Vaultyard$Fund", name := "<init>", desc := "(III)V" } : Jvm.MethodName)) ∈ lw_all := lw_g (lw_at lw_m9 167 rfl) rfl
theorem q2182 : (Jvm.Cond.fieldLinkNest "Vaultyard" (512 : Nat) "Vaultyard$Fund" "number" "I" "Vaultyard") ∈ lw_tbl := lw_at lw_m9 172 rfl
theorem q2184 : (Jvm.Cond.fieldLinkNest "Vaultyard" (278 : Nat) "Vaultyard$Fund" "purposes" "I" "Vaultyard") ∈ lw_tbl := lw_at lw_m9 174 rfl
theorem q2186 : (Jvm.Cond.fieldLinkNest "Vaultyard" (275 : Nat) "Vaultyard$Fund" "money" "I" "Vaultyard") ∈ lw_tbl := lw_at lw_m9 176 rfl
theorem q2198 : (Jvm.Cond.instanceMethod ({ cls := "Vaultyard", name := "money", desc := "(I)I" } : Jvm.MethodName)) ∈ lw_all := lw_g (lw_at lw_m9 188 rfl) rfl
theorem q2199 : (Jvm.Cond.selects "Vaultyard" ({ cls := "Vaultyard", name := "money", desc := "(I)I" } : Jvm.MethodName) ({ cls := "Vaultyard", name := "money", desc := "(I)I" } : Jvm.MethodName)) ∈ lw_all := lw_g (lw_at lw_m9 189 rfl) rfl
theorem q2200 : (Jvm.Cond.code ({ cls := "Vaultyard", name := "money", desc := "(I)I" } : Jvm.MethodName) prog_1_method_79_code (2 : Nat) (Option.some Jvm.ClassFile.FieldType.int)) ∈ lw_all := lw_g (lw_at lw_m9 190 rfl) rfl
theorem q2205 : (Jvm.Cond.instanceMethod ({ cls := "Vaultyard", name := "water", desc := "(III)I" } : Jvm.MethodName)) ∈ lw_all := lw_g (lw_at lw_m9 195 rfl) rfl
theorem q2206 : (Jvm.Cond.selects "Vaultyard" ({ cls := "Vaultyard", name := "water", desc := "(III)I" } : Jvm.MethodName) ({ cls := "Vaultyard", name := "water", desc := "(III)I" } : Jvm.MethodName)) ∈ lw_all := lw_g (lw_at lw_m9 196 rfl) rfl
theorem q2207 : (Jvm.Cond.code ({ cls := "Vaultyard", name := "water", desc := "(III)I" } : Jvm.MethodName) prog_1_method_81_code (9 : Nat) (Option.some Jvm.ClassFile.FieldType.int)) ∈ lw_all := lw_g (lw_at lw_m9 197 rfl) rfl
theorem q2208 : (Jvm.Cond.methodLink "Vaultyard" (495 : Nat) ({ cls := "Vaultyard", name := "carried", desc := "(LVaultyard$Room;I)Ljava/util/ArrayList;" } : Jvm.MethodName)) ∈ lw_all := lw_g (lw_at lw_m9 198 rfl) rfl
theorem q2209 : (Jvm.Cond.privateMethod ({ cls := "Vaultyard", name := "carried", desc := "(LVaultyard$Room;I)Ljava/util/ArrayList;" } : Jvm.MethodName)) ∈ lw_tbl := lw_at lw_m9 199 rfl
theorem q2210 : (Jvm.Cond.instanceMethod ({ cls := "Vaultyard", name := "carried", desc := "(LVaultyard$Room;I)Ljava/util/ArrayList;" } : Jvm.MethodName)) ∈ lw_all := lw_g (lw_at lw_m9 200 rfl) rfl
theorem q2211 : (Jvm.Cond.code ({ cls := "Vaultyard", name := "carried", desc := "(LVaultyard$Room;I)Ljava/util/ArrayList;" } : Jvm.MethodName) prog_1_method_80_code (9 : Nat) (Option.some (Jvm.ClassFile.FieldType.object "java/util/ArrayList"))) ∈ lw_all := lw_g (lw_at lw_m9 201 rfl) rfl
theorem q2212 : (Jvm.Cond.methodLinkNest "Vaultyard" (489 : Nat) ({ cls := "Vaultyard$Thing", name := "isAnyWet", desc := "()Z" } : Jvm.MethodName) "Vaultyard") ∈ lw_tbl := lw_at lw_m9 202 rfl
theorem q2224 : (Jvm.Cond.methodLinkNest "Vaultyard" (492 : Nat) ({ cls := "Vaultyard$Thing", name := "ways", desc := "()I" } : Jvm.MethodName) "Vaultyard") ∈ lw_tbl := lw_at lw_m9 214 rfl
theorem q2228 : (Jvm.Cond.methodLinkNest "Vaultyard" (499 : Nat) ({ cls := "Vaultyard$Thing", name := "isWet", desc := "()Z" } : Jvm.MethodName) "Vaultyard") ∈ lw_tbl := lw_at lw_m9 218 rfl
theorem q2229 : (Jvm.Cond.methodLink "Vaultyard" (502 : Nat) ({ cls := "java/util/ArrayList", name := "contains", desc := "(Ljava/lang/Object;)Z" } : Jvm.MethodName)) ∈ lw_all := lw_g (lw_at lw_m9 219 rfl) rfl
theorem q2245 : (Jvm.Cond.instanceMethod ({ cls := "Vaultyard", name := "saved", desc := "(III)I" } : Jvm.MethodName)) ∈ lw_all := lw_g (lw_at lw_m9 235 rfl) rfl
theorem q2246 : (Jvm.Cond.selects "Vaultyard" ({ cls := "Vaultyard", name := "saved", desc := "(III)I" } : Jvm.MethodName) ({ cls := "Vaultyard", name := "saved", desc := "(III)I" } : Jvm.MethodName)) ∈ lw_all := lw_g (lw_at lw_m9 236 rfl) rfl
theorem q2247 : (Jvm.Cond.code ({ cls := "Vaultyard", name := "saved", desc := "(III)I" } : Jvm.MethodName) prog_1_method_82_code (6 : Nat) (Option.some Jvm.ClassFile.FieldType.int)) ∈ lw_all := lw_g (lw_at lw_m9 237 rfl) rfl
theorem q2252 : (Jvm.Cond.instanceMethod ({ cls := "Vaultyard", name := "go", desc := "(I)I" } : Jvm.MethodName)) ∈ lw_all := lw_g (lw_at lw_m10 2 rfl) rfl
theorem q2253 : (Jvm.Cond.selects "Vaultyard" ({ cls := "Vaultyard", name := "go", desc := "(I)I" } : Jvm.MethodName) ({ cls := "Vaultyard", name := "go", desc := "(I)I" } : Jvm.MethodName)) ∈ lw_all := lw_g (lw_at lw_m10 3 rfl) rfl
theorem q2254 : (Jvm.Cond.code ({ cls := "Vaultyard", name := "go", desc := "(I)I" } : Jvm.MethodName) prog_1_method_85_code (6 : Nat) (Option.some Jvm.ClassFile.FieldType.int)) ∈ lw_all := lw_g (lw_at lw_m10 4 rfl) rfl
theorem q2255 : (Jvm.Cond.methodLink "Vaultyard" (509 : Nat) ({ cls := "Vaultyard", name := "canGo", desc := "(LVaultyard$Thing;)Z" } : Jvm.MethodName)) ∈ lw_all := lw_g (lw_at lw_m10 5 rfl) rfl
theorem q2256 : (Jvm.Cond.privateMethod ({ cls := "Vaultyard", name := "canGo", desc := "(LVaultyard$Thing;)Z" } : Jvm.MethodName)) ∈ lw_tbl := lw_at lw_m10 6 rfl
theorem q2257 : (Jvm.Cond.instanceMethod ({ cls := "Vaultyard", name := "canGo", desc := "(LVaultyard$Thing;)Z" } : Jvm.MethodName)) ∈ lw_all := lw_g (lw_at lw_m10 7 rfl) rfl
theorem q2258 : (Jvm.Cond.code ({ cls := "Vaultyard", name := "canGo", desc := "(LVaultyard$Thing;)Z" } : Jvm.MethodName) prog_1_method_84_code (7 : Nat) (Option.some Jvm.ClassFile.FieldType.boolean)) ∈ lw_all := lw_g (lw_at lw_m10 8 rfl) rfl
theorem q2259 : (Jvm.Cond.methodLink "Vaultyard" (505 : Nat) ({ cls := "Vaultyard", name := "isDouble", desc := "(LVaultyard$Thing;)Z" } : Jvm.MethodName)) ∈ lw_all := lw_g (lw_at lw_m10 9 rfl) rfl
theorem q2260 : (Jvm.Cond.privateMethod ({ cls := "Vaultyard", name := "isDouble", desc := "(LVaultyard$Thing;)Z" } : Jvm.MethodName)) ∈ lw_tbl := lw_at lw_m10 10 rfl
theorem q2261 : (Jvm.Cond.instanceMethod ({ cls := "Vaultyard", name := "isDouble", desc := "(LVaultyard$Thing;)Z" } : Jvm.MethodName)) ∈ lw_all := lw_g (lw_at lw_m10 11 rfl) rfl
theorem q2262 : (Jvm.Cond.code ({ cls := "Vaultyard", name := "isDouble", desc := "(LVaultyard$Thing;)Z" } : Jvm.MethodName) prog_1_method_83_code (6 : Nat) (Option.some Jvm.ClassFile.FieldType.boolean)) ∈ lw_all := lw_g (lw_at lw_m10 12 rfl) rfl
theorem q2281 : (Jvm.Cond.instanceMethod ({ cls := "Vaultyard", name := "safeShare", desc := "()F" } : Jvm.MethodName)) ∈ lw_all := lw_g (lw_at lw_m10 31 rfl) rfl
theorem q2282 : (Jvm.Cond.selects "Vaultyard" ({ cls := "Vaultyard", name := "safeShare", desc := "()F" } : Jvm.MethodName) ({ cls := "Vaultyard", name := "safeShare", desc := "()F" } : Jvm.MethodName)) ∈ lw_all := lw_g (lw_at lw_m10 32 rfl) rfl
theorem q2283 : (Jvm.Cond.code ({ cls := "Vaultyard", name := "safeShare", desc := "()F" } : Jvm.MethodName) prog_1_method_87_code (4 : Nat) (Option.some Jvm.ClassFile.FieldType.float)) ∈ lw_all := lw_g (lw_at lw_m10 33 rfl) rfl
theorem q2284 : (Jvm.Cond.classLink "Vaultyard" (517 : Nat) "java/lang/ArithmeticException") ∈ lw_all := lw_g (lw_at lw_m10 34 rfl) rfl
theorem q2285 : (Jvm.Cond.methodLink "Vaultyard" (519 : Nat) ({ cls := "java/lang/ArithmeticException", name := "<init>", desc := "()V" } : Jvm.MethodName)) ∈ lw_all := lw_g (lw_at lw_m10 35 rfl) rfl
theorem q2293 : (Jvm.Cond.instanceMethod ({ cls := "Vaultyard", name := "meanDamage", desc := "()D" } : Jvm.MethodName)) ∈ lw_all := lw_g (lw_at lw_m10 43 rfl) rfl
theorem q2294 : (Jvm.Cond.selects "Vaultyard" ({ cls := "Vaultyard", name := "meanDamage", desc := "()D" } : Jvm.MethodName) ({ cls := "Vaultyard", name := "meanDamage", desc := "()D" } : Jvm.MethodName)) ∈ lw_all := lw_g (lw_at lw_m10 44 rfl) rfl
theorem q2295 : (Jvm.Cond.code ({ cls := "Vaultyard", name := "meanDamage", desc := "()D" } : Jvm.MethodName) prog_1_method_88_code (4 : Nat) (Option.some Jvm.ClassFile.FieldType.double)) ∈ lw_all := lw_g (lw_at lw_m10 45 rfl) rfl
theorem q3037 : (Jvm.Cond.castable "Vaultyard" "java/lang/Object") ∈ lw_tbl := lw_at lw_m13 67 rfl
theorem in_X1 : ∀ w ∈ wsX10, w ∈ lw_all := lw_in wsX10 [204, 206, 208, 210, 212, 214, 216, 218, 220, 222] (by decide +kernel) (by decide +kernel)

