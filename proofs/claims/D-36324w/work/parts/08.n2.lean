/-! VaultyardModel -/
set_option maxRecDepth 100000
def RX2 : String := "VaultyardModel"
def TX2 : u_T := fun k => match k with
  | 0 => ("VaultyardModel", "thrown", "I", false)
  | 1 => ("VaultyardModel", "day", "I", false)
  | 2 => ("VaultyardModel", "materials", "Ljava/util/ArrayList;", true)
  | 3 => ("VaultyardModel", "rooms", "Ljava/util/ArrayList;", true)
  | 4 => ("VaultyardModel", "things", "Ljava/util/ArrayList;", true)
  | 5 => ("VaultyardModel", "loans", "Ljava/util/ArrayList;", true)
  | 6 => ("VaultyardModel", "couriers", "Ljava/util/ArrayList;", true)
  | 7 => ("VaultyardModel", "methods", "Ljava/util/ArrayList;", true)
  | 8 => ("VaultyardModel", "boxes", "Ljava/util/ArrayList;", true)
  | 9 => ("VaultyardModel", "opinions", "Ljava/util/ArrayList;", true)
  | 10 => ("VaultyardModel", "funds", "Ljava/util/ArrayList;", true)
  | _ => ("VaultyardModel", "laws", "[I", true)
def tyX2 : Nat → FieldType := fun k => match k with
  | 0 => .int
  | 1 => .int
  | 2 => .object "java/util/ArrayList"
  | 3 => .object "java/util/ArrayList"
  | 4 => .object "java/util/ArrayList"
  | 5 => .object "java/util/ArrayList"
  | 6 => .object "java/util/ArrayList"
  | 7 => .object "java/util/ArrayList"
  | 8 => .object "java/util/ArrayList"
  | 9 => .object "java/util/ArrayList"
  | 10 => .object "java/util/ArrayList"
  | _ => .array .int
abbrev wsX20 : List Cond := u_ws RX2 TX2 12
theorem nmX2 : ∀ a, a < 12 → ∀ b, b < 12 → a ≠ b → (TX2 a).2.1 ≠ (TX2 b).2.1 := by decide +kernel
theorem tyX2_ok : ∀ k, k < 12 → parseFieldDescriptor (TX2 k).2.2.1 = some (tyX2 k) := by decide +kernel
abbrev cX2_init : ByteArray := prog_17_method_2_code
def yX2_init : MethodName := ⟨RX2, "<init>", "()V"⟩
def dkwX2_init_5 : List UInt8 := [4, 16, 100, 79, 89, 5, 16, 100, 79, 89, 6, 16, 100, 79, 181, 0, 40, 42, 3, 181, 0, 44, 177]
abbrev dktX2_init_5 : List UInt8 := dkwX2_init_5 ++ []
def dkwX2_init_4 : List UInt8 := [181, 0, 34, 42, 187, 0, 7, 89, 183, 0, 9, 181, 0, 37, 42, 7, 188, 10, 89, 3, 16, 100, 79, 89]
abbrev dktX2_init_4 : List UInt8 := dkwX2_init_4 ++ dktX2_init_5
def dkwX2_init_3 : List UInt8 := [181, 0, 28, 42, 187, 0, 7, 89, 183, 0, 9, 181, 0, 31, 42, 187, 0, 7, 89, 183, 0, 9]
abbrev dktX2_init_3 : List UInt8 := dkwX2_init_3 ++ dktX2_init_4
def dkwX2_init_2 : List UInt8 := [181, 0, 22, 42, 187, 0, 7, 89, 183, 0, 9, 181, 0, 25, 42, 187, 0, 7, 89, 183, 0, 9]
abbrev dktX2_init_2 : List UInt8 := dkwX2_init_2 ++ dktX2_init_3
def dkwX2_init_1 : List UInt8 := [181, 0, 16, 42, 187, 0, 7, 89, 183, 0, 9, 181, 0, 19, 42, 187, 0, 7, 89, 183, 0, 9]
abbrev dktX2_init_1 : List UInt8 := dkwX2_init_1 ++ dktX2_init_2
def dkwX2_init_0 : List UInt8 := [42, 183, 0, 1, 42, 187, 0, 7, 89, 183, 0, 9, 181, 0, 10, 42, 187, 0, 7, 89, 183, 0, 9]
abbrev dktX2_init_0 : List UInt8 := dkwX2_init_0 ++ dktX2_init_1
theorem dksX2_init_0 : cX2_init.data.toList.drop 0 = dktX2_init_0 := by decide +kernel
theorem dksX2_init_1 : cX2_init.data.toList.drop 23 = dktX2_init_1 := dk_seg dksX2_init_0 23 rfl rfl
theorem dksX2_init_2 : cX2_init.data.toList.drop 45 = dktX2_init_2 := dk_seg dksX2_init_1 22 rfl rfl
theorem dksX2_init_3 : cX2_init.data.toList.drop 67 = dktX2_init_3 := dk_seg dksX2_init_2 22 rfl rfl
theorem dksX2_init_4 : cX2_init.data.toList.drop 89 = dktX2_init_4 := dk_seg dksX2_init_3 22 rfl rfl
theorem dksX2_init_5 : cX2_init.data.toList.drop 113 = dktX2_init_5 := dk_seg dksX2_init_4 24 rfl rfl
theorem dX2_init_0 : decode cX2_init 0 = .ok (.aload_n 0, 1) := dk_42 (dk_at dksX2_init_0 0 rfl rfl)
theorem dX2_init_1 : decode cX2_init 1 = .ok (.invokespecial 1, 3) := dk_183 0 1 (dk_at dksX2_init_0 1 rfl rfl)
theorem dX2_init_4 : decode cX2_init 4 = .ok (.aload_n 0, 1) := dk_42 (dk_at dksX2_init_0 4 rfl rfl)
theorem dX2_init_5 : decode cX2_init 5 = .ok (.new 7, 3) := dk_187 0 7 (dk_at dksX2_init_0 5 rfl rfl)
theorem dX2_init_8 : decode cX2_init 8 = .ok (.dup, 1) := dk_89 (dk_at dksX2_init_0 8 rfl rfl)
theorem dX2_init_9 : decode cX2_init 9 = .ok (.invokespecial 9, 3) := dk_183 0 9 (dk_at dksX2_init_0 9 rfl rfl)
theorem dX2_init_12 : decode cX2_init 12 = .ok (.putfield 10, 3) := dk_181 0 10 (dk_at dksX2_init_0 12 rfl rfl)
theorem dX2_init_15 : decode cX2_init 15 = .ok (.aload_n 0, 1) := dk_42 (dk_at dksX2_init_0 15 rfl rfl)
theorem dX2_init_16 : decode cX2_init 16 = .ok (.new 7, 3) := dk_187 0 7 (dk_at dksX2_init_0 16 rfl rfl)
theorem dX2_init_19 : decode cX2_init 19 = .ok (.dup, 1) := dk_89 (dk_at dksX2_init_0 19 rfl rfl)
theorem dX2_init_20 : decode cX2_init 20 = .ok (.invokespecial 9, 3) := dk_183 0 9 (dk_at dksX2_init_0 20 rfl rfl)
theorem dX2_init_23 : decode cX2_init 23 = .ok (.putfield 16, 3) := dk_181 0 16 (dk_at dksX2_init_1 0 rfl rfl)
theorem dX2_init_26 : decode cX2_init 26 = .ok (.aload_n 0, 1) := dk_42 (dk_at dksX2_init_1 3 rfl rfl)
theorem dX2_init_27 : decode cX2_init 27 = .ok (.new 7, 3) := dk_187 0 7 (dk_at dksX2_init_1 4 rfl rfl)
theorem dX2_init_30 : decode cX2_init 30 = .ok (.dup, 1) := dk_89 (dk_at dksX2_init_1 7 rfl rfl)
theorem dX2_init_31 : decode cX2_init 31 = .ok (.invokespecial 9, 3) := dk_183 0 9 (dk_at dksX2_init_1 8 rfl rfl)
theorem dX2_init_34 : decode cX2_init 34 = .ok (.putfield 19, 3) := dk_181 0 19 (dk_at dksX2_init_1 11 rfl rfl)
theorem dX2_init_37 : decode cX2_init 37 = .ok (.aload_n 0, 1) := dk_42 (dk_at dksX2_init_1 14 rfl rfl)
theorem dX2_init_38 : decode cX2_init 38 = .ok (.new 7, 3) := dk_187 0 7 (dk_at dksX2_init_1 15 rfl rfl)
theorem dX2_init_41 : decode cX2_init 41 = .ok (.dup, 1) := dk_89 (dk_at dksX2_init_1 18 rfl rfl)
theorem dX2_init_42 : decode cX2_init 42 = .ok (.invokespecial 9, 3) := dk_183 0 9 (dk_at dksX2_init_1 19 rfl rfl)
theorem dX2_init_45 : decode cX2_init 45 = .ok (.putfield 22, 3) := dk_181 0 22 (dk_at dksX2_init_2 0 rfl rfl)
theorem dX2_init_48 : decode cX2_init 48 = .ok (.aload_n 0, 1) := dk_42 (dk_at dksX2_init_2 3 rfl rfl)
theorem dX2_init_49 : decode cX2_init 49 = .ok (.new 7, 3) := dk_187 0 7 (dk_at dksX2_init_2 4 rfl rfl)
theorem dX2_init_52 : decode cX2_init 52 = .ok (.dup, 1) := dk_89 (dk_at dksX2_init_2 7 rfl rfl)
theorem dX2_init_53 : decode cX2_init 53 = .ok (.invokespecial 9, 3) := dk_183 0 9 (dk_at dksX2_init_2 8 rfl rfl)
theorem dX2_init_56 : decode cX2_init 56 = .ok (.putfield 25, 3) := dk_181 0 25 (dk_at dksX2_init_2 11 rfl rfl)
theorem dX2_init_59 : decode cX2_init 59 = .ok (.aload_n 0, 1) := dk_42 (dk_at dksX2_init_2 14 rfl rfl)
theorem dX2_init_60 : decode cX2_init 60 = .ok (.new 7, 3) := dk_187 0 7 (dk_at dksX2_init_2 15 rfl rfl)
theorem dX2_init_63 : decode cX2_init 63 = .ok (.dup, 1) := dk_89 (dk_at dksX2_init_2 18 rfl rfl)
theorem dX2_init_64 : decode cX2_init 64 = .ok (.invokespecial 9, 3) := dk_183 0 9 (dk_at dksX2_init_2 19 rfl rfl)
theorem dX2_init_67 : decode cX2_init 67 = .ok (.putfield 28, 3) := dk_181 0 28 (dk_at dksX2_init_3 0 rfl rfl)
theorem dX2_init_70 : decode cX2_init 70 = .ok (.aload_n 0, 1) := dk_42 (dk_at dksX2_init_3 3 rfl rfl)
theorem dX2_init_71 : decode cX2_init 71 = .ok (.new 7, 3) := dk_187 0 7 (dk_at dksX2_init_3 4 rfl rfl)
theorem dX2_init_74 : decode cX2_init 74 = .ok (.dup, 1) := dk_89 (dk_at dksX2_init_3 7 rfl rfl)
theorem dX2_init_75 : decode cX2_init 75 = .ok (.invokespecial 9, 3) := dk_183 0 9 (dk_at dksX2_init_3 8 rfl rfl)
theorem dX2_init_78 : decode cX2_init 78 = .ok (.putfield 31, 3) := dk_181 0 31 (dk_at dksX2_init_3 11 rfl rfl)
theorem dX2_init_81 : decode cX2_init 81 = .ok (.aload_n 0, 1) := dk_42 (dk_at dksX2_init_3 14 rfl rfl)
theorem dX2_init_82 : decode cX2_init 82 = .ok (.new 7, 3) := dk_187 0 7 (dk_at dksX2_init_3 15 rfl rfl)
theorem dX2_init_85 : decode cX2_init 85 = .ok (.dup, 1) := dk_89 (dk_at dksX2_init_3 18 rfl rfl)
theorem dX2_init_86 : decode cX2_init 86 = .ok (.invokespecial 9, 3) := dk_183 0 9 (dk_at dksX2_init_3 19 rfl rfl)
theorem dX2_init_89 : decode cX2_init 89 = .ok (.putfield 34, 3) := dk_181 0 34 (dk_at dksX2_init_4 0 rfl rfl)
theorem dX2_init_92 : decode cX2_init 92 = .ok (.aload_n 0, 1) := dk_42 (dk_at dksX2_init_4 3 rfl rfl)
theorem dX2_init_93 : decode cX2_init 93 = .ok (.new 7, 3) := dk_187 0 7 (dk_at dksX2_init_4 4 rfl rfl)
theorem dX2_init_96 : decode cX2_init 96 = .ok (.dup, 1) := dk_89 (dk_at dksX2_init_4 7 rfl rfl)
theorem dX2_init_97 : decode cX2_init 97 = .ok (.invokespecial 9, 3) := dk_183 0 9 (dk_at dksX2_init_4 8 rfl rfl)
theorem dX2_init_100 : decode cX2_init 100 = .ok (.putfield 37, 3) := dk_181 0 37 (dk_at dksX2_init_4 11 rfl rfl)
theorem dX2_init_103 : decode cX2_init 103 = .ok (.aload_n 0, 1) := dk_42 (dk_at dksX2_init_4 14 rfl rfl)
theorem dX2_init_104 : decode cX2_init 104 = .ok (.iconst 4, 1) := dk_7 (dk_at dksX2_init_4 15 rfl rfl)
theorem dX2_init_105 : decode cX2_init 105 = .ok (.newarray .int, 2) := dk_188_10 (dk_at dksX2_init_4 16 rfl rfl)
theorem dX2_init_107 : decode cX2_init 107 = .ok (.dup, 1) := dk_89 (dk_at dksX2_init_4 18 rfl rfl)
theorem dX2_init_108 : decode cX2_init 108 = .ok (.iconst 0, 1) := dk_3 (dk_at dksX2_init_4 19 rfl rfl)
theorem dX2_init_109 : decode cX2_init 109 = .ok (.bipush 100, 2) := dk_16 100 (dk_at dksX2_init_4 20 rfl rfl)
theorem dX2_init_111 : decode cX2_init 111 = .ok (.iastore, 1) := dk_79 (dk_at dksX2_init_4 22 rfl rfl)
theorem dX2_init_112 : decode cX2_init 112 = .ok (.dup, 1) := dk_89 (dk_at dksX2_init_4 23 rfl rfl)
theorem dX2_init_113 : decode cX2_init 113 = .ok (.iconst 1, 1) := dk_4 (dk_at dksX2_init_5 0 rfl rfl)
theorem dX2_init_114 : decode cX2_init 114 = .ok (.bipush 100, 2) := dk_16 100 (dk_at dksX2_init_5 1 rfl rfl)
theorem dX2_init_116 : decode cX2_init 116 = .ok (.iastore, 1) := dk_79 (dk_at dksX2_init_5 3 rfl rfl)
theorem dX2_init_117 : decode cX2_init 117 = .ok (.dup, 1) := dk_89 (dk_at dksX2_init_5 4 rfl rfl)
theorem dX2_init_118 : decode cX2_init 118 = .ok (.iconst 2, 1) := dk_5 (dk_at dksX2_init_5 5 rfl rfl)
theorem dX2_init_119 : decode cX2_init 119 = .ok (.bipush 100, 2) := dk_16 100 (dk_at dksX2_init_5 6 rfl rfl)
theorem dX2_init_121 : decode cX2_init 121 = .ok (.iastore, 1) := dk_79 (dk_at dksX2_init_5 8 rfl rfl)
theorem dX2_init_122 : decode cX2_init 122 = .ok (.dup, 1) := dk_89 (dk_at dksX2_init_5 9 rfl rfl)
theorem dX2_init_123 : decode cX2_init 123 = .ok (.iconst 3, 1) := dk_6 (dk_at dksX2_init_5 10 rfl rfl)
theorem dX2_init_124 : decode cX2_init 124 = .ok (.bipush 100, 2) := dk_16 100 (dk_at dksX2_init_5 11 rfl rfl)
theorem dX2_init_126 : decode cX2_init 126 = .ok (.iastore, 1) := dk_79 (dk_at dksX2_init_5 13 rfl rfl)
theorem dX2_init_127 : decode cX2_init 127 = .ok (.putfield 40, 3) := dk_181 0 40 (dk_at dksX2_init_5 14 rfl rfl)
theorem dX2_init_130 : decode cX2_init 130 = .ok (.aload_n 0, 1) := dk_42 (dk_at dksX2_init_5 17 rfl rfl)
theorem dX2_init_131 : decode cX2_init 131 = .ok (.iconst 0, 1) := dk_3 (dk_at dksX2_init_5 18 rfl rfl)
theorem dX2_init_132 : decode cX2_init 132 = .ok (.putfield 44, 3) := dk_181 0 44 (dk_at dksX2_init_5 19 rfl rfl)
theorem dX2_init_135 : decode cX2_init 135 = .ok (.return_, 1) := dk_177 (dk_at dksX2_init_5 22 rfl rfl)
abbrev cX2_thrown : ByteArray := prog_17_method_3_code
def yX2_thrown : MethodName := ⟨RX2, "thrown", "()I"⟩
theorem dX2_thrown_0 : decode cX2_thrown 0 = .ok (.aload_n 0, 1) := by decide +kernel
theorem dX2_thrown_1 : decode cX2_thrown 1 = .ok (.getfield 44, 3) := by decide +kernel
theorem dX2_thrown_4 : decode cX2_thrown 4 = .ok (.ireturn, 1) := by decide +kernel
abbrev cX2_material : ByteArray := prog_17_method_15_code
def yX2_material : MethodName := ⟨RX2, "material", "(IIIIZ)I"⟩
def dkwX2_material_5 : List UInt8 := [180, 0, 10, 182, 0, 48, 4, 100, 172]
abbrev dktX2_material_5 : List UInt8 := dkwX2_material_5 ++ []
def dkwX2_material_4 : List UInt8 := [172, 42, 180, 0, 10, 187, 0, 137, 89, 27, 28, 29, 21, 4, 21, 5, 183, 0, 139, 182, 0, 89, 87, 42]
abbrev dktX2_material_4 : List UInt8 := dkwX2_material_4 ++ dktX2_material_5
def dkwX2_material_3 : List UInt8 := [182, 0, 48, 16, 6, 160, 0, 7, 5, 167, 0, 4, 3, 181, 0, 44, 42, 180, 0, 44, 158, 0, 5, 3]
abbrev dktX2_material_3 : List UInt8 := dkwX2_material_3 ++ dktX2_material_4
def dkwX2_material_2 : List UInt8 := [153, 0, 7, 4, 167, 0, 4, 3, 54, 6, 42, 21, 6, 154, 0, 7, 4, 167, 0, 20, 42, 180, 0, 10]
abbrev dktX2_material_2 : List UInt8 := dkwX2_material_2 ++ dktX2_material_3
def dkwX2_material_1 : List UInt8 := [29, 133, 28, 133, 20, 0, 133, 184, 0, 52, 153, 0, 20, 21, 4, 133, 9, 20, 0, 135, 184, 0, 52]
abbrev dktX2_material_1 : List UInt8 := dkwX2_material_1 ++ dktX2_material_2
def dkwX2_material_0 : List UInt8 := [27, 133, 9, 20, 0, 131, 184, 0, 52, 153, 0, 45, 28, 133, 9, 20, 0, 133, 184, 0, 52, 153, 0, 33]
abbrev dktX2_material_0 : List UInt8 := dkwX2_material_0 ++ dktX2_material_1
theorem dksX2_material_0 : cX2_material.data.toList.drop 0 = dktX2_material_0 := by decide +kernel
theorem dksX2_material_1 : cX2_material.data.toList.drop 24 = dktX2_material_1 := dk_seg dksX2_material_0 24 rfl rfl
theorem dksX2_material_2 : cX2_material.data.toList.drop 47 = dktX2_material_2 := dk_seg dksX2_material_1 23 rfl rfl
theorem dksX2_material_3 : cX2_material.data.toList.drop 71 = dktX2_material_3 := dk_seg dksX2_material_2 24 rfl rfl
theorem dksX2_material_4 : cX2_material.data.toList.drop 95 = dktX2_material_4 := dk_seg dksX2_material_3 24 rfl rfl
theorem dksX2_material_5 : cX2_material.data.toList.drop 119 = dktX2_material_5 := dk_seg dksX2_material_4 24 rfl rfl
theorem dX2_material_0 : decode cX2_material 0 = .ok (.iload_n 1, 1) := dk_27 (dk_at dksX2_material_0 0 rfl rfl)
theorem dX2_material_1 : decode cX2_material 1 = .ok (.i2l, 1) := dk_133 (dk_at dksX2_material_0 1 rfl rfl)
theorem dX2_material_2 : decode cX2_material 2 = .ok (.lconst 0, 1) := dk_9 (dk_at dksX2_material_0 2 rfl rfl)
theorem dX2_material_3 : decode cX2_material 3 = .ok (.ldc2_w 131, 3) := dk_20 0 131 (dk_at dksX2_material_0 3 rfl rfl)
theorem dX2_material_6 : decode cX2_material 6 = .ok (.invokestatic 52, 3) := dk_184 0 52 (dk_at dksX2_material_0 6 rfl rfl)
theorem dX2_material_9 : decode cX2_material 9 = .ok (.ifCond .eq 45, 3) := dk_153 0 45 (dk_at dksX2_material_0 9 rfl rfl)
theorem dX2_material_12 : decode cX2_material 12 = .ok (.iload_n 2, 1) := dk_28 (dk_at dksX2_material_0 12 rfl rfl)
theorem dX2_material_13 : decode cX2_material 13 = .ok (.i2l, 1) := dk_133 (dk_at dksX2_material_0 13 rfl rfl)
theorem dX2_material_14 : decode cX2_material 14 = .ok (.lconst 0, 1) := dk_9 (dk_at dksX2_material_0 14 rfl rfl)
theorem dX2_material_15 : decode cX2_material 15 = .ok (.ldc2_w 133, 3) := dk_20 0 133 (dk_at dksX2_material_0 15 rfl rfl)
theorem dX2_material_18 : decode cX2_material 18 = .ok (.invokestatic 52, 3) := dk_184 0 52 (dk_at dksX2_material_0 18 rfl rfl)
theorem dX2_material_21 : decode cX2_material 21 = .ok (.ifCond .eq 33, 3) := dk_153 0 33 (dk_at dksX2_material_0 21 rfl rfl)
theorem dX2_material_24 : decode cX2_material 24 = .ok (.iload_n 3, 1) := dk_29 (dk_at dksX2_material_1 0 rfl rfl)
theorem dX2_material_25 : decode cX2_material 25 = .ok (.i2l, 1) := dk_133 (dk_at dksX2_material_1 1 rfl rfl)
theorem dX2_material_26 : decode cX2_material 26 = .ok (.iload_n 2, 1) := dk_28 (dk_at dksX2_material_1 2 rfl rfl)
theorem dX2_material_27 : decode cX2_material 27 = .ok (.i2l, 1) := dk_133 (dk_at dksX2_material_1 3 rfl rfl)
theorem dX2_material_28 : decode cX2_material 28 = .ok (.ldc2_w 133, 3) := dk_20 0 133 (dk_at dksX2_material_1 4 rfl rfl)
theorem dX2_material_31 : decode cX2_material 31 = .ok (.invokestatic 52, 3) := dk_184 0 52 (dk_at dksX2_material_1 7 rfl rfl)
theorem dX2_material_34 : decode cX2_material 34 = .ok (.ifCond .eq 20, 3) := dk_153 0 20 (dk_at dksX2_material_1 10 rfl rfl)
theorem dX2_material_37 : decode cX2_material 37 = .ok (.iload 4, 2) := dk_21 4 (dk_at dksX2_material_1 13 rfl rfl)
theorem dX2_material_39 : decode cX2_material 39 = .ok (.i2l, 1) := dk_133 (dk_at dksX2_material_1 15 rfl rfl)
theorem dX2_material_40 : decode cX2_material 40 = .ok (.lconst 0, 1) := dk_9 (dk_at dksX2_material_1 16 rfl rfl)
theorem dX2_material_41 : decode cX2_material 41 = .ok (.ldc2_w 135, 3) := dk_20 0 135 (dk_at dksX2_material_1 17 rfl rfl)
theorem dX2_material_44 : decode cX2_material 44 = .ok (.invokestatic 52, 3) := dk_184 0 52 (dk_at dksX2_material_1 20 rfl rfl)
theorem dX2_material_47 : decode cX2_material 47 = .ok (.ifCond .eq 7, 3) := dk_153 0 7 (dk_at dksX2_material_2 0 rfl rfl)
theorem dX2_material_50 : decode cX2_material 50 = .ok (.iconst 1, 1) := dk_4 (dk_at dksX2_material_2 3 rfl rfl)
theorem dX2_material_51 : decode cX2_material 51 = .ok (.goto 4, 3) := dk_167 0 4 (dk_at dksX2_material_2 4 rfl rfl)
theorem dX2_material_54 : decode cX2_material 54 = .ok (.iconst 0, 1) := dk_3 (dk_at dksX2_material_2 7 rfl rfl)
theorem dX2_material_55 : decode cX2_material 55 = .ok (.istore 6, 2) := dk_54 6 (dk_at dksX2_material_2 8 rfl rfl)
theorem dX2_material_57 : decode cX2_material 57 = .ok (.aload_n 0, 1) := dk_42 (dk_at dksX2_material_2 10 rfl rfl)
theorem dX2_material_58 : decode cX2_material 58 = .ok (.iload 6, 2) := dk_21 6 (dk_at dksX2_material_2 11 rfl rfl)
theorem dX2_material_60 : decode cX2_material 60 = .ok (.ifCond .ne 7, 3) := dk_154 0 7 (dk_at dksX2_material_2 13 rfl rfl)
theorem dX2_material_63 : decode cX2_material 63 = .ok (.iconst 1, 1) := dk_4 (dk_at dksX2_material_2 16 rfl rfl)
theorem dX2_material_64 : decode cX2_material 64 = .ok (.goto 20, 3) := dk_167 0 20 (dk_at dksX2_material_2 17 rfl rfl)
theorem dX2_material_67 : decode cX2_material 67 = .ok (.aload_n 0, 1) := dk_42 (dk_at dksX2_material_2 20 rfl rfl)
theorem dX2_material_68 : decode cX2_material 68 = .ok (.getfield 10, 3) := dk_180 0 10 (dk_at dksX2_material_2 21 rfl rfl)
theorem dX2_material_71 : decode cX2_material 71 = .ok (.invokevirtual 48, 3) := dk_182 0 48 (dk_at dksX2_material_3 0 rfl rfl)
theorem dX2_material_74 : decode cX2_material 74 = .ok (.bipush 6, 2) := dk_16 6 (dk_at dksX2_material_3 3 rfl rfl)
theorem dX2_material_76 : decode cX2_material 76 = .ok (.if_icmp .ne 7, 3) := dk_160 0 7 (dk_at dksX2_material_3 5 rfl rfl)
theorem dX2_material_79 : decode cX2_material 79 = .ok (.iconst 2, 1) := dk_5 (dk_at dksX2_material_3 8 rfl rfl)
theorem dX2_material_80 : decode cX2_material 80 = .ok (.goto 4, 3) := dk_167 0 4 (dk_at dksX2_material_3 9 rfl rfl)
theorem dX2_material_83 : decode cX2_material 83 = .ok (.iconst 0, 1) := dk_3 (dk_at dksX2_material_3 12 rfl rfl)
theorem dX2_material_84 : decode cX2_material 84 = .ok (.putfield 44, 3) := dk_181 0 44 (dk_at dksX2_material_3 13 rfl rfl)
theorem dX2_material_87 : decode cX2_material 87 = .ok (.aload_n 0, 1) := dk_42 (dk_at dksX2_material_3 16 rfl rfl)
theorem dX2_material_88 : decode cX2_material 88 = .ok (.getfield 44, 3) := dk_180 0 44 (dk_at dksX2_material_3 17 rfl rfl)
theorem dX2_material_91 : decode cX2_material 91 = .ok (.ifCond .le 5, 3) := dk_158 0 5 (dk_at dksX2_material_3 20 rfl rfl)
theorem dX2_material_94 : decode cX2_material 94 = .ok (.iconst 0, 1) := dk_3 (dk_at dksX2_material_3 23 rfl rfl)
theorem dX2_material_95 : decode cX2_material 95 = .ok (.ireturn, 1) := dk_172 (dk_at dksX2_material_4 0 rfl rfl)
theorem dX2_material_96 : decode cX2_material 96 = .ok (.aload_n 0, 1) := dk_42 (dk_at dksX2_material_4 1 rfl rfl)
theorem dX2_material_97 : decode cX2_material 97 = .ok (.getfield 10, 3) := dk_180 0 10 (dk_at dksX2_material_4 2 rfl rfl)
theorem dX2_material_100 : decode cX2_material 100 = .ok (.new 137, 3) := dk_187 0 137 (dk_at dksX2_material_4 5 rfl rfl)
theorem dX2_material_103 : decode cX2_material 103 = .ok (.dup, 1) := dk_89 (dk_at dksX2_material_4 8 rfl rfl)
theorem dX2_material_104 : decode cX2_material 104 = .ok (.iload_n 1, 1) := dk_27 (dk_at dksX2_material_4 9 rfl rfl)
theorem dX2_material_105 : decode cX2_material 105 = .ok (.iload_n 2, 1) := dk_28 (dk_at dksX2_material_4 10 rfl rfl)
theorem dX2_material_106 : decode cX2_material 106 = .ok (.iload_n 3, 1) := dk_29 (dk_at dksX2_material_4 11 rfl rfl)
theorem dX2_material_107 : decode cX2_material 107 = .ok (.iload 4, 2) := dk_21 4 (dk_at dksX2_material_4 12 rfl rfl)
theorem dX2_material_109 : decode cX2_material 109 = .ok (.iload 5, 2) := dk_21 5 (dk_at dksX2_material_4 14 rfl rfl)
theorem dX2_material_111 : decode cX2_material 111 = .ok (.invokespecial 139, 3) := dk_183 0 139 (dk_at dksX2_material_4 16 rfl rfl)
theorem dX2_material_114 : decode cX2_material 114 = .ok (.invokevirtual 89, 3) := dk_182 0 89 (dk_at dksX2_material_4 19 rfl rfl)
theorem dX2_material_117 : decode cX2_material 117 = .ok (.pop, 1) := dk_87 (dk_at dksX2_material_4 22 rfl rfl)
theorem dX2_material_118 : decode cX2_material 118 = .ok (.aload_n 0, 1) := dk_42 (dk_at dksX2_material_4 23 rfl rfl)
theorem dX2_material_119 : decode cX2_material 119 = .ok (.getfield 10, 3) := dk_180 0 10 (dk_at dksX2_material_5 0 rfl rfl)
theorem dX2_material_122 : decode cX2_material 122 = .ok (.invokevirtual 48, 3) := dk_182 0 48 (dk_at dksX2_material_5 3 rfl rfl)
theorem dX2_material_125 : decode cX2_material 125 = .ok (.iconst 1, 1) := dk_4 (dk_at dksX2_material_5 6 rfl rfl)
theorem dX2_material_126 : decode cX2_material 126 = .ok (.isub, 1) := dk_100 (dk_at dksX2_material_5 7 rfl rfl)
theorem dX2_material_127 : decode cX2_material 127 = .ok (.ireturn, 1) := dk_172 (dk_at dksX2_material_5 8 rfl rfl)
abbrev cX2_in : ByteArray := prog_17_method_1_code
def yX2_in : MethodName := ⟨RX2, "in", "(JJJ)Z"⟩
def dkwX2_in_0 : List UInt8 := [30, 32, 148, 155, 0, 14, 30, 22, 4, 148, 157, 0, 7, 4, 167, 0, 4, 3, 172]
abbrev dktX2_in_0 : List UInt8 := dkwX2_in_0 ++ []
theorem dksX2_in_0 : cX2_in.data.toList.drop 0 = dktX2_in_0 := by decide +kernel
theorem dX2_in_0 : decode cX2_in 0 = .ok (.lload_n 0, 1) := dk_30 (dk_at dksX2_in_0 0 rfl rfl)
theorem dX2_in_1 : decode cX2_in 1 = .ok (.lload_n 2, 1) := dk_32 (dk_at dksX2_in_0 1 rfl rfl)
theorem dX2_in_2 : decode cX2_in 2 = .ok (.lcmp, 1) := dk_148 (dk_at dksX2_in_0 2 rfl rfl)
theorem dX2_in_3 : decode cX2_in 3 = .ok (.ifCond .lt 14, 3) := dk_155 0 14 (dk_at dksX2_in_0 3 rfl rfl)
theorem dX2_in_6 : decode cX2_in 6 = .ok (.lload_n 0, 1) := dk_30 (dk_at dksX2_in_0 6 rfl rfl)
theorem dX2_in_7 : decode cX2_in 7 = .ok (.lload 4, 2) := dk_22 4 (dk_at dksX2_in_0 7 rfl rfl)
theorem dX2_in_9 : decode cX2_in 9 = .ok (.lcmp, 1) := dk_148 (dk_at dksX2_in_0 9 rfl rfl)
theorem dX2_in_10 : decode cX2_in 10 = .ok (.ifCond .gt 7, 3) := dk_157 0 7 (dk_at dksX2_in_0 10 rfl rfl)
theorem dX2_in_13 : decode cX2_in 13 = .ok (.iconst 1, 1) := dk_4 (dk_at dksX2_in_0 13 rfl rfl)
theorem dX2_in_14 : decode cX2_in 14 = .ok (.goto 4, 3) := dk_167 0 4 (dk_at dksX2_in_0 14 rfl rfl)
theorem dX2_in_17 : decode cX2_in 17 = .ok (.iconst 0, 1) := dk_3 (dk_at dksX2_in_0 17 rfl rfl)
theorem dX2_in_18 : decode cX2_in 18 = .ok (.ireturn, 1) := dk_172 (dk_at dksX2_in_0 18 rfl rfl)
abbrev cX2_room : ByteArray := prog_17_method_16_code
def yX2_room : MethodName := ⟨RX2, "room", "(III)I"⟩
def dkwX2_room_4 : List UInt8 := [183, 0, 144, 182, 0, 89, 87, 42, 180, 0, 16, 182, 0, 48, 4, 100, 172]
abbrev dktX2_room_4 : List UInt8 := dkwX2_room_4 ++ []
def dkwX2_room_3 : List UInt8 := [181, 0, 44, 42, 180, 0, 44, 158, 0, 5, 3, 172, 42, 180, 0, 16, 187, 0, 126, 89, 27, 28, 29]
abbrev dktX2_room_3 : List UInt8 := dkwX2_room_3 ++ dktX2_room_4
def dkwX2_room_2 : List UInt8 := [154, 0, 7, 4, 167, 0, 19, 42, 180, 0, 16, 182, 0, 48, 8, 160, 0, 7, 5, 167, 0, 4, 3]
abbrev dktX2_room_2 : List UInt8 := dkwX2_room_2 ++ dktX2_room_3
def dkwX2_room_1 : List UInt8 := [29, 133, 10, 20, 0, 133, 184, 0, 52, 153, 0, 7, 4, 167, 0, 4, 3, 54, 4, 42, 21, 4]
abbrev dktX2_room_1 : List UInt8 := dkwX2_room_1 ++ dktX2_room_2
def dkwX2_room_0 : List UInt8 := [27, 133, 9, 20, 0, 142, 184, 0, 52, 153, 0, 31, 28, 133, 9, 20, 0, 133, 184, 0, 52, 153, 0, 19]
abbrev dktX2_room_0 : List UInt8 := dkwX2_room_0 ++ dktX2_room_1
theorem dksX2_room_0 : cX2_room.data.toList.drop 0 = dktX2_room_0 := by decide +kernel
theorem dksX2_room_1 : cX2_room.data.toList.drop 24 = dktX2_room_1 := dk_seg dksX2_room_0 24 rfl rfl
theorem dksX2_room_2 : cX2_room.data.toList.drop 46 = dktX2_room_2 := dk_seg dksX2_room_1 22 rfl rfl
theorem dksX2_room_3 : cX2_room.data.toList.drop 69 = dktX2_room_3 := dk_seg dksX2_room_2 23 rfl rfl
theorem dksX2_room_4 : cX2_room.data.toList.drop 92 = dktX2_room_4 := dk_seg dksX2_room_3 23 rfl rfl
theorem dX2_room_0 : decode cX2_room 0 = .ok (.iload_n 1, 1) := dk_27 (dk_at dksX2_room_0 0 rfl rfl)
theorem dX2_room_1 : decode cX2_room 1 = .ok (.i2l, 1) := dk_133 (dk_at dksX2_room_0 1 rfl rfl)
theorem dX2_room_2 : decode cX2_room 2 = .ok (.lconst 0, 1) := dk_9 (dk_at dksX2_room_0 2 rfl rfl)
theorem dX2_room_3 : decode cX2_room 3 = .ok (.ldc2_w 142, 3) := dk_20 0 142 (dk_at dksX2_room_0 3 rfl rfl)
theorem dX2_room_6 : decode cX2_room 6 = .ok (.invokestatic 52, 3) := dk_184 0 52 (dk_at dksX2_room_0 6 rfl rfl)
theorem dX2_room_9 : decode cX2_room 9 = .ok (.ifCond .eq 31, 3) := dk_153 0 31 (dk_at dksX2_room_0 9 rfl rfl)
theorem dX2_room_12 : decode cX2_room 12 = .ok (.iload_n 2, 1) := dk_28 (dk_at dksX2_room_0 12 rfl rfl)
theorem dX2_room_13 : decode cX2_room 13 = .ok (.i2l, 1) := dk_133 (dk_at dksX2_room_0 13 rfl rfl)
theorem dX2_room_14 : decode cX2_room 14 = .ok (.lconst 0, 1) := dk_9 (dk_at dksX2_room_0 14 rfl rfl)
theorem dX2_room_15 : decode cX2_room 15 = .ok (.ldc2_w 133, 3) := dk_20 0 133 (dk_at dksX2_room_0 15 rfl rfl)
theorem dX2_room_18 : decode cX2_room 18 = .ok (.invokestatic 52, 3) := dk_184 0 52 (dk_at dksX2_room_0 18 rfl rfl)
theorem dX2_room_21 : decode cX2_room 21 = .ok (.ifCond .eq 19, 3) := dk_153 0 19 (dk_at dksX2_room_0 21 rfl rfl)
theorem dX2_room_24 : decode cX2_room 24 = .ok (.iload_n 3, 1) := dk_29 (dk_at dksX2_room_1 0 rfl rfl)
theorem dX2_room_25 : decode cX2_room 25 = .ok (.i2l, 1) := dk_133 (dk_at dksX2_room_1 1 rfl rfl)
theorem dX2_room_26 : decode cX2_room 26 = .ok (.lconst 1, 1) := dk_10 (dk_at dksX2_room_1 2 rfl rfl)
theorem dX2_room_27 : decode cX2_room 27 = .ok (.ldc2_w 133, 3) := dk_20 0 133 (dk_at dksX2_room_1 3 rfl rfl)
theorem dX2_room_30 : decode cX2_room 30 = .ok (.invokestatic 52, 3) := dk_184 0 52 (dk_at dksX2_room_1 6 rfl rfl)
theorem dX2_room_33 : decode cX2_room 33 = .ok (.ifCond .eq 7, 3) := dk_153 0 7 (dk_at dksX2_room_1 9 rfl rfl)
theorem dX2_room_36 : decode cX2_room 36 = .ok (.iconst 1, 1) := dk_4 (dk_at dksX2_room_1 12 rfl rfl)
theorem dX2_room_37 : decode cX2_room 37 = .ok (.goto 4, 3) := dk_167 0 4 (dk_at dksX2_room_1 13 rfl rfl)
theorem dX2_room_40 : decode cX2_room 40 = .ok (.iconst 0, 1) := dk_3 (dk_at dksX2_room_1 16 rfl rfl)
theorem dX2_room_41 : decode cX2_room 41 = .ok (.istore 4, 2) := dk_54 4 (dk_at dksX2_room_1 17 rfl rfl)
theorem dX2_room_43 : decode cX2_room 43 = .ok (.aload_n 0, 1) := dk_42 (dk_at dksX2_room_1 19 rfl rfl)
theorem dX2_room_44 : decode cX2_room 44 = .ok (.iload 4, 2) := dk_21 4 (dk_at dksX2_room_1 20 rfl rfl)
theorem dX2_room_46 : decode cX2_room 46 = .ok (.ifCond .ne 7, 3) := dk_154 0 7 (dk_at dksX2_room_2 0 rfl rfl)
theorem dX2_room_49 : decode cX2_room 49 = .ok (.iconst 1, 1) := dk_4 (dk_at dksX2_room_2 3 rfl rfl)
theorem dX2_room_50 : decode cX2_room 50 = .ok (.goto 19, 3) := dk_167 0 19 (dk_at dksX2_room_2 4 rfl rfl)
theorem dX2_room_53 : decode cX2_room 53 = .ok (.aload_n 0, 1) := dk_42 (dk_at dksX2_room_2 7 rfl rfl)
theorem dX2_room_54 : decode cX2_room 54 = .ok (.getfield 16, 3) := dk_180 0 16 (dk_at dksX2_room_2 8 rfl rfl)
theorem dX2_room_57 : decode cX2_room 57 = .ok (.invokevirtual 48, 3) := dk_182 0 48 (dk_at dksX2_room_2 11 rfl rfl)
theorem dX2_room_60 : decode cX2_room 60 = .ok (.iconst 5, 1) := dk_8 (dk_at dksX2_room_2 14 rfl rfl)
theorem dX2_room_61 : decode cX2_room 61 = .ok (.if_icmp .ne 7, 3) := dk_160 0 7 (dk_at dksX2_room_2 15 rfl rfl)
theorem dX2_room_64 : decode cX2_room 64 = .ok (.iconst 2, 1) := dk_5 (dk_at dksX2_room_2 18 rfl rfl)
theorem dX2_room_65 : decode cX2_room 65 = .ok (.goto 4, 3) := dk_167 0 4 (dk_at dksX2_room_2 19 rfl rfl)
theorem dX2_room_68 : decode cX2_room 68 = .ok (.iconst 0, 1) := dk_3 (dk_at dksX2_room_2 22 rfl rfl)
theorem dX2_room_69 : decode cX2_room 69 = .ok (.putfield 44, 3) := dk_181 0 44 (dk_at dksX2_room_3 0 rfl rfl)
theorem dX2_room_72 : decode cX2_room 72 = .ok (.aload_n 0, 1) := dk_42 (dk_at dksX2_room_3 3 rfl rfl)
theorem dX2_room_73 : decode cX2_room 73 = .ok (.getfield 44, 3) := dk_180 0 44 (dk_at dksX2_room_3 4 rfl rfl)
theorem dX2_room_76 : decode cX2_room 76 = .ok (.ifCond .le 5, 3) := dk_158 0 5 (dk_at dksX2_room_3 7 rfl rfl)
theorem dX2_room_79 : decode cX2_room 79 = .ok (.iconst 0, 1) := dk_3 (dk_at dksX2_room_3 10 rfl rfl)
theorem dX2_room_80 : decode cX2_room 80 = .ok (.ireturn, 1) := dk_172 (dk_at dksX2_room_3 11 rfl rfl)
theorem dX2_room_81 : decode cX2_room 81 = .ok (.aload_n 0, 1) := dk_42 (dk_at dksX2_room_3 12 rfl rfl)
theorem dX2_room_82 : decode cX2_room 82 = .ok (.getfield 16, 3) := dk_180 0 16 (dk_at dksX2_room_3 13 rfl rfl)
theorem dX2_room_85 : decode cX2_room 85 = .ok (.new 126, 3) := dk_187 0 126 (dk_at dksX2_room_3 16 rfl rfl)
theorem dX2_room_88 : decode cX2_room 88 = .ok (.dup, 1) := dk_89 (dk_at dksX2_room_3 19 rfl rfl)
theorem dX2_room_89 : decode cX2_room 89 = .ok (.iload_n 1, 1) := dk_27 (dk_at dksX2_room_3 20 rfl rfl)
theorem dX2_room_90 : decode cX2_room 90 = .ok (.iload_n 2, 1) := dk_28 (dk_at dksX2_room_3 21 rfl rfl)
theorem dX2_room_91 : decode cX2_room 91 = .ok (.iload_n 3, 1) := dk_29 (dk_at dksX2_room_3 22 rfl rfl)
theorem dX2_room_92 : decode cX2_room 92 = .ok (.invokespecial 144, 3) := dk_183 0 144 (dk_at dksX2_room_4 0 rfl rfl)
theorem dX2_room_95 : decode cX2_room 95 = .ok (.invokevirtual 89, 3) := dk_182 0 89 (dk_at dksX2_room_4 3 rfl rfl)
theorem dX2_room_98 : decode cX2_room 98 = .ok (.pop, 1) := dk_87 (dk_at dksX2_room_4 6 rfl rfl)
theorem dX2_room_99 : decode cX2_room 99 = .ok (.aload_n 0, 1) := dk_42 (dk_at dksX2_room_4 7 rfl rfl)
theorem dX2_room_100 : decode cX2_room 100 = .ok (.getfield 16, 3) := dk_180 0 16 (dk_at dksX2_room_4 8 rfl rfl)
theorem dX2_room_103 : decode cX2_room 103 = .ok (.invokevirtual 48, 3) := dk_182 0 48 (dk_at dksX2_room_4 11 rfl rfl)
theorem dX2_room_106 : decode cX2_room 106 = .ok (.iconst 1, 1) := dk_4 (dk_at dksX2_room_4 14 rfl rfl)
theorem dX2_room_107 : decode cX2_room 107 = .ok (.isub, 1) := dk_100 (dk_at dksX2_room_4 15 rfl rfl)
theorem dX2_room_108 : decode cX2_room 108 = .ok (.ireturn, 1) := dk_172 (dk_at dksX2_room_4 16 rfl rfl)
abbrev cX2_climate : ByteArray := prog_17_method_17_code
def yX2_climate : MethodName := ⟨RX2, "climate", "(III)I"⟩
def dkwX2_climate_4 : List UInt8 := [192, 0, 126, 29, 181, 0, 153, 21, 4, 172]
abbrev dktX2_climate_4 : List UInt8 := dkwX2_climate_4 ++ []
def dkwX2_climate_3 : List UInt8 := [180, 0, 16, 27, 182, 0, 68, 192, 0, 126, 28, 181, 0, 150, 42, 180, 0, 16, 27, 182, 0, 68]
abbrev dktX2_climate_3 : List UInt8 := dkwX2_climate_3 ++ dktX2_climate_4
def dkwX2_climate_2 : List UInt8 := [158, 0, 5, 3, 172, 42, 180, 0, 16, 27, 182, 0, 68, 192, 0, 126, 180, 0, 150, 54, 4, 42]
abbrev dktX2_climate_2 : List UInt8 := dkwX2_climate_2 ++ dktX2_climate_3
def dkwX2_climate_1 : List UInt8 := [133, 9, 20, 0, 133, 184, 0, 52, 153, 0, 7, 3, 167, 0, 4, 5, 181, 0, 44, 42, 180, 0, 44]
abbrev dktX2_climate_1 : List UInt8 := dkwX2_climate_1 ++ dktX2_climate_2
def dkwX2_climate_0 : List UInt8 := [42, 27, 182, 0, 147, 153, 0, 5, 3, 172, 42, 28, 133, 9, 20, 0, 142, 184, 0, 52, 153, 0, 19, 29]
abbrev dktX2_climate_0 : List UInt8 := dkwX2_climate_0 ++ dktX2_climate_1
theorem dksX2_climate_0 : cX2_climate.data.toList.drop 0 = dktX2_climate_0 := by decide +kernel
theorem dksX2_climate_1 : cX2_climate.data.toList.drop 24 = dktX2_climate_1 := dk_seg dksX2_climate_0 24 rfl rfl
theorem dksX2_climate_2 : cX2_climate.data.toList.drop 47 = dktX2_climate_2 := dk_seg dksX2_climate_1 23 rfl rfl
theorem dksX2_climate_3 : cX2_climate.data.toList.drop 69 = dktX2_climate_3 := dk_seg dksX2_climate_2 22 rfl rfl
theorem dksX2_climate_4 : cX2_climate.data.toList.drop 91 = dktX2_climate_4 := dk_seg dksX2_climate_3 22 rfl rfl
theorem dX2_climate_0 : decode cX2_climate 0 = .ok (.aload_n 0, 1) := dk_42 (dk_at dksX2_climate_0 0 rfl rfl)
theorem dX2_climate_1 : decode cX2_climate 1 = .ok (.iload_n 1, 1) := dk_27 (dk_at dksX2_climate_0 1 rfl rfl)
theorem dX2_climate_2 : decode cX2_climate 2 = .ok (.invokevirtual 147, 3) := dk_182 0 147 (dk_at dksX2_climate_0 2 rfl rfl)
theorem dX2_climate_5 : decode cX2_climate 5 = .ok (.ifCond .eq 5, 3) := dk_153 0 5 (dk_at dksX2_climate_0 5 rfl rfl)
theorem dX2_climate_8 : decode cX2_climate 8 = .ok (.iconst 0, 1) := dk_3 (dk_at dksX2_climate_0 8 rfl rfl)
theorem dX2_climate_9 : decode cX2_climate 9 = .ok (.ireturn, 1) := dk_172 (dk_at dksX2_climate_0 9 rfl rfl)
theorem dX2_climate_10 : decode cX2_climate 10 = .ok (.aload_n 0, 1) := dk_42 (dk_at dksX2_climate_0 10 rfl rfl)
theorem dX2_climate_11 : decode cX2_climate 11 = .ok (.iload_n 2, 1) := dk_28 (dk_at dksX2_climate_0 11 rfl rfl)
theorem dX2_climate_12 : decode cX2_climate 12 = .ok (.i2l, 1) := dk_133 (dk_at dksX2_climate_0 12 rfl rfl)
theorem dX2_climate_13 : decode cX2_climate 13 = .ok (.lconst 0, 1) := dk_9 (dk_at dksX2_climate_0 13 rfl rfl)
theorem dX2_climate_14 : decode cX2_climate 14 = .ok (.ldc2_w 142, 3) := dk_20 0 142 (dk_at dksX2_climate_0 14 rfl rfl)
theorem dX2_climate_17 : decode cX2_climate 17 = .ok (.invokestatic 52, 3) := dk_184 0 52 (dk_at dksX2_climate_0 17 rfl rfl)
theorem dX2_climate_20 : decode cX2_climate 20 = .ok (.ifCond .eq 19, 3) := dk_153 0 19 (dk_at dksX2_climate_0 20 rfl rfl)
theorem dX2_climate_23 : decode cX2_climate 23 = .ok (.iload_n 3, 1) := dk_29 (dk_at dksX2_climate_0 23 rfl rfl)
theorem dX2_climate_24 : decode cX2_climate 24 = .ok (.i2l, 1) := dk_133 (dk_at dksX2_climate_1 0 rfl rfl)
theorem dX2_climate_25 : decode cX2_climate 25 = .ok (.lconst 0, 1) := dk_9 (dk_at dksX2_climate_1 1 rfl rfl)
theorem dX2_climate_26 : decode cX2_climate 26 = .ok (.ldc2_w 133, 3) := dk_20 0 133 (dk_at dksX2_climate_1 2 rfl rfl)
theorem dX2_climate_29 : decode cX2_climate 29 = .ok (.invokestatic 52, 3) := dk_184 0 52 (dk_at dksX2_climate_1 5 rfl rfl)
theorem dX2_climate_32 : decode cX2_climate 32 = .ok (.ifCond .eq 7, 3) := dk_153 0 7 (dk_at dksX2_climate_1 8 rfl rfl)
theorem dX2_climate_35 : decode cX2_climate 35 = .ok (.iconst 0, 1) := dk_3 (dk_at dksX2_climate_1 11 rfl rfl)
theorem dX2_climate_36 : decode cX2_climate 36 = .ok (.goto 4, 3) := dk_167 0 4 (dk_at dksX2_climate_1 12 rfl rfl)
theorem dX2_climate_39 : decode cX2_climate 39 = .ok (.iconst 2, 1) := dk_5 (dk_at dksX2_climate_1 15 rfl rfl)
theorem dX2_climate_40 : decode cX2_climate 40 = .ok (.putfield 44, 3) := dk_181 0 44 (dk_at dksX2_climate_1 16 rfl rfl)
theorem dX2_climate_43 : decode cX2_climate 43 = .ok (.aload_n 0, 1) := dk_42 (dk_at dksX2_climate_1 19 rfl rfl)
theorem dX2_climate_44 : decode cX2_climate 44 = .ok (.getfield 44, 3) := dk_180 0 44 (dk_at dksX2_climate_1 20 rfl rfl)
theorem dX2_climate_47 : decode cX2_climate 47 = .ok (.ifCond .le 5, 3) := dk_158 0 5 (dk_at dksX2_climate_2 0 rfl rfl)
theorem dX2_climate_50 : decode cX2_climate 50 = .ok (.iconst 0, 1) := dk_3 (dk_at dksX2_climate_2 3 rfl rfl)
theorem dX2_climate_51 : decode cX2_climate 51 = .ok (.ireturn, 1) := dk_172 (dk_at dksX2_climate_2 4 rfl rfl)
theorem dX2_climate_52 : decode cX2_climate 52 = .ok (.aload_n 0, 1) := dk_42 (dk_at dksX2_climate_2 5 rfl rfl)
theorem dX2_climate_53 : decode cX2_climate 53 = .ok (.getfield 16, 3) := dk_180 0 16 (dk_at dksX2_climate_2 6 rfl rfl)
theorem dX2_climate_56 : decode cX2_climate 56 = .ok (.iload_n 1, 1) := dk_27 (dk_at dksX2_climate_2 9 rfl rfl)
theorem dX2_climate_57 : decode cX2_climate 57 = .ok (.invokevirtual 68, 3) := dk_182 0 68 (dk_at dksX2_climate_2 10 rfl rfl)
theorem dX2_climate_60 : decode cX2_climate 60 = .ok (.checkcast 126, 3) := dk_192 0 126 (dk_at dksX2_climate_2 13 rfl rfl)
theorem dX2_climate_63 : decode cX2_climate 63 = .ok (.getfield 150, 3) := dk_180 0 150 (dk_at dksX2_climate_2 16 rfl rfl)
theorem dX2_climate_66 : decode cX2_climate 66 = .ok (.istore 4, 2) := dk_54 4 (dk_at dksX2_climate_2 19 rfl rfl)
theorem dX2_climate_68 : decode cX2_climate 68 = .ok (.aload_n 0, 1) := dk_42 (dk_at dksX2_climate_2 21 rfl rfl)
theorem dX2_climate_69 : decode cX2_climate 69 = .ok (.getfield 16, 3) := dk_180 0 16 (dk_at dksX2_climate_3 0 rfl rfl)
theorem dX2_climate_72 : decode cX2_climate 72 = .ok (.iload_n 1, 1) := dk_27 (dk_at dksX2_climate_3 3 rfl rfl)
theorem dX2_climate_73 : decode cX2_climate 73 = .ok (.invokevirtual 68, 3) := dk_182 0 68 (dk_at dksX2_climate_3 4 rfl rfl)
theorem dX2_climate_76 : decode cX2_climate 76 = .ok (.checkcast 126, 3) := dk_192 0 126 (dk_at dksX2_climate_3 7 rfl rfl)
theorem dX2_climate_79 : decode cX2_climate 79 = .ok (.iload_n 2, 1) := dk_28 (dk_at dksX2_climate_3 10 rfl rfl)
theorem dX2_climate_80 : decode cX2_climate 80 = .ok (.putfield 150, 3) := dk_181 0 150 (dk_at dksX2_climate_3 11 rfl rfl)
theorem dX2_climate_83 : decode cX2_climate 83 = .ok (.aload_n 0, 1) := dk_42 (dk_at dksX2_climate_3 14 rfl rfl)
theorem dX2_climate_84 : decode cX2_climate 84 = .ok (.getfield 16, 3) := dk_180 0 16 (dk_at dksX2_climate_3 15 rfl rfl)
theorem dX2_climate_87 : decode cX2_climate 87 = .ok (.iload_n 1, 1) := dk_27 (dk_at dksX2_climate_3 18 rfl rfl)
theorem dX2_climate_88 : decode cX2_climate 88 = .ok (.invokevirtual 68, 3) := dk_182 0 68 (dk_at dksX2_climate_3 19 rfl rfl)
theorem dX2_climate_91 : decode cX2_climate 91 = .ok (.checkcast 126, 3) := dk_192 0 126 (dk_at dksX2_climate_4 0 rfl rfl)
theorem dX2_climate_94 : decode cX2_climate 94 = .ok (.iload_n 3, 1) := dk_29 (dk_at dksX2_climate_4 3 rfl rfl)
theorem dX2_climate_95 : decode cX2_climate 95 = .ok (.putfield 153, 3) := dk_181 0 153 (dk_at dksX2_climate_4 4 rfl rfl)
theorem dX2_climate_98 : decode cX2_climate 98 = .ok (.iload 4, 2) := dk_21 4 (dk_at dksX2_climate_4 7 rfl rfl)
theorem dX2_climate_100 : decode cX2_climate 100 = .ok (.ireturn, 1) := dk_172 (dk_at dksX2_climate_4 9 rfl rfl)
abbrev cX2_noRoom : ByteArray := prog_17_method_7_code
def yX2_noRoom : MethodName := ⟨RX2, "noRoom", "(I)Z"⟩
def dkwX2_noRoom_1 : List UInt8 := [4, 167, 0, 4, 3, 172]
abbrev dktX2_noRoom_1 : List UInt8 := dkwX2_noRoom_1 ++ []
def dkwX2_noRoom_0 : List UInt8 := [42, 42, 27, 182, 0, 60, 153, 0, 7, 3, 167, 0, 4, 4, 181, 0, 44, 42, 180, 0, 44, 158, 0, 7]
abbrev dktX2_noRoom_0 : List UInt8 := dkwX2_noRoom_0 ++ dktX2_noRoom_1
theorem dksX2_noRoom_0 : cX2_noRoom.data.toList.drop 0 = dktX2_noRoom_0 := by decide +kernel
theorem dksX2_noRoom_1 : cX2_noRoom.data.toList.drop 24 = dktX2_noRoom_1 := dk_seg dksX2_noRoom_0 24 rfl rfl
theorem dX2_noRoom_0 : decode cX2_noRoom 0 = .ok (.aload_n 0, 1) := dk_42 (dk_at dksX2_noRoom_0 0 rfl rfl)
theorem dX2_noRoom_1 : decode cX2_noRoom 1 = .ok (.aload_n 0, 1) := dk_42 (dk_at dksX2_noRoom_0 1 rfl rfl)
theorem dX2_noRoom_2 : decode cX2_noRoom 2 = .ok (.iload_n 1, 1) := dk_27 (dk_at dksX2_noRoom_0 2 rfl rfl)
theorem dX2_noRoom_3 : decode cX2_noRoom 3 = .ok (.invokevirtual 60, 3) := dk_182 0 60 (dk_at dksX2_noRoom_0 3 rfl rfl)
theorem dX2_noRoom_6 : decode cX2_noRoom 6 = .ok (.ifCond .eq 7, 3) := dk_153 0 7 (dk_at dksX2_noRoom_0 6 rfl rfl)
theorem dX2_noRoom_9 : decode cX2_noRoom 9 = .ok (.iconst 0, 1) := dk_3 (dk_at dksX2_noRoom_0 9 rfl rfl)
theorem dX2_noRoom_10 : decode cX2_noRoom 10 = .ok (.goto 4, 3) := dk_167 0 4 (dk_at dksX2_noRoom_0 10 rfl rfl)
theorem dX2_noRoom_13 : decode cX2_noRoom 13 = .ok (.iconst 1, 1) := dk_4 (dk_at dksX2_noRoom_0 13 rfl rfl)
theorem dX2_noRoom_14 : decode cX2_noRoom 14 = .ok (.putfield 44, 3) := dk_181 0 44 (dk_at dksX2_noRoom_0 14 rfl rfl)
theorem dX2_noRoom_17 : decode cX2_noRoom 17 = .ok (.aload_n 0, 1) := dk_42 (dk_at dksX2_noRoom_0 17 rfl rfl)
theorem dX2_noRoom_18 : decode cX2_noRoom 18 = .ok (.getfield 44, 3) := dk_180 0 44 (dk_at dksX2_noRoom_0 18 rfl rfl)
theorem dX2_noRoom_21 : decode cX2_noRoom 21 = .ok (.ifCond .le 7, 3) := dk_158 0 7 (dk_at dksX2_noRoom_0 21 rfl rfl)
theorem dX2_noRoom_24 : decode cX2_noRoom 24 = .ok (.iconst 1, 1) := dk_4 (dk_at dksX2_noRoom_1 0 rfl rfl)
theorem dX2_noRoom_25 : decode cX2_noRoom 25 = .ok (.goto 4, 3) := dk_167 0 4 (dk_at dksX2_noRoom_1 1 rfl rfl)
theorem dX2_noRoom_28 : decode cX2_noRoom 28 = .ok (.iconst 0, 1) := dk_3 (dk_at dksX2_noRoom_1 4 rfl rfl)
theorem dX2_noRoom_29 : decode cX2_noRoom 29 = .ok (.ireturn, 1) := dk_172 (dk_at dksX2_noRoom_1 5 rfl rfl)
abbrev cX2_isRoom : ByteArray := prog_17_method_5_code
def yX2_isRoom : MethodName := ⟨RX2, "isRoom", "(I)Z"⟩
def dkwX2_isRoom_0 : List UInt8 := [27, 133, 9, 42, 180, 0, 16, 182, 0, 48, 4, 100, 133, 184, 0, 52, 172]
abbrev dktX2_isRoom_0 : List UInt8 := dkwX2_isRoom_0 ++ []
theorem dksX2_isRoom_0 : cX2_isRoom.data.toList.drop 0 = dktX2_isRoom_0 := by decide +kernel
theorem dX2_isRoom_0 : decode cX2_isRoom 0 = .ok (.iload_n 1, 1) := dk_27 (dk_at dksX2_isRoom_0 0 rfl rfl)
theorem dX2_isRoom_1 : decode cX2_isRoom 1 = .ok (.i2l, 1) := dk_133 (dk_at dksX2_isRoom_0 1 rfl rfl)
theorem dX2_isRoom_2 : decode cX2_isRoom 2 = .ok (.lconst 0, 1) := dk_9 (dk_at dksX2_isRoom_0 2 rfl rfl)
theorem dX2_isRoom_3 : decode cX2_isRoom 3 = .ok (.aload_n 0, 1) := dk_42 (dk_at dksX2_isRoom_0 3 rfl rfl)
theorem dX2_isRoom_4 : decode cX2_isRoom 4 = .ok (.getfield 16, 3) := dk_180 0 16 (dk_at dksX2_isRoom_0 4 rfl rfl)
theorem dX2_isRoom_7 : decode cX2_isRoom 7 = .ok (.invokevirtual 48, 3) := dk_182 0 48 (dk_at dksX2_isRoom_0 7 rfl rfl)
theorem dX2_isRoom_10 : decode cX2_isRoom 10 = .ok (.iconst 1, 1) := dk_4 (dk_at dksX2_isRoom_0 10 rfl rfl)
theorem dX2_isRoom_11 : decode cX2_isRoom 11 = .ok (.isub, 1) := dk_100 (dk_at dksX2_isRoom_0 11 rfl rfl)
theorem dX2_isRoom_12 : decode cX2_isRoom 12 = .ok (.i2l, 1) := dk_133 (dk_at dksX2_isRoom_0 12 rfl rfl)
theorem dX2_isRoom_13 : decode cX2_isRoom 13 = .ok (.invokestatic 52, 3) := dk_184 0 52 (dk_at dksX2_isRoom_0 13 rfl rfl)
theorem dX2_isRoom_16 : decode cX2_isRoom 16 = .ok (.ireturn, 1) := dk_172 (dk_at dksX2_isRoom_0 16 rfl rfl)
abbrev cX2_infest : ByteArray := prog_17_method_18_code
def yX2_infest : MethodName := ⟨RX2, "infest", "(IIZ)Z"⟩
def dkwX2_infest_4 : List UInt8 := [180, 0, 158, 4, 28, 120, 2, 130, 126, 181, 0, 158, 21, 5, 172]
abbrev dktX2_infest_4 : List UInt8 := dkwX2_infest_4 ++ []
def dkwX2_infest_3 : List UInt8 := [54, 5, 25, 4, 29, 153, 0, 15, 25, 4, 180, 0, 158, 4, 28, 120, 128, 167, 0, 14, 25, 4]
abbrev dktX2_infest_3 : List UInt8 := dkwX2_infest_3 ++ dktX2_infest_4
def dkwX2_infest_2 : List UInt8 := [192, 0, 126, 58, 4, 25, 4, 180, 0, 158, 28, 122, 4, 126, 4, 160, 0, 7, 4, 167, 0, 4, 3]
abbrev dktX2_infest_2 : List UInt8 := dkwX2_infest_2 ++ dktX2_infest_3
def dkwX2_infest_1 : List UInt8 := [167, 0, 4, 5, 181, 0, 44, 42, 180, 0, 44, 158, 0, 5, 3, 172, 42, 180, 0, 16, 27, 182, 0, 68]
abbrev dktX2_infest_1 : List UInt8 := dkwX2_infest_1 ++ dktX2_infest_2
def dkwX2_infest_0 : List UInt8 := [42, 27, 182, 0, 147, 153, 0, 5, 3, 172, 42, 28, 133, 9, 20, 0, 156, 184, 0, 52, 153, 0, 7, 3]
abbrev dktX2_infest_0 : List UInt8 := dkwX2_infest_0 ++ dktX2_infest_1
theorem dksX2_infest_0 : cX2_infest.data.toList.drop 0 = dktX2_infest_0 := by decide +kernel
theorem dksX2_infest_1 : cX2_infest.data.toList.drop 24 = dktX2_infest_1 := dk_seg dksX2_infest_0 24 rfl rfl
theorem dksX2_infest_2 : cX2_infest.data.toList.drop 48 = dktX2_infest_2 := dk_seg dksX2_infest_1 24 rfl rfl
theorem dksX2_infest_3 : cX2_infest.data.toList.drop 71 = dktX2_infest_3 := dk_seg dksX2_infest_2 23 rfl rfl
theorem dksX2_infest_4 : cX2_infest.data.toList.drop 93 = dktX2_infest_4 := dk_seg dksX2_infest_3 22 rfl rfl
theorem dX2_infest_0 : decode cX2_infest 0 = .ok (.aload_n 0, 1) := dk_42 (dk_at dksX2_infest_0 0 rfl rfl)
theorem dX2_infest_1 : decode cX2_infest 1 = .ok (.iload_n 1, 1) := dk_27 (dk_at dksX2_infest_0 1 rfl rfl)
theorem dX2_infest_2 : decode cX2_infest 2 = .ok (.invokevirtual 147, 3) := dk_182 0 147 (dk_at dksX2_infest_0 2 rfl rfl)
theorem dX2_infest_5 : decode cX2_infest 5 = .ok (.ifCond .eq 5, 3) := dk_153 0 5 (dk_at dksX2_infest_0 5 rfl rfl)
theorem dX2_infest_8 : decode cX2_infest 8 = .ok (.iconst 0, 1) := dk_3 (dk_at dksX2_infest_0 8 rfl rfl)
theorem dX2_infest_9 : decode cX2_infest 9 = .ok (.ireturn, 1) := dk_172 (dk_at dksX2_infest_0 9 rfl rfl)
theorem dX2_infest_10 : decode cX2_infest 10 = .ok (.aload_n 0, 1) := dk_42 (dk_at dksX2_infest_0 10 rfl rfl)
theorem dX2_infest_11 : decode cX2_infest 11 = .ok (.iload_n 2, 1) := dk_28 (dk_at dksX2_infest_0 11 rfl rfl)
theorem dX2_infest_12 : decode cX2_infest 12 = .ok (.i2l, 1) := dk_133 (dk_at dksX2_infest_0 12 rfl rfl)
theorem dX2_infest_13 : decode cX2_infest 13 = .ok (.lconst 0, 1) := dk_9 (dk_at dksX2_infest_0 13 rfl rfl)
theorem dX2_infest_14 : decode cX2_infest 14 = .ok (.ldc2_w 156, 3) := dk_20 0 156 (dk_at dksX2_infest_0 14 rfl rfl)
theorem dX2_infest_17 : decode cX2_infest 17 = .ok (.invokestatic 52, 3) := dk_184 0 52 (dk_at dksX2_infest_0 17 rfl rfl)
theorem dX2_infest_20 : decode cX2_infest 20 = .ok (.ifCond .eq 7, 3) := dk_153 0 7 (dk_at dksX2_infest_0 20 rfl rfl)
theorem dX2_infest_23 : decode cX2_infest 23 = .ok (.iconst 0, 1) := dk_3 (dk_at dksX2_infest_0 23 rfl rfl)
theorem dX2_infest_24 : decode cX2_infest 24 = .ok (.goto 4, 3) := dk_167 0 4 (dk_at dksX2_infest_1 0 rfl rfl)
theorem dX2_infest_27 : decode cX2_infest 27 = .ok (.iconst 2, 1) := dk_5 (dk_at dksX2_infest_1 3 rfl rfl)
theorem dX2_infest_28 : decode cX2_infest 28 = .ok (.putfield 44, 3) := dk_181 0 44 (dk_at dksX2_infest_1 4 rfl rfl)
theorem dX2_infest_31 : decode cX2_infest 31 = .ok (.aload_n 0, 1) := dk_42 (dk_at dksX2_infest_1 7 rfl rfl)
theorem dX2_infest_32 : decode cX2_infest 32 = .ok (.getfield 44, 3) := dk_180 0 44 (dk_at dksX2_infest_1 8 rfl rfl)
theorem dX2_infest_35 : decode cX2_infest 35 = .ok (.ifCond .le 5, 3) := dk_158 0 5 (dk_at dksX2_infest_1 11 rfl rfl)
theorem dX2_infest_38 : decode cX2_infest 38 = .ok (.iconst 0, 1) := dk_3 (dk_at dksX2_infest_1 14 rfl rfl)
theorem dX2_infest_39 : decode cX2_infest 39 = .ok (.ireturn, 1) := dk_172 (dk_at dksX2_infest_1 15 rfl rfl)
theorem dX2_infest_40 : decode cX2_infest 40 = .ok (.aload_n 0, 1) := dk_42 (dk_at dksX2_infest_1 16 rfl rfl)
theorem dX2_infest_41 : decode cX2_infest 41 = .ok (.getfield 16, 3) := dk_180 0 16 (dk_at dksX2_infest_1 17 rfl rfl)
theorem dX2_infest_44 : decode cX2_infest 44 = .ok (.iload_n 1, 1) := dk_27 (dk_at dksX2_infest_1 20 rfl rfl)
theorem dX2_infest_45 : decode cX2_infest 45 = .ok (.invokevirtual 68, 3) := dk_182 0 68 (dk_at dksX2_infest_1 21 rfl rfl)
theorem dX2_infest_48 : decode cX2_infest 48 = .ok (.checkcast 126, 3) := dk_192 0 126 (dk_at dksX2_infest_2 0 rfl rfl)
theorem dX2_infest_51 : decode cX2_infest 51 = .ok (.astore 4, 2) := dk_58 4 (dk_at dksX2_infest_2 3 rfl rfl)
theorem dX2_infest_53 : decode cX2_infest 53 = .ok (.aload 4, 2) := dk_25 4 (dk_at dksX2_infest_2 5 rfl rfl)
theorem dX2_infest_55 : decode cX2_infest 55 = .ok (.getfield 158, 3) := dk_180 0 158 (dk_at dksX2_infest_2 7 rfl rfl)
theorem dX2_infest_58 : decode cX2_infest 58 = .ok (.iload_n 2, 1) := dk_28 (dk_at dksX2_infest_2 10 rfl rfl)
theorem dX2_infest_59 : decode cX2_infest 59 = .ok (.ishr, 1) := dk_122 (dk_at dksX2_infest_2 11 rfl rfl)
theorem dX2_infest_60 : decode cX2_infest 60 = .ok (.iconst 1, 1) := dk_4 (dk_at dksX2_infest_2 12 rfl rfl)
theorem dX2_infest_61 : decode cX2_infest 61 = .ok (.iand, 1) := dk_126 (dk_at dksX2_infest_2 13 rfl rfl)
theorem dX2_infest_62 : decode cX2_infest 62 = .ok (.iconst 1, 1) := dk_4 (dk_at dksX2_infest_2 14 rfl rfl)
theorem dX2_infest_63 : decode cX2_infest 63 = .ok (.if_icmp .ne 7, 3) := dk_160 0 7 (dk_at dksX2_infest_2 15 rfl rfl)
theorem dX2_infest_66 : decode cX2_infest 66 = .ok (.iconst 1, 1) := dk_4 (dk_at dksX2_infest_2 18 rfl rfl)
theorem dX2_infest_67 : decode cX2_infest 67 = .ok (.goto 4, 3) := dk_167 0 4 (dk_at dksX2_infest_2 19 rfl rfl)
theorem dX2_infest_70 : decode cX2_infest 70 = .ok (.iconst 0, 1) := dk_3 (dk_at dksX2_infest_2 22 rfl rfl)
theorem dX2_infest_71 : decode cX2_infest 71 = .ok (.istore 5, 2) := dk_54 5 (dk_at dksX2_infest_3 0 rfl rfl)
theorem dX2_infest_73 : decode cX2_infest 73 = .ok (.aload 4, 2) := dk_25 4 (dk_at dksX2_infest_3 2 rfl rfl)
theorem dX2_infest_75 : decode cX2_infest 75 = .ok (.iload_n 3, 1) := dk_29 (dk_at dksX2_infest_3 4 rfl rfl)
theorem dX2_infest_76 : decode cX2_infest 76 = .ok (.ifCond .eq 15, 3) := dk_153 0 15 (dk_at dksX2_infest_3 5 rfl rfl)
theorem dX2_infest_79 : decode cX2_infest 79 = .ok (.aload 4, 2) := dk_25 4 (dk_at dksX2_infest_3 8 rfl rfl)
theorem dX2_infest_81 : decode cX2_infest 81 = .ok (.getfield 158, 3) := dk_180 0 158 (dk_at dksX2_infest_3 10 rfl rfl)
theorem dX2_infest_84 : decode cX2_infest 84 = .ok (.iconst 1, 1) := dk_4 (dk_at dksX2_infest_3 13 rfl rfl)
theorem dX2_infest_85 : decode cX2_infest 85 = .ok (.iload_n 2, 1) := dk_28 (dk_at dksX2_infest_3 14 rfl rfl)
theorem dX2_infest_86 : decode cX2_infest 86 = .ok (.ishl, 1) := dk_120 (dk_at dksX2_infest_3 15 rfl rfl)
theorem dX2_infest_87 : decode cX2_infest 87 = .ok (.ior, 1) := dk_128 (dk_at dksX2_infest_3 16 rfl rfl)
theorem dX2_infest_88 : decode cX2_infest 88 = .ok (.goto 14, 3) := dk_167 0 14 (dk_at dksX2_infest_3 17 rfl rfl)
theorem dX2_infest_91 : decode cX2_infest 91 = .ok (.aload 4, 2) := dk_25 4 (dk_at dksX2_infest_3 20 rfl rfl)
theorem dX2_infest_93 : decode cX2_infest 93 = .ok (.getfield 158, 3) := dk_180 0 158 (dk_at dksX2_infest_4 0 rfl rfl)
theorem dX2_infest_96 : decode cX2_infest 96 = .ok (.iconst 1, 1) := dk_4 (dk_at dksX2_infest_4 3 rfl rfl)
theorem dX2_infest_97 : decode cX2_infest 97 = .ok (.iload_n 2, 1) := dk_28 (dk_at dksX2_infest_4 4 rfl rfl)
theorem dX2_infest_98 : decode cX2_infest 98 = .ok (.ishl, 1) := dk_120 (dk_at dksX2_infest_4 5 rfl rfl)
theorem dX2_infest_99 : decode cX2_infest 99 = .ok (.iconst (-1), 1) := dk_2 (dk_at dksX2_infest_4 6 rfl rfl)
theorem dX2_infest_100 : decode cX2_infest 100 = .ok (.ixor, 1) := dk_130 (dk_at dksX2_infest_4 7 rfl rfl)
theorem dX2_infest_101 : decode cX2_infest 101 = .ok (.iand, 1) := dk_126 (dk_at dksX2_infest_4 8 rfl rfl)
theorem dX2_infest_102 : decode cX2_infest 102 = .ok (.putfield 158, 3) := dk_181 0 158 (dk_at dksX2_infest_4 9 rfl rfl)
theorem dX2_infest_105 : decode cX2_infest 105 = .ok (.iload 5, 2) := dk_21 5 (dk_at dksX2_infest_4 12 rfl rfl)
theorem dX2_infest_107 : decode cX2_infest 107 = .ok (.ireturn, 1) := dk_172 (dk_at dksX2_infest_4 14 rfl rfl)
abbrev cX2_thing : ByteArray := prog_17_method_19_code
def yX2_thing : MethodName := ⟨RX2, "thing", "(IIII)I"⟩
def dkwX2_thing_6 : List UInt8 := [42, 25, 5, 21, 4, 182, 0, 172, 42, 180, 0, 19, 182, 0, 48, 4, 100, 172]
abbrev dktX2_thing_6 : List UInt8 := dkwX2_thing_6 ++ []
def dkwX2_thing_5 : List UInt8 := [172, 187, 0, 64, 89, 27, 28, 29, 2, 183, 0, 169, 58, 5, 42, 180, 0, 19, 25, 5, 182, 0, 89, 87]
abbrev dktX2_thing_5 : List UInt8 := dkwX2_thing_5 ++ dktX2_thing_6
def dkwX2_thing_4 : List UInt8 := [182, 0, 48, 16, 14, 160, 0, 7, 7, 167, 0, 4, 3, 181, 0, 44, 42, 180, 0, 44, 158, 0, 5, 3]
abbrev dktX2_thing_4 : List UInt8 := dkwX2_thing_4 ++ dktX2_thing_5
def dkwX2_thing_3 : List UInt8 := [158, 0, 5, 3, 172, 42, 42, 21, 4, 29, 182, 0, 165, 154, 0, 7, 6, 167, 0, 20, 42, 180, 0, 19]
abbrev dktX2_thing_3 : List UInt8 := dkwX2_thing_3 ++ dktX2_thing_4
def dkwX2_thing_2 : List UInt8 := [10, 20, 0, 163, 184, 0, 52, 154, 0, 7, 5, 167, 0, 4, 3, 181, 0, 44, 42, 180, 0, 44]
abbrev dktX2_thing_2 : List UInt8 := dkwX2_thing_2 ++ dktX2_thing_3
def dkwX2_thing_1 : List UInt8 := [182, 0, 60, 154, 0, 7, 4, 167, 0, 32, 28, 133, 10, 20, 0, 161, 184, 0, 52, 153, 0, 15, 29, 133]
abbrev dktX2_thing_1 : List UInt8 := dkwX2_thing_1 ++ dktX2_thing_2
def dkwX2_thing_0 : List UInt8 := [42, 27, 133, 9, 42, 180, 0, 10, 182, 0, 48, 4, 100, 133, 184, 0, 52, 153, 0, 12, 42, 21, 4]
abbrev dktX2_thing_0 : List UInt8 := dkwX2_thing_0 ++ dktX2_thing_1
theorem dksX2_thing_0 : cX2_thing.data.toList.drop 0 = dktX2_thing_0 := by decide +kernel
theorem dksX2_thing_1 : cX2_thing.data.toList.drop 23 = dktX2_thing_1 := dk_seg dksX2_thing_0 23 rfl rfl
theorem dksX2_thing_2 : cX2_thing.data.toList.drop 47 = dktX2_thing_2 := dk_seg dksX2_thing_1 24 rfl rfl
theorem dksX2_thing_3 : cX2_thing.data.toList.drop 69 = dktX2_thing_3 := dk_seg dksX2_thing_2 22 rfl rfl
theorem dksX2_thing_4 : cX2_thing.data.toList.drop 93 = dktX2_thing_4 := dk_seg dksX2_thing_3 24 rfl rfl
theorem dksX2_thing_5 : cX2_thing.data.toList.drop 117 = dktX2_thing_5 := dk_seg dksX2_thing_4 24 rfl rfl
theorem dksX2_thing_6 : cX2_thing.data.toList.drop 141 = dktX2_thing_6 := dk_seg dksX2_thing_5 24 rfl rfl
theorem dX2_thing_0 : decode cX2_thing 0 = .ok (.aload_n 0, 1) := dk_42 (dk_at dksX2_thing_0 0 rfl rfl)
theorem dX2_thing_1 : decode cX2_thing 1 = .ok (.iload_n 1, 1) := dk_27 (dk_at dksX2_thing_0 1 rfl rfl)
theorem dX2_thing_2 : decode cX2_thing 2 = .ok (.i2l, 1) := dk_133 (dk_at dksX2_thing_0 2 rfl rfl)
theorem dX2_thing_3 : decode cX2_thing 3 = .ok (.lconst 0, 1) := dk_9 (dk_at dksX2_thing_0 3 rfl rfl)
theorem dX2_thing_4 : decode cX2_thing 4 = .ok (.aload_n 0, 1) := dk_42 (dk_at dksX2_thing_0 4 rfl rfl)
theorem dX2_thing_5 : decode cX2_thing 5 = .ok (.getfield 10, 3) := dk_180 0 10 (dk_at dksX2_thing_0 5 rfl rfl)
theorem dX2_thing_8 : decode cX2_thing 8 = .ok (.invokevirtual 48, 3) := dk_182 0 48 (dk_at dksX2_thing_0 8 rfl rfl)
theorem dX2_thing_11 : decode cX2_thing 11 = .ok (.iconst 1, 1) := dk_4 (dk_at dksX2_thing_0 11 rfl rfl)
theorem dX2_thing_12 : decode cX2_thing 12 = .ok (.isub, 1) := dk_100 (dk_at dksX2_thing_0 12 rfl rfl)
theorem dX2_thing_13 : decode cX2_thing 13 = .ok (.i2l, 1) := dk_133 (dk_at dksX2_thing_0 13 rfl rfl)
theorem dX2_thing_14 : decode cX2_thing 14 = .ok (.invokestatic 52, 3) := dk_184 0 52 (dk_at dksX2_thing_0 14 rfl rfl)
theorem dX2_thing_17 : decode cX2_thing 17 = .ok (.ifCond .eq 12, 3) := dk_153 0 12 (dk_at dksX2_thing_0 17 rfl rfl)
theorem dX2_thing_20 : decode cX2_thing 20 = .ok (.aload_n 0, 1) := dk_42 (dk_at dksX2_thing_0 20 rfl rfl)
theorem dX2_thing_21 : decode cX2_thing 21 = .ok (.iload 4, 2) := dk_21 4 (dk_at dksX2_thing_0 21 rfl rfl)
theorem dX2_thing_23 : decode cX2_thing 23 = .ok (.invokevirtual 60, 3) := dk_182 0 60 (dk_at dksX2_thing_1 0 rfl rfl)
theorem dX2_thing_26 : decode cX2_thing 26 = .ok (.ifCond .ne 7, 3) := dk_154 0 7 (dk_at dksX2_thing_1 3 rfl rfl)
theorem dX2_thing_29 : decode cX2_thing 29 = .ok (.iconst 1, 1) := dk_4 (dk_at dksX2_thing_1 6 rfl rfl)
theorem dX2_thing_30 : decode cX2_thing 30 = .ok (.goto 32, 3) := dk_167 0 32 (dk_at dksX2_thing_1 7 rfl rfl)
theorem dX2_thing_33 : decode cX2_thing 33 = .ok (.iload_n 2, 1) := dk_28 (dk_at dksX2_thing_1 10 rfl rfl)
theorem dX2_thing_34 : decode cX2_thing 34 = .ok (.i2l, 1) := dk_133 (dk_at dksX2_thing_1 11 rfl rfl)
theorem dX2_thing_35 : decode cX2_thing 35 = .ok (.lconst 1, 1) := dk_10 (dk_at dksX2_thing_1 12 rfl rfl)
theorem dX2_thing_36 : decode cX2_thing 36 = .ok (.ldc2_w 161, 3) := dk_20 0 161 (dk_at dksX2_thing_1 13 rfl rfl)
theorem dX2_thing_39 : decode cX2_thing 39 = .ok (.invokestatic 52, 3) := dk_184 0 52 (dk_at dksX2_thing_1 16 rfl rfl)
theorem dX2_thing_42 : decode cX2_thing 42 = .ok (.ifCond .eq 15, 3) := dk_153 0 15 (dk_at dksX2_thing_1 19 rfl rfl)
theorem dX2_thing_45 : decode cX2_thing 45 = .ok (.iload_n 3, 1) := dk_29 (dk_at dksX2_thing_1 22 rfl rfl)
theorem dX2_thing_46 : decode cX2_thing 46 = .ok (.i2l, 1) := dk_133 (dk_at dksX2_thing_1 23 rfl rfl)
theorem dX2_thing_47 : decode cX2_thing 47 = .ok (.lconst 1, 1) := dk_10 (dk_at dksX2_thing_2 0 rfl rfl)
theorem dX2_thing_48 : decode cX2_thing 48 = .ok (.ldc2_w 163, 3) := dk_20 0 163 (dk_at dksX2_thing_2 1 rfl rfl)
theorem dX2_thing_51 : decode cX2_thing 51 = .ok (.invokestatic 52, 3) := dk_184 0 52 (dk_at dksX2_thing_2 4 rfl rfl)
theorem dX2_thing_54 : decode cX2_thing 54 = .ok (.ifCond .ne 7, 3) := dk_154 0 7 (dk_at dksX2_thing_2 7 rfl rfl)
theorem dX2_thing_57 : decode cX2_thing 57 = .ok (.iconst 2, 1) := dk_5 (dk_at dksX2_thing_2 10 rfl rfl)
theorem dX2_thing_58 : decode cX2_thing 58 = .ok (.goto 4, 3) := dk_167 0 4 (dk_at dksX2_thing_2 11 rfl rfl)
theorem dX2_thing_61 : decode cX2_thing 61 = .ok (.iconst 0, 1) := dk_3 (dk_at dksX2_thing_2 14 rfl rfl)
theorem dX2_thing_62 : decode cX2_thing 62 = .ok (.putfield 44, 3) := dk_181 0 44 (dk_at dksX2_thing_2 15 rfl rfl)
theorem dX2_thing_65 : decode cX2_thing 65 = .ok (.aload_n 0, 1) := dk_42 (dk_at dksX2_thing_2 18 rfl rfl)
theorem dX2_thing_66 : decode cX2_thing 66 = .ok (.getfield 44, 3) := dk_180 0 44 (dk_at dksX2_thing_2 19 rfl rfl)
theorem dX2_thing_69 : decode cX2_thing 69 = .ok (.ifCond .le 5, 3) := dk_158 0 5 (dk_at dksX2_thing_3 0 rfl rfl)
theorem dX2_thing_72 : decode cX2_thing 72 = .ok (.iconst 0, 1) := dk_3 (dk_at dksX2_thing_3 3 rfl rfl)
theorem dX2_thing_73 : decode cX2_thing 73 = .ok (.ireturn, 1) := dk_172 (dk_at dksX2_thing_3 4 rfl rfl)
theorem dX2_thing_74 : decode cX2_thing 74 = .ok (.aload_n 0, 1) := dk_42 (dk_at dksX2_thing_3 5 rfl rfl)
theorem dX2_thing_75 : decode cX2_thing 75 = .ok (.aload_n 0, 1) := dk_42 (dk_at dksX2_thing_3 6 rfl rfl)
theorem dX2_thing_76 : decode cX2_thing 76 = .ok (.iload 4, 2) := dk_21 4 (dk_at dksX2_thing_3 7 rfl rfl)
theorem dX2_thing_78 : decode cX2_thing 78 = .ok (.iload_n 3, 1) := dk_29 (dk_at dksX2_thing_3 9 rfl rfl)
theorem dX2_thing_79 : decode cX2_thing 79 = .ok (.invokevirtual 165, 3) := dk_182 0 165 (dk_at dksX2_thing_3 10 rfl rfl)
theorem dX2_thing_82 : decode cX2_thing 82 = .ok (.ifCond .ne 7, 3) := dk_154 0 7 (dk_at dksX2_thing_3 13 rfl rfl)
theorem dX2_thing_85 : decode cX2_thing 85 = .ok (.iconst 3, 1) := dk_6 (dk_at dksX2_thing_3 16 rfl rfl)
theorem dX2_thing_86 : decode cX2_thing 86 = .ok (.goto 20, 3) := dk_167 0 20 (dk_at dksX2_thing_3 17 rfl rfl)
theorem dX2_thing_89 : decode cX2_thing 89 = .ok (.aload_n 0, 1) := dk_42 (dk_at dksX2_thing_3 20 rfl rfl)
theorem dX2_thing_90 : decode cX2_thing 90 = .ok (.getfield 19, 3) := dk_180 0 19 (dk_at dksX2_thing_3 21 rfl rfl)
theorem dX2_thing_93 : decode cX2_thing 93 = .ok (.invokevirtual 48, 3) := dk_182 0 48 (dk_at dksX2_thing_4 0 rfl rfl)
theorem dX2_thing_96 : decode cX2_thing 96 = .ok (.bipush 14, 2) := dk_16 14 (dk_at dksX2_thing_4 3 rfl rfl)
theorem dX2_thing_98 : decode cX2_thing 98 = .ok (.if_icmp .ne 7, 3) := dk_160 0 7 (dk_at dksX2_thing_4 5 rfl rfl)
theorem dX2_thing_101 : decode cX2_thing 101 = .ok (.iconst 4, 1) := dk_7 (dk_at dksX2_thing_4 8 rfl rfl)
theorem dX2_thing_102 : decode cX2_thing 102 = .ok (.goto 4, 3) := dk_167 0 4 (dk_at dksX2_thing_4 9 rfl rfl)
theorem dX2_thing_105 : decode cX2_thing 105 = .ok (.iconst 0, 1) := dk_3 (dk_at dksX2_thing_4 12 rfl rfl)
theorem dX2_thing_106 : decode cX2_thing 106 = .ok (.putfield 44, 3) := dk_181 0 44 (dk_at dksX2_thing_4 13 rfl rfl)
theorem dX2_thing_109 : decode cX2_thing 109 = .ok (.aload_n 0, 1) := dk_42 (dk_at dksX2_thing_4 16 rfl rfl)
theorem dX2_thing_110 : decode cX2_thing 110 = .ok (.getfield 44, 3) := dk_180 0 44 (dk_at dksX2_thing_4 17 rfl rfl)
theorem dX2_thing_113 : decode cX2_thing 113 = .ok (.ifCond .le 5, 3) := dk_158 0 5 (dk_at dksX2_thing_4 20 rfl rfl)
theorem dX2_thing_116 : decode cX2_thing 116 = .ok (.iconst 0, 1) := dk_3 (dk_at dksX2_thing_4 23 rfl rfl)
theorem dX2_thing_117 : decode cX2_thing 117 = .ok (.ireturn, 1) := dk_172 (dk_at dksX2_thing_5 0 rfl rfl)
theorem dX2_thing_118 : decode cX2_thing 118 = .ok (.new 64, 3) := dk_187 0 64 (dk_at dksX2_thing_5 1 rfl rfl)
theorem dX2_thing_121 : decode cX2_thing 121 = .ok (.dup, 1) := dk_89 (dk_at dksX2_thing_5 4 rfl rfl)
theorem dX2_thing_122 : decode cX2_thing 122 = .ok (.iload_n 1, 1) := dk_27 (dk_at dksX2_thing_5 5 rfl rfl)
theorem dX2_thing_123 : decode cX2_thing 123 = .ok (.iload_n 2, 1) := dk_28 (dk_at dksX2_thing_5 6 rfl rfl)
theorem dX2_thing_124 : decode cX2_thing 124 = .ok (.iload_n 3, 1) := dk_29 (dk_at dksX2_thing_5 7 rfl rfl)
theorem dX2_thing_125 : decode cX2_thing 125 = .ok (.iconst (-1), 1) := dk_2 (dk_at dksX2_thing_5 8 rfl rfl)
theorem dX2_thing_126 : decode cX2_thing 126 = .ok (.invokespecial 169, 3) := dk_183 0 169 (dk_at dksX2_thing_5 9 rfl rfl)
theorem dX2_thing_129 : decode cX2_thing 129 = .ok (.astore 5, 2) := dk_58 5 (dk_at dksX2_thing_5 12 rfl rfl)
theorem dX2_thing_131 : decode cX2_thing 131 = .ok (.aload_n 0, 1) := dk_42 (dk_at dksX2_thing_5 14 rfl rfl)
theorem dX2_thing_132 : decode cX2_thing 132 = .ok (.getfield 19, 3) := dk_180 0 19 (dk_at dksX2_thing_5 15 rfl rfl)
theorem dX2_thing_135 : decode cX2_thing 135 = .ok (.aload 5, 2) := dk_25 5 (dk_at dksX2_thing_5 18 rfl rfl)
theorem dX2_thing_137 : decode cX2_thing 137 = .ok (.invokevirtual 89, 3) := dk_182 0 89 (dk_at dksX2_thing_5 20 rfl rfl)
theorem dX2_thing_140 : decode cX2_thing 140 = .ok (.pop, 1) := dk_87 (dk_at dksX2_thing_5 23 rfl rfl)
theorem dX2_thing_141 : decode cX2_thing 141 = .ok (.aload_n 0, 1) := dk_42 (dk_at dksX2_thing_6 0 rfl rfl)
theorem dX2_thing_142 : decode cX2_thing 142 = .ok (.aload 5, 2) := dk_25 5 (dk_at dksX2_thing_6 1 rfl rfl)
theorem dX2_thing_144 : decode cX2_thing 144 = .ok (.iload 4, 2) := dk_21 4 (dk_at dksX2_thing_6 3 rfl rfl)
theorem dX2_thing_146 : decode cX2_thing 146 = .ok (.invokevirtual 172, 3) := dk_182 0 172 (dk_at dksX2_thing_6 5 rfl rfl)
theorem dX2_thing_149 : decode cX2_thing 149 = .ok (.aload_n 0, 1) := dk_42 (dk_at dksX2_thing_6 8 rfl rfl)
theorem dX2_thing_150 : decode cX2_thing 150 = .ok (.getfield 19, 3) := dk_180 0 19 (dk_at dksX2_thing_6 9 rfl rfl)
theorem dX2_thing_153 : decode cX2_thing 153 = .ok (.invokevirtual 48, 3) := dk_182 0 48 (dk_at dksX2_thing_6 12 rfl rfl)
theorem dX2_thing_156 : decode cX2_thing 156 = .ok (.iconst 1, 1) := dk_4 (dk_at dksX2_thing_6 15 rfl rfl)
theorem dX2_thing_157 : decode cX2_thing 157 = .ok (.isub, 1) := dk_100 (dk_at dksX2_thing_6 16 rfl rfl)
theorem dX2_thing_158 : decode cX2_thing 158 = .ok (.ireturn, 1) := dk_172 (dk_at dksX2_thing_6 17 rfl rfl)
abbrev cX2_goesIn : ByteArray := prog_17_method_13_code
def yX2_goesIn : MethodName := ⟨RX2, "goesIn", "(II)Z"⟩
def dkwX2_goesIn_1 : List UInt8 := [163, 0, 7, 4, 167, 0, 4, 3, 172]
abbrev dktX2_goesIn_1 : List UInt8 := dkwX2_goesIn_1 ++ []
def dkwX2_goesIn_0 : List UInt8 := [42, 16, 114, 27, 182, 0, 122, 28, 96, 42, 180, 0, 16, 27, 182, 0, 68, 192, 0, 126, 180, 0, 128]
abbrev dktX2_goesIn_0 : List UInt8 := dkwX2_goesIn_0 ++ dktX2_goesIn_1
theorem dksX2_goesIn_0 : cX2_goesIn.data.toList.drop 0 = dktX2_goesIn_0 := by decide +kernel
theorem dksX2_goesIn_1 : cX2_goesIn.data.toList.drop 23 = dktX2_goesIn_1 := dk_seg dksX2_goesIn_0 23 rfl rfl
theorem dX2_goesIn_0 : decode cX2_goesIn 0 = .ok (.aload_n 0, 1) := dk_42 (dk_at dksX2_goesIn_0 0 rfl rfl)
theorem dX2_goesIn_1 : decode cX2_goesIn 1 = .ok (.bipush 114, 2) := dk_16 114 (dk_at dksX2_goesIn_0 1 rfl rfl)
theorem dX2_goesIn_3 : decode cX2_goesIn 3 = .ok (.iload_n 1, 1) := dk_27 (dk_at dksX2_goesIn_0 3 rfl rfl)
theorem dX2_goesIn_4 : decode cX2_goesIn 4 = .ok (.invokevirtual 122, 3) := dk_182 0 122 (dk_at dksX2_goesIn_0 4 rfl rfl)
theorem dX2_goesIn_7 : decode cX2_goesIn 7 = .ok (.iload_n 2, 1) := dk_28 (dk_at dksX2_goesIn_0 7 rfl rfl)
theorem dX2_goesIn_8 : decode cX2_goesIn 8 = .ok (.iadd, 1) := dk_96 (dk_at dksX2_goesIn_0 8 rfl rfl)
theorem dX2_goesIn_9 : decode cX2_goesIn 9 = .ok (.aload_n 0, 1) := dk_42 (dk_at dksX2_goesIn_0 9 rfl rfl)
theorem dX2_goesIn_10 : decode cX2_goesIn 10 = .ok (.getfield 16, 3) := dk_180 0 16 (dk_at dksX2_goesIn_0 10 rfl rfl)
theorem dX2_goesIn_13 : decode cX2_goesIn 13 = .ok (.iload_n 1, 1) := dk_27 (dk_at dksX2_goesIn_0 13 rfl rfl)
theorem dX2_goesIn_14 : decode cX2_goesIn 14 = .ok (.invokevirtual 68, 3) := dk_182 0 68 (dk_at dksX2_goesIn_0 14 rfl rfl)
theorem dX2_goesIn_17 : decode cX2_goesIn 17 = .ok (.checkcast 126, 3) := dk_192 0 126 (dk_at dksX2_goesIn_0 17 rfl rfl)
theorem dX2_goesIn_20 : decode cX2_goesIn 20 = .ok (.getfield 128, 3) := dk_180 0 128 (dk_at dksX2_goesIn_0 20 rfl rfl)
theorem dX2_goesIn_23 : decode cX2_goesIn 23 = .ok (.if_icmp .gt 7, 3) := dk_163 0 7 (dk_at dksX2_goesIn_1 0 rfl rfl)
theorem dX2_goesIn_26 : decode cX2_goesIn 26 = .ok (.iconst 1, 1) := dk_4 (dk_at dksX2_goesIn_1 3 rfl rfl)
theorem dX2_goesIn_27 : decode cX2_goesIn 27 = .ok (.goto 4, 3) := dk_167 0 4 (dk_at dksX2_goesIn_1 4 rfl rfl)
theorem dX2_goesIn_30 : decode cX2_goesIn 30 = .ok (.iconst 0, 1) := dk_3 (dk_at dksX2_goesIn_1 7 rfl rfl)
theorem dX2_goesIn_31 : decode cX2_goesIn 31 = .ok (.ireturn, 1) := dk_172 (dk_at dksX2_goesIn_1 8 rfl rfl)
abbrev cX2_usedIn : ByteArray := prog_17_method_12_code
def yX2_usedIn : MethodName := ⟨RX2, "usedIn", "(CI)I"⟩
def dkwX2_usedIn_3 : List UInt8 := [3, 96, 62, 167, 255, 195, 29, 172]
abbrev dktX2_usedIn_3 : List UInt8 := dkwX2_usedIn_3 ++ []
def dkwX2_usedIn_2 : List UInt8 := [180, 0, 76, 27, 160, 0, 20, 25, 5, 180, 0, 80, 28, 160, 0, 11, 25, 5, 180, 0, 120, 167, 0, 4]
abbrev dktX2_usedIn_2 : List UInt8 := dkwX2_usedIn_2 ++ dktX2_usedIn_3
def dkwX2_usedIn_1 : List UInt8 := [185, 0, 116, 1, 0, 192, 0, 64, 58, 5, 29, 25, 5, 180, 0, 63, 2, 160, 0, 29, 25, 5]
abbrev dktX2_usedIn_1 : List UInt8 := dkwX2_usedIn_1 ++ dktX2_usedIn_2
def dkwX2_usedIn_0 : List UInt8 := [3, 62, 42, 180, 0, 19, 182, 0, 106, 58, 4, 25, 4, 185, 0, 110, 1, 0, 153, 0, 57, 25, 4]
abbrev dktX2_usedIn_0 : List UInt8 := dkwX2_usedIn_0 ++ dktX2_usedIn_1
theorem dksX2_usedIn_0 : cX2_usedIn.data.toList.drop 0 = dktX2_usedIn_0 := by decide +kernel
theorem dksX2_usedIn_1 : cX2_usedIn.data.toList.drop 23 = dktX2_usedIn_1 := dk_seg dksX2_usedIn_0 23 rfl rfl
theorem dksX2_usedIn_2 : cX2_usedIn.data.toList.drop 45 = dktX2_usedIn_2 := dk_seg dksX2_usedIn_1 22 rfl rfl
theorem dksX2_usedIn_3 : cX2_usedIn.data.toList.drop 69 = dktX2_usedIn_3 := dk_seg dksX2_usedIn_2 24 rfl rfl
theorem dX2_usedIn_0 : decode cX2_usedIn 0 = .ok (.iconst 0, 1) := dk_3 (dk_at dksX2_usedIn_0 0 rfl rfl)
theorem dX2_usedIn_1 : decode cX2_usedIn 1 = .ok (.istore_n 3, 1) := dk_62 (dk_at dksX2_usedIn_0 1 rfl rfl)
theorem dX2_usedIn_2 : decode cX2_usedIn 2 = .ok (.aload_n 0, 1) := dk_42 (dk_at dksX2_usedIn_0 2 rfl rfl)
theorem dX2_usedIn_3 : decode cX2_usedIn 3 = .ok (.getfield 19, 3) := dk_180 0 19 (dk_at dksX2_usedIn_0 3 rfl rfl)
theorem dX2_usedIn_6 : decode cX2_usedIn 6 = .ok (.invokevirtual 106, 3) := dk_182 0 106 (dk_at dksX2_usedIn_0 6 rfl rfl)
theorem dX2_usedIn_9 : decode cX2_usedIn 9 = .ok (.astore 4, 2) := dk_58 4 (dk_at dksX2_usedIn_0 9 rfl rfl)
theorem dX2_usedIn_11 : decode cX2_usedIn 11 = .ok (.aload 4, 2) := dk_25 4 (dk_at dksX2_usedIn_0 11 rfl rfl)
theorem dX2_usedIn_13 : decode cX2_usedIn 13 = .ok (.invokeinterface 110 1, 5) := by decide +kernel
theorem dX2_usedIn_18 : decode cX2_usedIn 18 = .ok (.ifCond .eq 57, 3) := dk_153 0 57 (dk_at dksX2_usedIn_0 18 rfl rfl)
theorem dX2_usedIn_21 : decode cX2_usedIn 21 = .ok (.aload 4, 2) := dk_25 4 (dk_at dksX2_usedIn_0 21 rfl rfl)
theorem dX2_usedIn_23 : decode cX2_usedIn 23 = .ok (.invokeinterface 116 1, 5) := by decide +kernel
theorem dX2_usedIn_28 : decode cX2_usedIn 28 = .ok (.checkcast 64, 3) := dk_192 0 64 (dk_at dksX2_usedIn_1 5 rfl rfl)
theorem dX2_usedIn_31 : decode cX2_usedIn 31 = .ok (.astore 5, 2) := dk_58 5 (dk_at dksX2_usedIn_1 8 rfl rfl)
theorem dX2_usedIn_33 : decode cX2_usedIn 33 = .ok (.iload_n 3, 1) := dk_29 (dk_at dksX2_usedIn_1 10 rfl rfl)
theorem dX2_usedIn_34 : decode cX2_usedIn 34 = .ok (.aload 5, 2) := dk_25 5 (dk_at dksX2_usedIn_1 11 rfl rfl)
theorem dX2_usedIn_36 : decode cX2_usedIn 36 = .ok (.getfield 63, 3) := dk_180 0 63 (dk_at dksX2_usedIn_1 13 rfl rfl)
theorem dX2_usedIn_39 : decode cX2_usedIn 39 = .ok (.iconst (-1), 1) := dk_2 (dk_at dksX2_usedIn_1 16 rfl rfl)
theorem dX2_usedIn_40 : decode cX2_usedIn 40 = .ok (.if_icmp .ne 29, 3) := dk_160 0 29 (dk_at dksX2_usedIn_1 17 rfl rfl)
theorem dX2_usedIn_43 : decode cX2_usedIn 43 = .ok (.aload 5, 2) := dk_25 5 (dk_at dksX2_usedIn_1 20 rfl rfl)
theorem dX2_usedIn_45 : decode cX2_usedIn 45 = .ok (.getfield 76, 3) := dk_180 0 76 (dk_at dksX2_usedIn_2 0 rfl rfl)
theorem dX2_usedIn_48 : decode cX2_usedIn 48 = .ok (.iload_n 1, 1) := dk_27 (dk_at dksX2_usedIn_2 3 rfl rfl)
theorem dX2_usedIn_49 : decode cX2_usedIn 49 = .ok (.if_icmp .ne 20, 3) := dk_160 0 20 (dk_at dksX2_usedIn_2 4 rfl rfl)
theorem dX2_usedIn_52 : decode cX2_usedIn 52 = .ok (.aload 5, 2) := dk_25 5 (dk_at dksX2_usedIn_2 7 rfl rfl)
theorem dX2_usedIn_54 : decode cX2_usedIn 54 = .ok (.getfield 80, 3) := dk_180 0 80 (dk_at dksX2_usedIn_2 9 rfl rfl)
theorem dX2_usedIn_57 : decode cX2_usedIn 57 = .ok (.iload_n 2, 1) := dk_28 (dk_at dksX2_usedIn_2 12 rfl rfl)
theorem dX2_usedIn_58 : decode cX2_usedIn 58 = .ok (.if_icmp .ne 11, 3) := dk_160 0 11 (dk_at dksX2_usedIn_2 13 rfl rfl)
theorem dX2_usedIn_61 : decode cX2_usedIn 61 = .ok (.aload 5, 2) := dk_25 5 (dk_at dksX2_usedIn_2 16 rfl rfl)
theorem dX2_usedIn_63 : decode cX2_usedIn 63 = .ok (.getfield 120, 3) := dk_180 0 120 (dk_at dksX2_usedIn_2 18 rfl rfl)
theorem dX2_usedIn_66 : decode cX2_usedIn 66 = .ok (.goto 4, 3) := dk_167 0 4 (dk_at dksX2_usedIn_2 21 rfl rfl)
theorem dX2_usedIn_69 : decode cX2_usedIn 69 = .ok (.iconst 0, 1) := dk_3 (dk_at dksX2_usedIn_3 0 rfl rfl)
theorem dX2_usedIn_70 : decode cX2_usedIn 70 = .ok (.iadd, 1) := dk_96 (dk_at dksX2_usedIn_3 1 rfl rfl)
theorem dX2_usedIn_71 : decode cX2_usedIn 71 = .ok (.istore_n 3, 1) := dk_62 (dk_at dksX2_usedIn_3 2 rfl rfl)
theorem dX2_usedIn_72 : decode cX2_usedIn 72 = .ok (.goto (-61), 3) := dk_167 255 195 (dk_at dksX2_usedIn_3 3 rfl rfl)
theorem dX2_usedIn_75 : decode cX2_usedIn 75 = .ok (.iload_n 3, 1) := dk_29 (dk_at dksX2_usedIn_3 6 rfl rfl)
theorem dX2_usedIn_76 : decode cX2_usedIn 76 = .ok (.ireturn, 1) := dk_172 (dk_at dksX2_usedIn_3 7 rfl rfl)
abbrev cX2_comes : ByteArray := prog_17_method_14_code
def yX2_comes : MethodName := ⟨RX2, "comes", "(LVaultyardModel$Thing;I)V"⟩
def dkwX2_comes_0 : List UInt8 := [43, 16, 114, 181, 0, 76, 43, 28, 181, 0, 80, 42, 43, 16, 105, 28, 182, 0, 102, 177]
abbrev dktX2_comes_0 : List UInt8 := dkwX2_comes_0 ++ []
theorem dksX2_comes_0 : cX2_comes.data.toList.drop 0 = dktX2_comes_0 := by decide +kernel
theorem dX2_comes_0 : decode cX2_comes 0 = .ok (.aload_n 1, 1) := dk_43 (dk_at dksX2_comes_0 0 rfl rfl)
theorem dX2_comes_1 : decode cX2_comes 1 = .ok (.bipush 114, 2) := dk_16 114 (dk_at dksX2_comes_0 1 rfl rfl)
theorem dX2_comes_3 : decode cX2_comes 3 = .ok (.putfield 76, 3) := dk_181 0 76 (dk_at dksX2_comes_0 3 rfl rfl)
theorem dX2_comes_6 : decode cX2_comes 6 = .ok (.aload_n 1, 1) := dk_43 (dk_at dksX2_comes_0 6 rfl rfl)
theorem dX2_comes_7 : decode cX2_comes 7 = .ok (.iload_n 2, 1) := dk_28 (dk_at dksX2_comes_0 7 rfl rfl)
theorem dX2_comes_8 : decode cX2_comes 8 = .ok (.putfield 80, 3) := dk_181 0 80 (dk_at dksX2_comes_0 8 rfl rfl)
theorem dX2_comes_11 : decode cX2_comes 11 = .ok (.aload_n 0, 1) := dk_42 (dk_at dksX2_comes_0 11 rfl rfl)
theorem dX2_comes_12 : decode cX2_comes 12 = .ok (.aload_n 1, 1) := dk_43 (dk_at dksX2_comes_0 12 rfl rfl)
theorem dX2_comes_13 : decode cX2_comes 13 = .ok (.bipush 105, 2) := dk_16 105 (dk_at dksX2_comes_0 13 rfl rfl)
theorem dX2_comes_15 : decode cX2_comes 15 = .ok (.iload_n 2, 1) := dk_28 (dk_at dksX2_comes_0 15 rfl rfl)
theorem dX2_comes_16 : decode cX2_comes 16 = .ok (.invokevirtual 102, 3) := dk_182 0 102 (dk_at dksX2_comes_0 16 rfl rfl)
theorem dX2_comes_19 : decode cX2_comes 19 = .ok (.return_, 1) := dk_177 (dk_at dksX2_comes_0 19 rfl rfl)
abbrev cX2_tells : ByteArray := prog_17_method_10_code
def yX2_tells : MethodName := ⟨RX2, "tells", "(LVaultyardModel$Thing;CI)V"⟩
def dkwX2_tells_1 : List UInt8 := [182, 0, 89, 87, 177]
abbrev dktX2_tells_1 : List UInt8 := dkwX2_tells_1 ++ []
def dkwX2_tells_0 : List UInt8 := [43, 180, 0, 83, 6, 188, 10, 89, 3, 42, 180, 0, 86, 79, 89, 4, 28, 79, 89, 5, 29, 79]
abbrev dktX2_tells_0 : List UInt8 := dkwX2_tells_0 ++ dktX2_tells_1
theorem dksX2_tells_0 : cX2_tells.data.toList.drop 0 = dktX2_tells_0 := by decide +kernel
theorem dksX2_tells_1 : cX2_tells.data.toList.drop 22 = dktX2_tells_1 := dk_seg dksX2_tells_0 22 rfl rfl
theorem dX2_tells_0 : decode cX2_tells 0 = .ok (.aload_n 1, 1) := dk_43 (dk_at dksX2_tells_0 0 rfl rfl)
theorem dX2_tells_1 : decode cX2_tells 1 = .ok (.getfield 83, 3) := dk_180 0 83 (dk_at dksX2_tells_0 1 rfl rfl)
theorem dX2_tells_4 : decode cX2_tells 4 = .ok (.iconst 3, 1) := dk_6 (dk_at dksX2_tells_0 4 rfl rfl)
theorem dX2_tells_5 : decode cX2_tells 5 = .ok (.newarray .int, 2) := dk_188_10 (dk_at dksX2_tells_0 5 rfl rfl)
theorem dX2_tells_7 : decode cX2_tells 7 = .ok (.dup, 1) := dk_89 (dk_at dksX2_tells_0 7 rfl rfl)
theorem dX2_tells_8 : decode cX2_tells 8 = .ok (.iconst 0, 1) := dk_3 (dk_at dksX2_tells_0 8 rfl rfl)
theorem dX2_tells_9 : decode cX2_tells 9 = .ok (.aload_n 0, 1) := dk_42 (dk_at dksX2_tells_0 9 rfl rfl)
theorem dX2_tells_10 : decode cX2_tells 10 = .ok (.getfield 86, 3) := dk_180 0 86 (dk_at dksX2_tells_0 10 rfl rfl)
theorem dX2_tells_13 : decode cX2_tells 13 = .ok (.iastore, 1) := dk_79 (dk_at dksX2_tells_0 13 rfl rfl)
theorem dX2_tells_14 : decode cX2_tells 14 = .ok (.dup, 1) := dk_89 (dk_at dksX2_tells_0 14 rfl rfl)
theorem dX2_tells_15 : decode cX2_tells 15 = .ok (.iconst 1, 1) := dk_4 (dk_at dksX2_tells_0 15 rfl rfl)
theorem dX2_tells_16 : decode cX2_tells 16 = .ok (.iload_n 2, 1) := dk_28 (dk_at dksX2_tells_0 16 rfl rfl)
theorem dX2_tells_17 : decode cX2_tells 17 = .ok (.iastore, 1) := dk_79 (dk_at dksX2_tells_0 17 rfl rfl)
theorem dX2_tells_18 : decode cX2_tells 18 = .ok (.dup, 1) := dk_89 (dk_at dksX2_tells_0 18 rfl rfl)
theorem dX2_tells_19 : decode cX2_tells 19 = .ok (.iconst 2, 1) := dk_5 (dk_at dksX2_tells_0 19 rfl rfl)
theorem dX2_tells_20 : decode cX2_tells 20 = .ok (.iload_n 3, 1) := dk_29 (dk_at dksX2_tells_0 20 rfl rfl)
theorem dX2_tells_21 : decode cX2_tells 21 = .ok (.iastore, 1) := dk_79 (dk_at dksX2_tells_0 21 rfl rfl)
theorem dX2_tells_22 : decode cX2_tells 22 = .ok (.invokevirtual 89, 3) := dk_182 0 89 (dk_at dksX2_tells_1 0 rfl rfl)
theorem dX2_tells_25 : decode cX2_tells 25 = .ok (.pop, 1) := dk_87 (dk_at dksX2_tells_1 3 rfl rfl)
theorem dX2_tells_26 : decode cX2_tells 26 = .ok (.return_, 1) := dk_177 (dk_at dksX2_tells_1 4 rfl rfl)
abbrev cX2_part : ByteArray := prog_17_method_21_code
def yX2_part : MethodName := ⟨RX2, "part", "(III)I"⟩
def dkwX2_part_7 : List UInt8 := [25, 5, 16, 105, 25, 4, 180, 0, 80, 182, 0, 102, 42, 180, 0, 19, 182, 0, 48, 4, 100, 172]
abbrev dktX2_part_7 : List UInt8 := dkwX2_part_7 ++ []
def dkwX2_part_6 : List UInt8 := [187, 0, 64, 89, 28, 29, 4, 27, 183, 0, 169, 58, 5, 42, 180, 0, 19, 25, 5, 182, 0, 89, 87, 42]
abbrev dktX2_part_6 : List UInt8 := dkwX2_part_6 ++ dktX2_part_7
def dkwX2_part_5 : List UInt8 := [16, 14, 160, 0, 7, 7, 167, 0, 4, 3, 181, 0, 44, 42, 180, 0, 44, 158, 0, 5, 3, 172]
abbrev dktX2_part_5 : List UInt8 := dkwX2_part_5 ++ dktX2_part_6
def dkwX2_part_4 : List UInt8 := [160, 0, 12, 42, 27, 182, 0, 176, 6, 160, 0, 7, 6, 167, 0, 20, 42, 180, 0, 19, 182, 0, 48]
abbrev dktX2_part_4 : List UInt8 := dkwX2_part_4 ++ dktX2_part_5
def dkwX2_part_3 : List UInt8 := [192, 0, 64, 58, 4, 42, 25, 4, 180, 0, 63, 2, 160, 0, 22, 25, 4, 180, 0, 76, 16, 114]
abbrev dktX2_part_3 : List UInt8 := dkwX2_part_3 ++ dktX2_part_4
def dkwX2_part_2 : List UInt8 := [167, 0, 4, 3, 181, 0, 44, 42, 180, 0, 44, 158, 0, 5, 3, 172, 42, 180, 0, 19, 27, 182, 0, 68]
abbrev dktX2_part_2 : List UInt8 := dkwX2_part_2 ++ dktX2_part_3
def dkwX2_part_1 : List UInt8 := [184, 0, 52, 154, 0, 7, 4, 167, 0, 20, 29, 133, 10, 20, 0, 161, 184, 0, 52, 154, 0, 7, 5]
abbrev dktX2_part_1 : List UInt8 := dkwX2_part_1 ++ dktX2_part_2
def dkwX2_part_0 : List UInt8 := [42, 42, 27, 182, 0, 56, 153, 0, 22, 28, 133, 9, 42, 180, 0, 10, 182, 0, 48, 4, 100, 133]
abbrev dktX2_part_0 : List UInt8 := dkwX2_part_0 ++ dktX2_part_1
theorem dksX2_part_0 : cX2_part.data.toList.drop 0 = dktX2_part_0 := by decide +kernel
theorem dksX2_part_1 : cX2_part.data.toList.drop 22 = dktX2_part_1 := dk_seg dksX2_part_0 22 rfl rfl
theorem dksX2_part_2 : cX2_part.data.toList.drop 45 = dktX2_part_2 := dk_seg dksX2_part_1 23 rfl rfl
theorem dksX2_part_3 : cX2_part.data.toList.drop 69 = dktX2_part_3 := dk_seg dksX2_part_2 24 rfl rfl
theorem dksX2_part_4 : cX2_part.data.toList.drop 91 = dktX2_part_4 := dk_seg dksX2_part_3 22 rfl rfl
theorem dksX2_part_5 : cX2_part.data.toList.drop 114 = dktX2_part_5 := dk_seg dksX2_part_4 23 rfl rfl
theorem dksX2_part_6 : cX2_part.data.toList.drop 136 = dktX2_part_6 := dk_seg dksX2_part_5 22 rfl rfl
theorem dksX2_part_7 : cX2_part.data.toList.drop 160 = dktX2_part_7 := dk_seg dksX2_part_6 24 rfl rfl
theorem dX2_part_0 : decode cX2_part 0 = .ok (.aload_n 0, 1) := dk_42 (dk_at dksX2_part_0 0 rfl rfl)
theorem dX2_part_1 : decode cX2_part 1 = .ok (.aload_n 0, 1) := dk_42 (dk_at dksX2_part_0 1 rfl rfl)
theorem dX2_part_2 : decode cX2_part 2 = .ok (.iload_n 1, 1) := dk_27 (dk_at dksX2_part_0 2 rfl rfl)
theorem dX2_part_3 : decode cX2_part 3 = .ok (.invokevirtual 56, 3) := dk_182 0 56 (dk_at dksX2_part_0 3 rfl rfl)
theorem dX2_part_6 : decode cX2_part 6 = .ok (.ifCond .eq 22, 3) := dk_153 0 22 (dk_at dksX2_part_0 6 rfl rfl)
theorem dX2_part_9 : decode cX2_part 9 = .ok (.iload_n 2, 1) := dk_28 (dk_at dksX2_part_0 9 rfl rfl)
theorem dX2_part_10 : decode cX2_part 10 = .ok (.i2l, 1) := dk_133 (dk_at dksX2_part_0 10 rfl rfl)
theorem dX2_part_11 : decode cX2_part 11 = .ok (.lconst 0, 1) := dk_9 (dk_at dksX2_part_0 11 rfl rfl)
theorem dX2_part_12 : decode cX2_part 12 = .ok (.aload_n 0, 1) := dk_42 (dk_at dksX2_part_0 12 rfl rfl)
theorem dX2_part_13 : decode cX2_part 13 = .ok (.getfield 10, 3) := dk_180 0 10 (dk_at dksX2_part_0 13 rfl rfl)
theorem dX2_part_16 : decode cX2_part 16 = .ok (.invokevirtual 48, 3) := dk_182 0 48 (dk_at dksX2_part_0 16 rfl rfl)
theorem dX2_part_19 : decode cX2_part 19 = .ok (.iconst 1, 1) := dk_4 (dk_at dksX2_part_0 19 rfl rfl)
theorem dX2_part_20 : decode cX2_part 20 = .ok (.isub, 1) := dk_100 (dk_at dksX2_part_0 20 rfl rfl)
theorem dX2_part_21 : decode cX2_part 21 = .ok (.i2l, 1) := dk_133 (dk_at dksX2_part_0 21 rfl rfl)
theorem dX2_part_22 : decode cX2_part 22 = .ok (.invokestatic 52, 3) := dk_184 0 52 (dk_at dksX2_part_1 0 rfl rfl)
theorem dX2_part_25 : decode cX2_part 25 = .ok (.ifCond .ne 7, 3) := dk_154 0 7 (dk_at dksX2_part_1 3 rfl rfl)
theorem dX2_part_28 : decode cX2_part 28 = .ok (.iconst 1, 1) := dk_4 (dk_at dksX2_part_1 6 rfl rfl)
theorem dX2_part_29 : decode cX2_part 29 = .ok (.goto 20, 3) := dk_167 0 20 (dk_at dksX2_part_1 7 rfl rfl)
theorem dX2_part_32 : decode cX2_part 32 = .ok (.iload_n 3, 1) := dk_29 (dk_at dksX2_part_1 10 rfl rfl)
theorem dX2_part_33 : decode cX2_part 33 = .ok (.i2l, 1) := dk_133 (dk_at dksX2_part_1 11 rfl rfl)
theorem dX2_part_34 : decode cX2_part 34 = .ok (.lconst 1, 1) := dk_10 (dk_at dksX2_part_1 12 rfl rfl)
theorem dX2_part_35 : decode cX2_part 35 = .ok (.ldc2_w 161, 3) := dk_20 0 161 (dk_at dksX2_part_1 13 rfl rfl)
theorem dX2_part_38 : decode cX2_part 38 = .ok (.invokestatic 52, 3) := dk_184 0 52 (dk_at dksX2_part_1 16 rfl rfl)
theorem dX2_part_41 : decode cX2_part 41 = .ok (.ifCond .ne 7, 3) := dk_154 0 7 (dk_at dksX2_part_1 19 rfl rfl)
theorem dX2_part_44 : decode cX2_part 44 = .ok (.iconst 2, 1) := dk_5 (dk_at dksX2_part_1 22 rfl rfl)
theorem dX2_part_45 : decode cX2_part 45 = .ok (.goto 4, 3) := dk_167 0 4 (dk_at dksX2_part_2 0 rfl rfl)
theorem dX2_part_48 : decode cX2_part 48 = .ok (.iconst 0, 1) := dk_3 (dk_at dksX2_part_2 3 rfl rfl)
theorem dX2_part_49 : decode cX2_part 49 = .ok (.putfield 44, 3) := dk_181 0 44 (dk_at dksX2_part_2 4 rfl rfl)
theorem dX2_part_52 : decode cX2_part 52 = .ok (.aload_n 0, 1) := dk_42 (dk_at dksX2_part_2 7 rfl rfl)
theorem dX2_part_53 : decode cX2_part 53 = .ok (.getfield 44, 3) := dk_180 0 44 (dk_at dksX2_part_2 8 rfl rfl)
theorem dX2_part_56 : decode cX2_part 56 = .ok (.ifCond .le 5, 3) := dk_158 0 5 (dk_at dksX2_part_2 11 rfl rfl)
theorem dX2_part_59 : decode cX2_part 59 = .ok (.iconst 0, 1) := dk_3 (dk_at dksX2_part_2 14 rfl rfl)
theorem dX2_part_60 : decode cX2_part 60 = .ok (.ireturn, 1) := dk_172 (dk_at dksX2_part_2 15 rfl rfl)
theorem dX2_part_61 : decode cX2_part 61 = .ok (.aload_n 0, 1) := dk_42 (dk_at dksX2_part_2 16 rfl rfl)
theorem dX2_part_62 : decode cX2_part 62 = .ok (.getfield 19, 3) := dk_180 0 19 (dk_at dksX2_part_2 17 rfl rfl)
theorem dX2_part_65 : decode cX2_part 65 = .ok (.iload_n 1, 1) := dk_27 (dk_at dksX2_part_2 20 rfl rfl)
theorem dX2_part_66 : decode cX2_part 66 = .ok (.invokevirtual 68, 3) := dk_182 0 68 (dk_at dksX2_part_2 21 rfl rfl)
theorem dX2_part_69 : decode cX2_part 69 = .ok (.checkcast 64, 3) := dk_192 0 64 (dk_at dksX2_part_3 0 rfl rfl)
theorem dX2_part_72 : decode cX2_part 72 = .ok (.astore 4, 2) := dk_58 4 (dk_at dksX2_part_3 3 rfl rfl)
theorem dX2_part_74 : decode cX2_part 74 = .ok (.aload_n 0, 1) := dk_42 (dk_at dksX2_part_3 5 rfl rfl)
theorem dX2_part_75 : decode cX2_part 75 = .ok (.aload 4, 2) := dk_25 4 (dk_at dksX2_part_3 6 rfl rfl)
theorem dX2_part_77 : decode cX2_part 77 = .ok (.getfield 63, 3) := dk_180 0 63 (dk_at dksX2_part_3 8 rfl rfl)
theorem dX2_part_80 : decode cX2_part 80 = .ok (.iconst (-1), 1) := dk_2 (dk_at dksX2_part_3 11 rfl rfl)
theorem dX2_part_81 : decode cX2_part 81 = .ok (.if_icmp .ne 22, 3) := dk_160 0 22 (dk_at dksX2_part_3 12 rfl rfl)
theorem dX2_part_84 : decode cX2_part 84 = .ok (.aload 4, 2) := dk_25 4 (dk_at dksX2_part_3 15 rfl rfl)
theorem dX2_part_86 : decode cX2_part 86 = .ok (.getfield 76, 3) := dk_180 0 76 (dk_at dksX2_part_3 17 rfl rfl)
theorem dX2_part_89 : decode cX2_part 89 = .ok (.bipush 114, 2) := dk_16 114 (dk_at dksX2_part_3 20 rfl rfl)
theorem dX2_part_91 : decode cX2_part 91 = .ok (.if_icmp .ne 12, 3) := dk_160 0 12 (dk_at dksX2_part_4 0 rfl rfl)
theorem dX2_part_94 : decode cX2_part 94 = .ok (.aload_n 0, 1) := dk_42 (dk_at dksX2_part_4 3 rfl rfl)
theorem dX2_part_95 : decode cX2_part 95 = .ok (.iload_n 1, 1) := dk_27 (dk_at dksX2_part_4 4 rfl rfl)
theorem dX2_part_96 : decode cX2_part 96 = .ok (.invokevirtual 176, 3) := dk_182 0 176 (dk_at dksX2_part_4 5 rfl rfl)
theorem dX2_part_99 : decode cX2_part 99 = .ok (.iconst 3, 1) := dk_6 (dk_at dksX2_part_4 8 rfl rfl)
theorem dX2_part_100 : decode cX2_part 100 = .ok (.if_icmp .ne 7, 3) := dk_160 0 7 (dk_at dksX2_part_4 9 rfl rfl)
theorem dX2_part_103 : decode cX2_part 103 = .ok (.iconst 3, 1) := dk_6 (dk_at dksX2_part_4 12 rfl rfl)
theorem dX2_part_104 : decode cX2_part 104 = .ok (.goto 20, 3) := dk_167 0 20 (dk_at dksX2_part_4 13 rfl rfl)
theorem dX2_part_107 : decode cX2_part 107 = .ok (.aload_n 0, 1) := dk_42 (dk_at dksX2_part_4 16 rfl rfl)
theorem dX2_part_108 : decode cX2_part 108 = .ok (.getfield 19, 3) := dk_180 0 19 (dk_at dksX2_part_4 17 rfl rfl)
theorem dX2_part_111 : decode cX2_part 111 = .ok (.invokevirtual 48, 3) := dk_182 0 48 (dk_at dksX2_part_4 20 rfl rfl)
theorem dX2_part_114 : decode cX2_part 114 = .ok (.bipush 14, 2) := dk_16 14 (dk_at dksX2_part_5 0 rfl rfl)
theorem dX2_part_116 : decode cX2_part 116 = .ok (.if_icmp .ne 7, 3) := dk_160 0 7 (dk_at dksX2_part_5 2 rfl rfl)
theorem dX2_part_119 : decode cX2_part 119 = .ok (.iconst 4, 1) := dk_7 (dk_at dksX2_part_5 5 rfl rfl)
theorem dX2_part_120 : decode cX2_part 120 = .ok (.goto 4, 3) := dk_167 0 4 (dk_at dksX2_part_5 6 rfl rfl)
theorem dX2_part_123 : decode cX2_part 123 = .ok (.iconst 0, 1) := dk_3 (dk_at dksX2_part_5 9 rfl rfl)
theorem dX2_part_124 : decode cX2_part 124 = .ok (.putfield 44, 3) := dk_181 0 44 (dk_at dksX2_part_5 10 rfl rfl)
theorem dX2_part_127 : decode cX2_part 127 = .ok (.aload_n 0, 1) := dk_42 (dk_at dksX2_part_5 13 rfl rfl)
theorem dX2_part_128 : decode cX2_part 128 = .ok (.getfield 44, 3) := dk_180 0 44 (dk_at dksX2_part_5 14 rfl rfl)
theorem dX2_part_131 : decode cX2_part 131 = .ok (.ifCond .le 5, 3) := dk_158 0 5 (dk_at dksX2_part_5 17 rfl rfl)
theorem dX2_part_134 : decode cX2_part 134 = .ok (.iconst 0, 1) := dk_3 (dk_at dksX2_part_5 20 rfl rfl)
theorem dX2_part_135 : decode cX2_part 135 = .ok (.ireturn, 1) := dk_172 (dk_at dksX2_part_5 21 rfl rfl)
theorem dX2_part_136 : decode cX2_part 136 = .ok (.new 64, 3) := dk_187 0 64 (dk_at dksX2_part_6 0 rfl rfl)
theorem dX2_part_139 : decode cX2_part 139 = .ok (.dup, 1) := dk_89 (dk_at dksX2_part_6 3 rfl rfl)
theorem dX2_part_140 : decode cX2_part 140 = .ok (.iload_n 2, 1) := dk_28 (dk_at dksX2_part_6 4 rfl rfl)
theorem dX2_part_141 : decode cX2_part 141 = .ok (.iload_n 3, 1) := dk_29 (dk_at dksX2_part_6 5 rfl rfl)
theorem dX2_part_142 : decode cX2_part 142 = .ok (.iconst 1, 1) := dk_4 (dk_at dksX2_part_6 6 rfl rfl)
theorem dX2_part_143 : decode cX2_part 143 = .ok (.iload_n 1, 1) := dk_27 (dk_at dksX2_part_6 7 rfl rfl)
theorem dX2_part_144 : decode cX2_part 144 = .ok (.invokespecial 169, 3) := dk_183 0 169 (dk_at dksX2_part_6 8 rfl rfl)
theorem dX2_part_147 : decode cX2_part 147 = .ok (.astore 5, 2) := dk_58 5 (dk_at dksX2_part_6 11 rfl rfl)
theorem dX2_part_149 : decode cX2_part 149 = .ok (.aload_n 0, 1) := dk_42 (dk_at dksX2_part_6 13 rfl rfl)
theorem dX2_part_150 : decode cX2_part 150 = .ok (.getfield 19, 3) := dk_180 0 19 (dk_at dksX2_part_6 14 rfl rfl)
theorem dX2_part_153 : decode cX2_part 153 = .ok (.aload 5, 2) := dk_25 5 (dk_at dksX2_part_6 17 rfl rfl)
theorem dX2_part_155 : decode cX2_part 155 = .ok (.invokevirtual 89, 3) := dk_182 0 89 (dk_at dksX2_part_6 19 rfl rfl)
theorem dX2_part_158 : decode cX2_part 158 = .ok (.pop, 1) := dk_87 (dk_at dksX2_part_6 22 rfl rfl)
theorem dX2_part_159 : decode cX2_part 159 = .ok (.aload_n 0, 1) := dk_42 (dk_at dksX2_part_6 23 rfl rfl)
theorem dX2_part_160 : decode cX2_part 160 = .ok (.aload 5, 2) := dk_25 5 (dk_at dksX2_part_7 0 rfl rfl)
theorem dX2_part_162 : decode cX2_part 162 = .ok (.bipush 105, 2) := dk_16 105 (dk_at dksX2_part_7 2 rfl rfl)
theorem dX2_part_164 : decode cX2_part 164 = .ok (.aload 4, 2) := dk_25 4 (dk_at dksX2_part_7 4 rfl rfl)
theorem dX2_part_166 : decode cX2_part 166 = .ok (.getfield 80, 3) := dk_180 0 80 (dk_at dksX2_part_7 6 rfl rfl)
theorem dX2_part_169 : decode cX2_part 169 = .ok (.invokevirtual 102, 3) := dk_182 0 102 (dk_at dksX2_part_7 9 rfl rfl)
theorem dX2_part_172 : decode cX2_part 172 = .ok (.aload_n 0, 1) := dk_42 (dk_at dksX2_part_7 12 rfl rfl)
theorem dX2_part_173 : decode cX2_part 173 = .ok (.getfield 19, 3) := dk_180 0 19 (dk_at dksX2_part_7 13 rfl rfl)
theorem dX2_part_176 : decode cX2_part 176 = .ok (.invokevirtual 48, 3) := dk_182 0 48 (dk_at dksX2_part_7 16 rfl rfl)
theorem dX2_part_179 : decode cX2_part 179 = .ok (.iconst 1, 1) := dk_4 (dk_at dksX2_part_7 19 rfl rfl)
theorem dX2_part_180 : decode cX2_part 180 = .ok (.isub, 1) := dk_100 (dk_at dksX2_part_7 20 rfl rfl)
theorem dX2_part_181 : decode cX2_part 181 = .ok (.ireturn, 1) := dk_172 (dk_at dksX2_part_7 21 rfl rfl)
abbrev cX2_isThing : ByteArray := prog_17_method_4_code
def yX2_isThing : MethodName := ⟨RX2, "isThing", "(I)Z"⟩
def dkwX2_isThing_0 : List UInt8 := [27, 133, 9, 42, 180, 0, 19, 182, 0, 48, 4, 100, 133, 184, 0, 52, 172]
abbrev dktX2_isThing_0 : List UInt8 := dkwX2_isThing_0 ++ []
theorem dksX2_isThing_0 : cX2_isThing.data.toList.drop 0 = dktX2_isThing_0 := by decide +kernel
theorem dX2_isThing_0 : decode cX2_isThing 0 = .ok (.iload_n 1, 1) := dk_27 (dk_at dksX2_isThing_0 0 rfl rfl)
theorem dX2_isThing_1 : decode cX2_isThing 1 = .ok (.i2l, 1) := dk_133 (dk_at dksX2_isThing_0 1 rfl rfl)
theorem dX2_isThing_2 : decode cX2_isThing 2 = .ok (.lconst 0, 1) := dk_9 (dk_at dksX2_isThing_0 2 rfl rfl)
theorem dX2_isThing_3 : decode cX2_isThing 3 = .ok (.aload_n 0, 1) := dk_42 (dk_at dksX2_isThing_0 3 rfl rfl)
theorem dX2_isThing_4 : decode cX2_isThing 4 = .ok (.getfield 19, 3) := dk_180 0 19 (dk_at dksX2_isThing_0 4 rfl rfl)
theorem dX2_isThing_7 : decode cX2_isThing 7 = .ok (.invokevirtual 48, 3) := dk_182 0 48 (dk_at dksX2_isThing_0 7 rfl rfl)
theorem dX2_isThing_10 : decode cX2_isThing 10 = .ok (.iconst 1, 1) := dk_4 (dk_at dksX2_isThing_0 10 rfl rfl)
theorem dX2_isThing_11 : decode cX2_isThing 11 = .ok (.isub, 1) := dk_100 (dk_at dksX2_isThing_0 11 rfl rfl)
theorem dX2_isThing_12 : decode cX2_isThing 12 = .ok (.i2l, 1) := dk_133 (dk_at dksX2_isThing_0 12 rfl rfl)
theorem dX2_isThing_13 : decode cX2_isThing 13 = .ok (.invokestatic 52, 3) := dk_184 0 52 (dk_at dksX2_isThing_0 13 rfl rfl)
theorem dX2_isThing_16 : decode cX2_isThing 16 = .ok (.ireturn, 1) := dk_172 (dk_at dksX2_isThing_0 16 rfl rfl)
abbrev cX2_partsOf : ByteArray := prog_17_method_20_code
def yX2_partsOf : MethodName := ⟨RX2, "partsOf", "(I)I"⟩
def dkwX2_partsOf_2 : List UInt8 := [3, 96, 61, 167, 255, 219, 28, 172]
abbrev dktX2_partsOf_2 : List UInt8 := dkwX2_partsOf_2 ++ []
def dkwX2_partsOf_1 : List UInt8 := [185, 0, 116, 1, 0, 192, 0, 64, 58, 4, 28, 25, 4, 180, 0, 63, 27, 160, 0, 7, 4, 167, 0, 4]
abbrev dktX2_partsOf_1 : List UInt8 := dkwX2_partsOf_1 ++ dktX2_partsOf_2
def dkwX2_partsOf_0 : List UInt8 := [3, 61, 42, 180, 0, 19, 182, 0, 106, 78, 45, 185, 0, 110, 1, 0, 153, 0, 34, 45]
abbrev dktX2_partsOf_0 : List UInt8 := dkwX2_partsOf_0 ++ dktX2_partsOf_1
theorem dksX2_partsOf_0 : cX2_partsOf.data.toList.drop 0 = dktX2_partsOf_0 := by decide +kernel
theorem dksX2_partsOf_1 : cX2_partsOf.data.toList.drop 20 = dktX2_partsOf_1 := dk_seg dksX2_partsOf_0 20 rfl rfl
theorem dksX2_partsOf_2 : cX2_partsOf.data.toList.drop 44 = dktX2_partsOf_2 := dk_seg dksX2_partsOf_1 24 rfl rfl
theorem dX2_partsOf_0 : decode cX2_partsOf 0 = .ok (.iconst 0, 1) := dk_3 (dk_at dksX2_partsOf_0 0 rfl rfl)
theorem dX2_partsOf_1 : decode cX2_partsOf 1 = .ok (.istore_n 2, 1) := dk_61 (dk_at dksX2_partsOf_0 1 rfl rfl)
theorem dX2_partsOf_2 : decode cX2_partsOf 2 = .ok (.aload_n 0, 1) := dk_42 (dk_at dksX2_partsOf_0 2 rfl rfl)
theorem dX2_partsOf_3 : decode cX2_partsOf 3 = .ok (.getfield 19, 3) := dk_180 0 19 (dk_at dksX2_partsOf_0 3 rfl rfl)
theorem dX2_partsOf_6 : decode cX2_partsOf 6 = .ok (.invokevirtual 106, 3) := dk_182 0 106 (dk_at dksX2_partsOf_0 6 rfl rfl)
theorem dX2_partsOf_9 : decode cX2_partsOf 9 = .ok (.astore_n 3, 1) := dk_78 (dk_at dksX2_partsOf_0 9 rfl rfl)
theorem dX2_partsOf_10 : decode cX2_partsOf 10 = .ok (.aload_n 3, 1) := dk_45 (dk_at dksX2_partsOf_0 10 rfl rfl)
theorem dX2_partsOf_11 : decode cX2_partsOf 11 = .ok (.invokeinterface 110 1, 5) := by decide +kernel
theorem dX2_partsOf_16 : decode cX2_partsOf 16 = .ok (.ifCond .eq 34, 3) := dk_153 0 34 (dk_at dksX2_partsOf_0 16 rfl rfl)
theorem dX2_partsOf_19 : decode cX2_partsOf 19 = .ok (.aload_n 3, 1) := dk_45 (dk_at dksX2_partsOf_0 19 rfl rfl)
theorem dX2_partsOf_20 : decode cX2_partsOf 20 = .ok (.invokeinterface 116 1, 5) := by decide +kernel
theorem dX2_partsOf_25 : decode cX2_partsOf 25 = .ok (.checkcast 64, 3) := dk_192 0 64 (dk_at dksX2_partsOf_1 5 rfl rfl)
theorem dX2_partsOf_28 : decode cX2_partsOf 28 = .ok (.astore 4, 2) := dk_58 4 (dk_at dksX2_partsOf_1 8 rfl rfl)
theorem dX2_partsOf_30 : decode cX2_partsOf 30 = .ok (.iload_n 2, 1) := dk_28 (dk_at dksX2_partsOf_1 10 rfl rfl)
theorem dX2_partsOf_31 : decode cX2_partsOf 31 = .ok (.aload 4, 2) := dk_25 4 (dk_at dksX2_partsOf_1 11 rfl rfl)
theorem dX2_partsOf_33 : decode cX2_partsOf 33 = .ok (.getfield 63, 3) := dk_180 0 63 (dk_at dksX2_partsOf_1 13 rfl rfl)
theorem dX2_partsOf_36 : decode cX2_partsOf 36 = .ok (.iload_n 1, 1) := dk_27 (dk_at dksX2_partsOf_1 16 rfl rfl)
theorem dX2_partsOf_37 : decode cX2_partsOf 37 = .ok (.if_icmp .ne 7, 3) := dk_160 0 7 (dk_at dksX2_partsOf_1 17 rfl rfl)
theorem dX2_partsOf_40 : decode cX2_partsOf 40 = .ok (.iconst 1, 1) := dk_4 (dk_at dksX2_partsOf_1 20 rfl rfl)
theorem dX2_partsOf_41 : decode cX2_partsOf 41 = .ok (.goto 4, 3) := dk_167 0 4 (dk_at dksX2_partsOf_1 21 rfl rfl)
theorem dX2_partsOf_44 : decode cX2_partsOf 44 = .ok (.iconst 0, 1) := dk_3 (dk_at dksX2_partsOf_2 0 rfl rfl)
theorem dX2_partsOf_45 : decode cX2_partsOf 45 = .ok (.iadd, 1) := dk_96 (dk_at dksX2_partsOf_2 1 rfl rfl)
theorem dX2_partsOf_46 : decode cX2_partsOf 46 = .ok (.istore_n 2, 1) := dk_61 (dk_at dksX2_partsOf_2 2 rfl rfl)
theorem dX2_partsOf_47 : decode cX2_partsOf 47 = .ok (.goto (-37), 3) := dk_167 255 219 (dk_at dksX2_partsOf_2 3 rfl rfl)
theorem dX2_partsOf_50 : decode cX2_partsOf 50 = .ok (.iload_n 2, 1) := dk_28 (dk_at dksX2_partsOf_2 6 rfl rfl)
theorem dX2_partsOf_51 : decode cX2_partsOf 51 = .ok (.ireturn, 1) := dk_172 (dk_at dksX2_partsOf_2 7 rfl rfl)
abbrev cX2_move : ByteArray := prog_17_method_23_code
def yX2_move : MethodName := ⟨RX2, "move", "(II)I"⟩
def dkwX2_move_6 : List UInt8 := [192, 0, 126, 180, 0, 128, 42, 16, 114, 28, 182, 0, 122, 100, 172]
abbrev dktX2_move_6 : List UInt8 := dkwX2_move_6 ++ []
def dkwX2_move_5 : List UInt8 := [158, 0, 5, 3, 172, 42, 45, 182, 0, 181, 42, 45, 28, 182, 0, 172, 42, 180, 0, 16, 28, 182, 0, 68]
abbrev dktX2_move_5 : List UInt8 := dkwX2_move_5 ++ dktX2_move_6
def dkwX2_move_4 : List UInt8 := [167, 0, 4, 3, 54, 4, 42, 21, 4, 153, 0, 7, 3, 167, 0, 4, 5, 181, 0, 44, 42, 180, 0, 44]
abbrev dktX2_move_4 : List UInt8 := dkwX2_move_4 ++ dktX2_move_5
def dkwX2_move_3 : List UInt8 := [160, 0, 27, 45, 180, 0, 80, 28, 159, 0, 19, 42, 28, 45, 180, 0, 120, 182, 0, 165, 153, 0, 7, 4]
abbrev dktX2_move_3 : List UInt8 := dkwX2_move_3 ++ dktX2_move_4
def dkwX2_move_2 : List UInt8 := [45, 180, 0, 63, 2, 160, 0, 45, 45, 180, 0, 76, 16, 98, 159, 0, 20, 45, 180, 0, 76, 16, 114]
abbrev dktX2_move_2 : List UInt8 := dkwX2_move_2 ++ dktX2_move_3
def dkwX2_move_1 : List UInt8 := [181, 0, 44, 42, 180, 0, 44, 158, 0, 5, 3, 172, 42, 180, 0, 19, 27, 182, 0, 68, 192, 0, 64, 78]
abbrev dktX2_move_1 : List UInt8 := dkwX2_move_1 ++ dktX2_move_2
def dkwX2_move_0 : List UInt8 := [42, 42, 27, 182, 0, 56, 153, 0, 15, 42, 28, 182, 0, 60, 153, 0, 7, 3, 167, 0, 4, 4]
abbrev dktX2_move_0 : List UInt8 := dkwX2_move_0 ++ dktX2_move_1
theorem dksX2_move_0 : cX2_move.data.toList.drop 0 = dktX2_move_0 := by decide +kernel
theorem dksX2_move_1 : cX2_move.data.toList.drop 22 = dktX2_move_1 := dk_seg dksX2_move_0 22 rfl rfl
theorem dksX2_move_2 : cX2_move.data.toList.drop 46 = dktX2_move_2 := dk_seg dksX2_move_1 24 rfl rfl
theorem dksX2_move_3 : cX2_move.data.toList.drop 69 = dktX2_move_3 := dk_seg dksX2_move_2 23 rfl rfl
theorem dksX2_move_4 : cX2_move.data.toList.drop 93 = dktX2_move_4 := dk_seg dksX2_move_3 24 rfl rfl
theorem dksX2_move_5 : cX2_move.data.toList.drop 117 = dktX2_move_5 := dk_seg dksX2_move_4 24 rfl rfl
theorem dksX2_move_6 : cX2_move.data.toList.drop 141 = dktX2_move_6 := dk_seg dksX2_move_5 24 rfl rfl
theorem dX2_move_0 : decode cX2_move 0 = .ok (.aload_n 0, 1) := dk_42 (dk_at dksX2_move_0 0 rfl rfl)
theorem dX2_move_1 : decode cX2_move 1 = .ok (.aload_n 0, 1) := dk_42 (dk_at dksX2_move_0 1 rfl rfl)
theorem dX2_move_2 : decode cX2_move 2 = .ok (.iload_n 1, 1) := dk_27 (dk_at dksX2_move_0 2 rfl rfl)
theorem dX2_move_3 : decode cX2_move 3 = .ok (.invokevirtual 56, 3) := dk_182 0 56 (dk_at dksX2_move_0 3 rfl rfl)
theorem dX2_move_6 : decode cX2_move 6 = .ok (.ifCond .eq 15, 3) := dk_153 0 15 (dk_at dksX2_move_0 6 rfl rfl)
theorem dX2_move_9 : decode cX2_move 9 = .ok (.aload_n 0, 1) := dk_42 (dk_at dksX2_move_0 9 rfl rfl)
theorem dX2_move_10 : decode cX2_move 10 = .ok (.iload_n 2, 1) := dk_28 (dk_at dksX2_move_0 10 rfl rfl)
theorem dX2_move_11 : decode cX2_move 11 = .ok (.invokevirtual 60, 3) := dk_182 0 60 (dk_at dksX2_move_0 11 rfl rfl)
theorem dX2_move_14 : decode cX2_move 14 = .ok (.ifCond .eq 7, 3) := dk_153 0 7 (dk_at dksX2_move_0 14 rfl rfl)
theorem dX2_move_17 : decode cX2_move 17 = .ok (.iconst 0, 1) := dk_3 (dk_at dksX2_move_0 17 rfl rfl)
theorem dX2_move_18 : decode cX2_move 18 = .ok (.goto 4, 3) := dk_167 0 4 (dk_at dksX2_move_0 18 rfl rfl)
theorem dX2_move_21 : decode cX2_move 21 = .ok (.iconst 1, 1) := dk_4 (dk_at dksX2_move_0 21 rfl rfl)
theorem dX2_move_22 : decode cX2_move 22 = .ok (.putfield 44, 3) := dk_181 0 44 (dk_at dksX2_move_1 0 rfl rfl)
theorem dX2_move_25 : decode cX2_move 25 = .ok (.aload_n 0, 1) := dk_42 (dk_at dksX2_move_1 3 rfl rfl)
theorem dX2_move_26 : decode cX2_move 26 = .ok (.getfield 44, 3) := dk_180 0 44 (dk_at dksX2_move_1 4 rfl rfl)
theorem dX2_move_29 : decode cX2_move 29 = .ok (.ifCond .le 5, 3) := dk_158 0 5 (dk_at dksX2_move_1 7 rfl rfl)
theorem dX2_move_32 : decode cX2_move 32 = .ok (.iconst 0, 1) := dk_3 (dk_at dksX2_move_1 10 rfl rfl)
theorem dX2_move_33 : decode cX2_move 33 = .ok (.ireturn, 1) := dk_172 (dk_at dksX2_move_1 11 rfl rfl)
theorem dX2_move_34 : decode cX2_move 34 = .ok (.aload_n 0, 1) := dk_42 (dk_at dksX2_move_1 12 rfl rfl)
theorem dX2_move_35 : decode cX2_move 35 = .ok (.getfield 19, 3) := dk_180 0 19 (dk_at dksX2_move_1 13 rfl rfl)
theorem dX2_move_38 : decode cX2_move 38 = .ok (.iload_n 1, 1) := dk_27 (dk_at dksX2_move_1 16 rfl rfl)
theorem dX2_move_39 : decode cX2_move 39 = .ok (.invokevirtual 68, 3) := dk_182 0 68 (dk_at dksX2_move_1 17 rfl rfl)
theorem dX2_move_42 : decode cX2_move 42 = .ok (.checkcast 64, 3) := dk_192 0 64 (dk_at dksX2_move_1 20 rfl rfl)
theorem dX2_move_45 : decode cX2_move 45 = .ok (.astore_n 3, 1) := dk_78 (dk_at dksX2_move_1 23 rfl rfl)
theorem dX2_move_46 : decode cX2_move 46 = .ok (.aload_n 3, 1) := dk_45 (dk_at dksX2_move_2 0 rfl rfl)
theorem dX2_move_47 : decode cX2_move 47 = .ok (.getfield 63, 3) := dk_180 0 63 (dk_at dksX2_move_2 1 rfl rfl)
theorem dX2_move_50 : decode cX2_move 50 = .ok (.iconst (-1), 1) := dk_2 (dk_at dksX2_move_2 4 rfl rfl)
theorem dX2_move_51 : decode cX2_move 51 = .ok (.if_icmp .ne 45, 3) := dk_160 0 45 (dk_at dksX2_move_2 5 rfl rfl)
theorem dX2_move_54 : decode cX2_move 54 = .ok (.aload_n 3, 1) := dk_45 (dk_at dksX2_move_2 8 rfl rfl)
theorem dX2_move_55 : decode cX2_move 55 = .ok (.getfield 76, 3) := dk_180 0 76 (dk_at dksX2_move_2 9 rfl rfl)
theorem dX2_move_58 : decode cX2_move 58 = .ok (.bipush 98, 2) := dk_16 98 (dk_at dksX2_move_2 12 rfl rfl)
theorem dX2_move_60 : decode cX2_move 60 = .ok (.if_icmp .eq 20, 3) := dk_159 0 20 (dk_at dksX2_move_2 14 rfl rfl)
theorem dX2_move_63 : decode cX2_move 63 = .ok (.aload_n 3, 1) := dk_45 (dk_at dksX2_move_2 17 rfl rfl)
theorem dX2_move_64 : decode cX2_move 64 = .ok (.getfield 76, 3) := dk_180 0 76 (dk_at dksX2_move_2 18 rfl rfl)
theorem dX2_move_67 : decode cX2_move 67 = .ok (.bipush 114, 2) := dk_16 114 (dk_at dksX2_move_2 21 rfl rfl)
theorem dX2_move_69 : decode cX2_move 69 = .ok (.if_icmp .ne 27, 3) := dk_160 0 27 (dk_at dksX2_move_3 0 rfl rfl)
theorem dX2_move_72 : decode cX2_move 72 = .ok (.aload_n 3, 1) := dk_45 (dk_at dksX2_move_3 3 rfl rfl)
theorem dX2_move_73 : decode cX2_move 73 = .ok (.getfield 80, 3) := dk_180 0 80 (dk_at dksX2_move_3 4 rfl rfl)
theorem dX2_move_76 : decode cX2_move 76 = .ok (.iload_n 2, 1) := dk_28 (dk_at dksX2_move_3 7 rfl rfl)
theorem dX2_move_77 : decode cX2_move 77 = .ok (.if_icmp .eq 19, 3) := dk_159 0 19 (dk_at dksX2_move_3 8 rfl rfl)
theorem dX2_move_80 : decode cX2_move 80 = .ok (.aload_n 0, 1) := dk_42 (dk_at dksX2_move_3 11 rfl rfl)
theorem dX2_move_81 : decode cX2_move 81 = .ok (.iload_n 2, 1) := dk_28 (dk_at dksX2_move_3 12 rfl rfl)
theorem dX2_move_82 : decode cX2_move 82 = .ok (.aload_n 3, 1) := dk_45 (dk_at dksX2_move_3 13 rfl rfl)
theorem dX2_move_83 : decode cX2_move 83 = .ok (.getfield 120, 3) := dk_180 0 120 (dk_at dksX2_move_3 14 rfl rfl)
theorem dX2_move_86 : decode cX2_move 86 = .ok (.invokevirtual 165, 3) := dk_182 0 165 (dk_at dksX2_move_3 17 rfl rfl)
theorem dX2_move_89 : decode cX2_move 89 = .ok (.ifCond .eq 7, 3) := dk_153 0 7 (dk_at dksX2_move_3 20 rfl rfl)
theorem dX2_move_92 : decode cX2_move 92 = .ok (.iconst 1, 1) := dk_4 (dk_at dksX2_move_3 23 rfl rfl)
theorem dX2_move_93 : decode cX2_move 93 = .ok (.goto 4, 3) := dk_167 0 4 (dk_at dksX2_move_4 0 rfl rfl)
theorem dX2_move_96 : decode cX2_move 96 = .ok (.iconst 0, 1) := dk_3 (dk_at dksX2_move_4 3 rfl rfl)
theorem dX2_move_97 : decode cX2_move 97 = .ok (.istore 4, 2) := dk_54 4 (dk_at dksX2_move_4 4 rfl rfl)
theorem dX2_move_99 : decode cX2_move 99 = .ok (.aload_n 0, 1) := dk_42 (dk_at dksX2_move_4 6 rfl rfl)
theorem dX2_move_100 : decode cX2_move 100 = .ok (.iload 4, 2) := dk_21 4 (dk_at dksX2_move_4 7 rfl rfl)
theorem dX2_move_102 : decode cX2_move 102 = .ok (.ifCond .eq 7, 3) := dk_153 0 7 (dk_at dksX2_move_4 9 rfl rfl)
theorem dX2_move_105 : decode cX2_move 105 = .ok (.iconst 0, 1) := dk_3 (dk_at dksX2_move_4 12 rfl rfl)
theorem dX2_move_106 : decode cX2_move 106 = .ok (.goto 4, 3) := dk_167 0 4 (dk_at dksX2_move_4 13 rfl rfl)
theorem dX2_move_109 : decode cX2_move 109 = .ok (.iconst 2, 1) := dk_5 (dk_at dksX2_move_4 16 rfl rfl)
theorem dX2_move_110 : decode cX2_move 110 = .ok (.putfield 44, 3) := dk_181 0 44 (dk_at dksX2_move_4 17 rfl rfl)
theorem dX2_move_113 : decode cX2_move 113 = .ok (.aload_n 0, 1) := dk_42 (dk_at dksX2_move_4 20 rfl rfl)
theorem dX2_move_114 : decode cX2_move 114 = .ok (.getfield 44, 3) := dk_180 0 44 (dk_at dksX2_move_4 21 rfl rfl)
theorem dX2_move_117 : decode cX2_move 117 = .ok (.ifCond .le 5, 3) := dk_158 0 5 (dk_at dksX2_move_5 0 rfl rfl)
theorem dX2_move_120 : decode cX2_move 120 = .ok (.iconst 0, 1) := dk_3 (dk_at dksX2_move_5 3 rfl rfl)
theorem dX2_move_121 : decode cX2_move 121 = .ok (.ireturn, 1) := dk_172 (dk_at dksX2_move_5 4 rfl rfl)
theorem dX2_move_122 : decode cX2_move 122 = .ok (.aload_n 0, 1) := dk_42 (dk_at dksX2_move_5 5 rfl rfl)
theorem dX2_move_123 : decode cX2_move 123 = .ok (.aload_n 3, 1) := dk_45 (dk_at dksX2_move_5 6 rfl rfl)
theorem dX2_move_124 : decode cX2_move 124 = .ok (.invokevirtual 181, 3) := dk_182 0 181 (dk_at dksX2_move_5 7 rfl rfl)
theorem dX2_move_127 : decode cX2_move 127 = .ok (.aload_n 0, 1) := dk_42 (dk_at dksX2_move_5 10 rfl rfl)
theorem dX2_move_128 : decode cX2_move 128 = .ok (.aload_n 3, 1) := dk_45 (dk_at dksX2_move_5 11 rfl rfl)
theorem dX2_move_129 : decode cX2_move 129 = .ok (.iload_n 2, 1) := dk_28 (dk_at dksX2_move_5 12 rfl rfl)
theorem dX2_move_130 : decode cX2_move 130 = .ok (.invokevirtual 172, 3) := dk_182 0 172 (dk_at dksX2_move_5 13 rfl rfl)
theorem dX2_move_133 : decode cX2_move 133 = .ok (.aload_n 0, 1) := dk_42 (dk_at dksX2_move_5 16 rfl rfl)
theorem dX2_move_134 : decode cX2_move 134 = .ok (.getfield 16, 3) := dk_180 0 16 (dk_at dksX2_move_5 17 rfl rfl)
theorem dX2_move_137 : decode cX2_move 137 = .ok (.iload_n 2, 1) := dk_28 (dk_at dksX2_move_5 20 rfl rfl)
theorem dX2_move_138 : decode cX2_move 138 = .ok (.invokevirtual 68, 3) := dk_182 0 68 (dk_at dksX2_move_5 21 rfl rfl)
theorem dX2_move_141 : decode cX2_move 141 = .ok (.checkcast 126, 3) := dk_192 0 126 (dk_at dksX2_move_6 0 rfl rfl)
theorem dX2_move_144 : decode cX2_move 144 = .ok (.getfield 128, 3) := dk_180 0 128 (dk_at dksX2_move_6 3 rfl rfl)
theorem dX2_move_147 : decode cX2_move 147 = .ok (.aload_n 0, 1) := dk_42 (dk_at dksX2_move_6 6 rfl rfl)
theorem dX2_move_148 : decode cX2_move 148 = .ok (.bipush 114, 2) := dk_16 114 (dk_at dksX2_move_6 7 rfl rfl)
theorem dX2_move_150 : decode cX2_move 150 = .ok (.iload_n 2, 1) := dk_28 (dk_at dksX2_move_6 9 rfl rfl)
theorem dX2_move_151 : decode cX2_move 151 = .ok (.invokevirtual 122, 3) := dk_182 0 122 (dk_at dksX2_move_6 10 rfl rfl)
theorem dX2_move_154 : decode cX2_move 154 = .ok (.isub, 1) := dk_100 (dk_at dksX2_move_6 13 rfl rfl)
theorem dX2_move_155 : decode cX2_move 155 = .ok (.ireturn, 1) := dk_172 (dk_at dksX2_move_6 14 rfl rfl)
abbrev cX2_leaves : ByteArray := prog_17_method_22_code
def yX2_leaves : MethodName := ⟨RX2, "leaves", "(LVaultyardModel$Thing;)V"⟩
def dkwX2_leaves_2 : List UInt8 := [182, 0, 68, 192, 0, 180, 4, 3, 79, 177]
abbrev dktX2_leaves_2 : List UInt8 := dkwX2_leaves_2 ++ []
def dkwX2_leaves_1 : List UInt8 := [181, 0, 76, 28, 153, 0, 27, 42, 16, 98, 29, 182, 0, 122, 154, 0, 17, 42, 180, 0, 31, 29]
abbrev dktX2_leaves_1 : List UInt8 := dkwX2_leaves_1 ++ dktX2_leaves_2
def dkwX2_leaves_0 : List UInt8 := [43, 180, 0, 76, 16, 98, 160, 0, 7, 4, 167, 0, 4, 3, 61, 43, 180, 0, 80, 62, 43, 16, 45]
abbrev dktX2_leaves_0 : List UInt8 := dkwX2_leaves_0 ++ dktX2_leaves_1
theorem dksX2_leaves_0 : cX2_leaves.data.toList.drop 0 = dktX2_leaves_0 := by decide +kernel
theorem dksX2_leaves_1 : cX2_leaves.data.toList.drop 23 = dktX2_leaves_1 := dk_seg dksX2_leaves_0 23 rfl rfl
theorem dksX2_leaves_2 : cX2_leaves.data.toList.drop 45 = dktX2_leaves_2 := dk_seg dksX2_leaves_1 22 rfl rfl
theorem dX2_leaves_0 : decode cX2_leaves 0 = .ok (.aload_n 1, 1) := dk_43 (dk_at dksX2_leaves_0 0 rfl rfl)
theorem dX2_leaves_1 : decode cX2_leaves 1 = .ok (.getfield 76, 3) := dk_180 0 76 (dk_at dksX2_leaves_0 1 rfl rfl)
theorem dX2_leaves_4 : decode cX2_leaves 4 = .ok (.bipush 98, 2) := dk_16 98 (dk_at dksX2_leaves_0 4 rfl rfl)
theorem dX2_leaves_6 : decode cX2_leaves 6 = .ok (.if_icmp .ne 7, 3) := dk_160 0 7 (dk_at dksX2_leaves_0 6 rfl rfl)
theorem dX2_leaves_9 : decode cX2_leaves 9 = .ok (.iconst 1, 1) := dk_4 (dk_at dksX2_leaves_0 9 rfl rfl)
theorem dX2_leaves_10 : decode cX2_leaves 10 = .ok (.goto 4, 3) := dk_167 0 4 (dk_at dksX2_leaves_0 10 rfl rfl)
theorem dX2_leaves_13 : decode cX2_leaves 13 = .ok (.iconst 0, 1) := dk_3 (dk_at dksX2_leaves_0 13 rfl rfl)
theorem dX2_leaves_14 : decode cX2_leaves 14 = .ok (.istore_n 2, 1) := dk_61 (dk_at dksX2_leaves_0 14 rfl rfl)
theorem dX2_leaves_15 : decode cX2_leaves 15 = .ok (.aload_n 1, 1) := dk_43 (dk_at dksX2_leaves_0 15 rfl rfl)
theorem dX2_leaves_16 : decode cX2_leaves 16 = .ok (.getfield 80, 3) := dk_180 0 80 (dk_at dksX2_leaves_0 16 rfl rfl)
theorem dX2_leaves_19 : decode cX2_leaves 19 = .ok (.istore_n 3, 1) := dk_62 (dk_at dksX2_leaves_0 19 rfl rfl)
theorem dX2_leaves_20 : decode cX2_leaves 20 = .ok (.aload_n 1, 1) := dk_43 (dk_at dksX2_leaves_0 20 rfl rfl)
theorem dX2_leaves_21 : decode cX2_leaves 21 = .ok (.bipush 45, 2) := dk_16 45 (dk_at dksX2_leaves_0 21 rfl rfl)
theorem dX2_leaves_23 : decode cX2_leaves 23 = .ok (.putfield 76, 3) := dk_181 0 76 (dk_at dksX2_leaves_1 0 rfl rfl)
theorem dX2_leaves_26 : decode cX2_leaves 26 = .ok (.iload_n 2, 1) := dk_28 (dk_at dksX2_leaves_1 3 rfl rfl)
theorem dX2_leaves_27 : decode cX2_leaves 27 = .ok (.ifCond .eq 27, 3) := dk_153 0 27 (dk_at dksX2_leaves_1 4 rfl rfl)
theorem dX2_leaves_30 : decode cX2_leaves 30 = .ok (.aload_n 0, 1) := dk_42 (dk_at dksX2_leaves_1 7 rfl rfl)
theorem dX2_leaves_31 : decode cX2_leaves 31 = .ok (.bipush 98, 2) := dk_16 98 (dk_at dksX2_leaves_1 8 rfl rfl)
theorem dX2_leaves_33 : decode cX2_leaves 33 = .ok (.iload_n 3, 1) := dk_29 (dk_at dksX2_leaves_1 10 rfl rfl)
theorem dX2_leaves_34 : decode cX2_leaves 34 = .ok (.invokevirtual 122, 3) := dk_182 0 122 (dk_at dksX2_leaves_1 11 rfl rfl)
theorem dX2_leaves_37 : decode cX2_leaves 37 = .ok (.ifCond .ne 17, 3) := dk_154 0 17 (dk_at dksX2_leaves_1 14 rfl rfl)
theorem dX2_leaves_40 : decode cX2_leaves 40 = .ok (.aload_n 0, 1) := dk_42 (dk_at dksX2_leaves_1 17 rfl rfl)
theorem dX2_leaves_41 : decode cX2_leaves 41 = .ok (.getfield 31, 3) := dk_180 0 31 (dk_at dksX2_leaves_1 18 rfl rfl)
theorem dX2_leaves_44 : decode cX2_leaves 44 = .ok (.iload_n 3, 1) := dk_29 (dk_at dksX2_leaves_1 21 rfl rfl)
theorem dX2_leaves_45 : decode cX2_leaves 45 = .ok (.invokevirtual 68, 3) := dk_182 0 68 (dk_at dksX2_leaves_2 0 rfl rfl)
theorem dX2_leaves_48 : decode cX2_leaves 48 = .ok (.checkcast 180, 3) := dk_192 0 180 (dk_at dksX2_leaves_2 3 rfl rfl)
theorem dX2_leaves_51 : decode cX2_leaves 51 = .ok (.iconst 1, 1) := dk_4 (dk_at dksX2_leaves_2 6 rfl rfl)
theorem dX2_leaves_52 : decode cX2_leaves 52 = .ok (.iconst 0, 1) := dk_3 (dk_at dksX2_leaves_2 7 rfl rfl)
theorem dX2_leaves_53 : decode cX2_leaves 53 = .ok (.iastore, 1) := dk_79 (dk_at dksX2_leaves_2 8 rfl rfl)
theorem dX2_leaves_54 : decode cX2_leaves 54 = .ok (.return_, 1) := dk_177 (dk_at dksX2_leaves_2 9 rfl rfl)
abbrev cX2_place : ByteArray := prog_17_method_24_code
def yX2_place : MethodName := ⟨RX2, "place", "(I)C"⟩
def dkwX2_place_1 : List UInt8 := [192, 0, 64, 182, 0, 72, 180, 0, 76, 172]
abbrev dktX2_place_1 : List UInt8 := dkwX2_place_1 ++ []
def dkwX2_place_0 : List UInt8 := [42, 27, 182, 0, 185, 153, 0, 8, 16, 32, 167, 0, 21, 42, 42, 180, 0, 19, 27, 182, 0, 68]
abbrev dktX2_place_0 : List UInt8 := dkwX2_place_0 ++ dktX2_place_1
theorem dksX2_place_0 : cX2_place.data.toList.drop 0 = dktX2_place_0 := by decide +kernel
theorem dksX2_place_1 : cX2_place.data.toList.drop 22 = dktX2_place_1 := dk_seg dksX2_place_0 22 rfl rfl
theorem dX2_place_0 : decode cX2_place 0 = .ok (.aload_n 0, 1) := dk_42 (dk_at dksX2_place_0 0 rfl rfl)
theorem dX2_place_1 : decode cX2_place 1 = .ok (.iload_n 1, 1) := dk_27 (dk_at dksX2_place_0 1 rfl rfl)
theorem dX2_place_2 : decode cX2_place 2 = .ok (.invokevirtual 185, 3) := dk_182 0 185 (dk_at dksX2_place_0 2 rfl rfl)
theorem dX2_place_5 : decode cX2_place 5 = .ok (.ifCond .eq 8, 3) := dk_153 0 8 (dk_at dksX2_place_0 5 rfl rfl)
theorem dX2_place_8 : decode cX2_place 8 = .ok (.bipush 32, 2) := dk_16 32 (dk_at dksX2_place_0 8 rfl rfl)
theorem dX2_place_10 : decode cX2_place 10 = .ok (.goto 21, 3) := dk_167 0 21 (dk_at dksX2_place_0 10 rfl rfl)
theorem dX2_place_13 : decode cX2_place 13 = .ok (.aload_n 0, 1) := dk_42 (dk_at dksX2_place_0 13 rfl rfl)
theorem dX2_place_14 : decode cX2_place 14 = .ok (.aload_n 0, 1) := dk_42 (dk_at dksX2_place_0 14 rfl rfl)
theorem dX2_place_15 : decode cX2_place 15 = .ok (.getfield 19, 3) := dk_180 0 19 (dk_at dksX2_place_0 15 rfl rfl)
theorem dX2_place_18 : decode cX2_place 18 = .ok (.iload_n 1, 1) := dk_27 (dk_at dksX2_place_0 18 rfl rfl)
theorem dX2_place_19 : decode cX2_place 19 = .ok (.invokevirtual 68, 3) := dk_182 0 68 (dk_at dksX2_place_0 19 rfl rfl)
theorem dX2_place_22 : decode cX2_place 22 = .ok (.checkcast 64, 3) := dk_192 0 64 (dk_at dksX2_place_1 0 rfl rfl)
theorem dX2_place_25 : decode cX2_place 25 = .ok (.invokevirtual 72, 3) := dk_182 0 72 (dk_at dksX2_place_1 3 rfl rfl)
theorem dX2_place_28 : decode cX2_place 28 = .ok (.getfield 76, 3) := dk_180 0 76 (dk_at dksX2_place_1 6 rfl rfl)
theorem dX2_place_31 : decode cX2_place 31 = .ok (.ireturn, 1) := dk_172 (dk_at dksX2_place_1 9 rfl rfl)
abbrev cX2_noThing : ByteArray := prog_17_method_6_code
def yX2_noThing : MethodName := ⟨RX2, "noThing", "(I)Z"⟩
def dkwX2_noThing_1 : List UInt8 := [4, 167, 0, 4, 3, 172]
abbrev dktX2_noThing_1 : List UInt8 := dkwX2_noThing_1 ++ []
def dkwX2_noThing_0 : List UInt8 := [42, 42, 27, 182, 0, 56, 153, 0, 7, 3, 167, 0, 4, 4, 181, 0, 44, 42, 180, 0, 44, 158, 0, 7]
abbrev dktX2_noThing_0 : List UInt8 := dkwX2_noThing_0 ++ dktX2_noThing_1
theorem dksX2_noThing_0 : cX2_noThing.data.toList.drop 0 = dktX2_noThing_0 := by decide +kernel
theorem dksX2_noThing_1 : cX2_noThing.data.toList.drop 24 = dktX2_noThing_1 := dk_seg dksX2_noThing_0 24 rfl rfl
theorem dX2_noThing_0 : decode cX2_noThing 0 = .ok (.aload_n 0, 1) := dk_42 (dk_at dksX2_noThing_0 0 rfl rfl)
theorem dX2_noThing_1 : decode cX2_noThing 1 = .ok (.aload_n 0, 1) := dk_42 (dk_at dksX2_noThing_0 1 rfl rfl)
theorem dX2_noThing_2 : decode cX2_noThing 2 = .ok (.iload_n 1, 1) := dk_27 (dk_at dksX2_noThing_0 2 rfl rfl)
theorem dX2_noThing_3 : decode cX2_noThing 3 = .ok (.invokevirtual 56, 3) := dk_182 0 56 (dk_at dksX2_noThing_0 3 rfl rfl)
theorem dX2_noThing_6 : decode cX2_noThing 6 = .ok (.ifCond .eq 7, 3) := dk_153 0 7 (dk_at dksX2_noThing_0 6 rfl rfl)
theorem dX2_noThing_9 : decode cX2_noThing 9 = .ok (.iconst 0, 1) := dk_3 (dk_at dksX2_noThing_0 9 rfl rfl)
theorem dX2_noThing_10 : decode cX2_noThing 10 = .ok (.goto 4, 3) := dk_167 0 4 (dk_at dksX2_noThing_0 10 rfl rfl)
theorem dX2_noThing_13 : decode cX2_noThing 13 = .ok (.iconst 1, 1) := dk_4 (dk_at dksX2_noThing_0 13 rfl rfl)
theorem dX2_noThing_14 : decode cX2_noThing 14 = .ok (.putfield 44, 3) := dk_181 0 44 (dk_at dksX2_noThing_0 14 rfl rfl)
theorem dX2_noThing_17 : decode cX2_noThing 17 = .ok (.aload_n 0, 1) := dk_42 (dk_at dksX2_noThing_0 17 rfl rfl)
theorem dX2_noThing_18 : decode cX2_noThing 18 = .ok (.getfield 44, 3) := dk_180 0 44 (dk_at dksX2_noThing_0 18 rfl rfl)
theorem dX2_noThing_21 : decode cX2_noThing 21 = .ok (.ifCond .le 7, 3) := dk_158 0 7 (dk_at dksX2_noThing_0 21 rfl rfl)
theorem dX2_noThing_24 : decode cX2_noThing 24 = .ok (.iconst 1, 1) := dk_4 (dk_at dksX2_noThing_1 0 rfl rfl)
theorem dX2_noThing_25 : decode cX2_noThing 25 = .ok (.goto 4, 3) := dk_167 0 4 (dk_at dksX2_noThing_1 1 rfl rfl)
theorem dX2_noThing_28 : decode cX2_noThing 28 = .ok (.iconst 0, 1) := dk_3 (dk_at dksX2_noThing_1 4 rfl rfl)
theorem dX2_noThing_29 : decode cX2_noThing 29 = .ok (.ireturn, 1) := dk_172 (dk_at dksX2_noThing_1 5 rfl rfl)
abbrev cX2_wholeOf : ByteArray := prog_17_method_8_code
def yX2_wholeOf : MethodName := ⟨RX2, "wholeOf", "(LVaultyardModel$Thing;)LVaultyardModel$Thing;"⟩
def dkwX2_wholeOf_1 : List UInt8 := [192, 0, 64, 176]
abbrev dktX2_wholeOf_1 : List UInt8 := dkwX2_wholeOf_1 ++ []
def dkwX2_wholeOf_0 : List UInt8 := [43, 180, 0, 63, 2, 160, 0, 7, 43, 167, 0, 17, 42, 180, 0, 19, 43, 180, 0, 63, 182, 0, 68]
abbrev dktX2_wholeOf_0 : List UInt8 := dkwX2_wholeOf_0 ++ dktX2_wholeOf_1
theorem dksX2_wholeOf_0 : cX2_wholeOf.data.toList.drop 0 = dktX2_wholeOf_0 := by decide +kernel
theorem dksX2_wholeOf_1 : cX2_wholeOf.data.toList.drop 23 = dktX2_wholeOf_1 := dk_seg dksX2_wholeOf_0 23 rfl rfl
theorem dX2_wholeOf_0 : decode cX2_wholeOf 0 = .ok (.aload_n 1, 1) := dk_43 (dk_at dksX2_wholeOf_0 0 rfl rfl)
theorem dX2_wholeOf_1 : decode cX2_wholeOf 1 = .ok (.getfield 63, 3) := dk_180 0 63 (dk_at dksX2_wholeOf_0 1 rfl rfl)
theorem dX2_wholeOf_4 : decode cX2_wholeOf 4 = .ok (.iconst (-1), 1) := dk_2 (dk_at dksX2_wholeOf_0 4 rfl rfl)
theorem dX2_wholeOf_5 : decode cX2_wholeOf 5 = .ok (.if_icmp .ne 7, 3) := dk_160 0 7 (dk_at dksX2_wholeOf_0 5 rfl rfl)
theorem dX2_wholeOf_8 : decode cX2_wholeOf 8 = .ok (.aload_n 1, 1) := dk_43 (dk_at dksX2_wholeOf_0 8 rfl rfl)
theorem dX2_wholeOf_9 : decode cX2_wholeOf 9 = .ok (.goto 17, 3) := dk_167 0 17 (dk_at dksX2_wholeOf_0 9 rfl rfl)
theorem dX2_wholeOf_12 : decode cX2_wholeOf 12 = .ok (.aload_n 0, 1) := dk_42 (dk_at dksX2_wholeOf_0 12 rfl rfl)
theorem dX2_wholeOf_13 : decode cX2_wholeOf 13 = .ok (.getfield 19, 3) := dk_180 0 19 (dk_at dksX2_wholeOf_0 13 rfl rfl)
theorem dX2_wholeOf_16 : decode cX2_wholeOf 16 = .ok (.aload_n 1, 1) := dk_43 (dk_at dksX2_wholeOf_0 16 rfl rfl)
theorem dX2_wholeOf_17 : decode cX2_wholeOf 17 = .ok (.getfield 63, 3) := dk_180 0 63 (dk_at dksX2_wholeOf_0 17 rfl rfl)
theorem dX2_wholeOf_20 : decode cX2_wholeOf 20 = .ok (.invokevirtual 68, 3) := dk_182 0 68 (dk_at dksX2_wholeOf_0 20 rfl rfl)
theorem dX2_wholeOf_23 : decode cX2_wholeOf 23 = .ok (.checkcast 64, 3) := dk_192 0 64 (dk_at dksX2_wholeOf_1 0 rfl rfl)
theorem dX2_wholeOf_26 : decode cX2_wholeOf 26 = .ok (.areturn, 1) := dk_176 (dk_at dksX2_wholeOf_1 3 rfl rfl)
abbrev cX2_roomOf : ByteArray := prog_17_method_25_code
def yX2_roomOf : MethodName := ⟨RX2, "roomOf", "(I)I"⟩
def dkwX2_roomOf_2 : List UInt8 := [180, 0, 44, 158, 0, 7, 3, 167, 0, 7, 44, 180, 0, 80, 172]
abbrev dktX2_roomOf_2 : List UInt8 := dkwX2_roomOf_2 ++ []
def dkwX2_roomOf_1 : List UInt8 := [182, 0, 72, 77, 42, 44, 180, 0, 76, 16, 114, 160, 0, 7, 3, 167, 0, 4, 5, 181, 0, 44, 42]
abbrev dktX2_roomOf_1 : List UInt8 := dkwX2_roomOf_1 ++ dktX2_roomOf_2
def dkwX2_roomOf_0 : List UInt8 := [42, 27, 182, 0, 185, 153, 0, 5, 3, 172, 42, 42, 180, 0, 19, 27, 182, 0, 68, 192, 0, 64]
abbrev dktX2_roomOf_0 : List UInt8 := dkwX2_roomOf_0 ++ dktX2_roomOf_1
theorem dksX2_roomOf_0 : cX2_roomOf.data.toList.drop 0 = dktX2_roomOf_0 := by decide +kernel
theorem dksX2_roomOf_1 : cX2_roomOf.data.toList.drop 22 = dktX2_roomOf_1 := dk_seg dksX2_roomOf_0 22 rfl rfl
theorem dksX2_roomOf_2 : cX2_roomOf.data.toList.drop 45 = dktX2_roomOf_2 := dk_seg dksX2_roomOf_1 23 rfl rfl
theorem dX2_roomOf_0 : decode cX2_roomOf 0 = .ok (.aload_n 0, 1) := dk_42 (dk_at dksX2_roomOf_0 0 rfl rfl)
theorem dX2_roomOf_1 : decode cX2_roomOf 1 = .ok (.iload_n 1, 1) := dk_27 (dk_at dksX2_roomOf_0 1 rfl rfl)
theorem dX2_roomOf_2 : decode cX2_roomOf 2 = .ok (.invokevirtual 185, 3) := dk_182 0 185 (dk_at dksX2_roomOf_0 2 rfl rfl)
theorem dX2_roomOf_5 : decode cX2_roomOf 5 = .ok (.ifCond .eq 5, 3) := dk_153 0 5 (dk_at dksX2_roomOf_0 5 rfl rfl)
theorem dX2_roomOf_8 : decode cX2_roomOf 8 = .ok (.iconst 0, 1) := dk_3 (dk_at dksX2_roomOf_0 8 rfl rfl)
theorem dX2_roomOf_9 : decode cX2_roomOf 9 = .ok (.ireturn, 1) := dk_172 (dk_at dksX2_roomOf_0 9 rfl rfl)
theorem dX2_roomOf_10 : decode cX2_roomOf 10 = .ok (.aload_n 0, 1) := dk_42 (dk_at dksX2_roomOf_0 10 rfl rfl)
theorem dX2_roomOf_11 : decode cX2_roomOf 11 = .ok (.aload_n 0, 1) := dk_42 (dk_at dksX2_roomOf_0 11 rfl rfl)
theorem dX2_roomOf_12 : decode cX2_roomOf 12 = .ok (.getfield 19, 3) := dk_180 0 19 (dk_at dksX2_roomOf_0 12 rfl rfl)
theorem dX2_roomOf_15 : decode cX2_roomOf 15 = .ok (.iload_n 1, 1) := dk_27 (dk_at dksX2_roomOf_0 15 rfl rfl)
theorem dX2_roomOf_16 : decode cX2_roomOf 16 = .ok (.invokevirtual 68, 3) := dk_182 0 68 (dk_at dksX2_roomOf_0 16 rfl rfl)
theorem dX2_roomOf_19 : decode cX2_roomOf 19 = .ok (.checkcast 64, 3) := dk_192 0 64 (dk_at dksX2_roomOf_0 19 rfl rfl)
theorem dX2_roomOf_22 : decode cX2_roomOf 22 = .ok (.invokevirtual 72, 3) := dk_182 0 72 (dk_at dksX2_roomOf_1 0 rfl rfl)
theorem dX2_roomOf_25 : decode cX2_roomOf 25 = .ok (.astore_n 2, 1) := dk_77 (dk_at dksX2_roomOf_1 3 rfl rfl)
theorem dX2_roomOf_26 : decode cX2_roomOf 26 = .ok (.aload_n 0, 1) := dk_42 (dk_at dksX2_roomOf_1 4 rfl rfl)
theorem dX2_roomOf_27 : decode cX2_roomOf 27 = .ok (.aload_n 2, 1) := dk_44 (dk_at dksX2_roomOf_1 5 rfl rfl)
theorem dX2_roomOf_28 : decode cX2_roomOf 28 = .ok (.getfield 76, 3) := dk_180 0 76 (dk_at dksX2_roomOf_1 6 rfl rfl)
theorem dX2_roomOf_31 : decode cX2_roomOf 31 = .ok (.bipush 114, 2) := dk_16 114 (dk_at dksX2_roomOf_1 9 rfl rfl)
theorem dX2_roomOf_33 : decode cX2_roomOf 33 = .ok (.if_icmp .ne 7, 3) := dk_160 0 7 (dk_at dksX2_roomOf_1 11 rfl rfl)
theorem dX2_roomOf_36 : decode cX2_roomOf 36 = .ok (.iconst 0, 1) := dk_3 (dk_at dksX2_roomOf_1 14 rfl rfl)
theorem dX2_roomOf_37 : decode cX2_roomOf 37 = .ok (.goto 4, 3) := dk_167 0 4 (dk_at dksX2_roomOf_1 15 rfl rfl)
theorem dX2_roomOf_40 : decode cX2_roomOf 40 = .ok (.iconst 2, 1) := dk_5 (dk_at dksX2_roomOf_1 18 rfl rfl)
theorem dX2_roomOf_41 : decode cX2_roomOf 41 = .ok (.putfield 44, 3) := dk_181 0 44 (dk_at dksX2_roomOf_1 19 rfl rfl)
theorem dX2_roomOf_44 : decode cX2_roomOf 44 = .ok (.aload_n 0, 1) := dk_42 (dk_at dksX2_roomOf_1 22 rfl rfl)
theorem dX2_roomOf_45 : decode cX2_roomOf 45 = .ok (.getfield 44, 3) := dk_180 0 44 (dk_at dksX2_roomOf_2 0 rfl rfl)
theorem dX2_roomOf_48 : decode cX2_roomOf 48 = .ok (.ifCond .le 7, 3) := dk_158 0 7 (dk_at dksX2_roomOf_2 3 rfl rfl)
theorem dX2_roomOf_51 : decode cX2_roomOf 51 = .ok (.iconst 0, 1) := dk_3 (dk_at dksX2_roomOf_2 6 rfl rfl)
theorem dX2_roomOf_52 : decode cX2_roomOf 52 = .ok (.goto 7, 3) := dk_167 0 7 (dk_at dksX2_roomOf_2 7 rfl rfl)
theorem dX2_roomOf_55 : decode cX2_roomOf 55 = .ok (.aload_n 2, 1) := dk_44 (dk_at dksX2_roomOf_2 10 rfl rfl)
theorem dX2_roomOf_56 : decode cX2_roomOf 56 = .ok (.getfield 80, 3) := dk_180 0 80 (dk_at dksX2_roomOf_2 11 rfl rfl)
theorem dX2_roomOf_59 : decode cX2_roomOf 59 = .ok (.ireturn, 1) := dk_172 (dk_at dksX2_roomOf_2 14 rfl rfl)
abbrev cX2_day : ByteArray := prog_17_method_30_code
def yX2_day : MethodName := ⟨RX2, "day", "(I)I"⟩
def dkwX2_day_3 : List UInt8 := [167, 0, 7, 42, 180, 0, 86, 172]
abbrev dktX2_day_3 : List UInt8 := dkwX2_day_3 ++ []
def dkwX2_day_2 : List UInt8 := [180, 0, 44, 154, 0, 13, 42, 182, 0, 235, 132, 2, 1, 167, 255, 237, 42, 180, 0, 44, 158, 0, 7, 3]
abbrev dktX2_day_2 : List UInt8 := dkwX2_day_2 ++ dktX2_day_3
def dkwX2_day_1 : List UInt8 := [17, 117, 48, 164, 0, 7, 5, 167, 0, 4, 3, 181, 0, 44, 3, 61, 28, 27, 162, 0, 20, 42]
abbrev dktX2_day_1 : List UInt8 := dkwX2_day_1 ++ dktX2_day_2
def dkwX2_day_0 : List UInt8 := [42, 27, 133, 10, 20, 0, 233, 184, 0, 52, 154, 0, 7, 4, 167, 0, 20, 42, 180, 0, 86, 27, 96]
abbrev dktX2_day_0 : List UInt8 := dkwX2_day_0 ++ dktX2_day_1
theorem dksX2_day_0 : cX2_day.data.toList.drop 0 = dktX2_day_0 := by decide +kernel
theorem dksX2_day_1 : cX2_day.data.toList.drop 23 = dktX2_day_1 := dk_seg dksX2_day_0 23 rfl rfl
theorem dksX2_day_2 : cX2_day.data.toList.drop 45 = dktX2_day_2 := dk_seg dksX2_day_1 22 rfl rfl
theorem dksX2_day_3 : cX2_day.data.toList.drop 69 = dktX2_day_3 := dk_seg dksX2_day_2 24 rfl rfl
theorem dX2_day_0 : decode cX2_day 0 = .ok (.aload_n 0, 1) := dk_42 (dk_at dksX2_day_0 0 rfl rfl)
theorem dX2_day_1 : decode cX2_day 1 = .ok (.iload_n 1, 1) := dk_27 (dk_at dksX2_day_0 1 rfl rfl)
theorem dX2_day_2 : decode cX2_day 2 = .ok (.i2l, 1) := dk_133 (dk_at dksX2_day_0 2 rfl rfl)
theorem dX2_day_3 : decode cX2_day 3 = .ok (.lconst 1, 1) := dk_10 (dk_at dksX2_day_0 3 rfl rfl)
theorem dX2_day_4 : decode cX2_day 4 = .ok (.ldc2_w 233, 3) := dk_20 0 233 (dk_at dksX2_day_0 4 rfl rfl)
theorem dX2_day_7 : decode cX2_day 7 = .ok (.invokestatic 52, 3) := dk_184 0 52 (dk_at dksX2_day_0 7 rfl rfl)
theorem dX2_day_10 : decode cX2_day 10 = .ok (.ifCond .ne 7, 3) := dk_154 0 7 (dk_at dksX2_day_0 10 rfl rfl)
theorem dX2_day_13 : decode cX2_day 13 = .ok (.iconst 1, 1) := dk_4 (dk_at dksX2_day_0 13 rfl rfl)
theorem dX2_day_14 : decode cX2_day 14 = .ok (.goto 20, 3) := dk_167 0 20 (dk_at dksX2_day_0 14 rfl rfl)
theorem dX2_day_17 : decode cX2_day 17 = .ok (.aload_n 0, 1) := dk_42 (dk_at dksX2_day_0 17 rfl rfl)
theorem dX2_day_18 : decode cX2_day 18 = .ok (.getfield 86, 3) := dk_180 0 86 (dk_at dksX2_day_0 18 rfl rfl)
theorem dX2_day_21 : decode cX2_day 21 = .ok (.iload_n 1, 1) := dk_27 (dk_at dksX2_day_0 21 rfl rfl)
theorem dX2_day_22 : decode cX2_day 22 = .ok (.iadd, 1) := dk_96 (dk_at dksX2_day_0 22 rfl rfl)
theorem dX2_day_23 : decode cX2_day 23 = .ok (.sipush 30000, 3) := dk_17 117 48 (dk_at dksX2_day_1 0 rfl rfl)
theorem dX2_day_26 : decode cX2_day 26 = .ok (.if_icmp .le 7, 3) := dk_164 0 7 (dk_at dksX2_day_1 3 rfl rfl)
theorem dX2_day_29 : decode cX2_day 29 = .ok (.iconst 2, 1) := dk_5 (dk_at dksX2_day_1 6 rfl rfl)
theorem dX2_day_30 : decode cX2_day 30 = .ok (.goto 4, 3) := dk_167 0 4 (dk_at dksX2_day_1 7 rfl rfl)
theorem dX2_day_33 : decode cX2_day 33 = .ok (.iconst 0, 1) := dk_3 (dk_at dksX2_day_1 10 rfl rfl)
theorem dX2_day_34 : decode cX2_day 34 = .ok (.putfield 44, 3) := dk_181 0 44 (dk_at dksX2_day_1 11 rfl rfl)
theorem dX2_day_37 : decode cX2_day 37 = .ok (.iconst 0, 1) := dk_3 (dk_at dksX2_day_1 14 rfl rfl)
theorem dX2_day_38 : decode cX2_day 38 = .ok (.istore_n 2, 1) := dk_61 (dk_at dksX2_day_1 15 rfl rfl)
theorem dX2_day_39 : decode cX2_day 39 = .ok (.iload_n 2, 1) := dk_28 (dk_at dksX2_day_1 16 rfl rfl)
theorem dX2_day_40 : decode cX2_day 40 = .ok (.iload_n 1, 1) := dk_27 (dk_at dksX2_day_1 17 rfl rfl)
theorem dX2_day_41 : decode cX2_day 41 = .ok (.if_icmp .ge 20, 3) := dk_162 0 20 (dk_at dksX2_day_1 18 rfl rfl)
theorem dX2_day_44 : decode cX2_day 44 = .ok (.aload_n 0, 1) := dk_42 (dk_at dksX2_day_1 21 rfl rfl)
theorem dX2_day_45 : decode cX2_day 45 = .ok (.getfield 44, 3) := dk_180 0 44 (dk_at dksX2_day_2 0 rfl rfl)
theorem dX2_day_48 : decode cX2_day 48 = .ok (.ifCond .ne 13, 3) := dk_154 0 13 (dk_at dksX2_day_2 3 rfl rfl)
theorem dX2_day_51 : decode cX2_day 51 = .ok (.aload_n 0, 1) := dk_42 (dk_at dksX2_day_2 6 rfl rfl)
theorem dX2_day_52 : decode cX2_day 52 = .ok (.invokevirtual 235, 3) := dk_182 0 235 (dk_at dksX2_day_2 7 rfl rfl)
theorem dX2_day_55 : decode cX2_day 55 = .ok (.iinc 2 1, 3) := dk_132 2 1 (dk_at dksX2_day_2 10 rfl rfl)
theorem dX2_day_58 : decode cX2_day 58 = .ok (.goto (-19), 3) := dk_167 255 237 (dk_at dksX2_day_2 13 rfl rfl)
theorem dX2_day_61 : decode cX2_day 61 = .ok (.aload_n 0, 1) := dk_42 (dk_at dksX2_day_2 16 rfl rfl)
theorem dX2_day_62 : decode cX2_day 62 = .ok (.getfield 44, 3) := dk_180 0 44 (dk_at dksX2_day_2 17 rfl rfl)
theorem dX2_day_65 : decode cX2_day 65 = .ok (.ifCond .le 7, 3) := dk_158 0 7 (dk_at dksX2_day_2 20 rfl rfl)
theorem dX2_day_68 : decode cX2_day 68 = .ok (.iconst 0, 1) := dk_3 (dk_at dksX2_day_2 23 rfl rfl)
theorem dX2_day_69 : decode cX2_day 69 = .ok (.goto 7, 3) := dk_167 0 7 (dk_at dksX2_day_3 0 rfl rfl)
theorem dX2_day_72 : decode cX2_day 72 = .ok (.aload_n 0, 1) := dk_42 (dk_at dksX2_day_3 3 rfl rfl)
theorem dX2_day_73 : decode cX2_day 73 = .ok (.getfield 86, 3) := dk_180 0 86 (dk_at dksX2_day_3 4 rfl rfl)
theorem dX2_day_76 : decode cX2_day 76 = .ok (.ireturn, 1) := dk_172 (dk_at dksX2_day_3 7 rfl rfl)
abbrev cX2_endDay : ByteArray := prog_17_method_29_code
def yX2_endDay : MethodName := ⟨RX2, "endDay", "()V"⟩
def dkwX2_endDay_7 : List UInt8 := [17, 1, 109, 112, 154, 0, 7, 3, 167, 0, 7, 44, 180, 0, 202, 181, 0, 202, 167, 255, 214, 177]
abbrev dktX2_endDay_7 : List UInt8 := dkwX2_endDay_7 ++ []
def dkwX2_endDay_6 : List UInt8 := [185, 0, 110, 1, 0, 153, 0, 39, 43, 185, 0, 116, 1, 0, 192, 0, 64, 77, 44, 42, 180, 0, 86]
abbrev dktX2_endDay_6 : List UInt8 := dkwX2_endDay_6 ++ dktX2_endDay_7
def dkwX2_endDay_5 : List UInt8 := [167, 255, 185, 42, 89, 180, 0, 86, 4, 96, 181, 0, 86, 42, 180, 0, 19, 182, 0, 106, 76, 43]
abbrev dktX2_endDay_5 : List UInt8 := dkwX2_endDay_5 ++ dktX2_endDay_6
def dkwX2_endDay_4 : List UInt8 := [180, 0, 80, 44, 180, 0, 120, 182, 0, 165, 153, 0, 12, 42, 44, 44, 180, 0, 80, 182, 0, 172]
abbrev dktX2_endDay_4 : List UInt8 := dkwX2_endDay_4 ++ dktX2_endDay_5
def dkwX2_endDay_3 : List UInt8 := [160, 0, 46, 44, 180, 0, 63, 2, 160, 0, 38, 42, 180, 0, 86, 44, 180, 0, 230, 161, 0, 27, 42, 44]
abbrev dktX2_endDay_3 : List UInt8 := dkwX2_endDay_3 ++ dktX2_endDay_4
def dkwX2_endDay_2 : List UInt8 := [185, 0, 110, 1, 0, 153, 0, 68, 43, 185, 0, 116, 1, 0, 192, 0, 64, 77, 44, 180, 0, 76, 16, 119]
abbrev dktX2_endDay_2 : List UInt8 := dkwX2_endDay_2 ++ dktX2_endDay_3
def dkwX2_endDay_1 : List UInt8 := [192, 0, 64, 77, 42, 44, 182, 0, 227, 167, 255, 232, 42, 180, 0, 19, 182, 0, 106, 76, 43]
abbrev dktX2_endDay_1 : List UInt8 := dkwX2_endDay_1 ++ dktX2_endDay_2
def dkwX2_endDay_0 : List UInt8 := [42, 180, 0, 19, 182, 0, 106, 76, 43, 185, 0, 110, 1, 0, 153, 0, 21, 43, 185, 0, 116, 1, 0]
abbrev dktX2_endDay_0 : List UInt8 := dkwX2_endDay_0 ++ dktX2_endDay_1
theorem dksX2_endDay_0 : cX2_endDay.data.toList.drop 0 = dktX2_endDay_0 := by decide +kernel
theorem dksX2_endDay_1 : cX2_endDay.data.toList.drop 23 = dktX2_endDay_1 := dk_seg dksX2_endDay_0 23 rfl rfl
theorem dksX2_endDay_2 : cX2_endDay.data.toList.drop 44 = dktX2_endDay_2 := dk_seg dksX2_endDay_1 21 rfl rfl
theorem dksX2_endDay_3 : cX2_endDay.data.toList.drop 68 = dktX2_endDay_3 := dk_seg dksX2_endDay_2 24 rfl rfl
theorem dksX2_endDay_4 : cX2_endDay.data.toList.drop 92 = dktX2_endDay_4 := dk_seg dksX2_endDay_3 24 rfl rfl
theorem dksX2_endDay_5 : cX2_endDay.data.toList.drop 114 = dktX2_endDay_5 := dk_seg dksX2_endDay_4 22 rfl rfl
theorem dksX2_endDay_6 : cX2_endDay.data.toList.drop 136 = dktX2_endDay_6 := dk_seg dksX2_endDay_5 22 rfl rfl
theorem dksX2_endDay_7 : cX2_endDay.data.toList.drop 159 = dktX2_endDay_7 := dk_seg dksX2_endDay_6 23 rfl rfl
theorem dX2_endDay_0 : decode cX2_endDay 0 = .ok (.aload_n 0, 1) := dk_42 (dk_at dksX2_endDay_0 0 rfl rfl)
theorem dX2_endDay_1 : decode cX2_endDay 1 = .ok (.getfield 19, 3) := dk_180 0 19 (dk_at dksX2_endDay_0 1 rfl rfl)
theorem dX2_endDay_4 : decode cX2_endDay 4 = .ok (.invokevirtual 106, 3) := dk_182 0 106 (dk_at dksX2_endDay_0 4 rfl rfl)
theorem dX2_endDay_7 : decode cX2_endDay 7 = .ok (.astore_n 1, 1) := dk_76 (dk_at dksX2_endDay_0 7 rfl rfl)
theorem dX2_endDay_8 : decode cX2_endDay 8 = .ok (.aload_n 1, 1) := dk_43 (dk_at dksX2_endDay_0 8 rfl rfl)
theorem dX2_endDay_9 : decode cX2_endDay 9 = .ok (.invokeinterface 110 1, 5) := by decide +kernel
theorem dX2_endDay_14 : decode cX2_endDay 14 = .ok (.ifCond .eq 21, 3) := dk_153 0 21 (dk_at dksX2_endDay_0 14 rfl rfl)
theorem dX2_endDay_17 : decode cX2_endDay 17 = .ok (.aload_n 1, 1) := dk_43 (dk_at dksX2_endDay_0 17 rfl rfl)
theorem dX2_endDay_18 : decode cX2_endDay 18 = .ok (.invokeinterface 116 1, 5) := by decide +kernel
theorem dX2_endDay_23 : decode cX2_endDay 23 = .ok (.checkcast 64, 3) := dk_192 0 64 (dk_at dksX2_endDay_1 0 rfl rfl)
theorem dX2_endDay_26 : decode cX2_endDay 26 = .ok (.astore_n 2, 1) := dk_77 (dk_at dksX2_endDay_1 3 rfl rfl)
theorem dX2_endDay_27 : decode cX2_endDay 27 = .ok (.aload_n 0, 1) := dk_42 (dk_at dksX2_endDay_1 4 rfl rfl)
theorem dX2_endDay_28 : decode cX2_endDay 28 = .ok (.aload_n 2, 1) := dk_44 (dk_at dksX2_endDay_1 5 rfl rfl)
theorem dX2_endDay_29 : decode cX2_endDay 29 = .ok (.invokevirtual 227, 3) := dk_182 0 227 (dk_at dksX2_endDay_1 6 rfl rfl)
theorem dX2_endDay_32 : decode cX2_endDay 32 = .ok (.goto (-24), 3) := dk_167 255 232 (dk_at dksX2_endDay_1 9 rfl rfl)
theorem dX2_endDay_35 : decode cX2_endDay 35 = .ok (.aload_n 0, 1) := dk_42 (dk_at dksX2_endDay_1 12 rfl rfl)
theorem dX2_endDay_36 : decode cX2_endDay 36 = .ok (.getfield 19, 3) := dk_180 0 19 (dk_at dksX2_endDay_1 13 rfl rfl)
theorem dX2_endDay_39 : decode cX2_endDay 39 = .ok (.invokevirtual 106, 3) := dk_182 0 106 (dk_at dksX2_endDay_1 16 rfl rfl)
theorem dX2_endDay_42 : decode cX2_endDay 42 = .ok (.astore_n 1, 1) := dk_76 (dk_at dksX2_endDay_1 19 rfl rfl)
theorem dX2_endDay_43 : decode cX2_endDay 43 = .ok (.aload_n 1, 1) := dk_43 (dk_at dksX2_endDay_1 20 rfl rfl)
theorem dX2_endDay_44 : decode cX2_endDay 44 = .ok (.invokeinterface 110 1, 5) := by decide +kernel
theorem dX2_endDay_49 : decode cX2_endDay 49 = .ok (.ifCond .eq 68, 3) := dk_153 0 68 (dk_at dksX2_endDay_2 5 rfl rfl)
theorem dX2_endDay_52 : decode cX2_endDay 52 = .ok (.aload_n 1, 1) := dk_43 (dk_at dksX2_endDay_2 8 rfl rfl)
theorem dX2_endDay_53 : decode cX2_endDay 53 = .ok (.invokeinterface 116 1, 5) := by decide +kernel
theorem dX2_endDay_58 : decode cX2_endDay 58 = .ok (.checkcast 64, 3) := dk_192 0 64 (dk_at dksX2_endDay_2 14 rfl rfl)
theorem dX2_endDay_61 : decode cX2_endDay 61 = .ok (.astore_n 2, 1) := dk_77 (dk_at dksX2_endDay_2 17 rfl rfl)
theorem dX2_endDay_62 : decode cX2_endDay 62 = .ok (.aload_n 2, 1) := dk_44 (dk_at dksX2_endDay_2 18 rfl rfl)
theorem dX2_endDay_63 : decode cX2_endDay 63 = .ok (.getfield 76, 3) := dk_180 0 76 (dk_at dksX2_endDay_2 19 rfl rfl)
theorem dX2_endDay_66 : decode cX2_endDay 66 = .ok (.bipush 119, 2) := dk_16 119 (dk_at dksX2_endDay_2 22 rfl rfl)
theorem dX2_endDay_68 : decode cX2_endDay 68 = .ok (.if_icmp .ne 46, 3) := dk_160 0 46 (dk_at dksX2_endDay_3 0 rfl rfl)
theorem dX2_endDay_71 : decode cX2_endDay 71 = .ok (.aload_n 2, 1) := dk_44 (dk_at dksX2_endDay_3 3 rfl rfl)
theorem dX2_endDay_72 : decode cX2_endDay 72 = .ok (.getfield 63, 3) := dk_180 0 63 (dk_at dksX2_endDay_3 4 rfl rfl)
theorem dX2_endDay_75 : decode cX2_endDay 75 = .ok (.iconst (-1), 1) := dk_2 (dk_at dksX2_endDay_3 7 rfl rfl)
theorem dX2_endDay_76 : decode cX2_endDay 76 = .ok (.if_icmp .ne 38, 3) := dk_160 0 38 (dk_at dksX2_endDay_3 8 rfl rfl)
theorem dX2_endDay_79 : decode cX2_endDay 79 = .ok (.aload_n 0, 1) := dk_42 (dk_at dksX2_endDay_3 11 rfl rfl)
theorem dX2_endDay_80 : decode cX2_endDay 80 = .ok (.getfield 86, 3) := dk_180 0 86 (dk_at dksX2_endDay_3 12 rfl rfl)
theorem dX2_endDay_83 : decode cX2_endDay 83 = .ok (.aload_n 2, 1) := dk_44 (dk_at dksX2_endDay_3 15 rfl rfl)
theorem dX2_endDay_84 : decode cX2_endDay 84 = .ok (.getfield 230, 3) := dk_180 0 230 (dk_at dksX2_endDay_3 16 rfl rfl)
theorem dX2_endDay_87 : decode cX2_endDay 87 = .ok (.if_icmp .lt 27, 3) := dk_161 0 27 (dk_at dksX2_endDay_3 19 rfl rfl)
theorem dX2_endDay_90 : decode cX2_endDay 90 = .ok (.aload_n 0, 1) := dk_42 (dk_at dksX2_endDay_3 22 rfl rfl)
theorem dX2_endDay_91 : decode cX2_endDay 91 = .ok (.aload_n 2, 1) := dk_44 (dk_at dksX2_endDay_3 23 rfl rfl)
theorem dX2_endDay_92 : decode cX2_endDay 92 = .ok (.getfield 80, 3) := dk_180 0 80 (dk_at dksX2_endDay_4 0 rfl rfl)
theorem dX2_endDay_95 : decode cX2_endDay 95 = .ok (.aload_n 2, 1) := dk_44 (dk_at dksX2_endDay_4 3 rfl rfl)
theorem dX2_endDay_96 : decode cX2_endDay 96 = .ok (.getfield 120, 3) := dk_180 0 120 (dk_at dksX2_endDay_4 4 rfl rfl)
theorem dX2_endDay_99 : decode cX2_endDay 99 = .ok (.invokevirtual 165, 3) := dk_182 0 165 (dk_at dksX2_endDay_4 7 rfl rfl)
theorem dX2_endDay_102 : decode cX2_endDay 102 = .ok (.ifCond .eq 12, 3) := dk_153 0 12 (dk_at dksX2_endDay_4 10 rfl rfl)
theorem dX2_endDay_105 : decode cX2_endDay 105 = .ok (.aload_n 0, 1) := dk_42 (dk_at dksX2_endDay_4 13 rfl rfl)
theorem dX2_endDay_106 : decode cX2_endDay 106 = .ok (.aload_n 2, 1) := dk_44 (dk_at dksX2_endDay_4 14 rfl rfl)
theorem dX2_endDay_107 : decode cX2_endDay 107 = .ok (.aload_n 2, 1) := dk_44 (dk_at dksX2_endDay_4 15 rfl rfl)
theorem dX2_endDay_108 : decode cX2_endDay 108 = .ok (.getfield 80, 3) := dk_180 0 80 (dk_at dksX2_endDay_4 16 rfl rfl)
theorem dX2_endDay_111 : decode cX2_endDay 111 = .ok (.invokevirtual 172, 3) := dk_182 0 172 (dk_at dksX2_endDay_4 19 rfl rfl)
theorem dX2_endDay_114 : decode cX2_endDay 114 = .ok (.goto (-71), 3) := dk_167 255 185 (dk_at dksX2_endDay_5 0 rfl rfl)
theorem dX2_endDay_117 : decode cX2_endDay 117 = .ok (.aload_n 0, 1) := dk_42 (dk_at dksX2_endDay_5 3 rfl rfl)
theorem dX2_endDay_118 : decode cX2_endDay 118 = .ok (.dup, 1) := dk_89 (dk_at dksX2_endDay_5 4 rfl rfl)
theorem dX2_endDay_119 : decode cX2_endDay 119 = .ok (.getfield 86, 3) := dk_180 0 86 (dk_at dksX2_endDay_5 5 rfl rfl)
theorem dX2_endDay_122 : decode cX2_endDay 122 = .ok (.iconst 1, 1) := dk_4 (dk_at dksX2_endDay_5 8 rfl rfl)
theorem dX2_endDay_123 : decode cX2_endDay 123 = .ok (.iadd, 1) := dk_96 (dk_at dksX2_endDay_5 9 rfl rfl)
theorem dX2_endDay_124 : decode cX2_endDay 124 = .ok (.putfield 86, 3) := dk_181 0 86 (dk_at dksX2_endDay_5 10 rfl rfl)
theorem dX2_endDay_127 : decode cX2_endDay 127 = .ok (.aload_n 0, 1) := dk_42 (dk_at dksX2_endDay_5 13 rfl rfl)
theorem dX2_endDay_128 : decode cX2_endDay 128 = .ok (.getfield 19, 3) := dk_180 0 19 (dk_at dksX2_endDay_5 14 rfl rfl)
theorem dX2_endDay_131 : decode cX2_endDay 131 = .ok (.invokevirtual 106, 3) := dk_182 0 106 (dk_at dksX2_endDay_5 17 rfl rfl)
theorem dX2_endDay_134 : decode cX2_endDay 134 = .ok (.astore_n 1, 1) := dk_76 (dk_at dksX2_endDay_5 20 rfl rfl)
theorem dX2_endDay_135 : decode cX2_endDay 135 = .ok (.aload_n 1, 1) := dk_43 (dk_at dksX2_endDay_5 21 rfl rfl)
theorem dX2_endDay_136 : decode cX2_endDay 136 = .ok (.invokeinterface 110 1, 5) := by decide +kernel
theorem dX2_endDay_141 : decode cX2_endDay 141 = .ok (.ifCond .eq 39, 3) := dk_153 0 39 (dk_at dksX2_endDay_6 5 rfl rfl)
theorem dX2_endDay_144 : decode cX2_endDay 144 = .ok (.aload_n 1, 1) := dk_43 (dk_at dksX2_endDay_6 8 rfl rfl)
theorem dX2_endDay_145 : decode cX2_endDay 145 = .ok (.invokeinterface 116 1, 5) := by decide +kernel
theorem dX2_endDay_150 : decode cX2_endDay 150 = .ok (.checkcast 64, 3) := dk_192 0 64 (dk_at dksX2_endDay_6 14 rfl rfl)
theorem dX2_endDay_153 : decode cX2_endDay 153 = .ok (.astore_n 2, 1) := dk_77 (dk_at dksX2_endDay_6 17 rfl rfl)
theorem dX2_endDay_154 : decode cX2_endDay 154 = .ok (.aload_n 2, 1) := dk_44 (dk_at dksX2_endDay_6 18 rfl rfl)
theorem dX2_endDay_155 : decode cX2_endDay 155 = .ok (.aload_n 0, 1) := dk_42 (dk_at dksX2_endDay_6 19 rfl rfl)
theorem dX2_endDay_156 : decode cX2_endDay 156 = .ok (.getfield 86, 3) := dk_180 0 86 (dk_at dksX2_endDay_6 20 rfl rfl)
theorem dX2_endDay_159 : decode cX2_endDay 159 = .ok (.sipush 365, 3) := dk_17 1 109 (dk_at dksX2_endDay_7 0 rfl rfl)
theorem dX2_endDay_162 : decode cX2_endDay 162 = .ok (.irem, 1) := dk_112 (dk_at dksX2_endDay_7 3 rfl rfl)
theorem dX2_endDay_163 : decode cX2_endDay 163 = .ok (.ifCond .ne 7, 3) := dk_154 0 7 (dk_at dksX2_endDay_7 4 rfl rfl)
theorem dX2_endDay_166 : decode cX2_endDay 166 = .ok (.iconst 0, 1) := dk_3 (dk_at dksX2_endDay_7 7 rfl rfl)
theorem dX2_endDay_167 : decode cX2_endDay 167 = .ok (.goto 7, 3) := dk_167 0 7 (dk_at dksX2_endDay_7 8 rfl rfl)
theorem dX2_endDay_170 : decode cX2_endDay 170 = .ok (.aload_n 2, 1) := dk_44 (dk_at dksX2_endDay_7 11 rfl rfl)
theorem dX2_endDay_171 : decode cX2_endDay 171 = .ok (.getfield 202, 3) := dk_180 0 202 (dk_at dksX2_endDay_7 12 rfl rfl)
theorem dX2_endDay_174 : decode cX2_endDay 174 = .ok (.putfield 202, 3) := dk_181 0 202 (dk_at dksX2_endDay_7 15 rfl rfl)
theorem dX2_endDay_177 : decode cX2_endDay 177 = .ok (.goto (-42), 3) := dk_167 255 214 (dk_at dksX2_endDay_7 18 rfl rfl)
theorem dX2_endDay_180 : decode cX2_endDay 180 = .ok (.return_, 1) := dk_177 (dk_at dksX2_endDay_7 21 rfl rfl)
abbrev cX2_suffers : ByteArray := prog_17_method_28_code
def yX2_suffers : MethodName := ⟨RX2, "suffers", "(LVaultyardModel$Thing;)V"⟩
def dkwX2_suffers_11 : List UInt8 := [96, 62, 42, 43, 16, 100, 29, 3, 182, 0, 223, 54, 4, 177]
abbrev dktX2_suffers_11 : List UInt8 := dkwX2_suffers_11 ++ []
def dkwX2_suffers_10 : List UInt8 := [167, 0, 24, 42, 43, 42, 180, 0, 31, 44, 180, 0, 80, 182, 0, 68, 192, 0, 180, 4, 46, 182, 0, 220]
abbrev dktX2_suffers_10 : List UInt8 := dkwX2_suffers_10 ++ dktX2_suffers_11
def dkwX2_suffers_9 : List UInt8 := [62, 167, 0, 49, 44, 180, 0, 76, 16, 98, 160, 0, 40, 29, 42, 43, 7, 182, 0, 207, 153, 0, 7, 3]
abbrev dktX2_suffers_9 : List UInt8 := dkwX2_suffers_9 ++ dktX2_suffers_10
def dkwX2_suffers_8 : List UInt8 := [42, 43, 7, 182, 0, 207, 153, 0, 7, 3, 167, 0, 13, 42, 43, 25, 4, 180, 0, 158, 182, 0, 220, 96]
abbrev dktX2_suffers_8 : List UInt8 := dkwX2_suffers_8 ++ dktX2_suffers_9
def dkwX2_suffers_7 : List UInt8 := [42, 43, 5, 182, 0, 207, 153, 0, 7, 3, 167, 0, 11, 21, 7, 16, 9, 96, 16, 10, 108, 96, 62, 29]
abbrev dktX2_suffers_7 : List UInt8 := dkwX2_suffers_7 ++ dktX2_suffers_8
def dkwX2_suffers_6 : List UInt8 := [180, 0, 153, 100, 25, 4, 180, 0, 153, 25, 5, 180, 0, 217, 100, 184, 0, 204, 184, 0, 204, 54, 7, 29]
abbrev dktX2_suffers_6 : List UInt8 := dkwX2_suffers_6 ++ dktX2_suffers_7
def dkwX2_suffers_5 : List UInt8 := [100, 96, 62, 43, 89, 180, 0, 211, 21, 6, 96, 181, 0, 211, 3, 25, 5, 180, 0, 214, 25, 4]
abbrev dktX2_suffers_5 : List UInt8 := dkwX2_suffers_5 ++ dktX2_suffers_6
def dkwX2_suffers_4 : List UInt8 := [182, 0, 207, 154, 0, 35, 29, 43, 180, 0, 211, 21, 6, 96, 16, 10, 108, 43, 180, 0, 211, 16, 10, 108]
abbrev dktX2_suffers_4 : List UInt8 := dkwX2_suffers_4 ++ dktX2_suffers_5
def dkwX2_suffers_3 : List UInt8 := [3, 43, 180, 0, 202, 25, 5, 180, 0, 203, 100, 184, 0, 204, 184, 0, 96, 54, 6, 42, 43, 4]
abbrev dktX2_suffers_3 : List UInt8 := dkwX2_suffers_3 ++ dktX2_suffers_4
def dkwX2_suffers_2 : List UInt8 := [192, 0, 137, 58, 5, 43, 89, 180, 0, 202, 25, 4, 180, 0, 150, 96, 181, 0, 202, 25, 4, 180, 0, 150]
abbrev dktX2_suffers_2 : List UInt8 := dkwX2_suffers_2 ++ dktX2_suffers_3
def dkwX2_suffers_1 : List UInt8 := [180, 0, 80, 182, 0, 68, 192, 0, 126, 58, 4, 42, 180, 0, 10, 43, 180, 0, 188, 182, 0, 68]
abbrev dktX2_suffers_1 : List UInt8 := dkwX2_suffers_1 ++ dktX2_suffers_2
def dkwX2_suffers_0 : List UInt8 := [42, 43, 182, 0, 72, 77, 3, 62, 44, 180, 0, 76, 16, 114, 160, 0, 198, 42, 180, 0, 16, 44]
abbrev dktX2_suffers_0 : List UInt8 := dkwX2_suffers_0 ++ dktX2_suffers_1
theorem dksX2_suffers_0 : cX2_suffers.data.toList.drop 0 = dktX2_suffers_0 := by decide +kernel
theorem dksX2_suffers_1 : cX2_suffers.data.toList.drop 22 = dktX2_suffers_1 := dk_seg dksX2_suffers_0 22 rfl rfl
theorem dksX2_suffers_2 : cX2_suffers.data.toList.drop 44 = dktX2_suffers_2 := dk_seg dksX2_suffers_1 22 rfl rfl
theorem dksX2_suffers_3 : cX2_suffers.data.toList.drop 68 = dktX2_suffers_3 := dk_seg dksX2_suffers_2 24 rfl rfl
theorem dksX2_suffers_4 : cX2_suffers.data.toList.drop 90 = dktX2_suffers_4 := dk_seg dksX2_suffers_3 22 rfl rfl
theorem dksX2_suffers_5 : cX2_suffers.data.toList.drop 114 = dktX2_suffers_5 := dk_seg dksX2_suffers_4 24 rfl rfl
theorem dksX2_suffers_6 : cX2_suffers.data.toList.drop 136 = dktX2_suffers_6 := dk_seg dksX2_suffers_5 22 rfl rfl
theorem dksX2_suffers_7 : cX2_suffers.data.toList.drop 160 = dktX2_suffers_7 := dk_seg dksX2_suffers_6 24 rfl rfl
theorem dksX2_suffers_8 : cX2_suffers.data.toList.drop 184 = dktX2_suffers_8 := dk_seg dksX2_suffers_7 24 rfl rfl
theorem dksX2_suffers_9 : cX2_suffers.data.toList.drop 208 = dktX2_suffers_9 := dk_seg dksX2_suffers_8 24 rfl rfl
theorem dksX2_suffers_10 : cX2_suffers.data.toList.drop 232 = dktX2_suffers_10 := dk_seg dksX2_suffers_9 24 rfl rfl
theorem dksX2_suffers_11 : cX2_suffers.data.toList.drop 256 = dktX2_suffers_11 := dk_seg dksX2_suffers_10 24 rfl rfl
theorem dX2_suffers_0 : decode cX2_suffers 0 = .ok (.aload_n 0, 1) := dk_42 (dk_at dksX2_suffers_0 0 rfl rfl)
theorem dX2_suffers_1 : decode cX2_suffers 1 = .ok (.aload_n 1, 1) := dk_43 (dk_at dksX2_suffers_0 1 rfl rfl)
theorem dX2_suffers_2 : decode cX2_suffers 2 = .ok (.invokevirtual 72, 3) := dk_182 0 72 (dk_at dksX2_suffers_0 2 rfl rfl)
theorem dX2_suffers_5 : decode cX2_suffers 5 = .ok (.astore_n 2, 1) := dk_77 (dk_at dksX2_suffers_0 5 rfl rfl)
theorem dX2_suffers_6 : decode cX2_suffers 6 = .ok (.iconst 0, 1) := dk_3 (dk_at dksX2_suffers_0 6 rfl rfl)
theorem dX2_suffers_7 : decode cX2_suffers 7 = .ok (.istore_n 3, 1) := dk_62 (dk_at dksX2_suffers_0 7 rfl rfl)
theorem dX2_suffers_8 : decode cX2_suffers 8 = .ok (.aload_n 2, 1) := dk_44 (dk_at dksX2_suffers_0 8 rfl rfl)
theorem dX2_suffers_9 : decode cX2_suffers 9 = .ok (.getfield 76, 3) := dk_180 0 76 (dk_at dksX2_suffers_0 9 rfl rfl)
theorem dX2_suffers_12 : decode cX2_suffers 12 = .ok (.bipush 114, 2) := dk_16 114 (dk_at dksX2_suffers_0 12 rfl rfl)
theorem dX2_suffers_14 : decode cX2_suffers 14 = .ok (.if_icmp .ne 198, 3) := dk_160 0 198 (dk_at dksX2_suffers_0 14 rfl rfl)
theorem dX2_suffers_17 : decode cX2_suffers 17 = .ok (.aload_n 0, 1) := dk_42 (dk_at dksX2_suffers_0 17 rfl rfl)
theorem dX2_suffers_18 : decode cX2_suffers 18 = .ok (.getfield 16, 3) := dk_180 0 16 (dk_at dksX2_suffers_0 18 rfl rfl)
theorem dX2_suffers_21 : decode cX2_suffers 21 = .ok (.aload_n 2, 1) := dk_44 (dk_at dksX2_suffers_0 21 rfl rfl)
theorem dX2_suffers_22 : decode cX2_suffers 22 = .ok (.getfield 80, 3) := dk_180 0 80 (dk_at dksX2_suffers_1 0 rfl rfl)
theorem dX2_suffers_25 : decode cX2_suffers 25 = .ok (.invokevirtual 68, 3) := dk_182 0 68 (dk_at dksX2_suffers_1 3 rfl rfl)
theorem dX2_suffers_28 : decode cX2_suffers 28 = .ok (.checkcast 126, 3) := dk_192 0 126 (dk_at dksX2_suffers_1 6 rfl rfl)
theorem dX2_suffers_31 : decode cX2_suffers 31 = .ok (.astore 4, 2) := dk_58 4 (dk_at dksX2_suffers_1 9 rfl rfl)
theorem dX2_suffers_33 : decode cX2_suffers 33 = .ok (.aload_n 0, 1) := dk_42 (dk_at dksX2_suffers_1 11 rfl rfl)
theorem dX2_suffers_34 : decode cX2_suffers 34 = .ok (.getfield 10, 3) := dk_180 0 10 (dk_at dksX2_suffers_1 12 rfl rfl)
theorem dX2_suffers_37 : decode cX2_suffers 37 = .ok (.aload_n 1, 1) := dk_43 (dk_at dksX2_suffers_1 15 rfl rfl)
theorem dX2_suffers_38 : decode cX2_suffers 38 = .ok (.getfield 188, 3) := dk_180 0 188 (dk_at dksX2_suffers_1 16 rfl rfl)
theorem dX2_suffers_41 : decode cX2_suffers 41 = .ok (.invokevirtual 68, 3) := dk_182 0 68 (dk_at dksX2_suffers_1 19 rfl rfl)
theorem dX2_suffers_44 : decode cX2_suffers 44 = .ok (.checkcast 137, 3) := dk_192 0 137 (dk_at dksX2_suffers_2 0 rfl rfl)
theorem dX2_suffers_47 : decode cX2_suffers 47 = .ok (.astore 5, 2) := dk_58 5 (dk_at dksX2_suffers_2 3 rfl rfl)
theorem dX2_suffers_49 : decode cX2_suffers 49 = .ok (.aload_n 1, 1) := dk_43 (dk_at dksX2_suffers_2 5 rfl rfl)
theorem dX2_suffers_50 : decode cX2_suffers 50 = .ok (.dup, 1) := dk_89 (dk_at dksX2_suffers_2 6 rfl rfl)
theorem dX2_suffers_51 : decode cX2_suffers 51 = .ok (.getfield 202, 3) := dk_180 0 202 (dk_at dksX2_suffers_2 7 rfl rfl)
theorem dX2_suffers_54 : decode cX2_suffers 54 = .ok (.aload 4, 2) := dk_25 4 (dk_at dksX2_suffers_2 10 rfl rfl)
theorem dX2_suffers_56 : decode cX2_suffers 56 = .ok (.getfield 150, 3) := dk_180 0 150 (dk_at dksX2_suffers_2 12 rfl rfl)
theorem dX2_suffers_59 : decode cX2_suffers 59 = .ok (.iadd, 1) := dk_96 (dk_at dksX2_suffers_2 15 rfl rfl)
theorem dX2_suffers_60 : decode cX2_suffers 60 = .ok (.putfield 202, 3) := dk_181 0 202 (dk_at dksX2_suffers_2 16 rfl rfl)
theorem dX2_suffers_63 : decode cX2_suffers 63 = .ok (.aload 4, 2) := dk_25 4 (dk_at dksX2_suffers_2 19 rfl rfl)
theorem dX2_suffers_65 : decode cX2_suffers 65 = .ok (.getfield 150, 3) := dk_180 0 150 (dk_at dksX2_suffers_2 21 rfl rfl)
theorem dX2_suffers_68 : decode cX2_suffers 68 = .ok (.iconst 0, 1) := dk_3 (dk_at dksX2_suffers_3 0 rfl rfl)
theorem dX2_suffers_69 : decode cX2_suffers 69 = .ok (.aload_n 1, 1) := dk_43 (dk_at dksX2_suffers_3 1 rfl rfl)
theorem dX2_suffers_70 : decode cX2_suffers 70 = .ok (.getfield 202, 3) := dk_180 0 202 (dk_at dksX2_suffers_3 2 rfl rfl)
theorem dX2_suffers_73 : decode cX2_suffers 73 = .ok (.aload 5, 2) := dk_25 5 (dk_at dksX2_suffers_3 5 rfl rfl)
theorem dX2_suffers_75 : decode cX2_suffers 75 = .ok (.getfield 203, 3) := dk_180 0 203 (dk_at dksX2_suffers_3 7 rfl rfl)
theorem dX2_suffers_78 : decode cX2_suffers 78 = .ok (.isub, 1) := dk_100 (dk_at dksX2_suffers_3 10 rfl rfl)
theorem dX2_suffers_79 : decode cX2_suffers 79 = .ok (.invokestatic 204, 3) := dk_184 0 204 (dk_at dksX2_suffers_3 11 rfl rfl)
theorem dX2_suffers_82 : decode cX2_suffers 82 = .ok (.invokestatic 96, 3) := dk_184 0 96 (dk_at dksX2_suffers_3 14 rfl rfl)
theorem dX2_suffers_85 : decode cX2_suffers 85 = .ok (.istore 6, 2) := dk_54 6 (dk_at dksX2_suffers_3 17 rfl rfl)
theorem dX2_suffers_87 : decode cX2_suffers 87 = .ok (.aload_n 0, 1) := dk_42 (dk_at dksX2_suffers_3 19 rfl rfl)
theorem dX2_suffers_88 : decode cX2_suffers 88 = .ok (.aload_n 1, 1) := dk_43 (dk_at dksX2_suffers_3 20 rfl rfl)
theorem dX2_suffers_89 : decode cX2_suffers 89 = .ok (.iconst 1, 1) := dk_4 (dk_at dksX2_suffers_3 21 rfl rfl)
theorem dX2_suffers_90 : decode cX2_suffers 90 = .ok (.invokevirtual 207, 3) := dk_182 0 207 (dk_at dksX2_suffers_4 0 rfl rfl)
theorem dX2_suffers_93 : decode cX2_suffers 93 = .ok (.ifCond .ne 35, 3) := dk_154 0 35 (dk_at dksX2_suffers_4 3 rfl rfl)
theorem dX2_suffers_96 : decode cX2_suffers 96 = .ok (.iload_n 3, 1) := dk_29 (dk_at dksX2_suffers_4 6 rfl rfl)
theorem dX2_suffers_97 : decode cX2_suffers 97 = .ok (.aload_n 1, 1) := dk_43 (dk_at dksX2_suffers_4 7 rfl rfl)
theorem dX2_suffers_98 : decode cX2_suffers 98 = .ok (.getfield 211, 3) := dk_180 0 211 (dk_at dksX2_suffers_4 8 rfl rfl)
theorem dX2_suffers_101 : decode cX2_suffers 101 = .ok (.iload 6, 2) := dk_21 6 (dk_at dksX2_suffers_4 11 rfl rfl)
theorem dX2_suffers_103 : decode cX2_suffers 103 = .ok (.iadd, 1) := dk_96 (dk_at dksX2_suffers_4 13 rfl rfl)
theorem dX2_suffers_104 : decode cX2_suffers 104 = .ok (.bipush 10, 2) := dk_16 10 (dk_at dksX2_suffers_4 14 rfl rfl)
theorem dX2_suffers_106 : decode cX2_suffers 106 = .ok (.idiv, 1) := dk_108 (dk_at dksX2_suffers_4 16 rfl rfl)
theorem dX2_suffers_107 : decode cX2_suffers 107 = .ok (.aload_n 1, 1) := dk_43 (dk_at dksX2_suffers_4 17 rfl rfl)
theorem dX2_suffers_108 : decode cX2_suffers 108 = .ok (.getfield 211, 3) := dk_180 0 211 (dk_at dksX2_suffers_4 18 rfl rfl)
theorem dX2_suffers_111 : decode cX2_suffers 111 = .ok (.bipush 10, 2) := dk_16 10 (dk_at dksX2_suffers_4 21 rfl rfl)
theorem dX2_suffers_113 : decode cX2_suffers 113 = .ok (.idiv, 1) := dk_108 (dk_at dksX2_suffers_4 23 rfl rfl)
theorem dX2_suffers_114 : decode cX2_suffers 114 = .ok (.isub, 1) := dk_100 (dk_at dksX2_suffers_5 0 rfl rfl)
theorem dX2_suffers_115 : decode cX2_suffers 115 = .ok (.iadd, 1) := dk_96 (dk_at dksX2_suffers_5 1 rfl rfl)
theorem dX2_suffers_116 : decode cX2_suffers 116 = .ok (.istore_n 3, 1) := dk_62 (dk_at dksX2_suffers_5 2 rfl rfl)
theorem dX2_suffers_117 : decode cX2_suffers 117 = .ok (.aload_n 1, 1) := dk_43 (dk_at dksX2_suffers_5 3 rfl rfl)
theorem dX2_suffers_118 : decode cX2_suffers 118 = .ok (.dup, 1) := dk_89 (dk_at dksX2_suffers_5 4 rfl rfl)
theorem dX2_suffers_119 : decode cX2_suffers 119 = .ok (.getfield 211, 3) := dk_180 0 211 (dk_at dksX2_suffers_5 5 rfl rfl)
theorem dX2_suffers_122 : decode cX2_suffers 122 = .ok (.iload 6, 2) := dk_21 6 (dk_at dksX2_suffers_5 8 rfl rfl)
theorem dX2_suffers_124 : decode cX2_suffers 124 = .ok (.iadd, 1) := dk_96 (dk_at dksX2_suffers_5 10 rfl rfl)
theorem dX2_suffers_125 : decode cX2_suffers 125 = .ok (.putfield 211, 3) := dk_181 0 211 (dk_at dksX2_suffers_5 11 rfl rfl)
theorem dX2_suffers_128 : decode cX2_suffers 128 = .ok (.iconst 0, 1) := dk_3 (dk_at dksX2_suffers_5 14 rfl rfl)
theorem dX2_suffers_129 : decode cX2_suffers 129 = .ok (.aload 5, 2) := dk_25 5 (dk_at dksX2_suffers_5 15 rfl rfl)
theorem dX2_suffers_131 : decode cX2_suffers 131 = .ok (.getfield 214, 3) := dk_180 0 214 (dk_at dksX2_suffers_5 17 rfl rfl)
theorem dX2_suffers_134 : decode cX2_suffers 134 = .ok (.aload 4, 2) := dk_25 4 (dk_at dksX2_suffers_5 20 rfl rfl)
theorem dX2_suffers_136 : decode cX2_suffers 136 = .ok (.getfield 153, 3) := dk_180 0 153 (dk_at dksX2_suffers_6 0 rfl rfl)
theorem dX2_suffers_139 : decode cX2_suffers 139 = .ok (.isub, 1) := dk_100 (dk_at dksX2_suffers_6 3 rfl rfl)
theorem dX2_suffers_140 : decode cX2_suffers 140 = .ok (.aload 4, 2) := dk_25 4 (dk_at dksX2_suffers_6 4 rfl rfl)
theorem dX2_suffers_142 : decode cX2_suffers 142 = .ok (.getfield 153, 3) := dk_180 0 153 (dk_at dksX2_suffers_6 6 rfl rfl)
theorem dX2_suffers_145 : decode cX2_suffers 145 = .ok (.aload 5, 2) := dk_25 5 (dk_at dksX2_suffers_6 9 rfl rfl)
theorem dX2_suffers_147 : decode cX2_suffers 147 = .ok (.getfield 217, 3) := dk_180 0 217 (dk_at dksX2_suffers_6 11 rfl rfl)
theorem dX2_suffers_150 : decode cX2_suffers 150 = .ok (.isub, 1) := dk_100 (dk_at dksX2_suffers_6 14 rfl rfl)
theorem dX2_suffers_151 : decode cX2_suffers 151 = .ok (.invokestatic 204, 3) := dk_184 0 204 (dk_at dksX2_suffers_6 15 rfl rfl)
theorem dX2_suffers_154 : decode cX2_suffers 154 = .ok (.invokestatic 204, 3) := dk_184 0 204 (dk_at dksX2_suffers_6 18 rfl rfl)
theorem dX2_suffers_157 : decode cX2_suffers 157 = .ok (.istore 7, 2) := dk_54 7 (dk_at dksX2_suffers_6 21 rfl rfl)
theorem dX2_suffers_159 : decode cX2_suffers 159 = .ok (.iload_n 3, 1) := dk_29 (dk_at dksX2_suffers_6 23 rfl rfl)
theorem dX2_suffers_160 : decode cX2_suffers 160 = .ok (.aload_n 0, 1) := dk_42 (dk_at dksX2_suffers_7 0 rfl rfl)
theorem dX2_suffers_161 : decode cX2_suffers 161 = .ok (.aload_n 1, 1) := dk_43 (dk_at dksX2_suffers_7 1 rfl rfl)
theorem dX2_suffers_162 : decode cX2_suffers 162 = .ok (.iconst 2, 1) := dk_5 (dk_at dksX2_suffers_7 2 rfl rfl)
theorem dX2_suffers_163 : decode cX2_suffers 163 = .ok (.invokevirtual 207, 3) := dk_182 0 207 (dk_at dksX2_suffers_7 3 rfl rfl)
theorem dX2_suffers_166 : decode cX2_suffers 166 = .ok (.ifCond .eq 7, 3) := dk_153 0 7 (dk_at dksX2_suffers_7 6 rfl rfl)
theorem dX2_suffers_169 : decode cX2_suffers 169 = .ok (.iconst 0, 1) := dk_3 (dk_at dksX2_suffers_7 9 rfl rfl)
theorem dX2_suffers_170 : decode cX2_suffers 170 = .ok (.goto 11, 3) := dk_167 0 11 (dk_at dksX2_suffers_7 10 rfl rfl)
theorem dX2_suffers_173 : decode cX2_suffers 173 = .ok (.iload 7, 2) := dk_21 7 (dk_at dksX2_suffers_7 13 rfl rfl)
theorem dX2_suffers_175 : decode cX2_suffers 175 = .ok (.bipush 9, 2) := dk_16 9 (dk_at dksX2_suffers_7 15 rfl rfl)
theorem dX2_suffers_177 : decode cX2_suffers 177 = .ok (.iadd, 1) := dk_96 (dk_at dksX2_suffers_7 17 rfl rfl)
theorem dX2_suffers_178 : decode cX2_suffers 178 = .ok (.bipush 10, 2) := dk_16 10 (dk_at dksX2_suffers_7 18 rfl rfl)
theorem dX2_suffers_180 : decode cX2_suffers 180 = .ok (.idiv, 1) := dk_108 (dk_at dksX2_suffers_7 20 rfl rfl)
theorem dX2_suffers_181 : decode cX2_suffers 181 = .ok (.iadd, 1) := dk_96 (dk_at dksX2_suffers_7 21 rfl rfl)
theorem dX2_suffers_182 : decode cX2_suffers 182 = .ok (.istore_n 3, 1) := dk_62 (dk_at dksX2_suffers_7 22 rfl rfl)
theorem dX2_suffers_183 : decode cX2_suffers 183 = .ok (.iload_n 3, 1) := dk_29 (dk_at dksX2_suffers_7 23 rfl rfl)
theorem dX2_suffers_184 : decode cX2_suffers 184 = .ok (.aload_n 0, 1) := dk_42 (dk_at dksX2_suffers_8 0 rfl rfl)
theorem dX2_suffers_185 : decode cX2_suffers 185 = .ok (.aload_n 1, 1) := dk_43 (dk_at dksX2_suffers_8 1 rfl rfl)
theorem dX2_suffers_186 : decode cX2_suffers 186 = .ok (.iconst 4, 1) := dk_7 (dk_at dksX2_suffers_8 2 rfl rfl)
theorem dX2_suffers_187 : decode cX2_suffers 187 = .ok (.invokevirtual 207, 3) := dk_182 0 207 (dk_at dksX2_suffers_8 3 rfl rfl)
theorem dX2_suffers_190 : decode cX2_suffers 190 = .ok (.ifCond .eq 7, 3) := dk_153 0 7 (dk_at dksX2_suffers_8 6 rfl rfl)
theorem dX2_suffers_193 : decode cX2_suffers 193 = .ok (.iconst 0, 1) := dk_3 (dk_at dksX2_suffers_8 9 rfl rfl)
theorem dX2_suffers_194 : decode cX2_suffers 194 = .ok (.goto 13, 3) := dk_167 0 13 (dk_at dksX2_suffers_8 10 rfl rfl)
theorem dX2_suffers_197 : decode cX2_suffers 197 = .ok (.aload_n 0, 1) := dk_42 (dk_at dksX2_suffers_8 13 rfl rfl)
theorem dX2_suffers_198 : decode cX2_suffers 198 = .ok (.aload_n 1, 1) := dk_43 (dk_at dksX2_suffers_8 14 rfl rfl)
theorem dX2_suffers_199 : decode cX2_suffers 199 = .ok (.aload 4, 2) := dk_25 4 (dk_at dksX2_suffers_8 15 rfl rfl)
theorem dX2_suffers_201 : decode cX2_suffers 201 = .ok (.getfield 158, 3) := dk_180 0 158 (dk_at dksX2_suffers_8 17 rfl rfl)
theorem dX2_suffers_204 : decode cX2_suffers 204 = .ok (.invokevirtual 220, 3) := dk_182 0 220 (dk_at dksX2_suffers_8 20 rfl rfl)
theorem dX2_suffers_207 : decode cX2_suffers 207 = .ok (.iadd, 1) := dk_96 (dk_at dksX2_suffers_8 23 rfl rfl)
theorem dX2_suffers_208 : decode cX2_suffers 208 = .ok (.istore_n 3, 1) := dk_62 (dk_at dksX2_suffers_9 0 rfl rfl)
theorem dX2_suffers_209 : decode cX2_suffers 209 = .ok (.goto 49, 3) := dk_167 0 49 (dk_at dksX2_suffers_9 1 rfl rfl)
theorem dX2_suffers_212 : decode cX2_suffers 212 = .ok (.aload_n 2, 1) := dk_44 (dk_at dksX2_suffers_9 4 rfl rfl)
theorem dX2_suffers_213 : decode cX2_suffers 213 = .ok (.getfield 76, 3) := dk_180 0 76 (dk_at dksX2_suffers_9 5 rfl rfl)
theorem dX2_suffers_216 : decode cX2_suffers 216 = .ok (.bipush 98, 2) := dk_16 98 (dk_at dksX2_suffers_9 8 rfl rfl)
theorem dX2_suffers_218 : decode cX2_suffers 218 = .ok (.if_icmp .ne 40, 3) := dk_160 0 40 (dk_at dksX2_suffers_9 10 rfl rfl)
theorem dX2_suffers_221 : decode cX2_suffers 221 = .ok (.iload_n 3, 1) := dk_29 (dk_at dksX2_suffers_9 13 rfl rfl)
theorem dX2_suffers_222 : decode cX2_suffers 222 = .ok (.aload_n 0, 1) := dk_42 (dk_at dksX2_suffers_9 14 rfl rfl)
theorem dX2_suffers_223 : decode cX2_suffers 223 = .ok (.aload_n 1, 1) := dk_43 (dk_at dksX2_suffers_9 15 rfl rfl)
theorem dX2_suffers_224 : decode cX2_suffers 224 = .ok (.iconst 4, 1) := dk_7 (dk_at dksX2_suffers_9 16 rfl rfl)
theorem dX2_suffers_225 : decode cX2_suffers 225 = .ok (.invokevirtual 207, 3) := dk_182 0 207 (dk_at dksX2_suffers_9 17 rfl rfl)
theorem dX2_suffers_228 : decode cX2_suffers 228 = .ok (.ifCond .eq 7, 3) := dk_153 0 7 (dk_at dksX2_suffers_9 20 rfl rfl)
theorem dX2_suffers_231 : decode cX2_suffers 231 = .ok (.iconst 0, 1) := dk_3 (dk_at dksX2_suffers_9 23 rfl rfl)
theorem dX2_suffers_232 : decode cX2_suffers 232 = .ok (.goto 24, 3) := dk_167 0 24 (dk_at dksX2_suffers_10 0 rfl rfl)
theorem dX2_suffers_235 : decode cX2_suffers 235 = .ok (.aload_n 0, 1) := dk_42 (dk_at dksX2_suffers_10 3 rfl rfl)
theorem dX2_suffers_236 : decode cX2_suffers 236 = .ok (.aload_n 1, 1) := dk_43 (dk_at dksX2_suffers_10 4 rfl rfl)
theorem dX2_suffers_237 : decode cX2_suffers 237 = .ok (.aload_n 0, 1) := dk_42 (dk_at dksX2_suffers_10 5 rfl rfl)
theorem dX2_suffers_238 : decode cX2_suffers 238 = .ok (.getfield 31, 3) := dk_180 0 31 (dk_at dksX2_suffers_10 6 rfl rfl)
theorem dX2_suffers_241 : decode cX2_suffers 241 = .ok (.aload_n 2, 1) := dk_44 (dk_at dksX2_suffers_10 9 rfl rfl)
theorem dX2_suffers_242 : decode cX2_suffers 242 = .ok (.getfield 80, 3) := dk_180 0 80 (dk_at dksX2_suffers_10 10 rfl rfl)
theorem dX2_suffers_245 : decode cX2_suffers 245 = .ok (.invokevirtual 68, 3) := dk_182 0 68 (dk_at dksX2_suffers_10 13 rfl rfl)
theorem dX2_suffers_248 : decode cX2_suffers 248 = .ok (.checkcast 180, 3) := dk_192 0 180 (dk_at dksX2_suffers_10 16 rfl rfl)
theorem dX2_suffers_251 : decode cX2_suffers 251 = .ok (.iconst 1, 1) := dk_4 (dk_at dksX2_suffers_10 19 rfl rfl)
theorem dX2_suffers_252 : decode cX2_suffers 252 = .ok (.iaload, 1) := dk_46 (dk_at dksX2_suffers_10 20 rfl rfl)
theorem dX2_suffers_253 : decode cX2_suffers 253 = .ok (.invokevirtual 220, 3) := dk_182 0 220 (dk_at dksX2_suffers_10 21 rfl rfl)
theorem dX2_suffers_256 : decode cX2_suffers 256 = .ok (.iadd, 1) := dk_96 (dk_at dksX2_suffers_11 0 rfl rfl)
theorem dX2_suffers_257 : decode cX2_suffers 257 = .ok (.istore_n 3, 1) := dk_62 (dk_at dksX2_suffers_11 1 rfl rfl)
theorem dX2_suffers_258 : decode cX2_suffers 258 = .ok (.aload_n 0, 1) := dk_42 (dk_at dksX2_suffers_11 2 rfl rfl)
theorem dX2_suffers_259 : decode cX2_suffers 259 = .ok (.aload_n 1, 1) := dk_43 (dk_at dksX2_suffers_11 3 rfl rfl)
theorem dX2_suffers_260 : decode cX2_suffers 260 = .ok (.bipush 100, 2) := dk_16 100 (dk_at dksX2_suffers_11 4 rfl rfl)
theorem dX2_suffers_262 : decode cX2_suffers 262 = .ok (.iload_n 3, 1) := dk_29 (dk_at dksX2_suffers_11 6 rfl rfl)
theorem dX2_suffers_263 : decode cX2_suffers 263 = .ok (.iconst 0, 1) := dk_3 (dk_at dksX2_suffers_11 7 rfl rfl)
theorem dX2_suffers_264 : decode cX2_suffers 264 = .ok (.invokevirtual 223, 3) := dk_182 0 223 (dk_at dksX2_suffers_11 8 rfl rfl)
theorem dX2_suffers_267 : decode cX2_suffers 267 = .ok (.istore 4, 2) := dk_54 4 (dk_at dksX2_suffers_11 11 rfl rfl)
theorem dX2_suffers_269 : decode cX2_suffers 269 = .ok (.return_, 1) := dk_177 (dk_at dksX2_suffers_11 13 rfl rfl)
abbrev cX2_isKept : ByteArray := prog_17_method_27_code
def yX2_isKept : MethodName := ⟨RX2, "isKept", "(LVaultyardModel$Thing;I)Z"⟩
def dkwX2_isKept_0 : List UInt8 := [43, 180, 0, 199, 28, 126, 153, 0, 7, 4, 167, 0, 4, 3, 172]
abbrev dktX2_isKept_0 : List UInt8 := dkwX2_isKept_0 ++ []
theorem dksX2_isKept_0 : cX2_isKept.data.toList.drop 0 = dktX2_isKept_0 := by decide +kernel
theorem dX2_isKept_0 : decode cX2_isKept 0 = .ok (.aload_n 1, 1) := dk_43 (dk_at dksX2_isKept_0 0 rfl rfl)
theorem dX2_isKept_1 : decode cX2_isKept 1 = .ok (.getfield 199, 3) := dk_180 0 199 (dk_at dksX2_isKept_0 1 rfl rfl)
theorem dX2_isKept_4 : decode cX2_isKept 4 = .ok (.iload_n 2, 1) := dk_28 (dk_at dksX2_isKept_0 4 rfl rfl)
theorem dX2_isKept_5 : decode cX2_isKept 5 = .ok (.iand, 1) := dk_126 (dk_at dksX2_isKept_0 5 rfl rfl)
theorem dX2_isKept_6 : decode cX2_isKept 6 = .ok (.ifCond .eq 7, 3) := dk_153 0 7 (dk_at dksX2_isKept_0 6 rfl rfl)
theorem dX2_isKept_9 : decode cX2_isKept 9 = .ok (.iconst 1, 1) := dk_4 (dk_at dksX2_isKept_0 9 rfl rfl)
theorem dX2_isKept_10 : decode cX2_isKept 10 = .ok (.goto 4, 3) := dk_167 0 4 (dk_at dksX2_isKept_0 10 rfl rfl)
theorem dX2_isKept_13 : decode cX2_isKept 13 = .ok (.iconst 0, 1) := dk_3 (dk_at dksX2_isKept_0 13 rfl rfl)
theorem dX2_isKept_14 : decode cX2_isKept 14 = .ok (.ireturn, 1) := dk_172 (dk_at dksX2_isKept_0 14 rfl rfl)
abbrev cX2_eaten : ByteArray := prog_17_method_26_code
def yX2_eaten : MethodName := ⟨RX2, "eaten", "(LVaultyardModel$Thing;I)I"⟩
def dkwX2_eaten_1 : List UInt8 := [172]
abbrev dktX2_eaten_1 : List UInt8 := dkwX2_eaten_1 ++ []
def dkwX2_eaten_0 : List UInt8 := [5, 28, 42, 180, 0, 10, 43, 180, 0, 188, 182, 0, 68, 192, 0, 137, 180, 0, 191, 126, 184, 0, 194, 104]
abbrev dktX2_eaten_0 : List UInt8 := dkwX2_eaten_0 ++ dktX2_eaten_1
theorem dksX2_eaten_0 : cX2_eaten.data.toList.drop 0 = dktX2_eaten_0 := by decide +kernel
theorem dksX2_eaten_1 : cX2_eaten.data.toList.drop 24 = dktX2_eaten_1 := dk_seg dksX2_eaten_0 24 rfl rfl
theorem dX2_eaten_0 : decode cX2_eaten 0 = .ok (.iconst 2, 1) := dk_5 (dk_at dksX2_eaten_0 0 rfl rfl)
theorem dX2_eaten_1 : decode cX2_eaten 1 = .ok (.iload_n 2, 1) := dk_28 (dk_at dksX2_eaten_0 1 rfl rfl)
theorem dX2_eaten_2 : decode cX2_eaten 2 = .ok (.aload_n 0, 1) := dk_42 (dk_at dksX2_eaten_0 2 rfl rfl)
theorem dX2_eaten_3 : decode cX2_eaten 3 = .ok (.getfield 10, 3) := dk_180 0 10 (dk_at dksX2_eaten_0 3 rfl rfl)
theorem dX2_eaten_6 : decode cX2_eaten 6 = .ok (.aload_n 1, 1) := dk_43 (dk_at dksX2_eaten_0 6 rfl rfl)
theorem dX2_eaten_7 : decode cX2_eaten 7 = .ok (.getfield 188, 3) := dk_180 0 188 (dk_at dksX2_eaten_0 7 rfl rfl)
theorem dX2_eaten_10 : decode cX2_eaten 10 = .ok (.invokevirtual 68, 3) := dk_182 0 68 (dk_at dksX2_eaten_0 10 rfl rfl)
theorem dX2_eaten_13 : decode cX2_eaten 13 = .ok (.checkcast 137, 3) := dk_192 0 137 (dk_at dksX2_eaten_0 13 rfl rfl)
theorem dX2_eaten_16 : decode cX2_eaten 16 = .ok (.getfield 191, 3) := dk_180 0 191 (dk_at dksX2_eaten_0 16 rfl rfl)
theorem dX2_eaten_19 : decode cX2_eaten 19 = .ok (.iand, 1) := dk_126 (dk_at dksX2_eaten_0 19 rfl rfl)
theorem dX2_eaten_20 : decode cX2_eaten 20 = .ok (.invokestatic 194, 3) := dk_184 0 194 (dk_at dksX2_eaten_0 20 rfl rfl)
theorem dX2_eaten_23 : decode cX2_eaten 23 = .ok (.imul, 1) := dk_104 (dk_at dksX2_eaten_0 23 rfl rfl)
theorem dX2_eaten_24 : decode cX2_eaten 24 = .ok (.ireturn, 1) := dk_172 (dk_at dksX2_eaten_1 0 rfl rfl)
abbrev cX2_grows : ByteArray := prog_17_method_11_code
def yX2_grows : MethodName := ⟨RX2, "grows", "(LVaultyardModel$Thing;CIZ)I"⟩
def dkwX2_grows_1 : List UInt8 := [181, 0, 93, 21, 5, 157, 0, 8, 21, 4, 153, 0, 11, 42, 43, 28, 21, 5, 182, 0, 102, 21, 5, 172]
abbrev dktX2_grows_1 : List UInt8 := dkwX2_grows_1 ++ []
def dkwX2_grows_0 : List UInt8 := [29, 17, 3, 232, 43, 180, 0, 93, 100, 184, 0, 96, 54, 5, 43, 89, 180, 0, 93, 21, 5, 96]
abbrev dktX2_grows_0 : List UInt8 := dkwX2_grows_0 ++ dktX2_grows_1
theorem dksX2_grows_0 : cX2_grows.data.toList.drop 0 = dktX2_grows_0 := by decide +kernel
theorem dksX2_grows_1 : cX2_grows.data.toList.drop 22 = dktX2_grows_1 := dk_seg dksX2_grows_0 22 rfl rfl
theorem dX2_grows_0 : decode cX2_grows 0 = .ok (.iload_n 3, 1) := dk_29 (dk_at dksX2_grows_0 0 rfl rfl)
theorem dX2_grows_1 : decode cX2_grows 1 = .ok (.sipush 1000, 3) := dk_17 3 232 (dk_at dksX2_grows_0 1 rfl rfl)
theorem dX2_grows_4 : decode cX2_grows 4 = .ok (.aload_n 1, 1) := dk_43 (dk_at dksX2_grows_0 4 rfl rfl)
theorem dX2_grows_5 : decode cX2_grows 5 = .ok (.getfield 93, 3) := dk_180 0 93 (dk_at dksX2_grows_0 5 rfl rfl)
theorem dX2_grows_8 : decode cX2_grows 8 = .ok (.isub, 1) := dk_100 (dk_at dksX2_grows_0 8 rfl rfl)
theorem dX2_grows_9 : decode cX2_grows 9 = .ok (.invokestatic 96, 3) := dk_184 0 96 (dk_at dksX2_grows_0 9 rfl rfl)
theorem dX2_grows_12 : decode cX2_grows 12 = .ok (.istore 5, 2) := dk_54 5 (dk_at dksX2_grows_0 12 rfl rfl)
theorem dX2_grows_14 : decode cX2_grows 14 = .ok (.aload_n 1, 1) := dk_43 (dk_at dksX2_grows_0 14 rfl rfl)
theorem dX2_grows_15 : decode cX2_grows 15 = .ok (.dup, 1) := dk_89 (dk_at dksX2_grows_0 15 rfl rfl)
theorem dX2_grows_16 : decode cX2_grows 16 = .ok (.getfield 93, 3) := dk_180 0 93 (dk_at dksX2_grows_0 16 rfl rfl)
theorem dX2_grows_19 : decode cX2_grows 19 = .ok (.iload 5, 2) := dk_21 5 (dk_at dksX2_grows_0 19 rfl rfl)
theorem dX2_grows_21 : decode cX2_grows 21 = .ok (.iadd, 1) := dk_96 (dk_at dksX2_grows_0 21 rfl rfl)
theorem dX2_grows_22 : decode cX2_grows 22 = .ok (.putfield 93, 3) := dk_181 0 93 (dk_at dksX2_grows_1 0 rfl rfl)
theorem dX2_grows_25 : decode cX2_grows 25 = .ok (.iload 5, 2) := dk_21 5 (dk_at dksX2_grows_1 3 rfl rfl)
theorem dX2_grows_27 : decode cX2_grows 27 = .ok (.ifCond .gt 8, 3) := dk_157 0 8 (dk_at dksX2_grows_1 5 rfl rfl)
theorem dX2_grows_30 : decode cX2_grows 30 = .ok (.iload 4, 2) := dk_21 4 (dk_at dksX2_grows_1 8 rfl rfl)
theorem dX2_grows_32 : decode cX2_grows 32 = .ok (.ifCond .eq 11, 3) := dk_153 0 11 (dk_at dksX2_grows_1 10 rfl rfl)
theorem dX2_grows_35 : decode cX2_grows 35 = .ok (.aload_n 0, 1) := dk_42 (dk_at dksX2_grows_1 13 rfl rfl)
theorem dX2_grows_36 : decode cX2_grows 36 = .ok (.aload_n 1, 1) := dk_43 (dk_at dksX2_grows_1 14 rfl rfl)
theorem dX2_grows_37 : decode cX2_grows 37 = .ok (.iload_n 2, 1) := dk_28 (dk_at dksX2_grows_1 15 rfl rfl)
theorem dX2_grows_38 : decode cX2_grows 38 = .ok (.iload 5, 2) := dk_21 5 (dk_at dksX2_grows_1 16 rfl rfl)
theorem dX2_grows_40 : decode cX2_grows 40 = .ok (.invokevirtual 102, 3) := dk_182 0 102 (dk_at dksX2_grows_1 18 rfl rfl)
theorem dX2_grows_43 : decode cX2_grows 43 = .ok (.iload 5, 2) := dk_21 5 (dk_at dksX2_grows_1 21 rfl rfl)
theorem dX2_grows_45 : decode cX2_grows 45 = .ok (.ireturn, 1) := dk_172 (dk_at dksX2_grows_1 23 rfl rfl)
abbrev cX2_year : ByteArray := prog_17_method_32_code
def yX2_year : MethodName := ⟨RX2, "year", "()I"⟩
def dkwX2_year_0 : List UInt8 := [42, 3, 181, 0, 44, 42, 182, 0, 238, 172]
abbrev dktX2_year_0 : List UInt8 := dkwX2_year_0 ++ []
theorem dksX2_year_0 : cX2_year.data.toList.drop 0 = dktX2_year_0 := by decide +kernel
theorem dX2_year_0 : decode cX2_year 0 = .ok (.aload_n 0, 1) := dk_42 (dk_at dksX2_year_0 0 rfl rfl)
theorem dX2_year_1 : decode cX2_year 1 = .ok (.iconst 0, 1) := dk_3 (dk_at dksX2_year_0 1 rfl rfl)
theorem dX2_year_2 : decode cX2_year 2 = .ok (.putfield 44, 3) := dk_181 0 44 (dk_at dksX2_year_0 2 rfl rfl)
theorem dX2_year_5 : decode cX2_year 5 = .ok (.aload_n 0, 1) := dk_42 (dk_at dksX2_year_0 5 rfl rfl)
theorem dX2_year_6 : decode cX2_year 6 = .ok (.invokevirtual 238, 3) := dk_182 0 238 (dk_at dksX2_year_0 6 rfl rfl)
theorem dX2_year_9 : decode cX2_year 9 = .ok (.ireturn, 1) := dk_172 (dk_at dksX2_year_0 9 rfl rfl)
abbrev cX2_yearNow : ByteArray := prog_17_method_31_code
def yX2_yearNow : MethodName := ⟨RX2, "yearNow", "()I"⟩
def dkwX2_yearNow_0 : List UInt8 := [17, 7, 208, 42, 180, 0, 86, 17, 1, 109, 108, 96, 172]
abbrev dktX2_yearNow_0 : List UInt8 := dkwX2_yearNow_0 ++ []
theorem dksX2_yearNow_0 : cX2_yearNow.data.toList.drop 0 = dktX2_yearNow_0 := by decide +kernel
theorem dX2_yearNow_0 : decode cX2_yearNow 0 = .ok (.sipush 2000, 3) := dk_17 7 208 (dk_at dksX2_yearNow_0 0 rfl rfl)
theorem dX2_yearNow_3 : decode cX2_yearNow 3 = .ok (.aload_n 0, 1) := dk_42 (dk_at dksX2_yearNow_0 3 rfl rfl)
theorem dX2_yearNow_4 : decode cX2_yearNow 4 = .ok (.getfield 86, 3) := dk_180 0 86 (dk_at dksX2_yearNow_0 4 rfl rfl)
theorem dX2_yearNow_7 : decode cX2_yearNow 7 = .ok (.sipush 365, 3) := dk_17 1 109 (dk_at dksX2_yearNow_0 7 rfl rfl)
theorem dX2_yearNow_10 : decode cX2_yearNow 10 = .ok (.idiv, 1) := dk_108 (dk_at dksX2_yearNow_0 10 rfl rfl)
theorem dX2_yearNow_11 : decode cX2_yearNow 11 = .ok (.iadd, 1) := dk_96 (dk_at dksX2_yearNow_0 11 rfl rfl)
theorem dX2_yearNow_12 : decode cX2_yearNow 12 = .ok (.ireturn, 1) := dk_172 (dk_at dksX2_yearNow_0 12 rfl rfl)
abbrev cX2_light : ByteArray := prog_17_method_33_code
def yX2_light : MethodName := ⟨RX2, "light", "(I)I"⟩
def dkwX2_light_1 : List UInt8 := [180, 0, 202, 172]
abbrev dktX2_light_1 : List UInt8 := dkwX2_light_1 ++ []
def dkwX2_light_0 : List UInt8 := [42, 27, 182, 0, 185, 153, 0, 7, 3, 167, 0, 17, 42, 180, 0, 19, 27, 182, 0, 68, 192, 0, 64]
abbrev dktX2_light_0 : List UInt8 := dkwX2_light_0 ++ dktX2_light_1
theorem dksX2_light_0 : cX2_light.data.toList.drop 0 = dktX2_light_0 := by decide +kernel
theorem dksX2_light_1 : cX2_light.data.toList.drop 23 = dktX2_light_1 := dk_seg dksX2_light_0 23 rfl rfl
theorem dX2_light_0 : decode cX2_light 0 = .ok (.aload_n 0, 1) := dk_42 (dk_at dksX2_light_0 0 rfl rfl)
theorem dX2_light_1 : decode cX2_light 1 = .ok (.iload_n 1, 1) := dk_27 (dk_at dksX2_light_0 1 rfl rfl)
theorem dX2_light_2 : decode cX2_light 2 = .ok (.invokevirtual 185, 3) := dk_182 0 185 (dk_at dksX2_light_0 2 rfl rfl)
theorem dX2_light_5 : decode cX2_light 5 = .ok (.ifCond .eq 7, 3) := dk_153 0 7 (dk_at dksX2_light_0 5 rfl rfl)
theorem dX2_light_8 : decode cX2_light 8 = .ok (.iconst 0, 1) := dk_3 (dk_at dksX2_light_0 8 rfl rfl)
theorem dX2_light_9 : decode cX2_light 9 = .ok (.goto 17, 3) := dk_167 0 17 (dk_at dksX2_light_0 9 rfl rfl)
theorem dX2_light_12 : decode cX2_light 12 = .ok (.aload_n 0, 1) := dk_42 (dk_at dksX2_light_0 12 rfl rfl)
theorem dX2_light_13 : decode cX2_light 13 = .ok (.getfield 19, 3) := dk_180 0 19 (dk_at dksX2_light_0 13 rfl rfl)
theorem dX2_light_16 : decode cX2_light 16 = .ok (.iload_n 1, 1) := dk_27 (dk_at dksX2_light_0 16 rfl rfl)
theorem dX2_light_17 : decode cX2_light 17 = .ok (.invokevirtual 68, 3) := dk_182 0 68 (dk_at dksX2_light_0 17 rfl rfl)
theorem dX2_light_20 : decode cX2_light 20 = .ok (.checkcast 64, 3) := dk_192 0 64 (dk_at dksX2_light_0 20 rfl rfl)
theorem dX2_light_23 : decode cX2_light 23 = .ok (.getfield 202, 3) := dk_180 0 202 (dk_at dksX2_light_1 0 rfl rfl)
theorem dX2_light_26 : decode cX2_light 26 = .ok (.ireturn, 1) := dk_172 (dk_at dksX2_light_1 3 rfl rfl)
abbrev cX2_damage : ByteArray := prog_17_method_34_code
def yX2_damage : MethodName := ⟨RX2, "damage", "(I)I"⟩
def dkwX2_damage_1 : List UInt8 := [180, 0, 93, 172]
abbrev dktX2_damage_1 : List UInt8 := dkwX2_damage_1 ++ []
def dkwX2_damage_0 : List UInt8 := [42, 27, 182, 0, 185, 153, 0, 7, 3, 167, 0, 17, 42, 180, 0, 19, 27, 182, 0, 68, 192, 0, 64]
abbrev dktX2_damage_0 : List UInt8 := dkwX2_damage_0 ++ dktX2_damage_1
theorem dksX2_damage_0 : cX2_damage.data.toList.drop 0 = dktX2_damage_0 := by decide +kernel
theorem dksX2_damage_1 : cX2_damage.data.toList.drop 23 = dktX2_damage_1 := dk_seg dksX2_damage_0 23 rfl rfl
theorem dX2_damage_0 : decode cX2_damage 0 = .ok (.aload_n 0, 1) := dk_42 (dk_at dksX2_damage_0 0 rfl rfl)
theorem dX2_damage_1 : decode cX2_damage 1 = .ok (.iload_n 1, 1) := dk_27 (dk_at dksX2_damage_0 1 rfl rfl)
theorem dX2_damage_2 : decode cX2_damage 2 = .ok (.invokevirtual 185, 3) := dk_182 0 185 (dk_at dksX2_damage_0 2 rfl rfl)
theorem dX2_damage_5 : decode cX2_damage 5 = .ok (.ifCond .eq 7, 3) := dk_153 0 7 (dk_at dksX2_damage_0 5 rfl rfl)
theorem dX2_damage_8 : decode cX2_damage 8 = .ok (.iconst 0, 1) := dk_3 (dk_at dksX2_damage_0 8 rfl rfl)
theorem dX2_damage_9 : decode cX2_damage 9 = .ok (.goto 17, 3) := dk_167 0 17 (dk_at dksX2_damage_0 9 rfl rfl)
theorem dX2_damage_12 : decode cX2_damage 12 = .ok (.aload_n 0, 1) := dk_42 (dk_at dksX2_damage_0 12 rfl rfl)
theorem dX2_damage_13 : decode cX2_damage 13 = .ok (.getfield 19, 3) := dk_180 0 19 (dk_at dksX2_damage_0 13 rfl rfl)
theorem dX2_damage_16 : decode cX2_damage 16 = .ok (.iload_n 1, 1) := dk_27 (dk_at dksX2_damage_0 16 rfl rfl)
theorem dX2_damage_17 : decode cX2_damage 17 = .ok (.invokevirtual 68, 3) := dk_182 0 68 (dk_at dksX2_damage_0 17 rfl rfl)
theorem dX2_damage_20 : decode cX2_damage 20 = .ok (.checkcast 64, 3) := dk_192 0 64 (dk_at dksX2_damage_0 20 rfl rfl)
theorem dX2_damage_23 : decode cX2_damage 23 = .ok (.getfield 93, 3) := dk_180 0 93 (dk_at dksX2_damage_1 0 rfl rfl)
theorem dX2_damage_26 : decode cX2_damage 26 = .ok (.ireturn, 1) := dk_172 (dk_at dksX2_damage_1 3 rfl rfl)
abbrev cX2_journal : ByteArray := prog_17_method_35_code
def yX2_journal : MethodName := ⟨RX2, "journal", "(I)I"⟩
def dkwX2_journal_1 : List UInt8 := [180, 0, 83, 182, 0, 48, 172]
abbrev dktX2_journal_1 : List UInt8 := dkwX2_journal_1 ++ []
def dkwX2_journal_0 : List UInt8 := [42, 27, 182, 0, 185, 153, 0, 7, 3, 167, 0, 20, 42, 180, 0, 19, 27, 182, 0, 68, 192, 0, 64]
abbrev dktX2_journal_0 : List UInt8 := dkwX2_journal_0 ++ dktX2_journal_1
theorem dksX2_journal_0 : cX2_journal.data.toList.drop 0 = dktX2_journal_0 := by decide +kernel
theorem dksX2_journal_1 : cX2_journal.data.toList.drop 23 = dktX2_journal_1 := dk_seg dksX2_journal_0 23 rfl rfl
theorem dX2_journal_0 : decode cX2_journal 0 = .ok (.aload_n 0, 1) := dk_42 (dk_at dksX2_journal_0 0 rfl rfl)
theorem dX2_journal_1 : decode cX2_journal 1 = .ok (.iload_n 1, 1) := dk_27 (dk_at dksX2_journal_0 1 rfl rfl)
theorem dX2_journal_2 : decode cX2_journal 2 = .ok (.invokevirtual 185, 3) := dk_182 0 185 (dk_at dksX2_journal_0 2 rfl rfl)
theorem dX2_journal_5 : decode cX2_journal 5 = .ok (.ifCond .eq 7, 3) := dk_153 0 7 (dk_at dksX2_journal_0 5 rfl rfl)
theorem dX2_journal_8 : decode cX2_journal 8 = .ok (.iconst 0, 1) := dk_3 (dk_at dksX2_journal_0 8 rfl rfl)
theorem dX2_journal_9 : decode cX2_journal 9 = .ok (.goto 20, 3) := dk_167 0 20 (dk_at dksX2_journal_0 9 rfl rfl)
theorem dX2_journal_12 : decode cX2_journal 12 = .ok (.aload_n 0, 1) := dk_42 (dk_at dksX2_journal_0 12 rfl rfl)
theorem dX2_journal_13 : decode cX2_journal 13 = .ok (.getfield 19, 3) := dk_180 0 19 (dk_at dksX2_journal_0 13 rfl rfl)
theorem dX2_journal_16 : decode cX2_journal 16 = .ok (.iload_n 1, 1) := dk_27 (dk_at dksX2_journal_0 16 rfl rfl)
theorem dX2_journal_17 : decode cX2_journal 17 = .ok (.invokevirtual 68, 3) := dk_182 0 68 (dk_at dksX2_journal_0 17 rfl rfl)
theorem dX2_journal_20 : decode cX2_journal 20 = .ok (.checkcast 64, 3) := dk_192 0 64 (dk_at dksX2_journal_0 20 rfl rfl)
theorem dX2_journal_23 : decode cX2_journal 23 = .ok (.getfield 83, 3) := dk_180 0 83 (dk_at dksX2_journal_1 0 rfl rfl)
theorem dX2_journal_26 : decode cX2_journal 26 = .ok (.invokevirtual 48, 3) := dk_182 0 48 (dk_at dksX2_journal_1 3 rfl rfl)
theorem dX2_journal_29 : decode cX2_journal 29 = .ok (.ireturn, 1) := dk_172 (dk_at dksX2_journal_1 6 rfl rfl)
abbrev cX2_entry : ByteArray := prog_17_method_36_code
def yX2_entry : MethodName := ⟨RX2, "entry", "(IIC)I"⟩
def dkwX2_entry_3 : List UInt8 := [3, 167, 0, 19, 25, 4, 28, 182, 0, 68, 192, 0, 180, 18, 241, 29, 182, 0, 243, 46, 172]
abbrev dktX2_entry_3 : List UInt8 := dkwX2_entry_3 ++ []
def dkwX2_entry_2 : List UInt8 := [4, 100, 133, 184, 0, 52, 154, 0, 7, 6, 167, 0, 4, 3, 181, 0, 44, 42, 180, 0, 44, 158, 0, 7]
abbrev dktX2_entry_2 : List UInt8 := dkwX2_entry_2 ++ dktX2_entry_3
def dkwX2_entry_1 : List UInt8 := [58, 4, 42, 18, 241, 29, 182, 0, 243, 156, 0, 7, 5, 167, 0, 25, 28, 133, 9, 25, 4, 182, 0, 48]
abbrev dktX2_entry_1 : List UInt8 := dkwX2_entry_1 ++ dktX2_entry_2
def dkwX2_entry_0 : List UInt8 := [42, 27, 182, 0, 185, 153, 0, 5, 3, 172, 42, 180, 0, 19, 27, 182, 0, 68, 192, 0, 64, 180, 0, 83]
abbrev dktX2_entry_0 : List UInt8 := dkwX2_entry_0 ++ dktX2_entry_1
theorem dksX2_entry_0 : cX2_entry.data.toList.drop 0 = dktX2_entry_0 := by decide +kernel
theorem dksX2_entry_1 : cX2_entry.data.toList.drop 24 = dktX2_entry_1 := dk_seg dksX2_entry_0 24 rfl rfl
theorem dksX2_entry_2 : cX2_entry.data.toList.drop 48 = dktX2_entry_2 := dk_seg dksX2_entry_1 24 rfl rfl
theorem dksX2_entry_3 : cX2_entry.data.toList.drop 72 = dktX2_entry_3 := dk_seg dksX2_entry_2 24 rfl rfl
theorem dX2_entry_0 : decode cX2_entry 0 = .ok (.aload_n 0, 1) := dk_42 (dk_at dksX2_entry_0 0 rfl rfl)
theorem dX2_entry_1 : decode cX2_entry 1 = .ok (.iload_n 1, 1) := dk_27 (dk_at dksX2_entry_0 1 rfl rfl)
theorem dX2_entry_2 : decode cX2_entry 2 = .ok (.invokevirtual 185, 3) := dk_182 0 185 (dk_at dksX2_entry_0 2 rfl rfl)
theorem dX2_entry_5 : decode cX2_entry 5 = .ok (.ifCond .eq 5, 3) := dk_153 0 5 (dk_at dksX2_entry_0 5 rfl rfl)
theorem dX2_entry_8 : decode cX2_entry 8 = .ok (.iconst 0, 1) := dk_3 (dk_at dksX2_entry_0 8 rfl rfl)
theorem dX2_entry_9 : decode cX2_entry 9 = .ok (.ireturn, 1) := dk_172 (dk_at dksX2_entry_0 9 rfl rfl)
theorem dX2_entry_10 : decode cX2_entry 10 = .ok (.aload_n 0, 1) := dk_42 (dk_at dksX2_entry_0 10 rfl rfl)
theorem dX2_entry_11 : decode cX2_entry 11 = .ok (.getfield 19, 3) := dk_180 0 19 (dk_at dksX2_entry_0 11 rfl rfl)
theorem dX2_entry_14 : decode cX2_entry 14 = .ok (.iload_n 1, 1) := dk_27 (dk_at dksX2_entry_0 14 rfl rfl)
theorem dX2_entry_15 : decode cX2_entry 15 = .ok (.invokevirtual 68, 3) := dk_182 0 68 (dk_at dksX2_entry_0 15 rfl rfl)
theorem dX2_entry_18 : decode cX2_entry 18 = .ok (.checkcast 64, 3) := dk_192 0 64 (dk_at dksX2_entry_0 18 rfl rfl)
theorem dX2_entry_21 : decode cX2_entry 21 = .ok (.getfield 83, 3) := dk_180 0 83 (dk_at dksX2_entry_0 21 rfl rfl)
theorem dX2_entry_24 : decode cX2_entry 24 = .ok (.astore 4, 2) := dk_58 4 (dk_at dksX2_entry_1 0 rfl rfl)
theorem dX2_entry_26 : decode cX2_entry 26 = .ok (.aload_n 0, 1) := dk_42 (dk_at dksX2_entry_1 2 rfl rfl)
theorem dX2_entry_27 : decode cX2_entry 27 = .ok (.ldc 241, 2) := dk_18 241 (dk_at dksX2_entry_1 3 rfl rfl)
theorem dX2_entry_29 : decode cX2_entry 29 = .ok (.iload_n 3, 1) := dk_29 (dk_at dksX2_entry_1 5 rfl rfl)
theorem dX2_entry_30 : decode cX2_entry 30 = .ok (.invokevirtual 243, 3) := dk_182 0 243 (dk_at dksX2_entry_1 6 rfl rfl)
theorem dX2_entry_33 : decode cX2_entry 33 = .ok (.ifCond .ge 7, 3) := dk_156 0 7 (dk_at dksX2_entry_1 9 rfl rfl)
theorem dX2_entry_36 : decode cX2_entry 36 = .ok (.iconst 2, 1) := dk_5 (dk_at dksX2_entry_1 12 rfl rfl)
theorem dX2_entry_37 : decode cX2_entry 37 = .ok (.goto 25, 3) := dk_167 0 25 (dk_at dksX2_entry_1 13 rfl rfl)
theorem dX2_entry_40 : decode cX2_entry 40 = .ok (.iload_n 2, 1) := dk_28 (dk_at dksX2_entry_1 16 rfl rfl)
theorem dX2_entry_41 : decode cX2_entry 41 = .ok (.i2l, 1) := dk_133 (dk_at dksX2_entry_1 17 rfl rfl)
theorem dX2_entry_42 : decode cX2_entry 42 = .ok (.lconst 0, 1) := dk_9 (dk_at dksX2_entry_1 18 rfl rfl)
theorem dX2_entry_43 : decode cX2_entry 43 = .ok (.aload 4, 2) := dk_25 4 (dk_at dksX2_entry_1 19 rfl rfl)
theorem dX2_entry_45 : decode cX2_entry 45 = .ok (.invokevirtual 48, 3) := dk_182 0 48 (dk_at dksX2_entry_1 21 rfl rfl)
theorem dX2_entry_48 : decode cX2_entry 48 = .ok (.iconst 1, 1) := dk_4 (dk_at dksX2_entry_2 0 rfl rfl)
theorem dX2_entry_49 : decode cX2_entry 49 = .ok (.isub, 1) := dk_100 (dk_at dksX2_entry_2 1 rfl rfl)
theorem dX2_entry_50 : decode cX2_entry 50 = .ok (.i2l, 1) := dk_133 (dk_at dksX2_entry_2 2 rfl rfl)
theorem dX2_entry_51 : decode cX2_entry 51 = .ok (.invokestatic 52, 3) := dk_184 0 52 (dk_at dksX2_entry_2 3 rfl rfl)
theorem dX2_entry_54 : decode cX2_entry 54 = .ok (.ifCond .ne 7, 3) := dk_154 0 7 (dk_at dksX2_entry_2 6 rfl rfl)
theorem dX2_entry_57 : decode cX2_entry 57 = .ok (.iconst 3, 1) := dk_6 (dk_at dksX2_entry_2 9 rfl rfl)
theorem dX2_entry_58 : decode cX2_entry 58 = .ok (.goto 4, 3) := dk_167 0 4 (dk_at dksX2_entry_2 10 rfl rfl)
theorem dX2_entry_61 : decode cX2_entry 61 = .ok (.iconst 0, 1) := dk_3 (dk_at dksX2_entry_2 13 rfl rfl)
theorem dX2_entry_62 : decode cX2_entry 62 = .ok (.putfield 44, 3) := dk_181 0 44 (dk_at dksX2_entry_2 14 rfl rfl)
theorem dX2_entry_65 : decode cX2_entry 65 = .ok (.aload_n 0, 1) := dk_42 (dk_at dksX2_entry_2 17 rfl rfl)
theorem dX2_entry_66 : decode cX2_entry 66 = .ok (.getfield 44, 3) := dk_180 0 44 (dk_at dksX2_entry_2 18 rfl rfl)
theorem dX2_entry_69 : decode cX2_entry 69 = .ok (.ifCond .le 7, 3) := dk_158 0 7 (dk_at dksX2_entry_2 21 rfl rfl)
theorem dX2_entry_72 : decode cX2_entry 72 = .ok (.iconst 0, 1) := dk_3 (dk_at dksX2_entry_3 0 rfl rfl)
theorem dX2_entry_73 : decode cX2_entry 73 = .ok (.goto 19, 3) := dk_167 0 19 (dk_at dksX2_entry_3 1 rfl rfl)
theorem dX2_entry_76 : decode cX2_entry 76 = .ok (.aload 4, 2) := dk_25 4 (dk_at dksX2_entry_3 4 rfl rfl)
theorem dX2_entry_78 : decode cX2_entry 78 = .ok (.iload_n 2, 1) := dk_28 (dk_at dksX2_entry_3 6 rfl rfl)
theorem dX2_entry_79 : decode cX2_entry 79 = .ok (.invokevirtual 68, 3) := dk_182 0 68 (dk_at dksX2_entry_3 7 rfl rfl)
theorem dX2_entry_82 : decode cX2_entry 82 = .ok (.checkcast 180, 3) := dk_192 0 180 (dk_at dksX2_entry_3 10 rfl rfl)
theorem dX2_entry_85 : decode cX2_entry 85 = .ok (.ldc 241, 2) := dk_18 241 (dk_at dksX2_entry_3 13 rfl rfl)
theorem dX2_entry_87 : decode cX2_entry 87 = .ok (.iload_n 3, 1) := dk_29 (dk_at dksX2_entry_3 15 rfl rfl)
theorem dX2_entry_88 : decode cX2_entry 88 = .ok (.invokevirtual 243, 3) := dk_182 0 243 (dk_at dksX2_entry_3 16 rfl rfl)
theorem dX2_entry_91 : decode cX2_entry 91 = .ok (.iaload, 1) := dk_46 (dk_at dksX2_entry_3 19 rfl rfl)
theorem dX2_entry_92 : decode cX2_entry 92 = .ok (.ireturn, 1) := dk_172 (dk_at dksX2_entry_3 20 rfl rfl)
abbrev cX2_visitors : ByteArray := prog_17_method_37_code
def yX2_visitors : MethodName := ⟨RX2, "visitors", "(II)I"⟩
def dkwX2_visitors_7 : List UInt8 := [167, 0, 4, 3, 96, 181, 1, 5, 21, 4, 172]
abbrev dktX2_visitors_7 : List UInt8 := dkwX2_visitors_7 ++ []
def dkwX2_visitors_6 : List UInt8 := [167, 255, 191, 42, 180, 0, 16, 27, 182, 0, 68, 192, 0, 126, 89, 180, 1, 5, 29, 158, 0, 7, 4]
abbrev dktX2_visitors_6 : List UInt8 := dkwX2_visitors_6 ++ dktX2_visitors_7
def dkwX2_visitors_5 : List UInt8 := [182, 0, 72, 180, 1, 1, 154, 0, 18, 132, 4, 1, 42, 25, 6, 16, 104, 29, 3, 182, 0, 223, 54, 7]
abbrev dktX2_visitors_5 : List UInt8 := dkwX2_visitors_5 ++ dktX2_visitors_6
def dkwX2_visitors_4 : List UInt8 := [192, 0, 64, 58, 6, 29, 158, 0, 42, 42, 25, 6, 16, 114, 27, 182, 0, 253, 153, 0, 30, 42, 25, 6]
abbrev dktX2_visitors_4 : List UInt8 := dkwX2_visitors_4 ++ dktX2_visitors_5
def dkwX2_visitors_3 : List UInt8 := [182, 0, 106, 58, 5, 25, 5, 185, 0, 110, 1, 0, 153, 0, 61, 25, 5, 185, 0, 116, 1, 0]
abbrev dktX2_visitors_3 : List UInt8 := dkwX2_visitors_3 ++ dktX2_visitors_4
def dkwX2_visitors_2 : List UInt8 := [182, 0, 68, 192, 0, 126, 180, 0, 250, 100, 184, 0, 204, 16, 50, 108, 62, 3, 54, 4, 42, 180, 0, 19]
abbrev dktX2_visitors_2 : List UInt8 := dkwX2_visitors_2 ++ dktX2_visitors_3
def dkwX2_visitors_1 : List UInt8 := [167, 0, 4, 5, 181, 0, 44, 42, 180, 0, 44, 158, 0, 5, 3, 172, 3, 28, 42, 180, 0, 16, 27]
abbrev dktX2_visitors_1 : List UInt8 := dkwX2_visitors_1 ++ dktX2_visitors_2
def dkwX2_visitors_0 : List UInt8 := [42, 27, 182, 0, 147, 153, 0, 5, 3, 172, 42, 28, 133, 9, 20, 0, 248, 184, 0, 52, 153, 0, 7, 3]
abbrev dktX2_visitors_0 : List UInt8 := dkwX2_visitors_0 ++ dktX2_visitors_1
theorem dksX2_visitors_0 : cX2_visitors.data.toList.drop 0 = dktX2_visitors_0 := by decide +kernel
theorem dksX2_visitors_1 : cX2_visitors.data.toList.drop 24 = dktX2_visitors_1 := dk_seg dksX2_visitors_0 24 rfl rfl
theorem dksX2_visitors_2 : cX2_visitors.data.toList.drop 47 = dktX2_visitors_2 := dk_seg dksX2_visitors_1 23 rfl rfl
theorem dksX2_visitors_3 : cX2_visitors.data.toList.drop 71 = dktX2_visitors_3 := dk_seg dksX2_visitors_2 24 rfl rfl
theorem dksX2_visitors_4 : cX2_visitors.data.toList.drop 93 = dktX2_visitors_4 := dk_seg dksX2_visitors_3 22 rfl rfl
theorem dksX2_visitors_5 : cX2_visitors.data.toList.drop 117 = dktX2_visitors_5 := dk_seg dksX2_visitors_4 24 rfl rfl
theorem dksX2_visitors_6 : cX2_visitors.data.toList.drop 141 = dktX2_visitors_6 := dk_seg dksX2_visitors_5 24 rfl rfl
theorem dksX2_visitors_7 : cX2_visitors.data.toList.drop 164 = dktX2_visitors_7 := dk_seg dksX2_visitors_6 23 rfl rfl
theorem dX2_visitors_0 : decode cX2_visitors 0 = .ok (.aload_n 0, 1) := dk_42 (dk_at dksX2_visitors_0 0 rfl rfl)
theorem dX2_visitors_1 : decode cX2_visitors 1 = .ok (.iload_n 1, 1) := dk_27 (dk_at dksX2_visitors_0 1 rfl rfl)
theorem dX2_visitors_2 : decode cX2_visitors 2 = .ok (.invokevirtual 147, 3) := dk_182 0 147 (dk_at dksX2_visitors_0 2 rfl rfl)
theorem dX2_visitors_5 : decode cX2_visitors 5 = .ok (.ifCond .eq 5, 3) := dk_153 0 5 (dk_at dksX2_visitors_0 5 rfl rfl)
theorem dX2_visitors_8 : decode cX2_visitors 8 = .ok (.iconst 0, 1) := dk_3 (dk_at dksX2_visitors_0 8 rfl rfl)
theorem dX2_visitors_9 : decode cX2_visitors 9 = .ok (.ireturn, 1) := dk_172 (dk_at dksX2_visitors_0 9 rfl rfl)
theorem dX2_visitors_10 : decode cX2_visitors 10 = .ok (.aload_n 0, 1) := dk_42 (dk_at dksX2_visitors_0 10 rfl rfl)
theorem dX2_visitors_11 : decode cX2_visitors 11 = .ok (.iload_n 2, 1) := dk_28 (dk_at dksX2_visitors_0 11 rfl rfl)
theorem dX2_visitors_12 : decode cX2_visitors 12 = .ok (.i2l, 1) := dk_133 (dk_at dksX2_visitors_0 12 rfl rfl)
theorem dX2_visitors_13 : decode cX2_visitors 13 = .ok (.lconst 0, 1) := dk_9 (dk_at dksX2_visitors_0 13 rfl rfl)
theorem dX2_visitors_14 : decode cX2_visitors 14 = .ok (.ldc2_w 248, 3) := dk_20 0 248 (dk_at dksX2_visitors_0 14 rfl rfl)
theorem dX2_visitors_17 : decode cX2_visitors 17 = .ok (.invokestatic 52, 3) := dk_184 0 52 (dk_at dksX2_visitors_0 17 rfl rfl)
theorem dX2_visitors_20 : decode cX2_visitors 20 = .ok (.ifCond .eq 7, 3) := dk_153 0 7 (dk_at dksX2_visitors_0 20 rfl rfl)
theorem dX2_visitors_23 : decode cX2_visitors 23 = .ok (.iconst 0, 1) := dk_3 (dk_at dksX2_visitors_0 23 rfl rfl)
theorem dX2_visitors_24 : decode cX2_visitors 24 = .ok (.goto 4, 3) := dk_167 0 4 (dk_at dksX2_visitors_1 0 rfl rfl)
theorem dX2_visitors_27 : decode cX2_visitors 27 = .ok (.iconst 2, 1) := dk_5 (dk_at dksX2_visitors_1 3 rfl rfl)
theorem dX2_visitors_28 : decode cX2_visitors 28 = .ok (.putfield 44, 3) := dk_181 0 44 (dk_at dksX2_visitors_1 4 rfl rfl)
theorem dX2_visitors_31 : decode cX2_visitors 31 = .ok (.aload_n 0, 1) := dk_42 (dk_at dksX2_visitors_1 7 rfl rfl)
theorem dX2_visitors_32 : decode cX2_visitors 32 = .ok (.getfield 44, 3) := dk_180 0 44 (dk_at dksX2_visitors_1 8 rfl rfl)
theorem dX2_visitors_35 : decode cX2_visitors 35 = .ok (.ifCond .le 5, 3) := dk_158 0 5 (dk_at dksX2_visitors_1 11 rfl rfl)
theorem dX2_visitors_38 : decode cX2_visitors 38 = .ok (.iconst 0, 1) := dk_3 (dk_at dksX2_visitors_1 14 rfl rfl)
theorem dX2_visitors_39 : decode cX2_visitors 39 = .ok (.ireturn, 1) := dk_172 (dk_at dksX2_visitors_1 15 rfl rfl)
theorem dX2_visitors_40 : decode cX2_visitors 40 = .ok (.iconst 0, 1) := dk_3 (dk_at dksX2_visitors_1 16 rfl rfl)
theorem dX2_visitors_41 : decode cX2_visitors 41 = .ok (.iload_n 2, 1) := dk_28 (dk_at dksX2_visitors_1 17 rfl rfl)
theorem dX2_visitors_42 : decode cX2_visitors 42 = .ok (.aload_n 0, 1) := dk_42 (dk_at dksX2_visitors_1 18 rfl rfl)
theorem dX2_visitors_43 : decode cX2_visitors 43 = .ok (.getfield 16, 3) := dk_180 0 16 (dk_at dksX2_visitors_1 19 rfl rfl)
theorem dX2_visitors_46 : decode cX2_visitors 46 = .ok (.iload_n 1, 1) := dk_27 (dk_at dksX2_visitors_1 22 rfl rfl)
theorem dX2_visitors_47 : decode cX2_visitors 47 = .ok (.invokevirtual 68, 3) := dk_182 0 68 (dk_at dksX2_visitors_2 0 rfl rfl)
theorem dX2_visitors_50 : decode cX2_visitors 50 = .ok (.checkcast 126, 3) := dk_192 0 126 (dk_at dksX2_visitors_2 3 rfl rfl)
theorem dX2_visitors_53 : decode cX2_visitors 53 = .ok (.getfield 250, 3) := dk_180 0 250 (dk_at dksX2_visitors_2 6 rfl rfl)
theorem dX2_visitors_56 : decode cX2_visitors 56 = .ok (.isub, 1) := dk_100 (dk_at dksX2_visitors_2 9 rfl rfl)
theorem dX2_visitors_57 : decode cX2_visitors 57 = .ok (.invokestatic 204, 3) := dk_184 0 204 (dk_at dksX2_visitors_2 10 rfl rfl)
theorem dX2_visitors_60 : decode cX2_visitors 60 = .ok (.bipush 50, 2) := dk_16 50 (dk_at dksX2_visitors_2 13 rfl rfl)
theorem dX2_visitors_62 : decode cX2_visitors 62 = .ok (.idiv, 1) := dk_108 (dk_at dksX2_visitors_2 15 rfl rfl)
theorem dX2_visitors_63 : decode cX2_visitors 63 = .ok (.istore_n 3, 1) := dk_62 (dk_at dksX2_visitors_2 16 rfl rfl)
theorem dX2_visitors_64 : decode cX2_visitors 64 = .ok (.iconst 0, 1) := dk_3 (dk_at dksX2_visitors_2 17 rfl rfl)
theorem dX2_visitors_65 : decode cX2_visitors 65 = .ok (.istore 4, 2) := dk_54 4 (dk_at dksX2_visitors_2 18 rfl rfl)
theorem dX2_visitors_67 : decode cX2_visitors 67 = .ok (.aload_n 0, 1) := dk_42 (dk_at dksX2_visitors_2 20 rfl rfl)
theorem dX2_visitors_68 : decode cX2_visitors 68 = .ok (.getfield 19, 3) := dk_180 0 19 (dk_at dksX2_visitors_2 21 rfl rfl)
theorem dX2_visitors_71 : decode cX2_visitors 71 = .ok (.invokevirtual 106, 3) := dk_182 0 106 (dk_at dksX2_visitors_3 0 rfl rfl)
theorem dX2_visitors_74 : decode cX2_visitors 74 = .ok (.astore 5, 2) := dk_58 5 (dk_at dksX2_visitors_3 3 rfl rfl)
theorem dX2_visitors_76 : decode cX2_visitors 76 = .ok (.aload 5, 2) := dk_25 5 (dk_at dksX2_visitors_3 5 rfl rfl)
theorem dX2_visitors_78 : decode cX2_visitors 78 = .ok (.invokeinterface 110 1, 5) := by decide +kernel
theorem dX2_visitors_83 : decode cX2_visitors 83 = .ok (.ifCond .eq 61, 3) := dk_153 0 61 (dk_at dksX2_visitors_3 12 rfl rfl)
theorem dX2_visitors_86 : decode cX2_visitors 86 = .ok (.aload 5, 2) := dk_25 5 (dk_at dksX2_visitors_3 15 rfl rfl)
theorem dX2_visitors_88 : decode cX2_visitors 88 = .ok (.invokeinterface 116 1, 5) := by decide +kernel
theorem dX2_visitors_93 : decode cX2_visitors 93 = .ok (.checkcast 64, 3) := dk_192 0 64 (dk_at dksX2_visitors_4 0 rfl rfl)
theorem dX2_visitors_96 : decode cX2_visitors 96 = .ok (.astore 6, 2) := dk_58 6 (dk_at dksX2_visitors_4 3 rfl rfl)
theorem dX2_visitors_98 : decode cX2_visitors 98 = .ok (.iload_n 3, 1) := dk_29 (dk_at dksX2_visitors_4 5 rfl rfl)
theorem dX2_visitors_99 : decode cX2_visitors 99 = .ok (.ifCond .le 42, 3) := dk_158 0 42 (dk_at dksX2_visitors_4 6 rfl rfl)
theorem dX2_visitors_102 : decode cX2_visitors 102 = .ok (.aload_n 0, 1) := dk_42 (dk_at dksX2_visitors_4 9 rfl rfl)
theorem dX2_visitors_103 : decode cX2_visitors 103 = .ok (.aload 6, 2) := dk_25 6 (dk_at dksX2_visitors_4 10 rfl rfl)
theorem dX2_visitors_105 : decode cX2_visitors 105 = .ok (.bipush 114, 2) := dk_16 114 (dk_at dksX2_visitors_4 12 rfl rfl)
theorem dX2_visitors_107 : decode cX2_visitors 107 = .ok (.iload_n 1, 1) := dk_27 (dk_at dksX2_visitors_4 14 rfl rfl)
theorem dX2_visitors_108 : decode cX2_visitors 108 = .ok (.invokevirtual 253, 3) := dk_182 0 253 (dk_at dksX2_visitors_4 15 rfl rfl)
theorem dX2_visitors_111 : decode cX2_visitors 111 = .ok (.ifCond .eq 30, 3) := dk_153 0 30 (dk_at dksX2_visitors_4 18 rfl rfl)
theorem dX2_visitors_114 : decode cX2_visitors 114 = .ok (.aload_n 0, 1) := dk_42 (dk_at dksX2_visitors_4 21 rfl rfl)
theorem dX2_visitors_115 : decode cX2_visitors 115 = .ok (.aload 6, 2) := dk_25 6 (dk_at dksX2_visitors_4 22 rfl rfl)
theorem dX2_visitors_117 : decode cX2_visitors 117 = .ok (.invokevirtual 72, 3) := dk_182 0 72 (dk_at dksX2_visitors_5 0 rfl rfl)
theorem dX2_visitors_120 : decode cX2_visitors 120 = .ok (.getfield 257, 3) := dk_180 1 1 (dk_at dksX2_visitors_5 3 rfl rfl)
theorem dX2_visitors_123 : decode cX2_visitors 123 = .ok (.ifCond .ne 18, 3) := dk_154 0 18 (dk_at dksX2_visitors_5 6 rfl rfl)
theorem dX2_visitors_126 : decode cX2_visitors 126 = .ok (.iinc 4 1, 3) := dk_132 4 1 (dk_at dksX2_visitors_5 9 rfl rfl)
theorem dX2_visitors_129 : decode cX2_visitors 129 = .ok (.aload_n 0, 1) := dk_42 (dk_at dksX2_visitors_5 12 rfl rfl)
theorem dX2_visitors_130 : decode cX2_visitors 130 = .ok (.aload 6, 2) := dk_25 6 (dk_at dksX2_visitors_5 13 rfl rfl)
theorem dX2_visitors_132 : decode cX2_visitors 132 = .ok (.bipush 104, 2) := dk_16 104 (dk_at dksX2_visitors_5 15 rfl rfl)
theorem dX2_visitors_134 : decode cX2_visitors 134 = .ok (.iload_n 3, 1) := dk_29 (dk_at dksX2_visitors_5 17 rfl rfl)
theorem dX2_visitors_135 : decode cX2_visitors 135 = .ok (.iconst 0, 1) := dk_3 (dk_at dksX2_visitors_5 18 rfl rfl)
theorem dX2_visitors_136 : decode cX2_visitors 136 = .ok (.invokevirtual 223, 3) := dk_182 0 223 (dk_at dksX2_visitors_5 19 rfl rfl)
theorem dX2_visitors_139 : decode cX2_visitors 139 = .ok (.istore 7, 2) := dk_54 7 (dk_at dksX2_visitors_5 22 rfl rfl)
theorem dX2_visitors_141 : decode cX2_visitors 141 = .ok (.goto (-65), 3) := dk_167 255 191 (dk_at dksX2_visitors_6 0 rfl rfl)
theorem dX2_visitors_144 : decode cX2_visitors 144 = .ok (.aload_n 0, 1) := dk_42 (dk_at dksX2_visitors_6 3 rfl rfl)
theorem dX2_visitors_145 : decode cX2_visitors 145 = .ok (.getfield 16, 3) := dk_180 0 16 (dk_at dksX2_visitors_6 4 rfl rfl)
theorem dX2_visitors_148 : decode cX2_visitors 148 = .ok (.iload_n 1, 1) := dk_27 (dk_at dksX2_visitors_6 7 rfl rfl)
theorem dX2_visitors_149 : decode cX2_visitors 149 = .ok (.invokevirtual 68, 3) := dk_182 0 68 (dk_at dksX2_visitors_6 8 rfl rfl)
theorem dX2_visitors_152 : decode cX2_visitors 152 = .ok (.checkcast 126, 3) := dk_192 0 126 (dk_at dksX2_visitors_6 11 rfl rfl)
theorem dX2_visitors_155 : decode cX2_visitors 155 = .ok (.dup, 1) := dk_89 (dk_at dksX2_visitors_6 14 rfl rfl)
theorem dX2_visitors_156 : decode cX2_visitors 156 = .ok (.getfield 261, 3) := dk_180 1 5 (dk_at dksX2_visitors_6 15 rfl rfl)
theorem dX2_visitors_159 : decode cX2_visitors 159 = .ok (.iload_n 3, 1) := dk_29 (dk_at dksX2_visitors_6 18 rfl rfl)
theorem dX2_visitors_160 : decode cX2_visitors 160 = .ok (.ifCond .le 7, 3) := dk_158 0 7 (dk_at dksX2_visitors_6 19 rfl rfl)
theorem dX2_visitors_163 : decode cX2_visitors 163 = .ok (.iconst 1, 1) := dk_4 (dk_at dksX2_visitors_6 22 rfl rfl)
theorem dX2_visitors_164 : decode cX2_visitors 164 = .ok (.goto 4, 3) := dk_167 0 4 (dk_at dksX2_visitors_7 0 rfl rfl)
theorem dX2_visitors_167 : decode cX2_visitors 167 = .ok (.iconst 0, 1) := dk_3 (dk_at dksX2_visitors_7 3 rfl rfl)
theorem dX2_visitors_168 : decode cX2_visitors 168 = .ok (.iadd, 1) := dk_96 (dk_at dksX2_visitors_7 4 rfl rfl)
theorem dX2_visitors_169 : decode cX2_visitors 169 = .ok (.putfield 261, 3) := dk_181 1 5 (dk_at dksX2_visitors_7 5 rfl rfl)
theorem dX2_visitors_172 : decode cX2_visitors 172 = .ok (.iload 4, 2) := dk_21 4 (dk_at dksX2_visitors_7 8 rfl rfl)
theorem dX2_visitors_174 : decode cX2_visitors 174 = .ok (.ireturn, 1) := dk_172 (dk_at dksX2_visitors_7 10 rfl rfl)
abbrev cX2_isIn : ByteArray := prog_17_method_9_code
def yX2_isIn : MethodName := ⟨RX2, "isIn", "(LVaultyardModel$Thing;CI)Z"⟩
def dkwX2_isIn_1 : List UInt8 := [4, 167, 0, 4, 3, 172]
abbrev dktX2_isIn_1 : List UInt8 := dkwX2_isIn_1 ++ []
def dkwX2_isIn_0 : List UInt8 := [42, 43, 182, 0, 72, 180, 0, 76, 28, 160, 0, 19, 42, 43, 182, 0, 72, 180, 0, 80, 29, 160, 0, 7]
abbrev dktX2_isIn_0 : List UInt8 := dkwX2_isIn_0 ++ dktX2_isIn_1
theorem dksX2_isIn_0 : cX2_isIn.data.toList.drop 0 = dktX2_isIn_0 := by decide +kernel
theorem dksX2_isIn_1 : cX2_isIn.data.toList.drop 24 = dktX2_isIn_1 := dk_seg dksX2_isIn_0 24 rfl rfl
theorem dX2_isIn_0 : decode cX2_isIn 0 = .ok (.aload_n 0, 1) := dk_42 (dk_at dksX2_isIn_0 0 rfl rfl)
theorem dX2_isIn_1 : decode cX2_isIn 1 = .ok (.aload_n 1, 1) := dk_43 (dk_at dksX2_isIn_0 1 rfl rfl)
theorem dX2_isIn_2 : decode cX2_isIn 2 = .ok (.invokevirtual 72, 3) := dk_182 0 72 (dk_at dksX2_isIn_0 2 rfl rfl)
theorem dX2_isIn_5 : decode cX2_isIn 5 = .ok (.getfield 76, 3) := dk_180 0 76 (dk_at dksX2_isIn_0 5 rfl rfl)
theorem dX2_isIn_8 : decode cX2_isIn 8 = .ok (.iload_n 2, 1) := dk_28 (dk_at dksX2_isIn_0 8 rfl rfl)
theorem dX2_isIn_9 : decode cX2_isIn 9 = .ok (.if_icmp .ne 19, 3) := dk_160 0 19 (dk_at dksX2_isIn_0 9 rfl rfl)
theorem dX2_isIn_12 : decode cX2_isIn 12 = .ok (.aload_n 0, 1) := dk_42 (dk_at dksX2_isIn_0 12 rfl rfl)
theorem dX2_isIn_13 : decode cX2_isIn 13 = .ok (.aload_n 1, 1) := dk_43 (dk_at dksX2_isIn_0 13 rfl rfl)
theorem dX2_isIn_14 : decode cX2_isIn 14 = .ok (.invokevirtual 72, 3) := dk_182 0 72 (dk_at dksX2_isIn_0 14 rfl rfl)
theorem dX2_isIn_17 : decode cX2_isIn 17 = .ok (.getfield 80, 3) := dk_180 0 80 (dk_at dksX2_isIn_0 17 rfl rfl)
theorem dX2_isIn_20 : decode cX2_isIn 20 = .ok (.iload_n 3, 1) := dk_29 (dk_at dksX2_isIn_0 20 rfl rfl)
theorem dX2_isIn_21 : decode cX2_isIn 21 = .ok (.if_icmp .ne 7, 3) := dk_160 0 7 (dk_at dksX2_isIn_0 21 rfl rfl)
theorem dX2_isIn_24 : decode cX2_isIn 24 = .ok (.iconst 1, 1) := dk_4 (dk_at dksX2_isIn_1 0 rfl rfl)
theorem dX2_isIn_25 : decode cX2_isIn 25 = .ok (.goto 4, 3) := dk_167 0 4 (dk_at dksX2_isIn_1 1 rfl rfl)
theorem dX2_isIn_28 : decode cX2_isIn 28 = .ok (.iconst 0, 1) := dk_3 (dk_at dksX2_isIn_1 4 rfl rfl)
theorem dX2_isIn_29 : decode cX2_isIn 29 = .ok (.ireturn, 1) := dk_172 (dk_at dksX2_isIn_1 5 rfl rfl)
abbrev cX2_crowd : ByteArray := prog_17_method_38_code
def yX2_crowd : MethodName := ⟨RX2, "crowd", "(II)I"⟩
def dkwX2_crowd_2 : List UInt8 := [192, 0, 126, 180, 0, 250, 62, 42, 180, 0, 16, 27, 182, 0, 68, 192, 0, 126, 28, 181, 0, 250, 29, 172]
abbrev dktX2_crowd_2 : List UInt8 := dkwX2_crowd_2 ++ []
def dkwX2_crowd_1 : List UInt8 := [167, 0, 4, 5, 181, 0, 44, 42, 180, 0, 44, 158, 0, 5, 3, 172, 42, 180, 0, 16, 27, 182, 0, 68]
abbrev dktX2_crowd_1 : List UInt8 := dkwX2_crowd_1 ++ dktX2_crowd_2
def dkwX2_crowd_0 : List UInt8 := [42, 27, 182, 0, 147, 153, 0, 5, 3, 172, 42, 28, 133, 9, 20, 0, 248, 184, 0, 52, 153, 0, 7, 3]
abbrev dktX2_crowd_0 : List UInt8 := dkwX2_crowd_0 ++ dktX2_crowd_1
theorem dksX2_crowd_0 : cX2_crowd.data.toList.drop 0 = dktX2_crowd_0 := by decide +kernel
theorem dksX2_crowd_1 : cX2_crowd.data.toList.drop 24 = dktX2_crowd_1 := dk_seg dksX2_crowd_0 24 rfl rfl
theorem dksX2_crowd_2 : cX2_crowd.data.toList.drop 48 = dktX2_crowd_2 := dk_seg dksX2_crowd_1 24 rfl rfl
theorem dX2_crowd_0 : decode cX2_crowd 0 = .ok (.aload_n 0, 1) := dk_42 (dk_at dksX2_crowd_0 0 rfl rfl)
theorem dX2_crowd_1 : decode cX2_crowd 1 = .ok (.iload_n 1, 1) := dk_27 (dk_at dksX2_crowd_0 1 rfl rfl)
theorem dX2_crowd_2 : decode cX2_crowd 2 = .ok (.invokevirtual 147, 3) := dk_182 0 147 (dk_at dksX2_crowd_0 2 rfl rfl)
theorem dX2_crowd_5 : decode cX2_crowd 5 = .ok (.ifCond .eq 5, 3) := dk_153 0 5 (dk_at dksX2_crowd_0 5 rfl rfl)
theorem dX2_crowd_8 : decode cX2_crowd 8 = .ok (.iconst 0, 1) := dk_3 (dk_at dksX2_crowd_0 8 rfl rfl)
theorem dX2_crowd_9 : decode cX2_crowd 9 = .ok (.ireturn, 1) := dk_172 (dk_at dksX2_crowd_0 9 rfl rfl)
theorem dX2_crowd_10 : decode cX2_crowd 10 = .ok (.aload_n 0, 1) := dk_42 (dk_at dksX2_crowd_0 10 rfl rfl)
theorem dX2_crowd_11 : decode cX2_crowd 11 = .ok (.iload_n 2, 1) := dk_28 (dk_at dksX2_crowd_0 11 rfl rfl)
theorem dX2_crowd_12 : decode cX2_crowd 12 = .ok (.i2l, 1) := dk_133 (dk_at dksX2_crowd_0 12 rfl rfl)
theorem dX2_crowd_13 : decode cX2_crowd 13 = .ok (.lconst 0, 1) := dk_9 (dk_at dksX2_crowd_0 13 rfl rfl)
theorem dX2_crowd_14 : decode cX2_crowd 14 = .ok (.ldc2_w 248, 3) := dk_20 0 248 (dk_at dksX2_crowd_0 14 rfl rfl)
theorem dX2_crowd_17 : decode cX2_crowd 17 = .ok (.invokestatic 52, 3) := dk_184 0 52 (dk_at dksX2_crowd_0 17 rfl rfl)
theorem dX2_crowd_20 : decode cX2_crowd 20 = .ok (.ifCond .eq 7, 3) := dk_153 0 7 (dk_at dksX2_crowd_0 20 rfl rfl)
theorem dX2_crowd_23 : decode cX2_crowd 23 = .ok (.iconst 0, 1) := dk_3 (dk_at dksX2_crowd_0 23 rfl rfl)
theorem dX2_crowd_24 : decode cX2_crowd 24 = .ok (.goto 4, 3) := dk_167 0 4 (dk_at dksX2_crowd_1 0 rfl rfl)
theorem dX2_crowd_27 : decode cX2_crowd 27 = .ok (.iconst 2, 1) := dk_5 (dk_at dksX2_crowd_1 3 rfl rfl)
theorem dX2_crowd_28 : decode cX2_crowd 28 = .ok (.putfield 44, 3) := dk_181 0 44 (dk_at dksX2_crowd_1 4 rfl rfl)
theorem dX2_crowd_31 : decode cX2_crowd 31 = .ok (.aload_n 0, 1) := dk_42 (dk_at dksX2_crowd_1 7 rfl rfl)
theorem dX2_crowd_32 : decode cX2_crowd 32 = .ok (.getfield 44, 3) := dk_180 0 44 (dk_at dksX2_crowd_1 8 rfl rfl)
theorem dX2_crowd_35 : decode cX2_crowd 35 = .ok (.ifCond .le 5, 3) := dk_158 0 5 (dk_at dksX2_crowd_1 11 rfl rfl)
theorem dX2_crowd_38 : decode cX2_crowd 38 = .ok (.iconst 0, 1) := dk_3 (dk_at dksX2_crowd_1 14 rfl rfl)
theorem dX2_crowd_39 : decode cX2_crowd 39 = .ok (.ireturn, 1) := dk_172 (dk_at dksX2_crowd_1 15 rfl rfl)
theorem dX2_crowd_40 : decode cX2_crowd 40 = .ok (.aload_n 0, 1) := dk_42 (dk_at dksX2_crowd_1 16 rfl rfl)
theorem dX2_crowd_41 : decode cX2_crowd 41 = .ok (.getfield 16, 3) := dk_180 0 16 (dk_at dksX2_crowd_1 17 rfl rfl)
theorem dX2_crowd_44 : decode cX2_crowd 44 = .ok (.iload_n 1, 1) := dk_27 (dk_at dksX2_crowd_1 20 rfl rfl)
theorem dX2_crowd_45 : decode cX2_crowd 45 = .ok (.invokevirtual 68, 3) := dk_182 0 68 (dk_at dksX2_crowd_1 21 rfl rfl)
theorem dX2_crowd_48 : decode cX2_crowd 48 = .ok (.checkcast 126, 3) := dk_192 0 126 (dk_at dksX2_crowd_2 0 rfl rfl)
theorem dX2_crowd_51 : decode cX2_crowd 51 = .ok (.getfield 250, 3) := dk_180 0 250 (dk_at dksX2_crowd_2 3 rfl rfl)
theorem dX2_crowd_54 : decode cX2_crowd 54 = .ok (.istore_n 3, 1) := dk_62 (dk_at dksX2_crowd_2 6 rfl rfl)
theorem dX2_crowd_55 : decode cX2_crowd 55 = .ok (.aload_n 0, 1) := dk_42 (dk_at dksX2_crowd_2 7 rfl rfl)
theorem dX2_crowd_56 : decode cX2_crowd 56 = .ok (.getfield 16, 3) := dk_180 0 16 (dk_at dksX2_crowd_2 8 rfl rfl)
theorem dX2_crowd_59 : decode cX2_crowd 59 = .ok (.iload_n 1, 1) := dk_27 (dk_at dksX2_crowd_2 11 rfl rfl)
theorem dX2_crowd_60 : decode cX2_crowd 60 = .ok (.invokevirtual 68, 3) := dk_182 0 68 (dk_at dksX2_crowd_2 12 rfl rfl)
theorem dX2_crowd_63 : decode cX2_crowd 63 = .ok (.checkcast 126, 3) := dk_192 0 126 (dk_at dksX2_crowd_2 15 rfl rfl)
theorem dX2_crowd_66 : decode cX2_crowd 66 = .ok (.iload_n 2, 1) := dk_28 (dk_at dksX2_crowd_2 18 rfl rfl)
theorem dX2_crowd_67 : decode cX2_crowd 67 = .ok (.putfield 250, 3) := dk_181 0 250 (dk_at dksX2_crowd_2 19 rfl rfl)
theorem dX2_crowd_70 : decode cX2_crowd 70 = .ok (.iload_n 3, 1) := dk_29 (dk_at dksX2_crowd_2 22 rfl rfl)
theorem dX2_crowd_71 : decode cX2_crowd 71 = .ok (.ireturn, 1) := dk_172 (dk_at dksX2_crowd_2 23 rfl rfl)
abbrev cX2_alarms : ByteArray := prog_17_method_39_code
def yX2_alarms : MethodName := ⟨RX2, "alarms", "(I)I"⟩
def dkwX2_alarms_1 : List UInt8 := [180, 1, 5, 172]
abbrev dktX2_alarms_1 : List UInt8 := dkwX2_alarms_1 ++ []
def dkwX2_alarms_0 : List UInt8 := [42, 27, 182, 0, 147, 153, 0, 7, 3, 167, 0, 17, 42, 180, 0, 16, 27, 182, 0, 68, 192, 0, 126]
abbrev dktX2_alarms_0 : List UInt8 := dkwX2_alarms_0 ++ dktX2_alarms_1
theorem dksX2_alarms_0 : cX2_alarms.data.toList.drop 0 = dktX2_alarms_0 := by decide +kernel
theorem dksX2_alarms_1 : cX2_alarms.data.toList.drop 23 = dktX2_alarms_1 := dk_seg dksX2_alarms_0 23 rfl rfl
theorem dX2_alarms_0 : decode cX2_alarms 0 = .ok (.aload_n 0, 1) := dk_42 (dk_at dksX2_alarms_0 0 rfl rfl)
theorem dX2_alarms_1 : decode cX2_alarms 1 = .ok (.iload_n 1, 1) := dk_27 (dk_at dksX2_alarms_0 1 rfl rfl)
theorem dX2_alarms_2 : decode cX2_alarms 2 = .ok (.invokevirtual 147, 3) := dk_182 0 147 (dk_at dksX2_alarms_0 2 rfl rfl)
theorem dX2_alarms_5 : decode cX2_alarms 5 = .ok (.ifCond .eq 7, 3) := dk_153 0 7 (dk_at dksX2_alarms_0 5 rfl rfl)
theorem dX2_alarms_8 : decode cX2_alarms 8 = .ok (.iconst 0, 1) := dk_3 (dk_at dksX2_alarms_0 8 rfl rfl)
theorem dX2_alarms_9 : decode cX2_alarms 9 = .ok (.goto 17, 3) := dk_167 0 17 (dk_at dksX2_alarms_0 9 rfl rfl)
theorem dX2_alarms_12 : decode cX2_alarms 12 = .ok (.aload_n 0, 1) := dk_42 (dk_at dksX2_alarms_0 12 rfl rfl)
theorem dX2_alarms_13 : decode cX2_alarms 13 = .ok (.getfield 16, 3) := dk_180 0 16 (dk_at dksX2_alarms_0 13 rfl rfl)
theorem dX2_alarms_16 : decode cX2_alarms 16 = .ok (.iload_n 1, 1) := dk_27 (dk_at dksX2_alarms_0 16 rfl rfl)
theorem dX2_alarms_17 : decode cX2_alarms 17 = .ok (.invokevirtual 68, 3) := dk_182 0 68 (dk_at dksX2_alarms_0 17 rfl rfl)
theorem dX2_alarms_20 : decode cX2_alarms 20 = .ok (.checkcast 126, 3) := dk_192 0 126 (dk_at dksX2_alarms_0 20 rfl rfl)
theorem dX2_alarms_23 : decode cX2_alarms 23 = .ok (.getfield 261, 3) := dk_180 1 5 (dk_at dksX2_alarms_1 0 rfl rfl)
theorem dX2_alarms_26 : decode cX2_alarms 26 = .ok (.ireturn, 1) := dk_172 (dk_at dksX2_alarms_1 3 rfl rfl)
abbrev cX2_encase : ByteArray := prog_17_method_40_code
def yX2_encase : MethodName := ⟨RX2, "encase", "(IZ)Z"⟩
def dkwX2_encase_2 : List UInt8 := [42, 180, 0, 44, 158, 0, 5, 3, 172, 45, 180, 1, 1, 54, 4, 45, 28, 181, 1, 1, 21, 4, 172]
abbrev dktX2_encase_2 : List UInt8 := dkwX2_encase_2 ++ []
def dkwX2_encase_1 : List UInt8 := [180, 0, 63, 2, 160, 0, 12, 45, 180, 0, 76, 16, 103, 160, 0, 7, 5, 167, 0, 4, 3, 181, 0, 44]
abbrev dktX2_encase_1 : List UInt8 := dkwX2_encase_1 ++ dktX2_encase_2
def dkwX2_encase_0 : List UInt8 := [42, 27, 182, 0, 185, 153, 0, 5, 3, 172, 42, 180, 0, 19, 27, 182, 0, 68, 192, 0, 64, 78, 42, 45]
abbrev dktX2_encase_0 : List UInt8 := dkwX2_encase_0 ++ dktX2_encase_1
theorem dksX2_encase_0 : cX2_encase.data.toList.drop 0 = dktX2_encase_0 := by decide +kernel
theorem dksX2_encase_1 : cX2_encase.data.toList.drop 24 = dktX2_encase_1 := dk_seg dksX2_encase_0 24 rfl rfl
theorem dksX2_encase_2 : cX2_encase.data.toList.drop 48 = dktX2_encase_2 := dk_seg dksX2_encase_1 24 rfl rfl
theorem dX2_encase_0 : decode cX2_encase 0 = .ok (.aload_n 0, 1) := dk_42 (dk_at dksX2_encase_0 0 rfl rfl)
theorem dX2_encase_1 : decode cX2_encase 1 = .ok (.iload_n 1, 1) := dk_27 (dk_at dksX2_encase_0 1 rfl rfl)
theorem dX2_encase_2 : decode cX2_encase 2 = .ok (.invokevirtual 185, 3) := dk_182 0 185 (dk_at dksX2_encase_0 2 rfl rfl)
theorem dX2_encase_5 : decode cX2_encase 5 = .ok (.ifCond .eq 5, 3) := dk_153 0 5 (dk_at dksX2_encase_0 5 rfl rfl)
theorem dX2_encase_8 : decode cX2_encase 8 = .ok (.iconst 0, 1) := dk_3 (dk_at dksX2_encase_0 8 rfl rfl)
theorem dX2_encase_9 : decode cX2_encase 9 = .ok (.ireturn, 1) := dk_172 (dk_at dksX2_encase_0 9 rfl rfl)
theorem dX2_encase_10 : decode cX2_encase 10 = .ok (.aload_n 0, 1) := dk_42 (dk_at dksX2_encase_0 10 rfl rfl)
theorem dX2_encase_11 : decode cX2_encase 11 = .ok (.getfield 19, 3) := dk_180 0 19 (dk_at dksX2_encase_0 11 rfl rfl)
theorem dX2_encase_14 : decode cX2_encase 14 = .ok (.iload_n 1, 1) := dk_27 (dk_at dksX2_encase_0 14 rfl rfl)
theorem dX2_encase_15 : decode cX2_encase 15 = .ok (.invokevirtual 68, 3) := dk_182 0 68 (dk_at dksX2_encase_0 15 rfl rfl)
theorem dX2_encase_18 : decode cX2_encase 18 = .ok (.checkcast 64, 3) := dk_192 0 64 (dk_at dksX2_encase_0 18 rfl rfl)
theorem dX2_encase_21 : decode cX2_encase 21 = .ok (.astore_n 3, 1) := dk_78 (dk_at dksX2_encase_0 21 rfl rfl)
theorem dX2_encase_22 : decode cX2_encase 22 = .ok (.aload_n 0, 1) := dk_42 (dk_at dksX2_encase_0 22 rfl rfl)
theorem dX2_encase_23 : decode cX2_encase 23 = .ok (.aload_n 3, 1) := dk_45 (dk_at dksX2_encase_0 23 rfl rfl)
theorem dX2_encase_24 : decode cX2_encase 24 = .ok (.getfield 63, 3) := dk_180 0 63 (dk_at dksX2_encase_1 0 rfl rfl)
theorem dX2_encase_27 : decode cX2_encase 27 = .ok (.iconst (-1), 1) := dk_2 (dk_at dksX2_encase_1 3 rfl rfl)
theorem dX2_encase_28 : decode cX2_encase 28 = .ok (.if_icmp .ne 12, 3) := dk_160 0 12 (dk_at dksX2_encase_1 4 rfl rfl)
theorem dX2_encase_31 : decode cX2_encase 31 = .ok (.aload_n 3, 1) := dk_45 (dk_at dksX2_encase_1 7 rfl rfl)
theorem dX2_encase_32 : decode cX2_encase 32 = .ok (.getfield 76, 3) := dk_180 0 76 (dk_at dksX2_encase_1 8 rfl rfl)
theorem dX2_encase_35 : decode cX2_encase 35 = .ok (.bipush 103, 2) := dk_16 103 (dk_at dksX2_encase_1 11 rfl rfl)
theorem dX2_encase_37 : decode cX2_encase 37 = .ok (.if_icmp .ne 7, 3) := dk_160 0 7 (dk_at dksX2_encase_1 13 rfl rfl)
theorem dX2_encase_40 : decode cX2_encase 40 = .ok (.iconst 2, 1) := dk_5 (dk_at dksX2_encase_1 16 rfl rfl)
theorem dX2_encase_41 : decode cX2_encase 41 = .ok (.goto 4, 3) := dk_167 0 4 (dk_at dksX2_encase_1 17 rfl rfl)
theorem dX2_encase_44 : decode cX2_encase 44 = .ok (.iconst 0, 1) := dk_3 (dk_at dksX2_encase_1 20 rfl rfl)
theorem dX2_encase_45 : decode cX2_encase 45 = .ok (.putfield 44, 3) := dk_181 0 44 (dk_at dksX2_encase_1 21 rfl rfl)
theorem dX2_encase_48 : decode cX2_encase 48 = .ok (.aload_n 0, 1) := dk_42 (dk_at dksX2_encase_2 0 rfl rfl)
theorem dX2_encase_49 : decode cX2_encase 49 = .ok (.getfield 44, 3) := dk_180 0 44 (dk_at dksX2_encase_2 1 rfl rfl)
theorem dX2_encase_52 : decode cX2_encase 52 = .ok (.ifCond .le 5, 3) := dk_158 0 5 (dk_at dksX2_encase_2 4 rfl rfl)
theorem dX2_encase_55 : decode cX2_encase 55 = .ok (.iconst 0, 1) := dk_3 (dk_at dksX2_encase_2 7 rfl rfl)
theorem dX2_encase_56 : decode cX2_encase 56 = .ok (.ireturn, 1) := dk_172 (dk_at dksX2_encase_2 8 rfl rfl)
theorem dX2_encase_57 : decode cX2_encase 57 = .ok (.aload_n 3, 1) := dk_45 (dk_at dksX2_encase_2 9 rfl rfl)
theorem dX2_encase_58 : decode cX2_encase 58 = .ok (.getfield 257, 3) := dk_180 1 1 (dk_at dksX2_encase_2 10 rfl rfl)
theorem dX2_encase_61 : decode cX2_encase 61 = .ok (.istore 4, 2) := dk_54 4 (dk_at dksX2_encase_2 13 rfl rfl)
theorem dX2_encase_63 : decode cX2_encase 63 = .ok (.aload_n 3, 1) := dk_45 (dk_at dksX2_encase_2 15 rfl rfl)
theorem dX2_encase_64 : decode cX2_encase 64 = .ok (.iload_n 2, 1) := dk_28 (dk_at dksX2_encase_2 16 rfl rfl)
theorem dX2_encase_65 : decode cX2_encase 65 = .ok (.putfield 257, 3) := dk_181 1 1 (dk_at dksX2_encase_2 17 rfl rfl)
theorem dX2_encase_68 : decode cX2_encase 68 = .ok (.iload 4, 2) := dk_21 4 (dk_at dksX2_encase_2 20 rfl rfl)
theorem dX2_encase_70 : decode cX2_encase 70 = .ok (.ireturn, 1) := dk_172 (dk_at dksX2_encase_2 22 rfl rfl)
abbrev cX2_lend : ByteArray := prog_17_method_45_code
def yX2_lend : MethodName := ⟨RX2, "lend", "(III)I"⟩
def dkwX2_lend_10 : List UInt8 := [21, 6, 183, 1, 34, 182, 0, 89, 87, 42, 180, 0, 22, 182, 0, 48, 4, 100, 172]
abbrev dktX2_lend_10 : List UInt8 := dkwX2_lend_10 ++ []
def dkwX2_lend_9 : List UInt8 := [180, 0, 22, 182, 0, 48, 182, 0, 102, 42, 180, 0, 22, 187, 1, 32, 89, 27, 42, 180, 0, 86, 29, 96]
abbrev dktX2_lend_9 : List UInt8 := dkwX2_lend_9 ++ dktX2_lend_10
def dkwX2_lend_8 : List UInt8 := [180, 0, 86, 184, 1, 28, 182, 0, 89, 87, 25, 4, 16, 108, 181, 0, 76, 42, 25, 4, 16, 111, 42]
abbrev dktX2_lend_8 : List UInt8 := dkwX2_lend_8 ++ dktX2_lend_9
def dkwX2_lend_7 : List UInt8 := [182, 0, 68, 192, 0, 180, 3, 92, 46, 42, 27, 29, 182, 1, 22, 100, 79, 42, 180, 0, 25, 42]
abbrev dktX2_lend_7 : List UInt8 := dkwX2_lend_7 ++ dktX2_lend_8
def dkwX2_lend_6 : List UInt8 := [167, 0, 4, 3, 181, 0, 44, 42, 180, 0, 44, 158, 0, 5, 3, 172, 42, 180, 0, 37, 21, 6]
abbrev dktX2_lend_6 : List UInt8 := dkwX2_lend_6 ++ dktX2_lend_7
def dkwX2_lend_5 : List UInt8 := [42, 27, 29, 182, 1, 22, 182, 1, 25, 167, 0, 4, 2, 54, 6, 42, 21, 6, 2, 160, 0, 7, 6]
abbrev dktX2_lend_5 : List UInt8 := dkwX2_lend_5 ++ dktX2_lend_6
def dkwX2_lend_4 : List UInt8 := [162, 0, 14, 42, 182, 1, 19, 158, 0, 7, 4, 167, 0, 4, 3, 54, 5, 21, 5, 153, 0, 17, 42, 4]
abbrev dktX2_lend_4 : List UInt8 := dkwX2_lend_4 ++ dktX2_lend_5
def dkwX2_lend_3 : List UInt8 := [160, 0, 36, 25, 4, 180, 0, 76, 16, 114, 160, 0, 26, 42, 180, 0, 22, 182, 0, 48, 16, 12]
abbrev dktX2_lend_3 : List UInt8 := dkwX2_lend_3 ++ dktX2_lend_4
def dkwX2_lend_2 : List UInt8 := [158, 0, 5, 3, 172, 42, 180, 0, 19, 27, 182, 0, 68, 192, 0, 64, 58, 4, 25, 4, 180, 0, 63, 2]
abbrev dktX2_lend_2 : List UInt8 := dkwX2_lend_2 ++ dktX2_lend_3
def dkwX2_lend_1 : List UInt8 := [133, 10, 20, 0, 233, 184, 0, 52, 153, 0, 7, 3, 167, 0, 4, 5, 181, 0, 44, 42, 180, 0, 44]
abbrev dktX2_lend_1 : List UInt8 := dkwX2_lend_1 ++ dktX2_lend_2
def dkwX2_lend_0 : List UInt8 := [42, 27, 182, 0, 185, 153, 0, 5, 3, 172, 42, 28, 133, 9, 20, 0, 156, 184, 0, 52, 153, 0, 19, 29]
abbrev dktX2_lend_0 : List UInt8 := dkwX2_lend_0 ++ dktX2_lend_1
theorem dksX2_lend_0 : cX2_lend.data.toList.drop 0 = dktX2_lend_0 := by decide +kernel
theorem dksX2_lend_1 : cX2_lend.data.toList.drop 24 = dktX2_lend_1 := dk_seg dksX2_lend_0 24 rfl rfl
theorem dksX2_lend_2 : cX2_lend.data.toList.drop 47 = dktX2_lend_2 := dk_seg dksX2_lend_1 23 rfl rfl
theorem dksX2_lend_3 : cX2_lend.data.toList.drop 71 = dktX2_lend_3 := dk_seg dksX2_lend_2 24 rfl rfl
theorem dksX2_lend_4 : cX2_lend.data.toList.drop 93 = dktX2_lend_4 := dk_seg dksX2_lend_3 22 rfl rfl
theorem dksX2_lend_5 : cX2_lend.data.toList.drop 117 = dktX2_lend_5 := dk_seg dksX2_lend_4 24 rfl rfl
theorem dksX2_lend_6 : cX2_lend.data.toList.drop 140 = dktX2_lend_6 := dk_seg dksX2_lend_5 23 rfl rfl
theorem dksX2_lend_7 : cX2_lend.data.toList.drop 162 = dktX2_lend_7 := dk_seg dksX2_lend_6 22 rfl rfl
theorem dksX2_lend_8 : cX2_lend.data.toList.drop 184 = dktX2_lend_8 := dk_seg dksX2_lend_7 22 rfl rfl
theorem dksX2_lend_9 : cX2_lend.data.toList.drop 207 = dktX2_lend_9 := dk_seg dksX2_lend_8 23 rfl rfl
theorem dksX2_lend_10 : cX2_lend.data.toList.drop 231 = dktX2_lend_10 := dk_seg dksX2_lend_9 24 rfl rfl
theorem dX2_lend_0 : decode cX2_lend 0 = .ok (.aload_n 0, 1) := dk_42 (dk_at dksX2_lend_0 0 rfl rfl)
theorem dX2_lend_1 : decode cX2_lend 1 = .ok (.iload_n 1, 1) := dk_27 (dk_at dksX2_lend_0 1 rfl rfl)
theorem dX2_lend_2 : decode cX2_lend 2 = .ok (.invokevirtual 185, 3) := dk_182 0 185 (dk_at dksX2_lend_0 2 rfl rfl)
theorem dX2_lend_5 : decode cX2_lend 5 = .ok (.ifCond .eq 5, 3) := dk_153 0 5 (dk_at dksX2_lend_0 5 rfl rfl)
theorem dX2_lend_8 : decode cX2_lend 8 = .ok (.iconst 0, 1) := dk_3 (dk_at dksX2_lend_0 8 rfl rfl)
theorem dX2_lend_9 : decode cX2_lend 9 = .ok (.ireturn, 1) := dk_172 (dk_at dksX2_lend_0 9 rfl rfl)
theorem dX2_lend_10 : decode cX2_lend 10 = .ok (.aload_n 0, 1) := dk_42 (dk_at dksX2_lend_0 10 rfl rfl)
theorem dX2_lend_11 : decode cX2_lend 11 = .ok (.iload_n 2, 1) := dk_28 (dk_at dksX2_lend_0 11 rfl rfl)
theorem dX2_lend_12 : decode cX2_lend 12 = .ok (.i2l, 1) := dk_133 (dk_at dksX2_lend_0 12 rfl rfl)
theorem dX2_lend_13 : decode cX2_lend 13 = .ok (.lconst 0, 1) := dk_9 (dk_at dksX2_lend_0 13 rfl rfl)
theorem dX2_lend_14 : decode cX2_lend 14 = .ok (.ldc2_w 156, 3) := dk_20 0 156 (dk_at dksX2_lend_0 14 rfl rfl)
theorem dX2_lend_17 : decode cX2_lend 17 = .ok (.invokestatic 52, 3) := dk_184 0 52 (dk_at dksX2_lend_0 17 rfl rfl)
theorem dX2_lend_20 : decode cX2_lend 20 = .ok (.ifCond .eq 19, 3) := dk_153 0 19 (dk_at dksX2_lend_0 20 rfl rfl)
theorem dX2_lend_23 : decode cX2_lend 23 = .ok (.iload_n 3, 1) := dk_29 (dk_at dksX2_lend_0 23 rfl rfl)
theorem dX2_lend_24 : decode cX2_lend 24 = .ok (.i2l, 1) := dk_133 (dk_at dksX2_lend_1 0 rfl rfl)
theorem dX2_lend_25 : decode cX2_lend 25 = .ok (.lconst 1, 1) := dk_10 (dk_at dksX2_lend_1 1 rfl rfl)
theorem dX2_lend_26 : decode cX2_lend 26 = .ok (.ldc2_w 233, 3) := dk_20 0 233 (dk_at dksX2_lend_1 2 rfl rfl)
theorem dX2_lend_29 : decode cX2_lend 29 = .ok (.invokestatic 52, 3) := dk_184 0 52 (dk_at dksX2_lend_1 5 rfl rfl)
theorem dX2_lend_32 : decode cX2_lend 32 = .ok (.ifCond .eq 7, 3) := dk_153 0 7 (dk_at dksX2_lend_1 8 rfl rfl)
theorem dX2_lend_35 : decode cX2_lend 35 = .ok (.iconst 0, 1) := dk_3 (dk_at dksX2_lend_1 11 rfl rfl)
theorem dX2_lend_36 : decode cX2_lend 36 = .ok (.goto 4, 3) := dk_167 0 4 (dk_at dksX2_lend_1 12 rfl rfl)
theorem dX2_lend_39 : decode cX2_lend 39 = .ok (.iconst 2, 1) := dk_5 (dk_at dksX2_lend_1 15 rfl rfl)
theorem dX2_lend_40 : decode cX2_lend 40 = .ok (.putfield 44, 3) := dk_181 0 44 (dk_at dksX2_lend_1 16 rfl rfl)
theorem dX2_lend_43 : decode cX2_lend 43 = .ok (.aload_n 0, 1) := dk_42 (dk_at dksX2_lend_1 19 rfl rfl)
theorem dX2_lend_44 : decode cX2_lend 44 = .ok (.getfield 44, 3) := dk_180 0 44 (dk_at dksX2_lend_1 20 rfl rfl)
theorem dX2_lend_47 : decode cX2_lend 47 = .ok (.ifCond .le 5, 3) := dk_158 0 5 (dk_at dksX2_lend_2 0 rfl rfl)
theorem dX2_lend_50 : decode cX2_lend 50 = .ok (.iconst 0, 1) := dk_3 (dk_at dksX2_lend_2 3 rfl rfl)
theorem dX2_lend_51 : decode cX2_lend 51 = .ok (.ireturn, 1) := dk_172 (dk_at dksX2_lend_2 4 rfl rfl)
theorem dX2_lend_52 : decode cX2_lend 52 = .ok (.aload_n 0, 1) := dk_42 (dk_at dksX2_lend_2 5 rfl rfl)
theorem dX2_lend_53 : decode cX2_lend 53 = .ok (.getfield 19, 3) := dk_180 0 19 (dk_at dksX2_lend_2 6 rfl rfl)
theorem dX2_lend_56 : decode cX2_lend 56 = .ok (.iload_n 1, 1) := dk_27 (dk_at dksX2_lend_2 9 rfl rfl)
theorem dX2_lend_57 : decode cX2_lend 57 = .ok (.invokevirtual 68, 3) := dk_182 0 68 (dk_at dksX2_lend_2 10 rfl rfl)
theorem dX2_lend_60 : decode cX2_lend 60 = .ok (.checkcast 64, 3) := dk_192 0 64 (dk_at dksX2_lend_2 13 rfl rfl)
theorem dX2_lend_63 : decode cX2_lend 63 = .ok (.astore 4, 2) := dk_58 4 (dk_at dksX2_lend_2 16 rfl rfl)
theorem dX2_lend_65 : decode cX2_lend 65 = .ok (.aload 4, 2) := dk_25 4 (dk_at dksX2_lend_2 18 rfl rfl)
theorem dX2_lend_67 : decode cX2_lend 67 = .ok (.getfield 63, 3) := dk_180 0 63 (dk_at dksX2_lend_2 20 rfl rfl)
theorem dX2_lend_70 : decode cX2_lend 70 = .ok (.iconst (-1), 1) := dk_2 (dk_at dksX2_lend_2 23 rfl rfl)
theorem dX2_lend_71 : decode cX2_lend 71 = .ok (.if_icmp .ne 36, 3) := dk_160 0 36 (dk_at dksX2_lend_3 0 rfl rfl)
theorem dX2_lend_74 : decode cX2_lend 74 = .ok (.aload 4, 2) := dk_25 4 (dk_at dksX2_lend_3 3 rfl rfl)
theorem dX2_lend_76 : decode cX2_lend 76 = .ok (.getfield 76, 3) := dk_180 0 76 (dk_at dksX2_lend_3 5 rfl rfl)
theorem dX2_lend_79 : decode cX2_lend 79 = .ok (.bipush 114, 2) := dk_16 114 (dk_at dksX2_lend_3 8 rfl rfl)
theorem dX2_lend_81 : decode cX2_lend 81 = .ok (.if_icmp .ne 26, 3) := dk_160 0 26 (dk_at dksX2_lend_3 10 rfl rfl)
theorem dX2_lend_84 : decode cX2_lend 84 = .ok (.aload_n 0, 1) := dk_42 (dk_at dksX2_lend_3 13 rfl rfl)
theorem dX2_lend_85 : decode cX2_lend 85 = .ok (.getfield 22, 3) := dk_180 0 22 (dk_at dksX2_lend_3 14 rfl rfl)
theorem dX2_lend_88 : decode cX2_lend 88 = .ok (.invokevirtual 48, 3) := dk_182 0 48 (dk_at dksX2_lend_3 17 rfl rfl)
theorem dX2_lend_91 : decode cX2_lend 91 = .ok (.bipush 12, 2) := dk_16 12 (dk_at dksX2_lend_3 20 rfl rfl)
theorem dX2_lend_93 : decode cX2_lend 93 = .ok (.if_icmp .ge 14, 3) := dk_162 0 14 (dk_at dksX2_lend_4 0 rfl rfl)
theorem dX2_lend_96 : decode cX2_lend 96 = .ok (.aload_n 0, 1) := dk_42 (dk_at dksX2_lend_4 3 rfl rfl)
theorem dX2_lend_97 : decode cX2_lend 97 = .ok (.invokevirtual 275, 3) := dk_182 1 19 (dk_at dksX2_lend_4 4 rfl rfl)
theorem dX2_lend_100 : decode cX2_lend 100 = .ok (.ifCond .le 7, 3) := dk_158 0 7 (dk_at dksX2_lend_4 7 rfl rfl)
theorem dX2_lend_103 : decode cX2_lend 103 = .ok (.iconst 1, 1) := dk_4 (dk_at dksX2_lend_4 10 rfl rfl)
theorem dX2_lend_104 : decode cX2_lend 104 = .ok (.goto 4, 3) := dk_167 0 4 (dk_at dksX2_lend_4 11 rfl rfl)
theorem dX2_lend_107 : decode cX2_lend 107 = .ok (.iconst 0, 1) := dk_3 (dk_at dksX2_lend_4 14 rfl rfl)
theorem dX2_lend_108 : decode cX2_lend 108 = .ok (.istore 5, 2) := dk_54 5 (dk_at dksX2_lend_4 15 rfl rfl)
theorem dX2_lend_110 : decode cX2_lend 110 = .ok (.iload 5, 2) := dk_21 5 (dk_at dksX2_lend_4 17 rfl rfl)
theorem dX2_lend_112 : decode cX2_lend 112 = .ok (.ifCond .eq 17, 3) := dk_153 0 17 (dk_at dksX2_lend_4 19 rfl rfl)
theorem dX2_lend_115 : decode cX2_lend 115 = .ok (.aload_n 0, 1) := dk_42 (dk_at dksX2_lend_4 22 rfl rfl)
theorem dX2_lend_116 : decode cX2_lend 116 = .ok (.iconst 1, 1) := dk_4 (dk_at dksX2_lend_4 23 rfl rfl)
theorem dX2_lend_117 : decode cX2_lend 117 = .ok (.aload_n 0, 1) := dk_42 (dk_at dksX2_lend_5 0 rfl rfl)
theorem dX2_lend_118 : decode cX2_lend 118 = .ok (.iload_n 1, 1) := dk_27 (dk_at dksX2_lend_5 1 rfl rfl)
theorem dX2_lend_119 : decode cX2_lend 119 = .ok (.iload_n 3, 1) := dk_29 (dk_at dksX2_lend_5 2 rfl rfl)
theorem dX2_lend_120 : decode cX2_lend 120 = .ok (.invokevirtual 278, 3) := dk_182 1 22 (dk_at dksX2_lend_5 3 rfl rfl)
theorem dX2_lend_123 : decode cX2_lend 123 = .ok (.invokevirtual 281, 3) := dk_182 1 25 (dk_at dksX2_lend_5 6 rfl rfl)
theorem dX2_lend_126 : decode cX2_lend 126 = .ok (.goto 4, 3) := dk_167 0 4 (dk_at dksX2_lend_5 9 rfl rfl)
theorem dX2_lend_129 : decode cX2_lend 129 = .ok (.iconst (-1), 1) := dk_2 (dk_at dksX2_lend_5 12 rfl rfl)
theorem dX2_lend_130 : decode cX2_lend 130 = .ok (.istore 6, 2) := dk_54 6 (dk_at dksX2_lend_5 13 rfl rfl)
theorem dX2_lend_132 : decode cX2_lend 132 = .ok (.aload_n 0, 1) := dk_42 (dk_at dksX2_lend_5 15 rfl rfl)
theorem dX2_lend_133 : decode cX2_lend 133 = .ok (.iload 6, 2) := dk_21 6 (dk_at dksX2_lend_5 16 rfl rfl)
theorem dX2_lend_135 : decode cX2_lend 135 = .ok (.iconst (-1), 1) := dk_2 (dk_at dksX2_lend_5 18 rfl rfl)
theorem dX2_lend_136 : decode cX2_lend 136 = .ok (.if_icmp .ne 7, 3) := dk_160 0 7 (dk_at dksX2_lend_5 19 rfl rfl)
theorem dX2_lend_139 : decode cX2_lend 139 = .ok (.iconst 3, 1) := dk_6 (dk_at dksX2_lend_5 22 rfl rfl)
theorem dX2_lend_140 : decode cX2_lend 140 = .ok (.goto 4, 3) := dk_167 0 4 (dk_at dksX2_lend_6 0 rfl rfl)
theorem dX2_lend_143 : decode cX2_lend 143 = .ok (.iconst 0, 1) := dk_3 (dk_at dksX2_lend_6 3 rfl rfl)
theorem dX2_lend_144 : decode cX2_lend 144 = .ok (.putfield 44, 3) := dk_181 0 44 (dk_at dksX2_lend_6 4 rfl rfl)
theorem dX2_lend_147 : decode cX2_lend 147 = .ok (.aload_n 0, 1) := dk_42 (dk_at dksX2_lend_6 7 rfl rfl)
theorem dX2_lend_148 : decode cX2_lend 148 = .ok (.getfield 44, 3) := dk_180 0 44 (dk_at dksX2_lend_6 8 rfl rfl)
theorem dX2_lend_151 : decode cX2_lend 151 = .ok (.ifCond .le 5, 3) := dk_158 0 5 (dk_at dksX2_lend_6 11 rfl rfl)
theorem dX2_lend_154 : decode cX2_lend 154 = .ok (.iconst 0, 1) := dk_3 (dk_at dksX2_lend_6 14 rfl rfl)
theorem dX2_lend_155 : decode cX2_lend 155 = .ok (.ireturn, 1) := dk_172 (dk_at dksX2_lend_6 15 rfl rfl)
theorem dX2_lend_156 : decode cX2_lend 156 = .ok (.aload_n 0, 1) := dk_42 (dk_at dksX2_lend_6 16 rfl rfl)
theorem dX2_lend_157 : decode cX2_lend 157 = .ok (.getfield 37, 3) := dk_180 0 37 (dk_at dksX2_lend_6 17 rfl rfl)
theorem dX2_lend_160 : decode cX2_lend 160 = .ok (.iload 6, 2) := dk_21 6 (dk_at dksX2_lend_6 20 rfl rfl)
theorem dX2_lend_162 : decode cX2_lend 162 = .ok (.invokevirtual 68, 3) := dk_182 0 68 (dk_at dksX2_lend_7 0 rfl rfl)
theorem dX2_lend_165 : decode cX2_lend 165 = .ok (.checkcast 180, 3) := dk_192 0 180 (dk_at dksX2_lend_7 3 rfl rfl)
theorem dX2_lend_168 : decode cX2_lend 168 = .ok (.iconst 0, 1) := dk_3 (dk_at dksX2_lend_7 6 rfl rfl)
theorem dX2_lend_169 : decode cX2_lend 169 = .ok (.dup2, 1) := dk_92 (dk_at dksX2_lend_7 7 rfl rfl)
theorem dX2_lend_170 : decode cX2_lend 170 = .ok (.iaload, 1) := dk_46 (dk_at dksX2_lend_7 8 rfl rfl)
theorem dX2_lend_171 : decode cX2_lend 171 = .ok (.aload_n 0, 1) := dk_42 (dk_at dksX2_lend_7 9 rfl rfl)
theorem dX2_lend_172 : decode cX2_lend 172 = .ok (.iload_n 1, 1) := dk_27 (dk_at dksX2_lend_7 10 rfl rfl)
theorem dX2_lend_173 : decode cX2_lend 173 = .ok (.iload_n 3, 1) := dk_29 (dk_at dksX2_lend_7 11 rfl rfl)
theorem dX2_lend_174 : decode cX2_lend 174 = .ok (.invokevirtual 278, 3) := dk_182 1 22 (dk_at dksX2_lend_7 12 rfl rfl)
theorem dX2_lend_177 : decode cX2_lend 177 = .ok (.isub, 1) := dk_100 (dk_at dksX2_lend_7 15 rfl rfl)
theorem dX2_lend_178 : decode cX2_lend 178 = .ok (.iastore, 1) := dk_79 (dk_at dksX2_lend_7 16 rfl rfl)
theorem dX2_lend_179 : decode cX2_lend 179 = .ok (.aload_n 0, 1) := dk_42 (dk_at dksX2_lend_7 17 rfl rfl)
theorem dX2_lend_180 : decode cX2_lend 180 = .ok (.getfield 25, 3) := dk_180 0 25 (dk_at dksX2_lend_7 18 rfl rfl)
theorem dX2_lend_183 : decode cX2_lend 183 = .ok (.aload_n 0, 1) := dk_42 (dk_at dksX2_lend_7 21 rfl rfl)
theorem dX2_lend_184 : decode cX2_lend 184 = .ok (.getfield 86, 3) := dk_180 0 86 (dk_at dksX2_lend_8 0 rfl rfl)
theorem dX2_lend_187 : decode cX2_lend 187 = .ok (.invokestatic 284, 3) := dk_184 1 28 (dk_at dksX2_lend_8 3 rfl rfl)
theorem dX2_lend_190 : decode cX2_lend 190 = .ok (.invokevirtual 89, 3) := dk_182 0 89 (dk_at dksX2_lend_8 6 rfl rfl)
theorem dX2_lend_193 : decode cX2_lend 193 = .ok (.pop, 1) := dk_87 (dk_at dksX2_lend_8 9 rfl rfl)
theorem dX2_lend_194 : decode cX2_lend 194 = .ok (.aload 4, 2) := dk_25 4 (dk_at dksX2_lend_8 10 rfl rfl)
theorem dX2_lend_196 : decode cX2_lend 196 = .ok (.bipush 108, 2) := dk_16 108 (dk_at dksX2_lend_8 12 rfl rfl)
theorem dX2_lend_198 : decode cX2_lend 198 = .ok (.putfield 76, 3) := dk_181 0 76 (dk_at dksX2_lend_8 14 rfl rfl)
theorem dX2_lend_201 : decode cX2_lend 201 = .ok (.aload_n 0, 1) := dk_42 (dk_at dksX2_lend_8 17 rfl rfl)
theorem dX2_lend_202 : decode cX2_lend 202 = .ok (.aload 4, 2) := dk_25 4 (dk_at dksX2_lend_8 18 rfl rfl)
theorem dX2_lend_204 : decode cX2_lend 204 = .ok (.bipush 111, 2) := dk_16 111 (dk_at dksX2_lend_8 20 rfl rfl)
theorem dX2_lend_206 : decode cX2_lend 206 = .ok (.aload_n 0, 1) := dk_42 (dk_at dksX2_lend_8 22 rfl rfl)
theorem dX2_lend_207 : decode cX2_lend 207 = .ok (.getfield 22, 3) := dk_180 0 22 (dk_at dksX2_lend_9 0 rfl rfl)
theorem dX2_lend_210 : decode cX2_lend 210 = .ok (.invokevirtual 48, 3) := dk_182 0 48 (dk_at dksX2_lend_9 3 rfl rfl)
theorem dX2_lend_213 : decode cX2_lend 213 = .ok (.invokevirtual 102, 3) := dk_182 0 102 (dk_at dksX2_lend_9 6 rfl rfl)
theorem dX2_lend_216 : decode cX2_lend 216 = .ok (.aload_n 0, 1) := dk_42 (dk_at dksX2_lend_9 9 rfl rfl)
theorem dX2_lend_217 : decode cX2_lend 217 = .ok (.getfield 22, 3) := dk_180 0 22 (dk_at dksX2_lend_9 10 rfl rfl)
theorem dX2_lend_220 : decode cX2_lend 220 = .ok (.new 288, 3) := dk_187 1 32 (dk_at dksX2_lend_9 13 rfl rfl)
theorem dX2_lend_223 : decode cX2_lend 223 = .ok (.dup, 1) := dk_89 (dk_at dksX2_lend_9 16 rfl rfl)
theorem dX2_lend_224 : decode cX2_lend 224 = .ok (.iload_n 1, 1) := dk_27 (dk_at dksX2_lend_9 17 rfl rfl)
theorem dX2_lend_225 : decode cX2_lend 225 = .ok (.aload_n 0, 1) := dk_42 (dk_at dksX2_lend_9 18 rfl rfl)
theorem dX2_lend_226 : decode cX2_lend 226 = .ok (.getfield 86, 3) := dk_180 0 86 (dk_at dksX2_lend_9 19 rfl rfl)
theorem dX2_lend_229 : decode cX2_lend 229 = .ok (.iload_n 3, 1) := dk_29 (dk_at dksX2_lend_9 22 rfl rfl)
theorem dX2_lend_230 : decode cX2_lend 230 = .ok (.iadd, 1) := dk_96 (dk_at dksX2_lend_9 23 rfl rfl)
theorem dX2_lend_231 : decode cX2_lend 231 = .ok (.iload 6, 2) := dk_21 6 (dk_at dksX2_lend_10 0 rfl rfl)
theorem dX2_lend_233 : decode cX2_lend 233 = .ok (.invokespecial 290, 3) := dk_183 1 34 (dk_at dksX2_lend_10 2 rfl rfl)
theorem dX2_lend_236 : decode cX2_lend 236 = .ok (.invokevirtual 89, 3) := dk_182 0 89 (dk_at dksX2_lend_10 5 rfl rfl)
theorem dX2_lend_239 : decode cX2_lend 239 = .ok (.pop, 1) := dk_87 (dk_at dksX2_lend_10 8 rfl rfl)
theorem dX2_lend_240 : decode cX2_lend 240 = .ok (.aload_n 0, 1) := dk_42 (dk_at dksX2_lend_10 9 rfl rfl)
theorem dX2_lend_241 : decode cX2_lend 241 = .ok (.getfield 22, 3) := dk_180 0 22 (dk_at dksX2_lend_10 10 rfl rfl)
theorem dX2_lend_244 : decode cX2_lend 244 = .ok (.invokevirtual 48, 3) := dk_182 0 48 (dk_at dksX2_lend_10 13 rfl rfl)
theorem dX2_lend_247 : decode cX2_lend 247 = .ok (.iconst 1, 1) := dk_4 (dk_at dksX2_lend_10 16 rfl rfl)
theorem dX2_lend_248 : decode cX2_lend 248 = .ok (.isub, 1) := dk_100 (dk_at dksX2_lend_10 17 rfl rfl)
theorem dX2_lend_249 : decode cX2_lend 249 = .ok (.ireturn, 1) := dk_172 (dk_at dksX2_lend_10 18 rfl rfl)
abbrev cX2_freeCouriers : ByteArray := prog_17_method_44_code
def yX2_freeCouriers : MethodName := ⟨RX2, "freeCouriers", "()I"⟩
def dkwX2_freeCouriers_2 : List UInt8 := [167, 0, 4, 3, 100, 60, 167, 255, 216, 27, 172]
abbrev dktX2_freeCouriers_2 : List UInt8 := dkwX2_freeCouriers_2 ++ []
def dkwX2_freeCouriers_1 : List UInt8 := [185, 0, 116, 1, 0, 192, 0, 195, 182, 1, 16, 62, 27, 42, 180, 0, 86, 29, 6, 96, 162, 0, 7, 4]
abbrev dktX2_freeCouriers_1 : List UInt8 := dkwX2_freeCouriers_1 ++ dktX2_freeCouriers_2
def dkwX2_freeCouriers_0 : List UInt8 := [5, 60, 42, 180, 0, 25, 182, 0, 106, 77, 44, 185, 0, 110, 1, 0, 153, 0, 37, 44]
abbrev dktX2_freeCouriers_0 : List UInt8 := dkwX2_freeCouriers_0 ++ dktX2_freeCouriers_1
theorem dksX2_freeCouriers_0 : cX2_freeCouriers.data.toList.drop 0 = dktX2_freeCouriers_0 := by decide +kernel
theorem dksX2_freeCouriers_1 : cX2_freeCouriers.data.toList.drop 20 = dktX2_freeCouriers_1 := dk_seg dksX2_freeCouriers_0 20 rfl rfl
theorem dksX2_freeCouriers_2 : cX2_freeCouriers.data.toList.drop 44 = dktX2_freeCouriers_2 := dk_seg dksX2_freeCouriers_1 24 rfl rfl
theorem dX2_freeCouriers_0 : decode cX2_freeCouriers 0 = .ok (.iconst 2, 1) := dk_5 (dk_at dksX2_freeCouriers_0 0 rfl rfl)
theorem dX2_freeCouriers_1 : decode cX2_freeCouriers 1 = .ok (.istore_n 1, 1) := dk_60 (dk_at dksX2_freeCouriers_0 1 rfl rfl)
theorem dX2_freeCouriers_2 : decode cX2_freeCouriers 2 = .ok (.aload_n 0, 1) := dk_42 (dk_at dksX2_freeCouriers_0 2 rfl rfl)
theorem dX2_freeCouriers_3 : decode cX2_freeCouriers 3 = .ok (.getfield 25, 3) := dk_180 0 25 (dk_at dksX2_freeCouriers_0 3 rfl rfl)
theorem dX2_freeCouriers_6 : decode cX2_freeCouriers 6 = .ok (.invokevirtual 106, 3) := dk_182 0 106 (dk_at dksX2_freeCouriers_0 6 rfl rfl)
theorem dX2_freeCouriers_9 : decode cX2_freeCouriers 9 = .ok (.astore_n 2, 1) := dk_77 (dk_at dksX2_freeCouriers_0 9 rfl rfl)
theorem dX2_freeCouriers_10 : decode cX2_freeCouriers 10 = .ok (.aload_n 2, 1) := dk_44 (dk_at dksX2_freeCouriers_0 10 rfl rfl)
theorem dX2_freeCouriers_11 : decode cX2_freeCouriers 11 = .ok (.invokeinterface 110 1, 5) := by decide +kernel
theorem dX2_freeCouriers_16 : decode cX2_freeCouriers 16 = .ok (.ifCond .eq 37, 3) := dk_153 0 37 (dk_at dksX2_freeCouriers_0 16 rfl rfl)
theorem dX2_freeCouriers_19 : decode cX2_freeCouriers 19 = .ok (.aload_n 2, 1) := dk_44 (dk_at dksX2_freeCouriers_0 19 rfl rfl)
theorem dX2_freeCouriers_20 : decode cX2_freeCouriers 20 = .ok (.invokeinterface 116 1, 5) := by decide +kernel
theorem dX2_freeCouriers_25 : decode cX2_freeCouriers 25 = .ok (.checkcast 195, 3) := dk_192 0 195 (dk_at dksX2_freeCouriers_1 5 rfl rfl)
theorem dX2_freeCouriers_28 : decode cX2_freeCouriers 28 = .ok (.invokevirtual 272, 3) := dk_182 1 16 (dk_at dksX2_freeCouriers_1 8 rfl rfl)
theorem dX2_freeCouriers_31 : decode cX2_freeCouriers 31 = .ok (.istore_n 3, 1) := dk_62 (dk_at dksX2_freeCouriers_1 11 rfl rfl)
theorem dX2_freeCouriers_32 : decode cX2_freeCouriers 32 = .ok (.iload_n 1, 1) := dk_27 (dk_at dksX2_freeCouriers_1 12 rfl rfl)
theorem dX2_freeCouriers_33 : decode cX2_freeCouriers 33 = .ok (.aload_n 0, 1) := dk_42 (dk_at dksX2_freeCouriers_1 13 rfl rfl)
theorem dX2_freeCouriers_34 : decode cX2_freeCouriers 34 = .ok (.getfield 86, 3) := dk_180 0 86 (dk_at dksX2_freeCouriers_1 14 rfl rfl)
theorem dX2_freeCouriers_37 : decode cX2_freeCouriers 37 = .ok (.iload_n 3, 1) := dk_29 (dk_at dksX2_freeCouriers_1 17 rfl rfl)
theorem dX2_freeCouriers_38 : decode cX2_freeCouriers 38 = .ok (.iconst 3, 1) := dk_6 (dk_at dksX2_freeCouriers_1 18 rfl rfl)
theorem dX2_freeCouriers_39 : decode cX2_freeCouriers 39 = .ok (.iadd, 1) := dk_96 (dk_at dksX2_freeCouriers_1 19 rfl rfl)
theorem dX2_freeCouriers_40 : decode cX2_freeCouriers 40 = .ok (.if_icmp .ge 7, 3) := dk_162 0 7 (dk_at dksX2_freeCouriers_1 20 rfl rfl)
theorem dX2_freeCouriers_43 : decode cX2_freeCouriers 43 = .ok (.iconst 1, 1) := dk_4 (dk_at dksX2_freeCouriers_1 23 rfl rfl)
theorem dX2_freeCouriers_44 : decode cX2_freeCouriers 44 = .ok (.goto 4, 3) := dk_167 0 4 (dk_at dksX2_freeCouriers_2 0 rfl rfl)
theorem dX2_freeCouriers_47 : decode cX2_freeCouriers 47 = .ok (.iconst 0, 1) := dk_3 (dk_at dksX2_freeCouriers_2 3 rfl rfl)
theorem dX2_freeCouriers_48 : decode cX2_freeCouriers 48 = .ok (.isub, 1) := dk_100 (dk_at dksX2_freeCouriers_2 4 rfl rfl)
theorem dX2_freeCouriers_49 : decode cX2_freeCouriers 49 = .ok (.istore_n 1, 1) := dk_60 (dk_at dksX2_freeCouriers_2 5 rfl rfl)
theorem dX2_freeCouriers_50 : decode cX2_freeCouriers 50 = .ok (.goto (-40), 3) := dk_167 255 216 (dk_at dksX2_freeCouriers_2 6 rfl rfl)
theorem dX2_freeCouriers_53 : decode cX2_freeCouriers 53 = .ok (.iload_n 1, 1) := dk_27 (dk_at dksX2_freeCouriers_2 9 rfl rfl)
theorem dX2_freeCouriers_54 : decode cX2_freeCouriers 54 = .ok (.ireturn, 1) := dk_172 (dk_at dksX2_freeCouriers_2 10 rfl rfl)
abbrev cX2_premiumOf : ByteArray := prog_17_method_42_code
def yX2_premiumOf : MethodName := ⟨RX2, "premiumOf", "(II)I"⟩
def dkwX2_premiumOf_1 : List UInt8 := [172]
abbrev dktX2_premiumOf_1 : List UInt8 := dkwX2_premiumOf_1 ++ []
def dkwX2_premiumOf_0 : List UInt8 := [4, 42, 27, 182, 1, 11, 133, 28, 16, 9, 96, 16, 10, 108, 133, 105, 20, 1, 14, 109, 136, 184, 0, 204]
abbrev dktX2_premiumOf_0 : List UInt8 := dkwX2_premiumOf_0 ++ dktX2_premiumOf_1
theorem dksX2_premiumOf_0 : cX2_premiumOf.data.toList.drop 0 = dktX2_premiumOf_0 := by decide +kernel
theorem dksX2_premiumOf_1 : cX2_premiumOf.data.toList.drop 24 = dktX2_premiumOf_1 := dk_seg dksX2_premiumOf_0 24 rfl rfl
theorem dX2_premiumOf_0 : decode cX2_premiumOf 0 = .ok (.iconst 1, 1) := dk_4 (dk_at dksX2_premiumOf_0 0 rfl rfl)
theorem dX2_premiumOf_1 : decode cX2_premiumOf 1 = .ok (.aload_n 0, 1) := dk_42 (dk_at dksX2_premiumOf_0 1 rfl rfl)
theorem dX2_premiumOf_2 : decode cX2_premiumOf 2 = .ok (.iload_n 1, 1) := dk_27 (dk_at dksX2_premiumOf_0 2 rfl rfl)
theorem dX2_premiumOf_3 : decode cX2_premiumOf 3 = .ok (.invokevirtual 267, 3) := dk_182 1 11 (dk_at dksX2_premiumOf_0 3 rfl rfl)
theorem dX2_premiumOf_6 : decode cX2_premiumOf 6 = .ok (.i2l, 1) := dk_133 (dk_at dksX2_premiumOf_0 6 rfl rfl)
theorem dX2_premiumOf_7 : decode cX2_premiumOf 7 = .ok (.iload_n 2, 1) := dk_28 (dk_at dksX2_premiumOf_0 7 rfl rfl)
theorem dX2_premiumOf_8 : decode cX2_premiumOf 8 = .ok (.bipush 9, 2) := dk_16 9 (dk_at dksX2_premiumOf_0 8 rfl rfl)
theorem dX2_premiumOf_10 : decode cX2_premiumOf 10 = .ok (.iadd, 1) := dk_96 (dk_at dksX2_premiumOf_0 10 rfl rfl)
theorem dX2_premiumOf_11 : decode cX2_premiumOf 11 = .ok (.bipush 10, 2) := dk_16 10 (dk_at dksX2_premiumOf_0 11 rfl rfl)
theorem dX2_premiumOf_13 : decode cX2_premiumOf 13 = .ok (.idiv, 1) := dk_108 (dk_at dksX2_premiumOf_0 13 rfl rfl)
theorem dX2_premiumOf_14 : decode cX2_premiumOf 14 = .ok (.i2l, 1) := dk_133 (dk_at dksX2_premiumOf_0 14 rfl rfl)
theorem dX2_premiumOf_15 : decode cX2_premiumOf 15 = .ok (.lmul, 1) := dk_105 (dk_at dksX2_premiumOf_0 15 rfl rfl)
theorem dX2_premiumOf_16 : decode cX2_premiumOf 16 = .ok (.ldc2_w 270, 3) := dk_20 1 14 (dk_at dksX2_premiumOf_0 16 rfl rfl)
theorem dX2_premiumOf_19 : decode cX2_premiumOf 19 = .ok (.ldiv, 1) := dk_109 (dk_at dksX2_premiumOf_0 19 rfl rfl)
theorem dX2_premiumOf_20 : decode cX2_premiumOf 20 = .ok (.l2i, 1) := dk_136 (dk_at dksX2_premiumOf_0 20 rfl rfl)
theorem dX2_premiumOf_21 : decode cX2_premiumOf 21 = .ok (.invokestatic 204, 3) := dk_184 0 204 (dk_at dksX2_premiumOf_0 21 rfl rfl)
theorem dX2_premiumOf_24 : decode cX2_premiumOf 24 = .ok (.ireturn, 1) := dk_172 (dk_at dksX2_premiumOf_1 0 rfl rfl)
abbrev cX2_worth : ByteArray := prog_17_method_41_code
def yX2_worth : MethodName := ⟨RX2, "worth", "(I)I"⟩
def dkwX2_worth_2 : List UInt8 := [180, 0, 63, 27, 160, 0, 11, 25, 4, 180, 1, 8, 167, 0, 4, 3, 96, 61, 167, 255, 215, 28, 172]
abbrev dktX2_worth_2 : List UInt8 := dkwX2_worth_2 ++ []
def dkwX2_worth_1 : List UInt8 := [185, 0, 110, 1, 0, 153, 0, 38, 45, 185, 0, 116, 1, 0, 192, 0, 64, 58, 4, 28, 25, 4]
abbrev dktX2_worth_1 : List UInt8 := dkwX2_worth_1 ++ dktX2_worth_2
def dkwX2_worth_0 : List UInt8 := [42, 180, 0, 19, 27, 182, 0, 68, 192, 0, 64, 180, 1, 8, 61, 42, 180, 0, 19, 182, 0, 106, 78, 45]
abbrev dktX2_worth_0 : List UInt8 := dkwX2_worth_0 ++ dktX2_worth_1
theorem dksX2_worth_0 : cX2_worth.data.toList.drop 0 = dktX2_worth_0 := by decide +kernel
theorem dksX2_worth_1 : cX2_worth.data.toList.drop 24 = dktX2_worth_1 := dk_seg dksX2_worth_0 24 rfl rfl
theorem dksX2_worth_2 : cX2_worth.data.toList.drop 46 = dktX2_worth_2 := dk_seg dksX2_worth_1 22 rfl rfl
theorem dX2_worth_0 : decode cX2_worth 0 = .ok (.aload_n 0, 1) := dk_42 (dk_at dksX2_worth_0 0 rfl rfl)
theorem dX2_worth_1 : decode cX2_worth 1 = .ok (.getfield 19, 3) := dk_180 0 19 (dk_at dksX2_worth_0 1 rfl rfl)
theorem dX2_worth_4 : decode cX2_worth 4 = .ok (.iload_n 1, 1) := dk_27 (dk_at dksX2_worth_0 4 rfl rfl)
theorem dX2_worth_5 : decode cX2_worth 5 = .ok (.invokevirtual 68, 3) := dk_182 0 68 (dk_at dksX2_worth_0 5 rfl rfl)
theorem dX2_worth_8 : decode cX2_worth 8 = .ok (.checkcast 64, 3) := dk_192 0 64 (dk_at dksX2_worth_0 8 rfl rfl)
theorem dX2_worth_11 : decode cX2_worth 11 = .ok (.getfield 264, 3) := dk_180 1 8 (dk_at dksX2_worth_0 11 rfl rfl)
theorem dX2_worth_14 : decode cX2_worth 14 = .ok (.istore_n 2, 1) := dk_61 (dk_at dksX2_worth_0 14 rfl rfl)
theorem dX2_worth_15 : decode cX2_worth 15 = .ok (.aload_n 0, 1) := dk_42 (dk_at dksX2_worth_0 15 rfl rfl)
theorem dX2_worth_16 : decode cX2_worth 16 = .ok (.getfield 19, 3) := dk_180 0 19 (dk_at dksX2_worth_0 16 rfl rfl)
theorem dX2_worth_19 : decode cX2_worth 19 = .ok (.invokevirtual 106, 3) := dk_182 0 106 (dk_at dksX2_worth_0 19 rfl rfl)
theorem dX2_worth_22 : decode cX2_worth 22 = .ok (.astore_n 3, 1) := dk_78 (dk_at dksX2_worth_0 22 rfl rfl)
theorem dX2_worth_23 : decode cX2_worth 23 = .ok (.aload_n 3, 1) := dk_45 (dk_at dksX2_worth_0 23 rfl rfl)
theorem dX2_worth_24 : decode cX2_worth 24 = .ok (.invokeinterface 110 1, 5) := by decide +kernel
theorem dX2_worth_29 : decode cX2_worth 29 = .ok (.ifCond .eq 38, 3) := dk_153 0 38 (dk_at dksX2_worth_1 5 rfl rfl)
theorem dX2_worth_32 : decode cX2_worth 32 = .ok (.aload_n 3, 1) := dk_45 (dk_at dksX2_worth_1 8 rfl rfl)
theorem dX2_worth_33 : decode cX2_worth 33 = .ok (.invokeinterface 116 1, 5) := by decide +kernel
theorem dX2_worth_38 : decode cX2_worth 38 = .ok (.checkcast 64, 3) := dk_192 0 64 (dk_at dksX2_worth_1 14 rfl rfl)
theorem dX2_worth_41 : decode cX2_worth 41 = .ok (.astore 4, 2) := dk_58 4 (dk_at dksX2_worth_1 17 rfl rfl)
theorem dX2_worth_43 : decode cX2_worth 43 = .ok (.iload_n 2, 1) := dk_28 (dk_at dksX2_worth_1 19 rfl rfl)
theorem dX2_worth_44 : decode cX2_worth 44 = .ok (.aload 4, 2) := dk_25 4 (dk_at dksX2_worth_1 20 rfl rfl)
theorem dX2_worth_46 : decode cX2_worth 46 = .ok (.getfield 63, 3) := dk_180 0 63 (dk_at dksX2_worth_2 0 rfl rfl)
theorem dX2_worth_49 : decode cX2_worth 49 = .ok (.iload_n 1, 1) := dk_27 (dk_at dksX2_worth_2 3 rfl rfl)
theorem dX2_worth_50 : decode cX2_worth 50 = .ok (.if_icmp .ne 11, 3) := dk_160 0 11 (dk_at dksX2_worth_2 4 rfl rfl)
theorem dX2_worth_53 : decode cX2_worth 53 = .ok (.aload 4, 2) := dk_25 4 (dk_at dksX2_worth_2 7 rfl rfl)
theorem dX2_worth_55 : decode cX2_worth 55 = .ok (.getfield 264, 3) := dk_180 1 8 (dk_at dksX2_worth_2 9 rfl rfl)
theorem dX2_worth_58 : decode cX2_worth 58 = .ok (.goto 4, 3) := dk_167 0 4 (dk_at dksX2_worth_2 12 rfl rfl)
theorem dX2_worth_61 : decode cX2_worth 61 = .ok (.iconst 0, 1) := dk_3 (dk_at dksX2_worth_2 15 rfl rfl)
theorem dX2_worth_62 : decode cX2_worth 62 = .ok (.iadd, 1) := dk_96 (dk_at dksX2_worth_2 16 rfl rfl)
theorem dX2_worth_63 : decode cX2_worth 63 = .ok (.istore_n 2, 1) := dk_61 (dk_at dksX2_worth_2 17 rfl rfl)
theorem dX2_worth_64 : decode cX2_worth 64 = .ok (.goto (-41), 3) := dk_167 255 215 (dk_at dksX2_worth_2 18 rfl rfl)
theorem dX2_worth_67 : decode cX2_worth 67 = .ok (.iload_n 2, 1) := dk_28 (dk_at dksX2_worth_2 21 rfl rfl)
theorem dX2_worth_68 : decode cX2_worth 68 = .ok (.ireturn, 1) := dk_172 (dk_at dksX2_worth_2 22 rfl rfl)
abbrev cX2_payer : ByteArray := prog_17_method_43_code
def yX2_payer : MethodName := ⟨RX2, "payer", "(II)I"⟩
def dkwX2_payer_6 : List UInt8 := [132, 4, 1, 167, 255, 120, 29, 172]
abbrev dktX2_payer_6 : List UInt8 := dkwX2_payer_6 ++ []
def dkwX2_payer_5 : List UInt8 := [162, 0, 7, 4, 167, 0, 4, 3, 54, 6, 21, 6, 153, 0, 8, 21, 4, 167, 0, 4, 29, 62]
abbrev dktX2_payer_5 : List UInt8 := dkwX2_payer_5 ++ dktX2_payer_6
def dkwX2_payer_4 : List UInt8 := [184, 0, 194, 100, 54, 8, 21, 8, 155, 0, 19, 21, 8, 154, 0, 18, 25, 5, 3, 46, 25, 7, 3, 46]
abbrev dktX2_payer_4 : List UInt8 := dkwX2_payer_4 ++ dktX2_payer_5
def dkwX2_payer_3 : List UInt8 := [180, 0, 37, 29, 182, 0, 68, 192, 0, 180, 58, 7, 25, 5, 4, 46, 184, 0, 194, 25, 7, 4, 46]
abbrev dktX2_payer_3 : List UInt8 := dkwX2_payer_3 ++ dktX2_payer_4
def dkwX2_payer_2 : List UInt8 := [28, 161, 0, 7, 4, 167, 0, 4, 3, 54, 6, 21, 6, 153, 0, 66, 29, 2, 159, 0, 61, 42]
abbrev dktX2_payer_2 : List UInt8 := dkwX2_payer_2 ++ dktX2_payer_3
def dkwX2_payer_1 : List UInt8 := [182, 0, 68, 192, 0, 180, 58, 5, 25, 5, 4, 46, 27, 16, 8, 128, 126, 153, 0, 15, 25, 5, 3, 46]
abbrev dktX2_payer_1 : List UInt8 := dkwX2_payer_1 ++ dktX2_payer_2
def dkwX2_payer_0 : List UInt8 := [2, 62, 3, 54, 4, 21, 4, 42, 180, 0, 37, 182, 0, 48, 162, 0, 130, 42, 180, 0, 37, 21, 4]
abbrev dktX2_payer_0 : List UInt8 := dkwX2_payer_0 ++ dktX2_payer_1
theorem dksX2_payer_0 : cX2_payer.data.toList.drop 0 = dktX2_payer_0 := by decide +kernel
theorem dksX2_payer_1 : cX2_payer.data.toList.drop 23 = dktX2_payer_1 := dk_seg dksX2_payer_0 23 rfl rfl
theorem dksX2_payer_2 : cX2_payer.data.toList.drop 47 = dktX2_payer_2 := dk_seg dksX2_payer_1 24 rfl rfl
theorem dksX2_payer_3 : cX2_payer.data.toList.drop 69 = dktX2_payer_3 := dk_seg dksX2_payer_2 22 rfl rfl
theorem dksX2_payer_4 : cX2_payer.data.toList.drop 92 = dktX2_payer_4 := dk_seg dksX2_payer_3 23 rfl rfl
theorem dksX2_payer_5 : cX2_payer.data.toList.drop 116 = dktX2_payer_5 := dk_seg dksX2_payer_4 24 rfl rfl
theorem dksX2_payer_6 : cX2_payer.data.toList.drop 138 = dktX2_payer_6 := dk_seg dksX2_payer_5 22 rfl rfl
theorem dX2_payer_0 : decode cX2_payer 0 = .ok (.iconst (-1), 1) := dk_2 (dk_at dksX2_payer_0 0 rfl rfl)
theorem dX2_payer_1 : decode cX2_payer 1 = .ok (.istore_n 3, 1) := dk_62 (dk_at dksX2_payer_0 1 rfl rfl)
theorem dX2_payer_2 : decode cX2_payer 2 = .ok (.iconst 0, 1) := dk_3 (dk_at dksX2_payer_0 2 rfl rfl)
theorem dX2_payer_3 : decode cX2_payer 3 = .ok (.istore 4, 2) := dk_54 4 (dk_at dksX2_payer_0 3 rfl rfl)
theorem dX2_payer_5 : decode cX2_payer 5 = .ok (.iload 4, 2) := dk_21 4 (dk_at dksX2_payer_0 5 rfl rfl)
theorem dX2_payer_7 : decode cX2_payer 7 = .ok (.aload_n 0, 1) := dk_42 (dk_at dksX2_payer_0 7 rfl rfl)
theorem dX2_payer_8 : decode cX2_payer 8 = .ok (.getfield 37, 3) := dk_180 0 37 (dk_at dksX2_payer_0 8 rfl rfl)
theorem dX2_payer_11 : decode cX2_payer 11 = .ok (.invokevirtual 48, 3) := dk_182 0 48 (dk_at dksX2_payer_0 11 rfl rfl)
theorem dX2_payer_14 : decode cX2_payer 14 = .ok (.if_icmp .ge 130, 3) := dk_162 0 130 (dk_at dksX2_payer_0 14 rfl rfl)
theorem dX2_payer_17 : decode cX2_payer 17 = .ok (.aload_n 0, 1) := dk_42 (dk_at dksX2_payer_0 17 rfl rfl)
theorem dX2_payer_18 : decode cX2_payer 18 = .ok (.getfield 37, 3) := dk_180 0 37 (dk_at dksX2_payer_0 18 rfl rfl)
theorem dX2_payer_21 : decode cX2_payer 21 = .ok (.iload 4, 2) := dk_21 4 (dk_at dksX2_payer_0 21 rfl rfl)
theorem dX2_payer_23 : decode cX2_payer 23 = .ok (.invokevirtual 68, 3) := dk_182 0 68 (dk_at dksX2_payer_1 0 rfl rfl)
theorem dX2_payer_26 : decode cX2_payer 26 = .ok (.checkcast 180, 3) := dk_192 0 180 (dk_at dksX2_payer_1 3 rfl rfl)
theorem dX2_payer_29 : decode cX2_payer 29 = .ok (.astore 5, 2) := dk_58 5 (dk_at dksX2_payer_1 6 rfl rfl)
theorem dX2_payer_31 : decode cX2_payer 31 = .ok (.aload 5, 2) := dk_25 5 (dk_at dksX2_payer_1 8 rfl rfl)
theorem dX2_payer_33 : decode cX2_payer 33 = .ok (.iconst 1, 1) := dk_4 (dk_at dksX2_payer_1 10 rfl rfl)
theorem dX2_payer_34 : decode cX2_payer 34 = .ok (.iaload, 1) := dk_46 (dk_at dksX2_payer_1 11 rfl rfl)
theorem dX2_payer_35 : decode cX2_payer 35 = .ok (.iload_n 1, 1) := dk_27 (dk_at dksX2_payer_1 12 rfl rfl)
theorem dX2_payer_36 : decode cX2_payer 36 = .ok (.bipush 8, 2) := dk_16 8 (dk_at dksX2_payer_1 13 rfl rfl)
theorem dX2_payer_38 : decode cX2_payer 38 = .ok (.ior, 1) := dk_128 (dk_at dksX2_payer_1 15 rfl rfl)
theorem dX2_payer_39 : decode cX2_payer 39 = .ok (.iand, 1) := dk_126 (dk_at dksX2_payer_1 16 rfl rfl)
theorem dX2_payer_40 : decode cX2_payer 40 = .ok (.ifCond .eq 15, 3) := dk_153 0 15 (dk_at dksX2_payer_1 17 rfl rfl)
theorem dX2_payer_43 : decode cX2_payer 43 = .ok (.aload 5, 2) := dk_25 5 (dk_at dksX2_payer_1 20 rfl rfl)
theorem dX2_payer_45 : decode cX2_payer 45 = .ok (.iconst 0, 1) := dk_3 (dk_at dksX2_payer_1 22 rfl rfl)
theorem dX2_payer_46 : decode cX2_payer 46 = .ok (.iaload, 1) := dk_46 (dk_at dksX2_payer_1 23 rfl rfl)
theorem dX2_payer_47 : decode cX2_payer 47 = .ok (.iload_n 2, 1) := dk_28 (dk_at dksX2_payer_2 0 rfl rfl)
theorem dX2_payer_48 : decode cX2_payer 48 = .ok (.if_icmp .lt 7, 3) := dk_161 0 7 (dk_at dksX2_payer_2 1 rfl rfl)
theorem dX2_payer_51 : decode cX2_payer 51 = .ok (.iconst 1, 1) := dk_4 (dk_at dksX2_payer_2 4 rfl rfl)
theorem dX2_payer_52 : decode cX2_payer 52 = .ok (.goto 4, 3) := dk_167 0 4 (dk_at dksX2_payer_2 5 rfl rfl)
theorem dX2_payer_55 : decode cX2_payer 55 = .ok (.iconst 0, 1) := dk_3 (dk_at dksX2_payer_2 8 rfl rfl)
theorem dX2_payer_56 : decode cX2_payer 56 = .ok (.istore 6, 2) := dk_54 6 (dk_at dksX2_payer_2 9 rfl rfl)
theorem dX2_payer_58 : decode cX2_payer 58 = .ok (.iload 6, 2) := dk_21 6 (dk_at dksX2_payer_2 11 rfl rfl)
theorem dX2_payer_60 : decode cX2_payer 60 = .ok (.ifCond .eq 66, 3) := dk_153 0 66 (dk_at dksX2_payer_2 13 rfl rfl)
theorem dX2_payer_63 : decode cX2_payer 63 = .ok (.iload_n 3, 1) := dk_29 (dk_at dksX2_payer_2 16 rfl rfl)
theorem dX2_payer_64 : decode cX2_payer 64 = .ok (.iconst (-1), 1) := dk_2 (dk_at dksX2_payer_2 17 rfl rfl)
theorem dX2_payer_65 : decode cX2_payer 65 = .ok (.if_icmp .eq 61, 3) := dk_159 0 61 (dk_at dksX2_payer_2 18 rfl rfl)
theorem dX2_payer_68 : decode cX2_payer 68 = .ok (.aload_n 0, 1) := dk_42 (dk_at dksX2_payer_2 21 rfl rfl)
theorem dX2_payer_69 : decode cX2_payer 69 = .ok (.getfield 37, 3) := dk_180 0 37 (dk_at dksX2_payer_3 0 rfl rfl)
theorem dX2_payer_72 : decode cX2_payer 72 = .ok (.iload_n 3, 1) := dk_29 (dk_at dksX2_payer_3 3 rfl rfl)
theorem dX2_payer_73 : decode cX2_payer 73 = .ok (.invokevirtual 68, 3) := dk_182 0 68 (dk_at dksX2_payer_3 4 rfl rfl)
theorem dX2_payer_76 : decode cX2_payer 76 = .ok (.checkcast 180, 3) := dk_192 0 180 (dk_at dksX2_payer_3 7 rfl rfl)
theorem dX2_payer_79 : decode cX2_payer 79 = .ok (.astore 7, 2) := dk_58 7 (dk_at dksX2_payer_3 10 rfl rfl)
theorem dX2_payer_81 : decode cX2_payer 81 = .ok (.aload 5, 2) := dk_25 5 (dk_at dksX2_payer_3 12 rfl rfl)
theorem dX2_payer_83 : decode cX2_payer 83 = .ok (.iconst 1, 1) := dk_4 (dk_at dksX2_payer_3 14 rfl rfl)
theorem dX2_payer_84 : decode cX2_payer 84 = .ok (.iaload, 1) := dk_46 (dk_at dksX2_payer_3 15 rfl rfl)
theorem dX2_payer_85 : decode cX2_payer 85 = .ok (.invokestatic 194, 3) := dk_184 0 194 (dk_at dksX2_payer_3 16 rfl rfl)
theorem dX2_payer_88 : decode cX2_payer 88 = .ok (.aload 7, 2) := dk_25 7 (dk_at dksX2_payer_3 19 rfl rfl)
theorem dX2_payer_90 : decode cX2_payer 90 = .ok (.iconst 1, 1) := dk_4 (dk_at dksX2_payer_3 21 rfl rfl)
theorem dX2_payer_91 : decode cX2_payer 91 = .ok (.iaload, 1) := dk_46 (dk_at dksX2_payer_3 22 rfl rfl)
theorem dX2_payer_92 : decode cX2_payer 92 = .ok (.invokestatic 194, 3) := dk_184 0 194 (dk_at dksX2_payer_4 0 rfl rfl)
theorem dX2_payer_95 : decode cX2_payer 95 = .ok (.isub, 1) := dk_100 (dk_at dksX2_payer_4 3 rfl rfl)
theorem dX2_payer_96 : decode cX2_payer 96 = .ok (.istore 8, 2) := dk_54 8 (dk_at dksX2_payer_4 4 rfl rfl)
theorem dX2_payer_98 : decode cX2_payer 98 = .ok (.iload 8, 2) := dk_21 8 (dk_at dksX2_payer_4 6 rfl rfl)
theorem dX2_payer_100 : decode cX2_payer 100 = .ok (.ifCond .lt 19, 3) := dk_155 0 19 (dk_at dksX2_payer_4 8 rfl rfl)
theorem dX2_payer_103 : decode cX2_payer 103 = .ok (.iload 8, 2) := dk_21 8 (dk_at dksX2_payer_4 11 rfl rfl)
theorem dX2_payer_105 : decode cX2_payer 105 = .ok (.ifCond .ne 18, 3) := dk_154 0 18 (dk_at dksX2_payer_4 13 rfl rfl)
theorem dX2_payer_108 : decode cX2_payer 108 = .ok (.aload 5, 2) := dk_25 5 (dk_at dksX2_payer_4 16 rfl rfl)
theorem dX2_payer_110 : decode cX2_payer 110 = .ok (.iconst 0, 1) := dk_3 (dk_at dksX2_payer_4 18 rfl rfl)
theorem dX2_payer_111 : decode cX2_payer 111 = .ok (.iaload, 1) := dk_46 (dk_at dksX2_payer_4 19 rfl rfl)
theorem dX2_payer_112 : decode cX2_payer 112 = .ok (.aload 7, 2) := dk_25 7 (dk_at dksX2_payer_4 20 rfl rfl)
theorem dX2_payer_114 : decode cX2_payer 114 = .ok (.iconst 0, 1) := dk_3 (dk_at dksX2_payer_4 22 rfl rfl)
theorem dX2_payer_115 : decode cX2_payer 115 = .ok (.iaload, 1) := dk_46 (dk_at dksX2_payer_4 23 rfl rfl)
theorem dX2_payer_116 : decode cX2_payer 116 = .ok (.if_icmp .ge 7, 3) := dk_162 0 7 (dk_at dksX2_payer_5 0 rfl rfl)
theorem dX2_payer_119 : decode cX2_payer 119 = .ok (.iconst 1, 1) := dk_4 (dk_at dksX2_payer_5 3 rfl rfl)
theorem dX2_payer_120 : decode cX2_payer 120 = .ok (.goto 4, 3) := dk_167 0 4 (dk_at dksX2_payer_5 4 rfl rfl)
theorem dX2_payer_123 : decode cX2_payer 123 = .ok (.iconst 0, 1) := dk_3 (dk_at dksX2_payer_5 7 rfl rfl)
theorem dX2_payer_124 : decode cX2_payer 124 = .ok (.istore 6, 2) := dk_54 6 (dk_at dksX2_payer_5 8 rfl rfl)
theorem dX2_payer_126 : decode cX2_payer 126 = .ok (.iload 6, 2) := dk_21 6 (dk_at dksX2_payer_5 10 rfl rfl)
theorem dX2_payer_128 : decode cX2_payer 128 = .ok (.ifCond .eq 8, 3) := dk_153 0 8 (dk_at dksX2_payer_5 12 rfl rfl)
theorem dX2_payer_131 : decode cX2_payer 131 = .ok (.iload 4, 2) := dk_21 4 (dk_at dksX2_payer_5 15 rfl rfl)
theorem dX2_payer_133 : decode cX2_payer 133 = .ok (.goto 4, 3) := dk_167 0 4 (dk_at dksX2_payer_5 17 rfl rfl)
theorem dX2_payer_136 : decode cX2_payer 136 = .ok (.iload_n 3, 1) := dk_29 (dk_at dksX2_payer_5 20 rfl rfl)
theorem dX2_payer_137 : decode cX2_payer 137 = .ok (.istore_n 3, 1) := dk_62 (dk_at dksX2_payer_5 21 rfl rfl)
theorem dX2_payer_138 : decode cX2_payer 138 = .ok (.iinc 4 1, 3) := dk_132 4 1 (dk_at dksX2_payer_6 0 rfl rfl)
theorem dX2_payer_141 : decode cX2_payer 141 = .ok (.goto (-136), 3) := dk_167 255 120 (dk_at dksX2_payer_6 3 rfl rfl)
theorem dX2_payer_144 : decode cX2_payer 144 = .ok (.iload_n 3, 1) := dk_29 (dk_at dksX2_payer_6 6 rfl rfl)
theorem dX2_payer_145 : decode cX2_payer 145 = .ok (.ireturn, 1) := dk_172 (dk_at dksX2_payer_6 7 rfl rfl)
abbrev cX2_premium : ByteArray := prog_17_method_46_code
def yX2_premium : MethodName := ⟨RX2, "premium", "(II)I"⟩
def dkwX2_premium_2 : List UInt8 := [172]
abbrev dktX2_premium_2 : List UInt8 := dkwX2_premium_2 ++ []
def dkwX2_premium_1 : List UInt8 := [167, 0, 4, 5, 181, 0, 44, 42, 180, 0, 44, 158, 0, 7, 3, 167, 0, 9, 42, 27, 28, 182, 1, 22]
abbrev dktX2_premium_1 : List UInt8 := dkwX2_premium_1 ++ dktX2_premium_2
def dkwX2_premium_0 : List UInt8 := [42, 27, 182, 0, 185, 153, 0, 5, 3, 172, 42, 28, 133, 10, 20, 0, 233, 184, 0, 52, 153, 0, 7, 3]
abbrev dktX2_premium_0 : List UInt8 := dkwX2_premium_0 ++ dktX2_premium_1
theorem dksX2_premium_0 : cX2_premium.data.toList.drop 0 = dktX2_premium_0 := by decide +kernel
theorem dksX2_premium_1 : cX2_premium.data.toList.drop 24 = dktX2_premium_1 := dk_seg dksX2_premium_0 24 rfl rfl
theorem dksX2_premium_2 : cX2_premium.data.toList.drop 48 = dktX2_premium_2 := dk_seg dksX2_premium_1 24 rfl rfl
theorem dX2_premium_0 : decode cX2_premium 0 = .ok (.aload_n 0, 1) := dk_42 (dk_at dksX2_premium_0 0 rfl rfl)
theorem dX2_premium_1 : decode cX2_premium 1 = .ok (.iload_n 1, 1) := dk_27 (dk_at dksX2_premium_0 1 rfl rfl)
theorem dX2_premium_2 : decode cX2_premium 2 = .ok (.invokevirtual 185, 3) := dk_182 0 185 (dk_at dksX2_premium_0 2 rfl rfl)
theorem dX2_premium_5 : decode cX2_premium 5 = .ok (.ifCond .eq 5, 3) := dk_153 0 5 (dk_at dksX2_premium_0 5 rfl rfl)
theorem dX2_premium_8 : decode cX2_premium 8 = .ok (.iconst 0, 1) := dk_3 (dk_at dksX2_premium_0 8 rfl rfl)
theorem dX2_premium_9 : decode cX2_premium 9 = .ok (.ireturn, 1) := dk_172 (dk_at dksX2_premium_0 9 rfl rfl)
theorem dX2_premium_10 : decode cX2_premium 10 = .ok (.aload_n 0, 1) := dk_42 (dk_at dksX2_premium_0 10 rfl rfl)
theorem dX2_premium_11 : decode cX2_premium 11 = .ok (.iload_n 2, 1) := dk_28 (dk_at dksX2_premium_0 11 rfl rfl)
theorem dX2_premium_12 : decode cX2_premium 12 = .ok (.i2l, 1) := dk_133 (dk_at dksX2_premium_0 12 rfl rfl)
theorem dX2_premium_13 : decode cX2_premium 13 = .ok (.lconst 1, 1) := dk_10 (dk_at dksX2_premium_0 13 rfl rfl)
theorem dX2_premium_14 : decode cX2_premium 14 = .ok (.ldc2_w 233, 3) := dk_20 0 233 (dk_at dksX2_premium_0 14 rfl rfl)
theorem dX2_premium_17 : decode cX2_premium 17 = .ok (.invokestatic 52, 3) := dk_184 0 52 (dk_at dksX2_premium_0 17 rfl rfl)
theorem dX2_premium_20 : decode cX2_premium 20 = .ok (.ifCond .eq 7, 3) := dk_153 0 7 (dk_at dksX2_premium_0 20 rfl rfl)
theorem dX2_premium_23 : decode cX2_premium 23 = .ok (.iconst 0, 1) := dk_3 (dk_at dksX2_premium_0 23 rfl rfl)
theorem dX2_premium_24 : decode cX2_premium 24 = .ok (.goto 4, 3) := dk_167 0 4 (dk_at dksX2_premium_1 0 rfl rfl)
theorem dX2_premium_27 : decode cX2_premium 27 = .ok (.iconst 2, 1) := dk_5 (dk_at dksX2_premium_1 3 rfl rfl)
theorem dX2_premium_28 : decode cX2_premium 28 = .ok (.putfield 44, 3) := dk_181 0 44 (dk_at dksX2_premium_1 4 rfl rfl)
theorem dX2_premium_31 : decode cX2_premium 31 = .ok (.aload_n 0, 1) := dk_42 (dk_at dksX2_premium_1 7 rfl rfl)
theorem dX2_premium_32 : decode cX2_premium 32 = .ok (.getfield 44, 3) := dk_180 0 44 (dk_at dksX2_premium_1 8 rfl rfl)
theorem dX2_premium_35 : decode cX2_premium 35 = .ok (.ifCond .le 7, 3) := dk_158 0 7 (dk_at dksX2_premium_1 11 rfl rfl)
theorem dX2_premium_38 : decode cX2_premium 38 = .ok (.iconst 0, 1) := dk_3 (dk_at dksX2_premium_1 14 rfl rfl)
theorem dX2_premium_39 : decode cX2_premium 39 = .ok (.goto 9, 3) := dk_167 0 9 (dk_at dksX2_premium_1 15 rfl rfl)
theorem dX2_premium_42 : decode cX2_premium 42 = .ok (.aload_n 0, 1) := dk_42 (dk_at dksX2_premium_1 18 rfl rfl)
theorem dX2_premium_43 : decode cX2_premium 43 = .ok (.iload_n 1, 1) := dk_27 (dk_at dksX2_premium_1 19 rfl rfl)
theorem dX2_premium_44 : decode cX2_premium 44 = .ok (.iload_n 2, 1) := dk_28 (dk_at dksX2_premium_1 20 rfl rfl)
theorem dX2_premium_45 : decode cX2_premium 45 = .ok (.invokevirtual 278, 3) := dk_182 1 22 (dk_at dksX2_premium_1 21 rfl rfl)
theorem dX2_premium_48 : decode cX2_premium 48 = .ok (.ireturn, 1) := dk_172 (dk_at dksX2_premium_2 0 rfl rfl)
abbrev cX2_isLate : ByteArray := prog_17_method_47_code
def yX2_isLate : MethodName := ⟨RX2, "isLate", "(I)Z"⟩
def dkwX2_isLate_3 : List UInt8 := [192, 1, 32, 180, 1, 38, 164, 0, 7, 4, 167, 0, 4, 3, 172]
abbrev dktX2_isLate_3 : List UInt8 := dkwX2_isLate_3 ++ []
def dkwX2_isLate_2 : List UInt8 := [181, 0, 44, 42, 180, 0, 44, 154, 0, 28, 42, 180, 0, 86, 42, 180, 0, 22, 27, 182, 0, 68]
abbrev dktX2_isLate_2 : List UInt8 := dkwX2_isLate_2 ++ dktX2_isLate_3
def dkwX2_isLate_1 : List UInt8 := [42, 180, 0, 22, 27, 182, 0, 68, 192, 1, 32, 180, 1, 35, 153, 0, 7, 5, 167, 0, 4, 3]
abbrev dktX2_isLate_1 : List UInt8 := dkwX2_isLate_1 ++ dktX2_isLate_2
def dkwX2_isLate_0 : List UInt8 := [42, 27, 133, 9, 42, 180, 0, 22, 182, 0, 48, 4, 100, 133, 184, 0, 52, 154, 0, 7, 4, 167, 0, 25]
abbrev dktX2_isLate_0 : List UInt8 := dkwX2_isLate_0 ++ dktX2_isLate_1
theorem dksX2_isLate_0 : cX2_isLate.data.toList.drop 0 = dktX2_isLate_0 := by decide +kernel
theorem dksX2_isLate_1 : cX2_isLate.data.toList.drop 24 = dktX2_isLate_1 := dk_seg dksX2_isLate_0 24 rfl rfl
theorem dksX2_isLate_2 : cX2_isLate.data.toList.drop 46 = dktX2_isLate_2 := dk_seg dksX2_isLate_1 22 rfl rfl
theorem dksX2_isLate_3 : cX2_isLate.data.toList.drop 68 = dktX2_isLate_3 := dk_seg dksX2_isLate_2 22 rfl rfl
theorem dX2_isLate_0 : decode cX2_isLate 0 = .ok (.aload_n 0, 1) := dk_42 (dk_at dksX2_isLate_0 0 rfl rfl)
theorem dX2_isLate_1 : decode cX2_isLate 1 = .ok (.iload_n 1, 1) := dk_27 (dk_at dksX2_isLate_0 1 rfl rfl)
theorem dX2_isLate_2 : decode cX2_isLate 2 = .ok (.i2l, 1) := dk_133 (dk_at dksX2_isLate_0 2 rfl rfl)
theorem dX2_isLate_3 : decode cX2_isLate 3 = .ok (.lconst 0, 1) := dk_9 (dk_at dksX2_isLate_0 3 rfl rfl)
theorem dX2_isLate_4 : decode cX2_isLate 4 = .ok (.aload_n 0, 1) := dk_42 (dk_at dksX2_isLate_0 4 rfl rfl)
theorem dX2_isLate_5 : decode cX2_isLate 5 = .ok (.getfield 22, 3) := dk_180 0 22 (dk_at dksX2_isLate_0 5 rfl rfl)
theorem dX2_isLate_8 : decode cX2_isLate 8 = .ok (.invokevirtual 48, 3) := dk_182 0 48 (dk_at dksX2_isLate_0 8 rfl rfl)
theorem dX2_isLate_11 : decode cX2_isLate 11 = .ok (.iconst 1, 1) := dk_4 (dk_at dksX2_isLate_0 11 rfl rfl)
theorem dX2_isLate_12 : decode cX2_isLate 12 = .ok (.isub, 1) := dk_100 (dk_at dksX2_isLate_0 12 rfl rfl)
theorem dX2_isLate_13 : decode cX2_isLate 13 = .ok (.i2l, 1) := dk_133 (dk_at dksX2_isLate_0 13 rfl rfl)
theorem dX2_isLate_14 : decode cX2_isLate 14 = .ok (.invokestatic 52, 3) := dk_184 0 52 (dk_at dksX2_isLate_0 14 rfl rfl)
theorem dX2_isLate_17 : decode cX2_isLate 17 = .ok (.ifCond .ne 7, 3) := dk_154 0 7 (dk_at dksX2_isLate_0 17 rfl rfl)
theorem dX2_isLate_20 : decode cX2_isLate 20 = .ok (.iconst 1, 1) := dk_4 (dk_at dksX2_isLate_0 20 rfl rfl)
theorem dX2_isLate_21 : decode cX2_isLate 21 = .ok (.goto 25, 3) := dk_167 0 25 (dk_at dksX2_isLate_0 21 rfl rfl)
theorem dX2_isLate_24 : decode cX2_isLate 24 = .ok (.aload_n 0, 1) := dk_42 (dk_at dksX2_isLate_1 0 rfl rfl)
theorem dX2_isLate_25 : decode cX2_isLate 25 = .ok (.getfield 22, 3) := dk_180 0 22 (dk_at dksX2_isLate_1 1 rfl rfl)
theorem dX2_isLate_28 : decode cX2_isLate 28 = .ok (.iload_n 1, 1) := dk_27 (dk_at dksX2_isLate_1 4 rfl rfl)
theorem dX2_isLate_29 : decode cX2_isLate 29 = .ok (.invokevirtual 68, 3) := dk_182 0 68 (dk_at dksX2_isLate_1 5 rfl rfl)
theorem dX2_isLate_32 : decode cX2_isLate 32 = .ok (.checkcast 288, 3) := dk_192 1 32 (dk_at dksX2_isLate_1 8 rfl rfl)
theorem dX2_isLate_35 : decode cX2_isLate 35 = .ok (.getfield 291, 3) := dk_180 1 35 (dk_at dksX2_isLate_1 11 rfl rfl)
theorem dX2_isLate_38 : decode cX2_isLate 38 = .ok (.ifCond .eq 7, 3) := dk_153 0 7 (dk_at dksX2_isLate_1 14 rfl rfl)
theorem dX2_isLate_41 : decode cX2_isLate 41 = .ok (.iconst 2, 1) := dk_5 (dk_at dksX2_isLate_1 17 rfl rfl)
theorem dX2_isLate_42 : decode cX2_isLate 42 = .ok (.goto 4, 3) := dk_167 0 4 (dk_at dksX2_isLate_1 18 rfl rfl)
theorem dX2_isLate_45 : decode cX2_isLate 45 = .ok (.iconst 0, 1) := dk_3 (dk_at dksX2_isLate_1 21 rfl rfl)
theorem dX2_isLate_46 : decode cX2_isLate 46 = .ok (.putfield 44, 3) := dk_181 0 44 (dk_at dksX2_isLate_2 0 rfl rfl)
theorem dX2_isLate_49 : decode cX2_isLate 49 = .ok (.aload_n 0, 1) := dk_42 (dk_at dksX2_isLate_2 3 rfl rfl)
theorem dX2_isLate_50 : decode cX2_isLate 50 = .ok (.getfield 44, 3) := dk_180 0 44 (dk_at dksX2_isLate_2 4 rfl rfl)
theorem dX2_isLate_53 : decode cX2_isLate 53 = .ok (.ifCond .ne 28, 3) := dk_154 0 28 (dk_at dksX2_isLate_2 7 rfl rfl)
theorem dX2_isLate_56 : decode cX2_isLate 56 = .ok (.aload_n 0, 1) := dk_42 (dk_at dksX2_isLate_2 10 rfl rfl)
theorem dX2_isLate_57 : decode cX2_isLate 57 = .ok (.getfield 86, 3) := dk_180 0 86 (dk_at dksX2_isLate_2 11 rfl rfl)
theorem dX2_isLate_60 : decode cX2_isLate 60 = .ok (.aload_n 0, 1) := dk_42 (dk_at dksX2_isLate_2 14 rfl rfl)
theorem dX2_isLate_61 : decode cX2_isLate 61 = .ok (.getfield 22, 3) := dk_180 0 22 (dk_at dksX2_isLate_2 15 rfl rfl)
theorem dX2_isLate_64 : decode cX2_isLate 64 = .ok (.iload_n 1, 1) := dk_27 (dk_at dksX2_isLate_2 18 rfl rfl)
theorem dX2_isLate_65 : decode cX2_isLate 65 = .ok (.invokevirtual 68, 3) := dk_182 0 68 (dk_at dksX2_isLate_2 19 rfl rfl)
theorem dX2_isLate_68 : decode cX2_isLate 68 = .ok (.checkcast 288, 3) := dk_192 1 32 (dk_at dksX2_isLate_3 0 rfl rfl)
theorem dX2_isLate_71 : decode cX2_isLate 71 = .ok (.getfield 294, 3) := dk_180 1 38 (dk_at dksX2_isLate_3 3 rfl rfl)
theorem dX2_isLate_74 : decode cX2_isLate 74 = .ok (.if_icmp .le 7, 3) := dk_164 0 7 (dk_at dksX2_isLate_3 6 rfl rfl)
theorem dX2_isLate_77 : decode cX2_isLate 77 = .ok (.iconst 1, 1) := dk_4 (dk_at dksX2_isLate_3 9 rfl rfl)
theorem dX2_isLate_78 : decode cX2_isLate 78 = .ok (.goto 4, 3) := dk_167 0 4 (dk_at dksX2_isLate_3 10 rfl rfl)
theorem dX2_isLate_81 : decode cX2_isLate 81 = .ok (.iconst 0, 1) := dk_3 (dk_at dksX2_isLate_3 13 rfl rfl)
theorem dX2_isLate_82 : decode cX2_isLate 82 = .ok (.ireturn, 1) := dk_172 (dk_at dksX2_isLate_3 14 rfl rfl)
abbrev cX2_back : ByteArray := prog_17_method_48_code
def yX2_back : MethodName := ⟨RX2, "back", "(III)I"⟩
def dkwX2_back_8 : List UInt8 := [192, 0, 180, 3, 92, 46, 21, 7, 96, 79, 21, 7, 172]
abbrev dktX2_back_8 : List UInt8 := dkwX2_back_8 ++ []
def dkwX2_back_7 : List UInt8 := [21, 6, 133, 105, 20, 1, 14, 109, 136, 54, 7, 42, 180, 0, 37, 25, 4, 180, 1, 44, 182, 0, 68]
abbrev dktX2_back_7 : List UInt8 := dkwX2_back_7 ++ dktX2_back_8
def dkwX2_back_6 : List UInt8 := [25, 5, 16, 101, 29, 4, 182, 0, 223, 54, 6, 42, 25, 5, 28, 182, 0, 172, 25, 5, 180, 1, 8, 133]
abbrev dktX2_back_6 : List UInt8 := dkwX2_back_6 ++ dktX2_back_7
def dkwX2_back_5 : List UInt8 := [167, 0, 4, 3, 181, 0, 44, 42, 180, 0, 44, 158, 0, 5, 3, 172, 25, 4, 4, 181, 1, 35, 42]
abbrev dktX2_back_5 : List UInt8 := dkwX2_back_5 ++ dktX2_back_6
def dkwX2_back_4 : List UInt8 := [25, 4, 180, 1, 35, 154, 0, 16, 42, 28, 25, 5, 180, 0, 120, 182, 0, 165, 154, 0, 7, 6]
abbrev dktX2_back_4 : List UInt8 := dkwX2_back_4 ++ dktX2_back_5
def dkwX2_back_3 : List UInt8 := [192, 1, 32, 58, 4, 42, 180, 0, 19, 25, 4, 180, 1, 41, 182, 0, 68, 192, 0, 64, 58, 5, 42]
abbrev dktX2_back_3 : List UInt8 := dkwX2_back_3 ++ dktX2_back_4
def dkwX2_back_2 : List UInt8 := [167, 0, 4, 3, 181, 0, 44, 42, 180, 0, 44, 158, 0, 5, 3, 172, 42, 180, 0, 22, 27, 182, 0, 68]
abbrev dktX2_back_2 : List UInt8 := dkwX2_back_2 ++ dktX2_back_3
def dkwX2_back_1 : List UInt8 := [182, 0, 60, 154, 0, 7, 4, 167, 0, 20, 29, 133, 9, 20, 1, 14, 184, 0, 52, 154, 0, 7, 5]
abbrev dktX2_back_1 : List UInt8 := dkwX2_back_1 ++ dktX2_back_2
def dkwX2_back_0 : List UInt8 := [42, 27, 133, 9, 42, 180, 0, 22, 182, 0, 48, 4, 100, 133, 184, 0, 52, 153, 0, 11, 42, 28]
abbrev dktX2_back_0 : List UInt8 := dkwX2_back_0 ++ dktX2_back_1
theorem dksX2_back_0 : cX2_back.data.toList.drop 0 = dktX2_back_0 := by decide +kernel
theorem dksX2_back_1 : cX2_back.data.toList.drop 22 = dktX2_back_1 := dk_seg dksX2_back_0 22 rfl rfl
theorem dksX2_back_2 : cX2_back.data.toList.drop 45 = dktX2_back_2 := dk_seg dksX2_back_1 23 rfl rfl
theorem dksX2_back_3 : cX2_back.data.toList.drop 69 = dktX2_back_3 := dk_seg dksX2_back_2 24 rfl rfl
theorem dksX2_back_4 : cX2_back.data.toList.drop 92 = dktX2_back_4 := dk_seg dksX2_back_3 23 rfl rfl
theorem dksX2_back_5 : cX2_back.data.toList.drop 114 = dktX2_back_5 := dk_seg dksX2_back_4 22 rfl rfl
theorem dksX2_back_6 : cX2_back.data.toList.drop 137 = dktX2_back_6 := dk_seg dksX2_back_5 23 rfl rfl
theorem dksX2_back_7 : cX2_back.data.toList.drop 161 = dktX2_back_7 := dk_seg dksX2_back_6 24 rfl rfl
theorem dksX2_back_8 : cX2_back.data.toList.drop 184 = dktX2_back_8 := dk_seg dksX2_back_7 23 rfl rfl
theorem dX2_back_0 : decode cX2_back 0 = .ok (.aload_n 0, 1) := dk_42 (dk_at dksX2_back_0 0 rfl rfl)
theorem dX2_back_1 : decode cX2_back 1 = .ok (.iload_n 1, 1) := dk_27 (dk_at dksX2_back_0 1 rfl rfl)
theorem dX2_back_2 : decode cX2_back 2 = .ok (.i2l, 1) := dk_133 (dk_at dksX2_back_0 2 rfl rfl)
theorem dX2_back_3 : decode cX2_back 3 = .ok (.lconst 0, 1) := dk_9 (dk_at dksX2_back_0 3 rfl rfl)
theorem dX2_back_4 : decode cX2_back 4 = .ok (.aload_n 0, 1) := dk_42 (dk_at dksX2_back_0 4 rfl rfl)
theorem dX2_back_5 : decode cX2_back 5 = .ok (.getfield 22, 3) := dk_180 0 22 (dk_at dksX2_back_0 5 rfl rfl)
theorem dX2_back_8 : decode cX2_back 8 = .ok (.invokevirtual 48, 3) := dk_182 0 48 (dk_at dksX2_back_0 8 rfl rfl)
theorem dX2_back_11 : decode cX2_back 11 = .ok (.iconst 1, 1) := dk_4 (dk_at dksX2_back_0 11 rfl rfl)
theorem dX2_back_12 : decode cX2_back 12 = .ok (.isub, 1) := dk_100 (dk_at dksX2_back_0 12 rfl rfl)
theorem dX2_back_13 : decode cX2_back 13 = .ok (.i2l, 1) := dk_133 (dk_at dksX2_back_0 13 rfl rfl)
theorem dX2_back_14 : decode cX2_back 14 = .ok (.invokestatic 52, 3) := dk_184 0 52 (dk_at dksX2_back_0 14 rfl rfl)
theorem dX2_back_17 : decode cX2_back 17 = .ok (.ifCond .eq 11, 3) := dk_153 0 11 (dk_at dksX2_back_0 17 rfl rfl)
theorem dX2_back_20 : decode cX2_back 20 = .ok (.aload_n 0, 1) := dk_42 (dk_at dksX2_back_0 20 rfl rfl)
theorem dX2_back_21 : decode cX2_back 21 = .ok (.iload_n 2, 1) := dk_28 (dk_at dksX2_back_0 21 rfl rfl)
theorem dX2_back_22 : decode cX2_back 22 = .ok (.invokevirtual 60, 3) := dk_182 0 60 (dk_at dksX2_back_1 0 rfl rfl)
theorem dX2_back_25 : decode cX2_back 25 = .ok (.ifCond .ne 7, 3) := dk_154 0 7 (dk_at dksX2_back_1 3 rfl rfl)
theorem dX2_back_28 : decode cX2_back 28 = .ok (.iconst 1, 1) := dk_4 (dk_at dksX2_back_1 6 rfl rfl)
theorem dX2_back_29 : decode cX2_back 29 = .ok (.goto 20, 3) := dk_167 0 20 (dk_at dksX2_back_1 7 rfl rfl)
theorem dX2_back_32 : decode cX2_back 32 = .ok (.iload_n 3, 1) := dk_29 (dk_at dksX2_back_1 10 rfl rfl)
theorem dX2_back_33 : decode cX2_back 33 = .ok (.i2l, 1) := dk_133 (dk_at dksX2_back_1 11 rfl rfl)
theorem dX2_back_34 : decode cX2_back 34 = .ok (.lconst 0, 1) := dk_9 (dk_at dksX2_back_1 12 rfl rfl)
theorem dX2_back_35 : decode cX2_back 35 = .ok (.ldc2_w 270, 3) := dk_20 1 14 (dk_at dksX2_back_1 13 rfl rfl)
theorem dX2_back_38 : decode cX2_back 38 = .ok (.invokestatic 52, 3) := dk_184 0 52 (dk_at dksX2_back_1 16 rfl rfl)
theorem dX2_back_41 : decode cX2_back 41 = .ok (.ifCond .ne 7, 3) := dk_154 0 7 (dk_at dksX2_back_1 19 rfl rfl)
theorem dX2_back_44 : decode cX2_back 44 = .ok (.iconst 2, 1) := dk_5 (dk_at dksX2_back_1 22 rfl rfl)
theorem dX2_back_45 : decode cX2_back 45 = .ok (.goto 4, 3) := dk_167 0 4 (dk_at dksX2_back_2 0 rfl rfl)
theorem dX2_back_48 : decode cX2_back 48 = .ok (.iconst 0, 1) := dk_3 (dk_at dksX2_back_2 3 rfl rfl)
theorem dX2_back_49 : decode cX2_back 49 = .ok (.putfield 44, 3) := dk_181 0 44 (dk_at dksX2_back_2 4 rfl rfl)
theorem dX2_back_52 : decode cX2_back 52 = .ok (.aload_n 0, 1) := dk_42 (dk_at dksX2_back_2 7 rfl rfl)
theorem dX2_back_53 : decode cX2_back 53 = .ok (.getfield 44, 3) := dk_180 0 44 (dk_at dksX2_back_2 8 rfl rfl)
theorem dX2_back_56 : decode cX2_back 56 = .ok (.ifCond .le 5, 3) := dk_158 0 5 (dk_at dksX2_back_2 11 rfl rfl)
theorem dX2_back_59 : decode cX2_back 59 = .ok (.iconst 0, 1) := dk_3 (dk_at dksX2_back_2 14 rfl rfl)
theorem dX2_back_60 : decode cX2_back 60 = .ok (.ireturn, 1) := dk_172 (dk_at dksX2_back_2 15 rfl rfl)
theorem dX2_back_61 : decode cX2_back 61 = .ok (.aload_n 0, 1) := dk_42 (dk_at dksX2_back_2 16 rfl rfl)
theorem dX2_back_62 : decode cX2_back 62 = .ok (.getfield 22, 3) := dk_180 0 22 (dk_at dksX2_back_2 17 rfl rfl)
theorem dX2_back_65 : decode cX2_back 65 = .ok (.iload_n 1, 1) := dk_27 (dk_at dksX2_back_2 20 rfl rfl)
theorem dX2_back_66 : decode cX2_back 66 = .ok (.invokevirtual 68, 3) := dk_182 0 68 (dk_at dksX2_back_2 21 rfl rfl)
theorem dX2_back_69 : decode cX2_back 69 = .ok (.checkcast 288, 3) := dk_192 1 32 (dk_at dksX2_back_3 0 rfl rfl)
theorem dX2_back_72 : decode cX2_back 72 = .ok (.astore 4, 2) := dk_58 4 (dk_at dksX2_back_3 3 rfl rfl)
theorem dX2_back_74 : decode cX2_back 74 = .ok (.aload_n 0, 1) := dk_42 (dk_at dksX2_back_3 5 rfl rfl)
theorem dX2_back_75 : decode cX2_back 75 = .ok (.getfield 19, 3) := dk_180 0 19 (dk_at dksX2_back_3 6 rfl rfl)
theorem dX2_back_78 : decode cX2_back 78 = .ok (.aload 4, 2) := dk_25 4 (dk_at dksX2_back_3 9 rfl rfl)
theorem dX2_back_80 : decode cX2_back 80 = .ok (.getfield 297, 3) := dk_180 1 41 (dk_at dksX2_back_3 11 rfl rfl)
theorem dX2_back_83 : decode cX2_back 83 = .ok (.invokevirtual 68, 3) := dk_182 0 68 (dk_at dksX2_back_3 14 rfl rfl)
theorem dX2_back_86 : decode cX2_back 86 = .ok (.checkcast 64, 3) := dk_192 0 64 (dk_at dksX2_back_3 17 rfl rfl)
theorem dX2_back_89 : decode cX2_back 89 = .ok (.astore 5, 2) := dk_58 5 (dk_at dksX2_back_3 20 rfl rfl)
theorem dX2_back_91 : decode cX2_back 91 = .ok (.aload_n 0, 1) := dk_42 (dk_at dksX2_back_3 22 rfl rfl)
theorem dX2_back_92 : decode cX2_back 92 = .ok (.aload 4, 2) := dk_25 4 (dk_at dksX2_back_4 0 rfl rfl)
theorem dX2_back_94 : decode cX2_back 94 = .ok (.getfield 291, 3) := dk_180 1 35 (dk_at dksX2_back_4 2 rfl rfl)
theorem dX2_back_97 : decode cX2_back 97 = .ok (.ifCond .ne 16, 3) := dk_154 0 16 (dk_at dksX2_back_4 5 rfl rfl)
theorem dX2_back_100 : decode cX2_back 100 = .ok (.aload_n 0, 1) := dk_42 (dk_at dksX2_back_4 8 rfl rfl)
theorem dX2_back_101 : decode cX2_back 101 = .ok (.iload_n 2, 1) := dk_28 (dk_at dksX2_back_4 9 rfl rfl)
theorem dX2_back_102 : decode cX2_back 102 = .ok (.aload 5, 2) := dk_25 5 (dk_at dksX2_back_4 10 rfl rfl)
theorem dX2_back_104 : decode cX2_back 104 = .ok (.getfield 120, 3) := dk_180 0 120 (dk_at dksX2_back_4 12 rfl rfl)
theorem dX2_back_107 : decode cX2_back 107 = .ok (.invokevirtual 165, 3) := dk_182 0 165 (dk_at dksX2_back_4 15 rfl rfl)
theorem dX2_back_110 : decode cX2_back 110 = .ok (.ifCond .ne 7, 3) := dk_154 0 7 (dk_at dksX2_back_4 18 rfl rfl)
theorem dX2_back_113 : decode cX2_back 113 = .ok (.iconst 3, 1) := dk_6 (dk_at dksX2_back_4 21 rfl rfl)
theorem dX2_back_114 : decode cX2_back 114 = .ok (.goto 4, 3) := dk_167 0 4 (dk_at dksX2_back_5 0 rfl rfl)
theorem dX2_back_117 : decode cX2_back 117 = .ok (.iconst 0, 1) := dk_3 (dk_at dksX2_back_5 3 rfl rfl)
theorem dX2_back_118 : decode cX2_back 118 = .ok (.putfield 44, 3) := dk_181 0 44 (dk_at dksX2_back_5 4 rfl rfl)
theorem dX2_back_121 : decode cX2_back 121 = .ok (.aload_n 0, 1) := dk_42 (dk_at dksX2_back_5 7 rfl rfl)
theorem dX2_back_122 : decode cX2_back 122 = .ok (.getfield 44, 3) := dk_180 0 44 (dk_at dksX2_back_5 8 rfl rfl)
theorem dX2_back_125 : decode cX2_back 125 = .ok (.ifCond .le 5, 3) := dk_158 0 5 (dk_at dksX2_back_5 11 rfl rfl)
theorem dX2_back_128 : decode cX2_back 128 = .ok (.iconst 0, 1) := dk_3 (dk_at dksX2_back_5 14 rfl rfl)
theorem dX2_back_129 : decode cX2_back 129 = .ok (.ireturn, 1) := dk_172 (dk_at dksX2_back_5 15 rfl rfl)
theorem dX2_back_130 : decode cX2_back 130 = .ok (.aload 4, 2) := dk_25 4 (dk_at dksX2_back_5 16 rfl rfl)
theorem dX2_back_132 : decode cX2_back 132 = .ok (.iconst 1, 1) := dk_4 (dk_at dksX2_back_5 18 rfl rfl)
theorem dX2_back_133 : decode cX2_back 133 = .ok (.putfield 291, 3) := dk_181 1 35 (dk_at dksX2_back_5 19 rfl rfl)
theorem dX2_back_136 : decode cX2_back 136 = .ok (.aload_n 0, 1) := dk_42 (dk_at dksX2_back_5 22 rfl rfl)
theorem dX2_back_137 : decode cX2_back 137 = .ok (.aload 5, 2) := dk_25 5 (dk_at dksX2_back_6 0 rfl rfl)
theorem dX2_back_139 : decode cX2_back 139 = .ok (.bipush 101, 2) := dk_16 101 (dk_at dksX2_back_6 2 rfl rfl)
theorem dX2_back_141 : decode cX2_back 141 = .ok (.iload_n 3, 1) := dk_29 (dk_at dksX2_back_6 4 rfl rfl)
theorem dX2_back_142 : decode cX2_back 142 = .ok (.iconst 1, 1) := dk_4 (dk_at dksX2_back_6 5 rfl rfl)
theorem dX2_back_143 : decode cX2_back 143 = .ok (.invokevirtual 223, 3) := dk_182 0 223 (dk_at dksX2_back_6 6 rfl rfl)
theorem dX2_back_146 : decode cX2_back 146 = .ok (.istore 6, 2) := dk_54 6 (dk_at dksX2_back_6 9 rfl rfl)
theorem dX2_back_148 : decode cX2_back 148 = .ok (.aload_n 0, 1) := dk_42 (dk_at dksX2_back_6 11 rfl rfl)
theorem dX2_back_149 : decode cX2_back 149 = .ok (.aload 5, 2) := dk_25 5 (dk_at dksX2_back_6 12 rfl rfl)
theorem dX2_back_151 : decode cX2_back 151 = .ok (.iload_n 2, 1) := dk_28 (dk_at dksX2_back_6 14 rfl rfl)
theorem dX2_back_152 : decode cX2_back 152 = .ok (.invokevirtual 172, 3) := dk_182 0 172 (dk_at dksX2_back_6 15 rfl rfl)
theorem dX2_back_155 : decode cX2_back 155 = .ok (.aload 5, 2) := dk_25 5 (dk_at dksX2_back_6 18 rfl rfl)
theorem dX2_back_157 : decode cX2_back 157 = .ok (.getfield 264, 3) := dk_180 1 8 (dk_at dksX2_back_6 20 rfl rfl)
theorem dX2_back_160 : decode cX2_back 160 = .ok (.i2l, 1) := dk_133 (dk_at dksX2_back_6 23 rfl rfl)
theorem dX2_back_161 : decode cX2_back 161 = .ok (.iload 6, 2) := dk_21 6 (dk_at dksX2_back_7 0 rfl rfl)
theorem dX2_back_163 : decode cX2_back 163 = .ok (.i2l, 1) := dk_133 (dk_at dksX2_back_7 2 rfl rfl)
theorem dX2_back_164 : decode cX2_back 164 = .ok (.lmul, 1) := dk_105 (dk_at dksX2_back_7 3 rfl rfl)
theorem dX2_back_165 : decode cX2_back 165 = .ok (.ldc2_w 270, 3) := dk_20 1 14 (dk_at dksX2_back_7 4 rfl rfl)
theorem dX2_back_168 : decode cX2_back 168 = .ok (.ldiv, 1) := dk_109 (dk_at dksX2_back_7 7 rfl rfl)
theorem dX2_back_169 : decode cX2_back 169 = .ok (.l2i, 1) := dk_136 (dk_at dksX2_back_7 8 rfl rfl)
theorem dX2_back_170 : decode cX2_back 170 = .ok (.istore 7, 2) := dk_54 7 (dk_at dksX2_back_7 9 rfl rfl)
theorem dX2_back_172 : decode cX2_back 172 = .ok (.aload_n 0, 1) := dk_42 (dk_at dksX2_back_7 11 rfl rfl)
theorem dX2_back_173 : decode cX2_back 173 = .ok (.getfield 37, 3) := dk_180 0 37 (dk_at dksX2_back_7 12 rfl rfl)
theorem dX2_back_176 : decode cX2_back 176 = .ok (.aload 4, 2) := dk_25 4 (dk_at dksX2_back_7 15 rfl rfl)
theorem dX2_back_178 : decode cX2_back 178 = .ok (.getfield 300, 3) := dk_180 1 44 (dk_at dksX2_back_7 17 rfl rfl)
theorem dX2_back_181 : decode cX2_back 181 = .ok (.invokevirtual 68, 3) := dk_182 0 68 (dk_at dksX2_back_7 20 rfl rfl)
theorem dX2_back_184 : decode cX2_back 184 = .ok (.checkcast 180, 3) := dk_192 0 180 (dk_at dksX2_back_8 0 rfl rfl)
theorem dX2_back_187 : decode cX2_back 187 = .ok (.iconst 0, 1) := dk_3 (dk_at dksX2_back_8 3 rfl rfl)
theorem dX2_back_188 : decode cX2_back 188 = .ok (.dup2, 1) := dk_92 (dk_at dksX2_back_8 4 rfl rfl)
theorem dX2_back_189 : decode cX2_back 189 = .ok (.iaload, 1) := dk_46 (dk_at dksX2_back_8 5 rfl rfl)
theorem dX2_back_190 : decode cX2_back 190 = .ok (.iload 7, 2) := dk_21 7 (dk_at dksX2_back_8 6 rfl rfl)
theorem dX2_back_192 : decode cX2_back 192 = .ok (.iadd, 1) := dk_96 (dk_at dksX2_back_8 8 rfl rfl)
theorem dX2_back_193 : decode cX2_back 193 = .ok (.iastore, 1) := dk_79 (dk_at dksX2_back_8 9 rfl rfl)
theorem dX2_back_194 : decode cX2_back 194 = .ok (.iload 7, 2) := dk_21 7 (dk_at dksX2_back_8 10 rfl rfl)
theorem dX2_back_196 : decode cX2_back 196 = .ok (.ireturn, 1) := dk_172 (dk_at dksX2_back_8 12 rfl rfl)
abbrev cX2_owner : ByteArray := prog_17_method_49_code
def yX2_owner : MethodName := ⟨RX2, "owner", "(IIIIC)I"⟩
def dkwX2_owner_8 : List UInt8 := [182, 0, 89, 87, 25, 6, 182, 0, 48, 172]
abbrev dktX2_owner_8 : List UInt8 := dkwX2_owner_8 ++ []
def dkwX2_owner_7 : List UInt8 := [180, 0, 44, 158, 0, 5, 3, 172, 25, 6, 187, 1, 61, 89, 28, 29, 21, 4, 21, 5, 183, 1, 66]
abbrev dktX2_owner_7 : List UInt8 := dkwX2_owner_7 ++ dktX2_owner_8
def dkwX2_owner_6 : List UInt8 := [167, 0, 18, 25, 6, 182, 0, 48, 16, 8, 160, 0, 7, 7, 167, 0, 4, 3, 181, 0, 44, 42]
abbrev dktX2_owner_6 : List UInt8 := dkwX2_owner_6 ++ dktX2_owner_7
def dkwX2_owner_5 : List UInt8 := [167, 0, 4, 3, 54, 8, 42, 21, 7, 154, 0, 7, 5, 167, 0, 27, 21, 8, 153, 0, 7, 6]
abbrev dktX2_owner_5 : List UInt8 := dkwX2_owner_5 ++ dktX2_owner_6
def dkwX2_owner_4 : List UInt8 := [29, 25, 6, 25, 6, 182, 0, 48, 4, 100, 182, 0, 68, 192, 1, 61, 180, 1, 63, 162, 0, 7, 4]
abbrev dktX2_owner_4 : List UInt8 := dkwX2_owner_4 ++ dktX2_owner_5
def dkwX2_owner_3 : List UInt8 := [20, 1, 56, 184, 0, 52, 153, 0, 7, 4, 167, 0, 4, 3, 54, 7, 25, 6, 182, 1, 58, 154, 0, 29]
abbrev dktX2_owner_3 : List UInt8 := dkwX2_owner_3 ++ dktX2_owner_4
def dkwX2_owner_2 : List UInt8 := [153, 0, 35, 29, 133, 20, 1, 54, 20, 1, 56, 184, 0, 52, 153, 0, 21, 21, 4, 133, 29, 133]
abbrev dktX2_owner_2 : List UInt8 := dkwX2_owner_2 ++ dktX2_owner_3
def dkwX2_owner_1 : List UInt8 := [58, 6, 19, 1, 50, 21, 5, 182, 0, 243, 155, 0, 47, 28, 133, 9, 20, 1, 52, 184, 0, 52]
abbrev dktX2_owner_1 : List UInt8 := dkwX2_owner_1 ++ dktX2_owner_2
def dkwX2_owner_0 : List UInt8 := [42, 27, 182, 0, 185, 153, 0, 5, 3, 172, 42, 180, 0, 19, 27, 182, 0, 68, 192, 0, 64, 180, 1, 47]
abbrev dktX2_owner_0 : List UInt8 := dkwX2_owner_0 ++ dktX2_owner_1
theorem dksX2_owner_0 : cX2_owner.data.toList.drop 0 = dktX2_owner_0 := by decide +kernel
theorem dksX2_owner_1 : cX2_owner.data.toList.drop 24 = dktX2_owner_1 := dk_seg dksX2_owner_0 24 rfl rfl
theorem dksX2_owner_2 : cX2_owner.data.toList.drop 46 = dktX2_owner_2 := dk_seg dksX2_owner_1 22 rfl rfl
theorem dksX2_owner_3 : cX2_owner.data.toList.drop 68 = dktX2_owner_3 := dk_seg dksX2_owner_2 22 rfl rfl
theorem dksX2_owner_4 : cX2_owner.data.toList.drop 92 = dktX2_owner_4 := dk_seg dksX2_owner_3 24 rfl rfl
theorem dksX2_owner_5 : cX2_owner.data.toList.drop 115 = dktX2_owner_5 := dk_seg dksX2_owner_4 23 rfl rfl
theorem dksX2_owner_6 : cX2_owner.data.toList.drop 137 = dktX2_owner_6 := dk_seg dksX2_owner_5 22 rfl rfl
theorem dksX2_owner_7 : cX2_owner.data.toList.drop 159 = dktX2_owner_7 := dk_seg dksX2_owner_6 22 rfl rfl
theorem dksX2_owner_8 : cX2_owner.data.toList.drop 182 = dktX2_owner_8 := dk_seg dksX2_owner_7 23 rfl rfl
theorem dX2_owner_0 : decode cX2_owner 0 = .ok (.aload_n 0, 1) := dk_42 (dk_at dksX2_owner_0 0 rfl rfl)
theorem dX2_owner_1 : decode cX2_owner 1 = .ok (.iload_n 1, 1) := dk_27 (dk_at dksX2_owner_0 1 rfl rfl)
theorem dX2_owner_2 : decode cX2_owner 2 = .ok (.invokevirtual 185, 3) := dk_182 0 185 (dk_at dksX2_owner_0 2 rfl rfl)
theorem dX2_owner_5 : decode cX2_owner 5 = .ok (.ifCond .eq 5, 3) := dk_153 0 5 (dk_at dksX2_owner_0 5 rfl rfl)
theorem dX2_owner_8 : decode cX2_owner 8 = .ok (.iconst 0, 1) := dk_3 (dk_at dksX2_owner_0 8 rfl rfl)
theorem dX2_owner_9 : decode cX2_owner 9 = .ok (.ireturn, 1) := dk_172 (dk_at dksX2_owner_0 9 rfl rfl)
theorem dX2_owner_10 : decode cX2_owner 10 = .ok (.aload_n 0, 1) := dk_42 (dk_at dksX2_owner_0 10 rfl rfl)
theorem dX2_owner_11 : decode cX2_owner 11 = .ok (.getfield 19, 3) := dk_180 0 19 (dk_at dksX2_owner_0 11 rfl rfl)
theorem dX2_owner_14 : decode cX2_owner 14 = .ok (.iload_n 1, 1) := dk_27 (dk_at dksX2_owner_0 14 rfl rfl)
theorem dX2_owner_15 : decode cX2_owner 15 = .ok (.invokevirtual 68, 3) := dk_182 0 68 (dk_at dksX2_owner_0 15 rfl rfl)
theorem dX2_owner_18 : decode cX2_owner 18 = .ok (.checkcast 64, 3) := dk_192 0 64 (dk_at dksX2_owner_0 18 rfl rfl)
theorem dX2_owner_21 : decode cX2_owner 21 = .ok (.getfield 303, 3) := dk_180 1 47 (dk_at dksX2_owner_0 21 rfl rfl)
theorem dX2_owner_24 : decode cX2_owner 24 = .ok (.astore 6, 2) := dk_58 6 (dk_at dksX2_owner_1 0 rfl rfl)
theorem dX2_owner_26 : decode cX2_owner 26 = .ok (.ldc_w 306, 3) := dk_19 1 50 (dk_at dksX2_owner_1 2 rfl rfl)
theorem dX2_owner_29 : decode cX2_owner 29 = .ok (.iload 5, 2) := dk_21 5 (dk_at dksX2_owner_1 5 rfl rfl)
theorem dX2_owner_31 : decode cX2_owner 31 = .ok (.invokevirtual 243, 3) := dk_182 0 243 (dk_at dksX2_owner_1 7 rfl rfl)
theorem dX2_owner_34 : decode cX2_owner 34 = .ok (.ifCond .lt 47, 3) := dk_155 0 47 (dk_at dksX2_owner_1 10 rfl rfl)
theorem dX2_owner_37 : decode cX2_owner 37 = .ok (.iload_n 2, 1) := dk_28 (dk_at dksX2_owner_1 13 rfl rfl)
theorem dX2_owner_38 : decode cX2_owner 38 = .ok (.i2l, 1) := dk_133 (dk_at dksX2_owner_1 14 rfl rfl)
theorem dX2_owner_39 : decode cX2_owner 39 = .ok (.lconst 0, 1) := dk_9 (dk_at dksX2_owner_1 15 rfl rfl)
theorem dX2_owner_40 : decode cX2_owner 40 = .ok (.ldc2_w 308, 3) := dk_20 1 52 (dk_at dksX2_owner_1 16 rfl rfl)
theorem dX2_owner_43 : decode cX2_owner 43 = .ok (.invokestatic 52, 3) := dk_184 0 52 (dk_at dksX2_owner_1 19 rfl rfl)
theorem dX2_owner_46 : decode cX2_owner 46 = .ok (.ifCond .eq 35, 3) := dk_153 0 35 (dk_at dksX2_owner_2 0 rfl rfl)
theorem dX2_owner_49 : decode cX2_owner 49 = .ok (.iload_n 3, 1) := dk_29 (dk_at dksX2_owner_2 3 rfl rfl)
theorem dX2_owner_50 : decode cX2_owner 50 = .ok (.i2l, 1) := dk_133 (dk_at dksX2_owner_2 4 rfl rfl)
theorem dX2_owner_51 : decode cX2_owner 51 = .ok (.ldc2_w 310, 3) := dk_20 1 54 (dk_at dksX2_owner_2 5 rfl rfl)
theorem dX2_owner_54 : decode cX2_owner 54 = .ok (.ldc2_w 312, 3) := dk_20 1 56 (dk_at dksX2_owner_2 8 rfl rfl)
theorem dX2_owner_57 : decode cX2_owner 57 = .ok (.invokestatic 52, 3) := dk_184 0 52 (dk_at dksX2_owner_2 11 rfl rfl)
theorem dX2_owner_60 : decode cX2_owner 60 = .ok (.ifCond .eq 21, 3) := dk_153 0 21 (dk_at dksX2_owner_2 14 rfl rfl)
theorem dX2_owner_63 : decode cX2_owner 63 = .ok (.iload 4, 2) := dk_21 4 (dk_at dksX2_owner_2 17 rfl rfl)
theorem dX2_owner_65 : decode cX2_owner 65 = .ok (.i2l, 1) := dk_133 (dk_at dksX2_owner_2 19 rfl rfl)
theorem dX2_owner_66 : decode cX2_owner 66 = .ok (.iload_n 3, 1) := dk_29 (dk_at dksX2_owner_2 20 rfl rfl)
theorem dX2_owner_67 : decode cX2_owner 67 = .ok (.i2l, 1) := dk_133 (dk_at dksX2_owner_2 21 rfl rfl)
theorem dX2_owner_68 : decode cX2_owner 68 = .ok (.ldc2_w 312, 3) := dk_20 1 56 (dk_at dksX2_owner_3 0 rfl rfl)
theorem dX2_owner_71 : decode cX2_owner 71 = .ok (.invokestatic 52, 3) := dk_184 0 52 (dk_at dksX2_owner_3 3 rfl rfl)
theorem dX2_owner_74 : decode cX2_owner 74 = .ok (.ifCond .eq 7, 3) := dk_153 0 7 (dk_at dksX2_owner_3 6 rfl rfl)
theorem dX2_owner_77 : decode cX2_owner 77 = .ok (.iconst 1, 1) := dk_4 (dk_at dksX2_owner_3 9 rfl rfl)
theorem dX2_owner_78 : decode cX2_owner 78 = .ok (.goto 4, 3) := dk_167 0 4 (dk_at dksX2_owner_3 10 rfl rfl)
theorem dX2_owner_81 : decode cX2_owner 81 = .ok (.iconst 0, 1) := dk_3 (dk_at dksX2_owner_3 13 rfl rfl)
theorem dX2_owner_82 : decode cX2_owner 82 = .ok (.istore 7, 2) := dk_54 7 (dk_at dksX2_owner_3 14 rfl rfl)
theorem dX2_owner_84 : decode cX2_owner 84 = .ok (.aload 6, 2) := dk_25 6 (dk_at dksX2_owner_3 16 rfl rfl)
theorem dX2_owner_86 : decode cX2_owner 86 = .ok (.invokevirtual 314, 3) := dk_182 1 58 (dk_at dksX2_owner_3 18 rfl rfl)
theorem dX2_owner_89 : decode cX2_owner 89 = .ok (.ifCond .ne 29, 3) := dk_154 0 29 (dk_at dksX2_owner_3 21 rfl rfl)
theorem dX2_owner_92 : decode cX2_owner 92 = .ok (.iload_n 3, 1) := dk_29 (dk_at dksX2_owner_4 0 rfl rfl)
theorem dX2_owner_93 : decode cX2_owner 93 = .ok (.aload 6, 2) := dk_25 6 (dk_at dksX2_owner_4 1 rfl rfl)
theorem dX2_owner_95 : decode cX2_owner 95 = .ok (.aload 6, 2) := dk_25 6 (dk_at dksX2_owner_4 3 rfl rfl)
theorem dX2_owner_97 : decode cX2_owner 97 = .ok (.invokevirtual 48, 3) := dk_182 0 48 (dk_at dksX2_owner_4 5 rfl rfl)
theorem dX2_owner_100 : decode cX2_owner 100 = .ok (.iconst 1, 1) := dk_4 (dk_at dksX2_owner_4 8 rfl rfl)
theorem dX2_owner_101 : decode cX2_owner 101 = .ok (.isub, 1) := dk_100 (dk_at dksX2_owner_4 9 rfl rfl)
theorem dX2_owner_102 : decode cX2_owner 102 = .ok (.invokevirtual 68, 3) := dk_182 0 68 (dk_at dksX2_owner_4 10 rfl rfl)
theorem dX2_owner_105 : decode cX2_owner 105 = .ok (.checkcast 317, 3) := dk_192 1 61 (dk_at dksX2_owner_4 13 rfl rfl)
theorem dX2_owner_108 : decode cX2_owner 108 = .ok (.getfield 319, 3) := dk_180 1 63 (dk_at dksX2_owner_4 16 rfl rfl)
theorem dX2_owner_111 : decode cX2_owner 111 = .ok (.if_icmp .ge 7, 3) := dk_162 0 7 (dk_at dksX2_owner_4 19 rfl rfl)
theorem dX2_owner_114 : decode cX2_owner 114 = .ok (.iconst 1, 1) := dk_4 (dk_at dksX2_owner_4 22 rfl rfl)
theorem dX2_owner_115 : decode cX2_owner 115 = .ok (.goto 4, 3) := dk_167 0 4 (dk_at dksX2_owner_5 0 rfl rfl)
theorem dX2_owner_118 : decode cX2_owner 118 = .ok (.iconst 0, 1) := dk_3 (dk_at dksX2_owner_5 3 rfl rfl)
theorem dX2_owner_119 : decode cX2_owner 119 = .ok (.istore 8, 2) := dk_54 8 (dk_at dksX2_owner_5 4 rfl rfl)
theorem dX2_owner_121 : decode cX2_owner 121 = .ok (.aload_n 0, 1) := dk_42 (dk_at dksX2_owner_5 6 rfl rfl)
theorem dX2_owner_122 : decode cX2_owner 122 = .ok (.iload 7, 2) := dk_21 7 (dk_at dksX2_owner_5 7 rfl rfl)
theorem dX2_owner_124 : decode cX2_owner 124 = .ok (.ifCond .ne 7, 3) := dk_154 0 7 (dk_at dksX2_owner_5 9 rfl rfl)
theorem dX2_owner_127 : decode cX2_owner 127 = .ok (.iconst 2, 1) := dk_5 (dk_at dksX2_owner_5 12 rfl rfl)
theorem dX2_owner_128 : decode cX2_owner 128 = .ok (.goto 27, 3) := dk_167 0 27 (dk_at dksX2_owner_5 13 rfl rfl)
theorem dX2_owner_131 : decode cX2_owner 131 = .ok (.iload 8, 2) := dk_21 8 (dk_at dksX2_owner_5 16 rfl rfl)
theorem dX2_owner_133 : decode cX2_owner 133 = .ok (.ifCond .eq 7, 3) := dk_153 0 7 (dk_at dksX2_owner_5 18 rfl rfl)
theorem dX2_owner_136 : decode cX2_owner 136 = .ok (.iconst 3, 1) := dk_6 (dk_at dksX2_owner_5 21 rfl rfl)
theorem dX2_owner_137 : decode cX2_owner 137 = .ok (.goto 18, 3) := dk_167 0 18 (dk_at dksX2_owner_6 0 rfl rfl)
theorem dX2_owner_140 : decode cX2_owner 140 = .ok (.aload 6, 2) := dk_25 6 (dk_at dksX2_owner_6 3 rfl rfl)
theorem dX2_owner_142 : decode cX2_owner 142 = .ok (.invokevirtual 48, 3) := dk_182 0 48 (dk_at dksX2_owner_6 5 rfl rfl)
theorem dX2_owner_145 : decode cX2_owner 145 = .ok (.bipush 8, 2) := dk_16 8 (dk_at dksX2_owner_6 8 rfl rfl)
theorem dX2_owner_147 : decode cX2_owner 147 = .ok (.if_icmp .ne 7, 3) := dk_160 0 7 (dk_at dksX2_owner_6 10 rfl rfl)
theorem dX2_owner_150 : decode cX2_owner 150 = .ok (.iconst 4, 1) := dk_7 (dk_at dksX2_owner_6 13 rfl rfl)
theorem dX2_owner_151 : decode cX2_owner 151 = .ok (.goto 4, 3) := dk_167 0 4 (dk_at dksX2_owner_6 14 rfl rfl)
theorem dX2_owner_154 : decode cX2_owner 154 = .ok (.iconst 0, 1) := dk_3 (dk_at dksX2_owner_6 17 rfl rfl)
theorem dX2_owner_155 : decode cX2_owner 155 = .ok (.putfield 44, 3) := dk_181 0 44 (dk_at dksX2_owner_6 18 rfl rfl)
theorem dX2_owner_158 : decode cX2_owner 158 = .ok (.aload_n 0, 1) := dk_42 (dk_at dksX2_owner_6 21 rfl rfl)
theorem dX2_owner_159 : decode cX2_owner 159 = .ok (.getfield 44, 3) := dk_180 0 44 (dk_at dksX2_owner_7 0 rfl rfl)
theorem dX2_owner_162 : decode cX2_owner 162 = .ok (.ifCond .le 5, 3) := dk_158 0 5 (dk_at dksX2_owner_7 3 rfl rfl)
theorem dX2_owner_165 : decode cX2_owner 165 = .ok (.iconst 0, 1) := dk_3 (dk_at dksX2_owner_7 6 rfl rfl)
theorem dX2_owner_166 : decode cX2_owner 166 = .ok (.ireturn, 1) := dk_172 (dk_at dksX2_owner_7 7 rfl rfl)
theorem dX2_owner_167 : decode cX2_owner 167 = .ok (.aload 6, 2) := dk_25 6 (dk_at dksX2_owner_7 8 rfl rfl)
theorem dX2_owner_169 : decode cX2_owner 169 = .ok (.new 317, 3) := dk_187 1 61 (dk_at dksX2_owner_7 10 rfl rfl)
theorem dX2_owner_172 : decode cX2_owner 172 = .ok (.dup, 1) := dk_89 (dk_at dksX2_owner_7 13 rfl rfl)
theorem dX2_owner_173 : decode cX2_owner 173 = .ok (.iload_n 2, 1) := dk_28 (dk_at dksX2_owner_7 14 rfl rfl)
theorem dX2_owner_174 : decode cX2_owner 174 = .ok (.iload_n 3, 1) := dk_29 (dk_at dksX2_owner_7 15 rfl rfl)
theorem dX2_owner_175 : decode cX2_owner 175 = .ok (.iload 4, 2) := dk_21 4 (dk_at dksX2_owner_7 16 rfl rfl)
theorem dX2_owner_177 : decode cX2_owner 177 = .ok (.iload 5, 2) := dk_21 5 (dk_at dksX2_owner_7 18 rfl rfl)
theorem dX2_owner_179 : decode cX2_owner 179 = .ok (.invokespecial 322, 3) := dk_183 1 66 (dk_at dksX2_owner_7 20 rfl rfl)
theorem dX2_owner_182 : decode cX2_owner 182 = .ok (.invokevirtual 89, 3) := dk_182 0 89 (dk_at dksX2_owner_8 0 rfl rfl)
theorem dX2_owner_185 : decode cX2_owner 185 = .ok (.pop, 1) := dk_87 (dk_at dksX2_owner_8 3 rfl rfl)
theorem dX2_owner_186 : decode cX2_owner 186 = .ok (.aload 6, 2) := dk_25 6 (dk_at dksX2_owner_8 4 rfl rfl)
theorem dX2_owner_188 : decode cX2_owner 188 = .ok (.invokevirtual 48, 3) := dk_182 0 48 (dk_at dksX2_owner_8 6 rfl rfl)
theorem dX2_owner_191 : decode cX2_owner 191 = .ok (.ireturn, 1) := dk_172 (dk_at dksX2_owner_8 9 rfl rfl)
abbrev cX2_gaps : ByteArray := prog_17_method_50_code
def yX2_gaps : MethodName := ⟨RX2, "gaps", "(I)I"⟩
def dkwX2_gaps_3 : List UInt8 := [184, 0, 204, 96, 62, 132, 4, 1, 167, 255, 208, 29, 172]
abbrev dktX2_gaps_3 : List UInt8 := dkwX2_gaps_3 ++ []
def dkwX2_gaps_2 : List UInt8 := [192, 1, 61, 180, 1, 69, 44, 21, 4, 4, 100, 182, 0, 68, 192, 1, 61, 180, 1, 63, 100, 4, 100]
abbrev dktX2_gaps_2 : List UInt8 := dkwX2_gaps_2 ++ dktX2_gaps_3
def dkwX2_gaps_1 : List UInt8 := [77, 3, 62, 4, 54, 4, 21, 4, 44, 182, 0, 48, 162, 0, 45, 29, 3, 44, 21, 4, 182, 0, 68]
abbrev dktX2_gaps_1 : List UInt8 := dkwX2_gaps_1 ++ dktX2_gaps_2
def dkwX2_gaps_0 : List UInt8 := [42, 27, 182, 0, 185, 153, 0, 5, 3, 172, 42, 180, 0, 19, 27, 182, 0, 68, 192, 0, 64, 180, 1, 47]
abbrev dktX2_gaps_0 : List UInt8 := dkwX2_gaps_0 ++ dktX2_gaps_1
theorem dksX2_gaps_0 : cX2_gaps.data.toList.drop 0 = dktX2_gaps_0 := by decide +kernel
theorem dksX2_gaps_1 : cX2_gaps.data.toList.drop 24 = dktX2_gaps_1 := dk_seg dksX2_gaps_0 24 rfl rfl
theorem dksX2_gaps_2 : cX2_gaps.data.toList.drop 47 = dktX2_gaps_2 := dk_seg dksX2_gaps_1 23 rfl rfl
theorem dksX2_gaps_3 : cX2_gaps.data.toList.drop 70 = dktX2_gaps_3 := dk_seg dksX2_gaps_2 23 rfl rfl
theorem dX2_gaps_0 : decode cX2_gaps 0 = .ok (.aload_n 0, 1) := dk_42 (dk_at dksX2_gaps_0 0 rfl rfl)
theorem dX2_gaps_1 : decode cX2_gaps 1 = .ok (.iload_n 1, 1) := dk_27 (dk_at dksX2_gaps_0 1 rfl rfl)
theorem dX2_gaps_2 : decode cX2_gaps 2 = .ok (.invokevirtual 185, 3) := dk_182 0 185 (dk_at dksX2_gaps_0 2 rfl rfl)
theorem dX2_gaps_5 : decode cX2_gaps 5 = .ok (.ifCond .eq 5, 3) := dk_153 0 5 (dk_at dksX2_gaps_0 5 rfl rfl)
theorem dX2_gaps_8 : decode cX2_gaps 8 = .ok (.iconst 0, 1) := dk_3 (dk_at dksX2_gaps_0 8 rfl rfl)
theorem dX2_gaps_9 : decode cX2_gaps 9 = .ok (.ireturn, 1) := dk_172 (dk_at dksX2_gaps_0 9 rfl rfl)
theorem dX2_gaps_10 : decode cX2_gaps 10 = .ok (.aload_n 0, 1) := dk_42 (dk_at dksX2_gaps_0 10 rfl rfl)
theorem dX2_gaps_11 : decode cX2_gaps 11 = .ok (.getfield 19, 3) := dk_180 0 19 (dk_at dksX2_gaps_0 11 rfl rfl)
theorem dX2_gaps_14 : decode cX2_gaps 14 = .ok (.iload_n 1, 1) := dk_27 (dk_at dksX2_gaps_0 14 rfl rfl)
theorem dX2_gaps_15 : decode cX2_gaps 15 = .ok (.invokevirtual 68, 3) := dk_182 0 68 (dk_at dksX2_gaps_0 15 rfl rfl)
theorem dX2_gaps_18 : decode cX2_gaps 18 = .ok (.checkcast 64, 3) := dk_192 0 64 (dk_at dksX2_gaps_0 18 rfl rfl)
theorem dX2_gaps_21 : decode cX2_gaps 21 = .ok (.getfield 303, 3) := dk_180 1 47 (dk_at dksX2_gaps_0 21 rfl rfl)
theorem dX2_gaps_24 : decode cX2_gaps 24 = .ok (.astore_n 2, 1) := dk_77 (dk_at dksX2_gaps_1 0 rfl rfl)
theorem dX2_gaps_25 : decode cX2_gaps 25 = .ok (.iconst 0, 1) := dk_3 (dk_at dksX2_gaps_1 1 rfl rfl)
theorem dX2_gaps_26 : decode cX2_gaps 26 = .ok (.istore_n 3, 1) := dk_62 (dk_at dksX2_gaps_1 2 rfl rfl)
theorem dX2_gaps_27 : decode cX2_gaps 27 = .ok (.iconst 1, 1) := dk_4 (dk_at dksX2_gaps_1 3 rfl rfl)
theorem dX2_gaps_28 : decode cX2_gaps 28 = .ok (.istore 4, 2) := dk_54 4 (dk_at dksX2_gaps_1 4 rfl rfl)
theorem dX2_gaps_30 : decode cX2_gaps 30 = .ok (.iload 4, 2) := dk_21 4 (dk_at dksX2_gaps_1 6 rfl rfl)
theorem dX2_gaps_32 : decode cX2_gaps 32 = .ok (.aload_n 2, 1) := dk_44 (dk_at dksX2_gaps_1 8 rfl rfl)
theorem dX2_gaps_33 : decode cX2_gaps 33 = .ok (.invokevirtual 48, 3) := dk_182 0 48 (dk_at dksX2_gaps_1 9 rfl rfl)
theorem dX2_gaps_36 : decode cX2_gaps 36 = .ok (.if_icmp .ge 45, 3) := dk_162 0 45 (dk_at dksX2_gaps_1 12 rfl rfl)
theorem dX2_gaps_39 : decode cX2_gaps 39 = .ok (.iload_n 3, 1) := dk_29 (dk_at dksX2_gaps_1 15 rfl rfl)
theorem dX2_gaps_40 : decode cX2_gaps 40 = .ok (.iconst 0, 1) := dk_3 (dk_at dksX2_gaps_1 16 rfl rfl)
theorem dX2_gaps_41 : decode cX2_gaps 41 = .ok (.aload_n 2, 1) := dk_44 (dk_at dksX2_gaps_1 17 rfl rfl)
theorem dX2_gaps_42 : decode cX2_gaps 42 = .ok (.iload 4, 2) := dk_21 4 (dk_at dksX2_gaps_1 18 rfl rfl)
theorem dX2_gaps_44 : decode cX2_gaps 44 = .ok (.invokevirtual 68, 3) := dk_182 0 68 (dk_at dksX2_gaps_1 20 rfl rfl)
theorem dX2_gaps_47 : decode cX2_gaps 47 = .ok (.checkcast 317, 3) := dk_192 1 61 (dk_at dksX2_gaps_2 0 rfl rfl)
theorem dX2_gaps_50 : decode cX2_gaps 50 = .ok (.getfield 325, 3) := dk_180 1 69 (dk_at dksX2_gaps_2 3 rfl rfl)
theorem dX2_gaps_53 : decode cX2_gaps 53 = .ok (.aload_n 2, 1) := dk_44 (dk_at dksX2_gaps_2 6 rfl rfl)
theorem dX2_gaps_54 : decode cX2_gaps 54 = .ok (.iload 4, 2) := dk_21 4 (dk_at dksX2_gaps_2 7 rfl rfl)
theorem dX2_gaps_56 : decode cX2_gaps 56 = .ok (.iconst 1, 1) := dk_4 (dk_at dksX2_gaps_2 9 rfl rfl)
theorem dX2_gaps_57 : decode cX2_gaps 57 = .ok (.isub, 1) := dk_100 (dk_at dksX2_gaps_2 10 rfl rfl)
theorem dX2_gaps_58 : decode cX2_gaps 58 = .ok (.invokevirtual 68, 3) := dk_182 0 68 (dk_at dksX2_gaps_2 11 rfl rfl)
theorem dX2_gaps_61 : decode cX2_gaps 61 = .ok (.checkcast 317, 3) := dk_192 1 61 (dk_at dksX2_gaps_2 14 rfl rfl)
theorem dX2_gaps_64 : decode cX2_gaps 64 = .ok (.getfield 319, 3) := dk_180 1 63 (dk_at dksX2_gaps_2 17 rfl rfl)
theorem dX2_gaps_67 : decode cX2_gaps 67 = .ok (.isub, 1) := dk_100 (dk_at dksX2_gaps_2 20 rfl rfl)
theorem dX2_gaps_68 : decode cX2_gaps 68 = .ok (.iconst 1, 1) := dk_4 (dk_at dksX2_gaps_2 21 rfl rfl)
theorem dX2_gaps_69 : decode cX2_gaps 69 = .ok (.isub, 1) := dk_100 (dk_at dksX2_gaps_2 22 rfl rfl)
theorem dX2_gaps_70 : decode cX2_gaps 70 = .ok (.invokestatic 204, 3) := dk_184 0 204 (dk_at dksX2_gaps_3 0 rfl rfl)
theorem dX2_gaps_73 : decode cX2_gaps 73 = .ok (.iadd, 1) := dk_96 (dk_at dksX2_gaps_3 3 rfl rfl)
theorem dX2_gaps_74 : decode cX2_gaps 74 = .ok (.istore_n 3, 1) := dk_62 (dk_at dksX2_gaps_3 4 rfl rfl)
theorem dX2_gaps_75 : decode cX2_gaps 75 = .ok (.iinc 4 1, 3) := dk_132 4 1 (dk_at dksX2_gaps_3 5 rfl rfl)
theorem dX2_gaps_78 : decode cX2_gaps 78 = .ok (.goto (-48), 3) := dk_167 255 208 (dk_at dksX2_gaps_3 8 rfl rfl)
theorem dX2_gaps_81 : decode cX2_gaps 81 = .ok (.iload_n 3, 1) := dk_29 (dk_at dksX2_gaps_3 11 rfl rfl)
theorem dX2_gaps_82 : decode cX2_gaps 82 = .ok (.ireturn, 1) := dk_172 (dk_at dksX2_gaps_3 12 rfl rfl)
abbrev cX2_law : ByteArray := prog_17_method_51_code
def yX2_law : MethodName := ⟨RX2, "law", "(II)I"⟩
def dkwX2_law_2 : List UInt8 := [27, 46, 62, 42, 180, 0, 40, 27, 28, 79, 29, 172]
abbrev dktX2_law_2 : List UInt8 := dkwX2_law_2 ++ []
def dkwX2_law_1 : List UInt8 := [153, 0, 7, 3, 167, 0, 4, 4, 181, 0, 44, 42, 180, 0, 44, 158, 0, 5, 3, 172, 42, 180, 0, 40]
abbrev dktX2_law_1 : List UInt8 := dkwX2_law_1 ++ dktX2_law_2
def dkwX2_law_0 : List UInt8 := [42, 27, 133, 9, 20, 0, 156, 184, 0, 52, 153, 0, 19, 28, 133, 9, 20, 1, 72, 184, 0, 52]
abbrev dktX2_law_0 : List UInt8 := dkwX2_law_0 ++ dktX2_law_1
theorem dksX2_law_0 : cX2_law.data.toList.drop 0 = dktX2_law_0 := by decide +kernel
theorem dksX2_law_1 : cX2_law.data.toList.drop 22 = dktX2_law_1 := dk_seg dksX2_law_0 22 rfl rfl
theorem dksX2_law_2 : cX2_law.data.toList.drop 46 = dktX2_law_2 := dk_seg dksX2_law_1 24 rfl rfl
theorem dX2_law_0 : decode cX2_law 0 = .ok (.aload_n 0, 1) := dk_42 (dk_at dksX2_law_0 0 rfl rfl)
theorem dX2_law_1 : decode cX2_law 1 = .ok (.iload_n 1, 1) := dk_27 (dk_at dksX2_law_0 1 rfl rfl)
theorem dX2_law_2 : decode cX2_law 2 = .ok (.i2l, 1) := dk_133 (dk_at dksX2_law_0 2 rfl rfl)
theorem dX2_law_3 : decode cX2_law 3 = .ok (.lconst 0, 1) := dk_9 (dk_at dksX2_law_0 3 rfl rfl)
theorem dX2_law_4 : decode cX2_law 4 = .ok (.ldc2_w 156, 3) := dk_20 0 156 (dk_at dksX2_law_0 4 rfl rfl)
theorem dX2_law_7 : decode cX2_law 7 = .ok (.invokestatic 52, 3) := dk_184 0 52 (dk_at dksX2_law_0 7 rfl rfl)
theorem dX2_law_10 : decode cX2_law 10 = .ok (.ifCond .eq 19, 3) := dk_153 0 19 (dk_at dksX2_law_0 10 rfl rfl)
theorem dX2_law_13 : decode cX2_law 13 = .ok (.iload_n 2, 1) := dk_28 (dk_at dksX2_law_0 13 rfl rfl)
theorem dX2_law_14 : decode cX2_law 14 = .ok (.i2l, 1) := dk_133 (dk_at dksX2_law_0 14 rfl rfl)
theorem dX2_law_15 : decode cX2_law 15 = .ok (.lconst 0, 1) := dk_9 (dk_at dksX2_law_0 15 rfl rfl)
theorem dX2_law_16 : decode cX2_law 16 = .ok (.ldc2_w 328, 3) := dk_20 1 72 (dk_at dksX2_law_0 16 rfl rfl)
theorem dX2_law_19 : decode cX2_law 19 = .ok (.invokestatic 52, 3) := dk_184 0 52 (dk_at dksX2_law_0 19 rfl rfl)
theorem dX2_law_22 : decode cX2_law 22 = .ok (.ifCond .eq 7, 3) := dk_153 0 7 (dk_at dksX2_law_1 0 rfl rfl)
theorem dX2_law_25 : decode cX2_law 25 = .ok (.iconst 0, 1) := dk_3 (dk_at dksX2_law_1 3 rfl rfl)
theorem dX2_law_26 : decode cX2_law 26 = .ok (.goto 4, 3) := dk_167 0 4 (dk_at dksX2_law_1 4 rfl rfl)
theorem dX2_law_29 : decode cX2_law 29 = .ok (.iconst 1, 1) := dk_4 (dk_at dksX2_law_1 7 rfl rfl)
theorem dX2_law_30 : decode cX2_law 30 = .ok (.putfield 44, 3) := dk_181 0 44 (dk_at dksX2_law_1 8 rfl rfl)
theorem dX2_law_33 : decode cX2_law 33 = .ok (.aload_n 0, 1) := dk_42 (dk_at dksX2_law_1 11 rfl rfl)
theorem dX2_law_34 : decode cX2_law 34 = .ok (.getfield 44, 3) := dk_180 0 44 (dk_at dksX2_law_1 12 rfl rfl)
theorem dX2_law_37 : decode cX2_law 37 = .ok (.ifCond .le 5, 3) := dk_158 0 5 (dk_at dksX2_law_1 15 rfl rfl)
theorem dX2_law_40 : decode cX2_law 40 = .ok (.iconst 0, 1) := dk_3 (dk_at dksX2_law_1 18 rfl rfl)
theorem dX2_law_41 : decode cX2_law 41 = .ok (.ireturn, 1) := dk_172 (dk_at dksX2_law_1 19 rfl rfl)
theorem dX2_law_42 : decode cX2_law 42 = .ok (.aload_n 0, 1) := dk_42 (dk_at dksX2_law_1 20 rfl rfl)
theorem dX2_law_43 : decode cX2_law 43 = .ok (.getfield 40, 3) := dk_180 0 40 (dk_at dksX2_law_1 21 rfl rfl)
theorem dX2_law_46 : decode cX2_law 46 = .ok (.iload_n 1, 1) := dk_27 (dk_at dksX2_law_2 0 rfl rfl)
theorem dX2_law_47 : decode cX2_law 47 = .ok (.iaload, 1) := dk_46 (dk_at dksX2_law_2 1 rfl rfl)
theorem dX2_law_48 : decode cX2_law 48 = .ok (.istore_n 3, 1) := dk_62 (dk_at dksX2_law_2 2 rfl rfl)
theorem dX2_law_49 : decode cX2_law 49 = .ok (.aload_n 0, 1) := dk_42 (dk_at dksX2_law_2 3 rfl rfl)
theorem dX2_law_50 : decode cX2_law 50 = .ok (.getfield 40, 3) := dk_180 0 40 (dk_at dksX2_law_2 4 rfl rfl)
theorem dX2_law_53 : decode cX2_law 53 = .ok (.iload_n 1, 1) := dk_27 (dk_at dksX2_law_2 7 rfl rfl)
theorem dX2_law_54 : decode cX2_law 54 = .ok (.iload_n 2, 1) := dk_28 (dk_at dksX2_law_2 8 rfl rfl)
theorem dX2_law_55 : decode cX2_law 55 = .ok (.iastore, 1) := dk_79 (dk_at dksX2_law_2 9 rfl rfl)
theorem dX2_law_56 : decode cX2_law 56 = .ok (.iload_n 3, 1) := dk_29 (dk_at dksX2_law_2 10 rfl rfl)
theorem dX2_law_57 : decode cX2_law 57 = .ok (.ireturn, 1) := dk_172 (dk_at dksX2_law_2 11 rfl rfl)
abbrev cX2_claimant : ByteArray := prog_17_method_53_code
def yX2_claimant : MethodName := ⟨RX2, "claimant", "(II)I"⟩
def dkwX2_claimant_3 : List UInt8 := [181, 0, 44, 42, 180, 0, 44, 158, 0, 7, 3, 167, 0, 4, 29, 172]
abbrev dktX2_claimant_3 : List UInt8 := dkwX2_claimant_3 ++ []
def dkwX2_claimant_2 : List UInt8 := [182, 0, 68, 192, 0, 64, 28, 182, 1, 80, 62, 42, 29, 2, 160, 0, 7, 6, 167, 0, 4, 3]
abbrev dktX2_claimant_2 : List UInt8 := dkwX2_claimant_2 ++ dktX2_claimant_3
def dkwX2_claimant_1 : List UInt8 := [167, 0, 4, 5, 181, 0, 44, 42, 180, 0, 44, 158, 0, 5, 3, 172, 42, 42, 180, 0, 19, 27]
abbrev dktX2_claimant_1 : List UInt8 := dkwX2_claimant_1 ++ dktX2_claimant_2
def dkwX2_claimant_0 : List UInt8 := [42, 27, 182, 0, 185, 153, 0, 5, 3, 172, 42, 28, 133, 9, 20, 0, 156, 184, 0, 52, 153, 0, 7, 3]
abbrev dktX2_claimant_0 : List UInt8 := dkwX2_claimant_0 ++ dktX2_claimant_1
theorem dksX2_claimant_0 : cX2_claimant.data.toList.drop 0 = dktX2_claimant_0 := by decide +kernel
theorem dksX2_claimant_1 : cX2_claimant.data.toList.drop 24 = dktX2_claimant_1 := dk_seg dksX2_claimant_0 24 rfl rfl
theorem dksX2_claimant_2 : cX2_claimant.data.toList.drop 46 = dktX2_claimant_2 := dk_seg dksX2_claimant_1 22 rfl rfl
theorem dksX2_claimant_3 : cX2_claimant.data.toList.drop 68 = dktX2_claimant_3 := dk_seg dksX2_claimant_2 22 rfl rfl
theorem dX2_claimant_0 : decode cX2_claimant 0 = .ok (.aload_n 0, 1) := dk_42 (dk_at dksX2_claimant_0 0 rfl rfl)
theorem dX2_claimant_1 : decode cX2_claimant 1 = .ok (.iload_n 1, 1) := dk_27 (dk_at dksX2_claimant_0 1 rfl rfl)
theorem dX2_claimant_2 : decode cX2_claimant 2 = .ok (.invokevirtual 185, 3) := dk_182 0 185 (dk_at dksX2_claimant_0 2 rfl rfl)
theorem dX2_claimant_5 : decode cX2_claimant 5 = .ok (.ifCond .eq 5, 3) := dk_153 0 5 (dk_at dksX2_claimant_0 5 rfl rfl)
theorem dX2_claimant_8 : decode cX2_claimant 8 = .ok (.iconst 0, 1) := dk_3 (dk_at dksX2_claimant_0 8 rfl rfl)
theorem dX2_claimant_9 : decode cX2_claimant 9 = .ok (.ireturn, 1) := dk_172 (dk_at dksX2_claimant_0 9 rfl rfl)
theorem dX2_claimant_10 : decode cX2_claimant 10 = .ok (.aload_n 0, 1) := dk_42 (dk_at dksX2_claimant_0 10 rfl rfl)
theorem dX2_claimant_11 : decode cX2_claimant 11 = .ok (.iload_n 2, 1) := dk_28 (dk_at dksX2_claimant_0 11 rfl rfl)
theorem dX2_claimant_12 : decode cX2_claimant 12 = .ok (.i2l, 1) := dk_133 (dk_at dksX2_claimant_0 12 rfl rfl)
theorem dX2_claimant_13 : decode cX2_claimant 13 = .ok (.lconst 0, 1) := dk_9 (dk_at dksX2_claimant_0 13 rfl rfl)
theorem dX2_claimant_14 : decode cX2_claimant 14 = .ok (.ldc2_w 156, 3) := dk_20 0 156 (dk_at dksX2_claimant_0 14 rfl rfl)
theorem dX2_claimant_17 : decode cX2_claimant 17 = .ok (.invokestatic 52, 3) := dk_184 0 52 (dk_at dksX2_claimant_0 17 rfl rfl)
theorem dX2_claimant_20 : decode cX2_claimant 20 = .ok (.ifCond .eq 7, 3) := dk_153 0 7 (dk_at dksX2_claimant_0 20 rfl rfl)
theorem dX2_claimant_23 : decode cX2_claimant 23 = .ok (.iconst 0, 1) := dk_3 (dk_at dksX2_claimant_0 23 rfl rfl)
theorem dX2_claimant_24 : decode cX2_claimant 24 = .ok (.goto 4, 3) := dk_167 0 4 (dk_at dksX2_claimant_1 0 rfl rfl)
theorem dX2_claimant_27 : decode cX2_claimant 27 = .ok (.iconst 2, 1) := dk_5 (dk_at dksX2_claimant_1 3 rfl rfl)
theorem dX2_claimant_28 : decode cX2_claimant 28 = .ok (.putfield 44, 3) := dk_181 0 44 (dk_at dksX2_claimant_1 4 rfl rfl)
theorem dX2_claimant_31 : decode cX2_claimant 31 = .ok (.aload_n 0, 1) := dk_42 (dk_at dksX2_claimant_1 7 rfl rfl)
theorem dX2_claimant_32 : decode cX2_claimant 32 = .ok (.getfield 44, 3) := dk_180 0 44 (dk_at dksX2_claimant_1 8 rfl rfl)
theorem dX2_claimant_35 : decode cX2_claimant 35 = .ok (.ifCond .le 5, 3) := dk_158 0 5 (dk_at dksX2_claimant_1 11 rfl rfl)
theorem dX2_claimant_38 : decode cX2_claimant 38 = .ok (.iconst 0, 1) := dk_3 (dk_at dksX2_claimant_1 14 rfl rfl)
theorem dX2_claimant_39 : decode cX2_claimant 39 = .ok (.ireturn, 1) := dk_172 (dk_at dksX2_claimant_1 15 rfl rfl)
theorem dX2_claimant_40 : decode cX2_claimant 40 = .ok (.aload_n 0, 1) := dk_42 (dk_at dksX2_claimant_1 16 rfl rfl)
theorem dX2_claimant_41 : decode cX2_claimant 41 = .ok (.aload_n 0, 1) := dk_42 (dk_at dksX2_claimant_1 17 rfl rfl)
theorem dX2_claimant_42 : decode cX2_claimant 42 = .ok (.getfield 19, 3) := dk_180 0 19 (dk_at dksX2_claimant_1 18 rfl rfl)
theorem dX2_claimant_45 : decode cX2_claimant 45 = .ok (.iload_n 1, 1) := dk_27 (dk_at dksX2_claimant_1 21 rfl rfl)
theorem dX2_claimant_46 : decode cX2_claimant 46 = .ok (.invokevirtual 68, 3) := dk_182 0 68 (dk_at dksX2_claimant_2 0 rfl rfl)
theorem dX2_claimant_49 : decode cX2_claimant 49 = .ok (.checkcast 64, 3) := dk_192 0 64 (dk_at dksX2_claimant_2 3 rfl rfl)
theorem dX2_claimant_52 : decode cX2_claimant 52 = .ok (.iload_n 2, 1) := dk_28 (dk_at dksX2_claimant_2 6 rfl rfl)
theorem dX2_claimant_53 : decode cX2_claimant 53 = .ok (.invokevirtual 336, 3) := dk_182 1 80 (dk_at dksX2_claimant_2 7 rfl rfl)
theorem dX2_claimant_56 : decode cX2_claimant 56 = .ok (.istore_n 3, 1) := dk_62 (dk_at dksX2_claimant_2 10 rfl rfl)
theorem dX2_claimant_57 : decode cX2_claimant 57 = .ok (.aload_n 0, 1) := dk_42 (dk_at dksX2_claimant_2 11 rfl rfl)
theorem dX2_claimant_58 : decode cX2_claimant 58 = .ok (.iload_n 3, 1) := dk_29 (dk_at dksX2_claimant_2 12 rfl rfl)
theorem dX2_claimant_59 : decode cX2_claimant 59 = .ok (.iconst (-1), 1) := dk_2 (dk_at dksX2_claimant_2 13 rfl rfl)
theorem dX2_claimant_60 : decode cX2_claimant 60 = .ok (.if_icmp .ne 7, 3) := dk_160 0 7 (dk_at dksX2_claimant_2 14 rfl rfl)
theorem dX2_claimant_63 : decode cX2_claimant 63 = .ok (.iconst 3, 1) := dk_6 (dk_at dksX2_claimant_2 17 rfl rfl)
theorem dX2_claimant_64 : decode cX2_claimant 64 = .ok (.goto 4, 3) := dk_167 0 4 (dk_at dksX2_claimant_2 18 rfl rfl)
theorem dX2_claimant_67 : decode cX2_claimant 67 = .ok (.iconst 0, 1) := dk_3 (dk_at dksX2_claimant_2 21 rfl rfl)
theorem dX2_claimant_68 : decode cX2_claimant 68 = .ok (.putfield 44, 3) := dk_181 0 44 (dk_at dksX2_claimant_3 0 rfl rfl)
theorem dX2_claimant_71 : decode cX2_claimant 71 = .ok (.aload_n 0, 1) := dk_42 (dk_at dksX2_claimant_3 3 rfl rfl)
theorem dX2_claimant_72 : decode cX2_claimant 72 = .ok (.getfield 44, 3) := dk_180 0 44 (dk_at dksX2_claimant_3 4 rfl rfl)
theorem dX2_claimant_75 : decode cX2_claimant 75 = .ok (.ifCond .le 7, 3) := dk_158 0 7 (dk_at dksX2_claimant_3 7 rfl rfl)
theorem dX2_claimant_78 : decode cX2_claimant 78 = .ok (.iconst 0, 1) := dk_3 (dk_at dksX2_claimant_3 10 rfl rfl)
theorem dX2_claimant_79 : decode cX2_claimant 79 = .ok (.goto 4, 3) := dk_167 0 4 (dk_at dksX2_claimant_3 11 rfl rfl)
theorem dX2_claimant_82 : decode cX2_claimant 82 = .ok (.iload_n 3, 1) := dk_29 (dk_at dksX2_claimant_3 14 rfl rfl)
theorem dX2_claimant_83 : decode cX2_claimant 83 = .ok (.ireturn, 1) := dk_172 (dk_at dksX2_claimant_3 15 rfl rfl)
abbrev cX2_claimantOf : ByteArray := prog_17_method_52_code
def yX2_claimantOf : MethodName := ⟨RX2, "claimantOf", "(LVaultyardModel$Thing;I)I"⟩
def dkwX2_claimantOf_5 : List UInt8 := [192, 1, 61, 180, 1, 77, 167, 0, 4, 2, 172]
abbrev dktX2_claimantOf_5 : List UInt8 := dkwX2_claimantOf_5 ++ []
def dkwX2_claimantOf_4 : List UInt8 := [4, 167, 0, 4, 3, 54, 4, 21, 4, 153, 0, 22, 43, 180, 1, 47, 29, 4, 100, 182, 0, 68]
abbrev dktX2_claimantOf_4 : List UInt8 := dkwX2_claimantOf_4 ++ dktX2_claimantOf_5
def dkwX2_claimantOf_3 : List UInt8 := [43, 180, 1, 47, 29, 182, 0, 68, 192, 1, 61, 180, 1, 69, 100, 42, 180, 0, 40, 28, 46, 163, 0, 7]
abbrev dktX2_claimantOf_3 : List UInt8 := dkwX2_claimantOf_3 ++ dktX2_claimantOf_4
def dkwX2_claimantOf_2 : List UInt8 := [160, 0, 8, 21, 4, 167, 0, 4, 29, 62, 132, 4, 1, 167, 255, 203, 29, 158, 0, 35, 42, 182, 0, 238]
abbrev dktX2_claimantOf_2 : List UInt8 := dkwX2_claimantOf_2 ++ dktX2_claimantOf_3
def dkwX2_claimantOf_1 : List UInt8 := [182, 0, 68, 192, 1, 61, 180, 1, 74, 54, 5, 21, 5, 16, 116, 159, 0, 10, 21, 5, 16, 102]
abbrev dktX2_claimantOf_1 : List UInt8 := dkwX2_claimantOf_1 ++ dktX2_claimantOf_2
def dkwX2_claimantOf_0 : List UInt8 := [2, 62, 3, 54, 4, 21, 4, 43, 180, 1, 47, 182, 0, 48, 162, 0, 47, 43, 180, 1, 47, 21, 4]
abbrev dktX2_claimantOf_0 : List UInt8 := dkwX2_claimantOf_0 ++ dktX2_claimantOf_1
theorem dksX2_claimantOf_0 : cX2_claimantOf.data.toList.drop 0 = dktX2_claimantOf_0 := by decide +kernel
theorem dksX2_claimantOf_1 : cX2_claimantOf.data.toList.drop 23 = dktX2_claimantOf_1 := dk_seg dksX2_claimantOf_0 23 rfl rfl
theorem dksX2_claimantOf_2 : cX2_claimantOf.data.toList.drop 45 = dktX2_claimantOf_2 := dk_seg dksX2_claimantOf_1 22 rfl rfl
theorem dksX2_claimantOf_3 : cX2_claimantOf.data.toList.drop 69 = dktX2_claimantOf_3 := dk_seg dksX2_claimantOf_2 24 rfl rfl
theorem dksX2_claimantOf_4 : cX2_claimantOf.data.toList.drop 93 = dktX2_claimantOf_4 := dk_seg dksX2_claimantOf_3 24 rfl rfl
theorem dksX2_claimantOf_5 : cX2_claimantOf.data.toList.drop 115 = dktX2_claimantOf_5 := dk_seg dksX2_claimantOf_4 22 rfl rfl
theorem dX2_claimantOf_0 : decode cX2_claimantOf 0 = .ok (.iconst (-1), 1) := dk_2 (dk_at dksX2_claimantOf_0 0 rfl rfl)
theorem dX2_claimantOf_1 : decode cX2_claimantOf 1 = .ok (.istore_n 3, 1) := dk_62 (dk_at dksX2_claimantOf_0 1 rfl rfl)
theorem dX2_claimantOf_2 : decode cX2_claimantOf 2 = .ok (.iconst 0, 1) := dk_3 (dk_at dksX2_claimantOf_0 2 rfl rfl)
theorem dX2_claimantOf_3 : decode cX2_claimantOf 3 = .ok (.istore 4, 2) := dk_54 4 (dk_at dksX2_claimantOf_0 3 rfl rfl)
theorem dX2_claimantOf_5 : decode cX2_claimantOf 5 = .ok (.iload 4, 2) := dk_21 4 (dk_at dksX2_claimantOf_0 5 rfl rfl)
theorem dX2_claimantOf_7 : decode cX2_claimantOf 7 = .ok (.aload_n 1, 1) := dk_43 (dk_at dksX2_claimantOf_0 7 rfl rfl)
theorem dX2_claimantOf_8 : decode cX2_claimantOf 8 = .ok (.getfield 303, 3) := dk_180 1 47 (dk_at dksX2_claimantOf_0 8 rfl rfl)
theorem dX2_claimantOf_11 : decode cX2_claimantOf 11 = .ok (.invokevirtual 48, 3) := dk_182 0 48 (dk_at dksX2_claimantOf_0 11 rfl rfl)
theorem dX2_claimantOf_14 : decode cX2_claimantOf 14 = .ok (.if_icmp .ge 47, 3) := dk_162 0 47 (dk_at dksX2_claimantOf_0 14 rfl rfl)
theorem dX2_claimantOf_17 : decode cX2_claimantOf 17 = .ok (.aload_n 1, 1) := dk_43 (dk_at dksX2_claimantOf_0 17 rfl rfl)
theorem dX2_claimantOf_18 : decode cX2_claimantOf 18 = .ok (.getfield 303, 3) := dk_180 1 47 (dk_at dksX2_claimantOf_0 18 rfl rfl)
theorem dX2_claimantOf_21 : decode cX2_claimantOf 21 = .ok (.iload 4, 2) := dk_21 4 (dk_at dksX2_claimantOf_0 21 rfl rfl)
theorem dX2_claimantOf_23 : decode cX2_claimantOf 23 = .ok (.invokevirtual 68, 3) := dk_182 0 68 (dk_at dksX2_claimantOf_1 0 rfl rfl)
theorem dX2_claimantOf_26 : decode cX2_claimantOf 26 = .ok (.checkcast 317, 3) := dk_192 1 61 (dk_at dksX2_claimantOf_1 3 rfl rfl)
theorem dX2_claimantOf_29 : decode cX2_claimantOf 29 = .ok (.getfield 330, 3) := dk_180 1 74 (dk_at dksX2_claimantOf_1 6 rfl rfl)
theorem dX2_claimantOf_32 : decode cX2_claimantOf 32 = .ok (.istore 5, 2) := dk_54 5 (dk_at dksX2_claimantOf_1 9 rfl rfl)
theorem dX2_claimantOf_34 : decode cX2_claimantOf 34 = .ok (.iload 5, 2) := dk_21 5 (dk_at dksX2_claimantOf_1 11 rfl rfl)
theorem dX2_claimantOf_36 : decode cX2_claimantOf 36 = .ok (.bipush 116, 2) := dk_16 116 (dk_at dksX2_claimantOf_1 13 rfl rfl)
theorem dX2_claimantOf_38 : decode cX2_claimantOf 38 = .ok (.if_icmp .eq 10, 3) := dk_159 0 10 (dk_at dksX2_claimantOf_1 15 rfl rfl)
theorem dX2_claimantOf_41 : decode cX2_claimantOf 41 = .ok (.iload 5, 2) := dk_21 5 (dk_at dksX2_claimantOf_1 18 rfl rfl)
theorem dX2_claimantOf_43 : decode cX2_claimantOf 43 = .ok (.bipush 102, 2) := dk_16 102 (dk_at dksX2_claimantOf_1 20 rfl rfl)
theorem dX2_claimantOf_45 : decode cX2_claimantOf 45 = .ok (.if_icmp .ne 8, 3) := dk_160 0 8 (dk_at dksX2_claimantOf_2 0 rfl rfl)
theorem dX2_claimantOf_48 : decode cX2_claimantOf 48 = .ok (.iload 4, 2) := dk_21 4 (dk_at dksX2_claimantOf_2 3 rfl rfl)
theorem dX2_claimantOf_50 : decode cX2_claimantOf 50 = .ok (.goto 4, 3) := dk_167 0 4 (dk_at dksX2_claimantOf_2 5 rfl rfl)
theorem dX2_claimantOf_53 : decode cX2_claimantOf 53 = .ok (.iload_n 3, 1) := dk_29 (dk_at dksX2_claimantOf_2 8 rfl rfl)
theorem dX2_claimantOf_54 : decode cX2_claimantOf 54 = .ok (.istore_n 3, 1) := dk_62 (dk_at dksX2_claimantOf_2 9 rfl rfl)
theorem dX2_claimantOf_55 : decode cX2_claimantOf 55 = .ok (.iinc 4 1, 3) := dk_132 4 1 (dk_at dksX2_claimantOf_2 10 rfl rfl)
theorem dX2_claimantOf_58 : decode cX2_claimantOf 58 = .ok (.goto (-53), 3) := dk_167 255 203 (dk_at dksX2_claimantOf_2 13 rfl rfl)
theorem dX2_claimantOf_61 : decode cX2_claimantOf 61 = .ok (.iload_n 3, 1) := dk_29 (dk_at dksX2_claimantOf_2 16 rfl rfl)
theorem dX2_claimantOf_62 : decode cX2_claimantOf 62 = .ok (.ifCond .le 35, 3) := dk_158 0 35 (dk_at dksX2_claimantOf_2 17 rfl rfl)
theorem dX2_claimantOf_65 : decode cX2_claimantOf 65 = .ok (.aload_n 0, 1) := dk_42 (dk_at dksX2_claimantOf_2 20 rfl rfl)
theorem dX2_claimantOf_66 : decode cX2_claimantOf 66 = .ok (.invokevirtual 238, 3) := dk_182 0 238 (dk_at dksX2_claimantOf_2 21 rfl rfl)
theorem dX2_claimantOf_69 : decode cX2_claimantOf 69 = .ok (.aload_n 1, 1) := dk_43 (dk_at dksX2_claimantOf_3 0 rfl rfl)
theorem dX2_claimantOf_70 : decode cX2_claimantOf 70 = .ok (.getfield 303, 3) := dk_180 1 47 (dk_at dksX2_claimantOf_3 1 rfl rfl)
theorem dX2_claimantOf_73 : decode cX2_claimantOf 73 = .ok (.iload_n 3, 1) := dk_29 (dk_at dksX2_claimantOf_3 4 rfl rfl)
theorem dX2_claimantOf_74 : decode cX2_claimantOf 74 = .ok (.invokevirtual 68, 3) := dk_182 0 68 (dk_at dksX2_claimantOf_3 5 rfl rfl)
theorem dX2_claimantOf_77 : decode cX2_claimantOf 77 = .ok (.checkcast 317, 3) := dk_192 1 61 (dk_at dksX2_claimantOf_3 8 rfl rfl)
theorem dX2_claimantOf_80 : decode cX2_claimantOf 80 = .ok (.getfield 325, 3) := dk_180 1 69 (dk_at dksX2_claimantOf_3 11 rfl rfl)
theorem dX2_claimantOf_83 : decode cX2_claimantOf 83 = .ok (.isub, 1) := dk_100 (dk_at dksX2_claimantOf_3 14 rfl rfl)
theorem dX2_claimantOf_84 : decode cX2_claimantOf 84 = .ok (.aload_n 0, 1) := dk_42 (dk_at dksX2_claimantOf_3 15 rfl rfl)
theorem dX2_claimantOf_85 : decode cX2_claimantOf 85 = .ok (.getfield 40, 3) := dk_180 0 40 (dk_at dksX2_claimantOf_3 16 rfl rfl)
theorem dX2_claimantOf_88 : decode cX2_claimantOf 88 = .ok (.iload_n 2, 1) := dk_28 (dk_at dksX2_claimantOf_3 19 rfl rfl)
theorem dX2_claimantOf_89 : decode cX2_claimantOf 89 = .ok (.iaload, 1) := dk_46 (dk_at dksX2_claimantOf_3 20 rfl rfl)
theorem dX2_claimantOf_90 : decode cX2_claimantOf 90 = .ok (.if_icmp .gt 7, 3) := dk_163 0 7 (dk_at dksX2_claimantOf_3 21 rfl rfl)
theorem dX2_claimantOf_93 : decode cX2_claimantOf 93 = .ok (.iconst 1, 1) := dk_4 (dk_at dksX2_claimantOf_4 0 rfl rfl)
theorem dX2_claimantOf_94 : decode cX2_claimantOf 94 = .ok (.goto 4, 3) := dk_167 0 4 (dk_at dksX2_claimantOf_4 1 rfl rfl)
theorem dX2_claimantOf_97 : decode cX2_claimantOf 97 = .ok (.iconst 0, 1) := dk_3 (dk_at dksX2_claimantOf_4 4 rfl rfl)
theorem dX2_claimantOf_98 : decode cX2_claimantOf 98 = .ok (.istore 4, 2) := dk_54 4 (dk_at dksX2_claimantOf_4 5 rfl rfl)
theorem dX2_claimantOf_100 : decode cX2_claimantOf 100 = .ok (.iload 4, 2) := dk_21 4 (dk_at dksX2_claimantOf_4 7 rfl rfl)
theorem dX2_claimantOf_102 : decode cX2_claimantOf 102 = .ok (.ifCond .eq 22, 3) := dk_153 0 22 (dk_at dksX2_claimantOf_4 9 rfl rfl)
theorem dX2_claimantOf_105 : decode cX2_claimantOf 105 = .ok (.aload_n 1, 1) := dk_43 (dk_at dksX2_claimantOf_4 12 rfl rfl)
theorem dX2_claimantOf_106 : decode cX2_claimantOf 106 = .ok (.getfield 303, 3) := dk_180 1 47 (dk_at dksX2_claimantOf_4 13 rfl rfl)
theorem dX2_claimantOf_109 : decode cX2_claimantOf 109 = .ok (.iload_n 3, 1) := dk_29 (dk_at dksX2_claimantOf_4 16 rfl rfl)
theorem dX2_claimantOf_110 : decode cX2_claimantOf 110 = .ok (.iconst 1, 1) := dk_4 (dk_at dksX2_claimantOf_4 17 rfl rfl)
theorem dX2_claimantOf_111 : decode cX2_claimantOf 111 = .ok (.isub, 1) := dk_100 (dk_at dksX2_claimantOf_4 18 rfl rfl)
theorem dX2_claimantOf_112 : decode cX2_claimantOf 112 = .ok (.invokevirtual 68, 3) := dk_182 0 68 (dk_at dksX2_claimantOf_4 19 rfl rfl)
theorem dX2_claimantOf_115 : decode cX2_claimantOf 115 = .ok (.checkcast 317, 3) := dk_192 1 61 (dk_at dksX2_claimantOf_5 0 rfl rfl)
theorem dX2_claimantOf_118 : decode cX2_claimantOf 118 = .ok (.getfield 333, 3) := dk_180 1 77 (dk_at dksX2_claimantOf_5 3 rfl rfl)
theorem dX2_claimantOf_121 : decode cX2_claimantOf 121 = .ok (.goto 4, 3) := dk_167 0 4 (dk_at dksX2_claimantOf_5 6 rfl rfl)
theorem dX2_claimantOf_124 : decode cX2_claimantOf 124 = .ok (.iconst (-1), 1) := dk_2 (dk_at dksX2_claimantOf_5 9 rfl rfl)
theorem dX2_claimantOf_125 : decode cX2_claimantOf 125 = .ok (.ireturn, 1) := dk_172 (dk_at dksX2_claimantOf_5 10 rfl rfl)
abbrev cX2_method : ByteArray := prog_17_method_54_code
def yX2_method : MethodName := ⟨RX2, "method", "(IIII)I"⟩
def dkwX2_method_5 : List UInt8 := [79, 182, 0, 89, 87, 42, 180, 0, 28, 182, 0, 48, 4, 100, 172]
abbrev dktX2_method_5 : List UInt8 := dkwX2_method_5 ++ []
def dkwX2_method_4 : List UInt8 := [172, 42, 180, 0, 28, 7, 188, 10, 89, 3, 27, 79, 89, 4, 28, 79, 89, 5, 29, 79, 89, 6, 21, 4]
abbrev dktX2_method_4 : List UInt8 := dkwX2_method_4 ++ dktX2_method_5
def dkwX2_method_3 : List UInt8 := [182, 0, 48, 16, 8, 160, 0, 7, 5, 167, 0, 4, 3, 181, 0, 44, 42, 180, 0, 44, 158, 0, 5, 3]
abbrev dktX2_method_3 : List UInt8 := dkwX2_method_3 ++ dktX2_method_4
def dkwX2_method_2 : List UInt8 := [153, 0, 7, 4, 167, 0, 4, 3, 54, 5, 42, 21, 5, 154, 0, 7, 4, 167, 0, 20, 42, 180, 0, 28]
abbrev dktX2_method_2 : List UInt8 := dkwX2_method_2 ++ dktX2_method_3
def dkwX2_method_1 : List UInt8 := [29, 133, 10, 20, 1, 83, 184, 0, 52, 153, 0, 20, 21, 4, 133, 9, 20, 1, 85, 184, 0, 52]
abbrev dktX2_method_1 : List UInt8 := dkwX2_method_1 ++ dktX2_method_2
def dkwX2_method_0 : List UInt8 := [27, 133, 10, 20, 0, 135, 184, 0, 52, 153, 0, 44, 28, 133, 9, 20, 0, 131, 184, 0, 52, 153, 0, 32]
abbrev dktX2_method_0 : List UInt8 := dkwX2_method_0 ++ dktX2_method_1
theorem dksX2_method_0 : cX2_method.data.toList.drop 0 = dktX2_method_0 := by decide +kernel
theorem dksX2_method_1 : cX2_method.data.toList.drop 24 = dktX2_method_1 := dk_seg dksX2_method_0 24 rfl rfl
theorem dksX2_method_2 : cX2_method.data.toList.drop 46 = dktX2_method_2 := dk_seg dksX2_method_1 22 rfl rfl
theorem dksX2_method_3 : cX2_method.data.toList.drop 70 = dktX2_method_3 := dk_seg dksX2_method_2 24 rfl rfl
theorem dksX2_method_4 : cX2_method.data.toList.drop 94 = dktX2_method_4 := dk_seg dksX2_method_3 24 rfl rfl
theorem dksX2_method_5 : cX2_method.data.toList.drop 118 = dktX2_method_5 := dk_seg dksX2_method_4 24 rfl rfl
theorem dX2_method_0 : decode cX2_method 0 = .ok (.iload_n 1, 1) := dk_27 (dk_at dksX2_method_0 0 rfl rfl)
theorem dX2_method_1 : decode cX2_method 1 = .ok (.i2l, 1) := dk_133 (dk_at dksX2_method_0 1 rfl rfl)
theorem dX2_method_2 : decode cX2_method 2 = .ok (.lconst 1, 1) := dk_10 (dk_at dksX2_method_0 2 rfl rfl)
theorem dX2_method_3 : decode cX2_method 3 = .ok (.ldc2_w 135, 3) := dk_20 0 135 (dk_at dksX2_method_0 3 rfl rfl)
theorem dX2_method_6 : decode cX2_method 6 = .ok (.invokestatic 52, 3) := dk_184 0 52 (dk_at dksX2_method_0 6 rfl rfl)
theorem dX2_method_9 : decode cX2_method 9 = .ok (.ifCond .eq 44, 3) := dk_153 0 44 (dk_at dksX2_method_0 9 rfl rfl)
theorem dX2_method_12 : decode cX2_method 12 = .ok (.iload_n 2, 1) := dk_28 (dk_at dksX2_method_0 12 rfl rfl)
theorem dX2_method_13 : decode cX2_method 13 = .ok (.i2l, 1) := dk_133 (dk_at dksX2_method_0 13 rfl rfl)
theorem dX2_method_14 : decode cX2_method 14 = .ok (.lconst 0, 1) := dk_9 (dk_at dksX2_method_0 14 rfl rfl)
theorem dX2_method_15 : decode cX2_method 15 = .ok (.ldc2_w 131, 3) := dk_20 0 131 (dk_at dksX2_method_0 15 rfl rfl)
theorem dX2_method_18 : decode cX2_method 18 = .ok (.invokestatic 52, 3) := dk_184 0 52 (dk_at dksX2_method_0 18 rfl rfl)
theorem dX2_method_21 : decode cX2_method 21 = .ok (.ifCond .eq 32, 3) := dk_153 0 32 (dk_at dksX2_method_0 21 rfl rfl)
theorem dX2_method_24 : decode cX2_method 24 = .ok (.iload_n 3, 1) := dk_29 (dk_at dksX2_method_1 0 rfl rfl)
theorem dX2_method_25 : decode cX2_method 25 = .ok (.i2l, 1) := dk_133 (dk_at dksX2_method_1 1 rfl rfl)
theorem dX2_method_26 : decode cX2_method 26 = .ok (.lconst 1, 1) := dk_10 (dk_at dksX2_method_1 2 rfl rfl)
theorem dX2_method_27 : decode cX2_method 27 = .ok (.ldc2_w 339, 3) := dk_20 1 83 (dk_at dksX2_method_1 3 rfl rfl)
theorem dX2_method_30 : decode cX2_method 30 = .ok (.invokestatic 52, 3) := dk_184 0 52 (dk_at dksX2_method_1 6 rfl rfl)
theorem dX2_method_33 : decode cX2_method 33 = .ok (.ifCond .eq 20, 3) := dk_153 0 20 (dk_at dksX2_method_1 9 rfl rfl)
theorem dX2_method_36 : decode cX2_method 36 = .ok (.iload 4, 2) := dk_21 4 (dk_at dksX2_method_1 12 rfl rfl)
theorem dX2_method_38 : decode cX2_method 38 = .ok (.i2l, 1) := dk_133 (dk_at dksX2_method_1 14 rfl rfl)
theorem dX2_method_39 : decode cX2_method 39 = .ok (.lconst 0, 1) := dk_9 (dk_at dksX2_method_1 15 rfl rfl)
theorem dX2_method_40 : decode cX2_method 40 = .ok (.ldc2_w 341, 3) := dk_20 1 85 (dk_at dksX2_method_1 16 rfl rfl)
theorem dX2_method_43 : decode cX2_method 43 = .ok (.invokestatic 52, 3) := dk_184 0 52 (dk_at dksX2_method_1 19 rfl rfl)
theorem dX2_method_46 : decode cX2_method 46 = .ok (.ifCond .eq 7, 3) := dk_153 0 7 (dk_at dksX2_method_2 0 rfl rfl)
theorem dX2_method_49 : decode cX2_method 49 = .ok (.iconst 1, 1) := dk_4 (dk_at dksX2_method_2 3 rfl rfl)
theorem dX2_method_50 : decode cX2_method 50 = .ok (.goto 4, 3) := dk_167 0 4 (dk_at dksX2_method_2 4 rfl rfl)
theorem dX2_method_53 : decode cX2_method 53 = .ok (.iconst 0, 1) := dk_3 (dk_at dksX2_method_2 7 rfl rfl)
theorem dX2_method_54 : decode cX2_method 54 = .ok (.istore 5, 2) := dk_54 5 (dk_at dksX2_method_2 8 rfl rfl)
theorem dX2_method_56 : decode cX2_method 56 = .ok (.aload_n 0, 1) := dk_42 (dk_at dksX2_method_2 10 rfl rfl)
theorem dX2_method_57 : decode cX2_method 57 = .ok (.iload 5, 2) := dk_21 5 (dk_at dksX2_method_2 11 rfl rfl)
theorem dX2_method_59 : decode cX2_method 59 = .ok (.ifCond .ne 7, 3) := dk_154 0 7 (dk_at dksX2_method_2 13 rfl rfl)
theorem dX2_method_62 : decode cX2_method 62 = .ok (.iconst 1, 1) := dk_4 (dk_at dksX2_method_2 16 rfl rfl)
theorem dX2_method_63 : decode cX2_method 63 = .ok (.goto 20, 3) := dk_167 0 20 (dk_at dksX2_method_2 17 rfl rfl)
theorem dX2_method_66 : decode cX2_method 66 = .ok (.aload_n 0, 1) := dk_42 (dk_at dksX2_method_2 20 rfl rfl)
theorem dX2_method_67 : decode cX2_method 67 = .ok (.getfield 28, 3) := dk_180 0 28 (dk_at dksX2_method_2 21 rfl rfl)
theorem dX2_method_70 : decode cX2_method 70 = .ok (.invokevirtual 48, 3) := dk_182 0 48 (dk_at dksX2_method_3 0 rfl rfl)
theorem dX2_method_73 : decode cX2_method 73 = .ok (.bipush 8, 2) := dk_16 8 (dk_at dksX2_method_3 3 rfl rfl)
theorem dX2_method_75 : decode cX2_method 75 = .ok (.if_icmp .ne 7, 3) := dk_160 0 7 (dk_at dksX2_method_3 5 rfl rfl)
theorem dX2_method_78 : decode cX2_method 78 = .ok (.iconst 2, 1) := dk_5 (dk_at dksX2_method_3 8 rfl rfl)
theorem dX2_method_79 : decode cX2_method 79 = .ok (.goto 4, 3) := dk_167 0 4 (dk_at dksX2_method_3 9 rfl rfl)
theorem dX2_method_82 : decode cX2_method 82 = .ok (.iconst 0, 1) := dk_3 (dk_at dksX2_method_3 12 rfl rfl)
theorem dX2_method_83 : decode cX2_method 83 = .ok (.putfield 44, 3) := dk_181 0 44 (dk_at dksX2_method_3 13 rfl rfl)
theorem dX2_method_86 : decode cX2_method 86 = .ok (.aload_n 0, 1) := dk_42 (dk_at dksX2_method_3 16 rfl rfl)
theorem dX2_method_87 : decode cX2_method 87 = .ok (.getfield 44, 3) := dk_180 0 44 (dk_at dksX2_method_3 17 rfl rfl)
theorem dX2_method_90 : decode cX2_method 90 = .ok (.ifCond .le 5, 3) := dk_158 0 5 (dk_at dksX2_method_3 20 rfl rfl)
theorem dX2_method_93 : decode cX2_method 93 = .ok (.iconst 0, 1) := dk_3 (dk_at dksX2_method_3 23 rfl rfl)
theorem dX2_method_94 : decode cX2_method 94 = .ok (.ireturn, 1) := dk_172 (dk_at dksX2_method_4 0 rfl rfl)
theorem dX2_method_95 : decode cX2_method 95 = .ok (.aload_n 0, 1) := dk_42 (dk_at dksX2_method_4 1 rfl rfl)
theorem dX2_method_96 : decode cX2_method 96 = .ok (.getfield 28, 3) := dk_180 0 28 (dk_at dksX2_method_4 2 rfl rfl)
theorem dX2_method_99 : decode cX2_method 99 = .ok (.iconst 4, 1) := dk_7 (dk_at dksX2_method_4 5 rfl rfl)
theorem dX2_method_100 : decode cX2_method 100 = .ok (.newarray .int, 2) := dk_188_10 (dk_at dksX2_method_4 6 rfl rfl)
theorem dX2_method_102 : decode cX2_method 102 = .ok (.dup, 1) := dk_89 (dk_at dksX2_method_4 8 rfl rfl)
theorem dX2_method_103 : decode cX2_method 103 = .ok (.iconst 0, 1) := dk_3 (dk_at dksX2_method_4 9 rfl rfl)
theorem dX2_method_104 : decode cX2_method 104 = .ok (.iload_n 1, 1) := dk_27 (dk_at dksX2_method_4 10 rfl rfl)
theorem dX2_method_105 : decode cX2_method 105 = .ok (.iastore, 1) := dk_79 (dk_at dksX2_method_4 11 rfl rfl)
theorem dX2_method_106 : decode cX2_method 106 = .ok (.dup, 1) := dk_89 (dk_at dksX2_method_4 12 rfl rfl)
theorem dX2_method_107 : decode cX2_method 107 = .ok (.iconst 1, 1) := dk_4 (dk_at dksX2_method_4 13 rfl rfl)
theorem dX2_method_108 : decode cX2_method 108 = .ok (.iload_n 2, 1) := dk_28 (dk_at dksX2_method_4 14 rfl rfl)
theorem dX2_method_109 : decode cX2_method 109 = .ok (.iastore, 1) := dk_79 (dk_at dksX2_method_4 15 rfl rfl)
theorem dX2_method_110 : decode cX2_method 110 = .ok (.dup, 1) := dk_89 (dk_at dksX2_method_4 16 rfl rfl)
theorem dX2_method_111 : decode cX2_method 111 = .ok (.iconst 2, 1) := dk_5 (dk_at dksX2_method_4 17 rfl rfl)
theorem dX2_method_112 : decode cX2_method 112 = .ok (.iload_n 3, 1) := dk_29 (dk_at dksX2_method_4 18 rfl rfl)
theorem dX2_method_113 : decode cX2_method 113 = .ok (.iastore, 1) := dk_79 (dk_at dksX2_method_4 19 rfl rfl)
theorem dX2_method_114 : decode cX2_method 114 = .ok (.dup, 1) := dk_89 (dk_at dksX2_method_4 20 rfl rfl)
theorem dX2_method_115 : decode cX2_method 115 = .ok (.iconst 3, 1) := dk_6 (dk_at dksX2_method_4 21 rfl rfl)
theorem dX2_method_116 : decode cX2_method 116 = .ok (.iload 4, 2) := dk_21 4 (dk_at dksX2_method_4 22 rfl rfl)
theorem dX2_method_118 : decode cX2_method 118 = .ok (.iastore, 1) := dk_79 (dk_at dksX2_method_5 0 rfl rfl)
theorem dX2_method_119 : decode cX2_method 119 = .ok (.invokevirtual 89, 3) := dk_182 0 89 (dk_at dksX2_method_5 1 rfl rfl)
theorem dX2_method_122 : decode cX2_method 122 = .ok (.pop, 1) := dk_87 (dk_at dksX2_method_5 4 rfl rfl)
theorem dX2_method_123 : decode cX2_method 123 = .ok (.aload_n 0, 1) := dk_42 (dk_at dksX2_method_5 5 rfl rfl)
theorem dX2_method_124 : decode cX2_method 124 = .ok (.getfield 28, 3) := dk_180 0 28 (dk_at dksX2_method_5 6 rfl rfl)
theorem dX2_method_127 : decode cX2_method 127 = .ok (.invokevirtual 48, 3) := dk_182 0 48 (dk_at dksX2_method_5 9 rfl rfl)
theorem dX2_method_130 : decode cX2_method 130 = .ok (.iconst 1, 1) := dk_4 (dk_at dksX2_method_5 12 rfl rfl)
theorem dX2_method_131 : decode cX2_method 131 = .ok (.isub, 1) := dk_100 (dk_at dksX2_method_5 13 rfl rfl)
theorem dX2_method_132 : decode cX2_method 132 = .ok (.ireturn, 1) := dk_172 (dk_at dksX2_method_5 14 rfl rfl)
abbrev cX2_treat : ByteArray := prog_17_method_55_code
def yX2_treat : MethodName := ⟨RX2, "treat", "(II)I"⟩
def dkwX2_treat_12 : List UInt8 := [16, 114, 28, 182, 0, 102, 45, 180, 0, 230, 172]
abbrev dktX2_treat_12 : List UInt8 := dkwX2_treat_12 ++ []
def dkwX2_treat_11 : List UInt8 := [45, 16, 119, 181, 0, 76, 45, 42, 180, 0, 86, 25, 4, 5, 46, 96, 4, 100, 181, 0, 230, 42, 45]
abbrev dktX2_treat_11 : List UInt8 := dkwX2_treat_11 ++ dktX2_treat_12
def dkwX2_treat_10 : List UInt8 := [89, 180, 1, 87, 4, 28, 120, 128, 181, 1, 87, 45, 89, 180, 0, 199, 25, 4, 3, 46, 128, 181, 0, 199]
abbrev dktX2_treat_10 : List UInt8 := dkwX2_treat_10 ++ dktX2_treat_11
def dkwX2_treat_9 : List UInt8 := [3, 172, 42, 180, 0, 37, 21, 6, 182, 0, 68, 192, 0, 180, 3, 92, 46, 25, 4, 4, 46, 100, 79, 45]
abbrev dktX2_treat_9 : List UInt8 := dkwX2_treat_9 ++ dktX2_treat_10
def dkwX2_treat_8 : List UInt8 := [54, 6, 42, 21, 6, 2, 160, 0, 7, 5, 167, 0, 4, 3, 181, 0, 44, 42, 180, 0, 44, 158, 0, 5]
abbrev dktX2_treat_8 : List UInt8 := dkwX2_treat_8 ++ dktX2_treat_9
def dkwX2_treat_7 : List UInt8 := [132, 6, 1, 167, 255, 196, 21, 5, 153, 0, 15, 42, 5, 25, 4, 4, 46, 182, 1, 25, 167, 0, 4, 2]
abbrev dktX2_treat_7 : List UInt8 := dkwX2_treat_7 ++ dktX2_treat_8
def dkwX2_treat_6 : List UInt8 := [21, 6, 182, 0, 68, 192, 0, 180, 6, 46, 28, 122, 4, 126, 154, 0, 7, 4, 167, 0, 4, 3, 54, 5]
abbrev dktX2_treat_6 : List UInt8 := dkwX2_treat_6 ++ dktX2_treat_7
def dkwX2_treat_5 : List UInt8 := [162, 0, 54, 21, 5, 153, 0, 40, 45, 180, 1, 87, 21, 6, 122, 4, 126, 153, 0, 24, 42, 180, 0, 28]
abbrev dktX2_treat_5 : List UInt8 := dkwX2_treat_5 ++ dktX2_treat_6
def dkwX2_treat_4 : List UInt8 := [126, 154, 0, 7, 4, 167, 0, 4, 3, 54, 5, 3, 54, 6, 21, 6, 42, 180, 0, 28, 182, 0, 48]
abbrev dktX2_treat_4 : List UInt8 := dkwX2_treat_4 ++ dktX2_treat_5
def dkwX2_treat_3 : List UInt8 := [45, 180, 0, 63, 2, 160, 0, 27, 45, 180, 0, 76, 16, 114, 160, 0, 18, 45, 180, 1, 87, 28, 122, 4]
abbrev dktX2_treat_3 : List UInt8 := dkwX2_treat_3 ++ dktX2_treat_4
def dkwX2_treat_2 : List UInt8 := [180, 0, 19, 27, 182, 0, 68, 192, 0, 64, 78, 42, 180, 0, 28, 28, 182, 0, 68, 192, 0, 180, 58, 4]
abbrev dktX2_treat_2 : List UInt8 := dkwX2_treat_2 ++ dktX2_treat_3
def dkwX2_treat_1 : List UInt8 := [184, 0, 52, 153, 0, 7, 3, 167, 0, 4, 4, 181, 0, 44, 42, 180, 0, 44, 158, 0, 5, 3, 172, 42]
abbrev dktX2_treat_1 : List UInt8 := dkwX2_treat_1 ++ dktX2_treat_2
def dkwX2_treat_0 : List UInt8 := [42, 42, 27, 182, 0, 56, 153, 0, 26, 28, 133, 9, 42, 180, 0, 28, 182, 0, 48, 4, 100, 133]
abbrev dktX2_treat_0 : List UInt8 := dkwX2_treat_0 ++ dktX2_treat_1
theorem dksX2_treat_0 : cX2_treat.data.toList.drop 0 = dktX2_treat_0 := by decide +kernel
theorem dksX2_treat_1 : cX2_treat.data.toList.drop 22 = dktX2_treat_1 := dk_seg dksX2_treat_0 22 rfl rfl
theorem dksX2_treat_2 : cX2_treat.data.toList.drop 46 = dktX2_treat_2 := dk_seg dksX2_treat_1 24 rfl rfl
theorem dksX2_treat_3 : cX2_treat.data.toList.drop 70 = dktX2_treat_3 := dk_seg dksX2_treat_2 24 rfl rfl
theorem dksX2_treat_4 : cX2_treat.data.toList.drop 94 = dktX2_treat_4 := dk_seg dksX2_treat_3 24 rfl rfl
theorem dksX2_treat_5 : cX2_treat.data.toList.drop 117 = dktX2_treat_5 := dk_seg dksX2_treat_4 23 rfl rfl
theorem dksX2_treat_6 : cX2_treat.data.toList.drop 141 = dktX2_treat_6 := dk_seg dksX2_treat_5 24 rfl rfl
theorem dksX2_treat_7 : cX2_treat.data.toList.drop 165 = dktX2_treat_7 := dk_seg dksX2_treat_6 24 rfl rfl
theorem dksX2_treat_8 : cX2_treat.data.toList.drop 189 = dktX2_treat_8 := dk_seg dksX2_treat_7 24 rfl rfl
theorem dksX2_treat_9 : cX2_treat.data.toList.drop 213 = dktX2_treat_9 := dk_seg dksX2_treat_8 24 rfl rfl
theorem dksX2_treat_10 : cX2_treat.data.toList.drop 237 = dktX2_treat_10 := dk_seg dksX2_treat_9 24 rfl rfl
theorem dksX2_treat_11 : cX2_treat.data.toList.drop 261 = dktX2_treat_11 := dk_seg dksX2_treat_10 24 rfl rfl
theorem dksX2_treat_12 : cX2_treat.data.toList.drop 284 = dktX2_treat_12 := dk_seg dksX2_treat_11 23 rfl rfl
theorem dX2_treat_0 : decode cX2_treat 0 = .ok (.aload_n 0, 1) := dk_42 (dk_at dksX2_treat_0 0 rfl rfl)
theorem dX2_treat_1 : decode cX2_treat 1 = .ok (.aload_n 0, 1) := dk_42 (dk_at dksX2_treat_0 1 rfl rfl)
theorem dX2_treat_2 : decode cX2_treat 2 = .ok (.iload_n 1, 1) := dk_27 (dk_at dksX2_treat_0 2 rfl rfl)
theorem dX2_treat_3 : decode cX2_treat 3 = .ok (.invokevirtual 56, 3) := dk_182 0 56 (dk_at dksX2_treat_0 3 rfl rfl)
theorem dX2_treat_6 : decode cX2_treat 6 = .ok (.ifCond .eq 26, 3) := dk_153 0 26 (dk_at dksX2_treat_0 6 rfl rfl)
theorem dX2_treat_9 : decode cX2_treat 9 = .ok (.iload_n 2, 1) := dk_28 (dk_at dksX2_treat_0 9 rfl rfl)
theorem dX2_treat_10 : decode cX2_treat 10 = .ok (.i2l, 1) := dk_133 (dk_at dksX2_treat_0 10 rfl rfl)
theorem dX2_treat_11 : decode cX2_treat 11 = .ok (.lconst 0, 1) := dk_9 (dk_at dksX2_treat_0 11 rfl rfl)
theorem dX2_treat_12 : decode cX2_treat 12 = .ok (.aload_n 0, 1) := dk_42 (dk_at dksX2_treat_0 12 rfl rfl)
theorem dX2_treat_13 : decode cX2_treat 13 = .ok (.getfield 28, 3) := dk_180 0 28 (dk_at dksX2_treat_0 13 rfl rfl)
theorem dX2_treat_16 : decode cX2_treat 16 = .ok (.invokevirtual 48, 3) := dk_182 0 48 (dk_at dksX2_treat_0 16 rfl rfl)
theorem dX2_treat_19 : decode cX2_treat 19 = .ok (.iconst 1, 1) := dk_4 (dk_at dksX2_treat_0 19 rfl rfl)
theorem dX2_treat_20 : decode cX2_treat 20 = .ok (.isub, 1) := dk_100 (dk_at dksX2_treat_0 20 rfl rfl)
theorem dX2_treat_21 : decode cX2_treat 21 = .ok (.i2l, 1) := dk_133 (dk_at dksX2_treat_0 21 rfl rfl)
theorem dX2_treat_22 : decode cX2_treat 22 = .ok (.invokestatic 52, 3) := dk_184 0 52 (dk_at dksX2_treat_1 0 rfl rfl)
theorem dX2_treat_25 : decode cX2_treat 25 = .ok (.ifCond .eq 7, 3) := dk_153 0 7 (dk_at dksX2_treat_1 3 rfl rfl)
theorem dX2_treat_28 : decode cX2_treat 28 = .ok (.iconst 0, 1) := dk_3 (dk_at dksX2_treat_1 6 rfl rfl)
theorem dX2_treat_29 : decode cX2_treat 29 = .ok (.goto 4, 3) := dk_167 0 4 (dk_at dksX2_treat_1 7 rfl rfl)
theorem dX2_treat_32 : decode cX2_treat 32 = .ok (.iconst 1, 1) := dk_4 (dk_at dksX2_treat_1 10 rfl rfl)
theorem dX2_treat_33 : decode cX2_treat 33 = .ok (.putfield 44, 3) := dk_181 0 44 (dk_at dksX2_treat_1 11 rfl rfl)
theorem dX2_treat_36 : decode cX2_treat 36 = .ok (.aload_n 0, 1) := dk_42 (dk_at dksX2_treat_1 14 rfl rfl)
theorem dX2_treat_37 : decode cX2_treat 37 = .ok (.getfield 44, 3) := dk_180 0 44 (dk_at dksX2_treat_1 15 rfl rfl)
theorem dX2_treat_40 : decode cX2_treat 40 = .ok (.ifCond .le 5, 3) := dk_158 0 5 (dk_at dksX2_treat_1 18 rfl rfl)
theorem dX2_treat_43 : decode cX2_treat 43 = .ok (.iconst 0, 1) := dk_3 (dk_at dksX2_treat_1 21 rfl rfl)
theorem dX2_treat_44 : decode cX2_treat 44 = .ok (.ireturn, 1) := dk_172 (dk_at dksX2_treat_1 22 rfl rfl)
theorem dX2_treat_45 : decode cX2_treat 45 = .ok (.aload_n 0, 1) := dk_42 (dk_at dksX2_treat_1 23 rfl rfl)
theorem dX2_treat_46 : decode cX2_treat 46 = .ok (.getfield 19, 3) := dk_180 0 19 (dk_at dksX2_treat_2 0 rfl rfl)
theorem dX2_treat_49 : decode cX2_treat 49 = .ok (.iload_n 1, 1) := dk_27 (dk_at dksX2_treat_2 3 rfl rfl)
theorem dX2_treat_50 : decode cX2_treat 50 = .ok (.invokevirtual 68, 3) := dk_182 0 68 (dk_at dksX2_treat_2 4 rfl rfl)
theorem dX2_treat_53 : decode cX2_treat 53 = .ok (.checkcast 64, 3) := dk_192 0 64 (dk_at dksX2_treat_2 7 rfl rfl)
theorem dX2_treat_56 : decode cX2_treat 56 = .ok (.astore_n 3, 1) := dk_78 (dk_at dksX2_treat_2 10 rfl rfl)
theorem dX2_treat_57 : decode cX2_treat 57 = .ok (.aload_n 0, 1) := dk_42 (dk_at dksX2_treat_2 11 rfl rfl)
theorem dX2_treat_58 : decode cX2_treat 58 = .ok (.getfield 28, 3) := dk_180 0 28 (dk_at dksX2_treat_2 12 rfl rfl)
theorem dX2_treat_61 : decode cX2_treat 61 = .ok (.iload_n 2, 1) := dk_28 (dk_at dksX2_treat_2 15 rfl rfl)
theorem dX2_treat_62 : decode cX2_treat 62 = .ok (.invokevirtual 68, 3) := dk_182 0 68 (dk_at dksX2_treat_2 16 rfl rfl)
theorem dX2_treat_65 : decode cX2_treat 65 = .ok (.checkcast 180, 3) := dk_192 0 180 (dk_at dksX2_treat_2 19 rfl rfl)
theorem dX2_treat_68 : decode cX2_treat 68 = .ok (.astore 4, 2) := dk_58 4 (dk_at dksX2_treat_2 22 rfl rfl)
theorem dX2_treat_70 : decode cX2_treat 70 = .ok (.aload_n 3, 1) := dk_45 (dk_at dksX2_treat_3 0 rfl rfl)
theorem dX2_treat_71 : decode cX2_treat 71 = .ok (.getfield 63, 3) := dk_180 0 63 (dk_at dksX2_treat_3 1 rfl rfl)
theorem dX2_treat_74 : decode cX2_treat 74 = .ok (.iconst (-1), 1) := dk_2 (dk_at dksX2_treat_3 4 rfl rfl)
theorem dX2_treat_75 : decode cX2_treat 75 = .ok (.if_icmp .ne 27, 3) := dk_160 0 27 (dk_at dksX2_treat_3 5 rfl rfl)
theorem dX2_treat_78 : decode cX2_treat 78 = .ok (.aload_n 3, 1) := dk_45 (dk_at dksX2_treat_3 8 rfl rfl)
theorem dX2_treat_79 : decode cX2_treat 79 = .ok (.getfield 76, 3) := dk_180 0 76 (dk_at dksX2_treat_3 9 rfl rfl)
theorem dX2_treat_82 : decode cX2_treat 82 = .ok (.bipush 114, 2) := dk_16 114 (dk_at dksX2_treat_3 12 rfl rfl)
theorem dX2_treat_84 : decode cX2_treat 84 = .ok (.if_icmp .ne 18, 3) := dk_160 0 18 (dk_at dksX2_treat_3 14 rfl rfl)
theorem dX2_treat_87 : decode cX2_treat 87 = .ok (.aload_n 3, 1) := dk_45 (dk_at dksX2_treat_3 17 rfl rfl)
theorem dX2_treat_88 : decode cX2_treat 88 = .ok (.getfield 343, 3) := dk_180 1 87 (dk_at dksX2_treat_3 18 rfl rfl)
theorem dX2_treat_91 : decode cX2_treat 91 = .ok (.iload_n 2, 1) := dk_28 (dk_at dksX2_treat_3 21 rfl rfl)
theorem dX2_treat_92 : decode cX2_treat 92 = .ok (.ishr, 1) := dk_122 (dk_at dksX2_treat_3 22 rfl rfl)
theorem dX2_treat_93 : decode cX2_treat 93 = .ok (.iconst 1, 1) := dk_4 (dk_at dksX2_treat_3 23 rfl rfl)
theorem dX2_treat_94 : decode cX2_treat 94 = .ok (.iand, 1) := dk_126 (dk_at dksX2_treat_4 0 rfl rfl)
theorem dX2_treat_95 : decode cX2_treat 95 = .ok (.ifCond .ne 7, 3) := dk_154 0 7 (dk_at dksX2_treat_4 1 rfl rfl)
theorem dX2_treat_98 : decode cX2_treat 98 = .ok (.iconst 1, 1) := dk_4 (dk_at dksX2_treat_4 4 rfl rfl)
theorem dX2_treat_99 : decode cX2_treat 99 = .ok (.goto 4, 3) := dk_167 0 4 (dk_at dksX2_treat_4 5 rfl rfl)
theorem dX2_treat_102 : decode cX2_treat 102 = .ok (.iconst 0, 1) := dk_3 (dk_at dksX2_treat_4 8 rfl rfl)
theorem dX2_treat_103 : decode cX2_treat 103 = .ok (.istore 5, 2) := dk_54 5 (dk_at dksX2_treat_4 9 rfl rfl)
theorem dX2_treat_105 : decode cX2_treat 105 = .ok (.iconst 0, 1) := dk_3 (dk_at dksX2_treat_4 11 rfl rfl)
theorem dX2_treat_106 : decode cX2_treat 106 = .ok (.istore 6, 2) := dk_54 6 (dk_at dksX2_treat_4 12 rfl rfl)
theorem dX2_treat_108 : decode cX2_treat 108 = .ok (.iload 6, 2) := dk_21 6 (dk_at dksX2_treat_4 14 rfl rfl)
theorem dX2_treat_110 : decode cX2_treat 110 = .ok (.aload_n 0, 1) := dk_42 (dk_at dksX2_treat_4 16 rfl rfl)
theorem dX2_treat_111 : decode cX2_treat 111 = .ok (.getfield 28, 3) := dk_180 0 28 (dk_at dksX2_treat_4 17 rfl rfl)
theorem dX2_treat_114 : decode cX2_treat 114 = .ok (.invokevirtual 48, 3) := dk_182 0 48 (dk_at dksX2_treat_4 20 rfl rfl)
theorem dX2_treat_117 : decode cX2_treat 117 = .ok (.if_icmp .ge 54, 3) := dk_162 0 54 (dk_at dksX2_treat_5 0 rfl rfl)
theorem dX2_treat_120 : decode cX2_treat 120 = .ok (.iload 5, 2) := dk_21 5 (dk_at dksX2_treat_5 3 rfl rfl)
theorem dX2_treat_122 : decode cX2_treat 122 = .ok (.ifCond .eq 40, 3) := dk_153 0 40 (dk_at dksX2_treat_5 5 rfl rfl)
theorem dX2_treat_125 : decode cX2_treat 125 = .ok (.aload_n 3, 1) := dk_45 (dk_at dksX2_treat_5 8 rfl rfl)
theorem dX2_treat_126 : decode cX2_treat 126 = .ok (.getfield 343, 3) := dk_180 1 87 (dk_at dksX2_treat_5 9 rfl rfl)
theorem dX2_treat_129 : decode cX2_treat 129 = .ok (.iload 6, 2) := dk_21 6 (dk_at dksX2_treat_5 12 rfl rfl)
theorem dX2_treat_131 : decode cX2_treat 131 = .ok (.ishr, 1) := dk_122 (dk_at dksX2_treat_5 14 rfl rfl)
theorem dX2_treat_132 : decode cX2_treat 132 = .ok (.iconst 1, 1) := dk_4 (dk_at dksX2_treat_5 15 rfl rfl)
theorem dX2_treat_133 : decode cX2_treat 133 = .ok (.iand, 1) := dk_126 (dk_at dksX2_treat_5 16 rfl rfl)
theorem dX2_treat_134 : decode cX2_treat 134 = .ok (.ifCond .eq 24, 3) := dk_153 0 24 (dk_at dksX2_treat_5 17 rfl rfl)
theorem dX2_treat_137 : decode cX2_treat 137 = .ok (.aload_n 0, 1) := dk_42 (dk_at dksX2_treat_5 20 rfl rfl)
theorem dX2_treat_138 : decode cX2_treat 138 = .ok (.getfield 28, 3) := dk_180 0 28 (dk_at dksX2_treat_5 21 rfl rfl)
theorem dX2_treat_141 : decode cX2_treat 141 = .ok (.iload 6, 2) := dk_21 6 (dk_at dksX2_treat_6 0 rfl rfl)
theorem dX2_treat_143 : decode cX2_treat 143 = .ok (.invokevirtual 68, 3) := dk_182 0 68 (dk_at dksX2_treat_6 2 rfl rfl)
theorem dX2_treat_146 : decode cX2_treat 146 = .ok (.checkcast 180, 3) := dk_192 0 180 (dk_at dksX2_treat_6 5 rfl rfl)
theorem dX2_treat_149 : decode cX2_treat 149 = .ok (.iconst 3, 1) := dk_6 (dk_at dksX2_treat_6 8 rfl rfl)
theorem dX2_treat_150 : decode cX2_treat 150 = .ok (.iaload, 1) := dk_46 (dk_at dksX2_treat_6 9 rfl rfl)
theorem dX2_treat_151 : decode cX2_treat 151 = .ok (.iload_n 2, 1) := dk_28 (dk_at dksX2_treat_6 10 rfl rfl)
theorem dX2_treat_152 : decode cX2_treat 152 = .ok (.ishr, 1) := dk_122 (dk_at dksX2_treat_6 11 rfl rfl)
theorem dX2_treat_153 : decode cX2_treat 153 = .ok (.iconst 1, 1) := dk_4 (dk_at dksX2_treat_6 12 rfl rfl)
theorem dX2_treat_154 : decode cX2_treat 154 = .ok (.iand, 1) := dk_126 (dk_at dksX2_treat_6 13 rfl rfl)
theorem dX2_treat_155 : decode cX2_treat 155 = .ok (.ifCond .ne 7, 3) := dk_154 0 7 (dk_at dksX2_treat_6 14 rfl rfl)
theorem dX2_treat_158 : decode cX2_treat 158 = .ok (.iconst 1, 1) := dk_4 (dk_at dksX2_treat_6 17 rfl rfl)
theorem dX2_treat_159 : decode cX2_treat 159 = .ok (.goto 4, 3) := dk_167 0 4 (dk_at dksX2_treat_6 18 rfl rfl)
theorem dX2_treat_162 : decode cX2_treat 162 = .ok (.iconst 0, 1) := dk_3 (dk_at dksX2_treat_6 21 rfl rfl)
theorem dX2_treat_163 : decode cX2_treat 163 = .ok (.istore 5, 2) := dk_54 5 (dk_at dksX2_treat_6 22 rfl rfl)
theorem dX2_treat_165 : decode cX2_treat 165 = .ok (.iinc 6 1, 3) := dk_132 6 1 (dk_at dksX2_treat_7 0 rfl rfl)
theorem dX2_treat_168 : decode cX2_treat 168 = .ok (.goto (-60), 3) := dk_167 255 196 (dk_at dksX2_treat_7 3 rfl rfl)
theorem dX2_treat_171 : decode cX2_treat 171 = .ok (.iload 5, 2) := dk_21 5 (dk_at dksX2_treat_7 6 rfl rfl)
theorem dX2_treat_173 : decode cX2_treat 173 = .ok (.ifCond .eq 15, 3) := dk_153 0 15 (dk_at dksX2_treat_7 8 rfl rfl)
theorem dX2_treat_176 : decode cX2_treat 176 = .ok (.aload_n 0, 1) := dk_42 (dk_at dksX2_treat_7 11 rfl rfl)
theorem dX2_treat_177 : decode cX2_treat 177 = .ok (.iconst 2, 1) := dk_5 (dk_at dksX2_treat_7 12 rfl rfl)
theorem dX2_treat_178 : decode cX2_treat 178 = .ok (.aload 4, 2) := dk_25 4 (dk_at dksX2_treat_7 13 rfl rfl)
theorem dX2_treat_180 : decode cX2_treat 180 = .ok (.iconst 1, 1) := dk_4 (dk_at dksX2_treat_7 15 rfl rfl)
theorem dX2_treat_181 : decode cX2_treat 181 = .ok (.iaload, 1) := dk_46 (dk_at dksX2_treat_7 16 rfl rfl)
theorem dX2_treat_182 : decode cX2_treat 182 = .ok (.invokevirtual 281, 3) := dk_182 1 25 (dk_at dksX2_treat_7 17 rfl rfl)
theorem dX2_treat_185 : decode cX2_treat 185 = .ok (.goto 4, 3) := dk_167 0 4 (dk_at dksX2_treat_7 20 rfl rfl)
theorem dX2_treat_188 : decode cX2_treat 188 = .ok (.iconst (-1), 1) := dk_2 (dk_at dksX2_treat_7 23 rfl rfl)
theorem dX2_treat_189 : decode cX2_treat 189 = .ok (.istore 6, 2) := dk_54 6 (dk_at dksX2_treat_8 0 rfl rfl)
theorem dX2_treat_191 : decode cX2_treat 191 = .ok (.aload_n 0, 1) := dk_42 (dk_at dksX2_treat_8 2 rfl rfl)
theorem dX2_treat_192 : decode cX2_treat 192 = .ok (.iload 6, 2) := dk_21 6 (dk_at dksX2_treat_8 3 rfl rfl)
theorem dX2_treat_194 : decode cX2_treat 194 = .ok (.iconst (-1), 1) := dk_2 (dk_at dksX2_treat_8 5 rfl rfl)
theorem dX2_treat_195 : decode cX2_treat 195 = .ok (.if_icmp .ne 7, 3) := dk_160 0 7 (dk_at dksX2_treat_8 6 rfl rfl)
theorem dX2_treat_198 : decode cX2_treat 198 = .ok (.iconst 2, 1) := dk_5 (dk_at dksX2_treat_8 9 rfl rfl)
theorem dX2_treat_199 : decode cX2_treat 199 = .ok (.goto 4, 3) := dk_167 0 4 (dk_at dksX2_treat_8 10 rfl rfl)
theorem dX2_treat_202 : decode cX2_treat 202 = .ok (.iconst 0, 1) := dk_3 (dk_at dksX2_treat_8 13 rfl rfl)
theorem dX2_treat_203 : decode cX2_treat 203 = .ok (.putfield 44, 3) := dk_181 0 44 (dk_at dksX2_treat_8 14 rfl rfl)
theorem dX2_treat_206 : decode cX2_treat 206 = .ok (.aload_n 0, 1) := dk_42 (dk_at dksX2_treat_8 17 rfl rfl)
theorem dX2_treat_207 : decode cX2_treat 207 = .ok (.getfield 44, 3) := dk_180 0 44 (dk_at dksX2_treat_8 18 rfl rfl)
theorem dX2_treat_210 : decode cX2_treat 210 = .ok (.ifCond .le 5, 3) := dk_158 0 5 (dk_at dksX2_treat_8 21 rfl rfl)
theorem dX2_treat_213 : decode cX2_treat 213 = .ok (.iconst 0, 1) := dk_3 (dk_at dksX2_treat_9 0 rfl rfl)
theorem dX2_treat_214 : decode cX2_treat 214 = .ok (.ireturn, 1) := dk_172 (dk_at dksX2_treat_9 1 rfl rfl)
theorem dX2_treat_215 : decode cX2_treat 215 = .ok (.aload_n 0, 1) := dk_42 (dk_at dksX2_treat_9 2 rfl rfl)
theorem dX2_treat_216 : decode cX2_treat 216 = .ok (.getfield 37, 3) := dk_180 0 37 (dk_at dksX2_treat_9 3 rfl rfl)
theorem dX2_treat_219 : decode cX2_treat 219 = .ok (.iload 6, 2) := dk_21 6 (dk_at dksX2_treat_9 6 rfl rfl)
theorem dX2_treat_221 : decode cX2_treat 221 = .ok (.invokevirtual 68, 3) := dk_182 0 68 (dk_at dksX2_treat_9 8 rfl rfl)
theorem dX2_treat_224 : decode cX2_treat 224 = .ok (.checkcast 180, 3) := dk_192 0 180 (dk_at dksX2_treat_9 11 rfl rfl)
theorem dX2_treat_227 : decode cX2_treat 227 = .ok (.iconst 0, 1) := dk_3 (dk_at dksX2_treat_9 14 rfl rfl)
theorem dX2_treat_228 : decode cX2_treat 228 = .ok (.dup2, 1) := dk_92 (dk_at dksX2_treat_9 15 rfl rfl)
theorem dX2_treat_229 : decode cX2_treat 229 = .ok (.iaload, 1) := dk_46 (dk_at dksX2_treat_9 16 rfl rfl)
theorem dX2_treat_230 : decode cX2_treat 230 = .ok (.aload 4, 2) := dk_25 4 (dk_at dksX2_treat_9 17 rfl rfl)
theorem dX2_treat_232 : decode cX2_treat 232 = .ok (.iconst 1, 1) := dk_4 (dk_at dksX2_treat_9 19 rfl rfl)
theorem dX2_treat_233 : decode cX2_treat 233 = .ok (.iaload, 1) := dk_46 (dk_at dksX2_treat_9 20 rfl rfl)
theorem dX2_treat_234 : decode cX2_treat 234 = .ok (.isub, 1) := dk_100 (dk_at dksX2_treat_9 21 rfl rfl)
theorem dX2_treat_235 : decode cX2_treat 235 = .ok (.iastore, 1) := dk_79 (dk_at dksX2_treat_9 22 rfl rfl)
theorem dX2_treat_236 : decode cX2_treat 236 = .ok (.aload_n 3, 1) := dk_45 (dk_at dksX2_treat_9 23 rfl rfl)
theorem dX2_treat_237 : decode cX2_treat 237 = .ok (.dup, 1) := dk_89 (dk_at dksX2_treat_10 0 rfl rfl)
theorem dX2_treat_238 : decode cX2_treat 238 = .ok (.getfield 343, 3) := dk_180 1 87 (dk_at dksX2_treat_10 1 rfl rfl)
theorem dX2_treat_241 : decode cX2_treat 241 = .ok (.iconst 1, 1) := dk_4 (dk_at dksX2_treat_10 4 rfl rfl)
theorem dX2_treat_242 : decode cX2_treat 242 = .ok (.iload_n 2, 1) := dk_28 (dk_at dksX2_treat_10 5 rfl rfl)
theorem dX2_treat_243 : decode cX2_treat 243 = .ok (.ishl, 1) := dk_120 (dk_at dksX2_treat_10 6 rfl rfl)
theorem dX2_treat_244 : decode cX2_treat 244 = .ok (.ior, 1) := dk_128 (dk_at dksX2_treat_10 7 rfl rfl)
theorem dX2_treat_245 : decode cX2_treat 245 = .ok (.putfield 343, 3) := dk_181 1 87 (dk_at dksX2_treat_10 8 rfl rfl)
theorem dX2_treat_248 : decode cX2_treat 248 = .ok (.aload_n 3, 1) := dk_45 (dk_at dksX2_treat_10 11 rfl rfl)
theorem dX2_treat_249 : decode cX2_treat 249 = .ok (.dup, 1) := dk_89 (dk_at dksX2_treat_10 12 rfl rfl)
theorem dX2_treat_250 : decode cX2_treat 250 = .ok (.getfield 199, 3) := dk_180 0 199 (dk_at dksX2_treat_10 13 rfl rfl)
theorem dX2_treat_253 : decode cX2_treat 253 = .ok (.aload 4, 2) := dk_25 4 (dk_at dksX2_treat_10 16 rfl rfl)
theorem dX2_treat_255 : decode cX2_treat 255 = .ok (.iconst 0, 1) := dk_3 (dk_at dksX2_treat_10 18 rfl rfl)
theorem dX2_treat_256 : decode cX2_treat 256 = .ok (.iaload, 1) := dk_46 (dk_at dksX2_treat_10 19 rfl rfl)
theorem dX2_treat_257 : decode cX2_treat 257 = .ok (.ior, 1) := dk_128 (dk_at dksX2_treat_10 20 rfl rfl)
theorem dX2_treat_258 : decode cX2_treat 258 = .ok (.putfield 199, 3) := dk_181 0 199 (dk_at dksX2_treat_10 21 rfl rfl)
theorem dX2_treat_261 : decode cX2_treat 261 = .ok (.aload_n 3, 1) := dk_45 (dk_at dksX2_treat_11 0 rfl rfl)
theorem dX2_treat_262 : decode cX2_treat 262 = .ok (.bipush 119, 2) := dk_16 119 (dk_at dksX2_treat_11 1 rfl rfl)
theorem dX2_treat_264 : decode cX2_treat 264 = .ok (.putfield 76, 3) := dk_181 0 76 (dk_at dksX2_treat_11 3 rfl rfl)
theorem dX2_treat_267 : decode cX2_treat 267 = .ok (.aload_n 3, 1) := dk_45 (dk_at dksX2_treat_11 6 rfl rfl)
theorem dX2_treat_268 : decode cX2_treat 268 = .ok (.aload_n 0, 1) := dk_42 (dk_at dksX2_treat_11 7 rfl rfl)
theorem dX2_treat_269 : decode cX2_treat 269 = .ok (.getfield 86, 3) := dk_180 0 86 (dk_at dksX2_treat_11 8 rfl rfl)
theorem dX2_treat_272 : decode cX2_treat 272 = .ok (.aload 4, 2) := dk_25 4 (dk_at dksX2_treat_11 11 rfl rfl)
theorem dX2_treat_274 : decode cX2_treat 274 = .ok (.iconst 2, 1) := dk_5 (dk_at dksX2_treat_11 13 rfl rfl)
theorem dX2_treat_275 : decode cX2_treat 275 = .ok (.iaload, 1) := dk_46 (dk_at dksX2_treat_11 14 rfl rfl)
theorem dX2_treat_276 : decode cX2_treat 276 = .ok (.iadd, 1) := dk_96 (dk_at dksX2_treat_11 15 rfl rfl)
theorem dX2_treat_277 : decode cX2_treat 277 = .ok (.iconst 1, 1) := dk_4 (dk_at dksX2_treat_11 16 rfl rfl)
theorem dX2_treat_278 : decode cX2_treat 278 = .ok (.isub, 1) := dk_100 (dk_at dksX2_treat_11 17 rfl rfl)
theorem dX2_treat_279 : decode cX2_treat 279 = .ok (.putfield 230, 3) := dk_181 0 230 (dk_at dksX2_treat_11 18 rfl rfl)
theorem dX2_treat_282 : decode cX2_treat 282 = .ok (.aload_n 0, 1) := dk_42 (dk_at dksX2_treat_11 21 rfl rfl)
theorem dX2_treat_283 : decode cX2_treat 283 = .ok (.aload_n 3, 1) := dk_45 (dk_at dksX2_treat_11 22 rfl rfl)
theorem dX2_treat_284 : decode cX2_treat 284 = .ok (.bipush 114, 2) := dk_16 114 (dk_at dksX2_treat_12 0 rfl rfl)
theorem dX2_treat_286 : decode cX2_treat 286 = .ok (.iload_n 2, 1) := dk_28 (dk_at dksX2_treat_12 2 rfl rfl)
theorem dX2_treat_287 : decode cX2_treat 287 = .ok (.invokevirtual 102, 3) := dk_182 0 102 (dk_at dksX2_treat_12 3 rfl rfl)
theorem dX2_treat_290 : decode cX2_treat 290 = .ok (.aload_n 3, 1) := dk_45 (dk_at dksX2_treat_12 6 rfl rfl)
theorem dX2_treat_291 : decode cX2_treat 291 = .ok (.getfield 230, 3) := dk_180 0 230 (dk_at dksX2_treat_12 7 rfl rfl)
theorem dX2_treat_294 : decode cX2_treat 294 = .ok (.ireturn, 1) := dk_172 (dk_at dksX2_treat_12 10 rfl rfl)
abbrev cX2_kept : ByteArray := prog_17_method_56_code
def yX2_kept : MethodName := ⟨RX2, "kept", "(I)I"⟩
def dkwX2_kept_1 : List UInt8 := [180, 0, 199, 172]
abbrev dktX2_kept_1 : List UInt8 := dkwX2_kept_1 ++ []
def dkwX2_kept_0 : List UInt8 := [42, 27, 182, 0, 185, 153, 0, 7, 3, 167, 0, 17, 42, 180, 0, 19, 27, 182, 0, 68, 192, 0, 64]
abbrev dktX2_kept_0 : List UInt8 := dkwX2_kept_0 ++ dktX2_kept_1
theorem dksX2_kept_0 : cX2_kept.data.toList.drop 0 = dktX2_kept_0 := by decide +kernel
theorem dksX2_kept_1 : cX2_kept.data.toList.drop 23 = dktX2_kept_1 := dk_seg dksX2_kept_0 23 rfl rfl
theorem dX2_kept_0 : decode cX2_kept 0 = .ok (.aload_n 0, 1) := dk_42 (dk_at dksX2_kept_0 0 rfl rfl)
theorem dX2_kept_1 : decode cX2_kept 1 = .ok (.iload_n 1, 1) := dk_27 (dk_at dksX2_kept_0 1 rfl rfl)
theorem dX2_kept_2 : decode cX2_kept 2 = .ok (.invokevirtual 185, 3) := dk_182 0 185 (dk_at dksX2_kept_0 2 rfl rfl)
theorem dX2_kept_5 : decode cX2_kept 5 = .ok (.ifCond .eq 7, 3) := dk_153 0 7 (dk_at dksX2_kept_0 5 rfl rfl)
theorem dX2_kept_8 : decode cX2_kept 8 = .ok (.iconst 0, 1) := dk_3 (dk_at dksX2_kept_0 8 rfl rfl)
theorem dX2_kept_9 : decode cX2_kept 9 = .ok (.goto 17, 3) := dk_167 0 17 (dk_at dksX2_kept_0 9 rfl rfl)
theorem dX2_kept_12 : decode cX2_kept 12 = .ok (.aload_n 0, 1) := dk_42 (dk_at dksX2_kept_0 12 rfl rfl)
theorem dX2_kept_13 : decode cX2_kept 13 = .ok (.getfield 19, 3) := dk_180 0 19 (dk_at dksX2_kept_0 13 rfl rfl)
theorem dX2_kept_16 : decode cX2_kept 16 = .ok (.iload_n 1, 1) := dk_27 (dk_at dksX2_kept_0 16 rfl rfl)
theorem dX2_kept_17 : decode cX2_kept 17 = .ok (.invokevirtual 68, 3) := dk_182 0 68 (dk_at dksX2_kept_0 17 rfl rfl)
theorem dX2_kept_20 : decode cX2_kept 20 = .ok (.checkcast 64, 3) := dk_192 0 64 (dk_at dksX2_kept_0 20 rfl rfl)
theorem dX2_kept_23 : decode cX2_kept 23 = .ok (.getfield 199, 3) := dk_180 0 199 (dk_at dksX2_kept_1 0 rfl rfl)
theorem dX2_kept_26 : decode cX2_kept 26 = .ok (.ireturn, 1) := dk_172 (dk_at dksX2_kept_1 3 rfl rfl)
abbrev cX2_box : ByteArray := prog_17_method_57_code
def yX2_box : MethodName := ⟨RX2, "box", "(I)I"⟩
def dkwX2_box_3 : List UInt8 := [182, 0, 48, 4, 100, 172]
abbrev dktX2_box_3 : List UInt8 := dkwX2_box_3 ++ []
def dkwX2_box_2 : List UInt8 := [180, 0, 31, 5, 188, 10, 89, 3, 27, 79, 89, 4, 3, 79, 182, 0, 89, 87, 42, 180, 0, 31]
abbrev dktX2_box_2 : List UInt8 := dkwX2_box_2 ++ dktX2_box_3
def dkwX2_box_1 : List UInt8 := [16, 6, 160, 0, 7, 5, 167, 0, 4, 3, 181, 0, 44, 42, 180, 0, 44, 158, 0, 5, 3, 172, 42]
abbrev dktX2_box_1 : List UInt8 := dkwX2_box_1 ++ dktX2_box_2
def dkwX2_box_0 : List UInt8 := [42, 27, 133, 10, 20, 1, 83, 184, 0, 52, 154, 0, 7, 4, 167, 0, 20, 42, 180, 0, 31, 182, 0, 48]
abbrev dktX2_box_0 : List UInt8 := dkwX2_box_0 ++ dktX2_box_1
theorem dksX2_box_0 : cX2_box.data.toList.drop 0 = dktX2_box_0 := by decide +kernel
theorem dksX2_box_1 : cX2_box.data.toList.drop 24 = dktX2_box_1 := dk_seg dksX2_box_0 24 rfl rfl
theorem dksX2_box_2 : cX2_box.data.toList.drop 47 = dktX2_box_2 := dk_seg dksX2_box_1 23 rfl rfl
theorem dksX2_box_3 : cX2_box.data.toList.drop 69 = dktX2_box_3 := dk_seg dksX2_box_2 22 rfl rfl
theorem dX2_box_0 : decode cX2_box 0 = .ok (.aload_n 0, 1) := dk_42 (dk_at dksX2_box_0 0 rfl rfl)
theorem dX2_box_1 : decode cX2_box 1 = .ok (.iload_n 1, 1) := dk_27 (dk_at dksX2_box_0 1 rfl rfl)
theorem dX2_box_2 : decode cX2_box 2 = .ok (.i2l, 1) := dk_133 (dk_at dksX2_box_0 2 rfl rfl)
theorem dX2_box_3 : decode cX2_box 3 = .ok (.lconst 1, 1) := dk_10 (dk_at dksX2_box_0 3 rfl rfl)
theorem dX2_box_4 : decode cX2_box 4 = .ok (.ldc2_w 339, 3) := dk_20 1 83 (dk_at dksX2_box_0 4 rfl rfl)
theorem dX2_box_7 : decode cX2_box 7 = .ok (.invokestatic 52, 3) := dk_184 0 52 (dk_at dksX2_box_0 7 rfl rfl)
theorem dX2_box_10 : decode cX2_box 10 = .ok (.ifCond .ne 7, 3) := dk_154 0 7 (dk_at dksX2_box_0 10 rfl rfl)
theorem dX2_box_13 : decode cX2_box 13 = .ok (.iconst 1, 1) := dk_4 (dk_at dksX2_box_0 13 rfl rfl)
theorem dX2_box_14 : decode cX2_box 14 = .ok (.goto 20, 3) := dk_167 0 20 (dk_at dksX2_box_0 14 rfl rfl)
theorem dX2_box_17 : decode cX2_box 17 = .ok (.aload_n 0, 1) := dk_42 (dk_at dksX2_box_0 17 rfl rfl)
theorem dX2_box_18 : decode cX2_box 18 = .ok (.getfield 31, 3) := dk_180 0 31 (dk_at dksX2_box_0 18 rfl rfl)
theorem dX2_box_21 : decode cX2_box 21 = .ok (.invokevirtual 48, 3) := dk_182 0 48 (dk_at dksX2_box_0 21 rfl rfl)
theorem dX2_box_24 : decode cX2_box 24 = .ok (.bipush 6, 2) := dk_16 6 (dk_at dksX2_box_1 0 rfl rfl)
theorem dX2_box_26 : decode cX2_box 26 = .ok (.if_icmp .ne 7, 3) := dk_160 0 7 (dk_at dksX2_box_1 2 rfl rfl)
theorem dX2_box_29 : decode cX2_box 29 = .ok (.iconst 2, 1) := dk_5 (dk_at dksX2_box_1 5 rfl rfl)
theorem dX2_box_30 : decode cX2_box 30 = .ok (.goto 4, 3) := dk_167 0 4 (dk_at dksX2_box_1 6 rfl rfl)
theorem dX2_box_33 : decode cX2_box 33 = .ok (.iconst 0, 1) := dk_3 (dk_at dksX2_box_1 9 rfl rfl)
theorem dX2_box_34 : decode cX2_box 34 = .ok (.putfield 44, 3) := dk_181 0 44 (dk_at dksX2_box_1 10 rfl rfl)
theorem dX2_box_37 : decode cX2_box 37 = .ok (.aload_n 0, 1) := dk_42 (dk_at dksX2_box_1 13 rfl rfl)
theorem dX2_box_38 : decode cX2_box 38 = .ok (.getfield 44, 3) := dk_180 0 44 (dk_at dksX2_box_1 14 rfl rfl)
theorem dX2_box_41 : decode cX2_box 41 = .ok (.ifCond .le 5, 3) := dk_158 0 5 (dk_at dksX2_box_1 17 rfl rfl)
theorem dX2_box_44 : decode cX2_box 44 = .ok (.iconst 0, 1) := dk_3 (dk_at dksX2_box_1 20 rfl rfl)
theorem dX2_box_45 : decode cX2_box 45 = .ok (.ireturn, 1) := dk_172 (dk_at dksX2_box_1 21 rfl rfl)
theorem dX2_box_46 : decode cX2_box 46 = .ok (.aload_n 0, 1) := dk_42 (dk_at dksX2_box_1 22 rfl rfl)
theorem dX2_box_47 : decode cX2_box 47 = .ok (.getfield 31, 3) := dk_180 0 31 (dk_at dksX2_box_2 0 rfl rfl)
theorem dX2_box_50 : decode cX2_box 50 = .ok (.iconst 2, 1) := dk_5 (dk_at dksX2_box_2 3 rfl rfl)
theorem dX2_box_51 : decode cX2_box 51 = .ok (.newarray .int, 2) := dk_188_10 (dk_at dksX2_box_2 4 rfl rfl)
theorem dX2_box_53 : decode cX2_box 53 = .ok (.dup, 1) := dk_89 (dk_at dksX2_box_2 6 rfl rfl)
theorem dX2_box_54 : decode cX2_box 54 = .ok (.iconst 0, 1) := dk_3 (dk_at dksX2_box_2 7 rfl rfl)
theorem dX2_box_55 : decode cX2_box 55 = .ok (.iload_n 1, 1) := dk_27 (dk_at dksX2_box_2 8 rfl rfl)
theorem dX2_box_56 : decode cX2_box 56 = .ok (.iastore, 1) := dk_79 (dk_at dksX2_box_2 9 rfl rfl)
theorem dX2_box_57 : decode cX2_box 57 = .ok (.dup, 1) := dk_89 (dk_at dksX2_box_2 10 rfl rfl)
theorem dX2_box_58 : decode cX2_box 58 = .ok (.iconst 1, 1) := dk_4 (dk_at dksX2_box_2 11 rfl rfl)
theorem dX2_box_59 : decode cX2_box 59 = .ok (.iconst 0, 1) := dk_3 (dk_at dksX2_box_2 12 rfl rfl)
theorem dX2_box_60 : decode cX2_box 60 = .ok (.iastore, 1) := dk_79 (dk_at dksX2_box_2 13 rfl rfl)
theorem dX2_box_61 : decode cX2_box 61 = .ok (.invokevirtual 89, 3) := dk_182 0 89 (dk_at dksX2_box_2 14 rfl rfl)
theorem dX2_box_64 : decode cX2_box 64 = .ok (.pop, 1) := dk_87 (dk_at dksX2_box_2 17 rfl rfl)
theorem dX2_box_65 : decode cX2_box 65 = .ok (.aload_n 0, 1) := dk_42 (dk_at dksX2_box_2 18 rfl rfl)
theorem dX2_box_66 : decode cX2_box 66 = .ok (.getfield 31, 3) := dk_180 0 31 (dk_at dksX2_box_2 19 rfl rfl)
theorem dX2_box_69 : decode cX2_box 69 = .ok (.invokevirtual 48, 3) := dk_182 0 48 (dk_at dksX2_box_3 0 rfl rfl)
theorem dX2_box_72 : decode cX2_box 72 = .ok (.iconst 1, 1) := dk_4 (dk_at dksX2_box_3 3 rfl rfl)
theorem dX2_box_73 : decode cX2_box 73 = .ok (.isub, 1) := dk_100 (dk_at dksX2_box_3 4 rfl rfl)
theorem dX2_box_74 : decode cX2_box 74 = .ok (.ireturn, 1) := dk_172 (dk_at dksX2_box_3 5 rfl rfl)
abbrev cX2_pack : ByteArray := prog_17_method_58_code
def yX2_pack : MethodName := ⟨RX2, "pack", "(II)I"⟩
def dkwX2_pack_7 : List UInt8 := [182, 0, 102, 25, 4, 3, 46, 42, 16, 98, 28, 182, 0, 122, 100, 172]
abbrev dktX2_pack_7 : List UInt8 := dkwX2_pack_7 ++ []
def dkwX2_pack_6 : List UInt8 := [192, 0, 126, 180, 0, 158, 128, 79, 45, 16, 98, 181, 0, 76, 45, 28, 181, 0, 80, 42, 45, 16, 98, 28]
abbrev dktX2_pack_6 : List UInt8 := dkwX2_pack_6 ++ dktX2_pack_7
def dkwX2_pack_5 : List UInt8 := [180, 0, 44, 158, 0, 5, 3, 172, 25, 4, 4, 92, 46, 42, 180, 0, 16, 45, 180, 0, 80, 182, 0, 68]
abbrev dktX2_pack_5 : List UInt8 := dkwX2_pack_5 ++ dktX2_pack_6
def dkwX2_pack_4 : List UInt8 := [182, 0, 122, 45, 180, 0, 120, 96, 25, 4, 3, 46, 164, 0, 7, 5, 167, 0, 4, 3, 181, 0, 44, 42]
abbrev dktX2_pack_4 : List UInt8 := dkwX2_pack_4 ++ dktX2_pack_5
def dkwX2_pack_3 : List UInt8 := [42, 45, 180, 0, 63, 2, 160, 0, 31, 45, 180, 0, 76, 16, 114, 160, 0, 22, 42, 16, 98, 28]
abbrev dktX2_pack_3 : List UInt8 := dkwX2_pack_3 ++ dktX2_pack_4
def dkwX2_pack_2 : List UInt8 := [180, 0, 19, 27, 182, 0, 68, 192, 0, 64, 78, 42, 180, 0, 31, 28, 182, 0, 68, 192, 0, 180, 58, 4]
abbrev dktX2_pack_2 : List UInt8 := dkwX2_pack_2 ++ dktX2_pack_3
def dkwX2_pack_1 : List UInt8 := [184, 0, 52, 153, 0, 7, 3, 167, 0, 4, 4, 181, 0, 44, 42, 180, 0, 44, 158, 0, 5, 3, 172, 42]
abbrev dktX2_pack_1 : List UInt8 := dkwX2_pack_1 ++ dktX2_pack_2
def dkwX2_pack_0 : List UInt8 := [42, 42, 27, 182, 0, 56, 153, 0, 26, 28, 133, 9, 42, 180, 0, 31, 182, 0, 48, 4, 100, 133]
abbrev dktX2_pack_0 : List UInt8 := dkwX2_pack_0 ++ dktX2_pack_1
theorem dksX2_pack_0 : cX2_pack.data.toList.drop 0 = dktX2_pack_0 := by decide +kernel
theorem dksX2_pack_1 : cX2_pack.data.toList.drop 22 = dktX2_pack_1 := dk_seg dksX2_pack_0 22 rfl rfl
theorem dksX2_pack_2 : cX2_pack.data.toList.drop 46 = dktX2_pack_2 := dk_seg dksX2_pack_1 24 rfl rfl
theorem dksX2_pack_3 : cX2_pack.data.toList.drop 70 = dktX2_pack_3 := dk_seg dksX2_pack_2 24 rfl rfl
theorem dksX2_pack_4 : cX2_pack.data.toList.drop 92 = dktX2_pack_4 := dk_seg dksX2_pack_3 22 rfl rfl
theorem dksX2_pack_5 : cX2_pack.data.toList.drop 116 = dktX2_pack_5 := dk_seg dksX2_pack_4 24 rfl rfl
theorem dksX2_pack_6 : cX2_pack.data.toList.drop 140 = dktX2_pack_6 := dk_seg dksX2_pack_5 24 rfl rfl
theorem dksX2_pack_7 : cX2_pack.data.toList.drop 164 = dktX2_pack_7 := dk_seg dksX2_pack_6 24 rfl rfl
theorem dX2_pack_0 : decode cX2_pack 0 = .ok (.aload_n 0, 1) := dk_42 (dk_at dksX2_pack_0 0 rfl rfl)
theorem dX2_pack_1 : decode cX2_pack 1 = .ok (.aload_n 0, 1) := dk_42 (dk_at dksX2_pack_0 1 rfl rfl)
theorem dX2_pack_2 : decode cX2_pack 2 = .ok (.iload_n 1, 1) := dk_27 (dk_at dksX2_pack_0 2 rfl rfl)
theorem dX2_pack_3 : decode cX2_pack 3 = .ok (.invokevirtual 56, 3) := dk_182 0 56 (dk_at dksX2_pack_0 3 rfl rfl)
theorem dX2_pack_6 : decode cX2_pack 6 = .ok (.ifCond .eq 26, 3) := dk_153 0 26 (dk_at dksX2_pack_0 6 rfl rfl)
theorem dX2_pack_9 : decode cX2_pack 9 = .ok (.iload_n 2, 1) := dk_28 (dk_at dksX2_pack_0 9 rfl rfl)
theorem dX2_pack_10 : decode cX2_pack 10 = .ok (.i2l, 1) := dk_133 (dk_at dksX2_pack_0 10 rfl rfl)
theorem dX2_pack_11 : decode cX2_pack 11 = .ok (.lconst 0, 1) := dk_9 (dk_at dksX2_pack_0 11 rfl rfl)
theorem dX2_pack_12 : decode cX2_pack 12 = .ok (.aload_n 0, 1) := dk_42 (dk_at dksX2_pack_0 12 rfl rfl)
theorem dX2_pack_13 : decode cX2_pack 13 = .ok (.getfield 31, 3) := dk_180 0 31 (dk_at dksX2_pack_0 13 rfl rfl)
theorem dX2_pack_16 : decode cX2_pack 16 = .ok (.invokevirtual 48, 3) := dk_182 0 48 (dk_at dksX2_pack_0 16 rfl rfl)
theorem dX2_pack_19 : decode cX2_pack 19 = .ok (.iconst 1, 1) := dk_4 (dk_at dksX2_pack_0 19 rfl rfl)
theorem dX2_pack_20 : decode cX2_pack 20 = .ok (.isub, 1) := dk_100 (dk_at dksX2_pack_0 20 rfl rfl)
theorem dX2_pack_21 : decode cX2_pack 21 = .ok (.i2l, 1) := dk_133 (dk_at dksX2_pack_0 21 rfl rfl)
theorem dX2_pack_22 : decode cX2_pack 22 = .ok (.invokestatic 52, 3) := dk_184 0 52 (dk_at dksX2_pack_1 0 rfl rfl)
theorem dX2_pack_25 : decode cX2_pack 25 = .ok (.ifCond .eq 7, 3) := dk_153 0 7 (dk_at dksX2_pack_1 3 rfl rfl)
theorem dX2_pack_28 : decode cX2_pack 28 = .ok (.iconst 0, 1) := dk_3 (dk_at dksX2_pack_1 6 rfl rfl)
theorem dX2_pack_29 : decode cX2_pack 29 = .ok (.goto 4, 3) := dk_167 0 4 (dk_at dksX2_pack_1 7 rfl rfl)
theorem dX2_pack_32 : decode cX2_pack 32 = .ok (.iconst 1, 1) := dk_4 (dk_at dksX2_pack_1 10 rfl rfl)
theorem dX2_pack_33 : decode cX2_pack 33 = .ok (.putfield 44, 3) := dk_181 0 44 (dk_at dksX2_pack_1 11 rfl rfl)
theorem dX2_pack_36 : decode cX2_pack 36 = .ok (.aload_n 0, 1) := dk_42 (dk_at dksX2_pack_1 14 rfl rfl)
theorem dX2_pack_37 : decode cX2_pack 37 = .ok (.getfield 44, 3) := dk_180 0 44 (dk_at dksX2_pack_1 15 rfl rfl)
theorem dX2_pack_40 : decode cX2_pack 40 = .ok (.ifCond .le 5, 3) := dk_158 0 5 (dk_at dksX2_pack_1 18 rfl rfl)
theorem dX2_pack_43 : decode cX2_pack 43 = .ok (.iconst 0, 1) := dk_3 (dk_at dksX2_pack_1 21 rfl rfl)
theorem dX2_pack_44 : decode cX2_pack 44 = .ok (.ireturn, 1) := dk_172 (dk_at dksX2_pack_1 22 rfl rfl)
theorem dX2_pack_45 : decode cX2_pack 45 = .ok (.aload_n 0, 1) := dk_42 (dk_at dksX2_pack_1 23 rfl rfl)
theorem dX2_pack_46 : decode cX2_pack 46 = .ok (.getfield 19, 3) := dk_180 0 19 (dk_at dksX2_pack_2 0 rfl rfl)
theorem dX2_pack_49 : decode cX2_pack 49 = .ok (.iload_n 1, 1) := dk_27 (dk_at dksX2_pack_2 3 rfl rfl)
theorem dX2_pack_50 : decode cX2_pack 50 = .ok (.invokevirtual 68, 3) := dk_182 0 68 (dk_at dksX2_pack_2 4 rfl rfl)
theorem dX2_pack_53 : decode cX2_pack 53 = .ok (.checkcast 64, 3) := dk_192 0 64 (dk_at dksX2_pack_2 7 rfl rfl)
theorem dX2_pack_56 : decode cX2_pack 56 = .ok (.astore_n 3, 1) := dk_78 (dk_at dksX2_pack_2 10 rfl rfl)
theorem dX2_pack_57 : decode cX2_pack 57 = .ok (.aload_n 0, 1) := dk_42 (dk_at dksX2_pack_2 11 rfl rfl)
theorem dX2_pack_58 : decode cX2_pack 58 = .ok (.getfield 31, 3) := dk_180 0 31 (dk_at dksX2_pack_2 12 rfl rfl)
theorem dX2_pack_61 : decode cX2_pack 61 = .ok (.iload_n 2, 1) := dk_28 (dk_at dksX2_pack_2 15 rfl rfl)
theorem dX2_pack_62 : decode cX2_pack 62 = .ok (.invokevirtual 68, 3) := dk_182 0 68 (dk_at dksX2_pack_2 16 rfl rfl)
theorem dX2_pack_65 : decode cX2_pack 65 = .ok (.checkcast 180, 3) := dk_192 0 180 (dk_at dksX2_pack_2 19 rfl rfl)
theorem dX2_pack_68 : decode cX2_pack 68 = .ok (.astore 4, 2) := dk_58 4 (dk_at dksX2_pack_2 22 rfl rfl)
theorem dX2_pack_70 : decode cX2_pack 70 = .ok (.aload_n 0, 1) := dk_42 (dk_at dksX2_pack_3 0 rfl rfl)
theorem dX2_pack_71 : decode cX2_pack 71 = .ok (.aload_n 3, 1) := dk_45 (dk_at dksX2_pack_3 1 rfl rfl)
theorem dX2_pack_72 : decode cX2_pack 72 = .ok (.getfield 63, 3) := dk_180 0 63 (dk_at dksX2_pack_3 2 rfl rfl)
theorem dX2_pack_75 : decode cX2_pack 75 = .ok (.iconst (-1), 1) := dk_2 (dk_at dksX2_pack_3 5 rfl rfl)
theorem dX2_pack_76 : decode cX2_pack 76 = .ok (.if_icmp .ne 31, 3) := dk_160 0 31 (dk_at dksX2_pack_3 6 rfl rfl)
theorem dX2_pack_79 : decode cX2_pack 79 = .ok (.aload_n 3, 1) := dk_45 (dk_at dksX2_pack_3 9 rfl rfl)
theorem dX2_pack_80 : decode cX2_pack 80 = .ok (.getfield 76, 3) := dk_180 0 76 (dk_at dksX2_pack_3 10 rfl rfl)
theorem dX2_pack_83 : decode cX2_pack 83 = .ok (.bipush 114, 2) := dk_16 114 (dk_at dksX2_pack_3 13 rfl rfl)
theorem dX2_pack_85 : decode cX2_pack 85 = .ok (.if_icmp .ne 22, 3) := dk_160 0 22 (dk_at dksX2_pack_3 15 rfl rfl)
theorem dX2_pack_88 : decode cX2_pack 88 = .ok (.aload_n 0, 1) := dk_42 (dk_at dksX2_pack_3 18 rfl rfl)
theorem dX2_pack_89 : decode cX2_pack 89 = .ok (.bipush 98, 2) := dk_16 98 (dk_at dksX2_pack_3 19 rfl rfl)
theorem dX2_pack_91 : decode cX2_pack 91 = .ok (.iload_n 2, 1) := dk_28 (dk_at dksX2_pack_3 21 rfl rfl)
theorem dX2_pack_92 : decode cX2_pack 92 = .ok (.invokevirtual 122, 3) := dk_182 0 122 (dk_at dksX2_pack_4 0 rfl rfl)
theorem dX2_pack_95 : decode cX2_pack 95 = .ok (.aload_n 3, 1) := dk_45 (dk_at dksX2_pack_4 3 rfl rfl)
theorem dX2_pack_96 : decode cX2_pack 96 = .ok (.getfield 120, 3) := dk_180 0 120 (dk_at dksX2_pack_4 4 rfl rfl)
theorem dX2_pack_99 : decode cX2_pack 99 = .ok (.iadd, 1) := dk_96 (dk_at dksX2_pack_4 7 rfl rfl)
theorem dX2_pack_100 : decode cX2_pack 100 = .ok (.aload 4, 2) := dk_25 4 (dk_at dksX2_pack_4 8 rfl rfl)
theorem dX2_pack_102 : decode cX2_pack 102 = .ok (.iconst 0, 1) := dk_3 (dk_at dksX2_pack_4 10 rfl rfl)
theorem dX2_pack_103 : decode cX2_pack 103 = .ok (.iaload, 1) := dk_46 (dk_at dksX2_pack_4 11 rfl rfl)
theorem dX2_pack_104 : decode cX2_pack 104 = .ok (.if_icmp .le 7, 3) := dk_164 0 7 (dk_at dksX2_pack_4 12 rfl rfl)
theorem dX2_pack_107 : decode cX2_pack 107 = .ok (.iconst 2, 1) := dk_5 (dk_at dksX2_pack_4 15 rfl rfl)
theorem dX2_pack_108 : decode cX2_pack 108 = .ok (.goto 4, 3) := dk_167 0 4 (dk_at dksX2_pack_4 16 rfl rfl)
theorem dX2_pack_111 : decode cX2_pack 111 = .ok (.iconst 0, 1) := dk_3 (dk_at dksX2_pack_4 19 rfl rfl)
theorem dX2_pack_112 : decode cX2_pack 112 = .ok (.putfield 44, 3) := dk_181 0 44 (dk_at dksX2_pack_4 20 rfl rfl)
theorem dX2_pack_115 : decode cX2_pack 115 = .ok (.aload_n 0, 1) := dk_42 (dk_at dksX2_pack_4 23 rfl rfl)
theorem dX2_pack_116 : decode cX2_pack 116 = .ok (.getfield 44, 3) := dk_180 0 44 (dk_at dksX2_pack_5 0 rfl rfl)
theorem dX2_pack_119 : decode cX2_pack 119 = .ok (.ifCond .le 5, 3) := dk_158 0 5 (dk_at dksX2_pack_5 3 rfl rfl)
theorem dX2_pack_122 : decode cX2_pack 122 = .ok (.iconst 0, 1) := dk_3 (dk_at dksX2_pack_5 6 rfl rfl)
theorem dX2_pack_123 : decode cX2_pack 123 = .ok (.ireturn, 1) := dk_172 (dk_at dksX2_pack_5 7 rfl rfl)
theorem dX2_pack_124 : decode cX2_pack 124 = .ok (.aload 4, 2) := dk_25 4 (dk_at dksX2_pack_5 8 rfl rfl)
theorem dX2_pack_126 : decode cX2_pack 126 = .ok (.iconst 1, 1) := dk_4 (dk_at dksX2_pack_5 10 rfl rfl)
theorem dX2_pack_127 : decode cX2_pack 127 = .ok (.dup2, 1) := dk_92 (dk_at dksX2_pack_5 11 rfl rfl)
theorem dX2_pack_128 : decode cX2_pack 128 = .ok (.iaload, 1) := dk_46 (dk_at dksX2_pack_5 12 rfl rfl)
theorem dX2_pack_129 : decode cX2_pack 129 = .ok (.aload_n 0, 1) := dk_42 (dk_at dksX2_pack_5 13 rfl rfl)
theorem dX2_pack_130 : decode cX2_pack 130 = .ok (.getfield 16, 3) := dk_180 0 16 (dk_at dksX2_pack_5 14 rfl rfl)
theorem dX2_pack_133 : decode cX2_pack 133 = .ok (.aload_n 3, 1) := dk_45 (dk_at dksX2_pack_5 17 rfl rfl)
theorem dX2_pack_134 : decode cX2_pack 134 = .ok (.getfield 80, 3) := dk_180 0 80 (dk_at dksX2_pack_5 18 rfl rfl)
theorem dX2_pack_137 : decode cX2_pack 137 = .ok (.invokevirtual 68, 3) := dk_182 0 68 (dk_at dksX2_pack_5 21 rfl rfl)
theorem dX2_pack_140 : decode cX2_pack 140 = .ok (.checkcast 126, 3) := dk_192 0 126 (dk_at dksX2_pack_6 0 rfl rfl)
theorem dX2_pack_143 : decode cX2_pack 143 = .ok (.getfield 158, 3) := dk_180 0 158 (dk_at dksX2_pack_6 3 rfl rfl)
theorem dX2_pack_146 : decode cX2_pack 146 = .ok (.ior, 1) := dk_128 (dk_at dksX2_pack_6 6 rfl rfl)
theorem dX2_pack_147 : decode cX2_pack 147 = .ok (.iastore, 1) := dk_79 (dk_at dksX2_pack_6 7 rfl rfl)
theorem dX2_pack_148 : decode cX2_pack 148 = .ok (.aload_n 3, 1) := dk_45 (dk_at dksX2_pack_6 8 rfl rfl)
theorem dX2_pack_149 : decode cX2_pack 149 = .ok (.bipush 98, 2) := dk_16 98 (dk_at dksX2_pack_6 9 rfl rfl)
theorem dX2_pack_151 : decode cX2_pack 151 = .ok (.putfield 76, 3) := dk_181 0 76 (dk_at dksX2_pack_6 11 rfl rfl)
theorem dX2_pack_154 : decode cX2_pack 154 = .ok (.aload_n 3, 1) := dk_45 (dk_at dksX2_pack_6 14 rfl rfl)
theorem dX2_pack_155 : decode cX2_pack 155 = .ok (.iload_n 2, 1) := dk_28 (dk_at dksX2_pack_6 15 rfl rfl)
theorem dX2_pack_156 : decode cX2_pack 156 = .ok (.putfield 80, 3) := dk_181 0 80 (dk_at dksX2_pack_6 16 rfl rfl)
theorem dX2_pack_159 : decode cX2_pack 159 = .ok (.aload_n 0, 1) := dk_42 (dk_at dksX2_pack_6 19 rfl rfl)
theorem dX2_pack_160 : decode cX2_pack 160 = .ok (.aload_n 3, 1) := dk_45 (dk_at dksX2_pack_6 20 rfl rfl)
theorem dX2_pack_161 : decode cX2_pack 161 = .ok (.bipush 98, 2) := dk_16 98 (dk_at dksX2_pack_6 21 rfl rfl)
theorem dX2_pack_163 : decode cX2_pack 163 = .ok (.iload_n 2, 1) := dk_28 (dk_at dksX2_pack_6 23 rfl rfl)
theorem dX2_pack_164 : decode cX2_pack 164 = .ok (.invokevirtual 102, 3) := dk_182 0 102 (dk_at dksX2_pack_7 0 rfl rfl)
theorem dX2_pack_167 : decode cX2_pack 167 = .ok (.aload 4, 2) := dk_25 4 (dk_at dksX2_pack_7 3 rfl rfl)
theorem dX2_pack_169 : decode cX2_pack 169 = .ok (.iconst 0, 1) := dk_3 (dk_at dksX2_pack_7 5 rfl rfl)
theorem dX2_pack_170 : decode cX2_pack 170 = .ok (.iaload, 1) := dk_46 (dk_at dksX2_pack_7 6 rfl rfl)
theorem dX2_pack_171 : decode cX2_pack 171 = .ok (.aload_n 0, 1) := dk_42 (dk_at dksX2_pack_7 7 rfl rfl)
theorem dX2_pack_172 : decode cX2_pack 172 = .ok (.bipush 98, 2) := dk_16 98 (dk_at dksX2_pack_7 8 rfl rfl)
theorem dX2_pack_174 : decode cX2_pack 174 = .ok (.iload_n 2, 1) := dk_28 (dk_at dksX2_pack_7 10 rfl rfl)
theorem dX2_pack_175 : decode cX2_pack 175 = .ok (.invokevirtual 122, 3) := dk_182 0 122 (dk_at dksX2_pack_7 11 rfl rfl)
theorem dX2_pack_178 : decode cX2_pack 178 = .ok (.isub, 1) := dk_100 (dk_at dksX2_pack_7 14 rfl rfl)
theorem dX2_pack_179 : decode cX2_pack 179 = .ok (.ireturn, 1) := dk_172 (dk_at dksX2_pack_7 15 rfl rfl)
abbrev cX2_pests : ByteArray := prog_17_method_59_code
def yX2_pests : MethodName := ⟨RX2, "pests", "(I)I"⟩
def dkwX2_pests_2 : List UInt8 := [192, 0, 180, 4, 46, 172]
abbrev dktX2_pests_2 : List UInt8 := dkwX2_pests_2 ++ []
def dkwX2_pests_1 : List UInt8 := [4, 181, 0, 44, 42, 180, 0, 44, 158, 0, 7, 3, 167, 0, 16, 42, 180, 0, 31, 27, 182, 0, 68]
abbrev dktX2_pests_1 : List UInt8 := dkwX2_pests_1 ++ dktX2_pests_2
def dkwX2_pests_0 : List UInt8 := [42, 27, 133, 9, 42, 180, 0, 31, 182, 0, 48, 4, 100, 133, 184, 0, 52, 153, 0, 7, 3, 167, 0, 4]
abbrev dktX2_pests_0 : List UInt8 := dkwX2_pests_0 ++ dktX2_pests_1
theorem dksX2_pests_0 : cX2_pests.data.toList.drop 0 = dktX2_pests_0 := by decide +kernel
theorem dksX2_pests_1 : cX2_pests.data.toList.drop 24 = dktX2_pests_1 := dk_seg dksX2_pests_0 24 rfl rfl
theorem dksX2_pests_2 : cX2_pests.data.toList.drop 47 = dktX2_pests_2 := dk_seg dksX2_pests_1 23 rfl rfl
theorem dX2_pests_0 : decode cX2_pests 0 = .ok (.aload_n 0, 1) := dk_42 (dk_at dksX2_pests_0 0 rfl rfl)
theorem dX2_pests_1 : decode cX2_pests 1 = .ok (.iload_n 1, 1) := dk_27 (dk_at dksX2_pests_0 1 rfl rfl)
theorem dX2_pests_2 : decode cX2_pests 2 = .ok (.i2l, 1) := dk_133 (dk_at dksX2_pests_0 2 rfl rfl)
theorem dX2_pests_3 : decode cX2_pests 3 = .ok (.lconst 0, 1) := dk_9 (dk_at dksX2_pests_0 3 rfl rfl)
theorem dX2_pests_4 : decode cX2_pests 4 = .ok (.aload_n 0, 1) := dk_42 (dk_at dksX2_pests_0 4 rfl rfl)
theorem dX2_pests_5 : decode cX2_pests 5 = .ok (.getfield 31, 3) := dk_180 0 31 (dk_at dksX2_pests_0 5 rfl rfl)
theorem dX2_pests_8 : decode cX2_pests 8 = .ok (.invokevirtual 48, 3) := dk_182 0 48 (dk_at dksX2_pests_0 8 rfl rfl)
theorem dX2_pests_11 : decode cX2_pests 11 = .ok (.iconst 1, 1) := dk_4 (dk_at dksX2_pests_0 11 rfl rfl)
theorem dX2_pests_12 : decode cX2_pests 12 = .ok (.isub, 1) := dk_100 (dk_at dksX2_pests_0 12 rfl rfl)
theorem dX2_pests_13 : decode cX2_pests 13 = .ok (.i2l, 1) := dk_133 (dk_at dksX2_pests_0 13 rfl rfl)
theorem dX2_pests_14 : decode cX2_pests 14 = .ok (.invokestatic 52, 3) := dk_184 0 52 (dk_at dksX2_pests_0 14 rfl rfl)
theorem dX2_pests_17 : decode cX2_pests 17 = .ok (.ifCond .eq 7, 3) := dk_153 0 7 (dk_at dksX2_pests_0 17 rfl rfl)
theorem dX2_pests_20 : decode cX2_pests 20 = .ok (.iconst 0, 1) := dk_3 (dk_at dksX2_pests_0 20 rfl rfl)
theorem dX2_pests_21 : decode cX2_pests 21 = .ok (.goto 4, 3) := dk_167 0 4 (dk_at dksX2_pests_0 21 rfl rfl)
theorem dX2_pests_24 : decode cX2_pests 24 = .ok (.iconst 1, 1) := dk_4 (dk_at dksX2_pests_1 0 rfl rfl)
theorem dX2_pests_25 : decode cX2_pests 25 = .ok (.putfield 44, 3) := dk_181 0 44 (dk_at dksX2_pests_1 1 rfl rfl)
theorem dX2_pests_28 : decode cX2_pests 28 = .ok (.aload_n 0, 1) := dk_42 (dk_at dksX2_pests_1 4 rfl rfl)
theorem dX2_pests_29 : decode cX2_pests 29 = .ok (.getfield 44, 3) := dk_180 0 44 (dk_at dksX2_pests_1 5 rfl rfl)
theorem dX2_pests_32 : decode cX2_pests 32 = .ok (.ifCond .le 7, 3) := dk_158 0 7 (dk_at dksX2_pests_1 8 rfl rfl)
theorem dX2_pests_35 : decode cX2_pests 35 = .ok (.iconst 0, 1) := dk_3 (dk_at dksX2_pests_1 11 rfl rfl)
theorem dX2_pests_36 : decode cX2_pests 36 = .ok (.goto 16, 3) := dk_167 0 16 (dk_at dksX2_pests_1 12 rfl rfl)
theorem dX2_pests_39 : decode cX2_pests 39 = .ok (.aload_n 0, 1) := dk_42 (dk_at dksX2_pests_1 15 rfl rfl)
theorem dX2_pests_40 : decode cX2_pests 40 = .ok (.getfield 31, 3) := dk_180 0 31 (dk_at dksX2_pests_1 16 rfl rfl)
theorem dX2_pests_43 : decode cX2_pests 43 = .ok (.iload_n 1, 1) := dk_27 (dk_at dksX2_pests_1 19 rfl rfl)
theorem dX2_pests_44 : decode cX2_pests 44 = .ok (.invokevirtual 68, 3) := dk_182 0 68 (dk_at dksX2_pests_1 20 rfl rfl)
theorem dX2_pests_47 : decode cX2_pests 47 = .ok (.checkcast 180, 3) := dk_192 0 180 (dk_at dksX2_pests_2 0 rfl rfl)
theorem dX2_pests_50 : decode cX2_pests 50 = .ok (.iconst 1, 1) := dk_4 (dk_at dksX2_pests_2 3 rfl rfl)
theorem dX2_pests_51 : decode cX2_pests 51 = .ok (.iaload, 1) := dk_46 (dk_at dksX2_pests_2 4 rfl rfl)
theorem dX2_pests_52 : decode cX2_pests 52 = .ok (.ireturn, 1) := dk_172 (dk_at dksX2_pests_2 5 rfl rfl)
abbrev cX2_boxes : ByteArray := prog_17_method_61_code
def yX2_boxes : MethodName := ⟨RX2, "boxes", "(II)I"⟩
def dkwX2_boxes_12 : List UInt8 := [132, 4, 1, 167, 255, 83, 27, 154, 0, 7, 3, 167, 0, 9, 45, 27, 46, 16, 100, 108, 172]
abbrev dktX2_boxes_12 : List UInt8 := dkwX2_boxes_12 ++ []
def dkwX2_boxes_11 : List UInt8 := [104, 21, 9, 96, 167, 0, 8, 21, 6, 21, 9, 96, 184, 0, 96, 79, 132, 5, 1, 167, 255, 105]
abbrev dktX2_boxes_11 : List UInt8 := dkwX2_boxes_11 ++ dktX2_boxes_12
def dkwX2_boxes_10 : List UInt8 := [167, 0, 4, 3, 54, 10, 45, 21, 4, 45, 21, 4, 46, 21, 10, 153, 0, 16, 16, 100, 21, 7, 4, 96]
abbrev dktX2_boxes_10 : List UInt8 := dkwX2_boxes_10 ++ dktX2_boxes_11
def dkwX2_boxes_9 : List UInt8 := [192, 0, 64, 180, 0, 120, 54, 9, 21, 7, 153, 0, 12, 21, 8, 21, 9, 96, 28, 164, 0, 7, 4]
abbrev dktX2_boxes_9 : List UInt8 := dkwX2_boxes_9 ++ dktX2_boxes_10
def dkwX2_boxes_8 : List UInt8 := [21, 6, 16, 100, 108, 54, 7, 21, 6, 16, 100, 112, 54, 8, 42, 180, 0, 19, 21, 5, 182, 0, 68]
abbrev dktX2_boxes_8 : List UInt8 := dkwX2_boxes_8 ++ dktX2_boxes_9
def dkwX2_boxes_7 : List UInt8 := [2, 130, 126, 46, 19, 1, 93, 159, 0, 102, 45, 21, 4, 4, 21, 5, 120, 2, 130, 126, 46, 54, 6]
abbrev dktX2_boxes_7 : List UInt8 := dkwX2_boxes_7 ++ dktX2_boxes_8
def dkwX2_boxes_6 : List UInt8 := [2, 130, 126, 154, 0, 136, 21, 4, 21, 5, 122, 4, 126, 4, 160, 0, 119, 45, 21, 4, 4, 21, 5, 120]
abbrev dktX2_boxes_6 : List UInt8 := dkwX2_boxes_6 ++ dktX2_boxes_7
def dkwX2_boxes_5 : List UInt8 := [21, 4, 19, 1, 93, 79, 3, 54, 5, 21, 5, 42, 180, 0, 19, 182, 0, 48, 162, 0, 145, 21, 4, 27]
abbrev dktX2_boxes_5 : List UInt8 := dkwX2_boxes_5 ++ dktX2_boxes_6
def dkwX2_boxes_4 : List UInt8 := [180, 0, 44, 158, 0, 5, 3, 172, 27, 4, 96, 188, 10, 78, 4, 54, 4, 21, 4, 27, 163, 0, 173, 45]
abbrev dktX2_boxes_4 : List UInt8 := dkwX2_boxes_4 ++ dktX2_boxes_5
def dkwX2_boxes_3 : List UInt8 := [180, 0, 120, 28, 164, 0, 7, 5, 167, 0, 4, 3, 181, 0, 44, 132, 3, 1, 167, 255, 199, 42]
abbrev dktX2_boxes_3 : List UInt8 := dkwX2_boxes_3 ++ dktX2_boxes_4
def dkwX2_boxes_2 : List UInt8 := [154, 0, 45, 42, 27, 29, 122, 4, 126, 4, 160, 0, 25, 42, 180, 0, 19, 29, 182, 0, 68, 192, 0, 64]
abbrev dktX2_boxes_2 : List UInt8 := dkwX2_boxes_2 ++ dktX2_boxes_3
def dkwX2_boxes_1 : List UInt8 := [167, 0, 4, 4, 181, 0, 44, 3, 62, 29, 42, 180, 0, 19, 182, 0, 48, 162, 0, 52, 42, 180, 0, 44]
abbrev dktX2_boxes_1 : List UInt8 := dkwX2_boxes_1 ++ dktX2_boxes_2
def dkwX2_boxes_0 : List UInt8 := [42, 42, 27, 182, 1, 90, 153, 0, 19, 28, 133, 10, 20, 1, 83, 184, 0, 52, 153, 0, 7, 3]
abbrev dktX2_boxes_0 : List UInt8 := dkwX2_boxes_0 ++ dktX2_boxes_1
theorem dksX2_boxes_0 : cX2_boxes.data.toList.drop 0 = dktX2_boxes_0 := by decide +kernel
theorem dksX2_boxes_1 : cX2_boxes.data.toList.drop 22 = dktX2_boxes_1 := dk_seg dksX2_boxes_0 22 rfl rfl
theorem dksX2_boxes_2 : cX2_boxes.data.toList.drop 46 = dktX2_boxes_2 := dk_seg dksX2_boxes_1 24 rfl rfl
theorem dksX2_boxes_3 : cX2_boxes.data.toList.drop 70 = dktX2_boxes_3 := dk_seg dksX2_boxes_2 24 rfl rfl
theorem dksX2_boxes_4 : cX2_boxes.data.toList.drop 92 = dktX2_boxes_4 := dk_seg dksX2_boxes_3 22 rfl rfl
theorem dksX2_boxes_5 : cX2_boxes.data.toList.drop 116 = dktX2_boxes_5 := dk_seg dksX2_boxes_4 24 rfl rfl
theorem dksX2_boxes_6 : cX2_boxes.data.toList.drop 140 = dktX2_boxes_6 := dk_seg dksX2_boxes_5 24 rfl rfl
theorem dksX2_boxes_7 : cX2_boxes.data.toList.drop 164 = dktX2_boxes_7 := dk_seg dksX2_boxes_6 24 rfl rfl
theorem dksX2_boxes_8 : cX2_boxes.data.toList.drop 187 = dktX2_boxes_8 := dk_seg dksX2_boxes_7 23 rfl rfl
theorem dksX2_boxes_9 : cX2_boxes.data.toList.drop 210 = dktX2_boxes_9 := dk_seg dksX2_boxes_8 23 rfl rfl
theorem dksX2_boxes_10 : cX2_boxes.data.toList.drop 233 = dktX2_boxes_10 := dk_seg dksX2_boxes_9 23 rfl rfl
theorem dksX2_boxes_11 : cX2_boxes.data.toList.drop 257 = dktX2_boxes_11 := dk_seg dksX2_boxes_10 24 rfl rfl
theorem dksX2_boxes_12 : cX2_boxes.data.toList.drop 279 = dktX2_boxes_12 := dk_seg dksX2_boxes_11 22 rfl rfl
theorem dX2_boxes_0 : decode cX2_boxes 0 = .ok (.aload_n 0, 1) := dk_42 (dk_at dksX2_boxes_0 0 rfl rfl)
theorem dX2_boxes_1 : decode cX2_boxes 1 = .ok (.aload_n 0, 1) := dk_42 (dk_at dksX2_boxes_0 1 rfl rfl)
theorem dX2_boxes_2 : decode cX2_boxes 2 = .ok (.iload_n 1, 1) := dk_27 (dk_at dksX2_boxes_0 2 rfl rfl)
theorem dX2_boxes_3 : decode cX2_boxes 3 = .ok (.invokevirtual 346, 3) := dk_182 1 90 (dk_at dksX2_boxes_0 3 rfl rfl)
theorem dX2_boxes_6 : decode cX2_boxes 6 = .ok (.ifCond .eq 19, 3) := dk_153 0 19 (dk_at dksX2_boxes_0 6 rfl rfl)
theorem dX2_boxes_9 : decode cX2_boxes 9 = .ok (.iload_n 2, 1) := dk_28 (dk_at dksX2_boxes_0 9 rfl rfl)
theorem dX2_boxes_10 : decode cX2_boxes 10 = .ok (.i2l, 1) := dk_133 (dk_at dksX2_boxes_0 10 rfl rfl)
theorem dX2_boxes_11 : decode cX2_boxes 11 = .ok (.lconst 1, 1) := dk_10 (dk_at dksX2_boxes_0 11 rfl rfl)
theorem dX2_boxes_12 : decode cX2_boxes 12 = .ok (.ldc2_w 339, 3) := dk_20 1 83 (dk_at dksX2_boxes_0 12 rfl rfl)
theorem dX2_boxes_15 : decode cX2_boxes 15 = .ok (.invokestatic 52, 3) := dk_184 0 52 (dk_at dksX2_boxes_0 15 rfl rfl)
theorem dX2_boxes_18 : decode cX2_boxes 18 = .ok (.ifCond .eq 7, 3) := dk_153 0 7 (dk_at dksX2_boxes_0 18 rfl rfl)
theorem dX2_boxes_21 : decode cX2_boxes 21 = .ok (.iconst 0, 1) := dk_3 (dk_at dksX2_boxes_0 21 rfl rfl)
theorem dX2_boxes_22 : decode cX2_boxes 22 = .ok (.goto 4, 3) := dk_167 0 4 (dk_at dksX2_boxes_1 0 rfl rfl)
theorem dX2_boxes_25 : decode cX2_boxes 25 = .ok (.iconst 1, 1) := dk_4 (dk_at dksX2_boxes_1 3 rfl rfl)
theorem dX2_boxes_26 : decode cX2_boxes 26 = .ok (.putfield 44, 3) := dk_181 0 44 (dk_at dksX2_boxes_1 4 rfl rfl)
theorem dX2_boxes_29 : decode cX2_boxes 29 = .ok (.iconst 0, 1) := dk_3 (dk_at dksX2_boxes_1 7 rfl rfl)
theorem dX2_boxes_30 : decode cX2_boxes 30 = .ok (.istore_n 3, 1) := dk_62 (dk_at dksX2_boxes_1 8 rfl rfl)
theorem dX2_boxes_31 : decode cX2_boxes 31 = .ok (.iload_n 3, 1) := dk_29 (dk_at dksX2_boxes_1 9 rfl rfl)
theorem dX2_boxes_32 : decode cX2_boxes 32 = .ok (.aload_n 0, 1) := dk_42 (dk_at dksX2_boxes_1 10 rfl rfl)
theorem dX2_boxes_33 : decode cX2_boxes 33 = .ok (.getfield 19, 3) := dk_180 0 19 (dk_at dksX2_boxes_1 11 rfl rfl)
theorem dX2_boxes_36 : decode cX2_boxes 36 = .ok (.invokevirtual 48, 3) := dk_182 0 48 (dk_at dksX2_boxes_1 14 rfl rfl)
theorem dX2_boxes_39 : decode cX2_boxes 39 = .ok (.if_icmp .ge 52, 3) := dk_162 0 52 (dk_at dksX2_boxes_1 17 rfl rfl)
theorem dX2_boxes_42 : decode cX2_boxes 42 = .ok (.aload_n 0, 1) := dk_42 (dk_at dksX2_boxes_1 20 rfl rfl)
theorem dX2_boxes_43 : decode cX2_boxes 43 = .ok (.getfield 44, 3) := dk_180 0 44 (dk_at dksX2_boxes_1 21 rfl rfl)
theorem dX2_boxes_46 : decode cX2_boxes 46 = .ok (.ifCond .ne 45, 3) := dk_154 0 45 (dk_at dksX2_boxes_2 0 rfl rfl)
theorem dX2_boxes_49 : decode cX2_boxes 49 = .ok (.aload_n 0, 1) := dk_42 (dk_at dksX2_boxes_2 3 rfl rfl)
theorem dX2_boxes_50 : decode cX2_boxes 50 = .ok (.iload_n 1, 1) := dk_27 (dk_at dksX2_boxes_2 4 rfl rfl)
theorem dX2_boxes_51 : decode cX2_boxes 51 = .ok (.iload_n 3, 1) := dk_29 (dk_at dksX2_boxes_2 5 rfl rfl)
theorem dX2_boxes_52 : decode cX2_boxes 52 = .ok (.ishr, 1) := dk_122 (dk_at dksX2_boxes_2 6 rfl rfl)
theorem dX2_boxes_53 : decode cX2_boxes 53 = .ok (.iconst 1, 1) := dk_4 (dk_at dksX2_boxes_2 7 rfl rfl)
theorem dX2_boxes_54 : decode cX2_boxes 54 = .ok (.iand, 1) := dk_126 (dk_at dksX2_boxes_2 8 rfl rfl)
theorem dX2_boxes_55 : decode cX2_boxes 55 = .ok (.iconst 1, 1) := dk_4 (dk_at dksX2_boxes_2 9 rfl rfl)
theorem dX2_boxes_56 : decode cX2_boxes 56 = .ok (.if_icmp .ne 25, 3) := dk_160 0 25 (dk_at dksX2_boxes_2 10 rfl rfl)
theorem dX2_boxes_59 : decode cX2_boxes 59 = .ok (.aload_n 0, 1) := dk_42 (dk_at dksX2_boxes_2 13 rfl rfl)
theorem dX2_boxes_60 : decode cX2_boxes 60 = .ok (.getfield 19, 3) := dk_180 0 19 (dk_at dksX2_boxes_2 14 rfl rfl)
theorem dX2_boxes_63 : decode cX2_boxes 63 = .ok (.iload_n 3, 1) := dk_29 (dk_at dksX2_boxes_2 17 rfl rfl)
theorem dX2_boxes_64 : decode cX2_boxes 64 = .ok (.invokevirtual 68, 3) := dk_182 0 68 (dk_at dksX2_boxes_2 18 rfl rfl)
theorem dX2_boxes_67 : decode cX2_boxes 67 = .ok (.checkcast 64, 3) := dk_192 0 64 (dk_at dksX2_boxes_2 21 rfl rfl)
theorem dX2_boxes_70 : decode cX2_boxes 70 = .ok (.getfield 120, 3) := dk_180 0 120 (dk_at dksX2_boxes_3 0 rfl rfl)
theorem dX2_boxes_73 : decode cX2_boxes 73 = .ok (.iload_n 2, 1) := dk_28 (dk_at dksX2_boxes_3 3 rfl rfl)
theorem dX2_boxes_74 : decode cX2_boxes 74 = .ok (.if_icmp .le 7, 3) := dk_164 0 7 (dk_at dksX2_boxes_3 4 rfl rfl)
theorem dX2_boxes_77 : decode cX2_boxes 77 = .ok (.iconst 2, 1) := dk_5 (dk_at dksX2_boxes_3 7 rfl rfl)
theorem dX2_boxes_78 : decode cX2_boxes 78 = .ok (.goto 4, 3) := dk_167 0 4 (dk_at dksX2_boxes_3 8 rfl rfl)
theorem dX2_boxes_81 : decode cX2_boxes 81 = .ok (.iconst 0, 1) := dk_3 (dk_at dksX2_boxes_3 11 rfl rfl)
theorem dX2_boxes_82 : decode cX2_boxes 82 = .ok (.putfield 44, 3) := dk_181 0 44 (dk_at dksX2_boxes_3 12 rfl rfl)
theorem dX2_boxes_85 : decode cX2_boxes 85 = .ok (.iinc 3 1, 3) := dk_132 3 1 (dk_at dksX2_boxes_3 15 rfl rfl)
theorem dX2_boxes_88 : decode cX2_boxes 88 = .ok (.goto (-57), 3) := dk_167 255 199 (dk_at dksX2_boxes_3 18 rfl rfl)
theorem dX2_boxes_91 : decode cX2_boxes 91 = .ok (.aload_n 0, 1) := dk_42 (dk_at dksX2_boxes_3 21 rfl rfl)
theorem dX2_boxes_92 : decode cX2_boxes 92 = .ok (.getfield 44, 3) := dk_180 0 44 (dk_at dksX2_boxes_4 0 rfl rfl)
theorem dX2_boxes_95 : decode cX2_boxes 95 = .ok (.ifCond .le 5, 3) := dk_158 0 5 (dk_at dksX2_boxes_4 3 rfl rfl)
theorem dX2_boxes_98 : decode cX2_boxes 98 = .ok (.iconst 0, 1) := dk_3 (dk_at dksX2_boxes_4 6 rfl rfl)
theorem dX2_boxes_99 : decode cX2_boxes 99 = .ok (.ireturn, 1) := dk_172 (dk_at dksX2_boxes_4 7 rfl rfl)
theorem dX2_boxes_100 : decode cX2_boxes 100 = .ok (.iload_n 1, 1) := dk_27 (dk_at dksX2_boxes_4 8 rfl rfl)
theorem dX2_boxes_101 : decode cX2_boxes 101 = .ok (.iconst 1, 1) := dk_4 (dk_at dksX2_boxes_4 9 rfl rfl)
theorem dX2_boxes_102 : decode cX2_boxes 102 = .ok (.iadd, 1) := dk_96 (dk_at dksX2_boxes_4 10 rfl rfl)
theorem dX2_boxes_103 : decode cX2_boxes 103 = .ok (.newarray .int, 2) := dk_188_10 (dk_at dksX2_boxes_4 11 rfl rfl)
theorem dX2_boxes_105 : decode cX2_boxes 105 = .ok (.astore_n 3, 1) := dk_78 (dk_at dksX2_boxes_4 13 rfl rfl)
theorem dX2_boxes_106 : decode cX2_boxes 106 = .ok (.iconst 1, 1) := dk_4 (dk_at dksX2_boxes_4 14 rfl rfl)
theorem dX2_boxes_107 : decode cX2_boxes 107 = .ok (.istore 4, 2) := dk_54 4 (dk_at dksX2_boxes_4 15 rfl rfl)
theorem dX2_boxes_109 : decode cX2_boxes 109 = .ok (.iload 4, 2) := dk_21 4 (dk_at dksX2_boxes_4 17 rfl rfl)
theorem dX2_boxes_111 : decode cX2_boxes 111 = .ok (.iload_n 1, 1) := dk_27 (dk_at dksX2_boxes_4 19 rfl rfl)
theorem dX2_boxes_112 : decode cX2_boxes 112 = .ok (.if_icmp .gt 173, 3) := dk_163 0 173 (dk_at dksX2_boxes_4 20 rfl rfl)
theorem dX2_boxes_115 : decode cX2_boxes 115 = .ok (.aload_n 3, 1) := dk_45 (dk_at dksX2_boxes_4 23 rfl rfl)
theorem dX2_boxes_116 : decode cX2_boxes 116 = .ok (.iload 4, 2) := dk_21 4 (dk_at dksX2_boxes_5 0 rfl rfl)
theorem dX2_boxes_118 : decode cX2_boxes 118 = .ok (.ldc_w 349, 3) := dk_19 1 93 (dk_at dksX2_boxes_5 2 rfl rfl)
theorem dX2_boxes_121 : decode cX2_boxes 121 = .ok (.iastore, 1) := dk_79 (dk_at dksX2_boxes_5 5 rfl rfl)
theorem dX2_boxes_122 : decode cX2_boxes 122 = .ok (.iconst 0, 1) := dk_3 (dk_at dksX2_boxes_5 6 rfl rfl)
theorem dX2_boxes_123 : decode cX2_boxes 123 = .ok (.istore 5, 2) := dk_54 5 (dk_at dksX2_boxes_5 7 rfl rfl)
theorem dX2_boxes_125 : decode cX2_boxes 125 = .ok (.iload 5, 2) := dk_21 5 (dk_at dksX2_boxes_5 9 rfl rfl)
theorem dX2_boxes_127 : decode cX2_boxes 127 = .ok (.aload_n 0, 1) := dk_42 (dk_at dksX2_boxes_5 11 rfl rfl)
theorem dX2_boxes_128 : decode cX2_boxes 128 = .ok (.getfield 19, 3) := dk_180 0 19 (dk_at dksX2_boxes_5 12 rfl rfl)
theorem dX2_boxes_131 : decode cX2_boxes 131 = .ok (.invokevirtual 48, 3) := dk_182 0 48 (dk_at dksX2_boxes_5 15 rfl rfl)
theorem dX2_boxes_134 : decode cX2_boxes 134 = .ok (.if_icmp .ge 145, 3) := dk_162 0 145 (dk_at dksX2_boxes_5 18 rfl rfl)
theorem dX2_boxes_137 : decode cX2_boxes 137 = .ok (.iload 4, 2) := dk_21 4 (dk_at dksX2_boxes_5 21 rfl rfl)
theorem dX2_boxes_139 : decode cX2_boxes 139 = .ok (.iload_n 1, 1) := dk_27 (dk_at dksX2_boxes_5 23 rfl rfl)
theorem dX2_boxes_140 : decode cX2_boxes 140 = .ok (.iconst (-1), 1) := dk_2 (dk_at dksX2_boxes_6 0 rfl rfl)
theorem dX2_boxes_141 : decode cX2_boxes 141 = .ok (.ixor, 1) := dk_130 (dk_at dksX2_boxes_6 1 rfl rfl)
theorem dX2_boxes_142 : decode cX2_boxes 142 = .ok (.iand, 1) := dk_126 (dk_at dksX2_boxes_6 2 rfl rfl)
theorem dX2_boxes_143 : decode cX2_boxes 143 = .ok (.ifCond .ne 136, 3) := dk_154 0 136 (dk_at dksX2_boxes_6 3 rfl rfl)
theorem dX2_boxes_146 : decode cX2_boxes 146 = .ok (.iload 4, 2) := dk_21 4 (dk_at dksX2_boxes_6 6 rfl rfl)
theorem dX2_boxes_148 : decode cX2_boxes 148 = .ok (.iload 5, 2) := dk_21 5 (dk_at dksX2_boxes_6 8 rfl rfl)
theorem dX2_boxes_150 : decode cX2_boxes 150 = .ok (.ishr, 1) := dk_122 (dk_at dksX2_boxes_6 10 rfl rfl)
theorem dX2_boxes_151 : decode cX2_boxes 151 = .ok (.iconst 1, 1) := dk_4 (dk_at dksX2_boxes_6 11 rfl rfl)
theorem dX2_boxes_152 : decode cX2_boxes 152 = .ok (.iand, 1) := dk_126 (dk_at dksX2_boxes_6 12 rfl rfl)
theorem dX2_boxes_153 : decode cX2_boxes 153 = .ok (.iconst 1, 1) := dk_4 (dk_at dksX2_boxes_6 13 rfl rfl)
theorem dX2_boxes_154 : decode cX2_boxes 154 = .ok (.if_icmp .ne 119, 3) := dk_160 0 119 (dk_at dksX2_boxes_6 14 rfl rfl)
theorem dX2_boxes_157 : decode cX2_boxes 157 = .ok (.aload_n 3, 1) := dk_45 (dk_at dksX2_boxes_6 17 rfl rfl)
theorem dX2_boxes_158 : decode cX2_boxes 158 = .ok (.iload 4, 2) := dk_21 4 (dk_at dksX2_boxes_6 18 rfl rfl)
theorem dX2_boxes_160 : decode cX2_boxes 160 = .ok (.iconst 1, 1) := dk_4 (dk_at dksX2_boxes_6 20 rfl rfl)
theorem dX2_boxes_161 : decode cX2_boxes 161 = .ok (.iload 5, 2) := dk_21 5 (dk_at dksX2_boxes_6 21 rfl rfl)
theorem dX2_boxes_163 : decode cX2_boxes 163 = .ok (.ishl, 1) := dk_120 (dk_at dksX2_boxes_6 23 rfl rfl)
theorem dX2_boxes_164 : decode cX2_boxes 164 = .ok (.iconst (-1), 1) := dk_2 (dk_at dksX2_boxes_7 0 rfl rfl)
theorem dX2_boxes_165 : decode cX2_boxes 165 = .ok (.ixor, 1) := dk_130 (dk_at dksX2_boxes_7 1 rfl rfl)
theorem dX2_boxes_166 : decode cX2_boxes 166 = .ok (.iand, 1) := dk_126 (dk_at dksX2_boxes_7 2 rfl rfl)
theorem dX2_boxes_167 : decode cX2_boxes 167 = .ok (.iaload, 1) := dk_46 (dk_at dksX2_boxes_7 3 rfl rfl)
theorem dX2_boxes_168 : decode cX2_boxes 168 = .ok (.ldc_w 349, 3) := dk_19 1 93 (dk_at dksX2_boxes_7 4 rfl rfl)
theorem dX2_boxes_171 : decode cX2_boxes 171 = .ok (.if_icmp .eq 102, 3) := dk_159 0 102 (dk_at dksX2_boxes_7 7 rfl rfl)
theorem dX2_boxes_174 : decode cX2_boxes 174 = .ok (.aload_n 3, 1) := dk_45 (dk_at dksX2_boxes_7 10 rfl rfl)
theorem dX2_boxes_175 : decode cX2_boxes 175 = .ok (.iload 4, 2) := dk_21 4 (dk_at dksX2_boxes_7 11 rfl rfl)
theorem dX2_boxes_177 : decode cX2_boxes 177 = .ok (.iconst 1, 1) := dk_4 (dk_at dksX2_boxes_7 13 rfl rfl)
theorem dX2_boxes_178 : decode cX2_boxes 178 = .ok (.iload 5, 2) := dk_21 5 (dk_at dksX2_boxes_7 14 rfl rfl)
theorem dX2_boxes_180 : decode cX2_boxes 180 = .ok (.ishl, 1) := dk_120 (dk_at dksX2_boxes_7 16 rfl rfl)
theorem dX2_boxes_181 : decode cX2_boxes 181 = .ok (.iconst (-1), 1) := dk_2 (dk_at dksX2_boxes_7 17 rfl rfl)
theorem dX2_boxes_182 : decode cX2_boxes 182 = .ok (.ixor, 1) := dk_130 (dk_at dksX2_boxes_7 18 rfl rfl)
theorem dX2_boxes_183 : decode cX2_boxes 183 = .ok (.iand, 1) := dk_126 (dk_at dksX2_boxes_7 19 rfl rfl)
theorem dX2_boxes_184 : decode cX2_boxes 184 = .ok (.iaload, 1) := dk_46 (dk_at dksX2_boxes_7 20 rfl rfl)
theorem dX2_boxes_185 : decode cX2_boxes 185 = .ok (.istore 6, 2) := dk_54 6 (dk_at dksX2_boxes_7 21 rfl rfl)
theorem dX2_boxes_187 : decode cX2_boxes 187 = .ok (.iload 6, 2) := dk_21 6 (dk_at dksX2_boxes_8 0 rfl rfl)
theorem dX2_boxes_189 : decode cX2_boxes 189 = .ok (.bipush 100, 2) := dk_16 100 (dk_at dksX2_boxes_8 2 rfl rfl)
theorem dX2_boxes_191 : decode cX2_boxes 191 = .ok (.idiv, 1) := dk_108 (dk_at dksX2_boxes_8 4 rfl rfl)
theorem dX2_boxes_192 : decode cX2_boxes 192 = .ok (.istore 7, 2) := dk_54 7 (dk_at dksX2_boxes_8 5 rfl rfl)
theorem dX2_boxes_194 : decode cX2_boxes 194 = .ok (.iload 6, 2) := dk_21 6 (dk_at dksX2_boxes_8 7 rfl rfl)
theorem dX2_boxes_196 : decode cX2_boxes 196 = .ok (.bipush 100, 2) := dk_16 100 (dk_at dksX2_boxes_8 9 rfl rfl)
theorem dX2_boxes_198 : decode cX2_boxes 198 = .ok (.irem, 1) := dk_112 (dk_at dksX2_boxes_8 11 rfl rfl)
theorem dX2_boxes_199 : decode cX2_boxes 199 = .ok (.istore 8, 2) := dk_54 8 (dk_at dksX2_boxes_8 12 rfl rfl)
theorem dX2_boxes_201 : decode cX2_boxes 201 = .ok (.aload_n 0, 1) := dk_42 (dk_at dksX2_boxes_8 14 rfl rfl)
theorem dX2_boxes_202 : decode cX2_boxes 202 = .ok (.getfield 19, 3) := dk_180 0 19 (dk_at dksX2_boxes_8 15 rfl rfl)
theorem dX2_boxes_205 : decode cX2_boxes 205 = .ok (.iload 5, 2) := dk_21 5 (dk_at dksX2_boxes_8 18 rfl rfl)
theorem dX2_boxes_207 : decode cX2_boxes 207 = .ok (.invokevirtual 68, 3) := dk_182 0 68 (dk_at dksX2_boxes_8 20 rfl rfl)
theorem dX2_boxes_210 : decode cX2_boxes 210 = .ok (.checkcast 64, 3) := dk_192 0 64 (dk_at dksX2_boxes_9 0 rfl rfl)
theorem dX2_boxes_213 : decode cX2_boxes 213 = .ok (.getfield 120, 3) := dk_180 0 120 (dk_at dksX2_boxes_9 3 rfl rfl)
theorem dX2_boxes_216 : decode cX2_boxes 216 = .ok (.istore 9, 2) := dk_54 9 (dk_at dksX2_boxes_9 6 rfl rfl)
theorem dX2_boxes_218 : decode cX2_boxes 218 = .ok (.iload 7, 2) := dk_21 7 (dk_at dksX2_boxes_9 8 rfl rfl)
theorem dX2_boxes_220 : decode cX2_boxes 220 = .ok (.ifCond .eq 12, 3) := dk_153 0 12 (dk_at dksX2_boxes_9 10 rfl rfl)
theorem dX2_boxes_223 : decode cX2_boxes 223 = .ok (.iload 8, 2) := dk_21 8 (dk_at dksX2_boxes_9 13 rfl rfl)
theorem dX2_boxes_225 : decode cX2_boxes 225 = .ok (.iload 9, 2) := dk_21 9 (dk_at dksX2_boxes_9 15 rfl rfl)
theorem dX2_boxes_227 : decode cX2_boxes 227 = .ok (.iadd, 1) := dk_96 (dk_at dksX2_boxes_9 17 rfl rfl)
theorem dX2_boxes_228 : decode cX2_boxes 228 = .ok (.iload_n 2, 1) := dk_28 (dk_at dksX2_boxes_9 18 rfl rfl)
theorem dX2_boxes_229 : decode cX2_boxes 229 = .ok (.if_icmp .le 7, 3) := dk_164 0 7 (dk_at dksX2_boxes_9 19 rfl rfl)
theorem dX2_boxes_232 : decode cX2_boxes 232 = .ok (.iconst 1, 1) := dk_4 (dk_at dksX2_boxes_9 22 rfl rfl)
theorem dX2_boxes_233 : decode cX2_boxes 233 = .ok (.goto 4, 3) := dk_167 0 4 (dk_at dksX2_boxes_10 0 rfl rfl)
theorem dX2_boxes_236 : decode cX2_boxes 236 = .ok (.iconst 0, 1) := dk_3 (dk_at dksX2_boxes_10 3 rfl rfl)
theorem dX2_boxes_237 : decode cX2_boxes 237 = .ok (.istore 10, 2) := dk_54 10 (dk_at dksX2_boxes_10 4 rfl rfl)
theorem dX2_boxes_239 : decode cX2_boxes 239 = .ok (.aload_n 3, 1) := dk_45 (dk_at dksX2_boxes_10 6 rfl rfl)
theorem dX2_boxes_240 : decode cX2_boxes 240 = .ok (.iload 4, 2) := dk_21 4 (dk_at dksX2_boxes_10 7 rfl rfl)
theorem dX2_boxes_242 : decode cX2_boxes 242 = .ok (.aload_n 3, 1) := dk_45 (dk_at dksX2_boxes_10 9 rfl rfl)
theorem dX2_boxes_243 : decode cX2_boxes 243 = .ok (.iload 4, 2) := dk_21 4 (dk_at dksX2_boxes_10 10 rfl rfl)
theorem dX2_boxes_245 : decode cX2_boxes 245 = .ok (.iaload, 1) := dk_46 (dk_at dksX2_boxes_10 12 rfl rfl)
theorem dX2_boxes_246 : decode cX2_boxes 246 = .ok (.iload 10, 2) := dk_21 10 (dk_at dksX2_boxes_10 13 rfl rfl)
theorem dX2_boxes_248 : decode cX2_boxes 248 = .ok (.ifCond .eq 16, 3) := dk_153 0 16 (dk_at dksX2_boxes_10 15 rfl rfl)
theorem dX2_boxes_251 : decode cX2_boxes 251 = .ok (.bipush 100, 2) := dk_16 100 (dk_at dksX2_boxes_10 18 rfl rfl)
theorem dX2_boxes_253 : decode cX2_boxes 253 = .ok (.iload 7, 2) := dk_21 7 (dk_at dksX2_boxes_10 20 rfl rfl)
theorem dX2_boxes_255 : decode cX2_boxes 255 = .ok (.iconst 1, 1) := dk_4 (dk_at dksX2_boxes_10 22 rfl rfl)
theorem dX2_boxes_256 : decode cX2_boxes 256 = .ok (.iadd, 1) := dk_96 (dk_at dksX2_boxes_10 23 rfl rfl)
theorem dX2_boxes_257 : decode cX2_boxes 257 = .ok (.imul, 1) := dk_104 (dk_at dksX2_boxes_11 0 rfl rfl)
theorem dX2_boxes_258 : decode cX2_boxes 258 = .ok (.iload 9, 2) := dk_21 9 (dk_at dksX2_boxes_11 1 rfl rfl)
theorem dX2_boxes_260 : decode cX2_boxes 260 = .ok (.iadd, 1) := dk_96 (dk_at dksX2_boxes_11 3 rfl rfl)
theorem dX2_boxes_261 : decode cX2_boxes 261 = .ok (.goto 8, 3) := dk_167 0 8 (dk_at dksX2_boxes_11 4 rfl rfl)
theorem dX2_boxes_264 : decode cX2_boxes 264 = .ok (.iload 6, 2) := dk_21 6 (dk_at dksX2_boxes_11 7 rfl rfl)
theorem dX2_boxes_266 : decode cX2_boxes 266 = .ok (.iload 9, 2) := dk_21 9 (dk_at dksX2_boxes_11 9 rfl rfl)
theorem dX2_boxes_268 : decode cX2_boxes 268 = .ok (.iadd, 1) := dk_96 (dk_at dksX2_boxes_11 11 rfl rfl)
theorem dX2_boxes_269 : decode cX2_boxes 269 = .ok (.invokestatic 96, 3) := dk_184 0 96 (dk_at dksX2_boxes_11 12 rfl rfl)
theorem dX2_boxes_272 : decode cX2_boxes 272 = .ok (.iastore, 1) := dk_79 (dk_at dksX2_boxes_11 15 rfl rfl)
theorem dX2_boxes_273 : decode cX2_boxes 273 = .ok (.iinc 5 1, 3) := dk_132 5 1 (dk_at dksX2_boxes_11 16 rfl rfl)
theorem dX2_boxes_276 : decode cX2_boxes 276 = .ok (.goto (-151), 3) := dk_167 255 105 (dk_at dksX2_boxes_11 19 rfl rfl)
theorem dX2_boxes_279 : decode cX2_boxes 279 = .ok (.iinc 4 1, 3) := dk_132 4 1 (dk_at dksX2_boxes_12 0 rfl rfl)
theorem dX2_boxes_282 : decode cX2_boxes 282 = .ok (.goto (-173), 3) := dk_167 255 83 (dk_at dksX2_boxes_12 3 rfl rfl)
theorem dX2_boxes_285 : decode cX2_boxes 285 = .ok (.iload_n 1, 1) := dk_27 (dk_at dksX2_boxes_12 6 rfl rfl)
theorem dX2_boxes_286 : decode cX2_boxes 286 = .ok (.ifCond .ne 7, 3) := dk_154 0 7 (dk_at dksX2_boxes_12 7 rfl rfl)
theorem dX2_boxes_289 : decode cX2_boxes 289 = .ok (.iconst 0, 1) := dk_3 (dk_at dksX2_boxes_12 10 rfl rfl)
theorem dX2_boxes_290 : decode cX2_boxes 290 = .ok (.goto 9, 3) := dk_167 0 9 (dk_at dksX2_boxes_12 11 rfl rfl)
theorem dX2_boxes_293 : decode cX2_boxes 293 = .ok (.aload_n 3, 1) := dk_45 (dk_at dksX2_boxes_12 14 rfl rfl)
theorem dX2_boxes_294 : decode cX2_boxes 294 = .ok (.iload_n 1, 1) := dk_27 (dk_at dksX2_boxes_12 15 rfl rfl)
theorem dX2_boxes_295 : decode cX2_boxes 295 = .ok (.iaload, 1) := dk_46 (dk_at dksX2_boxes_12 16 rfl rfl)
theorem dX2_boxes_296 : decode cX2_boxes 296 = .ok (.bipush 100, 2) := dk_16 100 (dk_at dksX2_boxes_12 17 rfl rfl)
theorem dX2_boxes_298 : decode cX2_boxes 298 = .ok (.idiv, 1) := dk_108 (dk_at dksX2_boxes_12 19 rfl rfl)
theorem dX2_boxes_299 : decode cX2_boxes 299 = .ok (.ireturn, 1) := dk_172 (dk_at dksX2_boxes_12 20 rfl rfl)
abbrev cX2_areWholes : ByteArray := prog_17_method_60_code
def yX2_areWholes : MethodName := ⟨RX2, "areWholes", "(I)Z"⟩
def dkwX2_areWholes_3 : List UInt8 := [132, 3, 1, 167, 255, 206, 28, 172]
abbrev dktX2_areWholes_3 : List UInt8 := dkwX2_areWholes_3 ++ []
def dkwX2_areWholes_2 : List UInt8 := [180, 0, 19, 29, 182, 0, 68, 192, 0, 64, 180, 0, 63, 2, 160, 0, 7, 4, 167, 0, 4, 3, 61]
abbrev dktX2_areWholes_2 : List UInt8 := dkwX2_areWholes_2 ++ dktX2_areWholes_3
def dkwX2_areWholes_1 : List UInt8 := [180, 0, 19, 182, 0, 48, 162, 0, 45, 28, 153, 0, 33, 27, 29, 122, 4, 126, 153, 0, 21, 42]
abbrev dktX2_areWholes_1 : List UInt8 := dkwX2_areWholes_1 ++ dktX2_areWholes_2
def dkwX2_areWholes_0 : List UInt8 := [27, 133, 9, 4, 42, 180, 0, 19, 182, 0, 48, 120, 4, 100, 133, 184, 0, 52, 61, 3, 62, 29, 42]
abbrev dktX2_areWholes_0 : List UInt8 := dkwX2_areWholes_0 ++ dktX2_areWholes_1
theorem dksX2_areWholes_0 : cX2_areWholes.data.toList.drop 0 = dktX2_areWholes_0 := by decide +kernel
theorem dksX2_areWholes_1 : cX2_areWholes.data.toList.drop 23 = dktX2_areWholes_1 := dk_seg dksX2_areWholes_0 23 rfl rfl
theorem dksX2_areWholes_2 : cX2_areWholes.data.toList.drop 45 = dktX2_areWholes_2 := dk_seg dksX2_areWholes_1 22 rfl rfl
theorem dksX2_areWholes_3 : cX2_areWholes.data.toList.drop 68 = dktX2_areWholes_3 := dk_seg dksX2_areWholes_2 23 rfl rfl
theorem dX2_areWholes_0 : decode cX2_areWholes 0 = .ok (.iload_n 1, 1) := dk_27 (dk_at dksX2_areWholes_0 0 rfl rfl)
theorem dX2_areWholes_1 : decode cX2_areWholes 1 = .ok (.i2l, 1) := dk_133 (dk_at dksX2_areWholes_0 1 rfl rfl)
theorem dX2_areWholes_2 : decode cX2_areWholes 2 = .ok (.lconst 0, 1) := dk_9 (dk_at dksX2_areWholes_0 2 rfl rfl)
theorem dX2_areWholes_3 : decode cX2_areWholes 3 = .ok (.iconst 1, 1) := dk_4 (dk_at dksX2_areWholes_0 3 rfl rfl)
theorem dX2_areWholes_4 : decode cX2_areWholes 4 = .ok (.aload_n 0, 1) := dk_42 (dk_at dksX2_areWholes_0 4 rfl rfl)
theorem dX2_areWholes_5 : decode cX2_areWholes 5 = .ok (.getfield 19, 3) := dk_180 0 19 (dk_at dksX2_areWholes_0 5 rfl rfl)
theorem dX2_areWholes_8 : decode cX2_areWholes 8 = .ok (.invokevirtual 48, 3) := dk_182 0 48 (dk_at dksX2_areWholes_0 8 rfl rfl)
theorem dX2_areWholes_11 : decode cX2_areWholes 11 = .ok (.ishl, 1) := dk_120 (dk_at dksX2_areWholes_0 11 rfl rfl)
theorem dX2_areWholes_12 : decode cX2_areWholes 12 = .ok (.iconst 1, 1) := dk_4 (dk_at dksX2_areWholes_0 12 rfl rfl)
theorem dX2_areWholes_13 : decode cX2_areWholes 13 = .ok (.isub, 1) := dk_100 (dk_at dksX2_areWholes_0 13 rfl rfl)
theorem dX2_areWholes_14 : decode cX2_areWholes 14 = .ok (.i2l, 1) := dk_133 (dk_at dksX2_areWholes_0 14 rfl rfl)
theorem dX2_areWholes_15 : decode cX2_areWholes 15 = .ok (.invokestatic 52, 3) := dk_184 0 52 (dk_at dksX2_areWholes_0 15 rfl rfl)
theorem dX2_areWholes_18 : decode cX2_areWholes 18 = .ok (.istore_n 2, 1) := dk_61 (dk_at dksX2_areWholes_0 18 rfl rfl)
theorem dX2_areWholes_19 : decode cX2_areWholes 19 = .ok (.iconst 0, 1) := dk_3 (dk_at dksX2_areWholes_0 19 rfl rfl)
theorem dX2_areWholes_20 : decode cX2_areWholes 20 = .ok (.istore_n 3, 1) := dk_62 (dk_at dksX2_areWholes_0 20 rfl rfl)
theorem dX2_areWholes_21 : decode cX2_areWholes 21 = .ok (.iload_n 3, 1) := dk_29 (dk_at dksX2_areWholes_0 21 rfl rfl)
theorem dX2_areWholes_22 : decode cX2_areWholes 22 = .ok (.aload_n 0, 1) := dk_42 (dk_at dksX2_areWholes_0 22 rfl rfl)
theorem dX2_areWholes_23 : decode cX2_areWholes 23 = .ok (.getfield 19, 3) := dk_180 0 19 (dk_at dksX2_areWholes_1 0 rfl rfl)
theorem dX2_areWholes_26 : decode cX2_areWholes 26 = .ok (.invokevirtual 48, 3) := dk_182 0 48 (dk_at dksX2_areWholes_1 3 rfl rfl)
theorem dX2_areWholes_29 : decode cX2_areWholes 29 = .ok (.if_icmp .ge 45, 3) := dk_162 0 45 (dk_at dksX2_areWholes_1 6 rfl rfl)
theorem dX2_areWholes_32 : decode cX2_areWholes 32 = .ok (.iload_n 2, 1) := dk_28 (dk_at dksX2_areWholes_1 9 rfl rfl)
theorem dX2_areWholes_33 : decode cX2_areWholes 33 = .ok (.ifCond .eq 33, 3) := dk_153 0 33 (dk_at dksX2_areWholes_1 10 rfl rfl)
theorem dX2_areWholes_36 : decode cX2_areWholes 36 = .ok (.iload_n 1, 1) := dk_27 (dk_at dksX2_areWholes_1 13 rfl rfl)
theorem dX2_areWholes_37 : decode cX2_areWholes 37 = .ok (.iload_n 3, 1) := dk_29 (dk_at dksX2_areWholes_1 14 rfl rfl)
theorem dX2_areWholes_38 : decode cX2_areWholes 38 = .ok (.ishr, 1) := dk_122 (dk_at dksX2_areWholes_1 15 rfl rfl)
theorem dX2_areWholes_39 : decode cX2_areWholes 39 = .ok (.iconst 1, 1) := dk_4 (dk_at dksX2_areWholes_1 16 rfl rfl)
theorem dX2_areWholes_40 : decode cX2_areWholes 40 = .ok (.iand, 1) := dk_126 (dk_at dksX2_areWholes_1 17 rfl rfl)
theorem dX2_areWholes_41 : decode cX2_areWholes 41 = .ok (.ifCond .eq 21, 3) := dk_153 0 21 (dk_at dksX2_areWholes_1 18 rfl rfl)
theorem dX2_areWholes_44 : decode cX2_areWholes 44 = .ok (.aload_n 0, 1) := dk_42 (dk_at dksX2_areWholes_1 21 rfl rfl)
theorem dX2_areWholes_45 : decode cX2_areWholes 45 = .ok (.getfield 19, 3) := dk_180 0 19 (dk_at dksX2_areWholes_2 0 rfl rfl)
theorem dX2_areWholes_48 : decode cX2_areWholes 48 = .ok (.iload_n 3, 1) := dk_29 (dk_at dksX2_areWholes_2 3 rfl rfl)
theorem dX2_areWholes_49 : decode cX2_areWholes 49 = .ok (.invokevirtual 68, 3) := dk_182 0 68 (dk_at dksX2_areWholes_2 4 rfl rfl)
theorem dX2_areWholes_52 : decode cX2_areWholes 52 = .ok (.checkcast 64, 3) := dk_192 0 64 (dk_at dksX2_areWholes_2 7 rfl rfl)
theorem dX2_areWholes_55 : decode cX2_areWholes 55 = .ok (.getfield 63, 3) := dk_180 0 63 (dk_at dksX2_areWholes_2 10 rfl rfl)
theorem dX2_areWholes_58 : decode cX2_areWholes 58 = .ok (.iconst (-1), 1) := dk_2 (dk_at dksX2_areWholes_2 13 rfl rfl)
theorem dX2_areWholes_59 : decode cX2_areWholes 59 = .ok (.if_icmp .ne 7, 3) := dk_160 0 7 (dk_at dksX2_areWholes_2 14 rfl rfl)
theorem dX2_areWholes_62 : decode cX2_areWholes 62 = .ok (.iconst 1, 1) := dk_4 (dk_at dksX2_areWholes_2 17 rfl rfl)
theorem dX2_areWholes_63 : decode cX2_areWholes 63 = .ok (.goto 4, 3) := dk_167 0 4 (dk_at dksX2_areWholes_2 18 rfl rfl)
theorem dX2_areWholes_66 : decode cX2_areWholes 66 = .ok (.iconst 0, 1) := dk_3 (dk_at dksX2_areWholes_2 21 rfl rfl)
theorem dX2_areWholes_67 : decode cX2_areWholes 67 = .ok (.istore_n 2, 1) := dk_61 (dk_at dksX2_areWholes_2 22 rfl rfl)
theorem dX2_areWholes_68 : decode cX2_areWholes 68 = .ok (.iinc 3 1, 3) := dk_132 3 1 (dk_at dksX2_areWholes_3 0 rfl rfl)
theorem dX2_areWholes_71 : decode cX2_areWholes 71 = .ok (.goto (-50), 3) := dk_167 255 206 (dk_at dksX2_areWholes_3 3 rfl rfl)
theorem dX2_areWholes_74 : decode cX2_areWholes 74 = .ok (.iload_n 2, 1) := dk_28 (dk_at dksX2_areWholes_3 6 rfl rfl)
theorem dX2_areWholes_75 : decode cX2_areWholes 75 = .ok (.ireturn, 1) := dk_172 (dk_at dksX2_areWholes_3 7 rfl rfl)
abbrev cX2_miss : ByteArray := prog_17_method_63_code
def yX2_miss : MethodName := ⟨RX2, "miss", "(I)I"⟩
def dkwX2_miss_3 : List UInt8 := [182, 0, 181, 44, 16, 109, 181, 0, 76, 42, 44, 16, 109, 3, 182, 0, 102, 42, 182, 1, 94, 172]
abbrev dktX2_miss_3 : List UInt8 := dkwX2_miss_3 ++ []
def dkwX2_miss_2 : List UInt8 := [159, 0, 7, 5, 167, 0, 4, 3, 181, 0, 44, 42, 180, 0, 44, 158, 0, 5, 3, 172, 42, 44]
abbrev dktX2_miss_2 : List UInt8 := dkwX2_miss_2 ++ dktX2_miss_3
def dkwX2_miss_1 : List UInt8 := [180, 0, 63, 2, 160, 0, 21, 44, 180, 0, 76, 16, 114, 159, 0, 16, 44, 180, 0, 76, 16, 98]
abbrev dktX2_miss_1 : List UInt8 := dkwX2_miss_1 ++ dktX2_miss_2
def dkwX2_miss_0 : List UInt8 := [42, 27, 182, 0, 185, 153, 0, 5, 3, 172, 42, 180, 0, 19, 27, 182, 0, 68, 192, 0, 64, 77, 42, 44]
abbrev dktX2_miss_0 : List UInt8 := dkwX2_miss_0 ++ dktX2_miss_1
theorem dksX2_miss_0 : cX2_miss.data.toList.drop 0 = dktX2_miss_0 := by decide +kernel
theorem dksX2_miss_1 : cX2_miss.data.toList.drop 24 = dktX2_miss_1 := dk_seg dksX2_miss_0 24 rfl rfl
theorem dksX2_miss_2 : cX2_miss.data.toList.drop 46 = dktX2_miss_2 := dk_seg dksX2_miss_1 22 rfl rfl
theorem dksX2_miss_3 : cX2_miss.data.toList.drop 68 = dktX2_miss_3 := dk_seg dksX2_miss_2 22 rfl rfl
theorem dX2_miss_0 : decode cX2_miss 0 = .ok (.aload_n 0, 1) := dk_42 (dk_at dksX2_miss_0 0 rfl rfl)
theorem dX2_miss_1 : decode cX2_miss 1 = .ok (.iload_n 1, 1) := dk_27 (dk_at dksX2_miss_0 1 rfl rfl)
theorem dX2_miss_2 : decode cX2_miss 2 = .ok (.invokevirtual 185, 3) := dk_182 0 185 (dk_at dksX2_miss_0 2 rfl rfl)
theorem dX2_miss_5 : decode cX2_miss 5 = .ok (.ifCond .eq 5, 3) := dk_153 0 5 (dk_at dksX2_miss_0 5 rfl rfl)
theorem dX2_miss_8 : decode cX2_miss 8 = .ok (.iconst 0, 1) := dk_3 (dk_at dksX2_miss_0 8 rfl rfl)
theorem dX2_miss_9 : decode cX2_miss 9 = .ok (.ireturn, 1) := dk_172 (dk_at dksX2_miss_0 9 rfl rfl)
theorem dX2_miss_10 : decode cX2_miss 10 = .ok (.aload_n 0, 1) := dk_42 (dk_at dksX2_miss_0 10 rfl rfl)
theorem dX2_miss_11 : decode cX2_miss 11 = .ok (.getfield 19, 3) := dk_180 0 19 (dk_at dksX2_miss_0 11 rfl rfl)
theorem dX2_miss_14 : decode cX2_miss 14 = .ok (.iload_n 1, 1) := dk_27 (dk_at dksX2_miss_0 14 rfl rfl)
theorem dX2_miss_15 : decode cX2_miss 15 = .ok (.invokevirtual 68, 3) := dk_182 0 68 (dk_at dksX2_miss_0 15 rfl rfl)
theorem dX2_miss_18 : decode cX2_miss 18 = .ok (.checkcast 64, 3) := dk_192 0 64 (dk_at dksX2_miss_0 18 rfl rfl)
theorem dX2_miss_21 : decode cX2_miss 21 = .ok (.astore_n 2, 1) := dk_77 (dk_at dksX2_miss_0 21 rfl rfl)
theorem dX2_miss_22 : decode cX2_miss 22 = .ok (.aload_n 0, 1) := dk_42 (dk_at dksX2_miss_0 22 rfl rfl)
theorem dX2_miss_23 : decode cX2_miss 23 = .ok (.aload_n 2, 1) := dk_44 (dk_at dksX2_miss_0 23 rfl rfl)
theorem dX2_miss_24 : decode cX2_miss 24 = .ok (.getfield 63, 3) := dk_180 0 63 (dk_at dksX2_miss_1 0 rfl rfl)
theorem dX2_miss_27 : decode cX2_miss 27 = .ok (.iconst (-1), 1) := dk_2 (dk_at dksX2_miss_1 3 rfl rfl)
theorem dX2_miss_28 : decode cX2_miss 28 = .ok (.if_icmp .ne 21, 3) := dk_160 0 21 (dk_at dksX2_miss_1 4 rfl rfl)
theorem dX2_miss_31 : decode cX2_miss 31 = .ok (.aload_n 2, 1) := dk_44 (dk_at dksX2_miss_1 7 rfl rfl)
theorem dX2_miss_32 : decode cX2_miss 32 = .ok (.getfield 76, 3) := dk_180 0 76 (dk_at dksX2_miss_1 8 rfl rfl)
theorem dX2_miss_35 : decode cX2_miss 35 = .ok (.bipush 114, 2) := dk_16 114 (dk_at dksX2_miss_1 11 rfl rfl)
theorem dX2_miss_37 : decode cX2_miss 37 = .ok (.if_icmp .eq 16, 3) := dk_159 0 16 (dk_at dksX2_miss_1 13 rfl rfl)
theorem dX2_miss_40 : decode cX2_miss 40 = .ok (.aload_n 2, 1) := dk_44 (dk_at dksX2_miss_1 16 rfl rfl)
theorem dX2_miss_41 : decode cX2_miss 41 = .ok (.getfield 76, 3) := dk_180 0 76 (dk_at dksX2_miss_1 17 rfl rfl)
theorem dX2_miss_44 : decode cX2_miss 44 = .ok (.bipush 98, 2) := dk_16 98 (dk_at dksX2_miss_1 20 rfl rfl)
theorem dX2_miss_46 : decode cX2_miss 46 = .ok (.if_icmp .eq 7, 3) := dk_159 0 7 (dk_at dksX2_miss_2 0 rfl rfl)
theorem dX2_miss_49 : decode cX2_miss 49 = .ok (.iconst 2, 1) := dk_5 (dk_at dksX2_miss_2 3 rfl rfl)
theorem dX2_miss_50 : decode cX2_miss 50 = .ok (.goto 4, 3) := dk_167 0 4 (dk_at dksX2_miss_2 4 rfl rfl)
theorem dX2_miss_53 : decode cX2_miss 53 = .ok (.iconst 0, 1) := dk_3 (dk_at dksX2_miss_2 7 rfl rfl)
theorem dX2_miss_54 : decode cX2_miss 54 = .ok (.putfield 44, 3) := dk_181 0 44 (dk_at dksX2_miss_2 8 rfl rfl)
theorem dX2_miss_57 : decode cX2_miss 57 = .ok (.aload_n 0, 1) := dk_42 (dk_at dksX2_miss_2 11 rfl rfl)
theorem dX2_miss_58 : decode cX2_miss 58 = .ok (.getfield 44, 3) := dk_180 0 44 (dk_at dksX2_miss_2 12 rfl rfl)
theorem dX2_miss_61 : decode cX2_miss 61 = .ok (.ifCond .le 5, 3) := dk_158 0 5 (dk_at dksX2_miss_2 15 rfl rfl)
theorem dX2_miss_64 : decode cX2_miss 64 = .ok (.iconst 0, 1) := dk_3 (dk_at dksX2_miss_2 18 rfl rfl)
theorem dX2_miss_65 : decode cX2_miss 65 = .ok (.ireturn, 1) := dk_172 (dk_at dksX2_miss_2 19 rfl rfl)
theorem dX2_miss_66 : decode cX2_miss 66 = .ok (.aload_n 0, 1) := dk_42 (dk_at dksX2_miss_2 20 rfl rfl)
theorem dX2_miss_67 : decode cX2_miss 67 = .ok (.aload_n 2, 1) := dk_44 (dk_at dksX2_miss_2 21 rfl rfl)
theorem dX2_miss_68 : decode cX2_miss 68 = .ok (.invokevirtual 181, 3) := dk_182 0 181 (dk_at dksX2_miss_3 0 rfl rfl)
theorem dX2_miss_71 : decode cX2_miss 71 = .ok (.aload_n 2, 1) := dk_44 (dk_at dksX2_miss_3 3 rfl rfl)
theorem dX2_miss_72 : decode cX2_miss 72 = .ok (.bipush 109, 2) := dk_16 109 (dk_at dksX2_miss_3 4 rfl rfl)
theorem dX2_miss_74 : decode cX2_miss 74 = .ok (.putfield 76, 3) := dk_181 0 76 (dk_at dksX2_miss_3 6 rfl rfl)
theorem dX2_miss_77 : decode cX2_miss 77 = .ok (.aload_n 0, 1) := dk_42 (dk_at dksX2_miss_3 9 rfl rfl)
theorem dX2_miss_78 : decode cX2_miss 78 = .ok (.aload_n 2, 1) := dk_44 (dk_at dksX2_miss_3 10 rfl rfl)
theorem dX2_miss_79 : decode cX2_miss 79 = .ok (.bipush 109, 2) := dk_16 109 (dk_at dksX2_miss_3 11 rfl rfl)
theorem dX2_miss_81 : decode cX2_miss 81 = .ok (.iconst 0, 1) := dk_3 (dk_at dksX2_miss_3 13 rfl rfl)
theorem dX2_miss_82 : decode cX2_miss 82 = .ok (.invokevirtual 102, 3) := dk_182 0 102 (dk_at dksX2_miss_3 14 rfl rfl)
theorem dX2_miss_85 : decode cX2_miss 85 = .ok (.aload_n 0, 1) := dk_42 (dk_at dksX2_miss_3 17 rfl rfl)
theorem dX2_miss_86 : decode cX2_miss 86 = .ok (.invokevirtual 350, 3) := dk_182 1 94 (dk_at dksX2_miss_3 18 rfl rfl)
theorem dX2_miss_89 : decode cX2_miss 89 = .ok (.ireturn, 1) := dk_172 (dk_at dksX2_miss_3 21 rfl rfl)
abbrev cX2_missing : ByteArray := prog_17_method_62_code
def yX2_missing : MethodName := ⟨RX2, "missing", "()I"⟩
def dkwX2_missing_2 : List UInt8 := [160, 0, 7, 4, 167, 0, 4, 3, 96, 60, 167, 255, 212, 27, 172]
abbrev dktX2_missing_2 : List UInt8 := dkwX2_missing_2 ++ []
def dkwX2_missing_1 : List UInt8 := [185, 0, 116, 1, 0, 192, 0, 64, 78, 27, 45, 180, 0, 63, 2, 160, 0, 16, 45, 180, 0, 76, 16, 109]
abbrev dktX2_missing_1 : List UInt8 := dkwX2_missing_1 ++ dktX2_missing_2
def dkwX2_missing_0 : List UInt8 := [3, 60, 42, 180, 0, 19, 182, 0, 106, 77, 44, 185, 0, 110, 1, 0, 153, 0, 41, 44]
abbrev dktX2_missing_0 : List UInt8 := dkwX2_missing_0 ++ dktX2_missing_1
theorem dksX2_missing_0 : cX2_missing.data.toList.drop 0 = dktX2_missing_0 := by decide +kernel
theorem dksX2_missing_1 : cX2_missing.data.toList.drop 20 = dktX2_missing_1 := dk_seg dksX2_missing_0 20 rfl rfl
theorem dksX2_missing_2 : cX2_missing.data.toList.drop 44 = dktX2_missing_2 := dk_seg dksX2_missing_1 24 rfl rfl
theorem dX2_missing_0 : decode cX2_missing 0 = .ok (.iconst 0, 1) := dk_3 (dk_at dksX2_missing_0 0 rfl rfl)
theorem dX2_missing_1 : decode cX2_missing 1 = .ok (.istore_n 1, 1) := dk_60 (dk_at dksX2_missing_0 1 rfl rfl)
theorem dX2_missing_2 : decode cX2_missing 2 = .ok (.aload_n 0, 1) := dk_42 (dk_at dksX2_missing_0 2 rfl rfl)
theorem dX2_missing_3 : decode cX2_missing 3 = .ok (.getfield 19, 3) := dk_180 0 19 (dk_at dksX2_missing_0 3 rfl rfl)
theorem dX2_missing_6 : decode cX2_missing 6 = .ok (.invokevirtual 106, 3) := dk_182 0 106 (dk_at dksX2_missing_0 6 rfl rfl)
theorem dX2_missing_9 : decode cX2_missing 9 = .ok (.astore_n 2, 1) := dk_77 (dk_at dksX2_missing_0 9 rfl rfl)
theorem dX2_missing_10 : decode cX2_missing 10 = .ok (.aload_n 2, 1) := dk_44 (dk_at dksX2_missing_0 10 rfl rfl)
theorem dX2_missing_11 : decode cX2_missing 11 = .ok (.invokeinterface 110 1, 5) := by decide +kernel
theorem dX2_missing_16 : decode cX2_missing 16 = .ok (.ifCond .eq 41, 3) := dk_153 0 41 (dk_at dksX2_missing_0 16 rfl rfl)
theorem dX2_missing_19 : decode cX2_missing 19 = .ok (.aload_n 2, 1) := dk_44 (dk_at dksX2_missing_0 19 rfl rfl)
theorem dX2_missing_20 : decode cX2_missing 20 = .ok (.invokeinterface 116 1, 5) := by decide +kernel
theorem dX2_missing_25 : decode cX2_missing 25 = .ok (.checkcast 64, 3) := dk_192 0 64 (dk_at dksX2_missing_1 5 rfl rfl)
theorem dX2_missing_28 : decode cX2_missing 28 = .ok (.astore_n 3, 1) := dk_78 (dk_at dksX2_missing_1 8 rfl rfl)
theorem dX2_missing_29 : decode cX2_missing 29 = .ok (.iload_n 1, 1) := dk_27 (dk_at dksX2_missing_1 9 rfl rfl)
theorem dX2_missing_30 : decode cX2_missing 30 = .ok (.aload_n 3, 1) := dk_45 (dk_at dksX2_missing_1 10 rfl rfl)
theorem dX2_missing_31 : decode cX2_missing 31 = .ok (.getfield 63, 3) := dk_180 0 63 (dk_at dksX2_missing_1 11 rfl rfl)
theorem dX2_missing_34 : decode cX2_missing 34 = .ok (.iconst (-1), 1) := dk_2 (dk_at dksX2_missing_1 14 rfl rfl)
theorem dX2_missing_35 : decode cX2_missing 35 = .ok (.if_icmp .ne 16, 3) := dk_160 0 16 (dk_at dksX2_missing_1 15 rfl rfl)
theorem dX2_missing_38 : decode cX2_missing 38 = .ok (.aload_n 3, 1) := dk_45 (dk_at dksX2_missing_1 18 rfl rfl)
theorem dX2_missing_39 : decode cX2_missing 39 = .ok (.getfield 76, 3) := dk_180 0 76 (dk_at dksX2_missing_1 19 rfl rfl)
theorem dX2_missing_42 : decode cX2_missing 42 = .ok (.bipush 109, 2) := dk_16 109 (dk_at dksX2_missing_1 22 rfl rfl)
theorem dX2_missing_44 : decode cX2_missing 44 = .ok (.if_icmp .ne 7, 3) := dk_160 0 7 (dk_at dksX2_missing_2 0 rfl rfl)
theorem dX2_missing_47 : decode cX2_missing 47 = .ok (.iconst 1, 1) := dk_4 (dk_at dksX2_missing_2 3 rfl rfl)
theorem dX2_missing_48 : decode cX2_missing 48 = .ok (.goto 4, 3) := dk_167 0 4 (dk_at dksX2_missing_2 4 rfl rfl)
theorem dX2_missing_51 : decode cX2_missing 51 = .ok (.iconst 0, 1) := dk_3 (dk_at dksX2_missing_2 7 rfl rfl)
theorem dX2_missing_52 : decode cX2_missing 52 = .ok (.iadd, 1) := dk_96 (dk_at dksX2_missing_2 8 rfl rfl)
theorem dX2_missing_53 : decode cX2_missing 53 = .ok (.istore_n 1, 1) := dk_60 (dk_at dksX2_missing_2 9 rfl rfl)
theorem dX2_missing_54 : decode cX2_missing 54 = .ok (.goto (-44), 3) := dk_167 255 212 (dk_at dksX2_missing_2 10 rfl rfl)
theorem dX2_missing_57 : decode cX2_missing 57 = .ok (.iload_n 1, 1) := dk_27 (dk_at dksX2_missing_2 13 rfl rfl)
theorem dX2_missing_58 : decode cX2_missing 58 = .ok (.ireturn, 1) := dk_172 (dk_at dksX2_missing_2 14 rfl rfl)
abbrev cX2_find : ByteArray := prog_17_method_64_code
def yX2_find : MethodName := ⟨RX2, "find", "(II)I"⟩
def dkwX2_find_4 : List UInt8 := [45, 28, 182, 0, 172, 42, 182, 1, 94, 172]
abbrev dktX2_find_4 : List UInt8 := dkwX2_find_4 ++ []
def dkwX2_find_3 : List UInt8 := [182, 0, 165, 154, 0, 7, 5, 167, 0, 4, 3, 181, 0, 44, 42, 180, 0, 44, 158, 0, 5, 3, 172, 42]
abbrev dktX2_find_3 : List UInt8 := dkwX2_find_3 ++ dktX2_find_4
def dkwX2_find_2 : List UInt8 := [42, 45, 180, 0, 63, 2, 160, 0, 24, 45, 180, 0, 76, 16, 109, 160, 0, 15, 42, 28, 45, 180, 0, 120]
abbrev dktX2_find_2 : List UInt8 := dkwX2_find_2 ++ dktX2_find_3
def dkwX2_find_1 : List UInt8 := [181, 0, 44, 42, 180, 0, 44, 158, 0, 5, 3, 172, 42, 180, 0, 19, 27, 182, 0, 68, 192, 0, 64, 78]
abbrev dktX2_find_1 : List UInt8 := dkwX2_find_1 ++ dktX2_find_2
def dkwX2_find_0 : List UInt8 := [42, 42, 27, 182, 0, 56, 153, 0, 15, 42, 28, 182, 0, 60, 153, 0, 7, 3, 167, 0, 4, 4]
abbrev dktX2_find_0 : List UInt8 := dkwX2_find_0 ++ dktX2_find_1
theorem dksX2_find_0 : cX2_find.data.toList.drop 0 = dktX2_find_0 := by decide +kernel
theorem dksX2_find_1 : cX2_find.data.toList.drop 22 = dktX2_find_1 := dk_seg dksX2_find_0 22 rfl rfl
theorem dksX2_find_2 : cX2_find.data.toList.drop 46 = dktX2_find_2 := dk_seg dksX2_find_1 24 rfl rfl
theorem dksX2_find_3 : cX2_find.data.toList.drop 70 = dktX2_find_3 := dk_seg dksX2_find_2 24 rfl rfl
theorem dksX2_find_4 : cX2_find.data.toList.drop 94 = dktX2_find_4 := dk_seg dksX2_find_3 24 rfl rfl
theorem dX2_find_0 : decode cX2_find 0 = .ok (.aload_n 0, 1) := dk_42 (dk_at dksX2_find_0 0 rfl rfl)
theorem dX2_find_1 : decode cX2_find 1 = .ok (.aload_n 0, 1) := dk_42 (dk_at dksX2_find_0 1 rfl rfl)
theorem dX2_find_2 : decode cX2_find 2 = .ok (.iload_n 1, 1) := dk_27 (dk_at dksX2_find_0 2 rfl rfl)
theorem dX2_find_3 : decode cX2_find 3 = .ok (.invokevirtual 56, 3) := dk_182 0 56 (dk_at dksX2_find_0 3 rfl rfl)
theorem dX2_find_6 : decode cX2_find 6 = .ok (.ifCond .eq 15, 3) := dk_153 0 15 (dk_at dksX2_find_0 6 rfl rfl)
theorem dX2_find_9 : decode cX2_find 9 = .ok (.aload_n 0, 1) := dk_42 (dk_at dksX2_find_0 9 rfl rfl)
theorem dX2_find_10 : decode cX2_find 10 = .ok (.iload_n 2, 1) := dk_28 (dk_at dksX2_find_0 10 rfl rfl)
theorem dX2_find_11 : decode cX2_find 11 = .ok (.invokevirtual 60, 3) := dk_182 0 60 (dk_at dksX2_find_0 11 rfl rfl)
theorem dX2_find_14 : decode cX2_find 14 = .ok (.ifCond .eq 7, 3) := dk_153 0 7 (dk_at dksX2_find_0 14 rfl rfl)
theorem dX2_find_17 : decode cX2_find 17 = .ok (.iconst 0, 1) := dk_3 (dk_at dksX2_find_0 17 rfl rfl)
theorem dX2_find_18 : decode cX2_find 18 = .ok (.goto 4, 3) := dk_167 0 4 (dk_at dksX2_find_0 18 rfl rfl)
theorem dX2_find_21 : decode cX2_find 21 = .ok (.iconst 1, 1) := dk_4 (dk_at dksX2_find_0 21 rfl rfl)
theorem dX2_find_22 : decode cX2_find 22 = .ok (.putfield 44, 3) := dk_181 0 44 (dk_at dksX2_find_1 0 rfl rfl)
theorem dX2_find_25 : decode cX2_find 25 = .ok (.aload_n 0, 1) := dk_42 (dk_at dksX2_find_1 3 rfl rfl)
theorem dX2_find_26 : decode cX2_find 26 = .ok (.getfield 44, 3) := dk_180 0 44 (dk_at dksX2_find_1 4 rfl rfl)
theorem dX2_find_29 : decode cX2_find 29 = .ok (.ifCond .le 5, 3) := dk_158 0 5 (dk_at dksX2_find_1 7 rfl rfl)
theorem dX2_find_32 : decode cX2_find 32 = .ok (.iconst 0, 1) := dk_3 (dk_at dksX2_find_1 10 rfl rfl)
theorem dX2_find_33 : decode cX2_find 33 = .ok (.ireturn, 1) := dk_172 (dk_at dksX2_find_1 11 rfl rfl)
theorem dX2_find_34 : decode cX2_find 34 = .ok (.aload_n 0, 1) := dk_42 (dk_at dksX2_find_1 12 rfl rfl)
theorem dX2_find_35 : decode cX2_find 35 = .ok (.getfield 19, 3) := dk_180 0 19 (dk_at dksX2_find_1 13 rfl rfl)
theorem dX2_find_38 : decode cX2_find 38 = .ok (.iload_n 1, 1) := dk_27 (dk_at dksX2_find_1 16 rfl rfl)
theorem dX2_find_39 : decode cX2_find 39 = .ok (.invokevirtual 68, 3) := dk_182 0 68 (dk_at dksX2_find_1 17 rfl rfl)
theorem dX2_find_42 : decode cX2_find 42 = .ok (.checkcast 64, 3) := dk_192 0 64 (dk_at dksX2_find_1 20 rfl rfl)
theorem dX2_find_45 : decode cX2_find 45 = .ok (.astore_n 3, 1) := dk_78 (dk_at dksX2_find_1 23 rfl rfl)
theorem dX2_find_46 : decode cX2_find 46 = .ok (.aload_n 0, 1) := dk_42 (dk_at dksX2_find_2 0 rfl rfl)
theorem dX2_find_47 : decode cX2_find 47 = .ok (.aload_n 3, 1) := dk_45 (dk_at dksX2_find_2 1 rfl rfl)
theorem dX2_find_48 : decode cX2_find 48 = .ok (.getfield 63, 3) := dk_180 0 63 (dk_at dksX2_find_2 2 rfl rfl)
theorem dX2_find_51 : decode cX2_find 51 = .ok (.iconst (-1), 1) := dk_2 (dk_at dksX2_find_2 5 rfl rfl)
theorem dX2_find_52 : decode cX2_find 52 = .ok (.if_icmp .ne 24, 3) := dk_160 0 24 (dk_at dksX2_find_2 6 rfl rfl)
theorem dX2_find_55 : decode cX2_find 55 = .ok (.aload_n 3, 1) := dk_45 (dk_at dksX2_find_2 9 rfl rfl)
theorem dX2_find_56 : decode cX2_find 56 = .ok (.getfield 76, 3) := dk_180 0 76 (dk_at dksX2_find_2 10 rfl rfl)
theorem dX2_find_59 : decode cX2_find 59 = .ok (.bipush 109, 2) := dk_16 109 (dk_at dksX2_find_2 13 rfl rfl)
theorem dX2_find_61 : decode cX2_find 61 = .ok (.if_icmp .ne 15, 3) := dk_160 0 15 (dk_at dksX2_find_2 15 rfl rfl)
theorem dX2_find_64 : decode cX2_find 64 = .ok (.aload_n 0, 1) := dk_42 (dk_at dksX2_find_2 18 rfl rfl)
theorem dX2_find_65 : decode cX2_find 65 = .ok (.iload_n 2, 1) := dk_28 (dk_at dksX2_find_2 19 rfl rfl)
theorem dX2_find_66 : decode cX2_find 66 = .ok (.aload_n 3, 1) := dk_45 (dk_at dksX2_find_2 20 rfl rfl)
theorem dX2_find_67 : decode cX2_find 67 = .ok (.getfield 120, 3) := dk_180 0 120 (dk_at dksX2_find_2 21 rfl rfl)
theorem dX2_find_70 : decode cX2_find 70 = .ok (.invokevirtual 165, 3) := dk_182 0 165 (dk_at dksX2_find_3 0 rfl rfl)
theorem dX2_find_73 : decode cX2_find 73 = .ok (.ifCond .ne 7, 3) := dk_154 0 7 (dk_at dksX2_find_3 3 rfl rfl)
theorem dX2_find_76 : decode cX2_find 76 = .ok (.iconst 2, 1) := dk_5 (dk_at dksX2_find_3 6 rfl rfl)
theorem dX2_find_77 : decode cX2_find 77 = .ok (.goto 4, 3) := dk_167 0 4 (dk_at dksX2_find_3 7 rfl rfl)
theorem dX2_find_80 : decode cX2_find 80 = .ok (.iconst 0, 1) := dk_3 (dk_at dksX2_find_3 10 rfl rfl)
theorem dX2_find_81 : decode cX2_find 81 = .ok (.putfield 44, 3) := dk_181 0 44 (dk_at dksX2_find_3 11 rfl rfl)
theorem dX2_find_84 : decode cX2_find 84 = .ok (.aload_n 0, 1) := dk_42 (dk_at dksX2_find_3 14 rfl rfl)
theorem dX2_find_85 : decode cX2_find 85 = .ok (.getfield 44, 3) := dk_180 0 44 (dk_at dksX2_find_3 15 rfl rfl)
theorem dX2_find_88 : decode cX2_find 88 = .ok (.ifCond .le 5, 3) := dk_158 0 5 (dk_at dksX2_find_3 18 rfl rfl)
theorem dX2_find_91 : decode cX2_find 91 = .ok (.iconst 0, 1) := dk_3 (dk_at dksX2_find_3 21 rfl rfl)
theorem dX2_find_92 : decode cX2_find 92 = .ok (.ireturn, 1) := dk_172 (dk_at dksX2_find_3 22 rfl rfl)
theorem dX2_find_93 : decode cX2_find 93 = .ok (.aload_n 0, 1) := dk_42 (dk_at dksX2_find_3 23 rfl rfl)
theorem dX2_find_94 : decode cX2_find 94 = .ok (.aload_n 3, 1) := dk_45 (dk_at dksX2_find_4 0 rfl rfl)
theorem dX2_find_95 : decode cX2_find 95 = .ok (.iload_n 2, 1) := dk_28 (dk_at dksX2_find_4 1 rfl rfl)
theorem dX2_find_96 : decode cX2_find 96 = .ok (.invokevirtual 172, 3) := dk_182 0 172 (dk_at dksX2_find_4 2 rfl rfl)
theorem dX2_find_99 : decode cX2_find 99 = .ok (.aload_n 0, 1) := dk_42 (dk_at dksX2_find_4 5 rfl rfl)
theorem dX2_find_100 : decode cX2_find 100 = .ok (.invokevirtual 350, 3) := dk_182 1 94 (dk_at dksX2_find_4 6 rfl rfl)
theorem dX2_find_103 : decode cX2_find 103 = .ok (.ireturn, 1) := dk_172 (dk_at dksX2_find_4 9 rfl rfl)
abbrev cX2_shown : ByteArray := prog_17_method_67_code
def yX2_shown : MethodName := ⟨RX2, "shown", "(IIII)I"⟩
def dkwX2_shown_2 : List UInt8 := [167, 0, 4, 6, 181, 0, 44, 42, 180, 0, 44, 158, 0, 7, 3, 167, 0, 8, 25, 5, 21, 4, 46, 172]
abbrev dktX2_shown_2 : List UInt8 := dkwX2_shown_2 ++ []
def dkwX2_shown_1 : List UInt8 := [133, 9, 29, 4, 100, 133, 184, 0, 52, 153, 0, 16, 25, 5, 21, 4, 46, 2, 159, 0, 7, 3]
abbrev dktX2_shown_1 : List UInt8 := dkwX2_shown_1 ++ dktX2_shown_2
def dkwX2_shown_0 : List UInt8 := [42, 27, 28, 29, 182, 1, 99, 153, 0, 5, 3, 172, 42, 27, 28, 29, 182, 1, 103, 58, 5, 42, 21, 4]
abbrev dktX2_shown_0 : List UInt8 := dkwX2_shown_0 ++ dktX2_shown_1
theorem dksX2_shown_0 : cX2_shown.data.toList.drop 0 = dktX2_shown_0 := by decide +kernel
theorem dksX2_shown_1 : cX2_shown.data.toList.drop 24 = dktX2_shown_1 := dk_seg dksX2_shown_0 24 rfl rfl
theorem dksX2_shown_2 : cX2_shown.data.toList.drop 46 = dktX2_shown_2 := dk_seg dksX2_shown_1 22 rfl rfl
theorem dX2_shown_0 : decode cX2_shown 0 = .ok (.aload_n 0, 1) := dk_42 (dk_at dksX2_shown_0 0 rfl rfl)
theorem dX2_shown_1 : decode cX2_shown 1 = .ok (.iload_n 1, 1) := dk_27 (dk_at dksX2_shown_0 1 rfl rfl)
theorem dX2_shown_2 : decode cX2_shown 2 = .ok (.iload_n 2, 1) := dk_28 (dk_at dksX2_shown_0 2 rfl rfl)
theorem dX2_shown_3 : decode cX2_shown 3 = .ok (.iload_n 3, 1) := dk_29 (dk_at dksX2_shown_0 3 rfl rfl)
theorem dX2_shown_4 : decode cX2_shown 4 = .ok (.invokevirtual 355, 3) := dk_182 1 99 (dk_at dksX2_shown_0 4 rfl rfl)
theorem dX2_shown_7 : decode cX2_shown 7 = .ok (.ifCond .eq 5, 3) := dk_153 0 5 (dk_at dksX2_shown_0 7 rfl rfl)
theorem dX2_shown_10 : decode cX2_shown 10 = .ok (.iconst 0, 1) := dk_3 (dk_at dksX2_shown_0 10 rfl rfl)
theorem dX2_shown_11 : decode cX2_shown 11 = .ok (.ireturn, 1) := dk_172 (dk_at dksX2_shown_0 11 rfl rfl)
theorem dX2_shown_12 : decode cX2_shown 12 = .ok (.aload_n 0, 1) := dk_42 (dk_at dksX2_shown_0 12 rfl rfl)
theorem dX2_shown_13 : decode cX2_shown 13 = .ok (.iload_n 1, 1) := dk_27 (dk_at dksX2_shown_0 13 rfl rfl)
theorem dX2_shown_14 : decode cX2_shown 14 = .ok (.iload_n 2, 1) := dk_28 (dk_at dksX2_shown_0 14 rfl rfl)
theorem dX2_shown_15 : decode cX2_shown 15 = .ok (.iload_n 3, 1) := dk_29 (dk_at dksX2_shown_0 15 rfl rfl)
theorem dX2_shown_16 : decode cX2_shown 16 = .ok (.invokevirtual 359, 3) := dk_182 1 103 (dk_at dksX2_shown_0 16 rfl rfl)
theorem dX2_shown_19 : decode cX2_shown 19 = .ok (.astore 5, 2) := dk_58 5 (dk_at dksX2_shown_0 19 rfl rfl)
theorem dX2_shown_21 : decode cX2_shown 21 = .ok (.aload_n 0, 1) := dk_42 (dk_at dksX2_shown_0 21 rfl rfl)
theorem dX2_shown_22 : decode cX2_shown 22 = .ok (.iload 4, 2) := dk_21 4 (dk_at dksX2_shown_0 22 rfl rfl)
theorem dX2_shown_24 : decode cX2_shown 24 = .ok (.i2l, 1) := dk_133 (dk_at dksX2_shown_1 0 rfl rfl)
theorem dX2_shown_25 : decode cX2_shown 25 = .ok (.lconst 0, 1) := dk_9 (dk_at dksX2_shown_1 1 rfl rfl)
theorem dX2_shown_26 : decode cX2_shown 26 = .ok (.iload_n 3, 1) := dk_29 (dk_at dksX2_shown_1 2 rfl rfl)
theorem dX2_shown_27 : decode cX2_shown 27 = .ok (.iconst 1, 1) := dk_4 (dk_at dksX2_shown_1 3 rfl rfl)
theorem dX2_shown_28 : decode cX2_shown 28 = .ok (.isub, 1) := dk_100 (dk_at dksX2_shown_1 4 rfl rfl)
theorem dX2_shown_29 : decode cX2_shown 29 = .ok (.i2l, 1) := dk_133 (dk_at dksX2_shown_1 5 rfl rfl)
theorem dX2_shown_30 : decode cX2_shown 30 = .ok (.invokestatic 52, 3) := dk_184 0 52 (dk_at dksX2_shown_1 6 rfl rfl)
theorem dX2_shown_33 : decode cX2_shown 33 = .ok (.ifCond .eq 16, 3) := dk_153 0 16 (dk_at dksX2_shown_1 9 rfl rfl)
theorem dX2_shown_36 : decode cX2_shown 36 = .ok (.aload 5, 2) := dk_25 5 (dk_at dksX2_shown_1 12 rfl rfl)
theorem dX2_shown_38 : decode cX2_shown 38 = .ok (.iload 4, 2) := dk_21 4 (dk_at dksX2_shown_1 14 rfl rfl)
theorem dX2_shown_40 : decode cX2_shown 40 = .ok (.iaload, 1) := dk_46 (dk_at dksX2_shown_1 16 rfl rfl)
theorem dX2_shown_41 : decode cX2_shown 41 = .ok (.iconst (-1), 1) := dk_2 (dk_at dksX2_shown_1 17 rfl rfl)
theorem dX2_shown_42 : decode cX2_shown 42 = .ok (.if_icmp .eq 7, 3) := dk_159 0 7 (dk_at dksX2_shown_1 18 rfl rfl)
theorem dX2_shown_45 : decode cX2_shown 45 = .ok (.iconst 0, 1) := dk_3 (dk_at dksX2_shown_1 21 rfl rfl)
theorem dX2_shown_46 : decode cX2_shown 46 = .ok (.goto 4, 3) := dk_167 0 4 (dk_at dksX2_shown_2 0 rfl rfl)
theorem dX2_shown_49 : decode cX2_shown 49 = .ok (.iconst 3, 1) := dk_6 (dk_at dksX2_shown_2 3 rfl rfl)
theorem dX2_shown_50 : decode cX2_shown 50 = .ok (.putfield 44, 3) := dk_181 0 44 (dk_at dksX2_shown_2 4 rfl rfl)
theorem dX2_shown_53 : decode cX2_shown 53 = .ok (.aload_n 0, 1) := dk_42 (dk_at dksX2_shown_2 7 rfl rfl)
theorem dX2_shown_54 : decode cX2_shown 54 = .ok (.getfield 44, 3) := dk_180 0 44 (dk_at dksX2_shown_2 8 rfl rfl)
theorem dX2_shown_57 : decode cX2_shown 57 = .ok (.ifCond .le 7, 3) := dk_158 0 7 (dk_at dksX2_shown_2 11 rfl rfl)
theorem dX2_shown_60 : decode cX2_shown 60 = .ok (.iconst 0, 1) := dk_3 (dk_at dksX2_shown_2 14 rfl rfl)
theorem dX2_shown_61 : decode cX2_shown 61 = .ok (.goto 8, 3) := dk_167 0 8 (dk_at dksX2_shown_2 15 rfl rfl)
theorem dX2_shown_64 : decode cX2_shown 64 = .ok (.aload 5, 2) := dk_25 5 (dk_at dksX2_shown_2 18 rfl rfl)
theorem dX2_shown_66 : decode cX2_shown 66 = .ok (.iload 4, 2) := dk_21 4 (dk_at dksX2_shown_2 20 rfl rfl)
theorem dX2_shown_68 : decode cX2_shown 68 = .ok (.iaload, 1) := dk_46 (dk_at dksX2_shown_2 22 rfl rfl)
theorem dX2_shown_69 : decode cX2_shown 69 = .ok (.ireturn, 1) := dk_172 (dk_at dksX2_shown_2 23 rfl rfl)
abbrev cX2_noPlan : ByteArray := prog_17_method_66_code
def yX2_noPlan : MethodName := ⟨RX2, "noPlan", "(III)Z"⟩
def dkwX2_noPlan_2 : List UInt8 := [167, 0, 4, 5, 181, 0, 44, 42, 180, 0, 44, 158, 0, 7, 4, 167, 0, 4, 3, 172]
abbrev dktX2_noPlan_2 : List UInt8 := dkwX2_noPlan_2 ++ []
def dkwX2_noPlan_1 : List UInt8 := [184, 0, 52, 153, 0, 23, 42, 180, 0, 86, 17, 1, 109, 112, 29, 96, 17, 1, 109, 163, 0, 7, 3]
abbrev dktX2_noPlan_1 : List UInt8 := dkwX2_noPlan_1 ++ dktX2_noPlan_2
def dkwX2_noPlan_0 : List UInt8 := [42, 27, 182, 0, 147, 154, 0, 48, 42, 42, 28, 182, 1, 90, 153, 0, 35, 29, 133, 10, 20, 1, 97]
abbrev dktX2_noPlan_0 : List UInt8 := dkwX2_noPlan_0 ++ dktX2_noPlan_1
theorem dksX2_noPlan_0 : cX2_noPlan.data.toList.drop 0 = dktX2_noPlan_0 := by decide +kernel
theorem dksX2_noPlan_1 : cX2_noPlan.data.toList.drop 23 = dktX2_noPlan_1 := dk_seg dksX2_noPlan_0 23 rfl rfl
theorem dksX2_noPlan_2 : cX2_noPlan.data.toList.drop 46 = dktX2_noPlan_2 := dk_seg dksX2_noPlan_1 23 rfl rfl
theorem dX2_noPlan_0 : decode cX2_noPlan 0 = .ok (.aload_n 0, 1) := dk_42 (dk_at dksX2_noPlan_0 0 rfl rfl)
theorem dX2_noPlan_1 : decode cX2_noPlan 1 = .ok (.iload_n 1, 1) := dk_27 (dk_at dksX2_noPlan_0 1 rfl rfl)
theorem dX2_noPlan_2 : decode cX2_noPlan 2 = .ok (.invokevirtual 147, 3) := dk_182 0 147 (dk_at dksX2_noPlan_0 2 rfl rfl)
theorem dX2_noPlan_5 : decode cX2_noPlan 5 = .ok (.ifCond .ne 48, 3) := dk_154 0 48 (dk_at dksX2_noPlan_0 5 rfl rfl)
theorem dX2_noPlan_8 : decode cX2_noPlan 8 = .ok (.aload_n 0, 1) := dk_42 (dk_at dksX2_noPlan_0 8 rfl rfl)
theorem dX2_noPlan_9 : decode cX2_noPlan 9 = .ok (.aload_n 0, 1) := dk_42 (dk_at dksX2_noPlan_0 9 rfl rfl)
theorem dX2_noPlan_10 : decode cX2_noPlan 10 = .ok (.iload_n 2, 1) := dk_28 (dk_at dksX2_noPlan_0 10 rfl rfl)
theorem dX2_noPlan_11 : decode cX2_noPlan 11 = .ok (.invokevirtual 346, 3) := dk_182 1 90 (dk_at dksX2_noPlan_0 11 rfl rfl)
theorem dX2_noPlan_14 : decode cX2_noPlan 14 = .ok (.ifCond .eq 35, 3) := dk_153 0 35 (dk_at dksX2_noPlan_0 14 rfl rfl)
theorem dX2_noPlan_17 : decode cX2_noPlan 17 = .ok (.iload_n 3, 1) := dk_29 (dk_at dksX2_noPlan_0 17 rfl rfl)
theorem dX2_noPlan_18 : decode cX2_noPlan 18 = .ok (.i2l, 1) := dk_133 (dk_at dksX2_noPlan_0 18 rfl rfl)
theorem dX2_noPlan_19 : decode cX2_noPlan 19 = .ok (.lconst 1, 1) := dk_10 (dk_at dksX2_noPlan_0 19 rfl rfl)
theorem dX2_noPlan_20 : decode cX2_noPlan 20 = .ok (.ldc2_w 353, 3) := dk_20 1 97 (dk_at dksX2_noPlan_0 20 rfl rfl)
theorem dX2_noPlan_23 : decode cX2_noPlan 23 = .ok (.invokestatic 52, 3) := dk_184 0 52 (dk_at dksX2_noPlan_1 0 rfl rfl)
theorem dX2_noPlan_26 : decode cX2_noPlan 26 = .ok (.ifCond .eq 23, 3) := dk_153 0 23 (dk_at dksX2_noPlan_1 3 rfl rfl)
theorem dX2_noPlan_29 : decode cX2_noPlan 29 = .ok (.aload_n 0, 1) := dk_42 (dk_at dksX2_noPlan_1 6 rfl rfl)
theorem dX2_noPlan_30 : decode cX2_noPlan 30 = .ok (.getfield 86, 3) := dk_180 0 86 (dk_at dksX2_noPlan_1 7 rfl rfl)
theorem dX2_noPlan_33 : decode cX2_noPlan 33 = .ok (.sipush 365, 3) := dk_17 1 109 (dk_at dksX2_noPlan_1 10 rfl rfl)
theorem dX2_noPlan_36 : decode cX2_noPlan 36 = .ok (.irem, 1) := dk_112 (dk_at dksX2_noPlan_1 13 rfl rfl)
theorem dX2_noPlan_37 : decode cX2_noPlan 37 = .ok (.iload_n 3, 1) := dk_29 (dk_at dksX2_noPlan_1 14 rfl rfl)
theorem dX2_noPlan_38 : decode cX2_noPlan 38 = .ok (.iadd, 1) := dk_96 (dk_at dksX2_noPlan_1 15 rfl rfl)
theorem dX2_noPlan_39 : decode cX2_noPlan 39 = .ok (.sipush 365, 3) := dk_17 1 109 (dk_at dksX2_noPlan_1 16 rfl rfl)
theorem dX2_noPlan_42 : decode cX2_noPlan 42 = .ok (.if_icmp .gt 7, 3) := dk_163 0 7 (dk_at dksX2_noPlan_1 19 rfl rfl)
theorem dX2_noPlan_45 : decode cX2_noPlan 45 = .ok (.iconst 0, 1) := dk_3 (dk_at dksX2_noPlan_1 22 rfl rfl)
theorem dX2_noPlan_46 : decode cX2_noPlan 46 = .ok (.goto 4, 3) := dk_167 0 4 (dk_at dksX2_noPlan_2 0 rfl rfl)
theorem dX2_noPlan_49 : decode cX2_noPlan 49 = .ok (.iconst 2, 1) := dk_5 (dk_at dksX2_noPlan_2 3 rfl rfl)
theorem dX2_noPlan_50 : decode cX2_noPlan 50 = .ok (.putfield 44, 3) := dk_181 0 44 (dk_at dksX2_noPlan_2 4 rfl rfl)
theorem dX2_noPlan_53 : decode cX2_noPlan 53 = .ok (.aload_n 0, 1) := dk_42 (dk_at dksX2_noPlan_2 7 rfl rfl)
theorem dX2_noPlan_54 : decode cX2_noPlan 54 = .ok (.getfield 44, 3) := dk_180 0 44 (dk_at dksX2_noPlan_2 8 rfl rfl)
theorem dX2_noPlan_57 : decode cX2_noPlan 57 = .ok (.ifCond .le 7, 3) := dk_158 0 7 (dk_at dksX2_noPlan_2 11 rfl rfl)
theorem dX2_noPlan_60 : decode cX2_noPlan 60 = .ok (.iconst 1, 1) := dk_4 (dk_at dksX2_noPlan_2 14 rfl rfl)
theorem dX2_noPlan_61 : decode cX2_noPlan 61 = .ok (.goto 4, 3) := dk_167 0 4 (dk_at dksX2_noPlan_2 15 rfl rfl)
theorem dX2_noPlan_64 : decode cX2_noPlan 64 = .ok (.iconst 0, 1) := dk_3 (dk_at dksX2_noPlan_2 18 rfl rfl)
theorem dX2_noPlan_65 : decode cX2_noPlan 65 = .ok (.ireturn, 1) := dk_172 (dk_at dksX2_noPlan_2 19 rfl rfl)
abbrev cX2_plan : ByteArray := prog_17_method_65_code
def yX2_plan : MethodName := ⟨RX2, "plan", "(III)[I"⟩
def dkwX2_plan_11 : List UInt8 := [25, 4, 176]
abbrev dktX2_plan_11 : List UInt8 := dkwX2_plan_11 ++ []
def dkwX2_plan_10 : List UInt8 := [167, 255, 230, 167, 255, 31, 21, 6, 29, 162, 0, 15, 25, 4, 21, 6, 2, 79, 132, 6, 1, 167, 255, 241]
abbrev dktX2_plan_10 : List UInt8 := dkwX2_plan_10 ++ dktX2_plan_11
def dkwX2_plan_9 : List UInt8 := [21, 10, 162, 0, 25, 21, 6, 29, 162, 0, 19, 25, 4, 21, 6, 21, 7, 79, 132, 6, 1, 132, 11, 1]
abbrev dktX2_plan_9 : List UInt8 := dkwX2_plan_9 ++ dktX2_plan_10
def dkwX2_plan_8 : List UInt8 := [154, 0, 7, 29, 167, 0, 12, 3, 21, 9, 184, 0, 204, 21, 8, 108, 54, 10, 3, 54, 11, 21, 11]
abbrev dktX2_plan_8 : List UInt8 := dkwX2_plan_8 ++ dktX2_plan_9
def dkwX2_plan_7 : List UInt8 := [180, 0, 203, 42, 180, 0, 19, 21, 7, 182, 0, 68, 192, 0, 64, 180, 0, 202, 100, 54, 9, 21, 8]
abbrev dktX2_plan_7 : List UInt8 := dkwX2_plan_7 ++ dktX2_plan_8
def dkwX2_plan_6 : List UInt8 := [180, 0, 10, 42, 180, 0, 19, 21, 7, 182, 0, 68, 192, 0, 64, 180, 0, 188, 182, 0, 68, 192, 0, 137]
abbrev dktX2_plan_6 : List UInt8 := dkwX2_plan_6 ++ dktX2_plan_7
def dkwX2_plan_5 : List UInt8 := [2, 130, 126, 54, 5, 42, 180, 0, 16, 27, 182, 0, 68, 192, 0, 126, 180, 0, 150, 54, 8, 42]
abbrev dktX2_plan_5 : List UInt8 := dkwX2_plan_5 ++ dktX2_plan_6
def dkwX2_plan_4 : List UInt8 := [164, 0, 8, 21, 8, 167, 0, 5, 21, 7, 54, 7, 132, 8, 1, 167, 255, 170, 21, 5, 4, 21, 7, 120]
abbrev dktX2_plan_4 : List UInt8 := dkwX2_plan_4 ++ dktX2_plan_5
def dkwX2_plan_3 : List UInt8 := [182, 0, 68, 192, 0, 64, 180, 1, 8, 42, 180, 0, 19, 21, 7, 182, 0, 68, 192, 0, 64, 180, 1, 8]
abbrev dktX2_plan_3 : List UInt8 := dkwX2_plan_3 ++ dktX2_plan_4
def dkwX2_plan_2 : List UInt8 := [167, 0, 4, 3, 54, 9, 21, 9, 153, 0, 47, 21, 7, 2, 159, 0, 36, 42, 180, 0, 19, 21, 8]
abbrev dktX2_plan_2 : List UInt8 := dkwX2_plan_2 ++ dktX2_plan_3
def dkwX2_plan_1 : List UInt8 := [42, 180, 0, 19, 182, 0, 48, 162, 0, 80, 21, 5, 21, 8, 122, 4, 126, 4, 160, 0, 7, 4]
abbrev dktX2_plan_1 : List UInt8 := dkwX2_plan_1 ++ dktX2_plan_2
def dkwX2_plan_0 : List UInt8 := [29, 188, 10, 58, 4, 28, 54, 5, 3, 54, 6, 21, 5, 153, 0, 226, 2, 54, 7, 3, 54, 8, 21, 8]
abbrev dktX2_plan_0 : List UInt8 := dkwX2_plan_0 ++ dktX2_plan_1
theorem dksX2_plan_0 : cX2_plan.data.toList.drop 0 = dktX2_plan_0 := by decide +kernel
theorem dksX2_plan_1 : cX2_plan.data.toList.drop 24 = dktX2_plan_1 := dk_seg dksX2_plan_0 24 rfl rfl
theorem dksX2_plan_2 : cX2_plan.data.toList.drop 46 = dktX2_plan_2 := dk_seg dksX2_plan_1 22 rfl rfl
theorem dksX2_plan_3 : cX2_plan.data.toList.drop 69 = dktX2_plan_3 := dk_seg dksX2_plan_2 23 rfl rfl
theorem dksX2_plan_4 : cX2_plan.data.toList.drop 93 = dktX2_plan_4 := dk_seg dksX2_plan_3 24 rfl rfl
theorem dksX2_plan_5 : cX2_plan.data.toList.drop 117 = dktX2_plan_5 := dk_seg dksX2_plan_4 24 rfl rfl
theorem dksX2_plan_6 : cX2_plan.data.toList.drop 139 = dktX2_plan_6 := dk_seg dksX2_plan_5 22 rfl rfl
theorem dksX2_plan_7 : cX2_plan.data.toList.drop 163 = dktX2_plan_7 := dk_seg dksX2_plan_6 24 rfl rfl
theorem dksX2_plan_8 : cX2_plan.data.toList.drop 186 = dktX2_plan_8 := dk_seg dksX2_plan_7 23 rfl rfl
theorem dksX2_plan_9 : cX2_plan.data.toList.drop 209 = dktX2_plan_9 := dk_seg dksX2_plan_8 23 rfl rfl
theorem dksX2_plan_10 : cX2_plan.data.toList.drop 233 = dktX2_plan_10 := dk_seg dksX2_plan_9 24 rfl rfl
theorem dksX2_plan_11 : cX2_plan.data.toList.drop 257 = dktX2_plan_11 := dk_seg dksX2_plan_10 24 rfl rfl
theorem dX2_plan_0 : decode cX2_plan 0 = .ok (.iload_n 3, 1) := dk_29 (dk_at dksX2_plan_0 0 rfl rfl)
theorem dX2_plan_1 : decode cX2_plan 1 = .ok (.newarray .int, 2) := dk_188_10 (dk_at dksX2_plan_0 1 rfl rfl)
theorem dX2_plan_3 : decode cX2_plan 3 = .ok (.astore 4, 2) := dk_58 4 (dk_at dksX2_plan_0 3 rfl rfl)
theorem dX2_plan_5 : decode cX2_plan 5 = .ok (.iload_n 2, 1) := dk_28 (dk_at dksX2_plan_0 5 rfl rfl)
theorem dX2_plan_6 : decode cX2_plan 6 = .ok (.istore 5, 2) := dk_54 5 (dk_at dksX2_plan_0 6 rfl rfl)
theorem dX2_plan_8 : decode cX2_plan 8 = .ok (.iconst 0, 1) := dk_3 (dk_at dksX2_plan_0 8 rfl rfl)
theorem dX2_plan_9 : decode cX2_plan 9 = .ok (.istore 6, 2) := dk_54 6 (dk_at dksX2_plan_0 9 rfl rfl)
theorem dX2_plan_11 : decode cX2_plan 11 = .ok (.iload 5, 2) := dk_21 5 (dk_at dksX2_plan_0 11 rfl rfl)
theorem dX2_plan_13 : decode cX2_plan 13 = .ok (.ifCond .eq 226, 3) := dk_153 0 226 (dk_at dksX2_plan_0 13 rfl rfl)
theorem dX2_plan_16 : decode cX2_plan 16 = .ok (.iconst (-1), 1) := dk_2 (dk_at dksX2_plan_0 16 rfl rfl)
theorem dX2_plan_17 : decode cX2_plan 17 = .ok (.istore 7, 2) := dk_54 7 (dk_at dksX2_plan_0 17 rfl rfl)
theorem dX2_plan_19 : decode cX2_plan 19 = .ok (.iconst 0, 1) := dk_3 (dk_at dksX2_plan_0 19 rfl rfl)
theorem dX2_plan_20 : decode cX2_plan 20 = .ok (.istore 8, 2) := dk_54 8 (dk_at dksX2_plan_0 20 rfl rfl)
theorem dX2_plan_22 : decode cX2_plan 22 = .ok (.iload 8, 2) := dk_21 8 (dk_at dksX2_plan_0 22 rfl rfl)
theorem dX2_plan_24 : decode cX2_plan 24 = .ok (.aload_n 0, 1) := dk_42 (dk_at dksX2_plan_1 0 rfl rfl)
theorem dX2_plan_25 : decode cX2_plan 25 = .ok (.getfield 19, 3) := dk_180 0 19 (dk_at dksX2_plan_1 1 rfl rfl)
theorem dX2_plan_28 : decode cX2_plan 28 = .ok (.invokevirtual 48, 3) := dk_182 0 48 (dk_at dksX2_plan_1 4 rfl rfl)
theorem dX2_plan_31 : decode cX2_plan 31 = .ok (.if_icmp .ge 80, 3) := dk_162 0 80 (dk_at dksX2_plan_1 7 rfl rfl)
theorem dX2_plan_34 : decode cX2_plan 34 = .ok (.iload 5, 2) := dk_21 5 (dk_at dksX2_plan_1 10 rfl rfl)
theorem dX2_plan_36 : decode cX2_plan 36 = .ok (.iload 8, 2) := dk_21 8 (dk_at dksX2_plan_1 12 rfl rfl)
theorem dX2_plan_38 : decode cX2_plan 38 = .ok (.ishr, 1) := dk_122 (dk_at dksX2_plan_1 14 rfl rfl)
theorem dX2_plan_39 : decode cX2_plan 39 = .ok (.iconst 1, 1) := dk_4 (dk_at dksX2_plan_1 15 rfl rfl)
theorem dX2_plan_40 : decode cX2_plan 40 = .ok (.iand, 1) := dk_126 (dk_at dksX2_plan_1 16 rfl rfl)
theorem dX2_plan_41 : decode cX2_plan 41 = .ok (.iconst 1, 1) := dk_4 (dk_at dksX2_plan_1 17 rfl rfl)
theorem dX2_plan_42 : decode cX2_plan 42 = .ok (.if_icmp .ne 7, 3) := dk_160 0 7 (dk_at dksX2_plan_1 18 rfl rfl)
theorem dX2_plan_45 : decode cX2_plan 45 = .ok (.iconst 1, 1) := dk_4 (dk_at dksX2_plan_1 21 rfl rfl)
theorem dX2_plan_46 : decode cX2_plan 46 = .ok (.goto 4, 3) := dk_167 0 4 (dk_at dksX2_plan_2 0 rfl rfl)
theorem dX2_plan_49 : decode cX2_plan 49 = .ok (.iconst 0, 1) := dk_3 (dk_at dksX2_plan_2 3 rfl rfl)
theorem dX2_plan_50 : decode cX2_plan 50 = .ok (.istore 9, 2) := dk_54 9 (dk_at dksX2_plan_2 4 rfl rfl)
theorem dX2_plan_52 : decode cX2_plan 52 = .ok (.iload 9, 2) := dk_21 9 (dk_at dksX2_plan_2 6 rfl rfl)
theorem dX2_plan_54 : decode cX2_plan 54 = .ok (.ifCond .eq 47, 3) := dk_153 0 47 (dk_at dksX2_plan_2 8 rfl rfl)
theorem dX2_plan_57 : decode cX2_plan 57 = .ok (.iload 7, 2) := dk_21 7 (dk_at dksX2_plan_2 11 rfl rfl)
theorem dX2_plan_59 : decode cX2_plan 59 = .ok (.iconst (-1), 1) := dk_2 (dk_at dksX2_plan_2 13 rfl rfl)
theorem dX2_plan_60 : decode cX2_plan 60 = .ok (.if_icmp .eq 36, 3) := dk_159 0 36 (dk_at dksX2_plan_2 14 rfl rfl)
theorem dX2_plan_63 : decode cX2_plan 63 = .ok (.aload_n 0, 1) := dk_42 (dk_at dksX2_plan_2 17 rfl rfl)
theorem dX2_plan_64 : decode cX2_plan 64 = .ok (.getfield 19, 3) := dk_180 0 19 (dk_at dksX2_plan_2 18 rfl rfl)
theorem dX2_plan_67 : decode cX2_plan 67 = .ok (.iload 8, 2) := dk_21 8 (dk_at dksX2_plan_2 21 rfl rfl)
theorem dX2_plan_69 : decode cX2_plan 69 = .ok (.invokevirtual 68, 3) := dk_182 0 68 (dk_at dksX2_plan_3 0 rfl rfl)
theorem dX2_plan_72 : decode cX2_plan 72 = .ok (.checkcast 64, 3) := dk_192 0 64 (dk_at dksX2_plan_3 3 rfl rfl)
theorem dX2_plan_75 : decode cX2_plan 75 = .ok (.getfield 264, 3) := dk_180 1 8 (dk_at dksX2_plan_3 6 rfl rfl)
theorem dX2_plan_78 : decode cX2_plan 78 = .ok (.aload_n 0, 1) := dk_42 (dk_at dksX2_plan_3 9 rfl rfl)
theorem dX2_plan_79 : decode cX2_plan 79 = .ok (.getfield 19, 3) := dk_180 0 19 (dk_at dksX2_plan_3 10 rfl rfl)
theorem dX2_plan_82 : decode cX2_plan 82 = .ok (.iload 7, 2) := dk_21 7 (dk_at dksX2_plan_3 13 rfl rfl)
theorem dX2_plan_84 : decode cX2_plan 84 = .ok (.invokevirtual 68, 3) := dk_182 0 68 (dk_at dksX2_plan_3 15 rfl rfl)
theorem dX2_plan_87 : decode cX2_plan 87 = .ok (.checkcast 64, 3) := dk_192 0 64 (dk_at dksX2_plan_3 18 rfl rfl)
theorem dX2_plan_90 : decode cX2_plan 90 = .ok (.getfield 264, 3) := dk_180 1 8 (dk_at dksX2_plan_3 21 rfl rfl)
theorem dX2_plan_93 : decode cX2_plan 93 = .ok (.if_icmp .le 8, 3) := dk_164 0 8 (dk_at dksX2_plan_4 0 rfl rfl)
theorem dX2_plan_96 : decode cX2_plan 96 = .ok (.iload 8, 2) := dk_21 8 (dk_at dksX2_plan_4 3 rfl rfl)
theorem dX2_plan_98 : decode cX2_plan 98 = .ok (.goto 5, 3) := dk_167 0 5 (dk_at dksX2_plan_4 5 rfl rfl)
theorem dX2_plan_101 : decode cX2_plan 101 = .ok (.iload 7, 2) := dk_21 7 (dk_at dksX2_plan_4 8 rfl rfl)
theorem dX2_plan_103 : decode cX2_plan 103 = .ok (.istore 7, 2) := dk_54 7 (dk_at dksX2_plan_4 10 rfl rfl)
theorem dX2_plan_105 : decode cX2_plan 105 = .ok (.iinc 8 1, 3) := dk_132 8 1 (dk_at dksX2_plan_4 12 rfl rfl)
theorem dX2_plan_108 : decode cX2_plan 108 = .ok (.goto (-86), 3) := dk_167 255 170 (dk_at dksX2_plan_4 15 rfl rfl)
theorem dX2_plan_111 : decode cX2_plan 111 = .ok (.iload 5, 2) := dk_21 5 (dk_at dksX2_plan_4 18 rfl rfl)
theorem dX2_plan_113 : decode cX2_plan 113 = .ok (.iconst 1, 1) := dk_4 (dk_at dksX2_plan_4 20 rfl rfl)
theorem dX2_plan_114 : decode cX2_plan 114 = .ok (.iload 7, 2) := dk_21 7 (dk_at dksX2_plan_4 21 rfl rfl)
theorem dX2_plan_116 : decode cX2_plan 116 = .ok (.ishl, 1) := dk_120 (dk_at dksX2_plan_4 23 rfl rfl)
theorem dX2_plan_117 : decode cX2_plan 117 = .ok (.iconst (-1), 1) := dk_2 (dk_at dksX2_plan_5 0 rfl rfl)
theorem dX2_plan_118 : decode cX2_plan 118 = .ok (.ixor, 1) := dk_130 (dk_at dksX2_plan_5 1 rfl rfl)
theorem dX2_plan_119 : decode cX2_plan 119 = .ok (.iand, 1) := dk_126 (dk_at dksX2_plan_5 2 rfl rfl)
theorem dX2_plan_120 : decode cX2_plan 120 = .ok (.istore 5, 2) := dk_54 5 (dk_at dksX2_plan_5 3 rfl rfl)
theorem dX2_plan_122 : decode cX2_plan 122 = .ok (.aload_n 0, 1) := dk_42 (dk_at dksX2_plan_5 5 rfl rfl)
theorem dX2_plan_123 : decode cX2_plan 123 = .ok (.getfield 16, 3) := dk_180 0 16 (dk_at dksX2_plan_5 6 rfl rfl)
theorem dX2_plan_126 : decode cX2_plan 126 = .ok (.iload_n 1, 1) := dk_27 (dk_at dksX2_plan_5 9 rfl rfl)
theorem dX2_plan_127 : decode cX2_plan 127 = .ok (.invokevirtual 68, 3) := dk_182 0 68 (dk_at dksX2_plan_5 10 rfl rfl)
theorem dX2_plan_130 : decode cX2_plan 130 = .ok (.checkcast 126, 3) := dk_192 0 126 (dk_at dksX2_plan_5 13 rfl rfl)
theorem dX2_plan_133 : decode cX2_plan 133 = .ok (.getfield 150, 3) := dk_180 0 150 (dk_at dksX2_plan_5 16 rfl rfl)
theorem dX2_plan_136 : decode cX2_plan 136 = .ok (.istore 8, 2) := dk_54 8 (dk_at dksX2_plan_5 19 rfl rfl)
theorem dX2_plan_138 : decode cX2_plan 138 = .ok (.aload_n 0, 1) := dk_42 (dk_at dksX2_plan_5 21 rfl rfl)
theorem dX2_plan_139 : decode cX2_plan 139 = .ok (.getfield 10, 3) := dk_180 0 10 (dk_at dksX2_plan_6 0 rfl rfl)
theorem dX2_plan_142 : decode cX2_plan 142 = .ok (.aload_n 0, 1) := dk_42 (dk_at dksX2_plan_6 3 rfl rfl)
theorem dX2_plan_143 : decode cX2_plan 143 = .ok (.getfield 19, 3) := dk_180 0 19 (dk_at dksX2_plan_6 4 rfl rfl)
theorem dX2_plan_146 : decode cX2_plan 146 = .ok (.iload 7, 2) := dk_21 7 (dk_at dksX2_plan_6 7 rfl rfl)
theorem dX2_plan_148 : decode cX2_plan 148 = .ok (.invokevirtual 68, 3) := dk_182 0 68 (dk_at dksX2_plan_6 9 rfl rfl)
theorem dX2_plan_151 : decode cX2_plan 151 = .ok (.checkcast 64, 3) := dk_192 0 64 (dk_at dksX2_plan_6 12 rfl rfl)
theorem dX2_plan_154 : decode cX2_plan 154 = .ok (.getfield 188, 3) := dk_180 0 188 (dk_at dksX2_plan_6 15 rfl rfl)
theorem dX2_plan_157 : decode cX2_plan 157 = .ok (.invokevirtual 68, 3) := dk_182 0 68 (dk_at dksX2_plan_6 18 rfl rfl)
theorem dX2_plan_160 : decode cX2_plan 160 = .ok (.checkcast 137, 3) := dk_192 0 137 (dk_at dksX2_plan_6 21 rfl rfl)
theorem dX2_plan_163 : decode cX2_plan 163 = .ok (.getfield 203, 3) := dk_180 0 203 (dk_at dksX2_plan_7 0 rfl rfl)
theorem dX2_plan_166 : decode cX2_plan 166 = .ok (.aload_n 0, 1) := dk_42 (dk_at dksX2_plan_7 3 rfl rfl)
theorem dX2_plan_167 : decode cX2_plan 167 = .ok (.getfield 19, 3) := dk_180 0 19 (dk_at dksX2_plan_7 4 rfl rfl)
theorem dX2_plan_170 : decode cX2_plan 170 = .ok (.iload 7, 2) := dk_21 7 (dk_at dksX2_plan_7 7 rfl rfl)
theorem dX2_plan_172 : decode cX2_plan 172 = .ok (.invokevirtual 68, 3) := dk_182 0 68 (dk_at dksX2_plan_7 9 rfl rfl)
theorem dX2_plan_175 : decode cX2_plan 175 = .ok (.checkcast 64, 3) := dk_192 0 64 (dk_at dksX2_plan_7 12 rfl rfl)
theorem dX2_plan_178 : decode cX2_plan 178 = .ok (.getfield 202, 3) := dk_180 0 202 (dk_at dksX2_plan_7 15 rfl rfl)
theorem dX2_plan_181 : decode cX2_plan 181 = .ok (.isub, 1) := dk_100 (dk_at dksX2_plan_7 18 rfl rfl)
theorem dX2_plan_182 : decode cX2_plan 182 = .ok (.istore 9, 2) := dk_54 9 (dk_at dksX2_plan_7 19 rfl rfl)
theorem dX2_plan_184 : decode cX2_plan 184 = .ok (.iload 8, 2) := dk_21 8 (dk_at dksX2_plan_7 21 rfl rfl)
theorem dX2_plan_186 : decode cX2_plan 186 = .ok (.ifCond .ne 7, 3) := dk_154 0 7 (dk_at dksX2_plan_8 0 rfl rfl)
theorem dX2_plan_189 : decode cX2_plan 189 = .ok (.iload_n 3, 1) := dk_29 (dk_at dksX2_plan_8 3 rfl rfl)
theorem dX2_plan_190 : decode cX2_plan 190 = .ok (.goto 12, 3) := dk_167 0 12 (dk_at dksX2_plan_8 4 rfl rfl)
theorem dX2_plan_193 : decode cX2_plan 193 = .ok (.iconst 0, 1) := dk_3 (dk_at dksX2_plan_8 7 rfl rfl)
theorem dX2_plan_194 : decode cX2_plan 194 = .ok (.iload 9, 2) := dk_21 9 (dk_at dksX2_plan_8 8 rfl rfl)
theorem dX2_plan_196 : decode cX2_plan 196 = .ok (.invokestatic 204, 3) := dk_184 0 204 (dk_at dksX2_plan_8 10 rfl rfl)
theorem dX2_plan_199 : decode cX2_plan 199 = .ok (.iload 8, 2) := dk_21 8 (dk_at dksX2_plan_8 13 rfl rfl)
theorem dX2_plan_201 : decode cX2_plan 201 = .ok (.idiv, 1) := dk_108 (dk_at dksX2_plan_8 15 rfl rfl)
theorem dX2_plan_202 : decode cX2_plan 202 = .ok (.istore 10, 2) := dk_54 10 (dk_at dksX2_plan_8 16 rfl rfl)
theorem dX2_plan_204 : decode cX2_plan 204 = .ok (.iconst 0, 1) := dk_3 (dk_at dksX2_plan_8 18 rfl rfl)
theorem dX2_plan_205 : decode cX2_plan 205 = .ok (.istore 11, 2) := dk_54 11 (dk_at dksX2_plan_8 19 rfl rfl)
theorem dX2_plan_207 : decode cX2_plan 207 = .ok (.iload 11, 2) := dk_21 11 (dk_at dksX2_plan_8 21 rfl rfl)
theorem dX2_plan_209 : decode cX2_plan 209 = .ok (.iload 10, 2) := dk_21 10 (dk_at dksX2_plan_9 0 rfl rfl)
theorem dX2_plan_211 : decode cX2_plan 211 = .ok (.if_icmp .ge 25, 3) := dk_162 0 25 (dk_at dksX2_plan_9 2 rfl rfl)
theorem dX2_plan_214 : decode cX2_plan 214 = .ok (.iload 6, 2) := dk_21 6 (dk_at dksX2_plan_9 5 rfl rfl)
theorem dX2_plan_216 : decode cX2_plan 216 = .ok (.iload_n 3, 1) := dk_29 (dk_at dksX2_plan_9 7 rfl rfl)
theorem dX2_plan_217 : decode cX2_plan 217 = .ok (.if_icmp .ge 19, 3) := dk_162 0 19 (dk_at dksX2_plan_9 8 rfl rfl)
theorem dX2_plan_220 : decode cX2_plan 220 = .ok (.aload 4, 2) := dk_25 4 (dk_at dksX2_plan_9 11 rfl rfl)
theorem dX2_plan_222 : decode cX2_plan 222 = .ok (.iload 6, 2) := dk_21 6 (dk_at dksX2_plan_9 13 rfl rfl)
theorem dX2_plan_224 : decode cX2_plan 224 = .ok (.iload 7, 2) := dk_21 7 (dk_at dksX2_plan_9 15 rfl rfl)
theorem dX2_plan_226 : decode cX2_plan 226 = .ok (.iastore, 1) := dk_79 (dk_at dksX2_plan_9 17 rfl rfl)
theorem dX2_plan_227 : decode cX2_plan 227 = .ok (.iinc 6 1, 3) := dk_132 6 1 (dk_at dksX2_plan_9 18 rfl rfl)
theorem dX2_plan_230 : decode cX2_plan 230 = .ok (.iinc 11 1, 3) := dk_132 11 1 (dk_at dksX2_plan_9 21 rfl rfl)
theorem dX2_plan_233 : decode cX2_plan 233 = .ok (.goto (-26), 3) := dk_167 255 230 (dk_at dksX2_plan_10 0 rfl rfl)
theorem dX2_plan_236 : decode cX2_plan 236 = .ok (.goto (-225), 3) := dk_167 255 31 (dk_at dksX2_plan_10 3 rfl rfl)
theorem dX2_plan_239 : decode cX2_plan 239 = .ok (.iload 6, 2) := dk_21 6 (dk_at dksX2_plan_10 6 rfl rfl)
theorem dX2_plan_241 : decode cX2_plan 241 = .ok (.iload_n 3, 1) := dk_29 (dk_at dksX2_plan_10 8 rfl rfl)
theorem dX2_plan_242 : decode cX2_plan 242 = .ok (.if_icmp .ge 15, 3) := dk_162 0 15 (dk_at dksX2_plan_10 9 rfl rfl)
theorem dX2_plan_245 : decode cX2_plan 245 = .ok (.aload 4, 2) := dk_25 4 (dk_at dksX2_plan_10 12 rfl rfl)
theorem dX2_plan_247 : decode cX2_plan 247 = .ok (.iload 6, 2) := dk_21 6 (dk_at dksX2_plan_10 14 rfl rfl)
theorem dX2_plan_249 : decode cX2_plan 249 = .ok (.iconst (-1), 1) := dk_2 (dk_at dksX2_plan_10 16 rfl rfl)
theorem dX2_plan_250 : decode cX2_plan 250 = .ok (.iastore, 1) := dk_79 (dk_at dksX2_plan_10 17 rfl rfl)
theorem dX2_plan_251 : decode cX2_plan 251 = .ok (.iinc 6 1, 3) := dk_132 6 1 (dk_at dksX2_plan_10 18 rfl rfl)
theorem dX2_plan_254 : decode cX2_plan 254 = .ok (.goto (-15), 3) := dk_167 255 241 (dk_at dksX2_plan_10 21 rfl rfl)
theorem dX2_plan_257 : decode cX2_plan 257 = .ok (.aload 4, 2) := dk_25 4 (dk_at dksX2_plan_11 0 rfl rfl)
theorem dX2_plan_259 : decode cX2_plan 259 = .ok (.areturn, 1) := dk_176 (dk_at dksX2_plan_11 2 rfl rfl)
abbrev cX2_planned : ByteArray := prog_17_method_68_code
def yX2_planned : MethodName := ⟨RX2, "planned", "(III)I"⟩
def dkwX2_planned_2 : List UInt8 := [21, 8, 2, 160, 0, 7, 3, 167, 0, 4, 4, 96, 54, 4, 132, 7, 1, 167, 255, 223, 21, 4, 172]
abbrev dktX2_planned_2 : List UInt8 := dkwX2_planned_2 ++ []
def dkwX2_planned_1 : List UInt8 := [25, 5, 190, 54, 6, 3, 54, 7, 21, 7, 21, 6, 162, 0, 32, 25, 5, 21, 7, 46, 54, 8, 21, 4]
abbrev dktX2_planned_1 : List UInt8 := dkwX2_planned_1 ++ dktX2_planned_2
def dkwX2_planned_0 : List UInt8 := [42, 27, 28, 29, 182, 1, 99, 153, 0, 5, 3, 172, 3, 54, 4, 42, 27, 28, 29, 182, 1, 103, 58, 5]
abbrev dktX2_planned_0 : List UInt8 := dkwX2_planned_0 ++ dktX2_planned_1
theorem dksX2_planned_0 : cX2_planned.data.toList.drop 0 = dktX2_planned_0 := by decide +kernel
theorem dksX2_planned_1 : cX2_planned.data.toList.drop 24 = dktX2_planned_1 := dk_seg dksX2_planned_0 24 rfl rfl
theorem dksX2_planned_2 : cX2_planned.data.toList.drop 48 = dktX2_planned_2 := dk_seg dksX2_planned_1 24 rfl rfl
theorem dX2_planned_0 : decode cX2_planned 0 = .ok (.aload_n 0, 1) := dk_42 (dk_at dksX2_planned_0 0 rfl rfl)
theorem dX2_planned_1 : decode cX2_planned 1 = .ok (.iload_n 1, 1) := dk_27 (dk_at dksX2_planned_0 1 rfl rfl)
theorem dX2_planned_2 : decode cX2_planned 2 = .ok (.iload_n 2, 1) := dk_28 (dk_at dksX2_planned_0 2 rfl rfl)
theorem dX2_planned_3 : decode cX2_planned 3 = .ok (.iload_n 3, 1) := dk_29 (dk_at dksX2_planned_0 3 rfl rfl)
theorem dX2_planned_4 : decode cX2_planned 4 = .ok (.invokevirtual 355, 3) := dk_182 1 99 (dk_at dksX2_planned_0 4 rfl rfl)
theorem dX2_planned_7 : decode cX2_planned 7 = .ok (.ifCond .eq 5, 3) := dk_153 0 5 (dk_at dksX2_planned_0 7 rfl rfl)
theorem dX2_planned_10 : decode cX2_planned 10 = .ok (.iconst 0, 1) := dk_3 (dk_at dksX2_planned_0 10 rfl rfl)
theorem dX2_planned_11 : decode cX2_planned 11 = .ok (.ireturn, 1) := dk_172 (dk_at dksX2_planned_0 11 rfl rfl)
theorem dX2_planned_12 : decode cX2_planned 12 = .ok (.iconst 0, 1) := dk_3 (dk_at dksX2_planned_0 12 rfl rfl)
theorem dX2_planned_13 : decode cX2_planned 13 = .ok (.istore 4, 2) := dk_54 4 (dk_at dksX2_planned_0 13 rfl rfl)
theorem dX2_planned_15 : decode cX2_planned 15 = .ok (.aload_n 0, 1) := dk_42 (dk_at dksX2_planned_0 15 rfl rfl)
theorem dX2_planned_16 : decode cX2_planned 16 = .ok (.iload_n 1, 1) := dk_27 (dk_at dksX2_planned_0 16 rfl rfl)
theorem dX2_planned_17 : decode cX2_planned 17 = .ok (.iload_n 2, 1) := dk_28 (dk_at dksX2_planned_0 17 rfl rfl)
theorem dX2_planned_18 : decode cX2_planned 18 = .ok (.iload_n 3, 1) := dk_29 (dk_at dksX2_planned_0 18 rfl rfl)
theorem dX2_planned_19 : decode cX2_planned 19 = .ok (.invokevirtual 359, 3) := dk_182 1 103 (dk_at dksX2_planned_0 19 rfl rfl)
theorem dX2_planned_22 : decode cX2_planned 22 = .ok (.astore 5, 2) := dk_58 5 (dk_at dksX2_planned_0 22 rfl rfl)
theorem dX2_planned_24 : decode cX2_planned 24 = .ok (.aload 5, 2) := dk_25 5 (dk_at dksX2_planned_1 0 rfl rfl)
theorem dX2_planned_26 : decode cX2_planned 26 = .ok (.arraylength, 1) := dk_190 (dk_at dksX2_planned_1 2 rfl rfl)
theorem dX2_planned_27 : decode cX2_planned 27 = .ok (.istore 6, 2) := dk_54 6 (dk_at dksX2_planned_1 3 rfl rfl)
theorem dX2_planned_29 : decode cX2_planned 29 = .ok (.iconst 0, 1) := dk_3 (dk_at dksX2_planned_1 5 rfl rfl)
theorem dX2_planned_30 : decode cX2_planned 30 = .ok (.istore 7, 2) := dk_54 7 (dk_at dksX2_planned_1 6 rfl rfl)
theorem dX2_planned_32 : decode cX2_planned 32 = .ok (.iload 7, 2) := dk_21 7 (dk_at dksX2_planned_1 8 rfl rfl)
theorem dX2_planned_34 : decode cX2_planned 34 = .ok (.iload 6, 2) := dk_21 6 (dk_at dksX2_planned_1 10 rfl rfl)
theorem dX2_planned_36 : decode cX2_planned 36 = .ok (.if_icmp .ge 32, 3) := dk_162 0 32 (dk_at dksX2_planned_1 12 rfl rfl)
theorem dX2_planned_39 : decode cX2_planned 39 = .ok (.aload 5, 2) := dk_25 5 (dk_at dksX2_planned_1 15 rfl rfl)
theorem dX2_planned_41 : decode cX2_planned 41 = .ok (.iload 7, 2) := dk_21 7 (dk_at dksX2_planned_1 17 rfl rfl)
theorem dX2_planned_43 : decode cX2_planned 43 = .ok (.iaload, 1) := dk_46 (dk_at dksX2_planned_1 19 rfl rfl)
theorem dX2_planned_44 : decode cX2_planned 44 = .ok (.istore 8, 2) := dk_54 8 (dk_at dksX2_planned_1 20 rfl rfl)
theorem dX2_planned_46 : decode cX2_planned 46 = .ok (.iload 4, 2) := dk_21 4 (dk_at dksX2_planned_1 22 rfl rfl)
theorem dX2_planned_48 : decode cX2_planned 48 = .ok (.iload 8, 2) := dk_21 8 (dk_at dksX2_planned_2 0 rfl rfl)
theorem dX2_planned_50 : decode cX2_planned 50 = .ok (.iconst (-1), 1) := dk_2 (dk_at dksX2_planned_2 2 rfl rfl)
theorem dX2_planned_51 : decode cX2_planned 51 = .ok (.if_icmp .ne 7, 3) := dk_160 0 7 (dk_at dksX2_planned_2 3 rfl rfl)
theorem dX2_planned_54 : decode cX2_planned 54 = .ok (.iconst 0, 1) := dk_3 (dk_at dksX2_planned_2 6 rfl rfl)
theorem dX2_planned_55 : decode cX2_planned 55 = .ok (.goto 4, 3) := dk_167 0 4 (dk_at dksX2_planned_2 7 rfl rfl)
theorem dX2_planned_58 : decode cX2_planned 58 = .ok (.iconst 1, 1) := dk_4 (dk_at dksX2_planned_2 10 rfl rfl)
theorem dX2_planned_59 : decode cX2_planned 59 = .ok (.iadd, 1) := dk_96 (dk_at dksX2_planned_2 11 rfl rfl)
theorem dX2_planned_60 : decode cX2_planned 60 = .ok (.istore 4, 2) := dk_54 4 (dk_at dksX2_planned_2 12 rfl rfl)
theorem dX2_planned_62 : decode cX2_planned 62 = .ok (.iinc 7 1, 3) := dk_132 7 1 (dk_at dksX2_planned_2 14 rfl rfl)
theorem dX2_planned_65 : decode cX2_planned 65 = .ok (.goto (-33), 3) := dk_167 255 223 (dk_at dksX2_planned_2 17 rfl rfl)
theorem dX2_planned_68 : decode cX2_planned 68 = .ok (.iload 4, 2) := dk_21 4 (dk_at dksX2_planned_2 20 rfl rfl)
theorem dX2_planned_70 : decode cX2_planned 70 = .ok (.ireturn, 1) := dk_172 (dk_at dksX2_planned_2 22 rfl rfl)
abbrev cX2_prior : ByteArray := prog_17_method_69_code
def yX2_prior : MethodName := ⟨RX2, "prior", "(III)I"⟩
def dkwX2_prior_4 : List UInt8 := [21, 5, 172]
abbrev dktX2_prior_4 : List UInt8 := dkwX2_prior_4 ++ []
def dkwX2_prior_3 : List UInt8 := [158, 0, 5, 3, 172, 25, 4, 180, 1, 110, 54, 5, 25, 4, 28, 181, 1, 110, 25, 4, 29, 181, 1, 113]
abbrev dktX2_prior_3 : List UInt8 := dkwX2_prior_3 ++ dktX2_prior_4
def dkwX2_prior_2 : List UInt8 := [5, 167, 0, 16, 25, 4, 180, 1, 107, 158, 0, 7, 6, 167, 0, 4, 3, 181, 0, 44, 42, 180, 0, 44]
abbrev dktX2_prior_2 : List UInt8 := dkwX2_prior_2 ++ dktX2_prior_3
def dkwX2_prior_1 : List UInt8 := [28, 133, 10, 20, 1, 52, 184, 0, 52, 153, 0, 15, 29, 133, 10, 20, 1, 52, 184, 0, 52, 154, 0, 7]
abbrev dktX2_prior_1 : List UInt8 := dkwX2_prior_1 ++ dktX2_prior_2
def dkwX2_prior_0 : List UInt8 := [42, 27, 182, 0, 185, 153, 0, 5, 3, 172, 42, 180, 0, 19, 27, 182, 0, 68, 192, 0, 64, 58, 4, 42]
abbrev dktX2_prior_0 : List UInt8 := dkwX2_prior_0 ++ dktX2_prior_1
theorem dksX2_prior_0 : cX2_prior.data.toList.drop 0 = dktX2_prior_0 := by decide +kernel
theorem dksX2_prior_1 : cX2_prior.data.toList.drop 24 = dktX2_prior_1 := dk_seg dksX2_prior_0 24 rfl rfl
theorem dksX2_prior_2 : cX2_prior.data.toList.drop 48 = dktX2_prior_2 := dk_seg dksX2_prior_1 24 rfl rfl
theorem dksX2_prior_3 : cX2_prior.data.toList.drop 72 = dktX2_prior_3 := dk_seg dksX2_prior_2 24 rfl rfl
theorem dksX2_prior_4 : cX2_prior.data.toList.drop 96 = dktX2_prior_4 := dk_seg dksX2_prior_3 24 rfl rfl
theorem dX2_prior_0 : decode cX2_prior 0 = .ok (.aload_n 0, 1) := dk_42 (dk_at dksX2_prior_0 0 rfl rfl)
theorem dX2_prior_1 : decode cX2_prior 1 = .ok (.iload_n 1, 1) := dk_27 (dk_at dksX2_prior_0 1 rfl rfl)
theorem dX2_prior_2 : decode cX2_prior 2 = .ok (.invokevirtual 185, 3) := dk_182 0 185 (dk_at dksX2_prior_0 2 rfl rfl)
theorem dX2_prior_5 : decode cX2_prior 5 = .ok (.ifCond .eq 5, 3) := dk_153 0 5 (dk_at dksX2_prior_0 5 rfl rfl)
theorem dX2_prior_8 : decode cX2_prior 8 = .ok (.iconst 0, 1) := dk_3 (dk_at dksX2_prior_0 8 rfl rfl)
theorem dX2_prior_9 : decode cX2_prior 9 = .ok (.ireturn, 1) := dk_172 (dk_at dksX2_prior_0 9 rfl rfl)
theorem dX2_prior_10 : decode cX2_prior 10 = .ok (.aload_n 0, 1) := dk_42 (dk_at dksX2_prior_0 10 rfl rfl)
theorem dX2_prior_11 : decode cX2_prior 11 = .ok (.getfield 19, 3) := dk_180 0 19 (dk_at dksX2_prior_0 11 rfl rfl)
theorem dX2_prior_14 : decode cX2_prior 14 = .ok (.iload_n 1, 1) := dk_27 (dk_at dksX2_prior_0 14 rfl rfl)
theorem dX2_prior_15 : decode cX2_prior 15 = .ok (.invokevirtual 68, 3) := dk_182 0 68 (dk_at dksX2_prior_0 15 rfl rfl)
theorem dX2_prior_18 : decode cX2_prior 18 = .ok (.checkcast 64, 3) := dk_192 0 64 (dk_at dksX2_prior_0 18 rfl rfl)
theorem dX2_prior_21 : decode cX2_prior 21 = .ok (.astore 4, 2) := dk_58 4 (dk_at dksX2_prior_0 21 rfl rfl)
theorem dX2_prior_23 : decode cX2_prior 23 = .ok (.aload_n 0, 1) := dk_42 (dk_at dksX2_prior_0 23 rfl rfl)
theorem dX2_prior_24 : decode cX2_prior 24 = .ok (.iload_n 2, 1) := dk_28 (dk_at dksX2_prior_1 0 rfl rfl)
theorem dX2_prior_25 : decode cX2_prior 25 = .ok (.i2l, 1) := dk_133 (dk_at dksX2_prior_1 1 rfl rfl)
theorem dX2_prior_26 : decode cX2_prior 26 = .ok (.lconst 1, 1) := dk_10 (dk_at dksX2_prior_1 2 rfl rfl)
theorem dX2_prior_27 : decode cX2_prior 27 = .ok (.ldc2_w 308, 3) := dk_20 1 52 (dk_at dksX2_prior_1 3 rfl rfl)
theorem dX2_prior_30 : decode cX2_prior 30 = .ok (.invokestatic 52, 3) := dk_184 0 52 (dk_at dksX2_prior_1 6 rfl rfl)
theorem dX2_prior_33 : decode cX2_prior 33 = .ok (.ifCond .eq 15, 3) := dk_153 0 15 (dk_at dksX2_prior_1 9 rfl rfl)
theorem dX2_prior_36 : decode cX2_prior 36 = .ok (.iload_n 3, 1) := dk_29 (dk_at dksX2_prior_1 12 rfl rfl)
theorem dX2_prior_37 : decode cX2_prior 37 = .ok (.i2l, 1) := dk_133 (dk_at dksX2_prior_1 13 rfl rfl)
theorem dX2_prior_38 : decode cX2_prior 38 = .ok (.lconst 1, 1) := dk_10 (dk_at dksX2_prior_1 14 rfl rfl)
theorem dX2_prior_39 : decode cX2_prior 39 = .ok (.ldc2_w 308, 3) := dk_20 1 52 (dk_at dksX2_prior_1 15 rfl rfl)
theorem dX2_prior_42 : decode cX2_prior 42 = .ok (.invokestatic 52, 3) := dk_184 0 52 (dk_at dksX2_prior_1 18 rfl rfl)
theorem dX2_prior_45 : decode cX2_prior 45 = .ok (.ifCond .ne 7, 3) := dk_154 0 7 (dk_at dksX2_prior_1 21 rfl rfl)
theorem dX2_prior_48 : decode cX2_prior 48 = .ok (.iconst 2, 1) := dk_5 (dk_at dksX2_prior_2 0 rfl rfl)
theorem dX2_prior_49 : decode cX2_prior 49 = .ok (.goto 16, 3) := dk_167 0 16 (dk_at dksX2_prior_2 1 rfl rfl)
theorem dX2_prior_52 : decode cX2_prior 52 = .ok (.aload 4, 2) := dk_25 4 (dk_at dksX2_prior_2 4 rfl rfl)
theorem dX2_prior_54 : decode cX2_prior 54 = .ok (.getfield 363, 3) := dk_180 1 107 (dk_at dksX2_prior_2 6 rfl rfl)
theorem dX2_prior_57 : decode cX2_prior 57 = .ok (.ifCond .le 7, 3) := dk_158 0 7 (dk_at dksX2_prior_2 9 rfl rfl)
theorem dX2_prior_60 : decode cX2_prior 60 = .ok (.iconst 3, 1) := dk_6 (dk_at dksX2_prior_2 12 rfl rfl)
theorem dX2_prior_61 : decode cX2_prior 61 = .ok (.goto 4, 3) := dk_167 0 4 (dk_at dksX2_prior_2 13 rfl rfl)
theorem dX2_prior_64 : decode cX2_prior 64 = .ok (.iconst 0, 1) := dk_3 (dk_at dksX2_prior_2 16 rfl rfl)
theorem dX2_prior_65 : decode cX2_prior 65 = .ok (.putfield 44, 3) := dk_181 0 44 (dk_at dksX2_prior_2 17 rfl rfl)
theorem dX2_prior_68 : decode cX2_prior 68 = .ok (.aload_n 0, 1) := dk_42 (dk_at dksX2_prior_2 20 rfl rfl)
theorem dX2_prior_69 : decode cX2_prior 69 = .ok (.getfield 44, 3) := dk_180 0 44 (dk_at dksX2_prior_2 21 rfl rfl)
theorem dX2_prior_72 : decode cX2_prior 72 = .ok (.ifCond .le 5, 3) := dk_158 0 5 (dk_at dksX2_prior_3 0 rfl rfl)
theorem dX2_prior_75 : decode cX2_prior 75 = .ok (.iconst 0, 1) := dk_3 (dk_at dksX2_prior_3 3 rfl rfl)
theorem dX2_prior_76 : decode cX2_prior 76 = .ok (.ireturn, 1) := dk_172 (dk_at dksX2_prior_3 4 rfl rfl)
theorem dX2_prior_77 : decode cX2_prior 77 = .ok (.aload 4, 2) := dk_25 4 (dk_at dksX2_prior_3 5 rfl rfl)
theorem dX2_prior_79 : decode cX2_prior 79 = .ok (.getfield 366, 3) := dk_180 1 110 (dk_at dksX2_prior_3 7 rfl rfl)
theorem dX2_prior_82 : decode cX2_prior 82 = .ok (.istore 5, 2) := dk_54 5 (dk_at dksX2_prior_3 10 rfl rfl)
theorem dX2_prior_84 : decode cX2_prior 84 = .ok (.aload 4, 2) := dk_25 4 (dk_at dksX2_prior_3 12 rfl rfl)
theorem dX2_prior_86 : decode cX2_prior 86 = .ok (.iload_n 2, 1) := dk_28 (dk_at dksX2_prior_3 14 rfl rfl)
theorem dX2_prior_87 : decode cX2_prior 87 = .ok (.putfield 366, 3) := dk_181 1 110 (dk_at dksX2_prior_3 15 rfl rfl)
theorem dX2_prior_90 : decode cX2_prior 90 = .ok (.aload 4, 2) := dk_25 4 (dk_at dksX2_prior_3 18 rfl rfl)
theorem dX2_prior_92 : decode cX2_prior 92 = .ok (.iload_n 3, 1) := dk_29 (dk_at dksX2_prior_3 20 rfl rfl)
theorem dX2_prior_93 : decode cX2_prior 93 = .ok (.putfield 369, 3) := dk_181 1 113 (dk_at dksX2_prior_3 21 rfl rfl)
theorem dX2_prior_96 : decode cX2_prior 96 = .ok (.iload 5, 2) := dk_21 5 (dk_at dksX2_prior_4 0 rfl rfl)
theorem dX2_prior_98 : decode cX2_prior 98 = .ok (.ireturn, 1) := dk_172 (dk_at dksX2_prior_4 2 rfl rfl)
abbrev cX2_test : ByteArray := prog_17_method_70_code
def yX2_test : MethodName := ⟨RX2, "test", "(IIIZ)I"⟩
def dkwX2_test_6 : List UInt8 := [25, 5, 180, 1, 107, 172]
abbrev dktX2_test_6 : List UInt8 := dkwX2_test_6 ++ []
def dkwX2_test_5 : List UInt8 := [167, 0, 8, 16, 100, 29, 100, 133, 105, 181, 1, 120, 25, 5, 89, 180, 1, 107, 4, 96, 181, 1, 107]
abbrev dktX2_test_5 : List UInt8 := dkwX2_test_5 ++ dktX2_test_6
def dkwX2_test_4 : List UInt8 := [16, 100, 28, 100, 133, 105, 181, 1, 116, 25, 5, 89, 180, 1, 120, 21, 4, 153, 0, 8, 29, 133]
abbrev dktX2_test_4 : List UInt8 := dkwX2_test_4 ++ dktX2_test_5
def dkwX2_test_3 : List UInt8 := [180, 0, 44, 158, 0, 5, 3, 172, 25, 5, 89, 180, 1, 116, 21, 4, 153, 0, 8, 28, 133, 167, 0, 8]
abbrev dktX2_test_3 : List UInt8 := dkwX2_test_3 ++ dktX2_test_4
def dkwX2_test_2 : List UInt8 := [5, 167, 0, 18, 25, 5, 180, 1, 107, 16, 8, 160, 0, 7, 6, 167, 0, 4, 3, 181, 0, 44, 42]
abbrev dktX2_test_2 : List UInt8 := dkwX2_test_2 ++ dktX2_test_3
def dkwX2_test_1 : List UInt8 := [28, 133, 10, 20, 1, 52, 184, 0, 52, 153, 0, 15, 29, 133, 10, 20, 1, 52, 184, 0, 52, 154, 0, 7]
abbrev dktX2_test_1 : List UInt8 := dkwX2_test_1 ++ dktX2_test_2
def dkwX2_test_0 : List UInt8 := [42, 27, 182, 0, 185, 153, 0, 5, 3, 172, 42, 180, 0, 19, 27, 182, 0, 68, 192, 0, 64, 58, 5, 42]
abbrev dktX2_test_0 : List UInt8 := dkwX2_test_0 ++ dktX2_test_1
theorem dksX2_test_0 : cX2_test.data.toList.drop 0 = dktX2_test_0 := by decide +kernel
theorem dksX2_test_1 : cX2_test.data.toList.drop 24 = dktX2_test_1 := dk_seg dksX2_test_0 24 rfl rfl
theorem dksX2_test_2 : cX2_test.data.toList.drop 48 = dktX2_test_2 := dk_seg dksX2_test_1 24 rfl rfl
theorem dksX2_test_3 : cX2_test.data.toList.drop 71 = dktX2_test_3 := dk_seg dksX2_test_2 23 rfl rfl
theorem dksX2_test_4 : cX2_test.data.toList.drop 95 = dktX2_test_4 := dk_seg dksX2_test_3 24 rfl rfl
theorem dksX2_test_5 : cX2_test.data.toList.drop 117 = dktX2_test_5 := dk_seg dksX2_test_4 22 rfl rfl
theorem dksX2_test_6 : cX2_test.data.toList.drop 140 = dktX2_test_6 := dk_seg dksX2_test_5 23 rfl rfl
theorem dX2_test_0 : decode cX2_test 0 = .ok (.aload_n 0, 1) := dk_42 (dk_at dksX2_test_0 0 rfl rfl)
theorem dX2_test_1 : decode cX2_test 1 = .ok (.iload_n 1, 1) := dk_27 (dk_at dksX2_test_0 1 rfl rfl)
theorem dX2_test_2 : decode cX2_test 2 = .ok (.invokevirtual 185, 3) := dk_182 0 185 (dk_at dksX2_test_0 2 rfl rfl)
theorem dX2_test_5 : decode cX2_test 5 = .ok (.ifCond .eq 5, 3) := dk_153 0 5 (dk_at dksX2_test_0 5 rfl rfl)
theorem dX2_test_8 : decode cX2_test 8 = .ok (.iconst 0, 1) := dk_3 (dk_at dksX2_test_0 8 rfl rfl)
theorem dX2_test_9 : decode cX2_test 9 = .ok (.ireturn, 1) := dk_172 (dk_at dksX2_test_0 9 rfl rfl)
theorem dX2_test_10 : decode cX2_test 10 = .ok (.aload_n 0, 1) := dk_42 (dk_at dksX2_test_0 10 rfl rfl)
theorem dX2_test_11 : decode cX2_test 11 = .ok (.getfield 19, 3) := dk_180 0 19 (dk_at dksX2_test_0 11 rfl rfl)
theorem dX2_test_14 : decode cX2_test 14 = .ok (.iload_n 1, 1) := dk_27 (dk_at dksX2_test_0 14 rfl rfl)
theorem dX2_test_15 : decode cX2_test 15 = .ok (.invokevirtual 68, 3) := dk_182 0 68 (dk_at dksX2_test_0 15 rfl rfl)
theorem dX2_test_18 : decode cX2_test 18 = .ok (.checkcast 64, 3) := dk_192 0 64 (dk_at dksX2_test_0 18 rfl rfl)
theorem dX2_test_21 : decode cX2_test 21 = .ok (.astore 5, 2) := dk_58 5 (dk_at dksX2_test_0 21 rfl rfl)
theorem dX2_test_23 : decode cX2_test 23 = .ok (.aload_n 0, 1) := dk_42 (dk_at dksX2_test_0 23 rfl rfl)
theorem dX2_test_24 : decode cX2_test 24 = .ok (.iload_n 2, 1) := dk_28 (dk_at dksX2_test_1 0 rfl rfl)
theorem dX2_test_25 : decode cX2_test 25 = .ok (.i2l, 1) := dk_133 (dk_at dksX2_test_1 1 rfl rfl)
theorem dX2_test_26 : decode cX2_test 26 = .ok (.lconst 1, 1) := dk_10 (dk_at dksX2_test_1 2 rfl rfl)
theorem dX2_test_27 : decode cX2_test 27 = .ok (.ldc2_w 308, 3) := dk_20 1 52 (dk_at dksX2_test_1 3 rfl rfl)
theorem dX2_test_30 : decode cX2_test 30 = .ok (.invokestatic 52, 3) := dk_184 0 52 (dk_at dksX2_test_1 6 rfl rfl)
theorem dX2_test_33 : decode cX2_test 33 = .ok (.ifCond .eq 15, 3) := dk_153 0 15 (dk_at dksX2_test_1 9 rfl rfl)
theorem dX2_test_36 : decode cX2_test 36 = .ok (.iload_n 3, 1) := dk_29 (dk_at dksX2_test_1 12 rfl rfl)
theorem dX2_test_37 : decode cX2_test 37 = .ok (.i2l, 1) := dk_133 (dk_at dksX2_test_1 13 rfl rfl)
theorem dX2_test_38 : decode cX2_test 38 = .ok (.lconst 1, 1) := dk_10 (dk_at dksX2_test_1 14 rfl rfl)
theorem dX2_test_39 : decode cX2_test 39 = .ok (.ldc2_w 308, 3) := dk_20 1 52 (dk_at dksX2_test_1 15 rfl rfl)
theorem dX2_test_42 : decode cX2_test 42 = .ok (.invokestatic 52, 3) := dk_184 0 52 (dk_at dksX2_test_1 18 rfl rfl)
theorem dX2_test_45 : decode cX2_test 45 = .ok (.ifCond .ne 7, 3) := dk_154 0 7 (dk_at dksX2_test_1 21 rfl rfl)
theorem dX2_test_48 : decode cX2_test 48 = .ok (.iconst 2, 1) := dk_5 (dk_at dksX2_test_2 0 rfl rfl)
theorem dX2_test_49 : decode cX2_test 49 = .ok (.goto 18, 3) := dk_167 0 18 (dk_at dksX2_test_2 1 rfl rfl)
theorem dX2_test_52 : decode cX2_test 52 = .ok (.aload 5, 2) := dk_25 5 (dk_at dksX2_test_2 4 rfl rfl)
theorem dX2_test_54 : decode cX2_test 54 = .ok (.getfield 363, 3) := dk_180 1 107 (dk_at dksX2_test_2 6 rfl rfl)
theorem dX2_test_57 : decode cX2_test 57 = .ok (.bipush 8, 2) := dk_16 8 (dk_at dksX2_test_2 9 rfl rfl)
theorem dX2_test_59 : decode cX2_test 59 = .ok (.if_icmp .ne 7, 3) := dk_160 0 7 (dk_at dksX2_test_2 11 rfl rfl)
theorem dX2_test_62 : decode cX2_test 62 = .ok (.iconst 3, 1) := dk_6 (dk_at dksX2_test_2 14 rfl rfl)
theorem dX2_test_63 : decode cX2_test 63 = .ok (.goto 4, 3) := dk_167 0 4 (dk_at dksX2_test_2 15 rfl rfl)
theorem dX2_test_66 : decode cX2_test 66 = .ok (.iconst 0, 1) := dk_3 (dk_at dksX2_test_2 18 rfl rfl)
theorem dX2_test_67 : decode cX2_test 67 = .ok (.putfield 44, 3) := dk_181 0 44 (dk_at dksX2_test_2 19 rfl rfl)
theorem dX2_test_70 : decode cX2_test 70 = .ok (.aload_n 0, 1) := dk_42 (dk_at dksX2_test_2 22 rfl rfl)
theorem dX2_test_71 : decode cX2_test 71 = .ok (.getfield 44, 3) := dk_180 0 44 (dk_at dksX2_test_3 0 rfl rfl)
theorem dX2_test_74 : decode cX2_test 74 = .ok (.ifCond .le 5, 3) := dk_158 0 5 (dk_at dksX2_test_3 3 rfl rfl)
theorem dX2_test_77 : decode cX2_test 77 = .ok (.iconst 0, 1) := dk_3 (dk_at dksX2_test_3 6 rfl rfl)
theorem dX2_test_78 : decode cX2_test 78 = .ok (.ireturn, 1) := dk_172 (dk_at dksX2_test_3 7 rfl rfl)
theorem dX2_test_79 : decode cX2_test 79 = .ok (.aload 5, 2) := dk_25 5 (dk_at dksX2_test_3 8 rfl rfl)
theorem dX2_test_81 : decode cX2_test 81 = .ok (.dup, 1) := dk_89 (dk_at dksX2_test_3 10 rfl rfl)
theorem dX2_test_82 : decode cX2_test 82 = .ok (.getfield 372, 3) := dk_180 1 116 (dk_at dksX2_test_3 11 rfl rfl)
theorem dX2_test_85 : decode cX2_test 85 = .ok (.iload 4, 2) := dk_21 4 (dk_at dksX2_test_3 14 rfl rfl)
theorem dX2_test_87 : decode cX2_test 87 = .ok (.ifCond .eq 8, 3) := dk_153 0 8 (dk_at dksX2_test_3 16 rfl rfl)
theorem dX2_test_90 : decode cX2_test 90 = .ok (.iload_n 2, 1) := dk_28 (dk_at dksX2_test_3 19 rfl rfl)
theorem dX2_test_91 : decode cX2_test 91 = .ok (.i2l, 1) := dk_133 (dk_at dksX2_test_3 20 rfl rfl)
theorem dX2_test_92 : decode cX2_test 92 = .ok (.goto 8, 3) := dk_167 0 8 (dk_at dksX2_test_3 21 rfl rfl)
theorem dX2_test_95 : decode cX2_test 95 = .ok (.bipush 100, 2) := dk_16 100 (dk_at dksX2_test_4 0 rfl rfl)
theorem dX2_test_97 : decode cX2_test 97 = .ok (.iload_n 2, 1) := dk_28 (dk_at dksX2_test_4 2 rfl rfl)
theorem dX2_test_98 : decode cX2_test 98 = .ok (.isub, 1) := dk_100 (dk_at dksX2_test_4 3 rfl rfl)
theorem dX2_test_99 : decode cX2_test 99 = .ok (.i2l, 1) := dk_133 (dk_at dksX2_test_4 4 rfl rfl)
theorem dX2_test_100 : decode cX2_test 100 = .ok (.lmul, 1) := dk_105 (dk_at dksX2_test_4 5 rfl rfl)
theorem dX2_test_101 : decode cX2_test 101 = .ok (.putfield 372, 3) := dk_181 1 116 (dk_at dksX2_test_4 6 rfl rfl)
theorem dX2_test_104 : decode cX2_test 104 = .ok (.aload 5, 2) := dk_25 5 (dk_at dksX2_test_4 9 rfl rfl)
theorem dX2_test_106 : decode cX2_test 106 = .ok (.dup, 1) := dk_89 (dk_at dksX2_test_4 11 rfl rfl)
theorem dX2_test_107 : decode cX2_test 107 = .ok (.getfield 376, 3) := dk_180 1 120 (dk_at dksX2_test_4 12 rfl rfl)
theorem dX2_test_110 : decode cX2_test 110 = .ok (.iload 4, 2) := dk_21 4 (dk_at dksX2_test_4 15 rfl rfl)
theorem dX2_test_112 : decode cX2_test 112 = .ok (.ifCond .eq 8, 3) := dk_153 0 8 (dk_at dksX2_test_4 17 rfl rfl)
theorem dX2_test_115 : decode cX2_test 115 = .ok (.iload_n 3, 1) := dk_29 (dk_at dksX2_test_4 20 rfl rfl)
theorem dX2_test_116 : decode cX2_test 116 = .ok (.i2l, 1) := dk_133 (dk_at dksX2_test_4 21 rfl rfl)
theorem dX2_test_117 : decode cX2_test 117 = .ok (.goto 8, 3) := dk_167 0 8 (dk_at dksX2_test_5 0 rfl rfl)
theorem dX2_test_120 : decode cX2_test 120 = .ok (.bipush 100, 2) := dk_16 100 (dk_at dksX2_test_5 3 rfl rfl)
theorem dX2_test_122 : decode cX2_test 122 = .ok (.iload_n 3, 1) := dk_29 (dk_at dksX2_test_5 5 rfl rfl)
theorem dX2_test_123 : decode cX2_test 123 = .ok (.isub, 1) := dk_100 (dk_at dksX2_test_5 6 rfl rfl)
theorem dX2_test_124 : decode cX2_test 124 = .ok (.i2l, 1) := dk_133 (dk_at dksX2_test_5 7 rfl rfl)
theorem dX2_test_125 : decode cX2_test 125 = .ok (.lmul, 1) := dk_105 (dk_at dksX2_test_5 8 rfl rfl)
theorem dX2_test_126 : decode cX2_test 126 = .ok (.putfield 376, 3) := dk_181 1 120 (dk_at dksX2_test_5 9 rfl rfl)
theorem dX2_test_129 : decode cX2_test 129 = .ok (.aload 5, 2) := dk_25 5 (dk_at dksX2_test_5 12 rfl rfl)
theorem dX2_test_131 : decode cX2_test 131 = .ok (.dup, 1) := dk_89 (dk_at dksX2_test_5 14 rfl rfl)
theorem dX2_test_132 : decode cX2_test 132 = .ok (.getfield 363, 3) := dk_180 1 107 (dk_at dksX2_test_5 15 rfl rfl)
theorem dX2_test_135 : decode cX2_test 135 = .ok (.iconst 1, 1) := dk_4 (dk_at dksX2_test_5 18 rfl rfl)
theorem dX2_test_136 : decode cX2_test 136 = .ok (.iadd, 1) := dk_96 (dk_at dksX2_test_5 19 rfl rfl)
theorem dX2_test_137 : decode cX2_test 137 = .ok (.putfield 363, 3) := dk_181 1 107 (dk_at dksX2_test_5 20 rfl rfl)
theorem dX2_test_140 : decode cX2_test 140 = .ok (.aload 5, 2) := dk_25 5 (dk_at dksX2_test_6 0 rfl rfl)
theorem dX2_test_142 : decode cX2_test 142 = .ok (.getfield 363, 3) := dk_180 1 107 (dk_at dksX2_test_6 2 rfl rfl)
theorem dX2_test_145 : decode cX2_test 145 = .ok (.ireturn, 1) := dk_172 (dk_at dksX2_test_6 5 rfl rfl)
abbrev cX2_oddsFor : ByteArray := prog_17_method_74_code
def yX2_oddsFor : MethodName := ⟨RX2, "oddsFor", "(I)J"⟩
def dkwX2_oddsFor_1 : List UInt8 := [184, 1, 127, 173]
abbrev dktX2_oddsFor_1 : List UInt8 := dkwX2_oddsFor_1 ++ []
def dkwX2_oddsFor_0 : List UInt8 := [42, 27, 182, 0, 185, 153, 0, 7, 9, 167, 0, 18, 42, 180, 0, 19, 27, 182, 0, 68, 192, 0, 64, 4]
abbrev dktX2_oddsFor_0 : List UInt8 := dkwX2_oddsFor_0 ++ dktX2_oddsFor_1
theorem dksX2_oddsFor_0 : cX2_oddsFor.data.toList.drop 0 = dktX2_oddsFor_0 := by decide +kernel
theorem dksX2_oddsFor_1 : cX2_oddsFor.data.toList.drop 24 = dktX2_oddsFor_1 := dk_seg dksX2_oddsFor_0 24 rfl rfl
theorem dX2_oddsFor_0 : decode cX2_oddsFor 0 = .ok (.aload_n 0, 1) := dk_42 (dk_at dksX2_oddsFor_0 0 rfl rfl)
theorem dX2_oddsFor_1 : decode cX2_oddsFor 1 = .ok (.iload_n 1, 1) := dk_27 (dk_at dksX2_oddsFor_0 1 rfl rfl)
theorem dX2_oddsFor_2 : decode cX2_oddsFor 2 = .ok (.invokevirtual 185, 3) := dk_182 0 185 (dk_at dksX2_oddsFor_0 2 rfl rfl)
theorem dX2_oddsFor_5 : decode cX2_oddsFor 5 = .ok (.ifCond .eq 7, 3) := dk_153 0 7 (dk_at dksX2_oddsFor_0 5 rfl rfl)
theorem dX2_oddsFor_8 : decode cX2_oddsFor 8 = .ok (.lconst 0, 1) := dk_9 (dk_at dksX2_oddsFor_0 8 rfl rfl)
theorem dX2_oddsFor_9 : decode cX2_oddsFor 9 = .ok (.goto 18, 3) := dk_167 0 18 (dk_at dksX2_oddsFor_0 9 rfl rfl)
theorem dX2_oddsFor_12 : decode cX2_oddsFor 12 = .ok (.aload_n 0, 1) := dk_42 (dk_at dksX2_oddsFor_0 12 rfl rfl)
theorem dX2_oddsFor_13 : decode cX2_oddsFor 13 = .ok (.getfield 19, 3) := dk_180 0 19 (dk_at dksX2_oddsFor_0 13 rfl rfl)
theorem dX2_oddsFor_16 : decode cX2_oddsFor 16 = .ok (.iload_n 1, 1) := dk_27 (dk_at dksX2_oddsFor_0 16 rfl rfl)
theorem dX2_oddsFor_17 : decode cX2_oddsFor 17 = .ok (.invokevirtual 68, 3) := dk_182 0 68 (dk_at dksX2_oddsFor_0 17 rfl rfl)
theorem dX2_oddsFor_20 : decode cX2_oddsFor 20 = .ok (.checkcast 64, 3) := dk_192 0 64 (dk_at dksX2_oddsFor_0 20 rfl rfl)
theorem dX2_oddsFor_23 : decode cX2_oddsFor 23 = .ok (.iconst 1, 1) := dk_4 (dk_at dksX2_oddsFor_0 23 rfl rfl)
theorem dX2_oddsFor_24 : decode cX2_oddsFor 24 = .ok (.invokestatic 383, 3) := dk_184 1 127 (dk_at dksX2_oddsFor_1 0 rfl rfl)
theorem dX2_oddsFor_27 : decode cX2_oddsFor 27 = .ok (.lreturn, 1) := dk_173 (dk_at dksX2_oddsFor_1 3 rfl rfl)
abbrev cX2_odds : ByteArray := prog_17_method_72_code
def yX2_odds : MethodName := ⟨RX2, "odds", "(LVaultyardModel$Thing;Z)J"⟩
def dkwX2_odds_1 : List UInt8 := [153, 0, 7, 32, 167, 0, 5, 22, 4, 32, 22, 4, 184, 1, 123, 109, 173]
abbrev dktX2_odds_1 : List UInt8 := dkwX2_odds_1 ++ []
def dkwX2_odds_0 : List UInt8 := [42, 180, 1, 116, 42, 180, 1, 110, 133, 105, 65, 42, 180, 1, 120, 42, 180, 1, 113, 133, 105, 55, 4, 27]
abbrev dktX2_odds_0 : List UInt8 := dkwX2_odds_0 ++ dktX2_odds_1
theorem dksX2_odds_0 : cX2_odds.data.toList.drop 0 = dktX2_odds_0 := by decide +kernel
theorem dksX2_odds_1 : cX2_odds.data.toList.drop 24 = dktX2_odds_1 := dk_seg dksX2_odds_0 24 rfl rfl
theorem dX2_odds_0 : decode cX2_odds 0 = .ok (.aload_n 0, 1) := dk_42 (dk_at dksX2_odds_0 0 rfl rfl)
theorem dX2_odds_1 : decode cX2_odds 1 = .ok (.getfield 372, 3) := dk_180 1 116 (dk_at dksX2_odds_0 1 rfl rfl)
theorem dX2_odds_4 : decode cX2_odds 4 = .ok (.aload_n 0, 1) := dk_42 (dk_at dksX2_odds_0 4 rfl rfl)
theorem dX2_odds_5 : decode cX2_odds 5 = .ok (.getfield 366, 3) := dk_180 1 110 (dk_at dksX2_odds_0 5 rfl rfl)
theorem dX2_odds_8 : decode cX2_odds 8 = .ok (.i2l, 1) := dk_133 (dk_at dksX2_odds_0 8 rfl rfl)
theorem dX2_odds_9 : decode cX2_odds 9 = .ok (.lmul, 1) := dk_105 (dk_at dksX2_odds_0 9 rfl rfl)
theorem dX2_odds_10 : decode cX2_odds 10 = .ok (.lstore_n 2, 1) := dk_65 (dk_at dksX2_odds_0 10 rfl rfl)
theorem dX2_odds_11 : decode cX2_odds 11 = .ok (.aload_n 0, 1) := dk_42 (dk_at dksX2_odds_0 11 rfl rfl)
theorem dX2_odds_12 : decode cX2_odds 12 = .ok (.getfield 376, 3) := dk_180 1 120 (dk_at dksX2_odds_0 12 rfl rfl)
theorem dX2_odds_15 : decode cX2_odds 15 = .ok (.aload_n 0, 1) := dk_42 (dk_at dksX2_odds_0 15 rfl rfl)
theorem dX2_odds_16 : decode cX2_odds 16 = .ok (.getfield 369, 3) := dk_180 1 113 (dk_at dksX2_odds_0 16 rfl rfl)
theorem dX2_odds_19 : decode cX2_odds 19 = .ok (.i2l, 1) := dk_133 (dk_at dksX2_odds_0 19 rfl rfl)
theorem dX2_odds_20 : decode cX2_odds 20 = .ok (.lmul, 1) := dk_105 (dk_at dksX2_odds_0 20 rfl rfl)
theorem dX2_odds_21 : decode cX2_odds 21 = .ok (.lstore 4, 2) := dk_55 4 (dk_at dksX2_odds_0 21 rfl rfl)
theorem dX2_odds_23 : decode cX2_odds 23 = .ok (.iload_n 1, 1) := dk_27 (dk_at dksX2_odds_0 23 rfl rfl)
theorem dX2_odds_24 : decode cX2_odds 24 = .ok (.ifCond .eq 7, 3) := dk_153 0 7 (dk_at dksX2_odds_1 0 rfl rfl)
theorem dX2_odds_27 : decode cX2_odds 27 = .ok (.lload_n 2, 1) := dk_32 (dk_at dksX2_odds_1 3 rfl rfl)
theorem dX2_odds_28 : decode cX2_odds 28 = .ok (.goto 5, 3) := dk_167 0 5 (dk_at dksX2_odds_1 4 rfl rfl)
theorem dX2_odds_31 : decode cX2_odds 31 = .ok (.lload 4, 2) := dk_22 4 (dk_at dksX2_odds_1 7 rfl rfl)
theorem dX2_odds_33 : decode cX2_odds 33 = .ok (.lload_n 2, 1) := dk_32 (dk_at dksX2_odds_1 9 rfl rfl)
theorem dX2_odds_34 : decode cX2_odds 34 = .ok (.lload 4, 2) := dk_22 4 (dk_at dksX2_odds_1 10 rfl rfl)
theorem dX2_odds_36 : decode cX2_odds 36 = .ok (.invokestatic 379, 3) := dk_184 1 123 (dk_at dksX2_odds_1 12 rfl rfl)
theorem dX2_odds_39 : decode cX2_odds 39 = .ok (.ldiv, 1) := dk_109 (dk_at dksX2_odds_1 15 rfl rfl)
theorem dX2_odds_40 : decode cX2_odds 40 = .ok (.lreturn, 1) := dk_173 (dk_at dksX2_odds_1 16 rfl rfl)
abbrev cX2_common : ByteArray := prog_17_method_71_code
def yX2_common : MethodName := ⟨RX2, "common", "(JJ)J"⟩
def dkwX2_common_1 : List UInt8 := [22, 8, 55, 6, 167, 255, 234, 22, 4, 173]
abbrev dktX2_common_1 : List UInt8 := dkwX2_common_1 ++ []
def dkwX2_common_0 : List UInt8 := [30, 55, 4, 32, 55, 6, 22, 6, 9, 148, 153, 0, 21, 22, 4, 22, 6, 113, 55, 8, 22, 6, 55, 4]
abbrev dktX2_common_0 : List UInt8 := dkwX2_common_0 ++ dktX2_common_1
theorem dksX2_common_0 : cX2_common.data.toList.drop 0 = dktX2_common_0 := by decide +kernel
theorem dksX2_common_1 : cX2_common.data.toList.drop 24 = dktX2_common_1 := dk_seg dksX2_common_0 24 rfl rfl
theorem dX2_common_0 : decode cX2_common 0 = .ok (.lload_n 0, 1) := dk_30 (dk_at dksX2_common_0 0 rfl rfl)
theorem dX2_common_1 : decode cX2_common 1 = .ok (.lstore 4, 2) := dk_55 4 (dk_at dksX2_common_0 1 rfl rfl)
theorem dX2_common_3 : decode cX2_common 3 = .ok (.lload_n 2, 1) := dk_32 (dk_at dksX2_common_0 3 rfl rfl)
theorem dX2_common_4 : decode cX2_common 4 = .ok (.lstore 6, 2) := dk_55 6 (dk_at dksX2_common_0 4 rfl rfl)
theorem dX2_common_6 : decode cX2_common 6 = .ok (.lload 6, 2) := dk_22 6 (dk_at dksX2_common_0 6 rfl rfl)
theorem dX2_common_8 : decode cX2_common 8 = .ok (.lconst 0, 1) := dk_9 (dk_at dksX2_common_0 8 rfl rfl)
theorem dX2_common_9 : decode cX2_common 9 = .ok (.lcmp, 1) := dk_148 (dk_at dksX2_common_0 9 rfl rfl)
theorem dX2_common_10 : decode cX2_common 10 = .ok (.ifCond .eq 21, 3) := dk_153 0 21 (dk_at dksX2_common_0 10 rfl rfl)
theorem dX2_common_13 : decode cX2_common 13 = .ok (.lload 4, 2) := dk_22 4 (dk_at dksX2_common_0 13 rfl rfl)
theorem dX2_common_15 : decode cX2_common 15 = .ok (.lload 6, 2) := dk_22 6 (dk_at dksX2_common_0 15 rfl rfl)
theorem dX2_common_17 : decode cX2_common 17 = .ok (.lrem, 1) := dk_113 (dk_at dksX2_common_0 17 rfl rfl)
theorem dX2_common_18 : decode cX2_common 18 = .ok (.lstore 8, 2) := dk_55 8 (dk_at dksX2_common_0 18 rfl rfl)
theorem dX2_common_20 : decode cX2_common 20 = .ok (.lload 6, 2) := dk_22 6 (dk_at dksX2_common_0 20 rfl rfl)
theorem dX2_common_22 : decode cX2_common 22 = .ok (.lstore 4, 2) := dk_55 4 (dk_at dksX2_common_0 22 rfl rfl)
theorem dX2_common_24 : decode cX2_common 24 = .ok (.lload 8, 2) := dk_22 8 (dk_at dksX2_common_1 0 rfl rfl)
theorem dX2_common_26 : decode cX2_common 26 = .ok (.lstore 6, 2) := dk_55 6 (dk_at dksX2_common_1 2 rfl rfl)
theorem dX2_common_28 : decode cX2_common 28 = .ok (.goto (-22), 3) := dk_167 255 234 (dk_at dksX2_common_1 4 rfl rfl)
theorem dX2_common_31 : decode cX2_common 31 = .ok (.lload 4, 2) := dk_22 4 (dk_at dksX2_common_1 7 rfl rfl)
theorem dX2_common_33 : decode cX2_common 33 = .ok (.lreturn, 1) := dk_173 (dk_at dksX2_common_1 9 rfl rfl)
abbrev cX2_oddsAgainst : ByteArray := prog_17_method_75_code
def yX2_oddsAgainst : MethodName := ⟨RX2, "oddsAgainst", "(I)J"⟩
def dkwX2_oddsAgainst_1 : List UInt8 := [184, 1, 127, 173]
abbrev dktX2_oddsAgainst_1 : List UInt8 := dkwX2_oddsAgainst_1 ++ []
def dkwX2_oddsAgainst_0 : List UInt8 := [42, 27, 182, 0, 185, 153, 0, 7, 9, 167, 0, 18, 42, 180, 0, 19, 27, 182, 0, 68, 192, 0, 64, 3]
abbrev dktX2_oddsAgainst_0 : List UInt8 := dkwX2_oddsAgainst_0 ++ dktX2_oddsAgainst_1
theorem dksX2_oddsAgainst_0 : cX2_oddsAgainst.data.toList.drop 0 = dktX2_oddsAgainst_0 := by decide +kernel
theorem dksX2_oddsAgainst_1 : cX2_oddsAgainst.data.toList.drop 24 = dktX2_oddsAgainst_1 := dk_seg dksX2_oddsAgainst_0 24 rfl rfl
theorem dX2_oddsAgainst_0 : decode cX2_oddsAgainst 0 = .ok (.aload_n 0, 1) := dk_42 (dk_at dksX2_oddsAgainst_0 0 rfl rfl)
theorem dX2_oddsAgainst_1 : decode cX2_oddsAgainst 1 = .ok (.iload_n 1, 1) := dk_27 (dk_at dksX2_oddsAgainst_0 1 rfl rfl)
theorem dX2_oddsAgainst_2 : decode cX2_oddsAgainst 2 = .ok (.invokevirtual 185, 3) := dk_182 0 185 (dk_at dksX2_oddsAgainst_0 2 rfl rfl)
theorem dX2_oddsAgainst_5 : decode cX2_oddsAgainst 5 = .ok (.ifCond .eq 7, 3) := dk_153 0 7 (dk_at dksX2_oddsAgainst_0 5 rfl rfl)
theorem dX2_oddsAgainst_8 : decode cX2_oddsAgainst 8 = .ok (.lconst 0, 1) := dk_9 (dk_at dksX2_oddsAgainst_0 8 rfl rfl)
theorem dX2_oddsAgainst_9 : decode cX2_oddsAgainst 9 = .ok (.goto 18, 3) := dk_167 0 18 (dk_at dksX2_oddsAgainst_0 9 rfl rfl)
theorem dX2_oddsAgainst_12 : decode cX2_oddsAgainst 12 = .ok (.aload_n 0, 1) := dk_42 (dk_at dksX2_oddsAgainst_0 12 rfl rfl)
theorem dX2_oddsAgainst_13 : decode cX2_oddsAgainst 13 = .ok (.getfield 19, 3) := dk_180 0 19 (dk_at dksX2_oddsAgainst_0 13 rfl rfl)
theorem dX2_oddsAgainst_16 : decode cX2_oddsAgainst 16 = .ok (.iload_n 1, 1) := dk_27 (dk_at dksX2_oddsAgainst_0 16 rfl rfl)
theorem dX2_oddsAgainst_17 : decode cX2_oddsAgainst 17 = .ok (.invokevirtual 68, 3) := dk_182 0 68 (dk_at dksX2_oddsAgainst_0 17 rfl rfl)
theorem dX2_oddsAgainst_20 : decode cX2_oddsAgainst 20 = .ok (.checkcast 64, 3) := dk_192 0 64 (dk_at dksX2_oddsAgainst_0 20 rfl rfl)
theorem dX2_oddsAgainst_23 : decode cX2_oddsAgainst 23 = .ok (.iconst 0, 1) := dk_3 (dk_at dksX2_oddsAgainst_0 23 rfl rfl)
theorem dX2_oddsAgainst_24 : decode cX2_oddsAgainst 24 = .ok (.invokestatic 383, 3) := dk_184 1 127 (dk_at dksX2_oddsAgainst_1 0 rfl rfl)
theorem dX2_oddsAgainst_27 : decode cX2_oddsAgainst 27 = .ok (.lreturn, 1) := dk_173 (dk_at dksX2_oddsAgainst_1 3 rfl rfl)
abbrev cX2_isFake : ByteArray := prog_17_method_76_code
def yX2_isFake : MethodName := ⟨RX2, "isFake", "(I)Z"⟩
def dkwX2_isFake_1 : List UInt8 := [153, 0, 7, 4, 167, 0, 4, 3, 172]
abbrev dktX2_isFake_1 : List UInt8 := dkwX2_isFake_1 ++ []
def dkwX2_isFake_0 : List UInt8 := [42, 27, 182, 0, 185, 154, 0, 24, 42, 180, 0, 19, 27, 182, 0, 68, 192, 0, 64, 184, 1, 131]
abbrev dktX2_isFake_0 : List UInt8 := dkwX2_isFake_0 ++ dktX2_isFake_1
theorem dksX2_isFake_0 : cX2_isFake.data.toList.drop 0 = dktX2_isFake_0 := by decide +kernel
theorem dksX2_isFake_1 : cX2_isFake.data.toList.drop 22 = dktX2_isFake_1 := dk_seg dksX2_isFake_0 22 rfl rfl
theorem dX2_isFake_0 : decode cX2_isFake 0 = .ok (.aload_n 0, 1) := dk_42 (dk_at dksX2_isFake_0 0 rfl rfl)
theorem dX2_isFake_1 : decode cX2_isFake 1 = .ok (.iload_n 1, 1) := dk_27 (dk_at dksX2_isFake_0 1 rfl rfl)
theorem dX2_isFake_2 : decode cX2_isFake 2 = .ok (.invokevirtual 185, 3) := dk_182 0 185 (dk_at dksX2_isFake_0 2 rfl rfl)
theorem dX2_isFake_5 : decode cX2_isFake 5 = .ok (.ifCond .ne 24, 3) := dk_154 0 24 (dk_at dksX2_isFake_0 5 rfl rfl)
theorem dX2_isFake_8 : decode cX2_isFake 8 = .ok (.aload_n 0, 1) := dk_42 (dk_at dksX2_isFake_0 8 rfl rfl)
theorem dX2_isFake_9 : decode cX2_isFake 9 = .ok (.getfield 19, 3) := dk_180 0 19 (dk_at dksX2_isFake_0 9 rfl rfl)
theorem dX2_isFake_12 : decode cX2_isFake 12 = .ok (.iload_n 1, 1) := dk_27 (dk_at dksX2_isFake_0 12 rfl rfl)
theorem dX2_isFake_13 : decode cX2_isFake 13 = .ok (.invokevirtual 68, 3) := dk_182 0 68 (dk_at dksX2_isFake_0 13 rfl rfl)
theorem dX2_isFake_16 : decode cX2_isFake 16 = .ok (.checkcast 64, 3) := dk_192 0 64 (dk_at dksX2_isFake_0 16 rfl rfl)
theorem dX2_isFake_19 : decode cX2_isFake 19 = .ok (.invokestatic 387, 3) := dk_184 1 131 (dk_at dksX2_isFake_0 19 rfl rfl)
theorem dX2_isFake_22 : decode cX2_isFake 22 = .ok (.ifCond .eq 7, 3) := dk_153 0 7 (dk_at dksX2_isFake_1 0 rfl rfl)
theorem dX2_isFake_25 : decode cX2_isFake 25 = .ok (.iconst 1, 1) := dk_4 (dk_at dksX2_isFake_1 3 rfl rfl)
theorem dX2_isFake_26 : decode cX2_isFake 26 = .ok (.goto 4, 3) := dk_167 0 4 (dk_at dksX2_isFake_1 4 rfl rfl)
theorem dX2_isFake_29 : decode cX2_isFake 29 = .ok (.iconst 0, 1) := dk_3 (dk_at dksX2_isFake_1 7 rfl rfl)
theorem dX2_isFake_30 : decode cX2_isFake 30 = .ok (.ireturn, 1) := dk_172 (dk_at dksX2_isFake_1 8 rfl rfl)
abbrev cX2_isTakenForFake : ByteArray := prog_17_method_73_code
def yX2_isTakenForFake : MethodName := ⟨RX2, "isTakenForFake", "(LVaultyardModel$Thing;)Z"⟩
def dkwX2_isTakenForFake_0 : List UInt8 := [42, 3, 184, 1, 127, 20, 0, 163, 109, 42, 4, 184, 1, 127, 148, 155, 0, 7, 4, 167, 0, 4, 3, 172]
abbrev dktX2_isTakenForFake_0 : List UInt8 := dkwX2_isTakenForFake_0 ++ []
theorem dksX2_isTakenForFake_0 : cX2_isTakenForFake.data.toList.drop 0 = dktX2_isTakenForFake_0 := by decide +kernel
theorem dX2_isTakenForFake_0 : decode cX2_isTakenForFake 0 = .ok (.aload_n 0, 1) := dk_42 (dk_at dksX2_isTakenForFake_0 0 rfl rfl)
theorem dX2_isTakenForFake_1 : decode cX2_isTakenForFake 1 = .ok (.iconst 0, 1) := dk_3 (dk_at dksX2_isTakenForFake_0 1 rfl rfl)
theorem dX2_isTakenForFake_2 : decode cX2_isTakenForFake 2 = .ok (.invokestatic 383, 3) := dk_184 1 127 (dk_at dksX2_isTakenForFake_0 2 rfl rfl)
theorem dX2_isTakenForFake_5 : decode cX2_isTakenForFake 5 = .ok (.ldc2_w 163, 3) := dk_20 0 163 (dk_at dksX2_isTakenForFake_0 5 rfl rfl)
theorem dX2_isTakenForFake_8 : decode cX2_isTakenForFake 8 = .ok (.ldiv, 1) := dk_109 (dk_at dksX2_isTakenForFake_0 8 rfl rfl)
theorem dX2_isTakenForFake_9 : decode cX2_isTakenForFake 9 = .ok (.aload_n 0, 1) := dk_42 (dk_at dksX2_isTakenForFake_0 9 rfl rfl)
theorem dX2_isTakenForFake_10 : decode cX2_isTakenForFake 10 = .ok (.iconst 1, 1) := dk_4 (dk_at dksX2_isTakenForFake_0 10 rfl rfl)
theorem dX2_isTakenForFake_11 : decode cX2_isTakenForFake 11 = .ok (.invokestatic 383, 3) := dk_184 1 127 (dk_at dksX2_isTakenForFake_0 11 rfl rfl)
theorem dX2_isTakenForFake_14 : decode cX2_isTakenForFake 14 = .ok (.lcmp, 1) := dk_148 (dk_at dksX2_isTakenForFake_0 14 rfl rfl)
theorem dX2_isTakenForFake_15 : decode cX2_isTakenForFake 15 = .ok (.ifCond .lt 7, 3) := dk_155 0 7 (dk_at dksX2_isTakenForFake_0 15 rfl rfl)
theorem dX2_isTakenForFake_18 : decode cX2_isTakenForFake 18 = .ok (.iconst 1, 1) := dk_4 (dk_at dksX2_isTakenForFake_0 18 rfl rfl)
theorem dX2_isTakenForFake_19 : decode cX2_isTakenForFake 19 = .ok (.goto 4, 3) := dk_167 0 4 (dk_at dksX2_isTakenForFake_0 19 rfl rfl)
theorem dX2_isTakenForFake_22 : decode cX2_isTakenForFake 22 = .ok (.iconst 0, 1) := dk_3 (dk_at dksX2_isTakenForFake_0 22 rfl rfl)
theorem dX2_isTakenForFake_23 : decode cX2_isTakenForFake 23 = .ok (.ireturn, 1) := dk_172 (dk_at dksX2_isTakenForFake_0 23 rfl rfl)
abbrev cX2_opinion : ByteArray := prog_17_method_77_code
def yX2_opinion : MethodName := ⟨RX2, "opinion", "(III)I"⟩
def dkwX2_opinion_4 : List UInt8 := [182, 0, 48, 172]
abbrev dktX2_opinion_4 : List UInt8 := dkwX2_opinion_4 ++ []
def dkwX2_opinion_3 : List UInt8 := [6, 188, 10, 89, 3, 27, 79, 89, 4, 28, 79, 89, 5, 29, 79, 182, 0, 89, 87, 42, 27, 182, 1, 137]
abbrev dktX2_opinion_3 : List UInt8 := dkwX2_opinion_3 ++ dktX2_opinion_4
def dkwX2_opinion_2 : List UInt8 := [160, 0, 7, 6, 167, 0, 4, 3, 181, 0, 44, 42, 180, 0, 44, 158, 0, 5, 3, 172, 42, 180, 0, 34]
abbrev dktX2_opinion_2 : List UInt8 := dkwX2_opinion_2 ++ dktX2_opinion_3
def dkwX2_opinion_1 : List UInt8 := [133, 9, 20, 1, 52, 184, 0, 52, 154, 0, 7, 5, 167, 0, 20, 42, 180, 0, 34, 182, 0, 48, 16, 40]
abbrev dktX2_opinion_1 : List UInt8 := dkwX2_opinion_1 ++ dktX2_opinion_2
def dkwX2_opinion_0 : List UInt8 := [42, 27, 182, 0, 185, 153, 0, 5, 3, 172, 42, 28, 133, 9, 20, 1, 135, 184, 0, 52, 153, 0, 15, 29]
abbrev dktX2_opinion_0 : List UInt8 := dkwX2_opinion_0 ++ dktX2_opinion_1
theorem dksX2_opinion_0 : cX2_opinion.data.toList.drop 0 = dktX2_opinion_0 := by decide +kernel
theorem dksX2_opinion_1 : cX2_opinion.data.toList.drop 24 = dktX2_opinion_1 := dk_seg dksX2_opinion_0 24 rfl rfl
theorem dksX2_opinion_2 : cX2_opinion.data.toList.drop 48 = dktX2_opinion_2 := dk_seg dksX2_opinion_1 24 rfl rfl
theorem dksX2_opinion_3 : cX2_opinion.data.toList.drop 72 = dktX2_opinion_3 := dk_seg dksX2_opinion_2 24 rfl rfl
theorem dksX2_opinion_4 : cX2_opinion.data.toList.drop 96 = dktX2_opinion_4 := dk_seg dksX2_opinion_3 24 rfl rfl
theorem dX2_opinion_0 : decode cX2_opinion 0 = .ok (.aload_n 0, 1) := dk_42 (dk_at dksX2_opinion_0 0 rfl rfl)
theorem dX2_opinion_1 : decode cX2_opinion 1 = .ok (.iload_n 1, 1) := dk_27 (dk_at dksX2_opinion_0 1 rfl rfl)
theorem dX2_opinion_2 : decode cX2_opinion 2 = .ok (.invokevirtual 185, 3) := dk_182 0 185 (dk_at dksX2_opinion_0 2 rfl rfl)
theorem dX2_opinion_5 : decode cX2_opinion 5 = .ok (.ifCond .eq 5, 3) := dk_153 0 5 (dk_at dksX2_opinion_0 5 rfl rfl)
theorem dX2_opinion_8 : decode cX2_opinion 8 = .ok (.iconst 0, 1) := dk_3 (dk_at dksX2_opinion_0 8 rfl rfl)
theorem dX2_opinion_9 : decode cX2_opinion 9 = .ok (.ireturn, 1) := dk_172 (dk_at dksX2_opinion_0 9 rfl rfl)
theorem dX2_opinion_10 : decode cX2_opinion 10 = .ok (.aload_n 0, 1) := dk_42 (dk_at dksX2_opinion_0 10 rfl rfl)
theorem dX2_opinion_11 : decode cX2_opinion 11 = .ok (.iload_n 2, 1) := dk_28 (dk_at dksX2_opinion_0 11 rfl rfl)
theorem dX2_opinion_12 : decode cX2_opinion 12 = .ok (.i2l, 1) := dk_133 (dk_at dksX2_opinion_0 12 rfl rfl)
theorem dX2_opinion_13 : decode cX2_opinion 13 = .ok (.lconst 0, 1) := dk_9 (dk_at dksX2_opinion_0 13 rfl rfl)
theorem dX2_opinion_14 : decode cX2_opinion 14 = .ok (.ldc2_w 391, 3) := dk_20 1 135 (dk_at dksX2_opinion_0 14 rfl rfl)
theorem dX2_opinion_17 : decode cX2_opinion 17 = .ok (.invokestatic 52, 3) := dk_184 0 52 (dk_at dksX2_opinion_0 17 rfl rfl)
theorem dX2_opinion_20 : decode cX2_opinion 20 = .ok (.ifCond .eq 15, 3) := dk_153 0 15 (dk_at dksX2_opinion_0 20 rfl rfl)
theorem dX2_opinion_23 : decode cX2_opinion 23 = .ok (.iload_n 3, 1) := dk_29 (dk_at dksX2_opinion_0 23 rfl rfl)
theorem dX2_opinion_24 : decode cX2_opinion 24 = .ok (.i2l, 1) := dk_133 (dk_at dksX2_opinion_1 0 rfl rfl)
theorem dX2_opinion_25 : decode cX2_opinion 25 = .ok (.lconst 0, 1) := dk_9 (dk_at dksX2_opinion_1 1 rfl rfl)
theorem dX2_opinion_26 : decode cX2_opinion 26 = .ok (.ldc2_w 308, 3) := dk_20 1 52 (dk_at dksX2_opinion_1 2 rfl rfl)
theorem dX2_opinion_29 : decode cX2_opinion 29 = .ok (.invokestatic 52, 3) := dk_184 0 52 (dk_at dksX2_opinion_1 5 rfl rfl)
theorem dX2_opinion_32 : decode cX2_opinion 32 = .ok (.ifCond .ne 7, 3) := dk_154 0 7 (dk_at dksX2_opinion_1 8 rfl rfl)
theorem dX2_opinion_35 : decode cX2_opinion 35 = .ok (.iconst 2, 1) := dk_5 (dk_at dksX2_opinion_1 11 rfl rfl)
theorem dX2_opinion_36 : decode cX2_opinion 36 = .ok (.goto 20, 3) := dk_167 0 20 (dk_at dksX2_opinion_1 12 rfl rfl)
theorem dX2_opinion_39 : decode cX2_opinion 39 = .ok (.aload_n 0, 1) := dk_42 (dk_at dksX2_opinion_1 15 rfl rfl)
theorem dX2_opinion_40 : decode cX2_opinion 40 = .ok (.getfield 34, 3) := dk_180 0 34 (dk_at dksX2_opinion_1 16 rfl rfl)
theorem dX2_opinion_43 : decode cX2_opinion 43 = .ok (.invokevirtual 48, 3) := dk_182 0 48 (dk_at dksX2_opinion_1 19 rfl rfl)
theorem dX2_opinion_46 : decode cX2_opinion 46 = .ok (.bipush 40, 2) := dk_16 40 (dk_at dksX2_opinion_1 22 rfl rfl)
theorem dX2_opinion_48 : decode cX2_opinion 48 = .ok (.if_icmp .ne 7, 3) := dk_160 0 7 (dk_at dksX2_opinion_2 0 rfl rfl)
theorem dX2_opinion_51 : decode cX2_opinion 51 = .ok (.iconst 3, 1) := dk_6 (dk_at dksX2_opinion_2 3 rfl rfl)
theorem dX2_opinion_52 : decode cX2_opinion 52 = .ok (.goto 4, 3) := dk_167 0 4 (dk_at dksX2_opinion_2 4 rfl rfl)
theorem dX2_opinion_55 : decode cX2_opinion 55 = .ok (.iconst 0, 1) := dk_3 (dk_at dksX2_opinion_2 7 rfl rfl)
theorem dX2_opinion_56 : decode cX2_opinion 56 = .ok (.putfield 44, 3) := dk_181 0 44 (dk_at dksX2_opinion_2 8 rfl rfl)
theorem dX2_opinion_59 : decode cX2_opinion 59 = .ok (.aload_n 0, 1) := dk_42 (dk_at dksX2_opinion_2 11 rfl rfl)
theorem dX2_opinion_60 : decode cX2_opinion 60 = .ok (.getfield 44, 3) := dk_180 0 44 (dk_at dksX2_opinion_2 12 rfl rfl)
theorem dX2_opinion_63 : decode cX2_opinion 63 = .ok (.ifCond .le 5, 3) := dk_158 0 5 (dk_at dksX2_opinion_2 15 rfl rfl)
theorem dX2_opinion_66 : decode cX2_opinion 66 = .ok (.iconst 0, 1) := dk_3 (dk_at dksX2_opinion_2 18 rfl rfl)
theorem dX2_opinion_67 : decode cX2_opinion 67 = .ok (.ireturn, 1) := dk_172 (dk_at dksX2_opinion_2 19 rfl rfl)
theorem dX2_opinion_68 : decode cX2_opinion 68 = .ok (.aload_n 0, 1) := dk_42 (dk_at dksX2_opinion_2 20 rfl rfl)
theorem dX2_opinion_69 : decode cX2_opinion 69 = .ok (.getfield 34, 3) := dk_180 0 34 (dk_at dksX2_opinion_2 21 rfl rfl)
theorem dX2_opinion_72 : decode cX2_opinion 72 = .ok (.iconst 3, 1) := dk_6 (dk_at dksX2_opinion_3 0 rfl rfl)
theorem dX2_opinion_73 : decode cX2_opinion 73 = .ok (.newarray .int, 2) := dk_188_10 (dk_at dksX2_opinion_3 1 rfl rfl)
theorem dX2_opinion_75 : decode cX2_opinion 75 = .ok (.dup, 1) := dk_89 (dk_at dksX2_opinion_3 3 rfl rfl)
theorem dX2_opinion_76 : decode cX2_opinion 76 = .ok (.iconst 0, 1) := dk_3 (dk_at dksX2_opinion_3 4 rfl rfl)
theorem dX2_opinion_77 : decode cX2_opinion 77 = .ok (.iload_n 1, 1) := dk_27 (dk_at dksX2_opinion_3 5 rfl rfl)
theorem dX2_opinion_78 : decode cX2_opinion 78 = .ok (.iastore, 1) := dk_79 (dk_at dksX2_opinion_3 6 rfl rfl)
theorem dX2_opinion_79 : decode cX2_opinion 79 = .ok (.dup, 1) := dk_89 (dk_at dksX2_opinion_3 7 rfl rfl)
theorem dX2_opinion_80 : decode cX2_opinion 80 = .ok (.iconst 1, 1) := dk_4 (dk_at dksX2_opinion_3 8 rfl rfl)
theorem dX2_opinion_81 : decode cX2_opinion 81 = .ok (.iload_n 2, 1) := dk_28 (dk_at dksX2_opinion_3 9 rfl rfl)
theorem dX2_opinion_82 : decode cX2_opinion 82 = .ok (.iastore, 1) := dk_79 (dk_at dksX2_opinion_3 10 rfl rfl)
theorem dX2_opinion_83 : decode cX2_opinion 83 = .ok (.dup, 1) := dk_89 (dk_at dksX2_opinion_3 11 rfl rfl)
theorem dX2_opinion_84 : decode cX2_opinion 84 = .ok (.iconst 2, 1) := dk_5 (dk_at dksX2_opinion_3 12 rfl rfl)
theorem dX2_opinion_85 : decode cX2_opinion 85 = .ok (.iload_n 3, 1) := dk_29 (dk_at dksX2_opinion_3 13 rfl rfl)
theorem dX2_opinion_86 : decode cX2_opinion 86 = .ok (.iastore, 1) := dk_79 (dk_at dksX2_opinion_3 14 rfl rfl)
theorem dX2_opinion_87 : decode cX2_opinion 87 = .ok (.invokevirtual 89, 3) := dk_182 0 89 (dk_at dksX2_opinion_3 15 rfl rfl)
theorem dX2_opinion_90 : decode cX2_opinion 90 = .ok (.pop, 1) := dk_87 (dk_at dksX2_opinion_3 18 rfl rfl)
theorem dX2_opinion_91 : decode cX2_opinion 91 = .ok (.aload_n 0, 1) := dk_42 (dk_at dksX2_opinion_3 19 rfl rfl)
theorem dX2_opinion_92 : decode cX2_opinion 92 = .ok (.iload_n 1, 1) := dk_27 (dk_at dksX2_opinion_3 20 rfl rfl)
theorem dX2_opinion_93 : decode cX2_opinion 93 = .ok (.invokevirtual 393, 3) := dk_182 1 137 (dk_at dksX2_opinion_3 21 rfl rfl)
theorem dX2_opinion_96 : decode cX2_opinion 96 = .ok (.invokevirtual 48, 3) := dk_182 0 48 (dk_at dksX2_opinion_4 0 rfl rfl)
theorem dX2_opinion_99 : decode cX2_opinion 99 = .ok (.ireturn, 1) := dk_172 (dk_at dksX2_opinion_4 3 rfl rfl)
abbrev cX2_opinionsOf : ByteArray := prog_17_method_78_code
def yX2_opinionsOf : MethodName := ⟨RX2, "opinionsOf", "(I)Ljava/util/ArrayList;"⟩
def dkwX2_opinionsOf_2 : List UInt8 := [25, 4, 182, 0, 89, 87, 167, 255, 221, 44, 176]
abbrev dktX2_opinionsOf_2 : List UInt8 := dkwX2_opinionsOf_2 ++ []
def dkwX2_opinionsOf_1 : List UInt8 := [153, 0, 32, 45, 185, 0, 116, 1, 0, 192, 0, 180, 58, 4, 25, 4, 3, 46, 27, 160, 0, 10, 44]
abbrev dktX2_opinionsOf_1 : List UInt8 := dkwX2_opinionsOf_1 ++ dktX2_opinionsOf_2
def dkwX2_opinionsOf_0 : List UInt8 := [187, 0, 7, 89, 183, 0, 9, 77, 42, 180, 0, 34, 182, 0, 106, 78, 45, 185, 0, 110, 1, 0]
abbrev dktX2_opinionsOf_0 : List UInt8 := dkwX2_opinionsOf_0 ++ dktX2_opinionsOf_1
theorem dksX2_opinionsOf_0 : cX2_opinionsOf.data.toList.drop 0 = dktX2_opinionsOf_0 := by decide +kernel
theorem dksX2_opinionsOf_1 : cX2_opinionsOf.data.toList.drop 22 = dktX2_opinionsOf_1 := dk_seg dksX2_opinionsOf_0 22 rfl rfl
theorem dksX2_opinionsOf_2 : cX2_opinionsOf.data.toList.drop 45 = dktX2_opinionsOf_2 := dk_seg dksX2_opinionsOf_1 23 rfl rfl
theorem dX2_opinionsOf_0 : decode cX2_opinionsOf 0 = .ok (.new 7, 3) := dk_187 0 7 (dk_at dksX2_opinionsOf_0 0 rfl rfl)
theorem dX2_opinionsOf_3 : decode cX2_opinionsOf 3 = .ok (.dup, 1) := dk_89 (dk_at dksX2_opinionsOf_0 3 rfl rfl)
theorem dX2_opinionsOf_4 : decode cX2_opinionsOf 4 = .ok (.invokespecial 9, 3) := dk_183 0 9 (dk_at dksX2_opinionsOf_0 4 rfl rfl)
theorem dX2_opinionsOf_7 : decode cX2_opinionsOf 7 = .ok (.astore_n 2, 1) := dk_77 (dk_at dksX2_opinionsOf_0 7 rfl rfl)
theorem dX2_opinionsOf_8 : decode cX2_opinionsOf 8 = .ok (.aload_n 0, 1) := dk_42 (dk_at dksX2_opinionsOf_0 8 rfl rfl)
theorem dX2_opinionsOf_9 : decode cX2_opinionsOf 9 = .ok (.getfield 34, 3) := dk_180 0 34 (dk_at dksX2_opinionsOf_0 9 rfl rfl)
theorem dX2_opinionsOf_12 : decode cX2_opinionsOf 12 = .ok (.invokevirtual 106, 3) := dk_182 0 106 (dk_at dksX2_opinionsOf_0 12 rfl rfl)
theorem dX2_opinionsOf_15 : decode cX2_opinionsOf 15 = .ok (.astore_n 3, 1) := dk_78 (dk_at dksX2_opinionsOf_0 15 rfl rfl)
theorem dX2_opinionsOf_16 : decode cX2_opinionsOf 16 = .ok (.aload_n 3, 1) := dk_45 (dk_at dksX2_opinionsOf_0 16 rfl rfl)
theorem dX2_opinionsOf_17 : decode cX2_opinionsOf 17 = .ok (.invokeinterface 110 1, 5) := by decide +kernel
theorem dX2_opinionsOf_22 : decode cX2_opinionsOf 22 = .ok (.ifCond .eq 32, 3) := dk_153 0 32 (dk_at dksX2_opinionsOf_1 0 rfl rfl)
theorem dX2_opinionsOf_25 : decode cX2_opinionsOf 25 = .ok (.aload_n 3, 1) := dk_45 (dk_at dksX2_opinionsOf_1 3 rfl rfl)
theorem dX2_opinionsOf_26 : decode cX2_opinionsOf 26 = .ok (.invokeinterface 116 1, 5) := by decide +kernel
theorem dX2_opinionsOf_31 : decode cX2_opinionsOf 31 = .ok (.checkcast 180, 3) := dk_192 0 180 (dk_at dksX2_opinionsOf_1 9 rfl rfl)
theorem dX2_opinionsOf_34 : decode cX2_opinionsOf 34 = .ok (.astore 4, 2) := dk_58 4 (dk_at dksX2_opinionsOf_1 12 rfl rfl)
theorem dX2_opinionsOf_36 : decode cX2_opinionsOf 36 = .ok (.aload 4, 2) := dk_25 4 (dk_at dksX2_opinionsOf_1 14 rfl rfl)
theorem dX2_opinionsOf_38 : decode cX2_opinionsOf 38 = .ok (.iconst 0, 1) := dk_3 (dk_at dksX2_opinionsOf_1 16 rfl rfl)
theorem dX2_opinionsOf_39 : decode cX2_opinionsOf 39 = .ok (.iaload, 1) := dk_46 (dk_at dksX2_opinionsOf_1 17 rfl rfl)
theorem dX2_opinionsOf_40 : decode cX2_opinionsOf 40 = .ok (.iload_n 1, 1) := dk_27 (dk_at dksX2_opinionsOf_1 18 rfl rfl)
theorem dX2_opinionsOf_41 : decode cX2_opinionsOf 41 = .ok (.if_icmp .ne 10, 3) := dk_160 0 10 (dk_at dksX2_opinionsOf_1 19 rfl rfl)
theorem dX2_opinionsOf_44 : decode cX2_opinionsOf 44 = .ok (.aload_n 2, 1) := dk_44 (dk_at dksX2_opinionsOf_1 22 rfl rfl)
theorem dX2_opinionsOf_45 : decode cX2_opinionsOf 45 = .ok (.aload 4, 2) := dk_25 4 (dk_at dksX2_opinionsOf_2 0 rfl rfl)
theorem dX2_opinionsOf_47 : decode cX2_opinionsOf 47 = .ok (.invokevirtual 89, 3) := dk_182 0 89 (dk_at dksX2_opinionsOf_2 2 rfl rfl)
theorem dX2_opinionsOf_50 : decode cX2_opinionsOf 50 = .ok (.pop, 1) := dk_87 (dk_at dksX2_opinionsOf_2 5 rfl rfl)
theorem dX2_opinionsOf_51 : decode cX2_opinionsOf 51 = .ok (.goto (-35), 3) := dk_167 255 221 (dk_at dksX2_opinionsOf_2 6 rfl rfl)
theorem dX2_opinionsOf_54 : decode cX2_opinionsOf 54 = .ok (.aload_n 2, 1) := dk_44 (dk_at dksX2_opinionsOf_2 9 rfl rfl)
theorem dX2_opinionsOf_55 : decode cX2_opinionsOf 55 = .ok (.areturn, 1) := dk_176 (dk_at dksX2_opinionsOf_2 10 rfl rfl)
abbrev cX2_held : ByteArray := prog_17_method_80_code
def yX2_held : MethodName := ⟨RX2, "held", "(II)I"⟩
def dkwX2_held_3 : List UInt8 := [29, 172]
abbrev dktX2_held_3 : List UInt8 := dkwX2_held_3 ++ []
def dkwX2_held_2 : List UInt8 := [29, 2, 160, 0, 7, 6, 167, 0, 4, 3, 181, 0, 44, 42, 180, 0, 44, 158, 0, 7, 3, 167, 0, 4]
abbrev dktX2_held_2 : List UInt8 := dkwX2_held_2 ++ dktX2_held_3
def dkwX2_held_1 : List UInt8 := [167, 0, 4, 5, 181, 0, 44, 42, 180, 0, 44, 158, 0, 5, 3, 172, 42, 27, 28, 182, 1, 141, 62, 42]
abbrev dktX2_held_1 : List UInt8 := dkwX2_held_1 ++ dktX2_held_2
def dkwX2_held_0 : List UInt8 := [42, 27, 182, 0, 185, 153, 0, 5, 3, 172, 42, 28, 133, 9, 20, 1, 135, 184, 0, 52, 153, 0, 7, 3]
abbrev dktX2_held_0 : List UInt8 := dkwX2_held_0 ++ dktX2_held_1
theorem dksX2_held_0 : cX2_held.data.toList.drop 0 = dktX2_held_0 := by decide +kernel
theorem dksX2_held_1 : cX2_held.data.toList.drop 24 = dktX2_held_1 := dk_seg dksX2_held_0 24 rfl rfl
theorem dksX2_held_2 : cX2_held.data.toList.drop 48 = dktX2_held_2 := dk_seg dksX2_held_1 24 rfl rfl
theorem dksX2_held_3 : cX2_held.data.toList.drop 72 = dktX2_held_3 := dk_seg dksX2_held_2 24 rfl rfl
theorem dX2_held_0 : decode cX2_held 0 = .ok (.aload_n 0, 1) := dk_42 (dk_at dksX2_held_0 0 rfl rfl)
theorem dX2_held_1 : decode cX2_held 1 = .ok (.iload_n 1, 1) := dk_27 (dk_at dksX2_held_0 1 rfl rfl)
theorem dX2_held_2 : decode cX2_held 2 = .ok (.invokevirtual 185, 3) := dk_182 0 185 (dk_at dksX2_held_0 2 rfl rfl)
theorem dX2_held_5 : decode cX2_held 5 = .ok (.ifCond .eq 5, 3) := dk_153 0 5 (dk_at dksX2_held_0 5 rfl rfl)
theorem dX2_held_8 : decode cX2_held 8 = .ok (.iconst 0, 1) := dk_3 (dk_at dksX2_held_0 8 rfl rfl)
theorem dX2_held_9 : decode cX2_held 9 = .ok (.ireturn, 1) := dk_172 (dk_at dksX2_held_0 9 rfl rfl)
theorem dX2_held_10 : decode cX2_held 10 = .ok (.aload_n 0, 1) := dk_42 (dk_at dksX2_held_0 10 rfl rfl)
theorem dX2_held_11 : decode cX2_held 11 = .ok (.iload_n 2, 1) := dk_28 (dk_at dksX2_held_0 11 rfl rfl)
theorem dX2_held_12 : decode cX2_held 12 = .ok (.i2l, 1) := dk_133 (dk_at dksX2_held_0 12 rfl rfl)
theorem dX2_held_13 : decode cX2_held 13 = .ok (.lconst 0, 1) := dk_9 (dk_at dksX2_held_0 13 rfl rfl)
theorem dX2_held_14 : decode cX2_held 14 = .ok (.ldc2_w 391, 3) := dk_20 1 135 (dk_at dksX2_held_0 14 rfl rfl)
theorem dX2_held_17 : decode cX2_held 17 = .ok (.invokestatic 52, 3) := dk_184 0 52 (dk_at dksX2_held_0 17 rfl rfl)
theorem dX2_held_20 : decode cX2_held 20 = .ok (.ifCond .eq 7, 3) := dk_153 0 7 (dk_at dksX2_held_0 20 rfl rfl)
theorem dX2_held_23 : decode cX2_held 23 = .ok (.iconst 0, 1) := dk_3 (dk_at dksX2_held_0 23 rfl rfl)
theorem dX2_held_24 : decode cX2_held 24 = .ok (.goto 4, 3) := dk_167 0 4 (dk_at dksX2_held_1 0 rfl rfl)
theorem dX2_held_27 : decode cX2_held 27 = .ok (.iconst 2, 1) := dk_5 (dk_at dksX2_held_1 3 rfl rfl)
theorem dX2_held_28 : decode cX2_held 28 = .ok (.putfield 44, 3) := dk_181 0 44 (dk_at dksX2_held_1 4 rfl rfl)
theorem dX2_held_31 : decode cX2_held 31 = .ok (.aload_n 0, 1) := dk_42 (dk_at dksX2_held_1 7 rfl rfl)
theorem dX2_held_32 : decode cX2_held 32 = .ok (.getfield 44, 3) := dk_180 0 44 (dk_at dksX2_held_1 8 rfl rfl)
theorem dX2_held_35 : decode cX2_held 35 = .ok (.ifCond .le 5, 3) := dk_158 0 5 (dk_at dksX2_held_1 11 rfl rfl)
theorem dX2_held_38 : decode cX2_held 38 = .ok (.iconst 0, 1) := dk_3 (dk_at dksX2_held_1 14 rfl rfl)
theorem dX2_held_39 : decode cX2_held 39 = .ok (.ireturn, 1) := dk_172 (dk_at dksX2_held_1 15 rfl rfl)
theorem dX2_held_40 : decode cX2_held 40 = .ok (.aload_n 0, 1) := dk_42 (dk_at dksX2_held_1 16 rfl rfl)
theorem dX2_held_41 : decode cX2_held 41 = .ok (.iload_n 1, 1) := dk_27 (dk_at dksX2_held_1 17 rfl rfl)
theorem dX2_held_42 : decode cX2_held 42 = .ok (.iload_n 2, 1) := dk_28 (dk_at dksX2_held_1 18 rfl rfl)
theorem dX2_held_43 : decode cX2_held 43 = .ok (.invokevirtual 397, 3) := dk_182 1 141 (dk_at dksX2_held_1 19 rfl rfl)
theorem dX2_held_46 : decode cX2_held 46 = .ok (.istore_n 3, 1) := dk_62 (dk_at dksX2_held_1 22 rfl rfl)
theorem dX2_held_47 : decode cX2_held 47 = .ok (.aload_n 0, 1) := dk_42 (dk_at dksX2_held_1 23 rfl rfl)
theorem dX2_held_48 : decode cX2_held 48 = .ok (.iload_n 3, 1) := dk_29 (dk_at dksX2_held_2 0 rfl rfl)
theorem dX2_held_49 : decode cX2_held 49 = .ok (.iconst (-1), 1) := dk_2 (dk_at dksX2_held_2 1 rfl rfl)
theorem dX2_held_50 : decode cX2_held 50 = .ok (.if_icmp .ne 7, 3) := dk_160 0 7 (dk_at dksX2_held_2 2 rfl rfl)
theorem dX2_held_53 : decode cX2_held 53 = .ok (.iconst 3, 1) := dk_6 (dk_at dksX2_held_2 5 rfl rfl)
theorem dX2_held_54 : decode cX2_held 54 = .ok (.goto 4, 3) := dk_167 0 4 (dk_at dksX2_held_2 6 rfl rfl)
theorem dX2_held_57 : decode cX2_held 57 = .ok (.iconst 0, 1) := dk_3 (dk_at dksX2_held_2 9 rfl rfl)
theorem dX2_held_58 : decode cX2_held 58 = .ok (.putfield 44, 3) := dk_181 0 44 (dk_at dksX2_held_2 10 rfl rfl)
theorem dX2_held_61 : decode cX2_held 61 = .ok (.aload_n 0, 1) := dk_42 (dk_at dksX2_held_2 13 rfl rfl)
theorem dX2_held_62 : decode cX2_held 62 = .ok (.getfield 44, 3) := dk_180 0 44 (dk_at dksX2_held_2 14 rfl rfl)
theorem dX2_held_65 : decode cX2_held 65 = .ok (.ifCond .le 7, 3) := dk_158 0 7 (dk_at dksX2_held_2 17 rfl rfl)
theorem dX2_held_68 : decode cX2_held 68 = .ok (.iconst 0, 1) := dk_3 (dk_at dksX2_held_2 20 rfl rfl)
theorem dX2_held_69 : decode cX2_held 69 = .ok (.goto 4, 3) := dk_167 0 4 (dk_at dksX2_held_2 21 rfl rfl)
theorem dX2_held_72 : decode cX2_held 72 = .ok (.iload_n 3, 1) := dk_29 (dk_at dksX2_held_3 0 rfl rfl)
theorem dX2_held_73 : decode cX2_held 73 = .ok (.ireturn, 1) := dk_172 (dk_at dksX2_held_3 1 rfl rfl)
abbrev cX2_heldBy : ByteArray := prog_17_method_79_code
def yX2_heldBy : MethodName := ⟨RX2, "heldBy", "(II)I"⟩
def dkwX2_heldBy_2 : List UInt8 := [167, 0, 4, 29, 62, 167, 255, 217, 29, 172]
abbrev dktX2_heldBy_2 : List UInt8 := dkwX2_heldBy_2 ++ []
def dkwX2_heldBy_1 : List UInt8 := [185, 0, 116, 1, 0, 192, 0, 180, 58, 5, 25, 5, 4, 46, 28, 160, 0, 10, 25, 5, 5, 46]
abbrev dktX2_heldBy_1 : List UInt8 := dkwX2_heldBy_1 ++ dktX2_heldBy_2
def dkwX2_heldBy_0 : List UInt8 := [2, 62, 42, 27, 182, 1, 137, 182, 0, 106, 58, 4, 25, 4, 185, 0, 110, 1, 0, 153, 0, 35, 25, 4]
abbrev dktX2_heldBy_0 : List UInt8 := dkwX2_heldBy_0 ++ dktX2_heldBy_1
theorem dksX2_heldBy_0 : cX2_heldBy.data.toList.drop 0 = dktX2_heldBy_0 := by decide +kernel
theorem dksX2_heldBy_1 : cX2_heldBy.data.toList.drop 24 = dktX2_heldBy_1 := dk_seg dksX2_heldBy_0 24 rfl rfl
theorem dksX2_heldBy_2 : cX2_heldBy.data.toList.drop 46 = dktX2_heldBy_2 := dk_seg dksX2_heldBy_1 22 rfl rfl
theorem dX2_heldBy_0 : decode cX2_heldBy 0 = .ok (.iconst (-1), 1) := dk_2 (dk_at dksX2_heldBy_0 0 rfl rfl)
theorem dX2_heldBy_1 : decode cX2_heldBy 1 = .ok (.istore_n 3, 1) := dk_62 (dk_at dksX2_heldBy_0 1 rfl rfl)
theorem dX2_heldBy_2 : decode cX2_heldBy 2 = .ok (.aload_n 0, 1) := dk_42 (dk_at dksX2_heldBy_0 2 rfl rfl)
theorem dX2_heldBy_3 : decode cX2_heldBy 3 = .ok (.iload_n 1, 1) := dk_27 (dk_at dksX2_heldBy_0 3 rfl rfl)
theorem dX2_heldBy_4 : decode cX2_heldBy 4 = .ok (.invokevirtual 393, 3) := dk_182 1 137 (dk_at dksX2_heldBy_0 4 rfl rfl)
theorem dX2_heldBy_7 : decode cX2_heldBy 7 = .ok (.invokevirtual 106, 3) := dk_182 0 106 (dk_at dksX2_heldBy_0 7 rfl rfl)
theorem dX2_heldBy_10 : decode cX2_heldBy 10 = .ok (.astore 4, 2) := dk_58 4 (dk_at dksX2_heldBy_0 10 rfl rfl)
theorem dX2_heldBy_12 : decode cX2_heldBy 12 = .ok (.aload 4, 2) := dk_25 4 (dk_at dksX2_heldBy_0 12 rfl rfl)
theorem dX2_heldBy_14 : decode cX2_heldBy 14 = .ok (.invokeinterface 110 1, 5) := by decide +kernel
theorem dX2_heldBy_19 : decode cX2_heldBy 19 = .ok (.ifCond .eq 35, 3) := dk_153 0 35 (dk_at dksX2_heldBy_0 19 rfl rfl)
theorem dX2_heldBy_22 : decode cX2_heldBy 22 = .ok (.aload 4, 2) := dk_25 4 (dk_at dksX2_heldBy_0 22 rfl rfl)
theorem dX2_heldBy_24 : decode cX2_heldBy 24 = .ok (.invokeinterface 116 1, 5) := by decide +kernel
theorem dX2_heldBy_29 : decode cX2_heldBy 29 = .ok (.checkcast 180, 3) := dk_192 0 180 (dk_at dksX2_heldBy_1 5 rfl rfl)
theorem dX2_heldBy_32 : decode cX2_heldBy 32 = .ok (.astore 5, 2) := dk_58 5 (dk_at dksX2_heldBy_1 8 rfl rfl)
theorem dX2_heldBy_34 : decode cX2_heldBy 34 = .ok (.aload 5, 2) := dk_25 5 (dk_at dksX2_heldBy_1 10 rfl rfl)
theorem dX2_heldBy_36 : decode cX2_heldBy 36 = .ok (.iconst 1, 1) := dk_4 (dk_at dksX2_heldBy_1 12 rfl rfl)
theorem dX2_heldBy_37 : decode cX2_heldBy 37 = .ok (.iaload, 1) := dk_46 (dk_at dksX2_heldBy_1 13 rfl rfl)
theorem dX2_heldBy_38 : decode cX2_heldBy 38 = .ok (.iload_n 2, 1) := dk_28 (dk_at dksX2_heldBy_1 14 rfl rfl)
theorem dX2_heldBy_39 : decode cX2_heldBy 39 = .ok (.if_icmp .ne 10, 3) := dk_160 0 10 (dk_at dksX2_heldBy_1 15 rfl rfl)
theorem dX2_heldBy_42 : decode cX2_heldBy 42 = .ok (.aload 5, 2) := dk_25 5 (dk_at dksX2_heldBy_1 18 rfl rfl)
theorem dX2_heldBy_44 : decode cX2_heldBy 44 = .ok (.iconst 2, 1) := dk_5 (dk_at dksX2_heldBy_1 20 rfl rfl)
theorem dX2_heldBy_45 : decode cX2_heldBy 45 = .ok (.iaload, 1) := dk_46 (dk_at dksX2_heldBy_1 21 rfl rfl)
theorem dX2_heldBy_46 : decode cX2_heldBy 46 = .ok (.goto 4, 3) := dk_167 0 4 (dk_at dksX2_heldBy_2 0 rfl rfl)
theorem dX2_heldBy_49 : decode cX2_heldBy 49 = .ok (.iload_n 3, 1) := dk_29 (dk_at dksX2_heldBy_2 3 rfl rfl)
theorem dX2_heldBy_50 : decode cX2_heldBy 50 = .ok (.istore_n 3, 1) := dk_62 (dk_at dksX2_heldBy_2 4 rfl rfl)
theorem dX2_heldBy_51 : decode cX2_heldBy 51 = .ok (.goto (-39), 3) := dk_167 255 217 (dk_at dksX2_heldBy_2 5 rfl rfl)
theorem dX2_heldBy_54 : decode cX2_heldBy 54 = .ok (.iload_n 3, 1) := dk_29 (dk_at dksX2_heldBy_2 8 rfl rfl)
theorem dX2_heldBy_55 : decode cX2_heldBy 55 = .ok (.ireturn, 1) := dk_172 (dk_at dksX2_heldBy_2 9 rfl rfl)
abbrev cX2_code : ByteArray := prog_17_method_83_code
def yX2_code : MethodName := ⟨RX2, "code", "(I)I"⟩
def dkwX2_code_1 : List UInt8 := [167, 0, 4, 3, 181, 0, 44, 42, 180, 0, 44, 158, 0, 7, 3, 167, 0, 4, 28, 172]
abbrev dktX2_code_1 : List UInt8 := dkwX2_code_1 ++ []
def dkwX2_code_0 : List UInt8 := [42, 27, 182, 0, 185, 153, 0, 5, 3, 172, 42, 27, 182, 1, 147, 61, 42, 28, 2, 160, 0, 7, 5]
abbrev dktX2_code_0 : List UInt8 := dkwX2_code_0 ++ dktX2_code_1
theorem dksX2_code_0 : cX2_code.data.toList.drop 0 = dktX2_code_0 := by decide +kernel
theorem dksX2_code_1 : cX2_code.data.toList.drop 23 = dktX2_code_1 := dk_seg dksX2_code_0 23 rfl rfl
theorem dX2_code_0 : decode cX2_code 0 = .ok (.aload_n 0, 1) := dk_42 (dk_at dksX2_code_0 0 rfl rfl)
theorem dX2_code_1 : decode cX2_code 1 = .ok (.iload_n 1, 1) := dk_27 (dk_at dksX2_code_0 1 rfl rfl)
theorem dX2_code_2 : decode cX2_code 2 = .ok (.invokevirtual 185, 3) := dk_182 0 185 (dk_at dksX2_code_0 2 rfl rfl)
theorem dX2_code_5 : decode cX2_code 5 = .ok (.ifCond .eq 5, 3) := dk_153 0 5 (dk_at dksX2_code_0 5 rfl rfl)
theorem dX2_code_8 : decode cX2_code 8 = .ok (.iconst 0, 1) := dk_3 (dk_at dksX2_code_0 8 rfl rfl)
theorem dX2_code_9 : decode cX2_code 9 = .ok (.ireturn, 1) := dk_172 (dk_at dksX2_code_0 9 rfl rfl)
theorem dX2_code_10 : decode cX2_code 10 = .ok (.aload_n 0, 1) := dk_42 (dk_at dksX2_code_0 10 rfl rfl)
theorem dX2_code_11 : decode cX2_code 11 = .ok (.iload_n 1, 1) := dk_27 (dk_at dksX2_code_0 11 rfl rfl)
theorem dX2_code_12 : decode cX2_code 12 = .ok (.invokevirtual 403, 3) := dk_182 1 147 (dk_at dksX2_code_0 12 rfl rfl)
theorem dX2_code_15 : decode cX2_code 15 = .ok (.istore_n 2, 1) := dk_61 (dk_at dksX2_code_0 15 rfl rfl)
theorem dX2_code_16 : decode cX2_code 16 = .ok (.aload_n 0, 1) := dk_42 (dk_at dksX2_code_0 16 rfl rfl)
theorem dX2_code_17 : decode cX2_code 17 = .ok (.iload_n 2, 1) := dk_28 (dk_at dksX2_code_0 17 rfl rfl)
theorem dX2_code_18 : decode cX2_code 18 = .ok (.iconst (-1), 1) := dk_2 (dk_at dksX2_code_0 18 rfl rfl)
theorem dX2_code_19 : decode cX2_code 19 = .ok (.if_icmp .ne 7, 3) := dk_160 0 7 (dk_at dksX2_code_0 19 rfl rfl)
theorem dX2_code_22 : decode cX2_code 22 = .ok (.iconst 2, 1) := dk_5 (dk_at dksX2_code_0 22 rfl rfl)
theorem dX2_code_23 : decode cX2_code 23 = .ok (.goto 4, 3) := dk_167 0 4 (dk_at dksX2_code_1 0 rfl rfl)
theorem dX2_code_26 : decode cX2_code 26 = .ok (.iconst 0, 1) := dk_3 (dk_at dksX2_code_1 3 rfl rfl)
theorem dX2_code_27 : decode cX2_code 27 = .ok (.putfield 44, 3) := dk_181 0 44 (dk_at dksX2_code_1 4 rfl rfl)
theorem dX2_code_30 : decode cX2_code 30 = .ok (.aload_n 0, 1) := dk_42 (dk_at dksX2_code_1 7 rfl rfl)
theorem dX2_code_31 : decode cX2_code 31 = .ok (.getfield 44, 3) := dk_180 0 44 (dk_at dksX2_code_1 8 rfl rfl)
theorem dX2_code_34 : decode cX2_code 34 = .ok (.ifCond .le 7, 3) := dk_158 0 7 (dk_at dksX2_code_1 11 rfl rfl)
theorem dX2_code_37 : decode cX2_code 37 = .ok (.iconst 0, 1) := dk_3 (dk_at dksX2_code_1 14 rfl rfl)
theorem dX2_code_38 : decode cX2_code 38 = .ok (.goto 4, 3) := dk_167 0 4 (dk_at dksX2_code_1 15 rfl rfl)
theorem dX2_code_41 : decode cX2_code 41 = .ok (.iload_n 2, 1) := dk_28 (dk_at dksX2_code_1 18 rfl rfl)
theorem dX2_code_42 : decode cX2_code 42 = .ok (.ireturn, 1) := dk_172 (dk_at dksX2_code_1 19 rfl rfl)
abbrev cX2_codeOf : ByteArray := prog_17_method_82_code
def yX2_codeOf : MethodName := ⟨RX2, "codeOf", "(I)I"⟩
def dkwX2_codeOf_5 : List UInt8 := [46, 167, 0, 4, 29, 62, 132, 4, 1, 167, 255, 142, 29, 172]
abbrev dktX2_codeOf_5 : List UInt8 := dkwX2_codeOf_5 ++ []
def dkwX2_codeOf_4 : List UInt8 := [159, 0, 21, 42, 27, 25, 5, 5, 46, 182, 1, 144, 42, 27, 29, 182, 1, 144, 164, 0, 10, 25, 5, 5]
abbrev dktX2_codeOf_4 : List UInt8 := dkwX2_codeOf_4 ++ dktX2_codeOf_5
def dkwX2_codeOf_3 : List UInt8 := [159, 0, 7, 4, 167, 0, 4, 3, 54, 6, 132, 7, 1, 167, 255, 214, 21, 6, 153, 0, 33, 29, 2]
abbrev dktX2_codeOf_3 : List UInt8 := dkwX2_codeOf_3 ++ dktX2_codeOf_4
def dkwX2_codeOf_2 : List UInt8 := [162, 0, 39, 21, 6, 153, 0, 25, 44, 21, 7, 182, 0, 68, 192, 0, 180, 4, 46, 25, 5, 4, 46]
abbrev dktX2_codeOf_2 : List UInt8 := dkwX2_codeOf_2 ++ dktX2_codeOf_3
def dkwX2_codeOf_1 : List UInt8 := [182, 0, 68, 192, 0, 180, 58, 5, 4, 54, 6, 21, 4, 4, 96, 54, 7, 21, 7, 44, 182, 0, 48]
abbrev dktX2_codeOf_1 : List UInt8 := dkwX2_codeOf_1 ++ dktX2_codeOf_2
def dkwX2_codeOf_0 : List UInt8 := [42, 27, 182, 1, 137, 77, 2, 62, 3, 54, 4, 21, 4, 44, 182, 0, 48, 162, 0, 111, 44, 21, 4]
abbrev dktX2_codeOf_0 : List UInt8 := dkwX2_codeOf_0 ++ dktX2_codeOf_1
theorem dksX2_codeOf_0 : cX2_codeOf.data.toList.drop 0 = dktX2_codeOf_0 := by decide +kernel
theorem dksX2_codeOf_1 : cX2_codeOf.data.toList.drop 23 = dktX2_codeOf_1 := dk_seg dksX2_codeOf_0 23 rfl rfl
theorem dksX2_codeOf_2 : cX2_codeOf.data.toList.drop 46 = dktX2_codeOf_2 := dk_seg dksX2_codeOf_1 23 rfl rfl
theorem dksX2_codeOf_3 : cX2_codeOf.data.toList.drop 69 = dktX2_codeOf_3 := dk_seg dksX2_codeOf_2 23 rfl rfl
theorem dksX2_codeOf_4 : cX2_codeOf.data.toList.drop 92 = dktX2_codeOf_4 := dk_seg dksX2_codeOf_3 23 rfl rfl
theorem dksX2_codeOf_5 : cX2_codeOf.data.toList.drop 116 = dktX2_codeOf_5 := dk_seg dksX2_codeOf_4 24 rfl rfl
theorem dX2_codeOf_0 : decode cX2_codeOf 0 = .ok (.aload_n 0, 1) := dk_42 (dk_at dksX2_codeOf_0 0 rfl rfl)
theorem dX2_codeOf_1 : decode cX2_codeOf 1 = .ok (.iload_n 1, 1) := dk_27 (dk_at dksX2_codeOf_0 1 rfl rfl)
theorem dX2_codeOf_2 : decode cX2_codeOf 2 = .ok (.invokevirtual 393, 3) := dk_182 1 137 (dk_at dksX2_codeOf_0 2 rfl rfl)
theorem dX2_codeOf_5 : decode cX2_codeOf 5 = .ok (.astore_n 2, 1) := dk_77 (dk_at dksX2_codeOf_0 5 rfl rfl)
theorem dX2_codeOf_6 : decode cX2_codeOf 6 = .ok (.iconst (-1), 1) := dk_2 (dk_at dksX2_codeOf_0 6 rfl rfl)
theorem dX2_codeOf_7 : decode cX2_codeOf 7 = .ok (.istore_n 3, 1) := dk_62 (dk_at dksX2_codeOf_0 7 rfl rfl)
theorem dX2_codeOf_8 : decode cX2_codeOf 8 = .ok (.iconst 0, 1) := dk_3 (dk_at dksX2_codeOf_0 8 rfl rfl)
theorem dX2_codeOf_9 : decode cX2_codeOf 9 = .ok (.istore 4, 2) := dk_54 4 (dk_at dksX2_codeOf_0 9 rfl rfl)
theorem dX2_codeOf_11 : decode cX2_codeOf 11 = .ok (.iload 4, 2) := dk_21 4 (dk_at dksX2_codeOf_0 11 rfl rfl)
theorem dX2_codeOf_13 : decode cX2_codeOf 13 = .ok (.aload_n 2, 1) := dk_44 (dk_at dksX2_codeOf_0 13 rfl rfl)
theorem dX2_codeOf_14 : decode cX2_codeOf 14 = .ok (.invokevirtual 48, 3) := dk_182 0 48 (dk_at dksX2_codeOf_0 14 rfl rfl)
theorem dX2_codeOf_17 : decode cX2_codeOf 17 = .ok (.if_icmp .ge 111, 3) := dk_162 0 111 (dk_at dksX2_codeOf_0 17 rfl rfl)
theorem dX2_codeOf_20 : decode cX2_codeOf 20 = .ok (.aload_n 2, 1) := dk_44 (dk_at dksX2_codeOf_0 20 rfl rfl)
theorem dX2_codeOf_21 : decode cX2_codeOf 21 = .ok (.iload 4, 2) := dk_21 4 (dk_at dksX2_codeOf_0 21 rfl rfl)
theorem dX2_codeOf_23 : decode cX2_codeOf 23 = .ok (.invokevirtual 68, 3) := dk_182 0 68 (dk_at dksX2_codeOf_1 0 rfl rfl)
theorem dX2_codeOf_26 : decode cX2_codeOf 26 = .ok (.checkcast 180, 3) := dk_192 0 180 (dk_at dksX2_codeOf_1 3 rfl rfl)
theorem dX2_codeOf_29 : decode cX2_codeOf 29 = .ok (.astore 5, 2) := dk_58 5 (dk_at dksX2_codeOf_1 6 rfl rfl)
theorem dX2_codeOf_31 : decode cX2_codeOf 31 = .ok (.iconst 1, 1) := dk_4 (dk_at dksX2_codeOf_1 8 rfl rfl)
theorem dX2_codeOf_32 : decode cX2_codeOf 32 = .ok (.istore 6, 2) := dk_54 6 (dk_at dksX2_codeOf_1 9 rfl rfl)
theorem dX2_codeOf_34 : decode cX2_codeOf 34 = .ok (.iload 4, 2) := dk_21 4 (dk_at dksX2_codeOf_1 11 rfl rfl)
theorem dX2_codeOf_36 : decode cX2_codeOf 36 = .ok (.iconst 1, 1) := dk_4 (dk_at dksX2_codeOf_1 13 rfl rfl)
theorem dX2_codeOf_37 : decode cX2_codeOf 37 = .ok (.iadd, 1) := dk_96 (dk_at dksX2_codeOf_1 14 rfl rfl)
theorem dX2_codeOf_38 : decode cX2_codeOf 38 = .ok (.istore 7, 2) := dk_54 7 (dk_at dksX2_codeOf_1 15 rfl rfl)
theorem dX2_codeOf_40 : decode cX2_codeOf 40 = .ok (.iload 7, 2) := dk_21 7 (dk_at dksX2_codeOf_1 17 rfl rfl)
theorem dX2_codeOf_42 : decode cX2_codeOf 42 = .ok (.aload_n 2, 1) := dk_44 (dk_at dksX2_codeOf_1 19 rfl rfl)
theorem dX2_codeOf_43 : decode cX2_codeOf 43 = .ok (.invokevirtual 48, 3) := dk_182 0 48 (dk_at dksX2_codeOf_1 20 rfl rfl)
theorem dX2_codeOf_46 : decode cX2_codeOf 46 = .ok (.if_icmp .ge 39, 3) := dk_162 0 39 (dk_at dksX2_codeOf_2 0 rfl rfl)
theorem dX2_codeOf_49 : decode cX2_codeOf 49 = .ok (.iload 6, 2) := dk_21 6 (dk_at dksX2_codeOf_2 3 rfl rfl)
theorem dX2_codeOf_51 : decode cX2_codeOf 51 = .ok (.ifCond .eq 25, 3) := dk_153 0 25 (dk_at dksX2_codeOf_2 5 rfl rfl)
theorem dX2_codeOf_54 : decode cX2_codeOf 54 = .ok (.aload_n 2, 1) := dk_44 (dk_at dksX2_codeOf_2 8 rfl rfl)
theorem dX2_codeOf_55 : decode cX2_codeOf 55 = .ok (.iload 7, 2) := dk_21 7 (dk_at dksX2_codeOf_2 9 rfl rfl)
theorem dX2_codeOf_57 : decode cX2_codeOf 57 = .ok (.invokevirtual 68, 3) := dk_182 0 68 (dk_at dksX2_codeOf_2 11 rfl rfl)
theorem dX2_codeOf_60 : decode cX2_codeOf 60 = .ok (.checkcast 180, 3) := dk_192 0 180 (dk_at dksX2_codeOf_2 14 rfl rfl)
theorem dX2_codeOf_63 : decode cX2_codeOf 63 = .ok (.iconst 1, 1) := dk_4 (dk_at dksX2_codeOf_2 17 rfl rfl)
theorem dX2_codeOf_64 : decode cX2_codeOf 64 = .ok (.iaload, 1) := dk_46 (dk_at dksX2_codeOf_2 18 rfl rfl)
theorem dX2_codeOf_65 : decode cX2_codeOf 65 = .ok (.aload 5, 2) := dk_25 5 (dk_at dksX2_codeOf_2 19 rfl rfl)
theorem dX2_codeOf_67 : decode cX2_codeOf 67 = .ok (.iconst 1, 1) := dk_4 (dk_at dksX2_codeOf_2 21 rfl rfl)
theorem dX2_codeOf_68 : decode cX2_codeOf 68 = .ok (.iaload, 1) := dk_46 (dk_at dksX2_codeOf_2 22 rfl rfl)
theorem dX2_codeOf_69 : decode cX2_codeOf 69 = .ok (.if_icmp .eq 7, 3) := dk_159 0 7 (dk_at dksX2_codeOf_3 0 rfl rfl)
theorem dX2_codeOf_72 : decode cX2_codeOf 72 = .ok (.iconst 1, 1) := dk_4 (dk_at dksX2_codeOf_3 3 rfl rfl)
theorem dX2_codeOf_73 : decode cX2_codeOf 73 = .ok (.goto 4, 3) := dk_167 0 4 (dk_at dksX2_codeOf_3 4 rfl rfl)
theorem dX2_codeOf_76 : decode cX2_codeOf 76 = .ok (.iconst 0, 1) := dk_3 (dk_at dksX2_codeOf_3 7 rfl rfl)
theorem dX2_codeOf_77 : decode cX2_codeOf 77 = .ok (.istore 6, 2) := dk_54 6 (dk_at dksX2_codeOf_3 8 rfl rfl)
theorem dX2_codeOf_79 : decode cX2_codeOf 79 = .ok (.iinc 7 1, 3) := dk_132 7 1 (dk_at dksX2_codeOf_3 10 rfl rfl)
theorem dX2_codeOf_82 : decode cX2_codeOf 82 = .ok (.goto (-42), 3) := dk_167 255 214 (dk_at dksX2_codeOf_3 13 rfl rfl)
theorem dX2_codeOf_85 : decode cX2_codeOf 85 = .ok (.iload 6, 2) := dk_21 6 (dk_at dksX2_codeOf_3 16 rfl rfl)
theorem dX2_codeOf_87 : decode cX2_codeOf 87 = .ok (.ifCond .eq 33, 3) := dk_153 0 33 (dk_at dksX2_codeOf_3 18 rfl rfl)
theorem dX2_codeOf_90 : decode cX2_codeOf 90 = .ok (.iload_n 3, 1) := dk_29 (dk_at dksX2_codeOf_3 21 rfl rfl)
theorem dX2_codeOf_91 : decode cX2_codeOf 91 = .ok (.iconst (-1), 1) := dk_2 (dk_at dksX2_codeOf_3 22 rfl rfl)
theorem dX2_codeOf_92 : decode cX2_codeOf 92 = .ok (.if_icmp .eq 21, 3) := dk_159 0 21 (dk_at dksX2_codeOf_4 0 rfl rfl)
theorem dX2_codeOf_95 : decode cX2_codeOf 95 = .ok (.aload_n 0, 1) := dk_42 (dk_at dksX2_codeOf_4 3 rfl rfl)
theorem dX2_codeOf_96 : decode cX2_codeOf 96 = .ok (.iload_n 1, 1) := dk_27 (dk_at dksX2_codeOf_4 4 rfl rfl)
theorem dX2_codeOf_97 : decode cX2_codeOf 97 = .ok (.aload 5, 2) := dk_25 5 (dk_at dksX2_codeOf_4 5 rfl rfl)
theorem dX2_codeOf_99 : decode cX2_codeOf 99 = .ok (.iconst 2, 1) := dk_5 (dk_at dksX2_codeOf_4 7 rfl rfl)
theorem dX2_codeOf_100 : decode cX2_codeOf 100 = .ok (.iaload, 1) := dk_46 (dk_at dksX2_codeOf_4 8 rfl rfl)
theorem dX2_codeOf_101 : decode cX2_codeOf 101 = .ok (.invokevirtual 400, 3) := dk_182 1 144 (dk_at dksX2_codeOf_4 9 rfl rfl)
theorem dX2_codeOf_104 : decode cX2_codeOf 104 = .ok (.aload_n 0, 1) := dk_42 (dk_at dksX2_codeOf_4 12 rfl rfl)
theorem dX2_codeOf_105 : decode cX2_codeOf 105 = .ok (.iload_n 1, 1) := dk_27 (dk_at dksX2_codeOf_4 13 rfl rfl)
theorem dX2_codeOf_106 : decode cX2_codeOf 106 = .ok (.iload_n 3, 1) := dk_29 (dk_at dksX2_codeOf_4 14 rfl rfl)
theorem dX2_codeOf_107 : decode cX2_codeOf 107 = .ok (.invokevirtual 400, 3) := dk_182 1 144 (dk_at dksX2_codeOf_4 15 rfl rfl)
theorem dX2_codeOf_110 : decode cX2_codeOf 110 = .ok (.if_icmp .le 10, 3) := dk_164 0 10 (dk_at dksX2_codeOf_4 18 rfl rfl)
theorem dX2_codeOf_113 : decode cX2_codeOf 113 = .ok (.aload 5, 2) := dk_25 5 (dk_at dksX2_codeOf_4 21 rfl rfl)
theorem dX2_codeOf_115 : decode cX2_codeOf 115 = .ok (.iconst 2, 1) := dk_5 (dk_at dksX2_codeOf_4 23 rfl rfl)
theorem dX2_codeOf_116 : decode cX2_codeOf 116 = .ok (.iaload, 1) := dk_46 (dk_at dksX2_codeOf_5 0 rfl rfl)
theorem dX2_codeOf_117 : decode cX2_codeOf 117 = .ok (.goto 4, 3) := dk_167 0 4 (dk_at dksX2_codeOf_5 1 rfl rfl)
theorem dX2_codeOf_120 : decode cX2_codeOf 120 = .ok (.iload_n 3, 1) := dk_29 (dk_at dksX2_codeOf_5 4 rfl rfl)
theorem dX2_codeOf_121 : decode cX2_codeOf 121 = .ok (.istore_n 3, 1) := dk_62 (dk_at dksX2_codeOf_5 5 rfl rfl)
theorem dX2_codeOf_122 : decode cX2_codeOf 122 = .ok (.iinc 4 1, 3) := dk_132 4 1 (dk_at dksX2_codeOf_5 6 rfl rfl)
theorem dX2_codeOf_125 : decode cX2_codeOf 125 = .ok (.goto (-114), 3) := dk_167 255 142 (dk_at dksX2_codeOf_5 9 rfl rfl)
theorem dX2_codeOf_128 : decode cX2_codeOf 128 = .ok (.iload_n 3, 1) := dk_29 (dk_at dksX2_codeOf_5 12 rfl rfl)
theorem dX2_codeOf_129 : decode cX2_codeOf 129 = .ok (.ireturn, 1) := dk_172 (dk_at dksX2_codeOf_5 13 rfl rfl)
abbrev cX2_holders : ByteArray := prog_17_method_81_code
def yX2_holders : MethodName := ⟨RX2, "holders", "(II)I"⟩
def dkwX2_holders_1 : List UInt8 := [4, 167, 0, 4, 3, 96, 62, 132, 4, 1, 167, 255, 227, 29, 172]
abbrev dktX2_holders_1 : List UInt8 := dkwX2_holders_1 ++ []
def dkwX2_holders_0 : List UInt8 := [3, 62, 3, 54, 4, 21, 4, 16, 10, 162, 0, 28, 29, 42, 27, 21, 4, 182, 1, 141, 28, 160, 0, 7]
abbrev dktX2_holders_0 : List UInt8 := dkwX2_holders_0 ++ dktX2_holders_1
theorem dksX2_holders_0 : cX2_holders.data.toList.drop 0 = dktX2_holders_0 := by decide +kernel
theorem dksX2_holders_1 : cX2_holders.data.toList.drop 24 = dktX2_holders_1 := dk_seg dksX2_holders_0 24 rfl rfl
theorem dX2_holders_0 : decode cX2_holders 0 = .ok (.iconst 0, 1) := dk_3 (dk_at dksX2_holders_0 0 rfl rfl)
theorem dX2_holders_1 : decode cX2_holders 1 = .ok (.istore_n 3, 1) := dk_62 (dk_at dksX2_holders_0 1 rfl rfl)
theorem dX2_holders_2 : decode cX2_holders 2 = .ok (.iconst 0, 1) := dk_3 (dk_at dksX2_holders_0 2 rfl rfl)
theorem dX2_holders_3 : decode cX2_holders 3 = .ok (.istore 4, 2) := dk_54 4 (dk_at dksX2_holders_0 3 rfl rfl)
theorem dX2_holders_5 : decode cX2_holders 5 = .ok (.iload 4, 2) := dk_21 4 (dk_at dksX2_holders_0 5 rfl rfl)
theorem dX2_holders_7 : decode cX2_holders 7 = .ok (.bipush 10, 2) := dk_16 10 (dk_at dksX2_holders_0 7 rfl rfl)
theorem dX2_holders_9 : decode cX2_holders 9 = .ok (.if_icmp .ge 28, 3) := dk_162 0 28 (dk_at dksX2_holders_0 9 rfl rfl)
theorem dX2_holders_12 : decode cX2_holders 12 = .ok (.iload_n 3, 1) := dk_29 (dk_at dksX2_holders_0 12 rfl rfl)
theorem dX2_holders_13 : decode cX2_holders 13 = .ok (.aload_n 0, 1) := dk_42 (dk_at dksX2_holders_0 13 rfl rfl)
theorem dX2_holders_14 : decode cX2_holders 14 = .ok (.iload_n 1, 1) := dk_27 (dk_at dksX2_holders_0 14 rfl rfl)
theorem dX2_holders_15 : decode cX2_holders 15 = .ok (.iload 4, 2) := dk_21 4 (dk_at dksX2_holders_0 15 rfl rfl)
theorem dX2_holders_17 : decode cX2_holders 17 = .ok (.invokevirtual 397, 3) := dk_182 1 141 (dk_at dksX2_holders_0 17 rfl rfl)
theorem dX2_holders_20 : decode cX2_holders 20 = .ok (.iload_n 2, 1) := dk_28 (dk_at dksX2_holders_0 20 rfl rfl)
theorem dX2_holders_21 : decode cX2_holders 21 = .ok (.if_icmp .ne 7, 3) := dk_160 0 7 (dk_at dksX2_holders_0 21 rfl rfl)
theorem dX2_holders_24 : decode cX2_holders 24 = .ok (.iconst 1, 1) := dk_4 (dk_at dksX2_holders_1 0 rfl rfl)
theorem dX2_holders_25 : decode cX2_holders 25 = .ok (.goto 4, 3) := dk_167 0 4 (dk_at dksX2_holders_1 1 rfl rfl)
theorem dX2_holders_28 : decode cX2_holders 28 = .ok (.iconst 0, 1) := dk_3 (dk_at dksX2_holders_1 4 rfl rfl)
theorem dX2_holders_29 : decode cX2_holders 29 = .ok (.iadd, 1) := dk_96 (dk_at dksX2_holders_1 5 rfl rfl)
theorem dX2_holders_30 : decode cX2_holders 30 = .ok (.istore_n 3, 1) := dk_62 (dk_at dksX2_holders_1 6 rfl rfl)
theorem dX2_holders_31 : decode cX2_holders 31 = .ok (.iinc 4 1, 3) := dk_132 4 1 (dk_at dksX2_holders_1 7 rfl rfl)
theorem dX2_holders_34 : decode cX2_holders 34 = .ok (.goto (-29), 3) := dk_167 255 227 (dk_at dksX2_holders_1 10 rfl rfl)
theorem dX2_holders_37 : decode cX2_holders 37 = .ok (.iload_n 3, 1) := dk_29 (dk_at dksX2_holders_1 13 rfl rfl)
theorem dX2_holders_38 : decode cX2_holders 38 = .ok (.ireturn, 1) := dk_172 (dk_at dksX2_holders_1 14 rfl rfl)
abbrev cX2_told : ByteArray := prog_17_method_84_code
def yX2_told : MethodName := ⟨RX2, "told", "(II)I"⟩
def dkwX2_told_3 : List UInt8 := [192, 0, 180, 5, 46, 96, 172]
abbrev dktX2_told_3 : List UInt8 := dkwX2_told_3 ++ []
def dkwX2_told_2 : List UInt8 := [3, 167, 0, 27, 16, 100, 45, 28, 182, 0, 68, 192, 0, 180, 4, 46, 104, 45, 28, 182, 0, 68]
abbrev dktX2_told_2 : List UInt8 := dkwX2_told_2 ++ dktX2_told_3
def dkwX2_told_1 : List UInt8 := [4, 100, 133, 184, 0, 52, 153, 0, 7, 3, 167, 0, 4, 5, 181, 0, 44, 42, 180, 0, 44, 158, 0, 7]
abbrev dktX2_told_1 : List UInt8 := dkwX2_told_1 ++ dktX2_told_2
def dkwX2_told_0 : List UInt8 := [42, 27, 182, 0, 185, 153, 0, 5, 3, 172, 42, 27, 182, 1, 137, 78, 42, 28, 133, 9, 45, 182, 0, 48]
abbrev dktX2_told_0 : List UInt8 := dkwX2_told_0 ++ dktX2_told_1
theorem dksX2_told_0 : cX2_told.data.toList.drop 0 = dktX2_told_0 := by decide +kernel
theorem dksX2_told_1 : cX2_told.data.toList.drop 24 = dktX2_told_1 := dk_seg dksX2_told_0 24 rfl rfl
theorem dksX2_told_2 : cX2_told.data.toList.drop 48 = dktX2_told_2 := dk_seg dksX2_told_1 24 rfl rfl
theorem dksX2_told_3 : cX2_told.data.toList.drop 70 = dktX2_told_3 := dk_seg dksX2_told_2 22 rfl rfl
theorem dX2_told_0 : decode cX2_told 0 = .ok (.aload_n 0, 1) := dk_42 (dk_at dksX2_told_0 0 rfl rfl)
theorem dX2_told_1 : decode cX2_told 1 = .ok (.iload_n 1, 1) := dk_27 (dk_at dksX2_told_0 1 rfl rfl)
theorem dX2_told_2 : decode cX2_told 2 = .ok (.invokevirtual 185, 3) := dk_182 0 185 (dk_at dksX2_told_0 2 rfl rfl)
theorem dX2_told_5 : decode cX2_told 5 = .ok (.ifCond .eq 5, 3) := dk_153 0 5 (dk_at dksX2_told_0 5 rfl rfl)
theorem dX2_told_8 : decode cX2_told 8 = .ok (.iconst 0, 1) := dk_3 (dk_at dksX2_told_0 8 rfl rfl)
theorem dX2_told_9 : decode cX2_told 9 = .ok (.ireturn, 1) := dk_172 (dk_at dksX2_told_0 9 rfl rfl)
theorem dX2_told_10 : decode cX2_told 10 = .ok (.aload_n 0, 1) := dk_42 (dk_at dksX2_told_0 10 rfl rfl)
theorem dX2_told_11 : decode cX2_told 11 = .ok (.iload_n 1, 1) := dk_27 (dk_at dksX2_told_0 11 rfl rfl)
theorem dX2_told_12 : decode cX2_told 12 = .ok (.invokevirtual 393, 3) := dk_182 1 137 (dk_at dksX2_told_0 12 rfl rfl)
theorem dX2_told_15 : decode cX2_told 15 = .ok (.astore_n 3, 1) := dk_78 (dk_at dksX2_told_0 15 rfl rfl)
theorem dX2_told_16 : decode cX2_told 16 = .ok (.aload_n 0, 1) := dk_42 (dk_at dksX2_told_0 16 rfl rfl)
theorem dX2_told_17 : decode cX2_told 17 = .ok (.iload_n 2, 1) := dk_28 (dk_at dksX2_told_0 17 rfl rfl)
theorem dX2_told_18 : decode cX2_told 18 = .ok (.i2l, 1) := dk_133 (dk_at dksX2_told_0 18 rfl rfl)
theorem dX2_told_19 : decode cX2_told 19 = .ok (.lconst 0, 1) := dk_9 (dk_at dksX2_told_0 19 rfl rfl)
theorem dX2_told_20 : decode cX2_told 20 = .ok (.aload_n 3, 1) := dk_45 (dk_at dksX2_told_0 20 rfl rfl)
theorem dX2_told_21 : decode cX2_told 21 = .ok (.invokevirtual 48, 3) := dk_182 0 48 (dk_at dksX2_told_0 21 rfl rfl)
theorem dX2_told_24 : decode cX2_told 24 = .ok (.iconst 1, 1) := dk_4 (dk_at dksX2_told_1 0 rfl rfl)
theorem dX2_told_25 : decode cX2_told 25 = .ok (.isub, 1) := dk_100 (dk_at dksX2_told_1 1 rfl rfl)
theorem dX2_told_26 : decode cX2_told 26 = .ok (.i2l, 1) := dk_133 (dk_at dksX2_told_1 2 rfl rfl)
theorem dX2_told_27 : decode cX2_told 27 = .ok (.invokestatic 52, 3) := dk_184 0 52 (dk_at dksX2_told_1 3 rfl rfl)
theorem dX2_told_30 : decode cX2_told 30 = .ok (.ifCond .eq 7, 3) := dk_153 0 7 (dk_at dksX2_told_1 6 rfl rfl)
theorem dX2_told_33 : decode cX2_told 33 = .ok (.iconst 0, 1) := dk_3 (dk_at dksX2_told_1 9 rfl rfl)
theorem dX2_told_34 : decode cX2_told 34 = .ok (.goto 4, 3) := dk_167 0 4 (dk_at dksX2_told_1 10 rfl rfl)
theorem dX2_told_37 : decode cX2_told 37 = .ok (.iconst 2, 1) := dk_5 (dk_at dksX2_told_1 13 rfl rfl)
theorem dX2_told_38 : decode cX2_told 38 = .ok (.putfield 44, 3) := dk_181 0 44 (dk_at dksX2_told_1 14 rfl rfl)
theorem dX2_told_41 : decode cX2_told 41 = .ok (.aload_n 0, 1) := dk_42 (dk_at dksX2_told_1 17 rfl rfl)
theorem dX2_told_42 : decode cX2_told 42 = .ok (.getfield 44, 3) := dk_180 0 44 (dk_at dksX2_told_1 18 rfl rfl)
theorem dX2_told_45 : decode cX2_told 45 = .ok (.ifCond .le 7, 3) := dk_158 0 7 (dk_at dksX2_told_1 21 rfl rfl)
theorem dX2_told_48 : decode cX2_told 48 = .ok (.iconst 0, 1) := dk_3 (dk_at dksX2_told_2 0 rfl rfl)
theorem dX2_told_49 : decode cX2_told 49 = .ok (.goto 27, 3) := dk_167 0 27 (dk_at dksX2_told_2 1 rfl rfl)
theorem dX2_told_52 : decode cX2_told 52 = .ok (.bipush 100, 2) := dk_16 100 (dk_at dksX2_told_2 4 rfl rfl)
theorem dX2_told_54 : decode cX2_told 54 = .ok (.aload_n 3, 1) := dk_45 (dk_at dksX2_told_2 6 rfl rfl)
theorem dX2_told_55 : decode cX2_told 55 = .ok (.iload_n 2, 1) := dk_28 (dk_at dksX2_told_2 7 rfl rfl)
theorem dX2_told_56 : decode cX2_told 56 = .ok (.invokevirtual 68, 3) := dk_182 0 68 (dk_at dksX2_told_2 8 rfl rfl)
theorem dX2_told_59 : decode cX2_told 59 = .ok (.checkcast 180, 3) := dk_192 0 180 (dk_at dksX2_told_2 11 rfl rfl)
theorem dX2_told_62 : decode cX2_told 62 = .ok (.iconst 1, 1) := dk_4 (dk_at dksX2_told_2 14 rfl rfl)
theorem dX2_told_63 : decode cX2_told 63 = .ok (.iaload, 1) := dk_46 (dk_at dksX2_told_2 15 rfl rfl)
theorem dX2_told_64 : decode cX2_told 64 = .ok (.imul, 1) := dk_104 (dk_at dksX2_told_2 16 rfl rfl)
theorem dX2_told_65 : decode cX2_told 65 = .ok (.aload_n 3, 1) := dk_45 (dk_at dksX2_told_2 17 rfl rfl)
theorem dX2_told_66 : decode cX2_told 66 = .ok (.iload_n 2, 1) := dk_28 (dk_at dksX2_told_2 18 rfl rfl)
theorem dX2_told_67 : decode cX2_told 67 = .ok (.invokevirtual 68, 3) := dk_182 0 68 (dk_at dksX2_told_2 19 rfl rfl)
theorem dX2_told_70 : decode cX2_told 70 = .ok (.checkcast 180, 3) := dk_192 0 180 (dk_at dksX2_told_3 0 rfl rfl)
theorem dX2_told_73 : decode cX2_told 73 = .ok (.iconst 2, 1) := dk_5 (dk_at dksX2_told_3 3 rfl rfl)
theorem dX2_told_74 : decode cX2_told 74 = .ok (.iaload, 1) := dk_46 (dk_at dksX2_told_3 4 rfl rfl)
theorem dX2_told_75 : decode cX2_told 75 = .ok (.iadd, 1) := dk_96 (dk_at dksX2_told_3 5 rfl rfl)
theorem dX2_told_76 : decode cX2_told 76 = .ok (.ireturn, 1) := dk_172 (dk_at dksX2_told_3 6 rfl rfl)
abbrev cX2_fund : ByteArray := prog_17_method_85_code
def yX2_fund : MethodName := ⟨RX2, "fund", "(II)I"⟩
def dkwX2_fund_3 : List UInt8 := [4, 28, 79, 182, 0, 89, 87, 42, 180, 0, 37, 182, 0, 48, 4, 100, 172]
abbrev dktX2_fund_3 : List UInt8 := dkwX2_fund_3 ++ []
def dkwX2_fund_2 : List UInt8 := [181, 0, 44, 42, 180, 0, 44, 158, 0, 5, 3, 172, 42, 180, 0, 37, 5, 188, 10, 89, 3, 27, 79, 89]
abbrev dktX2_fund_2 : List UInt8 := dkwX2_fund_2 ++ dktX2_fund_3
def dkwX2_fund_1 : List UInt8 := [154, 0, 7, 4, 167, 0, 19, 42, 180, 0, 37, 182, 0, 48, 8, 160, 0, 7, 5, 167, 0, 4, 3]
abbrev dktX2_fund_1 : List UInt8 := dkwX2_fund_1 ++ dktX2_fund_2
def dkwX2_fund_0 : List UInt8 := [42, 27, 133, 9, 20, 1, 150, 184, 0, 52, 153, 0, 15, 28, 133, 10, 20, 0, 135, 184, 0, 52]
abbrev dktX2_fund_0 : List UInt8 := dkwX2_fund_0 ++ dktX2_fund_1
theorem dksX2_fund_0 : cX2_fund.data.toList.drop 0 = dktX2_fund_0 := by decide +kernel
theorem dksX2_fund_1 : cX2_fund.data.toList.drop 22 = dktX2_fund_1 := dk_seg dksX2_fund_0 22 rfl rfl
theorem dksX2_fund_2 : cX2_fund.data.toList.drop 45 = dktX2_fund_2 := dk_seg dksX2_fund_1 23 rfl rfl
theorem dksX2_fund_3 : cX2_fund.data.toList.drop 69 = dktX2_fund_3 := dk_seg dksX2_fund_2 24 rfl rfl
theorem dX2_fund_0 : decode cX2_fund 0 = .ok (.aload_n 0, 1) := dk_42 (dk_at dksX2_fund_0 0 rfl rfl)
theorem dX2_fund_1 : decode cX2_fund 1 = .ok (.iload_n 1, 1) := dk_27 (dk_at dksX2_fund_0 1 rfl rfl)
theorem dX2_fund_2 : decode cX2_fund 2 = .ok (.i2l, 1) := dk_133 (dk_at dksX2_fund_0 2 rfl rfl)
theorem dX2_fund_3 : decode cX2_fund 3 = .ok (.lconst 0, 1) := dk_9 (dk_at dksX2_fund_0 3 rfl rfl)
theorem dX2_fund_4 : decode cX2_fund 4 = .ok (.ldc2_w 406, 3) := dk_20 1 150 (dk_at dksX2_fund_0 4 rfl rfl)
theorem dX2_fund_7 : decode cX2_fund 7 = .ok (.invokestatic 52, 3) := dk_184 0 52 (dk_at dksX2_fund_0 7 rfl rfl)
theorem dX2_fund_10 : decode cX2_fund 10 = .ok (.ifCond .eq 15, 3) := dk_153 0 15 (dk_at dksX2_fund_0 10 rfl rfl)
theorem dX2_fund_13 : decode cX2_fund 13 = .ok (.iload_n 2, 1) := dk_28 (dk_at dksX2_fund_0 13 rfl rfl)
theorem dX2_fund_14 : decode cX2_fund 14 = .ok (.i2l, 1) := dk_133 (dk_at dksX2_fund_0 14 rfl rfl)
theorem dX2_fund_15 : decode cX2_fund 15 = .ok (.lconst 1, 1) := dk_10 (dk_at dksX2_fund_0 15 rfl rfl)
theorem dX2_fund_16 : decode cX2_fund 16 = .ok (.ldc2_w 135, 3) := dk_20 0 135 (dk_at dksX2_fund_0 16 rfl rfl)
theorem dX2_fund_19 : decode cX2_fund 19 = .ok (.invokestatic 52, 3) := dk_184 0 52 (dk_at dksX2_fund_0 19 rfl rfl)
theorem dX2_fund_22 : decode cX2_fund 22 = .ok (.ifCond .ne 7, 3) := dk_154 0 7 (dk_at dksX2_fund_1 0 rfl rfl)
theorem dX2_fund_25 : decode cX2_fund 25 = .ok (.iconst 1, 1) := dk_4 (dk_at dksX2_fund_1 3 rfl rfl)
theorem dX2_fund_26 : decode cX2_fund 26 = .ok (.goto 19, 3) := dk_167 0 19 (dk_at dksX2_fund_1 4 rfl rfl)
theorem dX2_fund_29 : decode cX2_fund 29 = .ok (.aload_n 0, 1) := dk_42 (dk_at dksX2_fund_1 7 rfl rfl)
theorem dX2_fund_30 : decode cX2_fund 30 = .ok (.getfield 37, 3) := dk_180 0 37 (dk_at dksX2_fund_1 8 rfl rfl)
theorem dX2_fund_33 : decode cX2_fund 33 = .ok (.invokevirtual 48, 3) := dk_182 0 48 (dk_at dksX2_fund_1 11 rfl rfl)
theorem dX2_fund_36 : decode cX2_fund 36 = .ok (.iconst 5, 1) := dk_8 (dk_at dksX2_fund_1 14 rfl rfl)
theorem dX2_fund_37 : decode cX2_fund 37 = .ok (.if_icmp .ne 7, 3) := dk_160 0 7 (dk_at dksX2_fund_1 15 rfl rfl)
theorem dX2_fund_40 : decode cX2_fund 40 = .ok (.iconst 2, 1) := dk_5 (dk_at dksX2_fund_1 18 rfl rfl)
theorem dX2_fund_41 : decode cX2_fund 41 = .ok (.goto 4, 3) := dk_167 0 4 (dk_at dksX2_fund_1 19 rfl rfl)
theorem dX2_fund_44 : decode cX2_fund 44 = .ok (.iconst 0, 1) := dk_3 (dk_at dksX2_fund_1 22 rfl rfl)
theorem dX2_fund_45 : decode cX2_fund 45 = .ok (.putfield 44, 3) := dk_181 0 44 (dk_at dksX2_fund_2 0 rfl rfl)
theorem dX2_fund_48 : decode cX2_fund 48 = .ok (.aload_n 0, 1) := dk_42 (dk_at dksX2_fund_2 3 rfl rfl)
theorem dX2_fund_49 : decode cX2_fund 49 = .ok (.getfield 44, 3) := dk_180 0 44 (dk_at dksX2_fund_2 4 rfl rfl)
theorem dX2_fund_52 : decode cX2_fund 52 = .ok (.ifCond .le 5, 3) := dk_158 0 5 (dk_at dksX2_fund_2 7 rfl rfl)
theorem dX2_fund_55 : decode cX2_fund 55 = .ok (.iconst 0, 1) := dk_3 (dk_at dksX2_fund_2 10 rfl rfl)
theorem dX2_fund_56 : decode cX2_fund 56 = .ok (.ireturn, 1) := dk_172 (dk_at dksX2_fund_2 11 rfl rfl)
theorem dX2_fund_57 : decode cX2_fund 57 = .ok (.aload_n 0, 1) := dk_42 (dk_at dksX2_fund_2 12 rfl rfl)
theorem dX2_fund_58 : decode cX2_fund 58 = .ok (.getfield 37, 3) := dk_180 0 37 (dk_at dksX2_fund_2 13 rfl rfl)
theorem dX2_fund_61 : decode cX2_fund 61 = .ok (.iconst 2, 1) := dk_5 (dk_at dksX2_fund_2 16 rfl rfl)
theorem dX2_fund_62 : decode cX2_fund 62 = .ok (.newarray .int, 2) := dk_188_10 (dk_at dksX2_fund_2 17 rfl rfl)
theorem dX2_fund_64 : decode cX2_fund 64 = .ok (.dup, 1) := dk_89 (dk_at dksX2_fund_2 19 rfl rfl)
theorem dX2_fund_65 : decode cX2_fund 65 = .ok (.iconst 0, 1) := dk_3 (dk_at dksX2_fund_2 20 rfl rfl)
theorem dX2_fund_66 : decode cX2_fund 66 = .ok (.iload_n 1, 1) := dk_27 (dk_at dksX2_fund_2 21 rfl rfl)
theorem dX2_fund_67 : decode cX2_fund 67 = .ok (.iastore, 1) := dk_79 (dk_at dksX2_fund_2 22 rfl rfl)
theorem dX2_fund_68 : decode cX2_fund 68 = .ok (.dup, 1) := dk_89 (dk_at dksX2_fund_2 23 rfl rfl)
theorem dX2_fund_69 : decode cX2_fund 69 = .ok (.iconst 1, 1) := dk_4 (dk_at dksX2_fund_3 0 rfl rfl)
theorem dX2_fund_70 : decode cX2_fund 70 = .ok (.iload_n 2, 1) := dk_28 (dk_at dksX2_fund_3 1 rfl rfl)
theorem dX2_fund_71 : decode cX2_fund 71 = .ok (.iastore, 1) := dk_79 (dk_at dksX2_fund_3 2 rfl rfl)
theorem dX2_fund_72 : decode cX2_fund 72 = .ok (.invokevirtual 89, 3) := dk_182 0 89 (dk_at dksX2_fund_3 3 rfl rfl)
theorem dX2_fund_75 : decode cX2_fund 75 = .ok (.pop, 1) := dk_87 (dk_at dksX2_fund_3 6 rfl rfl)
theorem dX2_fund_76 : decode cX2_fund 76 = .ok (.aload_n 0, 1) := dk_42 (dk_at dksX2_fund_3 7 rfl rfl)
theorem dX2_fund_77 : decode cX2_fund 77 = .ok (.getfield 37, 3) := dk_180 0 37 (dk_at dksX2_fund_3 8 rfl rfl)
theorem dX2_fund_80 : decode cX2_fund 80 = .ok (.invokevirtual 48, 3) := dk_182 0 48 (dk_at dksX2_fund_3 11 rfl rfl)
theorem dX2_fund_83 : decode cX2_fund 83 = .ok (.iconst 1, 1) := dk_4 (dk_at dksX2_fund_3 14 rfl rfl)
theorem dX2_fund_84 : decode cX2_fund 84 = .ok (.isub, 1) := dk_100 (dk_at dksX2_fund_3 15 rfl rfl)
theorem dX2_fund_85 : decode cX2_fund 85 = .ok (.ireturn, 1) := dk_172 (dk_at dksX2_fund_3 16 rfl rfl)
abbrev cX2_money : ByteArray := prog_17_method_86_code
def yX2_money : MethodName := ⟨RX2, "money", "(I)I"⟩
def dkwX2_money_2 : List UInt8 := [192, 0, 180, 3, 46, 172]
abbrev dktX2_money_2 : List UInt8 := dkwX2_money_2 ++ []
def dkwX2_money_1 : List UInt8 := [4, 181, 0, 44, 42, 180, 0, 44, 158, 0, 7, 3, 167, 0, 16, 42, 180, 0, 37, 27, 182, 0, 68]
abbrev dktX2_money_1 : List UInt8 := dkwX2_money_1 ++ dktX2_money_2
def dkwX2_money_0 : List UInt8 := [42, 27, 133, 9, 42, 180, 0, 37, 182, 0, 48, 4, 100, 133, 184, 0, 52, 153, 0, 7, 3, 167, 0, 4]
abbrev dktX2_money_0 : List UInt8 := dkwX2_money_0 ++ dktX2_money_1
theorem dksX2_money_0 : cX2_money.data.toList.drop 0 = dktX2_money_0 := by decide +kernel
theorem dksX2_money_1 : cX2_money.data.toList.drop 24 = dktX2_money_1 := dk_seg dksX2_money_0 24 rfl rfl
theorem dksX2_money_2 : cX2_money.data.toList.drop 47 = dktX2_money_2 := dk_seg dksX2_money_1 23 rfl rfl
theorem dX2_money_0 : decode cX2_money 0 = .ok (.aload_n 0, 1) := dk_42 (dk_at dksX2_money_0 0 rfl rfl)
theorem dX2_money_1 : decode cX2_money 1 = .ok (.iload_n 1, 1) := dk_27 (dk_at dksX2_money_0 1 rfl rfl)
theorem dX2_money_2 : decode cX2_money 2 = .ok (.i2l, 1) := dk_133 (dk_at dksX2_money_0 2 rfl rfl)
theorem dX2_money_3 : decode cX2_money 3 = .ok (.lconst 0, 1) := dk_9 (dk_at dksX2_money_0 3 rfl rfl)
theorem dX2_money_4 : decode cX2_money 4 = .ok (.aload_n 0, 1) := dk_42 (dk_at dksX2_money_0 4 rfl rfl)
theorem dX2_money_5 : decode cX2_money 5 = .ok (.getfield 37, 3) := dk_180 0 37 (dk_at dksX2_money_0 5 rfl rfl)
theorem dX2_money_8 : decode cX2_money 8 = .ok (.invokevirtual 48, 3) := dk_182 0 48 (dk_at dksX2_money_0 8 rfl rfl)
theorem dX2_money_11 : decode cX2_money 11 = .ok (.iconst 1, 1) := dk_4 (dk_at dksX2_money_0 11 rfl rfl)
theorem dX2_money_12 : decode cX2_money 12 = .ok (.isub, 1) := dk_100 (dk_at dksX2_money_0 12 rfl rfl)
theorem dX2_money_13 : decode cX2_money 13 = .ok (.i2l, 1) := dk_133 (dk_at dksX2_money_0 13 rfl rfl)
theorem dX2_money_14 : decode cX2_money 14 = .ok (.invokestatic 52, 3) := dk_184 0 52 (dk_at dksX2_money_0 14 rfl rfl)
theorem dX2_money_17 : decode cX2_money 17 = .ok (.ifCond .eq 7, 3) := dk_153 0 7 (dk_at dksX2_money_0 17 rfl rfl)
theorem dX2_money_20 : decode cX2_money 20 = .ok (.iconst 0, 1) := dk_3 (dk_at dksX2_money_0 20 rfl rfl)
theorem dX2_money_21 : decode cX2_money 21 = .ok (.goto 4, 3) := dk_167 0 4 (dk_at dksX2_money_0 21 rfl rfl)
theorem dX2_money_24 : decode cX2_money 24 = .ok (.iconst 1, 1) := dk_4 (dk_at dksX2_money_1 0 rfl rfl)
theorem dX2_money_25 : decode cX2_money 25 = .ok (.putfield 44, 3) := dk_181 0 44 (dk_at dksX2_money_1 1 rfl rfl)
theorem dX2_money_28 : decode cX2_money 28 = .ok (.aload_n 0, 1) := dk_42 (dk_at dksX2_money_1 4 rfl rfl)
theorem dX2_money_29 : decode cX2_money 29 = .ok (.getfield 44, 3) := dk_180 0 44 (dk_at dksX2_money_1 5 rfl rfl)
theorem dX2_money_32 : decode cX2_money 32 = .ok (.ifCond .le 7, 3) := dk_158 0 7 (dk_at dksX2_money_1 8 rfl rfl)
theorem dX2_money_35 : decode cX2_money 35 = .ok (.iconst 0, 1) := dk_3 (dk_at dksX2_money_1 11 rfl rfl)
theorem dX2_money_36 : decode cX2_money 36 = .ok (.goto 16, 3) := dk_167 0 16 (dk_at dksX2_money_1 12 rfl rfl)
theorem dX2_money_39 : decode cX2_money 39 = .ok (.aload_n 0, 1) := dk_42 (dk_at dksX2_money_1 15 rfl rfl)
theorem dX2_money_40 : decode cX2_money 40 = .ok (.getfield 37, 3) := dk_180 0 37 (dk_at dksX2_money_1 16 rfl rfl)
theorem dX2_money_43 : decode cX2_money 43 = .ok (.iload_n 1, 1) := dk_27 (dk_at dksX2_money_1 19 rfl rfl)
theorem dX2_money_44 : decode cX2_money 44 = .ok (.invokevirtual 68, 3) := dk_182 0 68 (dk_at dksX2_money_1 20 rfl rfl)
theorem dX2_money_47 : decode cX2_money 47 = .ok (.checkcast 180, 3) := dk_192 0 180 (dk_at dksX2_money_2 0 rfl rfl)
theorem dX2_money_50 : decode cX2_money 50 = .ok (.iconst 0, 1) := dk_3 (dk_at dksX2_money_2 3 rfl rfl)
theorem dX2_money_51 : decode cX2_money 51 = .ok (.iaload, 1) := dk_46 (dk_at dksX2_money_2 4 rfl rfl)
theorem dX2_money_52 : decode cX2_money 52 = .ok (.ireturn, 1) := dk_172 (dk_at dksX2_money_2 5 rfl rfl)
abbrev cX2_water : ByteArray := prog_17_method_92_code
def yX2_water : MethodName := ⟨RX2, "water", "(III)I"⟩
def dkwX2_water_7 : List UInt8 := [132, 6, 1, 167, 255, 157, 21, 5, 172]
abbrev dktX2_water_7 : List UInt8 := dkwX2_water_7 ++ []
def dkwX2_water_6 : List UInt8 := [153, 0, 23, 21, 8, 154, 0, 18, 132, 5, 1, 42, 25, 7, 16, 102, 28, 3, 182, 0, 223, 54, 9]
abbrev dktX2_water_6 : List UInt8 := dkwX2_water_6 ++ dktX2_water_7
def dkwX2_water_5 : List UInt8 := [182, 1, 175, 54, 8, 42, 25, 7, 16, 114, 27, 182, 0, 253, 153, 0, 32, 42, 25, 7, 182, 1, 155]
abbrev dktX2_water_5 : List UInt8 := dkwX2_water_5 ++ dktX2_water_6
def dkwX2_water_4 : List UInt8 := [25, 4, 25, 7, 180, 0, 63, 2, 160, 0, 8, 21, 6, 167, 0, 8, 25, 7, 180, 0, 63, 184, 1, 28]
abbrev dktX2_water_4 : List UInt8 := dkwX2_water_4 ++ dktX2_water_5
def dkwX2_water_3 : List UInt8 := [180, 0, 19, 182, 0, 48, 162, 0, 93, 42, 180, 0, 19, 21, 6, 182, 0, 68, 192, 0, 64, 58, 7]
abbrev dktX2_water_3 : List UInt8 := dkwX2_water_3 ++ dktX2_water_4
def dkwX2_water_2 : List UInt8 := [158, 0, 5, 3, 172, 42, 27, 29, 182, 1, 171, 58, 4, 3, 54, 5, 3, 54, 6, 21, 6, 42]
abbrev dktX2_water_2 : List UInt8 := dkwX2_water_2 ++ dktX2_water_3
def dkwX2_water_1 : List UInt8 := [133, 9, 20, 0, 163, 184, 0, 52, 153, 0, 7, 3, 167, 0, 4, 5, 181, 0, 44, 42, 180, 0, 44]
abbrev dktX2_water_1 : List UInt8 := dkwX2_water_1 ++ dktX2_water_2
def dkwX2_water_0 : List UInt8 := [42, 27, 182, 0, 147, 153, 0, 5, 3, 172, 42, 28, 133, 10, 20, 1, 169, 184, 0, 52, 153, 0, 19, 29]
abbrev dktX2_water_0 : List UInt8 := dkwX2_water_0 ++ dktX2_water_1
theorem dksX2_water_0 : cX2_water.data.toList.drop 0 = dktX2_water_0 := by decide +kernel
theorem dksX2_water_1 : cX2_water.data.toList.drop 24 = dktX2_water_1 := dk_seg dksX2_water_0 24 rfl rfl
theorem dksX2_water_2 : cX2_water.data.toList.drop 47 = dktX2_water_2 := dk_seg dksX2_water_1 23 rfl rfl
theorem dksX2_water_3 : cX2_water.data.toList.drop 69 = dktX2_water_3 := dk_seg dksX2_water_2 22 rfl rfl
theorem dksX2_water_4 : cX2_water.data.toList.drop 92 = dktX2_water_4 := dk_seg dksX2_water_3 23 rfl rfl
theorem dksX2_water_5 : cX2_water.data.toList.drop 116 = dktX2_water_5 := dk_seg dksX2_water_4 24 rfl rfl
theorem dksX2_water_6 : cX2_water.data.toList.drop 139 = dktX2_water_6 := dk_seg dksX2_water_5 23 rfl rfl
theorem dksX2_water_7 : cX2_water.data.toList.drop 162 = dktX2_water_7 := dk_seg dksX2_water_6 23 rfl rfl
theorem dX2_water_0 : decode cX2_water 0 = .ok (.aload_n 0, 1) := dk_42 (dk_at dksX2_water_0 0 rfl rfl)
theorem dX2_water_1 : decode cX2_water 1 = .ok (.iload_n 1, 1) := dk_27 (dk_at dksX2_water_0 1 rfl rfl)
theorem dX2_water_2 : decode cX2_water 2 = .ok (.invokevirtual 147, 3) := dk_182 0 147 (dk_at dksX2_water_0 2 rfl rfl)
theorem dX2_water_5 : decode cX2_water 5 = .ok (.ifCond .eq 5, 3) := dk_153 0 5 (dk_at dksX2_water_0 5 rfl rfl)
theorem dX2_water_8 : decode cX2_water 8 = .ok (.iconst 0, 1) := dk_3 (dk_at dksX2_water_0 8 rfl rfl)
theorem dX2_water_9 : decode cX2_water 9 = .ok (.ireturn, 1) := dk_172 (dk_at dksX2_water_0 9 rfl rfl)
theorem dX2_water_10 : decode cX2_water 10 = .ok (.aload_n 0, 1) := dk_42 (dk_at dksX2_water_0 10 rfl rfl)
theorem dX2_water_11 : decode cX2_water 11 = .ok (.iload_n 2, 1) := dk_28 (dk_at dksX2_water_0 11 rfl rfl)
theorem dX2_water_12 : decode cX2_water 12 = .ok (.i2l, 1) := dk_133 (dk_at dksX2_water_0 12 rfl rfl)
theorem dX2_water_13 : decode cX2_water 13 = .ok (.lconst 1, 1) := dk_10 (dk_at dksX2_water_0 13 rfl rfl)
theorem dX2_water_14 : decode cX2_water 14 = .ok (.ldc2_w 425, 3) := dk_20 1 169 (dk_at dksX2_water_0 14 rfl rfl)
theorem dX2_water_17 : decode cX2_water 17 = .ok (.invokestatic 52, 3) := dk_184 0 52 (dk_at dksX2_water_0 17 rfl rfl)
theorem dX2_water_20 : decode cX2_water 20 = .ok (.ifCond .eq 19, 3) := dk_153 0 19 (dk_at dksX2_water_0 20 rfl rfl)
theorem dX2_water_23 : decode cX2_water 23 = .ok (.iload_n 3, 1) := dk_29 (dk_at dksX2_water_0 23 rfl rfl)
theorem dX2_water_24 : decode cX2_water 24 = .ok (.i2l, 1) := dk_133 (dk_at dksX2_water_1 0 rfl rfl)
theorem dX2_water_25 : decode cX2_water 25 = .ok (.lconst 0, 1) := dk_9 (dk_at dksX2_water_1 1 rfl rfl)
theorem dX2_water_26 : decode cX2_water 26 = .ok (.ldc2_w 163, 3) := dk_20 0 163 (dk_at dksX2_water_1 2 rfl rfl)
theorem dX2_water_29 : decode cX2_water 29 = .ok (.invokestatic 52, 3) := dk_184 0 52 (dk_at dksX2_water_1 5 rfl rfl)
theorem dX2_water_32 : decode cX2_water 32 = .ok (.ifCond .eq 7, 3) := dk_153 0 7 (dk_at dksX2_water_1 8 rfl rfl)
theorem dX2_water_35 : decode cX2_water 35 = .ok (.iconst 0, 1) := dk_3 (dk_at dksX2_water_1 11 rfl rfl)
theorem dX2_water_36 : decode cX2_water 36 = .ok (.goto 4, 3) := dk_167 0 4 (dk_at dksX2_water_1 12 rfl rfl)
theorem dX2_water_39 : decode cX2_water 39 = .ok (.iconst 2, 1) := dk_5 (dk_at dksX2_water_1 15 rfl rfl)
theorem dX2_water_40 : decode cX2_water 40 = .ok (.putfield 44, 3) := dk_181 0 44 (dk_at dksX2_water_1 16 rfl rfl)
theorem dX2_water_43 : decode cX2_water 43 = .ok (.aload_n 0, 1) := dk_42 (dk_at dksX2_water_1 19 rfl rfl)
theorem dX2_water_44 : decode cX2_water 44 = .ok (.getfield 44, 3) := dk_180 0 44 (dk_at dksX2_water_1 20 rfl rfl)
theorem dX2_water_47 : decode cX2_water 47 = .ok (.ifCond .le 5, 3) := dk_158 0 5 (dk_at dksX2_water_2 0 rfl rfl)
theorem dX2_water_50 : decode cX2_water 50 = .ok (.iconst 0, 1) := dk_3 (dk_at dksX2_water_2 3 rfl rfl)
theorem dX2_water_51 : decode cX2_water 51 = .ok (.ireturn, 1) := dk_172 (dk_at dksX2_water_2 4 rfl rfl)
theorem dX2_water_52 : decode cX2_water 52 = .ok (.aload_n 0, 1) := dk_42 (dk_at dksX2_water_2 5 rfl rfl)
theorem dX2_water_53 : decode cX2_water 53 = .ok (.iload_n 1, 1) := dk_27 (dk_at dksX2_water_2 6 rfl rfl)
theorem dX2_water_54 : decode cX2_water 54 = .ok (.iload_n 3, 1) := dk_29 (dk_at dksX2_water_2 7 rfl rfl)
theorem dX2_water_55 : decode cX2_water 55 = .ok (.invokevirtual 427, 3) := dk_182 1 171 (dk_at dksX2_water_2 8 rfl rfl)
theorem dX2_water_58 : decode cX2_water 58 = .ok (.astore 4, 2) := dk_58 4 (dk_at dksX2_water_2 11 rfl rfl)
theorem dX2_water_60 : decode cX2_water 60 = .ok (.iconst 0, 1) := dk_3 (dk_at dksX2_water_2 13 rfl rfl)
theorem dX2_water_61 : decode cX2_water 61 = .ok (.istore 5, 2) := dk_54 5 (dk_at dksX2_water_2 14 rfl rfl)
theorem dX2_water_63 : decode cX2_water 63 = .ok (.iconst 0, 1) := dk_3 (dk_at dksX2_water_2 16 rfl rfl)
theorem dX2_water_64 : decode cX2_water 64 = .ok (.istore 6, 2) := dk_54 6 (dk_at dksX2_water_2 17 rfl rfl)
theorem dX2_water_66 : decode cX2_water 66 = .ok (.iload 6, 2) := dk_21 6 (dk_at dksX2_water_2 19 rfl rfl)
theorem dX2_water_68 : decode cX2_water 68 = .ok (.aload_n 0, 1) := dk_42 (dk_at dksX2_water_2 21 rfl rfl)
theorem dX2_water_69 : decode cX2_water 69 = .ok (.getfield 19, 3) := dk_180 0 19 (dk_at dksX2_water_3 0 rfl rfl)
theorem dX2_water_72 : decode cX2_water 72 = .ok (.invokevirtual 48, 3) := dk_182 0 48 (dk_at dksX2_water_3 3 rfl rfl)
theorem dX2_water_75 : decode cX2_water 75 = .ok (.if_icmp .ge 93, 3) := dk_162 0 93 (dk_at dksX2_water_3 6 rfl rfl)
theorem dX2_water_78 : decode cX2_water 78 = .ok (.aload_n 0, 1) := dk_42 (dk_at dksX2_water_3 9 rfl rfl)
theorem dX2_water_79 : decode cX2_water 79 = .ok (.getfield 19, 3) := dk_180 0 19 (dk_at dksX2_water_3 10 rfl rfl)
theorem dX2_water_82 : decode cX2_water 82 = .ok (.iload 6, 2) := dk_21 6 (dk_at dksX2_water_3 13 rfl rfl)
theorem dX2_water_84 : decode cX2_water 84 = .ok (.invokevirtual 68, 3) := dk_182 0 68 (dk_at dksX2_water_3 15 rfl rfl)
theorem dX2_water_87 : decode cX2_water 87 = .ok (.checkcast 64, 3) := dk_192 0 64 (dk_at dksX2_water_3 18 rfl rfl)
theorem dX2_water_90 : decode cX2_water 90 = .ok (.astore 7, 2) := dk_58 7 (dk_at dksX2_water_3 21 rfl rfl)
theorem dX2_water_92 : decode cX2_water 92 = .ok (.aload 4, 2) := dk_25 4 (dk_at dksX2_water_4 0 rfl rfl)
theorem dX2_water_94 : decode cX2_water 94 = .ok (.aload 7, 2) := dk_25 7 (dk_at dksX2_water_4 2 rfl rfl)
theorem dX2_water_96 : decode cX2_water 96 = .ok (.getfield 63, 3) := dk_180 0 63 (dk_at dksX2_water_4 4 rfl rfl)
theorem dX2_water_99 : decode cX2_water 99 = .ok (.iconst (-1), 1) := dk_2 (dk_at dksX2_water_4 7 rfl rfl)
theorem dX2_water_100 : decode cX2_water 100 = .ok (.if_icmp .ne 8, 3) := dk_160 0 8 (dk_at dksX2_water_4 8 rfl rfl)
theorem dX2_water_103 : decode cX2_water 103 = .ok (.iload 6, 2) := dk_21 6 (dk_at dksX2_water_4 11 rfl rfl)
theorem dX2_water_105 : decode cX2_water 105 = .ok (.goto 8, 3) := dk_167 0 8 (dk_at dksX2_water_4 13 rfl rfl)
theorem dX2_water_108 : decode cX2_water 108 = .ok (.aload 7, 2) := dk_25 7 (dk_at dksX2_water_4 16 rfl rfl)
theorem dX2_water_110 : decode cX2_water 110 = .ok (.getfield 63, 3) := dk_180 0 63 (dk_at dksX2_water_4 18 rfl rfl)
theorem dX2_water_113 : decode cX2_water 113 = .ok (.invokestatic 284, 3) := dk_184 1 28 (dk_at dksX2_water_4 21 rfl rfl)
theorem dX2_water_116 : decode cX2_water 116 = .ok (.invokevirtual 431, 3) := dk_182 1 175 (dk_at dksX2_water_5 0 rfl rfl)
theorem dX2_water_119 : decode cX2_water 119 = .ok (.istore 8, 2) := dk_54 8 (dk_at dksX2_water_5 3 rfl rfl)
theorem dX2_water_121 : decode cX2_water 121 = .ok (.aload_n 0, 1) := dk_42 (dk_at dksX2_water_5 5 rfl rfl)
theorem dX2_water_122 : decode cX2_water 122 = .ok (.aload 7, 2) := dk_25 7 (dk_at dksX2_water_5 6 rfl rfl)
theorem dX2_water_124 : decode cX2_water 124 = .ok (.bipush 114, 2) := dk_16 114 (dk_at dksX2_water_5 8 rfl rfl)
theorem dX2_water_126 : decode cX2_water 126 = .ok (.iload_n 1, 1) := dk_27 (dk_at dksX2_water_5 10 rfl rfl)
theorem dX2_water_127 : decode cX2_water 127 = .ok (.invokevirtual 253, 3) := dk_182 0 253 (dk_at dksX2_water_5 11 rfl rfl)
theorem dX2_water_130 : decode cX2_water 130 = .ok (.ifCond .eq 32, 3) := dk_153 0 32 (dk_at dksX2_water_5 14 rfl rfl)
theorem dX2_water_133 : decode cX2_water 133 = .ok (.aload_n 0, 1) := dk_42 (dk_at dksX2_water_5 17 rfl rfl)
theorem dX2_water_134 : decode cX2_water 134 = .ok (.aload 7, 2) := dk_25 7 (dk_at dksX2_water_5 18 rfl rfl)
theorem dX2_water_136 : decode cX2_water 136 = .ok (.invokevirtual 411, 3) := dk_182 1 155 (dk_at dksX2_water_5 20 rfl rfl)
theorem dX2_water_139 : decode cX2_water 139 = .ok (.ifCond .eq 23, 3) := dk_153 0 23 (dk_at dksX2_water_6 0 rfl rfl)
theorem dX2_water_142 : decode cX2_water 142 = .ok (.iload 8, 2) := dk_21 8 (dk_at dksX2_water_6 3 rfl rfl)
theorem dX2_water_144 : decode cX2_water 144 = .ok (.ifCond .ne 18, 3) := dk_154 0 18 (dk_at dksX2_water_6 5 rfl rfl)
theorem dX2_water_147 : decode cX2_water 147 = .ok (.iinc 5 1, 3) := dk_132 5 1 (dk_at dksX2_water_6 8 rfl rfl)
theorem dX2_water_150 : decode cX2_water 150 = .ok (.aload_n 0, 1) := dk_42 (dk_at dksX2_water_6 11 rfl rfl)
theorem dX2_water_151 : decode cX2_water 151 = .ok (.aload 7, 2) := dk_25 7 (dk_at dksX2_water_6 12 rfl rfl)
theorem dX2_water_153 : decode cX2_water 153 = .ok (.bipush 102, 2) := dk_16 102 (dk_at dksX2_water_6 14 rfl rfl)
theorem dX2_water_155 : decode cX2_water 155 = .ok (.iload_n 2, 1) := dk_28 (dk_at dksX2_water_6 16 rfl rfl)
theorem dX2_water_156 : decode cX2_water 156 = .ok (.iconst 0, 1) := dk_3 (dk_at dksX2_water_6 17 rfl rfl)
theorem dX2_water_157 : decode cX2_water 157 = .ok (.invokevirtual 223, 3) := dk_182 0 223 (dk_at dksX2_water_6 18 rfl rfl)
theorem dX2_water_160 : decode cX2_water 160 = .ok (.istore 9, 2) := dk_54 9 (dk_at dksX2_water_6 21 rfl rfl)
theorem dX2_water_162 : decode cX2_water 162 = .ok (.iinc 6 1, 3) := dk_132 6 1 (dk_at dksX2_water_7 0 rfl rfl)
theorem dX2_water_165 : decode cX2_water 165 = .ok (.goto (-99), 3) := dk_167 255 157 (dk_at dksX2_water_7 3 rfl rfl)
theorem dX2_water_168 : decode cX2_water 168 = .ok (.iload 5, 2) := dk_21 5 (dk_at dksX2_water_7 6 rfl rfl)
theorem dX2_water_170 : decode cX2_water 170 = .ok (.ireturn, 1) := dk_172 (dk_at dksX2_water_7 8 rfl rfl)
abbrev cX2_carried : ByteArray := prog_17_method_91_code
def yX2_carried : MethodName := ⟨RX2, "carried", "(II)Ljava/util/ArrayList;"⟩
def dkwX2_carried_3 : List UInt8 := [182, 0, 89, 87, 167, 255, 203, 45, 176]
abbrev dktX2_carried_3 : List UInt8 := dkwX2_carried_3 ++ []
def dkwX2_carried_2 : List UInt8 := [21, 4, 42, 21, 6, 182, 1, 163, 100, 54, 4, 21, 4, 156, 0, 5, 45, 176, 45, 21, 6, 184, 1, 28]
abbrev dktX2_carried_2 : List UInt8 := dkwX2_carried_2 ++ dktX2_carried_3
def dkwX2_carried_1 : List UInt8 := [185, 0, 110, 1, 0, 153, 0, 49, 25, 5, 185, 0, 116, 1, 0, 192, 0, 195, 182, 1, 16, 54, 6]
abbrev dktX2_carried_1 : List UInt8 := dkwX2_carried_1 ++ dktX2_carried_2
def dkwX2_carried_0 : List UInt8 := [187, 0, 7, 89, 183, 0, 9, 78, 28, 54, 4, 42, 27, 182, 1, 166, 182, 0, 106, 58, 5, 25, 5]
abbrev dktX2_carried_0 : List UInt8 := dkwX2_carried_0 ++ dktX2_carried_1
theorem dksX2_carried_0 : cX2_carried.data.toList.drop 0 = dktX2_carried_0 := by decide +kernel
theorem dksX2_carried_1 : cX2_carried.data.toList.drop 23 = dktX2_carried_1 := dk_seg dksX2_carried_0 23 rfl rfl
theorem dksX2_carried_2 : cX2_carried.data.toList.drop 46 = dktX2_carried_2 := dk_seg dksX2_carried_1 23 rfl rfl
theorem dksX2_carried_3 : cX2_carried.data.toList.drop 70 = dktX2_carried_3 := dk_seg dksX2_carried_2 24 rfl rfl
theorem dX2_carried_0 : decode cX2_carried 0 = .ok (.new 7, 3) := dk_187 0 7 (dk_at dksX2_carried_0 0 rfl rfl)
theorem dX2_carried_3 : decode cX2_carried 3 = .ok (.dup, 1) := dk_89 (dk_at dksX2_carried_0 3 rfl rfl)
theorem dX2_carried_4 : decode cX2_carried 4 = .ok (.invokespecial 9, 3) := dk_183 0 9 (dk_at dksX2_carried_0 4 rfl rfl)
theorem dX2_carried_7 : decode cX2_carried 7 = .ok (.astore_n 3, 1) := dk_78 (dk_at dksX2_carried_0 7 rfl rfl)
theorem dX2_carried_8 : decode cX2_carried 8 = .ok (.iload_n 2, 1) := dk_28 (dk_at dksX2_carried_0 8 rfl rfl)
theorem dX2_carried_9 : decode cX2_carried 9 = .ok (.istore 4, 2) := dk_54 4 (dk_at dksX2_carried_0 9 rfl rfl)
theorem dX2_carried_11 : decode cX2_carried 11 = .ok (.aload_n 0, 1) := dk_42 (dk_at dksX2_carried_0 11 rfl rfl)
theorem dX2_carried_12 : decode cX2_carried 12 = .ok (.iload_n 1, 1) := dk_27 (dk_at dksX2_carried_0 12 rfl rfl)
theorem dX2_carried_13 : decode cX2_carried 13 = .ok (.invokevirtual 422, 3) := dk_182 1 166 (dk_at dksX2_carried_0 13 rfl rfl)
theorem dX2_carried_16 : decode cX2_carried 16 = .ok (.invokevirtual 106, 3) := dk_182 0 106 (dk_at dksX2_carried_0 16 rfl rfl)
theorem dX2_carried_19 : decode cX2_carried 19 = .ok (.astore 5, 2) := dk_58 5 (dk_at dksX2_carried_0 19 rfl rfl)
theorem dX2_carried_21 : decode cX2_carried 21 = .ok (.aload 5, 2) := dk_25 5 (dk_at dksX2_carried_0 21 rfl rfl)
theorem dX2_carried_23 : decode cX2_carried 23 = .ok (.invokeinterface 110 1, 5) := by decide +kernel
theorem dX2_carried_28 : decode cX2_carried 28 = .ok (.ifCond .eq 49, 3) := dk_153 0 49 (dk_at dksX2_carried_1 5 rfl rfl)
theorem dX2_carried_31 : decode cX2_carried 31 = .ok (.aload 5, 2) := dk_25 5 (dk_at dksX2_carried_1 8 rfl rfl)
theorem dX2_carried_33 : decode cX2_carried 33 = .ok (.invokeinterface 116 1, 5) := by decide +kernel
theorem dX2_carried_38 : decode cX2_carried 38 = .ok (.checkcast 195, 3) := dk_192 0 195 (dk_at dksX2_carried_1 15 rfl rfl)
theorem dX2_carried_41 : decode cX2_carried 41 = .ok (.invokevirtual 272, 3) := dk_182 1 16 (dk_at dksX2_carried_1 18 rfl rfl)
theorem dX2_carried_44 : decode cX2_carried 44 = .ok (.istore 6, 2) := dk_54 6 (dk_at dksX2_carried_1 21 rfl rfl)
theorem dX2_carried_46 : decode cX2_carried 46 = .ok (.iload 4, 2) := dk_21 4 (dk_at dksX2_carried_2 0 rfl rfl)
theorem dX2_carried_48 : decode cX2_carried 48 = .ok (.aload_n 0, 1) := dk_42 (dk_at dksX2_carried_2 2 rfl rfl)
theorem dX2_carried_49 : decode cX2_carried 49 = .ok (.iload 6, 2) := dk_21 6 (dk_at dksX2_carried_2 3 rfl rfl)
theorem dX2_carried_51 : decode cX2_carried 51 = .ok (.invokevirtual 419, 3) := dk_182 1 163 (dk_at dksX2_carried_2 5 rfl rfl)
theorem dX2_carried_54 : decode cX2_carried 54 = .ok (.isub, 1) := dk_100 (dk_at dksX2_carried_2 8 rfl rfl)
theorem dX2_carried_55 : decode cX2_carried 55 = .ok (.istore 4, 2) := dk_54 4 (dk_at dksX2_carried_2 9 rfl rfl)
theorem dX2_carried_57 : decode cX2_carried 57 = .ok (.iload 4, 2) := dk_21 4 (dk_at dksX2_carried_2 11 rfl rfl)
theorem dX2_carried_59 : decode cX2_carried 59 = .ok (.ifCond .ge 5, 3) := dk_156 0 5 (dk_at dksX2_carried_2 13 rfl rfl)
theorem dX2_carried_62 : decode cX2_carried 62 = .ok (.aload_n 3, 1) := dk_45 (dk_at dksX2_carried_2 16 rfl rfl)
theorem dX2_carried_63 : decode cX2_carried 63 = .ok (.areturn, 1) := dk_176 (dk_at dksX2_carried_2 17 rfl rfl)
theorem dX2_carried_64 : decode cX2_carried 64 = .ok (.aload_n 3, 1) := dk_45 (dk_at dksX2_carried_2 18 rfl rfl)
theorem dX2_carried_65 : decode cX2_carried 65 = .ok (.iload 6, 2) := dk_21 6 (dk_at dksX2_carried_2 19 rfl rfl)
theorem dX2_carried_67 : decode cX2_carried 67 = .ok (.invokestatic 284, 3) := dk_184 1 28 (dk_at dksX2_carried_2 21 rfl rfl)
theorem dX2_carried_70 : decode cX2_carried 70 = .ok (.invokevirtual 89, 3) := dk_182 0 89 (dk_at dksX2_carried_3 0 rfl rfl)
theorem dX2_carried_73 : decode cX2_carried 73 = .ok (.pop, 1) := dk_87 (dk_at dksX2_carried_3 3 rfl rfl)
theorem dX2_carried_74 : decode cX2_carried 74 = .ok (.goto (-53), 3) := dk_167 255 203 (dk_at dksX2_carried_3 4 rfl rfl)
theorem dX2_carried_77 : decode cX2_carried 77 = .ok (.aload_n 3, 1) := dk_45 (dk_at dksX2_carried_3 7 rfl rfl)
theorem dX2_carried_78 : decode cX2_carried 78 = .ok (.areturn, 1) := dk_176 (dk_at dksX2_carried_3 8 rfl rfl)
abbrev cX2_wet : ByteArray := prog_17_method_88_code
def yX2_wet : MethodName := ⟨RX2, "wet", "(I)Ljava/util/ArrayList;"⟩
def dkwX2_wet_8 : List UInt8 := [167, 255, 220, 44, 21, 5, 29, 184, 1, 28, 182, 1, 160, 132, 3, 1, 167, 255, 66, 44, 176]
abbrev dktX2_wet_8 : List UInt8 := dkwX2_wet_8 ++ []
def dkwX2_wet_7 : List UInt8 := [182, 0, 68, 192, 0, 195, 182, 1, 16, 182, 1, 157, 42, 29, 182, 1, 157, 161, 0, 9, 132, 5, 1]
abbrev dktX2_wet_7 : List UInt8 := dkwX2_wet_7 ++ dktX2_wet_8
def dkwX2_wet_6 : List UInt8 := [182, 0, 253, 153, 0, 55, 3, 54, 5, 21, 5, 44, 182, 0, 48, 162, 0, 33, 42, 44, 21, 5]
abbrev dktX2_wet_6 : List UInt8 := dkwX2_wet_6 ++ dktX2_wet_7
def dkwX2_wet_5 : List UInt8 := [180, 0, 63, 2, 160, 0, 76, 42, 42, 180, 0, 19, 29, 182, 0, 68, 192, 0, 64, 16, 114, 27]
abbrev dktX2_wet_5 : List UInt8 := dkwX2_wet_5 ++ dktX2_wet_6
def dkwX2_wet_4 : List UInt8 := [132, 5, 1, 167, 255, 185, 21, 4, 153, 0, 94, 42, 180, 0, 19, 29, 182, 0, 68, 192, 0, 64]
abbrev dktX2_wet_4 : List UInt8 := dkwX2_wet_4 ++ dktX2_wet_5
def dkwX2_wet_3 : List UInt8 := [180, 0, 19, 21, 5, 182, 0, 68, 192, 0, 64, 182, 1, 155, 153, 0, 7, 4, 167, 0, 4, 3, 54, 4]
abbrev dktX2_wet_3 : List UInt8 := dkwX2_wet_3 ++ dktX2_wet_4
def dkwX2_wet_2 : List UInt8 := [159, 0, 22, 42, 180, 0, 19, 21, 5, 182, 0, 68, 192, 0, 64, 180, 0, 63, 29, 160, 0, 26, 42, 42]
abbrev dktX2_wet_2 : List UInt8 := dkwX2_wet_2 ++ dktX2_wet_3
def dkwX2_wet_1 : List UInt8 := [3, 54, 5, 21, 5, 42, 180, 0, 19, 182, 0, 48, 162, 0, 65, 21, 4, 154, 0, 47, 21, 5, 29]
abbrev dktX2_wet_1 : List UInt8 := dkwX2_wet_1 ++ dktX2_wet_2
def dkwX2_wet_0 : List UInt8 := [187, 0, 7, 89, 183, 0, 9, 77, 3, 62, 29, 42, 180, 0, 19, 182, 0, 48, 162, 0, 185, 3, 54, 4]
abbrev dktX2_wet_0 : List UInt8 := dkwX2_wet_0 ++ dktX2_wet_1
theorem dksX2_wet_0 : cX2_wet.data.toList.drop 0 = dktX2_wet_0 := by decide +kernel
theorem dksX2_wet_1 : cX2_wet.data.toList.drop 24 = dktX2_wet_1 := dk_seg dksX2_wet_0 24 rfl rfl
theorem dksX2_wet_2 : cX2_wet.data.toList.drop 47 = dktX2_wet_2 := dk_seg dksX2_wet_1 23 rfl rfl
theorem dksX2_wet_3 : cX2_wet.data.toList.drop 71 = dktX2_wet_3 := dk_seg dksX2_wet_2 24 rfl rfl
theorem dksX2_wet_4 : cX2_wet.data.toList.drop 95 = dktX2_wet_4 := dk_seg dksX2_wet_3 24 rfl rfl
theorem dksX2_wet_5 : cX2_wet.data.toList.drop 117 = dktX2_wet_5 := dk_seg dksX2_wet_4 22 rfl rfl
theorem dksX2_wet_6 : cX2_wet.data.toList.drop 139 = dktX2_wet_6 := dk_seg dksX2_wet_5 22 rfl rfl
theorem dksX2_wet_7 : cX2_wet.data.toList.drop 161 = dktX2_wet_7 := dk_seg dksX2_wet_6 22 rfl rfl
theorem dksX2_wet_8 : cX2_wet.data.toList.drop 184 = dktX2_wet_8 := dk_seg dksX2_wet_7 23 rfl rfl
theorem dX2_wet_0 : decode cX2_wet 0 = .ok (.new 7, 3) := dk_187 0 7 (dk_at dksX2_wet_0 0 rfl rfl)
theorem dX2_wet_3 : decode cX2_wet 3 = .ok (.dup, 1) := dk_89 (dk_at dksX2_wet_0 3 rfl rfl)
theorem dX2_wet_4 : decode cX2_wet 4 = .ok (.invokespecial 9, 3) := dk_183 0 9 (dk_at dksX2_wet_0 4 rfl rfl)
theorem dX2_wet_7 : decode cX2_wet 7 = .ok (.astore_n 2, 1) := dk_77 (dk_at dksX2_wet_0 7 rfl rfl)
theorem dX2_wet_8 : decode cX2_wet 8 = .ok (.iconst 0, 1) := dk_3 (dk_at dksX2_wet_0 8 rfl rfl)
theorem dX2_wet_9 : decode cX2_wet 9 = .ok (.istore_n 3, 1) := dk_62 (dk_at dksX2_wet_0 9 rfl rfl)
theorem dX2_wet_10 : decode cX2_wet 10 = .ok (.iload_n 3, 1) := dk_29 (dk_at dksX2_wet_0 10 rfl rfl)
theorem dX2_wet_11 : decode cX2_wet 11 = .ok (.aload_n 0, 1) := dk_42 (dk_at dksX2_wet_0 11 rfl rfl)
theorem dX2_wet_12 : decode cX2_wet 12 = .ok (.getfield 19, 3) := dk_180 0 19 (dk_at dksX2_wet_0 12 rfl rfl)
theorem dX2_wet_15 : decode cX2_wet 15 = .ok (.invokevirtual 48, 3) := dk_182 0 48 (dk_at dksX2_wet_0 15 rfl rfl)
theorem dX2_wet_18 : decode cX2_wet 18 = .ok (.if_icmp .ge 185, 3) := dk_162 0 185 (dk_at dksX2_wet_0 18 rfl rfl)
theorem dX2_wet_21 : decode cX2_wet 21 = .ok (.iconst 0, 1) := dk_3 (dk_at dksX2_wet_0 21 rfl rfl)
theorem dX2_wet_22 : decode cX2_wet 22 = .ok (.istore 4, 2) := dk_54 4 (dk_at dksX2_wet_0 22 rfl rfl)
theorem dX2_wet_24 : decode cX2_wet 24 = .ok (.iconst 0, 1) := dk_3 (dk_at dksX2_wet_1 0 rfl rfl)
theorem dX2_wet_25 : decode cX2_wet 25 = .ok (.istore 5, 2) := dk_54 5 (dk_at dksX2_wet_1 1 rfl rfl)
theorem dX2_wet_27 : decode cX2_wet 27 = .ok (.iload 5, 2) := dk_21 5 (dk_at dksX2_wet_1 3 rfl rfl)
theorem dX2_wet_29 : decode cX2_wet 29 = .ok (.aload_n 0, 1) := dk_42 (dk_at dksX2_wet_1 5 rfl rfl)
theorem dX2_wet_30 : decode cX2_wet 30 = .ok (.getfield 19, 3) := dk_180 0 19 (dk_at dksX2_wet_1 6 rfl rfl)
theorem dX2_wet_33 : decode cX2_wet 33 = .ok (.invokevirtual 48, 3) := dk_182 0 48 (dk_at dksX2_wet_1 9 rfl rfl)
theorem dX2_wet_36 : decode cX2_wet 36 = .ok (.if_icmp .ge 65, 3) := dk_162 0 65 (dk_at dksX2_wet_1 12 rfl rfl)
theorem dX2_wet_39 : decode cX2_wet 39 = .ok (.iload 4, 2) := dk_21 4 (dk_at dksX2_wet_1 15 rfl rfl)
theorem dX2_wet_41 : decode cX2_wet 41 = .ok (.ifCond .ne 47, 3) := dk_154 0 47 (dk_at dksX2_wet_1 17 rfl rfl)
theorem dX2_wet_44 : decode cX2_wet 44 = .ok (.iload 5, 2) := dk_21 5 (dk_at dksX2_wet_1 20 rfl rfl)
theorem dX2_wet_46 : decode cX2_wet 46 = .ok (.iload_n 3, 1) := dk_29 (dk_at dksX2_wet_1 22 rfl rfl)
theorem dX2_wet_47 : decode cX2_wet 47 = .ok (.if_icmp .eq 22, 3) := dk_159 0 22 (dk_at dksX2_wet_2 0 rfl rfl)
theorem dX2_wet_50 : decode cX2_wet 50 = .ok (.aload_n 0, 1) := dk_42 (dk_at dksX2_wet_2 3 rfl rfl)
theorem dX2_wet_51 : decode cX2_wet 51 = .ok (.getfield 19, 3) := dk_180 0 19 (dk_at dksX2_wet_2 4 rfl rfl)
theorem dX2_wet_54 : decode cX2_wet 54 = .ok (.iload 5, 2) := dk_21 5 (dk_at dksX2_wet_2 7 rfl rfl)
theorem dX2_wet_56 : decode cX2_wet 56 = .ok (.invokevirtual 68, 3) := dk_182 0 68 (dk_at dksX2_wet_2 9 rfl rfl)
theorem dX2_wet_59 : decode cX2_wet 59 = .ok (.checkcast 64, 3) := dk_192 0 64 (dk_at dksX2_wet_2 12 rfl rfl)
theorem dX2_wet_62 : decode cX2_wet 62 = .ok (.getfield 63, 3) := dk_180 0 63 (dk_at dksX2_wet_2 15 rfl rfl)
theorem dX2_wet_65 : decode cX2_wet 65 = .ok (.iload_n 3, 1) := dk_29 (dk_at dksX2_wet_2 18 rfl rfl)
theorem dX2_wet_66 : decode cX2_wet 66 = .ok (.if_icmp .ne 26, 3) := dk_160 0 26 (dk_at dksX2_wet_2 19 rfl rfl)
theorem dX2_wet_69 : decode cX2_wet 69 = .ok (.aload_n 0, 1) := dk_42 (dk_at dksX2_wet_2 22 rfl rfl)
theorem dX2_wet_70 : decode cX2_wet 70 = .ok (.aload_n 0, 1) := dk_42 (dk_at dksX2_wet_2 23 rfl rfl)
theorem dX2_wet_71 : decode cX2_wet 71 = .ok (.getfield 19, 3) := dk_180 0 19 (dk_at dksX2_wet_3 0 rfl rfl)
theorem dX2_wet_74 : decode cX2_wet 74 = .ok (.iload 5, 2) := dk_21 5 (dk_at dksX2_wet_3 3 rfl rfl)
theorem dX2_wet_76 : decode cX2_wet 76 = .ok (.invokevirtual 68, 3) := dk_182 0 68 (dk_at dksX2_wet_3 5 rfl rfl)
theorem dX2_wet_79 : decode cX2_wet 79 = .ok (.checkcast 64, 3) := dk_192 0 64 (dk_at dksX2_wet_3 8 rfl rfl)
theorem dX2_wet_82 : decode cX2_wet 82 = .ok (.invokevirtual 411, 3) := dk_182 1 155 (dk_at dksX2_wet_3 11 rfl rfl)
theorem dX2_wet_85 : decode cX2_wet 85 = .ok (.ifCond .eq 7, 3) := dk_153 0 7 (dk_at dksX2_wet_3 14 rfl rfl)
theorem dX2_wet_88 : decode cX2_wet 88 = .ok (.iconst 1, 1) := dk_4 (dk_at dksX2_wet_3 17 rfl rfl)
theorem dX2_wet_89 : decode cX2_wet 89 = .ok (.goto 4, 3) := dk_167 0 4 (dk_at dksX2_wet_3 18 rfl rfl)
theorem dX2_wet_92 : decode cX2_wet 92 = .ok (.iconst 0, 1) := dk_3 (dk_at dksX2_wet_3 21 rfl rfl)
theorem dX2_wet_93 : decode cX2_wet 93 = .ok (.istore 4, 2) := dk_54 4 (dk_at dksX2_wet_3 22 rfl rfl)
theorem dX2_wet_95 : decode cX2_wet 95 = .ok (.iinc 5 1, 3) := dk_132 5 1 (dk_at dksX2_wet_4 0 rfl rfl)
theorem dX2_wet_98 : decode cX2_wet 98 = .ok (.goto (-71), 3) := dk_167 255 185 (dk_at dksX2_wet_4 3 rfl rfl)
theorem dX2_wet_101 : decode cX2_wet 101 = .ok (.iload 4, 2) := dk_21 4 (dk_at dksX2_wet_4 6 rfl rfl)
theorem dX2_wet_103 : decode cX2_wet 103 = .ok (.ifCond .eq 94, 3) := dk_153 0 94 (dk_at dksX2_wet_4 8 rfl rfl)
theorem dX2_wet_106 : decode cX2_wet 106 = .ok (.aload_n 0, 1) := dk_42 (dk_at dksX2_wet_4 11 rfl rfl)
theorem dX2_wet_107 : decode cX2_wet 107 = .ok (.getfield 19, 3) := dk_180 0 19 (dk_at dksX2_wet_4 12 rfl rfl)
theorem dX2_wet_110 : decode cX2_wet 110 = .ok (.iload_n 3, 1) := dk_29 (dk_at dksX2_wet_4 15 rfl rfl)
theorem dX2_wet_111 : decode cX2_wet 111 = .ok (.invokevirtual 68, 3) := dk_182 0 68 (dk_at dksX2_wet_4 16 rfl rfl)
theorem dX2_wet_114 : decode cX2_wet 114 = .ok (.checkcast 64, 3) := dk_192 0 64 (dk_at dksX2_wet_4 19 rfl rfl)
theorem dX2_wet_117 : decode cX2_wet 117 = .ok (.getfield 63, 3) := dk_180 0 63 (dk_at dksX2_wet_5 0 rfl rfl)
theorem dX2_wet_120 : decode cX2_wet 120 = .ok (.iconst (-1), 1) := dk_2 (dk_at dksX2_wet_5 3 rfl rfl)
theorem dX2_wet_121 : decode cX2_wet 121 = .ok (.if_icmp .ne 76, 3) := dk_160 0 76 (dk_at dksX2_wet_5 4 rfl rfl)
theorem dX2_wet_124 : decode cX2_wet 124 = .ok (.aload_n 0, 1) := dk_42 (dk_at dksX2_wet_5 7 rfl rfl)
theorem dX2_wet_125 : decode cX2_wet 125 = .ok (.aload_n 0, 1) := dk_42 (dk_at dksX2_wet_5 8 rfl rfl)
theorem dX2_wet_126 : decode cX2_wet 126 = .ok (.getfield 19, 3) := dk_180 0 19 (dk_at dksX2_wet_5 9 rfl rfl)
theorem dX2_wet_129 : decode cX2_wet 129 = .ok (.iload_n 3, 1) := dk_29 (dk_at dksX2_wet_5 12 rfl rfl)
theorem dX2_wet_130 : decode cX2_wet 130 = .ok (.invokevirtual 68, 3) := dk_182 0 68 (dk_at dksX2_wet_5 13 rfl rfl)
theorem dX2_wet_133 : decode cX2_wet 133 = .ok (.checkcast 64, 3) := dk_192 0 64 (dk_at dksX2_wet_5 16 rfl rfl)
theorem dX2_wet_136 : decode cX2_wet 136 = .ok (.bipush 114, 2) := dk_16 114 (dk_at dksX2_wet_5 19 rfl rfl)
theorem dX2_wet_138 : decode cX2_wet 138 = .ok (.iload_n 1, 1) := dk_27 (dk_at dksX2_wet_5 21 rfl rfl)
theorem dX2_wet_139 : decode cX2_wet 139 = .ok (.invokevirtual 253, 3) := dk_182 0 253 (dk_at dksX2_wet_6 0 rfl rfl)
theorem dX2_wet_142 : decode cX2_wet 142 = .ok (.ifCond .eq 55, 3) := dk_153 0 55 (dk_at dksX2_wet_6 3 rfl rfl)
theorem dX2_wet_145 : decode cX2_wet 145 = .ok (.iconst 0, 1) := dk_3 (dk_at dksX2_wet_6 6 rfl rfl)
theorem dX2_wet_146 : decode cX2_wet 146 = .ok (.istore 5, 2) := dk_54 5 (dk_at dksX2_wet_6 7 rfl rfl)
theorem dX2_wet_148 : decode cX2_wet 148 = .ok (.iload 5, 2) := dk_21 5 (dk_at dksX2_wet_6 9 rfl rfl)
theorem dX2_wet_150 : decode cX2_wet 150 = .ok (.aload_n 2, 1) := dk_44 (dk_at dksX2_wet_6 11 rfl rfl)
theorem dX2_wet_151 : decode cX2_wet 151 = .ok (.invokevirtual 48, 3) := dk_182 0 48 (dk_at dksX2_wet_6 12 rfl rfl)
theorem dX2_wet_154 : decode cX2_wet 154 = .ok (.if_icmp .ge 33, 3) := dk_162 0 33 (dk_at dksX2_wet_6 15 rfl rfl)
theorem dX2_wet_157 : decode cX2_wet 157 = .ok (.aload_n 0, 1) := dk_42 (dk_at dksX2_wet_6 18 rfl rfl)
theorem dX2_wet_158 : decode cX2_wet 158 = .ok (.aload_n 2, 1) := dk_44 (dk_at dksX2_wet_6 19 rfl rfl)
theorem dX2_wet_159 : decode cX2_wet 159 = .ok (.iload 5, 2) := dk_21 5 (dk_at dksX2_wet_6 20 rfl rfl)
theorem dX2_wet_161 : decode cX2_wet 161 = .ok (.invokevirtual 68, 3) := dk_182 0 68 (dk_at dksX2_wet_7 0 rfl rfl)
theorem dX2_wet_164 : decode cX2_wet 164 = .ok (.checkcast 195, 3) := dk_192 0 195 (dk_at dksX2_wet_7 3 rfl rfl)
theorem dX2_wet_167 : decode cX2_wet 167 = .ok (.invokevirtual 272, 3) := dk_182 1 16 (dk_at dksX2_wet_7 6 rfl rfl)
theorem dX2_wet_170 : decode cX2_wet 170 = .ok (.invokevirtual 413, 3) := dk_182 1 157 (dk_at dksX2_wet_7 9 rfl rfl)
theorem dX2_wet_173 : decode cX2_wet 173 = .ok (.aload_n 0, 1) := dk_42 (dk_at dksX2_wet_7 12 rfl rfl)
theorem dX2_wet_174 : decode cX2_wet 174 = .ok (.iload_n 3, 1) := dk_29 (dk_at dksX2_wet_7 13 rfl rfl)
theorem dX2_wet_175 : decode cX2_wet 175 = .ok (.invokevirtual 413, 3) := dk_182 1 157 (dk_at dksX2_wet_7 14 rfl rfl)
theorem dX2_wet_178 : decode cX2_wet 178 = .ok (.if_icmp .lt 9, 3) := dk_161 0 9 (dk_at dksX2_wet_7 17 rfl rfl)
theorem dX2_wet_181 : decode cX2_wet 181 = .ok (.iinc 5 1, 3) := dk_132 5 1 (dk_at dksX2_wet_7 20 rfl rfl)
theorem dX2_wet_184 : decode cX2_wet 184 = .ok (.goto (-36), 3) := dk_167 255 220 (dk_at dksX2_wet_8 0 rfl rfl)
theorem dX2_wet_187 : decode cX2_wet 187 = .ok (.aload_n 2, 1) := dk_44 (dk_at dksX2_wet_8 3 rfl rfl)
theorem dX2_wet_188 : decode cX2_wet 188 = .ok (.iload 5, 2) := dk_21 5 (dk_at dksX2_wet_8 4 rfl rfl)
theorem dX2_wet_190 : decode cX2_wet 190 = .ok (.iload_n 3, 1) := dk_29 (dk_at dksX2_wet_8 6 rfl rfl)
theorem dX2_wet_191 : decode cX2_wet 191 = .ok (.invokestatic 284, 3) := dk_184 1 28 (dk_at dksX2_wet_8 7 rfl rfl)
theorem dX2_wet_194 : decode cX2_wet 194 = .ok (.invokevirtual 416, 3) := dk_182 1 160 (dk_at dksX2_wet_8 10 rfl rfl)
theorem dX2_wet_197 : decode cX2_wet 197 = .ok (.iinc 3 1, 3) := dk_132 3 1 (dk_at dksX2_wet_8 13 rfl rfl)
theorem dX2_wet_200 : decode cX2_wet 200 = .ok (.goto (-190), 3) := dk_167 255 66 (dk_at dksX2_wet_8 16 rfl rfl)
theorem dX2_wet_203 : decode cX2_wet 203 = .ok (.aload_n 2, 1) := dk_44 (dk_at dksX2_wet_8 19 rfl rfl)
theorem dX2_wet_204 : decode cX2_wet 204 = .ok (.areturn, 1) := dk_176 (dk_at dksX2_wet_8 20 rfl rfl)
abbrev cX2_isHarmed : ByteArray := prog_17_method_87_code
def yX2_isHarmed : MethodName := ⟨RX2, "isHarmed", "(LVaultyardModel$Thing;)Z"⟩
def dkwX2_isHarmed_1 : List UInt8 := [182, 0, 207, 154, 0, 7, 4, 167, 0, 4, 3, 172]
abbrev dktX2_isHarmed_1 : List UInt8 := dkwX2_isHarmed_1 ++ []
def dkwX2_isHarmed_0 : List UInt8 := [42, 180, 0, 10, 43, 180, 0, 188, 182, 0, 68, 192, 0, 137, 180, 1, 152, 153, 0, 17, 42, 43, 16, 8]
abbrev dktX2_isHarmed_0 : List UInt8 := dkwX2_isHarmed_0 ++ dktX2_isHarmed_1
theorem dksX2_isHarmed_0 : cX2_isHarmed.data.toList.drop 0 = dktX2_isHarmed_0 := by decide +kernel
theorem dksX2_isHarmed_1 : cX2_isHarmed.data.toList.drop 24 = dktX2_isHarmed_1 := dk_seg dksX2_isHarmed_0 24 rfl rfl
theorem dX2_isHarmed_0 : decode cX2_isHarmed 0 = .ok (.aload_n 0, 1) := dk_42 (dk_at dksX2_isHarmed_0 0 rfl rfl)
theorem dX2_isHarmed_1 : decode cX2_isHarmed 1 = .ok (.getfield 10, 3) := dk_180 0 10 (dk_at dksX2_isHarmed_0 1 rfl rfl)
theorem dX2_isHarmed_4 : decode cX2_isHarmed 4 = .ok (.aload_n 1, 1) := dk_43 (dk_at dksX2_isHarmed_0 4 rfl rfl)
theorem dX2_isHarmed_5 : decode cX2_isHarmed 5 = .ok (.getfield 188, 3) := dk_180 0 188 (dk_at dksX2_isHarmed_0 5 rfl rfl)
theorem dX2_isHarmed_8 : decode cX2_isHarmed 8 = .ok (.invokevirtual 68, 3) := dk_182 0 68 (dk_at dksX2_isHarmed_0 8 rfl rfl)
theorem dX2_isHarmed_11 : decode cX2_isHarmed 11 = .ok (.checkcast 137, 3) := dk_192 0 137 (dk_at dksX2_isHarmed_0 11 rfl rfl)
theorem dX2_isHarmed_14 : decode cX2_isHarmed 14 = .ok (.getfield 408, 3) := dk_180 1 152 (dk_at dksX2_isHarmed_0 14 rfl rfl)
theorem dX2_isHarmed_17 : decode cX2_isHarmed 17 = .ok (.ifCond .eq 17, 3) := dk_153 0 17 (dk_at dksX2_isHarmed_0 17 rfl rfl)
theorem dX2_isHarmed_20 : decode cX2_isHarmed 20 = .ok (.aload_n 0, 1) := dk_42 (dk_at dksX2_isHarmed_0 20 rfl rfl)
theorem dX2_isHarmed_21 : decode cX2_isHarmed 21 = .ok (.aload_n 1, 1) := dk_43 (dk_at dksX2_isHarmed_0 21 rfl rfl)
theorem dX2_isHarmed_22 : decode cX2_isHarmed 22 = .ok (.bipush 8, 2) := dk_16 8 (dk_at dksX2_isHarmed_0 22 rfl rfl)
theorem dX2_isHarmed_24 : decode cX2_isHarmed 24 = .ok (.invokevirtual 207, 3) := dk_182 0 207 (dk_at dksX2_isHarmed_1 0 rfl rfl)
theorem dX2_isHarmed_27 : decode cX2_isHarmed 27 = .ok (.ifCond .ne 7, 3) := dk_154 0 7 (dk_at dksX2_isHarmed_1 3 rfl rfl)
theorem dX2_isHarmed_30 : decode cX2_isHarmed 30 = .ok (.iconst 1, 1) := dk_4 (dk_at dksX2_isHarmed_1 6 rfl rfl)
theorem dX2_isHarmed_31 : decode cX2_isHarmed 31 = .ok (.goto 4, 3) := dk_167 0 4 (dk_at dksX2_isHarmed_1 7 rfl rfl)
theorem dX2_isHarmed_34 : decode cX2_isHarmed 34 = .ok (.iconst 0, 1) := dk_3 (dk_at dksX2_isHarmed_1 10 rfl rfl)
theorem dX2_isHarmed_35 : decode cX2_isHarmed 35 = .ok (.ireturn, 1) := dk_172 (dk_at dksX2_isHarmed_1 11 rfl rfl)
abbrev cX2_perWay : ByteArray := prog_17_method_90_code
def yX2_perWay : MethodName := ⟨RX2, "perWay", "(I)I"⟩
def dkwX2_perWay_0 : List UInt8 := [42, 27, 182, 1, 11, 42, 27, 182, 1, 163, 108, 172]
abbrev dktX2_perWay_0 : List UInt8 := dkwX2_perWay_0 ++ []
theorem dksX2_perWay_0 : cX2_perWay.data.toList.drop 0 = dktX2_perWay_0 := by decide +kernel
theorem dX2_perWay_0 : decode cX2_perWay 0 = .ok (.aload_n 0, 1) := dk_42 (dk_at dksX2_perWay_0 0 rfl rfl)
theorem dX2_perWay_1 : decode cX2_perWay 1 = .ok (.iload_n 1, 1) := dk_27 (dk_at dksX2_perWay_0 1 rfl rfl)
theorem dX2_perWay_2 : decode cX2_perWay 2 = .ok (.invokevirtual 267, 3) := dk_182 1 11 (dk_at dksX2_perWay_0 2 rfl rfl)
theorem dX2_perWay_5 : decode cX2_perWay 5 = .ok (.aload_n 0, 1) := dk_42 (dk_at dksX2_perWay_0 5 rfl rfl)
theorem dX2_perWay_6 : decode cX2_perWay 6 = .ok (.iload_n 1, 1) := dk_27 (dk_at dksX2_perWay_0 6 rfl rfl)
theorem dX2_perWay_7 : decode cX2_perWay 7 = .ok (.invokevirtual 419, 3) := dk_182 1 163 (dk_at dksX2_perWay_0 7 rfl rfl)
theorem dX2_perWay_10 : decode cX2_perWay 10 = .ok (.idiv, 1) := dk_108 (dk_at dksX2_perWay_0 10 rfl rfl)
theorem dX2_perWay_11 : decode cX2_perWay 11 = .ok (.ireturn, 1) := dk_172 (dk_at dksX2_perWay_0 11 rfl rfl)
abbrev cX2_waysOf : ByteArray := prog_17_method_89_code
def yX2_waysOf : MethodName := ⟨RX2, "waysOf", "(I)I"⟩
def dkwX2_waysOf_0 : List UInt8 := [42, 180, 0, 19, 27, 182, 0, 68, 192, 0, 64, 180, 0, 120, 7, 96, 8, 108, 172]
abbrev dktX2_waysOf_0 : List UInt8 := dkwX2_waysOf_0 ++ []
theorem dksX2_waysOf_0 : cX2_waysOf.data.toList.drop 0 = dktX2_waysOf_0 := by decide +kernel
theorem dX2_waysOf_0 : decode cX2_waysOf 0 = .ok (.aload_n 0, 1) := dk_42 (dk_at dksX2_waysOf_0 0 rfl rfl)
theorem dX2_waysOf_1 : decode cX2_waysOf 1 = .ok (.getfield 19, 3) := dk_180 0 19 (dk_at dksX2_waysOf_0 1 rfl rfl)
theorem dX2_waysOf_4 : decode cX2_waysOf 4 = .ok (.iload_n 1, 1) := dk_27 (dk_at dksX2_waysOf_0 4 rfl rfl)
theorem dX2_waysOf_5 : decode cX2_waysOf 5 = .ok (.invokevirtual 68, 3) := dk_182 0 68 (dk_at dksX2_waysOf_0 5 rfl rfl)
theorem dX2_waysOf_8 : decode cX2_waysOf 8 = .ok (.checkcast 64, 3) := dk_192 0 64 (dk_at dksX2_waysOf_0 8 rfl rfl)
theorem dX2_waysOf_11 : decode cX2_waysOf 11 = .ok (.getfield 120, 3) := dk_180 0 120 (dk_at dksX2_waysOf_0 11 rfl rfl)
theorem dX2_waysOf_14 : decode cX2_waysOf 14 = .ok (.iconst 4, 1) := dk_7 (dk_at dksX2_waysOf_0 14 rfl rfl)
theorem dX2_waysOf_15 : decode cX2_waysOf 15 = .ok (.iadd, 1) := dk_96 (dk_at dksX2_waysOf_0 15 rfl rfl)
theorem dX2_waysOf_16 : decode cX2_waysOf 16 = .ok (.iconst 5, 1) := dk_8 (dk_at dksX2_waysOf_0 16 rfl rfl)
theorem dX2_waysOf_17 : decode cX2_waysOf 17 = .ok (.idiv, 1) := dk_108 (dk_at dksX2_waysOf_0 17 rfl rfl)
theorem dX2_waysOf_18 : decode cX2_waysOf 18 = .ok (.ireturn, 1) := dk_172 (dk_at dksX2_waysOf_0 18 rfl rfl)
abbrev cX2_saved : ByteArray := prog_17_method_93_code
def yX2_saved : MethodName := ⟨RX2, "saved", "(III)I"⟩
def dkwX2_saved_4 : List UInt8 := [182, 1, 16, 172]
abbrev dktX2_saved_4 : List UInt8 := dkwX2_saved_4 ++ []
def dkwX2_saved_3 : List UInt8 := [181, 0, 44, 42, 180, 0, 44, 158, 0, 7, 3, 167, 0, 15, 25, 4, 29, 182, 0, 68, 192, 0, 195]
abbrev dktX2_saved_3 : List UInt8 := dkwX2_saved_3 ++ dktX2_saved_4
def dkwX2_saved_2 : List UInt8 := [42, 29, 133, 9, 25, 4, 182, 0, 48, 4, 100, 133, 184, 0, 52, 153, 0, 7, 3, 167, 0, 4, 6]
abbrev dktX2_saved_2 : List UInt8 := dkwX2_saved_2 ++ dktX2_saved_3
def dkwX2_saved_1 : List UInt8 := [167, 0, 4, 5, 181, 0, 44, 42, 180, 0, 44, 158, 0, 5, 3, 172, 42, 27, 28, 182, 1, 171, 58, 4]
abbrev dktX2_saved_1 : List UInt8 := dkwX2_saved_1 ++ dktX2_saved_2
def dkwX2_saved_0 : List UInt8 := [42, 27, 182, 0, 147, 153, 0, 5, 3, 172, 42, 28, 133, 9, 20, 0, 163, 184, 0, 52, 153, 0, 7, 3]
abbrev dktX2_saved_0 : List UInt8 := dkwX2_saved_0 ++ dktX2_saved_1
theorem dksX2_saved_0 : cX2_saved.data.toList.drop 0 = dktX2_saved_0 := by decide +kernel
theorem dksX2_saved_1 : cX2_saved.data.toList.drop 24 = dktX2_saved_1 := dk_seg dksX2_saved_0 24 rfl rfl
theorem dksX2_saved_2 : cX2_saved.data.toList.drop 48 = dktX2_saved_2 := dk_seg dksX2_saved_1 24 rfl rfl
theorem dksX2_saved_3 : cX2_saved.data.toList.drop 71 = dktX2_saved_3 := dk_seg dksX2_saved_2 23 rfl rfl
theorem dksX2_saved_4 : cX2_saved.data.toList.drop 94 = dktX2_saved_4 := dk_seg dksX2_saved_3 23 rfl rfl
theorem dX2_saved_0 : decode cX2_saved 0 = .ok (.aload_n 0, 1) := dk_42 (dk_at dksX2_saved_0 0 rfl rfl)
theorem dX2_saved_1 : decode cX2_saved 1 = .ok (.iload_n 1, 1) := dk_27 (dk_at dksX2_saved_0 1 rfl rfl)
theorem dX2_saved_2 : decode cX2_saved 2 = .ok (.invokevirtual 147, 3) := dk_182 0 147 (dk_at dksX2_saved_0 2 rfl rfl)
theorem dX2_saved_5 : decode cX2_saved 5 = .ok (.ifCond .eq 5, 3) := dk_153 0 5 (dk_at dksX2_saved_0 5 rfl rfl)
theorem dX2_saved_8 : decode cX2_saved 8 = .ok (.iconst 0, 1) := dk_3 (dk_at dksX2_saved_0 8 rfl rfl)
theorem dX2_saved_9 : decode cX2_saved 9 = .ok (.ireturn, 1) := dk_172 (dk_at dksX2_saved_0 9 rfl rfl)
theorem dX2_saved_10 : decode cX2_saved 10 = .ok (.aload_n 0, 1) := dk_42 (dk_at dksX2_saved_0 10 rfl rfl)
theorem dX2_saved_11 : decode cX2_saved 11 = .ok (.iload_n 2, 1) := dk_28 (dk_at dksX2_saved_0 11 rfl rfl)
theorem dX2_saved_12 : decode cX2_saved 12 = .ok (.i2l, 1) := dk_133 (dk_at dksX2_saved_0 12 rfl rfl)
theorem dX2_saved_13 : decode cX2_saved 13 = .ok (.lconst 0, 1) := dk_9 (dk_at dksX2_saved_0 13 rfl rfl)
theorem dX2_saved_14 : decode cX2_saved 14 = .ok (.ldc2_w 163, 3) := dk_20 0 163 (dk_at dksX2_saved_0 14 rfl rfl)
theorem dX2_saved_17 : decode cX2_saved 17 = .ok (.invokestatic 52, 3) := dk_184 0 52 (dk_at dksX2_saved_0 17 rfl rfl)
theorem dX2_saved_20 : decode cX2_saved 20 = .ok (.ifCond .eq 7, 3) := dk_153 0 7 (dk_at dksX2_saved_0 20 rfl rfl)
theorem dX2_saved_23 : decode cX2_saved 23 = .ok (.iconst 0, 1) := dk_3 (dk_at dksX2_saved_0 23 rfl rfl)
theorem dX2_saved_24 : decode cX2_saved 24 = .ok (.goto 4, 3) := dk_167 0 4 (dk_at dksX2_saved_1 0 rfl rfl)
theorem dX2_saved_27 : decode cX2_saved 27 = .ok (.iconst 2, 1) := dk_5 (dk_at dksX2_saved_1 3 rfl rfl)
theorem dX2_saved_28 : decode cX2_saved 28 = .ok (.putfield 44, 3) := dk_181 0 44 (dk_at dksX2_saved_1 4 rfl rfl)
theorem dX2_saved_31 : decode cX2_saved 31 = .ok (.aload_n 0, 1) := dk_42 (dk_at dksX2_saved_1 7 rfl rfl)
theorem dX2_saved_32 : decode cX2_saved 32 = .ok (.getfield 44, 3) := dk_180 0 44 (dk_at dksX2_saved_1 8 rfl rfl)
theorem dX2_saved_35 : decode cX2_saved 35 = .ok (.ifCond .le 5, 3) := dk_158 0 5 (dk_at dksX2_saved_1 11 rfl rfl)
theorem dX2_saved_38 : decode cX2_saved 38 = .ok (.iconst 0, 1) := dk_3 (dk_at dksX2_saved_1 14 rfl rfl)
theorem dX2_saved_39 : decode cX2_saved 39 = .ok (.ireturn, 1) := dk_172 (dk_at dksX2_saved_1 15 rfl rfl)
theorem dX2_saved_40 : decode cX2_saved 40 = .ok (.aload_n 0, 1) := dk_42 (dk_at dksX2_saved_1 16 rfl rfl)
theorem dX2_saved_41 : decode cX2_saved 41 = .ok (.iload_n 1, 1) := dk_27 (dk_at dksX2_saved_1 17 rfl rfl)
theorem dX2_saved_42 : decode cX2_saved 42 = .ok (.iload_n 2, 1) := dk_28 (dk_at dksX2_saved_1 18 rfl rfl)
theorem dX2_saved_43 : decode cX2_saved 43 = .ok (.invokevirtual 427, 3) := dk_182 1 171 (dk_at dksX2_saved_1 19 rfl rfl)
theorem dX2_saved_46 : decode cX2_saved 46 = .ok (.astore 4, 2) := dk_58 4 (dk_at dksX2_saved_1 22 rfl rfl)
theorem dX2_saved_48 : decode cX2_saved 48 = .ok (.aload_n 0, 1) := dk_42 (dk_at dksX2_saved_2 0 rfl rfl)
theorem dX2_saved_49 : decode cX2_saved 49 = .ok (.iload_n 3, 1) := dk_29 (dk_at dksX2_saved_2 1 rfl rfl)
theorem dX2_saved_50 : decode cX2_saved 50 = .ok (.i2l, 1) := dk_133 (dk_at dksX2_saved_2 2 rfl rfl)
theorem dX2_saved_51 : decode cX2_saved 51 = .ok (.lconst 0, 1) := dk_9 (dk_at dksX2_saved_2 3 rfl rfl)
theorem dX2_saved_52 : decode cX2_saved 52 = .ok (.aload 4, 2) := dk_25 4 (dk_at dksX2_saved_2 4 rfl rfl)
theorem dX2_saved_54 : decode cX2_saved 54 = .ok (.invokevirtual 48, 3) := dk_182 0 48 (dk_at dksX2_saved_2 6 rfl rfl)
theorem dX2_saved_57 : decode cX2_saved 57 = .ok (.iconst 1, 1) := dk_4 (dk_at dksX2_saved_2 9 rfl rfl)
theorem dX2_saved_58 : decode cX2_saved 58 = .ok (.isub, 1) := dk_100 (dk_at dksX2_saved_2 10 rfl rfl)
theorem dX2_saved_59 : decode cX2_saved 59 = .ok (.i2l, 1) := dk_133 (dk_at dksX2_saved_2 11 rfl rfl)
theorem dX2_saved_60 : decode cX2_saved 60 = .ok (.invokestatic 52, 3) := dk_184 0 52 (dk_at dksX2_saved_2 12 rfl rfl)
theorem dX2_saved_63 : decode cX2_saved 63 = .ok (.ifCond .eq 7, 3) := dk_153 0 7 (dk_at dksX2_saved_2 15 rfl rfl)
theorem dX2_saved_66 : decode cX2_saved 66 = .ok (.iconst 0, 1) := dk_3 (dk_at dksX2_saved_2 18 rfl rfl)
theorem dX2_saved_67 : decode cX2_saved 67 = .ok (.goto 4, 3) := dk_167 0 4 (dk_at dksX2_saved_2 19 rfl rfl)
theorem dX2_saved_70 : decode cX2_saved 70 = .ok (.iconst 3, 1) := dk_6 (dk_at dksX2_saved_2 22 rfl rfl)
theorem dX2_saved_71 : decode cX2_saved 71 = .ok (.putfield 44, 3) := dk_181 0 44 (dk_at dksX2_saved_3 0 rfl rfl)
theorem dX2_saved_74 : decode cX2_saved 74 = .ok (.aload_n 0, 1) := dk_42 (dk_at dksX2_saved_3 3 rfl rfl)
theorem dX2_saved_75 : decode cX2_saved 75 = .ok (.getfield 44, 3) := dk_180 0 44 (dk_at dksX2_saved_3 4 rfl rfl)
theorem dX2_saved_78 : decode cX2_saved 78 = .ok (.ifCond .le 7, 3) := dk_158 0 7 (dk_at dksX2_saved_3 7 rfl rfl)
theorem dX2_saved_81 : decode cX2_saved 81 = .ok (.iconst 0, 1) := dk_3 (dk_at dksX2_saved_3 10 rfl rfl)
theorem dX2_saved_82 : decode cX2_saved 82 = .ok (.goto 15, 3) := dk_167 0 15 (dk_at dksX2_saved_3 11 rfl rfl)
theorem dX2_saved_85 : decode cX2_saved 85 = .ok (.aload 4, 2) := dk_25 4 (dk_at dksX2_saved_3 14 rfl rfl)
theorem dX2_saved_87 : decode cX2_saved 87 = .ok (.iload_n 3, 1) := dk_29 (dk_at dksX2_saved_3 16 rfl rfl)
theorem dX2_saved_88 : decode cX2_saved 88 = .ok (.invokevirtual 68, 3) := dk_182 0 68 (dk_at dksX2_saved_3 17 rfl rfl)
theorem dX2_saved_91 : decode cX2_saved 91 = .ok (.checkcast 195, 3) := dk_192 0 195 (dk_at dksX2_saved_3 20 rfl rfl)
theorem dX2_saved_94 : decode cX2_saved 94 = .ok (.invokevirtual 272, 3) := dk_182 1 16 (dk_at dksX2_saved_4 0 rfl rfl)
theorem dX2_saved_97 : decode cX2_saved 97 = .ok (.ireturn, 1) := dk_172 (dk_at dksX2_saved_4 3 rfl rfl)
abbrev cX2_go : ByteArray := prog_17_method_95_code
def yX2_go : MethodName := ⟨RX2, "go", "(I)I"⟩
def dkwX2_go_11 : List UInt8 := [192, 0, 180, 3, 92, 46, 44, 180, 1, 8, 96, 79, 21, 4, 172]
abbrev dktX2_go_11 : List UInt8 := dkwX2_go_11 ++ []
def dkwX2_go_10 : List UInt8 := [54, 4, 132, 5, 1, 167, 255, 163, 21, 4, 2, 159, 0, 24, 42, 180, 0, 37, 21, 4, 182, 0, 68]
abbrev dktX2_go_10 : List UInt8 := dkwX2_go_10 ++ dktX2_go_11
def dkwX2_go_9 : List UInt8 := [180, 0, 37, 21, 4, 182, 0, 68, 192, 0, 180, 3, 46, 162, 0, 8, 21, 5, 167, 0, 5, 21, 4]
abbrev dktX2_go_9 : List UInt8 := dkwX2_go_9 ++ dktX2_go_10
def dkwX2_go_8 : List UInt8 := [153, 0, 45, 21, 4, 2, 159, 0, 34, 42, 180, 0, 37, 21, 5, 182, 0, 68, 192, 0, 180, 3, 46, 42]
abbrev dktX2_go_8 : List UInt8 := dkwX2_go_8 ++ dktX2_go_9
def dkwX2_go_7 : List UInt8 := [182, 0, 68, 192, 0, 180, 4, 46, 16, 12, 126, 153, 0, 7, 4, 167, 0, 4, 3, 54, 6, 21, 6]
abbrev dktX2_go_7 : List UInt8 := dkwX2_go_7 ++ dktX2_go_8
def dkwX2_go_6 : List UInt8 := [54, 4, 3, 54, 5, 21, 5, 42, 180, 0, 37, 182, 0, 48, 162, 0, 87, 42, 180, 0, 37, 21, 5]
abbrev dktX2_go_6 : List UInt8 := dkwX2_go_6 ++ dktX2_go_7
def dkwX2_go_5 : List UInt8 := [42, 180, 0, 44, 158, 0, 5, 3, 172, 44, 16, 103, 181, 0, 76, 42, 44, 16, 103, 3, 182, 0, 102, 2]
abbrev dktX2_go_5 : List UInt8 := dkwX2_go_5 ++ dktX2_go_6
def dkwX2_go_4 : List UInt8 := [167, 0, 4, 3, 62, 132, 4, 1, 167, 255, 226, 42, 29, 153, 0, 7, 3, 167, 0, 4, 5, 181, 0, 44]
abbrev dktX2_go_4 : List UInt8 := dkwX2_go_4 ++ dktX2_go_5
def dkwX2_go_3 : List UInt8 := [54, 4, 21, 4, 7, 162, 0, 30, 29, 153, 0, 18, 42, 44, 21, 4, 182, 1, 80, 2, 160, 0, 7, 4]
abbrev dktX2_go_3 : List UInt8 := dkwX2_go_3 ++ dktX2_go_4
def dkwX2_go_2 : List UInt8 := [44, 184, 1, 131, 153, 0, 17, 42, 27, 3, 182, 1, 144, 5, 161, 0, 7, 4, 167, 0, 4, 3, 62, 3]
abbrev dktX2_go_2 : List UInt8 := dkwX2_go_2 ++ dktX2_go_3
def dkwX2_go_1 : List UInt8 := [180, 0, 63, 2, 160, 0, 41, 44, 180, 0, 76, 16, 114, 160, 0, 32, 42, 27, 182, 1, 178, 154, 0, 10]
abbrev dktX2_go_1 : List UInt8 := dkwX2_go_1 ++ dktX2_go_2
def dkwX2_go_0 : List UInt8 := [42, 27, 182, 0, 185, 153, 0, 5, 3, 172, 42, 180, 0, 19, 27, 182, 0, 68, 192, 0, 64, 77, 44]
abbrev dktX2_go_0 : List UInt8 := dkwX2_go_0 ++ dktX2_go_1
theorem dksX2_go_0 : cX2_go.data.toList.drop 0 = dktX2_go_0 := by decide +kernel
theorem dksX2_go_1 : cX2_go.data.toList.drop 23 = dktX2_go_1 := dk_seg dksX2_go_0 23 rfl rfl
theorem dksX2_go_2 : cX2_go.data.toList.drop 47 = dktX2_go_2 := dk_seg dksX2_go_1 24 rfl rfl
theorem dksX2_go_3 : cX2_go.data.toList.drop 71 = dktX2_go_3 := dk_seg dksX2_go_2 24 rfl rfl
theorem dksX2_go_4 : cX2_go.data.toList.drop 95 = dktX2_go_4 := dk_seg dksX2_go_3 24 rfl rfl
theorem dksX2_go_5 : cX2_go.data.toList.drop 119 = dktX2_go_5 := dk_seg dksX2_go_4 24 rfl rfl
theorem dksX2_go_6 : cX2_go.data.toList.drop 143 = dktX2_go_6 := dk_seg dksX2_go_5 24 rfl rfl
theorem dksX2_go_7 : cX2_go.data.toList.drop 166 = dktX2_go_7 := dk_seg dksX2_go_6 23 rfl rfl
theorem dksX2_go_8 : cX2_go.data.toList.drop 189 = dktX2_go_8 := dk_seg dksX2_go_7 23 rfl rfl
theorem dksX2_go_9 : cX2_go.data.toList.drop 213 = dktX2_go_9 := dk_seg dksX2_go_8 24 rfl rfl
theorem dksX2_go_10 : cX2_go.data.toList.drop 236 = dktX2_go_10 := dk_seg dksX2_go_9 23 rfl rfl
theorem dksX2_go_11 : cX2_go.data.toList.drop 259 = dktX2_go_11 := dk_seg dksX2_go_10 23 rfl rfl
theorem dX2_go_0 : decode cX2_go 0 = .ok (.aload_n 0, 1) := dk_42 (dk_at dksX2_go_0 0 rfl rfl)
theorem dX2_go_1 : decode cX2_go 1 = .ok (.iload_n 1, 1) := dk_27 (dk_at dksX2_go_0 1 rfl rfl)
theorem dX2_go_2 : decode cX2_go 2 = .ok (.invokevirtual 185, 3) := dk_182 0 185 (dk_at dksX2_go_0 2 rfl rfl)
theorem dX2_go_5 : decode cX2_go 5 = .ok (.ifCond .eq 5, 3) := dk_153 0 5 (dk_at dksX2_go_0 5 rfl rfl)
theorem dX2_go_8 : decode cX2_go 8 = .ok (.iconst 0, 1) := dk_3 (dk_at dksX2_go_0 8 rfl rfl)
theorem dX2_go_9 : decode cX2_go 9 = .ok (.ireturn, 1) := dk_172 (dk_at dksX2_go_0 9 rfl rfl)
theorem dX2_go_10 : decode cX2_go 10 = .ok (.aload_n 0, 1) := dk_42 (dk_at dksX2_go_0 10 rfl rfl)
theorem dX2_go_11 : decode cX2_go 11 = .ok (.getfield 19, 3) := dk_180 0 19 (dk_at dksX2_go_0 11 rfl rfl)
theorem dX2_go_14 : decode cX2_go 14 = .ok (.iload_n 1, 1) := dk_27 (dk_at dksX2_go_0 14 rfl rfl)
theorem dX2_go_15 : decode cX2_go 15 = .ok (.invokevirtual 68, 3) := dk_182 0 68 (dk_at dksX2_go_0 15 rfl rfl)
theorem dX2_go_18 : decode cX2_go 18 = .ok (.checkcast 64, 3) := dk_192 0 64 (dk_at dksX2_go_0 18 rfl rfl)
theorem dX2_go_21 : decode cX2_go 21 = .ok (.astore_n 2, 1) := dk_77 (dk_at dksX2_go_0 21 rfl rfl)
theorem dX2_go_22 : decode cX2_go 22 = .ok (.aload_n 2, 1) := dk_44 (dk_at dksX2_go_0 22 rfl rfl)
theorem dX2_go_23 : decode cX2_go 23 = .ok (.getfield 63, 3) := dk_180 0 63 (dk_at dksX2_go_1 0 rfl rfl)
theorem dX2_go_26 : decode cX2_go 26 = .ok (.iconst (-1), 1) := dk_2 (dk_at dksX2_go_1 3 rfl rfl)
theorem dX2_go_27 : decode cX2_go 27 = .ok (.if_icmp .ne 41, 3) := dk_160 0 41 (dk_at dksX2_go_1 4 rfl rfl)
theorem dX2_go_30 : decode cX2_go 30 = .ok (.aload_n 2, 1) := dk_44 (dk_at dksX2_go_1 7 rfl rfl)
theorem dX2_go_31 : decode cX2_go 31 = .ok (.getfield 76, 3) := dk_180 0 76 (dk_at dksX2_go_1 8 rfl rfl)
theorem dX2_go_34 : decode cX2_go 34 = .ok (.bipush 114, 2) := dk_16 114 (dk_at dksX2_go_1 11 rfl rfl)
theorem dX2_go_36 : decode cX2_go 36 = .ok (.if_icmp .ne 32, 3) := dk_160 0 32 (dk_at dksX2_go_1 13 rfl rfl)
theorem dX2_go_39 : decode cX2_go 39 = .ok (.aload_n 0, 1) := dk_42 (dk_at dksX2_go_1 16 rfl rfl)
theorem dX2_go_40 : decode cX2_go 40 = .ok (.iload_n 1, 1) := dk_27 (dk_at dksX2_go_1 17 rfl rfl)
theorem dX2_go_41 : decode cX2_go 41 = .ok (.invokevirtual 434, 3) := dk_182 1 178 (dk_at dksX2_go_1 18 rfl rfl)
theorem dX2_go_44 : decode cX2_go 44 = .ok (.ifCond .ne 10, 3) := dk_154 0 10 (dk_at dksX2_go_1 21 rfl rfl)
theorem dX2_go_47 : decode cX2_go 47 = .ok (.aload_n 2, 1) := dk_44 (dk_at dksX2_go_2 0 rfl rfl)
theorem dX2_go_48 : decode cX2_go 48 = .ok (.invokestatic 387, 3) := dk_184 1 131 (dk_at dksX2_go_2 1 rfl rfl)
theorem dX2_go_51 : decode cX2_go 51 = .ok (.ifCond .eq 17, 3) := dk_153 0 17 (dk_at dksX2_go_2 4 rfl rfl)
theorem dX2_go_54 : decode cX2_go 54 = .ok (.aload_n 0, 1) := dk_42 (dk_at dksX2_go_2 7 rfl rfl)
theorem dX2_go_55 : decode cX2_go 55 = .ok (.iload_n 1, 1) := dk_27 (dk_at dksX2_go_2 8 rfl rfl)
theorem dX2_go_56 : decode cX2_go 56 = .ok (.iconst 0, 1) := dk_3 (dk_at dksX2_go_2 9 rfl rfl)
theorem dX2_go_57 : decode cX2_go 57 = .ok (.invokevirtual 400, 3) := dk_182 1 144 (dk_at dksX2_go_2 10 rfl rfl)
theorem dX2_go_60 : decode cX2_go 60 = .ok (.iconst 2, 1) := dk_5 (dk_at dksX2_go_2 13 rfl rfl)
theorem dX2_go_61 : decode cX2_go 61 = .ok (.if_icmp .lt 7, 3) := dk_161 0 7 (dk_at dksX2_go_2 14 rfl rfl)
theorem dX2_go_64 : decode cX2_go 64 = .ok (.iconst 1, 1) := dk_4 (dk_at dksX2_go_2 17 rfl rfl)
theorem dX2_go_65 : decode cX2_go 65 = .ok (.goto 4, 3) := dk_167 0 4 (dk_at dksX2_go_2 18 rfl rfl)
theorem dX2_go_68 : decode cX2_go 68 = .ok (.iconst 0, 1) := dk_3 (dk_at dksX2_go_2 21 rfl rfl)
theorem dX2_go_69 : decode cX2_go 69 = .ok (.istore_n 3, 1) := dk_62 (dk_at dksX2_go_2 22 rfl rfl)
theorem dX2_go_70 : decode cX2_go 70 = .ok (.iconst 0, 1) := dk_3 (dk_at dksX2_go_2 23 rfl rfl)
theorem dX2_go_71 : decode cX2_go 71 = .ok (.istore 4, 2) := dk_54 4 (dk_at dksX2_go_3 0 rfl rfl)
theorem dX2_go_73 : decode cX2_go 73 = .ok (.iload 4, 2) := dk_21 4 (dk_at dksX2_go_3 2 rfl rfl)
theorem dX2_go_75 : decode cX2_go 75 = .ok (.iconst 4, 1) := dk_7 (dk_at dksX2_go_3 4 rfl rfl)
theorem dX2_go_76 : decode cX2_go 76 = .ok (.if_icmp .ge 30, 3) := dk_162 0 30 (dk_at dksX2_go_3 5 rfl rfl)
theorem dX2_go_79 : decode cX2_go 79 = .ok (.iload_n 3, 1) := dk_29 (dk_at dksX2_go_3 8 rfl rfl)
theorem dX2_go_80 : decode cX2_go 80 = .ok (.ifCond .eq 18, 3) := dk_153 0 18 (dk_at dksX2_go_3 9 rfl rfl)
theorem dX2_go_83 : decode cX2_go 83 = .ok (.aload_n 0, 1) := dk_42 (dk_at dksX2_go_3 12 rfl rfl)
theorem dX2_go_84 : decode cX2_go 84 = .ok (.aload_n 2, 1) := dk_44 (dk_at dksX2_go_3 13 rfl rfl)
theorem dX2_go_85 : decode cX2_go 85 = .ok (.iload 4, 2) := dk_21 4 (dk_at dksX2_go_3 14 rfl rfl)
theorem dX2_go_87 : decode cX2_go 87 = .ok (.invokevirtual 336, 3) := dk_182 1 80 (dk_at dksX2_go_3 16 rfl rfl)
theorem dX2_go_90 : decode cX2_go 90 = .ok (.iconst (-1), 1) := dk_2 (dk_at dksX2_go_3 19 rfl rfl)
theorem dX2_go_91 : decode cX2_go 91 = .ok (.if_icmp .ne 7, 3) := dk_160 0 7 (dk_at dksX2_go_3 20 rfl rfl)
theorem dX2_go_94 : decode cX2_go 94 = .ok (.iconst 1, 1) := dk_4 (dk_at dksX2_go_3 23 rfl rfl)
theorem dX2_go_95 : decode cX2_go 95 = .ok (.goto 4, 3) := dk_167 0 4 (dk_at dksX2_go_4 0 rfl rfl)
theorem dX2_go_98 : decode cX2_go 98 = .ok (.iconst 0, 1) := dk_3 (dk_at dksX2_go_4 3 rfl rfl)
theorem dX2_go_99 : decode cX2_go 99 = .ok (.istore_n 3, 1) := dk_62 (dk_at dksX2_go_4 4 rfl rfl)
theorem dX2_go_100 : decode cX2_go 100 = .ok (.iinc 4 1, 3) := dk_132 4 1 (dk_at dksX2_go_4 5 rfl rfl)
theorem dX2_go_103 : decode cX2_go 103 = .ok (.goto (-30), 3) := dk_167 255 226 (dk_at dksX2_go_4 8 rfl rfl)
theorem dX2_go_106 : decode cX2_go 106 = .ok (.aload_n 0, 1) := dk_42 (dk_at dksX2_go_4 11 rfl rfl)
theorem dX2_go_107 : decode cX2_go 107 = .ok (.iload_n 3, 1) := dk_29 (dk_at dksX2_go_4 12 rfl rfl)
theorem dX2_go_108 : decode cX2_go 108 = .ok (.ifCond .eq 7, 3) := dk_153 0 7 (dk_at dksX2_go_4 13 rfl rfl)
theorem dX2_go_111 : decode cX2_go 111 = .ok (.iconst 0, 1) := dk_3 (dk_at dksX2_go_4 16 rfl rfl)
theorem dX2_go_112 : decode cX2_go 112 = .ok (.goto 4, 3) := dk_167 0 4 (dk_at dksX2_go_4 17 rfl rfl)
theorem dX2_go_115 : decode cX2_go 115 = .ok (.iconst 2, 1) := dk_5 (dk_at dksX2_go_4 20 rfl rfl)
theorem dX2_go_116 : decode cX2_go 116 = .ok (.putfield 44, 3) := dk_181 0 44 (dk_at dksX2_go_4 21 rfl rfl)
theorem dX2_go_119 : decode cX2_go 119 = .ok (.aload_n 0, 1) := dk_42 (dk_at dksX2_go_5 0 rfl rfl)
theorem dX2_go_120 : decode cX2_go 120 = .ok (.getfield 44, 3) := dk_180 0 44 (dk_at dksX2_go_5 1 rfl rfl)
theorem dX2_go_123 : decode cX2_go 123 = .ok (.ifCond .le 5, 3) := dk_158 0 5 (dk_at dksX2_go_5 4 rfl rfl)
theorem dX2_go_126 : decode cX2_go 126 = .ok (.iconst 0, 1) := dk_3 (dk_at dksX2_go_5 7 rfl rfl)
theorem dX2_go_127 : decode cX2_go 127 = .ok (.ireturn, 1) := dk_172 (dk_at dksX2_go_5 8 rfl rfl)
theorem dX2_go_128 : decode cX2_go 128 = .ok (.aload_n 2, 1) := dk_44 (dk_at dksX2_go_5 9 rfl rfl)
theorem dX2_go_129 : decode cX2_go 129 = .ok (.bipush 103, 2) := dk_16 103 (dk_at dksX2_go_5 10 rfl rfl)
theorem dX2_go_131 : decode cX2_go 131 = .ok (.putfield 76, 3) := dk_181 0 76 (dk_at dksX2_go_5 12 rfl rfl)
theorem dX2_go_134 : decode cX2_go 134 = .ok (.aload_n 0, 1) := dk_42 (dk_at dksX2_go_5 15 rfl rfl)
theorem dX2_go_135 : decode cX2_go 135 = .ok (.aload_n 2, 1) := dk_44 (dk_at dksX2_go_5 16 rfl rfl)
theorem dX2_go_136 : decode cX2_go 136 = .ok (.bipush 103, 2) := dk_16 103 (dk_at dksX2_go_5 17 rfl rfl)
theorem dX2_go_138 : decode cX2_go 138 = .ok (.iconst 0, 1) := dk_3 (dk_at dksX2_go_5 19 rfl rfl)
theorem dX2_go_139 : decode cX2_go 139 = .ok (.invokevirtual 102, 3) := dk_182 0 102 (dk_at dksX2_go_5 20 rfl rfl)
theorem dX2_go_142 : decode cX2_go 142 = .ok (.iconst (-1), 1) := dk_2 (dk_at dksX2_go_5 23 rfl rfl)
theorem dX2_go_143 : decode cX2_go 143 = .ok (.istore 4, 2) := dk_54 4 (dk_at dksX2_go_6 0 rfl rfl)
theorem dX2_go_145 : decode cX2_go 145 = .ok (.iconst 0, 1) := dk_3 (dk_at dksX2_go_6 2 rfl rfl)
theorem dX2_go_146 : decode cX2_go 146 = .ok (.istore 5, 2) := dk_54 5 (dk_at dksX2_go_6 3 rfl rfl)
theorem dX2_go_148 : decode cX2_go 148 = .ok (.iload 5, 2) := dk_21 5 (dk_at dksX2_go_6 5 rfl rfl)
theorem dX2_go_150 : decode cX2_go 150 = .ok (.aload_n 0, 1) := dk_42 (dk_at dksX2_go_6 7 rfl rfl)
theorem dX2_go_151 : decode cX2_go 151 = .ok (.getfield 37, 3) := dk_180 0 37 (dk_at dksX2_go_6 8 rfl rfl)
theorem dX2_go_154 : decode cX2_go 154 = .ok (.invokevirtual 48, 3) := dk_182 0 48 (dk_at dksX2_go_6 11 rfl rfl)
theorem dX2_go_157 : decode cX2_go 157 = .ok (.if_icmp .ge 87, 3) := dk_162 0 87 (dk_at dksX2_go_6 14 rfl rfl)
theorem dX2_go_160 : decode cX2_go 160 = .ok (.aload_n 0, 1) := dk_42 (dk_at dksX2_go_6 17 rfl rfl)
theorem dX2_go_161 : decode cX2_go 161 = .ok (.getfield 37, 3) := dk_180 0 37 (dk_at dksX2_go_6 18 rfl rfl)
theorem dX2_go_164 : decode cX2_go 164 = .ok (.iload 5, 2) := dk_21 5 (dk_at dksX2_go_6 21 rfl rfl)
theorem dX2_go_166 : decode cX2_go 166 = .ok (.invokevirtual 68, 3) := dk_182 0 68 (dk_at dksX2_go_7 0 rfl rfl)
theorem dX2_go_169 : decode cX2_go 169 = .ok (.checkcast 180, 3) := dk_192 0 180 (dk_at dksX2_go_7 3 rfl rfl)
theorem dX2_go_172 : decode cX2_go 172 = .ok (.iconst 1, 1) := dk_4 (dk_at dksX2_go_7 6 rfl rfl)
theorem dX2_go_173 : decode cX2_go 173 = .ok (.iaload, 1) := dk_46 (dk_at dksX2_go_7 7 rfl rfl)
theorem dX2_go_174 : decode cX2_go 174 = .ok (.bipush 12, 2) := dk_16 12 (dk_at dksX2_go_7 8 rfl rfl)
theorem dX2_go_176 : decode cX2_go 176 = .ok (.iand, 1) := dk_126 (dk_at dksX2_go_7 10 rfl rfl)
theorem dX2_go_177 : decode cX2_go 177 = .ok (.ifCond .eq 7, 3) := dk_153 0 7 (dk_at dksX2_go_7 11 rfl rfl)
theorem dX2_go_180 : decode cX2_go 180 = .ok (.iconst 1, 1) := dk_4 (dk_at dksX2_go_7 14 rfl rfl)
theorem dX2_go_181 : decode cX2_go 181 = .ok (.goto 4, 3) := dk_167 0 4 (dk_at dksX2_go_7 15 rfl rfl)
theorem dX2_go_184 : decode cX2_go 184 = .ok (.iconst 0, 1) := dk_3 (dk_at dksX2_go_7 18 rfl rfl)
theorem dX2_go_185 : decode cX2_go 185 = .ok (.istore 6, 2) := dk_54 6 (dk_at dksX2_go_7 19 rfl rfl)
theorem dX2_go_187 : decode cX2_go 187 = .ok (.iload 6, 2) := dk_21 6 (dk_at dksX2_go_7 21 rfl rfl)
theorem dX2_go_189 : decode cX2_go 189 = .ok (.ifCond .eq 45, 3) := dk_153 0 45 (dk_at dksX2_go_8 0 rfl rfl)
theorem dX2_go_192 : decode cX2_go 192 = .ok (.iload 4, 2) := dk_21 4 (dk_at dksX2_go_8 3 rfl rfl)
theorem dX2_go_194 : decode cX2_go 194 = .ok (.iconst (-1), 1) := dk_2 (dk_at dksX2_go_8 5 rfl rfl)
theorem dX2_go_195 : decode cX2_go 195 = .ok (.if_icmp .eq 34, 3) := dk_159 0 34 (dk_at dksX2_go_8 6 rfl rfl)
theorem dX2_go_198 : decode cX2_go 198 = .ok (.aload_n 0, 1) := dk_42 (dk_at dksX2_go_8 9 rfl rfl)
theorem dX2_go_199 : decode cX2_go 199 = .ok (.getfield 37, 3) := dk_180 0 37 (dk_at dksX2_go_8 10 rfl rfl)
theorem dX2_go_202 : decode cX2_go 202 = .ok (.iload 5, 2) := dk_21 5 (dk_at dksX2_go_8 13 rfl rfl)
theorem dX2_go_204 : decode cX2_go 204 = .ok (.invokevirtual 68, 3) := dk_182 0 68 (dk_at dksX2_go_8 15 rfl rfl)
theorem dX2_go_207 : decode cX2_go 207 = .ok (.checkcast 180, 3) := dk_192 0 180 (dk_at dksX2_go_8 18 rfl rfl)
theorem dX2_go_210 : decode cX2_go 210 = .ok (.iconst 0, 1) := dk_3 (dk_at dksX2_go_8 21 rfl rfl)
theorem dX2_go_211 : decode cX2_go 211 = .ok (.iaload, 1) := dk_46 (dk_at dksX2_go_8 22 rfl rfl)
theorem dX2_go_212 : decode cX2_go 212 = .ok (.aload_n 0, 1) := dk_42 (dk_at dksX2_go_8 23 rfl rfl)
theorem dX2_go_213 : decode cX2_go 213 = .ok (.getfield 37, 3) := dk_180 0 37 (dk_at dksX2_go_9 0 rfl rfl)
theorem dX2_go_216 : decode cX2_go 216 = .ok (.iload 4, 2) := dk_21 4 (dk_at dksX2_go_9 3 rfl rfl)
theorem dX2_go_218 : decode cX2_go 218 = .ok (.invokevirtual 68, 3) := dk_182 0 68 (dk_at dksX2_go_9 5 rfl rfl)
theorem dX2_go_221 : decode cX2_go 221 = .ok (.checkcast 180, 3) := dk_192 0 180 (dk_at dksX2_go_9 8 rfl rfl)
theorem dX2_go_224 : decode cX2_go 224 = .ok (.iconst 0, 1) := dk_3 (dk_at dksX2_go_9 11 rfl rfl)
theorem dX2_go_225 : decode cX2_go 225 = .ok (.iaload, 1) := dk_46 (dk_at dksX2_go_9 12 rfl rfl)
theorem dX2_go_226 : decode cX2_go 226 = .ok (.if_icmp .ge 8, 3) := dk_162 0 8 (dk_at dksX2_go_9 13 rfl rfl)
theorem dX2_go_229 : decode cX2_go 229 = .ok (.iload 5, 2) := dk_21 5 (dk_at dksX2_go_9 16 rfl rfl)
theorem dX2_go_231 : decode cX2_go 231 = .ok (.goto 5, 3) := dk_167 0 5 (dk_at dksX2_go_9 18 rfl rfl)
theorem dX2_go_234 : decode cX2_go 234 = .ok (.iload 4, 2) := dk_21 4 (dk_at dksX2_go_9 21 rfl rfl)
theorem dX2_go_236 : decode cX2_go 236 = .ok (.istore 4, 2) := dk_54 4 (dk_at dksX2_go_10 0 rfl rfl)
theorem dX2_go_238 : decode cX2_go 238 = .ok (.iinc 5 1, 3) := dk_132 5 1 (dk_at dksX2_go_10 2 rfl rfl)
theorem dX2_go_241 : decode cX2_go 241 = .ok (.goto (-93), 3) := dk_167 255 163 (dk_at dksX2_go_10 5 rfl rfl)
theorem dX2_go_244 : decode cX2_go 244 = .ok (.iload 4, 2) := dk_21 4 (dk_at dksX2_go_10 8 rfl rfl)
theorem dX2_go_246 : decode cX2_go 246 = .ok (.iconst (-1), 1) := dk_2 (dk_at dksX2_go_10 10 rfl rfl)
theorem dX2_go_247 : decode cX2_go 247 = .ok (.if_icmp .eq 24, 3) := dk_159 0 24 (dk_at dksX2_go_10 11 rfl rfl)
theorem dX2_go_250 : decode cX2_go 250 = .ok (.aload_n 0, 1) := dk_42 (dk_at dksX2_go_10 14 rfl rfl)
theorem dX2_go_251 : decode cX2_go 251 = .ok (.getfield 37, 3) := dk_180 0 37 (dk_at dksX2_go_10 15 rfl rfl)
theorem dX2_go_254 : decode cX2_go 254 = .ok (.iload 4, 2) := dk_21 4 (dk_at dksX2_go_10 18 rfl rfl)
theorem dX2_go_256 : decode cX2_go 256 = .ok (.invokevirtual 68, 3) := dk_182 0 68 (dk_at dksX2_go_10 20 rfl rfl)
theorem dX2_go_259 : decode cX2_go 259 = .ok (.checkcast 180, 3) := dk_192 0 180 (dk_at dksX2_go_11 0 rfl rfl)
theorem dX2_go_262 : decode cX2_go 262 = .ok (.iconst 0, 1) := dk_3 (dk_at dksX2_go_11 3 rfl rfl)
theorem dX2_go_263 : decode cX2_go 263 = .ok (.dup2, 1) := dk_92 (dk_at dksX2_go_11 4 rfl rfl)
theorem dX2_go_264 : decode cX2_go 264 = .ok (.iaload, 1) := dk_46 (dk_at dksX2_go_11 5 rfl rfl)
theorem dX2_go_265 : decode cX2_go 265 = .ok (.aload_n 2, 1) := dk_44 (dk_at dksX2_go_11 6 rfl rfl)
theorem dX2_go_266 : decode cX2_go 266 = .ok (.getfield 264, 3) := dk_180 1 8 (dk_at dksX2_go_11 7 rfl rfl)
theorem dX2_go_269 : decode cX2_go 269 = .ok (.iadd, 1) := dk_96 (dk_at dksX2_go_11 10 rfl rfl)
theorem dX2_go_270 : decode cX2_go 270 = .ok (.iastore, 1) := dk_79 (dk_at dksX2_go_11 11 rfl rfl)
theorem dX2_go_271 : decode cX2_go 271 = .ok (.iload 4, 2) := dk_21 4 (dk_at dksX2_go_11 12 rfl rfl)
theorem dX2_go_273 : decode cX2_go 273 = .ok (.ireturn, 1) := dk_172 (dk_at dksX2_go_11 14 rfl rfl)
abbrev cX2_hasLike : ByteArray := prog_17_method_94_code
def yX2_hasLike : MethodName := ⟨RX2, "hasLike", "(I)Z"⟩
def dkwX2_hasLike_5 : List UInt8 := [167, 255, 148, 28, 172]
abbrev dktX2_hasLike_5 : List UInt8 := dkwX2_hasLike_5 ++ []
def dkwX2_hasLike_4 : List UInt8 := [29, 2, 159, 0, 17, 42, 21, 4, 182, 1, 147, 29, 160, 0, 7, 4, 167, 0, 4, 3, 61, 132, 4, 1]
abbrev dktX2_hasLike_4 : List UInt8 := dkwX2_hasLike_4 ++ dktX2_hasLike_5
def dkwX2_hasLike_3 : List UInt8 := [180, 0, 76, 16, 103, 159, 0, 7, 4, 167, 0, 4, 3, 54, 6, 28, 154, 0, 23, 21, 6, 153, 0, 22]
abbrev dktX2_hasLike_3 : List UInt8 := dkwX2_hasLike_3 ++ dktX2_hasLike_4
def dkwX2_hasLike_2 : List UInt8 := [42, 180, 0, 19, 27, 182, 0, 68, 192, 0, 64, 180, 0, 188, 160, 0, 21, 42, 25, 5, 182, 0, 72]
abbrev dktX2_hasLike_2 : List UInt8 := dkwX2_hasLike_2 ++ dktX2_hasLike_3
def dkwX2_hasLike_1 : List UInt8 := [180, 0, 19, 21, 4, 182, 0, 68, 192, 0, 64, 58, 5, 21, 4, 27, 159, 0, 43, 25, 5, 180, 0, 188]
abbrev dktX2_hasLike_1 : List UInt8 := dkwX2_hasLike_1 ++ dktX2_hasLike_2
def dkwX2_hasLike_0 : List UInt8 := [3, 61, 42, 27, 182, 1, 147, 62, 3, 54, 4, 21, 4, 42, 180, 0, 19, 182, 0, 48, 162, 0, 102, 42]
abbrev dktX2_hasLike_0 : List UInt8 := dkwX2_hasLike_0 ++ dktX2_hasLike_1
theorem dksX2_hasLike_0 : cX2_hasLike.data.toList.drop 0 = dktX2_hasLike_0 := by decide +kernel
theorem dksX2_hasLike_1 : cX2_hasLike.data.toList.drop 24 = dktX2_hasLike_1 := dk_seg dksX2_hasLike_0 24 rfl rfl
theorem dksX2_hasLike_2 : cX2_hasLike.data.toList.drop 48 = dktX2_hasLike_2 := dk_seg dksX2_hasLike_1 24 rfl rfl
theorem dksX2_hasLike_3 : cX2_hasLike.data.toList.drop 71 = dktX2_hasLike_3 := dk_seg dksX2_hasLike_2 23 rfl rfl
theorem dksX2_hasLike_4 : cX2_hasLike.data.toList.drop 95 = dktX2_hasLike_4 := dk_seg dksX2_hasLike_3 24 rfl rfl
theorem dksX2_hasLike_5 : cX2_hasLike.data.toList.drop 119 = dktX2_hasLike_5 := dk_seg dksX2_hasLike_4 24 rfl rfl
theorem dX2_hasLike_0 : decode cX2_hasLike 0 = .ok (.iconst 0, 1) := dk_3 (dk_at dksX2_hasLike_0 0 rfl rfl)
theorem dX2_hasLike_1 : decode cX2_hasLike 1 = .ok (.istore_n 2, 1) := dk_61 (dk_at dksX2_hasLike_0 1 rfl rfl)
theorem dX2_hasLike_2 : decode cX2_hasLike 2 = .ok (.aload_n 0, 1) := dk_42 (dk_at dksX2_hasLike_0 2 rfl rfl)
theorem dX2_hasLike_3 : decode cX2_hasLike 3 = .ok (.iload_n 1, 1) := dk_27 (dk_at dksX2_hasLike_0 3 rfl rfl)
theorem dX2_hasLike_4 : decode cX2_hasLike 4 = .ok (.invokevirtual 403, 3) := dk_182 1 147 (dk_at dksX2_hasLike_0 4 rfl rfl)
theorem dX2_hasLike_7 : decode cX2_hasLike 7 = .ok (.istore_n 3, 1) := dk_62 (dk_at dksX2_hasLike_0 7 rfl rfl)
theorem dX2_hasLike_8 : decode cX2_hasLike 8 = .ok (.iconst 0, 1) := dk_3 (dk_at dksX2_hasLike_0 8 rfl rfl)
theorem dX2_hasLike_9 : decode cX2_hasLike 9 = .ok (.istore 4, 2) := dk_54 4 (dk_at dksX2_hasLike_0 9 rfl rfl)
theorem dX2_hasLike_11 : decode cX2_hasLike 11 = .ok (.iload 4, 2) := dk_21 4 (dk_at dksX2_hasLike_0 11 rfl rfl)
theorem dX2_hasLike_13 : decode cX2_hasLike 13 = .ok (.aload_n 0, 1) := dk_42 (dk_at dksX2_hasLike_0 13 rfl rfl)
theorem dX2_hasLike_14 : decode cX2_hasLike 14 = .ok (.getfield 19, 3) := dk_180 0 19 (dk_at dksX2_hasLike_0 14 rfl rfl)
theorem dX2_hasLike_17 : decode cX2_hasLike 17 = .ok (.invokevirtual 48, 3) := dk_182 0 48 (dk_at dksX2_hasLike_0 17 rfl rfl)
theorem dX2_hasLike_20 : decode cX2_hasLike 20 = .ok (.if_icmp .ge 102, 3) := dk_162 0 102 (dk_at dksX2_hasLike_0 20 rfl rfl)
theorem dX2_hasLike_23 : decode cX2_hasLike 23 = .ok (.aload_n 0, 1) := dk_42 (dk_at dksX2_hasLike_0 23 rfl rfl)
theorem dX2_hasLike_24 : decode cX2_hasLike 24 = .ok (.getfield 19, 3) := dk_180 0 19 (dk_at dksX2_hasLike_1 0 rfl rfl)
theorem dX2_hasLike_27 : decode cX2_hasLike 27 = .ok (.iload 4, 2) := dk_21 4 (dk_at dksX2_hasLike_1 3 rfl rfl)
theorem dX2_hasLike_29 : decode cX2_hasLike 29 = .ok (.invokevirtual 68, 3) := dk_182 0 68 (dk_at dksX2_hasLike_1 5 rfl rfl)
theorem dX2_hasLike_32 : decode cX2_hasLike 32 = .ok (.checkcast 64, 3) := dk_192 0 64 (dk_at dksX2_hasLike_1 8 rfl rfl)
theorem dX2_hasLike_35 : decode cX2_hasLike 35 = .ok (.astore 5, 2) := dk_58 5 (dk_at dksX2_hasLike_1 11 rfl rfl)
theorem dX2_hasLike_37 : decode cX2_hasLike 37 = .ok (.iload 4, 2) := dk_21 4 (dk_at dksX2_hasLike_1 13 rfl rfl)
theorem dX2_hasLike_39 : decode cX2_hasLike 39 = .ok (.iload_n 1, 1) := dk_27 (dk_at dksX2_hasLike_1 15 rfl rfl)
theorem dX2_hasLike_40 : decode cX2_hasLike 40 = .ok (.if_icmp .eq 43, 3) := dk_159 0 43 (dk_at dksX2_hasLike_1 16 rfl rfl)
theorem dX2_hasLike_43 : decode cX2_hasLike 43 = .ok (.aload 5, 2) := dk_25 5 (dk_at dksX2_hasLike_1 19 rfl rfl)
theorem dX2_hasLike_45 : decode cX2_hasLike 45 = .ok (.getfield 188, 3) := dk_180 0 188 (dk_at dksX2_hasLike_1 21 rfl rfl)
theorem dX2_hasLike_48 : decode cX2_hasLike 48 = .ok (.aload_n 0, 1) := dk_42 (dk_at dksX2_hasLike_2 0 rfl rfl)
theorem dX2_hasLike_49 : decode cX2_hasLike 49 = .ok (.getfield 19, 3) := dk_180 0 19 (dk_at dksX2_hasLike_2 1 rfl rfl)
theorem dX2_hasLike_52 : decode cX2_hasLike 52 = .ok (.iload_n 1, 1) := dk_27 (dk_at dksX2_hasLike_2 4 rfl rfl)
theorem dX2_hasLike_53 : decode cX2_hasLike 53 = .ok (.invokevirtual 68, 3) := dk_182 0 68 (dk_at dksX2_hasLike_2 5 rfl rfl)
theorem dX2_hasLike_56 : decode cX2_hasLike 56 = .ok (.checkcast 64, 3) := dk_192 0 64 (dk_at dksX2_hasLike_2 8 rfl rfl)
theorem dX2_hasLike_59 : decode cX2_hasLike 59 = .ok (.getfield 188, 3) := dk_180 0 188 (dk_at dksX2_hasLike_2 11 rfl rfl)
theorem dX2_hasLike_62 : decode cX2_hasLike 62 = .ok (.if_icmp .ne 21, 3) := dk_160 0 21 (dk_at dksX2_hasLike_2 14 rfl rfl)
theorem dX2_hasLike_65 : decode cX2_hasLike 65 = .ok (.aload_n 0, 1) := dk_42 (dk_at dksX2_hasLike_2 17 rfl rfl)
theorem dX2_hasLike_66 : decode cX2_hasLike 66 = .ok (.aload 5, 2) := dk_25 5 (dk_at dksX2_hasLike_2 18 rfl rfl)
theorem dX2_hasLike_68 : decode cX2_hasLike 68 = .ok (.invokevirtual 72, 3) := dk_182 0 72 (dk_at dksX2_hasLike_2 20 rfl rfl)
theorem dX2_hasLike_71 : decode cX2_hasLike 71 = .ok (.getfield 76, 3) := dk_180 0 76 (dk_at dksX2_hasLike_3 0 rfl rfl)
theorem dX2_hasLike_74 : decode cX2_hasLike 74 = .ok (.bipush 103, 2) := dk_16 103 (dk_at dksX2_hasLike_3 3 rfl rfl)
theorem dX2_hasLike_76 : decode cX2_hasLike 76 = .ok (.if_icmp .eq 7, 3) := dk_159 0 7 (dk_at dksX2_hasLike_3 5 rfl rfl)
theorem dX2_hasLike_79 : decode cX2_hasLike 79 = .ok (.iconst 1, 1) := dk_4 (dk_at dksX2_hasLike_3 8 rfl rfl)
theorem dX2_hasLike_80 : decode cX2_hasLike 80 = .ok (.goto 4, 3) := dk_167 0 4 (dk_at dksX2_hasLike_3 9 rfl rfl)
theorem dX2_hasLike_83 : decode cX2_hasLike 83 = .ok (.iconst 0, 1) := dk_3 (dk_at dksX2_hasLike_3 12 rfl rfl)
theorem dX2_hasLike_84 : decode cX2_hasLike 84 = .ok (.istore 6, 2) := dk_54 6 (dk_at dksX2_hasLike_3 13 rfl rfl)
theorem dX2_hasLike_86 : decode cX2_hasLike 86 = .ok (.iload_n 2, 1) := dk_28 (dk_at dksX2_hasLike_3 15 rfl rfl)
theorem dX2_hasLike_87 : decode cX2_hasLike 87 = .ok (.ifCond .ne 23, 3) := dk_154 0 23 (dk_at dksX2_hasLike_3 16 rfl rfl)
theorem dX2_hasLike_90 : decode cX2_hasLike 90 = .ok (.iload 6, 2) := dk_21 6 (dk_at dksX2_hasLike_3 19 rfl rfl)
theorem dX2_hasLike_92 : decode cX2_hasLike 92 = .ok (.ifCond .eq 22, 3) := dk_153 0 22 (dk_at dksX2_hasLike_3 21 rfl rfl)
theorem dX2_hasLike_95 : decode cX2_hasLike 95 = .ok (.iload_n 3, 1) := dk_29 (dk_at dksX2_hasLike_4 0 rfl rfl)
theorem dX2_hasLike_96 : decode cX2_hasLike 96 = .ok (.iconst (-1), 1) := dk_2 (dk_at dksX2_hasLike_4 1 rfl rfl)
theorem dX2_hasLike_97 : decode cX2_hasLike 97 = .ok (.if_icmp .eq 17, 3) := dk_159 0 17 (dk_at dksX2_hasLike_4 2 rfl rfl)
theorem dX2_hasLike_100 : decode cX2_hasLike 100 = .ok (.aload_n 0, 1) := dk_42 (dk_at dksX2_hasLike_4 5 rfl rfl)
theorem dX2_hasLike_101 : decode cX2_hasLike 101 = .ok (.iload 4, 2) := dk_21 4 (dk_at dksX2_hasLike_4 6 rfl rfl)
theorem dX2_hasLike_103 : decode cX2_hasLike 103 = .ok (.invokevirtual 403, 3) := dk_182 1 147 (dk_at dksX2_hasLike_4 8 rfl rfl)
theorem dX2_hasLike_106 : decode cX2_hasLike 106 = .ok (.iload_n 3, 1) := dk_29 (dk_at dksX2_hasLike_4 11 rfl rfl)
theorem dX2_hasLike_107 : decode cX2_hasLike 107 = .ok (.if_icmp .ne 7, 3) := dk_160 0 7 (dk_at dksX2_hasLike_4 12 rfl rfl)
theorem dX2_hasLike_110 : decode cX2_hasLike 110 = .ok (.iconst 1, 1) := dk_4 (dk_at dksX2_hasLike_4 15 rfl rfl)
theorem dX2_hasLike_111 : decode cX2_hasLike 111 = .ok (.goto 4, 3) := dk_167 0 4 (dk_at dksX2_hasLike_4 16 rfl rfl)
theorem dX2_hasLike_114 : decode cX2_hasLike 114 = .ok (.iconst 0, 1) := dk_3 (dk_at dksX2_hasLike_4 19 rfl rfl)
theorem dX2_hasLike_115 : decode cX2_hasLike 115 = .ok (.istore_n 2, 1) := dk_61 (dk_at dksX2_hasLike_4 20 rfl rfl)
theorem dX2_hasLike_116 : decode cX2_hasLike 116 = .ok (.iinc 4 1, 3) := dk_132 4 1 (dk_at dksX2_hasLike_4 21 rfl rfl)
theorem dX2_hasLike_119 : decode cX2_hasLike 119 = .ok (.goto (-108), 3) := dk_167 255 148 (dk_at dksX2_hasLike_5 0 rfl rfl)
theorem dX2_hasLike_122 : decode cX2_hasLike 122 = .ok (.iload_n 2, 1) := dk_28 (dk_at dksX2_hasLike_5 3 rfl rfl)
theorem dX2_hasLike_123 : decode cX2_hasLike 123 = .ok (.ireturn, 1) := dk_172 (dk_at dksX2_hasLike_5 4 rfl rfl)
abbrev cX2_checksum : ByteArray := prog_17_method_96_code
def yX2_checksum : MethodName := ⟨RX2, "checksum", "()J"⟩
def dkwX2_checksum_5 : List UInt8 := [25, 4, 3, 46, 133, 97, 64, 167, 255, 224, 31, 173]
abbrev dktX2_checksum_5 : List UInt8 := dkwX2_checksum_5 ++ []
def dkwX2_checksum_4 : List UInt8 := [185, 0, 110, 1, 0, 153, 0, 29, 45, 185, 0, 116, 1, 0, 192, 0, 180, 58, 4, 20, 1, 183, 31, 105]
abbrev dktX2_checksum_4 : List UInt8 := dkwX2_checksum_4 ++ dktX2_checksum_5
def dkwX2_checksum_3 : List UInt8 := [105, 25, 4, 180, 0, 83, 182, 0, 48, 133, 97, 64, 167, 255, 190, 42, 180, 0, 37, 182, 0, 106, 78, 45]
abbrev dktX2_checksum_3 : List UInt8 := dkwX2_checksum_3 ++ dktX2_checksum_4
def dkwX2_checksum_2 : List UInt8 := [133, 97, 64, 20, 1, 183, 31, 105, 42, 25, 4, 182, 0, 72, 180, 0, 76, 133, 97, 64, 20, 1, 183, 31]
abbrev dktX2_checksum_2 : List UInt8 := dkwX2_checksum_2 ++ dktX2_checksum_3
def dkwX2_checksum_1 : List UInt8 := [153, 0, 63, 45, 185, 0, 116, 1, 0, 192, 0, 64, 58, 4, 20, 1, 183, 31, 105, 25, 4, 180, 0, 93]
abbrev dktX2_checksum_1 : List UInt8 := dkwX2_checksum_1 ++ dktX2_checksum_2
def dkwX2_checksum_0 : List UInt8 := [42, 3, 181, 0, 44, 20, 1, 181, 64, 42, 180, 0, 19, 182, 0, 106, 78, 45, 185, 0, 110, 1, 0]
abbrev dktX2_checksum_0 : List UInt8 := dkwX2_checksum_0 ++ dktX2_checksum_1
theorem dksX2_checksum_0 : cX2_checksum.data.toList.drop 0 = dktX2_checksum_0 := by decide +kernel
theorem dksX2_checksum_1 : cX2_checksum.data.toList.drop 23 = dktX2_checksum_1 := dk_seg dksX2_checksum_0 23 rfl rfl
theorem dksX2_checksum_2 : cX2_checksum.data.toList.drop 47 = dktX2_checksum_2 := dk_seg dksX2_checksum_1 24 rfl rfl
theorem dksX2_checksum_3 : cX2_checksum.data.toList.drop 71 = dktX2_checksum_3 := dk_seg dksX2_checksum_2 24 rfl rfl
theorem dksX2_checksum_4 : cX2_checksum.data.toList.drop 95 = dktX2_checksum_4 := dk_seg dksX2_checksum_3 24 rfl rfl
theorem dksX2_checksum_5 : cX2_checksum.data.toList.drop 119 = dktX2_checksum_5 := dk_seg dksX2_checksum_4 24 rfl rfl
theorem dX2_checksum_0 : decode cX2_checksum 0 = .ok (.aload_n 0, 1) := dk_42 (dk_at dksX2_checksum_0 0 rfl rfl)
theorem dX2_checksum_1 : decode cX2_checksum 1 = .ok (.iconst 0, 1) := dk_3 (dk_at dksX2_checksum_0 1 rfl rfl)
theorem dX2_checksum_2 : decode cX2_checksum 2 = .ok (.putfield 44, 3) := dk_181 0 44 (dk_at dksX2_checksum_0 2 rfl rfl)
theorem dX2_checksum_5 : decode cX2_checksum 5 = .ok (.ldc2_w 437, 3) := dk_20 1 181 (dk_at dksX2_checksum_0 5 rfl rfl)
theorem dX2_checksum_8 : decode cX2_checksum 8 = .ok (.lstore_n 1, 1) := dk_64 (dk_at dksX2_checksum_0 8 rfl rfl)
theorem dX2_checksum_9 : decode cX2_checksum 9 = .ok (.aload_n 0, 1) := dk_42 (dk_at dksX2_checksum_0 9 rfl rfl)
theorem dX2_checksum_10 : decode cX2_checksum 10 = .ok (.getfield 19, 3) := dk_180 0 19 (dk_at dksX2_checksum_0 10 rfl rfl)
theorem dX2_checksum_13 : decode cX2_checksum 13 = .ok (.invokevirtual 106, 3) := dk_182 0 106 (dk_at dksX2_checksum_0 13 rfl rfl)
theorem dX2_checksum_16 : decode cX2_checksum 16 = .ok (.astore_n 3, 1) := dk_78 (dk_at dksX2_checksum_0 16 rfl rfl)
theorem dX2_checksum_17 : decode cX2_checksum 17 = .ok (.aload_n 3, 1) := dk_45 (dk_at dksX2_checksum_0 17 rfl rfl)
theorem dX2_checksum_18 : decode cX2_checksum 18 = .ok (.invokeinterface 110 1, 5) := by decide +kernel
theorem dX2_checksum_23 : decode cX2_checksum 23 = .ok (.ifCond .eq 63, 3) := dk_153 0 63 (dk_at dksX2_checksum_1 0 rfl rfl)
theorem dX2_checksum_26 : decode cX2_checksum 26 = .ok (.aload_n 3, 1) := dk_45 (dk_at dksX2_checksum_1 3 rfl rfl)
theorem dX2_checksum_27 : decode cX2_checksum 27 = .ok (.invokeinterface 116 1, 5) := by decide +kernel
theorem dX2_checksum_32 : decode cX2_checksum 32 = .ok (.checkcast 64, 3) := dk_192 0 64 (dk_at dksX2_checksum_1 9 rfl rfl)
theorem dX2_checksum_35 : decode cX2_checksum 35 = .ok (.astore 4, 2) := dk_58 4 (dk_at dksX2_checksum_1 12 rfl rfl)
theorem dX2_checksum_37 : decode cX2_checksum 37 = .ok (.ldc2_w 439, 3) := dk_20 1 183 (dk_at dksX2_checksum_1 14 rfl rfl)
theorem dX2_checksum_40 : decode cX2_checksum 40 = .ok (.lload_n 1, 1) := dk_31 (dk_at dksX2_checksum_1 17 rfl rfl)
theorem dX2_checksum_41 : decode cX2_checksum 41 = .ok (.lmul, 1) := dk_105 (dk_at dksX2_checksum_1 18 rfl rfl)
theorem dX2_checksum_42 : decode cX2_checksum 42 = .ok (.aload 4, 2) := dk_25 4 (dk_at dksX2_checksum_1 19 rfl rfl)
theorem dX2_checksum_44 : decode cX2_checksum 44 = .ok (.getfield 93, 3) := dk_180 0 93 (dk_at dksX2_checksum_1 21 rfl rfl)
theorem dX2_checksum_47 : decode cX2_checksum 47 = .ok (.i2l, 1) := dk_133 (dk_at dksX2_checksum_2 0 rfl rfl)
theorem dX2_checksum_48 : decode cX2_checksum 48 = .ok (.ladd, 1) := dk_97 (dk_at dksX2_checksum_2 1 rfl rfl)
theorem dX2_checksum_49 : decode cX2_checksum 49 = .ok (.lstore_n 1, 1) := dk_64 (dk_at dksX2_checksum_2 2 rfl rfl)
theorem dX2_checksum_50 : decode cX2_checksum 50 = .ok (.ldc2_w 439, 3) := dk_20 1 183 (dk_at dksX2_checksum_2 3 rfl rfl)
theorem dX2_checksum_53 : decode cX2_checksum 53 = .ok (.lload_n 1, 1) := dk_31 (dk_at dksX2_checksum_2 6 rfl rfl)
theorem dX2_checksum_54 : decode cX2_checksum 54 = .ok (.lmul, 1) := dk_105 (dk_at dksX2_checksum_2 7 rfl rfl)
theorem dX2_checksum_55 : decode cX2_checksum 55 = .ok (.aload_n 0, 1) := dk_42 (dk_at dksX2_checksum_2 8 rfl rfl)
theorem dX2_checksum_56 : decode cX2_checksum 56 = .ok (.aload 4, 2) := dk_25 4 (dk_at dksX2_checksum_2 9 rfl rfl)
theorem dX2_checksum_58 : decode cX2_checksum 58 = .ok (.invokevirtual 72, 3) := dk_182 0 72 (dk_at dksX2_checksum_2 11 rfl rfl)
theorem dX2_checksum_61 : decode cX2_checksum 61 = .ok (.getfield 76, 3) := dk_180 0 76 (dk_at dksX2_checksum_2 14 rfl rfl)
theorem dX2_checksum_64 : decode cX2_checksum 64 = .ok (.i2l, 1) := dk_133 (dk_at dksX2_checksum_2 17 rfl rfl)
theorem dX2_checksum_65 : decode cX2_checksum 65 = .ok (.ladd, 1) := dk_97 (dk_at dksX2_checksum_2 18 rfl rfl)
theorem dX2_checksum_66 : decode cX2_checksum 66 = .ok (.lstore_n 1, 1) := dk_64 (dk_at dksX2_checksum_2 19 rfl rfl)
theorem dX2_checksum_67 : decode cX2_checksum 67 = .ok (.ldc2_w 439, 3) := dk_20 1 183 (dk_at dksX2_checksum_2 20 rfl rfl)
theorem dX2_checksum_70 : decode cX2_checksum 70 = .ok (.lload_n 1, 1) := dk_31 (dk_at dksX2_checksum_2 23 rfl rfl)
theorem dX2_checksum_71 : decode cX2_checksum 71 = .ok (.lmul, 1) := dk_105 (dk_at dksX2_checksum_3 0 rfl rfl)
theorem dX2_checksum_72 : decode cX2_checksum 72 = .ok (.aload 4, 2) := dk_25 4 (dk_at dksX2_checksum_3 1 rfl rfl)
theorem dX2_checksum_74 : decode cX2_checksum 74 = .ok (.getfield 83, 3) := dk_180 0 83 (dk_at dksX2_checksum_3 3 rfl rfl)
theorem dX2_checksum_77 : decode cX2_checksum 77 = .ok (.invokevirtual 48, 3) := dk_182 0 48 (dk_at dksX2_checksum_3 6 rfl rfl)
theorem dX2_checksum_80 : decode cX2_checksum 80 = .ok (.i2l, 1) := dk_133 (dk_at dksX2_checksum_3 9 rfl rfl)
theorem dX2_checksum_81 : decode cX2_checksum 81 = .ok (.ladd, 1) := dk_97 (dk_at dksX2_checksum_3 10 rfl rfl)
theorem dX2_checksum_82 : decode cX2_checksum 82 = .ok (.lstore_n 1, 1) := dk_64 (dk_at dksX2_checksum_3 11 rfl rfl)
theorem dX2_checksum_83 : decode cX2_checksum 83 = .ok (.goto (-66), 3) := dk_167 255 190 (dk_at dksX2_checksum_3 12 rfl rfl)
theorem dX2_checksum_86 : decode cX2_checksum 86 = .ok (.aload_n 0, 1) := dk_42 (dk_at dksX2_checksum_3 15 rfl rfl)
theorem dX2_checksum_87 : decode cX2_checksum 87 = .ok (.getfield 37, 3) := dk_180 0 37 (dk_at dksX2_checksum_3 16 rfl rfl)
theorem dX2_checksum_90 : decode cX2_checksum 90 = .ok (.invokevirtual 106, 3) := dk_182 0 106 (dk_at dksX2_checksum_3 19 rfl rfl)
theorem dX2_checksum_93 : decode cX2_checksum 93 = .ok (.astore_n 3, 1) := dk_78 (dk_at dksX2_checksum_3 22 rfl rfl)
theorem dX2_checksum_94 : decode cX2_checksum 94 = .ok (.aload_n 3, 1) := dk_45 (dk_at dksX2_checksum_3 23 rfl rfl)
theorem dX2_checksum_95 : decode cX2_checksum 95 = .ok (.invokeinterface 110 1, 5) := by decide +kernel
theorem dX2_checksum_100 : decode cX2_checksum 100 = .ok (.ifCond .eq 29, 3) := dk_153 0 29 (dk_at dksX2_checksum_4 5 rfl rfl)
theorem dX2_checksum_103 : decode cX2_checksum 103 = .ok (.aload_n 3, 1) := dk_45 (dk_at dksX2_checksum_4 8 rfl rfl)
theorem dX2_checksum_104 : decode cX2_checksum 104 = .ok (.invokeinterface 116 1, 5) := by decide +kernel
theorem dX2_checksum_109 : decode cX2_checksum 109 = .ok (.checkcast 180, 3) := dk_192 0 180 (dk_at dksX2_checksum_4 14 rfl rfl)
theorem dX2_checksum_112 : decode cX2_checksum 112 = .ok (.astore 4, 2) := dk_58 4 (dk_at dksX2_checksum_4 17 rfl rfl)
theorem dX2_checksum_114 : decode cX2_checksum 114 = .ok (.ldc2_w 439, 3) := dk_20 1 183 (dk_at dksX2_checksum_4 19 rfl rfl)
theorem dX2_checksum_117 : decode cX2_checksum 117 = .ok (.lload_n 1, 1) := dk_31 (dk_at dksX2_checksum_4 22 rfl rfl)
theorem dX2_checksum_118 : decode cX2_checksum 118 = .ok (.lmul, 1) := dk_105 (dk_at dksX2_checksum_4 23 rfl rfl)
theorem dX2_checksum_119 : decode cX2_checksum 119 = .ok (.aload 4, 2) := dk_25 4 (dk_at dksX2_checksum_5 0 rfl rfl)
theorem dX2_checksum_121 : decode cX2_checksum 121 = .ok (.iconst 0, 1) := dk_3 (dk_at dksX2_checksum_5 2 rfl rfl)
theorem dX2_checksum_122 : decode cX2_checksum 122 = .ok (.iaload, 1) := dk_46 (dk_at dksX2_checksum_5 3 rfl rfl)
theorem dX2_checksum_123 : decode cX2_checksum 123 = .ok (.i2l, 1) := dk_133 (dk_at dksX2_checksum_5 4 rfl rfl)
theorem dX2_checksum_124 : decode cX2_checksum 124 = .ok (.ladd, 1) := dk_97 (dk_at dksX2_checksum_5 5 rfl rfl)
theorem dX2_checksum_125 : decode cX2_checksum 125 = .ok (.lstore_n 1, 1) := dk_64 (dk_at dksX2_checksum_5 6 rfl rfl)
theorem dX2_checksum_126 : decode cX2_checksum 126 = .ok (.goto (-32), 3) := dk_167 255 224 (dk_at dksX2_checksum_5 7 rfl rfl)
theorem dX2_checksum_129 : decode cX2_checksum 129 = .ok (.lload_n 1, 1) := dk_31 (dk_at dksX2_checksum_5 10 rfl rfl)
theorem dX2_checksum_130 : decode cX2_checksum 130 = .ok (.lreturn, 1) := dk_173 (dk_at dksX2_checksum_5 11 rfl rfl)
abbrev cX2_safeShare : ByteArray := prog_17_method_97_code
def yX2_safeShare : MethodName := ⟨RX2, "safeShare", "()F"⟩
def dkwX2_safeShare_3 : List UInt8 := [180, 0, 44, 158, 0, 7, 11, 167, 0, 14, 27, 134, 42, 180, 0, 19, 182, 0, 48, 134, 110, 174]
abbrev dktX2_safeShare_3 : List UInt8 := dkwX2_safeShare_3 ++ []
def dkwX2_safeShare_2 : List UInt8 := [192, 0, 64, 78, 27, 45, 180, 0, 93, 154, 0, 7, 4, 167, 0, 4, 3, 96, 60, 167, 255, 222, 42]
abbrev dktX2_safeShare_2 : List UInt8 := dkwX2_safeShare_2 ++ dktX2_safeShare_3
def dkwX2_safeShare_1 : List UInt8 := [180, 0, 19, 182, 0, 106, 77, 44, 185, 0, 110, 1, 0, 153, 0, 31, 44, 185, 0, 116, 1, 0]
abbrev dktX2_safeShare_1 : List UInt8 := dkwX2_safeShare_1 ++ dktX2_safeShare_2
def dkwX2_safeShare_0 : List UInt8 := [42, 42, 180, 0, 19, 182, 1, 58, 153, 0, 7, 4, 167, 0, 4, 3, 181, 0, 44, 3, 60, 42]
abbrev dktX2_safeShare_0 : List UInt8 := dkwX2_safeShare_0 ++ dktX2_safeShare_1
theorem dksX2_safeShare_0 : cX2_safeShare.data.toList.drop 0 = dktX2_safeShare_0 := by decide +kernel
theorem dksX2_safeShare_1 : cX2_safeShare.data.toList.drop 22 = dktX2_safeShare_1 := dk_seg dksX2_safeShare_0 22 rfl rfl
theorem dksX2_safeShare_2 : cX2_safeShare.data.toList.drop 44 = dktX2_safeShare_2 := dk_seg dksX2_safeShare_1 22 rfl rfl
theorem dksX2_safeShare_3 : cX2_safeShare.data.toList.drop 67 = dktX2_safeShare_3 := dk_seg dksX2_safeShare_2 23 rfl rfl
theorem dX2_safeShare_0 : decode cX2_safeShare 0 = .ok (.aload_n 0, 1) := dk_42 (dk_at dksX2_safeShare_0 0 rfl rfl)
theorem dX2_safeShare_1 : decode cX2_safeShare 1 = .ok (.aload_n 0, 1) := dk_42 (dk_at dksX2_safeShare_0 1 rfl rfl)
theorem dX2_safeShare_2 : decode cX2_safeShare 2 = .ok (.getfield 19, 3) := dk_180 0 19 (dk_at dksX2_safeShare_0 2 rfl rfl)
theorem dX2_safeShare_5 : decode cX2_safeShare 5 = .ok (.invokevirtual 314, 3) := dk_182 1 58 (dk_at dksX2_safeShare_0 5 rfl rfl)
theorem dX2_safeShare_8 : decode cX2_safeShare 8 = .ok (.ifCond .eq 7, 3) := dk_153 0 7 (dk_at dksX2_safeShare_0 8 rfl rfl)
theorem dX2_safeShare_11 : decode cX2_safeShare 11 = .ok (.iconst 1, 1) := dk_4 (dk_at dksX2_safeShare_0 11 rfl rfl)
theorem dX2_safeShare_12 : decode cX2_safeShare 12 = .ok (.goto 4, 3) := dk_167 0 4 (dk_at dksX2_safeShare_0 12 rfl rfl)
theorem dX2_safeShare_15 : decode cX2_safeShare 15 = .ok (.iconst 0, 1) := dk_3 (dk_at dksX2_safeShare_0 15 rfl rfl)
theorem dX2_safeShare_16 : decode cX2_safeShare 16 = .ok (.putfield 44, 3) := dk_181 0 44 (dk_at dksX2_safeShare_0 16 rfl rfl)
theorem dX2_safeShare_19 : decode cX2_safeShare 19 = .ok (.iconst 0, 1) := dk_3 (dk_at dksX2_safeShare_0 19 rfl rfl)
theorem dX2_safeShare_20 : decode cX2_safeShare 20 = .ok (.istore_n 1, 1) := dk_60 (dk_at dksX2_safeShare_0 20 rfl rfl)
theorem dX2_safeShare_21 : decode cX2_safeShare 21 = .ok (.aload_n 0, 1) := dk_42 (dk_at dksX2_safeShare_0 21 rfl rfl)
theorem dX2_safeShare_22 : decode cX2_safeShare 22 = .ok (.getfield 19, 3) := dk_180 0 19 (dk_at dksX2_safeShare_1 0 rfl rfl)
theorem dX2_safeShare_25 : decode cX2_safeShare 25 = .ok (.invokevirtual 106, 3) := dk_182 0 106 (dk_at dksX2_safeShare_1 3 rfl rfl)
theorem dX2_safeShare_28 : decode cX2_safeShare 28 = .ok (.astore_n 2, 1) := dk_77 (dk_at dksX2_safeShare_1 6 rfl rfl)
theorem dX2_safeShare_29 : decode cX2_safeShare 29 = .ok (.aload_n 2, 1) := dk_44 (dk_at dksX2_safeShare_1 7 rfl rfl)
theorem dX2_safeShare_30 : decode cX2_safeShare 30 = .ok (.invokeinterface 110 1, 5) := by decide +kernel
theorem dX2_safeShare_35 : decode cX2_safeShare 35 = .ok (.ifCond .eq 31, 3) := dk_153 0 31 (dk_at dksX2_safeShare_1 13 rfl rfl)
theorem dX2_safeShare_38 : decode cX2_safeShare 38 = .ok (.aload_n 2, 1) := dk_44 (dk_at dksX2_safeShare_1 16 rfl rfl)
theorem dX2_safeShare_39 : decode cX2_safeShare 39 = .ok (.invokeinterface 116 1, 5) := by decide +kernel
theorem dX2_safeShare_44 : decode cX2_safeShare 44 = .ok (.checkcast 64, 3) := dk_192 0 64 (dk_at dksX2_safeShare_2 0 rfl rfl)
theorem dX2_safeShare_47 : decode cX2_safeShare 47 = .ok (.astore_n 3, 1) := dk_78 (dk_at dksX2_safeShare_2 3 rfl rfl)
theorem dX2_safeShare_48 : decode cX2_safeShare 48 = .ok (.iload_n 1, 1) := dk_27 (dk_at dksX2_safeShare_2 4 rfl rfl)
theorem dX2_safeShare_49 : decode cX2_safeShare 49 = .ok (.aload_n 3, 1) := dk_45 (dk_at dksX2_safeShare_2 5 rfl rfl)
theorem dX2_safeShare_50 : decode cX2_safeShare 50 = .ok (.getfield 93, 3) := dk_180 0 93 (dk_at dksX2_safeShare_2 6 rfl rfl)
theorem dX2_safeShare_53 : decode cX2_safeShare 53 = .ok (.ifCond .ne 7, 3) := dk_154 0 7 (dk_at dksX2_safeShare_2 9 rfl rfl)
theorem dX2_safeShare_56 : decode cX2_safeShare 56 = .ok (.iconst 1, 1) := dk_4 (dk_at dksX2_safeShare_2 12 rfl rfl)
theorem dX2_safeShare_57 : decode cX2_safeShare 57 = .ok (.goto 4, 3) := dk_167 0 4 (dk_at dksX2_safeShare_2 13 rfl rfl)
theorem dX2_safeShare_60 : decode cX2_safeShare 60 = .ok (.iconst 0, 1) := dk_3 (dk_at dksX2_safeShare_2 16 rfl rfl)
theorem dX2_safeShare_61 : decode cX2_safeShare 61 = .ok (.iadd, 1) := dk_96 (dk_at dksX2_safeShare_2 17 rfl rfl)
theorem dX2_safeShare_62 : decode cX2_safeShare 62 = .ok (.istore_n 1, 1) := dk_60 (dk_at dksX2_safeShare_2 18 rfl rfl)
theorem dX2_safeShare_63 : decode cX2_safeShare 63 = .ok (.goto (-34), 3) := dk_167 255 222 (dk_at dksX2_safeShare_2 19 rfl rfl)
theorem dX2_safeShare_66 : decode cX2_safeShare 66 = .ok (.aload_n 0, 1) := dk_42 (dk_at dksX2_safeShare_2 22 rfl rfl)
theorem dX2_safeShare_67 : decode cX2_safeShare 67 = .ok (.getfield 44, 3) := dk_180 0 44 (dk_at dksX2_safeShare_3 0 rfl rfl)
theorem dX2_safeShare_70 : decode cX2_safeShare 70 = .ok (.ifCond .le 7, 3) := dk_158 0 7 (dk_at dksX2_safeShare_3 3 rfl rfl)
theorem dX2_safeShare_73 : decode cX2_safeShare 73 = .ok (.fconst 0, 1) := dk_11 (dk_at dksX2_safeShare_3 6 rfl rfl)
theorem dX2_safeShare_74 : decode cX2_safeShare 74 = .ok (.goto 14, 3) := dk_167 0 14 (dk_at dksX2_safeShare_3 7 rfl rfl)
theorem dX2_safeShare_77 : decode cX2_safeShare 77 = .ok (.iload_n 1, 1) := dk_27 (dk_at dksX2_safeShare_3 10 rfl rfl)
theorem dX2_safeShare_78 : decode cX2_safeShare 78 = .ok (.i2f, 1) := dk_134 (dk_at dksX2_safeShare_3 11 rfl rfl)
theorem dX2_safeShare_79 : decode cX2_safeShare 79 = .ok (.aload_n 0, 1) := dk_42 (dk_at dksX2_safeShare_3 12 rfl rfl)
theorem dX2_safeShare_80 : decode cX2_safeShare 80 = .ok (.getfield 19, 3) := dk_180 0 19 (dk_at dksX2_safeShare_3 13 rfl rfl)
theorem dX2_safeShare_83 : decode cX2_safeShare 83 = .ok (.invokevirtual 48, 3) := dk_182 0 48 (dk_at dksX2_safeShare_3 16 rfl rfl)
theorem dX2_safeShare_86 : decode cX2_safeShare 86 = .ok (.i2f, 1) := dk_134 (dk_at dksX2_safeShare_3 19 rfl rfl)
theorem dX2_safeShare_87 : decode cX2_safeShare 87 = .ok (.fdiv, 1) := dk_110 (dk_at dksX2_safeShare_3 20 rfl rfl)
theorem dX2_safeShare_88 : decode cX2_safeShare 88 = .ok (.freturn, 1) := dk_174 (dk_at dksX2_safeShare_3 21 rfl rfl)
abbrev cX2_meanDamage : ByteArray := prog_17_method_98_code
def yX2_meanDamage : MethodName := ⟨RX2, "meanDamage", "()D"⟩
def dkwX2_meanDamage_3 : List UInt8 := [14, 167, 0, 14, 31, 138, 42, 180, 0, 19, 182, 0, 48, 135, 111, 175]
abbrev dktX2_meanDamage_3 : List UInt8 := dkwX2_meanDamage_3 ++ []
def dkwX2_meanDamage_2 : List UInt8 := [192, 0, 64, 58, 4, 31, 25, 4, 180, 0, 93, 133, 97, 64, 167, 255, 227, 42, 180, 0, 44, 158, 0, 7]
abbrev dktX2_meanDamage_2 : List UInt8 := dkwX2_meanDamage_2 ++ dktX2_meanDamage_3
def dkwX2_meanDamage_1 : List UInt8 := [180, 0, 19, 182, 0, 106, 78, 45, 185, 0, 110, 1, 0, 153, 0, 26, 45, 185, 0, 116, 1, 0]
abbrev dktX2_meanDamage_1 : List UInt8 := dkwX2_meanDamage_1 ++ dktX2_meanDamage_2
def dkwX2_meanDamage_0 : List UInt8 := [42, 42, 180, 0, 19, 182, 1, 58, 153, 0, 7, 4, 167, 0, 4, 3, 181, 0, 44, 9, 64, 42]
abbrev dktX2_meanDamage_0 : List UInt8 := dkwX2_meanDamage_0 ++ dktX2_meanDamage_1
theorem dksX2_meanDamage_0 : cX2_meanDamage.data.toList.drop 0 = dktX2_meanDamage_0 := by decide +kernel
theorem dksX2_meanDamage_1 : cX2_meanDamage.data.toList.drop 22 = dktX2_meanDamage_1 := dk_seg dksX2_meanDamage_0 22 rfl rfl
theorem dksX2_meanDamage_2 : cX2_meanDamage.data.toList.drop 44 = dktX2_meanDamage_2 := dk_seg dksX2_meanDamage_1 22 rfl rfl
theorem dksX2_meanDamage_3 : cX2_meanDamage.data.toList.drop 68 = dktX2_meanDamage_3 := dk_seg dksX2_meanDamage_2 24 rfl rfl
theorem dX2_meanDamage_0 : decode cX2_meanDamage 0 = .ok (.aload_n 0, 1) := dk_42 (dk_at dksX2_meanDamage_0 0 rfl rfl)
theorem dX2_meanDamage_1 : decode cX2_meanDamage 1 = .ok (.aload_n 0, 1) := dk_42 (dk_at dksX2_meanDamage_0 1 rfl rfl)
theorem dX2_meanDamage_2 : decode cX2_meanDamage 2 = .ok (.getfield 19, 3) := dk_180 0 19 (dk_at dksX2_meanDamage_0 2 rfl rfl)
theorem dX2_meanDamage_5 : decode cX2_meanDamage 5 = .ok (.invokevirtual 314, 3) := dk_182 1 58 (dk_at dksX2_meanDamage_0 5 rfl rfl)
theorem dX2_meanDamage_8 : decode cX2_meanDamage 8 = .ok (.ifCond .eq 7, 3) := dk_153 0 7 (dk_at dksX2_meanDamage_0 8 rfl rfl)
theorem dX2_meanDamage_11 : decode cX2_meanDamage 11 = .ok (.iconst 1, 1) := dk_4 (dk_at dksX2_meanDamage_0 11 rfl rfl)
theorem dX2_meanDamage_12 : decode cX2_meanDamage 12 = .ok (.goto 4, 3) := dk_167 0 4 (dk_at dksX2_meanDamage_0 12 rfl rfl)
theorem dX2_meanDamage_15 : decode cX2_meanDamage 15 = .ok (.iconst 0, 1) := dk_3 (dk_at dksX2_meanDamage_0 15 rfl rfl)
theorem dX2_meanDamage_16 : decode cX2_meanDamage 16 = .ok (.putfield 44, 3) := dk_181 0 44 (dk_at dksX2_meanDamage_0 16 rfl rfl)
theorem dX2_meanDamage_19 : decode cX2_meanDamage 19 = .ok (.lconst 0, 1) := dk_9 (dk_at dksX2_meanDamage_0 19 rfl rfl)
theorem dX2_meanDamage_20 : decode cX2_meanDamage 20 = .ok (.lstore_n 1, 1) := dk_64 (dk_at dksX2_meanDamage_0 20 rfl rfl)
theorem dX2_meanDamage_21 : decode cX2_meanDamage 21 = .ok (.aload_n 0, 1) := dk_42 (dk_at dksX2_meanDamage_0 21 rfl rfl)
theorem dX2_meanDamage_22 : decode cX2_meanDamage 22 = .ok (.getfield 19, 3) := dk_180 0 19 (dk_at dksX2_meanDamage_1 0 rfl rfl)
theorem dX2_meanDamage_25 : decode cX2_meanDamage 25 = .ok (.invokevirtual 106, 3) := dk_182 0 106 (dk_at dksX2_meanDamage_1 3 rfl rfl)
theorem dX2_meanDamage_28 : decode cX2_meanDamage 28 = .ok (.astore_n 3, 1) := dk_78 (dk_at dksX2_meanDamage_1 6 rfl rfl)
theorem dX2_meanDamage_29 : decode cX2_meanDamage 29 = .ok (.aload_n 3, 1) := dk_45 (dk_at dksX2_meanDamage_1 7 rfl rfl)
theorem dX2_meanDamage_30 : decode cX2_meanDamage 30 = .ok (.invokeinterface 110 1, 5) := by decide +kernel
theorem dX2_meanDamage_35 : decode cX2_meanDamage 35 = .ok (.ifCond .eq 26, 3) := dk_153 0 26 (dk_at dksX2_meanDamage_1 13 rfl rfl)
theorem dX2_meanDamage_38 : decode cX2_meanDamage 38 = .ok (.aload_n 3, 1) := dk_45 (dk_at dksX2_meanDamage_1 16 rfl rfl)
theorem dX2_meanDamage_39 : decode cX2_meanDamage 39 = .ok (.invokeinterface 116 1, 5) := by decide +kernel
theorem dX2_meanDamage_44 : decode cX2_meanDamage 44 = .ok (.checkcast 64, 3) := dk_192 0 64 (dk_at dksX2_meanDamage_2 0 rfl rfl)
theorem dX2_meanDamage_47 : decode cX2_meanDamage 47 = .ok (.astore 4, 2) := dk_58 4 (dk_at dksX2_meanDamage_2 3 rfl rfl)
theorem dX2_meanDamage_49 : decode cX2_meanDamage 49 = .ok (.lload_n 1, 1) := dk_31 (dk_at dksX2_meanDamage_2 5 rfl rfl)
theorem dX2_meanDamage_50 : decode cX2_meanDamage 50 = .ok (.aload 4, 2) := dk_25 4 (dk_at dksX2_meanDamage_2 6 rfl rfl)
theorem dX2_meanDamage_52 : decode cX2_meanDamage 52 = .ok (.getfield 93, 3) := dk_180 0 93 (dk_at dksX2_meanDamage_2 8 rfl rfl)
theorem dX2_meanDamage_55 : decode cX2_meanDamage 55 = .ok (.i2l, 1) := dk_133 (dk_at dksX2_meanDamage_2 11 rfl rfl)
theorem dX2_meanDamage_56 : decode cX2_meanDamage 56 = .ok (.ladd, 1) := dk_97 (dk_at dksX2_meanDamage_2 12 rfl rfl)
theorem dX2_meanDamage_57 : decode cX2_meanDamage 57 = .ok (.lstore_n 1, 1) := dk_64 (dk_at dksX2_meanDamage_2 13 rfl rfl)
theorem dX2_meanDamage_58 : decode cX2_meanDamage 58 = .ok (.goto (-29), 3) := dk_167 255 227 (dk_at dksX2_meanDamage_2 14 rfl rfl)
theorem dX2_meanDamage_61 : decode cX2_meanDamage 61 = .ok (.aload_n 0, 1) := dk_42 (dk_at dksX2_meanDamage_2 17 rfl rfl)
theorem dX2_meanDamage_62 : decode cX2_meanDamage 62 = .ok (.getfield 44, 3) := dk_180 0 44 (dk_at dksX2_meanDamage_2 18 rfl rfl)
theorem dX2_meanDamage_65 : decode cX2_meanDamage 65 = .ok (.ifCond .le 7, 3) := dk_158 0 7 (dk_at dksX2_meanDamage_2 21 rfl rfl)
theorem dX2_meanDamage_68 : decode cX2_meanDamage 68 = .ok (.dconst 0, 1) := dk_14 (dk_at dksX2_meanDamage_3 0 rfl rfl)
theorem dX2_meanDamage_69 : decode cX2_meanDamage 69 = .ok (.goto 14, 3) := dk_167 0 14 (dk_at dksX2_meanDamage_3 1 rfl rfl)
theorem dX2_meanDamage_72 : decode cX2_meanDamage 72 = .ok (.lload_n 1, 1) := dk_31 (dk_at dksX2_meanDamage_3 4 rfl rfl)
theorem dX2_meanDamage_73 : decode cX2_meanDamage 73 = .ok (.l2d, 1) := dk_138 (dk_at dksX2_meanDamage_3 5 rfl rfl)
theorem dX2_meanDamage_74 : decode cX2_meanDamage 74 = .ok (.aload_n 0, 1) := dk_42 (dk_at dksX2_meanDamage_3 6 rfl rfl)
theorem dX2_meanDamage_75 : decode cX2_meanDamage 75 = .ok (.getfield 19, 3) := dk_180 0 19 (dk_at dksX2_meanDamage_3 7 rfl rfl)
theorem dX2_meanDamage_78 : decode cX2_meanDamage 78 = .ok (.invokevirtual 48, 3) := dk_182 0 48 (dk_at dksX2_meanDamage_3 10 rfl rfl)
theorem dX2_meanDamage_81 : decode cX2_meanDamage 81 = .ok (.i2d, 1) := dk_135 (dk_at dksX2_meanDamage_3 13 rfl rfl)
theorem dX2_meanDamage_82 : decode cX2_meanDamage 82 = .ok (.ddiv, 1) := dk_111 (dk_at dksX2_meanDamage_3 14 rfl rfl)
theorem dX2_meanDamage_83 : decode cX2_meanDamage 83 = .ok (.dreturn, 1) := dk_175 (dk_at dksX2_meanDamage_3 15 rfl rfl)
abbrev cX2_isSound : ByteArray := prog_17_method_99_code
def yX2_isSound : MethodName := ⟨RX2, "isSound", "()Z"⟩
def dkwX2_isSound_0 : List UInt8 := [42, 3, 181, 0, 44, 4, 172]
abbrev dktX2_isSound_0 : List UInt8 := dkwX2_isSound_0 ++ []
theorem dksX2_isSound_0 : cX2_isSound.data.toList.drop 0 = dktX2_isSound_0 := by decide +kernel
theorem dX2_isSound_0 : decode cX2_isSound 0 = .ok (.aload_n 0, 1) := dk_42 (dk_at dksX2_isSound_0 0 rfl rfl)
theorem dX2_isSound_1 : decode cX2_isSound 1 = .ok (.iconst 0, 1) := dk_3 (dk_at dksX2_isSound_0 1 rfl rfl)
theorem dX2_isSound_2 : decode cX2_isSound 2 = .ok (.putfield 44, 3) := dk_181 0 44 (dk_at dksX2_isSound_0 2 rfl rfl)
theorem dX2_isSound_5 : decode cX2_isSound 5 = .ok (.iconst 1, 1) := dk_4 (dk_at dksX2_isSound_0 5 rfl rfl)
theorem dX2_isSound_6 : decode cX2_isSound 6 = .ok (.ireturn, 1) := dk_172 (dk_at dksX2_isSound_0 6 rfl rfl)
theorem q96 : (Jvm.Cond.initialized "VaultyardModel") ∈ lw_all := lw_g (lw_at lw_m1 6 rfl) rfl
theorem q876 : (Jvm.Cond.selects "VaultyardModel" ({ cls := "java/lang/Object", name := "getClass", desc := "()Ljava/lang/Class;" } : Jvm.MethodName) ({ cls := "java/lang/Object", name := "getClass", desc := "()Ljava/lang/Class;" } : Jvm.MethodName)) ∈ lw_all := lw_g (lw_at lw_m4 66 rfl) rfl
theorem q2015 : (Jvm.Cond.selects "VaultyardModel" ({ cls := "java/lang/Object", name := "equals", desc := "(Ljava/lang/Object;)Z" } : Jvm.MethodName) ({ cls := "java/lang/Object", name := "equals", desc := "(Ljava/lang/Object;)Z" } : Jvm.MethodName)) ∈ lw_all := lw_g (lw_at lw_m9 5 rfl) rfl
theorem q2297 : (Jvm.Cond.instantiable "VaultyardModel" (12 : Nat)) ∈ lw_all := lw_g (lw_at lw_m10 47 rfl) rfl
theorem q2299 : (Jvm.Cond.instanceMethod ({ cls := "VaultyardModel", name := "<init>", desc := "()V" } : Jvm.MethodName)) ∈ lw_all := lw_g (lw_at lw_m10 49 rfl) rfl
theorem q2300 : (Jvm.Cond.code ({ cls := "VaultyardModel", name := "<init>", desc := "()V" } : Jvm.MethodName) prog_17_method_2_code (1 : Nat) (Option.none : Option Jvm.ClassFile.FieldType)) ∈ lw_all := lw_g (lw_at lw_m10 50 rfl) rfl
theorem q2301 : (Jvm.Cond.methodLink "VaultyardModel" (1 : Nat) ({ cls := "java/lang/Object", name := "<init>", desc := "()V" } : Jvm.MethodName)) ∈ lw_all := lw_g (lw_at lw_m10 51 rfl) rfl
theorem q2302 : (Jvm.Cond.classLink "VaultyardModel" (7 : Nat) "java/util/ArrayList") ∈ lw_all := lw_g (lw_at lw_m10 52 rfl) rfl
theorem q2303 : (Jvm.Cond.methodLink "VaultyardModel" (9 : Nat) ({ cls := "java/util/ArrayList", name := "<init>", desc := "()V" } : Jvm.MethodName)) ∈ lw_all := lw_g (lw_at lw_m10 53 rfl) rfl
theorem q2304 : (Jvm.Cond.fieldLink "VaultyardModel" (44 : Nat) "VaultyardModel" "thrown" "I") ∈ lw_all := lw_g (lw_at lw_m10 54 rfl) rfl
theorem q2305 : (Jvm.Cond.fieldLink "VaultyardModel" (86 : Nat) "VaultyardModel" "day" "I") ∈ lw_all := lw_g (lw_at lw_m10 55 rfl) rfl
theorem q2306 : (Jvm.Cond.fieldLink "VaultyardModel" (10 : Nat) "VaultyardModel" "materials" "Ljava/util/ArrayList;") ∈ lw_all := lw_g (lw_at lw_m10 56 rfl) rfl
theorem q2307 : (Jvm.Cond.fieldLink "VaultyardModel" (16 : Nat) "VaultyardModel" "rooms" "Ljava/util/ArrayList;") ∈ lw_all := lw_g (lw_at lw_m10 57 rfl) rfl
theorem q2308 : (Jvm.Cond.fieldLink "VaultyardModel" (19 : Nat) "VaultyardModel" "things" "Ljava/util/ArrayList;") ∈ lw_all := lw_g (lw_at lw_m10 58 rfl) rfl
theorem q2309 : (Jvm.Cond.fieldLink "VaultyardModel" (22 : Nat) "VaultyardModel" "loans" "Ljava/util/ArrayList;") ∈ lw_all := lw_g (lw_at lw_m10 59 rfl) rfl
theorem q2310 : (Jvm.Cond.fieldLink "VaultyardModel" (25 : Nat) "VaultyardModel" "couriers" "Ljava/util/ArrayList;") ∈ lw_all := lw_g (lw_at lw_m10 60 rfl) rfl
theorem q2311 : (Jvm.Cond.fieldLink "VaultyardModel" (28 : Nat) "VaultyardModel" "methods" "Ljava/util/ArrayList;") ∈ lw_all := lw_g (lw_at lw_m10 61 rfl) rfl
theorem q2312 : (Jvm.Cond.fieldLink "VaultyardModel" (31 : Nat) "VaultyardModel" "boxes" "Ljava/util/ArrayList;") ∈ lw_all := lw_g (lw_at lw_m10 62 rfl) rfl
theorem q2313 : (Jvm.Cond.fieldLink "VaultyardModel" (34 : Nat) "VaultyardModel" "opinions" "Ljava/util/ArrayList;") ∈ lw_all := lw_g (lw_at lw_m10 63 rfl) rfl
theorem q2314 : (Jvm.Cond.fieldLink "VaultyardModel" (37 : Nat) "VaultyardModel" "funds" "Ljava/util/ArrayList;") ∈ lw_all := lw_g (lw_at lw_m10 64 rfl) rfl
theorem q2315 : (Jvm.Cond.fieldLink "VaultyardModel" (40 : Nat) "VaultyardModel" "laws" "[I") ∈ lw_all := lw_g (lw_at lw_m10 65 rfl) rfl
theorem q2316 : (Jvm.Cond.lays "VaultyardModel" "VaultyardModel" "thrown" "I") ∈ lw_all := lw_g (lw_at lw_m10 66 rfl) rfl
theorem q2317 : (Jvm.Cond.soleField "VaultyardModel" "thrown") ∈ lw_all := lw_g (lw_at lw_m10 67 rfl) rfl
theorem q2318 : (Jvm.Cond.lays "VaultyardModel" "VaultyardModel" "day" "I") ∈ lw_all := lw_g (lw_at lw_m10 68 rfl) rfl
theorem q2319 : (Jvm.Cond.soleField "VaultyardModel" "day") ∈ lw_all := lw_g (lw_at lw_m10 69 rfl) rfl
theorem q2320 : (Jvm.Cond.laysFinal "VaultyardModel" "VaultyardModel" "materials" "Ljava/util/ArrayList;") ∈ lw_all := lw_g (lw_at lw_m10 70 rfl) rfl
theorem q2321 : (Jvm.Cond.soleField "VaultyardModel" "materials") ∈ lw_all := lw_g (lw_at lw_m10 71 rfl) rfl
theorem q2322 : (Jvm.Cond.laysFinal "VaultyardModel" "VaultyardModel" "rooms" "Ljava/util/ArrayList;") ∈ lw_all := lw_g (lw_at lw_m10 72 rfl) rfl
theorem q2323 : (Jvm.Cond.soleField "VaultyardModel" "rooms") ∈ lw_all := lw_g (lw_at lw_m10 73 rfl) rfl
theorem q2324 : (Jvm.Cond.laysFinal "VaultyardModel" "VaultyardModel" "things" "Ljava/util/ArrayList;") ∈ lw_all := lw_g (lw_at lw_m10 74 rfl) rfl
theorem q2325 : (Jvm.Cond.soleField "VaultyardModel" "things") ∈ lw_all := lw_g (lw_at lw_m10 75 rfl) rfl
theorem q2326 : (Jvm.Cond.laysFinal "VaultyardModel" "VaultyardModel" "loans" "Ljava/util/ArrayList;") ∈ lw_all := lw_g (lw_at lw_m10 76 rfl) rfl
theorem q2327 : (Jvm.Cond.soleField "VaultyardModel" "loans") ∈ lw_all := lw_g (lw_at lw_m10 77 rfl) rfl
theorem q2328 : (Jvm.Cond.laysFinal "VaultyardModel" "VaultyardModel" "couriers" "Ljava/util/ArrayList;") ∈ lw_all := lw_g (lw_at lw_m10 78 rfl) rfl
theorem q2329 : (Jvm.Cond.soleField "VaultyardModel" "couriers") ∈ lw_all := lw_g (lw_at lw_m10 79 rfl) rfl
theorem q2330 : (Jvm.Cond.laysFinal "VaultyardModel" "VaultyardModel" "methods" "Ljava/util/ArrayList;") ∈ lw_all := lw_g (lw_at lw_m10 80 rfl) rfl
theorem q2331 : (Jvm.Cond.soleField "VaultyardModel" "methods") ∈ lw_all := lw_g (lw_at lw_m10 81 rfl) rfl
theorem q2332 : (Jvm.Cond.laysFinal "VaultyardModel" "VaultyardModel" "boxes" "Ljava/util/ArrayList;") ∈ lw_all := lw_g (lw_at lw_m10 82 rfl) rfl
theorem q2333 : (Jvm.Cond.soleField "VaultyardModel" "boxes") ∈ lw_all := lw_g (lw_at lw_m10 83 rfl) rfl
theorem q2334 : (Jvm.Cond.laysFinal "VaultyardModel" "VaultyardModel" "opinions" "Ljava/util/ArrayList;") ∈ lw_all := lw_g (lw_at lw_m10 84 rfl) rfl
theorem q2335 : (Jvm.Cond.soleField "VaultyardModel" "opinions") ∈ lw_all := lw_g (lw_at lw_m10 85 rfl) rfl
theorem q2336 : (Jvm.Cond.laysFinal "VaultyardModel" "VaultyardModel" "funds" "Ljava/util/ArrayList;") ∈ lw_all := lw_g (lw_at lw_m10 86 rfl) rfl
theorem q2337 : (Jvm.Cond.soleField "VaultyardModel" "funds") ∈ lw_all := lw_g (lw_at lw_m10 87 rfl) rfl
theorem q2338 : (Jvm.Cond.laysFinal "VaultyardModel" "VaultyardModel" "laws" "[I") ∈ lw_all := lw_g (lw_at lw_m10 88 rfl) rfl
theorem q2339 : (Jvm.Cond.soleField "VaultyardModel" "laws") ∈ lw_all := lw_g (lw_at lw_m10 89 rfl) rfl
theorem q2340 : (Jvm.Cond.superclass "VaultyardModel" "java/lang/Object") ∈ lw_all := lw_g (lw_at lw_m10 90 rfl) rfl
theorem q2342 : (Jvm.Cond.instanceMethod ({ cls := "VaultyardModel", name := "thrown", desc := "()I" } : Jvm.MethodName)) ∈ lw_all := lw_g (lw_at lw_m10 92 rfl) rfl
theorem q2343 : (Jvm.Cond.selects "VaultyardModel" ({ cls := "VaultyardModel", name := "thrown", desc := "()I" } : Jvm.MethodName) ({ cls := "VaultyardModel", name := "thrown", desc := "()I" } : Jvm.MethodName)) ∈ lw_all := lw_g (lw_at lw_m10 93 rfl) rfl
theorem q2344 : (Jvm.Cond.code ({ cls := "VaultyardModel", name := "thrown", desc := "()I" } : Jvm.MethodName) prog_17_method_3_code (1 : Nat) (Option.some Jvm.ClassFile.FieldType.int)) ∈ lw_all := lw_g (lw_at lw_m10 94 rfl) rfl
theorem q2346 : (Jvm.Cond.instanceMethod ({ cls := "VaultyardModel", name := "material", desc := "(IIIIZ)I" } : Jvm.MethodName)) ∈ lw_all := lw_g (lw_at lw_m10 96 rfl) rfl
theorem q2347 : (Jvm.Cond.selects "VaultyardModel" ({ cls := "VaultyardModel", name := "material", desc := "(IIIIZ)I" } : Jvm.MethodName) ({ cls := "VaultyardModel", name := "material", desc := "(IIIIZ)I" } : Jvm.MethodName)) ∈ lw_all := lw_g (lw_at lw_m10 97 rfl) rfl
theorem q2348 : (Jvm.Cond.code ({ cls := "VaultyardModel", name := "material", desc := "(IIIIZ)I" } : Jvm.MethodName) prog_17_method_15_code (7 : Nat) (Option.some Jvm.ClassFile.FieldType.int)) ∈ lw_all := lw_g (lw_at lw_m10 98 rfl) rfl
theorem q2349 : (Jvm.Cond.constantLong "VaultyardModel" (131 : Nat) (9999 : Int64)) ∈ lw_all := lw_g (lw_at lw_m10 99 rfl) rfl
theorem q2350 : (Jvm.Cond.methodLink "VaultyardModel" (52 : Nat) ({ cls := "VaultyardModel", name := "in", desc := "(JJJ)Z" } : Jvm.MethodName)) ∈ lw_all := lw_g (lw_at lw_m10 100 rfl) rfl
theorem q2351 : (Jvm.Cond.static ({ cls := "VaultyardModel", name := "in", desc := "(JJJ)Z" } : Jvm.MethodName)) ∈ lw_all := lw_g (lw_at lw_m10 101 rfl) rfl
theorem q2352 : (Jvm.Cond.code ({ cls := "VaultyardModel", name := "in", desc := "(JJJ)Z" } : Jvm.MethodName) prog_17_method_1_code (6 : Nat) (Option.some Jvm.ClassFile.FieldType.boolean)) ∈ lw_all := lw_g (lw_at lw_m10 102 rfl) rfl
theorem q2353 : (Jvm.Cond.constantLong "VaultyardModel" (133 : Nat) (100 : Int64)) ∈ lw_all := lw_g (lw_at lw_m10 103 rfl) rfl
theorem q2354 : (Jvm.Cond.constantLong "VaultyardModel" (135 : Nat) (15 : Int64)) ∈ lw_all := lw_g (lw_at lw_m10 104 rfl) rfl
theorem q2355 : (Jvm.Cond.methodLink "VaultyardModel" (48 : Nat) ({ cls := "java/util/ArrayList", name := "size", desc := "()I" } : Jvm.MethodName)) ∈ lw_all := lw_g (lw_at lw_m10 105 rfl) rfl
theorem q2356 : (Jvm.Cond.classLink "VaultyardModel" (137 : Nat) "VaultyardModel$Material") ∈ lw_all := lw_g (lw_at lw_m10 106 rfl) rfl
theorem q2358 : (Jvm.Cond.methodLink "VaultyardModel" (139 : Nat) ({ cls := "VaultyardModel$Material", name := "<init>", desc := "(IIIIZ)V" } : Jvm.MethodName)) ∈ lw_all := lw_g (lw_at lw_m10 108 rfl) rfl
theorem q2363 : (Jvm.Cond.fieldLinkNest "VaultyardModel" (203 : Nat) "VaultyardModel$Material" "light" "I" "VaultyardModel") ∈ lw_tbl := lw_at lw_m10 113 rfl
theorem q2365 : (Jvm.Cond.fieldLinkNest "VaultyardModel" (214 : Nat) "VaultyardModel$Material" "least" "I" "VaultyardModel") ∈ lw_tbl := lw_at lw_m10 115 rfl
theorem q2367 : (Jvm.Cond.fieldLinkNest "VaultyardModel" (217 : Nat) "VaultyardModel$Material" "greatest" "I" "VaultyardModel") ∈ lw_tbl := lw_at lw_m10 117 rfl
theorem q2369 : (Jvm.Cond.fieldLinkNest "VaultyardModel" (191 : Nat) "VaultyardModel$Material" "eaten" "I" "VaultyardModel") ∈ lw_tbl := lw_at lw_m10 119 rfl
theorem q2371 : (Jvm.Cond.fieldLinkNest "VaultyardModel" (408 : Nat) "VaultyardModel$Material" "isHarmed" "Z" "VaultyardModel") ∈ lw_tbl := lw_at lw_m10 121 rfl
theorem q2383 : (Jvm.Cond.methodLink "VaultyardModel" (89 : Nat) ({ cls := "java/util/ArrayList", name := "add", desc := "(Ljava/lang/Object;)Z" } : Jvm.MethodName)) ∈ lw_all := lw_g (lw_at lw_m10 133 rfl) rfl
theorem q2385 : (Jvm.Cond.instanceMethod ({ cls := "VaultyardModel", name := "room", desc := "(III)I" } : Jvm.MethodName)) ∈ lw_all := lw_g (lw_at lw_m10 135 rfl) rfl
theorem q2386 : (Jvm.Cond.selects "VaultyardModel" ({ cls := "VaultyardModel", name := "room", desc := "(III)I" } : Jvm.MethodName) ({ cls := "VaultyardModel", name := "room", desc := "(III)I" } : Jvm.MethodName)) ∈ lw_all := lw_g (lw_at lw_m10 136 rfl) rfl
theorem q2387 : (Jvm.Cond.code ({ cls := "VaultyardModel", name := "room", desc := "(III)I" } : Jvm.MethodName) prog_17_method_16_code (5 : Nat) (Option.some Jvm.ClassFile.FieldType.int)) ∈ lw_all := lw_g (lw_at lw_m10 137 rfl) rfl
theorem q2388 : (Jvm.Cond.constantLong "VaultyardModel" (142 : Nat) (200 : Int64)) ∈ lw_all := lw_g (lw_at lw_m10 138 rfl) rfl
theorem q2389 : (Jvm.Cond.classLink "VaultyardModel" (126 : Nat) "VaultyardModel$Room") ∈ lw_all := lw_g (lw_at lw_m10 139 rfl) rfl
theorem q2391 : (Jvm.Cond.methodLink "VaultyardModel" (144 : Nat) ({ cls := "VaultyardModel$Room", name := "<init>", desc := "(III)V" } : Jvm.MethodName)) ∈ lw_all := lw_g (lw_at lw_m10 141 rfl) rfl
theorem q2396 : (Jvm.Cond.fieldLinkNest "VaultyardModel" (150 : Nat) "VaultyardModel$Room" "light" "I" "VaultyardModel") ∈ lw_tbl := lw_at lw_m10 146 rfl
theorem q2398 : (Jvm.Cond.fieldLinkNest "VaultyardModel" (153 : Nat) "VaultyardModel$Room" "humidity" "I" "VaultyardModel") ∈ lw_tbl := lw_at lw_m10 148 rfl
theorem q2400 : (Jvm.Cond.fieldLinkNest "VaultyardModel" (128 : Nat) "VaultyardModel$Room" "sizes" "I" "VaultyardModel") ∈ lw_tbl := lw_at lw_m10 150 rfl
theorem q2401 : (Jvm.Cond.fieldLinkNest "VaultyardModel" (158 : Nat) "VaultyardModel$Room" "pests" "I" "VaultyardModel") ∈ lw_tbl := lw_at lw_m10 151 rfl
theorem q2403 : (Jvm.Cond.fieldLinkNest "VaultyardModel" (250 : Nat) "VaultyardModel$Room" "limit" "I" "VaultyardModel") ∈ lw_tbl := lw_at lw_m10 153 rfl
theorem q2404 : (Jvm.Cond.fieldLinkNest "VaultyardModel" (261 : Nat) "VaultyardModel$Room" "alarms" "I" "VaultyardModel") ∈ lw_tbl := lw_at lw_m10 154 rfl
theorem q2419 : (Jvm.Cond.instanceMethod ({ cls := "VaultyardModel", name := "climate", desc := "(III)I" } : Jvm.MethodName)) ∈ lw_all := lw_g (lw_at lw_m10 169 rfl) rfl
theorem q2420 : (Jvm.Cond.selects "VaultyardModel" ({ cls := "VaultyardModel", name := "climate", desc := "(III)I" } : Jvm.MethodName) ({ cls := "VaultyardModel", name := "climate", desc := "(III)I" } : Jvm.MethodName)) ∈ lw_all := lw_g (lw_at lw_m10 170 rfl) rfl
theorem q2421 : (Jvm.Cond.code ({ cls := "VaultyardModel", name := "climate", desc := "(III)I" } : Jvm.MethodName) prog_17_method_17_code (5 : Nat) (Option.some Jvm.ClassFile.FieldType.int)) ∈ lw_all := lw_g (lw_at lw_m10 171 rfl) rfl
theorem q2422 : (Jvm.Cond.methodLink "VaultyardModel" (147 : Nat) ({ cls := "VaultyardModel", name := "noRoom", desc := "(I)Z" } : Jvm.MethodName)) ∈ lw_all := lw_g (lw_at lw_m10 172 rfl) rfl
theorem q2423 : (Jvm.Cond.privateMethod ({ cls := "VaultyardModel", name := "noRoom", desc := "(I)Z" } : Jvm.MethodName)) ∈ lw_tbl := lw_at lw_m10 173 rfl
theorem q2424 : (Jvm.Cond.instanceMethod ({ cls := "VaultyardModel", name := "noRoom", desc := "(I)Z" } : Jvm.MethodName)) ∈ lw_all := lw_g (lw_at lw_m10 174 rfl) rfl
theorem q2425 : (Jvm.Cond.code ({ cls := "VaultyardModel", name := "noRoom", desc := "(I)Z" } : Jvm.MethodName) prog_17_method_7_code (2 : Nat) (Option.some Jvm.ClassFile.FieldType.boolean)) ∈ lw_all := lw_g (lw_at lw_m10 175 rfl) rfl
theorem q2426 : (Jvm.Cond.methodLink "VaultyardModel" (60 : Nat) ({ cls := "VaultyardModel", name := "isRoom", desc := "(I)Z" } : Jvm.MethodName)) ∈ lw_all := lw_g (lw_at lw_m10 176 rfl) rfl
theorem q2427 : (Jvm.Cond.privateMethod ({ cls := "VaultyardModel", name := "isRoom", desc := "(I)Z" } : Jvm.MethodName)) ∈ lw_tbl := lw_at lw_m10 177 rfl
theorem q2428 : (Jvm.Cond.instanceMethod ({ cls := "VaultyardModel", name := "isRoom", desc := "(I)Z" } : Jvm.MethodName)) ∈ lw_all := lw_g (lw_at lw_m10 178 rfl) rfl
theorem q2429 : (Jvm.Cond.code ({ cls := "VaultyardModel", name := "isRoom", desc := "(I)Z" } : Jvm.MethodName) prog_17_method_5_code (2 : Nat) (Option.some Jvm.ClassFile.FieldType.boolean)) ∈ lw_all := lw_g (lw_at lw_m10 179 rfl) rfl
theorem q2430 : (Jvm.Cond.methodLink "VaultyardModel" (68 : Nat) ({ cls := "java/util/ArrayList", name := "get", desc := "(I)Ljava/lang/Object;" } : Jvm.MethodName)) ∈ lw_all := lw_g (lw_at lw_m10 180 rfl) rfl
theorem q2432 : (Jvm.Cond.instanceMethod ({ cls := "VaultyardModel", name := "infest", desc := "(IIZ)Z" } : Jvm.MethodName)) ∈ lw_all := lw_g (lw_at lw_m10 182 rfl) rfl
theorem q2433 : (Jvm.Cond.selects "VaultyardModel" ({ cls := "VaultyardModel", name := "infest", desc := "(IIZ)Z" } : Jvm.MethodName) ({ cls := "VaultyardModel", name := "infest", desc := "(IIZ)Z" } : Jvm.MethodName)) ∈ lw_all := lw_g (lw_at lw_m10 183 rfl) rfl
theorem q2434 : (Jvm.Cond.code ({ cls := "VaultyardModel", name := "infest", desc := "(IIZ)Z" } : Jvm.MethodName) prog_17_method_18_code (6 : Nat) (Option.some Jvm.ClassFile.FieldType.boolean)) ∈ lw_all := lw_g (lw_at lw_m10 184 rfl) rfl
theorem q2435 : (Jvm.Cond.constantLong "VaultyardModel" (156 : Nat) (3 : Int64)) ∈ lw_all := lw_g (lw_at lw_m10 185 rfl) rfl
theorem q2437 : (Jvm.Cond.instanceMethod ({ cls := "VaultyardModel", name := "thing", desc := "(IIII)I" } : Jvm.MethodName)) ∈ lw_all := lw_g (lw_at lw_m10 187 rfl) rfl
theorem q2438 : (Jvm.Cond.selects "VaultyardModel" ({ cls := "VaultyardModel", name := "thing", desc := "(IIII)I" } : Jvm.MethodName) ({ cls := "VaultyardModel", name := "thing", desc := "(IIII)I" } : Jvm.MethodName)) ∈ lw_all := lw_g (lw_at lw_m10 188 rfl) rfl
theorem q2439 : (Jvm.Cond.code ({ cls := "VaultyardModel", name := "thing", desc := "(IIII)I" } : Jvm.MethodName) prog_17_method_19_code (6 : Nat) (Option.some Jvm.ClassFile.FieldType.int)) ∈ lw_all := lw_g (lw_at lw_m10 189 rfl) rfl
theorem q2440 : (Jvm.Cond.constantLong "VaultyardModel" (161 : Nat) (99999 : Int64)) ∈ lw_all := lw_g (lw_at lw_m10 190 rfl) rfl
theorem q2441 : (Jvm.Cond.constantLong "VaultyardModel" (163 : Nat) (20 : Int64)) ∈ lw_all := lw_g (lw_at lw_m10 191 rfl) rfl
theorem q2442 : (Jvm.Cond.methodLink "VaultyardModel" (165 : Nat) ({ cls := "VaultyardModel", name := "goesIn", desc := "(II)Z" } : Jvm.MethodName)) ∈ lw_all := lw_g (lw_at lw_m10 192 rfl) rfl
theorem q2443 : (Jvm.Cond.privateMethod ({ cls := "VaultyardModel", name := "goesIn", desc := "(II)Z" } : Jvm.MethodName)) ∈ lw_tbl := lw_at lw_m10 193 rfl
theorem q2444 : (Jvm.Cond.instanceMethod ({ cls := "VaultyardModel", name := "goesIn", desc := "(II)Z" } : Jvm.MethodName)) ∈ lw_all := lw_g (lw_at lw_m10 194 rfl) rfl
theorem q2445 : (Jvm.Cond.code ({ cls := "VaultyardModel", name := "goesIn", desc := "(II)Z" } : Jvm.MethodName) prog_17_method_13_code (3 : Nat) (Option.some Jvm.ClassFile.FieldType.boolean)) ∈ lw_all := lw_g (lw_at lw_m10 195 rfl) rfl
theorem q2446 : (Jvm.Cond.methodLink "VaultyardModel" (122 : Nat) ({ cls := "VaultyardModel", name := "usedIn", desc := "(CI)I" } : Jvm.MethodName)) ∈ lw_all := lw_g (lw_at lw_m10 196 rfl) rfl
theorem q2447 : (Jvm.Cond.privateMethod ({ cls := "VaultyardModel", name := "usedIn", desc := "(CI)I" } : Jvm.MethodName)) ∈ lw_tbl := lw_at lw_m10 197 rfl
theorem q2448 : (Jvm.Cond.instanceMethod ({ cls := "VaultyardModel", name := "usedIn", desc := "(CI)I" } : Jvm.MethodName)) ∈ lw_all := lw_g (lw_at lw_m10 198 rfl) rfl
theorem q2449 : (Jvm.Cond.code ({ cls := "VaultyardModel", name := "usedIn", desc := "(CI)I" } : Jvm.MethodName) prog_17_method_12_code (6 : Nat) (Option.some Jvm.ClassFile.FieldType.int)) ∈ lw_all := lw_g (lw_at lw_m10 199 rfl) rfl
theorem q2450 : (Jvm.Cond.methodLink "VaultyardModel" (106 : Nat) ({ cls := "java/util/ArrayList", name := "iterator", desc := "()Ljava/util/Iterator;" } : Jvm.MethodName)) ∈ lw_all := lw_g (lw_at lw_m10 200 rfl) rfl
theorem q2451 : (Jvm.Cond.interfaceEntry "VaultyardModel" (110 : Nat)) ∈ lw_tbl := lw_at lw_m10 201 rfl
theorem q2452 : (Jvm.Cond.methodLink "VaultyardModel" (110 : Nat) ({ cls := "java/util/Iterator", name := "hasNext", desc := "()Z" } : Jvm.MethodName)) ∈ lw_all := lw_g (lw_at lw_m10 202 rfl) rfl
theorem q2453 : (Jvm.Cond.interfaceEntry "VaultyardModel" (116 : Nat)) ∈ lw_tbl := lw_at lw_m10 203 rfl
theorem q2454 : (Jvm.Cond.methodLink "VaultyardModel" (116 : Nat) ({ cls := "java/util/Iterator", name := "next", desc := "()Ljava/lang/Object;" } : Jvm.MethodName)) ∈ lw_all := lw_g (lw_at lw_m10 204 rfl) rfl
theorem q2455 : (Jvm.Cond.classLink "VaultyardModel" (64 : Nat) "VaultyardModel$Thing") ∈ lw_all := lw_g (lw_at lw_m10 205 rfl) rfl
theorem q2457 : (Jvm.Cond.methodLink "VaultyardModel" (169 : Nat) ({ cls := "VaultyardModel$Thing", name := "<init>", desc := "(IIII)V" } : Jvm.MethodName)) ∈ lw_all := lw_g (lw_at lw_m10 207 rfl) rfl
theorem q2464 : (Jvm.Cond.fieldLinkNest "VaultyardModel" (188 : Nat) "VaultyardModel$Thing" "material" "I" "VaultyardModel") ∈ lw_tbl := lw_at lw_m10 214 rfl
theorem q2466 : (Jvm.Cond.fieldLinkNest "VaultyardModel" (264 : Nat) "VaultyardModel$Thing" "value" "I" "VaultyardModel") ∈ lw_tbl := lw_at lw_m10 216 rfl
theorem q2468 : (Jvm.Cond.fieldLinkNest "VaultyardModel" (120 : Nat) "VaultyardModel$Thing" "size" "I" "VaultyardModel") ∈ lw_tbl := lw_at lw_m10 218 rfl
theorem q2470 : (Jvm.Cond.fieldLinkNest "VaultyardModel" (63 : Nat) "VaultyardModel$Thing" "whole" "I" "VaultyardModel") ∈ lw_tbl := lw_at lw_m10 220 rfl
theorem q2472 : (Jvm.Cond.fieldLinkNest "VaultyardModel" (76 : Nat) "VaultyardModel$Thing" "place" "C" "VaultyardModel") ∈ lw_tbl := lw_at lw_m10 222 rfl
theorem q2473 : (Jvm.Cond.fieldLinkNest "VaultyardModel" (80 : Nat) "VaultyardModel$Thing" "where" "I" "VaultyardModel") ∈ lw_tbl := lw_at lw_m10 223 rfl
theorem q2474 : (Jvm.Cond.fieldLinkNest "VaultyardModel" (230 : Nat) "VaultyardModel$Thing" "until" "I" "VaultyardModel") ∈ lw_tbl := lw_at lw_m10 224 rfl
theorem q2475 : (Jvm.Cond.fieldLinkNest "VaultyardModel" (257 : Nat) "VaultyardModel$Thing" "hasCase" "Z" "VaultyardModel") ∈ lw_tbl := lw_at lw_m10 225 rfl
theorem q2476 : (Jvm.Cond.fieldLinkNest "VaultyardModel" (93 : Nat) "VaultyardModel$Thing" "damage" "I" "VaultyardModel") ∈ lw_tbl := lw_at lw_m10 226 rfl
theorem q2477 : (Jvm.Cond.fieldLinkNest "VaultyardModel" (202 : Nat) "VaultyardModel$Thing" "light" "I" "VaultyardModel") ∈ lw_tbl := lw_at lw_m10 227 rfl
theorem q2478 : (Jvm.Cond.fieldLinkNest "VaultyardModel" (211 : Nat) "VaultyardModel$Thing" "above" "I" "VaultyardModel") ∈ lw_tbl := lw_at lw_m10 228 rfl
theorem q2479 : (Jvm.Cond.fieldLinkNest "VaultyardModel" (343 : Nat) "VaultyardModel$Thing" "done" "I" "VaultyardModel") ∈ lw_tbl := lw_at lw_m10 229 rfl
theorem q2480 : (Jvm.Cond.fieldLinkNest "VaultyardModel" (199 : Nat) "VaultyardModel$Thing" "kept" "I" "VaultyardModel") ∈ lw_tbl := lw_at lw_m10 230 rfl
theorem q2482 : (Jvm.Cond.fieldLinkNest "VaultyardModel" (83 : Nat) "VaultyardModel$Thing" "journal" "Ljava/util/ArrayList;" "VaultyardModel") ∈ lw_tbl := lw_at lw_m10 232 rfl
theorem q2484 : (Jvm.Cond.fieldLinkNest "VaultyardModel" (303 : Nat) "VaultyardModel$Thing" "owners" "Ljava/util/ArrayList;" "VaultyardModel") ∈ lw_tbl := lw_at lw_m10 234 rfl
theorem q2486 : (Jvm.Cond.fieldLinkNest "VaultyardModel" (366 : Nat) "VaultyardModel$Thing" "genuine" "I" "VaultyardModel") ∈ lw_tbl := lw_at lw_m10 236 rfl
theorem q2488 : (Jvm.Cond.fieldLinkNest "VaultyardModel" (369 : Nat) "VaultyardModel$Thing" "fake" "I" "VaultyardModel") ∈ lw_tbl := lw_at lw_m10 238 rfl
theorem q2490 : (Jvm.Cond.fieldLinkNest "VaultyardModel" (372 : Nat) "VaultyardModel$Thing" "oddsFor" "J" "VaultyardModel") ∈ lw_tbl := lw_at lw_m11 0 rfl
theorem q2492 : (Jvm.Cond.fieldLinkNest "VaultyardModel" (376 : Nat) "VaultyardModel$Thing" "oddsAgainst" "J" "VaultyardModel") ∈ lw_tbl := lw_at lw_m11 2 rfl
theorem q2493 : (Jvm.Cond.fieldLinkNest "VaultyardModel" (363 : Nat) "VaultyardModel$Thing" "tests" "I" "VaultyardModel") ∈ lw_tbl := lw_at lw_m11 3 rfl
theorem q2535 : (Jvm.Cond.methodLink "VaultyardModel" (172 : Nat) ({ cls := "VaultyardModel", name := "comes", desc := "(LVaultyardModel$Thing;I)V" } : Jvm.MethodName)) ∈ lw_all := lw_g (lw_at lw_m11 45 rfl) rfl
theorem q2536 : (Jvm.Cond.privateMethod ({ cls := "VaultyardModel", name := "comes", desc := "(LVaultyardModel$Thing;I)V" } : Jvm.MethodName)) ∈ lw_tbl := lw_at lw_m11 46 rfl
theorem q2537 : (Jvm.Cond.instanceMethod ({ cls := "VaultyardModel", name := "comes", desc := "(LVaultyardModel$Thing;I)V" } : Jvm.MethodName)) ∈ lw_all := lw_g (lw_at lw_m11 47 rfl) rfl
theorem q2538 : (Jvm.Cond.code ({ cls := "VaultyardModel", name := "comes", desc := "(LVaultyardModel$Thing;I)V" } : Jvm.MethodName) prog_17_method_14_code (3 : Nat) (Option.none : Option Jvm.ClassFile.FieldType)) ∈ lw_all := lw_g (lw_at lw_m11 48 rfl) rfl
theorem q2539 : (Jvm.Cond.methodLink "VaultyardModel" (102 : Nat) ({ cls := "VaultyardModel", name := "tells", desc := "(LVaultyardModel$Thing;CI)V" } : Jvm.MethodName)) ∈ lw_all := lw_g (lw_at lw_m11 49 rfl) rfl
theorem q2540 : (Jvm.Cond.privateMethod ({ cls := "VaultyardModel", name := "tells", desc := "(LVaultyardModel$Thing;CI)V" } : Jvm.MethodName)) ∈ lw_tbl := lw_at lw_m11 50 rfl
theorem q2541 : (Jvm.Cond.instanceMethod ({ cls := "VaultyardModel", name := "tells", desc := "(LVaultyardModel$Thing;CI)V" } : Jvm.MethodName)) ∈ lw_all := lw_g (lw_at lw_m11 51 rfl) rfl
theorem q2542 : (Jvm.Cond.code ({ cls := "VaultyardModel", name := "tells", desc := "(LVaultyardModel$Thing;CI)V" } : Jvm.MethodName) prog_17_method_10_code (4 : Nat) (Option.none : Option Jvm.ClassFile.FieldType)) ∈ lw_all := lw_g (lw_at lw_m11 52 rfl) rfl
theorem q2544 : (Jvm.Cond.instanceMethod ({ cls := "VaultyardModel", name := "part", desc := "(III)I" } : Jvm.MethodName)) ∈ lw_all := lw_g (lw_at lw_m11 54 rfl) rfl
theorem q2545 : (Jvm.Cond.selects "VaultyardModel" ({ cls := "VaultyardModel", name := "part", desc := "(III)I" } : Jvm.MethodName) ({ cls := "VaultyardModel", name := "part", desc := "(III)I" } : Jvm.MethodName)) ∈ lw_all := lw_g (lw_at lw_m11 55 rfl) rfl
theorem q2546 : (Jvm.Cond.code ({ cls := "VaultyardModel", name := "part", desc := "(III)I" } : Jvm.MethodName) prog_17_method_21_code (6 : Nat) (Option.some Jvm.ClassFile.FieldType.int)) ∈ lw_all := lw_g (lw_at lw_m11 56 rfl) rfl
theorem q2547 : (Jvm.Cond.methodLink "VaultyardModel" (56 : Nat) ({ cls := "VaultyardModel", name := "isThing", desc := "(I)Z" } : Jvm.MethodName)) ∈ lw_all := lw_g (lw_at lw_m11 57 rfl) rfl
theorem q2548 : (Jvm.Cond.privateMethod ({ cls := "VaultyardModel", name := "isThing", desc := "(I)Z" } : Jvm.MethodName)) ∈ lw_tbl := lw_at lw_m11 58 rfl
theorem q2549 : (Jvm.Cond.instanceMethod ({ cls := "VaultyardModel", name := "isThing", desc := "(I)Z" } : Jvm.MethodName)) ∈ lw_all := lw_g (lw_at lw_m11 59 rfl) rfl
theorem q2550 : (Jvm.Cond.code ({ cls := "VaultyardModel", name := "isThing", desc := "(I)Z" } : Jvm.MethodName) prog_17_method_4_code (2 : Nat) (Option.some Jvm.ClassFile.FieldType.boolean)) ∈ lw_all := lw_g (lw_at lw_m11 60 rfl) rfl
theorem q2551 : (Jvm.Cond.methodLink "VaultyardModel" (176 : Nat) ({ cls := "VaultyardModel", name := "partsOf", desc := "(I)I" } : Jvm.MethodName)) ∈ lw_all := lw_g (lw_at lw_m11 61 rfl) rfl
theorem q2552 : (Jvm.Cond.privateMethod ({ cls := "VaultyardModel", name := "partsOf", desc := "(I)I" } : Jvm.MethodName)) ∈ lw_tbl := lw_at lw_m11 62 rfl
theorem q2553 : (Jvm.Cond.instanceMethod ({ cls := "VaultyardModel", name := "partsOf", desc := "(I)I" } : Jvm.MethodName)) ∈ lw_all := lw_g (lw_at lw_m11 63 rfl) rfl
theorem q2554 : (Jvm.Cond.code ({ cls := "VaultyardModel", name := "partsOf", desc := "(I)I" } : Jvm.MethodName) prog_17_method_20_code (5 : Nat) (Option.some Jvm.ClassFile.FieldType.int)) ∈ lw_all := lw_g (lw_at lw_m11 64 rfl) rfl
theorem q2556 : (Jvm.Cond.instanceMethod ({ cls := "VaultyardModel", name := "move", desc := "(II)I" } : Jvm.MethodName)) ∈ lw_all := lw_g (lw_at lw_m11 66 rfl) rfl
theorem q2557 : (Jvm.Cond.selects "VaultyardModel" ({ cls := "VaultyardModel", name := "move", desc := "(II)I" } : Jvm.MethodName) ({ cls := "VaultyardModel", name := "move", desc := "(II)I" } : Jvm.MethodName)) ∈ lw_all := lw_g (lw_at lw_m11 67 rfl) rfl
theorem q2558 : (Jvm.Cond.code ({ cls := "VaultyardModel", name := "move", desc := "(II)I" } : Jvm.MethodName) prog_17_method_23_code (5 : Nat) (Option.some Jvm.ClassFile.FieldType.int)) ∈ lw_all := lw_g (lw_at lw_m11 68 rfl) rfl
theorem q2559 : (Jvm.Cond.methodLink "VaultyardModel" (181 : Nat) ({ cls := "VaultyardModel", name := "leaves", desc := "(LVaultyardModel$Thing;)V" } : Jvm.MethodName)) ∈ lw_all := lw_g (lw_at lw_m11 69 rfl) rfl
theorem q2560 : (Jvm.Cond.privateMethod ({ cls := "VaultyardModel", name := "leaves", desc := "(LVaultyardModel$Thing;)V" } : Jvm.MethodName)) ∈ lw_tbl := lw_at lw_m11 70 rfl
theorem q2561 : (Jvm.Cond.instanceMethod ({ cls := "VaultyardModel", name := "leaves", desc := "(LVaultyardModel$Thing;)V" } : Jvm.MethodName)) ∈ lw_all := lw_g (lw_at lw_m11 71 rfl) rfl
theorem q2562 : (Jvm.Cond.code ({ cls := "VaultyardModel", name := "leaves", desc := "(LVaultyardModel$Thing;)V" } : Jvm.MethodName) prog_17_method_22_code (4 : Nat) (Option.none : Option Jvm.ClassFile.FieldType)) ∈ lw_all := lw_g (lw_at lw_m11 72 rfl) rfl
theorem q2563 : (Jvm.Cond.classLink "VaultyardModel" (180 : Nat) "[I") ∈ lw_all := lw_g (lw_at lw_m11 73 rfl) rfl
theorem q2565 : (Jvm.Cond.instanceMethod ({ cls := "VaultyardModel", name := "place", desc := "(I)C" } : Jvm.MethodName)) ∈ lw_all := lw_g (lw_at lw_m11 75 rfl) rfl
theorem q2566 : (Jvm.Cond.selects "VaultyardModel" ({ cls := "VaultyardModel", name := "place", desc := "(I)C" } : Jvm.MethodName) ({ cls := "VaultyardModel", name := "place", desc := "(I)C" } : Jvm.MethodName)) ∈ lw_all := lw_g (lw_at lw_m11 76 rfl) rfl
theorem q2567 : (Jvm.Cond.code ({ cls := "VaultyardModel", name := "place", desc := "(I)C" } : Jvm.MethodName) prog_17_method_24_code (2 : Nat) (Option.some Jvm.ClassFile.FieldType.char)) ∈ lw_all := lw_g (lw_at lw_m11 77 rfl) rfl
theorem q2568 : (Jvm.Cond.methodLink "VaultyardModel" (185 : Nat) ({ cls := "VaultyardModel", name := "noThing", desc := "(I)Z" } : Jvm.MethodName)) ∈ lw_all := lw_g (lw_at lw_m11 78 rfl) rfl
theorem q2569 : (Jvm.Cond.privateMethod ({ cls := "VaultyardModel", name := "noThing", desc := "(I)Z" } : Jvm.MethodName)) ∈ lw_tbl := lw_at lw_m11 79 rfl
theorem q2570 : (Jvm.Cond.instanceMethod ({ cls := "VaultyardModel", name := "noThing", desc := "(I)Z" } : Jvm.MethodName)) ∈ lw_all := lw_g (lw_at lw_m11 80 rfl) rfl
theorem q2571 : (Jvm.Cond.code ({ cls := "VaultyardModel", name := "noThing", desc := "(I)Z" } : Jvm.MethodName) prog_17_method_6_code (2 : Nat) (Option.some Jvm.ClassFile.FieldType.boolean)) ∈ lw_all := lw_g (lw_at lw_m11 81 rfl) rfl
theorem q2572 : (Jvm.Cond.methodLink "VaultyardModel" (72 : Nat) ({ cls := "VaultyardModel", name := "wholeOf", desc := "(LVaultyardModel$Thing;)LVaultyardModel$Thing;" } : Jvm.MethodName)) ∈ lw_all := lw_g (lw_at lw_m11 82 rfl) rfl
theorem q2573 : (Jvm.Cond.privateMethod ({ cls := "VaultyardModel", name := "wholeOf", desc := "(LVaultyardModel$Thing;)LVaultyardModel$Thing;" } : Jvm.MethodName)) ∈ lw_tbl := lw_at lw_m11 83 rfl
theorem q2574 : (Jvm.Cond.instanceMethod ({ cls := "VaultyardModel", name := "wholeOf", desc := "(LVaultyardModel$Thing;)LVaultyardModel$Thing;" } : Jvm.MethodName)) ∈ lw_all := lw_g (lw_at lw_m11 84 rfl) rfl
theorem q2575 : (Jvm.Cond.code ({ cls := "VaultyardModel", name := "wholeOf", desc := "(LVaultyardModel$Thing;)LVaultyardModel$Thing;" } : Jvm.MethodName) prog_17_method_8_code (2 : Nat) (Option.some (Jvm.ClassFile.FieldType.object "VaultyardModel$Thing"))) ∈ lw_all := lw_g (lw_at lw_m11 85 rfl) rfl
theorem q2577 : (Jvm.Cond.instanceMethod ({ cls := "VaultyardModel", name := "roomOf", desc := "(I)I" } : Jvm.MethodName)) ∈ lw_all := lw_g (lw_at lw_m11 87 rfl) rfl
theorem q2578 : (Jvm.Cond.selects "VaultyardModel" ({ cls := "VaultyardModel", name := "roomOf", desc := "(I)I" } : Jvm.MethodName) ({ cls := "VaultyardModel", name := "roomOf", desc := "(I)I" } : Jvm.MethodName)) ∈ lw_all := lw_g (lw_at lw_m11 88 rfl) rfl
theorem q2579 : (Jvm.Cond.code ({ cls := "VaultyardModel", name := "roomOf", desc := "(I)I" } : Jvm.MethodName) prog_17_method_25_code (3 : Nat) (Option.some Jvm.ClassFile.FieldType.int)) ∈ lw_all := lw_g (lw_at lw_m11 89 rfl) rfl
theorem q2581 : (Jvm.Cond.instanceMethod ({ cls := "VaultyardModel", name := "day", desc := "(I)I" } : Jvm.MethodName)) ∈ lw_all := lw_g (lw_at lw_m11 91 rfl) rfl
theorem q2582 : (Jvm.Cond.selects "VaultyardModel" ({ cls := "VaultyardModel", name := "day", desc := "(I)I" } : Jvm.MethodName) ({ cls := "VaultyardModel", name := "day", desc := "(I)I" } : Jvm.MethodName)) ∈ lw_all := lw_g (lw_at lw_m11 92 rfl) rfl
theorem q2583 : (Jvm.Cond.code ({ cls := "VaultyardModel", name := "day", desc := "(I)I" } : Jvm.MethodName) prog_17_method_30_code (3 : Nat) (Option.some Jvm.ClassFile.FieldType.int)) ∈ lw_all := lw_g (lw_at lw_m11 93 rfl) rfl
theorem q2584 : (Jvm.Cond.constantLong "VaultyardModel" (233 : Nat) (400 : Int64)) ∈ lw_all := lw_g (lw_at lw_m11 94 rfl) rfl
theorem q2585 : (Jvm.Cond.methodLink "VaultyardModel" (235 : Nat) ({ cls := "VaultyardModel", name := "endDay", desc := "()V" } : Jvm.MethodName)) ∈ lw_all := lw_g (lw_at lw_m11 95 rfl) rfl
theorem q2586 : (Jvm.Cond.privateMethod ({ cls := "VaultyardModel", name := "endDay", desc := "()V" } : Jvm.MethodName)) ∈ lw_tbl := lw_at lw_m11 96 rfl
theorem q2587 : (Jvm.Cond.instanceMethod ({ cls := "VaultyardModel", name := "endDay", desc := "()V" } : Jvm.MethodName)) ∈ lw_all := lw_g (lw_at lw_m11 97 rfl) rfl
theorem q2588 : (Jvm.Cond.code ({ cls := "VaultyardModel", name := "endDay", desc := "()V" } : Jvm.MethodName) prog_17_method_29_code (3 : Nat) (Option.none : Option Jvm.ClassFile.FieldType)) ∈ lw_all := lw_g (lw_at lw_m11 98 rfl) rfl
theorem q2589 : (Jvm.Cond.methodLink "VaultyardModel" (227 : Nat) ({ cls := "VaultyardModel", name := "suffers", desc := "(LVaultyardModel$Thing;)V" } : Jvm.MethodName)) ∈ lw_all := lw_g (lw_at lw_m11 99 rfl) rfl
theorem q2590 : (Jvm.Cond.privateMethod ({ cls := "VaultyardModel", name := "suffers", desc := "(LVaultyardModel$Thing;)V" } : Jvm.MethodName)) ∈ lw_tbl := lw_at lw_m11 100 rfl
theorem q2591 : (Jvm.Cond.instanceMethod ({ cls := "VaultyardModel", name := "suffers", desc := "(LVaultyardModel$Thing;)V" } : Jvm.MethodName)) ∈ lw_all := lw_g (lw_at lw_m11 101 rfl) rfl
theorem q2592 : (Jvm.Cond.code ({ cls := "VaultyardModel", name := "suffers", desc := "(LVaultyardModel$Thing;)V" } : Jvm.MethodName) prog_17_method_28_code (8 : Nat) (Option.none : Option Jvm.ClassFile.FieldType)) ∈ lw_all := lw_g (lw_at lw_m11 102 rfl) rfl
theorem q2593 : (Jvm.Cond.methodLink "VaultyardModel" (204 : Nat) ({ cls := "java/lang/Math", name := "max", desc := "(II)I" } : Jvm.MethodName)) ∈ lw_all := lw_g (lw_at lw_m11 103 rfl) rfl
theorem q2594 : (Jvm.Cond.methodLink "VaultyardModel" (96 : Nat) ({ cls := "java/lang/Math", name := "min", desc := "(II)I" } : Jvm.MethodName)) ∈ lw_all := lw_g (lw_at lw_m11 104 rfl) rfl
theorem q2595 : (Jvm.Cond.methodLink "VaultyardModel" (207 : Nat) ({ cls := "VaultyardModel", name := "isKept", desc := "(LVaultyardModel$Thing;I)Z" } : Jvm.MethodName)) ∈ lw_all := lw_g (lw_at lw_m11 105 rfl) rfl
theorem q2596 : (Jvm.Cond.privateMethod ({ cls := "VaultyardModel", name := "isKept", desc := "(LVaultyardModel$Thing;I)Z" } : Jvm.MethodName)) ∈ lw_tbl := lw_at lw_m11 106 rfl
theorem q2597 : (Jvm.Cond.instanceMethod ({ cls := "VaultyardModel", name := "isKept", desc := "(LVaultyardModel$Thing;I)Z" } : Jvm.MethodName)) ∈ lw_all := lw_g (lw_at lw_m11 107 rfl) rfl
theorem q2598 : (Jvm.Cond.code ({ cls := "VaultyardModel", name := "isKept", desc := "(LVaultyardModel$Thing;I)Z" } : Jvm.MethodName) prog_17_method_27_code (3 : Nat) (Option.some Jvm.ClassFile.FieldType.boolean)) ∈ lw_all := lw_g (lw_at lw_m11 108 rfl) rfl
theorem q2599 : (Jvm.Cond.methodLink "VaultyardModel" (220 : Nat) ({ cls := "VaultyardModel", name := "eaten", desc := "(LVaultyardModel$Thing;I)I" } : Jvm.MethodName)) ∈ lw_all := lw_g (lw_at lw_m11 109 rfl) rfl
theorem q2600 : (Jvm.Cond.privateMethod ({ cls := "VaultyardModel", name := "eaten", desc := "(LVaultyardModel$Thing;I)I" } : Jvm.MethodName)) ∈ lw_tbl := lw_at lw_m11 110 rfl
theorem q2601 : (Jvm.Cond.instanceMethod ({ cls := "VaultyardModel", name := "eaten", desc := "(LVaultyardModel$Thing;I)I" } : Jvm.MethodName)) ∈ lw_all := lw_g (lw_at lw_m11 111 rfl) rfl
theorem q2602 : (Jvm.Cond.code ({ cls := "VaultyardModel", name := "eaten", desc := "(LVaultyardModel$Thing;I)I" } : Jvm.MethodName) prog_17_method_26_code (3 : Nat) (Option.some Jvm.ClassFile.FieldType.int)) ∈ lw_all := lw_g (lw_at lw_m11 112 rfl) rfl
theorem q2603 : (Jvm.Cond.methodLink "VaultyardModel" (194 : Nat) ({ cls := "java/lang/Integer", name := "bitCount", desc := "(I)I" } : Jvm.MethodName)) ∈ lw_all := lw_g (lw_at lw_m11 113 rfl) rfl
theorem q2604 : (Jvm.Cond.methodLink "VaultyardModel" (223 : Nat) ({ cls := "VaultyardModel", name := "grows", desc := "(LVaultyardModel$Thing;CIZ)I" } : Jvm.MethodName)) ∈ lw_all := lw_g (lw_at lw_m11 114 rfl) rfl
theorem q2605 : (Jvm.Cond.privateMethod ({ cls := "VaultyardModel", name := "grows", desc := "(LVaultyardModel$Thing;CIZ)I" } : Jvm.MethodName)) ∈ lw_tbl := lw_at lw_m11 115 rfl
theorem q2606 : (Jvm.Cond.instanceMethod ({ cls := "VaultyardModel", name := "grows", desc := "(LVaultyardModel$Thing;CIZ)I" } : Jvm.MethodName)) ∈ lw_all := lw_g (lw_at lw_m11 116 rfl) rfl
theorem q2607 : (Jvm.Cond.code ({ cls := "VaultyardModel", name := "grows", desc := "(LVaultyardModel$Thing;CIZ)I" } : Jvm.MethodName) prog_17_method_11_code (6 : Nat) (Option.some Jvm.ClassFile.FieldType.int)) ∈ lw_all := lw_g (lw_at lw_m11 117 rfl) rfl
theorem q2609 : (Jvm.Cond.instanceMethod ({ cls := "VaultyardModel", name := "year", desc := "()I" } : Jvm.MethodName)) ∈ lw_all := lw_g (lw_at lw_m11 119 rfl) rfl
theorem q2610 : (Jvm.Cond.selects "VaultyardModel" ({ cls := "VaultyardModel", name := "year", desc := "()I" } : Jvm.MethodName) ({ cls := "VaultyardModel", name := "year", desc := "()I" } : Jvm.MethodName)) ∈ lw_all := lw_g (lw_at lw_m11 120 rfl) rfl
theorem q2611 : (Jvm.Cond.code ({ cls := "VaultyardModel", name := "year", desc := "()I" } : Jvm.MethodName) prog_17_method_32_code (1 : Nat) (Option.some Jvm.ClassFile.FieldType.int)) ∈ lw_all := lw_g (lw_at lw_m11 121 rfl) rfl
theorem q2612 : (Jvm.Cond.methodLink "VaultyardModel" (238 : Nat) ({ cls := "VaultyardModel", name := "yearNow", desc := "()I" } : Jvm.MethodName)) ∈ lw_all := lw_g (lw_at lw_m11 122 rfl) rfl
theorem q2613 : (Jvm.Cond.privateMethod ({ cls := "VaultyardModel", name := "yearNow", desc := "()I" } : Jvm.MethodName)) ∈ lw_tbl := lw_at lw_m11 123 rfl
theorem q2614 : (Jvm.Cond.instanceMethod ({ cls := "VaultyardModel", name := "yearNow", desc := "()I" } : Jvm.MethodName)) ∈ lw_all := lw_g (lw_at lw_m11 124 rfl) rfl
theorem q2615 : (Jvm.Cond.code ({ cls := "VaultyardModel", name := "yearNow", desc := "()I" } : Jvm.MethodName) prog_17_method_31_code (1 : Nat) (Option.some Jvm.ClassFile.FieldType.int)) ∈ lw_all := lw_g (lw_at lw_m11 125 rfl) rfl
theorem q2617 : (Jvm.Cond.instanceMethod ({ cls := "VaultyardModel", name := "light", desc := "(I)I" } : Jvm.MethodName)) ∈ lw_all := lw_g (lw_at lw_m11 127 rfl) rfl
theorem q2618 : (Jvm.Cond.selects "VaultyardModel" ({ cls := "VaultyardModel", name := "light", desc := "(I)I" } : Jvm.MethodName) ({ cls := "VaultyardModel", name := "light", desc := "(I)I" } : Jvm.MethodName)) ∈ lw_all := lw_g (lw_at lw_m11 128 rfl) rfl
theorem q2619 : (Jvm.Cond.code ({ cls := "VaultyardModel", name := "light", desc := "(I)I" } : Jvm.MethodName) prog_17_method_33_code (2 : Nat) (Option.some Jvm.ClassFile.FieldType.int)) ∈ lw_all := lw_g (lw_at lw_m11 129 rfl) rfl
theorem q2621 : (Jvm.Cond.instanceMethod ({ cls := "VaultyardModel", name := "damage", desc := "(I)I" } : Jvm.MethodName)) ∈ lw_all := lw_g (lw_at lw_m11 131 rfl) rfl
theorem q2622 : (Jvm.Cond.selects "VaultyardModel" ({ cls := "VaultyardModel", name := "damage", desc := "(I)I" } : Jvm.MethodName) ({ cls := "VaultyardModel", name := "damage", desc := "(I)I" } : Jvm.MethodName)) ∈ lw_all := lw_g (lw_at lw_m11 132 rfl) rfl
theorem q2623 : (Jvm.Cond.code ({ cls := "VaultyardModel", name := "damage", desc := "(I)I" } : Jvm.MethodName) prog_17_method_34_code (2 : Nat) (Option.some Jvm.ClassFile.FieldType.int)) ∈ lw_all := lw_g (lw_at lw_m11 133 rfl) rfl
theorem q2625 : (Jvm.Cond.instanceMethod ({ cls := "VaultyardModel", name := "journal", desc := "(I)I" } : Jvm.MethodName)) ∈ lw_all := lw_g (lw_at lw_m11 135 rfl) rfl
theorem q2626 : (Jvm.Cond.selects "VaultyardModel" ({ cls := "VaultyardModel", name := "journal", desc := "(I)I" } : Jvm.MethodName) ({ cls := "VaultyardModel", name := "journal", desc := "(I)I" } : Jvm.MethodName)) ∈ lw_all := lw_g (lw_at lw_m11 136 rfl) rfl
theorem q2627 : (Jvm.Cond.code ({ cls := "VaultyardModel", name := "journal", desc := "(I)I" } : Jvm.MethodName) prog_17_method_35_code (2 : Nat) (Option.some Jvm.ClassFile.FieldType.int)) ∈ lw_all := lw_g (lw_at lw_m11 137 rfl) rfl
theorem q2629 : (Jvm.Cond.instanceMethod ({ cls := "VaultyardModel", name := "entry", desc := "(IIC)I" } : Jvm.MethodName)) ∈ lw_all := lw_g (lw_at lw_m11 139 rfl) rfl
theorem q2630 : (Jvm.Cond.selects "VaultyardModel" ({ cls := "VaultyardModel", name := "entry", desc := "(IIC)I" } : Jvm.MethodName) ({ cls := "VaultyardModel", name := "entry", desc := "(IIC)I" } : Jvm.MethodName)) ∈ lw_all := lw_g (lw_at lw_m11 140 rfl) rfl
theorem q2631 : (Jvm.Cond.code ({ cls := "VaultyardModel", name := "entry", desc := "(IIC)I" } : Jvm.MethodName) prog_17_method_36_code (5 : Nat) (Option.some Jvm.ClassFile.FieldType.int)) ∈ lw_all := lw_g (lw_at lw_m11 141 rfl) rfl
theorem q2632 : (Jvm.Cond.stringRef "VaultyardModel" (241 : Nat) "dla") ∈ lw_tbl := lw_at lw_m11 142 rfl
theorem q2633 : (Jvm.Cond.methodLink "VaultyardModel" (243 : Nat) ({ cls := "java/lang/String", name := "indexOf", desc := "(I)I" } : Jvm.MethodName)) ∈ lw_all := lw_g (lw_at lw_m11 143 rfl) rfl
theorem q2682 : (Jvm.Cond.instanceMethod ({ cls := "VaultyardModel", name := "visitors", desc := "(II)I" } : Jvm.MethodName)) ∈ lw_all := lw_g (lw_at lw_m11 192 rfl) rfl
theorem q2683 : (Jvm.Cond.selects "VaultyardModel" ({ cls := "VaultyardModel", name := "visitors", desc := "(II)I" } : Jvm.MethodName) ({ cls := "VaultyardModel", name := "visitors", desc := "(II)I" } : Jvm.MethodName)) ∈ lw_all := lw_g (lw_at lw_m11 193 rfl) rfl
theorem q2684 : (Jvm.Cond.code ({ cls := "VaultyardModel", name := "visitors", desc := "(II)I" } : Jvm.MethodName) prog_17_method_37_code (8 : Nat) (Option.some Jvm.ClassFile.FieldType.int)) ∈ lw_all := lw_g (lw_at lw_m11 194 rfl) rfl
theorem q2685 : (Jvm.Cond.constantLong "VaultyardModel" (248 : Nat) (999 : Int64)) ∈ lw_all := lw_g (lw_at lw_m11 195 rfl) rfl
theorem q2686 : (Jvm.Cond.methodLink "VaultyardModel" (253 : Nat) ({ cls := "VaultyardModel", name := "isIn", desc := "(LVaultyardModel$Thing;CI)Z" } : Jvm.MethodName)) ∈ lw_all := lw_g (lw_at lw_m11 196 rfl) rfl
theorem q2687 : (Jvm.Cond.privateMethod ({ cls := "VaultyardModel", name := "isIn", desc := "(LVaultyardModel$Thing;CI)Z" } : Jvm.MethodName)) ∈ lw_tbl := lw_at lw_m11 197 rfl
theorem q2688 : (Jvm.Cond.instanceMethod ({ cls := "VaultyardModel", name := "isIn", desc := "(LVaultyardModel$Thing;CI)Z" } : Jvm.MethodName)) ∈ lw_all := lw_g (lw_at lw_m11 198 rfl) rfl
theorem q2689 : (Jvm.Cond.code ({ cls := "VaultyardModel", name := "isIn", desc := "(LVaultyardModel$Thing;CI)Z" } : Jvm.MethodName) prog_17_method_9_code (4 : Nat) (Option.some Jvm.ClassFile.FieldType.boolean)) ∈ lw_all := lw_g (lw_at lw_m11 199 rfl) rfl
theorem q2691 : (Jvm.Cond.instanceMethod ({ cls := "VaultyardModel", name := "crowd", desc := "(II)I" } : Jvm.MethodName)) ∈ lw_all := lw_g (lw_at lw_m11 201 rfl) rfl
theorem q2692 : (Jvm.Cond.selects "VaultyardModel" ({ cls := "VaultyardModel", name := "crowd", desc := "(II)I" } : Jvm.MethodName) ({ cls := "VaultyardModel", name := "crowd", desc := "(II)I" } : Jvm.MethodName)) ∈ lw_all := lw_g (lw_at lw_m11 202 rfl) rfl
theorem q2693 : (Jvm.Cond.code ({ cls := "VaultyardModel", name := "crowd", desc := "(II)I" } : Jvm.MethodName) prog_17_method_38_code (4 : Nat) (Option.some Jvm.ClassFile.FieldType.int)) ∈ lw_all := lw_g (lw_at lw_m11 203 rfl) rfl
theorem q2695 : (Jvm.Cond.instanceMethod ({ cls := "VaultyardModel", name := "alarms", desc := "(I)I" } : Jvm.MethodName)) ∈ lw_all := lw_g (lw_at lw_m11 205 rfl) rfl
theorem q2696 : (Jvm.Cond.selects "VaultyardModel" ({ cls := "VaultyardModel", name := "alarms", desc := "(I)I" } : Jvm.MethodName) ({ cls := "VaultyardModel", name := "alarms", desc := "(I)I" } : Jvm.MethodName)) ∈ lw_all := lw_g (lw_at lw_m11 206 rfl) rfl
theorem q2697 : (Jvm.Cond.code ({ cls := "VaultyardModel", name := "alarms", desc := "(I)I" } : Jvm.MethodName) prog_17_method_39_code (2 : Nat) (Option.some Jvm.ClassFile.FieldType.int)) ∈ lw_all := lw_g (lw_at lw_m11 207 rfl) rfl
theorem q2699 : (Jvm.Cond.instanceMethod ({ cls := "VaultyardModel", name := "encase", desc := "(IZ)Z" } : Jvm.MethodName)) ∈ lw_all := lw_g (lw_at lw_m11 209 rfl) rfl
theorem q2700 : (Jvm.Cond.selects "VaultyardModel" ({ cls := "VaultyardModel", name := "encase", desc := "(IZ)Z" } : Jvm.MethodName) ({ cls := "VaultyardModel", name := "encase", desc := "(IZ)Z" } : Jvm.MethodName)) ∈ lw_all := lw_g (lw_at lw_m11 210 rfl) rfl
theorem q2701 : (Jvm.Cond.code ({ cls := "VaultyardModel", name := "encase", desc := "(IZ)Z" } : Jvm.MethodName) prog_17_method_40_code (5 : Nat) (Option.some Jvm.ClassFile.FieldType.boolean)) ∈ lw_all := lw_g (lw_at lw_m11 211 rfl) rfl
theorem q2703 : (Jvm.Cond.instanceMethod ({ cls := "VaultyardModel", name := "lend", desc := "(III)I" } : Jvm.MethodName)) ∈ lw_all := lw_g (lw_at lw_m11 213 rfl) rfl
theorem q2704 : (Jvm.Cond.selects "VaultyardModel" ({ cls := "VaultyardModel", name := "lend", desc := "(III)I" } : Jvm.MethodName) ({ cls := "VaultyardModel", name := "lend", desc := "(III)I" } : Jvm.MethodName)) ∈ lw_all := lw_g (lw_at lw_m11 214 rfl) rfl
theorem q2705 : (Jvm.Cond.code ({ cls := "VaultyardModel", name := "lend", desc := "(III)I" } : Jvm.MethodName) prog_17_method_45_code (7 : Nat) (Option.some Jvm.ClassFile.FieldType.int)) ∈ lw_all := lw_g (lw_at lw_m11 215 rfl) rfl
theorem q2706 : (Jvm.Cond.methodLink "VaultyardModel" (275 : Nat) ({ cls := "VaultyardModel", name := "freeCouriers", desc := "()I" } : Jvm.MethodName)) ∈ lw_all := lw_g (lw_at lw_m11 216 rfl) rfl
theorem q2707 : (Jvm.Cond.privateMethod ({ cls := "VaultyardModel", name := "freeCouriers", desc := "()I" } : Jvm.MethodName)) ∈ lw_tbl := lw_at lw_m11 217 rfl
theorem q2708 : (Jvm.Cond.instanceMethod ({ cls := "VaultyardModel", name := "freeCouriers", desc := "()I" } : Jvm.MethodName)) ∈ lw_all := lw_g (lw_at lw_m11 218 rfl) rfl
theorem q2709 : (Jvm.Cond.code ({ cls := "VaultyardModel", name := "freeCouriers", desc := "()I" } : Jvm.MethodName) prog_17_method_44_code (4 : Nat) (Option.some Jvm.ClassFile.FieldType.int)) ∈ lw_all := lw_g (lw_at lw_m11 219 rfl) rfl
theorem q2710 : (Jvm.Cond.classLink "VaultyardModel" (195 : Nat) "java/lang/Integer") ∈ lw_all := lw_g (lw_at lw_m11 220 rfl) rfl
theorem q2711 : (Jvm.Cond.methodLink "VaultyardModel" (272 : Nat) ({ cls := "java/lang/Integer", name := "intValue", desc := "()I" } : Jvm.MethodName)) ∈ lw_all := lw_g (lw_at lw_m11 221 rfl) rfl
theorem q2712 : (Jvm.Cond.methodLink "VaultyardModel" (278 : Nat) ({ cls := "VaultyardModel", name := "premiumOf", desc := "(II)I" } : Jvm.MethodName)) ∈ lw_all := lw_g (lw_at lw_m11 222 rfl) rfl
theorem q2713 : (Jvm.Cond.privateMethod ({ cls := "VaultyardModel", name := "premiumOf", desc := "(II)I" } : Jvm.MethodName)) ∈ lw_tbl := lw_at lw_m11 223 rfl
theorem q2714 : (Jvm.Cond.instanceMethod ({ cls := "VaultyardModel", name := "premiumOf", desc := "(II)I" } : Jvm.MethodName)) ∈ lw_all := lw_g (lw_at lw_m11 224 rfl) rfl
theorem q2715 : (Jvm.Cond.code ({ cls := "VaultyardModel", name := "premiumOf", desc := "(II)I" } : Jvm.MethodName) prog_17_method_42_code (3 : Nat) (Option.some Jvm.ClassFile.FieldType.int)) ∈ lw_all := lw_g (lw_at lw_m11 225 rfl) rfl
theorem q2716 : (Jvm.Cond.methodLink "VaultyardModel" (267 : Nat) ({ cls := "VaultyardModel", name := "worth", desc := "(I)I" } : Jvm.MethodName)) ∈ lw_all := lw_g (lw_at lw_m11 226 rfl) rfl
theorem q2717 : (Jvm.Cond.privateMethod ({ cls := "VaultyardModel", name := "worth", desc := "(I)I" } : Jvm.MethodName)) ∈ lw_tbl := lw_at lw_m11 227 rfl
theorem q2718 : (Jvm.Cond.instanceMethod ({ cls := "VaultyardModel", name := "worth", desc := "(I)I" } : Jvm.MethodName)) ∈ lw_all := lw_g (lw_at lw_m11 228 rfl) rfl
theorem q2719 : (Jvm.Cond.code ({ cls := "VaultyardModel", name := "worth", desc := "(I)I" } : Jvm.MethodName) prog_17_method_41_code (5 : Nat) (Option.some Jvm.ClassFile.FieldType.int)) ∈ lw_all := lw_g (lw_at lw_m11 229 rfl) rfl
theorem q2720 : (Jvm.Cond.constantLong "VaultyardModel" (270 : Nat) (1000 : Int64)) ∈ lw_all := lw_g (lw_at lw_m11 230 rfl) rfl
theorem q2721 : (Jvm.Cond.methodLink "VaultyardModel" (281 : Nat) ({ cls := "VaultyardModel", name := "payer", desc := "(II)I" } : Jvm.MethodName)) ∈ lw_all := lw_g (lw_at lw_m11 231 rfl) rfl
theorem q2722 : (Jvm.Cond.privateMethod ({ cls := "VaultyardModel", name := "payer", desc := "(II)I" } : Jvm.MethodName)) ∈ lw_tbl := lw_at lw_m11 232 rfl
theorem q2723 : (Jvm.Cond.instanceMethod ({ cls := "VaultyardModel", name := "payer", desc := "(II)I" } : Jvm.MethodName)) ∈ lw_all := lw_g (lw_at lw_m11 233 rfl) rfl
theorem q2724 : (Jvm.Cond.code ({ cls := "VaultyardModel", name := "payer", desc := "(II)I" } : Jvm.MethodName) prog_17_method_43_code (9 : Nat) (Option.some Jvm.ClassFile.FieldType.int)) ∈ lw_all := lw_g (lw_at lw_m11 234 rfl) rfl
theorem q2725 : (Jvm.Cond.methodLink "VaultyardModel" (284 : Nat) ({ cls := "java/lang/Integer", name := "valueOf", desc := "(I)Ljava/lang/Integer;" } : Jvm.MethodName)) ∈ lw_all := lw_g (lw_at lw_m11 235 rfl) rfl
theorem q2726 : (Jvm.Cond.classLink "VaultyardModel" (288 : Nat) "VaultyardModel$Loan") ∈ lw_all := lw_g (lw_at lw_m11 236 rfl) rfl
theorem q2728 : (Jvm.Cond.methodLink "VaultyardModel" (290 : Nat) ({ cls := "VaultyardModel$Loan", name := "<init>", desc := "(III)V" } : Jvm.MethodName)) ∈ lw_all := lw_g (lw_at lw_m11 238 rfl) rfl
theorem q2733 : (Jvm.Cond.fieldLinkNest "VaultyardModel" (297 : Nat) "VaultyardModel$Loan" "thing" "I" "VaultyardModel") ∈ lw_tbl := lw_at lw_m12 3 rfl
theorem q2735 : (Jvm.Cond.fieldLinkNest "VaultyardModel" (294 : Nat) "VaultyardModel$Loan" "last" "I" "VaultyardModel") ∈ lw_tbl := lw_at lw_m12 5 rfl
theorem q2737 : (Jvm.Cond.fieldLinkNest "VaultyardModel" (300 : Nat) "VaultyardModel$Loan" "fund" "I" "VaultyardModel") ∈ lw_tbl := lw_at lw_m12 7 rfl
theorem q2738 : (Jvm.Cond.fieldLinkNest "VaultyardModel" (291 : Nat) "VaultyardModel$Loan" "isBack" "Z" "VaultyardModel") ∈ lw_tbl := lw_at lw_m12 8 rfl
theorem q2749 : (Jvm.Cond.instanceMethod ({ cls := "VaultyardModel", name := "premium", desc := "(II)I" } : Jvm.MethodName)) ∈ lw_all := lw_g (lw_at lw_m12 19 rfl) rfl
theorem q2750 : (Jvm.Cond.selects "VaultyardModel" ({ cls := "VaultyardModel", name := "premium", desc := "(II)I" } : Jvm.MethodName) ({ cls := "VaultyardModel", name := "premium", desc := "(II)I" } : Jvm.MethodName)) ∈ lw_all := lw_g (lw_at lw_m12 20 rfl) rfl
theorem q2751 : (Jvm.Cond.code ({ cls := "VaultyardModel", name := "premium", desc := "(II)I" } : Jvm.MethodName) prog_17_method_46_code (3 : Nat) (Option.some Jvm.ClassFile.FieldType.int)) ∈ lw_all := lw_g (lw_at lw_m12 21 rfl) rfl
theorem q2753 : (Jvm.Cond.instanceMethod ({ cls := "VaultyardModel", name := "isLate", desc := "(I)Z" } : Jvm.MethodName)) ∈ lw_all := lw_g (lw_at lw_m12 23 rfl) rfl
theorem q2754 : (Jvm.Cond.selects "VaultyardModel" ({ cls := "VaultyardModel", name := "isLate", desc := "(I)Z" } : Jvm.MethodName) ({ cls := "VaultyardModel", name := "isLate", desc := "(I)Z" } : Jvm.MethodName)) ∈ lw_all := lw_g (lw_at lw_m12 24 rfl) rfl
theorem q2755 : (Jvm.Cond.code ({ cls := "VaultyardModel", name := "isLate", desc := "(I)Z" } : Jvm.MethodName) prog_17_method_47_code (2 : Nat) (Option.some Jvm.ClassFile.FieldType.boolean)) ∈ lw_all := lw_g (lw_at lw_m12 25 rfl) rfl
theorem q2757 : (Jvm.Cond.instanceMethod ({ cls := "VaultyardModel", name := "back", desc := "(III)I" } : Jvm.MethodName)) ∈ lw_all := lw_g (lw_at lw_m12 27 rfl) rfl
theorem q2758 : (Jvm.Cond.selects "VaultyardModel" ({ cls := "VaultyardModel", name := "back", desc := "(III)I" } : Jvm.MethodName) ({ cls := "VaultyardModel", name := "back", desc := "(III)I" } : Jvm.MethodName)) ∈ lw_all := lw_g (lw_at lw_m12 28 rfl) rfl
theorem q2759 : (Jvm.Cond.code ({ cls := "VaultyardModel", name := "back", desc := "(III)I" } : Jvm.MethodName) prog_17_method_48_code (8 : Nat) (Option.some Jvm.ClassFile.FieldType.int)) ∈ lw_all := lw_g (lw_at lw_m12 29 rfl) rfl
theorem q2761 : (Jvm.Cond.instanceMethod ({ cls := "VaultyardModel", name := "owner", desc := "(IIIIC)I" } : Jvm.MethodName)) ∈ lw_all := lw_g (lw_at lw_m12 31 rfl) rfl
theorem q2762 : (Jvm.Cond.selects "VaultyardModel" ({ cls := "VaultyardModel", name := "owner", desc := "(IIIIC)I" } : Jvm.MethodName) ({ cls := "VaultyardModel", name := "owner", desc := "(IIIIC)I" } : Jvm.MethodName)) ∈ lw_all := lw_g (lw_at lw_m12 32 rfl) rfl
theorem q2763 : (Jvm.Cond.code ({ cls := "VaultyardModel", name := "owner", desc := "(IIIIC)I" } : Jvm.MethodName) prog_17_method_49_code (9 : Nat) (Option.some Jvm.ClassFile.FieldType.int)) ∈ lw_all := lw_g (lw_at lw_m12 33 rfl) rfl
theorem q2764 : (Jvm.Cond.stringRef "VaultyardModel" (306 : Nat) "bgitf") ∈ lw_tbl := lw_at lw_m12 34 rfl
theorem q2765 : (Jvm.Cond.constantLong "VaultyardModel" (308 : Nat) (99 : Int64)) ∈ lw_all := lw_g (lw_at lw_m12 35 rfl) rfl
theorem q2766 : (Jvm.Cond.constantLong "VaultyardModel" (310 : Nat) (1500 : Int64)) ∈ lw_all := lw_g (lw_at lw_m12 36 rfl) rfl
theorem q2767 : (Jvm.Cond.constantLong "VaultyardModel" (312 : Nat) (2200 : Int64)) ∈ lw_all := lw_g (lw_at lw_m12 37 rfl) rfl
theorem q2768 : (Jvm.Cond.methodLink "VaultyardModel" (314 : Nat) ({ cls := "java/util/ArrayList", name := "isEmpty", desc := "()Z" } : Jvm.MethodName)) ∈ lw_all := lw_g (lw_at lw_m12 38 rfl) rfl
theorem q2769 : (Jvm.Cond.classLink "VaultyardModel" (317 : Nat) "VaultyardModel$Owner") ∈ lw_all := lw_g (lw_at lw_m12 39 rfl) rfl
theorem q2771 : (Jvm.Cond.methodLink "VaultyardModel" (322 : Nat) ({ cls := "VaultyardModel$Owner", name := "<init>", desc := "(IIIC)V" } : Jvm.MethodName)) ∈ lw_all := lw_g (lw_at lw_m12 41 rfl) rfl
theorem q2776 : (Jvm.Cond.fieldLinkNest "VaultyardModel" (333 : Nat) "VaultyardModel$Owner" "owner" "I" "VaultyardModel") ∈ lw_tbl := lw_at lw_m12 46 rfl
theorem q2778 : (Jvm.Cond.fieldLinkNest "VaultyardModel" (325 : Nat) "VaultyardModel$Owner" "from" "I" "VaultyardModel") ∈ lw_tbl := lw_at lw_m12 48 rfl
theorem q2780 : (Jvm.Cond.fieldLinkNest "VaultyardModel" (319 : Nat) "VaultyardModel$Owner" "to" "I" "VaultyardModel") ∈ lw_tbl := lw_at lw_m12 50 rfl
theorem q2782 : (Jvm.Cond.fieldLinkNest "VaultyardModel" (330 : Nat) "VaultyardModel$Owner" "way" "C" "VaultyardModel") ∈ lw_tbl := lw_at lw_m12 52 rfl
theorem q2793 : (Jvm.Cond.instanceMethod ({ cls := "VaultyardModel", name := "gaps", desc := "(I)I" } : Jvm.MethodName)) ∈ lw_all := lw_g (lw_at lw_m12 63 rfl) rfl
theorem q2794 : (Jvm.Cond.selects "VaultyardModel" ({ cls := "VaultyardModel", name := "gaps", desc := "(I)I" } : Jvm.MethodName) ({ cls := "VaultyardModel", name := "gaps", desc := "(I)I" } : Jvm.MethodName)) ∈ lw_all := lw_g (lw_at lw_m12 64 rfl) rfl
theorem q2795 : (Jvm.Cond.code ({ cls := "VaultyardModel", name := "gaps", desc := "(I)I" } : Jvm.MethodName) prog_17_method_50_code (5 : Nat) (Option.some Jvm.ClassFile.FieldType.int)) ∈ lw_all := lw_g (lw_at lw_m12 65 rfl) rfl
theorem q2797 : (Jvm.Cond.instanceMethod ({ cls := "VaultyardModel", name := "law", desc := "(II)I" } : Jvm.MethodName)) ∈ lw_all := lw_g (lw_at lw_m12 67 rfl) rfl
theorem q2798 : (Jvm.Cond.selects "VaultyardModel" ({ cls := "VaultyardModel", name := "law", desc := "(II)I" } : Jvm.MethodName) ({ cls := "VaultyardModel", name := "law", desc := "(II)I" } : Jvm.MethodName)) ∈ lw_all := lw_g (lw_at lw_m12 68 rfl) rfl
theorem q2799 : (Jvm.Cond.code ({ cls := "VaultyardModel", name := "law", desc := "(II)I" } : Jvm.MethodName) prog_17_method_51_code (4 : Nat) (Option.some Jvm.ClassFile.FieldType.int)) ∈ lw_all := lw_g (lw_at lw_m12 69 rfl) rfl
theorem q2800 : (Jvm.Cond.constantLong "VaultyardModel" (328 : Nat) (300 : Int64)) ∈ lw_all := lw_g (lw_at lw_m12 70 rfl) rfl
theorem q2802 : (Jvm.Cond.instanceMethod ({ cls := "VaultyardModel", name := "claimant", desc := "(II)I" } : Jvm.MethodName)) ∈ lw_all := lw_g (lw_at lw_m12 72 rfl) rfl
theorem q2803 : (Jvm.Cond.selects "VaultyardModel" ({ cls := "VaultyardModel", name := "claimant", desc := "(II)I" } : Jvm.MethodName) ({ cls := "VaultyardModel", name := "claimant", desc := "(II)I" } : Jvm.MethodName)) ∈ lw_all := lw_g (lw_at lw_m12 73 rfl) rfl
theorem q2804 : (Jvm.Cond.code ({ cls := "VaultyardModel", name := "claimant", desc := "(II)I" } : Jvm.MethodName) prog_17_method_53_code (4 : Nat) (Option.some Jvm.ClassFile.FieldType.int)) ∈ lw_all := lw_g (lw_at lw_m12 74 rfl) rfl
theorem q2805 : (Jvm.Cond.methodLink "VaultyardModel" (336 : Nat) ({ cls := "VaultyardModel", name := "claimantOf", desc := "(LVaultyardModel$Thing;I)I" } : Jvm.MethodName)) ∈ lw_all := lw_g (lw_at lw_m12 75 rfl) rfl
theorem q2806 : (Jvm.Cond.privateMethod ({ cls := "VaultyardModel", name := "claimantOf", desc := "(LVaultyardModel$Thing;I)I" } : Jvm.MethodName)) ∈ lw_tbl := lw_at lw_m12 76 rfl
theorem q2807 : (Jvm.Cond.instanceMethod ({ cls := "VaultyardModel", name := "claimantOf", desc := "(LVaultyardModel$Thing;I)I" } : Jvm.MethodName)) ∈ lw_all := lw_g (lw_at lw_m12 77 rfl) rfl
theorem q2808 : (Jvm.Cond.code ({ cls := "VaultyardModel", name := "claimantOf", desc := "(LVaultyardModel$Thing;I)I" } : Jvm.MethodName) prog_17_method_52_code (6 : Nat) (Option.some Jvm.ClassFile.FieldType.int)) ∈ lw_all := lw_g (lw_at lw_m12 78 rfl) rfl
theorem q2810 : (Jvm.Cond.instanceMethod ({ cls := "VaultyardModel", name := "method", desc := "(IIII)I" } : Jvm.MethodName)) ∈ lw_all := lw_g (lw_at lw_m12 80 rfl) rfl
theorem q2811 : (Jvm.Cond.selects "VaultyardModel" ({ cls := "VaultyardModel", name := "method", desc := "(IIII)I" } : Jvm.MethodName) ({ cls := "VaultyardModel", name := "method", desc := "(IIII)I" } : Jvm.MethodName)) ∈ lw_all := lw_g (lw_at lw_m12 81 rfl) rfl
theorem q2812 : (Jvm.Cond.code ({ cls := "VaultyardModel", name := "method", desc := "(IIII)I" } : Jvm.MethodName) prog_17_method_54_code (6 : Nat) (Option.some Jvm.ClassFile.FieldType.int)) ∈ lw_all := lw_g (lw_at lw_m12 82 rfl) rfl
theorem q2813 : (Jvm.Cond.constantLong "VaultyardModel" (339 : Nat) (60 : Int64)) ∈ lw_all := lw_g (lw_at lw_m12 83 rfl) rfl
theorem q2814 : (Jvm.Cond.constantLong "VaultyardModel" (341 : Nat) (255 : Int64)) ∈ lw_all := lw_g (lw_at lw_m12 84 rfl) rfl
theorem q2816 : (Jvm.Cond.instanceMethod ({ cls := "VaultyardModel", name := "treat", desc := "(II)I" } : Jvm.MethodName)) ∈ lw_all := lw_g (lw_at lw_m12 86 rfl) rfl
theorem q2817 : (Jvm.Cond.selects "VaultyardModel" ({ cls := "VaultyardModel", name := "treat", desc := "(II)I" } : Jvm.MethodName) ({ cls := "VaultyardModel", name := "treat", desc := "(II)I" } : Jvm.MethodName)) ∈ lw_all := lw_g (lw_at lw_m12 87 rfl) rfl
theorem q2818 : (Jvm.Cond.code ({ cls := "VaultyardModel", name := "treat", desc := "(II)I" } : Jvm.MethodName) prog_17_method_55_code (7 : Nat) (Option.some Jvm.ClassFile.FieldType.int)) ∈ lw_all := lw_g (lw_at lw_m12 88 rfl) rfl
theorem q2820 : (Jvm.Cond.instanceMethod ({ cls := "VaultyardModel", name := "kept", desc := "(I)I" } : Jvm.MethodName)) ∈ lw_all := lw_g (lw_at lw_m12 90 rfl) rfl
theorem q2821 : (Jvm.Cond.selects "VaultyardModel" ({ cls := "VaultyardModel", name := "kept", desc := "(I)I" } : Jvm.MethodName) ({ cls := "VaultyardModel", name := "kept", desc := "(I)I" } : Jvm.MethodName)) ∈ lw_all := lw_g (lw_at lw_m12 91 rfl) rfl
theorem q2822 : (Jvm.Cond.code ({ cls := "VaultyardModel", name := "kept", desc := "(I)I" } : Jvm.MethodName) prog_17_method_56_code (2 : Nat) (Option.some Jvm.ClassFile.FieldType.int)) ∈ lw_all := lw_g (lw_at lw_m12 92 rfl) rfl
theorem q2824 : (Jvm.Cond.instanceMethod ({ cls := "VaultyardModel", name := "box", desc := "(I)I" } : Jvm.MethodName)) ∈ lw_all := lw_g (lw_at lw_m12 94 rfl) rfl
theorem q2825 : (Jvm.Cond.selects "VaultyardModel" ({ cls := "VaultyardModel", name := "box", desc := "(I)I" } : Jvm.MethodName) ({ cls := "VaultyardModel", name := "box", desc := "(I)I" } : Jvm.MethodName)) ∈ lw_all := lw_g (lw_at lw_m12 95 rfl) rfl
theorem q2826 : (Jvm.Cond.code ({ cls := "VaultyardModel", name := "box", desc := "(I)I" } : Jvm.MethodName) prog_17_method_57_code (2 : Nat) (Option.some Jvm.ClassFile.FieldType.int)) ∈ lw_all := lw_g (lw_at lw_m12 96 rfl) rfl
theorem q2828 : (Jvm.Cond.instanceMethod ({ cls := "VaultyardModel", name := "pack", desc := "(II)I" } : Jvm.MethodName)) ∈ lw_all := lw_g (lw_at lw_m12 98 rfl) rfl
theorem q2829 : (Jvm.Cond.selects "VaultyardModel" ({ cls := "VaultyardModel", name := "pack", desc := "(II)I" } : Jvm.MethodName) ({ cls := "VaultyardModel", name := "pack", desc := "(II)I" } : Jvm.MethodName)) ∈ lw_all := lw_g (lw_at lw_m12 99 rfl) rfl
theorem q2830 : (Jvm.Cond.code ({ cls := "VaultyardModel", name := "pack", desc := "(II)I" } : Jvm.MethodName) prog_17_method_58_code (5 : Nat) (Option.some Jvm.ClassFile.FieldType.int)) ∈ lw_all := lw_g (lw_at lw_m12 100 rfl) rfl
theorem q2832 : (Jvm.Cond.instanceMethod ({ cls := "VaultyardModel", name := "pests", desc := "(I)I" } : Jvm.MethodName)) ∈ lw_all := lw_g (lw_at lw_m12 102 rfl) rfl
theorem q2833 : (Jvm.Cond.selects "VaultyardModel" ({ cls := "VaultyardModel", name := "pests", desc := "(I)I" } : Jvm.MethodName) ({ cls := "VaultyardModel", name := "pests", desc := "(I)I" } : Jvm.MethodName)) ∈ lw_all := lw_g (lw_at lw_m12 103 rfl) rfl
theorem q2834 : (Jvm.Cond.code ({ cls := "VaultyardModel", name := "pests", desc := "(I)I" } : Jvm.MethodName) prog_17_method_59_code (2 : Nat) (Option.some Jvm.ClassFile.FieldType.int)) ∈ lw_all := lw_g (lw_at lw_m12 104 rfl) rfl
theorem q2836 : (Jvm.Cond.instanceMethod ({ cls := "VaultyardModel", name := "boxes", desc := "(II)I" } : Jvm.MethodName)) ∈ lw_all := lw_g (lw_at lw_m12 106 rfl) rfl
theorem q2837 : (Jvm.Cond.selects "VaultyardModel" ({ cls := "VaultyardModel", name := "boxes", desc := "(II)I" } : Jvm.MethodName) ({ cls := "VaultyardModel", name := "boxes", desc := "(II)I" } : Jvm.MethodName)) ∈ lw_all := lw_g (lw_at lw_m12 107 rfl) rfl
theorem q2838 : (Jvm.Cond.code ({ cls := "VaultyardModel", name := "boxes", desc := "(II)I" } : Jvm.MethodName) prog_17_method_61_code (11 : Nat) (Option.some Jvm.ClassFile.FieldType.int)) ∈ lw_all := lw_g (lw_at lw_m12 108 rfl) rfl
theorem q2839 : (Jvm.Cond.methodLink "VaultyardModel" (346 : Nat) ({ cls := "VaultyardModel", name := "areWholes", desc := "(I)Z" } : Jvm.MethodName)) ∈ lw_all := lw_g (lw_at lw_m12 109 rfl) rfl
theorem q2840 : (Jvm.Cond.privateMethod ({ cls := "VaultyardModel", name := "areWholes", desc := "(I)Z" } : Jvm.MethodName)) ∈ lw_tbl := lw_at lw_m12 110 rfl
theorem q2841 : (Jvm.Cond.instanceMethod ({ cls := "VaultyardModel", name := "areWholes", desc := "(I)Z" } : Jvm.MethodName)) ∈ lw_all := lw_g (lw_at lw_m12 111 rfl) rfl
theorem q2842 : (Jvm.Cond.code ({ cls := "VaultyardModel", name := "areWholes", desc := "(I)Z" } : Jvm.MethodName) prog_17_method_60_code (4 : Nat) (Option.some Jvm.ClassFile.FieldType.boolean)) ∈ lw_all := lw_g (lw_at lw_m12 112 rfl) rfl
theorem q2843 : (Jvm.Cond.constant "VaultyardModel" (349 : Nat) (2147483647 : Int32)) ∈ lw_all := lw_g (lw_at lw_m12 113 rfl) rfl
theorem q2845 : (Jvm.Cond.instanceMethod ({ cls := "VaultyardModel", name := "miss", desc := "(I)I" } : Jvm.MethodName)) ∈ lw_all := lw_g (lw_at lw_m12 115 rfl) rfl
theorem q2846 : (Jvm.Cond.selects "VaultyardModel" ({ cls := "VaultyardModel", name := "miss", desc := "(I)I" } : Jvm.MethodName) ({ cls := "VaultyardModel", name := "miss", desc := "(I)I" } : Jvm.MethodName)) ∈ lw_all := lw_g (lw_at lw_m12 116 rfl) rfl
theorem q2847 : (Jvm.Cond.code ({ cls := "VaultyardModel", name := "miss", desc := "(I)I" } : Jvm.MethodName) prog_17_method_63_code (3 : Nat) (Option.some Jvm.ClassFile.FieldType.int)) ∈ lw_all := lw_g (lw_at lw_m12 117 rfl) rfl
theorem q2848 : (Jvm.Cond.methodLink "VaultyardModel" (350 : Nat) ({ cls := "VaultyardModel", name := "missing", desc := "()I" } : Jvm.MethodName)) ∈ lw_all := lw_g (lw_at lw_m12 118 rfl) rfl
theorem q2849 : (Jvm.Cond.privateMethod ({ cls := "VaultyardModel", name := "missing", desc := "()I" } : Jvm.MethodName)) ∈ lw_tbl := lw_at lw_m12 119 rfl
theorem q2850 : (Jvm.Cond.instanceMethod ({ cls := "VaultyardModel", name := "missing", desc := "()I" } : Jvm.MethodName)) ∈ lw_all := lw_g (lw_at lw_m12 120 rfl) rfl
theorem q2851 : (Jvm.Cond.code ({ cls := "VaultyardModel", name := "missing", desc := "()I" } : Jvm.MethodName) prog_17_method_62_code (4 : Nat) (Option.some Jvm.ClassFile.FieldType.int)) ∈ lw_all := lw_g (lw_at lw_m12 121 rfl) rfl
theorem q2853 : (Jvm.Cond.instanceMethod ({ cls := "VaultyardModel", name := "find", desc := "(II)I" } : Jvm.MethodName)) ∈ lw_all := lw_g (lw_at lw_m12 123 rfl) rfl
theorem q2854 : (Jvm.Cond.selects "VaultyardModel" ({ cls := "VaultyardModel", name := "find", desc := "(II)I" } : Jvm.MethodName) ({ cls := "VaultyardModel", name := "find", desc := "(II)I" } : Jvm.MethodName)) ∈ lw_all := lw_g (lw_at lw_m12 124 rfl) rfl
theorem q2855 : (Jvm.Cond.code ({ cls := "VaultyardModel", name := "find", desc := "(II)I" } : Jvm.MethodName) prog_17_method_64_code (4 : Nat) (Option.some Jvm.ClassFile.FieldType.int)) ∈ lw_all := lw_g (lw_at lw_m12 125 rfl) rfl
theorem q2857 : (Jvm.Cond.instanceMethod ({ cls := "VaultyardModel", name := "shown", desc := "(IIII)I" } : Jvm.MethodName)) ∈ lw_all := lw_g (lw_at lw_m12 127 rfl) rfl
theorem q2858 : (Jvm.Cond.selects "VaultyardModel" ({ cls := "VaultyardModel", name := "shown", desc := "(IIII)I" } : Jvm.MethodName) ({ cls := "VaultyardModel", name := "shown", desc := "(IIII)I" } : Jvm.MethodName)) ∈ lw_all := lw_g (lw_at lw_m12 128 rfl) rfl
theorem q2859 : (Jvm.Cond.code ({ cls := "VaultyardModel", name := "shown", desc := "(IIII)I" } : Jvm.MethodName) prog_17_method_67_code (6 : Nat) (Option.some Jvm.ClassFile.FieldType.int)) ∈ lw_all := lw_g (lw_at lw_m12 129 rfl) rfl
theorem q2860 : (Jvm.Cond.methodLink "VaultyardModel" (355 : Nat) ({ cls := "VaultyardModel", name := "noPlan", desc := "(III)Z" } : Jvm.MethodName)) ∈ lw_all := lw_g (lw_at lw_m12 130 rfl) rfl
theorem q2861 : (Jvm.Cond.privateMethod ({ cls := "VaultyardModel", name := "noPlan", desc := "(III)Z" } : Jvm.MethodName)) ∈ lw_tbl := lw_at lw_m12 131 rfl
theorem q2862 : (Jvm.Cond.instanceMethod ({ cls := "VaultyardModel", name := "noPlan", desc := "(III)Z" } : Jvm.MethodName)) ∈ lw_all := lw_g (lw_at lw_m12 132 rfl) rfl
theorem q2863 : (Jvm.Cond.code ({ cls := "VaultyardModel", name := "noPlan", desc := "(III)Z" } : Jvm.MethodName) prog_17_method_66_code (4 : Nat) (Option.some Jvm.ClassFile.FieldType.boolean)) ∈ lw_all := lw_g (lw_at lw_m12 133 rfl) rfl
theorem q2864 : (Jvm.Cond.constantLong "VaultyardModel" (353 : Nat) (365 : Int64)) ∈ lw_all := lw_g (lw_at lw_m12 134 rfl) rfl
theorem q2865 : (Jvm.Cond.methodLink "VaultyardModel" (359 : Nat) ({ cls := "VaultyardModel", name := "plan", desc := "(III)[I" } : Jvm.MethodName)) ∈ lw_all := lw_g (lw_at lw_m12 135 rfl) rfl
theorem q2866 : (Jvm.Cond.privateMethod ({ cls := "VaultyardModel", name := "plan", desc := "(III)[I" } : Jvm.MethodName)) ∈ lw_tbl := lw_at lw_m12 136 rfl
theorem q2867 : (Jvm.Cond.instanceMethod ({ cls := "VaultyardModel", name := "plan", desc := "(III)[I" } : Jvm.MethodName)) ∈ lw_all := lw_g (lw_at lw_m12 137 rfl) rfl
theorem q2868 : (Jvm.Cond.code ({ cls := "VaultyardModel", name := "plan", desc := "(III)[I" } : Jvm.MethodName) prog_17_method_65_code (12 : Nat) (Option.some (Jvm.ClassFile.FieldType.array Jvm.ClassFile.FieldType.int))) ∈ lw_all := lw_g (lw_at lw_m12 138 rfl) rfl
theorem q2870 : (Jvm.Cond.instanceMethod ({ cls := "VaultyardModel", name := "planned", desc := "(III)I" } : Jvm.MethodName)) ∈ lw_all := lw_g (lw_at lw_m12 140 rfl) rfl
theorem q2871 : (Jvm.Cond.selects "VaultyardModel" ({ cls := "VaultyardModel", name := "planned", desc := "(III)I" } : Jvm.MethodName) ({ cls := "VaultyardModel", name := "planned", desc := "(III)I" } : Jvm.MethodName)) ∈ lw_all := lw_g (lw_at lw_m12 141 rfl) rfl
theorem q2872 : (Jvm.Cond.code ({ cls := "VaultyardModel", name := "planned", desc := "(III)I" } : Jvm.MethodName) prog_17_method_68_code (9 : Nat) (Option.some Jvm.ClassFile.FieldType.int)) ∈ lw_all := lw_g (lw_at lw_m12 142 rfl) rfl
theorem q2874 : (Jvm.Cond.instanceMethod ({ cls := "VaultyardModel", name := "prior", desc := "(III)I" } : Jvm.MethodName)) ∈ lw_all := lw_g (lw_at lw_m12 144 rfl) rfl
theorem q2875 : (Jvm.Cond.selects "VaultyardModel" ({ cls := "VaultyardModel", name := "prior", desc := "(III)I" } : Jvm.MethodName) ({ cls := "VaultyardModel", name := "prior", desc := "(III)I" } : Jvm.MethodName)) ∈ lw_all := lw_g (lw_at lw_m12 145 rfl) rfl
theorem q2876 : (Jvm.Cond.code ({ cls := "VaultyardModel", name := "prior", desc := "(III)I" } : Jvm.MethodName) prog_17_method_69_code (6 : Nat) (Option.some Jvm.ClassFile.FieldType.int)) ∈ lw_all := lw_g (lw_at lw_m12 146 rfl) rfl
theorem q2878 : (Jvm.Cond.instanceMethod ({ cls := "VaultyardModel", name := "test", desc := "(IIIZ)I" } : Jvm.MethodName)) ∈ lw_all := lw_g (lw_at lw_m12 148 rfl) rfl
theorem q2879 : (Jvm.Cond.selects "VaultyardModel" ({ cls := "VaultyardModel", name := "test", desc := "(IIIZ)I" } : Jvm.MethodName) ({ cls := "VaultyardModel", name := "test", desc := "(IIIZ)I" } : Jvm.MethodName)) ∈ lw_all := lw_g (lw_at lw_m12 149 rfl) rfl
theorem q2880 : (Jvm.Cond.code ({ cls := "VaultyardModel", name := "test", desc := "(IIIZ)I" } : Jvm.MethodName) prog_17_method_70_code (6 : Nat) (Option.some Jvm.ClassFile.FieldType.int)) ∈ lw_all := lw_g (lw_at lw_m12 150 rfl) rfl
theorem q2882 : (Jvm.Cond.instanceMethod ({ cls := "VaultyardModel", name := "oddsFor", desc := "(I)J" } : Jvm.MethodName)) ∈ lw_all := lw_g (lw_at lw_m12 152 rfl) rfl
theorem q2883 : (Jvm.Cond.selects "VaultyardModel" ({ cls := "VaultyardModel", name := "oddsFor", desc := "(I)J" } : Jvm.MethodName) ({ cls := "VaultyardModel", name := "oddsFor", desc := "(I)J" } : Jvm.MethodName)) ∈ lw_all := lw_g (lw_at lw_m12 153 rfl) rfl
theorem q2884 : (Jvm.Cond.code ({ cls := "VaultyardModel", name := "oddsFor", desc := "(I)J" } : Jvm.MethodName) prog_17_method_74_code (2 : Nat) (Option.some Jvm.ClassFile.FieldType.long)) ∈ lw_all := lw_g (lw_at lw_m12 154 rfl) rfl
theorem q2885 : (Jvm.Cond.methodLink "VaultyardModel" (383 : Nat) ({ cls := "VaultyardModel", name := "odds", desc := "(LVaultyardModel$Thing;Z)J" } : Jvm.MethodName)) ∈ lw_all := lw_g (lw_at lw_m12 155 rfl) rfl
theorem q2886 : (Jvm.Cond.static ({ cls := "VaultyardModel", name := "odds", desc := "(LVaultyardModel$Thing;Z)J" } : Jvm.MethodName)) ∈ lw_all := lw_g (lw_at lw_m12 156 rfl) rfl
theorem q2887 : (Jvm.Cond.code ({ cls := "VaultyardModel", name := "odds", desc := "(LVaultyardModel$Thing;Z)J" } : Jvm.MethodName) prog_17_method_72_code (6 : Nat) (Option.some Jvm.ClassFile.FieldType.long)) ∈ lw_all := lw_g (lw_at lw_m12 157 rfl) rfl
theorem q2888 : (Jvm.Cond.methodLink "VaultyardModel" (379 : Nat) ({ cls := "VaultyardModel", name := "common", desc := "(JJ)J" } : Jvm.MethodName)) ∈ lw_all := lw_g (lw_at lw_m12 158 rfl) rfl
theorem q2889 : (Jvm.Cond.static ({ cls := "VaultyardModel", name := "common", desc := "(JJ)J" } : Jvm.MethodName)) ∈ lw_all := lw_g (lw_at lw_m12 159 rfl) rfl
theorem q2890 : (Jvm.Cond.code ({ cls := "VaultyardModel", name := "common", desc := "(JJ)J" } : Jvm.MethodName) prog_17_method_71_code (10 : Nat) (Option.some Jvm.ClassFile.FieldType.long)) ∈ lw_all := lw_g (lw_at lw_m12 160 rfl) rfl
theorem q2892 : (Jvm.Cond.instanceMethod ({ cls := "VaultyardModel", name := "oddsAgainst", desc := "(I)J" } : Jvm.MethodName)) ∈ lw_all := lw_g (lw_at lw_m12 162 rfl) rfl
theorem q2893 : (Jvm.Cond.selects "VaultyardModel" ({ cls := "VaultyardModel", name := "oddsAgainst", desc := "(I)J" } : Jvm.MethodName) ({ cls := "VaultyardModel", name := "oddsAgainst", desc := "(I)J" } : Jvm.MethodName)) ∈ lw_all := lw_g (lw_at lw_m12 163 rfl) rfl
theorem q2894 : (Jvm.Cond.code ({ cls := "VaultyardModel", name := "oddsAgainst", desc := "(I)J" } : Jvm.MethodName) prog_17_method_75_code (2 : Nat) (Option.some Jvm.ClassFile.FieldType.long)) ∈ lw_all := lw_g (lw_at lw_m12 164 rfl) rfl
theorem q2896 : (Jvm.Cond.instanceMethod ({ cls := "VaultyardModel", name := "isFake", desc := "(I)Z" } : Jvm.MethodName)) ∈ lw_all := lw_g (lw_at lw_m12 166 rfl) rfl
theorem q2897 : (Jvm.Cond.selects "VaultyardModel" ({ cls := "VaultyardModel", name := "isFake", desc := "(I)Z" } : Jvm.MethodName) ({ cls := "VaultyardModel", name := "isFake", desc := "(I)Z" } : Jvm.MethodName)) ∈ lw_all := lw_g (lw_at lw_m12 167 rfl) rfl
theorem q2898 : (Jvm.Cond.code ({ cls := "VaultyardModel", name := "isFake", desc := "(I)Z" } : Jvm.MethodName) prog_17_method_76_code (2 : Nat) (Option.some Jvm.ClassFile.FieldType.boolean)) ∈ lw_all := lw_g (lw_at lw_m12 168 rfl) rfl
theorem q2899 : (Jvm.Cond.methodLink "VaultyardModel" (387 : Nat) ({ cls := "VaultyardModel", name := "isTakenForFake", desc := "(LVaultyardModel$Thing;)Z" } : Jvm.MethodName)) ∈ lw_all := lw_g (lw_at lw_m12 169 rfl) rfl
theorem q2900 : (Jvm.Cond.static ({ cls := "VaultyardModel", name := "isTakenForFake", desc := "(LVaultyardModel$Thing;)Z" } : Jvm.MethodName)) ∈ lw_all := lw_g (lw_at lw_m12 170 rfl) rfl
theorem q2901 : (Jvm.Cond.code ({ cls := "VaultyardModel", name := "isTakenForFake", desc := "(LVaultyardModel$Thing;)Z" } : Jvm.MethodName) prog_17_method_73_code (1 : Nat) (Option.some Jvm.ClassFile.FieldType.boolean)) ∈ lw_all := lw_g (lw_at lw_m12 171 rfl) rfl
theorem q2903 : (Jvm.Cond.instanceMethod ({ cls := "VaultyardModel", name := "opinion", desc := "(III)I" } : Jvm.MethodName)) ∈ lw_all := lw_g (lw_at lw_m12 173 rfl) rfl
theorem q2904 : (Jvm.Cond.selects "VaultyardModel" ({ cls := "VaultyardModel", name := "opinion", desc := "(III)I" } : Jvm.MethodName) ({ cls := "VaultyardModel", name := "opinion", desc := "(III)I" } : Jvm.MethodName)) ∈ lw_all := lw_g (lw_at lw_m12 174 rfl) rfl
theorem q2905 : (Jvm.Cond.code ({ cls := "VaultyardModel", name := "opinion", desc := "(III)I" } : Jvm.MethodName) prog_17_method_77_code (4 : Nat) (Option.some Jvm.ClassFile.FieldType.int)) ∈ lw_all := lw_g (lw_at lw_m12 175 rfl) rfl
theorem q2906 : (Jvm.Cond.constantLong "VaultyardModel" (391 : Nat) (9 : Int64)) ∈ lw_all := lw_g (lw_at lw_m12 176 rfl) rfl
theorem q2907 : (Jvm.Cond.methodLink "VaultyardModel" (393 : Nat) ({ cls := "VaultyardModel", name := "opinionsOf", desc := "(I)Ljava/util/ArrayList;" } : Jvm.MethodName)) ∈ lw_all := lw_g (lw_at lw_m12 177 rfl) rfl
theorem q2908 : (Jvm.Cond.privateMethod ({ cls := "VaultyardModel", name := "opinionsOf", desc := "(I)Ljava/util/ArrayList;" } : Jvm.MethodName)) ∈ lw_tbl := lw_at lw_m12 178 rfl
theorem q2909 : (Jvm.Cond.instanceMethod ({ cls := "VaultyardModel", name := "opinionsOf", desc := "(I)Ljava/util/ArrayList;" } : Jvm.MethodName)) ∈ lw_all := lw_g (lw_at lw_m12 179 rfl) rfl
theorem q2910 : (Jvm.Cond.code ({ cls := "VaultyardModel", name := "opinionsOf", desc := "(I)Ljava/util/ArrayList;" } : Jvm.MethodName) prog_17_method_78_code (5 : Nat) (Option.some (Jvm.ClassFile.FieldType.object "java/util/ArrayList"))) ∈ lw_all := lw_g (lw_at lw_m12 180 rfl) rfl
theorem q2912 : (Jvm.Cond.instanceMethod ({ cls := "VaultyardModel", name := "held", desc := "(II)I" } : Jvm.MethodName)) ∈ lw_all := lw_g (lw_at lw_m12 182 rfl) rfl
theorem q2913 : (Jvm.Cond.selects "VaultyardModel" ({ cls := "VaultyardModel", name := "held", desc := "(II)I" } : Jvm.MethodName) ({ cls := "VaultyardModel", name := "held", desc := "(II)I" } : Jvm.MethodName)) ∈ lw_all := lw_g (lw_at lw_m12 183 rfl) rfl
theorem q2914 : (Jvm.Cond.code ({ cls := "VaultyardModel", name := "held", desc := "(II)I" } : Jvm.MethodName) prog_17_method_80_code (4 : Nat) (Option.some Jvm.ClassFile.FieldType.int)) ∈ lw_all := lw_g (lw_at lw_m12 184 rfl) rfl
theorem q2915 : (Jvm.Cond.methodLink "VaultyardModel" (397 : Nat) ({ cls := "VaultyardModel", name := "heldBy", desc := "(II)I" } : Jvm.MethodName)) ∈ lw_all := lw_g (lw_at lw_m12 185 rfl) rfl
theorem q2916 : (Jvm.Cond.privateMethod ({ cls := "VaultyardModel", name := "heldBy", desc := "(II)I" } : Jvm.MethodName)) ∈ lw_tbl := lw_at lw_m12 186 rfl
theorem q2917 : (Jvm.Cond.instanceMethod ({ cls := "VaultyardModel", name := "heldBy", desc := "(II)I" } : Jvm.MethodName)) ∈ lw_all := lw_g (lw_at lw_m12 187 rfl) rfl
theorem q2918 : (Jvm.Cond.code ({ cls := "VaultyardModel", name := "heldBy", desc := "(II)I" } : Jvm.MethodName) prog_17_method_79_code (6 : Nat) (Option.some Jvm.ClassFile.FieldType.int)) ∈ lw_all := lw_g (lw_at lw_m12 188 rfl) rfl
theorem q2920 : (Jvm.Cond.instanceMethod ({ cls := "VaultyardModel", name := "code", desc := "(I)I" } : Jvm.MethodName)) ∈ lw_all := lw_g (lw_at lw_m12 190 rfl) rfl
theorem q2921 : (Jvm.Cond.selects "VaultyardModel" ({ cls := "VaultyardModel", name := "code", desc := "(I)I" } : Jvm.MethodName) ({ cls := "VaultyardModel", name := "code", desc := "(I)I" } : Jvm.MethodName)) ∈ lw_all := lw_g (lw_at lw_m12 191 rfl) rfl
theorem q2922 : (Jvm.Cond.code ({ cls := "VaultyardModel", name := "code", desc := "(I)I" } : Jvm.MethodName) prog_17_method_83_code (3 : Nat) (Option.some Jvm.ClassFile.FieldType.int)) ∈ lw_all := lw_g (lw_at lw_m12 192 rfl) rfl
theorem q2923 : (Jvm.Cond.methodLink "VaultyardModel" (403 : Nat) ({ cls := "VaultyardModel", name := "codeOf", desc := "(I)I" } : Jvm.MethodName)) ∈ lw_all := lw_g (lw_at lw_m12 193 rfl) rfl
theorem q2924 : (Jvm.Cond.privateMethod ({ cls := "VaultyardModel", name := "codeOf", desc := "(I)I" } : Jvm.MethodName)) ∈ lw_tbl := lw_at lw_m12 194 rfl
theorem q2925 : (Jvm.Cond.instanceMethod ({ cls := "VaultyardModel", name := "codeOf", desc := "(I)I" } : Jvm.MethodName)) ∈ lw_all := lw_g (lw_at lw_m12 195 rfl) rfl
theorem q2926 : (Jvm.Cond.code ({ cls := "VaultyardModel", name := "codeOf", desc := "(I)I" } : Jvm.MethodName) prog_17_method_82_code (8 : Nat) (Option.some Jvm.ClassFile.FieldType.int)) ∈ lw_all := lw_g (lw_at lw_m12 196 rfl) rfl
theorem q2927 : (Jvm.Cond.methodLink "VaultyardModel" (400 : Nat) ({ cls := "VaultyardModel", name := "holders", desc := "(II)I" } : Jvm.MethodName)) ∈ lw_all := lw_g (lw_at lw_m12 197 rfl) rfl
theorem q2928 : (Jvm.Cond.privateMethod ({ cls := "VaultyardModel", name := "holders", desc := "(II)I" } : Jvm.MethodName)) ∈ lw_tbl := lw_at lw_m12 198 rfl
theorem q2929 : (Jvm.Cond.instanceMethod ({ cls := "VaultyardModel", name := "holders", desc := "(II)I" } : Jvm.MethodName)) ∈ lw_all := lw_g (lw_at lw_m12 199 rfl) rfl
theorem q2930 : (Jvm.Cond.code ({ cls := "VaultyardModel", name := "holders", desc := "(II)I" } : Jvm.MethodName) prog_17_method_81_code (5 : Nat) (Option.some Jvm.ClassFile.FieldType.int)) ∈ lw_all := lw_g (lw_at lw_m12 200 rfl) rfl
theorem q2932 : (Jvm.Cond.instanceMethod ({ cls := "VaultyardModel", name := "told", desc := "(II)I" } : Jvm.MethodName)) ∈ lw_all := lw_g (lw_at lw_m12 202 rfl) rfl
theorem q2933 : (Jvm.Cond.selects "VaultyardModel" ({ cls := "VaultyardModel", name := "told", desc := "(II)I" } : Jvm.MethodName) ({ cls := "VaultyardModel", name := "told", desc := "(II)I" } : Jvm.MethodName)) ∈ lw_all := lw_g (lw_at lw_m12 203 rfl) rfl
theorem q2934 : (Jvm.Cond.code ({ cls := "VaultyardModel", name := "told", desc := "(II)I" } : Jvm.MethodName) prog_17_method_84_code (4 : Nat) (Option.some Jvm.ClassFile.FieldType.int)) ∈ lw_all := lw_g (lw_at lw_m12 204 rfl) rfl
theorem q2936 : (Jvm.Cond.instanceMethod ({ cls := "VaultyardModel", name := "fund", desc := "(II)I" } : Jvm.MethodName)) ∈ lw_all := lw_g (lw_at lw_m12 206 rfl) rfl
theorem q2937 : (Jvm.Cond.selects "VaultyardModel" ({ cls := "VaultyardModel", name := "fund", desc := "(II)I" } : Jvm.MethodName) ({ cls := "VaultyardModel", name := "fund", desc := "(II)I" } : Jvm.MethodName)) ∈ lw_all := lw_g (lw_at lw_m12 207 rfl) rfl
theorem q2938 : (Jvm.Cond.code ({ cls := "VaultyardModel", name := "fund", desc := "(II)I" } : Jvm.MethodName) prog_17_method_85_code (3 : Nat) (Option.some Jvm.ClassFile.FieldType.int)) ∈ lw_all := lw_g (lw_at lw_m12 208 rfl) rfl
theorem q2939 : (Jvm.Cond.constantLong "VaultyardModel" (406 : Nat) (999999 : Int64)) ∈ lw_all := lw_g (lw_at lw_m12 209 rfl) rfl
theorem q2941 : (Jvm.Cond.instanceMethod ({ cls := "VaultyardModel", name := "money", desc := "(I)I" } : Jvm.MethodName)) ∈ lw_all := lw_g (lw_at lw_m12 211 rfl) rfl
theorem q2942 : (Jvm.Cond.selects "VaultyardModel" ({ cls := "VaultyardModel", name := "money", desc := "(I)I" } : Jvm.MethodName) ({ cls := "VaultyardModel", name := "money", desc := "(I)I" } : Jvm.MethodName)) ∈ lw_all := lw_g (lw_at lw_m12 212 rfl) rfl
theorem q2943 : (Jvm.Cond.code ({ cls := "VaultyardModel", name := "money", desc := "(I)I" } : Jvm.MethodName) prog_17_method_86_code (2 : Nat) (Option.some Jvm.ClassFile.FieldType.int)) ∈ lw_all := lw_g (lw_at lw_m12 213 rfl) rfl
theorem q2945 : (Jvm.Cond.instanceMethod ({ cls := "VaultyardModel", name := "water", desc := "(III)I" } : Jvm.MethodName)) ∈ lw_all := lw_g (lw_at lw_m12 215 rfl) rfl
theorem q2946 : (Jvm.Cond.selects "VaultyardModel" ({ cls := "VaultyardModel", name := "water", desc := "(III)I" } : Jvm.MethodName) ({ cls := "VaultyardModel", name := "water", desc := "(III)I" } : Jvm.MethodName)) ∈ lw_all := lw_g (lw_at lw_m12 216 rfl) rfl
theorem q2947 : (Jvm.Cond.code ({ cls := "VaultyardModel", name := "water", desc := "(III)I" } : Jvm.MethodName) prog_17_method_92_code (10 : Nat) (Option.some Jvm.ClassFile.FieldType.int)) ∈ lw_all := lw_g (lw_at lw_m12 217 rfl) rfl
theorem q2948 : (Jvm.Cond.constantLong "VaultyardModel" (425 : Nat) (500 : Int64)) ∈ lw_all := lw_g (lw_at lw_m12 218 rfl) rfl
theorem q2949 : (Jvm.Cond.methodLink "VaultyardModel" (427 : Nat) ({ cls := "VaultyardModel", name := "carried", desc := "(II)Ljava/util/ArrayList;" } : Jvm.MethodName)) ∈ lw_all := lw_g (lw_at lw_m12 219 rfl) rfl
theorem q2950 : (Jvm.Cond.privateMethod ({ cls := "VaultyardModel", name := "carried", desc := "(II)Ljava/util/ArrayList;" } : Jvm.MethodName)) ∈ lw_tbl := lw_at lw_m12 220 rfl
theorem q2951 : (Jvm.Cond.instanceMethod ({ cls := "VaultyardModel", name := "carried", desc := "(II)Ljava/util/ArrayList;" } : Jvm.MethodName)) ∈ lw_all := lw_g (lw_at lw_m12 221 rfl) rfl
theorem q2952 : (Jvm.Cond.code ({ cls := "VaultyardModel", name := "carried", desc := "(II)Ljava/util/ArrayList;" } : Jvm.MethodName) prog_17_method_91_code (7 : Nat) (Option.some (Jvm.ClassFile.FieldType.object "java/util/ArrayList"))) ∈ lw_all := lw_g (lw_at lw_m12 222 rfl) rfl
theorem q2953 : (Jvm.Cond.methodLink "VaultyardModel" (422 : Nat) ({ cls := "VaultyardModel", name := "wet", desc := "(I)Ljava/util/ArrayList;" } : Jvm.MethodName)) ∈ lw_all := lw_g (lw_at lw_m12 223 rfl) rfl
theorem q2954 : (Jvm.Cond.privateMethod ({ cls := "VaultyardModel", name := "wet", desc := "(I)Ljava/util/ArrayList;" } : Jvm.MethodName)) ∈ lw_tbl := lw_at lw_m12 224 rfl
theorem q2955 : (Jvm.Cond.instanceMethod ({ cls := "VaultyardModel", name := "wet", desc := "(I)Ljava/util/ArrayList;" } : Jvm.MethodName)) ∈ lw_all := lw_g (lw_at lw_m12 225 rfl) rfl
theorem q2956 : (Jvm.Cond.code ({ cls := "VaultyardModel", name := "wet", desc := "(I)Ljava/util/ArrayList;" } : Jvm.MethodName) prog_17_method_88_code (6 : Nat) (Option.some (Jvm.ClassFile.FieldType.object "java/util/ArrayList"))) ∈ lw_all := lw_g (lw_at lw_m12 226 rfl) rfl
theorem q2957 : (Jvm.Cond.methodLink "VaultyardModel" (411 : Nat) ({ cls := "VaultyardModel", name := "isHarmed", desc := "(LVaultyardModel$Thing;)Z" } : Jvm.MethodName)) ∈ lw_all := lw_g (lw_at lw_m12 227 rfl) rfl
theorem q2958 : (Jvm.Cond.privateMethod ({ cls := "VaultyardModel", name := "isHarmed", desc := "(LVaultyardModel$Thing;)Z" } : Jvm.MethodName)) ∈ lw_tbl := lw_at lw_m12 228 rfl
theorem q2959 : (Jvm.Cond.instanceMethod ({ cls := "VaultyardModel", name := "isHarmed", desc := "(LVaultyardModel$Thing;)Z" } : Jvm.MethodName)) ∈ lw_all := lw_g (lw_at lw_m12 229 rfl) rfl
theorem q2960 : (Jvm.Cond.code ({ cls := "VaultyardModel", name := "isHarmed", desc := "(LVaultyardModel$Thing;)Z" } : Jvm.MethodName) prog_17_method_87_code (2 : Nat) (Option.some Jvm.ClassFile.FieldType.boolean)) ∈ lw_all := lw_g (lw_at lw_m12 230 rfl) rfl
theorem q2961 : (Jvm.Cond.methodLink "VaultyardModel" (413 : Nat) ({ cls := "VaultyardModel", name := "perWay", desc := "(I)I" } : Jvm.MethodName)) ∈ lw_all := lw_g (lw_at lw_m12 231 rfl) rfl
theorem q2962 : (Jvm.Cond.privateMethod ({ cls := "VaultyardModel", name := "perWay", desc := "(I)I" } : Jvm.MethodName)) ∈ lw_tbl := lw_at lw_m12 232 rfl
theorem q2963 : (Jvm.Cond.instanceMethod ({ cls := "VaultyardModel", name := "perWay", desc := "(I)I" } : Jvm.MethodName)) ∈ lw_all := lw_g (lw_at lw_m12 233 rfl) rfl
theorem q2964 : (Jvm.Cond.code ({ cls := "VaultyardModel", name := "perWay", desc := "(I)I" } : Jvm.MethodName) prog_17_method_90_code (2 : Nat) (Option.some Jvm.ClassFile.FieldType.int)) ∈ lw_all := lw_g (lw_at lw_m12 234 rfl) rfl
theorem q2965 : (Jvm.Cond.methodLink "VaultyardModel" (419 : Nat) ({ cls := "VaultyardModel", name := "waysOf", desc := "(I)I" } : Jvm.MethodName)) ∈ lw_all := lw_g (lw_at lw_m12 235 rfl) rfl
theorem q2966 : (Jvm.Cond.privateMethod ({ cls := "VaultyardModel", name := "waysOf", desc := "(I)I" } : Jvm.MethodName)) ∈ lw_tbl := lw_at lw_m12 236 rfl
theorem q2967 : (Jvm.Cond.instanceMethod ({ cls := "VaultyardModel", name := "waysOf", desc := "(I)I" } : Jvm.MethodName)) ∈ lw_all := lw_g (lw_at lw_m12 237 rfl) rfl
theorem q2968 : (Jvm.Cond.code ({ cls := "VaultyardModel", name := "waysOf", desc := "(I)I" } : Jvm.MethodName) prog_17_method_89_code (2 : Nat) (Option.some Jvm.ClassFile.FieldType.int)) ∈ lw_all := lw_g (lw_at lw_m12 238 rfl) rfl
theorem q2969 : (Jvm.Cond.methodLink "VaultyardModel" (416 : Nat) ({ cls := "java/util/ArrayList", name := "add", desc := "(ILjava/lang/Object;)V" } : Jvm.MethodName)) ∈ lw_all := lw_g (lw_at lw_m12 239 rfl) rfl
theorem q2990 : (Jvm.Cond.methodLink "VaultyardModel" (431 : Nat) ({ cls := "java/util/ArrayList", name := "contains", desc := "(Ljava/lang/Object;)Z" } : Jvm.MethodName)) ∈ lw_all := lw_g (lw_at lw_m13 20 rfl) rfl
theorem q2992 : (Jvm.Cond.instanceMethod ({ cls := "VaultyardModel", name := "saved", desc := "(III)I" } : Jvm.MethodName)) ∈ lw_all := lw_g (lw_at lw_m13 22 rfl) rfl
theorem q2993 : (Jvm.Cond.selects "VaultyardModel" ({ cls := "VaultyardModel", name := "saved", desc := "(III)I" } : Jvm.MethodName) ({ cls := "VaultyardModel", name := "saved", desc := "(III)I" } : Jvm.MethodName)) ∈ lw_all := lw_g (lw_at lw_m13 23 rfl) rfl
theorem q2994 : (Jvm.Cond.code ({ cls := "VaultyardModel", name := "saved", desc := "(III)I" } : Jvm.MethodName) prog_17_method_93_code (5 : Nat) (Option.some Jvm.ClassFile.FieldType.int)) ∈ lw_all := lw_g (lw_at lw_m13 24 rfl) rfl
theorem q2996 : (Jvm.Cond.instanceMethod ({ cls := "VaultyardModel", name := "go", desc := "(I)I" } : Jvm.MethodName)) ∈ lw_all := lw_g (lw_at lw_m13 26 rfl) rfl
theorem q2997 : (Jvm.Cond.selects "VaultyardModel" ({ cls := "VaultyardModel", name := "go", desc := "(I)I" } : Jvm.MethodName) ({ cls := "VaultyardModel", name := "go", desc := "(I)I" } : Jvm.MethodName)) ∈ lw_all := lw_g (lw_at lw_m13 27 rfl) rfl
theorem q2998 : (Jvm.Cond.code ({ cls := "VaultyardModel", name := "go", desc := "(I)I" } : Jvm.MethodName) prog_17_method_95_code (7 : Nat) (Option.some Jvm.ClassFile.FieldType.int)) ∈ lw_all := lw_g (lw_at lw_m13 28 rfl) rfl
theorem q2999 : (Jvm.Cond.methodLink "VaultyardModel" (434 : Nat) ({ cls := "VaultyardModel", name := "hasLike", desc := "(I)Z" } : Jvm.MethodName)) ∈ lw_all := lw_g (lw_at lw_m13 29 rfl) rfl
theorem q3000 : (Jvm.Cond.privateMethod ({ cls := "VaultyardModel", name := "hasLike", desc := "(I)Z" } : Jvm.MethodName)) ∈ lw_tbl := lw_at lw_m13 30 rfl
theorem q3001 : (Jvm.Cond.instanceMethod ({ cls := "VaultyardModel", name := "hasLike", desc := "(I)Z" } : Jvm.MethodName)) ∈ lw_all := lw_g (lw_at lw_m13 31 rfl) rfl
theorem q3002 : (Jvm.Cond.code ({ cls := "VaultyardModel", name := "hasLike", desc := "(I)Z" } : Jvm.MethodName) prog_17_method_94_code (7 : Nat) (Option.some Jvm.ClassFile.FieldType.boolean)) ∈ lw_all := lw_g (lw_at lw_m13 32 rfl) rfl
theorem q3004 : (Jvm.Cond.instanceMethod ({ cls := "VaultyardModel", name := "checksum", desc := "()J" } : Jvm.MethodName)) ∈ lw_all := lw_g (lw_at lw_m13 34 rfl) rfl
theorem q3005 : (Jvm.Cond.selects "VaultyardModel" ({ cls := "VaultyardModel", name := "checksum", desc := "()J" } : Jvm.MethodName) ({ cls := "VaultyardModel", name := "checksum", desc := "()J" } : Jvm.MethodName)) ∈ lw_all := lw_g (lw_at lw_m13 35 rfl) rfl
theorem q3006 : (Jvm.Cond.code ({ cls := "VaultyardModel", name := "checksum", desc := "()J" } : Jvm.MethodName) prog_17_method_96_code (5 : Nat) (Option.some Jvm.ClassFile.FieldType.long)) ∈ lw_all := lw_g (lw_at lw_m13 36 rfl) rfl
theorem q3007 : (Jvm.Cond.constantLong "VaultyardModel" (437 : Nat) (7 : Int64)) ∈ lw_all := lw_g (lw_at lw_m13 37 rfl) rfl
theorem q3008 : (Jvm.Cond.constantLong "VaultyardModel" (439 : Nat) (31 : Int64)) ∈ lw_all := lw_g (lw_at lw_m13 38 rfl) rfl
theorem q3010 : (Jvm.Cond.instanceMethod ({ cls := "VaultyardModel", name := "safeShare", desc := "()F" } : Jvm.MethodName)) ∈ lw_all := lw_g (lw_at lw_m13 40 rfl) rfl
theorem q3011 : (Jvm.Cond.selects "VaultyardModel" ({ cls := "VaultyardModel", name := "safeShare", desc := "()F" } : Jvm.MethodName) ({ cls := "VaultyardModel", name := "safeShare", desc := "()F" } : Jvm.MethodName)) ∈ lw_all := lw_g (lw_at lw_m13 41 rfl) rfl
theorem q3012 : (Jvm.Cond.code ({ cls := "VaultyardModel", name := "safeShare", desc := "()F" } : Jvm.MethodName) prog_17_method_97_code (4 : Nat) (Option.some Jvm.ClassFile.FieldType.float)) ∈ lw_all := lw_g (lw_at lw_m13 42 rfl) rfl
theorem q3014 : (Jvm.Cond.instanceMethod ({ cls := "VaultyardModel", name := "meanDamage", desc := "()D" } : Jvm.MethodName)) ∈ lw_all := lw_g (lw_at lw_m13 44 rfl) rfl
theorem q3015 : (Jvm.Cond.selects "VaultyardModel" ({ cls := "VaultyardModel", name := "meanDamage", desc := "()D" } : Jvm.MethodName) ({ cls := "VaultyardModel", name := "meanDamage", desc := "()D" } : Jvm.MethodName)) ∈ lw_all := lw_g (lw_at lw_m13 45 rfl) rfl
theorem q3016 : (Jvm.Cond.code ({ cls := "VaultyardModel", name := "meanDamage", desc := "()D" } : Jvm.MethodName) prog_17_method_98_code (5 : Nat) (Option.some Jvm.ClassFile.FieldType.double)) ∈ lw_all := lw_g (lw_at lw_m13 46 rfl) rfl
theorem q3018 : (Jvm.Cond.instanceMethod ({ cls := "VaultyardModel", name := "isSound", desc := "()Z" } : Jvm.MethodName)) ∈ lw_all := lw_g (lw_at lw_m13 48 rfl) rfl
theorem q3019 : (Jvm.Cond.selects "VaultyardModel" ({ cls := "VaultyardModel", name := "isSound", desc := "()Z" } : Jvm.MethodName) ({ cls := "VaultyardModel", name := "isSound", desc := "()Z" } : Jvm.MethodName)) ∈ lw_all := lw_g (lw_at lw_m13 49 rfl) rfl
theorem q3020 : (Jvm.Cond.code ({ cls := "VaultyardModel", name := "isSound", desc := "()Z" } : Jvm.MethodName) prog_17_method_99_code (1 : Nat) (Option.some Jvm.ClassFile.FieldType.boolean)) ∈ lw_all := lw_g (lw_at lw_m13 50 rfl) rfl
theorem q3039 : (Jvm.Cond.castable "VaultyardModel" "java/lang/Object") ∈ lw_tbl := lw_at lw_m13 69 rfl
theorem in_X2 : ∀ w ∈ wsX20, w ∈ lw_all := lw_in wsX20 [2316, 2318, 2320, 2322, 2324, 2326, 2328, 2330, 2332, 2334, 2336, 2338] (by decide +kernel) (by decide +kernel)

