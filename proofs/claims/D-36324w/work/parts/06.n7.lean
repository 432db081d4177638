/-! Vaultyard$Thing -/
set_option maxRecDepth 100000
def RX7 : String := "Vaultyard$Thing"
def TX7 : u_T := fun k => match k with
  | 0 => ("Vaultyard$Thing", "number", "I", true)
  | 1 => ("Vaultyard$Thing", "value", "I", true)
  | 2 => ("Vaultyard$Thing", "size", "I", true)
  | 3 => ("Vaultyard$Thing", "material", "LVaultyard$Material;", true)
  | 4 => ("Vaultyard$Thing", "whole", "LVaultyard$Thing;", true)
  | 5 => ("Vaultyard$Thing", "parts", "Ljava/util/ArrayList;", true)
  | 6 => ("Vaultyard$Thing", "journal", "Ljava/util/ArrayList;", true)
  | 7 => ("Vaultyard$Thing", "chain", "Ljava/util/ArrayList;", true)
  | 8 => ("Vaultyard$Thing", "place", "C", false)
  | 9 => ("Vaultyard$Thing", "room", "LVaultyard$Room;", false)
  | 10 => ("Vaultyard$Thing", "box", "LVaultyard$Box;", false)
  | 11 => ("Vaultyard$Thing", "back", "I", false)
  | 12 => ("Vaultyard$Thing", "light", "I", false)
  | 13 => ("Vaultyard$Thing", "above", "I", false)
  | 14 => ("Vaultyard$Thing", "damage", "I", false)
  | 15 => ("Vaultyard$Thing", "done", "I", false)
  | 16 => ("Vaultyard$Thing", "tests", "I", false)
  | 17 => ("Vaultyard$Thing", "hasCase", "Z", false)
  | 18 => ("Vaultyard$Thing", "genuine", "J", false)
  | 19 => ("Vaultyard$Thing", "fake", "J", false)
  | _ => ("Vaultyard$Thing", "this$0", "LVaultyard;", true)
def tyX7 : Nat → FieldType := fun k => match k with
  | 0 => .int
  | 1 => .int
  | 2 => .int
  | 3 => .object "Vaultyard$Material"
  | 4 => .object "Vaultyard$Thing"
  | 5 => .object "java/util/ArrayList"
  | 6 => .object "java/util/ArrayList"
  | 7 => .object "java/util/ArrayList"
  | 8 => .char
  | 9 => .object "Vaultyard$Room"
  | 10 => .object "Vaultyard$Box"
  | 11 => .int
  | 12 => .int
  | 13 => .int
  | 14 => .int
  | 15 => .int
  | 16 => .int
  | 17 => .boolean
  | 18 => .long
  | 19 => .long
  | _ => .object "Vaultyard"
abbrev wsX70 : List Cond := u_ws RX7 TX7 21
set_option maxRecDepth 100000 in
theorem nmX7 : ∀ a, a < 21 → ∀ b, b < 21 → a ≠ b → (TX7 a).2.1 ≠ (TX7 b).2.1 := by decide +kernel
set_option maxRecDepth 100000 in
theorem tyX7_ok : ∀ k, k < 21 → parseFieldDescriptor (TX7 k).2.2.1 = some (tyX7 k) := by decide +kernel
abbrev cX7_isIn : ByteArray := prog_15_method_5_code
def yX7_isIn : MethodName := ⟨RX7, "isIn", "(LVaultyard$Room;)Z"⟩
def dkwX7_isIn_1 : List UInt8 := [3, 172]
abbrev dktX7_isIn_1 : List UInt8 := dkwX7_isIn_1 ++ []
def dkwX7_isIn_0 : List UInt8 := [42, 182, 0, 92, 16, 114, 160, 0, 18, 42, 182, 0, 88, 180, 0, 65, 43, 166, 0, 7, 4, 167, 0, 4]
abbrev dktX7_isIn_0 : List UInt8 := dkwX7_isIn_0 ++ dktX7_isIn_1
theorem dksX7_isIn_0 : cX7_isIn.data.toList.drop 0 = dktX7_isIn_0 := by decide +kernel
theorem dksX7_isIn_1 : cX7_isIn.data.toList.drop 24 = dktX7_isIn_1 := dk_seg dksX7_isIn_0 24 rfl rfl
theorem dX7_isIn_0 : decode cX7_isIn 0 = .ok (.aload_n 0, 1) := dk_42 (dk_at dksX7_isIn_0 0 rfl rfl)
theorem dX7_isIn_1 : decode cX7_isIn 1 = .ok (.invokevirtual 92, 3) := dk_182 0 92 (dk_at dksX7_isIn_0 1 rfl rfl)
theorem dX7_isIn_4 : decode cX7_isIn 4 = .ok (.bipush 114, 2) := dk_16 114 (dk_at dksX7_isIn_0 4 rfl rfl)
theorem dX7_isIn_6 : decode cX7_isIn 6 = .ok (.if_icmp .ne 18, 3) := dk_160 0 18 (dk_at dksX7_isIn_0 6 rfl rfl)
theorem dX7_isIn_9 : decode cX7_isIn 9 = .ok (.aload_n 0, 1) := dk_42 (dk_at dksX7_isIn_0 9 rfl rfl)
theorem dX7_isIn_10 : decode cX7_isIn 10 = .ok (.invokevirtual 88, 3) := dk_182 0 88 (dk_at dksX7_isIn_0 10 rfl rfl)
theorem dX7_isIn_13 : decode cX7_isIn 13 = .ok (.getfield 65, 3) := dk_180 0 65 (dk_at dksX7_isIn_0 13 rfl rfl)
theorem dX7_isIn_16 : decode cX7_isIn 16 = .ok (.aload_n 1, 1) := dk_43 (dk_at dksX7_isIn_0 16 rfl rfl)
theorem dX7_isIn_17 : decode cX7_isIn 17 = .ok (.if_acmp .ne 7, 3) := dk_166 0 7 (dk_at dksX7_isIn_0 17 rfl rfl)
theorem dX7_isIn_20 : decode cX7_isIn 20 = .ok (.iconst 1, 1) := dk_4 (dk_at dksX7_isIn_0 20 rfl rfl)
theorem dX7_isIn_21 : decode cX7_isIn 21 = .ok (.goto 4, 3) := dk_167 0 4 (dk_at dksX7_isIn_0 21 rfl rfl)
theorem dX7_isIn_24 : decode cX7_isIn 24 = .ok (.iconst 0, 1) := dk_3 (dk_at dksX7_isIn_1 0 rfl rfl)
theorem dX7_isIn_25 : decode cX7_isIn 25 = .ok (.ireturn, 1) := dk_172 (dk_at dksX7_isIn_1 1 rfl rfl)
abbrev cX7_where : ByteArray := prog_15_method_4_code
def yX7_where : MethodName := ⟨RX7, "where", "()C"⟩
def dkwX7_where_0 : List UInt8 := [42, 182, 0, 88, 180, 0, 39, 172]
abbrev dktX7_where_0 : List UInt8 := dkwX7_where_0 ++ []
theorem dksX7_where_0 : cX7_where.data.toList.drop 0 = dktX7_where_0 := by decide +kernel
theorem dX7_where_0 : decode cX7_where 0 = .ok (.aload_n 0, 1) := dk_42 (dk_at dksX7_where_0 0 rfl rfl)
theorem dX7_where_1 : decode cX7_where 1 = .ok (.invokevirtual 88, 3) := dk_182 0 88 (dk_at dksX7_where_0 1 rfl rfl)
theorem dX7_where_4 : decode cX7_where 4 = .ok (.getfield 39, 3) := dk_180 0 39 (dk_at dksX7_where_0 4 rfl rfl)
theorem dX7_where_7 : decode cX7_where 7 = .ok (.ireturn, 1) := dk_172 (dk_at dksX7_where_0 7 rfl rfl)
abbrev cX7_all : ByteArray := prog_15_method_3_code
def yX7_all : MethodName := ⟨RX7, "all", "()LVaultyard$Thing;"⟩
def dkwX7_all_0 : List UInt8 := [42, 180, 0, 61, 199, 0, 7, 42, 167, 0, 7, 42, 180, 0, 61, 176]
abbrev dktX7_all_0 : List UInt8 := dkwX7_all_0 ++ []
theorem dksX7_all_0 : cX7_all.data.toList.drop 0 = dktX7_all_0 := by decide +kernel
theorem dX7_all_0 : decode cX7_all 0 = .ok (.aload_n 0, 1) := dk_42 (dk_at dksX7_all_0 0 rfl rfl)
theorem dX7_all_1 : decode cX7_all 1 = .ok (.getfield 61, 3) := dk_180 0 61 (dk_at dksX7_all_0 1 rfl rfl)
theorem dX7_all_4 : decode cX7_all 4 = .ok (.ifnonnull 7, 3) := dk_199 0 7 (dk_at dksX7_all_0 4 rfl rfl)
theorem dX7_all_7 : decode cX7_all 7 = .ok (.aload_n 0, 1) := dk_42 (dk_at dksX7_all_0 7 rfl rfl)
theorem dX7_all_8 : decode cX7_all 8 = .ok (.goto 7, 3) := dk_167 0 7 (dk_at dksX7_all_0 8 rfl rfl)
theorem dX7_all_11 : decode cX7_all 11 = .ok (.aload_n 0, 1) := dk_42 (dk_at dksX7_all_0 11 rfl rfl)
theorem dX7_all_12 : decode cX7_all 12 = .ok (.getfield 61, 3) := dk_180 0 61 (dk_at dksX7_all_0 12 rfl rfl)
theorem dX7_all_15 : decode cX7_all 15 = .ok (.areturn, 1) := dk_176 (dk_at dksX7_all_0 15 rfl rfl)
abbrev cX7_init : ByteArray := prog_15_method_1_code
def yX7_init : MethodName := ⟨RX7, "<init>", "(LVaultyard;LVaultyard$Material;IILVaultyard$Thing;LVaultyard$Room;)V"⟩
def dkwX7_init_4 : List UInt8 := [25, 5, 181, 0, 61, 42, 25, 6, 181, 0, 65, 42, 16, 105, 25, 6, 180, 0, 69, 182, 0, 72, 177]
abbrev dktX7_init_4 : List UInt8 := dkwX7_init_4 ++ []
def dkwX7_init_3 : List UInt8 := [20, 0, 43, 181, 0, 49, 42, 44, 181, 0, 52, 42, 29, 181, 0, 56, 42, 21, 4, 181, 0, 59, 42]
abbrev dktX7_init_3 : List UInt8 := dkwX7_init_3 ++ dktX7_init_4
def dkwX7_init_2 : List UInt8 := [187, 0, 20, 89, 183, 0, 29, 181, 0, 36, 42, 16, 114, 181, 0, 39, 42, 20, 0, 43, 181, 0, 45, 42]
abbrev dktX7_init_2 : List UInt8 := dkwX7_init_2 ++ dktX7_init_3
def dkwX7_init_1 : List UInt8 := [187, 0, 20, 89, 183, 0, 29, 181, 0, 30, 42, 187, 0, 20, 89, 183, 0, 29, 181, 0, 33, 42]
abbrev dktX7_init_1 : List UInt8 := dkwX7_init_1 ++ dktX7_init_2
def dkwX7_init_0 : List UInt8 := [42, 43, 181, 0, 3, 42, 183, 0, 9, 42, 42, 180, 0, 3, 180, 0, 15, 182, 0, 19, 181, 0, 25, 42]
abbrev dktX7_init_0 : List UInt8 := dkwX7_init_0 ++ dktX7_init_1
theorem dksX7_init_0 : cX7_init.data.toList.drop 0 = dktX7_init_0 := by decide +kernel
theorem dksX7_init_1 : cX7_init.data.toList.drop 24 = dktX7_init_1 := dk_seg dksX7_init_0 24 rfl rfl
theorem dksX7_init_2 : cX7_init.data.toList.drop 46 = dktX7_init_2 := dk_seg dksX7_init_1 22 rfl rfl
theorem dksX7_init_3 : cX7_init.data.toList.drop 70 = dktX7_init_3 := dk_seg dksX7_init_2 24 rfl rfl
theorem dksX7_init_4 : cX7_init.data.toList.drop 93 = dktX7_init_4 := dk_seg dksX7_init_3 23 rfl rfl
theorem dX7_init_0 : decode cX7_init 0 = .ok (.aload_n 0, 1) := dk_42 (dk_at dksX7_init_0 0 rfl rfl)
theorem dX7_init_1 : decode cX7_init 1 = .ok (.aload_n 1, 1) := dk_43 (dk_at dksX7_init_0 1 rfl rfl)
theorem dX7_init_2 : decode cX7_init 2 = .ok (.putfield 3, 3) := dk_181 0 3 (dk_at dksX7_init_0 2 rfl rfl)
theorem dX7_init_5 : decode cX7_init 5 = .ok (.aload_n 0, 1) := dk_42 (dk_at dksX7_init_0 5 rfl rfl)
theorem dX7_init_6 : decode cX7_init 6 = .ok (.invokespecial 9, 3) := dk_183 0 9 (dk_at dksX7_init_0 6 rfl rfl)
theorem dX7_init_9 : decode cX7_init 9 = .ok (.aload_n 0, 1) := dk_42 (dk_at dksX7_init_0 9 rfl rfl)
theorem dX7_init_10 : decode cX7_init 10 = .ok (.aload_n 0, 1) := dk_42 (dk_at dksX7_init_0 10 rfl rfl)
theorem dX7_init_11 : decode cX7_init 11 = .ok (.getfield 3, 3) := dk_180 0 3 (dk_at dksX7_init_0 11 rfl rfl)
theorem dX7_init_14 : decode cX7_init 14 = .ok (.getfield 15, 3) := dk_180 0 15 (dk_at dksX7_init_0 14 rfl rfl)
theorem dX7_init_17 : decode cX7_init 17 = .ok (.invokevirtual 19, 3) := dk_182 0 19 (dk_at dksX7_init_0 17 rfl rfl)
theorem dX7_init_20 : decode cX7_init 20 = .ok (.putfield 25, 3) := dk_181 0 25 (dk_at dksX7_init_0 20 rfl rfl)
theorem dX7_init_23 : decode cX7_init 23 = .ok (.aload_n 0, 1) := dk_42 (dk_at dksX7_init_0 23 rfl rfl)
theorem dX7_init_24 : decode cX7_init 24 = .ok (.new 20, 3) := dk_187 0 20 (dk_at dksX7_init_1 0 rfl rfl)
theorem dX7_init_27 : decode cX7_init 27 = .ok (.dup, 1) := dk_89 (dk_at dksX7_init_1 3 rfl rfl)
theorem dX7_init_28 : decode cX7_init 28 = .ok (.invokespecial 29, 3) := dk_183 0 29 (dk_at dksX7_init_1 4 rfl rfl)
theorem dX7_init_31 : decode cX7_init 31 = .ok (.putfield 30, 3) := dk_181 0 30 (dk_at dksX7_init_1 7 rfl rfl)
theorem dX7_init_34 : decode cX7_init 34 = .ok (.aload_n 0, 1) := dk_42 (dk_at dksX7_init_1 10 rfl rfl)
theorem dX7_init_35 : decode cX7_init 35 = .ok (.new 20, 3) := dk_187 0 20 (dk_at dksX7_init_1 11 rfl rfl)
theorem dX7_init_38 : decode cX7_init 38 = .ok (.dup, 1) := dk_89 (dk_at dksX7_init_1 14 rfl rfl)
theorem dX7_init_39 : decode cX7_init 39 = .ok (.invokespecial 29, 3) := dk_183 0 29 (dk_at dksX7_init_1 15 rfl rfl)
theorem dX7_init_42 : decode cX7_init 42 = .ok (.putfield 33, 3) := dk_181 0 33 (dk_at dksX7_init_1 18 rfl rfl)
theorem dX7_init_45 : decode cX7_init 45 = .ok (.aload_n 0, 1) := dk_42 (dk_at dksX7_init_1 21 rfl rfl)
theorem dX7_init_46 : decode cX7_init 46 = .ok (.new 20, 3) := dk_187 0 20 (dk_at dksX7_init_2 0 rfl rfl)
theorem dX7_init_49 : decode cX7_init 49 = .ok (.dup, 1) := dk_89 (dk_at dksX7_init_2 3 rfl rfl)
theorem dX7_init_50 : decode cX7_init 50 = .ok (.invokespecial 29, 3) := dk_183 0 29 (dk_at dksX7_init_2 4 rfl rfl)
theorem dX7_init_53 : decode cX7_init 53 = .ok (.putfield 36, 3) := dk_181 0 36 (dk_at dksX7_init_2 7 rfl rfl)
theorem dX7_init_56 : decode cX7_init 56 = .ok (.aload_n 0, 1) := dk_42 (dk_at dksX7_init_2 10 rfl rfl)
theorem dX7_init_57 : decode cX7_init 57 = .ok (.bipush 114, 2) := dk_16 114 (dk_at dksX7_init_2 11 rfl rfl)
theorem dX7_init_59 : decode cX7_init 59 = .ok (.putfield 39, 3) := dk_181 0 39 (dk_at dksX7_init_2 13 rfl rfl)
theorem dX7_init_62 : decode cX7_init 62 = .ok (.aload_n 0, 1) := dk_42 (dk_at dksX7_init_2 16 rfl rfl)
theorem dX7_init_63 : decode cX7_init 63 = .ok (.ldc2_w 43, 3) := dk_20 0 43 (dk_at dksX7_init_2 17 rfl rfl)
theorem dX7_init_66 : decode cX7_init 66 = .ok (.putfield 45, 3) := dk_181 0 45 (dk_at dksX7_init_2 20 rfl rfl)
theorem dX7_init_69 : decode cX7_init 69 = .ok (.aload_n 0, 1) := dk_42 (dk_at dksX7_init_2 23 rfl rfl)
theorem dX7_init_70 : decode cX7_init 70 = .ok (.ldc2_w 43, 3) := dk_20 0 43 (dk_at dksX7_init_3 0 rfl rfl)
theorem dX7_init_73 : decode cX7_init 73 = .ok (.putfield 49, 3) := dk_181 0 49 (dk_at dksX7_init_3 3 rfl rfl)
theorem dX7_init_76 : decode cX7_init 76 = .ok (.aload_n 0, 1) := dk_42 (dk_at dksX7_init_3 6 rfl rfl)
theorem dX7_init_77 : decode cX7_init 77 = .ok (.aload_n 2, 1) := dk_44 (dk_at dksX7_init_3 7 rfl rfl)
theorem dX7_init_78 : decode cX7_init 78 = .ok (.putfield 52, 3) := dk_181 0 52 (dk_at dksX7_init_3 8 rfl rfl)
theorem dX7_init_81 : decode cX7_init 81 = .ok (.aload_n 0, 1) := dk_42 (dk_at dksX7_init_3 11 rfl rfl)
theorem dX7_init_82 : decode cX7_init 82 = .ok (.iload_n 3, 1) := dk_29 (dk_at dksX7_init_3 12 rfl rfl)
theorem dX7_init_83 : decode cX7_init 83 = .ok (.putfield 56, 3) := dk_181 0 56 (dk_at dksX7_init_3 13 rfl rfl)
theorem dX7_init_86 : decode cX7_init 86 = .ok (.aload_n 0, 1) := dk_42 (dk_at dksX7_init_3 16 rfl rfl)
theorem dX7_init_87 : decode cX7_init 87 = .ok (.iload 4, 2) := dk_21 4 (dk_at dksX7_init_3 17 rfl rfl)
theorem dX7_init_89 : decode cX7_init 89 = .ok (.putfield 59, 3) := dk_181 0 59 (dk_at dksX7_init_3 19 rfl rfl)
theorem dX7_init_92 : decode cX7_init 92 = .ok (.aload_n 0, 1) := dk_42 (dk_at dksX7_init_3 22 rfl rfl)
theorem dX7_init_93 : decode cX7_init 93 = .ok (.aload 5, 2) := dk_25 5 (dk_at dksX7_init_4 0 rfl rfl)
theorem dX7_init_95 : decode cX7_init 95 = .ok (.putfield 61, 3) := dk_181 0 61 (dk_at dksX7_init_4 2 rfl rfl)
theorem dX7_init_98 : decode cX7_init 98 = .ok (.aload_n 0, 1) := dk_42 (dk_at dksX7_init_4 5 rfl rfl)
theorem dX7_init_99 : decode cX7_init 99 = .ok (.aload 6, 2) := dk_25 6 (dk_at dksX7_init_4 6 rfl rfl)
theorem dX7_init_101 : decode cX7_init 101 = .ok (.putfield 65, 3) := dk_181 0 65 (dk_at dksX7_init_4 8 rfl rfl)
theorem dX7_init_104 : decode cX7_init 104 = .ok (.aload_n 0, 1) := dk_42 (dk_at dksX7_init_4 11 rfl rfl)
theorem dX7_init_105 : decode cX7_init 105 = .ok (.bipush 105, 2) := dk_16 105 (dk_at dksX7_init_4 12 rfl rfl)
theorem dX7_init_107 : decode cX7_init 107 = .ok (.aload 6, 2) := dk_25 6 (dk_at dksX7_init_4 14 rfl rfl)
theorem dX7_init_109 : decode cX7_init 109 = .ok (.getfield 69, 3) := dk_180 0 69 (dk_at dksX7_init_4 16 rfl rfl)
theorem dX7_init_112 : decode cX7_init 112 = .ok (.invokevirtual 72, 3) := dk_182 0 72 (dk_at dksX7_init_4 19 rfl rfl)
theorem dX7_init_115 : decode cX7_init 115 = .ok (.return_, 1) := dk_177 (dk_at dksX7_init_4 22 rfl rfl)
abbrev cX7_writes : ByteArray := prog_15_method_2_code
def yX7_writes : MethodName := ⟨RX7, "writes", "(CI)V"⟩
def dkwX7_writes_1 : List UInt8 := [177]
abbrev dktX7_writes_1 : List UInt8 := dkwX7_writes_1 ++ []
def dkwX7_writes_0 : List UInt8 := [42, 180, 0, 33, 187, 0, 76, 89, 42, 180, 0, 3, 180, 0, 78, 27, 28, 183, 0, 81, 182, 0, 84, 87]
abbrev dktX7_writes_0 : List UInt8 := dkwX7_writes_0 ++ dktX7_writes_1
theorem dksX7_writes_0 : cX7_writes.data.toList.drop 0 = dktX7_writes_0 := by decide +kernel
theorem dksX7_writes_1 : cX7_writes.data.toList.drop 24 = dktX7_writes_1 := dk_seg dksX7_writes_0 24 rfl rfl
theorem dX7_writes_0 : decode cX7_writes 0 = .ok (.aload_n 0, 1) := dk_42 (dk_at dksX7_writes_0 0 rfl rfl)
theorem dX7_writes_1 : decode cX7_writes 1 = .ok (.getfield 33, 3) := dk_180 0 33 (dk_at dksX7_writes_0 1 rfl rfl)
theorem dX7_writes_4 : decode cX7_writes 4 = .ok (.new 76, 3) := dk_187 0 76 (dk_at dksX7_writes_0 4 rfl rfl)
theorem dX7_writes_7 : decode cX7_writes 7 = .ok (.dup, 1) := dk_89 (dk_at dksX7_writes_0 7 rfl rfl)
theorem dX7_writes_8 : decode cX7_writes 8 = .ok (.aload_n 0, 1) := dk_42 (dk_at dksX7_writes_0 8 rfl rfl)
theorem dX7_writes_9 : decode cX7_writes 9 = .ok (.getfield 3, 3) := dk_180 0 3 (dk_at dksX7_writes_0 9 rfl rfl)
theorem dX7_writes_12 : decode cX7_writes 12 = .ok (.getfield 78, 3) := dk_180 0 78 (dk_at dksX7_writes_0 12 rfl rfl)
theorem dX7_writes_15 : decode cX7_writes 15 = .ok (.iload_n 1, 1) := dk_27 (dk_at dksX7_writes_0 15 rfl rfl)
theorem dX7_writes_16 : decode cX7_writes 16 = .ok (.iload_n 2, 1) := dk_28 (dk_at dksX7_writes_0 16 rfl rfl)
theorem dX7_writes_17 : decode cX7_writes 17 = .ok (.invokespecial 81, 3) := dk_183 0 81 (dk_at dksX7_writes_0 17 rfl rfl)
theorem dX7_writes_20 : decode cX7_writes 20 = .ok (.invokevirtual 84, 3) := dk_182 0 84 (dk_at dksX7_writes_0 20 rfl rfl)
theorem dX7_writes_23 : decode cX7_writes 23 = .ok (.pop, 1) := dk_87 (dk_at dksX7_writes_0 23 rfl rfl)
theorem dX7_writes_24 : decode cX7_writes 24 = .ok (.return_, 1) := dk_177 (dk_at dksX7_writes_1 0 rfl rfl)
abbrev cX7_isWholeIn : ByteArray := prog_15_method_6_code
def yX7_isWholeIn : MethodName := ⟨RX7, "isWholeIn", "(C)Z"⟩
def dkwX7_isWholeIn_0 : List UInt8 := [42, 180, 0, 61, 199, 0, 15, 42, 180, 0, 39, 27, 160, 0, 7, 4, 167, 0, 4, 3, 172]
abbrev dktX7_isWholeIn_0 : List UInt8 := dkwX7_isWholeIn_0 ++ []
theorem dksX7_isWholeIn_0 : cX7_isWholeIn.data.toList.drop 0 = dktX7_isWholeIn_0 := by decide +kernel
theorem dX7_isWholeIn_0 : decode cX7_isWholeIn 0 = .ok (.aload_n 0, 1) := dk_42 (dk_at dksX7_isWholeIn_0 0 rfl rfl)
theorem dX7_isWholeIn_1 : decode cX7_isWholeIn 1 = .ok (.getfield 61, 3) := dk_180 0 61 (dk_at dksX7_isWholeIn_0 1 rfl rfl)
theorem dX7_isWholeIn_4 : decode cX7_isWholeIn 4 = .ok (.ifnonnull 15, 3) := dk_199 0 15 (dk_at dksX7_isWholeIn_0 4 rfl rfl)
theorem dX7_isWholeIn_7 : decode cX7_isWholeIn 7 = .ok (.aload_n 0, 1) := dk_42 (dk_at dksX7_isWholeIn_0 7 rfl rfl)
theorem dX7_isWholeIn_8 : decode cX7_isWholeIn 8 = .ok (.getfield 39, 3) := dk_180 0 39 (dk_at dksX7_isWholeIn_0 8 rfl rfl)
theorem dX7_isWholeIn_11 : decode cX7_isWholeIn 11 = .ok (.iload_n 1, 1) := dk_27 (dk_at dksX7_isWholeIn_0 11 rfl rfl)
theorem dX7_isWholeIn_12 : decode cX7_isWholeIn 12 = .ok (.if_icmp .ne 7, 3) := dk_160 0 7 (dk_at dksX7_isWholeIn_0 12 rfl rfl)
theorem dX7_isWholeIn_15 : decode cX7_isWholeIn 15 = .ok (.iconst 1, 1) := dk_4 (dk_at dksX7_isWholeIn_0 15 rfl rfl)
theorem dX7_isWholeIn_16 : decode cX7_isWholeIn 16 = .ok (.goto 4, 3) := dk_167 0 4 (dk_at dksX7_isWholeIn_0 16 rfl rfl)
theorem dX7_isWholeIn_19 : decode cX7_isWholeIn 19 = .ok (.iconst 0, 1) := dk_3 (dk_at dksX7_isWholeIn_0 19 rfl rfl)
theorem dX7_isWholeIn_20 : decode cX7_isWholeIn 20 = .ok (.ireturn, 1) := dk_172 (dk_at dksX7_isWholeIn_0 20 rfl rfl)
abbrev cX7_comes : ByteArray := prog_15_method_17_code
def yX7_comes : MethodName := ⟨RX7, "comes", "(LVaultyard$Room;)V"⟩
def dkwX7_comes_1 : List UInt8 := [182, 0, 72, 177]
abbrev dktX7_comes_1 : List UInt8 := dkwX7_comes_1 ++ []
def dkwX7_comes_0 : List UInt8 := [42, 182, 0, 199, 42, 16, 114, 181, 0, 39, 42, 43, 181, 0, 65, 42, 16, 105, 43, 180, 0, 69]
abbrev dktX7_comes_0 : List UInt8 := dkwX7_comes_0 ++ dktX7_comes_1
theorem dksX7_comes_0 : cX7_comes.data.toList.drop 0 = dktX7_comes_0 := by decide +kernel
theorem dksX7_comes_1 : cX7_comes.data.toList.drop 22 = dktX7_comes_1 := dk_seg dksX7_comes_0 22 rfl rfl
theorem dX7_comes_0 : decode cX7_comes 0 = .ok (.aload_n 0, 1) := dk_42 (dk_at dksX7_comes_0 0 rfl rfl)
theorem dX7_comes_1 : decode cX7_comes 1 = .ok (.invokevirtual 199, 3) := dk_182 0 199 (dk_at dksX7_comes_0 1 rfl rfl)
theorem dX7_comes_4 : decode cX7_comes 4 = .ok (.aload_n 0, 1) := dk_42 (dk_at dksX7_comes_0 4 rfl rfl)
theorem dX7_comes_5 : decode cX7_comes 5 = .ok (.bipush 114, 2) := dk_16 114 (dk_at dksX7_comes_0 5 rfl rfl)
theorem dX7_comes_7 : decode cX7_comes 7 = .ok (.putfield 39, 3) := dk_181 0 39 (dk_at dksX7_comes_0 7 rfl rfl)
theorem dX7_comes_10 : decode cX7_comes 10 = .ok (.aload_n 0, 1) := dk_42 (dk_at dksX7_comes_0 10 rfl rfl)
theorem dX7_comes_11 : decode cX7_comes 11 = .ok (.aload_n 1, 1) := dk_43 (dk_at dksX7_comes_0 11 rfl rfl)
theorem dX7_comes_12 : decode cX7_comes 12 = .ok (.putfield 65, 3) := dk_181 0 65 (dk_at dksX7_comes_0 12 rfl rfl)
theorem dX7_comes_15 : decode cX7_comes 15 = .ok (.aload_n 0, 1) := dk_42 (dk_at dksX7_comes_0 15 rfl rfl)
theorem dX7_comes_16 : decode cX7_comes 16 = .ok (.bipush 105, 2) := dk_16 105 (dk_at dksX7_comes_0 16 rfl rfl)
theorem dX7_comes_18 : decode cX7_comes 18 = .ok (.aload_n 1, 1) := dk_43 (dk_at dksX7_comes_0 18 rfl rfl)
theorem dX7_comes_19 : decode cX7_comes 19 = .ok (.getfield 69, 3) := dk_180 0 69 (dk_at dksX7_comes_0 19 rfl rfl)
theorem dX7_comes_22 : decode cX7_comes 22 = .ok (.invokevirtual 72, 3) := dk_182 0 72 (dk_at dksX7_comes_1 0 rfl rfl)
theorem dX7_comes_25 : decode cX7_comes 25 = .ok (.return_, 1) := dk_177 (dk_at dksX7_comes_1 3 rfl rfl)
abbrev cX7_leavesBox : ByteArray := prog_15_method_18_code
def yX7_leavesBox : MethodName := ⟨RX7, "leavesBox", "()V"⟩
def dkwX7_leavesBox_1 : List UInt8 := [154, 0, 8, 43, 3, 181, 0, 196, 177]
abbrev dktX7_leavesBox_1 : List UInt8 := dkwX7_leavesBox_1 ++ []
def dkwX7_leavesBox_0 : List UInt8 := [42, 180, 0, 192, 76, 42, 1, 181, 0, 192, 43, 198, 0, 19, 42, 180, 0, 3, 43, 182, 0, 202]
abbrev dktX7_leavesBox_0 : List UInt8 := dkwX7_leavesBox_0 ++ dktX7_leavesBox_1
theorem dksX7_leavesBox_0 : cX7_leavesBox.data.toList.drop 0 = dktX7_leavesBox_0 := by decide +kernel
theorem dksX7_leavesBox_1 : cX7_leavesBox.data.toList.drop 22 = dktX7_leavesBox_1 := dk_seg dksX7_leavesBox_0 22 rfl rfl
theorem dX7_leavesBox_0 : decode cX7_leavesBox 0 = .ok (.aload_n 0, 1) := dk_42 (dk_at dksX7_leavesBox_0 0 rfl rfl)
theorem dX7_leavesBox_1 : decode cX7_leavesBox 1 = .ok (.getfield 192, 3) := dk_180 0 192 (dk_at dksX7_leavesBox_0 1 rfl rfl)
theorem dX7_leavesBox_4 : decode cX7_leavesBox 4 = .ok (.astore_n 1, 1) := dk_76 (dk_at dksX7_leavesBox_0 4 rfl rfl)
theorem dX7_leavesBox_5 : decode cX7_leavesBox 5 = .ok (.aload_n 0, 1) := dk_42 (dk_at dksX7_leavesBox_0 5 rfl rfl)
theorem dX7_leavesBox_6 : decode cX7_leavesBox 6 = .ok (.aconst_null, 1) := dk_1 (dk_at dksX7_leavesBox_0 6 rfl rfl)
theorem dX7_leavesBox_7 : decode cX7_leavesBox 7 = .ok (.putfield 192, 3) := dk_181 0 192 (dk_at dksX7_leavesBox_0 7 rfl rfl)
theorem dX7_leavesBox_10 : decode cX7_leavesBox 10 = .ok (.aload_n 1, 1) := dk_43 (dk_at dksX7_leavesBox_0 10 rfl rfl)
theorem dX7_leavesBox_11 : decode cX7_leavesBox 11 = .ok (.ifnull 19, 3) := dk_198 0 19 (dk_at dksX7_leavesBox_0 11 rfl rfl)
theorem dX7_leavesBox_14 : decode cX7_leavesBox 14 = .ok (.aload_n 0, 1) := dk_42 (dk_at dksX7_leavesBox_0 14 rfl rfl)
theorem dX7_leavesBox_15 : decode cX7_leavesBox 15 = .ok (.getfield 3, 3) := dk_180 0 3 (dk_at dksX7_leavesBox_0 15 rfl rfl)
theorem dX7_leavesBox_18 : decode cX7_leavesBox 18 = .ok (.aload_n 1, 1) := dk_43 (dk_at dksX7_leavesBox_0 18 rfl rfl)
theorem dX7_leavesBox_19 : decode cX7_leavesBox 19 = .ok (.invokevirtual 202, 3) := dk_182 0 202 (dk_at dksX7_leavesBox_0 19 rfl rfl)
theorem dX7_leavesBox_22 : decode cX7_leavesBox 22 = .ok (.ifCond .ne 8, 3) := dk_154 0 8 (dk_at dksX7_leavesBox_1 0 rfl rfl)
theorem dX7_leavesBox_25 : decode cX7_leavesBox 25 = .ok (.aload_n 1, 1) := dk_43 (dk_at dksX7_leavesBox_1 3 rfl rfl)
theorem dX7_leavesBox_26 : decode cX7_leavesBox 26 = .ok (.iconst 0, 1) := dk_3 (dk_at dksX7_leavesBox_1 4 rfl rfl)
theorem dX7_leavesBox_27 : decode cX7_leavesBox 27 = .ok (.putfield 196, 3) := dk_181 0 196 (dk_at dksX7_leavesBox_1 5 rfl rfl)
theorem dX7_leavesBox_30 : decode cX7_leavesBox 30 = .ok (.return_, 1) := dk_177 (dk_at dksX7_leavesBox_1 8 rfl rfl)
abbrev cX7_passes : ByteArray := prog_15_method_16_code
def yX7_passes : MethodName := ⟨RX7, "passes", "()V"⟩
def dkwX7_passes_2 : List UInt8 := [180, 0, 196, 182, 0, 182, 182, 0, 188, 87, 177]
abbrev dktX7_passes_2 : List UInt8 := dkwX7_passes_2 ++ []
def dkwX7_passes_1 : List UInt8 := [182, 0, 188, 87, 42, 182, 0, 92, 16, 98, 160, 0, 24, 42, 16, 100, 42, 42, 182, 0, 88, 180, 0, 192]
abbrev dktX7_passes_1 : List UInt8 := dkwX7_passes_1 ++ dktX7_passes_2
def dkwX7_passes_0 : List UInt8 := [42, 182, 0, 92, 16, 114, 160, 0, 21, 42, 16, 100, 42, 42, 182, 0, 88, 180, 0, 65, 182, 0, 184]
abbrev dktX7_passes_0 : List UInt8 := dkwX7_passes_0 ++ dktX7_passes_1
theorem dksX7_passes_0 : cX7_passes.data.toList.drop 0 = dktX7_passes_0 := by decide +kernel
theorem dksX7_passes_1 : cX7_passes.data.toList.drop 23 = dktX7_passes_1 := dk_seg dksX7_passes_0 23 rfl rfl
theorem dksX7_passes_2 : cX7_passes.data.toList.drop 47 = dktX7_passes_2 := dk_seg dksX7_passes_1 24 rfl rfl
theorem dX7_passes_0 : decode cX7_passes 0 = .ok (.aload_n 0, 1) := dk_42 (dk_at dksX7_passes_0 0 rfl rfl)
theorem dX7_passes_1 : decode cX7_passes 1 = .ok (.invokevirtual 92, 3) := dk_182 0 92 (dk_at dksX7_passes_0 1 rfl rfl)
theorem dX7_passes_4 : decode cX7_passes 4 = .ok (.bipush 114, 2) := dk_16 114 (dk_at dksX7_passes_0 4 rfl rfl)
theorem dX7_passes_6 : decode cX7_passes 6 = .ok (.if_icmp .ne 21, 3) := dk_160 0 21 (dk_at dksX7_passes_0 6 rfl rfl)
theorem dX7_passes_9 : decode cX7_passes 9 = .ok (.aload_n 0, 1) := dk_42 (dk_at dksX7_passes_0 9 rfl rfl)
theorem dX7_passes_10 : decode cX7_passes 10 = .ok (.bipush 100, 2) := dk_16 100 (dk_at dksX7_passes_0 10 rfl rfl)
theorem dX7_passes_12 : decode cX7_passes 12 = .ok (.aload_n 0, 1) := dk_42 (dk_at dksX7_passes_0 12 rfl rfl)
theorem dX7_passes_13 : decode cX7_passes 13 = .ok (.aload_n 0, 1) := dk_42 (dk_at dksX7_passes_0 13 rfl rfl)
theorem dX7_passes_14 : decode cX7_passes 14 = .ok (.invokevirtual 88, 3) := dk_182 0 88 (dk_at dksX7_passes_0 14 rfl rfl)
theorem dX7_passes_17 : decode cX7_passes 17 = .ok (.getfield 65, 3) := dk_180 0 65 (dk_at dksX7_passes_0 17 rfl rfl)
theorem dX7_passes_20 : decode cX7_passes 20 = .ok (.invokevirtual 184, 3) := dk_182 0 184 (dk_at dksX7_passes_0 20 rfl rfl)
theorem dX7_passes_23 : decode cX7_passes 23 = .ok (.invokevirtual 188, 3) := dk_182 0 188 (dk_at dksX7_passes_1 0 rfl rfl)
theorem dX7_passes_26 : decode cX7_passes 26 = .ok (.pop, 1) := dk_87 (dk_at dksX7_passes_1 3 rfl rfl)
theorem dX7_passes_27 : decode cX7_passes 27 = .ok (.aload_n 0, 1) := dk_42 (dk_at dksX7_passes_1 4 rfl rfl)
theorem dX7_passes_28 : decode cX7_passes 28 = .ok (.invokevirtual 92, 3) := dk_182 0 92 (dk_at dksX7_passes_1 5 rfl rfl)
theorem dX7_passes_31 : decode cX7_passes 31 = .ok (.bipush 98, 2) := dk_16 98 (dk_at dksX7_passes_1 8 rfl rfl)
theorem dX7_passes_33 : decode cX7_passes 33 = .ok (.if_icmp .ne 24, 3) := dk_160 0 24 (dk_at dksX7_passes_1 10 rfl rfl)
theorem dX7_passes_36 : decode cX7_passes 36 = .ok (.aload_n 0, 1) := dk_42 (dk_at dksX7_passes_1 13 rfl rfl)
theorem dX7_passes_37 : decode cX7_passes 37 = .ok (.bipush 100, 2) := dk_16 100 (dk_at dksX7_passes_1 14 rfl rfl)
theorem dX7_passes_39 : decode cX7_passes 39 = .ok (.aload_n 0, 1) := dk_42 (dk_at dksX7_passes_1 16 rfl rfl)
theorem dX7_passes_40 : decode cX7_passes 40 = .ok (.aload_n 0, 1) := dk_42 (dk_at dksX7_passes_1 17 rfl rfl)
theorem dX7_passes_41 : decode cX7_passes 41 = .ok (.invokevirtual 88, 3) := dk_182 0 88 (dk_at dksX7_passes_1 18 rfl rfl)
theorem dX7_passes_44 : decode cX7_passes 44 = .ok (.getfield 192, 3) := dk_180 0 192 (dk_at dksX7_passes_1 21 rfl rfl)
theorem dX7_passes_47 : decode cX7_passes 47 = .ok (.getfield 196, 3) := dk_180 0 196 (dk_at dksX7_passes_2 0 rfl rfl)
theorem dX7_passes_50 : decode cX7_passes 50 = .ok (.invokevirtual 182, 3) := dk_182 0 182 (dk_at dksX7_passes_2 3 rfl rfl)
theorem dX7_passes_53 : decode cX7_passes 53 = .ok (.invokevirtual 188, 3) := dk_182 0 188 (dk_at dksX7_passes_2 6 rfl rfl)
theorem dX7_passes_56 : decode cX7_passes 56 = .ok (.pop, 1) := dk_87 (dk_at dksX7_passes_2 9 rfl rfl)
theorem dX7_passes_57 : decode cX7_passes 57 = .ok (.return_, 1) := dk_177 (dk_at dksX7_passes_2 10 rfl rfl)
abbrev cX7_ages : ByteArray := prog_15_method_15_code
def yX7_ages : MethodName := ⟨RX7, "ages", "(LVaultyard$Room;)I"⟩
def dkwX7_ages_5 : List UInt8 := [16, 9, 96, 16, 10, 108, 96, 61, 28, 42, 43, 180, 0, 179, 182, 0, 182, 96, 172]
abbrev dktX7_ages_5 : List UInt8 := dkwX7_ages_5 ++ []
def dkwX7_ages_4 : List UInt8 := [180, 0, 52, 182, 0, 176, 100, 184, 0, 167, 184, 0, 167, 62, 42, 5, 182, 0, 120, 154, 0, 13, 28, 29]
abbrev dktX7_ages_4 : List UInt8 := dkwX7_ages_4 ++ dktX7_ages_5
def dkwX7_ages_3 : List UInt8 := [108, 29, 100, 96, 61, 3, 42, 180, 0, 52, 182, 0, 170, 43, 180, 0, 173, 100, 43, 180, 0, 173, 42]
abbrev dktX7_ages_3 : List UInt8 := dkwX7_ages_3 ++ dktX7_ages_4
def dkwX7_ages_2 : List UInt8 := [180, 0, 52, 182, 0, 165, 100, 184, 0, 143, 184, 0, 167, 96, 181, 0, 162, 28, 42, 180, 0, 162, 16, 10]
abbrev dktX7_ages_2 : List UInt8 := dkwX7_ages_2 ++ dktX7_ages_3
def dkwX7_ages_1 : List UInt8 := [180, 0, 162, 16, 10, 108, 62, 42, 89, 180, 0, 162, 3, 43, 180, 0, 161, 42, 180, 0, 158, 42]
abbrev dktX7_ages_1 : List UInt8 := dkwX7_ages_1 ++ dktX7_ages_2
def dkwX7_ages_0 : List UInt8 := [42, 89, 180, 0, 158, 43, 180, 0, 161, 96, 181, 0, 158, 3, 61, 42, 4, 182, 0, 120, 154, 0, 55, 42]
abbrev dktX7_ages_0 : List UInt8 := dkwX7_ages_0 ++ dktX7_ages_1
theorem dksX7_ages_0 : cX7_ages.data.toList.drop 0 = dktX7_ages_0 := by decide +kernel
theorem dksX7_ages_1 : cX7_ages.data.toList.drop 24 = dktX7_ages_1 := dk_seg dksX7_ages_0 24 rfl rfl
theorem dksX7_ages_2 : cX7_ages.data.toList.drop 46 = dktX7_ages_2 := dk_seg dksX7_ages_1 22 rfl rfl
theorem dksX7_ages_3 : cX7_ages.data.toList.drop 70 = dktX7_ages_3 := dk_seg dksX7_ages_2 24 rfl rfl
theorem dksX7_ages_4 : cX7_ages.data.toList.drop 93 = dktX7_ages_4 := dk_seg dksX7_ages_3 23 rfl rfl
theorem dksX7_ages_5 : cX7_ages.data.toList.drop 117 = dktX7_ages_5 := dk_seg dksX7_ages_4 24 rfl rfl
theorem dX7_ages_0 : decode cX7_ages 0 = .ok (.aload_n 0, 1) := dk_42 (dk_at dksX7_ages_0 0 rfl rfl)
theorem dX7_ages_1 : decode cX7_ages 1 = .ok (.dup, 1) := dk_89 (dk_at dksX7_ages_0 1 rfl rfl)
theorem dX7_ages_2 : decode cX7_ages 2 = .ok (.getfield 158, 3) := dk_180 0 158 (dk_at dksX7_ages_0 2 rfl rfl)
theorem dX7_ages_5 : decode cX7_ages 5 = .ok (.aload_n 1, 1) := dk_43 (dk_at dksX7_ages_0 5 rfl rfl)
theorem dX7_ages_6 : decode cX7_ages 6 = .ok (.getfield 161, 3) := dk_180 0 161 (dk_at dksX7_ages_0 6 rfl rfl)
theorem dX7_ages_9 : decode cX7_ages 9 = .ok (.iadd, 1) := dk_96 (dk_at dksX7_ages_0 9 rfl rfl)
theorem dX7_ages_10 : decode cX7_ages 10 = .ok (.putfield 158, 3) := dk_181 0 158 (dk_at dksX7_ages_0 10 rfl rfl)
theorem dX7_ages_13 : decode cX7_ages 13 = .ok (.iconst 0, 1) := dk_3 (dk_at dksX7_ages_0 13 rfl rfl)
theorem dX7_ages_14 : decode cX7_ages 14 = .ok (.istore_n 2, 1) := dk_61 (dk_at dksX7_ages_0 14 rfl rfl)
theorem dX7_ages_15 : decode cX7_ages 15 = .ok (.aload_n 0, 1) := dk_42 (dk_at dksX7_ages_0 15 rfl rfl)
theorem dX7_ages_16 : decode cX7_ages 16 = .ok (.iconst 1, 1) := dk_4 (dk_at dksX7_ages_0 16 rfl rfl)
theorem dX7_ages_17 : decode cX7_ages 17 = .ok (.invokevirtual 120, 3) := dk_182 0 120 (dk_at dksX7_ages_0 17 rfl rfl)
theorem dX7_ages_20 : decode cX7_ages 20 = .ok (.ifCond .ne 55, 3) := dk_154 0 55 (dk_at dksX7_ages_0 20 rfl rfl)
theorem dX7_ages_23 : decode cX7_ages 23 = .ok (.aload_n 0, 1) := dk_42 (dk_at dksX7_ages_0 23 rfl rfl)
theorem dX7_ages_24 : decode cX7_ages 24 = .ok (.getfield 162, 3) := dk_180 0 162 (dk_at dksX7_ages_1 0 rfl rfl)
theorem dX7_ages_27 : decode cX7_ages 27 = .ok (.bipush 10, 2) := dk_16 10 (dk_at dksX7_ages_1 3 rfl rfl)
theorem dX7_ages_29 : decode cX7_ages 29 = .ok (.idiv, 1) := dk_108 (dk_at dksX7_ages_1 5 rfl rfl)
theorem dX7_ages_30 : decode cX7_ages 30 = .ok (.istore_n 3, 1) := dk_62 (dk_at dksX7_ages_1 6 rfl rfl)
theorem dX7_ages_31 : decode cX7_ages 31 = .ok (.aload_n 0, 1) := dk_42 (dk_at dksX7_ages_1 7 rfl rfl)
theorem dX7_ages_32 : decode cX7_ages 32 = .ok (.dup, 1) := dk_89 (dk_at dksX7_ages_1 8 rfl rfl)
theorem dX7_ages_33 : decode cX7_ages 33 = .ok (.getfield 162, 3) := dk_180 0 162 (dk_at dksX7_ages_1 9 rfl rfl)
theorem dX7_ages_36 : decode cX7_ages 36 = .ok (.iconst 0, 1) := dk_3 (dk_at dksX7_ages_1 12 rfl rfl)
theorem dX7_ages_37 : decode cX7_ages 37 = .ok (.aload_n 1, 1) := dk_43 (dk_at dksX7_ages_1 13 rfl rfl)
theorem dX7_ages_38 : decode cX7_ages 38 = .ok (.getfield 161, 3) := dk_180 0 161 (dk_at dksX7_ages_1 14 rfl rfl)
theorem dX7_ages_41 : decode cX7_ages 41 = .ok (.aload_n 0, 1) := dk_42 (dk_at dksX7_ages_1 17 rfl rfl)
theorem dX7_ages_42 : decode cX7_ages 42 = .ok (.getfield 158, 3) := dk_180 0 158 (dk_at dksX7_ages_1 18 rfl rfl)
theorem dX7_ages_45 : decode cX7_ages 45 = .ok (.aload_n 0, 1) := dk_42 (dk_at dksX7_ages_1 21 rfl rfl)
theorem dX7_ages_46 : decode cX7_ages 46 = .ok (.getfield 52, 3) := dk_180 0 52 (dk_at dksX7_ages_2 0 rfl rfl)
theorem dX7_ages_49 : decode cX7_ages 49 = .ok (.invokevirtual 165, 3) := dk_182 0 165 (dk_at dksX7_ages_2 3 rfl rfl)
theorem dX7_ages_52 : decode cX7_ages 52 = .ok (.isub, 1) := dk_100 (dk_at dksX7_ages_2 6 rfl rfl)
theorem dX7_ages_53 : decode cX7_ages 53 = .ok (.invokestatic 143, 3) := dk_184 0 143 (dk_at dksX7_ages_2 7 rfl rfl)
theorem dX7_ages_56 : decode cX7_ages 56 = .ok (.invokestatic 167, 3) := dk_184 0 167 (dk_at dksX7_ages_2 10 rfl rfl)
theorem dX7_ages_59 : decode cX7_ages 59 = .ok (.iadd, 1) := dk_96 (dk_at dksX7_ages_2 13 rfl rfl)
theorem dX7_ages_60 : decode cX7_ages 60 = .ok (.putfield 162, 3) := dk_181 0 162 (dk_at dksX7_ages_2 14 rfl rfl)
theorem dX7_ages_63 : decode cX7_ages 63 = .ok (.iload_n 2, 1) := dk_28 (dk_at dksX7_ages_2 17 rfl rfl)
theorem dX7_ages_64 : decode cX7_ages 64 = .ok (.aload_n 0, 1) := dk_42 (dk_at dksX7_ages_2 18 rfl rfl)
theorem dX7_ages_65 : decode cX7_ages 65 = .ok (.getfield 162, 3) := dk_180 0 162 (dk_at dksX7_ages_2 19 rfl rfl)
theorem dX7_ages_68 : decode cX7_ages 68 = .ok (.bipush 10, 2) := dk_16 10 (dk_at dksX7_ages_2 22 rfl rfl)
theorem dX7_ages_70 : decode cX7_ages 70 = .ok (.idiv, 1) := dk_108 (dk_at dksX7_ages_3 0 rfl rfl)
theorem dX7_ages_71 : decode cX7_ages 71 = .ok (.iload_n 3, 1) := dk_29 (dk_at dksX7_ages_3 1 rfl rfl)
theorem dX7_ages_72 : decode cX7_ages 72 = .ok (.isub, 1) := dk_100 (dk_at dksX7_ages_3 2 rfl rfl)
theorem dX7_ages_73 : decode cX7_ages 73 = .ok (.iadd, 1) := dk_96 (dk_at dksX7_ages_3 3 rfl rfl)
theorem dX7_ages_74 : decode cX7_ages 74 = .ok (.istore_n 2, 1) := dk_61 (dk_at dksX7_ages_3 4 rfl rfl)
theorem dX7_ages_75 : decode cX7_ages 75 = .ok (.iconst 0, 1) := dk_3 (dk_at dksX7_ages_3 5 rfl rfl)
theorem dX7_ages_76 : decode cX7_ages 76 = .ok (.aload_n 0, 1) := dk_42 (dk_at dksX7_ages_3 6 rfl rfl)
theorem dX7_ages_77 : decode cX7_ages 77 = .ok (.getfield 52, 3) := dk_180 0 52 (dk_at dksX7_ages_3 7 rfl rfl)
theorem dX7_ages_80 : decode cX7_ages 80 = .ok (.invokevirtual 170, 3) := dk_182 0 170 (dk_at dksX7_ages_3 10 rfl rfl)
theorem dX7_ages_83 : decode cX7_ages 83 = .ok (.aload_n 1, 1) := dk_43 (dk_at dksX7_ages_3 13 rfl rfl)
theorem dX7_ages_84 : decode cX7_ages 84 = .ok (.getfield 173, 3) := dk_180 0 173 (dk_at dksX7_ages_3 14 rfl rfl)
theorem dX7_ages_87 : decode cX7_ages 87 = .ok (.isub, 1) := dk_100 (dk_at dksX7_ages_3 17 rfl rfl)
theorem dX7_ages_88 : decode cX7_ages 88 = .ok (.aload_n 1, 1) := dk_43 (dk_at dksX7_ages_3 18 rfl rfl)
theorem dX7_ages_89 : decode cX7_ages 89 = .ok (.getfield 173, 3) := dk_180 0 173 (dk_at dksX7_ages_3 19 rfl rfl)
theorem dX7_ages_92 : decode cX7_ages 92 = .ok (.aload_n 0, 1) := dk_42 (dk_at dksX7_ages_3 22 rfl rfl)
theorem dX7_ages_93 : decode cX7_ages 93 = .ok (.getfield 52, 3) := dk_180 0 52 (dk_at dksX7_ages_4 0 rfl rfl)
theorem dX7_ages_96 : decode cX7_ages 96 = .ok (.invokevirtual 176, 3) := dk_182 0 176 (dk_at dksX7_ages_4 3 rfl rfl)
theorem dX7_ages_99 : decode cX7_ages 99 = .ok (.isub, 1) := dk_100 (dk_at dksX7_ages_4 6 rfl rfl)
theorem dX7_ages_100 : decode cX7_ages 100 = .ok (.invokestatic 167, 3) := dk_184 0 167 (dk_at dksX7_ages_4 7 rfl rfl)
theorem dX7_ages_103 : decode cX7_ages 103 = .ok (.invokestatic 167, 3) := dk_184 0 167 (dk_at dksX7_ages_4 10 rfl rfl)
theorem dX7_ages_106 : decode cX7_ages 106 = .ok (.istore_n 3, 1) := dk_62 (dk_at dksX7_ages_4 13 rfl rfl)
theorem dX7_ages_107 : decode cX7_ages 107 = .ok (.aload_n 0, 1) := dk_42 (dk_at dksX7_ages_4 14 rfl rfl)
theorem dX7_ages_108 : decode cX7_ages 108 = .ok (.iconst 2, 1) := dk_5 (dk_at dksX7_ages_4 15 rfl rfl)
theorem dX7_ages_109 : decode cX7_ages 109 = .ok (.invokevirtual 120, 3) := dk_182 0 120 (dk_at dksX7_ages_4 16 rfl rfl)
theorem dX7_ages_112 : decode cX7_ages 112 = .ok (.ifCond .ne 13, 3) := dk_154 0 13 (dk_at dksX7_ages_4 19 rfl rfl)
theorem dX7_ages_115 : decode cX7_ages 115 = .ok (.iload_n 2, 1) := dk_28 (dk_at dksX7_ages_4 22 rfl rfl)
theorem dX7_ages_116 : decode cX7_ages 116 = .ok (.iload_n 3, 1) := dk_29 (dk_at dksX7_ages_4 23 rfl rfl)
theorem dX7_ages_117 : decode cX7_ages 117 = .ok (.bipush 9, 2) := dk_16 9 (dk_at dksX7_ages_5 0 rfl rfl)
theorem dX7_ages_119 : decode cX7_ages 119 = .ok (.iadd, 1) := dk_96 (dk_at dksX7_ages_5 2 rfl rfl)
theorem dX7_ages_120 : decode cX7_ages 120 = .ok (.bipush 10, 2) := dk_16 10 (dk_at dksX7_ages_5 3 rfl rfl)
theorem dX7_ages_122 : decode cX7_ages 122 = .ok (.idiv, 1) := dk_108 (dk_at dksX7_ages_5 5 rfl rfl)
theorem dX7_ages_123 : decode cX7_ages 123 = .ok (.iadd, 1) := dk_96 (dk_at dksX7_ages_5 6 rfl rfl)
theorem dX7_ages_124 : decode cX7_ages 124 = .ok (.istore_n 2, 1) := dk_61 (dk_at dksX7_ages_5 7 rfl rfl)
theorem dX7_ages_125 : decode cX7_ages 125 = .ok (.iload_n 2, 1) := dk_28 (dk_at dksX7_ages_5 8 rfl rfl)
theorem dX7_ages_126 : decode cX7_ages 126 = .ok (.aload_n 0, 1) := dk_42 (dk_at dksX7_ages_5 9 rfl rfl)
theorem dX7_ages_127 : decode cX7_ages 127 = .ok (.aload_n 1, 1) := dk_43 (dk_at dksX7_ages_5 10 rfl rfl)
theorem dX7_ages_128 : decode cX7_ages 128 = .ok (.getfield 179, 3) := dk_180 0 179 (dk_at dksX7_ages_5 11 rfl rfl)
theorem dX7_ages_131 : decode cX7_ages 131 = .ok (.invokevirtual 182, 3) := dk_182 0 182 (dk_at dksX7_ages_5 14 rfl rfl)
theorem dX7_ages_134 : decode cX7_ages 134 = .ok (.iadd, 1) := dk_96 (dk_at dksX7_ages_5 17 rfl rfl)
theorem dX7_ages_135 : decode cX7_ages 135 = .ok (.ireturn, 1) := dk_172 (dk_at dksX7_ages_5 18 rfl rfl)
abbrev cX7_isKept : ByteArray := prog_15_method_8_code
def yX7_isKept : MethodName := ⟨RX7, "isKept", "(I)Z"⟩
def dkwX7_isKept_0 : List UInt8 := [42, 182, 0, 111, 27, 126, 153, 0, 7, 4, 167, 0, 4, 3, 172]
abbrev dktX7_isKept_0 : List UInt8 := dkwX7_isKept_0 ++ []
theorem dksX7_isKept_0 : cX7_isKept.data.toList.drop 0 = dktX7_isKept_0 := by decide +kernel
theorem dX7_isKept_0 : decode cX7_isKept 0 = .ok (.aload_n 0, 1) := dk_42 (dk_at dksX7_isKept_0 0 rfl rfl)
theorem dX7_isKept_1 : decode cX7_isKept 1 = .ok (.invokevirtual 111, 3) := dk_182 0 111 (dk_at dksX7_isKept_0 1 rfl rfl)
theorem dX7_isKept_4 : decode cX7_isKept 4 = .ok (.iload_n 1, 1) := dk_27 (dk_at dksX7_isKept_0 4 rfl rfl)
theorem dX7_isKept_5 : decode cX7_isKept 5 = .ok (.iand, 1) := dk_126 (dk_at dksX7_isKept_0 5 rfl rfl)
theorem dX7_isKept_6 : decode cX7_isKept 6 = .ok (.ifCond .eq 7, 3) := dk_153 0 7 (dk_at dksX7_isKept_0 6 rfl rfl)
theorem dX7_isKept_9 : decode cX7_isKept 9 = .ok (.iconst 1, 1) := dk_4 (dk_at dksX7_isKept_0 9 rfl rfl)
theorem dX7_isKept_10 : decode cX7_isKept 10 = .ok (.goto 4, 3) := dk_167 0 4 (dk_at dksX7_isKept_0 10 rfl rfl)
theorem dX7_isKept_13 : decode cX7_isKept 13 = .ok (.iconst 0, 1) := dk_3 (dk_at dksX7_isKept_0 13 rfl rfl)
theorem dX7_isKept_14 : decode cX7_isKept 14 = .ok (.ireturn, 1) := dk_172 (dk_at dksX7_isKept_0 14 rfl rfl)
abbrev cX7_kept : ByteArray := prog_15_method_7_code
def yX7_kept : MethodName := ⟨RX7, "kept", "()I"⟩
def dkwX7_kept_2 : List UInt8 := [167, 0, 4, 3, 128, 60, 132, 2, 1, 167, 255, 203, 27, 172]
abbrev dktX7_kept_2 : List UInt8 := dkwX7_kept_2 ++ []
def dkwX7_kept_1 : List UInt8 := [122, 4, 126, 4, 160, 0, 23, 42, 180, 0, 3, 180, 0, 96, 28, 182, 0, 102, 192, 0, 106, 182, 0, 108]
abbrev dktX7_kept_1 : List UInt8 := dkwX7_kept_1 ++ dktX7_kept_2
def dkwX7_kept_0 : List UInt8 := [3, 60, 3, 61, 28, 42, 180, 0, 3, 180, 0, 96, 182, 0, 19, 162, 0, 45, 27, 42, 180, 0, 99, 28]
abbrev dktX7_kept_0 : List UInt8 := dkwX7_kept_0 ++ dktX7_kept_1
theorem dksX7_kept_0 : cX7_kept.data.toList.drop 0 = dktX7_kept_0 := by decide +kernel
theorem dksX7_kept_1 : cX7_kept.data.toList.drop 24 = dktX7_kept_1 := dk_seg dksX7_kept_0 24 rfl rfl
theorem dksX7_kept_2 : cX7_kept.data.toList.drop 48 = dktX7_kept_2 := dk_seg dksX7_kept_1 24 rfl rfl
theorem dX7_kept_0 : decode cX7_kept 0 = .ok (.iconst 0, 1) := dk_3 (dk_at dksX7_kept_0 0 rfl rfl)
theorem dX7_kept_1 : decode cX7_kept 1 = .ok (.istore_n 1, 1) := dk_60 (dk_at dksX7_kept_0 1 rfl rfl)
theorem dX7_kept_2 : decode cX7_kept 2 = .ok (.iconst 0, 1) := dk_3 (dk_at dksX7_kept_0 2 rfl rfl)
theorem dX7_kept_3 : decode cX7_kept 3 = .ok (.istore_n 2, 1) := dk_61 (dk_at dksX7_kept_0 3 rfl rfl)
theorem dX7_kept_4 : decode cX7_kept 4 = .ok (.iload_n 2, 1) := dk_28 (dk_at dksX7_kept_0 4 rfl rfl)
theorem dX7_kept_5 : decode cX7_kept 5 = .ok (.aload_n 0, 1) := dk_42 (dk_at dksX7_kept_0 5 rfl rfl)
theorem dX7_kept_6 : decode cX7_kept 6 = .ok (.getfield 3, 3) := dk_180 0 3 (dk_at dksX7_kept_0 6 rfl rfl)
theorem dX7_kept_9 : decode cX7_kept 9 = .ok (.getfield 96, 3) := dk_180 0 96 (dk_at dksX7_kept_0 9 rfl rfl)
theorem dX7_kept_12 : decode cX7_kept 12 = .ok (.invokevirtual 19, 3) := dk_182 0 19 (dk_at dksX7_kept_0 12 rfl rfl)
theorem dX7_kept_15 : decode cX7_kept 15 = .ok (.if_icmp .ge 45, 3) := dk_162 0 45 (dk_at dksX7_kept_0 15 rfl rfl)
theorem dX7_kept_18 : decode cX7_kept 18 = .ok (.iload_n 1, 1) := dk_27 (dk_at dksX7_kept_0 18 rfl rfl)
theorem dX7_kept_19 : decode cX7_kept 19 = .ok (.aload_n 0, 1) := dk_42 (dk_at dksX7_kept_0 19 rfl rfl)
theorem dX7_kept_20 : decode cX7_kept 20 = .ok (.getfield 99, 3) := dk_180 0 99 (dk_at dksX7_kept_0 20 rfl rfl)
theorem dX7_kept_23 : decode cX7_kept 23 = .ok (.iload_n 2, 1) := dk_28 (dk_at dksX7_kept_0 23 rfl rfl)
theorem dX7_kept_24 : decode cX7_kept 24 = .ok (.ishr, 1) := dk_122 (dk_at dksX7_kept_1 0 rfl rfl)
theorem dX7_kept_25 : decode cX7_kept 25 = .ok (.iconst 1, 1) := dk_4 (dk_at dksX7_kept_1 1 rfl rfl)
theorem dX7_kept_26 : decode cX7_kept 26 = .ok (.iand, 1) := dk_126 (dk_at dksX7_kept_1 2 rfl rfl)
theorem dX7_kept_27 : decode cX7_kept 27 = .ok (.iconst 1, 1) := dk_4 (dk_at dksX7_kept_1 3 rfl rfl)
theorem dX7_kept_28 : decode cX7_kept 28 = .ok (.if_icmp .ne 23, 3) := dk_160 0 23 (dk_at dksX7_kept_1 4 rfl rfl)
theorem dX7_kept_31 : decode cX7_kept 31 = .ok (.aload_n 0, 1) := dk_42 (dk_at dksX7_kept_1 7 rfl rfl)
theorem dX7_kept_32 : decode cX7_kept 32 = .ok (.getfield 3, 3) := dk_180 0 3 (dk_at dksX7_kept_1 8 rfl rfl)
theorem dX7_kept_35 : decode cX7_kept 35 = .ok (.getfield 96, 3) := dk_180 0 96 (dk_at dksX7_kept_1 11 rfl rfl)
theorem dX7_kept_38 : decode cX7_kept 38 = .ok (.iload_n 2, 1) := dk_28 (dk_at dksX7_kept_1 14 rfl rfl)
theorem dX7_kept_39 : decode cX7_kept 39 = .ok (.invokevirtual 102, 3) := dk_182 0 102 (dk_at dksX7_kept_1 15 rfl rfl)
theorem dX7_kept_42 : decode cX7_kept 42 = .ok (.checkcast 106, 3) := dk_192 0 106 (dk_at dksX7_kept_1 18 rfl rfl)
theorem dX7_kept_45 : decode cX7_kept 45 = .ok (.invokevirtual 108, 3) := dk_182 0 108 (dk_at dksX7_kept_1 21 rfl rfl)
theorem dX7_kept_48 : decode cX7_kept 48 = .ok (.goto 4, 3) := dk_167 0 4 (dk_at dksX7_kept_2 0 rfl rfl)
theorem dX7_kept_51 : decode cX7_kept 51 = .ok (.iconst 0, 1) := dk_3 (dk_at dksX7_kept_2 3 rfl rfl)
theorem dX7_kept_52 : decode cX7_kept 52 = .ok (.ior, 1) := dk_128 (dk_at dksX7_kept_2 4 rfl rfl)
theorem dX7_kept_53 : decode cX7_kept 53 = .ok (.istore_n 1, 1) := dk_60 (dk_at dksX7_kept_2 5 rfl rfl)
theorem dX7_kept_54 : decode cX7_kept 54 = .ok (.iinc 2 1, 3) := dk_132 2 1 (dk_at dksX7_kept_2 6 rfl rfl)
theorem dX7_kept_57 : decode cX7_kept 57 = .ok (.goto (-53), 3) := dk_167 255 203 (dk_at dksX7_kept_2 9 rfl rfl)
theorem dX7_kept_60 : decode cX7_kept 60 = .ok (.iload_n 1, 1) := dk_27 (dk_at dksX7_kept_2 12 rfl rfl)
theorem dX7_kept_61 : decode cX7_kept 61 = .ok (.ireturn, 1) := dk_172 (dk_at dksX7_kept_2 13 rfl rfl)
abbrev cX7_eaten : ByteArray := prog_15_method_14_code
def yX7_eaten : MethodName := ⟨RX7, "eaten", "(I)I"⟩
def dkwX7_eaten_1 : List UInt8 := [184, 0, 152, 104, 172]
abbrev dktX7_eaten_1 : List UInt8 := dkwX7_eaten_1 ++ []
def dkwX7_eaten_0 : List UInt8 := [42, 7, 182, 0, 120, 153, 0, 7, 3, 167, 0, 17, 5, 27, 42, 180, 0, 52, 182, 0, 149, 126]
abbrev dktX7_eaten_0 : List UInt8 := dkwX7_eaten_0 ++ dktX7_eaten_1
theorem dksX7_eaten_0 : cX7_eaten.data.toList.drop 0 = dktX7_eaten_0 := by decide +kernel
theorem dksX7_eaten_1 : cX7_eaten.data.toList.drop 22 = dktX7_eaten_1 := dk_seg dksX7_eaten_0 22 rfl rfl
theorem dX7_eaten_0 : decode cX7_eaten 0 = .ok (.aload_n 0, 1) := dk_42 (dk_at dksX7_eaten_0 0 rfl rfl)
theorem dX7_eaten_1 : decode cX7_eaten 1 = .ok (.iconst 4, 1) := dk_7 (dk_at dksX7_eaten_0 1 rfl rfl)
theorem dX7_eaten_2 : decode cX7_eaten 2 = .ok (.invokevirtual 120, 3) := dk_182 0 120 (dk_at dksX7_eaten_0 2 rfl rfl)
theorem dX7_eaten_5 : decode cX7_eaten 5 = .ok (.ifCond .eq 7, 3) := dk_153 0 7 (dk_at dksX7_eaten_0 5 rfl rfl)
theorem dX7_eaten_8 : decode cX7_eaten 8 = .ok (.iconst 0, 1) := dk_3 (dk_at dksX7_eaten_0 8 rfl rfl)
theorem dX7_eaten_9 : decode cX7_eaten 9 = .ok (.goto 17, 3) := dk_167 0 17 (dk_at dksX7_eaten_0 9 rfl rfl)
theorem dX7_eaten_12 : decode cX7_eaten 12 = .ok (.iconst 2, 1) := dk_5 (dk_at dksX7_eaten_0 12 rfl rfl)
theorem dX7_eaten_13 : decode cX7_eaten 13 = .ok (.iload_n 1, 1) := dk_27 (dk_at dksX7_eaten_0 13 rfl rfl)
theorem dX7_eaten_14 : decode cX7_eaten 14 = .ok (.aload_n 0, 1) := dk_42 (dk_at dksX7_eaten_0 14 rfl rfl)
theorem dX7_eaten_15 : decode cX7_eaten 15 = .ok (.getfield 52, 3) := dk_180 0 52 (dk_at dksX7_eaten_0 15 rfl rfl)
theorem dX7_eaten_18 : decode cX7_eaten 18 = .ok (.invokevirtual 149, 3) := dk_182 0 149 (dk_at dksX7_eaten_0 18 rfl rfl)
theorem dX7_eaten_21 : decode cX7_eaten 21 = .ok (.iand, 1) := dk_126 (dk_at dksX7_eaten_0 21 rfl rfl)
theorem dX7_eaten_22 : decode cX7_eaten 22 = .ok (.invokestatic 152, 3) := dk_184 0 152 (dk_at dksX7_eaten_1 0 rfl rfl)
theorem dX7_eaten_25 : decode cX7_eaten 25 = .ok (.imul, 1) := dk_104 (dk_at dksX7_eaten_1 3 rfl rfl)
theorem dX7_eaten_26 : decode cX7_eaten 26 = .ok (.ireturn, 1) := dk_172 (dk_at dksX7_eaten_1 4 rfl rfl)
abbrev cX7_hurts : ByteArray := prog_15_method_13_code
def yX7_hurts : MethodName := ⟨RX7, "hurts", "(CI)I"⟩
def dkwX7_hurts_1 : List UInt8 := [157, 0, 9, 27, 16, 101, 160, 0, 9, 42, 27, 29, 182, 0, 72, 29, 172]
abbrev dktX7_hurts_1 : List UInt8 := dkwX7_hurts_1 ++ []
def dkwX7_hurts_0 : List UInt8 := [28, 17, 3, 232, 42, 180, 0, 140, 100, 184, 0, 143, 62, 42, 89, 180, 0, 140, 29, 96, 181, 0, 140, 29]
abbrev dktX7_hurts_0 : List UInt8 := dkwX7_hurts_0 ++ dktX7_hurts_1
theorem dksX7_hurts_0 : cX7_hurts.data.toList.drop 0 = dktX7_hurts_0 := by decide +kernel
theorem dksX7_hurts_1 : cX7_hurts.data.toList.drop 24 = dktX7_hurts_1 := dk_seg dksX7_hurts_0 24 rfl rfl
theorem dX7_hurts_0 : decode cX7_hurts 0 = .ok (.iload_n 2, 1) := dk_28 (dk_at dksX7_hurts_0 0 rfl rfl)
theorem dX7_hurts_1 : decode cX7_hurts 1 = .ok (.sipush 1000, 3) := dk_17 3 232 (dk_at dksX7_hurts_0 1 rfl rfl)
theorem dX7_hurts_4 : decode cX7_hurts 4 = .ok (.aload_n 0, 1) := dk_42 (dk_at dksX7_hurts_0 4 rfl rfl)
theorem dX7_hurts_5 : decode cX7_hurts 5 = .ok (.getfield 140, 3) := dk_180 0 140 (dk_at dksX7_hurts_0 5 rfl rfl)
theorem dX7_hurts_8 : decode cX7_hurts 8 = .ok (.isub, 1) := dk_100 (dk_at dksX7_hurts_0 8 rfl rfl)
theorem dX7_hurts_9 : decode cX7_hurts 9 = .ok (.invokestatic 143, 3) := dk_184 0 143 (dk_at dksX7_hurts_0 9 rfl rfl)
theorem dX7_hurts_12 : decode cX7_hurts 12 = .ok (.istore_n 3, 1) := dk_62 (dk_at dksX7_hurts_0 12 rfl rfl)
theorem dX7_hurts_13 : decode cX7_hurts 13 = .ok (.aload_n 0, 1) := dk_42 (dk_at dksX7_hurts_0 13 rfl rfl)
theorem dX7_hurts_14 : decode cX7_hurts 14 = .ok (.dup, 1) := dk_89 (dk_at dksX7_hurts_0 14 rfl rfl)
theorem dX7_hurts_15 : decode cX7_hurts 15 = .ok (.getfield 140, 3) := dk_180 0 140 (dk_at dksX7_hurts_0 15 rfl rfl)
theorem dX7_hurts_18 : decode cX7_hurts 18 = .ok (.iload_n 3, 1) := dk_29 (dk_at dksX7_hurts_0 18 rfl rfl)
theorem dX7_hurts_19 : decode cX7_hurts 19 = .ok (.iadd, 1) := dk_96 (dk_at dksX7_hurts_0 19 rfl rfl)
theorem dX7_hurts_20 : decode cX7_hurts 20 = .ok (.putfield 140, 3) := dk_181 0 140 (dk_at dksX7_hurts_0 20 rfl rfl)
theorem dX7_hurts_23 : decode cX7_hurts 23 = .ok (.iload_n 3, 1) := dk_29 (dk_at dksX7_hurts_0 23 rfl rfl)
theorem dX7_hurts_24 : decode cX7_hurts 24 = .ok (.ifCond .gt 9, 3) := dk_157 0 9 (dk_at dksX7_hurts_1 0 rfl rfl)
theorem dX7_hurts_27 : decode cX7_hurts 27 = .ok (.iload_n 1, 1) := dk_27 (dk_at dksX7_hurts_1 3 rfl rfl)
theorem dX7_hurts_28 : decode cX7_hurts 28 = .ok (.bipush 101, 2) := dk_16 101 (dk_at dksX7_hurts_1 4 rfl rfl)
theorem dX7_hurts_30 : decode cX7_hurts 30 = .ok (.if_icmp .ne 9, 3) := dk_160 0 9 (dk_at dksX7_hurts_1 6 rfl rfl)
theorem dX7_hurts_33 : decode cX7_hurts 33 = .ok (.aload_n 0, 1) := dk_42 (dk_at dksX7_hurts_1 9 rfl rfl)
theorem dX7_hurts_34 : decode cX7_hurts 34 = .ok (.iload_n 1, 1) := dk_27 (dk_at dksX7_hurts_1 10 rfl rfl)
theorem dX7_hurts_35 : decode cX7_hurts 35 = .ok (.iload_n 3, 1) := dk_29 (dk_at dksX7_hurts_1 11 rfl rfl)
theorem dX7_hurts_36 : decode cX7_hurts 36 = .ok (.invokevirtual 72, 3) := dk_182 0 72 (dk_at dksX7_hurts_1 12 rfl rfl)
theorem dX7_hurts_39 : decode cX7_hurts 39 = .ok (.iload_n 3, 1) := dk_29 (dk_at dksX7_hurts_1 15 rfl rfl)
theorem dX7_hurts_40 : decode cX7_hurts 40 = .ok (.ireturn, 1) := dk_172 (dk_at dksX7_hurts_1 16 rfl rfl)
abbrev cX7_worth : ByteArray := prog_15_method_11_code
def yX7_worth : MethodName := ⟨RX7, "worth", "()I"⟩
def dkwX7_worth_1 : List UInt8 := [185, 0, 136, 1, 0, 192, 0, 4, 78, 27, 45, 180, 0, 56, 96, 60, 167, 255, 230, 27, 172]
abbrev dktX7_worth_1 : List UInt8 := dkwX7_worth_1 ++ []
def dkwX7_worth_0 : List UInt8 := [42, 180, 0, 56, 60, 42, 180, 0, 30, 182, 0, 127, 77, 44, 185, 0, 131, 1, 0, 153, 0, 23, 44]
abbrev dktX7_worth_0 : List UInt8 := dkwX7_worth_0 ++ dktX7_worth_1
theorem dksX7_worth_0 : cX7_worth.data.toList.drop 0 = dktX7_worth_0 := by decide +kernel
theorem dksX7_worth_1 : cX7_worth.data.toList.drop 23 = dktX7_worth_1 := dk_seg dksX7_worth_0 23 rfl rfl
theorem dX7_worth_0 : decode cX7_worth 0 = .ok (.aload_n 0, 1) := dk_42 (dk_at dksX7_worth_0 0 rfl rfl)
theorem dX7_worth_1 : decode cX7_worth 1 = .ok (.getfield 56, 3) := dk_180 0 56 (dk_at dksX7_worth_0 1 rfl rfl)
theorem dX7_worth_4 : decode cX7_worth 4 = .ok (.istore_n 1, 1) := dk_60 (dk_at dksX7_worth_0 4 rfl rfl)
theorem dX7_worth_5 : decode cX7_worth 5 = .ok (.aload_n 0, 1) := dk_42 (dk_at dksX7_worth_0 5 rfl rfl)
theorem dX7_worth_6 : decode cX7_worth 6 = .ok (.getfield 30, 3) := dk_180 0 30 (dk_at dksX7_worth_0 6 rfl rfl)
theorem dX7_worth_9 : decode cX7_worth 9 = .ok (.invokevirtual 127, 3) := dk_182 0 127 (dk_at dksX7_worth_0 9 rfl rfl)
theorem dX7_worth_12 : decode cX7_worth 12 = .ok (.astore_n 2, 1) := dk_77 (dk_at dksX7_worth_0 12 rfl rfl)
theorem dX7_worth_13 : decode cX7_worth 13 = .ok (.aload_n 2, 1) := dk_44 (dk_at dksX7_worth_0 13 rfl rfl)
theorem dX7_worth_14 : decode cX7_worth 14 = .ok (.invokeinterface 131 1, 5) := by decide +kernel
theorem dX7_worth_19 : decode cX7_worth 19 = .ok (.ifCond .eq 23, 3) := dk_153 0 23 (dk_at dksX7_worth_0 19 rfl rfl)
theorem dX7_worth_22 : decode cX7_worth 22 = .ok (.aload_n 2, 1) := dk_44 (dk_at dksX7_worth_0 22 rfl rfl)
theorem dX7_worth_23 : decode cX7_worth 23 = .ok (.invokeinterface 136 1, 5) := by decide +kernel
theorem dX7_worth_28 : decode cX7_worth 28 = .ok (.checkcast 4, 3) := dk_192 0 4 (dk_at dksX7_worth_1 5 rfl rfl)
theorem dX7_worth_31 : decode cX7_worth 31 = .ok (.astore_n 3, 1) := dk_78 (dk_at dksX7_worth_1 8 rfl rfl)
theorem dX7_worth_32 : decode cX7_worth 32 = .ok (.iload_n 1, 1) := dk_27 (dk_at dksX7_worth_1 9 rfl rfl)
theorem dX7_worth_33 : decode cX7_worth 33 = .ok (.aload_n 3, 1) := dk_45 (dk_at dksX7_worth_1 10 rfl rfl)
theorem dX7_worth_34 : decode cX7_worth 34 = .ok (.getfield 56, 3) := dk_180 0 56 (dk_at dksX7_worth_1 11 rfl rfl)
theorem dX7_worth_37 : decode cX7_worth 37 = .ok (.iadd, 1) := dk_96 (dk_at dksX7_worth_1 14 rfl rfl)
theorem dX7_worth_38 : decode cX7_worth 38 = .ok (.istore_n 1, 1) := dk_60 (dk_at dksX7_worth_1 15 rfl rfl)
theorem dX7_worth_39 : decode cX7_worth 39 = .ok (.goto (-26), 3) := dk_167 255 230 (dk_at dksX7_worth_1 16 rfl rfl)
theorem dX7_worth_42 : decode cX7_worth 42 = .ok (.iload_n 1, 1) := dk_27 (dk_at dksX7_worth_1 19 rfl rfl)
theorem dX7_worth_43 : decode cX7_worth 43 = .ok (.ireturn, 1) := dk_172 (dk_at dksX7_worth_1 20 rfl rfl)
abbrev cX7_goes : ByteArray := prog_15_method_19_code
def yX7_goes : MethodName := ⟨RX7, "goes", "(CI)V"⟩
def dkwX7_goes_1 : List UInt8 := [167, 0, 15, 27, 16, 119, 160, 0, 8, 16, 114, 167, 0, 4, 27, 28, 182, 0, 72, 177]
abbrev dktX7_goes_1 : List UInt8 := dkwX7_goes_1 ++ []
def dkwX7_goes_0 : List UInt8 := [27, 16, 98, 159, 0, 7, 42, 182, 0, 199, 42, 27, 181, 0, 39, 42, 27, 16, 108, 160, 0, 8, 16, 111]
abbrev dktX7_goes_0 : List UInt8 := dkwX7_goes_0 ++ dktX7_goes_1
theorem dksX7_goes_0 : cX7_goes.data.toList.drop 0 = dktX7_goes_0 := by decide +kernel
theorem dksX7_goes_1 : cX7_goes.data.toList.drop 24 = dktX7_goes_1 := dk_seg dksX7_goes_0 24 rfl rfl
theorem dX7_goes_0 : decode cX7_goes 0 = .ok (.iload_n 1, 1) := dk_27 (dk_at dksX7_goes_0 0 rfl rfl)
theorem dX7_goes_1 : decode cX7_goes 1 = .ok (.bipush 98, 2) := dk_16 98 (dk_at dksX7_goes_0 1 rfl rfl)
theorem dX7_goes_3 : decode cX7_goes 3 = .ok (.if_icmp .eq 7, 3) := dk_159 0 7 (dk_at dksX7_goes_0 3 rfl rfl)
theorem dX7_goes_6 : decode cX7_goes 6 = .ok (.aload_n 0, 1) := dk_42 (dk_at dksX7_goes_0 6 rfl rfl)
theorem dX7_goes_7 : decode cX7_goes 7 = .ok (.invokevirtual 199, 3) := dk_182 0 199 (dk_at dksX7_goes_0 7 rfl rfl)
theorem dX7_goes_10 : decode cX7_goes 10 = .ok (.aload_n 0, 1) := dk_42 (dk_at dksX7_goes_0 10 rfl rfl)
theorem dX7_goes_11 : decode cX7_goes 11 = .ok (.iload_n 1, 1) := dk_27 (dk_at dksX7_goes_0 11 rfl rfl)
theorem dX7_goes_12 : decode cX7_goes 12 = .ok (.putfield 39, 3) := dk_181 0 39 (dk_at dksX7_goes_0 12 rfl rfl)
theorem dX7_goes_15 : decode cX7_goes 15 = .ok (.aload_n 0, 1) := dk_42 (dk_at dksX7_goes_0 15 rfl rfl)
theorem dX7_goes_16 : decode cX7_goes 16 = .ok (.iload_n 1, 1) := dk_27 (dk_at dksX7_goes_0 16 rfl rfl)
theorem dX7_goes_17 : decode cX7_goes 17 = .ok (.bipush 108, 2) := dk_16 108 (dk_at dksX7_goes_0 17 rfl rfl)
theorem dX7_goes_19 : decode cX7_goes 19 = .ok (.if_icmp .ne 8, 3) := dk_160 0 8 (dk_at dksX7_goes_0 19 rfl rfl)
theorem dX7_goes_22 : decode cX7_goes 22 = .ok (.bipush 111, 2) := dk_16 111 (dk_at dksX7_goes_0 22 rfl rfl)
theorem dX7_goes_24 : decode cX7_goes 24 = .ok (.goto 15, 3) := dk_167 0 15 (dk_at dksX7_goes_1 0 rfl rfl)
theorem dX7_goes_27 : decode cX7_goes 27 = .ok (.iload_n 1, 1) := dk_27 (dk_at dksX7_goes_1 3 rfl rfl)
theorem dX7_goes_28 : decode cX7_goes 28 = .ok (.bipush 119, 2) := dk_16 119 (dk_at dksX7_goes_1 4 rfl rfl)
theorem dX7_goes_30 : decode cX7_goes 30 = .ok (.if_icmp .ne 8, 3) := dk_160 0 8 (dk_at dksX7_goes_1 6 rfl rfl)
theorem dX7_goes_33 : decode cX7_goes 33 = .ok (.bipush 114, 2) := dk_16 114 (dk_at dksX7_goes_1 9 rfl rfl)
theorem dX7_goes_35 : decode cX7_goes 35 = .ok (.goto 4, 3) := dk_167 0 4 (dk_at dksX7_goes_1 11 rfl rfl)
theorem dX7_goes_38 : decode cX7_goes 38 = .ok (.iload_n 1, 1) := dk_27 (dk_at dksX7_goes_1 14 rfl rfl)
theorem dX7_goes_39 : decode cX7_goes 39 = .ok (.iload_n 2, 1) := dk_28 (dk_at dksX7_goes_1 15 rfl rfl)
theorem dX7_goes_40 : decode cX7_goes 40 = .ok (.invokevirtual 72, 3) := dk_182 0 72 (dk_at dksX7_goes_1 16 rfl rfl)
theorem dX7_goes_43 : decode cX7_goes 43 = .ok (.return_, 1) := dk_177 (dk_at dksX7_goes_1 19 rfl rfl)
abbrev cX7_claimant : ByteArray := prog_15_method_20_code
def yX7_claimant : MethodName := ⟨RX7, "claimant", "(I)I"⟩
def dkwX7_claimant_4 : List UInt8 := [2, 172]
abbrev dktX7_claimant_4 : List UInt8 := dkwX7_claimant_4 ++ []
def dkwX7_claimant_3 : List UInt8 := [100, 27, 163, 0, 22, 42, 180, 0, 36, 28, 4, 100, 182, 0, 102, 192, 0, 206, 182, 0, 217, 167, 0, 4]
abbrev dktX7_claimant_3 : List UInt8 := dkwX7_claimant_3 ++ dktX7_claimant_4
def dkwX7_claimant_2 : List UInt8 := [159, 0, 48, 42, 180, 0, 3, 182, 0, 211, 42, 180, 0, 36, 28, 182, 0, 102, 192, 0, 206, 182, 0, 214]
abbrev dktX7_claimant_2 : List UInt8 := dkwX7_claimant_2 ++ dktX7_claimant_3
def dkwX7_claimant_1 : List UInt8 := [192, 0, 206, 182, 0, 208, 153, 0, 7, 29, 167, 0, 4, 28, 61, 132, 3, 1, 167, 255, 219, 28, 2]
abbrev dktX7_claimant_1 : List UInt8 := dkwX7_claimant_1 ++ dktX7_claimant_2
def dkwX7_claimant_0 : List UInt8 := [2, 61, 4, 62, 29, 42, 180, 0, 36, 182, 0, 19, 162, 0, 32, 42, 180, 0, 36, 29, 182, 0, 102]
abbrev dktX7_claimant_0 : List UInt8 := dkwX7_claimant_0 ++ dktX7_claimant_1
theorem dksX7_claimant_0 : cX7_claimant.data.toList.drop 0 = dktX7_claimant_0 := by decide +kernel
theorem dksX7_claimant_1 : cX7_claimant.data.toList.drop 23 = dktX7_claimant_1 := dk_seg dksX7_claimant_0 23 rfl rfl
theorem dksX7_claimant_2 : cX7_claimant.data.toList.drop 46 = dktX7_claimant_2 := dk_seg dksX7_claimant_1 23 rfl rfl
theorem dksX7_claimant_3 : cX7_claimant.data.toList.drop 70 = dktX7_claimant_3 := dk_seg dksX7_claimant_2 24 rfl rfl
theorem dksX7_claimant_4 : cX7_claimant.data.toList.drop 94 = dktX7_claimant_4 := dk_seg dksX7_claimant_3 24 rfl rfl
theorem dX7_claimant_0 : decode cX7_claimant 0 = .ok (.iconst (-1), 1) := dk_2 (dk_at dksX7_claimant_0 0 rfl rfl)
theorem dX7_claimant_1 : decode cX7_claimant 1 = .ok (.istore_n 2, 1) := dk_61 (dk_at dksX7_claimant_0 1 rfl rfl)
theorem dX7_claimant_2 : decode cX7_claimant 2 = .ok (.iconst 1, 1) := dk_4 (dk_at dksX7_claimant_0 2 rfl rfl)
theorem dX7_claimant_3 : decode cX7_claimant 3 = .ok (.istore_n 3, 1) := dk_62 (dk_at dksX7_claimant_0 3 rfl rfl)
theorem dX7_claimant_4 : decode cX7_claimant 4 = .ok (.iload_n 3, 1) := dk_29 (dk_at dksX7_claimant_0 4 rfl rfl)
theorem dX7_claimant_5 : decode cX7_claimant 5 = .ok (.aload_n 0, 1) := dk_42 (dk_at dksX7_claimant_0 5 rfl rfl)
theorem dX7_claimant_6 : decode cX7_claimant 6 = .ok (.getfield 36, 3) := dk_180 0 36 (dk_at dksX7_claimant_0 6 rfl rfl)
theorem dX7_claimant_9 : decode cX7_claimant 9 = .ok (.invokevirtual 19, 3) := dk_182 0 19 (dk_at dksX7_claimant_0 9 rfl rfl)
theorem dX7_claimant_12 : decode cX7_claimant 12 = .ok (.if_icmp .ge 32, 3) := dk_162 0 32 (dk_at dksX7_claimant_0 12 rfl rfl)
theorem dX7_claimant_15 : decode cX7_claimant 15 = .ok (.aload_n 0, 1) := dk_42 (dk_at dksX7_claimant_0 15 rfl rfl)
theorem dX7_claimant_16 : decode cX7_claimant 16 = .ok (.getfield 36, 3) := dk_180 0 36 (dk_at dksX7_claimant_0 16 rfl rfl)
theorem dX7_claimant_19 : decode cX7_claimant 19 = .ok (.iload_n 3, 1) := dk_29 (dk_at dksX7_claimant_0 19 rfl rfl)
theorem dX7_claimant_20 : decode cX7_claimant 20 = .ok (.invokevirtual 102, 3) := dk_182 0 102 (dk_at dksX7_claimant_0 20 rfl rfl)
theorem dX7_claimant_23 : decode cX7_claimant 23 = .ok (.checkcast 206, 3) := dk_192 0 206 (dk_at dksX7_claimant_1 0 rfl rfl)
theorem dX7_claimant_26 : decode cX7_claimant 26 = .ok (.invokevirtual 208, 3) := dk_182 0 208 (dk_at dksX7_claimant_1 3 rfl rfl)
theorem dX7_claimant_29 : decode cX7_claimant 29 = .ok (.ifCond .eq 7, 3) := dk_153 0 7 (dk_at dksX7_claimant_1 6 rfl rfl)
theorem dX7_claimant_32 : decode cX7_claimant 32 = .ok (.iload_n 3, 1) := dk_29 (dk_at dksX7_claimant_1 9 rfl rfl)
theorem dX7_claimant_33 : decode cX7_claimant 33 = .ok (.goto 4, 3) := dk_167 0 4 (dk_at dksX7_claimant_1 10 rfl rfl)
theorem dX7_claimant_36 : decode cX7_claimant 36 = .ok (.iload_n 2, 1) := dk_28 (dk_at dksX7_claimant_1 13 rfl rfl)
theorem dX7_claimant_37 : decode cX7_claimant 37 = .ok (.istore_n 2, 1) := dk_61 (dk_at dksX7_claimant_1 14 rfl rfl)
theorem dX7_claimant_38 : decode cX7_claimant 38 = .ok (.iinc 3 1, 3) := dk_132 3 1 (dk_at dksX7_claimant_1 15 rfl rfl)
theorem dX7_claimant_41 : decode cX7_claimant 41 = .ok (.goto (-37), 3) := dk_167 255 219 (dk_at dksX7_claimant_1 18 rfl rfl)
theorem dX7_claimant_44 : decode cX7_claimant 44 = .ok (.iload_n 2, 1) := dk_28 (dk_at dksX7_claimant_1 21 rfl rfl)
theorem dX7_claimant_45 : decode cX7_claimant 45 = .ok (.iconst (-1), 1) := dk_2 (dk_at dksX7_claimant_1 22 rfl rfl)
theorem dX7_claimant_46 : decode cX7_claimant 46 = .ok (.if_icmp .eq 48, 3) := dk_159 0 48 (dk_at dksX7_claimant_2 0 rfl rfl)
theorem dX7_claimant_49 : decode cX7_claimant 49 = .ok (.aload_n 0, 1) := dk_42 (dk_at dksX7_claimant_2 3 rfl rfl)
theorem dX7_claimant_50 : decode cX7_claimant 50 = .ok (.getfield 3, 3) := dk_180 0 3 (dk_at dksX7_claimant_2 4 rfl rfl)
theorem dX7_claimant_53 : decode cX7_claimant 53 = .ok (.invokevirtual 211, 3) := dk_182 0 211 (dk_at dksX7_claimant_2 7 rfl rfl)
theorem dX7_claimant_56 : decode cX7_claimant 56 = .ok (.aload_n 0, 1) := dk_42 (dk_at dksX7_claimant_2 10 rfl rfl)
theorem dX7_claimant_57 : decode cX7_claimant 57 = .ok (.getfield 36, 3) := dk_180 0 36 (dk_at dksX7_claimant_2 11 rfl rfl)
theorem dX7_claimant_60 : decode cX7_claimant 60 = .ok (.iload_n 2, 1) := dk_28 (dk_at dksX7_claimant_2 14 rfl rfl)
theorem dX7_claimant_61 : decode cX7_claimant 61 = .ok (.invokevirtual 102, 3) := dk_182 0 102 (dk_at dksX7_claimant_2 15 rfl rfl)
theorem dX7_claimant_64 : decode cX7_claimant 64 = .ok (.checkcast 206, 3) := dk_192 0 206 (dk_at dksX7_claimant_2 18 rfl rfl)
theorem dX7_claimant_67 : decode cX7_claimant 67 = .ok (.invokevirtual 214, 3) := dk_182 0 214 (dk_at dksX7_claimant_2 21 rfl rfl)
theorem dX7_claimant_70 : decode cX7_claimant 70 = .ok (.isub, 1) := dk_100 (dk_at dksX7_claimant_3 0 rfl rfl)
theorem dX7_claimant_71 : decode cX7_claimant 71 = .ok (.iload_n 1, 1) := dk_27 (dk_at dksX7_claimant_3 1 rfl rfl)
theorem dX7_claimant_72 : decode cX7_claimant 72 = .ok (.if_icmp .gt 22, 3) := dk_163 0 22 (dk_at dksX7_claimant_3 2 rfl rfl)
theorem dX7_claimant_75 : decode cX7_claimant 75 = .ok (.aload_n 0, 1) := dk_42 (dk_at dksX7_claimant_3 5 rfl rfl)
theorem dX7_claimant_76 : decode cX7_claimant 76 = .ok (.getfield 36, 3) := dk_180 0 36 (dk_at dksX7_claimant_3 6 rfl rfl)
theorem dX7_claimant_79 : decode cX7_claimant 79 = .ok (.iload_n 2, 1) := dk_28 (dk_at dksX7_claimant_3 9 rfl rfl)
theorem dX7_claimant_80 : decode cX7_claimant 80 = .ok (.iconst 1, 1) := dk_4 (dk_at dksX7_claimant_3 10 rfl rfl)
theorem dX7_claimant_81 : decode cX7_claimant 81 = .ok (.isub, 1) := dk_100 (dk_at dksX7_claimant_3 11 rfl rfl)
theorem dX7_claimant_82 : decode cX7_claimant 82 = .ok (.invokevirtual 102, 3) := dk_182 0 102 (dk_at dksX7_claimant_3 12 rfl rfl)
theorem dX7_claimant_85 : decode cX7_claimant 85 = .ok (.checkcast 206, 3) := dk_192 0 206 (dk_at dksX7_claimant_3 15 rfl rfl)
theorem dX7_claimant_88 : decode cX7_claimant 88 = .ok (.invokevirtual 217, 3) := dk_182 0 217 (dk_at dksX7_claimant_3 18 rfl rfl)
theorem dX7_claimant_91 : decode cX7_claimant 91 = .ok (.goto 4, 3) := dk_167 0 4 (dk_at dksX7_claimant_3 21 rfl rfl)
theorem dX7_claimant_94 : decode cX7_claimant 94 = .ok (.iconst (-1), 1) := dk_2 (dk_at dksX7_claimant_4 0 rfl rfl)
theorem dX7_claimant_95 : decode cX7_claimant 95 = .ok (.ireturn, 1) := dk_172 (dk_at dksX7_claimant_4 1 rfl rfl)
abbrev cX7_isTakenForFake : ByteArray := prog_15_method_21_code
def yX7_isTakenForFake : MethodName := ⟨RX7, "isTakenForFake", "()Z"⟩
def dkwX7_isTakenForFake_0 : List UInt8 := [42, 180, 0, 49, 20, 0, 220, 109, 42, 180, 0, 45, 148, 155, 0, 7, 4, 167, 0, 4, 3, 172]
abbrev dktX7_isTakenForFake_0 : List UInt8 := dkwX7_isTakenForFake_0 ++ []
theorem dksX7_isTakenForFake_0 : cX7_isTakenForFake.data.toList.drop 0 = dktX7_isTakenForFake_0 := by decide +kernel
theorem dX7_isTakenForFake_0 : decode cX7_isTakenForFake 0 = .ok (.aload_n 0, 1) := dk_42 (dk_at dksX7_isTakenForFake_0 0 rfl rfl)
theorem dX7_isTakenForFake_1 : decode cX7_isTakenForFake 1 = .ok (.getfield 49, 3) := dk_180 0 49 (dk_at dksX7_isTakenForFake_0 1 rfl rfl)
theorem dX7_isTakenForFake_4 : decode cX7_isTakenForFake 4 = .ok (.ldc2_w 220, 3) := dk_20 0 220 (dk_at dksX7_isTakenForFake_0 4 rfl rfl)
theorem dX7_isTakenForFake_7 : decode cX7_isTakenForFake 7 = .ok (.ldiv, 1) := dk_109 (dk_at dksX7_isTakenForFake_0 7 rfl rfl)
theorem dX7_isTakenForFake_8 : decode cX7_isTakenForFake 8 = .ok (.aload_n 0, 1) := dk_42 (dk_at dksX7_isTakenForFake_0 8 rfl rfl)
theorem dX7_isTakenForFake_9 : decode cX7_isTakenForFake 9 = .ok (.getfield 45, 3) := dk_180 0 45 (dk_at dksX7_isTakenForFake_0 9 rfl rfl)
theorem dX7_isTakenForFake_12 : decode cX7_isTakenForFake 12 = .ok (.lcmp, 1) := dk_148 (dk_at dksX7_isTakenForFake_0 12 rfl rfl)
theorem dX7_isTakenForFake_13 : decode cX7_isTakenForFake 13 = .ok (.ifCond .lt 7, 3) := dk_155 0 7 (dk_at dksX7_isTakenForFake_0 13 rfl rfl)
theorem dX7_isTakenForFake_16 : decode cX7_isTakenForFake 16 = .ok (.iconst 1, 1) := dk_4 (dk_at dksX7_isTakenForFake_0 16 rfl rfl)
theorem dX7_isTakenForFake_17 : decode cX7_isTakenForFake 17 = .ok (.goto 4, 3) := dk_167 0 4 (dk_at dksX7_isTakenForFake_0 17 rfl rfl)
theorem dX7_isTakenForFake_20 : decode cX7_isTakenForFake 20 = .ok (.iconst 0, 1) := dk_3 (dk_at dksX7_isTakenForFake_0 20 rfl rfl)
theorem dX7_isTakenForFake_21 : decode cX7_isTakenForFake 21 = .ok (.ireturn, 1) := dk_172 (dk_at dksX7_isTakenForFake_0 21 rfl rfl)
abbrev cX7_isAnyWet : ByteArray := prog_15_method_10_code
def yX7_isAnyWet : MethodName := ⟨RX7, "isAnyWet", "()Z"⟩
def dkwX7_isAnyWet_1 : List UInt8 := [185, 0, 136, 1, 0, 192, 0, 4, 78, 27, 45, 182, 0, 124, 128, 60, 167, 255, 230, 27, 172]
abbrev dktX7_isAnyWet_1 : List UInt8 := dkwX7_isAnyWet_1 ++ []
def dkwX7_isAnyWet_0 : List UInt8 := [42, 182, 0, 124, 60, 42, 180, 0, 30, 182, 0, 127, 77, 44, 185, 0, 131, 1, 0, 153, 0, 23, 44]
abbrev dktX7_isAnyWet_0 : List UInt8 := dkwX7_isAnyWet_0 ++ dktX7_isAnyWet_1
theorem dksX7_isAnyWet_0 : cX7_isAnyWet.data.toList.drop 0 = dktX7_isAnyWet_0 := by decide +kernel
theorem dksX7_isAnyWet_1 : cX7_isAnyWet.data.toList.drop 23 = dktX7_isAnyWet_1 := dk_seg dksX7_isAnyWet_0 23 rfl rfl
theorem dX7_isAnyWet_0 : decode cX7_isAnyWet 0 = .ok (.aload_n 0, 1) := dk_42 (dk_at dksX7_isAnyWet_0 0 rfl rfl)
theorem dX7_isAnyWet_1 : decode cX7_isAnyWet 1 = .ok (.invokevirtual 124, 3) := dk_182 0 124 (dk_at dksX7_isAnyWet_0 1 rfl rfl)
theorem dX7_isAnyWet_4 : decode cX7_isAnyWet 4 = .ok (.istore_n 1, 1) := dk_60 (dk_at dksX7_isAnyWet_0 4 rfl rfl)
theorem dX7_isAnyWet_5 : decode cX7_isAnyWet 5 = .ok (.aload_n 0, 1) := dk_42 (dk_at dksX7_isAnyWet_0 5 rfl rfl)
theorem dX7_isAnyWet_6 : decode cX7_isAnyWet 6 = .ok (.getfield 30, 3) := dk_180 0 30 (dk_at dksX7_isAnyWet_0 6 rfl rfl)
theorem dX7_isAnyWet_9 : decode cX7_isAnyWet 9 = .ok (.invokevirtual 127, 3) := dk_182 0 127 (dk_at dksX7_isAnyWet_0 9 rfl rfl)
theorem dX7_isAnyWet_12 : decode cX7_isAnyWet 12 = .ok (.astore_n 2, 1) := dk_77 (dk_at dksX7_isAnyWet_0 12 rfl rfl)
theorem dX7_isAnyWet_13 : decode cX7_isAnyWet 13 = .ok (.aload_n 2, 1) := dk_44 (dk_at dksX7_isAnyWet_0 13 rfl rfl)
theorem dX7_isAnyWet_14 : decode cX7_isAnyWet 14 = .ok (.invokeinterface 131 1, 5) := by decide +kernel
theorem dX7_isAnyWet_19 : decode cX7_isAnyWet 19 = .ok (.ifCond .eq 23, 3) := dk_153 0 23 (dk_at dksX7_isAnyWet_0 19 rfl rfl)
theorem dX7_isAnyWet_22 : decode cX7_isAnyWet 22 = .ok (.aload_n 2, 1) := dk_44 (dk_at dksX7_isAnyWet_0 22 rfl rfl)
theorem dX7_isAnyWet_23 : decode cX7_isAnyWet 23 = .ok (.invokeinterface 136 1, 5) := by decide +kernel
theorem dX7_isAnyWet_28 : decode cX7_isAnyWet 28 = .ok (.checkcast 4, 3) := dk_192 0 4 (dk_at dksX7_isAnyWet_1 5 rfl rfl)
theorem dX7_isAnyWet_31 : decode cX7_isAnyWet 31 = .ok (.astore_n 3, 1) := dk_78 (dk_at dksX7_isAnyWet_1 8 rfl rfl)
theorem dX7_isAnyWet_32 : decode cX7_isAnyWet 32 = .ok (.iload_n 1, 1) := dk_27 (dk_at dksX7_isAnyWet_1 9 rfl rfl)
theorem dX7_isAnyWet_33 : decode cX7_isAnyWet 33 = .ok (.aload_n 3, 1) := dk_45 (dk_at dksX7_isAnyWet_1 10 rfl rfl)
theorem dX7_isAnyWet_34 : decode cX7_isAnyWet 34 = .ok (.invokevirtual 124, 3) := dk_182 0 124 (dk_at dksX7_isAnyWet_1 11 rfl rfl)
theorem dX7_isAnyWet_37 : decode cX7_isAnyWet 37 = .ok (.ior, 1) := dk_128 (dk_at dksX7_isAnyWet_1 14 rfl rfl)
theorem dX7_isAnyWet_38 : decode cX7_isAnyWet 38 = .ok (.istore_n 1, 1) := dk_60 (dk_at dksX7_isAnyWet_1 15 rfl rfl)
theorem dX7_isAnyWet_39 : decode cX7_isAnyWet 39 = .ok (.goto (-26), 3) := dk_167 255 230 (dk_at dksX7_isAnyWet_1 16 rfl rfl)
theorem dX7_isAnyWet_42 : decode cX7_isAnyWet 42 = .ok (.iload_n 1, 1) := dk_27 (dk_at dksX7_isAnyWet_1 19 rfl rfl)
theorem dX7_isAnyWet_43 : decode cX7_isAnyWet 43 = .ok (.ireturn, 1) := dk_172 (dk_at dksX7_isAnyWet_1 20 rfl rfl)
abbrev cX7_isWet : ByteArray := prog_15_method_9_code
def yX7_isWet : MethodName := ⟨RX7, "isWet", "()Z"⟩
def dkwX7_isWet_1 : List UInt8 := [172]
abbrev dktX7_isWet_1 : List UInt8 := dkwX7_isWet_1 ++ []
def dkwX7_isWet_0 : List UInt8 := [42, 180, 0, 52, 182, 0, 114, 153, 0, 16, 42, 16, 8, 182, 0, 120, 154, 0, 7, 4, 167, 0, 4, 3]
abbrev dktX7_isWet_0 : List UInt8 := dkwX7_isWet_0 ++ dktX7_isWet_1
theorem dksX7_isWet_0 : cX7_isWet.data.toList.drop 0 = dktX7_isWet_0 := by decide +kernel
theorem dksX7_isWet_1 : cX7_isWet.data.toList.drop 24 = dktX7_isWet_1 := dk_seg dksX7_isWet_0 24 rfl rfl
theorem dX7_isWet_0 : decode cX7_isWet 0 = .ok (.aload_n 0, 1) := dk_42 (dk_at dksX7_isWet_0 0 rfl rfl)
theorem dX7_isWet_1 : decode cX7_isWet 1 = .ok (.getfield 52, 3) := dk_180 0 52 (dk_at dksX7_isWet_0 1 rfl rfl)
theorem dX7_isWet_4 : decode cX7_isWet 4 = .ok (.invokevirtual 114, 3) := dk_182 0 114 (dk_at dksX7_isWet_0 4 rfl rfl)
theorem dX7_isWet_7 : decode cX7_isWet 7 = .ok (.ifCond .eq 16, 3) := dk_153 0 16 (dk_at dksX7_isWet_0 7 rfl rfl)
theorem dX7_isWet_10 : decode cX7_isWet 10 = .ok (.aload_n 0, 1) := dk_42 (dk_at dksX7_isWet_0 10 rfl rfl)
theorem dX7_isWet_11 : decode cX7_isWet 11 = .ok (.bipush 8, 2) := dk_16 8 (dk_at dksX7_isWet_0 11 rfl rfl)
theorem dX7_isWet_13 : decode cX7_isWet 13 = .ok (.invokevirtual 120, 3) := dk_182 0 120 (dk_at dksX7_isWet_0 13 rfl rfl)
theorem dX7_isWet_16 : decode cX7_isWet 16 = .ok (.ifCond .ne 7, 3) := dk_154 0 7 (dk_at dksX7_isWet_0 16 rfl rfl)
theorem dX7_isWet_19 : decode cX7_isWet 19 = .ok (.iconst 1, 1) := dk_4 (dk_at dksX7_isWet_0 19 rfl rfl)
theorem dX7_isWet_20 : decode cX7_isWet 20 = .ok (.goto 4, 3) := dk_167 0 4 (dk_at dksX7_isWet_0 20 rfl rfl)
theorem dX7_isWet_23 : decode cX7_isWet 23 = .ok (.iconst 0, 1) := dk_3 (dk_at dksX7_isWet_0 23 rfl rfl)
theorem dX7_isWet_24 : decode cX7_isWet 24 = .ok (.ireturn, 1) := dk_172 (dk_at dksX7_isWet_1 0 rfl rfl)
abbrev cX7_ways : ByteArray := prog_15_method_12_code
def yX7_ways : MethodName := ⟨RX7, "ways", "()I"⟩
def dkwX7_ways_0 : List UInt8 := [42, 180, 0, 59, 7, 96, 8, 108, 172]
abbrev dktX7_ways_0 : List UInt8 := dkwX7_ways_0 ++ []
theorem dksX7_ways_0 : cX7_ways.data.toList.drop 0 = dktX7_ways_0 := by decide +kernel
theorem dX7_ways_0 : decode cX7_ways 0 = .ok (.aload_n 0, 1) := dk_42 (dk_at dksX7_ways_0 0 rfl rfl)
theorem dX7_ways_1 : decode cX7_ways 1 = .ok (.getfield 59, 3) := dk_180 0 59 (dk_at dksX7_ways_0 1 rfl rfl)
theorem dX7_ways_4 : decode cX7_ways 4 = .ok (.iconst 4, 1) := dk_7 (dk_at dksX7_ways_0 4 rfl rfl)
theorem dX7_ways_5 : decode cX7_ways 5 = .ok (.iadd, 1) := dk_96 (dk_at dksX7_ways_0 5 rfl rfl)
theorem dX7_ways_6 : decode cX7_ways 6 = .ok (.iconst 5, 1) := dk_8 (dk_at dksX7_ways_0 6 rfl rfl)
theorem dX7_ways_7 : decode cX7_ways 7 = .ok (.idiv, 1) := dk_108 (dk_at dksX7_ways_0 7 rfl rfl)
theorem dX7_ways_8 : decode cX7_ways 8 = .ok (.ireturn, 1) := dk_172 (dk_at dksX7_ways_0 8 rfl rfl)
theorem q125 : (Jvm.Cond.initialized "Vaultyard$Thing") ∈ lw_all := lw_g (lw_at lw_m1 35 rfl) rfl
theorem q193 : (Jvm.Cond.fieldLinkNest "Vaultyard$Thing" (15 : Nat) "Vaultyard" "things" "Ljava/util/ArrayList;" "Vaultyard") ∈ lw_tbl := lw_at lw_m1 103 rfl
theorem q197 : (Jvm.Cond.fieldLinkNest "Vaultyard$Thing" (96 : Nat) "Vaultyard" "methods" "Ljava/util/ArrayList;" "Vaultyard") ∈ lw_tbl := lw_at lw_m1 107 rfl
theorem q202 : (Jvm.Cond.fieldLinkNest "Vaultyard$Thing" (78 : Nat) "Vaultyard" "day" "I" "Vaultyard") ∈ lw_tbl := lw_at lw_m1 112 rfl
theorem q692 : (Jvm.Cond.privateMethod ({ cls := "Vaultyard$Thing", name := "isIn", desc := "(LVaultyard$Room;)Z" } : Jvm.MethodName)) ∈ lw_tbl := lw_at lw_m3 122 rfl
theorem q693 : (Jvm.Cond.instanceMethod ({ cls := "Vaultyard$Thing", name := "isIn", desc := "(LVaultyard$Room;)Z" } : Jvm.MethodName)) ∈ lw_all := lw_g (lw_at lw_m3 123 rfl) rfl
theorem q694 : (Jvm.Cond.instantiable "Vaultyard$Thing" (21 : Nat)) ∈ lw_all := lw_g (lw_at lw_m3 124 rfl) rfl
theorem q695 : (Jvm.Cond.code ({ cls := "Vaultyard$Thing", name := "isIn", desc := "(LVaultyard$Room;)Z" } : Jvm.MethodName) prog_15_method_5_code (2 : Nat) (Option.some Jvm.ClassFile.FieldType.boolean)) ∈ lw_all := lw_g (lw_at lw_m3 125 rfl) rfl
theorem q696 : (Jvm.Cond.methodLink "Vaultyard$Thing" (92 : Nat) ({ cls := "Vaultyard$Thing", name := "where", desc := "()C" } : Jvm.MethodName)) ∈ lw_all := lw_g (lw_at lw_m3 126 rfl) rfl
theorem q697 : (Jvm.Cond.privateMethod ({ cls := "Vaultyard$Thing", name := "where", desc := "()C" } : Jvm.MethodName)) ∈ lw_tbl := lw_at lw_m3 127 rfl
theorem q698 : (Jvm.Cond.instanceMethod ({ cls := "Vaultyard$Thing", name := "where", desc := "()C" } : Jvm.MethodName)) ∈ lw_all := lw_g (lw_at lw_m3 128 rfl) rfl
theorem q699 : (Jvm.Cond.code ({ cls := "Vaultyard$Thing", name := "where", desc := "()C" } : Jvm.MethodName) prog_15_method_4_code (1 : Nat) (Option.some Jvm.ClassFile.FieldType.char)) ∈ lw_all := lw_g (lw_at lw_m3 129 rfl) rfl
theorem q700 : (Jvm.Cond.methodLink "Vaultyard$Thing" (88 : Nat) ({ cls := "Vaultyard$Thing", name := "all", desc := "()LVaultyard$Thing;" } : Jvm.MethodName)) ∈ lw_all := lw_g (lw_at lw_m3 130 rfl) rfl
theorem q701 : (Jvm.Cond.privateMethod ({ cls := "Vaultyard$Thing", name := "all", desc := "()LVaultyard$Thing;" } : Jvm.MethodName)) ∈ lw_tbl := lw_at lw_m3 131 rfl
theorem q702 : (Jvm.Cond.instanceMethod ({ cls := "Vaultyard$Thing", name := "all", desc := "()LVaultyard$Thing;" } : Jvm.MethodName)) ∈ lw_all := lw_g (lw_at lw_m3 132 rfl) rfl
theorem q703 : (Jvm.Cond.code ({ cls := "Vaultyard$Thing", name := "all", desc := "()LVaultyard$Thing;" } : Jvm.MethodName) prog_15_method_3_code (1 : Nat) (Option.some (Jvm.ClassFile.FieldType.object "Vaultyard$Thing"))) ∈ lw_all := lw_g (lw_at lw_m3 133 rfl) rfl
theorem q875 : (Jvm.Cond.selects "Vaultyard$Thing" ({ cls := "java/lang/Object", name := "getClass", desc := "()Ljava/lang/Class;" } : Jvm.MethodName) ({ cls := "java/lang/Object", name := "getClass", desc := "()Ljava/lang/Class;" } : Jvm.MethodName)) ∈ lw_all := lw_g (lw_at lw_m4 65 rfl) rfl
theorem q922 : (Jvm.Cond.fieldLinkNest "Vaultyard$Thing" (69 : Nat) "Vaultyard$Room" "number" "I" "Vaultyard") ∈ lw_tbl := lw_at lw_m4 112 rfl
theorem q927 : (Jvm.Cond.fieldLinkNest "Vaultyard$Thing" (161 : Nat) "Vaultyard$Room" "light" "I" "Vaultyard") ∈ lw_tbl := lw_at lw_m4 117 rfl
theorem q930 : (Jvm.Cond.fieldLinkNest "Vaultyard$Thing" (173 : Nat) "Vaultyard$Room" "humidity" "I" "Vaultyard") ∈ lw_tbl := lw_at lw_m4 120 rfl
theorem q932 : (Jvm.Cond.fieldLinkNest "Vaultyard$Thing" (179 : Nat) "Vaultyard$Room" "pests" "I" "Vaultyard") ∈ lw_tbl := lw_at lw_m4 122 rfl
theorem q1027 : (Jvm.Cond.instanceMethod ({ cls := "Vaultyard$Thing", name := "<init>", desc := "(LVaultyard;LVaultyard$Material;IILVaultyard$Thing;LVaultyard$Room;)V" } : Jvm.MethodName)) ∈ lw_all := lw_g (lw_at lw_m4 217 rfl) rfl
theorem q1028 : (Jvm.Cond.code ({ cls := "Vaultyard$Thing", name := "<init>", desc := "(LVaultyard;LVaultyard$Material;IILVaultyard$Thing;LVaultyard$Room;)V" } : Jvm.MethodName) prog_15_method_1_code (7 : Nat) (Option.none : Option Jvm.ClassFile.FieldType)) ∈ lw_all := lw_g (lw_at lw_m4 218 rfl) rfl
theorem q1029 : (Jvm.Cond.methodLink "Vaultyard$Thing" (9 : Nat) ({ cls := "java/lang/Object", name := "<init>", desc := "()V" } : Jvm.MethodName)) ∈ lw_all := lw_g (lw_at lw_m4 219 rfl) rfl
theorem q1030 : (Jvm.Cond.methodLink "Vaultyard$Thing" (19 : Nat) ({ cls := "java/util/ArrayList", name := "size", desc := "()I" } : Jvm.MethodName)) ∈ lw_all := lw_g (lw_at lw_m4 220 rfl) rfl
theorem q1031 : (Jvm.Cond.classLink "Vaultyard$Thing" (20 : Nat) "java/util/ArrayList") ∈ lw_all := lw_g (lw_at lw_m4 221 rfl) rfl
theorem q1032 : (Jvm.Cond.methodLink "Vaultyard$Thing" (29 : Nat) ({ cls := "java/util/ArrayList", name := "<init>", desc := "()V" } : Jvm.MethodName)) ∈ lw_all := lw_g (lw_at lw_m4 222 rfl) rfl
theorem q1033 : (Jvm.Cond.constantLong "Vaultyard$Thing" (43 : Nat) (50 : Int64)) ∈ lw_all := lw_g (lw_at lw_m4 223 rfl) rfl
theorem q1034 : (Jvm.Cond.methodLink "Vaultyard$Thing" (72 : Nat) ({ cls := "Vaultyard$Thing", name := "writes", desc := "(CI)V" } : Jvm.MethodName)) ∈ lw_all := lw_g (lw_at lw_m4 224 rfl) rfl
theorem q1035 : (Jvm.Cond.privateMethod ({ cls := "Vaultyard$Thing", name := "writes", desc := "(CI)V" } : Jvm.MethodName)) ∈ lw_tbl := lw_at lw_m4 225 rfl
theorem q1036 : (Jvm.Cond.instanceMethod ({ cls := "Vaultyard$Thing", name := "writes", desc := "(CI)V" } : Jvm.MethodName)) ∈ lw_all := lw_g (lw_at lw_m4 226 rfl) rfl
theorem q1037 : (Jvm.Cond.code ({ cls := "Vaultyard$Thing", name := "writes", desc := "(CI)V" } : Jvm.MethodName) prog_15_method_2_code (3 : Nat) (Option.none : Option Jvm.ClassFile.FieldType)) ∈ lw_all := lw_g (lw_at lw_m4 227 rfl) rfl
theorem q1038 : (Jvm.Cond.classLink "Vaultyard$Thing" (76 : Nat) "Vaultyard$Entry") ∈ lw_all := lw_g (lw_at lw_m4 228 rfl) rfl
theorem q1040 : (Jvm.Cond.methodLinkNest "Vaultyard$Thing" (81 : Nat) ({ cls := "Vaultyard$Entry", name := "<init>", desc := "(ICI)V" } : Jvm.MethodName) "Vaultyard") ∈ lw_tbl := lw_at lw_m4 230 rfl
theorem q1054 : (Jvm.Cond.methodLink "Vaultyard$Thing" (84 : Nat) ({ cls := "java/util/ArrayList", name := "add", desc := "(Ljava/lang/Object;)Z" } : Jvm.MethodName)) ∈ lw_all := lw_g (lw_at lw_m5 4 rfl) rfl
theorem q1055 : (Jvm.Cond.fieldLink "Vaultyard$Thing" (25 : Nat) "Vaultyard$Thing" "number" "I") ∈ lw_all := lw_g (lw_at lw_m5 5 rfl) rfl
theorem q1057 : (Jvm.Cond.fieldLink "Vaultyard$Thing" (56 : Nat) "Vaultyard$Thing" "value" "I") ∈ lw_all := lw_g (lw_at lw_m5 7 rfl) rfl
theorem q1059 : (Jvm.Cond.fieldLink "Vaultyard$Thing" (59 : Nat) "Vaultyard$Thing" "size" "I") ∈ lw_all := lw_g (lw_at lw_m5 9 rfl) rfl
theorem q1061 : (Jvm.Cond.fieldLink "Vaultyard$Thing" (52 : Nat) "Vaultyard$Thing" "material" "LVaultyard$Material;") ∈ lw_all := lw_g (lw_at lw_m5 11 rfl) rfl
theorem q1063 : (Jvm.Cond.fieldLink "Vaultyard$Thing" (61 : Nat) "Vaultyard$Thing" "whole" "LVaultyard$Thing;") ∈ lw_all := lw_g (lw_at lw_m5 13 rfl) rfl
theorem q1065 : (Jvm.Cond.fieldLink "Vaultyard$Thing" (30 : Nat) "Vaultyard$Thing" "parts" "Ljava/util/ArrayList;") ∈ lw_all := lw_g (lw_at lw_m5 15 rfl) rfl
theorem q1067 : (Jvm.Cond.fieldLink "Vaultyard$Thing" (33 : Nat) "Vaultyard$Thing" "journal" "Ljava/util/ArrayList;") ∈ lw_all := lw_g (lw_at lw_m5 17 rfl) rfl
theorem q1069 : (Jvm.Cond.fieldLink "Vaultyard$Thing" (36 : Nat) "Vaultyard$Thing" "chain" "Ljava/util/ArrayList;") ∈ lw_all := lw_g (lw_at lw_m5 19 rfl) rfl
theorem q1071 : (Jvm.Cond.fieldLink "Vaultyard$Thing" (39 : Nat) "Vaultyard$Thing" "place" "C") ∈ lw_all := lw_g (lw_at lw_m5 21 rfl) rfl
theorem q1073 : (Jvm.Cond.fieldLink "Vaultyard$Thing" (65 : Nat) "Vaultyard$Thing" "room" "LVaultyard$Room;") ∈ lw_all := lw_g (lw_at lw_m5 23 rfl) rfl
theorem q1076 : (Jvm.Cond.fieldLink "Vaultyard$Thing" (192 : Nat) "Vaultyard$Thing" "box" "LVaultyard$Box;") ∈ lw_all := lw_g (lw_at lw_m5 26 rfl) rfl
theorem q1078 : (Jvm.Cond.fieldLink "Vaultyard$Thing" (158 : Nat) "Vaultyard$Thing" "light" "I") ∈ lw_all := lw_g (lw_at lw_m5 28 rfl) rfl
theorem q1080 : (Jvm.Cond.fieldLink "Vaultyard$Thing" (162 : Nat) "Vaultyard$Thing" "above" "I") ∈ lw_all := lw_g (lw_at lw_m5 30 rfl) rfl
theorem q1081 : (Jvm.Cond.fieldLink "Vaultyard$Thing" (140 : Nat) "Vaultyard$Thing" "damage" "I") ∈ lw_all := lw_g (lw_at lw_m5 31 rfl) rfl
theorem q1083 : (Jvm.Cond.fieldLink "Vaultyard$Thing" (99 : Nat) "Vaultyard$Thing" "done" "I") ∈ lw_all := lw_g (lw_at lw_m5 33 rfl) rfl
theorem q1087 : (Jvm.Cond.fieldLink "Vaultyard$Thing" (45 : Nat) "Vaultyard$Thing" "genuine" "J") ∈ lw_all := lw_g (lw_at lw_m5 37 rfl) rfl
theorem q1089 : (Jvm.Cond.fieldLink "Vaultyard$Thing" (49 : Nat) "Vaultyard$Thing" "fake" "J") ∈ lw_all := lw_g (lw_at lw_m5 39 rfl) rfl
theorem q1091 : (Jvm.Cond.fieldLink "Vaultyard$Thing" (3 : Nat) "Vaultyard$Thing" "this$0" "LVaultyard;") ∈ lw_all := lw_g (lw_at lw_m5 41 rfl) rfl
theorem q1092 : (Jvm.Cond.laysFinal "Vaultyard$Thing" "Vaultyard$Thing" "number" "I") ∈ lw_all := lw_g (lw_at lw_m5 42 rfl) rfl
theorem q1093 : (Jvm.Cond.soleField "Vaultyard$Thing" "number") ∈ lw_all := lw_g (lw_at lw_m5 43 rfl) rfl
theorem q1094 : (Jvm.Cond.laysFinal "Vaultyard$Thing" "Vaultyard$Thing" "value" "I") ∈ lw_all := lw_g (lw_at lw_m5 44 rfl) rfl
theorem q1095 : (Jvm.Cond.soleField "Vaultyard$Thing" "value") ∈ lw_all := lw_g (lw_at lw_m5 45 rfl) rfl
theorem q1096 : (Jvm.Cond.laysFinal "Vaultyard$Thing" "Vaultyard$Thing" "size" "I") ∈ lw_all := lw_g (lw_at lw_m5 46 rfl) rfl
theorem q1097 : (Jvm.Cond.soleField "Vaultyard$Thing" "size") ∈ lw_all := lw_g (lw_at lw_m5 47 rfl) rfl
theorem q1098 : (Jvm.Cond.laysFinal "Vaultyard$Thing" "Vaultyard$Thing" "material" "LVaultyard$Material;") ∈ lw_all := lw_g (lw_at lw_m5 48 rfl) rfl
theorem q1099 : (Jvm.Cond.soleField "Vaultyard$Thing" "material") ∈ lw_all := lw_g (lw_at lw_m5 49 rfl) rfl
theorem q1100 : (Jvm.Cond.laysFinal "Vaultyard$Thing" "Vaultyard$Thing" "whole" "LVaultyard$Thing;") ∈ lw_all := lw_g (lw_at lw_m5 50 rfl) rfl
theorem q1101 : (Jvm.Cond.soleField "Vaultyard$Thing" "whole") ∈ lw_all := lw_g (lw_at lw_m5 51 rfl) rfl
theorem q1102 : (Jvm.Cond.laysFinal "Vaultyard$Thing" "Vaultyard$Thing" "parts" "Ljava/util/ArrayList;") ∈ lw_all := lw_g (lw_at lw_m5 52 rfl) rfl
theorem q1103 : (Jvm.Cond.soleField "Vaultyard$Thing" "parts") ∈ lw_all := lw_g (lw_at lw_m5 53 rfl) rfl
theorem q1104 : (Jvm.Cond.laysFinal "Vaultyard$Thing" "Vaultyard$Thing" "journal" "Ljava/util/ArrayList;") ∈ lw_all := lw_g (lw_at lw_m5 54 rfl) rfl
theorem q1105 : (Jvm.Cond.soleField "Vaultyard$Thing" "journal") ∈ lw_all := lw_g (lw_at lw_m5 55 rfl) rfl
theorem q1106 : (Jvm.Cond.laysFinal "Vaultyard$Thing" "Vaultyard$Thing" "chain" "Ljava/util/ArrayList;") ∈ lw_all := lw_g (lw_at lw_m5 56 rfl) rfl
theorem q1107 : (Jvm.Cond.soleField "Vaultyard$Thing" "chain") ∈ lw_all := lw_g (lw_at lw_m5 57 rfl) rfl
theorem q1108 : (Jvm.Cond.lays "Vaultyard$Thing" "Vaultyard$Thing" "place" "C") ∈ lw_all := lw_g (lw_at lw_m5 58 rfl) rfl
theorem q1109 : (Jvm.Cond.soleField "Vaultyard$Thing" "place") ∈ lw_all := lw_g (lw_at lw_m5 59 rfl) rfl
theorem q1110 : (Jvm.Cond.lays "Vaultyard$Thing" "Vaultyard$Thing" "room" "LVaultyard$Room;") ∈ lw_all := lw_g (lw_at lw_m5 60 rfl) rfl
theorem q1111 : (Jvm.Cond.soleField "Vaultyard$Thing" "room") ∈ lw_all := lw_g (lw_at lw_m5 61 rfl) rfl
theorem q1112 : (Jvm.Cond.lays "Vaultyard$Thing" "Vaultyard$Thing" "box" "LVaultyard$Box;") ∈ lw_all := lw_g (lw_at lw_m5 62 rfl) rfl
theorem q1113 : (Jvm.Cond.soleField "Vaultyard$Thing" "box") ∈ lw_all := lw_g (lw_at lw_m5 63 rfl) rfl
theorem q1114 : (Jvm.Cond.lays "Vaultyard$Thing" "Vaultyard$Thing" "back" "I") ∈ lw_all := lw_g (lw_at lw_m5 64 rfl) rfl
theorem q1115 : (Jvm.Cond.soleField "Vaultyard$Thing" "back") ∈ lw_all := lw_g (lw_at lw_m5 65 rfl) rfl
theorem q1116 : (Jvm.Cond.lays "Vaultyard$Thing" "Vaultyard$Thing" "light" "I") ∈ lw_all := lw_g (lw_at lw_m5 66 rfl) rfl
theorem q1117 : (Jvm.Cond.soleField "Vaultyard$Thing" "light") ∈ lw_all := lw_g (lw_at lw_m5 67 rfl) rfl
theorem q1118 : (Jvm.Cond.lays "Vaultyard$Thing" "Vaultyard$Thing" "above" "I") ∈ lw_all := lw_g (lw_at lw_m5 68 rfl) rfl
theorem q1119 : (Jvm.Cond.soleField "Vaultyard$Thing" "above") ∈ lw_all := lw_g (lw_at lw_m5 69 rfl) rfl
theorem q1120 : (Jvm.Cond.lays "Vaultyard$Thing" "Vaultyard$Thing" "damage" "I") ∈ lw_all := lw_g (lw_at lw_m5 70 rfl) rfl
theorem q1121 : (Jvm.Cond.soleField "Vaultyard$Thing" "damage") ∈ lw_all := lw_g (lw_at lw_m5 71 rfl) rfl
theorem q1122 : (Jvm.Cond.lays "Vaultyard$Thing" "Vaultyard$Thing" "done" "I") ∈ lw_all := lw_g (lw_at lw_m5 72 rfl) rfl
theorem q1123 : (Jvm.Cond.soleField "Vaultyard$Thing" "done") ∈ lw_all := lw_g (lw_at lw_m5 73 rfl) rfl
theorem q1124 : (Jvm.Cond.lays "Vaultyard$Thing" "Vaultyard$Thing" "tests" "I") ∈ lw_all := lw_g (lw_at lw_m5 74 rfl) rfl
theorem q1125 : (Jvm.Cond.soleField "Vaultyard$Thing" "tests") ∈ lw_all := lw_g (lw_at lw_m5 75 rfl) rfl
theorem q1126 : (Jvm.Cond.lays "Vaultyard$Thing" "Vaultyard$Thing" "hasCase" "Z") ∈ lw_all := lw_g (lw_at lw_m5 76 rfl) rfl
theorem q1127 : (Jvm.Cond.soleField "Vaultyard$Thing" "hasCase") ∈ lw_all := lw_g (lw_at lw_m5 77 rfl) rfl
theorem q1128 : (Jvm.Cond.lays "Vaultyard$Thing" "Vaultyard$Thing" "genuine" "J") ∈ lw_all := lw_g (lw_at lw_m5 78 rfl) rfl
theorem q1129 : (Jvm.Cond.soleField "Vaultyard$Thing" "genuine") ∈ lw_all := lw_g (lw_at lw_m5 79 rfl) rfl
theorem q1130 : (Jvm.Cond.lays "Vaultyard$Thing" "Vaultyard$Thing" "fake" "J") ∈ lw_all := lw_g (lw_at lw_m5 80 rfl) rfl
theorem q1131 : (Jvm.Cond.soleField "Vaultyard$Thing" "fake") ∈ lw_all := lw_g (lw_at lw_m5 81 rfl) rfl
theorem q1132 : (Jvm.Cond.laysFinal "Vaultyard$Thing" "Vaultyard$Thing" "this$0" "LVaultyard;") ∈ lw_all := lw_g (lw_at lw_m5 82 rfl) rfl
theorem q1133 : (Jvm.Cond.soleField "Vaultyard$Thing" "this$0") ∈ lw_all := lw_g (lw_at lw_m5 83 rfl) rfl
theorem q1134 : (Jvm.Cond.superclass "Vaultyard$Thing" "java/lang/Object") ∈ lw_all := lw_g (lw_at lw_m5 84 rfl) rfl
theorem q1147 : (Jvm.Cond.privateMethod ({ cls := "Vaultyard$Thing", name := "isWholeIn", desc := "(C)Z" } : Jvm.MethodName)) ∈ lw_tbl := lw_at lw_m5 97 rfl
theorem q1148 : (Jvm.Cond.instanceMethod ({ cls := "Vaultyard$Thing", name := "isWholeIn", desc := "(C)Z" } : Jvm.MethodName)) ∈ lw_all := lw_g (lw_at lw_m5 98 rfl) rfl
theorem q1149 : (Jvm.Cond.code ({ cls := "Vaultyard$Thing", name := "isWholeIn", desc := "(C)Z" } : Jvm.MethodName) prog_15_method_6_code (2 : Nat) (Option.some Jvm.ClassFile.FieldType.boolean)) ∈ lw_all := lw_g (lw_at lw_m5 99 rfl) rfl
theorem q1158 : (Jvm.Cond.privateMethod ({ cls := "Vaultyard$Thing", name := "comes", desc := "(LVaultyard$Room;)V" } : Jvm.MethodName)) ∈ lw_tbl := lw_at lw_m5 108 rfl
theorem q1159 : (Jvm.Cond.instanceMethod ({ cls := "Vaultyard$Thing", name := "comes", desc := "(LVaultyard$Room;)V" } : Jvm.MethodName)) ∈ lw_all := lw_g (lw_at lw_m5 109 rfl) rfl
theorem q1160 : (Jvm.Cond.code ({ cls := "Vaultyard$Thing", name := "comes", desc := "(LVaultyard$Room;)V" } : Jvm.MethodName) prog_15_method_17_code (2 : Nat) (Option.none : Option Jvm.ClassFile.FieldType)) ∈ lw_all := lw_g (lw_at lw_m5 110 rfl) rfl
theorem q1161 : (Jvm.Cond.methodLink "Vaultyard$Thing" (199 : Nat) ({ cls := "Vaultyard$Thing", name := "leavesBox", desc := "()V" } : Jvm.MethodName)) ∈ lw_all := lw_g (lw_at lw_m5 111 rfl) rfl
theorem q1162 : (Jvm.Cond.privateMethod ({ cls := "Vaultyard$Thing", name := "leavesBox", desc := "()V" } : Jvm.MethodName)) ∈ lw_tbl := lw_at lw_m5 112 rfl
theorem q1163 : (Jvm.Cond.instanceMethod ({ cls := "Vaultyard$Thing", name := "leavesBox", desc := "()V" } : Jvm.MethodName)) ∈ lw_all := lw_g (lw_at lw_m5 113 rfl) rfl
theorem q1164 : (Jvm.Cond.code ({ cls := "Vaultyard$Thing", name := "leavesBox", desc := "()V" } : Jvm.MethodName) prog_15_method_18_code (2 : Nat) (Option.none : Option Jvm.ClassFile.FieldType)) ∈ lw_all := lw_g (lw_at lw_m5 114 rfl) rfl
theorem q1165 : (Jvm.Cond.methodLinkNest "Vaultyard$Thing" (202 : Nat) ({ cls := "Vaultyard", name := "filled", desc := "(LVaultyard$Box;)I" } : Jvm.MethodName) "Vaultyard") ∈ lw_tbl := lw_at lw_m5 115 rfl
theorem q1195 : (Jvm.Cond.privateMethod ({ cls := "Vaultyard$Thing", name := "passes", desc := "()V" } : Jvm.MethodName)) ∈ lw_tbl := lw_at lw_m5 145 rfl
theorem q1196 : (Jvm.Cond.instanceMethod ({ cls := "Vaultyard$Thing", name := "passes", desc := "()V" } : Jvm.MethodName)) ∈ lw_all := lw_g (lw_at lw_m5 146 rfl) rfl
theorem q1197 : (Jvm.Cond.code ({ cls := "Vaultyard$Thing", name := "passes", desc := "()V" } : Jvm.MethodName) prog_15_method_16_code (1 : Nat) (Option.none : Option Jvm.ClassFile.FieldType)) ∈ lw_all := lw_g (lw_at lw_m5 147 rfl) rfl
theorem q1198 : (Jvm.Cond.methodLink "Vaultyard$Thing" (184 : Nat) ({ cls := "Vaultyard$Thing", name := "ages", desc := "(LVaultyard$Room;)I" } : Jvm.MethodName)) ∈ lw_all := lw_g (lw_at lw_m5 148 rfl) rfl
theorem q1199 : (Jvm.Cond.privateMethod ({ cls := "Vaultyard$Thing", name := "ages", desc := "(LVaultyard$Room;)I" } : Jvm.MethodName)) ∈ lw_tbl := lw_at lw_m5 149 rfl
theorem q1200 : (Jvm.Cond.instanceMethod ({ cls := "Vaultyard$Thing", name := "ages", desc := "(LVaultyard$Room;)I" } : Jvm.MethodName)) ∈ lw_all := lw_g (lw_at lw_m5 150 rfl) rfl
theorem q1201 : (Jvm.Cond.code ({ cls := "Vaultyard$Thing", name := "ages", desc := "(LVaultyard$Room;)I" } : Jvm.MethodName) prog_15_method_15_code (4 : Nat) (Option.some Jvm.ClassFile.FieldType.int)) ∈ lw_all := lw_g (lw_at lw_m5 151 rfl) rfl
theorem q1202 : (Jvm.Cond.methodLink "Vaultyard$Thing" (120 : Nat) ({ cls := "Vaultyard$Thing", name := "isKept", desc := "(I)Z" } : Jvm.MethodName)) ∈ lw_all := lw_g (lw_at lw_m5 152 rfl) rfl
theorem q1203 : (Jvm.Cond.privateMethod ({ cls := "Vaultyard$Thing", name := "isKept", desc := "(I)Z" } : Jvm.MethodName)) ∈ lw_tbl := lw_at lw_m5 153 rfl
theorem q1204 : (Jvm.Cond.instanceMethod ({ cls := "Vaultyard$Thing", name := "isKept", desc := "(I)Z" } : Jvm.MethodName)) ∈ lw_all := lw_g (lw_at lw_m5 154 rfl) rfl
theorem q1205 : (Jvm.Cond.code ({ cls := "Vaultyard$Thing", name := "isKept", desc := "(I)Z" } : Jvm.MethodName) prog_15_method_8_code (2 : Nat) (Option.some Jvm.ClassFile.FieldType.boolean)) ∈ lw_all := lw_g (lw_at lw_m5 155 rfl) rfl
theorem q1206 : (Jvm.Cond.methodLink "Vaultyard$Thing" (111 : Nat) ({ cls := "Vaultyard$Thing", name := "kept", desc := "()I" } : Jvm.MethodName)) ∈ lw_all := lw_g (lw_at lw_m5 156 rfl) rfl
theorem q1207 : (Jvm.Cond.privateMethod ({ cls := "Vaultyard$Thing", name := "kept", desc := "()I" } : Jvm.MethodName)) ∈ lw_tbl := lw_at lw_m5 157 rfl
theorem q1208 : (Jvm.Cond.instanceMethod ({ cls := "Vaultyard$Thing", name := "kept", desc := "()I" } : Jvm.MethodName)) ∈ lw_all := lw_g (lw_at lw_m5 158 rfl) rfl
theorem q1209 : (Jvm.Cond.code ({ cls := "Vaultyard$Thing", name := "kept", desc := "()I" } : Jvm.MethodName) prog_15_method_7_code (3 : Nat) (Option.some Jvm.ClassFile.FieldType.int)) ∈ lw_all := lw_g (lw_at lw_m5 159 rfl) rfl
theorem q1210 : (Jvm.Cond.methodLink "Vaultyard$Thing" (102 : Nat) ({ cls := "java/util/ArrayList", name := "get", desc := "(I)Ljava/lang/Object;" } : Jvm.MethodName)) ∈ lw_all := lw_g (lw_at lw_m5 160 rfl) rfl
theorem q1211 : (Jvm.Cond.classLink "Vaultyard$Thing" (106 : Nat) "Vaultyard$Method") ∈ lw_all := lw_g (lw_at lw_m5 161 rfl) rfl
theorem q1212 : (Jvm.Cond.methodLink "Vaultyard$Thing" (108 : Nat) ({ cls := "Vaultyard$Method", name := "keeps", desc := "()I" } : Jvm.MethodName)) ∈ lw_all := lw_g (lw_at lw_m5 162 rfl) rfl
theorem q1216 : (Jvm.Cond.methodLink "Vaultyard$Thing" (165 : Nat) ({ cls := "Vaultyard$Material", name := "light", desc := "()I" } : Jvm.MethodName)) ∈ lw_all := lw_g (lw_at lw_m5 166 rfl) rfl
theorem q1220 : (Jvm.Cond.methodLink "Vaultyard$Thing" (143 : Nat) ({ cls := "java/lang/Math", name := "min", desc := "(II)I" } : Jvm.MethodName)) ∈ lw_all := lw_g (lw_at lw_m5 170 rfl) rfl
theorem q1221 : (Jvm.Cond.methodLink "Vaultyard$Thing" (167 : Nat) ({ cls := "java/lang/Math", name := "max", desc := "(II)I" } : Jvm.MethodName)) ∈ lw_all := lw_g (lw_at lw_m5 171 rfl) rfl
theorem q1222 : (Jvm.Cond.methodLink "Vaultyard$Thing" (170 : Nat) ({ cls := "Vaultyard$Material", name := "least", desc := "()I" } : Jvm.MethodName)) ∈ lw_all := lw_g (lw_at lw_m5 172 rfl) rfl
theorem q1226 : (Jvm.Cond.methodLink "Vaultyard$Thing" (176 : Nat) ({ cls := "Vaultyard$Material", name := "greatest", desc := "()I" } : Jvm.MethodName)) ∈ lw_all := lw_g (lw_at lw_m5 176 rfl) rfl
theorem q1230 : (Jvm.Cond.methodLink "Vaultyard$Thing" (182 : Nat) ({ cls := "Vaultyard$Thing", name := "eaten", desc := "(I)I" } : Jvm.MethodName)) ∈ lw_all := lw_g (lw_at lw_m5 180 rfl) rfl
theorem q1231 : (Jvm.Cond.privateMethod ({ cls := "Vaultyard$Thing", name := "eaten", desc := "(I)I" } : Jvm.MethodName)) ∈ lw_tbl := lw_at lw_m5 181 rfl
theorem q1232 : (Jvm.Cond.instanceMethod ({ cls := "Vaultyard$Thing", name := "eaten", desc := "(I)I" } : Jvm.MethodName)) ∈ lw_all := lw_g (lw_at lw_m5 182 rfl) rfl
theorem q1233 : (Jvm.Cond.code ({ cls := "Vaultyard$Thing", name := "eaten", desc := "(I)I" } : Jvm.MethodName) prog_15_method_14_code (2 : Nat) (Option.some Jvm.ClassFile.FieldType.int)) ∈ lw_all := lw_g (lw_at lw_m5 183 rfl) rfl
theorem q1234 : (Jvm.Cond.methodLink "Vaultyard$Thing" (149 : Nat) ({ cls := "Vaultyard$Material", name := "eaten", desc := "()I" } : Jvm.MethodName)) ∈ lw_all := lw_g (lw_at lw_m5 184 rfl) rfl
theorem q1238 : (Jvm.Cond.methodLink "Vaultyard$Thing" (152 : Nat) ({ cls := "java/lang/Integer", name := "bitCount", desc := "(I)I" } : Jvm.MethodName)) ∈ lw_all := lw_g (lw_at lw_m5 188 rfl) rfl
theorem q1244 : (Jvm.Cond.methodLink "Vaultyard$Thing" (188 : Nat) ({ cls := "Vaultyard$Thing", name := "hurts", desc := "(CI)I" } : Jvm.MethodName)) ∈ lw_all := lw_g (lw_at lw_m5 194 rfl) rfl
theorem q1245 : (Jvm.Cond.privateMethod ({ cls := "Vaultyard$Thing", name := "hurts", desc := "(CI)I" } : Jvm.MethodName)) ∈ lw_tbl := lw_at lw_m5 195 rfl
theorem q1246 : (Jvm.Cond.instanceMethod ({ cls := "Vaultyard$Thing", name := "hurts", desc := "(CI)I" } : Jvm.MethodName)) ∈ lw_all := lw_g (lw_at lw_m5 196 rfl) rfl
theorem q1247 : (Jvm.Cond.code ({ cls := "Vaultyard$Thing", name := "hurts", desc := "(CI)I" } : Jvm.MethodName) prog_15_method_13_code (4 : Nat) (Option.some Jvm.ClassFile.FieldType.int)) ∈ lw_all := lw_g (lw_at lw_m5 197 rfl) rfl
theorem q1401 : (Jvm.Cond.privateMethod ({ cls := "Vaultyard$Thing", name := "worth", desc := "()I" } : Jvm.MethodName)) ∈ lw_tbl := lw_at lw_m6 111 rfl
theorem q1402 : (Jvm.Cond.instanceMethod ({ cls := "Vaultyard$Thing", name := "worth", desc := "()I" } : Jvm.MethodName)) ∈ lw_all := lw_g (lw_at lw_m6 112 rfl) rfl
theorem q1403 : (Jvm.Cond.code ({ cls := "Vaultyard$Thing", name := "worth", desc := "()I" } : Jvm.MethodName) prog_15_method_11_code (4 : Nat) (Option.some Jvm.ClassFile.FieldType.int)) ∈ lw_all := lw_g (lw_at lw_m6 113 rfl) rfl
theorem q1404 : (Jvm.Cond.methodLink "Vaultyard$Thing" (127 : Nat) ({ cls := "java/util/ArrayList", name := "iterator", desc := "()Ljava/util/Iterator;" } : Jvm.MethodName)) ∈ lw_all := lw_g (lw_at lw_m6 114 rfl) rfl
theorem q1405 : (Jvm.Cond.interfaceEntry "Vaultyard$Thing" (131 : Nat)) ∈ lw_tbl := lw_at lw_m6 115 rfl
theorem q1406 : (Jvm.Cond.methodLink "Vaultyard$Thing" (131 : Nat) ({ cls := "java/util/Iterator", name := "hasNext", desc := "()Z" } : Jvm.MethodName)) ∈ lw_all := lw_g (lw_at lw_m6 116 rfl) rfl
theorem q1407 : (Jvm.Cond.interfaceEntry "Vaultyard$Thing" (136 : Nat)) ∈ lw_tbl := lw_at lw_m6 117 rfl
theorem q1408 : (Jvm.Cond.methodLink "Vaultyard$Thing" (136 : Nat) ({ cls := "java/util/Iterator", name := "next", desc := "()Ljava/lang/Object;" } : Jvm.MethodName)) ∈ lw_all := lw_g (lw_at lw_m6 118 rfl) rfl
theorem q1409 : (Jvm.Cond.classLink "Vaultyard$Thing" (4 : Nat) "Vaultyard$Thing") ∈ lw_all := lw_g (lw_at lw_m6 119 rfl) rfl
theorem q1689 : (Jvm.Cond.privateMethod ({ cls := "Vaultyard$Thing", name := "goes", desc := "(CI)V" } : Jvm.MethodName)) ∈ lw_tbl := lw_at lw_m7 159 rfl
theorem q1690 : (Jvm.Cond.instanceMethod ({ cls := "Vaultyard$Thing", name := "goes", desc := "(CI)V" } : Jvm.MethodName)) ∈ lw_all := lw_g (lw_at lw_m7 160 rfl) rfl
theorem q1691 : (Jvm.Cond.code ({ cls := "Vaultyard$Thing", name := "goes", desc := "(CI)V" } : Jvm.MethodName) prog_15_method_19_code (3 : Nat) (Option.none : Option Jvm.ClassFile.FieldType)) ∈ lw_all := lw_g (lw_at lw_m7 161 rfl) rfl
theorem q1802 : (Jvm.Cond.privateMethod ({ cls := "Vaultyard$Thing", name := "claimant", desc := "(I)I" } : Jvm.MethodName)) ∈ lw_tbl := lw_at lw_m8 32 rfl
theorem q1803 : (Jvm.Cond.instanceMethod ({ cls := "Vaultyard$Thing", name := "claimant", desc := "(I)I" } : Jvm.MethodName)) ∈ lw_all := lw_g (lw_at lw_m8 33 rfl) rfl
theorem q1804 : (Jvm.Cond.code ({ cls := "Vaultyard$Thing", name := "claimant", desc := "(I)I" } : Jvm.MethodName) prog_15_method_20_code (4 : Nat) (Option.some Jvm.ClassFile.FieldType.int)) ∈ lw_all := lw_g (lw_at lw_m8 34 rfl) rfl
theorem q1805 : (Jvm.Cond.classLink "Vaultyard$Thing" (206 : Nat) "Vaultyard$Owner") ∈ lw_all := lw_g (lw_at lw_m8 35 rfl) rfl
theorem q1806 : (Jvm.Cond.methodLinkNest "Vaultyard$Thing" (208 : Nat) ({ cls := "Vaultyard$Owner", name := "isWrong", desc := "()Z" } : Jvm.MethodName) "Vaultyard") ∈ lw_tbl := lw_at lw_m8 36 rfl
theorem q1810 : (Jvm.Cond.methodLinkNest "Vaultyard$Thing" (211 : Nat) ({ cls := "Vaultyard", name := "yearNow", desc := "()I" } : Jvm.MethodName) "Vaultyard") ∈ lw_tbl := lw_at lw_m8 40 rfl
theorem q1811 : (Jvm.Cond.methodLink "Vaultyard$Thing" (214 : Nat) ({ cls := "Vaultyard$Owner", name := "from", desc := "()I" } : Jvm.MethodName)) ∈ lw_all := lw_g (lw_at lw_m8 41 rfl) rfl
theorem q1812 : (Jvm.Cond.methodLink "Vaultyard$Thing" (217 : Nat) ({ cls := "Vaultyard$Owner", name := "owner", desc := "()I" } : Jvm.MethodName)) ∈ lw_all := lw_g (lw_at lw_m8 42 rfl) rfl
theorem q1889 : (Jvm.Cond.fieldLinkNest "Vaultyard$Thing" (196 : Nat) "Vaultyard$Box" "pests" "I" "Vaultyard") ∈ lw_tbl := lw_at lw_m8 119 rfl
theorem q2014 : (Jvm.Cond.selects "Vaultyard$Thing" ({ cls := "java/lang/Object", name := "equals", desc := "(Ljava/lang/Object;)Z" } : Jvm.MethodName) ({ cls := "java/lang/Object", name := "equals", desc := "(Ljava/lang/Object;)Z" } : Jvm.MethodName)) ∈ lw_all := lw_g (lw_at lw_m9 4 rfl) rfl
theorem q2084 : (Jvm.Cond.privateMethod ({ cls := "Vaultyard$Thing", name := "isTakenForFake", desc := "()Z" } : Jvm.MethodName)) ∈ lw_tbl := lw_at lw_m9 74 rfl
theorem q2085 : (Jvm.Cond.instanceMethod ({ cls := "Vaultyard$Thing", name := "isTakenForFake", desc := "()Z" } : Jvm.MethodName)) ∈ lw_all := lw_g (lw_at lw_m9 75 rfl) rfl
theorem q2086 : (Jvm.Cond.code ({ cls := "Vaultyard$Thing", name := "isTakenForFake", desc := "()Z" } : Jvm.MethodName) prog_15_method_21_code (1 : Nat) (Option.some Jvm.ClassFile.FieldType.boolean)) ∈ lw_all := lw_g (lw_at lw_m9 76 rfl) rfl
theorem q2087 : (Jvm.Cond.constantLong "Vaultyard$Thing" (220 : Nat) (20 : Int64)) ∈ lw_all := lw_g (lw_at lw_m9 77 rfl) rfl
theorem q2213 : (Jvm.Cond.privateMethod ({ cls := "Vaultyard$Thing", name := "isAnyWet", desc := "()Z" } : Jvm.MethodName)) ∈ lw_tbl := lw_at lw_m9 203 rfl
theorem q2214 : (Jvm.Cond.instanceMethod ({ cls := "Vaultyard$Thing", name := "isAnyWet", desc := "()Z" } : Jvm.MethodName)) ∈ lw_all := lw_g (lw_at lw_m9 204 rfl) rfl
theorem q2215 : (Jvm.Cond.code ({ cls := "Vaultyard$Thing", name := "isAnyWet", desc := "()Z" } : Jvm.MethodName) prog_15_method_10_code (4 : Nat) (Option.some Jvm.ClassFile.FieldType.boolean)) ∈ lw_all := lw_g (lw_at lw_m9 205 rfl) rfl
theorem q2216 : (Jvm.Cond.methodLink "Vaultyard$Thing" (124 : Nat) ({ cls := "Vaultyard$Thing", name := "isWet", desc := "()Z" } : Jvm.MethodName)) ∈ lw_all := lw_g (lw_at lw_m9 206 rfl) rfl
theorem q2217 : (Jvm.Cond.privateMethod ({ cls := "Vaultyard$Thing", name := "isWet", desc := "()Z" } : Jvm.MethodName)) ∈ lw_tbl := lw_at lw_m9 207 rfl
theorem q2218 : (Jvm.Cond.instanceMethod ({ cls := "Vaultyard$Thing", name := "isWet", desc := "()Z" } : Jvm.MethodName)) ∈ lw_all := lw_g (lw_at lw_m9 208 rfl) rfl
theorem q2219 : (Jvm.Cond.code ({ cls := "Vaultyard$Thing", name := "isWet", desc := "()Z" } : Jvm.MethodName) prog_15_method_9_code (1 : Nat) (Option.some Jvm.ClassFile.FieldType.boolean)) ∈ lw_all := lw_g (lw_at lw_m9 209 rfl) rfl
theorem q2220 : (Jvm.Cond.methodLink "Vaultyard$Thing" (114 : Nat) ({ cls := "Vaultyard$Material", name := "isHarmed", desc := "()Z" } : Jvm.MethodName)) ∈ lw_all := lw_g (lw_at lw_m9 210 rfl) rfl
theorem q2225 : (Jvm.Cond.privateMethod ({ cls := "Vaultyard$Thing", name := "ways", desc := "()I" } : Jvm.MethodName)) ∈ lw_tbl := lw_at lw_m9 215 rfl
theorem q2226 : (Jvm.Cond.instanceMethod ({ cls := "Vaultyard$Thing", name := "ways", desc := "()I" } : Jvm.MethodName)) ∈ lw_all := lw_g (lw_at lw_m9 216 rfl) rfl
theorem q2227 : (Jvm.Cond.code ({ cls := "Vaultyard$Thing", name := "ways", desc := "()I" } : Jvm.MethodName) prog_15_method_12_code (1 : Nat) (Option.some Jvm.ClassFile.FieldType.int)) ∈ lw_all := lw_g (lw_at lw_m9 217 rfl) rfl
theorem q3051 : (Jvm.Cond.castable "Vaultyard$Thing" "java/lang/Object") ∈ lw_tbl := lw_at lw_m13 81 rfl
theorem in_X7 : ∀ w ∈ wsX70, w ∈ lw_all := lw_in wsX70 [1092, 1094, 1096, 1098, 1100, 1102, 1104, 1106, 1108, 1110, 1112, 1114, 1116, 1118, 1120, 1122, 1124, 1126, 1128, 1130, 1132] (by decide +kernel) (by decide +kernel)

