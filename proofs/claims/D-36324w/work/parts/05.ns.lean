/-! Vaultyard$Material -/
set_option maxRecDepth 100000
def RX3 : String := "Vaultyard$Material"
def TX3 : u_T := fun k => match k with
  | 0 => ("Vaultyard$Material", "light", "I", true)
  | 1 => ("Vaultyard$Material", "least", "I", true)
  | 2 => ("Vaultyard$Material", "greatest", "I", true)
  | 3 => ("Vaultyard$Material", "eaten", "I", true)
  | _ => ("Vaultyard$Material", "isHarmed", "Z", true)
def tyX3 : Nat → FieldType := fun k => match k with
  | 0 => .int
  | 1 => .int
  | 2 => .int
  | 3 => .int
  | _ => .boolean
abbrev wsX30 : List Cond := u_ws RX3 TX3 5
theorem nmX3 : ∀ a, a < 5 → ∀ b, b < 5 → a ≠ b → (TX3 a).2.1 ≠ (TX3 b).2.1 := by decide +kernel
theorem tyX3_ok : ∀ k, k < 5 → parseFieldDescriptor (TX3 k).2.2.1 = some (tyX3 k) := by decide +kernel
abbrev cX3_init : ByteArray := prog_8_method_1_code
def yX3_init : MethodName := ⟨RX3, "<init>", "(IIIIZ)V"⟩
def dkwX3_init_1 : List UInt8 := [181, 0, 19, 42, 21, 5, 181, 0, 22, 177]
abbrev dktX3_init_1 : List UInt8 := dkwX3_init_1 ++ []
def dkwX3_init_0 : List UInt8 := [42, 183, 0, 1, 42, 27, 181, 0, 7, 42, 28, 181, 0, 13, 42, 29, 181, 0, 16, 42, 21, 4]
abbrev dktX3_init_0 : List UInt8 := dkwX3_init_0 ++ dktX3_init_1
theorem dksX3_init_0 : cX3_init.data.toList.drop 0 = dktX3_init_0 := by decide +kernel
theorem dksX3_init_1 : cX3_init.data.toList.drop 22 = dktX3_init_1 := dk_seg dksX3_init_0 22 rfl rfl
theorem dX3_init_0 : decode cX3_init 0 = .ok (.aload_n 0, 1) := dk_42 (dk_at dksX3_init_0 0 rfl rfl)
theorem dX3_init_1 : decode cX3_init 1 = .ok (.invokespecial 1, 3) := dk_183 0 1 (dk_at dksX3_init_0 1 rfl rfl)
theorem dX3_init_4 : decode cX3_init 4 = .ok (.aload_n 0, 1) := dk_42 (dk_at dksX3_init_0 4 rfl rfl)
theorem dX3_init_5 : decode cX3_init 5 = .ok (.iload_n 1, 1) := dk_27 (dk_at dksX3_init_0 5 rfl rfl)
theorem dX3_init_6 : decode cX3_init 6 = .ok (.putfield 7, 3) := dk_181 0 7 (dk_at dksX3_init_0 6 rfl rfl)
theorem dX3_init_9 : decode cX3_init 9 = .ok (.aload_n 0, 1) := dk_42 (dk_at dksX3_init_0 9 rfl rfl)
theorem dX3_init_10 : decode cX3_init 10 = .ok (.iload_n 2, 1) := dk_28 (dk_at dksX3_init_0 10 rfl rfl)
theorem dX3_init_11 : decode cX3_init 11 = .ok (.putfield 13, 3) := dk_181 0 13 (dk_at dksX3_init_0 11 rfl rfl)
theorem dX3_init_14 : decode cX3_init 14 = .ok (.aload_n 0, 1) := dk_42 (dk_at dksX3_init_0 14 rfl rfl)
theorem dX3_init_15 : decode cX3_init 15 = .ok (.iload_n 3, 1) := dk_29 (dk_at dksX3_init_0 15 rfl rfl)
theorem dX3_init_16 : decode cX3_init 16 = .ok (.putfield 16, 3) := dk_181 0 16 (dk_at dksX3_init_0 16 rfl rfl)
theorem dX3_init_19 : decode cX3_init 19 = .ok (.aload_n 0, 1) := dk_42 (dk_at dksX3_init_0 19 rfl rfl)
theorem dX3_init_20 : decode cX3_init 20 = .ok (.iload 4, 2) := dk_21 4 (dk_at dksX3_init_0 20 rfl rfl)
theorem dX3_init_22 : decode cX3_init 22 = .ok (.putfield 19, 3) := dk_181 0 19 (dk_at dksX3_init_1 0 rfl rfl)
theorem dX3_init_25 : decode cX3_init 25 = .ok (.aload_n 0, 1) := dk_42 (dk_at dksX3_init_1 3 rfl rfl)
theorem dX3_init_26 : decode cX3_init 26 = .ok (.iload 5, 2) := dk_21 5 (dk_at dksX3_init_1 4 rfl rfl)
theorem dX3_init_28 : decode cX3_init 28 = .ok (.putfield 22, 3) := dk_181 0 22 (dk_at dksX3_init_1 6 rfl rfl)
theorem dX3_init_31 : decode cX3_init 31 = .ok (.return_, 1) := dk_177 (dk_at dksX3_init_1 9 rfl rfl)
abbrev cX3_light : ByteArray := prog_8_method_5_code
def yX3_light : MethodName := ⟨RX3, "light", "()I"⟩
theorem dX3_light_0 : decode cX3_light 0 = .ok (.aload_n 0, 1) := by decide +kernel
theorem dX3_light_1 : decode cX3_light 1 = .ok (.getfield 7, 3) := by decide +kernel
theorem dX3_light_4 : decode cX3_light 4 = .ok (.ireturn, 1) := by decide +kernel
abbrev cX3_least : ByteArray := prog_8_method_6_code
def yX3_least : MethodName := ⟨RX3, "least", "()I"⟩
theorem dX3_least_0 : decode cX3_least 0 = .ok (.aload_n 0, 1) := by decide +kernel
theorem dX3_least_1 : decode cX3_least 1 = .ok (.getfield 13, 3) := by decide +kernel
theorem dX3_least_4 : decode cX3_least 4 = .ok (.ireturn, 1) := by decide +kernel
abbrev cX3_greatest : ByteArray := prog_8_method_7_code
def yX3_greatest : MethodName := ⟨RX3, "greatest", "()I"⟩
theorem dX3_greatest_0 : decode cX3_greatest 0 = .ok (.aload_n 0, 1) := by decide +kernel
theorem dX3_greatest_1 : decode cX3_greatest 1 = .ok (.getfield 16, 3) := by decide +kernel
theorem dX3_greatest_4 : decode cX3_greatest 4 = .ok (.ireturn, 1) := by decide +kernel
abbrev cX3_eaten : ByteArray := prog_8_method_8_code
def yX3_eaten : MethodName := ⟨RX3, "eaten", "()I"⟩
theorem dX3_eaten_0 : decode cX3_eaten 0 = .ok (.aload_n 0, 1) := by decide +kernel
theorem dX3_eaten_1 : decode cX3_eaten 1 = .ok (.getfield 19, 3) := by decide +kernel
theorem dX3_eaten_4 : decode cX3_eaten 4 = .ok (.ireturn, 1) := by decide +kernel
abbrev cX3_equals : ByteArray := prog_8_method_4_code
def yX3_equals : MethodName := ⟨RX3, "equals", "(Ljava/lang/Object;)Z"⟩
def dkwX3_equals_0 : List UInt8 := [42, 43, 186, 0, 34, 0, 0, 172]
abbrev dktX3_equals_0 : List UInt8 := dkwX3_equals_0 ++ []
theorem dksX3_equals_0 : cX3_equals.data.toList.drop 0 = dktX3_equals_0 := by decide +kernel
theorem dX3_equals_0 : decode cX3_equals 0 = .ok (.aload_n 0, 1) := dk_42 (dk_at dksX3_equals_0 0 rfl rfl)
theorem dX3_equals_1 : decode cX3_equals 1 = .ok (.aload_n 1, 1) := dk_43 (dk_at dksX3_equals_0 1 rfl rfl)
theorem dX3_equals_2 : decode cX3_equals 2 = .ok (.invokedynamic 34, 5) := by decide +kernel
theorem dX3_equals_7 : decode cX3_equals 7 = .ok (.ireturn, 1) := dk_172 (dk_at dksX3_equals_0 7 rfl rfl)
abbrev cX3_isHarmed : ByteArray := prog_8_method_9_code
def yX3_isHarmed : MethodName := ⟨RX3, "isHarmed", "()Z"⟩
theorem dX3_isHarmed_0 : decode cX3_isHarmed 0 = .ok (.aload_n 0, 1) := by decide +kernel
theorem dX3_isHarmed_1 : decode cX3_isHarmed 1 = .ok (.getfield 22, 3) := by decide +kernel
theorem dX3_isHarmed_4 : decode cX3_isHarmed 4 = .ok (.ireturn, 1) := by decide +kernel
theorem q103 : (Jvm.Cond.initialized "Vaultyard$Material") ∈ lw_all := lw_g (lw_at lw_m1 13 rfl) rfl
theorem q815 : (Jvm.Cond.instantiable "Vaultyard$Material" (5 : Nat)) ∈ lw_all := lw_g (lw_at lw_m4 5 rfl) rfl
theorem q817 : (Jvm.Cond.instanceMethod ({ cls := "Vaultyard$Material", name := "<init>", desc := "(IIIIZ)V" } : Jvm.MethodName)) ∈ lw_all := lw_g (lw_at lw_m4 7 rfl) rfl
theorem q818 : (Jvm.Cond.code ({ cls := "Vaultyard$Material", name := "<init>", desc := "(IIIIZ)V" } : Jvm.MethodName) prog_8_method_1_code (6 : Nat) (Option.none : Option Jvm.ClassFile.FieldType)) ∈ lw_all := lw_g (lw_at lw_m4 8 rfl) rfl
theorem q819 : (Jvm.Cond.methodLink "Vaultyard$Material" (1 : Nat) ({ cls := "java/lang/Record", name := "<init>", desc := "()V" } : Jvm.MethodName)) ∈ lw_all := lw_g (lw_at lw_m4 9 rfl) rfl
theorem q823 : (Jvm.Cond.fieldLink "Vaultyard$Material" (7 : Nat) "Vaultyard$Material" "light" "I") ∈ lw_all := lw_g (lw_at lw_m4 13 rfl) rfl
theorem q824 : (Jvm.Cond.fieldLink "Vaultyard$Material" (13 : Nat) "Vaultyard$Material" "least" "I") ∈ lw_all := lw_g (lw_at lw_m4 14 rfl) rfl
theorem q825 : (Jvm.Cond.fieldLink "Vaultyard$Material" (16 : Nat) "Vaultyard$Material" "greatest" "I") ∈ lw_all := lw_g (lw_at lw_m4 15 rfl) rfl
theorem q826 : (Jvm.Cond.fieldLink "Vaultyard$Material" (19 : Nat) "Vaultyard$Material" "eaten" "I") ∈ lw_all := lw_g (lw_at lw_m4 16 rfl) rfl
theorem q827 : (Jvm.Cond.fieldLink "Vaultyard$Material" (22 : Nat) "Vaultyard$Material" "isHarmed" "Z") ∈ lw_all := lw_g (lw_at lw_m4 17 rfl) rfl
theorem q828 : (Jvm.Cond.laysFinal "Vaultyard$Material" "Vaultyard$Material" "light" "I") ∈ lw_all := lw_g (lw_at lw_m4 18 rfl) rfl
theorem q829 : (Jvm.Cond.soleField "Vaultyard$Material" "light") ∈ lw_all := lw_g (lw_at lw_m4 19 rfl) rfl
theorem q830 : (Jvm.Cond.laysFinal "Vaultyard$Material" "Vaultyard$Material" "least" "I") ∈ lw_all := lw_g (lw_at lw_m4 20 rfl) rfl
theorem q831 : (Jvm.Cond.soleField "Vaultyard$Material" "least") ∈ lw_all := lw_g (lw_at lw_m4 21 rfl) rfl
theorem q832 : (Jvm.Cond.laysFinal "Vaultyard$Material" "Vaultyard$Material" "greatest" "I") ∈ lw_all := lw_g (lw_at lw_m4 22 rfl) rfl
theorem q833 : (Jvm.Cond.soleField "Vaultyard$Material" "greatest") ∈ lw_all := lw_g (lw_at lw_m4 23 rfl) rfl
theorem q834 : (Jvm.Cond.laysFinal "Vaultyard$Material" "Vaultyard$Material" "eaten" "I") ∈ lw_all := lw_g (lw_at lw_m4 24 rfl) rfl
theorem q835 : (Jvm.Cond.soleField "Vaultyard$Material" "eaten") ∈ lw_all := lw_g (lw_at lw_m4 25 rfl) rfl
theorem q836 : (Jvm.Cond.laysFinal "Vaultyard$Material" "Vaultyard$Material" "isHarmed" "Z") ∈ lw_all := lw_g (lw_at lw_m4 26 rfl) rfl
theorem q837 : (Jvm.Cond.soleField "Vaultyard$Material" "isHarmed") ∈ lw_all := lw_g (lw_at lw_m4 27 rfl) rfl
theorem q838 : (Jvm.Cond.superclass "Vaultyard$Material" "java/lang/Record") ∈ lw_all := lw_g (lw_at lw_m4 28 rfl) rfl
theorem q869 : (Jvm.Cond.selects "Vaultyard$Material" ({ cls := "java/lang/Object", name := "getClass", desc := "()Ljava/lang/Class;" } : Jvm.MethodName) ({ cls := "java/lang/Object", name := "getClass", desc := "()Ljava/lang/Class;" } : Jvm.MethodName)) ∈ lw_all := lw_g (lw_at lw_m4 59 rfl) rfl
theorem q1217 : (Jvm.Cond.instanceMethod ({ cls := "Vaultyard$Material", name := "light", desc := "()I" } : Jvm.MethodName)) ∈ lw_all := lw_g (lw_at lw_m5 167 rfl) rfl
theorem q1218 : (Jvm.Cond.selects "Vaultyard$Material" ({ cls := "Vaultyard$Material", name := "light", desc := "()I" } : Jvm.MethodName) ({ cls := "Vaultyard$Material", name := "light", desc := "()I" } : Jvm.MethodName)) ∈ lw_all := lw_g (lw_at lw_m5 168 rfl) rfl
theorem q1219 : (Jvm.Cond.code ({ cls := "Vaultyard$Material", name := "light", desc := "()I" } : Jvm.MethodName) prog_8_method_5_code (1 : Nat) (Option.some Jvm.ClassFile.FieldType.int)) ∈ lw_all := lw_g (lw_at lw_m5 169 rfl) rfl
theorem q1223 : (Jvm.Cond.instanceMethod ({ cls := "Vaultyard$Material", name := "least", desc := "()I" } : Jvm.MethodName)) ∈ lw_all := lw_g (lw_at lw_m5 173 rfl) rfl
theorem q1224 : (Jvm.Cond.selects "Vaultyard$Material" ({ cls := "Vaultyard$Material", name := "least", desc := "()I" } : Jvm.MethodName) ({ cls := "Vaultyard$Material", name := "least", desc := "()I" } : Jvm.MethodName)) ∈ lw_all := lw_g (lw_at lw_m5 174 rfl) rfl
theorem q1225 : (Jvm.Cond.code ({ cls := "Vaultyard$Material", name := "least", desc := "()I" } : Jvm.MethodName) prog_8_method_6_code (1 : Nat) (Option.some Jvm.ClassFile.FieldType.int)) ∈ lw_all := lw_g (lw_at lw_m5 175 rfl) rfl
theorem q1227 : (Jvm.Cond.instanceMethod ({ cls := "Vaultyard$Material", name := "greatest", desc := "()I" } : Jvm.MethodName)) ∈ lw_all := lw_g (lw_at lw_m5 177 rfl) rfl
theorem q1228 : (Jvm.Cond.selects "Vaultyard$Material" ({ cls := "Vaultyard$Material", name := "greatest", desc := "()I" } : Jvm.MethodName) ({ cls := "Vaultyard$Material", name := "greatest", desc := "()I" } : Jvm.MethodName)) ∈ lw_all := lw_g (lw_at lw_m5 178 rfl) rfl
theorem q1229 : (Jvm.Cond.code ({ cls := "Vaultyard$Material", name := "greatest", desc := "()I" } : Jvm.MethodName) prog_8_method_7_code (1 : Nat) (Option.some Jvm.ClassFile.FieldType.int)) ∈ lw_all := lw_g (lw_at lw_m5 179 rfl) rfl
theorem q1235 : (Jvm.Cond.instanceMethod ({ cls := "Vaultyard$Material", name := "eaten", desc := "()I" } : Jvm.MethodName)) ∈ lw_all := lw_g (lw_at lw_m5 185 rfl) rfl
theorem q1236 : (Jvm.Cond.selects "Vaultyard$Material" ({ cls := "Vaultyard$Material", name := "eaten", desc := "()I" } : Jvm.MethodName) ({ cls := "Vaultyard$Material", name := "eaten", desc := "()I" } : Jvm.MethodName)) ∈ lw_all := lw_g (lw_at lw_m5 186 rfl) rfl
theorem q1237 : (Jvm.Cond.code ({ cls := "Vaultyard$Material", name := "eaten", desc := "()I" } : Jvm.MethodName) prog_8_method_8_code (1 : Nat) (Option.some Jvm.ClassFile.FieldType.int)) ∈ lw_all := lw_g (lw_at lw_m5 187 rfl) rfl
theorem q1986 : (Jvm.Cond.selects "Vaultyard$Material" ({ cls := "java/lang/Object", name := "equals", desc := "(Ljava/lang/Object;)Z" } : Jvm.MethodName) ({ cls := "Vaultyard$Material", name := "equals", desc := "(Ljava/lang/Object;)Z" } : Jvm.MethodName)) ∈ lw_all := lw_g (lw_at lw_m8 216 rfl) rfl
theorem q1987 : (Jvm.Cond.instanceMethod ({ cls := "Vaultyard$Material", name := "equals", desc := "(Ljava/lang/Object;)Z" } : Jvm.MethodName)) ∈ lw_all := lw_g (lw_at lw_m8 217 rfl) rfl
theorem q1988 : (Jvm.Cond.code ({ cls := "Vaultyard$Material", name := "equals", desc := "(Ljava/lang/Object;)Z" } : Jvm.MethodName) prog_8_method_4_code (2 : Nat) (Option.some Jvm.ClassFile.FieldType.boolean)) ∈ lw_all := lw_g (lw_at lw_m8 218 rfl) rfl
theorem q2221 : (Jvm.Cond.instanceMethod ({ cls := "Vaultyard$Material", name := "isHarmed", desc := "()Z" } : Jvm.MethodName)) ∈ lw_all := lw_g (lw_at lw_m9 211 rfl) rfl
theorem q2222 : (Jvm.Cond.selects "Vaultyard$Material" ({ cls := "Vaultyard$Material", name := "isHarmed", desc := "()Z" } : Jvm.MethodName) ({ cls := "Vaultyard$Material", name := "isHarmed", desc := "()Z" } : Jvm.MethodName)) ∈ lw_all := lw_g (lw_at lw_m9 212 rfl) rfl
theorem q2223 : (Jvm.Cond.code ({ cls := "Vaultyard$Material", name := "isHarmed", desc := "()Z" } : Jvm.MethodName) prog_8_method_9_code (1 : Nat) (Option.some Jvm.ClassFile.FieldType.boolean)) ∈ lw_all := lw_g (lw_at lw_m9 213 rfl) rfl
theorem q3042 : (Jvm.Cond.castable "Vaultyard$Material" "java/lang/Object") ∈ lw_tbl := lw_at lw_m13 72 rfl
theorem in_X3 : ∀ w ∈ wsX30, w ∈ lw_all := lw_in wsX30 [828, 830, 832, 834, 836] (by decide +kernel) (by decide +kernel)

/-! VaultyardModel$Material -/
set_option maxRecDepth 100000
def RX4 : String := "VaultyardModel$Material"
def TX4 : u_T := fun k => match k with
  | 0 => ("VaultyardModel$Material", "light", "I", true)
  | 1 => ("VaultyardModel$Material", "least", "I", true)
  | 2 => ("VaultyardModel$Material", "greatest", "I", true)
  | 3 => ("VaultyardModel$Material", "eaten", "I", true)
  | _ => ("VaultyardModel$Material", "isHarmed", "Z", true)
def tyX4 : Nat → FieldType := fun k => match k with
  | 0 => .int
  | 1 => .int
  | 2 => .int
  | 3 => .int
  | _ => .boolean
abbrev wsX40 : List Cond := u_ws RX4 TX4 5
theorem nmX4 : ∀ a, a < 5 → ∀ b, b < 5 → a ≠ b → (TX4 a).2.1 ≠ (TX4 b).2.1 := by decide +kernel
theorem tyX4_ok : ∀ k, k < 5 → parseFieldDescriptor (TX4 k).2.2.1 = some (tyX4 k) := by decide +kernel
abbrev cX4_init : ByteArray := prog_19_method_1_code
def yX4_init : MethodName := ⟨RX4, "<init>", "(IIIIZ)V"⟩
def dkwX4_init_1 : List UInt8 := [181, 0, 19, 42, 21, 5, 181, 0, 22, 177]
abbrev dktX4_init_1 : List UInt8 := dkwX4_init_1 ++ []
def dkwX4_init_0 : List UInt8 := [42, 183, 0, 1, 42, 27, 181, 0, 7, 42, 28, 181, 0, 13, 42, 29, 181, 0, 16, 42, 21, 4]
abbrev dktX4_init_0 : List UInt8 := dkwX4_init_0 ++ dktX4_init_1
theorem dksX4_init_0 : cX4_init.data.toList.drop 0 = dktX4_init_0 := by decide +kernel
theorem dksX4_init_1 : cX4_init.data.toList.drop 22 = dktX4_init_1 := dk_seg dksX4_init_0 22 rfl rfl
theorem dX4_init_0 : decode cX4_init 0 = .ok (.aload_n 0, 1) := dk_42 (dk_at dksX4_init_0 0 rfl rfl)
theorem dX4_init_1 : decode cX4_init 1 = .ok (.invokespecial 1, 3) := dk_183 0 1 (dk_at dksX4_init_0 1 rfl rfl)
theorem dX4_init_4 : decode cX4_init 4 = .ok (.aload_n 0, 1) := dk_42 (dk_at dksX4_init_0 4 rfl rfl)
theorem dX4_init_5 : decode cX4_init 5 = .ok (.iload_n 1, 1) := dk_27 (dk_at dksX4_init_0 5 rfl rfl)
theorem dX4_init_6 : decode cX4_init 6 = .ok (.putfield 7, 3) := dk_181 0 7 (dk_at dksX4_init_0 6 rfl rfl)
theorem dX4_init_9 : decode cX4_init 9 = .ok (.aload_n 0, 1) := dk_42 (dk_at dksX4_init_0 9 rfl rfl)
theorem dX4_init_10 : decode cX4_init 10 = .ok (.iload_n 2, 1) := dk_28 (dk_at dksX4_init_0 10 rfl rfl)
theorem dX4_init_11 : decode cX4_init 11 = .ok (.putfield 13, 3) := dk_181 0 13 (dk_at dksX4_init_0 11 rfl rfl)
theorem dX4_init_14 : decode cX4_init 14 = .ok (.aload_n 0, 1) := dk_42 (dk_at dksX4_init_0 14 rfl rfl)
theorem dX4_init_15 : decode cX4_init 15 = .ok (.iload_n 3, 1) := dk_29 (dk_at dksX4_init_0 15 rfl rfl)
theorem dX4_init_16 : decode cX4_init 16 = .ok (.putfield 16, 3) := dk_181 0 16 (dk_at dksX4_init_0 16 rfl rfl)
theorem dX4_init_19 : decode cX4_init 19 = .ok (.aload_n 0, 1) := dk_42 (dk_at dksX4_init_0 19 rfl rfl)
theorem dX4_init_20 : decode cX4_init 20 = .ok (.iload 4, 2) := dk_21 4 (dk_at dksX4_init_0 20 rfl rfl)
theorem dX4_init_22 : decode cX4_init 22 = .ok (.putfield 19, 3) := dk_181 0 19 (dk_at dksX4_init_1 0 rfl rfl)
theorem dX4_init_25 : decode cX4_init 25 = .ok (.aload_n 0, 1) := dk_42 (dk_at dksX4_init_1 3 rfl rfl)
theorem dX4_init_26 : decode cX4_init 26 = .ok (.iload 5, 2) := dk_21 5 (dk_at dksX4_init_1 4 rfl rfl)
theorem dX4_init_28 : decode cX4_init 28 = .ok (.putfield 22, 3) := dk_181 0 22 (dk_at dksX4_init_1 6 rfl rfl)
theorem dX4_init_31 : decode cX4_init 31 = .ok (.return_, 1) := dk_177 (dk_at dksX4_init_1 9 rfl rfl)
theorem q107 : (Jvm.Cond.initialized "VaultyardModel$Material") ∈ lw_all := lw_g (lw_at lw_m1 17 rfl) rfl
theorem q878 : (Jvm.Cond.selects "VaultyardModel$Material" ({ cls := "java/lang/Object", name := "getClass", desc := "()Ljava/lang/Class;" } : Jvm.MethodName) ({ cls := "java/lang/Object", name := "getClass", desc := "()Ljava/lang/Class;" } : Jvm.MethodName)) ∈ lw_all := lw_g (lw_at lw_m4 68 rfl) rfl
theorem q2017 : (Jvm.Cond.selects "VaultyardModel$Material" ({ cls := "java/lang/Object", name := "equals", desc := "(Ljava/lang/Object;)Z" } : Jvm.MethodName) ({ cls := "java/lang/Object", name := "equals", desc := "(Ljava/lang/Object;)Z" } : Jvm.MethodName)) ∈ lw_all := lw_g (lw_at lw_m9 7 rfl) rfl
theorem q2357 : (Jvm.Cond.instantiable "VaultyardModel$Material" (5 : Nat)) ∈ lw_all := lw_g (lw_at lw_m10 107 rfl) rfl
theorem q2359 : (Jvm.Cond.instanceMethod ({ cls := "VaultyardModel$Material", name := "<init>", desc := "(IIIIZ)V" } : Jvm.MethodName)) ∈ lw_all := lw_g (lw_at lw_m10 109 rfl) rfl
theorem q2360 : (Jvm.Cond.code ({ cls := "VaultyardModel$Material", name := "<init>", desc := "(IIIIZ)V" } : Jvm.MethodName) prog_19_method_1_code (6 : Nat) (Option.none : Option Jvm.ClassFile.FieldType)) ∈ lw_all := lw_g (lw_at lw_m10 110 rfl) rfl
theorem q2361 : (Jvm.Cond.methodLink "VaultyardModel$Material" (1 : Nat) ({ cls := "java/lang/Object", name := "<init>", desc := "()V" } : Jvm.MethodName)) ∈ lw_all := lw_g (lw_at lw_m10 111 rfl) rfl
theorem q2362 : (Jvm.Cond.fieldLink "VaultyardModel$Material" (7 : Nat) "VaultyardModel$Material" "light" "I") ∈ lw_all := lw_g (lw_at lw_m10 112 rfl) rfl
theorem q2364 : (Jvm.Cond.fieldLink "VaultyardModel$Material" (13 : Nat) "VaultyardModel$Material" "least" "I") ∈ lw_all := lw_g (lw_at lw_m10 114 rfl) rfl
theorem q2366 : (Jvm.Cond.fieldLink "VaultyardModel$Material" (16 : Nat) "VaultyardModel$Material" "greatest" "I") ∈ lw_all := lw_g (lw_at lw_m10 116 rfl) rfl
theorem q2368 : (Jvm.Cond.fieldLink "VaultyardModel$Material" (19 : Nat) "VaultyardModel$Material" "eaten" "I") ∈ lw_all := lw_g (lw_at lw_m10 118 rfl) rfl
theorem q2370 : (Jvm.Cond.fieldLink "VaultyardModel$Material" (22 : Nat) "VaultyardModel$Material" "isHarmed" "Z") ∈ lw_all := lw_g (lw_at lw_m10 120 rfl) rfl
theorem q2372 : (Jvm.Cond.laysFinal "VaultyardModel$Material" "VaultyardModel$Material" "light" "I") ∈ lw_all := lw_g (lw_at lw_m10 122 rfl) rfl
theorem q2373 : (Jvm.Cond.soleField "VaultyardModel$Material" "light") ∈ lw_all := lw_g (lw_at lw_m10 123 rfl) rfl
theorem q2374 : (Jvm.Cond.laysFinal "VaultyardModel$Material" "VaultyardModel$Material" "least" "I") ∈ lw_all := lw_g (lw_at lw_m10 124 rfl) rfl
theorem q2375 : (Jvm.Cond.soleField "VaultyardModel$Material" "least") ∈ lw_all := lw_g (lw_at lw_m10 125 rfl) rfl
theorem q2376 : (Jvm.Cond.laysFinal "VaultyardModel$Material" "VaultyardModel$Material" "greatest" "I") ∈ lw_all := lw_g (lw_at lw_m10 126 rfl) rfl
theorem q2377 : (Jvm.Cond.soleField "VaultyardModel$Material" "greatest") ∈ lw_all := lw_g (lw_at lw_m10 127 rfl) rfl
theorem q2378 : (Jvm.Cond.laysFinal "VaultyardModel$Material" "VaultyardModel$Material" "eaten" "I") ∈ lw_all := lw_g (lw_at lw_m10 128 rfl) rfl
theorem q2379 : (Jvm.Cond.soleField "VaultyardModel$Material" "eaten") ∈ lw_all := lw_g (lw_at lw_m10 129 rfl) rfl
theorem q2380 : (Jvm.Cond.laysFinal "VaultyardModel$Material" "VaultyardModel$Material" "isHarmed" "Z") ∈ lw_all := lw_g (lw_at lw_m10 130 rfl) rfl
theorem q2381 : (Jvm.Cond.soleField "VaultyardModel$Material" "isHarmed") ∈ lw_all := lw_g (lw_at lw_m10 131 rfl) rfl
theorem q2382 : (Jvm.Cond.superclass "VaultyardModel$Material" "java/lang/Object") ∈ lw_all := lw_g (lw_at lw_m10 132 rfl) rfl
theorem q3043 : (Jvm.Cond.castable "VaultyardModel$Material" "java/lang/Object") ∈ lw_tbl := lw_at lw_m13 73 rfl
theorem in_X4 : ∀ w ∈ wsX40, w ∈ lw_all := lw_in wsX40 [2372, 2374, 2376, 2378, 2380] (by decide +kernel) (by decide +kernel)

/-! Vaultyard$Room -/
set_option maxRecDepth 100000
def RX5 : String := "Vaultyard$Room"
def TX5 : u_T := fun k => match k with
  | 0 => ("Vaultyard$Room", "number", "I", true)
  | 1 => ("Vaultyard$Room", "sizes", "I", true)
  | 2 => ("Vaultyard$Room", "light", "I", false)
  | 3 => ("Vaultyard$Room", "humidity", "I", false)
  | 4 => ("Vaultyard$Room", "pests", "I", false)
  | 5 => ("Vaultyard$Room", "limit", "I", false)
  | _ => ("Vaultyard$Room", "alarms", "I", false)
def tyX5 : Nat → FieldType := fun k => match k with
  | 0 => .int
  | 1 => .int
  | 2 => .int
  | 3 => .int
  | 4 => .int
  | 5 => .int
  | _ => .int
abbrev wsX50 : List Cond := u_ws RX5 TX5 7
theorem nmX5 : ∀ a, a < 7 → ∀ b, b < 7 → a ≠ b → (TX5 a).2.1 ≠ (TX5 b).2.1 := by decide +kernel
theorem tyX5_ok : ∀ k, k < 7 → parseFieldDescriptor (TX5 k).2.2.1 = some (tyX5 k) := by decide +kernel
abbrev cX5_init : ByteArray := prog_12_method_1_code
def yX5_init : MethodName := ⟨RX5, "<init>", "(IIII)V"⟩
def dkwX5_init_1 : List UInt8 := [181, 0, 19, 42, 21, 4, 181, 0, 22, 177]
abbrev dktX5_init_1 : List UInt8 := dkwX5_init_1 ++ []
def dkwX5_init_0 : List UInt8 := [42, 183, 0, 1, 42, 16, 100, 181, 0, 7, 42, 27, 181, 0, 13, 42, 28, 181, 0, 16, 42, 29]
abbrev dktX5_init_0 : List UInt8 := dkwX5_init_0 ++ dktX5_init_1
theorem dksX5_init_0 : cX5_init.data.toList.drop 0 = dktX5_init_0 := by decide +kernel
theorem dksX5_init_1 : cX5_init.data.toList.drop 22 = dktX5_init_1 := dk_seg dksX5_init_0 22 rfl rfl
theorem dX5_init_0 : decode cX5_init 0 = .ok (.aload_n 0, 1) := dk_42 (dk_at dksX5_init_0 0 rfl rfl)
theorem dX5_init_1 : decode cX5_init 1 = .ok (.invokespecial 1, 3) := dk_183 0 1 (dk_at dksX5_init_0 1 rfl rfl)
theorem dX5_init_4 : decode cX5_init 4 = .ok (.aload_n 0, 1) := dk_42 (dk_at dksX5_init_0 4 rfl rfl)
theorem dX5_init_5 : decode cX5_init 5 = .ok (.bipush 100, 2) := dk_16 100 (dk_at dksX5_init_0 5 rfl rfl)
theorem dX5_init_7 : decode cX5_init 7 = .ok (.putfield 7, 3) := dk_181 0 7 (dk_at dksX5_init_0 7 rfl rfl)
theorem dX5_init_10 : decode cX5_init 10 = .ok (.aload_n 0, 1) := dk_42 (dk_at dksX5_init_0 10 rfl rfl)
theorem dX5_init_11 : decode cX5_init 11 = .ok (.iload_n 1, 1) := dk_27 (dk_at dksX5_init_0 11 rfl rfl)
theorem dX5_init_12 : decode cX5_init 12 = .ok (.putfield 13, 3) := dk_181 0 13 (dk_at dksX5_init_0 12 rfl rfl)
theorem dX5_init_15 : decode cX5_init 15 = .ok (.aload_n 0, 1) := dk_42 (dk_at dksX5_init_0 15 rfl rfl)
theorem dX5_init_16 : decode cX5_init 16 = .ok (.iload_n 2, 1) := dk_28 (dk_at dksX5_init_0 16 rfl rfl)
theorem dX5_init_17 : decode cX5_init 17 = .ok (.putfield 16, 3) := dk_181 0 16 (dk_at dksX5_init_0 17 rfl rfl)
theorem dX5_init_20 : decode cX5_init 20 = .ok (.aload_n 0, 1) := dk_42 (dk_at dksX5_init_0 20 rfl rfl)
theorem dX5_init_21 : decode cX5_init 21 = .ok (.iload_n 3, 1) := dk_29 (dk_at dksX5_init_0 21 rfl rfl)
theorem dX5_init_22 : decode cX5_init 22 = .ok (.putfield 19, 3) := dk_181 0 19 (dk_at dksX5_init_1 0 rfl rfl)
theorem dX5_init_25 : decode cX5_init 25 = .ok (.aload_n 0, 1) := dk_42 (dk_at dksX5_init_1 3 rfl rfl)
theorem dX5_init_26 : decode cX5_init 26 = .ok (.iload 4, 2) := dk_21 4 (dk_at dksX5_init_1 4 rfl rfl)
theorem dX5_init_28 : decode cX5_init 28 = .ok (.putfield 22, 3) := dk_181 0 22 (dk_at dksX5_init_1 6 rfl rfl)
theorem dX5_init_31 : decode cX5_init 31 = .ok (.return_, 1) := dk_177 (dk_at dksX5_init_1 9 rfl rfl)
theorem q108 : (Jvm.Cond.initialized "Vaultyard$Room") ∈ lw_all := lw_g (lw_at lw_m1 18 rfl) rfl
theorem q873 : (Jvm.Cond.selects "Vaultyard$Room" ({ cls := "java/lang/Object", name := "getClass", desc := "()Ljava/lang/Class;" } : Jvm.MethodName) ({ cls := "java/lang/Object", name := "getClass", desc := "()Ljava/lang/Class;" } : Jvm.MethodName)) ∈ lw_all := lw_g (lw_at lw_m4 63 rfl) rfl
theorem q916 : (Jvm.Cond.instantiable "Vaultyard$Room" (7 : Nat)) ∈ lw_all := lw_g (lw_at lw_m4 106 rfl) rfl
theorem q918 : (Jvm.Cond.instanceMethod ({ cls := "Vaultyard$Room", name := "<init>", desc := "(IIII)V" } : Jvm.MethodName)) ∈ lw_all := lw_g (lw_at lw_m4 108 rfl) rfl
theorem q919 : (Jvm.Cond.code ({ cls := "Vaultyard$Room", name := "<init>", desc := "(IIII)V" } : Jvm.MethodName) prog_12_method_1_code (5 : Nat) (Option.none : Option Jvm.ClassFile.FieldType)) ∈ lw_all := lw_g (lw_at lw_m4 109 rfl) rfl
theorem q920 : (Jvm.Cond.methodLink "Vaultyard$Room" (1 : Nat) ({ cls := "java/lang/Object", name := "<init>", desc := "()V" } : Jvm.MethodName)) ∈ lw_all := lw_g (lw_at lw_m4 110 rfl) rfl
theorem q921 : (Jvm.Cond.fieldLink "Vaultyard$Room" (13 : Nat) "Vaultyard$Room" "number" "I") ∈ lw_all := lw_g (lw_at lw_m4 111 rfl) rfl
theorem q924 : (Jvm.Cond.fieldLink "Vaultyard$Room" (22 : Nat) "Vaultyard$Room" "sizes" "I") ∈ lw_all := lw_g (lw_at lw_m4 114 rfl) rfl
theorem q926 : (Jvm.Cond.fieldLink "Vaultyard$Room" (16 : Nat) "Vaultyard$Room" "light" "I") ∈ lw_all := lw_g (lw_at lw_m4 116 rfl) rfl
theorem q929 : (Jvm.Cond.fieldLink "Vaultyard$Room" (19 : Nat) "Vaultyard$Room" "humidity" "I") ∈ lw_all := lw_g (lw_at lw_m4 119 rfl) rfl
theorem q934 : (Jvm.Cond.fieldLink "Vaultyard$Room" (7 : Nat) "Vaultyard$Room" "limit" "I") ∈ lw_all := lw_g (lw_at lw_m4 124 rfl) rfl
theorem q937 : (Jvm.Cond.laysFinal "Vaultyard$Room" "Vaultyard$Room" "number" "I") ∈ lw_all := lw_g (lw_at lw_m4 127 rfl) rfl
theorem q938 : (Jvm.Cond.soleField "Vaultyard$Room" "number") ∈ lw_all := lw_g (lw_at lw_m4 128 rfl) rfl
theorem q939 : (Jvm.Cond.laysFinal "Vaultyard$Room" "Vaultyard$Room" "sizes" "I") ∈ lw_all := lw_g (lw_at lw_m4 129 rfl) rfl
theorem q940 : (Jvm.Cond.soleField "Vaultyard$Room" "sizes") ∈ lw_all := lw_g (lw_at lw_m4 130 rfl) rfl
theorem q941 : (Jvm.Cond.lays "Vaultyard$Room" "Vaultyard$Room" "light" "I") ∈ lw_all := lw_g (lw_at lw_m4 131 rfl) rfl
theorem q942 : (Jvm.Cond.soleField "Vaultyard$Room" "light") ∈ lw_all := lw_g (lw_at lw_m4 132 rfl) rfl
theorem q943 : (Jvm.Cond.lays "Vaultyard$Room" "Vaultyard$Room" "humidity" "I") ∈ lw_all := lw_g (lw_at lw_m4 133 rfl) rfl
theorem q944 : (Jvm.Cond.soleField "Vaultyard$Room" "humidity") ∈ lw_all := lw_g (lw_at lw_m4 134 rfl) rfl
theorem q945 : (Jvm.Cond.lays "Vaultyard$Room" "Vaultyard$Room" "pests" "I") ∈ lw_all := lw_g (lw_at lw_m4 135 rfl) rfl
theorem q946 : (Jvm.Cond.soleField "Vaultyard$Room" "pests") ∈ lw_all := lw_g (lw_at lw_m4 136 rfl) rfl
theorem q947 : (Jvm.Cond.lays "Vaultyard$Room" "Vaultyard$Room" "limit" "I") ∈ lw_all := lw_g (lw_at lw_m4 137 rfl) rfl
theorem q948 : (Jvm.Cond.soleField "Vaultyard$Room" "limit") ∈ lw_all := lw_g (lw_at lw_m4 138 rfl) rfl
theorem q949 : (Jvm.Cond.lays "Vaultyard$Room" "Vaultyard$Room" "alarms" "I") ∈ lw_all := lw_g (lw_at lw_m4 139 rfl) rfl
theorem q950 : (Jvm.Cond.soleField "Vaultyard$Room" "alarms") ∈ lw_all := lw_g (lw_at lw_m4 140 rfl) rfl
theorem q951 : (Jvm.Cond.superclass "Vaultyard$Room" "java/lang/Object") ∈ lw_all := lw_g (lw_at lw_m4 141 rfl) rfl
theorem q2012 : (Jvm.Cond.selects "Vaultyard$Room" ({ cls := "java/lang/Object", name := "equals", desc := "(Ljava/lang/Object;)Z" } : Jvm.MethodName) ({ cls := "java/lang/Object", name := "equals", desc := "(Ljava/lang/Object;)Z" } : Jvm.MethodName)) ∈ lw_all := lw_g (lw_at lw_m9 2 rfl) rfl
theorem q3044 : (Jvm.Cond.castable "Vaultyard$Room" "java/lang/Object") ∈ lw_tbl := lw_at lw_m13 74 rfl
theorem in_X5 : ∀ w ∈ wsX50, w ∈ lw_all := lw_in wsX50 [937, 939, 941, 943, 945, 947, 949] (by decide +kernel) (by decide +kernel)

/-! VaultyardModel$Room -/
set_option maxRecDepth 100000
def RX6 : String := "VaultyardModel$Room"
def TX6 : u_T := fun k => match k with
  | 0 => ("VaultyardModel$Room", "light", "I", false)
  | 1 => ("VaultyardModel$Room", "humidity", "I", false)
  | 2 => ("VaultyardModel$Room", "sizes", "I", true)
  | 3 => ("VaultyardModel$Room", "pests", "I", false)
  | 4 => ("VaultyardModel$Room", "limit", "I", false)
  | _ => ("VaultyardModel$Room", "alarms", "I", false)
def tyX6 : Nat → FieldType := fun k => match k with
  | 0 => .int
  | 1 => .int
  | 2 => .int
  | 3 => .int
  | 4 => .int
  | _ => .int
abbrev wsX60 : List Cond := u_ws RX6 TX6 6
theorem nmX6 : ∀ a, a < 6 → ∀ b, b < 6 → a ≠ b → (TX6 a).2.1 ≠ (TX6 b).2.1 := by decide +kernel
theorem tyX6_ok : ∀ k, k < 6 → parseFieldDescriptor (TX6 k).2.2.1 = some (tyX6 k) := by decide +kernel
abbrev cX6_init : ByteArray := prog_21_method_1_code
def yX6_init : MethodName := ⟨RX6, "<init>", "(III)V"⟩
def dkwX6_init_1 : List UInt8 := [181, 0, 19, 177]
abbrev dktX6_init_1 : List UInt8 := dkwX6_init_1 ++ []
def dkwX6_init_0 : List UInt8 := [42, 183, 0, 1, 42, 16, 100, 181, 0, 7, 42, 27, 181, 0, 13, 42, 28, 181, 0, 16, 42, 29]
abbrev dktX6_init_0 : List UInt8 := dkwX6_init_0 ++ dktX6_init_1
theorem dksX6_init_0 : cX6_init.data.toList.drop 0 = dktX6_init_0 := by decide +kernel
theorem dksX6_init_1 : cX6_init.data.toList.drop 22 = dktX6_init_1 := dk_seg dksX6_init_0 22 rfl rfl
theorem dX6_init_0 : decode cX6_init 0 = .ok (.aload_n 0, 1) := dk_42 (dk_at dksX6_init_0 0 rfl rfl)
theorem dX6_init_1 : decode cX6_init 1 = .ok (.invokespecial 1, 3) := dk_183 0 1 (dk_at dksX6_init_0 1 rfl rfl)
theorem dX6_init_4 : decode cX6_init 4 = .ok (.aload_n 0, 1) := dk_42 (dk_at dksX6_init_0 4 rfl rfl)
theorem dX6_init_5 : decode cX6_init 5 = .ok (.bipush 100, 2) := dk_16 100 (dk_at dksX6_init_0 5 rfl rfl)
theorem dX6_init_7 : decode cX6_init 7 = .ok (.putfield 7, 3) := dk_181 0 7 (dk_at dksX6_init_0 7 rfl rfl)
theorem dX6_init_10 : decode cX6_init 10 = .ok (.aload_n 0, 1) := dk_42 (dk_at dksX6_init_0 10 rfl rfl)
theorem dX6_init_11 : decode cX6_init 11 = .ok (.iload_n 1, 1) := dk_27 (dk_at dksX6_init_0 11 rfl rfl)
theorem dX6_init_12 : decode cX6_init 12 = .ok (.putfield 13, 3) := dk_181 0 13 (dk_at dksX6_init_0 12 rfl rfl)
theorem dX6_init_15 : decode cX6_init 15 = .ok (.aload_n 0, 1) := dk_42 (dk_at dksX6_init_0 15 rfl rfl)
theorem dX6_init_16 : decode cX6_init 16 = .ok (.iload_n 2, 1) := dk_28 (dk_at dksX6_init_0 16 rfl rfl)
theorem dX6_init_17 : decode cX6_init 17 = .ok (.putfield 16, 3) := dk_181 0 16 (dk_at dksX6_init_0 17 rfl rfl)
theorem dX6_init_20 : decode cX6_init 20 = .ok (.aload_n 0, 1) := dk_42 (dk_at dksX6_init_0 20 rfl rfl)
theorem dX6_init_21 : decode cX6_init 21 = .ok (.iload_n 3, 1) := dk_29 (dk_at dksX6_init_0 21 rfl rfl)
theorem dX6_init_22 : decode cX6_init 22 = .ok (.putfield 19, 3) := dk_181 0 19 (dk_at dksX6_init_1 0 rfl rfl)
theorem dX6_init_25 : decode cX6_init 25 = .ok (.return_, 1) := dk_177 (dk_at dksX6_init_1 3 rfl rfl)
theorem q109 : (Jvm.Cond.initialized "VaultyardModel$Room") ∈ lw_all := lw_g (lw_at lw_m1 19 rfl) rfl
theorem q880 : (Jvm.Cond.selects "VaultyardModel$Room" ({ cls := "java/lang/Object", name := "getClass", desc := "()Ljava/lang/Class;" } : Jvm.MethodName) ({ cls := "java/lang/Object", name := "getClass", desc := "()Ljava/lang/Class;" } : Jvm.MethodName)) ∈ lw_all := lw_g (lw_at lw_m4 70 rfl) rfl
theorem q2019 : (Jvm.Cond.selects "VaultyardModel$Room" ({ cls := "java/lang/Object", name := "equals", desc := "(Ljava/lang/Object;)Z" } : Jvm.MethodName) ({ cls := "java/lang/Object", name := "equals", desc := "(Ljava/lang/Object;)Z" } : Jvm.MethodName)) ∈ lw_all := lw_g (lw_at lw_m9 9 rfl) rfl
theorem q2390 : (Jvm.Cond.instantiable "VaultyardModel$Room" (6 : Nat)) ∈ lw_all := lw_g (lw_at lw_m10 140 rfl) rfl
theorem q2392 : (Jvm.Cond.instanceMethod ({ cls := "VaultyardModel$Room", name := "<init>", desc := "(III)V" } : Jvm.MethodName)) ∈ lw_all := lw_g (lw_at lw_m10 142 rfl) rfl
theorem q2393 : (Jvm.Cond.code ({ cls := "VaultyardModel$Room", name := "<init>", desc := "(III)V" } : Jvm.MethodName) prog_21_method_1_code (4 : Nat) (Option.none : Option Jvm.ClassFile.FieldType)) ∈ lw_all := lw_g (lw_at lw_m10 143 rfl) rfl
theorem q2394 : (Jvm.Cond.methodLink "VaultyardModel$Room" (1 : Nat) ({ cls := "java/lang/Object", name := "<init>", desc := "()V" } : Jvm.MethodName)) ∈ lw_all := lw_g (lw_at lw_m10 144 rfl) rfl
theorem q2395 : (Jvm.Cond.fieldLink "VaultyardModel$Room" (13 : Nat) "VaultyardModel$Room" "light" "I") ∈ lw_all := lw_g (lw_at lw_m10 145 rfl) rfl
theorem q2397 : (Jvm.Cond.fieldLink "VaultyardModel$Room" (16 : Nat) "VaultyardModel$Room" "humidity" "I") ∈ lw_all := lw_g (lw_at lw_m10 147 rfl) rfl
theorem q2399 : (Jvm.Cond.fieldLink "VaultyardModel$Room" (19 : Nat) "VaultyardModel$Room" "sizes" "I") ∈ lw_all := lw_g (lw_at lw_m10 149 rfl) rfl
theorem q2402 : (Jvm.Cond.fieldLink "VaultyardModel$Room" (7 : Nat) "VaultyardModel$Room" "limit" "I") ∈ lw_all := lw_g (lw_at lw_m10 152 rfl) rfl
theorem q2405 : (Jvm.Cond.lays "VaultyardModel$Room" "VaultyardModel$Room" "light" "I") ∈ lw_all := lw_g (lw_at lw_m10 155 rfl) rfl
theorem q2406 : (Jvm.Cond.soleField "VaultyardModel$Room" "light") ∈ lw_all := lw_g (lw_at lw_m10 156 rfl) rfl
theorem q2407 : (Jvm.Cond.lays "VaultyardModel$Room" "VaultyardModel$Room" "humidity" "I") ∈ lw_all := lw_g (lw_at lw_m10 157 rfl) rfl
theorem q2408 : (Jvm.Cond.soleField "VaultyardModel$Room" "humidity") ∈ lw_all := lw_g (lw_at lw_m10 158 rfl) rfl
theorem q2409 : (Jvm.Cond.laysFinal "VaultyardModel$Room" "VaultyardModel$Room" "sizes" "I") ∈ lw_all := lw_g (lw_at lw_m10 159 rfl) rfl
theorem q2410 : (Jvm.Cond.soleField "VaultyardModel$Room" "sizes") ∈ lw_all := lw_g (lw_at lw_m10 160 rfl) rfl
theorem q2411 : (Jvm.Cond.lays "VaultyardModel$Room" "VaultyardModel$Room" "pests" "I") ∈ lw_all := lw_g (lw_at lw_m10 161 rfl) rfl
theorem q2412 : (Jvm.Cond.soleField "VaultyardModel$Room" "pests") ∈ lw_all := lw_g (lw_at lw_m10 162 rfl) rfl
theorem q2413 : (Jvm.Cond.lays "VaultyardModel$Room" "VaultyardModel$Room" "limit" "I") ∈ lw_all := lw_g (lw_at lw_m10 163 rfl) rfl
theorem q2414 : (Jvm.Cond.soleField "VaultyardModel$Room" "limit") ∈ lw_all := lw_g (lw_at lw_m10 164 rfl) rfl
theorem q2415 : (Jvm.Cond.lays "VaultyardModel$Room" "VaultyardModel$Room" "alarms" "I") ∈ lw_all := lw_g (lw_at lw_m10 165 rfl) rfl
theorem q2416 : (Jvm.Cond.soleField "VaultyardModel$Room" "alarms") ∈ lw_all := lw_g (lw_at lw_m10 166 rfl) rfl
theorem q2417 : (Jvm.Cond.superclass "VaultyardModel$Room" "java/lang/Object") ∈ lw_all := lw_g (lw_at lw_m10 167 rfl) rfl
theorem q3045 : (Jvm.Cond.castable "VaultyardModel$Room" "java/lang/Object") ∈ lw_tbl := lw_at lw_m13 75 rfl
theorem in_X6 : ∀ w ∈ wsX60, w ∈ lw_all := lw_in wsX60 [2405, 2407, 2409, 2411, 2413, 2415] (by decide +kernel) (by decide +kernel)

/-! Vaultyard$Entry -/
set_option maxRecDepth 100000
def RX8 : String := "Vaultyard$Entry"
def TX8 : u_T := fun k => match k with
  | 0 => ("Vaultyard$Entry", "day", "I", true)
  | 1 => ("Vaultyard$Entry", "letter", "C", true)
  | _ => ("Vaultyard$Entry", "amount", "I", true)
def tyX8 : Nat → FieldType := fun k => match k with
  | 0 => .int
  | 1 => .char
  | _ => .int
abbrev wsX80 : List Cond := u_ws RX8 TX8 3
theorem nmX8 : ∀ a, a < 3 → ∀ b, b < 3 → a ≠ b → (TX8 a).2.1 ≠ (TX8 b).2.1 := by decide +kernel
theorem tyX8_ok : ∀ k, k < 3 → parseFieldDescriptor (TX8 k).2.2.1 = some (tyX8 k) := by decide +kernel
abbrev cX8_letter : ByteArray := prog_4_method_6_code
def yX8_letter : MethodName := ⟨RX8, "letter", "()C"⟩
theorem dX8_letter_0 : decode cX8_letter 0 = .ok (.aload_n 0, 1) := by decide +kernel
theorem dX8_letter_1 : decode cX8_letter 1 = .ok (.getfield 13, 3) := by decide +kernel
theorem dX8_letter_4 : decode cX8_letter 4 = .ok (.ireturn, 1) := by decide +kernel
abbrev cX8_amount : ByteArray := prog_4_method_7_code
def yX8_amount : MethodName := ⟨RX8, "amount", "()I"⟩
theorem dX8_amount_0 : decode cX8_amount 0 = .ok (.aload_n 0, 1) := by decide +kernel
theorem dX8_amount_1 : decode cX8_amount 1 = .ok (.getfield 17, 3) := by decide +kernel
theorem dX8_amount_4 : decode cX8_amount 4 = .ok (.ireturn, 1) := by decide +kernel
abbrev cX8_init : ByteArray := prog_4_method_1_code
def yX8_init : MethodName := ⟨RX8, "<init>", "(ICI)V"⟩
def dkwX8_init_0 : List UInt8 := [42, 183, 0, 1, 42, 27, 181, 0, 7, 42, 28, 181, 0, 13, 42, 29, 181, 0, 17, 177]
abbrev dktX8_init_0 : List UInt8 := dkwX8_init_0 ++ []
theorem dksX8_init_0 : cX8_init.data.toList.drop 0 = dktX8_init_0 := by decide +kernel
theorem dX8_init_0 : decode cX8_init 0 = .ok (.aload_n 0, 1) := dk_42 (dk_at dksX8_init_0 0 rfl rfl)
theorem dX8_init_1 : decode cX8_init 1 = .ok (.invokespecial 1, 3) := dk_183 0 1 (dk_at dksX8_init_0 1 rfl rfl)
theorem dX8_init_4 : decode cX8_init 4 = .ok (.aload_n 0, 1) := dk_42 (dk_at dksX8_init_0 4 rfl rfl)
theorem dX8_init_5 : decode cX8_init 5 = .ok (.iload_n 1, 1) := dk_27 (dk_at dksX8_init_0 5 rfl rfl)
theorem dX8_init_6 : decode cX8_init 6 = .ok (.putfield 7, 3) := dk_181 0 7 (dk_at dksX8_init_0 6 rfl rfl)
theorem dX8_init_9 : decode cX8_init 9 = .ok (.aload_n 0, 1) := dk_42 (dk_at dksX8_init_0 9 rfl rfl)
theorem dX8_init_10 : decode cX8_init 10 = .ok (.iload_n 2, 1) := dk_28 (dk_at dksX8_init_0 10 rfl rfl)
theorem dX8_init_11 : decode cX8_init 11 = .ok (.putfield 13, 3) := dk_181 0 13 (dk_at dksX8_init_0 11 rfl rfl)
theorem dX8_init_14 : decode cX8_init 14 = .ok (.aload_n 0, 1) := dk_42 (dk_at dksX8_init_0 14 rfl rfl)
theorem dX8_init_15 : decode cX8_init 15 = .ok (.iload_n 3, 1) := dk_29 (dk_at dksX8_init_0 15 rfl rfl)
theorem dX8_init_16 : decode cX8_init 16 = .ok (.putfield 17, 3) := dk_181 0 17 (dk_at dksX8_init_0 16 rfl rfl)
theorem dX8_init_19 : decode cX8_init 19 = .ok (.return_, 1) := dk_177 (dk_at dksX8_init_0 19 rfl rfl)
abbrev cX8_day : ByteArray := prog_4_method_5_code
def yX8_day : MethodName := ⟨RX8, "day", "()I"⟩
theorem dX8_day_0 : decode cX8_day 0 = .ok (.aload_n 0, 1) := by decide +kernel
theorem dX8_day_1 : decode cX8_day 1 = .ok (.getfield 7, 3) := by decide +kernel
theorem dX8_day_4 : decode cX8_day 4 = .ok (.ireturn, 1) := by decide +kernel
abbrev cX8_equals : ByteArray := prog_4_method_4_code
def yX8_equals : MethodName := ⟨RX8, "equals", "(Ljava/lang/Object;)Z"⟩
def dkwX8_equals_0 : List UInt8 := [42, 43, 186, 0, 28, 0, 0, 172]
abbrev dktX8_equals_0 : List UInt8 := dkwX8_equals_0 ++ []
theorem dksX8_equals_0 : cX8_equals.data.toList.drop 0 = dktX8_equals_0 := by decide +kernel
theorem dX8_equals_0 : decode cX8_equals 0 = .ok (.aload_n 0, 1) := dk_42 (dk_at dksX8_equals_0 0 rfl rfl)
theorem dX8_equals_1 : decode cX8_equals 1 = .ok (.aload_n 1, 1) := dk_43 (dk_at dksX8_equals_0 1 rfl rfl)
theorem dX8_equals_2 : decode cX8_equals 2 = .ok (.invokedynamic 28, 5) := by decide +kernel
theorem dX8_equals_7 : decode cX8_equals 7 = .ok (.ireturn, 1) := dk_172 (dk_at dksX8_equals_0 7 rfl rfl)
theorem q126 : (Jvm.Cond.initialized "Vaultyard$Entry") ∈ lw_all := lw_g (lw_at lw_m1 36 rfl) rfl
theorem q758 : (Jvm.Cond.instanceMethod ({ cls := "Vaultyard$Entry", name := "letter", desc := "()C" } : Jvm.MethodName)) ∈ lw_all := lw_g (lw_at lw_m3 188 rfl) rfl
theorem q759 : (Jvm.Cond.selects "Vaultyard$Entry" ({ cls := "Vaultyard$Entry", name := "letter", desc := "()C" } : Jvm.MethodName) ({ cls := "Vaultyard$Entry", name := "letter", desc := "()C" } : Jvm.MethodName)) ∈ lw_all := lw_g (lw_at lw_m3 189 rfl) rfl
theorem q760 : (Jvm.Cond.code ({ cls := "Vaultyard$Entry", name := "letter", desc := "()C" } : Jvm.MethodName) prog_4_method_6_code (1 : Nat) (Option.some Jvm.ClassFile.FieldType.char)) ∈ lw_all := lw_g (lw_at lw_m3 190 rfl) rfl
theorem q762 : (Jvm.Cond.instanceMethod ({ cls := "Vaultyard$Entry", name := "amount", desc := "()I" } : Jvm.MethodName)) ∈ lw_all := lw_g (lw_at lw_m3 192 rfl) rfl
theorem q763 : (Jvm.Cond.selects "Vaultyard$Entry" ({ cls := "Vaultyard$Entry", name := "amount", desc := "()I" } : Jvm.MethodName) ({ cls := "Vaultyard$Entry", name := "amount", desc := "()I" } : Jvm.MethodName)) ∈ lw_all := lw_g (lw_at lw_m3 193 rfl) rfl
theorem q764 : (Jvm.Cond.code ({ cls := "Vaultyard$Entry", name := "amount", desc := "()I" } : Jvm.MethodName) prog_4_method_7_code (1 : Nat) (Option.some Jvm.ClassFile.FieldType.int)) ∈ lw_all := lw_g (lw_at lw_m3 194 rfl) rfl
theorem q865 : (Jvm.Cond.selects "Vaultyard$Entry" ({ cls := "java/lang/Object", name := "getClass", desc := "()Ljava/lang/Class;" } : Jvm.MethodName) ({ cls := "java/lang/Object", name := "getClass", desc := "()Ljava/lang/Class;" } : Jvm.MethodName)) ∈ lw_all := lw_g (lw_at lw_m4 55 rfl) rfl
theorem q1039 : (Jvm.Cond.instantiable "Vaultyard$Entry" (3 : Nat)) ∈ lw_all := lw_g (lw_at lw_m4 229 rfl) rfl
theorem q1041 : (Jvm.Cond.instanceMethod ({ cls := "Vaultyard$Entry", name := "<init>", desc := "(ICI)V" } : Jvm.MethodName)) ∈ lw_all := lw_g (lw_at lw_m4 231 rfl) rfl
theorem q1042 : (Jvm.Cond.code ({ cls := "Vaultyard$Entry", name := "<init>", desc := "(ICI)V" } : Jvm.MethodName) prog_4_method_1_code (4 : Nat) (Option.none : Option Jvm.ClassFile.FieldType)) ∈ lw_all := lw_g (lw_at lw_m4 232 rfl) rfl
theorem q1043 : (Jvm.Cond.methodLink "Vaultyard$Entry" (1 : Nat) ({ cls := "java/lang/Record", name := "<init>", desc := "()V" } : Jvm.MethodName)) ∈ lw_all := lw_g (lw_at lw_m4 233 rfl) rfl
theorem q1044 : (Jvm.Cond.fieldLink "Vaultyard$Entry" (7 : Nat) "Vaultyard$Entry" "day" "I") ∈ lw_all := lw_g (lw_at lw_m4 234 rfl) rfl
theorem q1045 : (Jvm.Cond.fieldLink "Vaultyard$Entry" (13 : Nat) "Vaultyard$Entry" "letter" "C") ∈ lw_all := lw_g (lw_at lw_m4 235 rfl) rfl
theorem q1046 : (Jvm.Cond.fieldLink "Vaultyard$Entry" (17 : Nat) "Vaultyard$Entry" "amount" "I") ∈ lw_all := lw_g (lw_at lw_m4 236 rfl) rfl
theorem q1047 : (Jvm.Cond.laysFinal "Vaultyard$Entry" "Vaultyard$Entry" "day" "I") ∈ lw_all := lw_g (lw_at lw_m4 237 rfl) rfl
theorem q1048 : (Jvm.Cond.soleField "Vaultyard$Entry" "day") ∈ lw_all := lw_g (lw_at lw_m4 238 rfl) rfl
theorem q1049 : (Jvm.Cond.laysFinal "Vaultyard$Entry" "Vaultyard$Entry" "letter" "C") ∈ lw_all := lw_g (lw_at lw_m4 239 rfl) rfl
theorem q1050 : (Jvm.Cond.soleField "Vaultyard$Entry" "letter") ∈ lw_all := lw_g (lw_at lw_m5 0 rfl) rfl
theorem q1051 : (Jvm.Cond.laysFinal "Vaultyard$Entry" "Vaultyard$Entry" "amount" "I") ∈ lw_all := lw_g (lw_at lw_m5 1 rfl) rfl
theorem q1052 : (Jvm.Cond.soleField "Vaultyard$Entry" "amount") ∈ lw_all := lw_g (lw_at lw_m5 2 rfl) rfl
theorem q1053 : (Jvm.Cond.superclass "Vaultyard$Entry" "java/lang/Record") ∈ lw_all := lw_g (lw_at lw_m5 3 rfl) rfl
theorem q1277 : (Jvm.Cond.instanceMethod ({ cls := "Vaultyard$Entry", name := "day", desc := "()I" } : Jvm.MethodName)) ∈ lw_all := lw_g (lw_at lw_m5 227 rfl) rfl
theorem q1278 : (Jvm.Cond.selects "Vaultyard$Entry" ({ cls := "Vaultyard$Entry", name := "day", desc := "()I" } : Jvm.MethodName) ({ cls := "Vaultyard$Entry", name := "day", desc := "()I" } : Jvm.MethodName)) ∈ lw_all := lw_g (lw_at lw_m5 228 rfl) rfl
theorem q1279 : (Jvm.Cond.code ({ cls := "Vaultyard$Entry", name := "day", desc := "()I" } : Jvm.MethodName) prog_4_method_5_code (1 : Nat) (Option.some Jvm.ClassFile.FieldType.int)) ∈ lw_all := lw_g (lw_at lw_m5 229 rfl) rfl
theorem q1980 : (Jvm.Cond.selects "Vaultyard$Entry" ({ cls := "java/lang/Object", name := "equals", desc := "(Ljava/lang/Object;)Z" } : Jvm.MethodName) ({ cls := "Vaultyard$Entry", name := "equals", desc := "(Ljava/lang/Object;)Z" } : Jvm.MethodName)) ∈ lw_all := lw_g (lw_at lw_m8 210 rfl) rfl
theorem q1981 : (Jvm.Cond.instanceMethod ({ cls := "Vaultyard$Entry", name := "equals", desc := "(Ljava/lang/Object;)Z" } : Jvm.MethodName)) ∈ lw_all := lw_g (lw_at lw_m8 211 rfl) rfl
theorem q1982 : (Jvm.Cond.code ({ cls := "Vaultyard$Entry", name := "equals", desc := "(Ljava/lang/Object;)Z" } : Jvm.MethodName) prog_4_method_4_code (2 : Nat) (Option.some Jvm.ClassFile.FieldType.boolean)) ∈ lw_all := lw_g (lw_at lw_m8 212 rfl) rfl
theorem q3052 : (Jvm.Cond.castable "Vaultyard$Entry" "java/lang/Object") ∈ lw_tbl := lw_at lw_m13 82 rfl
theorem in_X8 : ∀ w ∈ wsX80, w ∈ lw_all := lw_in wsX80 [1047, 1049, 1051] (by decide +kernel) (by decide +kernel)

/-! VaultyardModel$Thing -/
set_option maxRecDepth 100000
def RX9 : String := "VaultyardModel$Thing"
def TX9 : u_T := fun k => match k with
  | 0 => ("VaultyardModel$Thing", "material", "I", true)
  | 1 => ("VaultyardModel$Thing", "value", "I", true)
  | 2 => ("VaultyardModel$Thing", "size", "I", true)
  | 3 => ("VaultyardModel$Thing", "whole", "I", true)
  | 4 => ("VaultyardModel$Thing", "place", "C", false)
  | 5 => ("VaultyardModel$Thing", "where", "I", false)
  | 6 => ("VaultyardModel$Thing", "until", "I", false)
  | 7 => ("VaultyardModel$Thing", "hasCase", "Z", false)
  | 8 => ("VaultyardModel$Thing", "damage", "I", false)
  | 9 => ("VaultyardModel$Thing", "light", "I", false)
  | 10 => ("VaultyardModel$Thing", "above", "I", false)
  | 11 => ("VaultyardModel$Thing", "done", "I", false)
  | 12 => ("VaultyardModel$Thing", "kept", "I", false)
  | 13 => ("VaultyardModel$Thing", "journal", "Ljava/util/ArrayList;", true)
  | 14 => ("VaultyardModel$Thing", "owners", "Ljava/util/ArrayList;", true)
  | 15 => ("VaultyardModel$Thing", "genuine", "I", false)
  | 16 => ("VaultyardModel$Thing", "fake", "I", false)
  | 17 => ("VaultyardModel$Thing", "oddsFor", "J", false)
  | 18 => ("VaultyardModel$Thing", "oddsAgainst", "J", false)
  | _ => ("VaultyardModel$Thing", "tests", "I", false)
def tyX9 : Nat → FieldType := fun k => match k with
  | 0 => .int
  | 1 => .int
  | 2 => .int
  | 3 => .int
  | 4 => .char
  | 5 => .int
  | 6 => .int
  | 7 => .boolean
  | 8 => .int
  | 9 => .int
  | 10 => .int
  | 11 => .int
  | 12 => .int
  | 13 => .object "java/util/ArrayList"
  | 14 => .object "java/util/ArrayList"
  | 15 => .int
  | 16 => .int
  | 17 => .long
  | 18 => .long
  | _ => .int
abbrev wsX90 : List Cond := u_ws RX9 TX9 20
set_option maxRecDepth 100000 in
theorem nmX9 : ∀ a, a < 20 → ∀ b, b < 20 → a ≠ b → (TX9 a).2.1 ≠ (TX9 b).2.1 := by decide +kernel
set_option maxRecDepth 100000 in
theorem tyX9_ok : ∀ k, k < 20 → parseFieldDescriptor (TX9 k).2.2.1 = some (tyX9 k) := by decide +kernel
abbrev cX9_init : ByteArray := prog_22_method_1_code
def yX9_init : MethodName := ⟨RX9, "<init>", "(IIII)V"⟩
def dkwX9_init_3 : List UInt8 := [21, 4, 181, 0, 46, 177]
abbrev dktX9_init_3 : List UInt8 := dkwX9_init_3 ++ []
def dkwX9_init_2 : List UInt8 := [181, 0, 30, 42, 10, 181, 0, 34, 42, 27, 181, 0, 37, 42, 28, 181, 0, 40, 42, 29, 181, 0, 43, 42]
abbrev dktX9_init_2 : List UInt8 := dkwX9_init_2 ++ dktX9_init_3
def dkwX9_init_1 : List UInt8 := [187, 0, 13, 89, 183, 0, 15, 181, 0, 20, 42, 16, 50, 181, 0, 23, 42, 16, 50, 181, 0, 27, 42, 10]
abbrev dktX9_init_1 : List UInt8 := dkwX9_init_1 ++ dktX9_init_2
def dkwX9_init_0 : List UInt8 := [42, 183, 0, 1, 42, 16, 114, 181, 0, 7, 42, 187, 0, 13, 89, 183, 0, 15, 181, 0, 16, 42]
abbrev dktX9_init_0 : List UInt8 := dkwX9_init_0 ++ dktX9_init_1
theorem dksX9_init_0 : cX9_init.data.toList.drop 0 = dktX9_init_0 := by decide +kernel
theorem dksX9_init_1 : cX9_init.data.toList.drop 22 = dktX9_init_1 := dk_seg dksX9_init_0 22 rfl rfl
theorem dksX9_init_2 : cX9_init.data.toList.drop 46 = dktX9_init_2 := dk_seg dksX9_init_1 24 rfl rfl
theorem dksX9_init_3 : cX9_init.data.toList.drop 70 = dktX9_init_3 := dk_seg dksX9_init_2 24 rfl rfl
theorem dX9_init_0 : decode cX9_init 0 = .ok (.aload_n 0, 1) := dk_42 (dk_at dksX9_init_0 0 rfl rfl)
theorem dX9_init_1 : decode cX9_init 1 = .ok (.invokespecial 1, 3) := dk_183 0 1 (dk_at dksX9_init_0 1 rfl rfl)
theorem dX9_init_4 : decode cX9_init 4 = .ok (.aload_n 0, 1) := dk_42 (dk_at dksX9_init_0 4 rfl rfl)
theorem dX9_init_5 : decode cX9_init 5 = .ok (.bipush 114, 2) := dk_16 114 (dk_at dksX9_init_0 5 rfl rfl)
theorem dX9_init_7 : decode cX9_init 7 = .ok (.putfield 7, 3) := dk_181 0 7 (dk_at dksX9_init_0 7 rfl rfl)
theorem dX9_init_10 : decode cX9_init 10 = .ok (.aload_n 0, 1) := dk_42 (dk_at dksX9_init_0 10 rfl rfl)
theorem dX9_init_11 : decode cX9_init 11 = .ok (.new 13, 3) := dk_187 0 13 (dk_at dksX9_init_0 11 rfl rfl)
theorem dX9_init_14 : decode cX9_init 14 = .ok (.dup, 1) := dk_89 (dk_at dksX9_init_0 14 rfl rfl)
theorem dX9_init_15 : decode cX9_init 15 = .ok (.invokespecial 15, 3) := dk_183 0 15 (dk_at dksX9_init_0 15 rfl rfl)
theorem dX9_init_18 : decode cX9_init 18 = .ok (.putfield 16, 3) := dk_181 0 16 (dk_at dksX9_init_0 18 rfl rfl)
theorem dX9_init_21 : decode cX9_init 21 = .ok (.aload_n 0, 1) := dk_42 (dk_at dksX9_init_0 21 rfl rfl)
theorem dX9_init_22 : decode cX9_init 22 = .ok (.new 13, 3) := dk_187 0 13 (dk_at dksX9_init_1 0 rfl rfl)
theorem dX9_init_25 : decode cX9_init 25 = .ok (.dup, 1) := dk_89 (dk_at dksX9_init_1 3 rfl rfl)
theorem dX9_init_26 : decode cX9_init 26 = .ok (.invokespecial 15, 3) := dk_183 0 15 (dk_at dksX9_init_1 4 rfl rfl)
theorem dX9_init_29 : decode cX9_init 29 = .ok (.putfield 20, 3) := dk_181 0 20 (dk_at dksX9_init_1 7 rfl rfl)
theorem dX9_init_32 : decode cX9_init 32 = .ok (.aload_n 0, 1) := dk_42 (dk_at dksX9_init_1 10 rfl rfl)
theorem dX9_init_33 : decode cX9_init 33 = .ok (.bipush 50, 2) := dk_16 50 (dk_at dksX9_init_1 11 rfl rfl)
theorem dX9_init_35 : decode cX9_init 35 = .ok (.putfield 23, 3) := dk_181 0 23 (dk_at dksX9_init_1 13 rfl rfl)
theorem dX9_init_38 : decode cX9_init 38 = .ok (.aload_n 0, 1) := dk_42 (dk_at dksX9_init_1 16 rfl rfl)
theorem dX9_init_39 : decode cX9_init 39 = .ok (.bipush 50, 2) := dk_16 50 (dk_at dksX9_init_1 17 rfl rfl)
theorem dX9_init_41 : decode cX9_init 41 = .ok (.putfield 27, 3) := dk_181 0 27 (dk_at dksX9_init_1 19 rfl rfl)
theorem dX9_init_44 : decode cX9_init 44 = .ok (.aload_n 0, 1) := dk_42 (dk_at dksX9_init_1 22 rfl rfl)
theorem dX9_init_45 : decode cX9_init 45 = .ok (.lconst 1, 1) := dk_10 (dk_at dksX9_init_1 23 rfl rfl)
theorem dX9_init_46 : decode cX9_init 46 = .ok (.putfield 30, 3) := dk_181 0 30 (dk_at dksX9_init_2 0 rfl rfl)
theorem dX9_init_49 : decode cX9_init 49 = .ok (.aload_n 0, 1) := dk_42 (dk_at dksX9_init_2 3 rfl rfl)
theorem dX9_init_50 : decode cX9_init 50 = .ok (.lconst 1, 1) := dk_10 (dk_at dksX9_init_2 4 rfl rfl)
theorem dX9_init_51 : decode cX9_init 51 = .ok (.putfield 34, 3) := dk_181 0 34 (dk_at dksX9_init_2 5 rfl rfl)
theorem dX9_init_54 : decode cX9_init 54 = .ok (.aload_n 0, 1) := dk_42 (dk_at dksX9_init_2 8 rfl rfl)
theorem dX9_init_55 : decode cX9_init 55 = .ok (.iload_n 1, 1) := dk_27 (dk_at dksX9_init_2 9 rfl rfl)
theorem dX9_init_56 : decode cX9_init 56 = .ok (.putfield 37, 3) := dk_181 0 37 (dk_at dksX9_init_2 10 rfl rfl)
theorem dX9_init_59 : decode cX9_init 59 = .ok (.aload_n 0, 1) := dk_42 (dk_at dksX9_init_2 13 rfl rfl)
theorem dX9_init_60 : decode cX9_init 60 = .ok (.iload_n 2, 1) := dk_28 (dk_at dksX9_init_2 14 rfl rfl)
theorem dX9_init_61 : decode cX9_init 61 = .ok (.putfield 40, 3) := dk_181 0 40 (dk_at dksX9_init_2 15 rfl rfl)
theorem dX9_init_64 : decode cX9_init 64 = .ok (.aload_n 0, 1) := dk_42 (dk_at dksX9_init_2 18 rfl rfl)
theorem dX9_init_65 : decode cX9_init 65 = .ok (.iload_n 3, 1) := dk_29 (dk_at dksX9_init_2 19 rfl rfl)
theorem dX9_init_66 : decode cX9_init 66 = .ok (.putfield 43, 3) := dk_181 0 43 (dk_at dksX9_init_2 20 rfl rfl)
theorem dX9_init_69 : decode cX9_init 69 = .ok (.aload_n 0, 1) := dk_42 (dk_at dksX9_init_2 23 rfl rfl)
theorem dX9_init_70 : decode cX9_init 70 = .ok (.iload 4, 2) := dk_21 4 (dk_at dksX9_init_3 0 rfl rfl)
theorem dX9_init_72 : decode cX9_init 72 = .ok (.putfield 46, 3) := dk_181 0 46 (dk_at dksX9_init_3 2 rfl rfl)
theorem dX9_init_75 : decode cX9_init 75 = .ok (.return_, 1) := dk_177 (dk_at dksX9_init_3 5 rfl rfl)
theorem q127 : (Jvm.Cond.initialized "VaultyardModel$Thing") ∈ lw_all := lw_g (lw_at lw_m1 37 rfl) rfl
theorem q881 : (Jvm.Cond.selects "VaultyardModel$Thing" ({ cls := "java/lang/Object", name := "getClass", desc := "()Ljava/lang/Class;" } : Jvm.MethodName) ({ cls := "java/lang/Object", name := "getClass", desc := "()Ljava/lang/Class;" } : Jvm.MethodName)) ∈ lw_all := lw_g (lw_at lw_m4 71 rfl) rfl
theorem q2020 : (Jvm.Cond.selects "VaultyardModel$Thing" ({ cls := "java/lang/Object", name := "equals", desc := "(Ljava/lang/Object;)Z" } : Jvm.MethodName) ({ cls := "java/lang/Object", name := "equals", desc := "(Ljava/lang/Object;)Z" } : Jvm.MethodName)) ∈ lw_all := lw_g (lw_at lw_m9 10 rfl) rfl
theorem q2456 : (Jvm.Cond.instantiable "VaultyardModel$Thing" (20 : Nat)) ∈ lw_all := lw_g (lw_at lw_m10 206 rfl) rfl
theorem q2458 : (Jvm.Cond.instanceMethod ({ cls := "VaultyardModel$Thing", name := "<init>", desc := "(IIII)V" } : Jvm.MethodName)) ∈ lw_all := lw_g (lw_at lw_m10 208 rfl) rfl
theorem q2459 : (Jvm.Cond.code ({ cls := "VaultyardModel$Thing", name := "<init>", desc := "(IIII)V" } : Jvm.MethodName) prog_22_method_1_code (5 : Nat) (Option.none : Option Jvm.ClassFile.FieldType)) ∈ lw_all := lw_g (lw_at lw_m10 209 rfl) rfl
theorem q2460 : (Jvm.Cond.methodLink "VaultyardModel$Thing" (1 : Nat) ({ cls := "java/lang/Object", name := "<init>", desc := "()V" } : Jvm.MethodName)) ∈ lw_all := lw_g (lw_at lw_m10 210 rfl) rfl
theorem q2461 : (Jvm.Cond.classLink "VaultyardModel$Thing" (13 : Nat) "java/util/ArrayList") ∈ lw_all := lw_g (lw_at lw_m10 211 rfl) rfl
theorem q2462 : (Jvm.Cond.methodLink "VaultyardModel$Thing" (15 : Nat) ({ cls := "java/util/ArrayList", name := "<init>", desc := "()V" } : Jvm.MethodName)) ∈ lw_all := lw_g (lw_at lw_m10 212 rfl) rfl
theorem q2463 : (Jvm.Cond.fieldLink "VaultyardModel$Thing" (37 : Nat) "VaultyardModel$Thing" "material" "I") ∈ lw_all := lw_g (lw_at lw_m10 213 rfl) rfl
theorem q2465 : (Jvm.Cond.fieldLink "VaultyardModel$Thing" (40 : Nat) "VaultyardModel$Thing" "value" "I") ∈ lw_all := lw_g (lw_at lw_m10 215 rfl) rfl
theorem q2467 : (Jvm.Cond.fieldLink "VaultyardModel$Thing" (43 : Nat) "VaultyardModel$Thing" "size" "I") ∈ lw_all := lw_g (lw_at lw_m10 217 rfl) rfl
theorem q2469 : (Jvm.Cond.fieldLink "VaultyardModel$Thing" (46 : Nat) "VaultyardModel$Thing" "whole" "I") ∈ lw_all := lw_g (lw_at lw_m10 219 rfl) rfl
theorem q2471 : (Jvm.Cond.fieldLink "VaultyardModel$Thing" (7 : Nat) "VaultyardModel$Thing" "place" "C") ∈ lw_all := lw_g (lw_at lw_m10 221 rfl) rfl
theorem q2481 : (Jvm.Cond.fieldLink "VaultyardModel$Thing" (16 : Nat) "VaultyardModel$Thing" "journal" "Ljava/util/ArrayList;") ∈ lw_all := lw_g (lw_at lw_m10 231 rfl) rfl
theorem q2483 : (Jvm.Cond.fieldLink "VaultyardModel$Thing" (20 : Nat) "VaultyardModel$Thing" "owners" "Ljava/util/ArrayList;") ∈ lw_all := lw_g (lw_at lw_m10 233 rfl) rfl
theorem q2485 : (Jvm.Cond.fieldLink "VaultyardModel$Thing" (23 : Nat) "VaultyardModel$Thing" "genuine" "I") ∈ lw_all := lw_g (lw_at lw_m10 235 rfl) rfl
theorem q2487 : (Jvm.Cond.fieldLink "VaultyardModel$Thing" (27 : Nat) "VaultyardModel$Thing" "fake" "I") ∈ lw_all := lw_g (lw_at lw_m10 237 rfl) rfl
theorem q2489 : (Jvm.Cond.fieldLink "VaultyardModel$Thing" (30 : Nat) "VaultyardModel$Thing" "oddsFor" "J") ∈ lw_all := lw_g (lw_at lw_m10 239 rfl) rfl
theorem q2491 : (Jvm.Cond.fieldLink "VaultyardModel$Thing" (34 : Nat) "VaultyardModel$Thing" "oddsAgainst" "J") ∈ lw_all := lw_g (lw_at lw_m11 1 rfl) rfl
theorem q2494 : (Jvm.Cond.laysFinal "VaultyardModel$Thing" "VaultyardModel$Thing" "material" "I") ∈ lw_all := lw_g (lw_at lw_m11 4 rfl) rfl
theorem q2495 : (Jvm.Cond.soleField "VaultyardModel$Thing" "material") ∈ lw_all := lw_g (lw_at lw_m11 5 rfl) rfl
theorem q2496 : (Jvm.Cond.laysFinal "VaultyardModel$Thing" "VaultyardModel$Thing" "value" "I") ∈ lw_all := lw_g (lw_at lw_m11 6 rfl) rfl
theorem q2497 : (Jvm.Cond.soleField "VaultyardModel$Thing" "value") ∈ lw_all := lw_g (lw_at lw_m11 7 rfl) rfl
theorem q2498 : (Jvm.Cond.laysFinal "VaultyardModel$Thing" "VaultyardModel$Thing" "size" "I") ∈ lw_all := lw_g (lw_at lw_m11 8 rfl) rfl
theorem q2499 : (Jvm.Cond.soleField "VaultyardModel$Thing" "size") ∈ lw_all := lw_g (lw_at lw_m11 9 rfl) rfl
theorem q2500 : (Jvm.Cond.laysFinal "VaultyardModel$Thing" "VaultyardModel$Thing" "whole" "I") ∈ lw_all := lw_g (lw_at lw_m11 10 rfl) rfl
theorem q2501 : (Jvm.Cond.soleField "VaultyardModel$Thing" "whole") ∈ lw_all := lw_g (lw_at lw_m11 11 rfl) rfl
theorem q2502 : (Jvm.Cond.lays "VaultyardModel$Thing" "VaultyardModel$Thing" "place" "C") ∈ lw_all := lw_g (lw_at lw_m11 12 rfl) rfl
theorem q2503 : (Jvm.Cond.soleField "VaultyardModel$Thing" "place") ∈ lw_all := lw_g (lw_at lw_m11 13 rfl) rfl
theorem q2504 : (Jvm.Cond.lays "VaultyardModel$Thing" "VaultyardModel$Thing" "where" "I") ∈ lw_all := lw_g (lw_at lw_m11 14 rfl) rfl
theorem q2505 : (Jvm.Cond.soleField "VaultyardModel$Thing" "where") ∈ lw_all := lw_g (lw_at lw_m11 15 rfl) rfl
theorem q2506 : (Jvm.Cond.lays "VaultyardModel$Thing" "VaultyardModel$Thing" "until" "I") ∈ lw_all := lw_g (lw_at lw_m11 16 rfl) rfl
theorem q2507 : (Jvm.Cond.soleField "VaultyardModel$Thing" "until") ∈ lw_all := lw_g (lw_at lw_m11 17 rfl) rfl
theorem q2508 : (Jvm.Cond.lays "VaultyardModel$Thing" "VaultyardModel$Thing" "hasCase" "Z") ∈ lw_all := lw_g (lw_at lw_m11 18 rfl) rfl
theorem q2509 : (Jvm.Cond.soleField "VaultyardModel$Thing" "hasCase") ∈ lw_all := lw_g (lw_at lw_m11 19 rfl) rfl
theorem q2510 : (Jvm.Cond.lays "VaultyardModel$Thing" "VaultyardModel$Thing" "damage" "I") ∈ lw_all := lw_g (lw_at lw_m11 20 rfl) rfl
theorem q2511 : (Jvm.Cond.soleField "VaultyardModel$Thing" "damage") ∈ lw_all := lw_g (lw_at lw_m11 21 rfl) rfl
theorem q2512 : (Jvm.Cond.lays "VaultyardModel$Thing" "VaultyardModel$Thing" "light" "I") ∈ lw_all := lw_g (lw_at lw_m11 22 rfl) rfl
theorem q2513 : (Jvm.Cond.soleField "VaultyardModel$Thing" "light") ∈ lw_all := lw_g (lw_at lw_m11 23 rfl) rfl
theorem q2514 : (Jvm.Cond.lays "VaultyardModel$Thing" "VaultyardModel$Thing" "above" "I") ∈ lw_all := lw_g (lw_at lw_m11 24 rfl) rfl
theorem q2515 : (Jvm.Cond.soleField "VaultyardModel$Thing" "above") ∈ lw_all := lw_g (lw_at lw_m11 25 rfl) rfl
theorem q2516 : (Jvm.Cond.lays "VaultyardModel$Thing" "VaultyardModel$Thing" "done" "I") ∈ lw_all := lw_g (lw_at lw_m11 26 rfl) rfl
theorem q2517 : (Jvm.Cond.soleField "VaultyardModel$Thing" "done") ∈ lw_all := lw_g (lw_at lw_m11 27 rfl) rfl
theorem q2518 : (Jvm.Cond.lays "VaultyardModel$Thing" "VaultyardModel$Thing" "kept" "I") ∈ lw_all := lw_g (lw_at lw_m11 28 rfl) rfl
theorem q2519 : (Jvm.Cond.soleField "VaultyardModel$Thing" "kept") ∈ lw_all := lw_g (lw_at lw_m11 29 rfl) rfl
theorem q2520 : (Jvm.Cond.laysFinal "VaultyardModel$Thing" "VaultyardModel$Thing" "journal" "Ljava/util/ArrayList;") ∈ lw_all := lw_g (lw_at lw_m11 30 rfl) rfl
theorem q2521 : (Jvm.Cond.soleField "VaultyardModel$Thing" "journal") ∈ lw_all := lw_g (lw_at lw_m11 31 rfl) rfl
theorem q2522 : (Jvm.Cond.laysFinal "VaultyardModel$Thing" "VaultyardModel$Thing" "owners" "Ljava/util/ArrayList;") ∈ lw_all := lw_g (lw_at lw_m11 32 rfl) rfl
theorem q2523 : (Jvm.Cond.soleField "VaultyardModel$Thing" "owners") ∈ lw_all := lw_g (lw_at lw_m11 33 rfl) rfl
theorem q2524 : (Jvm.Cond.lays "VaultyardModel$Thing" "VaultyardModel$Thing" "genuine" "I") ∈ lw_all := lw_g (lw_at lw_m11 34 rfl) rfl
theorem q2525 : (Jvm.Cond.soleField "VaultyardModel$Thing" "genuine") ∈ lw_all := lw_g (lw_at lw_m11 35 rfl) rfl
theorem q2526 : (Jvm.Cond.lays "VaultyardModel$Thing" "VaultyardModel$Thing" "fake" "I") ∈ lw_all := lw_g (lw_at lw_m11 36 rfl) rfl
theorem q2527 : (Jvm.Cond.soleField "VaultyardModel$Thing" "fake") ∈ lw_all := lw_g (lw_at lw_m11 37 rfl) rfl
theorem q2528 : (Jvm.Cond.lays "VaultyardModel$Thing" "VaultyardModel$Thing" "oddsFor" "J") ∈ lw_all := lw_g (lw_at lw_m11 38 rfl) rfl
theorem q2529 : (Jvm.Cond.soleField "VaultyardModel$Thing" "oddsFor") ∈ lw_all := lw_g (lw_at lw_m11 39 rfl) rfl
theorem q2530 : (Jvm.Cond.lays "VaultyardModel$Thing" "VaultyardModel$Thing" "oddsAgainst" "J") ∈ lw_all := lw_g (lw_at lw_m11 40 rfl) rfl
theorem q2531 : (Jvm.Cond.soleField "VaultyardModel$Thing" "oddsAgainst") ∈ lw_all := lw_g (lw_at lw_m11 41 rfl) rfl
theorem q2532 : (Jvm.Cond.lays "VaultyardModel$Thing" "VaultyardModel$Thing" "tests" "I") ∈ lw_all := lw_g (lw_at lw_m11 42 rfl) rfl
theorem q2533 : (Jvm.Cond.soleField "VaultyardModel$Thing" "tests") ∈ lw_all := lw_g (lw_at lw_m11 43 rfl) rfl
theorem q2534 : (Jvm.Cond.superclass "VaultyardModel$Thing" "java/lang/Object") ∈ lw_all := lw_g (lw_at lw_m11 44 rfl) rfl
theorem q3053 : (Jvm.Cond.castable "VaultyardModel$Thing" "java/lang/Object") ∈ lw_tbl := lw_at lw_m13 83 rfl
theorem in_X9 : ∀ w ∈ wsX90, w ∈ lw_all := lw_in wsX90 [2494, 2496, 2498, 2500, 2502, 2504, 2506, 2508, 2510, 2512, 2514, 2516, 2518, 2520, 2522, 2524, 2526, 2528, 2530, 2532] (by decide +kernel) (by decide +kernel)

/-! Vaultyard$Some -/
set_option maxRecDepth 100000
def RX10 : String := "Vaultyard$Some"
abbrev cX10_init : ByteArray := prog_13_method_1_code
def yX10_init : MethodName := ⟨RX10, "<init>", "(Ljava/util/List;)V"⟩
def dkwX10_init_0 : List UInt8 := [42, 183, 0, 1, 42, 43, 181, 0, 7, 177]
abbrev dktX10_init_0 : List UInt8 := dkwX10_init_0 ++ []
theorem dksX10_init_0 : cX10_init.data.toList.drop 0 = dktX10_init_0 := by decide +kernel
theorem dX10_init_0 : decode cX10_init 0 = .ok (.aload_n 0, 1) := dk_42 (dk_at dksX10_init_0 0 rfl rfl)
theorem dX10_init_1 : decode cX10_init 1 = .ok (.invokespecial 1, 3) := dk_183 0 1 (dk_at dksX10_init_0 1 rfl rfl)
theorem dX10_init_4 : decode cX10_init 4 = .ok (.aload_n 0, 1) := dk_42 (dk_at dksX10_init_0 4 rfl rfl)
theorem dX10_init_5 : decode cX10_init 5 = .ok (.aload_n 1, 1) := dk_43 (dk_at dksX10_init_0 5 rfl rfl)
theorem dX10_init_6 : decode cX10_init 6 = .ok (.putfield 7, 3) := dk_181 0 7 (dk_at dksX10_init_0 6 rfl rfl)
theorem dX10_init_9 : decode cX10_init 9 = .ok (.return_, 1) := dk_177 (dk_at dksX10_init_0 9 rfl rfl)
abbrev cX10_iterator : ByteArray := prog_13_method_3_code
def yX10_iterator : MethodName := ⟨RX10, "iterator", "()Ljava/util/Iterator;"⟩
def dkwX10_iterator_0 : List UInt8 := [187, 0, 13, 89, 42, 183, 0, 15, 176]
abbrev dktX10_iterator_0 : List UInt8 := dkwX10_iterator_0 ++ []
theorem dksX10_iterator_0 : cX10_iterator.data.toList.drop 0 = dktX10_iterator_0 := by decide +kernel
theorem dX10_iterator_0 : decode cX10_iterator 0 = .ok (.new 13, 3) := dk_187 0 13 (dk_at dksX10_iterator_0 0 rfl rfl)
theorem dX10_iterator_3 : decode cX10_iterator 3 = .ok (.dup, 1) := dk_89 (dk_at dksX10_iterator_0 3 rfl rfl)
theorem dX10_iterator_4 : decode cX10_iterator 4 = .ok (.aload_n 0, 1) := dk_42 (dk_at dksX10_iterator_0 4 rfl rfl)
theorem dX10_iterator_5 : decode cX10_iterator 5 = .ok (.invokespecial 15, 3) := dk_183 0 15 (dk_at dksX10_iterator_0 5 rfl rfl)
theorem dX10_iterator_8 : decode cX10_iterator 8 = .ok (.areturn, 1) := dk_176 (dk_at dksX10_iterator_0 8 rfl rfl)
theorem q129 : (Jvm.Cond.initialized "Vaultyard$Some") ∈ lw_all := lw_g (lw_at lw_m1 39 rfl) rfl
theorem q681 : (Jvm.Cond.declares ({ cls := "Vaultyard$Some", name := "fits", desc := "(Ljava/lang/Object;)Z" } : Jvm.MethodName)) ∈ lw_tbl := lw_at lw_m3 111 rfl
theorem q682 : (Jvm.Cond.sameMethod "Vaultyard$Some" "Vaultyard$Some" "fits" "(Ljava/lang/Object;)Z") ∈ lw_all := lw_g (lw_at lw_m3 112 rfl) rfl
theorem q1298 : (Jvm.Cond.instanceMethod ({ cls := "Vaultyard$Some", name := "<init>", desc := "(Ljava/util/List;)V" } : Jvm.MethodName)) ∈ lw_all := lw_g (lw_at lw_m6 8 rfl) rfl
theorem q1299 : (Jvm.Cond.code ({ cls := "Vaultyard$Some", name := "<init>", desc := "(Ljava/util/List;)V" } : Jvm.MethodName) prog_13_method_1_code (2 : Nat) (Option.none : Option Jvm.ClassFile.FieldType)) ∈ lw_all := lw_g (lw_at lw_m6 9 rfl) rfl
theorem q1300 : (Jvm.Cond.methodLink "Vaultyard$Some" (1 : Nat) ({ cls := "java/lang/Object", name := "<init>", desc := "()V" } : Jvm.MethodName)) ∈ lw_all := lw_g (lw_at lw_m6 10 rfl) rfl
theorem q1303 : (Jvm.Cond.fieldLink "Vaultyard$Some" (7 : Nat) "Vaultyard$Some" "all" "Ljava/util/List;") ∈ lw_all := lw_g (lw_at lw_m6 13 rfl) rfl
theorem q1310 : (Jvm.Cond.soleField "Vaultyard$Some" "all") ∈ lw_all := lw_g (lw_at lw_m6 20 rfl) rfl
theorem q1319 : (Jvm.Cond.instanceMethod ({ cls := "Vaultyard$Some", name := "iterator", desc := "()Ljava/util/Iterator;" } : Jvm.MethodName)) ∈ lw_all := lw_g (lw_at lw_m6 29 rfl) rfl
theorem q1320 : (Jvm.Cond.publicMethod ({ cls := "Vaultyard$Some", name := "iterator", desc := "()Ljava/util/Iterator;" } : Jvm.MethodName)) ∈ lw_tbl := lw_at lw_m6 30 rfl
theorem q1321 : (Jvm.Cond.code ({ cls := "Vaultyard$Some", name := "iterator", desc := "()Ljava/util/Iterator;" } : Jvm.MethodName) prog_13_method_3_code (1 : Nat) (Option.some (Jvm.ClassFile.FieldType.object "java/util/Iterator"))) ∈ lw_all := lw_g (lw_at lw_m6 31 rfl) rfl
theorem q1322 : (Jvm.Cond.classLink "Vaultyard$Some" (13 : Nat) "Vaultyard$Some$1") ∈ lw_all := lw_g (lw_at lw_m6 32 rfl) rfl
theorem q1323 : (Jvm.Cond.methodLink "Vaultyard$Some" (15 : Nat) ({ cls := "Vaultyard$Some$1", name := "<init>", desc := "(LVaultyard$Some;)V" } : Jvm.MethodName)) ∈ lw_all := lw_g (lw_at lw_m6 33 rfl) rfl

/-! Vaultyard$1 -/
set_option maxRecDepth 100000
def RX11 : String := "Vaultyard$1"
def TX11 : u_T := fun k => match k with
  | 0 => ("Vaultyard$Some", "all", "Ljava/util/List;", true)
  | 1 => ("Vaultyard$1", "val$r", "LVaultyard$Room;", true)
  | _ => ("Vaultyard$1", "this$0", "LVaultyard;", true)
def tyX11 : Nat → FieldType := fun k => match k with
  | 0 => .object "java/util/List"
  | 1 => .object "Vaultyard$Room"
  | _ => .object "Vaultyard"
abbrev wsX110 : List Cond := u_ws RX11 TX11 3
theorem nmX11 : ∀ a, a < 3 → ∀ b, b < 3 → a ≠ b → (TX11 a).2.1 ≠ (TX11 b).2.1 := by decide +kernel
theorem tyX11_ok : ∀ k, k < 3 → parseFieldDescriptor (TX11 k).2.2.1 = some (tyX11 k) := by decide +kernel
abbrev cX11_fits : ByteArray := prog_2_method_3_code
def yX11_fits : MethodName := ⟨RX11, "fits", "(Ljava/lang/Object;)Z"⟩
def dkwX11_fits_0 : List UInt8 := [42, 43, 192, 0, 18, 182, 0, 23, 172]
abbrev dktX11_fits_0 : List UInt8 := dkwX11_fits_0 ++ []
theorem dksX11_fits_0 : cX11_fits.data.toList.drop 0 = dktX11_fits_0 := by decide +kernel
theorem dX11_fits_0 : decode cX11_fits 0 = .ok (.aload_n 0, 1) := dk_42 (dk_at dksX11_fits_0 0 rfl rfl)
theorem dX11_fits_1 : decode cX11_fits 1 = .ok (.aload_n 1, 1) := dk_43 (dk_at dksX11_fits_0 1 rfl rfl)
theorem dX11_fits_2 : decode cX11_fits 2 = .ok (.checkcast 18, 3) := dk_192 0 18 (dk_at dksX11_fits_0 2 rfl rfl)
theorem dX11_fits_5 : decode cX11_fits 5 = .ok (.invokevirtual 23, 3) := dk_182 0 23 (dk_at dksX11_fits_0 5 rfl rfl)
theorem dX11_fits_8 : decode cX11_fits 8 = .ok (.ireturn, 1) := dk_172 (dk_at dksX11_fits_0 8 rfl rfl)
abbrev cX11_fits_2 : ByteArray := prog_2_method_2_code
def yX11_fits_2 : MethodName := ⟨RX11, "fits", "(LVaultyard$Thing;)Z"⟩
def dkwX11_fits_2_0 : List UInt8 := [43, 42, 180, 0, 7, 182, 0, 17, 172]
abbrev dktX11_fits_2_0 : List UInt8 := dkwX11_fits_2_0 ++ []
theorem dksX11_fits_2_0 : cX11_fits_2.data.toList.drop 0 = dktX11_fits_2_0 := by decide +kernel
theorem dX11_fits_2_0 : decode cX11_fits_2 0 = .ok (.aload_n 1, 1) := dk_43 (dk_at dksX11_fits_2_0 0 rfl rfl)
theorem dX11_fits_2_1 : decode cX11_fits_2 1 = .ok (.aload_n 0, 1) := dk_42 (dk_at dksX11_fits_2_0 1 rfl rfl)
theorem dX11_fits_2_2 : decode cX11_fits_2 2 = .ok (.getfield 7, 3) := dk_180 0 7 (dk_at dksX11_fits_2_0 2 rfl rfl)
theorem dX11_fits_2_5 : decode cX11_fits_2 5 = .ok (.invokevirtual 17, 3) := dk_182 0 17 (dk_at dksX11_fits_2_0 5 rfl rfl)
theorem dX11_fits_2_8 : decode cX11_fits_2 8 = .ok (.ireturn, 1) := dk_172 (dk_at dksX11_fits_2_0 8 rfl rfl)
abbrev cX11_init : ByteArray := prog_2_method_1_code
def yX11_init : MethodName := ⟨RX11, "<init>", "(LVaultyard;Ljava/util/List;LVaultyard$Room;)V"⟩
def dkwX11_init_0 : List UInt8 := [42, 43, 181, 0, 1, 42, 45, 181, 0, 7, 42, 44, 183, 0, 11, 177]
abbrev dktX11_init_0 : List UInt8 := dkwX11_init_0 ++ []
theorem dksX11_init_0 : cX11_init.data.toList.drop 0 = dktX11_init_0 := by decide +kernel
theorem dX11_init_0 : decode cX11_init 0 = .ok (.aload_n 0, 1) := dk_42 (dk_at dksX11_init_0 0 rfl rfl)
theorem dX11_init_1 : decode cX11_init 1 = .ok (.aload_n 1, 1) := dk_43 (dk_at dksX11_init_0 1 rfl rfl)
theorem dX11_init_2 : decode cX11_init 2 = .ok (.putfield 1, 3) := dk_181 0 1 (dk_at dksX11_init_0 2 rfl rfl)
theorem dX11_init_5 : decode cX11_init 5 = .ok (.aload_n 0, 1) := dk_42 (dk_at dksX11_init_0 5 rfl rfl)
theorem dX11_init_6 : decode cX11_init 6 = .ok (.aload_n 3, 1) := dk_45 (dk_at dksX11_init_0 6 rfl rfl)
theorem dX11_init_7 : decode cX11_init 7 = .ok (.putfield 7, 3) := dk_181 0 7 (dk_at dksX11_init_0 7 rfl rfl)
theorem dX11_init_10 : decode cX11_init 10 = .ok (.aload_n 0, 1) := dk_42 (dk_at dksX11_init_0 10 rfl rfl)
theorem dX11_init_11 : decode cX11_init 11 = .ok (.aload_n 2, 1) := dk_44 (dk_at dksX11_init_0 11 rfl rfl)
theorem dX11_init_12 : decode cX11_init 12 = .ok (.invokespecial 11, 3) := dk_183 0 11 (dk_at dksX11_init_0 12 rfl rfl)
theorem dX11_init_15 : decode cX11_init 15 = .ok (.return_, 1) := dk_177 (dk_at dksX11_init_0 15 rfl rfl)
theorem q130 : (Jvm.Cond.initialized "Vaultyard$1") ∈ lw_all := lw_g (lw_at lw_m1 40 rfl) rfl
theorem q683 : (Jvm.Cond.selects "Vaultyard$1" ({ cls := "Vaultyard$Some", name := "fits", desc := "(Ljava/lang/Object;)Z" } : Jvm.MethodName) ({ cls := "Vaultyard$1", name := "fits", desc := "(Ljava/lang/Object;)Z" } : Jvm.MethodName)) ∈ lw_all := lw_g (lw_at lw_m3 113 rfl) rfl
theorem q684 : (Jvm.Cond.instanceMethod ({ cls := "Vaultyard$1", name := "fits", desc := "(Ljava/lang/Object;)Z" } : Jvm.MethodName)) ∈ lw_all := lw_g (lw_at lw_m3 114 rfl) rfl
theorem q685 : (Jvm.Cond.code ({ cls := "Vaultyard$1", name := "fits", desc := "(Ljava/lang/Object;)Z" } : Jvm.MethodName) prog_2_method_3_code (2 : Nat) (Option.some Jvm.ClassFile.FieldType.boolean)) ∈ lw_all := lw_g (lw_at lw_m3 115 rfl) rfl
theorem q686 : (Jvm.Cond.classLink "Vaultyard$1" (18 : Nat) "Vaultyard$Thing") ∈ lw_all := lw_g (lw_at lw_m3 116 rfl) rfl
theorem q687 : (Jvm.Cond.methodLink "Vaultyard$1" (23 : Nat) ({ cls := "Vaultyard$1", name := "fits", desc := "(LVaultyard$Thing;)Z" } : Jvm.MethodName)) ∈ lw_all := lw_g (lw_at lw_m3 117 rfl) rfl
theorem q688 : (Jvm.Cond.instanceMethod ({ cls := "Vaultyard$1", name := "fits", desc := "(LVaultyard$Thing;)Z" } : Jvm.MethodName)) ∈ lw_all := lw_g (lw_at lw_m3 118 rfl) rfl
theorem q689 : (Jvm.Cond.selects "Vaultyard$1" ({ cls := "Vaultyard$1", name := "fits", desc := "(LVaultyard$Thing;)Z" } : Jvm.MethodName) ({ cls := "Vaultyard$1", name := "fits", desc := "(LVaultyard$Thing;)Z" } : Jvm.MethodName)) ∈ lw_all := lw_g (lw_at lw_m3 119 rfl) rfl
theorem q690 : (Jvm.Cond.code ({ cls := "Vaultyard$1", name := "fits", desc := "(LVaultyard$Thing;)Z" } : Jvm.MethodName) prog_2_method_2_code (2 : Nat) (Option.some Jvm.ClassFile.FieldType.boolean)) ∈ lw_all := lw_g (lw_at lw_m3 120 rfl) rfl
theorem q691 : (Jvm.Cond.methodLinkNest "Vaultyard$1" (17 : Nat) ({ cls := "Vaultyard$Thing", name := "isIn", desc := "(LVaultyard$Room;)Z" } : Jvm.MethodName) "Vaultyard") ∈ lw_tbl := lw_at lw_m3 121 rfl
theorem q863 : (Jvm.Cond.selects "Vaultyard$1" ({ cls := "java/lang/Object", name := "getClass", desc := "()Ljava/lang/Class;" } : Jvm.MethodName) ({ cls := "java/lang/Object", name := "getClass", desc := "()Ljava/lang/Class;" } : Jvm.MethodName)) ∈ lw_all := lw_g (lw_at lw_m4 53 rfl) rfl
theorem q1293 : (Jvm.Cond.instantiable "Vaultyard$1" (3 : Nat)) ∈ lw_all := lw_g (lw_at lw_m6 3 rfl) rfl
theorem q1295 : (Jvm.Cond.instanceMethod ({ cls := "Vaultyard$1", name := "<init>", desc := "(LVaultyard;Ljava/util/List;LVaultyard$Room;)V" } : Jvm.MethodName)) ∈ lw_all := lw_g (lw_at lw_m6 5 rfl) rfl
theorem q1296 : (Jvm.Cond.code ({ cls := "Vaultyard$1", name := "<init>", desc := "(LVaultyard;Ljava/util/List;LVaultyard$Room;)V" } : Jvm.MethodName) prog_2_method_1_code (4 : Nat) (Option.none : Option Jvm.ClassFile.FieldType)) ∈ lw_all := lw_g (lw_at lw_m6 6 rfl) rfl
theorem q1297 : (Jvm.Cond.methodLink "Vaultyard$1" (11 : Nat) ({ cls := "Vaultyard$Some", name := "<init>", desc := "(Ljava/util/List;)V" } : Jvm.MethodName)) ∈ lw_all := lw_g (lw_at lw_m6 7 rfl) rfl
theorem q1301 : (Jvm.Cond.fieldLink "Vaultyard$1" (7 : Nat) "Vaultyard$1" "val$r" "LVaultyard$Room;") ∈ lw_all := lw_g (lw_at lw_m6 11 rfl) rfl
theorem q1302 : (Jvm.Cond.fieldLink "Vaultyard$1" (1 : Nat) "Vaultyard$1" "this$0" "LVaultyard;") ∈ lw_all := lw_g (lw_at lw_m6 12 rfl) rfl
theorem q1305 : (Jvm.Cond.laysFinal "Vaultyard$1" "Vaultyard$1" "val$r" "LVaultyard$Room;") ∈ lw_all := lw_g (lw_at lw_m6 15 rfl) rfl
theorem q1306 : (Jvm.Cond.soleField "Vaultyard$1" "val$r") ∈ lw_all := lw_g (lw_at lw_m6 16 rfl) rfl
theorem q1307 : (Jvm.Cond.laysFinal "Vaultyard$1" "Vaultyard$1" "this$0" "LVaultyard;") ∈ lw_all := lw_g (lw_at lw_m6 17 rfl) rfl
theorem q1308 : (Jvm.Cond.soleField "Vaultyard$1" "this$0") ∈ lw_all := lw_g (lw_at lw_m6 18 rfl) rfl
theorem q1309 : (Jvm.Cond.laysFinal "Vaultyard$1" "Vaultyard$Some" "all" "Ljava/util/List;") ∈ lw_all := lw_g (lw_at lw_m6 19 rfl) rfl
theorem q1311 : (Jvm.Cond.superclass "Vaultyard$1" "Vaultyard$Some") ∈ lw_all := lw_g (lw_at lw_m6 21 rfl) rfl
theorem q1316 : (Jvm.Cond.castable "Vaultyard$1" "java/lang/Iterable") ∈ lw_tbl := lw_at lw_m6 26 rfl
theorem q1317 : (Jvm.Cond.selects "Vaultyard$1" ({ cls := "java/lang/Iterable", name := "iterator", desc := "()Ljava/util/Iterator;" } : Jvm.MethodName) ({ cls := "Vaultyard$Some", name := "iterator", desc := "()Ljava/util/Iterator;" } : Jvm.MethodName)) ∈ lw_all := lw_g (lw_at lw_m6 27 rfl) rfl
theorem q1318 : (Jvm.Cond.unhidden "Vaultyard$1" "iterator" "()Ljava/util/Iterator;") ∈ lw_tbl := lw_at lw_m6 28 rfl
theorem q1978 : (Jvm.Cond.selects "Vaultyard$1" ({ cls := "java/lang/Object", name := "equals", desc := "(Ljava/lang/Object;)Z" } : Jvm.MethodName) ({ cls := "java/lang/Object", name := "equals", desc := "(Ljava/lang/Object;)Z" } : Jvm.MethodName)) ∈ lw_all := lw_g (lw_at lw_m8 208 rfl) rfl
theorem q3054 : (Jvm.Cond.castable "Vaultyard$1" "java/lang/Object") ∈ lw_tbl := lw_at lw_m13 84 rfl
theorem in_X11 : ∀ w ∈ wsX110, w ∈ lw_all := lw_in wsX110 [1309, 1305, 1307] (by decide +kernel) (by decide +kernel)

/-! Vaultyard$Some$1 -/
set_option maxRecDepth 100000
def RX12 : String := "Vaultyard$Some$1"
def TX12 : u_T := fun k => match k with
  | 0 => ("Vaultyard$Some$1", "at", "I", false)
  | _ => ("Vaultyard$Some$1", "this$0", "LVaultyard$Some;", true)
def tyX12 : Nat → FieldType := fun k => match k with
  | 0 => .int
  | _ => .object "Vaultyard$Some"
abbrev wsX120 : List Cond := u_ws RX12 TX12 2
theorem nmX12 : ∀ a, a < 2 → ∀ b, b < 2 → a ≠ b → (TX12 a).2.1 ≠ (TX12 b).2.1 := by decide +kernel
theorem tyX12_ok : ∀ k, k < 2 → parseFieldDescriptor (TX12 k).2.2.1 = some (tyX12 k) := by decide +kernel
abbrev cX12_hasNext : ByteArray := prog_14_method_3_code
def yX12_hasNext : MethodName := ⟨RX12, "hasNext", "()Z"⟩
def dkwX12_hasNext_1 : List UInt8 := [172]
abbrev dktX12_hasNext_1 : List UInt8 := dkwX12_hasNext_1 ++ []
def dkwX12_hasNext_0 : List UInt8 := [42, 180, 0, 17, 42, 180, 0, 1, 180, 0, 21, 185, 0, 27, 1, 0, 162, 0, 7, 4, 167, 0, 4, 3]
abbrev dktX12_hasNext_0 : List UInt8 := dkwX12_hasNext_0 ++ dktX12_hasNext_1
theorem dksX12_hasNext_0 : cX12_hasNext.data.toList.drop 0 = dktX12_hasNext_0 := by decide +kernel
theorem dksX12_hasNext_1 : cX12_hasNext.data.toList.drop 24 = dktX12_hasNext_1 := dk_seg dksX12_hasNext_0 24 rfl rfl
theorem dX12_hasNext_0 : decode cX12_hasNext 0 = .ok (.aload_n 0, 1) := dk_42 (dk_at dksX12_hasNext_0 0 rfl rfl)
theorem dX12_hasNext_1 : decode cX12_hasNext 1 = .ok (.getfield 17, 3) := dk_180 0 17 (dk_at dksX12_hasNext_0 1 rfl rfl)
theorem dX12_hasNext_4 : decode cX12_hasNext 4 = .ok (.aload_n 0, 1) := dk_42 (dk_at dksX12_hasNext_0 4 rfl rfl)
theorem dX12_hasNext_5 : decode cX12_hasNext 5 = .ok (.getfield 1, 3) := dk_180 0 1 (dk_at dksX12_hasNext_0 5 rfl rfl)
theorem dX12_hasNext_8 : decode cX12_hasNext 8 = .ok (.getfield 21, 3) := dk_180 0 21 (dk_at dksX12_hasNext_0 8 rfl rfl)
theorem dX12_hasNext_11 : decode cX12_hasNext 11 = .ok (.invokeinterface 27 1, 5) := by decide +kernel
theorem dX12_hasNext_16 : decode cX12_hasNext 16 = .ok (.if_icmp .ge 7, 3) := dk_162 0 7 (dk_at dksX12_hasNext_0 16 rfl rfl)
theorem dX12_hasNext_19 : decode cX12_hasNext 19 = .ok (.iconst 1, 1) := dk_4 (dk_at dksX12_hasNext_0 19 rfl rfl)
theorem dX12_hasNext_20 : decode cX12_hasNext 20 = .ok (.goto 4, 3) := dk_167 0 4 (dk_at dksX12_hasNext_0 20 rfl rfl)
theorem dX12_hasNext_23 : decode cX12_hasNext 23 = .ok (.iconst 0, 1) := dk_3 (dk_at dksX12_hasNext_0 23 rfl rfl)
theorem dX12_hasNext_24 : decode cX12_hasNext 24 = .ok (.ireturn, 1) := dk_172 (dk_at dksX12_hasNext_1 0 rfl rfl)
abbrev cX12_next : ByteArray := prog_14_method_4_code
def yX12_next : MethodName := ⟨RX12, "next", "()Ljava/lang/Object;"⟩
def dkwX12_next_1 : List UInt8 := [96, 182, 0, 13, 181, 0, 17, 43, 176]
abbrev dktX12_next_1 : List UInt8 := dkwX12_next_1 ++ []
def dkwX12_next_0 : List UInt8 := [42, 180, 0, 1, 180, 0, 21, 42, 180, 0, 17, 185, 0, 33, 2, 0, 76, 42, 42, 42, 180, 0, 17, 4]
abbrev dktX12_next_0 : List UInt8 := dkwX12_next_0 ++ dktX12_next_1
theorem dksX12_next_0 : cX12_next.data.toList.drop 0 = dktX12_next_0 := by decide +kernel
theorem dksX12_next_1 : cX12_next.data.toList.drop 24 = dktX12_next_1 := dk_seg dksX12_next_0 24 rfl rfl
theorem dX12_next_0 : decode cX12_next 0 = .ok (.aload_n 0, 1) := dk_42 (dk_at dksX12_next_0 0 rfl rfl)
theorem dX12_next_1 : decode cX12_next 1 = .ok (.getfield 1, 3) := dk_180 0 1 (dk_at dksX12_next_0 1 rfl rfl)
theorem dX12_next_4 : decode cX12_next 4 = .ok (.getfield 21, 3) := dk_180 0 21 (dk_at dksX12_next_0 4 rfl rfl)
theorem dX12_next_7 : decode cX12_next 7 = .ok (.aload_n 0, 1) := dk_42 (dk_at dksX12_next_0 7 rfl rfl)
theorem dX12_next_8 : decode cX12_next 8 = .ok (.getfield 17, 3) := dk_180 0 17 (dk_at dksX12_next_0 8 rfl rfl)
theorem dX12_next_11 : decode cX12_next 11 = .ok (.invokeinterface 33 2, 5) := by decide +kernel
theorem dX12_next_16 : decode cX12_next 16 = .ok (.astore_n 1, 1) := dk_76 (dk_at dksX12_next_0 16 rfl rfl)
theorem dX12_next_17 : decode cX12_next 17 = .ok (.aload_n 0, 1) := dk_42 (dk_at dksX12_next_0 17 rfl rfl)
theorem dX12_next_18 : decode cX12_next 18 = .ok (.aload_n 0, 1) := dk_42 (dk_at dksX12_next_0 18 rfl rfl)
theorem dX12_next_19 : decode cX12_next 19 = .ok (.aload_n 0, 1) := dk_42 (dk_at dksX12_next_0 19 rfl rfl)
theorem dX12_next_20 : decode cX12_next 20 = .ok (.getfield 17, 3) := dk_180 0 17 (dk_at dksX12_next_0 20 rfl rfl)
theorem dX12_next_23 : decode cX12_next 23 = .ok (.iconst 1, 1) := dk_4 (dk_at dksX12_next_0 23 rfl rfl)
theorem dX12_next_24 : decode cX12_next 24 = .ok (.iadd, 1) := dk_96 (dk_at dksX12_next_1 0 rfl rfl)
theorem dX12_next_25 : decode cX12_next 25 = .ok (.invokevirtual 13, 3) := dk_182 0 13 (dk_at dksX12_next_1 1 rfl rfl)
theorem dX12_next_28 : decode cX12_next 28 = .ok (.putfield 17, 3) := dk_181 0 17 (dk_at dksX12_next_1 4 rfl rfl)
theorem dX12_next_31 : decode cX12_next 31 = .ok (.aload_n 1, 1) := dk_43 (dk_at dksX12_next_1 7 rfl rfl)
theorem dX12_next_32 : decode cX12_next 32 = .ok (.areturn, 1) := dk_176 (dk_at dksX12_next_1 8 rfl rfl)
abbrev cX12_from : ByteArray := prog_14_method_2_code
def yX12_from : MethodName := ⟨RX12, "from", "(I)I"⟩
def dkwX12_from_2 : List UInt8 := [28, 172]
abbrev dktX12_from_2 : List UInt8 := dkwX12_from_2 ++ []
def dkwX12_from_1 : List UInt8 := [180, 0, 1, 180, 0, 21, 28, 185, 0, 33, 2, 0, 182, 0, 37, 154, 0, 9, 132, 2, 1, 167, 255, 214]
abbrev dktX12_from_1 : List UInt8 := dkwX12_from_1 ++ dktX12_from_2
def dkwX12_from_0 : List UInt8 := [27, 61, 28, 42, 180, 0, 1, 180, 0, 21, 185, 0, 27, 1, 0, 162, 0, 32, 42, 180, 0, 1, 42]
abbrev dktX12_from_0 : List UInt8 := dkwX12_from_0 ++ dktX12_from_1
theorem dksX12_from_0 : cX12_from.data.toList.drop 0 = dktX12_from_0 := by decide +kernel
theorem dksX12_from_1 : cX12_from.data.toList.drop 23 = dktX12_from_1 := dk_seg dksX12_from_0 23 rfl rfl
theorem dksX12_from_2 : cX12_from.data.toList.drop 47 = dktX12_from_2 := dk_seg dksX12_from_1 24 rfl rfl
theorem dX12_from_0 : decode cX12_from 0 = .ok (.iload_n 1, 1) := dk_27 (dk_at dksX12_from_0 0 rfl rfl)
theorem dX12_from_1 : decode cX12_from 1 = .ok (.istore_n 2, 1) := dk_61 (dk_at dksX12_from_0 1 rfl rfl)
theorem dX12_from_2 : decode cX12_from 2 = .ok (.iload_n 2, 1) := dk_28 (dk_at dksX12_from_0 2 rfl rfl)
theorem dX12_from_3 : decode cX12_from 3 = .ok (.aload_n 0, 1) := dk_42 (dk_at dksX12_from_0 3 rfl rfl)
theorem dX12_from_4 : decode cX12_from 4 = .ok (.getfield 1, 3) := dk_180 0 1 (dk_at dksX12_from_0 4 rfl rfl)
theorem dX12_from_7 : decode cX12_from 7 = .ok (.getfield 21, 3) := dk_180 0 21 (dk_at dksX12_from_0 7 rfl rfl)
theorem dX12_from_10 : decode cX12_from 10 = .ok (.invokeinterface 27 1, 5) := by decide +kernel
theorem dX12_from_15 : decode cX12_from 15 = .ok (.if_icmp .ge 32, 3) := dk_162 0 32 (dk_at dksX12_from_0 15 rfl rfl)
theorem dX12_from_18 : decode cX12_from 18 = .ok (.aload_n 0, 1) := dk_42 (dk_at dksX12_from_0 18 rfl rfl)
theorem dX12_from_19 : decode cX12_from 19 = .ok (.getfield 1, 3) := dk_180 0 1 (dk_at dksX12_from_0 19 rfl rfl)
theorem dX12_from_22 : decode cX12_from 22 = .ok (.aload_n 0, 1) := dk_42 (dk_at dksX12_from_0 22 rfl rfl)
theorem dX12_from_23 : decode cX12_from 23 = .ok (.getfield 1, 3) := dk_180 0 1 (dk_at dksX12_from_1 0 rfl rfl)
theorem dX12_from_26 : decode cX12_from 26 = .ok (.getfield 21, 3) := dk_180 0 21 (dk_at dksX12_from_1 3 rfl rfl)
theorem dX12_from_29 : decode cX12_from 29 = .ok (.iload_n 2, 1) := dk_28 (dk_at dksX12_from_1 6 rfl rfl)
theorem dX12_from_30 : decode cX12_from 30 = .ok (.invokeinterface 33 2, 5) := by decide +kernel
theorem dX12_from_35 : decode cX12_from 35 = .ok (.invokevirtual 37, 3) := dk_182 0 37 (dk_at dksX12_from_1 12 rfl rfl)
theorem dX12_from_38 : decode cX12_from 38 = .ok (.ifCond .ne 9, 3) := dk_154 0 9 (dk_at dksX12_from_1 15 rfl rfl)
theorem dX12_from_41 : decode cX12_from 41 = .ok (.iinc 2 1, 3) := dk_132 2 1 (dk_at dksX12_from_1 18 rfl rfl)
theorem dX12_from_44 : decode cX12_from 44 = .ok (.goto (-42), 3) := dk_167 255 214 (dk_at dksX12_from_1 21 rfl rfl)
theorem dX12_from_47 : decode cX12_from 47 = .ok (.iload_n 2, 1) := dk_28 (dk_at dksX12_from_2 0 rfl rfl)
theorem dX12_from_48 : decode cX12_from 48 = .ok (.ireturn, 1) := dk_172 (dk_at dksX12_from_2 1 rfl rfl)
abbrev cX12_init : ByteArray := prog_14_method_1_code
def yX12_init : MethodName := ⟨RX12, "<init>", "(LVaultyard$Some;)V"⟩
def dkwX12_init_0 : List UInt8 := [42, 43, 181, 0, 1, 42, 183, 0, 7, 42, 42, 3, 182, 0, 13, 181, 0, 17, 177]
abbrev dktX12_init_0 : List UInt8 := dkwX12_init_0 ++ []
theorem dksX12_init_0 : cX12_init.data.toList.drop 0 = dktX12_init_0 := by decide +kernel
theorem dX12_init_0 : decode cX12_init 0 = .ok (.aload_n 0, 1) := dk_42 (dk_at dksX12_init_0 0 rfl rfl)
theorem dX12_init_1 : decode cX12_init 1 = .ok (.aload_n 1, 1) := dk_43 (dk_at dksX12_init_0 1 rfl rfl)
theorem dX12_init_2 : decode cX12_init 2 = .ok (.putfield 1, 3) := dk_181 0 1 (dk_at dksX12_init_0 2 rfl rfl)
theorem dX12_init_5 : decode cX12_init 5 = .ok (.aload_n 0, 1) := dk_42 (dk_at dksX12_init_0 5 rfl rfl)
theorem dX12_init_6 : decode cX12_init 6 = .ok (.invokespecial 7, 3) := dk_183 0 7 (dk_at dksX12_init_0 6 rfl rfl)
theorem dX12_init_9 : decode cX12_init 9 = .ok (.aload_n 0, 1) := dk_42 (dk_at dksX12_init_0 9 rfl rfl)
theorem dX12_init_10 : decode cX12_init 10 = .ok (.aload_n 0, 1) := dk_42 (dk_at dksX12_init_0 10 rfl rfl)
theorem dX12_init_11 : decode cX12_init 11 = .ok (.iconst 0, 1) := dk_3 (dk_at dksX12_init_0 11 rfl rfl)
theorem dX12_init_12 : decode cX12_init 12 = .ok (.invokevirtual 13, 3) := dk_182 0 13 (dk_at dksX12_init_0 12 rfl rfl)
theorem dX12_init_15 : decode cX12_init 15 = .ok (.putfield 17, 3) := dk_181 0 17 (dk_at dksX12_init_0 15 rfl rfl)
theorem dX12_init_18 : decode cX12_init 18 = .ok (.return_, 1) := dk_177 (dk_at dksX12_init_0 18 rfl rfl)
theorem q131 : (Jvm.Cond.initialized "Vaultyard$Some$1") ∈ lw_all := lw_g (lw_at lw_m1 41 rfl) rfl
theorem q266 : (Jvm.Cond.castable "Vaultyard$Some$1" "java/util/Iterator") ∈ lw_tbl := lw_at lw_m1 176 rfl
theorem q267 : (Jvm.Cond.selects "Vaultyard$Some$1" ({ cls := "java/util/Iterator", name := "hasNext", desc := "()Z" } : Jvm.MethodName) ({ cls := "Vaultyard$Some$1", name := "hasNext", desc := "()Z" } : Jvm.MethodName)) ∈ lw_all := lw_g (lw_at lw_m1 177 rfl) rfl
theorem q268 : (Jvm.Cond.unhidden "Vaultyard$Some$1" "hasNext" "()Z") ∈ lw_tbl := lw_at lw_m1 178 rfl
theorem q269 : (Jvm.Cond.instanceMethod ({ cls := "Vaultyard$Some$1", name := "hasNext", desc := "()Z" } : Jvm.MethodName)) ∈ lw_all := lw_g (lw_at lw_m1 179 rfl) rfl
theorem q270 : (Jvm.Cond.publicMethod ({ cls := "Vaultyard$Some$1", name := "hasNext", desc := "()Z" } : Jvm.MethodName)) ∈ lw_tbl := lw_at lw_m1 180 rfl
theorem q271 : (Jvm.Cond.code ({ cls := "Vaultyard$Some$1", name := "hasNext", desc := "()Z" } : Jvm.MethodName) prog_14_method_3_code (1 : Nat) (Option.some Jvm.ClassFile.FieldType.boolean)) ∈ lw_all := lw_g (lw_at lw_m1 181 rfl) rfl
theorem q272 : (Jvm.Cond.interfaceEntry "Vaultyard$Some$1" (27 : Nat)) ∈ lw_tbl := lw_at lw_m1 182 rfl
theorem q273 : (Jvm.Cond.methodLink "Vaultyard$Some$1" (27 : Nat) ({ cls := "java/util/List", name := "size", desc := "()I" } : Jvm.MethodName)) ∈ lw_all := lw_g (lw_at lw_m1 183 rfl) rfl
theorem q306 : (Jvm.Cond.selects "Vaultyard$Some$1" ({ cls := "java/util/Iterator", name := "next", desc := "()Ljava/lang/Object;" } : Jvm.MethodName) ({ cls := "Vaultyard$Some$1", name := "next", desc := "()Ljava/lang/Object;" } : Jvm.MethodName)) ∈ lw_all := lw_g (lw_at lw_m1 216 rfl) rfl
theorem q307 : (Jvm.Cond.unhidden "Vaultyard$Some$1" "next" "()Ljava/lang/Object;") ∈ lw_tbl := lw_at lw_m1 217 rfl
theorem q308 : (Jvm.Cond.instanceMethod ({ cls := "Vaultyard$Some$1", name := "next", desc := "()Ljava/lang/Object;" } : Jvm.MethodName)) ∈ lw_all := lw_g (lw_at lw_m1 218 rfl) rfl
theorem q309 : (Jvm.Cond.publicMethod ({ cls := "Vaultyard$Some$1", name := "next", desc := "()Ljava/lang/Object;" } : Jvm.MethodName)) ∈ lw_tbl := lw_at lw_m1 219 rfl
theorem q310 : (Jvm.Cond.code ({ cls := "Vaultyard$Some$1", name := "next", desc := "()Ljava/lang/Object;" } : Jvm.MethodName) prog_14_method_4_code (2 : Nat) (Option.some (Jvm.ClassFile.FieldType.object "java/lang/Object"))) ∈ lw_all := lw_g (lw_at lw_m1 220 rfl) rfl
theorem q311 : (Jvm.Cond.interfaceEntry "Vaultyard$Some$1" (33 : Nat)) ∈ lw_tbl := lw_at lw_m1 221 rfl
theorem q312 : (Jvm.Cond.methodLink "Vaultyard$Some$1" (33 : Nat) ({ cls := "java/util/List", name := "get", desc := "(I)Ljava/lang/Object;" } : Jvm.MethodName)) ∈ lw_all := lw_g (lw_at lw_m1 222 rfl) rfl
theorem q675 : (Jvm.Cond.methodLink "Vaultyard$Some$1" (13 : Nat) ({ cls := "Vaultyard$Some$1", name := "from", desc := "(I)I" } : Jvm.MethodName)) ∈ lw_all := lw_g (lw_at lw_m3 105 rfl) rfl
theorem q676 : (Jvm.Cond.privateMethod ({ cls := "Vaultyard$Some$1", name := "from", desc := "(I)I" } : Jvm.MethodName)) ∈ lw_tbl := lw_at lw_m3 106 rfl
theorem q677 : (Jvm.Cond.instanceMethod ({ cls := "Vaultyard$Some$1", name := "from", desc := "(I)I" } : Jvm.MethodName)) ∈ lw_all := lw_g (lw_at lw_m3 107 rfl) rfl
theorem q678 : (Jvm.Cond.instantiable "Vaultyard$Some$1" (2 : Nat)) ∈ lw_all := lw_g (lw_at lw_m3 108 rfl) rfl
theorem q679 : (Jvm.Cond.code ({ cls := "Vaultyard$Some$1", name := "from", desc := "(I)I" } : Jvm.MethodName) prog_14_method_2_code (3 : Nat) (Option.some Jvm.ClassFile.FieldType.int)) ∈ lw_all := lw_g (lw_at lw_m3 109 rfl) rfl
theorem q680 : (Jvm.Cond.methodLink "Vaultyard$Some$1" (37 : Nat) ({ cls := "Vaultyard$Some", name := "fits", desc := "(Ljava/lang/Object;)Z" } : Jvm.MethodName)) ∈ lw_all := lw_g (lw_at lw_m3 110 rfl) rfl
theorem q874 : (Jvm.Cond.selects "Vaultyard$Some$1" ({ cls := "java/lang/Object", name := "getClass", desc := "()Ljava/lang/Class;" } : Jvm.MethodName) ({ cls := "java/lang/Object", name := "getClass", desc := "()Ljava/lang/Class;" } : Jvm.MethodName)) ∈ lw_all := lw_g (lw_at lw_m4 64 rfl) rfl
theorem q1304 : (Jvm.Cond.fieldLinkNest "Vaultyard$Some$1" (21 : Nat) "Vaultyard$Some" "all" "Ljava/util/List;" "Vaultyard") ∈ lw_tbl := lw_at lw_m6 14 rfl
theorem q1324 : (Jvm.Cond.instanceMethod ({ cls := "Vaultyard$Some$1", name := "<init>", desc := "(LVaultyard$Some;)V" } : Jvm.MethodName)) ∈ lw_all := lw_g (lw_at lw_m6 34 rfl) rfl
theorem q1325 : (Jvm.Cond.code ({ cls := "Vaultyard$Some$1", name := "<init>", desc := "(LVaultyard$Some;)V" } : Jvm.MethodName) prog_14_method_1_code (2 : Nat) (Option.none : Option Jvm.ClassFile.FieldType)) ∈ lw_all := lw_g (lw_at lw_m6 35 rfl) rfl
theorem q1326 : (Jvm.Cond.methodLink "Vaultyard$Some$1" (7 : Nat) ({ cls := "java/lang/Object", name := "<init>", desc := "()V" } : Jvm.MethodName)) ∈ lw_all := lw_g (lw_at lw_m6 36 rfl) rfl
theorem q1327 : (Jvm.Cond.fieldLink "Vaultyard$Some$1" (17 : Nat) "Vaultyard$Some$1" "at" "I") ∈ lw_all := lw_g (lw_at lw_m6 37 rfl) rfl
theorem q1328 : (Jvm.Cond.fieldLink "Vaultyard$Some$1" (1 : Nat) "Vaultyard$Some$1" "this$0" "LVaultyard$Some;") ∈ lw_all := lw_g (lw_at lw_m6 38 rfl) rfl
theorem q1329 : (Jvm.Cond.lays "Vaultyard$Some$1" "Vaultyard$Some$1" "at" "I") ∈ lw_all := lw_g (lw_at lw_m6 39 rfl) rfl
theorem q1330 : (Jvm.Cond.soleField "Vaultyard$Some$1" "at") ∈ lw_all := lw_g (lw_at lw_m6 40 rfl) rfl
theorem q1331 : (Jvm.Cond.laysFinal "Vaultyard$Some$1" "Vaultyard$Some$1" "this$0" "LVaultyard$Some;") ∈ lw_all := lw_g (lw_at lw_m6 41 rfl) rfl
theorem q1332 : (Jvm.Cond.soleField "Vaultyard$Some$1" "this$0") ∈ lw_all := lw_g (lw_at lw_m6 42 rfl) rfl
theorem q1333 : (Jvm.Cond.superclass "Vaultyard$Some$1" "java/lang/Object") ∈ lw_all := lw_g (lw_at lw_m6 43 rfl) rfl
theorem q2013 : (Jvm.Cond.selects "Vaultyard$Some$1" ({ cls := "java/lang/Object", name := "equals", desc := "(Ljava/lang/Object;)Z" } : Jvm.MethodName) ({ cls := "java/lang/Object", name := "equals", desc := "(Ljava/lang/Object;)Z" } : Jvm.MethodName)) ∈ lw_all := lw_g (lw_at lw_m9 3 rfl) rfl
theorem q3055 : (Jvm.Cond.castable "Vaultyard$Some$1" "java/lang/Object") ∈ lw_tbl := lw_at lw_m13 85 rfl
theorem in_X12 : ∀ w ∈ wsX120, w ∈ lw_all := lw_in wsX120 [1329, 1331] (by decide +kernel) (by decide +kernel)

/-! Vaultyard$Least -/
set_option maxRecDepth 100000
def RX13 : String := "Vaultyard$Least"
def TX13 : u_T := fun k => match k with
  | 0 => ("Vaultyard$Least", "keys", "Ljava/util/List;", false)
  | _ => ("Vaultyard$Least", "what", "Ljava/lang/Object;", false)
def tyX13 : Nat → FieldType := fun k => match k with
  | 0 => .object "java/util/List"
  | _ => .object "java/lang/Object"
abbrev wsX130 : List Cond := u_ws RX13 TX13 2
theorem nmX13 : ∀ a, a < 2 → ∀ b, b < 2 → a ≠ b → (TX13 a).2.1 ≠ (TX13 b).2.1 := by decide +kernel
theorem tyX13_ok : ∀ k, k < 2 → parseFieldDescriptor (TX13 k).2.2.1 = some (tyX13 k) := by decide +kernel
abbrev cX13_init : ByteArray := prog_6_method_1_code
def yX13_init : MethodName := ⟨RX13, "<init>", "()V"⟩
theorem dX13_init_0 : decode cX13_init 0 = .ok (.aload_n 0, 1) := by decide +kernel
theorem dX13_init_1 : decode cX13_init 1 = .ok (.invokespecial 1, 3) := by decide +kernel
theorem dX13_init_4 : decode cX13_init 4 = .ok (.return_, 1) := by decide +kernel
abbrev cX13_offer : ByteArray := prog_6_method_2_code
def yX13_offer : MethodName := ⟨RX13, "offer", "(Ljava/lang/Object;Ljava/util/List;)V"⟩
def dkwX13_offer_3 : List UInt8 := [177, 42, 44, 181, 0, 7, 42, 43, 181, 0, 29, 177]
abbrev dktX13_offer_3 : List UInt8 := dkwX13_offer_3 ++ []
def dkwX13_offer_2 : List UInt8 := [185, 0, 19, 2, 0, 192, 0, 23, 185, 0, 25, 2, 0, 62, 132, 4, 1, 167, 255, 207, 29, 155, 0, 4]
abbrev dktX13_offer_2 : List UInt8 := dkwX13_offer_2 ++ dktX13_offer_3
def dkwX13_offer_1 : List UInt8 := [162, 0, 44, 29, 154, 0, 40, 44, 21, 4, 185, 0, 19, 2, 0, 192, 0, 23, 42, 180, 0, 7, 21, 4]
abbrev dktX13_offer_1 : List UInt8 := dkwX13_offer_1 ++ dktX13_offer_2
def dkwX13_offer_0 : List UInt8 := [42, 180, 0, 7, 199, 0, 7, 2, 167, 0, 4, 3, 62, 3, 54, 4, 21, 4, 44, 185, 0, 13, 1, 0]
abbrev dktX13_offer_0 : List UInt8 := dkwX13_offer_0 ++ dktX13_offer_1
theorem dksX13_offer_0 : cX13_offer.data.toList.drop 0 = dktX13_offer_0 := by decide +kernel
theorem dksX13_offer_1 : cX13_offer.data.toList.drop 24 = dktX13_offer_1 := dk_seg dksX13_offer_0 24 rfl rfl
theorem dksX13_offer_2 : cX13_offer.data.toList.drop 48 = dktX13_offer_2 := dk_seg dksX13_offer_1 24 rfl rfl
theorem dksX13_offer_3 : cX13_offer.data.toList.drop 72 = dktX13_offer_3 := dk_seg dksX13_offer_2 24 rfl rfl
theorem dX13_offer_0 : decode cX13_offer 0 = .ok (.aload_n 0, 1) := dk_42 (dk_at dksX13_offer_0 0 rfl rfl)
theorem dX13_offer_1 : decode cX13_offer 1 = .ok (.getfield 7, 3) := dk_180 0 7 (dk_at dksX13_offer_0 1 rfl rfl)
theorem dX13_offer_4 : decode cX13_offer 4 = .ok (.ifnonnull 7, 3) := dk_199 0 7 (dk_at dksX13_offer_0 4 rfl rfl)
theorem dX13_offer_7 : decode cX13_offer 7 = .ok (.iconst (-1), 1) := dk_2 (dk_at dksX13_offer_0 7 rfl rfl)
theorem dX13_offer_8 : decode cX13_offer 8 = .ok (.goto 4, 3) := dk_167 0 4 (dk_at dksX13_offer_0 8 rfl rfl)
theorem dX13_offer_11 : decode cX13_offer 11 = .ok (.iconst 0, 1) := dk_3 (dk_at dksX13_offer_0 11 rfl rfl)
theorem dX13_offer_12 : decode cX13_offer 12 = .ok (.istore_n 3, 1) := dk_62 (dk_at dksX13_offer_0 12 rfl rfl)
theorem dX13_offer_13 : decode cX13_offer 13 = .ok (.iconst 0, 1) := dk_3 (dk_at dksX13_offer_0 13 rfl rfl)
theorem dX13_offer_14 : decode cX13_offer 14 = .ok (.istore 4, 2) := dk_54 4 (dk_at dksX13_offer_0 14 rfl rfl)
theorem dX13_offer_16 : decode cX13_offer 16 = .ok (.iload 4, 2) := dk_21 4 (dk_at dksX13_offer_0 16 rfl rfl)
theorem dX13_offer_18 : decode cX13_offer 18 = .ok (.aload_n 2, 1) := dk_44 (dk_at dksX13_offer_0 18 rfl rfl)
theorem dX13_offer_19 : decode cX13_offer 19 = .ok (.invokeinterface 13 1, 5) := by decide +kernel
theorem dX13_offer_24 : decode cX13_offer 24 = .ok (.if_icmp .ge 44, 3) := dk_162 0 44 (dk_at dksX13_offer_1 0 rfl rfl)
theorem dX13_offer_27 : decode cX13_offer 27 = .ok (.iload_n 3, 1) := dk_29 (dk_at dksX13_offer_1 3 rfl rfl)
theorem dX13_offer_28 : decode cX13_offer 28 = .ok (.ifCond .ne 40, 3) := dk_154 0 40 (dk_at dksX13_offer_1 4 rfl rfl)
theorem dX13_offer_31 : decode cX13_offer 31 = .ok (.aload_n 2, 1) := dk_44 (dk_at dksX13_offer_1 7 rfl rfl)
theorem dX13_offer_32 : decode cX13_offer 32 = .ok (.iload 4, 2) := dk_21 4 (dk_at dksX13_offer_1 8 rfl rfl)
theorem dX13_offer_34 : decode cX13_offer 34 = .ok (.invokeinterface 19 2, 5) := by decide +kernel
theorem dX13_offer_39 : decode cX13_offer 39 = .ok (.checkcast 23, 3) := dk_192 0 23 (dk_at dksX13_offer_1 15 rfl rfl)
theorem dX13_offer_42 : decode cX13_offer 42 = .ok (.aload_n 0, 1) := dk_42 (dk_at dksX13_offer_1 18 rfl rfl)
theorem dX13_offer_43 : decode cX13_offer 43 = .ok (.getfield 7, 3) := dk_180 0 7 (dk_at dksX13_offer_1 19 rfl rfl)
theorem dX13_offer_46 : decode cX13_offer 46 = .ok (.iload 4, 2) := dk_21 4 (dk_at dksX13_offer_1 22 rfl rfl)
theorem dX13_offer_48 : decode cX13_offer 48 = .ok (.invokeinterface 19 2, 5) := by decide +kernel
theorem dX13_offer_53 : decode cX13_offer 53 = .ok (.checkcast 23, 3) := dk_192 0 23 (dk_at dksX13_offer_2 5 rfl rfl)
theorem dX13_offer_56 : decode cX13_offer 56 = .ok (.invokeinterface 25 2, 5) := by decide +kernel
theorem dX13_offer_61 : decode cX13_offer 61 = .ok (.istore_n 3, 1) := dk_62 (dk_at dksX13_offer_2 13 rfl rfl)
theorem dX13_offer_62 : decode cX13_offer 62 = .ok (.iinc 4 1, 3) := dk_132 4 1 (dk_at dksX13_offer_2 14 rfl rfl)
theorem dX13_offer_65 : decode cX13_offer 65 = .ok (.goto (-49), 3) := dk_167 255 207 (dk_at dksX13_offer_2 17 rfl rfl)
theorem dX13_offer_68 : decode cX13_offer 68 = .ok (.iload_n 3, 1) := dk_29 (dk_at dksX13_offer_2 20 rfl rfl)
theorem dX13_offer_69 : decode cX13_offer 69 = .ok (.ifCond .lt 4, 3) := dk_155 0 4 (dk_at dksX13_offer_2 21 rfl rfl)
theorem dX13_offer_72 : decode cX13_offer 72 = .ok (.return_, 1) := dk_177 (dk_at dksX13_offer_3 0 rfl rfl)
theorem dX13_offer_73 : decode cX13_offer 73 = .ok (.aload_n 0, 1) := dk_42 (dk_at dksX13_offer_3 1 rfl rfl)
theorem dX13_offer_74 : decode cX13_offer 74 = .ok (.aload_n 2, 1) := dk_44 (dk_at dksX13_offer_3 2 rfl rfl)
theorem dX13_offer_75 : decode cX13_offer 75 = .ok (.putfield 7, 3) := dk_181 0 7 (dk_at dksX13_offer_3 3 rfl rfl)
theorem dX13_offer_78 : decode cX13_offer 78 = .ok (.aload_n 0, 1) := dk_42 (dk_at dksX13_offer_3 6 rfl rfl)
theorem dX13_offer_79 : decode cX13_offer 79 = .ok (.aload_n 1, 1) := dk_43 (dk_at dksX13_offer_3 7 rfl rfl)
theorem dX13_offer_80 : decode cX13_offer 80 = .ok (.putfield 29, 3) := dk_181 0 29 (dk_at dksX13_offer_3 8 rfl rfl)
theorem dX13_offer_83 : decode cX13_offer 83 = .ok (.return_, 1) := dk_177 (dk_at dksX13_offer_3 11 rfl rfl)
theorem q133 : (Jvm.Cond.initialized "Vaultyard$Least") ∈ lw_all := lw_g (lw_at lw_m1 43 rfl) rfl
theorem q867 : (Jvm.Cond.selects "Vaultyard$Least" ({ cls := "java/lang/Object", name := "getClass", desc := "()Ljava/lang/Class;" } : Jvm.MethodName) ({ cls := "java/lang/Object", name := "getClass", desc := "()Ljava/lang/Class;" } : Jvm.MethodName)) ∈ lw_all := lw_g (lw_at lw_m4 57 rfl) rfl
theorem q1419 : (Jvm.Cond.instantiable "Vaultyard$Least" (2 : Nat)) ∈ lw_all := lw_g (lw_at lw_m6 129 rfl) rfl
theorem q1421 : (Jvm.Cond.instanceMethod ({ cls := "Vaultyard$Least", name := "<init>", desc := "()V" } : Jvm.MethodName)) ∈ lw_all := lw_g (lw_at lw_m6 131 rfl) rfl
theorem q1422 : (Jvm.Cond.code ({ cls := "Vaultyard$Least", name := "<init>", desc := "()V" } : Jvm.MethodName) prog_6_method_1_code (1 : Nat) (Option.none : Option Jvm.ClassFile.FieldType)) ∈ lw_all := lw_g (lw_at lw_m6 132 rfl) rfl
theorem q1423 : (Jvm.Cond.methodLink "Vaultyard$Least" (1 : Nat) ({ cls := "java/lang/Object", name := "<init>", desc := "()V" } : Jvm.MethodName)) ∈ lw_all := lw_g (lw_at lw_m6 133 rfl) rfl
theorem q1424 : (Jvm.Cond.fieldLink "Vaultyard$Least" (7 : Nat) "Vaultyard$Least" "keys" "Ljava/util/List;") ∈ lw_all := lw_g (lw_at lw_m6 134 rfl) rfl
theorem q1425 : (Jvm.Cond.fieldLink "Vaultyard$Least" (29 : Nat) "Vaultyard$Least" "what" "Ljava/lang/Object;") ∈ lw_all := lw_g (lw_at lw_m6 135 rfl) rfl
theorem q1427 : (Jvm.Cond.lays "Vaultyard$Least" "Vaultyard$Least" "keys" "Ljava/util/List;") ∈ lw_all := lw_g (lw_at lw_m6 137 rfl) rfl
theorem q1428 : (Jvm.Cond.soleField "Vaultyard$Least" "keys") ∈ lw_all := lw_g (lw_at lw_m6 138 rfl) rfl
theorem q1429 : (Jvm.Cond.lays "Vaultyard$Least" "Vaultyard$Least" "what" "Ljava/lang/Object;") ∈ lw_all := lw_g (lw_at lw_m6 139 rfl) rfl
theorem q1430 : (Jvm.Cond.soleField "Vaultyard$Least" "what") ∈ lw_all := lw_g (lw_at lw_m6 140 rfl) rfl
theorem q1431 : (Jvm.Cond.superclass "Vaultyard$Least" "java/lang/Object") ∈ lw_all := lw_g (lw_at lw_m6 141 rfl) rfl
theorem q1484 : (Jvm.Cond.privateMethod ({ cls := "Vaultyard$Least", name := "offer", desc := "(Ljava/lang/Object;Ljava/util/List;)V" } : Jvm.MethodName)) ∈ lw_tbl := lw_at lw_m6 194 rfl
theorem q1485 : (Jvm.Cond.instanceMethod ({ cls := "Vaultyard$Least", name := "offer", desc := "(Ljava/lang/Object;Ljava/util/List;)V" } : Jvm.MethodName)) ∈ lw_all := lw_g (lw_at lw_m6 195 rfl) rfl
theorem q1486 : (Jvm.Cond.code ({ cls := "Vaultyard$Least", name := "offer", desc := "(Ljava/lang/Object;Ljava/util/List;)V" } : Jvm.MethodName) prog_6_method_2_code (5 : Nat) (Option.none : Option Jvm.ClassFile.FieldType)) ∈ lw_all := lw_g (lw_at lw_m6 196 rfl) rfl
theorem q1487 : (Jvm.Cond.interfaceEntry "Vaultyard$Least" (13 : Nat)) ∈ lw_tbl := lw_at lw_m6 197 rfl
theorem q1488 : (Jvm.Cond.methodLink "Vaultyard$Least" (13 : Nat) ({ cls := "java/util/List", name := "size", desc := "()I" } : Jvm.MethodName)) ∈ lw_all := lw_g (lw_at lw_m6 198 rfl) rfl
theorem q1489 : (Jvm.Cond.interfaceEntry "Vaultyard$Least" (19 : Nat)) ∈ lw_tbl := lw_at lw_m6 199 rfl
theorem q1490 : (Jvm.Cond.methodLink "Vaultyard$Least" (19 : Nat) ({ cls := "java/util/List", name := "get", desc := "(I)Ljava/lang/Object;" } : Jvm.MethodName)) ∈ lw_all := lw_g (lw_at lw_m6 200 rfl) rfl
theorem q1491 : (Jvm.Cond.classLink "Vaultyard$Least" (23 : Nat) "java/lang/Comparable") ∈ lw_all := lw_g (lw_at lw_m6 201 rfl) rfl
theorem q1492 : (Jvm.Cond.interfaceEntry "Vaultyard$Least" (25 : Nat)) ∈ lw_tbl := lw_at lw_m6 202 rfl
theorem q1493 : (Jvm.Cond.methodLink "Vaultyard$Least" (25 : Nat) ({ cls := "java/lang/Comparable", name := "compareTo", desc := "(Ljava/lang/Object;)I" } : Jvm.MethodName)) ∈ lw_all := lw_g (lw_at lw_m6 203 rfl) rfl
theorem q1984 : (Jvm.Cond.selects "Vaultyard$Least" ({ cls := "java/lang/Object", name := "equals", desc := "(Ljava/lang/Object;)Z" } : Jvm.MethodName) ({ cls := "java/lang/Object", name := "equals", desc := "(Ljava/lang/Object;)Z" } : Jvm.MethodName)) ∈ lw_all := lw_g (lw_at lw_m8 214 rfl) rfl
theorem q3056 : (Jvm.Cond.castable "Vaultyard$Least" "java/lang/Object") ∈ lw_tbl := lw_at lw_m13 86 rfl
theorem in_X13 : ∀ w ∈ wsX130, w ∈ lw_all := lw_in wsX130 [1427, 1429] (by decide +kernel) (by decide +kernel)

/-! Vaultyard$Loan -/
set_option maxRecDepth 100000
def RX14 : String := "Vaultyard$Loan"
def TX14 : u_T := fun k => match k with
  | 0 => ("Vaultyard$Loan", "thing", "LVaultyard$Thing;", true)
  | 1 => ("Vaultyard$Loan", "fund", "LVaultyard$Fund;", true)
  | 2 => ("Vaultyard$Loan", "went", "I", true)
  | 3 => ("Vaultyard$Loan", "days", "I", true)
  | _ => ("Vaultyard$Loan", "isBack", "Z", false)
def tyX14 : Nat → FieldType := fun k => match k with
  | 0 => .object "Vaultyard$Thing"
  | 1 => .object "Vaultyard$Fund"
  | 2 => .int
  | 3 => .int
  | _ => .boolean
abbrev wsX140 : List Cond := u_ws RX14 TX14 5
theorem nmX14 : ∀ a, a < 5 → ∀ b, b < 5 → a ≠ b → (TX14 a).2.1 ≠ (TX14 b).2.1 := by decide +kernel
theorem tyX14_ok : ∀ k, k < 5 → parseFieldDescriptor (TX14 k).2.2.1 = some (tyX14 k) := by decide +kernel
abbrev cX14_init : ByteArray := prog_7_method_1_code
def yX14_init : MethodName := ⟨RX14, "<init>", "(LVaultyard$Thing;LVaultyard$Fund;II)V"⟩
def dkwX14_init_1 : List UInt8 := [181, 0, 21, 177]
abbrev dktX14_init_1 : List UInt8 := dkwX14_init_1 ++ []
def dkwX14_init_0 : List UInt8 := [42, 183, 0, 1, 42, 43, 181, 0, 7, 42, 44, 181, 0, 13, 42, 29, 181, 0, 17, 42, 21, 4]
abbrev dktX14_init_0 : List UInt8 := dkwX14_init_0 ++ dktX14_init_1
theorem dksX14_init_0 : cX14_init.data.toList.drop 0 = dktX14_init_0 := by decide +kernel
theorem dksX14_init_1 : cX14_init.data.toList.drop 22 = dktX14_init_1 := dk_seg dksX14_init_0 22 rfl rfl
theorem dX14_init_0 : decode cX14_init 0 = .ok (.aload_n 0, 1) := dk_42 (dk_at dksX14_init_0 0 rfl rfl)
theorem dX14_init_1 : decode cX14_init 1 = .ok (.invokespecial 1, 3) := dk_183 0 1 (dk_at dksX14_init_0 1 rfl rfl)
theorem dX14_init_4 : decode cX14_init 4 = .ok (.aload_n 0, 1) := dk_42 (dk_at dksX14_init_0 4 rfl rfl)
theorem dX14_init_5 : decode cX14_init 5 = .ok (.aload_n 1, 1) := dk_43 (dk_at dksX14_init_0 5 rfl rfl)
theorem dX14_init_6 : decode cX14_init 6 = .ok (.putfield 7, 3) := dk_181 0 7 (dk_at dksX14_init_0 6 rfl rfl)
theorem dX14_init_9 : decode cX14_init 9 = .ok (.aload_n 0, 1) := dk_42 (dk_at dksX14_init_0 9 rfl rfl)
theorem dX14_init_10 : decode cX14_init 10 = .ok (.aload_n 2, 1) := dk_44 (dk_at dksX14_init_0 10 rfl rfl)
theorem dX14_init_11 : decode cX14_init 11 = .ok (.putfield 13, 3) := dk_181 0 13 (dk_at dksX14_init_0 11 rfl rfl)
theorem dX14_init_14 : decode cX14_init 14 = .ok (.aload_n 0, 1) := dk_42 (dk_at dksX14_init_0 14 rfl rfl)
theorem dX14_init_15 : decode cX14_init 15 = .ok (.iload_n 3, 1) := dk_29 (dk_at dksX14_init_0 15 rfl rfl)
theorem dX14_init_16 : decode cX14_init 16 = .ok (.putfield 17, 3) := dk_181 0 17 (dk_at dksX14_init_0 16 rfl rfl)
theorem dX14_init_19 : decode cX14_init 19 = .ok (.aload_n 0, 1) := dk_42 (dk_at dksX14_init_0 19 rfl rfl)
theorem dX14_init_20 : decode cX14_init 20 = .ok (.iload 4, 2) := dk_21 4 (dk_at dksX14_init_0 20 rfl rfl)
theorem dX14_init_22 : decode cX14_init 22 = .ok (.putfield 21, 3) := dk_181 0 21 (dk_at dksX14_init_1 0 rfl rfl)
theorem dX14_init_25 : decode cX14_init 25 = .ok (.return_, 1) := dk_177 (dk_at dksX14_init_1 3 rfl rfl)
theorem q142 : (Jvm.Cond.initialized "Vaultyard$Loan") ∈ lw_all := lw_g (lw_at lw_m1 52 rfl) rfl
theorem q868 : (Jvm.Cond.selects "Vaultyard$Loan" ({ cls := "java/lang/Object", name := "getClass", desc := "()Ljava/lang/Class;" } : Jvm.MethodName) ({ cls := "java/lang/Object", name := "getClass", desc := "()Ljava/lang/Class;" } : Jvm.MethodName)) ∈ lw_all := lw_g (lw_at lw_m4 58 rfl) rfl
theorem q1692 : (Jvm.Cond.instantiable "Vaultyard$Loan" (5 : Nat)) ∈ lw_all := lw_g (lw_at lw_m7 162 rfl) rfl
theorem q1694 : (Jvm.Cond.instanceMethod ({ cls := "Vaultyard$Loan", name := "<init>", desc := "(LVaultyard$Thing;LVaultyard$Fund;II)V" } : Jvm.MethodName)) ∈ lw_all := lw_g (lw_at lw_m7 164 rfl) rfl
theorem q1695 : (Jvm.Cond.code ({ cls := "Vaultyard$Loan", name := "<init>", desc := "(LVaultyard$Thing;LVaultyard$Fund;II)V" } : Jvm.MethodName) prog_7_method_1_code (5 : Nat) (Option.none : Option Jvm.ClassFile.FieldType)) ∈ lw_all := lw_g (lw_at lw_m7 165 rfl) rfl
theorem q1696 : (Jvm.Cond.methodLink "Vaultyard$Loan" (1 : Nat) ({ cls := "java/lang/Object", name := "<init>", desc := "()V" } : Jvm.MethodName)) ∈ lw_all := lw_g (lw_at lw_m7 166 rfl) rfl
theorem q1697 : (Jvm.Cond.fieldLink "Vaultyard$Loan" (7 : Nat) "Vaultyard$Loan" "thing" "LVaultyard$Thing;") ∈ lw_all := lw_g (lw_at lw_m7 167 rfl) rfl
theorem q1699 : (Jvm.Cond.fieldLink "Vaultyard$Loan" (13 : Nat) "Vaultyard$Loan" "fund" "LVaultyard$Fund;") ∈ lw_all := lw_g (lw_at lw_m7 169 rfl) rfl
theorem q1701 : (Jvm.Cond.fieldLink "Vaultyard$Loan" (17 : Nat) "Vaultyard$Loan" "went" "I") ∈ lw_all := lw_g (lw_at lw_m7 171 rfl) rfl
theorem q1703 : (Jvm.Cond.fieldLink "Vaultyard$Loan" (21 : Nat) "Vaultyard$Loan" "days" "I") ∈ lw_all := lw_g (lw_at lw_m7 173 rfl) rfl
theorem q1706 : (Jvm.Cond.laysFinal "Vaultyard$Loan" "Vaultyard$Loan" "thing" "LVaultyard$Thing;") ∈ lw_all := lw_g (lw_at lw_m7 176 rfl) rfl
theorem q1707 : (Jvm.Cond.soleField "Vaultyard$Loan" "thing") ∈ lw_all := lw_g (lw_at lw_m7 177 rfl) rfl
theorem q1708 : (Jvm.Cond.laysFinal "Vaultyard$Loan" "Vaultyard$Loan" "fund" "LVaultyard$Fund;") ∈ lw_all := lw_g (lw_at lw_m7 178 rfl) rfl
theorem q1709 : (Jvm.Cond.soleField "Vaultyard$Loan" "fund") ∈ lw_all := lw_g (lw_at lw_m7 179 rfl) rfl
theorem q1710 : (Jvm.Cond.laysFinal "Vaultyard$Loan" "Vaultyard$Loan" "went" "I") ∈ lw_all := lw_g (lw_at lw_m7 180 rfl) rfl
theorem q1711 : (Jvm.Cond.soleField "Vaultyard$Loan" "went") ∈ lw_all := lw_g (lw_at lw_m7 181 rfl) rfl
theorem q1712 : (Jvm.Cond.laysFinal "Vaultyard$Loan" "Vaultyard$Loan" "days" "I") ∈ lw_all := lw_g (lw_at lw_m7 182 rfl) rfl
theorem q1713 : (Jvm.Cond.soleField "Vaultyard$Loan" "days") ∈ lw_all := lw_g (lw_at lw_m7 183 rfl) rfl
theorem q1714 : (Jvm.Cond.lays "Vaultyard$Loan" "Vaultyard$Loan" "isBack" "Z") ∈ lw_all := lw_g (lw_at lw_m7 184 rfl) rfl
theorem q1715 : (Jvm.Cond.soleField "Vaultyard$Loan" "isBack") ∈ lw_all := lw_g (lw_at lw_m7 185 rfl) rfl
theorem q1716 : (Jvm.Cond.superclass "Vaultyard$Loan" "java/lang/Object") ∈ lw_all := lw_g (lw_at lw_m7 186 rfl) rfl
theorem q1985 : (Jvm.Cond.selects "Vaultyard$Loan" ({ cls := "java/lang/Object", name := "equals", desc := "(Ljava/lang/Object;)Z" } : Jvm.MethodName) ({ cls := "java/lang/Object", name := "equals", desc := "(Ljava/lang/Object;)Z" } : Jvm.MethodName)) ∈ lw_all := lw_g (lw_at lw_m8 215 rfl) rfl
theorem q3062 : (Jvm.Cond.castable "Vaultyard$Loan" "java/lang/Object") ∈ lw_tbl := lw_at lw_m13 92 rfl
theorem in_X14 : ∀ w ∈ wsX140, w ∈ lw_all := lw_in wsX140 [1706, 1708, 1710, 1712, 1714] (by decide +kernel) (by decide +kernel)

/-! VaultyardModel$Loan -/
set_option maxRecDepth 100000
def RX15 : String := "VaultyardModel$Loan"
def TX15 : u_T := fun k => match k with
  | 0 => ("VaultyardModel$Loan", "thing", "I", true)
  | 1 => ("VaultyardModel$Loan", "last", "I", true)
  | 2 => ("VaultyardModel$Loan", "fund", "I", true)
  | _ => ("VaultyardModel$Loan", "isBack", "Z", false)
def tyX15 : Nat → FieldType := fun k => match k with
  | 0 => .int
  | 1 => .int
  | 2 => .int
  | _ => .boolean
abbrev wsX150 : List Cond := u_ws RX15 TX15 4
theorem nmX15 : ∀ a, a < 4 → ∀ b, b < 4 → a ≠ b → (TX15 a).2.1 ≠ (TX15 b).2.1 := by decide +kernel
theorem tyX15_ok : ∀ k, k < 4 → parseFieldDescriptor (TX15 k).2.2.1 = some (tyX15 k) := by decide +kernel
abbrev cX15_init : ByteArray := prog_18_method_1_code
def yX15_init : MethodName := ⟨RX15, "<init>", "(III)V"⟩
def dkwX15_init_0 : List UInt8 := [42, 183, 0, 1, 42, 27, 181, 0, 7, 42, 28, 181, 0, 13, 42, 29, 181, 0, 16, 177]
abbrev dktX15_init_0 : List UInt8 := dkwX15_init_0 ++ []
theorem dksX15_init_0 : cX15_init.data.toList.drop 0 = dktX15_init_0 := by decide +kernel
theorem dX15_init_0 : decode cX15_init 0 = .ok (.aload_n 0, 1) := dk_42 (dk_at dksX15_init_0 0 rfl rfl)
theorem dX15_init_1 : decode cX15_init 1 = .ok (.invokespecial 1, 3) := dk_183 0 1 (dk_at dksX15_init_0 1 rfl rfl)
theorem dX15_init_4 : decode cX15_init 4 = .ok (.aload_n 0, 1) := dk_42 (dk_at dksX15_init_0 4 rfl rfl)
theorem dX15_init_5 : decode cX15_init 5 = .ok (.iload_n 1, 1) := dk_27 (dk_at dksX15_init_0 5 rfl rfl)
theorem dX15_init_6 : decode cX15_init 6 = .ok (.putfield 7, 3) := dk_181 0 7 (dk_at dksX15_init_0 6 rfl rfl)
theorem dX15_init_9 : decode cX15_init 9 = .ok (.aload_n 0, 1) := dk_42 (dk_at dksX15_init_0 9 rfl rfl)
theorem dX15_init_10 : decode cX15_init 10 = .ok (.iload_n 2, 1) := dk_28 (dk_at dksX15_init_0 10 rfl rfl)
theorem dX15_init_11 : decode cX15_init 11 = .ok (.putfield 13, 3) := dk_181 0 13 (dk_at dksX15_init_0 11 rfl rfl)
theorem dX15_init_14 : decode cX15_init 14 = .ok (.aload_n 0, 1) := dk_42 (dk_at dksX15_init_0 14 rfl rfl)
theorem dX15_init_15 : decode cX15_init 15 = .ok (.iload_n 3, 1) := dk_29 (dk_at dksX15_init_0 15 rfl rfl)
theorem dX15_init_16 : decode cX15_init 16 = .ok (.putfield 16, 3) := dk_181 0 16 (dk_at dksX15_init_0 16 rfl rfl)
theorem dX15_init_19 : decode cX15_init 19 = .ok (.return_, 1) := dk_177 (dk_at dksX15_init_0 19 rfl rfl)
theorem q143 : (Jvm.Cond.initialized "VaultyardModel$Loan") ∈ lw_all := lw_g (lw_at lw_m1 53 rfl) rfl
theorem q877 : (Jvm.Cond.selects "VaultyardModel$Loan" ({ cls := "java/lang/Object", name := "getClass", desc := "()Ljava/lang/Class;" } : Jvm.MethodName) ({ cls := "java/lang/Object", name := "getClass", desc := "()Ljava/lang/Class;" } : Jvm.MethodName)) ∈ lw_all := lw_g (lw_at lw_m4 67 rfl) rfl
theorem q2016 : (Jvm.Cond.selects "VaultyardModel$Loan" ({ cls := "java/lang/Object", name := "equals", desc := "(Ljava/lang/Object;)Z" } : Jvm.MethodName) ({ cls := "java/lang/Object", name := "equals", desc := "(Ljava/lang/Object;)Z" } : Jvm.MethodName)) ∈ lw_all := lw_g (lw_at lw_m9 6 rfl) rfl
theorem q2727 : (Jvm.Cond.instantiable "VaultyardModel$Loan" (4 : Nat)) ∈ lw_all := lw_g (lw_at lw_m11 237 rfl) rfl
theorem q2729 : (Jvm.Cond.instanceMethod ({ cls := "VaultyardModel$Loan", name := "<init>", desc := "(III)V" } : Jvm.MethodName)) ∈ lw_all := lw_g (lw_at lw_m11 239 rfl) rfl
theorem q2730 : (Jvm.Cond.code ({ cls := "VaultyardModel$Loan", name := "<init>", desc := "(III)V" } : Jvm.MethodName) prog_18_method_1_code (4 : Nat) (Option.none : Option Jvm.ClassFile.FieldType)) ∈ lw_all := lw_g (lw_at lw_m12 0 rfl) rfl
theorem q2731 : (Jvm.Cond.methodLink "VaultyardModel$Loan" (1 : Nat) ({ cls := "java/lang/Object", name := "<init>", desc := "()V" } : Jvm.MethodName)) ∈ lw_all := lw_g (lw_at lw_m12 1 rfl) rfl
theorem q2732 : (Jvm.Cond.fieldLink "VaultyardModel$Loan" (7 : Nat) "VaultyardModel$Loan" "thing" "I") ∈ lw_all := lw_g (lw_at lw_m12 2 rfl) rfl
theorem q2734 : (Jvm.Cond.fieldLink "VaultyardModel$Loan" (13 : Nat) "VaultyardModel$Loan" "last" "I") ∈ lw_all := lw_g (lw_at lw_m12 4 rfl) rfl
theorem q2736 : (Jvm.Cond.fieldLink "VaultyardModel$Loan" (16 : Nat) "VaultyardModel$Loan" "fund" "I") ∈ lw_all := lw_g (lw_at lw_m12 6 rfl) rfl
theorem q2739 : (Jvm.Cond.laysFinal "VaultyardModel$Loan" "VaultyardModel$Loan" "thing" "I") ∈ lw_all := lw_g (lw_at lw_m12 9 rfl) rfl
theorem q2740 : (Jvm.Cond.soleField "VaultyardModel$Loan" "thing") ∈ lw_all := lw_g (lw_at lw_m12 10 rfl) rfl
theorem q2741 : (Jvm.Cond.laysFinal "VaultyardModel$Loan" "VaultyardModel$Loan" "last" "I") ∈ lw_all := lw_g (lw_at lw_m12 11 rfl) rfl
theorem q2742 : (Jvm.Cond.soleField "VaultyardModel$Loan" "last") ∈ lw_all := lw_g (lw_at lw_m12 12 rfl) rfl
theorem q2743 : (Jvm.Cond.laysFinal "VaultyardModel$Loan" "VaultyardModel$Loan" "fund" "I") ∈ lw_all := lw_g (lw_at lw_m12 13 rfl) rfl
theorem q2744 : (Jvm.Cond.soleField "VaultyardModel$Loan" "fund") ∈ lw_all := lw_g (lw_at lw_m12 14 rfl) rfl
theorem q2745 : (Jvm.Cond.lays "VaultyardModel$Loan" "VaultyardModel$Loan" "isBack" "Z") ∈ lw_all := lw_g (lw_at lw_m12 15 rfl) rfl
theorem q2746 : (Jvm.Cond.soleField "VaultyardModel$Loan" "isBack") ∈ lw_all := lw_g (lw_at lw_m12 16 rfl) rfl
theorem q2747 : (Jvm.Cond.superclass "VaultyardModel$Loan" "java/lang/Object") ∈ lw_all := lw_g (lw_at lw_m12 17 rfl) rfl
theorem q3063 : (Jvm.Cond.castable "VaultyardModel$Loan" "java/lang/Object") ∈ lw_tbl := lw_at lw_m13 93 rfl
theorem in_X15 : ∀ w ∈ wsX150, w ∈ lw_all := lw_in wsX150 [2739, 2741, 2743, 2745] (by decide +kernel) (by decide +kernel)

/-! Vaultyard$Owner -/
set_option maxRecDepth 100000
def RX16 : String := "Vaultyard$Owner"
def TX16 : u_T := fun k => match k with
  | 0 => ("Vaultyard$Owner", "owner", "I", true)
  | 1 => ("Vaultyard$Owner", "from", "I", true)
  | 2 => ("Vaultyard$Owner", "to", "I", true)
  | _ => ("Vaultyard$Owner", "way", "C", true)
def tyX16 : Nat → FieldType := fun k => match k with
  | 0 => .int
  | 1 => .int
  | 2 => .int
  | _ => .char
abbrev wsX160 : List Cond := u_ws RX16 TX16 4
theorem nmX16 : ∀ a, a < 4 → ∀ b, b < 4 → a ≠ b → (TX16 a).2.1 ≠ (TX16 b).2.1 := by decide +kernel
theorem tyX16_ok : ∀ k, k < 4 → parseFieldDescriptor (TX16 k).2.2.1 = some (tyX16 k) := by decide +kernel
abbrev cX16_to : ByteArray := prog_11_method_8_code
def yX16_to : MethodName := ⟨RX16, "to", "()I"⟩
theorem dX16_to_0 : decode cX16_to 0 = .ok (.aload_n 0, 1) := by decide +kernel
theorem dX16_to_1 : decode cX16_to 1 = .ok (.getfield 16, 3) := by decide +kernel
theorem dX16_to_4 : decode cX16_to 4 = .ok (.ireturn, 1) := by decide +kernel
abbrev cX16_init : ByteArray := prog_11_method_1_code
def yX16_init : MethodName := ⟨RX16, "<init>", "(IIIC)V"⟩
def dkwX16_init_1 : List UInt8 := [181, 0, 19, 177]
abbrev dktX16_init_1 : List UInt8 := dkwX16_init_1 ++ []
def dkwX16_init_0 : List UInt8 := [42, 183, 0, 1, 42, 27, 181, 0, 7, 42, 28, 181, 0, 13, 42, 29, 181, 0, 16, 42, 21, 4]
abbrev dktX16_init_0 : List UInt8 := dkwX16_init_0 ++ dktX16_init_1
theorem dksX16_init_0 : cX16_init.data.toList.drop 0 = dktX16_init_0 := by decide +kernel
theorem dksX16_init_1 : cX16_init.data.toList.drop 22 = dktX16_init_1 := dk_seg dksX16_init_0 22 rfl rfl
theorem dX16_init_0 : decode cX16_init 0 = .ok (.aload_n 0, 1) := dk_42 (dk_at dksX16_init_0 0 rfl rfl)
theorem dX16_init_1 : decode cX16_init 1 = .ok (.invokespecial 1, 3) := dk_183 0 1 (dk_at dksX16_init_0 1 rfl rfl)
theorem dX16_init_4 : decode cX16_init 4 = .ok (.aload_n 0, 1) := dk_42 (dk_at dksX16_init_0 4 rfl rfl)
theorem dX16_init_5 : decode cX16_init 5 = .ok (.iload_n 1, 1) := dk_27 (dk_at dksX16_init_0 5 rfl rfl)
theorem dX16_init_6 : decode cX16_init 6 = .ok (.putfield 7, 3) := dk_181 0 7 (dk_at dksX16_init_0 6 rfl rfl)
theorem dX16_init_9 : decode cX16_init 9 = .ok (.aload_n 0, 1) := dk_42 (dk_at dksX16_init_0 9 rfl rfl)
theorem dX16_init_10 : decode cX16_init 10 = .ok (.iload_n 2, 1) := dk_28 (dk_at dksX16_init_0 10 rfl rfl)
theorem dX16_init_11 : decode cX16_init 11 = .ok (.putfield 13, 3) := dk_181 0 13 (dk_at dksX16_init_0 11 rfl rfl)
theorem dX16_init_14 : decode cX16_init 14 = .ok (.aload_n 0, 1) := dk_42 (dk_at dksX16_init_0 14 rfl rfl)
theorem dX16_init_15 : decode cX16_init 15 = .ok (.iload_n 3, 1) := dk_29 (dk_at dksX16_init_0 15 rfl rfl)
theorem dX16_init_16 : decode cX16_init 16 = .ok (.putfield 16, 3) := dk_181 0 16 (dk_at dksX16_init_0 16 rfl rfl)
theorem dX16_init_19 : decode cX16_init 19 = .ok (.aload_n 0, 1) := dk_42 (dk_at dksX16_init_0 19 rfl rfl)
theorem dX16_init_20 : decode cX16_init 20 = .ok (.iload 4, 2) := dk_21 4 (dk_at dksX16_init_0 20 rfl rfl)
theorem dX16_init_22 : decode cX16_init 22 = .ok (.putfield 19, 3) := dk_181 0 19 (dk_at dksX16_init_1 0 rfl rfl)
theorem dX16_init_25 : decode cX16_init 25 = .ok (.return_, 1) := dk_177 (dk_at dksX16_init_1 3 rfl rfl)
abbrev cX16_from : ByteArray := prog_11_method_7_code
def yX16_from : MethodName := ⟨RX16, "from", "()I"⟩
theorem dX16_from_0 : decode cX16_from 0 = .ok (.aload_n 0, 1) := by decide +kernel
theorem dX16_from_1 : decode cX16_from 1 = .ok (.getfield 13, 3) := by decide +kernel
theorem dX16_from_4 : decode cX16_from 4 = .ok (.ireturn, 1) := by decide +kernel
abbrev cX16_isWrong : ByteArray := prog_11_method_2_code
def yX16_isWrong : MethodName := ⟨RX16, "isWrong", "()Z"⟩
def dkwX16_isWrong_0 : List UInt8 := [42, 180, 0, 19, 16, 116, 159, 0, 12, 42, 180, 0, 19, 16, 102, 160, 0, 7, 4, 167, 0, 4, 3, 172]
abbrev dktX16_isWrong_0 : List UInt8 := dkwX16_isWrong_0 ++ []
theorem dksX16_isWrong_0 : cX16_isWrong.data.toList.drop 0 = dktX16_isWrong_0 := by decide +kernel
theorem dX16_isWrong_0 : decode cX16_isWrong 0 = .ok (.aload_n 0, 1) := dk_42 (dk_at dksX16_isWrong_0 0 rfl rfl)
theorem dX16_isWrong_1 : decode cX16_isWrong 1 = .ok (.getfield 19, 3) := dk_180 0 19 (dk_at dksX16_isWrong_0 1 rfl rfl)
theorem dX16_isWrong_4 : decode cX16_isWrong 4 = .ok (.bipush 116, 2) := dk_16 116 (dk_at dksX16_isWrong_0 4 rfl rfl)
theorem dX16_isWrong_6 : decode cX16_isWrong 6 = .ok (.if_icmp .eq 12, 3) := dk_159 0 12 (dk_at dksX16_isWrong_0 6 rfl rfl)
theorem dX16_isWrong_9 : decode cX16_isWrong 9 = .ok (.aload_n 0, 1) := dk_42 (dk_at dksX16_isWrong_0 9 rfl rfl)
theorem dX16_isWrong_10 : decode cX16_isWrong 10 = .ok (.getfield 19, 3) := dk_180 0 19 (dk_at dksX16_isWrong_0 10 rfl rfl)
theorem dX16_isWrong_13 : decode cX16_isWrong 13 = .ok (.bipush 102, 2) := dk_16 102 (dk_at dksX16_isWrong_0 13 rfl rfl)
theorem dX16_isWrong_15 : decode cX16_isWrong 15 = .ok (.if_icmp .ne 7, 3) := dk_160 0 7 (dk_at dksX16_isWrong_0 15 rfl rfl)
theorem dX16_isWrong_18 : decode cX16_isWrong 18 = .ok (.iconst 1, 1) := dk_4 (dk_at dksX16_isWrong_0 18 rfl rfl)
theorem dX16_isWrong_19 : decode cX16_isWrong 19 = .ok (.goto 4, 3) := dk_167 0 4 (dk_at dksX16_isWrong_0 19 rfl rfl)
theorem dX16_isWrong_22 : decode cX16_isWrong 22 = .ok (.iconst 0, 1) := dk_3 (dk_at dksX16_isWrong_0 22 rfl rfl)
theorem dX16_isWrong_23 : decode cX16_isWrong 23 = .ok (.ireturn, 1) := dk_172 (dk_at dksX16_isWrong_0 23 rfl rfl)
abbrev cX16_owner : ByteArray := prog_11_method_6_code
def yX16_owner : MethodName := ⟨RX16, "owner", "()I"⟩
theorem dX16_owner_0 : decode cX16_owner 0 = .ok (.aload_n 0, 1) := by decide +kernel
theorem dX16_owner_1 : decode cX16_owner 1 = .ok (.getfield 7, 3) := by decide +kernel
theorem dX16_owner_4 : decode cX16_owner 4 = .ok (.ireturn, 1) := by decide +kernel
abbrev cX16_equals : ByteArray := prog_11_method_5_code
def yX16_equals : MethodName := ⟨RX16, "equals", "(Ljava/lang/Object;)Z"⟩
def dkwX16_equals_0 : List UInt8 := [42, 43, 186, 0, 31, 0, 0, 172]
abbrev dktX16_equals_0 : List UInt8 := dkwX16_equals_0 ++ []
theorem dksX16_equals_0 : cX16_equals.data.toList.drop 0 = dktX16_equals_0 := by decide +kernel
theorem dX16_equals_0 : decode cX16_equals 0 = .ok (.aload_n 0, 1) := dk_42 (dk_at dksX16_equals_0 0 rfl rfl)
theorem dX16_equals_1 : decode cX16_equals 1 = .ok (.aload_n 1, 1) := dk_43 (dk_at dksX16_equals_0 1 rfl rfl)
theorem dX16_equals_2 : decode cX16_equals 2 = .ok (.invokedynamic 31, 5) := by decide +kernel
theorem dX16_equals_7 : decode cX16_equals 7 = .ok (.ireturn, 1) := dk_172 (dk_at dksX16_equals_0 7 rfl rfl)
theorem q144 : (Jvm.Cond.initialized "Vaultyard$Owner") ∈ lw_all := lw_g (lw_at lw_m1 54 rfl) rfl
theorem q872 : (Jvm.Cond.selects "Vaultyard$Owner" ({ cls := "java/lang/Object", name := "getClass", desc := "()Ljava/lang/Class;" } : Jvm.MethodName) ({ cls := "java/lang/Object", name := "getClass", desc := "()Ljava/lang/Class;" } : Jvm.MethodName)) ∈ lw_all := lw_g (lw_at lw_m4 62 rfl) rfl
theorem q1755 : (Jvm.Cond.instanceMethod ({ cls := "Vaultyard$Owner", name := "to", desc := "()I" } : Jvm.MethodName)) ∈ lw_all := lw_g (lw_at lw_m7 225 rfl) rfl
theorem q1756 : (Jvm.Cond.selects "Vaultyard$Owner" ({ cls := "Vaultyard$Owner", name := "to", desc := "()I" } : Jvm.MethodName) ({ cls := "Vaultyard$Owner", name := "to", desc := "()I" } : Jvm.MethodName)) ∈ lw_all := lw_g (lw_at lw_m7 226 rfl) rfl
theorem q1757 : (Jvm.Cond.code ({ cls := "Vaultyard$Owner", name := "to", desc := "()I" } : Jvm.MethodName) prog_11_method_8_code (1 : Nat) (Option.some Jvm.ClassFile.FieldType.int)) ∈ lw_all := lw_g (lw_at lw_m7 227 rfl) rfl
theorem q1758 : (Jvm.Cond.instantiable "Vaultyard$Owner" (4 : Nat)) ∈ lw_all := lw_g (lw_at lw_m7 228 rfl) rfl
theorem q1760 : (Jvm.Cond.instanceMethod ({ cls := "Vaultyard$Owner", name := "<init>", desc := "(IIIC)V" } : Jvm.MethodName)) ∈ lw_all := lw_g (lw_at lw_m7 230 rfl) rfl
theorem q1761 : (Jvm.Cond.code ({ cls := "Vaultyard$Owner", name := "<init>", desc := "(IIIC)V" } : Jvm.MethodName) prog_11_method_1_code (5 : Nat) (Option.none : Option Jvm.ClassFile.FieldType)) ∈ lw_all := lw_g (lw_at lw_m7 231 rfl) rfl
theorem q1762 : (Jvm.Cond.methodLink "Vaultyard$Owner" (1 : Nat) ({ cls := "java/lang/Record", name := "<init>", desc := "()V" } : Jvm.MethodName)) ∈ lw_all := lw_g (lw_at lw_m7 232 rfl) rfl
theorem q1763 : (Jvm.Cond.fieldLink "Vaultyard$Owner" (7 : Nat) "Vaultyard$Owner" "owner" "I") ∈ lw_all := lw_g (lw_at lw_m7 233 rfl) rfl
theorem q1764 : (Jvm.Cond.fieldLink "Vaultyard$Owner" (13 : Nat) "Vaultyard$Owner" "from" "I") ∈ lw_all := lw_g (lw_at lw_m7 234 rfl) rfl
theorem q1765 : (Jvm.Cond.fieldLink "Vaultyard$Owner" (16 : Nat) "Vaultyard$Owner" "to" "I") ∈ lw_all := lw_g (lw_at lw_m7 235 rfl) rfl
theorem q1766 : (Jvm.Cond.fieldLink "Vaultyard$Owner" (19 : Nat) "Vaultyard$Owner" "way" "C") ∈ lw_all := lw_g (lw_at lw_m7 236 rfl) rfl
theorem q1767 : (Jvm.Cond.laysFinal "Vaultyard$Owner" "Vaultyard$Owner" "owner" "I") ∈ lw_all := lw_g (lw_at lw_m7 237 rfl) rfl
theorem q1768 : (Jvm.Cond.soleField "Vaultyard$Owner" "owner") ∈ lw_all := lw_g (lw_at lw_m7 238 rfl) rfl
theorem q1769 : (Jvm.Cond.laysFinal "Vaultyard$Owner" "Vaultyard$Owner" "from" "I") ∈ lw_all := lw_g (lw_at lw_m7 239 rfl) rfl
theorem q1770 : (Jvm.Cond.soleField "Vaultyard$Owner" "from") ∈ lw_all := lw_g (lw_at lw_m8 0 rfl) rfl
theorem q1771 : (Jvm.Cond.laysFinal "Vaultyard$Owner" "Vaultyard$Owner" "to" "I") ∈ lw_all := lw_g (lw_at lw_m8 1 rfl) rfl
theorem q1772 : (Jvm.Cond.soleField "Vaultyard$Owner" "to") ∈ lw_all := lw_g (lw_at lw_m8 2 rfl) rfl
theorem q1773 : (Jvm.Cond.laysFinal "Vaultyard$Owner" "Vaultyard$Owner" "way" "C") ∈ lw_all := lw_g (lw_at lw_m8 3 rfl) rfl
theorem q1774 : (Jvm.Cond.soleField "Vaultyard$Owner" "way") ∈ lw_all := lw_g (lw_at lw_m8 4 rfl) rfl
theorem q1775 : (Jvm.Cond.superclass "Vaultyard$Owner" "java/lang/Record") ∈ lw_all := lw_g (lw_at lw_m8 5 rfl) rfl
theorem q1784 : (Jvm.Cond.instanceMethod ({ cls := "Vaultyard$Owner", name := "from", desc := "()I" } : Jvm.MethodName)) ∈ lw_all := lw_g (lw_at lw_m8 14 rfl) rfl
theorem q1785 : (Jvm.Cond.selects "Vaultyard$Owner" ({ cls := "Vaultyard$Owner", name := "from", desc := "()I" } : Jvm.MethodName) ({ cls := "Vaultyard$Owner", name := "from", desc := "()I" } : Jvm.MethodName)) ∈ lw_all := lw_g (lw_at lw_m8 15 rfl) rfl
theorem q1786 : (Jvm.Cond.code ({ cls := "Vaultyard$Owner", name := "from", desc := "()I" } : Jvm.MethodName) prog_11_method_7_code (1 : Nat) (Option.some Jvm.ClassFile.FieldType.int)) ∈ lw_all := lw_g (lw_at lw_m8 16 rfl) rfl
theorem q1807 : (Jvm.Cond.privateMethod ({ cls := "Vaultyard$Owner", name := "isWrong", desc := "()Z" } : Jvm.MethodName)) ∈ lw_tbl := lw_at lw_m8 37 rfl
theorem q1808 : (Jvm.Cond.instanceMethod ({ cls := "Vaultyard$Owner", name := "isWrong", desc := "()Z" } : Jvm.MethodName)) ∈ lw_all := lw_g (lw_at lw_m8 38 rfl) rfl
theorem q1809 : (Jvm.Cond.code ({ cls := "Vaultyard$Owner", name := "isWrong", desc := "()Z" } : Jvm.MethodName) prog_11_method_2_code (1 : Nat) (Option.some Jvm.ClassFile.FieldType.boolean)) ∈ lw_all := lw_g (lw_at lw_m8 39 rfl) rfl
theorem q1813 : (Jvm.Cond.instanceMethod ({ cls := "Vaultyard$Owner", name := "owner", desc := "()I" } : Jvm.MethodName)) ∈ lw_all := lw_g (lw_at lw_m8 43 rfl) rfl
theorem q1814 : (Jvm.Cond.selects "Vaultyard$Owner" ({ cls := "Vaultyard$Owner", name := "owner", desc := "()I" } : Jvm.MethodName) ({ cls := "Vaultyard$Owner", name := "owner", desc := "()I" } : Jvm.MethodName)) ∈ lw_all := lw_g (lw_at lw_m8 44 rfl) rfl
theorem q1815 : (Jvm.Cond.code ({ cls := "Vaultyard$Owner", name := "owner", desc := "()I" } : Jvm.MethodName) prog_11_method_6_code (1 : Nat) (Option.some Jvm.ClassFile.FieldType.int)) ∈ lw_all := lw_g (lw_at lw_m8 45 rfl) rfl
theorem q1998 : (Jvm.Cond.instanceMethod ({ cls := "Vaultyard$Owner", name := "equals", desc := "(Ljava/lang/Object;)Z" } : Jvm.MethodName)) ∈ lw_all := lw_g (lw_at lw_m8 228 rfl) rfl
theorem q1999 : (Jvm.Cond.code ({ cls := "Vaultyard$Owner", name := "equals", desc := "(Ljava/lang/Object;)Z" } : Jvm.MethodName) prog_11_method_5_code (2 : Nat) (Option.some Jvm.ClassFile.FieldType.boolean)) ∈ lw_all := lw_g (lw_at lw_m8 229 rfl) rfl
theorem q2011 : (Jvm.Cond.selects "Vaultyard$Owner" ({ cls := "java/lang/Object", name := "equals", desc := "(Ljava/lang/Object;)Z" } : Jvm.MethodName) ({ cls := "Vaultyard$Owner", name := "equals", desc := "(Ljava/lang/Object;)Z" } : Jvm.MethodName)) ∈ lw_all := lw_g (lw_at lw_m9 1 rfl) rfl
theorem q3064 : (Jvm.Cond.castable "Vaultyard$Owner" "java/lang/Object") ∈ lw_tbl := lw_at lw_m13 94 rfl
theorem in_X16 : ∀ w ∈ wsX160, w ∈ lw_all := lw_in wsX160 [1767, 1769, 1771, 1773] (by decide +kernel) (by decide +kernel)

/-! VaultyardModel$Owner -/
set_option maxRecDepth 100000
def RX17 : String := "VaultyardModel$Owner"
def TX17 : u_T := fun k => match k with
  | 0 => ("VaultyardModel$Owner", "owner", "I", true)
  | 1 => ("VaultyardModel$Owner", "from", "I", true)
  | 2 => ("VaultyardModel$Owner", "to", "I", true)
  | _ => ("VaultyardModel$Owner", "way", "C", true)
def tyX17 : Nat → FieldType := fun k => match k with
  | 0 => .int
  | 1 => .int
  | 2 => .int
  | _ => .char
abbrev wsX170 : List Cond := u_ws RX17 TX17 4
theorem nmX17 : ∀ a, a < 4 → ∀ b, b < 4 → a ≠ b → (TX17 a).2.1 ≠ (TX17 b).2.1 := by decide +kernel
theorem tyX17_ok : ∀ k, k < 4 → parseFieldDescriptor (TX17 k).2.2.1 = some (tyX17 k) := by decide +kernel
abbrev cX17_init : ByteArray := prog_20_method_1_code
def yX17_init : MethodName := ⟨RX17, "<init>", "(IIIC)V"⟩
def dkwX17_init_1 : List UInt8 := [181, 0, 19, 177]
abbrev dktX17_init_1 : List UInt8 := dkwX17_init_1 ++ []
def dkwX17_init_0 : List UInt8 := [42, 183, 0, 1, 42, 27, 181, 0, 7, 42, 28, 181, 0, 13, 42, 29, 181, 0, 16, 42, 21, 4]
abbrev dktX17_init_0 : List UInt8 := dkwX17_init_0 ++ dktX17_init_1
theorem dksX17_init_0 : cX17_init.data.toList.drop 0 = dktX17_init_0 := by decide +kernel
theorem dksX17_init_1 : cX17_init.data.toList.drop 22 = dktX17_init_1 := dk_seg dksX17_init_0 22 rfl rfl
theorem dX17_init_0 : decode cX17_init 0 = .ok (.aload_n 0, 1) := dk_42 (dk_at dksX17_init_0 0 rfl rfl)
theorem dX17_init_1 : decode cX17_init 1 = .ok (.invokespecial 1, 3) := dk_183 0 1 (dk_at dksX17_init_0 1 rfl rfl)
theorem dX17_init_4 : decode cX17_init 4 = .ok (.aload_n 0, 1) := dk_42 (dk_at dksX17_init_0 4 rfl rfl)
theorem dX17_init_5 : decode cX17_init 5 = .ok (.iload_n 1, 1) := dk_27 (dk_at dksX17_init_0 5 rfl rfl)
theorem dX17_init_6 : decode cX17_init 6 = .ok (.putfield 7, 3) := dk_181 0 7 (dk_at dksX17_init_0 6 rfl rfl)
theorem dX17_init_9 : decode cX17_init 9 = .ok (.aload_n 0, 1) := dk_42 (dk_at dksX17_init_0 9 rfl rfl)
theorem dX17_init_10 : decode cX17_init 10 = .ok (.iload_n 2, 1) := dk_28 (dk_at dksX17_init_0 10 rfl rfl)
theorem dX17_init_11 : decode cX17_init 11 = .ok (.putfield 13, 3) := dk_181 0 13 (dk_at dksX17_init_0 11 rfl rfl)
theorem dX17_init_14 : decode cX17_init 14 = .ok (.aload_n 0, 1) := dk_42 (dk_at dksX17_init_0 14 rfl rfl)
theorem dX17_init_15 : decode cX17_init 15 = .ok (.iload_n 3, 1) := dk_29 (dk_at dksX17_init_0 15 rfl rfl)
theorem dX17_init_16 : decode cX17_init 16 = .ok (.putfield 16, 3) := dk_181 0 16 (dk_at dksX17_init_0 16 rfl rfl)
theorem dX17_init_19 : decode cX17_init 19 = .ok (.aload_n 0, 1) := dk_42 (dk_at dksX17_init_0 19 rfl rfl)
theorem dX17_init_20 : decode cX17_init 20 = .ok (.iload 4, 2) := dk_21 4 (dk_at dksX17_init_0 20 rfl rfl)
theorem dX17_init_22 : decode cX17_init 22 = .ok (.putfield 19, 3) := dk_181 0 19 (dk_at dksX17_init_1 0 rfl rfl)
theorem dX17_init_25 : decode cX17_init 25 = .ok (.return_, 1) := dk_177 (dk_at dksX17_init_1 3 rfl rfl)
theorem q145 : (Jvm.Cond.initialized "VaultyardModel$Owner") ∈ lw_all := lw_g (lw_at lw_m1 55 rfl) rfl
theorem q879 : (Jvm.Cond.selects "VaultyardModel$Owner" ({ cls := "java/lang/Object", name := "getClass", desc := "()Ljava/lang/Class;" } : Jvm.MethodName) ({ cls := "java/lang/Object", name := "getClass", desc := "()Ljava/lang/Class;" } : Jvm.MethodName)) ∈ lw_all := lw_g (lw_at lw_m4 69 rfl) rfl
theorem q2018 : (Jvm.Cond.selects "VaultyardModel$Owner" ({ cls := "java/lang/Object", name := "equals", desc := "(Ljava/lang/Object;)Z" } : Jvm.MethodName) ({ cls := "java/lang/Object", name := "equals", desc := "(Ljava/lang/Object;)Z" } : Jvm.MethodName)) ∈ lw_all := lw_g (lw_at lw_m9 8 rfl) rfl
theorem q2770 : (Jvm.Cond.instantiable "VaultyardModel$Owner" (4 : Nat)) ∈ lw_all := lw_g (lw_at lw_m12 40 rfl) rfl
theorem q2772 : (Jvm.Cond.instanceMethod ({ cls := "VaultyardModel$Owner", name := "<init>", desc := "(IIIC)V" } : Jvm.MethodName)) ∈ lw_all := lw_g (lw_at lw_m12 42 rfl) rfl
theorem q2773 : (Jvm.Cond.code ({ cls := "VaultyardModel$Owner", name := "<init>", desc := "(IIIC)V" } : Jvm.MethodName) prog_20_method_1_code (5 : Nat) (Option.none : Option Jvm.ClassFile.FieldType)) ∈ lw_all := lw_g (lw_at lw_m12 43 rfl) rfl
theorem q2774 : (Jvm.Cond.methodLink "VaultyardModel$Owner" (1 : Nat) ({ cls := "java/lang/Object", name := "<init>", desc := "()V" } : Jvm.MethodName)) ∈ lw_all := lw_g (lw_at lw_m12 44 rfl) rfl
theorem q2775 : (Jvm.Cond.fieldLink "VaultyardModel$Owner" (7 : Nat) "VaultyardModel$Owner" "owner" "I") ∈ lw_all := lw_g (lw_at lw_m12 45 rfl) rfl
theorem q2777 : (Jvm.Cond.fieldLink "VaultyardModel$Owner" (13 : Nat) "VaultyardModel$Owner" "from" "I") ∈ lw_all := lw_g (lw_at lw_m12 47 rfl) rfl
theorem q2779 : (Jvm.Cond.fieldLink "VaultyardModel$Owner" (16 : Nat) "VaultyardModel$Owner" "to" "I") ∈ lw_all := lw_g (lw_at lw_m12 49 rfl) rfl
theorem q2781 : (Jvm.Cond.fieldLink "VaultyardModel$Owner" (19 : Nat) "VaultyardModel$Owner" "way" "C") ∈ lw_all := lw_g (lw_at lw_m12 51 rfl) rfl
theorem q2783 : (Jvm.Cond.laysFinal "VaultyardModel$Owner" "VaultyardModel$Owner" "owner" "I") ∈ lw_all := lw_g (lw_at lw_m12 53 rfl) rfl
theorem q2784 : (Jvm.Cond.soleField "VaultyardModel$Owner" "owner") ∈ lw_all := lw_g (lw_at lw_m12 54 rfl) rfl
theorem q2785 : (Jvm.Cond.laysFinal "VaultyardModel$Owner" "VaultyardModel$Owner" "from" "I") ∈ lw_all := lw_g (lw_at lw_m12 55 rfl) rfl
theorem q2786 : (Jvm.Cond.soleField "VaultyardModel$Owner" "from") ∈ lw_all := lw_g (lw_at lw_m12 56 rfl) rfl
theorem q2787 : (Jvm.Cond.laysFinal "VaultyardModel$Owner" "VaultyardModel$Owner" "to" "I") ∈ lw_all := lw_g (lw_at lw_m12 57 rfl) rfl
theorem q2788 : (Jvm.Cond.soleField "VaultyardModel$Owner" "to") ∈ lw_all := lw_g (lw_at lw_m12 58 rfl) rfl
theorem q2789 : (Jvm.Cond.laysFinal "VaultyardModel$Owner" "VaultyardModel$Owner" "way" "C") ∈ lw_all := lw_g (lw_at lw_m12 59 rfl) rfl
theorem q2790 : (Jvm.Cond.soleField "VaultyardModel$Owner" "way") ∈ lw_all := lw_g (lw_at lw_m12 60 rfl) rfl
theorem q2791 : (Jvm.Cond.superclass "VaultyardModel$Owner" "java/lang/Object") ∈ lw_all := lw_g (lw_at lw_m12 61 rfl) rfl
theorem q3065 : (Jvm.Cond.castable "VaultyardModel$Owner" "java/lang/Object") ∈ lw_tbl := lw_at lw_m13 95 rfl
theorem in_X17 : ∀ w ∈ wsX170, w ∈ lw_all := lw_in wsX170 [2783, 2785, 2787, 2789] (by decide +kernel) (by decide +kernel)

/-! Vaultyard$Method -/
set_option maxRecDepth 100000
def RX18 : String := "Vaultyard$Method"
def TX18 : u_T := fun k => match k with
  | 0 => ("Vaultyard$Method", "keeps", "I", true)
  | 1 => ("Vaultyard$Method", "cost", "I", true)
  | 2 => ("Vaultyard$Method", "days", "I", true)
  | _ => ("Vaultyard$Method", "forbids", "I", true)
def tyX18 : Nat → FieldType := fun k => match k with
  | 0 => .int
  | 1 => .int
  | 2 => .int
  | _ => .int
abbrev wsX180 : List Cond := u_ws RX18 TX18 4
theorem nmX18 : ∀ a, a < 4 → ∀ b, b < 4 → a ≠ b → (TX18 a).2.1 ≠ (TX18 b).2.1 := by decide +kernel
theorem tyX18_ok : ∀ k, k < 4 → parseFieldDescriptor (TX18 k).2.2.1 = some (tyX18 k) := by decide +kernel
abbrev cX18_keeps : ByteArray := prog_9_method_5_code
def yX18_keeps : MethodName := ⟨RX18, "keeps", "()I"⟩
theorem dX18_keeps_0 : decode cX18_keeps 0 = .ok (.aload_n 0, 1) := by decide +kernel
theorem dX18_keeps_1 : decode cX18_keeps 1 = .ok (.getfield 7, 3) := by decide +kernel
theorem dX18_keeps_4 : decode cX18_keeps 4 = .ok (.ireturn, 1) := by decide +kernel
abbrev cX18_init : ByteArray := prog_9_method_1_code
def yX18_init : MethodName := ⟨RX18, "<init>", "(IIII)V"⟩
def dkwX18_init_1 : List UInt8 := [181, 0, 19, 177]
abbrev dktX18_init_1 : List UInt8 := dkwX18_init_1 ++ []
def dkwX18_init_0 : List UInt8 := [42, 183, 0, 1, 42, 27, 181, 0, 7, 42, 28, 181, 0, 13, 42, 29, 181, 0, 16, 42, 21, 4]
abbrev dktX18_init_0 : List UInt8 := dkwX18_init_0 ++ dktX18_init_1
theorem dksX18_init_0 : cX18_init.data.toList.drop 0 = dktX18_init_0 := by decide +kernel
theorem dksX18_init_1 : cX18_init.data.toList.drop 22 = dktX18_init_1 := dk_seg dksX18_init_0 22 rfl rfl
theorem dX18_init_0 : decode cX18_init 0 = .ok (.aload_n 0, 1) := dk_42 (dk_at dksX18_init_0 0 rfl rfl)
theorem dX18_init_1 : decode cX18_init 1 = .ok (.invokespecial 1, 3) := dk_183 0 1 (dk_at dksX18_init_0 1 rfl rfl)
theorem dX18_init_4 : decode cX18_init 4 = .ok (.aload_n 0, 1) := dk_42 (dk_at dksX18_init_0 4 rfl rfl)
theorem dX18_init_5 : decode cX18_init 5 = .ok (.iload_n 1, 1) := dk_27 (dk_at dksX18_init_0 5 rfl rfl)
theorem dX18_init_6 : decode cX18_init 6 = .ok (.putfield 7, 3) := dk_181 0 7 (dk_at dksX18_init_0 6 rfl rfl)
theorem dX18_init_9 : decode cX18_init 9 = .ok (.aload_n 0, 1) := dk_42 (dk_at dksX18_init_0 9 rfl rfl)
theorem dX18_init_10 : decode cX18_init 10 = .ok (.iload_n 2, 1) := dk_28 (dk_at dksX18_init_0 10 rfl rfl)
theorem dX18_init_11 : decode cX18_init 11 = .ok (.putfield 13, 3) := dk_181 0 13 (dk_at dksX18_init_0 11 rfl rfl)
theorem dX18_init_14 : decode cX18_init 14 = .ok (.aload_n 0, 1) := dk_42 (dk_at dksX18_init_0 14 rfl rfl)
theorem dX18_init_15 : decode cX18_init 15 = .ok (.iload_n 3, 1) := dk_29 (dk_at dksX18_init_0 15 rfl rfl)
theorem dX18_init_16 : decode cX18_init 16 = .ok (.putfield 16, 3) := dk_181 0 16 (dk_at dksX18_init_0 16 rfl rfl)
theorem dX18_init_19 : decode cX18_init 19 = .ok (.aload_n 0, 1) := dk_42 (dk_at dksX18_init_0 19 rfl rfl)
theorem dX18_init_20 : decode cX18_init 20 = .ok (.iload 4, 2) := dk_21 4 (dk_at dksX18_init_0 20 rfl rfl)
theorem dX18_init_22 : decode cX18_init 22 = .ok (.putfield 19, 3) := dk_181 0 19 (dk_at dksX18_init_1 0 rfl rfl)
theorem dX18_init_25 : decode cX18_init 25 = .ok (.return_, 1) := dk_177 (dk_at dksX18_init_1 3 rfl rfl)
abbrev cX18_cost : ByteArray := prog_9_method_6_code
def yX18_cost : MethodName := ⟨RX18, "cost", "()I"⟩
theorem dX18_cost_0 : decode cX18_cost 0 = .ok (.aload_n 0, 1) := by decide +kernel
theorem dX18_cost_1 : decode cX18_cost 1 = .ok (.getfield 13, 3) := by decide +kernel
theorem dX18_cost_4 : decode cX18_cost 4 = .ok (.ireturn, 1) := by decide +kernel
abbrev cX18_forbids : ByteArray := prog_9_method_8_code
def yX18_forbids : MethodName := ⟨RX18, "forbids", "()I"⟩
theorem dX18_forbids_0 : decode cX18_forbids 0 = .ok (.aload_n 0, 1) := by decide +kernel
theorem dX18_forbids_1 : decode cX18_forbids 1 = .ok (.getfield 19, 3) := by decide +kernel
theorem dX18_forbids_4 : decode cX18_forbids 4 = .ok (.ireturn, 1) := by decide +kernel
abbrev cX18_days : ByteArray := prog_9_method_7_code
def yX18_days : MethodName := ⟨RX18, "days", "()I"⟩
theorem dX18_days_0 : decode cX18_days 0 = .ok (.aload_n 0, 1) := by decide +kernel
theorem dX18_days_1 : decode cX18_days 1 = .ok (.getfield 16, 3) := by decide +kernel
theorem dX18_days_4 : decode cX18_days 4 = .ok (.ireturn, 1) := by decide +kernel
abbrev cX18_equals : ByteArray := prog_9_method_4_code
def yX18_equals : MethodName := ⟨RX18, "equals", "(Ljava/lang/Object;)Z"⟩
def dkwX18_equals_0 : List UInt8 := [42, 43, 186, 0, 30, 0, 0, 172]
abbrev dktX18_equals_0 : List UInt8 := dkwX18_equals_0 ++ []
theorem dksX18_equals_0 : cX18_equals.data.toList.drop 0 = dktX18_equals_0 := by decide +kernel
theorem dX18_equals_0 : decode cX18_equals 0 = .ok (.aload_n 0, 1) := dk_42 (dk_at dksX18_equals_0 0 rfl rfl)
theorem dX18_equals_1 : decode cX18_equals 1 = .ok (.aload_n 1, 1) := dk_43 (dk_at dksX18_equals_0 1 rfl rfl)
theorem dX18_equals_2 : decode cX18_equals 2 = .ok (.invokedynamic 30, 5) := by decide +kernel
theorem dX18_equals_7 : decode cX18_equals 7 = .ok (.ireturn, 1) := dk_172 (dk_at dksX18_equals_0 7 rfl rfl)
theorem q146 : (Jvm.Cond.initialized "Vaultyard$Method") ∈ lw_all := lw_g (lw_at lw_m1 56 rfl) rfl
theorem q870 : (Jvm.Cond.selects "Vaultyard$Method" ({ cls := "java/lang/Object", name := "getClass", desc := "()Ljava/lang/Class;" } : Jvm.MethodName) ({ cls := "java/lang/Object", name := "getClass", desc := "()Ljava/lang/Class;" } : Jvm.MethodName)) ∈ lw_all := lw_g (lw_at lw_m4 60 rfl) rfl
theorem q1213 : (Jvm.Cond.instanceMethod ({ cls := "Vaultyard$Method", name := "keeps", desc := "()I" } : Jvm.MethodName)) ∈ lw_all := lw_g (lw_at lw_m5 163 rfl) rfl
theorem q1214 : (Jvm.Cond.selects "Vaultyard$Method" ({ cls := "Vaultyard$Method", name := "keeps", desc := "()I" } : Jvm.MethodName) ({ cls := "Vaultyard$Method", name := "keeps", desc := "()I" } : Jvm.MethodName)) ∈ lw_all := lw_g (lw_at lw_m5 164 rfl) rfl
theorem q1215 : (Jvm.Cond.code ({ cls := "Vaultyard$Method", name := "keeps", desc := "()I" } : Jvm.MethodName) prog_9_method_5_code (1 : Nat) (Option.some Jvm.ClassFile.FieldType.int)) ∈ lw_all := lw_g (lw_at lw_m5 165 rfl) rfl
theorem q1824 : (Jvm.Cond.instantiable "Vaultyard$Method" (4 : Nat)) ∈ lw_all := lw_g (lw_at lw_m8 54 rfl) rfl
theorem q1826 : (Jvm.Cond.instanceMethod ({ cls := "Vaultyard$Method", name := "<init>", desc := "(IIII)V" } : Jvm.MethodName)) ∈ lw_all := lw_g (lw_at lw_m8 56 rfl) rfl
theorem q1827 : (Jvm.Cond.code ({ cls := "Vaultyard$Method", name := "<init>", desc := "(IIII)V" } : Jvm.MethodName) prog_9_method_1_code (5 : Nat) (Option.none : Option Jvm.ClassFile.FieldType)) ∈ lw_all := lw_g (lw_at lw_m8 57 rfl) rfl
theorem q1828 : (Jvm.Cond.methodLink "Vaultyard$Method" (1 : Nat) ({ cls := "java/lang/Record", name := "<init>", desc := "()V" } : Jvm.MethodName)) ∈ lw_all := lw_g (lw_at lw_m8 58 rfl) rfl
theorem q1829 : (Jvm.Cond.fieldLink "Vaultyard$Method" (7 : Nat) "Vaultyard$Method" "keeps" "I") ∈ lw_all := lw_g (lw_at lw_m8 59 rfl) rfl
theorem q1830 : (Jvm.Cond.fieldLink "Vaultyard$Method" (13 : Nat) "Vaultyard$Method" "cost" "I") ∈ lw_all := lw_g (lw_at lw_m8 60 rfl) rfl
theorem q1831 : (Jvm.Cond.fieldLink "Vaultyard$Method" (16 : Nat) "Vaultyard$Method" "days" "I") ∈ lw_all := lw_g (lw_at lw_m8 61 rfl) rfl
theorem q1832 : (Jvm.Cond.fieldLink "Vaultyard$Method" (19 : Nat) "Vaultyard$Method" "forbids" "I") ∈ lw_all := lw_g (lw_at lw_m8 62 rfl) rfl
theorem q1833 : (Jvm.Cond.laysFinal "Vaultyard$Method" "Vaultyard$Method" "keeps" "I") ∈ lw_all := lw_g (lw_at lw_m8 63 rfl) rfl
theorem q1834 : (Jvm.Cond.soleField "Vaultyard$Method" "keeps") ∈ lw_all := lw_g (lw_at lw_m8 64 rfl) rfl
theorem q1835 : (Jvm.Cond.laysFinal "Vaultyard$Method" "Vaultyard$Method" "cost" "I") ∈ lw_all := lw_g (lw_at lw_m8 65 rfl) rfl
theorem q1836 : (Jvm.Cond.soleField "Vaultyard$Method" "cost") ∈ lw_all := lw_g (lw_at lw_m8 66 rfl) rfl
theorem q1837 : (Jvm.Cond.laysFinal "Vaultyard$Method" "Vaultyard$Method" "days" "I") ∈ lw_all := lw_g (lw_at lw_m8 67 rfl) rfl
theorem q1838 : (Jvm.Cond.soleField "Vaultyard$Method" "days") ∈ lw_all := lw_g (lw_at lw_m8 68 rfl) rfl
theorem q1839 : (Jvm.Cond.laysFinal "Vaultyard$Method" "Vaultyard$Method" "forbids" "I") ∈ lw_all := lw_g (lw_at lw_m8 69 rfl) rfl
theorem q1840 : (Jvm.Cond.soleField "Vaultyard$Method" "forbids") ∈ lw_all := lw_g (lw_at lw_m8 70 rfl) rfl
theorem q1841 : (Jvm.Cond.superclass "Vaultyard$Method" "java/lang/Record") ∈ lw_all := lw_g (lw_at lw_m8 71 rfl) rfl
theorem q1850 : (Jvm.Cond.instanceMethod ({ cls := "Vaultyard$Method", name := "cost", desc := "()I" } : Jvm.MethodName)) ∈ lw_all := lw_g (lw_at lw_m8 80 rfl) rfl
theorem q1851 : (Jvm.Cond.selects "Vaultyard$Method" ({ cls := "Vaultyard$Method", name := "cost", desc := "()I" } : Jvm.MethodName) ({ cls := "Vaultyard$Method", name := "cost", desc := "()I" } : Jvm.MethodName)) ∈ lw_all := lw_g (lw_at lw_m8 81 rfl) rfl
theorem q1852 : (Jvm.Cond.code ({ cls := "Vaultyard$Method", name := "cost", desc := "()I" } : Jvm.MethodName) prog_9_method_6_code (1 : Nat) (Option.some Jvm.ClassFile.FieldType.int)) ∈ lw_all := lw_g (lw_at lw_m8 82 rfl) rfl
theorem q1858 : (Jvm.Cond.instanceMethod ({ cls := "Vaultyard$Method", name := "forbids", desc := "()I" } : Jvm.MethodName)) ∈ lw_all := lw_g (lw_at lw_m8 88 rfl) rfl
theorem q1859 : (Jvm.Cond.selects "Vaultyard$Method" ({ cls := "Vaultyard$Method", name := "forbids", desc := "()I" } : Jvm.MethodName) ({ cls := "Vaultyard$Method", name := "forbids", desc := "()I" } : Jvm.MethodName)) ∈ lw_all := lw_g (lw_at lw_m8 89 rfl) rfl
theorem q1860 : (Jvm.Cond.code ({ cls := "Vaultyard$Method", name := "forbids", desc := "()I" } : Jvm.MethodName) prog_9_method_8_code (1 : Nat) (Option.some Jvm.ClassFile.FieldType.int)) ∈ lw_all := lw_g (lw_at lw_m8 90 rfl) rfl
theorem q1862 : (Jvm.Cond.instanceMethod ({ cls := "Vaultyard$Method", name := "days", desc := "()I" } : Jvm.MethodName)) ∈ lw_all := lw_g (lw_at lw_m8 92 rfl) rfl
theorem q1863 : (Jvm.Cond.selects "Vaultyard$Method" ({ cls := "Vaultyard$Method", name := "days", desc := "()I" } : Jvm.MethodName) ({ cls := "Vaultyard$Method", name := "days", desc := "()I" } : Jvm.MethodName)) ∈ lw_all := lw_g (lw_at lw_m8 93 rfl) rfl
theorem q1864 : (Jvm.Cond.code ({ cls := "Vaultyard$Method", name := "days", desc := "()I" } : Jvm.MethodName) prog_9_method_7_code (1 : Nat) (Option.some Jvm.ClassFile.FieldType.int)) ∈ lw_all := lw_g (lw_at lw_m8 94 rfl) rfl
theorem q1989 : (Jvm.Cond.selects "Vaultyard$Method" ({ cls := "java/lang/Object", name := "equals", desc := "(Ljava/lang/Object;)Z" } : Jvm.MethodName) ({ cls := "Vaultyard$Method", name := "equals", desc := "(Ljava/lang/Object;)Z" } : Jvm.MethodName)) ∈ lw_all := lw_g (lw_at lw_m8 219 rfl) rfl
theorem q1990 : (Jvm.Cond.instanceMethod ({ cls := "Vaultyard$Method", name := "equals", desc := "(Ljava/lang/Object;)Z" } : Jvm.MethodName)) ∈ lw_all := lw_g (lw_at lw_m8 220 rfl) rfl
theorem q1991 : (Jvm.Cond.code ({ cls := "Vaultyard$Method", name := "equals", desc := "(Ljava/lang/Object;)Z" } : Jvm.MethodName) prog_9_method_4_code (2 : Nat) (Option.some Jvm.ClassFile.FieldType.boolean)) ∈ lw_all := lw_g (lw_at lw_m8 221 rfl) rfl
theorem q3066 : (Jvm.Cond.castable "Vaultyard$Method" "java/lang/Object") ∈ lw_tbl := lw_at lw_m13 96 rfl
theorem in_X18 : ∀ w ∈ wsX180, w ∈ lw_all := lw_in wsX180 [1833, 1835, 1837, 1839] (by decide +kernel) (by decide +kernel)

/-! Vaultyard$Box -/
set_option maxRecDepth 100000
def RX19 : String := "Vaultyard$Box"
def TX19 : u_T := fun k => match k with
  | 0 => ("Vaultyard$Box", "number", "I", true)
  | 1 => ("Vaultyard$Box", "size", "I", true)
  | _ => ("Vaultyard$Box", "pests", "I", false)
def tyX19 : Nat → FieldType := fun k => match k with
  | 0 => .int
  | 1 => .int
  | _ => .int
abbrev wsX190 : List Cond := u_ws RX19 TX19 3
theorem nmX19 : ∀ a, a < 3 → ∀ b, b < 3 → a ≠ b → (TX19 a).2.1 ≠ (TX19 b).2.1 := by decide +kernel
theorem tyX19_ok : ∀ k, k < 3 → parseFieldDescriptor (TX19 k).2.2.1 = some (tyX19 k) := by decide +kernel
abbrev cX19_init : ByteArray := prog_3_method_1_code
def yX19_init : MethodName := ⟨RX19, "<init>", "(II)V"⟩
def dkwX19_init_0 : List UInt8 := [42, 183, 0, 1, 42, 27, 181, 0, 7, 42, 28, 181, 0, 13, 177]
abbrev dktX19_init_0 : List UInt8 := dkwX19_init_0 ++ []
theorem dksX19_init_0 : cX19_init.data.toList.drop 0 = dktX19_init_0 := by decide +kernel
theorem dX19_init_0 : decode cX19_init 0 = .ok (.aload_n 0, 1) := dk_42 (dk_at dksX19_init_0 0 rfl rfl)
theorem dX19_init_1 : decode cX19_init 1 = .ok (.invokespecial 1, 3) := dk_183 0 1 (dk_at dksX19_init_0 1 rfl rfl)
theorem dX19_init_4 : decode cX19_init 4 = .ok (.aload_n 0, 1) := dk_42 (dk_at dksX19_init_0 4 rfl rfl)
theorem dX19_init_5 : decode cX19_init 5 = .ok (.iload_n 1, 1) := dk_27 (dk_at dksX19_init_0 5 rfl rfl)
theorem dX19_init_6 : decode cX19_init 6 = .ok (.putfield 7, 3) := dk_181 0 7 (dk_at dksX19_init_0 6 rfl rfl)
theorem dX19_init_9 : decode cX19_init 9 = .ok (.aload_n 0, 1) := dk_42 (dk_at dksX19_init_0 9 rfl rfl)
theorem dX19_init_10 : decode cX19_init 10 = .ok (.iload_n 2, 1) := dk_28 (dk_at dksX19_init_0 10 rfl rfl)
theorem dX19_init_11 : decode cX19_init 11 = .ok (.putfield 13, 3) := dk_181 0 13 (dk_at dksX19_init_0 11 rfl rfl)
theorem dX19_init_14 : decode cX19_init 14 = .ok (.return_, 1) := dk_177 (dk_at dksX19_init_0 14 rfl rfl)
theorem q147 : (Jvm.Cond.initialized "Vaultyard$Box") ∈ lw_all := lw_g (lw_at lw_m1 57 rfl) rfl
theorem q864 : (Jvm.Cond.selects "Vaultyard$Box" ({ cls := "java/lang/Object", name := "getClass", desc := "()Ljava/lang/Class;" } : Jvm.MethodName) ({ cls := "java/lang/Object", name := "getClass", desc := "()Ljava/lang/Class;" } : Jvm.MethodName)) ∈ lw_all := lw_g (lw_at lw_m4 54 rfl) rfl
theorem q1880 : (Jvm.Cond.instantiable "Vaultyard$Box" (3 : Nat)) ∈ lw_all := lw_g (lw_at lw_m8 110 rfl) rfl
theorem q1882 : (Jvm.Cond.instanceMethod ({ cls := "Vaultyard$Box", name := "<init>", desc := "(II)V" } : Jvm.MethodName)) ∈ lw_all := lw_g (lw_at lw_m8 112 rfl) rfl
theorem q1883 : (Jvm.Cond.code ({ cls := "Vaultyard$Box", name := "<init>", desc := "(II)V" } : Jvm.MethodName) prog_3_method_1_code (3 : Nat) (Option.none : Option Jvm.ClassFile.FieldType)) ∈ lw_all := lw_g (lw_at lw_m8 113 rfl) rfl
theorem q1884 : (Jvm.Cond.methodLink "Vaultyard$Box" (1 : Nat) ({ cls := "java/lang/Object", name := "<init>", desc := "()V" } : Jvm.MethodName)) ∈ lw_all := lw_g (lw_at lw_m8 114 rfl) rfl
theorem q1885 : (Jvm.Cond.fieldLink "Vaultyard$Box" (7 : Nat) "Vaultyard$Box" "number" "I") ∈ lw_all := lw_g (lw_at lw_m8 115 rfl) rfl
theorem q1887 : (Jvm.Cond.fieldLink "Vaultyard$Box" (13 : Nat) "Vaultyard$Box" "size" "I") ∈ lw_all := lw_g (lw_at lw_m8 117 rfl) rfl
theorem q1891 : (Jvm.Cond.laysFinal "Vaultyard$Box" "Vaultyard$Box" "number" "I") ∈ lw_all := lw_g (lw_at lw_m8 121 rfl) rfl
theorem q1892 : (Jvm.Cond.soleField "Vaultyard$Box" "number") ∈ lw_all := lw_g (lw_at lw_m8 122 rfl) rfl
theorem q1893 : (Jvm.Cond.laysFinal "Vaultyard$Box" "Vaultyard$Box" "size" "I") ∈ lw_all := lw_g (lw_at lw_m8 123 rfl) rfl
theorem q1894 : (Jvm.Cond.soleField "Vaultyard$Box" "size") ∈ lw_all := lw_g (lw_at lw_m8 124 rfl) rfl
theorem q1895 : (Jvm.Cond.lays "Vaultyard$Box" "Vaultyard$Box" "pests" "I") ∈ lw_all := lw_g (lw_at lw_m8 125 rfl) rfl
theorem q1896 : (Jvm.Cond.soleField "Vaultyard$Box" "pests") ∈ lw_all := lw_g (lw_at lw_m8 126 rfl) rfl
theorem q1897 : (Jvm.Cond.superclass "Vaultyard$Box" "java/lang/Object") ∈ lw_all := lw_g (lw_at lw_m8 127 rfl) rfl
theorem q1979 : (Jvm.Cond.selects "Vaultyard$Box" ({ cls := "java/lang/Object", name := "equals", desc := "(Ljava/lang/Object;)Z" } : Jvm.MethodName) ({ cls := "java/lang/Object", name := "equals", desc := "(Ljava/lang/Object;)Z" } : Jvm.MethodName)) ∈ lw_all := lw_g (lw_at lw_m8 209 rfl) rfl
theorem q3067 : (Jvm.Cond.castable "Vaultyard$Box" "java/lang/Object") ∈ lw_tbl := lw_at lw_m13 97 rfl
theorem in_X19 : ∀ w ∈ wsX190, w ∈ lw_all := lw_in wsX190 [1891, 1893, 1895] (by decide +kernel) (by decide +kernel)

/-! Vaultyard$Opinion -/
set_option maxRecDepth 100000
def RX20 : String := "Vaultyard$Opinion"
def TX20 : u_T := fun k => match k with
  | 0 => ("Vaultyard$Opinion", "thing", "LVaultyard$Thing;", true)
  | 1 => ("Vaultyard$Opinion", "person", "I", true)
  | _ => ("Vaultyard$Opinion", "code", "I", true)
def tyX20 : Nat → FieldType := fun k => match k with
  | 0 => .object "Vaultyard$Thing"
  | 1 => .int
  | _ => .int
abbrev wsX200 : List Cond := u_ws RX20 TX20 3
theorem nmX20 : ∀ a, a < 3 → ∀ b, b < 3 → a ≠ b → (TX20 a).2.1 ≠ (TX20 b).2.1 := by decide +kernel
theorem tyX20_ok : ∀ k, k < 3 → parseFieldDescriptor (TX20 k).2.2.1 = some (tyX20 k) := by decide +kernel
abbrev cX20_equals : ByteArray := prog_10_method_4_code
def yX20_equals : MethodName := ⟨RX20, "equals", "(Ljava/lang/Object;)Z"⟩
def dkwX20_equals_0 : List UInt8 := [42, 43, 186, 0, 28, 0, 0, 172]
abbrev dktX20_equals_0 : List UInt8 := dkwX20_equals_0 ++ []
theorem dksX20_equals_0 : cX20_equals.data.toList.drop 0 = dktX20_equals_0 := by decide +kernel
theorem dX20_equals_0 : decode cX20_equals 0 = .ok (.aload_n 0, 1) := dk_42 (dk_at dksX20_equals_0 0 rfl rfl)
theorem dX20_equals_1 : decode cX20_equals 1 = .ok (.aload_n 1, 1) := dk_43 (dk_at dksX20_equals_0 1 rfl rfl)
theorem dX20_equals_2 : decode cX20_equals 2 = .ok (.invokedynamic 28, 5) := by decide +kernel
theorem dX20_equals_7 : decode cX20_equals 7 = .ok (.ireturn, 1) := dk_172 (dk_at dksX20_equals_0 7 rfl rfl)
abbrev cX20_init : ByteArray := prog_10_method_1_code
def yX20_init : MethodName := ⟨RX20, "<init>", "(LVaultyard$Thing;II)V"⟩
def dkwX20_init_0 : List UInt8 := [42, 183, 0, 1, 42, 43, 181, 0, 7, 42, 28, 181, 0, 13, 42, 29, 181, 0, 17, 177]
abbrev dktX20_init_0 : List UInt8 := dkwX20_init_0 ++ []
theorem dksX20_init_0 : cX20_init.data.toList.drop 0 = dktX20_init_0 := by decide +kernel
theorem dX20_init_0 : decode cX20_init 0 = .ok (.aload_n 0, 1) := dk_42 (dk_at dksX20_init_0 0 rfl rfl)
theorem dX20_init_1 : decode cX20_init 1 = .ok (.invokespecial 1, 3) := dk_183 0 1 (dk_at dksX20_init_0 1 rfl rfl)
theorem dX20_init_4 : decode cX20_init 4 = .ok (.aload_n 0, 1) := dk_42 (dk_at dksX20_init_0 4 rfl rfl)
theorem dX20_init_5 : decode cX20_init 5 = .ok (.aload_n 1, 1) := dk_43 (dk_at dksX20_init_0 5 rfl rfl)
theorem dX20_init_6 : decode cX20_init 6 = .ok (.putfield 7, 3) := dk_181 0 7 (dk_at dksX20_init_0 6 rfl rfl)
theorem dX20_init_9 : decode cX20_init 9 = .ok (.aload_n 0, 1) := dk_42 (dk_at dksX20_init_0 9 rfl rfl)
theorem dX20_init_10 : decode cX20_init 10 = .ok (.iload_n 2, 1) := dk_28 (dk_at dksX20_init_0 10 rfl rfl)
theorem dX20_init_11 : decode cX20_init 11 = .ok (.putfield 13, 3) := dk_181 0 13 (dk_at dksX20_init_0 11 rfl rfl)
theorem dX20_init_14 : decode cX20_init 14 = .ok (.aload_n 0, 1) := dk_42 (dk_at dksX20_init_0 14 rfl rfl)
theorem dX20_init_15 : decode cX20_init 15 = .ok (.iload_n 3, 1) := dk_29 (dk_at dksX20_init_0 15 rfl rfl)
theorem dX20_init_16 : decode cX20_init 16 = .ok (.putfield 17, 3) := dk_181 0 17 (dk_at dksX20_init_0 16 rfl rfl)
theorem dX20_init_19 : decode cX20_init 19 = .ok (.return_, 1) := dk_177 (dk_at dksX20_init_0 19 rfl rfl)
abbrev cX20_thing : ByteArray := prog_10_method_5_code
def yX20_thing : MethodName := ⟨RX20, "thing", "()LVaultyard$Thing;"⟩
theorem dX20_thing_0 : decode cX20_thing 0 = .ok (.aload_n 0, 1) := by decide +kernel
theorem dX20_thing_1 : decode cX20_thing 1 = .ok (.getfield 7, 3) := by decide +kernel
theorem dX20_thing_4 : decode cX20_thing 4 = .ok (.areturn, 1) := by decide +kernel
abbrev cX20_person : ByteArray := prog_10_method_6_code
def yX20_person : MethodName := ⟨RX20, "person", "()I"⟩
theorem dX20_person_0 : decode cX20_person 0 = .ok (.aload_n 0, 1) := by decide +kernel
theorem dX20_person_1 : decode cX20_person 1 = .ok (.getfield 13, 3) := by decide +kernel
theorem dX20_person_4 : decode cX20_person 4 = .ok (.ireturn, 1) := by decide +kernel
abbrev cX20_code : ByteArray := prog_10_method_7_code
def yX20_code : MethodName := ⟨RX20, "code", "()I"⟩
theorem dX20_code_0 : decode cX20_code 0 = .ok (.aload_n 0, 1) := by decide +kernel
theorem dX20_code_1 : decode cX20_code 1 = .ok (.getfield 17, 3) := by decide +kernel
theorem dX20_code_4 : decode cX20_code 4 = .ok (.ireturn, 1) := by decide +kernel
theorem q148 : (Jvm.Cond.initialized "Vaultyard$Opinion") ∈ lw_all := lw_g (lw_at lw_m1 58 rfl) rfl
theorem q871 : (Jvm.Cond.selects "Vaultyard$Opinion" ({ cls := "java/lang/Object", name := "getClass", desc := "()Ljava/lang/Class;" } : Jvm.MethodName) ({ cls := "java/lang/Object", name := "getClass", desc := "()Ljava/lang/Class;" } : Jvm.MethodName)) ∈ lw_all := lw_g (lw_at lw_m4 61 rfl) rfl
theorem q1992 : (Jvm.Cond.selects "Vaultyard$Opinion" ({ cls := "java/lang/Object", name := "equals", desc := "(Ljava/lang/Object;)Z" } : Jvm.MethodName) ({ cls := "Vaultyard$Opinion", name := "equals", desc := "(Ljava/lang/Object;)Z" } : Jvm.MethodName)) ∈ lw_all := lw_g (lw_at lw_m8 222 rfl) rfl
theorem q1993 : (Jvm.Cond.instanceMethod ({ cls := "Vaultyard$Opinion", name := "equals", desc := "(Ljava/lang/Object;)Z" } : Jvm.MethodName)) ∈ lw_all := lw_g (lw_at lw_m8 223 rfl) rfl
theorem q1994 : (Jvm.Cond.code ({ cls := "Vaultyard$Opinion", name := "equals", desc := "(Ljava/lang/Object;)Z" } : Jvm.MethodName) prog_10_method_4_code (2 : Nat) (Option.some Jvm.ClassFile.FieldType.boolean)) ∈ lw_all := lw_g (lw_at lw_m8 224 rfl) rfl
theorem q2096 : (Jvm.Cond.instantiable "Vaultyard$Opinion" (3 : Nat)) ∈ lw_all := lw_g (lw_at lw_m9 86 rfl) rfl
theorem q2098 : (Jvm.Cond.instanceMethod ({ cls := "Vaultyard$Opinion", name := "<init>", desc := "(LVaultyard$Thing;II)V" } : Jvm.MethodName)) ∈ lw_all := lw_g (lw_at lw_m9 88 rfl) rfl
theorem q2099 : (Jvm.Cond.code ({ cls := "Vaultyard$Opinion", name := "<init>", desc := "(LVaultyard$Thing;II)V" } : Jvm.MethodName) prog_10_method_1_code (4 : Nat) (Option.none : Option Jvm.ClassFile.FieldType)) ∈ lw_all := lw_g (lw_at lw_m9 89 rfl) rfl
theorem q2100 : (Jvm.Cond.methodLink "Vaultyard$Opinion" (1 : Nat) ({ cls := "java/lang/Record", name := "<init>", desc := "()V" } : Jvm.MethodName)) ∈ lw_all := lw_g (lw_at lw_m9 90 rfl) rfl
theorem q2101 : (Jvm.Cond.fieldLink "Vaultyard$Opinion" (7 : Nat) "Vaultyard$Opinion" "thing" "LVaultyard$Thing;") ∈ lw_all := lw_g (lw_at lw_m9 91 rfl) rfl
theorem q2102 : (Jvm.Cond.fieldLink "Vaultyard$Opinion" (13 : Nat) "Vaultyard$Opinion" "person" "I") ∈ lw_all := lw_g (lw_at lw_m9 92 rfl) rfl
theorem q2103 : (Jvm.Cond.fieldLink "Vaultyard$Opinion" (17 : Nat) "Vaultyard$Opinion" "code" "I") ∈ lw_all := lw_g (lw_at lw_m9 93 rfl) rfl
theorem q2104 : (Jvm.Cond.laysFinal "Vaultyard$Opinion" "Vaultyard$Opinion" "thing" "LVaultyard$Thing;") ∈ lw_all := lw_g (lw_at lw_m9 94 rfl) rfl
theorem q2105 : (Jvm.Cond.soleField "Vaultyard$Opinion" "thing") ∈ lw_all := lw_g (lw_at lw_m9 95 rfl) rfl
theorem q2106 : (Jvm.Cond.laysFinal "Vaultyard$Opinion" "Vaultyard$Opinion" "person" "I") ∈ lw_all := lw_g (lw_at lw_m9 96 rfl) rfl
theorem q2107 : (Jvm.Cond.soleField "Vaultyard$Opinion" "person") ∈ lw_all := lw_g (lw_at lw_m9 97 rfl) rfl
theorem q2108 : (Jvm.Cond.laysFinal "Vaultyard$Opinion" "Vaultyard$Opinion" "code" "I") ∈ lw_all := lw_g (lw_at lw_m9 98 rfl) rfl
theorem q2109 : (Jvm.Cond.soleField "Vaultyard$Opinion" "code") ∈ lw_all := lw_g (lw_at lw_m9 99 rfl) rfl
theorem q2110 : (Jvm.Cond.superclass "Vaultyard$Opinion" "java/lang/Record") ∈ lw_all := lw_g (lw_at lw_m9 100 rfl) rfl
theorem q2116 : (Jvm.Cond.instanceMethod ({ cls := "Vaultyard$Opinion", name := "thing", desc := "()LVaultyard$Thing;" } : Jvm.MethodName)) ∈ lw_all := lw_g (lw_at lw_m9 106 rfl) rfl
theorem q2117 : (Jvm.Cond.selects "Vaultyard$Opinion" ({ cls := "Vaultyard$Opinion", name := "thing", desc := "()LVaultyard$Thing;" } : Jvm.MethodName) ({ cls := "Vaultyard$Opinion", name := "thing", desc := "()LVaultyard$Thing;" } : Jvm.MethodName)) ∈ lw_all := lw_g (lw_at lw_m9 107 rfl) rfl
theorem q2118 : (Jvm.Cond.code ({ cls := "Vaultyard$Opinion", name := "thing", desc := "()LVaultyard$Thing;" } : Jvm.MethodName) prog_10_method_5_code (1 : Nat) (Option.some (Jvm.ClassFile.FieldType.object "Vaultyard$Thing"))) ∈ lw_all := lw_g (lw_at lw_m9 108 rfl) rfl
theorem q2131 : (Jvm.Cond.instanceMethod ({ cls := "Vaultyard$Opinion", name := "person", desc := "()I" } : Jvm.MethodName)) ∈ lw_all := lw_g (lw_at lw_m9 121 rfl) rfl
theorem q2132 : (Jvm.Cond.selects "Vaultyard$Opinion" ({ cls := "Vaultyard$Opinion", name := "person", desc := "()I" } : Jvm.MethodName) ({ cls := "Vaultyard$Opinion", name := "person", desc := "()I" } : Jvm.MethodName)) ∈ lw_all := lw_g (lw_at lw_m9 122 rfl) rfl
theorem q2133 : (Jvm.Cond.code ({ cls := "Vaultyard$Opinion", name := "person", desc := "()I" } : Jvm.MethodName) prog_10_method_6_code (1 : Nat) (Option.some Jvm.ClassFile.FieldType.int)) ∈ lw_all := lw_g (lw_at lw_m9 123 rfl) rfl
theorem q2139 : (Jvm.Cond.instanceMethod ({ cls := "Vaultyard$Opinion", name := "code", desc := "()I" } : Jvm.MethodName)) ∈ lw_all := lw_g (lw_at lw_m9 129 rfl) rfl
theorem q2140 : (Jvm.Cond.selects "Vaultyard$Opinion" ({ cls := "Vaultyard$Opinion", name := "code", desc := "()I" } : Jvm.MethodName) ({ cls := "Vaultyard$Opinion", name := "code", desc := "()I" } : Jvm.MethodName)) ∈ lw_all := lw_g (lw_at lw_m9 130 rfl) rfl
theorem q2141 : (Jvm.Cond.code ({ cls := "Vaultyard$Opinion", name := "code", desc := "()I" } : Jvm.MethodName) prog_10_method_7_code (1 : Nat) (Option.some Jvm.ClassFile.FieldType.int)) ∈ lw_all := lw_g (lw_at lw_m9 131 rfl) rfl
theorem q3068 : (Jvm.Cond.castable "Vaultyard$Opinion" "java/lang/Object") ∈ lw_tbl := lw_at lw_m13 98 rfl
theorem in_X20 : ∀ w ∈ wsX200, w ∈ lw_all := lw_in wsX200 [2104, 2106, 2108] (by decide +kernel) (by decide +kernel)

/-! Vaultyard$Fund -/
set_option maxRecDepth 100000
def RX21 : String := "Vaultyard$Fund"
def TX21 : u_T := fun k => match k with
  | 0 => ("Vaultyard$Fund", "number", "I", true)
  | 1 => ("Vaultyard$Fund", "purposes", "I", true)
  | _ => ("Vaultyard$Fund", "money", "I", false)
def tyX21 : Nat → FieldType := fun k => match k with
  | 0 => .int
  | 1 => .int
  | _ => .int
abbrev wsX210 : List Cond := u_ws RX21 TX21 3
theorem nmX21 : ∀ a, a < 3 → ∀ b, b < 3 → a ≠ b → (TX21 a).2.1 ≠ (TX21 b).2.1 := by decide +kernel
theorem tyX21_ok : ∀ k, k < 3 → parseFieldDescriptor (TX21 k).2.2.1 = some (tyX21 k) := by decide +kernel
abbrev cX21_isFor : ByteArray := prog_5_method_2_code
def yX21_isFor : MethodName := ⟨RX21, "isFor", "(I)Z"⟩
def dkwX21_isFor_0 : List UInt8 := [42, 180, 0, 18, 27, 16, 8, 128, 126, 153, 0, 7, 4, 167, 0, 4, 3, 172]
abbrev dktX21_isFor_0 : List UInt8 := dkwX21_isFor_0 ++ []
theorem dksX21_isFor_0 : cX21_isFor.data.toList.drop 0 = dktX21_isFor_0 := by decide +kernel
theorem dX21_isFor_0 : decode cX21_isFor 0 = .ok (.aload_n 0, 1) := dk_42 (dk_at dksX21_isFor_0 0 rfl rfl)
theorem dX21_isFor_1 : decode cX21_isFor 1 = .ok (.getfield 18, 3) := dk_180 0 18 (dk_at dksX21_isFor_0 1 rfl rfl)
theorem dX21_isFor_4 : decode cX21_isFor 4 = .ok (.iload_n 1, 1) := dk_27 (dk_at dksX21_isFor_0 4 rfl rfl)
theorem dX21_isFor_5 : decode cX21_isFor 5 = .ok (.bipush 8, 2) := dk_16 8 (dk_at dksX21_isFor_0 5 rfl rfl)
theorem dX21_isFor_7 : decode cX21_isFor 7 = .ok (.ior, 1) := dk_128 (dk_at dksX21_isFor_0 7 rfl rfl)
theorem dX21_isFor_8 : decode cX21_isFor 8 = .ok (.iand, 1) := dk_126 (dk_at dksX21_isFor_0 8 rfl rfl)
theorem dX21_isFor_9 : decode cX21_isFor 9 = .ok (.ifCond .eq 7, 3) := dk_153 0 7 (dk_at dksX21_isFor_0 9 rfl rfl)
theorem dX21_isFor_12 : decode cX21_isFor 12 = .ok (.iconst 1, 1) := dk_4 (dk_at dksX21_isFor_0 12 rfl rfl)
theorem dX21_isFor_13 : decode cX21_isFor 13 = .ok (.goto 4, 3) := dk_167 0 4 (dk_at dksX21_isFor_0 13 rfl rfl)
theorem dX21_isFor_16 : decode cX21_isFor 16 = .ok (.iconst 0, 1) := dk_3 (dk_at dksX21_isFor_0 16 rfl rfl)
theorem dX21_isFor_17 : decode cX21_isFor 17 = .ok (.ireturn, 1) := dk_172 (dk_at dksX21_isFor_0 17 rfl rfl)
abbrev cX21_init : ByteArray := prog_5_method_1_code
def yX21_init : MethodName := ⟨RX21, "<init>", "(III)V"⟩
def dkwX21_init_0 : List UInt8 := [42, 183, 0, 3, 42, 27, 181, 0, 9, 42, 28, 181, 0, 15, 42, 29, 181, 0, 18, 177]
abbrev dktX21_init_0 : List UInt8 := dkwX21_init_0 ++ []
theorem dksX21_init_0 : cX21_init.data.toList.drop 0 = dktX21_init_0 := by decide +kernel
theorem dX21_init_0 : decode cX21_init 0 = .ok (.aload_n 0, 1) := dk_42 (dk_at dksX21_init_0 0 rfl rfl)
theorem dX21_init_1 : decode cX21_init 1 = .ok (.invokespecial 3, 3) := dk_183 0 3 (dk_at dksX21_init_0 1 rfl rfl)
theorem dX21_init_4 : decode cX21_init 4 = .ok (.aload_n 0, 1) := dk_42 (dk_at dksX21_init_0 4 rfl rfl)
theorem dX21_init_5 : decode cX21_init 5 = .ok (.iload_n 1, 1) := dk_27 (dk_at dksX21_init_0 5 rfl rfl)
theorem dX21_init_6 : decode cX21_init 6 = .ok (.putfield 9, 3) := dk_181 0 9 (dk_at dksX21_init_0 6 rfl rfl)
theorem dX21_init_9 : decode cX21_init 9 = .ok (.aload_n 0, 1) := dk_42 (dk_at dksX21_init_0 9 rfl rfl)
theorem dX21_init_10 : decode cX21_init 10 = .ok (.iload_n 2, 1) := dk_28 (dk_at dksX21_init_0 10 rfl rfl)
theorem dX21_init_11 : decode cX21_init 11 = .ok (.putfield 15, 3) := dk_181 0 15 (dk_at dksX21_init_0 11 rfl rfl)
theorem dX21_init_14 : decode cX21_init 14 = .ok (.aload_n 0, 1) := dk_42 (dk_at dksX21_init_0 14 rfl rfl)
theorem dX21_init_15 : decode cX21_init 15 = .ok (.iload_n 3, 1) := dk_29 (dk_at dksX21_init_0 15 rfl rfl)
theorem dX21_init_16 : decode cX21_init 16 = .ok (.putfield 18, 3) := dk_181 0 18 (dk_at dksX21_init_0 16 rfl rfl)
theorem dX21_init_19 : decode cX21_init 19 = .ok (.return_, 1) := dk_177 (dk_at dksX21_init_0 19 rfl rfl)
theorem q149 : (Jvm.Cond.initialized "Vaultyard$Fund") ∈ lw_all := lw_g (lw_at lw_m1 59 rfl) rfl
theorem q866 : (Jvm.Cond.selects "Vaultyard$Fund" ({ cls := "java/lang/Object", name := "getClass", desc := "()Ljava/lang/Class;" } : Jvm.MethodName) ({ cls := "java/lang/Object", name := "getClass", desc := "()Ljava/lang/Class;" } : Jvm.MethodName)) ∈ lw_all := lw_g (lw_at lw_m4 56 rfl) rfl
theorem q1433 : (Jvm.Cond.privateMethod ({ cls := "Vaultyard$Fund", name := "isFor", desc := "(I)Z" } : Jvm.MethodName)) ∈ lw_tbl := lw_at lw_m6 143 rfl
theorem q1434 : (Jvm.Cond.instanceMethod ({ cls := "Vaultyard$Fund", name := "isFor", desc := "(I)Z" } : Jvm.MethodName)) ∈ lw_all := lw_g (lw_at lw_m6 144 rfl) rfl
theorem q1435 : (Jvm.Cond.instantiable "Vaultyard$Fund" (3 : Nat)) ∈ lw_all := lw_g (lw_at lw_m6 145 rfl) rfl
theorem q1436 : (Jvm.Cond.code ({ cls := "Vaultyard$Fund", name := "isFor", desc := "(I)Z" } : Jvm.MethodName) prog_5_method_2_code (2 : Nat) (Option.some Jvm.ClassFile.FieldType.boolean)) ∈ lw_all := lw_g (lw_at lw_m6 146 rfl) rfl
theorem q1983 : (Jvm.Cond.selects "Vaultyard$Fund" ({ cls := "java/lang/Object", name := "equals", desc := "(Ljava/lang/Object;)Z" } : Jvm.MethodName) ({ cls := "java/lang/Object", name := "equals", desc := "(Ljava/lang/Object;)Z" } : Jvm.MethodName)) ∈ lw_all := lw_g (lw_at lw_m8 213 rfl) rfl
theorem q2178 : (Jvm.Cond.instanceMethod ({ cls := "Vaultyard$Fund", name := "<init>", desc := "(III)V" } : Jvm.MethodName)) ∈ lw_all := lw_g (lw_at lw_m9 168 rfl) rfl
theorem q2179 : (Jvm.Cond.code ({ cls := "Vaultyard$Fund", name := "<init>", desc := "(III)V" } : Jvm.MethodName) prog_5_method_1_code (4 : Nat) (Option.none : Option Jvm.ClassFile.FieldType)) ∈ lw_all := lw_g (lw_at lw_m9 169 rfl) rfl
theorem q2180 : (Jvm.Cond.methodLink "Vaultyard$Fund" (3 : Nat) ({ cls := "java/lang/Object", name := "<init>", desc := "()V" } : Jvm.MethodName)) ∈ lw_all := lw_g (lw_at lw_m9 170 rfl) rfl
theorem q2181 : (Jvm.Cond.fieldLink "Vaultyard$Fund" (9 : Nat) "Vaultyard$Fund" "number" "I") ∈ lw_all := lw_g (lw_at lw_m9 171 rfl) rfl
theorem q2183 : (Jvm.Cond.fieldLink "Vaultyard$Fund" (18 : Nat) "Vaultyard$Fund" "purposes" "I") ∈ lw_all := lw_g (lw_at lw_m9 173 rfl) rfl
theorem q2185 : (Jvm.Cond.fieldLink "Vaultyard$Fund" (15 : Nat) "Vaultyard$Fund" "money" "I") ∈ lw_all := lw_g (lw_at lw_m9 175 rfl) rfl
theorem q2187 : (Jvm.Cond.laysFinal "Vaultyard$Fund" "Vaultyard$Fund" "number" "I") ∈ lw_all := lw_g (lw_at lw_m9 177 rfl) rfl
theorem q2188 : (Jvm.Cond.soleField "Vaultyard$Fund" "number") ∈ lw_all := lw_g (lw_at lw_m9 178 rfl) rfl
theorem q2189 : (Jvm.Cond.laysFinal "Vaultyard$Fund" "Vaultyard$Fund" "purposes" "I") ∈ lw_all := lw_g (lw_at lw_m9 179 rfl) rfl
theorem q2190 : (Jvm.Cond.soleField "Vaultyard$Fund" "purposes") ∈ lw_all := lw_g (lw_at lw_m9 180 rfl) rfl
theorem q2191 : (Jvm.Cond.lays "Vaultyard$Fund" "Vaultyard$Fund" "money" "I") ∈ lw_all := lw_g (lw_at lw_m9 181 rfl) rfl
theorem q2192 : (Jvm.Cond.soleField "Vaultyard$Fund" "money") ∈ lw_all := lw_g (lw_at lw_m9 182 rfl) rfl
theorem q2193 : (Jvm.Cond.superclass "Vaultyard$Fund" "java/lang/Object") ∈ lw_all := lw_g (lw_at lw_m9 183 rfl) rfl
theorem q3070 : (Jvm.Cond.castable "Vaultyard$Fund" "java/lang/Object") ∈ lw_tbl := lw_at lw_m13 100 rfl
theorem in_X21 : ∀ w ∈ wsX210, w ∈ lw_all := lw_in wsX210 [2187, 2189, 2191] (by decide +kernel) (by decide +kernel)

