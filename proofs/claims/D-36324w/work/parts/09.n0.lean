/-! VaultyardLaw -/
set_option maxRecDepth 100000
def RX0 : String := "VaultyardLaw"
abbrev cX0_material : ByteArray := method_3_code
def yX0_material : MethodName := ⟨RX0, "material", "(LVaultyard;IIIIZ[J)I"⟩
def dkwX0_material_1 : List UInt8 := [58, 7, 5, 172, 3, 172]
abbrev dktX0_material_1 : List UInt8 := dkwX0_material_1 ++ []
def dkwX0_material_0 : List UInt8 := [25, 6, 3, 42, 27, 28, 29, 21, 4, 21, 5, 182, 0, 7, 133, 80, 167, 0, 11, 58, 7, 4, 172]
abbrev dktX0_material_0 : List UInt8 := dkwX0_material_0 ++ dktX0_material_1
theorem dksX0_material_0 : cX0_material.data.toList.drop 0 = dktX0_material_0 := by decide +kernel
theorem dksX0_material_1 : cX0_material.data.toList.drop 23 = dktX0_material_1 := dk_seg dksX0_material_0 23 rfl rfl
theorem dX0_material_0 : decode cX0_material 0 = .ok (.aload 6, 2) := dk_25 6 (dk_at dksX0_material_0 0 rfl rfl)
theorem dX0_material_2 : decode cX0_material 2 = .ok (.iconst 0, 1) := dk_3 (dk_at dksX0_material_0 2 rfl rfl)
theorem dX0_material_3 : decode cX0_material 3 = .ok (.aload_n 0, 1) := dk_42 (dk_at dksX0_material_0 3 rfl rfl)
theorem dX0_material_4 : decode cX0_material 4 = .ok (.iload_n 1, 1) := dk_27 (dk_at dksX0_material_0 4 rfl rfl)
theorem dX0_material_5 : decode cX0_material 5 = .ok (.iload_n 2, 1) := dk_28 (dk_at dksX0_material_0 5 rfl rfl)
theorem dX0_material_6 : decode cX0_material 6 = .ok (.iload_n 3, 1) := dk_29 (dk_at dksX0_material_0 6 rfl rfl)
theorem dX0_material_7 : decode cX0_material 7 = .ok (.iload 4, 2) := dk_21 4 (dk_at dksX0_material_0 7 rfl rfl)
theorem dX0_material_9 : decode cX0_material 9 = .ok (.iload 5, 2) := dk_21 5 (dk_at dksX0_material_0 9 rfl rfl)
theorem dX0_material_11 : decode cX0_material 11 = .ok (.invokevirtual 7, 3) := dk_182 0 7 (dk_at dksX0_material_0 11 rfl rfl)
theorem dX0_material_14 : decode cX0_material 14 = .ok (.i2l, 1) := dk_133 (dk_at dksX0_material_0 14 rfl rfl)
theorem dX0_material_15 : decode cX0_material 15 = .ok (.lastore, 1) := dk_80 (dk_at dksX0_material_0 15 rfl rfl)
theorem dX0_material_16 : decode cX0_material 16 = .ok (.goto 11, 3) := dk_167 0 11 (dk_at dksX0_material_0 16 rfl rfl)
theorem dX0_material_19 : decode cX0_material 19 = .ok (.astore 7, 2) := dk_58 7 (dk_at dksX0_material_0 19 rfl rfl)
theorem dX0_material_21 : decode cX0_material 21 = .ok (.iconst 1, 1) := dk_4 (dk_at dksX0_material_0 21 rfl rfl)
theorem dX0_material_22 : decode cX0_material 22 = .ok (.ireturn, 1) := dk_172 (dk_at dksX0_material_0 22 rfl rfl)
theorem dX0_material_23 : decode cX0_material 23 = .ok (.astore 7, 2) := dk_58 7 (dk_at dksX0_material_1 0 rfl rfl)
theorem dX0_material_25 : decode cX0_material 25 = .ok (.iconst 2, 1) := dk_5 (dk_at dksX0_material_1 2 rfl rfl)
theorem dX0_material_26 : decode cX0_material 26 = .ok (.ireturn, 1) := dk_172 (dk_at dksX0_material_1 3 rfl rfl)
theorem dX0_material_27 : decode cX0_material 27 = .ok (.iconst 0, 1) := dk_3 (dk_at dksX0_material_1 4 rfl rfl)
theorem dX0_material_28 : decode cX0_material 28 = .ok (.ireturn, 1) := dk_172 (dk_at dksX0_material_1 5 rfl rfl)
abbrev cX0_room : ByteArray := method_4_code
def yX0_room : MethodName := ⟨RX0, "room", "(LVaultyard;III[J)I"⟩
def dkwX0_room_1 : List UInt8 := [172]
abbrev dktX0_room_1 : List UInt8 := dkwX0_room_1 ++ []
def dkwX0_room_0 : List UInt8 := [25, 4, 3, 42, 27, 28, 29, 182, 0, 17, 133, 80, 167, 0, 11, 58, 5, 4, 172, 58, 5, 5, 172, 3]
abbrev dktX0_room_0 : List UInt8 := dkwX0_room_0 ++ dktX0_room_1
theorem dksX0_room_0 : cX0_room.data.toList.drop 0 = dktX0_room_0 := by decide +kernel
theorem dksX0_room_1 : cX0_room.data.toList.drop 24 = dktX0_room_1 := dk_seg dksX0_room_0 24 rfl rfl
theorem dX0_room_0 : decode cX0_room 0 = .ok (.aload 4, 2) := dk_25 4 (dk_at dksX0_room_0 0 rfl rfl)
theorem dX0_room_2 : decode cX0_room 2 = .ok (.iconst 0, 1) := dk_3 (dk_at dksX0_room_0 2 rfl rfl)
theorem dX0_room_3 : decode cX0_room 3 = .ok (.aload_n 0, 1) := dk_42 (dk_at dksX0_room_0 3 rfl rfl)
theorem dX0_room_4 : decode cX0_room 4 = .ok (.iload_n 1, 1) := dk_27 (dk_at dksX0_room_0 4 rfl rfl)
theorem dX0_room_5 : decode cX0_room 5 = .ok (.iload_n 2, 1) := dk_28 (dk_at dksX0_room_0 5 rfl rfl)
theorem dX0_room_6 : decode cX0_room 6 = .ok (.iload_n 3, 1) := dk_29 (dk_at dksX0_room_0 6 rfl rfl)
theorem dX0_room_7 : decode cX0_room 7 = .ok (.invokevirtual 17, 3) := dk_182 0 17 (dk_at dksX0_room_0 7 rfl rfl)
theorem dX0_room_10 : decode cX0_room 10 = .ok (.i2l, 1) := dk_133 (dk_at dksX0_room_0 10 rfl rfl)
theorem dX0_room_11 : decode cX0_room 11 = .ok (.lastore, 1) := dk_80 (dk_at dksX0_room_0 11 rfl rfl)
theorem dX0_room_12 : decode cX0_room 12 = .ok (.goto 11, 3) := dk_167 0 11 (dk_at dksX0_room_0 12 rfl rfl)
theorem dX0_room_15 : decode cX0_room 15 = .ok (.astore 5, 2) := dk_58 5 (dk_at dksX0_room_0 15 rfl rfl)
theorem dX0_room_17 : decode cX0_room 17 = .ok (.iconst 1, 1) := dk_4 (dk_at dksX0_room_0 17 rfl rfl)
theorem dX0_room_18 : decode cX0_room 18 = .ok (.ireturn, 1) := dk_172 (dk_at dksX0_room_0 18 rfl rfl)
theorem dX0_room_19 : decode cX0_room 19 = .ok (.astore 5, 2) := dk_58 5 (dk_at dksX0_room_0 19 rfl rfl)
theorem dX0_room_21 : decode cX0_room 21 = .ok (.iconst 2, 1) := dk_5 (dk_at dksX0_room_0 21 rfl rfl)
theorem dX0_room_22 : decode cX0_room 22 = .ok (.ireturn, 1) := dk_172 (dk_at dksX0_room_0 22 rfl rfl)
theorem dX0_room_23 : decode cX0_room 23 = .ok (.iconst 0, 1) := dk_3 (dk_at dksX0_room_0 23 rfl rfl)
theorem dX0_room_24 : decode cX0_room 24 = .ok (.ireturn, 1) := dk_172 (dk_at dksX0_room_1 0 rfl rfl)
abbrev cX0_climate : ByteArray := method_5_code
def yX0_climate : MethodName := ⟨RX0, "climate", "(LVaultyard;III[J)I"⟩
def dkwX0_climate_1 : List UInt8 := [172]
abbrev dktX0_climate_1 : List UInt8 := dkwX0_climate_1 ++ []
def dkwX0_climate_0 : List UInt8 := [25, 4, 3, 42, 27, 28, 29, 182, 0, 21, 133, 80, 167, 0, 11, 58, 5, 4, 172, 58, 5, 5, 172, 3]
abbrev dktX0_climate_0 : List UInt8 := dkwX0_climate_0 ++ dktX0_climate_1
theorem dksX0_climate_0 : cX0_climate.data.toList.drop 0 = dktX0_climate_0 := by decide +kernel
theorem dksX0_climate_1 : cX0_climate.data.toList.drop 24 = dktX0_climate_1 := dk_seg dksX0_climate_0 24 rfl rfl
theorem dX0_climate_0 : decode cX0_climate 0 = .ok (.aload 4, 2) := dk_25 4 (dk_at dksX0_climate_0 0 rfl rfl)
theorem dX0_climate_2 : decode cX0_climate 2 = .ok (.iconst 0, 1) := dk_3 (dk_at dksX0_climate_0 2 rfl rfl)
theorem dX0_climate_3 : decode cX0_climate 3 = .ok (.aload_n 0, 1) := dk_42 (dk_at dksX0_climate_0 3 rfl rfl)
theorem dX0_climate_4 : decode cX0_climate 4 = .ok (.iload_n 1, 1) := dk_27 (dk_at dksX0_climate_0 4 rfl rfl)
theorem dX0_climate_5 : decode cX0_climate 5 = .ok (.iload_n 2, 1) := dk_28 (dk_at dksX0_climate_0 5 rfl rfl)
theorem dX0_climate_6 : decode cX0_climate 6 = .ok (.iload_n 3, 1) := dk_29 (dk_at dksX0_climate_0 6 rfl rfl)
theorem dX0_climate_7 : decode cX0_climate 7 = .ok (.invokevirtual 21, 3) := dk_182 0 21 (dk_at dksX0_climate_0 7 rfl rfl)
theorem dX0_climate_10 : decode cX0_climate 10 = .ok (.i2l, 1) := dk_133 (dk_at dksX0_climate_0 10 rfl rfl)
theorem dX0_climate_11 : decode cX0_climate 11 = .ok (.lastore, 1) := dk_80 (dk_at dksX0_climate_0 11 rfl rfl)
theorem dX0_climate_12 : decode cX0_climate 12 = .ok (.goto 11, 3) := dk_167 0 11 (dk_at dksX0_climate_0 12 rfl rfl)
theorem dX0_climate_15 : decode cX0_climate 15 = .ok (.astore 5, 2) := dk_58 5 (dk_at dksX0_climate_0 15 rfl rfl)
theorem dX0_climate_17 : decode cX0_climate 17 = .ok (.iconst 1, 1) := dk_4 (dk_at dksX0_climate_0 17 rfl rfl)
theorem dX0_climate_18 : decode cX0_climate 18 = .ok (.ireturn, 1) := dk_172 (dk_at dksX0_climate_0 18 rfl rfl)
theorem dX0_climate_19 : decode cX0_climate 19 = .ok (.astore 5, 2) := dk_58 5 (dk_at dksX0_climate_0 19 rfl rfl)
theorem dX0_climate_21 : decode cX0_climate 21 = .ok (.iconst 2, 1) := dk_5 (dk_at dksX0_climate_0 21 rfl rfl)
theorem dX0_climate_22 : decode cX0_climate 22 = .ok (.ireturn, 1) := dk_172 (dk_at dksX0_climate_0 22 rfl rfl)
theorem dX0_climate_23 : decode cX0_climate 23 = .ok (.iconst 0, 1) := dk_3 (dk_at dksX0_climate_0 23 rfl rfl)
theorem dX0_climate_24 : decode cX0_climate 24 = .ok (.ireturn, 1) := dk_172 (dk_at dksX0_climate_1 0 rfl rfl)
abbrev cX0_infest : ByteArray := method_6_code
def yX0_infest : MethodName := ⟨RX0, "infest", "(LVaultyard;IIZ[J)I"⟩
def dkwX0_infest_1 : List UInt8 := [4, 172, 58, 5, 5, 172, 3, 172]
abbrev dktX0_infest_1 : List UInt8 := dkwX0_infest_1 ++ []
def dkwX0_infest_0 : List UInt8 := [25, 4, 3, 42, 27, 28, 29, 182, 0, 26, 153, 0, 7, 10, 167, 0, 4, 9, 80, 167, 0, 11, 58, 5]
abbrev dktX0_infest_0 : List UInt8 := dkwX0_infest_0 ++ dktX0_infest_1
theorem dksX0_infest_0 : cX0_infest.data.toList.drop 0 = dktX0_infest_0 := by decide +kernel
theorem dksX0_infest_1 : cX0_infest.data.toList.drop 24 = dktX0_infest_1 := dk_seg dksX0_infest_0 24 rfl rfl
theorem dX0_infest_0 : decode cX0_infest 0 = .ok (.aload 4, 2) := dk_25 4 (dk_at dksX0_infest_0 0 rfl rfl)
theorem dX0_infest_2 : decode cX0_infest 2 = .ok (.iconst 0, 1) := dk_3 (dk_at dksX0_infest_0 2 rfl rfl)
theorem dX0_infest_3 : decode cX0_infest 3 = .ok (.aload_n 0, 1) := dk_42 (dk_at dksX0_infest_0 3 rfl rfl)
theorem dX0_infest_4 : decode cX0_infest 4 = .ok (.iload_n 1, 1) := dk_27 (dk_at dksX0_infest_0 4 rfl rfl)
theorem dX0_infest_5 : decode cX0_infest 5 = .ok (.iload_n 2, 1) := dk_28 (dk_at dksX0_infest_0 5 rfl rfl)
theorem dX0_infest_6 : decode cX0_infest 6 = .ok (.iload_n 3, 1) := dk_29 (dk_at dksX0_infest_0 6 rfl rfl)
theorem dX0_infest_7 : decode cX0_infest 7 = .ok (.invokevirtual 26, 3) := dk_182 0 26 (dk_at dksX0_infest_0 7 rfl rfl)
theorem dX0_infest_10 : decode cX0_infest 10 = .ok (.ifCond .eq 7, 3) := dk_153 0 7 (dk_at dksX0_infest_0 10 rfl rfl)
theorem dX0_infest_13 : decode cX0_infest 13 = .ok (.lconst 1, 1) := dk_10 (dk_at dksX0_infest_0 13 rfl rfl)
theorem dX0_infest_14 : decode cX0_infest 14 = .ok (.goto 4, 3) := dk_167 0 4 (dk_at dksX0_infest_0 14 rfl rfl)
theorem dX0_infest_17 : decode cX0_infest 17 = .ok (.lconst 0, 1) := dk_9 (dk_at dksX0_infest_0 17 rfl rfl)
theorem dX0_infest_18 : decode cX0_infest 18 = .ok (.lastore, 1) := dk_80 (dk_at dksX0_infest_0 18 rfl rfl)
theorem dX0_infest_19 : decode cX0_infest 19 = .ok (.goto 11, 3) := dk_167 0 11 (dk_at dksX0_infest_0 19 rfl rfl)
theorem dX0_infest_22 : decode cX0_infest 22 = .ok (.astore 5, 2) := dk_58 5 (dk_at dksX0_infest_0 22 rfl rfl)
theorem dX0_infest_24 : decode cX0_infest 24 = .ok (.iconst 1, 1) := dk_4 (dk_at dksX0_infest_1 0 rfl rfl)
theorem dX0_infest_25 : decode cX0_infest 25 = .ok (.ireturn, 1) := dk_172 (dk_at dksX0_infest_1 1 rfl rfl)
theorem dX0_infest_26 : decode cX0_infest 26 = .ok (.astore 5, 2) := dk_58 5 (dk_at dksX0_infest_1 2 rfl rfl)
theorem dX0_infest_28 : decode cX0_infest 28 = .ok (.iconst 2, 1) := dk_5 (dk_at dksX0_infest_1 4 rfl rfl)
theorem dX0_infest_29 : decode cX0_infest 29 = .ok (.ireturn, 1) := dk_172 (dk_at dksX0_infest_1 5 rfl rfl)
theorem dX0_infest_30 : decode cX0_infest 30 = .ok (.iconst 0, 1) := dk_3 (dk_at dksX0_infest_1 6 rfl rfl)
theorem dX0_infest_31 : decode cX0_infest 31 = .ok (.ireturn, 1) := dk_172 (dk_at dksX0_infest_1 7 rfl rfl)
abbrev cX0_thing : ByteArray := method_7_code
def yX0_thing : MethodName := ⟨RX0, "thing", "(LVaultyard;IIII[J)I"⟩
def dkwX0_thing_1 : List UInt8 := [172, 58, 6, 6, 172, 58, 6, 7, 172, 3, 172]
abbrev dktX0_thing_1 : List UInt8 := dkwX0_thing_1 ++ []
def dkwX0_thing_0 : List UInt8 := [25, 5, 3, 42, 27, 28, 29, 21, 4, 182, 0, 30, 133, 80, 167, 0, 19, 58, 6, 4, 172, 58, 6, 5]
abbrev dktX0_thing_0 : List UInt8 := dkwX0_thing_0 ++ dktX0_thing_1
theorem dksX0_thing_0 : cX0_thing.data.toList.drop 0 = dktX0_thing_0 := by decide +kernel
theorem dksX0_thing_1 : cX0_thing.data.toList.drop 24 = dktX0_thing_1 := dk_seg dksX0_thing_0 24 rfl rfl
theorem dX0_thing_0 : decode cX0_thing 0 = .ok (.aload 5, 2) := dk_25 5 (dk_at dksX0_thing_0 0 rfl rfl)
theorem dX0_thing_2 : decode cX0_thing 2 = .ok (.iconst 0, 1) := dk_3 (dk_at dksX0_thing_0 2 rfl rfl)
theorem dX0_thing_3 : decode cX0_thing 3 = .ok (.aload_n 0, 1) := dk_42 (dk_at dksX0_thing_0 3 rfl rfl)
theorem dX0_thing_4 : decode cX0_thing 4 = .ok (.iload_n 1, 1) := dk_27 (dk_at dksX0_thing_0 4 rfl rfl)
theorem dX0_thing_5 : decode cX0_thing 5 = .ok (.iload_n 2, 1) := dk_28 (dk_at dksX0_thing_0 5 rfl rfl)
theorem dX0_thing_6 : decode cX0_thing 6 = .ok (.iload_n 3, 1) := dk_29 (dk_at dksX0_thing_0 6 rfl rfl)
theorem dX0_thing_7 : decode cX0_thing 7 = .ok (.iload 4, 2) := dk_21 4 (dk_at dksX0_thing_0 7 rfl rfl)
theorem dX0_thing_9 : decode cX0_thing 9 = .ok (.invokevirtual 30, 3) := dk_182 0 30 (dk_at dksX0_thing_0 9 rfl rfl)
theorem dX0_thing_12 : decode cX0_thing 12 = .ok (.i2l, 1) := dk_133 (dk_at dksX0_thing_0 12 rfl rfl)
theorem dX0_thing_13 : decode cX0_thing 13 = .ok (.lastore, 1) := dk_80 (dk_at dksX0_thing_0 13 rfl rfl)
theorem dX0_thing_14 : decode cX0_thing 14 = .ok (.goto 19, 3) := dk_167 0 19 (dk_at dksX0_thing_0 14 rfl rfl)
theorem dX0_thing_17 : decode cX0_thing 17 = .ok (.astore 6, 2) := dk_58 6 (dk_at dksX0_thing_0 17 rfl rfl)
theorem dX0_thing_19 : decode cX0_thing 19 = .ok (.iconst 1, 1) := dk_4 (dk_at dksX0_thing_0 19 rfl rfl)
theorem dX0_thing_20 : decode cX0_thing 20 = .ok (.ireturn, 1) := dk_172 (dk_at dksX0_thing_0 20 rfl rfl)
theorem dX0_thing_21 : decode cX0_thing 21 = .ok (.astore 6, 2) := dk_58 6 (dk_at dksX0_thing_0 21 rfl rfl)
theorem dX0_thing_23 : decode cX0_thing 23 = .ok (.iconst 2, 1) := dk_5 (dk_at dksX0_thing_0 23 rfl rfl)
theorem dX0_thing_24 : decode cX0_thing 24 = .ok (.ireturn, 1) := dk_172 (dk_at dksX0_thing_1 0 rfl rfl)
theorem dX0_thing_25 : decode cX0_thing 25 = .ok (.astore 6, 2) := dk_58 6 (dk_at dksX0_thing_1 1 rfl rfl)
theorem dX0_thing_27 : decode cX0_thing 27 = .ok (.iconst 3, 1) := dk_6 (dk_at dksX0_thing_1 3 rfl rfl)
theorem dX0_thing_28 : decode cX0_thing 28 = .ok (.ireturn, 1) := dk_172 (dk_at dksX0_thing_1 4 rfl rfl)
theorem dX0_thing_29 : decode cX0_thing 29 = .ok (.astore 6, 2) := dk_58 6 (dk_at dksX0_thing_1 5 rfl rfl)
theorem dX0_thing_31 : decode cX0_thing 31 = .ok (.iconst 4, 1) := dk_7 (dk_at dksX0_thing_1 7 rfl rfl)
theorem dX0_thing_32 : decode cX0_thing 32 = .ok (.ireturn, 1) := dk_172 (dk_at dksX0_thing_1 8 rfl rfl)
theorem dX0_thing_33 : decode cX0_thing 33 = .ok (.iconst 0, 1) := dk_3 (dk_at dksX0_thing_1 9 rfl rfl)
theorem dX0_thing_34 : decode cX0_thing 34 = .ok (.ireturn, 1) := dk_172 (dk_at dksX0_thing_1 10 rfl rfl)
abbrev cX0_part : ByteArray := method_8_code
def yX0_part : MethodName := ⟨RX0, "part", "(LVaultyard;III[J)I"⟩
def dkwX0_part_1 : List UInt8 := [58, 5, 6, 172, 58, 5, 7, 172, 3, 172]
abbrev dktX0_part_1 : List UInt8 := dkwX0_part_1 ++ []
def dkwX0_part_0 : List UInt8 := [25, 4, 3, 42, 27, 28, 29, 182, 0, 36, 133, 80, 167, 0, 19, 58, 5, 4, 172, 58, 5, 5, 172]
abbrev dktX0_part_0 : List UInt8 := dkwX0_part_0 ++ dktX0_part_1
theorem dksX0_part_0 : cX0_part.data.toList.drop 0 = dktX0_part_0 := by decide +kernel
theorem dksX0_part_1 : cX0_part.data.toList.drop 23 = dktX0_part_1 := dk_seg dksX0_part_0 23 rfl rfl
theorem dX0_part_0 : decode cX0_part 0 = .ok (.aload 4, 2) := dk_25 4 (dk_at dksX0_part_0 0 rfl rfl)
theorem dX0_part_2 : decode cX0_part 2 = .ok (.iconst 0, 1) := dk_3 (dk_at dksX0_part_0 2 rfl rfl)
theorem dX0_part_3 : decode cX0_part 3 = .ok (.aload_n 0, 1) := dk_42 (dk_at dksX0_part_0 3 rfl rfl)
theorem dX0_part_4 : decode cX0_part 4 = .ok (.iload_n 1, 1) := dk_27 (dk_at dksX0_part_0 4 rfl rfl)
theorem dX0_part_5 : decode cX0_part 5 = .ok (.iload_n 2, 1) := dk_28 (dk_at dksX0_part_0 5 rfl rfl)
theorem dX0_part_6 : decode cX0_part 6 = .ok (.iload_n 3, 1) := dk_29 (dk_at dksX0_part_0 6 rfl rfl)
theorem dX0_part_7 : decode cX0_part 7 = .ok (.invokevirtual 36, 3) := dk_182 0 36 (dk_at dksX0_part_0 7 rfl rfl)
theorem dX0_part_10 : decode cX0_part 10 = .ok (.i2l, 1) := dk_133 (dk_at dksX0_part_0 10 rfl rfl)
theorem dX0_part_11 : decode cX0_part 11 = .ok (.lastore, 1) := dk_80 (dk_at dksX0_part_0 11 rfl rfl)
theorem dX0_part_12 : decode cX0_part 12 = .ok (.goto 19, 3) := dk_167 0 19 (dk_at dksX0_part_0 12 rfl rfl)
theorem dX0_part_15 : decode cX0_part 15 = .ok (.astore 5, 2) := dk_58 5 (dk_at dksX0_part_0 15 rfl rfl)
theorem dX0_part_17 : decode cX0_part 17 = .ok (.iconst 1, 1) := dk_4 (dk_at dksX0_part_0 17 rfl rfl)
theorem dX0_part_18 : decode cX0_part 18 = .ok (.ireturn, 1) := dk_172 (dk_at dksX0_part_0 18 rfl rfl)
theorem dX0_part_19 : decode cX0_part 19 = .ok (.astore 5, 2) := dk_58 5 (dk_at dksX0_part_0 19 rfl rfl)
theorem dX0_part_21 : decode cX0_part 21 = .ok (.iconst 2, 1) := dk_5 (dk_at dksX0_part_0 21 rfl rfl)
theorem dX0_part_22 : decode cX0_part 22 = .ok (.ireturn, 1) := dk_172 (dk_at dksX0_part_0 22 rfl rfl)
theorem dX0_part_23 : decode cX0_part 23 = .ok (.astore 5, 2) := dk_58 5 (dk_at dksX0_part_1 0 rfl rfl)
theorem dX0_part_25 : decode cX0_part 25 = .ok (.iconst 3, 1) := dk_6 (dk_at dksX0_part_1 2 rfl rfl)
theorem dX0_part_26 : decode cX0_part 26 = .ok (.ireturn, 1) := dk_172 (dk_at dksX0_part_1 3 rfl rfl)
theorem dX0_part_27 : decode cX0_part 27 = .ok (.astore 5, 2) := dk_58 5 (dk_at dksX0_part_1 4 rfl rfl)
theorem dX0_part_29 : decode cX0_part 29 = .ok (.iconst 4, 1) := dk_7 (dk_at dksX0_part_1 6 rfl rfl)
theorem dX0_part_30 : decode cX0_part 30 = .ok (.ireturn, 1) := dk_172 (dk_at dksX0_part_1 7 rfl rfl)
theorem dX0_part_31 : decode cX0_part 31 = .ok (.iconst 0, 1) := dk_3 (dk_at dksX0_part_1 8 rfl rfl)
theorem dX0_part_32 : decode cX0_part 32 = .ok (.ireturn, 1) := dk_172 (dk_at dksX0_part_1 9 rfl rfl)
abbrev cX0_move : ByteArray := method_9_code
def yX0_move : MethodName := ⟨RX0, "move", "(LVaultyard;II[J)I"⟩
def dkwX0_move_0 : List UInt8 := [45, 3, 42, 27, 28, 182, 0, 39, 133, 80, 167, 0, 11, 58, 4, 4, 172, 58, 4, 5, 172, 3, 172]
abbrev dktX0_move_0 : List UInt8 := dkwX0_move_0 ++ []
theorem dksX0_move_0 : cX0_move.data.toList.drop 0 = dktX0_move_0 := by decide +kernel
theorem dX0_move_0 : decode cX0_move 0 = .ok (.aload_n 3, 1) := dk_45 (dk_at dksX0_move_0 0 rfl rfl)
theorem dX0_move_1 : decode cX0_move 1 = .ok (.iconst 0, 1) := dk_3 (dk_at dksX0_move_0 1 rfl rfl)
theorem dX0_move_2 : decode cX0_move 2 = .ok (.aload_n 0, 1) := dk_42 (dk_at dksX0_move_0 2 rfl rfl)
theorem dX0_move_3 : decode cX0_move 3 = .ok (.iload_n 1, 1) := dk_27 (dk_at dksX0_move_0 3 rfl rfl)
theorem dX0_move_4 : decode cX0_move 4 = .ok (.iload_n 2, 1) := dk_28 (dk_at dksX0_move_0 4 rfl rfl)
theorem dX0_move_5 : decode cX0_move 5 = .ok (.invokevirtual 39, 3) := dk_182 0 39 (dk_at dksX0_move_0 5 rfl rfl)
theorem dX0_move_8 : decode cX0_move 8 = .ok (.i2l, 1) := dk_133 (dk_at dksX0_move_0 8 rfl rfl)
theorem dX0_move_9 : decode cX0_move 9 = .ok (.lastore, 1) := dk_80 (dk_at dksX0_move_0 9 rfl rfl)
theorem dX0_move_10 : decode cX0_move 10 = .ok (.goto 11, 3) := dk_167 0 11 (dk_at dksX0_move_0 10 rfl rfl)
theorem dX0_move_13 : decode cX0_move 13 = .ok (.astore 4, 2) := dk_58 4 (dk_at dksX0_move_0 13 rfl rfl)
theorem dX0_move_15 : decode cX0_move 15 = .ok (.iconst 1, 1) := dk_4 (dk_at dksX0_move_0 15 rfl rfl)
theorem dX0_move_16 : decode cX0_move 16 = .ok (.ireturn, 1) := dk_172 (dk_at dksX0_move_0 16 rfl rfl)
theorem dX0_move_17 : decode cX0_move 17 = .ok (.astore 4, 2) := dk_58 4 (dk_at dksX0_move_0 17 rfl rfl)
theorem dX0_move_19 : decode cX0_move 19 = .ok (.iconst 2, 1) := dk_5 (dk_at dksX0_move_0 19 rfl rfl)
theorem dX0_move_20 : decode cX0_move 20 = .ok (.ireturn, 1) := dk_172 (dk_at dksX0_move_0 20 rfl rfl)
theorem dX0_move_21 : decode cX0_move 21 = .ok (.iconst 0, 1) := dk_3 (dk_at dksX0_move_0 21 rfl rfl)
theorem dX0_move_22 : decode cX0_move 22 = .ok (.ireturn, 1) := dk_172 (dk_at dksX0_move_0 22 rfl rfl)
abbrev cX0_place : ByteArray := method_10_code
def yX0_place : MethodName := ⟨RX0, "place", "(LVaultyard;I[J)I"⟩
def dkwX0_place_0 : List UInt8 := [44, 3, 42, 27, 182, 0, 43, 133, 80, 167, 0, 6, 78, 4, 172, 3, 172]
abbrev dktX0_place_0 : List UInt8 := dkwX0_place_0 ++ []
theorem dksX0_place_0 : cX0_place.data.toList.drop 0 = dktX0_place_0 := by decide +kernel
theorem dX0_place_0 : decode cX0_place 0 = .ok (.aload_n 2, 1) := dk_44 (dk_at dksX0_place_0 0 rfl rfl)
theorem dX0_place_1 : decode cX0_place 1 = .ok (.iconst 0, 1) := dk_3 (dk_at dksX0_place_0 1 rfl rfl)
theorem dX0_place_2 : decode cX0_place 2 = .ok (.aload_n 0, 1) := dk_42 (dk_at dksX0_place_0 2 rfl rfl)
theorem dX0_place_3 : decode cX0_place 3 = .ok (.iload_n 1, 1) := dk_27 (dk_at dksX0_place_0 3 rfl rfl)
theorem dX0_place_4 : decode cX0_place 4 = .ok (.invokevirtual 43, 3) := dk_182 0 43 (dk_at dksX0_place_0 4 rfl rfl)
theorem dX0_place_7 : decode cX0_place 7 = .ok (.i2l, 1) := dk_133 (dk_at dksX0_place_0 7 rfl rfl)
theorem dX0_place_8 : decode cX0_place 8 = .ok (.lastore, 1) := dk_80 (dk_at dksX0_place_0 8 rfl rfl)
theorem dX0_place_9 : decode cX0_place 9 = .ok (.goto 6, 3) := dk_167 0 6 (dk_at dksX0_place_0 9 rfl rfl)
theorem dX0_place_12 : decode cX0_place 12 = .ok (.astore_n 3, 1) := dk_78 (dk_at dksX0_place_0 12 rfl rfl)
theorem dX0_place_13 : decode cX0_place 13 = .ok (.iconst 1, 1) := dk_4 (dk_at dksX0_place_0 13 rfl rfl)
theorem dX0_place_14 : decode cX0_place 14 = .ok (.ireturn, 1) := dk_172 (dk_at dksX0_place_0 14 rfl rfl)
theorem dX0_place_15 : decode cX0_place 15 = .ok (.iconst 0, 1) := dk_3 (dk_at dksX0_place_0 15 rfl rfl)
theorem dX0_place_16 : decode cX0_place 16 = .ok (.ireturn, 1) := dk_172 (dk_at dksX0_place_0 16 rfl rfl)
abbrev cX0_roomOf : ByteArray := method_11_code
def yX0_roomOf : MethodName := ⟨RX0, "roomOf", "(LVaultyard;I[J)I"⟩
def dkwX0_roomOf_0 : List UInt8 := [44, 3, 42, 27, 182, 0, 47, 133, 80, 167, 0, 9, 78, 4, 172, 78, 5, 172, 3, 172]
abbrev dktX0_roomOf_0 : List UInt8 := dkwX0_roomOf_0 ++ []
theorem dksX0_roomOf_0 : cX0_roomOf.data.toList.drop 0 = dktX0_roomOf_0 := by decide +kernel
theorem dX0_roomOf_0 : decode cX0_roomOf 0 = .ok (.aload_n 2, 1) := dk_44 (dk_at dksX0_roomOf_0 0 rfl rfl)
theorem dX0_roomOf_1 : decode cX0_roomOf 1 = .ok (.iconst 0, 1) := dk_3 (dk_at dksX0_roomOf_0 1 rfl rfl)
theorem dX0_roomOf_2 : decode cX0_roomOf 2 = .ok (.aload_n 0, 1) := dk_42 (dk_at dksX0_roomOf_0 2 rfl rfl)
theorem dX0_roomOf_3 : decode cX0_roomOf 3 = .ok (.iload_n 1, 1) := dk_27 (dk_at dksX0_roomOf_0 3 rfl rfl)
theorem dX0_roomOf_4 : decode cX0_roomOf 4 = .ok (.invokevirtual 47, 3) := dk_182 0 47 (dk_at dksX0_roomOf_0 4 rfl rfl)
theorem dX0_roomOf_7 : decode cX0_roomOf 7 = .ok (.i2l, 1) := dk_133 (dk_at dksX0_roomOf_0 7 rfl rfl)
theorem dX0_roomOf_8 : decode cX0_roomOf 8 = .ok (.lastore, 1) := dk_80 (dk_at dksX0_roomOf_0 8 rfl rfl)
theorem dX0_roomOf_9 : decode cX0_roomOf 9 = .ok (.goto 9, 3) := dk_167 0 9 (dk_at dksX0_roomOf_0 9 rfl rfl)
theorem dX0_roomOf_12 : decode cX0_roomOf 12 = .ok (.astore_n 3, 1) := dk_78 (dk_at dksX0_roomOf_0 12 rfl rfl)
theorem dX0_roomOf_13 : decode cX0_roomOf 13 = .ok (.iconst 1, 1) := dk_4 (dk_at dksX0_roomOf_0 13 rfl rfl)
theorem dX0_roomOf_14 : decode cX0_roomOf 14 = .ok (.ireturn, 1) := dk_172 (dk_at dksX0_roomOf_0 14 rfl rfl)
theorem dX0_roomOf_15 : decode cX0_roomOf 15 = .ok (.astore_n 3, 1) := dk_78 (dk_at dksX0_roomOf_0 15 rfl rfl)
theorem dX0_roomOf_16 : decode cX0_roomOf 16 = .ok (.iconst 2, 1) := dk_5 (dk_at dksX0_roomOf_0 16 rfl rfl)
theorem dX0_roomOf_17 : decode cX0_roomOf 17 = .ok (.ireturn, 1) := dk_172 (dk_at dksX0_roomOf_0 17 rfl rfl)
theorem dX0_roomOf_18 : decode cX0_roomOf 18 = .ok (.iconst 0, 1) := dk_3 (dk_at dksX0_roomOf_0 18 rfl rfl)
theorem dX0_roomOf_19 : decode cX0_roomOf 19 = .ok (.ireturn, 1) := dk_172 (dk_at dksX0_roomOf_0 19 rfl rfl)
abbrev cX0_day : ByteArray := method_12_code
def yX0_day : MethodName := ⟨RX0, "day", "(LVaultyard;I[J)I"⟩
def dkwX0_day_0 : List UInt8 := [44, 3, 42, 27, 182, 0, 53, 133, 80, 167, 0, 9, 78, 4, 172, 78, 5, 172, 3, 172]
abbrev dktX0_day_0 : List UInt8 := dkwX0_day_0 ++ []
theorem dksX0_day_0 : cX0_day.data.toList.drop 0 = dktX0_day_0 := by decide +kernel
theorem dX0_day_0 : decode cX0_day 0 = .ok (.aload_n 2, 1) := dk_44 (dk_at dksX0_day_0 0 rfl rfl)
theorem dX0_day_1 : decode cX0_day 1 = .ok (.iconst 0, 1) := dk_3 (dk_at dksX0_day_0 1 rfl rfl)
theorem dX0_day_2 : decode cX0_day 2 = .ok (.aload_n 0, 1) := dk_42 (dk_at dksX0_day_0 2 rfl rfl)
theorem dX0_day_3 : decode cX0_day 3 = .ok (.iload_n 1, 1) := dk_27 (dk_at dksX0_day_0 3 rfl rfl)
theorem dX0_day_4 : decode cX0_day 4 = .ok (.invokevirtual 53, 3) := dk_182 0 53 (dk_at dksX0_day_0 4 rfl rfl)
theorem dX0_day_7 : decode cX0_day 7 = .ok (.i2l, 1) := dk_133 (dk_at dksX0_day_0 7 rfl rfl)
theorem dX0_day_8 : decode cX0_day 8 = .ok (.lastore, 1) := dk_80 (dk_at dksX0_day_0 8 rfl rfl)
theorem dX0_day_9 : decode cX0_day 9 = .ok (.goto 9, 3) := dk_167 0 9 (dk_at dksX0_day_0 9 rfl rfl)
theorem dX0_day_12 : decode cX0_day 12 = .ok (.astore_n 3, 1) := dk_78 (dk_at dksX0_day_0 12 rfl rfl)
theorem dX0_day_13 : decode cX0_day 13 = .ok (.iconst 1, 1) := dk_4 (dk_at dksX0_day_0 13 rfl rfl)
theorem dX0_day_14 : decode cX0_day 14 = .ok (.ireturn, 1) := dk_172 (dk_at dksX0_day_0 14 rfl rfl)
theorem dX0_day_15 : decode cX0_day 15 = .ok (.astore_n 3, 1) := dk_78 (dk_at dksX0_day_0 15 rfl rfl)
theorem dX0_day_16 : decode cX0_day 16 = .ok (.iconst 2, 1) := dk_5 (dk_at dksX0_day_0 16 rfl rfl)
theorem dX0_day_17 : decode cX0_day 17 = .ok (.ireturn, 1) := dk_172 (dk_at dksX0_day_0 17 rfl rfl)
theorem dX0_day_18 : decode cX0_day 18 = .ok (.iconst 0, 1) := dk_3 (dk_at dksX0_day_0 18 rfl rfl)
theorem dX0_day_19 : decode cX0_day 19 = .ok (.ireturn, 1) := dk_172 (dk_at dksX0_day_0 19 rfl rfl)
abbrev cX0_light : ByteArray := method_13_code
def yX0_light : MethodName := ⟨RX0, "light", "(LVaultyard;I[J)I"⟩
def dkwX0_light_0 : List UInt8 := [44, 3, 42, 27, 182, 0, 56, 133, 80, 167, 0, 6, 78, 4, 172, 3, 172]
abbrev dktX0_light_0 : List UInt8 := dkwX0_light_0 ++ []
theorem dksX0_light_0 : cX0_light.data.toList.drop 0 = dktX0_light_0 := by decide +kernel
theorem dX0_light_0 : decode cX0_light 0 = .ok (.aload_n 2, 1) := dk_44 (dk_at dksX0_light_0 0 rfl rfl)
theorem dX0_light_1 : decode cX0_light 1 = .ok (.iconst 0, 1) := dk_3 (dk_at dksX0_light_0 1 rfl rfl)
theorem dX0_light_2 : decode cX0_light 2 = .ok (.aload_n 0, 1) := dk_42 (dk_at dksX0_light_0 2 rfl rfl)
theorem dX0_light_3 : decode cX0_light 3 = .ok (.iload_n 1, 1) := dk_27 (dk_at dksX0_light_0 3 rfl rfl)
theorem dX0_light_4 : decode cX0_light 4 = .ok (.invokevirtual 56, 3) := dk_182 0 56 (dk_at dksX0_light_0 4 rfl rfl)
theorem dX0_light_7 : decode cX0_light 7 = .ok (.i2l, 1) := dk_133 (dk_at dksX0_light_0 7 rfl rfl)
theorem dX0_light_8 : decode cX0_light 8 = .ok (.lastore, 1) := dk_80 (dk_at dksX0_light_0 8 rfl rfl)
theorem dX0_light_9 : decode cX0_light 9 = .ok (.goto 6, 3) := dk_167 0 6 (dk_at dksX0_light_0 9 rfl rfl)
theorem dX0_light_12 : decode cX0_light 12 = .ok (.astore_n 3, 1) := dk_78 (dk_at dksX0_light_0 12 rfl rfl)
theorem dX0_light_13 : decode cX0_light 13 = .ok (.iconst 1, 1) := dk_4 (dk_at dksX0_light_0 13 rfl rfl)
theorem dX0_light_14 : decode cX0_light 14 = .ok (.ireturn, 1) := dk_172 (dk_at dksX0_light_0 14 rfl rfl)
theorem dX0_light_15 : decode cX0_light 15 = .ok (.iconst 0, 1) := dk_3 (dk_at dksX0_light_0 15 rfl rfl)
theorem dX0_light_16 : decode cX0_light 16 = .ok (.ireturn, 1) := dk_172 (dk_at dksX0_light_0 16 rfl rfl)
abbrev cX0_damage : ByteArray := method_14_code
def yX0_damage : MethodName := ⟨RX0, "damage", "(LVaultyard;I[J)I"⟩
def dkwX0_damage_0 : List UInt8 := [44, 3, 42, 27, 182, 0, 59, 133, 80, 167, 0, 6, 78, 4, 172, 3, 172]
abbrev dktX0_damage_0 : List UInt8 := dkwX0_damage_0 ++ []
theorem dksX0_damage_0 : cX0_damage.data.toList.drop 0 = dktX0_damage_0 := by decide +kernel
theorem dX0_damage_0 : decode cX0_damage 0 = .ok (.aload_n 2, 1) := dk_44 (dk_at dksX0_damage_0 0 rfl rfl)
theorem dX0_damage_1 : decode cX0_damage 1 = .ok (.iconst 0, 1) := dk_3 (dk_at dksX0_damage_0 1 rfl rfl)
theorem dX0_damage_2 : decode cX0_damage 2 = .ok (.aload_n 0, 1) := dk_42 (dk_at dksX0_damage_0 2 rfl rfl)
theorem dX0_damage_3 : decode cX0_damage 3 = .ok (.iload_n 1, 1) := dk_27 (dk_at dksX0_damage_0 3 rfl rfl)
theorem dX0_damage_4 : decode cX0_damage 4 = .ok (.invokevirtual 59, 3) := dk_182 0 59 (dk_at dksX0_damage_0 4 rfl rfl)
theorem dX0_damage_7 : decode cX0_damage 7 = .ok (.i2l, 1) := dk_133 (dk_at dksX0_damage_0 7 rfl rfl)
theorem dX0_damage_8 : decode cX0_damage 8 = .ok (.lastore, 1) := dk_80 (dk_at dksX0_damage_0 8 rfl rfl)
theorem dX0_damage_9 : decode cX0_damage 9 = .ok (.goto 6, 3) := dk_167 0 6 (dk_at dksX0_damage_0 9 rfl rfl)
theorem dX0_damage_12 : decode cX0_damage 12 = .ok (.astore_n 3, 1) := dk_78 (dk_at dksX0_damage_0 12 rfl rfl)
theorem dX0_damage_13 : decode cX0_damage 13 = .ok (.iconst 1, 1) := dk_4 (dk_at dksX0_damage_0 13 rfl rfl)
theorem dX0_damage_14 : decode cX0_damage 14 = .ok (.ireturn, 1) := dk_172 (dk_at dksX0_damage_0 14 rfl rfl)
theorem dX0_damage_15 : decode cX0_damage 15 = .ok (.iconst 0, 1) := dk_3 (dk_at dksX0_damage_0 15 rfl rfl)
theorem dX0_damage_16 : decode cX0_damage 16 = .ok (.ireturn, 1) := dk_172 (dk_at dksX0_damage_0 16 rfl rfl)
abbrev cX0_journal : ByteArray := method_15_code
def yX0_journal : MethodName := ⟨RX0, "journal", "(LVaultyard;I[J)I"⟩
def dkwX0_journal_0 : List UInt8 := [44, 3, 42, 27, 182, 0, 62, 133, 80, 167, 0, 6, 78, 4, 172, 3, 172]
abbrev dktX0_journal_0 : List UInt8 := dkwX0_journal_0 ++ []
theorem dksX0_journal_0 : cX0_journal.data.toList.drop 0 = dktX0_journal_0 := by decide +kernel
theorem dX0_journal_0 : decode cX0_journal 0 = .ok (.aload_n 2, 1) := dk_44 (dk_at dksX0_journal_0 0 rfl rfl)
theorem dX0_journal_1 : decode cX0_journal 1 = .ok (.iconst 0, 1) := dk_3 (dk_at dksX0_journal_0 1 rfl rfl)
theorem dX0_journal_2 : decode cX0_journal 2 = .ok (.aload_n 0, 1) := dk_42 (dk_at dksX0_journal_0 2 rfl rfl)
theorem dX0_journal_3 : decode cX0_journal 3 = .ok (.iload_n 1, 1) := dk_27 (dk_at dksX0_journal_0 3 rfl rfl)
theorem dX0_journal_4 : decode cX0_journal 4 = .ok (.invokevirtual 62, 3) := dk_182 0 62 (dk_at dksX0_journal_0 4 rfl rfl)
theorem dX0_journal_7 : decode cX0_journal 7 = .ok (.i2l, 1) := dk_133 (dk_at dksX0_journal_0 7 rfl rfl)
theorem dX0_journal_8 : decode cX0_journal 8 = .ok (.lastore, 1) := dk_80 (dk_at dksX0_journal_0 8 rfl rfl)
theorem dX0_journal_9 : decode cX0_journal 9 = .ok (.goto 6, 3) := dk_167 0 6 (dk_at dksX0_journal_0 9 rfl rfl)
theorem dX0_journal_12 : decode cX0_journal 12 = .ok (.astore_n 3, 1) := dk_78 (dk_at dksX0_journal_0 12 rfl rfl)
theorem dX0_journal_13 : decode cX0_journal 13 = .ok (.iconst 1, 1) := dk_4 (dk_at dksX0_journal_0 13 rfl rfl)
theorem dX0_journal_14 : decode cX0_journal 14 = .ok (.ireturn, 1) := dk_172 (dk_at dksX0_journal_0 14 rfl rfl)
theorem dX0_journal_15 : decode cX0_journal 15 = .ok (.iconst 0, 1) := dk_3 (dk_at dksX0_journal_0 15 rfl rfl)
theorem dX0_journal_16 : decode cX0_journal 16 = .ok (.ireturn, 1) := dk_172 (dk_at dksX0_journal_0 16 rfl rfl)
abbrev cX0_entry : ByteArray := method_16_code
def yX0_entry : MethodName := ⟨RX0, "entry", "(LVaultyard;IIC[J)I"⟩
def dkwX0_entry_1 : List UInt8 := [58, 5, 6, 172, 3, 172]
abbrev dktX0_entry_1 : List UInt8 := dkwX0_entry_1 ++ []
def dkwX0_entry_0 : List UInt8 := [25, 4, 3, 42, 27, 28, 29, 182, 0, 65, 133, 80, 167, 0, 15, 58, 5, 4, 172, 58, 5, 5, 172]
abbrev dktX0_entry_0 : List UInt8 := dkwX0_entry_0 ++ dktX0_entry_1
theorem dksX0_entry_0 : cX0_entry.data.toList.drop 0 = dktX0_entry_0 := by decide +kernel
theorem dksX0_entry_1 : cX0_entry.data.toList.drop 23 = dktX0_entry_1 := dk_seg dksX0_entry_0 23 rfl rfl
theorem dX0_entry_0 : decode cX0_entry 0 = .ok (.aload 4, 2) := dk_25 4 (dk_at dksX0_entry_0 0 rfl rfl)
theorem dX0_entry_2 : decode cX0_entry 2 = .ok (.iconst 0, 1) := dk_3 (dk_at dksX0_entry_0 2 rfl rfl)
theorem dX0_entry_3 : decode cX0_entry 3 = .ok (.aload_n 0, 1) := dk_42 (dk_at dksX0_entry_0 3 rfl rfl)
theorem dX0_entry_4 : decode cX0_entry 4 = .ok (.iload_n 1, 1) := dk_27 (dk_at dksX0_entry_0 4 rfl rfl)
theorem dX0_entry_5 : decode cX0_entry 5 = .ok (.iload_n 2, 1) := dk_28 (dk_at dksX0_entry_0 5 rfl rfl)
theorem dX0_entry_6 : decode cX0_entry 6 = .ok (.iload_n 3, 1) := dk_29 (dk_at dksX0_entry_0 6 rfl rfl)
theorem dX0_entry_7 : decode cX0_entry 7 = .ok (.invokevirtual 65, 3) := dk_182 0 65 (dk_at dksX0_entry_0 7 rfl rfl)
theorem dX0_entry_10 : decode cX0_entry 10 = .ok (.i2l, 1) := dk_133 (dk_at dksX0_entry_0 10 rfl rfl)
theorem dX0_entry_11 : decode cX0_entry 11 = .ok (.lastore, 1) := dk_80 (dk_at dksX0_entry_0 11 rfl rfl)
theorem dX0_entry_12 : decode cX0_entry 12 = .ok (.goto 15, 3) := dk_167 0 15 (dk_at dksX0_entry_0 12 rfl rfl)
theorem dX0_entry_15 : decode cX0_entry 15 = .ok (.astore 5, 2) := dk_58 5 (dk_at dksX0_entry_0 15 rfl rfl)
theorem dX0_entry_17 : decode cX0_entry 17 = .ok (.iconst 1, 1) := dk_4 (dk_at dksX0_entry_0 17 rfl rfl)
theorem dX0_entry_18 : decode cX0_entry 18 = .ok (.ireturn, 1) := dk_172 (dk_at dksX0_entry_0 18 rfl rfl)
theorem dX0_entry_19 : decode cX0_entry 19 = .ok (.astore 5, 2) := dk_58 5 (dk_at dksX0_entry_0 19 rfl rfl)
theorem dX0_entry_21 : decode cX0_entry 21 = .ok (.iconst 2, 1) := dk_5 (dk_at dksX0_entry_0 21 rfl rfl)
theorem dX0_entry_22 : decode cX0_entry 22 = .ok (.ireturn, 1) := dk_172 (dk_at dksX0_entry_0 22 rfl rfl)
theorem dX0_entry_23 : decode cX0_entry 23 = .ok (.astore 5, 2) := dk_58 5 (dk_at dksX0_entry_1 0 rfl rfl)
theorem dX0_entry_25 : decode cX0_entry 25 = .ok (.iconst 3, 1) := dk_6 (dk_at dksX0_entry_1 2 rfl rfl)
theorem dX0_entry_26 : decode cX0_entry 26 = .ok (.ireturn, 1) := dk_172 (dk_at dksX0_entry_1 3 rfl rfl)
theorem dX0_entry_27 : decode cX0_entry 27 = .ok (.iconst 0, 1) := dk_3 (dk_at dksX0_entry_1 4 rfl rfl)
theorem dX0_entry_28 : decode cX0_entry 28 = .ok (.ireturn, 1) := dk_172 (dk_at dksX0_entry_1 5 rfl rfl)
abbrev cX0_visitors : ByteArray := method_17_code
def yX0_visitors : MethodName := ⟨RX0, "visitors", "(LVaultyard;II[J)I"⟩
def dkwX0_visitors_0 : List UInt8 := [45, 3, 42, 27, 28, 182, 0, 69, 133, 80, 167, 0, 11, 58, 4, 4, 172, 58, 4, 5, 172, 3, 172]
abbrev dktX0_visitors_0 : List UInt8 := dkwX0_visitors_0 ++ []
theorem dksX0_visitors_0 : cX0_visitors.data.toList.drop 0 = dktX0_visitors_0 := by decide +kernel
theorem dX0_visitors_0 : decode cX0_visitors 0 = .ok (.aload_n 3, 1) := dk_45 (dk_at dksX0_visitors_0 0 rfl rfl)
theorem dX0_visitors_1 : decode cX0_visitors 1 = .ok (.iconst 0, 1) := dk_3 (dk_at dksX0_visitors_0 1 rfl rfl)
theorem dX0_visitors_2 : decode cX0_visitors 2 = .ok (.aload_n 0, 1) := dk_42 (dk_at dksX0_visitors_0 2 rfl rfl)
theorem dX0_visitors_3 : decode cX0_visitors 3 = .ok (.iload_n 1, 1) := dk_27 (dk_at dksX0_visitors_0 3 rfl rfl)
theorem dX0_visitors_4 : decode cX0_visitors 4 = .ok (.iload_n 2, 1) := dk_28 (dk_at dksX0_visitors_0 4 rfl rfl)
theorem dX0_visitors_5 : decode cX0_visitors 5 = .ok (.invokevirtual 69, 3) := dk_182 0 69 (dk_at dksX0_visitors_0 5 rfl rfl)
theorem dX0_visitors_8 : decode cX0_visitors 8 = .ok (.i2l, 1) := dk_133 (dk_at dksX0_visitors_0 8 rfl rfl)
theorem dX0_visitors_9 : decode cX0_visitors 9 = .ok (.lastore, 1) := dk_80 (dk_at dksX0_visitors_0 9 rfl rfl)
theorem dX0_visitors_10 : decode cX0_visitors 10 = .ok (.goto 11, 3) := dk_167 0 11 (dk_at dksX0_visitors_0 10 rfl rfl)
theorem dX0_visitors_13 : decode cX0_visitors 13 = .ok (.astore 4, 2) := dk_58 4 (dk_at dksX0_visitors_0 13 rfl rfl)
theorem dX0_visitors_15 : decode cX0_visitors 15 = .ok (.iconst 1, 1) := dk_4 (dk_at dksX0_visitors_0 15 rfl rfl)
theorem dX0_visitors_16 : decode cX0_visitors 16 = .ok (.ireturn, 1) := dk_172 (dk_at dksX0_visitors_0 16 rfl rfl)
theorem dX0_visitors_17 : decode cX0_visitors 17 = .ok (.astore 4, 2) := dk_58 4 (dk_at dksX0_visitors_0 17 rfl rfl)
theorem dX0_visitors_19 : decode cX0_visitors 19 = .ok (.iconst 2, 1) := dk_5 (dk_at dksX0_visitors_0 19 rfl rfl)
theorem dX0_visitors_20 : decode cX0_visitors 20 = .ok (.ireturn, 1) := dk_172 (dk_at dksX0_visitors_0 20 rfl rfl)
theorem dX0_visitors_21 : decode cX0_visitors 21 = .ok (.iconst 0, 1) := dk_3 (dk_at dksX0_visitors_0 21 rfl rfl)
theorem dX0_visitors_22 : decode cX0_visitors 22 = .ok (.ireturn, 1) := dk_172 (dk_at dksX0_visitors_0 22 rfl rfl)
abbrev cX0_crowd : ByteArray := method_18_code
def yX0_crowd : MethodName := ⟨RX0, "crowd", "(LVaultyard;II[J)I"⟩
def dkwX0_crowd_0 : List UInt8 := [45, 3, 42, 27, 28, 182, 0, 72, 133, 80, 167, 0, 11, 58, 4, 4, 172, 58, 4, 5, 172, 3, 172]
abbrev dktX0_crowd_0 : List UInt8 := dkwX0_crowd_0 ++ []
theorem dksX0_crowd_0 : cX0_crowd.data.toList.drop 0 = dktX0_crowd_0 := by decide +kernel
theorem dX0_crowd_0 : decode cX0_crowd 0 = .ok (.aload_n 3, 1) := dk_45 (dk_at dksX0_crowd_0 0 rfl rfl)
theorem dX0_crowd_1 : decode cX0_crowd 1 = .ok (.iconst 0, 1) := dk_3 (dk_at dksX0_crowd_0 1 rfl rfl)
theorem dX0_crowd_2 : decode cX0_crowd 2 = .ok (.aload_n 0, 1) := dk_42 (dk_at dksX0_crowd_0 2 rfl rfl)
theorem dX0_crowd_3 : decode cX0_crowd 3 = .ok (.iload_n 1, 1) := dk_27 (dk_at dksX0_crowd_0 3 rfl rfl)
theorem dX0_crowd_4 : decode cX0_crowd 4 = .ok (.iload_n 2, 1) := dk_28 (dk_at dksX0_crowd_0 4 rfl rfl)
theorem dX0_crowd_5 : decode cX0_crowd 5 = .ok (.invokevirtual 72, 3) := dk_182 0 72 (dk_at dksX0_crowd_0 5 rfl rfl)
theorem dX0_crowd_8 : decode cX0_crowd 8 = .ok (.i2l, 1) := dk_133 (dk_at dksX0_crowd_0 8 rfl rfl)
theorem dX0_crowd_9 : decode cX0_crowd 9 = .ok (.lastore, 1) := dk_80 (dk_at dksX0_crowd_0 9 rfl rfl)
theorem dX0_crowd_10 : decode cX0_crowd 10 = .ok (.goto 11, 3) := dk_167 0 11 (dk_at dksX0_crowd_0 10 rfl rfl)
theorem dX0_crowd_13 : decode cX0_crowd 13 = .ok (.astore 4, 2) := dk_58 4 (dk_at dksX0_crowd_0 13 rfl rfl)
theorem dX0_crowd_15 : decode cX0_crowd 15 = .ok (.iconst 1, 1) := dk_4 (dk_at dksX0_crowd_0 15 rfl rfl)
theorem dX0_crowd_16 : decode cX0_crowd 16 = .ok (.ireturn, 1) := dk_172 (dk_at dksX0_crowd_0 16 rfl rfl)
theorem dX0_crowd_17 : decode cX0_crowd 17 = .ok (.astore 4, 2) := dk_58 4 (dk_at dksX0_crowd_0 17 rfl rfl)
theorem dX0_crowd_19 : decode cX0_crowd 19 = .ok (.iconst 2, 1) := dk_5 (dk_at dksX0_crowd_0 19 rfl rfl)
theorem dX0_crowd_20 : decode cX0_crowd 20 = .ok (.ireturn, 1) := dk_172 (dk_at dksX0_crowd_0 20 rfl rfl)
theorem dX0_crowd_21 : decode cX0_crowd 21 = .ok (.iconst 0, 1) := dk_3 (dk_at dksX0_crowd_0 21 rfl rfl)
theorem dX0_crowd_22 : decode cX0_crowd 22 = .ok (.ireturn, 1) := dk_172 (dk_at dksX0_crowd_0 22 rfl rfl)
abbrev cX0_alarms : ByteArray := method_19_code
def yX0_alarms : MethodName := ⟨RX0, "alarms", "(LVaultyard;I[J)I"⟩
def dkwX0_alarms_0 : List UInt8 := [44, 3, 42, 27, 182, 0, 75, 133, 80, 167, 0, 6, 78, 4, 172, 3, 172]
abbrev dktX0_alarms_0 : List UInt8 := dkwX0_alarms_0 ++ []
theorem dksX0_alarms_0 : cX0_alarms.data.toList.drop 0 = dktX0_alarms_0 := by decide +kernel
theorem dX0_alarms_0 : decode cX0_alarms 0 = .ok (.aload_n 2, 1) := dk_44 (dk_at dksX0_alarms_0 0 rfl rfl)
theorem dX0_alarms_1 : decode cX0_alarms 1 = .ok (.iconst 0, 1) := dk_3 (dk_at dksX0_alarms_0 1 rfl rfl)
theorem dX0_alarms_2 : decode cX0_alarms 2 = .ok (.aload_n 0, 1) := dk_42 (dk_at dksX0_alarms_0 2 rfl rfl)
theorem dX0_alarms_3 : decode cX0_alarms 3 = .ok (.iload_n 1, 1) := dk_27 (dk_at dksX0_alarms_0 3 rfl rfl)
theorem dX0_alarms_4 : decode cX0_alarms 4 = .ok (.invokevirtual 75, 3) := dk_182 0 75 (dk_at dksX0_alarms_0 4 rfl rfl)
theorem dX0_alarms_7 : decode cX0_alarms 7 = .ok (.i2l, 1) := dk_133 (dk_at dksX0_alarms_0 7 rfl rfl)
theorem dX0_alarms_8 : decode cX0_alarms 8 = .ok (.lastore, 1) := dk_80 (dk_at dksX0_alarms_0 8 rfl rfl)
theorem dX0_alarms_9 : decode cX0_alarms 9 = .ok (.goto 6, 3) := dk_167 0 6 (dk_at dksX0_alarms_0 9 rfl rfl)
theorem dX0_alarms_12 : decode cX0_alarms 12 = .ok (.astore_n 3, 1) := dk_78 (dk_at dksX0_alarms_0 12 rfl rfl)
theorem dX0_alarms_13 : decode cX0_alarms 13 = .ok (.iconst 1, 1) := dk_4 (dk_at dksX0_alarms_0 13 rfl rfl)
theorem dX0_alarms_14 : decode cX0_alarms 14 = .ok (.ireturn, 1) := dk_172 (dk_at dksX0_alarms_0 14 rfl rfl)
theorem dX0_alarms_15 : decode cX0_alarms 15 = .ok (.iconst 0, 1) := dk_3 (dk_at dksX0_alarms_0 15 rfl rfl)
theorem dX0_alarms_16 : decode cX0_alarms 16 = .ok (.ireturn, 1) := dk_172 (dk_at dksX0_alarms_0 16 rfl rfl)
abbrev cX0_encase : ByteArray := method_20_code
def yX0_encase : MethodName := ⟨RX0, "encase", "(LVaultyard;IZ[J)I"⟩
def dkwX0_encase_1 : List UInt8 := [58, 4, 5, 172, 3, 172]
abbrev dktX0_encase_1 : List UInt8 := dkwX0_encase_1 ++ []
def dkwX0_encase_0 : List UInt8 := [45, 3, 42, 27, 28, 182, 0, 78, 153, 0, 7, 10, 167, 0, 4, 9, 80, 167, 0, 11, 58, 4, 4, 172]
abbrev dktX0_encase_0 : List UInt8 := dkwX0_encase_0 ++ dktX0_encase_1
theorem dksX0_encase_0 : cX0_encase.data.toList.drop 0 = dktX0_encase_0 := by decide +kernel
theorem dksX0_encase_1 : cX0_encase.data.toList.drop 24 = dktX0_encase_1 := dk_seg dksX0_encase_0 24 rfl rfl
theorem dX0_encase_0 : decode cX0_encase 0 = .ok (.aload_n 3, 1) := dk_45 (dk_at dksX0_encase_0 0 rfl rfl)
theorem dX0_encase_1 : decode cX0_encase 1 = .ok (.iconst 0, 1) := dk_3 (dk_at dksX0_encase_0 1 rfl rfl)
theorem dX0_encase_2 : decode cX0_encase 2 = .ok (.aload_n 0, 1) := dk_42 (dk_at dksX0_encase_0 2 rfl rfl)
theorem dX0_encase_3 : decode cX0_encase 3 = .ok (.iload_n 1, 1) := dk_27 (dk_at dksX0_encase_0 3 rfl rfl)
theorem dX0_encase_4 : decode cX0_encase 4 = .ok (.iload_n 2, 1) := dk_28 (dk_at dksX0_encase_0 4 rfl rfl)
theorem dX0_encase_5 : decode cX0_encase 5 = .ok (.invokevirtual 78, 3) := dk_182 0 78 (dk_at dksX0_encase_0 5 rfl rfl)
theorem dX0_encase_8 : decode cX0_encase 8 = .ok (.ifCond .eq 7, 3) := dk_153 0 7 (dk_at dksX0_encase_0 8 rfl rfl)
theorem dX0_encase_11 : decode cX0_encase 11 = .ok (.lconst 1, 1) := dk_10 (dk_at dksX0_encase_0 11 rfl rfl)
theorem dX0_encase_12 : decode cX0_encase 12 = .ok (.goto 4, 3) := dk_167 0 4 (dk_at dksX0_encase_0 12 rfl rfl)
theorem dX0_encase_15 : decode cX0_encase 15 = .ok (.lconst 0, 1) := dk_9 (dk_at dksX0_encase_0 15 rfl rfl)
theorem dX0_encase_16 : decode cX0_encase 16 = .ok (.lastore, 1) := dk_80 (dk_at dksX0_encase_0 16 rfl rfl)
theorem dX0_encase_17 : decode cX0_encase 17 = .ok (.goto 11, 3) := dk_167 0 11 (dk_at dksX0_encase_0 17 rfl rfl)
theorem dX0_encase_20 : decode cX0_encase 20 = .ok (.astore 4, 2) := dk_58 4 (dk_at dksX0_encase_0 20 rfl rfl)
theorem dX0_encase_22 : decode cX0_encase 22 = .ok (.iconst 1, 1) := dk_4 (dk_at dksX0_encase_0 22 rfl rfl)
theorem dX0_encase_23 : decode cX0_encase 23 = .ok (.ireturn, 1) := dk_172 (dk_at dksX0_encase_0 23 rfl rfl)
theorem dX0_encase_24 : decode cX0_encase 24 = .ok (.astore 4, 2) := dk_58 4 (dk_at dksX0_encase_1 0 rfl rfl)
theorem dX0_encase_26 : decode cX0_encase 26 = .ok (.iconst 2, 1) := dk_5 (dk_at dksX0_encase_1 2 rfl rfl)
theorem dX0_encase_27 : decode cX0_encase 27 = .ok (.ireturn, 1) := dk_172 (dk_at dksX0_encase_1 3 rfl rfl)
theorem dX0_encase_28 : decode cX0_encase 28 = .ok (.iconst 0, 1) := dk_3 (dk_at dksX0_encase_1 4 rfl rfl)
theorem dX0_encase_29 : decode cX0_encase 29 = .ok (.ireturn, 1) := dk_172 (dk_at dksX0_encase_1 5 rfl rfl)
abbrev cX0_lend : ByteArray := method_21_code
def yX0_lend : MethodName := ⟨RX0, "lend", "(LVaultyard;III[J)I"⟩
def dkwX0_lend_1 : List UInt8 := [58, 5, 6, 172, 3, 172]
abbrev dktX0_lend_1 : List UInt8 := dkwX0_lend_1 ++ []
def dkwX0_lend_0 : List UInt8 := [25, 4, 3, 42, 27, 28, 29, 182, 0, 82, 133, 80, 167, 0, 15, 58, 5, 4, 172, 58, 5, 5, 172]
abbrev dktX0_lend_0 : List UInt8 := dkwX0_lend_0 ++ dktX0_lend_1
theorem dksX0_lend_0 : cX0_lend.data.toList.drop 0 = dktX0_lend_0 := by decide +kernel
theorem dksX0_lend_1 : cX0_lend.data.toList.drop 23 = dktX0_lend_1 := dk_seg dksX0_lend_0 23 rfl rfl
theorem dX0_lend_0 : decode cX0_lend 0 = .ok (.aload 4, 2) := dk_25 4 (dk_at dksX0_lend_0 0 rfl rfl)
theorem dX0_lend_2 : decode cX0_lend 2 = .ok (.iconst 0, 1) := dk_3 (dk_at dksX0_lend_0 2 rfl rfl)
theorem dX0_lend_3 : decode cX0_lend 3 = .ok (.aload_n 0, 1) := dk_42 (dk_at dksX0_lend_0 3 rfl rfl)
theorem dX0_lend_4 : decode cX0_lend 4 = .ok (.iload_n 1, 1) := dk_27 (dk_at dksX0_lend_0 4 rfl rfl)
theorem dX0_lend_5 : decode cX0_lend 5 = .ok (.iload_n 2, 1) := dk_28 (dk_at dksX0_lend_0 5 rfl rfl)
theorem dX0_lend_6 : decode cX0_lend 6 = .ok (.iload_n 3, 1) := dk_29 (dk_at dksX0_lend_0 6 rfl rfl)
theorem dX0_lend_7 : decode cX0_lend 7 = .ok (.invokevirtual 82, 3) := dk_182 0 82 (dk_at dksX0_lend_0 7 rfl rfl)
theorem dX0_lend_10 : decode cX0_lend 10 = .ok (.i2l, 1) := dk_133 (dk_at dksX0_lend_0 10 rfl rfl)
theorem dX0_lend_11 : decode cX0_lend 11 = .ok (.lastore, 1) := dk_80 (dk_at dksX0_lend_0 11 rfl rfl)
theorem dX0_lend_12 : decode cX0_lend 12 = .ok (.goto 15, 3) := dk_167 0 15 (dk_at dksX0_lend_0 12 rfl rfl)
theorem dX0_lend_15 : decode cX0_lend 15 = .ok (.astore 5, 2) := dk_58 5 (dk_at dksX0_lend_0 15 rfl rfl)
theorem dX0_lend_17 : decode cX0_lend 17 = .ok (.iconst 1, 1) := dk_4 (dk_at dksX0_lend_0 17 rfl rfl)
theorem dX0_lend_18 : decode cX0_lend 18 = .ok (.ireturn, 1) := dk_172 (dk_at dksX0_lend_0 18 rfl rfl)
theorem dX0_lend_19 : decode cX0_lend 19 = .ok (.astore 5, 2) := dk_58 5 (dk_at dksX0_lend_0 19 rfl rfl)
theorem dX0_lend_21 : decode cX0_lend 21 = .ok (.iconst 2, 1) := dk_5 (dk_at dksX0_lend_0 21 rfl rfl)
theorem dX0_lend_22 : decode cX0_lend 22 = .ok (.ireturn, 1) := dk_172 (dk_at dksX0_lend_0 22 rfl rfl)
theorem dX0_lend_23 : decode cX0_lend 23 = .ok (.astore 5, 2) := dk_58 5 (dk_at dksX0_lend_1 0 rfl rfl)
theorem dX0_lend_25 : decode cX0_lend 25 = .ok (.iconst 3, 1) := dk_6 (dk_at dksX0_lend_1 2 rfl rfl)
theorem dX0_lend_26 : decode cX0_lend 26 = .ok (.ireturn, 1) := dk_172 (dk_at dksX0_lend_1 3 rfl rfl)
theorem dX0_lend_27 : decode cX0_lend 27 = .ok (.iconst 0, 1) := dk_3 (dk_at dksX0_lend_1 4 rfl rfl)
theorem dX0_lend_28 : decode cX0_lend 28 = .ok (.ireturn, 1) := dk_172 (dk_at dksX0_lend_1 5 rfl rfl)
abbrev cX0_premium : ByteArray := method_22_code
def yX0_premium : MethodName := ⟨RX0, "premium", "(LVaultyard;II[J)I"⟩
def dkwX0_premium_0 : List UInt8 := [45, 3, 42, 27, 28, 182, 0, 85, 133, 80, 167, 0, 11, 58, 4, 4, 172, 58, 4, 5, 172, 3, 172]
abbrev dktX0_premium_0 : List UInt8 := dkwX0_premium_0 ++ []
theorem dksX0_premium_0 : cX0_premium.data.toList.drop 0 = dktX0_premium_0 := by decide +kernel
theorem dX0_premium_0 : decode cX0_premium 0 = .ok (.aload_n 3, 1) := dk_45 (dk_at dksX0_premium_0 0 rfl rfl)
theorem dX0_premium_1 : decode cX0_premium 1 = .ok (.iconst 0, 1) := dk_3 (dk_at dksX0_premium_0 1 rfl rfl)
theorem dX0_premium_2 : decode cX0_premium 2 = .ok (.aload_n 0, 1) := dk_42 (dk_at dksX0_premium_0 2 rfl rfl)
theorem dX0_premium_3 : decode cX0_premium 3 = .ok (.iload_n 1, 1) := dk_27 (dk_at dksX0_premium_0 3 rfl rfl)
theorem dX0_premium_4 : decode cX0_premium 4 = .ok (.iload_n 2, 1) := dk_28 (dk_at dksX0_premium_0 4 rfl rfl)
theorem dX0_premium_5 : decode cX0_premium 5 = .ok (.invokevirtual 85, 3) := dk_182 0 85 (dk_at dksX0_premium_0 5 rfl rfl)
theorem dX0_premium_8 : decode cX0_premium 8 = .ok (.i2l, 1) := dk_133 (dk_at dksX0_premium_0 8 rfl rfl)
theorem dX0_premium_9 : decode cX0_premium 9 = .ok (.lastore, 1) := dk_80 (dk_at dksX0_premium_0 9 rfl rfl)
theorem dX0_premium_10 : decode cX0_premium 10 = .ok (.goto 11, 3) := dk_167 0 11 (dk_at dksX0_premium_0 10 rfl rfl)
theorem dX0_premium_13 : decode cX0_premium 13 = .ok (.astore 4, 2) := dk_58 4 (dk_at dksX0_premium_0 13 rfl rfl)
theorem dX0_premium_15 : decode cX0_premium 15 = .ok (.iconst 1, 1) := dk_4 (dk_at dksX0_premium_0 15 rfl rfl)
theorem dX0_premium_16 : decode cX0_premium 16 = .ok (.ireturn, 1) := dk_172 (dk_at dksX0_premium_0 16 rfl rfl)
theorem dX0_premium_17 : decode cX0_premium 17 = .ok (.astore 4, 2) := dk_58 4 (dk_at dksX0_premium_0 17 rfl rfl)
theorem dX0_premium_19 : decode cX0_premium 19 = .ok (.iconst 2, 1) := dk_5 (dk_at dksX0_premium_0 19 rfl rfl)
theorem dX0_premium_20 : decode cX0_premium 20 = .ok (.ireturn, 1) := dk_172 (dk_at dksX0_premium_0 20 rfl rfl)
theorem dX0_premium_21 : decode cX0_premium 21 = .ok (.iconst 0, 1) := dk_3 (dk_at dksX0_premium_0 21 rfl rfl)
theorem dX0_premium_22 : decode cX0_premium 22 = .ok (.ireturn, 1) := dk_172 (dk_at dksX0_premium_0 22 rfl rfl)
abbrev cX0_isLate : ByteArray := method_23_code
def yX0_isLate : MethodName := ⟨RX0, "isLate", "(LVaultyard;I[J)I"⟩
def dkwX0_isLate_1 : List UInt8 := [172, 3, 172]
abbrev dktX0_isLate_1 : List UInt8 := dkwX0_isLate_1 ++ []
def dkwX0_isLate_0 : List UInt8 := [44, 3, 42, 27, 182, 0, 88, 153, 0, 7, 10, 167, 0, 4, 9, 80, 167, 0, 9, 78, 4, 172, 78, 5]
abbrev dktX0_isLate_0 : List UInt8 := dkwX0_isLate_0 ++ dktX0_isLate_1
theorem dksX0_isLate_0 : cX0_isLate.data.toList.drop 0 = dktX0_isLate_0 := by decide +kernel
theorem dksX0_isLate_1 : cX0_isLate.data.toList.drop 24 = dktX0_isLate_1 := dk_seg dksX0_isLate_0 24 rfl rfl
theorem dX0_isLate_0 : decode cX0_isLate 0 = .ok (.aload_n 2, 1) := dk_44 (dk_at dksX0_isLate_0 0 rfl rfl)
theorem dX0_isLate_1 : decode cX0_isLate 1 = .ok (.iconst 0, 1) := dk_3 (dk_at dksX0_isLate_0 1 rfl rfl)
theorem dX0_isLate_2 : decode cX0_isLate 2 = .ok (.aload_n 0, 1) := dk_42 (dk_at dksX0_isLate_0 2 rfl rfl)
theorem dX0_isLate_3 : decode cX0_isLate 3 = .ok (.iload_n 1, 1) := dk_27 (dk_at dksX0_isLate_0 3 rfl rfl)
theorem dX0_isLate_4 : decode cX0_isLate 4 = .ok (.invokevirtual 88, 3) := dk_182 0 88 (dk_at dksX0_isLate_0 4 rfl rfl)
theorem dX0_isLate_7 : decode cX0_isLate 7 = .ok (.ifCond .eq 7, 3) := dk_153 0 7 (dk_at dksX0_isLate_0 7 rfl rfl)
theorem dX0_isLate_10 : decode cX0_isLate 10 = .ok (.lconst 1, 1) := dk_10 (dk_at dksX0_isLate_0 10 rfl rfl)
theorem dX0_isLate_11 : decode cX0_isLate 11 = .ok (.goto 4, 3) := dk_167 0 4 (dk_at dksX0_isLate_0 11 rfl rfl)
theorem dX0_isLate_14 : decode cX0_isLate 14 = .ok (.lconst 0, 1) := dk_9 (dk_at dksX0_isLate_0 14 rfl rfl)
theorem dX0_isLate_15 : decode cX0_isLate 15 = .ok (.lastore, 1) := dk_80 (dk_at dksX0_isLate_0 15 rfl rfl)
theorem dX0_isLate_16 : decode cX0_isLate 16 = .ok (.goto 9, 3) := dk_167 0 9 (dk_at dksX0_isLate_0 16 rfl rfl)
theorem dX0_isLate_19 : decode cX0_isLate 19 = .ok (.astore_n 3, 1) := dk_78 (dk_at dksX0_isLate_0 19 rfl rfl)
theorem dX0_isLate_20 : decode cX0_isLate 20 = .ok (.iconst 1, 1) := dk_4 (dk_at dksX0_isLate_0 20 rfl rfl)
theorem dX0_isLate_21 : decode cX0_isLate 21 = .ok (.ireturn, 1) := dk_172 (dk_at dksX0_isLate_0 21 rfl rfl)
theorem dX0_isLate_22 : decode cX0_isLate 22 = .ok (.astore_n 3, 1) := dk_78 (dk_at dksX0_isLate_0 22 rfl rfl)
theorem dX0_isLate_23 : decode cX0_isLate 23 = .ok (.iconst 2, 1) := dk_5 (dk_at dksX0_isLate_0 23 rfl rfl)
theorem dX0_isLate_24 : decode cX0_isLate 24 = .ok (.ireturn, 1) := dk_172 (dk_at dksX0_isLate_1 0 rfl rfl)
theorem dX0_isLate_25 : decode cX0_isLate 25 = .ok (.iconst 0, 1) := dk_3 (dk_at dksX0_isLate_1 1 rfl rfl)
theorem dX0_isLate_26 : decode cX0_isLate 26 = .ok (.ireturn, 1) := dk_172 (dk_at dksX0_isLate_1 2 rfl rfl)
abbrev cX0_back : ByteArray := method_24_code
def yX0_back : MethodName := ⟨RX0, "back", "(LVaultyard;III[J)I"⟩
def dkwX0_back_1 : List UInt8 := [58, 5, 6, 172, 3, 172]
abbrev dktX0_back_1 : List UInt8 := dkwX0_back_1 ++ []
def dkwX0_back_0 : List UInt8 := [25, 4, 3, 42, 27, 28, 29, 182, 0, 92, 133, 80, 167, 0, 15, 58, 5, 4, 172, 58, 5, 5, 172]
abbrev dktX0_back_0 : List UInt8 := dkwX0_back_0 ++ dktX0_back_1
theorem dksX0_back_0 : cX0_back.data.toList.drop 0 = dktX0_back_0 := by decide +kernel
theorem dksX0_back_1 : cX0_back.data.toList.drop 23 = dktX0_back_1 := dk_seg dksX0_back_0 23 rfl rfl
theorem dX0_back_0 : decode cX0_back 0 = .ok (.aload 4, 2) := dk_25 4 (dk_at dksX0_back_0 0 rfl rfl)
theorem dX0_back_2 : decode cX0_back 2 = .ok (.iconst 0, 1) := dk_3 (dk_at dksX0_back_0 2 rfl rfl)
theorem dX0_back_3 : decode cX0_back 3 = .ok (.aload_n 0, 1) := dk_42 (dk_at dksX0_back_0 3 rfl rfl)
theorem dX0_back_4 : decode cX0_back 4 = .ok (.iload_n 1, 1) := dk_27 (dk_at dksX0_back_0 4 rfl rfl)
theorem dX0_back_5 : decode cX0_back 5 = .ok (.iload_n 2, 1) := dk_28 (dk_at dksX0_back_0 5 rfl rfl)
theorem dX0_back_6 : decode cX0_back 6 = .ok (.iload_n 3, 1) := dk_29 (dk_at dksX0_back_0 6 rfl rfl)
theorem dX0_back_7 : decode cX0_back 7 = .ok (.invokevirtual 92, 3) := dk_182 0 92 (dk_at dksX0_back_0 7 rfl rfl)
theorem dX0_back_10 : decode cX0_back 10 = .ok (.i2l, 1) := dk_133 (dk_at dksX0_back_0 10 rfl rfl)
theorem dX0_back_11 : decode cX0_back 11 = .ok (.lastore, 1) := dk_80 (dk_at dksX0_back_0 11 rfl rfl)
theorem dX0_back_12 : decode cX0_back 12 = .ok (.goto 15, 3) := dk_167 0 15 (dk_at dksX0_back_0 12 rfl rfl)
theorem dX0_back_15 : decode cX0_back 15 = .ok (.astore 5, 2) := dk_58 5 (dk_at dksX0_back_0 15 rfl rfl)
theorem dX0_back_17 : decode cX0_back 17 = .ok (.iconst 1, 1) := dk_4 (dk_at dksX0_back_0 17 rfl rfl)
theorem dX0_back_18 : decode cX0_back 18 = .ok (.ireturn, 1) := dk_172 (dk_at dksX0_back_0 18 rfl rfl)
theorem dX0_back_19 : decode cX0_back 19 = .ok (.astore 5, 2) := dk_58 5 (dk_at dksX0_back_0 19 rfl rfl)
theorem dX0_back_21 : decode cX0_back 21 = .ok (.iconst 2, 1) := dk_5 (dk_at dksX0_back_0 21 rfl rfl)
theorem dX0_back_22 : decode cX0_back 22 = .ok (.ireturn, 1) := dk_172 (dk_at dksX0_back_0 22 rfl rfl)
theorem dX0_back_23 : decode cX0_back 23 = .ok (.astore 5, 2) := dk_58 5 (dk_at dksX0_back_1 0 rfl rfl)
theorem dX0_back_25 : decode cX0_back 25 = .ok (.iconst 3, 1) := dk_6 (dk_at dksX0_back_1 2 rfl rfl)
theorem dX0_back_26 : decode cX0_back 26 = .ok (.ireturn, 1) := dk_172 (dk_at dksX0_back_1 3 rfl rfl)
theorem dX0_back_27 : decode cX0_back 27 = .ok (.iconst 0, 1) := dk_3 (dk_at dksX0_back_1 4 rfl rfl)
theorem dX0_back_28 : decode cX0_back 28 = .ok (.ireturn, 1) := dk_172 (dk_at dksX0_back_1 5 rfl rfl)
abbrev cX0_owner : ByteArray := method_25_code
def yX0_owner : MethodName := ⟨RX0, "owner", "(LVaultyard;IIIIC[J)I"⟩
def dkwX0_owner_1 : List UInt8 := [58, 7, 5, 172, 58, 7, 6, 172, 58, 7, 7, 172, 3, 172]
abbrev dktX0_owner_1 : List UInt8 := dkwX0_owner_1 ++ []
def dkwX0_owner_0 : List UInt8 := [25, 6, 3, 42, 27, 28, 29, 21, 4, 21, 5, 182, 0, 95, 133, 80, 167, 0, 19, 58, 7, 4, 172]
abbrev dktX0_owner_0 : List UInt8 := dkwX0_owner_0 ++ dktX0_owner_1
theorem dksX0_owner_0 : cX0_owner.data.toList.drop 0 = dktX0_owner_0 := by decide +kernel
theorem dksX0_owner_1 : cX0_owner.data.toList.drop 23 = dktX0_owner_1 := dk_seg dksX0_owner_0 23 rfl rfl
theorem dX0_owner_0 : decode cX0_owner 0 = .ok (.aload 6, 2) := dk_25 6 (dk_at dksX0_owner_0 0 rfl rfl)
theorem dX0_owner_2 : decode cX0_owner 2 = .ok (.iconst 0, 1) := dk_3 (dk_at dksX0_owner_0 2 rfl rfl)
theorem dX0_owner_3 : decode cX0_owner 3 = .ok (.aload_n 0, 1) := dk_42 (dk_at dksX0_owner_0 3 rfl rfl)
theorem dX0_owner_4 : decode cX0_owner 4 = .ok (.iload_n 1, 1) := dk_27 (dk_at dksX0_owner_0 4 rfl rfl)
theorem dX0_owner_5 : decode cX0_owner 5 = .ok (.iload_n 2, 1) := dk_28 (dk_at dksX0_owner_0 5 rfl rfl)
theorem dX0_owner_6 : decode cX0_owner 6 = .ok (.iload_n 3, 1) := dk_29 (dk_at dksX0_owner_0 6 rfl rfl)
theorem dX0_owner_7 : decode cX0_owner 7 = .ok (.iload 4, 2) := dk_21 4 (dk_at dksX0_owner_0 7 rfl rfl)
theorem dX0_owner_9 : decode cX0_owner 9 = .ok (.iload 5, 2) := dk_21 5 (dk_at dksX0_owner_0 9 rfl rfl)
theorem dX0_owner_11 : decode cX0_owner 11 = .ok (.invokevirtual 95, 3) := dk_182 0 95 (dk_at dksX0_owner_0 11 rfl rfl)
theorem dX0_owner_14 : decode cX0_owner 14 = .ok (.i2l, 1) := dk_133 (dk_at dksX0_owner_0 14 rfl rfl)
theorem dX0_owner_15 : decode cX0_owner 15 = .ok (.lastore, 1) := dk_80 (dk_at dksX0_owner_0 15 rfl rfl)
theorem dX0_owner_16 : decode cX0_owner 16 = .ok (.goto 19, 3) := dk_167 0 19 (dk_at dksX0_owner_0 16 rfl rfl)
theorem dX0_owner_19 : decode cX0_owner 19 = .ok (.astore 7, 2) := dk_58 7 (dk_at dksX0_owner_0 19 rfl rfl)
theorem dX0_owner_21 : decode cX0_owner 21 = .ok (.iconst 1, 1) := dk_4 (dk_at dksX0_owner_0 21 rfl rfl)
theorem dX0_owner_22 : decode cX0_owner 22 = .ok (.ireturn, 1) := dk_172 (dk_at dksX0_owner_0 22 rfl rfl)
theorem dX0_owner_23 : decode cX0_owner 23 = .ok (.astore 7, 2) := dk_58 7 (dk_at dksX0_owner_1 0 rfl rfl)
theorem dX0_owner_25 : decode cX0_owner 25 = .ok (.iconst 2, 1) := dk_5 (dk_at dksX0_owner_1 2 rfl rfl)
theorem dX0_owner_26 : decode cX0_owner 26 = .ok (.ireturn, 1) := dk_172 (dk_at dksX0_owner_1 3 rfl rfl)
theorem dX0_owner_27 : decode cX0_owner 27 = .ok (.astore 7, 2) := dk_58 7 (dk_at dksX0_owner_1 4 rfl rfl)
theorem dX0_owner_29 : decode cX0_owner 29 = .ok (.iconst 3, 1) := dk_6 (dk_at dksX0_owner_1 6 rfl rfl)
theorem dX0_owner_30 : decode cX0_owner 30 = .ok (.ireturn, 1) := dk_172 (dk_at dksX0_owner_1 7 rfl rfl)
theorem dX0_owner_31 : decode cX0_owner 31 = .ok (.astore 7, 2) := dk_58 7 (dk_at dksX0_owner_1 8 rfl rfl)
theorem dX0_owner_33 : decode cX0_owner 33 = .ok (.iconst 4, 1) := dk_7 (dk_at dksX0_owner_1 10 rfl rfl)
theorem dX0_owner_34 : decode cX0_owner 34 = .ok (.ireturn, 1) := dk_172 (dk_at dksX0_owner_1 11 rfl rfl)
theorem dX0_owner_35 : decode cX0_owner 35 = .ok (.iconst 0, 1) := dk_3 (dk_at dksX0_owner_1 12 rfl rfl)
theorem dX0_owner_36 : decode cX0_owner 36 = .ok (.ireturn, 1) := dk_172 (dk_at dksX0_owner_1 13 rfl rfl)
abbrev cX0_gaps : ByteArray := method_26_code
def yX0_gaps : MethodName := ⟨RX0, "gaps", "(LVaultyard;I[J)I"⟩
def dkwX0_gaps_0 : List UInt8 := [44, 3, 42, 27, 182, 0, 99, 133, 80, 167, 0, 6, 78, 4, 172, 3, 172]
abbrev dktX0_gaps_0 : List UInt8 := dkwX0_gaps_0 ++ []
theorem dksX0_gaps_0 : cX0_gaps.data.toList.drop 0 = dktX0_gaps_0 := by decide +kernel
theorem dX0_gaps_0 : decode cX0_gaps 0 = .ok (.aload_n 2, 1) := dk_44 (dk_at dksX0_gaps_0 0 rfl rfl)
theorem dX0_gaps_1 : decode cX0_gaps 1 = .ok (.iconst 0, 1) := dk_3 (dk_at dksX0_gaps_0 1 rfl rfl)
theorem dX0_gaps_2 : decode cX0_gaps 2 = .ok (.aload_n 0, 1) := dk_42 (dk_at dksX0_gaps_0 2 rfl rfl)
theorem dX0_gaps_3 : decode cX0_gaps 3 = .ok (.iload_n 1, 1) := dk_27 (dk_at dksX0_gaps_0 3 rfl rfl)
theorem dX0_gaps_4 : decode cX0_gaps 4 = .ok (.invokevirtual 99, 3) := dk_182 0 99 (dk_at dksX0_gaps_0 4 rfl rfl)
theorem dX0_gaps_7 : decode cX0_gaps 7 = .ok (.i2l, 1) := dk_133 (dk_at dksX0_gaps_0 7 rfl rfl)
theorem dX0_gaps_8 : decode cX0_gaps 8 = .ok (.lastore, 1) := dk_80 (dk_at dksX0_gaps_0 8 rfl rfl)
theorem dX0_gaps_9 : decode cX0_gaps 9 = .ok (.goto 6, 3) := dk_167 0 6 (dk_at dksX0_gaps_0 9 rfl rfl)
theorem dX0_gaps_12 : decode cX0_gaps 12 = .ok (.astore_n 3, 1) := dk_78 (dk_at dksX0_gaps_0 12 rfl rfl)
theorem dX0_gaps_13 : decode cX0_gaps 13 = .ok (.iconst 1, 1) := dk_4 (dk_at dksX0_gaps_0 13 rfl rfl)
theorem dX0_gaps_14 : decode cX0_gaps 14 = .ok (.ireturn, 1) := dk_172 (dk_at dksX0_gaps_0 14 rfl rfl)
theorem dX0_gaps_15 : decode cX0_gaps 15 = .ok (.iconst 0, 1) := dk_3 (dk_at dksX0_gaps_0 15 rfl rfl)
theorem dX0_gaps_16 : decode cX0_gaps 16 = .ok (.ireturn, 1) := dk_172 (dk_at dksX0_gaps_0 16 rfl rfl)
abbrev cX0_law : ByteArray := method_27_code
def yX0_law : MethodName := ⟨RX0, "law", "(LVaultyard;II[J)I"⟩
def dkwX0_law_0 : List UInt8 := [45, 3, 42, 27, 28, 182, 0, 102, 133, 80, 167, 0, 7, 58, 4, 4, 172, 3, 172]
abbrev dktX0_law_0 : List UInt8 := dkwX0_law_0 ++ []
theorem dksX0_law_0 : cX0_law.data.toList.drop 0 = dktX0_law_0 := by decide +kernel
theorem dX0_law_0 : decode cX0_law 0 = .ok (.aload_n 3, 1) := dk_45 (dk_at dksX0_law_0 0 rfl rfl)
theorem dX0_law_1 : decode cX0_law 1 = .ok (.iconst 0, 1) := dk_3 (dk_at dksX0_law_0 1 rfl rfl)
theorem dX0_law_2 : decode cX0_law 2 = .ok (.aload_n 0, 1) := dk_42 (dk_at dksX0_law_0 2 rfl rfl)
theorem dX0_law_3 : decode cX0_law 3 = .ok (.iload_n 1, 1) := dk_27 (dk_at dksX0_law_0 3 rfl rfl)
theorem dX0_law_4 : decode cX0_law 4 = .ok (.iload_n 2, 1) := dk_28 (dk_at dksX0_law_0 4 rfl rfl)
theorem dX0_law_5 : decode cX0_law 5 = .ok (.invokevirtual 102, 3) := dk_182 0 102 (dk_at dksX0_law_0 5 rfl rfl)
theorem dX0_law_8 : decode cX0_law 8 = .ok (.i2l, 1) := dk_133 (dk_at dksX0_law_0 8 rfl rfl)
theorem dX0_law_9 : decode cX0_law 9 = .ok (.lastore, 1) := dk_80 (dk_at dksX0_law_0 9 rfl rfl)
theorem dX0_law_10 : decode cX0_law 10 = .ok (.goto 7, 3) := dk_167 0 7 (dk_at dksX0_law_0 10 rfl rfl)
theorem dX0_law_13 : decode cX0_law 13 = .ok (.astore 4, 2) := dk_58 4 (dk_at dksX0_law_0 13 rfl rfl)
theorem dX0_law_15 : decode cX0_law 15 = .ok (.iconst 1, 1) := dk_4 (dk_at dksX0_law_0 15 rfl rfl)
theorem dX0_law_16 : decode cX0_law 16 = .ok (.ireturn, 1) := dk_172 (dk_at dksX0_law_0 16 rfl rfl)
theorem dX0_law_17 : decode cX0_law 17 = .ok (.iconst 0, 1) := dk_3 (dk_at dksX0_law_0 17 rfl rfl)
theorem dX0_law_18 : decode cX0_law 18 = .ok (.ireturn, 1) := dk_172 (dk_at dksX0_law_0 18 rfl rfl)
abbrev cX0_claimant : ByteArray := method_28_code
def yX0_claimant : MethodName := ⟨RX0, "claimant", "(LVaultyard;II[J)I"⟩
def dkwX0_claimant_1 : List UInt8 := [172, 3, 172]
abbrev dktX0_claimant_1 : List UInt8 := dkwX0_claimant_1 ++ []
def dkwX0_claimant_0 : List UInt8 := [45, 3, 42, 27, 28, 182, 0, 105, 133, 80, 167, 0, 15, 58, 4, 4, 172, 58, 4, 5, 172, 58, 4, 6]
abbrev dktX0_claimant_0 : List UInt8 := dkwX0_claimant_0 ++ dktX0_claimant_1
theorem dksX0_claimant_0 : cX0_claimant.data.toList.drop 0 = dktX0_claimant_0 := by decide +kernel
theorem dksX0_claimant_1 : cX0_claimant.data.toList.drop 24 = dktX0_claimant_1 := dk_seg dksX0_claimant_0 24 rfl rfl
theorem dX0_claimant_0 : decode cX0_claimant 0 = .ok (.aload_n 3, 1) := dk_45 (dk_at dksX0_claimant_0 0 rfl rfl)
theorem dX0_claimant_1 : decode cX0_claimant 1 = .ok (.iconst 0, 1) := dk_3 (dk_at dksX0_claimant_0 1 rfl rfl)
theorem dX0_claimant_2 : decode cX0_claimant 2 = .ok (.aload_n 0, 1) := dk_42 (dk_at dksX0_claimant_0 2 rfl rfl)
theorem dX0_claimant_3 : decode cX0_claimant 3 = .ok (.iload_n 1, 1) := dk_27 (dk_at dksX0_claimant_0 3 rfl rfl)
theorem dX0_claimant_4 : decode cX0_claimant 4 = .ok (.iload_n 2, 1) := dk_28 (dk_at dksX0_claimant_0 4 rfl rfl)
theorem dX0_claimant_5 : decode cX0_claimant 5 = .ok (.invokevirtual 105, 3) := dk_182 0 105 (dk_at dksX0_claimant_0 5 rfl rfl)
theorem dX0_claimant_8 : decode cX0_claimant 8 = .ok (.i2l, 1) := dk_133 (dk_at dksX0_claimant_0 8 rfl rfl)
theorem dX0_claimant_9 : decode cX0_claimant 9 = .ok (.lastore, 1) := dk_80 (dk_at dksX0_claimant_0 9 rfl rfl)
theorem dX0_claimant_10 : decode cX0_claimant 10 = .ok (.goto 15, 3) := dk_167 0 15 (dk_at dksX0_claimant_0 10 rfl rfl)
theorem dX0_claimant_13 : decode cX0_claimant 13 = .ok (.astore 4, 2) := dk_58 4 (dk_at dksX0_claimant_0 13 rfl rfl)
theorem dX0_claimant_15 : decode cX0_claimant 15 = .ok (.iconst 1, 1) := dk_4 (dk_at dksX0_claimant_0 15 rfl rfl)
theorem dX0_claimant_16 : decode cX0_claimant 16 = .ok (.ireturn, 1) := dk_172 (dk_at dksX0_claimant_0 16 rfl rfl)
theorem dX0_claimant_17 : decode cX0_claimant 17 = .ok (.astore 4, 2) := dk_58 4 (dk_at dksX0_claimant_0 17 rfl rfl)
theorem dX0_claimant_19 : decode cX0_claimant 19 = .ok (.iconst 2, 1) := dk_5 (dk_at dksX0_claimant_0 19 rfl rfl)
theorem dX0_claimant_20 : decode cX0_claimant 20 = .ok (.ireturn, 1) := dk_172 (dk_at dksX0_claimant_0 20 rfl rfl)
theorem dX0_claimant_21 : decode cX0_claimant 21 = .ok (.astore 4, 2) := dk_58 4 (dk_at dksX0_claimant_0 21 rfl rfl)
theorem dX0_claimant_23 : decode cX0_claimant 23 = .ok (.iconst 3, 1) := dk_6 (dk_at dksX0_claimant_0 23 rfl rfl)
theorem dX0_claimant_24 : decode cX0_claimant 24 = .ok (.ireturn, 1) := dk_172 (dk_at dksX0_claimant_1 0 rfl rfl)
theorem dX0_claimant_25 : decode cX0_claimant 25 = .ok (.iconst 0, 1) := dk_3 (dk_at dksX0_claimant_1 1 rfl rfl)
theorem dX0_claimant_26 : decode cX0_claimant 26 = .ok (.ireturn, 1) := dk_172 (dk_at dksX0_claimant_1 2 rfl rfl)
abbrev cX0_method : ByteArray := method_29_code
def yX0_method : MethodName := ⟨RX0, "method", "(LVaultyard;IIII[J)I"⟩
def dkwX0_method_1 : List UInt8 := [172, 3, 172]
abbrev dktX0_method_1 : List UInt8 := dkwX0_method_1 ++ []
def dkwX0_method_0 : List UInt8 := [25, 5, 3, 42, 27, 28, 29, 21, 4, 182, 0, 108, 133, 80, 167, 0, 11, 58, 6, 4, 172, 58, 6, 5]
abbrev dktX0_method_0 : List UInt8 := dkwX0_method_0 ++ dktX0_method_1
theorem dksX0_method_0 : cX0_method.data.toList.drop 0 = dktX0_method_0 := by decide +kernel
theorem dksX0_method_1 : cX0_method.data.toList.drop 24 = dktX0_method_1 := dk_seg dksX0_method_0 24 rfl rfl
theorem dX0_method_0 : decode cX0_method 0 = .ok (.aload 5, 2) := dk_25 5 (dk_at dksX0_method_0 0 rfl rfl)
theorem dX0_method_2 : decode cX0_method 2 = .ok (.iconst 0, 1) := dk_3 (dk_at dksX0_method_0 2 rfl rfl)
theorem dX0_method_3 : decode cX0_method 3 = .ok (.aload_n 0, 1) := dk_42 (dk_at dksX0_method_0 3 rfl rfl)
theorem dX0_method_4 : decode cX0_method 4 = .ok (.iload_n 1, 1) := dk_27 (dk_at dksX0_method_0 4 rfl rfl)
theorem dX0_method_5 : decode cX0_method 5 = .ok (.iload_n 2, 1) := dk_28 (dk_at dksX0_method_0 5 rfl rfl)
theorem dX0_method_6 : decode cX0_method 6 = .ok (.iload_n 3, 1) := dk_29 (dk_at dksX0_method_0 6 rfl rfl)
theorem dX0_method_7 : decode cX0_method 7 = .ok (.iload 4, 2) := dk_21 4 (dk_at dksX0_method_0 7 rfl rfl)
theorem dX0_method_9 : decode cX0_method 9 = .ok (.invokevirtual 108, 3) := dk_182 0 108 (dk_at dksX0_method_0 9 rfl rfl)
theorem dX0_method_12 : decode cX0_method 12 = .ok (.i2l, 1) := dk_133 (dk_at dksX0_method_0 12 rfl rfl)
theorem dX0_method_13 : decode cX0_method 13 = .ok (.lastore, 1) := dk_80 (dk_at dksX0_method_0 13 rfl rfl)
theorem dX0_method_14 : decode cX0_method 14 = .ok (.goto 11, 3) := dk_167 0 11 (dk_at dksX0_method_0 14 rfl rfl)
theorem dX0_method_17 : decode cX0_method 17 = .ok (.astore 6, 2) := dk_58 6 (dk_at dksX0_method_0 17 rfl rfl)
theorem dX0_method_19 : decode cX0_method 19 = .ok (.iconst 1, 1) := dk_4 (dk_at dksX0_method_0 19 rfl rfl)
theorem dX0_method_20 : decode cX0_method 20 = .ok (.ireturn, 1) := dk_172 (dk_at dksX0_method_0 20 rfl rfl)
theorem dX0_method_21 : decode cX0_method 21 = .ok (.astore 6, 2) := dk_58 6 (dk_at dksX0_method_0 21 rfl rfl)
theorem dX0_method_23 : decode cX0_method 23 = .ok (.iconst 2, 1) := dk_5 (dk_at dksX0_method_0 23 rfl rfl)
theorem dX0_method_24 : decode cX0_method 24 = .ok (.ireturn, 1) := dk_172 (dk_at dksX0_method_1 0 rfl rfl)
theorem dX0_method_25 : decode cX0_method 25 = .ok (.iconst 0, 1) := dk_3 (dk_at dksX0_method_1 1 rfl rfl)
theorem dX0_method_26 : decode cX0_method 26 = .ok (.ireturn, 1) := dk_172 (dk_at dksX0_method_1 2 rfl rfl)
abbrev cX0_treat : ByteArray := method_30_code
def yX0_treat : MethodName := ⟨RX0, "treat", "(LVaultyard;II[J)I"⟩
def dkwX0_treat_0 : List UInt8 := [45, 3, 42, 27, 28, 182, 0, 111, 133, 80, 167, 0, 11, 58, 4, 4, 172, 58, 4, 5, 172, 3, 172]
abbrev dktX0_treat_0 : List UInt8 := dkwX0_treat_0 ++ []
theorem dksX0_treat_0 : cX0_treat.data.toList.drop 0 = dktX0_treat_0 := by decide +kernel
theorem dX0_treat_0 : decode cX0_treat 0 = .ok (.aload_n 3, 1) := dk_45 (dk_at dksX0_treat_0 0 rfl rfl)
theorem dX0_treat_1 : decode cX0_treat 1 = .ok (.iconst 0, 1) := dk_3 (dk_at dksX0_treat_0 1 rfl rfl)
theorem dX0_treat_2 : decode cX0_treat 2 = .ok (.aload_n 0, 1) := dk_42 (dk_at dksX0_treat_0 2 rfl rfl)
theorem dX0_treat_3 : decode cX0_treat 3 = .ok (.iload_n 1, 1) := dk_27 (dk_at dksX0_treat_0 3 rfl rfl)
theorem dX0_treat_4 : decode cX0_treat 4 = .ok (.iload_n 2, 1) := dk_28 (dk_at dksX0_treat_0 4 rfl rfl)
theorem dX0_treat_5 : decode cX0_treat 5 = .ok (.invokevirtual 111, 3) := dk_182 0 111 (dk_at dksX0_treat_0 5 rfl rfl)
theorem dX0_treat_8 : decode cX0_treat 8 = .ok (.i2l, 1) := dk_133 (dk_at dksX0_treat_0 8 rfl rfl)
theorem dX0_treat_9 : decode cX0_treat 9 = .ok (.lastore, 1) := dk_80 (dk_at dksX0_treat_0 9 rfl rfl)
theorem dX0_treat_10 : decode cX0_treat 10 = .ok (.goto 11, 3) := dk_167 0 11 (dk_at dksX0_treat_0 10 rfl rfl)
theorem dX0_treat_13 : decode cX0_treat 13 = .ok (.astore 4, 2) := dk_58 4 (dk_at dksX0_treat_0 13 rfl rfl)
theorem dX0_treat_15 : decode cX0_treat 15 = .ok (.iconst 1, 1) := dk_4 (dk_at dksX0_treat_0 15 rfl rfl)
theorem dX0_treat_16 : decode cX0_treat 16 = .ok (.ireturn, 1) := dk_172 (dk_at dksX0_treat_0 16 rfl rfl)
theorem dX0_treat_17 : decode cX0_treat 17 = .ok (.astore 4, 2) := dk_58 4 (dk_at dksX0_treat_0 17 rfl rfl)
theorem dX0_treat_19 : decode cX0_treat 19 = .ok (.iconst 2, 1) := dk_5 (dk_at dksX0_treat_0 19 rfl rfl)
theorem dX0_treat_20 : decode cX0_treat 20 = .ok (.ireturn, 1) := dk_172 (dk_at dksX0_treat_0 20 rfl rfl)
theorem dX0_treat_21 : decode cX0_treat 21 = .ok (.iconst 0, 1) := dk_3 (dk_at dksX0_treat_0 21 rfl rfl)
theorem dX0_treat_22 : decode cX0_treat 22 = .ok (.ireturn, 1) := dk_172 (dk_at dksX0_treat_0 22 rfl rfl)
abbrev cX0_kept : ByteArray := method_31_code
def yX0_kept : MethodName := ⟨RX0, "kept", "(LVaultyard;I[J)I"⟩
def dkwX0_kept_0 : List UInt8 := [44, 3, 42, 27, 182, 0, 114, 133, 80, 167, 0, 6, 78, 4, 172, 3, 172]
abbrev dktX0_kept_0 : List UInt8 := dkwX0_kept_0 ++ []
theorem dksX0_kept_0 : cX0_kept.data.toList.drop 0 = dktX0_kept_0 := by decide +kernel
theorem dX0_kept_0 : decode cX0_kept 0 = .ok (.aload_n 2, 1) := dk_44 (dk_at dksX0_kept_0 0 rfl rfl)
theorem dX0_kept_1 : decode cX0_kept 1 = .ok (.iconst 0, 1) := dk_3 (dk_at dksX0_kept_0 1 rfl rfl)
theorem dX0_kept_2 : decode cX0_kept 2 = .ok (.aload_n 0, 1) := dk_42 (dk_at dksX0_kept_0 2 rfl rfl)
theorem dX0_kept_3 : decode cX0_kept 3 = .ok (.iload_n 1, 1) := dk_27 (dk_at dksX0_kept_0 3 rfl rfl)
theorem dX0_kept_4 : decode cX0_kept 4 = .ok (.invokevirtual 114, 3) := dk_182 0 114 (dk_at dksX0_kept_0 4 rfl rfl)
theorem dX0_kept_7 : decode cX0_kept 7 = .ok (.i2l, 1) := dk_133 (dk_at dksX0_kept_0 7 rfl rfl)
theorem dX0_kept_8 : decode cX0_kept 8 = .ok (.lastore, 1) := dk_80 (dk_at dksX0_kept_0 8 rfl rfl)
theorem dX0_kept_9 : decode cX0_kept 9 = .ok (.goto 6, 3) := dk_167 0 6 (dk_at dksX0_kept_0 9 rfl rfl)
theorem dX0_kept_12 : decode cX0_kept 12 = .ok (.astore_n 3, 1) := dk_78 (dk_at dksX0_kept_0 12 rfl rfl)
theorem dX0_kept_13 : decode cX0_kept 13 = .ok (.iconst 1, 1) := dk_4 (dk_at dksX0_kept_0 13 rfl rfl)
theorem dX0_kept_14 : decode cX0_kept 14 = .ok (.ireturn, 1) := dk_172 (dk_at dksX0_kept_0 14 rfl rfl)
theorem dX0_kept_15 : decode cX0_kept 15 = .ok (.iconst 0, 1) := dk_3 (dk_at dksX0_kept_0 15 rfl rfl)
theorem dX0_kept_16 : decode cX0_kept 16 = .ok (.ireturn, 1) := dk_172 (dk_at dksX0_kept_0 16 rfl rfl)
abbrev cX0_box : ByteArray := method_32_code
def yX0_box : MethodName := ⟨RX0, "box", "(LVaultyard;I[J)I"⟩
def dkwX0_box_0 : List UInt8 := [44, 3, 42, 27, 182, 0, 117, 133, 80, 167, 0, 9, 78, 4, 172, 78, 5, 172, 3, 172]
abbrev dktX0_box_0 : List UInt8 := dkwX0_box_0 ++ []
theorem dksX0_box_0 : cX0_box.data.toList.drop 0 = dktX0_box_0 := by decide +kernel
theorem dX0_box_0 : decode cX0_box 0 = .ok (.aload_n 2, 1) := dk_44 (dk_at dksX0_box_0 0 rfl rfl)
theorem dX0_box_1 : decode cX0_box 1 = .ok (.iconst 0, 1) := dk_3 (dk_at dksX0_box_0 1 rfl rfl)
theorem dX0_box_2 : decode cX0_box 2 = .ok (.aload_n 0, 1) := dk_42 (dk_at dksX0_box_0 2 rfl rfl)
theorem dX0_box_3 : decode cX0_box 3 = .ok (.iload_n 1, 1) := dk_27 (dk_at dksX0_box_0 3 rfl rfl)
theorem dX0_box_4 : decode cX0_box 4 = .ok (.invokevirtual 117, 3) := dk_182 0 117 (dk_at dksX0_box_0 4 rfl rfl)
theorem dX0_box_7 : decode cX0_box 7 = .ok (.i2l, 1) := dk_133 (dk_at dksX0_box_0 7 rfl rfl)
theorem dX0_box_8 : decode cX0_box 8 = .ok (.lastore, 1) := dk_80 (dk_at dksX0_box_0 8 rfl rfl)
theorem dX0_box_9 : decode cX0_box 9 = .ok (.goto 9, 3) := dk_167 0 9 (dk_at dksX0_box_0 9 rfl rfl)
theorem dX0_box_12 : decode cX0_box 12 = .ok (.astore_n 3, 1) := dk_78 (dk_at dksX0_box_0 12 rfl rfl)
theorem dX0_box_13 : decode cX0_box 13 = .ok (.iconst 1, 1) := dk_4 (dk_at dksX0_box_0 13 rfl rfl)
theorem dX0_box_14 : decode cX0_box 14 = .ok (.ireturn, 1) := dk_172 (dk_at dksX0_box_0 14 rfl rfl)
theorem dX0_box_15 : decode cX0_box 15 = .ok (.astore_n 3, 1) := dk_78 (dk_at dksX0_box_0 15 rfl rfl)
theorem dX0_box_16 : decode cX0_box 16 = .ok (.iconst 2, 1) := dk_5 (dk_at dksX0_box_0 16 rfl rfl)
theorem dX0_box_17 : decode cX0_box 17 = .ok (.ireturn, 1) := dk_172 (dk_at dksX0_box_0 17 rfl rfl)
theorem dX0_box_18 : decode cX0_box 18 = .ok (.iconst 0, 1) := dk_3 (dk_at dksX0_box_0 18 rfl rfl)
theorem dX0_box_19 : decode cX0_box 19 = .ok (.ireturn, 1) := dk_172 (dk_at dksX0_box_0 19 rfl rfl)
abbrev cX0_pack : ByteArray := method_33_code
def yX0_pack : MethodName := ⟨RX0, "pack", "(LVaultyard;II[J)I"⟩
def dkwX0_pack_0 : List UInt8 := [45, 3, 42, 27, 28, 182, 0, 120, 133, 80, 167, 0, 11, 58, 4, 4, 172, 58, 4, 5, 172, 3, 172]
abbrev dktX0_pack_0 : List UInt8 := dkwX0_pack_0 ++ []
theorem dksX0_pack_0 : cX0_pack.data.toList.drop 0 = dktX0_pack_0 := by decide +kernel
theorem dX0_pack_0 : decode cX0_pack 0 = .ok (.aload_n 3, 1) := dk_45 (dk_at dksX0_pack_0 0 rfl rfl)
theorem dX0_pack_1 : decode cX0_pack 1 = .ok (.iconst 0, 1) := dk_3 (dk_at dksX0_pack_0 1 rfl rfl)
theorem dX0_pack_2 : decode cX0_pack 2 = .ok (.aload_n 0, 1) := dk_42 (dk_at dksX0_pack_0 2 rfl rfl)
theorem dX0_pack_3 : decode cX0_pack 3 = .ok (.iload_n 1, 1) := dk_27 (dk_at dksX0_pack_0 3 rfl rfl)
theorem dX0_pack_4 : decode cX0_pack 4 = .ok (.iload_n 2, 1) := dk_28 (dk_at dksX0_pack_0 4 rfl rfl)
theorem dX0_pack_5 : decode cX0_pack 5 = .ok (.invokevirtual 120, 3) := dk_182 0 120 (dk_at dksX0_pack_0 5 rfl rfl)
theorem dX0_pack_8 : decode cX0_pack 8 = .ok (.i2l, 1) := dk_133 (dk_at dksX0_pack_0 8 rfl rfl)
theorem dX0_pack_9 : decode cX0_pack 9 = .ok (.lastore, 1) := dk_80 (dk_at dksX0_pack_0 9 rfl rfl)
theorem dX0_pack_10 : decode cX0_pack 10 = .ok (.goto 11, 3) := dk_167 0 11 (dk_at dksX0_pack_0 10 rfl rfl)
theorem dX0_pack_13 : decode cX0_pack 13 = .ok (.astore 4, 2) := dk_58 4 (dk_at dksX0_pack_0 13 rfl rfl)
theorem dX0_pack_15 : decode cX0_pack 15 = .ok (.iconst 1, 1) := dk_4 (dk_at dksX0_pack_0 15 rfl rfl)
theorem dX0_pack_16 : decode cX0_pack 16 = .ok (.ireturn, 1) := dk_172 (dk_at dksX0_pack_0 16 rfl rfl)
theorem dX0_pack_17 : decode cX0_pack 17 = .ok (.astore 4, 2) := dk_58 4 (dk_at dksX0_pack_0 17 rfl rfl)
theorem dX0_pack_19 : decode cX0_pack 19 = .ok (.iconst 2, 1) := dk_5 (dk_at dksX0_pack_0 19 rfl rfl)
theorem dX0_pack_20 : decode cX0_pack 20 = .ok (.ireturn, 1) := dk_172 (dk_at dksX0_pack_0 20 rfl rfl)
theorem dX0_pack_21 : decode cX0_pack 21 = .ok (.iconst 0, 1) := dk_3 (dk_at dksX0_pack_0 21 rfl rfl)
theorem dX0_pack_22 : decode cX0_pack 22 = .ok (.ireturn, 1) := dk_172 (dk_at dksX0_pack_0 22 rfl rfl)
abbrev cX0_pests : ByteArray := method_34_code
def yX0_pests : MethodName := ⟨RX0, "pests", "(LVaultyard;I[J)I"⟩
def dkwX0_pests_0 : List UInt8 := [44, 3, 42, 27, 182, 0, 123, 133, 80, 167, 0, 6, 78, 4, 172, 3, 172]
abbrev dktX0_pests_0 : List UInt8 := dkwX0_pests_0 ++ []
theorem dksX0_pests_0 : cX0_pests.data.toList.drop 0 = dktX0_pests_0 := by decide +kernel
theorem dX0_pests_0 : decode cX0_pests 0 = .ok (.aload_n 2, 1) := dk_44 (dk_at dksX0_pests_0 0 rfl rfl)
theorem dX0_pests_1 : decode cX0_pests 1 = .ok (.iconst 0, 1) := dk_3 (dk_at dksX0_pests_0 1 rfl rfl)
theorem dX0_pests_2 : decode cX0_pests 2 = .ok (.aload_n 0, 1) := dk_42 (dk_at dksX0_pests_0 2 rfl rfl)
theorem dX0_pests_3 : decode cX0_pests 3 = .ok (.iload_n 1, 1) := dk_27 (dk_at dksX0_pests_0 3 rfl rfl)
theorem dX0_pests_4 : decode cX0_pests 4 = .ok (.invokevirtual 123, 3) := dk_182 0 123 (dk_at dksX0_pests_0 4 rfl rfl)
theorem dX0_pests_7 : decode cX0_pests 7 = .ok (.i2l, 1) := dk_133 (dk_at dksX0_pests_0 7 rfl rfl)
theorem dX0_pests_8 : decode cX0_pests 8 = .ok (.lastore, 1) := dk_80 (dk_at dksX0_pests_0 8 rfl rfl)
theorem dX0_pests_9 : decode cX0_pests 9 = .ok (.goto 6, 3) := dk_167 0 6 (dk_at dksX0_pests_0 9 rfl rfl)
theorem dX0_pests_12 : decode cX0_pests 12 = .ok (.astore_n 3, 1) := dk_78 (dk_at dksX0_pests_0 12 rfl rfl)
theorem dX0_pests_13 : decode cX0_pests 13 = .ok (.iconst 1, 1) := dk_4 (dk_at dksX0_pests_0 13 rfl rfl)
theorem dX0_pests_14 : decode cX0_pests 14 = .ok (.ireturn, 1) := dk_172 (dk_at dksX0_pests_0 14 rfl rfl)
theorem dX0_pests_15 : decode cX0_pests 15 = .ok (.iconst 0, 1) := dk_3 (dk_at dksX0_pests_0 15 rfl rfl)
theorem dX0_pests_16 : decode cX0_pests 16 = .ok (.ireturn, 1) := dk_172 (dk_at dksX0_pests_0 16 rfl rfl)
abbrev cX0_boxes : ByteArray := method_35_code
def yX0_boxes : MethodName := ⟨RX0, "boxes", "(LVaultyard;II[J)I"⟩
def dkwX0_boxes_0 : List UInt8 := [45, 3, 42, 27, 28, 182, 0, 126, 133, 80, 167, 0, 11, 58, 4, 4, 172, 58, 4, 5, 172, 3, 172]
abbrev dktX0_boxes_0 : List UInt8 := dkwX0_boxes_0 ++ []
theorem dksX0_boxes_0 : cX0_boxes.data.toList.drop 0 = dktX0_boxes_0 := by decide +kernel
theorem dX0_boxes_0 : decode cX0_boxes 0 = .ok (.aload_n 3, 1) := dk_45 (dk_at dksX0_boxes_0 0 rfl rfl)
theorem dX0_boxes_1 : decode cX0_boxes 1 = .ok (.iconst 0, 1) := dk_3 (dk_at dksX0_boxes_0 1 rfl rfl)
theorem dX0_boxes_2 : decode cX0_boxes 2 = .ok (.aload_n 0, 1) := dk_42 (dk_at dksX0_boxes_0 2 rfl rfl)
theorem dX0_boxes_3 : decode cX0_boxes 3 = .ok (.iload_n 1, 1) := dk_27 (dk_at dksX0_boxes_0 3 rfl rfl)
theorem dX0_boxes_4 : decode cX0_boxes 4 = .ok (.iload_n 2, 1) := dk_28 (dk_at dksX0_boxes_0 4 rfl rfl)
theorem dX0_boxes_5 : decode cX0_boxes 5 = .ok (.invokevirtual 126, 3) := dk_182 0 126 (dk_at dksX0_boxes_0 5 rfl rfl)
theorem dX0_boxes_8 : decode cX0_boxes 8 = .ok (.i2l, 1) := dk_133 (dk_at dksX0_boxes_0 8 rfl rfl)
theorem dX0_boxes_9 : decode cX0_boxes 9 = .ok (.lastore, 1) := dk_80 (dk_at dksX0_boxes_0 9 rfl rfl)
theorem dX0_boxes_10 : decode cX0_boxes 10 = .ok (.goto 11, 3) := dk_167 0 11 (dk_at dksX0_boxes_0 10 rfl rfl)
theorem dX0_boxes_13 : decode cX0_boxes 13 = .ok (.astore 4, 2) := dk_58 4 (dk_at dksX0_boxes_0 13 rfl rfl)
theorem dX0_boxes_15 : decode cX0_boxes 15 = .ok (.iconst 1, 1) := dk_4 (dk_at dksX0_boxes_0 15 rfl rfl)
theorem dX0_boxes_16 : decode cX0_boxes 16 = .ok (.ireturn, 1) := dk_172 (dk_at dksX0_boxes_0 16 rfl rfl)
theorem dX0_boxes_17 : decode cX0_boxes 17 = .ok (.astore 4, 2) := dk_58 4 (dk_at dksX0_boxes_0 17 rfl rfl)
theorem dX0_boxes_19 : decode cX0_boxes 19 = .ok (.iconst 2, 1) := dk_5 (dk_at dksX0_boxes_0 19 rfl rfl)
theorem dX0_boxes_20 : decode cX0_boxes 20 = .ok (.ireturn, 1) := dk_172 (dk_at dksX0_boxes_0 20 rfl rfl)
theorem dX0_boxes_21 : decode cX0_boxes 21 = .ok (.iconst 0, 1) := dk_3 (dk_at dksX0_boxes_0 21 rfl rfl)
theorem dX0_boxes_22 : decode cX0_boxes 22 = .ok (.ireturn, 1) := dk_172 (dk_at dksX0_boxes_0 22 rfl rfl)
abbrev cX0_miss : ByteArray := method_36_code
def yX0_miss : MethodName := ⟨RX0, "miss", "(LVaultyard;I[J)I"⟩
def dkwX0_miss_0 : List UInt8 := [44, 3, 42, 27, 182, 0, 129, 133, 80, 167, 0, 9, 78, 4, 172, 78, 5, 172, 3, 172]
abbrev dktX0_miss_0 : List UInt8 := dkwX0_miss_0 ++ []
theorem dksX0_miss_0 : cX0_miss.data.toList.drop 0 = dktX0_miss_0 := by decide +kernel
theorem dX0_miss_0 : decode cX0_miss 0 = .ok (.aload_n 2, 1) := dk_44 (dk_at dksX0_miss_0 0 rfl rfl)
theorem dX0_miss_1 : decode cX0_miss 1 = .ok (.iconst 0, 1) := dk_3 (dk_at dksX0_miss_0 1 rfl rfl)
theorem dX0_miss_2 : decode cX0_miss 2 = .ok (.aload_n 0, 1) := dk_42 (dk_at dksX0_miss_0 2 rfl rfl)
theorem dX0_miss_3 : decode cX0_miss 3 = .ok (.iload_n 1, 1) := dk_27 (dk_at dksX0_miss_0 3 rfl rfl)
theorem dX0_miss_4 : decode cX0_miss 4 = .ok (.invokevirtual 129, 3) := dk_182 0 129 (dk_at dksX0_miss_0 4 rfl rfl)
theorem dX0_miss_7 : decode cX0_miss 7 = .ok (.i2l, 1) := dk_133 (dk_at dksX0_miss_0 7 rfl rfl)
theorem dX0_miss_8 : decode cX0_miss 8 = .ok (.lastore, 1) := dk_80 (dk_at dksX0_miss_0 8 rfl rfl)
theorem dX0_miss_9 : decode cX0_miss 9 = .ok (.goto 9, 3) := dk_167 0 9 (dk_at dksX0_miss_0 9 rfl rfl)
theorem dX0_miss_12 : decode cX0_miss 12 = .ok (.astore_n 3, 1) := dk_78 (dk_at dksX0_miss_0 12 rfl rfl)
theorem dX0_miss_13 : decode cX0_miss 13 = .ok (.iconst 1, 1) := dk_4 (dk_at dksX0_miss_0 13 rfl rfl)
theorem dX0_miss_14 : decode cX0_miss 14 = .ok (.ireturn, 1) := dk_172 (dk_at dksX0_miss_0 14 rfl rfl)
theorem dX0_miss_15 : decode cX0_miss 15 = .ok (.astore_n 3, 1) := dk_78 (dk_at dksX0_miss_0 15 rfl rfl)
theorem dX0_miss_16 : decode cX0_miss 16 = .ok (.iconst 2, 1) := dk_5 (dk_at dksX0_miss_0 16 rfl rfl)
theorem dX0_miss_17 : decode cX0_miss 17 = .ok (.ireturn, 1) := dk_172 (dk_at dksX0_miss_0 17 rfl rfl)
theorem dX0_miss_18 : decode cX0_miss 18 = .ok (.iconst 0, 1) := dk_3 (dk_at dksX0_miss_0 18 rfl rfl)
theorem dX0_miss_19 : decode cX0_miss 19 = .ok (.ireturn, 1) := dk_172 (dk_at dksX0_miss_0 19 rfl rfl)
abbrev cX0_find : ByteArray := method_37_code
def yX0_find : MethodName := ⟨RX0, "find", "(LVaultyard;II[J)I"⟩
def dkwX0_find_0 : List UInt8 := [45, 3, 42, 27, 28, 182, 0, 132, 133, 80, 167, 0, 11, 58, 4, 4, 172, 58, 4, 5, 172, 3, 172]
abbrev dktX0_find_0 : List UInt8 := dkwX0_find_0 ++ []
theorem dksX0_find_0 : cX0_find.data.toList.drop 0 = dktX0_find_0 := by decide +kernel
theorem dX0_find_0 : decode cX0_find 0 = .ok (.aload_n 3, 1) := dk_45 (dk_at dksX0_find_0 0 rfl rfl)
theorem dX0_find_1 : decode cX0_find 1 = .ok (.iconst 0, 1) := dk_3 (dk_at dksX0_find_0 1 rfl rfl)
theorem dX0_find_2 : decode cX0_find 2 = .ok (.aload_n 0, 1) := dk_42 (dk_at dksX0_find_0 2 rfl rfl)
theorem dX0_find_3 : decode cX0_find 3 = .ok (.iload_n 1, 1) := dk_27 (dk_at dksX0_find_0 3 rfl rfl)
theorem dX0_find_4 : decode cX0_find 4 = .ok (.iload_n 2, 1) := dk_28 (dk_at dksX0_find_0 4 rfl rfl)
theorem dX0_find_5 : decode cX0_find 5 = .ok (.invokevirtual 132, 3) := dk_182 0 132 (dk_at dksX0_find_0 5 rfl rfl)
theorem dX0_find_8 : decode cX0_find 8 = .ok (.i2l, 1) := dk_133 (dk_at dksX0_find_0 8 rfl rfl)
theorem dX0_find_9 : decode cX0_find 9 = .ok (.lastore, 1) := dk_80 (dk_at dksX0_find_0 9 rfl rfl)
theorem dX0_find_10 : decode cX0_find 10 = .ok (.goto 11, 3) := dk_167 0 11 (dk_at dksX0_find_0 10 rfl rfl)
theorem dX0_find_13 : decode cX0_find 13 = .ok (.astore 4, 2) := dk_58 4 (dk_at dksX0_find_0 13 rfl rfl)
theorem dX0_find_15 : decode cX0_find 15 = .ok (.iconst 1, 1) := dk_4 (dk_at dksX0_find_0 15 rfl rfl)
theorem dX0_find_16 : decode cX0_find 16 = .ok (.ireturn, 1) := dk_172 (dk_at dksX0_find_0 16 rfl rfl)
theorem dX0_find_17 : decode cX0_find 17 = .ok (.astore 4, 2) := dk_58 4 (dk_at dksX0_find_0 17 rfl rfl)
theorem dX0_find_19 : decode cX0_find 19 = .ok (.iconst 2, 1) := dk_5 (dk_at dksX0_find_0 19 rfl rfl)
theorem dX0_find_20 : decode cX0_find 20 = .ok (.ireturn, 1) := dk_172 (dk_at dksX0_find_0 20 rfl rfl)
theorem dX0_find_21 : decode cX0_find 21 = .ok (.iconst 0, 1) := dk_3 (dk_at dksX0_find_0 21 rfl rfl)
theorem dX0_find_22 : decode cX0_find 22 = .ok (.ireturn, 1) := dk_172 (dk_at dksX0_find_0 22 rfl rfl)
abbrev cX0_shown : ByteArray := method_38_code
def yX0_shown : MethodName := ⟨RX0, "shown", "(LVaultyard;IIII[J)I"⟩
def dkwX0_shown_1 : List UInt8 := [172, 58, 6, 6, 172, 3, 172]
abbrev dktX0_shown_1 : List UInt8 := dkwX0_shown_1 ++ []
def dkwX0_shown_0 : List UInt8 := [25, 5, 3, 42, 27, 28, 29, 21, 4, 182, 0, 135, 133, 80, 167, 0, 15, 58, 6, 4, 172, 58, 6, 5]
abbrev dktX0_shown_0 : List UInt8 := dkwX0_shown_0 ++ dktX0_shown_1
theorem dksX0_shown_0 : cX0_shown.data.toList.drop 0 = dktX0_shown_0 := by decide +kernel
theorem dksX0_shown_1 : cX0_shown.data.toList.drop 24 = dktX0_shown_1 := dk_seg dksX0_shown_0 24 rfl rfl
theorem dX0_shown_0 : decode cX0_shown 0 = .ok (.aload 5, 2) := dk_25 5 (dk_at dksX0_shown_0 0 rfl rfl)
theorem dX0_shown_2 : decode cX0_shown 2 = .ok (.iconst 0, 1) := dk_3 (dk_at dksX0_shown_0 2 rfl rfl)
theorem dX0_shown_3 : decode cX0_shown 3 = .ok (.aload_n 0, 1) := dk_42 (dk_at dksX0_shown_0 3 rfl rfl)
theorem dX0_shown_4 : decode cX0_shown 4 = .ok (.iload_n 1, 1) := dk_27 (dk_at dksX0_shown_0 4 rfl rfl)
theorem dX0_shown_5 : decode cX0_shown 5 = .ok (.iload_n 2, 1) := dk_28 (dk_at dksX0_shown_0 5 rfl rfl)
theorem dX0_shown_6 : decode cX0_shown 6 = .ok (.iload_n 3, 1) := dk_29 (dk_at dksX0_shown_0 6 rfl rfl)
theorem dX0_shown_7 : decode cX0_shown 7 = .ok (.iload 4, 2) := dk_21 4 (dk_at dksX0_shown_0 7 rfl rfl)
theorem dX0_shown_9 : decode cX0_shown 9 = .ok (.invokevirtual 135, 3) := dk_182 0 135 (dk_at dksX0_shown_0 9 rfl rfl)
theorem dX0_shown_12 : decode cX0_shown 12 = .ok (.i2l, 1) := dk_133 (dk_at dksX0_shown_0 12 rfl rfl)
theorem dX0_shown_13 : decode cX0_shown 13 = .ok (.lastore, 1) := dk_80 (dk_at dksX0_shown_0 13 rfl rfl)
theorem dX0_shown_14 : decode cX0_shown 14 = .ok (.goto 15, 3) := dk_167 0 15 (dk_at dksX0_shown_0 14 rfl rfl)
theorem dX0_shown_17 : decode cX0_shown 17 = .ok (.astore 6, 2) := dk_58 6 (dk_at dksX0_shown_0 17 rfl rfl)
theorem dX0_shown_19 : decode cX0_shown 19 = .ok (.iconst 1, 1) := dk_4 (dk_at dksX0_shown_0 19 rfl rfl)
theorem dX0_shown_20 : decode cX0_shown 20 = .ok (.ireturn, 1) := dk_172 (dk_at dksX0_shown_0 20 rfl rfl)
theorem dX0_shown_21 : decode cX0_shown 21 = .ok (.astore 6, 2) := dk_58 6 (dk_at dksX0_shown_0 21 rfl rfl)
theorem dX0_shown_23 : decode cX0_shown 23 = .ok (.iconst 2, 1) := dk_5 (dk_at dksX0_shown_0 23 rfl rfl)
theorem dX0_shown_24 : decode cX0_shown 24 = .ok (.ireturn, 1) := dk_172 (dk_at dksX0_shown_1 0 rfl rfl)
theorem dX0_shown_25 : decode cX0_shown 25 = .ok (.astore 6, 2) := dk_58 6 (dk_at dksX0_shown_1 1 rfl rfl)
theorem dX0_shown_27 : decode cX0_shown 27 = .ok (.iconst 3, 1) := dk_6 (dk_at dksX0_shown_1 3 rfl rfl)
theorem dX0_shown_28 : decode cX0_shown 28 = .ok (.ireturn, 1) := dk_172 (dk_at dksX0_shown_1 4 rfl rfl)
theorem dX0_shown_29 : decode cX0_shown 29 = .ok (.iconst 0, 1) := dk_3 (dk_at dksX0_shown_1 5 rfl rfl)
theorem dX0_shown_30 : decode cX0_shown 30 = .ok (.ireturn, 1) := dk_172 (dk_at dksX0_shown_1 6 rfl rfl)
abbrev cX0_planned : ByteArray := method_39_code
def yX0_planned : MethodName := ⟨RX0, "planned", "(LVaultyard;III[J)I"⟩
def dkwX0_planned_1 : List UInt8 := [172]
abbrev dktX0_planned_1 : List UInt8 := dkwX0_planned_1 ++ []
def dkwX0_planned_0 : List UInt8 := [25, 4, 3, 42, 27, 28, 29, 182, 0, 138, 133, 80, 167, 0, 11, 58, 5, 4, 172, 58, 5, 5, 172, 3]
abbrev dktX0_planned_0 : List UInt8 := dkwX0_planned_0 ++ dktX0_planned_1
theorem dksX0_planned_0 : cX0_planned.data.toList.drop 0 = dktX0_planned_0 := by decide +kernel
theorem dksX0_planned_1 : cX0_planned.data.toList.drop 24 = dktX0_planned_1 := dk_seg dksX0_planned_0 24 rfl rfl
theorem dX0_planned_0 : decode cX0_planned 0 = .ok (.aload 4, 2) := dk_25 4 (dk_at dksX0_planned_0 0 rfl rfl)
theorem dX0_planned_2 : decode cX0_planned 2 = .ok (.iconst 0, 1) := dk_3 (dk_at dksX0_planned_0 2 rfl rfl)
theorem dX0_planned_3 : decode cX0_planned 3 = .ok (.aload_n 0, 1) := dk_42 (dk_at dksX0_planned_0 3 rfl rfl)
theorem dX0_planned_4 : decode cX0_planned 4 = .ok (.iload_n 1, 1) := dk_27 (dk_at dksX0_planned_0 4 rfl rfl)
theorem dX0_planned_5 : decode cX0_planned 5 = .ok (.iload_n 2, 1) := dk_28 (dk_at dksX0_planned_0 5 rfl rfl)
theorem dX0_planned_6 : decode cX0_planned 6 = .ok (.iload_n 3, 1) := dk_29 (dk_at dksX0_planned_0 6 rfl rfl)
theorem dX0_planned_7 : decode cX0_planned 7 = .ok (.invokevirtual 138, 3) := dk_182 0 138 (dk_at dksX0_planned_0 7 rfl rfl)
theorem dX0_planned_10 : decode cX0_planned 10 = .ok (.i2l, 1) := dk_133 (dk_at dksX0_planned_0 10 rfl rfl)
theorem dX0_planned_11 : decode cX0_planned 11 = .ok (.lastore, 1) := dk_80 (dk_at dksX0_planned_0 11 rfl rfl)
theorem dX0_planned_12 : decode cX0_planned 12 = .ok (.goto 11, 3) := dk_167 0 11 (dk_at dksX0_planned_0 12 rfl rfl)
theorem dX0_planned_15 : decode cX0_planned 15 = .ok (.astore 5, 2) := dk_58 5 (dk_at dksX0_planned_0 15 rfl rfl)
theorem dX0_planned_17 : decode cX0_planned 17 = .ok (.iconst 1, 1) := dk_4 (dk_at dksX0_planned_0 17 rfl rfl)
theorem dX0_planned_18 : decode cX0_planned 18 = .ok (.ireturn, 1) := dk_172 (dk_at dksX0_planned_0 18 rfl rfl)
theorem dX0_planned_19 : decode cX0_planned 19 = .ok (.astore 5, 2) := dk_58 5 (dk_at dksX0_planned_0 19 rfl rfl)
theorem dX0_planned_21 : decode cX0_planned 21 = .ok (.iconst 2, 1) := dk_5 (dk_at dksX0_planned_0 21 rfl rfl)
theorem dX0_planned_22 : decode cX0_planned 22 = .ok (.ireturn, 1) := dk_172 (dk_at dksX0_planned_0 22 rfl rfl)
theorem dX0_planned_23 : decode cX0_planned 23 = .ok (.iconst 0, 1) := dk_3 (dk_at dksX0_planned_0 23 rfl rfl)
theorem dX0_planned_24 : decode cX0_planned 24 = .ok (.ireturn, 1) := dk_172 (dk_at dksX0_planned_1 0 rfl rfl)
abbrev cX0_prior : ByteArray := method_40_code
def yX0_prior : MethodName := ⟨RX0, "prior", "(LVaultyard;III[J)I"⟩
def dkwX0_prior_1 : List UInt8 := [58, 5, 6, 172, 3, 172]
abbrev dktX0_prior_1 : List UInt8 := dkwX0_prior_1 ++ []
def dkwX0_prior_0 : List UInt8 := [25, 4, 3, 42, 27, 28, 29, 182, 0, 141, 133, 80, 167, 0, 15, 58, 5, 4, 172, 58, 5, 5, 172]
abbrev dktX0_prior_0 : List UInt8 := dkwX0_prior_0 ++ dktX0_prior_1
theorem dksX0_prior_0 : cX0_prior.data.toList.drop 0 = dktX0_prior_0 := by decide +kernel
theorem dksX0_prior_1 : cX0_prior.data.toList.drop 23 = dktX0_prior_1 := dk_seg dksX0_prior_0 23 rfl rfl
theorem dX0_prior_0 : decode cX0_prior 0 = .ok (.aload 4, 2) := dk_25 4 (dk_at dksX0_prior_0 0 rfl rfl)
theorem dX0_prior_2 : decode cX0_prior 2 = .ok (.iconst 0, 1) := dk_3 (dk_at dksX0_prior_0 2 rfl rfl)
theorem dX0_prior_3 : decode cX0_prior 3 = .ok (.aload_n 0, 1) := dk_42 (dk_at dksX0_prior_0 3 rfl rfl)
theorem dX0_prior_4 : decode cX0_prior 4 = .ok (.iload_n 1, 1) := dk_27 (dk_at dksX0_prior_0 4 rfl rfl)
theorem dX0_prior_5 : decode cX0_prior 5 = .ok (.iload_n 2, 1) := dk_28 (dk_at dksX0_prior_0 5 rfl rfl)
theorem dX0_prior_6 : decode cX0_prior 6 = .ok (.iload_n 3, 1) := dk_29 (dk_at dksX0_prior_0 6 rfl rfl)
theorem dX0_prior_7 : decode cX0_prior 7 = .ok (.invokevirtual 141, 3) := dk_182 0 141 (dk_at dksX0_prior_0 7 rfl rfl)
theorem dX0_prior_10 : decode cX0_prior 10 = .ok (.i2l, 1) := dk_133 (dk_at dksX0_prior_0 10 rfl rfl)
theorem dX0_prior_11 : decode cX0_prior 11 = .ok (.lastore, 1) := dk_80 (dk_at dksX0_prior_0 11 rfl rfl)
theorem dX0_prior_12 : decode cX0_prior 12 = .ok (.goto 15, 3) := dk_167 0 15 (dk_at dksX0_prior_0 12 rfl rfl)
theorem dX0_prior_15 : decode cX0_prior 15 = .ok (.astore 5, 2) := dk_58 5 (dk_at dksX0_prior_0 15 rfl rfl)
theorem dX0_prior_17 : decode cX0_prior 17 = .ok (.iconst 1, 1) := dk_4 (dk_at dksX0_prior_0 17 rfl rfl)
theorem dX0_prior_18 : decode cX0_prior 18 = .ok (.ireturn, 1) := dk_172 (dk_at dksX0_prior_0 18 rfl rfl)
theorem dX0_prior_19 : decode cX0_prior 19 = .ok (.astore 5, 2) := dk_58 5 (dk_at dksX0_prior_0 19 rfl rfl)
theorem dX0_prior_21 : decode cX0_prior 21 = .ok (.iconst 2, 1) := dk_5 (dk_at dksX0_prior_0 21 rfl rfl)
theorem dX0_prior_22 : decode cX0_prior 22 = .ok (.ireturn, 1) := dk_172 (dk_at dksX0_prior_0 22 rfl rfl)
theorem dX0_prior_23 : decode cX0_prior 23 = .ok (.astore 5, 2) := dk_58 5 (dk_at dksX0_prior_1 0 rfl rfl)
theorem dX0_prior_25 : decode cX0_prior 25 = .ok (.iconst 3, 1) := dk_6 (dk_at dksX0_prior_1 2 rfl rfl)
theorem dX0_prior_26 : decode cX0_prior 26 = .ok (.ireturn, 1) := dk_172 (dk_at dksX0_prior_1 3 rfl rfl)
theorem dX0_prior_27 : decode cX0_prior 27 = .ok (.iconst 0, 1) := dk_3 (dk_at dksX0_prior_1 4 rfl rfl)
theorem dX0_prior_28 : decode cX0_prior 28 = .ok (.ireturn, 1) := dk_172 (dk_at dksX0_prior_1 5 rfl rfl)
abbrev cX0_test : ByteArray := method_41_code
def yX0_test : MethodName := ⟨RX0, "test", "(LVaultyard;IIIZ[J)I"⟩
def dkwX0_test_1 : List UInt8 := [172, 58, 6, 6, 172, 3, 172]
abbrev dktX0_test_1 : List UInt8 := dkwX0_test_1 ++ []
def dkwX0_test_0 : List UInt8 := [25, 5, 3, 42, 27, 28, 29, 21, 4, 182, 0, 144, 133, 80, 167, 0, 15, 58, 6, 4, 172, 58, 6, 5]
abbrev dktX0_test_0 : List UInt8 := dkwX0_test_0 ++ dktX0_test_1
theorem dksX0_test_0 : cX0_test.data.toList.drop 0 = dktX0_test_0 := by decide +kernel
theorem dksX0_test_1 : cX0_test.data.toList.drop 24 = dktX0_test_1 := dk_seg dksX0_test_0 24 rfl rfl
theorem dX0_test_0 : decode cX0_test 0 = .ok (.aload 5, 2) := dk_25 5 (dk_at dksX0_test_0 0 rfl rfl)
theorem dX0_test_2 : decode cX0_test 2 = .ok (.iconst 0, 1) := dk_3 (dk_at dksX0_test_0 2 rfl rfl)
theorem dX0_test_3 : decode cX0_test 3 = .ok (.aload_n 0, 1) := dk_42 (dk_at dksX0_test_0 3 rfl rfl)
theorem dX0_test_4 : decode cX0_test 4 = .ok (.iload_n 1, 1) := dk_27 (dk_at dksX0_test_0 4 rfl rfl)
theorem dX0_test_5 : decode cX0_test 5 = .ok (.iload_n 2, 1) := dk_28 (dk_at dksX0_test_0 5 rfl rfl)
theorem dX0_test_6 : decode cX0_test 6 = .ok (.iload_n 3, 1) := dk_29 (dk_at dksX0_test_0 6 rfl rfl)
theorem dX0_test_7 : decode cX0_test 7 = .ok (.iload 4, 2) := dk_21 4 (dk_at dksX0_test_0 7 rfl rfl)
theorem dX0_test_9 : decode cX0_test 9 = .ok (.invokevirtual 144, 3) := dk_182 0 144 (dk_at dksX0_test_0 9 rfl rfl)
theorem dX0_test_12 : decode cX0_test 12 = .ok (.i2l, 1) := dk_133 (dk_at dksX0_test_0 12 rfl rfl)
theorem dX0_test_13 : decode cX0_test 13 = .ok (.lastore, 1) := dk_80 (dk_at dksX0_test_0 13 rfl rfl)
theorem dX0_test_14 : decode cX0_test 14 = .ok (.goto 15, 3) := dk_167 0 15 (dk_at dksX0_test_0 14 rfl rfl)
theorem dX0_test_17 : decode cX0_test 17 = .ok (.astore 6, 2) := dk_58 6 (dk_at dksX0_test_0 17 rfl rfl)
theorem dX0_test_19 : decode cX0_test 19 = .ok (.iconst 1, 1) := dk_4 (dk_at dksX0_test_0 19 rfl rfl)
theorem dX0_test_20 : decode cX0_test 20 = .ok (.ireturn, 1) := dk_172 (dk_at dksX0_test_0 20 rfl rfl)
theorem dX0_test_21 : decode cX0_test 21 = .ok (.astore 6, 2) := dk_58 6 (dk_at dksX0_test_0 21 rfl rfl)
theorem dX0_test_23 : decode cX0_test 23 = .ok (.iconst 2, 1) := dk_5 (dk_at dksX0_test_0 23 rfl rfl)
theorem dX0_test_24 : decode cX0_test 24 = .ok (.ireturn, 1) := dk_172 (dk_at dksX0_test_1 0 rfl rfl)
theorem dX0_test_25 : decode cX0_test 25 = .ok (.astore 6, 2) := dk_58 6 (dk_at dksX0_test_1 1 rfl rfl)
theorem dX0_test_27 : decode cX0_test 27 = .ok (.iconst 3, 1) := dk_6 (dk_at dksX0_test_1 3 rfl rfl)
theorem dX0_test_28 : decode cX0_test 28 = .ok (.ireturn, 1) := dk_172 (dk_at dksX0_test_1 4 rfl rfl)
theorem dX0_test_29 : decode cX0_test 29 = .ok (.iconst 0, 1) := dk_3 (dk_at dksX0_test_1 5 rfl rfl)
theorem dX0_test_30 : decode cX0_test 30 = .ok (.ireturn, 1) := dk_172 (dk_at dksX0_test_1 6 rfl rfl)
abbrev cX0_oddsFor : ByteArray := method_42_code
def yX0_oddsFor : MethodName := ⟨RX0, "oddsFor", "(LVaultyard;I[J)I"⟩
def dkwX0_oddsFor_0 : List UInt8 := [44, 3, 42, 27, 182, 0, 148, 80, 167, 0, 6, 78, 4, 172, 3, 172]
abbrev dktX0_oddsFor_0 : List UInt8 := dkwX0_oddsFor_0 ++ []
theorem dksX0_oddsFor_0 : cX0_oddsFor.data.toList.drop 0 = dktX0_oddsFor_0 := by decide +kernel
theorem dX0_oddsFor_0 : decode cX0_oddsFor 0 = .ok (.aload_n 2, 1) := dk_44 (dk_at dksX0_oddsFor_0 0 rfl rfl)
theorem dX0_oddsFor_1 : decode cX0_oddsFor 1 = .ok (.iconst 0, 1) := dk_3 (dk_at dksX0_oddsFor_0 1 rfl rfl)
theorem dX0_oddsFor_2 : decode cX0_oddsFor 2 = .ok (.aload_n 0, 1) := dk_42 (dk_at dksX0_oddsFor_0 2 rfl rfl)
theorem dX0_oddsFor_3 : decode cX0_oddsFor 3 = .ok (.iload_n 1, 1) := dk_27 (dk_at dksX0_oddsFor_0 3 rfl rfl)
theorem dX0_oddsFor_4 : decode cX0_oddsFor 4 = .ok (.invokevirtual 148, 3) := dk_182 0 148 (dk_at dksX0_oddsFor_0 4 rfl rfl)
theorem dX0_oddsFor_7 : decode cX0_oddsFor 7 = .ok (.lastore, 1) := dk_80 (dk_at dksX0_oddsFor_0 7 rfl rfl)
theorem dX0_oddsFor_8 : decode cX0_oddsFor 8 = .ok (.goto 6, 3) := dk_167 0 6 (dk_at dksX0_oddsFor_0 8 rfl rfl)
theorem dX0_oddsFor_11 : decode cX0_oddsFor 11 = .ok (.astore_n 3, 1) := dk_78 (dk_at dksX0_oddsFor_0 11 rfl rfl)
theorem dX0_oddsFor_12 : decode cX0_oddsFor 12 = .ok (.iconst 1, 1) := dk_4 (dk_at dksX0_oddsFor_0 12 rfl rfl)
theorem dX0_oddsFor_13 : decode cX0_oddsFor 13 = .ok (.ireturn, 1) := dk_172 (dk_at dksX0_oddsFor_0 13 rfl rfl)
theorem dX0_oddsFor_14 : decode cX0_oddsFor 14 = .ok (.iconst 0, 1) := dk_3 (dk_at dksX0_oddsFor_0 14 rfl rfl)
theorem dX0_oddsFor_15 : decode cX0_oddsFor 15 = .ok (.ireturn, 1) := dk_172 (dk_at dksX0_oddsFor_0 15 rfl rfl)
abbrev cX0_oddsAgainst : ByteArray := method_43_code
def yX0_oddsAgainst : MethodName := ⟨RX0, "oddsAgainst", "(LVaultyard;I[J)I"⟩
def dkwX0_oddsAgainst_0 : List UInt8 := [44, 3, 42, 27, 182, 0, 152, 80, 167, 0, 6, 78, 4, 172, 3, 172]
abbrev dktX0_oddsAgainst_0 : List UInt8 := dkwX0_oddsAgainst_0 ++ []
theorem dksX0_oddsAgainst_0 : cX0_oddsAgainst.data.toList.drop 0 = dktX0_oddsAgainst_0 := by decide +kernel
theorem dX0_oddsAgainst_0 : decode cX0_oddsAgainst 0 = .ok (.aload_n 2, 1) := dk_44 (dk_at dksX0_oddsAgainst_0 0 rfl rfl)
theorem dX0_oddsAgainst_1 : decode cX0_oddsAgainst 1 = .ok (.iconst 0, 1) := dk_3 (dk_at dksX0_oddsAgainst_0 1 rfl rfl)
theorem dX0_oddsAgainst_2 : decode cX0_oddsAgainst 2 = .ok (.aload_n 0, 1) := dk_42 (dk_at dksX0_oddsAgainst_0 2 rfl rfl)
theorem dX0_oddsAgainst_3 : decode cX0_oddsAgainst 3 = .ok (.iload_n 1, 1) := dk_27 (dk_at dksX0_oddsAgainst_0 3 rfl rfl)
theorem dX0_oddsAgainst_4 : decode cX0_oddsAgainst 4 = .ok (.invokevirtual 152, 3) := dk_182 0 152 (dk_at dksX0_oddsAgainst_0 4 rfl rfl)
theorem dX0_oddsAgainst_7 : decode cX0_oddsAgainst 7 = .ok (.lastore, 1) := dk_80 (dk_at dksX0_oddsAgainst_0 7 rfl rfl)
theorem dX0_oddsAgainst_8 : decode cX0_oddsAgainst 8 = .ok (.goto 6, 3) := dk_167 0 6 (dk_at dksX0_oddsAgainst_0 8 rfl rfl)
theorem dX0_oddsAgainst_11 : decode cX0_oddsAgainst 11 = .ok (.astore_n 3, 1) := dk_78 (dk_at dksX0_oddsAgainst_0 11 rfl rfl)
theorem dX0_oddsAgainst_12 : decode cX0_oddsAgainst 12 = .ok (.iconst 1, 1) := dk_4 (dk_at dksX0_oddsAgainst_0 12 rfl rfl)
theorem dX0_oddsAgainst_13 : decode cX0_oddsAgainst 13 = .ok (.ireturn, 1) := dk_172 (dk_at dksX0_oddsAgainst_0 13 rfl rfl)
theorem dX0_oddsAgainst_14 : decode cX0_oddsAgainst 14 = .ok (.iconst 0, 1) := dk_3 (dk_at dksX0_oddsAgainst_0 14 rfl rfl)
theorem dX0_oddsAgainst_15 : decode cX0_oddsAgainst 15 = .ok (.ireturn, 1) := dk_172 (dk_at dksX0_oddsAgainst_0 15 rfl rfl)
abbrev cX0_isFake : ByteArray := method_44_code
def yX0_isFake : MethodName := ⟨RX0, "isFake", "(LVaultyard;I[J)I"⟩
def dkwX0_isFake_0 : List UInt8 := [44, 3, 42, 27, 182, 0, 155, 153, 0, 7, 10, 167, 0, 4, 9, 80, 167, 0, 6, 78, 4, 172, 3, 172]
abbrev dktX0_isFake_0 : List UInt8 := dkwX0_isFake_0 ++ []
theorem dksX0_isFake_0 : cX0_isFake.data.toList.drop 0 = dktX0_isFake_0 := by decide +kernel
theorem dX0_isFake_0 : decode cX0_isFake 0 = .ok (.aload_n 2, 1) := dk_44 (dk_at dksX0_isFake_0 0 rfl rfl)
theorem dX0_isFake_1 : decode cX0_isFake 1 = .ok (.iconst 0, 1) := dk_3 (dk_at dksX0_isFake_0 1 rfl rfl)
theorem dX0_isFake_2 : decode cX0_isFake 2 = .ok (.aload_n 0, 1) := dk_42 (dk_at dksX0_isFake_0 2 rfl rfl)
theorem dX0_isFake_3 : decode cX0_isFake 3 = .ok (.iload_n 1, 1) := dk_27 (dk_at dksX0_isFake_0 3 rfl rfl)
theorem dX0_isFake_4 : decode cX0_isFake 4 = .ok (.invokevirtual 155, 3) := dk_182 0 155 (dk_at dksX0_isFake_0 4 rfl rfl)
theorem dX0_isFake_7 : decode cX0_isFake 7 = .ok (.ifCond .eq 7, 3) := dk_153 0 7 (dk_at dksX0_isFake_0 7 rfl rfl)
theorem dX0_isFake_10 : decode cX0_isFake 10 = .ok (.lconst 1, 1) := dk_10 (dk_at dksX0_isFake_0 10 rfl rfl)
theorem dX0_isFake_11 : decode cX0_isFake 11 = .ok (.goto 4, 3) := dk_167 0 4 (dk_at dksX0_isFake_0 11 rfl rfl)
theorem dX0_isFake_14 : decode cX0_isFake 14 = .ok (.lconst 0, 1) := dk_9 (dk_at dksX0_isFake_0 14 rfl rfl)
theorem dX0_isFake_15 : decode cX0_isFake 15 = .ok (.lastore, 1) := dk_80 (dk_at dksX0_isFake_0 15 rfl rfl)
theorem dX0_isFake_16 : decode cX0_isFake 16 = .ok (.goto 6, 3) := dk_167 0 6 (dk_at dksX0_isFake_0 16 rfl rfl)
theorem dX0_isFake_19 : decode cX0_isFake 19 = .ok (.astore_n 3, 1) := dk_78 (dk_at dksX0_isFake_0 19 rfl rfl)
theorem dX0_isFake_20 : decode cX0_isFake 20 = .ok (.iconst 1, 1) := dk_4 (dk_at dksX0_isFake_0 20 rfl rfl)
theorem dX0_isFake_21 : decode cX0_isFake 21 = .ok (.ireturn, 1) := dk_172 (dk_at dksX0_isFake_0 21 rfl rfl)
theorem dX0_isFake_22 : decode cX0_isFake 22 = .ok (.iconst 0, 1) := dk_3 (dk_at dksX0_isFake_0 22 rfl rfl)
theorem dX0_isFake_23 : decode cX0_isFake 23 = .ok (.ireturn, 1) := dk_172 (dk_at dksX0_isFake_0 23 rfl rfl)
abbrev cX0_opinion : ByteArray := method_45_code
def yX0_opinion : MethodName := ⟨RX0, "opinion", "(LVaultyard;III[J)I"⟩
def dkwX0_opinion_1 : List UInt8 := [58, 5, 6, 172, 3, 172]
abbrev dktX0_opinion_1 : List UInt8 := dkwX0_opinion_1 ++ []
def dkwX0_opinion_0 : List UInt8 := [25, 4, 3, 42, 27, 28, 29, 182, 0, 158, 133, 80, 167, 0, 15, 58, 5, 4, 172, 58, 5, 5, 172]
abbrev dktX0_opinion_0 : List UInt8 := dkwX0_opinion_0 ++ dktX0_opinion_1
theorem dksX0_opinion_0 : cX0_opinion.data.toList.drop 0 = dktX0_opinion_0 := by decide +kernel
theorem dksX0_opinion_1 : cX0_opinion.data.toList.drop 23 = dktX0_opinion_1 := dk_seg dksX0_opinion_0 23 rfl rfl
theorem dX0_opinion_0 : decode cX0_opinion 0 = .ok (.aload 4, 2) := dk_25 4 (dk_at dksX0_opinion_0 0 rfl rfl)
theorem dX0_opinion_2 : decode cX0_opinion 2 = .ok (.iconst 0, 1) := dk_3 (dk_at dksX0_opinion_0 2 rfl rfl)
theorem dX0_opinion_3 : decode cX0_opinion 3 = .ok (.aload_n 0, 1) := dk_42 (dk_at dksX0_opinion_0 3 rfl rfl)
theorem dX0_opinion_4 : decode cX0_opinion 4 = .ok (.iload_n 1, 1) := dk_27 (dk_at dksX0_opinion_0 4 rfl rfl)
theorem dX0_opinion_5 : decode cX0_opinion 5 = .ok (.iload_n 2, 1) := dk_28 (dk_at dksX0_opinion_0 5 rfl rfl)
theorem dX0_opinion_6 : decode cX0_opinion 6 = .ok (.iload_n 3, 1) := dk_29 (dk_at dksX0_opinion_0 6 rfl rfl)
theorem dX0_opinion_7 : decode cX0_opinion 7 = .ok (.invokevirtual 158, 3) := dk_182 0 158 (dk_at dksX0_opinion_0 7 rfl rfl)
theorem dX0_opinion_10 : decode cX0_opinion 10 = .ok (.i2l, 1) := dk_133 (dk_at dksX0_opinion_0 10 rfl rfl)
theorem dX0_opinion_11 : decode cX0_opinion 11 = .ok (.lastore, 1) := dk_80 (dk_at dksX0_opinion_0 11 rfl rfl)
theorem dX0_opinion_12 : decode cX0_opinion 12 = .ok (.goto 15, 3) := dk_167 0 15 (dk_at dksX0_opinion_0 12 rfl rfl)
theorem dX0_opinion_15 : decode cX0_opinion 15 = .ok (.astore 5, 2) := dk_58 5 (dk_at dksX0_opinion_0 15 rfl rfl)
theorem dX0_opinion_17 : decode cX0_opinion 17 = .ok (.iconst 1, 1) := dk_4 (dk_at dksX0_opinion_0 17 rfl rfl)
theorem dX0_opinion_18 : decode cX0_opinion 18 = .ok (.ireturn, 1) := dk_172 (dk_at dksX0_opinion_0 18 rfl rfl)
theorem dX0_opinion_19 : decode cX0_opinion 19 = .ok (.astore 5, 2) := dk_58 5 (dk_at dksX0_opinion_0 19 rfl rfl)
theorem dX0_opinion_21 : decode cX0_opinion 21 = .ok (.iconst 2, 1) := dk_5 (dk_at dksX0_opinion_0 21 rfl rfl)
theorem dX0_opinion_22 : decode cX0_opinion 22 = .ok (.ireturn, 1) := dk_172 (dk_at dksX0_opinion_0 22 rfl rfl)
theorem dX0_opinion_23 : decode cX0_opinion 23 = .ok (.astore 5, 2) := dk_58 5 (dk_at dksX0_opinion_1 0 rfl rfl)
theorem dX0_opinion_25 : decode cX0_opinion 25 = .ok (.iconst 3, 1) := dk_6 (dk_at dksX0_opinion_1 2 rfl rfl)
theorem dX0_opinion_26 : decode cX0_opinion 26 = .ok (.ireturn, 1) := dk_172 (dk_at dksX0_opinion_1 3 rfl rfl)
theorem dX0_opinion_27 : decode cX0_opinion 27 = .ok (.iconst 0, 1) := dk_3 (dk_at dksX0_opinion_1 4 rfl rfl)
theorem dX0_opinion_28 : decode cX0_opinion 28 = .ok (.ireturn, 1) := dk_172 (dk_at dksX0_opinion_1 5 rfl rfl)
abbrev cX0_held : ByteArray := method_46_code
def yX0_held : MethodName := ⟨RX0, "held", "(LVaultyard;II[J)I"⟩
def dkwX0_held_1 : List UInt8 := [172, 3, 172]
abbrev dktX0_held_1 : List UInt8 := dkwX0_held_1 ++ []
def dkwX0_held_0 : List UInt8 := [45, 3, 42, 27, 28, 182, 0, 161, 133, 80, 167, 0, 15, 58, 4, 4, 172, 58, 4, 5, 172, 58, 4, 6]
abbrev dktX0_held_0 : List UInt8 := dkwX0_held_0 ++ dktX0_held_1
theorem dksX0_held_0 : cX0_held.data.toList.drop 0 = dktX0_held_0 := by decide +kernel
theorem dksX0_held_1 : cX0_held.data.toList.drop 24 = dktX0_held_1 := dk_seg dksX0_held_0 24 rfl rfl
theorem dX0_held_0 : decode cX0_held 0 = .ok (.aload_n 3, 1) := dk_45 (dk_at dksX0_held_0 0 rfl rfl)
theorem dX0_held_1 : decode cX0_held 1 = .ok (.iconst 0, 1) := dk_3 (dk_at dksX0_held_0 1 rfl rfl)
theorem dX0_held_2 : decode cX0_held 2 = .ok (.aload_n 0, 1) := dk_42 (dk_at dksX0_held_0 2 rfl rfl)
theorem dX0_held_3 : decode cX0_held 3 = .ok (.iload_n 1, 1) := dk_27 (dk_at dksX0_held_0 3 rfl rfl)
theorem dX0_held_4 : decode cX0_held 4 = .ok (.iload_n 2, 1) := dk_28 (dk_at dksX0_held_0 4 rfl rfl)
theorem dX0_held_5 : decode cX0_held 5 = .ok (.invokevirtual 161, 3) := dk_182 0 161 (dk_at dksX0_held_0 5 rfl rfl)
theorem dX0_held_8 : decode cX0_held 8 = .ok (.i2l, 1) := dk_133 (dk_at dksX0_held_0 8 rfl rfl)
theorem dX0_held_9 : decode cX0_held 9 = .ok (.lastore, 1) := dk_80 (dk_at dksX0_held_0 9 rfl rfl)
theorem dX0_held_10 : decode cX0_held 10 = .ok (.goto 15, 3) := dk_167 0 15 (dk_at dksX0_held_0 10 rfl rfl)
theorem dX0_held_13 : decode cX0_held 13 = .ok (.astore 4, 2) := dk_58 4 (dk_at dksX0_held_0 13 rfl rfl)
theorem dX0_held_15 : decode cX0_held 15 = .ok (.iconst 1, 1) := dk_4 (dk_at dksX0_held_0 15 rfl rfl)
theorem dX0_held_16 : decode cX0_held 16 = .ok (.ireturn, 1) := dk_172 (dk_at dksX0_held_0 16 rfl rfl)
theorem dX0_held_17 : decode cX0_held 17 = .ok (.astore 4, 2) := dk_58 4 (dk_at dksX0_held_0 17 rfl rfl)
theorem dX0_held_19 : decode cX0_held 19 = .ok (.iconst 2, 1) := dk_5 (dk_at dksX0_held_0 19 rfl rfl)
theorem dX0_held_20 : decode cX0_held 20 = .ok (.ireturn, 1) := dk_172 (dk_at dksX0_held_0 20 rfl rfl)
theorem dX0_held_21 : decode cX0_held 21 = .ok (.astore 4, 2) := dk_58 4 (dk_at dksX0_held_0 21 rfl rfl)
theorem dX0_held_23 : decode cX0_held 23 = .ok (.iconst 3, 1) := dk_6 (dk_at dksX0_held_0 23 rfl rfl)
theorem dX0_held_24 : decode cX0_held 24 = .ok (.ireturn, 1) := dk_172 (dk_at dksX0_held_1 0 rfl rfl)
theorem dX0_held_25 : decode cX0_held 25 = .ok (.iconst 0, 1) := dk_3 (dk_at dksX0_held_1 1 rfl rfl)
theorem dX0_held_26 : decode cX0_held 26 = .ok (.ireturn, 1) := dk_172 (dk_at dksX0_held_1 2 rfl rfl)
abbrev cX0_code : ByteArray := method_47_code
def yX0_code : MethodName := ⟨RX0, "code", "(LVaultyard;I[J)I"⟩
def dkwX0_code_0 : List UInt8 := [44, 3, 42, 27, 182, 0, 164, 133, 80, 167, 0, 9, 78, 4, 172, 78, 5, 172, 3, 172]
abbrev dktX0_code_0 : List UInt8 := dkwX0_code_0 ++ []
theorem dksX0_code_0 : cX0_code.data.toList.drop 0 = dktX0_code_0 := by decide +kernel
theorem dX0_code_0 : decode cX0_code 0 = .ok (.aload_n 2, 1) := dk_44 (dk_at dksX0_code_0 0 rfl rfl)
theorem dX0_code_1 : decode cX0_code 1 = .ok (.iconst 0, 1) := dk_3 (dk_at dksX0_code_0 1 rfl rfl)
theorem dX0_code_2 : decode cX0_code 2 = .ok (.aload_n 0, 1) := dk_42 (dk_at dksX0_code_0 2 rfl rfl)
theorem dX0_code_3 : decode cX0_code 3 = .ok (.iload_n 1, 1) := dk_27 (dk_at dksX0_code_0 3 rfl rfl)
theorem dX0_code_4 : decode cX0_code 4 = .ok (.invokevirtual 164, 3) := dk_182 0 164 (dk_at dksX0_code_0 4 rfl rfl)
theorem dX0_code_7 : decode cX0_code 7 = .ok (.i2l, 1) := dk_133 (dk_at dksX0_code_0 7 rfl rfl)
theorem dX0_code_8 : decode cX0_code 8 = .ok (.lastore, 1) := dk_80 (dk_at dksX0_code_0 8 rfl rfl)
theorem dX0_code_9 : decode cX0_code 9 = .ok (.goto 9, 3) := dk_167 0 9 (dk_at dksX0_code_0 9 rfl rfl)
theorem dX0_code_12 : decode cX0_code 12 = .ok (.astore_n 3, 1) := dk_78 (dk_at dksX0_code_0 12 rfl rfl)
theorem dX0_code_13 : decode cX0_code 13 = .ok (.iconst 1, 1) := dk_4 (dk_at dksX0_code_0 13 rfl rfl)
theorem dX0_code_14 : decode cX0_code 14 = .ok (.ireturn, 1) := dk_172 (dk_at dksX0_code_0 14 rfl rfl)
theorem dX0_code_15 : decode cX0_code 15 = .ok (.astore_n 3, 1) := dk_78 (dk_at dksX0_code_0 15 rfl rfl)
theorem dX0_code_16 : decode cX0_code 16 = .ok (.iconst 2, 1) := dk_5 (dk_at dksX0_code_0 16 rfl rfl)
theorem dX0_code_17 : decode cX0_code 17 = .ok (.ireturn, 1) := dk_172 (dk_at dksX0_code_0 17 rfl rfl)
theorem dX0_code_18 : decode cX0_code 18 = .ok (.iconst 0, 1) := dk_3 (dk_at dksX0_code_0 18 rfl rfl)
theorem dX0_code_19 : decode cX0_code 19 = .ok (.ireturn, 1) := dk_172 (dk_at dksX0_code_0 19 rfl rfl)
abbrev cX0_told : ByteArray := method_48_code
def yX0_told : MethodName := ⟨RX0, "told", "(LVaultyard;II[J)I"⟩
def dkwX0_told_0 : List UInt8 := [45, 3, 42, 27, 28, 182, 0, 167, 133, 80, 167, 0, 11, 58, 4, 4, 172, 58, 4, 5, 172, 3, 172]
abbrev dktX0_told_0 : List UInt8 := dkwX0_told_0 ++ []
theorem dksX0_told_0 : cX0_told.data.toList.drop 0 = dktX0_told_0 := by decide +kernel
theorem dX0_told_0 : decode cX0_told 0 = .ok (.aload_n 3, 1) := dk_45 (dk_at dksX0_told_0 0 rfl rfl)
theorem dX0_told_1 : decode cX0_told 1 = .ok (.iconst 0, 1) := dk_3 (dk_at dksX0_told_0 1 rfl rfl)
theorem dX0_told_2 : decode cX0_told 2 = .ok (.aload_n 0, 1) := dk_42 (dk_at dksX0_told_0 2 rfl rfl)
theorem dX0_told_3 : decode cX0_told 3 = .ok (.iload_n 1, 1) := dk_27 (dk_at dksX0_told_0 3 rfl rfl)
theorem dX0_told_4 : decode cX0_told 4 = .ok (.iload_n 2, 1) := dk_28 (dk_at dksX0_told_0 4 rfl rfl)
theorem dX0_told_5 : decode cX0_told 5 = .ok (.invokevirtual 167, 3) := dk_182 0 167 (dk_at dksX0_told_0 5 rfl rfl)
theorem dX0_told_8 : decode cX0_told 8 = .ok (.i2l, 1) := dk_133 (dk_at dksX0_told_0 8 rfl rfl)
theorem dX0_told_9 : decode cX0_told 9 = .ok (.lastore, 1) := dk_80 (dk_at dksX0_told_0 9 rfl rfl)
theorem dX0_told_10 : decode cX0_told 10 = .ok (.goto 11, 3) := dk_167 0 11 (dk_at dksX0_told_0 10 rfl rfl)
theorem dX0_told_13 : decode cX0_told 13 = .ok (.astore 4, 2) := dk_58 4 (dk_at dksX0_told_0 13 rfl rfl)
theorem dX0_told_15 : decode cX0_told 15 = .ok (.iconst 1, 1) := dk_4 (dk_at dksX0_told_0 15 rfl rfl)
theorem dX0_told_16 : decode cX0_told 16 = .ok (.ireturn, 1) := dk_172 (dk_at dksX0_told_0 16 rfl rfl)
theorem dX0_told_17 : decode cX0_told 17 = .ok (.astore 4, 2) := dk_58 4 (dk_at dksX0_told_0 17 rfl rfl)
theorem dX0_told_19 : decode cX0_told 19 = .ok (.iconst 2, 1) := dk_5 (dk_at dksX0_told_0 19 rfl rfl)
theorem dX0_told_20 : decode cX0_told 20 = .ok (.ireturn, 1) := dk_172 (dk_at dksX0_told_0 20 rfl rfl)
theorem dX0_told_21 : decode cX0_told 21 = .ok (.iconst 0, 1) := dk_3 (dk_at dksX0_told_0 21 rfl rfl)
theorem dX0_told_22 : decode cX0_told 22 = .ok (.ireturn, 1) := dk_172 (dk_at dksX0_told_0 22 rfl rfl)
abbrev cX0_fund : ByteArray := method_49_code
def yX0_fund : MethodName := ⟨RX0, "fund", "(LVaultyard;II[J)I"⟩
def dkwX0_fund_0 : List UInt8 := [45, 3, 42, 27, 28, 182, 0, 170, 133, 80, 167, 0, 11, 58, 4, 4, 172, 58, 4, 5, 172, 3, 172]
abbrev dktX0_fund_0 : List UInt8 := dkwX0_fund_0 ++ []
theorem dksX0_fund_0 : cX0_fund.data.toList.drop 0 = dktX0_fund_0 := by decide +kernel
theorem dX0_fund_0 : decode cX0_fund 0 = .ok (.aload_n 3, 1) := dk_45 (dk_at dksX0_fund_0 0 rfl rfl)
theorem dX0_fund_1 : decode cX0_fund 1 = .ok (.iconst 0, 1) := dk_3 (dk_at dksX0_fund_0 1 rfl rfl)
theorem dX0_fund_2 : decode cX0_fund 2 = .ok (.aload_n 0, 1) := dk_42 (dk_at dksX0_fund_0 2 rfl rfl)
theorem dX0_fund_3 : decode cX0_fund 3 = .ok (.iload_n 1, 1) := dk_27 (dk_at dksX0_fund_0 3 rfl rfl)
theorem dX0_fund_4 : decode cX0_fund 4 = .ok (.iload_n 2, 1) := dk_28 (dk_at dksX0_fund_0 4 rfl rfl)
theorem dX0_fund_5 : decode cX0_fund 5 = .ok (.invokevirtual 170, 3) := dk_182 0 170 (dk_at dksX0_fund_0 5 rfl rfl)
theorem dX0_fund_8 : decode cX0_fund 8 = .ok (.i2l, 1) := dk_133 (dk_at dksX0_fund_0 8 rfl rfl)
theorem dX0_fund_9 : decode cX0_fund 9 = .ok (.lastore, 1) := dk_80 (dk_at dksX0_fund_0 9 rfl rfl)
theorem dX0_fund_10 : decode cX0_fund 10 = .ok (.goto 11, 3) := dk_167 0 11 (dk_at dksX0_fund_0 10 rfl rfl)
theorem dX0_fund_13 : decode cX0_fund 13 = .ok (.astore 4, 2) := dk_58 4 (dk_at dksX0_fund_0 13 rfl rfl)
theorem dX0_fund_15 : decode cX0_fund 15 = .ok (.iconst 1, 1) := dk_4 (dk_at dksX0_fund_0 15 rfl rfl)
theorem dX0_fund_16 : decode cX0_fund 16 = .ok (.ireturn, 1) := dk_172 (dk_at dksX0_fund_0 16 rfl rfl)
theorem dX0_fund_17 : decode cX0_fund 17 = .ok (.astore 4, 2) := dk_58 4 (dk_at dksX0_fund_0 17 rfl rfl)
theorem dX0_fund_19 : decode cX0_fund 19 = .ok (.iconst 2, 1) := dk_5 (dk_at dksX0_fund_0 19 rfl rfl)
theorem dX0_fund_20 : decode cX0_fund 20 = .ok (.ireturn, 1) := dk_172 (dk_at dksX0_fund_0 20 rfl rfl)
theorem dX0_fund_21 : decode cX0_fund 21 = .ok (.iconst 0, 1) := dk_3 (dk_at dksX0_fund_0 21 rfl rfl)
theorem dX0_fund_22 : decode cX0_fund 22 = .ok (.ireturn, 1) := dk_172 (dk_at dksX0_fund_0 22 rfl rfl)
abbrev cX0_money : ByteArray := method_50_code
def yX0_money : MethodName := ⟨RX0, "money", "(LVaultyard;I[J)I"⟩
def dkwX0_money_0 : List UInt8 := [44, 3, 42, 27, 182, 0, 173, 133, 80, 167, 0, 6, 78, 4, 172, 3, 172]
abbrev dktX0_money_0 : List UInt8 := dkwX0_money_0 ++ []
theorem dksX0_money_0 : cX0_money.data.toList.drop 0 = dktX0_money_0 := by decide +kernel
theorem dX0_money_0 : decode cX0_money 0 = .ok (.aload_n 2, 1) := dk_44 (dk_at dksX0_money_0 0 rfl rfl)
theorem dX0_money_1 : decode cX0_money 1 = .ok (.iconst 0, 1) := dk_3 (dk_at dksX0_money_0 1 rfl rfl)
theorem dX0_money_2 : decode cX0_money 2 = .ok (.aload_n 0, 1) := dk_42 (dk_at dksX0_money_0 2 rfl rfl)
theorem dX0_money_3 : decode cX0_money 3 = .ok (.iload_n 1, 1) := dk_27 (dk_at dksX0_money_0 3 rfl rfl)
theorem dX0_money_4 : decode cX0_money 4 = .ok (.invokevirtual 173, 3) := dk_182 0 173 (dk_at dksX0_money_0 4 rfl rfl)
theorem dX0_money_7 : decode cX0_money 7 = .ok (.i2l, 1) := dk_133 (dk_at dksX0_money_0 7 rfl rfl)
theorem dX0_money_8 : decode cX0_money 8 = .ok (.lastore, 1) := dk_80 (dk_at dksX0_money_0 8 rfl rfl)
theorem dX0_money_9 : decode cX0_money 9 = .ok (.goto 6, 3) := dk_167 0 6 (dk_at dksX0_money_0 9 rfl rfl)
theorem dX0_money_12 : decode cX0_money 12 = .ok (.astore_n 3, 1) := dk_78 (dk_at dksX0_money_0 12 rfl rfl)
theorem dX0_money_13 : decode cX0_money 13 = .ok (.iconst 1, 1) := dk_4 (dk_at dksX0_money_0 13 rfl rfl)
theorem dX0_money_14 : decode cX0_money 14 = .ok (.ireturn, 1) := dk_172 (dk_at dksX0_money_0 14 rfl rfl)
theorem dX0_money_15 : decode cX0_money 15 = .ok (.iconst 0, 1) := dk_3 (dk_at dksX0_money_0 15 rfl rfl)
theorem dX0_money_16 : decode cX0_money 16 = .ok (.ireturn, 1) := dk_172 (dk_at dksX0_money_0 16 rfl rfl)
abbrev cX0_water : ByteArray := method_51_code
def yX0_water : MethodName := ⟨RX0, "water", "(LVaultyard;III[J)I"⟩
def dkwX0_water_1 : List UInt8 := [172]
abbrev dktX0_water_1 : List UInt8 := dkwX0_water_1 ++ []
def dkwX0_water_0 : List UInt8 := [25, 4, 3, 42, 27, 28, 29, 182, 0, 176, 133, 80, 167, 0, 11, 58, 5, 4, 172, 58, 5, 5, 172, 3]
abbrev dktX0_water_0 : List UInt8 := dkwX0_water_0 ++ dktX0_water_1
theorem dksX0_water_0 : cX0_water.data.toList.drop 0 = dktX0_water_0 := by decide +kernel
theorem dksX0_water_1 : cX0_water.data.toList.drop 24 = dktX0_water_1 := dk_seg dksX0_water_0 24 rfl rfl
theorem dX0_water_0 : decode cX0_water 0 = .ok (.aload 4, 2) := dk_25 4 (dk_at dksX0_water_0 0 rfl rfl)
theorem dX0_water_2 : decode cX0_water 2 = .ok (.iconst 0, 1) := dk_3 (dk_at dksX0_water_0 2 rfl rfl)
theorem dX0_water_3 : decode cX0_water 3 = .ok (.aload_n 0, 1) := dk_42 (dk_at dksX0_water_0 3 rfl rfl)
theorem dX0_water_4 : decode cX0_water 4 = .ok (.iload_n 1, 1) := dk_27 (dk_at dksX0_water_0 4 rfl rfl)
theorem dX0_water_5 : decode cX0_water 5 = .ok (.iload_n 2, 1) := dk_28 (dk_at dksX0_water_0 5 rfl rfl)
theorem dX0_water_6 : decode cX0_water 6 = .ok (.iload_n 3, 1) := dk_29 (dk_at dksX0_water_0 6 rfl rfl)
theorem dX0_water_7 : decode cX0_water 7 = .ok (.invokevirtual 176, 3) := dk_182 0 176 (dk_at dksX0_water_0 7 rfl rfl)
theorem dX0_water_10 : decode cX0_water 10 = .ok (.i2l, 1) := dk_133 (dk_at dksX0_water_0 10 rfl rfl)
theorem dX0_water_11 : decode cX0_water 11 = .ok (.lastore, 1) := dk_80 (dk_at dksX0_water_0 11 rfl rfl)
theorem dX0_water_12 : decode cX0_water 12 = .ok (.goto 11, 3) := dk_167 0 11 (dk_at dksX0_water_0 12 rfl rfl)
theorem dX0_water_15 : decode cX0_water 15 = .ok (.astore 5, 2) := dk_58 5 (dk_at dksX0_water_0 15 rfl rfl)
theorem dX0_water_17 : decode cX0_water 17 = .ok (.iconst 1, 1) := dk_4 (dk_at dksX0_water_0 17 rfl rfl)
theorem dX0_water_18 : decode cX0_water 18 = .ok (.ireturn, 1) := dk_172 (dk_at dksX0_water_0 18 rfl rfl)
theorem dX0_water_19 : decode cX0_water 19 = .ok (.astore 5, 2) := dk_58 5 (dk_at dksX0_water_0 19 rfl rfl)
theorem dX0_water_21 : decode cX0_water 21 = .ok (.iconst 2, 1) := dk_5 (dk_at dksX0_water_0 21 rfl rfl)
theorem dX0_water_22 : decode cX0_water 22 = .ok (.ireturn, 1) := dk_172 (dk_at dksX0_water_0 22 rfl rfl)
theorem dX0_water_23 : decode cX0_water 23 = .ok (.iconst 0, 1) := dk_3 (dk_at dksX0_water_0 23 rfl rfl)
theorem dX0_water_24 : decode cX0_water 24 = .ok (.ireturn, 1) := dk_172 (dk_at dksX0_water_1 0 rfl rfl)
abbrev cX0_saved : ByteArray := method_52_code
def yX0_saved : MethodName := ⟨RX0, "saved", "(LVaultyard;III[J)I"⟩
def dkwX0_saved_1 : List UInt8 := [58, 5, 6, 172, 3, 172]
abbrev dktX0_saved_1 : List UInt8 := dkwX0_saved_1 ++ []
def dkwX0_saved_0 : List UInt8 := [25, 4, 3, 42, 27, 28, 29, 182, 0, 179, 133, 80, 167, 0, 15, 58, 5, 4, 172, 58, 5, 5, 172]
abbrev dktX0_saved_0 : List UInt8 := dkwX0_saved_0 ++ dktX0_saved_1
theorem dksX0_saved_0 : cX0_saved.data.toList.drop 0 = dktX0_saved_0 := by decide +kernel
theorem dksX0_saved_1 : cX0_saved.data.toList.drop 23 = dktX0_saved_1 := dk_seg dksX0_saved_0 23 rfl rfl
theorem dX0_saved_0 : decode cX0_saved 0 = .ok (.aload 4, 2) := dk_25 4 (dk_at dksX0_saved_0 0 rfl rfl)
theorem dX0_saved_2 : decode cX0_saved 2 = .ok (.iconst 0, 1) := dk_3 (dk_at dksX0_saved_0 2 rfl rfl)
theorem dX0_saved_3 : decode cX0_saved 3 = .ok (.aload_n 0, 1) := dk_42 (dk_at dksX0_saved_0 3 rfl rfl)
theorem dX0_saved_4 : decode cX0_saved 4 = .ok (.iload_n 1, 1) := dk_27 (dk_at dksX0_saved_0 4 rfl rfl)
theorem dX0_saved_5 : decode cX0_saved 5 = .ok (.iload_n 2, 1) := dk_28 (dk_at dksX0_saved_0 5 rfl rfl)
theorem dX0_saved_6 : decode cX0_saved 6 = .ok (.iload_n 3, 1) := dk_29 (dk_at dksX0_saved_0 6 rfl rfl)
theorem dX0_saved_7 : decode cX0_saved 7 = .ok (.invokevirtual 179, 3) := dk_182 0 179 (dk_at dksX0_saved_0 7 rfl rfl)
theorem dX0_saved_10 : decode cX0_saved 10 = .ok (.i2l, 1) := dk_133 (dk_at dksX0_saved_0 10 rfl rfl)
theorem dX0_saved_11 : decode cX0_saved 11 = .ok (.lastore, 1) := dk_80 (dk_at dksX0_saved_0 11 rfl rfl)
theorem dX0_saved_12 : decode cX0_saved 12 = .ok (.goto 15, 3) := dk_167 0 15 (dk_at dksX0_saved_0 12 rfl rfl)
theorem dX0_saved_15 : decode cX0_saved 15 = .ok (.astore 5, 2) := dk_58 5 (dk_at dksX0_saved_0 15 rfl rfl)
theorem dX0_saved_17 : decode cX0_saved 17 = .ok (.iconst 1, 1) := dk_4 (dk_at dksX0_saved_0 17 rfl rfl)
theorem dX0_saved_18 : decode cX0_saved 18 = .ok (.ireturn, 1) := dk_172 (dk_at dksX0_saved_0 18 rfl rfl)
theorem dX0_saved_19 : decode cX0_saved 19 = .ok (.astore 5, 2) := dk_58 5 (dk_at dksX0_saved_0 19 rfl rfl)
theorem dX0_saved_21 : decode cX0_saved 21 = .ok (.iconst 2, 1) := dk_5 (dk_at dksX0_saved_0 21 rfl rfl)
theorem dX0_saved_22 : decode cX0_saved 22 = .ok (.ireturn, 1) := dk_172 (dk_at dksX0_saved_0 22 rfl rfl)
theorem dX0_saved_23 : decode cX0_saved 23 = .ok (.astore 5, 2) := dk_58 5 (dk_at dksX0_saved_1 0 rfl rfl)
theorem dX0_saved_25 : decode cX0_saved 25 = .ok (.iconst 3, 1) := dk_6 (dk_at dksX0_saved_1 2 rfl rfl)
theorem dX0_saved_26 : decode cX0_saved 26 = .ok (.ireturn, 1) := dk_172 (dk_at dksX0_saved_1 3 rfl rfl)
theorem dX0_saved_27 : decode cX0_saved 27 = .ok (.iconst 0, 1) := dk_3 (dk_at dksX0_saved_1 4 rfl rfl)
theorem dX0_saved_28 : decode cX0_saved 28 = .ok (.ireturn, 1) := dk_172 (dk_at dksX0_saved_1 5 rfl rfl)
abbrev cX0_go : ByteArray := method_53_code
def yX0_go : MethodName := ⟨RX0, "go", "(LVaultyard;I[J)I"⟩
def dkwX0_go_0 : List UInt8 := [44, 3, 42, 27, 182, 0, 182, 133, 80, 167, 0, 9, 78, 4, 172, 78, 5, 172, 3, 172]
abbrev dktX0_go_0 : List UInt8 := dkwX0_go_0 ++ []
theorem dksX0_go_0 : cX0_go.data.toList.drop 0 = dktX0_go_0 := by decide +kernel
theorem dX0_go_0 : decode cX0_go 0 = .ok (.aload_n 2, 1) := dk_44 (dk_at dksX0_go_0 0 rfl rfl)
theorem dX0_go_1 : decode cX0_go 1 = .ok (.iconst 0, 1) := dk_3 (dk_at dksX0_go_0 1 rfl rfl)
theorem dX0_go_2 : decode cX0_go 2 = .ok (.aload_n 0, 1) := dk_42 (dk_at dksX0_go_0 2 rfl rfl)
theorem dX0_go_3 : decode cX0_go 3 = .ok (.iload_n 1, 1) := dk_27 (dk_at dksX0_go_0 3 rfl rfl)
theorem dX0_go_4 : decode cX0_go 4 = .ok (.invokevirtual 182, 3) := dk_182 0 182 (dk_at dksX0_go_0 4 rfl rfl)
theorem dX0_go_7 : decode cX0_go 7 = .ok (.i2l, 1) := dk_133 (dk_at dksX0_go_0 7 rfl rfl)
theorem dX0_go_8 : decode cX0_go 8 = .ok (.lastore, 1) := dk_80 (dk_at dksX0_go_0 8 rfl rfl)
theorem dX0_go_9 : decode cX0_go 9 = .ok (.goto 9, 3) := dk_167 0 9 (dk_at dksX0_go_0 9 rfl rfl)
theorem dX0_go_12 : decode cX0_go 12 = .ok (.astore_n 3, 1) := dk_78 (dk_at dksX0_go_0 12 rfl rfl)
theorem dX0_go_13 : decode cX0_go 13 = .ok (.iconst 1, 1) := dk_4 (dk_at dksX0_go_0 13 rfl rfl)
theorem dX0_go_14 : decode cX0_go 14 = .ok (.ireturn, 1) := dk_172 (dk_at dksX0_go_0 14 rfl rfl)
theorem dX0_go_15 : decode cX0_go 15 = .ok (.astore_n 3, 1) := dk_78 (dk_at dksX0_go_0 15 rfl rfl)
theorem dX0_go_16 : decode cX0_go 16 = .ok (.iconst 2, 1) := dk_5 (dk_at dksX0_go_0 16 rfl rfl)
theorem dX0_go_17 : decode cX0_go 17 = .ok (.ireturn, 1) := dk_172 (dk_at dksX0_go_0 17 rfl rfl)
theorem dX0_go_18 : decode cX0_go 18 = .ok (.iconst 0, 1) := dk_3 (dk_at dksX0_go_0 18 rfl rfl)
theorem dX0_go_19 : decode cX0_go 19 = .ok (.ireturn, 1) := dk_172 (dk_at dksX0_go_0 19 rfl rfl)
abbrev cX0_safeShare : ByteArray := method_54_code
def yX0_safeShare : MethodName := ⟨RX0, "safeShare", "(LVaultyard;[D)I"⟩
def dkwX0_safeShare_0 : List UInt8 := [43, 3, 42, 182, 0, 185, 141, 82, 167, 0, 6, 77, 4, 172, 3, 172]
abbrev dktX0_safeShare_0 : List UInt8 := dkwX0_safeShare_0 ++ []
theorem dksX0_safeShare_0 : cX0_safeShare.data.toList.drop 0 = dktX0_safeShare_0 := by decide +kernel
theorem dX0_safeShare_0 : decode cX0_safeShare 0 = .ok (.aload_n 1, 1) := dk_43 (dk_at dksX0_safeShare_0 0 rfl rfl)
theorem dX0_safeShare_1 : decode cX0_safeShare 1 = .ok (.iconst 0, 1) := dk_3 (dk_at dksX0_safeShare_0 1 rfl rfl)
theorem dX0_safeShare_2 : decode cX0_safeShare 2 = .ok (.aload_n 0, 1) := dk_42 (dk_at dksX0_safeShare_0 2 rfl rfl)
theorem dX0_safeShare_3 : decode cX0_safeShare 3 = .ok (.invokevirtual 185, 3) := dk_182 0 185 (dk_at dksX0_safeShare_0 3 rfl rfl)
theorem dX0_safeShare_6 : decode cX0_safeShare 6 = .ok (.f2d, 1) := dk_141 (dk_at dksX0_safeShare_0 6 rfl rfl)
theorem dX0_safeShare_7 : decode cX0_safeShare 7 = .ok (.dastore, 1) := dk_82 (dk_at dksX0_safeShare_0 7 rfl rfl)
theorem dX0_safeShare_8 : decode cX0_safeShare 8 = .ok (.goto 6, 3) := dk_167 0 6 (dk_at dksX0_safeShare_0 8 rfl rfl)
theorem dX0_safeShare_11 : decode cX0_safeShare 11 = .ok (.astore_n 2, 1) := dk_77 (dk_at dksX0_safeShare_0 11 rfl rfl)
theorem dX0_safeShare_12 : decode cX0_safeShare 12 = .ok (.iconst 1, 1) := dk_4 (dk_at dksX0_safeShare_0 12 rfl rfl)
theorem dX0_safeShare_13 : decode cX0_safeShare 13 = .ok (.ireturn, 1) := dk_172 (dk_at dksX0_safeShare_0 13 rfl rfl)
theorem dX0_safeShare_14 : decode cX0_safeShare 14 = .ok (.iconst 0, 1) := dk_3 (dk_at dksX0_safeShare_0 14 rfl rfl)
theorem dX0_safeShare_15 : decode cX0_safeShare 15 = .ok (.ireturn, 1) := dk_172 (dk_at dksX0_safeShare_0 15 rfl rfl)
abbrev cX0_meanDamage : ByteArray := method_55_code
def yX0_meanDamage : MethodName := ⟨RX0, "meanDamage", "(LVaultyard;[D)I"⟩
def dkwX0_meanDamage_0 : List UInt8 := [43, 3, 42, 182, 0, 191, 82, 167, 0, 6, 77, 4, 172, 3, 172]
abbrev dktX0_meanDamage_0 : List UInt8 := dkwX0_meanDamage_0 ++ []
theorem dksX0_meanDamage_0 : cX0_meanDamage.data.toList.drop 0 = dktX0_meanDamage_0 := by decide +kernel
theorem dX0_meanDamage_0 : decode cX0_meanDamage 0 = .ok (.aload_n 1, 1) := dk_43 (dk_at dksX0_meanDamage_0 0 rfl rfl)
theorem dX0_meanDamage_1 : decode cX0_meanDamage 1 = .ok (.iconst 0, 1) := dk_3 (dk_at dksX0_meanDamage_0 1 rfl rfl)
theorem dX0_meanDamage_2 : decode cX0_meanDamage 2 = .ok (.aload_n 0, 1) := dk_42 (dk_at dksX0_meanDamage_0 2 rfl rfl)
theorem dX0_meanDamage_3 : decode cX0_meanDamage 3 = .ok (.invokevirtual 191, 3) := dk_182 0 191 (dk_at dksX0_meanDamage_0 3 rfl rfl)
theorem dX0_meanDamage_6 : decode cX0_meanDamage 6 = .ok (.dastore, 1) := dk_82 (dk_at dksX0_meanDamage_0 6 rfl rfl)
theorem dX0_meanDamage_7 : decode cX0_meanDamage 7 = .ok (.goto 6, 3) := dk_167 0 6 (dk_at dksX0_meanDamage_0 7 rfl rfl)
theorem dX0_meanDamage_10 : decode cX0_meanDamage 10 = .ok (.astore_n 2, 1) := dk_77 (dk_at dksX0_meanDamage_0 10 rfl rfl)
theorem dX0_meanDamage_11 : decode cX0_meanDamage 11 = .ok (.iconst 1, 1) := dk_4 (dk_at dksX0_meanDamage_0 11 rfl rfl)
theorem dX0_meanDamage_12 : decode cX0_meanDamage 12 = .ok (.ireturn, 1) := dk_172 (dk_at dksX0_meanDamage_0 12 rfl rfl)
theorem dX0_meanDamage_13 : decode cX0_meanDamage 13 = .ok (.iconst 0, 1) := dk_3 (dk_at dksX0_meanDamage_0 13 rfl rfl)
theorem dX0_meanDamage_14 : decode cX0_meanDamage 14 = .ok (.ireturn, 1) := dk_172 (dk_at dksX0_meanDamage_0 14 rfl rfl)
theorem q90 : (Jvm.Cond.initialized "VaultyardLaw") ∈ lw_all := lw_g (lw_at lw_m1 0 rfl) rfl
theorem q151 : (Jvm.Cond.classLink "VaultyardLaw" (8 : Nat) "Vaultyard") ∈ lw_all := lw_g (lw_at lw_m1 61 rfl) rfl
theorem q153 : (Jvm.Cond.methodLink "VaultyardLaw" (195 : Nat) ({ cls := "Vaultyard", name := "<init>", desc := "()V" } : Jvm.MethodName)) ∈ lw_all := lw_g (lw_at lw_m1 63 rfl) rfl
theorem q226 : (Jvm.Cond.methodLink "VaultyardLaw" (241 : Nat) ({ cls := "Vaultyard", name := "year", desc := "()I" } : Jvm.MethodName)) ∈ lw_all := lw_g (lw_at lw_m1 136 rfl) rfl
theorem q234 : (Jvm.Cond.methodLink "VaultyardLaw" (372 : Nat) ({ cls := "Vaultyard", name := "checksum", desc := "()J" } : Jvm.MethodName)) ∈ lw_all := lw_g (lw_at lw_m1 144 rfl) rfl
theorem q748 : (Jvm.Cond.methodLink "VaultyardLaw" (384 : Nat) ({ cls := "Vaultyard", name := "isSound", desc := "()Z" } : Jvm.MethodName)) ∈ lw_all := lw_g (lw_at lw_m3 178 rfl) rfl
theorem q776 : (Jvm.Cond.methodLink "VaultyardLaw" (199 : Nat) ({ cls := "VaultyardLaw", name := "material", desc := "(LVaultyard;IIIIZ[J)I" } : Jvm.MethodName)) ∈ lw_all := lw_g (lw_at lw_m3 206 rfl) rfl
theorem q777 : (Jvm.Cond.static ({ cls := "VaultyardLaw", name := "material", desc := "(LVaultyard;IIIIZ[J)I" } : Jvm.MethodName)) ∈ lw_all := lw_g (lw_at lw_m3 207 rfl) rfl
theorem q778 : (Jvm.Cond.codeWith ({ cls := "VaultyardLaw", name := "material", desc := "(LVaultyard;IIIIZ[J)I" } : Jvm.MethodName) method_3_code (8 : Nat) (Option.some Jvm.ClassFile.FieldType.int) [((0 : Nat), (16 : Nat), (19 : Nat), (13 : Nat)), ((0 : Nat), (16 : Nat), (23 : Nat), (15 : Nat))]) ∈ lw_all := lw_g (lw_at lw_m3 208 rfl) rfl
theorem q779 : (Jvm.Cond.classLink "VaultyardLaw" (13 : Nat) "java/lang/IllegalArgumentException") ∈ lw_all := lw_g (lw_at lw_m3 209 rfl) rfl
theorem q780 : (Jvm.Cond.classLink "VaultyardLaw" (15 : Nat) "java/lang/IllegalStateException") ∈ lw_all := lw_g (lw_at lw_m3 210 rfl) rfl
theorem q781 : (Jvm.Cond.methodLink "VaultyardLaw" (7 : Nat) ({ cls := "Vaultyard", name := "material", desc := "(IIIIZ)I" } : Jvm.MethodName)) ∈ lw_all := lw_g (lw_at lw_m3 211 rfl) rfl
theorem q906 : (Jvm.Cond.methodLink "VaultyardLaw" (209 : Nat) ({ cls := "VaultyardLaw", name := "room", desc := "(LVaultyard;III[J)I" } : Jvm.MethodName)) ∈ lw_all := lw_g (lw_at lw_m4 96 rfl) rfl
theorem q907 : (Jvm.Cond.static ({ cls := "VaultyardLaw", name := "room", desc := "(LVaultyard;III[J)I" } : Jvm.MethodName)) ∈ lw_all := lw_g (lw_at lw_m4 97 rfl) rfl
theorem q908 : (Jvm.Cond.codeWith ({ cls := "VaultyardLaw", name := "room", desc := "(LVaultyard;III[J)I" } : Jvm.MethodName) method_4_code (6 : Nat) (Option.some Jvm.ClassFile.FieldType.int) [((0 : Nat), (12 : Nat), (15 : Nat), (13 : Nat)), ((0 : Nat), (12 : Nat), (19 : Nat), (15 : Nat))]) ∈ lw_all := lw_g (lw_at lw_m4 98 rfl) rfl
theorem q909 : (Jvm.Cond.methodLink "VaultyardLaw" (17 : Nat) ({ cls := "Vaultyard", name := "room", desc := "(III)I" } : Jvm.MethodName)) ∈ lw_all := lw_g (lw_at lw_m4 99 rfl) rfl
theorem q952 : (Jvm.Cond.methodLink "VaultyardLaw" (213 : Nat) ({ cls := "VaultyardLaw", name := "climate", desc := "(LVaultyard;III[J)I" } : Jvm.MethodName)) ∈ lw_all := lw_g (lw_at lw_m4 142 rfl) rfl
theorem q953 : (Jvm.Cond.static ({ cls := "VaultyardLaw", name := "climate", desc := "(LVaultyard;III[J)I" } : Jvm.MethodName)) ∈ lw_all := lw_g (lw_at lw_m4 143 rfl) rfl
theorem q954 : (Jvm.Cond.codeWith ({ cls := "VaultyardLaw", name := "climate", desc := "(LVaultyard;III[J)I" } : Jvm.MethodName) method_5_code (6 : Nat) (Option.some Jvm.ClassFile.FieldType.int) [((0 : Nat), (12 : Nat), (15 : Nat), (24 : Nat)), ((0 : Nat), (12 : Nat), (19 : Nat), (13 : Nat))]) ∈ lw_all := lw_g (lw_at lw_m4 144 rfl) rfl
theorem q955 : (Jvm.Cond.classLink "VaultyardLaw" (24 : Nat) "java/lang/IndexOutOfBoundsException") ∈ lw_all := lw_g (lw_at lw_m4 145 rfl) rfl
theorem q971 : (Jvm.Cond.methodLink "VaultyardLaw" (21 : Nat) ({ cls := "Vaultyard", name := "climate", desc := "(III)I" } : Jvm.MethodName)) ∈ lw_all := lw_g (lw_at lw_m4 161 rfl) rfl
theorem q988 : (Jvm.Cond.methodLink "VaultyardLaw" (216 : Nat) ({ cls := "VaultyardLaw", name := "infest", desc := "(LVaultyard;IIZ[J)I" } : Jvm.MethodName)) ∈ lw_all := lw_g (lw_at lw_m4 178 rfl) rfl
theorem q989 : (Jvm.Cond.static ({ cls := "VaultyardLaw", name := "infest", desc := "(LVaultyard;IIZ[J)I" } : Jvm.MethodName)) ∈ lw_all := lw_g (lw_at lw_m4 179 rfl) rfl
theorem q990 : (Jvm.Cond.codeWith ({ cls := "VaultyardLaw", name := "infest", desc := "(LVaultyard;IIZ[J)I" } : Jvm.MethodName) method_6_code (6 : Nat) (Option.some Jvm.ClassFile.FieldType.int) [((0 : Nat), (19 : Nat), (22 : Nat), (24 : Nat)), ((0 : Nat), (19 : Nat), (26 : Nat), (13 : Nat))]) ∈ lw_all := lw_g (lw_at lw_m4 180 rfl) rfl
theorem q991 : (Jvm.Cond.methodLink "VaultyardLaw" (26 : Nat) ({ cls := "Vaultyard", name := "infest", desc := "(IIZ)Z" } : Jvm.MethodName)) ∈ lw_all := lw_g (lw_at lw_m4 181 rfl) rfl
theorem q995 : (Jvm.Cond.methodLink "VaultyardLaw" (220 : Nat) ({ cls := "VaultyardLaw", name := "thing", desc := "(LVaultyard;IIII[J)I" } : Jvm.MethodName)) ∈ lw_all := lw_g (lw_at lw_m4 185 rfl) rfl
theorem q996 : (Jvm.Cond.static ({ cls := "VaultyardLaw", name := "thing", desc := "(LVaultyard;IIII[J)I" } : Jvm.MethodName)) ∈ lw_all := lw_g (lw_at lw_m4 186 rfl) rfl
theorem q997 : (Jvm.Cond.codeWith ({ cls := "VaultyardLaw", name := "thing", desc := "(LVaultyard;IIII[J)I" } : Jvm.MethodName) method_7_code (7 : Nat) (Option.some Jvm.ClassFile.FieldType.int) [((0 : Nat), (14 : Nat), (17 : Nat), (24 : Nat)), ((0 : Nat), (14 : Nat), (21 : Nat), (13 : Nat)), ((0 : Nat), (14 : Nat), (25 : Nat), (34 : Nat)), ((0 : Nat), (14 : Nat), (29 : Nat), (15 : Nat))]) ∈ lw_all := lw_g (lw_at lw_m4 187 rfl) rfl
theorem q998 : (Jvm.Cond.classLink "VaultyardLaw" (34 : Nat) "java/lang/UnsupportedOperationException") ∈ lw_all := lw_g (lw_at lw_m4 188 rfl) rfl
theorem q999 : (Jvm.Cond.methodLink "VaultyardLaw" (30 : Nat) ({ cls := "Vaultyard", name := "thing", desc := "(IIII)I" } : Jvm.MethodName)) ∈ lw_all := lw_g (lw_at lw_m4 189 rfl) rfl
theorem q1135 : (Jvm.Cond.methodLink "VaultyardLaw" (224 : Nat) ({ cls := "VaultyardLaw", name := "part", desc := "(LVaultyard;III[J)I" } : Jvm.MethodName)) ∈ lw_all := lw_g (lw_at lw_m5 85 rfl) rfl
theorem q1136 : (Jvm.Cond.static ({ cls := "VaultyardLaw", name := "part", desc := "(LVaultyard;III[J)I" } : Jvm.MethodName)) ∈ lw_all := lw_g (lw_at lw_m5 86 rfl) rfl
theorem q1137 : (Jvm.Cond.codeWith ({ cls := "VaultyardLaw", name := "part", desc := "(LVaultyard;III[J)I" } : Jvm.MethodName) method_8_code (6 : Nat) (Option.some Jvm.ClassFile.FieldType.int) [((0 : Nat), (12 : Nat), (15 : Nat), (24 : Nat)), ((0 : Nat), (12 : Nat), (19 : Nat), (13 : Nat)), ((0 : Nat), (12 : Nat), (23 : Nat), (34 : Nat)), ((0 : Nat), (12 : Nat), (27 : Nat), (15 : Nat))]) ∈ lw_all := lw_g (lw_at lw_m5 87 rfl) rfl
theorem q1138 : (Jvm.Cond.methodLink "VaultyardLaw" (36 : Nat) ({ cls := "Vaultyard", name := "part", desc := "(III)I" } : Jvm.MethodName)) ∈ lw_all := lw_g (lw_at lw_m5 88 rfl) rfl
theorem q1150 : (Jvm.Cond.methodLink "VaultyardLaw" (227 : Nat) ({ cls := "VaultyardLaw", name := "move", desc := "(LVaultyard;II[J)I" } : Jvm.MethodName)) ∈ lw_all := lw_g (lw_at lw_m5 100 rfl) rfl
theorem q1151 : (Jvm.Cond.static ({ cls := "VaultyardLaw", name := "move", desc := "(LVaultyard;II[J)I" } : Jvm.MethodName)) ∈ lw_all := lw_g (lw_at lw_m5 101 rfl) rfl
theorem q1152 : (Jvm.Cond.codeWith ({ cls := "VaultyardLaw", name := "move", desc := "(LVaultyard;II[J)I" } : Jvm.MethodName) method_9_code (5 : Nat) (Option.some Jvm.ClassFile.FieldType.int) [((0 : Nat), (10 : Nat), (13 : Nat), (24 : Nat)), ((0 : Nat), (10 : Nat), (17 : Nat), (34 : Nat))]) ∈ lw_all := lw_g (lw_at lw_m5 102 rfl) rfl
theorem q1153 : (Jvm.Cond.methodLink "VaultyardLaw" (39 : Nat) ({ cls := "Vaultyard", name := "move", desc := "(II)I" } : Jvm.MethodName)) ∈ lw_all := lw_g (lw_at lw_m5 103 rfl) rfl
theorem q1166 : (Jvm.Cond.methodLink "VaultyardLaw" (231 : Nat) ({ cls := "VaultyardLaw", name := "place", desc := "(LVaultyard;I[J)I" } : Jvm.MethodName)) ∈ lw_all := lw_g (lw_at lw_m5 116 rfl) rfl
theorem q1167 : (Jvm.Cond.static ({ cls := "VaultyardLaw", name := "place", desc := "(LVaultyard;I[J)I" } : Jvm.MethodName)) ∈ lw_all := lw_g (lw_at lw_m5 117 rfl) rfl
theorem q1168 : (Jvm.Cond.codeWith ({ cls := "VaultyardLaw", name := "place", desc := "(LVaultyard;I[J)I" } : Jvm.MethodName) method_10_code (4 : Nat) (Option.some Jvm.ClassFile.FieldType.int) [((0 : Nat), (9 : Nat), (12 : Nat), (24 : Nat))]) ∈ lw_all := lw_g (lw_at lw_m5 118 rfl) rfl
theorem q1169 : (Jvm.Cond.methodLink "VaultyardLaw" (43 : Nat) ({ cls := "Vaultyard", name := "place", desc := "(I)C" } : Jvm.MethodName)) ∈ lw_all := lw_g (lw_at lw_m5 119 rfl) rfl
theorem q1173 : (Jvm.Cond.methodLink "VaultyardLaw" (235 : Nat) ({ cls := "VaultyardLaw", name := "roomOf", desc := "(LVaultyard;I[J)I" } : Jvm.MethodName)) ∈ lw_all := lw_g (lw_at lw_m5 123 rfl) rfl
theorem q1174 : (Jvm.Cond.static ({ cls := "VaultyardLaw", name := "roomOf", desc := "(LVaultyard;I[J)I" } : Jvm.MethodName)) ∈ lw_all := lw_g (lw_at lw_m5 124 rfl) rfl
theorem q1175 : (Jvm.Cond.codeWith ({ cls := "VaultyardLaw", name := "roomOf", desc := "(LVaultyard;I[J)I" } : Jvm.MethodName) method_11_code (4 : Nat) (Option.some Jvm.ClassFile.FieldType.int) [((0 : Nat), (9 : Nat), (12 : Nat), (24 : Nat)), ((0 : Nat), (9 : Nat), (15 : Nat), (51 : Nat))]) ∈ lw_all := lw_g (lw_at lw_m5 125 rfl) rfl
theorem q1176 : (Jvm.Cond.classLink "VaultyardLaw" (51 : Nat) "java/util/NoSuchElementException") ∈ lw_all := lw_g (lw_at lw_m5 126 rfl) rfl
theorem q1177 : (Jvm.Cond.methodLink "VaultyardLaw" (47 : Nat) ({ cls := "Vaultyard", name := "roomOf", desc := "(I)I" } : Jvm.MethodName)) ∈ lw_all := lw_g (lw_at lw_m5 127 rfl) rfl
theorem q1187 : (Jvm.Cond.methodLink "VaultyardLaw" (238 : Nat) ({ cls := "VaultyardLaw", name := "day", desc := "(LVaultyard;I[J)I" } : Jvm.MethodName)) ∈ lw_all := lw_g (lw_at lw_m5 137 rfl) rfl
theorem q1188 : (Jvm.Cond.static ({ cls := "VaultyardLaw", name := "day", desc := "(LVaultyard;I[J)I" } : Jvm.MethodName)) ∈ lw_all := lw_g (lw_at lw_m5 138 rfl) rfl
theorem q1189 : (Jvm.Cond.codeWith ({ cls := "VaultyardLaw", name := "day", desc := "(LVaultyard;I[J)I" } : Jvm.MethodName) method_12_code (4 : Nat) (Option.some Jvm.ClassFile.FieldType.int) [((0 : Nat), (9 : Nat), (12 : Nat), (13 : Nat)), ((0 : Nat), (9 : Nat), (15 : Nat), (15 : Nat))]) ∈ lw_all := lw_g (lw_at lw_m5 139 rfl) rfl
theorem q1190 : (Jvm.Cond.methodLink "VaultyardLaw" (53 : Nat) ({ cls := "Vaultyard", name := "day", desc := "(I)I" } : Jvm.MethodName)) ∈ lw_all := lw_g (lw_at lw_m5 140 rfl) rfl
theorem q1248 : (Jvm.Cond.methodLink "VaultyardLaw" (245 : Nat) ({ cls := "VaultyardLaw", name := "light", desc := "(LVaultyard;I[J)I" } : Jvm.MethodName)) ∈ lw_all := lw_g (lw_at lw_m5 198 rfl) rfl
theorem q1249 : (Jvm.Cond.static ({ cls := "VaultyardLaw", name := "light", desc := "(LVaultyard;I[J)I" } : Jvm.MethodName)) ∈ lw_all := lw_g (lw_at lw_m5 199 rfl) rfl
theorem q1250 : (Jvm.Cond.codeWith ({ cls := "VaultyardLaw", name := "light", desc := "(LVaultyard;I[J)I" } : Jvm.MethodName) method_13_code (4 : Nat) (Option.some Jvm.ClassFile.FieldType.int) [((0 : Nat), (9 : Nat), (12 : Nat), (24 : Nat))]) ∈ lw_all := lw_g (lw_at lw_m5 200 rfl) rfl
theorem q1251 : (Jvm.Cond.methodLink "VaultyardLaw" (56 : Nat) ({ cls := "Vaultyard", name := "light", desc := "(I)I" } : Jvm.MethodName)) ∈ lw_all := lw_g (lw_at lw_m5 201 rfl) rfl
theorem q1255 : (Jvm.Cond.methodLink "VaultyardLaw" (248 : Nat) ({ cls := "VaultyardLaw", name := "damage", desc := "(LVaultyard;I[J)I" } : Jvm.MethodName)) ∈ lw_all := lw_g (lw_at lw_m5 205 rfl) rfl
theorem q1256 : (Jvm.Cond.static ({ cls := "VaultyardLaw", name := "damage", desc := "(LVaultyard;I[J)I" } : Jvm.MethodName)) ∈ lw_all := lw_g (lw_at lw_m5 206 rfl) rfl
theorem q1257 : (Jvm.Cond.codeWith ({ cls := "VaultyardLaw", name := "damage", desc := "(LVaultyard;I[J)I" } : Jvm.MethodName) method_14_code (4 : Nat) (Option.some Jvm.ClassFile.FieldType.int) [((0 : Nat), (9 : Nat), (12 : Nat), (24 : Nat))]) ∈ lw_all := lw_g (lw_at lw_m5 207 rfl) rfl
theorem q1258 : (Jvm.Cond.methodLink "VaultyardLaw" (59 : Nat) ({ cls := "Vaultyard", name := "damage", desc := "(I)I" } : Jvm.MethodName)) ∈ lw_all := lw_g (lw_at lw_m5 208 rfl) rfl
theorem q1262 : (Jvm.Cond.methodLink "VaultyardLaw" (251 : Nat) ({ cls := "VaultyardLaw", name := "journal", desc := "(LVaultyard;I[J)I" } : Jvm.MethodName)) ∈ lw_all := lw_g (lw_at lw_m5 212 rfl) rfl
theorem q1263 : (Jvm.Cond.static ({ cls := "VaultyardLaw", name := "journal", desc := "(LVaultyard;I[J)I" } : Jvm.MethodName)) ∈ lw_all := lw_g (lw_at lw_m5 213 rfl) rfl
theorem q1264 : (Jvm.Cond.codeWith ({ cls := "VaultyardLaw", name := "journal", desc := "(LVaultyard;I[J)I" } : Jvm.MethodName) method_15_code (4 : Nat) (Option.some Jvm.ClassFile.FieldType.int) [((0 : Nat), (9 : Nat), (12 : Nat), (24 : Nat))]) ∈ lw_all := lw_g (lw_at lw_m5 214 rfl) rfl
theorem q1265 : (Jvm.Cond.methodLink "VaultyardLaw" (62 : Nat) ({ cls := "Vaultyard", name := "journal", desc := "(I)I" } : Jvm.MethodName)) ∈ lw_all := lw_g (lw_at lw_m5 215 rfl) rfl
theorem q1269 : (Jvm.Cond.methodLink "VaultyardLaw" (254 : Nat) ({ cls := "VaultyardLaw", name := "entry", desc := "(LVaultyard;IIC[J)I" } : Jvm.MethodName)) ∈ lw_all := lw_g (lw_at lw_m5 219 rfl) rfl
theorem q1270 : (Jvm.Cond.static ({ cls := "VaultyardLaw", name := "entry", desc := "(LVaultyard;IIC[J)I" } : Jvm.MethodName)) ∈ lw_all := lw_g (lw_at lw_m5 220 rfl) rfl
theorem q1271 : (Jvm.Cond.codeWith ({ cls := "VaultyardLaw", name := "entry", desc := "(LVaultyard;IIC[J)I" } : Jvm.MethodName) method_16_code (6 : Nat) (Option.some Jvm.ClassFile.FieldType.int) [((0 : Nat), (12 : Nat), (15 : Nat), (24 : Nat)), ((0 : Nat), (12 : Nat), (19 : Nat), (13 : Nat)), ((0 : Nat), (12 : Nat), (23 : Nat), (51 : Nat))]) ∈ lw_all := lw_g (lw_at lw_m5 221 rfl) rfl
theorem q1272 : (Jvm.Cond.methodLink "VaultyardLaw" (65 : Nat) ({ cls := "Vaultyard", name := "entry", desc := "(IIC)I" } : Jvm.MethodName)) ∈ lw_all := lw_g (lw_at lw_m5 222 rfl) rfl
theorem q1280 : (Jvm.Cond.methodLink "VaultyardLaw" (258 : Nat) ({ cls := "VaultyardLaw", name := "visitors", desc := "(LVaultyard;II[J)I" } : Jvm.MethodName)) ∈ lw_all := lw_g (lw_at lw_m5 230 rfl) rfl
theorem q1281 : (Jvm.Cond.static ({ cls := "VaultyardLaw", name := "visitors", desc := "(LVaultyard;II[J)I" } : Jvm.MethodName)) ∈ lw_all := lw_g (lw_at lw_m5 231 rfl) rfl
theorem q1282 : (Jvm.Cond.codeWith ({ cls := "VaultyardLaw", name := "visitors", desc := "(LVaultyard;II[J)I" } : Jvm.MethodName) method_17_code (5 : Nat) (Option.some Jvm.ClassFile.FieldType.int) [((0 : Nat), (10 : Nat), (13 : Nat), (24 : Nat)), ((0 : Nat), (10 : Nat), (17 : Nat), (13 : Nat))]) ∈ lw_all := lw_g (lw_at lw_m5 232 rfl) rfl
theorem q1283 : (Jvm.Cond.methodLink "VaultyardLaw" (69 : Nat) ({ cls := "Vaultyard", name := "visitors", desc := "(II)I" } : Jvm.MethodName)) ∈ lw_all := lw_g (lw_at lw_m5 233 rfl) rfl
theorem q1364 : (Jvm.Cond.methodLink "VaultyardLaw" (261 : Nat) ({ cls := "VaultyardLaw", name := "crowd", desc := "(LVaultyard;II[J)I" } : Jvm.MethodName)) ∈ lw_all := lw_g (lw_at lw_m6 74 rfl) rfl
theorem q1365 : (Jvm.Cond.static ({ cls := "VaultyardLaw", name := "crowd", desc := "(LVaultyard;II[J)I" } : Jvm.MethodName)) ∈ lw_all := lw_g (lw_at lw_m6 75 rfl) rfl
theorem q1366 : (Jvm.Cond.codeWith ({ cls := "VaultyardLaw", name := "crowd", desc := "(LVaultyard;II[J)I" } : Jvm.MethodName) method_18_code (5 : Nat) (Option.some Jvm.ClassFile.FieldType.int) [((0 : Nat), (10 : Nat), (13 : Nat), (24 : Nat)), ((0 : Nat), (10 : Nat), (17 : Nat), (13 : Nat))]) ∈ lw_all := lw_g (lw_at lw_m6 76 rfl) rfl
theorem q1367 : (Jvm.Cond.methodLink "VaultyardLaw" (72 : Nat) ({ cls := "Vaultyard", name := "crowd", desc := "(II)I" } : Jvm.MethodName)) ∈ lw_all := lw_g (lw_at lw_m6 77 rfl) rfl
theorem q1371 : (Jvm.Cond.methodLink "VaultyardLaw" (264 : Nat) ({ cls := "VaultyardLaw", name := "alarms", desc := "(LVaultyard;I[J)I" } : Jvm.MethodName)) ∈ lw_all := lw_g (lw_at lw_m6 81 rfl) rfl
theorem q1372 : (Jvm.Cond.static ({ cls := "VaultyardLaw", name := "alarms", desc := "(LVaultyard;I[J)I" } : Jvm.MethodName)) ∈ lw_all := lw_g (lw_at lw_m6 82 rfl) rfl
theorem q1373 : (Jvm.Cond.codeWith ({ cls := "VaultyardLaw", name := "alarms", desc := "(LVaultyard;I[J)I" } : Jvm.MethodName) method_19_code (4 : Nat) (Option.some Jvm.ClassFile.FieldType.int) [((0 : Nat), (9 : Nat), (12 : Nat), (24 : Nat))]) ∈ lw_all := lw_g (lw_at lw_m6 83 rfl) rfl
theorem q1374 : (Jvm.Cond.methodLink "VaultyardLaw" (75 : Nat) ({ cls := "Vaultyard", name := "alarms", desc := "(I)I" } : Jvm.MethodName)) ∈ lw_all := lw_g (lw_at lw_m6 84 rfl) rfl
theorem q1378 : (Jvm.Cond.methodLink "VaultyardLaw" (267 : Nat) ({ cls := "VaultyardLaw", name := "encase", desc := "(LVaultyard;IZ[J)I" } : Jvm.MethodName)) ∈ lw_all := lw_g (lw_at lw_m6 88 rfl) rfl
theorem q1379 : (Jvm.Cond.static ({ cls := "VaultyardLaw", name := "encase", desc := "(LVaultyard;IZ[J)I" } : Jvm.MethodName)) ∈ lw_all := lw_g (lw_at lw_m6 89 rfl) rfl
theorem q1380 : (Jvm.Cond.codeWith ({ cls := "VaultyardLaw", name := "encase", desc := "(LVaultyard;IZ[J)I" } : Jvm.MethodName) method_20_code (5 : Nat) (Option.some Jvm.ClassFile.FieldType.int) [((0 : Nat), (17 : Nat), (20 : Nat), (24 : Nat)), ((0 : Nat), (17 : Nat), (24 : Nat), (34 : Nat))]) ∈ lw_all := lw_g (lw_at lw_m6 90 rfl) rfl
theorem q1381 : (Jvm.Cond.methodLink "VaultyardLaw" (78 : Nat) ({ cls := "Vaultyard", name := "encase", desc := "(IZ)Z" } : Jvm.MethodName)) ∈ lw_all := lw_g (lw_at lw_m6 91 rfl) rfl
theorem q1385 : (Jvm.Cond.methodLink "VaultyardLaw" (271 : Nat) ({ cls := "VaultyardLaw", name := "lend", desc := "(LVaultyard;III[J)I" } : Jvm.MethodName)) ∈ lw_all := lw_g (lw_at lw_m6 95 rfl) rfl
theorem q1386 : (Jvm.Cond.static ({ cls := "VaultyardLaw", name := "lend", desc := "(LVaultyard;III[J)I" } : Jvm.MethodName)) ∈ lw_all := lw_g (lw_at lw_m6 96 rfl) rfl
theorem q1387 : (Jvm.Cond.codeWith ({ cls := "VaultyardLaw", name := "lend", desc := "(LVaultyard;III[J)I" } : Jvm.MethodName) method_21_code (6 : Nat) (Option.some Jvm.ClassFile.FieldType.int) [((0 : Nat), (12 : Nat), (15 : Nat), (24 : Nat)), ((0 : Nat), (12 : Nat), (19 : Nat), (13 : Nat)), ((0 : Nat), (12 : Nat), (23 : Nat), (34 : Nat))]) ∈ lw_all := lw_g (lw_at lw_m6 97 rfl) rfl
theorem q1388 : (Jvm.Cond.methodLink "VaultyardLaw" (82 : Nat) ({ cls := "Vaultyard", name := "lend", desc := "(III)I" } : Jvm.MethodName)) ∈ lw_all := lw_g (lw_at lw_m6 98 rfl) rfl
theorem q1717 : (Jvm.Cond.methodLink "VaultyardLaw" (274 : Nat) ({ cls := "VaultyardLaw", name := "premium", desc := "(LVaultyard;II[J)I" } : Jvm.MethodName)) ∈ lw_all := lw_g (lw_at lw_m7 187 rfl) rfl
theorem q1718 : (Jvm.Cond.static ({ cls := "VaultyardLaw", name := "premium", desc := "(LVaultyard;II[J)I" } : Jvm.MethodName)) ∈ lw_all := lw_g (lw_at lw_m7 188 rfl) rfl
theorem q1719 : (Jvm.Cond.codeWith ({ cls := "VaultyardLaw", name := "premium", desc := "(LVaultyard;II[J)I" } : Jvm.MethodName) method_22_code (5 : Nat) (Option.some Jvm.ClassFile.FieldType.int) [((0 : Nat), (10 : Nat), (13 : Nat), (24 : Nat)), ((0 : Nat), (10 : Nat), (17 : Nat), (13 : Nat))]) ∈ lw_all := lw_g (lw_at lw_m7 189 rfl) rfl
theorem q1720 : (Jvm.Cond.methodLink "VaultyardLaw" (85 : Nat) ({ cls := "Vaultyard", name := "premium", desc := "(II)I" } : Jvm.MethodName)) ∈ lw_all := lw_g (lw_at lw_m7 190 rfl) rfl
theorem q1724 : (Jvm.Cond.methodLink "VaultyardLaw" (277 : Nat) ({ cls := "VaultyardLaw", name := "isLate", desc := "(LVaultyard;I[J)I" } : Jvm.MethodName)) ∈ lw_all := lw_g (lw_at lw_m7 194 rfl) rfl
theorem q1725 : (Jvm.Cond.static ({ cls := "VaultyardLaw", name := "isLate", desc := "(LVaultyard;I[J)I" } : Jvm.MethodName)) ∈ lw_all := lw_g (lw_at lw_m7 195 rfl) rfl
theorem q1726 : (Jvm.Cond.codeWith ({ cls := "VaultyardLaw", name := "isLate", desc := "(LVaultyard;I[J)I" } : Jvm.MethodName) method_23_code (4 : Nat) (Option.some Jvm.ClassFile.FieldType.int) [((0 : Nat), (16 : Nat), (19 : Nat), (24 : Nat)), ((0 : Nat), (16 : Nat), (22 : Nat), (34 : Nat))]) ∈ lw_all := lw_g (lw_at lw_m7 196 rfl) rfl
theorem q1727 : (Jvm.Cond.methodLink "VaultyardLaw" (88 : Nat) ({ cls := "Vaultyard", name := "isLate", desc := "(I)Z" } : Jvm.MethodName)) ∈ lw_all := lw_g (lw_at lw_m7 197 rfl) rfl
theorem q1735 : (Jvm.Cond.methodLink "VaultyardLaw" (280 : Nat) ({ cls := "VaultyardLaw", name := "back", desc := "(LVaultyard;III[J)I" } : Jvm.MethodName)) ∈ lw_all := lw_g (lw_at lw_m7 205 rfl) rfl
theorem q1736 : (Jvm.Cond.static ({ cls := "VaultyardLaw", name := "back", desc := "(LVaultyard;III[J)I" } : Jvm.MethodName)) ∈ lw_all := lw_g (lw_at lw_m7 206 rfl) rfl
theorem q1737 : (Jvm.Cond.codeWith ({ cls := "VaultyardLaw", name := "back", desc := "(LVaultyard;III[J)I" } : Jvm.MethodName) method_24_code (6 : Nat) (Option.some Jvm.ClassFile.FieldType.int) [((0 : Nat), (12 : Nat), (15 : Nat), (24 : Nat)), ((0 : Nat), (12 : Nat), (19 : Nat), (13 : Nat)), ((0 : Nat), (12 : Nat), (23 : Nat), (34 : Nat))]) ∈ lw_all := lw_g (lw_at lw_m7 207 rfl) rfl
theorem q1738 : (Jvm.Cond.methodLink "VaultyardLaw" (92 : Nat) ({ cls := "Vaultyard", name := "back", desc := "(III)I" } : Jvm.MethodName)) ∈ lw_all := lw_g (lw_at lw_m7 208 rfl) rfl
theorem q1742 : (Jvm.Cond.methodLink "VaultyardLaw" (283 : Nat) ({ cls := "VaultyardLaw", name := "owner", desc := "(LVaultyard;IIIIC[J)I" } : Jvm.MethodName)) ∈ lw_all := lw_g (lw_at lw_m7 212 rfl) rfl
theorem q1743 : (Jvm.Cond.static ({ cls := "VaultyardLaw", name := "owner", desc := "(LVaultyard;IIIIC[J)I" } : Jvm.MethodName)) ∈ lw_all := lw_g (lw_at lw_m7 213 rfl) rfl
theorem q1744 : (Jvm.Cond.codeWith ({ cls := "VaultyardLaw", name := "owner", desc := "(LVaultyard;IIIIC[J)I" } : Jvm.MethodName) method_25_code (8 : Nat) (Option.some Jvm.ClassFile.FieldType.int) [((0 : Nat), (16 : Nat), (19 : Nat), (24 : Nat)), ((0 : Nat), (16 : Nat), (23 : Nat), (13 : Nat)), ((0 : Nat), (16 : Nat), (27 : Nat), (34 : Nat)), ((0 : Nat), (16 : Nat), (31 : Nat), (15 : Nat))]) ∈ lw_all := lw_g (lw_at lw_m7 214 rfl) rfl
theorem q1745 : (Jvm.Cond.methodLink "VaultyardLaw" (95 : Nat) ({ cls := "Vaultyard", name := "owner", desc := "(IIIIC)I" } : Jvm.MethodName)) ∈ lw_all := lw_g (lw_at lw_m7 215 rfl) rfl
theorem q1776 : (Jvm.Cond.methodLink "VaultyardLaw" (287 : Nat) ({ cls := "VaultyardLaw", name := "gaps", desc := "(LVaultyard;I[J)I" } : Jvm.MethodName)) ∈ lw_all := lw_g (lw_at lw_m8 6 rfl) rfl
theorem q1777 : (Jvm.Cond.static ({ cls := "VaultyardLaw", name := "gaps", desc := "(LVaultyard;I[J)I" } : Jvm.MethodName)) ∈ lw_all := lw_g (lw_at lw_m8 7 rfl) rfl
theorem q1778 : (Jvm.Cond.codeWith ({ cls := "VaultyardLaw", name := "gaps", desc := "(LVaultyard;I[J)I" } : Jvm.MethodName) method_26_code (4 : Nat) (Option.some Jvm.ClassFile.FieldType.int) [((0 : Nat), (9 : Nat), (12 : Nat), (24 : Nat))]) ∈ lw_all := lw_g (lw_at lw_m8 8 rfl) rfl
theorem q1779 : (Jvm.Cond.methodLink "VaultyardLaw" (99 : Nat) ({ cls := "Vaultyard", name := "gaps", desc := "(I)I" } : Jvm.MethodName)) ∈ lw_all := lw_g (lw_at lw_m8 9 rfl) rfl
theorem q1787 : (Jvm.Cond.methodLink "VaultyardLaw" (290 : Nat) ({ cls := "VaultyardLaw", name := "law", desc := "(LVaultyard;II[J)I" } : Jvm.MethodName)) ∈ lw_all := lw_g (lw_at lw_m8 17 rfl) rfl
theorem q1788 : (Jvm.Cond.static ({ cls := "VaultyardLaw", name := "law", desc := "(LVaultyard;II[J)I" } : Jvm.MethodName)) ∈ lw_all := lw_g (lw_at lw_m8 18 rfl) rfl
theorem q1789 : (Jvm.Cond.codeWith ({ cls := "VaultyardLaw", name := "law", desc := "(LVaultyard;II[J)I" } : Jvm.MethodName) method_27_code (5 : Nat) (Option.some Jvm.ClassFile.FieldType.int) [((0 : Nat), (10 : Nat), (13 : Nat), (13 : Nat))]) ∈ lw_all := lw_g (lw_at lw_m8 19 rfl) rfl
theorem q1790 : (Jvm.Cond.methodLink "VaultyardLaw" (102 : Nat) ({ cls := "Vaultyard", name := "law", desc := "(II)I" } : Jvm.MethodName)) ∈ lw_all := lw_g (lw_at lw_m8 20 rfl) rfl
theorem q1794 : (Jvm.Cond.methodLink "VaultyardLaw" (293 : Nat) ({ cls := "VaultyardLaw", name := "claimant", desc := "(LVaultyard;II[J)I" } : Jvm.MethodName)) ∈ lw_all := lw_g (lw_at lw_m8 24 rfl) rfl
theorem q1795 : (Jvm.Cond.static ({ cls := "VaultyardLaw", name := "claimant", desc := "(LVaultyard;II[J)I" } : Jvm.MethodName)) ∈ lw_all := lw_g (lw_at lw_m8 25 rfl) rfl
theorem q1796 : (Jvm.Cond.codeWith ({ cls := "VaultyardLaw", name := "claimant", desc := "(LVaultyard;II[J)I" } : Jvm.MethodName) method_28_code (5 : Nat) (Option.some Jvm.ClassFile.FieldType.int) [((0 : Nat), (10 : Nat), (13 : Nat), (24 : Nat)), ((0 : Nat), (10 : Nat), (17 : Nat), (13 : Nat)), ((0 : Nat), (10 : Nat), (21 : Nat), (51 : Nat))]) ∈ lw_all := lw_g (lw_at lw_m8 26 rfl) rfl
theorem q1797 : (Jvm.Cond.methodLink "VaultyardLaw" (105 : Nat) ({ cls := "Vaultyard", name := "claimant", desc := "(II)I" } : Jvm.MethodName)) ∈ lw_all := lw_g (lw_at lw_m8 27 rfl) rfl
theorem q1816 : (Jvm.Cond.methodLink "VaultyardLaw" (296 : Nat) ({ cls := "VaultyardLaw", name := "method", desc := "(LVaultyard;IIII[J)I" } : Jvm.MethodName)) ∈ lw_all := lw_g (lw_at lw_m8 46 rfl) rfl
theorem q1817 : (Jvm.Cond.static ({ cls := "VaultyardLaw", name := "method", desc := "(LVaultyard;IIII[J)I" } : Jvm.MethodName)) ∈ lw_all := lw_g (lw_at lw_m8 47 rfl) rfl
theorem q1818 : (Jvm.Cond.codeWith ({ cls := "VaultyardLaw", name := "method", desc := "(LVaultyard;IIII[J)I" } : Jvm.MethodName) method_29_code (7 : Nat) (Option.some Jvm.ClassFile.FieldType.int) [((0 : Nat), (14 : Nat), (17 : Nat), (13 : Nat)), ((0 : Nat), (14 : Nat), (21 : Nat), (15 : Nat))]) ∈ lw_all := lw_g (lw_at lw_m8 48 rfl) rfl
theorem q1819 : (Jvm.Cond.methodLink "VaultyardLaw" (108 : Nat) ({ cls := "Vaultyard", name := "method", desc := "(IIII)I" } : Jvm.MethodName)) ∈ lw_all := lw_g (lw_at lw_m8 49 rfl) rfl
theorem q1842 : (Jvm.Cond.methodLink "VaultyardLaw" (299 : Nat) ({ cls := "VaultyardLaw", name := "treat", desc := "(LVaultyard;II[J)I" } : Jvm.MethodName)) ∈ lw_all := lw_g (lw_at lw_m8 72 rfl) rfl
theorem q1843 : (Jvm.Cond.static ({ cls := "VaultyardLaw", name := "treat", desc := "(LVaultyard;II[J)I" } : Jvm.MethodName)) ∈ lw_all := lw_g (lw_at lw_m8 73 rfl) rfl
theorem q1844 : (Jvm.Cond.codeWith ({ cls := "VaultyardLaw", name := "treat", desc := "(LVaultyard;II[J)I" } : Jvm.MethodName) method_30_code (5 : Nat) (Option.some Jvm.ClassFile.FieldType.int) [((0 : Nat), (10 : Nat), (13 : Nat), (24 : Nat)), ((0 : Nat), (10 : Nat), (17 : Nat), (34 : Nat))]) ∈ lw_all := lw_g (lw_at lw_m8 74 rfl) rfl
theorem q1845 : (Jvm.Cond.methodLink "VaultyardLaw" (111 : Nat) ({ cls := "Vaultyard", name := "treat", desc := "(II)I" } : Jvm.MethodName)) ∈ lw_all := lw_g (lw_at lw_m8 75 rfl) rfl
theorem q1865 : (Jvm.Cond.methodLink "VaultyardLaw" (302 : Nat) ({ cls := "VaultyardLaw", name := "kept", desc := "(LVaultyard;I[J)I" } : Jvm.MethodName)) ∈ lw_all := lw_g (lw_at lw_m8 95 rfl) rfl
theorem q1866 : (Jvm.Cond.static ({ cls := "VaultyardLaw", name := "kept", desc := "(LVaultyard;I[J)I" } : Jvm.MethodName)) ∈ lw_all := lw_g (lw_at lw_m8 96 rfl) rfl
theorem q1867 : (Jvm.Cond.codeWith ({ cls := "VaultyardLaw", name := "kept", desc := "(LVaultyard;I[J)I" } : Jvm.MethodName) method_31_code (4 : Nat) (Option.some Jvm.ClassFile.FieldType.int) [((0 : Nat), (9 : Nat), (12 : Nat), (24 : Nat))]) ∈ lw_all := lw_g (lw_at lw_m8 97 rfl) rfl
theorem q1868 : (Jvm.Cond.methodLink "VaultyardLaw" (114 : Nat) ({ cls := "Vaultyard", name := "kept", desc := "(I)I" } : Jvm.MethodName)) ∈ lw_all := lw_g (lw_at lw_m8 98 rfl) rfl
theorem q1873 : (Jvm.Cond.methodLink "VaultyardLaw" (305 : Nat) ({ cls := "VaultyardLaw", name := "box", desc := "(LVaultyard;I[J)I" } : Jvm.MethodName)) ∈ lw_all := lw_g (lw_at lw_m8 103 rfl) rfl
theorem q1874 : (Jvm.Cond.static ({ cls := "VaultyardLaw", name := "box", desc := "(LVaultyard;I[J)I" } : Jvm.MethodName)) ∈ lw_all := lw_g (lw_at lw_m8 104 rfl) rfl
theorem q1875 : (Jvm.Cond.codeWith ({ cls := "VaultyardLaw", name := "box", desc := "(LVaultyard;I[J)I" } : Jvm.MethodName) method_32_code (4 : Nat) (Option.some Jvm.ClassFile.FieldType.int) [((0 : Nat), (9 : Nat), (12 : Nat), (13 : Nat)), ((0 : Nat), (9 : Nat), (15 : Nat), (15 : Nat))]) ∈ lw_all := lw_g (lw_at lw_m8 105 rfl) rfl
theorem q1876 : (Jvm.Cond.methodLink "VaultyardLaw" (117 : Nat) ({ cls := "Vaultyard", name := "box", desc := "(I)I" } : Jvm.MethodName)) ∈ lw_all := lw_g (lw_at lw_m8 106 rfl) rfl
theorem q1898 : (Jvm.Cond.methodLink "VaultyardLaw" (308 : Nat) ({ cls := "VaultyardLaw", name := "pack", desc := "(LVaultyard;II[J)I" } : Jvm.MethodName)) ∈ lw_all := lw_g (lw_at lw_m8 128 rfl) rfl
theorem q1899 : (Jvm.Cond.static ({ cls := "VaultyardLaw", name := "pack", desc := "(LVaultyard;II[J)I" } : Jvm.MethodName)) ∈ lw_all := lw_g (lw_at lw_m8 129 rfl) rfl
theorem q1900 : (Jvm.Cond.codeWith ({ cls := "VaultyardLaw", name := "pack", desc := "(LVaultyard;II[J)I" } : Jvm.MethodName) method_33_code (5 : Nat) (Option.some Jvm.ClassFile.FieldType.int) [((0 : Nat), (10 : Nat), (13 : Nat), (24 : Nat)), ((0 : Nat), (10 : Nat), (17 : Nat), (34 : Nat))]) ∈ lw_all := lw_g (lw_at lw_m8 130 rfl) rfl
theorem q1901 : (Jvm.Cond.methodLink "VaultyardLaw" (120 : Nat) ({ cls := "Vaultyard", name := "pack", desc := "(II)I" } : Jvm.MethodName)) ∈ lw_all := lw_g (lw_at lw_m8 131 rfl) rfl
theorem q1909 : (Jvm.Cond.methodLink "VaultyardLaw" (311 : Nat) ({ cls := "VaultyardLaw", name := "pests", desc := "(LVaultyard;I[J)I" } : Jvm.MethodName)) ∈ lw_all := lw_g (lw_at lw_m8 139 rfl) rfl
theorem q1910 : (Jvm.Cond.static ({ cls := "VaultyardLaw", name := "pests", desc := "(LVaultyard;I[J)I" } : Jvm.MethodName)) ∈ lw_all := lw_g (lw_at lw_m8 140 rfl) rfl
theorem q1911 : (Jvm.Cond.codeWith ({ cls := "VaultyardLaw", name := "pests", desc := "(LVaultyard;I[J)I" } : Jvm.MethodName) method_34_code (4 : Nat) (Option.some Jvm.ClassFile.FieldType.int) [((0 : Nat), (9 : Nat), (12 : Nat), (24 : Nat))]) ∈ lw_all := lw_g (lw_at lw_m8 141 rfl) rfl
theorem q1912 : (Jvm.Cond.methodLink "VaultyardLaw" (123 : Nat) ({ cls := "Vaultyard", name := "pests", desc := "(I)I" } : Jvm.MethodName)) ∈ lw_all := lw_g (lw_at lw_m8 142 rfl) rfl
theorem q1916 : (Jvm.Cond.methodLink "VaultyardLaw" (314 : Nat) ({ cls := "VaultyardLaw", name := "boxes", desc := "(LVaultyard;II[J)I" } : Jvm.MethodName)) ∈ lw_all := lw_g (lw_at lw_m8 146 rfl) rfl
theorem q1917 : (Jvm.Cond.static ({ cls := "VaultyardLaw", name := "boxes", desc := "(LVaultyard;II[J)I" } : Jvm.MethodName)) ∈ lw_all := lw_g (lw_at lw_m8 147 rfl) rfl
theorem q1918 : (Jvm.Cond.codeWith ({ cls := "VaultyardLaw", name := "boxes", desc := "(LVaultyard;II[J)I" } : Jvm.MethodName) method_35_code (5 : Nat) (Option.some Jvm.ClassFile.FieldType.int) [((0 : Nat), (10 : Nat), (13 : Nat), (13 : Nat)), ((0 : Nat), (10 : Nat), (17 : Nat), (51 : Nat))]) ∈ lw_all := lw_g (lw_at lw_m8 148 rfl) rfl
theorem q1919 : (Jvm.Cond.methodLink "VaultyardLaw" (126 : Nat) ({ cls := "Vaultyard", name := "boxes", desc := "(II)I" } : Jvm.MethodName)) ∈ lw_all := lw_g (lw_at lw_m8 149 rfl) rfl
theorem q1934 : (Jvm.Cond.methodLink "VaultyardLaw" (317 : Nat) ({ cls := "VaultyardLaw", name := "miss", desc := "(LVaultyard;I[J)I" } : Jvm.MethodName)) ∈ lw_all := lw_g (lw_at lw_m8 164 rfl) rfl
theorem q1935 : (Jvm.Cond.static ({ cls := "VaultyardLaw", name := "miss", desc := "(LVaultyard;I[J)I" } : Jvm.MethodName)) ∈ lw_all := lw_g (lw_at lw_m8 165 rfl) rfl
theorem q1936 : (Jvm.Cond.codeWith ({ cls := "VaultyardLaw", name := "miss", desc := "(LVaultyard;I[J)I" } : Jvm.MethodName) method_36_code (4 : Nat) (Option.some Jvm.ClassFile.FieldType.int) [((0 : Nat), (9 : Nat), (12 : Nat), (24 : Nat)), ((0 : Nat), (9 : Nat), (15 : Nat), (34 : Nat))]) ∈ lw_all := lw_g (lw_at lw_m8 166 rfl) rfl
theorem q1937 : (Jvm.Cond.methodLink "VaultyardLaw" (129 : Nat) ({ cls := "Vaultyard", name := "miss", desc := "(I)I" } : Jvm.MethodName)) ∈ lw_all := lw_g (lw_at lw_m8 167 rfl) rfl
theorem q1945 : (Jvm.Cond.methodLink "VaultyardLaw" (320 : Nat) ({ cls := "VaultyardLaw", name := "find", desc := "(LVaultyard;II[J)I" } : Jvm.MethodName)) ∈ lw_all := lw_g (lw_at lw_m8 175 rfl) rfl
theorem q1946 : (Jvm.Cond.static ({ cls := "VaultyardLaw", name := "find", desc := "(LVaultyard;II[J)I" } : Jvm.MethodName)) ∈ lw_all := lw_g (lw_at lw_m8 176 rfl) rfl
theorem q1947 : (Jvm.Cond.codeWith ({ cls := "VaultyardLaw", name := "find", desc := "(LVaultyard;II[J)I" } : Jvm.MethodName) method_37_code (5 : Nat) (Option.some Jvm.ClassFile.FieldType.int) [((0 : Nat), (10 : Nat), (13 : Nat), (24 : Nat)), ((0 : Nat), (10 : Nat), (17 : Nat), (34 : Nat))]) ∈ lw_all := lw_g (lw_at lw_m8 177 rfl) rfl
theorem q1948 : (Jvm.Cond.methodLink "VaultyardLaw" (132 : Nat) ({ cls := "Vaultyard", name := "find", desc := "(II)I" } : Jvm.MethodName)) ∈ lw_all := lw_g (lw_at lw_m8 178 rfl) rfl
theorem q1952 : (Jvm.Cond.methodLink "VaultyardLaw" (323 : Nat) ({ cls := "VaultyardLaw", name := "shown", desc := "(LVaultyard;IIII[J)I" } : Jvm.MethodName)) ∈ lw_all := lw_g (lw_at lw_m8 182 rfl) rfl
theorem q1953 : (Jvm.Cond.static ({ cls := "VaultyardLaw", name := "shown", desc := "(LVaultyard;IIII[J)I" } : Jvm.MethodName)) ∈ lw_all := lw_g (lw_at lw_m8 183 rfl) rfl
theorem q1954 : (Jvm.Cond.codeWith ({ cls := "VaultyardLaw", name := "shown", desc := "(LVaultyard;IIII[J)I" } : Jvm.MethodName) method_38_code (7 : Nat) (Option.some Jvm.ClassFile.FieldType.int) [((0 : Nat), (14 : Nat), (17 : Nat), (24 : Nat)), ((0 : Nat), (14 : Nat), (21 : Nat), (13 : Nat)), ((0 : Nat), (14 : Nat), (25 : Nat), (51 : Nat))]) ∈ lw_all := lw_g (lw_at lw_m8 184 rfl) rfl
theorem q1955 : (Jvm.Cond.methodLink "VaultyardLaw" (135 : Nat) ({ cls := "Vaultyard", name := "shown", desc := "(IIII)I" } : Jvm.MethodName)) ∈ lw_all := lw_g (lw_at lw_m8 185 rfl) rfl
theorem q2038 : (Jvm.Cond.methodLink "VaultyardLaw" (326 : Nat) ({ cls := "VaultyardLaw", name := "planned", desc := "(LVaultyard;III[J)I" } : Jvm.MethodName)) ∈ lw_all := lw_g (lw_at lw_m9 28 rfl) rfl
theorem q2039 : (Jvm.Cond.static ({ cls := "VaultyardLaw", name := "planned", desc := "(LVaultyard;III[J)I" } : Jvm.MethodName)) ∈ lw_all := lw_g (lw_at lw_m9 29 rfl) rfl
theorem q2040 : (Jvm.Cond.codeWith ({ cls := "VaultyardLaw", name := "planned", desc := "(LVaultyard;III[J)I" } : Jvm.MethodName) method_39_code (6 : Nat) (Option.some Jvm.ClassFile.FieldType.int) [((0 : Nat), (12 : Nat), (15 : Nat), (24 : Nat)), ((0 : Nat), (12 : Nat), (19 : Nat), (13 : Nat))]) ∈ lw_all := lw_g (lw_at lw_m9 30 rfl) rfl
theorem q2041 : (Jvm.Cond.methodLink "VaultyardLaw" (138 : Nat) ({ cls := "Vaultyard", name := "planned", desc := "(III)I" } : Jvm.MethodName)) ∈ lw_all := lw_g (lw_at lw_m9 31 rfl) rfl
theorem q2045 : (Jvm.Cond.methodLink "VaultyardLaw" (329 : Nat) ({ cls := "VaultyardLaw", name := "prior", desc := "(LVaultyard;III[J)I" } : Jvm.MethodName)) ∈ lw_all := lw_g (lw_at lw_m9 35 rfl) rfl
theorem q2046 : (Jvm.Cond.static ({ cls := "VaultyardLaw", name := "prior", desc := "(LVaultyard;III[J)I" } : Jvm.MethodName)) ∈ lw_all := lw_g (lw_at lw_m9 36 rfl) rfl
theorem q2047 : (Jvm.Cond.codeWith ({ cls := "VaultyardLaw", name := "prior", desc := "(LVaultyard;III[J)I" } : Jvm.MethodName) method_40_code (6 : Nat) (Option.some Jvm.ClassFile.FieldType.int) [((0 : Nat), (12 : Nat), (15 : Nat), (24 : Nat)), ((0 : Nat), (12 : Nat), (19 : Nat), (13 : Nat)), ((0 : Nat), (12 : Nat), (23 : Nat), (34 : Nat))]) ∈ lw_all := lw_g (lw_at lw_m9 37 rfl) rfl
theorem q2048 : (Jvm.Cond.methodLink "VaultyardLaw" (141 : Nat) ({ cls := "Vaultyard", name := "prior", desc := "(III)I" } : Jvm.MethodName)) ∈ lw_all := lw_g (lw_at lw_m9 38 rfl) rfl
theorem q2052 : (Jvm.Cond.methodLink "VaultyardLaw" (332 : Nat) ({ cls := "VaultyardLaw", name := "test", desc := "(LVaultyard;IIIZ[J)I" } : Jvm.MethodName)) ∈ lw_all := lw_g (lw_at lw_m9 42 rfl) rfl
theorem q2053 : (Jvm.Cond.static ({ cls := "VaultyardLaw", name := "test", desc := "(LVaultyard;IIIZ[J)I" } : Jvm.MethodName)) ∈ lw_all := lw_g (lw_at lw_m9 43 rfl) rfl
theorem q2054 : (Jvm.Cond.codeWith ({ cls := "VaultyardLaw", name := "test", desc := "(LVaultyard;IIIZ[J)I" } : Jvm.MethodName) method_41_code (7 : Nat) (Option.some Jvm.ClassFile.FieldType.int) [((0 : Nat), (14 : Nat), (17 : Nat), (24 : Nat)), ((0 : Nat), (14 : Nat), (21 : Nat), (13 : Nat)), ((0 : Nat), (14 : Nat), (25 : Nat), (15 : Nat))]) ∈ lw_all := lw_g (lw_at lw_m9 44 rfl) rfl
theorem q2055 : (Jvm.Cond.methodLink "VaultyardLaw" (144 : Nat) ({ cls := "Vaultyard", name := "test", desc := "(IIIZ)I" } : Jvm.MethodName)) ∈ lw_all := lw_g (lw_at lw_m9 45 rfl) rfl
theorem q2059 : (Jvm.Cond.methodLink "VaultyardLaw" (336 : Nat) ({ cls := "VaultyardLaw", name := "oddsFor", desc := "(LVaultyard;I[J)I" } : Jvm.MethodName)) ∈ lw_all := lw_g (lw_at lw_m9 49 rfl) rfl
theorem q2060 : (Jvm.Cond.static ({ cls := "VaultyardLaw", name := "oddsFor", desc := "(LVaultyard;I[J)I" } : Jvm.MethodName)) ∈ lw_all := lw_g (lw_at lw_m9 50 rfl) rfl
theorem q2061 : (Jvm.Cond.codeWith ({ cls := "VaultyardLaw", name := "oddsFor", desc := "(LVaultyard;I[J)I" } : Jvm.MethodName) method_42_code (4 : Nat) (Option.some Jvm.ClassFile.FieldType.int) [((0 : Nat), (8 : Nat), (11 : Nat), (24 : Nat))]) ∈ lw_all := lw_g (lw_at lw_m9 51 rfl) rfl
theorem q2062 : (Jvm.Cond.methodLink "VaultyardLaw" (148 : Nat) ({ cls := "Vaultyard", name := "oddsFor", desc := "(I)J" } : Jvm.MethodName)) ∈ lw_all := lw_g (lw_at lw_m9 52 rfl) rfl
theorem q2069 : (Jvm.Cond.methodLink "VaultyardLaw" (339 : Nat) ({ cls := "VaultyardLaw", name := "oddsAgainst", desc := "(LVaultyard;I[J)I" } : Jvm.MethodName)) ∈ lw_all := lw_g (lw_at lw_m9 59 rfl) rfl
theorem q2070 : (Jvm.Cond.static ({ cls := "VaultyardLaw", name := "oddsAgainst", desc := "(LVaultyard;I[J)I" } : Jvm.MethodName)) ∈ lw_all := lw_g (lw_at lw_m9 60 rfl) rfl
theorem q2071 : (Jvm.Cond.codeWith ({ cls := "VaultyardLaw", name := "oddsAgainst", desc := "(LVaultyard;I[J)I" } : Jvm.MethodName) method_43_code (4 : Nat) (Option.some Jvm.ClassFile.FieldType.int) [((0 : Nat), (8 : Nat), (11 : Nat), (24 : Nat))]) ∈ lw_all := lw_g (lw_at lw_m9 61 rfl) rfl
theorem q2072 : (Jvm.Cond.methodLink "VaultyardLaw" (152 : Nat) ({ cls := "Vaultyard", name := "oddsAgainst", desc := "(I)J" } : Jvm.MethodName)) ∈ lw_all := lw_g (lw_at lw_m9 62 rfl) rfl
theorem q2076 : (Jvm.Cond.methodLink "VaultyardLaw" (342 : Nat) ({ cls := "VaultyardLaw", name := "isFake", desc := "(LVaultyard;I[J)I" } : Jvm.MethodName)) ∈ lw_all := lw_g (lw_at lw_m9 66 rfl) rfl
theorem q2077 : (Jvm.Cond.static ({ cls := "VaultyardLaw", name := "isFake", desc := "(LVaultyard;I[J)I" } : Jvm.MethodName)) ∈ lw_all := lw_g (lw_at lw_m9 67 rfl) rfl
theorem q2078 : (Jvm.Cond.codeWith ({ cls := "VaultyardLaw", name := "isFake", desc := "(LVaultyard;I[J)I" } : Jvm.MethodName) method_44_code (4 : Nat) (Option.some Jvm.ClassFile.FieldType.int) [((0 : Nat), (16 : Nat), (19 : Nat), (24 : Nat))]) ∈ lw_all := lw_g (lw_at lw_m9 68 rfl) rfl
theorem q2079 : (Jvm.Cond.methodLink "VaultyardLaw" (155 : Nat) ({ cls := "Vaultyard", name := "isFake", desc := "(I)Z" } : Jvm.MethodName)) ∈ lw_all := lw_g (lw_at lw_m9 69 rfl) rfl
theorem q2088 : (Jvm.Cond.methodLink "VaultyardLaw" (345 : Nat) ({ cls := "VaultyardLaw", name := "opinion", desc := "(LVaultyard;III[J)I" } : Jvm.MethodName)) ∈ lw_all := lw_g (lw_at lw_m9 78 rfl) rfl
theorem q2089 : (Jvm.Cond.static ({ cls := "VaultyardLaw", name := "opinion", desc := "(LVaultyard;III[J)I" } : Jvm.MethodName)) ∈ lw_all := lw_g (lw_at lw_m9 79 rfl) rfl
theorem q2090 : (Jvm.Cond.codeWith ({ cls := "VaultyardLaw", name := "opinion", desc := "(LVaultyard;III[J)I" } : Jvm.MethodName) method_45_code (6 : Nat) (Option.some Jvm.ClassFile.FieldType.int) [((0 : Nat), (12 : Nat), (15 : Nat), (24 : Nat)), ((0 : Nat), (12 : Nat), (19 : Nat), (13 : Nat)), ((0 : Nat), (12 : Nat), (23 : Nat), (15 : Nat))]) ∈ lw_all := lw_g (lw_at lw_m9 80 rfl) rfl
theorem q2091 : (Jvm.Cond.methodLink "VaultyardLaw" (158 : Nat) ({ cls := "Vaultyard", name := "opinion", desc := "(III)I" } : Jvm.MethodName)) ∈ lw_all := lw_g (lw_at lw_m9 81 rfl) rfl
theorem q2119 : (Jvm.Cond.methodLink "VaultyardLaw" (348 : Nat) ({ cls := "VaultyardLaw", name := "held", desc := "(LVaultyard;II[J)I" } : Jvm.MethodName)) ∈ lw_all := lw_g (lw_at lw_m9 109 rfl) rfl
theorem q2120 : (Jvm.Cond.static ({ cls := "VaultyardLaw", name := "held", desc := "(LVaultyard;II[J)I" } : Jvm.MethodName)) ∈ lw_all := lw_g (lw_at lw_m9 110 rfl) rfl
theorem q2121 : (Jvm.Cond.codeWith ({ cls := "VaultyardLaw", name := "held", desc := "(LVaultyard;II[J)I" } : Jvm.MethodName) method_46_code (5 : Nat) (Option.some Jvm.ClassFile.FieldType.int) [((0 : Nat), (10 : Nat), (13 : Nat), (24 : Nat)), ((0 : Nat), (10 : Nat), (17 : Nat), (13 : Nat)), ((0 : Nat), (10 : Nat), (21 : Nat), (51 : Nat))]) ∈ lw_all := lw_g (lw_at lw_m9 111 rfl) rfl
theorem q2122 : (Jvm.Cond.methodLink "VaultyardLaw" (161 : Nat) ({ cls := "Vaultyard", name := "held", desc := "(II)I" } : Jvm.MethodName)) ∈ lw_all := lw_g (lw_at lw_m9 112 rfl) rfl
theorem q2142 : (Jvm.Cond.methodLink "VaultyardLaw" (351 : Nat) ({ cls := "VaultyardLaw", name := "code", desc := "(LVaultyard;I[J)I" } : Jvm.MethodName)) ∈ lw_all := lw_g (lw_at lw_m9 132 rfl) rfl
theorem q2143 : (Jvm.Cond.static ({ cls := "VaultyardLaw", name := "code", desc := "(LVaultyard;I[J)I" } : Jvm.MethodName)) ∈ lw_all := lw_g (lw_at lw_m9 133 rfl) rfl
theorem q2144 : (Jvm.Cond.codeWith ({ cls := "VaultyardLaw", name := "code", desc := "(LVaultyard;I[J)I" } : Jvm.MethodName) method_47_code (4 : Nat) (Option.some Jvm.ClassFile.FieldType.int) [((0 : Nat), (9 : Nat), (12 : Nat), (24 : Nat)), ((0 : Nat), (9 : Nat), (15 : Nat), (51 : Nat))]) ∈ lw_all := lw_g (lw_at lw_m9 134 rfl) rfl
theorem q2145 : (Jvm.Cond.methodLink "VaultyardLaw" (164 : Nat) ({ cls := "Vaultyard", name := "code", desc := "(I)I" } : Jvm.MethodName)) ∈ lw_all := lw_g (lw_at lw_m9 135 rfl) rfl
theorem q2162 : (Jvm.Cond.methodLink "VaultyardLaw" (354 : Nat) ({ cls := "VaultyardLaw", name := "told", desc := "(LVaultyard;II[J)I" } : Jvm.MethodName)) ∈ lw_all := lw_g (lw_at lw_m9 152 rfl) rfl
theorem q2163 : (Jvm.Cond.static ({ cls := "VaultyardLaw", name := "told", desc := "(LVaultyard;II[J)I" } : Jvm.MethodName)) ∈ lw_all := lw_g (lw_at lw_m9 153 rfl) rfl
theorem q2164 : (Jvm.Cond.codeWith ({ cls := "VaultyardLaw", name := "told", desc := "(LVaultyard;II[J)I" } : Jvm.MethodName) method_48_code (5 : Nat) (Option.some Jvm.ClassFile.FieldType.int) [((0 : Nat), (10 : Nat), (13 : Nat), (24 : Nat)), ((0 : Nat), (10 : Nat), (17 : Nat), (51 : Nat))]) ∈ lw_all := lw_g (lw_at lw_m9 154 rfl) rfl
theorem q2165 : (Jvm.Cond.methodLink "VaultyardLaw" (167 : Nat) ({ cls := "Vaultyard", name := "told", desc := "(II)I" } : Jvm.MethodName)) ∈ lw_all := lw_g (lw_at lw_m9 155 rfl) rfl
theorem q2169 : (Jvm.Cond.methodLink "VaultyardLaw" (357 : Nat) ({ cls := "VaultyardLaw", name := "fund", desc := "(LVaultyard;II[J)I" } : Jvm.MethodName)) ∈ lw_all := lw_g (lw_at lw_m9 159 rfl) rfl
theorem q2170 : (Jvm.Cond.static ({ cls := "VaultyardLaw", name := "fund", desc := "(LVaultyard;II[J)I" } : Jvm.MethodName)) ∈ lw_all := lw_g (lw_at lw_m9 160 rfl) rfl
theorem q2171 : (Jvm.Cond.codeWith ({ cls := "VaultyardLaw", name := "fund", desc := "(LVaultyard;II[J)I" } : Jvm.MethodName) method_49_code (5 : Nat) (Option.some Jvm.ClassFile.FieldType.int) [((0 : Nat), (10 : Nat), (13 : Nat), (13 : Nat)), ((0 : Nat), (10 : Nat), (17 : Nat), (15 : Nat))]) ∈ lw_all := lw_g (lw_at lw_m9 161 rfl) rfl
theorem q2172 : (Jvm.Cond.methodLink "VaultyardLaw" (170 : Nat) ({ cls := "Vaultyard", name := "fund", desc := "(II)I" } : Jvm.MethodName)) ∈ lw_all := lw_g (lw_at lw_m9 162 rfl) rfl
theorem q2194 : (Jvm.Cond.methodLink "VaultyardLaw" (360 : Nat) ({ cls := "VaultyardLaw", name := "money", desc := "(LVaultyard;I[J)I" } : Jvm.MethodName)) ∈ lw_all := lw_g (lw_at lw_m9 184 rfl) rfl
theorem q2195 : (Jvm.Cond.static ({ cls := "VaultyardLaw", name := "money", desc := "(LVaultyard;I[J)I" } : Jvm.MethodName)) ∈ lw_all := lw_g (lw_at lw_m9 185 rfl) rfl
theorem q2196 : (Jvm.Cond.codeWith ({ cls := "VaultyardLaw", name := "money", desc := "(LVaultyard;I[J)I" } : Jvm.MethodName) method_50_code (4 : Nat) (Option.some Jvm.ClassFile.FieldType.int) [((0 : Nat), (9 : Nat), (12 : Nat), (24 : Nat))]) ∈ lw_all := lw_g (lw_at lw_m9 186 rfl) rfl
theorem q2197 : (Jvm.Cond.methodLink "VaultyardLaw" (173 : Nat) ({ cls := "Vaultyard", name := "money", desc := "(I)I" } : Jvm.MethodName)) ∈ lw_all := lw_g (lw_at lw_m9 187 rfl) rfl
theorem q2201 : (Jvm.Cond.methodLink "VaultyardLaw" (363 : Nat) ({ cls := "VaultyardLaw", name := "water", desc := "(LVaultyard;III[J)I" } : Jvm.MethodName)) ∈ lw_all := lw_g (lw_at lw_m9 191 rfl) rfl
theorem q2202 : (Jvm.Cond.static ({ cls := "VaultyardLaw", name := "water", desc := "(LVaultyard;III[J)I" } : Jvm.MethodName)) ∈ lw_all := lw_g (lw_at lw_m9 192 rfl) rfl
theorem q2203 : (Jvm.Cond.codeWith ({ cls := "VaultyardLaw", name := "water", desc := "(LVaultyard;III[J)I" } : Jvm.MethodName) method_51_code (6 : Nat) (Option.some Jvm.ClassFile.FieldType.int) [((0 : Nat), (12 : Nat), (15 : Nat), (24 : Nat)), ((0 : Nat), (12 : Nat), (19 : Nat), (13 : Nat))]) ∈ lw_all := lw_g (lw_at lw_m9 193 rfl) rfl
theorem q2204 : (Jvm.Cond.methodLink "VaultyardLaw" (176 : Nat) ({ cls := "Vaultyard", name := "water", desc := "(III)I" } : Jvm.MethodName)) ∈ lw_all := lw_g (lw_at lw_m9 194 rfl) rfl
theorem q2241 : (Jvm.Cond.methodLink "VaultyardLaw" (366 : Nat) ({ cls := "VaultyardLaw", name := "saved", desc := "(LVaultyard;III[J)I" } : Jvm.MethodName)) ∈ lw_all := lw_g (lw_at lw_m9 231 rfl) rfl
theorem q2242 : (Jvm.Cond.static ({ cls := "VaultyardLaw", name := "saved", desc := "(LVaultyard;III[J)I" } : Jvm.MethodName)) ∈ lw_all := lw_g (lw_at lw_m9 232 rfl) rfl
theorem q2243 : (Jvm.Cond.codeWith ({ cls := "VaultyardLaw", name := "saved", desc := "(LVaultyard;III[J)I" } : Jvm.MethodName) method_52_code (6 : Nat) (Option.some Jvm.ClassFile.FieldType.int) [((0 : Nat), (12 : Nat), (15 : Nat), (24 : Nat)), ((0 : Nat), (12 : Nat), (19 : Nat), (13 : Nat)), ((0 : Nat), (12 : Nat), (23 : Nat), (51 : Nat))]) ∈ lw_all := lw_g (lw_at lw_m9 233 rfl) rfl
theorem q2244 : (Jvm.Cond.methodLink "VaultyardLaw" (179 : Nat) ({ cls := "Vaultyard", name := "saved", desc := "(III)I" } : Jvm.MethodName)) ∈ lw_all := lw_g (lw_at lw_m9 234 rfl) rfl
theorem q2248 : (Jvm.Cond.methodLink "VaultyardLaw" (369 : Nat) ({ cls := "VaultyardLaw", name := "go", desc := "(LVaultyard;I[J)I" } : Jvm.MethodName)) ∈ lw_all := lw_g (lw_at lw_m9 238 rfl) rfl
theorem q2249 : (Jvm.Cond.static ({ cls := "VaultyardLaw", name := "go", desc := "(LVaultyard;I[J)I" } : Jvm.MethodName)) ∈ lw_all := lw_g (lw_at lw_m9 239 rfl) rfl
theorem q2250 : (Jvm.Cond.codeWith ({ cls := "VaultyardLaw", name := "go", desc := "(LVaultyard;I[J)I" } : Jvm.MethodName) method_53_code (4 : Nat) (Option.some Jvm.ClassFile.FieldType.int) [((0 : Nat), (9 : Nat), (12 : Nat), (24 : Nat)), ((0 : Nat), (9 : Nat), (15 : Nat), (34 : Nat))]) ∈ lw_all := lw_g (lw_at lw_m10 0 rfl) rfl
theorem q2251 : (Jvm.Cond.methodLink "VaultyardLaw" (182 : Nat) ({ cls := "Vaultyard", name := "go", desc := "(I)I" } : Jvm.MethodName)) ∈ lw_all := lw_g (lw_at lw_m10 1 rfl) rfl
theorem q2263 : (Jvm.Cond.methodLink "VaultyardLaw" (377 : Nat) ({ cls := "VaultyardLaw", name := "safeShare", desc := "(LVaultyard;[D)I" } : Jvm.MethodName)) ∈ lw_all := lw_g (lw_at lw_m10 13 rfl) rfl
theorem q2264 : (Jvm.Cond.static ({ cls := "VaultyardLaw", name := "safeShare", desc := "(LVaultyard;[D)I" } : Jvm.MethodName)) ∈ lw_all := lw_g (lw_at lw_m10 14 rfl) rfl
theorem q2265 : (Jvm.Cond.codeWith ({ cls := "VaultyardLaw", name := "safeShare", desc := "(LVaultyard;[D)I" } : Jvm.MethodName) method_54_code (3 : Nat) (Option.some Jvm.ClassFile.FieldType.int) [((0 : Nat), (8 : Nat), (11 : Nat), (189 : Nat))]) ∈ lw_all := lw_g (lw_at lw_m10 15 rfl) rfl
theorem q2266 : (Jvm.Cond.classLink "VaultyardLaw" (189 : Nat) "java/lang/ArithmeticException") ∈ lw_all := lw_g (lw_at lw_m10 16 rfl) rfl
theorem q2280 : (Jvm.Cond.methodLink "VaultyardLaw" (185 : Nat) ({ cls := "Vaultyard", name := "safeShare", desc := "()F" } : Jvm.MethodName)) ∈ lw_all := lw_g (lw_at lw_m10 30 rfl) rfl
theorem q2289 : (Jvm.Cond.methodLink "VaultyardLaw" (381 : Nat) ({ cls := "VaultyardLaw", name := "meanDamage", desc := "(LVaultyard;[D)I" } : Jvm.MethodName)) ∈ lw_all := lw_g (lw_at lw_m10 39 rfl) rfl
theorem q2290 : (Jvm.Cond.static ({ cls := "VaultyardLaw", name := "meanDamage", desc := "(LVaultyard;[D)I" } : Jvm.MethodName)) ∈ lw_all := lw_g (lw_at lw_m10 40 rfl) rfl
theorem q2291 : (Jvm.Cond.codeWith ({ cls := "VaultyardLaw", name := "meanDamage", desc := "(LVaultyard;[D)I" } : Jvm.MethodName) method_55_code (3 : Nat) (Option.some Jvm.ClassFile.FieldType.int) [((0 : Nat), (7 : Nat), (10 : Nat), (189 : Nat))]) ∈ lw_all := lw_g (lw_at lw_m10 41 rfl) rfl
theorem q2292 : (Jvm.Cond.methodLink "VaultyardLaw" (191 : Nat) ({ cls := "Vaultyard", name := "meanDamage", desc := "()D" } : Jvm.MethodName)) ∈ lw_all := lw_g (lw_at lw_m10 42 rfl) rfl
theorem q2296 : (Jvm.Cond.classLink "VaultyardLaw" (196 : Nat) "VaultyardModel") ∈ lw_all := lw_g (lw_at lw_m10 46 rfl) rfl
theorem q2298 : (Jvm.Cond.methodLink "VaultyardLaw" (198 : Nat) ({ cls := "VaultyardModel", name := "<init>", desc := "()V" } : Jvm.MethodName)) ∈ lw_all := lw_g (lw_at lw_m10 48 rfl) rfl
theorem q2341 : (Jvm.Cond.methodLink "VaultyardLaw" (205 : Nat) ({ cls := "VaultyardModel", name := "thrown", desc := "()I" } : Jvm.MethodName)) ∈ lw_all := lw_g (lw_at lw_m10 91 rfl) rfl
theorem q2345 : (Jvm.Cond.methodLink "VaultyardLaw" (204 : Nat) ({ cls := "VaultyardModel", name := "material", desc := "(IIIIZ)I" } : Jvm.MethodName)) ∈ lw_all := lw_g (lw_at lw_m10 95 rfl) rfl
theorem q2384 : (Jvm.Cond.methodLink "VaultyardLaw" (212 : Nat) ({ cls := "VaultyardModel", name := "room", desc := "(III)I" } : Jvm.MethodName)) ∈ lw_all := lw_g (lw_at lw_m10 134 rfl) rfl
theorem q2418 : (Jvm.Cond.methodLink "VaultyardLaw" (215 : Nat) ({ cls := "VaultyardModel", name := "climate", desc := "(III)I" } : Jvm.MethodName)) ∈ lw_all := lw_g (lw_at lw_m10 168 rfl) rfl
theorem q2431 : (Jvm.Cond.methodLink "VaultyardLaw" (219 : Nat) ({ cls := "VaultyardModel", name := "infest", desc := "(IIZ)Z" } : Jvm.MethodName)) ∈ lw_all := lw_g (lw_at lw_m10 181 rfl) rfl
theorem q2436 : (Jvm.Cond.methodLink "VaultyardLaw" (223 : Nat) ({ cls := "VaultyardModel", name := "thing", desc := "(IIII)I" } : Jvm.MethodName)) ∈ lw_all := lw_g (lw_at lw_m10 186 rfl) rfl
theorem q2543 : (Jvm.Cond.methodLink "VaultyardLaw" (226 : Nat) ({ cls := "VaultyardModel", name := "part", desc := "(III)I" } : Jvm.MethodName)) ∈ lw_all := lw_g (lw_at lw_m11 53 rfl) rfl
theorem q2555 : (Jvm.Cond.methodLink "VaultyardLaw" (230 : Nat) ({ cls := "VaultyardModel", name := "move", desc := "(II)I" } : Jvm.MethodName)) ∈ lw_all := lw_g (lw_at lw_m11 65 rfl) rfl
theorem q2564 : (Jvm.Cond.methodLink "VaultyardLaw" (234 : Nat) ({ cls := "VaultyardModel", name := "place", desc := "(I)C" } : Jvm.MethodName)) ∈ lw_all := lw_g (lw_at lw_m11 74 rfl) rfl
theorem q2576 : (Jvm.Cond.methodLink "VaultyardLaw" (237 : Nat) ({ cls := "VaultyardModel", name := "roomOf", desc := "(I)I" } : Jvm.MethodName)) ∈ lw_all := lw_g (lw_at lw_m11 86 rfl) rfl
theorem q2580 : (Jvm.Cond.methodLink "VaultyardLaw" (240 : Nat) ({ cls := "VaultyardModel", name := "day", desc := "(I)I" } : Jvm.MethodName)) ∈ lw_all := lw_g (lw_at lw_m11 90 rfl) rfl
theorem q2608 : (Jvm.Cond.methodLink "VaultyardLaw" (244 : Nat) ({ cls := "VaultyardModel", name := "year", desc := "()I" } : Jvm.MethodName)) ∈ lw_all := lw_g (lw_at lw_m11 118 rfl) rfl
theorem q2616 : (Jvm.Cond.methodLink "VaultyardLaw" (247 : Nat) ({ cls := "VaultyardModel", name := "light", desc := "(I)I" } : Jvm.MethodName)) ∈ lw_all := lw_g (lw_at lw_m11 126 rfl) rfl
theorem q2620 : (Jvm.Cond.methodLink "VaultyardLaw" (250 : Nat) ({ cls := "VaultyardModel", name := "damage", desc := "(I)I" } : Jvm.MethodName)) ∈ lw_all := lw_g (lw_at lw_m11 130 rfl) rfl
theorem q2624 : (Jvm.Cond.methodLink "VaultyardLaw" (253 : Nat) ({ cls := "VaultyardModel", name := "journal", desc := "(I)I" } : Jvm.MethodName)) ∈ lw_all := lw_g (lw_at lw_m11 134 rfl) rfl
theorem q2628 : (Jvm.Cond.methodLink "VaultyardLaw" (257 : Nat) ({ cls := "VaultyardModel", name := "entry", desc := "(IIC)I" } : Jvm.MethodName)) ∈ lw_all := lw_g (lw_at lw_m11 138 rfl) rfl
theorem q2681 : (Jvm.Cond.methodLink "VaultyardLaw" (260 : Nat) ({ cls := "VaultyardModel", name := "visitors", desc := "(II)I" } : Jvm.MethodName)) ∈ lw_all := lw_g (lw_at lw_m11 191 rfl) rfl
theorem q2690 : (Jvm.Cond.methodLink "VaultyardLaw" (263 : Nat) ({ cls := "VaultyardModel", name := "crowd", desc := "(II)I" } : Jvm.MethodName)) ∈ lw_all := lw_g (lw_at lw_m11 200 rfl) rfl
theorem q2694 : (Jvm.Cond.methodLink "VaultyardLaw" (266 : Nat) ({ cls := "VaultyardModel", name := "alarms", desc := "(I)I" } : Jvm.MethodName)) ∈ lw_all := lw_g (lw_at lw_m11 204 rfl) rfl
theorem q2698 : (Jvm.Cond.methodLink "VaultyardLaw" (270 : Nat) ({ cls := "VaultyardModel", name := "encase", desc := "(IZ)Z" } : Jvm.MethodName)) ∈ lw_all := lw_g (lw_at lw_m11 208 rfl) rfl
theorem q2702 : (Jvm.Cond.methodLink "VaultyardLaw" (273 : Nat) ({ cls := "VaultyardModel", name := "lend", desc := "(III)I" } : Jvm.MethodName)) ∈ lw_all := lw_g (lw_at lw_m11 212 rfl) rfl
theorem q2748 : (Jvm.Cond.methodLink "VaultyardLaw" (276 : Nat) ({ cls := "VaultyardModel", name := "premium", desc := "(II)I" } : Jvm.MethodName)) ∈ lw_all := lw_g (lw_at lw_m12 18 rfl) rfl
theorem q2752 : (Jvm.Cond.methodLink "VaultyardLaw" (279 : Nat) ({ cls := "VaultyardModel", name := "isLate", desc := "(I)Z" } : Jvm.MethodName)) ∈ lw_all := lw_g (lw_at lw_m12 22 rfl) rfl
theorem q2756 : (Jvm.Cond.methodLink "VaultyardLaw" (282 : Nat) ({ cls := "VaultyardModel", name := "back", desc := "(III)I" } : Jvm.MethodName)) ∈ lw_all := lw_g (lw_at lw_m12 26 rfl) rfl
theorem q2760 : (Jvm.Cond.methodLink "VaultyardLaw" (286 : Nat) ({ cls := "VaultyardModel", name := "owner", desc := "(IIIIC)I" } : Jvm.MethodName)) ∈ lw_all := lw_g (lw_at lw_m12 30 rfl) rfl
theorem q2792 : (Jvm.Cond.methodLink "VaultyardLaw" (289 : Nat) ({ cls := "VaultyardModel", name := "gaps", desc := "(I)I" } : Jvm.MethodName)) ∈ lw_all := lw_g (lw_at lw_m12 62 rfl) rfl
theorem q2796 : (Jvm.Cond.methodLink "VaultyardLaw" (292 : Nat) ({ cls := "VaultyardModel", name := "law", desc := "(II)I" } : Jvm.MethodName)) ∈ lw_all := lw_g (lw_at lw_m12 66 rfl) rfl
theorem q2801 : (Jvm.Cond.methodLink "VaultyardLaw" (295 : Nat) ({ cls := "VaultyardModel", name := "claimant", desc := "(II)I" } : Jvm.MethodName)) ∈ lw_all := lw_g (lw_at lw_m12 71 rfl) rfl
theorem q2809 : (Jvm.Cond.methodLink "VaultyardLaw" (298 : Nat) ({ cls := "VaultyardModel", name := "method", desc := "(IIII)I" } : Jvm.MethodName)) ∈ lw_all := lw_g (lw_at lw_m12 79 rfl) rfl
theorem q2815 : (Jvm.Cond.methodLink "VaultyardLaw" (301 : Nat) ({ cls := "VaultyardModel", name := "treat", desc := "(II)I" } : Jvm.MethodName)) ∈ lw_all := lw_g (lw_at lw_m12 85 rfl) rfl
theorem q2819 : (Jvm.Cond.methodLink "VaultyardLaw" (304 : Nat) ({ cls := "VaultyardModel", name := "kept", desc := "(I)I" } : Jvm.MethodName)) ∈ lw_all := lw_g (lw_at lw_m12 89 rfl) rfl
theorem q2823 : (Jvm.Cond.methodLink "VaultyardLaw" (307 : Nat) ({ cls := "VaultyardModel", name := "box", desc := "(I)I" } : Jvm.MethodName)) ∈ lw_all := lw_g (lw_at lw_m12 93 rfl) rfl
theorem q2827 : (Jvm.Cond.methodLink "VaultyardLaw" (310 : Nat) ({ cls := "VaultyardModel", name := "pack", desc := "(II)I" } : Jvm.MethodName)) ∈ lw_all := lw_g (lw_at lw_m12 97 rfl) rfl
theorem q2831 : (Jvm.Cond.methodLink "VaultyardLaw" (313 : Nat) ({ cls := "VaultyardModel", name := "pests", desc := "(I)I" } : Jvm.MethodName)) ∈ lw_all := lw_g (lw_at lw_m12 101 rfl) rfl
theorem q2835 : (Jvm.Cond.methodLink "VaultyardLaw" (316 : Nat) ({ cls := "VaultyardModel", name := "boxes", desc := "(II)I" } : Jvm.MethodName)) ∈ lw_all := lw_g (lw_at lw_m12 105 rfl) rfl
theorem q2844 : (Jvm.Cond.methodLink "VaultyardLaw" (319 : Nat) ({ cls := "VaultyardModel", name := "miss", desc := "(I)I" } : Jvm.MethodName)) ∈ lw_all := lw_g (lw_at lw_m12 114 rfl) rfl
theorem q2852 : (Jvm.Cond.methodLink "VaultyardLaw" (322 : Nat) ({ cls := "VaultyardModel", name := "find", desc := "(II)I" } : Jvm.MethodName)) ∈ lw_all := lw_g (lw_at lw_m12 122 rfl) rfl
theorem q2856 : (Jvm.Cond.methodLink "VaultyardLaw" (325 : Nat) ({ cls := "VaultyardModel", name := "shown", desc := "(IIII)I" } : Jvm.MethodName)) ∈ lw_all := lw_g (lw_at lw_m12 126 rfl) rfl
theorem q2869 : (Jvm.Cond.methodLink "VaultyardLaw" (328 : Nat) ({ cls := "VaultyardModel", name := "planned", desc := "(III)I" } : Jvm.MethodName)) ∈ lw_all := lw_g (lw_at lw_m12 139 rfl) rfl
theorem q2873 : (Jvm.Cond.methodLink "VaultyardLaw" (331 : Nat) ({ cls := "VaultyardModel", name := "prior", desc := "(III)I" } : Jvm.MethodName)) ∈ lw_all := lw_g (lw_at lw_m12 143 rfl) rfl
theorem q2877 : (Jvm.Cond.methodLink "VaultyardLaw" (335 : Nat) ({ cls := "VaultyardModel", name := "test", desc := "(IIIZ)I" } : Jvm.MethodName)) ∈ lw_all := lw_g (lw_at lw_m12 147 rfl) rfl
theorem q2881 : (Jvm.Cond.methodLink "VaultyardLaw" (338 : Nat) ({ cls := "VaultyardModel", name := "oddsFor", desc := "(I)J" } : Jvm.MethodName)) ∈ lw_all := lw_g (lw_at lw_m12 151 rfl) rfl
theorem q2891 : (Jvm.Cond.methodLink "VaultyardLaw" (341 : Nat) ({ cls := "VaultyardModel", name := "oddsAgainst", desc := "(I)J" } : Jvm.MethodName)) ∈ lw_all := lw_g (lw_at lw_m12 161 rfl) rfl
theorem q2895 : (Jvm.Cond.methodLink "VaultyardLaw" (344 : Nat) ({ cls := "VaultyardModel", name := "isFake", desc := "(I)Z" } : Jvm.MethodName)) ∈ lw_all := lw_g (lw_at lw_m12 165 rfl) rfl
theorem q2902 : (Jvm.Cond.methodLink "VaultyardLaw" (347 : Nat) ({ cls := "VaultyardModel", name := "opinion", desc := "(III)I" } : Jvm.MethodName)) ∈ lw_all := lw_g (lw_at lw_m12 172 rfl) rfl
theorem q2911 : (Jvm.Cond.methodLink "VaultyardLaw" (350 : Nat) ({ cls := "VaultyardModel", name := "held", desc := "(II)I" } : Jvm.MethodName)) ∈ lw_all := lw_g (lw_at lw_m12 181 rfl) rfl
theorem q2919 : (Jvm.Cond.methodLink "VaultyardLaw" (353 : Nat) ({ cls := "VaultyardModel", name := "code", desc := "(I)I" } : Jvm.MethodName)) ∈ lw_all := lw_g (lw_at lw_m12 189 rfl) rfl
theorem q2931 : (Jvm.Cond.methodLink "VaultyardLaw" (356 : Nat) ({ cls := "VaultyardModel", name := "told", desc := "(II)I" } : Jvm.MethodName)) ∈ lw_all := lw_g (lw_at lw_m12 201 rfl) rfl
theorem q2935 : (Jvm.Cond.methodLink "VaultyardLaw" (359 : Nat) ({ cls := "VaultyardModel", name := "fund", desc := "(II)I" } : Jvm.MethodName)) ∈ lw_all := lw_g (lw_at lw_m12 205 rfl) rfl
theorem q2940 : (Jvm.Cond.methodLink "VaultyardLaw" (362 : Nat) ({ cls := "VaultyardModel", name := "money", desc := "(I)I" } : Jvm.MethodName)) ∈ lw_all := lw_g (lw_at lw_m12 210 rfl) rfl
theorem q2944 : (Jvm.Cond.methodLink "VaultyardLaw" (365 : Nat) ({ cls := "VaultyardModel", name := "water", desc := "(III)I" } : Jvm.MethodName)) ∈ lw_all := lw_g (lw_at lw_m12 214 rfl) rfl
theorem q2991 : (Jvm.Cond.methodLink "VaultyardLaw" (368 : Nat) ({ cls := "VaultyardModel", name := "saved", desc := "(III)I" } : Jvm.MethodName)) ∈ lw_all := lw_g (lw_at lw_m13 21 rfl) rfl
theorem q2995 : (Jvm.Cond.methodLink "VaultyardLaw" (371 : Nat) ({ cls := "VaultyardModel", name := "go", desc := "(I)I" } : Jvm.MethodName)) ∈ lw_all := lw_g (lw_at lw_m13 25 rfl) rfl
theorem q3003 : (Jvm.Cond.methodLink "VaultyardLaw" (376 : Nat) ({ cls := "VaultyardModel", name := "checksum", desc := "()J" } : Jvm.MethodName)) ∈ lw_all := lw_g (lw_at lw_m13 33 rfl) rfl
theorem q3009 : (Jvm.Cond.methodLink "VaultyardLaw" (380 : Nat) ({ cls := "VaultyardModel", name := "safeShare", desc := "()F" } : Jvm.MethodName)) ∈ lw_all := lw_g (lw_at lw_m13 39 rfl) rfl
theorem q3013 : (Jvm.Cond.methodLink "VaultyardLaw" (383 : Nat) ({ cls := "VaultyardModel", name := "meanDamage", desc := "()D" } : Jvm.MethodName)) ∈ lw_all := lw_g (lw_at lw_m13 43 rfl) rfl
theorem q3017 : (Jvm.Cond.methodLink "VaultyardLaw" (388 : Nat) ({ cls := "VaultyardModel", name := "isSound", desc := "()Z" } : Jvm.MethodName)) ∈ lw_all := lw_g (lw_at lw_m13 47 rfl) rfl

