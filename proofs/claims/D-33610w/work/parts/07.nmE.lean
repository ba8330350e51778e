/-! PatchCordsLaw -/
set_option maxRecDepth 100000
def RX0 : String := "PatchCordsLaw"
abbrev cX0_put : ByteArray := method_3_code
def yX0_put : MethodName := ⟨RX0, "put", "(LPatchCords;I[J)I"⟩
def dkwX0_put_0 : List UInt8 := [44, 3, 42, 27, 182, 0, 7, 133, 80, 167, 0, 9, 78, 4, 172, 78, 5, 172, 3, 172]
abbrev dktX0_put_0 : List UInt8 := dkwX0_put_0 ++ []
theorem dksX0_put_0 : cX0_put.data.toList.drop 0 = dktX0_put_0 := by decide +kernel
theorem dX0_put_0 : decode cX0_put 0 = .ok (.aload_n 2, 1) := dk_44 (dk_at dksX0_put_0 0 rfl rfl)
theorem dX0_put_1 : decode cX0_put 1 = .ok (.iconst 0, 1) := dk_3 (dk_at dksX0_put_0 1 rfl rfl)
theorem dX0_put_2 : decode cX0_put 2 = .ok (.aload_n 0, 1) := dk_42 (dk_at dksX0_put_0 2 rfl rfl)
theorem dX0_put_3 : decode cX0_put 3 = .ok (.iload_n 1, 1) := dk_27 (dk_at dksX0_put_0 3 rfl rfl)
theorem dX0_put_4 : decode cX0_put 4 = .ok (.invokevirtual 7, 3) := dk_182 0 7 (dk_at dksX0_put_0 4 rfl rfl)
theorem dX0_put_7 : decode cX0_put 7 = .ok (.i2l, 1) := dk_133 (dk_at dksX0_put_0 7 rfl rfl)
theorem dX0_put_8 : decode cX0_put 8 = .ok (.lastore, 1) := dk_80 (dk_at dksX0_put_0 8 rfl rfl)
theorem dX0_put_9 : decode cX0_put 9 = .ok (.goto 9, 3) := dk_167 0 9 (dk_at dksX0_put_0 9 rfl rfl)
theorem dX0_put_12 : decode cX0_put 12 = .ok (.astore_n 3, 1) := dk_78 (dk_at dksX0_put_0 12 rfl rfl)
theorem dX0_put_13 : decode cX0_put 13 = .ok (.iconst 1, 1) := dk_4 (dk_at dksX0_put_0 13 rfl rfl)
theorem dX0_put_14 : decode cX0_put 14 = .ok (.ireturn, 1) := dk_172 (dk_at dksX0_put_0 14 rfl rfl)
theorem dX0_put_15 : decode cX0_put 15 = .ok (.astore_n 3, 1) := dk_78 (dk_at dksX0_put_0 15 rfl rfl)
theorem dX0_put_16 : decode cX0_put 16 = .ok (.iconst 2, 1) := dk_5 (dk_at dksX0_put_0 16 rfl rfl)
theorem dX0_put_17 : decode cX0_put 17 = .ok (.ireturn, 1) := dk_172 (dk_at dksX0_put_0 17 rfl rfl)
theorem dX0_put_18 : decode cX0_put 18 = .ok (.iconst 0, 1) := dk_3 (dk_at dksX0_put_0 18 rfl rfl)
theorem dX0_put_19 : decode cX0_put 19 = .ok (.ireturn, 1) := dk_172 (dk_at dksX0_put_0 19 rfl rfl)
abbrev cX0_turnWeight : ByteArray := method_4_code
def yX0_turnWeight : MethodName := ⟨RX0, "turnWeight", "(LPatchCords;II[J)I"⟩
def dkwX0_turnWeight_0 : List UInt8 := [45, 3, 42, 27, 28, 182, 0, 17, 133, 80, 167, 0, 11, 58, 4, 4, 172, 58, 4, 5, 172, 3, 172]
abbrev dktX0_turnWeight_0 : List UInt8 := dkwX0_turnWeight_0 ++ []
theorem dksX0_turnWeight_0 : cX0_turnWeight.data.toList.drop 0 = dktX0_turnWeight_0 := by decide +kernel
theorem dX0_turnWeight_0 : decode cX0_turnWeight 0 = .ok (.aload_n 3, 1) := dk_45 (dk_at dksX0_turnWeight_0 0 rfl rfl)
theorem dX0_turnWeight_1 : decode cX0_turnWeight 1 = .ok (.iconst 0, 1) := dk_3 (dk_at dksX0_turnWeight_0 1 rfl rfl)
theorem dX0_turnWeight_2 : decode cX0_turnWeight 2 = .ok (.aload_n 0, 1) := dk_42 (dk_at dksX0_turnWeight_0 2 rfl rfl)
theorem dX0_turnWeight_3 : decode cX0_turnWeight 3 = .ok (.iload_n 1, 1) := dk_27 (dk_at dksX0_turnWeight_0 3 rfl rfl)
theorem dX0_turnWeight_4 : decode cX0_turnWeight 4 = .ok (.iload_n 2, 1) := dk_28 (dk_at dksX0_turnWeight_0 4 rfl rfl)
theorem dX0_turnWeight_5 : decode cX0_turnWeight 5 = .ok (.invokevirtual 17, 3) := dk_182 0 17 (dk_at dksX0_turnWeight_0 5 rfl rfl)
theorem dX0_turnWeight_8 : decode cX0_turnWeight 8 = .ok (.i2l, 1) := dk_133 (dk_at dksX0_turnWeight_0 8 rfl rfl)
theorem dX0_turnWeight_9 : decode cX0_turnWeight 9 = .ok (.lastore, 1) := dk_80 (dk_at dksX0_turnWeight_0 9 rfl rfl)
theorem dX0_turnWeight_10 : decode cX0_turnWeight 10 = .ok (.goto 11, 3) := dk_167 0 11 (dk_at dksX0_turnWeight_0 10 rfl rfl)
theorem dX0_turnWeight_13 : decode cX0_turnWeight 13 = .ok (.astore 4, 2) := dk_58 4 (dk_at dksX0_turnWeight_0 13 rfl rfl)
theorem dX0_turnWeight_15 : decode cX0_turnWeight 15 = .ok (.iconst 1, 1) := dk_4 (dk_at dksX0_turnWeight_0 15 rfl rfl)
theorem dX0_turnWeight_16 : decode cX0_turnWeight 16 = .ok (.ireturn, 1) := dk_172 (dk_at dksX0_turnWeight_0 16 rfl rfl)
theorem dX0_turnWeight_17 : decode cX0_turnWeight 17 = .ok (.astore 4, 2) := dk_58 4 (dk_at dksX0_turnWeight_0 17 rfl rfl)
theorem dX0_turnWeight_19 : decode cX0_turnWeight 19 = .ok (.iconst 2, 1) := dk_5 (dk_at dksX0_turnWeight_0 19 rfl rfl)
theorem dX0_turnWeight_20 : decode cX0_turnWeight 20 = .ok (.ireturn, 1) := dk_172 (dk_at dksX0_turnWeight_0 20 rfl rfl)
theorem dX0_turnWeight_21 : decode cX0_turnWeight 21 = .ok (.iconst 0, 1) := dk_3 (dk_at dksX0_turnWeight_0 21 rfl rfl)
theorem dX0_turnWeight_22 : decode cX0_turnWeight 22 = .ok (.ireturn, 1) := dk_172 (dk_at dksX0_turnWeight_0 22 rfl rfl)
abbrev cX0_setVoltage : ByteArray := method_5_code
def yX0_setVoltage : MethodName := ⟨RX0, "setVoltage", "(LPatchCords;II[J)I"⟩
def dkwX0_setVoltage_0 : List UInt8 := [45, 3, 42, 27, 28, 182, 0, 23, 133, 80, 167, 0, 11, 58, 4, 4, 172, 58, 4, 5, 172, 3, 172]
abbrev dktX0_setVoltage_0 : List UInt8 := dkwX0_setVoltage_0 ++ []
theorem dksX0_setVoltage_0 : cX0_setVoltage.data.toList.drop 0 = dktX0_setVoltage_0 := by decide +kernel
theorem dX0_setVoltage_0 : decode cX0_setVoltage 0 = .ok (.aload_n 3, 1) := dk_45 (dk_at dksX0_setVoltage_0 0 rfl rfl)
theorem dX0_setVoltage_1 : decode cX0_setVoltage 1 = .ok (.iconst 0, 1) := dk_3 (dk_at dksX0_setVoltage_0 1 rfl rfl)
theorem dX0_setVoltage_2 : decode cX0_setVoltage 2 = .ok (.aload_n 0, 1) := dk_42 (dk_at dksX0_setVoltage_0 2 rfl rfl)
theorem dX0_setVoltage_3 : decode cX0_setVoltage 3 = .ok (.iload_n 1, 1) := dk_27 (dk_at dksX0_setVoltage_0 3 rfl rfl)
theorem dX0_setVoltage_4 : decode cX0_setVoltage 4 = .ok (.iload_n 2, 1) := dk_28 (dk_at dksX0_setVoltage_0 4 rfl rfl)
theorem dX0_setVoltage_5 : decode cX0_setVoltage 5 = .ok (.invokevirtual 23, 3) := dk_182 0 23 (dk_at dksX0_setVoltage_0 5 rfl rfl)
theorem dX0_setVoltage_8 : decode cX0_setVoltage 8 = .ok (.i2l, 1) := dk_133 (dk_at dksX0_setVoltage_0 8 rfl rfl)
theorem dX0_setVoltage_9 : decode cX0_setVoltage 9 = .ok (.lastore, 1) := dk_80 (dk_at dksX0_setVoltage_0 9 rfl rfl)
theorem dX0_setVoltage_10 : decode cX0_setVoltage 10 = .ok (.goto 11, 3) := dk_167 0 11 (dk_at dksX0_setVoltage_0 10 rfl rfl)
theorem dX0_setVoltage_13 : decode cX0_setVoltage 13 = .ok (.astore 4, 2) := dk_58 4 (dk_at dksX0_setVoltage_0 13 rfl rfl)
theorem dX0_setVoltage_15 : decode cX0_setVoltage 15 = .ok (.iconst 1, 1) := dk_4 (dk_at dksX0_setVoltage_0 15 rfl rfl)
theorem dX0_setVoltage_16 : decode cX0_setVoltage 16 = .ok (.ireturn, 1) := dk_172 (dk_at dksX0_setVoltage_0 16 rfl rfl)
theorem dX0_setVoltage_17 : decode cX0_setVoltage 17 = .ok (.astore 4, 2) := dk_58 4 (dk_at dksX0_setVoltage_0 17 rfl rfl)
theorem dX0_setVoltage_19 : decode cX0_setVoltage 19 = .ok (.iconst 2, 1) := dk_5 (dk_at dksX0_setVoltage_0 19 rfl rfl)
theorem dX0_setVoltage_20 : decode cX0_setVoltage 20 = .ok (.ireturn, 1) := dk_172 (dk_at dksX0_setVoltage_0 20 rfl rfl)
theorem dX0_setVoltage_21 : decode cX0_setVoltage 21 = .ok (.iconst 0, 1) := dk_3 (dk_at dksX0_setVoltage_0 21 rfl rfl)
theorem dX0_setVoltage_22 : decode cX0_setVoltage 22 = .ok (.ireturn, 1) := dk_172 (dk_at dksX0_setVoltage_0 22 rfl rfl)
abbrev cX0_setFactor : ByteArray := method_6_code
def yX0_setFactor : MethodName := ⟨RX0, "setFactor", "(LPatchCords;II[J)I"⟩
def dkwX0_setFactor_0 : List UInt8 := [45, 3, 42, 27, 28, 182, 0, 26, 133, 80, 167, 0, 11, 58, 4, 4, 172, 58, 4, 5, 172, 3, 172]
abbrev dktX0_setFactor_0 : List UInt8 := dkwX0_setFactor_0 ++ []
theorem dksX0_setFactor_0 : cX0_setFactor.data.toList.drop 0 = dktX0_setFactor_0 := by decide +kernel
theorem dX0_setFactor_0 : decode cX0_setFactor 0 = .ok (.aload_n 3, 1) := dk_45 (dk_at dksX0_setFactor_0 0 rfl rfl)
theorem dX0_setFactor_1 : decode cX0_setFactor 1 = .ok (.iconst 0, 1) := dk_3 (dk_at dksX0_setFactor_0 1 rfl rfl)
theorem dX0_setFactor_2 : decode cX0_setFactor 2 = .ok (.aload_n 0, 1) := dk_42 (dk_at dksX0_setFactor_0 2 rfl rfl)
theorem dX0_setFactor_3 : decode cX0_setFactor 3 = .ok (.iload_n 1, 1) := dk_27 (dk_at dksX0_setFactor_0 3 rfl rfl)
theorem dX0_setFactor_4 : decode cX0_setFactor 4 = .ok (.iload_n 2, 1) := dk_28 (dk_at dksX0_setFactor_0 4 rfl rfl)
theorem dX0_setFactor_5 : decode cX0_setFactor 5 = .ok (.invokevirtual 26, 3) := dk_182 0 26 (dk_at dksX0_setFactor_0 5 rfl rfl)
theorem dX0_setFactor_8 : decode cX0_setFactor 8 = .ok (.i2l, 1) := dk_133 (dk_at dksX0_setFactor_0 8 rfl rfl)
theorem dX0_setFactor_9 : decode cX0_setFactor 9 = .ok (.lastore, 1) := dk_80 (dk_at dksX0_setFactor_0 9 rfl rfl)
theorem dX0_setFactor_10 : decode cX0_setFactor 10 = .ok (.goto 11, 3) := dk_167 0 11 (dk_at dksX0_setFactor_0 10 rfl rfl)
theorem dX0_setFactor_13 : decode cX0_setFactor 13 = .ok (.astore 4, 2) := dk_58 4 (dk_at dksX0_setFactor_0 13 rfl rfl)
theorem dX0_setFactor_15 : decode cX0_setFactor 15 = .ok (.iconst 1, 1) := dk_4 (dk_at dksX0_setFactor_0 15 rfl rfl)
theorem dX0_setFactor_16 : decode cX0_setFactor 16 = .ok (.ireturn, 1) := dk_172 (dk_at dksX0_setFactor_0 16 rfl rfl)
theorem dX0_setFactor_17 : decode cX0_setFactor 17 = .ok (.astore 4, 2) := dk_58 4 (dk_at dksX0_setFactor_0 17 rfl rfl)
theorem dX0_setFactor_19 : decode cX0_setFactor 19 = .ok (.iconst 2, 1) := dk_5 (dk_at dksX0_setFactor_0 19 rfl rfl)
theorem dX0_setFactor_20 : decode cX0_setFactor 20 = .ok (.ireturn, 1) := dk_172 (dk_at dksX0_setFactor_0 20 rfl rfl)
theorem dX0_setFactor_21 : decode cX0_setFactor 21 = .ok (.iconst 0, 1) := dk_3 (dk_at dksX0_setFactor_0 21 rfl rfl)
theorem dX0_setFactor_22 : decode cX0_setFactor 22 = .ok (.ireturn, 1) := dk_172 (dk_at dksX0_setFactor_0 22 rfl rfl)
abbrev cX0_setSpeed : ByteArray := method_7_code
def yX0_setSpeed : MethodName := ⟨RX0, "setSpeed", "(LPatchCords;II[J)I"⟩
def dkwX0_setSpeed_0 : List UInt8 := [45, 3, 42, 27, 28, 182, 0, 29, 133, 80, 167, 0, 11, 58, 4, 4, 172, 58, 4, 5, 172, 3, 172]
abbrev dktX0_setSpeed_0 : List UInt8 := dkwX0_setSpeed_0 ++ []
theorem dksX0_setSpeed_0 : cX0_setSpeed.data.toList.drop 0 = dktX0_setSpeed_0 := by decide +kernel
theorem dX0_setSpeed_0 : decode cX0_setSpeed 0 = .ok (.aload_n 3, 1) := dk_45 (dk_at dksX0_setSpeed_0 0 rfl rfl)
theorem dX0_setSpeed_1 : decode cX0_setSpeed 1 = .ok (.iconst 0, 1) := dk_3 (dk_at dksX0_setSpeed_0 1 rfl rfl)
theorem dX0_setSpeed_2 : decode cX0_setSpeed 2 = .ok (.aload_n 0, 1) := dk_42 (dk_at dksX0_setSpeed_0 2 rfl rfl)
theorem dX0_setSpeed_3 : decode cX0_setSpeed 3 = .ok (.iload_n 1, 1) := dk_27 (dk_at dksX0_setSpeed_0 3 rfl rfl)
theorem dX0_setSpeed_4 : decode cX0_setSpeed 4 = .ok (.iload_n 2, 1) := dk_28 (dk_at dksX0_setSpeed_0 4 rfl rfl)
theorem dX0_setSpeed_5 : decode cX0_setSpeed 5 = .ok (.invokevirtual 29, 3) := dk_182 0 29 (dk_at dksX0_setSpeed_0 5 rfl rfl)
theorem dX0_setSpeed_8 : decode cX0_setSpeed 8 = .ok (.i2l, 1) := dk_133 (dk_at dksX0_setSpeed_0 8 rfl rfl)
theorem dX0_setSpeed_9 : decode cX0_setSpeed 9 = .ok (.lastore, 1) := dk_80 (dk_at dksX0_setSpeed_0 9 rfl rfl)
theorem dX0_setSpeed_10 : decode cX0_setSpeed 10 = .ok (.goto 11, 3) := dk_167 0 11 (dk_at dksX0_setSpeed_0 10 rfl rfl)
theorem dX0_setSpeed_13 : decode cX0_setSpeed 13 = .ok (.astore 4, 2) := dk_58 4 (dk_at dksX0_setSpeed_0 13 rfl rfl)
theorem dX0_setSpeed_15 : decode cX0_setSpeed 15 = .ok (.iconst 1, 1) := dk_4 (dk_at dksX0_setSpeed_0 15 rfl rfl)
theorem dX0_setSpeed_16 : decode cX0_setSpeed 16 = .ok (.ireturn, 1) := dk_172 (dk_at dksX0_setSpeed_0 16 rfl rfl)
theorem dX0_setSpeed_17 : decode cX0_setSpeed 17 = .ok (.astore 4, 2) := dk_58 4 (dk_at dksX0_setSpeed_0 17 rfl rfl)
theorem dX0_setSpeed_19 : decode cX0_setSpeed 19 = .ok (.iconst 2, 1) := dk_5 (dk_at dksX0_setSpeed_0 19 rfl rfl)
theorem dX0_setSpeed_20 : decode cX0_setSpeed 20 = .ok (.ireturn, 1) := dk_172 (dk_at dksX0_setSpeed_0 20 rfl rfl)
theorem dX0_setSpeed_21 : decode cX0_setSpeed 21 = .ok (.iconst 0, 1) := dk_3 (dk_at dksX0_setSpeed_0 21 rfl rfl)
theorem dX0_setSpeed_22 : decode cX0_setSpeed 22 = .ok (.ireturn, 1) := dk_172 (dk_at dksX0_setSpeed_0 22 rfl rfl)
abbrev cX0_join : ByteArray := method_8_code
def yX0_join : MethodName := ⟨RX0, "join", "(LPatchCords;III[J)I"⟩
def dkwX0_join_1 : List UInt8 := [172]
abbrev dktX0_join_1 : List UInt8 := dkwX0_join_1 ++ []
def dkwX0_join_0 : List UInt8 := [25, 4, 3, 42, 27, 28, 29, 182, 0, 32, 133, 80, 167, 0, 11, 58, 5, 4, 172, 58, 5, 5, 172, 3]
abbrev dktX0_join_0 : List UInt8 := dkwX0_join_0 ++ dktX0_join_1
theorem dksX0_join_0 : cX0_join.data.toList.drop 0 = dktX0_join_0 := by decide +kernel
theorem dksX0_join_1 : cX0_join.data.toList.drop 24 = dktX0_join_1 := dk_seg dksX0_join_0 24 rfl rfl
theorem dX0_join_0 : decode cX0_join 0 = .ok (.aload 4, 2) := dk_25 4 (dk_at dksX0_join_0 0 rfl rfl)
theorem dX0_join_2 : decode cX0_join 2 = .ok (.iconst 0, 1) := dk_3 (dk_at dksX0_join_0 2 rfl rfl)
theorem dX0_join_3 : decode cX0_join 3 = .ok (.aload_n 0, 1) := dk_42 (dk_at dksX0_join_0 3 rfl rfl)
theorem dX0_join_4 : decode cX0_join 4 = .ok (.iload_n 1, 1) := dk_27 (dk_at dksX0_join_0 4 rfl rfl)
theorem dX0_join_5 : decode cX0_join 5 = .ok (.iload_n 2, 1) := dk_28 (dk_at dksX0_join_0 5 rfl rfl)
theorem dX0_join_6 : decode cX0_join 6 = .ok (.iload_n 3, 1) := dk_29 (dk_at dksX0_join_0 6 rfl rfl)
theorem dX0_join_7 : decode cX0_join 7 = .ok (.invokevirtual 32, 3) := dk_182 0 32 (dk_at dksX0_join_0 7 rfl rfl)
theorem dX0_join_10 : decode cX0_join 10 = .ok (.i2l, 1) := dk_133 (dk_at dksX0_join_0 10 rfl rfl)
theorem dX0_join_11 : decode cX0_join 11 = .ok (.lastore, 1) := dk_80 (dk_at dksX0_join_0 11 rfl rfl)
theorem dX0_join_12 : decode cX0_join 12 = .ok (.goto 11, 3) := dk_167 0 11 (dk_at dksX0_join_0 12 rfl rfl)
theorem dX0_join_15 : decode cX0_join 15 = .ok (.astore 5, 2) := dk_58 5 (dk_at dksX0_join_0 15 rfl rfl)
theorem dX0_join_17 : decode cX0_join 17 = .ok (.iconst 1, 1) := dk_4 (dk_at dksX0_join_0 17 rfl rfl)
theorem dX0_join_18 : decode cX0_join 18 = .ok (.ireturn, 1) := dk_172 (dk_at dksX0_join_0 18 rfl rfl)
theorem dX0_join_19 : decode cX0_join 19 = .ok (.astore 5, 2) := dk_58 5 (dk_at dksX0_join_0 19 rfl rfl)
theorem dX0_join_21 : decode cX0_join 21 = .ok (.iconst 2, 1) := dk_5 (dk_at dksX0_join_0 21 rfl rfl)
theorem dX0_join_22 : decode cX0_join 22 = .ok (.ireturn, 1) := dk_172 (dk_at dksX0_join_0 22 rfl rfl)
theorem dX0_join_23 : decode cX0_join 23 = .ok (.iconst 0, 1) := dk_3 (dk_at dksX0_join_0 23 rfl rfl)
theorem dX0_join_24 : decode cX0_join 24 = .ok (.ireturn, 1) := dk_172 (dk_at dksX0_join_1 0 rfl rfl)
abbrev cX0_takeOut : ByteArray := method_9_code
def yX0_takeOut : MethodName := ⟨RX0, "takeOut", "(LPatchCords;II[J)I"⟩
def dkwX0_takeOut_0 : List UInt8 := [45, 3, 42, 27, 28, 182, 0, 36, 133, 80, 167, 0, 11, 58, 4, 4, 172, 58, 4, 5, 172, 3, 172]
abbrev dktX0_takeOut_0 : List UInt8 := dkwX0_takeOut_0 ++ []
theorem dksX0_takeOut_0 : cX0_takeOut.data.toList.drop 0 = dktX0_takeOut_0 := by decide +kernel
theorem dX0_takeOut_0 : decode cX0_takeOut 0 = .ok (.aload_n 3, 1) := dk_45 (dk_at dksX0_takeOut_0 0 rfl rfl)
theorem dX0_takeOut_1 : decode cX0_takeOut 1 = .ok (.iconst 0, 1) := dk_3 (dk_at dksX0_takeOut_0 1 rfl rfl)
theorem dX0_takeOut_2 : decode cX0_takeOut 2 = .ok (.aload_n 0, 1) := dk_42 (dk_at dksX0_takeOut_0 2 rfl rfl)
theorem dX0_takeOut_3 : decode cX0_takeOut 3 = .ok (.iload_n 1, 1) := dk_27 (dk_at dksX0_takeOut_0 3 rfl rfl)
theorem dX0_takeOut_4 : decode cX0_takeOut 4 = .ok (.iload_n 2, 1) := dk_28 (dk_at dksX0_takeOut_0 4 rfl rfl)
theorem dX0_takeOut_5 : decode cX0_takeOut 5 = .ok (.invokevirtual 36, 3) := dk_182 0 36 (dk_at dksX0_takeOut_0 5 rfl rfl)
theorem dX0_takeOut_8 : decode cX0_takeOut 8 = .ok (.i2l, 1) := dk_133 (dk_at dksX0_takeOut_0 8 rfl rfl)
theorem dX0_takeOut_9 : decode cX0_takeOut 9 = .ok (.lastore, 1) := dk_80 (dk_at dksX0_takeOut_0 9 rfl rfl)
theorem dX0_takeOut_10 : decode cX0_takeOut 10 = .ok (.goto 11, 3) := dk_167 0 11 (dk_at dksX0_takeOut_0 10 rfl rfl)
theorem dX0_takeOut_13 : decode cX0_takeOut 13 = .ok (.astore 4, 2) := dk_58 4 (dk_at dksX0_takeOut_0 13 rfl rfl)
theorem dX0_takeOut_15 : decode cX0_takeOut 15 = .ok (.iconst 1, 1) := dk_4 (dk_at dksX0_takeOut_0 15 rfl rfl)
theorem dX0_takeOut_16 : decode cX0_takeOut 16 = .ok (.ireturn, 1) := dk_172 (dk_at dksX0_takeOut_0 16 rfl rfl)
theorem dX0_takeOut_17 : decode cX0_takeOut 17 = .ok (.astore 4, 2) := dk_58 4 (dk_at dksX0_takeOut_0 17 rfl rfl)
theorem dX0_takeOut_19 : decode cX0_takeOut 19 = .ok (.iconst 2, 1) := dk_5 (dk_at dksX0_takeOut_0 19 rfl rfl)
theorem dX0_takeOut_20 : decode cX0_takeOut 20 = .ok (.ireturn, 1) := dk_172 (dk_at dksX0_takeOut_0 20 rfl rfl)
theorem dX0_takeOut_21 : decode cX0_takeOut 21 = .ok (.iconst 0, 1) := dk_3 (dk_at dksX0_takeOut_0 21 rfl rfl)
theorem dX0_takeOut_22 : decode cX0_takeOut 22 = .ok (.ireturn, 1) := dk_172 (dk_at dksX0_takeOut_0 22 rfl rfl)
abbrev cX0_setMode : ByteArray := method_10_code
def yX0_setMode : MethodName := ⟨RX0, "setMode", "(LPatchCords;I[J)I"⟩
def dkwX0_setMode_0 : List UInt8 := [44, 3, 42, 27, 182, 0, 39, 133, 80, 167, 0, 6, 78, 4, 172, 3, 172]
abbrev dktX0_setMode_0 : List UInt8 := dkwX0_setMode_0 ++ []
theorem dksX0_setMode_0 : cX0_setMode.data.toList.drop 0 = dktX0_setMode_0 := by decide +kernel
theorem dX0_setMode_0 : decode cX0_setMode 0 = .ok (.aload_n 2, 1) := dk_44 (dk_at dksX0_setMode_0 0 rfl rfl)
theorem dX0_setMode_1 : decode cX0_setMode 1 = .ok (.iconst 0, 1) := dk_3 (dk_at dksX0_setMode_0 1 rfl rfl)
theorem dX0_setMode_2 : decode cX0_setMode 2 = .ok (.aload_n 0, 1) := dk_42 (dk_at dksX0_setMode_0 2 rfl rfl)
theorem dX0_setMode_3 : decode cX0_setMode 3 = .ok (.iload_n 1, 1) := dk_27 (dk_at dksX0_setMode_0 3 rfl rfl)
theorem dX0_setMode_4 : decode cX0_setMode 4 = .ok (.invokevirtual 39, 3) := dk_182 0 39 (dk_at dksX0_setMode_0 4 rfl rfl)
theorem dX0_setMode_7 : decode cX0_setMode 7 = .ok (.i2l, 1) := dk_133 (dk_at dksX0_setMode_0 7 rfl rfl)
theorem dX0_setMode_8 : decode cX0_setMode 8 = .ok (.lastore, 1) := dk_80 (dk_at dksX0_setMode_0 8 rfl rfl)
theorem dX0_setMode_9 : decode cX0_setMode 9 = .ok (.goto 6, 3) := dk_167 0 6 (dk_at dksX0_setMode_0 9 rfl rfl)
theorem dX0_setMode_12 : decode cX0_setMode 12 = .ok (.astore_n 3, 1) := dk_78 (dk_at dksX0_setMode_0 12 rfl rfl)
theorem dX0_setMode_13 : decode cX0_setMode 13 = .ok (.iconst 1, 1) := dk_4 (dk_at dksX0_setMode_0 13 rfl rfl)
theorem dX0_setMode_14 : decode cX0_setMode 14 = .ok (.ireturn, 1) := dk_172 (dk_at dksX0_setMode_0 14 rfl rfl)
theorem dX0_setMode_15 : decode cX0_setMode 15 = .ok (.iconst 0, 1) := dk_3 (dk_at dksX0_setMode_0 15 rfl rfl)
theorem dX0_setMode_16 : decode cX0_setMode 16 = .ok (.ireturn, 1) := dk_172 (dk_at dksX0_setMode_0 16 rfl rfl)
abbrev cX0_setWay : ByteArray := method_11_code
def yX0_setWay : MethodName := ⟨RX0, "setWay", "(LPatchCords;I[J)I"⟩
def dkwX0_setWay_0 : List UInt8 := [44, 3, 42, 27, 182, 0, 42, 133, 80, 167, 0, 6, 78, 4, 172, 3, 172]
abbrev dktX0_setWay_0 : List UInt8 := dkwX0_setWay_0 ++ []
theorem dksX0_setWay_0 : cX0_setWay.data.toList.drop 0 = dktX0_setWay_0 := by decide +kernel
theorem dX0_setWay_0 : decode cX0_setWay 0 = .ok (.aload_n 2, 1) := dk_44 (dk_at dksX0_setWay_0 0 rfl rfl)
theorem dX0_setWay_1 : decode cX0_setWay 1 = .ok (.iconst 0, 1) := dk_3 (dk_at dksX0_setWay_0 1 rfl rfl)
theorem dX0_setWay_2 : decode cX0_setWay 2 = .ok (.aload_n 0, 1) := dk_42 (dk_at dksX0_setWay_0 2 rfl rfl)
theorem dX0_setWay_3 : decode cX0_setWay 3 = .ok (.iload_n 1, 1) := dk_27 (dk_at dksX0_setWay_0 3 rfl rfl)
theorem dX0_setWay_4 : decode cX0_setWay 4 = .ok (.invokevirtual 42, 3) := dk_182 0 42 (dk_at dksX0_setWay_0 4 rfl rfl)
theorem dX0_setWay_7 : decode cX0_setWay 7 = .ok (.i2l, 1) := dk_133 (dk_at dksX0_setWay_0 7 rfl rfl)
theorem dX0_setWay_8 : decode cX0_setWay 8 = .ok (.lastore, 1) := dk_80 (dk_at dksX0_setWay_0 8 rfl rfl)
theorem dX0_setWay_9 : decode cX0_setWay 9 = .ok (.goto 6, 3) := dk_167 0 6 (dk_at dksX0_setWay_0 9 rfl rfl)
theorem dX0_setWay_12 : decode cX0_setWay 12 = .ok (.astore_n 3, 1) := dk_78 (dk_at dksX0_setWay_0 12 rfl rfl)
theorem dX0_setWay_13 : decode cX0_setWay 13 = .ok (.iconst 1, 1) := dk_4 (dk_at dksX0_setWay_0 13 rfl rfl)
theorem dX0_setWay_14 : decode cX0_setWay 14 = .ok (.ireturn, 1) := dk_172 (dk_at dksX0_setWay_0 14 rfl rfl)
theorem dX0_setWay_15 : decode cX0_setWay 15 = .ok (.iconst 0, 1) := dk_3 (dk_at dksX0_setWay_0 15 rfl rfl)
theorem dX0_setWay_16 : decode cX0_setWay 16 = .ok (.ireturn, 1) := dk_172 (dk_at dksX0_setWay_0 16 rfl rfl)
abbrev cX0_record : ByteArray := method_12_code
def yX0_record : MethodName := ⟨RX0, "record", "(LPatchCords;I[J)I"⟩
def dkwX0_record_0 : List UInt8 := [44, 3, 42, 27, 182, 0, 45, 133, 80, 167, 0, 6, 78, 4, 172, 3, 172]
abbrev dktX0_record_0 : List UInt8 := dkwX0_record_0 ++ []
theorem dksX0_record_0 : cX0_record.data.toList.drop 0 = dktX0_record_0 := by decide +kernel
theorem dX0_record_0 : decode cX0_record 0 = .ok (.aload_n 2, 1) := dk_44 (dk_at dksX0_record_0 0 rfl rfl)
theorem dX0_record_1 : decode cX0_record 1 = .ok (.iconst 0, 1) := dk_3 (dk_at dksX0_record_0 1 rfl rfl)
theorem dX0_record_2 : decode cX0_record 2 = .ok (.aload_n 0, 1) := dk_42 (dk_at dksX0_record_0 2 rfl rfl)
theorem dX0_record_3 : decode cX0_record 3 = .ok (.iload_n 1, 1) := dk_27 (dk_at dksX0_record_0 3 rfl rfl)
theorem dX0_record_4 : decode cX0_record 4 = .ok (.invokevirtual 45, 3) := dk_182 0 45 (dk_at dksX0_record_0 4 rfl rfl)
theorem dX0_record_7 : decode cX0_record 7 = .ok (.i2l, 1) := dk_133 (dk_at dksX0_record_0 7 rfl rfl)
theorem dX0_record_8 : decode cX0_record 8 = .ok (.lastore, 1) := dk_80 (dk_at dksX0_record_0 8 rfl rfl)
theorem dX0_record_9 : decode cX0_record 9 = .ok (.goto 6, 3) := dk_167 0 6 (dk_at dksX0_record_0 9 rfl rfl)
theorem dX0_record_12 : decode cX0_record 12 = .ok (.astore_n 3, 1) := dk_78 (dk_at dksX0_record_0 12 rfl rfl)
theorem dX0_record_13 : decode cX0_record 13 = .ok (.iconst 1, 1) := dk_4 (dk_at dksX0_record_0 13 rfl rfl)
theorem dX0_record_14 : decode cX0_record 14 = .ok (.ireturn, 1) := dk_172 (dk_at dksX0_record_0 14 rfl rfl)
theorem dX0_record_15 : decode cX0_record 15 = .ok (.iconst 0, 1) := dk_3 (dk_at dksX0_record_0 15 rfl rfl)
theorem dX0_record_16 : decode cX0_record 16 = .ok (.ireturn, 1) := dk_172 (dk_at dksX0_record_0 16 rfl rfl)
abbrev cX0_pass : ByteArray := method_13_code
def yX0_pass : MethodName := ⟨RX0, "pass", "(LPatchCords;I[J)I"⟩
def dkwX0_pass_0 : List UInt8 := [44, 3, 42, 27, 182, 0, 48, 133, 80, 167, 0, 9, 78, 4, 172, 78, 5, 172, 3, 172]
abbrev dktX0_pass_0 : List UInt8 := dkwX0_pass_0 ++ []
theorem dksX0_pass_0 : cX0_pass.data.toList.drop 0 = dktX0_pass_0 := by decide +kernel
theorem dX0_pass_0 : decode cX0_pass 0 = .ok (.aload_n 2, 1) := dk_44 (dk_at dksX0_pass_0 0 rfl rfl)
theorem dX0_pass_1 : decode cX0_pass 1 = .ok (.iconst 0, 1) := dk_3 (dk_at dksX0_pass_0 1 rfl rfl)
theorem dX0_pass_2 : decode cX0_pass 2 = .ok (.aload_n 0, 1) := dk_42 (dk_at dksX0_pass_0 2 rfl rfl)
theorem dX0_pass_3 : decode cX0_pass 3 = .ok (.iload_n 1, 1) := dk_27 (dk_at dksX0_pass_0 3 rfl rfl)
theorem dX0_pass_4 : decode cX0_pass 4 = .ok (.invokevirtual 48, 3) := dk_182 0 48 (dk_at dksX0_pass_0 4 rfl rfl)
theorem dX0_pass_7 : decode cX0_pass 7 = .ok (.i2l, 1) := dk_133 (dk_at dksX0_pass_0 7 rfl rfl)
theorem dX0_pass_8 : decode cX0_pass 8 = .ok (.lastore, 1) := dk_80 (dk_at dksX0_pass_0 8 rfl rfl)
theorem dX0_pass_9 : decode cX0_pass 9 = .ok (.goto 9, 3) := dk_167 0 9 (dk_at dksX0_pass_0 9 rfl rfl)
theorem dX0_pass_12 : decode cX0_pass 12 = .ok (.astore_n 3, 1) := dk_78 (dk_at dksX0_pass_0 12 rfl rfl)
theorem dX0_pass_13 : decode cX0_pass 13 = .ok (.iconst 1, 1) := dk_4 (dk_at dksX0_pass_0 13 rfl rfl)
theorem dX0_pass_14 : decode cX0_pass 14 = .ok (.ireturn, 1) := dk_172 (dk_at dksX0_pass_0 14 rfl rfl)
theorem dX0_pass_15 : decode cX0_pass 15 = .ok (.astore_n 3, 1) := dk_78 (dk_at dksX0_pass_0 15 rfl rfl)
theorem dX0_pass_16 : decode cX0_pass 16 = .ok (.iconst 2, 1) := dk_5 (dk_at dksX0_pass_0 16 rfl rfl)
theorem dX0_pass_17 : decode cX0_pass 17 = .ok (.ireturn, 1) := dk_172 (dk_at dksX0_pass_0 17 rfl rfl)
theorem dX0_pass_18 : decode cX0_pass 18 = .ok (.iconst 0, 1) := dk_3 (dk_at dksX0_pass_0 18 rfl rfl)
theorem dX0_pass_19 : decode cX0_pass 19 = .ok (.ireturn, 1) := dk_172 (dk_at dksX0_pass_0 19 rfl rfl)
abbrev cX0_kindOf : ByteArray := method_14_code
def yX0_kindOf : MethodName := ⟨RX0, "kindOf", "(LPatchCords;I[J)I"⟩
def dkwX0_kindOf_0 : List UInt8 := [44, 3, 42, 27, 182, 0, 51, 133, 80, 167, 0, 6, 78, 4, 172, 3, 172]
abbrev dktX0_kindOf_0 : List UInt8 := dkwX0_kindOf_0 ++ []
theorem dksX0_kindOf_0 : cX0_kindOf.data.toList.drop 0 = dktX0_kindOf_0 := by decide +kernel
theorem dX0_kindOf_0 : decode cX0_kindOf 0 = .ok (.aload_n 2, 1) := dk_44 (dk_at dksX0_kindOf_0 0 rfl rfl)
theorem dX0_kindOf_1 : decode cX0_kindOf 1 = .ok (.iconst 0, 1) := dk_3 (dk_at dksX0_kindOf_0 1 rfl rfl)
theorem dX0_kindOf_2 : decode cX0_kindOf 2 = .ok (.aload_n 0, 1) := dk_42 (dk_at dksX0_kindOf_0 2 rfl rfl)
theorem dX0_kindOf_3 : decode cX0_kindOf 3 = .ok (.iload_n 1, 1) := dk_27 (dk_at dksX0_kindOf_0 3 rfl rfl)
theorem dX0_kindOf_4 : decode cX0_kindOf 4 = .ok (.invokevirtual 51, 3) := dk_182 0 51 (dk_at dksX0_kindOf_0 4 rfl rfl)
theorem dX0_kindOf_7 : decode cX0_kindOf 7 = .ok (.i2l, 1) := dk_133 (dk_at dksX0_kindOf_0 7 rfl rfl)
theorem dX0_kindOf_8 : decode cX0_kindOf 8 = .ok (.lastore, 1) := dk_80 (dk_at dksX0_kindOf_0 8 rfl rfl)
theorem dX0_kindOf_9 : decode cX0_kindOf 9 = .ok (.goto 6, 3) := dk_167 0 6 (dk_at dksX0_kindOf_0 9 rfl rfl)
theorem dX0_kindOf_12 : decode cX0_kindOf 12 = .ok (.astore_n 3, 1) := dk_78 (dk_at dksX0_kindOf_0 12 rfl rfl)
theorem dX0_kindOf_13 : decode cX0_kindOf 13 = .ok (.iconst 1, 1) := dk_4 (dk_at dksX0_kindOf_0 13 rfl rfl)
theorem dX0_kindOf_14 : decode cX0_kindOf 14 = .ok (.ireturn, 1) := dk_172 (dk_at dksX0_kindOf_0 14 rfl rfl)
theorem dX0_kindOf_15 : decode cX0_kindOf 15 = .ok (.iconst 0, 1) := dk_3 (dk_at dksX0_kindOf_0 15 rfl rfl)
theorem dX0_kindOf_16 : decode cX0_kindOf 16 = .ok (.ireturn, 1) := dk_172 (dk_at dksX0_kindOf_0 16 rfl rfl)
abbrev cX0_inputsOf : ByteArray := method_15_code
def yX0_inputsOf : MethodName := ⟨RX0, "inputsOf", "(LPatchCords;I[J)I"⟩
def dkwX0_inputsOf_0 : List UInt8 := [44, 3, 42, 27, 182, 0, 54, 133, 80, 167, 0, 6, 78, 4, 172, 3, 172]
abbrev dktX0_inputsOf_0 : List UInt8 := dkwX0_inputsOf_0 ++ []
theorem dksX0_inputsOf_0 : cX0_inputsOf.data.toList.drop 0 = dktX0_inputsOf_0 := by decide +kernel
theorem dX0_inputsOf_0 : decode cX0_inputsOf 0 = .ok (.aload_n 2, 1) := dk_44 (dk_at dksX0_inputsOf_0 0 rfl rfl)
theorem dX0_inputsOf_1 : decode cX0_inputsOf 1 = .ok (.iconst 0, 1) := dk_3 (dk_at dksX0_inputsOf_0 1 rfl rfl)
theorem dX0_inputsOf_2 : decode cX0_inputsOf 2 = .ok (.aload_n 0, 1) := dk_42 (dk_at dksX0_inputsOf_0 2 rfl rfl)
theorem dX0_inputsOf_3 : decode cX0_inputsOf 3 = .ok (.iload_n 1, 1) := dk_27 (dk_at dksX0_inputsOf_0 3 rfl rfl)
theorem dX0_inputsOf_4 : decode cX0_inputsOf 4 = .ok (.invokevirtual 54, 3) := dk_182 0 54 (dk_at dksX0_inputsOf_0 4 rfl rfl)
theorem dX0_inputsOf_7 : decode cX0_inputsOf 7 = .ok (.i2l, 1) := dk_133 (dk_at dksX0_inputsOf_0 7 rfl rfl)
theorem dX0_inputsOf_8 : decode cX0_inputsOf 8 = .ok (.lastore, 1) := dk_80 (dk_at dksX0_inputsOf_0 8 rfl rfl)
theorem dX0_inputsOf_9 : decode cX0_inputsOf 9 = .ok (.goto 6, 3) := dk_167 0 6 (dk_at dksX0_inputsOf_0 9 rfl rfl)
theorem dX0_inputsOf_12 : decode cX0_inputsOf 12 = .ok (.astore_n 3, 1) := dk_78 (dk_at dksX0_inputsOf_0 12 rfl rfl)
theorem dX0_inputsOf_13 : decode cX0_inputsOf 13 = .ok (.iconst 1, 1) := dk_4 (dk_at dksX0_inputsOf_0 13 rfl rfl)
theorem dX0_inputsOf_14 : decode cX0_inputsOf 14 = .ok (.ireturn, 1) := dk_172 (dk_at dksX0_inputsOf_0 14 rfl rfl)
theorem dX0_inputsOf_15 : decode cX0_inputsOf 15 = .ok (.iconst 0, 1) := dk_3 (dk_at dksX0_inputsOf_0 15 rfl rfl)
theorem dX0_inputsOf_16 : decode cX0_inputsOf 16 = .ok (.ireturn, 1) := dk_172 (dk_at dksX0_inputsOf_0 16 rfl rfl)
abbrev cX0_cordIn : ByteArray := method_16_code
def yX0_cordIn : MethodName := ⟨RX0, "cordIn", "(LPatchCords;II[J)I"⟩
def dkwX0_cordIn_0 : List UInt8 := [45, 3, 42, 27, 28, 182, 0, 57, 133, 80, 167, 0, 7, 58, 4, 4, 172, 3, 172]
abbrev dktX0_cordIn_0 : List UInt8 := dkwX0_cordIn_0 ++ []
theorem dksX0_cordIn_0 : cX0_cordIn.data.toList.drop 0 = dktX0_cordIn_0 := by decide +kernel
theorem dX0_cordIn_0 : decode cX0_cordIn 0 = .ok (.aload_n 3, 1) := dk_45 (dk_at dksX0_cordIn_0 0 rfl rfl)
theorem dX0_cordIn_1 : decode cX0_cordIn 1 = .ok (.iconst 0, 1) := dk_3 (dk_at dksX0_cordIn_0 1 rfl rfl)
theorem dX0_cordIn_2 : decode cX0_cordIn 2 = .ok (.aload_n 0, 1) := dk_42 (dk_at dksX0_cordIn_0 2 rfl rfl)
theorem dX0_cordIn_3 : decode cX0_cordIn 3 = .ok (.iload_n 1, 1) := dk_27 (dk_at dksX0_cordIn_0 3 rfl rfl)
theorem dX0_cordIn_4 : decode cX0_cordIn 4 = .ok (.iload_n 2, 1) := dk_28 (dk_at dksX0_cordIn_0 4 rfl rfl)
theorem dX0_cordIn_5 : decode cX0_cordIn 5 = .ok (.invokevirtual 57, 3) := dk_182 0 57 (dk_at dksX0_cordIn_0 5 rfl rfl)
theorem dX0_cordIn_8 : decode cX0_cordIn 8 = .ok (.i2l, 1) := dk_133 (dk_at dksX0_cordIn_0 8 rfl rfl)
theorem dX0_cordIn_9 : decode cX0_cordIn 9 = .ok (.lastore, 1) := dk_80 (dk_at dksX0_cordIn_0 9 rfl rfl)
theorem dX0_cordIn_10 : decode cX0_cordIn 10 = .ok (.goto 7, 3) := dk_167 0 7 (dk_at dksX0_cordIn_0 10 rfl rfl)
theorem dX0_cordIn_13 : decode cX0_cordIn 13 = .ok (.astore 4, 2) := dk_58 4 (dk_at dksX0_cordIn_0 13 rfl rfl)
theorem dX0_cordIn_15 : decode cX0_cordIn 15 = .ok (.iconst 1, 1) := dk_4 (dk_at dksX0_cordIn_0 15 rfl rfl)
theorem dX0_cordIn_16 : decode cX0_cordIn 16 = .ok (.ireturn, 1) := dk_172 (dk_at dksX0_cordIn_0 16 rfl rfl)
theorem dX0_cordIn_17 : decode cX0_cordIn 17 = .ok (.iconst 0, 1) := dk_3 (dk_at dksX0_cordIn_0 17 rfl rfl)
theorem dX0_cordIn_18 : decode cX0_cordIn 18 = .ok (.ireturn, 1) := dk_172 (dk_at dksX0_cordIn_0 18 rfl rfl)
abbrev cX0_weightOf : ByteArray := method_17_code
def yX0_weightOf : MethodName := ⟨RX0, "weightOf", "(LPatchCords;II[J)I"⟩
def dkwX0_weightOf_0 : List UInt8 := [45, 3, 42, 27, 28, 182, 0, 60, 133, 80, 167, 0, 11, 58, 4, 4, 172, 58, 4, 5, 172, 3, 172]
abbrev dktX0_weightOf_0 : List UInt8 := dkwX0_weightOf_0 ++ []
theorem dksX0_weightOf_0 : cX0_weightOf.data.toList.drop 0 = dktX0_weightOf_0 := by decide +kernel
theorem dX0_weightOf_0 : decode cX0_weightOf 0 = .ok (.aload_n 3, 1) := dk_45 (dk_at dksX0_weightOf_0 0 rfl rfl)
theorem dX0_weightOf_1 : decode cX0_weightOf 1 = .ok (.iconst 0, 1) := dk_3 (dk_at dksX0_weightOf_0 1 rfl rfl)
theorem dX0_weightOf_2 : decode cX0_weightOf 2 = .ok (.aload_n 0, 1) := dk_42 (dk_at dksX0_weightOf_0 2 rfl rfl)
theorem dX0_weightOf_3 : decode cX0_weightOf 3 = .ok (.iload_n 1, 1) := dk_27 (dk_at dksX0_weightOf_0 3 rfl rfl)
theorem dX0_weightOf_4 : decode cX0_weightOf 4 = .ok (.iload_n 2, 1) := dk_28 (dk_at dksX0_weightOf_0 4 rfl rfl)
theorem dX0_weightOf_5 : decode cX0_weightOf 5 = .ok (.invokevirtual 60, 3) := dk_182 0 60 (dk_at dksX0_weightOf_0 5 rfl rfl)
theorem dX0_weightOf_8 : decode cX0_weightOf 8 = .ok (.i2l, 1) := dk_133 (dk_at dksX0_weightOf_0 8 rfl rfl)
theorem dX0_weightOf_9 : decode cX0_weightOf 9 = .ok (.lastore, 1) := dk_80 (dk_at dksX0_weightOf_0 9 rfl rfl)
theorem dX0_weightOf_10 : decode cX0_weightOf 10 = .ok (.goto 11, 3) := dk_167 0 11 (dk_at dksX0_weightOf_0 10 rfl rfl)
theorem dX0_weightOf_13 : decode cX0_weightOf 13 = .ok (.astore 4, 2) := dk_58 4 (dk_at dksX0_weightOf_0 13 rfl rfl)
theorem dX0_weightOf_15 : decode cX0_weightOf 15 = .ok (.iconst 1, 1) := dk_4 (dk_at dksX0_weightOf_0 15 rfl rfl)
theorem dX0_weightOf_16 : decode cX0_weightOf 16 = .ok (.ireturn, 1) := dk_172 (dk_at dksX0_weightOf_0 16 rfl rfl)
theorem dX0_weightOf_17 : decode cX0_weightOf 17 = .ok (.astore 4, 2) := dk_58 4 (dk_at dksX0_weightOf_0 17 rfl rfl)
theorem dX0_weightOf_19 : decode cX0_weightOf 19 = .ok (.iconst 2, 1) := dk_5 (dk_at dksX0_weightOf_0 19 rfl rfl)
theorem dX0_weightOf_20 : decode cX0_weightOf 20 = .ok (.ireturn, 1) := dk_172 (dk_at dksX0_weightOf_0 20 rfl rfl)
theorem dX0_weightOf_21 : decode cX0_weightOf 21 = .ok (.iconst 0, 1) := dk_3 (dk_at dksX0_weightOf_0 21 rfl rfl)
theorem dX0_weightOf_22 : decode cX0_weightOf 22 = .ok (.ireturn, 1) := dk_172 (dk_at dksX0_weightOf_0 22 rfl rfl)
abbrev cX0_settingOf : ByteArray := method_18_code
def yX0_settingOf : MethodName := ⟨RX0, "settingOf", "(LPatchCords;I[J)I"⟩
def dkwX0_settingOf_0 : List UInt8 := [44, 3, 42, 27, 182, 0, 63, 133, 80, 167, 0, 6, 78, 4, 172, 3, 172]
abbrev dktX0_settingOf_0 : List UInt8 := dkwX0_settingOf_0 ++ []
theorem dksX0_settingOf_0 : cX0_settingOf.data.toList.drop 0 = dktX0_settingOf_0 := by decide +kernel
theorem dX0_settingOf_0 : decode cX0_settingOf 0 = .ok (.aload_n 2, 1) := dk_44 (dk_at dksX0_settingOf_0 0 rfl rfl)
theorem dX0_settingOf_1 : decode cX0_settingOf 1 = .ok (.iconst 0, 1) := dk_3 (dk_at dksX0_settingOf_0 1 rfl rfl)
theorem dX0_settingOf_2 : decode cX0_settingOf 2 = .ok (.aload_n 0, 1) := dk_42 (dk_at dksX0_settingOf_0 2 rfl rfl)
theorem dX0_settingOf_3 : decode cX0_settingOf 3 = .ok (.iload_n 1, 1) := dk_27 (dk_at dksX0_settingOf_0 3 rfl rfl)
theorem dX0_settingOf_4 : decode cX0_settingOf 4 = .ok (.invokevirtual 63, 3) := dk_182 0 63 (dk_at dksX0_settingOf_0 4 rfl rfl)
theorem dX0_settingOf_7 : decode cX0_settingOf 7 = .ok (.i2l, 1) := dk_133 (dk_at dksX0_settingOf_0 7 rfl rfl)
theorem dX0_settingOf_8 : decode cX0_settingOf 8 = .ok (.lastore, 1) := dk_80 (dk_at dksX0_settingOf_0 8 rfl rfl)
theorem dX0_settingOf_9 : decode cX0_settingOf 9 = .ok (.goto 6, 3) := dk_167 0 6 (dk_at dksX0_settingOf_0 9 rfl rfl)
theorem dX0_settingOf_12 : decode cX0_settingOf 12 = .ok (.astore_n 3, 1) := dk_78 (dk_at dksX0_settingOf_0 12 rfl rfl)
theorem dX0_settingOf_13 : decode cX0_settingOf 13 = .ok (.iconst 1, 1) := dk_4 (dk_at dksX0_settingOf_0 13 rfl rfl)
theorem dX0_settingOf_14 : decode cX0_settingOf 14 = .ok (.ireturn, 1) := dk_172 (dk_at dksX0_settingOf_0 14 rfl rfl)
theorem dX0_settingOf_15 : decode cX0_settingOf 15 = .ok (.iconst 0, 1) := dk_3 (dk_at dksX0_settingOf_0 15 rfl rfl)
theorem dX0_settingOf_16 : decode cX0_settingOf 16 = .ok (.ireturn, 1) := dk_172 (dk_at dksX0_settingOf_0 16 rfl rfl)
abbrev cX0_speedOf : ByteArray := method_19_code
def yX0_speedOf : MethodName := ⟨RX0, "speedOf", "(LPatchCords;I[J)I"⟩
def dkwX0_speedOf_0 : List UInt8 := [44, 3, 42, 27, 182, 0, 66, 133, 80, 167, 0, 9, 78, 4, 172, 78, 5, 172, 3, 172]
abbrev dktX0_speedOf_0 : List UInt8 := dkwX0_speedOf_0 ++ []
theorem dksX0_speedOf_0 : cX0_speedOf.data.toList.drop 0 = dktX0_speedOf_0 := by decide +kernel
theorem dX0_speedOf_0 : decode cX0_speedOf 0 = .ok (.aload_n 2, 1) := dk_44 (dk_at dksX0_speedOf_0 0 rfl rfl)
theorem dX0_speedOf_1 : decode cX0_speedOf 1 = .ok (.iconst 0, 1) := dk_3 (dk_at dksX0_speedOf_0 1 rfl rfl)
theorem dX0_speedOf_2 : decode cX0_speedOf 2 = .ok (.aload_n 0, 1) := dk_42 (dk_at dksX0_speedOf_0 2 rfl rfl)
theorem dX0_speedOf_3 : decode cX0_speedOf 3 = .ok (.iload_n 1, 1) := dk_27 (dk_at dksX0_speedOf_0 3 rfl rfl)
theorem dX0_speedOf_4 : decode cX0_speedOf 4 = .ok (.invokevirtual 66, 3) := dk_182 0 66 (dk_at dksX0_speedOf_0 4 rfl rfl)
theorem dX0_speedOf_7 : decode cX0_speedOf 7 = .ok (.i2l, 1) := dk_133 (dk_at dksX0_speedOf_0 7 rfl rfl)
theorem dX0_speedOf_8 : decode cX0_speedOf 8 = .ok (.lastore, 1) := dk_80 (dk_at dksX0_speedOf_0 8 rfl rfl)
theorem dX0_speedOf_9 : decode cX0_speedOf 9 = .ok (.goto 9, 3) := dk_167 0 9 (dk_at dksX0_speedOf_0 9 rfl rfl)
theorem dX0_speedOf_12 : decode cX0_speedOf 12 = .ok (.astore_n 3, 1) := dk_78 (dk_at dksX0_speedOf_0 12 rfl rfl)
theorem dX0_speedOf_13 : decode cX0_speedOf 13 = .ok (.iconst 1, 1) := dk_4 (dk_at dksX0_speedOf_0 13 rfl rfl)
theorem dX0_speedOf_14 : decode cX0_speedOf 14 = .ok (.ireturn, 1) := dk_172 (dk_at dksX0_speedOf_0 14 rfl rfl)
theorem dX0_speedOf_15 : decode cX0_speedOf 15 = .ok (.astore_n 3, 1) := dk_78 (dk_at dksX0_speedOf_0 15 rfl rfl)
theorem dX0_speedOf_16 : decode cX0_speedOf 16 = .ok (.iconst 2, 1) := dk_5 (dk_at dksX0_speedOf_0 16 rfl rfl)
theorem dX0_speedOf_17 : decode cX0_speedOf 17 = .ok (.ireturn, 1) := dk_172 (dk_at dksX0_speedOf_0 17 rfl rfl)
theorem dX0_speedOf_18 : decode cX0_speedOf 18 = .ok (.iconst 0, 1) := dk_3 (dk_at dksX0_speedOf_0 18 rfl rfl)
theorem dX0_speedOf_19 : decode cX0_speedOf 19 = .ok (.ireturn, 1) := dk_172 (dk_at dksX0_speedOf_0 19 rfl rfl)
abbrev cX0_outputOf : ByteArray := method_20_code
def yX0_outputOf : MethodName := ⟨RX0, "outputOf", "(LPatchCords;I[J)I"⟩
def dkwX0_outputOf_0 : List UInt8 := [44, 3, 42, 27, 182, 0, 69, 133, 80, 167, 0, 6, 78, 4, 172, 3, 172]
abbrev dktX0_outputOf_0 : List UInt8 := dkwX0_outputOf_0 ++ []
theorem dksX0_outputOf_0 : cX0_outputOf.data.toList.drop 0 = dktX0_outputOf_0 := by decide +kernel
theorem dX0_outputOf_0 : decode cX0_outputOf 0 = .ok (.aload_n 2, 1) := dk_44 (dk_at dksX0_outputOf_0 0 rfl rfl)
theorem dX0_outputOf_1 : decode cX0_outputOf 1 = .ok (.iconst 0, 1) := dk_3 (dk_at dksX0_outputOf_0 1 rfl rfl)
theorem dX0_outputOf_2 : decode cX0_outputOf 2 = .ok (.aload_n 0, 1) := dk_42 (dk_at dksX0_outputOf_0 2 rfl rfl)
theorem dX0_outputOf_3 : decode cX0_outputOf 3 = .ok (.iload_n 1, 1) := dk_27 (dk_at dksX0_outputOf_0 3 rfl rfl)
theorem dX0_outputOf_4 : decode cX0_outputOf 4 = .ok (.invokevirtual 69, 3) := dk_182 0 69 (dk_at dksX0_outputOf_0 4 rfl rfl)
theorem dX0_outputOf_7 : decode cX0_outputOf 7 = .ok (.i2l, 1) := dk_133 (dk_at dksX0_outputOf_0 7 rfl rfl)
theorem dX0_outputOf_8 : decode cX0_outputOf 8 = .ok (.lastore, 1) := dk_80 (dk_at dksX0_outputOf_0 8 rfl rfl)
theorem dX0_outputOf_9 : decode cX0_outputOf 9 = .ok (.goto 6, 3) := dk_167 0 6 (dk_at dksX0_outputOf_0 9 rfl rfl)
theorem dX0_outputOf_12 : decode cX0_outputOf 12 = .ok (.astore_n 3, 1) := dk_78 (dk_at dksX0_outputOf_0 12 rfl rfl)
theorem dX0_outputOf_13 : decode cX0_outputOf 13 = .ok (.iconst 1, 1) := dk_4 (dk_at dksX0_outputOf_0 13 rfl rfl)
theorem dX0_outputOf_14 : decode cX0_outputOf 14 = .ok (.ireturn, 1) := dk_172 (dk_at dksX0_outputOf_0 14 rfl rfl)
theorem dX0_outputOf_15 : decode cX0_outputOf 15 = .ok (.iconst 0, 1) := dk_3 (dk_at dksX0_outputOf_0 15 rfl rfl)
theorem dX0_outputOf_16 : decode cX0_outputOf 16 = .ok (.ireturn, 1) := dk_172 (dk_at dksX0_outputOf_0 16 rfl rfl)
abbrev cX0_outputByAsking : ByteArray := method_21_code
def yX0_outputByAsking : MethodName := ⟨RX0, "outputByAsking", "(LPatchCords;I[J)I"⟩
def dkwX0_outputByAsking_0 : List UInt8 := [44, 3, 42, 27, 182, 0, 72, 133, 80, 167, 0, 6, 78, 4, 172, 3, 172]
abbrev dktX0_outputByAsking_0 : List UInt8 := dkwX0_outputByAsking_0 ++ []
theorem dksX0_outputByAsking_0 : cX0_outputByAsking.data.toList.drop 0 = dktX0_outputByAsking_0 := by decide +kernel
theorem dX0_outputByAsking_0 : decode cX0_outputByAsking 0 = .ok (.aload_n 2, 1) := dk_44 (dk_at dksX0_outputByAsking_0 0 rfl rfl)
theorem dX0_outputByAsking_1 : decode cX0_outputByAsking 1 = .ok (.iconst 0, 1) := dk_3 (dk_at dksX0_outputByAsking_0 1 rfl rfl)
theorem dX0_outputByAsking_2 : decode cX0_outputByAsking 2 = .ok (.aload_n 0, 1) := dk_42 (dk_at dksX0_outputByAsking_0 2 rfl rfl)
theorem dX0_outputByAsking_3 : decode cX0_outputByAsking 3 = .ok (.iload_n 1, 1) := dk_27 (dk_at dksX0_outputByAsking_0 3 rfl rfl)
theorem dX0_outputByAsking_4 : decode cX0_outputByAsking 4 = .ok (.invokevirtual 72, 3) := dk_182 0 72 (dk_at dksX0_outputByAsking_0 4 rfl rfl)
theorem dX0_outputByAsking_7 : decode cX0_outputByAsking 7 = .ok (.i2l, 1) := dk_133 (dk_at dksX0_outputByAsking_0 7 rfl rfl)
theorem dX0_outputByAsking_8 : decode cX0_outputByAsking 8 = .ok (.lastore, 1) := dk_80 (dk_at dksX0_outputByAsking_0 8 rfl rfl)
theorem dX0_outputByAsking_9 : decode cX0_outputByAsking 9 = .ok (.goto 6, 3) := dk_167 0 6 (dk_at dksX0_outputByAsking_0 9 rfl rfl)
theorem dX0_outputByAsking_12 : decode cX0_outputByAsking 12 = .ok (.astore_n 3, 1) := dk_78 (dk_at dksX0_outputByAsking_0 12 rfl rfl)
theorem dX0_outputByAsking_13 : decode cX0_outputByAsking 13 = .ok (.iconst 1, 1) := dk_4 (dk_at dksX0_outputByAsking_0 13 rfl rfl)
theorem dX0_outputByAsking_14 : decode cX0_outputByAsking 14 = .ok (.ireturn, 1) := dk_172 (dk_at dksX0_outputByAsking_0 14 rfl rfl)
theorem dX0_outputByAsking_15 : decode cX0_outputByAsking 15 = .ok (.iconst 0, 1) := dk_3 (dk_at dksX0_outputByAsking_0 15 rfl rfl)
theorem dX0_outputByAsking_16 : decode cX0_outputByAsking 16 = .ok (.ireturn, 1) := dk_172 (dk_at dksX0_outputByAsking_0 16 rfl rfl)
abbrev cX0_inputOf : ByteArray := method_22_code
def yX0_inputOf : MethodName := ⟨RX0, "inputOf", "(LPatchCords;II[J)I"⟩
def dkwX0_inputOf_0 : List UInt8 := [45, 3, 42, 27, 28, 182, 0, 75, 133, 80, 167, 0, 7, 58, 4, 4, 172, 3, 172]
abbrev dktX0_inputOf_0 : List UInt8 := dkwX0_inputOf_0 ++ []
theorem dksX0_inputOf_0 : cX0_inputOf.data.toList.drop 0 = dktX0_inputOf_0 := by decide +kernel
theorem dX0_inputOf_0 : decode cX0_inputOf 0 = .ok (.aload_n 3, 1) := dk_45 (dk_at dksX0_inputOf_0 0 rfl rfl)
theorem dX0_inputOf_1 : decode cX0_inputOf 1 = .ok (.iconst 0, 1) := dk_3 (dk_at dksX0_inputOf_0 1 rfl rfl)
theorem dX0_inputOf_2 : decode cX0_inputOf 2 = .ok (.aload_n 0, 1) := dk_42 (dk_at dksX0_inputOf_0 2 rfl rfl)
theorem dX0_inputOf_3 : decode cX0_inputOf 3 = .ok (.iload_n 1, 1) := dk_27 (dk_at dksX0_inputOf_0 3 rfl rfl)
theorem dX0_inputOf_4 : decode cX0_inputOf 4 = .ok (.iload_n 2, 1) := dk_28 (dk_at dksX0_inputOf_0 4 rfl rfl)
theorem dX0_inputOf_5 : decode cX0_inputOf 5 = .ok (.invokevirtual 75, 3) := dk_182 0 75 (dk_at dksX0_inputOf_0 5 rfl rfl)
theorem dX0_inputOf_8 : decode cX0_inputOf 8 = .ok (.i2l, 1) := dk_133 (dk_at dksX0_inputOf_0 8 rfl rfl)
theorem dX0_inputOf_9 : decode cX0_inputOf 9 = .ok (.lastore, 1) := dk_80 (dk_at dksX0_inputOf_0 9 rfl rfl)
theorem dX0_inputOf_10 : decode cX0_inputOf 10 = .ok (.goto 7, 3) := dk_167 0 7 (dk_at dksX0_inputOf_0 10 rfl rfl)
theorem dX0_inputOf_13 : decode cX0_inputOf 13 = .ok (.astore 4, 2) := dk_58 4 (dk_at dksX0_inputOf_0 13 rfl rfl)
theorem dX0_inputOf_15 : decode cX0_inputOf 15 = .ok (.iconst 1, 1) := dk_4 (dk_at dksX0_inputOf_0 15 rfl rfl)
theorem dX0_inputOf_16 : decode cX0_inputOf 16 = .ok (.ireturn, 1) := dk_172 (dk_at dksX0_inputOf_0 16 rfl rfl)
theorem dX0_inputOf_17 : decode cX0_inputOf 17 = .ok (.iconst 0, 1) := dk_3 (dk_at dksX0_inputOf_0 17 rfl rfl)
theorem dX0_inputOf_18 : decode cX0_inputOf 18 = .ok (.ireturn, 1) := dk_172 (dk_at dksX0_inputOf_0 18 rfl rfl)
abbrev cX0_chargeOf : ByteArray := method_23_code
def yX0_chargeOf : MethodName := ⟨RX0, "chargeOf", "(LPatchCords;I[J)I"⟩
def dkwX0_chargeOf_0 : List UInt8 := [44, 3, 42, 27, 182, 0, 78, 133, 80, 167, 0, 9, 78, 4, 172, 78, 5, 172, 3, 172]
abbrev dktX0_chargeOf_0 : List UInt8 := dkwX0_chargeOf_0 ++ []
theorem dksX0_chargeOf_0 : cX0_chargeOf.data.toList.drop 0 = dktX0_chargeOf_0 := by decide +kernel
theorem dX0_chargeOf_0 : decode cX0_chargeOf 0 = .ok (.aload_n 2, 1) := dk_44 (dk_at dksX0_chargeOf_0 0 rfl rfl)
theorem dX0_chargeOf_1 : decode cX0_chargeOf 1 = .ok (.iconst 0, 1) := dk_3 (dk_at dksX0_chargeOf_0 1 rfl rfl)
theorem dX0_chargeOf_2 : decode cX0_chargeOf 2 = .ok (.aload_n 0, 1) := dk_42 (dk_at dksX0_chargeOf_0 2 rfl rfl)
theorem dX0_chargeOf_3 : decode cX0_chargeOf 3 = .ok (.iload_n 1, 1) := dk_27 (dk_at dksX0_chargeOf_0 3 rfl rfl)
theorem dX0_chargeOf_4 : decode cX0_chargeOf 4 = .ok (.invokevirtual 78, 3) := dk_182 0 78 (dk_at dksX0_chargeOf_0 4 rfl rfl)
theorem dX0_chargeOf_7 : decode cX0_chargeOf 7 = .ok (.i2l, 1) := dk_133 (dk_at dksX0_chargeOf_0 7 rfl rfl)
theorem dX0_chargeOf_8 : decode cX0_chargeOf 8 = .ok (.lastore, 1) := dk_80 (dk_at dksX0_chargeOf_0 8 rfl rfl)
theorem dX0_chargeOf_9 : decode cX0_chargeOf 9 = .ok (.goto 9, 3) := dk_167 0 9 (dk_at dksX0_chargeOf_0 9 rfl rfl)
theorem dX0_chargeOf_12 : decode cX0_chargeOf 12 = .ok (.astore_n 3, 1) := dk_78 (dk_at dksX0_chargeOf_0 12 rfl rfl)
theorem dX0_chargeOf_13 : decode cX0_chargeOf 13 = .ok (.iconst 1, 1) := dk_4 (dk_at dksX0_chargeOf_0 13 rfl rfl)
theorem dX0_chargeOf_14 : decode cX0_chargeOf 14 = .ok (.ireturn, 1) := dk_172 (dk_at dksX0_chargeOf_0 14 rfl rfl)
theorem dX0_chargeOf_15 : decode cX0_chargeOf 15 = .ok (.astore_n 3, 1) := dk_78 (dk_at dksX0_chargeOf_0 15 rfl rfl)
theorem dX0_chargeOf_16 : decode cX0_chargeOf 16 = .ok (.iconst 2, 1) := dk_5 (dk_at dksX0_chargeOf_0 16 rfl rfl)
theorem dX0_chargeOf_17 : decode cX0_chargeOf 17 = .ok (.ireturn, 1) := dk_172 (dk_at dksX0_chargeOf_0 17 rfl rfl)
theorem dX0_chargeOf_18 : decode cX0_chargeOf 18 = .ok (.iconst 0, 1) := dk_3 (dk_at dksX0_chargeOf_0 18 rfl rfl)
theorem dX0_chargeOf_19 : decode cX0_chargeOf 19 = .ok (.ireturn, 1) := dk_172 (dk_at dksX0_chargeOf_0 19 rfl rfl)
abbrev cX0_rateOf : ByteArray := method_24_code
def yX0_rateOf : MethodName := ⟨RX0, "rateOf", "(LPatchCords;I[J)I"⟩
def dkwX0_rateOf_0 : List UInt8 := [44, 3, 42, 27, 182, 0, 81, 133, 80, 167, 0, 9, 78, 4, 172, 78, 5, 172, 3, 172]
abbrev dktX0_rateOf_0 : List UInt8 := dkwX0_rateOf_0 ++ []
theorem dksX0_rateOf_0 : cX0_rateOf.data.toList.drop 0 = dktX0_rateOf_0 := by decide +kernel
theorem dX0_rateOf_0 : decode cX0_rateOf 0 = .ok (.aload_n 2, 1) := dk_44 (dk_at dksX0_rateOf_0 0 rfl rfl)
theorem dX0_rateOf_1 : decode cX0_rateOf 1 = .ok (.iconst 0, 1) := dk_3 (dk_at dksX0_rateOf_0 1 rfl rfl)
theorem dX0_rateOf_2 : decode cX0_rateOf 2 = .ok (.aload_n 0, 1) := dk_42 (dk_at dksX0_rateOf_0 2 rfl rfl)
theorem dX0_rateOf_3 : decode cX0_rateOf 3 = .ok (.iload_n 1, 1) := dk_27 (dk_at dksX0_rateOf_0 3 rfl rfl)
theorem dX0_rateOf_4 : decode cX0_rateOf 4 = .ok (.invokevirtual 81, 3) := dk_182 0 81 (dk_at dksX0_rateOf_0 4 rfl rfl)
theorem dX0_rateOf_7 : decode cX0_rateOf 7 = .ok (.i2l, 1) := dk_133 (dk_at dksX0_rateOf_0 7 rfl rfl)
theorem dX0_rateOf_8 : decode cX0_rateOf 8 = .ok (.lastore, 1) := dk_80 (dk_at dksX0_rateOf_0 8 rfl rfl)
theorem dX0_rateOf_9 : decode cX0_rateOf 9 = .ok (.goto 9, 3) := dk_167 0 9 (dk_at dksX0_rateOf_0 9 rfl rfl)
theorem dX0_rateOf_12 : decode cX0_rateOf 12 = .ok (.astore_n 3, 1) := dk_78 (dk_at dksX0_rateOf_0 12 rfl rfl)
theorem dX0_rateOf_13 : decode cX0_rateOf 13 = .ok (.iconst 1, 1) := dk_4 (dk_at dksX0_rateOf_0 13 rfl rfl)
theorem dX0_rateOf_14 : decode cX0_rateOf 14 = .ok (.ireturn, 1) := dk_172 (dk_at dksX0_rateOf_0 14 rfl rfl)
theorem dX0_rateOf_15 : decode cX0_rateOf 15 = .ok (.astore_n 3, 1) := dk_78 (dk_at dksX0_rateOf_0 15 rfl rfl)
theorem dX0_rateOf_16 : decode cX0_rateOf 16 = .ok (.iconst 2, 1) := dk_5 (dk_at dksX0_rateOf_0 16 rfl rfl)
theorem dX0_rateOf_17 : decode cX0_rateOf 17 = .ok (.ireturn, 1) := dk_172 (dk_at dksX0_rateOf_0 17 rfl rfl)
theorem dX0_rateOf_18 : decode cX0_rateOf 18 = .ok (.iconst 0, 1) := dk_3 (dk_at dksX0_rateOf_0 18 rfl rfl)
theorem dX0_rateOf_19 : decode cX0_rateOf 19 = .ok (.ireturn, 1) := dk_172 (dk_at dksX0_rateOf_0 19 rfl rfl)
abbrev cX0_peakOf : ByteArray := method_25_code
def yX0_peakOf : MethodName := ⟨RX0, "peakOf", "(LPatchCords;I[J)I"⟩
def dkwX0_peakOf_0 : List UInt8 := [44, 3, 42, 27, 182, 0, 84, 133, 80, 167, 0, 6, 78, 4, 172, 3, 172]
abbrev dktX0_peakOf_0 : List UInt8 := dkwX0_peakOf_0 ++ []
theorem dksX0_peakOf_0 : cX0_peakOf.data.toList.drop 0 = dktX0_peakOf_0 := by decide +kernel
theorem dX0_peakOf_0 : decode cX0_peakOf 0 = .ok (.aload_n 2, 1) := dk_44 (dk_at dksX0_peakOf_0 0 rfl rfl)
theorem dX0_peakOf_1 : decode cX0_peakOf 1 = .ok (.iconst 0, 1) := dk_3 (dk_at dksX0_peakOf_0 1 rfl rfl)
theorem dX0_peakOf_2 : decode cX0_peakOf 2 = .ok (.aload_n 0, 1) := dk_42 (dk_at dksX0_peakOf_0 2 rfl rfl)
theorem dX0_peakOf_3 : decode cX0_peakOf 3 = .ok (.iload_n 1, 1) := dk_27 (dk_at dksX0_peakOf_0 3 rfl rfl)
theorem dX0_peakOf_4 : decode cX0_peakOf 4 = .ok (.invokevirtual 84, 3) := dk_182 0 84 (dk_at dksX0_peakOf_0 4 rfl rfl)
theorem dX0_peakOf_7 : decode cX0_peakOf 7 = .ok (.i2l, 1) := dk_133 (dk_at dksX0_peakOf_0 7 rfl rfl)
theorem dX0_peakOf_8 : decode cX0_peakOf 8 = .ok (.lastore, 1) := dk_80 (dk_at dksX0_peakOf_0 8 rfl rfl)
theorem dX0_peakOf_9 : decode cX0_peakOf 9 = .ok (.goto 6, 3) := dk_167 0 6 (dk_at dksX0_peakOf_0 9 rfl rfl)
theorem dX0_peakOf_12 : decode cX0_peakOf 12 = .ok (.astore_n 3, 1) := dk_78 (dk_at dksX0_peakOf_0 12 rfl rfl)
theorem dX0_peakOf_13 : decode cX0_peakOf 13 = .ok (.iconst 1, 1) := dk_4 (dk_at dksX0_peakOf_0 13 rfl rfl)
theorem dX0_peakOf_14 : decode cX0_peakOf 14 = .ok (.ireturn, 1) := dk_172 (dk_at dksX0_peakOf_0 14 rfl rfl)
theorem dX0_peakOf_15 : decode cX0_peakOf 15 = .ok (.iconst 0, 1) := dk_3 (dk_at dksX0_peakOf_0 15 rfl rfl)
theorem dX0_peakOf_16 : decode cX0_peakOf 16 = .ok (.ireturn, 1) := dk_172 (dk_at dksX0_peakOf_0 16 rfl rfl)
abbrev cX0_scaleOf : ByteArray := method_26_code
def yX0_scaleOf : MethodName := ⟨RX0, "scaleOf", "(LPatchCords;I[J)I"⟩
def dkwX0_scaleOf_0 : List UInt8 := [44, 3, 42, 27, 182, 0, 87, 133, 80, 167, 0, 6, 78, 4, 172, 3, 172]
abbrev dktX0_scaleOf_0 : List UInt8 := dkwX0_scaleOf_0 ++ []
theorem dksX0_scaleOf_0 : cX0_scaleOf.data.toList.drop 0 = dktX0_scaleOf_0 := by decide +kernel
theorem dX0_scaleOf_0 : decode cX0_scaleOf 0 = .ok (.aload_n 2, 1) := dk_44 (dk_at dksX0_scaleOf_0 0 rfl rfl)
theorem dX0_scaleOf_1 : decode cX0_scaleOf 1 = .ok (.iconst 0, 1) := dk_3 (dk_at dksX0_scaleOf_0 1 rfl rfl)
theorem dX0_scaleOf_2 : decode cX0_scaleOf 2 = .ok (.aload_n 0, 1) := dk_42 (dk_at dksX0_scaleOf_0 2 rfl rfl)
theorem dX0_scaleOf_3 : decode cX0_scaleOf 3 = .ok (.iload_n 1, 1) := dk_27 (dk_at dksX0_scaleOf_0 3 rfl rfl)
theorem dX0_scaleOf_4 : decode cX0_scaleOf 4 = .ok (.invokevirtual 87, 3) := dk_182 0 87 (dk_at dksX0_scaleOf_0 4 rfl rfl)
theorem dX0_scaleOf_7 : decode cX0_scaleOf 7 = .ok (.i2l, 1) := dk_133 (dk_at dksX0_scaleOf_0 7 rfl rfl)
theorem dX0_scaleOf_8 : decode cX0_scaleOf 8 = .ok (.lastore, 1) := dk_80 (dk_at dksX0_scaleOf_0 8 rfl rfl)
theorem dX0_scaleOf_9 : decode cX0_scaleOf 9 = .ok (.goto 6, 3) := dk_167 0 6 (dk_at dksX0_scaleOf_0 9 rfl rfl)
theorem dX0_scaleOf_12 : decode cX0_scaleOf 12 = .ok (.astore_n 3, 1) := dk_78 (dk_at dksX0_scaleOf_0 12 rfl rfl)
theorem dX0_scaleOf_13 : decode cX0_scaleOf 13 = .ok (.iconst 1, 1) := dk_4 (dk_at dksX0_scaleOf_0 13 rfl rfl)
theorem dX0_scaleOf_14 : decode cX0_scaleOf 14 = .ok (.ireturn, 1) := dk_172 (dk_at dksX0_scaleOf_0 14 rfl rfl)
theorem dX0_scaleOf_15 : decode cX0_scaleOf 15 = .ok (.iconst 0, 1) := dk_3 (dk_at dksX0_scaleOf_0 15 rfl rfl)
theorem dX0_scaleOf_16 : decode cX0_scaleOf 16 = .ok (.ireturn, 1) := dk_172 (dk_at dksX0_scaleOf_0 16 rfl rfl)
abbrev cX0_levelOf : ByteArray := method_27_code
def yX0_levelOf : MethodName := ⟨RX0, "levelOf", "(LPatchCords;I[J)I"⟩
def dkwX0_levelOf_0 : List UInt8 := [44, 3, 42, 27, 182, 0, 90, 133, 80, 167, 0, 6, 78, 4, 172, 3, 172]
abbrev dktX0_levelOf_0 : List UInt8 := dkwX0_levelOf_0 ++ []
theorem dksX0_levelOf_0 : cX0_levelOf.data.toList.drop 0 = dktX0_levelOf_0 := by decide +kernel
theorem dX0_levelOf_0 : decode cX0_levelOf 0 = .ok (.aload_n 2, 1) := dk_44 (dk_at dksX0_levelOf_0 0 rfl rfl)
theorem dX0_levelOf_1 : decode cX0_levelOf 1 = .ok (.iconst 0, 1) := dk_3 (dk_at dksX0_levelOf_0 1 rfl rfl)
theorem dX0_levelOf_2 : decode cX0_levelOf 2 = .ok (.aload_n 0, 1) := dk_42 (dk_at dksX0_levelOf_0 2 rfl rfl)
theorem dX0_levelOf_3 : decode cX0_levelOf 3 = .ok (.iload_n 1, 1) := dk_27 (dk_at dksX0_levelOf_0 3 rfl rfl)
theorem dX0_levelOf_4 : decode cX0_levelOf 4 = .ok (.invokevirtual 90, 3) := dk_182 0 90 (dk_at dksX0_levelOf_0 4 rfl rfl)
theorem dX0_levelOf_7 : decode cX0_levelOf 7 = .ok (.i2l, 1) := dk_133 (dk_at dksX0_levelOf_0 7 rfl rfl)
theorem dX0_levelOf_8 : decode cX0_levelOf 8 = .ok (.lastore, 1) := dk_80 (dk_at dksX0_levelOf_0 8 rfl rfl)
theorem dX0_levelOf_9 : decode cX0_levelOf 9 = .ok (.goto 6, 3) := dk_167 0 6 (dk_at dksX0_levelOf_0 9 rfl rfl)
theorem dX0_levelOf_12 : decode cX0_levelOf 12 = .ok (.astore_n 3, 1) := dk_78 (dk_at dksX0_levelOf_0 12 rfl rfl)
theorem dX0_levelOf_13 : decode cX0_levelOf 13 = .ok (.iconst 1, 1) := dk_4 (dk_at dksX0_levelOf_0 13 rfl rfl)
theorem dX0_levelOf_14 : decode cX0_levelOf 14 = .ok (.ireturn, 1) := dk_172 (dk_at dksX0_levelOf_0 14 rfl rfl)
theorem dX0_levelOf_15 : decode cX0_levelOf 15 = .ok (.iconst 0, 1) := dk_3 (dk_at dksX0_levelOf_0 15 rfl rfl)
theorem dX0_levelOf_16 : decode cX0_levelOf 16 = .ok (.ireturn, 1) := dk_172 (dk_at dksX0_levelOf_0 16 rfl rfl)
abbrev cX0_feeders : ByteArray := method_28_code
def yX0_feeders : MethodName := ⟨RX0, "feeders", "(LPatchCords;I[J)I"⟩
def dkwX0_feeders_0 : List UInt8 := [44, 3, 42, 27, 182, 0, 93, 133, 80, 167, 0, 6, 78, 4, 172, 3, 172]
abbrev dktX0_feeders_0 : List UInt8 := dkwX0_feeders_0 ++ []
theorem dksX0_feeders_0 : cX0_feeders.data.toList.drop 0 = dktX0_feeders_0 := by decide +kernel
theorem dX0_feeders_0 : decode cX0_feeders 0 = .ok (.aload_n 2, 1) := dk_44 (dk_at dksX0_feeders_0 0 rfl rfl)
theorem dX0_feeders_1 : decode cX0_feeders 1 = .ok (.iconst 0, 1) := dk_3 (dk_at dksX0_feeders_0 1 rfl rfl)
theorem dX0_feeders_2 : decode cX0_feeders 2 = .ok (.aload_n 0, 1) := dk_42 (dk_at dksX0_feeders_0 2 rfl rfl)
theorem dX0_feeders_3 : decode cX0_feeders 3 = .ok (.iload_n 1, 1) := dk_27 (dk_at dksX0_feeders_0 3 rfl rfl)
theorem dX0_feeders_4 : decode cX0_feeders 4 = .ok (.invokevirtual 93, 3) := dk_182 0 93 (dk_at dksX0_feeders_0 4 rfl rfl)
theorem dX0_feeders_7 : decode cX0_feeders 7 = .ok (.i2l, 1) := dk_133 (dk_at dksX0_feeders_0 7 rfl rfl)
theorem dX0_feeders_8 : decode cX0_feeders 8 = .ok (.lastore, 1) := dk_80 (dk_at dksX0_feeders_0 8 rfl rfl)
theorem dX0_feeders_9 : decode cX0_feeders 9 = .ok (.goto 6, 3) := dk_167 0 6 (dk_at dksX0_feeders_0 9 rfl rfl)
theorem dX0_feeders_12 : decode cX0_feeders 12 = .ok (.astore_n 3, 1) := dk_78 (dk_at dksX0_feeders_0 12 rfl rfl)
theorem dX0_feeders_13 : decode cX0_feeders 13 = .ok (.iconst 1, 1) := dk_4 (dk_at dksX0_feeders_0 13 rfl rfl)
theorem dX0_feeders_14 : decode cX0_feeders 14 = .ok (.ireturn, 1) := dk_172 (dk_at dksX0_feeders_0 14 rfl rfl)
theorem dX0_feeders_15 : decode cX0_feeders 15 = .ok (.iconst 0, 1) := dk_3 (dk_at dksX0_feeders_0 15 rfl rfl)
theorem dX0_feeders_16 : decode cX0_feeders 16 = .ok (.ireturn, 1) := dk_172 (dk_at dksX0_feeders_0 16 rfl rfl)
abbrev cX0_dependsOn : ByteArray := method_29_code
def yX0_dependsOn : MethodName := ⟨RX0, "dependsOn", "(LPatchCords;I[J)I"⟩
def dkwX0_dependsOn_0 : List UInt8 := [44, 3, 42, 27, 182, 0, 96, 133, 80, 167, 0, 6, 78, 4, 172, 3, 172]
abbrev dktX0_dependsOn_0 : List UInt8 := dkwX0_dependsOn_0 ++ []
theorem dksX0_dependsOn_0 : cX0_dependsOn.data.toList.drop 0 = dktX0_dependsOn_0 := by decide +kernel
theorem dX0_dependsOn_0 : decode cX0_dependsOn 0 = .ok (.aload_n 2, 1) := dk_44 (dk_at dksX0_dependsOn_0 0 rfl rfl)
theorem dX0_dependsOn_1 : decode cX0_dependsOn 1 = .ok (.iconst 0, 1) := dk_3 (dk_at dksX0_dependsOn_0 1 rfl rfl)
theorem dX0_dependsOn_2 : decode cX0_dependsOn 2 = .ok (.aload_n 0, 1) := dk_42 (dk_at dksX0_dependsOn_0 2 rfl rfl)
theorem dX0_dependsOn_3 : decode cX0_dependsOn 3 = .ok (.iload_n 1, 1) := dk_27 (dk_at dksX0_dependsOn_0 3 rfl rfl)
theorem dX0_dependsOn_4 : decode cX0_dependsOn 4 = .ok (.invokevirtual 96, 3) := dk_182 0 96 (dk_at dksX0_dependsOn_0 4 rfl rfl)
theorem dX0_dependsOn_7 : decode cX0_dependsOn 7 = .ok (.i2l, 1) := dk_133 (dk_at dksX0_dependsOn_0 7 rfl rfl)
theorem dX0_dependsOn_8 : decode cX0_dependsOn 8 = .ok (.lastore, 1) := dk_80 (dk_at dksX0_dependsOn_0 8 rfl rfl)
theorem dX0_dependsOn_9 : decode cX0_dependsOn 9 = .ok (.goto 6, 3) := dk_167 0 6 (dk_at dksX0_dependsOn_0 9 rfl rfl)
theorem dX0_dependsOn_12 : decode cX0_dependsOn 12 = .ok (.astore_n 3, 1) := dk_78 (dk_at dksX0_dependsOn_0 12 rfl rfl)
theorem dX0_dependsOn_13 : decode cX0_dependsOn 13 = .ok (.iconst 1, 1) := dk_4 (dk_at dksX0_dependsOn_0 13 rfl rfl)
theorem dX0_dependsOn_14 : decode cX0_dependsOn 14 = .ok (.ireturn, 1) := dk_172 (dk_at dksX0_dependsOn_0 14 rfl rfl)
theorem dX0_dependsOn_15 : decode cX0_dependsOn 15 = .ok (.iconst 0, 1) := dk_3 (dk_at dksX0_dependsOn_0 15 rfl rfl)
theorem dX0_dependsOn_16 : decode cX0_dependsOn 16 = .ok (.ireturn, 1) := dk_172 (dk_at dksX0_dependsOn_0 16 rfl rfl)
abbrev cX0_dependsByTable : ByteArray := method_30_code
def yX0_dependsByTable : MethodName := ⟨RX0, "dependsByTable", "(LPatchCords;I[J)I"⟩
def dkwX0_dependsByTable_0 : List UInt8 := [44, 3, 42, 27, 182, 0, 99, 133, 80, 167, 0, 6, 78, 4, 172, 3, 172]
abbrev dktX0_dependsByTable_0 : List UInt8 := dkwX0_dependsByTable_0 ++ []
theorem dksX0_dependsByTable_0 : cX0_dependsByTable.data.toList.drop 0 = dktX0_dependsByTable_0 := by decide +kernel
theorem dX0_dependsByTable_0 : decode cX0_dependsByTable 0 = .ok (.aload_n 2, 1) := dk_44 (dk_at dksX0_dependsByTable_0 0 rfl rfl)
theorem dX0_dependsByTable_1 : decode cX0_dependsByTable 1 = .ok (.iconst 0, 1) := dk_3 (dk_at dksX0_dependsByTable_0 1 rfl rfl)
theorem dX0_dependsByTable_2 : decode cX0_dependsByTable 2 = .ok (.aload_n 0, 1) := dk_42 (dk_at dksX0_dependsByTable_0 2 rfl rfl)
theorem dX0_dependsByTable_3 : decode cX0_dependsByTable 3 = .ok (.iload_n 1, 1) := dk_27 (dk_at dksX0_dependsByTable_0 3 rfl rfl)
theorem dX0_dependsByTable_4 : decode cX0_dependsByTable 4 = .ok (.invokevirtual 99, 3) := dk_182 0 99 (dk_at dksX0_dependsByTable_0 4 rfl rfl)
theorem dX0_dependsByTable_7 : decode cX0_dependsByTable 7 = .ok (.i2l, 1) := dk_133 (dk_at dksX0_dependsByTable_0 7 rfl rfl)
theorem dX0_dependsByTable_8 : decode cX0_dependsByTable 8 = .ok (.lastore, 1) := dk_80 (dk_at dksX0_dependsByTable_0 8 rfl rfl)
theorem dX0_dependsByTable_9 : decode cX0_dependsByTable 9 = .ok (.goto 6, 3) := dk_167 0 6 (dk_at dksX0_dependsByTable_0 9 rfl rfl)
theorem dX0_dependsByTable_12 : decode cX0_dependsByTable 12 = .ok (.astore_n 3, 1) := dk_78 (dk_at dksX0_dependsByTable_0 12 rfl rfl)
theorem dX0_dependsByTable_13 : decode cX0_dependsByTable 13 = .ok (.iconst 1, 1) := dk_4 (dk_at dksX0_dependsByTable_0 13 rfl rfl)
theorem dX0_dependsByTable_14 : decode cX0_dependsByTable 14 = .ok (.ireturn, 1) := dk_172 (dk_at dksX0_dependsByTable_0 14 rfl rfl)
theorem dX0_dependsByTable_15 : decode cX0_dependsByTable 15 = .ok (.iconst 0, 1) := dk_3 (dk_at dksX0_dependsByTable_0 15 rfl rfl)
theorem dX0_dependsByTable_16 : decode cX0_dependsByTable 16 = .ok (.ireturn, 1) := dk_172 (dk_at dksX0_dependsByTable_0 16 rfl rfl)
abbrev cX0_recordAt : ByteArray := method_31_code
def yX0_recordAt : MethodName := ⟨RX0, "recordAt", "(LPatchCords;I[J)I"⟩
def dkwX0_recordAt_0 : List UInt8 := [44, 3, 42, 27, 182, 0, 102, 133, 80, 167, 0, 6, 78, 4, 172, 3, 172]
abbrev dktX0_recordAt_0 : List UInt8 := dkwX0_recordAt_0 ++ []
theorem dksX0_recordAt_0 : cX0_recordAt.data.toList.drop 0 = dktX0_recordAt_0 := by decide +kernel
theorem dX0_recordAt_0 : decode cX0_recordAt 0 = .ok (.aload_n 2, 1) := dk_44 (dk_at dksX0_recordAt_0 0 rfl rfl)
theorem dX0_recordAt_1 : decode cX0_recordAt 1 = .ok (.iconst 0, 1) := dk_3 (dk_at dksX0_recordAt_0 1 rfl rfl)
theorem dX0_recordAt_2 : decode cX0_recordAt 2 = .ok (.aload_n 0, 1) := dk_42 (dk_at dksX0_recordAt_0 2 rfl rfl)
theorem dX0_recordAt_3 : decode cX0_recordAt 3 = .ok (.iload_n 1, 1) := dk_27 (dk_at dksX0_recordAt_0 3 rfl rfl)
theorem dX0_recordAt_4 : decode cX0_recordAt 4 = .ok (.invokevirtual 102, 3) := dk_182 0 102 (dk_at dksX0_recordAt_0 4 rfl rfl)
theorem dX0_recordAt_7 : decode cX0_recordAt 7 = .ok (.i2l, 1) := dk_133 (dk_at dksX0_recordAt_0 7 rfl rfl)
theorem dX0_recordAt_8 : decode cX0_recordAt 8 = .ok (.lastore, 1) := dk_80 (dk_at dksX0_recordAt_0 8 rfl rfl)
theorem dX0_recordAt_9 : decode cX0_recordAt 9 = .ok (.goto 6, 3) := dk_167 0 6 (dk_at dksX0_recordAt_0 9 rfl rfl)
theorem dX0_recordAt_12 : decode cX0_recordAt 12 = .ok (.astore_n 3, 1) := dk_78 (dk_at dksX0_recordAt_0 12 rfl rfl)
theorem dX0_recordAt_13 : decode cX0_recordAt 13 = .ok (.iconst 1, 1) := dk_4 (dk_at dksX0_recordAt_0 13 rfl rfl)
theorem dX0_recordAt_14 : decode cX0_recordAt 14 = .ok (.ireturn, 1) := dk_172 (dk_at dksX0_recordAt_0 14 rfl rfl)
theorem dX0_recordAt_15 : decode cX0_recordAt 15 = .ok (.iconst 0, 1) := dk_3 (dk_at dksX0_recordAt_0 15 rfl rfl)
theorem dX0_recordAt_16 : decode cX0_recordAt 16 = .ok (.ireturn, 1) := dk_172 (dk_at dksX0_recordAt_0 16 rfl rfl)
abbrev cX0_wouldCircle : ByteArray := method_32_code
def yX0_wouldCircle : MethodName := ⟨RX0, "wouldCircle", "(LPatchCords;II[J)I"⟩
def dkwX0_wouldCircle_1 : List UInt8 := [3, 172]
abbrev dktX0_wouldCircle_1 : List UInt8 := dkwX0_wouldCircle_1 ++ []
def dkwX0_wouldCircle_0 : List UInt8 := [45, 3, 42, 27, 28, 182, 0, 105, 153, 0, 7, 10, 167, 0, 4, 9, 80, 167, 0, 7, 58, 4, 4, 172]
abbrev dktX0_wouldCircle_0 : List UInt8 := dkwX0_wouldCircle_0 ++ dktX0_wouldCircle_1
theorem dksX0_wouldCircle_0 : cX0_wouldCircle.data.toList.drop 0 = dktX0_wouldCircle_0 := by decide +kernel
theorem dksX0_wouldCircle_1 : cX0_wouldCircle.data.toList.drop 24 = dktX0_wouldCircle_1 := dk_seg dksX0_wouldCircle_0 24 rfl rfl
theorem dX0_wouldCircle_0 : decode cX0_wouldCircle 0 = .ok (.aload_n 3, 1) := dk_45 (dk_at dksX0_wouldCircle_0 0 rfl rfl)
theorem dX0_wouldCircle_1 : decode cX0_wouldCircle 1 = .ok (.iconst 0, 1) := dk_3 (dk_at dksX0_wouldCircle_0 1 rfl rfl)
theorem dX0_wouldCircle_2 : decode cX0_wouldCircle 2 = .ok (.aload_n 0, 1) := dk_42 (dk_at dksX0_wouldCircle_0 2 rfl rfl)
theorem dX0_wouldCircle_3 : decode cX0_wouldCircle 3 = .ok (.iload_n 1, 1) := dk_27 (dk_at dksX0_wouldCircle_0 3 rfl rfl)
theorem dX0_wouldCircle_4 : decode cX0_wouldCircle 4 = .ok (.iload_n 2, 1) := dk_28 (dk_at dksX0_wouldCircle_0 4 rfl rfl)
theorem dX0_wouldCircle_5 : decode cX0_wouldCircle 5 = .ok (.invokevirtual 105, 3) := dk_182 0 105 (dk_at dksX0_wouldCircle_0 5 rfl rfl)
theorem dX0_wouldCircle_8 : decode cX0_wouldCircle 8 = .ok (.ifCond .eq 7, 3) := dk_153 0 7 (dk_at dksX0_wouldCircle_0 8 rfl rfl)
theorem dX0_wouldCircle_11 : decode cX0_wouldCircle 11 = .ok (.lconst 1, 1) := dk_10 (dk_at dksX0_wouldCircle_0 11 rfl rfl)
theorem dX0_wouldCircle_12 : decode cX0_wouldCircle 12 = .ok (.goto 4, 3) := dk_167 0 4 (dk_at dksX0_wouldCircle_0 12 rfl rfl)
theorem dX0_wouldCircle_15 : decode cX0_wouldCircle 15 = .ok (.lconst 0, 1) := dk_9 (dk_at dksX0_wouldCircle_0 15 rfl rfl)
theorem dX0_wouldCircle_16 : decode cX0_wouldCircle 16 = .ok (.lastore, 1) := dk_80 (dk_at dksX0_wouldCircle_0 16 rfl rfl)
theorem dX0_wouldCircle_17 : decode cX0_wouldCircle 17 = .ok (.goto 7, 3) := dk_167 0 7 (dk_at dksX0_wouldCircle_0 17 rfl rfl)
theorem dX0_wouldCircle_20 : decode cX0_wouldCircle 20 = .ok (.astore 4, 2) := dk_58 4 (dk_at dksX0_wouldCircle_0 20 rfl rfl)
theorem dX0_wouldCircle_22 : decode cX0_wouldCircle 22 = .ok (.iconst 1, 1) := dk_4 (dk_at dksX0_wouldCircle_0 22 rfl rfl)
theorem dX0_wouldCircle_23 : decode cX0_wouldCircle 23 = .ok (.ireturn, 1) := dk_172 (dk_at dksX0_wouldCircle_0 23 rfl rfl)
theorem dX0_wouldCircle_24 : decode cX0_wouldCircle 24 = .ok (.iconst 0, 1) := dk_3 (dk_at dksX0_wouldCircle_1 0 rfl rfl)
theorem dX0_wouldCircle_25 : decode cX0_wouldCircle 25 = .ok (.ireturn, 1) := dk_172 (dk_at dksX0_wouldCircle_1 1 rfl rfl)
abbrev cX0_outputIn : ByteArray := method_33_code
def yX0_outputIn : MethodName := ⟨RX0, "outputIn", "(LPatchCords;II[J)I"⟩
def dkwX0_outputIn_0 : List UInt8 := [45, 3, 42, 27, 28, 182, 0, 109, 133, 80, 167, 0, 11, 58, 4, 4, 172, 58, 4, 5, 172, 3, 172]
abbrev dktX0_outputIn_0 : List UInt8 := dkwX0_outputIn_0 ++ []
theorem dksX0_outputIn_0 : cX0_outputIn.data.toList.drop 0 = dktX0_outputIn_0 := by decide +kernel
theorem dX0_outputIn_0 : decode cX0_outputIn 0 = .ok (.aload_n 3, 1) := dk_45 (dk_at dksX0_outputIn_0 0 rfl rfl)
theorem dX0_outputIn_1 : decode cX0_outputIn 1 = .ok (.iconst 0, 1) := dk_3 (dk_at dksX0_outputIn_0 1 rfl rfl)
theorem dX0_outputIn_2 : decode cX0_outputIn 2 = .ok (.aload_n 0, 1) := dk_42 (dk_at dksX0_outputIn_0 2 rfl rfl)
theorem dX0_outputIn_3 : decode cX0_outputIn 3 = .ok (.iload_n 1, 1) := dk_27 (dk_at dksX0_outputIn_0 3 rfl rfl)
theorem dX0_outputIn_4 : decode cX0_outputIn 4 = .ok (.iload_n 2, 1) := dk_28 (dk_at dksX0_outputIn_0 4 rfl rfl)
theorem dX0_outputIn_5 : decode cX0_outputIn 5 = .ok (.invokevirtual 109, 3) := dk_182 0 109 (dk_at dksX0_outputIn_0 5 rfl rfl)
theorem dX0_outputIn_8 : decode cX0_outputIn 8 = .ok (.i2l, 1) := dk_133 (dk_at dksX0_outputIn_0 8 rfl rfl)
theorem dX0_outputIn_9 : decode cX0_outputIn 9 = .ok (.lastore, 1) := dk_80 (dk_at dksX0_outputIn_0 9 rfl rfl)
theorem dX0_outputIn_10 : decode cX0_outputIn 10 = .ok (.goto 11, 3) := dk_167 0 11 (dk_at dksX0_outputIn_0 10 rfl rfl)
theorem dX0_outputIn_13 : decode cX0_outputIn 13 = .ok (.astore 4, 2) := dk_58 4 (dk_at dksX0_outputIn_0 13 rfl rfl)
theorem dX0_outputIn_15 : decode cX0_outputIn 15 = .ok (.iconst 1, 1) := dk_4 (dk_at dksX0_outputIn_0 15 rfl rfl)
theorem dX0_outputIn_16 : decode cX0_outputIn 16 = .ok (.ireturn, 1) := dk_172 (dk_at dksX0_outputIn_0 16 rfl rfl)
theorem dX0_outputIn_17 : decode cX0_outputIn 17 = .ok (.astore 4, 2) := dk_58 4 (dk_at dksX0_outputIn_0 17 rfl rfl)
theorem dX0_outputIn_19 : decode cX0_outputIn 19 = .ok (.iconst 2, 1) := dk_5 (dk_at dksX0_outputIn_0 19 rfl rfl)
theorem dX0_outputIn_20 : decode cX0_outputIn 20 = .ok (.ireturn, 1) := dk_172 (dk_at dksX0_outputIn_0 20 rfl rfl)
theorem dX0_outputIn_21 : decode cX0_outputIn 21 = .ok (.iconst 0, 1) := dk_3 (dk_at dksX0_outputIn_0 21 rfl rfl)
theorem dX0_outputIn_22 : decode cX0_outputIn 22 = .ok (.ireturn, 1) := dk_172 (dk_at dksX0_outputIn_0 22 rfl rfl)
abbrev cX0_bestFactor : ByteArray := method_34_code
def yX0_bestFactor : MethodName := ⟨RX0, "bestFactor", "(LPatchCords;III[J)I"⟩
def dkwX0_bestFactor_1 : List UInt8 := [172]
abbrev dktX0_bestFactor_1 : List UInt8 := dkwX0_bestFactor_1 ++ []
def dkwX0_bestFactor_0 : List UInt8 := [25, 4, 3, 42, 27, 28, 29, 182, 0, 112, 133, 80, 167, 0, 11, 58, 5, 4, 172, 58, 5, 5, 172, 3]
abbrev dktX0_bestFactor_0 : List UInt8 := dkwX0_bestFactor_0 ++ dktX0_bestFactor_1
theorem dksX0_bestFactor_0 : cX0_bestFactor.data.toList.drop 0 = dktX0_bestFactor_0 := by decide +kernel
theorem dksX0_bestFactor_1 : cX0_bestFactor.data.toList.drop 24 = dktX0_bestFactor_1 := dk_seg dksX0_bestFactor_0 24 rfl rfl
theorem dX0_bestFactor_0 : decode cX0_bestFactor 0 = .ok (.aload 4, 2) := dk_25 4 (dk_at dksX0_bestFactor_0 0 rfl rfl)
theorem dX0_bestFactor_2 : decode cX0_bestFactor 2 = .ok (.iconst 0, 1) := dk_3 (dk_at dksX0_bestFactor_0 2 rfl rfl)
theorem dX0_bestFactor_3 : decode cX0_bestFactor 3 = .ok (.aload_n 0, 1) := dk_42 (dk_at dksX0_bestFactor_0 3 rfl rfl)
theorem dX0_bestFactor_4 : decode cX0_bestFactor 4 = .ok (.iload_n 1, 1) := dk_27 (dk_at dksX0_bestFactor_0 4 rfl rfl)
theorem dX0_bestFactor_5 : decode cX0_bestFactor 5 = .ok (.iload_n 2, 1) := dk_28 (dk_at dksX0_bestFactor_0 5 rfl rfl)
theorem dX0_bestFactor_6 : decode cX0_bestFactor 6 = .ok (.iload_n 3, 1) := dk_29 (dk_at dksX0_bestFactor_0 6 rfl rfl)
theorem dX0_bestFactor_7 : decode cX0_bestFactor 7 = .ok (.invokevirtual 112, 3) := dk_182 0 112 (dk_at dksX0_bestFactor_0 7 rfl rfl)
theorem dX0_bestFactor_10 : decode cX0_bestFactor 10 = .ok (.i2l, 1) := dk_133 (dk_at dksX0_bestFactor_0 10 rfl rfl)
theorem dX0_bestFactor_11 : decode cX0_bestFactor 11 = .ok (.lastore, 1) := dk_80 (dk_at dksX0_bestFactor_0 11 rfl rfl)
theorem dX0_bestFactor_12 : decode cX0_bestFactor 12 = .ok (.goto 11, 3) := dk_167 0 11 (dk_at dksX0_bestFactor_0 12 rfl rfl)
theorem dX0_bestFactor_15 : decode cX0_bestFactor 15 = .ok (.astore 5, 2) := dk_58 5 (dk_at dksX0_bestFactor_0 15 rfl rfl)
theorem dX0_bestFactor_17 : decode cX0_bestFactor 17 = .ok (.iconst 1, 1) := dk_4 (dk_at dksX0_bestFactor_0 17 rfl rfl)
theorem dX0_bestFactor_18 : decode cX0_bestFactor 18 = .ok (.ireturn, 1) := dk_172 (dk_at dksX0_bestFactor_0 18 rfl rfl)
theorem dX0_bestFactor_19 : decode cX0_bestFactor 19 = .ok (.astore 5, 2) := dk_58 5 (dk_at dksX0_bestFactor_0 19 rfl rfl)
theorem dX0_bestFactor_21 : decode cX0_bestFactor 21 = .ok (.iconst 2, 1) := dk_5 (dk_at dksX0_bestFactor_0 21 rfl rfl)
theorem dX0_bestFactor_22 : decode cX0_bestFactor 22 = .ok (.ireturn, 1) := dk_172 (dk_at dksX0_bestFactor_0 22 rfl rfl)
theorem dX0_bestFactor_23 : decode cX0_bestFactor 23 = .ok (.iconst 0, 1) := dk_3 (dk_at dksX0_bestFactor_0 23 rfl rfl)
theorem dX0_bestFactor_24 : decode cX0_bestFactor 24 = .ok (.ireturn, 1) := dk_172 (dk_at dksX0_bestFactor_1 0 rfl rfl)
abbrev cX0_goBack : ByteArray := method_35_code
def yX0_goBack : MethodName := ⟨RX0, "goBack", "(LPatchCords;[J)I"⟩
def dkwX0_goBack_0 : List UInt8 := [43, 3, 42, 182, 0, 115, 133, 80, 167, 0, 6, 77, 4, 172, 3, 172]
abbrev dktX0_goBack_0 : List UInt8 := dkwX0_goBack_0 ++ []
theorem dksX0_goBack_0 : cX0_goBack.data.toList.drop 0 = dktX0_goBack_0 := by decide +kernel
theorem dX0_goBack_0 : decode cX0_goBack 0 = .ok (.aload_n 1, 1) := dk_43 (dk_at dksX0_goBack_0 0 rfl rfl)
theorem dX0_goBack_1 : decode cX0_goBack 1 = .ok (.iconst 0, 1) := dk_3 (dk_at dksX0_goBack_0 1 rfl rfl)
theorem dX0_goBack_2 : decode cX0_goBack 2 = .ok (.aload_n 0, 1) := dk_42 (dk_at dksX0_goBack_0 2 rfl rfl)
theorem dX0_goBack_3 : decode cX0_goBack 3 = .ok (.invokevirtual 115, 3) := dk_182 0 115 (dk_at dksX0_goBack_0 3 rfl rfl)
theorem dX0_goBack_6 : decode cX0_goBack 6 = .ok (.i2l, 1) := dk_133 (dk_at dksX0_goBack_0 6 rfl rfl)
theorem dX0_goBack_7 : decode cX0_goBack 7 = .ok (.lastore, 1) := dk_80 (dk_at dksX0_goBack_0 7 rfl rfl)
theorem dX0_goBack_8 : decode cX0_goBack 8 = .ok (.goto 6, 3) := dk_167 0 6 (dk_at dksX0_goBack_0 8 rfl rfl)
theorem dX0_goBack_11 : decode cX0_goBack 11 = .ok (.astore_n 2, 1) := dk_77 (dk_at dksX0_goBack_0 11 rfl rfl)
theorem dX0_goBack_12 : decode cX0_goBack 12 = .ok (.iconst 1, 1) := dk_4 (dk_at dksX0_goBack_0 12 rfl rfl)
theorem dX0_goBack_13 : decode cX0_goBack 13 = .ok (.ireturn, 1) := dk_172 (dk_at dksX0_goBack_0 13 rfl rfl)
theorem dX0_goBack_14 : decode cX0_goBack 14 = .ok (.iconst 0, 1) := dk_3 (dk_at dksX0_goBack_0 14 rfl rfl)
theorem dX0_goBack_15 : decode cX0_goBack 15 = .ok (.ireturn, 1) := dk_172 (dk_at dksX0_goBack_0 15 rfl rfl)
abbrev cX0_append : ByteArray := method_36_code
def yX0_append : MethodName := ⟨RX0, "append", "(LPatchCords;I[J)I"⟩
def dkwX0_append_0 : List UInt8 := [44, 3, 42, 27, 182, 0, 119, 133, 80, 167, 0, 9, 78, 4, 172, 78, 5, 172, 3, 172]
abbrev dktX0_append_0 : List UInt8 := dkwX0_append_0 ++ []
theorem dksX0_append_0 : cX0_append.data.toList.drop 0 = dktX0_append_0 := by decide +kernel
theorem dX0_append_0 : decode cX0_append 0 = .ok (.aload_n 2, 1) := dk_44 (dk_at dksX0_append_0 0 rfl rfl)
theorem dX0_append_1 : decode cX0_append 1 = .ok (.iconst 0, 1) := dk_3 (dk_at dksX0_append_0 1 rfl rfl)
theorem dX0_append_2 : decode cX0_append 2 = .ok (.aload_n 0, 1) := dk_42 (dk_at dksX0_append_0 2 rfl rfl)
theorem dX0_append_3 : decode cX0_append 3 = .ok (.iload_n 1, 1) := dk_27 (dk_at dksX0_append_0 3 rfl rfl)
theorem dX0_append_4 : decode cX0_append 4 = .ok (.invokevirtual 119, 3) := dk_182 0 119 (dk_at dksX0_append_0 4 rfl rfl)
theorem dX0_append_7 : decode cX0_append 7 = .ok (.i2l, 1) := dk_133 (dk_at dksX0_append_0 7 rfl rfl)
theorem dX0_append_8 : decode cX0_append 8 = .ok (.lastore, 1) := dk_80 (dk_at dksX0_append_0 8 rfl rfl)
theorem dX0_append_9 : decode cX0_append 9 = .ok (.goto 9, 3) := dk_167 0 9 (dk_at dksX0_append_0 9 rfl rfl)
theorem dX0_append_12 : decode cX0_append 12 = .ok (.astore_n 3, 1) := dk_78 (dk_at dksX0_append_0 12 rfl rfl)
theorem dX0_append_13 : decode cX0_append 13 = .ok (.iconst 1, 1) := dk_4 (dk_at dksX0_append_0 13 rfl rfl)
theorem dX0_append_14 : decode cX0_append 14 = .ok (.ireturn, 1) := dk_172 (dk_at dksX0_append_0 14 rfl rfl)
theorem dX0_append_15 : decode cX0_append 15 = .ok (.astore_n 3, 1) := dk_78 (dk_at dksX0_append_0 15 rfl rfl)
theorem dX0_append_16 : decode cX0_append 16 = .ok (.iconst 2, 1) := dk_5 (dk_at dksX0_append_0 16 rfl rfl)
theorem dX0_append_17 : decode cX0_append 17 = .ok (.ireturn, 1) := dk_172 (dk_at dksX0_append_0 17 rfl rfl)
theorem dX0_append_18 : decode cX0_append 18 = .ok (.iconst 0, 1) := dk_3 (dk_at dksX0_append_0 18 rfl rfl)
theorem dX0_append_19 : decode cX0_append 19 = .ok (.ireturn, 1) := dk_172 (dk_at dksX0_append_0 19 rfl rfl)
abbrev cX0_patch : ByteArray := method_37_code
def yX0_patch : MethodName := ⟨RX0, "patch", "(LPatchCords;[J)I"⟩
def dkwX0_patch_0 : List UInt8 := [43, 3, 42, 182, 0, 122, 133, 80, 167, 0, 6, 77, 4, 172, 3, 172]
abbrev dktX0_patch_0 : List UInt8 := dkwX0_patch_0 ++ []
theorem dksX0_patch_0 : cX0_patch.data.toList.drop 0 = dktX0_patch_0 := by decide +kernel
theorem dX0_patch_0 : decode cX0_patch 0 = .ok (.aload_n 1, 1) := dk_43 (dk_at dksX0_patch_0 0 rfl rfl)
theorem dX0_patch_1 : decode cX0_patch 1 = .ok (.iconst 0, 1) := dk_3 (dk_at dksX0_patch_0 1 rfl rfl)
theorem dX0_patch_2 : decode cX0_patch 2 = .ok (.aload_n 0, 1) := dk_42 (dk_at dksX0_patch_0 2 rfl rfl)
theorem dX0_patch_3 : decode cX0_patch 3 = .ok (.invokevirtual 122, 3) := dk_182 0 122 (dk_at dksX0_patch_0 3 rfl rfl)
theorem dX0_patch_6 : decode cX0_patch 6 = .ok (.i2l, 1) := dk_133 (dk_at dksX0_patch_0 6 rfl rfl)
theorem dX0_patch_7 : decode cX0_patch 7 = .ok (.lastore, 1) := dk_80 (dk_at dksX0_patch_0 7 rfl rfl)
theorem dX0_patch_8 : decode cX0_patch 8 = .ok (.goto 6, 3) := dk_167 0 6 (dk_at dksX0_patch_0 8 rfl rfl)
theorem dX0_patch_11 : decode cX0_patch 11 = .ok (.astore_n 2, 1) := dk_77 (dk_at dksX0_patch_0 11 rfl rfl)
theorem dX0_patch_12 : decode cX0_patch 12 = .ok (.iconst 1, 1) := dk_4 (dk_at dksX0_patch_0 12 rfl rfl)
theorem dX0_patch_13 : decode cX0_patch 13 = .ok (.ireturn, 1) := dk_172 (dk_at dksX0_patch_0 13 rfl rfl)
theorem dX0_patch_14 : decode cX0_patch 14 = .ok (.iconst 0, 1) := dk_3 (dk_at dksX0_patch_0 14 rfl rfl)
theorem dX0_patch_15 : decode cX0_patch 15 = .ok (.ireturn, 1) := dk_172 (dk_at dksX0_patch_0 15 rfl rfl)
abbrev cX0_undo : ByteArray := method_38_code
def yX0_undo : MethodName := ⟨RX0, "undo", "(LPatchCords;[J)I"⟩
def dkwX0_undo_0 : List UInt8 := [43, 3, 42, 182, 0, 125, 133, 80, 167, 0, 6, 77, 4, 172, 3, 172]
abbrev dktX0_undo_0 : List UInt8 := dkwX0_undo_0 ++ []
theorem dksX0_undo_0 : cX0_undo.data.toList.drop 0 = dktX0_undo_0 := by decide +kernel
theorem dX0_undo_0 : decode cX0_undo 0 = .ok (.aload_n 1, 1) := dk_43 (dk_at dksX0_undo_0 0 rfl rfl)
theorem dX0_undo_1 : decode cX0_undo 1 = .ok (.iconst 0, 1) := dk_3 (dk_at dksX0_undo_0 1 rfl rfl)
theorem dX0_undo_2 : decode cX0_undo 2 = .ok (.aload_n 0, 1) := dk_42 (dk_at dksX0_undo_0 2 rfl rfl)
theorem dX0_undo_3 : decode cX0_undo 3 = .ok (.invokevirtual 125, 3) := dk_182 0 125 (dk_at dksX0_undo_0 3 rfl rfl)
theorem dX0_undo_6 : decode cX0_undo 6 = .ok (.i2l, 1) := dk_133 (dk_at dksX0_undo_0 6 rfl rfl)
theorem dX0_undo_7 : decode cX0_undo 7 = .ok (.lastore, 1) := dk_80 (dk_at dksX0_undo_0 7 rfl rfl)
theorem dX0_undo_8 : decode cX0_undo 8 = .ok (.goto 6, 3) := dk_167 0 6 (dk_at dksX0_undo_0 8 rfl rfl)
theorem dX0_undo_11 : decode cX0_undo 11 = .ok (.astore_n 2, 1) := dk_77 (dk_at dksX0_undo_0 11 rfl rfl)
theorem dX0_undo_12 : decode cX0_undo 12 = .ok (.iconst 1, 1) := dk_4 (dk_at dksX0_undo_0 12 rfl rfl)
theorem dX0_undo_13 : decode cX0_undo 13 = .ok (.ireturn, 1) := dk_172 (dk_at dksX0_undo_0 13 rfl rfl)
theorem dX0_undo_14 : decode cX0_undo 14 = .ok (.iconst 0, 1) := dk_3 (dk_at dksX0_undo_0 14 rfl rfl)
theorem dX0_undo_15 : decode cX0_undo 15 = .ok (.ireturn, 1) := dk_172 (dk_at dksX0_undo_0 15 rfl rfl)
theorem q100 : (Jvm.Cond.initialized "PatchCordsLaw") ∈ lw_all := lw_g (lw_at lw_m1 0 rfl) rfl
theorem q141 : (Jvm.Cond.classLink "PatchCordsLaw" (8 : Nat) "PatchCords") ∈ lw_all := lw_g (lw_at lw_m1 41 rfl) rfl
theorem q143 : (Jvm.Cond.methodLink "PatchCordsLaw" (128 : Nat) ({ cls := "PatchCords", name := "<init>", desc := "()V" } : Jvm.MethodName)) ∈ lw_all := lw_g (lw_at lw_m1 43 rfl) rfl
theorem q286 : (Jvm.Cond.methodLink "PatchCordsLaw" (302 : Nat) ({ cls := "PatchCords", name := "keep", desc := "()I" } : Jvm.MethodName)) ∈ lw_all := lw_g (lw_at lw_m1 186 rfl) rfl
theorem q529 : (Jvm.Cond.methodLink "PatchCordsLaw" (167 : Nat) ({ cls := "PatchCords", name := "turnGuard", desc := "()Z" } : Jvm.MethodName)) ∈ lw_all := lw_g (lw_at lw_m2 189 rfl) rfl
theorem q552 : (Jvm.Cond.methodLink "PatchCordsLaw" (178 : Nat) ({ cls := "PatchCords", name := "modules", desc := "()I" } : Jvm.MethodName)) ∈ lw_all := lw_g (lw_at lw_m2 212 rfl) rfl
theorem q553 : (Jvm.Cond.methodLink "PatchCordsLaw" (200 : Nat) ({ cls := "PatchCords", name := "cords", desc := "()I" } : Jvm.MethodName)) ∈ lw_all := lw_g (lw_at lw_m2 213 rfl) rfl
theorem q566 : (Jvm.Cond.methodLink "PatchCordsLaw" (204 : Nat) ({ cls := "PatchCords", name := "mode", desc := "()I" } : Jvm.MethodName)) ∈ lw_all := lw_g (lw_at lw_m2 226 rfl) rfl
theorem q570 : (Jvm.Cond.methodLink "PatchCordsLaw" (208 : Nat) ({ cls := "PatchCords", name := "way", desc := "()I" } : Jvm.MethodName)) ∈ lw_all := lw_g (lw_at lw_m2 230 rfl) rfl
theorem q581 : (Jvm.Cond.methodLink "PatchCordsLaw" (212 : Nat) ({ cls := "PatchCords", name := "isGuarded", desc := "()Z" } : Jvm.MethodName)) ∈ lw_all := lw_g (lw_at lw_m3 1 rfl) rfl
theorem q585 : (Jvm.Cond.methodLink "PatchCordsLaw" (216 : Nat) ({ cls := "PatchCords", name := "steps", desc := "()I" } : Jvm.MethodName)) ∈ lw_all := lw_g (lw_at lw_m3 5 rfl) rfl
theorem q589 : (Jvm.Cond.methodLink "PatchCordsLaw" (235 : Nat) ({ cls := "PatchCords", name := "overloaded", desc := "()I" } : Jvm.MethodName)) ∈ lw_all := lw_g (lw_at lw_m3 9 rfl) rfl
theorem q666 : (Jvm.Cond.methodLink "PatchCordsLaw" (257 : Nat) ({ cls := "PatchCords", name := "inCircles", desc := "()I" } : Jvm.MethodName)) ∈ lw_all := lw_g (lw_at lw_m3 86 rfl) rfl
theorem q689 : (Jvm.Cond.methodLink "PatchCordsLaw" (261 : Nat) ({ cls := "PatchCords", name := "ends", desc := "()I" } : Jvm.MethodName)) ∈ lw_all := lw_g (lw_at lw_m3 109 rfl) rfl
theorem q697 : (Jvm.Cond.methodLink "PatchCordsLaw" (265 : Nat) ({ cls := "PatchCords", name := "recorded", desc := "()I" } : Jvm.MethodName)) ∈ lw_all := lw_g (lw_at lw_m3 117 rfl) rfl
theorem q701 : (Jvm.Cond.methodLink "PatchCordsLaw" (269 : Nat) ({ cls := "PatchCords", name := "records", desc := "()I" } : Jvm.MethodName)) ∈ lw_all := lw_g (lw_at lw_m3 121 rfl) rfl
theorem q705 : (Jvm.Cond.methodLink "PatchCordsLaw" (276 : Nat) ({ cls := "PatchCords", name := "crossings", desc := "()I" } : Jvm.MethodName)) ∈ lw_all := lw_g (lw_at lw_m3 125 rfl) rfl
theorem q709 : (Jvm.Cond.methodLink "PatchCordsLaw" (280 : Nat) ({ cls := "PatchCords", name := "beat", desc := "()I" } : Jvm.MethodName)) ∈ lw_all := lw_g (lw_at lw_m3 129 rfl) rfl
theorem q713 : (Jvm.Cond.methodLink "PatchCordsLaw" (284 : Nat) ({ cls := "PatchCords", name := "meanRecord", desc := "()D" } : Jvm.MethodName)) ∈ lw_all := lw_g (lw_at lw_m3 133 rfl) rfl
theorem q721 : (Jvm.Cond.methodLink "PatchCordsLaw" (295 : Nat) ({ cls := "PatchCords", name := "stepsUntilOverload", desc := "()I" } : Jvm.MethodName)) ∈ lw_all := lw_g (lw_at lw_m3 141 rfl) rfl
theorem q782 : (Jvm.Cond.methodLink "PatchCordsLaw" (313 : Nat) ({ cls := "PatchCords", name := "clearText", desc := "()I" } : Jvm.MethodName)) ∈ lw_all := lw_g (lw_at lw_m3 202 rfl) rfl
theorem q1117 : (Jvm.Cond.methodLink "PatchCordsLaw" (317 : Nat) ({ cls := "PatchCords", name := "firstError", desc := "()I" } : Jvm.MethodName)) ∈ lw_all := lw_g (lw_at lw_m5 57 rfl) rfl
theorem q1219 : (Jvm.Cond.methodLink "PatchCordsLaw" (327 : Nat) ({ cls := "PatchCords", name := "digest", desc := "()J" } : Jvm.MethodName)) ∈ lw_all := lw_g (lw_at lw_m5 159 rfl) rfl
theorem q1326 : (Jvm.Cond.methodLink "PatchCordsLaw" (132 : Nat) ({ cls := "PatchCordsLaw", name := "put", desc := "(LPatchCords;I[J)I" } : Jvm.MethodName)) ∈ lw_all := lw_g (lw_at lw_m6 26 rfl) rfl
theorem q1327 : (Jvm.Cond.static ({ cls := "PatchCordsLaw", name := "put", desc := "(LPatchCords;I[J)I" } : Jvm.MethodName)) ∈ lw_all := lw_g (lw_at lw_m6 27 rfl) rfl
theorem q1328 : (Jvm.Cond.codeWith ({ cls := "PatchCordsLaw", name := "put", desc := "(LPatchCords;I[J)I" } : Jvm.MethodName) method_3_code (4 : Nat) (Option.some Jvm.ClassFile.FieldType.int) [((0 : Nat), (9 : Nat), (12 : Nat), (13 : Nat)), ((0 : Nat), (9 : Nat), (15 : Nat), (15 : Nat))]) ∈ lw_all := lw_g (lw_at lw_m6 28 rfl) rfl
theorem q1329 : (Jvm.Cond.classLink "PatchCordsLaw" (13 : Nat) "java/lang/IllegalArgumentException") ∈ lw_all := lw_g (lw_at lw_m6 29 rfl) rfl
theorem q1330 : (Jvm.Cond.classLink "PatchCordsLaw" (15 : Nat) "java/lang/IllegalStateException") ∈ lw_all := lw_g (lw_at lw_m6 30 rfl) rfl
theorem q1331 : (Jvm.Cond.methodLink "PatchCordsLaw" (7 : Nat) ({ cls := "PatchCords", name := "put", desc := "(I)I" } : Jvm.MethodName)) ∈ lw_all := lw_g (lw_at lw_m6 31 rfl) rfl
theorem q1391 : (Jvm.Cond.methodLink "PatchCordsLaw" (141 : Nat) ({ cls := "PatchCordsLaw", name := "turnWeight", desc := "(LPatchCords;II[J)I" } : Jvm.MethodName)) ∈ lw_all := lw_g (lw_at lw_m6 91 rfl) rfl
theorem q1392 : (Jvm.Cond.static ({ cls := "PatchCordsLaw", name := "turnWeight", desc := "(LPatchCords;II[J)I" } : Jvm.MethodName)) ∈ lw_all := lw_g (lw_at lw_m6 92 rfl) rfl
theorem q1393 : (Jvm.Cond.codeWith ({ cls := "PatchCordsLaw", name := "turnWeight", desc := "(LPatchCords;II[J)I" } : Jvm.MethodName) method_4_code (5 : Nat) (Option.some Jvm.ClassFile.FieldType.int) [((0 : Nat), (10 : Nat), (13 : Nat), (21 : Nat)), ((0 : Nat), (10 : Nat), (17 : Nat), (13 : Nat))]) ∈ lw_all := lw_g (lw_at lw_m6 93 rfl) rfl
theorem q1394 : (Jvm.Cond.classLink "PatchCordsLaw" (21 : Nat) "java/lang/IndexOutOfBoundsException") ∈ lw_all := lw_g (lw_at lw_m6 94 rfl) rfl
theorem q1397 : (Jvm.Cond.methodLink "PatchCordsLaw" (17 : Nat) ({ cls := "PatchCords", name := "turnWeight", desc := "(II)I" } : Jvm.MethodName)) ∈ lw_all := lw_g (lw_at lw_m6 97 rfl) rfl
theorem q1440 : (Jvm.Cond.methodLink "PatchCordsLaw" (145 : Nat) ({ cls := "PatchCordsLaw", name := "setVoltage", desc := "(LPatchCords;II[J)I" } : Jvm.MethodName)) ∈ lw_all := lw_g (lw_at lw_m6 140 rfl) rfl
theorem q1441 : (Jvm.Cond.static ({ cls := "PatchCordsLaw", name := "setVoltage", desc := "(LPatchCords;II[J)I" } : Jvm.MethodName)) ∈ lw_all := lw_g (lw_at lw_m6 141 rfl) rfl
theorem q1442 : (Jvm.Cond.codeWith ({ cls := "PatchCordsLaw", name := "setVoltage", desc := "(LPatchCords;II[J)I" } : Jvm.MethodName) method_5_code (5 : Nat) (Option.some Jvm.ClassFile.FieldType.int) [((0 : Nat), (10 : Nat), (13 : Nat), (21 : Nat)), ((0 : Nat), (10 : Nat), (17 : Nat), (13 : Nat))]) ∈ lw_all := lw_g (lw_at lw_m6 142 rfl) rfl
theorem q1443 : (Jvm.Cond.methodLink "PatchCordsLaw" (23 : Nat) ({ cls := "PatchCords", name := "setVoltage", desc := "(II)I" } : Jvm.MethodName)) ∈ lw_all := lw_g (lw_at lw_m6 143 rfl) rfl
theorem q1459 : (Jvm.Cond.methodLink "PatchCordsLaw" (148 : Nat) ({ cls := "PatchCordsLaw", name := "setFactor", desc := "(LPatchCords;II[J)I" } : Jvm.MethodName)) ∈ lw_all := lw_g (lw_at lw_m6 159 rfl) rfl
theorem q1460 : (Jvm.Cond.static ({ cls := "PatchCordsLaw", name := "setFactor", desc := "(LPatchCords;II[J)I" } : Jvm.MethodName)) ∈ lw_all := lw_g (lw_at lw_m6 160 rfl) rfl
theorem q1461 : (Jvm.Cond.codeWith ({ cls := "PatchCordsLaw", name := "setFactor", desc := "(LPatchCords;II[J)I" } : Jvm.MethodName) method_6_code (5 : Nat) (Option.some Jvm.ClassFile.FieldType.int) [((0 : Nat), (10 : Nat), (13 : Nat), (21 : Nat)), ((0 : Nat), (10 : Nat), (17 : Nat), (13 : Nat))]) ∈ lw_all := lw_g (lw_at lw_m6 161 rfl) rfl
theorem q1462 : (Jvm.Cond.methodLink "PatchCordsLaw" (26 : Nat) ({ cls := "PatchCords", name := "setFactor", desc := "(II)I" } : Jvm.MethodName)) ∈ lw_all := lw_g (lw_at lw_m6 162 rfl) rfl
theorem q1470 : (Jvm.Cond.methodLink "PatchCordsLaw" (151 : Nat) ({ cls := "PatchCordsLaw", name := "setSpeed", desc := "(LPatchCords;II[J)I" } : Jvm.MethodName)) ∈ lw_all := lw_g (lw_at lw_m6 170 rfl) rfl
theorem q1471 : (Jvm.Cond.static ({ cls := "PatchCordsLaw", name := "setSpeed", desc := "(LPatchCords;II[J)I" } : Jvm.MethodName)) ∈ lw_all := lw_g (lw_at lw_m6 171 rfl) rfl
theorem q1472 : (Jvm.Cond.codeWith ({ cls := "PatchCordsLaw", name := "setSpeed", desc := "(LPatchCords;II[J)I" } : Jvm.MethodName) method_7_code (5 : Nat) (Option.some Jvm.ClassFile.FieldType.int) [((0 : Nat), (10 : Nat), (13 : Nat), (21 : Nat)), ((0 : Nat), (10 : Nat), (17 : Nat), (13 : Nat))]) ∈ lw_all := lw_g (lw_at lw_m6 172 rfl) rfl
theorem q1473 : (Jvm.Cond.methodLink "PatchCordsLaw" (29 : Nat) ({ cls := "PatchCords", name := "setSpeed", desc := "(II)I" } : Jvm.MethodName)) ∈ lw_all := lw_g (lw_at lw_m6 173 rfl) rfl
theorem q1481 : (Jvm.Cond.methodLink "PatchCordsLaw" (154 : Nat) ({ cls := "PatchCordsLaw", name := "join", desc := "(LPatchCords;III[J)I" } : Jvm.MethodName)) ∈ lw_all := lw_g (lw_at lw_m6 181 rfl) rfl
theorem q1482 : (Jvm.Cond.static ({ cls := "PatchCordsLaw", name := "join", desc := "(LPatchCords;III[J)I" } : Jvm.MethodName)) ∈ lw_all := lw_g (lw_at lw_m6 182 rfl) rfl
theorem q1483 : (Jvm.Cond.codeWith ({ cls := "PatchCordsLaw", name := "join", desc := "(LPatchCords;III[J)I" } : Jvm.MethodName) method_8_code (6 : Nat) (Option.some Jvm.ClassFile.FieldType.int) [((0 : Nat), (12 : Nat), (15 : Nat), (21 : Nat)), ((0 : Nat), (12 : Nat), (19 : Nat), (15 : Nat))]) ∈ lw_all := lw_g (lw_at lw_m6 183 rfl) rfl
theorem q1484 : (Jvm.Cond.methodLink "PatchCordsLaw" (32 : Nat) ({ cls := "PatchCords", name := "join", desc := "(III)I" } : Jvm.MethodName)) ∈ lw_all := lw_g (lw_at lw_m6 184 rfl) rfl
theorem q1500 : (Jvm.Cond.methodLink "PatchCordsLaw" (158 : Nat) ({ cls := "PatchCordsLaw", name := "takeOut", desc := "(LPatchCords;II[J)I" } : Jvm.MethodName)) ∈ lw_all := lw_g (lw_at lw_m6 200 rfl) rfl
theorem q1501 : (Jvm.Cond.static ({ cls := "PatchCordsLaw", name := "takeOut", desc := "(LPatchCords;II[J)I" } : Jvm.MethodName)) ∈ lw_all := lw_g (lw_at lw_m6 201 rfl) rfl
theorem q1502 : (Jvm.Cond.codeWith ({ cls := "PatchCordsLaw", name := "takeOut", desc := "(LPatchCords;II[J)I" } : Jvm.MethodName) method_9_code (5 : Nat) (Option.some Jvm.ClassFile.FieldType.int) [((0 : Nat), (10 : Nat), (13 : Nat), (21 : Nat)), ((0 : Nat), (10 : Nat), (17 : Nat), (15 : Nat))]) ∈ lw_all := lw_g (lw_at lw_m6 202 rfl) rfl
theorem q1503 : (Jvm.Cond.methodLink "PatchCordsLaw" (36 : Nat) ({ cls := "PatchCords", name := "takeOut", desc := "(II)I" } : Jvm.MethodName)) ∈ lw_all := lw_g (lw_at lw_m6 203 rfl) rfl
theorem q1511 : (Jvm.Cond.methodLink "PatchCordsLaw" (161 : Nat) ({ cls := "PatchCordsLaw", name := "setMode", desc := "(LPatchCords;I[J)I" } : Jvm.MethodName)) ∈ lw_all := lw_g (lw_at lw_m6 211 rfl) rfl
theorem q1512 : (Jvm.Cond.static ({ cls := "PatchCordsLaw", name := "setMode", desc := "(LPatchCords;I[J)I" } : Jvm.MethodName)) ∈ lw_all := lw_g (lw_at lw_m6 212 rfl) rfl
theorem q1513 : (Jvm.Cond.codeWith ({ cls := "PatchCordsLaw", name := "setMode", desc := "(LPatchCords;I[J)I" } : Jvm.MethodName) method_10_code (4 : Nat) (Option.some Jvm.ClassFile.FieldType.int) [((0 : Nat), (9 : Nat), (12 : Nat), (13 : Nat))]) ∈ lw_all := lw_g (lw_at lw_m6 213 rfl) rfl
theorem q1514 : (Jvm.Cond.methodLink "PatchCordsLaw" (39 : Nat) ({ cls := "PatchCords", name := "setMode", desc := "(I)I" } : Jvm.MethodName)) ∈ lw_all := lw_g (lw_at lw_m6 214 rfl) rfl
theorem q1522 : (Jvm.Cond.methodLink "PatchCordsLaw" (164 : Nat) ({ cls := "PatchCordsLaw", name := "setWay", desc := "(LPatchCords;I[J)I" } : Jvm.MethodName)) ∈ lw_all := lw_g (lw_at lw_m6 222 rfl) rfl
theorem q1523 : (Jvm.Cond.static ({ cls := "PatchCordsLaw", name := "setWay", desc := "(LPatchCords;I[J)I" } : Jvm.MethodName)) ∈ lw_all := lw_g (lw_at lw_m6 223 rfl) rfl
theorem q1524 : (Jvm.Cond.codeWith ({ cls := "PatchCordsLaw", name := "setWay", desc := "(LPatchCords;I[J)I" } : Jvm.MethodName) method_11_code (4 : Nat) (Option.some Jvm.ClassFile.FieldType.int) [((0 : Nat), (9 : Nat), (12 : Nat), (13 : Nat))]) ∈ lw_all := lw_g (lw_at lw_m6 224 rfl) rfl
theorem q1525 : (Jvm.Cond.methodLink "PatchCordsLaw" (42 : Nat) ({ cls := "PatchCords", name := "setWay", desc := "(I)I" } : Jvm.MethodName)) ∈ lw_all := lw_g (lw_at lw_m6 225 rfl) rfl
theorem q1540 : (Jvm.Cond.methodLink "PatchCordsLaw" (172 : Nat) ({ cls := "PatchCordsLaw", name := "record", desc := "(LPatchCords;I[J)I" } : Jvm.MethodName)) ∈ lw_all := lw_g (lw_at lw_m7 0 rfl) rfl
theorem q1541 : (Jvm.Cond.static ({ cls := "PatchCordsLaw", name := "record", desc := "(LPatchCords;I[J)I" } : Jvm.MethodName)) ∈ lw_all := lw_g (lw_at lw_m7 1 rfl) rfl
theorem q1542 : (Jvm.Cond.codeWith ({ cls := "PatchCordsLaw", name := "record", desc := "(LPatchCords;I[J)I" } : Jvm.MethodName) method_12_code (4 : Nat) (Option.some Jvm.ClassFile.FieldType.int) [((0 : Nat), (9 : Nat), (12 : Nat), (21 : Nat))]) ∈ lw_all := lw_g (lw_at lw_m7 2 rfl) rfl
theorem q1543 : (Jvm.Cond.methodLink "PatchCordsLaw" (45 : Nat) ({ cls := "PatchCords", name := "record", desc := "(I)I" } : Jvm.MethodName)) ∈ lw_all := lw_g (lw_at lw_m7 3 rfl) rfl
theorem q1551 : (Jvm.Cond.methodLink "PatchCordsLaw" (175 : Nat) ({ cls := "PatchCordsLaw", name := "pass", desc := "(LPatchCords;I[J)I" } : Jvm.MethodName)) ∈ lw_all := lw_g (lw_at lw_m7 11 rfl) rfl
theorem q1552 : (Jvm.Cond.static ({ cls := "PatchCordsLaw", name := "pass", desc := "(LPatchCords;I[J)I" } : Jvm.MethodName)) ∈ lw_all := lw_g (lw_at lw_m7 12 rfl) rfl
theorem q1553 : (Jvm.Cond.codeWith ({ cls := "PatchCordsLaw", name := "pass", desc := "(LPatchCords;I[J)I" } : Jvm.MethodName) method_13_code (4 : Nat) (Option.some Jvm.ClassFile.FieldType.int) [((0 : Nat), (9 : Nat), (12 : Nat), (13 : Nat)), ((0 : Nat), (9 : Nat), (15 : Nat), (15 : Nat))]) ∈ lw_all := lw_g (lw_at lw_m7 13 rfl) rfl
theorem q1554 : (Jvm.Cond.methodLink "PatchCordsLaw" (48 : Nat) ({ cls := "PatchCords", name := "pass", desc := "(I)I" } : Jvm.MethodName)) ∈ lw_all := lw_g (lw_at lw_m7 14 rfl) rfl
theorem q1563 : (Jvm.Cond.methodLink "PatchCordsLaw" (182 : Nat) ({ cls := "PatchCordsLaw", name := "kindOf", desc := "(LPatchCords;I[J)I" } : Jvm.MethodName)) ∈ lw_all := lw_g (lw_at lw_m7 23 rfl) rfl
theorem q1564 : (Jvm.Cond.static ({ cls := "PatchCordsLaw", name := "kindOf", desc := "(LPatchCords;I[J)I" } : Jvm.MethodName)) ∈ lw_all := lw_g (lw_at lw_m7 24 rfl) rfl
theorem q1565 : (Jvm.Cond.codeWith ({ cls := "PatchCordsLaw", name := "kindOf", desc := "(LPatchCords;I[J)I" } : Jvm.MethodName) method_14_code (4 : Nat) (Option.some Jvm.ClassFile.FieldType.int) [((0 : Nat), (9 : Nat), (12 : Nat), (21 : Nat))]) ∈ lw_all := lw_g (lw_at lw_m7 25 rfl) rfl
theorem q1566 : (Jvm.Cond.methodLink "PatchCordsLaw" (51 : Nat) ({ cls := "PatchCords", name := "kindOf", desc := "(I)I" } : Jvm.MethodName)) ∈ lw_all := lw_g (lw_at lw_m7 26 rfl) rfl
theorem q1570 : (Jvm.Cond.methodLink "PatchCordsLaw" (185 : Nat) ({ cls := "PatchCordsLaw", name := "inputsOf", desc := "(LPatchCords;I[J)I" } : Jvm.MethodName)) ∈ lw_all := lw_g (lw_at lw_m7 30 rfl) rfl
theorem q1571 : (Jvm.Cond.static ({ cls := "PatchCordsLaw", name := "inputsOf", desc := "(LPatchCords;I[J)I" } : Jvm.MethodName)) ∈ lw_all := lw_g (lw_at lw_m7 31 rfl) rfl
theorem q1572 : (Jvm.Cond.codeWith ({ cls := "PatchCordsLaw", name := "inputsOf", desc := "(LPatchCords;I[J)I" } : Jvm.MethodName) method_15_code (4 : Nat) (Option.some Jvm.ClassFile.FieldType.int) [((0 : Nat), (9 : Nat), (12 : Nat), (21 : Nat))]) ∈ lw_all := lw_g (lw_at lw_m7 32 rfl) rfl
theorem q1573 : (Jvm.Cond.methodLink "PatchCordsLaw" (54 : Nat) ({ cls := "PatchCords", name := "inputsOf", desc := "(I)I" } : Jvm.MethodName)) ∈ lw_all := lw_g (lw_at lw_m7 33 rfl) rfl
theorem q1577 : (Jvm.Cond.methodLink "PatchCordsLaw" (188 : Nat) ({ cls := "PatchCordsLaw", name := "cordIn", desc := "(LPatchCords;II[J)I" } : Jvm.MethodName)) ∈ lw_all := lw_g (lw_at lw_m7 37 rfl) rfl
theorem q1578 : (Jvm.Cond.static ({ cls := "PatchCordsLaw", name := "cordIn", desc := "(LPatchCords;II[J)I" } : Jvm.MethodName)) ∈ lw_all := lw_g (lw_at lw_m7 38 rfl) rfl
theorem q1579 : (Jvm.Cond.codeWith ({ cls := "PatchCordsLaw", name := "cordIn", desc := "(LPatchCords;II[J)I" } : Jvm.MethodName) method_16_code (5 : Nat) (Option.some Jvm.ClassFile.FieldType.int) [((0 : Nat), (10 : Nat), (13 : Nat), (21 : Nat))]) ∈ lw_all := lw_g (lw_at lw_m7 39 rfl) rfl
theorem q1580 : (Jvm.Cond.methodLink "PatchCordsLaw" (57 : Nat) ({ cls := "PatchCords", name := "cordIn", desc := "(II)I" } : Jvm.MethodName)) ∈ lw_all := lw_g (lw_at lw_m7 40 rfl) rfl
theorem q1584 : (Jvm.Cond.methodLink "PatchCordsLaw" (191 : Nat) ({ cls := "PatchCordsLaw", name := "weightOf", desc := "(LPatchCords;II[J)I" } : Jvm.MethodName)) ∈ lw_all := lw_g (lw_at lw_m7 44 rfl) rfl
theorem q1585 : (Jvm.Cond.static ({ cls := "PatchCordsLaw", name := "weightOf", desc := "(LPatchCords;II[J)I" } : Jvm.MethodName)) ∈ lw_all := lw_g (lw_at lw_m7 45 rfl) rfl
theorem q1586 : (Jvm.Cond.codeWith ({ cls := "PatchCordsLaw", name := "weightOf", desc := "(LPatchCords;II[J)I" } : Jvm.MethodName) method_17_code (5 : Nat) (Option.some Jvm.ClassFile.FieldType.int) [((0 : Nat), (10 : Nat), (13 : Nat), (21 : Nat)), ((0 : Nat), (10 : Nat), (17 : Nat), (13 : Nat))]) ∈ lw_all := lw_g (lw_at lw_m7 46 rfl) rfl
theorem q1587 : (Jvm.Cond.methodLink "PatchCordsLaw" (60 : Nat) ({ cls := "PatchCords", name := "weightOf", desc := "(II)I" } : Jvm.MethodName)) ∈ lw_all := lw_g (lw_at lw_m7 47 rfl) rfl
theorem q1591 : (Jvm.Cond.methodLink "PatchCordsLaw" (194 : Nat) ({ cls := "PatchCordsLaw", name := "settingOf", desc := "(LPatchCords;I[J)I" } : Jvm.MethodName)) ∈ lw_all := lw_g (lw_at lw_m7 51 rfl) rfl
theorem q1592 : (Jvm.Cond.static ({ cls := "PatchCordsLaw", name := "settingOf", desc := "(LPatchCords;I[J)I" } : Jvm.MethodName)) ∈ lw_all := lw_g (lw_at lw_m7 52 rfl) rfl
theorem q1593 : (Jvm.Cond.codeWith ({ cls := "PatchCordsLaw", name := "settingOf", desc := "(LPatchCords;I[J)I" } : Jvm.MethodName) method_18_code (4 : Nat) (Option.some Jvm.ClassFile.FieldType.int) [((0 : Nat), (9 : Nat), (12 : Nat), (21 : Nat))]) ∈ lw_all := lw_g (lw_at lw_m7 53 rfl) rfl
theorem q1594 : (Jvm.Cond.methodLink "PatchCordsLaw" (63 : Nat) ({ cls := "PatchCords", name := "settingOf", desc := "(I)I" } : Jvm.MethodName)) ∈ lw_all := lw_g (lw_at lw_m7 54 rfl) rfl
theorem q1598 : (Jvm.Cond.methodLink "PatchCordsLaw" (197 : Nat) ({ cls := "PatchCordsLaw", name := "speedOf", desc := "(LPatchCords;I[J)I" } : Jvm.MethodName)) ∈ lw_all := lw_g (lw_at lw_m7 58 rfl) rfl
theorem q1599 : (Jvm.Cond.static ({ cls := "PatchCordsLaw", name := "speedOf", desc := "(LPatchCords;I[J)I" } : Jvm.MethodName)) ∈ lw_all := lw_g (lw_at lw_m7 59 rfl) rfl
theorem q1600 : (Jvm.Cond.codeWith ({ cls := "PatchCordsLaw", name := "speedOf", desc := "(LPatchCords;I[J)I" } : Jvm.MethodName) method_19_code (4 : Nat) (Option.some Jvm.ClassFile.FieldType.int) [((0 : Nat), (9 : Nat), (12 : Nat), (21 : Nat)), ((0 : Nat), (9 : Nat), (15 : Nat), (13 : Nat))]) ∈ lw_all := lw_g (lw_at lw_m7 60 rfl) rfl
theorem q1601 : (Jvm.Cond.methodLink "PatchCordsLaw" (66 : Nat) ({ cls := "PatchCords", name := "speedOf", desc := "(I)I" } : Jvm.MethodName)) ∈ lw_all := lw_g (lw_at lw_m7 61 rfl) rfl
theorem q1605 : (Jvm.Cond.methodLink "PatchCordsLaw" (220 : Nat) ({ cls := "PatchCordsLaw", name := "outputOf", desc := "(LPatchCords;I[J)I" } : Jvm.MethodName)) ∈ lw_all := lw_g (lw_at lw_m7 65 rfl) rfl
theorem q1606 : (Jvm.Cond.static ({ cls := "PatchCordsLaw", name := "outputOf", desc := "(LPatchCords;I[J)I" } : Jvm.MethodName)) ∈ lw_all := lw_g (lw_at lw_m7 66 rfl) rfl
theorem q1607 : (Jvm.Cond.codeWith ({ cls := "PatchCordsLaw", name := "outputOf", desc := "(LPatchCords;I[J)I" } : Jvm.MethodName) method_20_code (4 : Nat) (Option.some Jvm.ClassFile.FieldType.int) [((0 : Nat), (9 : Nat), (12 : Nat), (21 : Nat))]) ∈ lw_all := lw_g (lw_at lw_m7 67 rfl) rfl
theorem q1608 : (Jvm.Cond.methodLink "PatchCordsLaw" (69 : Nat) ({ cls := "PatchCords", name := "outputOf", desc := "(I)I" } : Jvm.MethodName)) ∈ lw_all := lw_g (lw_at lw_m7 68 rfl) rfl
theorem q1616 : (Jvm.Cond.methodLink "PatchCordsLaw" (223 : Nat) ({ cls := "PatchCordsLaw", name := "outputByAsking", desc := "(LPatchCords;I[J)I" } : Jvm.MethodName)) ∈ lw_all := lw_g (lw_at lw_m7 76 rfl) rfl
theorem q1617 : (Jvm.Cond.static ({ cls := "PatchCordsLaw", name := "outputByAsking", desc := "(LPatchCords;I[J)I" } : Jvm.MethodName)) ∈ lw_all := lw_g (lw_at lw_m7 77 rfl) rfl
theorem q1618 : (Jvm.Cond.codeWith ({ cls := "PatchCordsLaw", name := "outputByAsking", desc := "(LPatchCords;I[J)I" } : Jvm.MethodName) method_21_code (4 : Nat) (Option.some Jvm.ClassFile.FieldType.int) [((0 : Nat), (9 : Nat), (12 : Nat), (21 : Nat))]) ∈ lw_all := lw_g (lw_at lw_m7 78 rfl) rfl
theorem q1619 : (Jvm.Cond.methodLink "PatchCordsLaw" (72 : Nat) ({ cls := "PatchCords", name := "outputByAsking", desc := "(I)I" } : Jvm.MethodName)) ∈ lw_all := lw_g (lw_at lw_m7 79 rfl) rfl
theorem q1632 : (Jvm.Cond.methodLink "PatchCordsLaw" (226 : Nat) ({ cls := "PatchCordsLaw", name := "inputOf", desc := "(LPatchCords;II[J)I" } : Jvm.MethodName)) ∈ lw_all := lw_g (lw_at lw_m7 92 rfl) rfl
theorem q1633 : (Jvm.Cond.static ({ cls := "PatchCordsLaw", name := "inputOf", desc := "(LPatchCords;II[J)I" } : Jvm.MethodName)) ∈ lw_all := lw_g (lw_at lw_m7 93 rfl) rfl
theorem q1634 : (Jvm.Cond.codeWith ({ cls := "PatchCordsLaw", name := "inputOf", desc := "(LPatchCords;II[J)I" } : Jvm.MethodName) method_22_code (5 : Nat) (Option.some Jvm.ClassFile.FieldType.int) [((0 : Nat), (10 : Nat), (13 : Nat), (21 : Nat))]) ∈ lw_all := lw_g (lw_at lw_m7 94 rfl) rfl
theorem q1635 : (Jvm.Cond.methodLink "PatchCordsLaw" (75 : Nat) ({ cls := "PatchCords", name := "inputOf", desc := "(II)I" } : Jvm.MethodName)) ∈ lw_all := lw_g (lw_at lw_m7 95 rfl) rfl
theorem q1643 : (Jvm.Cond.methodLink "PatchCordsLaw" (229 : Nat) ({ cls := "PatchCordsLaw", name := "chargeOf", desc := "(LPatchCords;I[J)I" } : Jvm.MethodName)) ∈ lw_all := lw_g (lw_at lw_m7 103 rfl) rfl
theorem q1644 : (Jvm.Cond.static ({ cls := "PatchCordsLaw", name := "chargeOf", desc := "(LPatchCords;I[J)I" } : Jvm.MethodName)) ∈ lw_all := lw_g (lw_at lw_m7 104 rfl) rfl
theorem q1645 : (Jvm.Cond.codeWith ({ cls := "PatchCordsLaw", name := "chargeOf", desc := "(LPatchCords;I[J)I" } : Jvm.MethodName) method_23_code (4 : Nat) (Option.some Jvm.ClassFile.FieldType.int) [((0 : Nat), (9 : Nat), (12 : Nat), (21 : Nat)), ((0 : Nat), (9 : Nat), (15 : Nat), (13 : Nat))]) ∈ lw_all := lw_g (lw_at lw_m7 105 rfl) rfl
theorem q1646 : (Jvm.Cond.methodLink "PatchCordsLaw" (78 : Nat) ({ cls := "PatchCords", name := "chargeOf", desc := "(I)I" } : Jvm.MethodName)) ∈ lw_all := lw_g (lw_at lw_m7 106 rfl) rfl
theorem q1650 : (Jvm.Cond.methodLink "PatchCordsLaw" (232 : Nat) ({ cls := "PatchCordsLaw", name := "rateOf", desc := "(LPatchCords;I[J)I" } : Jvm.MethodName)) ∈ lw_all := lw_g (lw_at lw_m7 110 rfl) rfl
theorem q1651 : (Jvm.Cond.static ({ cls := "PatchCordsLaw", name := "rateOf", desc := "(LPatchCords;I[J)I" } : Jvm.MethodName)) ∈ lw_all := lw_g (lw_at lw_m7 111 rfl) rfl
theorem q1652 : (Jvm.Cond.codeWith ({ cls := "PatchCordsLaw", name := "rateOf", desc := "(LPatchCords;I[J)I" } : Jvm.MethodName) method_24_code (4 : Nat) (Option.some Jvm.ClassFile.FieldType.int) [((0 : Nat), (9 : Nat), (12 : Nat), (21 : Nat)), ((0 : Nat), (9 : Nat), (15 : Nat), (13 : Nat))]) ∈ lw_all := lw_g (lw_at lw_m7 112 rfl) rfl
theorem q1653 : (Jvm.Cond.methodLink "PatchCordsLaw" (81 : Nat) ({ cls := "PatchCords", name := "rateOf", desc := "(I)I" } : Jvm.MethodName)) ∈ lw_all := lw_g (lw_at lw_m7 113 rfl) rfl
theorem q1657 : (Jvm.Cond.methodLink "PatchCordsLaw" (239 : Nat) ({ cls := "PatchCordsLaw", name := "peakOf", desc := "(LPatchCords;I[J)I" } : Jvm.MethodName)) ∈ lw_all := lw_g (lw_at lw_m7 117 rfl) rfl
theorem q1658 : (Jvm.Cond.static ({ cls := "PatchCordsLaw", name := "peakOf", desc := "(LPatchCords;I[J)I" } : Jvm.MethodName)) ∈ lw_all := lw_g (lw_at lw_m7 118 rfl) rfl
theorem q1659 : (Jvm.Cond.codeWith ({ cls := "PatchCordsLaw", name := "peakOf", desc := "(LPatchCords;I[J)I" } : Jvm.MethodName) method_25_code (4 : Nat) (Option.some Jvm.ClassFile.FieldType.int) [((0 : Nat), (9 : Nat), (12 : Nat), (21 : Nat))]) ∈ lw_all := lw_g (lw_at lw_m7 119 rfl) rfl
theorem q1660 : (Jvm.Cond.methodLink "PatchCordsLaw" (84 : Nat) ({ cls := "PatchCords", name := "peakOf", desc := "(I)I" } : Jvm.MethodName)) ∈ lw_all := lw_g (lw_at lw_m7 120 rfl) rfl
theorem q1664 : (Jvm.Cond.methodLink "PatchCordsLaw" (242 : Nat) ({ cls := "PatchCordsLaw", name := "scaleOf", desc := "(LPatchCords;I[J)I" } : Jvm.MethodName)) ∈ lw_all := lw_g (lw_at lw_m7 124 rfl) rfl
theorem q1665 : (Jvm.Cond.static ({ cls := "PatchCordsLaw", name := "scaleOf", desc := "(LPatchCords;I[J)I" } : Jvm.MethodName)) ∈ lw_all := lw_g (lw_at lw_m7 125 rfl) rfl
theorem q1666 : (Jvm.Cond.codeWith ({ cls := "PatchCordsLaw", name := "scaleOf", desc := "(LPatchCords;I[J)I" } : Jvm.MethodName) method_26_code (4 : Nat) (Option.some Jvm.ClassFile.FieldType.int) [((0 : Nat), (9 : Nat), (12 : Nat), (21 : Nat))]) ∈ lw_all := lw_g (lw_at lw_m7 126 rfl) rfl
theorem q1667 : (Jvm.Cond.methodLink "PatchCordsLaw" (87 : Nat) ({ cls := "PatchCords", name := "scaleOf", desc := "(I)I" } : Jvm.MethodName)) ∈ lw_all := lw_g (lw_at lw_m7 127 rfl) rfl
theorem q1671 : (Jvm.Cond.methodLink "PatchCordsLaw" (245 : Nat) ({ cls := "PatchCordsLaw", name := "levelOf", desc := "(LPatchCords;I[J)I" } : Jvm.MethodName)) ∈ lw_all := lw_g (lw_at lw_m7 131 rfl) rfl
theorem q1672 : (Jvm.Cond.static ({ cls := "PatchCordsLaw", name := "levelOf", desc := "(LPatchCords;I[J)I" } : Jvm.MethodName)) ∈ lw_all := lw_g (lw_at lw_m7 132 rfl) rfl
theorem q1673 : (Jvm.Cond.codeWith ({ cls := "PatchCordsLaw", name := "levelOf", desc := "(LPatchCords;I[J)I" } : Jvm.MethodName) method_27_code (4 : Nat) (Option.some Jvm.ClassFile.FieldType.int) [((0 : Nat), (9 : Nat), (12 : Nat), (21 : Nat))]) ∈ lw_all := lw_g (lw_at lw_m7 133 rfl) rfl
theorem q1674 : (Jvm.Cond.methodLink "PatchCordsLaw" (90 : Nat) ({ cls := "PatchCords", name := "levelOf", desc := "(I)I" } : Jvm.MethodName)) ∈ lw_all := lw_g (lw_at lw_m7 134 rfl) rfl
theorem q1678 : (Jvm.Cond.methodLink "PatchCordsLaw" (248 : Nat) ({ cls := "PatchCordsLaw", name := "feeders", desc := "(LPatchCords;I[J)I" } : Jvm.MethodName)) ∈ lw_all := lw_g (lw_at lw_m7 138 rfl) rfl
theorem q1679 : (Jvm.Cond.static ({ cls := "PatchCordsLaw", name := "feeders", desc := "(LPatchCords;I[J)I" } : Jvm.MethodName)) ∈ lw_all := lw_g (lw_at lw_m7 139 rfl) rfl
theorem q1680 : (Jvm.Cond.codeWith ({ cls := "PatchCordsLaw", name := "feeders", desc := "(LPatchCords;I[J)I" } : Jvm.MethodName) method_28_code (4 : Nat) (Option.some Jvm.ClassFile.FieldType.int) [((0 : Nat), (9 : Nat), (12 : Nat), (21 : Nat))]) ∈ lw_all := lw_g (lw_at lw_m7 140 rfl) rfl
theorem q1681 : (Jvm.Cond.methodLink "PatchCordsLaw" (93 : Nat) ({ cls := "PatchCords", name := "feeders", desc := "(I)I" } : Jvm.MethodName)) ∈ lw_all := lw_g (lw_at lw_m7 141 rfl) rfl
theorem q1686 : (Jvm.Cond.methodLink "PatchCordsLaw" (251 : Nat) ({ cls := "PatchCordsLaw", name := "dependsOn", desc := "(LPatchCords;I[J)I" } : Jvm.MethodName)) ∈ lw_all := lw_g (lw_at lw_m7 146 rfl) rfl
theorem q1687 : (Jvm.Cond.static ({ cls := "PatchCordsLaw", name := "dependsOn", desc := "(LPatchCords;I[J)I" } : Jvm.MethodName)) ∈ lw_all := lw_g (lw_at lw_m7 147 rfl) rfl
theorem q1688 : (Jvm.Cond.codeWith ({ cls := "PatchCordsLaw", name := "dependsOn", desc := "(LPatchCords;I[J)I" } : Jvm.MethodName) method_29_code (4 : Nat) (Option.some Jvm.ClassFile.FieldType.int) [((0 : Nat), (9 : Nat), (12 : Nat), (21 : Nat))]) ∈ lw_all := lw_g (lw_at lw_m7 148 rfl) rfl
theorem q1689 : (Jvm.Cond.methodLink "PatchCordsLaw" (96 : Nat) ({ cls := "PatchCords", name := "dependsOn", desc := "(I)I" } : Jvm.MethodName)) ∈ lw_all := lw_g (lw_at lw_m7 149 rfl) rfl
theorem q1693 : (Jvm.Cond.methodLink "PatchCordsLaw" (254 : Nat) ({ cls := "PatchCordsLaw", name := "dependsByTable", desc := "(LPatchCords;I[J)I" } : Jvm.MethodName)) ∈ lw_all := lw_g (lw_at lw_m7 153 rfl) rfl
theorem q1694 : (Jvm.Cond.static ({ cls := "PatchCordsLaw", name := "dependsByTable", desc := "(LPatchCords;I[J)I" } : Jvm.MethodName)) ∈ lw_all := lw_g (lw_at lw_m7 154 rfl) rfl
theorem q1695 : (Jvm.Cond.codeWith ({ cls := "PatchCordsLaw", name := "dependsByTable", desc := "(LPatchCords;I[J)I" } : Jvm.MethodName) method_30_code (4 : Nat) (Option.some Jvm.ClassFile.FieldType.int) [((0 : Nat), (9 : Nat), (12 : Nat), (21 : Nat))]) ∈ lw_all := lw_g (lw_at lw_m7 155 rfl) rfl
theorem q1696 : (Jvm.Cond.methodLink "PatchCordsLaw" (99 : Nat) ({ cls := "PatchCords", name := "dependsByTable", desc := "(I)I" } : Jvm.MethodName)) ∈ lw_all := lw_g (lw_at lw_m7 156 rfl) rfl
theorem q1704 : (Jvm.Cond.methodLink "PatchCordsLaw" (273 : Nat) ({ cls := "PatchCordsLaw", name := "recordAt", desc := "(LPatchCords;I[J)I" } : Jvm.MethodName)) ∈ lw_all := lw_g (lw_at lw_m7 164 rfl) rfl
theorem q1705 : (Jvm.Cond.static ({ cls := "PatchCordsLaw", name := "recordAt", desc := "(LPatchCords;I[J)I" } : Jvm.MethodName)) ∈ lw_all := lw_g (lw_at lw_m7 165 rfl) rfl
theorem q1706 : (Jvm.Cond.codeWith ({ cls := "PatchCordsLaw", name := "recordAt", desc := "(LPatchCords;I[J)I" } : Jvm.MethodName) method_31_code (4 : Nat) (Option.some Jvm.ClassFile.FieldType.int) [((0 : Nat), (9 : Nat), (12 : Nat), (21 : Nat))]) ∈ lw_all := lw_g (lw_at lw_m7 166 rfl) rfl
theorem q1707 : (Jvm.Cond.methodLink "PatchCordsLaw" (102 : Nat) ({ cls := "PatchCords", name := "recordAt", desc := "(I)I" } : Jvm.MethodName)) ∈ lw_all := lw_g (lw_at lw_m7 167 rfl) rfl
theorem q1711 : (Jvm.Cond.methodLink "PatchCordsLaw" (289 : Nat) ({ cls := "PatchCordsLaw", name := "wouldCircle", desc := "(LPatchCords;II[J)I" } : Jvm.MethodName)) ∈ lw_all := lw_g (lw_at lw_m7 171 rfl) rfl
theorem q1712 : (Jvm.Cond.static ({ cls := "PatchCordsLaw", name := "wouldCircle", desc := "(LPatchCords;II[J)I" } : Jvm.MethodName)) ∈ lw_all := lw_g (lw_at lw_m7 172 rfl) rfl
theorem q1713 : (Jvm.Cond.codeWith ({ cls := "PatchCordsLaw", name := "wouldCircle", desc := "(LPatchCords;II[J)I" } : Jvm.MethodName) method_32_code (5 : Nat) (Option.some Jvm.ClassFile.FieldType.int) [((0 : Nat), (17 : Nat), (20 : Nat), (21 : Nat))]) ∈ lw_all := lw_g (lw_at lw_m7 173 rfl) rfl
theorem q1714 : (Jvm.Cond.methodLink "PatchCordsLaw" (105 : Nat) ({ cls := "PatchCords", name := "wouldCircle", desc := "(II)Z" } : Jvm.MethodName)) ∈ lw_all := lw_g (lw_at lw_m7 174 rfl) rfl
theorem q1718 : (Jvm.Cond.methodLink "PatchCordsLaw" (292 : Nat) ({ cls := "PatchCordsLaw", name := "outputIn", desc := "(LPatchCords;II[J)I" } : Jvm.MethodName)) ∈ lw_all := lw_g (lw_at lw_m7 178 rfl) rfl
theorem q1719 : (Jvm.Cond.static ({ cls := "PatchCordsLaw", name := "outputIn", desc := "(LPatchCords;II[J)I" } : Jvm.MethodName)) ∈ lw_all := lw_g (lw_at lw_m7 179 rfl) rfl
theorem q1720 : (Jvm.Cond.codeWith ({ cls := "PatchCordsLaw", name := "outputIn", desc := "(LPatchCords;II[J)I" } : Jvm.MethodName) method_33_code (5 : Nat) (Option.some Jvm.ClassFile.FieldType.int) [((0 : Nat), (10 : Nat), (13 : Nat), (21 : Nat)), ((0 : Nat), (10 : Nat), (17 : Nat), (13 : Nat))]) ∈ lw_all := lw_g (lw_at lw_m7 180 rfl) rfl
theorem q1721 : (Jvm.Cond.methodLink "PatchCordsLaw" (109 : Nat) ({ cls := "PatchCords", name := "outputIn", desc := "(II)I" } : Jvm.MethodName)) ∈ lw_all := lw_g (lw_at lw_m7 181 rfl) rfl
theorem q1725 : (Jvm.Cond.methodLink "PatchCordsLaw" (299 : Nat) ({ cls := "PatchCordsLaw", name := "bestFactor", desc := "(LPatchCords;III[J)I" } : Jvm.MethodName)) ∈ lw_all := lw_g (lw_at lw_m7 185 rfl) rfl
theorem q1726 : (Jvm.Cond.static ({ cls := "PatchCordsLaw", name := "bestFactor", desc := "(LPatchCords;III[J)I" } : Jvm.MethodName)) ∈ lw_all := lw_g (lw_at lw_m7 186 rfl) rfl
theorem q1727 : (Jvm.Cond.codeWith ({ cls := "PatchCordsLaw", name := "bestFactor", desc := "(LPatchCords;III[J)I" } : Jvm.MethodName) method_34_code (6 : Nat) (Option.some Jvm.ClassFile.FieldType.int) [((0 : Nat), (12 : Nat), (15 : Nat), (21 : Nat)), ((0 : Nat), (12 : Nat), (19 : Nat), (13 : Nat))]) ∈ lw_all := lw_g (lw_at lw_m7 187 rfl) rfl
theorem q1728 : (Jvm.Cond.methodLink "PatchCordsLaw" (112 : Nat) ({ cls := "PatchCords", name := "bestFactor", desc := "(III)I" } : Jvm.MethodName)) ∈ lw_all := lw_g (lw_at lw_m7 188 rfl) rfl
theorem q1739 : (Jvm.Cond.methodLink "PatchCordsLaw" (306 : Nat) ({ cls := "PatchCordsLaw", name := "goBack", desc := "(LPatchCords;[J)I" } : Jvm.MethodName)) ∈ lw_all := lw_g (lw_at lw_m7 199 rfl) rfl
theorem q1740 : (Jvm.Cond.static ({ cls := "PatchCordsLaw", name := "goBack", desc := "(LPatchCords;[J)I" } : Jvm.MethodName)) ∈ lw_all := lw_g (lw_at lw_m7 200 rfl) rfl
theorem q1741 : (Jvm.Cond.codeWith ({ cls := "PatchCordsLaw", name := "goBack", desc := "(LPatchCords;[J)I" } : Jvm.MethodName) method_35_code (3 : Nat) (Option.some Jvm.ClassFile.FieldType.int) [((0 : Nat), (8 : Nat), (11 : Nat), (15 : Nat))]) ∈ lw_all := lw_g (lw_at lw_m7 201 rfl) rfl
theorem q1742 : (Jvm.Cond.methodLink "PatchCordsLaw" (115 : Nat) ({ cls := "PatchCords", name := "goBack", desc := "()I" } : Jvm.MethodName)) ∈ lw_all := lw_g (lw_at lw_m7 202 rfl) rfl
theorem q1746 : (Jvm.Cond.methodLink "PatchCordsLaw" (310 : Nat) ({ cls := "PatchCordsLaw", name := "append", desc := "(LPatchCords;I[J)I" } : Jvm.MethodName)) ∈ lw_all := lw_g (lw_at lw_m7 206 rfl) rfl
theorem q1747 : (Jvm.Cond.static ({ cls := "PatchCordsLaw", name := "append", desc := "(LPatchCords;I[J)I" } : Jvm.MethodName)) ∈ lw_all := lw_g (lw_at lw_m7 207 rfl) rfl
theorem q1748 : (Jvm.Cond.codeWith ({ cls := "PatchCordsLaw", name := "append", desc := "(LPatchCords;I[J)I" } : Jvm.MethodName) method_36_code (4 : Nat) (Option.some Jvm.ClassFile.FieldType.int) [((0 : Nat), (9 : Nat), (12 : Nat), (13 : Nat)), ((0 : Nat), (9 : Nat), (15 : Nat), (15 : Nat))]) ∈ lw_all := lw_g (lw_at lw_m7 208 rfl) rfl
theorem q1749 : (Jvm.Cond.methodLink "PatchCordsLaw" (119 : Nat) ({ cls := "PatchCords", name := "append", desc := "(I)I" } : Jvm.MethodName)) ∈ lw_all := lw_g (lw_at lw_m7 209 rfl) rfl
theorem q1770 : (Jvm.Cond.methodLink "PatchCordsLaw" (321 : Nat) ({ cls := "PatchCordsLaw", name := "patch", desc := "(LPatchCords;[J)I" } : Jvm.MethodName)) ∈ lw_all := lw_g (lw_at lw_m7 230 rfl) rfl
theorem q1771 : (Jvm.Cond.static ({ cls := "PatchCordsLaw", name := "patch", desc := "(LPatchCords;[J)I" } : Jvm.MethodName)) ∈ lw_all := lw_g (lw_at lw_m7 231 rfl) rfl
theorem q1772 : (Jvm.Cond.codeWith ({ cls := "PatchCordsLaw", name := "patch", desc := "(LPatchCords;[J)I" } : Jvm.MethodName) method_37_code (3 : Nat) (Option.some Jvm.ClassFile.FieldType.int) [((0 : Nat), (8 : Nat), (11 : Nat), (15 : Nat))]) ∈ lw_all := lw_g (lw_at lw_m7 232 rfl) rfl
theorem q1773 : (Jvm.Cond.methodLink "PatchCordsLaw" (122 : Nat) ({ cls := "PatchCords", name := "patch", desc := "()I" } : Jvm.MethodName)) ∈ lw_all := lw_g (lw_at lw_m7 233 rfl) rfl
theorem q1791 : (Jvm.Cond.methodLink "PatchCordsLaw" (324 : Nat) ({ cls := "PatchCordsLaw", name := "undo", desc := "(LPatchCords;[J)I" } : Jvm.MethodName)) ∈ lw_all := lw_g (lw_at lw_m8 11 rfl) rfl
theorem q1792 : (Jvm.Cond.static ({ cls := "PatchCordsLaw", name := "undo", desc := "(LPatchCords;[J)I" } : Jvm.MethodName)) ∈ lw_all := lw_g (lw_at lw_m8 12 rfl) rfl
theorem q1793 : (Jvm.Cond.codeWith ({ cls := "PatchCordsLaw", name := "undo", desc := "(LPatchCords;[J)I" } : Jvm.MethodName) method_38_code (3 : Nat) (Option.some Jvm.ClassFile.FieldType.int) [((0 : Nat), (8 : Nat), (11 : Nat), (15 : Nat))]) ∈ lw_all := lw_g (lw_at lw_m8 13 rfl) rfl
theorem q1794 : (Jvm.Cond.methodLink "PatchCordsLaw" (125 : Nat) ({ cls := "PatchCords", name := "undo", desc := "()I" } : Jvm.MethodName)) ∈ lw_all := lw_g (lw_at lw_m8 14 rfl) rfl
theorem q1802 : (Jvm.Cond.classLink "PatchCordsLaw" (129 : Nat) "PatchCordsModel") ∈ lw_all := lw_g (lw_at lw_m8 22 rfl) rfl
theorem q1804 : (Jvm.Cond.methodLink "PatchCordsLaw" (131 : Nat) ({ cls := "PatchCordsModel", name := "<init>", desc := "()V" } : Jvm.MethodName)) ∈ lw_all := lw_g (lw_at lw_m8 24 rfl) rfl
theorem q1869 : (Jvm.Cond.methodLink "PatchCordsLaw" (138 : Nat) ({ cls := "PatchCordsModel", name := "thrown", desc := "()I" } : Jvm.MethodName)) ∈ lw_all := lw_g (lw_at lw_m8 89 rfl) rfl
theorem q1873 : (Jvm.Cond.methodLink "PatchCordsLaw" (137 : Nat) ({ cls := "PatchCordsModel", name := "put", desc := "(I)I" } : Jvm.MethodName)) ∈ lw_all := lw_g (lw_at lw_m8 93 rfl) rfl
theorem q1896 : (Jvm.Cond.methodLink "PatchCordsLaw" (144 : Nat) ({ cls := "PatchCordsModel", name := "turnWeight", desc := "(II)I" } : Jvm.MethodName)) ∈ lw_all := lw_g (lw_at lw_m8 116 rfl) rfl
theorem q1927 : (Jvm.Cond.methodLink "PatchCordsLaw" (147 : Nat) ({ cls := "PatchCordsModel", name := "setVoltage", desc := "(II)I" } : Jvm.MethodName)) ∈ lw_all := lw_g (lw_at lw_m8 147 rfl) rfl
theorem q1943 : (Jvm.Cond.methodLink "PatchCordsLaw" (150 : Nat) ({ cls := "PatchCordsModel", name := "setFactor", desc := "(II)I" } : Jvm.MethodName)) ∈ lw_all := lw_g (lw_at lw_m8 163 rfl) rfl
theorem q1955 : (Jvm.Cond.methodLink "PatchCordsLaw" (153 : Nat) ({ cls := "PatchCordsModel", name := "setSpeed", desc := "(II)I" } : Jvm.MethodName)) ∈ lw_all := lw_g (lw_at lw_m8 175 rfl) rfl
theorem q1959 : (Jvm.Cond.methodLink "PatchCordsLaw" (157 : Nat) ({ cls := "PatchCordsModel", name := "join", desc := "(III)I" } : Jvm.MethodName)) ∈ lw_all := lw_g (lw_at lw_m8 179 rfl) rfl
theorem q1986 : (Jvm.Cond.methodLink "PatchCordsLaw" (160 : Nat) ({ cls := "PatchCordsModel", name := "takeOut", desc := "(II)I" } : Jvm.MethodName)) ∈ lw_all := lw_g (lw_at lw_m8 206 rfl) rfl
theorem q1994 : (Jvm.Cond.methodLink "PatchCordsLaw" (177 : Nat) ({ cls := "PatchCordsModel", name := "pass", desc := "(I)I" } : Jvm.MethodName)) ∈ lw_all := lw_g (lw_at lw_m8 214 rfl) rfl
theorem q2054 : (Jvm.Cond.methodLink "PatchCordsLaw" (163 : Nat) ({ cls := "PatchCordsModel", name := "setMode", desc := "(I)I" } : Jvm.MethodName)) ∈ lw_all := lw_g (lw_at lw_m9 34 rfl) rfl
theorem q2062 : (Jvm.Cond.methodLink "PatchCordsLaw" (166 : Nat) ({ cls := "PatchCordsModel", name := "setWay", desc := "(I)I" } : Jvm.MethodName)) ∈ lw_all := lw_g (lw_at lw_m9 42 rfl) rfl
theorem q2066 : (Jvm.Cond.methodLink "PatchCordsLaw" (171 : Nat) ({ cls := "PatchCordsModel", name := "turnGuard", desc := "()Z" } : Jvm.MethodName)) ∈ lw_all := lw_g (lw_at lw_m9 46 rfl) rfl
theorem q2070 : (Jvm.Cond.methodLink "PatchCordsLaw" (174 : Nat) ({ cls := "PatchCordsModel", name := "record", desc := "(I)I" } : Jvm.MethodName)) ∈ lw_all := lw_g (lw_at lw_m9 50 rfl) rfl
theorem q2074 : (Jvm.Cond.methodLink "PatchCordsLaw" (181 : Nat) ({ cls := "PatchCordsModel", name := "modules", desc := "()I" } : Jvm.MethodName)) ∈ lw_all := lw_g (lw_at lw_m9 54 rfl) rfl
theorem q2082 : (Jvm.Cond.methodLink "PatchCordsLaw" (184 : Nat) ({ cls := "PatchCordsModel", name := "kindOf", desc := "(I)I" } : Jvm.MethodName)) ∈ lw_all := lw_g (lw_at lw_m9 62 rfl) rfl
theorem q2090 : (Jvm.Cond.methodLink "PatchCordsLaw" (187 : Nat) ({ cls := "PatchCordsModel", name := "inputsOf", desc := "(I)I" } : Jvm.MethodName)) ∈ lw_all := lw_g (lw_at lw_m9 70 rfl) rfl
theorem q2094 : (Jvm.Cond.methodLink "PatchCordsLaw" (190 : Nat) ({ cls := "PatchCordsModel", name := "cordIn", desc := "(II)I" } : Jvm.MethodName)) ∈ lw_all := lw_g (lw_at lw_m9 74 rfl) rfl
theorem q2102 : (Jvm.Cond.methodLink "PatchCordsLaw" (193 : Nat) ({ cls := "PatchCordsModel", name := "weightOf", desc := "(II)I" } : Jvm.MethodName)) ∈ lw_all := lw_g (lw_at lw_m9 82 rfl) rfl
theorem q2106 : (Jvm.Cond.methodLink "PatchCordsLaw" (196 : Nat) ({ cls := "PatchCordsModel", name := "settingOf", desc := "(I)I" } : Jvm.MethodName)) ∈ lw_all := lw_g (lw_at lw_m9 86 rfl) rfl
theorem q2110 : (Jvm.Cond.methodLink "PatchCordsLaw" (199 : Nat) ({ cls := "PatchCordsModel", name := "speedOf", desc := "(I)I" } : Jvm.MethodName)) ∈ lw_all := lw_g (lw_at lw_m9 90 rfl) rfl
theorem q2118 : (Jvm.Cond.methodLink "PatchCordsLaw" (203 : Nat) ({ cls := "PatchCordsModel", name := "cords", desc := "()I" } : Jvm.MethodName)) ∈ lw_all := lw_g (lw_at lw_m9 98 rfl) rfl
theorem q2126 : (Jvm.Cond.methodLink "PatchCordsLaw" (207 : Nat) ({ cls := "PatchCordsModel", name := "mode", desc := "()I" } : Jvm.MethodName)) ∈ lw_all := lw_g (lw_at lw_m9 106 rfl) rfl
theorem q2130 : (Jvm.Cond.methodLink "PatchCordsLaw" (211 : Nat) ({ cls := "PatchCordsModel", name := "way", desc := "()I" } : Jvm.MethodName)) ∈ lw_all := lw_g (lw_at lw_m9 110 rfl) rfl
theorem q2134 : (Jvm.Cond.methodLink "PatchCordsLaw" (215 : Nat) ({ cls := "PatchCordsModel", name := "isGuarded", desc := "()Z" } : Jvm.MethodName)) ∈ lw_all := lw_g (lw_at lw_m9 114 rfl) rfl
theorem q2138 : (Jvm.Cond.methodLink "PatchCordsLaw" (219 : Nat) ({ cls := "PatchCordsModel", name := "steps", desc := "()I" } : Jvm.MethodName)) ∈ lw_all := lw_g (lw_at lw_m9 118 rfl) rfl
theorem q2142 : (Jvm.Cond.methodLink "PatchCordsLaw" (222 : Nat) ({ cls := "PatchCordsModel", name := "outputOf", desc := "(I)I" } : Jvm.MethodName)) ∈ lw_all := lw_g (lw_at lw_m9 122 rfl) rfl
theorem q2150 : (Jvm.Cond.methodLink "PatchCordsLaw" (225 : Nat) ({ cls := "PatchCordsModel", name := "outputByAsking", desc := "(I)I" } : Jvm.MethodName)) ∈ lw_all := lw_g (lw_at lw_m9 130 rfl) rfl
theorem q2154 : (Jvm.Cond.methodLink "PatchCordsLaw" (228 : Nat) ({ cls := "PatchCordsModel", name := "inputOf", desc := "(II)I" } : Jvm.MethodName)) ∈ lw_all := lw_g (lw_at lw_m9 134 rfl) rfl
theorem q2162 : (Jvm.Cond.methodLink "PatchCordsLaw" (231 : Nat) ({ cls := "PatchCordsModel", name := "chargeOf", desc := "(I)I" } : Jvm.MethodName)) ∈ lw_all := lw_g (lw_at lw_m9 142 rfl) rfl
theorem q2166 : (Jvm.Cond.methodLink "PatchCordsLaw" (234 : Nat) ({ cls := "PatchCordsModel", name := "rateOf", desc := "(I)I" } : Jvm.MethodName)) ∈ lw_all := lw_g (lw_at lw_m9 146 rfl) rfl
theorem q2174 : (Jvm.Cond.methodLink "PatchCordsLaw" (238 : Nat) ({ cls := "PatchCordsModel", name := "overloaded", desc := "()I" } : Jvm.MethodName)) ∈ lw_all := lw_g (lw_at lw_m9 154 rfl) rfl
theorem q2182 : (Jvm.Cond.methodLink "PatchCordsLaw" (241 : Nat) ({ cls := "PatchCordsModel", name := "peakOf", desc := "(I)I" } : Jvm.MethodName)) ∈ lw_all := lw_g (lw_at lw_m9 162 rfl) rfl
theorem q2186 : (Jvm.Cond.methodLink "PatchCordsLaw" (244 : Nat) ({ cls := "PatchCordsModel", name := "scaleOf", desc := "(I)I" } : Jvm.MethodName)) ∈ lw_all := lw_g (lw_at lw_m9 166 rfl) rfl
theorem q2194 : (Jvm.Cond.methodLink "PatchCordsLaw" (247 : Nat) ({ cls := "PatchCordsModel", name := "levelOf", desc := "(I)I" } : Jvm.MethodName)) ∈ lw_all := lw_g (lw_at lw_m9 174 rfl) rfl
theorem q2202 : (Jvm.Cond.methodLink "PatchCordsLaw" (250 : Nat) ({ cls := "PatchCordsModel", name := "feeders", desc := "(I)I" } : Jvm.MethodName)) ∈ lw_all := lw_g (lw_at lw_m9 182 rfl) rfl
theorem q2206 : (Jvm.Cond.methodLink "PatchCordsLaw" (253 : Nat) ({ cls := "PatchCordsModel", name := "dependsOn", desc := "(I)I" } : Jvm.MethodName)) ∈ lw_all := lw_g (lw_at lw_m9 186 rfl) rfl
theorem q2210 : (Jvm.Cond.methodLink "PatchCordsLaw" (256 : Nat) ({ cls := "PatchCordsModel", name := "dependsByTable", desc := "(I)I" } : Jvm.MethodName)) ∈ lw_all := lw_g (lw_at lw_m9 190 rfl) rfl
theorem q2214 : (Jvm.Cond.methodLink "PatchCordsLaw" (260 : Nat) ({ cls := "PatchCordsModel", name := "inCircles", desc := "()I" } : Jvm.MethodName)) ∈ lw_all := lw_g (lw_at lw_m9 194 rfl) rfl
theorem q2222 : (Jvm.Cond.methodLink "PatchCordsLaw" (264 : Nat) ({ cls := "PatchCordsModel", name := "ends", desc := "()I" } : Jvm.MethodName)) ∈ lw_all := lw_g (lw_at lw_m9 202 rfl) rfl
theorem q2230 : (Jvm.Cond.methodLink "PatchCordsLaw" (268 : Nat) ({ cls := "PatchCordsModel", name := "recorded", desc := "()I" } : Jvm.MethodName)) ∈ lw_all := lw_g (lw_at lw_m9 210 rfl) rfl
theorem q2234 : (Jvm.Cond.methodLink "PatchCordsLaw" (272 : Nat) ({ cls := "PatchCordsModel", name := "records", desc := "()I" } : Jvm.MethodName)) ∈ lw_all := lw_g (lw_at lw_m9 214 rfl) rfl
theorem q2238 : (Jvm.Cond.methodLink "PatchCordsLaw" (275 : Nat) ({ cls := "PatchCordsModel", name := "recordAt", desc := "(I)I" } : Jvm.MethodName)) ∈ lw_all := lw_g (lw_at lw_m9 218 rfl) rfl
theorem q2242 : (Jvm.Cond.methodLink "PatchCordsLaw" (279 : Nat) ({ cls := "PatchCordsModel", name := "crossings", desc := "()I" } : Jvm.MethodName)) ∈ lw_all := lw_g (lw_at lw_m9 222 rfl) rfl
theorem q2246 : (Jvm.Cond.methodLink "PatchCordsLaw" (283 : Nat) ({ cls := "PatchCordsModel", name := "beat", desc := "()I" } : Jvm.MethodName)) ∈ lw_all := lw_g (lw_at lw_m9 226 rfl) rfl
theorem q2250 : (Jvm.Cond.methodLink "PatchCordsLaw" (288 : Nat) ({ cls := "PatchCordsModel", name := "meanRecord", desc := "()D" } : Jvm.MethodName)) ∈ lw_all := lw_g (lw_at lw_m9 230 rfl) rfl
theorem q2258 : (Jvm.Cond.methodLink "PatchCordsLaw" (291 : Nat) ({ cls := "PatchCordsModel", name := "wouldCircle", desc := "(II)Z" } : Jvm.MethodName)) ∈ lw_all := lw_g (lw_at lw_m9 238 rfl) rfl
theorem q2262 : (Jvm.Cond.methodLink "PatchCordsLaw" (294 : Nat) ({ cls := "PatchCordsModel", name := "outputIn", desc := "(II)I" } : Jvm.MethodName)) ∈ lw_all := lw_g (lw_at lw_m10 2 rfl) rfl
theorem q2278 : (Jvm.Cond.methodLink "PatchCordsLaw" (298 : Nat) ({ cls := "PatchCordsModel", name := "stepsUntilOverload", desc := "()I" } : Jvm.MethodName)) ∈ lw_all := lw_g (lw_at lw_m10 18 rfl) rfl
theorem q2286 : (Jvm.Cond.methodLink "PatchCordsLaw" (301 : Nat) ({ cls := "PatchCordsModel", name := "bestFactor", desc := "(III)I" } : Jvm.MethodName)) ∈ lw_all := lw_g (lw_at lw_m10 26 rfl) rfl
theorem q2294 : (Jvm.Cond.methodLink "PatchCordsLaw" (305 : Nat) ({ cls := "PatchCordsModel", name := "keep", desc := "()I" } : Jvm.MethodName)) ∈ lw_all := lw_g (lw_at lw_m10 34 rfl) rfl
theorem q2298 : (Jvm.Cond.methodLink "PatchCordsLaw" (309 : Nat) ({ cls := "PatchCordsModel", name := "goBack", desc := "()I" } : Jvm.MethodName)) ∈ lw_all := lw_g (lw_at lw_m10 38 rfl) rfl
theorem q2302 : (Jvm.Cond.methodLink "PatchCordsLaw" (312 : Nat) ({ cls := "PatchCordsModel", name := "append", desc := "(I)I" } : Jvm.MethodName)) ∈ lw_all := lw_g (lw_at lw_m10 42 rfl) rfl
theorem q2306 : (Jvm.Cond.methodLink "PatchCordsLaw" (316 : Nat) ({ cls := "PatchCordsModel", name := "clearText", desc := "()I" } : Jvm.MethodName)) ∈ lw_all := lw_g (lw_at lw_m10 46 rfl) rfl
theorem q2310 : (Jvm.Cond.methodLink "PatchCordsLaw" (320 : Nat) ({ cls := "PatchCordsModel", name := "firstError", desc := "()I" } : Jvm.MethodName)) ∈ lw_all := lw_g (lw_at lw_m10 50 rfl) rfl
theorem q2346 : (Jvm.Cond.methodLink "PatchCordsLaw" (323 : Nat) ({ cls := "PatchCordsModel", name := "patch", desc := "()I" } : Jvm.MethodName)) ∈ lw_all := lw_g (lw_at lw_m10 86 rfl) rfl
theorem q2358 : (Jvm.Cond.methodLink "PatchCordsLaw" (326 : Nat) ({ cls := "PatchCordsModel", name := "undo", desc := "()I" } : Jvm.MethodName)) ∈ lw_all := lw_g (lw_at lw_m10 98 rfl) rfl
theorem q2362 : (Jvm.Cond.methodLink "PatchCordsLaw" (331 : Nat) ({ cls := "PatchCordsModel", name := "digest", desc := "()J" } : Jvm.MethodName)) ∈ lw_all := lw_g (lw_at lw_m10 102 rfl) rfl
/-! the law's own entry -/
set_option maxRecDepth 100000
abbrev cL_law : ByteArray := code
def dkwL_law_108 : List UInt8 := [132, 4, 4, 167, 245, 116, 4, 172]
abbrev dktL_law_108 : List UInt8 := dkwL_law_108 ++ []
def dkwL_law_107 : List UInt8 := [153, 0, 5, 3, 172, 167, 0, 17, 43, 182, 1, 71, 44, 182, 1, 75, 148, 153, 0, 5, 3, 172]
abbrev dktL_law_107 : List UInt8 := dkwL_law_107 ++ dktL_law_108
def dkwL_law_106 : List UInt8 := [182, 0, 138, 21, 5, 159, 0, 5, 3, 172, 21, 5, 154, 0, 15, 45, 3, 47, 21, 6, 133, 148]
abbrev dktL_law_106 : List UInt8 := dkwL_law_106 ++ dktL_law_107
def dkwL_law_105 : List UInt8 := [148, 153, 0, 5, 3, 172, 167, 0, 61, 43, 45, 184, 1, 68, 54, 5, 44, 182, 1, 70, 54, 6, 44]
abbrev dktL_law_105 : List UInt8 := dkwL_law_105 ++ dktL_law_106
def dkwL_law_104 : List UInt8 := [54, 6, 44, 182, 0, 138, 21, 5, 159, 0, 5, 3, 172, 21, 5, 154, 0, 15, 45, 3, 47, 21, 6, 133]
abbrev dktL_law_104 : List UInt8 := dkwL_law_104 ++ dktL_law_105
def dkwL_law_103 : List UInt8 := [182, 1, 61, 44, 182, 1, 64, 159, 0, 107, 3, 172, 43, 45, 184, 1, 65, 54, 5, 44, 182, 1, 67]
abbrev dktL_law_103 : List UInt8 := dkwL_law_103 ++ dktL_law_104
def dkwL_law_102 : List UInt8 := [153, 0, 5, 3, 172, 167, 0, 131, 43, 182, 1, 57, 44, 182, 1, 60, 159, 0, 120, 3, 172, 43]
abbrev dktL_law_102 : List UInt8 := dkwL_law_102 ++ dktL_law_103
def dkwL_law_101 : List UInt8 := [182, 0, 138, 21, 5, 159, 0, 5, 3, 172, 21, 5, 154, 0, 15, 45, 3, 47, 21, 6, 133, 148]
abbrev dktL_law_101 : List UInt8 := dkwL_law_101 ++ dktL_law_102
def dkwL_law_100 : List UInt8 := [21, 4, 4, 96, 46, 45, 184, 1, 54, 54, 5, 44, 42, 21, 4, 4, 96, 46, 182, 1, 56, 54, 6, 44]
abbrev dktL_law_100 : List UInt8 := dkwL_law_100 ++ dktL_law_101
def dkwL_law_99 : List UInt8 := [3, 172, 21, 5, 154, 0, 15, 45, 3, 47, 21, 6, 133, 148, 153, 0, 5, 3, 172, 167, 0, 187, 43, 42]
abbrev dktL_law_99 : List UInt8 := dkwL_law_99 ++ dktL_law_100
def dkwL_law_98 : List UInt8 := [3, 172, 43, 45, 184, 1, 50, 54, 5, 44, 182, 1, 53, 54, 6, 44, 182, 0, 138, 21, 5, 159, 0, 5]
abbrev dktL_law_98 : List UInt8 := dkwL_law_98 ++ dktL_law_99
def dkwL_law_97 : List UInt8 := [47, 21, 6, 133, 148, 153, 0, 5, 3, 172, 167, 0, 244, 43, 182, 1, 46, 44, 182, 1, 49, 159, 0, 233]
abbrev dktL_law_97 : List UInt8 := dkwL_law_97 ++ dktL_law_98
def dkwL_law_96 : List UInt8 := [46, 182, 1, 45, 54, 6, 44, 182, 0, 138, 21, 5, 159, 0, 5, 3, 172, 21, 5, 154, 0, 15, 45, 3]
abbrev dktL_law_96 : List UInt8 := dkwL_law_96 ++ dktL_law_97
def dkwL_law_95 : List UInt8 := [45, 184, 1, 43, 54, 5, 44, 42, 21, 4, 4, 96, 46, 42, 21, 4, 5, 96, 46, 42, 21, 4, 6, 96]
abbrev dktL_law_95 : List UInt8 := dkwL_law_95 ++ dktL_law_96
def dkwL_law_94 : List UInt8 := [159, 1, 70, 3, 172, 43, 42, 21, 4, 4, 96, 46, 42, 21, 4, 5, 96, 46, 42, 21, 4, 6, 96, 46]
abbrev dktL_law_94 : List UInt8 := dkwL_law_94 ++ dktL_law_95
def dkwL_law_93 : List UInt8 := [45, 3, 47, 21, 6, 133, 148, 153, 0, 5, 3, 172, 167, 1, 81, 43, 182, 1, 39, 44, 182, 1, 42]
abbrev dktL_law_93 : List UInt8 := dkwL_law_93 ++ dktL_law_94
def dkwL_law_92 : List UInt8 := [5, 96, 46, 182, 1, 38, 54, 6, 44, 182, 0, 138, 21, 5, 159, 0, 5, 3, 172, 21, 5, 154, 0, 15]
abbrev dktL_law_92 : List UInt8 := dkwL_law_92 ++ dktL_law_93
def dkwL_law_91 : List UInt8 := [96, 46, 42, 21, 4, 5, 96, 46, 45, 184, 1, 36, 54, 5, 44, 42, 21, 4, 4, 96, 46, 42, 21, 4]
abbrev dktL_law_91 : List UInt8 := dkwL_law_91 ++ dktL_law_92
def dkwL_law_90 : List UInt8 := [21, 6, 153, 0, 7, 10, 167, 0, 4, 9, 148, 153, 0, 5, 3, 172, 167, 1, 149, 43, 42, 21, 4, 4]
abbrev dktL_law_90 : List UInt8 := dkwL_law_90 ++ dktL_law_91
def dkwL_law_89 : List UInt8 := [182, 1, 35, 54, 6, 44, 182, 0, 138, 21, 5, 159, 0, 5, 3, 172, 21, 5, 154, 0, 22, 45, 3, 47]
abbrev dktL_law_89 : List UInt8 := dkwL_law_89 ++ dktL_law_90
def dkwL_law_88 : List UInt8 := [21, 4, 5, 96, 46, 45, 184, 1, 33, 54, 5, 44, 42, 21, 4, 4, 96, 46, 42, 21, 4, 5, 96, 46]
abbrev dktL_law_88 : List UInt8 := dkwL_law_88 ++ dktL_law_89
def dkwL_law_87 : List UInt8 := [153, 0, 11, 24, 7, 24, 7, 151, 154, 0, 5, 3, 172, 167, 1, 224, 43, 42, 21, 4, 4, 96, 46, 42]
abbrev dktL_law_87 : List UInt8 := dkwL_law_87 ++ dktL_law_88
def dkwL_law_86 : List UInt8 := [182, 1, 28, 57, 5, 44, 182, 1, 32, 57, 7, 24, 5, 24, 7, 151, 153, 0, 21, 24, 5, 24, 5, 151]
abbrev dktL_law_86 : List UInt8 := dkwL_law_86 ++ dktL_law_87
def dkwL_law_85 : List UInt8 := [182, 1, 23, 159, 2, 24, 3, 172, 43, 182, 1, 24, 44, 182, 1, 27, 159, 2, 11, 3, 172, 43]
abbrev dktL_law_85 : List UInt8 := dkwL_law_85 ++ dktL_law_86
def dkwL_law_84 : List UInt8 := [154, 0, 15, 45, 3, 47, 21, 6, 133, 148, 153, 0, 5, 3, 172, 167, 2, 35, 43, 182, 1, 20, 44]
abbrev dktL_law_84 : List UInt8 := dkwL_law_84 ++ dktL_law_85
def dkwL_law_83 : List UInt8 := [21, 4, 4, 96, 46, 182, 1, 19, 54, 6, 44, 182, 0, 138, 21, 5, 159, 0, 5, 3, 172, 21, 5]
abbrev dktL_law_83 : List UInt8 := dkwL_law_83 ++ dktL_law_84
def dkwL_law_82 : List UInt8 := [182, 1, 16, 159, 2, 93, 3, 172, 43, 42, 21, 4, 4, 96, 46, 45, 184, 1, 17, 54, 5, 44, 42]
abbrev dktL_law_82 : List UInt8 := dkwL_law_82 ++ dktL_law_83
def dkwL_law_81 : List UInt8 := [159, 2, 119, 3, 172, 43, 182, 1, 9, 44, 182, 1, 12, 159, 2, 106, 3, 172, 43, 182, 1, 13, 44]
abbrev dktL_law_81 : List UInt8 := dkwL_law_81 ++ dktL_law_82
def dkwL_law_80 : List UInt8 := [167, 2, 143, 43, 182, 1, 1, 44, 182, 1, 4, 159, 2, 132, 3, 172, 43, 182, 1, 5, 44, 182, 1, 8]
abbrev dktL_law_80 : List UInt8 := dkwL_law_80 ++ dktL_law_81
def dkwL_law_79 : List UInt8 := [21, 5, 159, 0, 5, 3, 172, 21, 5, 154, 0, 15, 45, 3, 47, 21, 6, 133, 148, 153, 0, 5, 3, 172]
abbrev dktL_law_79 : List UInt8 := dkwL_law_79 ++ dktL_law_80
def dkwL_law_78 : List UInt8 := [46, 45, 184, 0, 254, 54, 5, 44, 42, 21, 4, 4, 96, 46, 182, 1, 0, 54, 6, 44, 182, 0, 138]
abbrev dktL_law_78 : List UInt8 := dkwL_law_78 ++ dktL_law_79
def dkwL_law_77 : List UInt8 := [154, 0, 15, 45, 3, 47, 21, 6, 133, 148, 153, 0, 5, 3, 172, 167, 2, 199, 43, 42, 21, 4, 4, 96]
abbrev dktL_law_77 : List UInt8 := dkwL_law_77 ++ dktL_law_78
def dkwL_law_76 : List UInt8 := [21, 4, 4, 96, 46, 182, 0, 253, 54, 6, 44, 182, 0, 138, 21, 5, 159, 0, 5, 3, 172, 21, 5]
abbrev dktL_law_76 : List UInt8 := dkwL_law_76 ++ dktL_law_77
def dkwL_law_75 : List UInt8 := [153, 0, 5, 3, 172, 167, 2, 255, 43, 42, 21, 4, 4, 96, 46, 45, 184, 0, 251, 54, 5, 44, 42]
abbrev dktL_law_75 : List UInt8 := dkwL_law_75 ++ dktL_law_76
def dkwL_law_74 : List UInt8 := [182, 0, 138, 21, 5, 159, 0, 5, 3, 172, 21, 5, 154, 0, 15, 45, 3, 47, 21, 6, 133, 148]
abbrev dktL_law_74 : List UInt8 := dkwL_law_74 ++ dktL_law_75
def dkwL_law_73 : List UInt8 := [21, 4, 4, 96, 46, 45, 184, 0, 248, 54, 5, 44, 42, 21, 4, 4, 96, 46, 182, 0, 250, 54, 6, 44]
abbrev dktL_law_73 : List UInt8 := dkwL_law_73 ++ dktL_law_74
def dkwL_law_72 : List UInt8 := [172, 21, 5, 154, 0, 15, 45, 3, 47, 21, 6, 133, 148, 153, 0, 5, 3, 172, 167, 3, 55, 43, 42]
abbrev dktL_law_72 : List UInt8 := dkwL_law_72 ++ dktL_law_73
def dkwL_law_71 : List UInt8 := [54, 5, 44, 42, 21, 4, 4, 96, 46, 182, 0, 247, 54, 6, 44, 182, 0, 138, 21, 5, 159, 0, 5, 3]
abbrev dktL_law_71 : List UInt8 := dkwL_law_71 ++ dktL_law_72
def dkwL_law_70 : List UInt8 := [21, 6, 133, 148, 153, 0, 5, 3, 172, 167, 3, 111, 43, 42, 21, 4, 4, 96, 46, 45, 184, 0, 245]
abbrev dktL_law_70 : List UInt8 := dkwL_law_70 ++ dktL_law_71
def dkwL_law_69 : List UInt8 := [182, 0, 244, 54, 6, 44, 182, 0, 138, 21, 5, 159, 0, 5, 3, 172, 21, 5, 154, 0, 15, 45, 3, 47]
abbrev dktL_law_69 : List UInt8 := dkwL_law_69 ++ dktL_law_70
def dkwL_law_68 : List UInt8 := [167, 3, 167, 43, 42, 21, 4, 4, 96, 46, 45, 184, 0, 242, 54, 5, 44, 42, 21, 4, 4, 96, 46]
abbrev dktL_law_68 : List UInt8 := dkwL_law_68 ++ dktL_law_69
def dkwL_law_67 : List UInt8 := [159, 0, 5, 3, 172, 21, 5, 154, 0, 15, 45, 3, 47, 21, 6, 133, 148, 153, 0, 5, 3, 172]
abbrev dktL_law_67 : List UInt8 := dkwL_law_67 ++ dktL_law_68
def dkwL_law_66 : List UInt8 := [184, 0, 239, 54, 5, 44, 42, 21, 4, 4, 96, 46, 182, 0, 241, 54, 6, 44, 182, 0, 138, 21, 5]
abbrev dktL_law_66 : List UInt8 := dkwL_law_66 ++ dktL_law_67
def dkwL_law_65 : List UInt8 := [167, 3, 236, 43, 182, 0, 235, 44, 182, 0, 238, 159, 3, 225, 3, 172, 43, 42, 21, 4, 4, 96, 46, 45]
abbrev dktL_law_65 : List UInt8 := dkwL_law_65 ++ dktL_law_66
def dkwL_law_64 : List UInt8 := [21, 5, 159, 0, 5, 3, 172, 21, 5, 154, 0, 15, 45, 3, 47, 21, 6, 133, 148, 153, 0, 5, 3, 172]
abbrev dktL_law_64 : List UInt8 := dkwL_law_64 ++ dktL_law_65
def dkwL_law_63 : List UInt8 := [46, 45, 184, 0, 232, 54, 5, 44, 42, 21, 4, 4, 96, 46, 182, 0, 234, 54, 6, 44, 182, 0, 138]
abbrev dktL_law_63 : List UInt8 := dkwL_law_63 ++ dktL_law_64
def dkwL_law_62 : List UInt8 := [154, 0, 15, 45, 3, 47, 21, 6, 133, 148, 153, 0, 5, 3, 172, 167, 4, 36, 43, 42, 21, 4, 4, 96]
abbrev dktL_law_62 : List UInt8 := dkwL_law_62 ++ dktL_law_63
def dkwL_law_61 : List UInt8 := [21, 4, 4, 96, 46, 182, 0, 231, 54, 6, 44, 182, 0, 138, 21, 5, 159, 0, 5, 3, 172, 21, 5]
abbrev dktL_law_61 : List UInt8 := dkwL_law_61 ++ dktL_law_62
def dkwL_law_60 : List UInt8 := [148, 153, 0, 5, 3, 172, 167, 4, 92, 43, 42, 21, 4, 4, 96, 46, 45, 184, 0, 229, 54, 5, 44, 42]
abbrev dktL_law_60 : List UInt8 := dkwL_law_60 ++ dktL_law_61
def dkwL_law_59 : List UInt8 := [54, 6, 44, 182, 0, 138, 21, 5, 159, 0, 5, 3, 172, 21, 5, 154, 0, 15, 45, 3, 47, 21, 6, 133]
abbrev dktL_law_59 : List UInt8 := dkwL_law_59 ++ dktL_law_60
def dkwL_law_58 : List UInt8 := [46, 45, 184, 0, 226, 54, 5, 44, 42, 21, 4, 4, 96, 46, 42, 21, 4, 5, 96, 46, 182, 0, 228]
abbrev dktL_law_58 : List UInt8 := dkwL_law_58 ++ dktL_law_59
def dkwL_law_57 : List UInt8 := [21, 6, 133, 148, 153, 0, 5, 3, 172, 167, 4, 160, 43, 42, 21, 4, 4, 96, 46, 42, 21, 4, 5, 96]
abbrev dktL_law_57 : List UInt8 := dkwL_law_57 ++ dktL_law_58
def dkwL_law_56 : List UInt8 := [182, 0, 225, 54, 6, 44, 182, 0, 138, 21, 5, 159, 0, 5, 3, 172, 21, 5, 154, 0, 15, 45, 3, 47]
abbrev dktL_law_56 : List UInt8 := dkwL_law_56 ++ dktL_law_57
def dkwL_law_55 : List UInt8 := [167, 4, 216, 43, 42, 21, 4, 4, 96, 46, 45, 184, 0, 223, 54, 5, 44, 42, 21, 4, 4, 96, 46]
abbrev dktL_law_55 : List UInt8 := dkwL_law_55 ++ dktL_law_56
def dkwL_law_54 : List UInt8 := [21, 5, 159, 0, 5, 3, 172, 21, 5, 154, 0, 15, 45, 3, 47, 21, 6, 133, 148, 153, 0, 5, 3, 172]
abbrev dktL_law_54 : List UInt8 := dkwL_law_54 ++ dktL_law_55
def dkwL_law_53 : List UInt8 := [46, 45, 184, 0, 220, 54, 5, 44, 42, 21, 4, 4, 96, 46, 182, 0, 222, 54, 6, 44, 182, 0, 138]
abbrev dktL_law_53 : List UInt8 := dkwL_law_53 ++ dktL_law_54
def dkwL_law_52 : List UInt8 := [159, 5, 31, 3, 172, 43, 182, 0, 216, 44, 182, 0, 219, 159, 5, 18, 3, 172, 43, 42, 21, 4, 4, 96]
abbrev dktL_law_52 : List UInt8 := dkwL_law_52 ++ dktL_law_53
def dkwL_law_51 : List UInt8 := [172, 43, 182, 0, 208, 44, 182, 0, 211, 159, 5, 44, 3, 172, 43, 182, 0, 212, 44, 182, 0, 215]
abbrev dktL_law_51 : List UInt8 := dkwL_law_51 ++ dktL_law_52
def dkwL_law_50 : List UInt8 := [182, 0, 200, 44, 182, 0, 203, 159, 5, 70, 3, 172, 43, 182, 0, 204, 44, 182, 0, 207, 159, 5, 57, 3]
abbrev dktL_law_50 : List UInt8 := dkwL_law_50 ++ dktL_law_51
def dkwL_law_49 : List UInt8 := [172, 21, 5, 154, 0, 15, 45, 3, 47, 21, 6, 133, 148, 153, 0, 5, 3, 172, 167, 5, 81, 43]
abbrev dktL_law_49 : List UInt8 := dkwL_law_49 ++ dktL_law_50
def dkwL_law_48 : List UInt8 := [54, 5, 44, 42, 21, 4, 4, 96, 46, 182, 0, 199, 54, 6, 44, 182, 0, 138, 21, 5, 159, 0, 5, 3]
abbrev dktL_law_48 : List UInt8 := dkwL_law_48 ++ dktL_law_49
def dkwL_law_47 : List UInt8 := [21, 6, 133, 148, 153, 0, 5, 3, 172, 167, 5, 137, 43, 42, 21, 4, 4, 96, 46, 45, 184, 0, 197]
abbrev dktL_law_47 : List UInt8 := dkwL_law_47 ++ dktL_law_48
def dkwL_law_46 : List UInt8 := [182, 0, 196, 54, 6, 44, 182, 0, 138, 21, 5, 159, 0, 5, 3, 172, 21, 5, 154, 0, 15, 45, 3, 47]
abbrev dktL_law_46 : List UInt8 := dkwL_law_46 ++ dktL_law_47
def dkwL_law_45 : List UInt8 := [167, 5, 193, 43, 42, 21, 4, 4, 96, 46, 45, 184, 0, 194, 54, 5, 44, 42, 21, 4, 4, 96, 46]
abbrev dktL_law_45 : List UInt8 := dkwL_law_45 ++ dktL_law_46
def dkwL_law_44 : List UInt8 := [159, 0, 5, 3, 172, 21, 5, 154, 0, 15, 45, 3, 47, 21, 6, 133, 148, 153, 0, 5, 3, 172]
abbrev dktL_law_44 : List UInt8 := dkwL_law_44 ++ dktL_law_45
def dkwL_law_43 : List UInt8 := [21, 4, 4, 96, 46, 42, 21, 4, 5, 96, 46, 182, 0, 193, 54, 6, 44, 182, 0, 138, 21, 5]
abbrev dktL_law_43 : List UInt8 := dkwL_law_43 ++ dktL_law_44
def dkwL_law_42 : List UInt8 := [167, 6, 5, 43, 42, 21, 4, 4, 96, 46, 42, 21, 4, 5, 96, 46, 45, 184, 0, 191, 54, 5, 44, 42]
abbrev dktL_law_42 : List UInt8 := dkwL_law_42 ++ dktL_law_43
def dkwL_law_41 : List UInt8 := [159, 0, 5, 3, 172, 21, 5, 154, 0, 15, 45, 3, 47, 21, 6, 133, 148, 153, 0, 5, 3, 172]
abbrev dktL_law_41 : List UInt8 := dkwL_law_41 ++ dktL_law_42
def dkwL_law_40 : List UInt8 := [21, 4, 4, 96, 46, 42, 21, 4, 5, 96, 46, 182, 0, 190, 54, 6, 44, 182, 0, 138, 21, 5]
abbrev dktL_law_40 : List UInt8 := dkwL_law_40 ++ dktL_law_41
def dkwL_law_39 : List UInt8 := [167, 6, 73, 43, 42, 21, 4, 4, 96, 46, 42, 21, 4, 5, 96, 46, 45, 184, 0, 188, 54, 5, 44, 42]
abbrev dktL_law_39 : List UInt8 := dkwL_law_39 ++ dktL_law_40
def dkwL_law_38 : List UInt8 := [21, 5, 159, 0, 5, 3, 172, 21, 5, 154, 0, 15, 45, 3, 47, 21, 6, 133, 148, 153, 0, 5, 3, 172]
abbrev dktL_law_38 : List UInt8 := dkwL_law_38 ++ dktL_law_39
def dkwL_law_37 : List UInt8 := [46, 45, 184, 0, 185, 54, 5, 44, 42, 21, 4, 4, 96, 46, 182, 0, 187, 54, 6, 44, 182, 0, 138]
abbrev dktL_law_37 : List UInt8 := dkwL_law_37 ++ dktL_law_38
def dkwL_law_36 : List UInt8 := [154, 0, 15, 45, 3, 47, 21, 6, 133, 148, 153, 0, 5, 3, 172, 167, 6, 129, 43, 42, 21, 4, 4, 96]
abbrev dktL_law_36 : List UInt8 := dkwL_law_36 ++ dktL_law_37
def dkwL_law_35 : List UInt8 := [21, 4, 4, 96, 46, 182, 0, 184, 54, 6, 44, 182, 0, 138, 21, 5, 159, 0, 5, 3, 172, 21, 5]
abbrev dktL_law_35 : List UInt8 := dkwL_law_35 ++ dktL_law_36
def dkwL_law_34 : List UInt8 := [182, 0, 181, 159, 6, 187, 3, 172, 43, 42, 21, 4, 4, 96, 46, 45, 184, 0, 182, 54, 5, 44, 42]
abbrev dktL_law_34 : List UInt8 := dkwL_law_34 ++ dktL_law_35
def dkwL_law_33 : List UInt8 := [154, 0, 15, 45, 3, 47, 21, 6, 133, 148, 153, 0, 5, 3, 172, 167, 6, 198, 43, 182, 0, 178, 44]
abbrev dktL_law_33 : List UInt8 := dkwL_law_33 ++ dktL_law_34
def dkwL_law_32 : List UInt8 := [21, 4, 4, 96, 46, 182, 0, 177, 54, 6, 44, 182, 0, 138, 21, 5, 159, 0, 5, 3, 172, 21, 5]
abbrev dktL_law_32 : List UInt8 := dkwL_law_32 ++ dktL_law_33
def dkwL_law_31 : List UInt8 := [148, 153, 0, 5, 3, 172, 167, 6, 254, 43, 42, 21, 4, 4, 96, 46, 45, 184, 0, 175, 54, 5, 44, 42]
abbrev dktL_law_31 : List UInt8 := dkwL_law_31 ++ dktL_law_32
def dkwL_law_30 : List UInt8 := [54, 6, 44, 182, 0, 138, 21, 5, 159, 0, 5, 3, 172, 21, 5, 154, 0, 15, 45, 3, 47, 21, 6, 133]
abbrev dktL_law_30 : List UInt8 := dkwL_law_30 ++ dktL_law_31
def dkwL_law_29 : List UInt8 := [172, 43, 42, 21, 4, 4, 96, 46, 45, 184, 0, 172, 54, 5, 44, 42, 21, 4, 4, 96, 46, 182, 0, 174]
abbrev dktL_law_29 : List UInt8 := dkwL_law_29 ++ dktL_law_30
def dkwL_law_28 : List UInt8 := [21, 6, 133, 148, 153, 0, 5, 3, 172, 167, 7, 67, 43, 182, 0, 167, 44, 182, 0, 171, 159, 7, 56, 3]
abbrev dktL_law_28 : List UInt8 := dkwL_law_28 ++ dktL_law_29
def dkwL_law_27 : List UInt8 := [182, 0, 166, 54, 6, 44, 182, 0, 138, 21, 5, 159, 0, 5, 3, 172, 21, 5, 154, 0, 15, 45, 3, 47]
abbrev dktL_law_27 : List UInt8 := dkwL_law_27 ++ dktL_law_28
def dkwL_law_26 : List UInt8 := [167, 7, 123, 43, 42, 21, 4, 4, 96, 46, 45, 184, 0, 164, 54, 5, 44, 42, 21, 4, 4, 96, 46]
abbrev dktL_law_26 : List UInt8 := dkwL_law_26 ++ dktL_law_27
def dkwL_law_25 : List UInt8 := [159, 0, 5, 3, 172, 21, 5, 154, 0, 15, 45, 3, 47, 21, 6, 133, 148, 153, 0, 5, 3, 172]
abbrev dktL_law_25 : List UInt8 := dkwL_law_25 ++ dktL_law_26
def dkwL_law_24 : List UInt8 := [184, 0, 161, 54, 5, 44, 42, 21, 4, 4, 96, 46, 182, 0, 163, 54, 6, 44, 182, 0, 138, 21, 5]
abbrev dktL_law_24 : List UInt8 := dkwL_law_24 ++ dktL_law_25
def dkwL_law_23 : List UInt8 := [3, 47, 21, 6, 133, 148, 153, 0, 5, 3, 172, 167, 7, 179, 43, 42, 21, 4, 4, 96, 46, 45]
abbrev dktL_law_23 : List UInt8 := dkwL_law_23 ++ dktL_law_24
def dkwL_law_22 : List UInt8 := [96, 46, 182, 0, 160, 54, 6, 44, 182, 0, 138, 21, 5, 159, 0, 5, 3, 172, 21, 5, 154, 0, 15, 45]
abbrev dktL_law_22 : List UInt8 := dkwL_law_22 ++ dktL_law_23
def dkwL_law_21 : List UInt8 := [46, 42, 21, 4, 5, 96, 46, 45, 184, 0, 158, 54, 5, 44, 42, 21, 4, 4, 96, 46, 42, 21, 4, 5]
abbrev dktL_law_21 : List UInt8 := dkwL_law_21 ++ dktL_law_22
def dkwL_law_20 : List UInt8 := [154, 0, 15, 45, 3, 47, 21, 6, 133, 148, 153, 0, 5, 3, 172, 167, 7, 247, 43, 42, 21, 4, 4, 96]
abbrev dktL_law_20 : List UInt8 := dkwL_law_20 ++ dktL_law_21
def dkwL_law_19 : List UInt8 := [21, 4, 6, 96, 46, 182, 0, 157, 54, 6, 44, 182, 0, 138, 21, 5, 159, 0, 5, 3, 172, 21, 5]
abbrev dktL_law_19 : List UInt8 := dkwL_law_19 ++ dktL_law_20
def dkwL_law_18 : List UInt8 := [6, 96, 46, 45, 184, 0, 154, 54, 5, 44, 42, 21, 4, 4, 96, 46, 42, 21, 4, 5, 96, 46, 42]
abbrev dktL_law_18 : List UInt8 := dkwL_law_18 ++ dktL_law_19
def dkwL_law_17 : List UInt8 := [153, 0, 5, 3, 172, 167, 8, 71, 43, 42, 21, 4, 4, 96, 46, 42, 21, 4, 5, 96, 46, 42, 21, 4]
abbrev dktL_law_17 : List UInt8 := dkwL_law_17 ++ dktL_law_18
def dkwL_law_16 : List UInt8 := [182, 0, 138, 21, 5, 159, 0, 5, 3, 172, 21, 5, 154, 0, 15, 45, 3, 47, 21, 6, 133, 148]
abbrev dktL_law_16 : List UInt8 := dkwL_law_16 ++ dktL_law_17
def dkwL_law_15 : List UInt8 := [184, 0, 151, 54, 5, 44, 42, 21, 4, 4, 96, 46, 42, 21, 4, 5, 96, 46, 182, 0, 153, 54, 6, 44]
abbrev dktL_law_15 : List UInt8 := dkwL_law_15 ++ dktL_law_16
def dkwL_law_14 : List UInt8 := [153, 0, 5, 3, 172, 167, 8, 139, 43, 42, 21, 4, 4, 96, 46, 42, 21, 4, 5, 96, 46, 45]
abbrev dktL_law_14 : List UInt8 := dkwL_law_14 ++ dktL_law_15
def dkwL_law_13 : List UInt8 := [182, 0, 138, 21, 5, 159, 0, 5, 3, 172, 21, 5, 154, 0, 15, 45, 3, 47, 21, 6, 133, 148]
abbrev dktL_law_13 : List UInt8 := dkwL_law_13 ++ dktL_law_14
def dkwL_law_12 : List UInt8 := [184, 0, 148, 54, 5, 44, 42, 21, 4, 4, 96, 46, 42, 21, 4, 5, 96, 46, 182, 0, 150, 54, 6, 44]
abbrev dktL_law_12 : List UInt8 := dkwL_law_12 ++ dktL_law_13
def dkwL_law_11 : List UInt8 := [153, 0, 5, 3, 172, 167, 8, 207, 43, 42, 21, 4, 4, 96, 46, 42, 21, 4, 5, 96, 46, 45]
abbrev dktL_law_11 : List UInt8 := dkwL_law_11 ++ dktL_law_12
def dkwL_law_10 : List UInt8 := [182, 0, 138, 21, 5, 159, 0, 5, 3, 172, 21, 5, 154, 0, 15, 45, 3, 47, 21, 6, 133, 148]
abbrev dktL_law_10 : List UInt8 := dkwL_law_10 ++ dktL_law_11
def dkwL_law_9 : List UInt8 := [184, 0, 145, 54, 5, 44, 42, 21, 4, 4, 96, 46, 42, 21, 4, 5, 96, 46, 182, 0, 147, 54, 6, 44]
abbrev dktL_law_9 : List UInt8 := dkwL_law_9 ++ dktL_law_10
def dkwL_law_8 : List UInt8 := [153, 0, 5, 3, 172, 167, 9, 19, 43, 42, 21, 4, 4, 96, 46, 42, 21, 4, 5, 96, 46, 45]
abbrev dktL_law_8 : List UInt8 := dkwL_law_8 ++ dktL_law_9
def dkwL_law_7 : List UInt8 := [182, 0, 138, 21, 5, 159, 0, 5, 3, 172, 21, 5, 154, 0, 15, 45, 3, 47, 21, 6, 133, 148]
abbrev dktL_law_7 : List UInt8 := dkwL_law_7 ++ dktL_law_8
def dkwL_law_6 : List UInt8 := [184, 0, 141, 54, 5, 44, 42, 21, 4, 4, 96, 46, 42, 21, 4, 5, 96, 46, 182, 0, 144, 54, 6, 44]
abbrev dktL_law_6 : List UInt8 := dkwL_law_6 ++ dktL_law_7
def dkwL_law_5 : List UInt8 := [148, 153, 0, 5, 3, 172, 167, 9, 87, 43, 42, 21, 4, 4, 96, 46, 42, 21, 4, 5, 96, 46, 45]
abbrev dktL_law_5 : List UInt8 := dkwL_law_5 ++ dktL_law_6
def dkwL_law_4 : List UInt8 := [54, 6, 44, 182, 0, 138, 21, 5, 159, 0, 5, 3, 172, 21, 5, 154, 0, 15, 45, 3, 47, 21, 6, 133]
abbrev dktL_law_4 : List UInt8 := dkwL_law_4 ++ dktL_law_5
def dkwL_law_3 : List UInt8 := [43, 42, 21, 4, 4, 96, 46, 45, 184, 0, 132, 54, 5, 44, 42, 21, 4, 4, 96, 46, 182, 0, 137]
abbrev dktL_law_3 : List UInt8 := dkwL_law_3 ++ dktL_law_4
def dkwL_law_2 : List UInt8 := [170, 0, 0, 10, 121, 0, 0, 0, 0, 0, 0, 0, 55, 0, 0, 0, 237, 0, 0, 1, 37, 0, 0, 1, 105, 0, 0, 1, 173, 0, 0, 1, 241, 0, 0, 2, 53, 0, 0, 2, 133, 0, 0, 2, 201, 0, 0, 3, 1, 0, 0, 3, 57, 0, 0, 3, 70, 0, 0, 3, 126, 0, 0, 3, 182, 0, 0, 3, 195, 0, 0, 3, 251, 0, 0, 4, 51, 0, 0, 4, 119, 0, 0, 4, 187, 0, 0, 4, 243, 0, 0, 5, 43, 0, 0, 5, 56, 0, 0, 5, 69, 0, 0, 5, 82, 0, 0, 5, 95, 0, 0, 5, 108, 0, 0, 5, 164, 0, 0, 5, 220, 0, 0, 6, 32, 0, 0, 6, 88, 0, 0, 6, 144, 0, 0, 6, 157, 0, 0, 6, 213, 0, 0, 7, 13, 0, 0, 7, 69, 0, 0, 7, 125, 0, 0, 7, 181, 0, 0, 7, 237, 0, 0, 7, 250, 0, 0, 8, 7, 0, 0, 8, 20, 0, 0, 8, 33, 0, 0, 8, 89, 0, 0, 8, 102, 0, 0, 8, 115, 0, 0, 8, 156, 0, 0, 8, 231, 0, 0, 9, 43, 0, 0, 9, 56, 0, 0, 9, 136, 0, 0, 9, 149, 0, 0, 9, 193, 0, 0, 9, 249, 0, 0, 10, 6, 0, 0, 10, 19, 0, 0, 10, 63, 0, 0, 10, 107]
abbrev dktL_law_2 : List UInt8 := dkwL_law_2 ++ dktL_law_3
def dkwL_law_1 : List UInt8 := [21, 4, 42, 190, 7, 100, 163, 10, 137, 42, 21, 4, 46, 16, 63, 126]
abbrev dktL_law_1 : List UInt8 := dkwL_law_1 ++ dktL_law_2
def dkwL_law_0 : List UInt8 := [187, 0, 8, 89, 183, 0, 128, 76, 187, 0, 129, 89, 183, 0, 131, 77, 4, 188, 11, 78, 3, 54, 4]
abbrev dktL_law_0 : List UInt8 := dkwL_law_0 ++ dktL_law_1
theorem dksL_law_0 : cL_law.data.toList.drop 0 = dktL_law_0 := by decide +kernel
theorem dksL_law_1 : cL_law.data.toList.drop 23 = dktL_law_1 := dk_seg dksL_law_0 23 rfl rfl
theorem dksL_law_2 : cL_law.data.toList.drop 39 = dktL_law_2 := dk_seg dksL_law_1 16 rfl rfl
theorem dksL_law_3 : cL_law.data.toList.drop 276 = dktL_law_3 := dk_seg dksL_law_2 237 rfl rfl
theorem dksL_law_4 : cL_law.data.toList.drop 299 = dktL_law_4 := dk_seg dksL_law_3 23 rfl rfl
theorem dksL_law_5 : cL_law.data.toList.drop 323 = dktL_law_5 := dk_seg dksL_law_4 24 rfl rfl
theorem dksL_law_6 : cL_law.data.toList.drop 346 = dktL_law_6 := dk_seg dksL_law_5 23 rfl rfl
theorem dksL_law_7 : cL_law.data.toList.drop 370 = dktL_law_7 := dk_seg dksL_law_6 24 rfl rfl
theorem dksL_law_8 : cL_law.data.toList.drop 392 = dktL_law_8 := dk_seg dksL_law_7 22 rfl rfl
theorem dksL_law_9 : cL_law.data.toList.drop 414 = dktL_law_9 := dk_seg dksL_law_8 22 rfl rfl
theorem dksL_law_10 : cL_law.data.toList.drop 438 = dktL_law_10 := dk_seg dksL_law_9 24 rfl rfl
theorem dksL_law_11 : cL_law.data.toList.drop 460 = dktL_law_11 := dk_seg dksL_law_10 22 rfl rfl
theorem dksL_law_12 : cL_law.data.toList.drop 482 = dktL_law_12 := dk_seg dksL_law_11 22 rfl rfl
theorem dksL_law_13 : cL_law.data.toList.drop 506 = dktL_law_13 := dk_seg dksL_law_12 24 rfl rfl
theorem dksL_law_14 : cL_law.data.toList.drop 528 = dktL_law_14 := dk_seg dksL_law_13 22 rfl rfl
theorem dksL_law_15 : cL_law.data.toList.drop 550 = dktL_law_15 := dk_seg dksL_law_14 22 rfl rfl
theorem dksL_law_16 : cL_law.data.toList.drop 574 = dktL_law_16 := dk_seg dksL_law_15 24 rfl rfl
theorem dksL_law_17 : cL_law.data.toList.drop 596 = dktL_law_17 := dk_seg dksL_law_16 22 rfl rfl
theorem dksL_law_18 : cL_law.data.toList.drop 620 = dktL_law_18 := dk_seg dksL_law_17 24 rfl rfl
theorem dksL_law_19 : cL_law.data.toList.drop 643 = dktL_law_19 := dk_seg dksL_law_18 23 rfl rfl
theorem dksL_law_20 : cL_law.data.toList.drop 666 = dktL_law_20 := dk_seg dksL_law_19 23 rfl rfl
theorem dksL_law_21 : cL_law.data.toList.drop 690 = dktL_law_21 := dk_seg dksL_law_20 24 rfl rfl
theorem dksL_law_22 : cL_law.data.toList.drop 714 = dktL_law_22 := dk_seg dksL_law_21 24 rfl rfl
theorem dksL_law_23 : cL_law.data.toList.drop 738 = dktL_law_23 := dk_seg dksL_law_22 24 rfl rfl
theorem dksL_law_24 : cL_law.data.toList.drop 760 = dktL_law_24 := dk_seg dksL_law_23 22 rfl rfl
theorem dksL_law_25 : cL_law.data.toList.drop 783 = dktL_law_25 := dk_seg dksL_law_24 23 rfl rfl
theorem dksL_law_26 : cL_law.data.toList.drop 805 = dktL_law_26 := dk_seg dksL_law_25 22 rfl rfl
theorem dksL_law_27 : cL_law.data.toList.drop 828 = dktL_law_27 := dk_seg dksL_law_26 23 rfl rfl
theorem dksL_law_28 : cL_law.data.toList.drop 852 = dktL_law_28 := dk_seg dksL_law_27 24 rfl rfl
theorem dksL_law_29 : cL_law.data.toList.drop 876 = dktL_law_29 := dk_seg dksL_law_28 24 rfl rfl
theorem dksL_law_30 : cL_law.data.toList.drop 900 = dktL_law_30 := dk_seg dksL_law_29 24 rfl rfl
theorem dksL_law_31 : cL_law.data.toList.drop 924 = dktL_law_31 := dk_seg dksL_law_30 24 rfl rfl
theorem dksL_law_32 : cL_law.data.toList.drop 948 = dktL_law_32 := dk_seg dksL_law_31 24 rfl rfl
theorem dksL_law_33 : cL_law.data.toList.drop 971 = dktL_law_33 := dk_seg dksL_law_32 23 rfl rfl
theorem dksL_law_34 : cL_law.data.toList.drop 994 = dktL_law_34 := dk_seg dksL_law_33 23 rfl rfl
theorem dksL_law_35 : cL_law.data.toList.drop 1017 = dktL_law_35 := dk_seg dksL_law_34 23 rfl rfl
theorem dksL_law_36 : cL_law.data.toList.drop 1040 = dktL_law_36 := dk_seg dksL_law_35 23 rfl rfl
theorem dksL_law_37 : cL_law.data.toList.drop 1064 = dktL_law_37 := dk_seg dksL_law_36 24 rfl rfl
theorem dksL_law_38 : cL_law.data.toList.drop 1087 = dktL_law_38 := dk_seg dksL_law_37 23 rfl rfl
theorem dksL_law_39 : cL_law.data.toList.drop 1111 = dktL_law_39 := dk_seg dksL_law_38 24 rfl rfl
theorem dksL_law_40 : cL_law.data.toList.drop 1135 = dktL_law_40 := dk_seg dksL_law_39 24 rfl rfl
theorem dksL_law_41 : cL_law.data.toList.drop 1157 = dktL_law_41 := dk_seg dksL_law_40 22 rfl rfl
theorem dksL_law_42 : cL_law.data.toList.drop 1179 = dktL_law_42 := dk_seg dksL_law_41 22 rfl rfl
theorem dksL_law_43 : cL_law.data.toList.drop 1203 = dktL_law_43 := dk_seg dksL_law_42 24 rfl rfl
theorem dksL_law_44 : cL_law.data.toList.drop 1225 = dktL_law_44 := dk_seg dksL_law_43 22 rfl rfl
theorem dksL_law_45 : cL_law.data.toList.drop 1247 = dktL_law_45 := dk_seg dksL_law_44 22 rfl rfl
theorem dksL_law_46 : cL_law.data.toList.drop 1270 = dktL_law_46 := dk_seg dksL_law_45 23 rfl rfl
theorem dksL_law_47 : cL_law.data.toList.drop 1294 = dktL_law_47 := dk_seg dksL_law_46 24 rfl rfl
theorem dksL_law_48 : cL_law.data.toList.drop 1317 = dktL_law_48 := dk_seg dksL_law_47 23 rfl rfl
theorem dksL_law_49 : cL_law.data.toList.drop 1341 = dktL_law_49 := dk_seg dksL_law_48 24 rfl rfl
theorem dksL_law_50 : cL_law.data.toList.drop 1363 = dktL_law_50 := dk_seg dksL_law_49 22 rfl rfl
theorem dksL_law_51 : cL_law.data.toList.drop 1387 = dktL_law_51 := dk_seg dksL_law_50 24 rfl rfl
theorem dksL_law_52 : cL_law.data.toList.drop 1409 = dktL_law_52 := dk_seg dksL_law_51 22 rfl rfl
theorem dksL_law_53 : cL_law.data.toList.drop 1433 = dktL_law_53 := dk_seg dksL_law_52 24 rfl rfl
theorem dksL_law_54 : cL_law.data.toList.drop 1456 = dktL_law_54 := dk_seg dksL_law_53 23 rfl rfl
theorem dksL_law_55 : cL_law.data.toList.drop 1480 = dktL_law_55 := dk_seg dksL_law_54 24 rfl rfl
theorem dksL_law_56 : cL_law.data.toList.drop 1503 = dktL_law_56 := dk_seg dksL_law_55 23 rfl rfl
theorem dksL_law_57 : cL_law.data.toList.drop 1527 = dktL_law_57 := dk_seg dksL_law_56 24 rfl rfl
theorem dksL_law_58 : cL_law.data.toList.drop 1551 = dktL_law_58 := dk_seg dksL_law_57 24 rfl rfl
theorem dksL_law_59 : cL_law.data.toList.drop 1574 = dktL_law_59 := dk_seg dksL_law_58 23 rfl rfl
theorem dksL_law_60 : cL_law.data.toList.drop 1598 = dktL_law_60 := dk_seg dksL_law_59 24 rfl rfl
theorem dksL_law_61 : cL_law.data.toList.drop 1622 = dktL_law_61 := dk_seg dksL_law_60 24 rfl rfl
theorem dksL_law_62 : cL_law.data.toList.drop 1645 = dktL_law_62 := dk_seg dksL_law_61 23 rfl rfl
theorem dksL_law_63 : cL_law.data.toList.drop 1669 = dktL_law_63 := dk_seg dksL_law_62 24 rfl rfl
theorem dksL_law_64 : cL_law.data.toList.drop 1692 = dktL_law_64 := dk_seg dksL_law_63 23 rfl rfl
theorem dksL_law_65 : cL_law.data.toList.drop 1716 = dktL_law_65 := dk_seg dksL_law_64 24 rfl rfl
theorem dksL_law_66 : cL_law.data.toList.drop 1740 = dktL_law_66 := dk_seg dksL_law_65 24 rfl rfl
theorem dksL_law_67 : cL_law.data.toList.drop 1763 = dktL_law_67 := dk_seg dksL_law_66 23 rfl rfl
theorem dksL_law_68 : cL_law.data.toList.drop 1785 = dktL_law_68 := dk_seg dksL_law_67 22 rfl rfl
theorem dksL_law_69 : cL_law.data.toList.drop 1808 = dktL_law_69 := dk_seg dksL_law_68 23 rfl rfl
theorem dksL_law_70 : cL_law.data.toList.drop 1832 = dktL_law_70 := dk_seg dksL_law_69 24 rfl rfl
theorem dksL_law_71 : cL_law.data.toList.drop 1855 = dktL_law_71 := dk_seg dksL_law_70 23 rfl rfl
theorem dksL_law_72 : cL_law.data.toList.drop 1879 = dktL_law_72 := dk_seg dksL_law_71 24 rfl rfl
theorem dksL_law_73 : cL_law.data.toList.drop 1902 = dktL_law_73 := dk_seg dksL_law_72 23 rfl rfl
theorem dksL_law_74 : cL_law.data.toList.drop 1926 = dktL_law_74 := dk_seg dksL_law_73 24 rfl rfl
theorem dksL_law_75 : cL_law.data.toList.drop 1948 = dktL_law_75 := dk_seg dksL_law_74 22 rfl rfl
theorem dksL_law_76 : cL_law.data.toList.drop 1971 = dktL_law_76 := dk_seg dksL_law_75 23 rfl rfl
theorem dksL_law_77 : cL_law.data.toList.drop 1994 = dktL_law_77 := dk_seg dksL_law_76 23 rfl rfl
theorem dksL_law_78 : cL_law.data.toList.drop 2018 = dktL_law_78 := dk_seg dksL_law_77 24 rfl rfl
theorem dksL_law_79 : cL_law.data.toList.drop 2041 = dktL_law_79 := dk_seg dksL_law_78 23 rfl rfl
theorem dksL_law_80 : cL_law.data.toList.drop 2065 = dktL_law_80 := dk_seg dksL_law_79 24 rfl rfl
theorem dksL_law_81 : cL_law.data.toList.drop 2089 = dktL_law_81 := dk_seg dksL_law_80 24 rfl rfl
theorem dksL_law_82 : cL_law.data.toList.drop 2112 = dktL_law_82 := dk_seg dksL_law_81 23 rfl rfl
theorem dksL_law_83 : cL_law.data.toList.drop 2135 = dktL_law_83 := dk_seg dksL_law_82 23 rfl rfl
theorem dksL_law_84 : cL_law.data.toList.drop 2158 = dktL_law_84 := dk_seg dksL_law_83 23 rfl rfl
theorem dksL_law_85 : cL_law.data.toList.drop 2181 = dktL_law_85 := dk_seg dksL_law_84 23 rfl rfl
theorem dksL_law_86 : cL_law.data.toList.drop 2203 = dktL_law_86 := dk_seg dksL_law_85 22 rfl rfl
theorem dksL_law_87 : cL_law.data.toList.drop 2227 = dktL_law_87 := dk_seg dksL_law_86 24 rfl rfl
theorem dksL_law_88 : cL_law.data.toList.drop 2251 = dktL_law_88 := dk_seg dksL_law_87 24 rfl rfl
theorem dksL_law_89 : cL_law.data.toList.drop 2275 = dktL_law_89 := dk_seg dksL_law_88 24 rfl rfl
theorem dksL_law_90 : cL_law.data.toList.drop 2299 = dktL_law_90 := dk_seg dksL_law_89 24 rfl rfl
theorem dksL_law_91 : cL_law.data.toList.drop 2323 = dktL_law_91 := dk_seg dksL_law_90 24 rfl rfl
theorem dksL_law_92 : cL_law.data.toList.drop 2347 = dktL_law_92 := dk_seg dksL_law_91 24 rfl rfl
theorem dksL_law_93 : cL_law.data.toList.drop 2371 = dktL_law_93 := dk_seg dksL_law_92 24 rfl rfl
theorem dksL_law_94 : cL_law.data.toList.drop 2394 = dktL_law_94 := dk_seg dksL_law_93 23 rfl rfl
theorem dksL_law_95 : cL_law.data.toList.drop 2418 = dktL_law_95 := dk_seg dksL_law_94 24 rfl rfl
theorem dksL_law_96 : cL_law.data.toList.drop 2442 = dktL_law_96 := dk_seg dksL_law_95 24 rfl rfl
theorem dksL_law_97 : cL_law.data.toList.drop 2466 = dktL_law_97 := dk_seg dksL_law_96 24 rfl rfl
theorem dksL_law_98 : cL_law.data.toList.drop 2490 = dktL_law_98 := dk_seg dksL_law_97 24 rfl rfl
theorem dksL_law_99 : cL_law.data.toList.drop 2514 = dktL_law_99 := dk_seg dksL_law_98 24 rfl rfl
theorem dksL_law_100 : cL_law.data.toList.drop 2538 = dktL_law_100 := dk_seg dksL_law_99 24 rfl rfl
theorem dksL_law_101 : cL_law.data.toList.drop 2562 = dktL_law_101 := dk_seg dksL_law_100 24 rfl rfl
theorem dksL_law_102 : cL_law.data.toList.drop 2584 = dktL_law_102 := dk_seg dksL_law_101 22 rfl rfl
theorem dksL_law_103 : cL_law.data.toList.drop 2606 = dktL_law_103 := dk_seg dksL_law_102 22 rfl rfl
theorem dksL_law_104 : cL_law.data.toList.drop 2629 = dktL_law_104 := dk_seg dksL_law_103 23 rfl rfl
theorem dksL_law_105 : cL_law.data.toList.drop 2653 = dktL_law_105 := dk_seg dksL_law_104 24 rfl rfl
theorem dksL_law_106 : cL_law.data.toList.drop 2676 = dktL_law_106 := dk_seg dksL_law_105 23 rfl rfl
theorem dksL_law_107 : cL_law.data.toList.drop 2698 = dktL_law_107 := dk_seg dksL_law_106 22 rfl rfl
theorem dksL_law_108 : cL_law.data.toList.drop 2720 = dktL_law_108 := dk_seg dksL_law_107 22 rfl rfl
theorem dL_law_0 : decode cL_law 0 = .ok (.new 8, 3) := dk_187 0 8 (dk_at dksL_law_0 0 rfl rfl)
theorem dL_law_3 : decode cL_law 3 = .ok (.dup, 1) := dk_89 (dk_at dksL_law_0 3 rfl rfl)
theorem dL_law_4 : decode cL_law 4 = .ok (.invokespecial 128, 3) := dk_183 0 128 (dk_at dksL_law_0 4 rfl rfl)
theorem dL_law_7 : decode cL_law 7 = .ok (.astore_n 1, 1) := dk_76 (dk_at dksL_law_0 7 rfl rfl)
theorem dL_law_8 : decode cL_law 8 = .ok (.new 129, 3) := dk_187 0 129 (dk_at dksL_law_0 8 rfl rfl)
theorem dL_law_11 : decode cL_law 11 = .ok (.dup, 1) := dk_89 (dk_at dksL_law_0 11 rfl rfl)
theorem dL_law_12 : decode cL_law 12 = .ok (.invokespecial 131, 3) := dk_183 0 131 (dk_at dksL_law_0 12 rfl rfl)
theorem dL_law_15 : decode cL_law 15 = .ok (.astore_n 2, 1) := dk_77 (dk_at dksL_law_0 15 rfl rfl)
theorem dL_law_16 : decode cL_law 16 = .ok (.iconst 1, 1) := dk_4 (dk_at dksL_law_0 16 rfl rfl)
theorem dL_law_17 : decode cL_law 17 = .ok (.newarray .long, 2) := dk_188_11 (dk_at dksL_law_0 17 rfl rfl)
theorem dL_law_19 : decode cL_law 19 = .ok (.astore_n 3, 1) := dk_78 (dk_at dksL_law_0 19 rfl rfl)
theorem dL_law_20 : decode cL_law 20 = .ok (.iconst 0, 1) := dk_3 (dk_at dksL_law_0 20 rfl rfl)
theorem dL_law_21 : decode cL_law 21 = .ok (.istore 4, 2) := dk_54 4 (dk_at dksL_law_0 21 rfl rfl)
theorem dL_law_23 : decode cL_law 23 = .ok (.iload 4, 2) := dk_21 4 (dk_at dksL_law_1 0 rfl rfl)
theorem dL_law_25 : decode cL_law 25 = .ok (.aload_n 0, 1) := dk_42 (dk_at dksL_law_1 2 rfl rfl)
theorem dL_law_26 : decode cL_law 26 = .ok (.arraylength, 1) := dk_190 (dk_at dksL_law_1 3 rfl rfl)
theorem dL_law_27 : decode cL_law 27 = .ok (.iconst 4, 1) := dk_7 (dk_at dksL_law_1 4 rfl rfl)
theorem dL_law_28 : decode cL_law 28 = .ok (.isub, 1) := dk_100 (dk_at dksL_law_1 5 rfl rfl)
theorem dL_law_29 : decode cL_law 29 = .ok (.if_icmp .gt 2697, 3) := dk_163 10 137 (dk_at dksL_law_1 6 rfl rfl)
theorem dL_law_32 : decode cL_law 32 = .ok (.aload_n 0, 1) := dk_42 (dk_at dksL_law_1 9 rfl rfl)
theorem dL_law_33 : decode cL_law 33 = .ok (.iload 4, 2) := dk_21 4 (dk_at dksL_law_1 10 rfl rfl)
theorem dL_law_35 : decode cL_law 35 = .ok (.iaload, 1) := dk_46 (dk_at dksL_law_1 12 rfl rfl)
theorem dL_law_36 : decode cL_law 36 = .ok (.bipush 63, 2) := dk_16 63 (dk_at dksL_law_1 13 rfl rfl)
theorem dL_law_38 : decode cL_law 38 = .ok (.iand, 1) := dk_126 (dk_at dksL_law_1 15 rfl rfl)
theorem dL_law_39 : decode cL_law 39 = .ok (.tableswitch 2681 0 55 #[237, 293, 361, 429, 497, 565, 645, 713, 769, 825, 838, 894, 950, 963, 1019, 1075, 1143, 1211, 1267, 1323, 1336, 1349, 1362, 1375, 1388, 1444, 1500, 1568, 1624, 1680, 1693, 1749, 1805, 1861, 1917, 1973, 2029, 2042, 2055, 2068, 2081, 2137, 2150, 2163, 2204, 2279, 2347, 2360, 2440, 2453, 2497, 2553, 2566, 2579, 2623, 2667], 237) := by decide +kernel
theorem dL_law_276 : decode cL_law 276 = .ok (.aload_n 1, 1) := dk_43 (dk_at dksL_law_3 0 rfl rfl)
theorem dL_law_277 : decode cL_law 277 = .ok (.aload_n 0, 1) := dk_42 (dk_at dksL_law_3 1 rfl rfl)
theorem dL_law_278 : decode cL_law 278 = .ok (.iload 4, 2) := dk_21 4 (dk_at dksL_law_3 2 rfl rfl)
theorem dL_law_280 : decode cL_law 280 = .ok (.iconst 1, 1) := dk_4 (dk_at dksL_law_3 4 rfl rfl)
theorem dL_law_281 : decode cL_law 281 = .ok (.iadd, 1) := dk_96 (dk_at dksL_law_3 5 rfl rfl)
theorem dL_law_282 : decode cL_law 282 = .ok (.iaload, 1) := dk_46 (dk_at dksL_law_3 6 rfl rfl)
theorem dL_law_283 : decode cL_law 283 = .ok (.aload_n 3, 1) := dk_45 (dk_at dksL_law_3 7 rfl rfl)
theorem dL_law_284 : decode cL_law 284 = .ok (.invokestatic 132, 3) := dk_184 0 132 (dk_at dksL_law_3 8 rfl rfl)
theorem dL_law_287 : decode cL_law 287 = .ok (.istore 5, 2) := dk_54 5 (dk_at dksL_law_3 11 rfl rfl)
theorem dL_law_289 : decode cL_law 289 = .ok (.aload_n 2, 1) := dk_44 (dk_at dksL_law_3 13 rfl rfl)
theorem dL_law_290 : decode cL_law 290 = .ok (.aload_n 0, 1) := dk_42 (dk_at dksL_law_3 14 rfl rfl)
theorem dL_law_291 : decode cL_law 291 = .ok (.iload 4, 2) := dk_21 4 (dk_at dksL_law_3 15 rfl rfl)
theorem dL_law_293 : decode cL_law 293 = .ok (.iconst 1, 1) := dk_4 (dk_at dksL_law_3 17 rfl rfl)
theorem dL_law_294 : decode cL_law 294 = .ok (.iadd, 1) := dk_96 (dk_at dksL_law_3 18 rfl rfl)
theorem dL_law_295 : decode cL_law 295 = .ok (.iaload, 1) := dk_46 (dk_at dksL_law_3 19 rfl rfl)
theorem dL_law_296 : decode cL_law 296 = .ok (.invokevirtual 137, 3) := dk_182 0 137 (dk_at dksL_law_3 20 rfl rfl)
theorem dL_law_299 : decode cL_law 299 = .ok (.istore 6, 2) := dk_54 6 (dk_at dksL_law_4 0 rfl rfl)
theorem dL_law_301 : decode cL_law 301 = .ok (.aload_n 2, 1) := dk_44 (dk_at dksL_law_4 2 rfl rfl)
theorem dL_law_302 : decode cL_law 302 = .ok (.invokevirtual 138, 3) := dk_182 0 138 (dk_at dksL_law_4 3 rfl rfl)
theorem dL_law_305 : decode cL_law 305 = .ok (.iload 5, 2) := dk_21 5 (dk_at dksL_law_4 6 rfl rfl)
theorem dL_law_307 : decode cL_law 307 = .ok (.if_icmp .eq 5, 3) := dk_159 0 5 (dk_at dksL_law_4 8 rfl rfl)
theorem dL_law_310 : decode cL_law 310 = .ok (.iconst 0, 1) := dk_3 (dk_at dksL_law_4 11 rfl rfl)
theorem dL_law_311 : decode cL_law 311 = .ok (.ireturn, 1) := dk_172 (dk_at dksL_law_4 12 rfl rfl)
theorem dL_law_312 : decode cL_law 312 = .ok (.iload 5, 2) := dk_21 5 (dk_at dksL_law_4 13 rfl rfl)
theorem dL_law_314 : decode cL_law 314 = .ok (.ifCond .ne 15, 3) := dk_154 0 15 (dk_at dksL_law_4 15 rfl rfl)
theorem dL_law_317 : decode cL_law 317 = .ok (.aload_n 3, 1) := dk_45 (dk_at dksL_law_4 18 rfl rfl)
theorem dL_law_318 : decode cL_law 318 = .ok (.iconst 0, 1) := dk_3 (dk_at dksL_law_4 19 rfl rfl)
theorem dL_law_319 : decode cL_law 319 = .ok (.laload, 1) := dk_47 (dk_at dksL_law_4 20 rfl rfl)
theorem dL_law_320 : decode cL_law 320 = .ok (.iload 6, 2) := dk_21 6 (dk_at dksL_law_4 21 rfl rfl)
theorem dL_law_322 : decode cL_law 322 = .ok (.i2l, 1) := dk_133 (dk_at dksL_law_4 23 rfl rfl)
theorem dL_law_323 : decode cL_law 323 = .ok (.lcmp, 1) := dk_148 (dk_at dksL_law_5 0 rfl rfl)
theorem dL_law_324 : decode cL_law 324 = .ok (.ifCond .eq 5, 3) := dk_153 0 5 (dk_at dksL_law_5 1 rfl rfl)
theorem dL_law_327 : decode cL_law 327 = .ok (.iconst 0, 1) := dk_3 (dk_at dksL_law_5 4 rfl rfl)
theorem dL_law_328 : decode cL_law 328 = .ok (.ireturn, 1) := dk_172 (dk_at dksL_law_5 5 rfl rfl)
theorem dL_law_329 : decode cL_law 329 = .ok (.goto 2391, 3) := dk_167 9 87 (dk_at dksL_law_5 6 rfl rfl)
theorem dL_law_332 : decode cL_law 332 = .ok (.aload_n 1, 1) := dk_43 (dk_at dksL_law_5 9 rfl rfl)
theorem dL_law_333 : decode cL_law 333 = .ok (.aload_n 0, 1) := dk_42 (dk_at dksL_law_5 10 rfl rfl)
theorem dL_law_334 : decode cL_law 334 = .ok (.iload 4, 2) := dk_21 4 (dk_at dksL_law_5 11 rfl rfl)
theorem dL_law_336 : decode cL_law 336 = .ok (.iconst 1, 1) := dk_4 (dk_at dksL_law_5 13 rfl rfl)
theorem dL_law_337 : decode cL_law 337 = .ok (.iadd, 1) := dk_96 (dk_at dksL_law_5 14 rfl rfl)
theorem dL_law_338 : decode cL_law 338 = .ok (.iaload, 1) := dk_46 (dk_at dksL_law_5 15 rfl rfl)
theorem dL_law_339 : decode cL_law 339 = .ok (.aload_n 0, 1) := dk_42 (dk_at dksL_law_5 16 rfl rfl)
theorem dL_law_340 : decode cL_law 340 = .ok (.iload 4, 2) := dk_21 4 (dk_at dksL_law_5 17 rfl rfl)
theorem dL_law_342 : decode cL_law 342 = .ok (.iconst 2, 1) := dk_5 (dk_at dksL_law_5 19 rfl rfl)
theorem dL_law_343 : decode cL_law 343 = .ok (.iadd, 1) := dk_96 (dk_at dksL_law_5 20 rfl rfl)
theorem dL_law_344 : decode cL_law 344 = .ok (.iaload, 1) := dk_46 (dk_at dksL_law_5 21 rfl rfl)
theorem dL_law_345 : decode cL_law 345 = .ok (.aload_n 3, 1) := dk_45 (dk_at dksL_law_5 22 rfl rfl)
theorem dL_law_346 : decode cL_law 346 = .ok (.invokestatic 141, 3) := dk_184 0 141 (dk_at dksL_law_6 0 rfl rfl)
theorem dL_law_349 : decode cL_law 349 = .ok (.istore 5, 2) := dk_54 5 (dk_at dksL_law_6 3 rfl rfl)
theorem dL_law_351 : decode cL_law 351 = .ok (.aload_n 2, 1) := dk_44 (dk_at dksL_law_6 5 rfl rfl)
theorem dL_law_352 : decode cL_law 352 = .ok (.aload_n 0, 1) := dk_42 (dk_at dksL_law_6 6 rfl rfl)
theorem dL_law_353 : decode cL_law 353 = .ok (.iload 4, 2) := dk_21 4 (dk_at dksL_law_6 7 rfl rfl)
theorem dL_law_355 : decode cL_law 355 = .ok (.iconst 1, 1) := dk_4 (dk_at dksL_law_6 9 rfl rfl)
theorem dL_law_356 : decode cL_law 356 = .ok (.iadd, 1) := dk_96 (dk_at dksL_law_6 10 rfl rfl)
theorem dL_law_357 : decode cL_law 357 = .ok (.iaload, 1) := dk_46 (dk_at dksL_law_6 11 rfl rfl)
theorem dL_law_358 : decode cL_law 358 = .ok (.aload_n 0, 1) := dk_42 (dk_at dksL_law_6 12 rfl rfl)
theorem dL_law_359 : decode cL_law 359 = .ok (.iload 4, 2) := dk_21 4 (dk_at dksL_law_6 13 rfl rfl)
theorem dL_law_361 : decode cL_law 361 = .ok (.iconst 2, 1) := dk_5 (dk_at dksL_law_6 15 rfl rfl)
theorem dL_law_362 : decode cL_law 362 = .ok (.iadd, 1) := dk_96 (dk_at dksL_law_6 16 rfl rfl)
theorem dL_law_363 : decode cL_law 363 = .ok (.iaload, 1) := dk_46 (dk_at dksL_law_6 17 rfl rfl)
theorem dL_law_364 : decode cL_law 364 = .ok (.invokevirtual 144, 3) := dk_182 0 144 (dk_at dksL_law_6 18 rfl rfl)
theorem dL_law_367 : decode cL_law 367 = .ok (.istore 6, 2) := dk_54 6 (dk_at dksL_law_6 21 rfl rfl)
theorem dL_law_369 : decode cL_law 369 = .ok (.aload_n 2, 1) := dk_44 (dk_at dksL_law_6 23 rfl rfl)
theorem dL_law_370 : decode cL_law 370 = .ok (.invokevirtual 138, 3) := dk_182 0 138 (dk_at dksL_law_7 0 rfl rfl)
theorem dL_law_373 : decode cL_law 373 = .ok (.iload 5, 2) := dk_21 5 (dk_at dksL_law_7 3 rfl rfl)
theorem dL_law_375 : decode cL_law 375 = .ok (.if_icmp .eq 5, 3) := dk_159 0 5 (dk_at dksL_law_7 5 rfl rfl)
theorem dL_law_378 : decode cL_law 378 = .ok (.iconst 0, 1) := dk_3 (dk_at dksL_law_7 8 rfl rfl)
theorem dL_law_379 : decode cL_law 379 = .ok (.ireturn, 1) := dk_172 (dk_at dksL_law_7 9 rfl rfl)
theorem dL_law_380 : decode cL_law 380 = .ok (.iload 5, 2) := dk_21 5 (dk_at dksL_law_7 10 rfl rfl)
theorem dL_law_382 : decode cL_law 382 = .ok (.ifCond .ne 15, 3) := dk_154 0 15 (dk_at dksL_law_7 12 rfl rfl)
theorem dL_law_385 : decode cL_law 385 = .ok (.aload_n 3, 1) := dk_45 (dk_at dksL_law_7 15 rfl rfl)
theorem dL_law_386 : decode cL_law 386 = .ok (.iconst 0, 1) := dk_3 (dk_at dksL_law_7 16 rfl rfl)
theorem dL_law_387 : decode cL_law 387 = .ok (.laload, 1) := dk_47 (dk_at dksL_law_7 17 rfl rfl)
theorem dL_law_388 : decode cL_law 388 = .ok (.iload 6, 2) := dk_21 6 (dk_at dksL_law_7 18 rfl rfl)
theorem dL_law_390 : decode cL_law 390 = .ok (.i2l, 1) := dk_133 (dk_at dksL_law_7 20 rfl rfl)
theorem dL_law_391 : decode cL_law 391 = .ok (.lcmp, 1) := dk_148 (dk_at dksL_law_7 21 rfl rfl)
theorem dL_law_392 : decode cL_law 392 = .ok (.ifCond .eq 5, 3) := dk_153 0 5 (dk_at dksL_law_8 0 rfl rfl)
theorem dL_law_395 : decode cL_law 395 = .ok (.iconst 0, 1) := dk_3 (dk_at dksL_law_8 3 rfl rfl)
theorem dL_law_396 : decode cL_law 396 = .ok (.ireturn, 1) := dk_172 (dk_at dksL_law_8 4 rfl rfl)
theorem dL_law_397 : decode cL_law 397 = .ok (.goto 2323, 3) := dk_167 9 19 (dk_at dksL_law_8 5 rfl rfl)
theorem dL_law_400 : decode cL_law 400 = .ok (.aload_n 1, 1) := dk_43 (dk_at dksL_law_8 8 rfl rfl)
theorem dL_law_401 : decode cL_law 401 = .ok (.aload_n 0, 1) := dk_42 (dk_at dksL_law_8 9 rfl rfl)
theorem dL_law_402 : decode cL_law 402 = .ok (.iload 4, 2) := dk_21 4 (dk_at dksL_law_8 10 rfl rfl)
theorem dL_law_404 : decode cL_law 404 = .ok (.iconst 1, 1) := dk_4 (dk_at dksL_law_8 12 rfl rfl)
theorem dL_law_405 : decode cL_law 405 = .ok (.iadd, 1) := dk_96 (dk_at dksL_law_8 13 rfl rfl)
theorem dL_law_406 : decode cL_law 406 = .ok (.iaload, 1) := dk_46 (dk_at dksL_law_8 14 rfl rfl)
theorem dL_law_407 : decode cL_law 407 = .ok (.aload_n 0, 1) := dk_42 (dk_at dksL_law_8 15 rfl rfl)
theorem dL_law_408 : decode cL_law 408 = .ok (.iload 4, 2) := dk_21 4 (dk_at dksL_law_8 16 rfl rfl)
theorem dL_law_410 : decode cL_law 410 = .ok (.iconst 2, 1) := dk_5 (dk_at dksL_law_8 18 rfl rfl)
theorem dL_law_411 : decode cL_law 411 = .ok (.iadd, 1) := dk_96 (dk_at dksL_law_8 19 rfl rfl)
theorem dL_law_412 : decode cL_law 412 = .ok (.iaload, 1) := dk_46 (dk_at dksL_law_8 20 rfl rfl)
theorem dL_law_413 : decode cL_law 413 = .ok (.aload_n 3, 1) := dk_45 (dk_at dksL_law_8 21 rfl rfl)
theorem dL_law_414 : decode cL_law 414 = .ok (.invokestatic 145, 3) := dk_184 0 145 (dk_at dksL_law_9 0 rfl rfl)
theorem dL_law_417 : decode cL_law 417 = .ok (.istore 5, 2) := dk_54 5 (dk_at dksL_law_9 3 rfl rfl)
theorem dL_law_419 : decode cL_law 419 = .ok (.aload_n 2, 1) := dk_44 (dk_at dksL_law_9 5 rfl rfl)
theorem dL_law_420 : decode cL_law 420 = .ok (.aload_n 0, 1) := dk_42 (dk_at dksL_law_9 6 rfl rfl)
theorem dL_law_421 : decode cL_law 421 = .ok (.iload 4, 2) := dk_21 4 (dk_at dksL_law_9 7 rfl rfl)
theorem dL_law_423 : decode cL_law 423 = .ok (.iconst 1, 1) := dk_4 (dk_at dksL_law_9 9 rfl rfl)
theorem dL_law_424 : decode cL_law 424 = .ok (.iadd, 1) := dk_96 (dk_at dksL_law_9 10 rfl rfl)
theorem dL_law_425 : decode cL_law 425 = .ok (.iaload, 1) := dk_46 (dk_at dksL_law_9 11 rfl rfl)
theorem dL_law_426 : decode cL_law 426 = .ok (.aload_n 0, 1) := dk_42 (dk_at dksL_law_9 12 rfl rfl)
theorem dL_law_427 : decode cL_law 427 = .ok (.iload 4, 2) := dk_21 4 (dk_at dksL_law_9 13 rfl rfl)
theorem dL_law_429 : decode cL_law 429 = .ok (.iconst 2, 1) := dk_5 (dk_at dksL_law_9 15 rfl rfl)
theorem dL_law_430 : decode cL_law 430 = .ok (.iadd, 1) := dk_96 (dk_at dksL_law_9 16 rfl rfl)
theorem dL_law_431 : decode cL_law 431 = .ok (.iaload, 1) := dk_46 (dk_at dksL_law_9 17 rfl rfl)
theorem dL_law_432 : decode cL_law 432 = .ok (.invokevirtual 147, 3) := dk_182 0 147 (dk_at dksL_law_9 18 rfl rfl)
theorem dL_law_435 : decode cL_law 435 = .ok (.istore 6, 2) := dk_54 6 (dk_at dksL_law_9 21 rfl rfl)
theorem dL_law_437 : decode cL_law 437 = .ok (.aload_n 2, 1) := dk_44 (dk_at dksL_law_9 23 rfl rfl)
theorem dL_law_438 : decode cL_law 438 = .ok (.invokevirtual 138, 3) := dk_182 0 138 (dk_at dksL_law_10 0 rfl rfl)
theorem dL_law_441 : decode cL_law 441 = .ok (.iload 5, 2) := dk_21 5 (dk_at dksL_law_10 3 rfl rfl)
theorem dL_law_443 : decode cL_law 443 = .ok (.if_icmp .eq 5, 3) := dk_159 0 5 (dk_at dksL_law_10 5 rfl rfl)
theorem dL_law_446 : decode cL_law 446 = .ok (.iconst 0, 1) := dk_3 (dk_at dksL_law_10 8 rfl rfl)
theorem dL_law_447 : decode cL_law 447 = .ok (.ireturn, 1) := dk_172 (dk_at dksL_law_10 9 rfl rfl)
theorem dL_law_448 : decode cL_law 448 = .ok (.iload 5, 2) := dk_21 5 (dk_at dksL_law_10 10 rfl rfl)
theorem dL_law_450 : decode cL_law 450 = .ok (.ifCond .ne 15, 3) := dk_154 0 15 (dk_at dksL_law_10 12 rfl rfl)
theorem dL_law_453 : decode cL_law 453 = .ok (.aload_n 3, 1) := dk_45 (dk_at dksL_law_10 15 rfl rfl)
theorem dL_law_454 : decode cL_law 454 = .ok (.iconst 0, 1) := dk_3 (dk_at dksL_law_10 16 rfl rfl)
theorem dL_law_455 : decode cL_law 455 = .ok (.laload, 1) := dk_47 (dk_at dksL_law_10 17 rfl rfl)
theorem dL_law_456 : decode cL_law 456 = .ok (.iload 6, 2) := dk_21 6 (dk_at dksL_law_10 18 rfl rfl)
theorem dL_law_458 : decode cL_law 458 = .ok (.i2l, 1) := dk_133 (dk_at dksL_law_10 20 rfl rfl)
theorem dL_law_459 : decode cL_law 459 = .ok (.lcmp, 1) := dk_148 (dk_at dksL_law_10 21 rfl rfl)
theorem dL_law_460 : decode cL_law 460 = .ok (.ifCond .eq 5, 3) := dk_153 0 5 (dk_at dksL_law_11 0 rfl rfl)
theorem dL_law_463 : decode cL_law 463 = .ok (.iconst 0, 1) := dk_3 (dk_at dksL_law_11 3 rfl rfl)
theorem dL_law_464 : decode cL_law 464 = .ok (.ireturn, 1) := dk_172 (dk_at dksL_law_11 4 rfl rfl)
theorem dL_law_465 : decode cL_law 465 = .ok (.goto 2255, 3) := dk_167 8 207 (dk_at dksL_law_11 5 rfl rfl)
theorem dL_law_468 : decode cL_law 468 = .ok (.aload_n 1, 1) := dk_43 (dk_at dksL_law_11 8 rfl rfl)
theorem dL_law_469 : decode cL_law 469 = .ok (.aload_n 0, 1) := dk_42 (dk_at dksL_law_11 9 rfl rfl)
theorem dL_law_470 : decode cL_law 470 = .ok (.iload 4, 2) := dk_21 4 (dk_at dksL_law_11 10 rfl rfl)
theorem dL_law_472 : decode cL_law 472 = .ok (.iconst 1, 1) := dk_4 (dk_at dksL_law_11 12 rfl rfl)
theorem dL_law_473 : decode cL_law 473 = .ok (.iadd, 1) := dk_96 (dk_at dksL_law_11 13 rfl rfl)
theorem dL_law_474 : decode cL_law 474 = .ok (.iaload, 1) := dk_46 (dk_at dksL_law_11 14 rfl rfl)
theorem dL_law_475 : decode cL_law 475 = .ok (.aload_n 0, 1) := dk_42 (dk_at dksL_law_11 15 rfl rfl)
theorem dL_law_476 : decode cL_law 476 = .ok (.iload 4, 2) := dk_21 4 (dk_at dksL_law_11 16 rfl rfl)
theorem dL_law_478 : decode cL_law 478 = .ok (.iconst 2, 1) := dk_5 (dk_at dksL_law_11 18 rfl rfl)
theorem dL_law_479 : decode cL_law 479 = .ok (.iadd, 1) := dk_96 (dk_at dksL_law_11 19 rfl rfl)
theorem dL_law_480 : decode cL_law 480 = .ok (.iaload, 1) := dk_46 (dk_at dksL_law_11 20 rfl rfl)
theorem dL_law_481 : decode cL_law 481 = .ok (.aload_n 3, 1) := dk_45 (dk_at dksL_law_11 21 rfl rfl)
theorem dL_law_482 : decode cL_law 482 = .ok (.invokestatic 148, 3) := dk_184 0 148 (dk_at dksL_law_12 0 rfl rfl)
theorem dL_law_485 : decode cL_law 485 = .ok (.istore 5, 2) := dk_54 5 (dk_at dksL_law_12 3 rfl rfl)
theorem dL_law_487 : decode cL_law 487 = .ok (.aload_n 2, 1) := dk_44 (dk_at dksL_law_12 5 rfl rfl)
theorem dL_law_488 : decode cL_law 488 = .ok (.aload_n 0, 1) := dk_42 (dk_at dksL_law_12 6 rfl rfl)
theorem dL_law_489 : decode cL_law 489 = .ok (.iload 4, 2) := dk_21 4 (dk_at dksL_law_12 7 rfl rfl)
theorem dL_law_491 : decode cL_law 491 = .ok (.iconst 1, 1) := dk_4 (dk_at dksL_law_12 9 rfl rfl)
theorem dL_law_492 : decode cL_law 492 = .ok (.iadd, 1) := dk_96 (dk_at dksL_law_12 10 rfl rfl)
theorem dL_law_493 : decode cL_law 493 = .ok (.iaload, 1) := dk_46 (dk_at dksL_law_12 11 rfl rfl)
theorem dL_law_494 : decode cL_law 494 = .ok (.aload_n 0, 1) := dk_42 (dk_at dksL_law_12 12 rfl rfl)
theorem dL_law_495 : decode cL_law 495 = .ok (.iload 4, 2) := dk_21 4 (dk_at dksL_law_12 13 rfl rfl)
theorem dL_law_497 : decode cL_law 497 = .ok (.iconst 2, 1) := dk_5 (dk_at dksL_law_12 15 rfl rfl)
theorem dL_law_498 : decode cL_law 498 = .ok (.iadd, 1) := dk_96 (dk_at dksL_law_12 16 rfl rfl)
theorem dL_law_499 : decode cL_law 499 = .ok (.iaload, 1) := dk_46 (dk_at dksL_law_12 17 rfl rfl)
theorem dL_law_500 : decode cL_law 500 = .ok (.invokevirtual 150, 3) := dk_182 0 150 (dk_at dksL_law_12 18 rfl rfl)
theorem dL_law_503 : decode cL_law 503 = .ok (.istore 6, 2) := dk_54 6 (dk_at dksL_law_12 21 rfl rfl)
theorem dL_law_505 : decode cL_law 505 = .ok (.aload_n 2, 1) := dk_44 (dk_at dksL_law_12 23 rfl rfl)
theorem dL_law_506 : decode cL_law 506 = .ok (.invokevirtual 138, 3) := dk_182 0 138 (dk_at dksL_law_13 0 rfl rfl)
theorem dL_law_509 : decode cL_law 509 = .ok (.iload 5, 2) := dk_21 5 (dk_at dksL_law_13 3 rfl rfl)
theorem dL_law_511 : decode cL_law 511 = .ok (.if_icmp .eq 5, 3) := dk_159 0 5 (dk_at dksL_law_13 5 rfl rfl)
theorem dL_law_514 : decode cL_law 514 = .ok (.iconst 0, 1) := dk_3 (dk_at dksL_law_13 8 rfl rfl)
theorem dL_law_515 : decode cL_law 515 = .ok (.ireturn, 1) := dk_172 (dk_at dksL_law_13 9 rfl rfl)
theorem dL_law_516 : decode cL_law 516 = .ok (.iload 5, 2) := dk_21 5 (dk_at dksL_law_13 10 rfl rfl)
theorem dL_law_518 : decode cL_law 518 = .ok (.ifCond .ne 15, 3) := dk_154 0 15 (dk_at dksL_law_13 12 rfl rfl)
theorem dL_law_521 : decode cL_law 521 = .ok (.aload_n 3, 1) := dk_45 (dk_at dksL_law_13 15 rfl rfl)
theorem dL_law_522 : decode cL_law 522 = .ok (.iconst 0, 1) := dk_3 (dk_at dksL_law_13 16 rfl rfl)
theorem dL_law_523 : decode cL_law 523 = .ok (.laload, 1) := dk_47 (dk_at dksL_law_13 17 rfl rfl)
theorem dL_law_524 : decode cL_law 524 = .ok (.iload 6, 2) := dk_21 6 (dk_at dksL_law_13 18 rfl rfl)
theorem dL_law_526 : decode cL_law 526 = .ok (.i2l, 1) := dk_133 (dk_at dksL_law_13 20 rfl rfl)
theorem dL_law_527 : decode cL_law 527 = .ok (.lcmp, 1) := dk_148 (dk_at dksL_law_13 21 rfl rfl)
theorem dL_law_528 : decode cL_law 528 = .ok (.ifCond .eq 5, 3) := dk_153 0 5 (dk_at dksL_law_14 0 rfl rfl)
theorem dL_law_531 : decode cL_law 531 = .ok (.iconst 0, 1) := dk_3 (dk_at dksL_law_14 3 rfl rfl)
theorem dL_law_532 : decode cL_law 532 = .ok (.ireturn, 1) := dk_172 (dk_at dksL_law_14 4 rfl rfl)
theorem dL_law_533 : decode cL_law 533 = .ok (.goto 2187, 3) := dk_167 8 139 (dk_at dksL_law_14 5 rfl rfl)
theorem dL_law_536 : decode cL_law 536 = .ok (.aload_n 1, 1) := dk_43 (dk_at dksL_law_14 8 rfl rfl)
theorem dL_law_537 : decode cL_law 537 = .ok (.aload_n 0, 1) := dk_42 (dk_at dksL_law_14 9 rfl rfl)
theorem dL_law_538 : decode cL_law 538 = .ok (.iload 4, 2) := dk_21 4 (dk_at dksL_law_14 10 rfl rfl)
theorem dL_law_540 : decode cL_law 540 = .ok (.iconst 1, 1) := dk_4 (dk_at dksL_law_14 12 rfl rfl)
theorem dL_law_541 : decode cL_law 541 = .ok (.iadd, 1) := dk_96 (dk_at dksL_law_14 13 rfl rfl)
theorem dL_law_542 : decode cL_law 542 = .ok (.iaload, 1) := dk_46 (dk_at dksL_law_14 14 rfl rfl)
theorem dL_law_543 : decode cL_law 543 = .ok (.aload_n 0, 1) := dk_42 (dk_at dksL_law_14 15 rfl rfl)
theorem dL_law_544 : decode cL_law 544 = .ok (.iload 4, 2) := dk_21 4 (dk_at dksL_law_14 16 rfl rfl)
theorem dL_law_546 : decode cL_law 546 = .ok (.iconst 2, 1) := dk_5 (dk_at dksL_law_14 18 rfl rfl)
theorem dL_law_547 : decode cL_law 547 = .ok (.iadd, 1) := dk_96 (dk_at dksL_law_14 19 rfl rfl)
theorem dL_law_548 : decode cL_law 548 = .ok (.iaload, 1) := dk_46 (dk_at dksL_law_14 20 rfl rfl)
theorem dL_law_549 : decode cL_law 549 = .ok (.aload_n 3, 1) := dk_45 (dk_at dksL_law_14 21 rfl rfl)
theorem dL_law_550 : decode cL_law 550 = .ok (.invokestatic 151, 3) := dk_184 0 151 (dk_at dksL_law_15 0 rfl rfl)
theorem dL_law_553 : decode cL_law 553 = .ok (.istore 5, 2) := dk_54 5 (dk_at dksL_law_15 3 rfl rfl)
theorem dL_law_555 : decode cL_law 555 = .ok (.aload_n 2, 1) := dk_44 (dk_at dksL_law_15 5 rfl rfl)
theorem dL_law_556 : decode cL_law 556 = .ok (.aload_n 0, 1) := dk_42 (dk_at dksL_law_15 6 rfl rfl)
theorem dL_law_557 : decode cL_law 557 = .ok (.iload 4, 2) := dk_21 4 (dk_at dksL_law_15 7 rfl rfl)
theorem dL_law_559 : decode cL_law 559 = .ok (.iconst 1, 1) := dk_4 (dk_at dksL_law_15 9 rfl rfl)
theorem dL_law_560 : decode cL_law 560 = .ok (.iadd, 1) := dk_96 (dk_at dksL_law_15 10 rfl rfl)
theorem dL_law_561 : decode cL_law 561 = .ok (.iaload, 1) := dk_46 (dk_at dksL_law_15 11 rfl rfl)
theorem dL_law_562 : decode cL_law 562 = .ok (.aload_n 0, 1) := dk_42 (dk_at dksL_law_15 12 rfl rfl)
theorem dL_law_563 : decode cL_law 563 = .ok (.iload 4, 2) := dk_21 4 (dk_at dksL_law_15 13 rfl rfl)
theorem dL_law_565 : decode cL_law 565 = .ok (.iconst 2, 1) := dk_5 (dk_at dksL_law_15 15 rfl rfl)
theorem dL_law_566 : decode cL_law 566 = .ok (.iadd, 1) := dk_96 (dk_at dksL_law_15 16 rfl rfl)
theorem dL_law_567 : decode cL_law 567 = .ok (.iaload, 1) := dk_46 (dk_at dksL_law_15 17 rfl rfl)
theorem dL_law_568 : decode cL_law 568 = .ok (.invokevirtual 153, 3) := dk_182 0 153 (dk_at dksL_law_15 18 rfl rfl)
theorem dL_law_571 : decode cL_law 571 = .ok (.istore 6, 2) := dk_54 6 (dk_at dksL_law_15 21 rfl rfl)
theorem dL_law_573 : decode cL_law 573 = .ok (.aload_n 2, 1) := dk_44 (dk_at dksL_law_15 23 rfl rfl)
theorem dL_law_574 : decode cL_law 574 = .ok (.invokevirtual 138, 3) := dk_182 0 138 (dk_at dksL_law_16 0 rfl rfl)
theorem dL_law_577 : decode cL_law 577 = .ok (.iload 5, 2) := dk_21 5 (dk_at dksL_law_16 3 rfl rfl)
theorem dL_law_579 : decode cL_law 579 = .ok (.if_icmp .eq 5, 3) := dk_159 0 5 (dk_at dksL_law_16 5 rfl rfl)
theorem dL_law_582 : decode cL_law 582 = .ok (.iconst 0, 1) := dk_3 (dk_at dksL_law_16 8 rfl rfl)
theorem dL_law_583 : decode cL_law 583 = .ok (.ireturn, 1) := dk_172 (dk_at dksL_law_16 9 rfl rfl)
theorem dL_law_584 : decode cL_law 584 = .ok (.iload 5, 2) := dk_21 5 (dk_at dksL_law_16 10 rfl rfl)
theorem dL_law_586 : decode cL_law 586 = .ok (.ifCond .ne 15, 3) := dk_154 0 15 (dk_at dksL_law_16 12 rfl rfl)
theorem dL_law_589 : decode cL_law 589 = .ok (.aload_n 3, 1) := dk_45 (dk_at dksL_law_16 15 rfl rfl)
theorem dL_law_590 : decode cL_law 590 = .ok (.iconst 0, 1) := dk_3 (dk_at dksL_law_16 16 rfl rfl)
theorem dL_law_591 : decode cL_law 591 = .ok (.laload, 1) := dk_47 (dk_at dksL_law_16 17 rfl rfl)
theorem dL_law_592 : decode cL_law 592 = .ok (.iload 6, 2) := dk_21 6 (dk_at dksL_law_16 18 rfl rfl)
theorem dL_law_594 : decode cL_law 594 = .ok (.i2l, 1) := dk_133 (dk_at dksL_law_16 20 rfl rfl)
theorem dL_law_595 : decode cL_law 595 = .ok (.lcmp, 1) := dk_148 (dk_at dksL_law_16 21 rfl rfl)
theorem dL_law_596 : decode cL_law 596 = .ok (.ifCond .eq 5, 3) := dk_153 0 5 (dk_at dksL_law_17 0 rfl rfl)
theorem dL_law_599 : decode cL_law 599 = .ok (.iconst 0, 1) := dk_3 (dk_at dksL_law_17 3 rfl rfl)
theorem dL_law_600 : decode cL_law 600 = .ok (.ireturn, 1) := dk_172 (dk_at dksL_law_17 4 rfl rfl)
theorem dL_law_601 : decode cL_law 601 = .ok (.goto 2119, 3) := dk_167 8 71 (dk_at dksL_law_17 5 rfl rfl)
theorem dL_law_604 : decode cL_law 604 = .ok (.aload_n 1, 1) := dk_43 (dk_at dksL_law_17 8 rfl rfl)
theorem dL_law_605 : decode cL_law 605 = .ok (.aload_n 0, 1) := dk_42 (dk_at dksL_law_17 9 rfl rfl)
theorem dL_law_606 : decode cL_law 606 = .ok (.iload 4, 2) := dk_21 4 (dk_at dksL_law_17 10 rfl rfl)
theorem dL_law_608 : decode cL_law 608 = .ok (.iconst 1, 1) := dk_4 (dk_at dksL_law_17 12 rfl rfl)
theorem dL_law_609 : decode cL_law 609 = .ok (.iadd, 1) := dk_96 (dk_at dksL_law_17 13 rfl rfl)
theorem dL_law_610 : decode cL_law 610 = .ok (.iaload, 1) := dk_46 (dk_at dksL_law_17 14 rfl rfl)
theorem dL_law_611 : decode cL_law 611 = .ok (.aload_n 0, 1) := dk_42 (dk_at dksL_law_17 15 rfl rfl)
theorem dL_law_612 : decode cL_law 612 = .ok (.iload 4, 2) := dk_21 4 (dk_at dksL_law_17 16 rfl rfl)
theorem dL_law_614 : decode cL_law 614 = .ok (.iconst 2, 1) := dk_5 (dk_at dksL_law_17 18 rfl rfl)
theorem dL_law_615 : decode cL_law 615 = .ok (.iadd, 1) := dk_96 (dk_at dksL_law_17 19 rfl rfl)
theorem dL_law_616 : decode cL_law 616 = .ok (.iaload, 1) := dk_46 (dk_at dksL_law_17 20 rfl rfl)
theorem dL_law_617 : decode cL_law 617 = .ok (.aload_n 0, 1) := dk_42 (dk_at dksL_law_17 21 rfl rfl)
theorem dL_law_618 : decode cL_law 618 = .ok (.iload 4, 2) := dk_21 4 (dk_at dksL_law_17 22 rfl rfl)
theorem dL_law_620 : decode cL_law 620 = .ok (.iconst 3, 1) := dk_6 (dk_at dksL_law_18 0 rfl rfl)
theorem dL_law_621 : decode cL_law 621 = .ok (.iadd, 1) := dk_96 (dk_at dksL_law_18 1 rfl rfl)
theorem dL_law_622 : decode cL_law 622 = .ok (.iaload, 1) := dk_46 (dk_at dksL_law_18 2 rfl rfl)
theorem dL_law_623 : decode cL_law 623 = .ok (.aload_n 3, 1) := dk_45 (dk_at dksL_law_18 3 rfl rfl)
theorem dL_law_624 : decode cL_law 624 = .ok (.invokestatic 154, 3) := dk_184 0 154 (dk_at dksL_law_18 4 rfl rfl)
theorem dL_law_627 : decode cL_law 627 = .ok (.istore 5, 2) := dk_54 5 (dk_at dksL_law_18 7 rfl rfl)
theorem dL_law_629 : decode cL_law 629 = .ok (.aload_n 2, 1) := dk_44 (dk_at dksL_law_18 9 rfl rfl)
theorem dL_law_630 : decode cL_law 630 = .ok (.aload_n 0, 1) := dk_42 (dk_at dksL_law_18 10 rfl rfl)
theorem dL_law_631 : decode cL_law 631 = .ok (.iload 4, 2) := dk_21 4 (dk_at dksL_law_18 11 rfl rfl)
theorem dL_law_633 : decode cL_law 633 = .ok (.iconst 1, 1) := dk_4 (dk_at dksL_law_18 13 rfl rfl)
theorem dL_law_634 : decode cL_law 634 = .ok (.iadd, 1) := dk_96 (dk_at dksL_law_18 14 rfl rfl)
theorem dL_law_635 : decode cL_law 635 = .ok (.iaload, 1) := dk_46 (dk_at dksL_law_18 15 rfl rfl)
theorem dL_law_636 : decode cL_law 636 = .ok (.aload_n 0, 1) := dk_42 (dk_at dksL_law_18 16 rfl rfl)
theorem dL_law_637 : decode cL_law 637 = .ok (.iload 4, 2) := dk_21 4 (dk_at dksL_law_18 17 rfl rfl)
theorem dL_law_639 : decode cL_law 639 = .ok (.iconst 2, 1) := dk_5 (dk_at dksL_law_18 19 rfl rfl)
theorem dL_law_640 : decode cL_law 640 = .ok (.iadd, 1) := dk_96 (dk_at dksL_law_18 20 rfl rfl)
theorem dL_law_641 : decode cL_law 641 = .ok (.iaload, 1) := dk_46 (dk_at dksL_law_18 21 rfl rfl)
theorem dL_law_642 : decode cL_law 642 = .ok (.aload_n 0, 1) := dk_42 (dk_at dksL_law_18 22 rfl rfl)
theorem dL_law_643 : decode cL_law 643 = .ok (.iload 4, 2) := dk_21 4 (dk_at dksL_law_19 0 rfl rfl)
theorem dL_law_645 : decode cL_law 645 = .ok (.iconst 3, 1) := dk_6 (dk_at dksL_law_19 2 rfl rfl)
theorem dL_law_646 : decode cL_law 646 = .ok (.iadd, 1) := dk_96 (dk_at dksL_law_19 3 rfl rfl)
theorem dL_law_647 : decode cL_law 647 = .ok (.iaload, 1) := dk_46 (dk_at dksL_law_19 4 rfl rfl)
theorem dL_law_648 : decode cL_law 648 = .ok (.invokevirtual 157, 3) := dk_182 0 157 (dk_at dksL_law_19 5 rfl rfl)
theorem dL_law_651 : decode cL_law 651 = .ok (.istore 6, 2) := dk_54 6 (dk_at dksL_law_19 8 rfl rfl)
theorem dL_law_653 : decode cL_law 653 = .ok (.aload_n 2, 1) := dk_44 (dk_at dksL_law_19 10 rfl rfl)
theorem dL_law_654 : decode cL_law 654 = .ok (.invokevirtual 138, 3) := dk_182 0 138 (dk_at dksL_law_19 11 rfl rfl)
theorem dL_law_657 : decode cL_law 657 = .ok (.iload 5, 2) := dk_21 5 (dk_at dksL_law_19 14 rfl rfl)
theorem dL_law_659 : decode cL_law 659 = .ok (.if_icmp .eq 5, 3) := dk_159 0 5 (dk_at dksL_law_19 16 rfl rfl)
theorem dL_law_662 : decode cL_law 662 = .ok (.iconst 0, 1) := dk_3 (dk_at dksL_law_19 19 rfl rfl)
theorem dL_law_663 : decode cL_law 663 = .ok (.ireturn, 1) := dk_172 (dk_at dksL_law_19 20 rfl rfl)
theorem dL_law_664 : decode cL_law 664 = .ok (.iload 5, 2) := dk_21 5 (dk_at dksL_law_19 21 rfl rfl)
theorem dL_law_666 : decode cL_law 666 = .ok (.ifCond .ne 15, 3) := dk_154 0 15 (dk_at dksL_law_20 0 rfl rfl)
theorem dL_law_669 : decode cL_law 669 = .ok (.aload_n 3, 1) := dk_45 (dk_at dksL_law_20 3 rfl rfl)
theorem dL_law_670 : decode cL_law 670 = .ok (.iconst 0, 1) := dk_3 (dk_at dksL_law_20 4 rfl rfl)
theorem dL_law_671 : decode cL_law 671 = .ok (.laload, 1) := dk_47 (dk_at dksL_law_20 5 rfl rfl)
theorem dL_law_672 : decode cL_law 672 = .ok (.iload 6, 2) := dk_21 6 (dk_at dksL_law_20 6 rfl rfl)
theorem dL_law_674 : decode cL_law 674 = .ok (.i2l, 1) := dk_133 (dk_at dksL_law_20 8 rfl rfl)
theorem dL_law_675 : decode cL_law 675 = .ok (.lcmp, 1) := dk_148 (dk_at dksL_law_20 9 rfl rfl)
theorem dL_law_676 : decode cL_law 676 = .ok (.ifCond .eq 5, 3) := dk_153 0 5 (dk_at dksL_law_20 10 rfl rfl)
theorem dL_law_679 : decode cL_law 679 = .ok (.iconst 0, 1) := dk_3 (dk_at dksL_law_20 13 rfl rfl)
theorem dL_law_680 : decode cL_law 680 = .ok (.ireturn, 1) := dk_172 (dk_at dksL_law_20 14 rfl rfl)
theorem dL_law_681 : decode cL_law 681 = .ok (.goto 2039, 3) := dk_167 7 247 (dk_at dksL_law_20 15 rfl rfl)
theorem dL_law_684 : decode cL_law 684 = .ok (.aload_n 1, 1) := dk_43 (dk_at dksL_law_20 18 rfl rfl)
theorem dL_law_685 : decode cL_law 685 = .ok (.aload_n 0, 1) := dk_42 (dk_at dksL_law_20 19 rfl rfl)
theorem dL_law_686 : decode cL_law 686 = .ok (.iload 4, 2) := dk_21 4 (dk_at dksL_law_20 20 rfl rfl)
theorem dL_law_688 : decode cL_law 688 = .ok (.iconst 1, 1) := dk_4 (dk_at dksL_law_20 22 rfl rfl)
theorem dL_law_689 : decode cL_law 689 = .ok (.iadd, 1) := dk_96 (dk_at dksL_law_20 23 rfl rfl)
theorem dL_law_690 : decode cL_law 690 = .ok (.iaload, 1) := dk_46 (dk_at dksL_law_21 0 rfl rfl)
theorem dL_law_691 : decode cL_law 691 = .ok (.aload_n 0, 1) := dk_42 (dk_at dksL_law_21 1 rfl rfl)
theorem dL_law_692 : decode cL_law 692 = .ok (.iload 4, 2) := dk_21 4 (dk_at dksL_law_21 2 rfl rfl)
theorem dL_law_694 : decode cL_law 694 = .ok (.iconst 2, 1) := dk_5 (dk_at dksL_law_21 4 rfl rfl)
theorem dL_law_695 : decode cL_law 695 = .ok (.iadd, 1) := dk_96 (dk_at dksL_law_21 5 rfl rfl)
theorem dL_law_696 : decode cL_law 696 = .ok (.iaload, 1) := dk_46 (dk_at dksL_law_21 6 rfl rfl)
theorem dL_law_697 : decode cL_law 697 = .ok (.aload_n 3, 1) := dk_45 (dk_at dksL_law_21 7 rfl rfl)
theorem dL_law_698 : decode cL_law 698 = .ok (.invokestatic 158, 3) := dk_184 0 158 (dk_at dksL_law_21 8 rfl rfl)
theorem dL_law_701 : decode cL_law 701 = .ok (.istore 5, 2) := dk_54 5 (dk_at dksL_law_21 11 rfl rfl)
theorem dL_law_703 : decode cL_law 703 = .ok (.aload_n 2, 1) := dk_44 (dk_at dksL_law_21 13 rfl rfl)
theorem dL_law_704 : decode cL_law 704 = .ok (.aload_n 0, 1) := dk_42 (dk_at dksL_law_21 14 rfl rfl)
theorem dL_law_705 : decode cL_law 705 = .ok (.iload 4, 2) := dk_21 4 (dk_at dksL_law_21 15 rfl rfl)
theorem dL_law_707 : decode cL_law 707 = .ok (.iconst 1, 1) := dk_4 (dk_at dksL_law_21 17 rfl rfl)
theorem dL_law_708 : decode cL_law 708 = .ok (.iadd, 1) := dk_96 (dk_at dksL_law_21 18 rfl rfl)
theorem dL_law_709 : decode cL_law 709 = .ok (.iaload, 1) := dk_46 (dk_at dksL_law_21 19 rfl rfl)
theorem dL_law_710 : decode cL_law 710 = .ok (.aload_n 0, 1) := dk_42 (dk_at dksL_law_21 20 rfl rfl)
theorem dL_law_711 : decode cL_law 711 = .ok (.iload 4, 2) := dk_21 4 (dk_at dksL_law_21 21 rfl rfl)
theorem dL_law_713 : decode cL_law 713 = .ok (.iconst 2, 1) := dk_5 (dk_at dksL_law_21 23 rfl rfl)
theorem dL_law_714 : decode cL_law 714 = .ok (.iadd, 1) := dk_96 (dk_at dksL_law_22 0 rfl rfl)
theorem dL_law_715 : decode cL_law 715 = .ok (.iaload, 1) := dk_46 (dk_at dksL_law_22 1 rfl rfl)
theorem dL_law_716 : decode cL_law 716 = .ok (.invokevirtual 160, 3) := dk_182 0 160 (dk_at dksL_law_22 2 rfl rfl)
theorem dL_law_719 : decode cL_law 719 = .ok (.istore 6, 2) := dk_54 6 (dk_at dksL_law_22 5 rfl rfl)
theorem dL_law_721 : decode cL_law 721 = .ok (.aload_n 2, 1) := dk_44 (dk_at dksL_law_22 7 rfl rfl)
theorem dL_law_722 : decode cL_law 722 = .ok (.invokevirtual 138, 3) := dk_182 0 138 (dk_at dksL_law_22 8 rfl rfl)
theorem dL_law_725 : decode cL_law 725 = .ok (.iload 5, 2) := dk_21 5 (dk_at dksL_law_22 11 rfl rfl)
theorem dL_law_727 : decode cL_law 727 = .ok (.if_icmp .eq 5, 3) := dk_159 0 5 (dk_at dksL_law_22 13 rfl rfl)
theorem dL_law_730 : decode cL_law 730 = .ok (.iconst 0, 1) := dk_3 (dk_at dksL_law_22 16 rfl rfl)
theorem dL_law_731 : decode cL_law 731 = .ok (.ireturn, 1) := dk_172 (dk_at dksL_law_22 17 rfl rfl)
theorem dL_law_732 : decode cL_law 732 = .ok (.iload 5, 2) := dk_21 5 (dk_at dksL_law_22 18 rfl rfl)
theorem dL_law_734 : decode cL_law 734 = .ok (.ifCond .ne 15, 3) := dk_154 0 15 (dk_at dksL_law_22 20 rfl rfl)
theorem dL_law_737 : decode cL_law 737 = .ok (.aload_n 3, 1) := dk_45 (dk_at dksL_law_22 23 rfl rfl)
theorem dL_law_738 : decode cL_law 738 = .ok (.iconst 0, 1) := dk_3 (dk_at dksL_law_23 0 rfl rfl)
theorem dL_law_739 : decode cL_law 739 = .ok (.laload, 1) := dk_47 (dk_at dksL_law_23 1 rfl rfl)
theorem dL_law_740 : decode cL_law 740 = .ok (.iload 6, 2) := dk_21 6 (dk_at dksL_law_23 2 rfl rfl)
theorem dL_law_742 : decode cL_law 742 = .ok (.i2l, 1) := dk_133 (dk_at dksL_law_23 4 rfl rfl)
theorem dL_law_743 : decode cL_law 743 = .ok (.lcmp, 1) := dk_148 (dk_at dksL_law_23 5 rfl rfl)
theorem dL_law_744 : decode cL_law 744 = .ok (.ifCond .eq 5, 3) := dk_153 0 5 (dk_at dksL_law_23 6 rfl rfl)
theorem dL_law_747 : decode cL_law 747 = .ok (.iconst 0, 1) := dk_3 (dk_at dksL_law_23 9 rfl rfl)
theorem dL_law_748 : decode cL_law 748 = .ok (.ireturn, 1) := dk_172 (dk_at dksL_law_23 10 rfl rfl)
theorem dL_law_749 : decode cL_law 749 = .ok (.goto 1971, 3) := dk_167 7 179 (dk_at dksL_law_23 11 rfl rfl)
theorem dL_law_752 : decode cL_law 752 = .ok (.aload_n 1, 1) := dk_43 (dk_at dksL_law_23 14 rfl rfl)
theorem dL_law_753 : decode cL_law 753 = .ok (.aload_n 0, 1) := dk_42 (dk_at dksL_law_23 15 rfl rfl)
theorem dL_law_754 : decode cL_law 754 = .ok (.iload 4, 2) := dk_21 4 (dk_at dksL_law_23 16 rfl rfl)
theorem dL_law_756 : decode cL_law 756 = .ok (.iconst 1, 1) := dk_4 (dk_at dksL_law_23 18 rfl rfl)
theorem dL_law_757 : decode cL_law 757 = .ok (.iadd, 1) := dk_96 (dk_at dksL_law_23 19 rfl rfl)
theorem dL_law_758 : decode cL_law 758 = .ok (.iaload, 1) := dk_46 (dk_at dksL_law_23 20 rfl rfl)
theorem dL_law_759 : decode cL_law 759 = .ok (.aload_n 3, 1) := dk_45 (dk_at dksL_law_23 21 rfl rfl)
theorem dL_law_760 : decode cL_law 760 = .ok (.invokestatic 161, 3) := dk_184 0 161 (dk_at dksL_law_24 0 rfl rfl)
theorem dL_law_763 : decode cL_law 763 = .ok (.istore 5, 2) := dk_54 5 (dk_at dksL_law_24 3 rfl rfl)
theorem dL_law_765 : decode cL_law 765 = .ok (.aload_n 2, 1) := dk_44 (dk_at dksL_law_24 5 rfl rfl)
theorem dL_law_766 : decode cL_law 766 = .ok (.aload_n 0, 1) := dk_42 (dk_at dksL_law_24 6 rfl rfl)
theorem dL_law_767 : decode cL_law 767 = .ok (.iload 4, 2) := dk_21 4 (dk_at dksL_law_24 7 rfl rfl)
theorem dL_law_769 : decode cL_law 769 = .ok (.iconst 1, 1) := dk_4 (dk_at dksL_law_24 9 rfl rfl)
theorem dL_law_770 : decode cL_law 770 = .ok (.iadd, 1) := dk_96 (dk_at dksL_law_24 10 rfl rfl)
theorem dL_law_771 : decode cL_law 771 = .ok (.iaload, 1) := dk_46 (dk_at dksL_law_24 11 rfl rfl)
theorem dL_law_772 : decode cL_law 772 = .ok (.invokevirtual 163, 3) := dk_182 0 163 (dk_at dksL_law_24 12 rfl rfl)
theorem dL_law_775 : decode cL_law 775 = .ok (.istore 6, 2) := dk_54 6 (dk_at dksL_law_24 15 rfl rfl)
theorem dL_law_777 : decode cL_law 777 = .ok (.aload_n 2, 1) := dk_44 (dk_at dksL_law_24 17 rfl rfl)
theorem dL_law_778 : decode cL_law 778 = .ok (.invokevirtual 138, 3) := dk_182 0 138 (dk_at dksL_law_24 18 rfl rfl)
theorem dL_law_781 : decode cL_law 781 = .ok (.iload 5, 2) := dk_21 5 (dk_at dksL_law_24 21 rfl rfl)
theorem dL_law_783 : decode cL_law 783 = .ok (.if_icmp .eq 5, 3) := dk_159 0 5 (dk_at dksL_law_25 0 rfl rfl)
theorem dL_law_786 : decode cL_law 786 = .ok (.iconst 0, 1) := dk_3 (dk_at dksL_law_25 3 rfl rfl)
theorem dL_law_787 : decode cL_law 787 = .ok (.ireturn, 1) := dk_172 (dk_at dksL_law_25 4 rfl rfl)
theorem dL_law_788 : decode cL_law 788 = .ok (.iload 5, 2) := dk_21 5 (dk_at dksL_law_25 5 rfl rfl)
theorem dL_law_790 : decode cL_law 790 = .ok (.ifCond .ne 15, 3) := dk_154 0 15 (dk_at dksL_law_25 7 rfl rfl)
theorem dL_law_793 : decode cL_law 793 = .ok (.aload_n 3, 1) := dk_45 (dk_at dksL_law_25 10 rfl rfl)
theorem dL_law_794 : decode cL_law 794 = .ok (.iconst 0, 1) := dk_3 (dk_at dksL_law_25 11 rfl rfl)
theorem dL_law_795 : decode cL_law 795 = .ok (.laload, 1) := dk_47 (dk_at dksL_law_25 12 rfl rfl)
theorem dL_law_796 : decode cL_law 796 = .ok (.iload 6, 2) := dk_21 6 (dk_at dksL_law_25 13 rfl rfl)
theorem dL_law_798 : decode cL_law 798 = .ok (.i2l, 1) := dk_133 (dk_at dksL_law_25 15 rfl rfl)
theorem dL_law_799 : decode cL_law 799 = .ok (.lcmp, 1) := dk_148 (dk_at dksL_law_25 16 rfl rfl)
theorem dL_law_800 : decode cL_law 800 = .ok (.ifCond .eq 5, 3) := dk_153 0 5 (dk_at dksL_law_25 17 rfl rfl)
theorem dL_law_803 : decode cL_law 803 = .ok (.iconst 0, 1) := dk_3 (dk_at dksL_law_25 20 rfl rfl)
theorem dL_law_804 : decode cL_law 804 = .ok (.ireturn, 1) := dk_172 (dk_at dksL_law_25 21 rfl rfl)
theorem dL_law_805 : decode cL_law 805 = .ok (.goto 1915, 3) := dk_167 7 123 (dk_at dksL_law_26 0 rfl rfl)
theorem dL_law_808 : decode cL_law 808 = .ok (.aload_n 1, 1) := dk_43 (dk_at dksL_law_26 3 rfl rfl)
theorem dL_law_809 : decode cL_law 809 = .ok (.aload_n 0, 1) := dk_42 (dk_at dksL_law_26 4 rfl rfl)
theorem dL_law_810 : decode cL_law 810 = .ok (.iload 4, 2) := dk_21 4 (dk_at dksL_law_26 5 rfl rfl)
theorem dL_law_812 : decode cL_law 812 = .ok (.iconst 1, 1) := dk_4 (dk_at dksL_law_26 7 rfl rfl)
theorem dL_law_813 : decode cL_law 813 = .ok (.iadd, 1) := dk_96 (dk_at dksL_law_26 8 rfl rfl)
theorem dL_law_814 : decode cL_law 814 = .ok (.iaload, 1) := dk_46 (dk_at dksL_law_26 9 rfl rfl)
theorem dL_law_815 : decode cL_law 815 = .ok (.aload_n 3, 1) := dk_45 (dk_at dksL_law_26 10 rfl rfl)
theorem dL_law_816 : decode cL_law 816 = .ok (.invokestatic 164, 3) := dk_184 0 164 (dk_at dksL_law_26 11 rfl rfl)
theorem dL_law_819 : decode cL_law 819 = .ok (.istore 5, 2) := dk_54 5 (dk_at dksL_law_26 14 rfl rfl)
theorem dL_law_821 : decode cL_law 821 = .ok (.aload_n 2, 1) := dk_44 (dk_at dksL_law_26 16 rfl rfl)
theorem dL_law_822 : decode cL_law 822 = .ok (.aload_n 0, 1) := dk_42 (dk_at dksL_law_26 17 rfl rfl)
theorem dL_law_823 : decode cL_law 823 = .ok (.iload 4, 2) := dk_21 4 (dk_at dksL_law_26 18 rfl rfl)
theorem dL_law_825 : decode cL_law 825 = .ok (.iconst 1, 1) := dk_4 (dk_at dksL_law_26 20 rfl rfl)
theorem dL_law_826 : decode cL_law 826 = .ok (.iadd, 1) := dk_96 (dk_at dksL_law_26 21 rfl rfl)
theorem dL_law_827 : decode cL_law 827 = .ok (.iaload, 1) := dk_46 (dk_at dksL_law_26 22 rfl rfl)
theorem dL_law_828 : decode cL_law 828 = .ok (.invokevirtual 166, 3) := dk_182 0 166 (dk_at dksL_law_27 0 rfl rfl)
theorem dL_law_831 : decode cL_law 831 = .ok (.istore 6, 2) := dk_54 6 (dk_at dksL_law_27 3 rfl rfl)
theorem dL_law_833 : decode cL_law 833 = .ok (.aload_n 2, 1) := dk_44 (dk_at dksL_law_27 5 rfl rfl)
theorem dL_law_834 : decode cL_law 834 = .ok (.invokevirtual 138, 3) := dk_182 0 138 (dk_at dksL_law_27 6 rfl rfl)
theorem dL_law_837 : decode cL_law 837 = .ok (.iload 5, 2) := dk_21 5 (dk_at dksL_law_27 9 rfl rfl)
theorem dL_law_839 : decode cL_law 839 = .ok (.if_icmp .eq 5, 3) := dk_159 0 5 (dk_at dksL_law_27 11 rfl rfl)
theorem dL_law_842 : decode cL_law 842 = .ok (.iconst 0, 1) := dk_3 (dk_at dksL_law_27 14 rfl rfl)
theorem dL_law_843 : decode cL_law 843 = .ok (.ireturn, 1) := dk_172 (dk_at dksL_law_27 15 rfl rfl)
theorem dL_law_844 : decode cL_law 844 = .ok (.iload 5, 2) := dk_21 5 (dk_at dksL_law_27 16 rfl rfl)
theorem dL_law_846 : decode cL_law 846 = .ok (.ifCond .ne 15, 3) := dk_154 0 15 (dk_at dksL_law_27 18 rfl rfl)
theorem dL_law_849 : decode cL_law 849 = .ok (.aload_n 3, 1) := dk_45 (dk_at dksL_law_27 21 rfl rfl)
theorem dL_law_850 : decode cL_law 850 = .ok (.iconst 0, 1) := dk_3 (dk_at dksL_law_27 22 rfl rfl)
theorem dL_law_851 : decode cL_law 851 = .ok (.laload, 1) := dk_47 (dk_at dksL_law_27 23 rfl rfl)
theorem dL_law_852 : decode cL_law 852 = .ok (.iload 6, 2) := dk_21 6 (dk_at dksL_law_28 0 rfl rfl)
theorem dL_law_854 : decode cL_law 854 = .ok (.i2l, 1) := dk_133 (dk_at dksL_law_28 2 rfl rfl)
theorem dL_law_855 : decode cL_law 855 = .ok (.lcmp, 1) := dk_148 (dk_at dksL_law_28 3 rfl rfl)
theorem dL_law_856 : decode cL_law 856 = .ok (.ifCond .eq 5, 3) := dk_153 0 5 (dk_at dksL_law_28 4 rfl rfl)
theorem dL_law_859 : decode cL_law 859 = .ok (.iconst 0, 1) := dk_3 (dk_at dksL_law_28 7 rfl rfl)
theorem dL_law_860 : decode cL_law 860 = .ok (.ireturn, 1) := dk_172 (dk_at dksL_law_28 8 rfl rfl)
theorem dL_law_861 : decode cL_law 861 = .ok (.goto 1859, 3) := dk_167 7 67 (dk_at dksL_law_28 9 rfl rfl)
theorem dL_law_864 : decode cL_law 864 = .ok (.aload_n 1, 1) := dk_43 (dk_at dksL_law_28 12 rfl rfl)
theorem dL_law_865 : decode cL_law 865 = .ok (.invokevirtual 167, 3) := dk_182 0 167 (dk_at dksL_law_28 13 rfl rfl)
theorem dL_law_868 : decode cL_law 868 = .ok (.aload_n 2, 1) := dk_44 (dk_at dksL_law_28 16 rfl rfl)
theorem dL_law_869 : decode cL_law 869 = .ok (.invokevirtual 171, 3) := dk_182 0 171 (dk_at dksL_law_28 17 rfl rfl)
theorem dL_law_872 : decode cL_law 872 = .ok (.if_icmp .eq 1848, 3) := dk_159 7 56 (dk_at dksL_law_28 20 rfl rfl)
theorem dL_law_875 : decode cL_law 875 = .ok (.iconst 0, 1) := dk_3 (dk_at dksL_law_28 23 rfl rfl)
theorem dL_law_876 : decode cL_law 876 = .ok (.ireturn, 1) := dk_172 (dk_at dksL_law_29 0 rfl rfl)
theorem dL_law_877 : decode cL_law 877 = .ok (.aload_n 1, 1) := dk_43 (dk_at dksL_law_29 1 rfl rfl)
theorem dL_law_878 : decode cL_law 878 = .ok (.aload_n 0, 1) := dk_42 (dk_at dksL_law_29 2 rfl rfl)
theorem dL_law_879 : decode cL_law 879 = .ok (.iload 4, 2) := dk_21 4 (dk_at dksL_law_29 3 rfl rfl)
theorem dL_law_881 : decode cL_law 881 = .ok (.iconst 1, 1) := dk_4 (dk_at dksL_law_29 5 rfl rfl)
theorem dL_law_882 : decode cL_law 882 = .ok (.iadd, 1) := dk_96 (dk_at dksL_law_29 6 rfl rfl)
theorem dL_law_883 : decode cL_law 883 = .ok (.iaload, 1) := dk_46 (dk_at dksL_law_29 7 rfl rfl)
theorem dL_law_884 : decode cL_law 884 = .ok (.aload_n 3, 1) := dk_45 (dk_at dksL_law_29 8 rfl rfl)
theorem dL_law_885 : decode cL_law 885 = .ok (.invokestatic 172, 3) := dk_184 0 172 (dk_at dksL_law_29 9 rfl rfl)
theorem dL_law_888 : decode cL_law 888 = .ok (.istore 5, 2) := dk_54 5 (dk_at dksL_law_29 12 rfl rfl)
theorem dL_law_890 : decode cL_law 890 = .ok (.aload_n 2, 1) := dk_44 (dk_at dksL_law_29 14 rfl rfl)
theorem dL_law_891 : decode cL_law 891 = .ok (.aload_n 0, 1) := dk_42 (dk_at dksL_law_29 15 rfl rfl)
theorem dL_law_892 : decode cL_law 892 = .ok (.iload 4, 2) := dk_21 4 (dk_at dksL_law_29 16 rfl rfl)
theorem dL_law_894 : decode cL_law 894 = .ok (.iconst 1, 1) := dk_4 (dk_at dksL_law_29 18 rfl rfl)
theorem dL_law_895 : decode cL_law 895 = .ok (.iadd, 1) := dk_96 (dk_at dksL_law_29 19 rfl rfl)
theorem dL_law_896 : decode cL_law 896 = .ok (.iaload, 1) := dk_46 (dk_at dksL_law_29 20 rfl rfl)
theorem dL_law_897 : decode cL_law 897 = .ok (.invokevirtual 174, 3) := dk_182 0 174 (dk_at dksL_law_29 21 rfl rfl)
theorem dL_law_900 : decode cL_law 900 = .ok (.istore 6, 2) := dk_54 6 (dk_at dksL_law_30 0 rfl rfl)
theorem dL_law_902 : decode cL_law 902 = .ok (.aload_n 2, 1) := dk_44 (dk_at dksL_law_30 2 rfl rfl)
theorem dL_law_903 : decode cL_law 903 = .ok (.invokevirtual 138, 3) := dk_182 0 138 (dk_at dksL_law_30 3 rfl rfl)
theorem dL_law_906 : decode cL_law 906 = .ok (.iload 5, 2) := dk_21 5 (dk_at dksL_law_30 6 rfl rfl)
theorem dL_law_908 : decode cL_law 908 = .ok (.if_icmp .eq 5, 3) := dk_159 0 5 (dk_at dksL_law_30 8 rfl rfl)
theorem dL_law_911 : decode cL_law 911 = .ok (.iconst 0, 1) := dk_3 (dk_at dksL_law_30 11 rfl rfl)
theorem dL_law_912 : decode cL_law 912 = .ok (.ireturn, 1) := dk_172 (dk_at dksL_law_30 12 rfl rfl)
theorem dL_law_913 : decode cL_law 913 = .ok (.iload 5, 2) := dk_21 5 (dk_at dksL_law_30 13 rfl rfl)
theorem dL_law_915 : decode cL_law 915 = .ok (.ifCond .ne 15, 3) := dk_154 0 15 (dk_at dksL_law_30 15 rfl rfl)
theorem dL_law_918 : decode cL_law 918 = .ok (.aload_n 3, 1) := dk_45 (dk_at dksL_law_30 18 rfl rfl)
theorem dL_law_919 : decode cL_law 919 = .ok (.iconst 0, 1) := dk_3 (dk_at dksL_law_30 19 rfl rfl)
theorem dL_law_920 : decode cL_law 920 = .ok (.laload, 1) := dk_47 (dk_at dksL_law_30 20 rfl rfl)
theorem dL_law_921 : decode cL_law 921 = .ok (.iload 6, 2) := dk_21 6 (dk_at dksL_law_30 21 rfl rfl)
theorem dL_law_923 : decode cL_law 923 = .ok (.i2l, 1) := dk_133 (dk_at dksL_law_30 23 rfl rfl)
theorem dL_law_924 : decode cL_law 924 = .ok (.lcmp, 1) := dk_148 (dk_at dksL_law_31 0 rfl rfl)
theorem dL_law_925 : decode cL_law 925 = .ok (.ifCond .eq 5, 3) := dk_153 0 5 (dk_at dksL_law_31 1 rfl rfl)
theorem dL_law_928 : decode cL_law 928 = .ok (.iconst 0, 1) := dk_3 (dk_at dksL_law_31 4 rfl rfl)
theorem dL_law_929 : decode cL_law 929 = .ok (.ireturn, 1) := dk_172 (dk_at dksL_law_31 5 rfl rfl)
theorem dL_law_930 : decode cL_law 930 = .ok (.goto 1790, 3) := dk_167 6 254 (dk_at dksL_law_31 6 rfl rfl)
theorem dL_law_933 : decode cL_law 933 = .ok (.aload_n 1, 1) := dk_43 (dk_at dksL_law_31 9 rfl rfl)
theorem dL_law_934 : decode cL_law 934 = .ok (.aload_n 0, 1) := dk_42 (dk_at dksL_law_31 10 rfl rfl)
theorem dL_law_935 : decode cL_law 935 = .ok (.iload 4, 2) := dk_21 4 (dk_at dksL_law_31 11 rfl rfl)
theorem dL_law_937 : decode cL_law 937 = .ok (.iconst 1, 1) := dk_4 (dk_at dksL_law_31 13 rfl rfl)
theorem dL_law_938 : decode cL_law 938 = .ok (.iadd, 1) := dk_96 (dk_at dksL_law_31 14 rfl rfl)
theorem dL_law_939 : decode cL_law 939 = .ok (.iaload, 1) := dk_46 (dk_at dksL_law_31 15 rfl rfl)
theorem dL_law_940 : decode cL_law 940 = .ok (.aload_n 3, 1) := dk_45 (dk_at dksL_law_31 16 rfl rfl)
theorem dL_law_941 : decode cL_law 941 = .ok (.invokestatic 175, 3) := dk_184 0 175 (dk_at dksL_law_31 17 rfl rfl)
theorem dL_law_944 : decode cL_law 944 = .ok (.istore 5, 2) := dk_54 5 (dk_at dksL_law_31 20 rfl rfl)
theorem dL_law_946 : decode cL_law 946 = .ok (.aload_n 2, 1) := dk_44 (dk_at dksL_law_31 22 rfl rfl)
theorem dL_law_947 : decode cL_law 947 = .ok (.aload_n 0, 1) := dk_42 (dk_at dksL_law_31 23 rfl rfl)
theorem dL_law_948 : decode cL_law 948 = .ok (.iload 4, 2) := dk_21 4 (dk_at dksL_law_32 0 rfl rfl)
theorem dL_law_950 : decode cL_law 950 = .ok (.iconst 1, 1) := dk_4 (dk_at dksL_law_32 2 rfl rfl)
theorem dL_law_951 : decode cL_law 951 = .ok (.iadd, 1) := dk_96 (dk_at dksL_law_32 3 rfl rfl)
theorem dL_law_952 : decode cL_law 952 = .ok (.iaload, 1) := dk_46 (dk_at dksL_law_32 4 rfl rfl)
theorem dL_law_953 : decode cL_law 953 = .ok (.invokevirtual 177, 3) := dk_182 0 177 (dk_at dksL_law_32 5 rfl rfl)
theorem dL_law_956 : decode cL_law 956 = .ok (.istore 6, 2) := dk_54 6 (dk_at dksL_law_32 8 rfl rfl)
theorem dL_law_958 : decode cL_law 958 = .ok (.aload_n 2, 1) := dk_44 (dk_at dksL_law_32 10 rfl rfl)
theorem dL_law_959 : decode cL_law 959 = .ok (.invokevirtual 138, 3) := dk_182 0 138 (dk_at dksL_law_32 11 rfl rfl)
theorem dL_law_962 : decode cL_law 962 = .ok (.iload 5, 2) := dk_21 5 (dk_at dksL_law_32 14 rfl rfl)
theorem dL_law_964 : decode cL_law 964 = .ok (.if_icmp .eq 5, 3) := dk_159 0 5 (dk_at dksL_law_32 16 rfl rfl)
theorem dL_law_967 : decode cL_law 967 = .ok (.iconst 0, 1) := dk_3 (dk_at dksL_law_32 19 rfl rfl)
theorem dL_law_968 : decode cL_law 968 = .ok (.ireturn, 1) := dk_172 (dk_at dksL_law_32 20 rfl rfl)
theorem dL_law_969 : decode cL_law 969 = .ok (.iload 5, 2) := dk_21 5 (dk_at dksL_law_32 21 rfl rfl)
theorem dL_law_971 : decode cL_law 971 = .ok (.ifCond .ne 15, 3) := dk_154 0 15 (dk_at dksL_law_33 0 rfl rfl)
theorem dL_law_974 : decode cL_law 974 = .ok (.aload_n 3, 1) := dk_45 (dk_at dksL_law_33 3 rfl rfl)
theorem dL_law_975 : decode cL_law 975 = .ok (.iconst 0, 1) := dk_3 (dk_at dksL_law_33 4 rfl rfl)
theorem dL_law_976 : decode cL_law 976 = .ok (.laload, 1) := dk_47 (dk_at dksL_law_33 5 rfl rfl)
theorem dL_law_977 : decode cL_law 977 = .ok (.iload 6, 2) := dk_21 6 (dk_at dksL_law_33 6 rfl rfl)
theorem dL_law_979 : decode cL_law 979 = .ok (.i2l, 1) := dk_133 (dk_at dksL_law_33 8 rfl rfl)
theorem dL_law_980 : decode cL_law 980 = .ok (.lcmp, 1) := dk_148 (dk_at dksL_law_33 9 rfl rfl)
theorem dL_law_981 : decode cL_law 981 = .ok (.ifCond .eq 5, 3) := dk_153 0 5 (dk_at dksL_law_33 10 rfl rfl)
theorem dL_law_984 : decode cL_law 984 = .ok (.iconst 0, 1) := dk_3 (dk_at dksL_law_33 13 rfl rfl)
theorem dL_law_985 : decode cL_law 985 = .ok (.ireturn, 1) := dk_172 (dk_at dksL_law_33 14 rfl rfl)
theorem dL_law_986 : decode cL_law 986 = .ok (.goto 1734, 3) := dk_167 6 198 (dk_at dksL_law_33 15 rfl rfl)
theorem dL_law_989 : decode cL_law 989 = .ok (.aload_n 1, 1) := dk_43 (dk_at dksL_law_33 18 rfl rfl)
theorem dL_law_990 : decode cL_law 990 = .ok (.invokevirtual 178, 3) := dk_182 0 178 (dk_at dksL_law_33 19 rfl rfl)
theorem dL_law_993 : decode cL_law 993 = .ok (.aload_n 2, 1) := dk_44 (dk_at dksL_law_33 22 rfl rfl)
theorem dL_law_994 : decode cL_law 994 = .ok (.invokevirtual 181, 3) := dk_182 0 181 (dk_at dksL_law_34 0 rfl rfl)
theorem dL_law_997 : decode cL_law 997 = .ok (.if_icmp .eq 1723, 3) := dk_159 6 187 (dk_at dksL_law_34 3 rfl rfl)
theorem dL_law_1000 : decode cL_law 1000 = .ok (.iconst 0, 1) := dk_3 (dk_at dksL_law_34 6 rfl rfl)
theorem dL_law_1001 : decode cL_law 1001 = .ok (.ireturn, 1) := dk_172 (dk_at dksL_law_34 7 rfl rfl)
theorem dL_law_1002 : decode cL_law 1002 = .ok (.aload_n 1, 1) := dk_43 (dk_at dksL_law_34 8 rfl rfl)
theorem dL_law_1003 : decode cL_law 1003 = .ok (.aload_n 0, 1) := dk_42 (dk_at dksL_law_34 9 rfl rfl)
theorem dL_law_1004 : decode cL_law 1004 = .ok (.iload 4, 2) := dk_21 4 (dk_at dksL_law_34 10 rfl rfl)
theorem dL_law_1006 : decode cL_law 1006 = .ok (.iconst 1, 1) := dk_4 (dk_at dksL_law_34 12 rfl rfl)
theorem dL_law_1007 : decode cL_law 1007 = .ok (.iadd, 1) := dk_96 (dk_at dksL_law_34 13 rfl rfl)
theorem dL_law_1008 : decode cL_law 1008 = .ok (.iaload, 1) := dk_46 (dk_at dksL_law_34 14 rfl rfl)
theorem dL_law_1009 : decode cL_law 1009 = .ok (.aload_n 3, 1) := dk_45 (dk_at dksL_law_34 15 rfl rfl)
theorem dL_law_1010 : decode cL_law 1010 = .ok (.invokestatic 182, 3) := dk_184 0 182 (dk_at dksL_law_34 16 rfl rfl)
theorem dL_law_1013 : decode cL_law 1013 = .ok (.istore 5, 2) := dk_54 5 (dk_at dksL_law_34 19 rfl rfl)
theorem dL_law_1015 : decode cL_law 1015 = .ok (.aload_n 2, 1) := dk_44 (dk_at dksL_law_34 21 rfl rfl)
theorem dL_law_1016 : decode cL_law 1016 = .ok (.aload_n 0, 1) := dk_42 (dk_at dksL_law_34 22 rfl rfl)
theorem dL_law_1017 : decode cL_law 1017 = .ok (.iload 4, 2) := dk_21 4 (dk_at dksL_law_35 0 rfl rfl)
theorem dL_law_1019 : decode cL_law 1019 = .ok (.iconst 1, 1) := dk_4 (dk_at dksL_law_35 2 rfl rfl)
theorem dL_law_1020 : decode cL_law 1020 = .ok (.iadd, 1) := dk_96 (dk_at dksL_law_35 3 rfl rfl)
theorem dL_law_1021 : decode cL_law 1021 = .ok (.iaload, 1) := dk_46 (dk_at dksL_law_35 4 rfl rfl)
theorem dL_law_1022 : decode cL_law 1022 = .ok (.invokevirtual 184, 3) := dk_182 0 184 (dk_at dksL_law_35 5 rfl rfl)
theorem dL_law_1025 : decode cL_law 1025 = .ok (.istore 6, 2) := dk_54 6 (dk_at dksL_law_35 8 rfl rfl)
theorem dL_law_1027 : decode cL_law 1027 = .ok (.aload_n 2, 1) := dk_44 (dk_at dksL_law_35 10 rfl rfl)
theorem dL_law_1028 : decode cL_law 1028 = .ok (.invokevirtual 138, 3) := dk_182 0 138 (dk_at dksL_law_35 11 rfl rfl)
theorem dL_law_1031 : decode cL_law 1031 = .ok (.iload 5, 2) := dk_21 5 (dk_at dksL_law_35 14 rfl rfl)
theorem dL_law_1033 : decode cL_law 1033 = .ok (.if_icmp .eq 5, 3) := dk_159 0 5 (dk_at dksL_law_35 16 rfl rfl)
theorem dL_law_1036 : decode cL_law 1036 = .ok (.iconst 0, 1) := dk_3 (dk_at dksL_law_35 19 rfl rfl)
theorem dL_law_1037 : decode cL_law 1037 = .ok (.ireturn, 1) := dk_172 (dk_at dksL_law_35 20 rfl rfl)
theorem dL_law_1038 : decode cL_law 1038 = .ok (.iload 5, 2) := dk_21 5 (dk_at dksL_law_35 21 rfl rfl)
theorem dL_law_1040 : decode cL_law 1040 = .ok (.ifCond .ne 15, 3) := dk_154 0 15 (dk_at dksL_law_36 0 rfl rfl)
theorem dL_law_1043 : decode cL_law 1043 = .ok (.aload_n 3, 1) := dk_45 (dk_at dksL_law_36 3 rfl rfl)
theorem dL_law_1044 : decode cL_law 1044 = .ok (.iconst 0, 1) := dk_3 (dk_at dksL_law_36 4 rfl rfl)
theorem dL_law_1045 : decode cL_law 1045 = .ok (.laload, 1) := dk_47 (dk_at dksL_law_36 5 rfl rfl)
theorem dL_law_1046 : decode cL_law 1046 = .ok (.iload 6, 2) := dk_21 6 (dk_at dksL_law_36 6 rfl rfl)
theorem dL_law_1048 : decode cL_law 1048 = .ok (.i2l, 1) := dk_133 (dk_at dksL_law_36 8 rfl rfl)
theorem dL_law_1049 : decode cL_law 1049 = .ok (.lcmp, 1) := dk_148 (dk_at dksL_law_36 9 rfl rfl)
theorem dL_law_1050 : decode cL_law 1050 = .ok (.ifCond .eq 5, 3) := dk_153 0 5 (dk_at dksL_law_36 10 rfl rfl)
theorem dL_law_1053 : decode cL_law 1053 = .ok (.iconst 0, 1) := dk_3 (dk_at dksL_law_36 13 rfl rfl)
theorem dL_law_1054 : decode cL_law 1054 = .ok (.ireturn, 1) := dk_172 (dk_at dksL_law_36 14 rfl rfl)
theorem dL_law_1055 : decode cL_law 1055 = .ok (.goto 1665, 3) := dk_167 6 129 (dk_at dksL_law_36 15 rfl rfl)
theorem dL_law_1058 : decode cL_law 1058 = .ok (.aload_n 1, 1) := dk_43 (dk_at dksL_law_36 18 rfl rfl)
theorem dL_law_1059 : decode cL_law 1059 = .ok (.aload_n 0, 1) := dk_42 (dk_at dksL_law_36 19 rfl rfl)
theorem dL_law_1060 : decode cL_law 1060 = .ok (.iload 4, 2) := dk_21 4 (dk_at dksL_law_36 20 rfl rfl)
theorem dL_law_1062 : decode cL_law 1062 = .ok (.iconst 1, 1) := dk_4 (dk_at dksL_law_36 22 rfl rfl)
theorem dL_law_1063 : decode cL_law 1063 = .ok (.iadd, 1) := dk_96 (dk_at dksL_law_36 23 rfl rfl)
theorem dL_law_1064 : decode cL_law 1064 = .ok (.iaload, 1) := dk_46 (dk_at dksL_law_37 0 rfl rfl)
theorem dL_law_1065 : decode cL_law 1065 = .ok (.aload_n 3, 1) := dk_45 (dk_at dksL_law_37 1 rfl rfl)
theorem dL_law_1066 : decode cL_law 1066 = .ok (.invokestatic 185, 3) := dk_184 0 185 (dk_at dksL_law_37 2 rfl rfl)
theorem dL_law_1069 : decode cL_law 1069 = .ok (.istore 5, 2) := dk_54 5 (dk_at dksL_law_37 5 rfl rfl)
theorem dL_law_1071 : decode cL_law 1071 = .ok (.aload_n 2, 1) := dk_44 (dk_at dksL_law_37 7 rfl rfl)
theorem dL_law_1072 : decode cL_law 1072 = .ok (.aload_n 0, 1) := dk_42 (dk_at dksL_law_37 8 rfl rfl)
theorem dL_law_1073 : decode cL_law 1073 = .ok (.iload 4, 2) := dk_21 4 (dk_at dksL_law_37 9 rfl rfl)
theorem dL_law_1075 : decode cL_law 1075 = .ok (.iconst 1, 1) := dk_4 (dk_at dksL_law_37 11 rfl rfl)
theorem dL_law_1076 : decode cL_law 1076 = .ok (.iadd, 1) := dk_96 (dk_at dksL_law_37 12 rfl rfl)
theorem dL_law_1077 : decode cL_law 1077 = .ok (.iaload, 1) := dk_46 (dk_at dksL_law_37 13 rfl rfl)
theorem dL_law_1078 : decode cL_law 1078 = .ok (.invokevirtual 187, 3) := dk_182 0 187 (dk_at dksL_law_37 14 rfl rfl)
theorem dL_law_1081 : decode cL_law 1081 = .ok (.istore 6, 2) := dk_54 6 (dk_at dksL_law_37 17 rfl rfl)
theorem dL_law_1083 : decode cL_law 1083 = .ok (.aload_n 2, 1) := dk_44 (dk_at dksL_law_37 19 rfl rfl)
theorem dL_law_1084 : decode cL_law 1084 = .ok (.invokevirtual 138, 3) := dk_182 0 138 (dk_at dksL_law_37 20 rfl rfl)
theorem dL_law_1087 : decode cL_law 1087 = .ok (.iload 5, 2) := dk_21 5 (dk_at dksL_law_38 0 rfl rfl)
theorem dL_law_1089 : decode cL_law 1089 = .ok (.if_icmp .eq 5, 3) := dk_159 0 5 (dk_at dksL_law_38 2 rfl rfl)
theorem dL_law_1092 : decode cL_law 1092 = .ok (.iconst 0, 1) := dk_3 (dk_at dksL_law_38 5 rfl rfl)
theorem dL_law_1093 : decode cL_law 1093 = .ok (.ireturn, 1) := dk_172 (dk_at dksL_law_38 6 rfl rfl)
theorem dL_law_1094 : decode cL_law 1094 = .ok (.iload 5, 2) := dk_21 5 (dk_at dksL_law_38 7 rfl rfl)
theorem dL_law_1096 : decode cL_law 1096 = .ok (.ifCond .ne 15, 3) := dk_154 0 15 (dk_at dksL_law_38 9 rfl rfl)
theorem dL_law_1099 : decode cL_law 1099 = .ok (.aload_n 3, 1) := dk_45 (dk_at dksL_law_38 12 rfl rfl)
theorem dL_law_1100 : decode cL_law 1100 = .ok (.iconst 0, 1) := dk_3 (dk_at dksL_law_38 13 rfl rfl)
theorem dL_law_1101 : decode cL_law 1101 = .ok (.laload, 1) := dk_47 (dk_at dksL_law_38 14 rfl rfl)
theorem dL_law_1102 : decode cL_law 1102 = .ok (.iload 6, 2) := dk_21 6 (dk_at dksL_law_38 15 rfl rfl)
theorem dL_law_1104 : decode cL_law 1104 = .ok (.i2l, 1) := dk_133 (dk_at dksL_law_38 17 rfl rfl)
theorem dL_law_1105 : decode cL_law 1105 = .ok (.lcmp, 1) := dk_148 (dk_at dksL_law_38 18 rfl rfl)
theorem dL_law_1106 : decode cL_law 1106 = .ok (.ifCond .eq 5, 3) := dk_153 0 5 (dk_at dksL_law_38 19 rfl rfl)
theorem dL_law_1109 : decode cL_law 1109 = .ok (.iconst 0, 1) := dk_3 (dk_at dksL_law_38 22 rfl rfl)
theorem dL_law_1110 : decode cL_law 1110 = .ok (.ireturn, 1) := dk_172 (dk_at dksL_law_38 23 rfl rfl)
theorem dL_law_1111 : decode cL_law 1111 = .ok (.goto 1609, 3) := dk_167 6 73 (dk_at dksL_law_39 0 rfl rfl)
theorem dL_law_1114 : decode cL_law 1114 = .ok (.aload_n 1, 1) := dk_43 (dk_at dksL_law_39 3 rfl rfl)
theorem dL_law_1115 : decode cL_law 1115 = .ok (.aload_n 0, 1) := dk_42 (dk_at dksL_law_39 4 rfl rfl)
theorem dL_law_1116 : decode cL_law 1116 = .ok (.iload 4, 2) := dk_21 4 (dk_at dksL_law_39 5 rfl rfl)
theorem dL_law_1118 : decode cL_law 1118 = .ok (.iconst 1, 1) := dk_4 (dk_at dksL_law_39 7 rfl rfl)
theorem dL_law_1119 : decode cL_law 1119 = .ok (.iadd, 1) := dk_96 (dk_at dksL_law_39 8 rfl rfl)
theorem dL_law_1120 : decode cL_law 1120 = .ok (.iaload, 1) := dk_46 (dk_at dksL_law_39 9 rfl rfl)
theorem dL_law_1121 : decode cL_law 1121 = .ok (.aload_n 0, 1) := dk_42 (dk_at dksL_law_39 10 rfl rfl)
theorem dL_law_1122 : decode cL_law 1122 = .ok (.iload 4, 2) := dk_21 4 (dk_at dksL_law_39 11 rfl rfl)
theorem dL_law_1124 : decode cL_law 1124 = .ok (.iconst 2, 1) := dk_5 (dk_at dksL_law_39 13 rfl rfl)
theorem dL_law_1125 : decode cL_law 1125 = .ok (.iadd, 1) := dk_96 (dk_at dksL_law_39 14 rfl rfl)
theorem dL_law_1126 : decode cL_law 1126 = .ok (.iaload, 1) := dk_46 (dk_at dksL_law_39 15 rfl rfl)
theorem dL_law_1127 : decode cL_law 1127 = .ok (.aload_n 3, 1) := dk_45 (dk_at dksL_law_39 16 rfl rfl)
theorem dL_law_1128 : decode cL_law 1128 = .ok (.invokestatic 188, 3) := dk_184 0 188 (dk_at dksL_law_39 17 rfl rfl)
theorem dL_law_1131 : decode cL_law 1131 = .ok (.istore 5, 2) := dk_54 5 (dk_at dksL_law_39 20 rfl rfl)
theorem dL_law_1133 : decode cL_law 1133 = .ok (.aload_n 2, 1) := dk_44 (dk_at dksL_law_39 22 rfl rfl)
theorem dL_law_1134 : decode cL_law 1134 = .ok (.aload_n 0, 1) := dk_42 (dk_at dksL_law_39 23 rfl rfl)
theorem dL_law_1135 : decode cL_law 1135 = .ok (.iload 4, 2) := dk_21 4 (dk_at dksL_law_40 0 rfl rfl)
theorem dL_law_1137 : decode cL_law 1137 = .ok (.iconst 1, 1) := dk_4 (dk_at dksL_law_40 2 rfl rfl)
theorem dL_law_1138 : decode cL_law 1138 = .ok (.iadd, 1) := dk_96 (dk_at dksL_law_40 3 rfl rfl)
theorem dL_law_1139 : decode cL_law 1139 = .ok (.iaload, 1) := dk_46 (dk_at dksL_law_40 4 rfl rfl)
theorem dL_law_1140 : decode cL_law 1140 = .ok (.aload_n 0, 1) := dk_42 (dk_at dksL_law_40 5 rfl rfl)
theorem dL_law_1141 : decode cL_law 1141 = .ok (.iload 4, 2) := dk_21 4 (dk_at dksL_law_40 6 rfl rfl)
theorem dL_law_1143 : decode cL_law 1143 = .ok (.iconst 2, 1) := dk_5 (dk_at dksL_law_40 8 rfl rfl)
theorem dL_law_1144 : decode cL_law 1144 = .ok (.iadd, 1) := dk_96 (dk_at dksL_law_40 9 rfl rfl)
theorem dL_law_1145 : decode cL_law 1145 = .ok (.iaload, 1) := dk_46 (dk_at dksL_law_40 10 rfl rfl)
theorem dL_law_1146 : decode cL_law 1146 = .ok (.invokevirtual 190, 3) := dk_182 0 190 (dk_at dksL_law_40 11 rfl rfl)
theorem dL_law_1149 : decode cL_law 1149 = .ok (.istore 6, 2) := dk_54 6 (dk_at dksL_law_40 14 rfl rfl)
theorem dL_law_1151 : decode cL_law 1151 = .ok (.aload_n 2, 1) := dk_44 (dk_at dksL_law_40 16 rfl rfl)
theorem dL_law_1152 : decode cL_law 1152 = .ok (.invokevirtual 138, 3) := dk_182 0 138 (dk_at dksL_law_40 17 rfl rfl)
theorem dL_law_1155 : decode cL_law 1155 = .ok (.iload 5, 2) := dk_21 5 (dk_at dksL_law_40 20 rfl rfl)
theorem dL_law_1157 : decode cL_law 1157 = .ok (.if_icmp .eq 5, 3) := dk_159 0 5 (dk_at dksL_law_41 0 rfl rfl)
theorem dL_law_1160 : decode cL_law 1160 = .ok (.iconst 0, 1) := dk_3 (dk_at dksL_law_41 3 rfl rfl)
theorem dL_law_1161 : decode cL_law 1161 = .ok (.ireturn, 1) := dk_172 (dk_at dksL_law_41 4 rfl rfl)
theorem dL_law_1162 : decode cL_law 1162 = .ok (.iload 5, 2) := dk_21 5 (dk_at dksL_law_41 5 rfl rfl)
theorem dL_law_1164 : decode cL_law 1164 = .ok (.ifCond .ne 15, 3) := dk_154 0 15 (dk_at dksL_law_41 7 rfl rfl)
theorem dL_law_1167 : decode cL_law 1167 = .ok (.aload_n 3, 1) := dk_45 (dk_at dksL_law_41 10 rfl rfl)
theorem dL_law_1168 : decode cL_law 1168 = .ok (.iconst 0, 1) := dk_3 (dk_at dksL_law_41 11 rfl rfl)
theorem dL_law_1169 : decode cL_law 1169 = .ok (.laload, 1) := dk_47 (dk_at dksL_law_41 12 rfl rfl)
theorem dL_law_1170 : decode cL_law 1170 = .ok (.iload 6, 2) := dk_21 6 (dk_at dksL_law_41 13 rfl rfl)
theorem dL_law_1172 : decode cL_law 1172 = .ok (.i2l, 1) := dk_133 (dk_at dksL_law_41 15 rfl rfl)
theorem dL_law_1173 : decode cL_law 1173 = .ok (.lcmp, 1) := dk_148 (dk_at dksL_law_41 16 rfl rfl)
theorem dL_law_1174 : decode cL_law 1174 = .ok (.ifCond .eq 5, 3) := dk_153 0 5 (dk_at dksL_law_41 17 rfl rfl)
theorem dL_law_1177 : decode cL_law 1177 = .ok (.iconst 0, 1) := dk_3 (dk_at dksL_law_41 20 rfl rfl)
theorem dL_law_1178 : decode cL_law 1178 = .ok (.ireturn, 1) := dk_172 (dk_at dksL_law_41 21 rfl rfl)
theorem dL_law_1179 : decode cL_law 1179 = .ok (.goto 1541, 3) := dk_167 6 5 (dk_at dksL_law_42 0 rfl rfl)
theorem dL_law_1182 : decode cL_law 1182 = .ok (.aload_n 1, 1) := dk_43 (dk_at dksL_law_42 3 rfl rfl)
theorem dL_law_1183 : decode cL_law 1183 = .ok (.aload_n 0, 1) := dk_42 (dk_at dksL_law_42 4 rfl rfl)
theorem dL_law_1184 : decode cL_law 1184 = .ok (.iload 4, 2) := dk_21 4 (dk_at dksL_law_42 5 rfl rfl)
theorem dL_law_1186 : decode cL_law 1186 = .ok (.iconst 1, 1) := dk_4 (dk_at dksL_law_42 7 rfl rfl)
theorem dL_law_1187 : decode cL_law 1187 = .ok (.iadd, 1) := dk_96 (dk_at dksL_law_42 8 rfl rfl)
theorem dL_law_1188 : decode cL_law 1188 = .ok (.iaload, 1) := dk_46 (dk_at dksL_law_42 9 rfl rfl)
theorem dL_law_1189 : decode cL_law 1189 = .ok (.aload_n 0, 1) := dk_42 (dk_at dksL_law_42 10 rfl rfl)
theorem dL_law_1190 : decode cL_law 1190 = .ok (.iload 4, 2) := dk_21 4 (dk_at dksL_law_42 11 rfl rfl)
theorem dL_law_1192 : decode cL_law 1192 = .ok (.iconst 2, 1) := dk_5 (dk_at dksL_law_42 13 rfl rfl)
theorem dL_law_1193 : decode cL_law 1193 = .ok (.iadd, 1) := dk_96 (dk_at dksL_law_42 14 rfl rfl)
theorem dL_law_1194 : decode cL_law 1194 = .ok (.iaload, 1) := dk_46 (dk_at dksL_law_42 15 rfl rfl)
theorem dL_law_1195 : decode cL_law 1195 = .ok (.aload_n 3, 1) := dk_45 (dk_at dksL_law_42 16 rfl rfl)
theorem dL_law_1196 : decode cL_law 1196 = .ok (.invokestatic 191, 3) := dk_184 0 191 (dk_at dksL_law_42 17 rfl rfl)
theorem dL_law_1199 : decode cL_law 1199 = .ok (.istore 5, 2) := dk_54 5 (dk_at dksL_law_42 20 rfl rfl)
theorem dL_law_1201 : decode cL_law 1201 = .ok (.aload_n 2, 1) := dk_44 (dk_at dksL_law_42 22 rfl rfl)
theorem dL_law_1202 : decode cL_law 1202 = .ok (.aload_n 0, 1) := dk_42 (dk_at dksL_law_42 23 rfl rfl)
theorem dL_law_1203 : decode cL_law 1203 = .ok (.iload 4, 2) := dk_21 4 (dk_at dksL_law_43 0 rfl rfl)
theorem dL_law_1205 : decode cL_law 1205 = .ok (.iconst 1, 1) := dk_4 (dk_at dksL_law_43 2 rfl rfl)
theorem dL_law_1206 : decode cL_law 1206 = .ok (.iadd, 1) := dk_96 (dk_at dksL_law_43 3 rfl rfl)
theorem dL_law_1207 : decode cL_law 1207 = .ok (.iaload, 1) := dk_46 (dk_at dksL_law_43 4 rfl rfl)
theorem dL_law_1208 : decode cL_law 1208 = .ok (.aload_n 0, 1) := dk_42 (dk_at dksL_law_43 5 rfl rfl)
theorem dL_law_1209 : decode cL_law 1209 = .ok (.iload 4, 2) := dk_21 4 (dk_at dksL_law_43 6 rfl rfl)
theorem dL_law_1211 : decode cL_law 1211 = .ok (.iconst 2, 1) := dk_5 (dk_at dksL_law_43 8 rfl rfl)
theorem dL_law_1212 : decode cL_law 1212 = .ok (.iadd, 1) := dk_96 (dk_at dksL_law_43 9 rfl rfl)
theorem dL_law_1213 : decode cL_law 1213 = .ok (.iaload, 1) := dk_46 (dk_at dksL_law_43 10 rfl rfl)
theorem dL_law_1214 : decode cL_law 1214 = .ok (.invokevirtual 193, 3) := dk_182 0 193 (dk_at dksL_law_43 11 rfl rfl)
theorem dL_law_1217 : decode cL_law 1217 = .ok (.istore 6, 2) := dk_54 6 (dk_at dksL_law_43 14 rfl rfl)
theorem dL_law_1219 : decode cL_law 1219 = .ok (.aload_n 2, 1) := dk_44 (dk_at dksL_law_43 16 rfl rfl)
theorem dL_law_1220 : decode cL_law 1220 = .ok (.invokevirtual 138, 3) := dk_182 0 138 (dk_at dksL_law_43 17 rfl rfl)
theorem dL_law_1223 : decode cL_law 1223 = .ok (.iload 5, 2) := dk_21 5 (dk_at dksL_law_43 20 rfl rfl)
theorem dL_law_1225 : decode cL_law 1225 = .ok (.if_icmp .eq 5, 3) := dk_159 0 5 (dk_at dksL_law_44 0 rfl rfl)
theorem dL_law_1228 : decode cL_law 1228 = .ok (.iconst 0, 1) := dk_3 (dk_at dksL_law_44 3 rfl rfl)
theorem dL_law_1229 : decode cL_law 1229 = .ok (.ireturn, 1) := dk_172 (dk_at dksL_law_44 4 rfl rfl)
theorem dL_law_1230 : decode cL_law 1230 = .ok (.iload 5, 2) := dk_21 5 (dk_at dksL_law_44 5 rfl rfl)
theorem dL_law_1232 : decode cL_law 1232 = .ok (.ifCond .ne 15, 3) := dk_154 0 15 (dk_at dksL_law_44 7 rfl rfl)
theorem dL_law_1235 : decode cL_law 1235 = .ok (.aload_n 3, 1) := dk_45 (dk_at dksL_law_44 10 rfl rfl)
theorem dL_law_1236 : decode cL_law 1236 = .ok (.iconst 0, 1) := dk_3 (dk_at dksL_law_44 11 rfl rfl)
theorem dL_law_1237 : decode cL_law 1237 = .ok (.laload, 1) := dk_47 (dk_at dksL_law_44 12 rfl rfl)
theorem dL_law_1238 : decode cL_law 1238 = .ok (.iload 6, 2) := dk_21 6 (dk_at dksL_law_44 13 rfl rfl)
theorem dL_law_1240 : decode cL_law 1240 = .ok (.i2l, 1) := dk_133 (dk_at dksL_law_44 15 rfl rfl)
theorem dL_law_1241 : decode cL_law 1241 = .ok (.lcmp, 1) := dk_148 (dk_at dksL_law_44 16 rfl rfl)
theorem dL_law_1242 : decode cL_law 1242 = .ok (.ifCond .eq 5, 3) := dk_153 0 5 (dk_at dksL_law_44 17 rfl rfl)
theorem dL_law_1245 : decode cL_law 1245 = .ok (.iconst 0, 1) := dk_3 (dk_at dksL_law_44 20 rfl rfl)
theorem dL_law_1246 : decode cL_law 1246 = .ok (.ireturn, 1) := dk_172 (dk_at dksL_law_44 21 rfl rfl)
theorem dL_law_1247 : decode cL_law 1247 = .ok (.goto 1473, 3) := dk_167 5 193 (dk_at dksL_law_45 0 rfl rfl)
theorem dL_law_1250 : decode cL_law 1250 = .ok (.aload_n 1, 1) := dk_43 (dk_at dksL_law_45 3 rfl rfl)
theorem dL_law_1251 : decode cL_law 1251 = .ok (.aload_n 0, 1) := dk_42 (dk_at dksL_law_45 4 rfl rfl)
theorem dL_law_1252 : decode cL_law 1252 = .ok (.iload 4, 2) := dk_21 4 (dk_at dksL_law_45 5 rfl rfl)
theorem dL_law_1254 : decode cL_law 1254 = .ok (.iconst 1, 1) := dk_4 (dk_at dksL_law_45 7 rfl rfl)
theorem dL_law_1255 : decode cL_law 1255 = .ok (.iadd, 1) := dk_96 (dk_at dksL_law_45 8 rfl rfl)
theorem dL_law_1256 : decode cL_law 1256 = .ok (.iaload, 1) := dk_46 (dk_at dksL_law_45 9 rfl rfl)
theorem dL_law_1257 : decode cL_law 1257 = .ok (.aload_n 3, 1) := dk_45 (dk_at dksL_law_45 10 rfl rfl)
theorem dL_law_1258 : decode cL_law 1258 = .ok (.invokestatic 194, 3) := dk_184 0 194 (dk_at dksL_law_45 11 rfl rfl)
theorem dL_law_1261 : decode cL_law 1261 = .ok (.istore 5, 2) := dk_54 5 (dk_at dksL_law_45 14 rfl rfl)
theorem dL_law_1263 : decode cL_law 1263 = .ok (.aload_n 2, 1) := dk_44 (dk_at dksL_law_45 16 rfl rfl)
theorem dL_law_1264 : decode cL_law 1264 = .ok (.aload_n 0, 1) := dk_42 (dk_at dksL_law_45 17 rfl rfl)
theorem dL_law_1265 : decode cL_law 1265 = .ok (.iload 4, 2) := dk_21 4 (dk_at dksL_law_45 18 rfl rfl)
theorem dL_law_1267 : decode cL_law 1267 = .ok (.iconst 1, 1) := dk_4 (dk_at dksL_law_45 20 rfl rfl)
theorem dL_law_1268 : decode cL_law 1268 = .ok (.iadd, 1) := dk_96 (dk_at dksL_law_45 21 rfl rfl)
theorem dL_law_1269 : decode cL_law 1269 = .ok (.iaload, 1) := dk_46 (dk_at dksL_law_45 22 rfl rfl)
theorem dL_law_1270 : decode cL_law 1270 = .ok (.invokevirtual 196, 3) := dk_182 0 196 (dk_at dksL_law_46 0 rfl rfl)
theorem dL_law_1273 : decode cL_law 1273 = .ok (.istore 6, 2) := dk_54 6 (dk_at dksL_law_46 3 rfl rfl)
theorem dL_law_1275 : decode cL_law 1275 = .ok (.aload_n 2, 1) := dk_44 (dk_at dksL_law_46 5 rfl rfl)
theorem dL_law_1276 : decode cL_law 1276 = .ok (.invokevirtual 138, 3) := dk_182 0 138 (dk_at dksL_law_46 6 rfl rfl)
theorem dL_law_1279 : decode cL_law 1279 = .ok (.iload 5, 2) := dk_21 5 (dk_at dksL_law_46 9 rfl rfl)
theorem dL_law_1281 : decode cL_law 1281 = .ok (.if_icmp .eq 5, 3) := dk_159 0 5 (dk_at dksL_law_46 11 rfl rfl)
theorem dL_law_1284 : decode cL_law 1284 = .ok (.iconst 0, 1) := dk_3 (dk_at dksL_law_46 14 rfl rfl)
theorem dL_law_1285 : decode cL_law 1285 = .ok (.ireturn, 1) := dk_172 (dk_at dksL_law_46 15 rfl rfl)
theorem dL_law_1286 : decode cL_law 1286 = .ok (.iload 5, 2) := dk_21 5 (dk_at dksL_law_46 16 rfl rfl)
theorem dL_law_1288 : decode cL_law 1288 = .ok (.ifCond .ne 15, 3) := dk_154 0 15 (dk_at dksL_law_46 18 rfl rfl)
theorem dL_law_1291 : decode cL_law 1291 = .ok (.aload_n 3, 1) := dk_45 (dk_at dksL_law_46 21 rfl rfl)
theorem dL_law_1292 : decode cL_law 1292 = .ok (.iconst 0, 1) := dk_3 (dk_at dksL_law_46 22 rfl rfl)
theorem dL_law_1293 : decode cL_law 1293 = .ok (.laload, 1) := dk_47 (dk_at dksL_law_46 23 rfl rfl)
theorem dL_law_1294 : decode cL_law 1294 = .ok (.iload 6, 2) := dk_21 6 (dk_at dksL_law_47 0 rfl rfl)
theorem dL_law_1296 : decode cL_law 1296 = .ok (.i2l, 1) := dk_133 (dk_at dksL_law_47 2 rfl rfl)
theorem dL_law_1297 : decode cL_law 1297 = .ok (.lcmp, 1) := dk_148 (dk_at dksL_law_47 3 rfl rfl)
theorem dL_law_1298 : decode cL_law 1298 = .ok (.ifCond .eq 5, 3) := dk_153 0 5 (dk_at dksL_law_47 4 rfl rfl)
theorem dL_law_1301 : decode cL_law 1301 = .ok (.iconst 0, 1) := dk_3 (dk_at dksL_law_47 7 rfl rfl)
theorem dL_law_1302 : decode cL_law 1302 = .ok (.ireturn, 1) := dk_172 (dk_at dksL_law_47 8 rfl rfl)
theorem dL_law_1303 : decode cL_law 1303 = .ok (.goto 1417, 3) := dk_167 5 137 (dk_at dksL_law_47 9 rfl rfl)
theorem dL_law_1306 : decode cL_law 1306 = .ok (.aload_n 1, 1) := dk_43 (dk_at dksL_law_47 12 rfl rfl)
theorem dL_law_1307 : decode cL_law 1307 = .ok (.aload_n 0, 1) := dk_42 (dk_at dksL_law_47 13 rfl rfl)
theorem dL_law_1308 : decode cL_law 1308 = .ok (.iload 4, 2) := dk_21 4 (dk_at dksL_law_47 14 rfl rfl)
theorem dL_law_1310 : decode cL_law 1310 = .ok (.iconst 1, 1) := dk_4 (dk_at dksL_law_47 16 rfl rfl)
theorem dL_law_1311 : decode cL_law 1311 = .ok (.iadd, 1) := dk_96 (dk_at dksL_law_47 17 rfl rfl)
theorem dL_law_1312 : decode cL_law 1312 = .ok (.iaload, 1) := dk_46 (dk_at dksL_law_47 18 rfl rfl)
theorem dL_law_1313 : decode cL_law 1313 = .ok (.aload_n 3, 1) := dk_45 (dk_at dksL_law_47 19 rfl rfl)
theorem dL_law_1314 : decode cL_law 1314 = .ok (.invokestatic 197, 3) := dk_184 0 197 (dk_at dksL_law_47 20 rfl rfl)
theorem dL_law_1317 : decode cL_law 1317 = .ok (.istore 5, 2) := dk_54 5 (dk_at dksL_law_48 0 rfl rfl)
theorem dL_law_1319 : decode cL_law 1319 = .ok (.aload_n 2, 1) := dk_44 (dk_at dksL_law_48 2 rfl rfl)
theorem dL_law_1320 : decode cL_law 1320 = .ok (.aload_n 0, 1) := dk_42 (dk_at dksL_law_48 3 rfl rfl)
theorem dL_law_1321 : decode cL_law 1321 = .ok (.iload 4, 2) := dk_21 4 (dk_at dksL_law_48 4 rfl rfl)
theorem dL_law_1323 : decode cL_law 1323 = .ok (.iconst 1, 1) := dk_4 (dk_at dksL_law_48 6 rfl rfl)
theorem dL_law_1324 : decode cL_law 1324 = .ok (.iadd, 1) := dk_96 (dk_at dksL_law_48 7 rfl rfl)
theorem dL_law_1325 : decode cL_law 1325 = .ok (.iaload, 1) := dk_46 (dk_at dksL_law_48 8 rfl rfl)
theorem dL_law_1326 : decode cL_law 1326 = .ok (.invokevirtual 199, 3) := dk_182 0 199 (dk_at dksL_law_48 9 rfl rfl)
theorem dL_law_1329 : decode cL_law 1329 = .ok (.istore 6, 2) := dk_54 6 (dk_at dksL_law_48 12 rfl rfl)
theorem dL_law_1331 : decode cL_law 1331 = .ok (.aload_n 2, 1) := dk_44 (dk_at dksL_law_48 14 rfl rfl)
theorem dL_law_1332 : decode cL_law 1332 = .ok (.invokevirtual 138, 3) := dk_182 0 138 (dk_at dksL_law_48 15 rfl rfl)
theorem dL_law_1335 : decode cL_law 1335 = .ok (.iload 5, 2) := dk_21 5 (dk_at dksL_law_48 18 rfl rfl)
theorem dL_law_1337 : decode cL_law 1337 = .ok (.if_icmp .eq 5, 3) := dk_159 0 5 (dk_at dksL_law_48 20 rfl rfl)
theorem dL_law_1340 : decode cL_law 1340 = .ok (.iconst 0, 1) := dk_3 (dk_at dksL_law_48 23 rfl rfl)
theorem dL_law_1341 : decode cL_law 1341 = .ok (.ireturn, 1) := dk_172 (dk_at dksL_law_49 0 rfl rfl)
theorem dL_law_1342 : decode cL_law 1342 = .ok (.iload 5, 2) := dk_21 5 (dk_at dksL_law_49 1 rfl rfl)
theorem dL_law_1344 : decode cL_law 1344 = .ok (.ifCond .ne 15, 3) := dk_154 0 15 (dk_at dksL_law_49 3 rfl rfl)
theorem dL_law_1347 : decode cL_law 1347 = .ok (.aload_n 3, 1) := dk_45 (dk_at dksL_law_49 6 rfl rfl)
theorem dL_law_1348 : decode cL_law 1348 = .ok (.iconst 0, 1) := dk_3 (dk_at dksL_law_49 7 rfl rfl)
theorem dL_law_1349 : decode cL_law 1349 = .ok (.laload, 1) := dk_47 (dk_at dksL_law_49 8 rfl rfl)
theorem dL_law_1350 : decode cL_law 1350 = .ok (.iload 6, 2) := dk_21 6 (dk_at dksL_law_49 9 rfl rfl)
theorem dL_law_1352 : decode cL_law 1352 = .ok (.i2l, 1) := dk_133 (dk_at dksL_law_49 11 rfl rfl)
theorem dL_law_1353 : decode cL_law 1353 = .ok (.lcmp, 1) := dk_148 (dk_at dksL_law_49 12 rfl rfl)
theorem dL_law_1354 : decode cL_law 1354 = .ok (.ifCond .eq 5, 3) := dk_153 0 5 (dk_at dksL_law_49 13 rfl rfl)
theorem dL_law_1357 : decode cL_law 1357 = .ok (.iconst 0, 1) := dk_3 (dk_at dksL_law_49 16 rfl rfl)
theorem dL_law_1358 : decode cL_law 1358 = .ok (.ireturn, 1) := dk_172 (dk_at dksL_law_49 17 rfl rfl)
theorem dL_law_1359 : decode cL_law 1359 = .ok (.goto 1361, 3) := dk_167 5 81 (dk_at dksL_law_49 18 rfl rfl)
theorem dL_law_1362 : decode cL_law 1362 = .ok (.aload_n 1, 1) := dk_43 (dk_at dksL_law_49 21 rfl rfl)
theorem dL_law_1363 : decode cL_law 1363 = .ok (.invokevirtual 200, 3) := dk_182 0 200 (dk_at dksL_law_50 0 rfl rfl)
theorem dL_law_1366 : decode cL_law 1366 = .ok (.aload_n 2, 1) := dk_44 (dk_at dksL_law_50 3 rfl rfl)
theorem dL_law_1367 : decode cL_law 1367 = .ok (.invokevirtual 203, 3) := dk_182 0 203 (dk_at dksL_law_50 4 rfl rfl)
theorem dL_law_1370 : decode cL_law 1370 = .ok (.if_icmp .eq 1350, 3) := dk_159 5 70 (dk_at dksL_law_50 7 rfl rfl)
theorem dL_law_1373 : decode cL_law 1373 = .ok (.iconst 0, 1) := dk_3 (dk_at dksL_law_50 10 rfl rfl)
theorem dL_law_1374 : decode cL_law 1374 = .ok (.ireturn, 1) := dk_172 (dk_at dksL_law_50 11 rfl rfl)
theorem dL_law_1375 : decode cL_law 1375 = .ok (.aload_n 1, 1) := dk_43 (dk_at dksL_law_50 12 rfl rfl)
theorem dL_law_1376 : decode cL_law 1376 = .ok (.invokevirtual 204, 3) := dk_182 0 204 (dk_at dksL_law_50 13 rfl rfl)
theorem dL_law_1379 : decode cL_law 1379 = .ok (.aload_n 2, 1) := dk_44 (dk_at dksL_law_50 16 rfl rfl)
theorem dL_law_1380 : decode cL_law 1380 = .ok (.invokevirtual 207, 3) := dk_182 0 207 (dk_at dksL_law_50 17 rfl rfl)
theorem dL_law_1383 : decode cL_law 1383 = .ok (.if_icmp .eq 1337, 3) := dk_159 5 57 (dk_at dksL_law_50 20 rfl rfl)
theorem dL_law_1386 : decode cL_law 1386 = .ok (.iconst 0, 1) := dk_3 (dk_at dksL_law_50 23 rfl rfl)
theorem dL_law_1387 : decode cL_law 1387 = .ok (.ireturn, 1) := dk_172 (dk_at dksL_law_51 0 rfl rfl)
theorem dL_law_1388 : decode cL_law 1388 = .ok (.aload_n 1, 1) := dk_43 (dk_at dksL_law_51 1 rfl rfl)
theorem dL_law_1389 : decode cL_law 1389 = .ok (.invokevirtual 208, 3) := dk_182 0 208 (dk_at dksL_law_51 2 rfl rfl)
theorem dL_law_1392 : decode cL_law 1392 = .ok (.aload_n 2, 1) := dk_44 (dk_at dksL_law_51 5 rfl rfl)
theorem dL_law_1393 : decode cL_law 1393 = .ok (.invokevirtual 211, 3) := dk_182 0 211 (dk_at dksL_law_51 6 rfl rfl)
theorem dL_law_1396 : decode cL_law 1396 = .ok (.if_icmp .eq 1324, 3) := dk_159 5 44 (dk_at dksL_law_51 9 rfl rfl)
theorem dL_law_1399 : decode cL_law 1399 = .ok (.iconst 0, 1) := dk_3 (dk_at dksL_law_51 12 rfl rfl)
theorem dL_law_1400 : decode cL_law 1400 = .ok (.ireturn, 1) := dk_172 (dk_at dksL_law_51 13 rfl rfl)
theorem dL_law_1401 : decode cL_law 1401 = .ok (.aload_n 1, 1) := dk_43 (dk_at dksL_law_51 14 rfl rfl)
theorem dL_law_1402 : decode cL_law 1402 = .ok (.invokevirtual 212, 3) := dk_182 0 212 (dk_at dksL_law_51 15 rfl rfl)
theorem dL_law_1405 : decode cL_law 1405 = .ok (.aload_n 2, 1) := dk_44 (dk_at dksL_law_51 18 rfl rfl)
theorem dL_law_1406 : decode cL_law 1406 = .ok (.invokevirtual 215, 3) := dk_182 0 215 (dk_at dksL_law_51 19 rfl rfl)
theorem dL_law_1409 : decode cL_law 1409 = .ok (.if_icmp .eq 1311, 3) := dk_159 5 31 (dk_at dksL_law_52 0 rfl rfl)
theorem dL_law_1412 : decode cL_law 1412 = .ok (.iconst 0, 1) := dk_3 (dk_at dksL_law_52 3 rfl rfl)
theorem dL_law_1413 : decode cL_law 1413 = .ok (.ireturn, 1) := dk_172 (dk_at dksL_law_52 4 rfl rfl)
theorem dL_law_1414 : decode cL_law 1414 = .ok (.aload_n 1, 1) := dk_43 (dk_at dksL_law_52 5 rfl rfl)
theorem dL_law_1415 : decode cL_law 1415 = .ok (.invokevirtual 216, 3) := dk_182 0 216 (dk_at dksL_law_52 6 rfl rfl)
theorem dL_law_1418 : decode cL_law 1418 = .ok (.aload_n 2, 1) := dk_44 (dk_at dksL_law_52 9 rfl rfl)
theorem dL_law_1419 : decode cL_law 1419 = .ok (.invokevirtual 219, 3) := dk_182 0 219 (dk_at dksL_law_52 10 rfl rfl)
theorem dL_law_1422 : decode cL_law 1422 = .ok (.if_icmp .eq 1298, 3) := dk_159 5 18 (dk_at dksL_law_52 13 rfl rfl)
theorem dL_law_1425 : decode cL_law 1425 = .ok (.iconst 0, 1) := dk_3 (dk_at dksL_law_52 16 rfl rfl)
theorem dL_law_1426 : decode cL_law 1426 = .ok (.ireturn, 1) := dk_172 (dk_at dksL_law_52 17 rfl rfl)
theorem dL_law_1427 : decode cL_law 1427 = .ok (.aload_n 1, 1) := dk_43 (dk_at dksL_law_52 18 rfl rfl)
theorem dL_law_1428 : decode cL_law 1428 = .ok (.aload_n 0, 1) := dk_42 (dk_at dksL_law_52 19 rfl rfl)
theorem dL_law_1429 : decode cL_law 1429 = .ok (.iload 4, 2) := dk_21 4 (dk_at dksL_law_52 20 rfl rfl)
theorem dL_law_1431 : decode cL_law 1431 = .ok (.iconst 1, 1) := dk_4 (dk_at dksL_law_52 22 rfl rfl)
theorem dL_law_1432 : decode cL_law 1432 = .ok (.iadd, 1) := dk_96 (dk_at dksL_law_52 23 rfl rfl)
theorem dL_law_1433 : decode cL_law 1433 = .ok (.iaload, 1) := dk_46 (dk_at dksL_law_53 0 rfl rfl)
theorem dL_law_1434 : decode cL_law 1434 = .ok (.aload_n 3, 1) := dk_45 (dk_at dksL_law_53 1 rfl rfl)
theorem dL_law_1435 : decode cL_law 1435 = .ok (.invokestatic 220, 3) := dk_184 0 220 (dk_at dksL_law_53 2 rfl rfl)
theorem dL_law_1438 : decode cL_law 1438 = .ok (.istore 5, 2) := dk_54 5 (dk_at dksL_law_53 5 rfl rfl)
theorem dL_law_1440 : decode cL_law 1440 = .ok (.aload_n 2, 1) := dk_44 (dk_at dksL_law_53 7 rfl rfl)
theorem dL_law_1441 : decode cL_law 1441 = .ok (.aload_n 0, 1) := dk_42 (dk_at dksL_law_53 8 rfl rfl)
theorem dL_law_1442 : decode cL_law 1442 = .ok (.iload 4, 2) := dk_21 4 (dk_at dksL_law_53 9 rfl rfl)
theorem dL_law_1444 : decode cL_law 1444 = .ok (.iconst 1, 1) := dk_4 (dk_at dksL_law_53 11 rfl rfl)
theorem dL_law_1445 : decode cL_law 1445 = .ok (.iadd, 1) := dk_96 (dk_at dksL_law_53 12 rfl rfl)
theorem dL_law_1446 : decode cL_law 1446 = .ok (.iaload, 1) := dk_46 (dk_at dksL_law_53 13 rfl rfl)
theorem dL_law_1447 : decode cL_law 1447 = .ok (.invokevirtual 222, 3) := dk_182 0 222 (dk_at dksL_law_53 14 rfl rfl)
theorem dL_law_1450 : decode cL_law 1450 = .ok (.istore 6, 2) := dk_54 6 (dk_at dksL_law_53 17 rfl rfl)
theorem dL_law_1452 : decode cL_law 1452 = .ok (.aload_n 2, 1) := dk_44 (dk_at dksL_law_53 19 rfl rfl)
theorem dL_law_1453 : decode cL_law 1453 = .ok (.invokevirtual 138, 3) := dk_182 0 138 (dk_at dksL_law_53 20 rfl rfl)
theorem dL_law_1456 : decode cL_law 1456 = .ok (.iload 5, 2) := dk_21 5 (dk_at dksL_law_54 0 rfl rfl)
theorem dL_law_1458 : decode cL_law 1458 = .ok (.if_icmp .eq 5, 3) := dk_159 0 5 (dk_at dksL_law_54 2 rfl rfl)
theorem dL_law_1461 : decode cL_law 1461 = .ok (.iconst 0, 1) := dk_3 (dk_at dksL_law_54 5 rfl rfl)
theorem dL_law_1462 : decode cL_law 1462 = .ok (.ireturn, 1) := dk_172 (dk_at dksL_law_54 6 rfl rfl)
theorem dL_law_1463 : decode cL_law 1463 = .ok (.iload 5, 2) := dk_21 5 (dk_at dksL_law_54 7 rfl rfl)
theorem dL_law_1465 : decode cL_law 1465 = .ok (.ifCond .ne 15, 3) := dk_154 0 15 (dk_at dksL_law_54 9 rfl rfl)
theorem dL_law_1468 : decode cL_law 1468 = .ok (.aload_n 3, 1) := dk_45 (dk_at dksL_law_54 12 rfl rfl)
theorem dL_law_1469 : decode cL_law 1469 = .ok (.iconst 0, 1) := dk_3 (dk_at dksL_law_54 13 rfl rfl)
theorem dL_law_1470 : decode cL_law 1470 = .ok (.laload, 1) := dk_47 (dk_at dksL_law_54 14 rfl rfl)
theorem dL_law_1471 : decode cL_law 1471 = .ok (.iload 6, 2) := dk_21 6 (dk_at dksL_law_54 15 rfl rfl)
theorem dL_law_1473 : decode cL_law 1473 = .ok (.i2l, 1) := dk_133 (dk_at dksL_law_54 17 rfl rfl)
theorem dL_law_1474 : decode cL_law 1474 = .ok (.lcmp, 1) := dk_148 (dk_at dksL_law_54 18 rfl rfl)
theorem dL_law_1475 : decode cL_law 1475 = .ok (.ifCond .eq 5, 3) := dk_153 0 5 (dk_at dksL_law_54 19 rfl rfl)
theorem dL_law_1478 : decode cL_law 1478 = .ok (.iconst 0, 1) := dk_3 (dk_at dksL_law_54 22 rfl rfl)
theorem dL_law_1479 : decode cL_law 1479 = .ok (.ireturn, 1) := dk_172 (dk_at dksL_law_54 23 rfl rfl)
theorem dL_law_1480 : decode cL_law 1480 = .ok (.goto 1240, 3) := dk_167 4 216 (dk_at dksL_law_55 0 rfl rfl)
theorem dL_law_1483 : decode cL_law 1483 = .ok (.aload_n 1, 1) := dk_43 (dk_at dksL_law_55 3 rfl rfl)
theorem dL_law_1484 : decode cL_law 1484 = .ok (.aload_n 0, 1) := dk_42 (dk_at dksL_law_55 4 rfl rfl)
theorem dL_law_1485 : decode cL_law 1485 = .ok (.iload 4, 2) := dk_21 4 (dk_at dksL_law_55 5 rfl rfl)
theorem dL_law_1487 : decode cL_law 1487 = .ok (.iconst 1, 1) := dk_4 (dk_at dksL_law_55 7 rfl rfl)
theorem dL_law_1488 : decode cL_law 1488 = .ok (.iadd, 1) := dk_96 (dk_at dksL_law_55 8 rfl rfl)
theorem dL_law_1489 : decode cL_law 1489 = .ok (.iaload, 1) := dk_46 (dk_at dksL_law_55 9 rfl rfl)
theorem dL_law_1490 : decode cL_law 1490 = .ok (.aload_n 3, 1) := dk_45 (dk_at dksL_law_55 10 rfl rfl)
theorem dL_law_1491 : decode cL_law 1491 = .ok (.invokestatic 223, 3) := dk_184 0 223 (dk_at dksL_law_55 11 rfl rfl)
theorem dL_law_1494 : decode cL_law 1494 = .ok (.istore 5, 2) := dk_54 5 (dk_at dksL_law_55 14 rfl rfl)
theorem dL_law_1496 : decode cL_law 1496 = .ok (.aload_n 2, 1) := dk_44 (dk_at dksL_law_55 16 rfl rfl)
theorem dL_law_1497 : decode cL_law 1497 = .ok (.aload_n 0, 1) := dk_42 (dk_at dksL_law_55 17 rfl rfl)
theorem dL_law_1498 : decode cL_law 1498 = .ok (.iload 4, 2) := dk_21 4 (dk_at dksL_law_55 18 rfl rfl)
theorem dL_law_1500 : decode cL_law 1500 = .ok (.iconst 1, 1) := dk_4 (dk_at dksL_law_55 20 rfl rfl)
theorem dL_law_1501 : decode cL_law 1501 = .ok (.iadd, 1) := dk_96 (dk_at dksL_law_55 21 rfl rfl)
theorem dL_law_1502 : decode cL_law 1502 = .ok (.iaload, 1) := dk_46 (dk_at dksL_law_55 22 rfl rfl)
theorem dL_law_1503 : decode cL_law 1503 = .ok (.invokevirtual 225, 3) := dk_182 0 225 (dk_at dksL_law_56 0 rfl rfl)
theorem dL_law_1506 : decode cL_law 1506 = .ok (.istore 6, 2) := dk_54 6 (dk_at dksL_law_56 3 rfl rfl)
theorem dL_law_1508 : decode cL_law 1508 = .ok (.aload_n 2, 1) := dk_44 (dk_at dksL_law_56 5 rfl rfl)
theorem dL_law_1509 : decode cL_law 1509 = .ok (.invokevirtual 138, 3) := dk_182 0 138 (dk_at dksL_law_56 6 rfl rfl)
theorem dL_law_1512 : decode cL_law 1512 = .ok (.iload 5, 2) := dk_21 5 (dk_at dksL_law_56 9 rfl rfl)
theorem dL_law_1514 : decode cL_law 1514 = .ok (.if_icmp .eq 5, 3) := dk_159 0 5 (dk_at dksL_law_56 11 rfl rfl)
theorem dL_law_1517 : decode cL_law 1517 = .ok (.iconst 0, 1) := dk_3 (dk_at dksL_law_56 14 rfl rfl)
theorem dL_law_1518 : decode cL_law 1518 = .ok (.ireturn, 1) := dk_172 (dk_at dksL_law_56 15 rfl rfl)
theorem dL_law_1519 : decode cL_law 1519 = .ok (.iload 5, 2) := dk_21 5 (dk_at dksL_law_56 16 rfl rfl)
theorem dL_law_1521 : decode cL_law 1521 = .ok (.ifCond .ne 15, 3) := dk_154 0 15 (dk_at dksL_law_56 18 rfl rfl)
theorem dL_law_1524 : decode cL_law 1524 = .ok (.aload_n 3, 1) := dk_45 (dk_at dksL_law_56 21 rfl rfl)
theorem dL_law_1525 : decode cL_law 1525 = .ok (.iconst 0, 1) := dk_3 (dk_at dksL_law_56 22 rfl rfl)
theorem dL_law_1526 : decode cL_law 1526 = .ok (.laload, 1) := dk_47 (dk_at dksL_law_56 23 rfl rfl)
theorem dL_law_1527 : decode cL_law 1527 = .ok (.iload 6, 2) := dk_21 6 (dk_at dksL_law_57 0 rfl rfl)
theorem dL_law_1529 : decode cL_law 1529 = .ok (.i2l, 1) := dk_133 (dk_at dksL_law_57 2 rfl rfl)
theorem dL_law_1530 : decode cL_law 1530 = .ok (.lcmp, 1) := dk_148 (dk_at dksL_law_57 3 rfl rfl)
theorem dL_law_1531 : decode cL_law 1531 = .ok (.ifCond .eq 5, 3) := dk_153 0 5 (dk_at dksL_law_57 4 rfl rfl)
theorem dL_law_1534 : decode cL_law 1534 = .ok (.iconst 0, 1) := dk_3 (dk_at dksL_law_57 7 rfl rfl)
theorem dL_law_1535 : decode cL_law 1535 = .ok (.ireturn, 1) := dk_172 (dk_at dksL_law_57 8 rfl rfl)
theorem dL_law_1536 : decode cL_law 1536 = .ok (.goto 1184, 3) := dk_167 4 160 (dk_at dksL_law_57 9 rfl rfl)
theorem dL_law_1539 : decode cL_law 1539 = .ok (.aload_n 1, 1) := dk_43 (dk_at dksL_law_57 12 rfl rfl)
theorem dL_law_1540 : decode cL_law 1540 = .ok (.aload_n 0, 1) := dk_42 (dk_at dksL_law_57 13 rfl rfl)
theorem dL_law_1541 : decode cL_law 1541 = .ok (.iload 4, 2) := dk_21 4 (dk_at dksL_law_57 14 rfl rfl)
theorem dL_law_1543 : decode cL_law 1543 = .ok (.iconst 1, 1) := dk_4 (dk_at dksL_law_57 16 rfl rfl)
theorem dL_law_1544 : decode cL_law 1544 = .ok (.iadd, 1) := dk_96 (dk_at dksL_law_57 17 rfl rfl)
theorem dL_law_1545 : decode cL_law 1545 = .ok (.iaload, 1) := dk_46 (dk_at dksL_law_57 18 rfl rfl)
theorem dL_law_1546 : decode cL_law 1546 = .ok (.aload_n 0, 1) := dk_42 (dk_at dksL_law_57 19 rfl rfl)
theorem dL_law_1547 : decode cL_law 1547 = .ok (.iload 4, 2) := dk_21 4 (dk_at dksL_law_57 20 rfl rfl)
theorem dL_law_1549 : decode cL_law 1549 = .ok (.iconst 2, 1) := dk_5 (dk_at dksL_law_57 22 rfl rfl)
theorem dL_law_1550 : decode cL_law 1550 = .ok (.iadd, 1) := dk_96 (dk_at dksL_law_57 23 rfl rfl)
theorem dL_law_1551 : decode cL_law 1551 = .ok (.iaload, 1) := dk_46 (dk_at dksL_law_58 0 rfl rfl)
theorem dL_law_1552 : decode cL_law 1552 = .ok (.aload_n 3, 1) := dk_45 (dk_at dksL_law_58 1 rfl rfl)
theorem dL_law_1553 : decode cL_law 1553 = .ok (.invokestatic 226, 3) := dk_184 0 226 (dk_at dksL_law_58 2 rfl rfl)
theorem dL_law_1556 : decode cL_law 1556 = .ok (.istore 5, 2) := dk_54 5 (dk_at dksL_law_58 5 rfl rfl)
theorem dL_law_1558 : decode cL_law 1558 = .ok (.aload_n 2, 1) := dk_44 (dk_at dksL_law_58 7 rfl rfl)
theorem dL_law_1559 : decode cL_law 1559 = .ok (.aload_n 0, 1) := dk_42 (dk_at dksL_law_58 8 rfl rfl)
theorem dL_law_1560 : decode cL_law 1560 = .ok (.iload 4, 2) := dk_21 4 (dk_at dksL_law_58 9 rfl rfl)
theorem dL_law_1562 : decode cL_law 1562 = .ok (.iconst 1, 1) := dk_4 (dk_at dksL_law_58 11 rfl rfl)
theorem dL_law_1563 : decode cL_law 1563 = .ok (.iadd, 1) := dk_96 (dk_at dksL_law_58 12 rfl rfl)
theorem dL_law_1564 : decode cL_law 1564 = .ok (.iaload, 1) := dk_46 (dk_at dksL_law_58 13 rfl rfl)
theorem dL_law_1565 : decode cL_law 1565 = .ok (.aload_n 0, 1) := dk_42 (dk_at dksL_law_58 14 rfl rfl)
theorem dL_law_1566 : decode cL_law 1566 = .ok (.iload 4, 2) := dk_21 4 (dk_at dksL_law_58 15 rfl rfl)
theorem dL_law_1568 : decode cL_law 1568 = .ok (.iconst 2, 1) := dk_5 (dk_at dksL_law_58 17 rfl rfl)
theorem dL_law_1569 : decode cL_law 1569 = .ok (.iadd, 1) := dk_96 (dk_at dksL_law_58 18 rfl rfl)
theorem dL_law_1570 : decode cL_law 1570 = .ok (.iaload, 1) := dk_46 (dk_at dksL_law_58 19 rfl rfl)
theorem dL_law_1571 : decode cL_law 1571 = .ok (.invokevirtual 228, 3) := dk_182 0 228 (dk_at dksL_law_58 20 rfl rfl)
theorem dL_law_1574 : decode cL_law 1574 = .ok (.istore 6, 2) := dk_54 6 (dk_at dksL_law_59 0 rfl rfl)
theorem dL_law_1576 : decode cL_law 1576 = .ok (.aload_n 2, 1) := dk_44 (dk_at dksL_law_59 2 rfl rfl)
theorem dL_law_1577 : decode cL_law 1577 = .ok (.invokevirtual 138, 3) := dk_182 0 138 (dk_at dksL_law_59 3 rfl rfl)
theorem dL_law_1580 : decode cL_law 1580 = .ok (.iload 5, 2) := dk_21 5 (dk_at dksL_law_59 6 rfl rfl)
theorem dL_law_1582 : decode cL_law 1582 = .ok (.if_icmp .eq 5, 3) := dk_159 0 5 (dk_at dksL_law_59 8 rfl rfl)
theorem dL_law_1585 : decode cL_law 1585 = .ok (.iconst 0, 1) := dk_3 (dk_at dksL_law_59 11 rfl rfl)
theorem dL_law_1586 : decode cL_law 1586 = .ok (.ireturn, 1) := dk_172 (dk_at dksL_law_59 12 rfl rfl)
theorem dL_law_1587 : decode cL_law 1587 = .ok (.iload 5, 2) := dk_21 5 (dk_at dksL_law_59 13 rfl rfl)
theorem dL_law_1589 : decode cL_law 1589 = .ok (.ifCond .ne 15, 3) := dk_154 0 15 (dk_at dksL_law_59 15 rfl rfl)
theorem dL_law_1592 : decode cL_law 1592 = .ok (.aload_n 3, 1) := dk_45 (dk_at dksL_law_59 18 rfl rfl)
theorem dL_law_1593 : decode cL_law 1593 = .ok (.iconst 0, 1) := dk_3 (dk_at dksL_law_59 19 rfl rfl)
theorem dL_law_1594 : decode cL_law 1594 = .ok (.laload, 1) := dk_47 (dk_at dksL_law_59 20 rfl rfl)
theorem dL_law_1595 : decode cL_law 1595 = .ok (.iload 6, 2) := dk_21 6 (dk_at dksL_law_59 21 rfl rfl)
theorem dL_law_1597 : decode cL_law 1597 = .ok (.i2l, 1) := dk_133 (dk_at dksL_law_59 23 rfl rfl)
theorem dL_law_1598 : decode cL_law 1598 = .ok (.lcmp, 1) := dk_148 (dk_at dksL_law_60 0 rfl rfl)
theorem dL_law_1599 : decode cL_law 1599 = .ok (.ifCond .eq 5, 3) := dk_153 0 5 (dk_at dksL_law_60 1 rfl rfl)
theorem dL_law_1602 : decode cL_law 1602 = .ok (.iconst 0, 1) := dk_3 (dk_at dksL_law_60 4 rfl rfl)
theorem dL_law_1603 : decode cL_law 1603 = .ok (.ireturn, 1) := dk_172 (dk_at dksL_law_60 5 rfl rfl)
theorem dL_law_1604 : decode cL_law 1604 = .ok (.goto 1116, 3) := dk_167 4 92 (dk_at dksL_law_60 6 rfl rfl)
theorem dL_law_1607 : decode cL_law 1607 = .ok (.aload_n 1, 1) := dk_43 (dk_at dksL_law_60 9 rfl rfl)
theorem dL_law_1608 : decode cL_law 1608 = .ok (.aload_n 0, 1) := dk_42 (dk_at dksL_law_60 10 rfl rfl)
theorem dL_law_1609 : decode cL_law 1609 = .ok (.iload 4, 2) := dk_21 4 (dk_at dksL_law_60 11 rfl rfl)
theorem dL_law_1611 : decode cL_law 1611 = .ok (.iconst 1, 1) := dk_4 (dk_at dksL_law_60 13 rfl rfl)
theorem dL_law_1612 : decode cL_law 1612 = .ok (.iadd, 1) := dk_96 (dk_at dksL_law_60 14 rfl rfl)
theorem dL_law_1613 : decode cL_law 1613 = .ok (.iaload, 1) := dk_46 (dk_at dksL_law_60 15 rfl rfl)
theorem dL_law_1614 : decode cL_law 1614 = .ok (.aload_n 3, 1) := dk_45 (dk_at dksL_law_60 16 rfl rfl)
theorem dL_law_1615 : decode cL_law 1615 = .ok (.invokestatic 229, 3) := dk_184 0 229 (dk_at dksL_law_60 17 rfl rfl)
theorem dL_law_1618 : decode cL_law 1618 = .ok (.istore 5, 2) := dk_54 5 (dk_at dksL_law_60 20 rfl rfl)
theorem dL_law_1620 : decode cL_law 1620 = .ok (.aload_n 2, 1) := dk_44 (dk_at dksL_law_60 22 rfl rfl)
theorem dL_law_1621 : decode cL_law 1621 = .ok (.aload_n 0, 1) := dk_42 (dk_at dksL_law_60 23 rfl rfl)
theorem dL_law_1622 : decode cL_law 1622 = .ok (.iload 4, 2) := dk_21 4 (dk_at dksL_law_61 0 rfl rfl)
theorem dL_law_1624 : decode cL_law 1624 = .ok (.iconst 1, 1) := dk_4 (dk_at dksL_law_61 2 rfl rfl)
theorem dL_law_1625 : decode cL_law 1625 = .ok (.iadd, 1) := dk_96 (dk_at dksL_law_61 3 rfl rfl)
theorem dL_law_1626 : decode cL_law 1626 = .ok (.iaload, 1) := dk_46 (dk_at dksL_law_61 4 rfl rfl)
theorem dL_law_1627 : decode cL_law 1627 = .ok (.invokevirtual 231, 3) := dk_182 0 231 (dk_at dksL_law_61 5 rfl rfl)
theorem dL_law_1630 : decode cL_law 1630 = .ok (.istore 6, 2) := dk_54 6 (dk_at dksL_law_61 8 rfl rfl)
theorem dL_law_1632 : decode cL_law 1632 = .ok (.aload_n 2, 1) := dk_44 (dk_at dksL_law_61 10 rfl rfl)
theorem dL_law_1633 : decode cL_law 1633 = .ok (.invokevirtual 138, 3) := dk_182 0 138 (dk_at dksL_law_61 11 rfl rfl)
theorem dL_law_1636 : decode cL_law 1636 = .ok (.iload 5, 2) := dk_21 5 (dk_at dksL_law_61 14 rfl rfl)
theorem dL_law_1638 : decode cL_law 1638 = .ok (.if_icmp .eq 5, 3) := dk_159 0 5 (dk_at dksL_law_61 16 rfl rfl)
theorem dL_law_1641 : decode cL_law 1641 = .ok (.iconst 0, 1) := dk_3 (dk_at dksL_law_61 19 rfl rfl)
theorem dL_law_1642 : decode cL_law 1642 = .ok (.ireturn, 1) := dk_172 (dk_at dksL_law_61 20 rfl rfl)
theorem dL_law_1643 : decode cL_law 1643 = .ok (.iload 5, 2) := dk_21 5 (dk_at dksL_law_61 21 rfl rfl)
theorem dL_law_1645 : decode cL_law 1645 = .ok (.ifCond .ne 15, 3) := dk_154 0 15 (dk_at dksL_law_62 0 rfl rfl)
theorem dL_law_1648 : decode cL_law 1648 = .ok (.aload_n 3, 1) := dk_45 (dk_at dksL_law_62 3 rfl rfl)
theorem dL_law_1649 : decode cL_law 1649 = .ok (.iconst 0, 1) := dk_3 (dk_at dksL_law_62 4 rfl rfl)
theorem dL_law_1650 : decode cL_law 1650 = .ok (.laload, 1) := dk_47 (dk_at dksL_law_62 5 rfl rfl)
theorem dL_law_1651 : decode cL_law 1651 = .ok (.iload 6, 2) := dk_21 6 (dk_at dksL_law_62 6 rfl rfl)
theorem dL_law_1653 : decode cL_law 1653 = .ok (.i2l, 1) := dk_133 (dk_at dksL_law_62 8 rfl rfl)
theorem dL_law_1654 : decode cL_law 1654 = .ok (.lcmp, 1) := dk_148 (dk_at dksL_law_62 9 rfl rfl)
theorem dL_law_1655 : decode cL_law 1655 = .ok (.ifCond .eq 5, 3) := dk_153 0 5 (dk_at dksL_law_62 10 rfl rfl)
theorem dL_law_1658 : decode cL_law 1658 = .ok (.iconst 0, 1) := dk_3 (dk_at dksL_law_62 13 rfl rfl)
theorem dL_law_1659 : decode cL_law 1659 = .ok (.ireturn, 1) := dk_172 (dk_at dksL_law_62 14 rfl rfl)
theorem dL_law_1660 : decode cL_law 1660 = .ok (.goto 1060, 3) := dk_167 4 36 (dk_at dksL_law_62 15 rfl rfl)
theorem dL_law_1663 : decode cL_law 1663 = .ok (.aload_n 1, 1) := dk_43 (dk_at dksL_law_62 18 rfl rfl)
theorem dL_law_1664 : decode cL_law 1664 = .ok (.aload_n 0, 1) := dk_42 (dk_at dksL_law_62 19 rfl rfl)
theorem dL_law_1665 : decode cL_law 1665 = .ok (.iload 4, 2) := dk_21 4 (dk_at dksL_law_62 20 rfl rfl)
theorem dL_law_1667 : decode cL_law 1667 = .ok (.iconst 1, 1) := dk_4 (dk_at dksL_law_62 22 rfl rfl)
theorem dL_law_1668 : decode cL_law 1668 = .ok (.iadd, 1) := dk_96 (dk_at dksL_law_62 23 rfl rfl)
theorem dL_law_1669 : decode cL_law 1669 = .ok (.iaload, 1) := dk_46 (dk_at dksL_law_63 0 rfl rfl)
theorem dL_law_1670 : decode cL_law 1670 = .ok (.aload_n 3, 1) := dk_45 (dk_at dksL_law_63 1 rfl rfl)
theorem dL_law_1671 : decode cL_law 1671 = .ok (.invokestatic 232, 3) := dk_184 0 232 (dk_at dksL_law_63 2 rfl rfl)
theorem dL_law_1674 : decode cL_law 1674 = .ok (.istore 5, 2) := dk_54 5 (dk_at dksL_law_63 5 rfl rfl)
theorem dL_law_1676 : decode cL_law 1676 = .ok (.aload_n 2, 1) := dk_44 (dk_at dksL_law_63 7 rfl rfl)
theorem dL_law_1677 : decode cL_law 1677 = .ok (.aload_n 0, 1) := dk_42 (dk_at dksL_law_63 8 rfl rfl)
theorem dL_law_1678 : decode cL_law 1678 = .ok (.iload 4, 2) := dk_21 4 (dk_at dksL_law_63 9 rfl rfl)
theorem dL_law_1680 : decode cL_law 1680 = .ok (.iconst 1, 1) := dk_4 (dk_at dksL_law_63 11 rfl rfl)
theorem dL_law_1681 : decode cL_law 1681 = .ok (.iadd, 1) := dk_96 (dk_at dksL_law_63 12 rfl rfl)
theorem dL_law_1682 : decode cL_law 1682 = .ok (.iaload, 1) := dk_46 (dk_at dksL_law_63 13 rfl rfl)
theorem dL_law_1683 : decode cL_law 1683 = .ok (.invokevirtual 234, 3) := dk_182 0 234 (dk_at dksL_law_63 14 rfl rfl)
theorem dL_law_1686 : decode cL_law 1686 = .ok (.istore 6, 2) := dk_54 6 (dk_at dksL_law_63 17 rfl rfl)
theorem dL_law_1688 : decode cL_law 1688 = .ok (.aload_n 2, 1) := dk_44 (dk_at dksL_law_63 19 rfl rfl)
theorem dL_law_1689 : decode cL_law 1689 = .ok (.invokevirtual 138, 3) := dk_182 0 138 (dk_at dksL_law_63 20 rfl rfl)
theorem dL_law_1692 : decode cL_law 1692 = .ok (.iload 5, 2) := dk_21 5 (dk_at dksL_law_64 0 rfl rfl)
theorem dL_law_1694 : decode cL_law 1694 = .ok (.if_icmp .eq 5, 3) := dk_159 0 5 (dk_at dksL_law_64 2 rfl rfl)
theorem dL_law_1697 : decode cL_law 1697 = .ok (.iconst 0, 1) := dk_3 (dk_at dksL_law_64 5 rfl rfl)
theorem dL_law_1698 : decode cL_law 1698 = .ok (.ireturn, 1) := dk_172 (dk_at dksL_law_64 6 rfl rfl)
theorem dL_law_1699 : decode cL_law 1699 = .ok (.iload 5, 2) := dk_21 5 (dk_at dksL_law_64 7 rfl rfl)
theorem dL_law_1701 : decode cL_law 1701 = .ok (.ifCond .ne 15, 3) := dk_154 0 15 (dk_at dksL_law_64 9 rfl rfl)
theorem dL_law_1704 : decode cL_law 1704 = .ok (.aload_n 3, 1) := dk_45 (dk_at dksL_law_64 12 rfl rfl)
theorem dL_law_1705 : decode cL_law 1705 = .ok (.iconst 0, 1) := dk_3 (dk_at dksL_law_64 13 rfl rfl)
theorem dL_law_1706 : decode cL_law 1706 = .ok (.laload, 1) := dk_47 (dk_at dksL_law_64 14 rfl rfl)
theorem dL_law_1707 : decode cL_law 1707 = .ok (.iload 6, 2) := dk_21 6 (dk_at dksL_law_64 15 rfl rfl)
theorem dL_law_1709 : decode cL_law 1709 = .ok (.i2l, 1) := dk_133 (dk_at dksL_law_64 17 rfl rfl)
theorem dL_law_1710 : decode cL_law 1710 = .ok (.lcmp, 1) := dk_148 (dk_at dksL_law_64 18 rfl rfl)
theorem dL_law_1711 : decode cL_law 1711 = .ok (.ifCond .eq 5, 3) := dk_153 0 5 (dk_at dksL_law_64 19 rfl rfl)
theorem dL_law_1714 : decode cL_law 1714 = .ok (.iconst 0, 1) := dk_3 (dk_at dksL_law_64 22 rfl rfl)
theorem dL_law_1715 : decode cL_law 1715 = .ok (.ireturn, 1) := dk_172 (dk_at dksL_law_64 23 rfl rfl)
theorem dL_law_1716 : decode cL_law 1716 = .ok (.goto 1004, 3) := dk_167 3 236 (dk_at dksL_law_65 0 rfl rfl)
theorem dL_law_1719 : decode cL_law 1719 = .ok (.aload_n 1, 1) := dk_43 (dk_at dksL_law_65 3 rfl rfl)
theorem dL_law_1720 : decode cL_law 1720 = .ok (.invokevirtual 235, 3) := dk_182 0 235 (dk_at dksL_law_65 4 rfl rfl)
theorem dL_law_1723 : decode cL_law 1723 = .ok (.aload_n 2, 1) := dk_44 (dk_at dksL_law_65 7 rfl rfl)
theorem dL_law_1724 : decode cL_law 1724 = .ok (.invokevirtual 238, 3) := dk_182 0 238 (dk_at dksL_law_65 8 rfl rfl)
theorem dL_law_1727 : decode cL_law 1727 = .ok (.if_icmp .eq 993, 3) := dk_159 3 225 (dk_at dksL_law_65 11 rfl rfl)
theorem dL_law_1730 : decode cL_law 1730 = .ok (.iconst 0, 1) := dk_3 (dk_at dksL_law_65 14 rfl rfl)
theorem dL_law_1731 : decode cL_law 1731 = .ok (.ireturn, 1) := dk_172 (dk_at dksL_law_65 15 rfl rfl)
theorem dL_law_1732 : decode cL_law 1732 = .ok (.aload_n 1, 1) := dk_43 (dk_at dksL_law_65 16 rfl rfl)
theorem dL_law_1733 : decode cL_law 1733 = .ok (.aload_n 0, 1) := dk_42 (dk_at dksL_law_65 17 rfl rfl)
theorem dL_law_1734 : decode cL_law 1734 = .ok (.iload 4, 2) := dk_21 4 (dk_at dksL_law_65 18 rfl rfl)
theorem dL_law_1736 : decode cL_law 1736 = .ok (.iconst 1, 1) := dk_4 (dk_at dksL_law_65 20 rfl rfl)
theorem dL_law_1737 : decode cL_law 1737 = .ok (.iadd, 1) := dk_96 (dk_at dksL_law_65 21 rfl rfl)
theorem dL_law_1738 : decode cL_law 1738 = .ok (.iaload, 1) := dk_46 (dk_at dksL_law_65 22 rfl rfl)
theorem dL_law_1739 : decode cL_law 1739 = .ok (.aload_n 3, 1) := dk_45 (dk_at dksL_law_65 23 rfl rfl)
theorem dL_law_1740 : decode cL_law 1740 = .ok (.invokestatic 239, 3) := dk_184 0 239 (dk_at dksL_law_66 0 rfl rfl)
theorem dL_law_1743 : decode cL_law 1743 = .ok (.istore 5, 2) := dk_54 5 (dk_at dksL_law_66 3 rfl rfl)
theorem dL_law_1745 : decode cL_law 1745 = .ok (.aload_n 2, 1) := dk_44 (dk_at dksL_law_66 5 rfl rfl)
theorem dL_law_1746 : decode cL_law 1746 = .ok (.aload_n 0, 1) := dk_42 (dk_at dksL_law_66 6 rfl rfl)
theorem dL_law_1747 : decode cL_law 1747 = .ok (.iload 4, 2) := dk_21 4 (dk_at dksL_law_66 7 rfl rfl)
theorem dL_law_1749 : decode cL_law 1749 = .ok (.iconst 1, 1) := dk_4 (dk_at dksL_law_66 9 rfl rfl)
theorem dL_law_1750 : decode cL_law 1750 = .ok (.iadd, 1) := dk_96 (dk_at dksL_law_66 10 rfl rfl)
theorem dL_law_1751 : decode cL_law 1751 = .ok (.iaload, 1) := dk_46 (dk_at dksL_law_66 11 rfl rfl)
theorem dL_law_1752 : decode cL_law 1752 = .ok (.invokevirtual 241, 3) := dk_182 0 241 (dk_at dksL_law_66 12 rfl rfl)
theorem dL_law_1755 : decode cL_law 1755 = .ok (.istore 6, 2) := dk_54 6 (dk_at dksL_law_66 15 rfl rfl)
theorem dL_law_1757 : decode cL_law 1757 = .ok (.aload_n 2, 1) := dk_44 (dk_at dksL_law_66 17 rfl rfl)
theorem dL_law_1758 : decode cL_law 1758 = .ok (.invokevirtual 138, 3) := dk_182 0 138 (dk_at dksL_law_66 18 rfl rfl)
theorem dL_law_1761 : decode cL_law 1761 = .ok (.iload 5, 2) := dk_21 5 (dk_at dksL_law_66 21 rfl rfl)
theorem dL_law_1763 : decode cL_law 1763 = .ok (.if_icmp .eq 5, 3) := dk_159 0 5 (dk_at dksL_law_67 0 rfl rfl)
theorem dL_law_1766 : decode cL_law 1766 = .ok (.iconst 0, 1) := dk_3 (dk_at dksL_law_67 3 rfl rfl)
theorem dL_law_1767 : decode cL_law 1767 = .ok (.ireturn, 1) := dk_172 (dk_at dksL_law_67 4 rfl rfl)
theorem dL_law_1768 : decode cL_law 1768 = .ok (.iload 5, 2) := dk_21 5 (dk_at dksL_law_67 5 rfl rfl)
theorem dL_law_1770 : decode cL_law 1770 = .ok (.ifCond .ne 15, 3) := dk_154 0 15 (dk_at dksL_law_67 7 rfl rfl)
theorem dL_law_1773 : decode cL_law 1773 = .ok (.aload_n 3, 1) := dk_45 (dk_at dksL_law_67 10 rfl rfl)
theorem dL_law_1774 : decode cL_law 1774 = .ok (.iconst 0, 1) := dk_3 (dk_at dksL_law_67 11 rfl rfl)
theorem dL_law_1775 : decode cL_law 1775 = .ok (.laload, 1) := dk_47 (dk_at dksL_law_67 12 rfl rfl)
theorem dL_law_1776 : decode cL_law 1776 = .ok (.iload 6, 2) := dk_21 6 (dk_at dksL_law_67 13 rfl rfl)
theorem dL_law_1778 : decode cL_law 1778 = .ok (.i2l, 1) := dk_133 (dk_at dksL_law_67 15 rfl rfl)
theorem dL_law_1779 : decode cL_law 1779 = .ok (.lcmp, 1) := dk_148 (dk_at dksL_law_67 16 rfl rfl)
theorem dL_law_1780 : decode cL_law 1780 = .ok (.ifCond .eq 5, 3) := dk_153 0 5 (dk_at dksL_law_67 17 rfl rfl)
theorem dL_law_1783 : decode cL_law 1783 = .ok (.iconst 0, 1) := dk_3 (dk_at dksL_law_67 20 rfl rfl)
theorem dL_law_1784 : decode cL_law 1784 = .ok (.ireturn, 1) := dk_172 (dk_at dksL_law_67 21 rfl rfl)
theorem dL_law_1785 : decode cL_law 1785 = .ok (.goto 935, 3) := dk_167 3 167 (dk_at dksL_law_68 0 rfl rfl)
theorem dL_law_1788 : decode cL_law 1788 = .ok (.aload_n 1, 1) := dk_43 (dk_at dksL_law_68 3 rfl rfl)
theorem dL_law_1789 : decode cL_law 1789 = .ok (.aload_n 0, 1) := dk_42 (dk_at dksL_law_68 4 rfl rfl)
theorem dL_law_1790 : decode cL_law 1790 = .ok (.iload 4, 2) := dk_21 4 (dk_at dksL_law_68 5 rfl rfl)
theorem dL_law_1792 : decode cL_law 1792 = .ok (.iconst 1, 1) := dk_4 (dk_at dksL_law_68 7 rfl rfl)
theorem dL_law_1793 : decode cL_law 1793 = .ok (.iadd, 1) := dk_96 (dk_at dksL_law_68 8 rfl rfl)
theorem dL_law_1794 : decode cL_law 1794 = .ok (.iaload, 1) := dk_46 (dk_at dksL_law_68 9 rfl rfl)
theorem dL_law_1795 : decode cL_law 1795 = .ok (.aload_n 3, 1) := dk_45 (dk_at dksL_law_68 10 rfl rfl)
theorem dL_law_1796 : decode cL_law 1796 = .ok (.invokestatic 242, 3) := dk_184 0 242 (dk_at dksL_law_68 11 rfl rfl)
theorem dL_law_1799 : decode cL_law 1799 = .ok (.istore 5, 2) := dk_54 5 (dk_at dksL_law_68 14 rfl rfl)
theorem dL_law_1801 : decode cL_law 1801 = .ok (.aload_n 2, 1) := dk_44 (dk_at dksL_law_68 16 rfl rfl)
theorem dL_law_1802 : decode cL_law 1802 = .ok (.aload_n 0, 1) := dk_42 (dk_at dksL_law_68 17 rfl rfl)
theorem dL_law_1803 : decode cL_law 1803 = .ok (.iload 4, 2) := dk_21 4 (dk_at dksL_law_68 18 rfl rfl)
theorem dL_law_1805 : decode cL_law 1805 = .ok (.iconst 1, 1) := dk_4 (dk_at dksL_law_68 20 rfl rfl)
theorem dL_law_1806 : decode cL_law 1806 = .ok (.iadd, 1) := dk_96 (dk_at dksL_law_68 21 rfl rfl)
theorem dL_law_1807 : decode cL_law 1807 = .ok (.iaload, 1) := dk_46 (dk_at dksL_law_68 22 rfl rfl)
theorem dL_law_1808 : decode cL_law 1808 = .ok (.invokevirtual 244, 3) := dk_182 0 244 (dk_at dksL_law_69 0 rfl rfl)
theorem dL_law_1811 : decode cL_law 1811 = .ok (.istore 6, 2) := dk_54 6 (dk_at dksL_law_69 3 rfl rfl)
theorem dL_law_1813 : decode cL_law 1813 = .ok (.aload_n 2, 1) := dk_44 (dk_at dksL_law_69 5 rfl rfl)
theorem dL_law_1814 : decode cL_law 1814 = .ok (.invokevirtual 138, 3) := dk_182 0 138 (dk_at dksL_law_69 6 rfl rfl)
theorem dL_law_1817 : decode cL_law 1817 = .ok (.iload 5, 2) := dk_21 5 (dk_at dksL_law_69 9 rfl rfl)
theorem dL_law_1819 : decode cL_law 1819 = .ok (.if_icmp .eq 5, 3) := dk_159 0 5 (dk_at dksL_law_69 11 rfl rfl)
theorem dL_law_1822 : decode cL_law 1822 = .ok (.iconst 0, 1) := dk_3 (dk_at dksL_law_69 14 rfl rfl)
theorem dL_law_1823 : decode cL_law 1823 = .ok (.ireturn, 1) := dk_172 (dk_at dksL_law_69 15 rfl rfl)
theorem dL_law_1824 : decode cL_law 1824 = .ok (.iload 5, 2) := dk_21 5 (dk_at dksL_law_69 16 rfl rfl)
theorem dL_law_1826 : decode cL_law 1826 = .ok (.ifCond .ne 15, 3) := dk_154 0 15 (dk_at dksL_law_69 18 rfl rfl)
theorem dL_law_1829 : decode cL_law 1829 = .ok (.aload_n 3, 1) := dk_45 (dk_at dksL_law_69 21 rfl rfl)
theorem dL_law_1830 : decode cL_law 1830 = .ok (.iconst 0, 1) := dk_3 (dk_at dksL_law_69 22 rfl rfl)
theorem dL_law_1831 : decode cL_law 1831 = .ok (.laload, 1) := dk_47 (dk_at dksL_law_69 23 rfl rfl)
theorem dL_law_1832 : decode cL_law 1832 = .ok (.iload 6, 2) := dk_21 6 (dk_at dksL_law_70 0 rfl rfl)
theorem dL_law_1834 : decode cL_law 1834 = .ok (.i2l, 1) := dk_133 (dk_at dksL_law_70 2 rfl rfl)
theorem dL_law_1835 : decode cL_law 1835 = .ok (.lcmp, 1) := dk_148 (dk_at dksL_law_70 3 rfl rfl)
theorem dL_law_1836 : decode cL_law 1836 = .ok (.ifCond .eq 5, 3) := dk_153 0 5 (dk_at dksL_law_70 4 rfl rfl)
theorem dL_law_1839 : decode cL_law 1839 = .ok (.iconst 0, 1) := dk_3 (dk_at dksL_law_70 7 rfl rfl)
theorem dL_law_1840 : decode cL_law 1840 = .ok (.ireturn, 1) := dk_172 (dk_at dksL_law_70 8 rfl rfl)
theorem dL_law_1841 : decode cL_law 1841 = .ok (.goto 879, 3) := dk_167 3 111 (dk_at dksL_law_70 9 rfl rfl)
theorem dL_law_1844 : decode cL_law 1844 = .ok (.aload_n 1, 1) := dk_43 (dk_at dksL_law_70 12 rfl rfl)
theorem dL_law_1845 : decode cL_law 1845 = .ok (.aload_n 0, 1) := dk_42 (dk_at dksL_law_70 13 rfl rfl)
theorem dL_law_1846 : decode cL_law 1846 = .ok (.iload 4, 2) := dk_21 4 (dk_at dksL_law_70 14 rfl rfl)
theorem dL_law_1848 : decode cL_law 1848 = .ok (.iconst 1, 1) := dk_4 (dk_at dksL_law_70 16 rfl rfl)
theorem dL_law_1849 : decode cL_law 1849 = .ok (.iadd, 1) := dk_96 (dk_at dksL_law_70 17 rfl rfl)
theorem dL_law_1850 : decode cL_law 1850 = .ok (.iaload, 1) := dk_46 (dk_at dksL_law_70 18 rfl rfl)
theorem dL_law_1851 : decode cL_law 1851 = .ok (.aload_n 3, 1) := dk_45 (dk_at dksL_law_70 19 rfl rfl)
theorem dL_law_1852 : decode cL_law 1852 = .ok (.invokestatic 245, 3) := dk_184 0 245 (dk_at dksL_law_70 20 rfl rfl)
theorem dL_law_1855 : decode cL_law 1855 = .ok (.istore 5, 2) := dk_54 5 (dk_at dksL_law_71 0 rfl rfl)
theorem dL_law_1857 : decode cL_law 1857 = .ok (.aload_n 2, 1) := dk_44 (dk_at dksL_law_71 2 rfl rfl)
theorem dL_law_1858 : decode cL_law 1858 = .ok (.aload_n 0, 1) := dk_42 (dk_at dksL_law_71 3 rfl rfl)
theorem dL_law_1859 : decode cL_law 1859 = .ok (.iload 4, 2) := dk_21 4 (dk_at dksL_law_71 4 rfl rfl)
theorem dL_law_1861 : decode cL_law 1861 = .ok (.iconst 1, 1) := dk_4 (dk_at dksL_law_71 6 rfl rfl)
theorem dL_law_1862 : decode cL_law 1862 = .ok (.iadd, 1) := dk_96 (dk_at dksL_law_71 7 rfl rfl)
theorem dL_law_1863 : decode cL_law 1863 = .ok (.iaload, 1) := dk_46 (dk_at dksL_law_71 8 rfl rfl)
theorem dL_law_1864 : decode cL_law 1864 = .ok (.invokevirtual 247, 3) := dk_182 0 247 (dk_at dksL_law_71 9 rfl rfl)
theorem dL_law_1867 : decode cL_law 1867 = .ok (.istore 6, 2) := dk_54 6 (dk_at dksL_law_71 12 rfl rfl)
theorem dL_law_1869 : decode cL_law 1869 = .ok (.aload_n 2, 1) := dk_44 (dk_at dksL_law_71 14 rfl rfl)
theorem dL_law_1870 : decode cL_law 1870 = .ok (.invokevirtual 138, 3) := dk_182 0 138 (dk_at dksL_law_71 15 rfl rfl)
theorem dL_law_1873 : decode cL_law 1873 = .ok (.iload 5, 2) := dk_21 5 (dk_at dksL_law_71 18 rfl rfl)
theorem dL_law_1875 : decode cL_law 1875 = .ok (.if_icmp .eq 5, 3) := dk_159 0 5 (dk_at dksL_law_71 20 rfl rfl)
theorem dL_law_1878 : decode cL_law 1878 = .ok (.iconst 0, 1) := dk_3 (dk_at dksL_law_71 23 rfl rfl)
theorem dL_law_1879 : decode cL_law 1879 = .ok (.ireturn, 1) := dk_172 (dk_at dksL_law_72 0 rfl rfl)
theorem dL_law_1880 : decode cL_law 1880 = .ok (.iload 5, 2) := dk_21 5 (dk_at dksL_law_72 1 rfl rfl)
theorem dL_law_1882 : decode cL_law 1882 = .ok (.ifCond .ne 15, 3) := dk_154 0 15 (dk_at dksL_law_72 3 rfl rfl)
theorem dL_law_1885 : decode cL_law 1885 = .ok (.aload_n 3, 1) := dk_45 (dk_at dksL_law_72 6 rfl rfl)
theorem dL_law_1886 : decode cL_law 1886 = .ok (.iconst 0, 1) := dk_3 (dk_at dksL_law_72 7 rfl rfl)
theorem dL_law_1887 : decode cL_law 1887 = .ok (.laload, 1) := dk_47 (dk_at dksL_law_72 8 rfl rfl)
theorem dL_law_1888 : decode cL_law 1888 = .ok (.iload 6, 2) := dk_21 6 (dk_at dksL_law_72 9 rfl rfl)
theorem dL_law_1890 : decode cL_law 1890 = .ok (.i2l, 1) := dk_133 (dk_at dksL_law_72 11 rfl rfl)
theorem dL_law_1891 : decode cL_law 1891 = .ok (.lcmp, 1) := dk_148 (dk_at dksL_law_72 12 rfl rfl)
theorem dL_law_1892 : decode cL_law 1892 = .ok (.ifCond .eq 5, 3) := dk_153 0 5 (dk_at dksL_law_72 13 rfl rfl)
theorem dL_law_1895 : decode cL_law 1895 = .ok (.iconst 0, 1) := dk_3 (dk_at dksL_law_72 16 rfl rfl)
theorem dL_law_1896 : decode cL_law 1896 = .ok (.ireturn, 1) := dk_172 (dk_at dksL_law_72 17 rfl rfl)
theorem dL_law_1897 : decode cL_law 1897 = .ok (.goto 823, 3) := dk_167 3 55 (dk_at dksL_law_72 18 rfl rfl)
theorem dL_law_1900 : decode cL_law 1900 = .ok (.aload_n 1, 1) := dk_43 (dk_at dksL_law_72 21 rfl rfl)
theorem dL_law_1901 : decode cL_law 1901 = .ok (.aload_n 0, 1) := dk_42 (dk_at dksL_law_72 22 rfl rfl)
theorem dL_law_1902 : decode cL_law 1902 = .ok (.iload 4, 2) := dk_21 4 (dk_at dksL_law_73 0 rfl rfl)
theorem dL_law_1904 : decode cL_law 1904 = .ok (.iconst 1, 1) := dk_4 (dk_at dksL_law_73 2 rfl rfl)
theorem dL_law_1905 : decode cL_law 1905 = .ok (.iadd, 1) := dk_96 (dk_at dksL_law_73 3 rfl rfl)
theorem dL_law_1906 : decode cL_law 1906 = .ok (.iaload, 1) := dk_46 (dk_at dksL_law_73 4 rfl rfl)
theorem dL_law_1907 : decode cL_law 1907 = .ok (.aload_n 3, 1) := dk_45 (dk_at dksL_law_73 5 rfl rfl)
theorem dL_law_1908 : decode cL_law 1908 = .ok (.invokestatic 248, 3) := dk_184 0 248 (dk_at dksL_law_73 6 rfl rfl)
theorem dL_law_1911 : decode cL_law 1911 = .ok (.istore 5, 2) := dk_54 5 (dk_at dksL_law_73 9 rfl rfl)
theorem dL_law_1913 : decode cL_law 1913 = .ok (.aload_n 2, 1) := dk_44 (dk_at dksL_law_73 11 rfl rfl)
theorem dL_law_1914 : decode cL_law 1914 = .ok (.aload_n 0, 1) := dk_42 (dk_at dksL_law_73 12 rfl rfl)
theorem dL_law_1915 : decode cL_law 1915 = .ok (.iload 4, 2) := dk_21 4 (dk_at dksL_law_73 13 rfl rfl)
theorem dL_law_1917 : decode cL_law 1917 = .ok (.iconst 1, 1) := dk_4 (dk_at dksL_law_73 15 rfl rfl)
theorem dL_law_1918 : decode cL_law 1918 = .ok (.iadd, 1) := dk_96 (dk_at dksL_law_73 16 rfl rfl)
theorem dL_law_1919 : decode cL_law 1919 = .ok (.iaload, 1) := dk_46 (dk_at dksL_law_73 17 rfl rfl)
theorem dL_law_1920 : decode cL_law 1920 = .ok (.invokevirtual 250, 3) := dk_182 0 250 (dk_at dksL_law_73 18 rfl rfl)
theorem dL_law_1923 : decode cL_law 1923 = .ok (.istore 6, 2) := dk_54 6 (dk_at dksL_law_73 21 rfl rfl)
theorem dL_law_1925 : decode cL_law 1925 = .ok (.aload_n 2, 1) := dk_44 (dk_at dksL_law_73 23 rfl rfl)
theorem dL_law_1926 : decode cL_law 1926 = .ok (.invokevirtual 138, 3) := dk_182 0 138 (dk_at dksL_law_74 0 rfl rfl)
theorem dL_law_1929 : decode cL_law 1929 = .ok (.iload 5, 2) := dk_21 5 (dk_at dksL_law_74 3 rfl rfl)
theorem dL_law_1931 : decode cL_law 1931 = .ok (.if_icmp .eq 5, 3) := dk_159 0 5 (dk_at dksL_law_74 5 rfl rfl)
theorem dL_law_1934 : decode cL_law 1934 = .ok (.iconst 0, 1) := dk_3 (dk_at dksL_law_74 8 rfl rfl)
theorem dL_law_1935 : decode cL_law 1935 = .ok (.ireturn, 1) := dk_172 (dk_at dksL_law_74 9 rfl rfl)
theorem dL_law_1936 : decode cL_law 1936 = .ok (.iload 5, 2) := dk_21 5 (dk_at dksL_law_74 10 rfl rfl)
theorem dL_law_1938 : decode cL_law 1938 = .ok (.ifCond .ne 15, 3) := dk_154 0 15 (dk_at dksL_law_74 12 rfl rfl)
theorem dL_law_1941 : decode cL_law 1941 = .ok (.aload_n 3, 1) := dk_45 (dk_at dksL_law_74 15 rfl rfl)
theorem dL_law_1942 : decode cL_law 1942 = .ok (.iconst 0, 1) := dk_3 (dk_at dksL_law_74 16 rfl rfl)
theorem dL_law_1943 : decode cL_law 1943 = .ok (.laload, 1) := dk_47 (dk_at dksL_law_74 17 rfl rfl)
theorem dL_law_1944 : decode cL_law 1944 = .ok (.iload 6, 2) := dk_21 6 (dk_at dksL_law_74 18 rfl rfl)
theorem dL_law_1946 : decode cL_law 1946 = .ok (.i2l, 1) := dk_133 (dk_at dksL_law_74 20 rfl rfl)
theorem dL_law_1947 : decode cL_law 1947 = .ok (.lcmp, 1) := dk_148 (dk_at dksL_law_74 21 rfl rfl)
theorem dL_law_1948 : decode cL_law 1948 = .ok (.ifCond .eq 5, 3) := dk_153 0 5 (dk_at dksL_law_75 0 rfl rfl)
theorem dL_law_1951 : decode cL_law 1951 = .ok (.iconst 0, 1) := dk_3 (dk_at dksL_law_75 3 rfl rfl)
theorem dL_law_1952 : decode cL_law 1952 = .ok (.ireturn, 1) := dk_172 (dk_at dksL_law_75 4 rfl rfl)
theorem dL_law_1953 : decode cL_law 1953 = .ok (.goto 767, 3) := dk_167 2 255 (dk_at dksL_law_75 5 rfl rfl)
theorem dL_law_1956 : decode cL_law 1956 = .ok (.aload_n 1, 1) := dk_43 (dk_at dksL_law_75 8 rfl rfl)
theorem dL_law_1957 : decode cL_law 1957 = .ok (.aload_n 0, 1) := dk_42 (dk_at dksL_law_75 9 rfl rfl)
theorem dL_law_1958 : decode cL_law 1958 = .ok (.iload 4, 2) := dk_21 4 (dk_at dksL_law_75 10 rfl rfl)
theorem dL_law_1960 : decode cL_law 1960 = .ok (.iconst 1, 1) := dk_4 (dk_at dksL_law_75 12 rfl rfl)
theorem dL_law_1961 : decode cL_law 1961 = .ok (.iadd, 1) := dk_96 (dk_at dksL_law_75 13 rfl rfl)
theorem dL_law_1962 : decode cL_law 1962 = .ok (.iaload, 1) := dk_46 (dk_at dksL_law_75 14 rfl rfl)
theorem dL_law_1963 : decode cL_law 1963 = .ok (.aload_n 3, 1) := dk_45 (dk_at dksL_law_75 15 rfl rfl)
theorem dL_law_1964 : decode cL_law 1964 = .ok (.invokestatic 251, 3) := dk_184 0 251 (dk_at dksL_law_75 16 rfl rfl)
theorem dL_law_1967 : decode cL_law 1967 = .ok (.istore 5, 2) := dk_54 5 (dk_at dksL_law_75 19 rfl rfl)
theorem dL_law_1969 : decode cL_law 1969 = .ok (.aload_n 2, 1) := dk_44 (dk_at dksL_law_75 21 rfl rfl)
theorem dL_law_1970 : decode cL_law 1970 = .ok (.aload_n 0, 1) := dk_42 (dk_at dksL_law_75 22 rfl rfl)
theorem dL_law_1971 : decode cL_law 1971 = .ok (.iload 4, 2) := dk_21 4 (dk_at dksL_law_76 0 rfl rfl)
theorem dL_law_1973 : decode cL_law 1973 = .ok (.iconst 1, 1) := dk_4 (dk_at dksL_law_76 2 rfl rfl)
theorem dL_law_1974 : decode cL_law 1974 = .ok (.iadd, 1) := dk_96 (dk_at dksL_law_76 3 rfl rfl)
theorem dL_law_1975 : decode cL_law 1975 = .ok (.iaload, 1) := dk_46 (dk_at dksL_law_76 4 rfl rfl)
theorem dL_law_1976 : decode cL_law 1976 = .ok (.invokevirtual 253, 3) := dk_182 0 253 (dk_at dksL_law_76 5 rfl rfl)
theorem dL_law_1979 : decode cL_law 1979 = .ok (.istore 6, 2) := dk_54 6 (dk_at dksL_law_76 8 rfl rfl)
theorem dL_law_1981 : decode cL_law 1981 = .ok (.aload_n 2, 1) := dk_44 (dk_at dksL_law_76 10 rfl rfl)
theorem dL_law_1982 : decode cL_law 1982 = .ok (.invokevirtual 138, 3) := dk_182 0 138 (dk_at dksL_law_76 11 rfl rfl)
theorem dL_law_1985 : decode cL_law 1985 = .ok (.iload 5, 2) := dk_21 5 (dk_at dksL_law_76 14 rfl rfl)
theorem dL_law_1987 : decode cL_law 1987 = .ok (.if_icmp .eq 5, 3) := dk_159 0 5 (dk_at dksL_law_76 16 rfl rfl)
theorem dL_law_1990 : decode cL_law 1990 = .ok (.iconst 0, 1) := dk_3 (dk_at dksL_law_76 19 rfl rfl)
theorem dL_law_1991 : decode cL_law 1991 = .ok (.ireturn, 1) := dk_172 (dk_at dksL_law_76 20 rfl rfl)
theorem dL_law_1992 : decode cL_law 1992 = .ok (.iload 5, 2) := dk_21 5 (dk_at dksL_law_76 21 rfl rfl)
theorem dL_law_1994 : decode cL_law 1994 = .ok (.ifCond .ne 15, 3) := dk_154 0 15 (dk_at dksL_law_77 0 rfl rfl)
theorem dL_law_1997 : decode cL_law 1997 = .ok (.aload_n 3, 1) := dk_45 (dk_at dksL_law_77 3 rfl rfl)
theorem dL_law_1998 : decode cL_law 1998 = .ok (.iconst 0, 1) := dk_3 (dk_at dksL_law_77 4 rfl rfl)
theorem dL_law_1999 : decode cL_law 1999 = .ok (.laload, 1) := dk_47 (dk_at dksL_law_77 5 rfl rfl)
theorem dL_law_2000 : decode cL_law 2000 = .ok (.iload 6, 2) := dk_21 6 (dk_at dksL_law_77 6 rfl rfl)
theorem dL_law_2002 : decode cL_law 2002 = .ok (.i2l, 1) := dk_133 (dk_at dksL_law_77 8 rfl rfl)
theorem dL_law_2003 : decode cL_law 2003 = .ok (.lcmp, 1) := dk_148 (dk_at dksL_law_77 9 rfl rfl)
theorem dL_law_2004 : decode cL_law 2004 = .ok (.ifCond .eq 5, 3) := dk_153 0 5 (dk_at dksL_law_77 10 rfl rfl)
theorem dL_law_2007 : decode cL_law 2007 = .ok (.iconst 0, 1) := dk_3 (dk_at dksL_law_77 13 rfl rfl)
theorem dL_law_2008 : decode cL_law 2008 = .ok (.ireturn, 1) := dk_172 (dk_at dksL_law_77 14 rfl rfl)
theorem dL_law_2009 : decode cL_law 2009 = .ok (.goto 711, 3) := dk_167 2 199 (dk_at dksL_law_77 15 rfl rfl)
theorem dL_law_2012 : decode cL_law 2012 = .ok (.aload_n 1, 1) := dk_43 (dk_at dksL_law_77 18 rfl rfl)
theorem dL_law_2013 : decode cL_law 2013 = .ok (.aload_n 0, 1) := dk_42 (dk_at dksL_law_77 19 rfl rfl)
theorem dL_law_2014 : decode cL_law 2014 = .ok (.iload 4, 2) := dk_21 4 (dk_at dksL_law_77 20 rfl rfl)
theorem dL_law_2016 : decode cL_law 2016 = .ok (.iconst 1, 1) := dk_4 (dk_at dksL_law_77 22 rfl rfl)
theorem dL_law_2017 : decode cL_law 2017 = .ok (.iadd, 1) := dk_96 (dk_at dksL_law_77 23 rfl rfl)
theorem dL_law_2018 : decode cL_law 2018 = .ok (.iaload, 1) := dk_46 (dk_at dksL_law_78 0 rfl rfl)
theorem dL_law_2019 : decode cL_law 2019 = .ok (.aload_n 3, 1) := dk_45 (dk_at dksL_law_78 1 rfl rfl)
theorem dL_law_2020 : decode cL_law 2020 = .ok (.invokestatic 254, 3) := dk_184 0 254 (dk_at dksL_law_78 2 rfl rfl)
theorem dL_law_2023 : decode cL_law 2023 = .ok (.istore 5, 2) := dk_54 5 (dk_at dksL_law_78 5 rfl rfl)
theorem dL_law_2025 : decode cL_law 2025 = .ok (.aload_n 2, 1) := dk_44 (dk_at dksL_law_78 7 rfl rfl)
theorem dL_law_2026 : decode cL_law 2026 = .ok (.aload_n 0, 1) := dk_42 (dk_at dksL_law_78 8 rfl rfl)
theorem dL_law_2027 : decode cL_law 2027 = .ok (.iload 4, 2) := dk_21 4 (dk_at dksL_law_78 9 rfl rfl)
theorem dL_law_2029 : decode cL_law 2029 = .ok (.iconst 1, 1) := dk_4 (dk_at dksL_law_78 11 rfl rfl)
theorem dL_law_2030 : decode cL_law 2030 = .ok (.iadd, 1) := dk_96 (dk_at dksL_law_78 12 rfl rfl)
theorem dL_law_2031 : decode cL_law 2031 = .ok (.iaload, 1) := dk_46 (dk_at dksL_law_78 13 rfl rfl)
theorem dL_law_2032 : decode cL_law 2032 = .ok (.invokevirtual 256, 3) := dk_182 1 0 (dk_at dksL_law_78 14 rfl rfl)
theorem dL_law_2035 : decode cL_law 2035 = .ok (.istore 6, 2) := dk_54 6 (dk_at dksL_law_78 17 rfl rfl)
theorem dL_law_2037 : decode cL_law 2037 = .ok (.aload_n 2, 1) := dk_44 (dk_at dksL_law_78 19 rfl rfl)
theorem dL_law_2038 : decode cL_law 2038 = .ok (.invokevirtual 138, 3) := dk_182 0 138 (dk_at dksL_law_78 20 rfl rfl)
theorem dL_law_2041 : decode cL_law 2041 = .ok (.iload 5, 2) := dk_21 5 (dk_at dksL_law_79 0 rfl rfl)
theorem dL_law_2043 : decode cL_law 2043 = .ok (.if_icmp .eq 5, 3) := dk_159 0 5 (dk_at dksL_law_79 2 rfl rfl)
theorem dL_law_2046 : decode cL_law 2046 = .ok (.iconst 0, 1) := dk_3 (dk_at dksL_law_79 5 rfl rfl)
theorem dL_law_2047 : decode cL_law 2047 = .ok (.ireturn, 1) := dk_172 (dk_at dksL_law_79 6 rfl rfl)
theorem dL_law_2048 : decode cL_law 2048 = .ok (.iload 5, 2) := dk_21 5 (dk_at dksL_law_79 7 rfl rfl)
theorem dL_law_2050 : decode cL_law 2050 = .ok (.ifCond .ne 15, 3) := dk_154 0 15 (dk_at dksL_law_79 9 rfl rfl)
theorem dL_law_2053 : decode cL_law 2053 = .ok (.aload_n 3, 1) := dk_45 (dk_at dksL_law_79 12 rfl rfl)
theorem dL_law_2054 : decode cL_law 2054 = .ok (.iconst 0, 1) := dk_3 (dk_at dksL_law_79 13 rfl rfl)
theorem dL_law_2055 : decode cL_law 2055 = .ok (.laload, 1) := dk_47 (dk_at dksL_law_79 14 rfl rfl)
theorem dL_law_2056 : decode cL_law 2056 = .ok (.iload 6, 2) := dk_21 6 (dk_at dksL_law_79 15 rfl rfl)
theorem dL_law_2058 : decode cL_law 2058 = .ok (.i2l, 1) := dk_133 (dk_at dksL_law_79 17 rfl rfl)
theorem dL_law_2059 : decode cL_law 2059 = .ok (.lcmp, 1) := dk_148 (dk_at dksL_law_79 18 rfl rfl)
theorem dL_law_2060 : decode cL_law 2060 = .ok (.ifCond .eq 5, 3) := dk_153 0 5 (dk_at dksL_law_79 19 rfl rfl)
theorem dL_law_2063 : decode cL_law 2063 = .ok (.iconst 0, 1) := dk_3 (dk_at dksL_law_79 22 rfl rfl)
theorem dL_law_2064 : decode cL_law 2064 = .ok (.ireturn, 1) := dk_172 (dk_at dksL_law_79 23 rfl rfl)
theorem dL_law_2065 : decode cL_law 2065 = .ok (.goto 655, 3) := dk_167 2 143 (dk_at dksL_law_80 0 rfl rfl)
theorem dL_law_2068 : decode cL_law 2068 = .ok (.aload_n 1, 1) := dk_43 (dk_at dksL_law_80 3 rfl rfl)
theorem dL_law_2069 : decode cL_law 2069 = .ok (.invokevirtual 257, 3) := dk_182 1 1 (dk_at dksL_law_80 4 rfl rfl)
theorem dL_law_2072 : decode cL_law 2072 = .ok (.aload_n 2, 1) := dk_44 (dk_at dksL_law_80 7 rfl rfl)
theorem dL_law_2073 : decode cL_law 2073 = .ok (.invokevirtual 260, 3) := dk_182 1 4 (dk_at dksL_law_80 8 rfl rfl)
theorem dL_law_2076 : decode cL_law 2076 = .ok (.if_icmp .eq 644, 3) := dk_159 2 132 (dk_at dksL_law_80 11 rfl rfl)
theorem dL_law_2079 : decode cL_law 2079 = .ok (.iconst 0, 1) := dk_3 (dk_at dksL_law_80 14 rfl rfl)
theorem dL_law_2080 : decode cL_law 2080 = .ok (.ireturn, 1) := dk_172 (dk_at dksL_law_80 15 rfl rfl)
theorem dL_law_2081 : decode cL_law 2081 = .ok (.aload_n 1, 1) := dk_43 (dk_at dksL_law_80 16 rfl rfl)
theorem dL_law_2082 : decode cL_law 2082 = .ok (.invokevirtual 261, 3) := dk_182 1 5 (dk_at dksL_law_80 17 rfl rfl)
theorem dL_law_2085 : decode cL_law 2085 = .ok (.aload_n 2, 1) := dk_44 (dk_at dksL_law_80 20 rfl rfl)
theorem dL_law_2086 : decode cL_law 2086 = .ok (.invokevirtual 264, 3) := dk_182 1 8 (dk_at dksL_law_80 21 rfl rfl)
theorem dL_law_2089 : decode cL_law 2089 = .ok (.if_icmp .eq 631, 3) := dk_159 2 119 (dk_at dksL_law_81 0 rfl rfl)
theorem dL_law_2092 : decode cL_law 2092 = .ok (.iconst 0, 1) := dk_3 (dk_at dksL_law_81 3 rfl rfl)
theorem dL_law_2093 : decode cL_law 2093 = .ok (.ireturn, 1) := dk_172 (dk_at dksL_law_81 4 rfl rfl)
theorem dL_law_2094 : decode cL_law 2094 = .ok (.aload_n 1, 1) := dk_43 (dk_at dksL_law_81 5 rfl rfl)
theorem dL_law_2095 : decode cL_law 2095 = .ok (.invokevirtual 265, 3) := dk_182 1 9 (dk_at dksL_law_81 6 rfl rfl)
theorem dL_law_2098 : decode cL_law 2098 = .ok (.aload_n 2, 1) := dk_44 (dk_at dksL_law_81 9 rfl rfl)
theorem dL_law_2099 : decode cL_law 2099 = .ok (.invokevirtual 268, 3) := dk_182 1 12 (dk_at dksL_law_81 10 rfl rfl)
theorem dL_law_2102 : decode cL_law 2102 = .ok (.if_icmp .eq 618, 3) := dk_159 2 106 (dk_at dksL_law_81 13 rfl rfl)
theorem dL_law_2105 : decode cL_law 2105 = .ok (.iconst 0, 1) := dk_3 (dk_at dksL_law_81 16 rfl rfl)
theorem dL_law_2106 : decode cL_law 2106 = .ok (.ireturn, 1) := dk_172 (dk_at dksL_law_81 17 rfl rfl)
theorem dL_law_2107 : decode cL_law 2107 = .ok (.aload_n 1, 1) := dk_43 (dk_at dksL_law_81 18 rfl rfl)
theorem dL_law_2108 : decode cL_law 2108 = .ok (.invokevirtual 269, 3) := dk_182 1 13 (dk_at dksL_law_81 19 rfl rfl)
theorem dL_law_2111 : decode cL_law 2111 = .ok (.aload_n 2, 1) := dk_44 (dk_at dksL_law_81 22 rfl rfl)
theorem dL_law_2112 : decode cL_law 2112 = .ok (.invokevirtual 272, 3) := dk_182 1 16 (dk_at dksL_law_82 0 rfl rfl)
theorem dL_law_2115 : decode cL_law 2115 = .ok (.if_icmp .eq 605, 3) := dk_159 2 93 (dk_at dksL_law_82 3 rfl rfl)
theorem dL_law_2118 : decode cL_law 2118 = .ok (.iconst 0, 1) := dk_3 (dk_at dksL_law_82 6 rfl rfl)
theorem dL_law_2119 : decode cL_law 2119 = .ok (.ireturn, 1) := dk_172 (dk_at dksL_law_82 7 rfl rfl)
theorem dL_law_2120 : decode cL_law 2120 = .ok (.aload_n 1, 1) := dk_43 (dk_at dksL_law_82 8 rfl rfl)
theorem dL_law_2121 : decode cL_law 2121 = .ok (.aload_n 0, 1) := dk_42 (dk_at dksL_law_82 9 rfl rfl)
theorem dL_law_2122 : decode cL_law 2122 = .ok (.iload 4, 2) := dk_21 4 (dk_at dksL_law_82 10 rfl rfl)
theorem dL_law_2124 : decode cL_law 2124 = .ok (.iconst 1, 1) := dk_4 (dk_at dksL_law_82 12 rfl rfl)
theorem dL_law_2125 : decode cL_law 2125 = .ok (.iadd, 1) := dk_96 (dk_at dksL_law_82 13 rfl rfl)
theorem dL_law_2126 : decode cL_law 2126 = .ok (.iaload, 1) := dk_46 (dk_at dksL_law_82 14 rfl rfl)
theorem dL_law_2127 : decode cL_law 2127 = .ok (.aload_n 3, 1) := dk_45 (dk_at dksL_law_82 15 rfl rfl)
theorem dL_law_2128 : decode cL_law 2128 = .ok (.invokestatic 273, 3) := dk_184 1 17 (dk_at dksL_law_82 16 rfl rfl)
theorem dL_law_2131 : decode cL_law 2131 = .ok (.istore 5, 2) := dk_54 5 (dk_at dksL_law_82 19 rfl rfl)
theorem dL_law_2133 : decode cL_law 2133 = .ok (.aload_n 2, 1) := dk_44 (dk_at dksL_law_82 21 rfl rfl)
theorem dL_law_2134 : decode cL_law 2134 = .ok (.aload_n 0, 1) := dk_42 (dk_at dksL_law_82 22 rfl rfl)
theorem dL_law_2135 : decode cL_law 2135 = .ok (.iload 4, 2) := dk_21 4 (dk_at dksL_law_83 0 rfl rfl)
theorem dL_law_2137 : decode cL_law 2137 = .ok (.iconst 1, 1) := dk_4 (dk_at dksL_law_83 2 rfl rfl)
theorem dL_law_2138 : decode cL_law 2138 = .ok (.iadd, 1) := dk_96 (dk_at dksL_law_83 3 rfl rfl)
theorem dL_law_2139 : decode cL_law 2139 = .ok (.iaload, 1) := dk_46 (dk_at dksL_law_83 4 rfl rfl)
theorem dL_law_2140 : decode cL_law 2140 = .ok (.invokevirtual 275, 3) := dk_182 1 19 (dk_at dksL_law_83 5 rfl rfl)
theorem dL_law_2143 : decode cL_law 2143 = .ok (.istore 6, 2) := dk_54 6 (dk_at dksL_law_83 8 rfl rfl)
theorem dL_law_2145 : decode cL_law 2145 = .ok (.aload_n 2, 1) := dk_44 (dk_at dksL_law_83 10 rfl rfl)
theorem dL_law_2146 : decode cL_law 2146 = .ok (.invokevirtual 138, 3) := dk_182 0 138 (dk_at dksL_law_83 11 rfl rfl)
theorem dL_law_2149 : decode cL_law 2149 = .ok (.iload 5, 2) := dk_21 5 (dk_at dksL_law_83 14 rfl rfl)
theorem dL_law_2151 : decode cL_law 2151 = .ok (.if_icmp .eq 5, 3) := dk_159 0 5 (dk_at dksL_law_83 16 rfl rfl)
theorem dL_law_2154 : decode cL_law 2154 = .ok (.iconst 0, 1) := dk_3 (dk_at dksL_law_83 19 rfl rfl)
theorem dL_law_2155 : decode cL_law 2155 = .ok (.ireturn, 1) := dk_172 (dk_at dksL_law_83 20 rfl rfl)
theorem dL_law_2156 : decode cL_law 2156 = .ok (.iload 5, 2) := dk_21 5 (dk_at dksL_law_83 21 rfl rfl)
theorem dL_law_2158 : decode cL_law 2158 = .ok (.ifCond .ne 15, 3) := dk_154 0 15 (dk_at dksL_law_84 0 rfl rfl)
theorem dL_law_2161 : decode cL_law 2161 = .ok (.aload_n 3, 1) := dk_45 (dk_at dksL_law_84 3 rfl rfl)
theorem dL_law_2162 : decode cL_law 2162 = .ok (.iconst 0, 1) := dk_3 (dk_at dksL_law_84 4 rfl rfl)
theorem dL_law_2163 : decode cL_law 2163 = .ok (.laload, 1) := dk_47 (dk_at dksL_law_84 5 rfl rfl)
theorem dL_law_2164 : decode cL_law 2164 = .ok (.iload 6, 2) := dk_21 6 (dk_at dksL_law_84 6 rfl rfl)
theorem dL_law_2166 : decode cL_law 2166 = .ok (.i2l, 1) := dk_133 (dk_at dksL_law_84 8 rfl rfl)
theorem dL_law_2167 : decode cL_law 2167 = .ok (.lcmp, 1) := dk_148 (dk_at dksL_law_84 9 rfl rfl)
theorem dL_law_2168 : decode cL_law 2168 = .ok (.ifCond .eq 5, 3) := dk_153 0 5 (dk_at dksL_law_84 10 rfl rfl)
theorem dL_law_2171 : decode cL_law 2171 = .ok (.iconst 0, 1) := dk_3 (dk_at dksL_law_84 13 rfl rfl)
theorem dL_law_2172 : decode cL_law 2172 = .ok (.ireturn, 1) := dk_172 (dk_at dksL_law_84 14 rfl rfl)
theorem dL_law_2173 : decode cL_law 2173 = .ok (.goto 547, 3) := dk_167 2 35 (dk_at dksL_law_84 15 rfl rfl)
theorem dL_law_2176 : decode cL_law 2176 = .ok (.aload_n 1, 1) := dk_43 (dk_at dksL_law_84 18 rfl rfl)
theorem dL_law_2177 : decode cL_law 2177 = .ok (.invokevirtual 276, 3) := dk_182 1 20 (dk_at dksL_law_84 19 rfl rfl)
theorem dL_law_2180 : decode cL_law 2180 = .ok (.aload_n 2, 1) := dk_44 (dk_at dksL_law_84 22 rfl rfl)
theorem dL_law_2181 : decode cL_law 2181 = .ok (.invokevirtual 279, 3) := dk_182 1 23 (dk_at dksL_law_85 0 rfl rfl)
theorem dL_law_2184 : decode cL_law 2184 = .ok (.if_icmp .eq 536, 3) := dk_159 2 24 (dk_at dksL_law_85 3 rfl rfl)
theorem dL_law_2187 : decode cL_law 2187 = .ok (.iconst 0, 1) := dk_3 (dk_at dksL_law_85 6 rfl rfl)
theorem dL_law_2188 : decode cL_law 2188 = .ok (.ireturn, 1) := dk_172 (dk_at dksL_law_85 7 rfl rfl)
theorem dL_law_2189 : decode cL_law 2189 = .ok (.aload_n 1, 1) := dk_43 (dk_at dksL_law_85 8 rfl rfl)
theorem dL_law_2190 : decode cL_law 2190 = .ok (.invokevirtual 280, 3) := dk_182 1 24 (dk_at dksL_law_85 9 rfl rfl)
theorem dL_law_2193 : decode cL_law 2193 = .ok (.aload_n 2, 1) := dk_44 (dk_at dksL_law_85 12 rfl rfl)
theorem dL_law_2194 : decode cL_law 2194 = .ok (.invokevirtual 283, 3) := dk_182 1 27 (dk_at dksL_law_85 13 rfl rfl)
theorem dL_law_2197 : decode cL_law 2197 = .ok (.if_icmp .eq 523, 3) := dk_159 2 11 (dk_at dksL_law_85 16 rfl rfl)
theorem dL_law_2200 : decode cL_law 2200 = .ok (.iconst 0, 1) := dk_3 (dk_at dksL_law_85 19 rfl rfl)
theorem dL_law_2201 : decode cL_law 2201 = .ok (.ireturn, 1) := dk_172 (dk_at dksL_law_85 20 rfl rfl)
theorem dL_law_2202 : decode cL_law 2202 = .ok (.aload_n 1, 1) := dk_43 (dk_at dksL_law_85 21 rfl rfl)
theorem dL_law_2203 : decode cL_law 2203 = .ok (.invokevirtual 284, 3) := dk_182 1 28 (dk_at dksL_law_86 0 rfl rfl)
theorem dL_law_2206 : decode cL_law 2206 = .ok (.dstore 5, 2) := dk_57 5 (dk_at dksL_law_86 3 rfl rfl)
theorem dL_law_2208 : decode cL_law 2208 = .ok (.aload_n 2, 1) := dk_44 (dk_at dksL_law_86 5 rfl rfl)
theorem dL_law_2209 : decode cL_law 2209 = .ok (.invokevirtual 288, 3) := dk_182 1 32 (dk_at dksL_law_86 6 rfl rfl)
theorem dL_law_2212 : decode cL_law 2212 = .ok (.dstore 7, 2) := dk_57 7 (dk_at dksL_law_86 9 rfl rfl)
theorem dL_law_2214 : decode cL_law 2214 = .ok (.dload 5, 2) := dk_24 5 (dk_at dksL_law_86 11 rfl rfl)
theorem dL_law_2216 : decode cL_law 2216 = .ok (.dload 7, 2) := dk_24 7 (dk_at dksL_law_86 13 rfl rfl)
theorem dL_law_2218 : decode cL_law 2218 = .ok (.dcmp .l, 1) := dk_151 (dk_at dksL_law_86 15 rfl rfl)
theorem dL_law_2219 : decode cL_law 2219 = .ok (.ifCond .eq 21, 3) := dk_153 0 21 (dk_at dksL_law_86 16 rfl rfl)
theorem dL_law_2222 : decode cL_law 2222 = .ok (.dload 5, 2) := dk_24 5 (dk_at dksL_law_86 19 rfl rfl)
theorem dL_law_2224 : decode cL_law 2224 = .ok (.dload 5, 2) := dk_24 5 (dk_at dksL_law_86 21 rfl rfl)
theorem dL_law_2226 : decode cL_law 2226 = .ok (.dcmp .l, 1) := dk_151 (dk_at dksL_law_86 23 rfl rfl)
theorem dL_law_2227 : decode cL_law 2227 = .ok (.ifCond .eq 11, 3) := dk_153 0 11 (dk_at dksL_law_87 0 rfl rfl)
theorem dL_law_2230 : decode cL_law 2230 = .ok (.dload 7, 2) := dk_24 7 (dk_at dksL_law_87 3 rfl rfl)
theorem dL_law_2232 : decode cL_law 2232 = .ok (.dload 7, 2) := dk_24 7 (dk_at dksL_law_87 5 rfl rfl)
theorem dL_law_2234 : decode cL_law 2234 = .ok (.dcmp .l, 1) := dk_151 (dk_at dksL_law_87 7 rfl rfl)
theorem dL_law_2235 : decode cL_law 2235 = .ok (.ifCond .ne 5, 3) := dk_154 0 5 (dk_at dksL_law_87 8 rfl rfl)
theorem dL_law_2238 : decode cL_law 2238 = .ok (.iconst 0, 1) := dk_3 (dk_at dksL_law_87 11 rfl rfl)
theorem dL_law_2239 : decode cL_law 2239 = .ok (.ireturn, 1) := dk_172 (dk_at dksL_law_87 12 rfl rfl)
theorem dL_law_2240 : decode cL_law 2240 = .ok (.goto 480, 3) := dk_167 1 224 (dk_at dksL_law_87 13 rfl rfl)
theorem dL_law_2243 : decode cL_law 2243 = .ok (.aload_n 1, 1) := dk_43 (dk_at dksL_law_87 16 rfl rfl)
theorem dL_law_2244 : decode cL_law 2244 = .ok (.aload_n 0, 1) := dk_42 (dk_at dksL_law_87 17 rfl rfl)
theorem dL_law_2245 : decode cL_law 2245 = .ok (.iload 4, 2) := dk_21 4 (dk_at dksL_law_87 18 rfl rfl)
theorem dL_law_2247 : decode cL_law 2247 = .ok (.iconst 1, 1) := dk_4 (dk_at dksL_law_87 20 rfl rfl)
theorem dL_law_2248 : decode cL_law 2248 = .ok (.iadd, 1) := dk_96 (dk_at dksL_law_87 21 rfl rfl)
theorem dL_law_2249 : decode cL_law 2249 = .ok (.iaload, 1) := dk_46 (dk_at dksL_law_87 22 rfl rfl)
theorem dL_law_2250 : decode cL_law 2250 = .ok (.aload_n 0, 1) := dk_42 (dk_at dksL_law_87 23 rfl rfl)
theorem dL_law_2251 : decode cL_law 2251 = .ok (.iload 4, 2) := dk_21 4 (dk_at dksL_law_88 0 rfl rfl)
theorem dL_law_2253 : decode cL_law 2253 = .ok (.iconst 2, 1) := dk_5 (dk_at dksL_law_88 2 rfl rfl)
theorem dL_law_2254 : decode cL_law 2254 = .ok (.iadd, 1) := dk_96 (dk_at dksL_law_88 3 rfl rfl)
theorem dL_law_2255 : decode cL_law 2255 = .ok (.iaload, 1) := dk_46 (dk_at dksL_law_88 4 rfl rfl)
theorem dL_law_2256 : decode cL_law 2256 = .ok (.aload_n 3, 1) := dk_45 (dk_at dksL_law_88 5 rfl rfl)
theorem dL_law_2257 : decode cL_law 2257 = .ok (.invokestatic 289, 3) := dk_184 1 33 (dk_at dksL_law_88 6 rfl rfl)
theorem dL_law_2260 : decode cL_law 2260 = .ok (.istore 5, 2) := dk_54 5 (dk_at dksL_law_88 9 rfl rfl)
theorem dL_law_2262 : decode cL_law 2262 = .ok (.aload_n 2, 1) := dk_44 (dk_at dksL_law_88 11 rfl rfl)
theorem dL_law_2263 : decode cL_law 2263 = .ok (.aload_n 0, 1) := dk_42 (dk_at dksL_law_88 12 rfl rfl)
theorem dL_law_2264 : decode cL_law 2264 = .ok (.iload 4, 2) := dk_21 4 (dk_at dksL_law_88 13 rfl rfl)
theorem dL_law_2266 : decode cL_law 2266 = .ok (.iconst 1, 1) := dk_4 (dk_at dksL_law_88 15 rfl rfl)
theorem dL_law_2267 : decode cL_law 2267 = .ok (.iadd, 1) := dk_96 (dk_at dksL_law_88 16 rfl rfl)
theorem dL_law_2268 : decode cL_law 2268 = .ok (.iaload, 1) := dk_46 (dk_at dksL_law_88 17 rfl rfl)
theorem dL_law_2269 : decode cL_law 2269 = .ok (.aload_n 0, 1) := dk_42 (dk_at dksL_law_88 18 rfl rfl)
theorem dL_law_2270 : decode cL_law 2270 = .ok (.iload 4, 2) := dk_21 4 (dk_at dksL_law_88 19 rfl rfl)
theorem dL_law_2272 : decode cL_law 2272 = .ok (.iconst 2, 1) := dk_5 (dk_at dksL_law_88 21 rfl rfl)
theorem dL_law_2273 : decode cL_law 2273 = .ok (.iadd, 1) := dk_96 (dk_at dksL_law_88 22 rfl rfl)
theorem dL_law_2274 : decode cL_law 2274 = .ok (.iaload, 1) := dk_46 (dk_at dksL_law_88 23 rfl rfl)
theorem dL_law_2275 : decode cL_law 2275 = .ok (.invokevirtual 291, 3) := dk_182 1 35 (dk_at dksL_law_89 0 rfl rfl)
theorem dL_law_2278 : decode cL_law 2278 = .ok (.istore 6, 2) := dk_54 6 (dk_at dksL_law_89 3 rfl rfl)
theorem dL_law_2280 : decode cL_law 2280 = .ok (.aload_n 2, 1) := dk_44 (dk_at dksL_law_89 5 rfl rfl)
theorem dL_law_2281 : decode cL_law 2281 = .ok (.invokevirtual 138, 3) := dk_182 0 138 (dk_at dksL_law_89 6 rfl rfl)
theorem dL_law_2284 : decode cL_law 2284 = .ok (.iload 5, 2) := dk_21 5 (dk_at dksL_law_89 9 rfl rfl)
theorem dL_law_2286 : decode cL_law 2286 = .ok (.if_icmp .eq 5, 3) := dk_159 0 5 (dk_at dksL_law_89 11 rfl rfl)
theorem dL_law_2289 : decode cL_law 2289 = .ok (.iconst 0, 1) := dk_3 (dk_at dksL_law_89 14 rfl rfl)
theorem dL_law_2290 : decode cL_law 2290 = .ok (.ireturn, 1) := dk_172 (dk_at dksL_law_89 15 rfl rfl)
theorem dL_law_2291 : decode cL_law 2291 = .ok (.iload 5, 2) := dk_21 5 (dk_at dksL_law_89 16 rfl rfl)
theorem dL_law_2293 : decode cL_law 2293 = .ok (.ifCond .ne 22, 3) := dk_154 0 22 (dk_at dksL_law_89 18 rfl rfl)
theorem dL_law_2296 : decode cL_law 2296 = .ok (.aload_n 3, 1) := dk_45 (dk_at dksL_law_89 21 rfl rfl)
theorem dL_law_2297 : decode cL_law 2297 = .ok (.iconst 0, 1) := dk_3 (dk_at dksL_law_89 22 rfl rfl)
theorem dL_law_2298 : decode cL_law 2298 = .ok (.laload, 1) := dk_47 (dk_at dksL_law_89 23 rfl rfl)
theorem dL_law_2299 : decode cL_law 2299 = .ok (.iload 6, 2) := dk_21 6 (dk_at dksL_law_90 0 rfl rfl)
theorem dL_law_2301 : decode cL_law 2301 = .ok (.ifCond .eq 7, 3) := dk_153 0 7 (dk_at dksL_law_90 2 rfl rfl)
theorem dL_law_2304 : decode cL_law 2304 = .ok (.lconst 1, 1) := dk_10 (dk_at dksL_law_90 5 rfl rfl)
theorem dL_law_2305 : decode cL_law 2305 = .ok (.goto 4, 3) := dk_167 0 4 (dk_at dksL_law_90 6 rfl rfl)
theorem dL_law_2308 : decode cL_law 2308 = .ok (.lconst 0, 1) := dk_9 (dk_at dksL_law_90 9 rfl rfl)
theorem dL_law_2309 : decode cL_law 2309 = .ok (.lcmp, 1) := dk_148 (dk_at dksL_law_90 10 rfl rfl)
theorem dL_law_2310 : decode cL_law 2310 = .ok (.ifCond .eq 5, 3) := dk_153 0 5 (dk_at dksL_law_90 11 rfl rfl)
theorem dL_law_2313 : decode cL_law 2313 = .ok (.iconst 0, 1) := dk_3 (dk_at dksL_law_90 14 rfl rfl)
theorem dL_law_2314 : decode cL_law 2314 = .ok (.ireturn, 1) := dk_172 (dk_at dksL_law_90 15 rfl rfl)
theorem dL_law_2315 : decode cL_law 2315 = .ok (.goto 405, 3) := dk_167 1 149 (dk_at dksL_law_90 16 rfl rfl)
theorem dL_law_2318 : decode cL_law 2318 = .ok (.aload_n 1, 1) := dk_43 (dk_at dksL_law_90 19 rfl rfl)
theorem dL_law_2319 : decode cL_law 2319 = .ok (.aload_n 0, 1) := dk_42 (dk_at dksL_law_90 20 rfl rfl)
theorem dL_law_2320 : decode cL_law 2320 = .ok (.iload 4, 2) := dk_21 4 (dk_at dksL_law_90 21 rfl rfl)
theorem dL_law_2322 : decode cL_law 2322 = .ok (.iconst 1, 1) := dk_4 (dk_at dksL_law_90 23 rfl rfl)
theorem dL_law_2323 : decode cL_law 2323 = .ok (.iadd, 1) := dk_96 (dk_at dksL_law_91 0 rfl rfl)
theorem dL_law_2324 : decode cL_law 2324 = .ok (.iaload, 1) := dk_46 (dk_at dksL_law_91 1 rfl rfl)
theorem dL_law_2325 : decode cL_law 2325 = .ok (.aload_n 0, 1) := dk_42 (dk_at dksL_law_91 2 rfl rfl)
theorem dL_law_2326 : decode cL_law 2326 = .ok (.iload 4, 2) := dk_21 4 (dk_at dksL_law_91 3 rfl rfl)
theorem dL_law_2328 : decode cL_law 2328 = .ok (.iconst 2, 1) := dk_5 (dk_at dksL_law_91 5 rfl rfl)
theorem dL_law_2329 : decode cL_law 2329 = .ok (.iadd, 1) := dk_96 (dk_at dksL_law_91 6 rfl rfl)
theorem dL_law_2330 : decode cL_law 2330 = .ok (.iaload, 1) := dk_46 (dk_at dksL_law_91 7 rfl rfl)
theorem dL_law_2331 : decode cL_law 2331 = .ok (.aload_n 3, 1) := dk_45 (dk_at dksL_law_91 8 rfl rfl)
theorem dL_law_2332 : decode cL_law 2332 = .ok (.invokestatic 292, 3) := dk_184 1 36 (dk_at dksL_law_91 9 rfl rfl)
theorem dL_law_2335 : decode cL_law 2335 = .ok (.istore 5, 2) := dk_54 5 (dk_at dksL_law_91 12 rfl rfl)
theorem dL_law_2337 : decode cL_law 2337 = .ok (.aload_n 2, 1) := dk_44 (dk_at dksL_law_91 14 rfl rfl)
theorem dL_law_2338 : decode cL_law 2338 = .ok (.aload_n 0, 1) := dk_42 (dk_at dksL_law_91 15 rfl rfl)
theorem dL_law_2339 : decode cL_law 2339 = .ok (.iload 4, 2) := dk_21 4 (dk_at dksL_law_91 16 rfl rfl)
theorem dL_law_2341 : decode cL_law 2341 = .ok (.iconst 1, 1) := dk_4 (dk_at dksL_law_91 18 rfl rfl)
theorem dL_law_2342 : decode cL_law 2342 = .ok (.iadd, 1) := dk_96 (dk_at dksL_law_91 19 rfl rfl)
theorem dL_law_2343 : decode cL_law 2343 = .ok (.iaload, 1) := dk_46 (dk_at dksL_law_91 20 rfl rfl)
theorem dL_law_2344 : decode cL_law 2344 = .ok (.aload_n 0, 1) := dk_42 (dk_at dksL_law_91 21 rfl rfl)
theorem dL_law_2345 : decode cL_law 2345 = .ok (.iload 4, 2) := dk_21 4 (dk_at dksL_law_91 22 rfl rfl)
theorem dL_law_2347 : decode cL_law 2347 = .ok (.iconst 2, 1) := dk_5 (dk_at dksL_law_92 0 rfl rfl)
theorem dL_law_2348 : decode cL_law 2348 = .ok (.iadd, 1) := dk_96 (dk_at dksL_law_92 1 rfl rfl)
theorem dL_law_2349 : decode cL_law 2349 = .ok (.iaload, 1) := dk_46 (dk_at dksL_law_92 2 rfl rfl)
theorem dL_law_2350 : decode cL_law 2350 = .ok (.invokevirtual 294, 3) := dk_182 1 38 (dk_at dksL_law_92 3 rfl rfl)
theorem dL_law_2353 : decode cL_law 2353 = .ok (.istore 6, 2) := dk_54 6 (dk_at dksL_law_92 6 rfl rfl)
theorem dL_law_2355 : decode cL_law 2355 = .ok (.aload_n 2, 1) := dk_44 (dk_at dksL_law_92 8 rfl rfl)
theorem dL_law_2356 : decode cL_law 2356 = .ok (.invokevirtual 138, 3) := dk_182 0 138 (dk_at dksL_law_92 9 rfl rfl)
theorem dL_law_2359 : decode cL_law 2359 = .ok (.iload 5, 2) := dk_21 5 (dk_at dksL_law_92 12 rfl rfl)
theorem dL_law_2361 : decode cL_law 2361 = .ok (.if_icmp .eq 5, 3) := dk_159 0 5 (dk_at dksL_law_92 14 rfl rfl)
theorem dL_law_2364 : decode cL_law 2364 = .ok (.iconst 0, 1) := dk_3 (dk_at dksL_law_92 17 rfl rfl)
theorem dL_law_2365 : decode cL_law 2365 = .ok (.ireturn, 1) := dk_172 (dk_at dksL_law_92 18 rfl rfl)
theorem dL_law_2366 : decode cL_law 2366 = .ok (.iload 5, 2) := dk_21 5 (dk_at dksL_law_92 19 rfl rfl)
theorem dL_law_2368 : decode cL_law 2368 = .ok (.ifCond .ne 15, 3) := dk_154 0 15 (dk_at dksL_law_92 21 rfl rfl)
theorem dL_law_2371 : decode cL_law 2371 = .ok (.aload_n 3, 1) := dk_45 (dk_at dksL_law_93 0 rfl rfl)
theorem dL_law_2372 : decode cL_law 2372 = .ok (.iconst 0, 1) := dk_3 (dk_at dksL_law_93 1 rfl rfl)
theorem dL_law_2373 : decode cL_law 2373 = .ok (.laload, 1) := dk_47 (dk_at dksL_law_93 2 rfl rfl)
theorem dL_law_2374 : decode cL_law 2374 = .ok (.iload 6, 2) := dk_21 6 (dk_at dksL_law_93 3 rfl rfl)
theorem dL_law_2376 : decode cL_law 2376 = .ok (.i2l, 1) := dk_133 (dk_at dksL_law_93 5 rfl rfl)
theorem dL_law_2377 : decode cL_law 2377 = .ok (.lcmp, 1) := dk_148 (dk_at dksL_law_93 6 rfl rfl)
theorem dL_law_2378 : decode cL_law 2378 = .ok (.ifCond .eq 5, 3) := dk_153 0 5 (dk_at dksL_law_93 7 rfl rfl)
theorem dL_law_2381 : decode cL_law 2381 = .ok (.iconst 0, 1) := dk_3 (dk_at dksL_law_93 10 rfl rfl)
theorem dL_law_2382 : decode cL_law 2382 = .ok (.ireturn, 1) := dk_172 (dk_at dksL_law_93 11 rfl rfl)
theorem dL_law_2383 : decode cL_law 2383 = .ok (.goto 337, 3) := dk_167 1 81 (dk_at dksL_law_93 12 rfl rfl)
theorem dL_law_2386 : decode cL_law 2386 = .ok (.aload_n 1, 1) := dk_43 (dk_at dksL_law_93 15 rfl rfl)
theorem dL_law_2387 : decode cL_law 2387 = .ok (.invokevirtual 295, 3) := dk_182 1 39 (dk_at dksL_law_93 16 rfl rfl)
theorem dL_law_2390 : decode cL_law 2390 = .ok (.aload_n 2, 1) := dk_44 (dk_at dksL_law_93 19 rfl rfl)
theorem dL_law_2391 : decode cL_law 2391 = .ok (.invokevirtual 298, 3) := dk_182 1 42 (dk_at dksL_law_93 20 rfl rfl)
theorem dL_law_2394 : decode cL_law 2394 = .ok (.if_icmp .eq 326, 3) := dk_159 1 70 (dk_at dksL_law_94 0 rfl rfl)
theorem dL_law_2397 : decode cL_law 2397 = .ok (.iconst 0, 1) := dk_3 (dk_at dksL_law_94 3 rfl rfl)
theorem dL_law_2398 : decode cL_law 2398 = .ok (.ireturn, 1) := dk_172 (dk_at dksL_law_94 4 rfl rfl)
theorem dL_law_2399 : decode cL_law 2399 = .ok (.aload_n 1, 1) := dk_43 (dk_at dksL_law_94 5 rfl rfl)
theorem dL_law_2400 : decode cL_law 2400 = .ok (.aload_n 0, 1) := dk_42 (dk_at dksL_law_94 6 rfl rfl)
theorem dL_law_2401 : decode cL_law 2401 = .ok (.iload 4, 2) := dk_21 4 (dk_at dksL_law_94 7 rfl rfl)
theorem dL_law_2403 : decode cL_law 2403 = .ok (.iconst 1, 1) := dk_4 (dk_at dksL_law_94 9 rfl rfl)
theorem dL_law_2404 : decode cL_law 2404 = .ok (.iadd, 1) := dk_96 (dk_at dksL_law_94 10 rfl rfl)
theorem dL_law_2405 : decode cL_law 2405 = .ok (.iaload, 1) := dk_46 (dk_at dksL_law_94 11 rfl rfl)
theorem dL_law_2406 : decode cL_law 2406 = .ok (.aload_n 0, 1) := dk_42 (dk_at dksL_law_94 12 rfl rfl)
theorem dL_law_2407 : decode cL_law 2407 = .ok (.iload 4, 2) := dk_21 4 (dk_at dksL_law_94 13 rfl rfl)
theorem dL_law_2409 : decode cL_law 2409 = .ok (.iconst 2, 1) := dk_5 (dk_at dksL_law_94 15 rfl rfl)
theorem dL_law_2410 : decode cL_law 2410 = .ok (.iadd, 1) := dk_96 (dk_at dksL_law_94 16 rfl rfl)
theorem dL_law_2411 : decode cL_law 2411 = .ok (.iaload, 1) := dk_46 (dk_at dksL_law_94 17 rfl rfl)
theorem dL_law_2412 : decode cL_law 2412 = .ok (.aload_n 0, 1) := dk_42 (dk_at dksL_law_94 18 rfl rfl)
theorem dL_law_2413 : decode cL_law 2413 = .ok (.iload 4, 2) := dk_21 4 (dk_at dksL_law_94 19 rfl rfl)
theorem dL_law_2415 : decode cL_law 2415 = .ok (.iconst 3, 1) := dk_6 (dk_at dksL_law_94 21 rfl rfl)
theorem dL_law_2416 : decode cL_law 2416 = .ok (.iadd, 1) := dk_96 (dk_at dksL_law_94 22 rfl rfl)
theorem dL_law_2417 : decode cL_law 2417 = .ok (.iaload, 1) := dk_46 (dk_at dksL_law_94 23 rfl rfl)
theorem dL_law_2418 : decode cL_law 2418 = .ok (.aload_n 3, 1) := dk_45 (dk_at dksL_law_95 0 rfl rfl)
theorem dL_law_2419 : decode cL_law 2419 = .ok (.invokestatic 299, 3) := dk_184 1 43 (dk_at dksL_law_95 1 rfl rfl)
theorem dL_law_2422 : decode cL_law 2422 = .ok (.istore 5, 2) := dk_54 5 (dk_at dksL_law_95 4 rfl rfl)
theorem dL_law_2424 : decode cL_law 2424 = .ok (.aload_n 2, 1) := dk_44 (dk_at dksL_law_95 6 rfl rfl)
theorem dL_law_2425 : decode cL_law 2425 = .ok (.aload_n 0, 1) := dk_42 (dk_at dksL_law_95 7 rfl rfl)
theorem dL_law_2426 : decode cL_law 2426 = .ok (.iload 4, 2) := dk_21 4 (dk_at dksL_law_95 8 rfl rfl)
theorem dL_law_2428 : decode cL_law 2428 = .ok (.iconst 1, 1) := dk_4 (dk_at dksL_law_95 10 rfl rfl)
theorem dL_law_2429 : decode cL_law 2429 = .ok (.iadd, 1) := dk_96 (dk_at dksL_law_95 11 rfl rfl)
theorem dL_law_2430 : decode cL_law 2430 = .ok (.iaload, 1) := dk_46 (dk_at dksL_law_95 12 rfl rfl)
theorem dL_law_2431 : decode cL_law 2431 = .ok (.aload_n 0, 1) := dk_42 (dk_at dksL_law_95 13 rfl rfl)
theorem dL_law_2432 : decode cL_law 2432 = .ok (.iload 4, 2) := dk_21 4 (dk_at dksL_law_95 14 rfl rfl)
theorem dL_law_2434 : decode cL_law 2434 = .ok (.iconst 2, 1) := dk_5 (dk_at dksL_law_95 16 rfl rfl)
theorem dL_law_2435 : decode cL_law 2435 = .ok (.iadd, 1) := dk_96 (dk_at dksL_law_95 17 rfl rfl)
theorem dL_law_2436 : decode cL_law 2436 = .ok (.iaload, 1) := dk_46 (dk_at dksL_law_95 18 rfl rfl)
theorem dL_law_2437 : decode cL_law 2437 = .ok (.aload_n 0, 1) := dk_42 (dk_at dksL_law_95 19 rfl rfl)
theorem dL_law_2438 : decode cL_law 2438 = .ok (.iload 4, 2) := dk_21 4 (dk_at dksL_law_95 20 rfl rfl)
theorem dL_law_2440 : decode cL_law 2440 = .ok (.iconst 3, 1) := dk_6 (dk_at dksL_law_95 22 rfl rfl)
theorem dL_law_2441 : decode cL_law 2441 = .ok (.iadd, 1) := dk_96 (dk_at dksL_law_95 23 rfl rfl)
theorem dL_law_2442 : decode cL_law 2442 = .ok (.iaload, 1) := dk_46 (dk_at dksL_law_96 0 rfl rfl)
theorem dL_law_2443 : decode cL_law 2443 = .ok (.invokevirtual 301, 3) := dk_182 1 45 (dk_at dksL_law_96 1 rfl rfl)
theorem dL_law_2446 : decode cL_law 2446 = .ok (.istore 6, 2) := dk_54 6 (dk_at dksL_law_96 4 rfl rfl)
theorem dL_law_2448 : decode cL_law 2448 = .ok (.aload_n 2, 1) := dk_44 (dk_at dksL_law_96 6 rfl rfl)
theorem dL_law_2449 : decode cL_law 2449 = .ok (.invokevirtual 138, 3) := dk_182 0 138 (dk_at dksL_law_96 7 rfl rfl)
theorem dL_law_2452 : decode cL_law 2452 = .ok (.iload 5, 2) := dk_21 5 (dk_at dksL_law_96 10 rfl rfl)
theorem dL_law_2454 : decode cL_law 2454 = .ok (.if_icmp .eq 5, 3) := dk_159 0 5 (dk_at dksL_law_96 12 rfl rfl)
theorem dL_law_2457 : decode cL_law 2457 = .ok (.iconst 0, 1) := dk_3 (dk_at dksL_law_96 15 rfl rfl)
theorem dL_law_2458 : decode cL_law 2458 = .ok (.ireturn, 1) := dk_172 (dk_at dksL_law_96 16 rfl rfl)
theorem dL_law_2459 : decode cL_law 2459 = .ok (.iload 5, 2) := dk_21 5 (dk_at dksL_law_96 17 rfl rfl)
theorem dL_law_2461 : decode cL_law 2461 = .ok (.ifCond .ne 15, 3) := dk_154 0 15 (dk_at dksL_law_96 19 rfl rfl)
theorem dL_law_2464 : decode cL_law 2464 = .ok (.aload_n 3, 1) := dk_45 (dk_at dksL_law_96 22 rfl rfl)
theorem dL_law_2465 : decode cL_law 2465 = .ok (.iconst 0, 1) := dk_3 (dk_at dksL_law_96 23 rfl rfl)
theorem dL_law_2466 : decode cL_law 2466 = .ok (.laload, 1) := dk_47 (dk_at dksL_law_97 0 rfl rfl)
theorem dL_law_2467 : decode cL_law 2467 = .ok (.iload 6, 2) := dk_21 6 (dk_at dksL_law_97 1 rfl rfl)
theorem dL_law_2469 : decode cL_law 2469 = .ok (.i2l, 1) := dk_133 (dk_at dksL_law_97 3 rfl rfl)
theorem dL_law_2470 : decode cL_law 2470 = .ok (.lcmp, 1) := dk_148 (dk_at dksL_law_97 4 rfl rfl)
theorem dL_law_2471 : decode cL_law 2471 = .ok (.ifCond .eq 5, 3) := dk_153 0 5 (dk_at dksL_law_97 5 rfl rfl)
theorem dL_law_2474 : decode cL_law 2474 = .ok (.iconst 0, 1) := dk_3 (dk_at dksL_law_97 8 rfl rfl)
theorem dL_law_2475 : decode cL_law 2475 = .ok (.ireturn, 1) := dk_172 (dk_at dksL_law_97 9 rfl rfl)
theorem dL_law_2476 : decode cL_law 2476 = .ok (.goto 244, 3) := dk_167 0 244 (dk_at dksL_law_97 10 rfl rfl)
theorem dL_law_2479 : decode cL_law 2479 = .ok (.aload_n 1, 1) := dk_43 (dk_at dksL_law_97 13 rfl rfl)
theorem dL_law_2480 : decode cL_law 2480 = .ok (.invokevirtual 302, 3) := dk_182 1 46 (dk_at dksL_law_97 14 rfl rfl)
theorem dL_law_2483 : decode cL_law 2483 = .ok (.aload_n 2, 1) := dk_44 (dk_at dksL_law_97 17 rfl rfl)
theorem dL_law_2484 : decode cL_law 2484 = .ok (.invokevirtual 305, 3) := dk_182 1 49 (dk_at dksL_law_97 18 rfl rfl)
theorem dL_law_2487 : decode cL_law 2487 = .ok (.if_icmp .eq 233, 3) := dk_159 0 233 (dk_at dksL_law_97 21 rfl rfl)
theorem dL_law_2490 : decode cL_law 2490 = .ok (.iconst 0, 1) := dk_3 (dk_at dksL_law_98 0 rfl rfl)
theorem dL_law_2491 : decode cL_law 2491 = .ok (.ireturn, 1) := dk_172 (dk_at dksL_law_98 1 rfl rfl)
theorem dL_law_2492 : decode cL_law 2492 = .ok (.aload_n 1, 1) := dk_43 (dk_at dksL_law_98 2 rfl rfl)
theorem dL_law_2493 : decode cL_law 2493 = .ok (.aload_n 3, 1) := dk_45 (dk_at dksL_law_98 3 rfl rfl)
theorem dL_law_2494 : decode cL_law 2494 = .ok (.invokestatic 306, 3) := dk_184 1 50 (dk_at dksL_law_98 4 rfl rfl)
theorem dL_law_2497 : decode cL_law 2497 = .ok (.istore 5, 2) := dk_54 5 (dk_at dksL_law_98 7 rfl rfl)
theorem dL_law_2499 : decode cL_law 2499 = .ok (.aload_n 2, 1) := dk_44 (dk_at dksL_law_98 9 rfl rfl)
theorem dL_law_2500 : decode cL_law 2500 = .ok (.invokevirtual 309, 3) := dk_182 1 53 (dk_at dksL_law_98 10 rfl rfl)
theorem dL_law_2503 : decode cL_law 2503 = .ok (.istore 6, 2) := dk_54 6 (dk_at dksL_law_98 13 rfl rfl)
theorem dL_law_2505 : decode cL_law 2505 = .ok (.aload_n 2, 1) := dk_44 (dk_at dksL_law_98 15 rfl rfl)
theorem dL_law_2506 : decode cL_law 2506 = .ok (.invokevirtual 138, 3) := dk_182 0 138 (dk_at dksL_law_98 16 rfl rfl)
theorem dL_law_2509 : decode cL_law 2509 = .ok (.iload 5, 2) := dk_21 5 (dk_at dksL_law_98 19 rfl rfl)
theorem dL_law_2511 : decode cL_law 2511 = .ok (.if_icmp .eq 5, 3) := dk_159 0 5 (dk_at dksL_law_98 21 rfl rfl)
theorem dL_law_2514 : decode cL_law 2514 = .ok (.iconst 0, 1) := dk_3 (dk_at dksL_law_99 0 rfl rfl)
theorem dL_law_2515 : decode cL_law 2515 = .ok (.ireturn, 1) := dk_172 (dk_at dksL_law_99 1 rfl rfl)
theorem dL_law_2516 : decode cL_law 2516 = .ok (.iload 5, 2) := dk_21 5 (dk_at dksL_law_99 2 rfl rfl)
theorem dL_law_2518 : decode cL_law 2518 = .ok (.ifCond .ne 15, 3) := dk_154 0 15 (dk_at dksL_law_99 4 rfl rfl)
theorem dL_law_2521 : decode cL_law 2521 = .ok (.aload_n 3, 1) := dk_45 (dk_at dksL_law_99 7 rfl rfl)
theorem dL_law_2522 : decode cL_law 2522 = .ok (.iconst 0, 1) := dk_3 (dk_at dksL_law_99 8 rfl rfl)
theorem dL_law_2523 : decode cL_law 2523 = .ok (.laload, 1) := dk_47 (dk_at dksL_law_99 9 rfl rfl)
theorem dL_law_2524 : decode cL_law 2524 = .ok (.iload 6, 2) := dk_21 6 (dk_at dksL_law_99 10 rfl rfl)
theorem dL_law_2526 : decode cL_law 2526 = .ok (.i2l, 1) := dk_133 (dk_at dksL_law_99 12 rfl rfl)
theorem dL_law_2527 : decode cL_law 2527 = .ok (.lcmp, 1) := dk_148 (dk_at dksL_law_99 13 rfl rfl)
theorem dL_law_2528 : decode cL_law 2528 = .ok (.ifCond .eq 5, 3) := dk_153 0 5 (dk_at dksL_law_99 14 rfl rfl)
theorem dL_law_2531 : decode cL_law 2531 = .ok (.iconst 0, 1) := dk_3 (dk_at dksL_law_99 17 rfl rfl)
theorem dL_law_2532 : decode cL_law 2532 = .ok (.ireturn, 1) := dk_172 (dk_at dksL_law_99 18 rfl rfl)
theorem dL_law_2533 : decode cL_law 2533 = .ok (.goto 187, 3) := dk_167 0 187 (dk_at dksL_law_99 19 rfl rfl)
theorem dL_law_2536 : decode cL_law 2536 = .ok (.aload_n 1, 1) := dk_43 (dk_at dksL_law_99 22 rfl rfl)
theorem dL_law_2537 : decode cL_law 2537 = .ok (.aload_n 0, 1) := dk_42 (dk_at dksL_law_99 23 rfl rfl)
theorem dL_law_2538 : decode cL_law 2538 = .ok (.iload 4, 2) := dk_21 4 (dk_at dksL_law_100 0 rfl rfl)
theorem dL_law_2540 : decode cL_law 2540 = .ok (.iconst 1, 1) := dk_4 (dk_at dksL_law_100 2 rfl rfl)
theorem dL_law_2541 : decode cL_law 2541 = .ok (.iadd, 1) := dk_96 (dk_at dksL_law_100 3 rfl rfl)
theorem dL_law_2542 : decode cL_law 2542 = .ok (.iaload, 1) := dk_46 (dk_at dksL_law_100 4 rfl rfl)
theorem dL_law_2543 : decode cL_law 2543 = .ok (.aload_n 3, 1) := dk_45 (dk_at dksL_law_100 5 rfl rfl)
theorem dL_law_2544 : decode cL_law 2544 = .ok (.invokestatic 310, 3) := dk_184 1 54 (dk_at dksL_law_100 6 rfl rfl)
theorem dL_law_2547 : decode cL_law 2547 = .ok (.istore 5, 2) := dk_54 5 (dk_at dksL_law_100 9 rfl rfl)
theorem dL_law_2549 : decode cL_law 2549 = .ok (.aload_n 2, 1) := dk_44 (dk_at dksL_law_100 11 rfl rfl)
theorem dL_law_2550 : decode cL_law 2550 = .ok (.aload_n 0, 1) := dk_42 (dk_at dksL_law_100 12 rfl rfl)
theorem dL_law_2551 : decode cL_law 2551 = .ok (.iload 4, 2) := dk_21 4 (dk_at dksL_law_100 13 rfl rfl)
theorem dL_law_2553 : decode cL_law 2553 = .ok (.iconst 1, 1) := dk_4 (dk_at dksL_law_100 15 rfl rfl)
theorem dL_law_2554 : decode cL_law 2554 = .ok (.iadd, 1) := dk_96 (dk_at dksL_law_100 16 rfl rfl)
theorem dL_law_2555 : decode cL_law 2555 = .ok (.iaload, 1) := dk_46 (dk_at dksL_law_100 17 rfl rfl)
theorem dL_law_2556 : decode cL_law 2556 = .ok (.invokevirtual 312, 3) := dk_182 1 56 (dk_at dksL_law_100 18 rfl rfl)
theorem dL_law_2559 : decode cL_law 2559 = .ok (.istore 6, 2) := dk_54 6 (dk_at dksL_law_100 21 rfl rfl)
theorem dL_law_2561 : decode cL_law 2561 = .ok (.aload_n 2, 1) := dk_44 (dk_at dksL_law_100 23 rfl rfl)
theorem dL_law_2562 : decode cL_law 2562 = .ok (.invokevirtual 138, 3) := dk_182 0 138 (dk_at dksL_law_101 0 rfl rfl)
theorem dL_law_2565 : decode cL_law 2565 = .ok (.iload 5, 2) := dk_21 5 (dk_at dksL_law_101 3 rfl rfl)
theorem dL_law_2567 : decode cL_law 2567 = .ok (.if_icmp .eq 5, 3) := dk_159 0 5 (dk_at dksL_law_101 5 rfl rfl)
theorem dL_law_2570 : decode cL_law 2570 = .ok (.iconst 0, 1) := dk_3 (dk_at dksL_law_101 8 rfl rfl)
theorem dL_law_2571 : decode cL_law 2571 = .ok (.ireturn, 1) := dk_172 (dk_at dksL_law_101 9 rfl rfl)
theorem dL_law_2572 : decode cL_law 2572 = .ok (.iload 5, 2) := dk_21 5 (dk_at dksL_law_101 10 rfl rfl)
theorem dL_law_2574 : decode cL_law 2574 = .ok (.ifCond .ne 15, 3) := dk_154 0 15 (dk_at dksL_law_101 12 rfl rfl)
theorem dL_law_2577 : decode cL_law 2577 = .ok (.aload_n 3, 1) := dk_45 (dk_at dksL_law_101 15 rfl rfl)
theorem dL_law_2578 : decode cL_law 2578 = .ok (.iconst 0, 1) := dk_3 (dk_at dksL_law_101 16 rfl rfl)
theorem dL_law_2579 : decode cL_law 2579 = .ok (.laload, 1) := dk_47 (dk_at dksL_law_101 17 rfl rfl)
theorem dL_law_2580 : decode cL_law 2580 = .ok (.iload 6, 2) := dk_21 6 (dk_at dksL_law_101 18 rfl rfl)
theorem dL_law_2582 : decode cL_law 2582 = .ok (.i2l, 1) := dk_133 (dk_at dksL_law_101 20 rfl rfl)
theorem dL_law_2583 : decode cL_law 2583 = .ok (.lcmp, 1) := dk_148 (dk_at dksL_law_101 21 rfl rfl)
theorem dL_law_2584 : decode cL_law 2584 = .ok (.ifCond .eq 5, 3) := dk_153 0 5 (dk_at dksL_law_102 0 rfl rfl)
theorem dL_law_2587 : decode cL_law 2587 = .ok (.iconst 0, 1) := dk_3 (dk_at dksL_law_102 3 rfl rfl)
theorem dL_law_2588 : decode cL_law 2588 = .ok (.ireturn, 1) := dk_172 (dk_at dksL_law_102 4 rfl rfl)
theorem dL_law_2589 : decode cL_law 2589 = .ok (.goto 131, 3) := dk_167 0 131 (dk_at dksL_law_102 5 rfl rfl)
theorem dL_law_2592 : decode cL_law 2592 = .ok (.aload_n 1, 1) := dk_43 (dk_at dksL_law_102 8 rfl rfl)
theorem dL_law_2593 : decode cL_law 2593 = .ok (.invokevirtual 313, 3) := dk_182 1 57 (dk_at dksL_law_102 9 rfl rfl)
theorem dL_law_2596 : decode cL_law 2596 = .ok (.aload_n 2, 1) := dk_44 (dk_at dksL_law_102 12 rfl rfl)
theorem dL_law_2597 : decode cL_law 2597 = .ok (.invokevirtual 316, 3) := dk_182 1 60 (dk_at dksL_law_102 13 rfl rfl)
theorem dL_law_2600 : decode cL_law 2600 = .ok (.if_icmp .eq 120, 3) := dk_159 0 120 (dk_at dksL_law_102 16 rfl rfl)
theorem dL_law_2603 : decode cL_law 2603 = .ok (.iconst 0, 1) := dk_3 (dk_at dksL_law_102 19 rfl rfl)
theorem dL_law_2604 : decode cL_law 2604 = .ok (.ireturn, 1) := dk_172 (dk_at dksL_law_102 20 rfl rfl)
theorem dL_law_2605 : decode cL_law 2605 = .ok (.aload_n 1, 1) := dk_43 (dk_at dksL_law_102 21 rfl rfl)
theorem dL_law_2606 : decode cL_law 2606 = .ok (.invokevirtual 317, 3) := dk_182 1 61 (dk_at dksL_law_103 0 rfl rfl)
theorem dL_law_2609 : decode cL_law 2609 = .ok (.aload_n 2, 1) := dk_44 (dk_at dksL_law_103 3 rfl rfl)
theorem dL_law_2610 : decode cL_law 2610 = .ok (.invokevirtual 320, 3) := dk_182 1 64 (dk_at dksL_law_103 4 rfl rfl)
theorem dL_law_2613 : decode cL_law 2613 = .ok (.if_icmp .eq 107, 3) := dk_159 0 107 (dk_at dksL_law_103 7 rfl rfl)
theorem dL_law_2616 : decode cL_law 2616 = .ok (.iconst 0, 1) := dk_3 (dk_at dksL_law_103 10 rfl rfl)
theorem dL_law_2617 : decode cL_law 2617 = .ok (.ireturn, 1) := dk_172 (dk_at dksL_law_103 11 rfl rfl)
theorem dL_law_2618 : decode cL_law 2618 = .ok (.aload_n 1, 1) := dk_43 (dk_at dksL_law_103 12 rfl rfl)
theorem dL_law_2619 : decode cL_law 2619 = .ok (.aload_n 3, 1) := dk_45 (dk_at dksL_law_103 13 rfl rfl)
theorem dL_law_2620 : decode cL_law 2620 = .ok (.invokestatic 321, 3) := dk_184 1 65 (dk_at dksL_law_103 14 rfl rfl)
theorem dL_law_2623 : decode cL_law 2623 = .ok (.istore 5, 2) := dk_54 5 (dk_at dksL_law_103 17 rfl rfl)
theorem dL_law_2625 : decode cL_law 2625 = .ok (.aload_n 2, 1) := dk_44 (dk_at dksL_law_103 19 rfl rfl)
theorem dL_law_2626 : decode cL_law 2626 = .ok (.invokevirtual 323, 3) := dk_182 1 67 (dk_at dksL_law_103 20 rfl rfl)
theorem dL_law_2629 : decode cL_law 2629 = .ok (.istore 6, 2) := dk_54 6 (dk_at dksL_law_104 0 rfl rfl)
theorem dL_law_2631 : decode cL_law 2631 = .ok (.aload_n 2, 1) := dk_44 (dk_at dksL_law_104 2 rfl rfl)
theorem dL_law_2632 : decode cL_law 2632 = .ok (.invokevirtual 138, 3) := dk_182 0 138 (dk_at dksL_law_104 3 rfl rfl)
theorem dL_law_2635 : decode cL_law 2635 = .ok (.iload 5, 2) := dk_21 5 (dk_at dksL_law_104 6 rfl rfl)
theorem dL_law_2637 : decode cL_law 2637 = .ok (.if_icmp .eq 5, 3) := dk_159 0 5 (dk_at dksL_law_104 8 rfl rfl)
theorem dL_law_2640 : decode cL_law 2640 = .ok (.iconst 0, 1) := dk_3 (dk_at dksL_law_104 11 rfl rfl)
theorem dL_law_2641 : decode cL_law 2641 = .ok (.ireturn, 1) := dk_172 (dk_at dksL_law_104 12 rfl rfl)
theorem dL_law_2642 : decode cL_law 2642 = .ok (.iload 5, 2) := dk_21 5 (dk_at dksL_law_104 13 rfl rfl)
theorem dL_law_2644 : decode cL_law 2644 = .ok (.ifCond .ne 15, 3) := dk_154 0 15 (dk_at dksL_law_104 15 rfl rfl)
theorem dL_law_2647 : decode cL_law 2647 = .ok (.aload_n 3, 1) := dk_45 (dk_at dksL_law_104 18 rfl rfl)
theorem dL_law_2648 : decode cL_law 2648 = .ok (.iconst 0, 1) := dk_3 (dk_at dksL_law_104 19 rfl rfl)
theorem dL_law_2649 : decode cL_law 2649 = .ok (.laload, 1) := dk_47 (dk_at dksL_law_104 20 rfl rfl)
theorem dL_law_2650 : decode cL_law 2650 = .ok (.iload 6, 2) := dk_21 6 (dk_at dksL_law_104 21 rfl rfl)
theorem dL_law_2652 : decode cL_law 2652 = .ok (.i2l, 1) := dk_133 (dk_at dksL_law_104 23 rfl rfl)
theorem dL_law_2653 : decode cL_law 2653 = .ok (.lcmp, 1) := dk_148 (dk_at dksL_law_105 0 rfl rfl)
theorem dL_law_2654 : decode cL_law 2654 = .ok (.ifCond .eq 5, 3) := dk_153 0 5 (dk_at dksL_law_105 1 rfl rfl)
theorem dL_law_2657 : decode cL_law 2657 = .ok (.iconst 0, 1) := dk_3 (dk_at dksL_law_105 4 rfl rfl)
theorem dL_law_2658 : decode cL_law 2658 = .ok (.ireturn, 1) := dk_172 (dk_at dksL_law_105 5 rfl rfl)
theorem dL_law_2659 : decode cL_law 2659 = .ok (.goto 61, 3) := dk_167 0 61 (dk_at dksL_law_105 6 rfl rfl)
theorem dL_law_2662 : decode cL_law 2662 = .ok (.aload_n 1, 1) := dk_43 (dk_at dksL_law_105 9 rfl rfl)
theorem dL_law_2663 : decode cL_law 2663 = .ok (.aload_n 3, 1) := dk_45 (dk_at dksL_law_105 10 rfl rfl)
theorem dL_law_2664 : decode cL_law 2664 = .ok (.invokestatic 324, 3) := dk_184 1 68 (dk_at dksL_law_105 11 rfl rfl)
theorem dL_law_2667 : decode cL_law 2667 = .ok (.istore 5, 2) := dk_54 5 (dk_at dksL_law_105 14 rfl rfl)
theorem dL_law_2669 : decode cL_law 2669 = .ok (.aload_n 2, 1) := dk_44 (dk_at dksL_law_105 16 rfl rfl)
theorem dL_law_2670 : decode cL_law 2670 = .ok (.invokevirtual 326, 3) := dk_182 1 70 (dk_at dksL_law_105 17 rfl rfl)
theorem dL_law_2673 : decode cL_law 2673 = .ok (.istore 6, 2) := dk_54 6 (dk_at dksL_law_105 20 rfl rfl)
theorem dL_law_2675 : decode cL_law 2675 = .ok (.aload_n 2, 1) := dk_44 (dk_at dksL_law_105 22 rfl rfl)
theorem dL_law_2676 : decode cL_law 2676 = .ok (.invokevirtual 138, 3) := dk_182 0 138 (dk_at dksL_law_106 0 rfl rfl)
theorem dL_law_2679 : decode cL_law 2679 = .ok (.iload 5, 2) := dk_21 5 (dk_at dksL_law_106 3 rfl rfl)
theorem dL_law_2681 : decode cL_law 2681 = .ok (.if_icmp .eq 5, 3) := dk_159 0 5 (dk_at dksL_law_106 5 rfl rfl)
theorem dL_law_2684 : decode cL_law 2684 = .ok (.iconst 0, 1) := dk_3 (dk_at dksL_law_106 8 rfl rfl)
theorem dL_law_2685 : decode cL_law 2685 = .ok (.ireturn, 1) := dk_172 (dk_at dksL_law_106 9 rfl rfl)
theorem dL_law_2686 : decode cL_law 2686 = .ok (.iload 5, 2) := dk_21 5 (dk_at dksL_law_106 10 rfl rfl)
theorem dL_law_2688 : decode cL_law 2688 = .ok (.ifCond .ne 15, 3) := dk_154 0 15 (dk_at dksL_law_106 12 rfl rfl)
theorem dL_law_2691 : decode cL_law 2691 = .ok (.aload_n 3, 1) := dk_45 (dk_at dksL_law_106 15 rfl rfl)
theorem dL_law_2692 : decode cL_law 2692 = .ok (.iconst 0, 1) := dk_3 (dk_at dksL_law_106 16 rfl rfl)
theorem dL_law_2693 : decode cL_law 2693 = .ok (.laload, 1) := dk_47 (dk_at dksL_law_106 17 rfl rfl)
theorem dL_law_2694 : decode cL_law 2694 = .ok (.iload 6, 2) := dk_21 6 (dk_at dksL_law_106 18 rfl rfl)
theorem dL_law_2696 : decode cL_law 2696 = .ok (.i2l, 1) := dk_133 (dk_at dksL_law_106 20 rfl rfl)
theorem dL_law_2697 : decode cL_law 2697 = .ok (.lcmp, 1) := dk_148 (dk_at dksL_law_106 21 rfl rfl)
theorem dL_law_2698 : decode cL_law 2698 = .ok (.ifCond .eq 5, 3) := dk_153 0 5 (dk_at dksL_law_107 0 rfl rfl)
theorem dL_law_2701 : decode cL_law 2701 = .ok (.iconst 0, 1) := dk_3 (dk_at dksL_law_107 3 rfl rfl)
theorem dL_law_2702 : decode cL_law 2702 = .ok (.ireturn, 1) := dk_172 (dk_at dksL_law_107 4 rfl rfl)
theorem dL_law_2703 : decode cL_law 2703 = .ok (.goto 17, 3) := dk_167 0 17 (dk_at dksL_law_107 5 rfl rfl)
theorem dL_law_2706 : decode cL_law 2706 = .ok (.aload_n 1, 1) := dk_43 (dk_at dksL_law_107 8 rfl rfl)
theorem dL_law_2707 : decode cL_law 2707 = .ok (.invokevirtual 327, 3) := dk_182 1 71 (dk_at dksL_law_107 9 rfl rfl)
theorem dL_law_2710 : decode cL_law 2710 = .ok (.aload_n 2, 1) := dk_44 (dk_at dksL_law_107 12 rfl rfl)
theorem dL_law_2711 : decode cL_law 2711 = .ok (.invokevirtual 331, 3) := dk_182 1 75 (dk_at dksL_law_107 13 rfl rfl)
theorem dL_law_2714 : decode cL_law 2714 = .ok (.lcmp, 1) := dk_148 (dk_at dksL_law_107 16 rfl rfl)
theorem dL_law_2715 : decode cL_law 2715 = .ok (.ifCond .eq 5, 3) := dk_153 0 5 (dk_at dksL_law_107 17 rfl rfl)
theorem dL_law_2718 : decode cL_law 2718 = .ok (.iconst 0, 1) := dk_3 (dk_at dksL_law_107 20 rfl rfl)
theorem dL_law_2719 : decode cL_law 2719 = .ok (.ireturn, 1) := dk_172 (dk_at dksL_law_107 21 rfl rfl)
theorem dL_law_2720 : decode cL_law 2720 = .ok (.iinc 4 4, 3) := dk_132 4 4 (dk_at dksL_law_108 0 rfl rfl)
theorem dL_law_2723 : decode cL_law 2723 = .ok (.goto (-2700), 3) := dk_167 245 116 (dk_at dksL_law_108 3 rfl rfl)
theorem dL_law_2726 : decode cL_law 2726 = .ok (.iconst 1, 1) := dk_4 (dk_at dksL_law_108 6 rfl rfl)
theorem dL_law_2727 : decode cL_law 2727 = .ok (.ireturn, 1) := dk_172 (dk_at dksL_law_108 7 rfl rfl)
