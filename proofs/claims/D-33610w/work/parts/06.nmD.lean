/-! PatchCordsModel -/
set_option maxRecDepth 100000
def RX4 : String := "PatchCordsModel"
def TX4 : u_T := fun k => match k with
  | 0 => ("PatchCordsModel", "thrown", "I", false)
  | 1 => ("PatchCordsModel", "state", "[I", true)
  | 2 => ("PatchCordsModel", "history", "[I", true)
  | 3 => ("PatchCordsModel", "savedStates", "I", false)
  | 4 => ("PatchCordsModel", "snapshot", "[I", true)
  | 5 => ("PatchCordsModel", "isTaken", "Z", false)
  | 6 => ("PatchCordsModel", "kept", "[I", true)
  | 7 => ("PatchCordsModel", "levels", "[I", true)
  | 8 => ("PatchCordsModel", "outs", "[I", true)
  | 9 => ("PatchCordsModel", "over", "I", false)
  | 10 => ("PatchCordsModel", "rates", "[I", true)
  | 11 => ("PatchCordsModel", "before", "[I", true)
  | 12 => ("PatchCordsModel", "text", "[I", true)
  | 13 => ("PatchCordsModel", "textLength", "I", false)
  | 14 => ("PatchCordsModel", "reading", "I", false)
  | 15 => ("PatchCordsModel", "number", "I", false)
  | 16 => ("PatchCordsModel", "item", "I", false)
  | 17 => ("PatchCordsModel", "one", "I", false)
  | 18 => ("PatchCordsModel", "other", "I", false)
  | _ => ("PatchCordsModel", "inputRead", "I", false)
def tyX4 : Nat → FieldType := fun k => match k with
  | 0 => .int
  | 1 => .array .int
  | 2 => .array .int
  | 3 => .int
  | 4 => .array .int
  | 5 => .boolean
  | 6 => .array .int
  | 7 => .array .int
  | 8 => .array .int
  | 9 => .int
  | 10 => .array .int
  | 11 => .array .int
  | 12 => .array .int
  | 13 => .int
  | 14 => .int
  | 15 => .int
  | 16 => .int
  | 17 => .int
  | 18 => .int
  | _ => .int
abbrev wsX40 : List Cond := u_ws RX4 TX4 20
set_option maxRecDepth 100000 in
theorem nmX4 : ∀ a, a < 20 → ∀ b, b < 20 → a ≠ b → (TX4 a).2.1 ≠ (TX4 b).2.1 := by decide +kernel
set_option maxRecDepth 100000 in
theorem tyX4_ok : ∀ k, k < 20 → parseFieldDescriptor (TX4 k).2.2.1 = some (tyX4 k) := by decide +kernel
abbrev cX4_init : ByteArray := prog_17_method_1_code
def yX4_init : MethodName := ⟨RX4, "<init>", "()V"⟩
def dkwX4_init_4 : List UInt8 := [2, 79, 42, 180, 0, 7, 16, 9, 2, 79, 177]
abbrev dktX4_init_4 : List UInt8 := dkwX4_init_4 ++ []
def dkwX4_init_3 : List UInt8 := [181, 0, 31, 42, 16, 60, 188, 10, 181, 0, 34, 42, 180, 0, 7, 8, 2, 79, 42, 180, 0, 7, 16, 8]
abbrev dktX4_init_3 : List UInt8 := dkwX4_init_3 ++ dktX4_init_4
def dkwX4_init_2 : List UInt8 := [181, 0, 22, 42, 16, 16, 188, 10, 181, 0, 25, 42, 16, 16, 188, 10, 181, 0, 28, 42, 16, 16, 188, 10]
abbrev dktX4_init_2 : List UInt8 := dkwX4_init_2 ++ dktX4_init_3
def dkwX4_init_1 : List UInt8 := [17, 0, 242, 188, 10, 181, 0, 16, 42, 17, 0, 242, 188, 10, 181, 0, 19, 42, 16, 16, 188, 10]
abbrev dktX4_init_1 : List UInt8 := dkwX4_init_1 ++ dktX4_init_2
def dkwX4_init_0 : List UInt8 := [42, 183, 0, 1, 42, 17, 0, 242, 188, 10, 181, 0, 7, 42, 17, 5, 172, 188, 10, 181, 0, 13, 42]
abbrev dktX4_init_0 : List UInt8 := dkwX4_init_0 ++ dktX4_init_1
theorem dksX4_init_0 : cX4_init.data.toList.drop 0 = dktX4_init_0 := by decide +kernel
theorem dksX4_init_1 : cX4_init.data.toList.drop 23 = dktX4_init_1 := dk_seg dksX4_init_0 23 rfl rfl
theorem dksX4_init_2 : cX4_init.data.toList.drop 45 = dktX4_init_2 := dk_seg dksX4_init_1 22 rfl rfl
theorem dksX4_init_3 : cX4_init.data.toList.drop 69 = dktX4_init_3 := dk_seg dksX4_init_2 24 rfl rfl
theorem dksX4_init_4 : cX4_init.data.toList.drop 93 = dktX4_init_4 := dk_seg dksX4_init_3 24 rfl rfl
theorem dX4_init_0 : decode cX4_init 0 = .ok (.aload_n 0, 1) := dk_42 (dk_at dksX4_init_0 0 rfl rfl)
theorem dX4_init_1 : decode cX4_init 1 = .ok (.invokespecial 1, 3) := dk_183 0 1 (dk_at dksX4_init_0 1 rfl rfl)
theorem dX4_init_4 : decode cX4_init 4 = .ok (.aload_n 0, 1) := dk_42 (dk_at dksX4_init_0 4 rfl rfl)
theorem dX4_init_5 : decode cX4_init 5 = .ok (.sipush 242, 3) := dk_17 0 242 (dk_at dksX4_init_0 5 rfl rfl)
theorem dX4_init_8 : decode cX4_init 8 = .ok (.newarray .int, 2) := dk_188_10 (dk_at dksX4_init_0 8 rfl rfl)
theorem dX4_init_10 : decode cX4_init 10 = .ok (.putfield 7, 3) := dk_181 0 7 (dk_at dksX4_init_0 10 rfl rfl)
theorem dX4_init_13 : decode cX4_init 13 = .ok (.aload_n 0, 1) := dk_42 (dk_at dksX4_init_0 13 rfl rfl)
theorem dX4_init_14 : decode cX4_init 14 = .ok (.sipush 1452, 3) := dk_17 5 172 (dk_at dksX4_init_0 14 rfl rfl)
theorem dX4_init_17 : decode cX4_init 17 = .ok (.newarray .int, 2) := dk_188_10 (dk_at dksX4_init_0 17 rfl rfl)
theorem dX4_init_19 : decode cX4_init 19 = .ok (.putfield 13, 3) := dk_181 0 13 (dk_at dksX4_init_0 19 rfl rfl)
theorem dX4_init_22 : decode cX4_init 22 = .ok (.aload_n 0, 1) := dk_42 (dk_at dksX4_init_0 22 rfl rfl)
theorem dX4_init_23 : decode cX4_init 23 = .ok (.sipush 242, 3) := dk_17 0 242 (dk_at dksX4_init_1 0 rfl rfl)
theorem dX4_init_26 : decode cX4_init 26 = .ok (.newarray .int, 2) := dk_188_10 (dk_at dksX4_init_1 3 rfl rfl)
theorem dX4_init_28 : decode cX4_init 28 = .ok (.putfield 16, 3) := dk_181 0 16 (dk_at dksX4_init_1 5 rfl rfl)
theorem dX4_init_31 : decode cX4_init 31 = .ok (.aload_n 0, 1) := dk_42 (dk_at dksX4_init_1 8 rfl rfl)
theorem dX4_init_32 : decode cX4_init 32 = .ok (.sipush 242, 3) := dk_17 0 242 (dk_at dksX4_init_1 9 rfl rfl)
theorem dX4_init_35 : decode cX4_init 35 = .ok (.newarray .int, 2) := dk_188_10 (dk_at dksX4_init_1 12 rfl rfl)
theorem dX4_init_37 : decode cX4_init 37 = .ok (.putfield 19, 3) := dk_181 0 19 (dk_at dksX4_init_1 14 rfl rfl)
theorem dX4_init_40 : decode cX4_init 40 = .ok (.aload_n 0, 1) := dk_42 (dk_at dksX4_init_1 17 rfl rfl)
theorem dX4_init_41 : decode cX4_init 41 = .ok (.bipush 16, 2) := dk_16 16 (dk_at dksX4_init_1 18 rfl rfl)
theorem dX4_init_43 : decode cX4_init 43 = .ok (.newarray .int, 2) := dk_188_10 (dk_at dksX4_init_1 20 rfl rfl)
theorem dX4_init_45 : decode cX4_init 45 = .ok (.putfield 22, 3) := dk_181 0 22 (dk_at dksX4_init_2 0 rfl rfl)
theorem dX4_init_48 : decode cX4_init 48 = .ok (.aload_n 0, 1) := dk_42 (dk_at dksX4_init_2 3 rfl rfl)
theorem dX4_init_49 : decode cX4_init 49 = .ok (.bipush 16, 2) := dk_16 16 (dk_at dksX4_init_2 4 rfl rfl)
theorem dX4_init_51 : decode cX4_init 51 = .ok (.newarray .int, 2) := dk_188_10 (dk_at dksX4_init_2 6 rfl rfl)
theorem dX4_init_53 : decode cX4_init 53 = .ok (.putfield 25, 3) := dk_181 0 25 (dk_at dksX4_init_2 8 rfl rfl)
theorem dX4_init_56 : decode cX4_init 56 = .ok (.aload_n 0, 1) := dk_42 (dk_at dksX4_init_2 11 rfl rfl)
theorem dX4_init_57 : decode cX4_init 57 = .ok (.bipush 16, 2) := dk_16 16 (dk_at dksX4_init_2 12 rfl rfl)
theorem dX4_init_59 : decode cX4_init 59 = .ok (.newarray .int, 2) := dk_188_10 (dk_at dksX4_init_2 14 rfl rfl)
theorem dX4_init_61 : decode cX4_init 61 = .ok (.putfield 28, 3) := dk_181 0 28 (dk_at dksX4_init_2 16 rfl rfl)
theorem dX4_init_64 : decode cX4_init 64 = .ok (.aload_n 0, 1) := dk_42 (dk_at dksX4_init_2 19 rfl rfl)
theorem dX4_init_65 : decode cX4_init 65 = .ok (.bipush 16, 2) := dk_16 16 (dk_at dksX4_init_2 20 rfl rfl)
theorem dX4_init_67 : decode cX4_init 67 = .ok (.newarray .int, 2) := dk_188_10 (dk_at dksX4_init_2 22 rfl rfl)
theorem dX4_init_69 : decode cX4_init 69 = .ok (.putfield 31, 3) := dk_181 0 31 (dk_at dksX4_init_3 0 rfl rfl)
theorem dX4_init_72 : decode cX4_init 72 = .ok (.aload_n 0, 1) := dk_42 (dk_at dksX4_init_3 3 rfl rfl)
theorem dX4_init_73 : decode cX4_init 73 = .ok (.bipush 60, 2) := dk_16 60 (dk_at dksX4_init_3 4 rfl rfl)
theorem dX4_init_75 : decode cX4_init 75 = .ok (.newarray .int, 2) := dk_188_10 (dk_at dksX4_init_3 6 rfl rfl)
theorem dX4_init_77 : decode cX4_init 77 = .ok (.putfield 34, 3) := dk_181 0 34 (dk_at dksX4_init_3 8 rfl rfl)
theorem dX4_init_80 : decode cX4_init 80 = .ok (.aload_n 0, 1) := dk_42 (dk_at dksX4_init_3 11 rfl rfl)
theorem dX4_init_81 : decode cX4_init 81 = .ok (.getfield 7, 3) := dk_180 0 7 (dk_at dksX4_init_3 12 rfl rfl)
theorem dX4_init_84 : decode cX4_init 84 = .ok (.iconst 5, 1) := dk_8 (dk_at dksX4_init_3 15 rfl rfl)
theorem dX4_init_85 : decode cX4_init 85 = .ok (.iconst (-1), 1) := dk_2 (dk_at dksX4_init_3 16 rfl rfl)
theorem dX4_init_86 : decode cX4_init 86 = .ok (.iastore, 1) := dk_79 (dk_at dksX4_init_3 17 rfl rfl)
theorem dX4_init_87 : decode cX4_init 87 = .ok (.aload_n 0, 1) := dk_42 (dk_at dksX4_init_3 18 rfl rfl)
theorem dX4_init_88 : decode cX4_init 88 = .ok (.getfield 7, 3) := dk_180 0 7 (dk_at dksX4_init_3 19 rfl rfl)
theorem dX4_init_91 : decode cX4_init 91 = .ok (.bipush 8, 2) := dk_16 8 (dk_at dksX4_init_3 22 rfl rfl)
theorem dX4_init_93 : decode cX4_init 93 = .ok (.iconst (-1), 1) := dk_2 (dk_at dksX4_init_4 0 rfl rfl)
theorem dX4_init_94 : decode cX4_init 94 = .ok (.iastore, 1) := dk_79 (dk_at dksX4_init_4 1 rfl rfl)
theorem dX4_init_95 : decode cX4_init 95 = .ok (.aload_n 0, 1) := dk_42 (dk_at dksX4_init_4 2 rfl rfl)
theorem dX4_init_96 : decode cX4_init 96 = .ok (.getfield 7, 3) := dk_180 0 7 (dk_at dksX4_init_4 3 rfl rfl)
theorem dX4_init_99 : decode cX4_init 99 = .ok (.bipush 9, 2) := dk_16 9 (dk_at dksX4_init_4 6 rfl rfl)
theorem dX4_init_101 : decode cX4_init 101 = .ok (.iconst (-1), 1) := dk_2 (dk_at dksX4_init_4 8 rfl rfl)
theorem dX4_init_102 : decode cX4_init 102 = .ok (.iastore, 1) := dk_79 (dk_at dksX4_init_4 9 rfl rfl)
theorem dX4_init_103 : decode cX4_init 103 = .ok (.return_, 1) := dk_177 (dk_at dksX4_init_4 10 rfl rfl)
abbrev cX4_thrown : ByteArray := prog_17_method_2_code
def yX4_thrown : MethodName := ⟨RX4, "thrown", "()I"⟩
theorem dX4_thrown_0 : decode cX4_thrown 0 = .ok (.aload_n 0, 1) := by decide +kernel
theorem dX4_thrown_1 : decode cX4_thrown 1 = .ok (.getfield 37, 3) := by decide +kernel
theorem dX4_thrown_4 : decode cX4_thrown 4 = .ok (.ireturn, 1) := by decide +kernel
abbrev cX4_put : ByteArray := prog_17_method_20_code
def yX4_put : MethodName := ⟨RX4, "put", "(I)I"⟩
def dkwX4_put_2 : List UInt8 := [182, 0, 74, 172]
abbrev dktX4_put_2 : List UInt8 := dkwX4_put_2 ++ []
def dkwX4_put_1 : List UInt8 := [167, 0, 4, 5, 181, 0, 37, 42, 180, 0, 37, 158, 0, 5, 3, 172, 42, 182, 0, 71, 42, 27]
abbrev dktX4_put_1 : List UInt8 := dkwX4_put_1 ++ dktX4_put_2
def dkwX4_put_0 : List UInt8 := [42, 27, 3, 8, 184, 0, 44, 154, 0, 7, 4, 167, 0, 15, 42, 182, 0, 67, 153, 0, 7, 3]
abbrev dktX4_put_0 : List UInt8 := dkwX4_put_0 ++ dktX4_put_1
theorem dksX4_put_0 : cX4_put.data.toList.drop 0 = dktX4_put_0 := by decide +kernel
theorem dksX4_put_1 : cX4_put.data.toList.drop 22 = dktX4_put_1 := dk_seg dksX4_put_0 22 rfl rfl
theorem dksX4_put_2 : cX4_put.data.toList.drop 44 = dktX4_put_2 := dk_seg dksX4_put_1 22 rfl rfl
theorem dX4_put_0 : decode cX4_put 0 = .ok (.aload_n 0, 1) := dk_42 (dk_at dksX4_put_0 0 rfl rfl)
theorem dX4_put_1 : decode cX4_put 1 = .ok (.iload_n 1, 1) := dk_27 (dk_at dksX4_put_0 1 rfl rfl)
theorem dX4_put_2 : decode cX4_put 2 = .ok (.iconst 0, 1) := dk_3 (dk_at dksX4_put_0 2 rfl rfl)
theorem dX4_put_3 : decode cX4_put 3 = .ok (.iconst 5, 1) := dk_8 (dk_at dksX4_put_0 3 rfl rfl)
theorem dX4_put_4 : decode cX4_put 4 = .ok (.invokestatic 44, 3) := dk_184 0 44 (dk_at dksX4_put_0 4 rfl rfl)
theorem dX4_put_7 : decode cX4_put 7 = .ok (.ifCond .ne 7, 3) := dk_154 0 7 (dk_at dksX4_put_0 7 rfl rfl)
theorem dX4_put_10 : decode cX4_put 10 = .ok (.iconst 1, 1) := dk_4 (dk_at dksX4_put_0 10 rfl rfl)
theorem dX4_put_11 : decode cX4_put 11 = .ok (.goto 15, 3) := dk_167 0 15 (dk_at dksX4_put_0 11 rfl rfl)
theorem dX4_put_14 : decode cX4_put 14 = .ok (.aload_n 0, 1) := dk_42 (dk_at dksX4_put_0 14 rfl rfl)
theorem dX4_put_15 : decode cX4_put 15 = .ok (.invokevirtual 67, 3) := dk_182 0 67 (dk_at dksX4_put_0 15 rfl rfl)
theorem dX4_put_18 : decode cX4_put 18 = .ok (.ifCond .eq 7, 3) := dk_153 0 7 (dk_at dksX4_put_0 18 rfl rfl)
theorem dX4_put_21 : decode cX4_put 21 = .ok (.iconst 0, 1) := dk_3 (dk_at dksX4_put_0 21 rfl rfl)
theorem dX4_put_22 : decode cX4_put 22 = .ok (.goto 4, 3) := dk_167 0 4 (dk_at dksX4_put_1 0 rfl rfl)
theorem dX4_put_25 : decode cX4_put 25 = .ok (.iconst 2, 1) := dk_5 (dk_at dksX4_put_1 3 rfl rfl)
theorem dX4_put_26 : decode cX4_put 26 = .ok (.putfield 37, 3) := dk_181 0 37 (dk_at dksX4_put_1 4 rfl rfl)
theorem dX4_put_29 : decode cX4_put 29 = .ok (.aload_n 0, 1) := dk_42 (dk_at dksX4_put_1 7 rfl rfl)
theorem dX4_put_30 : decode cX4_put 30 = .ok (.getfield 37, 3) := dk_180 0 37 (dk_at dksX4_put_1 8 rfl rfl)
theorem dX4_put_33 : decode cX4_put 33 = .ok (.ifCond .le 5, 3) := dk_158 0 5 (dk_at dksX4_put_1 11 rfl rfl)
theorem dX4_put_36 : decode cX4_put 36 = .ok (.iconst 0, 1) := dk_3 (dk_at dksX4_put_1 14 rfl rfl)
theorem dX4_put_37 : decode cX4_put 37 = .ok (.ireturn, 1) := dk_172 (dk_at dksX4_put_1 15 rfl rfl)
theorem dX4_put_38 : decode cX4_put 38 = .ok (.aload_n 0, 1) := dk_42 (dk_at dksX4_put_1 16 rfl rfl)
theorem dX4_put_39 : decode cX4_put 39 = .ok (.invokevirtual 71, 3) := dk_182 0 71 (dk_at dksX4_put_1 17 rfl rfl)
theorem dX4_put_42 : decode cX4_put 42 = .ok (.aload_n 0, 1) := dk_42 (dk_at dksX4_put_1 20 rfl rfl)
theorem dX4_put_43 : decode cX4_put 43 = .ok (.iload_n 1, 1) := dk_27 (dk_at dksX4_put_1 21 rfl rfl)
theorem dX4_put_44 : decode cX4_put 44 = .ok (.invokevirtual 74, 3) := dk_182 0 74 (dk_at dksX4_put_2 0 rfl rfl)
theorem dX4_put_47 : decode cX4_put 47 = .ok (.ireturn, 1) := dk_172 (dk_at dksX4_put_2 3 rfl rfl)
abbrev cX4_within : ByteArray := prog_17_method_3_code
def yX4_within : MethodName := ⟨RX4, "within", "(III)Z"⟩
def dkwX4_within_0 : List UInt8 := [26, 27, 161, 0, 12, 26, 28, 163, 0, 7, 4, 167, 0, 4, 3, 172]
abbrev dktX4_within_0 : List UInt8 := dkwX4_within_0 ++ []
theorem dksX4_within_0 : cX4_within.data.toList.drop 0 = dktX4_within_0 := by decide +kernel
theorem dX4_within_0 : decode cX4_within 0 = .ok (.iload_n 0, 1) := dk_26 (dk_at dksX4_within_0 0 rfl rfl)
theorem dX4_within_1 : decode cX4_within 1 = .ok (.iload_n 1, 1) := dk_27 (dk_at dksX4_within_0 1 rfl rfl)
theorem dX4_within_2 : decode cX4_within 2 = .ok (.if_icmp .lt 12, 3) := dk_161 0 12 (dk_at dksX4_within_0 2 rfl rfl)
theorem dX4_within_5 : decode cX4_within 5 = .ok (.iload_n 0, 1) := dk_26 (dk_at dksX4_within_0 5 rfl rfl)
theorem dX4_within_6 : decode cX4_within 6 = .ok (.iload_n 2, 1) := dk_28 (dk_at dksX4_within_0 6 rfl rfl)
theorem dX4_within_7 : decode cX4_within 7 = .ok (.if_icmp .gt 7, 3) := dk_163 0 7 (dk_at dksX4_within_0 7 rfl rfl)
theorem dX4_within_10 : decode cX4_within 10 = .ok (.iconst 1, 1) := dk_4 (dk_at dksX4_within_0 10 rfl rfl)
theorem dX4_within_11 : decode cX4_within 11 = .ok (.goto 4, 3) := dk_167 0 4 (dk_at dksX4_within_0 11 rfl rfl)
theorem dX4_within_14 : decode cX4_within 14 = .ok (.iconst 0, 1) := dk_3 (dk_at dksX4_within_0 14 rfl rfl)
theorem dX4_within_15 : decode cX4_within 15 = .ok (.ireturn, 1) := dk_172 (dk_at dksX4_within_0 15 rfl rfl)
abbrev cX4_canPut : ByteArray := prog_17_method_18_code
def yX4_canPut : MethodName := ⟨RX4, "canPut", "()Z"⟩
def dkwX4_canPut_0 : List UInt8 := [42, 180, 0, 7, 3, 46, 16, 16, 162, 0, 7, 4, 167, 0, 4, 3, 172]
abbrev dktX4_canPut_0 : List UInt8 := dkwX4_canPut_0 ++ []
theorem dksX4_canPut_0 : cX4_canPut.data.toList.drop 0 = dktX4_canPut_0 := by decide +kernel
theorem dX4_canPut_0 : decode cX4_canPut 0 = .ok (.aload_n 0, 1) := dk_42 (dk_at dksX4_canPut_0 0 rfl rfl)
theorem dX4_canPut_1 : decode cX4_canPut 1 = .ok (.getfield 7, 3) := dk_180 0 7 (dk_at dksX4_canPut_0 1 rfl rfl)
theorem dX4_canPut_4 : decode cX4_canPut 4 = .ok (.iconst 0, 1) := dk_3 (dk_at dksX4_canPut_0 4 rfl rfl)
theorem dX4_canPut_5 : decode cX4_canPut 5 = .ok (.iaload, 1) := dk_46 (dk_at dksX4_canPut_0 5 rfl rfl)
theorem dX4_canPut_6 : decode cX4_canPut 6 = .ok (.bipush 16, 2) := dk_16 16 (dk_at dksX4_canPut_0 6 rfl rfl)
theorem dX4_canPut_8 : decode cX4_canPut 8 = .ok (.if_icmp .ge 7, 3) := dk_162 0 7 (dk_at dksX4_canPut_0 8 rfl rfl)
theorem dX4_canPut_11 : decode cX4_canPut 11 = .ok (.iconst 1, 1) := dk_4 (dk_at dksX4_canPut_0 11 rfl rfl)
theorem dX4_canPut_12 : decode cX4_canPut 12 = .ok (.goto 4, 3) := dk_167 0 4 (dk_at dksX4_canPut_0 12 rfl rfl)
theorem dX4_canPut_15 : decode cX4_canPut 15 = .ok (.iconst 0, 1) := dk_3 (dk_at dksX4_canPut_0 15 rfl rfl)
theorem dX4_canPut_16 : decode cX4_canPut 16 = .ok (.ireturn, 1) := dk_172 (dk_at dksX4_canPut_0 16 rfl rfl)
abbrev cX4_saves : ByteArray := prog_17_method_7_code
def yX4_saves : MethodName := ⟨RX4, "saves", "()V"⟩
def dkwX4_saves_4 : List UInt8 := [181, 0, 41, 177]
abbrev dktX4_saves_4 : List UInt8 := dkwX4_saves_4 ++ []
def dkwX4_saves_3 : List UInt8 := [27, 96, 42, 180, 0, 7, 27, 46, 79, 132, 1, 1, 167, 255, 225, 42, 89, 180, 0, 41, 4, 96]
abbrev dktX4_saves_3 : List UInt8 := dkwX4_saves_3 ++ dktX4_saves_4
def dkwX4_saves_2 : List UInt8 := [181, 0, 41, 3, 60, 27, 17, 0, 242, 162, 0, 30, 42, 180, 0, 13, 42, 180, 0, 41, 17, 0, 242, 104]
abbrev dktX4_saves_2 : List UInt8 := dkwX4_saves_2 ++ dktX4_saves_3
def dkwX4_saves_1 : List UInt8 := [180, 0, 13, 27, 17, 0, 242, 96, 46, 79, 132, 1, 1, 167, 255, 230, 42, 89, 180, 0, 41, 4, 100]
abbrev dktX4_saves_1 : List UInt8 := dkwX4_saves_1 ++ dktX4_saves_2
def dkwX4_saves_0 : List UInt8 := [42, 180, 0, 41, 16, 6, 160, 0, 44, 3, 60, 27, 17, 4, 186, 162, 0, 25, 42, 180, 0, 13, 27, 42]
abbrev dktX4_saves_0 : List UInt8 := dkwX4_saves_0 ++ dktX4_saves_1
theorem dksX4_saves_0 : cX4_saves.data.toList.drop 0 = dktX4_saves_0 := by decide +kernel
theorem dksX4_saves_1 : cX4_saves.data.toList.drop 24 = dktX4_saves_1 := dk_seg dksX4_saves_0 24 rfl rfl
theorem dksX4_saves_2 : cX4_saves.data.toList.drop 47 = dktX4_saves_2 := dk_seg dksX4_saves_1 23 rfl rfl
theorem dksX4_saves_3 : cX4_saves.data.toList.drop 71 = dktX4_saves_3 := dk_seg dksX4_saves_2 24 rfl rfl
theorem dksX4_saves_4 : cX4_saves.data.toList.drop 93 = dktX4_saves_4 := dk_seg dksX4_saves_3 22 rfl rfl
theorem dX4_saves_0 : decode cX4_saves 0 = .ok (.aload_n 0, 1) := dk_42 (dk_at dksX4_saves_0 0 rfl rfl)
theorem dX4_saves_1 : decode cX4_saves 1 = .ok (.getfield 41, 3) := dk_180 0 41 (dk_at dksX4_saves_0 1 rfl rfl)
theorem dX4_saves_4 : decode cX4_saves 4 = .ok (.bipush 6, 2) := dk_16 6 (dk_at dksX4_saves_0 4 rfl rfl)
theorem dX4_saves_6 : decode cX4_saves 6 = .ok (.if_icmp .ne 44, 3) := dk_160 0 44 (dk_at dksX4_saves_0 6 rfl rfl)
theorem dX4_saves_9 : decode cX4_saves 9 = .ok (.iconst 0, 1) := dk_3 (dk_at dksX4_saves_0 9 rfl rfl)
theorem dX4_saves_10 : decode cX4_saves 10 = .ok (.istore_n 1, 1) := dk_60 (dk_at dksX4_saves_0 10 rfl rfl)
theorem dX4_saves_11 : decode cX4_saves 11 = .ok (.iload_n 1, 1) := dk_27 (dk_at dksX4_saves_0 11 rfl rfl)
theorem dX4_saves_12 : decode cX4_saves 12 = .ok (.sipush 1210, 3) := dk_17 4 186 (dk_at dksX4_saves_0 12 rfl rfl)
theorem dX4_saves_15 : decode cX4_saves 15 = .ok (.if_icmp .ge 25, 3) := dk_162 0 25 (dk_at dksX4_saves_0 15 rfl rfl)
theorem dX4_saves_18 : decode cX4_saves 18 = .ok (.aload_n 0, 1) := dk_42 (dk_at dksX4_saves_0 18 rfl rfl)
theorem dX4_saves_19 : decode cX4_saves 19 = .ok (.getfield 13, 3) := dk_180 0 13 (dk_at dksX4_saves_0 19 rfl rfl)
theorem dX4_saves_22 : decode cX4_saves 22 = .ok (.iload_n 1, 1) := dk_27 (dk_at dksX4_saves_0 22 rfl rfl)
theorem dX4_saves_23 : decode cX4_saves 23 = .ok (.aload_n 0, 1) := dk_42 (dk_at dksX4_saves_0 23 rfl rfl)
theorem dX4_saves_24 : decode cX4_saves 24 = .ok (.getfield 13, 3) := dk_180 0 13 (dk_at dksX4_saves_1 0 rfl rfl)
theorem dX4_saves_27 : decode cX4_saves 27 = .ok (.iload_n 1, 1) := dk_27 (dk_at dksX4_saves_1 3 rfl rfl)
theorem dX4_saves_28 : decode cX4_saves 28 = .ok (.sipush 242, 3) := dk_17 0 242 (dk_at dksX4_saves_1 4 rfl rfl)
theorem dX4_saves_31 : decode cX4_saves 31 = .ok (.iadd, 1) := dk_96 (dk_at dksX4_saves_1 7 rfl rfl)
theorem dX4_saves_32 : decode cX4_saves 32 = .ok (.iaload, 1) := dk_46 (dk_at dksX4_saves_1 8 rfl rfl)
theorem dX4_saves_33 : decode cX4_saves 33 = .ok (.iastore, 1) := dk_79 (dk_at dksX4_saves_1 9 rfl rfl)
theorem dX4_saves_34 : decode cX4_saves 34 = .ok (.iinc 1 1, 3) := dk_132 1 1 (dk_at dksX4_saves_1 10 rfl rfl)
theorem dX4_saves_37 : decode cX4_saves 37 = .ok (.goto (-26), 3) := dk_167 255 230 (dk_at dksX4_saves_1 13 rfl rfl)
theorem dX4_saves_40 : decode cX4_saves 40 = .ok (.aload_n 0, 1) := dk_42 (dk_at dksX4_saves_1 16 rfl rfl)
theorem dX4_saves_41 : decode cX4_saves 41 = .ok (.dup, 1) := dk_89 (dk_at dksX4_saves_1 17 rfl rfl)
theorem dX4_saves_42 : decode cX4_saves 42 = .ok (.getfield 41, 3) := dk_180 0 41 (dk_at dksX4_saves_1 18 rfl rfl)
theorem dX4_saves_45 : decode cX4_saves 45 = .ok (.iconst 1, 1) := dk_4 (dk_at dksX4_saves_1 21 rfl rfl)
theorem dX4_saves_46 : decode cX4_saves 46 = .ok (.isub, 1) := dk_100 (dk_at dksX4_saves_1 22 rfl rfl)
theorem dX4_saves_47 : decode cX4_saves 47 = .ok (.putfield 41, 3) := dk_181 0 41 (dk_at dksX4_saves_2 0 rfl rfl)
theorem dX4_saves_50 : decode cX4_saves 50 = .ok (.iconst 0, 1) := dk_3 (dk_at dksX4_saves_2 3 rfl rfl)
theorem dX4_saves_51 : decode cX4_saves 51 = .ok (.istore_n 1, 1) := dk_60 (dk_at dksX4_saves_2 4 rfl rfl)
theorem dX4_saves_52 : decode cX4_saves 52 = .ok (.iload_n 1, 1) := dk_27 (dk_at dksX4_saves_2 5 rfl rfl)
theorem dX4_saves_53 : decode cX4_saves 53 = .ok (.sipush 242, 3) := dk_17 0 242 (dk_at dksX4_saves_2 6 rfl rfl)
theorem dX4_saves_56 : decode cX4_saves 56 = .ok (.if_icmp .ge 30, 3) := dk_162 0 30 (dk_at dksX4_saves_2 9 rfl rfl)
theorem dX4_saves_59 : decode cX4_saves 59 = .ok (.aload_n 0, 1) := dk_42 (dk_at dksX4_saves_2 12 rfl rfl)
theorem dX4_saves_60 : decode cX4_saves 60 = .ok (.getfield 13, 3) := dk_180 0 13 (dk_at dksX4_saves_2 13 rfl rfl)
theorem dX4_saves_63 : decode cX4_saves 63 = .ok (.aload_n 0, 1) := dk_42 (dk_at dksX4_saves_2 16 rfl rfl)
theorem dX4_saves_64 : decode cX4_saves 64 = .ok (.getfield 41, 3) := dk_180 0 41 (dk_at dksX4_saves_2 17 rfl rfl)
theorem dX4_saves_67 : decode cX4_saves 67 = .ok (.sipush 242, 3) := dk_17 0 242 (dk_at dksX4_saves_2 20 rfl rfl)
theorem dX4_saves_70 : decode cX4_saves 70 = .ok (.imul, 1) := dk_104 (dk_at dksX4_saves_2 23 rfl rfl)
theorem dX4_saves_71 : decode cX4_saves 71 = .ok (.iload_n 1, 1) := dk_27 (dk_at dksX4_saves_3 0 rfl rfl)
theorem dX4_saves_72 : decode cX4_saves 72 = .ok (.iadd, 1) := dk_96 (dk_at dksX4_saves_3 1 rfl rfl)
theorem dX4_saves_73 : decode cX4_saves 73 = .ok (.aload_n 0, 1) := dk_42 (dk_at dksX4_saves_3 2 rfl rfl)
theorem dX4_saves_74 : decode cX4_saves 74 = .ok (.getfield 7, 3) := dk_180 0 7 (dk_at dksX4_saves_3 3 rfl rfl)
theorem dX4_saves_77 : decode cX4_saves 77 = .ok (.iload_n 1, 1) := dk_27 (dk_at dksX4_saves_3 6 rfl rfl)
theorem dX4_saves_78 : decode cX4_saves 78 = .ok (.iaload, 1) := dk_46 (dk_at dksX4_saves_3 7 rfl rfl)
theorem dX4_saves_79 : decode cX4_saves 79 = .ok (.iastore, 1) := dk_79 (dk_at dksX4_saves_3 8 rfl rfl)
theorem dX4_saves_80 : decode cX4_saves 80 = .ok (.iinc 1 1, 3) := dk_132 1 1 (dk_at dksX4_saves_3 9 rfl rfl)
theorem dX4_saves_83 : decode cX4_saves 83 = .ok (.goto (-31), 3) := dk_167 255 225 (dk_at dksX4_saves_3 12 rfl rfl)
theorem dX4_saves_86 : decode cX4_saves 86 = .ok (.aload_n 0, 1) := dk_42 (dk_at dksX4_saves_3 15 rfl rfl)
theorem dX4_saves_87 : decode cX4_saves 87 = .ok (.dup, 1) := dk_89 (dk_at dksX4_saves_3 16 rfl rfl)
theorem dX4_saves_88 : decode cX4_saves 88 = .ok (.getfield 41, 3) := dk_180 0 41 (dk_at dksX4_saves_3 17 rfl rfl)
theorem dX4_saves_91 : decode cX4_saves 91 = .ok (.iconst 1, 1) := dk_4 (dk_at dksX4_saves_3 20 rfl rfl)
theorem dX4_saves_92 : decode cX4_saves 92 = .ok (.iadd, 1) := dk_96 (dk_at dksX4_saves_3 21 rfl rfl)
theorem dX4_saves_93 : decode cX4_saves 93 = .ok (.putfield 41, 3) := dk_181 0 41 (dk_at dksX4_saves_4 0 rfl rfl)
theorem dX4_saves_96 : decode cX4_saves 96 = .ok (.return_, 1) := dk_177 (dk_at dksX4_saves_4 3 rfl rfl)
abbrev cX4_putsUp : ByteArray := prog_17_method_19_code
def yX4_putsUp : MethodName := ⟨RX4, "putsUp", "(I)I"⟩
def dkwX4_putsUp_4 : List UInt8 := [16, 9, 29, 96, 4, 182, 0, 63, 132, 3, 1, 167, 255, 229, 28, 172]
abbrev dktX4_putsUp_4 : List UInt8 := dkwX4_putsUp_4 ++ []
def dkwX4_putsUp_3 : List UInt8 := [7, 3, 182, 0, 63, 3, 62, 29, 7, 162, 0, 28, 42, 28, 8, 29, 96, 2, 182, 0, 63, 42, 28]
abbrev dktX4_putsUp_3 : List UInt8 := dkwX4_putsUp_3 ++ dktX4_putsUp_4
def dkwX4_putsUp_2 : List UInt8 := [167, 0, 4, 3, 182, 0, 63, 42, 28, 5, 16, 100, 182, 0, 63, 42, 28, 6, 3, 182, 0, 63, 42, 28]
abbrev dktX4_putsUp_2 : List UInt8 := dkwX4_putsUp_2 ++ dktX4_putsUp_3
def dkwX4_putsUp_1 : List UInt8 := [42, 28, 4, 27, 8, 160, 0, 9, 17, 39, 16, 167, 0, 15, 27, 5, 160, 0, 9, 17, 1, 244]
abbrev dktX4_putsUp_1 : List UInt8 := dkwX4_putsUp_1 ++ dktX4_putsUp_2
def dkwX4_putsUp_0 : List UInt8 := [42, 180, 0, 7, 3, 46, 61, 42, 180, 0, 7, 3, 92, 46, 4, 96, 79, 42, 28, 3, 27, 182, 0, 63]
abbrev dktX4_putsUp_0 : List UInt8 := dkwX4_putsUp_0 ++ dktX4_putsUp_1
theorem dksX4_putsUp_0 : cX4_putsUp.data.toList.drop 0 = dktX4_putsUp_0 := by decide +kernel
theorem dksX4_putsUp_1 : cX4_putsUp.data.toList.drop 24 = dktX4_putsUp_1 := dk_seg dksX4_putsUp_0 24 rfl rfl
theorem dksX4_putsUp_2 : cX4_putsUp.data.toList.drop 46 = dktX4_putsUp_2 := dk_seg dksX4_putsUp_1 22 rfl rfl
theorem dksX4_putsUp_3 : cX4_putsUp.data.toList.drop 70 = dktX4_putsUp_3 := dk_seg dksX4_putsUp_2 24 rfl rfl
theorem dksX4_putsUp_4 : cX4_putsUp.data.toList.drop 93 = dktX4_putsUp_4 := dk_seg dksX4_putsUp_3 23 rfl rfl
theorem dX4_putsUp_0 : decode cX4_putsUp 0 = .ok (.aload_n 0, 1) := dk_42 (dk_at dksX4_putsUp_0 0 rfl rfl)
theorem dX4_putsUp_1 : decode cX4_putsUp 1 = .ok (.getfield 7, 3) := dk_180 0 7 (dk_at dksX4_putsUp_0 1 rfl rfl)
theorem dX4_putsUp_4 : decode cX4_putsUp 4 = .ok (.iconst 0, 1) := dk_3 (dk_at dksX4_putsUp_0 4 rfl rfl)
theorem dX4_putsUp_5 : decode cX4_putsUp 5 = .ok (.iaload, 1) := dk_46 (dk_at dksX4_putsUp_0 5 rfl rfl)
theorem dX4_putsUp_6 : decode cX4_putsUp 6 = .ok (.istore_n 2, 1) := dk_61 (dk_at dksX4_putsUp_0 6 rfl rfl)
theorem dX4_putsUp_7 : decode cX4_putsUp 7 = .ok (.aload_n 0, 1) := dk_42 (dk_at dksX4_putsUp_0 7 rfl rfl)
theorem dX4_putsUp_8 : decode cX4_putsUp 8 = .ok (.getfield 7, 3) := dk_180 0 7 (dk_at dksX4_putsUp_0 8 rfl rfl)
theorem dX4_putsUp_11 : decode cX4_putsUp 11 = .ok (.iconst 0, 1) := dk_3 (dk_at dksX4_putsUp_0 11 rfl rfl)
theorem dX4_putsUp_12 : decode cX4_putsUp 12 = .ok (.dup2, 1) := dk_92 (dk_at dksX4_putsUp_0 12 rfl rfl)
theorem dX4_putsUp_13 : decode cX4_putsUp 13 = .ok (.iaload, 1) := dk_46 (dk_at dksX4_putsUp_0 13 rfl rfl)
theorem dX4_putsUp_14 : decode cX4_putsUp 14 = .ok (.iconst 1, 1) := dk_4 (dk_at dksX4_putsUp_0 14 rfl rfl)
theorem dX4_putsUp_15 : decode cX4_putsUp 15 = .ok (.iadd, 1) := dk_96 (dk_at dksX4_putsUp_0 15 rfl rfl)
theorem dX4_putsUp_16 : decode cX4_putsUp 16 = .ok (.iastore, 1) := dk_79 (dk_at dksX4_putsUp_0 16 rfl rfl)
theorem dX4_putsUp_17 : decode cX4_putsUp 17 = .ok (.aload_n 0, 1) := dk_42 (dk_at dksX4_putsUp_0 17 rfl rfl)
theorem dX4_putsUp_18 : decode cX4_putsUp 18 = .ok (.iload_n 2, 1) := dk_28 (dk_at dksX4_putsUp_0 18 rfl rfl)
theorem dX4_putsUp_19 : decode cX4_putsUp 19 = .ok (.iconst 0, 1) := dk_3 (dk_at dksX4_putsUp_0 19 rfl rfl)
theorem dX4_putsUp_20 : decode cX4_putsUp 20 = .ok (.iload_n 1, 1) := dk_27 (dk_at dksX4_putsUp_0 20 rfl rfl)
theorem dX4_putsUp_21 : decode cX4_putsUp 21 = .ok (.invokevirtual 63, 3) := dk_182 0 63 (dk_at dksX4_putsUp_0 21 rfl rfl)
theorem dX4_putsUp_24 : decode cX4_putsUp 24 = .ok (.aload_n 0, 1) := dk_42 (dk_at dksX4_putsUp_1 0 rfl rfl)
theorem dX4_putsUp_25 : decode cX4_putsUp 25 = .ok (.iload_n 2, 1) := dk_28 (dk_at dksX4_putsUp_1 1 rfl rfl)
theorem dX4_putsUp_26 : decode cX4_putsUp 26 = .ok (.iconst 1, 1) := dk_4 (dk_at dksX4_putsUp_1 2 rfl rfl)
theorem dX4_putsUp_27 : decode cX4_putsUp 27 = .ok (.iload_n 1, 1) := dk_27 (dk_at dksX4_putsUp_1 3 rfl rfl)
theorem dX4_putsUp_28 : decode cX4_putsUp 28 = .ok (.iconst 5, 1) := dk_8 (dk_at dksX4_putsUp_1 4 rfl rfl)
theorem dX4_putsUp_29 : decode cX4_putsUp 29 = .ok (.if_icmp .ne 9, 3) := dk_160 0 9 (dk_at dksX4_putsUp_1 5 rfl rfl)
theorem dX4_putsUp_32 : decode cX4_putsUp 32 = .ok (.sipush 10000, 3) := dk_17 39 16 (dk_at dksX4_putsUp_1 8 rfl rfl)
theorem dX4_putsUp_35 : decode cX4_putsUp 35 = .ok (.goto 15, 3) := dk_167 0 15 (dk_at dksX4_putsUp_1 11 rfl rfl)
theorem dX4_putsUp_38 : decode cX4_putsUp 38 = .ok (.iload_n 1, 1) := dk_27 (dk_at dksX4_putsUp_1 14 rfl rfl)
theorem dX4_putsUp_39 : decode cX4_putsUp 39 = .ok (.iconst 2, 1) := dk_5 (dk_at dksX4_putsUp_1 15 rfl rfl)
theorem dX4_putsUp_40 : decode cX4_putsUp 40 = .ok (.if_icmp .ne 9, 3) := dk_160 0 9 (dk_at dksX4_putsUp_1 16 rfl rfl)
theorem dX4_putsUp_43 : decode cX4_putsUp 43 = .ok (.sipush 500, 3) := dk_17 1 244 (dk_at dksX4_putsUp_1 19 rfl rfl)
theorem dX4_putsUp_46 : decode cX4_putsUp 46 = .ok (.goto 4, 3) := dk_167 0 4 (dk_at dksX4_putsUp_2 0 rfl rfl)
theorem dX4_putsUp_49 : decode cX4_putsUp 49 = .ok (.iconst 0, 1) := dk_3 (dk_at dksX4_putsUp_2 3 rfl rfl)
theorem dX4_putsUp_50 : decode cX4_putsUp 50 = .ok (.invokevirtual 63, 3) := dk_182 0 63 (dk_at dksX4_putsUp_2 4 rfl rfl)
theorem dX4_putsUp_53 : decode cX4_putsUp 53 = .ok (.aload_n 0, 1) := dk_42 (dk_at dksX4_putsUp_2 7 rfl rfl)
theorem dX4_putsUp_54 : decode cX4_putsUp 54 = .ok (.iload_n 2, 1) := dk_28 (dk_at dksX4_putsUp_2 8 rfl rfl)
theorem dX4_putsUp_55 : decode cX4_putsUp 55 = .ok (.iconst 2, 1) := dk_5 (dk_at dksX4_putsUp_2 9 rfl rfl)
theorem dX4_putsUp_56 : decode cX4_putsUp 56 = .ok (.bipush 100, 2) := dk_16 100 (dk_at dksX4_putsUp_2 10 rfl rfl)
theorem dX4_putsUp_58 : decode cX4_putsUp 58 = .ok (.invokevirtual 63, 3) := dk_182 0 63 (dk_at dksX4_putsUp_2 12 rfl rfl)
theorem dX4_putsUp_61 : decode cX4_putsUp 61 = .ok (.aload_n 0, 1) := dk_42 (dk_at dksX4_putsUp_2 15 rfl rfl)
theorem dX4_putsUp_62 : decode cX4_putsUp 62 = .ok (.iload_n 2, 1) := dk_28 (dk_at dksX4_putsUp_2 16 rfl rfl)
theorem dX4_putsUp_63 : decode cX4_putsUp 63 = .ok (.iconst 3, 1) := dk_6 (dk_at dksX4_putsUp_2 17 rfl rfl)
theorem dX4_putsUp_64 : decode cX4_putsUp 64 = .ok (.iconst 0, 1) := dk_3 (dk_at dksX4_putsUp_2 18 rfl rfl)
theorem dX4_putsUp_65 : decode cX4_putsUp 65 = .ok (.invokevirtual 63, 3) := dk_182 0 63 (dk_at dksX4_putsUp_2 19 rfl rfl)
theorem dX4_putsUp_68 : decode cX4_putsUp 68 = .ok (.aload_n 0, 1) := dk_42 (dk_at dksX4_putsUp_2 22 rfl rfl)
theorem dX4_putsUp_69 : decode cX4_putsUp 69 = .ok (.iload_n 2, 1) := dk_28 (dk_at dksX4_putsUp_2 23 rfl rfl)
theorem dX4_putsUp_70 : decode cX4_putsUp 70 = .ok (.iconst 4, 1) := dk_7 (dk_at dksX4_putsUp_3 0 rfl rfl)
theorem dX4_putsUp_71 : decode cX4_putsUp 71 = .ok (.iconst 0, 1) := dk_3 (dk_at dksX4_putsUp_3 1 rfl rfl)
theorem dX4_putsUp_72 : decode cX4_putsUp 72 = .ok (.invokevirtual 63, 3) := dk_182 0 63 (dk_at dksX4_putsUp_3 2 rfl rfl)
theorem dX4_putsUp_75 : decode cX4_putsUp 75 = .ok (.iconst 0, 1) := dk_3 (dk_at dksX4_putsUp_3 5 rfl rfl)
theorem dX4_putsUp_76 : decode cX4_putsUp 76 = .ok (.istore_n 3, 1) := dk_62 (dk_at dksX4_putsUp_3 6 rfl rfl)
theorem dX4_putsUp_77 : decode cX4_putsUp 77 = .ok (.iload_n 3, 1) := dk_29 (dk_at dksX4_putsUp_3 7 rfl rfl)
theorem dX4_putsUp_78 : decode cX4_putsUp 78 = .ok (.iconst 4, 1) := dk_7 (dk_at dksX4_putsUp_3 8 rfl rfl)
theorem dX4_putsUp_79 : decode cX4_putsUp 79 = .ok (.if_icmp .ge 28, 3) := dk_162 0 28 (dk_at dksX4_putsUp_3 9 rfl rfl)
theorem dX4_putsUp_82 : decode cX4_putsUp 82 = .ok (.aload_n 0, 1) := dk_42 (dk_at dksX4_putsUp_3 12 rfl rfl)
theorem dX4_putsUp_83 : decode cX4_putsUp 83 = .ok (.iload_n 2, 1) := dk_28 (dk_at dksX4_putsUp_3 13 rfl rfl)
theorem dX4_putsUp_84 : decode cX4_putsUp 84 = .ok (.iconst 5, 1) := dk_8 (dk_at dksX4_putsUp_3 14 rfl rfl)
theorem dX4_putsUp_85 : decode cX4_putsUp 85 = .ok (.iload_n 3, 1) := dk_29 (dk_at dksX4_putsUp_3 15 rfl rfl)
theorem dX4_putsUp_86 : decode cX4_putsUp 86 = .ok (.iadd, 1) := dk_96 (dk_at dksX4_putsUp_3 16 rfl rfl)
theorem dX4_putsUp_87 : decode cX4_putsUp 87 = .ok (.iconst (-1), 1) := dk_2 (dk_at dksX4_putsUp_3 17 rfl rfl)
theorem dX4_putsUp_88 : decode cX4_putsUp 88 = .ok (.invokevirtual 63, 3) := dk_182 0 63 (dk_at dksX4_putsUp_3 18 rfl rfl)
theorem dX4_putsUp_91 : decode cX4_putsUp 91 = .ok (.aload_n 0, 1) := dk_42 (dk_at dksX4_putsUp_3 21 rfl rfl)
theorem dX4_putsUp_92 : decode cX4_putsUp 92 = .ok (.iload_n 2, 1) := dk_28 (dk_at dksX4_putsUp_3 22 rfl rfl)
theorem dX4_putsUp_93 : decode cX4_putsUp 93 = .ok (.bipush 9, 2) := dk_16 9 (dk_at dksX4_putsUp_4 0 rfl rfl)
theorem dX4_putsUp_95 : decode cX4_putsUp 95 = .ok (.iload_n 3, 1) := dk_29 (dk_at dksX4_putsUp_4 2 rfl rfl)
theorem dX4_putsUp_96 : decode cX4_putsUp 96 = .ok (.iadd, 1) := dk_96 (dk_at dksX4_putsUp_4 3 rfl rfl)
theorem dX4_putsUp_97 : decode cX4_putsUp 97 = .ok (.iconst 1, 1) := dk_4 (dk_at dksX4_putsUp_4 4 rfl rfl)
theorem dX4_putsUp_98 : decode cX4_putsUp 98 = .ok (.invokevirtual 63, 3) := dk_182 0 63 (dk_at dksX4_putsUp_4 5 rfl rfl)
theorem dX4_putsUp_101 : decode cX4_putsUp 101 = .ok (.iinc 3 1, 3) := dk_132 3 1 (dk_at dksX4_putsUp_4 8 rfl rfl)
theorem dX4_putsUp_104 : decode cX4_putsUp 104 = .ok (.goto (-27), 3) := dk_167 255 229 (dk_at dksX4_putsUp_4 11 rfl rfl)
theorem dX4_putsUp_107 : decode cX4_putsUp 107 = .ok (.iload_n 2, 1) := dk_28 (dk_at dksX4_putsUp_4 14 rfl rfl)
theorem dX4_putsUp_108 : decode cX4_putsUp 108 = .ok (.ireturn, 1) := dk_172 (dk_at dksX4_putsUp_4 15 rfl rfl)
abbrev cX4_puts : ByteArray := prog_17_method_12_code
def yX4_puts : MethodName := ⟨RX4, "puts", "(III)V"⟩
def dkwX4_puts_0 : List UInt8 := [42, 180, 0, 7, 16, 34, 16, 13, 27, 104, 96, 28, 96, 29, 79, 177]
abbrev dktX4_puts_0 : List UInt8 := dkwX4_puts_0 ++ []
theorem dksX4_puts_0 : cX4_puts.data.toList.drop 0 = dktX4_puts_0 := by decide +kernel
theorem dX4_puts_0 : decode cX4_puts 0 = .ok (.aload_n 0, 1) := dk_42 (dk_at dksX4_puts_0 0 rfl rfl)
theorem dX4_puts_1 : decode cX4_puts 1 = .ok (.getfield 7, 3) := dk_180 0 7 (dk_at dksX4_puts_0 1 rfl rfl)
theorem dX4_puts_4 : decode cX4_puts 4 = .ok (.bipush 34, 2) := dk_16 34 (dk_at dksX4_puts_0 4 rfl rfl)
theorem dX4_puts_6 : decode cX4_puts 6 = .ok (.bipush 13, 2) := dk_16 13 (dk_at dksX4_puts_0 6 rfl rfl)
theorem dX4_puts_8 : decode cX4_puts 8 = .ok (.iload_n 1, 1) := dk_27 (dk_at dksX4_puts_0 8 rfl rfl)
theorem dX4_puts_9 : decode cX4_puts 9 = .ok (.imul, 1) := dk_104 (dk_at dksX4_puts_0 9 rfl rfl)
theorem dX4_puts_10 : decode cX4_puts 10 = .ok (.iadd, 1) := dk_96 (dk_at dksX4_puts_0 10 rfl rfl)
theorem dX4_puts_11 : decode cX4_puts 11 = .ok (.iload_n 2, 1) := dk_28 (dk_at dksX4_puts_0 11 rfl rfl)
theorem dX4_puts_12 : decode cX4_puts 12 = .ok (.iadd, 1) := dk_96 (dk_at dksX4_puts_0 12 rfl rfl)
theorem dX4_puts_13 : decode cX4_puts 13 = .ok (.iload_n 3, 1) := dk_29 (dk_at dksX4_puts_0 13 rfl rfl)
theorem dX4_puts_14 : decode cX4_puts 14 = .ok (.iastore, 1) := dk_79 (dk_at dksX4_puts_0 14 rfl rfl)
theorem dX4_puts_15 : decode cX4_puts 15 = .ok (.return_, 1) := dk_177 (dk_at dksX4_puts_0 15 rfl rfl)
abbrev cX4_turnWeight : ByteArray := prog_17_method_22_code
def yX4_turnWeight : MethodName := ⟨RX4, "turnWeight", "(II)I"⟩
def dkwX4_turnWeight_2 : List UInt8 := [28, 96, 182, 0, 48, 172]
abbrev dktX4_turnWeight_2 : List UInt8 := dkwX4_turnWeight_2 ++ []
def dkwX4_turnWeight_1 : List UInt8 := [27, 16, 9, 28, 96, 16, 11, 42, 27, 16, 9, 28, 96, 182, 0, 48, 100, 182, 0, 63, 42, 27, 16, 9]
abbrev dktX4_turnWeight_1 : List UInt8 := dkwX4_turnWeight_1 ++ dktX4_turnWeight_2
def dkwX4_turnWeight_0 : List UInt8 := [42, 42, 27, 28, 182, 0, 84, 181, 0, 37, 42, 180, 0, 37, 158, 0, 5, 3, 172, 42, 182, 0, 71, 42]
abbrev dktX4_turnWeight_0 : List UInt8 := dkwX4_turnWeight_0 ++ dktX4_turnWeight_1
theorem dksX4_turnWeight_0 : cX4_turnWeight.data.toList.drop 0 = dktX4_turnWeight_0 := by decide +kernel
theorem dksX4_turnWeight_1 : cX4_turnWeight.data.toList.drop 24 = dktX4_turnWeight_1 := dk_seg dksX4_turnWeight_0 24 rfl rfl
theorem dksX4_turnWeight_2 : cX4_turnWeight.data.toList.drop 48 = dktX4_turnWeight_2 := dk_seg dksX4_turnWeight_1 24 rfl rfl
theorem dX4_turnWeight_0 : decode cX4_turnWeight 0 = .ok (.aload_n 0, 1) := dk_42 (dk_at dksX4_turnWeight_0 0 rfl rfl)
theorem dX4_turnWeight_1 : decode cX4_turnWeight 1 = .ok (.aload_n 0, 1) := dk_42 (dk_at dksX4_turnWeight_0 1 rfl rfl)
theorem dX4_turnWeight_2 : decode cX4_turnWeight 2 = .ok (.iload_n 1, 1) := dk_27 (dk_at dksX4_turnWeight_0 2 rfl rfl)
theorem dX4_turnWeight_3 : decode cX4_turnWeight 3 = .ok (.iload_n 2, 1) := dk_28 (dk_at dksX4_turnWeight_0 3 rfl rfl)
theorem dX4_turnWeight_4 : decode cX4_turnWeight 4 = .ok (.invokevirtual 84, 3) := dk_182 0 84 (dk_at dksX4_turnWeight_0 4 rfl rfl)
theorem dX4_turnWeight_7 : decode cX4_turnWeight 7 = .ok (.putfield 37, 3) := dk_181 0 37 (dk_at dksX4_turnWeight_0 7 rfl rfl)
theorem dX4_turnWeight_10 : decode cX4_turnWeight 10 = .ok (.aload_n 0, 1) := dk_42 (dk_at dksX4_turnWeight_0 10 rfl rfl)
theorem dX4_turnWeight_11 : decode cX4_turnWeight 11 = .ok (.getfield 37, 3) := dk_180 0 37 (dk_at dksX4_turnWeight_0 11 rfl rfl)
theorem dX4_turnWeight_14 : decode cX4_turnWeight 14 = .ok (.ifCond .le 5, 3) := dk_158 0 5 (dk_at dksX4_turnWeight_0 14 rfl rfl)
theorem dX4_turnWeight_17 : decode cX4_turnWeight 17 = .ok (.iconst 0, 1) := dk_3 (dk_at dksX4_turnWeight_0 17 rfl rfl)
theorem dX4_turnWeight_18 : decode cX4_turnWeight 18 = .ok (.ireturn, 1) := dk_172 (dk_at dksX4_turnWeight_0 18 rfl rfl)
theorem dX4_turnWeight_19 : decode cX4_turnWeight 19 = .ok (.aload_n 0, 1) := dk_42 (dk_at dksX4_turnWeight_0 19 rfl rfl)
theorem dX4_turnWeight_20 : decode cX4_turnWeight 20 = .ok (.invokevirtual 71, 3) := dk_182 0 71 (dk_at dksX4_turnWeight_0 20 rfl rfl)
theorem dX4_turnWeight_23 : decode cX4_turnWeight 23 = .ok (.aload_n 0, 1) := dk_42 (dk_at dksX4_turnWeight_0 23 rfl rfl)
theorem dX4_turnWeight_24 : decode cX4_turnWeight 24 = .ok (.iload_n 1, 1) := dk_27 (dk_at dksX4_turnWeight_1 0 rfl rfl)
theorem dX4_turnWeight_25 : decode cX4_turnWeight 25 = .ok (.bipush 9, 2) := dk_16 9 (dk_at dksX4_turnWeight_1 1 rfl rfl)
theorem dX4_turnWeight_27 : decode cX4_turnWeight 27 = .ok (.iload_n 2, 1) := dk_28 (dk_at dksX4_turnWeight_1 3 rfl rfl)
theorem dX4_turnWeight_28 : decode cX4_turnWeight 28 = .ok (.iadd, 1) := dk_96 (dk_at dksX4_turnWeight_1 4 rfl rfl)
theorem dX4_turnWeight_29 : decode cX4_turnWeight 29 = .ok (.bipush 11, 2) := dk_16 11 (dk_at dksX4_turnWeight_1 5 rfl rfl)
theorem dX4_turnWeight_31 : decode cX4_turnWeight 31 = .ok (.aload_n 0, 1) := dk_42 (dk_at dksX4_turnWeight_1 7 rfl rfl)
theorem dX4_turnWeight_32 : decode cX4_turnWeight 32 = .ok (.iload_n 1, 1) := dk_27 (dk_at dksX4_turnWeight_1 8 rfl rfl)
theorem dX4_turnWeight_33 : decode cX4_turnWeight 33 = .ok (.bipush 9, 2) := dk_16 9 (dk_at dksX4_turnWeight_1 9 rfl rfl)
theorem dX4_turnWeight_35 : decode cX4_turnWeight 35 = .ok (.iload_n 2, 1) := dk_28 (dk_at dksX4_turnWeight_1 11 rfl rfl)
theorem dX4_turnWeight_36 : decode cX4_turnWeight 36 = .ok (.iadd, 1) := dk_96 (dk_at dksX4_turnWeight_1 12 rfl rfl)
theorem dX4_turnWeight_37 : decode cX4_turnWeight 37 = .ok (.invokevirtual 48, 3) := dk_182 0 48 (dk_at dksX4_turnWeight_1 13 rfl rfl)
theorem dX4_turnWeight_40 : decode cX4_turnWeight 40 = .ok (.isub, 1) := dk_100 (dk_at dksX4_turnWeight_1 16 rfl rfl)
theorem dX4_turnWeight_41 : decode cX4_turnWeight 41 = .ok (.invokevirtual 63, 3) := dk_182 0 63 (dk_at dksX4_turnWeight_1 17 rfl rfl)
theorem dX4_turnWeight_44 : decode cX4_turnWeight 44 = .ok (.aload_n 0, 1) := dk_42 (dk_at dksX4_turnWeight_1 20 rfl rfl)
theorem dX4_turnWeight_45 : decode cX4_turnWeight 45 = .ok (.iload_n 1, 1) := dk_27 (dk_at dksX4_turnWeight_1 21 rfl rfl)
theorem dX4_turnWeight_46 : decode cX4_turnWeight 46 = .ok (.bipush 9, 2) := dk_16 9 (dk_at dksX4_turnWeight_1 22 rfl rfl)
theorem dX4_turnWeight_48 : decode cX4_turnWeight 48 = .ok (.iload_n 2, 1) := dk_28 (dk_at dksX4_turnWeight_2 0 rfl rfl)
theorem dX4_turnWeight_49 : decode cX4_turnWeight 49 = .ok (.iadd, 1) := dk_96 (dk_at dksX4_turnWeight_2 1 rfl rfl)
theorem dX4_turnWeight_50 : decode cX4_turnWeight 50 = .ok (.invokevirtual 48, 3) := dk_182 0 48 (dk_at dksX4_turnWeight_2 2 rfl rfl)
theorem dX4_turnWeight_53 : decode cX4_turnWeight 53 = .ok (.ireturn, 1) := dk_172 (dk_at dksX4_turnWeight_2 5 rfl rfl)
abbrev cX4_whyNoWeight : ByteArray := prog_17_method_21_code
def yX4_whyNoWeight : MethodName := ⟨RX4, "whyNoWeight", "(II)I"⟩
def dkwX4_whyNoWeight_2 : List UInt8 := [172]
abbrev dktX4_whyNoWeight_2 : List UInt8 := dkwX4_whyNoWeight_2 ++ []
def dkwX4_whyNoWeight_1 : List UInt8 := [182, 0, 77, 153, 0, 7, 3, 167, 0, 17, 42, 27, 28, 182, 0, 80, 153, 0, 7, 5, 167, 0, 4, 4]
abbrev dktX4_whyNoWeight_1 : List UInt8 := dkwX4_whyNoWeight_1 ++ dktX4_whyNoWeight_2
def dkwX4_whyNoWeight_0 : List UInt8 := [42, 27, 182, 0, 52, 153, 0, 12, 28, 3, 6, 184, 0, 44, 154, 0, 7, 4, 167, 0, 29, 42, 27]
abbrev dktX4_whyNoWeight_0 : List UInt8 := dkwX4_whyNoWeight_0 ++ dktX4_whyNoWeight_1
theorem dksX4_whyNoWeight_0 : cX4_whyNoWeight.data.toList.drop 0 = dktX4_whyNoWeight_0 := by decide +kernel
theorem dksX4_whyNoWeight_1 : cX4_whyNoWeight.data.toList.drop 23 = dktX4_whyNoWeight_1 := dk_seg dksX4_whyNoWeight_0 23 rfl rfl
theorem dksX4_whyNoWeight_2 : cX4_whyNoWeight.data.toList.drop 47 = dktX4_whyNoWeight_2 := dk_seg dksX4_whyNoWeight_1 24 rfl rfl
theorem dX4_whyNoWeight_0 : decode cX4_whyNoWeight 0 = .ok (.aload_n 0, 1) := dk_42 (dk_at dksX4_whyNoWeight_0 0 rfl rfl)
theorem dX4_whyNoWeight_1 : decode cX4_whyNoWeight 1 = .ok (.iload_n 1, 1) := dk_27 (dk_at dksX4_whyNoWeight_0 1 rfl rfl)
theorem dX4_whyNoWeight_2 : decode cX4_whyNoWeight 2 = .ok (.invokevirtual 52, 3) := dk_182 0 52 (dk_at dksX4_whyNoWeight_0 2 rfl rfl)
theorem dX4_whyNoWeight_5 : decode cX4_whyNoWeight 5 = .ok (.ifCond .eq 12, 3) := dk_153 0 12 (dk_at dksX4_whyNoWeight_0 5 rfl rfl)
theorem dX4_whyNoWeight_8 : decode cX4_whyNoWeight 8 = .ok (.iload_n 2, 1) := dk_28 (dk_at dksX4_whyNoWeight_0 8 rfl rfl)
theorem dX4_whyNoWeight_9 : decode cX4_whyNoWeight 9 = .ok (.iconst 0, 1) := dk_3 (dk_at dksX4_whyNoWeight_0 9 rfl rfl)
theorem dX4_whyNoWeight_10 : decode cX4_whyNoWeight 10 = .ok (.iconst 3, 1) := dk_6 (dk_at dksX4_whyNoWeight_0 10 rfl rfl)
theorem dX4_whyNoWeight_11 : decode cX4_whyNoWeight 11 = .ok (.invokestatic 44, 3) := dk_184 0 44 (dk_at dksX4_whyNoWeight_0 11 rfl rfl)
theorem dX4_whyNoWeight_14 : decode cX4_whyNoWeight 14 = .ok (.ifCond .ne 7, 3) := dk_154 0 7 (dk_at dksX4_whyNoWeight_0 14 rfl rfl)
theorem dX4_whyNoWeight_17 : decode cX4_whyNoWeight 17 = .ok (.iconst 1, 1) := dk_4 (dk_at dksX4_whyNoWeight_0 17 rfl rfl)
theorem dX4_whyNoWeight_18 : decode cX4_whyNoWeight 18 = .ok (.goto 29, 3) := dk_167 0 29 (dk_at dksX4_whyNoWeight_0 18 rfl rfl)
theorem dX4_whyNoWeight_21 : decode cX4_whyNoWeight 21 = .ok (.aload_n 0, 1) := dk_42 (dk_at dksX4_whyNoWeight_0 21 rfl rfl)
theorem dX4_whyNoWeight_22 : decode cX4_whyNoWeight 22 = .ok (.iload_n 1, 1) := dk_27 (dk_at dksX4_whyNoWeight_0 22 rfl rfl)
theorem dX4_whyNoWeight_23 : decode cX4_whyNoWeight 23 = .ok (.invokevirtual 77, 3) := dk_182 0 77 (dk_at dksX4_whyNoWeight_1 0 rfl rfl)
theorem dX4_whyNoWeight_26 : decode cX4_whyNoWeight 26 = .ok (.ifCond .eq 7, 3) := dk_153 0 7 (dk_at dksX4_whyNoWeight_1 3 rfl rfl)
theorem dX4_whyNoWeight_29 : decode cX4_whyNoWeight 29 = .ok (.iconst 0, 1) := dk_3 (dk_at dksX4_whyNoWeight_1 6 rfl rfl)
theorem dX4_whyNoWeight_30 : decode cX4_whyNoWeight 30 = .ok (.goto 17, 3) := dk_167 0 17 (dk_at dksX4_whyNoWeight_1 7 rfl rfl)
theorem dX4_whyNoWeight_33 : decode cX4_whyNoWeight 33 = .ok (.aload_n 0, 1) := dk_42 (dk_at dksX4_whyNoWeight_1 10 rfl rfl)
theorem dX4_whyNoWeight_34 : decode cX4_whyNoWeight 34 = .ok (.iload_n 1, 1) := dk_27 (dk_at dksX4_whyNoWeight_1 11 rfl rfl)
theorem dX4_whyNoWeight_35 : decode cX4_whyNoWeight 35 = .ok (.iload_n 2, 1) := dk_28 (dk_at dksX4_whyNoWeight_1 12 rfl rfl)
theorem dX4_whyNoWeight_36 : decode cX4_whyNoWeight 36 = .ok (.invokevirtual 80, 3) := dk_182 0 80 (dk_at dksX4_whyNoWeight_1 13 rfl rfl)
theorem dX4_whyNoWeight_39 : decode cX4_whyNoWeight 39 = .ok (.ifCond .eq 7, 3) := dk_153 0 7 (dk_at dksX4_whyNoWeight_1 16 rfl rfl)
theorem dX4_whyNoWeight_42 : decode cX4_whyNoWeight 42 = .ok (.iconst 2, 1) := dk_5 (dk_at dksX4_whyNoWeight_1 19 rfl rfl)
theorem dX4_whyNoWeight_43 : decode cX4_whyNoWeight 43 = .ok (.goto 4, 3) := dk_167 0 4 (dk_at dksX4_whyNoWeight_1 20 rfl rfl)
theorem dX4_whyNoWeight_46 : decode cX4_whyNoWeight 46 = .ok (.iconst 1, 1) := dk_4 (dk_at dksX4_whyNoWeight_1 23 rfl rfl)
theorem dX4_whyNoWeight_47 : decode cX4_whyNoWeight 47 = .ok (.ireturn, 1) := dk_172 (dk_at dksX4_whyNoWeight_2 0 rfl rfl)
abbrev cX4_isModule : ByteArray := prog_17_method_10_code
def yX4_isModule : MethodName := ⟨RX4, "isModule", "(I)Z"⟩
def dkwX4_isModule_0 : List UInt8 := [27, 3, 42, 180, 0, 7, 3, 46, 4, 100, 184, 0, 44, 172]
abbrev dktX4_isModule_0 : List UInt8 := dkwX4_isModule_0 ++ []
theorem dksX4_isModule_0 : cX4_isModule.data.toList.drop 0 = dktX4_isModule_0 := by decide +kernel
theorem dX4_isModule_0 : decode cX4_isModule 0 = .ok (.iload_n 1, 1) := dk_27 (dk_at dksX4_isModule_0 0 rfl rfl)
theorem dX4_isModule_1 : decode cX4_isModule 1 = .ok (.iconst 0, 1) := dk_3 (dk_at dksX4_isModule_0 1 rfl rfl)
theorem dX4_isModule_2 : decode cX4_isModule 2 = .ok (.aload_n 0, 1) := dk_42 (dk_at dksX4_isModule_0 2 rfl rfl)
theorem dX4_isModule_3 : decode cX4_isModule 3 = .ok (.getfield 7, 3) := dk_180 0 7 (dk_at dksX4_isModule_0 3 rfl rfl)
theorem dX4_isModule_6 : decode cX4_isModule 6 = .ok (.iconst 0, 1) := dk_3 (dk_at dksX4_isModule_0 6 rfl rfl)
theorem dX4_isModule_7 : decode cX4_isModule 7 = .ok (.iaload, 1) := dk_46 (dk_at dksX4_isModule_0 7 rfl rfl)
theorem dX4_isModule_8 : decode cX4_isModule 8 = .ok (.iconst 1, 1) := dk_4 (dk_at dksX4_isModule_0 8 rfl rfl)
theorem dX4_isModule_9 : decode cX4_isModule 9 = .ok (.isub, 1) := dk_100 (dk_at dksX4_isModule_0 9 rfl rfl)
theorem dX4_isModule_10 : decode cX4_isModule 10 = .ok (.invokestatic 44, 3) := dk_184 0 44 (dk_at dksX4_isModule_0 10 rfl rfl)
theorem dX4_isModule_13 : decode cX4_isModule 13 = .ok (.ireturn, 1) := dk_172 (dk_at dksX4_isModule_0 13 rfl rfl)
abbrev cX4_isWeighted : ByteArray := prog_17_method_16_code
def yX4_isWeighted : MethodName := ⟨RX4, "isWeighted", "(I)Z"⟩
def dkwX4_isWeighted_0 : List UInt8 := [42, 27, 182, 0, 56, 153, 0, 12, 42, 27, 182, 0, 56, 4, 160, 0, 7, 4, 167, 0, 4, 3, 172]
abbrev dktX4_isWeighted_0 : List UInt8 := dkwX4_isWeighted_0 ++ []
theorem dksX4_isWeighted_0 : cX4_isWeighted.data.toList.drop 0 = dktX4_isWeighted_0 := by decide +kernel
theorem dX4_isWeighted_0 : decode cX4_isWeighted 0 = .ok (.aload_n 0, 1) := dk_42 (dk_at dksX4_isWeighted_0 0 rfl rfl)
theorem dX4_isWeighted_1 : decode cX4_isWeighted 1 = .ok (.iload_n 1, 1) := dk_27 (dk_at dksX4_isWeighted_0 1 rfl rfl)
theorem dX4_isWeighted_2 : decode cX4_isWeighted 2 = .ok (.invokevirtual 56, 3) := dk_182 0 56 (dk_at dksX4_isWeighted_0 2 rfl rfl)
theorem dX4_isWeighted_5 : decode cX4_isWeighted 5 = .ok (.ifCond .eq 12, 3) := dk_153 0 12 (dk_at dksX4_isWeighted_0 5 rfl rfl)
theorem dX4_isWeighted_8 : decode cX4_isWeighted 8 = .ok (.aload_n 0, 1) := dk_42 (dk_at dksX4_isWeighted_0 8 rfl rfl)
theorem dX4_isWeighted_9 : decode cX4_isWeighted 9 = .ok (.iload_n 1, 1) := dk_27 (dk_at dksX4_isWeighted_0 9 rfl rfl)
theorem dX4_isWeighted_10 : decode cX4_isWeighted 10 = .ok (.invokevirtual 56, 3) := dk_182 0 56 (dk_at dksX4_isWeighted_0 10 rfl rfl)
theorem dX4_isWeighted_13 : decode cX4_isWeighted 13 = .ok (.iconst 1, 1) := dk_4 (dk_at dksX4_isWeighted_0 13 rfl rfl)
theorem dX4_isWeighted_14 : decode cX4_isWeighted 14 = .ok (.if_icmp .ne 7, 3) := dk_160 0 7 (dk_at dksX4_isWeighted_0 14 rfl rfl)
theorem dX4_isWeighted_17 : decode cX4_isWeighted 17 = .ok (.iconst 1, 1) := dk_4 (dk_at dksX4_isWeighted_0 17 rfl rfl)
theorem dX4_isWeighted_18 : decode cX4_isWeighted 18 = .ok (.goto 4, 3) := dk_167 0 4 (dk_at dksX4_isWeighted_0 18 rfl rfl)
theorem dX4_isWeighted_21 : decode cX4_isWeighted 21 = .ok (.iconst 0, 1) := dk_3 (dk_at dksX4_isWeighted_0 21 rfl rfl)
theorem dX4_isWeighted_22 : decode cX4_isWeighted 22 = .ok (.ireturn, 1) := dk_172 (dk_at dksX4_isWeighted_0 22 rfl rfl)
abbrev cX4_kind : ByteArray := prog_17_method_13_code
def yX4_kind : MethodName := ⟨RX4, "kind", "(I)I"⟩
def dkwX4_kind_0 : List UInt8 := [42, 27, 3, 182, 0, 48, 172]
abbrev dktX4_kind_0 : List UInt8 := dkwX4_kind_0 ++ []
theorem dksX4_kind_0 : cX4_kind.data.toList.drop 0 = dktX4_kind_0 := by decide +kernel
theorem dX4_kind_0 : decode cX4_kind 0 = .ok (.aload_n 0, 1) := dk_42 (dk_at dksX4_kind_0 0 rfl rfl)
theorem dX4_kind_1 : decode cX4_kind 1 = .ok (.iload_n 1, 1) := dk_27 (dk_at dksX4_kind_0 1 rfl rfl)
theorem dX4_kind_2 : decode cX4_kind 2 = .ok (.iconst 0, 1) := dk_3 (dk_at dksX4_kind_0 2 rfl rfl)
theorem dX4_kind_3 : decode cX4_kind 3 = .ok (.invokevirtual 48, 3) := dk_182 0 48 (dk_at dksX4_kind_0 3 rfl rfl)
theorem dX4_kind_6 : decode cX4_kind 6 = .ok (.ireturn, 1) := dk_172 (dk_at dksX4_kind_0 6 rfl rfl)
abbrev cX4_of : ByteArray := prog_17_method_11_code
def yX4_of : MethodName := ⟨RX4, "of", "(II)I"⟩
def dkwX4_of_0 : List UInt8 := [42, 180, 0, 7, 16, 34, 16, 13, 27, 104, 96, 28, 96, 46, 172]
abbrev dktX4_of_0 : List UInt8 := dkwX4_of_0 ++ []
theorem dksX4_of_0 : cX4_of.data.toList.drop 0 = dktX4_of_0 := by decide +kernel
theorem dX4_of_0 : decode cX4_of 0 = .ok (.aload_n 0, 1) := dk_42 (dk_at dksX4_of_0 0 rfl rfl)
theorem dX4_of_1 : decode cX4_of 1 = .ok (.getfield 7, 3) := dk_180 0 7 (dk_at dksX4_of_0 1 rfl rfl)
theorem dX4_of_4 : decode cX4_of 4 = .ok (.bipush 34, 2) := dk_16 34 (dk_at dksX4_of_0 4 rfl rfl)
theorem dX4_of_6 : decode cX4_of 6 = .ok (.bipush 13, 2) := dk_16 13 (dk_at dksX4_of_0 6 rfl rfl)
theorem dX4_of_8 : decode cX4_of 8 = .ok (.iload_n 1, 1) := dk_27 (dk_at dksX4_of_0 8 rfl rfl)
theorem dX4_of_9 : decode cX4_of 9 = .ok (.imul, 1) := dk_104 (dk_at dksX4_of_0 9 rfl rfl)
theorem dX4_of_10 : decode cX4_of 10 = .ok (.iadd, 1) := dk_96 (dk_at dksX4_of_0 10 rfl rfl)
theorem dX4_of_11 : decode cX4_of 11 = .ok (.iload_n 2, 1) := dk_28 (dk_at dksX4_of_0 11 rfl rfl)
theorem dX4_of_12 : decode cX4_of 12 = .ok (.iadd, 1) := dk_96 (dk_at dksX4_of_0 12 rfl rfl)
theorem dX4_of_13 : decode cX4_of 13 = .ok (.iaload, 1) := dk_46 (dk_at dksX4_of_0 13 rfl rfl)
theorem dX4_of_14 : decode cX4_of 14 = .ok (.ireturn, 1) := dk_172 (dk_at dksX4_of_0 14 rfl rfl)
abbrev cX4_isInput : ByteArray := prog_17_method_15_code
def yX4_isInput : MethodName := ⟨RX4, "isInput", "(II)Z"⟩
def dkwX4_isInput_1 : List UInt8 := [153, 0, 7, 4, 167, 0, 4, 3, 172]
abbrev dktX4_isInput_1 : List UInt8 := dkwX4_isInput_1 ++ []
def dkwX4_isInput_0 : List UInt8 := [42, 27, 182, 0, 52, 153, 0, 25, 28, 3, 42, 27, 182, 0, 56, 184, 0, 60, 4, 100, 184, 0, 44]
abbrev dktX4_isInput_0 : List UInt8 := dkwX4_isInput_0 ++ dktX4_isInput_1
theorem dksX4_isInput_0 : cX4_isInput.data.toList.drop 0 = dktX4_isInput_0 := by decide +kernel
theorem dksX4_isInput_1 : cX4_isInput.data.toList.drop 23 = dktX4_isInput_1 := dk_seg dksX4_isInput_0 23 rfl rfl
theorem dX4_isInput_0 : decode cX4_isInput 0 = .ok (.aload_n 0, 1) := dk_42 (dk_at dksX4_isInput_0 0 rfl rfl)
theorem dX4_isInput_1 : decode cX4_isInput 1 = .ok (.iload_n 1, 1) := dk_27 (dk_at dksX4_isInput_0 1 rfl rfl)
theorem dX4_isInput_2 : decode cX4_isInput 2 = .ok (.invokevirtual 52, 3) := dk_182 0 52 (dk_at dksX4_isInput_0 2 rfl rfl)
theorem dX4_isInput_5 : decode cX4_isInput 5 = .ok (.ifCond .eq 25, 3) := dk_153 0 25 (dk_at dksX4_isInput_0 5 rfl rfl)
theorem dX4_isInput_8 : decode cX4_isInput 8 = .ok (.iload_n 2, 1) := dk_28 (dk_at dksX4_isInput_0 8 rfl rfl)
theorem dX4_isInput_9 : decode cX4_isInput 9 = .ok (.iconst 0, 1) := dk_3 (dk_at dksX4_isInput_0 9 rfl rfl)
theorem dX4_isInput_10 : decode cX4_isInput 10 = .ok (.aload_n 0, 1) := dk_42 (dk_at dksX4_isInput_0 10 rfl rfl)
theorem dX4_isInput_11 : decode cX4_isInput 11 = .ok (.iload_n 1, 1) := dk_27 (dk_at dksX4_isInput_0 11 rfl rfl)
theorem dX4_isInput_12 : decode cX4_isInput 12 = .ok (.invokevirtual 56, 3) := dk_182 0 56 (dk_at dksX4_isInput_0 12 rfl rfl)
theorem dX4_isInput_15 : decode cX4_isInput 15 = .ok (.invokestatic 60, 3) := dk_184 0 60 (dk_at dksX4_isInput_0 15 rfl rfl)
theorem dX4_isInput_18 : decode cX4_isInput 18 = .ok (.iconst 1, 1) := dk_4 (dk_at dksX4_isInput_0 18 rfl rfl)
theorem dX4_isInput_19 : decode cX4_isInput 19 = .ok (.isub, 1) := dk_100 (dk_at dksX4_isInput_0 19 rfl rfl)
theorem dX4_isInput_20 : decode cX4_isInput 20 = .ok (.invokestatic 44, 3) := dk_184 0 44 (dk_at dksX4_isInput_0 20 rfl rfl)
theorem dX4_isInput_23 : decode cX4_isInput 23 = .ok (.ifCond .eq 7, 3) := dk_153 0 7 (dk_at dksX4_isInput_1 0 rfl rfl)
theorem dX4_isInput_26 : decode cX4_isInput 26 = .ok (.iconst 1, 1) := dk_4 (dk_at dksX4_isInput_1 3 rfl rfl)
theorem dX4_isInput_27 : decode cX4_isInput 27 = .ok (.goto 4, 3) := dk_167 0 4 (dk_at dksX4_isInput_1 4 rfl rfl)
theorem dX4_isInput_30 : decode cX4_isInput 30 = .ok (.iconst 0, 1) := dk_3 (dk_at dksX4_isInput_1 7 rfl rfl)
theorem dX4_isInput_31 : decode cX4_isInput 31 = .ok (.ireturn, 1) := dk_172 (dk_at dksX4_isInput_1 8 rfl rfl)
abbrev cX4_inputsOfKind : ByteArray := prog_17_method_14_code
def yX4_inputsOfKind : MethodName := ⟨RX4, "inputsOfKind", "(I)I"⟩
def dkwX4_inputsOfKind_1 : List UInt8 := [167, 0, 4, 7, 172]
abbrev dktX4_inputsOfKind_1 : List UInt8 := dkwX4_inputsOfKind_1 ++ []
def dkwX4_inputsOfKind_0 : List UInt8 := [26, 8, 160, 0, 7, 3, 167, 0, 22, 26, 5, 160, 0, 7, 4, 167, 0, 13, 26, 6, 160, 0, 7, 5]
abbrev dktX4_inputsOfKind_0 : List UInt8 := dkwX4_inputsOfKind_0 ++ dktX4_inputsOfKind_1
theorem dksX4_inputsOfKind_0 : cX4_inputsOfKind.data.toList.drop 0 = dktX4_inputsOfKind_0 := by decide +kernel
theorem dksX4_inputsOfKind_1 : cX4_inputsOfKind.data.toList.drop 24 = dktX4_inputsOfKind_1 := dk_seg dksX4_inputsOfKind_0 24 rfl rfl
theorem dX4_inputsOfKind_0 : decode cX4_inputsOfKind 0 = .ok (.iload_n 0, 1) := dk_26 (dk_at dksX4_inputsOfKind_0 0 rfl rfl)
theorem dX4_inputsOfKind_1 : decode cX4_inputsOfKind 1 = .ok (.iconst 5, 1) := dk_8 (dk_at dksX4_inputsOfKind_0 1 rfl rfl)
theorem dX4_inputsOfKind_2 : decode cX4_inputsOfKind 2 = .ok (.if_icmp .ne 7, 3) := dk_160 0 7 (dk_at dksX4_inputsOfKind_0 2 rfl rfl)
theorem dX4_inputsOfKind_5 : decode cX4_inputsOfKind 5 = .ok (.iconst 0, 1) := dk_3 (dk_at dksX4_inputsOfKind_0 5 rfl rfl)
theorem dX4_inputsOfKind_6 : decode cX4_inputsOfKind 6 = .ok (.goto 22, 3) := dk_167 0 22 (dk_at dksX4_inputsOfKind_0 6 rfl rfl)
theorem dX4_inputsOfKind_9 : decode cX4_inputsOfKind 9 = .ok (.iload_n 0, 1) := dk_26 (dk_at dksX4_inputsOfKind_0 9 rfl rfl)
theorem dX4_inputsOfKind_10 : decode cX4_inputsOfKind 10 = .ok (.iconst 2, 1) := dk_5 (dk_at dksX4_inputsOfKind_0 10 rfl rfl)
theorem dX4_inputsOfKind_11 : decode cX4_inputsOfKind 11 = .ok (.if_icmp .ne 7, 3) := dk_160 0 7 (dk_at dksX4_inputsOfKind_0 11 rfl rfl)
theorem dX4_inputsOfKind_14 : decode cX4_inputsOfKind 14 = .ok (.iconst 1, 1) := dk_4 (dk_at dksX4_inputsOfKind_0 14 rfl rfl)
theorem dX4_inputsOfKind_15 : decode cX4_inputsOfKind 15 = .ok (.goto 13, 3) := dk_167 0 13 (dk_at dksX4_inputsOfKind_0 15 rfl rfl)
theorem dX4_inputsOfKind_18 : decode cX4_inputsOfKind 18 = .ok (.iload_n 0, 1) := dk_26 (dk_at dksX4_inputsOfKind_0 18 rfl rfl)
theorem dX4_inputsOfKind_19 : decode cX4_inputsOfKind 19 = .ok (.iconst 3, 1) := dk_6 (dk_at dksX4_inputsOfKind_0 19 rfl rfl)
theorem dX4_inputsOfKind_20 : decode cX4_inputsOfKind 20 = .ok (.if_icmp .ne 7, 3) := dk_160 0 7 (dk_at dksX4_inputsOfKind_0 20 rfl rfl)
theorem dX4_inputsOfKind_23 : decode cX4_inputsOfKind 23 = .ok (.iconst 2, 1) := dk_5 (dk_at dksX4_inputsOfKind_0 23 rfl rfl)
theorem dX4_inputsOfKind_24 : decode cX4_inputsOfKind 24 = .ok (.goto 4, 3) := dk_167 0 4 (dk_at dksX4_inputsOfKind_1 0 rfl rfl)
theorem dX4_inputsOfKind_27 : decode cX4_inputsOfKind 27 = .ok (.iconst 4, 1) := dk_7 (dk_at dksX4_inputsOfKind_1 3 rfl rfl)
theorem dX4_inputsOfKind_28 : decode cX4_inputsOfKind 28 = .ok (.ireturn, 1) := dk_172 (dk_at dksX4_inputsOfKind_1 4 rfl rfl)
abbrev cX4_setVoltage : ByteArray := prog_17_method_25_code
def yX4_setVoltage : MethodName := ⟨RX4, "setVoltage", "(II)I"⟩
def dkwX4_setVoltage_1 : List UInt8 := [27, 28, 182, 0, 93, 172]
abbrev dktX4_setVoltage_1 : List UInt8 := dkwX4_setVoltage_1 ++ []
def dkwX4_setVoltage_0 : List UInt8 := [42, 42, 27, 28, 182, 0, 90, 181, 0, 37, 42, 180, 0, 37, 158, 0, 5, 3, 172, 42, 182, 0, 71, 42]
abbrev dktX4_setVoltage_0 : List UInt8 := dkwX4_setVoltage_0 ++ dktX4_setVoltage_1
theorem dksX4_setVoltage_0 : cX4_setVoltage.data.toList.drop 0 = dktX4_setVoltage_0 := by decide +kernel
theorem dksX4_setVoltage_1 : cX4_setVoltage.data.toList.drop 24 = dktX4_setVoltage_1 := dk_seg dksX4_setVoltage_0 24 rfl rfl
theorem dX4_setVoltage_0 : decode cX4_setVoltage 0 = .ok (.aload_n 0, 1) := dk_42 (dk_at dksX4_setVoltage_0 0 rfl rfl)
theorem dX4_setVoltage_1 : decode cX4_setVoltage 1 = .ok (.aload_n 0, 1) := dk_42 (dk_at dksX4_setVoltage_0 1 rfl rfl)
theorem dX4_setVoltage_2 : decode cX4_setVoltage 2 = .ok (.iload_n 1, 1) := dk_27 (dk_at dksX4_setVoltage_0 2 rfl rfl)
theorem dX4_setVoltage_3 : decode cX4_setVoltage 3 = .ok (.iload_n 2, 1) := dk_28 (dk_at dksX4_setVoltage_0 3 rfl rfl)
theorem dX4_setVoltage_4 : decode cX4_setVoltage 4 = .ok (.invokevirtual 90, 3) := dk_182 0 90 (dk_at dksX4_setVoltage_0 4 rfl rfl)
theorem dX4_setVoltage_7 : decode cX4_setVoltage 7 = .ok (.putfield 37, 3) := dk_181 0 37 (dk_at dksX4_setVoltage_0 7 rfl rfl)
theorem dX4_setVoltage_10 : decode cX4_setVoltage 10 = .ok (.aload_n 0, 1) := dk_42 (dk_at dksX4_setVoltage_0 10 rfl rfl)
theorem dX4_setVoltage_11 : decode cX4_setVoltage 11 = .ok (.getfield 37, 3) := dk_180 0 37 (dk_at dksX4_setVoltage_0 11 rfl rfl)
theorem dX4_setVoltage_14 : decode cX4_setVoltage 14 = .ok (.ifCond .le 5, 3) := dk_158 0 5 (dk_at dksX4_setVoltage_0 14 rfl rfl)
theorem dX4_setVoltage_17 : decode cX4_setVoltage 17 = .ok (.iconst 0, 1) := dk_3 (dk_at dksX4_setVoltage_0 17 rfl rfl)
theorem dX4_setVoltage_18 : decode cX4_setVoltage 18 = .ok (.ireturn, 1) := dk_172 (dk_at dksX4_setVoltage_0 18 rfl rfl)
theorem dX4_setVoltage_19 : decode cX4_setVoltage 19 = .ok (.aload_n 0, 1) := dk_42 (dk_at dksX4_setVoltage_0 19 rfl rfl)
theorem dX4_setVoltage_20 : decode cX4_setVoltage 20 = .ok (.invokevirtual 71, 3) := dk_182 0 71 (dk_at dksX4_setVoltage_0 20 rfl rfl)
theorem dX4_setVoltage_23 : decode cX4_setVoltage 23 = .ok (.aload_n 0, 1) := dk_42 (dk_at dksX4_setVoltage_0 23 rfl rfl)
theorem dX4_setVoltage_24 : decode cX4_setVoltage 24 = .ok (.iload_n 1, 1) := dk_27 (dk_at dksX4_setVoltage_1 0 rfl rfl)
theorem dX4_setVoltage_25 : decode cX4_setVoltage 25 = .ok (.iload_n 2, 1) := dk_28 (dk_at dksX4_setVoltage_1 1 rfl rfl)
theorem dX4_setVoltage_26 : decode cX4_setVoltage 26 = .ok (.invokevirtual 93, 3) := dk_182 0 93 (dk_at dksX4_setVoltage_1 2 rfl rfl)
theorem dX4_setVoltage_29 : decode cX4_setVoltage 29 = .ok (.ireturn, 1) := dk_172 (dk_at dksX4_setVoltage_1 5 rfl rfl)
abbrev cX4_whyNoVoltage : ByteArray := prog_17_method_23_code
def yX4_whyNoVoltage : MethodName := ⟨RX4, "whyNoVoltage", "(II)I"⟩
def dkwX4_whyNoVoltage_1 : List UInt8 := [17, 39, 16, 184, 0, 44, 153, 0, 7, 3, 167, 0, 4, 5, 172]
abbrev dktX4_whyNoVoltage_1 : List UInt8 := dkwX4_whyNoVoltage_1 ++ []
def dkwX4_whyNoVoltage_0 : List UInt8 := [42, 27, 182, 0, 52, 154, 0, 7, 4, 167, 0, 29, 42, 27, 182, 0, 87, 153, 0, 20, 28, 17, 216, 240]
abbrev dktX4_whyNoVoltage_0 : List UInt8 := dkwX4_whyNoVoltage_0 ++ dktX4_whyNoVoltage_1
theorem dksX4_whyNoVoltage_0 : cX4_whyNoVoltage.data.toList.drop 0 = dktX4_whyNoVoltage_0 := by decide +kernel
theorem dksX4_whyNoVoltage_1 : cX4_whyNoVoltage.data.toList.drop 24 = dktX4_whyNoVoltage_1 := dk_seg dksX4_whyNoVoltage_0 24 rfl rfl
theorem dX4_whyNoVoltage_0 : decode cX4_whyNoVoltage 0 = .ok (.aload_n 0, 1) := dk_42 (dk_at dksX4_whyNoVoltage_0 0 rfl rfl)
theorem dX4_whyNoVoltage_1 : decode cX4_whyNoVoltage 1 = .ok (.iload_n 1, 1) := dk_27 (dk_at dksX4_whyNoVoltage_0 1 rfl rfl)
theorem dX4_whyNoVoltage_2 : decode cX4_whyNoVoltage 2 = .ok (.invokevirtual 52, 3) := dk_182 0 52 (dk_at dksX4_whyNoVoltage_0 2 rfl rfl)
theorem dX4_whyNoVoltage_5 : decode cX4_whyNoVoltage 5 = .ok (.ifCond .ne 7, 3) := dk_154 0 7 (dk_at dksX4_whyNoVoltage_0 5 rfl rfl)
theorem dX4_whyNoVoltage_8 : decode cX4_whyNoVoltage 8 = .ok (.iconst 1, 1) := dk_4 (dk_at dksX4_whyNoVoltage_0 8 rfl rfl)
theorem dX4_whyNoVoltage_9 : decode cX4_whyNoVoltage 9 = .ok (.goto 29, 3) := dk_167 0 29 (dk_at dksX4_whyNoVoltage_0 9 rfl rfl)
theorem dX4_whyNoVoltage_12 : decode cX4_whyNoVoltage 12 = .ok (.aload_n 0, 1) := dk_42 (dk_at dksX4_whyNoVoltage_0 12 rfl rfl)
theorem dX4_whyNoVoltage_13 : decode cX4_whyNoVoltage 13 = .ok (.iload_n 1, 1) := dk_27 (dk_at dksX4_whyNoVoltage_0 13 rfl rfl)
theorem dX4_whyNoVoltage_14 : decode cX4_whyNoVoltage 14 = .ok (.invokevirtual 87, 3) := dk_182 0 87 (dk_at dksX4_whyNoVoltage_0 14 rfl rfl)
theorem dX4_whyNoVoltage_17 : decode cX4_whyNoVoltage 17 = .ok (.ifCond .eq 20, 3) := dk_153 0 20 (dk_at dksX4_whyNoVoltage_0 17 rfl rfl)
theorem dX4_whyNoVoltage_20 : decode cX4_whyNoVoltage 20 = .ok (.iload_n 2, 1) := dk_28 (dk_at dksX4_whyNoVoltage_0 20 rfl rfl)
theorem dX4_whyNoVoltage_21 : decode cX4_whyNoVoltage 21 = .ok (.sipush (-10000), 3) := dk_17 216 240 (dk_at dksX4_whyNoVoltage_0 21 rfl rfl)
theorem dX4_whyNoVoltage_24 : decode cX4_whyNoVoltage 24 = .ok (.sipush 10000, 3) := dk_17 39 16 (dk_at dksX4_whyNoVoltage_1 0 rfl rfl)
theorem dX4_whyNoVoltage_27 : decode cX4_whyNoVoltage 27 = .ok (.invokestatic 44, 3) := dk_184 0 44 (dk_at dksX4_whyNoVoltage_1 3 rfl rfl)
theorem dX4_whyNoVoltage_30 : decode cX4_whyNoVoltage 30 = .ok (.ifCond .eq 7, 3) := dk_153 0 7 (dk_at dksX4_whyNoVoltage_1 6 rfl rfl)
theorem dX4_whyNoVoltage_33 : decode cX4_whyNoVoltage 33 = .ok (.iconst 0, 1) := dk_3 (dk_at dksX4_whyNoVoltage_1 9 rfl rfl)
theorem dX4_whyNoVoltage_34 : decode cX4_whyNoVoltage 34 = .ok (.goto 4, 3) := dk_167 0 4 (dk_at dksX4_whyNoVoltage_1 10 rfl rfl)
theorem dX4_whyNoVoltage_37 : decode cX4_whyNoVoltage 37 = .ok (.iconst 2, 1) := dk_5 (dk_at dksX4_whyNoVoltage_1 13 rfl rfl)
theorem dX4_whyNoVoltage_38 : decode cX4_whyNoVoltage 38 = .ok (.ireturn, 1) := dk_172 (dk_at dksX4_whyNoVoltage_1 14 rfl rfl)
abbrev cX4_hasVoltage : ByteArray := prog_17_method_17_code
def yX4_hasVoltage : MethodName := ⟨RX4, "hasVoltage", "(I)Z"⟩
def dkwX4_hasVoltage_0 : List UInt8 := [42, 27, 182, 0, 56, 8, 159, 0, 12, 42, 27, 182, 0, 56, 4, 160, 0, 7, 4, 167, 0, 4, 3, 172]
abbrev dktX4_hasVoltage_0 : List UInt8 := dkwX4_hasVoltage_0 ++ []
theorem dksX4_hasVoltage_0 : cX4_hasVoltage.data.toList.drop 0 = dktX4_hasVoltage_0 := by decide +kernel
theorem dX4_hasVoltage_0 : decode cX4_hasVoltage 0 = .ok (.aload_n 0, 1) := dk_42 (dk_at dksX4_hasVoltage_0 0 rfl rfl)
theorem dX4_hasVoltage_1 : decode cX4_hasVoltage 1 = .ok (.iload_n 1, 1) := dk_27 (dk_at dksX4_hasVoltage_0 1 rfl rfl)
theorem dX4_hasVoltage_2 : decode cX4_hasVoltage 2 = .ok (.invokevirtual 56, 3) := dk_182 0 56 (dk_at dksX4_hasVoltage_0 2 rfl rfl)
theorem dX4_hasVoltage_5 : decode cX4_hasVoltage 5 = .ok (.iconst 5, 1) := dk_8 (dk_at dksX4_hasVoltage_0 5 rfl rfl)
theorem dX4_hasVoltage_6 : decode cX4_hasVoltage 6 = .ok (.if_icmp .eq 12, 3) := dk_159 0 12 (dk_at dksX4_hasVoltage_0 6 rfl rfl)
theorem dX4_hasVoltage_9 : decode cX4_hasVoltage 9 = .ok (.aload_n 0, 1) := dk_42 (dk_at dksX4_hasVoltage_0 9 rfl rfl)
theorem dX4_hasVoltage_10 : decode cX4_hasVoltage 10 = .ok (.iload_n 1, 1) := dk_27 (dk_at dksX4_hasVoltage_0 10 rfl rfl)
theorem dX4_hasVoltage_11 : decode cX4_hasVoltage 11 = .ok (.invokevirtual 56, 3) := dk_182 0 56 (dk_at dksX4_hasVoltage_0 11 rfl rfl)
theorem dX4_hasVoltage_14 : decode cX4_hasVoltage 14 = .ok (.iconst 1, 1) := dk_4 (dk_at dksX4_hasVoltage_0 14 rfl rfl)
theorem dX4_hasVoltage_15 : decode cX4_hasVoltage 15 = .ok (.if_icmp .ne 7, 3) := dk_160 0 7 (dk_at dksX4_hasVoltage_0 15 rfl rfl)
theorem dX4_hasVoltage_18 : decode cX4_hasVoltage 18 = .ok (.iconst 1, 1) := dk_4 (dk_at dksX4_hasVoltage_0 18 rfl rfl)
theorem dX4_hasVoltage_19 : decode cX4_hasVoltage 19 = .ok (.goto 4, 3) := dk_167 0 4 (dk_at dksX4_hasVoltage_0 19 rfl rfl)
theorem dX4_hasVoltage_22 : decode cX4_hasVoltage 22 = .ok (.iconst 0, 1) := dk_3 (dk_at dksX4_hasVoltage_0 22 rfl rfl)
theorem dX4_hasVoltage_23 : decode cX4_hasVoltage 23 = .ok (.ireturn, 1) := dk_172 (dk_at dksX4_hasVoltage_0 23 rfl rfl)
abbrev cX4_setsVoltage : ByteArray := prog_17_method_24_code
def yX4_setsVoltage : MethodName := ⟨RX4, "setsVoltage", "(II)I"⟩
def dkwX4_setsVoltage_1 : List UInt8 := [180, 0, 7, 4, 46, 154, 0, 14, 42, 27, 6, 17, 3, 232, 28, 104, 182, 0, 63, 29, 172]
abbrev dktX4_setsVoltage_1 : List UInt8 := dkwX4_setsVoltage_1 ++ []
def dkwX4_setsVoltage_0 : List UInt8 := [42, 27, 4, 182, 0, 48, 62, 42, 27, 4, 28, 182, 0, 63, 42, 27, 182, 0, 56, 4, 160, 0, 23, 42]
abbrev dktX4_setsVoltage_0 : List UInt8 := dkwX4_setsVoltage_0 ++ dktX4_setsVoltage_1
theorem dksX4_setsVoltage_0 : cX4_setsVoltage.data.toList.drop 0 = dktX4_setsVoltage_0 := by decide +kernel
theorem dksX4_setsVoltage_1 : cX4_setsVoltage.data.toList.drop 24 = dktX4_setsVoltage_1 := dk_seg dksX4_setsVoltage_0 24 rfl rfl
theorem dX4_setsVoltage_0 : decode cX4_setsVoltage 0 = .ok (.aload_n 0, 1) := dk_42 (dk_at dksX4_setsVoltage_0 0 rfl rfl)
theorem dX4_setsVoltage_1 : decode cX4_setsVoltage 1 = .ok (.iload_n 1, 1) := dk_27 (dk_at dksX4_setsVoltage_0 1 rfl rfl)
theorem dX4_setsVoltage_2 : decode cX4_setsVoltage 2 = .ok (.iconst 1, 1) := dk_4 (dk_at dksX4_setsVoltage_0 2 rfl rfl)
theorem dX4_setsVoltage_3 : decode cX4_setsVoltage 3 = .ok (.invokevirtual 48, 3) := dk_182 0 48 (dk_at dksX4_setsVoltage_0 3 rfl rfl)
theorem dX4_setsVoltage_6 : decode cX4_setsVoltage 6 = .ok (.istore_n 3, 1) := dk_62 (dk_at dksX4_setsVoltage_0 6 rfl rfl)
theorem dX4_setsVoltage_7 : decode cX4_setsVoltage 7 = .ok (.aload_n 0, 1) := dk_42 (dk_at dksX4_setsVoltage_0 7 rfl rfl)
theorem dX4_setsVoltage_8 : decode cX4_setsVoltage 8 = .ok (.iload_n 1, 1) := dk_27 (dk_at dksX4_setsVoltage_0 8 rfl rfl)
theorem dX4_setsVoltage_9 : decode cX4_setsVoltage 9 = .ok (.iconst 1, 1) := dk_4 (dk_at dksX4_setsVoltage_0 9 rfl rfl)
theorem dX4_setsVoltage_10 : decode cX4_setsVoltage 10 = .ok (.iload_n 2, 1) := dk_28 (dk_at dksX4_setsVoltage_0 10 rfl rfl)
theorem dX4_setsVoltage_11 : decode cX4_setsVoltage 11 = .ok (.invokevirtual 63, 3) := dk_182 0 63 (dk_at dksX4_setsVoltage_0 11 rfl rfl)
theorem dX4_setsVoltage_14 : decode cX4_setsVoltage 14 = .ok (.aload_n 0, 1) := dk_42 (dk_at dksX4_setsVoltage_0 14 rfl rfl)
theorem dX4_setsVoltage_15 : decode cX4_setsVoltage 15 = .ok (.iload_n 1, 1) := dk_27 (dk_at dksX4_setsVoltage_0 15 rfl rfl)
theorem dX4_setsVoltage_16 : decode cX4_setsVoltage 16 = .ok (.invokevirtual 56, 3) := dk_182 0 56 (dk_at dksX4_setsVoltage_0 16 rfl rfl)
theorem dX4_setsVoltage_19 : decode cX4_setsVoltage 19 = .ok (.iconst 1, 1) := dk_4 (dk_at dksX4_setsVoltage_0 19 rfl rfl)
theorem dX4_setsVoltage_20 : decode cX4_setsVoltage 20 = .ok (.if_icmp .ne 23, 3) := dk_160 0 23 (dk_at dksX4_setsVoltage_0 20 rfl rfl)
theorem dX4_setsVoltage_23 : decode cX4_setsVoltage 23 = .ok (.aload_n 0, 1) := dk_42 (dk_at dksX4_setsVoltage_0 23 rfl rfl)
theorem dX4_setsVoltage_24 : decode cX4_setsVoltage 24 = .ok (.getfield 7, 3) := dk_180 0 7 (dk_at dksX4_setsVoltage_1 0 rfl rfl)
theorem dX4_setsVoltage_27 : decode cX4_setsVoltage 27 = .ok (.iconst 1, 1) := dk_4 (dk_at dksX4_setsVoltage_1 3 rfl rfl)
theorem dX4_setsVoltage_28 : decode cX4_setsVoltage 28 = .ok (.iaload, 1) := dk_46 (dk_at dksX4_setsVoltage_1 4 rfl rfl)
theorem dX4_setsVoltage_29 : decode cX4_setsVoltage 29 = .ok (.ifCond .ne 14, 3) := dk_154 0 14 (dk_at dksX4_setsVoltage_1 5 rfl rfl)
theorem dX4_setsVoltage_32 : decode cX4_setsVoltage 32 = .ok (.aload_n 0, 1) := dk_42 (dk_at dksX4_setsVoltage_1 8 rfl rfl)
theorem dX4_setsVoltage_33 : decode cX4_setsVoltage 33 = .ok (.iload_n 1, 1) := dk_27 (dk_at dksX4_setsVoltage_1 9 rfl rfl)
theorem dX4_setsVoltage_34 : decode cX4_setsVoltage 34 = .ok (.iconst 3, 1) := dk_6 (dk_at dksX4_setsVoltage_1 10 rfl rfl)
theorem dX4_setsVoltage_35 : decode cX4_setsVoltage 35 = .ok (.sipush 1000, 3) := dk_17 3 232 (dk_at dksX4_setsVoltage_1 11 rfl rfl)
theorem dX4_setsVoltage_38 : decode cX4_setsVoltage 38 = .ok (.iload_n 2, 1) := dk_28 (dk_at dksX4_setsVoltage_1 14 rfl rfl)
theorem dX4_setsVoltage_39 : decode cX4_setsVoltage 39 = .ok (.imul, 1) := dk_104 (dk_at dksX4_setsVoltage_1 15 rfl rfl)
theorem dX4_setsVoltage_40 : decode cX4_setsVoltage 40 = .ok (.invokevirtual 63, 3) := dk_182 0 63 (dk_at dksX4_setsVoltage_1 16 rfl rfl)
theorem dX4_setsVoltage_43 : decode cX4_setsVoltage 43 = .ok (.iload_n 3, 1) := dk_29 (dk_at dksX4_setsVoltage_1 19 rfl rfl)
theorem dX4_setsVoltage_44 : decode cX4_setsVoltage 44 = .ok (.ireturn, 1) := dk_172 (dk_at dksX4_setsVoltage_1 20 rfl rfl)
abbrev cX4_setFactor : ByteArray := prog_17_method_28_code
def yX4_setFactor : MethodName := ⟨RX4, "setFactor", "(II)I"⟩
def dkwX4_setFactor_1 : List UInt8 := [27, 28, 182, 0, 99, 172]
abbrev dktX4_setFactor_1 : List UInt8 := dkwX4_setFactor_1 ++ []
def dkwX4_setFactor_0 : List UInt8 := [42, 42, 27, 28, 182, 0, 96, 181, 0, 37, 42, 180, 0, 37, 158, 0, 5, 3, 172, 42, 182, 0, 71, 42]
abbrev dktX4_setFactor_0 : List UInt8 := dkwX4_setFactor_0 ++ dktX4_setFactor_1
theorem dksX4_setFactor_0 : cX4_setFactor.data.toList.drop 0 = dktX4_setFactor_0 := by decide +kernel
theorem dksX4_setFactor_1 : cX4_setFactor.data.toList.drop 24 = dktX4_setFactor_1 := dk_seg dksX4_setFactor_0 24 rfl rfl
theorem dX4_setFactor_0 : decode cX4_setFactor 0 = .ok (.aload_n 0, 1) := dk_42 (dk_at dksX4_setFactor_0 0 rfl rfl)
theorem dX4_setFactor_1 : decode cX4_setFactor 1 = .ok (.aload_n 0, 1) := dk_42 (dk_at dksX4_setFactor_0 1 rfl rfl)
theorem dX4_setFactor_2 : decode cX4_setFactor 2 = .ok (.iload_n 1, 1) := dk_27 (dk_at dksX4_setFactor_0 2 rfl rfl)
theorem dX4_setFactor_3 : decode cX4_setFactor 3 = .ok (.iload_n 2, 1) := dk_28 (dk_at dksX4_setFactor_0 3 rfl rfl)
theorem dX4_setFactor_4 : decode cX4_setFactor 4 = .ok (.invokevirtual 96, 3) := dk_182 0 96 (dk_at dksX4_setFactor_0 4 rfl rfl)
theorem dX4_setFactor_7 : decode cX4_setFactor 7 = .ok (.putfield 37, 3) := dk_181 0 37 (dk_at dksX4_setFactor_0 7 rfl rfl)
theorem dX4_setFactor_10 : decode cX4_setFactor 10 = .ok (.aload_n 0, 1) := dk_42 (dk_at dksX4_setFactor_0 10 rfl rfl)
theorem dX4_setFactor_11 : decode cX4_setFactor 11 = .ok (.getfield 37, 3) := dk_180 0 37 (dk_at dksX4_setFactor_0 11 rfl rfl)
theorem dX4_setFactor_14 : decode cX4_setFactor 14 = .ok (.ifCond .le 5, 3) := dk_158 0 5 (dk_at dksX4_setFactor_0 14 rfl rfl)
theorem dX4_setFactor_17 : decode cX4_setFactor 17 = .ok (.iconst 0, 1) := dk_3 (dk_at dksX4_setFactor_0 17 rfl rfl)
theorem dX4_setFactor_18 : decode cX4_setFactor 18 = .ok (.ireturn, 1) := dk_172 (dk_at dksX4_setFactor_0 18 rfl rfl)
theorem dX4_setFactor_19 : decode cX4_setFactor 19 = .ok (.aload_n 0, 1) := dk_42 (dk_at dksX4_setFactor_0 19 rfl rfl)
theorem dX4_setFactor_20 : decode cX4_setFactor 20 = .ok (.invokevirtual 71, 3) := dk_182 0 71 (dk_at dksX4_setFactor_0 20 rfl rfl)
theorem dX4_setFactor_23 : decode cX4_setFactor 23 = .ok (.aload_n 0, 1) := dk_42 (dk_at dksX4_setFactor_0 23 rfl rfl)
theorem dX4_setFactor_24 : decode cX4_setFactor 24 = .ok (.iload_n 1, 1) := dk_27 (dk_at dksX4_setFactor_1 0 rfl rfl)
theorem dX4_setFactor_25 : decode cX4_setFactor 25 = .ok (.iload_n 2, 1) := dk_28 (dk_at dksX4_setFactor_1 1 rfl rfl)
theorem dX4_setFactor_26 : decode cX4_setFactor 26 = .ok (.invokevirtual 99, 3) := dk_182 0 99 (dk_at dksX4_setFactor_1 2 rfl rfl)
theorem dX4_setFactor_29 : decode cX4_setFactor 29 = .ok (.ireturn, 1) := dk_172 (dk_at dksX4_setFactor_1 5 rfl rfl)
abbrev cX4_whyNoFactor : ByteArray := prog_17_method_26_code
def yX4_whyNoFactor : MethodName := ⟨RX4, "whyNoFactor", "(II)I"⟩
def dkwX4_whyNoFactor_1 : List UInt8 := [17, 3, 232, 184, 0, 44, 153, 0, 7, 3, 167, 0, 4, 5, 172]
abbrev dktX4_whyNoFactor_1 : List UInt8 := dkwX4_whyNoFactor_1 ++ []
def dkwX4_whyNoFactor_0 : List UInt8 := [42, 27, 182, 0, 52, 154, 0, 7, 4, 167, 0, 28, 42, 27, 182, 0, 56, 5, 160, 0, 18, 28, 3]
abbrev dktX4_whyNoFactor_0 : List UInt8 := dkwX4_whyNoFactor_0 ++ dktX4_whyNoFactor_1
theorem dksX4_whyNoFactor_0 : cX4_whyNoFactor.data.toList.drop 0 = dktX4_whyNoFactor_0 := by decide +kernel
theorem dksX4_whyNoFactor_1 : cX4_whyNoFactor.data.toList.drop 23 = dktX4_whyNoFactor_1 := dk_seg dksX4_whyNoFactor_0 23 rfl rfl
theorem dX4_whyNoFactor_0 : decode cX4_whyNoFactor 0 = .ok (.aload_n 0, 1) := dk_42 (dk_at dksX4_whyNoFactor_0 0 rfl rfl)
theorem dX4_whyNoFactor_1 : decode cX4_whyNoFactor 1 = .ok (.iload_n 1, 1) := dk_27 (dk_at dksX4_whyNoFactor_0 1 rfl rfl)
theorem dX4_whyNoFactor_2 : decode cX4_whyNoFactor 2 = .ok (.invokevirtual 52, 3) := dk_182 0 52 (dk_at dksX4_whyNoFactor_0 2 rfl rfl)
theorem dX4_whyNoFactor_5 : decode cX4_whyNoFactor 5 = .ok (.ifCond .ne 7, 3) := dk_154 0 7 (dk_at dksX4_whyNoFactor_0 5 rfl rfl)
theorem dX4_whyNoFactor_8 : decode cX4_whyNoFactor 8 = .ok (.iconst 1, 1) := dk_4 (dk_at dksX4_whyNoFactor_0 8 rfl rfl)
theorem dX4_whyNoFactor_9 : decode cX4_whyNoFactor 9 = .ok (.goto 28, 3) := dk_167 0 28 (dk_at dksX4_whyNoFactor_0 9 rfl rfl)
theorem dX4_whyNoFactor_12 : decode cX4_whyNoFactor 12 = .ok (.aload_n 0, 1) := dk_42 (dk_at dksX4_whyNoFactor_0 12 rfl rfl)
theorem dX4_whyNoFactor_13 : decode cX4_whyNoFactor 13 = .ok (.iload_n 1, 1) := dk_27 (dk_at dksX4_whyNoFactor_0 13 rfl rfl)
theorem dX4_whyNoFactor_14 : decode cX4_whyNoFactor 14 = .ok (.invokevirtual 56, 3) := dk_182 0 56 (dk_at dksX4_whyNoFactor_0 14 rfl rfl)
theorem dX4_whyNoFactor_17 : decode cX4_whyNoFactor 17 = .ok (.iconst 2, 1) := dk_5 (dk_at dksX4_whyNoFactor_0 17 rfl rfl)
theorem dX4_whyNoFactor_18 : decode cX4_whyNoFactor 18 = .ok (.if_icmp .ne 18, 3) := dk_160 0 18 (dk_at dksX4_whyNoFactor_0 18 rfl rfl)
theorem dX4_whyNoFactor_21 : decode cX4_whyNoFactor 21 = .ok (.iload_n 2, 1) := dk_28 (dk_at dksX4_whyNoFactor_0 21 rfl rfl)
theorem dX4_whyNoFactor_22 : decode cX4_whyNoFactor 22 = .ok (.iconst 0, 1) := dk_3 (dk_at dksX4_whyNoFactor_0 22 rfl rfl)
theorem dX4_whyNoFactor_23 : decode cX4_whyNoFactor 23 = .ok (.sipush 1000, 3) := dk_17 3 232 (dk_at dksX4_whyNoFactor_1 0 rfl rfl)
theorem dX4_whyNoFactor_26 : decode cX4_whyNoFactor 26 = .ok (.invokestatic 44, 3) := dk_184 0 44 (dk_at dksX4_whyNoFactor_1 3 rfl rfl)
theorem dX4_whyNoFactor_29 : decode cX4_whyNoFactor 29 = .ok (.ifCond .eq 7, 3) := dk_153 0 7 (dk_at dksX4_whyNoFactor_1 6 rfl rfl)
theorem dX4_whyNoFactor_32 : decode cX4_whyNoFactor 32 = .ok (.iconst 0, 1) := dk_3 (dk_at dksX4_whyNoFactor_1 9 rfl rfl)
theorem dX4_whyNoFactor_33 : decode cX4_whyNoFactor 33 = .ok (.goto 4, 3) := dk_167 0 4 (dk_at dksX4_whyNoFactor_1 10 rfl rfl)
theorem dX4_whyNoFactor_36 : decode cX4_whyNoFactor 36 = .ok (.iconst 2, 1) := dk_5 (dk_at dksX4_whyNoFactor_1 13 rfl rfl)
theorem dX4_whyNoFactor_37 : decode cX4_whyNoFactor 37 = .ok (.ireturn, 1) := dk_172 (dk_at dksX4_whyNoFactor_1 14 rfl rfl)
abbrev cX4_setsFactor : ByteArray := prog_17_method_27_code
def yX4_setsFactor : MethodName := ⟨RX4, "setsFactor", "(II)I"⟩
def dkwX4_setsFactor_0 : List UInt8 := [42, 27, 4, 182, 0, 48, 62, 42, 27, 4, 28, 182, 0, 63, 29, 172]
abbrev dktX4_setsFactor_0 : List UInt8 := dkwX4_setsFactor_0 ++ []
theorem dksX4_setsFactor_0 : cX4_setsFactor.data.toList.drop 0 = dktX4_setsFactor_0 := by decide +kernel
theorem dX4_setsFactor_0 : decode cX4_setsFactor 0 = .ok (.aload_n 0, 1) := dk_42 (dk_at dksX4_setsFactor_0 0 rfl rfl)
theorem dX4_setsFactor_1 : decode cX4_setsFactor 1 = .ok (.iload_n 1, 1) := dk_27 (dk_at dksX4_setsFactor_0 1 rfl rfl)
theorem dX4_setsFactor_2 : decode cX4_setsFactor 2 = .ok (.iconst 1, 1) := dk_4 (dk_at dksX4_setsFactor_0 2 rfl rfl)
theorem dX4_setsFactor_3 : decode cX4_setsFactor 3 = .ok (.invokevirtual 48, 3) := dk_182 0 48 (dk_at dksX4_setsFactor_0 3 rfl rfl)
theorem dX4_setsFactor_6 : decode cX4_setsFactor 6 = .ok (.istore_n 3, 1) := dk_62 (dk_at dksX4_setsFactor_0 6 rfl rfl)
theorem dX4_setsFactor_7 : decode cX4_setsFactor 7 = .ok (.aload_n 0, 1) := dk_42 (dk_at dksX4_setsFactor_0 7 rfl rfl)
theorem dX4_setsFactor_8 : decode cX4_setsFactor 8 = .ok (.iload_n 1, 1) := dk_27 (dk_at dksX4_setsFactor_0 8 rfl rfl)
theorem dX4_setsFactor_9 : decode cX4_setsFactor 9 = .ok (.iconst 1, 1) := dk_4 (dk_at dksX4_setsFactor_0 9 rfl rfl)
theorem dX4_setsFactor_10 : decode cX4_setsFactor 10 = .ok (.iload_n 2, 1) := dk_28 (dk_at dksX4_setsFactor_0 10 rfl rfl)
theorem dX4_setsFactor_11 : decode cX4_setsFactor 11 = .ok (.invokevirtual 63, 3) := dk_182 0 63 (dk_at dksX4_setsFactor_0 11 rfl rfl)
theorem dX4_setsFactor_14 : decode cX4_setsFactor 14 = .ok (.iload_n 3, 1) := dk_29 (dk_at dksX4_setsFactor_0 14 rfl rfl)
theorem dX4_setsFactor_15 : decode cX4_setsFactor 15 = .ok (.ireturn, 1) := dk_172 (dk_at dksX4_setsFactor_0 15 rfl rfl)
abbrev cX4_setSpeed : ByteArray := prog_17_method_29_code
def yX4_setSpeed : MethodName := ⟨RX4, "setSpeed", "(II)I"⟩
def dkwX4_setSpeed_2 : List UInt8 := [3, 172, 42, 182, 0, 71, 42, 27, 5, 182, 0, 48, 62, 42, 27, 5, 28, 182, 0, 63, 29, 172]
abbrev dktX4_setSpeed_2 : List UInt8 := dkwX4_setSpeed_2 ++ []
def dkwX4_setSpeed_1 : List UInt8 := [17, 3, 232, 184, 0, 44, 153, 0, 7, 3, 167, 0, 4, 5, 181, 0, 37, 42, 180, 0, 37, 158, 0, 5]
abbrev dktX4_setSpeed_1 : List UInt8 := dkwX4_setSpeed_1 ++ dktX4_setSpeed_2
def dkwX4_setSpeed_0 : List UInt8 := [42, 42, 27, 182, 0, 52, 154, 0, 7, 4, 167, 0, 28, 42, 27, 182, 0, 56, 4, 160, 0, 18, 28, 4]
abbrev dktX4_setSpeed_0 : List UInt8 := dkwX4_setSpeed_0 ++ dktX4_setSpeed_1
theorem dksX4_setSpeed_0 : cX4_setSpeed.data.toList.drop 0 = dktX4_setSpeed_0 := by decide +kernel
theorem dksX4_setSpeed_1 : cX4_setSpeed.data.toList.drop 24 = dktX4_setSpeed_1 := dk_seg dksX4_setSpeed_0 24 rfl rfl
theorem dksX4_setSpeed_2 : cX4_setSpeed.data.toList.drop 48 = dktX4_setSpeed_2 := dk_seg dksX4_setSpeed_1 24 rfl rfl
theorem dX4_setSpeed_0 : decode cX4_setSpeed 0 = .ok (.aload_n 0, 1) := dk_42 (dk_at dksX4_setSpeed_0 0 rfl rfl)
theorem dX4_setSpeed_1 : decode cX4_setSpeed 1 = .ok (.aload_n 0, 1) := dk_42 (dk_at dksX4_setSpeed_0 1 rfl rfl)
theorem dX4_setSpeed_2 : decode cX4_setSpeed 2 = .ok (.iload_n 1, 1) := dk_27 (dk_at dksX4_setSpeed_0 2 rfl rfl)
theorem dX4_setSpeed_3 : decode cX4_setSpeed 3 = .ok (.invokevirtual 52, 3) := dk_182 0 52 (dk_at dksX4_setSpeed_0 3 rfl rfl)
theorem dX4_setSpeed_6 : decode cX4_setSpeed 6 = .ok (.ifCond .ne 7, 3) := dk_154 0 7 (dk_at dksX4_setSpeed_0 6 rfl rfl)
theorem dX4_setSpeed_9 : decode cX4_setSpeed 9 = .ok (.iconst 1, 1) := dk_4 (dk_at dksX4_setSpeed_0 9 rfl rfl)
theorem dX4_setSpeed_10 : decode cX4_setSpeed 10 = .ok (.goto 28, 3) := dk_167 0 28 (dk_at dksX4_setSpeed_0 10 rfl rfl)
theorem dX4_setSpeed_13 : decode cX4_setSpeed 13 = .ok (.aload_n 0, 1) := dk_42 (dk_at dksX4_setSpeed_0 13 rfl rfl)
theorem dX4_setSpeed_14 : decode cX4_setSpeed 14 = .ok (.iload_n 1, 1) := dk_27 (dk_at dksX4_setSpeed_0 14 rfl rfl)
theorem dX4_setSpeed_15 : decode cX4_setSpeed 15 = .ok (.invokevirtual 56, 3) := dk_182 0 56 (dk_at dksX4_setSpeed_0 15 rfl rfl)
theorem dX4_setSpeed_18 : decode cX4_setSpeed 18 = .ok (.iconst 1, 1) := dk_4 (dk_at dksX4_setSpeed_0 18 rfl rfl)
theorem dX4_setSpeed_19 : decode cX4_setSpeed 19 = .ok (.if_icmp .ne 18, 3) := dk_160 0 18 (dk_at dksX4_setSpeed_0 19 rfl rfl)
theorem dX4_setSpeed_22 : decode cX4_setSpeed 22 = .ok (.iload_n 2, 1) := dk_28 (dk_at dksX4_setSpeed_0 22 rfl rfl)
theorem dX4_setSpeed_23 : decode cX4_setSpeed 23 = .ok (.iconst 1, 1) := dk_4 (dk_at dksX4_setSpeed_0 23 rfl rfl)
theorem dX4_setSpeed_24 : decode cX4_setSpeed 24 = .ok (.sipush 1000, 3) := dk_17 3 232 (dk_at dksX4_setSpeed_1 0 rfl rfl)
theorem dX4_setSpeed_27 : decode cX4_setSpeed 27 = .ok (.invokestatic 44, 3) := dk_184 0 44 (dk_at dksX4_setSpeed_1 3 rfl rfl)
theorem dX4_setSpeed_30 : decode cX4_setSpeed 30 = .ok (.ifCond .eq 7, 3) := dk_153 0 7 (dk_at dksX4_setSpeed_1 6 rfl rfl)
theorem dX4_setSpeed_33 : decode cX4_setSpeed 33 = .ok (.iconst 0, 1) := dk_3 (dk_at dksX4_setSpeed_1 9 rfl rfl)
theorem dX4_setSpeed_34 : decode cX4_setSpeed 34 = .ok (.goto 4, 3) := dk_167 0 4 (dk_at dksX4_setSpeed_1 10 rfl rfl)
theorem dX4_setSpeed_37 : decode cX4_setSpeed 37 = .ok (.iconst 2, 1) := dk_5 (dk_at dksX4_setSpeed_1 13 rfl rfl)
theorem dX4_setSpeed_38 : decode cX4_setSpeed 38 = .ok (.putfield 37, 3) := dk_181 0 37 (dk_at dksX4_setSpeed_1 14 rfl rfl)
theorem dX4_setSpeed_41 : decode cX4_setSpeed 41 = .ok (.aload_n 0, 1) := dk_42 (dk_at dksX4_setSpeed_1 17 rfl rfl)
theorem dX4_setSpeed_42 : decode cX4_setSpeed 42 = .ok (.getfield 37, 3) := dk_180 0 37 (dk_at dksX4_setSpeed_1 18 rfl rfl)
theorem dX4_setSpeed_45 : decode cX4_setSpeed 45 = .ok (.ifCond .le 5, 3) := dk_158 0 5 (dk_at dksX4_setSpeed_1 21 rfl rfl)
theorem dX4_setSpeed_48 : decode cX4_setSpeed 48 = .ok (.iconst 0, 1) := dk_3 (dk_at dksX4_setSpeed_2 0 rfl rfl)
theorem dX4_setSpeed_49 : decode cX4_setSpeed 49 = .ok (.ireturn, 1) := dk_172 (dk_at dksX4_setSpeed_2 1 rfl rfl)
theorem dX4_setSpeed_50 : decode cX4_setSpeed 50 = .ok (.aload_n 0, 1) := dk_42 (dk_at dksX4_setSpeed_2 2 rfl rfl)
theorem dX4_setSpeed_51 : decode cX4_setSpeed 51 = .ok (.invokevirtual 71, 3) := dk_182 0 71 (dk_at dksX4_setSpeed_2 3 rfl rfl)
theorem dX4_setSpeed_54 : decode cX4_setSpeed 54 = .ok (.aload_n 0, 1) := dk_42 (dk_at dksX4_setSpeed_2 6 rfl rfl)
theorem dX4_setSpeed_55 : decode cX4_setSpeed 55 = .ok (.iload_n 1, 1) := dk_27 (dk_at dksX4_setSpeed_2 7 rfl rfl)
theorem dX4_setSpeed_56 : decode cX4_setSpeed 56 = .ok (.iconst 2, 1) := dk_5 (dk_at dksX4_setSpeed_2 8 rfl rfl)
theorem dX4_setSpeed_57 : decode cX4_setSpeed 57 = .ok (.invokevirtual 48, 3) := dk_182 0 48 (dk_at dksX4_setSpeed_2 9 rfl rfl)
theorem dX4_setSpeed_60 : decode cX4_setSpeed 60 = .ok (.istore_n 3, 1) := dk_62 (dk_at dksX4_setSpeed_2 12 rfl rfl)
theorem dX4_setSpeed_61 : decode cX4_setSpeed 61 = .ok (.aload_n 0, 1) := dk_42 (dk_at dksX4_setSpeed_2 13 rfl rfl)
theorem dX4_setSpeed_62 : decode cX4_setSpeed 62 = .ok (.iload_n 1, 1) := dk_27 (dk_at dksX4_setSpeed_2 14 rfl rfl)
theorem dX4_setSpeed_63 : decode cX4_setSpeed 63 = .ok (.iconst 2, 1) := dk_5 (dk_at dksX4_setSpeed_2 15 rfl rfl)
theorem dX4_setSpeed_64 : decode cX4_setSpeed 64 = .ok (.iload_n 2, 1) := dk_28 (dk_at dksX4_setSpeed_2 16 rfl rfl)
theorem dX4_setSpeed_65 : decode cX4_setSpeed 65 = .ok (.invokevirtual 63, 3) := dk_182 0 63 (dk_at dksX4_setSpeed_2 17 rfl rfl)
theorem dX4_setSpeed_68 : decode cX4_setSpeed 68 = .ok (.iload_n 3, 1) := dk_29 (dk_at dksX4_setSpeed_2 20 rfl rfl)
theorem dX4_setSpeed_69 : decode cX4_setSpeed 69 = .ok (.ireturn, 1) := dk_172 (dk_at dksX4_setSpeed_2 21 rfl rfl)
abbrev cX4_join : ByteArray := prog_17_method_35_code
def yX4_join : MethodName := ⟨RX4, "join", "(III)I"⟩
def dkwX4_join_1 : List UInt8 := [42, 27, 28, 29, 182, 0, 119, 172]
abbrev dktX4_join_1 : List UInt8 := dkwX4_join_1 ++ []
def dkwX4_join_0 : List UInt8 := [42, 42, 27, 28, 29, 182, 0, 115, 181, 0, 37, 42, 180, 0, 37, 158, 0, 5, 3, 172, 42, 182, 0, 71]
abbrev dktX4_join_0 : List UInt8 := dkwX4_join_0 ++ dktX4_join_1
theorem dksX4_join_0 : cX4_join.data.toList.drop 0 = dktX4_join_0 := by decide +kernel
theorem dksX4_join_1 : cX4_join.data.toList.drop 24 = dktX4_join_1 := dk_seg dksX4_join_0 24 rfl rfl
theorem dX4_join_0 : decode cX4_join 0 = .ok (.aload_n 0, 1) := dk_42 (dk_at dksX4_join_0 0 rfl rfl)
theorem dX4_join_1 : decode cX4_join 1 = .ok (.aload_n 0, 1) := dk_42 (dk_at dksX4_join_0 1 rfl rfl)
theorem dX4_join_2 : decode cX4_join 2 = .ok (.iload_n 1, 1) := dk_27 (dk_at dksX4_join_0 2 rfl rfl)
theorem dX4_join_3 : decode cX4_join 3 = .ok (.iload_n 2, 1) := dk_28 (dk_at dksX4_join_0 3 rfl rfl)
theorem dX4_join_4 : decode cX4_join 4 = .ok (.iload_n 3, 1) := dk_29 (dk_at dksX4_join_0 4 rfl rfl)
theorem dX4_join_5 : decode cX4_join 5 = .ok (.invokevirtual 115, 3) := dk_182 0 115 (dk_at dksX4_join_0 5 rfl rfl)
theorem dX4_join_8 : decode cX4_join 8 = .ok (.putfield 37, 3) := dk_181 0 37 (dk_at dksX4_join_0 8 rfl rfl)
theorem dX4_join_11 : decode cX4_join 11 = .ok (.aload_n 0, 1) := dk_42 (dk_at dksX4_join_0 11 rfl rfl)
theorem dX4_join_12 : decode cX4_join 12 = .ok (.getfield 37, 3) := dk_180 0 37 (dk_at dksX4_join_0 12 rfl rfl)
theorem dX4_join_15 : decode cX4_join 15 = .ok (.ifCond .le 5, 3) := dk_158 0 5 (dk_at dksX4_join_0 15 rfl rfl)
theorem dX4_join_18 : decode cX4_join 18 = .ok (.iconst 0, 1) := dk_3 (dk_at dksX4_join_0 18 rfl rfl)
theorem dX4_join_19 : decode cX4_join 19 = .ok (.ireturn, 1) := dk_172 (dk_at dksX4_join_0 19 rfl rfl)
theorem dX4_join_20 : decode cX4_join 20 = .ok (.aload_n 0, 1) := dk_42 (dk_at dksX4_join_0 20 rfl rfl)
theorem dX4_join_21 : decode cX4_join 21 = .ok (.invokevirtual 71, 3) := dk_182 0 71 (dk_at dksX4_join_0 21 rfl rfl)
theorem dX4_join_24 : decode cX4_join 24 = .ok (.aload_n 0, 1) := dk_42 (dk_at dksX4_join_1 0 rfl rfl)
theorem dX4_join_25 : decode cX4_join 25 = .ok (.iload_n 1, 1) := dk_27 (dk_at dksX4_join_1 1 rfl rfl)
theorem dX4_join_26 : decode cX4_join 26 = .ok (.iload_n 2, 1) := dk_28 (dk_at dksX4_join_1 2 rfl rfl)
theorem dX4_join_27 : decode cX4_join 27 = .ok (.iload_n 3, 1) := dk_29 (dk_at dksX4_join_1 3 rfl rfl)
theorem dX4_join_28 : decode cX4_join 28 = .ok (.invokevirtual 119, 3) := dk_182 0 119 (dk_at dksX4_join_1 4 rfl rfl)
theorem dX4_join_31 : decode cX4_join 31 = .ok (.ireturn, 1) := dk_172 (dk_at dksX4_join_1 7 rfl rfl)
abbrev cX4_whyNoJoin : ByteArray := prog_17_method_33_code
def yX4_whyNoJoin : MethodName := ⟨RX4, "whyNoJoin", "(III)I"⟩
def dkwX4_whyNoJoin_1 : List UInt8 := [182, 0, 112, 153, 0, 7, 5, 167, 0, 4, 3, 172]
abbrev dktX4_whyNoJoin_1 : List UInt8 := dkwX4_whyNoJoin_1 ++ []
def dkwX4_whyNoJoin_0 : List UInt8 := [42, 27, 182, 0, 52, 153, 0, 12, 42, 28, 29, 182, 0, 80, 154, 0, 7, 4, 167, 0, 17, 42, 27, 28]
abbrev dktX4_whyNoJoin_0 : List UInt8 := dkwX4_whyNoJoin_0 ++ dktX4_whyNoJoin_1
theorem dksX4_whyNoJoin_0 : cX4_whyNoJoin.data.toList.drop 0 = dktX4_whyNoJoin_0 := by decide +kernel
theorem dksX4_whyNoJoin_1 : cX4_whyNoJoin.data.toList.drop 24 = dktX4_whyNoJoin_1 := dk_seg dksX4_whyNoJoin_0 24 rfl rfl
theorem dX4_whyNoJoin_0 : decode cX4_whyNoJoin 0 = .ok (.aload_n 0, 1) := dk_42 (dk_at dksX4_whyNoJoin_0 0 rfl rfl)
theorem dX4_whyNoJoin_1 : decode cX4_whyNoJoin 1 = .ok (.iload_n 1, 1) := dk_27 (dk_at dksX4_whyNoJoin_0 1 rfl rfl)
theorem dX4_whyNoJoin_2 : decode cX4_whyNoJoin 2 = .ok (.invokevirtual 52, 3) := dk_182 0 52 (dk_at dksX4_whyNoJoin_0 2 rfl rfl)
theorem dX4_whyNoJoin_5 : decode cX4_whyNoJoin 5 = .ok (.ifCond .eq 12, 3) := dk_153 0 12 (dk_at dksX4_whyNoJoin_0 5 rfl rfl)
theorem dX4_whyNoJoin_8 : decode cX4_whyNoJoin 8 = .ok (.aload_n 0, 1) := dk_42 (dk_at dksX4_whyNoJoin_0 8 rfl rfl)
theorem dX4_whyNoJoin_9 : decode cX4_whyNoJoin 9 = .ok (.iload_n 2, 1) := dk_28 (dk_at dksX4_whyNoJoin_0 9 rfl rfl)
theorem dX4_whyNoJoin_10 : decode cX4_whyNoJoin 10 = .ok (.iload_n 3, 1) := dk_29 (dk_at dksX4_whyNoJoin_0 10 rfl rfl)
theorem dX4_whyNoJoin_11 : decode cX4_whyNoJoin 11 = .ok (.invokevirtual 80, 3) := dk_182 0 80 (dk_at dksX4_whyNoJoin_0 11 rfl rfl)
theorem dX4_whyNoJoin_14 : decode cX4_whyNoJoin 14 = .ok (.ifCond .ne 7, 3) := dk_154 0 7 (dk_at dksX4_whyNoJoin_0 14 rfl rfl)
theorem dX4_whyNoJoin_17 : decode cX4_whyNoJoin 17 = .ok (.iconst 1, 1) := dk_4 (dk_at dksX4_whyNoJoin_0 17 rfl rfl)
theorem dX4_whyNoJoin_18 : decode cX4_whyNoJoin 18 = .ok (.goto 17, 3) := dk_167 0 17 (dk_at dksX4_whyNoJoin_0 18 rfl rfl)
theorem dX4_whyNoJoin_21 : decode cX4_whyNoJoin 21 = .ok (.aload_n 0, 1) := dk_42 (dk_at dksX4_whyNoJoin_0 21 rfl rfl)
theorem dX4_whyNoJoin_22 : decode cX4_whyNoJoin 22 = .ok (.iload_n 1, 1) := dk_27 (dk_at dksX4_whyNoJoin_0 22 rfl rfl)
theorem dX4_whyNoJoin_23 : decode cX4_whyNoJoin 23 = .ok (.iload_n 2, 1) := dk_28 (dk_at dksX4_whyNoJoin_0 23 rfl rfl)
theorem dX4_whyNoJoin_24 : decode cX4_whyNoJoin 24 = .ok (.invokevirtual 112, 3) := dk_182 0 112 (dk_at dksX4_whyNoJoin_1 0 rfl rfl)
theorem dX4_whyNoJoin_27 : decode cX4_whyNoJoin 27 = .ok (.ifCond .eq 7, 3) := dk_153 0 7 (dk_at dksX4_whyNoJoin_1 3 rfl rfl)
theorem dX4_whyNoJoin_30 : decode cX4_whyNoJoin 30 = .ok (.iconst 2, 1) := dk_5 (dk_at dksX4_whyNoJoin_1 6 rfl rfl)
theorem dX4_whyNoJoin_31 : decode cX4_whyNoJoin 31 = .ok (.goto 4, 3) := dk_167 0 4 (dk_at dksX4_whyNoJoin_1 7 rfl rfl)
theorem dX4_whyNoJoin_34 : decode cX4_whyNoJoin 34 = .ok (.iconst 0, 1) := dk_3 (dk_at dksX4_whyNoJoin_1 10 rfl rfl)
theorem dX4_whyNoJoin_35 : decode cX4_whyNoJoin 35 = .ok (.ireturn, 1) := dk_172 (dk_at dksX4_whyNoJoin_1 11 rfl rfl)
abbrev cX4_circles : ByteArray := prog_17_method_32_code
def yX4_circles : MethodName := ⟨RX4, "circles", "(II)Z"⟩
def dkwX4_circles_1 : List UInt8 := [159, 0, 16, 42, 27, 3, 182, 0, 108, 28, 184, 0, 105, 153, 0, 7, 4, 167, 0, 4, 3, 172]
abbrev dktX4_circles_1 : List UInt8 := dkwX4_circles_1 ++ []
def dkwX4_circles_0 : List UInt8 := [42, 27, 182, 0, 56, 4, 159, 0, 12, 42, 28, 182, 0, 56, 4, 160, 0, 5, 3, 172, 27, 28]
abbrev dktX4_circles_0 : List UInt8 := dkwX4_circles_0 ++ dktX4_circles_1
theorem dksX4_circles_0 : cX4_circles.data.toList.drop 0 = dktX4_circles_0 := by decide +kernel
theorem dksX4_circles_1 : cX4_circles.data.toList.drop 22 = dktX4_circles_1 := dk_seg dksX4_circles_0 22 rfl rfl
theorem dX4_circles_0 : decode cX4_circles 0 = .ok (.aload_n 0, 1) := dk_42 (dk_at dksX4_circles_0 0 rfl rfl)
theorem dX4_circles_1 : decode cX4_circles 1 = .ok (.iload_n 1, 1) := dk_27 (dk_at dksX4_circles_0 1 rfl rfl)
theorem dX4_circles_2 : decode cX4_circles 2 = .ok (.invokevirtual 56, 3) := dk_182 0 56 (dk_at dksX4_circles_0 2 rfl rfl)
theorem dX4_circles_5 : decode cX4_circles 5 = .ok (.iconst 1, 1) := dk_4 (dk_at dksX4_circles_0 5 rfl rfl)
theorem dX4_circles_6 : decode cX4_circles 6 = .ok (.if_icmp .eq 12, 3) := dk_159 0 12 (dk_at dksX4_circles_0 6 rfl rfl)
theorem dX4_circles_9 : decode cX4_circles 9 = .ok (.aload_n 0, 1) := dk_42 (dk_at dksX4_circles_0 9 rfl rfl)
theorem dX4_circles_10 : decode cX4_circles 10 = .ok (.iload_n 2, 1) := dk_28 (dk_at dksX4_circles_0 10 rfl rfl)
theorem dX4_circles_11 : decode cX4_circles 11 = .ok (.invokevirtual 56, 3) := dk_182 0 56 (dk_at dksX4_circles_0 11 rfl rfl)
theorem dX4_circles_14 : decode cX4_circles 14 = .ok (.iconst 1, 1) := dk_4 (dk_at dksX4_circles_0 14 rfl rfl)
theorem dX4_circles_15 : decode cX4_circles 15 = .ok (.if_icmp .ne 5, 3) := dk_160 0 5 (dk_at dksX4_circles_0 15 rfl rfl)
theorem dX4_circles_18 : decode cX4_circles 18 = .ok (.iconst 0, 1) := dk_3 (dk_at dksX4_circles_0 18 rfl rfl)
theorem dX4_circles_19 : decode cX4_circles 19 = .ok (.ireturn, 1) := dk_172 (dk_at dksX4_circles_0 19 rfl rfl)
theorem dX4_circles_20 : decode cX4_circles 20 = .ok (.iload_n 1, 1) := dk_27 (dk_at dksX4_circles_0 20 rfl rfl)
theorem dX4_circles_21 : decode cX4_circles 21 = .ok (.iload_n 2, 1) := dk_28 (dk_at dksX4_circles_0 21 rfl rfl)
theorem dX4_circles_22 : decode cX4_circles 22 = .ok (.if_icmp .eq 16, 3) := dk_159 0 16 (dk_at dksX4_circles_1 0 rfl rfl)
theorem dX4_circles_25 : decode cX4_circles 25 = .ok (.aload_n 0, 1) := dk_42 (dk_at dksX4_circles_1 3 rfl rfl)
theorem dX4_circles_26 : decode cX4_circles 26 = .ok (.iload_n 1, 1) := dk_27 (dk_at dksX4_circles_1 4 rfl rfl)
theorem dX4_circles_27 : decode cX4_circles 27 = .ok (.iconst 0, 1) := dk_3 (dk_at dksX4_circles_1 5 rfl rfl)
theorem dX4_circles_28 : decode cX4_circles 28 = .ok (.invokevirtual 108, 3) := dk_182 0 108 (dk_at dksX4_circles_1 6 rfl rfl)
theorem dX4_circles_31 : decode cX4_circles 31 = .ok (.iload_n 2, 1) := dk_28 (dk_at dksX4_circles_1 9 rfl rfl)
theorem dX4_circles_32 : decode cX4_circles 32 = .ok (.invokestatic 105, 3) := dk_184 0 105 (dk_at dksX4_circles_1 10 rfl rfl)
theorem dX4_circles_35 : decode cX4_circles 35 = .ok (.ifCond .eq 7, 3) := dk_153 0 7 (dk_at dksX4_circles_1 13 rfl rfl)
theorem dX4_circles_38 : decode cX4_circles 38 = .ok (.iconst 1, 1) := dk_4 (dk_at dksX4_circles_1 16 rfl rfl)
theorem dX4_circles_39 : decode cX4_circles 39 = .ok (.goto 4, 3) := dk_167 0 4 (dk_at dksX4_circles_1 17 rfl rfl)
theorem dX4_circles_42 : decode cX4_circles 42 = .ok (.iconst 0, 1) := dk_3 (dk_at dksX4_circles_1 20 rfl rfl)
theorem dX4_circles_43 : decode cX4_circles 43 = .ok (.ireturn, 1) := dk_172 (dk_at dksX4_circles_1 21 rfl rfl)
abbrev cX4_depends : ByteArray := prog_17_method_31_code
def yX4_depends : MethodName := ⟨RX4, "depends", "(IZ)I"⟩
def dkwX4_depends_4 : List UInt8 := [167, 255, 189, 29, 172]
abbrev dktX4_depends_4 : List UInt8 := dkwX4_depends_4 ++ []
def dkwX4_depends_3 : List UInt8 := [4, 159, 0, 12, 42, 21, 5, 182, 0, 102, 167, 0, 4, 3, 128, 54, 4, 132, 5, 1, 167, 255, 204]
abbrev dktX4_depends_3 : List UInt8 := dkwX4_depends_3 ++ dktX4_depends_4
def dkwX4_depends_2 : List UInt8 := [162, 0, 47, 21, 4, 29, 21, 5, 184, 0, 105, 153, 0, 26, 28, 154, 0, 13, 42, 21, 5, 182, 0, 56]
abbrev dktX4_depends_2 : List UInt8 := dkwX4_depends_2 ++ dktX4_depends_3
def dkwX4_depends_1 : List UInt8 := [54, 4, 21, 4, 29, 159, 0, 67, 21, 4, 62, 3, 54, 5, 21, 5, 42, 180, 0, 7, 3, 46]
abbrev dktX4_depends_1 : List UInt8 := dkwX4_depends_1 ++ dktX4_depends_2
def dkwX4_depends_0 : List UInt8 := [3, 62, 28, 154, 0, 12, 42, 27, 182, 0, 56, 4, 159, 0, 11, 42, 27, 182, 0, 102, 167, 0, 4, 3]
abbrev dktX4_depends_0 : List UInt8 := dkwX4_depends_0 ++ dktX4_depends_1
theorem dksX4_depends_0 : cX4_depends.data.toList.drop 0 = dktX4_depends_0 := by decide +kernel
theorem dksX4_depends_1 : cX4_depends.data.toList.drop 24 = dktX4_depends_1 := dk_seg dksX4_depends_0 24 rfl rfl
theorem dksX4_depends_2 : cX4_depends.data.toList.drop 46 = dktX4_depends_2 := dk_seg dksX4_depends_1 22 rfl rfl
theorem dksX4_depends_3 : cX4_depends.data.toList.drop 70 = dktX4_depends_3 := dk_seg dksX4_depends_2 24 rfl rfl
theorem dksX4_depends_4 : cX4_depends.data.toList.drop 93 = dktX4_depends_4 := dk_seg dksX4_depends_3 23 rfl rfl
theorem dX4_depends_0 : decode cX4_depends 0 = .ok (.iconst 0, 1) := dk_3 (dk_at dksX4_depends_0 0 rfl rfl)
theorem dX4_depends_1 : decode cX4_depends 1 = .ok (.istore_n 3, 1) := dk_62 (dk_at dksX4_depends_0 1 rfl rfl)
theorem dX4_depends_2 : decode cX4_depends 2 = .ok (.iload_n 2, 1) := dk_28 (dk_at dksX4_depends_0 2 rfl rfl)
theorem dX4_depends_3 : decode cX4_depends 3 = .ok (.ifCond .ne 12, 3) := dk_154 0 12 (dk_at dksX4_depends_0 3 rfl rfl)
theorem dX4_depends_6 : decode cX4_depends 6 = .ok (.aload_n 0, 1) := dk_42 (dk_at dksX4_depends_0 6 rfl rfl)
theorem dX4_depends_7 : decode cX4_depends 7 = .ok (.iload_n 1, 1) := dk_27 (dk_at dksX4_depends_0 7 rfl rfl)
theorem dX4_depends_8 : decode cX4_depends 8 = .ok (.invokevirtual 56, 3) := dk_182 0 56 (dk_at dksX4_depends_0 8 rfl rfl)
theorem dX4_depends_11 : decode cX4_depends 11 = .ok (.iconst 1, 1) := dk_4 (dk_at dksX4_depends_0 11 rfl rfl)
theorem dX4_depends_12 : decode cX4_depends 12 = .ok (.if_icmp .eq 11, 3) := dk_159 0 11 (dk_at dksX4_depends_0 12 rfl rfl)
theorem dX4_depends_15 : decode cX4_depends 15 = .ok (.aload_n 0, 1) := dk_42 (dk_at dksX4_depends_0 15 rfl rfl)
theorem dX4_depends_16 : decode cX4_depends 16 = .ok (.iload_n 1, 1) := dk_27 (dk_at dksX4_depends_0 16 rfl rfl)
theorem dX4_depends_17 : decode cX4_depends 17 = .ok (.invokevirtual 102, 3) := dk_182 0 102 (dk_at dksX4_depends_0 17 rfl rfl)
theorem dX4_depends_20 : decode cX4_depends 20 = .ok (.goto 4, 3) := dk_167 0 4 (dk_at dksX4_depends_0 20 rfl rfl)
theorem dX4_depends_23 : decode cX4_depends 23 = .ok (.iconst 0, 1) := dk_3 (dk_at dksX4_depends_0 23 rfl rfl)
theorem dX4_depends_24 : decode cX4_depends 24 = .ok (.istore 4, 2) := dk_54 4 (dk_at dksX4_depends_1 0 rfl rfl)
theorem dX4_depends_26 : decode cX4_depends 26 = .ok (.iload 4, 2) := dk_21 4 (dk_at dksX4_depends_1 2 rfl rfl)
theorem dX4_depends_28 : decode cX4_depends 28 = .ok (.iload_n 3, 1) := dk_29 (dk_at dksX4_depends_1 4 rfl rfl)
theorem dX4_depends_29 : decode cX4_depends 29 = .ok (.if_icmp .eq 67, 3) := dk_159 0 67 (dk_at dksX4_depends_1 5 rfl rfl)
theorem dX4_depends_32 : decode cX4_depends 32 = .ok (.iload 4, 2) := dk_21 4 (dk_at dksX4_depends_1 8 rfl rfl)
theorem dX4_depends_34 : decode cX4_depends 34 = .ok (.istore_n 3, 1) := dk_62 (dk_at dksX4_depends_1 10 rfl rfl)
theorem dX4_depends_35 : decode cX4_depends 35 = .ok (.iconst 0, 1) := dk_3 (dk_at dksX4_depends_1 11 rfl rfl)
theorem dX4_depends_36 : decode cX4_depends 36 = .ok (.istore 5, 2) := dk_54 5 (dk_at dksX4_depends_1 12 rfl rfl)
theorem dX4_depends_38 : decode cX4_depends 38 = .ok (.iload 5, 2) := dk_21 5 (dk_at dksX4_depends_1 14 rfl rfl)
theorem dX4_depends_40 : decode cX4_depends 40 = .ok (.aload_n 0, 1) := dk_42 (dk_at dksX4_depends_1 16 rfl rfl)
theorem dX4_depends_41 : decode cX4_depends 41 = .ok (.getfield 7, 3) := dk_180 0 7 (dk_at dksX4_depends_1 17 rfl rfl)
theorem dX4_depends_44 : decode cX4_depends 44 = .ok (.iconst 0, 1) := dk_3 (dk_at dksX4_depends_1 20 rfl rfl)
theorem dX4_depends_45 : decode cX4_depends 45 = .ok (.iaload, 1) := dk_46 (dk_at dksX4_depends_1 21 rfl rfl)
theorem dX4_depends_46 : decode cX4_depends 46 = .ok (.if_icmp .ge 47, 3) := dk_162 0 47 (dk_at dksX4_depends_2 0 rfl rfl)
theorem dX4_depends_49 : decode cX4_depends 49 = .ok (.iload 4, 2) := dk_21 4 (dk_at dksX4_depends_2 3 rfl rfl)
theorem dX4_depends_51 : decode cX4_depends 51 = .ok (.iload_n 3, 1) := dk_29 (dk_at dksX4_depends_2 5 rfl rfl)
theorem dX4_depends_52 : decode cX4_depends 52 = .ok (.iload 5, 2) := dk_21 5 (dk_at dksX4_depends_2 6 rfl rfl)
theorem dX4_depends_54 : decode cX4_depends 54 = .ok (.invokestatic 105, 3) := dk_184 0 105 (dk_at dksX4_depends_2 8 rfl rfl)
theorem dX4_depends_57 : decode cX4_depends 57 = .ok (.ifCond .eq 26, 3) := dk_153 0 26 (dk_at dksX4_depends_2 11 rfl rfl)
theorem dX4_depends_60 : decode cX4_depends 60 = .ok (.iload_n 2, 1) := dk_28 (dk_at dksX4_depends_2 14 rfl rfl)
theorem dX4_depends_61 : decode cX4_depends 61 = .ok (.ifCond .ne 13, 3) := dk_154 0 13 (dk_at dksX4_depends_2 15 rfl rfl)
theorem dX4_depends_64 : decode cX4_depends 64 = .ok (.aload_n 0, 1) := dk_42 (dk_at dksX4_depends_2 18 rfl rfl)
theorem dX4_depends_65 : decode cX4_depends 65 = .ok (.iload 5, 2) := dk_21 5 (dk_at dksX4_depends_2 19 rfl rfl)
theorem dX4_depends_67 : decode cX4_depends 67 = .ok (.invokevirtual 56, 3) := dk_182 0 56 (dk_at dksX4_depends_2 21 rfl rfl)
theorem dX4_depends_70 : decode cX4_depends 70 = .ok (.iconst 1, 1) := dk_4 (dk_at dksX4_depends_3 0 rfl rfl)
theorem dX4_depends_71 : decode cX4_depends 71 = .ok (.if_icmp .eq 12, 3) := dk_159 0 12 (dk_at dksX4_depends_3 1 rfl rfl)
theorem dX4_depends_74 : decode cX4_depends 74 = .ok (.aload_n 0, 1) := dk_42 (dk_at dksX4_depends_3 4 rfl rfl)
theorem dX4_depends_75 : decode cX4_depends 75 = .ok (.iload 5, 2) := dk_21 5 (dk_at dksX4_depends_3 5 rfl rfl)
theorem dX4_depends_77 : decode cX4_depends 77 = .ok (.invokevirtual 102, 3) := dk_182 0 102 (dk_at dksX4_depends_3 7 rfl rfl)
theorem dX4_depends_80 : decode cX4_depends 80 = .ok (.goto 4, 3) := dk_167 0 4 (dk_at dksX4_depends_3 10 rfl rfl)
theorem dX4_depends_83 : decode cX4_depends 83 = .ok (.iconst 0, 1) := dk_3 (dk_at dksX4_depends_3 13 rfl rfl)
theorem dX4_depends_84 : decode cX4_depends 84 = .ok (.ior, 1) := dk_128 (dk_at dksX4_depends_3 14 rfl rfl)
theorem dX4_depends_85 : decode cX4_depends 85 = .ok (.istore 4, 2) := dk_54 4 (dk_at dksX4_depends_3 15 rfl rfl)
theorem dX4_depends_87 : decode cX4_depends 87 = .ok (.iinc 5 1, 3) := dk_132 5 1 (dk_at dksX4_depends_3 17 rfl rfl)
theorem dX4_depends_90 : decode cX4_depends 90 = .ok (.goto (-52), 3) := dk_167 255 204 (dk_at dksX4_depends_3 20 rfl rfl)
theorem dX4_depends_93 : decode cX4_depends 93 = .ok (.goto (-67), 3) := dk_167 255 189 (dk_at dksX4_depends_4 0 rfl rfl)
theorem dX4_depends_96 : decode cX4_depends 96 = .ok (.iload_n 3, 1) := dk_29 (dk_at dksX4_depends_4 3 rfl rfl)
theorem dX4_depends_97 : decode cX4_depends 97 = .ok (.ireturn, 1) := dk_172 (dk_at dksX4_depends_4 4 rfl rfl)
abbrev cX4_feedersOf : ByteArray := prog_17_method_30_code
def yX4_feedersOf : MethodName := ⟨RX4, "feedersOf", "(I)I"⟩
def dkwX4_feedersOf_1 : List UInt8 := [167, 0, 13, 4, 42, 27, 8, 29, 96, 182, 0, 48, 120, 128, 61, 132, 3, 1, 167, 255, 219, 28, 172]
abbrev dktX4_feedersOf_1 : List UInt8 := dkwX4_feedersOf_1 ++ []
def dkwX4_feedersOf_0 : List UInt8 := [3, 61, 3, 62, 29, 7, 162, 0, 38, 28, 42, 27, 8, 29, 96, 182, 0, 48, 2, 160, 0, 7, 3]
abbrev dktX4_feedersOf_0 : List UInt8 := dkwX4_feedersOf_0 ++ dktX4_feedersOf_1
theorem dksX4_feedersOf_0 : cX4_feedersOf.data.toList.drop 0 = dktX4_feedersOf_0 := by decide +kernel
theorem dksX4_feedersOf_1 : cX4_feedersOf.data.toList.drop 23 = dktX4_feedersOf_1 := dk_seg dksX4_feedersOf_0 23 rfl rfl
theorem dX4_feedersOf_0 : decode cX4_feedersOf 0 = .ok (.iconst 0, 1) := dk_3 (dk_at dksX4_feedersOf_0 0 rfl rfl)
theorem dX4_feedersOf_1 : decode cX4_feedersOf 1 = .ok (.istore_n 2, 1) := dk_61 (dk_at dksX4_feedersOf_0 1 rfl rfl)
theorem dX4_feedersOf_2 : decode cX4_feedersOf 2 = .ok (.iconst 0, 1) := dk_3 (dk_at dksX4_feedersOf_0 2 rfl rfl)
theorem dX4_feedersOf_3 : decode cX4_feedersOf 3 = .ok (.istore_n 3, 1) := dk_62 (dk_at dksX4_feedersOf_0 3 rfl rfl)
theorem dX4_feedersOf_4 : decode cX4_feedersOf 4 = .ok (.iload_n 3, 1) := dk_29 (dk_at dksX4_feedersOf_0 4 rfl rfl)
theorem dX4_feedersOf_5 : decode cX4_feedersOf 5 = .ok (.iconst 4, 1) := dk_7 (dk_at dksX4_feedersOf_0 5 rfl rfl)
theorem dX4_feedersOf_6 : decode cX4_feedersOf 6 = .ok (.if_icmp .ge 38, 3) := dk_162 0 38 (dk_at dksX4_feedersOf_0 6 rfl rfl)
theorem dX4_feedersOf_9 : decode cX4_feedersOf 9 = .ok (.iload_n 2, 1) := dk_28 (dk_at dksX4_feedersOf_0 9 rfl rfl)
theorem dX4_feedersOf_10 : decode cX4_feedersOf 10 = .ok (.aload_n 0, 1) := dk_42 (dk_at dksX4_feedersOf_0 10 rfl rfl)
theorem dX4_feedersOf_11 : decode cX4_feedersOf 11 = .ok (.iload_n 1, 1) := dk_27 (dk_at dksX4_feedersOf_0 11 rfl rfl)
theorem dX4_feedersOf_12 : decode cX4_feedersOf 12 = .ok (.iconst 5, 1) := dk_8 (dk_at dksX4_feedersOf_0 12 rfl rfl)
theorem dX4_feedersOf_13 : decode cX4_feedersOf 13 = .ok (.iload_n 3, 1) := dk_29 (dk_at dksX4_feedersOf_0 13 rfl rfl)
theorem dX4_feedersOf_14 : decode cX4_feedersOf 14 = .ok (.iadd, 1) := dk_96 (dk_at dksX4_feedersOf_0 14 rfl rfl)
theorem dX4_feedersOf_15 : decode cX4_feedersOf 15 = .ok (.invokevirtual 48, 3) := dk_182 0 48 (dk_at dksX4_feedersOf_0 15 rfl rfl)
theorem dX4_feedersOf_18 : decode cX4_feedersOf 18 = .ok (.iconst (-1), 1) := dk_2 (dk_at dksX4_feedersOf_0 18 rfl rfl)
theorem dX4_feedersOf_19 : decode cX4_feedersOf 19 = .ok (.if_icmp .ne 7, 3) := dk_160 0 7 (dk_at dksX4_feedersOf_0 19 rfl rfl)
theorem dX4_feedersOf_22 : decode cX4_feedersOf 22 = .ok (.iconst 0, 1) := dk_3 (dk_at dksX4_feedersOf_0 22 rfl rfl)
theorem dX4_feedersOf_23 : decode cX4_feedersOf 23 = .ok (.goto 13, 3) := dk_167 0 13 (dk_at dksX4_feedersOf_1 0 rfl rfl)
theorem dX4_feedersOf_26 : decode cX4_feedersOf 26 = .ok (.iconst 1, 1) := dk_4 (dk_at dksX4_feedersOf_1 3 rfl rfl)
theorem dX4_feedersOf_27 : decode cX4_feedersOf 27 = .ok (.aload_n 0, 1) := dk_42 (dk_at dksX4_feedersOf_1 4 rfl rfl)
theorem dX4_feedersOf_28 : decode cX4_feedersOf 28 = .ok (.iload_n 1, 1) := dk_27 (dk_at dksX4_feedersOf_1 5 rfl rfl)
theorem dX4_feedersOf_29 : decode cX4_feedersOf 29 = .ok (.iconst 5, 1) := dk_8 (dk_at dksX4_feedersOf_1 6 rfl rfl)
theorem dX4_feedersOf_30 : decode cX4_feedersOf 30 = .ok (.iload_n 3, 1) := dk_29 (dk_at dksX4_feedersOf_1 7 rfl rfl)
theorem dX4_feedersOf_31 : decode cX4_feedersOf 31 = .ok (.iadd, 1) := dk_96 (dk_at dksX4_feedersOf_1 8 rfl rfl)
theorem dX4_feedersOf_32 : decode cX4_feedersOf 32 = .ok (.invokevirtual 48, 3) := dk_182 0 48 (dk_at dksX4_feedersOf_1 9 rfl rfl)
theorem dX4_feedersOf_35 : decode cX4_feedersOf 35 = .ok (.ishl, 1) := dk_120 (dk_at dksX4_feedersOf_1 12 rfl rfl)
theorem dX4_feedersOf_36 : decode cX4_feedersOf 36 = .ok (.ior, 1) := dk_128 (dk_at dksX4_feedersOf_1 13 rfl rfl)
theorem dX4_feedersOf_37 : decode cX4_feedersOf 37 = .ok (.istore_n 2, 1) := dk_61 (dk_at dksX4_feedersOf_1 14 rfl rfl)
theorem dX4_feedersOf_38 : decode cX4_feedersOf 38 = .ok (.iinc 3 1, 3) := dk_132 3 1 (dk_at dksX4_feedersOf_1 15 rfl rfl)
theorem dX4_feedersOf_41 : decode cX4_feedersOf 41 = .ok (.goto (-37), 3) := dk_167 255 219 (dk_at dksX4_feedersOf_1 18 rfl rfl)
theorem dX4_feedersOf_44 : decode cX4_feedersOf 44 = .ok (.iload_n 2, 1) := dk_28 (dk_at dksX4_feedersOf_1 21 rfl rfl)
theorem dX4_feedersOf_45 : decode cX4_feedersOf 45 = .ok (.ireturn, 1) := dk_172 (dk_at dksX4_feedersOf_1 22 rfl rfl)
abbrev cX4_has : ByteArray := prog_17_method_4_code
def yX4_has : MethodName := ⟨RX4, "has", "(II)Z"⟩
def dkwX4_has_0 : List UInt8 := [26, 27, 122, 4, 126, 4, 160, 0, 7, 4, 167, 0, 4, 3, 172]
abbrev dktX4_has_0 : List UInt8 := dkwX4_has_0 ++ []
theorem dksX4_has_0 : cX4_has.data.toList.drop 0 = dktX4_has_0 := by decide +kernel
theorem dX4_has_0 : decode cX4_has 0 = .ok (.iload_n 0, 1) := dk_26 (dk_at dksX4_has_0 0 rfl rfl)
theorem dX4_has_1 : decode cX4_has 1 = .ok (.iload_n 1, 1) := dk_27 (dk_at dksX4_has_0 1 rfl rfl)
theorem dX4_has_2 : decode cX4_has 2 = .ok (.ishr, 1) := dk_122 (dk_at dksX4_has_0 2 rfl rfl)
theorem dX4_has_3 : decode cX4_has 3 = .ok (.iconst 1, 1) := dk_4 (dk_at dksX4_has_0 3 rfl rfl)
theorem dX4_has_4 : decode cX4_has 4 = .ok (.iand, 1) := dk_126 (dk_at dksX4_has_0 4 rfl rfl)
theorem dX4_has_5 : decode cX4_has 5 = .ok (.iconst 1, 1) := dk_4 (dk_at dksX4_has_0 5 rfl rfl)
theorem dX4_has_6 : decode cX4_has 6 = .ok (.if_icmp .ne 7, 3) := dk_160 0 7 (dk_at dksX4_has_0 6 rfl rfl)
theorem dX4_has_9 : decode cX4_has 9 = .ok (.iconst 1, 1) := dk_4 (dk_at dksX4_has_0 9 rfl rfl)
theorem dX4_has_10 : decode cX4_has 10 = .ok (.goto 4, 3) := dk_167 0 4 (dk_at dksX4_has_0 10 rfl rfl)
theorem dX4_has_13 : decode cX4_has 13 = .ok (.iconst 0, 1) := dk_3 (dk_at dksX4_has_0 13 rfl rfl)
theorem dX4_has_14 : decode cX4_has 14 = .ok (.ireturn, 1) := dk_172 (dk_at dksX4_has_0 14 rfl rfl)
abbrev cX4_joins : ByteArray := prog_17_method_34_code
def yX4_joins : MethodName := ⟨RX4, "joins", "(III)I"⟩
def dkwX4_joins_0 : List UInt8 := [42, 28, 8, 29, 96, 182, 0, 48, 54, 4, 42, 28, 8, 29, 96, 27, 182, 0, 63, 21, 4, 172]
abbrev dktX4_joins_0 : List UInt8 := dkwX4_joins_0 ++ []
theorem dksX4_joins_0 : cX4_joins.data.toList.drop 0 = dktX4_joins_0 := by decide +kernel
theorem dX4_joins_0 : decode cX4_joins 0 = .ok (.aload_n 0, 1) := dk_42 (dk_at dksX4_joins_0 0 rfl rfl)
theorem dX4_joins_1 : decode cX4_joins 1 = .ok (.iload_n 2, 1) := dk_28 (dk_at dksX4_joins_0 1 rfl rfl)
theorem dX4_joins_2 : decode cX4_joins 2 = .ok (.iconst 5, 1) := dk_8 (dk_at dksX4_joins_0 2 rfl rfl)
theorem dX4_joins_3 : decode cX4_joins 3 = .ok (.iload_n 3, 1) := dk_29 (dk_at dksX4_joins_0 3 rfl rfl)
theorem dX4_joins_4 : decode cX4_joins 4 = .ok (.iadd, 1) := dk_96 (dk_at dksX4_joins_0 4 rfl rfl)
theorem dX4_joins_5 : decode cX4_joins 5 = .ok (.invokevirtual 48, 3) := dk_182 0 48 (dk_at dksX4_joins_0 5 rfl rfl)
theorem dX4_joins_8 : decode cX4_joins 8 = .ok (.istore 4, 2) := dk_54 4 (dk_at dksX4_joins_0 8 rfl rfl)
theorem dX4_joins_10 : decode cX4_joins 10 = .ok (.aload_n 0, 1) := dk_42 (dk_at dksX4_joins_0 10 rfl rfl)
theorem dX4_joins_11 : decode cX4_joins 11 = .ok (.iload_n 2, 1) := dk_28 (dk_at dksX4_joins_0 11 rfl rfl)
theorem dX4_joins_12 : decode cX4_joins 12 = .ok (.iconst 5, 1) := dk_8 (dk_at dksX4_joins_0 12 rfl rfl)
theorem dX4_joins_13 : decode cX4_joins 13 = .ok (.iload_n 3, 1) := dk_29 (dk_at dksX4_joins_0 13 rfl rfl)
theorem dX4_joins_14 : decode cX4_joins 14 = .ok (.iadd, 1) := dk_96 (dk_at dksX4_joins_0 14 rfl rfl)
theorem dX4_joins_15 : decode cX4_joins 15 = .ok (.iload_n 1, 1) := dk_27 (dk_at dksX4_joins_0 15 rfl rfl)
theorem dX4_joins_16 : decode cX4_joins 16 = .ok (.invokevirtual 63, 3) := dk_182 0 63 (dk_at dksX4_joins_0 16 rfl rfl)
theorem dX4_joins_19 : decode cX4_joins 19 = .ok (.iload 4, 2) := dk_21 4 (dk_at dksX4_joins_0 19 rfl rfl)
theorem dX4_joins_21 : decode cX4_joins 21 = .ok (.ireturn, 1) := dk_172 (dk_at dksX4_joins_0 21 rfl rfl)
abbrev cX4_takeOut : ByteArray := prog_17_method_37_code
def yX4_takeOut : MethodName := ⟨RX4, "takeOut", "(II)I"⟩
def dkwX4_takeOut_1 : List UInt8 := [2, 27, 28, 182, 0, 119, 172]
abbrev dktX4_takeOut_1 : List UInt8 := dkwX4_takeOut_1 ++ []
def dkwX4_takeOut_0 : List UInt8 := [42, 42, 27, 28, 182, 0, 122, 181, 0, 37, 42, 180, 0, 37, 158, 0, 5, 3, 172, 42, 182, 0, 71, 42]
abbrev dktX4_takeOut_0 : List UInt8 := dkwX4_takeOut_0 ++ dktX4_takeOut_1
theorem dksX4_takeOut_0 : cX4_takeOut.data.toList.drop 0 = dktX4_takeOut_0 := by decide +kernel
theorem dksX4_takeOut_1 : cX4_takeOut.data.toList.drop 24 = dktX4_takeOut_1 := dk_seg dksX4_takeOut_0 24 rfl rfl
theorem dX4_takeOut_0 : decode cX4_takeOut 0 = .ok (.aload_n 0, 1) := dk_42 (dk_at dksX4_takeOut_0 0 rfl rfl)
theorem dX4_takeOut_1 : decode cX4_takeOut 1 = .ok (.aload_n 0, 1) := dk_42 (dk_at dksX4_takeOut_0 1 rfl rfl)
theorem dX4_takeOut_2 : decode cX4_takeOut 2 = .ok (.iload_n 1, 1) := dk_27 (dk_at dksX4_takeOut_0 2 rfl rfl)
theorem dX4_takeOut_3 : decode cX4_takeOut 3 = .ok (.iload_n 2, 1) := dk_28 (dk_at dksX4_takeOut_0 3 rfl rfl)
theorem dX4_takeOut_4 : decode cX4_takeOut 4 = .ok (.invokevirtual 122, 3) := dk_182 0 122 (dk_at dksX4_takeOut_0 4 rfl rfl)
theorem dX4_takeOut_7 : decode cX4_takeOut 7 = .ok (.putfield 37, 3) := dk_181 0 37 (dk_at dksX4_takeOut_0 7 rfl rfl)
theorem dX4_takeOut_10 : decode cX4_takeOut 10 = .ok (.aload_n 0, 1) := dk_42 (dk_at dksX4_takeOut_0 10 rfl rfl)
theorem dX4_takeOut_11 : decode cX4_takeOut 11 = .ok (.getfield 37, 3) := dk_180 0 37 (dk_at dksX4_takeOut_0 11 rfl rfl)
theorem dX4_takeOut_14 : decode cX4_takeOut 14 = .ok (.ifCond .le 5, 3) := dk_158 0 5 (dk_at dksX4_takeOut_0 14 rfl rfl)
theorem dX4_takeOut_17 : decode cX4_takeOut 17 = .ok (.iconst 0, 1) := dk_3 (dk_at dksX4_takeOut_0 17 rfl rfl)
theorem dX4_takeOut_18 : decode cX4_takeOut 18 = .ok (.ireturn, 1) := dk_172 (dk_at dksX4_takeOut_0 18 rfl rfl)
theorem dX4_takeOut_19 : decode cX4_takeOut 19 = .ok (.aload_n 0, 1) := dk_42 (dk_at dksX4_takeOut_0 19 rfl rfl)
theorem dX4_takeOut_20 : decode cX4_takeOut 20 = .ok (.invokevirtual 71, 3) := dk_182 0 71 (dk_at dksX4_takeOut_0 20 rfl rfl)
theorem dX4_takeOut_23 : decode cX4_takeOut 23 = .ok (.aload_n 0, 1) := dk_42 (dk_at dksX4_takeOut_0 23 rfl rfl)
theorem dX4_takeOut_24 : decode cX4_takeOut 24 = .ok (.iconst (-1), 1) := dk_2 (dk_at dksX4_takeOut_1 0 rfl rfl)
theorem dX4_takeOut_25 : decode cX4_takeOut 25 = .ok (.iload_n 1, 1) := dk_27 (dk_at dksX4_takeOut_1 1 rfl rfl)
theorem dX4_takeOut_26 : decode cX4_takeOut 26 = .ok (.iload_n 2, 1) := dk_28 (dk_at dksX4_takeOut_1 2 rfl rfl)
theorem dX4_takeOut_27 : decode cX4_takeOut 27 = .ok (.invokevirtual 119, 3) := dk_182 0 119 (dk_at dksX4_takeOut_1 3 rfl rfl)
theorem dX4_takeOut_30 : decode cX4_takeOut 30 = .ok (.ireturn, 1) := dk_172 (dk_at dksX4_takeOut_1 6 rfl rfl)
abbrev cX4_whyNoCord : ByteArray := prog_17_method_36_code
def yX4_whyNoCord : MethodName := ⟨RX4, "whyNoCord", "(II)I"⟩
def dkwX4_whyNoCord_1 : List UInt8 := [160, 0, 7, 5, 167, 0, 4, 3, 172]
abbrev dktX4_whyNoCord_1 : List UInt8 := dkwX4_whyNoCord_1 ++ []
def dkwX4_whyNoCord_0 : List UInt8 := [42, 27, 28, 182, 0, 80, 154, 0, 7, 4, 167, 0, 20, 42, 27, 8, 28, 96, 182, 0, 48, 2]
abbrev dktX4_whyNoCord_0 : List UInt8 := dkwX4_whyNoCord_0 ++ dktX4_whyNoCord_1
theorem dksX4_whyNoCord_0 : cX4_whyNoCord.data.toList.drop 0 = dktX4_whyNoCord_0 := by decide +kernel
theorem dksX4_whyNoCord_1 : cX4_whyNoCord.data.toList.drop 22 = dktX4_whyNoCord_1 := dk_seg dksX4_whyNoCord_0 22 rfl rfl
theorem dX4_whyNoCord_0 : decode cX4_whyNoCord 0 = .ok (.aload_n 0, 1) := dk_42 (dk_at dksX4_whyNoCord_0 0 rfl rfl)
theorem dX4_whyNoCord_1 : decode cX4_whyNoCord 1 = .ok (.iload_n 1, 1) := dk_27 (dk_at dksX4_whyNoCord_0 1 rfl rfl)
theorem dX4_whyNoCord_2 : decode cX4_whyNoCord 2 = .ok (.iload_n 2, 1) := dk_28 (dk_at dksX4_whyNoCord_0 2 rfl rfl)
theorem dX4_whyNoCord_3 : decode cX4_whyNoCord 3 = .ok (.invokevirtual 80, 3) := dk_182 0 80 (dk_at dksX4_whyNoCord_0 3 rfl rfl)
theorem dX4_whyNoCord_6 : decode cX4_whyNoCord 6 = .ok (.ifCond .ne 7, 3) := dk_154 0 7 (dk_at dksX4_whyNoCord_0 6 rfl rfl)
theorem dX4_whyNoCord_9 : decode cX4_whyNoCord 9 = .ok (.iconst 1, 1) := dk_4 (dk_at dksX4_whyNoCord_0 9 rfl rfl)
theorem dX4_whyNoCord_10 : decode cX4_whyNoCord 10 = .ok (.goto 20, 3) := dk_167 0 20 (dk_at dksX4_whyNoCord_0 10 rfl rfl)
theorem dX4_whyNoCord_13 : decode cX4_whyNoCord 13 = .ok (.aload_n 0, 1) := dk_42 (dk_at dksX4_whyNoCord_0 13 rfl rfl)
theorem dX4_whyNoCord_14 : decode cX4_whyNoCord 14 = .ok (.iload_n 1, 1) := dk_27 (dk_at dksX4_whyNoCord_0 14 rfl rfl)
theorem dX4_whyNoCord_15 : decode cX4_whyNoCord 15 = .ok (.iconst 5, 1) := dk_8 (dk_at dksX4_whyNoCord_0 15 rfl rfl)
theorem dX4_whyNoCord_16 : decode cX4_whyNoCord 16 = .ok (.iload_n 2, 1) := dk_28 (dk_at dksX4_whyNoCord_0 16 rfl rfl)
theorem dX4_whyNoCord_17 : decode cX4_whyNoCord 17 = .ok (.iadd, 1) := dk_96 (dk_at dksX4_whyNoCord_0 17 rfl rfl)
theorem dX4_whyNoCord_18 : decode cX4_whyNoCord 18 = .ok (.invokevirtual 48, 3) := dk_182 0 48 (dk_at dksX4_whyNoCord_0 18 rfl rfl)
theorem dX4_whyNoCord_21 : decode cX4_whyNoCord 21 = .ok (.iconst (-1), 1) := dk_2 (dk_at dksX4_whyNoCord_0 21 rfl rfl)
theorem dX4_whyNoCord_22 : decode cX4_whyNoCord 22 = .ok (.if_icmp .ne 7, 3) := dk_160 0 7 (dk_at dksX4_whyNoCord_1 0 rfl rfl)
theorem dX4_whyNoCord_25 : decode cX4_whyNoCord 25 = .ok (.iconst 2, 1) := dk_5 (dk_at dksX4_whyNoCord_1 3 rfl rfl)
theorem dX4_whyNoCord_26 : decode cX4_whyNoCord 26 = .ok (.goto 4, 3) := dk_167 0 4 (dk_at dksX4_whyNoCord_1 4 rfl rfl)
theorem dX4_whyNoCord_29 : decode cX4_whyNoCord 29 = .ok (.iconst 0, 1) := dk_3 (dk_at dksX4_whyNoCord_1 7 rfl rfl)
theorem dX4_whyNoCord_30 : decode cX4_whyNoCord 30 = .ok (.ireturn, 1) := dk_172 (dk_at dksX4_whyNoCord_1 8 rfl rfl)
abbrev cX4_pass : ByteArray := prog_17_method_50_code
def yX4_pass : MethodName := ⟨RX4, "pass", "(I)I"⟩
def dkwX4_pass_2 : List UInt8 := [182, 0, 171, 172]
abbrev dktX4_pass_2 : List UInt8 := dkwX4_pass_2 ++ []
def dkwX4_pass_1 : List UInt8 := [3, 167, 0, 4, 5, 181, 0, 37, 42, 180, 0, 37, 158, 0, 5, 3, 172, 42, 182, 0, 71, 42, 27]
abbrev dktX4_pass_1 : List UInt8 := dkwX4_pass_1 ++ dktX4_pass_2
def dkwX4_pass_0 : List UInt8 := [42, 27, 4, 17, 3, 231, 184, 0, 44, 154, 0, 7, 4, 167, 0, 16, 42, 27, 182, 0, 168, 153, 0, 7]
abbrev dktX4_pass_0 : List UInt8 := dkwX4_pass_0 ++ dktX4_pass_1
theorem dksX4_pass_0 : cX4_pass.data.toList.drop 0 = dktX4_pass_0 := by decide +kernel
theorem dksX4_pass_1 : cX4_pass.data.toList.drop 24 = dktX4_pass_1 := dk_seg dksX4_pass_0 24 rfl rfl
theorem dksX4_pass_2 : cX4_pass.data.toList.drop 47 = dktX4_pass_2 := dk_seg dksX4_pass_1 23 rfl rfl
theorem dX4_pass_0 : decode cX4_pass 0 = .ok (.aload_n 0, 1) := dk_42 (dk_at dksX4_pass_0 0 rfl rfl)
theorem dX4_pass_1 : decode cX4_pass 1 = .ok (.iload_n 1, 1) := dk_27 (dk_at dksX4_pass_0 1 rfl rfl)
theorem dX4_pass_2 : decode cX4_pass 2 = .ok (.iconst 1, 1) := dk_4 (dk_at dksX4_pass_0 2 rfl rfl)
theorem dX4_pass_3 : decode cX4_pass 3 = .ok (.sipush 999, 3) := dk_17 3 231 (dk_at dksX4_pass_0 3 rfl rfl)
theorem dX4_pass_6 : decode cX4_pass 6 = .ok (.invokestatic 44, 3) := dk_184 0 44 (dk_at dksX4_pass_0 6 rfl rfl)
theorem dX4_pass_9 : decode cX4_pass 9 = .ok (.ifCond .ne 7, 3) := dk_154 0 7 (dk_at dksX4_pass_0 9 rfl rfl)
theorem dX4_pass_12 : decode cX4_pass 12 = .ok (.iconst 1, 1) := dk_4 (dk_at dksX4_pass_0 12 rfl rfl)
theorem dX4_pass_13 : decode cX4_pass 13 = .ok (.goto 16, 3) := dk_167 0 16 (dk_at dksX4_pass_0 13 rfl rfl)
theorem dX4_pass_16 : decode cX4_pass 16 = .ok (.aload_n 0, 1) := dk_42 (dk_at dksX4_pass_0 16 rfl rfl)
theorem dX4_pass_17 : decode cX4_pass 17 = .ok (.iload_n 1, 1) := dk_27 (dk_at dksX4_pass_0 17 rfl rfl)
theorem dX4_pass_18 : decode cX4_pass 18 = .ok (.invokevirtual 168, 3) := dk_182 0 168 (dk_at dksX4_pass_0 18 rfl rfl)
theorem dX4_pass_21 : decode cX4_pass 21 = .ok (.ifCond .eq 7, 3) := dk_153 0 7 (dk_at dksX4_pass_0 21 rfl rfl)
theorem dX4_pass_24 : decode cX4_pass 24 = .ok (.iconst 0, 1) := dk_3 (dk_at dksX4_pass_1 0 rfl rfl)
theorem dX4_pass_25 : decode cX4_pass 25 = .ok (.goto 4, 3) := dk_167 0 4 (dk_at dksX4_pass_1 1 rfl rfl)
theorem dX4_pass_28 : decode cX4_pass 28 = .ok (.iconst 2, 1) := dk_5 (dk_at dksX4_pass_1 4 rfl rfl)
theorem dX4_pass_29 : decode cX4_pass 29 = .ok (.putfield 37, 3) := dk_181 0 37 (dk_at dksX4_pass_1 5 rfl rfl)
theorem dX4_pass_32 : decode cX4_pass 32 = .ok (.aload_n 0, 1) := dk_42 (dk_at dksX4_pass_1 8 rfl rfl)
theorem dX4_pass_33 : decode cX4_pass 33 = .ok (.getfield 37, 3) := dk_180 0 37 (dk_at dksX4_pass_1 9 rfl rfl)
theorem dX4_pass_36 : decode cX4_pass 36 = .ok (.ifCond .le 5, 3) := dk_158 0 5 (dk_at dksX4_pass_1 12 rfl rfl)
theorem dX4_pass_39 : decode cX4_pass 39 = .ok (.iconst 0, 1) := dk_3 (dk_at dksX4_pass_1 15 rfl rfl)
theorem dX4_pass_40 : decode cX4_pass 40 = .ok (.ireturn, 1) := dk_172 (dk_at dksX4_pass_1 16 rfl rfl)
theorem dX4_pass_41 : decode cX4_pass 41 = .ok (.aload_n 0, 1) := dk_42 (dk_at dksX4_pass_1 17 rfl rfl)
theorem dX4_pass_42 : decode cX4_pass 42 = .ok (.invokevirtual 71, 3) := dk_182 0 71 (dk_at dksX4_pass_1 18 rfl rfl)
theorem dX4_pass_45 : decode cX4_pass 45 = .ok (.aload_n 0, 1) := dk_42 (dk_at dksX4_pass_1 21 rfl rfl)
theorem dX4_pass_46 : decode cX4_pass 46 = .ok (.iload_n 1, 1) := dk_27 (dk_at dksX4_pass_1 22 rfl rfl)
theorem dX4_pass_47 : decode cX4_pass 47 = .ok (.invokevirtual 171, 3) := dk_182 0 171 (dk_at dksX4_pass_2 0 rfl rfl)
theorem dX4_pass_50 : decode cX4_pass 50 = .ok (.ireturn, 1) := dk_172 (dk_at dksX4_pass_2 3 rfl rfl)
abbrev cX4_canPass : ByteArray := prog_17_method_49_code
def yX4_canPass : MethodName := ⟨RX4, "canPass", "(I)Z"⟩
def dkwX4_canPass_0 : List UInt8 := [42, 180, 0, 7, 7, 46, 27, 96, 18, 167, 163, 0, 7, 4, 167, 0, 4, 3, 172]
abbrev dktX4_canPass_0 : List UInt8 := dkwX4_canPass_0 ++ []
theorem dksX4_canPass_0 : cX4_canPass.data.toList.drop 0 = dktX4_canPass_0 := by decide +kernel
theorem dX4_canPass_0 : decode cX4_canPass 0 = .ok (.aload_n 0, 1) := dk_42 (dk_at dksX4_canPass_0 0 rfl rfl)
theorem dX4_canPass_1 : decode cX4_canPass 1 = .ok (.getfield 7, 3) := dk_180 0 7 (dk_at dksX4_canPass_0 1 rfl rfl)
theorem dX4_canPass_4 : decode cX4_canPass 4 = .ok (.iconst 4, 1) := dk_7 (dk_at dksX4_canPass_0 4 rfl rfl)
theorem dX4_canPass_5 : decode cX4_canPass 5 = .ok (.iaload, 1) := dk_46 (dk_at dksX4_canPass_0 5 rfl rfl)
theorem dX4_canPass_6 : decode cX4_canPass 6 = .ok (.iload_n 1, 1) := dk_27 (dk_at dksX4_canPass_0 6 rfl rfl)
theorem dX4_canPass_7 : decode cX4_canPass 7 = .ok (.iadd, 1) := dk_96 (dk_at dksX4_canPass_0 7 rfl rfl)
theorem dX4_canPass_8 : decode cX4_canPass 8 = .ok (.ldc 167, 2) := dk_18 167 (dk_at dksX4_canPass_0 8 rfl rfl)
theorem dX4_canPass_10 : decode cX4_canPass 10 = .ok (.if_icmp .gt 7, 3) := dk_163 0 7 (dk_at dksX4_canPass_0 10 rfl rfl)
theorem dX4_canPass_13 : decode cX4_canPass 13 = .ok (.iconst 1, 1) := dk_4 (dk_at dksX4_canPass_0 13 rfl rfl)
theorem dX4_canPass_14 : decode cX4_canPass 14 = .ok (.goto 4, 3) := dk_167 0 4 (dk_at dksX4_canPass_0 14 rfl rfl)
theorem dX4_canPass_17 : decode cX4_canPass 17 = .ok (.iconst 0, 1) := dk_3 (dk_at dksX4_canPass_0 17 rfl rfl)
theorem dX4_canPass_18 : decode cX4_canPass 18 = .ok (.ireturn, 1) := dk_172 (dk_at dksX4_canPass_0 18 rfl rfl)
abbrev cX4_passes : ByteArray := prog_17_method_48_code
def yX4_passes : MethodName := ⟨RX4, "passes", "(I)I"⟩
def dkwX4_passes_2 : List UInt8 := [172]
abbrev dktX4_passes_2 : List UInt8 := dkwX4_passes_2 ++ []
def dkwX4_passes_1 : List UInt8 := [6, 46, 4, 160, 0, 7, 4, 167, 0, 4, 3, 182, 0, 163, 132, 2, 1, 132, 3, 1, 167, 255, 216, 28]
abbrev dktX4_passes_1 : List UInt8 := dkwX4_passes_1 ++ dktX4_passes_2
def dkwX4_passes_0 : List UInt8 := [3, 61, 3, 62, 29, 27, 162, 0, 41, 42, 180, 0, 7, 4, 46, 4, 160, 0, 31, 42, 42, 180, 0, 7]
abbrev dktX4_passes_0 : List UInt8 := dkwX4_passes_0 ++ dktX4_passes_1
theorem dksX4_passes_0 : cX4_passes.data.toList.drop 0 = dktX4_passes_0 := by decide +kernel
theorem dksX4_passes_1 : cX4_passes.data.toList.drop 24 = dktX4_passes_1 := dk_seg dksX4_passes_0 24 rfl rfl
theorem dksX4_passes_2 : cX4_passes.data.toList.drop 48 = dktX4_passes_2 := dk_seg dksX4_passes_1 24 rfl rfl
theorem dX4_passes_0 : decode cX4_passes 0 = .ok (.iconst 0, 1) := dk_3 (dk_at dksX4_passes_0 0 rfl rfl)
theorem dX4_passes_1 : decode cX4_passes 1 = .ok (.istore_n 2, 1) := dk_61 (dk_at dksX4_passes_0 1 rfl rfl)
theorem dX4_passes_2 : decode cX4_passes 2 = .ok (.iconst 0, 1) := dk_3 (dk_at dksX4_passes_0 2 rfl rfl)
theorem dX4_passes_3 : decode cX4_passes 3 = .ok (.istore_n 3, 1) := dk_62 (dk_at dksX4_passes_0 3 rfl rfl)
theorem dX4_passes_4 : decode cX4_passes 4 = .ok (.iload_n 3, 1) := dk_29 (dk_at dksX4_passes_0 4 rfl rfl)
theorem dX4_passes_5 : decode cX4_passes 5 = .ok (.iload_n 1, 1) := dk_27 (dk_at dksX4_passes_0 5 rfl rfl)
theorem dX4_passes_6 : decode cX4_passes 6 = .ok (.if_icmp .ge 41, 3) := dk_162 0 41 (dk_at dksX4_passes_0 6 rfl rfl)
theorem dX4_passes_9 : decode cX4_passes 9 = .ok (.aload_n 0, 1) := dk_42 (dk_at dksX4_passes_0 9 rfl rfl)
theorem dX4_passes_10 : decode cX4_passes 10 = .ok (.getfield 7, 3) := dk_180 0 7 (dk_at dksX4_passes_0 10 rfl rfl)
theorem dX4_passes_13 : decode cX4_passes 13 = .ok (.iconst 1, 1) := dk_4 (dk_at dksX4_passes_0 13 rfl rfl)
theorem dX4_passes_14 : decode cX4_passes 14 = .ok (.iaload, 1) := dk_46 (dk_at dksX4_passes_0 14 rfl rfl)
theorem dX4_passes_15 : decode cX4_passes 15 = .ok (.iconst 1, 1) := dk_4 (dk_at dksX4_passes_0 15 rfl rfl)
theorem dX4_passes_16 : decode cX4_passes 16 = .ok (.if_icmp .ne 31, 3) := dk_160 0 31 (dk_at dksX4_passes_0 16 rfl rfl)
theorem dX4_passes_19 : decode cX4_passes 19 = .ok (.aload_n 0, 1) := dk_42 (dk_at dksX4_passes_0 19 rfl rfl)
theorem dX4_passes_20 : decode cX4_passes 20 = .ok (.aload_n 0, 1) := dk_42 (dk_at dksX4_passes_0 20 rfl rfl)
theorem dX4_passes_21 : decode cX4_passes 21 = .ok (.getfield 7, 3) := dk_180 0 7 (dk_at dksX4_passes_0 21 rfl rfl)
theorem dX4_passes_24 : decode cX4_passes 24 = .ok (.iconst 3, 1) := dk_6 (dk_at dksX4_passes_1 0 rfl rfl)
theorem dX4_passes_25 : decode cX4_passes 25 = .ok (.iaload, 1) := dk_46 (dk_at dksX4_passes_1 1 rfl rfl)
theorem dX4_passes_26 : decode cX4_passes 26 = .ok (.iconst 1, 1) := dk_4 (dk_at dksX4_passes_1 2 rfl rfl)
theorem dX4_passes_27 : decode cX4_passes 27 = .ok (.if_icmp .ne 7, 3) := dk_160 0 7 (dk_at dksX4_passes_1 3 rfl rfl)
theorem dX4_passes_30 : decode cX4_passes 30 = .ok (.iconst 1, 1) := dk_4 (dk_at dksX4_passes_1 6 rfl rfl)
theorem dX4_passes_31 : decode cX4_passes 31 = .ok (.goto 4, 3) := dk_167 0 4 (dk_at dksX4_passes_1 7 rfl rfl)
theorem dX4_passes_34 : decode cX4_passes 34 = .ok (.iconst 0, 1) := dk_3 (dk_at dksX4_passes_1 10 rfl rfl)
theorem dX4_passes_35 : decode cX4_passes 35 = .ok (.invokevirtual 163, 3) := dk_182 0 163 (dk_at dksX4_passes_1 11 rfl rfl)
theorem dX4_passes_38 : decode cX4_passes 38 = .ok (.iinc 2 1, 3) := dk_132 2 1 (dk_at dksX4_passes_1 14 rfl rfl)
theorem dX4_passes_41 : decode cX4_passes 41 = .ok (.iinc 3 1, 3) := dk_132 3 1 (dk_at dksX4_passes_1 17 rfl rfl)
theorem dX4_passes_44 : decode cX4_passes 44 = .ok (.goto (-40), 3) := dk_167 255 216 (dk_at dksX4_passes_1 20 rfl rfl)
theorem dX4_passes_47 : decode cX4_passes 47 = .ok (.iload_n 2, 1) := dk_28 (dk_at dksX4_passes_1 23 rfl rfl)
theorem dX4_passes_48 : decode cX4_passes 48 = .ok (.ireturn, 1) := dk_172 (dk_at dksX4_passes_2 0 rfl rfl)
abbrev cX4_stepsOn : ByteArray := prog_17_method_47_code
def yX4_stepsOn : MethodName := ⟨RX4, "stepsOn", "(Z)V"⟩
def dkwX4_stepsOn_7 : List UInt8 := [180, 0, 7, 4, 46, 79, 177]
abbrev dktX4_stepsOn_7 : List UInt8 := dkwX4_stepsOn_7 ++ []
def dkwX4_stepsOn_6 : List UInt8 := [182, 0, 160, 42, 180, 0, 7, 4, 27, 153, 0, 14, 42, 180, 0, 134, 153, 0, 7, 5, 167, 0, 9, 42]
abbrev dktX4_stepsOn_6 : List UInt8 := dkwX4_stepsOn_6 ++ dktX4_stepsOn_7
def dkwX4_stepsOn_5 : List UInt8 := [184, 0, 143, 167, 0, 9, 42, 28, 7, 182, 0, 48, 182, 0, 63, 132, 2, 1, 167, 255, 201, 42]
abbrev dktX4_stepsOn_5 : List UInt8 := dkwX4_stepsOn_5 ++ dktX4_stepsOn_6
def dkwX4_stepsOn_4 : List UInt8 := [42, 180, 0, 25, 28, 46, 184, 0, 143, 42, 28, 7, 182, 0, 48, 164, 0, 15, 42, 180, 0, 25, 28, 46]
abbrev dktX4_stepsOn_4 : List UInt8 := dkwX4_stepsOn_4 ++ dktX4_stepsOn_5
def dkwX4_stepsOn_3 : List UInt8 := [180, 0, 7, 7, 92, 46, 4, 96, 79, 3, 61, 28, 42, 180, 0, 7, 3, 46, 162, 0, 51, 42, 28, 7]
abbrev dktX4_stepsOn_3 : List UInt8 := dkwX4_stepsOn_3 ++ dktX4_stepsOn_4
def dkwX4_stepsOn_2 : List UInt8 := [42, 5, 182, 0, 156, 42, 182, 0, 150, 42, 182, 0, 153, 42, 4, 182, 0, 156, 42, 182, 0, 150, 42]
abbrev dktX4_stepsOn_2 : List UInt8 := dkwX4_stepsOn_2 ++ dktX4_stepsOn_3
def dkwX4_stepsOn_1 : List UInt8 := [28, 42, 28, 6, 182, 0, 48, 79, 132, 2, 1, 167, 255, 231, 42, 180, 0, 7, 5, 46, 4, 160, 0, 16]
abbrev dktX4_stepsOn_1 : List UInt8 := dkwX4_stepsOn_1 ++ dktX4_stepsOn_2
def dkwX4_stepsOn_0 : List UInt8 := [42, 182, 0, 150, 42, 182, 0, 153, 3, 61, 28, 42, 180, 0, 7, 3, 46, 162, 0, 21, 42, 180, 0, 31]
abbrev dktX4_stepsOn_0 : List UInt8 := dkwX4_stepsOn_0 ++ dktX4_stepsOn_1
theorem dksX4_stepsOn_0 : cX4_stepsOn.data.toList.drop 0 = dktX4_stepsOn_0 := by decide +kernel
theorem dksX4_stepsOn_1 : cX4_stepsOn.data.toList.drop 24 = dktX4_stepsOn_1 := dk_seg dksX4_stepsOn_0 24 rfl rfl
theorem dksX4_stepsOn_2 : cX4_stepsOn.data.toList.drop 48 = dktX4_stepsOn_2 := dk_seg dksX4_stepsOn_1 24 rfl rfl
theorem dksX4_stepsOn_3 : cX4_stepsOn.data.toList.drop 71 = dktX4_stepsOn_3 := dk_seg dksX4_stepsOn_2 23 rfl rfl
theorem dksX4_stepsOn_4 : cX4_stepsOn.data.toList.drop 95 = dktX4_stepsOn_4 := dk_seg dksX4_stepsOn_3 24 rfl rfl
theorem dksX4_stepsOn_5 : cX4_stepsOn.data.toList.drop 119 = dktX4_stepsOn_5 := dk_seg dksX4_stepsOn_4 24 rfl rfl
theorem dksX4_stepsOn_6 : cX4_stepsOn.data.toList.drop 141 = dktX4_stepsOn_6 := dk_seg dksX4_stepsOn_5 22 rfl rfl
theorem dksX4_stepsOn_7 : cX4_stepsOn.data.toList.drop 165 = dktX4_stepsOn_7 := dk_seg dksX4_stepsOn_6 24 rfl rfl
theorem dX4_stepsOn_0 : decode cX4_stepsOn 0 = .ok (.aload_n 0, 1) := dk_42 (dk_at dksX4_stepsOn_0 0 rfl rfl)
theorem dX4_stepsOn_1 : decode cX4_stepsOn 1 = .ok (.invokevirtual 150, 3) := dk_182 0 150 (dk_at dksX4_stepsOn_0 1 rfl rfl)
theorem dX4_stepsOn_4 : decode cX4_stepsOn 4 = .ok (.aload_n 0, 1) := dk_42 (dk_at dksX4_stepsOn_0 4 rfl rfl)
theorem dX4_stepsOn_5 : decode cX4_stepsOn 5 = .ok (.invokevirtual 153, 3) := dk_182 0 153 (dk_at dksX4_stepsOn_0 5 rfl rfl)
theorem dX4_stepsOn_8 : decode cX4_stepsOn 8 = .ok (.iconst 0, 1) := dk_3 (dk_at dksX4_stepsOn_0 8 rfl rfl)
theorem dX4_stepsOn_9 : decode cX4_stepsOn 9 = .ok (.istore_n 2, 1) := dk_61 (dk_at dksX4_stepsOn_0 9 rfl rfl)
theorem dX4_stepsOn_10 : decode cX4_stepsOn 10 = .ok (.iload_n 2, 1) := dk_28 (dk_at dksX4_stepsOn_0 10 rfl rfl)
theorem dX4_stepsOn_11 : decode cX4_stepsOn 11 = .ok (.aload_n 0, 1) := dk_42 (dk_at dksX4_stepsOn_0 11 rfl rfl)
theorem dX4_stepsOn_12 : decode cX4_stepsOn 12 = .ok (.getfield 7, 3) := dk_180 0 7 (dk_at dksX4_stepsOn_0 12 rfl rfl)
theorem dX4_stepsOn_15 : decode cX4_stepsOn 15 = .ok (.iconst 0, 1) := dk_3 (dk_at dksX4_stepsOn_0 15 rfl rfl)
theorem dX4_stepsOn_16 : decode cX4_stepsOn 16 = .ok (.iaload, 1) := dk_46 (dk_at dksX4_stepsOn_0 16 rfl rfl)
theorem dX4_stepsOn_17 : decode cX4_stepsOn 17 = .ok (.if_icmp .ge 21, 3) := dk_162 0 21 (dk_at dksX4_stepsOn_0 17 rfl rfl)
theorem dX4_stepsOn_20 : decode cX4_stepsOn 20 = .ok (.aload_n 0, 1) := dk_42 (dk_at dksX4_stepsOn_0 20 rfl rfl)
theorem dX4_stepsOn_21 : decode cX4_stepsOn 21 = .ok (.getfield 31, 3) := dk_180 0 31 (dk_at dksX4_stepsOn_0 21 rfl rfl)
theorem dX4_stepsOn_24 : decode cX4_stepsOn 24 = .ok (.iload_n 2, 1) := dk_28 (dk_at dksX4_stepsOn_1 0 rfl rfl)
theorem dX4_stepsOn_25 : decode cX4_stepsOn 25 = .ok (.aload_n 0, 1) := dk_42 (dk_at dksX4_stepsOn_1 1 rfl rfl)
theorem dX4_stepsOn_26 : decode cX4_stepsOn 26 = .ok (.iload_n 2, 1) := dk_28 (dk_at dksX4_stepsOn_1 2 rfl rfl)
theorem dX4_stepsOn_27 : decode cX4_stepsOn 27 = .ok (.iconst 3, 1) := dk_6 (dk_at dksX4_stepsOn_1 3 rfl rfl)
theorem dX4_stepsOn_28 : decode cX4_stepsOn 28 = .ok (.invokevirtual 48, 3) := dk_182 0 48 (dk_at dksX4_stepsOn_1 4 rfl rfl)
theorem dX4_stepsOn_31 : decode cX4_stepsOn 31 = .ok (.iastore, 1) := dk_79 (dk_at dksX4_stepsOn_1 7 rfl rfl)
theorem dX4_stepsOn_32 : decode cX4_stepsOn 32 = .ok (.iinc 2 1, 3) := dk_132 2 1 (dk_at dksX4_stepsOn_1 8 rfl rfl)
theorem dX4_stepsOn_35 : decode cX4_stepsOn 35 = .ok (.goto (-25), 3) := dk_167 255 231 (dk_at dksX4_stepsOn_1 11 rfl rfl)
theorem dX4_stepsOn_38 : decode cX4_stepsOn 38 = .ok (.aload_n 0, 1) := dk_42 (dk_at dksX4_stepsOn_1 14 rfl rfl)
theorem dX4_stepsOn_39 : decode cX4_stepsOn 39 = .ok (.getfield 7, 3) := dk_180 0 7 (dk_at dksX4_stepsOn_1 15 rfl rfl)
theorem dX4_stepsOn_42 : decode cX4_stepsOn 42 = .ok (.iconst 2, 1) := dk_5 (dk_at dksX4_stepsOn_1 18 rfl rfl)
theorem dX4_stepsOn_43 : decode cX4_stepsOn 43 = .ok (.iaload, 1) := dk_46 (dk_at dksX4_stepsOn_1 19 rfl rfl)
theorem dX4_stepsOn_44 : decode cX4_stepsOn 44 = .ok (.iconst 1, 1) := dk_4 (dk_at dksX4_stepsOn_1 20 rfl rfl)
theorem dX4_stepsOn_45 : decode cX4_stepsOn 45 = .ok (.if_icmp .ne 16, 3) := dk_160 0 16 (dk_at dksX4_stepsOn_1 21 rfl rfl)
theorem dX4_stepsOn_48 : decode cX4_stepsOn 48 = .ok (.aload_n 0, 1) := dk_42 (dk_at dksX4_stepsOn_2 0 rfl rfl)
theorem dX4_stepsOn_49 : decode cX4_stepsOn 49 = .ok (.iconst 2, 1) := dk_5 (dk_at dksX4_stepsOn_2 1 rfl rfl)
theorem dX4_stepsOn_50 : decode cX4_stepsOn 50 = .ok (.invokevirtual 156, 3) := dk_182 0 156 (dk_at dksX4_stepsOn_2 2 rfl rfl)
theorem dX4_stepsOn_53 : decode cX4_stepsOn 53 = .ok (.aload_n 0, 1) := dk_42 (dk_at dksX4_stepsOn_2 5 rfl rfl)
theorem dX4_stepsOn_54 : decode cX4_stepsOn 54 = .ok (.invokevirtual 150, 3) := dk_182 0 150 (dk_at dksX4_stepsOn_2 6 rfl rfl)
theorem dX4_stepsOn_57 : decode cX4_stepsOn 57 = .ok (.aload_n 0, 1) := dk_42 (dk_at dksX4_stepsOn_2 9 rfl rfl)
theorem dX4_stepsOn_58 : decode cX4_stepsOn 58 = .ok (.invokevirtual 153, 3) := dk_182 0 153 (dk_at dksX4_stepsOn_2 10 rfl rfl)
theorem dX4_stepsOn_61 : decode cX4_stepsOn 61 = .ok (.aload_n 0, 1) := dk_42 (dk_at dksX4_stepsOn_2 13 rfl rfl)
theorem dX4_stepsOn_62 : decode cX4_stepsOn 62 = .ok (.iconst 1, 1) := dk_4 (dk_at dksX4_stepsOn_2 14 rfl rfl)
theorem dX4_stepsOn_63 : decode cX4_stepsOn 63 = .ok (.invokevirtual 156, 3) := dk_182 0 156 (dk_at dksX4_stepsOn_2 15 rfl rfl)
theorem dX4_stepsOn_66 : decode cX4_stepsOn 66 = .ok (.aload_n 0, 1) := dk_42 (dk_at dksX4_stepsOn_2 18 rfl rfl)
theorem dX4_stepsOn_67 : decode cX4_stepsOn 67 = .ok (.invokevirtual 150, 3) := dk_182 0 150 (dk_at dksX4_stepsOn_2 19 rfl rfl)
theorem dX4_stepsOn_70 : decode cX4_stepsOn 70 = .ok (.aload_n 0, 1) := dk_42 (dk_at dksX4_stepsOn_2 22 rfl rfl)
theorem dX4_stepsOn_71 : decode cX4_stepsOn 71 = .ok (.getfield 7, 3) := dk_180 0 7 (dk_at dksX4_stepsOn_3 0 rfl rfl)
theorem dX4_stepsOn_74 : decode cX4_stepsOn 74 = .ok (.iconst 4, 1) := dk_7 (dk_at dksX4_stepsOn_3 3 rfl rfl)
theorem dX4_stepsOn_75 : decode cX4_stepsOn 75 = .ok (.dup2, 1) := dk_92 (dk_at dksX4_stepsOn_3 4 rfl rfl)
theorem dX4_stepsOn_76 : decode cX4_stepsOn 76 = .ok (.iaload, 1) := dk_46 (dk_at dksX4_stepsOn_3 5 rfl rfl)
theorem dX4_stepsOn_77 : decode cX4_stepsOn 77 = .ok (.iconst 1, 1) := dk_4 (dk_at dksX4_stepsOn_3 6 rfl rfl)
theorem dX4_stepsOn_78 : decode cX4_stepsOn 78 = .ok (.iadd, 1) := dk_96 (dk_at dksX4_stepsOn_3 7 rfl rfl)
theorem dX4_stepsOn_79 : decode cX4_stepsOn 79 = .ok (.iastore, 1) := dk_79 (dk_at dksX4_stepsOn_3 8 rfl rfl)
theorem dX4_stepsOn_80 : decode cX4_stepsOn 80 = .ok (.iconst 0, 1) := dk_3 (dk_at dksX4_stepsOn_3 9 rfl rfl)
theorem dX4_stepsOn_81 : decode cX4_stepsOn 81 = .ok (.istore_n 2, 1) := dk_61 (dk_at dksX4_stepsOn_3 10 rfl rfl)
theorem dX4_stepsOn_82 : decode cX4_stepsOn 82 = .ok (.iload_n 2, 1) := dk_28 (dk_at dksX4_stepsOn_3 11 rfl rfl)
theorem dX4_stepsOn_83 : decode cX4_stepsOn 83 = .ok (.aload_n 0, 1) := dk_42 (dk_at dksX4_stepsOn_3 12 rfl rfl)
theorem dX4_stepsOn_84 : decode cX4_stepsOn 84 = .ok (.getfield 7, 3) := dk_180 0 7 (dk_at dksX4_stepsOn_3 13 rfl rfl)
theorem dX4_stepsOn_87 : decode cX4_stepsOn 87 = .ok (.iconst 0, 1) := dk_3 (dk_at dksX4_stepsOn_3 16 rfl rfl)
theorem dX4_stepsOn_88 : decode cX4_stepsOn 88 = .ok (.iaload, 1) := dk_46 (dk_at dksX4_stepsOn_3 17 rfl rfl)
theorem dX4_stepsOn_89 : decode cX4_stepsOn 89 = .ok (.if_icmp .ge 51, 3) := dk_162 0 51 (dk_at dksX4_stepsOn_3 18 rfl rfl)
theorem dX4_stepsOn_92 : decode cX4_stepsOn 92 = .ok (.aload_n 0, 1) := dk_42 (dk_at dksX4_stepsOn_3 21 rfl rfl)
theorem dX4_stepsOn_93 : decode cX4_stepsOn 93 = .ok (.iload_n 2, 1) := dk_28 (dk_at dksX4_stepsOn_3 22 rfl rfl)
theorem dX4_stepsOn_94 : decode cX4_stepsOn 94 = .ok (.iconst 4, 1) := dk_7 (dk_at dksX4_stepsOn_3 23 rfl rfl)
theorem dX4_stepsOn_95 : decode cX4_stepsOn 95 = .ok (.aload_n 0, 1) := dk_42 (dk_at dksX4_stepsOn_4 0 rfl rfl)
theorem dX4_stepsOn_96 : decode cX4_stepsOn 96 = .ok (.getfield 25, 3) := dk_180 0 25 (dk_at dksX4_stepsOn_4 1 rfl rfl)
theorem dX4_stepsOn_99 : decode cX4_stepsOn 99 = .ok (.iload_n 2, 1) := dk_28 (dk_at dksX4_stepsOn_4 4 rfl rfl)
theorem dX4_stepsOn_100 : decode cX4_stepsOn 100 = .ok (.iaload, 1) := dk_46 (dk_at dksX4_stepsOn_4 5 rfl rfl)
theorem dX4_stepsOn_101 : decode cX4_stepsOn 101 = .ok (.invokestatic 143, 3) := dk_184 0 143 (dk_at dksX4_stepsOn_4 6 rfl rfl)
theorem dX4_stepsOn_104 : decode cX4_stepsOn 104 = .ok (.aload_n 0, 1) := dk_42 (dk_at dksX4_stepsOn_4 9 rfl rfl)
theorem dX4_stepsOn_105 : decode cX4_stepsOn 105 = .ok (.iload_n 2, 1) := dk_28 (dk_at dksX4_stepsOn_4 10 rfl rfl)
theorem dX4_stepsOn_106 : decode cX4_stepsOn 106 = .ok (.iconst 4, 1) := dk_7 (dk_at dksX4_stepsOn_4 11 rfl rfl)
theorem dX4_stepsOn_107 : decode cX4_stepsOn 107 = .ok (.invokevirtual 48, 3) := dk_182 0 48 (dk_at dksX4_stepsOn_4 12 rfl rfl)
theorem dX4_stepsOn_110 : decode cX4_stepsOn 110 = .ok (.if_icmp .le 15, 3) := dk_164 0 15 (dk_at dksX4_stepsOn_4 15 rfl rfl)
theorem dX4_stepsOn_113 : decode cX4_stepsOn 113 = .ok (.aload_n 0, 1) := dk_42 (dk_at dksX4_stepsOn_4 18 rfl rfl)
theorem dX4_stepsOn_114 : decode cX4_stepsOn 114 = .ok (.getfield 25, 3) := dk_180 0 25 (dk_at dksX4_stepsOn_4 19 rfl rfl)
theorem dX4_stepsOn_117 : decode cX4_stepsOn 117 = .ok (.iload_n 2, 1) := dk_28 (dk_at dksX4_stepsOn_4 22 rfl rfl)
theorem dX4_stepsOn_118 : decode cX4_stepsOn 118 = .ok (.iaload, 1) := dk_46 (dk_at dksX4_stepsOn_4 23 rfl rfl)
theorem dX4_stepsOn_119 : decode cX4_stepsOn 119 = .ok (.invokestatic 143, 3) := dk_184 0 143 (dk_at dksX4_stepsOn_5 0 rfl rfl)
theorem dX4_stepsOn_122 : decode cX4_stepsOn 122 = .ok (.goto 9, 3) := dk_167 0 9 (dk_at dksX4_stepsOn_5 3 rfl rfl)
theorem dX4_stepsOn_125 : decode cX4_stepsOn 125 = .ok (.aload_n 0, 1) := dk_42 (dk_at dksX4_stepsOn_5 6 rfl rfl)
theorem dX4_stepsOn_126 : decode cX4_stepsOn 126 = .ok (.iload_n 2, 1) := dk_28 (dk_at dksX4_stepsOn_5 7 rfl rfl)
theorem dX4_stepsOn_127 : decode cX4_stepsOn 127 = .ok (.iconst 4, 1) := dk_7 (dk_at dksX4_stepsOn_5 8 rfl rfl)
theorem dX4_stepsOn_128 : decode cX4_stepsOn 128 = .ok (.invokevirtual 48, 3) := dk_182 0 48 (dk_at dksX4_stepsOn_5 9 rfl rfl)
theorem dX4_stepsOn_131 : decode cX4_stepsOn 131 = .ok (.invokevirtual 63, 3) := dk_182 0 63 (dk_at dksX4_stepsOn_5 12 rfl rfl)
theorem dX4_stepsOn_134 : decode cX4_stepsOn 134 = .ok (.iinc 2 1, 3) := dk_132 2 1 (dk_at dksX4_stepsOn_5 15 rfl rfl)
theorem dX4_stepsOn_137 : decode cX4_stepsOn 137 = .ok (.goto (-55), 3) := dk_167 255 201 (dk_at dksX4_stepsOn_5 18 rfl rfl)
theorem dX4_stepsOn_140 : decode cX4_stepsOn 140 = .ok (.aload_n 0, 1) := dk_42 (dk_at dksX4_stepsOn_5 21 rfl rfl)
theorem dX4_stepsOn_141 : decode cX4_stepsOn 141 = .ok (.invokevirtual 160, 3) := dk_182 0 160 (dk_at dksX4_stepsOn_6 0 rfl rfl)
theorem dX4_stepsOn_144 : decode cX4_stepsOn 144 = .ok (.aload_n 0, 1) := dk_42 (dk_at dksX4_stepsOn_6 3 rfl rfl)
theorem dX4_stepsOn_145 : decode cX4_stepsOn 145 = .ok (.getfield 7, 3) := dk_180 0 7 (dk_at dksX4_stepsOn_6 4 rfl rfl)
theorem dX4_stepsOn_148 : decode cX4_stepsOn 148 = .ok (.iconst 1, 1) := dk_4 (dk_at dksX4_stepsOn_6 7 rfl rfl)
theorem dX4_stepsOn_149 : decode cX4_stepsOn 149 = .ok (.iload_n 1, 1) := dk_27 (dk_at dksX4_stepsOn_6 8 rfl rfl)
theorem dX4_stepsOn_150 : decode cX4_stepsOn 150 = .ok (.ifCond .eq 14, 3) := dk_153 0 14 (dk_at dksX4_stepsOn_6 9 rfl rfl)
theorem dX4_stepsOn_153 : decode cX4_stepsOn 153 = .ok (.aload_n 0, 1) := dk_42 (dk_at dksX4_stepsOn_6 12 rfl rfl)
theorem dX4_stepsOn_154 : decode cX4_stepsOn 154 = .ok (.getfield 134, 3) := dk_180 0 134 (dk_at dksX4_stepsOn_6 13 rfl rfl)
theorem dX4_stepsOn_157 : decode cX4_stepsOn 157 = .ok (.ifCond .eq 7, 3) := dk_153 0 7 (dk_at dksX4_stepsOn_6 16 rfl rfl)
theorem dX4_stepsOn_160 : decode cX4_stepsOn 160 = .ok (.iconst 2, 1) := dk_5 (dk_at dksX4_stepsOn_6 19 rfl rfl)
theorem dX4_stepsOn_161 : decode cX4_stepsOn 161 = .ok (.goto 9, 3) := dk_167 0 9 (dk_at dksX4_stepsOn_6 20 rfl rfl)
theorem dX4_stepsOn_164 : decode cX4_stepsOn 164 = .ok (.aload_n 0, 1) := dk_42 (dk_at dksX4_stepsOn_6 23 rfl rfl)
theorem dX4_stepsOn_165 : decode cX4_stepsOn 165 = .ok (.getfield 7, 3) := dk_180 0 7 (dk_at dksX4_stepsOn_7 0 rfl rfl)
theorem dX4_stepsOn_168 : decode cX4_stepsOn 168 = .ok (.iconst 1, 1) := dk_4 (dk_at dksX4_stepsOn_7 3 rfl rfl)
theorem dX4_stepsOn_169 : decode cX4_stepsOn 169 = .ok (.iaload, 1) := dk_46 (dk_at dksX4_stepsOn_7 4 rfl rfl)
theorem dX4_stepsOn_170 : decode cX4_stepsOn 170 = .ok (.iastore, 1) := dk_79 (dk_at dksX4_stepsOn_7 5 rfl rfl)
theorem dX4_stepsOn_171 : decode cX4_stepsOn 171 = .ok (.return_, 1) := dk_177 (dk_at dksX4_stepsOn_7 6 rfl rfl)
abbrev cX4_laysOuts : ByteArray := prog_17_method_42_code
def yX4_laysOuts : MethodName := ⟨RX4, "laysOuts", "()V"⟩
def dkwX4_laysOuts_5 : List UInt8 := [120, 167, 0, 4, 3, 128, 181, 0, 134, 132, 2, 1, 167, 255, 145, 132, 1, 1, 167, 255, 131, 177]
abbrev dktX4_laysOuts_5 : List UInt8 := dkwX4_laysOuts_5 ++ []
def dkwX4_laysOuts_4 : List UInt8 := [28, 46, 159, 0, 7, 4, 167, 0, 4, 3, 54, 4, 42, 89, 180, 0, 134, 21, 4, 153, 0, 9, 4, 28]
abbrev dktX4_laysOuts_4 : List UInt8 := dkwX4_laysOuts_4 ++ dktX4_laysOuts_5
def dkwX4_laysOuts_3 : List UInt8 := [182, 0, 48, 184, 0, 143, 18, 146, 160, 0, 7, 4, 167, 0, 22, 3, 167, 0, 18, 29, 42, 180, 0, 25]
abbrev dktX4_laysOuts_3 : List UInt8 := dkwX4_laysOuts_3 ++ dktX4_laysOuts_4
def dkwX4_laysOuts_2 : List UInt8 := [180, 0, 25, 28, 29, 17, 39, 16, 184, 0, 140, 79, 42, 28, 182, 0, 56, 4, 160, 0, 25, 42, 28, 6]
abbrev dktX4_laysOuts_2 : List UInt8 := dkwX4_laysOuts_2 ++ dktX4_laysOuts_3
def dkwX4_laysOuts_1 : List UInt8 := [3, 46, 162, 0, 107, 42, 180, 0, 22, 28, 46, 27, 160, 0, 91, 42, 28, 182, 0, 137, 62, 42]
abbrev dktX4_laysOuts_1 : List UInt8 := dkwX4_laysOuts_1 ++ dktX4_laysOuts_2
def dkwX4_laysOuts_0 : List UInt8 := [42, 182, 0, 131, 42, 3, 181, 0, 134, 3, 60, 27, 16, 16, 163, 0, 125, 3, 61, 28, 42, 180, 0, 7]
abbrev dktX4_laysOuts_0 : List UInt8 := dkwX4_laysOuts_0 ++ dktX4_laysOuts_1
theorem dksX4_laysOuts_0 : cX4_laysOuts.data.toList.drop 0 = dktX4_laysOuts_0 := by decide +kernel
theorem dksX4_laysOuts_1 : cX4_laysOuts.data.toList.drop 24 = dktX4_laysOuts_1 := dk_seg dksX4_laysOuts_0 24 rfl rfl
theorem dksX4_laysOuts_2 : cX4_laysOuts.data.toList.drop 46 = dktX4_laysOuts_2 := dk_seg dksX4_laysOuts_1 22 rfl rfl
theorem dksX4_laysOuts_3 : cX4_laysOuts.data.toList.drop 70 = dktX4_laysOuts_3 := dk_seg dksX4_laysOuts_2 24 rfl rfl
theorem dksX4_laysOuts_4 : cX4_laysOuts.data.toList.drop 94 = dktX4_laysOuts_4 := dk_seg dksX4_laysOuts_3 24 rfl rfl
theorem dksX4_laysOuts_5 : cX4_laysOuts.data.toList.drop 118 = dktX4_laysOuts_5 := dk_seg dksX4_laysOuts_4 24 rfl rfl
theorem dX4_laysOuts_0 : decode cX4_laysOuts 0 = .ok (.aload_n 0, 1) := dk_42 (dk_at dksX4_laysOuts_0 0 rfl rfl)
theorem dX4_laysOuts_1 : decode cX4_laysOuts 1 = .ok (.invokevirtual 131, 3) := dk_182 0 131 (dk_at dksX4_laysOuts_0 1 rfl rfl)
theorem dX4_laysOuts_4 : decode cX4_laysOuts 4 = .ok (.aload_n 0, 1) := dk_42 (dk_at dksX4_laysOuts_0 4 rfl rfl)
theorem dX4_laysOuts_5 : decode cX4_laysOuts 5 = .ok (.iconst 0, 1) := dk_3 (dk_at dksX4_laysOuts_0 5 rfl rfl)
theorem dX4_laysOuts_6 : decode cX4_laysOuts 6 = .ok (.putfield 134, 3) := dk_181 0 134 (dk_at dksX4_laysOuts_0 6 rfl rfl)
theorem dX4_laysOuts_9 : decode cX4_laysOuts 9 = .ok (.iconst 0, 1) := dk_3 (dk_at dksX4_laysOuts_0 9 rfl rfl)
theorem dX4_laysOuts_10 : decode cX4_laysOuts 10 = .ok (.istore_n 1, 1) := dk_60 (dk_at dksX4_laysOuts_0 10 rfl rfl)
theorem dX4_laysOuts_11 : decode cX4_laysOuts 11 = .ok (.iload_n 1, 1) := dk_27 (dk_at dksX4_laysOuts_0 11 rfl rfl)
theorem dX4_laysOuts_12 : decode cX4_laysOuts 12 = .ok (.bipush 16, 2) := dk_16 16 (dk_at dksX4_laysOuts_0 12 rfl rfl)
theorem dX4_laysOuts_14 : decode cX4_laysOuts 14 = .ok (.if_icmp .gt 125, 3) := dk_163 0 125 (dk_at dksX4_laysOuts_0 14 rfl rfl)
theorem dX4_laysOuts_17 : decode cX4_laysOuts 17 = .ok (.iconst 0, 1) := dk_3 (dk_at dksX4_laysOuts_0 17 rfl rfl)
theorem dX4_laysOuts_18 : decode cX4_laysOuts 18 = .ok (.istore_n 2, 1) := dk_61 (dk_at dksX4_laysOuts_0 18 rfl rfl)
theorem dX4_laysOuts_19 : decode cX4_laysOuts 19 = .ok (.iload_n 2, 1) := dk_28 (dk_at dksX4_laysOuts_0 19 rfl rfl)
theorem dX4_laysOuts_20 : decode cX4_laysOuts 20 = .ok (.aload_n 0, 1) := dk_42 (dk_at dksX4_laysOuts_0 20 rfl rfl)
theorem dX4_laysOuts_21 : decode cX4_laysOuts 21 = .ok (.getfield 7, 3) := dk_180 0 7 (dk_at dksX4_laysOuts_0 21 rfl rfl)
theorem dX4_laysOuts_24 : decode cX4_laysOuts 24 = .ok (.iconst 0, 1) := dk_3 (dk_at dksX4_laysOuts_1 0 rfl rfl)
theorem dX4_laysOuts_25 : decode cX4_laysOuts 25 = .ok (.iaload, 1) := dk_46 (dk_at dksX4_laysOuts_1 1 rfl rfl)
theorem dX4_laysOuts_26 : decode cX4_laysOuts 26 = .ok (.if_icmp .ge 107, 3) := dk_162 0 107 (dk_at dksX4_laysOuts_1 2 rfl rfl)
theorem dX4_laysOuts_29 : decode cX4_laysOuts 29 = .ok (.aload_n 0, 1) := dk_42 (dk_at dksX4_laysOuts_1 5 rfl rfl)
theorem dX4_laysOuts_30 : decode cX4_laysOuts 30 = .ok (.getfield 22, 3) := dk_180 0 22 (dk_at dksX4_laysOuts_1 6 rfl rfl)
theorem dX4_laysOuts_33 : decode cX4_laysOuts 33 = .ok (.iload_n 2, 1) := dk_28 (dk_at dksX4_laysOuts_1 9 rfl rfl)
theorem dX4_laysOuts_34 : decode cX4_laysOuts 34 = .ok (.iaload, 1) := dk_46 (dk_at dksX4_laysOuts_1 10 rfl rfl)
theorem dX4_laysOuts_35 : decode cX4_laysOuts 35 = .ok (.iload_n 1, 1) := dk_27 (dk_at dksX4_laysOuts_1 11 rfl rfl)
theorem dX4_laysOuts_36 : decode cX4_laysOuts 36 = .ok (.if_icmp .ne 91, 3) := dk_160 0 91 (dk_at dksX4_laysOuts_1 12 rfl rfl)
theorem dX4_laysOuts_39 : decode cX4_laysOuts 39 = .ok (.aload_n 0, 1) := dk_42 (dk_at dksX4_laysOuts_1 15 rfl rfl)
theorem dX4_laysOuts_40 : decode cX4_laysOuts 40 = .ok (.iload_n 2, 1) := dk_28 (dk_at dksX4_laysOuts_1 16 rfl rfl)
theorem dX4_laysOuts_41 : decode cX4_laysOuts 41 = .ok (.invokevirtual 137, 3) := dk_182 0 137 (dk_at dksX4_laysOuts_1 17 rfl rfl)
theorem dX4_laysOuts_44 : decode cX4_laysOuts 44 = .ok (.istore_n 3, 1) := dk_62 (dk_at dksX4_laysOuts_1 20 rfl rfl)
theorem dX4_laysOuts_45 : decode cX4_laysOuts 45 = .ok (.aload_n 0, 1) := dk_42 (dk_at dksX4_laysOuts_1 21 rfl rfl)
theorem dX4_laysOuts_46 : decode cX4_laysOuts 46 = .ok (.getfield 25, 3) := dk_180 0 25 (dk_at dksX4_laysOuts_2 0 rfl rfl)
theorem dX4_laysOuts_49 : decode cX4_laysOuts 49 = .ok (.iload_n 2, 1) := dk_28 (dk_at dksX4_laysOuts_2 3 rfl rfl)
theorem dX4_laysOuts_50 : decode cX4_laysOuts 50 = .ok (.iload_n 3, 1) := dk_29 (dk_at dksX4_laysOuts_2 4 rfl rfl)
theorem dX4_laysOuts_51 : decode cX4_laysOuts 51 = .ok (.sipush 10000, 3) := dk_17 39 16 (dk_at dksX4_laysOuts_2 5 rfl rfl)
theorem dX4_laysOuts_54 : decode cX4_laysOuts 54 = .ok (.invokestatic 140, 3) := dk_184 0 140 (dk_at dksX4_laysOuts_2 8 rfl rfl)
theorem dX4_laysOuts_57 : decode cX4_laysOuts 57 = .ok (.iastore, 1) := dk_79 (dk_at dksX4_laysOuts_2 11 rfl rfl)
theorem dX4_laysOuts_58 : decode cX4_laysOuts 58 = .ok (.aload_n 0, 1) := dk_42 (dk_at dksX4_laysOuts_2 12 rfl rfl)
theorem dX4_laysOuts_59 : decode cX4_laysOuts 59 = .ok (.iload_n 2, 1) := dk_28 (dk_at dksX4_laysOuts_2 13 rfl rfl)
theorem dX4_laysOuts_60 : decode cX4_laysOuts 60 = .ok (.invokevirtual 56, 3) := dk_182 0 56 (dk_at dksX4_laysOuts_2 14 rfl rfl)
theorem dX4_laysOuts_63 : decode cX4_laysOuts 63 = .ok (.iconst 1, 1) := dk_4 (dk_at dksX4_laysOuts_2 17 rfl rfl)
theorem dX4_laysOuts_64 : decode cX4_laysOuts 64 = .ok (.if_icmp .ne 25, 3) := dk_160 0 25 (dk_at dksX4_laysOuts_2 18 rfl rfl)
theorem dX4_laysOuts_67 : decode cX4_laysOuts 67 = .ok (.aload_n 0, 1) := dk_42 (dk_at dksX4_laysOuts_2 21 rfl rfl)
theorem dX4_laysOuts_68 : decode cX4_laysOuts 68 = .ok (.iload_n 2, 1) := dk_28 (dk_at dksX4_laysOuts_2 22 rfl rfl)
theorem dX4_laysOuts_69 : decode cX4_laysOuts 69 = .ok (.iconst 3, 1) := dk_6 (dk_at dksX4_laysOuts_2 23 rfl rfl)
theorem dX4_laysOuts_70 : decode cX4_laysOuts 70 = .ok (.invokevirtual 48, 3) := dk_182 0 48 (dk_at dksX4_laysOuts_3 0 rfl rfl)
theorem dX4_laysOuts_73 : decode cX4_laysOuts 73 = .ok (.invokestatic 143, 3) := dk_184 0 143 (dk_at dksX4_laysOuts_3 3 rfl rfl)
theorem dX4_laysOuts_76 : decode cX4_laysOuts 76 = .ok (.ldc 146, 2) := dk_18 146 (dk_at dksX4_laysOuts_3 6 rfl rfl)
theorem dX4_laysOuts_78 : decode cX4_laysOuts 78 = .ok (.if_icmp .ne 7, 3) := dk_160 0 7 (dk_at dksX4_laysOuts_3 8 rfl rfl)
theorem dX4_laysOuts_81 : decode cX4_laysOuts 81 = .ok (.iconst 1, 1) := dk_4 (dk_at dksX4_laysOuts_3 11 rfl rfl)
theorem dX4_laysOuts_82 : decode cX4_laysOuts 82 = .ok (.goto 22, 3) := dk_167 0 22 (dk_at dksX4_laysOuts_3 12 rfl rfl)
theorem dX4_laysOuts_85 : decode cX4_laysOuts 85 = .ok (.iconst 0, 1) := dk_3 (dk_at dksX4_laysOuts_3 15 rfl rfl)
theorem dX4_laysOuts_86 : decode cX4_laysOuts 86 = .ok (.goto 18, 3) := dk_167 0 18 (dk_at dksX4_laysOuts_3 16 rfl rfl)
theorem dX4_laysOuts_89 : decode cX4_laysOuts 89 = .ok (.iload_n 3, 1) := dk_29 (dk_at dksX4_laysOuts_3 19 rfl rfl)
theorem dX4_laysOuts_90 : decode cX4_laysOuts 90 = .ok (.aload_n 0, 1) := dk_42 (dk_at dksX4_laysOuts_3 20 rfl rfl)
theorem dX4_laysOuts_91 : decode cX4_laysOuts 91 = .ok (.getfield 25, 3) := dk_180 0 25 (dk_at dksX4_laysOuts_3 21 rfl rfl)
theorem dX4_laysOuts_94 : decode cX4_laysOuts 94 = .ok (.iload_n 2, 1) := dk_28 (dk_at dksX4_laysOuts_4 0 rfl rfl)
theorem dX4_laysOuts_95 : decode cX4_laysOuts 95 = .ok (.iaload, 1) := dk_46 (dk_at dksX4_laysOuts_4 1 rfl rfl)
theorem dX4_laysOuts_96 : decode cX4_laysOuts 96 = .ok (.if_icmp .eq 7, 3) := dk_159 0 7 (dk_at dksX4_laysOuts_4 2 rfl rfl)
theorem dX4_laysOuts_99 : decode cX4_laysOuts 99 = .ok (.iconst 1, 1) := dk_4 (dk_at dksX4_laysOuts_4 5 rfl rfl)
theorem dX4_laysOuts_100 : decode cX4_laysOuts 100 = .ok (.goto 4, 3) := dk_167 0 4 (dk_at dksX4_laysOuts_4 6 rfl rfl)
theorem dX4_laysOuts_103 : decode cX4_laysOuts 103 = .ok (.iconst 0, 1) := dk_3 (dk_at dksX4_laysOuts_4 9 rfl rfl)
theorem dX4_laysOuts_104 : decode cX4_laysOuts 104 = .ok (.istore 4, 2) := dk_54 4 (dk_at dksX4_laysOuts_4 10 rfl rfl)
theorem dX4_laysOuts_106 : decode cX4_laysOuts 106 = .ok (.aload_n 0, 1) := dk_42 (dk_at dksX4_laysOuts_4 12 rfl rfl)
theorem dX4_laysOuts_107 : decode cX4_laysOuts 107 = .ok (.dup, 1) := dk_89 (dk_at dksX4_laysOuts_4 13 rfl rfl)
theorem dX4_laysOuts_108 : decode cX4_laysOuts 108 = .ok (.getfield 134, 3) := dk_180 0 134 (dk_at dksX4_laysOuts_4 14 rfl rfl)
theorem dX4_laysOuts_111 : decode cX4_laysOuts 111 = .ok (.iload 4, 2) := dk_21 4 (dk_at dksX4_laysOuts_4 17 rfl rfl)
theorem dX4_laysOuts_113 : decode cX4_laysOuts 113 = .ok (.ifCond .eq 9, 3) := dk_153 0 9 (dk_at dksX4_laysOuts_4 19 rfl rfl)
theorem dX4_laysOuts_116 : decode cX4_laysOuts 116 = .ok (.iconst 1, 1) := dk_4 (dk_at dksX4_laysOuts_4 22 rfl rfl)
theorem dX4_laysOuts_117 : decode cX4_laysOuts 117 = .ok (.iload_n 2, 1) := dk_28 (dk_at dksX4_laysOuts_4 23 rfl rfl)
theorem dX4_laysOuts_118 : decode cX4_laysOuts 118 = .ok (.ishl, 1) := dk_120 (dk_at dksX4_laysOuts_5 0 rfl rfl)
theorem dX4_laysOuts_119 : decode cX4_laysOuts 119 = .ok (.goto 4, 3) := dk_167 0 4 (dk_at dksX4_laysOuts_5 1 rfl rfl)
theorem dX4_laysOuts_122 : decode cX4_laysOuts 122 = .ok (.iconst 0, 1) := dk_3 (dk_at dksX4_laysOuts_5 4 rfl rfl)
theorem dX4_laysOuts_123 : decode cX4_laysOuts 123 = .ok (.ior, 1) := dk_128 (dk_at dksX4_laysOuts_5 5 rfl rfl)
theorem dX4_laysOuts_124 : decode cX4_laysOuts 124 = .ok (.putfield 134, 3) := dk_181 0 134 (dk_at dksX4_laysOuts_5 6 rfl rfl)
theorem dX4_laysOuts_127 : decode cX4_laysOuts 127 = .ok (.iinc 2 1, 3) := dk_132 2 1 (dk_at dksX4_laysOuts_5 9 rfl rfl)
theorem dX4_laysOuts_130 : decode cX4_laysOuts 130 = .ok (.goto (-111), 3) := dk_167 255 145 (dk_at dksX4_laysOuts_5 12 rfl rfl)
theorem dX4_laysOuts_133 : decode cX4_laysOuts 133 = .ok (.iinc 1 1, 3) := dk_132 1 1 (dk_at dksX4_laysOuts_5 15 rfl rfl)
theorem dX4_laysOuts_136 : decode cX4_laysOuts 136 = .ok (.goto (-125), 3) := dk_167 255 131 (dk_at dksX4_laysOuts_5 18 rfl rfl)
theorem dX4_laysOuts_139 : decode cX4_laysOuts 139 = .ok (.return_, 1) := dk_177 (dk_at dksX4_laysOuts_5 21 rfl rfl)
abbrev cX4_laysLevels : ByteArray := prog_17_method_38_code
def yX4_laysLevels : MethodName := ⟨RX4, "laysLevels", "()V"⟩
def dkwX4_laysLevels_5 : List UInt8 := [4, 96, 79, 4, 60, 132, 3, 1, 167, 255, 191, 132, 2, 1, 167, 255, 173, 167, 255, 162, 177]
abbrev dktX4_laysLevels_5 : List UInt8 := dkwX4_laysLevels_5 ++ []
def dkwX4_laysLevels_4 : List UInt8 := [21, 4, 46, 42, 180, 0, 22, 28, 46, 161, 0, 20, 42, 180, 0, 22, 28, 42, 180, 0, 22, 21, 4, 46]
abbrev dktX4_laysLevels_4 : List UInt8 := dkwX4_laysLevels_4 ++ dktX4_laysLevels_5
def dkwX4_laysLevels_3 : List UInt8 := [154, 0, 58, 42, 28, 8, 29, 96, 182, 0, 48, 54, 4, 21, 4, 2, 159, 0, 36, 42, 180, 0, 22]
abbrev dktX4_laysLevels_3 : List UInt8 := dkwX4_laysLevels_3 ++ dktX4_laysLevels_4
def dkwX4_laysLevels_2 : List UInt8 := [61, 28, 42, 180, 0, 7, 3, 46, 162, 0, 79, 3, 62, 29, 7, 162, 0, 66, 42, 28, 182, 0, 87]
abbrev dktX4_laysLevels_2 : List UInt8 := dkwX4_laysLevels_2 ++ dktX4_laysLevels_3
def dkwX4_laysLevels_1 : List UInt8 := [153, 0, 7, 3, 167, 0, 4, 4, 79, 132, 1, 1, 167, 255, 224, 4, 60, 27, 153, 0, 96, 3, 60, 3]
abbrev dktX4_laysLevels_1 : List UInt8 := dkwX4_laysLevels_1 ++ dktX4_laysLevels_2
def dkwX4_laysLevels_0 : List UInt8 := [3, 60, 27, 42, 180, 0, 7, 3, 46, 162, 0, 28, 42, 180, 0, 22, 27, 42, 27, 182, 0, 87]
abbrev dktX4_laysLevels_0 : List UInt8 := dkwX4_laysLevels_0 ++ dktX4_laysLevels_1
theorem dksX4_laysLevels_0 : cX4_laysLevels.data.toList.drop 0 = dktX4_laysLevels_0 := by decide +kernel
theorem dksX4_laysLevels_1 : cX4_laysLevels.data.toList.drop 22 = dktX4_laysLevels_1 := dk_seg dksX4_laysLevels_0 22 rfl rfl
theorem dksX4_laysLevels_2 : cX4_laysLevels.data.toList.drop 46 = dktX4_laysLevels_2 := dk_seg dksX4_laysLevels_1 24 rfl rfl
theorem dksX4_laysLevels_3 : cX4_laysLevels.data.toList.drop 69 = dktX4_laysLevels_3 := dk_seg dksX4_laysLevels_2 23 rfl rfl
theorem dksX4_laysLevels_4 : cX4_laysLevels.data.toList.drop 92 = dktX4_laysLevels_4 := dk_seg dksX4_laysLevels_3 23 rfl rfl
theorem dksX4_laysLevels_5 : cX4_laysLevels.data.toList.drop 116 = dktX4_laysLevels_5 := dk_seg dksX4_laysLevels_4 24 rfl rfl
theorem dX4_laysLevels_0 : decode cX4_laysLevels 0 = .ok (.iconst 0, 1) := dk_3 (dk_at dksX4_laysLevels_0 0 rfl rfl)
theorem dX4_laysLevels_1 : decode cX4_laysLevels 1 = .ok (.istore_n 1, 1) := dk_60 (dk_at dksX4_laysLevels_0 1 rfl rfl)
theorem dX4_laysLevels_2 : decode cX4_laysLevels 2 = .ok (.iload_n 1, 1) := dk_27 (dk_at dksX4_laysLevels_0 2 rfl rfl)
theorem dX4_laysLevels_3 : decode cX4_laysLevels 3 = .ok (.aload_n 0, 1) := dk_42 (dk_at dksX4_laysLevels_0 3 rfl rfl)
theorem dX4_laysLevels_4 : decode cX4_laysLevels 4 = .ok (.getfield 7, 3) := dk_180 0 7 (dk_at dksX4_laysLevels_0 4 rfl rfl)
theorem dX4_laysLevels_7 : decode cX4_laysLevels 7 = .ok (.iconst 0, 1) := dk_3 (dk_at dksX4_laysLevels_0 7 rfl rfl)
theorem dX4_laysLevels_8 : decode cX4_laysLevels 8 = .ok (.iaload, 1) := dk_46 (dk_at dksX4_laysLevels_0 8 rfl rfl)
theorem dX4_laysLevels_9 : decode cX4_laysLevels 9 = .ok (.if_icmp .ge 28, 3) := dk_162 0 28 (dk_at dksX4_laysLevels_0 9 rfl rfl)
theorem dX4_laysLevels_12 : decode cX4_laysLevels 12 = .ok (.aload_n 0, 1) := dk_42 (dk_at dksX4_laysLevels_0 12 rfl rfl)
theorem dX4_laysLevels_13 : decode cX4_laysLevels 13 = .ok (.getfield 22, 3) := dk_180 0 22 (dk_at dksX4_laysLevels_0 13 rfl rfl)
theorem dX4_laysLevels_16 : decode cX4_laysLevels 16 = .ok (.iload_n 1, 1) := dk_27 (dk_at dksX4_laysLevels_0 16 rfl rfl)
theorem dX4_laysLevels_17 : decode cX4_laysLevels 17 = .ok (.aload_n 0, 1) := dk_42 (dk_at dksX4_laysLevels_0 17 rfl rfl)
theorem dX4_laysLevels_18 : decode cX4_laysLevels 18 = .ok (.iload_n 1, 1) := dk_27 (dk_at dksX4_laysLevels_0 18 rfl rfl)
theorem dX4_laysLevels_19 : decode cX4_laysLevels 19 = .ok (.invokevirtual 87, 3) := dk_182 0 87 (dk_at dksX4_laysLevels_0 19 rfl rfl)
theorem dX4_laysLevels_22 : decode cX4_laysLevels 22 = .ok (.ifCond .eq 7, 3) := dk_153 0 7 (dk_at dksX4_laysLevels_1 0 rfl rfl)
theorem dX4_laysLevels_25 : decode cX4_laysLevels 25 = .ok (.iconst 0, 1) := dk_3 (dk_at dksX4_laysLevels_1 3 rfl rfl)
theorem dX4_laysLevels_26 : decode cX4_laysLevels 26 = .ok (.goto 4, 3) := dk_167 0 4 (dk_at dksX4_laysLevels_1 4 rfl rfl)
theorem dX4_laysLevels_29 : decode cX4_laysLevels 29 = .ok (.iconst 1, 1) := dk_4 (dk_at dksX4_laysLevels_1 7 rfl rfl)
theorem dX4_laysLevels_30 : decode cX4_laysLevels 30 = .ok (.iastore, 1) := dk_79 (dk_at dksX4_laysLevels_1 8 rfl rfl)
theorem dX4_laysLevels_31 : decode cX4_laysLevels 31 = .ok (.iinc 1 1, 3) := dk_132 1 1 (dk_at dksX4_laysLevels_1 9 rfl rfl)
theorem dX4_laysLevels_34 : decode cX4_laysLevels 34 = .ok (.goto (-32), 3) := dk_167 255 224 (dk_at dksX4_laysLevels_1 12 rfl rfl)
theorem dX4_laysLevels_37 : decode cX4_laysLevels 37 = .ok (.iconst 1, 1) := dk_4 (dk_at dksX4_laysLevels_1 15 rfl rfl)
theorem dX4_laysLevels_38 : decode cX4_laysLevels 38 = .ok (.istore_n 1, 1) := dk_60 (dk_at dksX4_laysLevels_1 16 rfl rfl)
theorem dX4_laysLevels_39 : decode cX4_laysLevels 39 = .ok (.iload_n 1, 1) := dk_27 (dk_at dksX4_laysLevels_1 17 rfl rfl)
theorem dX4_laysLevels_40 : decode cX4_laysLevels 40 = .ok (.ifCond .eq 96, 3) := dk_153 0 96 (dk_at dksX4_laysLevels_1 18 rfl rfl)
theorem dX4_laysLevels_43 : decode cX4_laysLevels 43 = .ok (.iconst 0, 1) := dk_3 (dk_at dksX4_laysLevels_1 21 rfl rfl)
theorem dX4_laysLevels_44 : decode cX4_laysLevels 44 = .ok (.istore_n 1, 1) := dk_60 (dk_at dksX4_laysLevels_1 22 rfl rfl)
theorem dX4_laysLevels_45 : decode cX4_laysLevels 45 = .ok (.iconst 0, 1) := dk_3 (dk_at dksX4_laysLevels_1 23 rfl rfl)
theorem dX4_laysLevels_46 : decode cX4_laysLevels 46 = .ok (.istore_n 2, 1) := dk_61 (dk_at dksX4_laysLevels_2 0 rfl rfl)
theorem dX4_laysLevels_47 : decode cX4_laysLevels 47 = .ok (.iload_n 2, 1) := dk_28 (dk_at dksX4_laysLevels_2 1 rfl rfl)
theorem dX4_laysLevels_48 : decode cX4_laysLevels 48 = .ok (.aload_n 0, 1) := dk_42 (dk_at dksX4_laysLevels_2 2 rfl rfl)
theorem dX4_laysLevels_49 : decode cX4_laysLevels 49 = .ok (.getfield 7, 3) := dk_180 0 7 (dk_at dksX4_laysLevels_2 3 rfl rfl)
theorem dX4_laysLevels_52 : decode cX4_laysLevels 52 = .ok (.iconst 0, 1) := dk_3 (dk_at dksX4_laysLevels_2 6 rfl rfl)
theorem dX4_laysLevels_53 : decode cX4_laysLevels 53 = .ok (.iaload, 1) := dk_46 (dk_at dksX4_laysLevels_2 7 rfl rfl)
theorem dX4_laysLevels_54 : decode cX4_laysLevels 54 = .ok (.if_icmp .ge 79, 3) := dk_162 0 79 (dk_at dksX4_laysLevels_2 8 rfl rfl)
theorem dX4_laysLevels_57 : decode cX4_laysLevels 57 = .ok (.iconst 0, 1) := dk_3 (dk_at dksX4_laysLevels_2 11 rfl rfl)
theorem dX4_laysLevels_58 : decode cX4_laysLevels 58 = .ok (.istore_n 3, 1) := dk_62 (dk_at dksX4_laysLevels_2 12 rfl rfl)
theorem dX4_laysLevels_59 : decode cX4_laysLevels 59 = .ok (.iload_n 3, 1) := dk_29 (dk_at dksX4_laysLevels_2 13 rfl rfl)
theorem dX4_laysLevels_60 : decode cX4_laysLevels 60 = .ok (.iconst 4, 1) := dk_7 (dk_at dksX4_laysLevels_2 14 rfl rfl)
theorem dX4_laysLevels_61 : decode cX4_laysLevels 61 = .ok (.if_icmp .ge 66, 3) := dk_162 0 66 (dk_at dksX4_laysLevels_2 15 rfl rfl)
theorem dX4_laysLevels_64 : decode cX4_laysLevels 64 = .ok (.aload_n 0, 1) := dk_42 (dk_at dksX4_laysLevels_2 18 rfl rfl)
theorem dX4_laysLevels_65 : decode cX4_laysLevels 65 = .ok (.iload_n 2, 1) := dk_28 (dk_at dksX4_laysLevels_2 19 rfl rfl)
theorem dX4_laysLevels_66 : decode cX4_laysLevels 66 = .ok (.invokevirtual 87, 3) := dk_182 0 87 (dk_at dksX4_laysLevels_2 20 rfl rfl)
theorem dX4_laysLevels_69 : decode cX4_laysLevels 69 = .ok (.ifCond .ne 58, 3) := dk_154 0 58 (dk_at dksX4_laysLevels_3 0 rfl rfl)
theorem dX4_laysLevels_72 : decode cX4_laysLevels 72 = .ok (.aload_n 0, 1) := dk_42 (dk_at dksX4_laysLevels_3 3 rfl rfl)
theorem dX4_laysLevels_73 : decode cX4_laysLevels 73 = .ok (.iload_n 2, 1) := dk_28 (dk_at dksX4_laysLevels_3 4 rfl rfl)
theorem dX4_laysLevels_74 : decode cX4_laysLevels 74 = .ok (.iconst 5, 1) := dk_8 (dk_at dksX4_laysLevels_3 5 rfl rfl)
theorem dX4_laysLevels_75 : decode cX4_laysLevels 75 = .ok (.iload_n 3, 1) := dk_29 (dk_at dksX4_laysLevels_3 6 rfl rfl)
theorem dX4_laysLevels_76 : decode cX4_laysLevels 76 = .ok (.iadd, 1) := dk_96 (dk_at dksX4_laysLevels_3 7 rfl rfl)
theorem dX4_laysLevels_77 : decode cX4_laysLevels 77 = .ok (.invokevirtual 48, 3) := dk_182 0 48 (dk_at dksX4_laysLevels_3 8 rfl rfl)
theorem dX4_laysLevels_80 : decode cX4_laysLevels 80 = .ok (.istore 4, 2) := dk_54 4 (dk_at dksX4_laysLevels_3 11 rfl rfl)
theorem dX4_laysLevels_82 : decode cX4_laysLevels 82 = .ok (.iload 4, 2) := dk_21 4 (dk_at dksX4_laysLevels_3 13 rfl rfl)
theorem dX4_laysLevels_84 : decode cX4_laysLevels 84 = .ok (.iconst (-1), 1) := dk_2 (dk_at dksX4_laysLevels_3 15 rfl rfl)
theorem dX4_laysLevels_85 : decode cX4_laysLevels 85 = .ok (.if_icmp .eq 36, 3) := dk_159 0 36 (dk_at dksX4_laysLevels_3 16 rfl rfl)
theorem dX4_laysLevels_88 : decode cX4_laysLevels 88 = .ok (.aload_n 0, 1) := dk_42 (dk_at dksX4_laysLevels_3 19 rfl rfl)
theorem dX4_laysLevels_89 : decode cX4_laysLevels 89 = .ok (.getfield 22, 3) := dk_180 0 22 (dk_at dksX4_laysLevels_3 20 rfl rfl)
theorem dX4_laysLevels_92 : decode cX4_laysLevels 92 = .ok (.iload 4, 2) := dk_21 4 (dk_at dksX4_laysLevels_4 0 rfl rfl)
theorem dX4_laysLevels_94 : decode cX4_laysLevels 94 = .ok (.iaload, 1) := dk_46 (dk_at dksX4_laysLevels_4 2 rfl rfl)
theorem dX4_laysLevels_95 : decode cX4_laysLevels 95 = .ok (.aload_n 0, 1) := dk_42 (dk_at dksX4_laysLevels_4 3 rfl rfl)
theorem dX4_laysLevels_96 : decode cX4_laysLevels 96 = .ok (.getfield 22, 3) := dk_180 0 22 (dk_at dksX4_laysLevels_4 4 rfl rfl)
theorem dX4_laysLevels_99 : decode cX4_laysLevels 99 = .ok (.iload_n 2, 1) := dk_28 (dk_at dksX4_laysLevels_4 7 rfl rfl)
theorem dX4_laysLevels_100 : decode cX4_laysLevels 100 = .ok (.iaload, 1) := dk_46 (dk_at dksX4_laysLevels_4 8 rfl rfl)
theorem dX4_laysLevels_101 : decode cX4_laysLevels 101 = .ok (.if_icmp .lt 20, 3) := dk_161 0 20 (dk_at dksX4_laysLevels_4 9 rfl rfl)
theorem dX4_laysLevels_104 : decode cX4_laysLevels 104 = .ok (.aload_n 0, 1) := dk_42 (dk_at dksX4_laysLevels_4 12 rfl rfl)
theorem dX4_laysLevels_105 : decode cX4_laysLevels 105 = .ok (.getfield 22, 3) := dk_180 0 22 (dk_at dksX4_laysLevels_4 13 rfl rfl)
theorem dX4_laysLevels_108 : decode cX4_laysLevels 108 = .ok (.iload_n 2, 1) := dk_28 (dk_at dksX4_laysLevels_4 16 rfl rfl)
theorem dX4_laysLevels_109 : decode cX4_laysLevels 109 = .ok (.aload_n 0, 1) := dk_42 (dk_at dksX4_laysLevels_4 17 rfl rfl)
theorem dX4_laysLevels_110 : decode cX4_laysLevels 110 = .ok (.getfield 22, 3) := dk_180 0 22 (dk_at dksX4_laysLevels_4 18 rfl rfl)
theorem dX4_laysLevels_113 : decode cX4_laysLevels 113 = .ok (.iload 4, 2) := dk_21 4 (dk_at dksX4_laysLevels_4 21 rfl rfl)
theorem dX4_laysLevels_115 : decode cX4_laysLevels 115 = .ok (.iaload, 1) := dk_46 (dk_at dksX4_laysLevels_4 23 rfl rfl)
theorem dX4_laysLevels_116 : decode cX4_laysLevels 116 = .ok (.iconst 1, 1) := dk_4 (dk_at dksX4_laysLevels_5 0 rfl rfl)
theorem dX4_laysLevels_117 : decode cX4_laysLevels 117 = .ok (.iadd, 1) := dk_96 (dk_at dksX4_laysLevels_5 1 rfl rfl)
theorem dX4_laysLevels_118 : decode cX4_laysLevels 118 = .ok (.iastore, 1) := dk_79 (dk_at dksX4_laysLevels_5 2 rfl rfl)
theorem dX4_laysLevels_119 : decode cX4_laysLevels 119 = .ok (.iconst 1, 1) := dk_4 (dk_at dksX4_laysLevels_5 3 rfl rfl)
theorem dX4_laysLevels_120 : decode cX4_laysLevels 120 = .ok (.istore_n 1, 1) := dk_60 (dk_at dksX4_laysLevels_5 4 rfl rfl)
theorem dX4_laysLevels_121 : decode cX4_laysLevels 121 = .ok (.iinc 3 1, 3) := dk_132 3 1 (dk_at dksX4_laysLevels_5 5 rfl rfl)
theorem dX4_laysLevels_124 : decode cX4_laysLevels 124 = .ok (.goto (-65), 3) := dk_167 255 191 (dk_at dksX4_laysLevels_5 8 rfl rfl)
theorem dX4_laysLevels_127 : decode cX4_laysLevels 127 = .ok (.iinc 2 1, 3) := dk_132 2 1 (dk_at dksX4_laysLevels_5 11 rfl rfl)
theorem dX4_laysLevels_130 : decode cX4_laysLevels 130 = .ok (.goto (-83), 3) := dk_167 255 173 (dk_at dksX4_laysLevels_5 14 rfl rfl)
theorem dX4_laysLevels_133 : decode cX4_laysLevels 133 = .ok (.goto (-94), 3) := dk_167 255 162 (dk_at dksX4_laysLevels_5 17 rfl rfl)
theorem dX4_laysLevels_136 : decode cX4_laysLevels 136 = .ok (.return_, 1) := dk_177 (dk_at dksX4_laysLevels_5 20 rfl rfl)
abbrev cX4_free : ByteArray := prog_17_method_41_code
def yX4_free : MethodName := ⟨RX4, "free", "(I)I"⟩
def dkwX4_free_5 : List UInt8 := [6, 182, 0, 125, 167, 0, 9, 42, 27, 4, 182, 0, 48, 172]
abbrev dktX4_free_5 : List UInt8 := dkwX4_free_5 ++ []
def dkwX4_free_4 : List UInt8 := [3, 182, 0, 125, 42, 27, 4, 182, 0, 125, 161, 0, 12, 42, 27, 5, 182, 0, 125, 167, 0, 18, 42, 27]
abbrev dktX4_free_4 : List UInt8 := dkwX4_free_4 ++ dktX4_free_5
def dkwX4_free_3 : List UInt8 := [182, 0, 125, 42, 27, 4, 182, 0, 125, 104, 17, 39, 16, 108, 167, 0, 47, 28, 7, 160, 0, 36, 42, 27]
abbrev dktX4_free_3 : List UInt8 := dkwX4_free_3 ++ dktX4_free_4
def dkwX4_free_2 : List UInt8 := [42, 27, 4, 182, 0, 48, 104, 17, 3, 232, 108, 167, 0, 72, 28, 6, 160, 0, 23, 42, 27, 3]
abbrev dktX4_free_2 : List UInt8 := dkwX4_free_2 ++ dktX4_free_3
def dkwX4_free_1 : List UInt8 := [42, 27, 6, 182, 0, 48, 17, 3, 232, 108, 167, 0, 97, 28, 5, 160, 0, 23, 42, 27, 3, 182, 0, 125]
abbrev dktX4_free_1 : List UInt8 := dkwX4_free_1 ++ dktX4_free_2
def dkwX4_free_0 : List UInt8 := [42, 27, 182, 0, 56, 61, 28, 154, 0, 12, 42, 27, 182, 0, 128, 116, 167, 0, 115, 28, 4, 160, 0, 16]
abbrev dktX4_free_0 : List UInt8 := dkwX4_free_0 ++ dktX4_free_1
theorem dksX4_free_0 : cX4_free.data.toList.drop 0 = dktX4_free_0 := by decide +kernel
theorem dksX4_free_1 : cX4_free.data.toList.drop 24 = dktX4_free_1 := dk_seg dksX4_free_0 24 rfl rfl
theorem dksX4_free_2 : cX4_free.data.toList.drop 48 = dktX4_free_2 := dk_seg dksX4_free_1 24 rfl rfl
theorem dksX4_free_3 : cX4_free.data.toList.drop 70 = dktX4_free_3 := dk_seg dksX4_free_2 22 rfl rfl
theorem dksX4_free_4 : cX4_free.data.toList.drop 94 = dktX4_free_4 := dk_seg dksX4_free_3 24 rfl rfl
theorem dksX4_free_5 : cX4_free.data.toList.drop 118 = dktX4_free_5 := dk_seg dksX4_free_4 24 rfl rfl
theorem dX4_free_0 : decode cX4_free 0 = .ok (.aload_n 0, 1) := dk_42 (dk_at dksX4_free_0 0 rfl rfl)
theorem dX4_free_1 : decode cX4_free 1 = .ok (.iload_n 1, 1) := dk_27 (dk_at dksX4_free_0 1 rfl rfl)
theorem dX4_free_2 : decode cX4_free 2 = .ok (.invokevirtual 56, 3) := dk_182 0 56 (dk_at dksX4_free_0 2 rfl rfl)
theorem dX4_free_5 : decode cX4_free 5 = .ok (.istore_n 2, 1) := dk_61 (dk_at dksX4_free_0 5 rfl rfl)
theorem dX4_free_6 : decode cX4_free 6 = .ok (.iload_n 2, 1) := dk_28 (dk_at dksX4_free_0 6 rfl rfl)
theorem dX4_free_7 : decode cX4_free 7 = .ok (.ifCond .ne 12, 3) := dk_154 0 12 (dk_at dksX4_free_0 7 rfl rfl)
theorem dX4_free_10 : decode cX4_free 10 = .ok (.aload_n 0, 1) := dk_42 (dk_at dksX4_free_0 10 rfl rfl)
theorem dX4_free_11 : decode cX4_free 11 = .ok (.iload_n 1, 1) := dk_27 (dk_at dksX4_free_0 11 rfl rfl)
theorem dX4_free_12 : decode cX4_free 12 = .ok (.invokevirtual 128, 3) := dk_182 0 128 (dk_at dksX4_free_0 12 rfl rfl)
theorem dX4_free_15 : decode cX4_free 15 = .ok (.ineg, 1) := dk_116 (dk_at dksX4_free_0 15 rfl rfl)
theorem dX4_free_16 : decode cX4_free 16 = .ok (.goto 115, 3) := dk_167 0 115 (dk_at dksX4_free_0 16 rfl rfl)
theorem dX4_free_19 : decode cX4_free 19 = .ok (.iload_n 2, 1) := dk_28 (dk_at dksX4_free_0 19 rfl rfl)
theorem dX4_free_20 : decode cX4_free 20 = .ok (.iconst 1, 1) := dk_4 (dk_at dksX4_free_0 20 rfl rfl)
theorem dX4_free_21 : decode cX4_free 21 = .ok (.if_icmp .ne 16, 3) := dk_160 0 16 (dk_at dksX4_free_0 21 rfl rfl)
theorem dX4_free_24 : decode cX4_free 24 = .ok (.aload_n 0, 1) := dk_42 (dk_at dksX4_free_1 0 rfl rfl)
theorem dX4_free_25 : decode cX4_free 25 = .ok (.iload_n 1, 1) := dk_27 (dk_at dksX4_free_1 1 rfl rfl)
theorem dX4_free_26 : decode cX4_free 26 = .ok (.iconst 3, 1) := dk_6 (dk_at dksX4_free_1 2 rfl rfl)
theorem dX4_free_27 : decode cX4_free 27 = .ok (.invokevirtual 48, 3) := dk_182 0 48 (dk_at dksX4_free_1 3 rfl rfl)
theorem dX4_free_30 : decode cX4_free 30 = .ok (.sipush 1000, 3) := dk_17 3 232 (dk_at dksX4_free_1 6 rfl rfl)
theorem dX4_free_33 : decode cX4_free 33 = .ok (.idiv, 1) := dk_108 (dk_at dksX4_free_1 9 rfl rfl)
theorem dX4_free_34 : decode cX4_free 34 = .ok (.goto 97, 3) := dk_167 0 97 (dk_at dksX4_free_1 10 rfl rfl)
theorem dX4_free_37 : decode cX4_free 37 = .ok (.iload_n 2, 1) := dk_28 (dk_at dksX4_free_1 13 rfl rfl)
theorem dX4_free_38 : decode cX4_free 38 = .ok (.iconst 2, 1) := dk_5 (dk_at dksX4_free_1 14 rfl rfl)
theorem dX4_free_39 : decode cX4_free 39 = .ok (.if_icmp .ne 23, 3) := dk_160 0 23 (dk_at dksX4_free_1 15 rfl rfl)
theorem dX4_free_42 : decode cX4_free 42 = .ok (.aload_n 0, 1) := dk_42 (dk_at dksX4_free_1 18 rfl rfl)
theorem dX4_free_43 : decode cX4_free 43 = .ok (.iload_n 1, 1) := dk_27 (dk_at dksX4_free_1 19 rfl rfl)
theorem dX4_free_44 : decode cX4_free 44 = .ok (.iconst 0, 1) := dk_3 (dk_at dksX4_free_1 20 rfl rfl)
theorem dX4_free_45 : decode cX4_free 45 = .ok (.invokevirtual 125, 3) := dk_182 0 125 (dk_at dksX4_free_1 21 rfl rfl)
theorem dX4_free_48 : decode cX4_free 48 = .ok (.aload_n 0, 1) := dk_42 (dk_at dksX4_free_2 0 rfl rfl)
theorem dX4_free_49 : decode cX4_free 49 = .ok (.iload_n 1, 1) := dk_27 (dk_at dksX4_free_2 1 rfl rfl)
theorem dX4_free_50 : decode cX4_free 50 = .ok (.iconst 1, 1) := dk_4 (dk_at dksX4_free_2 2 rfl rfl)
theorem dX4_free_51 : decode cX4_free 51 = .ok (.invokevirtual 48, 3) := dk_182 0 48 (dk_at dksX4_free_2 3 rfl rfl)
theorem dX4_free_54 : decode cX4_free 54 = .ok (.imul, 1) := dk_104 (dk_at dksX4_free_2 6 rfl rfl)
theorem dX4_free_55 : decode cX4_free 55 = .ok (.sipush 1000, 3) := dk_17 3 232 (dk_at dksX4_free_2 7 rfl rfl)
theorem dX4_free_58 : decode cX4_free 58 = .ok (.idiv, 1) := dk_108 (dk_at dksX4_free_2 10 rfl rfl)
theorem dX4_free_59 : decode cX4_free 59 = .ok (.goto 72, 3) := dk_167 0 72 (dk_at dksX4_free_2 11 rfl rfl)
theorem dX4_free_62 : decode cX4_free 62 = .ok (.iload_n 2, 1) := dk_28 (dk_at dksX4_free_2 14 rfl rfl)
theorem dX4_free_63 : decode cX4_free 63 = .ok (.iconst 3, 1) := dk_6 (dk_at dksX4_free_2 15 rfl rfl)
theorem dX4_free_64 : decode cX4_free 64 = .ok (.if_icmp .ne 23, 3) := dk_160 0 23 (dk_at dksX4_free_2 16 rfl rfl)
theorem dX4_free_67 : decode cX4_free 67 = .ok (.aload_n 0, 1) := dk_42 (dk_at dksX4_free_2 19 rfl rfl)
theorem dX4_free_68 : decode cX4_free 68 = .ok (.iload_n 1, 1) := dk_27 (dk_at dksX4_free_2 20 rfl rfl)
theorem dX4_free_69 : decode cX4_free 69 = .ok (.iconst 0, 1) := dk_3 (dk_at dksX4_free_2 21 rfl rfl)
theorem dX4_free_70 : decode cX4_free 70 = .ok (.invokevirtual 125, 3) := dk_182 0 125 (dk_at dksX4_free_3 0 rfl rfl)
theorem dX4_free_73 : decode cX4_free 73 = .ok (.aload_n 0, 1) := dk_42 (dk_at dksX4_free_3 3 rfl rfl)
theorem dX4_free_74 : decode cX4_free 74 = .ok (.iload_n 1, 1) := dk_27 (dk_at dksX4_free_3 4 rfl rfl)
theorem dX4_free_75 : decode cX4_free 75 = .ok (.iconst 1, 1) := dk_4 (dk_at dksX4_free_3 5 rfl rfl)
theorem dX4_free_76 : decode cX4_free 76 = .ok (.invokevirtual 125, 3) := dk_182 0 125 (dk_at dksX4_free_3 6 rfl rfl)
theorem dX4_free_79 : decode cX4_free 79 = .ok (.imul, 1) := dk_104 (dk_at dksX4_free_3 9 rfl rfl)
theorem dX4_free_80 : decode cX4_free 80 = .ok (.sipush 10000, 3) := dk_17 39 16 (dk_at dksX4_free_3 10 rfl rfl)
theorem dX4_free_83 : decode cX4_free 83 = .ok (.idiv, 1) := dk_108 (dk_at dksX4_free_3 13 rfl rfl)
theorem dX4_free_84 : decode cX4_free 84 = .ok (.goto 47, 3) := dk_167 0 47 (dk_at dksX4_free_3 14 rfl rfl)
theorem dX4_free_87 : decode cX4_free 87 = .ok (.iload_n 2, 1) := dk_28 (dk_at dksX4_free_3 17 rfl rfl)
theorem dX4_free_88 : decode cX4_free 88 = .ok (.iconst 4, 1) := dk_7 (dk_at dksX4_free_3 18 rfl rfl)
theorem dX4_free_89 : decode cX4_free 89 = .ok (.if_icmp .ne 36, 3) := dk_160 0 36 (dk_at dksX4_free_3 19 rfl rfl)
theorem dX4_free_92 : decode cX4_free 92 = .ok (.aload_n 0, 1) := dk_42 (dk_at dksX4_free_3 22 rfl rfl)
theorem dX4_free_93 : decode cX4_free 93 = .ok (.iload_n 1, 1) := dk_27 (dk_at dksX4_free_3 23 rfl rfl)
theorem dX4_free_94 : decode cX4_free 94 = .ok (.iconst 0, 1) := dk_3 (dk_at dksX4_free_4 0 rfl rfl)
theorem dX4_free_95 : decode cX4_free 95 = .ok (.invokevirtual 125, 3) := dk_182 0 125 (dk_at dksX4_free_4 1 rfl rfl)
theorem dX4_free_98 : decode cX4_free 98 = .ok (.aload_n 0, 1) := dk_42 (dk_at dksX4_free_4 4 rfl rfl)
theorem dX4_free_99 : decode cX4_free 99 = .ok (.iload_n 1, 1) := dk_27 (dk_at dksX4_free_4 5 rfl rfl)
theorem dX4_free_100 : decode cX4_free 100 = .ok (.iconst 1, 1) := dk_4 (dk_at dksX4_free_4 6 rfl rfl)
theorem dX4_free_101 : decode cX4_free 101 = .ok (.invokevirtual 125, 3) := dk_182 0 125 (dk_at dksX4_free_4 7 rfl rfl)
theorem dX4_free_104 : decode cX4_free 104 = .ok (.if_icmp .lt 12, 3) := dk_161 0 12 (dk_at dksX4_free_4 10 rfl rfl)
theorem dX4_free_107 : decode cX4_free 107 = .ok (.aload_n 0, 1) := dk_42 (dk_at dksX4_free_4 13 rfl rfl)
theorem dX4_free_108 : decode cX4_free 108 = .ok (.iload_n 1, 1) := dk_27 (dk_at dksX4_free_4 14 rfl rfl)
theorem dX4_free_109 : decode cX4_free 109 = .ok (.iconst 2, 1) := dk_5 (dk_at dksX4_free_4 15 rfl rfl)
theorem dX4_free_110 : decode cX4_free 110 = .ok (.invokevirtual 125, 3) := dk_182 0 125 (dk_at dksX4_free_4 16 rfl rfl)
theorem dX4_free_113 : decode cX4_free 113 = .ok (.goto 18, 3) := dk_167 0 18 (dk_at dksX4_free_4 19 rfl rfl)
theorem dX4_free_116 : decode cX4_free 116 = .ok (.aload_n 0, 1) := dk_42 (dk_at dksX4_free_4 22 rfl rfl)
theorem dX4_free_117 : decode cX4_free 117 = .ok (.iload_n 1, 1) := dk_27 (dk_at dksX4_free_4 23 rfl rfl)
theorem dX4_free_118 : decode cX4_free 118 = .ok (.iconst 3, 1) := dk_6 (dk_at dksX4_free_5 0 rfl rfl)
theorem dX4_free_119 : decode cX4_free 119 = .ok (.invokevirtual 125, 3) := dk_182 0 125 (dk_at dksX4_free_5 1 rfl rfl)
theorem dX4_free_122 : decode cX4_free 122 = .ok (.goto 9, 3) := dk_167 0 9 (dk_at dksX4_free_5 4 rfl rfl)
theorem dX4_free_125 : decode cX4_free 125 = .ok (.aload_n 0, 1) := dk_42 (dk_at dksX4_free_5 7 rfl rfl)
theorem dX4_free_126 : decode cX4_free 126 = .ok (.iload_n 1, 1) := dk_27 (dk_at dksX4_free_5 8 rfl rfl)
theorem dX4_free_127 : decode cX4_free 127 = .ok (.iconst 1, 1) := dk_4 (dk_at dksX4_free_5 9 rfl rfl)
theorem dX4_free_128 : decode cX4_free 128 = .ok (.invokevirtual 48, 3) := dk_182 0 48 (dk_at dksX4_free_5 10 rfl rfl)
theorem dX4_free_131 : decode cX4_free 131 = .ok (.ireturn, 1) := dk_172 (dk_at dksX4_free_5 13 rfl rfl)
abbrev cX4_weighted : ByteArray := prog_17_method_40_code
def yX4_weighted : MethodName := ⟨RX4, "weighted", "(I)I"⟩
def dkwX4_weighted_1 : List UInt8 := [182, 0, 125, 104, 96, 61, 132, 3, 1, 167, 255, 229, 28, 172]
abbrev dktX4_weighted_1 : List UInt8 := dkwX4_weighted_1 ++ []
def dkwX4_weighted_0 : List UInt8 := [3, 61, 3, 62, 29, 7, 162, 0, 28, 28, 42, 27, 16, 9, 29, 96, 182, 0, 48, 42, 27, 29]
abbrev dktX4_weighted_0 : List UInt8 := dkwX4_weighted_0 ++ dktX4_weighted_1
theorem dksX4_weighted_0 : cX4_weighted.data.toList.drop 0 = dktX4_weighted_0 := by decide +kernel
theorem dksX4_weighted_1 : cX4_weighted.data.toList.drop 22 = dktX4_weighted_1 := dk_seg dksX4_weighted_0 22 rfl rfl
theorem dX4_weighted_0 : decode cX4_weighted 0 = .ok (.iconst 0, 1) := dk_3 (dk_at dksX4_weighted_0 0 rfl rfl)
theorem dX4_weighted_1 : decode cX4_weighted 1 = .ok (.istore_n 2, 1) := dk_61 (dk_at dksX4_weighted_0 1 rfl rfl)
theorem dX4_weighted_2 : decode cX4_weighted 2 = .ok (.iconst 0, 1) := dk_3 (dk_at dksX4_weighted_0 2 rfl rfl)
theorem dX4_weighted_3 : decode cX4_weighted 3 = .ok (.istore_n 3, 1) := dk_62 (dk_at dksX4_weighted_0 3 rfl rfl)
theorem dX4_weighted_4 : decode cX4_weighted 4 = .ok (.iload_n 3, 1) := dk_29 (dk_at dksX4_weighted_0 4 rfl rfl)
theorem dX4_weighted_5 : decode cX4_weighted 5 = .ok (.iconst 4, 1) := dk_7 (dk_at dksX4_weighted_0 5 rfl rfl)
theorem dX4_weighted_6 : decode cX4_weighted 6 = .ok (.if_icmp .ge 28, 3) := dk_162 0 28 (dk_at dksX4_weighted_0 6 rfl rfl)
theorem dX4_weighted_9 : decode cX4_weighted 9 = .ok (.iload_n 2, 1) := dk_28 (dk_at dksX4_weighted_0 9 rfl rfl)
theorem dX4_weighted_10 : decode cX4_weighted 10 = .ok (.aload_n 0, 1) := dk_42 (dk_at dksX4_weighted_0 10 rfl rfl)
theorem dX4_weighted_11 : decode cX4_weighted 11 = .ok (.iload_n 1, 1) := dk_27 (dk_at dksX4_weighted_0 11 rfl rfl)
theorem dX4_weighted_12 : decode cX4_weighted 12 = .ok (.bipush 9, 2) := dk_16 9 (dk_at dksX4_weighted_0 12 rfl rfl)
theorem dX4_weighted_14 : decode cX4_weighted 14 = .ok (.iload_n 3, 1) := dk_29 (dk_at dksX4_weighted_0 14 rfl rfl)
theorem dX4_weighted_15 : decode cX4_weighted 15 = .ok (.iadd, 1) := dk_96 (dk_at dksX4_weighted_0 15 rfl rfl)
theorem dX4_weighted_16 : decode cX4_weighted 16 = .ok (.invokevirtual 48, 3) := dk_182 0 48 (dk_at dksX4_weighted_0 16 rfl rfl)
theorem dX4_weighted_19 : decode cX4_weighted 19 = .ok (.aload_n 0, 1) := dk_42 (dk_at dksX4_weighted_0 19 rfl rfl)
theorem dX4_weighted_20 : decode cX4_weighted 20 = .ok (.iload_n 1, 1) := dk_27 (dk_at dksX4_weighted_0 20 rfl rfl)
theorem dX4_weighted_21 : decode cX4_weighted 21 = .ok (.iload_n 3, 1) := dk_29 (dk_at dksX4_weighted_0 21 rfl rfl)
theorem dX4_weighted_22 : decode cX4_weighted 22 = .ok (.invokevirtual 125, 3) := dk_182 0 125 (dk_at dksX4_weighted_1 0 rfl rfl)
theorem dX4_weighted_25 : decode cX4_weighted 25 = .ok (.imul, 1) := dk_104 (dk_at dksX4_weighted_1 3 rfl rfl)
theorem dX4_weighted_26 : decode cX4_weighted 26 = .ok (.iadd, 1) := dk_96 (dk_at dksX4_weighted_1 4 rfl rfl)
theorem dX4_weighted_27 : decode cX4_weighted 27 = .ok (.istore_n 2, 1) := dk_61 (dk_at dksX4_weighted_1 5 rfl rfl)
theorem dX4_weighted_28 : decode cX4_weighted 28 = .ok (.iinc 3 1, 3) := dk_132 3 1 (dk_at dksX4_weighted_1 6 rfl rfl)
theorem dX4_weighted_31 : decode cX4_weighted 31 = .ok (.goto (-27), 3) := dk_167 255 229 (dk_at dksX4_weighted_1 9 rfl rfl)
theorem dX4_weighted_34 : decode cX4_weighted 34 = .ok (.iload_n 2, 1) := dk_28 (dk_at dksX4_weighted_1 12 rfl rfl)
theorem dX4_weighted_35 : decode cX4_weighted 35 = .ok (.ireturn, 1) := dk_172 (dk_at dksX4_weighted_1 13 rfl rfl)
abbrev cX4_in : ByteArray := prog_17_method_39_code
def yX4_in : MethodName := ⟨RX4, "in", "(II)I"⟩
def dkwX4_in_1 : List UInt8 := [172]
abbrev dktX4_in_1 : List UInt8 := dkwX4_in_1 ++ []
def dkwX4_in_0 : List UInt8 := [42, 27, 8, 28, 96, 182, 0, 48, 62, 29, 2, 160, 0, 7, 3, 167, 0, 9, 42, 180, 0, 25, 29, 46]
abbrev dktX4_in_0 : List UInt8 := dkwX4_in_0 ++ dktX4_in_1
theorem dksX4_in_0 : cX4_in.data.toList.drop 0 = dktX4_in_0 := by decide +kernel
theorem dksX4_in_1 : cX4_in.data.toList.drop 24 = dktX4_in_1 := dk_seg dksX4_in_0 24 rfl rfl
theorem dX4_in_0 : decode cX4_in 0 = .ok (.aload_n 0, 1) := dk_42 (dk_at dksX4_in_0 0 rfl rfl)
theorem dX4_in_1 : decode cX4_in 1 = .ok (.iload_n 1, 1) := dk_27 (dk_at dksX4_in_0 1 rfl rfl)
theorem dX4_in_2 : decode cX4_in 2 = .ok (.iconst 5, 1) := dk_8 (dk_at dksX4_in_0 2 rfl rfl)
theorem dX4_in_3 : decode cX4_in 3 = .ok (.iload_n 2, 1) := dk_28 (dk_at dksX4_in_0 3 rfl rfl)
theorem dX4_in_4 : decode cX4_in 4 = .ok (.iadd, 1) := dk_96 (dk_at dksX4_in_0 4 rfl rfl)
theorem dX4_in_5 : decode cX4_in 5 = .ok (.invokevirtual 48, 3) := dk_182 0 48 (dk_at dksX4_in_0 5 rfl rfl)
theorem dX4_in_8 : decode cX4_in 8 = .ok (.istore_n 3, 1) := dk_62 (dk_at dksX4_in_0 8 rfl rfl)
theorem dX4_in_9 : decode cX4_in 9 = .ok (.iload_n 3, 1) := dk_29 (dk_at dksX4_in_0 9 rfl rfl)
theorem dX4_in_10 : decode cX4_in 10 = .ok (.iconst (-1), 1) := dk_2 (dk_at dksX4_in_0 10 rfl rfl)
theorem dX4_in_11 : decode cX4_in 11 = .ok (.if_icmp .ne 7, 3) := dk_160 0 7 (dk_at dksX4_in_0 11 rfl rfl)
theorem dX4_in_14 : decode cX4_in 14 = .ok (.iconst 0, 1) := dk_3 (dk_at dksX4_in_0 14 rfl rfl)
theorem dX4_in_15 : decode cX4_in 15 = .ok (.goto 9, 3) := dk_167 0 9 (dk_at dksX4_in_0 15 rfl rfl)
theorem dX4_in_18 : decode cX4_in 18 = .ok (.aload_n 0, 1) := dk_42 (dk_at dksX4_in_0 18 rfl rfl)
theorem dX4_in_19 : decode cX4_in 19 = .ok (.getfield 25, 3) := dk_180 0 25 (dk_at dksX4_in_0 19 rfl rfl)
theorem dX4_in_22 : decode cX4_in 22 = .ok (.iload_n 3, 1) := dk_29 (dk_at dksX4_in_0 22 rfl rfl)
theorem dX4_in_23 : decode cX4_in 23 = .ok (.iaload, 1) := dk_46 (dk_at dksX4_in_0 23 rfl rfl)
theorem dX4_in_24 : decode cX4_in 24 = .ok (.ireturn, 1) := dk_172 (dk_at dksX4_in_1 0 rfl rfl)
abbrev cX4_held : ByteArray := prog_17_method_5_code
def yX4_held : MethodName := ⟨RX4, "held", "(II)I"⟩
def dkwX4_held_0 : List UInt8 := [26, 27, 164, 0, 7, 27, 167, 0, 15, 26, 27, 116, 162, 0, 8, 27, 116, 167, 0, 4, 26, 172]
abbrev dktX4_held_0 : List UInt8 := dkwX4_held_0 ++ []
theorem dksX4_held_0 : cX4_held.data.toList.drop 0 = dktX4_held_0 := by decide +kernel
theorem dX4_held_0 : decode cX4_held 0 = .ok (.iload_n 0, 1) := dk_26 (dk_at dksX4_held_0 0 rfl rfl)
theorem dX4_held_1 : decode cX4_held 1 = .ok (.iload_n 1, 1) := dk_27 (dk_at dksX4_held_0 1 rfl rfl)
theorem dX4_held_2 : decode cX4_held 2 = .ok (.if_icmp .le 7, 3) := dk_164 0 7 (dk_at dksX4_held_0 2 rfl rfl)
theorem dX4_held_5 : decode cX4_held 5 = .ok (.iload_n 1, 1) := dk_27 (dk_at dksX4_held_0 5 rfl rfl)
theorem dX4_held_6 : decode cX4_held 6 = .ok (.goto 15, 3) := dk_167 0 15 (dk_at dksX4_held_0 6 rfl rfl)
theorem dX4_held_9 : decode cX4_held 9 = .ok (.iload_n 0, 1) := dk_26 (dk_at dksX4_held_0 9 rfl rfl)
theorem dX4_held_10 : decode cX4_held 10 = .ok (.iload_n 1, 1) := dk_27 (dk_at dksX4_held_0 10 rfl rfl)
theorem dX4_held_11 : decode cX4_held 11 = .ok (.ineg, 1) := dk_116 (dk_at dksX4_held_0 11 rfl rfl)
theorem dX4_held_12 : decode cX4_held 12 = .ok (.if_icmp .ge 8, 3) := dk_162 0 8 (dk_at dksX4_held_0 12 rfl rfl)
theorem dX4_held_15 : decode cX4_held 15 = .ok (.iload_n 1, 1) := dk_27 (dk_at dksX4_held_0 15 rfl rfl)
theorem dX4_held_16 : decode cX4_held 16 = .ok (.ineg, 1) := dk_116 (dk_at dksX4_held_0 16 rfl rfl)
theorem dX4_held_17 : decode cX4_held 17 = .ok (.goto 4, 3) := dk_167 0 4 (dk_at dksX4_held_0 17 rfl rfl)
theorem dX4_held_20 : decode cX4_held 20 = .ok (.iload_n 0, 1) := dk_26 (dk_at dksX4_held_0 20 rfl rfl)
theorem dX4_held_21 : decode cX4_held 21 = .ok (.ireturn, 1) := dk_172 (dk_at dksX4_held_0 21 rfl rfl)
abbrev cX4_size : ByteArray := prog_17_method_6_code
def yX4_size : MethodName := ⟨RX4, "size", "(I)I"⟩
def dkwX4_size_0 : List UInt8 := [26, 156, 0, 8, 26, 116, 167, 0, 4, 26, 172]
abbrev dktX4_size_0 : List UInt8 := dkwX4_size_0 ++ []
theorem dksX4_size_0 : cX4_size.data.toList.drop 0 = dktX4_size_0 := by decide +kernel
theorem dX4_size_0 : decode cX4_size 0 = .ok (.iload_n 0, 1) := dk_26 (dk_at dksX4_size_0 0 rfl rfl)
theorem dX4_size_1 : decode cX4_size 1 = .ok (.ifCond .ge 8, 3) := dk_156 0 8 (dk_at dksX4_size_0 1 rfl rfl)
theorem dX4_size_4 : decode cX4_size 4 = .ok (.iload_n 0, 1) := dk_26 (dk_at dksX4_size_0 4 rfl rfl)
theorem dX4_size_5 : decode cX4_size 5 = .ok (.ineg, 1) := dk_116 (dk_at dksX4_size_0 5 rfl rfl)
theorem dX4_size_6 : decode cX4_size 6 = .ok (.goto 4, 3) := dk_167 0 4 (dk_at dksX4_size_0 6 rfl rfl)
theorem dX4_size_9 : decode cX4_size 9 = .ok (.iload_n 0, 1) := dk_26 (dk_at dksX4_size_0 9 rfl rfl)
theorem dX4_size_10 : decode cX4_size 10 = .ok (.ireturn, 1) := dk_172 (dk_at dksX4_size_0 10 rfl rfl)
abbrev cX4_laysRates : ByteArray := prog_17_method_44_code
def yX4_laysRates : MethodName := ⟨RX4, "laysRates", "()V"⟩
def dkwX4_laysRates_1 : List UInt8 := [160, 0, 11, 42, 27, 182, 0, 147, 167, 0, 4, 3, 79, 132, 1, 1, 167, 255, 219, 177]
abbrev dktX4_laysRates_1 : List UInt8 := dkwX4_laysRates_1 ++ []
def dkwX4_laysRates_0 : List UInt8 := [3, 60, 27, 42, 180, 0, 7, 3, 46, 162, 0, 33, 42, 180, 0, 28, 27, 42, 27, 182, 0, 56, 4]
abbrev dktX4_laysRates_0 : List UInt8 := dkwX4_laysRates_0 ++ dktX4_laysRates_1
theorem dksX4_laysRates_0 : cX4_laysRates.data.toList.drop 0 = dktX4_laysRates_0 := by decide +kernel
theorem dksX4_laysRates_1 : cX4_laysRates.data.toList.drop 23 = dktX4_laysRates_1 := dk_seg dksX4_laysRates_0 23 rfl rfl
theorem dX4_laysRates_0 : decode cX4_laysRates 0 = .ok (.iconst 0, 1) := dk_3 (dk_at dksX4_laysRates_0 0 rfl rfl)
theorem dX4_laysRates_1 : decode cX4_laysRates 1 = .ok (.istore_n 1, 1) := dk_60 (dk_at dksX4_laysRates_0 1 rfl rfl)
theorem dX4_laysRates_2 : decode cX4_laysRates 2 = .ok (.iload_n 1, 1) := dk_27 (dk_at dksX4_laysRates_0 2 rfl rfl)
theorem dX4_laysRates_3 : decode cX4_laysRates 3 = .ok (.aload_n 0, 1) := dk_42 (dk_at dksX4_laysRates_0 3 rfl rfl)
theorem dX4_laysRates_4 : decode cX4_laysRates 4 = .ok (.getfield 7, 3) := dk_180 0 7 (dk_at dksX4_laysRates_0 4 rfl rfl)
theorem dX4_laysRates_7 : decode cX4_laysRates 7 = .ok (.iconst 0, 1) := dk_3 (dk_at dksX4_laysRates_0 7 rfl rfl)
theorem dX4_laysRates_8 : decode cX4_laysRates 8 = .ok (.iaload, 1) := dk_46 (dk_at dksX4_laysRates_0 8 rfl rfl)
theorem dX4_laysRates_9 : decode cX4_laysRates 9 = .ok (.if_icmp .ge 33, 3) := dk_162 0 33 (dk_at dksX4_laysRates_0 9 rfl rfl)
theorem dX4_laysRates_12 : decode cX4_laysRates 12 = .ok (.aload_n 0, 1) := dk_42 (dk_at dksX4_laysRates_0 12 rfl rfl)
theorem dX4_laysRates_13 : decode cX4_laysRates 13 = .ok (.getfield 28, 3) := dk_180 0 28 (dk_at dksX4_laysRates_0 13 rfl rfl)
theorem dX4_laysRates_16 : decode cX4_laysRates 16 = .ok (.iload_n 1, 1) := dk_27 (dk_at dksX4_laysRates_0 16 rfl rfl)
theorem dX4_laysRates_17 : decode cX4_laysRates 17 = .ok (.aload_n 0, 1) := dk_42 (dk_at dksX4_laysRates_0 17 rfl rfl)
theorem dX4_laysRates_18 : decode cX4_laysRates 18 = .ok (.iload_n 1, 1) := dk_27 (dk_at dksX4_laysRates_0 18 rfl rfl)
theorem dX4_laysRates_19 : decode cX4_laysRates 19 = .ok (.invokevirtual 56, 3) := dk_182 0 56 (dk_at dksX4_laysRates_0 19 rfl rfl)
theorem dX4_laysRates_22 : decode cX4_laysRates 22 = .ok (.iconst 1, 1) := dk_4 (dk_at dksX4_laysRates_0 22 rfl rfl)
theorem dX4_laysRates_23 : decode cX4_laysRates 23 = .ok (.if_icmp .ne 11, 3) := dk_160 0 11 (dk_at dksX4_laysRates_1 0 rfl rfl)
theorem dX4_laysRates_26 : decode cX4_laysRates 26 = .ok (.aload_n 0, 1) := dk_42 (dk_at dksX4_laysRates_1 3 rfl rfl)
theorem dX4_laysRates_27 : decode cX4_laysRates 27 = .ok (.iload_n 1, 1) := dk_27 (dk_at dksX4_laysRates_1 4 rfl rfl)
theorem dX4_laysRates_28 : decode cX4_laysRates 28 = .ok (.invokevirtual 147, 3) := dk_182 0 147 (dk_at dksX4_laysRates_1 5 rfl rfl)
theorem dX4_laysRates_31 : decode cX4_laysRates 31 = .ok (.goto 4, 3) := dk_167 0 4 (dk_at dksX4_laysRates_1 8 rfl rfl)
theorem dX4_laysRates_34 : decode cX4_laysRates 34 = .ok (.iconst 0, 1) := dk_3 (dk_at dksX4_laysRates_1 11 rfl rfl)
theorem dX4_laysRates_35 : decode cX4_laysRates 35 = .ok (.iastore, 1) := dk_79 (dk_at dksX4_laysRates_1 12 rfl rfl)
theorem dX4_laysRates_36 : decode cX4_laysRates 36 = .ok (.iinc 1 1, 3) := dk_132 1 1 (dk_at dksX4_laysRates_1 13 rfl rfl)
theorem dX4_laysRates_39 : decode cX4_laysRates 39 = .ok (.goto (-37), 3) := dk_167 255 219 (dk_at dksX4_laysRates_1 16 rfl rfl)
theorem dX4_laysRates_42 : decode cX4_laysRates 42 = .ok (.return_, 1) := dk_177 (dk_at dksX4_laysRates_1 19 rfl rfl)
abbrev cX4_rate : ByteArray := prog_17_method_43_code
def yX4_rate : MethodName := ⟨RX4, "rate", "(I)I"⟩
def dkwX4_rate_0 : List UInt8 := [42, 27, 182, 0, 128, 116, 17, 3, 232, 104, 42, 27, 5, 182, 0, 48, 108, 172]
abbrev dktX4_rate_0 : List UInt8 := dkwX4_rate_0 ++ []
theorem dksX4_rate_0 : cX4_rate.data.toList.drop 0 = dktX4_rate_0 := by decide +kernel
theorem dX4_rate_0 : decode cX4_rate 0 = .ok (.aload_n 0, 1) := dk_42 (dk_at dksX4_rate_0 0 rfl rfl)
theorem dX4_rate_1 : decode cX4_rate 1 = .ok (.iload_n 1, 1) := dk_27 (dk_at dksX4_rate_0 1 rfl rfl)
theorem dX4_rate_2 : decode cX4_rate 2 = .ok (.invokevirtual 128, 3) := dk_182 0 128 (dk_at dksX4_rate_0 2 rfl rfl)
theorem dX4_rate_5 : decode cX4_rate 5 = .ok (.ineg, 1) := dk_116 (dk_at dksX4_rate_0 5 rfl rfl)
theorem dX4_rate_6 : decode cX4_rate 6 = .ok (.sipush 1000, 3) := dk_17 3 232 (dk_at dksX4_rate_0 6 rfl rfl)
theorem dX4_rate_9 : decode cX4_rate 9 = .ok (.imul, 1) := dk_104 (dk_at dksX4_rate_0 9 rfl rfl)
theorem dX4_rate_10 : decode cX4_rate 10 = .ok (.aload_n 0, 1) := dk_42 (dk_at dksX4_rate_0 10 rfl rfl)
theorem dX4_rate_11 : decode cX4_rate 11 = .ok (.iload_n 1, 1) := dk_27 (dk_at dksX4_rate_0 11 rfl rfl)
theorem dX4_rate_12 : decode cX4_rate 12 = .ok (.iconst 2, 1) := dk_5 (dk_at dksX4_rate_0 12 rfl rfl)
theorem dX4_rate_13 : decode cX4_rate 13 = .ok (.invokevirtual 48, 3) := dk_182 0 48 (dk_at dksX4_rate_0 13 rfl rfl)
theorem dX4_rate_16 : decode cX4_rate 16 = .ok (.idiv, 1) := dk_108 (dk_at dksX4_rate_0 16 rfl rfl)
theorem dX4_rate_17 : decode cX4_rate 17 = .ok (.ireturn, 1) := dk_172 (dk_at dksX4_rate_0 17 rfl rfl)
abbrev cX4_charges : ByteArray := prog_17_method_45_code
def yX4_charges : MethodName := ⟨RX4, "charges", "(I)V"⟩
def dkwX4_charges_2 : List UInt8 := [132, 2, 1, 167, 255, 208, 177]
abbrev dktX4_charges_2 : List UInt8 := dkwX4_charges_2 ++ []
def dkwX4_charges_1 : List UInt8 := [42, 180, 0, 31, 28, 46, 42, 180, 0, 28, 28, 46, 27, 108, 96, 18, 146, 184, 0, 140, 182, 0, 63]
abbrev dktX4_charges_1 : List UInt8 := dkwX4_charges_1 ++ dktX4_charges_2
def dkwX4_charges_0 : List UInt8 := [3, 61, 28, 42, 180, 0, 7, 3, 46, 162, 0, 44, 42, 28, 182, 0, 56, 4, 160, 0, 29, 42, 28, 6]
abbrev dktX4_charges_0 : List UInt8 := dkwX4_charges_0 ++ dktX4_charges_1
theorem dksX4_charges_0 : cX4_charges.data.toList.drop 0 = dktX4_charges_0 := by decide +kernel
theorem dksX4_charges_1 : cX4_charges.data.toList.drop 24 = dktX4_charges_1 := dk_seg dksX4_charges_0 24 rfl rfl
theorem dksX4_charges_2 : cX4_charges.data.toList.drop 47 = dktX4_charges_2 := dk_seg dksX4_charges_1 23 rfl rfl
theorem dX4_charges_0 : decode cX4_charges 0 = .ok (.iconst 0, 1) := dk_3 (dk_at dksX4_charges_0 0 rfl rfl)
theorem dX4_charges_1 : decode cX4_charges 1 = .ok (.istore_n 2, 1) := dk_61 (dk_at dksX4_charges_0 1 rfl rfl)
theorem dX4_charges_2 : decode cX4_charges 2 = .ok (.iload_n 2, 1) := dk_28 (dk_at dksX4_charges_0 2 rfl rfl)
theorem dX4_charges_3 : decode cX4_charges 3 = .ok (.aload_n 0, 1) := dk_42 (dk_at dksX4_charges_0 3 rfl rfl)
theorem dX4_charges_4 : decode cX4_charges 4 = .ok (.getfield 7, 3) := dk_180 0 7 (dk_at dksX4_charges_0 4 rfl rfl)
theorem dX4_charges_7 : decode cX4_charges 7 = .ok (.iconst 0, 1) := dk_3 (dk_at dksX4_charges_0 7 rfl rfl)
theorem dX4_charges_8 : decode cX4_charges 8 = .ok (.iaload, 1) := dk_46 (dk_at dksX4_charges_0 8 rfl rfl)
theorem dX4_charges_9 : decode cX4_charges 9 = .ok (.if_icmp .ge 44, 3) := dk_162 0 44 (dk_at dksX4_charges_0 9 rfl rfl)
theorem dX4_charges_12 : decode cX4_charges 12 = .ok (.aload_n 0, 1) := dk_42 (dk_at dksX4_charges_0 12 rfl rfl)
theorem dX4_charges_13 : decode cX4_charges 13 = .ok (.iload_n 2, 1) := dk_28 (dk_at dksX4_charges_0 13 rfl rfl)
theorem dX4_charges_14 : decode cX4_charges 14 = .ok (.invokevirtual 56, 3) := dk_182 0 56 (dk_at dksX4_charges_0 14 rfl rfl)
theorem dX4_charges_17 : decode cX4_charges 17 = .ok (.iconst 1, 1) := dk_4 (dk_at dksX4_charges_0 17 rfl rfl)
theorem dX4_charges_18 : decode cX4_charges 18 = .ok (.if_icmp .ne 29, 3) := dk_160 0 29 (dk_at dksX4_charges_0 18 rfl rfl)
theorem dX4_charges_21 : decode cX4_charges 21 = .ok (.aload_n 0, 1) := dk_42 (dk_at dksX4_charges_0 21 rfl rfl)
theorem dX4_charges_22 : decode cX4_charges 22 = .ok (.iload_n 2, 1) := dk_28 (dk_at dksX4_charges_0 22 rfl rfl)
theorem dX4_charges_23 : decode cX4_charges 23 = .ok (.iconst 3, 1) := dk_6 (dk_at dksX4_charges_0 23 rfl rfl)
theorem dX4_charges_24 : decode cX4_charges 24 = .ok (.aload_n 0, 1) := dk_42 (dk_at dksX4_charges_1 0 rfl rfl)
theorem dX4_charges_25 : decode cX4_charges 25 = .ok (.getfield 31, 3) := dk_180 0 31 (dk_at dksX4_charges_1 1 rfl rfl)
theorem dX4_charges_28 : decode cX4_charges 28 = .ok (.iload_n 2, 1) := dk_28 (dk_at dksX4_charges_1 4 rfl rfl)
theorem dX4_charges_29 : decode cX4_charges 29 = .ok (.iaload, 1) := dk_46 (dk_at dksX4_charges_1 5 rfl rfl)
theorem dX4_charges_30 : decode cX4_charges 30 = .ok (.aload_n 0, 1) := dk_42 (dk_at dksX4_charges_1 6 rfl rfl)
theorem dX4_charges_31 : decode cX4_charges 31 = .ok (.getfield 28, 3) := dk_180 0 28 (dk_at dksX4_charges_1 7 rfl rfl)
theorem dX4_charges_34 : decode cX4_charges 34 = .ok (.iload_n 2, 1) := dk_28 (dk_at dksX4_charges_1 10 rfl rfl)
theorem dX4_charges_35 : decode cX4_charges 35 = .ok (.iaload, 1) := dk_46 (dk_at dksX4_charges_1 11 rfl rfl)
theorem dX4_charges_36 : decode cX4_charges 36 = .ok (.iload_n 1, 1) := dk_27 (dk_at dksX4_charges_1 12 rfl rfl)
theorem dX4_charges_37 : decode cX4_charges 37 = .ok (.idiv, 1) := dk_108 (dk_at dksX4_charges_1 13 rfl rfl)
theorem dX4_charges_38 : decode cX4_charges 38 = .ok (.iadd, 1) := dk_96 (dk_at dksX4_charges_1 14 rfl rfl)
theorem dX4_charges_39 : decode cX4_charges 39 = .ok (.ldc 146, 2) := dk_18 146 (dk_at dksX4_charges_1 15 rfl rfl)
theorem dX4_charges_41 : decode cX4_charges 41 = .ok (.invokestatic 140, 3) := dk_184 0 140 (dk_at dksX4_charges_1 17 rfl rfl)
theorem dX4_charges_44 : decode cX4_charges 44 = .ok (.invokevirtual 63, 3) := dk_182 0 63 (dk_at dksX4_charges_1 20 rfl rfl)
theorem dX4_charges_47 : decode cX4_charges 47 = .ok (.iinc 2 1, 3) := dk_132 2 1 (dk_at dksX4_charges_2 0 rfl rfl)
theorem dX4_charges_50 : decode cX4_charges 50 = .ok (.goto (-48), 3) := dk_167 255 208 (dk_at dksX4_charges_2 3 rfl rfl)
theorem dX4_charges_53 : decode cX4_charges 53 = .ok (.return_, 1) := dk_177 (dk_at dksX4_charges_2 6 rfl rfl)
abbrev cX4_notesRecord : ByteArray := prog_17_method_46_code
def yX4_notesRecord : MethodName := ⟨RX4, "notesRecord", "()V"⟩
def dkwX4_notesRecord_8 : List UInt8 := [42, 180, 0, 7, 16, 6, 46, 96, 27, 79, 42, 180, 0, 7, 16, 6, 92, 46, 4, 96, 79, 177]
abbrev dktX4_notesRecord_8 : List UInt8 := dkwX4_notesRecord_8 ++ []
def dkwX4_notesRecord_7 : List UInt8 := [79, 132, 3, 1, 167, 255, 227, 42, 180, 0, 7, 16, 6, 92, 46, 4, 100, 79, 42, 180, 0, 7, 16, 10]
abbrev dktX4_notesRecord_7 : List UInt8 := dkwX4_notesRecord_7 ++ dktX4_notesRecord_8
def dkwX4_notesRecord_6 : List UInt8 := [16, 23, 162, 0, 29, 42, 180, 0, 7, 16, 10, 29, 96, 42, 180, 0, 7, 16, 10, 29, 96, 4, 96, 46]
abbrev dktX4_notesRecord_6 : List UInt8 := dkwX4_notesRecord_6 ++ dktX4_notesRecord_7
def dkwX4_notesRecord_5 : List UInt8 := [16, 8, 42, 180, 0, 7, 7, 46, 79, 42, 180, 0, 7, 16, 6, 46, 16, 24, 160, 0, 48, 3, 62, 29]
abbrev dktX4_notesRecord_5 : List UInt8 := dkwX4_notesRecord_5 ++ dktX4_notesRecord_6
def dkwX4_notesRecord_4 : List UInt8 := [42, 180, 0, 7, 7, 46, 42, 180, 0, 7, 16, 8, 46, 100, 167, 0, 4, 2, 79, 42, 180, 0, 7]
abbrev dktX4_notesRecord_4 : List UInt8 := dkwX4_notesRecord_4 ++ dktX4_notesRecord_5
def dkwX4_notesRecord_3 : List UInt8 := [16, 7, 92, 46, 4, 96, 79, 42, 180, 0, 7, 16, 9, 42, 180, 0, 7, 16, 7, 46, 4, 164, 0, 20]
abbrev dktX4_notesRecord_3 : List UInt8 := dkwX4_notesRecord_3 ++ dktX4_notesRecord_4
def dkwX4_notesRecord_2 : List UInt8 := [100, 46, 156, 0, 11, 27, 155, 0, 7, 4, 167, 0, 4, 3, 61, 28, 153, 0, 63, 42, 180, 0, 7]
abbrev dktX4_notesRecord_2 : List UInt8 := dkwX4_notesRecord_2 ++ dktX4_notesRecord_3
def dkwX4_notesRecord_1 : List UInt8 := [180, 0, 7, 16, 6, 46, 158, 0, 31, 42, 180, 0, 7, 16, 10, 42, 180, 0, 7, 16, 6, 46, 96, 4]
abbrev dktX4_notesRecord_1 : List UInt8 := dkwX4_notesRecord_1 ++ dktX4_notesRecord_2
def dkwX4_notesRecord_0 : List UInt8 := [42, 180, 0, 7, 8, 46, 2, 160, 0, 4, 177, 42, 180, 0, 25, 42, 180, 0, 7, 8, 46, 46, 60, 42]
abbrev dktX4_notesRecord_0 : List UInt8 := dkwX4_notesRecord_0 ++ dktX4_notesRecord_1
theorem dksX4_notesRecord_0 : cX4_notesRecord.data.toList.drop 0 = dktX4_notesRecord_0 := by decide +kernel
theorem dksX4_notesRecord_1 : cX4_notesRecord.data.toList.drop 24 = dktX4_notesRecord_1 := dk_seg dksX4_notesRecord_0 24 rfl rfl
theorem dksX4_notesRecord_2 : cX4_notesRecord.data.toList.drop 48 = dktX4_notesRecord_2 := dk_seg dksX4_notesRecord_1 24 rfl rfl
theorem dksX4_notesRecord_3 : cX4_notesRecord.data.toList.drop 71 = dktX4_notesRecord_3 := dk_seg dksX4_notesRecord_2 23 rfl rfl
theorem dksX4_notesRecord_4 : cX4_notesRecord.data.toList.drop 95 = dktX4_notesRecord_4 := dk_seg dksX4_notesRecord_3 24 rfl rfl
theorem dksX4_notesRecord_5 : cX4_notesRecord.data.toList.drop 118 = dktX4_notesRecord_5 := dk_seg dksX4_notesRecord_4 23 rfl rfl
theorem dksX4_notesRecord_6 : cX4_notesRecord.data.toList.drop 142 = dktX4_notesRecord_6 := dk_seg dksX4_notesRecord_5 24 rfl rfl
theorem dksX4_notesRecord_7 : cX4_notesRecord.data.toList.drop 166 = dktX4_notesRecord_7 := dk_seg dksX4_notesRecord_6 24 rfl rfl
theorem dksX4_notesRecord_8 : cX4_notesRecord.data.toList.drop 190 = dktX4_notesRecord_8 := dk_seg dksX4_notesRecord_7 24 rfl rfl
theorem dX4_notesRecord_0 : decode cX4_notesRecord 0 = .ok (.aload_n 0, 1) := dk_42 (dk_at dksX4_notesRecord_0 0 rfl rfl)
theorem dX4_notesRecord_1 : decode cX4_notesRecord 1 = .ok (.getfield 7, 3) := dk_180 0 7 (dk_at dksX4_notesRecord_0 1 rfl rfl)
theorem dX4_notesRecord_4 : decode cX4_notesRecord 4 = .ok (.iconst 5, 1) := dk_8 (dk_at dksX4_notesRecord_0 4 rfl rfl)
theorem dX4_notesRecord_5 : decode cX4_notesRecord 5 = .ok (.iaload, 1) := dk_46 (dk_at dksX4_notesRecord_0 5 rfl rfl)
theorem dX4_notesRecord_6 : decode cX4_notesRecord 6 = .ok (.iconst (-1), 1) := dk_2 (dk_at dksX4_notesRecord_0 6 rfl rfl)
theorem dX4_notesRecord_7 : decode cX4_notesRecord 7 = .ok (.if_icmp .ne 4, 3) := dk_160 0 4 (dk_at dksX4_notesRecord_0 7 rfl rfl)
theorem dX4_notesRecord_10 : decode cX4_notesRecord 10 = .ok (.return_, 1) := dk_177 (dk_at dksX4_notesRecord_0 10 rfl rfl)
theorem dX4_notesRecord_11 : decode cX4_notesRecord 11 = .ok (.aload_n 0, 1) := dk_42 (dk_at dksX4_notesRecord_0 11 rfl rfl)
theorem dX4_notesRecord_12 : decode cX4_notesRecord 12 = .ok (.getfield 25, 3) := dk_180 0 25 (dk_at dksX4_notesRecord_0 12 rfl rfl)
theorem dX4_notesRecord_15 : decode cX4_notesRecord 15 = .ok (.aload_n 0, 1) := dk_42 (dk_at dksX4_notesRecord_0 15 rfl rfl)
theorem dX4_notesRecord_16 : decode cX4_notesRecord 16 = .ok (.getfield 7, 3) := dk_180 0 7 (dk_at dksX4_notesRecord_0 16 rfl rfl)
theorem dX4_notesRecord_19 : decode cX4_notesRecord 19 = .ok (.iconst 5, 1) := dk_8 (dk_at dksX4_notesRecord_0 19 rfl rfl)
theorem dX4_notesRecord_20 : decode cX4_notesRecord 20 = .ok (.iaload, 1) := dk_46 (dk_at dksX4_notesRecord_0 20 rfl rfl)
theorem dX4_notesRecord_21 : decode cX4_notesRecord 21 = .ok (.iaload, 1) := dk_46 (dk_at dksX4_notesRecord_0 21 rfl rfl)
theorem dX4_notesRecord_22 : decode cX4_notesRecord 22 = .ok (.istore_n 1, 1) := dk_60 (dk_at dksX4_notesRecord_0 22 rfl rfl)
theorem dX4_notesRecord_23 : decode cX4_notesRecord 23 = .ok (.aload_n 0, 1) := dk_42 (dk_at dksX4_notesRecord_0 23 rfl rfl)
theorem dX4_notesRecord_24 : decode cX4_notesRecord 24 = .ok (.getfield 7, 3) := dk_180 0 7 (dk_at dksX4_notesRecord_1 0 rfl rfl)
theorem dX4_notesRecord_27 : decode cX4_notesRecord 27 = .ok (.bipush 6, 2) := dk_16 6 (dk_at dksX4_notesRecord_1 3 rfl rfl)
theorem dX4_notesRecord_29 : decode cX4_notesRecord 29 = .ok (.iaload, 1) := dk_46 (dk_at dksX4_notesRecord_1 5 rfl rfl)
theorem dX4_notesRecord_30 : decode cX4_notesRecord 30 = .ok (.ifCond .le 31, 3) := dk_158 0 31 (dk_at dksX4_notesRecord_1 6 rfl rfl)
theorem dX4_notesRecord_33 : decode cX4_notesRecord 33 = .ok (.aload_n 0, 1) := dk_42 (dk_at dksX4_notesRecord_1 9 rfl rfl)
theorem dX4_notesRecord_34 : decode cX4_notesRecord 34 = .ok (.getfield 7, 3) := dk_180 0 7 (dk_at dksX4_notesRecord_1 10 rfl rfl)
theorem dX4_notesRecord_37 : decode cX4_notesRecord 37 = .ok (.bipush 10, 2) := dk_16 10 (dk_at dksX4_notesRecord_1 13 rfl rfl)
theorem dX4_notesRecord_39 : decode cX4_notesRecord 39 = .ok (.aload_n 0, 1) := dk_42 (dk_at dksX4_notesRecord_1 15 rfl rfl)
theorem dX4_notesRecord_40 : decode cX4_notesRecord 40 = .ok (.getfield 7, 3) := dk_180 0 7 (dk_at dksX4_notesRecord_1 16 rfl rfl)
theorem dX4_notesRecord_43 : decode cX4_notesRecord 43 = .ok (.bipush 6, 2) := dk_16 6 (dk_at dksX4_notesRecord_1 19 rfl rfl)
theorem dX4_notesRecord_45 : decode cX4_notesRecord 45 = .ok (.iaload, 1) := dk_46 (dk_at dksX4_notesRecord_1 21 rfl rfl)
theorem dX4_notesRecord_46 : decode cX4_notesRecord 46 = .ok (.iadd, 1) := dk_96 (dk_at dksX4_notesRecord_1 22 rfl rfl)
theorem dX4_notesRecord_47 : decode cX4_notesRecord 47 = .ok (.iconst 1, 1) := dk_4 (dk_at dksX4_notesRecord_1 23 rfl rfl)
theorem dX4_notesRecord_48 : decode cX4_notesRecord 48 = .ok (.isub, 1) := dk_100 (dk_at dksX4_notesRecord_2 0 rfl rfl)
theorem dX4_notesRecord_49 : decode cX4_notesRecord 49 = .ok (.iaload, 1) := dk_46 (dk_at dksX4_notesRecord_2 1 rfl rfl)
theorem dX4_notesRecord_50 : decode cX4_notesRecord 50 = .ok (.ifCond .ge 11, 3) := dk_156 0 11 (dk_at dksX4_notesRecord_2 2 rfl rfl)
theorem dX4_notesRecord_53 : decode cX4_notesRecord 53 = .ok (.iload_n 1, 1) := dk_27 (dk_at dksX4_notesRecord_2 5 rfl rfl)
theorem dX4_notesRecord_54 : decode cX4_notesRecord 54 = .ok (.ifCond .lt 7, 3) := dk_155 0 7 (dk_at dksX4_notesRecord_2 6 rfl rfl)
theorem dX4_notesRecord_57 : decode cX4_notesRecord 57 = .ok (.iconst 1, 1) := dk_4 (dk_at dksX4_notesRecord_2 9 rfl rfl)
theorem dX4_notesRecord_58 : decode cX4_notesRecord 58 = .ok (.goto 4, 3) := dk_167 0 4 (dk_at dksX4_notesRecord_2 10 rfl rfl)
theorem dX4_notesRecord_61 : decode cX4_notesRecord 61 = .ok (.iconst 0, 1) := dk_3 (dk_at dksX4_notesRecord_2 13 rfl rfl)
theorem dX4_notesRecord_62 : decode cX4_notesRecord 62 = .ok (.istore_n 2, 1) := dk_61 (dk_at dksX4_notesRecord_2 14 rfl rfl)
theorem dX4_notesRecord_63 : decode cX4_notesRecord 63 = .ok (.iload_n 2, 1) := dk_28 (dk_at dksX4_notesRecord_2 15 rfl rfl)
theorem dX4_notesRecord_64 : decode cX4_notesRecord 64 = .ok (.ifCond .eq 63, 3) := dk_153 0 63 (dk_at dksX4_notesRecord_2 16 rfl rfl)
theorem dX4_notesRecord_67 : decode cX4_notesRecord 67 = .ok (.aload_n 0, 1) := dk_42 (dk_at dksX4_notesRecord_2 19 rfl rfl)
theorem dX4_notesRecord_68 : decode cX4_notesRecord 68 = .ok (.getfield 7, 3) := dk_180 0 7 (dk_at dksX4_notesRecord_2 20 rfl rfl)
theorem dX4_notesRecord_71 : decode cX4_notesRecord 71 = .ok (.bipush 7, 2) := dk_16 7 (dk_at dksX4_notesRecord_3 0 rfl rfl)
theorem dX4_notesRecord_73 : decode cX4_notesRecord 73 = .ok (.dup2, 1) := dk_92 (dk_at dksX4_notesRecord_3 2 rfl rfl)
theorem dX4_notesRecord_74 : decode cX4_notesRecord 74 = .ok (.iaload, 1) := dk_46 (dk_at dksX4_notesRecord_3 3 rfl rfl)
theorem dX4_notesRecord_75 : decode cX4_notesRecord 75 = .ok (.iconst 1, 1) := dk_4 (dk_at dksX4_notesRecord_3 4 rfl rfl)
theorem dX4_notesRecord_76 : decode cX4_notesRecord 76 = .ok (.iadd, 1) := dk_96 (dk_at dksX4_notesRecord_3 5 rfl rfl)
theorem dX4_notesRecord_77 : decode cX4_notesRecord 77 = .ok (.iastore, 1) := dk_79 (dk_at dksX4_notesRecord_3 6 rfl rfl)
theorem dX4_notesRecord_78 : decode cX4_notesRecord 78 = .ok (.aload_n 0, 1) := dk_42 (dk_at dksX4_notesRecord_3 7 rfl rfl)
theorem dX4_notesRecord_79 : decode cX4_notesRecord 79 = .ok (.getfield 7, 3) := dk_180 0 7 (dk_at dksX4_notesRecord_3 8 rfl rfl)
theorem dX4_notesRecord_82 : decode cX4_notesRecord 82 = .ok (.bipush 9, 2) := dk_16 9 (dk_at dksX4_notesRecord_3 11 rfl rfl)
theorem dX4_notesRecord_84 : decode cX4_notesRecord 84 = .ok (.aload_n 0, 1) := dk_42 (dk_at dksX4_notesRecord_3 13 rfl rfl)
theorem dX4_notesRecord_85 : decode cX4_notesRecord 85 = .ok (.getfield 7, 3) := dk_180 0 7 (dk_at dksX4_notesRecord_3 14 rfl rfl)
theorem dX4_notesRecord_88 : decode cX4_notesRecord 88 = .ok (.bipush 7, 2) := dk_16 7 (dk_at dksX4_notesRecord_3 17 rfl rfl)
theorem dX4_notesRecord_90 : decode cX4_notesRecord 90 = .ok (.iaload, 1) := dk_46 (dk_at dksX4_notesRecord_3 19 rfl rfl)
theorem dX4_notesRecord_91 : decode cX4_notesRecord 91 = .ok (.iconst 1, 1) := dk_4 (dk_at dksX4_notesRecord_3 20 rfl rfl)
theorem dX4_notesRecord_92 : decode cX4_notesRecord 92 = .ok (.if_icmp .le 20, 3) := dk_164 0 20 (dk_at dksX4_notesRecord_3 21 rfl rfl)
theorem dX4_notesRecord_95 : decode cX4_notesRecord 95 = .ok (.aload_n 0, 1) := dk_42 (dk_at dksX4_notesRecord_4 0 rfl rfl)
theorem dX4_notesRecord_96 : decode cX4_notesRecord 96 = .ok (.getfield 7, 3) := dk_180 0 7 (dk_at dksX4_notesRecord_4 1 rfl rfl)
theorem dX4_notesRecord_99 : decode cX4_notesRecord 99 = .ok (.iconst 4, 1) := dk_7 (dk_at dksX4_notesRecord_4 4 rfl rfl)
theorem dX4_notesRecord_100 : decode cX4_notesRecord 100 = .ok (.iaload, 1) := dk_46 (dk_at dksX4_notesRecord_4 5 rfl rfl)
theorem dX4_notesRecord_101 : decode cX4_notesRecord 101 = .ok (.aload_n 0, 1) := dk_42 (dk_at dksX4_notesRecord_4 6 rfl rfl)
theorem dX4_notesRecord_102 : decode cX4_notesRecord 102 = .ok (.getfield 7, 3) := dk_180 0 7 (dk_at dksX4_notesRecord_4 7 rfl rfl)
theorem dX4_notesRecord_105 : decode cX4_notesRecord 105 = .ok (.bipush 8, 2) := dk_16 8 (dk_at dksX4_notesRecord_4 10 rfl rfl)
theorem dX4_notesRecord_107 : decode cX4_notesRecord 107 = .ok (.iaload, 1) := dk_46 (dk_at dksX4_notesRecord_4 12 rfl rfl)
theorem dX4_notesRecord_108 : decode cX4_notesRecord 108 = .ok (.isub, 1) := dk_100 (dk_at dksX4_notesRecord_4 13 rfl rfl)
theorem dX4_notesRecord_109 : decode cX4_notesRecord 109 = .ok (.goto 4, 3) := dk_167 0 4 (dk_at dksX4_notesRecord_4 14 rfl rfl)
theorem dX4_notesRecord_112 : decode cX4_notesRecord 112 = .ok (.iconst (-1), 1) := dk_2 (dk_at dksX4_notesRecord_4 17 rfl rfl)
theorem dX4_notesRecord_113 : decode cX4_notesRecord 113 = .ok (.iastore, 1) := dk_79 (dk_at dksX4_notesRecord_4 18 rfl rfl)
theorem dX4_notesRecord_114 : decode cX4_notesRecord 114 = .ok (.aload_n 0, 1) := dk_42 (dk_at dksX4_notesRecord_4 19 rfl rfl)
theorem dX4_notesRecord_115 : decode cX4_notesRecord 115 = .ok (.getfield 7, 3) := dk_180 0 7 (dk_at dksX4_notesRecord_4 20 rfl rfl)
theorem dX4_notesRecord_118 : decode cX4_notesRecord 118 = .ok (.bipush 8, 2) := dk_16 8 (dk_at dksX4_notesRecord_5 0 rfl rfl)
theorem dX4_notesRecord_120 : decode cX4_notesRecord 120 = .ok (.aload_n 0, 1) := dk_42 (dk_at dksX4_notesRecord_5 2 rfl rfl)
theorem dX4_notesRecord_121 : decode cX4_notesRecord 121 = .ok (.getfield 7, 3) := dk_180 0 7 (dk_at dksX4_notesRecord_5 3 rfl rfl)
theorem dX4_notesRecord_124 : decode cX4_notesRecord 124 = .ok (.iconst 4, 1) := dk_7 (dk_at dksX4_notesRecord_5 6 rfl rfl)
theorem dX4_notesRecord_125 : decode cX4_notesRecord 125 = .ok (.iaload, 1) := dk_46 (dk_at dksX4_notesRecord_5 7 rfl rfl)
theorem dX4_notesRecord_126 : decode cX4_notesRecord 126 = .ok (.iastore, 1) := dk_79 (dk_at dksX4_notesRecord_5 8 rfl rfl)
theorem dX4_notesRecord_127 : decode cX4_notesRecord 127 = .ok (.aload_n 0, 1) := dk_42 (dk_at dksX4_notesRecord_5 9 rfl rfl)
theorem dX4_notesRecord_128 : decode cX4_notesRecord 128 = .ok (.getfield 7, 3) := dk_180 0 7 (dk_at dksX4_notesRecord_5 10 rfl rfl)
theorem dX4_notesRecord_131 : decode cX4_notesRecord 131 = .ok (.bipush 6, 2) := dk_16 6 (dk_at dksX4_notesRecord_5 13 rfl rfl)
theorem dX4_notesRecord_133 : decode cX4_notesRecord 133 = .ok (.iaload, 1) := dk_46 (dk_at dksX4_notesRecord_5 15 rfl rfl)
theorem dX4_notesRecord_134 : decode cX4_notesRecord 134 = .ok (.bipush 24, 2) := dk_16 24 (dk_at dksX4_notesRecord_5 16 rfl rfl)
theorem dX4_notesRecord_136 : decode cX4_notesRecord 136 = .ok (.if_icmp .ne 48, 3) := dk_160 0 48 (dk_at dksX4_notesRecord_5 18 rfl rfl)
theorem dX4_notesRecord_139 : decode cX4_notesRecord 139 = .ok (.iconst 0, 1) := dk_3 (dk_at dksX4_notesRecord_5 21 rfl rfl)
theorem dX4_notesRecord_140 : decode cX4_notesRecord 140 = .ok (.istore_n 3, 1) := dk_62 (dk_at dksX4_notesRecord_5 22 rfl rfl)
theorem dX4_notesRecord_141 : decode cX4_notesRecord 141 = .ok (.iload_n 3, 1) := dk_29 (dk_at dksX4_notesRecord_5 23 rfl rfl)
theorem dX4_notesRecord_142 : decode cX4_notesRecord 142 = .ok (.bipush 23, 2) := dk_16 23 (dk_at dksX4_notesRecord_6 0 rfl rfl)
theorem dX4_notesRecord_144 : decode cX4_notesRecord 144 = .ok (.if_icmp .ge 29, 3) := dk_162 0 29 (dk_at dksX4_notesRecord_6 2 rfl rfl)
theorem dX4_notesRecord_147 : decode cX4_notesRecord 147 = .ok (.aload_n 0, 1) := dk_42 (dk_at dksX4_notesRecord_6 5 rfl rfl)
theorem dX4_notesRecord_148 : decode cX4_notesRecord 148 = .ok (.getfield 7, 3) := dk_180 0 7 (dk_at dksX4_notesRecord_6 6 rfl rfl)
theorem dX4_notesRecord_151 : decode cX4_notesRecord 151 = .ok (.bipush 10, 2) := dk_16 10 (dk_at dksX4_notesRecord_6 9 rfl rfl)
theorem dX4_notesRecord_153 : decode cX4_notesRecord 153 = .ok (.iload_n 3, 1) := dk_29 (dk_at dksX4_notesRecord_6 11 rfl rfl)
theorem dX4_notesRecord_154 : decode cX4_notesRecord 154 = .ok (.iadd, 1) := dk_96 (dk_at dksX4_notesRecord_6 12 rfl rfl)
theorem dX4_notesRecord_155 : decode cX4_notesRecord 155 = .ok (.aload_n 0, 1) := dk_42 (dk_at dksX4_notesRecord_6 13 rfl rfl)
theorem dX4_notesRecord_156 : decode cX4_notesRecord 156 = .ok (.getfield 7, 3) := dk_180 0 7 (dk_at dksX4_notesRecord_6 14 rfl rfl)
theorem dX4_notesRecord_159 : decode cX4_notesRecord 159 = .ok (.bipush 10, 2) := dk_16 10 (dk_at dksX4_notesRecord_6 17 rfl rfl)
theorem dX4_notesRecord_161 : decode cX4_notesRecord 161 = .ok (.iload_n 3, 1) := dk_29 (dk_at dksX4_notesRecord_6 19 rfl rfl)
theorem dX4_notesRecord_162 : decode cX4_notesRecord 162 = .ok (.iadd, 1) := dk_96 (dk_at dksX4_notesRecord_6 20 rfl rfl)
theorem dX4_notesRecord_163 : decode cX4_notesRecord 163 = .ok (.iconst 1, 1) := dk_4 (dk_at dksX4_notesRecord_6 21 rfl rfl)
theorem dX4_notesRecord_164 : decode cX4_notesRecord 164 = .ok (.iadd, 1) := dk_96 (dk_at dksX4_notesRecord_6 22 rfl rfl)
theorem dX4_notesRecord_165 : decode cX4_notesRecord 165 = .ok (.iaload, 1) := dk_46 (dk_at dksX4_notesRecord_6 23 rfl rfl)
theorem dX4_notesRecord_166 : decode cX4_notesRecord 166 = .ok (.iastore, 1) := dk_79 (dk_at dksX4_notesRecord_7 0 rfl rfl)
theorem dX4_notesRecord_167 : decode cX4_notesRecord 167 = .ok (.iinc 3 1, 3) := dk_132 3 1 (dk_at dksX4_notesRecord_7 1 rfl rfl)
theorem dX4_notesRecord_170 : decode cX4_notesRecord 170 = .ok (.goto (-29), 3) := dk_167 255 227 (dk_at dksX4_notesRecord_7 4 rfl rfl)
theorem dX4_notesRecord_173 : decode cX4_notesRecord 173 = .ok (.aload_n 0, 1) := dk_42 (dk_at dksX4_notesRecord_7 7 rfl rfl)
theorem dX4_notesRecord_174 : decode cX4_notesRecord 174 = .ok (.getfield 7, 3) := dk_180 0 7 (dk_at dksX4_notesRecord_7 8 rfl rfl)
theorem dX4_notesRecord_177 : decode cX4_notesRecord 177 = .ok (.bipush 6, 2) := dk_16 6 (dk_at dksX4_notesRecord_7 11 rfl rfl)
theorem dX4_notesRecord_179 : decode cX4_notesRecord 179 = .ok (.dup2, 1) := dk_92 (dk_at dksX4_notesRecord_7 13 rfl rfl)
theorem dX4_notesRecord_180 : decode cX4_notesRecord 180 = .ok (.iaload, 1) := dk_46 (dk_at dksX4_notesRecord_7 14 rfl rfl)
theorem dX4_notesRecord_181 : decode cX4_notesRecord 181 = .ok (.iconst 1, 1) := dk_4 (dk_at dksX4_notesRecord_7 15 rfl rfl)
theorem dX4_notesRecord_182 : decode cX4_notesRecord 182 = .ok (.isub, 1) := dk_100 (dk_at dksX4_notesRecord_7 16 rfl rfl)
theorem dX4_notesRecord_183 : decode cX4_notesRecord 183 = .ok (.iastore, 1) := dk_79 (dk_at dksX4_notesRecord_7 17 rfl rfl)
theorem dX4_notesRecord_184 : decode cX4_notesRecord 184 = .ok (.aload_n 0, 1) := dk_42 (dk_at dksX4_notesRecord_7 18 rfl rfl)
theorem dX4_notesRecord_185 : decode cX4_notesRecord 185 = .ok (.getfield 7, 3) := dk_180 0 7 (dk_at dksX4_notesRecord_7 19 rfl rfl)
theorem dX4_notesRecord_188 : decode cX4_notesRecord 188 = .ok (.bipush 10, 2) := dk_16 10 (dk_at dksX4_notesRecord_7 22 rfl rfl)
theorem dX4_notesRecord_190 : decode cX4_notesRecord 190 = .ok (.aload_n 0, 1) := dk_42 (dk_at dksX4_notesRecord_8 0 rfl rfl)
theorem dX4_notesRecord_191 : decode cX4_notesRecord 191 = .ok (.getfield 7, 3) := dk_180 0 7 (dk_at dksX4_notesRecord_8 1 rfl rfl)
theorem dX4_notesRecord_194 : decode cX4_notesRecord 194 = .ok (.bipush 6, 2) := dk_16 6 (dk_at dksX4_notesRecord_8 4 rfl rfl)
theorem dX4_notesRecord_196 : decode cX4_notesRecord 196 = .ok (.iaload, 1) := dk_46 (dk_at dksX4_notesRecord_8 6 rfl rfl)
theorem dX4_notesRecord_197 : decode cX4_notesRecord 197 = .ok (.iadd, 1) := dk_96 (dk_at dksX4_notesRecord_8 7 rfl rfl)
theorem dX4_notesRecord_198 : decode cX4_notesRecord 198 = .ok (.iload_n 1, 1) := dk_27 (dk_at dksX4_notesRecord_8 8 rfl rfl)
theorem dX4_notesRecord_199 : decode cX4_notesRecord 199 = .ok (.iastore, 1) := dk_79 (dk_at dksX4_notesRecord_8 9 rfl rfl)
theorem dX4_notesRecord_200 : decode cX4_notesRecord 200 = .ok (.aload_n 0, 1) := dk_42 (dk_at dksX4_notesRecord_8 10 rfl rfl)
theorem dX4_notesRecord_201 : decode cX4_notesRecord 201 = .ok (.getfield 7, 3) := dk_180 0 7 (dk_at dksX4_notesRecord_8 11 rfl rfl)
theorem dX4_notesRecord_204 : decode cX4_notesRecord 204 = .ok (.bipush 6, 2) := dk_16 6 (dk_at dksX4_notesRecord_8 14 rfl rfl)
theorem dX4_notesRecord_206 : decode cX4_notesRecord 206 = .ok (.dup2, 1) := dk_92 (dk_at dksX4_notesRecord_8 16 rfl rfl)
theorem dX4_notesRecord_207 : decode cX4_notesRecord 207 = .ok (.iaload, 1) := dk_46 (dk_at dksX4_notesRecord_8 17 rfl rfl)
theorem dX4_notesRecord_208 : decode cX4_notesRecord 208 = .ok (.iconst 1, 1) := dk_4 (dk_at dksX4_notesRecord_8 18 rfl rfl)
theorem dX4_notesRecord_209 : decode cX4_notesRecord 209 = .ok (.iadd, 1) := dk_96 (dk_at dksX4_notesRecord_8 19 rfl rfl)
theorem dX4_notesRecord_210 : decode cX4_notesRecord 210 = .ok (.iastore, 1) := dk_79 (dk_at dksX4_notesRecord_8 20 rfl rfl)
theorem dX4_notesRecord_211 : decode cX4_notesRecord 211 = .ok (.return_, 1) := dk_177 (dk_at dksX4_notesRecord_8 21 rfl rfl)
abbrev cX4_setMode : ByteArray := prog_17_method_52_code
def yX4_setMode : MethodName := ⟨RX4, "setMode", "(I)I"⟩
def dkwX4_setMode_2 : List UInt8 := [154, 0, 7, 42, 182, 0, 174, 28, 172]
abbrev dktX4_setMode_2 : List UInt8 := dkwX4_setMode_2 ++ []
def dkwX4_setMode_1 : List UInt8 := [158, 0, 5, 3, 172, 42, 182, 0, 71, 42, 180, 0, 7, 4, 46, 61, 42, 180, 0, 7, 4, 27, 79, 27]
abbrev dktX4_setMode_1 : List UInt8 := dkwX4_setMode_1 ++ dktX4_setMode_2
def dkwX4_setMode_0 : List UInt8 := [42, 27, 3, 5, 184, 0, 44, 153, 0, 7, 3, 167, 0, 4, 4, 181, 0, 37, 42, 180, 0, 37]
abbrev dktX4_setMode_0 : List UInt8 := dkwX4_setMode_0 ++ dktX4_setMode_1
theorem dksX4_setMode_0 : cX4_setMode.data.toList.drop 0 = dktX4_setMode_0 := by decide +kernel
theorem dksX4_setMode_1 : cX4_setMode.data.toList.drop 22 = dktX4_setMode_1 := dk_seg dksX4_setMode_0 22 rfl rfl
theorem dksX4_setMode_2 : cX4_setMode.data.toList.drop 46 = dktX4_setMode_2 := dk_seg dksX4_setMode_1 24 rfl rfl
theorem dX4_setMode_0 : decode cX4_setMode 0 = .ok (.aload_n 0, 1) := dk_42 (dk_at dksX4_setMode_0 0 rfl rfl)
theorem dX4_setMode_1 : decode cX4_setMode 1 = .ok (.iload_n 1, 1) := dk_27 (dk_at dksX4_setMode_0 1 rfl rfl)
theorem dX4_setMode_2 : decode cX4_setMode 2 = .ok (.iconst 0, 1) := dk_3 (dk_at dksX4_setMode_0 2 rfl rfl)
theorem dX4_setMode_3 : decode cX4_setMode 3 = .ok (.iconst 2, 1) := dk_5 (dk_at dksX4_setMode_0 3 rfl rfl)
theorem dX4_setMode_4 : decode cX4_setMode 4 = .ok (.invokestatic 44, 3) := dk_184 0 44 (dk_at dksX4_setMode_0 4 rfl rfl)
theorem dX4_setMode_7 : decode cX4_setMode 7 = .ok (.ifCond .eq 7, 3) := dk_153 0 7 (dk_at dksX4_setMode_0 7 rfl rfl)
theorem dX4_setMode_10 : decode cX4_setMode 10 = .ok (.iconst 0, 1) := dk_3 (dk_at dksX4_setMode_0 10 rfl rfl)
theorem dX4_setMode_11 : decode cX4_setMode 11 = .ok (.goto 4, 3) := dk_167 0 4 (dk_at dksX4_setMode_0 11 rfl rfl)
theorem dX4_setMode_14 : decode cX4_setMode 14 = .ok (.iconst 1, 1) := dk_4 (dk_at dksX4_setMode_0 14 rfl rfl)
theorem dX4_setMode_15 : decode cX4_setMode 15 = .ok (.putfield 37, 3) := dk_181 0 37 (dk_at dksX4_setMode_0 15 rfl rfl)
theorem dX4_setMode_18 : decode cX4_setMode 18 = .ok (.aload_n 0, 1) := dk_42 (dk_at dksX4_setMode_0 18 rfl rfl)
theorem dX4_setMode_19 : decode cX4_setMode 19 = .ok (.getfield 37, 3) := dk_180 0 37 (dk_at dksX4_setMode_0 19 rfl rfl)
theorem dX4_setMode_22 : decode cX4_setMode 22 = .ok (.ifCond .le 5, 3) := dk_158 0 5 (dk_at dksX4_setMode_1 0 rfl rfl)
theorem dX4_setMode_25 : decode cX4_setMode 25 = .ok (.iconst 0, 1) := dk_3 (dk_at dksX4_setMode_1 3 rfl rfl)
theorem dX4_setMode_26 : decode cX4_setMode 26 = .ok (.ireturn, 1) := dk_172 (dk_at dksX4_setMode_1 4 rfl rfl)
theorem dX4_setMode_27 : decode cX4_setMode 27 = .ok (.aload_n 0, 1) := dk_42 (dk_at dksX4_setMode_1 5 rfl rfl)
theorem dX4_setMode_28 : decode cX4_setMode 28 = .ok (.invokevirtual 71, 3) := dk_182 0 71 (dk_at dksX4_setMode_1 6 rfl rfl)
theorem dX4_setMode_31 : decode cX4_setMode 31 = .ok (.aload_n 0, 1) := dk_42 (dk_at dksX4_setMode_1 9 rfl rfl)
theorem dX4_setMode_32 : decode cX4_setMode 32 = .ok (.getfield 7, 3) := dk_180 0 7 (dk_at dksX4_setMode_1 10 rfl rfl)
theorem dX4_setMode_35 : decode cX4_setMode 35 = .ok (.iconst 1, 1) := dk_4 (dk_at dksX4_setMode_1 13 rfl rfl)
theorem dX4_setMode_36 : decode cX4_setMode 36 = .ok (.iaload, 1) := dk_46 (dk_at dksX4_setMode_1 14 rfl rfl)
theorem dX4_setMode_37 : decode cX4_setMode 37 = .ok (.istore_n 2, 1) := dk_61 (dk_at dksX4_setMode_1 15 rfl rfl)
theorem dX4_setMode_38 : decode cX4_setMode 38 = .ok (.aload_n 0, 1) := dk_42 (dk_at dksX4_setMode_1 16 rfl rfl)
theorem dX4_setMode_39 : decode cX4_setMode 39 = .ok (.getfield 7, 3) := dk_180 0 7 (dk_at dksX4_setMode_1 17 rfl rfl)
theorem dX4_setMode_42 : decode cX4_setMode 42 = .ok (.iconst 1, 1) := dk_4 (dk_at dksX4_setMode_1 20 rfl rfl)
theorem dX4_setMode_43 : decode cX4_setMode 43 = .ok (.iload_n 1, 1) := dk_27 (dk_at dksX4_setMode_1 21 rfl rfl)
theorem dX4_setMode_44 : decode cX4_setMode 44 = .ok (.iastore, 1) := dk_79 (dk_at dksX4_setMode_1 22 rfl rfl)
theorem dX4_setMode_45 : decode cX4_setMode 45 = .ok (.iload_n 1, 1) := dk_27 (dk_at dksX4_setMode_1 23 rfl rfl)
theorem dX4_setMode_46 : decode cX4_setMode 46 = .ok (.ifCond .ne 7, 3) := dk_154 0 7 (dk_at dksX4_setMode_2 0 rfl rfl)
theorem dX4_setMode_49 : decode cX4_setMode 49 = .ok (.aload_n 0, 1) := dk_42 (dk_at dksX4_setMode_2 3 rfl rfl)
theorem dX4_setMode_50 : decode cX4_setMode 50 = .ok (.invokevirtual 174, 3) := dk_182 0 174 (dk_at dksX4_setMode_2 4 rfl rfl)
theorem dX4_setMode_53 : decode cX4_setMode 53 = .ok (.iload_n 2, 1) := dk_28 (dk_at dksX4_setMode_2 7 rfl rfl)
theorem dX4_setMode_54 : decode cX4_setMode 54 = .ok (.ireturn, 1) := dk_172 (dk_at dksX4_setMode_2 8 rfl rfl)
abbrev cX4_resets : ByteArray := prog_17_method_51_code
def yX4_resets : MethodName := ⟨RX4, "resets", "()V"⟩
def dkwX4_resets_2 : List UInt8 := [132, 1, 1, 167, 255, 207, 177]
abbrev dktX4_resets_2 : List UInt8 := dkwX4_resets_2 ++ []
def dkwX4_resets_1 : List UInt8 := [182, 0, 56, 4, 160, 0, 16, 17, 3, 232, 42, 27, 4, 182, 0, 48, 104, 167, 0, 4, 3, 182, 0, 63]
abbrev dktX4_resets_1 : List UInt8 := dkwX4_resets_1 ++ dktX4_resets_2
def dkwX4_resets_0 : List UInt8 := [3, 60, 27, 42, 180, 0, 7, 3, 46, 162, 0, 45, 42, 27, 7, 3, 182, 0, 63, 42, 27, 6, 42, 27]
abbrev dktX4_resets_0 : List UInt8 := dkwX4_resets_0 ++ dktX4_resets_1
theorem dksX4_resets_0 : cX4_resets.data.toList.drop 0 = dktX4_resets_0 := by decide +kernel
theorem dksX4_resets_1 : cX4_resets.data.toList.drop 24 = dktX4_resets_1 := dk_seg dksX4_resets_0 24 rfl rfl
theorem dksX4_resets_2 : cX4_resets.data.toList.drop 48 = dktX4_resets_2 := dk_seg dksX4_resets_1 24 rfl rfl
theorem dX4_resets_0 : decode cX4_resets 0 = .ok (.iconst 0, 1) := dk_3 (dk_at dksX4_resets_0 0 rfl rfl)
theorem dX4_resets_1 : decode cX4_resets 1 = .ok (.istore_n 1, 1) := dk_60 (dk_at dksX4_resets_0 1 rfl rfl)
theorem dX4_resets_2 : decode cX4_resets 2 = .ok (.iload_n 1, 1) := dk_27 (dk_at dksX4_resets_0 2 rfl rfl)
theorem dX4_resets_3 : decode cX4_resets 3 = .ok (.aload_n 0, 1) := dk_42 (dk_at dksX4_resets_0 3 rfl rfl)
theorem dX4_resets_4 : decode cX4_resets 4 = .ok (.getfield 7, 3) := dk_180 0 7 (dk_at dksX4_resets_0 4 rfl rfl)
theorem dX4_resets_7 : decode cX4_resets 7 = .ok (.iconst 0, 1) := dk_3 (dk_at dksX4_resets_0 7 rfl rfl)
theorem dX4_resets_8 : decode cX4_resets 8 = .ok (.iaload, 1) := dk_46 (dk_at dksX4_resets_0 8 rfl rfl)
theorem dX4_resets_9 : decode cX4_resets 9 = .ok (.if_icmp .ge 45, 3) := dk_162 0 45 (dk_at dksX4_resets_0 9 rfl rfl)
theorem dX4_resets_12 : decode cX4_resets 12 = .ok (.aload_n 0, 1) := dk_42 (dk_at dksX4_resets_0 12 rfl rfl)
theorem dX4_resets_13 : decode cX4_resets 13 = .ok (.iload_n 1, 1) := dk_27 (dk_at dksX4_resets_0 13 rfl rfl)
theorem dX4_resets_14 : decode cX4_resets 14 = .ok (.iconst 4, 1) := dk_7 (dk_at dksX4_resets_0 14 rfl rfl)
theorem dX4_resets_15 : decode cX4_resets 15 = .ok (.iconst 0, 1) := dk_3 (dk_at dksX4_resets_0 15 rfl rfl)
theorem dX4_resets_16 : decode cX4_resets 16 = .ok (.invokevirtual 63, 3) := dk_182 0 63 (dk_at dksX4_resets_0 16 rfl rfl)
theorem dX4_resets_19 : decode cX4_resets 19 = .ok (.aload_n 0, 1) := dk_42 (dk_at dksX4_resets_0 19 rfl rfl)
theorem dX4_resets_20 : decode cX4_resets 20 = .ok (.iload_n 1, 1) := dk_27 (dk_at dksX4_resets_0 20 rfl rfl)
theorem dX4_resets_21 : decode cX4_resets 21 = .ok (.iconst 3, 1) := dk_6 (dk_at dksX4_resets_0 21 rfl rfl)
theorem dX4_resets_22 : decode cX4_resets 22 = .ok (.aload_n 0, 1) := dk_42 (dk_at dksX4_resets_0 22 rfl rfl)
theorem dX4_resets_23 : decode cX4_resets 23 = .ok (.iload_n 1, 1) := dk_27 (dk_at dksX4_resets_0 23 rfl rfl)
theorem dX4_resets_24 : decode cX4_resets 24 = .ok (.invokevirtual 56, 3) := dk_182 0 56 (dk_at dksX4_resets_1 0 rfl rfl)
theorem dX4_resets_27 : decode cX4_resets 27 = .ok (.iconst 1, 1) := dk_4 (dk_at dksX4_resets_1 3 rfl rfl)
theorem dX4_resets_28 : decode cX4_resets 28 = .ok (.if_icmp .ne 16, 3) := dk_160 0 16 (dk_at dksX4_resets_1 4 rfl rfl)
theorem dX4_resets_31 : decode cX4_resets 31 = .ok (.sipush 1000, 3) := dk_17 3 232 (dk_at dksX4_resets_1 7 rfl rfl)
theorem dX4_resets_34 : decode cX4_resets 34 = .ok (.aload_n 0, 1) := dk_42 (dk_at dksX4_resets_1 10 rfl rfl)
theorem dX4_resets_35 : decode cX4_resets 35 = .ok (.iload_n 1, 1) := dk_27 (dk_at dksX4_resets_1 11 rfl rfl)
theorem dX4_resets_36 : decode cX4_resets 36 = .ok (.iconst 1, 1) := dk_4 (dk_at dksX4_resets_1 12 rfl rfl)
theorem dX4_resets_37 : decode cX4_resets 37 = .ok (.invokevirtual 48, 3) := dk_182 0 48 (dk_at dksX4_resets_1 13 rfl rfl)
theorem dX4_resets_40 : decode cX4_resets 40 = .ok (.imul, 1) := dk_104 (dk_at dksX4_resets_1 16 rfl rfl)
theorem dX4_resets_41 : decode cX4_resets 41 = .ok (.goto 4, 3) := dk_167 0 4 (dk_at dksX4_resets_1 17 rfl rfl)
theorem dX4_resets_44 : decode cX4_resets 44 = .ok (.iconst 0, 1) := dk_3 (dk_at dksX4_resets_1 20 rfl rfl)
theorem dX4_resets_45 : decode cX4_resets 45 = .ok (.invokevirtual 63, 3) := dk_182 0 63 (dk_at dksX4_resets_1 21 rfl rfl)
theorem dX4_resets_48 : decode cX4_resets 48 = .ok (.iinc 1 1, 3) := dk_132 1 1 (dk_at dksX4_resets_2 0 rfl rfl)
theorem dX4_resets_51 : decode cX4_resets 51 = .ok (.goto (-49), 3) := dk_167 255 207 (dk_at dksX4_resets_2 3 rfl rfl)
theorem dX4_resets_54 : decode cX4_resets 54 = .ok (.return_, 1) := dk_177 (dk_at dksX4_resets_2 6 rfl rfl)
abbrev cX4_setWay : ByteArray := prog_17_method_53_code
def yX4_setWay : MethodName := ⟨RX4, "setWay", "(I)I"⟩
def dkwX4_setWay_2 : List UInt8 := [172]
abbrev dktX4_setWay_2 : List UInt8 := dkwX4_setWay_2 ++ []
def dkwX4_setWay_1 : List UInt8 := [158, 0, 5, 3, 172, 42, 182, 0, 71, 42, 180, 0, 7, 5, 46, 61, 42, 180, 0, 7, 5, 27, 79, 28]
abbrev dktX4_setWay_1 : List UInt8 := dkwX4_setWay_1 ++ dktX4_setWay_2
def dkwX4_setWay_0 : List UInt8 := [42, 27, 3, 4, 184, 0, 44, 153, 0, 7, 3, 167, 0, 4, 4, 181, 0, 37, 42, 180, 0, 37]
abbrev dktX4_setWay_0 : List UInt8 := dkwX4_setWay_0 ++ dktX4_setWay_1
theorem dksX4_setWay_0 : cX4_setWay.data.toList.drop 0 = dktX4_setWay_0 := by decide +kernel
theorem dksX4_setWay_1 : cX4_setWay.data.toList.drop 22 = dktX4_setWay_1 := dk_seg dksX4_setWay_0 22 rfl rfl
theorem dksX4_setWay_2 : cX4_setWay.data.toList.drop 46 = dktX4_setWay_2 := dk_seg dksX4_setWay_1 24 rfl rfl
theorem dX4_setWay_0 : decode cX4_setWay 0 = .ok (.aload_n 0, 1) := dk_42 (dk_at dksX4_setWay_0 0 rfl rfl)
theorem dX4_setWay_1 : decode cX4_setWay 1 = .ok (.iload_n 1, 1) := dk_27 (dk_at dksX4_setWay_0 1 rfl rfl)
theorem dX4_setWay_2 : decode cX4_setWay 2 = .ok (.iconst 0, 1) := dk_3 (dk_at dksX4_setWay_0 2 rfl rfl)
theorem dX4_setWay_3 : decode cX4_setWay 3 = .ok (.iconst 1, 1) := dk_4 (dk_at dksX4_setWay_0 3 rfl rfl)
theorem dX4_setWay_4 : decode cX4_setWay 4 = .ok (.invokestatic 44, 3) := dk_184 0 44 (dk_at dksX4_setWay_0 4 rfl rfl)
theorem dX4_setWay_7 : decode cX4_setWay 7 = .ok (.ifCond .eq 7, 3) := dk_153 0 7 (dk_at dksX4_setWay_0 7 rfl rfl)
theorem dX4_setWay_10 : decode cX4_setWay 10 = .ok (.iconst 0, 1) := dk_3 (dk_at dksX4_setWay_0 10 rfl rfl)
theorem dX4_setWay_11 : decode cX4_setWay 11 = .ok (.goto 4, 3) := dk_167 0 4 (dk_at dksX4_setWay_0 11 rfl rfl)
theorem dX4_setWay_14 : decode cX4_setWay 14 = .ok (.iconst 1, 1) := dk_4 (dk_at dksX4_setWay_0 14 rfl rfl)
theorem dX4_setWay_15 : decode cX4_setWay 15 = .ok (.putfield 37, 3) := dk_181 0 37 (dk_at dksX4_setWay_0 15 rfl rfl)
theorem dX4_setWay_18 : decode cX4_setWay 18 = .ok (.aload_n 0, 1) := dk_42 (dk_at dksX4_setWay_0 18 rfl rfl)
theorem dX4_setWay_19 : decode cX4_setWay 19 = .ok (.getfield 37, 3) := dk_180 0 37 (dk_at dksX4_setWay_0 19 rfl rfl)
theorem dX4_setWay_22 : decode cX4_setWay 22 = .ok (.ifCond .le 5, 3) := dk_158 0 5 (dk_at dksX4_setWay_1 0 rfl rfl)
theorem dX4_setWay_25 : decode cX4_setWay 25 = .ok (.iconst 0, 1) := dk_3 (dk_at dksX4_setWay_1 3 rfl rfl)
theorem dX4_setWay_26 : decode cX4_setWay 26 = .ok (.ireturn, 1) := dk_172 (dk_at dksX4_setWay_1 4 rfl rfl)
theorem dX4_setWay_27 : decode cX4_setWay 27 = .ok (.aload_n 0, 1) := dk_42 (dk_at dksX4_setWay_1 5 rfl rfl)
theorem dX4_setWay_28 : decode cX4_setWay 28 = .ok (.invokevirtual 71, 3) := dk_182 0 71 (dk_at dksX4_setWay_1 6 rfl rfl)
theorem dX4_setWay_31 : decode cX4_setWay 31 = .ok (.aload_n 0, 1) := dk_42 (dk_at dksX4_setWay_1 9 rfl rfl)
theorem dX4_setWay_32 : decode cX4_setWay 32 = .ok (.getfield 7, 3) := dk_180 0 7 (dk_at dksX4_setWay_1 10 rfl rfl)
theorem dX4_setWay_35 : decode cX4_setWay 35 = .ok (.iconst 2, 1) := dk_5 (dk_at dksX4_setWay_1 13 rfl rfl)
theorem dX4_setWay_36 : decode cX4_setWay 36 = .ok (.iaload, 1) := dk_46 (dk_at dksX4_setWay_1 14 rfl rfl)
theorem dX4_setWay_37 : decode cX4_setWay 37 = .ok (.istore_n 2, 1) := dk_61 (dk_at dksX4_setWay_1 15 rfl rfl)
theorem dX4_setWay_38 : decode cX4_setWay 38 = .ok (.aload_n 0, 1) := dk_42 (dk_at dksX4_setWay_1 16 rfl rfl)
theorem dX4_setWay_39 : decode cX4_setWay 39 = .ok (.getfield 7, 3) := dk_180 0 7 (dk_at dksX4_setWay_1 17 rfl rfl)
theorem dX4_setWay_42 : decode cX4_setWay 42 = .ok (.iconst 2, 1) := dk_5 (dk_at dksX4_setWay_1 20 rfl rfl)
theorem dX4_setWay_43 : decode cX4_setWay 43 = .ok (.iload_n 1, 1) := dk_27 (dk_at dksX4_setWay_1 21 rfl rfl)
theorem dX4_setWay_44 : decode cX4_setWay 44 = .ok (.iastore, 1) := dk_79 (dk_at dksX4_setWay_1 22 rfl rfl)
theorem dX4_setWay_45 : decode cX4_setWay 45 = .ok (.iload_n 2, 1) := dk_28 (dk_at dksX4_setWay_1 23 rfl rfl)
theorem dX4_setWay_46 : decode cX4_setWay 46 = .ok (.ireturn, 1) := dk_172 (dk_at dksX4_setWay_2 0 rfl rfl)
abbrev cX4_turnGuard : ByteArray := prog_17_method_54_code
def yX4_turnGuard : MethodName := ⟨RX4, "turnGuard", "()Z"⟩
def dkwX4_turnGuard_1 : List UInt8 := [180, 0, 7, 6, 46, 4, 160, 0, 7, 4, 167, 0, 4, 3, 172]
abbrev dktX4_turnGuard_1 : List UInt8 := dkwX4_turnGuard_1 ++ []
def dkwX4_turnGuard_0 : List UInt8 := [42, 3, 181, 0, 37, 42, 182, 0, 71, 42, 180, 0, 7, 6, 4, 42, 180, 0, 7, 6, 46, 100, 79, 42]
abbrev dktX4_turnGuard_0 : List UInt8 := dkwX4_turnGuard_0 ++ dktX4_turnGuard_1
theorem dksX4_turnGuard_0 : cX4_turnGuard.data.toList.drop 0 = dktX4_turnGuard_0 := by decide +kernel
theorem dksX4_turnGuard_1 : cX4_turnGuard.data.toList.drop 24 = dktX4_turnGuard_1 := dk_seg dksX4_turnGuard_0 24 rfl rfl
theorem dX4_turnGuard_0 : decode cX4_turnGuard 0 = .ok (.aload_n 0, 1) := dk_42 (dk_at dksX4_turnGuard_0 0 rfl rfl)
theorem dX4_turnGuard_1 : decode cX4_turnGuard 1 = .ok (.iconst 0, 1) := dk_3 (dk_at dksX4_turnGuard_0 1 rfl rfl)
theorem dX4_turnGuard_2 : decode cX4_turnGuard 2 = .ok (.putfield 37, 3) := dk_181 0 37 (dk_at dksX4_turnGuard_0 2 rfl rfl)
theorem dX4_turnGuard_5 : decode cX4_turnGuard 5 = .ok (.aload_n 0, 1) := dk_42 (dk_at dksX4_turnGuard_0 5 rfl rfl)
theorem dX4_turnGuard_6 : decode cX4_turnGuard 6 = .ok (.invokevirtual 71, 3) := dk_182 0 71 (dk_at dksX4_turnGuard_0 6 rfl rfl)
theorem dX4_turnGuard_9 : decode cX4_turnGuard 9 = .ok (.aload_n 0, 1) := dk_42 (dk_at dksX4_turnGuard_0 9 rfl rfl)
theorem dX4_turnGuard_10 : decode cX4_turnGuard 10 = .ok (.getfield 7, 3) := dk_180 0 7 (dk_at dksX4_turnGuard_0 10 rfl rfl)
theorem dX4_turnGuard_13 : decode cX4_turnGuard 13 = .ok (.iconst 3, 1) := dk_6 (dk_at dksX4_turnGuard_0 13 rfl rfl)
theorem dX4_turnGuard_14 : decode cX4_turnGuard 14 = .ok (.iconst 1, 1) := dk_4 (dk_at dksX4_turnGuard_0 14 rfl rfl)
theorem dX4_turnGuard_15 : decode cX4_turnGuard 15 = .ok (.aload_n 0, 1) := dk_42 (dk_at dksX4_turnGuard_0 15 rfl rfl)
theorem dX4_turnGuard_16 : decode cX4_turnGuard 16 = .ok (.getfield 7, 3) := dk_180 0 7 (dk_at dksX4_turnGuard_0 16 rfl rfl)
theorem dX4_turnGuard_19 : decode cX4_turnGuard 19 = .ok (.iconst 3, 1) := dk_6 (dk_at dksX4_turnGuard_0 19 rfl rfl)
theorem dX4_turnGuard_20 : decode cX4_turnGuard 20 = .ok (.iaload, 1) := dk_46 (dk_at dksX4_turnGuard_0 20 rfl rfl)
theorem dX4_turnGuard_21 : decode cX4_turnGuard 21 = .ok (.isub, 1) := dk_100 (dk_at dksX4_turnGuard_0 21 rfl rfl)
theorem dX4_turnGuard_22 : decode cX4_turnGuard 22 = .ok (.iastore, 1) := dk_79 (dk_at dksX4_turnGuard_0 22 rfl rfl)
theorem dX4_turnGuard_23 : decode cX4_turnGuard 23 = .ok (.aload_n 0, 1) := dk_42 (dk_at dksX4_turnGuard_0 23 rfl rfl)
theorem dX4_turnGuard_24 : decode cX4_turnGuard 24 = .ok (.getfield 7, 3) := dk_180 0 7 (dk_at dksX4_turnGuard_1 0 rfl rfl)
theorem dX4_turnGuard_27 : decode cX4_turnGuard 27 = .ok (.iconst 3, 1) := dk_6 (dk_at dksX4_turnGuard_1 3 rfl rfl)
theorem dX4_turnGuard_28 : decode cX4_turnGuard 28 = .ok (.iaload, 1) := dk_46 (dk_at dksX4_turnGuard_1 4 rfl rfl)
theorem dX4_turnGuard_29 : decode cX4_turnGuard 29 = .ok (.iconst 1, 1) := dk_4 (dk_at dksX4_turnGuard_1 5 rfl rfl)
theorem dX4_turnGuard_30 : decode cX4_turnGuard 30 = .ok (.if_icmp .ne 7, 3) := dk_160 0 7 (dk_at dksX4_turnGuard_1 6 rfl rfl)
theorem dX4_turnGuard_33 : decode cX4_turnGuard 33 = .ok (.iconst 1, 1) := dk_4 (dk_at dksX4_turnGuard_1 9 rfl rfl)
theorem dX4_turnGuard_34 : decode cX4_turnGuard 34 = .ok (.goto 4, 3) := dk_167 0 4 (dk_at dksX4_turnGuard_1 10 rfl rfl)
theorem dX4_turnGuard_37 : decode cX4_turnGuard 37 = .ok (.iconst 0, 1) := dk_3 (dk_at dksX4_turnGuard_1 13 rfl rfl)
theorem dX4_turnGuard_38 : decode cX4_turnGuard 38 = .ok (.ireturn, 1) := dk_172 (dk_at dksX4_turnGuard_1 14 rfl rfl)
abbrev cX4_record : ByteArray := prog_17_method_55_code
def yX4_record : MethodName := ⟨RX4, "record", "(I)I"⟩
def dkwX4_record_4 : List UInt8 := [16, 8, 2, 79, 42, 180, 0, 7, 16, 9, 2, 79, 28, 172]
abbrev dktX4_record_4 : List UInt8 := dkwX4_record_4 ++ []
def dkwX4_record_3 : List UInt8 := [167, 255, 237, 42, 180, 0, 7, 16, 6, 3, 79, 42, 180, 0, 7, 16, 7, 3, 79, 42, 180, 0, 7]
abbrev dktX4_record_3 : List UInt8 := dkwX4_record_3 ++ dktX4_record_4
def dkwX4_record_2 : List UInt8 := [27, 79, 3, 62, 29, 16, 24, 162, 0, 19, 42, 180, 0, 7, 16, 10, 29, 96, 3, 79, 132, 3, 1]
abbrev dktX4_record_2 : List UInt8 := dkwX4_record_2 ++ dktX4_record_3
def dkwX4_record_1 : List UInt8 := [180, 0, 37, 158, 0, 5, 3, 172, 42, 182, 0, 71, 42, 180, 0, 7, 8, 46, 61, 42, 180, 0, 7, 8]
abbrev dktX4_record_1 : List UInt8 := dkwX4_record_1 ++ dktX4_record_2
def dkwX4_record_0 : List UInt8 := [42, 27, 2, 159, 0, 11, 42, 27, 182, 0, 52, 153, 0, 7, 3, 167, 0, 4, 4, 181, 0, 37, 42]
abbrev dktX4_record_0 : List UInt8 := dkwX4_record_0 ++ dktX4_record_1
theorem dksX4_record_0 : cX4_record.data.toList.drop 0 = dktX4_record_0 := by decide +kernel
theorem dksX4_record_1 : cX4_record.data.toList.drop 23 = dktX4_record_1 := dk_seg dksX4_record_0 23 rfl rfl
theorem dksX4_record_2 : cX4_record.data.toList.drop 47 = dktX4_record_2 := dk_seg dksX4_record_1 24 rfl rfl
theorem dksX4_record_3 : cX4_record.data.toList.drop 70 = dktX4_record_3 := dk_seg dksX4_record_2 23 rfl rfl
theorem dksX4_record_4 : cX4_record.data.toList.drop 93 = dktX4_record_4 := dk_seg dksX4_record_3 23 rfl rfl
theorem dX4_record_0 : decode cX4_record 0 = .ok (.aload_n 0, 1) := dk_42 (dk_at dksX4_record_0 0 rfl rfl)
theorem dX4_record_1 : decode cX4_record 1 = .ok (.iload_n 1, 1) := dk_27 (dk_at dksX4_record_0 1 rfl rfl)
theorem dX4_record_2 : decode cX4_record 2 = .ok (.iconst (-1), 1) := dk_2 (dk_at dksX4_record_0 2 rfl rfl)
theorem dX4_record_3 : decode cX4_record 3 = .ok (.if_icmp .eq 11, 3) := dk_159 0 11 (dk_at dksX4_record_0 3 rfl rfl)
theorem dX4_record_6 : decode cX4_record 6 = .ok (.aload_n 0, 1) := dk_42 (dk_at dksX4_record_0 6 rfl rfl)
theorem dX4_record_7 : decode cX4_record 7 = .ok (.iload_n 1, 1) := dk_27 (dk_at dksX4_record_0 7 rfl rfl)
theorem dX4_record_8 : decode cX4_record 8 = .ok (.invokevirtual 52, 3) := dk_182 0 52 (dk_at dksX4_record_0 8 rfl rfl)
theorem dX4_record_11 : decode cX4_record 11 = .ok (.ifCond .eq 7, 3) := dk_153 0 7 (dk_at dksX4_record_0 11 rfl rfl)
theorem dX4_record_14 : decode cX4_record 14 = .ok (.iconst 0, 1) := dk_3 (dk_at dksX4_record_0 14 rfl rfl)
theorem dX4_record_15 : decode cX4_record 15 = .ok (.goto 4, 3) := dk_167 0 4 (dk_at dksX4_record_0 15 rfl rfl)
theorem dX4_record_18 : decode cX4_record 18 = .ok (.iconst 1, 1) := dk_4 (dk_at dksX4_record_0 18 rfl rfl)
theorem dX4_record_19 : decode cX4_record 19 = .ok (.putfield 37, 3) := dk_181 0 37 (dk_at dksX4_record_0 19 rfl rfl)
theorem dX4_record_22 : decode cX4_record 22 = .ok (.aload_n 0, 1) := dk_42 (dk_at dksX4_record_0 22 rfl rfl)
theorem dX4_record_23 : decode cX4_record 23 = .ok (.getfield 37, 3) := dk_180 0 37 (dk_at dksX4_record_1 0 rfl rfl)
theorem dX4_record_26 : decode cX4_record 26 = .ok (.ifCond .le 5, 3) := dk_158 0 5 (dk_at dksX4_record_1 3 rfl rfl)
theorem dX4_record_29 : decode cX4_record 29 = .ok (.iconst 0, 1) := dk_3 (dk_at dksX4_record_1 6 rfl rfl)
theorem dX4_record_30 : decode cX4_record 30 = .ok (.ireturn, 1) := dk_172 (dk_at dksX4_record_1 7 rfl rfl)
theorem dX4_record_31 : decode cX4_record 31 = .ok (.aload_n 0, 1) := dk_42 (dk_at dksX4_record_1 8 rfl rfl)
theorem dX4_record_32 : decode cX4_record 32 = .ok (.invokevirtual 71, 3) := dk_182 0 71 (dk_at dksX4_record_1 9 rfl rfl)
theorem dX4_record_35 : decode cX4_record 35 = .ok (.aload_n 0, 1) := dk_42 (dk_at dksX4_record_1 12 rfl rfl)
theorem dX4_record_36 : decode cX4_record 36 = .ok (.getfield 7, 3) := dk_180 0 7 (dk_at dksX4_record_1 13 rfl rfl)
theorem dX4_record_39 : decode cX4_record 39 = .ok (.iconst 5, 1) := dk_8 (dk_at dksX4_record_1 16 rfl rfl)
theorem dX4_record_40 : decode cX4_record 40 = .ok (.iaload, 1) := dk_46 (dk_at dksX4_record_1 17 rfl rfl)
theorem dX4_record_41 : decode cX4_record 41 = .ok (.istore_n 2, 1) := dk_61 (dk_at dksX4_record_1 18 rfl rfl)
theorem dX4_record_42 : decode cX4_record 42 = .ok (.aload_n 0, 1) := dk_42 (dk_at dksX4_record_1 19 rfl rfl)
theorem dX4_record_43 : decode cX4_record 43 = .ok (.getfield 7, 3) := dk_180 0 7 (dk_at dksX4_record_1 20 rfl rfl)
theorem dX4_record_46 : decode cX4_record 46 = .ok (.iconst 5, 1) := dk_8 (dk_at dksX4_record_1 23 rfl rfl)
theorem dX4_record_47 : decode cX4_record 47 = .ok (.iload_n 1, 1) := dk_27 (dk_at dksX4_record_2 0 rfl rfl)
theorem dX4_record_48 : decode cX4_record 48 = .ok (.iastore, 1) := dk_79 (dk_at dksX4_record_2 1 rfl rfl)
theorem dX4_record_49 : decode cX4_record 49 = .ok (.iconst 0, 1) := dk_3 (dk_at dksX4_record_2 2 rfl rfl)
theorem dX4_record_50 : decode cX4_record 50 = .ok (.istore_n 3, 1) := dk_62 (dk_at dksX4_record_2 3 rfl rfl)
theorem dX4_record_51 : decode cX4_record 51 = .ok (.iload_n 3, 1) := dk_29 (dk_at dksX4_record_2 4 rfl rfl)
theorem dX4_record_52 : decode cX4_record 52 = .ok (.bipush 24, 2) := dk_16 24 (dk_at dksX4_record_2 5 rfl rfl)
theorem dX4_record_54 : decode cX4_record 54 = .ok (.if_icmp .ge 19, 3) := dk_162 0 19 (dk_at dksX4_record_2 7 rfl rfl)
theorem dX4_record_57 : decode cX4_record 57 = .ok (.aload_n 0, 1) := dk_42 (dk_at dksX4_record_2 10 rfl rfl)
theorem dX4_record_58 : decode cX4_record 58 = .ok (.getfield 7, 3) := dk_180 0 7 (dk_at dksX4_record_2 11 rfl rfl)
theorem dX4_record_61 : decode cX4_record 61 = .ok (.bipush 10, 2) := dk_16 10 (dk_at dksX4_record_2 14 rfl rfl)
theorem dX4_record_63 : decode cX4_record 63 = .ok (.iload_n 3, 1) := dk_29 (dk_at dksX4_record_2 16 rfl rfl)
theorem dX4_record_64 : decode cX4_record 64 = .ok (.iadd, 1) := dk_96 (dk_at dksX4_record_2 17 rfl rfl)
theorem dX4_record_65 : decode cX4_record 65 = .ok (.iconst 0, 1) := dk_3 (dk_at dksX4_record_2 18 rfl rfl)
theorem dX4_record_66 : decode cX4_record 66 = .ok (.iastore, 1) := dk_79 (dk_at dksX4_record_2 19 rfl rfl)
theorem dX4_record_67 : decode cX4_record 67 = .ok (.iinc 3 1, 3) := dk_132 3 1 (dk_at dksX4_record_2 20 rfl rfl)
theorem dX4_record_70 : decode cX4_record 70 = .ok (.goto (-19), 3) := dk_167 255 237 (dk_at dksX4_record_3 0 rfl rfl)
theorem dX4_record_73 : decode cX4_record 73 = .ok (.aload_n 0, 1) := dk_42 (dk_at dksX4_record_3 3 rfl rfl)
theorem dX4_record_74 : decode cX4_record 74 = .ok (.getfield 7, 3) := dk_180 0 7 (dk_at dksX4_record_3 4 rfl rfl)
theorem dX4_record_77 : decode cX4_record 77 = .ok (.bipush 6, 2) := dk_16 6 (dk_at dksX4_record_3 7 rfl rfl)
theorem dX4_record_79 : decode cX4_record 79 = .ok (.iconst 0, 1) := dk_3 (dk_at dksX4_record_3 9 rfl rfl)
theorem dX4_record_80 : decode cX4_record 80 = .ok (.iastore, 1) := dk_79 (dk_at dksX4_record_3 10 rfl rfl)
theorem dX4_record_81 : decode cX4_record 81 = .ok (.aload_n 0, 1) := dk_42 (dk_at dksX4_record_3 11 rfl rfl)
theorem dX4_record_82 : decode cX4_record 82 = .ok (.getfield 7, 3) := dk_180 0 7 (dk_at dksX4_record_3 12 rfl rfl)
theorem dX4_record_85 : decode cX4_record 85 = .ok (.bipush 7, 2) := dk_16 7 (dk_at dksX4_record_3 15 rfl rfl)
theorem dX4_record_87 : decode cX4_record 87 = .ok (.iconst 0, 1) := dk_3 (dk_at dksX4_record_3 17 rfl rfl)
theorem dX4_record_88 : decode cX4_record 88 = .ok (.iastore, 1) := dk_79 (dk_at dksX4_record_3 18 rfl rfl)
theorem dX4_record_89 : decode cX4_record 89 = .ok (.aload_n 0, 1) := dk_42 (dk_at dksX4_record_3 19 rfl rfl)
theorem dX4_record_90 : decode cX4_record 90 = .ok (.getfield 7, 3) := dk_180 0 7 (dk_at dksX4_record_3 20 rfl rfl)
theorem dX4_record_93 : decode cX4_record 93 = .ok (.bipush 8, 2) := dk_16 8 (dk_at dksX4_record_4 0 rfl rfl)
theorem dX4_record_95 : decode cX4_record 95 = .ok (.iconst (-1), 1) := dk_2 (dk_at dksX4_record_4 2 rfl rfl)
theorem dX4_record_96 : decode cX4_record 96 = .ok (.iastore, 1) := dk_79 (dk_at dksX4_record_4 3 rfl rfl)
theorem dX4_record_97 : decode cX4_record 97 = .ok (.aload_n 0, 1) := dk_42 (dk_at dksX4_record_4 4 rfl rfl)
theorem dX4_record_98 : decode cX4_record 98 = .ok (.getfield 7, 3) := dk_180 0 7 (dk_at dksX4_record_4 5 rfl rfl)
theorem dX4_record_101 : decode cX4_record 101 = .ok (.bipush 9, 2) := dk_16 9 (dk_at dksX4_record_4 8 rfl rfl)
theorem dX4_record_103 : decode cX4_record 103 = .ok (.iconst (-1), 1) := dk_2 (dk_at dksX4_record_4 10 rfl rfl)
theorem dX4_record_104 : decode cX4_record 104 = .ok (.iastore, 1) := dk_79 (dk_at dksX4_record_4 11 rfl rfl)
theorem dX4_record_105 : decode cX4_record 105 = .ok (.iload_n 2, 1) := dk_28 (dk_at dksX4_record_4 12 rfl rfl)
theorem dX4_record_106 : decode cX4_record 106 = .ok (.ireturn, 1) := dk_172 (dk_at dksX4_record_4 13 rfl rfl)
abbrev cX4_modules : ByteArray := prog_17_method_58_code
def yX4_modules : MethodName := ⟨RX4, "modules", "()I"⟩
def dkwX4_modules_0 : List UInt8 := [42, 42, 180, 0, 7, 3, 46, 182, 0, 177, 172]
abbrev dktX4_modules_0 : List UInt8 := dkwX4_modules_0 ++ []
theorem dksX4_modules_0 : cX4_modules.data.toList.drop 0 = dktX4_modules_0 := by decide +kernel
theorem dX4_modules_0 : decode cX4_modules 0 = .ok (.aload_n 0, 1) := dk_42 (dk_at dksX4_modules_0 0 rfl rfl)
theorem dX4_modules_1 : decode cX4_modules 1 = .ok (.aload_n 0, 1) := dk_42 (dk_at dksX4_modules_0 1 rfl rfl)
theorem dX4_modules_2 : decode cX4_modules 2 = .ok (.getfield 7, 3) := dk_180 0 7 (dk_at dksX4_modules_0 2 rfl rfl)
theorem dX4_modules_5 : decode cX4_modules 5 = .ok (.iconst 0, 1) := dk_3 (dk_at dksX4_modules_0 5 rfl rfl)
theorem dX4_modules_6 : decode cX4_modules 6 = .ok (.iaload, 1) := dk_46 (dk_at dksX4_modules_0 6 rfl rfl)
theorem dX4_modules_7 : decode cX4_modules 7 = .ok (.invokevirtual 177, 3) := dk_182 0 177 (dk_at dksX4_modules_0 7 rfl rfl)
theorem dX4_modules_10 : decode cX4_modules 10 = .ok (.ireturn, 1) := dk_172 (dk_at dksX4_modules_0 10 rfl rfl)
abbrev cX4_tells : ByteArray := prog_17_method_56_code
def yX4_tells : MethodName := ⟨RX4, "tells", "(I)I"⟩
def dkwX4_tells_0 : List UInt8 := [42, 3, 181, 0, 37, 27, 172]
abbrev dktX4_tells_0 : List UInt8 := dkwX4_tells_0 ++ []
theorem dksX4_tells_0 : cX4_tells.data.toList.drop 0 = dktX4_tells_0 := by decide +kernel
theorem dX4_tells_0 : decode cX4_tells 0 = .ok (.aload_n 0, 1) := dk_42 (dk_at dksX4_tells_0 0 rfl rfl)
theorem dX4_tells_1 : decode cX4_tells 1 = .ok (.iconst 0, 1) := dk_3 (dk_at dksX4_tells_0 1 rfl rfl)
theorem dX4_tells_2 : decode cX4_tells 2 = .ok (.putfield 37, 3) := dk_181 0 37 (dk_at dksX4_tells_0 2 rfl rfl)
theorem dX4_tells_5 : decode cX4_tells 5 = .ok (.iload_n 1, 1) := dk_27 (dk_at dksX4_tells_0 5 rfl rfl)
theorem dX4_tells_6 : decode cX4_tells 6 = .ok (.ireturn, 1) := dk_172 (dk_at dksX4_tells_0 6 rfl rfl)
abbrev cX4_kindOf : ByteArray := prog_17_method_59_code
def yX4_kindOf : MethodName := ⟨RX4, "kindOf", "(I)I"⟩
def dkwX4_kindOf_0 : List UInt8 := [42, 27, 182, 0, 180, 153, 0, 11, 42, 27, 182, 0, 56, 167, 0, 4, 3, 172]
abbrev dktX4_kindOf_0 : List UInt8 := dkwX4_kindOf_0 ++ []
theorem dksX4_kindOf_0 : cX4_kindOf.data.toList.drop 0 = dktX4_kindOf_0 := by decide +kernel
theorem dX4_kindOf_0 : decode cX4_kindOf 0 = .ok (.aload_n 0, 1) := dk_42 (dk_at dksX4_kindOf_0 0 rfl rfl)
theorem dX4_kindOf_1 : decode cX4_kindOf 1 = .ok (.iload_n 1, 1) := dk_27 (dk_at dksX4_kindOf_0 1 rfl rfl)
theorem dX4_kindOf_2 : decode cX4_kindOf 2 = .ok (.invokevirtual 180, 3) := dk_182 0 180 (dk_at dksX4_kindOf_0 2 rfl rfl)
theorem dX4_kindOf_5 : decode cX4_kindOf 5 = .ok (.ifCond .eq 11, 3) := dk_153 0 11 (dk_at dksX4_kindOf_0 5 rfl rfl)
theorem dX4_kindOf_8 : decode cX4_kindOf 8 = .ok (.aload_n 0, 1) := dk_42 (dk_at dksX4_kindOf_0 8 rfl rfl)
theorem dX4_kindOf_9 : decode cX4_kindOf 9 = .ok (.iload_n 1, 1) := dk_27 (dk_at dksX4_kindOf_0 9 rfl rfl)
theorem dX4_kindOf_10 : decode cX4_kindOf 10 = .ok (.invokevirtual 56, 3) := dk_182 0 56 (dk_at dksX4_kindOf_0 10 rfl rfl)
theorem dX4_kindOf_13 : decode cX4_kindOf 13 = .ok (.goto 4, 3) := dk_167 0 4 (dk_at dksX4_kindOf_0 13 rfl rfl)
theorem dX4_kindOf_16 : decode cX4_kindOf 16 = .ok (.iconst 0, 1) := dk_3 (dk_at dksX4_kindOf_0 16 rfl rfl)
theorem dX4_kindOf_17 : decode cX4_kindOf 17 = .ok (.ireturn, 1) := dk_172 (dk_at dksX4_kindOf_0 17 rfl rfl)
abbrev cX4_asks : ByteArray := prog_17_method_57_code
def yX4_asks : MethodName := ⟨RX4, "asks", "(I)Z"⟩
def dkwX4_asks_1 : List UInt8 := [4, 167, 0, 4, 3, 172]
abbrev dktX4_asks_1 : List UInt8 := dkwX4_asks_1 ++ []
def dkwX4_asks_0 : List UInt8 := [42, 42, 27, 182, 0, 52, 153, 0, 7, 3, 167, 0, 4, 4, 181, 0, 37, 42, 180, 0, 37, 154, 0, 7]
abbrev dktX4_asks_0 : List UInt8 := dkwX4_asks_0 ++ dktX4_asks_1
theorem dksX4_asks_0 : cX4_asks.data.toList.drop 0 = dktX4_asks_0 := by decide +kernel
theorem dksX4_asks_1 : cX4_asks.data.toList.drop 24 = dktX4_asks_1 := dk_seg dksX4_asks_0 24 rfl rfl
theorem dX4_asks_0 : decode cX4_asks 0 = .ok (.aload_n 0, 1) := dk_42 (dk_at dksX4_asks_0 0 rfl rfl)
theorem dX4_asks_1 : decode cX4_asks 1 = .ok (.aload_n 0, 1) := dk_42 (dk_at dksX4_asks_0 1 rfl rfl)
theorem dX4_asks_2 : decode cX4_asks 2 = .ok (.iload_n 1, 1) := dk_27 (dk_at dksX4_asks_0 2 rfl rfl)
theorem dX4_asks_3 : decode cX4_asks 3 = .ok (.invokevirtual 52, 3) := dk_182 0 52 (dk_at dksX4_asks_0 3 rfl rfl)
theorem dX4_asks_6 : decode cX4_asks 6 = .ok (.ifCond .eq 7, 3) := dk_153 0 7 (dk_at dksX4_asks_0 6 rfl rfl)
theorem dX4_asks_9 : decode cX4_asks 9 = .ok (.iconst 0, 1) := dk_3 (dk_at dksX4_asks_0 9 rfl rfl)
theorem dX4_asks_10 : decode cX4_asks 10 = .ok (.goto 4, 3) := dk_167 0 4 (dk_at dksX4_asks_0 10 rfl rfl)
theorem dX4_asks_13 : decode cX4_asks 13 = .ok (.iconst 1, 1) := dk_4 (dk_at dksX4_asks_0 13 rfl rfl)
theorem dX4_asks_14 : decode cX4_asks 14 = .ok (.putfield 37, 3) := dk_181 0 37 (dk_at dksX4_asks_0 14 rfl rfl)
theorem dX4_asks_17 : decode cX4_asks 17 = .ok (.aload_n 0, 1) := dk_42 (dk_at dksX4_asks_0 17 rfl rfl)
theorem dX4_asks_18 : decode cX4_asks 18 = .ok (.getfield 37, 3) := dk_180 0 37 (dk_at dksX4_asks_0 18 rfl rfl)
theorem dX4_asks_21 : decode cX4_asks 21 = .ok (.ifCond .ne 7, 3) := dk_154 0 7 (dk_at dksX4_asks_0 21 rfl rfl)
theorem dX4_asks_24 : decode cX4_asks 24 = .ok (.iconst 1, 1) := dk_4 (dk_at dksX4_asks_1 0 rfl rfl)
theorem dX4_asks_25 : decode cX4_asks 25 = .ok (.goto 4, 3) := dk_167 0 4 (dk_at dksX4_asks_1 1 rfl rfl)
theorem dX4_asks_28 : decode cX4_asks 28 = .ok (.iconst 0, 1) := dk_3 (dk_at dksX4_asks_1 4 rfl rfl)
theorem dX4_asks_29 : decode cX4_asks 29 = .ok (.ireturn, 1) := dk_172 (dk_at dksX4_asks_1 5 rfl rfl)
abbrev cX4_inputsOf : ByteArray := prog_17_method_60_code
def yX4_inputsOf : MethodName := ⟨RX4, "inputsOf", "(I)I"⟩
def dkwX4_inputsOf_0 : List UInt8 := [42, 27, 182, 0, 180, 153, 0, 14, 42, 27, 182, 0, 56, 184, 0, 60, 167, 0, 4, 3, 172]
abbrev dktX4_inputsOf_0 : List UInt8 := dkwX4_inputsOf_0 ++ []
theorem dksX4_inputsOf_0 : cX4_inputsOf.data.toList.drop 0 = dktX4_inputsOf_0 := by decide +kernel
theorem dX4_inputsOf_0 : decode cX4_inputsOf 0 = .ok (.aload_n 0, 1) := dk_42 (dk_at dksX4_inputsOf_0 0 rfl rfl)
theorem dX4_inputsOf_1 : decode cX4_inputsOf 1 = .ok (.iload_n 1, 1) := dk_27 (dk_at dksX4_inputsOf_0 1 rfl rfl)
theorem dX4_inputsOf_2 : decode cX4_inputsOf 2 = .ok (.invokevirtual 180, 3) := dk_182 0 180 (dk_at dksX4_inputsOf_0 2 rfl rfl)
theorem dX4_inputsOf_5 : decode cX4_inputsOf 5 = .ok (.ifCond .eq 14, 3) := dk_153 0 14 (dk_at dksX4_inputsOf_0 5 rfl rfl)
theorem dX4_inputsOf_8 : decode cX4_inputsOf 8 = .ok (.aload_n 0, 1) := dk_42 (dk_at dksX4_inputsOf_0 8 rfl rfl)
theorem dX4_inputsOf_9 : decode cX4_inputsOf 9 = .ok (.iload_n 1, 1) := dk_27 (dk_at dksX4_inputsOf_0 9 rfl rfl)
theorem dX4_inputsOf_10 : decode cX4_inputsOf 10 = .ok (.invokevirtual 56, 3) := dk_182 0 56 (dk_at dksX4_inputsOf_0 10 rfl rfl)
theorem dX4_inputsOf_13 : decode cX4_inputsOf 13 = .ok (.invokestatic 60, 3) := dk_184 0 60 (dk_at dksX4_inputsOf_0 13 rfl rfl)
theorem dX4_inputsOf_16 : decode cX4_inputsOf 16 = .ok (.goto 4, 3) := dk_167 0 4 (dk_at dksX4_inputsOf_0 16 rfl rfl)
theorem dX4_inputsOf_19 : decode cX4_inputsOf 19 = .ok (.iconst 0, 1) := dk_3 (dk_at dksX4_inputsOf_0 19 rfl rfl)
theorem dX4_inputsOf_20 : decode cX4_inputsOf 20 = .ok (.ireturn, 1) := dk_172 (dk_at dksX4_inputsOf_0 20 rfl rfl)
abbrev cX4_cordIn : ByteArray := prog_17_method_62_code
def yX4_cordIn : MethodName := ⟨RX4, "cordIn", "(II)I"⟩
def dkwX4_cordIn_0 : List UInt8 := [42, 27, 28, 182, 0, 183, 153, 0, 14, 42, 27, 8, 28, 96, 182, 0, 48, 167, 0, 4, 3, 172]
abbrev dktX4_cordIn_0 : List UInt8 := dkwX4_cordIn_0 ++ []
theorem dksX4_cordIn_0 : cX4_cordIn.data.toList.drop 0 = dktX4_cordIn_0 := by decide +kernel
theorem dX4_cordIn_0 : decode cX4_cordIn 0 = .ok (.aload_n 0, 1) := dk_42 (dk_at dksX4_cordIn_0 0 rfl rfl)
theorem dX4_cordIn_1 : decode cX4_cordIn 1 = .ok (.iload_n 1, 1) := dk_27 (dk_at dksX4_cordIn_0 1 rfl rfl)
theorem dX4_cordIn_2 : decode cX4_cordIn 2 = .ok (.iload_n 2, 1) := dk_28 (dk_at dksX4_cordIn_0 2 rfl rfl)
theorem dX4_cordIn_3 : decode cX4_cordIn 3 = .ok (.invokevirtual 183, 3) := dk_182 0 183 (dk_at dksX4_cordIn_0 3 rfl rfl)
theorem dX4_cordIn_6 : decode cX4_cordIn 6 = .ok (.ifCond .eq 14, 3) := dk_153 0 14 (dk_at dksX4_cordIn_0 6 rfl rfl)
theorem dX4_cordIn_9 : decode cX4_cordIn 9 = .ok (.aload_n 0, 1) := dk_42 (dk_at dksX4_cordIn_0 9 rfl rfl)
theorem dX4_cordIn_10 : decode cX4_cordIn 10 = .ok (.iload_n 1, 1) := dk_27 (dk_at dksX4_cordIn_0 10 rfl rfl)
theorem dX4_cordIn_11 : decode cX4_cordIn 11 = .ok (.iconst 5, 1) := dk_8 (dk_at dksX4_cordIn_0 11 rfl rfl)
theorem dX4_cordIn_12 : decode cX4_cordIn 12 = .ok (.iload_n 2, 1) := dk_28 (dk_at dksX4_cordIn_0 12 rfl rfl)
theorem dX4_cordIn_13 : decode cX4_cordIn 13 = .ok (.iadd, 1) := dk_96 (dk_at dksX4_cordIn_0 13 rfl rfl)
theorem dX4_cordIn_14 : decode cX4_cordIn 14 = .ok (.invokevirtual 48, 3) := dk_182 0 48 (dk_at dksX4_cordIn_0 14 rfl rfl)
theorem dX4_cordIn_17 : decode cX4_cordIn 17 = .ok (.goto 4, 3) := dk_167 0 4 (dk_at dksX4_cordIn_0 17 rfl rfl)
theorem dX4_cordIn_20 : decode cX4_cordIn 20 = .ok (.iconst 0, 1) := dk_3 (dk_at dksX4_cordIn_0 20 rfl rfl)
theorem dX4_cordIn_21 : decode cX4_cordIn 21 = .ok (.ireturn, 1) := dk_172 (dk_at dksX4_cordIn_0 21 rfl rfl)
abbrev cX4_asksInput : ByteArray := prog_17_method_61_code
def yX4_asksInput : MethodName := ⟨RX4, "asksInput", "(II)Z"⟩
def dkwX4_asksInput_1 : List UInt8 := [154, 0, 7, 4, 167, 0, 4, 3, 172]
abbrev dktX4_asksInput_1 : List UInt8 := dkwX4_asksInput_1 ++ []
def dkwX4_asksInput_0 : List UInt8 := [42, 42, 27, 28, 182, 0, 80, 153, 0, 7, 3, 167, 0, 4, 4, 181, 0, 37, 42, 180, 0, 37]
abbrev dktX4_asksInput_0 : List UInt8 := dkwX4_asksInput_0 ++ dktX4_asksInput_1
theorem dksX4_asksInput_0 : cX4_asksInput.data.toList.drop 0 = dktX4_asksInput_0 := by decide +kernel
theorem dksX4_asksInput_1 : cX4_asksInput.data.toList.drop 22 = dktX4_asksInput_1 := dk_seg dksX4_asksInput_0 22 rfl rfl
theorem dX4_asksInput_0 : decode cX4_asksInput 0 = .ok (.aload_n 0, 1) := dk_42 (dk_at dksX4_asksInput_0 0 rfl rfl)
theorem dX4_asksInput_1 : decode cX4_asksInput 1 = .ok (.aload_n 0, 1) := dk_42 (dk_at dksX4_asksInput_0 1 rfl rfl)
theorem dX4_asksInput_2 : decode cX4_asksInput 2 = .ok (.iload_n 1, 1) := dk_27 (dk_at dksX4_asksInput_0 2 rfl rfl)
theorem dX4_asksInput_3 : decode cX4_asksInput 3 = .ok (.iload_n 2, 1) := dk_28 (dk_at dksX4_asksInput_0 3 rfl rfl)
theorem dX4_asksInput_4 : decode cX4_asksInput 4 = .ok (.invokevirtual 80, 3) := dk_182 0 80 (dk_at dksX4_asksInput_0 4 rfl rfl)
theorem dX4_asksInput_7 : decode cX4_asksInput 7 = .ok (.ifCond .eq 7, 3) := dk_153 0 7 (dk_at dksX4_asksInput_0 7 rfl rfl)
theorem dX4_asksInput_10 : decode cX4_asksInput 10 = .ok (.iconst 0, 1) := dk_3 (dk_at dksX4_asksInput_0 10 rfl rfl)
theorem dX4_asksInput_11 : decode cX4_asksInput 11 = .ok (.goto 4, 3) := dk_167 0 4 (dk_at dksX4_asksInput_0 11 rfl rfl)
theorem dX4_asksInput_14 : decode cX4_asksInput 14 = .ok (.iconst 1, 1) := dk_4 (dk_at dksX4_asksInput_0 14 rfl rfl)
theorem dX4_asksInput_15 : decode cX4_asksInput 15 = .ok (.putfield 37, 3) := dk_181 0 37 (dk_at dksX4_asksInput_0 15 rfl rfl)
theorem dX4_asksInput_18 : decode cX4_asksInput 18 = .ok (.aload_n 0, 1) := dk_42 (dk_at dksX4_asksInput_0 18 rfl rfl)
theorem dX4_asksInput_19 : decode cX4_asksInput 19 = .ok (.getfield 37, 3) := dk_180 0 37 (dk_at dksX4_asksInput_0 19 rfl rfl)
theorem dX4_asksInput_22 : decode cX4_asksInput 22 = .ok (.ifCond .ne 7, 3) := dk_154 0 7 (dk_at dksX4_asksInput_1 0 rfl rfl)
theorem dX4_asksInput_25 : decode cX4_asksInput 25 = .ok (.iconst 1, 1) := dk_4 (dk_at dksX4_asksInput_1 3 rfl rfl)
theorem dX4_asksInput_26 : decode cX4_asksInput 26 = .ok (.goto 4, 3) := dk_167 0 4 (dk_at dksX4_asksInput_1 4 rfl rfl)
theorem dX4_asksInput_29 : decode cX4_asksInput 29 = .ok (.iconst 0, 1) := dk_3 (dk_at dksX4_asksInput_1 7 rfl rfl)
theorem dX4_asksInput_30 : decode cX4_asksInput 30 = .ok (.ireturn, 1) := dk_172 (dk_at dksX4_asksInput_1 8 rfl rfl)
abbrev cX4_weightOf : ByteArray := prog_17_method_63_code
def yX4_weightOf : MethodName := ⟨RX4, "weightOf", "(II)I"⟩
def dkwX4_weightOf_1 : List UInt8 := [16, 9, 28, 96, 182, 0, 48, 172]
abbrev dktX4_weightOf_1 : List UInt8 := dkwX4_weightOf_1 ++ []
def dkwX4_weightOf_0 : List UInt8 := [42, 42, 27, 28, 182, 0, 84, 181, 0, 37, 42, 180, 0, 37, 158, 0, 7, 3, 167, 0, 12, 42, 27]
abbrev dktX4_weightOf_0 : List UInt8 := dkwX4_weightOf_0 ++ dktX4_weightOf_1
theorem dksX4_weightOf_0 : cX4_weightOf.data.toList.drop 0 = dktX4_weightOf_0 := by decide +kernel
theorem dksX4_weightOf_1 : cX4_weightOf.data.toList.drop 23 = dktX4_weightOf_1 := dk_seg dksX4_weightOf_0 23 rfl rfl
theorem dX4_weightOf_0 : decode cX4_weightOf 0 = .ok (.aload_n 0, 1) := dk_42 (dk_at dksX4_weightOf_0 0 rfl rfl)
theorem dX4_weightOf_1 : decode cX4_weightOf 1 = .ok (.aload_n 0, 1) := dk_42 (dk_at dksX4_weightOf_0 1 rfl rfl)
theorem dX4_weightOf_2 : decode cX4_weightOf 2 = .ok (.iload_n 1, 1) := dk_27 (dk_at dksX4_weightOf_0 2 rfl rfl)
theorem dX4_weightOf_3 : decode cX4_weightOf 3 = .ok (.iload_n 2, 1) := dk_28 (dk_at dksX4_weightOf_0 3 rfl rfl)
theorem dX4_weightOf_4 : decode cX4_weightOf 4 = .ok (.invokevirtual 84, 3) := dk_182 0 84 (dk_at dksX4_weightOf_0 4 rfl rfl)
theorem dX4_weightOf_7 : decode cX4_weightOf 7 = .ok (.putfield 37, 3) := dk_181 0 37 (dk_at dksX4_weightOf_0 7 rfl rfl)
theorem dX4_weightOf_10 : decode cX4_weightOf 10 = .ok (.aload_n 0, 1) := dk_42 (dk_at dksX4_weightOf_0 10 rfl rfl)
theorem dX4_weightOf_11 : decode cX4_weightOf 11 = .ok (.getfield 37, 3) := dk_180 0 37 (dk_at dksX4_weightOf_0 11 rfl rfl)
theorem dX4_weightOf_14 : decode cX4_weightOf 14 = .ok (.ifCond .le 7, 3) := dk_158 0 7 (dk_at dksX4_weightOf_0 14 rfl rfl)
theorem dX4_weightOf_17 : decode cX4_weightOf 17 = .ok (.iconst 0, 1) := dk_3 (dk_at dksX4_weightOf_0 17 rfl rfl)
theorem dX4_weightOf_18 : decode cX4_weightOf 18 = .ok (.goto 12, 3) := dk_167 0 12 (dk_at dksX4_weightOf_0 18 rfl rfl)
theorem dX4_weightOf_21 : decode cX4_weightOf 21 = .ok (.aload_n 0, 1) := dk_42 (dk_at dksX4_weightOf_0 21 rfl rfl)
theorem dX4_weightOf_22 : decode cX4_weightOf 22 = .ok (.iload_n 1, 1) := dk_27 (dk_at dksX4_weightOf_0 22 rfl rfl)
theorem dX4_weightOf_23 : decode cX4_weightOf 23 = .ok (.bipush 9, 2) := dk_16 9 (dk_at dksX4_weightOf_1 0 rfl rfl)
theorem dX4_weightOf_25 : decode cX4_weightOf 25 = .ok (.iload_n 2, 1) := dk_28 (dk_at dksX4_weightOf_1 2 rfl rfl)
theorem dX4_weightOf_26 : decode cX4_weightOf 26 = .ok (.iadd, 1) := dk_96 (dk_at dksX4_weightOf_1 3 rfl rfl)
theorem dX4_weightOf_27 : decode cX4_weightOf 27 = .ok (.invokevirtual 48, 3) := dk_182 0 48 (dk_at dksX4_weightOf_1 4 rfl rfl)
theorem dX4_weightOf_30 : decode cX4_weightOf 30 = .ok (.ireturn, 1) := dk_172 (dk_at dksX4_weightOf_1 7 rfl rfl)
abbrev cX4_settingOf : ByteArray := prog_17_method_64_code
def yX4_settingOf : MethodName := ⟨RX4, "settingOf", "(I)I"⟩
def dkwX4_settingOf_0 : List UInt8 := [42, 27, 182, 0, 180, 153, 0, 12, 42, 27, 4, 182, 0, 48, 167, 0, 4, 3, 172]
abbrev dktX4_settingOf_0 : List UInt8 := dkwX4_settingOf_0 ++ []
theorem dksX4_settingOf_0 : cX4_settingOf.data.toList.drop 0 = dktX4_settingOf_0 := by decide +kernel
theorem dX4_settingOf_0 : decode cX4_settingOf 0 = .ok (.aload_n 0, 1) := dk_42 (dk_at dksX4_settingOf_0 0 rfl rfl)
theorem dX4_settingOf_1 : decode cX4_settingOf 1 = .ok (.iload_n 1, 1) := dk_27 (dk_at dksX4_settingOf_0 1 rfl rfl)
theorem dX4_settingOf_2 : decode cX4_settingOf 2 = .ok (.invokevirtual 180, 3) := dk_182 0 180 (dk_at dksX4_settingOf_0 2 rfl rfl)
theorem dX4_settingOf_5 : decode cX4_settingOf 5 = .ok (.ifCond .eq 12, 3) := dk_153 0 12 (dk_at dksX4_settingOf_0 5 rfl rfl)
theorem dX4_settingOf_8 : decode cX4_settingOf 8 = .ok (.aload_n 0, 1) := dk_42 (dk_at dksX4_settingOf_0 8 rfl rfl)
theorem dX4_settingOf_9 : decode cX4_settingOf 9 = .ok (.iload_n 1, 1) := dk_27 (dk_at dksX4_settingOf_0 9 rfl rfl)
theorem dX4_settingOf_10 : decode cX4_settingOf 10 = .ok (.iconst 1, 1) := dk_4 (dk_at dksX4_settingOf_0 10 rfl rfl)
theorem dX4_settingOf_11 : decode cX4_settingOf 11 = .ok (.invokevirtual 48, 3) := dk_182 0 48 (dk_at dksX4_settingOf_0 11 rfl rfl)
theorem dX4_settingOf_14 : decode cX4_settingOf 14 = .ok (.goto 4, 3) := dk_167 0 4 (dk_at dksX4_settingOf_0 14 rfl rfl)
theorem dX4_settingOf_17 : decode cX4_settingOf 17 = .ok (.iconst 0, 1) := dk_3 (dk_at dksX4_settingOf_0 17 rfl rfl)
theorem dX4_settingOf_18 : decode cX4_settingOf 18 = .ok (.ireturn, 1) := dk_172 (dk_at dksX4_settingOf_0 18 rfl rfl)
abbrev cX4_speedOf : ByteArray := prog_17_method_66_code
def yX4_speedOf : MethodName := ⟨RX4, "speedOf", "(I)I"⟩
def dkwX4_speedOf_0 : List UInt8 := [42, 27, 182, 0, 186, 153, 0, 12, 42, 27, 5, 182, 0, 48, 167, 0, 4, 3, 172]
abbrev dktX4_speedOf_0 : List UInt8 := dkwX4_speedOf_0 ++ []
theorem dksX4_speedOf_0 : cX4_speedOf.data.toList.drop 0 = dktX4_speedOf_0 := by decide +kernel
theorem dX4_speedOf_0 : decode cX4_speedOf 0 = .ok (.aload_n 0, 1) := dk_42 (dk_at dksX4_speedOf_0 0 rfl rfl)
theorem dX4_speedOf_1 : decode cX4_speedOf 1 = .ok (.iload_n 1, 1) := dk_27 (dk_at dksX4_speedOf_0 1 rfl rfl)
theorem dX4_speedOf_2 : decode cX4_speedOf 2 = .ok (.invokevirtual 186, 3) := dk_182 0 186 (dk_at dksX4_speedOf_0 2 rfl rfl)
theorem dX4_speedOf_5 : decode cX4_speedOf 5 = .ok (.ifCond .eq 12, 3) := dk_153 0 12 (dk_at dksX4_speedOf_0 5 rfl rfl)
theorem dX4_speedOf_8 : decode cX4_speedOf 8 = .ok (.aload_n 0, 1) := dk_42 (dk_at dksX4_speedOf_0 8 rfl rfl)
theorem dX4_speedOf_9 : decode cX4_speedOf 9 = .ok (.iload_n 1, 1) := dk_27 (dk_at dksX4_speedOf_0 9 rfl rfl)
theorem dX4_speedOf_10 : decode cX4_speedOf 10 = .ok (.iconst 2, 1) := dk_5 (dk_at dksX4_speedOf_0 10 rfl rfl)
theorem dX4_speedOf_11 : decode cX4_speedOf 11 = .ok (.invokevirtual 48, 3) := dk_182 0 48 (dk_at dksX4_speedOf_0 11 rfl rfl)
theorem dX4_speedOf_14 : decode cX4_speedOf 14 = .ok (.goto 4, 3) := dk_167 0 4 (dk_at dksX4_speedOf_0 14 rfl rfl)
theorem dX4_speedOf_17 : decode cX4_speedOf 17 = .ok (.iconst 0, 1) := dk_3 (dk_at dksX4_speedOf_0 17 rfl rfl)
theorem dX4_speedOf_18 : decode cX4_speedOf 18 = .ok (.ireturn, 1) := dk_172 (dk_at dksX4_speedOf_0 18 rfl rfl)
abbrev cX4_asksIntegrator : ByteArray := prog_17_method_65_code
def yX4_asksIntegrator : MethodName := ⟨RX4, "asksIntegrator", "(I)Z"⟩
def dkwX4_asksIntegrator_1 : List UInt8 := [167, 0, 4, 5, 181, 0, 37, 42, 180, 0, 37, 154, 0, 7, 4, 167, 0, 4, 3, 172]
abbrev dktX4_asksIntegrator_1 : List UInt8 := dkwX4_asksIntegrator_1 ++ []
def dkwX4_asksIntegrator_0 : List UInt8 := [42, 42, 27, 182, 0, 52, 154, 0, 7, 4, 167, 0, 17, 42, 27, 182, 0, 56, 4, 160, 0, 7, 3]
abbrev dktX4_asksIntegrator_0 : List UInt8 := dkwX4_asksIntegrator_0 ++ dktX4_asksIntegrator_1
theorem dksX4_asksIntegrator_0 : cX4_asksIntegrator.data.toList.drop 0 = dktX4_asksIntegrator_0 := by decide +kernel
theorem dksX4_asksIntegrator_1 : cX4_asksIntegrator.data.toList.drop 23 = dktX4_asksIntegrator_1 := dk_seg dksX4_asksIntegrator_0 23 rfl rfl
theorem dX4_asksIntegrator_0 : decode cX4_asksIntegrator 0 = .ok (.aload_n 0, 1) := dk_42 (dk_at dksX4_asksIntegrator_0 0 rfl rfl)
theorem dX4_asksIntegrator_1 : decode cX4_asksIntegrator 1 = .ok (.aload_n 0, 1) := dk_42 (dk_at dksX4_asksIntegrator_0 1 rfl rfl)
theorem dX4_asksIntegrator_2 : decode cX4_asksIntegrator 2 = .ok (.iload_n 1, 1) := dk_27 (dk_at dksX4_asksIntegrator_0 2 rfl rfl)
theorem dX4_asksIntegrator_3 : decode cX4_asksIntegrator 3 = .ok (.invokevirtual 52, 3) := dk_182 0 52 (dk_at dksX4_asksIntegrator_0 3 rfl rfl)
theorem dX4_asksIntegrator_6 : decode cX4_asksIntegrator 6 = .ok (.ifCond .ne 7, 3) := dk_154 0 7 (dk_at dksX4_asksIntegrator_0 6 rfl rfl)
theorem dX4_asksIntegrator_9 : decode cX4_asksIntegrator 9 = .ok (.iconst 1, 1) := dk_4 (dk_at dksX4_asksIntegrator_0 9 rfl rfl)
theorem dX4_asksIntegrator_10 : decode cX4_asksIntegrator 10 = .ok (.goto 17, 3) := dk_167 0 17 (dk_at dksX4_asksIntegrator_0 10 rfl rfl)
theorem dX4_asksIntegrator_13 : decode cX4_asksIntegrator 13 = .ok (.aload_n 0, 1) := dk_42 (dk_at dksX4_asksIntegrator_0 13 rfl rfl)
theorem dX4_asksIntegrator_14 : decode cX4_asksIntegrator 14 = .ok (.iload_n 1, 1) := dk_27 (dk_at dksX4_asksIntegrator_0 14 rfl rfl)
theorem dX4_asksIntegrator_15 : decode cX4_asksIntegrator 15 = .ok (.invokevirtual 56, 3) := dk_182 0 56 (dk_at dksX4_asksIntegrator_0 15 rfl rfl)
theorem dX4_asksIntegrator_18 : decode cX4_asksIntegrator 18 = .ok (.iconst 1, 1) := dk_4 (dk_at dksX4_asksIntegrator_0 18 rfl rfl)
theorem dX4_asksIntegrator_19 : decode cX4_asksIntegrator 19 = .ok (.if_icmp .ne 7, 3) := dk_160 0 7 (dk_at dksX4_asksIntegrator_0 19 rfl rfl)
theorem dX4_asksIntegrator_22 : decode cX4_asksIntegrator 22 = .ok (.iconst 0, 1) := dk_3 (dk_at dksX4_asksIntegrator_0 22 rfl rfl)
theorem dX4_asksIntegrator_23 : decode cX4_asksIntegrator 23 = .ok (.goto 4, 3) := dk_167 0 4 (dk_at dksX4_asksIntegrator_1 0 rfl rfl)
theorem dX4_asksIntegrator_26 : decode cX4_asksIntegrator 26 = .ok (.iconst 2, 1) := dk_5 (dk_at dksX4_asksIntegrator_1 3 rfl rfl)
theorem dX4_asksIntegrator_27 : decode cX4_asksIntegrator 27 = .ok (.putfield 37, 3) := dk_181 0 37 (dk_at dksX4_asksIntegrator_1 4 rfl rfl)
theorem dX4_asksIntegrator_30 : decode cX4_asksIntegrator 30 = .ok (.aload_n 0, 1) := dk_42 (dk_at dksX4_asksIntegrator_1 7 rfl rfl)
theorem dX4_asksIntegrator_31 : decode cX4_asksIntegrator 31 = .ok (.getfield 37, 3) := dk_180 0 37 (dk_at dksX4_asksIntegrator_1 8 rfl rfl)
theorem dX4_asksIntegrator_34 : decode cX4_asksIntegrator 34 = .ok (.ifCond .ne 7, 3) := dk_154 0 7 (dk_at dksX4_asksIntegrator_1 11 rfl rfl)
theorem dX4_asksIntegrator_37 : decode cX4_asksIntegrator 37 = .ok (.iconst 1, 1) := dk_4 (dk_at dksX4_asksIntegrator_1 14 rfl rfl)
theorem dX4_asksIntegrator_38 : decode cX4_asksIntegrator 38 = .ok (.goto 4, 3) := dk_167 0 4 (dk_at dksX4_asksIntegrator_1 15 rfl rfl)
theorem dX4_asksIntegrator_41 : decode cX4_asksIntegrator 41 = .ok (.iconst 0, 1) := dk_3 (dk_at dksX4_asksIntegrator_1 18 rfl rfl)
theorem dX4_asksIntegrator_42 : decode cX4_asksIntegrator 42 = .ok (.ireturn, 1) := dk_172 (dk_at dksX4_asksIntegrator_1 19 rfl rfl)
abbrev cX4_cords : ByteArray := prog_17_method_68_code
def yX4_cords : MethodName := ⟨RX4, "cords", "()I"⟩
def dkwX4_cords_0 : List UInt8 := [42, 42, 182, 0, 189, 182, 0, 177, 172]
abbrev dktX4_cords_0 : List UInt8 := dkwX4_cords_0 ++ []
theorem dksX4_cords_0 : cX4_cords.data.toList.drop 0 = dktX4_cords_0 := by decide +kernel
theorem dX4_cords_0 : decode cX4_cords 0 = .ok (.aload_n 0, 1) := dk_42 (dk_at dksX4_cords_0 0 rfl rfl)
theorem dX4_cords_1 : decode cX4_cords 1 = .ok (.aload_n 0, 1) := dk_42 (dk_at dksX4_cords_0 1 rfl rfl)
theorem dX4_cords_2 : decode cX4_cords 2 = .ok (.invokevirtual 189, 3) := dk_182 0 189 (dk_at dksX4_cords_0 2 rfl rfl)
theorem dX4_cords_5 : decode cX4_cords 5 = .ok (.invokevirtual 177, 3) := dk_182 0 177 (dk_at dksX4_cords_0 5 rfl rfl)
theorem dX4_cords_8 : decode cX4_cords 8 = .ok (.ireturn, 1) := dk_172 (dk_at dksX4_cords_0 8 rfl rfl)
abbrev cX4_manyCords : ByteArray := prog_17_method_67_code
def yX4_manyCords : MethodName := ⟨RX4, "manyCords", "()I"⟩
def dkwX4_manyCords_2 : List UInt8 := [132, 2, 1, 167, 255, 210, 27, 172]
abbrev dktX4_manyCords_2 : List UInt8 := dkwX4_manyCords_2 ++ []
def dkwX4_manyCords_1 : List UInt8 := [8, 29, 96, 182, 0, 48, 2, 160, 0, 7, 3, 167, 0, 4, 4, 96, 60, 132, 3, 1, 167, 255, 228]
abbrev dktX4_manyCords_1 : List UInt8 := dkwX4_manyCords_1 ++ dktX4_manyCords_2
def dkwX4_manyCords_0 : List UInt8 := [3, 60, 3, 61, 28, 42, 180, 0, 7, 3, 46, 162, 0, 42, 3, 62, 29, 7, 162, 0, 29, 27, 42, 28]
abbrev dktX4_manyCords_0 : List UInt8 := dkwX4_manyCords_0 ++ dktX4_manyCords_1
theorem dksX4_manyCords_0 : cX4_manyCords.data.toList.drop 0 = dktX4_manyCords_0 := by decide +kernel
theorem dksX4_manyCords_1 : cX4_manyCords.data.toList.drop 24 = dktX4_manyCords_1 := dk_seg dksX4_manyCords_0 24 rfl rfl
theorem dksX4_manyCords_2 : cX4_manyCords.data.toList.drop 47 = dktX4_manyCords_2 := dk_seg dksX4_manyCords_1 23 rfl rfl
theorem dX4_manyCords_0 : decode cX4_manyCords 0 = .ok (.iconst 0, 1) := dk_3 (dk_at dksX4_manyCords_0 0 rfl rfl)
theorem dX4_manyCords_1 : decode cX4_manyCords 1 = .ok (.istore_n 1, 1) := dk_60 (dk_at dksX4_manyCords_0 1 rfl rfl)
theorem dX4_manyCords_2 : decode cX4_manyCords 2 = .ok (.iconst 0, 1) := dk_3 (dk_at dksX4_manyCords_0 2 rfl rfl)
theorem dX4_manyCords_3 : decode cX4_manyCords 3 = .ok (.istore_n 2, 1) := dk_61 (dk_at dksX4_manyCords_0 3 rfl rfl)
theorem dX4_manyCords_4 : decode cX4_manyCords 4 = .ok (.iload_n 2, 1) := dk_28 (dk_at dksX4_manyCords_0 4 rfl rfl)
theorem dX4_manyCords_5 : decode cX4_manyCords 5 = .ok (.aload_n 0, 1) := dk_42 (dk_at dksX4_manyCords_0 5 rfl rfl)
theorem dX4_manyCords_6 : decode cX4_manyCords 6 = .ok (.getfield 7, 3) := dk_180 0 7 (dk_at dksX4_manyCords_0 6 rfl rfl)
theorem dX4_manyCords_9 : decode cX4_manyCords 9 = .ok (.iconst 0, 1) := dk_3 (dk_at dksX4_manyCords_0 9 rfl rfl)
theorem dX4_manyCords_10 : decode cX4_manyCords 10 = .ok (.iaload, 1) := dk_46 (dk_at dksX4_manyCords_0 10 rfl rfl)
theorem dX4_manyCords_11 : decode cX4_manyCords 11 = .ok (.if_icmp .ge 42, 3) := dk_162 0 42 (dk_at dksX4_manyCords_0 11 rfl rfl)
theorem dX4_manyCords_14 : decode cX4_manyCords 14 = .ok (.iconst 0, 1) := dk_3 (dk_at dksX4_manyCords_0 14 rfl rfl)
theorem dX4_manyCords_15 : decode cX4_manyCords 15 = .ok (.istore_n 3, 1) := dk_62 (dk_at dksX4_manyCords_0 15 rfl rfl)
theorem dX4_manyCords_16 : decode cX4_manyCords 16 = .ok (.iload_n 3, 1) := dk_29 (dk_at dksX4_manyCords_0 16 rfl rfl)
theorem dX4_manyCords_17 : decode cX4_manyCords 17 = .ok (.iconst 4, 1) := dk_7 (dk_at dksX4_manyCords_0 17 rfl rfl)
theorem dX4_manyCords_18 : decode cX4_manyCords 18 = .ok (.if_icmp .ge 29, 3) := dk_162 0 29 (dk_at dksX4_manyCords_0 18 rfl rfl)
theorem dX4_manyCords_21 : decode cX4_manyCords 21 = .ok (.iload_n 1, 1) := dk_27 (dk_at dksX4_manyCords_0 21 rfl rfl)
theorem dX4_manyCords_22 : decode cX4_manyCords 22 = .ok (.aload_n 0, 1) := dk_42 (dk_at dksX4_manyCords_0 22 rfl rfl)
theorem dX4_manyCords_23 : decode cX4_manyCords 23 = .ok (.iload_n 2, 1) := dk_28 (dk_at dksX4_manyCords_0 23 rfl rfl)
theorem dX4_manyCords_24 : decode cX4_manyCords 24 = .ok (.iconst 5, 1) := dk_8 (dk_at dksX4_manyCords_1 0 rfl rfl)
theorem dX4_manyCords_25 : decode cX4_manyCords 25 = .ok (.iload_n 3, 1) := dk_29 (dk_at dksX4_manyCords_1 1 rfl rfl)
theorem dX4_manyCords_26 : decode cX4_manyCords 26 = .ok (.iadd, 1) := dk_96 (dk_at dksX4_manyCords_1 2 rfl rfl)
theorem dX4_manyCords_27 : decode cX4_manyCords 27 = .ok (.invokevirtual 48, 3) := dk_182 0 48 (dk_at dksX4_manyCords_1 3 rfl rfl)
theorem dX4_manyCords_30 : decode cX4_manyCords 30 = .ok (.iconst (-1), 1) := dk_2 (dk_at dksX4_manyCords_1 6 rfl rfl)
theorem dX4_manyCords_31 : decode cX4_manyCords 31 = .ok (.if_icmp .ne 7, 3) := dk_160 0 7 (dk_at dksX4_manyCords_1 7 rfl rfl)
theorem dX4_manyCords_34 : decode cX4_manyCords 34 = .ok (.iconst 0, 1) := dk_3 (dk_at dksX4_manyCords_1 10 rfl rfl)
theorem dX4_manyCords_35 : decode cX4_manyCords 35 = .ok (.goto 4, 3) := dk_167 0 4 (dk_at dksX4_manyCords_1 11 rfl rfl)
theorem dX4_manyCords_38 : decode cX4_manyCords 38 = .ok (.iconst 1, 1) := dk_4 (dk_at dksX4_manyCords_1 14 rfl rfl)
theorem dX4_manyCords_39 : decode cX4_manyCords 39 = .ok (.iadd, 1) := dk_96 (dk_at dksX4_manyCords_1 15 rfl rfl)
theorem dX4_manyCords_40 : decode cX4_manyCords 40 = .ok (.istore_n 1, 1) := dk_60 (dk_at dksX4_manyCords_1 16 rfl rfl)
theorem dX4_manyCords_41 : decode cX4_manyCords 41 = .ok (.iinc 3 1, 3) := dk_132 3 1 (dk_at dksX4_manyCords_1 17 rfl rfl)
theorem dX4_manyCords_44 : decode cX4_manyCords 44 = .ok (.goto (-28), 3) := dk_167 255 228 (dk_at dksX4_manyCords_1 20 rfl rfl)
theorem dX4_manyCords_47 : decode cX4_manyCords 47 = .ok (.iinc 2 1, 3) := dk_132 2 1 (dk_at dksX4_manyCords_2 0 rfl rfl)
theorem dX4_manyCords_50 : decode cX4_manyCords 50 = .ok (.goto (-46), 3) := dk_167 255 210 (dk_at dksX4_manyCords_2 3 rfl rfl)
theorem dX4_manyCords_53 : decode cX4_manyCords 53 = .ok (.iload_n 1, 1) := dk_27 (dk_at dksX4_manyCords_2 6 rfl rfl)
theorem dX4_manyCords_54 : decode cX4_manyCords 54 = .ok (.ireturn, 1) := dk_172 (dk_at dksX4_manyCords_2 7 rfl rfl)
abbrev cX4_mode : ByteArray := prog_17_method_69_code
def yX4_mode : MethodName := ⟨RX4, "mode", "()I"⟩
def dkwX4_mode_0 : List UInt8 := [42, 42, 180, 0, 7, 4, 46, 182, 0, 177, 172]
abbrev dktX4_mode_0 : List UInt8 := dkwX4_mode_0 ++ []
theorem dksX4_mode_0 : cX4_mode.data.toList.drop 0 = dktX4_mode_0 := by decide +kernel
theorem dX4_mode_0 : decode cX4_mode 0 = .ok (.aload_n 0, 1) := dk_42 (dk_at dksX4_mode_0 0 rfl rfl)
theorem dX4_mode_1 : decode cX4_mode 1 = .ok (.aload_n 0, 1) := dk_42 (dk_at dksX4_mode_0 1 rfl rfl)
theorem dX4_mode_2 : decode cX4_mode 2 = .ok (.getfield 7, 3) := dk_180 0 7 (dk_at dksX4_mode_0 2 rfl rfl)
theorem dX4_mode_5 : decode cX4_mode 5 = .ok (.iconst 1, 1) := dk_4 (dk_at dksX4_mode_0 5 rfl rfl)
theorem dX4_mode_6 : decode cX4_mode 6 = .ok (.iaload, 1) := dk_46 (dk_at dksX4_mode_0 6 rfl rfl)
theorem dX4_mode_7 : decode cX4_mode 7 = .ok (.invokevirtual 177, 3) := dk_182 0 177 (dk_at dksX4_mode_0 7 rfl rfl)
theorem dX4_mode_10 : decode cX4_mode 10 = .ok (.ireturn, 1) := dk_172 (dk_at dksX4_mode_0 10 rfl rfl)
abbrev cX4_way : ByteArray := prog_17_method_70_code
def yX4_way : MethodName := ⟨RX4, "way", "()I"⟩
def dkwX4_way_0 : List UInt8 := [42, 42, 180, 0, 7, 5, 46, 182, 0, 177, 172]
abbrev dktX4_way_0 : List UInt8 := dkwX4_way_0 ++ []
theorem dksX4_way_0 : cX4_way.data.toList.drop 0 = dktX4_way_0 := by decide +kernel
theorem dX4_way_0 : decode cX4_way 0 = .ok (.aload_n 0, 1) := dk_42 (dk_at dksX4_way_0 0 rfl rfl)
theorem dX4_way_1 : decode cX4_way 1 = .ok (.aload_n 0, 1) := dk_42 (dk_at dksX4_way_0 1 rfl rfl)
theorem dX4_way_2 : decode cX4_way 2 = .ok (.getfield 7, 3) := dk_180 0 7 (dk_at dksX4_way_0 2 rfl rfl)
theorem dX4_way_5 : decode cX4_way 5 = .ok (.iconst 2, 1) := dk_5 (dk_at dksX4_way_0 5 rfl rfl)
theorem dX4_way_6 : decode cX4_way 6 = .ok (.iaload, 1) := dk_46 (dk_at dksX4_way_0 6 rfl rfl)
theorem dX4_way_7 : decode cX4_way 7 = .ok (.invokevirtual 177, 3) := dk_182 0 177 (dk_at dksX4_way_0 7 rfl rfl)
theorem dX4_way_10 : decode cX4_way 10 = .ok (.ireturn, 1) := dk_172 (dk_at dksX4_way_0 10 rfl rfl)
abbrev cX4_isGuarded : ByteArray := prog_17_method_71_code
def yX4_isGuarded : MethodName := ⟨RX4, "isGuarded", "()Z"⟩
def dkwX4_isGuarded_0 : List UInt8 := [42, 3, 181, 0, 37, 42, 180, 0, 7, 6, 46, 4, 160, 0, 7, 4, 167, 0, 4, 3, 172]
abbrev dktX4_isGuarded_0 : List UInt8 := dkwX4_isGuarded_0 ++ []
theorem dksX4_isGuarded_0 : cX4_isGuarded.data.toList.drop 0 = dktX4_isGuarded_0 := by decide +kernel
theorem dX4_isGuarded_0 : decode cX4_isGuarded 0 = .ok (.aload_n 0, 1) := dk_42 (dk_at dksX4_isGuarded_0 0 rfl rfl)
theorem dX4_isGuarded_1 : decode cX4_isGuarded 1 = .ok (.iconst 0, 1) := dk_3 (dk_at dksX4_isGuarded_0 1 rfl rfl)
theorem dX4_isGuarded_2 : decode cX4_isGuarded 2 = .ok (.putfield 37, 3) := dk_181 0 37 (dk_at dksX4_isGuarded_0 2 rfl rfl)
theorem dX4_isGuarded_5 : decode cX4_isGuarded 5 = .ok (.aload_n 0, 1) := dk_42 (dk_at dksX4_isGuarded_0 5 rfl rfl)
theorem dX4_isGuarded_6 : decode cX4_isGuarded 6 = .ok (.getfield 7, 3) := dk_180 0 7 (dk_at dksX4_isGuarded_0 6 rfl rfl)
theorem dX4_isGuarded_9 : decode cX4_isGuarded 9 = .ok (.iconst 3, 1) := dk_6 (dk_at dksX4_isGuarded_0 9 rfl rfl)
theorem dX4_isGuarded_10 : decode cX4_isGuarded 10 = .ok (.iaload, 1) := dk_46 (dk_at dksX4_isGuarded_0 10 rfl rfl)
theorem dX4_isGuarded_11 : decode cX4_isGuarded 11 = .ok (.iconst 1, 1) := dk_4 (dk_at dksX4_isGuarded_0 11 rfl rfl)
theorem dX4_isGuarded_12 : decode cX4_isGuarded 12 = .ok (.if_icmp .ne 7, 3) := dk_160 0 7 (dk_at dksX4_isGuarded_0 12 rfl rfl)
theorem dX4_isGuarded_15 : decode cX4_isGuarded 15 = .ok (.iconst 1, 1) := dk_4 (dk_at dksX4_isGuarded_0 15 rfl rfl)
theorem dX4_isGuarded_16 : decode cX4_isGuarded 16 = .ok (.goto 4, 3) := dk_167 0 4 (dk_at dksX4_isGuarded_0 16 rfl rfl)
theorem dX4_isGuarded_19 : decode cX4_isGuarded 19 = .ok (.iconst 0, 1) := dk_3 (dk_at dksX4_isGuarded_0 19 rfl rfl)
theorem dX4_isGuarded_20 : decode cX4_isGuarded 20 = .ok (.ireturn, 1) := dk_172 (dk_at dksX4_isGuarded_0 20 rfl rfl)
abbrev cX4_steps : ByteArray := prog_17_method_72_code
def yX4_steps : MethodName := ⟨RX4, "steps", "()I"⟩
def dkwX4_steps_0 : List UInt8 := [42, 42, 180, 0, 7, 7, 46, 182, 0, 177, 172]
abbrev dktX4_steps_0 : List UInt8 := dkwX4_steps_0 ++ []
theorem dksX4_steps_0 : cX4_steps.data.toList.drop 0 = dktX4_steps_0 := by decide +kernel
theorem dX4_steps_0 : decode cX4_steps 0 = .ok (.aload_n 0, 1) := dk_42 (dk_at dksX4_steps_0 0 rfl rfl)
theorem dX4_steps_1 : decode cX4_steps 1 = .ok (.aload_n 0, 1) := dk_42 (dk_at dksX4_steps_0 1 rfl rfl)
theorem dX4_steps_2 : decode cX4_steps 2 = .ok (.getfield 7, 3) := dk_180 0 7 (dk_at dksX4_steps_0 2 rfl rfl)
theorem dX4_steps_5 : decode cX4_steps 5 = .ok (.iconst 4, 1) := dk_7 (dk_at dksX4_steps_0 5 rfl rfl)
theorem dX4_steps_6 : decode cX4_steps 6 = .ok (.iaload, 1) := dk_46 (dk_at dksX4_steps_0 6 rfl rfl)
theorem dX4_steps_7 : decode cX4_steps 7 = .ok (.invokevirtual 177, 3) := dk_182 0 177 (dk_at dksX4_steps_0 7 rfl rfl)
theorem dX4_steps_10 : decode cX4_steps 10 = .ok (.ireturn, 1) := dk_172 (dk_at dksX4_steps_0 10 rfl rfl)
abbrev cX4_outputOf : ByteArray := prog_17_method_74_code
def yX4_outputOf : MethodName := ⟨RX4, "outputOf", "(I)I"⟩
def dkwX4_outputOf_0 : List UInt8 := [42, 27, 182, 0, 180, 153, 0, 11, 42, 27, 182, 0, 193, 167, 0, 4, 3, 172]
abbrev dktX4_outputOf_0 : List UInt8 := dkwX4_outputOf_0 ++ []
theorem dksX4_outputOf_0 : cX4_outputOf.data.toList.drop 0 = dktX4_outputOf_0 := by decide +kernel
theorem dX4_outputOf_0 : decode cX4_outputOf 0 = .ok (.aload_n 0, 1) := dk_42 (dk_at dksX4_outputOf_0 0 rfl rfl)
theorem dX4_outputOf_1 : decode cX4_outputOf 1 = .ok (.iload_n 1, 1) := dk_27 (dk_at dksX4_outputOf_0 1 rfl rfl)
theorem dX4_outputOf_2 : decode cX4_outputOf 2 = .ok (.invokevirtual 180, 3) := dk_182 0 180 (dk_at dksX4_outputOf_0 2 rfl rfl)
theorem dX4_outputOf_5 : decode cX4_outputOf 5 = .ok (.ifCond .eq 11, 3) := dk_153 0 11 (dk_at dksX4_outputOf_0 5 rfl rfl)
theorem dX4_outputOf_8 : decode cX4_outputOf 8 = .ok (.aload_n 0, 1) := dk_42 (dk_at dksX4_outputOf_0 8 rfl rfl)
theorem dX4_outputOf_9 : decode cX4_outputOf 9 = .ok (.iload_n 1, 1) := dk_27 (dk_at dksX4_outputOf_0 9 rfl rfl)
theorem dX4_outputOf_10 : decode cX4_outputOf 10 = .ok (.invokevirtual 193, 3) := dk_182 0 193 (dk_at dksX4_outputOf_0 10 rfl rfl)
theorem dX4_outputOf_13 : decode cX4_outputOf 13 = .ok (.goto 4, 3) := dk_167 0 4 (dk_at dksX4_outputOf_0 13 rfl rfl)
theorem dX4_outputOf_16 : decode cX4_outputOf 16 = .ok (.iconst 0, 1) := dk_3 (dk_at dksX4_outputOf_0 16 rfl rfl)
theorem dX4_outputOf_17 : decode cX4_outputOf 17 = .ok (.ireturn, 1) := dk_172 (dk_at dksX4_outputOf_0 17 rfl rfl)
abbrev cX4_output : ByteArray := prog_17_method_73_code
def yX4_output : MethodName := ⟨RX4, "output", "(I)I"⟩
def dkwX4_output_0 : List UInt8 := [42, 182, 0, 150, 42, 180, 0, 25, 27, 46, 172]
abbrev dktX4_output_0 : List UInt8 := dkwX4_output_0 ++ []
theorem dksX4_output_0 : cX4_output.data.toList.drop 0 = dktX4_output_0 := by decide +kernel
theorem dX4_output_0 : decode cX4_output 0 = .ok (.aload_n 0, 1) := dk_42 (dk_at dksX4_output_0 0 rfl rfl)
theorem dX4_output_1 : decode cX4_output 1 = .ok (.invokevirtual 150, 3) := dk_182 0 150 (dk_at dksX4_output_0 1 rfl rfl)
theorem dX4_output_4 : decode cX4_output 4 = .ok (.aload_n 0, 1) := dk_42 (dk_at dksX4_output_0 4 rfl rfl)
theorem dX4_output_5 : decode cX4_output 5 = .ok (.getfield 25, 3) := dk_180 0 25 (dk_at dksX4_output_0 5 rfl rfl)
theorem dX4_output_8 : decode cX4_output 8 = .ok (.iload_n 1, 1) := dk_27 (dk_at dksX4_output_0 8 rfl rfl)
theorem dX4_output_9 : decode cX4_output 9 = .ok (.iaload, 1) := dk_46 (dk_at dksX4_output_0 9 rfl rfl)
theorem dX4_output_10 : decode cX4_output 10 = .ok (.ireturn, 1) := dk_172 (dk_at dksX4_output_0 10 rfl rfl)
abbrev cX4_outputByAsking : ByteArray := prog_17_method_75_code
def yX4_outputByAsking : MethodName := ⟨RX4, "outputByAsking", "(I)I"⟩
def dkwX4_outputByAsking_0 : List UInt8 := [42, 27, 182, 0, 180, 153, 0, 11, 42, 27, 182, 0, 193, 167, 0, 4, 3, 172]
abbrev dktX4_outputByAsking_0 : List UInt8 := dkwX4_outputByAsking_0 ++ []
theorem dksX4_outputByAsking_0 : cX4_outputByAsking.data.toList.drop 0 = dktX4_outputByAsking_0 := by decide +kernel
theorem dX4_outputByAsking_0 : decode cX4_outputByAsking 0 = .ok (.aload_n 0, 1) := dk_42 (dk_at dksX4_outputByAsking_0 0 rfl rfl)
theorem dX4_outputByAsking_1 : decode cX4_outputByAsking 1 = .ok (.iload_n 1, 1) := dk_27 (dk_at dksX4_outputByAsking_0 1 rfl rfl)
theorem dX4_outputByAsking_2 : decode cX4_outputByAsking 2 = .ok (.invokevirtual 180, 3) := dk_182 0 180 (dk_at dksX4_outputByAsking_0 2 rfl rfl)
theorem dX4_outputByAsking_5 : decode cX4_outputByAsking 5 = .ok (.ifCond .eq 11, 3) := dk_153 0 11 (dk_at dksX4_outputByAsking_0 5 rfl rfl)
theorem dX4_outputByAsking_8 : decode cX4_outputByAsking 8 = .ok (.aload_n 0, 1) := dk_42 (dk_at dksX4_outputByAsking_0 8 rfl rfl)
theorem dX4_outputByAsking_9 : decode cX4_outputByAsking 9 = .ok (.iload_n 1, 1) := dk_27 (dk_at dksX4_outputByAsking_0 9 rfl rfl)
theorem dX4_outputByAsking_10 : decode cX4_outputByAsking 10 = .ok (.invokevirtual 193, 3) := dk_182 0 193 (dk_at dksX4_outputByAsking_0 10 rfl rfl)
theorem dX4_outputByAsking_13 : decode cX4_outputByAsking 13 = .ok (.goto 4, 3) := dk_167 0 4 (dk_at dksX4_outputByAsking_0 13 rfl rfl)
theorem dX4_outputByAsking_16 : decode cX4_outputByAsking 16 = .ok (.iconst 0, 1) := dk_3 (dk_at dksX4_outputByAsking_0 16 rfl rfl)
theorem dX4_outputByAsking_17 : decode cX4_outputByAsking 17 = .ok (.ireturn, 1) := dk_172 (dk_at dksX4_outputByAsking_0 17 rfl rfl)
abbrev cX4_inputOf : ByteArray := prog_17_method_77_code
def yX4_inputOf : MethodName := ⟨RX4, "inputOf", "(II)I"⟩
def dkwX4_inputOf_0 : List UInt8 := [42, 27, 28, 182, 0, 183, 153, 0, 12, 42, 27, 28, 182, 0, 196, 167, 0, 4, 3, 172]
abbrev dktX4_inputOf_0 : List UInt8 := dkwX4_inputOf_0 ++ []
theorem dksX4_inputOf_0 : cX4_inputOf.data.toList.drop 0 = dktX4_inputOf_0 := by decide +kernel
theorem dX4_inputOf_0 : decode cX4_inputOf 0 = .ok (.aload_n 0, 1) := dk_42 (dk_at dksX4_inputOf_0 0 rfl rfl)
theorem dX4_inputOf_1 : decode cX4_inputOf 1 = .ok (.iload_n 1, 1) := dk_27 (dk_at dksX4_inputOf_0 1 rfl rfl)
theorem dX4_inputOf_2 : decode cX4_inputOf 2 = .ok (.iload_n 2, 1) := dk_28 (dk_at dksX4_inputOf_0 2 rfl rfl)
theorem dX4_inputOf_3 : decode cX4_inputOf 3 = .ok (.invokevirtual 183, 3) := dk_182 0 183 (dk_at dksX4_inputOf_0 3 rfl rfl)
theorem dX4_inputOf_6 : decode cX4_inputOf 6 = .ok (.ifCond .eq 12, 3) := dk_153 0 12 (dk_at dksX4_inputOf_0 6 rfl rfl)
theorem dX4_inputOf_9 : decode cX4_inputOf 9 = .ok (.aload_n 0, 1) := dk_42 (dk_at dksX4_inputOf_0 9 rfl rfl)
theorem dX4_inputOf_10 : decode cX4_inputOf 10 = .ok (.iload_n 1, 1) := dk_27 (dk_at dksX4_inputOf_0 10 rfl rfl)
theorem dX4_inputOf_11 : decode cX4_inputOf 11 = .ok (.iload_n 2, 1) := dk_28 (dk_at dksX4_inputOf_0 11 rfl rfl)
theorem dX4_inputOf_12 : decode cX4_inputOf 12 = .ok (.invokevirtual 196, 3) := dk_182 0 196 (dk_at dksX4_inputOf_0 12 rfl rfl)
theorem dX4_inputOf_15 : decode cX4_inputOf 15 = .ok (.goto 4, 3) := dk_167 0 4 (dk_at dksX4_inputOf_0 15 rfl rfl)
theorem dX4_inputOf_18 : decode cX4_inputOf 18 = .ok (.iconst 0, 1) := dk_3 (dk_at dksX4_inputOf_0 18 rfl rfl)
theorem dX4_inputOf_19 : decode cX4_inputOf 19 = .ok (.ireturn, 1) := dk_172 (dk_at dksX4_inputOf_0 19 rfl rfl)
abbrev cX4_inputNow : ByteArray := prog_17_method_76_code
def yX4_inputNow : MethodName := ⟨RX4, "inputNow", "(II)I"⟩
def dkwX4_inputNow_0 : List UInt8 := [42, 182, 0, 150, 42, 27, 28, 182, 0, 125, 172]
abbrev dktX4_inputNow_0 : List UInt8 := dkwX4_inputNow_0 ++ []
theorem dksX4_inputNow_0 : cX4_inputNow.data.toList.drop 0 = dktX4_inputNow_0 := by decide +kernel
theorem dX4_inputNow_0 : decode cX4_inputNow 0 = .ok (.aload_n 0, 1) := dk_42 (dk_at dksX4_inputNow_0 0 rfl rfl)
theorem dX4_inputNow_1 : decode cX4_inputNow 1 = .ok (.invokevirtual 150, 3) := dk_182 0 150 (dk_at dksX4_inputNow_0 1 rfl rfl)
theorem dX4_inputNow_4 : decode cX4_inputNow 4 = .ok (.aload_n 0, 1) := dk_42 (dk_at dksX4_inputNow_0 4 rfl rfl)
theorem dX4_inputNow_5 : decode cX4_inputNow 5 = .ok (.iload_n 1, 1) := dk_27 (dk_at dksX4_inputNow_0 5 rfl rfl)
theorem dX4_inputNow_6 : decode cX4_inputNow 6 = .ok (.iload_n 2, 1) := dk_28 (dk_at dksX4_inputNow_0 6 rfl rfl)
theorem dX4_inputNow_7 : decode cX4_inputNow 7 = .ok (.invokevirtual 125, 3) := dk_182 0 125 (dk_at dksX4_inputNow_0 7 rfl rfl)
theorem dX4_inputNow_10 : decode cX4_inputNow 10 = .ok (.ireturn, 1) := dk_172 (dk_at dksX4_inputNow_0 10 rfl rfl)
abbrev cX4_chargeOf : ByteArray := prog_17_method_78_code
def yX4_chargeOf : MethodName := ⟨RX4, "chargeOf", "(I)I"⟩
def dkwX4_chargeOf_0 : List UInt8 := [42, 27, 182, 0, 186, 153, 0, 12, 42, 27, 6, 182, 0, 48, 167, 0, 4, 3, 172]
abbrev dktX4_chargeOf_0 : List UInt8 := dkwX4_chargeOf_0 ++ []
theorem dksX4_chargeOf_0 : cX4_chargeOf.data.toList.drop 0 = dktX4_chargeOf_0 := by decide +kernel
theorem dX4_chargeOf_0 : decode cX4_chargeOf 0 = .ok (.aload_n 0, 1) := dk_42 (dk_at dksX4_chargeOf_0 0 rfl rfl)
theorem dX4_chargeOf_1 : decode cX4_chargeOf 1 = .ok (.iload_n 1, 1) := dk_27 (dk_at dksX4_chargeOf_0 1 rfl rfl)
theorem dX4_chargeOf_2 : decode cX4_chargeOf 2 = .ok (.invokevirtual 186, 3) := dk_182 0 186 (dk_at dksX4_chargeOf_0 2 rfl rfl)
theorem dX4_chargeOf_5 : decode cX4_chargeOf 5 = .ok (.ifCond .eq 12, 3) := dk_153 0 12 (dk_at dksX4_chargeOf_0 5 rfl rfl)
theorem dX4_chargeOf_8 : decode cX4_chargeOf 8 = .ok (.aload_n 0, 1) := dk_42 (dk_at dksX4_chargeOf_0 8 rfl rfl)
theorem dX4_chargeOf_9 : decode cX4_chargeOf 9 = .ok (.iload_n 1, 1) := dk_27 (dk_at dksX4_chargeOf_0 9 rfl rfl)
theorem dX4_chargeOf_10 : decode cX4_chargeOf 10 = .ok (.iconst 3, 1) := dk_6 (dk_at dksX4_chargeOf_0 10 rfl rfl)
theorem dX4_chargeOf_11 : decode cX4_chargeOf 11 = .ok (.invokevirtual 48, 3) := dk_182 0 48 (dk_at dksX4_chargeOf_0 11 rfl rfl)
theorem dX4_chargeOf_14 : decode cX4_chargeOf 14 = .ok (.goto 4, 3) := dk_167 0 4 (dk_at dksX4_chargeOf_0 14 rfl rfl)
theorem dX4_chargeOf_17 : decode cX4_chargeOf 17 = .ok (.iconst 0, 1) := dk_3 (dk_at dksX4_chargeOf_0 17 rfl rfl)
theorem dX4_chargeOf_18 : decode cX4_chargeOf 18 = .ok (.ireturn, 1) := dk_172 (dk_at dksX4_chargeOf_0 18 rfl rfl)
abbrev cX4_rateOf : ByteArray := prog_17_method_80_code
def yX4_rateOf : MethodName := ⟨RX4, "rateOf", "(I)I"⟩
def dkwX4_rateOf_0 : List UInt8 := [42, 27, 182, 0, 186, 153, 0, 11, 42, 27, 182, 0, 199, 167, 0, 4, 3, 172]
abbrev dktX4_rateOf_0 : List UInt8 := dkwX4_rateOf_0 ++ []
theorem dksX4_rateOf_0 : cX4_rateOf.data.toList.drop 0 = dktX4_rateOf_0 := by decide +kernel
theorem dX4_rateOf_0 : decode cX4_rateOf 0 = .ok (.aload_n 0, 1) := dk_42 (dk_at dksX4_rateOf_0 0 rfl rfl)
theorem dX4_rateOf_1 : decode cX4_rateOf 1 = .ok (.iload_n 1, 1) := dk_27 (dk_at dksX4_rateOf_0 1 rfl rfl)
theorem dX4_rateOf_2 : decode cX4_rateOf 2 = .ok (.invokevirtual 186, 3) := dk_182 0 186 (dk_at dksX4_rateOf_0 2 rfl rfl)
theorem dX4_rateOf_5 : decode cX4_rateOf 5 = .ok (.ifCond .eq 11, 3) := dk_153 0 11 (dk_at dksX4_rateOf_0 5 rfl rfl)
theorem dX4_rateOf_8 : decode cX4_rateOf 8 = .ok (.aload_n 0, 1) := dk_42 (dk_at dksX4_rateOf_0 8 rfl rfl)
theorem dX4_rateOf_9 : decode cX4_rateOf 9 = .ok (.iload_n 1, 1) := dk_27 (dk_at dksX4_rateOf_0 9 rfl rfl)
theorem dX4_rateOf_10 : decode cX4_rateOf 10 = .ok (.invokevirtual 199, 3) := dk_182 0 199 (dk_at dksX4_rateOf_0 10 rfl rfl)
theorem dX4_rateOf_13 : decode cX4_rateOf 13 = .ok (.goto 4, 3) := dk_167 0 4 (dk_at dksX4_rateOf_0 13 rfl rfl)
theorem dX4_rateOf_16 : decode cX4_rateOf 16 = .ok (.iconst 0, 1) := dk_3 (dk_at dksX4_rateOf_0 16 rfl rfl)
theorem dX4_rateOf_17 : decode cX4_rateOf 17 = .ok (.ireturn, 1) := dk_172 (dk_at dksX4_rateOf_0 17 rfl rfl)
abbrev cX4_rateNow : ByteArray := prog_17_method_79_code
def yX4_rateNow : MethodName := ⟨RX4, "rateNow", "(I)I"⟩
def dkwX4_rateNow_0 : List UInt8 := [42, 182, 0, 150, 42, 27, 182, 0, 147, 172]
abbrev dktX4_rateNow_0 : List UInt8 := dkwX4_rateNow_0 ++ []
theorem dksX4_rateNow_0 : cX4_rateNow.data.toList.drop 0 = dktX4_rateNow_0 := by decide +kernel
theorem dX4_rateNow_0 : decode cX4_rateNow 0 = .ok (.aload_n 0, 1) := dk_42 (dk_at dksX4_rateNow_0 0 rfl rfl)
theorem dX4_rateNow_1 : decode cX4_rateNow 1 = .ok (.invokevirtual 150, 3) := dk_182 0 150 (dk_at dksX4_rateNow_0 1 rfl rfl)
theorem dX4_rateNow_4 : decode cX4_rateNow 4 = .ok (.aload_n 0, 1) := dk_42 (dk_at dksX4_rateNow_0 4 rfl rfl)
theorem dX4_rateNow_5 : decode cX4_rateNow 5 = .ok (.iload_n 1, 1) := dk_27 (dk_at dksX4_rateNow_0 5 rfl rfl)
theorem dX4_rateNow_6 : decode cX4_rateNow 6 = .ok (.invokevirtual 147, 3) := dk_182 0 147 (dk_at dksX4_rateNow_0 6 rfl rfl)
theorem dX4_rateNow_9 : decode cX4_rateNow 9 = .ok (.ireturn, 1) := dk_172 (dk_at dksX4_rateNow_0 9 rfl rfl)
abbrev cX4_overloaded : ByteArray := prog_17_method_82_code
def yX4_overloaded : MethodName := ⟨RX4, "overloaded", "()I"⟩
def dkwX4_overloaded_0 : List UInt8 := [42, 42, 182, 0, 202, 182, 0, 177, 172]
abbrev dktX4_overloaded_0 : List UInt8 := dkwX4_overloaded_0 ++ []
theorem dksX4_overloaded_0 : cX4_overloaded.data.toList.drop 0 = dktX4_overloaded_0 := by decide +kernel
theorem dX4_overloaded_0 : decode cX4_overloaded 0 = .ok (.aload_n 0, 1) := dk_42 (dk_at dksX4_overloaded_0 0 rfl rfl)
theorem dX4_overloaded_1 : decode cX4_overloaded 1 = .ok (.aload_n 0, 1) := dk_42 (dk_at dksX4_overloaded_0 1 rfl rfl)
theorem dX4_overloaded_2 : decode cX4_overloaded 2 = .ok (.invokevirtual 202, 3) := dk_182 0 202 (dk_at dksX4_overloaded_0 2 rfl rfl)
theorem dX4_overloaded_5 : decode cX4_overloaded 5 = .ok (.invokevirtual 177, 3) := dk_182 0 177 (dk_at dksX4_overloaded_0 5 rfl rfl)
theorem dX4_overloaded_8 : decode cX4_overloaded 8 = .ok (.ireturn, 1) := dk_172 (dk_at dksX4_overloaded_0 8 rfl rfl)
abbrev cX4_overNow : ByteArray := prog_17_method_81_code
def yX4_overNow : MethodName := ⟨RX4, "overNow", "()I"⟩
def dkwX4_overNow_0 : List UInt8 := [42, 182, 0, 150, 42, 180, 0, 134, 172]
abbrev dktX4_overNow_0 : List UInt8 := dkwX4_overNow_0 ++ []
theorem dksX4_overNow_0 : cX4_overNow.data.toList.drop 0 = dktX4_overNow_0 := by decide +kernel
theorem dX4_overNow_0 : decode cX4_overNow 0 = .ok (.aload_n 0, 1) := dk_42 (dk_at dksX4_overNow_0 0 rfl rfl)
theorem dX4_overNow_1 : decode cX4_overNow 1 = .ok (.invokevirtual 150, 3) := dk_182 0 150 (dk_at dksX4_overNow_0 1 rfl rfl)
theorem dX4_overNow_4 : decode cX4_overNow 4 = .ok (.aload_n 0, 1) := dk_42 (dk_at dksX4_overNow_0 4 rfl rfl)
theorem dX4_overNow_5 : decode cX4_overNow 5 = .ok (.getfield 134, 3) := dk_180 0 134 (dk_at dksX4_overNow_0 5 rfl rfl)
theorem dX4_overNow_8 : decode cX4_overNow 8 = .ok (.ireturn, 1) := dk_172 (dk_at dksX4_overNow_0 8 rfl rfl)
abbrev cX4_peakOf : ByteArray := prog_17_method_83_code
def yX4_peakOf : MethodName := ⟨RX4, "peakOf", "(I)I"⟩
def dkwX4_peakOf_0 : List UInt8 := [42, 27, 182, 0, 180, 153, 0, 12, 42, 27, 7, 182, 0, 48, 167, 0, 4, 3, 172]
abbrev dktX4_peakOf_0 : List UInt8 := dkwX4_peakOf_0 ++ []
theorem dksX4_peakOf_0 : cX4_peakOf.data.toList.drop 0 = dktX4_peakOf_0 := by decide +kernel
theorem dX4_peakOf_0 : decode cX4_peakOf 0 = .ok (.aload_n 0, 1) := dk_42 (dk_at dksX4_peakOf_0 0 rfl rfl)
theorem dX4_peakOf_1 : decode cX4_peakOf 1 = .ok (.iload_n 1, 1) := dk_27 (dk_at dksX4_peakOf_0 1 rfl rfl)
theorem dX4_peakOf_2 : decode cX4_peakOf 2 = .ok (.invokevirtual 180, 3) := dk_182 0 180 (dk_at dksX4_peakOf_0 2 rfl rfl)
theorem dX4_peakOf_5 : decode cX4_peakOf 5 = .ok (.ifCond .eq 12, 3) := dk_153 0 12 (dk_at dksX4_peakOf_0 5 rfl rfl)
theorem dX4_peakOf_8 : decode cX4_peakOf 8 = .ok (.aload_n 0, 1) := dk_42 (dk_at dksX4_peakOf_0 8 rfl rfl)
theorem dX4_peakOf_9 : decode cX4_peakOf 9 = .ok (.iload_n 1, 1) := dk_27 (dk_at dksX4_peakOf_0 9 rfl rfl)
theorem dX4_peakOf_10 : decode cX4_peakOf 10 = .ok (.iconst 4, 1) := dk_7 (dk_at dksX4_peakOf_0 10 rfl rfl)
theorem dX4_peakOf_11 : decode cX4_peakOf 11 = .ok (.invokevirtual 48, 3) := dk_182 0 48 (dk_at dksX4_peakOf_0 11 rfl rfl)
theorem dX4_peakOf_14 : decode cX4_peakOf 14 = .ok (.goto 4, 3) := dk_167 0 4 (dk_at dksX4_peakOf_0 14 rfl rfl)
theorem dX4_peakOf_17 : decode cX4_peakOf 17 = .ok (.iconst 0, 1) := dk_3 (dk_at dksX4_peakOf_0 17 rfl rfl)
theorem dX4_peakOf_18 : decode cX4_peakOf 18 = .ok (.ireturn, 1) := dk_172 (dk_at dksX4_peakOf_0 18 rfl rfl)
abbrev cX4_scaleOf : ByteArray := prog_17_method_85_code
def yX4_scaleOf : MethodName := ⟨RX4, "scaleOf", "(I)I"⟩
def dkwX4_scaleOf_0 : List UInt8 := [42, 27, 182, 0, 180, 153, 0, 11, 42, 27, 182, 0, 205, 167, 0, 4, 3, 172]
abbrev dktX4_scaleOf_0 : List UInt8 := dkwX4_scaleOf_0 ++ []
theorem dksX4_scaleOf_0 : cX4_scaleOf.data.toList.drop 0 = dktX4_scaleOf_0 := by decide +kernel
theorem dX4_scaleOf_0 : decode cX4_scaleOf 0 = .ok (.aload_n 0, 1) := dk_42 (dk_at dksX4_scaleOf_0 0 rfl rfl)
theorem dX4_scaleOf_1 : decode cX4_scaleOf 1 = .ok (.iload_n 1, 1) := dk_27 (dk_at dksX4_scaleOf_0 1 rfl rfl)
theorem dX4_scaleOf_2 : decode cX4_scaleOf 2 = .ok (.invokevirtual 180, 3) := dk_182 0 180 (dk_at dksX4_scaleOf_0 2 rfl rfl)
theorem dX4_scaleOf_5 : decode cX4_scaleOf 5 = .ok (.ifCond .eq 11, 3) := dk_153 0 11 (dk_at dksX4_scaleOf_0 5 rfl rfl)
theorem dX4_scaleOf_8 : decode cX4_scaleOf 8 = .ok (.aload_n 0, 1) := dk_42 (dk_at dksX4_scaleOf_0 8 rfl rfl)
theorem dX4_scaleOf_9 : decode cX4_scaleOf 9 = .ok (.iload_n 1, 1) := dk_27 (dk_at dksX4_scaleOf_0 9 rfl rfl)
theorem dX4_scaleOf_10 : decode cX4_scaleOf 10 = .ok (.invokevirtual 205, 3) := dk_182 0 205 (dk_at dksX4_scaleOf_0 10 rfl rfl)
theorem dX4_scaleOf_13 : decode cX4_scaleOf 13 = .ok (.goto 4, 3) := dk_167 0 4 (dk_at dksX4_scaleOf_0 13 rfl rfl)
theorem dX4_scaleOf_16 : decode cX4_scaleOf 16 = .ok (.iconst 0, 1) := dk_3 (dk_at dksX4_scaleOf_0 16 rfl rfl)
theorem dX4_scaleOf_17 : decode cX4_scaleOf 17 = .ok (.ireturn, 1) := dk_172 (dk_at dksX4_scaleOf_0 17 rfl rfl)
abbrev cX4_scale : ByteArray := prog_17_method_84_code
def yX4_scale : MethodName := ⟨RX4, "scale", "(I)I"⟩
def dkwX4_scale_0 : List UInt8 := [42, 27, 7, 182, 0, 48, 154, 0, 7, 2, 167, 0, 12, 18, 146, 42, 27, 7, 182, 0, 48, 108, 172]
abbrev dktX4_scale_0 : List UInt8 := dkwX4_scale_0 ++ []
theorem dksX4_scale_0 : cX4_scale.data.toList.drop 0 = dktX4_scale_0 := by decide +kernel
theorem dX4_scale_0 : decode cX4_scale 0 = .ok (.aload_n 0, 1) := dk_42 (dk_at dksX4_scale_0 0 rfl rfl)
theorem dX4_scale_1 : decode cX4_scale 1 = .ok (.iload_n 1, 1) := dk_27 (dk_at dksX4_scale_0 1 rfl rfl)
theorem dX4_scale_2 : decode cX4_scale 2 = .ok (.iconst 4, 1) := dk_7 (dk_at dksX4_scale_0 2 rfl rfl)
theorem dX4_scale_3 : decode cX4_scale 3 = .ok (.invokevirtual 48, 3) := dk_182 0 48 (dk_at dksX4_scale_0 3 rfl rfl)
theorem dX4_scale_6 : decode cX4_scale 6 = .ok (.ifCond .ne 7, 3) := dk_154 0 7 (dk_at dksX4_scale_0 6 rfl rfl)
theorem dX4_scale_9 : decode cX4_scale 9 = .ok (.iconst (-1), 1) := dk_2 (dk_at dksX4_scale_0 9 rfl rfl)
theorem dX4_scale_10 : decode cX4_scale 10 = .ok (.goto 12, 3) := dk_167 0 12 (dk_at dksX4_scale_0 10 rfl rfl)
theorem dX4_scale_13 : decode cX4_scale 13 = .ok (.ldc 146, 2) := dk_18 146 (dk_at dksX4_scale_0 13 rfl rfl)
theorem dX4_scale_15 : decode cX4_scale 15 = .ok (.aload_n 0, 1) := dk_42 (dk_at dksX4_scale_0 15 rfl rfl)
theorem dX4_scale_16 : decode cX4_scale 16 = .ok (.iload_n 1, 1) := dk_27 (dk_at dksX4_scale_0 16 rfl rfl)
theorem dX4_scale_17 : decode cX4_scale 17 = .ok (.iconst 4, 1) := dk_7 (dk_at dksX4_scale_0 17 rfl rfl)
theorem dX4_scale_18 : decode cX4_scale 18 = .ok (.invokevirtual 48, 3) := dk_182 0 48 (dk_at dksX4_scale_0 18 rfl rfl)
theorem dX4_scale_21 : decode cX4_scale 21 = .ok (.idiv, 1) := dk_108 (dk_at dksX4_scale_0 21 rfl rfl)
theorem dX4_scale_22 : decode cX4_scale 22 = .ok (.ireturn, 1) := dk_172 (dk_at dksX4_scale_0 22 rfl rfl)
abbrev cX4_levelOf : ByteArray := prog_17_method_87_code
def yX4_levelOf : MethodName := ⟨RX4, "levelOf", "(I)I"⟩
def dkwX4_levelOf_0 : List UInt8 := [42, 27, 182, 0, 180, 153, 0, 11, 42, 27, 182, 0, 208, 167, 0, 4, 3, 172]
abbrev dktX4_levelOf_0 : List UInt8 := dkwX4_levelOf_0 ++ []
theorem dksX4_levelOf_0 : cX4_levelOf.data.toList.drop 0 = dktX4_levelOf_0 := by decide +kernel
theorem dX4_levelOf_0 : decode cX4_levelOf 0 = .ok (.aload_n 0, 1) := dk_42 (dk_at dksX4_levelOf_0 0 rfl rfl)
theorem dX4_levelOf_1 : decode cX4_levelOf 1 = .ok (.iload_n 1, 1) := dk_27 (dk_at dksX4_levelOf_0 1 rfl rfl)
theorem dX4_levelOf_2 : decode cX4_levelOf 2 = .ok (.invokevirtual 180, 3) := dk_182 0 180 (dk_at dksX4_levelOf_0 2 rfl rfl)
theorem dX4_levelOf_5 : decode cX4_levelOf 5 = .ok (.ifCond .eq 11, 3) := dk_153 0 11 (dk_at dksX4_levelOf_0 5 rfl rfl)
theorem dX4_levelOf_8 : decode cX4_levelOf 8 = .ok (.aload_n 0, 1) := dk_42 (dk_at dksX4_levelOf_0 8 rfl rfl)
theorem dX4_levelOf_9 : decode cX4_levelOf 9 = .ok (.iload_n 1, 1) := dk_27 (dk_at dksX4_levelOf_0 9 rfl rfl)
theorem dX4_levelOf_10 : decode cX4_levelOf 10 = .ok (.invokevirtual 208, 3) := dk_182 0 208 (dk_at dksX4_levelOf_0 10 rfl rfl)
theorem dX4_levelOf_13 : decode cX4_levelOf 13 = .ok (.goto 4, 3) := dk_167 0 4 (dk_at dksX4_levelOf_0 13 rfl rfl)
theorem dX4_levelOf_16 : decode cX4_levelOf 16 = .ok (.iconst 0, 1) := dk_3 (dk_at dksX4_levelOf_0 16 rfl rfl)
theorem dX4_levelOf_17 : decode cX4_levelOf 17 = .ok (.ireturn, 1) := dk_172 (dk_at dksX4_levelOf_0 17 rfl rfl)
abbrev cX4_level : ByteArray := prog_17_method_86_code
def yX4_level : MethodName := ⟨RX4, "level", "(I)I"⟩
def dkwX4_level_0 : List UInt8 := [42, 182, 0, 131, 42, 180, 0, 22, 27, 46, 172]
abbrev dktX4_level_0 : List UInt8 := dkwX4_level_0 ++ []
theorem dksX4_level_0 : cX4_level.data.toList.drop 0 = dktX4_level_0 := by decide +kernel
theorem dX4_level_0 : decode cX4_level 0 = .ok (.aload_n 0, 1) := dk_42 (dk_at dksX4_level_0 0 rfl rfl)
theorem dX4_level_1 : decode cX4_level 1 = .ok (.invokevirtual 131, 3) := dk_182 0 131 (dk_at dksX4_level_0 1 rfl rfl)
theorem dX4_level_4 : decode cX4_level 4 = .ok (.aload_n 0, 1) := dk_42 (dk_at dksX4_level_0 4 rfl rfl)
theorem dX4_level_5 : decode cX4_level 5 = .ok (.getfield 22, 3) := dk_180 0 22 (dk_at dksX4_level_0 5 rfl rfl)
theorem dX4_level_8 : decode cX4_level 8 = .ok (.iload_n 1, 1) := dk_27 (dk_at dksX4_level_0 8 rfl rfl)
theorem dX4_level_9 : decode cX4_level 9 = .ok (.iaload, 1) := dk_46 (dk_at dksX4_level_0 9 rfl rfl)
theorem dX4_level_10 : decode cX4_level 10 = .ok (.ireturn, 1) := dk_172 (dk_at dksX4_level_0 10 rfl rfl)
abbrev cX4_feeders : ByteArray := prog_17_method_88_code
def yX4_feeders : MethodName := ⟨RX4, "feeders", "(I)I"⟩
def dkwX4_feeders_0 : List UInt8 := [42, 27, 182, 0, 180, 153, 0, 11, 42, 27, 182, 0, 102, 167, 0, 4, 3, 172]
abbrev dktX4_feeders_0 : List UInt8 := dkwX4_feeders_0 ++ []
theorem dksX4_feeders_0 : cX4_feeders.data.toList.drop 0 = dktX4_feeders_0 := by decide +kernel
theorem dX4_feeders_0 : decode cX4_feeders 0 = .ok (.aload_n 0, 1) := dk_42 (dk_at dksX4_feeders_0 0 rfl rfl)
theorem dX4_feeders_1 : decode cX4_feeders 1 = .ok (.iload_n 1, 1) := dk_27 (dk_at dksX4_feeders_0 1 rfl rfl)
theorem dX4_feeders_2 : decode cX4_feeders 2 = .ok (.invokevirtual 180, 3) := dk_182 0 180 (dk_at dksX4_feeders_0 2 rfl rfl)
theorem dX4_feeders_5 : decode cX4_feeders 5 = .ok (.ifCond .eq 11, 3) := dk_153 0 11 (dk_at dksX4_feeders_0 5 rfl rfl)
theorem dX4_feeders_8 : decode cX4_feeders 8 = .ok (.aload_n 0, 1) := dk_42 (dk_at dksX4_feeders_0 8 rfl rfl)
theorem dX4_feeders_9 : decode cX4_feeders 9 = .ok (.iload_n 1, 1) := dk_27 (dk_at dksX4_feeders_0 9 rfl rfl)
theorem dX4_feeders_10 : decode cX4_feeders 10 = .ok (.invokevirtual 102, 3) := dk_182 0 102 (dk_at dksX4_feeders_0 10 rfl rfl)
theorem dX4_feeders_13 : decode cX4_feeders 13 = .ok (.goto 4, 3) := dk_167 0 4 (dk_at dksX4_feeders_0 13 rfl rfl)
theorem dX4_feeders_16 : decode cX4_feeders 16 = .ok (.iconst 0, 1) := dk_3 (dk_at dksX4_feeders_0 16 rfl rfl)
theorem dX4_feeders_17 : decode cX4_feeders 17 = .ok (.ireturn, 1) := dk_172 (dk_at dksX4_feeders_0 17 rfl rfl)
abbrev cX4_dependsOn : ByteArray := prog_17_method_89_code
def yX4_dependsOn : MethodName := ⟨RX4, "dependsOn", "(I)I"⟩
def dkwX4_dependsOn_0 : List UInt8 := [42, 27, 182, 0, 180, 153, 0, 12, 42, 27, 4, 182, 0, 108, 167, 0, 4, 3, 172]
abbrev dktX4_dependsOn_0 : List UInt8 := dkwX4_dependsOn_0 ++ []
theorem dksX4_dependsOn_0 : cX4_dependsOn.data.toList.drop 0 = dktX4_dependsOn_0 := by decide +kernel
theorem dX4_dependsOn_0 : decode cX4_dependsOn 0 = .ok (.aload_n 0, 1) := dk_42 (dk_at dksX4_dependsOn_0 0 rfl rfl)
theorem dX4_dependsOn_1 : decode cX4_dependsOn 1 = .ok (.iload_n 1, 1) := dk_27 (dk_at dksX4_dependsOn_0 1 rfl rfl)
theorem dX4_dependsOn_2 : decode cX4_dependsOn 2 = .ok (.invokevirtual 180, 3) := dk_182 0 180 (dk_at dksX4_dependsOn_0 2 rfl rfl)
theorem dX4_dependsOn_5 : decode cX4_dependsOn 5 = .ok (.ifCond .eq 12, 3) := dk_153 0 12 (dk_at dksX4_dependsOn_0 5 rfl rfl)
theorem dX4_dependsOn_8 : decode cX4_dependsOn 8 = .ok (.aload_n 0, 1) := dk_42 (dk_at dksX4_dependsOn_0 8 rfl rfl)
theorem dX4_dependsOn_9 : decode cX4_dependsOn 9 = .ok (.iload_n 1, 1) := dk_27 (dk_at dksX4_dependsOn_0 9 rfl rfl)
theorem dX4_dependsOn_10 : decode cX4_dependsOn 10 = .ok (.iconst 1, 1) := dk_4 (dk_at dksX4_dependsOn_0 10 rfl rfl)
theorem dX4_dependsOn_11 : decode cX4_dependsOn 11 = .ok (.invokevirtual 108, 3) := dk_182 0 108 (dk_at dksX4_dependsOn_0 11 rfl rfl)
theorem dX4_dependsOn_14 : decode cX4_dependsOn 14 = .ok (.goto 4, 3) := dk_167 0 4 (dk_at dksX4_dependsOn_0 14 rfl rfl)
theorem dX4_dependsOn_17 : decode cX4_dependsOn 17 = .ok (.iconst 0, 1) := dk_3 (dk_at dksX4_dependsOn_0 17 rfl rfl)
theorem dX4_dependsOn_18 : decode cX4_dependsOn 18 = .ok (.ireturn, 1) := dk_172 (dk_at dksX4_dependsOn_0 18 rfl rfl)
abbrev cX4_dependsByTable : ByteArray := prog_17_method_90_code
def yX4_dependsByTable : MethodName := ⟨RX4, "dependsByTable", "(I)I"⟩
def dkwX4_dependsByTable_0 : List UInt8 := [42, 27, 182, 0, 180, 153, 0, 12, 42, 27, 4, 182, 0, 108, 167, 0, 4, 3, 172]
abbrev dktX4_dependsByTable_0 : List UInt8 := dkwX4_dependsByTable_0 ++ []
theorem dksX4_dependsByTable_0 : cX4_dependsByTable.data.toList.drop 0 = dktX4_dependsByTable_0 := by decide +kernel
theorem dX4_dependsByTable_0 : decode cX4_dependsByTable 0 = .ok (.aload_n 0, 1) := dk_42 (dk_at dksX4_dependsByTable_0 0 rfl rfl)
theorem dX4_dependsByTable_1 : decode cX4_dependsByTable 1 = .ok (.iload_n 1, 1) := dk_27 (dk_at dksX4_dependsByTable_0 1 rfl rfl)
theorem dX4_dependsByTable_2 : decode cX4_dependsByTable 2 = .ok (.invokevirtual 180, 3) := dk_182 0 180 (dk_at dksX4_dependsByTable_0 2 rfl rfl)
theorem dX4_dependsByTable_5 : decode cX4_dependsByTable 5 = .ok (.ifCond .eq 12, 3) := dk_153 0 12 (dk_at dksX4_dependsByTable_0 5 rfl rfl)
theorem dX4_dependsByTable_8 : decode cX4_dependsByTable 8 = .ok (.aload_n 0, 1) := dk_42 (dk_at dksX4_dependsByTable_0 8 rfl rfl)
theorem dX4_dependsByTable_9 : decode cX4_dependsByTable 9 = .ok (.iload_n 1, 1) := dk_27 (dk_at dksX4_dependsByTable_0 9 rfl rfl)
theorem dX4_dependsByTable_10 : decode cX4_dependsByTable 10 = .ok (.iconst 1, 1) := dk_4 (dk_at dksX4_dependsByTable_0 10 rfl rfl)
theorem dX4_dependsByTable_11 : decode cX4_dependsByTable 11 = .ok (.invokevirtual 108, 3) := dk_182 0 108 (dk_at dksX4_dependsByTable_0 11 rfl rfl)
theorem dX4_dependsByTable_14 : decode cX4_dependsByTable 14 = .ok (.goto 4, 3) := dk_167 0 4 (dk_at dksX4_dependsByTable_0 14 rfl rfl)
theorem dX4_dependsByTable_17 : decode cX4_dependsByTable 17 = .ok (.iconst 0, 1) := dk_3 (dk_at dksX4_dependsByTable_0 17 rfl rfl)
theorem dX4_dependsByTable_18 : decode cX4_dependsByTable 18 = .ok (.ireturn, 1) := dk_172 (dk_at dksX4_dependsByTable_0 18 rfl rfl)
abbrev cX4_inCircles : ByteArray := prog_17_method_92_code
def yX4_inCircles : MethodName := ⟨RX4, "inCircles", "()I"⟩
def dkwX4_inCircles_0 : List UInt8 := [42, 42, 182, 0, 211, 182, 0, 177, 172]
abbrev dktX4_inCircles_0 : List UInt8 := dkwX4_inCircles_0 ++ []
theorem dksX4_inCircles_0 : cX4_inCircles.data.toList.drop 0 = dktX4_inCircles_0 := by decide +kernel
theorem dX4_inCircles_0 : decode cX4_inCircles 0 = .ok (.aload_n 0, 1) := dk_42 (dk_at dksX4_inCircles_0 0 rfl rfl)
theorem dX4_inCircles_1 : decode cX4_inCircles 1 = .ok (.aload_n 0, 1) := dk_42 (dk_at dksX4_inCircles_0 1 rfl rfl)
theorem dX4_inCircles_2 : decode cX4_inCircles 2 = .ok (.invokevirtual 211, 3) := dk_182 0 211 (dk_at dksX4_inCircles_0 2 rfl rfl)
theorem dX4_inCircles_5 : decode cX4_inCircles 5 = .ok (.invokevirtual 177, 3) := dk_182 0 177 (dk_at dksX4_inCircles_0 5 rfl rfl)
theorem dX4_inCircles_8 : decode cX4_inCircles 8 = .ok (.ireturn, 1) := dk_172 (dk_at dksX4_inCircles_0 8 rfl rfl)
abbrev cX4_circling : ByteArray := prog_17_method_91_code
def yX4_circling : MethodName := ⟨RX4, "circling", "()I"⟩
def dkwX4_circling_1 : List UInt8 := [184, 0, 105, 153, 0, 9, 4, 28, 120, 167, 0, 4, 3, 128, 60, 132, 2, 1, 167, 255, 220, 27, 172]
abbrev dktX4_circling_1 : List UInt8 := dkwX4_circling_1 ++ []
def dkwX4_circling_0 : List UInt8 := [3, 60, 3, 61, 28, 42, 180, 0, 7, 3, 46, 162, 0, 32, 27, 42, 28, 4, 182, 0, 108, 28]
abbrev dktX4_circling_0 : List UInt8 := dkwX4_circling_0 ++ dktX4_circling_1
theorem dksX4_circling_0 : cX4_circling.data.toList.drop 0 = dktX4_circling_0 := by decide +kernel
theorem dksX4_circling_1 : cX4_circling.data.toList.drop 22 = dktX4_circling_1 := dk_seg dksX4_circling_0 22 rfl rfl
theorem dX4_circling_0 : decode cX4_circling 0 = .ok (.iconst 0, 1) := dk_3 (dk_at dksX4_circling_0 0 rfl rfl)
theorem dX4_circling_1 : decode cX4_circling 1 = .ok (.istore_n 1, 1) := dk_60 (dk_at dksX4_circling_0 1 rfl rfl)
theorem dX4_circling_2 : decode cX4_circling 2 = .ok (.iconst 0, 1) := dk_3 (dk_at dksX4_circling_0 2 rfl rfl)
theorem dX4_circling_3 : decode cX4_circling 3 = .ok (.istore_n 2, 1) := dk_61 (dk_at dksX4_circling_0 3 rfl rfl)
theorem dX4_circling_4 : decode cX4_circling 4 = .ok (.iload_n 2, 1) := dk_28 (dk_at dksX4_circling_0 4 rfl rfl)
theorem dX4_circling_5 : decode cX4_circling 5 = .ok (.aload_n 0, 1) := dk_42 (dk_at dksX4_circling_0 5 rfl rfl)
theorem dX4_circling_6 : decode cX4_circling 6 = .ok (.getfield 7, 3) := dk_180 0 7 (dk_at dksX4_circling_0 6 rfl rfl)
theorem dX4_circling_9 : decode cX4_circling 9 = .ok (.iconst 0, 1) := dk_3 (dk_at dksX4_circling_0 9 rfl rfl)
theorem dX4_circling_10 : decode cX4_circling 10 = .ok (.iaload, 1) := dk_46 (dk_at dksX4_circling_0 10 rfl rfl)
theorem dX4_circling_11 : decode cX4_circling 11 = .ok (.if_icmp .ge 32, 3) := dk_162 0 32 (dk_at dksX4_circling_0 11 rfl rfl)
theorem dX4_circling_14 : decode cX4_circling 14 = .ok (.iload_n 1, 1) := dk_27 (dk_at dksX4_circling_0 14 rfl rfl)
theorem dX4_circling_15 : decode cX4_circling 15 = .ok (.aload_n 0, 1) := dk_42 (dk_at dksX4_circling_0 15 rfl rfl)
theorem dX4_circling_16 : decode cX4_circling 16 = .ok (.iload_n 2, 1) := dk_28 (dk_at dksX4_circling_0 16 rfl rfl)
theorem dX4_circling_17 : decode cX4_circling 17 = .ok (.iconst 1, 1) := dk_4 (dk_at dksX4_circling_0 17 rfl rfl)
theorem dX4_circling_18 : decode cX4_circling 18 = .ok (.invokevirtual 108, 3) := dk_182 0 108 (dk_at dksX4_circling_0 18 rfl rfl)
theorem dX4_circling_21 : decode cX4_circling 21 = .ok (.iload_n 2, 1) := dk_28 (dk_at dksX4_circling_0 21 rfl rfl)
theorem dX4_circling_22 : decode cX4_circling 22 = .ok (.invokestatic 105, 3) := dk_184 0 105 (dk_at dksX4_circling_1 0 rfl rfl)
theorem dX4_circling_25 : decode cX4_circling 25 = .ok (.ifCond .eq 9, 3) := dk_153 0 9 (dk_at dksX4_circling_1 3 rfl rfl)
theorem dX4_circling_28 : decode cX4_circling 28 = .ok (.iconst 1, 1) := dk_4 (dk_at dksX4_circling_1 6 rfl rfl)
theorem dX4_circling_29 : decode cX4_circling 29 = .ok (.iload_n 2, 1) := dk_28 (dk_at dksX4_circling_1 7 rfl rfl)
theorem dX4_circling_30 : decode cX4_circling 30 = .ok (.ishl, 1) := dk_120 (dk_at dksX4_circling_1 8 rfl rfl)
theorem dX4_circling_31 : decode cX4_circling 31 = .ok (.goto 4, 3) := dk_167 0 4 (dk_at dksX4_circling_1 9 rfl rfl)
theorem dX4_circling_34 : decode cX4_circling 34 = .ok (.iconst 0, 1) := dk_3 (dk_at dksX4_circling_1 12 rfl rfl)
theorem dX4_circling_35 : decode cX4_circling 35 = .ok (.ior, 1) := dk_128 (dk_at dksX4_circling_1 13 rfl rfl)
theorem dX4_circling_36 : decode cX4_circling 36 = .ok (.istore_n 1, 1) := dk_60 (dk_at dksX4_circling_1 14 rfl rfl)
theorem dX4_circling_37 : decode cX4_circling 37 = .ok (.iinc 2 1, 3) := dk_132 2 1 (dk_at dksX4_circling_1 15 rfl rfl)
theorem dX4_circling_40 : decode cX4_circling 40 = .ok (.goto (-36), 3) := dk_167 255 220 (dk_at dksX4_circling_1 18 rfl rfl)
theorem dX4_circling_43 : decode cX4_circling 43 = .ok (.iload_n 1, 1) := dk_27 (dk_at dksX4_circling_1 21 rfl rfl)
theorem dX4_circling_44 : decode cX4_circling 44 = .ok (.ireturn, 1) := dk_172 (dk_at dksX4_circling_1 22 rfl rfl)
abbrev cX4_ends : ByteArray := prog_17_method_94_code
def yX4_ends : MethodName := ⟨RX4, "ends", "()I"⟩
def dkwX4_ends_0 : List UInt8 := [42, 42, 182, 0, 214, 182, 0, 177, 172]
abbrev dktX4_ends_0 : List UInt8 := dkwX4_ends_0 ++ []
theorem dksX4_ends_0 : cX4_ends.data.toList.drop 0 = dktX4_ends_0 := by decide +kernel
theorem dX4_ends_0 : decode cX4_ends 0 = .ok (.aload_n 0, 1) := dk_42 (dk_at dksX4_ends_0 0 rfl rfl)
theorem dX4_ends_1 : decode cX4_ends 1 = .ok (.aload_n 0, 1) := dk_42 (dk_at dksX4_ends_0 1 rfl rfl)
theorem dX4_ends_2 : decode cX4_ends 2 = .ok (.invokevirtual 214, 3) := dk_182 0 214 (dk_at dksX4_ends_0 2 rfl rfl)
theorem dX4_ends_5 : decode cX4_ends 5 = .ok (.invokevirtual 177, 3) := dk_182 0 177 (dk_at dksX4_ends_0 5 rfl rfl)
theorem dX4_ends_8 : decode cX4_ends 8 = .ok (.ireturn, 1) := dk_172 (dk_at dksX4_ends_0 8 rfl rfl)
abbrev cX4_endSet : ByteArray := prog_17_method_93_code
def yX4_endSet : MethodName := ⟨RX4, "endSet", "()I"⟩
def dkwX4_endSet_1 : List UInt8 := [42, 28, 182, 0, 102, 2, 130, 126, 60, 132, 2, 1, 167, 255, 233, 27, 172]
abbrev dktX4_endSet_1 : List UInt8 := dkwX4_endSet_1 ++ []
def dkwX4_endSet_0 : List UInt8 := [4, 42, 180, 0, 7, 3, 46, 120, 4, 100, 60, 3, 61, 28, 42, 180, 0, 7, 3, 46, 162, 0, 19, 27]
abbrev dktX4_endSet_0 : List UInt8 := dkwX4_endSet_0 ++ dktX4_endSet_1
theorem dksX4_endSet_0 : cX4_endSet.data.toList.drop 0 = dktX4_endSet_0 := by decide +kernel
theorem dksX4_endSet_1 : cX4_endSet.data.toList.drop 24 = dktX4_endSet_1 := dk_seg dksX4_endSet_0 24 rfl rfl
theorem dX4_endSet_0 : decode cX4_endSet 0 = .ok (.iconst 1, 1) := dk_4 (dk_at dksX4_endSet_0 0 rfl rfl)
theorem dX4_endSet_1 : decode cX4_endSet 1 = .ok (.aload_n 0, 1) := dk_42 (dk_at dksX4_endSet_0 1 rfl rfl)
theorem dX4_endSet_2 : decode cX4_endSet 2 = .ok (.getfield 7, 3) := dk_180 0 7 (dk_at dksX4_endSet_0 2 rfl rfl)
theorem dX4_endSet_5 : decode cX4_endSet 5 = .ok (.iconst 0, 1) := dk_3 (dk_at dksX4_endSet_0 5 rfl rfl)
theorem dX4_endSet_6 : decode cX4_endSet 6 = .ok (.iaload, 1) := dk_46 (dk_at dksX4_endSet_0 6 rfl rfl)
theorem dX4_endSet_7 : decode cX4_endSet 7 = .ok (.ishl, 1) := dk_120 (dk_at dksX4_endSet_0 7 rfl rfl)
theorem dX4_endSet_8 : decode cX4_endSet 8 = .ok (.iconst 1, 1) := dk_4 (dk_at dksX4_endSet_0 8 rfl rfl)
theorem dX4_endSet_9 : decode cX4_endSet 9 = .ok (.isub, 1) := dk_100 (dk_at dksX4_endSet_0 9 rfl rfl)
theorem dX4_endSet_10 : decode cX4_endSet 10 = .ok (.istore_n 1, 1) := dk_60 (dk_at dksX4_endSet_0 10 rfl rfl)
theorem dX4_endSet_11 : decode cX4_endSet 11 = .ok (.iconst 0, 1) := dk_3 (dk_at dksX4_endSet_0 11 rfl rfl)
theorem dX4_endSet_12 : decode cX4_endSet 12 = .ok (.istore_n 2, 1) := dk_61 (dk_at dksX4_endSet_0 12 rfl rfl)
theorem dX4_endSet_13 : decode cX4_endSet 13 = .ok (.iload_n 2, 1) := dk_28 (dk_at dksX4_endSet_0 13 rfl rfl)
theorem dX4_endSet_14 : decode cX4_endSet 14 = .ok (.aload_n 0, 1) := dk_42 (dk_at dksX4_endSet_0 14 rfl rfl)
theorem dX4_endSet_15 : decode cX4_endSet 15 = .ok (.getfield 7, 3) := dk_180 0 7 (dk_at dksX4_endSet_0 15 rfl rfl)
theorem dX4_endSet_18 : decode cX4_endSet 18 = .ok (.iconst 0, 1) := dk_3 (dk_at dksX4_endSet_0 18 rfl rfl)
theorem dX4_endSet_19 : decode cX4_endSet 19 = .ok (.iaload, 1) := dk_46 (dk_at dksX4_endSet_0 19 rfl rfl)
theorem dX4_endSet_20 : decode cX4_endSet 20 = .ok (.if_icmp .ge 19, 3) := dk_162 0 19 (dk_at dksX4_endSet_0 20 rfl rfl)
theorem dX4_endSet_23 : decode cX4_endSet 23 = .ok (.iload_n 1, 1) := dk_27 (dk_at dksX4_endSet_0 23 rfl rfl)
theorem dX4_endSet_24 : decode cX4_endSet 24 = .ok (.aload_n 0, 1) := dk_42 (dk_at dksX4_endSet_1 0 rfl rfl)
theorem dX4_endSet_25 : decode cX4_endSet 25 = .ok (.iload_n 2, 1) := dk_28 (dk_at dksX4_endSet_1 1 rfl rfl)
theorem dX4_endSet_26 : decode cX4_endSet 26 = .ok (.invokevirtual 102, 3) := dk_182 0 102 (dk_at dksX4_endSet_1 2 rfl rfl)
theorem dX4_endSet_29 : decode cX4_endSet 29 = .ok (.iconst (-1), 1) := dk_2 (dk_at dksX4_endSet_1 5 rfl rfl)
theorem dX4_endSet_30 : decode cX4_endSet 30 = .ok (.ixor, 1) := dk_130 (dk_at dksX4_endSet_1 6 rfl rfl)
theorem dX4_endSet_31 : decode cX4_endSet 31 = .ok (.iand, 1) := dk_126 (dk_at dksX4_endSet_1 7 rfl rfl)
theorem dX4_endSet_32 : decode cX4_endSet 32 = .ok (.istore_n 1, 1) := dk_60 (dk_at dksX4_endSet_1 8 rfl rfl)
theorem dX4_endSet_33 : decode cX4_endSet 33 = .ok (.iinc 2 1, 3) := dk_132 2 1 (dk_at dksX4_endSet_1 9 rfl rfl)
theorem dX4_endSet_36 : decode cX4_endSet 36 = .ok (.goto (-23), 3) := dk_167 255 233 (dk_at dksX4_endSet_1 12 rfl rfl)
theorem dX4_endSet_39 : decode cX4_endSet 39 = .ok (.iload_n 1, 1) := dk_27 (dk_at dksX4_endSet_1 15 rfl rfl)
theorem dX4_endSet_40 : decode cX4_endSet 40 = .ok (.ireturn, 1) := dk_172 (dk_at dksX4_endSet_1 16 rfl rfl)
abbrev cX4_recorded : ByteArray := prog_17_method_95_code
def yX4_recorded : MethodName := ⟨RX4, "recorded", "()I"⟩
def dkwX4_recorded_0 : List UInt8 := [42, 42, 180, 0, 7, 8, 46, 182, 0, 177, 172]
abbrev dktX4_recorded_0 : List UInt8 := dkwX4_recorded_0 ++ []
theorem dksX4_recorded_0 : cX4_recorded.data.toList.drop 0 = dktX4_recorded_0 := by decide +kernel
theorem dX4_recorded_0 : decode cX4_recorded 0 = .ok (.aload_n 0, 1) := dk_42 (dk_at dksX4_recorded_0 0 rfl rfl)
theorem dX4_recorded_1 : decode cX4_recorded 1 = .ok (.aload_n 0, 1) := dk_42 (dk_at dksX4_recorded_0 1 rfl rfl)
theorem dX4_recorded_2 : decode cX4_recorded 2 = .ok (.getfield 7, 3) := dk_180 0 7 (dk_at dksX4_recorded_0 2 rfl rfl)
theorem dX4_recorded_5 : decode cX4_recorded 5 = .ok (.iconst 5, 1) := dk_8 (dk_at dksX4_recorded_0 5 rfl rfl)
theorem dX4_recorded_6 : decode cX4_recorded 6 = .ok (.iaload, 1) := dk_46 (dk_at dksX4_recorded_0 6 rfl rfl)
theorem dX4_recorded_7 : decode cX4_recorded 7 = .ok (.invokevirtual 177, 3) := dk_182 0 177 (dk_at dksX4_recorded_0 7 rfl rfl)
theorem dX4_recorded_10 : decode cX4_recorded 10 = .ok (.ireturn, 1) := dk_172 (dk_at dksX4_recorded_0 10 rfl rfl)
abbrev cX4_records : ByteArray := prog_17_method_96_code
def yX4_records : MethodName := ⟨RX4, "records", "()I"⟩
def dkwX4_records_0 : List UInt8 := [42, 42, 180, 0, 7, 16, 6, 46, 182, 0, 177, 172]
abbrev dktX4_records_0 : List UInt8 := dkwX4_records_0 ++ []
theorem dksX4_records_0 : cX4_records.data.toList.drop 0 = dktX4_records_0 := by decide +kernel
theorem dX4_records_0 : decode cX4_records 0 = .ok (.aload_n 0, 1) := dk_42 (dk_at dksX4_records_0 0 rfl rfl)
theorem dX4_records_1 : decode cX4_records 1 = .ok (.aload_n 0, 1) := dk_42 (dk_at dksX4_records_0 1 rfl rfl)
theorem dX4_records_2 : decode cX4_records 2 = .ok (.getfield 7, 3) := dk_180 0 7 (dk_at dksX4_records_0 2 rfl rfl)
theorem dX4_records_5 : decode cX4_records 5 = .ok (.bipush 6, 2) := dk_16 6 (dk_at dksX4_records_0 5 rfl rfl)
theorem dX4_records_7 : decode cX4_records 7 = .ok (.iaload, 1) := dk_46 (dk_at dksX4_records_0 7 rfl rfl)
theorem dX4_records_8 : decode cX4_records 8 = .ok (.invokevirtual 177, 3) := dk_182 0 177 (dk_at dksX4_records_0 8 rfl rfl)
theorem dX4_records_11 : decode cX4_records 11 = .ok (.ireturn, 1) := dk_172 (dk_at dksX4_records_0 11 rfl rfl)
abbrev cX4_recordAt : ByteArray := prog_17_method_97_code
def yX4_recordAt : MethodName := ⟨RX4, "recordAt", "(I)I"⟩
def dkwX4_recordAt_2 : List UInt8 := [16, 6, 46, 96, 4, 100, 27, 100, 46, 172]
abbrev dktX4_recordAt_2 : List UInt8 := dkwX4_recordAt_2 ++ []
def dkwX4_recordAt_1 : List UInt8 := [181, 0, 37, 42, 180, 0, 37, 158, 0, 7, 3, 167, 0, 22, 42, 180, 0, 7, 16, 10, 42, 180, 0, 7]
abbrev dktX4_recordAt_1 : List UInt8 := dkwX4_recordAt_1 ++ dktX4_recordAt_2
def dkwX4_recordAt_0 : List UInt8 := [42, 27, 3, 42, 180, 0, 7, 16, 6, 46, 4, 100, 184, 0, 44, 153, 0, 7, 3, 167, 0, 4, 4]
abbrev dktX4_recordAt_0 : List UInt8 := dkwX4_recordAt_0 ++ dktX4_recordAt_1
theorem dksX4_recordAt_0 : cX4_recordAt.data.toList.drop 0 = dktX4_recordAt_0 := by decide +kernel
theorem dksX4_recordAt_1 : cX4_recordAt.data.toList.drop 23 = dktX4_recordAt_1 := dk_seg dksX4_recordAt_0 23 rfl rfl
theorem dksX4_recordAt_2 : cX4_recordAt.data.toList.drop 47 = dktX4_recordAt_2 := dk_seg dksX4_recordAt_1 24 rfl rfl
theorem dX4_recordAt_0 : decode cX4_recordAt 0 = .ok (.aload_n 0, 1) := dk_42 (dk_at dksX4_recordAt_0 0 rfl rfl)
theorem dX4_recordAt_1 : decode cX4_recordAt 1 = .ok (.iload_n 1, 1) := dk_27 (dk_at dksX4_recordAt_0 1 rfl rfl)
theorem dX4_recordAt_2 : decode cX4_recordAt 2 = .ok (.iconst 0, 1) := dk_3 (dk_at dksX4_recordAt_0 2 rfl rfl)
theorem dX4_recordAt_3 : decode cX4_recordAt 3 = .ok (.aload_n 0, 1) := dk_42 (dk_at dksX4_recordAt_0 3 rfl rfl)
theorem dX4_recordAt_4 : decode cX4_recordAt 4 = .ok (.getfield 7, 3) := dk_180 0 7 (dk_at dksX4_recordAt_0 4 rfl rfl)
theorem dX4_recordAt_7 : decode cX4_recordAt 7 = .ok (.bipush 6, 2) := dk_16 6 (dk_at dksX4_recordAt_0 7 rfl rfl)
theorem dX4_recordAt_9 : decode cX4_recordAt 9 = .ok (.iaload, 1) := dk_46 (dk_at dksX4_recordAt_0 9 rfl rfl)
theorem dX4_recordAt_10 : decode cX4_recordAt 10 = .ok (.iconst 1, 1) := dk_4 (dk_at dksX4_recordAt_0 10 rfl rfl)
theorem dX4_recordAt_11 : decode cX4_recordAt 11 = .ok (.isub, 1) := dk_100 (dk_at dksX4_recordAt_0 11 rfl rfl)
theorem dX4_recordAt_12 : decode cX4_recordAt 12 = .ok (.invokestatic 44, 3) := dk_184 0 44 (dk_at dksX4_recordAt_0 12 rfl rfl)
theorem dX4_recordAt_15 : decode cX4_recordAt 15 = .ok (.ifCond .eq 7, 3) := dk_153 0 7 (dk_at dksX4_recordAt_0 15 rfl rfl)
theorem dX4_recordAt_18 : decode cX4_recordAt 18 = .ok (.iconst 0, 1) := dk_3 (dk_at dksX4_recordAt_0 18 rfl rfl)
theorem dX4_recordAt_19 : decode cX4_recordAt 19 = .ok (.goto 4, 3) := dk_167 0 4 (dk_at dksX4_recordAt_0 19 rfl rfl)
theorem dX4_recordAt_22 : decode cX4_recordAt 22 = .ok (.iconst 1, 1) := dk_4 (dk_at dksX4_recordAt_0 22 rfl rfl)
theorem dX4_recordAt_23 : decode cX4_recordAt 23 = .ok (.putfield 37, 3) := dk_181 0 37 (dk_at dksX4_recordAt_1 0 rfl rfl)
theorem dX4_recordAt_26 : decode cX4_recordAt 26 = .ok (.aload_n 0, 1) := dk_42 (dk_at dksX4_recordAt_1 3 rfl rfl)
theorem dX4_recordAt_27 : decode cX4_recordAt 27 = .ok (.getfield 37, 3) := dk_180 0 37 (dk_at dksX4_recordAt_1 4 rfl rfl)
theorem dX4_recordAt_30 : decode cX4_recordAt 30 = .ok (.ifCond .le 7, 3) := dk_158 0 7 (dk_at dksX4_recordAt_1 7 rfl rfl)
theorem dX4_recordAt_33 : decode cX4_recordAt 33 = .ok (.iconst 0, 1) := dk_3 (dk_at dksX4_recordAt_1 10 rfl rfl)
theorem dX4_recordAt_34 : decode cX4_recordAt 34 = .ok (.goto 22, 3) := dk_167 0 22 (dk_at dksX4_recordAt_1 11 rfl rfl)
theorem dX4_recordAt_37 : decode cX4_recordAt 37 = .ok (.aload_n 0, 1) := dk_42 (dk_at dksX4_recordAt_1 14 rfl rfl)
theorem dX4_recordAt_38 : decode cX4_recordAt 38 = .ok (.getfield 7, 3) := dk_180 0 7 (dk_at dksX4_recordAt_1 15 rfl rfl)
theorem dX4_recordAt_41 : decode cX4_recordAt 41 = .ok (.bipush 10, 2) := dk_16 10 (dk_at dksX4_recordAt_1 18 rfl rfl)
theorem dX4_recordAt_43 : decode cX4_recordAt 43 = .ok (.aload_n 0, 1) := dk_42 (dk_at dksX4_recordAt_1 20 rfl rfl)
theorem dX4_recordAt_44 : decode cX4_recordAt 44 = .ok (.getfield 7, 3) := dk_180 0 7 (dk_at dksX4_recordAt_1 21 rfl rfl)
theorem dX4_recordAt_47 : decode cX4_recordAt 47 = .ok (.bipush 6, 2) := dk_16 6 (dk_at dksX4_recordAt_2 0 rfl rfl)
theorem dX4_recordAt_49 : decode cX4_recordAt 49 = .ok (.iaload, 1) := dk_46 (dk_at dksX4_recordAt_2 2 rfl rfl)
theorem dX4_recordAt_50 : decode cX4_recordAt 50 = .ok (.iadd, 1) := dk_96 (dk_at dksX4_recordAt_2 3 rfl rfl)
theorem dX4_recordAt_51 : decode cX4_recordAt 51 = .ok (.iconst 1, 1) := dk_4 (dk_at dksX4_recordAt_2 4 rfl rfl)
theorem dX4_recordAt_52 : decode cX4_recordAt 52 = .ok (.isub, 1) := dk_100 (dk_at dksX4_recordAt_2 5 rfl rfl)
theorem dX4_recordAt_53 : decode cX4_recordAt 53 = .ok (.iload_n 1, 1) := dk_27 (dk_at dksX4_recordAt_2 6 rfl rfl)
theorem dX4_recordAt_54 : decode cX4_recordAt 54 = .ok (.isub, 1) := dk_100 (dk_at dksX4_recordAt_2 7 rfl rfl)
theorem dX4_recordAt_55 : decode cX4_recordAt 55 = .ok (.iaload, 1) := dk_46 (dk_at dksX4_recordAt_2 8 rfl rfl)
theorem dX4_recordAt_56 : decode cX4_recordAt 56 = .ok (.ireturn, 1) := dk_172 (dk_at dksX4_recordAt_2 9 rfl rfl)
abbrev cX4_crossings : ByteArray := prog_17_method_98_code
def yX4_crossings : MethodName := ⟨RX4, "crossings", "()I"⟩
def dkwX4_crossings_0 : List UInt8 := [42, 42, 180, 0, 7, 16, 7, 46, 182, 0, 177, 172]
abbrev dktX4_crossings_0 : List UInt8 := dkwX4_crossings_0 ++ []
theorem dksX4_crossings_0 : cX4_crossings.data.toList.drop 0 = dktX4_crossings_0 := by decide +kernel
theorem dX4_crossings_0 : decode cX4_crossings 0 = .ok (.aload_n 0, 1) := dk_42 (dk_at dksX4_crossings_0 0 rfl rfl)
theorem dX4_crossings_1 : decode cX4_crossings 1 = .ok (.aload_n 0, 1) := dk_42 (dk_at dksX4_crossings_0 1 rfl rfl)
theorem dX4_crossings_2 : decode cX4_crossings 2 = .ok (.getfield 7, 3) := dk_180 0 7 (dk_at dksX4_crossings_0 2 rfl rfl)
theorem dX4_crossings_5 : decode cX4_crossings 5 = .ok (.bipush 7, 2) := dk_16 7 (dk_at dksX4_crossings_0 5 rfl rfl)
theorem dX4_crossings_7 : decode cX4_crossings 7 = .ok (.iaload, 1) := dk_46 (dk_at dksX4_crossings_0 7 rfl rfl)
theorem dX4_crossings_8 : decode cX4_crossings 8 = .ok (.invokevirtual 177, 3) := dk_182 0 177 (dk_at dksX4_crossings_0 8 rfl rfl)
theorem dX4_crossings_11 : decode cX4_crossings 11 = .ok (.ireturn, 1) := dk_172 (dk_at dksX4_crossings_0 11 rfl rfl)
abbrev cX4_beat : ByteArray := prog_17_method_99_code
def yX4_beat : MethodName := ⟨RX4, "beat", "()I"⟩
def dkwX4_beat_0 : List UInt8 := [42, 42, 180, 0, 7, 16, 9, 46, 182, 0, 177, 172]
abbrev dktX4_beat_0 : List UInt8 := dkwX4_beat_0 ++ []
theorem dksX4_beat_0 : cX4_beat.data.toList.drop 0 = dktX4_beat_0 := by decide +kernel
theorem dX4_beat_0 : decode cX4_beat 0 = .ok (.aload_n 0, 1) := dk_42 (dk_at dksX4_beat_0 0 rfl rfl)
theorem dX4_beat_1 : decode cX4_beat 1 = .ok (.aload_n 0, 1) := dk_42 (dk_at dksX4_beat_0 1 rfl rfl)
theorem dX4_beat_2 : decode cX4_beat 2 = .ok (.getfield 7, 3) := dk_180 0 7 (dk_at dksX4_beat_0 2 rfl rfl)
theorem dX4_beat_5 : decode cX4_beat 5 = .ok (.bipush 9, 2) := dk_16 9 (dk_at dksX4_beat_0 5 rfl rfl)
theorem dX4_beat_7 : decode cX4_beat 7 = .ok (.iaload, 1) := dk_46 (dk_at dksX4_beat_0 7 rfl rfl)
theorem dX4_beat_8 : decode cX4_beat 8 = .ok (.invokevirtual 177, 3) := dk_182 0 177 (dk_at dksX4_beat_0 8 rfl rfl)
theorem dX4_beat_11 : decode cX4_beat 11 = .ok (.ireturn, 1) := dk_172 (dk_at dksX4_beat_0 11 rfl rfl)
abbrev cX4_meanRecord : ByteArray := prog_17_method_101_code
def yX4_meanRecord : MethodName := ⟨RX4, "meanRecord", "()D"⟩
def dkwX4_meanRecord_0 : List UInt8 := [42, 3, 181, 0, 37, 42, 182, 0, 217, 175]
abbrev dktX4_meanRecord_0 : List UInt8 := dkwX4_meanRecord_0 ++ []
theorem dksX4_meanRecord_0 : cX4_meanRecord.data.toList.drop 0 = dktX4_meanRecord_0 := by decide +kernel
theorem dX4_meanRecord_0 : decode cX4_meanRecord 0 = .ok (.aload_n 0, 1) := dk_42 (dk_at dksX4_meanRecord_0 0 rfl rfl)
theorem dX4_meanRecord_1 : decode cX4_meanRecord 1 = .ok (.iconst 0, 1) := dk_3 (dk_at dksX4_meanRecord_0 1 rfl rfl)
theorem dX4_meanRecord_2 : decode cX4_meanRecord 2 = .ok (.putfield 37, 3) := dk_181 0 37 (dk_at dksX4_meanRecord_0 2 rfl rfl)
theorem dX4_meanRecord_5 : decode cX4_meanRecord 5 = .ok (.aload_n 0, 1) := dk_42 (dk_at dksX4_meanRecord_0 5 rfl rfl)
theorem dX4_meanRecord_6 : decode cX4_meanRecord 6 = .ok (.invokevirtual 217, 3) := dk_182 0 217 (dk_at dksX4_meanRecord_0 6 rfl rfl)
theorem dX4_meanRecord_9 : decode cX4_meanRecord 9 = .ok (.dreturn, 1) := dk_175 (dk_at dksX4_meanRecord_0 9 rfl rfl)
abbrev cX4_mean : ByteArray := prog_17_method_100_code
def yX4_mean : MethodName := ⟨RX4, "mean", "()D"⟩
def dkwX4_mean_2 : List UInt8 := [135, 42, 180, 0, 7, 16, 6, 46, 135, 111, 175]
abbrev dktX4_mean_2 : List UInt8 := dkwX4_mean_2 ++ []
def dkwX4_mean_1 : List UInt8 := [46, 96, 60, 132, 2, 1, 167, 255, 230, 42, 180, 0, 7, 16, 6, 46, 154, 0, 7, 14, 167, 0, 14, 27]
abbrev dktX4_mean_1 : List UInt8 := dkwX4_mean_1 ++ dktX4_mean_2
def dkwX4_mean_0 : List UInt8 := [3, 60, 3, 61, 28, 42, 180, 0, 7, 16, 6, 46, 162, 0, 21, 27, 42, 180, 0, 7, 16, 10, 28, 96]
abbrev dktX4_mean_0 : List UInt8 := dkwX4_mean_0 ++ dktX4_mean_1
theorem dksX4_mean_0 : cX4_mean.data.toList.drop 0 = dktX4_mean_0 := by decide +kernel
theorem dksX4_mean_1 : cX4_mean.data.toList.drop 24 = dktX4_mean_1 := dk_seg dksX4_mean_0 24 rfl rfl
theorem dksX4_mean_2 : cX4_mean.data.toList.drop 48 = dktX4_mean_2 := dk_seg dksX4_mean_1 24 rfl rfl
theorem dX4_mean_0 : decode cX4_mean 0 = .ok (.iconst 0, 1) := dk_3 (dk_at dksX4_mean_0 0 rfl rfl)
theorem dX4_mean_1 : decode cX4_mean 1 = .ok (.istore_n 1, 1) := dk_60 (dk_at dksX4_mean_0 1 rfl rfl)
theorem dX4_mean_2 : decode cX4_mean 2 = .ok (.iconst 0, 1) := dk_3 (dk_at dksX4_mean_0 2 rfl rfl)
theorem dX4_mean_3 : decode cX4_mean 3 = .ok (.istore_n 2, 1) := dk_61 (dk_at dksX4_mean_0 3 rfl rfl)
theorem dX4_mean_4 : decode cX4_mean 4 = .ok (.iload_n 2, 1) := dk_28 (dk_at dksX4_mean_0 4 rfl rfl)
theorem dX4_mean_5 : decode cX4_mean 5 = .ok (.aload_n 0, 1) := dk_42 (dk_at dksX4_mean_0 5 rfl rfl)
theorem dX4_mean_6 : decode cX4_mean 6 = .ok (.getfield 7, 3) := dk_180 0 7 (dk_at dksX4_mean_0 6 rfl rfl)
theorem dX4_mean_9 : decode cX4_mean 9 = .ok (.bipush 6, 2) := dk_16 6 (dk_at dksX4_mean_0 9 rfl rfl)
theorem dX4_mean_11 : decode cX4_mean 11 = .ok (.iaload, 1) := dk_46 (dk_at dksX4_mean_0 11 rfl rfl)
theorem dX4_mean_12 : decode cX4_mean 12 = .ok (.if_icmp .ge 21, 3) := dk_162 0 21 (dk_at dksX4_mean_0 12 rfl rfl)
theorem dX4_mean_15 : decode cX4_mean 15 = .ok (.iload_n 1, 1) := dk_27 (dk_at dksX4_mean_0 15 rfl rfl)
theorem dX4_mean_16 : decode cX4_mean 16 = .ok (.aload_n 0, 1) := dk_42 (dk_at dksX4_mean_0 16 rfl rfl)
theorem dX4_mean_17 : decode cX4_mean 17 = .ok (.getfield 7, 3) := dk_180 0 7 (dk_at dksX4_mean_0 17 rfl rfl)
theorem dX4_mean_20 : decode cX4_mean 20 = .ok (.bipush 10, 2) := dk_16 10 (dk_at dksX4_mean_0 20 rfl rfl)
theorem dX4_mean_22 : decode cX4_mean 22 = .ok (.iload_n 2, 1) := dk_28 (dk_at dksX4_mean_0 22 rfl rfl)
theorem dX4_mean_23 : decode cX4_mean 23 = .ok (.iadd, 1) := dk_96 (dk_at dksX4_mean_0 23 rfl rfl)
theorem dX4_mean_24 : decode cX4_mean 24 = .ok (.iaload, 1) := dk_46 (dk_at dksX4_mean_1 0 rfl rfl)
theorem dX4_mean_25 : decode cX4_mean 25 = .ok (.iadd, 1) := dk_96 (dk_at dksX4_mean_1 1 rfl rfl)
theorem dX4_mean_26 : decode cX4_mean 26 = .ok (.istore_n 1, 1) := dk_60 (dk_at dksX4_mean_1 2 rfl rfl)
theorem dX4_mean_27 : decode cX4_mean 27 = .ok (.iinc 2 1, 3) := dk_132 2 1 (dk_at dksX4_mean_1 3 rfl rfl)
theorem dX4_mean_30 : decode cX4_mean 30 = .ok (.goto (-26), 3) := dk_167 255 230 (dk_at dksX4_mean_1 6 rfl rfl)
theorem dX4_mean_33 : decode cX4_mean 33 = .ok (.aload_n 0, 1) := dk_42 (dk_at dksX4_mean_1 9 rfl rfl)
theorem dX4_mean_34 : decode cX4_mean 34 = .ok (.getfield 7, 3) := dk_180 0 7 (dk_at dksX4_mean_1 10 rfl rfl)
theorem dX4_mean_37 : decode cX4_mean 37 = .ok (.bipush 6, 2) := dk_16 6 (dk_at dksX4_mean_1 13 rfl rfl)
theorem dX4_mean_39 : decode cX4_mean 39 = .ok (.iaload, 1) := dk_46 (dk_at dksX4_mean_1 15 rfl rfl)
theorem dX4_mean_40 : decode cX4_mean 40 = .ok (.ifCond .ne 7, 3) := dk_154 0 7 (dk_at dksX4_mean_1 16 rfl rfl)
theorem dX4_mean_43 : decode cX4_mean 43 = .ok (.dconst 0, 1) := dk_14 (dk_at dksX4_mean_1 19 rfl rfl)
theorem dX4_mean_44 : decode cX4_mean 44 = .ok (.goto 14, 3) := dk_167 0 14 (dk_at dksX4_mean_1 20 rfl rfl)
theorem dX4_mean_47 : decode cX4_mean 47 = .ok (.iload_n 1, 1) := dk_27 (dk_at dksX4_mean_1 23 rfl rfl)
theorem dX4_mean_48 : decode cX4_mean 48 = .ok (.i2d, 1) := dk_135 (dk_at dksX4_mean_2 0 rfl rfl)
theorem dX4_mean_49 : decode cX4_mean 49 = .ok (.aload_n 0, 1) := dk_42 (dk_at dksX4_mean_2 1 rfl rfl)
theorem dX4_mean_50 : decode cX4_mean 50 = .ok (.getfield 7, 3) := dk_180 0 7 (dk_at dksX4_mean_2 2 rfl rfl)
theorem dX4_mean_53 : decode cX4_mean 53 = .ok (.bipush 6, 2) := dk_16 6 (dk_at dksX4_mean_2 5 rfl rfl)
theorem dX4_mean_55 : decode cX4_mean 55 = .ok (.iaload, 1) := dk_46 (dk_at dksX4_mean_2 7 rfl rfl)
theorem dX4_mean_56 : decode cX4_mean 56 = .ok (.i2d, 1) := dk_135 (dk_at dksX4_mean_2 8 rfl rfl)
theorem dX4_mean_57 : decode cX4_mean 57 = .ok (.ddiv, 1) := dk_111 (dk_at dksX4_mean_2 9 rfl rfl)
theorem dX4_mean_58 : decode cX4_mean 58 = .ok (.dreturn, 1) := dk_175 (dk_at dksX4_mean_2 10 rfl rfl)
abbrev cX4_wouldCircle : ByteArray := prog_17_method_102_code
def yX4_wouldCircle : MethodName := ⟨RX4, "wouldCircle", "(II)Z"⟩
def dkwX4_wouldCircle_2 : List UInt8 := [172]
abbrev dktX4_wouldCircle_2 : List UInt8 := dkwX4_wouldCircle_2 ++ []
def dkwX4_wouldCircle_1 : List UInt8 := [181, 0, 37, 42, 180, 0, 37, 154, 0, 16, 42, 27, 28, 182, 0, 112, 153, 0, 7, 4, 167, 0, 4, 3]
abbrev dktX4_wouldCircle_1 : List UInt8 := dkwX4_wouldCircle_1 ++ dktX4_wouldCircle_2
def dkwX4_wouldCircle_0 : List UInt8 := [42, 42, 27, 182, 0, 52, 153, 0, 15, 42, 28, 182, 0, 52, 153, 0, 7, 3, 167, 0, 4, 4]
abbrev dktX4_wouldCircle_0 : List UInt8 := dkwX4_wouldCircle_0 ++ dktX4_wouldCircle_1
theorem dksX4_wouldCircle_0 : cX4_wouldCircle.data.toList.drop 0 = dktX4_wouldCircle_0 := by decide +kernel
theorem dksX4_wouldCircle_1 : cX4_wouldCircle.data.toList.drop 22 = dktX4_wouldCircle_1 := dk_seg dksX4_wouldCircle_0 22 rfl rfl
theorem dksX4_wouldCircle_2 : cX4_wouldCircle.data.toList.drop 46 = dktX4_wouldCircle_2 := dk_seg dksX4_wouldCircle_1 24 rfl rfl
theorem dX4_wouldCircle_0 : decode cX4_wouldCircle 0 = .ok (.aload_n 0, 1) := dk_42 (dk_at dksX4_wouldCircle_0 0 rfl rfl)
theorem dX4_wouldCircle_1 : decode cX4_wouldCircle 1 = .ok (.aload_n 0, 1) := dk_42 (dk_at dksX4_wouldCircle_0 1 rfl rfl)
theorem dX4_wouldCircle_2 : decode cX4_wouldCircle 2 = .ok (.iload_n 1, 1) := dk_27 (dk_at dksX4_wouldCircle_0 2 rfl rfl)
theorem dX4_wouldCircle_3 : decode cX4_wouldCircle 3 = .ok (.invokevirtual 52, 3) := dk_182 0 52 (dk_at dksX4_wouldCircle_0 3 rfl rfl)
theorem dX4_wouldCircle_6 : decode cX4_wouldCircle 6 = .ok (.ifCond .eq 15, 3) := dk_153 0 15 (dk_at dksX4_wouldCircle_0 6 rfl rfl)
theorem dX4_wouldCircle_9 : decode cX4_wouldCircle 9 = .ok (.aload_n 0, 1) := dk_42 (dk_at dksX4_wouldCircle_0 9 rfl rfl)
theorem dX4_wouldCircle_10 : decode cX4_wouldCircle 10 = .ok (.iload_n 2, 1) := dk_28 (dk_at dksX4_wouldCircle_0 10 rfl rfl)
theorem dX4_wouldCircle_11 : decode cX4_wouldCircle 11 = .ok (.invokevirtual 52, 3) := dk_182 0 52 (dk_at dksX4_wouldCircle_0 11 rfl rfl)
theorem dX4_wouldCircle_14 : decode cX4_wouldCircle 14 = .ok (.ifCond .eq 7, 3) := dk_153 0 7 (dk_at dksX4_wouldCircle_0 14 rfl rfl)
theorem dX4_wouldCircle_17 : decode cX4_wouldCircle 17 = .ok (.iconst 0, 1) := dk_3 (dk_at dksX4_wouldCircle_0 17 rfl rfl)
theorem dX4_wouldCircle_18 : decode cX4_wouldCircle 18 = .ok (.goto 4, 3) := dk_167 0 4 (dk_at dksX4_wouldCircle_0 18 rfl rfl)
theorem dX4_wouldCircle_21 : decode cX4_wouldCircle 21 = .ok (.iconst 1, 1) := dk_4 (dk_at dksX4_wouldCircle_0 21 rfl rfl)
theorem dX4_wouldCircle_22 : decode cX4_wouldCircle 22 = .ok (.putfield 37, 3) := dk_181 0 37 (dk_at dksX4_wouldCircle_1 0 rfl rfl)
theorem dX4_wouldCircle_25 : decode cX4_wouldCircle 25 = .ok (.aload_n 0, 1) := dk_42 (dk_at dksX4_wouldCircle_1 3 rfl rfl)
theorem dX4_wouldCircle_26 : decode cX4_wouldCircle 26 = .ok (.getfield 37, 3) := dk_180 0 37 (dk_at dksX4_wouldCircle_1 4 rfl rfl)
theorem dX4_wouldCircle_29 : decode cX4_wouldCircle 29 = .ok (.ifCond .ne 16, 3) := dk_154 0 16 (dk_at dksX4_wouldCircle_1 7 rfl rfl)
theorem dX4_wouldCircle_32 : decode cX4_wouldCircle 32 = .ok (.aload_n 0, 1) := dk_42 (dk_at dksX4_wouldCircle_1 10 rfl rfl)
theorem dX4_wouldCircle_33 : decode cX4_wouldCircle 33 = .ok (.iload_n 1, 1) := dk_27 (dk_at dksX4_wouldCircle_1 11 rfl rfl)
theorem dX4_wouldCircle_34 : decode cX4_wouldCircle 34 = .ok (.iload_n 2, 1) := dk_28 (dk_at dksX4_wouldCircle_1 12 rfl rfl)
theorem dX4_wouldCircle_35 : decode cX4_wouldCircle 35 = .ok (.invokevirtual 112, 3) := dk_182 0 112 (dk_at dksX4_wouldCircle_1 13 rfl rfl)
theorem dX4_wouldCircle_38 : decode cX4_wouldCircle 38 = .ok (.ifCond .eq 7, 3) := dk_153 0 7 (dk_at dksX4_wouldCircle_1 16 rfl rfl)
theorem dX4_wouldCircle_41 : decode cX4_wouldCircle 41 = .ok (.iconst 1, 1) := dk_4 (dk_at dksX4_wouldCircle_1 19 rfl rfl)
theorem dX4_wouldCircle_42 : decode cX4_wouldCircle 42 = .ok (.goto 4, 3) := dk_167 0 4 (dk_at dksX4_wouldCircle_1 20 rfl rfl)
theorem dX4_wouldCircle_45 : decode cX4_wouldCircle 45 = .ok (.iconst 0, 1) := dk_3 (dk_at dksX4_wouldCircle_1 23 rfl rfl)
theorem dX4_wouldCircle_46 : decode cX4_wouldCircle 46 = .ok (.ireturn, 1) := dk_172 (dk_at dksX4_wouldCircle_2 0 rfl rfl)
abbrev cX4_outputIn : ByteArray := prog_17_method_104_code
def yX4_outputIn : MethodName := ⟨RX4, "outputIn", "(II)I"⟩
def dkwX4_outputIn_2 : List UInt8 := [182, 0, 227, 172]
abbrev dktX4_outputIn_2 : List UInt8 := dkwX4_outputIn_2 ++ []
def dkwX4_outputIn_1 : List UInt8 := [3, 167, 0, 4, 5, 181, 0, 37, 42, 180, 0, 37, 158, 0, 7, 3, 167, 0, 9, 42, 27, 28]
abbrev dktX4_outputIn_1 : List UInt8 := dkwX4_outputIn_1 ++ dktX4_outputIn_2
def dkwX4_outputIn_0 : List UInt8 := [42, 42, 27, 182, 0, 52, 154, 0, 7, 4, 167, 0, 19, 28, 4, 17, 0, 200, 184, 0, 44, 153, 0, 7]
abbrev dktX4_outputIn_0 : List UInt8 := dkwX4_outputIn_0 ++ dktX4_outputIn_1
theorem dksX4_outputIn_0 : cX4_outputIn.data.toList.drop 0 = dktX4_outputIn_0 := by decide +kernel
theorem dksX4_outputIn_1 : cX4_outputIn.data.toList.drop 24 = dktX4_outputIn_1 := dk_seg dksX4_outputIn_0 24 rfl rfl
theorem dksX4_outputIn_2 : cX4_outputIn.data.toList.drop 46 = dktX4_outputIn_2 := dk_seg dksX4_outputIn_1 22 rfl rfl
theorem dX4_outputIn_0 : decode cX4_outputIn 0 = .ok (.aload_n 0, 1) := dk_42 (dk_at dksX4_outputIn_0 0 rfl rfl)
theorem dX4_outputIn_1 : decode cX4_outputIn 1 = .ok (.aload_n 0, 1) := dk_42 (dk_at dksX4_outputIn_0 1 rfl rfl)
theorem dX4_outputIn_2 : decode cX4_outputIn 2 = .ok (.iload_n 1, 1) := dk_27 (dk_at dksX4_outputIn_0 2 rfl rfl)
theorem dX4_outputIn_3 : decode cX4_outputIn 3 = .ok (.invokevirtual 52, 3) := dk_182 0 52 (dk_at dksX4_outputIn_0 3 rfl rfl)
theorem dX4_outputIn_6 : decode cX4_outputIn 6 = .ok (.ifCond .ne 7, 3) := dk_154 0 7 (dk_at dksX4_outputIn_0 6 rfl rfl)
theorem dX4_outputIn_9 : decode cX4_outputIn 9 = .ok (.iconst 1, 1) := dk_4 (dk_at dksX4_outputIn_0 9 rfl rfl)
theorem dX4_outputIn_10 : decode cX4_outputIn 10 = .ok (.goto 19, 3) := dk_167 0 19 (dk_at dksX4_outputIn_0 10 rfl rfl)
theorem dX4_outputIn_13 : decode cX4_outputIn 13 = .ok (.iload_n 2, 1) := dk_28 (dk_at dksX4_outputIn_0 13 rfl rfl)
theorem dX4_outputIn_14 : decode cX4_outputIn 14 = .ok (.iconst 1, 1) := dk_4 (dk_at dksX4_outputIn_0 14 rfl rfl)
theorem dX4_outputIn_15 : decode cX4_outputIn 15 = .ok (.sipush 200, 3) := dk_17 0 200 (dk_at dksX4_outputIn_0 15 rfl rfl)
theorem dX4_outputIn_18 : decode cX4_outputIn 18 = .ok (.invokestatic 44, 3) := dk_184 0 44 (dk_at dksX4_outputIn_0 18 rfl rfl)
theorem dX4_outputIn_21 : decode cX4_outputIn 21 = .ok (.ifCond .eq 7, 3) := dk_153 0 7 (dk_at dksX4_outputIn_0 21 rfl rfl)
theorem dX4_outputIn_24 : decode cX4_outputIn 24 = .ok (.iconst 0, 1) := dk_3 (dk_at dksX4_outputIn_1 0 rfl rfl)
theorem dX4_outputIn_25 : decode cX4_outputIn 25 = .ok (.goto 4, 3) := dk_167 0 4 (dk_at dksX4_outputIn_1 1 rfl rfl)
theorem dX4_outputIn_28 : decode cX4_outputIn 28 = .ok (.iconst 2, 1) := dk_5 (dk_at dksX4_outputIn_1 4 rfl rfl)
theorem dX4_outputIn_29 : decode cX4_outputIn 29 = .ok (.putfield 37, 3) := dk_181 0 37 (dk_at dksX4_outputIn_1 5 rfl rfl)
theorem dX4_outputIn_32 : decode cX4_outputIn 32 = .ok (.aload_n 0, 1) := dk_42 (dk_at dksX4_outputIn_1 8 rfl rfl)
theorem dX4_outputIn_33 : decode cX4_outputIn 33 = .ok (.getfield 37, 3) := dk_180 0 37 (dk_at dksX4_outputIn_1 9 rfl rfl)
theorem dX4_outputIn_36 : decode cX4_outputIn 36 = .ok (.ifCond .le 7, 3) := dk_158 0 7 (dk_at dksX4_outputIn_1 12 rfl rfl)
theorem dX4_outputIn_39 : decode cX4_outputIn 39 = .ok (.iconst 0, 1) := dk_3 (dk_at dksX4_outputIn_1 15 rfl rfl)
theorem dX4_outputIn_40 : decode cX4_outputIn 40 = .ok (.goto 9, 3) := dk_167 0 9 (dk_at dksX4_outputIn_1 16 rfl rfl)
theorem dX4_outputIn_43 : decode cX4_outputIn 43 = .ok (.aload_n 0, 1) := dk_42 (dk_at dksX4_outputIn_1 19 rfl rfl)
theorem dX4_outputIn_44 : decode cX4_outputIn 44 = .ok (.iload_n 1, 1) := dk_27 (dk_at dksX4_outputIn_1 20 rfl rfl)
theorem dX4_outputIn_45 : decode cX4_outputIn 45 = .ok (.iload_n 2, 1) := dk_28 (dk_at dksX4_outputIn_1 21 rfl rfl)
theorem dX4_outputIn_46 : decode cX4_outputIn 46 = .ok (.invokevirtual 227, 3) := dk_182 0 227 (dk_at dksX4_outputIn_2 0 rfl rfl)
theorem dX4_outputIn_49 : decode cX4_outputIn 49 = .ok (.ireturn, 1) := dk_172 (dk_at dksX4_outputIn_2 3 rfl rfl)
abbrev cX4_outputThen : ByteArray := prog_17_method_103_code
def yX4_outputThen : MethodName := ⟨RX4, "outputThen", "(II)I"⟩
def dkwX4_outputThen_1 : List UInt8 := [182, 0, 224, 29, 172]
abbrev dktX4_outputThen_1 : List UInt8 := dkwX4_outputThen_1 ++ []
def dkwX4_outputThen_0 : List UInt8 := [42, 182, 0, 221, 42, 180, 0, 7, 4, 4, 79, 42, 28, 182, 0, 171, 87, 42, 27, 182, 0, 193, 62, 42]
abbrev dktX4_outputThen_0 : List UInt8 := dkwX4_outputThen_0 ++ dktX4_outputThen_1
theorem dksX4_outputThen_0 : cX4_outputThen.data.toList.drop 0 = dktX4_outputThen_0 := by decide +kernel
theorem dksX4_outputThen_1 : cX4_outputThen.data.toList.drop 24 = dktX4_outputThen_1 := dk_seg dksX4_outputThen_0 24 rfl rfl
theorem dX4_outputThen_0 : decode cX4_outputThen 0 = .ok (.aload_n 0, 1) := dk_42 (dk_at dksX4_outputThen_0 0 rfl rfl)
theorem dX4_outputThen_1 : decode cX4_outputThen 1 = .ok (.invokevirtual 221, 3) := dk_182 0 221 (dk_at dksX4_outputThen_0 1 rfl rfl)
theorem dX4_outputThen_4 : decode cX4_outputThen 4 = .ok (.aload_n 0, 1) := dk_42 (dk_at dksX4_outputThen_0 4 rfl rfl)
theorem dX4_outputThen_5 : decode cX4_outputThen 5 = .ok (.getfield 7, 3) := dk_180 0 7 (dk_at dksX4_outputThen_0 5 rfl rfl)
theorem dX4_outputThen_8 : decode cX4_outputThen 8 = .ok (.iconst 1, 1) := dk_4 (dk_at dksX4_outputThen_0 8 rfl rfl)
theorem dX4_outputThen_9 : decode cX4_outputThen 9 = .ok (.iconst 1, 1) := dk_4 (dk_at dksX4_outputThen_0 9 rfl rfl)
theorem dX4_outputThen_10 : decode cX4_outputThen 10 = .ok (.iastore, 1) := dk_79 (dk_at dksX4_outputThen_0 10 rfl rfl)
theorem dX4_outputThen_11 : decode cX4_outputThen 11 = .ok (.aload_n 0, 1) := dk_42 (dk_at dksX4_outputThen_0 11 rfl rfl)
theorem dX4_outputThen_12 : decode cX4_outputThen 12 = .ok (.iload_n 2, 1) := dk_28 (dk_at dksX4_outputThen_0 12 rfl rfl)
theorem dX4_outputThen_13 : decode cX4_outputThen 13 = .ok (.invokevirtual 171, 3) := dk_182 0 171 (dk_at dksX4_outputThen_0 13 rfl rfl)
theorem dX4_outputThen_16 : decode cX4_outputThen 16 = .ok (.pop, 1) := dk_87 (dk_at dksX4_outputThen_0 16 rfl rfl)
theorem dX4_outputThen_17 : decode cX4_outputThen 17 = .ok (.aload_n 0, 1) := dk_42 (dk_at dksX4_outputThen_0 17 rfl rfl)
theorem dX4_outputThen_18 : decode cX4_outputThen 18 = .ok (.iload_n 1, 1) := dk_27 (dk_at dksX4_outputThen_0 18 rfl rfl)
theorem dX4_outputThen_19 : decode cX4_outputThen 19 = .ok (.invokevirtual 193, 3) := dk_182 0 193 (dk_at dksX4_outputThen_0 19 rfl rfl)
theorem dX4_outputThen_22 : decode cX4_outputThen 22 = .ok (.istore_n 3, 1) := dk_62 (dk_at dksX4_outputThen_0 22 rfl rfl)
theorem dX4_outputThen_23 : decode cX4_outputThen 23 = .ok (.aload_n 0, 1) := dk_42 (dk_at dksX4_outputThen_0 23 rfl rfl)
theorem dX4_outputThen_24 : decode cX4_outputThen 24 = .ok (.invokevirtual 224, 3) := dk_182 0 224 (dk_at dksX4_outputThen_1 0 rfl rfl)
theorem dX4_outputThen_27 : decode cX4_outputThen 27 = .ok (.iload_n 3, 1) := dk_29 (dk_at dksX4_outputThen_1 3 rfl rfl)
theorem dX4_outputThen_28 : decode cX4_outputThen 28 = .ok (.ireturn, 1) := dk_172 (dk_at dksX4_outputThen_1 4 rfl rfl)
abbrev cX4_keeps : ByteArray := prog_17_method_8_code
def yX4_keeps : MethodName := ⟨RX4, "keeps", "()V"⟩
def dkwX4_keeps_1 : List UInt8 := [167, 255, 234, 177]
abbrev dktX4_keeps_1 : List UInt8 := dkwX4_keeps_1 ++ []
def dkwX4_keeps_0 : List UInt8 := [3, 60, 27, 17, 0, 242, 162, 0, 21, 42, 180, 0, 19, 27, 42, 180, 0, 7, 27, 46, 79, 132, 1, 1]
abbrev dktX4_keeps_0 : List UInt8 := dkwX4_keeps_0 ++ dktX4_keeps_1
theorem dksX4_keeps_0 : cX4_keeps.data.toList.drop 0 = dktX4_keeps_0 := by decide +kernel
theorem dksX4_keeps_1 : cX4_keeps.data.toList.drop 24 = dktX4_keeps_1 := dk_seg dksX4_keeps_0 24 rfl rfl
theorem dX4_keeps_0 : decode cX4_keeps 0 = .ok (.iconst 0, 1) := dk_3 (dk_at dksX4_keeps_0 0 rfl rfl)
theorem dX4_keeps_1 : decode cX4_keeps 1 = .ok (.istore_n 1, 1) := dk_60 (dk_at dksX4_keeps_0 1 rfl rfl)
theorem dX4_keeps_2 : decode cX4_keeps 2 = .ok (.iload_n 1, 1) := dk_27 (dk_at dksX4_keeps_0 2 rfl rfl)
theorem dX4_keeps_3 : decode cX4_keeps 3 = .ok (.sipush 242, 3) := dk_17 0 242 (dk_at dksX4_keeps_0 3 rfl rfl)
theorem dX4_keeps_6 : decode cX4_keeps 6 = .ok (.if_icmp .ge 21, 3) := dk_162 0 21 (dk_at dksX4_keeps_0 6 rfl rfl)
theorem dX4_keeps_9 : decode cX4_keeps 9 = .ok (.aload_n 0, 1) := dk_42 (dk_at dksX4_keeps_0 9 rfl rfl)
theorem dX4_keeps_10 : decode cX4_keeps 10 = .ok (.getfield 19, 3) := dk_180 0 19 (dk_at dksX4_keeps_0 10 rfl rfl)
theorem dX4_keeps_13 : decode cX4_keeps 13 = .ok (.iload_n 1, 1) := dk_27 (dk_at dksX4_keeps_0 13 rfl rfl)
theorem dX4_keeps_14 : decode cX4_keeps 14 = .ok (.aload_n 0, 1) := dk_42 (dk_at dksX4_keeps_0 14 rfl rfl)
theorem dX4_keeps_15 : decode cX4_keeps 15 = .ok (.getfield 7, 3) := dk_180 0 7 (dk_at dksX4_keeps_0 15 rfl rfl)
theorem dX4_keeps_18 : decode cX4_keeps 18 = .ok (.iload_n 1, 1) := dk_27 (dk_at dksX4_keeps_0 18 rfl rfl)
theorem dX4_keeps_19 : decode cX4_keeps 19 = .ok (.iaload, 1) := dk_46 (dk_at dksX4_keeps_0 19 rfl rfl)
theorem dX4_keeps_20 : decode cX4_keeps 20 = .ok (.iastore, 1) := dk_79 (dk_at dksX4_keeps_0 20 rfl rfl)
theorem dX4_keeps_21 : decode cX4_keeps 21 = .ok (.iinc 1 1, 3) := dk_132 1 1 (dk_at dksX4_keeps_0 21 rfl rfl)
theorem dX4_keeps_24 : decode cX4_keeps 24 = .ok (.goto (-22), 3) := dk_167 255 234 (dk_at dksX4_keeps_1 0 rfl rfl)
theorem dX4_keeps_27 : decode cX4_keeps 27 = .ok (.return_, 1) := dk_177 (dk_at dksX4_keeps_1 3 rfl rfl)
abbrev cX4_returns : ByteArray := prog_17_method_9_code
def yX4_returns : MethodName := ⟨RX4, "returns", "()V"⟩
def dkwX4_returns_1 : List UInt8 := [167, 255, 234, 177]
abbrev dktX4_returns_1 : List UInt8 := dkwX4_returns_1 ++ []
def dkwX4_returns_0 : List UInt8 := [3, 60, 27, 17, 0, 242, 162, 0, 21, 42, 180, 0, 7, 27, 42, 180, 0, 19, 27, 46, 79, 132, 1, 1]
abbrev dktX4_returns_0 : List UInt8 := dkwX4_returns_0 ++ dktX4_returns_1
theorem dksX4_returns_0 : cX4_returns.data.toList.drop 0 = dktX4_returns_0 := by decide +kernel
theorem dksX4_returns_1 : cX4_returns.data.toList.drop 24 = dktX4_returns_1 := dk_seg dksX4_returns_0 24 rfl rfl
theorem dX4_returns_0 : decode cX4_returns 0 = .ok (.iconst 0, 1) := dk_3 (dk_at dksX4_returns_0 0 rfl rfl)
theorem dX4_returns_1 : decode cX4_returns 1 = .ok (.istore_n 1, 1) := dk_60 (dk_at dksX4_returns_0 1 rfl rfl)
theorem dX4_returns_2 : decode cX4_returns 2 = .ok (.iload_n 1, 1) := dk_27 (dk_at dksX4_returns_0 2 rfl rfl)
theorem dX4_returns_3 : decode cX4_returns 3 = .ok (.sipush 242, 3) := dk_17 0 242 (dk_at dksX4_returns_0 3 rfl rfl)
theorem dX4_returns_6 : decode cX4_returns 6 = .ok (.if_icmp .ge 21, 3) := dk_162 0 21 (dk_at dksX4_returns_0 6 rfl rfl)
theorem dX4_returns_9 : decode cX4_returns 9 = .ok (.aload_n 0, 1) := dk_42 (dk_at dksX4_returns_0 9 rfl rfl)
theorem dX4_returns_10 : decode cX4_returns 10 = .ok (.getfield 7, 3) := dk_180 0 7 (dk_at dksX4_returns_0 10 rfl rfl)
theorem dX4_returns_13 : decode cX4_returns 13 = .ok (.iload_n 1, 1) := dk_27 (dk_at dksX4_returns_0 13 rfl rfl)
theorem dX4_returns_14 : decode cX4_returns 14 = .ok (.aload_n 0, 1) := dk_42 (dk_at dksX4_returns_0 14 rfl rfl)
theorem dX4_returns_15 : decode cX4_returns 15 = .ok (.getfield 19, 3) := dk_180 0 19 (dk_at dksX4_returns_0 15 rfl rfl)
theorem dX4_returns_18 : decode cX4_returns 18 = .ok (.iload_n 1, 1) := dk_27 (dk_at dksX4_returns_0 18 rfl rfl)
theorem dX4_returns_19 : decode cX4_returns 19 = .ok (.iaload, 1) := dk_46 (dk_at dksX4_returns_0 19 rfl rfl)
theorem dX4_returns_20 : decode cX4_returns 20 = .ok (.iastore, 1) := dk_79 (dk_at dksX4_returns_0 20 rfl rfl)
theorem dX4_returns_21 : decode cX4_returns 21 = .ok (.iinc 1 1, 3) := dk_132 1 1 (dk_at dksX4_returns_0 21 rfl rfl)
theorem dX4_returns_24 : decode cX4_returns 24 = .ok (.goto (-22), 3) := dk_167 255 234 (dk_at dksX4_returns_1 0 rfl rfl)
theorem dX4_returns_27 : decode cX4_returns 27 = .ok (.return_, 1) := dk_177 (dk_at dksX4_returns_1 3 rfl rfl)
abbrev cX4_stepsUntilOverload : ByteArray := prog_17_method_106_code
def yX4_stepsUntilOverload : MethodName := ⟨RX4, "stepsUntilOverload", "()I"⟩
def dkwX4_stepsUntilOverload_0 : List UInt8 := [42, 42, 182, 0, 230, 182, 0, 177, 172]
abbrev dktX4_stepsUntilOverload_0 : List UInt8 := dkwX4_stepsUntilOverload_0 ++ []
theorem dksX4_stepsUntilOverload_0 : cX4_stepsUntilOverload.data.toList.drop 0 = dktX4_stepsUntilOverload_0 := by decide +kernel
theorem dX4_stepsUntilOverload_0 : decode cX4_stepsUntilOverload 0 = .ok (.aload_n 0, 1) := dk_42 (dk_at dksX4_stepsUntilOverload_0 0 rfl rfl)
theorem dX4_stepsUntilOverload_1 : decode cX4_stepsUntilOverload 1 = .ok (.aload_n 0, 1) := dk_42 (dk_at dksX4_stepsUntilOverload_0 1 rfl rfl)
theorem dX4_stepsUntilOverload_2 : decode cX4_stepsUntilOverload 2 = .ok (.invokevirtual 230, 3) := dk_182 0 230 (dk_at dksX4_stepsUntilOverload_0 2 rfl rfl)
theorem dX4_stepsUntilOverload_5 : decode cX4_stepsUntilOverload 5 = .ok (.invokevirtual 177, 3) := dk_182 0 177 (dk_at dksX4_stepsUntilOverload_0 5 rfl rfl)
theorem dX4_stepsUntilOverload_8 : decode cX4_stepsUntilOverload 8 = .ok (.ireturn, 1) := dk_172 (dk_at dksX4_stepsUntilOverload_0 8 rfl rfl)
abbrev cX4_untilOver : ByteArray := prog_17_method_105_code
def yX4_untilOver : MethodName := ⟨RX4, "untilOver", "()I"⟩
def dkwX4_untilOver_2 : List UInt8 := [42, 182, 0, 224, 28, 153, 0, 7, 27, 167, 0, 4, 2, 172]
abbrev dktX4_untilOver_2 : List UInt8 := dkwX4_untilOver_2 ++ []
def dkwX4_untilOver_1 : List UInt8 := [42, 3, 182, 0, 163, 132, 1, 1, 167, 255, 234, 42, 180, 0, 134, 153, 0, 7, 4, 167, 0, 4, 3, 61]
abbrev dktX4_untilOver_1 : List UInt8 := dkwX4_untilOver_1 ++ dktX4_untilOver_2
def dkwX4_untilOver_0 : List UInt8 := [42, 182, 0, 221, 3, 60, 42, 182, 0, 150, 42, 180, 0, 134, 154, 0, 21, 27, 17, 0, 200, 162, 0, 14]
abbrev dktX4_untilOver_0 : List UInt8 := dkwX4_untilOver_0 ++ dktX4_untilOver_1
theorem dksX4_untilOver_0 : cX4_untilOver.data.toList.drop 0 = dktX4_untilOver_0 := by decide +kernel
theorem dksX4_untilOver_1 : cX4_untilOver.data.toList.drop 24 = dktX4_untilOver_1 := dk_seg dksX4_untilOver_0 24 rfl rfl
theorem dksX4_untilOver_2 : cX4_untilOver.data.toList.drop 48 = dktX4_untilOver_2 := dk_seg dksX4_untilOver_1 24 rfl rfl
theorem dX4_untilOver_0 : decode cX4_untilOver 0 = .ok (.aload_n 0, 1) := dk_42 (dk_at dksX4_untilOver_0 0 rfl rfl)
theorem dX4_untilOver_1 : decode cX4_untilOver 1 = .ok (.invokevirtual 221, 3) := dk_182 0 221 (dk_at dksX4_untilOver_0 1 rfl rfl)
theorem dX4_untilOver_4 : decode cX4_untilOver 4 = .ok (.iconst 0, 1) := dk_3 (dk_at dksX4_untilOver_0 4 rfl rfl)
theorem dX4_untilOver_5 : decode cX4_untilOver 5 = .ok (.istore_n 1, 1) := dk_60 (dk_at dksX4_untilOver_0 5 rfl rfl)
theorem dX4_untilOver_6 : decode cX4_untilOver 6 = .ok (.aload_n 0, 1) := dk_42 (dk_at dksX4_untilOver_0 6 rfl rfl)
theorem dX4_untilOver_7 : decode cX4_untilOver 7 = .ok (.invokevirtual 150, 3) := dk_182 0 150 (dk_at dksX4_untilOver_0 7 rfl rfl)
theorem dX4_untilOver_10 : decode cX4_untilOver 10 = .ok (.aload_n 0, 1) := dk_42 (dk_at dksX4_untilOver_0 10 rfl rfl)
theorem dX4_untilOver_11 : decode cX4_untilOver 11 = .ok (.getfield 134, 3) := dk_180 0 134 (dk_at dksX4_untilOver_0 11 rfl rfl)
theorem dX4_untilOver_14 : decode cX4_untilOver 14 = .ok (.ifCond .ne 21, 3) := dk_154 0 21 (dk_at dksX4_untilOver_0 14 rfl rfl)
theorem dX4_untilOver_17 : decode cX4_untilOver 17 = .ok (.iload_n 1, 1) := dk_27 (dk_at dksX4_untilOver_0 17 rfl rfl)
theorem dX4_untilOver_18 : decode cX4_untilOver 18 = .ok (.sipush 200, 3) := dk_17 0 200 (dk_at dksX4_untilOver_0 18 rfl rfl)
theorem dX4_untilOver_21 : decode cX4_untilOver 21 = .ok (.if_icmp .ge 14, 3) := dk_162 0 14 (dk_at dksX4_untilOver_0 21 rfl rfl)
theorem dX4_untilOver_24 : decode cX4_untilOver 24 = .ok (.aload_n 0, 1) := dk_42 (dk_at dksX4_untilOver_1 0 rfl rfl)
theorem dX4_untilOver_25 : decode cX4_untilOver 25 = .ok (.iconst 0, 1) := dk_3 (dk_at dksX4_untilOver_1 1 rfl rfl)
theorem dX4_untilOver_26 : decode cX4_untilOver 26 = .ok (.invokevirtual 163, 3) := dk_182 0 163 (dk_at dksX4_untilOver_1 2 rfl rfl)
theorem dX4_untilOver_29 : decode cX4_untilOver 29 = .ok (.iinc 1 1, 3) := dk_132 1 1 (dk_at dksX4_untilOver_1 5 rfl rfl)
theorem dX4_untilOver_32 : decode cX4_untilOver 32 = .ok (.goto (-22), 3) := dk_167 255 234 (dk_at dksX4_untilOver_1 8 rfl rfl)
theorem dX4_untilOver_35 : decode cX4_untilOver 35 = .ok (.aload_n 0, 1) := dk_42 (dk_at dksX4_untilOver_1 11 rfl rfl)
theorem dX4_untilOver_36 : decode cX4_untilOver 36 = .ok (.getfield 134, 3) := dk_180 0 134 (dk_at dksX4_untilOver_1 12 rfl rfl)
theorem dX4_untilOver_39 : decode cX4_untilOver 39 = .ok (.ifCond .eq 7, 3) := dk_153 0 7 (dk_at dksX4_untilOver_1 15 rfl rfl)
theorem dX4_untilOver_42 : decode cX4_untilOver 42 = .ok (.iconst 1, 1) := dk_4 (dk_at dksX4_untilOver_1 18 rfl rfl)
theorem dX4_untilOver_43 : decode cX4_untilOver 43 = .ok (.goto 4, 3) := dk_167 0 4 (dk_at dksX4_untilOver_1 19 rfl rfl)
theorem dX4_untilOver_46 : decode cX4_untilOver 46 = .ok (.iconst 0, 1) := dk_3 (dk_at dksX4_untilOver_1 22 rfl rfl)
theorem dX4_untilOver_47 : decode cX4_untilOver 47 = .ok (.istore_n 2, 1) := dk_61 (dk_at dksX4_untilOver_1 23 rfl rfl)
theorem dX4_untilOver_48 : decode cX4_untilOver 48 = .ok (.aload_n 0, 1) := dk_42 (dk_at dksX4_untilOver_2 0 rfl rfl)
theorem dX4_untilOver_49 : decode cX4_untilOver 49 = .ok (.invokevirtual 224, 3) := dk_182 0 224 (dk_at dksX4_untilOver_2 1 rfl rfl)
theorem dX4_untilOver_52 : decode cX4_untilOver 52 = .ok (.iload_n 2, 1) := dk_28 (dk_at dksX4_untilOver_2 4 rfl rfl)
theorem dX4_untilOver_53 : decode cX4_untilOver 53 = .ok (.ifCond .eq 7, 3) := dk_153 0 7 (dk_at dksX4_untilOver_2 5 rfl rfl)
theorem dX4_untilOver_56 : decode cX4_untilOver 56 = .ok (.iload_n 1, 1) := dk_27 (dk_at dksX4_untilOver_2 8 rfl rfl)
theorem dX4_untilOver_57 : decode cX4_untilOver 57 = .ok (.goto 4, 3) := dk_167 0 4 (dk_at dksX4_untilOver_2 9 rfl rfl)
theorem dX4_untilOver_60 : decode cX4_untilOver 60 = .ok (.iconst (-1), 1) := dk_2 (dk_at dksX4_untilOver_2 12 rfl rfl)
theorem dX4_untilOver_61 : decode cX4_untilOver 61 = .ok (.ireturn, 1) := dk_172 (dk_at dksX4_untilOver_2 13 rfl rfl)
abbrev cX4_bestFactor : ByteArray := prog_17_method_108_code
def yX4_bestFactor : MethodName := ⟨RX4, "bestFactor", "(III)I"⟩
def dkwX4_bestFactor_2 : List UInt8 := [181, 0, 37, 42, 180, 0, 37, 158, 0, 7, 3, 167, 0, 10, 42, 27, 28, 29, 182, 0, 233, 172]
abbrev dktX4_bestFactor_2 : List UInt8 := dkwX4_bestFactor_2 ++ []
def dkwX4_bestFactor_1 : List UInt8 := [182, 0, 56, 5, 160, 0, 18, 29, 3, 17, 39, 16, 184, 0, 44, 153, 0, 7, 3, 167, 0, 4, 5]
abbrev dktX4_bestFactor_1 : List UInt8 := dkwX4_bestFactor_1 ++ dktX4_bestFactor_2
def dkwX4_bestFactor_0 : List UInt8 := [42, 42, 27, 182, 0, 52, 153, 0, 11, 42, 28, 182, 0, 52, 154, 0, 7, 4, 167, 0, 28, 42, 27]
abbrev dktX4_bestFactor_0 : List UInt8 := dkwX4_bestFactor_0 ++ dktX4_bestFactor_1
theorem dksX4_bestFactor_0 : cX4_bestFactor.data.toList.drop 0 = dktX4_bestFactor_0 := by decide +kernel
theorem dksX4_bestFactor_1 : cX4_bestFactor.data.toList.drop 23 = dktX4_bestFactor_1 := dk_seg dksX4_bestFactor_0 23 rfl rfl
theorem dksX4_bestFactor_2 : cX4_bestFactor.data.toList.drop 46 = dktX4_bestFactor_2 := dk_seg dksX4_bestFactor_1 23 rfl rfl
theorem dX4_bestFactor_0 : decode cX4_bestFactor 0 = .ok (.aload_n 0, 1) := dk_42 (dk_at dksX4_bestFactor_0 0 rfl rfl)
theorem dX4_bestFactor_1 : decode cX4_bestFactor 1 = .ok (.aload_n 0, 1) := dk_42 (dk_at dksX4_bestFactor_0 1 rfl rfl)
theorem dX4_bestFactor_2 : decode cX4_bestFactor 2 = .ok (.iload_n 1, 1) := dk_27 (dk_at dksX4_bestFactor_0 2 rfl rfl)
theorem dX4_bestFactor_3 : decode cX4_bestFactor 3 = .ok (.invokevirtual 52, 3) := dk_182 0 52 (dk_at dksX4_bestFactor_0 3 rfl rfl)
theorem dX4_bestFactor_6 : decode cX4_bestFactor 6 = .ok (.ifCond .eq 11, 3) := dk_153 0 11 (dk_at dksX4_bestFactor_0 6 rfl rfl)
theorem dX4_bestFactor_9 : decode cX4_bestFactor 9 = .ok (.aload_n 0, 1) := dk_42 (dk_at dksX4_bestFactor_0 9 rfl rfl)
theorem dX4_bestFactor_10 : decode cX4_bestFactor 10 = .ok (.iload_n 2, 1) := dk_28 (dk_at dksX4_bestFactor_0 10 rfl rfl)
theorem dX4_bestFactor_11 : decode cX4_bestFactor 11 = .ok (.invokevirtual 52, 3) := dk_182 0 52 (dk_at dksX4_bestFactor_0 11 rfl rfl)
theorem dX4_bestFactor_14 : decode cX4_bestFactor 14 = .ok (.ifCond .ne 7, 3) := dk_154 0 7 (dk_at dksX4_bestFactor_0 14 rfl rfl)
theorem dX4_bestFactor_17 : decode cX4_bestFactor 17 = .ok (.iconst 1, 1) := dk_4 (dk_at dksX4_bestFactor_0 17 rfl rfl)
theorem dX4_bestFactor_18 : decode cX4_bestFactor 18 = .ok (.goto 28, 3) := dk_167 0 28 (dk_at dksX4_bestFactor_0 18 rfl rfl)
theorem dX4_bestFactor_21 : decode cX4_bestFactor 21 = .ok (.aload_n 0, 1) := dk_42 (dk_at dksX4_bestFactor_0 21 rfl rfl)
theorem dX4_bestFactor_22 : decode cX4_bestFactor 22 = .ok (.iload_n 1, 1) := dk_27 (dk_at dksX4_bestFactor_0 22 rfl rfl)
theorem dX4_bestFactor_23 : decode cX4_bestFactor 23 = .ok (.invokevirtual 56, 3) := dk_182 0 56 (dk_at dksX4_bestFactor_1 0 rfl rfl)
theorem dX4_bestFactor_26 : decode cX4_bestFactor 26 = .ok (.iconst 2, 1) := dk_5 (dk_at dksX4_bestFactor_1 3 rfl rfl)
theorem dX4_bestFactor_27 : decode cX4_bestFactor 27 = .ok (.if_icmp .ne 18, 3) := dk_160 0 18 (dk_at dksX4_bestFactor_1 4 rfl rfl)
theorem dX4_bestFactor_30 : decode cX4_bestFactor 30 = .ok (.iload_n 3, 1) := dk_29 (dk_at dksX4_bestFactor_1 7 rfl rfl)
theorem dX4_bestFactor_31 : decode cX4_bestFactor 31 = .ok (.iconst 0, 1) := dk_3 (dk_at dksX4_bestFactor_1 8 rfl rfl)
theorem dX4_bestFactor_32 : decode cX4_bestFactor 32 = .ok (.sipush 10000, 3) := dk_17 39 16 (dk_at dksX4_bestFactor_1 9 rfl rfl)
theorem dX4_bestFactor_35 : decode cX4_bestFactor 35 = .ok (.invokestatic 44, 3) := dk_184 0 44 (dk_at dksX4_bestFactor_1 12 rfl rfl)
theorem dX4_bestFactor_38 : decode cX4_bestFactor 38 = .ok (.ifCond .eq 7, 3) := dk_153 0 7 (dk_at dksX4_bestFactor_1 15 rfl rfl)
theorem dX4_bestFactor_41 : decode cX4_bestFactor 41 = .ok (.iconst 0, 1) := dk_3 (dk_at dksX4_bestFactor_1 18 rfl rfl)
theorem dX4_bestFactor_42 : decode cX4_bestFactor 42 = .ok (.goto 4, 3) := dk_167 0 4 (dk_at dksX4_bestFactor_1 19 rfl rfl)
theorem dX4_bestFactor_45 : decode cX4_bestFactor 45 = .ok (.iconst 2, 1) := dk_5 (dk_at dksX4_bestFactor_1 22 rfl rfl)
theorem dX4_bestFactor_46 : decode cX4_bestFactor 46 = .ok (.putfield 37, 3) := dk_181 0 37 (dk_at dksX4_bestFactor_2 0 rfl rfl)
theorem dX4_bestFactor_49 : decode cX4_bestFactor 49 = .ok (.aload_n 0, 1) := dk_42 (dk_at dksX4_bestFactor_2 3 rfl rfl)
theorem dX4_bestFactor_50 : decode cX4_bestFactor 50 = .ok (.getfield 37, 3) := dk_180 0 37 (dk_at dksX4_bestFactor_2 4 rfl rfl)
theorem dX4_bestFactor_53 : decode cX4_bestFactor 53 = .ok (.ifCond .le 7, 3) := dk_158 0 7 (dk_at dksX4_bestFactor_2 7 rfl rfl)
theorem dX4_bestFactor_56 : decode cX4_bestFactor 56 = .ok (.iconst 0, 1) := dk_3 (dk_at dksX4_bestFactor_2 10 rfl rfl)
theorem dX4_bestFactor_57 : decode cX4_bestFactor 57 = .ok (.goto 10, 3) := dk_167 0 10 (dk_at dksX4_bestFactor_2 11 rfl rfl)
theorem dX4_bestFactor_60 : decode cX4_bestFactor 60 = .ok (.aload_n 0, 1) := dk_42 (dk_at dksX4_bestFactor_2 14 rfl rfl)
theorem dX4_bestFactor_61 : decode cX4_bestFactor 61 = .ok (.iload_n 1, 1) := dk_27 (dk_at dksX4_bestFactor_2 15 rfl rfl)
theorem dX4_bestFactor_62 : decode cX4_bestFactor 62 = .ok (.iload_n 2, 1) := dk_28 (dk_at dksX4_bestFactor_2 16 rfl rfl)
theorem dX4_bestFactor_63 : decode cX4_bestFactor 63 = .ok (.iload_n 3, 1) := dk_29 (dk_at dksX4_bestFactor_2 17 rfl rfl)
theorem dX4_bestFactor_64 : decode cX4_bestFactor 64 = .ok (.invokevirtual 233, 3) := dk_182 0 233 (dk_at dksX4_bestFactor_2 18 rfl rfl)
theorem dX4_bestFactor_67 : decode cX4_bestFactor 67 = .ok (.ireturn, 1) := dk_172 (dk_at dksX4_bestFactor_2 21 rfl rfl)
abbrev cX4_best : ByteArray := prog_17_method_107_code
def yX4_best : MethodName := ⟨RX4, "best", "(III)I"⟩
def dkwX4_best_4 : List UInt8 := [167, 255, 182, 42, 27, 4, 21, 6, 182, 0, 63, 21, 4, 172]
abbrev dktX4_best_4 : List UInt8 := dkwX4_best_4 ++ []
def dkwX4_best_3 : List UInt8 := [21, 4, 54, 4, 21, 4, 21, 7, 160, 0, 8, 21, 8, 167, 0, 5, 21, 5, 54, 5, 132, 7, 50]
abbrev dktX4_best_3 : List UInt8 := dkwX4_best_3 ++ dktX4_best_4
def dkwX4_best_2 : List UInt8 := [184, 0, 143, 54, 8, 21, 4, 2, 159, 0, 10, 21, 8, 21, 5, 162, 0, 8, 21, 7, 167, 0, 5]
abbrev dktX4_best_2 : List UInt8 := dkwX4_best_2 ++ dktX4_best_3
def dkwX4_best_1 : List UInt8 := [163, 0, 72, 42, 27, 4, 21, 7, 182, 0, 63, 42, 28, 16, 20, 182, 0, 227, 184, 0, 143, 29, 100]
abbrev dktX4_best_1 : List UInt8 := dkwX4_best_1 ++ dktX4_best_2
def dkwX4_best_0 : List UInt8 := [2, 54, 4, 3, 54, 5, 42, 27, 4, 182, 0, 48, 54, 6, 3, 54, 7, 21, 7, 17, 3, 232]
abbrev dktX4_best_0 : List UInt8 := dkwX4_best_0 ++ dktX4_best_1
theorem dksX4_best_0 : cX4_best.data.toList.drop 0 = dktX4_best_0 := by decide +kernel
theorem dksX4_best_1 : cX4_best.data.toList.drop 22 = dktX4_best_1 := dk_seg dksX4_best_0 22 rfl rfl
theorem dksX4_best_2 : cX4_best.data.toList.drop 45 = dktX4_best_2 := dk_seg dksX4_best_1 23 rfl rfl
theorem dksX4_best_3 : cX4_best.data.toList.drop 68 = dktX4_best_3 := dk_seg dksX4_best_2 23 rfl rfl
theorem dksX4_best_4 : cX4_best.data.toList.drop 91 = dktX4_best_4 := dk_seg dksX4_best_3 23 rfl rfl
theorem dX4_best_0 : decode cX4_best 0 = .ok (.iconst (-1), 1) := dk_2 (dk_at dksX4_best_0 0 rfl rfl)
theorem dX4_best_1 : decode cX4_best 1 = .ok (.istore 4, 2) := dk_54 4 (dk_at dksX4_best_0 1 rfl rfl)
theorem dX4_best_3 : decode cX4_best 3 = .ok (.iconst 0, 1) := dk_3 (dk_at dksX4_best_0 3 rfl rfl)
theorem dX4_best_4 : decode cX4_best 4 = .ok (.istore 5, 2) := dk_54 5 (dk_at dksX4_best_0 4 rfl rfl)
theorem dX4_best_6 : decode cX4_best 6 = .ok (.aload_n 0, 1) := dk_42 (dk_at dksX4_best_0 6 rfl rfl)
theorem dX4_best_7 : decode cX4_best 7 = .ok (.iload_n 1, 1) := dk_27 (dk_at dksX4_best_0 7 rfl rfl)
theorem dX4_best_8 : decode cX4_best 8 = .ok (.iconst 1, 1) := dk_4 (dk_at dksX4_best_0 8 rfl rfl)
theorem dX4_best_9 : decode cX4_best 9 = .ok (.invokevirtual 48, 3) := dk_182 0 48 (dk_at dksX4_best_0 9 rfl rfl)
theorem dX4_best_12 : decode cX4_best 12 = .ok (.istore 6, 2) := dk_54 6 (dk_at dksX4_best_0 12 rfl rfl)
theorem dX4_best_14 : decode cX4_best 14 = .ok (.iconst 0, 1) := dk_3 (dk_at dksX4_best_0 14 rfl rfl)
theorem dX4_best_15 : decode cX4_best 15 = .ok (.istore 7, 2) := dk_54 7 (dk_at dksX4_best_0 15 rfl rfl)
theorem dX4_best_17 : decode cX4_best 17 = .ok (.iload 7, 2) := dk_21 7 (dk_at dksX4_best_0 17 rfl rfl)
theorem dX4_best_19 : decode cX4_best 19 = .ok (.sipush 1000, 3) := dk_17 3 232 (dk_at dksX4_best_0 19 rfl rfl)
theorem dX4_best_22 : decode cX4_best 22 = .ok (.if_icmp .gt 72, 3) := dk_163 0 72 (dk_at dksX4_best_1 0 rfl rfl)
theorem dX4_best_25 : decode cX4_best 25 = .ok (.aload_n 0, 1) := dk_42 (dk_at dksX4_best_1 3 rfl rfl)
theorem dX4_best_26 : decode cX4_best 26 = .ok (.iload_n 1, 1) := dk_27 (dk_at dksX4_best_1 4 rfl rfl)
theorem dX4_best_27 : decode cX4_best 27 = .ok (.iconst 1, 1) := dk_4 (dk_at dksX4_best_1 5 rfl rfl)
theorem dX4_best_28 : decode cX4_best 28 = .ok (.iload 7, 2) := dk_21 7 (dk_at dksX4_best_1 6 rfl rfl)
theorem dX4_best_30 : decode cX4_best 30 = .ok (.invokevirtual 63, 3) := dk_182 0 63 (dk_at dksX4_best_1 8 rfl rfl)
theorem dX4_best_33 : decode cX4_best 33 = .ok (.aload_n 0, 1) := dk_42 (dk_at dksX4_best_1 11 rfl rfl)
theorem dX4_best_34 : decode cX4_best 34 = .ok (.iload_n 2, 1) := dk_28 (dk_at dksX4_best_1 12 rfl rfl)
theorem dX4_best_35 : decode cX4_best 35 = .ok (.bipush 20, 2) := dk_16 20 (dk_at dksX4_best_1 13 rfl rfl)
theorem dX4_best_37 : decode cX4_best 37 = .ok (.invokevirtual 227, 3) := dk_182 0 227 (dk_at dksX4_best_1 15 rfl rfl)
theorem dX4_best_40 : decode cX4_best 40 = .ok (.invokestatic 143, 3) := dk_184 0 143 (dk_at dksX4_best_1 18 rfl rfl)
theorem dX4_best_43 : decode cX4_best 43 = .ok (.iload_n 3, 1) := dk_29 (dk_at dksX4_best_1 21 rfl rfl)
theorem dX4_best_44 : decode cX4_best 44 = .ok (.isub, 1) := dk_100 (dk_at dksX4_best_1 22 rfl rfl)
theorem dX4_best_45 : decode cX4_best 45 = .ok (.invokestatic 143, 3) := dk_184 0 143 (dk_at dksX4_best_2 0 rfl rfl)
theorem dX4_best_48 : decode cX4_best 48 = .ok (.istore 8, 2) := dk_54 8 (dk_at dksX4_best_2 3 rfl rfl)
theorem dX4_best_50 : decode cX4_best 50 = .ok (.iload 4, 2) := dk_21 4 (dk_at dksX4_best_2 5 rfl rfl)
theorem dX4_best_52 : decode cX4_best 52 = .ok (.iconst (-1), 1) := dk_2 (dk_at dksX4_best_2 7 rfl rfl)
theorem dX4_best_53 : decode cX4_best 53 = .ok (.if_icmp .eq 10, 3) := dk_159 0 10 (dk_at dksX4_best_2 8 rfl rfl)
theorem dX4_best_56 : decode cX4_best 56 = .ok (.iload 8, 2) := dk_21 8 (dk_at dksX4_best_2 11 rfl rfl)
theorem dX4_best_58 : decode cX4_best 58 = .ok (.iload 5, 2) := dk_21 5 (dk_at dksX4_best_2 13 rfl rfl)
theorem dX4_best_60 : decode cX4_best 60 = .ok (.if_icmp .ge 8, 3) := dk_162 0 8 (dk_at dksX4_best_2 15 rfl rfl)
theorem dX4_best_63 : decode cX4_best 63 = .ok (.iload 7, 2) := dk_21 7 (dk_at dksX4_best_2 18 rfl rfl)
theorem dX4_best_65 : decode cX4_best 65 = .ok (.goto 5, 3) := dk_167 0 5 (dk_at dksX4_best_2 20 rfl rfl)
theorem dX4_best_68 : decode cX4_best 68 = .ok (.iload 4, 2) := dk_21 4 (dk_at dksX4_best_3 0 rfl rfl)
theorem dX4_best_70 : decode cX4_best 70 = .ok (.istore 4, 2) := dk_54 4 (dk_at dksX4_best_3 2 rfl rfl)
theorem dX4_best_72 : decode cX4_best 72 = .ok (.iload 4, 2) := dk_21 4 (dk_at dksX4_best_3 4 rfl rfl)
theorem dX4_best_74 : decode cX4_best 74 = .ok (.iload 7, 2) := dk_21 7 (dk_at dksX4_best_3 6 rfl rfl)
theorem dX4_best_76 : decode cX4_best 76 = .ok (.if_icmp .ne 8, 3) := dk_160 0 8 (dk_at dksX4_best_3 8 rfl rfl)
theorem dX4_best_79 : decode cX4_best 79 = .ok (.iload 8, 2) := dk_21 8 (dk_at dksX4_best_3 11 rfl rfl)
theorem dX4_best_81 : decode cX4_best 81 = .ok (.goto 5, 3) := dk_167 0 5 (dk_at dksX4_best_3 13 rfl rfl)
theorem dX4_best_84 : decode cX4_best 84 = .ok (.iload 5, 2) := dk_21 5 (dk_at dksX4_best_3 16 rfl rfl)
theorem dX4_best_86 : decode cX4_best 86 = .ok (.istore 5, 2) := dk_54 5 (dk_at dksX4_best_3 18 rfl rfl)
theorem dX4_best_88 : decode cX4_best 88 = .ok (.iinc 7 50, 3) := dk_132 7 50 (dk_at dksX4_best_3 20 rfl rfl)
theorem dX4_best_91 : decode cX4_best 91 = .ok (.goto (-74), 3) := dk_167 255 182 (dk_at dksX4_best_4 0 rfl rfl)
theorem dX4_best_94 : decode cX4_best 94 = .ok (.aload_n 0, 1) := dk_42 (dk_at dksX4_best_4 3 rfl rfl)
theorem dX4_best_95 : decode cX4_best 95 = .ok (.iload_n 1, 1) := dk_27 (dk_at dksX4_best_4 4 rfl rfl)
theorem dX4_best_96 : decode cX4_best 96 = .ok (.iconst 1, 1) := dk_4 (dk_at dksX4_best_4 5 rfl rfl)
theorem dX4_best_97 : decode cX4_best 97 = .ok (.iload 6, 2) := dk_21 6 (dk_at dksX4_best_4 6 rfl rfl)
theorem dX4_best_99 : decode cX4_best 99 = .ok (.invokevirtual 63, 3) := dk_182 0 63 (dk_at dksX4_best_4 8 rfl rfl)
theorem dX4_best_102 : decode cX4_best 102 = .ok (.iload 4, 2) := dk_21 4 (dk_at dksX4_best_4 11 rfl rfl)
theorem dX4_best_104 : decode cX4_best 104 = .ok (.ireturn, 1) := dk_172 (dk_at dksX4_best_4 13 rfl rfl)
abbrev cX4_keep : ByteArray := prog_17_method_109_code
def yX4_keep : MethodName := ⟨RX4, "keep", "()I"⟩
def dkwX4_keep_1 : List UInt8 := [42, 180, 0, 7, 27, 46, 79, 132, 1, 1, 167, 255, 234, 42, 180, 0, 7, 3, 46, 172]
abbrev dktX4_keep_1 : List UInt8 := dkwX4_keep_1 ++ []
def dkwX4_keep_0 : List UInt8 := [42, 3, 181, 0, 37, 42, 4, 181, 0, 236, 3, 60, 27, 17, 0, 242, 162, 0, 21, 42, 180, 0, 16, 27]
abbrev dktX4_keep_0 : List UInt8 := dkwX4_keep_0 ++ dktX4_keep_1
theorem dksX4_keep_0 : cX4_keep.data.toList.drop 0 = dktX4_keep_0 := by decide +kernel
theorem dksX4_keep_1 : cX4_keep.data.toList.drop 24 = dktX4_keep_1 := dk_seg dksX4_keep_0 24 rfl rfl
theorem dX4_keep_0 : decode cX4_keep 0 = .ok (.aload_n 0, 1) := dk_42 (dk_at dksX4_keep_0 0 rfl rfl)
theorem dX4_keep_1 : decode cX4_keep 1 = .ok (.iconst 0, 1) := dk_3 (dk_at dksX4_keep_0 1 rfl rfl)
theorem dX4_keep_2 : decode cX4_keep 2 = .ok (.putfield 37, 3) := dk_181 0 37 (dk_at dksX4_keep_0 2 rfl rfl)
theorem dX4_keep_5 : decode cX4_keep 5 = .ok (.aload_n 0, 1) := dk_42 (dk_at dksX4_keep_0 5 rfl rfl)
theorem dX4_keep_6 : decode cX4_keep 6 = .ok (.iconst 1, 1) := dk_4 (dk_at dksX4_keep_0 6 rfl rfl)
theorem dX4_keep_7 : decode cX4_keep 7 = .ok (.putfield 236, 3) := dk_181 0 236 (dk_at dksX4_keep_0 7 rfl rfl)
theorem dX4_keep_10 : decode cX4_keep 10 = .ok (.iconst 0, 1) := dk_3 (dk_at dksX4_keep_0 10 rfl rfl)
theorem dX4_keep_11 : decode cX4_keep 11 = .ok (.istore_n 1, 1) := dk_60 (dk_at dksX4_keep_0 11 rfl rfl)
theorem dX4_keep_12 : decode cX4_keep 12 = .ok (.iload_n 1, 1) := dk_27 (dk_at dksX4_keep_0 12 rfl rfl)
theorem dX4_keep_13 : decode cX4_keep 13 = .ok (.sipush 242, 3) := dk_17 0 242 (dk_at dksX4_keep_0 13 rfl rfl)
theorem dX4_keep_16 : decode cX4_keep 16 = .ok (.if_icmp .ge 21, 3) := dk_162 0 21 (dk_at dksX4_keep_0 16 rfl rfl)
theorem dX4_keep_19 : decode cX4_keep 19 = .ok (.aload_n 0, 1) := dk_42 (dk_at dksX4_keep_0 19 rfl rfl)
theorem dX4_keep_20 : decode cX4_keep 20 = .ok (.getfield 16, 3) := dk_180 0 16 (dk_at dksX4_keep_0 20 rfl rfl)
theorem dX4_keep_23 : decode cX4_keep 23 = .ok (.iload_n 1, 1) := dk_27 (dk_at dksX4_keep_0 23 rfl rfl)
theorem dX4_keep_24 : decode cX4_keep 24 = .ok (.aload_n 0, 1) := dk_42 (dk_at dksX4_keep_1 0 rfl rfl)
theorem dX4_keep_25 : decode cX4_keep 25 = .ok (.getfield 7, 3) := dk_180 0 7 (dk_at dksX4_keep_1 1 rfl rfl)
theorem dX4_keep_28 : decode cX4_keep 28 = .ok (.iload_n 1, 1) := dk_27 (dk_at dksX4_keep_1 4 rfl rfl)
theorem dX4_keep_29 : decode cX4_keep 29 = .ok (.iaload, 1) := dk_46 (dk_at dksX4_keep_1 5 rfl rfl)
theorem dX4_keep_30 : decode cX4_keep 30 = .ok (.iastore, 1) := dk_79 (dk_at dksX4_keep_1 6 rfl rfl)
theorem dX4_keep_31 : decode cX4_keep 31 = .ok (.iinc 1 1, 3) := dk_132 1 1 (dk_at dksX4_keep_1 7 rfl rfl)
theorem dX4_keep_34 : decode cX4_keep 34 = .ok (.goto (-22), 3) := dk_167 255 234 (dk_at dksX4_keep_1 10 rfl rfl)
theorem dX4_keep_37 : decode cX4_keep 37 = .ok (.aload_n 0, 1) := dk_42 (dk_at dksX4_keep_1 13 rfl rfl)
theorem dX4_keep_38 : decode cX4_keep 38 = .ok (.getfield 7, 3) := dk_180 0 7 (dk_at dksX4_keep_1 14 rfl rfl)
theorem dX4_keep_41 : decode cX4_keep 41 = .ok (.iconst 0, 1) := dk_3 (dk_at dksX4_keep_1 17 rfl rfl)
theorem dX4_keep_42 : decode cX4_keep 42 = .ok (.iaload, 1) := dk_46 (dk_at dksX4_keep_1 18 rfl rfl)
theorem dX4_keep_43 : decode cX4_keep 43 = .ok (.ireturn, 1) := dk_172 (dk_at dksX4_keep_1 19 rfl rfl)
abbrev cX4_goBack : ByteArray := prog_17_method_110_code
def yX4_goBack : MethodName := ⟨RX4, "goBack", "()I"⟩
def dkwX4_goBack_2 : List UInt8 := [46, 79, 132, 1, 1, 167, 255, 234, 42, 180, 0, 7, 3, 46, 172]
abbrev dktX4_goBack_2 : List UInt8 := dkwX4_goBack_2 ++ []
def dkwX4_goBack_1 : List UInt8 := [172, 42, 182, 0, 71, 3, 60, 27, 17, 0, 242, 162, 0, 21, 42, 180, 0, 7, 27, 42, 180, 0, 16, 27]
abbrev dktX4_goBack_1 : List UInt8 := dkwX4_goBack_1 ++ dktX4_goBack_2
def dkwX4_goBack_0 : List UInt8 := [42, 42, 180, 0, 236, 153, 0, 7, 3, 167, 0, 4, 4, 181, 0, 37, 42, 180, 0, 37, 158, 0, 5, 3]
abbrev dktX4_goBack_0 : List UInt8 := dkwX4_goBack_0 ++ dktX4_goBack_1
theorem dksX4_goBack_0 : cX4_goBack.data.toList.drop 0 = dktX4_goBack_0 := by decide +kernel
theorem dksX4_goBack_1 : cX4_goBack.data.toList.drop 24 = dktX4_goBack_1 := dk_seg dksX4_goBack_0 24 rfl rfl
theorem dksX4_goBack_2 : cX4_goBack.data.toList.drop 48 = dktX4_goBack_2 := dk_seg dksX4_goBack_1 24 rfl rfl
theorem dX4_goBack_0 : decode cX4_goBack 0 = .ok (.aload_n 0, 1) := dk_42 (dk_at dksX4_goBack_0 0 rfl rfl)
theorem dX4_goBack_1 : decode cX4_goBack 1 = .ok (.aload_n 0, 1) := dk_42 (dk_at dksX4_goBack_0 1 rfl rfl)
theorem dX4_goBack_2 : decode cX4_goBack 2 = .ok (.getfield 236, 3) := dk_180 0 236 (dk_at dksX4_goBack_0 2 rfl rfl)
theorem dX4_goBack_5 : decode cX4_goBack 5 = .ok (.ifCond .eq 7, 3) := dk_153 0 7 (dk_at dksX4_goBack_0 5 rfl rfl)
theorem dX4_goBack_8 : decode cX4_goBack 8 = .ok (.iconst 0, 1) := dk_3 (dk_at dksX4_goBack_0 8 rfl rfl)
theorem dX4_goBack_9 : decode cX4_goBack 9 = .ok (.goto 4, 3) := dk_167 0 4 (dk_at dksX4_goBack_0 9 rfl rfl)
theorem dX4_goBack_12 : decode cX4_goBack 12 = .ok (.iconst 1, 1) := dk_4 (dk_at dksX4_goBack_0 12 rfl rfl)
theorem dX4_goBack_13 : decode cX4_goBack 13 = .ok (.putfield 37, 3) := dk_181 0 37 (dk_at dksX4_goBack_0 13 rfl rfl)
theorem dX4_goBack_16 : decode cX4_goBack 16 = .ok (.aload_n 0, 1) := dk_42 (dk_at dksX4_goBack_0 16 rfl rfl)
theorem dX4_goBack_17 : decode cX4_goBack 17 = .ok (.getfield 37, 3) := dk_180 0 37 (dk_at dksX4_goBack_0 17 rfl rfl)
theorem dX4_goBack_20 : decode cX4_goBack 20 = .ok (.ifCond .le 5, 3) := dk_158 0 5 (dk_at dksX4_goBack_0 20 rfl rfl)
theorem dX4_goBack_23 : decode cX4_goBack 23 = .ok (.iconst 0, 1) := dk_3 (dk_at dksX4_goBack_0 23 rfl rfl)
theorem dX4_goBack_24 : decode cX4_goBack 24 = .ok (.ireturn, 1) := dk_172 (dk_at dksX4_goBack_1 0 rfl rfl)
theorem dX4_goBack_25 : decode cX4_goBack 25 = .ok (.aload_n 0, 1) := dk_42 (dk_at dksX4_goBack_1 1 rfl rfl)
theorem dX4_goBack_26 : decode cX4_goBack 26 = .ok (.invokevirtual 71, 3) := dk_182 0 71 (dk_at dksX4_goBack_1 2 rfl rfl)
theorem dX4_goBack_29 : decode cX4_goBack 29 = .ok (.iconst 0, 1) := dk_3 (dk_at dksX4_goBack_1 5 rfl rfl)
theorem dX4_goBack_30 : decode cX4_goBack 30 = .ok (.istore_n 1, 1) := dk_60 (dk_at dksX4_goBack_1 6 rfl rfl)
theorem dX4_goBack_31 : decode cX4_goBack 31 = .ok (.iload_n 1, 1) := dk_27 (dk_at dksX4_goBack_1 7 rfl rfl)
theorem dX4_goBack_32 : decode cX4_goBack 32 = .ok (.sipush 242, 3) := dk_17 0 242 (dk_at dksX4_goBack_1 8 rfl rfl)
theorem dX4_goBack_35 : decode cX4_goBack 35 = .ok (.if_icmp .ge 21, 3) := dk_162 0 21 (dk_at dksX4_goBack_1 11 rfl rfl)
theorem dX4_goBack_38 : decode cX4_goBack 38 = .ok (.aload_n 0, 1) := dk_42 (dk_at dksX4_goBack_1 14 rfl rfl)
theorem dX4_goBack_39 : decode cX4_goBack 39 = .ok (.getfield 7, 3) := dk_180 0 7 (dk_at dksX4_goBack_1 15 rfl rfl)
theorem dX4_goBack_42 : decode cX4_goBack 42 = .ok (.iload_n 1, 1) := dk_27 (dk_at dksX4_goBack_1 18 rfl rfl)
theorem dX4_goBack_43 : decode cX4_goBack 43 = .ok (.aload_n 0, 1) := dk_42 (dk_at dksX4_goBack_1 19 rfl rfl)
theorem dX4_goBack_44 : decode cX4_goBack 44 = .ok (.getfield 16, 3) := dk_180 0 16 (dk_at dksX4_goBack_1 20 rfl rfl)
theorem dX4_goBack_47 : decode cX4_goBack 47 = .ok (.iload_n 1, 1) := dk_27 (dk_at dksX4_goBack_1 23 rfl rfl)
theorem dX4_goBack_48 : decode cX4_goBack 48 = .ok (.iaload, 1) := dk_46 (dk_at dksX4_goBack_2 0 rfl rfl)
theorem dX4_goBack_49 : decode cX4_goBack 49 = .ok (.iastore, 1) := dk_79 (dk_at dksX4_goBack_2 1 rfl rfl)
theorem dX4_goBack_50 : decode cX4_goBack 50 = .ok (.iinc 1 1, 3) := dk_132 1 1 (dk_at dksX4_goBack_2 2 rfl rfl)
theorem dX4_goBack_53 : decode cX4_goBack 53 = .ok (.goto (-22), 3) := dk_167 255 234 (dk_at dksX4_goBack_2 5 rfl rfl)
theorem dX4_goBack_56 : decode cX4_goBack 56 = .ok (.aload_n 0, 1) := dk_42 (dk_at dksX4_goBack_2 8 rfl rfl)
theorem dX4_goBack_57 : decode cX4_goBack 57 = .ok (.getfield 7, 3) := dk_180 0 7 (dk_at dksX4_goBack_2 9 rfl rfl)
theorem dX4_goBack_60 : decode cX4_goBack 60 = .ok (.iconst 0, 1) := dk_3 (dk_at dksX4_goBack_2 12 rfl rfl)
theorem dX4_goBack_61 : decode cX4_goBack 61 = .ok (.iaload, 1) := dk_46 (dk_at dksX4_goBack_2 13 rfl rfl)
theorem dX4_goBack_62 : decode cX4_goBack 62 = .ok (.ireturn, 1) := dk_172 (dk_at dksX4_goBack_2 14 rfl rfl)
abbrev cX4_append : ByteArray := prog_17_method_111_code
def yX4_append : MethodName := ⟨RX4, "append", "(I)I"⟩
def dkwX4_append_2 : List UInt8 := [42, 180, 0, 240, 27, 79, 42, 89, 180, 0, 240, 4, 96, 181, 0, 240, 42, 180, 0, 240, 172]
abbrev dktX4_append_2 : List UInt8 := dkwX4_append_2 ++ []
def dkwX4_append_1 : List UInt8 := [160, 0, 7, 5, 167, 0, 4, 3, 181, 0, 37, 42, 180, 0, 37, 158, 0, 5, 3, 172, 42, 180, 0, 34]
abbrev dktX4_append_1 : List UInt8 := dkwX4_append_1 ++ dktX4_append_2
def dkwX4_append_0 : List UInt8 := [42, 27, 16, 33, 16, 126, 184, 0, 44, 154, 0, 7, 4, 167, 0, 17, 42, 180, 0, 240, 16, 60]
abbrev dktX4_append_0 : List UInt8 := dkwX4_append_0 ++ dktX4_append_1
theorem dksX4_append_0 : cX4_append.data.toList.drop 0 = dktX4_append_0 := by decide +kernel
theorem dksX4_append_1 : cX4_append.data.toList.drop 22 = dktX4_append_1 := dk_seg dksX4_append_0 22 rfl rfl
theorem dksX4_append_2 : cX4_append.data.toList.drop 46 = dktX4_append_2 := dk_seg dksX4_append_1 24 rfl rfl
theorem dX4_append_0 : decode cX4_append 0 = .ok (.aload_n 0, 1) := dk_42 (dk_at dksX4_append_0 0 rfl rfl)
theorem dX4_append_1 : decode cX4_append 1 = .ok (.iload_n 1, 1) := dk_27 (dk_at dksX4_append_0 1 rfl rfl)
theorem dX4_append_2 : decode cX4_append 2 = .ok (.bipush 33, 2) := dk_16 33 (dk_at dksX4_append_0 2 rfl rfl)
theorem dX4_append_4 : decode cX4_append 4 = .ok (.bipush 126, 2) := dk_16 126 (dk_at dksX4_append_0 4 rfl rfl)
theorem dX4_append_6 : decode cX4_append 6 = .ok (.invokestatic 44, 3) := dk_184 0 44 (dk_at dksX4_append_0 6 rfl rfl)
theorem dX4_append_9 : decode cX4_append 9 = .ok (.ifCond .ne 7, 3) := dk_154 0 7 (dk_at dksX4_append_0 9 rfl rfl)
theorem dX4_append_12 : decode cX4_append 12 = .ok (.iconst 1, 1) := dk_4 (dk_at dksX4_append_0 12 rfl rfl)
theorem dX4_append_13 : decode cX4_append 13 = .ok (.goto 17, 3) := dk_167 0 17 (dk_at dksX4_append_0 13 rfl rfl)
theorem dX4_append_16 : decode cX4_append 16 = .ok (.aload_n 0, 1) := dk_42 (dk_at dksX4_append_0 16 rfl rfl)
theorem dX4_append_17 : decode cX4_append 17 = .ok (.getfield 240, 3) := dk_180 0 240 (dk_at dksX4_append_0 17 rfl rfl)
theorem dX4_append_20 : decode cX4_append 20 = .ok (.bipush 60, 2) := dk_16 60 (dk_at dksX4_append_0 20 rfl rfl)
theorem dX4_append_22 : decode cX4_append 22 = .ok (.if_icmp .ne 7, 3) := dk_160 0 7 (dk_at dksX4_append_1 0 rfl rfl)
theorem dX4_append_25 : decode cX4_append 25 = .ok (.iconst 2, 1) := dk_5 (dk_at dksX4_append_1 3 rfl rfl)
theorem dX4_append_26 : decode cX4_append 26 = .ok (.goto 4, 3) := dk_167 0 4 (dk_at dksX4_append_1 4 rfl rfl)
theorem dX4_append_29 : decode cX4_append 29 = .ok (.iconst 0, 1) := dk_3 (dk_at dksX4_append_1 7 rfl rfl)
theorem dX4_append_30 : decode cX4_append 30 = .ok (.putfield 37, 3) := dk_181 0 37 (dk_at dksX4_append_1 8 rfl rfl)
theorem dX4_append_33 : decode cX4_append 33 = .ok (.aload_n 0, 1) := dk_42 (dk_at dksX4_append_1 11 rfl rfl)
theorem dX4_append_34 : decode cX4_append 34 = .ok (.getfield 37, 3) := dk_180 0 37 (dk_at dksX4_append_1 12 rfl rfl)
theorem dX4_append_37 : decode cX4_append 37 = .ok (.ifCond .le 5, 3) := dk_158 0 5 (dk_at dksX4_append_1 15 rfl rfl)
theorem dX4_append_40 : decode cX4_append 40 = .ok (.iconst 0, 1) := dk_3 (dk_at dksX4_append_1 18 rfl rfl)
theorem dX4_append_41 : decode cX4_append 41 = .ok (.ireturn, 1) := dk_172 (dk_at dksX4_append_1 19 rfl rfl)
theorem dX4_append_42 : decode cX4_append 42 = .ok (.aload_n 0, 1) := dk_42 (dk_at dksX4_append_1 20 rfl rfl)
theorem dX4_append_43 : decode cX4_append 43 = .ok (.getfield 34, 3) := dk_180 0 34 (dk_at dksX4_append_1 21 rfl rfl)
theorem dX4_append_46 : decode cX4_append 46 = .ok (.aload_n 0, 1) := dk_42 (dk_at dksX4_append_2 0 rfl rfl)
theorem dX4_append_47 : decode cX4_append 47 = .ok (.getfield 240, 3) := dk_180 0 240 (dk_at dksX4_append_2 1 rfl rfl)
theorem dX4_append_50 : decode cX4_append 50 = .ok (.iload_n 1, 1) := dk_27 (dk_at dksX4_append_2 4 rfl rfl)
theorem dX4_append_51 : decode cX4_append 51 = .ok (.iastore, 1) := dk_79 (dk_at dksX4_append_2 5 rfl rfl)
theorem dX4_append_52 : decode cX4_append 52 = .ok (.aload_n 0, 1) := dk_42 (dk_at dksX4_append_2 6 rfl rfl)
theorem dX4_append_53 : decode cX4_append 53 = .ok (.dup, 1) := dk_89 (dk_at dksX4_append_2 7 rfl rfl)
theorem dX4_append_54 : decode cX4_append 54 = .ok (.getfield 240, 3) := dk_180 0 240 (dk_at dksX4_append_2 8 rfl rfl)
theorem dX4_append_57 : decode cX4_append 57 = .ok (.iconst 1, 1) := dk_4 (dk_at dksX4_append_2 11 rfl rfl)
theorem dX4_append_58 : decode cX4_append 58 = .ok (.iadd, 1) := dk_96 (dk_at dksX4_append_2 12 rfl rfl)
theorem dX4_append_59 : decode cX4_append 59 = .ok (.putfield 240, 3) := dk_181 0 240 (dk_at dksX4_append_2 13 rfl rfl)
theorem dX4_append_62 : decode cX4_append 62 = .ok (.aload_n 0, 1) := dk_42 (dk_at dksX4_append_2 16 rfl rfl)
theorem dX4_append_63 : decode cX4_append 63 = .ok (.getfield 240, 3) := dk_180 0 240 (dk_at dksX4_append_2 17 rfl rfl)
theorem dX4_append_66 : decode cX4_append 66 = .ok (.ireturn, 1) := dk_172 (dk_at dksX4_append_2 20 rfl rfl)
abbrev cX4_clearText : ByteArray := prog_17_method_112_code
def yX4_clearText : MethodName := ⟨RX4, "clearText", "()I"⟩
def dkwX4_clearText_0 : List UInt8 := [42, 3, 181, 0, 37, 42, 180, 0, 240, 60, 42, 3, 181, 0, 240, 27, 172]
abbrev dktX4_clearText_0 : List UInt8 := dkwX4_clearText_0 ++ []
theorem dksX4_clearText_0 : cX4_clearText.data.toList.drop 0 = dktX4_clearText_0 := by decide +kernel
theorem dX4_clearText_0 : decode cX4_clearText 0 = .ok (.aload_n 0, 1) := dk_42 (dk_at dksX4_clearText_0 0 rfl rfl)
theorem dX4_clearText_1 : decode cX4_clearText 1 = .ok (.iconst 0, 1) := dk_3 (dk_at dksX4_clearText_0 1 rfl rfl)
theorem dX4_clearText_2 : decode cX4_clearText 2 = .ok (.putfield 37, 3) := dk_181 0 37 (dk_at dksX4_clearText_0 2 rfl rfl)
theorem dX4_clearText_5 : decode cX4_clearText 5 = .ok (.aload_n 0, 1) := dk_42 (dk_at dksX4_clearText_0 5 rfl rfl)
theorem dX4_clearText_6 : decode cX4_clearText 6 = .ok (.getfield 240, 3) := dk_180 0 240 (dk_at dksX4_clearText_0 6 rfl rfl)
theorem dX4_clearText_9 : decode cX4_clearText 9 = .ok (.istore_n 1, 1) := dk_60 (dk_at dksX4_clearText_0 9 rfl rfl)
theorem dX4_clearText_10 : decode cX4_clearText 10 = .ok (.aload_n 0, 1) := dk_42 (dk_at dksX4_clearText_0 10 rfl rfl)
theorem dX4_clearText_11 : decode cX4_clearText 11 = .ok (.iconst 0, 1) := dk_3 (dk_at dksX4_clearText_0 11 rfl rfl)
theorem dX4_clearText_12 : decode cX4_clearText 12 = .ok (.putfield 240, 3) := dk_181 0 240 (dk_at dksX4_clearText_0 12 rfl rfl)
theorem dX4_clearText_15 : decode cX4_clearText 15 = .ok (.iload_n 1, 1) := dk_27 (dk_at dksX4_clearText_0 15 rfl rfl)
theorem dX4_clearText_16 : decode cX4_clearText 16 = .ok (.ireturn, 1) := dk_172 (dk_at dksX4_clearText_0 16 rfl rfl)
abbrev cX4_firstError : ByteArray := prog_17_method_121_code
def yX4_firstError : MethodName := ⟨RX4, "firstError", "()I"⟩
def dkwX4_firstError_0 : List UInt8 := [42, 3, 181, 0, 37, 42, 182, 1, 26, 172]
abbrev dktX4_firstError_0 : List UInt8 := dkwX4_firstError_0 ++ []
theorem dksX4_firstError_0 : cX4_firstError.data.toList.drop 0 = dktX4_firstError_0 := by decide +kernel
theorem dX4_firstError_0 : decode cX4_firstError 0 = .ok (.aload_n 0, 1) := dk_42 (dk_at dksX4_firstError_0 0 rfl rfl)
theorem dX4_firstError_1 : decode cX4_firstError 1 = .ok (.iconst 0, 1) := dk_3 (dk_at dksX4_firstError_0 1 rfl rfl)
theorem dX4_firstError_2 : decode cX4_firstError 2 = .ok (.putfield 37, 3) := dk_181 0 37 (dk_at dksX4_firstError_0 2 rfl rfl)
theorem dX4_firstError_5 : decode cX4_firstError 5 = .ok (.aload_n 0, 1) := dk_42 (dk_at dksX4_firstError_0 5 rfl rfl)
theorem dX4_firstError_6 : decode cX4_firstError 6 = .ok (.invokevirtual 282, 3) := dk_182 1 26 (dk_at dksX4_firstError_0 6 rfl rfl)
theorem dX4_firstError_9 : decode cX4_firstError 9 = .ok (.ireturn, 1) := dk_172 (dk_at dksX4_firstError_0 9 rfl rfl)
abbrev cX4_findError : ByteArray := prog_17_method_120_code
def yX4_findError : MethodName := ⟨RX4, "findError", "()I"⟩
def dkwX4_findError_2 : List UInt8 := [180, 0, 243, 172, 42, 89, 180, 0, 243, 4, 96, 181, 0, 243, 167, 255, 202]
abbrev dktX4_findError_2 : List UInt8 := dkwX4_findError_2 ++ []
def dkwX4_findError_1 : List UInt8 := [180, 0, 240, 160, 0, 5, 2, 172, 42, 180, 0, 34, 42, 180, 0, 243, 46, 16, 59, 159, 0, 8, 42]
abbrev dktX4_findError_1 : List UInt8 := dkwX4_findError_1 ++ dktX4_findError_2
def dkwX4_findError_0 : List UInt8 := [42, 3, 181, 0, 243, 42, 182, 1, 23, 154, 0, 8, 42, 180, 0, 243, 172, 42, 180, 0, 243, 42]
abbrev dktX4_findError_0 : List UInt8 := dkwX4_findError_0 ++ dktX4_findError_1
theorem dksX4_findError_0 : cX4_findError.data.toList.drop 0 = dktX4_findError_0 := by decide +kernel
theorem dksX4_findError_1 : cX4_findError.data.toList.drop 22 = dktX4_findError_1 := dk_seg dksX4_findError_0 22 rfl rfl
theorem dksX4_findError_2 : cX4_findError.data.toList.drop 45 = dktX4_findError_2 := dk_seg dksX4_findError_1 23 rfl rfl
theorem dX4_findError_0 : decode cX4_findError 0 = .ok (.aload_n 0, 1) := dk_42 (dk_at dksX4_findError_0 0 rfl rfl)
theorem dX4_findError_1 : decode cX4_findError 1 = .ok (.iconst 0, 1) := dk_3 (dk_at dksX4_findError_0 1 rfl rfl)
theorem dX4_findError_2 : decode cX4_findError 2 = .ok (.putfield 243, 3) := dk_181 0 243 (dk_at dksX4_findError_0 2 rfl rfl)
theorem dX4_findError_5 : decode cX4_findError 5 = .ok (.aload_n 0, 1) := dk_42 (dk_at dksX4_findError_0 5 rfl rfl)
theorem dX4_findError_6 : decode cX4_findError 6 = .ok (.invokevirtual 279, 3) := dk_182 1 23 (dk_at dksX4_findError_0 6 rfl rfl)
theorem dX4_findError_9 : decode cX4_findError 9 = .ok (.ifCond .ne 8, 3) := dk_154 0 8 (dk_at dksX4_findError_0 9 rfl rfl)
theorem dX4_findError_12 : decode cX4_findError 12 = .ok (.aload_n 0, 1) := dk_42 (dk_at dksX4_findError_0 12 rfl rfl)
theorem dX4_findError_13 : decode cX4_findError 13 = .ok (.getfield 243, 3) := dk_180 0 243 (dk_at dksX4_findError_0 13 rfl rfl)
theorem dX4_findError_16 : decode cX4_findError 16 = .ok (.ireturn, 1) := dk_172 (dk_at dksX4_findError_0 16 rfl rfl)
theorem dX4_findError_17 : decode cX4_findError 17 = .ok (.aload_n 0, 1) := dk_42 (dk_at dksX4_findError_0 17 rfl rfl)
theorem dX4_findError_18 : decode cX4_findError 18 = .ok (.getfield 243, 3) := dk_180 0 243 (dk_at dksX4_findError_0 18 rfl rfl)
theorem dX4_findError_21 : decode cX4_findError 21 = .ok (.aload_n 0, 1) := dk_42 (dk_at dksX4_findError_0 21 rfl rfl)
theorem dX4_findError_22 : decode cX4_findError 22 = .ok (.getfield 240, 3) := dk_180 0 240 (dk_at dksX4_findError_1 0 rfl rfl)
theorem dX4_findError_25 : decode cX4_findError 25 = .ok (.if_icmp .ne 5, 3) := dk_160 0 5 (dk_at dksX4_findError_1 3 rfl rfl)
theorem dX4_findError_28 : decode cX4_findError 28 = .ok (.iconst (-1), 1) := dk_2 (dk_at dksX4_findError_1 6 rfl rfl)
theorem dX4_findError_29 : decode cX4_findError 29 = .ok (.ireturn, 1) := dk_172 (dk_at dksX4_findError_1 7 rfl rfl)
theorem dX4_findError_30 : decode cX4_findError 30 = .ok (.aload_n 0, 1) := dk_42 (dk_at dksX4_findError_1 8 rfl rfl)
theorem dX4_findError_31 : decode cX4_findError 31 = .ok (.getfield 34, 3) := dk_180 0 34 (dk_at dksX4_findError_1 9 rfl rfl)
theorem dX4_findError_34 : decode cX4_findError 34 = .ok (.aload_n 0, 1) := dk_42 (dk_at dksX4_findError_1 12 rfl rfl)
theorem dX4_findError_35 : decode cX4_findError 35 = .ok (.getfield 243, 3) := dk_180 0 243 (dk_at dksX4_findError_1 13 rfl rfl)
theorem dX4_findError_38 : decode cX4_findError 38 = .ok (.iaload, 1) := dk_46 (dk_at dksX4_findError_1 16 rfl rfl)
theorem dX4_findError_39 : decode cX4_findError 39 = .ok (.bipush 59, 2) := dk_16 59 (dk_at dksX4_findError_1 17 rfl rfl)
theorem dX4_findError_41 : decode cX4_findError 41 = .ok (.if_icmp .eq 8, 3) := dk_159 0 8 (dk_at dksX4_findError_1 19 rfl rfl)
theorem dX4_findError_44 : decode cX4_findError 44 = .ok (.aload_n 0, 1) := dk_42 (dk_at dksX4_findError_1 22 rfl rfl)
theorem dX4_findError_45 : decode cX4_findError 45 = .ok (.getfield 243, 3) := dk_180 0 243 (dk_at dksX4_findError_2 0 rfl rfl)
theorem dX4_findError_48 : decode cX4_findError 48 = .ok (.ireturn, 1) := dk_172 (dk_at dksX4_findError_2 3 rfl rfl)
theorem dX4_findError_49 : decode cX4_findError 49 = .ok (.aload_n 0, 1) := dk_42 (dk_at dksX4_findError_2 4 rfl rfl)
theorem dX4_findError_50 : decode cX4_findError 50 = .ok (.dup, 1) := dk_89 (dk_at dksX4_findError_2 5 rfl rfl)
theorem dX4_findError_51 : decode cX4_findError 51 = .ok (.getfield 243, 3) := dk_180 0 243 (dk_at dksX4_findError_2 6 rfl rfl)
theorem dX4_findError_54 : decode cX4_findError 54 = .ok (.iconst 1, 1) := dk_4 (dk_at dksX4_findError_2 9 rfl rfl)
theorem dX4_findError_55 : decode cX4_findError 55 = .ok (.iadd, 1) := dk_96 (dk_at dksX4_findError_2 10 rfl rfl)
theorem dX4_findError_56 : decode cX4_findError 56 = .ok (.putfield 243, 3) := dk_181 0 243 (dk_at dksX4_findError_2 11 rfl rfl)
theorem dX4_findError_59 : decode cX4_findError 59 = .ok (.goto (-54), 3) := dk_167 255 202 (dk_at dksX4_findError_2 14 rfl rfl)
abbrev cX4_readsItem : ByteArray := prog_17_method_119_code
def yX4_readsItem : MethodName := ⟨RX4, "readsItem", "()Z"⟩
def dkwX4_readsItem_10 : List UInt8 := [17, 3, 232, 182, 0, 252, 153, 0, 7, 4, 167, 0, 11, 3, 167, 0, 7, 42, 182, 1, 20, 172]
abbrev dktX4_readsItem_10 : List UInt8 := dkwX4_readsItem_10 ++ []
def dkwX4_readsItem_9 : List UInt8 := [160, 0, 40, 42, 182, 1, 5, 153, 0, 29, 42, 16, 58, 16, 58, 182, 0, 246, 153, 0, 18, 42, 3]
abbrev dktX4_readsItem_9 : List UInt8 := dkwX4_readsItem_9 ++ dktX4_readsItem_10
def dkwX4_readsItem_8 : List UInt8 := [153, 0, 14, 42, 182, 1, 17, 153, 0, 7, 4, 167, 0, 57, 3, 167, 0, 53, 42, 180, 1, 14, 16, 102]
abbrev dktX4_readsItem_8 : List UInt8 := dkwX4_readsItem_8 ++ dktX4_readsItem_9
def dkwX4_readsItem_7 : List UInt8 := [180, 1, 14, 16, 118, 160, 0, 36, 42, 182, 1, 5, 153, 0, 25, 42, 16, 58, 16, 58, 182, 0, 246]
abbrev dktX4_readsItem_7 : List UInt8 := dkwX4_readsItem_7 ++ dktX4_readsItem_8
def dkwX4_readsItem_6 : List UInt8 := [182, 1, 5, 153, 0, 14, 42, 182, 1, 11, 153, 0, 7, 4, 167, 0, 99, 3, 167, 0, 95, 42]
abbrev dktX4_readsItem_6 : List UInt8 := dkwX4_readsItem_6 ++ dktX4_readsItem_7
def dkwX4_readsItem_5 : List UInt8 := [160, 0, 14, 42, 4, 17, 3, 231, 182, 0, 252, 167, 0, 126, 42, 180, 1, 14, 16, 120, 160, 0, 25, 42]
abbrev dktX4_readsItem_5 : List UInt8 := dkwX4_readsItem_5 ++ dktX4_readsItem_6
def dkwX4_readsItem_4 : List UInt8 := [180, 1, 14, 16, 110, 160, 0, 12, 42, 3, 8, 182, 0, 252, 167, 0, 146, 42, 180, 1, 14, 16, 43]
abbrev dktX4_readsItem_4 : List UInt8 := dkwX4_readsItem_4 ++ dktX4_readsItem_5
def dkwX4_readsItem_3 : List UInt8 := [160, 0, 16, 42, 89, 180, 0, 243, 4, 96, 181, 0, 243, 167, 0, 9, 42, 16, 62, 181, 1, 14, 42]
abbrev dktX4_readsItem_3 : List UInt8 := dkwX4_readsItem_3 ++ dktX4_readsItem_4
def dkwX4_readsItem_2 : List UInt8 := [180, 1, 14, 16, 118, 159, 0, 21, 42, 180, 1, 14, 16, 102, 159, 0, 12, 42, 180, 1, 14, 16, 43]
abbrev dktX4_readsItem_2 : List UInt8 := dkwX4_readsItem_2 ++ dktX4_readsItem_3
def dkwX4_readsItem_1 : List UInt8 := [2, 181, 1, 14, 42, 180, 1, 14, 16, 110, 159, 0, 39, 42, 180, 1, 14, 16, 120, 159, 0, 30, 42]
abbrev dktX4_readsItem_1 : List UInt8 := dkwX4_readsItem_1 ++ dktX4_readsItem_2
def dkwX4_readsItem_0 : List UInt8 := [42, 42, 180, 0, 243, 42, 180, 0, 240, 162, 0, 15, 42, 180, 0, 34, 42, 180, 0, 243, 46, 167, 0, 4]
abbrev dktX4_readsItem_0 : List UInt8 := dkwX4_readsItem_0 ++ dktX4_readsItem_1
theorem dksX4_readsItem_0 : cX4_readsItem.data.toList.drop 0 = dktX4_readsItem_0 := by decide +kernel
theorem dksX4_readsItem_1 : cX4_readsItem.data.toList.drop 24 = dktX4_readsItem_1 := dk_seg dksX4_readsItem_0 24 rfl rfl
theorem dksX4_readsItem_2 : cX4_readsItem.data.toList.drop 47 = dktX4_readsItem_2 := dk_seg dksX4_readsItem_1 23 rfl rfl
theorem dksX4_readsItem_3 : cX4_readsItem.data.toList.drop 70 = dktX4_readsItem_3 := dk_seg dksX4_readsItem_2 23 rfl rfl
theorem dksX4_readsItem_4 : cX4_readsItem.data.toList.drop 93 = dktX4_readsItem_4 := dk_seg dksX4_readsItem_3 23 rfl rfl
theorem dksX4_readsItem_5 : cX4_readsItem.data.toList.drop 116 = dktX4_readsItem_5 := dk_seg dksX4_readsItem_4 23 rfl rfl
theorem dksX4_readsItem_6 : cX4_readsItem.data.toList.drop 140 = dktX4_readsItem_6 := dk_seg dksX4_readsItem_5 24 rfl rfl
theorem dksX4_readsItem_7 : cX4_readsItem.data.toList.drop 162 = dktX4_readsItem_7 := dk_seg dksX4_readsItem_6 22 rfl rfl
theorem dksX4_readsItem_8 : cX4_readsItem.data.toList.drop 185 = dktX4_readsItem_8 := dk_seg dksX4_readsItem_7 23 rfl rfl
theorem dksX4_readsItem_9 : cX4_readsItem.data.toList.drop 209 = dktX4_readsItem_9 := dk_seg dksX4_readsItem_8 24 rfl rfl
theorem dksX4_readsItem_10 : cX4_readsItem.data.toList.drop 232 = dktX4_readsItem_10 := dk_seg dksX4_readsItem_9 23 rfl rfl
theorem dX4_readsItem_0 : decode cX4_readsItem 0 = .ok (.aload_n 0, 1) := dk_42 (dk_at dksX4_readsItem_0 0 rfl rfl)
theorem dX4_readsItem_1 : decode cX4_readsItem 1 = .ok (.aload_n 0, 1) := dk_42 (dk_at dksX4_readsItem_0 1 rfl rfl)
theorem dX4_readsItem_2 : decode cX4_readsItem 2 = .ok (.getfield 243, 3) := dk_180 0 243 (dk_at dksX4_readsItem_0 2 rfl rfl)
theorem dX4_readsItem_5 : decode cX4_readsItem 5 = .ok (.aload_n 0, 1) := dk_42 (dk_at dksX4_readsItem_0 5 rfl rfl)
theorem dX4_readsItem_6 : decode cX4_readsItem 6 = .ok (.getfield 240, 3) := dk_180 0 240 (dk_at dksX4_readsItem_0 6 rfl rfl)
theorem dX4_readsItem_9 : decode cX4_readsItem 9 = .ok (.if_icmp .ge 15, 3) := dk_162 0 15 (dk_at dksX4_readsItem_0 9 rfl rfl)
theorem dX4_readsItem_12 : decode cX4_readsItem 12 = .ok (.aload_n 0, 1) := dk_42 (dk_at dksX4_readsItem_0 12 rfl rfl)
theorem dX4_readsItem_13 : decode cX4_readsItem 13 = .ok (.getfield 34, 3) := dk_180 0 34 (dk_at dksX4_readsItem_0 13 rfl rfl)
theorem dX4_readsItem_16 : decode cX4_readsItem 16 = .ok (.aload_n 0, 1) := dk_42 (dk_at dksX4_readsItem_0 16 rfl rfl)
theorem dX4_readsItem_17 : decode cX4_readsItem 17 = .ok (.getfield 243, 3) := dk_180 0 243 (dk_at dksX4_readsItem_0 17 rfl rfl)
theorem dX4_readsItem_20 : decode cX4_readsItem 20 = .ok (.iaload, 1) := dk_46 (dk_at dksX4_readsItem_0 20 rfl rfl)
theorem dX4_readsItem_21 : decode cX4_readsItem 21 = .ok (.goto 4, 3) := dk_167 0 4 (dk_at dksX4_readsItem_0 21 rfl rfl)
theorem dX4_readsItem_24 : decode cX4_readsItem 24 = .ok (.iconst (-1), 1) := dk_2 (dk_at dksX4_readsItem_1 0 rfl rfl)
theorem dX4_readsItem_25 : decode cX4_readsItem 25 = .ok (.putfield 270, 3) := dk_181 1 14 (dk_at dksX4_readsItem_1 1 rfl rfl)
theorem dX4_readsItem_28 : decode cX4_readsItem 28 = .ok (.aload_n 0, 1) := dk_42 (dk_at dksX4_readsItem_1 4 rfl rfl)
theorem dX4_readsItem_29 : decode cX4_readsItem 29 = .ok (.getfield 270, 3) := dk_180 1 14 (dk_at dksX4_readsItem_1 5 rfl rfl)
theorem dX4_readsItem_32 : decode cX4_readsItem 32 = .ok (.bipush 110, 2) := dk_16 110 (dk_at dksX4_readsItem_1 8 rfl rfl)
theorem dX4_readsItem_34 : decode cX4_readsItem 34 = .ok (.if_icmp .eq 39, 3) := dk_159 0 39 (dk_at dksX4_readsItem_1 10 rfl rfl)
theorem dX4_readsItem_37 : decode cX4_readsItem 37 = .ok (.aload_n 0, 1) := dk_42 (dk_at dksX4_readsItem_1 13 rfl rfl)
theorem dX4_readsItem_38 : decode cX4_readsItem 38 = .ok (.getfield 270, 3) := dk_180 1 14 (dk_at dksX4_readsItem_1 14 rfl rfl)
theorem dX4_readsItem_41 : decode cX4_readsItem 41 = .ok (.bipush 120, 2) := dk_16 120 (dk_at dksX4_readsItem_1 17 rfl rfl)
theorem dX4_readsItem_43 : decode cX4_readsItem 43 = .ok (.if_icmp .eq 30, 3) := dk_159 0 30 (dk_at dksX4_readsItem_1 19 rfl rfl)
theorem dX4_readsItem_46 : decode cX4_readsItem 46 = .ok (.aload_n 0, 1) := dk_42 (dk_at dksX4_readsItem_1 22 rfl rfl)
theorem dX4_readsItem_47 : decode cX4_readsItem 47 = .ok (.getfield 270, 3) := dk_180 1 14 (dk_at dksX4_readsItem_2 0 rfl rfl)
theorem dX4_readsItem_50 : decode cX4_readsItem 50 = .ok (.bipush 118, 2) := dk_16 118 (dk_at dksX4_readsItem_2 3 rfl rfl)
theorem dX4_readsItem_52 : decode cX4_readsItem 52 = .ok (.if_icmp .eq 21, 3) := dk_159 0 21 (dk_at dksX4_readsItem_2 5 rfl rfl)
theorem dX4_readsItem_55 : decode cX4_readsItem 55 = .ok (.aload_n 0, 1) := dk_42 (dk_at dksX4_readsItem_2 8 rfl rfl)
theorem dX4_readsItem_56 : decode cX4_readsItem 56 = .ok (.getfield 270, 3) := dk_180 1 14 (dk_at dksX4_readsItem_2 9 rfl rfl)
theorem dX4_readsItem_59 : decode cX4_readsItem 59 = .ok (.bipush 102, 2) := dk_16 102 (dk_at dksX4_readsItem_2 12 rfl rfl)
theorem dX4_readsItem_61 : decode cX4_readsItem 61 = .ok (.if_icmp .eq 12, 3) := dk_159 0 12 (dk_at dksX4_readsItem_2 14 rfl rfl)
theorem dX4_readsItem_64 : decode cX4_readsItem 64 = .ok (.aload_n 0, 1) := dk_42 (dk_at dksX4_readsItem_2 17 rfl rfl)
theorem dX4_readsItem_65 : decode cX4_readsItem 65 = .ok (.getfield 270, 3) := dk_180 1 14 (dk_at dksX4_readsItem_2 18 rfl rfl)
theorem dX4_readsItem_68 : decode cX4_readsItem 68 = .ok (.bipush 43, 2) := dk_16 43 (dk_at dksX4_readsItem_2 21 rfl rfl)
theorem dX4_readsItem_70 : decode cX4_readsItem 70 = .ok (.if_icmp .ne 16, 3) := dk_160 0 16 (dk_at dksX4_readsItem_3 0 rfl rfl)
theorem dX4_readsItem_73 : decode cX4_readsItem 73 = .ok (.aload_n 0, 1) := dk_42 (dk_at dksX4_readsItem_3 3 rfl rfl)
theorem dX4_readsItem_74 : decode cX4_readsItem 74 = .ok (.dup, 1) := dk_89 (dk_at dksX4_readsItem_3 4 rfl rfl)
theorem dX4_readsItem_75 : decode cX4_readsItem 75 = .ok (.getfield 243, 3) := dk_180 0 243 (dk_at dksX4_readsItem_3 5 rfl rfl)
theorem dX4_readsItem_78 : decode cX4_readsItem 78 = .ok (.iconst 1, 1) := dk_4 (dk_at dksX4_readsItem_3 8 rfl rfl)
theorem dX4_readsItem_79 : decode cX4_readsItem 79 = .ok (.iadd, 1) := dk_96 (dk_at dksX4_readsItem_3 9 rfl rfl)
theorem dX4_readsItem_80 : decode cX4_readsItem 80 = .ok (.putfield 243, 3) := dk_181 0 243 (dk_at dksX4_readsItem_3 10 rfl rfl)
theorem dX4_readsItem_83 : decode cX4_readsItem 83 = .ok (.goto 9, 3) := dk_167 0 9 (dk_at dksX4_readsItem_3 13 rfl rfl)
theorem dX4_readsItem_86 : decode cX4_readsItem 86 = .ok (.aload_n 0, 1) := dk_42 (dk_at dksX4_readsItem_3 16 rfl rfl)
theorem dX4_readsItem_87 : decode cX4_readsItem 87 = .ok (.bipush 62, 2) := dk_16 62 (dk_at dksX4_readsItem_3 17 rfl rfl)
theorem dX4_readsItem_89 : decode cX4_readsItem 89 = .ok (.putfield 270, 3) := dk_181 1 14 (dk_at dksX4_readsItem_3 19 rfl rfl)
theorem dX4_readsItem_92 : decode cX4_readsItem 92 = .ok (.aload_n 0, 1) := dk_42 (dk_at dksX4_readsItem_3 22 rfl rfl)
theorem dX4_readsItem_93 : decode cX4_readsItem 93 = .ok (.getfield 270, 3) := dk_180 1 14 (dk_at dksX4_readsItem_4 0 rfl rfl)
theorem dX4_readsItem_96 : decode cX4_readsItem 96 = .ok (.bipush 110, 2) := dk_16 110 (dk_at dksX4_readsItem_4 3 rfl rfl)
theorem dX4_readsItem_98 : decode cX4_readsItem 98 = .ok (.if_icmp .ne 12, 3) := dk_160 0 12 (dk_at dksX4_readsItem_4 5 rfl rfl)
theorem dX4_readsItem_101 : decode cX4_readsItem 101 = .ok (.aload_n 0, 1) := dk_42 (dk_at dksX4_readsItem_4 8 rfl rfl)
theorem dX4_readsItem_102 : decode cX4_readsItem 102 = .ok (.iconst 0, 1) := dk_3 (dk_at dksX4_readsItem_4 9 rfl rfl)
theorem dX4_readsItem_103 : decode cX4_readsItem 103 = .ok (.iconst 5, 1) := dk_8 (dk_at dksX4_readsItem_4 10 rfl rfl)
theorem dX4_readsItem_104 : decode cX4_readsItem 104 = .ok (.invokevirtual 252, 3) := dk_182 0 252 (dk_at dksX4_readsItem_4 11 rfl rfl)
theorem dX4_readsItem_107 : decode cX4_readsItem 107 = .ok (.goto 146, 3) := dk_167 0 146 (dk_at dksX4_readsItem_4 14 rfl rfl)
theorem dX4_readsItem_110 : decode cX4_readsItem 110 = .ok (.aload_n 0, 1) := dk_42 (dk_at dksX4_readsItem_4 17 rfl rfl)
theorem dX4_readsItem_111 : decode cX4_readsItem 111 = .ok (.getfield 270, 3) := dk_180 1 14 (dk_at dksX4_readsItem_4 18 rfl rfl)
theorem dX4_readsItem_114 : decode cX4_readsItem 114 = .ok (.bipush 43, 2) := dk_16 43 (dk_at dksX4_readsItem_4 21 rfl rfl)
theorem dX4_readsItem_116 : decode cX4_readsItem 116 = .ok (.if_icmp .ne 14, 3) := dk_160 0 14 (dk_at dksX4_readsItem_5 0 rfl rfl)
theorem dX4_readsItem_119 : decode cX4_readsItem 119 = .ok (.aload_n 0, 1) := dk_42 (dk_at dksX4_readsItem_5 3 rfl rfl)
theorem dX4_readsItem_120 : decode cX4_readsItem 120 = .ok (.iconst 1, 1) := dk_4 (dk_at dksX4_readsItem_5 4 rfl rfl)
theorem dX4_readsItem_121 : decode cX4_readsItem 121 = .ok (.sipush 999, 3) := dk_17 3 231 (dk_at dksX4_readsItem_5 5 rfl rfl)
theorem dX4_readsItem_124 : decode cX4_readsItem 124 = .ok (.invokevirtual 252, 3) := dk_182 0 252 (dk_at dksX4_readsItem_5 8 rfl rfl)
theorem dX4_readsItem_127 : decode cX4_readsItem 127 = .ok (.goto 126, 3) := dk_167 0 126 (dk_at dksX4_readsItem_5 11 rfl rfl)
theorem dX4_readsItem_130 : decode cX4_readsItem 130 = .ok (.aload_n 0, 1) := dk_42 (dk_at dksX4_readsItem_5 14 rfl rfl)
theorem dX4_readsItem_131 : decode cX4_readsItem 131 = .ok (.getfield 270, 3) := dk_180 1 14 (dk_at dksX4_readsItem_5 15 rfl rfl)
theorem dX4_readsItem_134 : decode cX4_readsItem 134 = .ok (.bipush 120, 2) := dk_16 120 (dk_at dksX4_readsItem_5 18 rfl rfl)
theorem dX4_readsItem_136 : decode cX4_readsItem 136 = .ok (.if_icmp .ne 25, 3) := dk_160 0 25 (dk_at dksX4_readsItem_5 20 rfl rfl)
theorem dX4_readsItem_139 : decode cX4_readsItem 139 = .ok (.aload_n 0, 1) := dk_42 (dk_at dksX4_readsItem_5 23 rfl rfl)
theorem dX4_readsItem_140 : decode cX4_readsItem 140 = .ok (.invokevirtual 261, 3) := dk_182 1 5 (dk_at dksX4_readsItem_6 0 rfl rfl)
theorem dX4_readsItem_143 : decode cX4_readsItem 143 = .ok (.ifCond .eq 14, 3) := dk_153 0 14 (dk_at dksX4_readsItem_6 3 rfl rfl)
theorem dX4_readsItem_146 : decode cX4_readsItem 146 = .ok (.aload_n 0, 1) := dk_42 (dk_at dksX4_readsItem_6 6 rfl rfl)
theorem dX4_readsItem_147 : decode cX4_readsItem 147 = .ok (.invokevirtual 267, 3) := dk_182 1 11 (dk_at dksX4_readsItem_6 7 rfl rfl)
theorem dX4_readsItem_150 : decode cX4_readsItem 150 = .ok (.ifCond .eq 7, 3) := dk_153 0 7 (dk_at dksX4_readsItem_6 10 rfl rfl)
theorem dX4_readsItem_153 : decode cX4_readsItem 153 = .ok (.iconst 1, 1) := dk_4 (dk_at dksX4_readsItem_6 13 rfl rfl)
theorem dX4_readsItem_154 : decode cX4_readsItem 154 = .ok (.goto 99, 3) := dk_167 0 99 (dk_at dksX4_readsItem_6 14 rfl rfl)
theorem dX4_readsItem_157 : decode cX4_readsItem 157 = .ok (.iconst 0, 1) := dk_3 (dk_at dksX4_readsItem_6 17 rfl rfl)
theorem dX4_readsItem_158 : decode cX4_readsItem 158 = .ok (.goto 95, 3) := dk_167 0 95 (dk_at dksX4_readsItem_6 18 rfl rfl)
theorem dX4_readsItem_161 : decode cX4_readsItem 161 = .ok (.aload_n 0, 1) := dk_42 (dk_at dksX4_readsItem_6 21 rfl rfl)
theorem dX4_readsItem_162 : decode cX4_readsItem 162 = .ok (.getfield 270, 3) := dk_180 1 14 (dk_at dksX4_readsItem_7 0 rfl rfl)
theorem dX4_readsItem_165 : decode cX4_readsItem 165 = .ok (.bipush 118, 2) := dk_16 118 (dk_at dksX4_readsItem_7 3 rfl rfl)
theorem dX4_readsItem_167 : decode cX4_readsItem 167 = .ok (.if_icmp .ne 36, 3) := dk_160 0 36 (dk_at dksX4_readsItem_7 5 rfl rfl)
theorem dX4_readsItem_170 : decode cX4_readsItem 170 = .ok (.aload_n 0, 1) := dk_42 (dk_at dksX4_readsItem_7 8 rfl rfl)
theorem dX4_readsItem_171 : decode cX4_readsItem 171 = .ok (.invokevirtual 261, 3) := dk_182 1 5 (dk_at dksX4_readsItem_7 9 rfl rfl)
theorem dX4_readsItem_174 : decode cX4_readsItem 174 = .ok (.ifCond .eq 25, 3) := dk_153 0 25 (dk_at dksX4_readsItem_7 12 rfl rfl)
theorem dX4_readsItem_177 : decode cX4_readsItem 177 = .ok (.aload_n 0, 1) := dk_42 (dk_at dksX4_readsItem_7 15 rfl rfl)
theorem dX4_readsItem_178 : decode cX4_readsItem 178 = .ok (.bipush 58, 2) := dk_16 58 (dk_at dksX4_readsItem_7 16 rfl rfl)
theorem dX4_readsItem_180 : decode cX4_readsItem 180 = .ok (.bipush 58, 2) := dk_16 58 (dk_at dksX4_readsItem_7 18 rfl rfl)
theorem dX4_readsItem_182 : decode cX4_readsItem 182 = .ok (.invokevirtual 246, 3) := dk_182 0 246 (dk_at dksX4_readsItem_7 20 rfl rfl)
theorem dX4_readsItem_185 : decode cX4_readsItem 185 = .ok (.ifCond .eq 14, 3) := dk_153 0 14 (dk_at dksX4_readsItem_8 0 rfl rfl)
theorem dX4_readsItem_188 : decode cX4_readsItem 188 = .ok (.aload_n 0, 1) := dk_42 (dk_at dksX4_readsItem_8 3 rfl rfl)
theorem dX4_readsItem_189 : decode cX4_readsItem 189 = .ok (.invokevirtual 273, 3) := dk_182 1 17 (dk_at dksX4_readsItem_8 4 rfl rfl)
theorem dX4_readsItem_192 : decode cX4_readsItem 192 = .ok (.ifCond .eq 7, 3) := dk_153 0 7 (dk_at dksX4_readsItem_8 7 rfl rfl)
theorem dX4_readsItem_195 : decode cX4_readsItem 195 = .ok (.iconst 1, 1) := dk_4 (dk_at dksX4_readsItem_8 10 rfl rfl)
theorem dX4_readsItem_196 : decode cX4_readsItem 196 = .ok (.goto 57, 3) := dk_167 0 57 (dk_at dksX4_readsItem_8 11 rfl rfl)
theorem dX4_readsItem_199 : decode cX4_readsItem 199 = .ok (.iconst 0, 1) := dk_3 (dk_at dksX4_readsItem_8 14 rfl rfl)
theorem dX4_readsItem_200 : decode cX4_readsItem 200 = .ok (.goto 53, 3) := dk_167 0 53 (dk_at dksX4_readsItem_8 15 rfl rfl)
theorem dX4_readsItem_203 : decode cX4_readsItem 203 = .ok (.aload_n 0, 1) := dk_42 (dk_at dksX4_readsItem_8 18 rfl rfl)
theorem dX4_readsItem_204 : decode cX4_readsItem 204 = .ok (.getfield 270, 3) := dk_180 1 14 (dk_at dksX4_readsItem_8 19 rfl rfl)
theorem dX4_readsItem_207 : decode cX4_readsItem 207 = .ok (.bipush 102, 2) := dk_16 102 (dk_at dksX4_readsItem_8 22 rfl rfl)
theorem dX4_readsItem_209 : decode cX4_readsItem 209 = .ok (.if_icmp .ne 40, 3) := dk_160 0 40 (dk_at dksX4_readsItem_9 0 rfl rfl)
theorem dX4_readsItem_212 : decode cX4_readsItem 212 = .ok (.aload_n 0, 1) := dk_42 (dk_at dksX4_readsItem_9 3 rfl rfl)
theorem dX4_readsItem_213 : decode cX4_readsItem 213 = .ok (.invokevirtual 261, 3) := dk_182 1 5 (dk_at dksX4_readsItem_9 4 rfl rfl)
theorem dX4_readsItem_216 : decode cX4_readsItem 216 = .ok (.ifCond .eq 29, 3) := dk_153 0 29 (dk_at dksX4_readsItem_9 7 rfl rfl)
theorem dX4_readsItem_219 : decode cX4_readsItem 219 = .ok (.aload_n 0, 1) := dk_42 (dk_at dksX4_readsItem_9 10 rfl rfl)
theorem dX4_readsItem_220 : decode cX4_readsItem 220 = .ok (.bipush 58, 2) := dk_16 58 (dk_at dksX4_readsItem_9 11 rfl rfl)
theorem dX4_readsItem_222 : decode cX4_readsItem 222 = .ok (.bipush 58, 2) := dk_16 58 (dk_at dksX4_readsItem_9 13 rfl rfl)
theorem dX4_readsItem_224 : decode cX4_readsItem 224 = .ok (.invokevirtual 246, 3) := dk_182 0 246 (dk_at dksX4_readsItem_9 15 rfl rfl)
theorem dX4_readsItem_227 : decode cX4_readsItem 227 = .ok (.ifCond .eq 18, 3) := dk_153 0 18 (dk_at dksX4_readsItem_9 18 rfl rfl)
theorem dX4_readsItem_230 : decode cX4_readsItem 230 = .ok (.aload_n 0, 1) := dk_42 (dk_at dksX4_readsItem_9 21 rfl rfl)
theorem dX4_readsItem_231 : decode cX4_readsItem 231 = .ok (.iconst 0, 1) := dk_3 (dk_at dksX4_readsItem_9 22 rfl rfl)
theorem dX4_readsItem_232 : decode cX4_readsItem 232 = .ok (.sipush 1000, 3) := dk_17 3 232 (dk_at dksX4_readsItem_10 0 rfl rfl)
theorem dX4_readsItem_235 : decode cX4_readsItem 235 = .ok (.invokevirtual 252, 3) := dk_182 0 252 (dk_at dksX4_readsItem_10 3 rfl rfl)
theorem dX4_readsItem_238 : decode cX4_readsItem 238 = .ok (.ifCond .eq 7, 3) := dk_153 0 7 (dk_at dksX4_readsItem_10 6 rfl rfl)
theorem dX4_readsItem_241 : decode cX4_readsItem 241 = .ok (.iconst 1, 1) := dk_4 (dk_at dksX4_readsItem_10 9 rfl rfl)
theorem dX4_readsItem_242 : decode cX4_readsItem 242 = .ok (.goto 11, 3) := dk_167 0 11 (dk_at dksX4_readsItem_10 10 rfl rfl)
theorem dX4_readsItem_245 : decode cX4_readsItem 245 = .ok (.iconst 0, 1) := dk_3 (dk_at dksX4_readsItem_10 13 rfl rfl)
theorem dX4_readsItem_246 : decode cX4_readsItem 246 = .ok (.goto 7, 3) := dk_167 0 7 (dk_at dksX4_readsItem_10 14 rfl rfl)
theorem dX4_readsItem_249 : decode cX4_readsItem 249 = .ok (.aload_n 0, 1) := dk_42 (dk_at dksX4_readsItem_10 17 rfl rfl)
theorem dX4_readsItem_250 : decode cX4_readsItem 250 = .ok (.invokevirtual 276, 3) := dk_182 1 20 (dk_at dksX4_readsItem_10 18 rfl rfl)
theorem dX4_readsItem_253 : decode cX4_readsItem 253 = .ok (.ireturn, 1) := dk_172 (dk_at dksX4_readsItem_10 21 rfl rfl)
abbrev cX4_readsNumber : ByteArray := prog_17_method_114_code
def yX4_readsNumber : MethodName := ⟨RX4, "readsNumber", "(II)Z"⟩
def dkwX4_readsNumber_6 : List UInt8 := [181, 0, 243, 167, 255, 161, 4, 172]
abbrev dktX4_readsNumber_6 : List UInt8 := dkwX4_readsNumber_6 ++ []
def dkwX4_readsNumber_5 : List UInt8 := [42, 180, 0, 34, 42, 180, 0, 243, 46, 96, 16, 48, 100, 181, 0, 249, 42, 89, 180, 0, 243, 4, 96]
abbrev dktX4_readsNumber_5 : List UInt8 := dkwX4_readsNumber_5 ++ dktX4_readsNumber_6
def dkwX4_readsNumber_4 : List UInt8 := [180, 0, 34, 42, 180, 0, 243, 46, 96, 16, 48, 100, 28, 163, 0, 40, 42, 16, 10, 42, 180, 0, 249, 104]
abbrev dktX4_readsNumber_4 : List UInt8 := dkwX4_readsNumber_4 ++ dktX4_readsNumber_5
def dkwX4_readsNumber_3 : List UInt8 := [180, 0, 243, 46, 16, 48, 16, 57, 184, 0, 44, 153, 0, 64, 16, 10, 42, 180, 0, 249, 104, 42]
abbrev dktX4_readsNumber_3 : List UInt8 := dkwX4_readsNumber_3 ++ dktX4_readsNumber_4
def dkwX4_readsNumber_2 : List UInt8 := [180, 0, 249, 158, 0, 94, 42, 180, 0, 243, 42, 180, 0, 240, 162, 0, 83, 42, 180, 0, 34, 42]
abbrev dktX4_readsNumber_2 : List UInt8 := dkwX4_readsNumber_2 ++ dktX4_readsNumber_3
def dkwX4_readsNumber_1 : List UInt8 := [154, 0, 5, 3, 172, 42, 42, 180, 0, 34, 42, 180, 0, 243, 4, 100, 46, 16, 48, 100, 181, 0, 249, 42]
abbrev dktX4_readsNumber_1 : List UInt8 := dkwX4_readsNumber_1 ++ dktX4_readsNumber_2
def dkwX4_readsNumber_0 : List UInt8 := [42, 16, 48, 27, 96, 28, 16, 9, 162, 0, 10, 16, 48, 28, 96, 167, 0, 5, 16, 57, 182, 0, 246]
abbrev dktX4_readsNumber_0 : List UInt8 := dkwX4_readsNumber_0 ++ dktX4_readsNumber_1
theorem dksX4_readsNumber_0 : cX4_readsNumber.data.toList.drop 0 = dktX4_readsNumber_0 := by decide +kernel
theorem dksX4_readsNumber_1 : cX4_readsNumber.data.toList.drop 23 = dktX4_readsNumber_1 := dk_seg dksX4_readsNumber_0 23 rfl rfl
theorem dksX4_readsNumber_2 : cX4_readsNumber.data.toList.drop 47 = dktX4_readsNumber_2 := dk_seg dksX4_readsNumber_1 24 rfl rfl
theorem dksX4_readsNumber_3 : cX4_readsNumber.data.toList.drop 69 = dktX4_readsNumber_3 := dk_seg dksX4_readsNumber_2 22 rfl rfl
theorem dksX4_readsNumber_4 : cX4_readsNumber.data.toList.drop 91 = dktX4_readsNumber_4 := dk_seg dksX4_readsNumber_3 22 rfl rfl
theorem dksX4_readsNumber_5 : cX4_readsNumber.data.toList.drop 115 = dktX4_readsNumber_5 := dk_seg dksX4_readsNumber_4 24 rfl rfl
theorem dksX4_readsNumber_6 : cX4_readsNumber.data.toList.drop 138 = dktX4_readsNumber_6 := dk_seg dksX4_readsNumber_5 23 rfl rfl
theorem dX4_readsNumber_0 : decode cX4_readsNumber 0 = .ok (.aload_n 0, 1) := dk_42 (dk_at dksX4_readsNumber_0 0 rfl rfl)
theorem dX4_readsNumber_1 : decode cX4_readsNumber 1 = .ok (.bipush 48, 2) := dk_16 48 (dk_at dksX4_readsNumber_0 1 rfl rfl)
theorem dX4_readsNumber_3 : decode cX4_readsNumber 3 = .ok (.iload_n 1, 1) := dk_27 (dk_at dksX4_readsNumber_0 3 rfl rfl)
theorem dX4_readsNumber_4 : decode cX4_readsNumber 4 = .ok (.iadd, 1) := dk_96 (dk_at dksX4_readsNumber_0 4 rfl rfl)
theorem dX4_readsNumber_5 : decode cX4_readsNumber 5 = .ok (.iload_n 2, 1) := dk_28 (dk_at dksX4_readsNumber_0 5 rfl rfl)
theorem dX4_readsNumber_6 : decode cX4_readsNumber 6 = .ok (.bipush 9, 2) := dk_16 9 (dk_at dksX4_readsNumber_0 6 rfl rfl)
theorem dX4_readsNumber_8 : decode cX4_readsNumber 8 = .ok (.if_icmp .ge 10, 3) := dk_162 0 10 (dk_at dksX4_readsNumber_0 8 rfl rfl)
theorem dX4_readsNumber_11 : decode cX4_readsNumber 11 = .ok (.bipush 48, 2) := dk_16 48 (dk_at dksX4_readsNumber_0 11 rfl rfl)
theorem dX4_readsNumber_13 : decode cX4_readsNumber 13 = .ok (.iload_n 2, 1) := dk_28 (dk_at dksX4_readsNumber_0 13 rfl rfl)
theorem dX4_readsNumber_14 : decode cX4_readsNumber 14 = .ok (.iadd, 1) := dk_96 (dk_at dksX4_readsNumber_0 14 rfl rfl)
theorem dX4_readsNumber_15 : decode cX4_readsNumber 15 = .ok (.goto 5, 3) := dk_167 0 5 (dk_at dksX4_readsNumber_0 15 rfl rfl)
theorem dX4_readsNumber_18 : decode cX4_readsNumber 18 = .ok (.bipush 57, 2) := dk_16 57 (dk_at dksX4_readsNumber_0 18 rfl rfl)
theorem dX4_readsNumber_20 : decode cX4_readsNumber 20 = .ok (.invokevirtual 246, 3) := dk_182 0 246 (dk_at dksX4_readsNumber_0 20 rfl rfl)
theorem dX4_readsNumber_23 : decode cX4_readsNumber 23 = .ok (.ifCond .ne 5, 3) := dk_154 0 5 (dk_at dksX4_readsNumber_1 0 rfl rfl)
theorem dX4_readsNumber_26 : decode cX4_readsNumber 26 = .ok (.iconst 0, 1) := dk_3 (dk_at dksX4_readsNumber_1 3 rfl rfl)
theorem dX4_readsNumber_27 : decode cX4_readsNumber 27 = .ok (.ireturn, 1) := dk_172 (dk_at dksX4_readsNumber_1 4 rfl rfl)
theorem dX4_readsNumber_28 : decode cX4_readsNumber 28 = .ok (.aload_n 0, 1) := dk_42 (dk_at dksX4_readsNumber_1 5 rfl rfl)
theorem dX4_readsNumber_29 : decode cX4_readsNumber 29 = .ok (.aload_n 0, 1) := dk_42 (dk_at dksX4_readsNumber_1 6 rfl rfl)
theorem dX4_readsNumber_30 : decode cX4_readsNumber 30 = .ok (.getfield 34, 3) := dk_180 0 34 (dk_at dksX4_readsNumber_1 7 rfl rfl)
theorem dX4_readsNumber_33 : decode cX4_readsNumber 33 = .ok (.aload_n 0, 1) := dk_42 (dk_at dksX4_readsNumber_1 10 rfl rfl)
theorem dX4_readsNumber_34 : decode cX4_readsNumber 34 = .ok (.getfield 243, 3) := dk_180 0 243 (dk_at dksX4_readsNumber_1 11 rfl rfl)
theorem dX4_readsNumber_37 : decode cX4_readsNumber 37 = .ok (.iconst 1, 1) := dk_4 (dk_at dksX4_readsNumber_1 14 rfl rfl)
theorem dX4_readsNumber_38 : decode cX4_readsNumber 38 = .ok (.isub, 1) := dk_100 (dk_at dksX4_readsNumber_1 15 rfl rfl)
theorem dX4_readsNumber_39 : decode cX4_readsNumber 39 = .ok (.iaload, 1) := dk_46 (dk_at dksX4_readsNumber_1 16 rfl rfl)
theorem dX4_readsNumber_40 : decode cX4_readsNumber 40 = .ok (.bipush 48, 2) := dk_16 48 (dk_at dksX4_readsNumber_1 17 rfl rfl)
theorem dX4_readsNumber_42 : decode cX4_readsNumber 42 = .ok (.isub, 1) := dk_100 (dk_at dksX4_readsNumber_1 19 rfl rfl)
theorem dX4_readsNumber_43 : decode cX4_readsNumber 43 = .ok (.putfield 249, 3) := dk_181 0 249 (dk_at dksX4_readsNumber_1 20 rfl rfl)
theorem dX4_readsNumber_46 : decode cX4_readsNumber 46 = .ok (.aload_n 0, 1) := dk_42 (dk_at dksX4_readsNumber_1 23 rfl rfl)
theorem dX4_readsNumber_47 : decode cX4_readsNumber 47 = .ok (.getfield 249, 3) := dk_180 0 249 (dk_at dksX4_readsNumber_2 0 rfl rfl)
theorem dX4_readsNumber_50 : decode cX4_readsNumber 50 = .ok (.ifCond .le 94, 3) := dk_158 0 94 (dk_at dksX4_readsNumber_2 3 rfl rfl)
theorem dX4_readsNumber_53 : decode cX4_readsNumber 53 = .ok (.aload_n 0, 1) := dk_42 (dk_at dksX4_readsNumber_2 6 rfl rfl)
theorem dX4_readsNumber_54 : decode cX4_readsNumber 54 = .ok (.getfield 243, 3) := dk_180 0 243 (dk_at dksX4_readsNumber_2 7 rfl rfl)
theorem dX4_readsNumber_57 : decode cX4_readsNumber 57 = .ok (.aload_n 0, 1) := dk_42 (dk_at dksX4_readsNumber_2 10 rfl rfl)
theorem dX4_readsNumber_58 : decode cX4_readsNumber 58 = .ok (.getfield 240, 3) := dk_180 0 240 (dk_at dksX4_readsNumber_2 11 rfl rfl)
theorem dX4_readsNumber_61 : decode cX4_readsNumber 61 = .ok (.if_icmp .ge 83, 3) := dk_162 0 83 (dk_at dksX4_readsNumber_2 14 rfl rfl)
theorem dX4_readsNumber_64 : decode cX4_readsNumber 64 = .ok (.aload_n 0, 1) := dk_42 (dk_at dksX4_readsNumber_2 17 rfl rfl)
theorem dX4_readsNumber_65 : decode cX4_readsNumber 65 = .ok (.getfield 34, 3) := dk_180 0 34 (dk_at dksX4_readsNumber_2 18 rfl rfl)
theorem dX4_readsNumber_68 : decode cX4_readsNumber 68 = .ok (.aload_n 0, 1) := dk_42 (dk_at dksX4_readsNumber_2 21 rfl rfl)
theorem dX4_readsNumber_69 : decode cX4_readsNumber 69 = .ok (.getfield 243, 3) := dk_180 0 243 (dk_at dksX4_readsNumber_3 0 rfl rfl)
theorem dX4_readsNumber_72 : decode cX4_readsNumber 72 = .ok (.iaload, 1) := dk_46 (dk_at dksX4_readsNumber_3 3 rfl rfl)
theorem dX4_readsNumber_73 : decode cX4_readsNumber 73 = .ok (.bipush 48, 2) := dk_16 48 (dk_at dksX4_readsNumber_3 4 rfl rfl)
theorem dX4_readsNumber_75 : decode cX4_readsNumber 75 = .ok (.bipush 57, 2) := dk_16 57 (dk_at dksX4_readsNumber_3 6 rfl rfl)
theorem dX4_readsNumber_77 : decode cX4_readsNumber 77 = .ok (.invokestatic 44, 3) := dk_184 0 44 (dk_at dksX4_readsNumber_3 8 rfl rfl)
theorem dX4_readsNumber_80 : decode cX4_readsNumber 80 = .ok (.ifCond .eq 64, 3) := dk_153 0 64 (dk_at dksX4_readsNumber_3 11 rfl rfl)
theorem dX4_readsNumber_83 : decode cX4_readsNumber 83 = .ok (.bipush 10, 2) := dk_16 10 (dk_at dksX4_readsNumber_3 14 rfl rfl)
theorem dX4_readsNumber_85 : decode cX4_readsNumber 85 = .ok (.aload_n 0, 1) := dk_42 (dk_at dksX4_readsNumber_3 16 rfl rfl)
theorem dX4_readsNumber_86 : decode cX4_readsNumber 86 = .ok (.getfield 249, 3) := dk_180 0 249 (dk_at dksX4_readsNumber_3 17 rfl rfl)
theorem dX4_readsNumber_89 : decode cX4_readsNumber 89 = .ok (.imul, 1) := dk_104 (dk_at dksX4_readsNumber_3 20 rfl rfl)
theorem dX4_readsNumber_90 : decode cX4_readsNumber 90 = .ok (.aload_n 0, 1) := dk_42 (dk_at dksX4_readsNumber_3 21 rfl rfl)
theorem dX4_readsNumber_91 : decode cX4_readsNumber 91 = .ok (.getfield 34, 3) := dk_180 0 34 (dk_at dksX4_readsNumber_4 0 rfl rfl)
theorem dX4_readsNumber_94 : decode cX4_readsNumber 94 = .ok (.aload_n 0, 1) := dk_42 (dk_at dksX4_readsNumber_4 3 rfl rfl)
theorem dX4_readsNumber_95 : decode cX4_readsNumber 95 = .ok (.getfield 243, 3) := dk_180 0 243 (dk_at dksX4_readsNumber_4 4 rfl rfl)
theorem dX4_readsNumber_98 : decode cX4_readsNumber 98 = .ok (.iaload, 1) := dk_46 (dk_at dksX4_readsNumber_4 7 rfl rfl)
theorem dX4_readsNumber_99 : decode cX4_readsNumber 99 = .ok (.iadd, 1) := dk_96 (dk_at dksX4_readsNumber_4 8 rfl rfl)
theorem dX4_readsNumber_100 : decode cX4_readsNumber 100 = .ok (.bipush 48, 2) := dk_16 48 (dk_at dksX4_readsNumber_4 9 rfl rfl)
theorem dX4_readsNumber_102 : decode cX4_readsNumber 102 = .ok (.isub, 1) := dk_100 (dk_at dksX4_readsNumber_4 11 rfl rfl)
theorem dX4_readsNumber_103 : decode cX4_readsNumber 103 = .ok (.iload_n 2, 1) := dk_28 (dk_at dksX4_readsNumber_4 12 rfl rfl)
theorem dX4_readsNumber_104 : decode cX4_readsNumber 104 = .ok (.if_icmp .gt 40, 3) := dk_163 0 40 (dk_at dksX4_readsNumber_4 13 rfl rfl)
theorem dX4_readsNumber_107 : decode cX4_readsNumber 107 = .ok (.aload_n 0, 1) := dk_42 (dk_at dksX4_readsNumber_4 16 rfl rfl)
theorem dX4_readsNumber_108 : decode cX4_readsNumber 108 = .ok (.bipush 10, 2) := dk_16 10 (dk_at dksX4_readsNumber_4 17 rfl rfl)
theorem dX4_readsNumber_110 : decode cX4_readsNumber 110 = .ok (.aload_n 0, 1) := dk_42 (dk_at dksX4_readsNumber_4 19 rfl rfl)
theorem dX4_readsNumber_111 : decode cX4_readsNumber 111 = .ok (.getfield 249, 3) := dk_180 0 249 (dk_at dksX4_readsNumber_4 20 rfl rfl)
theorem dX4_readsNumber_114 : decode cX4_readsNumber 114 = .ok (.imul, 1) := dk_104 (dk_at dksX4_readsNumber_4 23 rfl rfl)
theorem dX4_readsNumber_115 : decode cX4_readsNumber 115 = .ok (.aload_n 0, 1) := dk_42 (dk_at dksX4_readsNumber_5 0 rfl rfl)
theorem dX4_readsNumber_116 : decode cX4_readsNumber 116 = .ok (.getfield 34, 3) := dk_180 0 34 (dk_at dksX4_readsNumber_5 1 rfl rfl)
theorem dX4_readsNumber_119 : decode cX4_readsNumber 119 = .ok (.aload_n 0, 1) := dk_42 (dk_at dksX4_readsNumber_5 4 rfl rfl)
theorem dX4_readsNumber_120 : decode cX4_readsNumber 120 = .ok (.getfield 243, 3) := dk_180 0 243 (dk_at dksX4_readsNumber_5 5 rfl rfl)
theorem dX4_readsNumber_123 : decode cX4_readsNumber 123 = .ok (.iaload, 1) := dk_46 (dk_at dksX4_readsNumber_5 8 rfl rfl)
theorem dX4_readsNumber_124 : decode cX4_readsNumber 124 = .ok (.iadd, 1) := dk_96 (dk_at dksX4_readsNumber_5 9 rfl rfl)
theorem dX4_readsNumber_125 : decode cX4_readsNumber 125 = .ok (.bipush 48, 2) := dk_16 48 (dk_at dksX4_readsNumber_5 10 rfl rfl)
theorem dX4_readsNumber_127 : decode cX4_readsNumber 127 = .ok (.isub, 1) := dk_100 (dk_at dksX4_readsNumber_5 12 rfl rfl)
theorem dX4_readsNumber_128 : decode cX4_readsNumber 128 = .ok (.putfield 249, 3) := dk_181 0 249 (dk_at dksX4_readsNumber_5 13 rfl rfl)
theorem dX4_readsNumber_131 : decode cX4_readsNumber 131 = .ok (.aload_n 0, 1) := dk_42 (dk_at dksX4_readsNumber_5 16 rfl rfl)
theorem dX4_readsNumber_132 : decode cX4_readsNumber 132 = .ok (.dup, 1) := dk_89 (dk_at dksX4_readsNumber_5 17 rfl rfl)
theorem dX4_readsNumber_133 : decode cX4_readsNumber 133 = .ok (.getfield 243, 3) := dk_180 0 243 (dk_at dksX4_readsNumber_5 18 rfl rfl)
theorem dX4_readsNumber_136 : decode cX4_readsNumber 136 = .ok (.iconst 1, 1) := dk_4 (dk_at dksX4_readsNumber_5 21 rfl rfl)
theorem dX4_readsNumber_137 : decode cX4_readsNumber 137 = .ok (.iadd, 1) := dk_96 (dk_at dksX4_readsNumber_5 22 rfl rfl)
theorem dX4_readsNumber_138 : decode cX4_readsNumber 138 = .ok (.putfield 243, 3) := dk_181 0 243 (dk_at dksX4_readsNumber_6 0 rfl rfl)
theorem dX4_readsNumber_141 : decode cX4_readsNumber 141 = .ok (.goto (-95), 3) := dk_167 255 161 (dk_at dksX4_readsNumber_6 3 rfl rfl)
theorem dX4_readsNumber_144 : decode cX4_readsNumber 144 = .ok (.iconst 1, 1) := dk_4 (dk_at dksX4_readsNumber_6 6 rfl rfl)
theorem dX4_readsNumber_145 : decode cX4_readsNumber 145 = .ok (.ireturn, 1) := dk_172 (dk_at dksX4_readsNumber_6 7 rfl rfl)
abbrev cX4_accepts : ByteArray := prog_17_method_113_code
def yX4_accepts : MethodName := ⟨RX4, "accepts", "(II)Z"⟩
def dkwX4_accepts_2 : List UInt8 := [167, 0, 4, 3, 96, 181, 0, 243, 29, 172]
abbrev dktX4_accepts_2 : List UInt8 := dkwX4_accepts_2 ++ []
def dkwX4_accepts_1 : List UInt8 := [184, 0, 44, 153, 0, 7, 4, 167, 0, 4, 3, 62, 42, 89, 180, 0, 243, 29, 153, 0, 7, 4]
abbrev dktX4_accepts_1 : List UInt8 := dkwX4_accepts_1 ++ dktX4_accepts_2
def dkwX4_accepts_0 : List UInt8 := [42, 180, 0, 243, 42, 180, 0, 240, 162, 0, 24, 42, 180, 0, 34, 42, 180, 0, 243, 46, 27, 28]
abbrev dktX4_accepts_0 : List UInt8 := dkwX4_accepts_0 ++ dktX4_accepts_1
theorem dksX4_accepts_0 : cX4_accepts.data.toList.drop 0 = dktX4_accepts_0 := by decide +kernel
theorem dksX4_accepts_1 : cX4_accepts.data.toList.drop 22 = dktX4_accepts_1 := dk_seg dksX4_accepts_0 22 rfl rfl
theorem dksX4_accepts_2 : cX4_accepts.data.toList.drop 44 = dktX4_accepts_2 := dk_seg dksX4_accepts_1 22 rfl rfl
theorem dX4_accepts_0 : decode cX4_accepts 0 = .ok (.aload_n 0, 1) := dk_42 (dk_at dksX4_accepts_0 0 rfl rfl)
theorem dX4_accepts_1 : decode cX4_accepts 1 = .ok (.getfield 243, 3) := dk_180 0 243 (dk_at dksX4_accepts_0 1 rfl rfl)
theorem dX4_accepts_4 : decode cX4_accepts 4 = .ok (.aload_n 0, 1) := dk_42 (dk_at dksX4_accepts_0 4 rfl rfl)
theorem dX4_accepts_5 : decode cX4_accepts 5 = .ok (.getfield 240, 3) := dk_180 0 240 (dk_at dksX4_accepts_0 5 rfl rfl)
theorem dX4_accepts_8 : decode cX4_accepts 8 = .ok (.if_icmp .ge 24, 3) := dk_162 0 24 (dk_at dksX4_accepts_0 8 rfl rfl)
theorem dX4_accepts_11 : decode cX4_accepts 11 = .ok (.aload_n 0, 1) := dk_42 (dk_at dksX4_accepts_0 11 rfl rfl)
theorem dX4_accepts_12 : decode cX4_accepts 12 = .ok (.getfield 34, 3) := dk_180 0 34 (dk_at dksX4_accepts_0 12 rfl rfl)
theorem dX4_accepts_15 : decode cX4_accepts 15 = .ok (.aload_n 0, 1) := dk_42 (dk_at dksX4_accepts_0 15 rfl rfl)
theorem dX4_accepts_16 : decode cX4_accepts 16 = .ok (.getfield 243, 3) := dk_180 0 243 (dk_at dksX4_accepts_0 16 rfl rfl)
theorem dX4_accepts_19 : decode cX4_accepts 19 = .ok (.iaload, 1) := dk_46 (dk_at dksX4_accepts_0 19 rfl rfl)
theorem dX4_accepts_20 : decode cX4_accepts 20 = .ok (.iload_n 1, 1) := dk_27 (dk_at dksX4_accepts_0 20 rfl rfl)
theorem dX4_accepts_21 : decode cX4_accepts 21 = .ok (.iload_n 2, 1) := dk_28 (dk_at dksX4_accepts_0 21 rfl rfl)
theorem dX4_accepts_22 : decode cX4_accepts 22 = .ok (.invokestatic 44, 3) := dk_184 0 44 (dk_at dksX4_accepts_1 0 rfl rfl)
theorem dX4_accepts_25 : decode cX4_accepts 25 = .ok (.ifCond .eq 7, 3) := dk_153 0 7 (dk_at dksX4_accepts_1 3 rfl rfl)
theorem dX4_accepts_28 : decode cX4_accepts 28 = .ok (.iconst 1, 1) := dk_4 (dk_at dksX4_accepts_1 6 rfl rfl)
theorem dX4_accepts_29 : decode cX4_accepts 29 = .ok (.goto 4, 3) := dk_167 0 4 (dk_at dksX4_accepts_1 7 rfl rfl)
theorem dX4_accepts_32 : decode cX4_accepts 32 = .ok (.iconst 0, 1) := dk_3 (dk_at dksX4_accepts_1 10 rfl rfl)
theorem dX4_accepts_33 : decode cX4_accepts 33 = .ok (.istore_n 3, 1) := dk_62 (dk_at dksX4_accepts_1 11 rfl rfl)
theorem dX4_accepts_34 : decode cX4_accepts 34 = .ok (.aload_n 0, 1) := dk_42 (dk_at dksX4_accepts_1 12 rfl rfl)
theorem dX4_accepts_35 : decode cX4_accepts 35 = .ok (.dup, 1) := dk_89 (dk_at dksX4_accepts_1 13 rfl rfl)
theorem dX4_accepts_36 : decode cX4_accepts 36 = .ok (.getfield 243, 3) := dk_180 0 243 (dk_at dksX4_accepts_1 14 rfl rfl)
theorem dX4_accepts_39 : decode cX4_accepts 39 = .ok (.iload_n 3, 1) := dk_29 (dk_at dksX4_accepts_1 17 rfl rfl)
theorem dX4_accepts_40 : decode cX4_accepts 40 = .ok (.ifCond .eq 7, 3) := dk_153 0 7 (dk_at dksX4_accepts_1 18 rfl rfl)
theorem dX4_accepts_43 : decode cX4_accepts 43 = .ok (.iconst 1, 1) := dk_4 (dk_at dksX4_accepts_1 21 rfl rfl)
theorem dX4_accepts_44 : decode cX4_accepts 44 = .ok (.goto 4, 3) := dk_167 0 4 (dk_at dksX4_accepts_2 0 rfl rfl)
theorem dX4_accepts_47 : decode cX4_accepts 47 = .ok (.iconst 0, 1) := dk_3 (dk_at dksX4_accepts_2 3 rfl rfl)
theorem dX4_accepts_48 : decode cX4_accepts 48 = .ok (.iadd, 1) := dk_96 (dk_at dksX4_accepts_2 4 rfl rfl)
theorem dX4_accepts_49 : decode cX4_accepts 49 = .ok (.putfield 243, 3) := dk_181 0 243 (dk_at dksX4_accepts_2 5 rfl rfl)
theorem dX4_accepts_52 : decode cX4_accepts 52 = .ok (.iload_n 3, 1) := dk_29 (dk_at dksX4_accepts_2 8 rfl rfl)
theorem dX4_accepts_53 : decode cX4_accepts 53 = .ok (.ireturn, 1) := dk_172 (dk_at dksX4_accepts_2 9 rfl rfl)
abbrev cX4_readsModule : ByteArray := prog_17_method_115_code
def yX4_readsModule : MethodName := ⟨RX4, "readsModule", "()Z"⟩
def dkwX4_readsModule_0 : List UInt8 := [42, 3, 16, 15, 182, 0, 252, 60, 42, 42, 180, 0, 249, 181, 0, 255, 27, 172]
abbrev dktX4_readsModule_0 : List UInt8 := dkwX4_readsModule_0 ++ []
theorem dksX4_readsModule_0 : cX4_readsModule.data.toList.drop 0 = dktX4_readsModule_0 := by decide +kernel
theorem dX4_readsModule_0 : decode cX4_readsModule 0 = .ok (.aload_n 0, 1) := dk_42 (dk_at dksX4_readsModule_0 0 rfl rfl)
theorem dX4_readsModule_1 : decode cX4_readsModule 1 = .ok (.iconst 0, 1) := dk_3 (dk_at dksX4_readsModule_0 1 rfl rfl)
theorem dX4_readsModule_2 : decode cX4_readsModule 2 = .ok (.bipush 15, 2) := dk_16 15 (dk_at dksX4_readsModule_0 2 rfl rfl)
theorem dX4_readsModule_4 : decode cX4_readsModule 4 = .ok (.invokevirtual 252, 3) := dk_182 0 252 (dk_at dksX4_readsModule_0 4 rfl rfl)
theorem dX4_readsModule_7 : decode cX4_readsModule 7 = .ok (.istore_n 1, 1) := dk_60 (dk_at dksX4_readsModule_0 7 rfl rfl)
theorem dX4_readsModule_8 : decode cX4_readsModule 8 = .ok (.aload_n 0, 1) := dk_42 (dk_at dksX4_readsModule_0 8 rfl rfl)
theorem dX4_readsModule_9 : decode cX4_readsModule 9 = .ok (.aload_n 0, 1) := dk_42 (dk_at dksX4_readsModule_0 9 rfl rfl)
theorem dX4_readsModule_10 : decode cX4_readsModule 10 = .ok (.getfield 249, 3) := dk_180 0 249 (dk_at dksX4_readsModule_0 10 rfl rfl)
theorem dX4_readsModule_13 : decode cX4_readsModule 13 = .ok (.putfield 255, 3) := dk_181 0 255 (dk_at dksX4_readsModule_0 13 rfl rfl)
theorem dX4_readsModule_16 : decode cX4_readsModule 16 = .ok (.iload_n 1, 1) := dk_27 (dk_at dksX4_readsModule_0 16 rfl rfl)
theorem dX4_readsModule_17 : decode cX4_readsModule 17 = .ok (.ireturn, 1) := dk_172 (dk_at dksX4_readsModule_0 17 rfl rfl)
abbrev cX4_readsInput : ByteArray := prog_17_method_116_code
def yX4_readsInput : MethodName := ⟨RX4, "readsInput", "()Z"⟩
def dkwX4_readsInput_1 : List UInt8 := [3, 60, 42, 42, 180, 0, 249, 181, 1, 2, 27, 172]
abbrev dktX4_readsInput_1 : List UInt8 := dkwX4_readsInput_1 ++ []
def dkwX4_readsInput_0 : List UInt8 := [42, 16, 46, 16, 46, 182, 0, 246, 153, 0, 16, 42, 3, 6, 182, 0, 252, 153, 0, 7, 4, 167, 0, 4]
abbrev dktX4_readsInput_0 : List UInt8 := dkwX4_readsInput_0 ++ dktX4_readsInput_1
theorem dksX4_readsInput_0 : cX4_readsInput.data.toList.drop 0 = dktX4_readsInput_0 := by decide +kernel
theorem dksX4_readsInput_1 : cX4_readsInput.data.toList.drop 24 = dktX4_readsInput_1 := dk_seg dksX4_readsInput_0 24 rfl rfl
theorem dX4_readsInput_0 : decode cX4_readsInput 0 = .ok (.aload_n 0, 1) := dk_42 (dk_at dksX4_readsInput_0 0 rfl rfl)
theorem dX4_readsInput_1 : decode cX4_readsInput 1 = .ok (.bipush 46, 2) := dk_16 46 (dk_at dksX4_readsInput_0 1 rfl rfl)
theorem dX4_readsInput_3 : decode cX4_readsInput 3 = .ok (.bipush 46, 2) := dk_16 46 (dk_at dksX4_readsInput_0 3 rfl rfl)
theorem dX4_readsInput_5 : decode cX4_readsInput 5 = .ok (.invokevirtual 246, 3) := dk_182 0 246 (dk_at dksX4_readsInput_0 5 rfl rfl)
theorem dX4_readsInput_8 : decode cX4_readsInput 8 = .ok (.ifCond .eq 16, 3) := dk_153 0 16 (dk_at dksX4_readsInput_0 8 rfl rfl)
theorem dX4_readsInput_11 : decode cX4_readsInput 11 = .ok (.aload_n 0, 1) := dk_42 (dk_at dksX4_readsInput_0 11 rfl rfl)
theorem dX4_readsInput_12 : decode cX4_readsInput 12 = .ok (.iconst 0, 1) := dk_3 (dk_at dksX4_readsInput_0 12 rfl rfl)
theorem dX4_readsInput_13 : decode cX4_readsInput 13 = .ok (.iconst 3, 1) := dk_6 (dk_at dksX4_readsInput_0 13 rfl rfl)
theorem dX4_readsInput_14 : decode cX4_readsInput 14 = .ok (.invokevirtual 252, 3) := dk_182 0 252 (dk_at dksX4_readsInput_0 14 rfl rfl)
theorem dX4_readsInput_17 : decode cX4_readsInput 17 = .ok (.ifCond .eq 7, 3) := dk_153 0 7 (dk_at dksX4_readsInput_0 17 rfl rfl)
theorem dX4_readsInput_20 : decode cX4_readsInput 20 = .ok (.iconst 1, 1) := dk_4 (dk_at dksX4_readsInput_0 20 rfl rfl)
theorem dX4_readsInput_21 : decode cX4_readsInput 21 = .ok (.goto 4, 3) := dk_167 0 4 (dk_at dksX4_readsInput_0 21 rfl rfl)
theorem dX4_readsInput_24 : decode cX4_readsInput 24 = .ok (.iconst 0, 1) := dk_3 (dk_at dksX4_readsInput_1 0 rfl rfl)
theorem dX4_readsInput_25 : decode cX4_readsInput 25 = .ok (.istore_n 1, 1) := dk_60 (dk_at dksX4_readsInput_1 1 rfl rfl)
theorem dX4_readsInput_26 : decode cX4_readsInput 26 = .ok (.aload_n 0, 1) := dk_42 (dk_at dksX4_readsInput_1 2 rfl rfl)
theorem dX4_readsInput_27 : decode cX4_readsInput 27 = .ok (.aload_n 0, 1) := dk_42 (dk_at dksX4_readsInput_1 3 rfl rfl)
theorem dX4_readsInput_28 : decode cX4_readsInput 28 = .ok (.getfield 249, 3) := dk_180 0 249 (dk_at dksX4_readsInput_1 4 rfl rfl)
theorem dX4_readsInput_31 : decode cX4_readsInput 31 = .ok (.putfield 258, 3) := dk_181 1 2 (dk_at dksX4_readsInput_1 7 rfl rfl)
theorem dX4_readsInput_34 : decode cX4_readsInput 34 = .ok (.iload_n 1, 1) := dk_27 (dk_at dksX4_readsInput_1 10 rfl rfl)
theorem dX4_readsInput_35 : decode cX4_readsInput 35 = .ok (.ireturn, 1) := dk_172 (dk_at dksX4_readsInput_1 11 rfl rfl)
abbrev cX4_readsVoltage : ByteArray := prog_17_method_118_code
def yX4_readsVoltage : MethodName := ⟨RX4, "readsVoltage", "()Z"⟩
def dkwX4_readsVoltage_1 : List UInt8 := [180, 0, 249, 116, 167, 0, 7, 42, 180, 0, 249, 181, 0, 249, 28, 172]
abbrev dktX4_readsVoltage_1 : List UInt8 := dkwX4_readsVoltage_1 ++ []
def dkwX4_readsVoltage_0 : List UInt8 := [42, 16, 45, 16, 45, 182, 0, 246, 60, 42, 3, 17, 39, 16, 182, 0, 252, 61, 42, 27, 153, 0, 11, 42]
abbrev dktX4_readsVoltage_0 : List UInt8 := dkwX4_readsVoltage_0 ++ dktX4_readsVoltage_1
theorem dksX4_readsVoltage_0 : cX4_readsVoltage.data.toList.drop 0 = dktX4_readsVoltage_0 := by decide +kernel
theorem dksX4_readsVoltage_1 : cX4_readsVoltage.data.toList.drop 24 = dktX4_readsVoltage_1 := dk_seg dksX4_readsVoltage_0 24 rfl rfl
theorem dX4_readsVoltage_0 : decode cX4_readsVoltage 0 = .ok (.aload_n 0, 1) := dk_42 (dk_at dksX4_readsVoltage_0 0 rfl rfl)
theorem dX4_readsVoltage_1 : decode cX4_readsVoltage 1 = .ok (.bipush 45, 2) := dk_16 45 (dk_at dksX4_readsVoltage_0 1 rfl rfl)
theorem dX4_readsVoltage_3 : decode cX4_readsVoltage 3 = .ok (.bipush 45, 2) := dk_16 45 (dk_at dksX4_readsVoltage_0 3 rfl rfl)
theorem dX4_readsVoltage_5 : decode cX4_readsVoltage 5 = .ok (.invokevirtual 246, 3) := dk_182 0 246 (dk_at dksX4_readsVoltage_0 5 rfl rfl)
theorem dX4_readsVoltage_8 : decode cX4_readsVoltage 8 = .ok (.istore_n 1, 1) := dk_60 (dk_at dksX4_readsVoltage_0 8 rfl rfl)
theorem dX4_readsVoltage_9 : decode cX4_readsVoltage 9 = .ok (.aload_n 0, 1) := dk_42 (dk_at dksX4_readsVoltage_0 9 rfl rfl)
theorem dX4_readsVoltage_10 : decode cX4_readsVoltage 10 = .ok (.iconst 0, 1) := dk_3 (dk_at dksX4_readsVoltage_0 10 rfl rfl)
theorem dX4_readsVoltage_11 : decode cX4_readsVoltage 11 = .ok (.sipush 10000, 3) := dk_17 39 16 (dk_at dksX4_readsVoltage_0 11 rfl rfl)
theorem dX4_readsVoltage_14 : decode cX4_readsVoltage 14 = .ok (.invokevirtual 252, 3) := dk_182 0 252 (dk_at dksX4_readsVoltage_0 14 rfl rfl)
theorem dX4_readsVoltage_17 : decode cX4_readsVoltage 17 = .ok (.istore_n 2, 1) := dk_61 (dk_at dksX4_readsVoltage_0 17 rfl rfl)
theorem dX4_readsVoltage_18 : decode cX4_readsVoltage 18 = .ok (.aload_n 0, 1) := dk_42 (dk_at dksX4_readsVoltage_0 18 rfl rfl)
theorem dX4_readsVoltage_19 : decode cX4_readsVoltage 19 = .ok (.iload_n 1, 1) := dk_27 (dk_at dksX4_readsVoltage_0 19 rfl rfl)
theorem dX4_readsVoltage_20 : decode cX4_readsVoltage 20 = .ok (.ifCond .eq 11, 3) := dk_153 0 11 (dk_at dksX4_readsVoltage_0 20 rfl rfl)
theorem dX4_readsVoltage_23 : decode cX4_readsVoltage 23 = .ok (.aload_n 0, 1) := dk_42 (dk_at dksX4_readsVoltage_0 23 rfl rfl)
theorem dX4_readsVoltage_24 : decode cX4_readsVoltage 24 = .ok (.getfield 249, 3) := dk_180 0 249 (dk_at dksX4_readsVoltage_1 0 rfl rfl)
theorem dX4_readsVoltage_27 : decode cX4_readsVoltage 27 = .ok (.ineg, 1) := dk_116 (dk_at dksX4_readsVoltage_1 3 rfl rfl)
theorem dX4_readsVoltage_28 : decode cX4_readsVoltage 28 = .ok (.goto 7, 3) := dk_167 0 7 (dk_at dksX4_readsVoltage_1 4 rfl rfl)
theorem dX4_readsVoltage_31 : decode cX4_readsVoltage 31 = .ok (.aload_n 0, 1) := dk_42 (dk_at dksX4_readsVoltage_1 7 rfl rfl)
theorem dX4_readsVoltage_32 : decode cX4_readsVoltage 32 = .ok (.getfield 249, 3) := dk_180 0 249 (dk_at dksX4_readsVoltage_1 8 rfl rfl)
theorem dX4_readsVoltage_35 : decode cX4_readsVoltage 35 = .ok (.putfield 249, 3) := dk_181 0 249 (dk_at dksX4_readsVoltage_1 11 rfl rfl)
theorem dX4_readsVoltage_38 : decode cX4_readsVoltage 38 = .ok (.iload_n 2, 1) := dk_28 (dk_at dksX4_readsVoltage_1 14 rfl rfl)
theorem dX4_readsVoltage_39 : decode cX4_readsVoltage 39 = .ok (.ireturn, 1) := dk_172 (dk_at dksX4_readsVoltage_1 15 rfl rfl)
abbrev cX4_readsJoin : ByteArray := prog_17_method_117_code
def yX4_readsJoin : MethodName := ⟨RX4, "readsJoin", "()Z"⟩
def dkwX4_readsJoin_1 : List UInt8 := [182, 0, 252, 154, 0, 5, 3, 172, 42, 42, 180, 0, 249, 181, 1, 8, 42, 182, 1, 11, 172]
abbrev dktX4_readsJoin_1 : List UInt8 := dkwX4_readsJoin_1 ++ []
def dkwX4_readsJoin_0 : List UInt8 := [42, 182, 1, 5, 153, 0, 24, 42, 16, 62, 16, 62, 182, 0, 246, 153, 0, 13, 42, 3, 16, 15]
abbrev dktX4_readsJoin_0 : List UInt8 := dkwX4_readsJoin_0 ++ dktX4_readsJoin_1
theorem dksX4_readsJoin_0 : cX4_readsJoin.data.toList.drop 0 = dktX4_readsJoin_0 := by decide +kernel
theorem dksX4_readsJoin_1 : cX4_readsJoin.data.toList.drop 22 = dktX4_readsJoin_1 := dk_seg dksX4_readsJoin_0 22 rfl rfl
theorem dX4_readsJoin_0 : decode cX4_readsJoin 0 = .ok (.aload_n 0, 1) := dk_42 (dk_at dksX4_readsJoin_0 0 rfl rfl)
theorem dX4_readsJoin_1 : decode cX4_readsJoin 1 = .ok (.invokevirtual 261, 3) := dk_182 1 5 (dk_at dksX4_readsJoin_0 1 rfl rfl)
theorem dX4_readsJoin_4 : decode cX4_readsJoin 4 = .ok (.ifCond .eq 24, 3) := dk_153 0 24 (dk_at dksX4_readsJoin_0 4 rfl rfl)
theorem dX4_readsJoin_7 : decode cX4_readsJoin 7 = .ok (.aload_n 0, 1) := dk_42 (dk_at dksX4_readsJoin_0 7 rfl rfl)
theorem dX4_readsJoin_8 : decode cX4_readsJoin 8 = .ok (.bipush 62, 2) := dk_16 62 (dk_at dksX4_readsJoin_0 8 rfl rfl)
theorem dX4_readsJoin_10 : decode cX4_readsJoin 10 = .ok (.bipush 62, 2) := dk_16 62 (dk_at dksX4_readsJoin_0 10 rfl rfl)
theorem dX4_readsJoin_12 : decode cX4_readsJoin 12 = .ok (.invokevirtual 246, 3) := dk_182 0 246 (dk_at dksX4_readsJoin_0 12 rfl rfl)
theorem dX4_readsJoin_15 : decode cX4_readsJoin 15 = .ok (.ifCond .eq 13, 3) := dk_153 0 13 (dk_at dksX4_readsJoin_0 15 rfl rfl)
theorem dX4_readsJoin_18 : decode cX4_readsJoin 18 = .ok (.aload_n 0, 1) := dk_42 (dk_at dksX4_readsJoin_0 18 rfl rfl)
theorem dX4_readsJoin_19 : decode cX4_readsJoin 19 = .ok (.iconst 0, 1) := dk_3 (dk_at dksX4_readsJoin_0 19 rfl rfl)
theorem dX4_readsJoin_20 : decode cX4_readsJoin 20 = .ok (.bipush 15, 2) := dk_16 15 (dk_at dksX4_readsJoin_0 20 rfl rfl)
theorem dX4_readsJoin_22 : decode cX4_readsJoin 22 = .ok (.invokevirtual 252, 3) := dk_182 0 252 (dk_at dksX4_readsJoin_1 0 rfl rfl)
theorem dX4_readsJoin_25 : decode cX4_readsJoin 25 = .ok (.ifCond .ne 5, 3) := dk_154 0 5 (dk_at dksX4_readsJoin_1 3 rfl rfl)
theorem dX4_readsJoin_28 : decode cX4_readsJoin 28 = .ok (.iconst 0, 1) := dk_3 (dk_at dksX4_readsJoin_1 6 rfl rfl)
theorem dX4_readsJoin_29 : decode cX4_readsJoin 29 = .ok (.ireturn, 1) := dk_172 (dk_at dksX4_readsJoin_1 7 rfl rfl)
theorem dX4_readsJoin_30 : decode cX4_readsJoin 30 = .ok (.aload_n 0, 1) := dk_42 (dk_at dksX4_readsJoin_1 8 rfl rfl)
theorem dX4_readsJoin_31 : decode cX4_readsJoin 31 = .ok (.aload_n 0, 1) := dk_42 (dk_at dksX4_readsJoin_1 9 rfl rfl)
theorem dX4_readsJoin_32 : decode cX4_readsJoin 32 = .ok (.getfield 249, 3) := dk_180 0 249 (dk_at dksX4_readsJoin_1 10 rfl rfl)
theorem dX4_readsJoin_35 : decode cX4_readsJoin 35 = .ok (.putfield 264, 3) := dk_181 1 8 (dk_at dksX4_readsJoin_1 13 rfl rfl)
theorem dX4_readsJoin_38 : decode cX4_readsJoin 38 = .ok (.aload_n 0, 1) := dk_42 (dk_at dksX4_readsJoin_1 16 rfl rfl)
theorem dX4_readsJoin_39 : decode cX4_readsJoin 39 = .ok (.invokevirtual 267, 3) := dk_182 1 11 (dk_at dksX4_readsJoin_1 17 rfl rfl)
theorem dX4_readsJoin_42 : decode cX4_readsJoin 42 = .ok (.ireturn, 1) := dk_172 (dk_at dksX4_readsJoin_1 20 rfl rfl)
abbrev cX4_patch : ByteArray := prog_17_method_124_code
def yX4_patch : MethodName := ⟨RX4, "patch", "()I"⟩
def dkwX4_patch_4 : List UInt8 := [172]
abbrev dktX4_patch_4 : List UInt8 := dkwX4_patch_4 ++ []
def dkwX4_patch_3 : List UInt8 := [182, 1, 29, 61, 28, 153, 255, 220, 42, 182, 1, 32, 132, 1, 1, 167, 255, 210, 42, 3, 181, 0, 240, 27]
abbrev dktX4_patch_3 : List UInt8 := dkwX4_patch_3 ++ dktX4_patch_4
def dkwX4_patch_2 : List UInt8 := [180, 0, 240, 162, 0, 37, 42, 182, 1, 23, 87, 42, 89, 180, 0, 243, 4, 96, 181, 0, 243, 42]
abbrev dktX4_patch_2 : List UInt8 := dkwX4_patch_2 ++ dktX4_patch_3
def dkwX4_patch_1 : List UInt8 := [3, 172, 42, 182, 0, 71, 3, 60, 42, 3, 181, 0, 243, 4, 61, 28, 153, 0, 48, 42, 180, 0, 243, 42]
abbrev dktX4_patch_1 : List UInt8 := dkwX4_patch_1 ++ dktX4_patch_2
def dkwX4_patch_0 : List UInt8 := [42, 42, 182, 1, 26, 2, 160, 0, 7, 3, 167, 0, 4, 4, 181, 0, 37, 42, 180, 0, 37, 158, 0, 5]
abbrev dktX4_patch_0 : List UInt8 := dkwX4_patch_0 ++ dktX4_patch_1
theorem dksX4_patch_0 : cX4_patch.data.toList.drop 0 = dktX4_patch_0 := by decide +kernel
theorem dksX4_patch_1 : cX4_patch.data.toList.drop 24 = dktX4_patch_1 := dk_seg dksX4_patch_0 24 rfl rfl
theorem dksX4_patch_2 : cX4_patch.data.toList.drop 48 = dktX4_patch_2 := dk_seg dksX4_patch_1 24 rfl rfl
theorem dksX4_patch_3 : cX4_patch.data.toList.drop 70 = dktX4_patch_3 := dk_seg dksX4_patch_2 22 rfl rfl
theorem dksX4_patch_4 : cX4_patch.data.toList.drop 94 = dktX4_patch_4 := dk_seg dksX4_patch_3 24 rfl rfl
theorem dX4_patch_0 : decode cX4_patch 0 = .ok (.aload_n 0, 1) := dk_42 (dk_at dksX4_patch_0 0 rfl rfl)
theorem dX4_patch_1 : decode cX4_patch 1 = .ok (.aload_n 0, 1) := dk_42 (dk_at dksX4_patch_0 1 rfl rfl)
theorem dX4_patch_2 : decode cX4_patch 2 = .ok (.invokevirtual 282, 3) := dk_182 1 26 (dk_at dksX4_patch_0 2 rfl rfl)
theorem dX4_patch_5 : decode cX4_patch 5 = .ok (.iconst (-1), 1) := dk_2 (dk_at dksX4_patch_0 5 rfl rfl)
theorem dX4_patch_6 : decode cX4_patch 6 = .ok (.if_icmp .ne 7, 3) := dk_160 0 7 (dk_at dksX4_patch_0 6 rfl rfl)
theorem dX4_patch_9 : decode cX4_patch 9 = .ok (.iconst 0, 1) := dk_3 (dk_at dksX4_patch_0 9 rfl rfl)
theorem dX4_patch_10 : decode cX4_patch 10 = .ok (.goto 4, 3) := dk_167 0 4 (dk_at dksX4_patch_0 10 rfl rfl)
theorem dX4_patch_13 : decode cX4_patch 13 = .ok (.iconst 1, 1) := dk_4 (dk_at dksX4_patch_0 13 rfl rfl)
theorem dX4_patch_14 : decode cX4_patch 14 = .ok (.putfield 37, 3) := dk_181 0 37 (dk_at dksX4_patch_0 14 rfl rfl)
theorem dX4_patch_17 : decode cX4_patch 17 = .ok (.aload_n 0, 1) := dk_42 (dk_at dksX4_patch_0 17 rfl rfl)
theorem dX4_patch_18 : decode cX4_patch 18 = .ok (.getfield 37, 3) := dk_180 0 37 (dk_at dksX4_patch_0 18 rfl rfl)
theorem dX4_patch_21 : decode cX4_patch 21 = .ok (.ifCond .le 5, 3) := dk_158 0 5 (dk_at dksX4_patch_0 21 rfl rfl)
theorem dX4_patch_24 : decode cX4_patch 24 = .ok (.iconst 0, 1) := dk_3 (dk_at dksX4_patch_1 0 rfl rfl)
theorem dX4_patch_25 : decode cX4_patch 25 = .ok (.ireturn, 1) := dk_172 (dk_at dksX4_patch_1 1 rfl rfl)
theorem dX4_patch_26 : decode cX4_patch 26 = .ok (.aload_n 0, 1) := dk_42 (dk_at dksX4_patch_1 2 rfl rfl)
theorem dX4_patch_27 : decode cX4_patch 27 = .ok (.invokevirtual 71, 3) := dk_182 0 71 (dk_at dksX4_patch_1 3 rfl rfl)
theorem dX4_patch_30 : decode cX4_patch 30 = .ok (.iconst 0, 1) := dk_3 (dk_at dksX4_patch_1 6 rfl rfl)
theorem dX4_patch_31 : decode cX4_patch 31 = .ok (.istore_n 1, 1) := dk_60 (dk_at dksX4_patch_1 7 rfl rfl)
theorem dX4_patch_32 : decode cX4_patch 32 = .ok (.aload_n 0, 1) := dk_42 (dk_at dksX4_patch_1 8 rfl rfl)
theorem dX4_patch_33 : decode cX4_patch 33 = .ok (.iconst 0, 1) := dk_3 (dk_at dksX4_patch_1 9 rfl rfl)
theorem dX4_patch_34 : decode cX4_patch 34 = .ok (.putfield 243, 3) := dk_181 0 243 (dk_at dksX4_patch_1 10 rfl rfl)
theorem dX4_patch_37 : decode cX4_patch 37 = .ok (.iconst 1, 1) := dk_4 (dk_at dksX4_patch_1 13 rfl rfl)
theorem dX4_patch_38 : decode cX4_patch 38 = .ok (.istore_n 2, 1) := dk_61 (dk_at dksX4_patch_1 14 rfl rfl)
theorem dX4_patch_39 : decode cX4_patch 39 = .ok (.iload_n 2, 1) := dk_28 (dk_at dksX4_patch_1 15 rfl rfl)
theorem dX4_patch_40 : decode cX4_patch 40 = .ok (.ifCond .eq 48, 3) := dk_153 0 48 (dk_at dksX4_patch_1 16 rfl rfl)
theorem dX4_patch_43 : decode cX4_patch 43 = .ok (.aload_n 0, 1) := dk_42 (dk_at dksX4_patch_1 19 rfl rfl)
theorem dX4_patch_44 : decode cX4_patch 44 = .ok (.getfield 243, 3) := dk_180 0 243 (dk_at dksX4_patch_1 20 rfl rfl)
theorem dX4_patch_47 : decode cX4_patch 47 = .ok (.aload_n 0, 1) := dk_42 (dk_at dksX4_patch_1 23 rfl rfl)
theorem dX4_patch_48 : decode cX4_patch 48 = .ok (.getfield 240, 3) := dk_180 0 240 (dk_at dksX4_patch_2 0 rfl rfl)
theorem dX4_patch_51 : decode cX4_patch 51 = .ok (.if_icmp .ge 37, 3) := dk_162 0 37 (dk_at dksX4_patch_2 3 rfl rfl)
theorem dX4_patch_54 : decode cX4_patch 54 = .ok (.aload_n 0, 1) := dk_42 (dk_at dksX4_patch_2 6 rfl rfl)
theorem dX4_patch_55 : decode cX4_patch 55 = .ok (.invokevirtual 279, 3) := dk_182 1 23 (dk_at dksX4_patch_2 7 rfl rfl)
theorem dX4_patch_58 : decode cX4_patch 58 = .ok (.pop, 1) := dk_87 (dk_at dksX4_patch_2 10 rfl rfl)
theorem dX4_patch_59 : decode cX4_patch 59 = .ok (.aload_n 0, 1) := dk_42 (dk_at dksX4_patch_2 11 rfl rfl)
theorem dX4_patch_60 : decode cX4_patch 60 = .ok (.dup, 1) := dk_89 (dk_at dksX4_patch_2 12 rfl rfl)
theorem dX4_patch_61 : decode cX4_patch 61 = .ok (.getfield 243, 3) := dk_180 0 243 (dk_at dksX4_patch_2 13 rfl rfl)
theorem dX4_patch_64 : decode cX4_patch 64 = .ok (.iconst 1, 1) := dk_4 (dk_at dksX4_patch_2 16 rfl rfl)
theorem dX4_patch_65 : decode cX4_patch 65 = .ok (.iadd, 1) := dk_96 (dk_at dksX4_patch_2 17 rfl rfl)
theorem dX4_patch_66 : decode cX4_patch 66 = .ok (.putfield 243, 3) := dk_181 0 243 (dk_at dksX4_patch_2 18 rfl rfl)
theorem dX4_patch_69 : decode cX4_patch 69 = .ok (.aload_n 0, 1) := dk_42 (dk_at dksX4_patch_2 21 rfl rfl)
theorem dX4_patch_70 : decode cX4_patch 70 = .ok (.invokevirtual 285, 3) := dk_182 1 29 (dk_at dksX4_patch_3 0 rfl rfl)
theorem dX4_patch_73 : decode cX4_patch 73 = .ok (.istore_n 2, 1) := dk_61 (dk_at dksX4_patch_3 3 rfl rfl)
theorem dX4_patch_74 : decode cX4_patch 74 = .ok (.iload_n 2, 1) := dk_28 (dk_at dksX4_patch_3 4 rfl rfl)
theorem dX4_patch_75 : decode cX4_patch 75 = .ok (.ifCond .eq (-36), 3) := dk_153 255 220 (dk_at dksX4_patch_3 5 rfl rfl)
theorem dX4_patch_78 : decode cX4_patch 78 = .ok (.aload_n 0, 1) := dk_42 (dk_at dksX4_patch_3 8 rfl rfl)
theorem dX4_patch_79 : decode cX4_patch 79 = .ok (.invokevirtual 288, 3) := dk_182 1 32 (dk_at dksX4_patch_3 9 rfl rfl)
theorem dX4_patch_82 : decode cX4_patch 82 = .ok (.iinc 1 1, 3) := dk_132 1 1 (dk_at dksX4_patch_3 12 rfl rfl)
theorem dX4_patch_85 : decode cX4_patch 85 = .ok (.goto (-46), 3) := dk_167 255 210 (dk_at dksX4_patch_3 15 rfl rfl)
theorem dX4_patch_88 : decode cX4_patch 88 = .ok (.aload_n 0, 1) := dk_42 (dk_at dksX4_patch_3 18 rfl rfl)
theorem dX4_patch_89 : decode cX4_patch 89 = .ok (.iconst 0, 1) := dk_3 (dk_at dksX4_patch_3 19 rfl rfl)
theorem dX4_patch_90 : decode cX4_patch 90 = .ok (.putfield 240, 3) := dk_181 0 240 (dk_at dksX4_patch_3 20 rfl rfl)
theorem dX4_patch_93 : decode cX4_patch 93 = .ok (.iload_n 1, 1) := dk_27 (dk_at dksX4_patch_3 23 rfl rfl)
theorem dX4_patch_94 : decode cX4_patch 94 = .ok (.ireturn, 1) := dk_172 (dk_at dksX4_patch_4 0 rfl rfl)
abbrev cX4_canDo : ByteArray := prog_17_method_122_code
def yX4_canDo : MethodName := ⟨RX4, "canDo", "()Z"⟩
def dkwX4_canDo_6 : List UInt8 := [180, 1, 8, 42, 180, 1, 2, 182, 0, 115, 154, 0, 7, 4, 167, 0, 4, 3, 172]
abbrev dktX4_canDo_6 : List UInt8 := dkwX4_canDo_6 ++ []
def dkwX4_canDo_5 : List UInt8 := [180, 0, 249, 182, 0, 96, 154, 0, 7, 4, 167, 0, 31, 3, 167, 0, 27, 42, 42, 180, 0, 255, 42]
abbrev dktX4_canDo_5 : List UInt8 := dkwX4_canDo_5 ++ dktX4_canDo_6
def dkwX4_canDo_4 : List UInt8 := [167, 0, 63, 3, 167, 0, 59, 42, 180, 1, 14, 16, 102, 160, 0, 26, 42, 42, 180, 0, 255, 42]
abbrev dktX4_canDo_4 : List UInt8 := dkwX4_canDo_4 ++ dktX4_canDo_5
def dkwX4_canDo_3 : List UInt8 := [180, 1, 14, 16, 118, 160, 0, 26, 42, 42, 180, 0, 255, 42, 180, 0, 249, 182, 0, 90, 154, 0, 7, 4]
abbrev dktX4_canDo_3 : List UInt8 := dkwX4_canDo_3 ++ dktX4_canDo_4
def dkwX4_canDo_2 : List UInt8 := [42, 180, 0, 255, 42, 180, 1, 2, 182, 0, 122, 154, 0, 7, 4, 167, 0, 95, 3, 167, 0, 91, 42]
abbrev dktX4_canDo_2 : List UInt8 := dkwX4_canDo_2 ++ dktX4_canDo_3
def dkwX4_canDo_1 : List UInt8 := [160, 0, 14, 42, 42, 180, 0, 249, 182, 0, 168, 167, 0, 123, 42, 180, 1, 14, 16, 120, 160, 0, 26, 42]
abbrev dktX4_canDo_1 : List UInt8 := dkwX4_canDo_1 ++ dktX4_canDo_2
def dkwX4_canDo_0 : List UInt8 := [42, 180, 1, 14, 16, 110, 160, 0, 10, 42, 182, 0, 67, 167, 0, 143, 42, 180, 1, 14, 16, 43]
abbrev dktX4_canDo_0 : List UInt8 := dkwX4_canDo_0 ++ dktX4_canDo_1
theorem dksX4_canDo_0 : cX4_canDo.data.toList.drop 0 = dktX4_canDo_0 := by decide +kernel
theorem dksX4_canDo_1 : cX4_canDo.data.toList.drop 22 = dktX4_canDo_1 := dk_seg dksX4_canDo_0 22 rfl rfl
theorem dksX4_canDo_2 : cX4_canDo.data.toList.drop 46 = dktX4_canDo_2 := dk_seg dksX4_canDo_1 24 rfl rfl
theorem dksX4_canDo_3 : cX4_canDo.data.toList.drop 69 = dktX4_canDo_3 := dk_seg dksX4_canDo_2 23 rfl rfl
theorem dksX4_canDo_4 : cX4_canDo.data.toList.drop 93 = dktX4_canDo_4 := dk_seg dksX4_canDo_3 24 rfl rfl
theorem dksX4_canDo_5 : cX4_canDo.data.toList.drop 115 = dktX4_canDo_5 := dk_seg dksX4_canDo_4 22 rfl rfl
theorem dksX4_canDo_6 : cX4_canDo.data.toList.drop 138 = dktX4_canDo_6 := dk_seg dksX4_canDo_5 23 rfl rfl
theorem dX4_canDo_0 : decode cX4_canDo 0 = .ok (.aload_n 0, 1) := dk_42 (dk_at dksX4_canDo_0 0 rfl rfl)
theorem dX4_canDo_1 : decode cX4_canDo 1 = .ok (.getfield 270, 3) := dk_180 1 14 (dk_at dksX4_canDo_0 1 rfl rfl)
theorem dX4_canDo_4 : decode cX4_canDo 4 = .ok (.bipush 110, 2) := dk_16 110 (dk_at dksX4_canDo_0 4 rfl rfl)
theorem dX4_canDo_6 : decode cX4_canDo 6 = .ok (.if_icmp .ne 10, 3) := dk_160 0 10 (dk_at dksX4_canDo_0 6 rfl rfl)
theorem dX4_canDo_9 : decode cX4_canDo 9 = .ok (.aload_n 0, 1) := dk_42 (dk_at dksX4_canDo_0 9 rfl rfl)
theorem dX4_canDo_10 : decode cX4_canDo 10 = .ok (.invokevirtual 67, 3) := dk_182 0 67 (dk_at dksX4_canDo_0 10 rfl rfl)
theorem dX4_canDo_13 : decode cX4_canDo 13 = .ok (.goto 143, 3) := dk_167 0 143 (dk_at dksX4_canDo_0 13 rfl rfl)
theorem dX4_canDo_16 : decode cX4_canDo 16 = .ok (.aload_n 0, 1) := dk_42 (dk_at dksX4_canDo_0 16 rfl rfl)
theorem dX4_canDo_17 : decode cX4_canDo 17 = .ok (.getfield 270, 3) := dk_180 1 14 (dk_at dksX4_canDo_0 17 rfl rfl)
theorem dX4_canDo_20 : decode cX4_canDo 20 = .ok (.bipush 43, 2) := dk_16 43 (dk_at dksX4_canDo_0 20 rfl rfl)
theorem dX4_canDo_22 : decode cX4_canDo 22 = .ok (.if_icmp .ne 14, 3) := dk_160 0 14 (dk_at dksX4_canDo_1 0 rfl rfl)
theorem dX4_canDo_25 : decode cX4_canDo 25 = .ok (.aload_n 0, 1) := dk_42 (dk_at dksX4_canDo_1 3 rfl rfl)
theorem dX4_canDo_26 : decode cX4_canDo 26 = .ok (.aload_n 0, 1) := dk_42 (dk_at dksX4_canDo_1 4 rfl rfl)
theorem dX4_canDo_27 : decode cX4_canDo 27 = .ok (.getfield 249, 3) := dk_180 0 249 (dk_at dksX4_canDo_1 5 rfl rfl)
theorem dX4_canDo_30 : decode cX4_canDo 30 = .ok (.invokevirtual 168, 3) := dk_182 0 168 (dk_at dksX4_canDo_1 8 rfl rfl)
theorem dX4_canDo_33 : decode cX4_canDo 33 = .ok (.goto 123, 3) := dk_167 0 123 (dk_at dksX4_canDo_1 11 rfl rfl)
theorem dX4_canDo_36 : decode cX4_canDo 36 = .ok (.aload_n 0, 1) := dk_42 (dk_at dksX4_canDo_1 14 rfl rfl)
theorem dX4_canDo_37 : decode cX4_canDo 37 = .ok (.getfield 270, 3) := dk_180 1 14 (dk_at dksX4_canDo_1 15 rfl rfl)
theorem dX4_canDo_40 : decode cX4_canDo 40 = .ok (.bipush 120, 2) := dk_16 120 (dk_at dksX4_canDo_1 18 rfl rfl)
theorem dX4_canDo_42 : decode cX4_canDo 42 = .ok (.if_icmp .ne 26, 3) := dk_160 0 26 (dk_at dksX4_canDo_1 20 rfl rfl)
theorem dX4_canDo_45 : decode cX4_canDo 45 = .ok (.aload_n 0, 1) := dk_42 (dk_at dksX4_canDo_1 23 rfl rfl)
theorem dX4_canDo_46 : decode cX4_canDo 46 = .ok (.aload_n 0, 1) := dk_42 (dk_at dksX4_canDo_2 0 rfl rfl)
theorem dX4_canDo_47 : decode cX4_canDo 47 = .ok (.getfield 255, 3) := dk_180 0 255 (dk_at dksX4_canDo_2 1 rfl rfl)
theorem dX4_canDo_50 : decode cX4_canDo 50 = .ok (.aload_n 0, 1) := dk_42 (dk_at dksX4_canDo_2 4 rfl rfl)
theorem dX4_canDo_51 : decode cX4_canDo 51 = .ok (.getfield 258, 3) := dk_180 1 2 (dk_at dksX4_canDo_2 5 rfl rfl)
theorem dX4_canDo_54 : decode cX4_canDo 54 = .ok (.invokevirtual 122, 3) := dk_182 0 122 (dk_at dksX4_canDo_2 8 rfl rfl)
theorem dX4_canDo_57 : decode cX4_canDo 57 = .ok (.ifCond .ne 7, 3) := dk_154 0 7 (dk_at dksX4_canDo_2 11 rfl rfl)
theorem dX4_canDo_60 : decode cX4_canDo 60 = .ok (.iconst 1, 1) := dk_4 (dk_at dksX4_canDo_2 14 rfl rfl)
theorem dX4_canDo_61 : decode cX4_canDo 61 = .ok (.goto 95, 3) := dk_167 0 95 (dk_at dksX4_canDo_2 15 rfl rfl)
theorem dX4_canDo_64 : decode cX4_canDo 64 = .ok (.iconst 0, 1) := dk_3 (dk_at dksX4_canDo_2 18 rfl rfl)
theorem dX4_canDo_65 : decode cX4_canDo 65 = .ok (.goto 91, 3) := dk_167 0 91 (dk_at dksX4_canDo_2 19 rfl rfl)
theorem dX4_canDo_68 : decode cX4_canDo 68 = .ok (.aload_n 0, 1) := dk_42 (dk_at dksX4_canDo_2 22 rfl rfl)
theorem dX4_canDo_69 : decode cX4_canDo 69 = .ok (.getfield 270, 3) := dk_180 1 14 (dk_at dksX4_canDo_3 0 rfl rfl)
theorem dX4_canDo_72 : decode cX4_canDo 72 = .ok (.bipush 118, 2) := dk_16 118 (dk_at dksX4_canDo_3 3 rfl rfl)
theorem dX4_canDo_74 : decode cX4_canDo 74 = .ok (.if_icmp .ne 26, 3) := dk_160 0 26 (dk_at dksX4_canDo_3 5 rfl rfl)
theorem dX4_canDo_77 : decode cX4_canDo 77 = .ok (.aload_n 0, 1) := dk_42 (dk_at dksX4_canDo_3 8 rfl rfl)
theorem dX4_canDo_78 : decode cX4_canDo 78 = .ok (.aload_n 0, 1) := dk_42 (dk_at dksX4_canDo_3 9 rfl rfl)
theorem dX4_canDo_79 : decode cX4_canDo 79 = .ok (.getfield 255, 3) := dk_180 0 255 (dk_at dksX4_canDo_3 10 rfl rfl)
theorem dX4_canDo_82 : decode cX4_canDo 82 = .ok (.aload_n 0, 1) := dk_42 (dk_at dksX4_canDo_3 13 rfl rfl)
theorem dX4_canDo_83 : decode cX4_canDo 83 = .ok (.getfield 249, 3) := dk_180 0 249 (dk_at dksX4_canDo_3 14 rfl rfl)
theorem dX4_canDo_86 : decode cX4_canDo 86 = .ok (.invokevirtual 90, 3) := dk_182 0 90 (dk_at dksX4_canDo_3 17 rfl rfl)
theorem dX4_canDo_89 : decode cX4_canDo 89 = .ok (.ifCond .ne 7, 3) := dk_154 0 7 (dk_at dksX4_canDo_3 20 rfl rfl)
theorem dX4_canDo_92 : decode cX4_canDo 92 = .ok (.iconst 1, 1) := dk_4 (dk_at dksX4_canDo_3 23 rfl rfl)
theorem dX4_canDo_93 : decode cX4_canDo 93 = .ok (.goto 63, 3) := dk_167 0 63 (dk_at dksX4_canDo_4 0 rfl rfl)
theorem dX4_canDo_96 : decode cX4_canDo 96 = .ok (.iconst 0, 1) := dk_3 (dk_at dksX4_canDo_4 3 rfl rfl)
theorem dX4_canDo_97 : decode cX4_canDo 97 = .ok (.goto 59, 3) := dk_167 0 59 (dk_at dksX4_canDo_4 4 rfl rfl)
theorem dX4_canDo_100 : decode cX4_canDo 100 = .ok (.aload_n 0, 1) := dk_42 (dk_at dksX4_canDo_4 7 rfl rfl)
theorem dX4_canDo_101 : decode cX4_canDo 101 = .ok (.getfield 270, 3) := dk_180 1 14 (dk_at dksX4_canDo_4 8 rfl rfl)
theorem dX4_canDo_104 : decode cX4_canDo 104 = .ok (.bipush 102, 2) := dk_16 102 (dk_at dksX4_canDo_4 11 rfl rfl)
theorem dX4_canDo_106 : decode cX4_canDo 106 = .ok (.if_icmp .ne 26, 3) := dk_160 0 26 (dk_at dksX4_canDo_4 13 rfl rfl)
theorem dX4_canDo_109 : decode cX4_canDo 109 = .ok (.aload_n 0, 1) := dk_42 (dk_at dksX4_canDo_4 16 rfl rfl)
theorem dX4_canDo_110 : decode cX4_canDo 110 = .ok (.aload_n 0, 1) := dk_42 (dk_at dksX4_canDo_4 17 rfl rfl)
theorem dX4_canDo_111 : decode cX4_canDo 111 = .ok (.getfield 255, 3) := dk_180 0 255 (dk_at dksX4_canDo_4 18 rfl rfl)
theorem dX4_canDo_114 : decode cX4_canDo 114 = .ok (.aload_n 0, 1) := dk_42 (dk_at dksX4_canDo_4 21 rfl rfl)
theorem dX4_canDo_115 : decode cX4_canDo 115 = .ok (.getfield 249, 3) := dk_180 0 249 (dk_at dksX4_canDo_5 0 rfl rfl)
theorem dX4_canDo_118 : decode cX4_canDo 118 = .ok (.invokevirtual 96, 3) := dk_182 0 96 (dk_at dksX4_canDo_5 3 rfl rfl)
theorem dX4_canDo_121 : decode cX4_canDo 121 = .ok (.ifCond .ne 7, 3) := dk_154 0 7 (dk_at dksX4_canDo_5 6 rfl rfl)
theorem dX4_canDo_124 : decode cX4_canDo 124 = .ok (.iconst 1, 1) := dk_4 (dk_at dksX4_canDo_5 9 rfl rfl)
theorem dX4_canDo_125 : decode cX4_canDo 125 = .ok (.goto 31, 3) := dk_167 0 31 (dk_at dksX4_canDo_5 10 rfl rfl)
theorem dX4_canDo_128 : decode cX4_canDo 128 = .ok (.iconst 0, 1) := dk_3 (dk_at dksX4_canDo_5 13 rfl rfl)
theorem dX4_canDo_129 : decode cX4_canDo 129 = .ok (.goto 27, 3) := dk_167 0 27 (dk_at dksX4_canDo_5 14 rfl rfl)
theorem dX4_canDo_132 : decode cX4_canDo 132 = .ok (.aload_n 0, 1) := dk_42 (dk_at dksX4_canDo_5 17 rfl rfl)
theorem dX4_canDo_133 : decode cX4_canDo 133 = .ok (.aload_n 0, 1) := dk_42 (dk_at dksX4_canDo_5 18 rfl rfl)
theorem dX4_canDo_134 : decode cX4_canDo 134 = .ok (.getfield 255, 3) := dk_180 0 255 (dk_at dksX4_canDo_5 19 rfl rfl)
theorem dX4_canDo_137 : decode cX4_canDo 137 = .ok (.aload_n 0, 1) := dk_42 (dk_at dksX4_canDo_5 22 rfl rfl)
theorem dX4_canDo_138 : decode cX4_canDo 138 = .ok (.getfield 264, 3) := dk_180 1 8 (dk_at dksX4_canDo_6 0 rfl rfl)
theorem dX4_canDo_141 : decode cX4_canDo 141 = .ok (.aload_n 0, 1) := dk_42 (dk_at dksX4_canDo_6 3 rfl rfl)
theorem dX4_canDo_142 : decode cX4_canDo 142 = .ok (.getfield 258, 3) := dk_180 1 2 (dk_at dksX4_canDo_6 4 rfl rfl)
theorem dX4_canDo_145 : decode cX4_canDo 145 = .ok (.invokevirtual 115, 3) := dk_182 0 115 (dk_at dksX4_canDo_6 7 rfl rfl)
theorem dX4_canDo_148 : decode cX4_canDo 148 = .ok (.ifCond .ne 7, 3) := dk_154 0 7 (dk_at dksX4_canDo_6 10 rfl rfl)
theorem dX4_canDo_151 : decode cX4_canDo 151 = .ok (.iconst 1, 1) := dk_4 (dk_at dksX4_canDo_6 13 rfl rfl)
theorem dX4_canDo_152 : decode cX4_canDo 152 = .ok (.goto 4, 3) := dk_167 0 4 (dk_at dksX4_canDo_6 14 rfl rfl)
theorem dX4_canDo_155 : decode cX4_canDo 155 = .ok (.iconst 0, 1) := dk_3 (dk_at dksX4_canDo_6 17 rfl rfl)
theorem dX4_canDo_156 : decode cX4_canDo 156 = .ok (.ireturn, 1) := dk_172 (dk_at dksX4_canDo_6 18 rfl rfl)
abbrev cX4_does : ByteArray := prog_17_method_123_code
def yX4_does : MethodName := ⟨RX4, "does", "()V"⟩
def dkwX4_does_5 : List UInt8 := [167, 0, 20, 42, 42, 180, 0, 255, 42, 180, 1, 8, 42, 180, 1, 2, 182, 0, 119, 87, 177]
abbrev dktX4_does_5 : List UInt8 := dkwX4_does_5 ++ []
def dkwX4_does_4 : List UInt8 := [42, 180, 1, 14, 16, 102, 160, 0, 19, 42, 42, 180, 0, 255, 42, 180, 0, 249, 182, 0, 99, 87]
abbrev dktX4_does_4 : List UInt8 := dkwX4_does_4 ++ dktX4_does_5
def dkwX4_does_3 : List UInt8 := [180, 1, 14, 16, 118, 160, 0, 19, 42, 42, 180, 0, 255, 42, 180, 0, 249, 182, 0, 93, 87, 167, 0, 45]
abbrev dktX4_does_3 : List UInt8 := dkwX4_does_3 ++ dktX4_does_4
def dkwX4_does_2 : List UInt8 := [16, 120, 160, 0, 20, 42, 2, 42, 180, 0, 255, 42, 180, 1, 2, 182, 0, 119, 87, 167, 0, 70, 42]
abbrev dktX4_does_2 : List UInt8 := dkwX4_does_2 ++ dktX4_does_3
def dkwX4_does_1 : List UInt8 := [180, 1, 14, 16, 43, 160, 0, 15, 42, 42, 180, 0, 249, 182, 0, 171, 87, 167, 0, 96, 42, 180, 1, 14]
abbrev dktX4_does_1 : List UInt8 := dkwX4_does_1 ++ dktX4_does_2
def dkwX4_does_0 : List UInt8 := [42, 180, 1, 14, 16, 110, 160, 0, 15, 42, 42, 180, 0, 249, 182, 0, 74, 87, 167, 0, 117, 42]
abbrev dktX4_does_0 : List UInt8 := dkwX4_does_0 ++ dktX4_does_1
theorem dksX4_does_0 : cX4_does.data.toList.drop 0 = dktX4_does_0 := by decide +kernel
theorem dksX4_does_1 : cX4_does.data.toList.drop 22 = dktX4_does_1 := dk_seg dksX4_does_0 22 rfl rfl
theorem dksX4_does_2 : cX4_does.data.toList.drop 46 = dktX4_does_2 := dk_seg dksX4_does_1 24 rfl rfl
theorem dksX4_does_3 : cX4_does.data.toList.drop 69 = dktX4_does_3 := dk_seg dksX4_does_2 23 rfl rfl
theorem dksX4_does_4 : cX4_does.data.toList.drop 93 = dktX4_does_4 := dk_seg dksX4_does_3 24 rfl rfl
theorem dksX4_does_5 : cX4_does.data.toList.drop 115 = dktX4_does_5 := dk_seg dksX4_does_4 22 rfl rfl
theorem dX4_does_0 : decode cX4_does 0 = .ok (.aload_n 0, 1) := dk_42 (dk_at dksX4_does_0 0 rfl rfl)
theorem dX4_does_1 : decode cX4_does 1 = .ok (.getfield 270, 3) := dk_180 1 14 (dk_at dksX4_does_0 1 rfl rfl)
theorem dX4_does_4 : decode cX4_does 4 = .ok (.bipush 110, 2) := dk_16 110 (dk_at dksX4_does_0 4 rfl rfl)
theorem dX4_does_6 : decode cX4_does 6 = .ok (.if_icmp .ne 15, 3) := dk_160 0 15 (dk_at dksX4_does_0 6 rfl rfl)
theorem dX4_does_9 : decode cX4_does 9 = .ok (.aload_n 0, 1) := dk_42 (dk_at dksX4_does_0 9 rfl rfl)
theorem dX4_does_10 : decode cX4_does 10 = .ok (.aload_n 0, 1) := dk_42 (dk_at dksX4_does_0 10 rfl rfl)
theorem dX4_does_11 : decode cX4_does 11 = .ok (.getfield 249, 3) := dk_180 0 249 (dk_at dksX4_does_0 11 rfl rfl)
theorem dX4_does_14 : decode cX4_does 14 = .ok (.invokevirtual 74, 3) := dk_182 0 74 (dk_at dksX4_does_0 14 rfl rfl)
theorem dX4_does_17 : decode cX4_does 17 = .ok (.pop, 1) := dk_87 (dk_at dksX4_does_0 17 rfl rfl)
theorem dX4_does_18 : decode cX4_does 18 = .ok (.goto 117, 3) := dk_167 0 117 (dk_at dksX4_does_0 18 rfl rfl)
theorem dX4_does_21 : decode cX4_does 21 = .ok (.aload_n 0, 1) := dk_42 (dk_at dksX4_does_0 21 rfl rfl)
theorem dX4_does_22 : decode cX4_does 22 = .ok (.getfield 270, 3) := dk_180 1 14 (dk_at dksX4_does_1 0 rfl rfl)
theorem dX4_does_25 : decode cX4_does 25 = .ok (.bipush 43, 2) := dk_16 43 (dk_at dksX4_does_1 3 rfl rfl)
theorem dX4_does_27 : decode cX4_does 27 = .ok (.if_icmp .ne 15, 3) := dk_160 0 15 (dk_at dksX4_does_1 5 rfl rfl)
theorem dX4_does_30 : decode cX4_does 30 = .ok (.aload_n 0, 1) := dk_42 (dk_at dksX4_does_1 8 rfl rfl)
theorem dX4_does_31 : decode cX4_does 31 = .ok (.aload_n 0, 1) := dk_42 (dk_at dksX4_does_1 9 rfl rfl)
theorem dX4_does_32 : decode cX4_does 32 = .ok (.getfield 249, 3) := dk_180 0 249 (dk_at dksX4_does_1 10 rfl rfl)
theorem dX4_does_35 : decode cX4_does 35 = .ok (.invokevirtual 171, 3) := dk_182 0 171 (dk_at dksX4_does_1 13 rfl rfl)
theorem dX4_does_38 : decode cX4_does 38 = .ok (.pop, 1) := dk_87 (dk_at dksX4_does_1 16 rfl rfl)
theorem dX4_does_39 : decode cX4_does 39 = .ok (.goto 96, 3) := dk_167 0 96 (dk_at dksX4_does_1 17 rfl rfl)
theorem dX4_does_42 : decode cX4_does 42 = .ok (.aload_n 0, 1) := dk_42 (dk_at dksX4_does_1 20 rfl rfl)
theorem dX4_does_43 : decode cX4_does 43 = .ok (.getfield 270, 3) := dk_180 1 14 (dk_at dksX4_does_1 21 rfl rfl)
theorem dX4_does_46 : decode cX4_does 46 = .ok (.bipush 120, 2) := dk_16 120 (dk_at dksX4_does_2 0 rfl rfl)
theorem dX4_does_48 : decode cX4_does 48 = .ok (.if_icmp .ne 20, 3) := dk_160 0 20 (dk_at dksX4_does_2 2 rfl rfl)
theorem dX4_does_51 : decode cX4_does 51 = .ok (.aload_n 0, 1) := dk_42 (dk_at dksX4_does_2 5 rfl rfl)
theorem dX4_does_52 : decode cX4_does 52 = .ok (.iconst (-1), 1) := dk_2 (dk_at dksX4_does_2 6 rfl rfl)
theorem dX4_does_53 : decode cX4_does 53 = .ok (.aload_n 0, 1) := dk_42 (dk_at dksX4_does_2 7 rfl rfl)
theorem dX4_does_54 : decode cX4_does 54 = .ok (.getfield 255, 3) := dk_180 0 255 (dk_at dksX4_does_2 8 rfl rfl)
theorem dX4_does_57 : decode cX4_does 57 = .ok (.aload_n 0, 1) := dk_42 (dk_at dksX4_does_2 11 rfl rfl)
theorem dX4_does_58 : decode cX4_does 58 = .ok (.getfield 258, 3) := dk_180 1 2 (dk_at dksX4_does_2 12 rfl rfl)
theorem dX4_does_61 : decode cX4_does 61 = .ok (.invokevirtual 119, 3) := dk_182 0 119 (dk_at dksX4_does_2 15 rfl rfl)
theorem dX4_does_64 : decode cX4_does 64 = .ok (.pop, 1) := dk_87 (dk_at dksX4_does_2 18 rfl rfl)
theorem dX4_does_65 : decode cX4_does 65 = .ok (.goto 70, 3) := dk_167 0 70 (dk_at dksX4_does_2 19 rfl rfl)
theorem dX4_does_68 : decode cX4_does 68 = .ok (.aload_n 0, 1) := dk_42 (dk_at dksX4_does_2 22 rfl rfl)
theorem dX4_does_69 : decode cX4_does 69 = .ok (.getfield 270, 3) := dk_180 1 14 (dk_at dksX4_does_3 0 rfl rfl)
theorem dX4_does_72 : decode cX4_does 72 = .ok (.bipush 118, 2) := dk_16 118 (dk_at dksX4_does_3 3 rfl rfl)
theorem dX4_does_74 : decode cX4_does 74 = .ok (.if_icmp .ne 19, 3) := dk_160 0 19 (dk_at dksX4_does_3 5 rfl rfl)
theorem dX4_does_77 : decode cX4_does 77 = .ok (.aload_n 0, 1) := dk_42 (dk_at dksX4_does_3 8 rfl rfl)
theorem dX4_does_78 : decode cX4_does 78 = .ok (.aload_n 0, 1) := dk_42 (dk_at dksX4_does_3 9 rfl rfl)
theorem dX4_does_79 : decode cX4_does 79 = .ok (.getfield 255, 3) := dk_180 0 255 (dk_at dksX4_does_3 10 rfl rfl)
theorem dX4_does_82 : decode cX4_does 82 = .ok (.aload_n 0, 1) := dk_42 (dk_at dksX4_does_3 13 rfl rfl)
theorem dX4_does_83 : decode cX4_does 83 = .ok (.getfield 249, 3) := dk_180 0 249 (dk_at dksX4_does_3 14 rfl rfl)
theorem dX4_does_86 : decode cX4_does 86 = .ok (.invokevirtual 93, 3) := dk_182 0 93 (dk_at dksX4_does_3 17 rfl rfl)
theorem dX4_does_89 : decode cX4_does 89 = .ok (.pop, 1) := dk_87 (dk_at dksX4_does_3 20 rfl rfl)
theorem dX4_does_90 : decode cX4_does 90 = .ok (.goto 45, 3) := dk_167 0 45 (dk_at dksX4_does_3 21 rfl rfl)
theorem dX4_does_93 : decode cX4_does 93 = .ok (.aload_n 0, 1) := dk_42 (dk_at dksX4_does_4 0 rfl rfl)
theorem dX4_does_94 : decode cX4_does 94 = .ok (.getfield 270, 3) := dk_180 1 14 (dk_at dksX4_does_4 1 rfl rfl)
theorem dX4_does_97 : decode cX4_does 97 = .ok (.bipush 102, 2) := dk_16 102 (dk_at dksX4_does_4 4 rfl rfl)
theorem dX4_does_99 : decode cX4_does 99 = .ok (.if_icmp .ne 19, 3) := dk_160 0 19 (dk_at dksX4_does_4 6 rfl rfl)
theorem dX4_does_102 : decode cX4_does 102 = .ok (.aload_n 0, 1) := dk_42 (dk_at dksX4_does_4 9 rfl rfl)
theorem dX4_does_103 : decode cX4_does 103 = .ok (.aload_n 0, 1) := dk_42 (dk_at dksX4_does_4 10 rfl rfl)
theorem dX4_does_104 : decode cX4_does 104 = .ok (.getfield 255, 3) := dk_180 0 255 (dk_at dksX4_does_4 11 rfl rfl)
theorem dX4_does_107 : decode cX4_does 107 = .ok (.aload_n 0, 1) := dk_42 (dk_at dksX4_does_4 14 rfl rfl)
theorem dX4_does_108 : decode cX4_does 108 = .ok (.getfield 249, 3) := dk_180 0 249 (dk_at dksX4_does_4 15 rfl rfl)
theorem dX4_does_111 : decode cX4_does 111 = .ok (.invokevirtual 99, 3) := dk_182 0 99 (dk_at dksX4_does_4 18 rfl rfl)
theorem dX4_does_114 : decode cX4_does 114 = .ok (.pop, 1) := dk_87 (dk_at dksX4_does_4 21 rfl rfl)
theorem dX4_does_115 : decode cX4_does 115 = .ok (.goto 20, 3) := dk_167 0 20 (dk_at dksX4_does_5 0 rfl rfl)
theorem dX4_does_118 : decode cX4_does 118 = .ok (.aload_n 0, 1) := dk_42 (dk_at dksX4_does_5 3 rfl rfl)
theorem dX4_does_119 : decode cX4_does 119 = .ok (.aload_n 0, 1) := dk_42 (dk_at dksX4_does_5 4 rfl rfl)
theorem dX4_does_120 : decode cX4_does 120 = .ok (.getfield 255, 3) := dk_180 0 255 (dk_at dksX4_does_5 5 rfl rfl)
theorem dX4_does_123 : decode cX4_does 123 = .ok (.aload_n 0, 1) := dk_42 (dk_at dksX4_does_5 8 rfl rfl)
theorem dX4_does_124 : decode cX4_does 124 = .ok (.getfield 264, 3) := dk_180 1 8 (dk_at dksX4_does_5 9 rfl rfl)
theorem dX4_does_127 : decode cX4_does 127 = .ok (.aload_n 0, 1) := dk_42 (dk_at dksX4_does_5 12 rfl rfl)
theorem dX4_does_128 : decode cX4_does 128 = .ok (.getfield 258, 3) := dk_180 1 2 (dk_at dksX4_does_5 13 rfl rfl)
theorem dX4_does_131 : decode cX4_does 131 = .ok (.invokevirtual 119, 3) := dk_182 0 119 (dk_at dksX4_does_5 16 rfl rfl)
theorem dX4_does_134 : decode cX4_does 134 = .ok (.pop, 1) := dk_87 (dk_at dksX4_does_5 19 rfl rfl)
theorem dX4_does_135 : decode cX4_does 135 = .ok (.return_, 1) := dk_177 (dk_at dksX4_does_5 20 rfl rfl)
abbrev cX4_undo : ByteArray := prog_17_method_125_code
def yX4_undo : MethodName := ⟨RX4, "undo", "()I"⟩
def dkwX4_undo_3 : List UInt8 := [180, 0, 41, 172]
abbrev dktX4_undo_3 : List UInt8 := dkwX4_undo_3 ++ []
def dkwX4_undo_2 : List UInt8 := [27, 42, 180, 0, 13, 42, 180, 0, 41, 17, 0, 242, 104, 27, 96, 46, 79, 132, 1, 1, 167, 255, 225, 42]
abbrev dktX4_undo_2 : List UInt8 := dkwX4_undo_2 ++ dktX4_undo_3
def dkwX4_undo_1 : List UInt8 := [172, 42, 89, 180, 0, 41, 4, 100, 181, 0, 41, 3, 60, 27, 17, 0, 242, 162, 0, 30, 42, 180, 0, 7]
abbrev dktX4_undo_1 : List UInt8 := dkwX4_undo_1 ++ dktX4_undo_2
def dkwX4_undo_0 : List UInt8 := [42, 42, 180, 0, 41, 154, 0, 7, 4, 167, 0, 4, 3, 181, 0, 37, 42, 180, 0, 37, 158, 0, 5, 3]
abbrev dktX4_undo_0 : List UInt8 := dkwX4_undo_0 ++ dktX4_undo_1
theorem dksX4_undo_0 : cX4_undo.data.toList.drop 0 = dktX4_undo_0 := by decide +kernel
theorem dksX4_undo_1 : cX4_undo.data.toList.drop 24 = dktX4_undo_1 := dk_seg dksX4_undo_0 24 rfl rfl
theorem dksX4_undo_2 : cX4_undo.data.toList.drop 48 = dktX4_undo_2 := dk_seg dksX4_undo_1 24 rfl rfl
theorem dksX4_undo_3 : cX4_undo.data.toList.drop 72 = dktX4_undo_3 := dk_seg dksX4_undo_2 24 rfl rfl
theorem dX4_undo_0 : decode cX4_undo 0 = .ok (.aload_n 0, 1) := dk_42 (dk_at dksX4_undo_0 0 rfl rfl)
theorem dX4_undo_1 : decode cX4_undo 1 = .ok (.aload_n 0, 1) := dk_42 (dk_at dksX4_undo_0 1 rfl rfl)
theorem dX4_undo_2 : decode cX4_undo 2 = .ok (.getfield 41, 3) := dk_180 0 41 (dk_at dksX4_undo_0 2 rfl rfl)
theorem dX4_undo_5 : decode cX4_undo 5 = .ok (.ifCond .ne 7, 3) := dk_154 0 7 (dk_at dksX4_undo_0 5 rfl rfl)
theorem dX4_undo_8 : decode cX4_undo 8 = .ok (.iconst 1, 1) := dk_4 (dk_at dksX4_undo_0 8 rfl rfl)
theorem dX4_undo_9 : decode cX4_undo 9 = .ok (.goto 4, 3) := dk_167 0 4 (dk_at dksX4_undo_0 9 rfl rfl)
theorem dX4_undo_12 : decode cX4_undo 12 = .ok (.iconst 0, 1) := dk_3 (dk_at dksX4_undo_0 12 rfl rfl)
theorem dX4_undo_13 : decode cX4_undo 13 = .ok (.putfield 37, 3) := dk_181 0 37 (dk_at dksX4_undo_0 13 rfl rfl)
theorem dX4_undo_16 : decode cX4_undo 16 = .ok (.aload_n 0, 1) := dk_42 (dk_at dksX4_undo_0 16 rfl rfl)
theorem dX4_undo_17 : decode cX4_undo 17 = .ok (.getfield 37, 3) := dk_180 0 37 (dk_at dksX4_undo_0 17 rfl rfl)
theorem dX4_undo_20 : decode cX4_undo 20 = .ok (.ifCond .le 5, 3) := dk_158 0 5 (dk_at dksX4_undo_0 20 rfl rfl)
theorem dX4_undo_23 : decode cX4_undo 23 = .ok (.iconst 0, 1) := dk_3 (dk_at dksX4_undo_0 23 rfl rfl)
theorem dX4_undo_24 : decode cX4_undo 24 = .ok (.ireturn, 1) := dk_172 (dk_at dksX4_undo_1 0 rfl rfl)
theorem dX4_undo_25 : decode cX4_undo 25 = .ok (.aload_n 0, 1) := dk_42 (dk_at dksX4_undo_1 1 rfl rfl)
theorem dX4_undo_26 : decode cX4_undo 26 = .ok (.dup, 1) := dk_89 (dk_at dksX4_undo_1 2 rfl rfl)
theorem dX4_undo_27 : decode cX4_undo 27 = .ok (.getfield 41, 3) := dk_180 0 41 (dk_at dksX4_undo_1 3 rfl rfl)
theorem dX4_undo_30 : decode cX4_undo 30 = .ok (.iconst 1, 1) := dk_4 (dk_at dksX4_undo_1 6 rfl rfl)
theorem dX4_undo_31 : decode cX4_undo 31 = .ok (.isub, 1) := dk_100 (dk_at dksX4_undo_1 7 rfl rfl)
theorem dX4_undo_32 : decode cX4_undo 32 = .ok (.putfield 41, 3) := dk_181 0 41 (dk_at dksX4_undo_1 8 rfl rfl)
theorem dX4_undo_35 : decode cX4_undo 35 = .ok (.iconst 0, 1) := dk_3 (dk_at dksX4_undo_1 11 rfl rfl)
theorem dX4_undo_36 : decode cX4_undo 36 = .ok (.istore_n 1, 1) := dk_60 (dk_at dksX4_undo_1 12 rfl rfl)
theorem dX4_undo_37 : decode cX4_undo 37 = .ok (.iload_n 1, 1) := dk_27 (dk_at dksX4_undo_1 13 rfl rfl)
theorem dX4_undo_38 : decode cX4_undo 38 = .ok (.sipush 242, 3) := dk_17 0 242 (dk_at dksX4_undo_1 14 rfl rfl)
theorem dX4_undo_41 : decode cX4_undo 41 = .ok (.if_icmp .ge 30, 3) := dk_162 0 30 (dk_at dksX4_undo_1 17 rfl rfl)
theorem dX4_undo_44 : decode cX4_undo 44 = .ok (.aload_n 0, 1) := dk_42 (dk_at dksX4_undo_1 20 rfl rfl)
theorem dX4_undo_45 : decode cX4_undo 45 = .ok (.getfield 7, 3) := dk_180 0 7 (dk_at dksX4_undo_1 21 rfl rfl)
theorem dX4_undo_48 : decode cX4_undo 48 = .ok (.iload_n 1, 1) := dk_27 (dk_at dksX4_undo_2 0 rfl rfl)
theorem dX4_undo_49 : decode cX4_undo 49 = .ok (.aload_n 0, 1) := dk_42 (dk_at dksX4_undo_2 1 rfl rfl)
theorem dX4_undo_50 : decode cX4_undo 50 = .ok (.getfield 13, 3) := dk_180 0 13 (dk_at dksX4_undo_2 2 rfl rfl)
theorem dX4_undo_53 : decode cX4_undo 53 = .ok (.aload_n 0, 1) := dk_42 (dk_at dksX4_undo_2 5 rfl rfl)
theorem dX4_undo_54 : decode cX4_undo 54 = .ok (.getfield 41, 3) := dk_180 0 41 (dk_at dksX4_undo_2 6 rfl rfl)
theorem dX4_undo_57 : decode cX4_undo 57 = .ok (.sipush 242, 3) := dk_17 0 242 (dk_at dksX4_undo_2 9 rfl rfl)
theorem dX4_undo_60 : decode cX4_undo 60 = .ok (.imul, 1) := dk_104 (dk_at dksX4_undo_2 12 rfl rfl)
theorem dX4_undo_61 : decode cX4_undo 61 = .ok (.iload_n 1, 1) := dk_27 (dk_at dksX4_undo_2 13 rfl rfl)
theorem dX4_undo_62 : decode cX4_undo 62 = .ok (.iadd, 1) := dk_96 (dk_at dksX4_undo_2 14 rfl rfl)
theorem dX4_undo_63 : decode cX4_undo 63 = .ok (.iaload, 1) := dk_46 (dk_at dksX4_undo_2 15 rfl rfl)
theorem dX4_undo_64 : decode cX4_undo 64 = .ok (.iastore, 1) := dk_79 (dk_at dksX4_undo_2 16 rfl rfl)
theorem dX4_undo_65 : decode cX4_undo 65 = .ok (.iinc 1 1, 3) := dk_132 1 1 (dk_at dksX4_undo_2 17 rfl rfl)
theorem dX4_undo_68 : decode cX4_undo 68 = .ok (.goto (-31), 3) := dk_167 255 225 (dk_at dksX4_undo_2 20 rfl rfl)
theorem dX4_undo_71 : decode cX4_undo 71 = .ok (.aload_n 0, 1) := dk_42 (dk_at dksX4_undo_2 23 rfl rfl)
theorem dX4_undo_72 : decode cX4_undo 72 = .ok (.getfield 41, 3) := dk_180 0 41 (dk_at dksX4_undo_3 0 rfl rfl)
theorem dX4_undo_75 : decode cX4_undo 75 = .ok (.ireturn, 1) := dk_172 (dk_at dksX4_undo_3 3 rfl rfl)
abbrev cX4_digest : ByteArray := prog_17_method_127_code
def yX4_digest : MethodName := ⟨RX4, "digest", "()J"⟩
def dkwX4_digest_17 : List UInt8 := [182, 0, 217, 184, 1, 43, 97, 173]
abbrev dktX4_digest_17 : List UInt8 := dkwX4_digest_17 ++ []
def dkwX4_digest_16 : List UInt8 := [180, 0, 7, 16, 10, 29, 96, 46, 133, 97, 64, 132, 3, 255, 167, 255, 232, 20, 1, 35, 31, 105, 42]
abbrev dktX4_digest_16 : List UInt8 := dkwX4_digest_16 ++ dktX4_digest_17
def dkwX4_digest_15 : List UInt8 := [167, 255, 193, 42, 180, 0, 7, 16, 6, 46, 4, 100, 62, 29, 155, 0, 26, 20, 1, 35, 31, 105, 42]
abbrev dktX4_digest_15 : List UInt8 := dkwX4_digest_15 ++ dktX4_digest_16
def dkwX4_digest_14 : List UInt8 := [182, 0, 48, 133, 97, 64, 20, 1, 35, 31, 105, 42, 29, 182, 0, 199, 133, 97, 64, 132, 3, 1]
abbrev dktX4_digest_14 : List UInt8 := dkwX4_digest_14 ++ dktX4_digest_15
def dkwX4_digest_13 : List UInt8 := [20, 1, 35, 31, 105, 42, 29, 5, 182, 0, 48, 133, 97, 64, 20, 1, 35, 31, 105, 42, 29, 6]
abbrev dktX4_digest_13 : List UInt8 := dkwX4_digest_13 ++ dktX4_digest_14
def dkwX4_digest_12 : List UInt8 := [167, 255, 202, 3, 62, 29, 42, 180, 0, 7, 3, 46, 162, 0, 59, 42, 29, 182, 0, 56, 4, 160, 0, 44]
abbrev dktX4_digest_12 : List UInt8 := dkwX4_digest_12 ++ dktX4_digest_13
def dkwX4_digest_11 : List UInt8 := [105, 42, 29, 16, 9, 21, 4, 96, 182, 0, 48, 133, 97, 64, 132, 4, 1, 167, 255, 221, 132, 3, 1]
abbrev dktX4_digest_11 : List UInt8 := dkwX4_digest_11 ++ dktX4_digest_12
def dkwX4_digest_10 : List UInt8 := [162, 0, 50, 3, 54, 4, 21, 4, 7, 162, 0, 35, 42, 29, 182, 0, 77, 153, 0, 27, 20, 1, 35, 31]
abbrev dktX4_digest_10 : List UInt8 := dkwX4_digest_10 ++ dktX4_digest_11
def dkwX4_digest_9 : List UInt8 := [42, 31, 29, 182, 1, 39, 64, 132, 3, 1, 167, 255, 236, 3, 62, 29, 42, 180, 0, 7, 3, 46]
abbrev dktX4_digest_9 : List UInt8 := dkwX4_digest_9 ++ dktX4_digest_10
def dkwX4_digest_8 : List UInt8 := [20, 1, 35, 31, 105, 42, 182, 0, 230, 133, 97, 64, 3, 62, 29, 42, 180, 0, 7, 3, 46, 162, 0, 16]
abbrev dktX4_digest_8 : List UInt8 := dkwX4_digest_8 ++ dktX4_digest_9
def dkwX4_digest_7 : List UInt8 := [180, 0, 7, 16, 7, 46, 133, 97, 64, 20, 1, 35, 31, 105, 42, 180, 0, 7, 16, 9, 46, 133, 97, 64]
abbrev dktX4_digest_7 : List UInt8 := dkwX4_digest_7 ++ dktX4_digest_8
def dkwX4_digest_6 : List UInt8 := [97, 64, 20, 1, 35, 31, 105, 42, 180, 0, 7, 16, 6, 46, 133, 97, 64, 20, 1, 35, 31, 105, 42]
abbrev dktX4_digest_6 : List UInt8 := dkwX4_digest_6 ++ dktX4_digest_7
def dkwX4_digest_5 : List UInt8 := [20, 1, 35, 31, 105, 42, 182, 0, 214, 133, 97, 64, 20, 1, 35, 31, 105, 42, 180, 0, 7, 8, 46, 133]
abbrev dktX4_digest_5 : List UInt8 := dkwX4_digest_5 ++ dktX4_digest_6
def dkwX4_digest_4 : List UInt8 := [20, 1, 35, 31, 105, 42, 182, 0, 202, 133, 97, 64, 20, 1, 35, 31, 105, 42, 182, 0, 211, 133, 97, 64]
abbrev dktX4_digest_4 : List UInt8 := dkwX4_digest_4 ++ dktX4_digest_5
def dkwX4_digest_3 : List UInt8 := [180, 0, 7, 6, 46, 133, 97, 64, 20, 1, 35, 31, 105, 42, 180, 0, 7, 7, 46, 133, 97, 64]
abbrev dktX4_digest_3 : List UInt8 := dkwX4_digest_3 ++ dktX4_digest_4
def dkwX4_digest_2 : List UInt8 := [97, 64, 20, 1, 35, 31, 105, 42, 180, 0, 7, 5, 46, 133, 97, 64, 20, 1, 35, 31, 105, 42]
abbrev dktX4_digest_2 : List UInt8 := dkwX4_digest_2 ++ dktX4_digest_3
def dkwX4_digest_1 : List UInt8 := [20, 1, 35, 31, 105, 42, 182, 0, 189, 133, 97, 64, 20, 1, 35, 31, 105, 42, 180, 0, 7, 4, 46, 133]
abbrev dktX4_digest_1 : List UInt8 := dkwX4_digest_1 ++ dktX4_digest_2
def dkwX4_digest_0 : List UInt8 := [42, 3, 181, 0, 37, 20, 1, 37, 64, 20, 1, 35, 31, 105, 42, 180, 0, 7, 3, 46, 133, 97, 64]
abbrev dktX4_digest_0 : List UInt8 := dkwX4_digest_0 ++ dktX4_digest_1
theorem dksX4_digest_0 : cX4_digest.data.toList.drop 0 = dktX4_digest_0 := by decide +kernel
theorem dksX4_digest_1 : cX4_digest.data.toList.drop 23 = dktX4_digest_1 := dk_seg dksX4_digest_0 23 rfl rfl
theorem dksX4_digest_2 : cX4_digest.data.toList.drop 47 = dktX4_digest_2 := dk_seg dksX4_digest_1 24 rfl rfl
theorem dksX4_digest_3 : cX4_digest.data.toList.drop 69 = dktX4_digest_3 := dk_seg dksX4_digest_2 22 rfl rfl
theorem dksX4_digest_4 : cX4_digest.data.toList.drop 91 = dktX4_digest_4 := dk_seg dksX4_digest_3 22 rfl rfl
theorem dksX4_digest_5 : cX4_digest.data.toList.drop 115 = dktX4_digest_5 := dk_seg dksX4_digest_4 24 rfl rfl
theorem dksX4_digest_6 : cX4_digest.data.toList.drop 139 = dktX4_digest_6 := dk_seg dksX4_digest_5 24 rfl rfl
theorem dksX4_digest_7 : cX4_digest.data.toList.drop 162 = dktX4_digest_7 := dk_seg dksX4_digest_6 23 rfl rfl
theorem dksX4_digest_8 : cX4_digest.data.toList.drop 186 = dktX4_digest_8 := dk_seg dksX4_digest_7 24 rfl rfl
theorem dksX4_digest_9 : cX4_digest.data.toList.drop 210 = dktX4_digest_9 := dk_seg dksX4_digest_8 24 rfl rfl
theorem dksX4_digest_10 : cX4_digest.data.toList.drop 232 = dktX4_digest_10 := dk_seg dksX4_digest_9 22 rfl rfl
theorem dksX4_digest_11 : cX4_digest.data.toList.drop 256 = dktX4_digest_11 := dk_seg dksX4_digest_10 24 rfl rfl
theorem dksX4_digest_12 : cX4_digest.data.toList.drop 279 = dktX4_digest_12 := dk_seg dksX4_digest_11 23 rfl rfl
theorem dksX4_digest_13 : cX4_digest.data.toList.drop 303 = dktX4_digest_13 := dk_seg dksX4_digest_12 24 rfl rfl
theorem dksX4_digest_14 : cX4_digest.data.toList.drop 325 = dktX4_digest_14 := dk_seg dksX4_digest_13 22 rfl rfl
theorem dksX4_digest_15 : cX4_digest.data.toList.drop 347 = dktX4_digest_15 := dk_seg dksX4_digest_14 22 rfl rfl
theorem dksX4_digest_16 : cX4_digest.data.toList.drop 370 = dktX4_digest_16 := dk_seg dksX4_digest_15 23 rfl rfl
theorem dksX4_digest_17 : cX4_digest.data.toList.drop 393 = dktX4_digest_17 := dk_seg dksX4_digest_16 23 rfl rfl
theorem dX4_digest_0 : decode cX4_digest 0 = .ok (.aload_n 0, 1) := dk_42 (dk_at dksX4_digest_0 0 rfl rfl)
theorem dX4_digest_1 : decode cX4_digest 1 = .ok (.iconst 0, 1) := dk_3 (dk_at dksX4_digest_0 1 rfl rfl)
theorem dX4_digest_2 : decode cX4_digest 2 = .ok (.putfield 37, 3) := dk_181 0 37 (dk_at dksX4_digest_0 2 rfl rfl)
theorem dX4_digest_5 : decode cX4_digest 5 = .ok (.ldc2_w 293, 3) := dk_20 1 37 (dk_at dksX4_digest_0 5 rfl rfl)
theorem dX4_digest_8 : decode cX4_digest 8 = .ok (.lstore_n 1, 1) := dk_64 (dk_at dksX4_digest_0 8 rfl rfl)
theorem dX4_digest_9 : decode cX4_digest 9 = .ok (.ldc2_w 291, 3) := dk_20 1 35 (dk_at dksX4_digest_0 9 rfl rfl)
theorem dX4_digest_12 : decode cX4_digest 12 = .ok (.lload_n 1, 1) := dk_31 (dk_at dksX4_digest_0 12 rfl rfl)
theorem dX4_digest_13 : decode cX4_digest 13 = .ok (.lmul, 1) := dk_105 (dk_at dksX4_digest_0 13 rfl rfl)
theorem dX4_digest_14 : decode cX4_digest 14 = .ok (.aload_n 0, 1) := dk_42 (dk_at dksX4_digest_0 14 rfl rfl)
theorem dX4_digest_15 : decode cX4_digest 15 = .ok (.getfield 7, 3) := dk_180 0 7 (dk_at dksX4_digest_0 15 rfl rfl)
theorem dX4_digest_18 : decode cX4_digest 18 = .ok (.iconst 0, 1) := dk_3 (dk_at dksX4_digest_0 18 rfl rfl)
theorem dX4_digest_19 : decode cX4_digest 19 = .ok (.iaload, 1) := dk_46 (dk_at dksX4_digest_0 19 rfl rfl)
theorem dX4_digest_20 : decode cX4_digest 20 = .ok (.i2l, 1) := dk_133 (dk_at dksX4_digest_0 20 rfl rfl)
theorem dX4_digest_21 : decode cX4_digest 21 = .ok (.ladd, 1) := dk_97 (dk_at dksX4_digest_0 21 rfl rfl)
theorem dX4_digest_22 : decode cX4_digest 22 = .ok (.lstore_n 1, 1) := dk_64 (dk_at dksX4_digest_0 22 rfl rfl)
theorem dX4_digest_23 : decode cX4_digest 23 = .ok (.ldc2_w 291, 3) := dk_20 1 35 (dk_at dksX4_digest_1 0 rfl rfl)
theorem dX4_digest_26 : decode cX4_digest 26 = .ok (.lload_n 1, 1) := dk_31 (dk_at dksX4_digest_1 3 rfl rfl)
theorem dX4_digest_27 : decode cX4_digest 27 = .ok (.lmul, 1) := dk_105 (dk_at dksX4_digest_1 4 rfl rfl)
theorem dX4_digest_28 : decode cX4_digest 28 = .ok (.aload_n 0, 1) := dk_42 (dk_at dksX4_digest_1 5 rfl rfl)
theorem dX4_digest_29 : decode cX4_digest 29 = .ok (.invokevirtual 189, 3) := dk_182 0 189 (dk_at dksX4_digest_1 6 rfl rfl)
theorem dX4_digest_32 : decode cX4_digest 32 = .ok (.i2l, 1) := dk_133 (dk_at dksX4_digest_1 9 rfl rfl)
theorem dX4_digest_33 : decode cX4_digest 33 = .ok (.ladd, 1) := dk_97 (dk_at dksX4_digest_1 10 rfl rfl)
theorem dX4_digest_34 : decode cX4_digest 34 = .ok (.lstore_n 1, 1) := dk_64 (dk_at dksX4_digest_1 11 rfl rfl)
theorem dX4_digest_35 : decode cX4_digest 35 = .ok (.ldc2_w 291, 3) := dk_20 1 35 (dk_at dksX4_digest_1 12 rfl rfl)
theorem dX4_digest_38 : decode cX4_digest 38 = .ok (.lload_n 1, 1) := dk_31 (dk_at dksX4_digest_1 15 rfl rfl)
theorem dX4_digest_39 : decode cX4_digest 39 = .ok (.lmul, 1) := dk_105 (dk_at dksX4_digest_1 16 rfl rfl)
theorem dX4_digest_40 : decode cX4_digest 40 = .ok (.aload_n 0, 1) := dk_42 (dk_at dksX4_digest_1 17 rfl rfl)
theorem dX4_digest_41 : decode cX4_digest 41 = .ok (.getfield 7, 3) := dk_180 0 7 (dk_at dksX4_digest_1 18 rfl rfl)
theorem dX4_digest_44 : decode cX4_digest 44 = .ok (.iconst 1, 1) := dk_4 (dk_at dksX4_digest_1 21 rfl rfl)
theorem dX4_digest_45 : decode cX4_digest 45 = .ok (.iaload, 1) := dk_46 (dk_at dksX4_digest_1 22 rfl rfl)
theorem dX4_digest_46 : decode cX4_digest 46 = .ok (.i2l, 1) := dk_133 (dk_at dksX4_digest_1 23 rfl rfl)
theorem dX4_digest_47 : decode cX4_digest 47 = .ok (.ladd, 1) := dk_97 (dk_at dksX4_digest_2 0 rfl rfl)
theorem dX4_digest_48 : decode cX4_digest 48 = .ok (.lstore_n 1, 1) := dk_64 (dk_at dksX4_digest_2 1 rfl rfl)
theorem dX4_digest_49 : decode cX4_digest 49 = .ok (.ldc2_w 291, 3) := dk_20 1 35 (dk_at dksX4_digest_2 2 rfl rfl)
theorem dX4_digest_52 : decode cX4_digest 52 = .ok (.lload_n 1, 1) := dk_31 (dk_at dksX4_digest_2 5 rfl rfl)
theorem dX4_digest_53 : decode cX4_digest 53 = .ok (.lmul, 1) := dk_105 (dk_at dksX4_digest_2 6 rfl rfl)
theorem dX4_digest_54 : decode cX4_digest 54 = .ok (.aload_n 0, 1) := dk_42 (dk_at dksX4_digest_2 7 rfl rfl)
theorem dX4_digest_55 : decode cX4_digest 55 = .ok (.getfield 7, 3) := dk_180 0 7 (dk_at dksX4_digest_2 8 rfl rfl)
theorem dX4_digest_58 : decode cX4_digest 58 = .ok (.iconst 2, 1) := dk_5 (dk_at dksX4_digest_2 11 rfl rfl)
theorem dX4_digest_59 : decode cX4_digest 59 = .ok (.iaload, 1) := dk_46 (dk_at dksX4_digest_2 12 rfl rfl)
theorem dX4_digest_60 : decode cX4_digest 60 = .ok (.i2l, 1) := dk_133 (dk_at dksX4_digest_2 13 rfl rfl)
theorem dX4_digest_61 : decode cX4_digest 61 = .ok (.ladd, 1) := dk_97 (dk_at dksX4_digest_2 14 rfl rfl)
theorem dX4_digest_62 : decode cX4_digest 62 = .ok (.lstore_n 1, 1) := dk_64 (dk_at dksX4_digest_2 15 rfl rfl)
theorem dX4_digest_63 : decode cX4_digest 63 = .ok (.ldc2_w 291, 3) := dk_20 1 35 (dk_at dksX4_digest_2 16 rfl rfl)
theorem dX4_digest_66 : decode cX4_digest 66 = .ok (.lload_n 1, 1) := dk_31 (dk_at dksX4_digest_2 19 rfl rfl)
theorem dX4_digest_67 : decode cX4_digest 67 = .ok (.lmul, 1) := dk_105 (dk_at dksX4_digest_2 20 rfl rfl)
theorem dX4_digest_68 : decode cX4_digest 68 = .ok (.aload_n 0, 1) := dk_42 (dk_at dksX4_digest_2 21 rfl rfl)
theorem dX4_digest_69 : decode cX4_digest 69 = .ok (.getfield 7, 3) := dk_180 0 7 (dk_at dksX4_digest_3 0 rfl rfl)
theorem dX4_digest_72 : decode cX4_digest 72 = .ok (.iconst 3, 1) := dk_6 (dk_at dksX4_digest_3 3 rfl rfl)
theorem dX4_digest_73 : decode cX4_digest 73 = .ok (.iaload, 1) := dk_46 (dk_at dksX4_digest_3 4 rfl rfl)
theorem dX4_digest_74 : decode cX4_digest 74 = .ok (.i2l, 1) := dk_133 (dk_at dksX4_digest_3 5 rfl rfl)
theorem dX4_digest_75 : decode cX4_digest 75 = .ok (.ladd, 1) := dk_97 (dk_at dksX4_digest_3 6 rfl rfl)
theorem dX4_digest_76 : decode cX4_digest 76 = .ok (.lstore_n 1, 1) := dk_64 (dk_at dksX4_digest_3 7 rfl rfl)
theorem dX4_digest_77 : decode cX4_digest 77 = .ok (.ldc2_w 291, 3) := dk_20 1 35 (dk_at dksX4_digest_3 8 rfl rfl)
theorem dX4_digest_80 : decode cX4_digest 80 = .ok (.lload_n 1, 1) := dk_31 (dk_at dksX4_digest_3 11 rfl rfl)
theorem dX4_digest_81 : decode cX4_digest 81 = .ok (.lmul, 1) := dk_105 (dk_at dksX4_digest_3 12 rfl rfl)
theorem dX4_digest_82 : decode cX4_digest 82 = .ok (.aload_n 0, 1) := dk_42 (dk_at dksX4_digest_3 13 rfl rfl)
theorem dX4_digest_83 : decode cX4_digest 83 = .ok (.getfield 7, 3) := dk_180 0 7 (dk_at dksX4_digest_3 14 rfl rfl)
theorem dX4_digest_86 : decode cX4_digest 86 = .ok (.iconst 4, 1) := dk_7 (dk_at dksX4_digest_3 17 rfl rfl)
theorem dX4_digest_87 : decode cX4_digest 87 = .ok (.iaload, 1) := dk_46 (dk_at dksX4_digest_3 18 rfl rfl)
theorem dX4_digest_88 : decode cX4_digest 88 = .ok (.i2l, 1) := dk_133 (dk_at dksX4_digest_3 19 rfl rfl)
theorem dX4_digest_89 : decode cX4_digest 89 = .ok (.ladd, 1) := dk_97 (dk_at dksX4_digest_3 20 rfl rfl)
theorem dX4_digest_90 : decode cX4_digest 90 = .ok (.lstore_n 1, 1) := dk_64 (dk_at dksX4_digest_3 21 rfl rfl)
theorem dX4_digest_91 : decode cX4_digest 91 = .ok (.ldc2_w 291, 3) := dk_20 1 35 (dk_at dksX4_digest_4 0 rfl rfl)
theorem dX4_digest_94 : decode cX4_digest 94 = .ok (.lload_n 1, 1) := dk_31 (dk_at dksX4_digest_4 3 rfl rfl)
theorem dX4_digest_95 : decode cX4_digest 95 = .ok (.lmul, 1) := dk_105 (dk_at dksX4_digest_4 4 rfl rfl)
theorem dX4_digest_96 : decode cX4_digest 96 = .ok (.aload_n 0, 1) := dk_42 (dk_at dksX4_digest_4 5 rfl rfl)
theorem dX4_digest_97 : decode cX4_digest 97 = .ok (.invokevirtual 202, 3) := dk_182 0 202 (dk_at dksX4_digest_4 6 rfl rfl)
theorem dX4_digest_100 : decode cX4_digest 100 = .ok (.i2l, 1) := dk_133 (dk_at dksX4_digest_4 9 rfl rfl)
theorem dX4_digest_101 : decode cX4_digest 101 = .ok (.ladd, 1) := dk_97 (dk_at dksX4_digest_4 10 rfl rfl)
theorem dX4_digest_102 : decode cX4_digest 102 = .ok (.lstore_n 1, 1) := dk_64 (dk_at dksX4_digest_4 11 rfl rfl)
theorem dX4_digest_103 : decode cX4_digest 103 = .ok (.ldc2_w 291, 3) := dk_20 1 35 (dk_at dksX4_digest_4 12 rfl rfl)
theorem dX4_digest_106 : decode cX4_digest 106 = .ok (.lload_n 1, 1) := dk_31 (dk_at dksX4_digest_4 15 rfl rfl)
theorem dX4_digest_107 : decode cX4_digest 107 = .ok (.lmul, 1) := dk_105 (dk_at dksX4_digest_4 16 rfl rfl)
theorem dX4_digest_108 : decode cX4_digest 108 = .ok (.aload_n 0, 1) := dk_42 (dk_at dksX4_digest_4 17 rfl rfl)
theorem dX4_digest_109 : decode cX4_digest 109 = .ok (.invokevirtual 211, 3) := dk_182 0 211 (dk_at dksX4_digest_4 18 rfl rfl)
theorem dX4_digest_112 : decode cX4_digest 112 = .ok (.i2l, 1) := dk_133 (dk_at dksX4_digest_4 21 rfl rfl)
theorem dX4_digest_113 : decode cX4_digest 113 = .ok (.ladd, 1) := dk_97 (dk_at dksX4_digest_4 22 rfl rfl)
theorem dX4_digest_114 : decode cX4_digest 114 = .ok (.lstore_n 1, 1) := dk_64 (dk_at dksX4_digest_4 23 rfl rfl)
theorem dX4_digest_115 : decode cX4_digest 115 = .ok (.ldc2_w 291, 3) := dk_20 1 35 (dk_at dksX4_digest_5 0 rfl rfl)
theorem dX4_digest_118 : decode cX4_digest 118 = .ok (.lload_n 1, 1) := dk_31 (dk_at dksX4_digest_5 3 rfl rfl)
theorem dX4_digest_119 : decode cX4_digest 119 = .ok (.lmul, 1) := dk_105 (dk_at dksX4_digest_5 4 rfl rfl)
theorem dX4_digest_120 : decode cX4_digest 120 = .ok (.aload_n 0, 1) := dk_42 (dk_at dksX4_digest_5 5 rfl rfl)
theorem dX4_digest_121 : decode cX4_digest 121 = .ok (.invokevirtual 214, 3) := dk_182 0 214 (dk_at dksX4_digest_5 6 rfl rfl)
theorem dX4_digest_124 : decode cX4_digest 124 = .ok (.i2l, 1) := dk_133 (dk_at dksX4_digest_5 9 rfl rfl)
theorem dX4_digest_125 : decode cX4_digest 125 = .ok (.ladd, 1) := dk_97 (dk_at dksX4_digest_5 10 rfl rfl)
theorem dX4_digest_126 : decode cX4_digest 126 = .ok (.lstore_n 1, 1) := dk_64 (dk_at dksX4_digest_5 11 rfl rfl)
theorem dX4_digest_127 : decode cX4_digest 127 = .ok (.ldc2_w 291, 3) := dk_20 1 35 (dk_at dksX4_digest_5 12 rfl rfl)
theorem dX4_digest_130 : decode cX4_digest 130 = .ok (.lload_n 1, 1) := dk_31 (dk_at dksX4_digest_5 15 rfl rfl)
theorem dX4_digest_131 : decode cX4_digest 131 = .ok (.lmul, 1) := dk_105 (dk_at dksX4_digest_5 16 rfl rfl)
theorem dX4_digest_132 : decode cX4_digest 132 = .ok (.aload_n 0, 1) := dk_42 (dk_at dksX4_digest_5 17 rfl rfl)
theorem dX4_digest_133 : decode cX4_digest 133 = .ok (.getfield 7, 3) := dk_180 0 7 (dk_at dksX4_digest_5 18 rfl rfl)
theorem dX4_digest_136 : decode cX4_digest 136 = .ok (.iconst 5, 1) := dk_8 (dk_at dksX4_digest_5 21 rfl rfl)
theorem dX4_digest_137 : decode cX4_digest 137 = .ok (.iaload, 1) := dk_46 (dk_at dksX4_digest_5 22 rfl rfl)
theorem dX4_digest_138 : decode cX4_digest 138 = .ok (.i2l, 1) := dk_133 (dk_at dksX4_digest_5 23 rfl rfl)
theorem dX4_digest_139 : decode cX4_digest 139 = .ok (.ladd, 1) := dk_97 (dk_at dksX4_digest_6 0 rfl rfl)
theorem dX4_digest_140 : decode cX4_digest 140 = .ok (.lstore_n 1, 1) := dk_64 (dk_at dksX4_digest_6 1 rfl rfl)
theorem dX4_digest_141 : decode cX4_digest 141 = .ok (.ldc2_w 291, 3) := dk_20 1 35 (dk_at dksX4_digest_6 2 rfl rfl)
theorem dX4_digest_144 : decode cX4_digest 144 = .ok (.lload_n 1, 1) := dk_31 (dk_at dksX4_digest_6 5 rfl rfl)
theorem dX4_digest_145 : decode cX4_digest 145 = .ok (.lmul, 1) := dk_105 (dk_at dksX4_digest_6 6 rfl rfl)
theorem dX4_digest_146 : decode cX4_digest 146 = .ok (.aload_n 0, 1) := dk_42 (dk_at dksX4_digest_6 7 rfl rfl)
theorem dX4_digest_147 : decode cX4_digest 147 = .ok (.getfield 7, 3) := dk_180 0 7 (dk_at dksX4_digest_6 8 rfl rfl)
theorem dX4_digest_150 : decode cX4_digest 150 = .ok (.bipush 6, 2) := dk_16 6 (dk_at dksX4_digest_6 11 rfl rfl)
theorem dX4_digest_152 : decode cX4_digest 152 = .ok (.iaload, 1) := dk_46 (dk_at dksX4_digest_6 13 rfl rfl)
theorem dX4_digest_153 : decode cX4_digest 153 = .ok (.i2l, 1) := dk_133 (dk_at dksX4_digest_6 14 rfl rfl)
theorem dX4_digest_154 : decode cX4_digest 154 = .ok (.ladd, 1) := dk_97 (dk_at dksX4_digest_6 15 rfl rfl)
theorem dX4_digest_155 : decode cX4_digest 155 = .ok (.lstore_n 1, 1) := dk_64 (dk_at dksX4_digest_6 16 rfl rfl)
theorem dX4_digest_156 : decode cX4_digest 156 = .ok (.ldc2_w 291, 3) := dk_20 1 35 (dk_at dksX4_digest_6 17 rfl rfl)
theorem dX4_digest_159 : decode cX4_digest 159 = .ok (.lload_n 1, 1) := dk_31 (dk_at dksX4_digest_6 20 rfl rfl)
theorem dX4_digest_160 : decode cX4_digest 160 = .ok (.lmul, 1) := dk_105 (dk_at dksX4_digest_6 21 rfl rfl)
theorem dX4_digest_161 : decode cX4_digest 161 = .ok (.aload_n 0, 1) := dk_42 (dk_at dksX4_digest_6 22 rfl rfl)
theorem dX4_digest_162 : decode cX4_digest 162 = .ok (.getfield 7, 3) := dk_180 0 7 (dk_at dksX4_digest_7 0 rfl rfl)
theorem dX4_digest_165 : decode cX4_digest 165 = .ok (.bipush 7, 2) := dk_16 7 (dk_at dksX4_digest_7 3 rfl rfl)
theorem dX4_digest_167 : decode cX4_digest 167 = .ok (.iaload, 1) := dk_46 (dk_at dksX4_digest_7 5 rfl rfl)
theorem dX4_digest_168 : decode cX4_digest 168 = .ok (.i2l, 1) := dk_133 (dk_at dksX4_digest_7 6 rfl rfl)
theorem dX4_digest_169 : decode cX4_digest 169 = .ok (.ladd, 1) := dk_97 (dk_at dksX4_digest_7 7 rfl rfl)
theorem dX4_digest_170 : decode cX4_digest 170 = .ok (.lstore_n 1, 1) := dk_64 (dk_at dksX4_digest_7 8 rfl rfl)
theorem dX4_digest_171 : decode cX4_digest 171 = .ok (.ldc2_w 291, 3) := dk_20 1 35 (dk_at dksX4_digest_7 9 rfl rfl)
theorem dX4_digest_174 : decode cX4_digest 174 = .ok (.lload_n 1, 1) := dk_31 (dk_at dksX4_digest_7 12 rfl rfl)
theorem dX4_digest_175 : decode cX4_digest 175 = .ok (.lmul, 1) := dk_105 (dk_at dksX4_digest_7 13 rfl rfl)
theorem dX4_digest_176 : decode cX4_digest 176 = .ok (.aload_n 0, 1) := dk_42 (dk_at dksX4_digest_7 14 rfl rfl)
theorem dX4_digest_177 : decode cX4_digest 177 = .ok (.getfield 7, 3) := dk_180 0 7 (dk_at dksX4_digest_7 15 rfl rfl)
theorem dX4_digest_180 : decode cX4_digest 180 = .ok (.bipush 9, 2) := dk_16 9 (dk_at dksX4_digest_7 18 rfl rfl)
theorem dX4_digest_182 : decode cX4_digest 182 = .ok (.iaload, 1) := dk_46 (dk_at dksX4_digest_7 20 rfl rfl)
theorem dX4_digest_183 : decode cX4_digest 183 = .ok (.i2l, 1) := dk_133 (dk_at dksX4_digest_7 21 rfl rfl)
theorem dX4_digest_184 : decode cX4_digest 184 = .ok (.ladd, 1) := dk_97 (dk_at dksX4_digest_7 22 rfl rfl)
theorem dX4_digest_185 : decode cX4_digest 185 = .ok (.lstore_n 1, 1) := dk_64 (dk_at dksX4_digest_7 23 rfl rfl)
theorem dX4_digest_186 : decode cX4_digest 186 = .ok (.ldc2_w 291, 3) := dk_20 1 35 (dk_at dksX4_digest_8 0 rfl rfl)
theorem dX4_digest_189 : decode cX4_digest 189 = .ok (.lload_n 1, 1) := dk_31 (dk_at dksX4_digest_8 3 rfl rfl)
theorem dX4_digest_190 : decode cX4_digest 190 = .ok (.lmul, 1) := dk_105 (dk_at dksX4_digest_8 4 rfl rfl)
theorem dX4_digest_191 : decode cX4_digest 191 = .ok (.aload_n 0, 1) := dk_42 (dk_at dksX4_digest_8 5 rfl rfl)
theorem dX4_digest_192 : decode cX4_digest 192 = .ok (.invokevirtual 230, 3) := dk_182 0 230 (dk_at dksX4_digest_8 6 rfl rfl)
theorem dX4_digest_195 : decode cX4_digest 195 = .ok (.i2l, 1) := dk_133 (dk_at dksX4_digest_8 9 rfl rfl)
theorem dX4_digest_196 : decode cX4_digest 196 = .ok (.ladd, 1) := dk_97 (dk_at dksX4_digest_8 10 rfl rfl)
theorem dX4_digest_197 : decode cX4_digest 197 = .ok (.lstore_n 1, 1) := dk_64 (dk_at dksX4_digest_8 11 rfl rfl)
theorem dX4_digest_198 : decode cX4_digest 198 = .ok (.iconst 0, 1) := dk_3 (dk_at dksX4_digest_8 12 rfl rfl)
theorem dX4_digest_199 : decode cX4_digest 199 = .ok (.istore_n 3, 1) := dk_62 (dk_at dksX4_digest_8 13 rfl rfl)
theorem dX4_digest_200 : decode cX4_digest 200 = .ok (.iload_n 3, 1) := dk_29 (dk_at dksX4_digest_8 14 rfl rfl)
theorem dX4_digest_201 : decode cX4_digest 201 = .ok (.aload_n 0, 1) := dk_42 (dk_at dksX4_digest_8 15 rfl rfl)
theorem dX4_digest_202 : decode cX4_digest 202 = .ok (.getfield 7, 3) := dk_180 0 7 (dk_at dksX4_digest_8 16 rfl rfl)
theorem dX4_digest_205 : decode cX4_digest 205 = .ok (.iconst 0, 1) := dk_3 (dk_at dksX4_digest_8 19 rfl rfl)
theorem dX4_digest_206 : decode cX4_digest 206 = .ok (.iaload, 1) := dk_46 (dk_at dksX4_digest_8 20 rfl rfl)
theorem dX4_digest_207 : decode cX4_digest 207 = .ok (.if_icmp .ge 16, 3) := dk_162 0 16 (dk_at dksX4_digest_8 21 rfl rfl)
theorem dX4_digest_210 : decode cX4_digest 210 = .ok (.aload_n 0, 1) := dk_42 (dk_at dksX4_digest_9 0 rfl rfl)
theorem dX4_digest_211 : decode cX4_digest 211 = .ok (.lload_n 1, 1) := dk_31 (dk_at dksX4_digest_9 1 rfl rfl)
theorem dX4_digest_212 : decode cX4_digest 212 = .ok (.iload_n 3, 1) := dk_29 (dk_at dksX4_digest_9 2 rfl rfl)
theorem dX4_digest_213 : decode cX4_digest 213 = .ok (.invokevirtual 295, 3) := dk_182 1 39 (dk_at dksX4_digest_9 3 rfl rfl)
theorem dX4_digest_216 : decode cX4_digest 216 = .ok (.lstore_n 1, 1) := dk_64 (dk_at dksX4_digest_9 6 rfl rfl)
theorem dX4_digest_217 : decode cX4_digest 217 = .ok (.iinc 3 1, 3) := dk_132 3 1 (dk_at dksX4_digest_9 7 rfl rfl)
theorem dX4_digest_220 : decode cX4_digest 220 = .ok (.goto (-20), 3) := dk_167 255 236 (dk_at dksX4_digest_9 10 rfl rfl)
theorem dX4_digest_223 : decode cX4_digest 223 = .ok (.iconst 0, 1) := dk_3 (dk_at dksX4_digest_9 13 rfl rfl)
theorem dX4_digest_224 : decode cX4_digest 224 = .ok (.istore_n 3, 1) := dk_62 (dk_at dksX4_digest_9 14 rfl rfl)
theorem dX4_digest_225 : decode cX4_digest 225 = .ok (.iload_n 3, 1) := dk_29 (dk_at dksX4_digest_9 15 rfl rfl)
theorem dX4_digest_226 : decode cX4_digest 226 = .ok (.aload_n 0, 1) := dk_42 (dk_at dksX4_digest_9 16 rfl rfl)
theorem dX4_digest_227 : decode cX4_digest 227 = .ok (.getfield 7, 3) := dk_180 0 7 (dk_at dksX4_digest_9 17 rfl rfl)
theorem dX4_digest_230 : decode cX4_digest 230 = .ok (.iconst 0, 1) := dk_3 (dk_at dksX4_digest_9 20 rfl rfl)
theorem dX4_digest_231 : decode cX4_digest 231 = .ok (.iaload, 1) := dk_46 (dk_at dksX4_digest_9 21 rfl rfl)
theorem dX4_digest_232 : decode cX4_digest 232 = .ok (.if_icmp .ge 50, 3) := dk_162 0 50 (dk_at dksX4_digest_10 0 rfl rfl)
theorem dX4_digest_235 : decode cX4_digest 235 = .ok (.iconst 0, 1) := dk_3 (dk_at dksX4_digest_10 3 rfl rfl)
theorem dX4_digest_236 : decode cX4_digest 236 = .ok (.istore 4, 2) := dk_54 4 (dk_at dksX4_digest_10 4 rfl rfl)
theorem dX4_digest_238 : decode cX4_digest 238 = .ok (.iload 4, 2) := dk_21 4 (dk_at dksX4_digest_10 6 rfl rfl)
theorem dX4_digest_240 : decode cX4_digest 240 = .ok (.iconst 4, 1) := dk_7 (dk_at dksX4_digest_10 8 rfl rfl)
theorem dX4_digest_241 : decode cX4_digest 241 = .ok (.if_icmp .ge 35, 3) := dk_162 0 35 (dk_at dksX4_digest_10 9 rfl rfl)
theorem dX4_digest_244 : decode cX4_digest 244 = .ok (.aload_n 0, 1) := dk_42 (dk_at dksX4_digest_10 12 rfl rfl)
theorem dX4_digest_245 : decode cX4_digest 245 = .ok (.iload_n 3, 1) := dk_29 (dk_at dksX4_digest_10 13 rfl rfl)
theorem dX4_digest_246 : decode cX4_digest 246 = .ok (.invokevirtual 77, 3) := dk_182 0 77 (dk_at dksX4_digest_10 14 rfl rfl)
theorem dX4_digest_249 : decode cX4_digest 249 = .ok (.ifCond .eq 27, 3) := dk_153 0 27 (dk_at dksX4_digest_10 17 rfl rfl)
theorem dX4_digest_252 : decode cX4_digest 252 = .ok (.ldc2_w 291, 3) := dk_20 1 35 (dk_at dksX4_digest_10 20 rfl rfl)
theorem dX4_digest_255 : decode cX4_digest 255 = .ok (.lload_n 1, 1) := dk_31 (dk_at dksX4_digest_10 23 rfl rfl)
theorem dX4_digest_256 : decode cX4_digest 256 = .ok (.lmul, 1) := dk_105 (dk_at dksX4_digest_11 0 rfl rfl)
theorem dX4_digest_257 : decode cX4_digest 257 = .ok (.aload_n 0, 1) := dk_42 (dk_at dksX4_digest_11 1 rfl rfl)
theorem dX4_digest_258 : decode cX4_digest 258 = .ok (.iload_n 3, 1) := dk_29 (dk_at dksX4_digest_11 2 rfl rfl)
theorem dX4_digest_259 : decode cX4_digest 259 = .ok (.bipush 9, 2) := dk_16 9 (dk_at dksX4_digest_11 3 rfl rfl)
theorem dX4_digest_261 : decode cX4_digest 261 = .ok (.iload 4, 2) := dk_21 4 (dk_at dksX4_digest_11 5 rfl rfl)
theorem dX4_digest_263 : decode cX4_digest 263 = .ok (.iadd, 1) := dk_96 (dk_at dksX4_digest_11 7 rfl rfl)
theorem dX4_digest_264 : decode cX4_digest 264 = .ok (.invokevirtual 48, 3) := dk_182 0 48 (dk_at dksX4_digest_11 8 rfl rfl)
theorem dX4_digest_267 : decode cX4_digest 267 = .ok (.i2l, 1) := dk_133 (dk_at dksX4_digest_11 11 rfl rfl)
theorem dX4_digest_268 : decode cX4_digest 268 = .ok (.ladd, 1) := dk_97 (dk_at dksX4_digest_11 12 rfl rfl)
theorem dX4_digest_269 : decode cX4_digest 269 = .ok (.lstore_n 1, 1) := dk_64 (dk_at dksX4_digest_11 13 rfl rfl)
theorem dX4_digest_270 : decode cX4_digest 270 = .ok (.iinc 4 1, 3) := dk_132 4 1 (dk_at dksX4_digest_11 14 rfl rfl)
theorem dX4_digest_273 : decode cX4_digest 273 = .ok (.goto (-35), 3) := dk_167 255 221 (dk_at dksX4_digest_11 17 rfl rfl)
theorem dX4_digest_276 : decode cX4_digest 276 = .ok (.iinc 3 1, 3) := dk_132 3 1 (dk_at dksX4_digest_11 20 rfl rfl)
theorem dX4_digest_279 : decode cX4_digest 279 = .ok (.goto (-54), 3) := dk_167 255 202 (dk_at dksX4_digest_12 0 rfl rfl)
theorem dX4_digest_282 : decode cX4_digest 282 = .ok (.iconst 0, 1) := dk_3 (dk_at dksX4_digest_12 3 rfl rfl)
theorem dX4_digest_283 : decode cX4_digest 283 = .ok (.istore_n 3, 1) := dk_62 (dk_at dksX4_digest_12 4 rfl rfl)
theorem dX4_digest_284 : decode cX4_digest 284 = .ok (.iload_n 3, 1) := dk_29 (dk_at dksX4_digest_12 5 rfl rfl)
theorem dX4_digest_285 : decode cX4_digest 285 = .ok (.aload_n 0, 1) := dk_42 (dk_at dksX4_digest_12 6 rfl rfl)
theorem dX4_digest_286 : decode cX4_digest 286 = .ok (.getfield 7, 3) := dk_180 0 7 (dk_at dksX4_digest_12 7 rfl rfl)
theorem dX4_digest_289 : decode cX4_digest 289 = .ok (.iconst 0, 1) := dk_3 (dk_at dksX4_digest_12 10 rfl rfl)
theorem dX4_digest_290 : decode cX4_digest 290 = .ok (.iaload, 1) := dk_46 (dk_at dksX4_digest_12 11 rfl rfl)
theorem dX4_digest_291 : decode cX4_digest 291 = .ok (.if_icmp .ge 59, 3) := dk_162 0 59 (dk_at dksX4_digest_12 12 rfl rfl)
theorem dX4_digest_294 : decode cX4_digest 294 = .ok (.aload_n 0, 1) := dk_42 (dk_at dksX4_digest_12 15 rfl rfl)
theorem dX4_digest_295 : decode cX4_digest 295 = .ok (.iload_n 3, 1) := dk_29 (dk_at dksX4_digest_12 16 rfl rfl)
theorem dX4_digest_296 : decode cX4_digest 296 = .ok (.invokevirtual 56, 3) := dk_182 0 56 (dk_at dksX4_digest_12 17 rfl rfl)
theorem dX4_digest_299 : decode cX4_digest 299 = .ok (.iconst 1, 1) := dk_4 (dk_at dksX4_digest_12 20 rfl rfl)
theorem dX4_digest_300 : decode cX4_digest 300 = .ok (.if_icmp .ne 44, 3) := dk_160 0 44 (dk_at dksX4_digest_12 21 rfl rfl)
theorem dX4_digest_303 : decode cX4_digest 303 = .ok (.ldc2_w 291, 3) := dk_20 1 35 (dk_at dksX4_digest_13 0 rfl rfl)
theorem dX4_digest_306 : decode cX4_digest 306 = .ok (.lload_n 1, 1) := dk_31 (dk_at dksX4_digest_13 3 rfl rfl)
theorem dX4_digest_307 : decode cX4_digest 307 = .ok (.lmul, 1) := dk_105 (dk_at dksX4_digest_13 4 rfl rfl)
theorem dX4_digest_308 : decode cX4_digest 308 = .ok (.aload_n 0, 1) := dk_42 (dk_at dksX4_digest_13 5 rfl rfl)
theorem dX4_digest_309 : decode cX4_digest 309 = .ok (.iload_n 3, 1) := dk_29 (dk_at dksX4_digest_13 6 rfl rfl)
theorem dX4_digest_310 : decode cX4_digest 310 = .ok (.iconst 2, 1) := dk_5 (dk_at dksX4_digest_13 7 rfl rfl)
theorem dX4_digest_311 : decode cX4_digest 311 = .ok (.invokevirtual 48, 3) := dk_182 0 48 (dk_at dksX4_digest_13 8 rfl rfl)
theorem dX4_digest_314 : decode cX4_digest 314 = .ok (.i2l, 1) := dk_133 (dk_at dksX4_digest_13 11 rfl rfl)
theorem dX4_digest_315 : decode cX4_digest 315 = .ok (.ladd, 1) := dk_97 (dk_at dksX4_digest_13 12 rfl rfl)
theorem dX4_digest_316 : decode cX4_digest 316 = .ok (.lstore_n 1, 1) := dk_64 (dk_at dksX4_digest_13 13 rfl rfl)
theorem dX4_digest_317 : decode cX4_digest 317 = .ok (.ldc2_w 291, 3) := dk_20 1 35 (dk_at dksX4_digest_13 14 rfl rfl)
theorem dX4_digest_320 : decode cX4_digest 320 = .ok (.lload_n 1, 1) := dk_31 (dk_at dksX4_digest_13 17 rfl rfl)
theorem dX4_digest_321 : decode cX4_digest 321 = .ok (.lmul, 1) := dk_105 (dk_at dksX4_digest_13 18 rfl rfl)
theorem dX4_digest_322 : decode cX4_digest 322 = .ok (.aload_n 0, 1) := dk_42 (dk_at dksX4_digest_13 19 rfl rfl)
theorem dX4_digest_323 : decode cX4_digest 323 = .ok (.iload_n 3, 1) := dk_29 (dk_at dksX4_digest_13 20 rfl rfl)
theorem dX4_digest_324 : decode cX4_digest 324 = .ok (.iconst 3, 1) := dk_6 (dk_at dksX4_digest_13 21 rfl rfl)
theorem dX4_digest_325 : decode cX4_digest 325 = .ok (.invokevirtual 48, 3) := dk_182 0 48 (dk_at dksX4_digest_14 0 rfl rfl)
theorem dX4_digest_328 : decode cX4_digest 328 = .ok (.i2l, 1) := dk_133 (dk_at dksX4_digest_14 3 rfl rfl)
theorem dX4_digest_329 : decode cX4_digest 329 = .ok (.ladd, 1) := dk_97 (dk_at dksX4_digest_14 4 rfl rfl)
theorem dX4_digest_330 : decode cX4_digest 330 = .ok (.lstore_n 1, 1) := dk_64 (dk_at dksX4_digest_14 5 rfl rfl)
theorem dX4_digest_331 : decode cX4_digest 331 = .ok (.ldc2_w 291, 3) := dk_20 1 35 (dk_at dksX4_digest_14 6 rfl rfl)
theorem dX4_digest_334 : decode cX4_digest 334 = .ok (.lload_n 1, 1) := dk_31 (dk_at dksX4_digest_14 9 rfl rfl)
theorem dX4_digest_335 : decode cX4_digest 335 = .ok (.lmul, 1) := dk_105 (dk_at dksX4_digest_14 10 rfl rfl)
theorem dX4_digest_336 : decode cX4_digest 336 = .ok (.aload_n 0, 1) := dk_42 (dk_at dksX4_digest_14 11 rfl rfl)
theorem dX4_digest_337 : decode cX4_digest 337 = .ok (.iload_n 3, 1) := dk_29 (dk_at dksX4_digest_14 12 rfl rfl)
theorem dX4_digest_338 : decode cX4_digest 338 = .ok (.invokevirtual 199, 3) := dk_182 0 199 (dk_at dksX4_digest_14 13 rfl rfl)
theorem dX4_digest_341 : decode cX4_digest 341 = .ok (.i2l, 1) := dk_133 (dk_at dksX4_digest_14 16 rfl rfl)
theorem dX4_digest_342 : decode cX4_digest 342 = .ok (.ladd, 1) := dk_97 (dk_at dksX4_digest_14 17 rfl rfl)
theorem dX4_digest_343 : decode cX4_digest 343 = .ok (.lstore_n 1, 1) := dk_64 (dk_at dksX4_digest_14 18 rfl rfl)
theorem dX4_digest_344 : decode cX4_digest 344 = .ok (.iinc 3 1, 3) := dk_132 3 1 (dk_at dksX4_digest_14 19 rfl rfl)
theorem dX4_digest_347 : decode cX4_digest 347 = .ok (.goto (-63), 3) := dk_167 255 193 (dk_at dksX4_digest_15 0 rfl rfl)
theorem dX4_digest_350 : decode cX4_digest 350 = .ok (.aload_n 0, 1) := dk_42 (dk_at dksX4_digest_15 3 rfl rfl)
theorem dX4_digest_351 : decode cX4_digest 351 = .ok (.getfield 7, 3) := dk_180 0 7 (dk_at dksX4_digest_15 4 rfl rfl)
theorem dX4_digest_354 : decode cX4_digest 354 = .ok (.bipush 6, 2) := dk_16 6 (dk_at dksX4_digest_15 7 rfl rfl)
theorem dX4_digest_356 : decode cX4_digest 356 = .ok (.iaload, 1) := dk_46 (dk_at dksX4_digest_15 9 rfl rfl)
theorem dX4_digest_357 : decode cX4_digest 357 = .ok (.iconst 1, 1) := dk_4 (dk_at dksX4_digest_15 10 rfl rfl)
theorem dX4_digest_358 : decode cX4_digest 358 = .ok (.isub, 1) := dk_100 (dk_at dksX4_digest_15 11 rfl rfl)
theorem dX4_digest_359 : decode cX4_digest 359 = .ok (.istore_n 3, 1) := dk_62 (dk_at dksX4_digest_15 12 rfl rfl)
theorem dX4_digest_360 : decode cX4_digest 360 = .ok (.iload_n 3, 1) := dk_29 (dk_at dksX4_digest_15 13 rfl rfl)
theorem dX4_digest_361 : decode cX4_digest 361 = .ok (.ifCond .lt 26, 3) := dk_155 0 26 (dk_at dksX4_digest_15 14 rfl rfl)
theorem dX4_digest_364 : decode cX4_digest 364 = .ok (.ldc2_w 291, 3) := dk_20 1 35 (dk_at dksX4_digest_15 17 rfl rfl)
theorem dX4_digest_367 : decode cX4_digest 367 = .ok (.lload_n 1, 1) := dk_31 (dk_at dksX4_digest_15 20 rfl rfl)
theorem dX4_digest_368 : decode cX4_digest 368 = .ok (.lmul, 1) := dk_105 (dk_at dksX4_digest_15 21 rfl rfl)
theorem dX4_digest_369 : decode cX4_digest 369 = .ok (.aload_n 0, 1) := dk_42 (dk_at dksX4_digest_15 22 rfl rfl)
theorem dX4_digest_370 : decode cX4_digest 370 = .ok (.getfield 7, 3) := dk_180 0 7 (dk_at dksX4_digest_16 0 rfl rfl)
theorem dX4_digest_373 : decode cX4_digest 373 = .ok (.bipush 10, 2) := dk_16 10 (dk_at dksX4_digest_16 3 rfl rfl)
theorem dX4_digest_375 : decode cX4_digest 375 = .ok (.iload_n 3, 1) := dk_29 (dk_at dksX4_digest_16 5 rfl rfl)
theorem dX4_digest_376 : decode cX4_digest 376 = .ok (.iadd, 1) := dk_96 (dk_at dksX4_digest_16 6 rfl rfl)
theorem dX4_digest_377 : decode cX4_digest 377 = .ok (.iaload, 1) := dk_46 (dk_at dksX4_digest_16 7 rfl rfl)
theorem dX4_digest_378 : decode cX4_digest 378 = .ok (.i2l, 1) := dk_133 (dk_at dksX4_digest_16 8 rfl rfl)
theorem dX4_digest_379 : decode cX4_digest 379 = .ok (.ladd, 1) := dk_97 (dk_at dksX4_digest_16 9 rfl rfl)
theorem dX4_digest_380 : decode cX4_digest 380 = .ok (.lstore_n 1, 1) := dk_64 (dk_at dksX4_digest_16 10 rfl rfl)
theorem dX4_digest_381 : decode cX4_digest 381 = .ok (.iinc 3 (-1), 3) := dk_132 3 255 (dk_at dksX4_digest_16 11 rfl rfl)
theorem dX4_digest_384 : decode cX4_digest 384 = .ok (.goto (-24), 3) := dk_167 255 232 (dk_at dksX4_digest_16 14 rfl rfl)
theorem dX4_digest_387 : decode cX4_digest 387 = .ok (.ldc2_w 291, 3) := dk_20 1 35 (dk_at dksX4_digest_16 17 rfl rfl)
theorem dX4_digest_390 : decode cX4_digest 390 = .ok (.lload_n 1, 1) := dk_31 (dk_at dksX4_digest_16 20 rfl rfl)
theorem dX4_digest_391 : decode cX4_digest 391 = .ok (.lmul, 1) := dk_105 (dk_at dksX4_digest_16 21 rfl rfl)
theorem dX4_digest_392 : decode cX4_digest 392 = .ok (.aload_n 0, 1) := dk_42 (dk_at dksX4_digest_16 22 rfl rfl)
theorem dX4_digest_393 : decode cX4_digest 393 = .ok (.invokevirtual 217, 3) := dk_182 0 217 (dk_at dksX4_digest_17 0 rfl rfl)
theorem dX4_digest_396 : decode cX4_digest 396 = .ok (.invokestatic 299, 3) := dk_184 1 43 (dk_at dksX4_digest_17 3 rfl rfl)
theorem dX4_digest_399 : decode cX4_digest 399 = .ok (.ladd, 1) := dk_97 (dk_at dksX4_digest_17 6 rfl rfl)
theorem dX4_digest_400 : decode cX4_digest 400 = .ok (.lreturn, 1) := dk_173 (dk_at dksX4_digest_17 7 rfl rfl)
abbrev cX4_withModule : ByteArray := prog_17_method_126_code
def yX4_withModule : MethodName := ⟨RX4, "withModule", "(JI)J"⟩
def dkwX4_withModule_8 : List UInt8 := [167, 255, 204, 22, 4, 173]
abbrev dktX4_withModule_8 : List UInt8 := dkwX4_withModule_8 ++ []
def dkwX4_withModule_7 : List UInt8 := [133, 97, 55, 4, 20, 1, 35, 22, 4, 105, 42, 29, 21, 6, 182, 0, 125, 133, 97, 55, 4, 132, 6, 1]
abbrev dktX4_withModule_7 : List UInt8 := dkwX4_withModule_7 ++ dktX4_withModule_8
def dkwX4_withModule_6 : List UInt8 := [182, 0, 56, 184, 0, 60, 162, 0, 45, 20, 1, 35, 22, 4, 105, 42, 29, 8, 21, 6, 96, 182, 0, 48]
abbrev dktX4_withModule_6 : List UInt8 := dkwX4_withModule_6 ++ dktX4_withModule_7
def dkwX4_withModule_5 : List UInt8 := [42, 29, 16, 10, 182, 0, 227, 133, 97, 55, 4, 42, 182, 0, 150, 3, 54, 6, 21, 6, 42, 29]
abbrev dktX4_withModule_5 : List UInt8 := dkwX4_withModule_5 ++ dktX4_withModule_6
def dkwX4_withModule_4 : List UInt8 := [55, 4, 20, 1, 35, 22, 4, 105, 42, 29, 4, 182, 0, 108, 133, 97, 55, 4, 20, 1, 35, 22, 4, 105]
abbrev dktX4_withModule_4 : List UInt8 := dkwX4_withModule_4 ++ dktX4_withModule_5
def dkwX4_withModule_3 : List UInt8 := [42, 29, 182, 0, 205, 133, 97, 55, 4, 20, 1, 35, 22, 4, 105, 42, 180, 0, 22, 29, 46, 133, 97]
abbrev dktX4_withModule_3 : List UInt8 := dkwX4_withModule_3 ++ dktX4_withModule_4
def dkwX4_withModule_2 : List UInt8 := [55, 4, 20, 1, 35, 22, 4, 105, 42, 29, 7, 182, 0, 48, 133, 97, 55, 4, 20, 1, 35, 22, 4, 105]
abbrev dktX4_withModule_2 : List UInt8 := dkwX4_withModule_2 ++ dktX4_withModule_3
def dkwX4_withModule_1 : List UInt8 := [42, 29, 4, 182, 0, 48, 133, 97, 55, 4, 20, 1, 35, 22, 4, 105, 42, 29, 182, 0, 193, 133, 97]
abbrev dktX4_withModule_1 : List UInt8 := dkwX4_withModule_1 ++ dktX4_withModule_2
def dkwX4_withModule_0 : List UInt8 := [31, 55, 4, 20, 1, 35, 22, 4, 105, 42, 29, 182, 0, 56, 133, 97, 55, 4, 20, 1, 35, 22, 4, 105]
abbrev dktX4_withModule_0 : List UInt8 := dkwX4_withModule_0 ++ dktX4_withModule_1
theorem dksX4_withModule_0 : cX4_withModule.data.toList.drop 0 = dktX4_withModule_0 := by decide +kernel
theorem dksX4_withModule_1 : cX4_withModule.data.toList.drop 24 = dktX4_withModule_1 := dk_seg dksX4_withModule_0 24 rfl rfl
theorem dksX4_withModule_2 : cX4_withModule.data.toList.drop 47 = dktX4_withModule_2 := dk_seg dksX4_withModule_1 23 rfl rfl
theorem dksX4_withModule_3 : cX4_withModule.data.toList.drop 71 = dktX4_withModule_3 := dk_seg dksX4_withModule_2 24 rfl rfl
theorem dksX4_withModule_4 : cX4_withModule.data.toList.drop 94 = dktX4_withModule_4 := dk_seg dksX4_withModule_3 23 rfl rfl
theorem dksX4_withModule_5 : cX4_withModule.data.toList.drop 118 = dktX4_withModule_5 := dk_seg dksX4_withModule_4 24 rfl rfl
theorem dksX4_withModule_6 : cX4_withModule.data.toList.drop 140 = dktX4_withModule_6 := dk_seg dksX4_withModule_5 22 rfl rfl
theorem dksX4_withModule_7 : cX4_withModule.data.toList.drop 164 = dktX4_withModule_7 := dk_seg dksX4_withModule_6 24 rfl rfl
theorem dksX4_withModule_8 : cX4_withModule.data.toList.drop 188 = dktX4_withModule_8 := dk_seg dksX4_withModule_7 24 rfl rfl
theorem dX4_withModule_0 : decode cX4_withModule 0 = .ok (.lload_n 1, 1) := dk_31 (dk_at dksX4_withModule_0 0 rfl rfl)
theorem dX4_withModule_1 : decode cX4_withModule 1 = .ok (.lstore 4, 2) := dk_55 4 (dk_at dksX4_withModule_0 1 rfl rfl)
theorem dX4_withModule_3 : decode cX4_withModule 3 = .ok (.ldc2_w 291, 3) := dk_20 1 35 (dk_at dksX4_withModule_0 3 rfl rfl)
theorem dX4_withModule_6 : decode cX4_withModule 6 = .ok (.lload 4, 2) := dk_22 4 (dk_at dksX4_withModule_0 6 rfl rfl)
theorem dX4_withModule_8 : decode cX4_withModule 8 = .ok (.lmul, 1) := dk_105 (dk_at dksX4_withModule_0 8 rfl rfl)
theorem dX4_withModule_9 : decode cX4_withModule 9 = .ok (.aload_n 0, 1) := dk_42 (dk_at dksX4_withModule_0 9 rfl rfl)
theorem dX4_withModule_10 : decode cX4_withModule 10 = .ok (.iload_n 3, 1) := dk_29 (dk_at dksX4_withModule_0 10 rfl rfl)
theorem dX4_withModule_11 : decode cX4_withModule 11 = .ok (.invokevirtual 56, 3) := dk_182 0 56 (dk_at dksX4_withModule_0 11 rfl rfl)
theorem dX4_withModule_14 : decode cX4_withModule 14 = .ok (.i2l, 1) := dk_133 (dk_at dksX4_withModule_0 14 rfl rfl)
theorem dX4_withModule_15 : decode cX4_withModule 15 = .ok (.ladd, 1) := dk_97 (dk_at dksX4_withModule_0 15 rfl rfl)
theorem dX4_withModule_16 : decode cX4_withModule 16 = .ok (.lstore 4, 2) := dk_55 4 (dk_at dksX4_withModule_0 16 rfl rfl)
theorem dX4_withModule_18 : decode cX4_withModule 18 = .ok (.ldc2_w 291, 3) := dk_20 1 35 (dk_at dksX4_withModule_0 18 rfl rfl)
theorem dX4_withModule_21 : decode cX4_withModule 21 = .ok (.lload 4, 2) := dk_22 4 (dk_at dksX4_withModule_0 21 rfl rfl)
theorem dX4_withModule_23 : decode cX4_withModule 23 = .ok (.lmul, 1) := dk_105 (dk_at dksX4_withModule_0 23 rfl rfl)
theorem dX4_withModule_24 : decode cX4_withModule 24 = .ok (.aload_n 0, 1) := dk_42 (dk_at dksX4_withModule_1 0 rfl rfl)
theorem dX4_withModule_25 : decode cX4_withModule 25 = .ok (.iload_n 3, 1) := dk_29 (dk_at dksX4_withModule_1 1 rfl rfl)
theorem dX4_withModule_26 : decode cX4_withModule 26 = .ok (.iconst 1, 1) := dk_4 (dk_at dksX4_withModule_1 2 rfl rfl)
theorem dX4_withModule_27 : decode cX4_withModule 27 = .ok (.invokevirtual 48, 3) := dk_182 0 48 (dk_at dksX4_withModule_1 3 rfl rfl)
theorem dX4_withModule_30 : decode cX4_withModule 30 = .ok (.i2l, 1) := dk_133 (dk_at dksX4_withModule_1 6 rfl rfl)
theorem dX4_withModule_31 : decode cX4_withModule 31 = .ok (.ladd, 1) := dk_97 (dk_at dksX4_withModule_1 7 rfl rfl)
theorem dX4_withModule_32 : decode cX4_withModule 32 = .ok (.lstore 4, 2) := dk_55 4 (dk_at dksX4_withModule_1 8 rfl rfl)
theorem dX4_withModule_34 : decode cX4_withModule 34 = .ok (.ldc2_w 291, 3) := dk_20 1 35 (dk_at dksX4_withModule_1 10 rfl rfl)
theorem dX4_withModule_37 : decode cX4_withModule 37 = .ok (.lload 4, 2) := dk_22 4 (dk_at dksX4_withModule_1 13 rfl rfl)
theorem dX4_withModule_39 : decode cX4_withModule 39 = .ok (.lmul, 1) := dk_105 (dk_at dksX4_withModule_1 15 rfl rfl)
theorem dX4_withModule_40 : decode cX4_withModule 40 = .ok (.aload_n 0, 1) := dk_42 (dk_at dksX4_withModule_1 16 rfl rfl)
theorem dX4_withModule_41 : decode cX4_withModule 41 = .ok (.iload_n 3, 1) := dk_29 (dk_at dksX4_withModule_1 17 rfl rfl)
theorem dX4_withModule_42 : decode cX4_withModule 42 = .ok (.invokevirtual 193, 3) := dk_182 0 193 (dk_at dksX4_withModule_1 18 rfl rfl)
theorem dX4_withModule_45 : decode cX4_withModule 45 = .ok (.i2l, 1) := dk_133 (dk_at dksX4_withModule_1 21 rfl rfl)
theorem dX4_withModule_46 : decode cX4_withModule 46 = .ok (.ladd, 1) := dk_97 (dk_at dksX4_withModule_1 22 rfl rfl)
theorem dX4_withModule_47 : decode cX4_withModule 47 = .ok (.lstore 4, 2) := dk_55 4 (dk_at dksX4_withModule_2 0 rfl rfl)
theorem dX4_withModule_49 : decode cX4_withModule 49 = .ok (.ldc2_w 291, 3) := dk_20 1 35 (dk_at dksX4_withModule_2 2 rfl rfl)
theorem dX4_withModule_52 : decode cX4_withModule 52 = .ok (.lload 4, 2) := dk_22 4 (dk_at dksX4_withModule_2 5 rfl rfl)
theorem dX4_withModule_54 : decode cX4_withModule 54 = .ok (.lmul, 1) := dk_105 (dk_at dksX4_withModule_2 7 rfl rfl)
theorem dX4_withModule_55 : decode cX4_withModule 55 = .ok (.aload_n 0, 1) := dk_42 (dk_at dksX4_withModule_2 8 rfl rfl)
theorem dX4_withModule_56 : decode cX4_withModule 56 = .ok (.iload_n 3, 1) := dk_29 (dk_at dksX4_withModule_2 9 rfl rfl)
theorem dX4_withModule_57 : decode cX4_withModule 57 = .ok (.iconst 4, 1) := dk_7 (dk_at dksX4_withModule_2 10 rfl rfl)
theorem dX4_withModule_58 : decode cX4_withModule 58 = .ok (.invokevirtual 48, 3) := dk_182 0 48 (dk_at dksX4_withModule_2 11 rfl rfl)
theorem dX4_withModule_61 : decode cX4_withModule 61 = .ok (.i2l, 1) := dk_133 (dk_at dksX4_withModule_2 14 rfl rfl)
theorem dX4_withModule_62 : decode cX4_withModule 62 = .ok (.ladd, 1) := dk_97 (dk_at dksX4_withModule_2 15 rfl rfl)
theorem dX4_withModule_63 : decode cX4_withModule 63 = .ok (.lstore 4, 2) := dk_55 4 (dk_at dksX4_withModule_2 16 rfl rfl)
theorem dX4_withModule_65 : decode cX4_withModule 65 = .ok (.ldc2_w 291, 3) := dk_20 1 35 (dk_at dksX4_withModule_2 18 rfl rfl)
theorem dX4_withModule_68 : decode cX4_withModule 68 = .ok (.lload 4, 2) := dk_22 4 (dk_at dksX4_withModule_2 21 rfl rfl)
theorem dX4_withModule_70 : decode cX4_withModule 70 = .ok (.lmul, 1) := dk_105 (dk_at dksX4_withModule_2 23 rfl rfl)
theorem dX4_withModule_71 : decode cX4_withModule 71 = .ok (.aload_n 0, 1) := dk_42 (dk_at dksX4_withModule_3 0 rfl rfl)
theorem dX4_withModule_72 : decode cX4_withModule 72 = .ok (.iload_n 3, 1) := dk_29 (dk_at dksX4_withModule_3 1 rfl rfl)
theorem dX4_withModule_73 : decode cX4_withModule 73 = .ok (.invokevirtual 205, 3) := dk_182 0 205 (dk_at dksX4_withModule_3 2 rfl rfl)
theorem dX4_withModule_76 : decode cX4_withModule 76 = .ok (.i2l, 1) := dk_133 (dk_at dksX4_withModule_3 5 rfl rfl)
theorem dX4_withModule_77 : decode cX4_withModule 77 = .ok (.ladd, 1) := dk_97 (dk_at dksX4_withModule_3 6 rfl rfl)
theorem dX4_withModule_78 : decode cX4_withModule 78 = .ok (.lstore 4, 2) := dk_55 4 (dk_at dksX4_withModule_3 7 rfl rfl)
theorem dX4_withModule_80 : decode cX4_withModule 80 = .ok (.ldc2_w 291, 3) := dk_20 1 35 (dk_at dksX4_withModule_3 9 rfl rfl)
theorem dX4_withModule_83 : decode cX4_withModule 83 = .ok (.lload 4, 2) := dk_22 4 (dk_at dksX4_withModule_3 12 rfl rfl)
theorem dX4_withModule_85 : decode cX4_withModule 85 = .ok (.lmul, 1) := dk_105 (dk_at dksX4_withModule_3 14 rfl rfl)
theorem dX4_withModule_86 : decode cX4_withModule 86 = .ok (.aload_n 0, 1) := dk_42 (dk_at dksX4_withModule_3 15 rfl rfl)
theorem dX4_withModule_87 : decode cX4_withModule 87 = .ok (.getfield 22, 3) := dk_180 0 22 (dk_at dksX4_withModule_3 16 rfl rfl)
theorem dX4_withModule_90 : decode cX4_withModule 90 = .ok (.iload_n 3, 1) := dk_29 (dk_at dksX4_withModule_3 19 rfl rfl)
theorem dX4_withModule_91 : decode cX4_withModule 91 = .ok (.iaload, 1) := dk_46 (dk_at dksX4_withModule_3 20 rfl rfl)
theorem dX4_withModule_92 : decode cX4_withModule 92 = .ok (.i2l, 1) := dk_133 (dk_at dksX4_withModule_3 21 rfl rfl)
theorem dX4_withModule_93 : decode cX4_withModule 93 = .ok (.ladd, 1) := dk_97 (dk_at dksX4_withModule_3 22 rfl rfl)
theorem dX4_withModule_94 : decode cX4_withModule 94 = .ok (.lstore 4, 2) := dk_55 4 (dk_at dksX4_withModule_4 0 rfl rfl)
theorem dX4_withModule_96 : decode cX4_withModule 96 = .ok (.ldc2_w 291, 3) := dk_20 1 35 (dk_at dksX4_withModule_4 2 rfl rfl)
theorem dX4_withModule_99 : decode cX4_withModule 99 = .ok (.lload 4, 2) := dk_22 4 (dk_at dksX4_withModule_4 5 rfl rfl)
theorem dX4_withModule_101 : decode cX4_withModule 101 = .ok (.lmul, 1) := dk_105 (dk_at dksX4_withModule_4 7 rfl rfl)
theorem dX4_withModule_102 : decode cX4_withModule 102 = .ok (.aload_n 0, 1) := dk_42 (dk_at dksX4_withModule_4 8 rfl rfl)
theorem dX4_withModule_103 : decode cX4_withModule 103 = .ok (.iload_n 3, 1) := dk_29 (dk_at dksX4_withModule_4 9 rfl rfl)
theorem dX4_withModule_104 : decode cX4_withModule 104 = .ok (.iconst 1, 1) := dk_4 (dk_at dksX4_withModule_4 10 rfl rfl)
theorem dX4_withModule_105 : decode cX4_withModule 105 = .ok (.invokevirtual 108, 3) := dk_182 0 108 (dk_at dksX4_withModule_4 11 rfl rfl)
theorem dX4_withModule_108 : decode cX4_withModule 108 = .ok (.i2l, 1) := dk_133 (dk_at dksX4_withModule_4 14 rfl rfl)
theorem dX4_withModule_109 : decode cX4_withModule 109 = .ok (.ladd, 1) := dk_97 (dk_at dksX4_withModule_4 15 rfl rfl)
theorem dX4_withModule_110 : decode cX4_withModule 110 = .ok (.lstore 4, 2) := dk_55 4 (dk_at dksX4_withModule_4 16 rfl rfl)
theorem dX4_withModule_112 : decode cX4_withModule 112 = .ok (.ldc2_w 291, 3) := dk_20 1 35 (dk_at dksX4_withModule_4 18 rfl rfl)
theorem dX4_withModule_115 : decode cX4_withModule 115 = .ok (.lload 4, 2) := dk_22 4 (dk_at dksX4_withModule_4 21 rfl rfl)
theorem dX4_withModule_117 : decode cX4_withModule 117 = .ok (.lmul, 1) := dk_105 (dk_at dksX4_withModule_4 23 rfl rfl)
theorem dX4_withModule_118 : decode cX4_withModule 118 = .ok (.aload_n 0, 1) := dk_42 (dk_at dksX4_withModule_5 0 rfl rfl)
theorem dX4_withModule_119 : decode cX4_withModule 119 = .ok (.iload_n 3, 1) := dk_29 (dk_at dksX4_withModule_5 1 rfl rfl)
theorem dX4_withModule_120 : decode cX4_withModule 120 = .ok (.bipush 10, 2) := dk_16 10 (dk_at dksX4_withModule_5 2 rfl rfl)
theorem dX4_withModule_122 : decode cX4_withModule 122 = .ok (.invokevirtual 227, 3) := dk_182 0 227 (dk_at dksX4_withModule_5 4 rfl rfl)
theorem dX4_withModule_125 : decode cX4_withModule 125 = .ok (.i2l, 1) := dk_133 (dk_at dksX4_withModule_5 7 rfl rfl)
theorem dX4_withModule_126 : decode cX4_withModule 126 = .ok (.ladd, 1) := dk_97 (dk_at dksX4_withModule_5 8 rfl rfl)
theorem dX4_withModule_127 : decode cX4_withModule 127 = .ok (.lstore 4, 2) := dk_55 4 (dk_at dksX4_withModule_5 9 rfl rfl)
theorem dX4_withModule_129 : decode cX4_withModule 129 = .ok (.aload_n 0, 1) := dk_42 (dk_at dksX4_withModule_5 11 rfl rfl)
theorem dX4_withModule_130 : decode cX4_withModule 130 = .ok (.invokevirtual 150, 3) := dk_182 0 150 (dk_at dksX4_withModule_5 12 rfl rfl)
theorem dX4_withModule_133 : decode cX4_withModule 133 = .ok (.iconst 0, 1) := dk_3 (dk_at dksX4_withModule_5 15 rfl rfl)
theorem dX4_withModule_134 : decode cX4_withModule 134 = .ok (.istore 6, 2) := dk_54 6 (dk_at dksX4_withModule_5 16 rfl rfl)
theorem dX4_withModule_136 : decode cX4_withModule 136 = .ok (.iload 6, 2) := dk_21 6 (dk_at dksX4_withModule_5 18 rfl rfl)
theorem dX4_withModule_138 : decode cX4_withModule 138 = .ok (.aload_n 0, 1) := dk_42 (dk_at dksX4_withModule_5 20 rfl rfl)
theorem dX4_withModule_139 : decode cX4_withModule 139 = .ok (.iload_n 3, 1) := dk_29 (dk_at dksX4_withModule_5 21 rfl rfl)
theorem dX4_withModule_140 : decode cX4_withModule 140 = .ok (.invokevirtual 56, 3) := dk_182 0 56 (dk_at dksX4_withModule_6 0 rfl rfl)
theorem dX4_withModule_143 : decode cX4_withModule 143 = .ok (.invokestatic 60, 3) := dk_184 0 60 (dk_at dksX4_withModule_6 3 rfl rfl)
theorem dX4_withModule_146 : decode cX4_withModule 146 = .ok (.if_icmp .ge 45, 3) := dk_162 0 45 (dk_at dksX4_withModule_6 6 rfl rfl)
theorem dX4_withModule_149 : decode cX4_withModule 149 = .ok (.ldc2_w 291, 3) := dk_20 1 35 (dk_at dksX4_withModule_6 9 rfl rfl)
theorem dX4_withModule_152 : decode cX4_withModule 152 = .ok (.lload 4, 2) := dk_22 4 (dk_at dksX4_withModule_6 12 rfl rfl)
theorem dX4_withModule_154 : decode cX4_withModule 154 = .ok (.lmul, 1) := dk_105 (dk_at dksX4_withModule_6 14 rfl rfl)
theorem dX4_withModule_155 : decode cX4_withModule 155 = .ok (.aload_n 0, 1) := dk_42 (dk_at dksX4_withModule_6 15 rfl rfl)
theorem dX4_withModule_156 : decode cX4_withModule 156 = .ok (.iload_n 3, 1) := dk_29 (dk_at dksX4_withModule_6 16 rfl rfl)
theorem dX4_withModule_157 : decode cX4_withModule 157 = .ok (.iconst 5, 1) := dk_8 (dk_at dksX4_withModule_6 17 rfl rfl)
theorem dX4_withModule_158 : decode cX4_withModule 158 = .ok (.iload 6, 2) := dk_21 6 (dk_at dksX4_withModule_6 18 rfl rfl)
theorem dX4_withModule_160 : decode cX4_withModule 160 = .ok (.iadd, 1) := dk_96 (dk_at dksX4_withModule_6 20 rfl rfl)
theorem dX4_withModule_161 : decode cX4_withModule 161 = .ok (.invokevirtual 48, 3) := dk_182 0 48 (dk_at dksX4_withModule_6 21 rfl rfl)
theorem dX4_withModule_164 : decode cX4_withModule 164 = .ok (.i2l, 1) := dk_133 (dk_at dksX4_withModule_7 0 rfl rfl)
theorem dX4_withModule_165 : decode cX4_withModule 165 = .ok (.ladd, 1) := dk_97 (dk_at dksX4_withModule_7 1 rfl rfl)
theorem dX4_withModule_166 : decode cX4_withModule 166 = .ok (.lstore 4, 2) := dk_55 4 (dk_at dksX4_withModule_7 2 rfl rfl)
theorem dX4_withModule_168 : decode cX4_withModule 168 = .ok (.ldc2_w 291, 3) := dk_20 1 35 (dk_at dksX4_withModule_7 4 rfl rfl)
theorem dX4_withModule_171 : decode cX4_withModule 171 = .ok (.lload 4, 2) := dk_22 4 (dk_at dksX4_withModule_7 7 rfl rfl)
theorem dX4_withModule_173 : decode cX4_withModule 173 = .ok (.lmul, 1) := dk_105 (dk_at dksX4_withModule_7 9 rfl rfl)
theorem dX4_withModule_174 : decode cX4_withModule 174 = .ok (.aload_n 0, 1) := dk_42 (dk_at dksX4_withModule_7 10 rfl rfl)
theorem dX4_withModule_175 : decode cX4_withModule 175 = .ok (.iload_n 3, 1) := dk_29 (dk_at dksX4_withModule_7 11 rfl rfl)
theorem dX4_withModule_176 : decode cX4_withModule 176 = .ok (.iload 6, 2) := dk_21 6 (dk_at dksX4_withModule_7 12 rfl rfl)
theorem dX4_withModule_178 : decode cX4_withModule 178 = .ok (.invokevirtual 125, 3) := dk_182 0 125 (dk_at dksX4_withModule_7 14 rfl rfl)
theorem dX4_withModule_181 : decode cX4_withModule 181 = .ok (.i2l, 1) := dk_133 (dk_at dksX4_withModule_7 17 rfl rfl)
theorem dX4_withModule_182 : decode cX4_withModule 182 = .ok (.ladd, 1) := dk_97 (dk_at dksX4_withModule_7 18 rfl rfl)
theorem dX4_withModule_183 : decode cX4_withModule 183 = .ok (.lstore 4, 2) := dk_55 4 (dk_at dksX4_withModule_7 19 rfl rfl)
theorem dX4_withModule_185 : decode cX4_withModule 185 = .ok (.iinc 6 1, 3) := dk_132 6 1 (dk_at dksX4_withModule_7 21 rfl rfl)
theorem dX4_withModule_188 : decode cX4_withModule 188 = .ok (.goto (-52), 3) := dk_167 255 204 (dk_at dksX4_withModule_8 0 rfl rfl)
theorem dX4_withModule_191 : decode cX4_withModule 191 = .ok (.lload 4, 2) := dk_22 4 (dk_at dksX4_withModule_8 3 rfl rfl)
theorem dX4_withModule_193 : decode cX4_withModule 193 = .ok (.lreturn, 1) := dk_173 (dk_at dksX4_withModule_8 5 rfl rfl)
theorem q112 : (Jvm.Cond.initialized "PatchCordsModel") ∈ lw_all := lw_g (lw_at lw_m1 12 rfl) rfl
theorem q497 : (Jvm.Cond.selects "PatchCordsModel" ({ cls := "java/lang/Object", name := "getClass", desc := "()Ljava/lang/Class;" } : Jvm.MethodName) ({ cls := "java/lang/Object", name := "getClass", desc := "()Ljava/lang/Class;" } : Jvm.MethodName)) ∈ lw_all := lw_g (lw_at lw_m2 157 rfl) rfl
theorem q1803 : (Jvm.Cond.instantiable "PatchCordsModel" (20 : Nat)) ∈ lw_all := lw_g (lw_at lw_m8 23 rfl) rfl
theorem q1805 : (Jvm.Cond.instanceMethod ({ cls := "PatchCordsModel", name := "<init>", desc := "()V" } : Jvm.MethodName)) ∈ lw_all := lw_g (lw_at lw_m8 25 rfl) rfl
theorem q1806 : (Jvm.Cond.code ({ cls := "PatchCordsModel", name := "<init>", desc := "()V" } : Jvm.MethodName) prog_17_method_1_code (1 : Nat) (Option.none : Option Jvm.ClassFile.FieldType)) ∈ lw_all := lw_g (lw_at lw_m8 26 rfl) rfl
theorem q1807 : (Jvm.Cond.methodLink "PatchCordsModel" (1 : Nat) ({ cls := "java/lang/Object", name := "<init>", desc := "()V" } : Jvm.MethodName)) ∈ lw_all := lw_g (lw_at lw_m8 27 rfl) rfl
theorem q1808 : (Jvm.Cond.fieldLink "PatchCordsModel" (37 : Nat) "PatchCordsModel" "thrown" "I") ∈ lw_all := lw_g (lw_at lw_m8 28 rfl) rfl
theorem q1809 : (Jvm.Cond.fieldLink "PatchCordsModel" (7 : Nat) "PatchCordsModel" "state" "[I") ∈ lw_all := lw_g (lw_at lw_m8 29 rfl) rfl
theorem q1810 : (Jvm.Cond.fieldLink "PatchCordsModel" (13 : Nat) "PatchCordsModel" "history" "[I") ∈ lw_all := lw_g (lw_at lw_m8 30 rfl) rfl
theorem q1811 : (Jvm.Cond.fieldLink "PatchCordsModel" (41 : Nat) "PatchCordsModel" "savedStates" "I") ∈ lw_all := lw_g (lw_at lw_m8 31 rfl) rfl
theorem q1812 : (Jvm.Cond.fieldLink "PatchCordsModel" (16 : Nat) "PatchCordsModel" "snapshot" "[I") ∈ lw_all := lw_g (lw_at lw_m8 32 rfl) rfl
theorem q1813 : (Jvm.Cond.fieldLink "PatchCordsModel" (236 : Nat) "PatchCordsModel" "isTaken" "Z") ∈ lw_all := lw_g (lw_at lw_m8 33 rfl) rfl
theorem q1814 : (Jvm.Cond.fieldLink "PatchCordsModel" (19 : Nat) "PatchCordsModel" "kept" "[I") ∈ lw_all := lw_g (lw_at lw_m8 34 rfl) rfl
theorem q1815 : (Jvm.Cond.fieldLink "PatchCordsModel" (22 : Nat) "PatchCordsModel" "levels" "[I") ∈ lw_all := lw_g (lw_at lw_m8 35 rfl) rfl
theorem q1816 : (Jvm.Cond.fieldLink "PatchCordsModel" (25 : Nat) "PatchCordsModel" "outs" "[I") ∈ lw_all := lw_g (lw_at lw_m8 36 rfl) rfl
theorem q1817 : (Jvm.Cond.fieldLink "PatchCordsModel" (134 : Nat) "PatchCordsModel" "over" "I") ∈ lw_all := lw_g (lw_at lw_m8 37 rfl) rfl
theorem q1818 : (Jvm.Cond.fieldLink "PatchCordsModel" (28 : Nat) "PatchCordsModel" "rates" "[I") ∈ lw_all := lw_g (lw_at lw_m8 38 rfl) rfl
theorem q1819 : (Jvm.Cond.fieldLink "PatchCordsModel" (31 : Nat) "PatchCordsModel" "before" "[I") ∈ lw_all := lw_g (lw_at lw_m8 39 rfl) rfl
theorem q1820 : (Jvm.Cond.fieldLink "PatchCordsModel" (34 : Nat) "PatchCordsModel" "text" "[I") ∈ lw_all := lw_g (lw_at lw_m8 40 rfl) rfl
theorem q1821 : (Jvm.Cond.fieldLink "PatchCordsModel" (240 : Nat) "PatchCordsModel" "textLength" "I") ∈ lw_all := lw_g (lw_at lw_m8 41 rfl) rfl
theorem q1822 : (Jvm.Cond.fieldLink "PatchCordsModel" (243 : Nat) "PatchCordsModel" "reading" "I") ∈ lw_all := lw_g (lw_at lw_m8 42 rfl) rfl
theorem q1823 : (Jvm.Cond.fieldLink "PatchCordsModel" (249 : Nat) "PatchCordsModel" "number" "I") ∈ lw_all := lw_g (lw_at lw_m8 43 rfl) rfl
theorem q1824 : (Jvm.Cond.fieldLink "PatchCordsModel" (270 : Nat) "PatchCordsModel" "item" "I") ∈ lw_all := lw_g (lw_at lw_m8 44 rfl) rfl
theorem q1825 : (Jvm.Cond.fieldLink "PatchCordsModel" (255 : Nat) "PatchCordsModel" "one" "I") ∈ lw_all := lw_g (lw_at lw_m8 45 rfl) rfl
theorem q1826 : (Jvm.Cond.fieldLink "PatchCordsModel" (264 : Nat) "PatchCordsModel" "other" "I") ∈ lw_all := lw_g (lw_at lw_m8 46 rfl) rfl
theorem q1827 : (Jvm.Cond.fieldLink "PatchCordsModel" (258 : Nat) "PatchCordsModel" "inputRead" "I") ∈ lw_all := lw_g (lw_at lw_m8 47 rfl) rfl
theorem q1828 : (Jvm.Cond.lays "PatchCordsModel" "PatchCordsModel" "thrown" "I") ∈ lw_all := lw_g (lw_at lw_m8 48 rfl) rfl
theorem q1829 : (Jvm.Cond.soleField "PatchCordsModel" "thrown") ∈ lw_all := lw_g (lw_at lw_m8 49 rfl) rfl
theorem q1830 : (Jvm.Cond.laysFinal "PatchCordsModel" "PatchCordsModel" "state" "[I") ∈ lw_all := lw_g (lw_at lw_m8 50 rfl) rfl
theorem q1831 : (Jvm.Cond.soleField "PatchCordsModel" "state") ∈ lw_all := lw_g (lw_at lw_m8 51 rfl) rfl
theorem q1832 : (Jvm.Cond.laysFinal "PatchCordsModel" "PatchCordsModel" "history" "[I") ∈ lw_all := lw_g (lw_at lw_m8 52 rfl) rfl
theorem q1833 : (Jvm.Cond.soleField "PatchCordsModel" "history") ∈ lw_all := lw_g (lw_at lw_m8 53 rfl) rfl
theorem q1834 : (Jvm.Cond.lays "PatchCordsModel" "PatchCordsModel" "savedStates" "I") ∈ lw_all := lw_g (lw_at lw_m8 54 rfl) rfl
theorem q1835 : (Jvm.Cond.soleField "PatchCordsModel" "savedStates") ∈ lw_all := lw_g (lw_at lw_m8 55 rfl) rfl
theorem q1836 : (Jvm.Cond.laysFinal "PatchCordsModel" "PatchCordsModel" "snapshot" "[I") ∈ lw_all := lw_g (lw_at lw_m8 56 rfl) rfl
theorem q1837 : (Jvm.Cond.soleField "PatchCordsModel" "snapshot") ∈ lw_all := lw_g (lw_at lw_m8 57 rfl) rfl
theorem q1838 : (Jvm.Cond.lays "PatchCordsModel" "PatchCordsModel" "isTaken" "Z") ∈ lw_all := lw_g (lw_at lw_m8 58 rfl) rfl
theorem q1839 : (Jvm.Cond.soleField "PatchCordsModel" "isTaken") ∈ lw_all := lw_g (lw_at lw_m8 59 rfl) rfl
theorem q1840 : (Jvm.Cond.laysFinal "PatchCordsModel" "PatchCordsModel" "kept" "[I") ∈ lw_all := lw_g (lw_at lw_m8 60 rfl) rfl
theorem q1841 : (Jvm.Cond.soleField "PatchCordsModel" "kept") ∈ lw_all := lw_g (lw_at lw_m8 61 rfl) rfl
theorem q1842 : (Jvm.Cond.laysFinal "PatchCordsModel" "PatchCordsModel" "levels" "[I") ∈ lw_all := lw_g (lw_at lw_m8 62 rfl) rfl
theorem q1843 : (Jvm.Cond.soleField "PatchCordsModel" "levels") ∈ lw_all := lw_g (lw_at lw_m8 63 rfl) rfl
theorem q1844 : (Jvm.Cond.laysFinal "PatchCordsModel" "PatchCordsModel" "outs" "[I") ∈ lw_all := lw_g (lw_at lw_m8 64 rfl) rfl
theorem q1845 : (Jvm.Cond.soleField "PatchCordsModel" "outs") ∈ lw_all := lw_g (lw_at lw_m8 65 rfl) rfl
theorem q1846 : (Jvm.Cond.lays "PatchCordsModel" "PatchCordsModel" "over" "I") ∈ lw_all := lw_g (lw_at lw_m8 66 rfl) rfl
theorem q1847 : (Jvm.Cond.soleField "PatchCordsModel" "over") ∈ lw_all := lw_g (lw_at lw_m8 67 rfl) rfl
theorem q1848 : (Jvm.Cond.laysFinal "PatchCordsModel" "PatchCordsModel" "rates" "[I") ∈ lw_all := lw_g (lw_at lw_m8 68 rfl) rfl
theorem q1849 : (Jvm.Cond.soleField "PatchCordsModel" "rates") ∈ lw_all := lw_g (lw_at lw_m8 69 rfl) rfl
theorem q1850 : (Jvm.Cond.laysFinal "PatchCordsModel" "PatchCordsModel" "before" "[I") ∈ lw_all := lw_g (lw_at lw_m8 70 rfl) rfl
theorem q1851 : (Jvm.Cond.soleField "PatchCordsModel" "before") ∈ lw_all := lw_g (lw_at lw_m8 71 rfl) rfl
theorem q1852 : (Jvm.Cond.laysFinal "PatchCordsModel" "PatchCordsModel" "text" "[I") ∈ lw_all := lw_g (lw_at lw_m8 72 rfl) rfl
theorem q1853 : (Jvm.Cond.soleField "PatchCordsModel" "text") ∈ lw_all := lw_g (lw_at lw_m8 73 rfl) rfl
theorem q1854 : (Jvm.Cond.lays "PatchCordsModel" "PatchCordsModel" "textLength" "I") ∈ lw_all := lw_g (lw_at lw_m8 74 rfl) rfl
theorem q1855 : (Jvm.Cond.soleField "PatchCordsModel" "textLength") ∈ lw_all := lw_g (lw_at lw_m8 75 rfl) rfl
theorem q1856 : (Jvm.Cond.lays "PatchCordsModel" "PatchCordsModel" "reading" "I") ∈ lw_all := lw_g (lw_at lw_m8 76 rfl) rfl
theorem q1857 : (Jvm.Cond.soleField "PatchCordsModel" "reading") ∈ lw_all := lw_g (lw_at lw_m8 77 rfl) rfl
theorem q1858 : (Jvm.Cond.lays "PatchCordsModel" "PatchCordsModel" "number" "I") ∈ lw_all := lw_g (lw_at lw_m8 78 rfl) rfl
theorem q1859 : (Jvm.Cond.soleField "PatchCordsModel" "number") ∈ lw_all := lw_g (lw_at lw_m8 79 rfl) rfl
theorem q1860 : (Jvm.Cond.lays "PatchCordsModel" "PatchCordsModel" "item" "I") ∈ lw_all := lw_g (lw_at lw_m8 80 rfl) rfl
theorem q1861 : (Jvm.Cond.soleField "PatchCordsModel" "item") ∈ lw_all := lw_g (lw_at lw_m8 81 rfl) rfl
theorem q1862 : (Jvm.Cond.lays "PatchCordsModel" "PatchCordsModel" "one" "I") ∈ lw_all := lw_g (lw_at lw_m8 82 rfl) rfl
theorem q1863 : (Jvm.Cond.soleField "PatchCordsModel" "one") ∈ lw_all := lw_g (lw_at lw_m8 83 rfl) rfl
theorem q1864 : (Jvm.Cond.lays "PatchCordsModel" "PatchCordsModel" "other" "I") ∈ lw_all := lw_g (lw_at lw_m8 84 rfl) rfl
theorem q1865 : (Jvm.Cond.soleField "PatchCordsModel" "other") ∈ lw_all := lw_g (lw_at lw_m8 85 rfl) rfl
theorem q1866 : (Jvm.Cond.lays "PatchCordsModel" "PatchCordsModel" "inputRead" "I") ∈ lw_all := lw_g (lw_at lw_m8 86 rfl) rfl
theorem q1867 : (Jvm.Cond.soleField "PatchCordsModel" "inputRead") ∈ lw_all := lw_g (lw_at lw_m8 87 rfl) rfl
theorem q1868 : (Jvm.Cond.superclass "PatchCordsModel" "java/lang/Object") ∈ lw_all := lw_g (lw_at lw_m8 88 rfl) rfl
theorem q1870 : (Jvm.Cond.instanceMethod ({ cls := "PatchCordsModel", name := "thrown", desc := "()I" } : Jvm.MethodName)) ∈ lw_all := lw_g (lw_at lw_m8 90 rfl) rfl
theorem q1871 : (Jvm.Cond.selects "PatchCordsModel" ({ cls := "PatchCordsModel", name := "thrown", desc := "()I" } : Jvm.MethodName) ({ cls := "PatchCordsModel", name := "thrown", desc := "()I" } : Jvm.MethodName)) ∈ lw_all := lw_g (lw_at lw_m8 91 rfl) rfl
theorem q1872 : (Jvm.Cond.code ({ cls := "PatchCordsModel", name := "thrown", desc := "()I" } : Jvm.MethodName) prog_17_method_2_code (1 : Nat) (Option.some Jvm.ClassFile.FieldType.int)) ∈ lw_all := lw_g (lw_at lw_m8 92 rfl) rfl
theorem q1874 : (Jvm.Cond.instanceMethod ({ cls := "PatchCordsModel", name := "put", desc := "(I)I" } : Jvm.MethodName)) ∈ lw_all := lw_g (lw_at lw_m8 94 rfl) rfl
theorem q1875 : (Jvm.Cond.selects "PatchCordsModel" ({ cls := "PatchCordsModel", name := "put", desc := "(I)I" } : Jvm.MethodName) ({ cls := "PatchCordsModel", name := "put", desc := "(I)I" } : Jvm.MethodName)) ∈ lw_all := lw_g (lw_at lw_m8 95 rfl) rfl
theorem q1876 : (Jvm.Cond.code ({ cls := "PatchCordsModel", name := "put", desc := "(I)I" } : Jvm.MethodName) prog_17_method_20_code (2 : Nat) (Option.some Jvm.ClassFile.FieldType.int)) ∈ lw_all := lw_g (lw_at lw_m8 96 rfl) rfl
theorem q1877 : (Jvm.Cond.methodLink "PatchCordsModel" (44 : Nat) ({ cls := "PatchCordsModel", name := "within", desc := "(III)Z" } : Jvm.MethodName)) ∈ lw_all := lw_g (lw_at lw_m8 97 rfl) rfl
theorem q1878 : (Jvm.Cond.static ({ cls := "PatchCordsModel", name := "within", desc := "(III)Z" } : Jvm.MethodName)) ∈ lw_all := lw_g (lw_at lw_m8 98 rfl) rfl
theorem q1879 : (Jvm.Cond.code ({ cls := "PatchCordsModel", name := "within", desc := "(III)Z" } : Jvm.MethodName) prog_17_method_3_code (3 : Nat) (Option.some Jvm.ClassFile.FieldType.boolean)) ∈ lw_all := lw_g (lw_at lw_m8 99 rfl) rfl
theorem q1880 : (Jvm.Cond.methodLink "PatchCordsModel" (67 : Nat) ({ cls := "PatchCordsModel", name := "canPut", desc := "()Z" } : Jvm.MethodName)) ∈ lw_all := lw_g (lw_at lw_m8 100 rfl) rfl
theorem q1881 : (Jvm.Cond.privateMethod ({ cls := "PatchCordsModel", name := "canPut", desc := "()Z" } : Jvm.MethodName)) ∈ lw_tbl := lw_at lw_m8 101 rfl
theorem q1882 : (Jvm.Cond.instanceMethod ({ cls := "PatchCordsModel", name := "canPut", desc := "()Z" } : Jvm.MethodName)) ∈ lw_all := lw_g (lw_at lw_m8 102 rfl) rfl
theorem q1883 : (Jvm.Cond.code ({ cls := "PatchCordsModel", name := "canPut", desc := "()Z" } : Jvm.MethodName) prog_17_method_18_code (1 : Nat) (Option.some Jvm.ClassFile.FieldType.boolean)) ∈ lw_all := lw_g (lw_at lw_m8 103 rfl) rfl
theorem q1884 : (Jvm.Cond.methodLink "PatchCordsModel" (71 : Nat) ({ cls := "PatchCordsModel", name := "saves", desc := "()V" } : Jvm.MethodName)) ∈ lw_all := lw_g (lw_at lw_m8 104 rfl) rfl
theorem q1885 : (Jvm.Cond.privateMethod ({ cls := "PatchCordsModel", name := "saves", desc := "()V" } : Jvm.MethodName)) ∈ lw_tbl := lw_at lw_m8 105 rfl
theorem q1886 : (Jvm.Cond.instanceMethod ({ cls := "PatchCordsModel", name := "saves", desc := "()V" } : Jvm.MethodName)) ∈ lw_all := lw_g (lw_at lw_m8 106 rfl) rfl
theorem q1887 : (Jvm.Cond.code ({ cls := "PatchCordsModel", name := "saves", desc := "()V" } : Jvm.MethodName) prog_17_method_7_code (2 : Nat) (Option.none : Option Jvm.ClassFile.FieldType)) ∈ lw_all := lw_g (lw_at lw_m8 107 rfl) rfl
theorem q1888 : (Jvm.Cond.methodLink "PatchCordsModel" (74 : Nat) ({ cls := "PatchCordsModel", name := "putsUp", desc := "(I)I" } : Jvm.MethodName)) ∈ lw_all := lw_g (lw_at lw_m8 108 rfl) rfl
theorem q1889 : (Jvm.Cond.privateMethod ({ cls := "PatchCordsModel", name := "putsUp", desc := "(I)I" } : Jvm.MethodName)) ∈ lw_tbl := lw_at lw_m8 109 rfl
theorem q1890 : (Jvm.Cond.instanceMethod ({ cls := "PatchCordsModel", name := "putsUp", desc := "(I)I" } : Jvm.MethodName)) ∈ lw_all := lw_g (lw_at lw_m8 110 rfl) rfl
theorem q1891 : (Jvm.Cond.code ({ cls := "PatchCordsModel", name := "putsUp", desc := "(I)I" } : Jvm.MethodName) prog_17_method_19_code (4 : Nat) (Option.some Jvm.ClassFile.FieldType.int)) ∈ lw_all := lw_g (lw_at lw_m8 111 rfl) rfl
theorem q1892 : (Jvm.Cond.methodLink "PatchCordsModel" (63 : Nat) ({ cls := "PatchCordsModel", name := "puts", desc := "(III)V" } : Jvm.MethodName)) ∈ lw_all := lw_g (lw_at lw_m8 112 rfl) rfl
theorem q1893 : (Jvm.Cond.privateMethod ({ cls := "PatchCordsModel", name := "puts", desc := "(III)V" } : Jvm.MethodName)) ∈ lw_tbl := lw_at lw_m8 113 rfl
theorem q1894 : (Jvm.Cond.instanceMethod ({ cls := "PatchCordsModel", name := "puts", desc := "(III)V" } : Jvm.MethodName)) ∈ lw_all := lw_g (lw_at lw_m8 114 rfl) rfl
theorem q1895 : (Jvm.Cond.code ({ cls := "PatchCordsModel", name := "puts", desc := "(III)V" } : Jvm.MethodName) prog_17_method_12_code (4 : Nat) (Option.none : Option Jvm.ClassFile.FieldType)) ∈ lw_all := lw_g (lw_at lw_m8 115 rfl) rfl
theorem q1897 : (Jvm.Cond.instanceMethod ({ cls := "PatchCordsModel", name := "turnWeight", desc := "(II)I" } : Jvm.MethodName)) ∈ lw_all := lw_g (lw_at lw_m8 117 rfl) rfl
theorem q1898 : (Jvm.Cond.selects "PatchCordsModel" ({ cls := "PatchCordsModel", name := "turnWeight", desc := "(II)I" } : Jvm.MethodName) ({ cls := "PatchCordsModel", name := "turnWeight", desc := "(II)I" } : Jvm.MethodName)) ∈ lw_all := lw_g (lw_at lw_m8 118 rfl) rfl
theorem q1899 : (Jvm.Cond.code ({ cls := "PatchCordsModel", name := "turnWeight", desc := "(II)I" } : Jvm.MethodName) prog_17_method_22_code (3 : Nat) (Option.some Jvm.ClassFile.FieldType.int)) ∈ lw_all := lw_g (lw_at lw_m8 119 rfl) rfl
theorem q1900 : (Jvm.Cond.methodLink "PatchCordsModel" (84 : Nat) ({ cls := "PatchCordsModel", name := "whyNoWeight", desc := "(II)I" } : Jvm.MethodName)) ∈ lw_all := lw_g (lw_at lw_m8 120 rfl) rfl
theorem q1901 : (Jvm.Cond.privateMethod ({ cls := "PatchCordsModel", name := "whyNoWeight", desc := "(II)I" } : Jvm.MethodName)) ∈ lw_tbl := lw_at lw_m8 121 rfl
theorem q1902 : (Jvm.Cond.instanceMethod ({ cls := "PatchCordsModel", name := "whyNoWeight", desc := "(II)I" } : Jvm.MethodName)) ∈ lw_all := lw_g (lw_at lw_m8 122 rfl) rfl
theorem q1903 : (Jvm.Cond.code ({ cls := "PatchCordsModel", name := "whyNoWeight", desc := "(II)I" } : Jvm.MethodName) prog_17_method_21_code (3 : Nat) (Option.some Jvm.ClassFile.FieldType.int)) ∈ lw_all := lw_g (lw_at lw_m8 123 rfl) rfl
theorem q1904 : (Jvm.Cond.methodLink "PatchCordsModel" (52 : Nat) ({ cls := "PatchCordsModel", name := "isModule", desc := "(I)Z" } : Jvm.MethodName)) ∈ lw_all := lw_g (lw_at lw_m8 124 rfl) rfl
theorem q1905 : (Jvm.Cond.privateMethod ({ cls := "PatchCordsModel", name := "isModule", desc := "(I)Z" } : Jvm.MethodName)) ∈ lw_tbl := lw_at lw_m8 125 rfl
theorem q1906 : (Jvm.Cond.instanceMethod ({ cls := "PatchCordsModel", name := "isModule", desc := "(I)Z" } : Jvm.MethodName)) ∈ lw_all := lw_g (lw_at lw_m8 126 rfl) rfl
theorem q1907 : (Jvm.Cond.code ({ cls := "PatchCordsModel", name := "isModule", desc := "(I)Z" } : Jvm.MethodName) prog_17_method_10_code (2 : Nat) (Option.some Jvm.ClassFile.FieldType.boolean)) ∈ lw_all := lw_g (lw_at lw_m8 127 rfl) rfl
theorem q1908 : (Jvm.Cond.methodLink "PatchCordsModel" (77 : Nat) ({ cls := "PatchCordsModel", name := "isWeighted", desc := "(I)Z" } : Jvm.MethodName)) ∈ lw_all := lw_g (lw_at lw_m8 128 rfl) rfl
theorem q1909 : (Jvm.Cond.privateMethod ({ cls := "PatchCordsModel", name := "isWeighted", desc := "(I)Z" } : Jvm.MethodName)) ∈ lw_tbl := lw_at lw_m8 129 rfl
theorem q1910 : (Jvm.Cond.instanceMethod ({ cls := "PatchCordsModel", name := "isWeighted", desc := "(I)Z" } : Jvm.MethodName)) ∈ lw_all := lw_g (lw_at lw_m8 130 rfl) rfl
theorem q1911 : (Jvm.Cond.code ({ cls := "PatchCordsModel", name := "isWeighted", desc := "(I)Z" } : Jvm.MethodName) prog_17_method_16_code (2 : Nat) (Option.some Jvm.ClassFile.FieldType.boolean)) ∈ lw_all := lw_g (lw_at lw_m8 131 rfl) rfl
theorem q1912 : (Jvm.Cond.methodLink "PatchCordsModel" (56 : Nat) ({ cls := "PatchCordsModel", name := "kind", desc := "(I)I" } : Jvm.MethodName)) ∈ lw_all := lw_g (lw_at lw_m8 132 rfl) rfl
theorem q1913 : (Jvm.Cond.privateMethod ({ cls := "PatchCordsModel", name := "kind", desc := "(I)I" } : Jvm.MethodName)) ∈ lw_tbl := lw_at lw_m8 133 rfl
theorem q1914 : (Jvm.Cond.instanceMethod ({ cls := "PatchCordsModel", name := "kind", desc := "(I)I" } : Jvm.MethodName)) ∈ lw_all := lw_g (lw_at lw_m8 134 rfl) rfl
theorem q1915 : (Jvm.Cond.code ({ cls := "PatchCordsModel", name := "kind", desc := "(I)I" } : Jvm.MethodName) prog_17_method_13_code (2 : Nat) (Option.some Jvm.ClassFile.FieldType.int)) ∈ lw_all := lw_g (lw_at lw_m8 135 rfl) rfl
theorem q1916 : (Jvm.Cond.methodLink "PatchCordsModel" (48 : Nat) ({ cls := "PatchCordsModel", name := "of", desc := "(II)I" } : Jvm.MethodName)) ∈ lw_all := lw_g (lw_at lw_m8 136 rfl) rfl
theorem q1917 : (Jvm.Cond.privateMethod ({ cls := "PatchCordsModel", name := "of", desc := "(II)I" } : Jvm.MethodName)) ∈ lw_tbl := lw_at lw_m8 137 rfl
theorem q1918 : (Jvm.Cond.instanceMethod ({ cls := "PatchCordsModel", name := "of", desc := "(II)I" } : Jvm.MethodName)) ∈ lw_all := lw_g (lw_at lw_m8 138 rfl) rfl
theorem q1919 : (Jvm.Cond.code ({ cls := "PatchCordsModel", name := "of", desc := "(II)I" } : Jvm.MethodName) prog_17_method_11_code (3 : Nat) (Option.some Jvm.ClassFile.FieldType.int)) ∈ lw_all := lw_g (lw_at lw_m8 139 rfl) rfl
theorem q1920 : (Jvm.Cond.methodLink "PatchCordsModel" (80 : Nat) ({ cls := "PatchCordsModel", name := "isInput", desc := "(II)Z" } : Jvm.MethodName)) ∈ lw_all := lw_g (lw_at lw_m8 140 rfl) rfl
theorem q1921 : (Jvm.Cond.privateMethod ({ cls := "PatchCordsModel", name := "isInput", desc := "(II)Z" } : Jvm.MethodName)) ∈ lw_tbl := lw_at lw_m8 141 rfl
theorem q1922 : (Jvm.Cond.instanceMethod ({ cls := "PatchCordsModel", name := "isInput", desc := "(II)Z" } : Jvm.MethodName)) ∈ lw_all := lw_g (lw_at lw_m8 142 rfl) rfl
theorem q1923 : (Jvm.Cond.code ({ cls := "PatchCordsModel", name := "isInput", desc := "(II)Z" } : Jvm.MethodName) prog_17_method_15_code (3 : Nat) (Option.some Jvm.ClassFile.FieldType.boolean)) ∈ lw_all := lw_g (lw_at lw_m8 143 rfl) rfl
theorem q1924 : (Jvm.Cond.methodLink "PatchCordsModel" (60 : Nat) ({ cls := "PatchCordsModel", name := "inputsOfKind", desc := "(I)I" } : Jvm.MethodName)) ∈ lw_all := lw_g (lw_at lw_m8 144 rfl) rfl
theorem q1925 : (Jvm.Cond.static ({ cls := "PatchCordsModel", name := "inputsOfKind", desc := "(I)I" } : Jvm.MethodName)) ∈ lw_all := lw_g (lw_at lw_m8 145 rfl) rfl
theorem q1926 : (Jvm.Cond.code ({ cls := "PatchCordsModel", name := "inputsOfKind", desc := "(I)I" } : Jvm.MethodName) prog_17_method_14_code (1 : Nat) (Option.some Jvm.ClassFile.FieldType.int)) ∈ lw_all := lw_g (lw_at lw_m8 146 rfl) rfl
theorem q1928 : (Jvm.Cond.instanceMethod ({ cls := "PatchCordsModel", name := "setVoltage", desc := "(II)I" } : Jvm.MethodName)) ∈ lw_all := lw_g (lw_at lw_m8 148 rfl) rfl
theorem q1929 : (Jvm.Cond.selects "PatchCordsModel" ({ cls := "PatchCordsModel", name := "setVoltage", desc := "(II)I" } : Jvm.MethodName) ({ cls := "PatchCordsModel", name := "setVoltage", desc := "(II)I" } : Jvm.MethodName)) ∈ lw_all := lw_g (lw_at lw_m8 149 rfl) rfl
theorem q1930 : (Jvm.Cond.code ({ cls := "PatchCordsModel", name := "setVoltage", desc := "(II)I" } : Jvm.MethodName) prog_17_method_25_code (3 : Nat) (Option.some Jvm.ClassFile.FieldType.int)) ∈ lw_all := lw_g (lw_at lw_m8 150 rfl) rfl
theorem q1931 : (Jvm.Cond.methodLink "PatchCordsModel" (90 : Nat) ({ cls := "PatchCordsModel", name := "whyNoVoltage", desc := "(II)I" } : Jvm.MethodName)) ∈ lw_all := lw_g (lw_at lw_m8 151 rfl) rfl
theorem q1932 : (Jvm.Cond.privateMethod ({ cls := "PatchCordsModel", name := "whyNoVoltage", desc := "(II)I" } : Jvm.MethodName)) ∈ lw_tbl := lw_at lw_m8 152 rfl
theorem q1933 : (Jvm.Cond.instanceMethod ({ cls := "PatchCordsModel", name := "whyNoVoltage", desc := "(II)I" } : Jvm.MethodName)) ∈ lw_all := lw_g (lw_at lw_m8 153 rfl) rfl
theorem q1934 : (Jvm.Cond.code ({ cls := "PatchCordsModel", name := "whyNoVoltage", desc := "(II)I" } : Jvm.MethodName) prog_17_method_23_code (3 : Nat) (Option.some Jvm.ClassFile.FieldType.int)) ∈ lw_all := lw_g (lw_at lw_m8 154 rfl) rfl
theorem q1935 : (Jvm.Cond.methodLink "PatchCordsModel" (87 : Nat) ({ cls := "PatchCordsModel", name := "hasVoltage", desc := "(I)Z" } : Jvm.MethodName)) ∈ lw_all := lw_g (lw_at lw_m8 155 rfl) rfl
theorem q1936 : (Jvm.Cond.privateMethod ({ cls := "PatchCordsModel", name := "hasVoltage", desc := "(I)Z" } : Jvm.MethodName)) ∈ lw_tbl := lw_at lw_m8 156 rfl
theorem q1937 : (Jvm.Cond.instanceMethod ({ cls := "PatchCordsModel", name := "hasVoltage", desc := "(I)Z" } : Jvm.MethodName)) ∈ lw_all := lw_g (lw_at lw_m8 157 rfl) rfl
theorem q1938 : (Jvm.Cond.code ({ cls := "PatchCordsModel", name := "hasVoltage", desc := "(I)Z" } : Jvm.MethodName) prog_17_method_17_code (2 : Nat) (Option.some Jvm.ClassFile.FieldType.boolean)) ∈ lw_all := lw_g (lw_at lw_m8 158 rfl) rfl
theorem q1939 : (Jvm.Cond.methodLink "PatchCordsModel" (93 : Nat) ({ cls := "PatchCordsModel", name := "setsVoltage", desc := "(II)I" } : Jvm.MethodName)) ∈ lw_all := lw_g (lw_at lw_m8 159 rfl) rfl
theorem q1940 : (Jvm.Cond.privateMethod ({ cls := "PatchCordsModel", name := "setsVoltage", desc := "(II)I" } : Jvm.MethodName)) ∈ lw_tbl := lw_at lw_m8 160 rfl
theorem q1941 : (Jvm.Cond.instanceMethod ({ cls := "PatchCordsModel", name := "setsVoltage", desc := "(II)I" } : Jvm.MethodName)) ∈ lw_all := lw_g (lw_at lw_m8 161 rfl) rfl
theorem q1942 : (Jvm.Cond.code ({ cls := "PatchCordsModel", name := "setsVoltage", desc := "(II)I" } : Jvm.MethodName) prog_17_method_24_code (4 : Nat) (Option.some Jvm.ClassFile.FieldType.int)) ∈ lw_all := lw_g (lw_at lw_m8 162 rfl) rfl
theorem q1944 : (Jvm.Cond.instanceMethod ({ cls := "PatchCordsModel", name := "setFactor", desc := "(II)I" } : Jvm.MethodName)) ∈ lw_all := lw_g (lw_at lw_m8 164 rfl) rfl
theorem q1945 : (Jvm.Cond.selects "PatchCordsModel" ({ cls := "PatchCordsModel", name := "setFactor", desc := "(II)I" } : Jvm.MethodName) ({ cls := "PatchCordsModel", name := "setFactor", desc := "(II)I" } : Jvm.MethodName)) ∈ lw_all := lw_g (lw_at lw_m8 165 rfl) rfl
theorem q1946 : (Jvm.Cond.code ({ cls := "PatchCordsModel", name := "setFactor", desc := "(II)I" } : Jvm.MethodName) prog_17_method_28_code (3 : Nat) (Option.some Jvm.ClassFile.FieldType.int)) ∈ lw_all := lw_g (lw_at lw_m8 166 rfl) rfl
theorem q1947 : (Jvm.Cond.methodLink "PatchCordsModel" (96 : Nat) ({ cls := "PatchCordsModel", name := "whyNoFactor", desc := "(II)I" } : Jvm.MethodName)) ∈ lw_all := lw_g (lw_at lw_m8 167 rfl) rfl
theorem q1948 : (Jvm.Cond.privateMethod ({ cls := "PatchCordsModel", name := "whyNoFactor", desc := "(II)I" } : Jvm.MethodName)) ∈ lw_tbl := lw_at lw_m8 168 rfl
theorem q1949 : (Jvm.Cond.instanceMethod ({ cls := "PatchCordsModel", name := "whyNoFactor", desc := "(II)I" } : Jvm.MethodName)) ∈ lw_all := lw_g (lw_at lw_m8 169 rfl) rfl
theorem q1950 : (Jvm.Cond.code ({ cls := "PatchCordsModel", name := "whyNoFactor", desc := "(II)I" } : Jvm.MethodName) prog_17_method_26_code (3 : Nat) (Option.some Jvm.ClassFile.FieldType.int)) ∈ lw_all := lw_g (lw_at lw_m8 170 rfl) rfl
theorem q1951 : (Jvm.Cond.methodLink "PatchCordsModel" (99 : Nat) ({ cls := "PatchCordsModel", name := "setsFactor", desc := "(II)I" } : Jvm.MethodName)) ∈ lw_all := lw_g (lw_at lw_m8 171 rfl) rfl
theorem q1952 : (Jvm.Cond.privateMethod ({ cls := "PatchCordsModel", name := "setsFactor", desc := "(II)I" } : Jvm.MethodName)) ∈ lw_tbl := lw_at lw_m8 172 rfl
theorem q1953 : (Jvm.Cond.instanceMethod ({ cls := "PatchCordsModel", name := "setsFactor", desc := "(II)I" } : Jvm.MethodName)) ∈ lw_all := lw_g (lw_at lw_m8 173 rfl) rfl
theorem q1954 : (Jvm.Cond.code ({ cls := "PatchCordsModel", name := "setsFactor", desc := "(II)I" } : Jvm.MethodName) prog_17_method_27_code (4 : Nat) (Option.some Jvm.ClassFile.FieldType.int)) ∈ lw_all := lw_g (lw_at lw_m8 174 rfl) rfl
theorem q1956 : (Jvm.Cond.instanceMethod ({ cls := "PatchCordsModel", name := "setSpeed", desc := "(II)I" } : Jvm.MethodName)) ∈ lw_all := lw_g (lw_at lw_m8 176 rfl) rfl
theorem q1957 : (Jvm.Cond.selects "PatchCordsModel" ({ cls := "PatchCordsModel", name := "setSpeed", desc := "(II)I" } : Jvm.MethodName) ({ cls := "PatchCordsModel", name := "setSpeed", desc := "(II)I" } : Jvm.MethodName)) ∈ lw_all := lw_g (lw_at lw_m8 177 rfl) rfl
theorem q1958 : (Jvm.Cond.code ({ cls := "PatchCordsModel", name := "setSpeed", desc := "(II)I" } : Jvm.MethodName) prog_17_method_29_code (4 : Nat) (Option.some Jvm.ClassFile.FieldType.int)) ∈ lw_all := lw_g (lw_at lw_m8 178 rfl) rfl
theorem q1960 : (Jvm.Cond.instanceMethod ({ cls := "PatchCordsModel", name := "join", desc := "(III)I" } : Jvm.MethodName)) ∈ lw_all := lw_g (lw_at lw_m8 180 rfl) rfl
theorem q1961 : (Jvm.Cond.selects "PatchCordsModel" ({ cls := "PatchCordsModel", name := "join", desc := "(III)I" } : Jvm.MethodName) ({ cls := "PatchCordsModel", name := "join", desc := "(III)I" } : Jvm.MethodName)) ∈ lw_all := lw_g (lw_at lw_m8 181 rfl) rfl
theorem q1962 : (Jvm.Cond.code ({ cls := "PatchCordsModel", name := "join", desc := "(III)I" } : Jvm.MethodName) prog_17_method_35_code (4 : Nat) (Option.some Jvm.ClassFile.FieldType.int)) ∈ lw_all := lw_g (lw_at lw_m8 182 rfl) rfl
theorem q1963 : (Jvm.Cond.methodLink "PatchCordsModel" (115 : Nat) ({ cls := "PatchCordsModel", name := "whyNoJoin", desc := "(III)I" } : Jvm.MethodName)) ∈ lw_all := lw_g (lw_at lw_m8 183 rfl) rfl
theorem q1964 : (Jvm.Cond.privateMethod ({ cls := "PatchCordsModel", name := "whyNoJoin", desc := "(III)I" } : Jvm.MethodName)) ∈ lw_tbl := lw_at lw_m8 184 rfl
theorem q1965 : (Jvm.Cond.instanceMethod ({ cls := "PatchCordsModel", name := "whyNoJoin", desc := "(III)I" } : Jvm.MethodName)) ∈ lw_all := lw_g (lw_at lw_m8 185 rfl) rfl
theorem q1966 : (Jvm.Cond.code ({ cls := "PatchCordsModel", name := "whyNoJoin", desc := "(III)I" } : Jvm.MethodName) prog_17_method_33_code (4 : Nat) (Option.some Jvm.ClassFile.FieldType.int)) ∈ lw_all := lw_g (lw_at lw_m8 186 rfl) rfl
theorem q1967 : (Jvm.Cond.methodLink "PatchCordsModel" (112 : Nat) ({ cls := "PatchCordsModel", name := "circles", desc := "(II)Z" } : Jvm.MethodName)) ∈ lw_all := lw_g (lw_at lw_m8 187 rfl) rfl
theorem q1968 : (Jvm.Cond.privateMethod ({ cls := "PatchCordsModel", name := "circles", desc := "(II)Z" } : Jvm.MethodName)) ∈ lw_tbl := lw_at lw_m8 188 rfl
theorem q1969 : (Jvm.Cond.instanceMethod ({ cls := "PatchCordsModel", name := "circles", desc := "(II)Z" } : Jvm.MethodName)) ∈ lw_all := lw_g (lw_at lw_m8 189 rfl) rfl
theorem q1970 : (Jvm.Cond.code ({ cls := "PatchCordsModel", name := "circles", desc := "(II)Z" } : Jvm.MethodName) prog_17_method_32_code (3 : Nat) (Option.some Jvm.ClassFile.FieldType.boolean)) ∈ lw_all := lw_g (lw_at lw_m8 190 rfl) rfl
theorem q1971 : (Jvm.Cond.methodLink "PatchCordsModel" (108 : Nat) ({ cls := "PatchCordsModel", name := "depends", desc := "(IZ)I" } : Jvm.MethodName)) ∈ lw_all := lw_g (lw_at lw_m8 191 rfl) rfl
theorem q1972 : (Jvm.Cond.privateMethod ({ cls := "PatchCordsModel", name := "depends", desc := "(IZ)I" } : Jvm.MethodName)) ∈ lw_tbl := lw_at lw_m8 192 rfl
theorem q1973 : (Jvm.Cond.instanceMethod ({ cls := "PatchCordsModel", name := "depends", desc := "(IZ)I" } : Jvm.MethodName)) ∈ lw_all := lw_g (lw_at lw_m8 193 rfl) rfl
theorem q1974 : (Jvm.Cond.code ({ cls := "PatchCordsModel", name := "depends", desc := "(IZ)I" } : Jvm.MethodName) prog_17_method_31_code (6 : Nat) (Option.some Jvm.ClassFile.FieldType.int)) ∈ lw_all := lw_g (lw_at lw_m8 194 rfl) rfl
theorem q1975 : (Jvm.Cond.methodLink "PatchCordsModel" (102 : Nat) ({ cls := "PatchCordsModel", name := "feedersOf", desc := "(I)I" } : Jvm.MethodName)) ∈ lw_all := lw_g (lw_at lw_m8 195 rfl) rfl
theorem q1976 : (Jvm.Cond.privateMethod ({ cls := "PatchCordsModel", name := "feedersOf", desc := "(I)I" } : Jvm.MethodName)) ∈ lw_tbl := lw_at lw_m8 196 rfl
theorem q1977 : (Jvm.Cond.instanceMethod ({ cls := "PatchCordsModel", name := "feedersOf", desc := "(I)I" } : Jvm.MethodName)) ∈ lw_all := lw_g (lw_at lw_m8 197 rfl) rfl
theorem q1978 : (Jvm.Cond.code ({ cls := "PatchCordsModel", name := "feedersOf", desc := "(I)I" } : Jvm.MethodName) prog_17_method_30_code (4 : Nat) (Option.some Jvm.ClassFile.FieldType.int)) ∈ lw_all := lw_g (lw_at lw_m8 198 rfl) rfl
theorem q1979 : (Jvm.Cond.methodLink "PatchCordsModel" (105 : Nat) ({ cls := "PatchCordsModel", name := "has", desc := "(II)Z" } : Jvm.MethodName)) ∈ lw_all := lw_g (lw_at lw_m8 199 rfl) rfl
theorem q1980 : (Jvm.Cond.static ({ cls := "PatchCordsModel", name := "has", desc := "(II)Z" } : Jvm.MethodName)) ∈ lw_all := lw_g (lw_at lw_m8 200 rfl) rfl
theorem q1981 : (Jvm.Cond.code ({ cls := "PatchCordsModel", name := "has", desc := "(II)Z" } : Jvm.MethodName) prog_17_method_4_code (2 : Nat) (Option.some Jvm.ClassFile.FieldType.boolean)) ∈ lw_all := lw_g (lw_at lw_m8 201 rfl) rfl
theorem q1982 : (Jvm.Cond.methodLink "PatchCordsModel" (119 : Nat) ({ cls := "PatchCordsModel", name := "joins", desc := "(III)I" } : Jvm.MethodName)) ∈ lw_all := lw_g (lw_at lw_m8 202 rfl) rfl
theorem q1983 : (Jvm.Cond.privateMethod ({ cls := "PatchCordsModel", name := "joins", desc := "(III)I" } : Jvm.MethodName)) ∈ lw_tbl := lw_at lw_m8 203 rfl
theorem q1984 : (Jvm.Cond.instanceMethod ({ cls := "PatchCordsModel", name := "joins", desc := "(III)I" } : Jvm.MethodName)) ∈ lw_all := lw_g (lw_at lw_m8 204 rfl) rfl
theorem q1985 : (Jvm.Cond.code ({ cls := "PatchCordsModel", name := "joins", desc := "(III)I" } : Jvm.MethodName) prog_17_method_34_code (5 : Nat) (Option.some Jvm.ClassFile.FieldType.int)) ∈ lw_all := lw_g (lw_at lw_m8 205 rfl) rfl
theorem q1987 : (Jvm.Cond.instanceMethod ({ cls := "PatchCordsModel", name := "takeOut", desc := "(II)I" } : Jvm.MethodName)) ∈ lw_all := lw_g (lw_at lw_m8 207 rfl) rfl
theorem q1988 : (Jvm.Cond.selects "PatchCordsModel" ({ cls := "PatchCordsModel", name := "takeOut", desc := "(II)I" } : Jvm.MethodName) ({ cls := "PatchCordsModel", name := "takeOut", desc := "(II)I" } : Jvm.MethodName)) ∈ lw_all := lw_g (lw_at lw_m8 208 rfl) rfl
theorem q1989 : (Jvm.Cond.code ({ cls := "PatchCordsModel", name := "takeOut", desc := "(II)I" } : Jvm.MethodName) prog_17_method_37_code (3 : Nat) (Option.some Jvm.ClassFile.FieldType.int)) ∈ lw_all := lw_g (lw_at lw_m8 209 rfl) rfl
theorem q1990 : (Jvm.Cond.methodLink "PatchCordsModel" (122 : Nat) ({ cls := "PatchCordsModel", name := "whyNoCord", desc := "(II)I" } : Jvm.MethodName)) ∈ lw_all := lw_g (lw_at lw_m8 210 rfl) rfl
theorem q1991 : (Jvm.Cond.privateMethod ({ cls := "PatchCordsModel", name := "whyNoCord", desc := "(II)I" } : Jvm.MethodName)) ∈ lw_tbl := lw_at lw_m8 211 rfl
theorem q1992 : (Jvm.Cond.instanceMethod ({ cls := "PatchCordsModel", name := "whyNoCord", desc := "(II)I" } : Jvm.MethodName)) ∈ lw_all := lw_g (lw_at lw_m8 212 rfl) rfl
theorem q1993 : (Jvm.Cond.code ({ cls := "PatchCordsModel", name := "whyNoCord", desc := "(II)I" } : Jvm.MethodName) prog_17_method_36_code (3 : Nat) (Option.some Jvm.ClassFile.FieldType.int)) ∈ lw_all := lw_g (lw_at lw_m8 213 rfl) rfl
theorem q1995 : (Jvm.Cond.instanceMethod ({ cls := "PatchCordsModel", name := "pass", desc := "(I)I" } : Jvm.MethodName)) ∈ lw_all := lw_g (lw_at lw_m8 215 rfl) rfl
theorem q1996 : (Jvm.Cond.selects "PatchCordsModel" ({ cls := "PatchCordsModel", name := "pass", desc := "(I)I" } : Jvm.MethodName) ({ cls := "PatchCordsModel", name := "pass", desc := "(I)I" } : Jvm.MethodName)) ∈ lw_all := lw_g (lw_at lw_m8 216 rfl) rfl
theorem q1997 : (Jvm.Cond.code ({ cls := "PatchCordsModel", name := "pass", desc := "(I)I" } : Jvm.MethodName) prog_17_method_50_code (2 : Nat) (Option.some Jvm.ClassFile.FieldType.int)) ∈ lw_all := lw_g (lw_at lw_m8 217 rfl) rfl
theorem q1998 : (Jvm.Cond.methodLink "PatchCordsModel" (168 : Nat) ({ cls := "PatchCordsModel", name := "canPass", desc := "(I)Z" } : Jvm.MethodName)) ∈ lw_all := lw_g (lw_at lw_m8 218 rfl) rfl
theorem q1999 : (Jvm.Cond.privateMethod ({ cls := "PatchCordsModel", name := "canPass", desc := "(I)Z" } : Jvm.MethodName)) ∈ lw_tbl := lw_at lw_m8 219 rfl
theorem q2000 : (Jvm.Cond.instanceMethod ({ cls := "PatchCordsModel", name := "canPass", desc := "(I)Z" } : Jvm.MethodName)) ∈ lw_all := lw_g (lw_at lw_m8 220 rfl) rfl
theorem q2001 : (Jvm.Cond.code ({ cls := "PatchCordsModel", name := "canPass", desc := "(I)Z" } : Jvm.MethodName) prog_17_method_49_code (2 : Nat) (Option.some Jvm.ClassFile.FieldType.boolean)) ∈ lw_all := lw_g (lw_at lw_m8 221 rfl) rfl
theorem q2002 : (Jvm.Cond.constant "PatchCordsModel" (167 : Nat) (99999 : Int32)) ∈ lw_all := lw_g (lw_at lw_m8 222 rfl) rfl
theorem q2003 : (Jvm.Cond.methodLink "PatchCordsModel" (171 : Nat) ({ cls := "PatchCordsModel", name := "passes", desc := "(I)I" } : Jvm.MethodName)) ∈ lw_all := lw_g (lw_at lw_m8 223 rfl) rfl
theorem q2004 : (Jvm.Cond.privateMethod ({ cls := "PatchCordsModel", name := "passes", desc := "(I)I" } : Jvm.MethodName)) ∈ lw_tbl := lw_at lw_m8 224 rfl
theorem q2005 : (Jvm.Cond.instanceMethod ({ cls := "PatchCordsModel", name := "passes", desc := "(I)I" } : Jvm.MethodName)) ∈ lw_all := lw_g (lw_at lw_m8 225 rfl) rfl
theorem q2006 : (Jvm.Cond.code ({ cls := "PatchCordsModel", name := "passes", desc := "(I)I" } : Jvm.MethodName) prog_17_method_48_code (4 : Nat) (Option.some Jvm.ClassFile.FieldType.int)) ∈ lw_all := lw_g (lw_at lw_m8 226 rfl) rfl
theorem q2007 : (Jvm.Cond.methodLink "PatchCordsModel" (163 : Nat) ({ cls := "PatchCordsModel", name := "stepsOn", desc := "(Z)V" } : Jvm.MethodName)) ∈ lw_all := lw_g (lw_at lw_m8 227 rfl) rfl
theorem q2008 : (Jvm.Cond.privateMethod ({ cls := "PatchCordsModel", name := "stepsOn", desc := "(Z)V" } : Jvm.MethodName)) ∈ lw_tbl := lw_at lw_m8 228 rfl
theorem q2009 : (Jvm.Cond.instanceMethod ({ cls := "PatchCordsModel", name := "stepsOn", desc := "(Z)V" } : Jvm.MethodName)) ∈ lw_all := lw_g (lw_at lw_m8 229 rfl) rfl
theorem q2010 : (Jvm.Cond.code ({ cls := "PatchCordsModel", name := "stepsOn", desc := "(Z)V" } : Jvm.MethodName) prog_17_method_47_code (3 : Nat) (Option.none : Option Jvm.ClassFile.FieldType)) ∈ lw_all := lw_g (lw_at lw_m8 230 rfl) rfl
theorem q2011 : (Jvm.Cond.methodLink "PatchCordsModel" (150 : Nat) ({ cls := "PatchCordsModel", name := "laysOuts", desc := "()V" } : Jvm.MethodName)) ∈ lw_all := lw_g (lw_at lw_m8 231 rfl) rfl
theorem q2012 : (Jvm.Cond.privateMethod ({ cls := "PatchCordsModel", name := "laysOuts", desc := "()V" } : Jvm.MethodName)) ∈ lw_tbl := lw_at lw_m8 232 rfl
theorem q2013 : (Jvm.Cond.instanceMethod ({ cls := "PatchCordsModel", name := "laysOuts", desc := "()V" } : Jvm.MethodName)) ∈ lw_all := lw_g (lw_at lw_m8 233 rfl) rfl
theorem q2014 : (Jvm.Cond.code ({ cls := "PatchCordsModel", name := "laysOuts", desc := "()V" } : Jvm.MethodName) prog_17_method_42_code (5 : Nat) (Option.none : Option Jvm.ClassFile.FieldType)) ∈ lw_all := lw_g (lw_at lw_m8 234 rfl) rfl
theorem q2015 : (Jvm.Cond.methodLink "PatchCordsModel" (131 : Nat) ({ cls := "PatchCordsModel", name := "laysLevels", desc := "()V" } : Jvm.MethodName)) ∈ lw_all := lw_g (lw_at lw_m8 235 rfl) rfl
theorem q2016 : (Jvm.Cond.privateMethod ({ cls := "PatchCordsModel", name := "laysLevels", desc := "()V" } : Jvm.MethodName)) ∈ lw_tbl := lw_at lw_m8 236 rfl
theorem q2017 : (Jvm.Cond.instanceMethod ({ cls := "PatchCordsModel", name := "laysLevels", desc := "()V" } : Jvm.MethodName)) ∈ lw_all := lw_g (lw_at lw_m8 237 rfl) rfl
theorem q2018 : (Jvm.Cond.code ({ cls := "PatchCordsModel", name := "laysLevels", desc := "()V" } : Jvm.MethodName) prog_17_method_38_code (5 : Nat) (Option.none : Option Jvm.ClassFile.FieldType)) ∈ lw_all := lw_g (lw_at lw_m8 238 rfl) rfl
theorem q2019 : (Jvm.Cond.methodLink "PatchCordsModel" (137 : Nat) ({ cls := "PatchCordsModel", name := "free", desc := "(I)I" } : Jvm.MethodName)) ∈ lw_all := lw_g (lw_at lw_m8 239 rfl) rfl
theorem q2020 : (Jvm.Cond.privateMethod ({ cls := "PatchCordsModel", name := "free", desc := "(I)I" } : Jvm.MethodName)) ∈ lw_tbl := lw_at lw_m9 0 rfl
theorem q2021 : (Jvm.Cond.instanceMethod ({ cls := "PatchCordsModel", name := "free", desc := "(I)I" } : Jvm.MethodName)) ∈ lw_all := lw_g (lw_at lw_m9 1 rfl) rfl
theorem q2022 : (Jvm.Cond.code ({ cls := "PatchCordsModel", name := "free", desc := "(I)I" } : Jvm.MethodName) prog_17_method_41_code (3 : Nat) (Option.some Jvm.ClassFile.FieldType.int)) ∈ lw_all := lw_g (lw_at lw_m9 2 rfl) rfl
theorem q2023 : (Jvm.Cond.methodLink "PatchCordsModel" (128 : Nat) ({ cls := "PatchCordsModel", name := "weighted", desc := "(I)I" } : Jvm.MethodName)) ∈ lw_all := lw_g (lw_at lw_m9 3 rfl) rfl
theorem q2024 : (Jvm.Cond.privateMethod ({ cls := "PatchCordsModel", name := "weighted", desc := "(I)I" } : Jvm.MethodName)) ∈ lw_tbl := lw_at lw_m9 4 rfl
theorem q2025 : (Jvm.Cond.instanceMethod ({ cls := "PatchCordsModel", name := "weighted", desc := "(I)I" } : Jvm.MethodName)) ∈ lw_all := lw_g (lw_at lw_m9 5 rfl) rfl
theorem q2026 : (Jvm.Cond.code ({ cls := "PatchCordsModel", name := "weighted", desc := "(I)I" } : Jvm.MethodName) prog_17_method_40_code (4 : Nat) (Option.some Jvm.ClassFile.FieldType.int)) ∈ lw_all := lw_g (lw_at lw_m9 6 rfl) rfl
theorem q2027 : (Jvm.Cond.methodLink "PatchCordsModel" (125 : Nat) ({ cls := "PatchCordsModel", name := "in", desc := "(II)I" } : Jvm.MethodName)) ∈ lw_all := lw_g (lw_at lw_m9 7 rfl) rfl
theorem q2028 : (Jvm.Cond.privateMethod ({ cls := "PatchCordsModel", name := "in", desc := "(II)I" } : Jvm.MethodName)) ∈ lw_tbl := lw_at lw_m9 8 rfl
theorem q2029 : (Jvm.Cond.instanceMethod ({ cls := "PatchCordsModel", name := "in", desc := "(II)I" } : Jvm.MethodName)) ∈ lw_all := lw_g (lw_at lw_m9 9 rfl) rfl
theorem q2030 : (Jvm.Cond.code ({ cls := "PatchCordsModel", name := "in", desc := "(II)I" } : Jvm.MethodName) prog_17_method_39_code (4 : Nat) (Option.some Jvm.ClassFile.FieldType.int)) ∈ lw_all := lw_g (lw_at lw_m9 10 rfl) rfl
theorem q2031 : (Jvm.Cond.methodLink "PatchCordsModel" (140 : Nat) ({ cls := "PatchCordsModel", name := "held", desc := "(II)I" } : Jvm.MethodName)) ∈ lw_all := lw_g (lw_at lw_m9 11 rfl) rfl
theorem q2032 : (Jvm.Cond.static ({ cls := "PatchCordsModel", name := "held", desc := "(II)I" } : Jvm.MethodName)) ∈ lw_all := lw_g (lw_at lw_m9 12 rfl) rfl
theorem q2033 : (Jvm.Cond.code ({ cls := "PatchCordsModel", name := "held", desc := "(II)I" } : Jvm.MethodName) prog_17_method_5_code (2 : Nat) (Option.some Jvm.ClassFile.FieldType.int)) ∈ lw_all := lw_g (lw_at lw_m9 13 rfl) rfl
theorem q2034 : (Jvm.Cond.methodLink "PatchCordsModel" (143 : Nat) ({ cls := "PatchCordsModel", name := "size", desc := "(I)I" } : Jvm.MethodName)) ∈ lw_all := lw_g (lw_at lw_m9 14 rfl) rfl
theorem q2035 : (Jvm.Cond.static ({ cls := "PatchCordsModel", name := "size", desc := "(I)I" } : Jvm.MethodName)) ∈ lw_all := lw_g (lw_at lw_m9 15 rfl) rfl
theorem q2036 : (Jvm.Cond.code ({ cls := "PatchCordsModel", name := "size", desc := "(I)I" } : Jvm.MethodName) prog_17_method_6_code (1 : Nat) (Option.some Jvm.ClassFile.FieldType.int)) ∈ lw_all := lw_g (lw_at lw_m9 16 rfl) rfl
theorem q2037 : (Jvm.Cond.constant "PatchCordsModel" (146 : Nat) (10000000 : Int32)) ∈ lw_all := lw_g (lw_at lw_m9 17 rfl) rfl
theorem q2038 : (Jvm.Cond.methodLink "PatchCordsModel" (153 : Nat) ({ cls := "PatchCordsModel", name := "laysRates", desc := "()V" } : Jvm.MethodName)) ∈ lw_all := lw_g (lw_at lw_m9 18 rfl) rfl
theorem q2039 : (Jvm.Cond.privateMethod ({ cls := "PatchCordsModel", name := "laysRates", desc := "()V" } : Jvm.MethodName)) ∈ lw_tbl := lw_at lw_m9 19 rfl
theorem q2040 : (Jvm.Cond.instanceMethod ({ cls := "PatchCordsModel", name := "laysRates", desc := "()V" } : Jvm.MethodName)) ∈ lw_all := lw_g (lw_at lw_m9 20 rfl) rfl
theorem q2041 : (Jvm.Cond.code ({ cls := "PatchCordsModel", name := "laysRates", desc := "()V" } : Jvm.MethodName) prog_17_method_44_code (2 : Nat) (Option.none : Option Jvm.ClassFile.FieldType)) ∈ lw_all := lw_g (lw_at lw_m9 21 rfl) rfl
theorem q2042 : (Jvm.Cond.methodLink "PatchCordsModel" (147 : Nat) ({ cls := "PatchCordsModel", name := "rate", desc := "(I)I" } : Jvm.MethodName)) ∈ lw_all := lw_g (lw_at lw_m9 22 rfl) rfl
theorem q2043 : (Jvm.Cond.privateMethod ({ cls := "PatchCordsModel", name := "rate", desc := "(I)I" } : Jvm.MethodName)) ∈ lw_tbl := lw_at lw_m9 23 rfl
theorem q2044 : (Jvm.Cond.instanceMethod ({ cls := "PatchCordsModel", name := "rate", desc := "(I)I" } : Jvm.MethodName)) ∈ lw_all := lw_g (lw_at lw_m9 24 rfl) rfl
theorem q2045 : (Jvm.Cond.code ({ cls := "PatchCordsModel", name := "rate", desc := "(I)I" } : Jvm.MethodName) prog_17_method_43_code (2 : Nat) (Option.some Jvm.ClassFile.FieldType.int)) ∈ lw_all := lw_g (lw_at lw_m9 25 rfl) rfl
theorem q2046 : (Jvm.Cond.methodLink "PatchCordsModel" (156 : Nat) ({ cls := "PatchCordsModel", name := "charges", desc := "(I)V" } : Jvm.MethodName)) ∈ lw_all := lw_g (lw_at lw_m9 26 rfl) rfl
theorem q2047 : (Jvm.Cond.privateMethod ({ cls := "PatchCordsModel", name := "charges", desc := "(I)V" } : Jvm.MethodName)) ∈ lw_tbl := lw_at lw_m9 27 rfl
theorem q2048 : (Jvm.Cond.instanceMethod ({ cls := "PatchCordsModel", name := "charges", desc := "(I)V" } : Jvm.MethodName)) ∈ lw_all := lw_g (lw_at lw_m9 28 rfl) rfl
theorem q2049 : (Jvm.Cond.code ({ cls := "PatchCordsModel", name := "charges", desc := "(I)V" } : Jvm.MethodName) prog_17_method_45_code (3 : Nat) (Option.none : Option Jvm.ClassFile.FieldType)) ∈ lw_all := lw_g (lw_at lw_m9 29 rfl) rfl
theorem q2050 : (Jvm.Cond.methodLink "PatchCordsModel" (160 : Nat) ({ cls := "PatchCordsModel", name := "notesRecord", desc := "()V" } : Jvm.MethodName)) ∈ lw_all := lw_g (lw_at lw_m9 30 rfl) rfl
theorem q2051 : (Jvm.Cond.privateMethod ({ cls := "PatchCordsModel", name := "notesRecord", desc := "()V" } : Jvm.MethodName)) ∈ lw_tbl := lw_at lw_m9 31 rfl
theorem q2052 : (Jvm.Cond.instanceMethod ({ cls := "PatchCordsModel", name := "notesRecord", desc := "()V" } : Jvm.MethodName)) ∈ lw_all := lw_g (lw_at lw_m9 32 rfl) rfl
theorem q2053 : (Jvm.Cond.code ({ cls := "PatchCordsModel", name := "notesRecord", desc := "()V" } : Jvm.MethodName) prog_17_method_46_code (4 : Nat) (Option.none : Option Jvm.ClassFile.FieldType)) ∈ lw_all := lw_g (lw_at lw_m9 33 rfl) rfl
theorem q2055 : (Jvm.Cond.instanceMethod ({ cls := "PatchCordsModel", name := "setMode", desc := "(I)I" } : Jvm.MethodName)) ∈ lw_all := lw_g (lw_at lw_m9 35 rfl) rfl
theorem q2056 : (Jvm.Cond.selects "PatchCordsModel" ({ cls := "PatchCordsModel", name := "setMode", desc := "(I)I" } : Jvm.MethodName) ({ cls := "PatchCordsModel", name := "setMode", desc := "(I)I" } : Jvm.MethodName)) ∈ lw_all := lw_g (lw_at lw_m9 36 rfl) rfl
theorem q2057 : (Jvm.Cond.code ({ cls := "PatchCordsModel", name := "setMode", desc := "(I)I" } : Jvm.MethodName) prog_17_method_52_code (3 : Nat) (Option.some Jvm.ClassFile.FieldType.int)) ∈ lw_all := lw_g (lw_at lw_m9 37 rfl) rfl
theorem q2058 : (Jvm.Cond.methodLink "PatchCordsModel" (174 : Nat) ({ cls := "PatchCordsModel", name := "resets", desc := "()V" } : Jvm.MethodName)) ∈ lw_all := lw_g (lw_at lw_m9 38 rfl) rfl
theorem q2059 : (Jvm.Cond.privateMethod ({ cls := "PatchCordsModel", name := "resets", desc := "()V" } : Jvm.MethodName)) ∈ lw_tbl := lw_at lw_m9 39 rfl
theorem q2060 : (Jvm.Cond.instanceMethod ({ cls := "PatchCordsModel", name := "resets", desc := "()V" } : Jvm.MethodName)) ∈ lw_all := lw_g (lw_at lw_m9 40 rfl) rfl
theorem q2061 : (Jvm.Cond.code ({ cls := "PatchCordsModel", name := "resets", desc := "()V" } : Jvm.MethodName) prog_17_method_51_code (2 : Nat) (Option.none : Option Jvm.ClassFile.FieldType)) ∈ lw_all := lw_g (lw_at lw_m9 41 rfl) rfl
theorem q2063 : (Jvm.Cond.instanceMethod ({ cls := "PatchCordsModel", name := "setWay", desc := "(I)I" } : Jvm.MethodName)) ∈ lw_all := lw_g (lw_at lw_m9 43 rfl) rfl
theorem q2064 : (Jvm.Cond.selects "PatchCordsModel" ({ cls := "PatchCordsModel", name := "setWay", desc := "(I)I" } : Jvm.MethodName) ({ cls := "PatchCordsModel", name := "setWay", desc := "(I)I" } : Jvm.MethodName)) ∈ lw_all := lw_g (lw_at lw_m9 44 rfl) rfl
theorem q2065 : (Jvm.Cond.code ({ cls := "PatchCordsModel", name := "setWay", desc := "(I)I" } : Jvm.MethodName) prog_17_method_53_code (3 : Nat) (Option.some Jvm.ClassFile.FieldType.int)) ∈ lw_all := lw_g (lw_at lw_m9 45 rfl) rfl
theorem q2067 : (Jvm.Cond.instanceMethod ({ cls := "PatchCordsModel", name := "turnGuard", desc := "()Z" } : Jvm.MethodName)) ∈ lw_all := lw_g (lw_at lw_m9 47 rfl) rfl
theorem q2068 : (Jvm.Cond.selects "PatchCordsModel" ({ cls := "PatchCordsModel", name := "turnGuard", desc := "()Z" } : Jvm.MethodName) ({ cls := "PatchCordsModel", name := "turnGuard", desc := "()Z" } : Jvm.MethodName)) ∈ lw_all := lw_g (lw_at lw_m9 48 rfl) rfl
theorem q2069 : (Jvm.Cond.code ({ cls := "PatchCordsModel", name := "turnGuard", desc := "()Z" } : Jvm.MethodName) prog_17_method_54_code (1 : Nat) (Option.some Jvm.ClassFile.FieldType.boolean)) ∈ lw_all := lw_g (lw_at lw_m9 49 rfl) rfl
theorem q2071 : (Jvm.Cond.instanceMethod ({ cls := "PatchCordsModel", name := "record", desc := "(I)I" } : Jvm.MethodName)) ∈ lw_all := lw_g (lw_at lw_m9 51 rfl) rfl
theorem q2072 : (Jvm.Cond.selects "PatchCordsModel" ({ cls := "PatchCordsModel", name := "record", desc := "(I)I" } : Jvm.MethodName) ({ cls := "PatchCordsModel", name := "record", desc := "(I)I" } : Jvm.MethodName)) ∈ lw_all := lw_g (lw_at lw_m9 52 rfl) rfl
theorem q2073 : (Jvm.Cond.code ({ cls := "PatchCordsModel", name := "record", desc := "(I)I" } : Jvm.MethodName) prog_17_method_55_code (4 : Nat) (Option.some Jvm.ClassFile.FieldType.int)) ∈ lw_all := lw_g (lw_at lw_m9 53 rfl) rfl
theorem q2075 : (Jvm.Cond.instanceMethod ({ cls := "PatchCordsModel", name := "modules", desc := "()I" } : Jvm.MethodName)) ∈ lw_all := lw_g (lw_at lw_m9 55 rfl) rfl
theorem q2076 : (Jvm.Cond.selects "PatchCordsModel" ({ cls := "PatchCordsModel", name := "modules", desc := "()I" } : Jvm.MethodName) ({ cls := "PatchCordsModel", name := "modules", desc := "()I" } : Jvm.MethodName)) ∈ lw_all := lw_g (lw_at lw_m9 56 rfl) rfl
theorem q2077 : (Jvm.Cond.code ({ cls := "PatchCordsModel", name := "modules", desc := "()I" } : Jvm.MethodName) prog_17_method_58_code (1 : Nat) (Option.some Jvm.ClassFile.FieldType.int)) ∈ lw_all := lw_g (lw_at lw_m9 57 rfl) rfl
theorem q2078 : (Jvm.Cond.methodLink "PatchCordsModel" (177 : Nat) ({ cls := "PatchCordsModel", name := "tells", desc := "(I)I" } : Jvm.MethodName)) ∈ lw_all := lw_g (lw_at lw_m9 58 rfl) rfl
theorem q2079 : (Jvm.Cond.privateMethod ({ cls := "PatchCordsModel", name := "tells", desc := "(I)I" } : Jvm.MethodName)) ∈ lw_tbl := lw_at lw_m9 59 rfl
theorem q2080 : (Jvm.Cond.instanceMethod ({ cls := "PatchCordsModel", name := "tells", desc := "(I)I" } : Jvm.MethodName)) ∈ lw_all := lw_g (lw_at lw_m9 60 rfl) rfl
theorem q2081 : (Jvm.Cond.code ({ cls := "PatchCordsModel", name := "tells", desc := "(I)I" } : Jvm.MethodName) prog_17_method_56_code (2 : Nat) (Option.some Jvm.ClassFile.FieldType.int)) ∈ lw_all := lw_g (lw_at lw_m9 61 rfl) rfl
theorem q2083 : (Jvm.Cond.instanceMethod ({ cls := "PatchCordsModel", name := "kindOf", desc := "(I)I" } : Jvm.MethodName)) ∈ lw_all := lw_g (lw_at lw_m9 63 rfl) rfl
theorem q2084 : (Jvm.Cond.selects "PatchCordsModel" ({ cls := "PatchCordsModel", name := "kindOf", desc := "(I)I" } : Jvm.MethodName) ({ cls := "PatchCordsModel", name := "kindOf", desc := "(I)I" } : Jvm.MethodName)) ∈ lw_all := lw_g (lw_at lw_m9 64 rfl) rfl
theorem q2085 : (Jvm.Cond.code ({ cls := "PatchCordsModel", name := "kindOf", desc := "(I)I" } : Jvm.MethodName) prog_17_method_59_code (2 : Nat) (Option.some Jvm.ClassFile.FieldType.int)) ∈ lw_all := lw_g (lw_at lw_m9 65 rfl) rfl
theorem q2086 : (Jvm.Cond.methodLink "PatchCordsModel" (180 : Nat) ({ cls := "PatchCordsModel", name := "asks", desc := "(I)Z" } : Jvm.MethodName)) ∈ lw_all := lw_g (lw_at lw_m9 66 rfl) rfl
theorem q2087 : (Jvm.Cond.privateMethod ({ cls := "PatchCordsModel", name := "asks", desc := "(I)Z" } : Jvm.MethodName)) ∈ lw_tbl := lw_at lw_m9 67 rfl
theorem q2088 : (Jvm.Cond.instanceMethod ({ cls := "PatchCordsModel", name := "asks", desc := "(I)Z" } : Jvm.MethodName)) ∈ lw_all := lw_g (lw_at lw_m9 68 rfl) rfl
theorem q2089 : (Jvm.Cond.code ({ cls := "PatchCordsModel", name := "asks", desc := "(I)Z" } : Jvm.MethodName) prog_17_method_57_code (2 : Nat) (Option.some Jvm.ClassFile.FieldType.boolean)) ∈ lw_all := lw_g (lw_at lw_m9 69 rfl) rfl
theorem q2091 : (Jvm.Cond.instanceMethod ({ cls := "PatchCordsModel", name := "inputsOf", desc := "(I)I" } : Jvm.MethodName)) ∈ lw_all := lw_g (lw_at lw_m9 71 rfl) rfl
theorem q2092 : (Jvm.Cond.selects "PatchCordsModel" ({ cls := "PatchCordsModel", name := "inputsOf", desc := "(I)I" } : Jvm.MethodName) ({ cls := "PatchCordsModel", name := "inputsOf", desc := "(I)I" } : Jvm.MethodName)) ∈ lw_all := lw_g (lw_at lw_m9 72 rfl) rfl
theorem q2093 : (Jvm.Cond.code ({ cls := "PatchCordsModel", name := "inputsOf", desc := "(I)I" } : Jvm.MethodName) prog_17_method_60_code (2 : Nat) (Option.some Jvm.ClassFile.FieldType.int)) ∈ lw_all := lw_g (lw_at lw_m9 73 rfl) rfl
theorem q2095 : (Jvm.Cond.instanceMethod ({ cls := "PatchCordsModel", name := "cordIn", desc := "(II)I" } : Jvm.MethodName)) ∈ lw_all := lw_g (lw_at lw_m9 75 rfl) rfl
theorem q2096 : (Jvm.Cond.selects "PatchCordsModel" ({ cls := "PatchCordsModel", name := "cordIn", desc := "(II)I" } : Jvm.MethodName) ({ cls := "PatchCordsModel", name := "cordIn", desc := "(II)I" } : Jvm.MethodName)) ∈ lw_all := lw_g (lw_at lw_m9 76 rfl) rfl
theorem q2097 : (Jvm.Cond.code ({ cls := "PatchCordsModel", name := "cordIn", desc := "(II)I" } : Jvm.MethodName) prog_17_method_62_code (3 : Nat) (Option.some Jvm.ClassFile.FieldType.int)) ∈ lw_all := lw_g (lw_at lw_m9 77 rfl) rfl
theorem q2098 : (Jvm.Cond.methodLink "PatchCordsModel" (183 : Nat) ({ cls := "PatchCordsModel", name := "asksInput", desc := "(II)Z" } : Jvm.MethodName)) ∈ lw_all := lw_g (lw_at lw_m9 78 rfl) rfl
theorem q2099 : (Jvm.Cond.privateMethod ({ cls := "PatchCordsModel", name := "asksInput", desc := "(II)Z" } : Jvm.MethodName)) ∈ lw_tbl := lw_at lw_m9 79 rfl
theorem q2100 : (Jvm.Cond.instanceMethod ({ cls := "PatchCordsModel", name := "asksInput", desc := "(II)Z" } : Jvm.MethodName)) ∈ lw_all := lw_g (lw_at lw_m9 80 rfl) rfl
theorem q2101 : (Jvm.Cond.code ({ cls := "PatchCordsModel", name := "asksInput", desc := "(II)Z" } : Jvm.MethodName) prog_17_method_61_code (3 : Nat) (Option.some Jvm.ClassFile.FieldType.boolean)) ∈ lw_all := lw_g (lw_at lw_m9 81 rfl) rfl
theorem q2103 : (Jvm.Cond.instanceMethod ({ cls := "PatchCordsModel", name := "weightOf", desc := "(II)I" } : Jvm.MethodName)) ∈ lw_all := lw_g (lw_at lw_m9 83 rfl) rfl
theorem q2104 : (Jvm.Cond.selects "PatchCordsModel" ({ cls := "PatchCordsModel", name := "weightOf", desc := "(II)I" } : Jvm.MethodName) ({ cls := "PatchCordsModel", name := "weightOf", desc := "(II)I" } : Jvm.MethodName)) ∈ lw_all := lw_g (lw_at lw_m9 84 rfl) rfl
theorem q2105 : (Jvm.Cond.code ({ cls := "PatchCordsModel", name := "weightOf", desc := "(II)I" } : Jvm.MethodName) prog_17_method_63_code (3 : Nat) (Option.some Jvm.ClassFile.FieldType.int)) ∈ lw_all := lw_g (lw_at lw_m9 85 rfl) rfl
theorem q2107 : (Jvm.Cond.instanceMethod ({ cls := "PatchCordsModel", name := "settingOf", desc := "(I)I" } : Jvm.MethodName)) ∈ lw_all := lw_g (lw_at lw_m9 87 rfl) rfl
theorem q2108 : (Jvm.Cond.selects "PatchCordsModel" ({ cls := "PatchCordsModel", name := "settingOf", desc := "(I)I" } : Jvm.MethodName) ({ cls := "PatchCordsModel", name := "settingOf", desc := "(I)I" } : Jvm.MethodName)) ∈ lw_all := lw_g (lw_at lw_m9 88 rfl) rfl
theorem q2109 : (Jvm.Cond.code ({ cls := "PatchCordsModel", name := "settingOf", desc := "(I)I" } : Jvm.MethodName) prog_17_method_64_code (2 : Nat) (Option.some Jvm.ClassFile.FieldType.int)) ∈ lw_all := lw_g (lw_at lw_m9 89 rfl) rfl
theorem q2111 : (Jvm.Cond.instanceMethod ({ cls := "PatchCordsModel", name := "speedOf", desc := "(I)I" } : Jvm.MethodName)) ∈ lw_all := lw_g (lw_at lw_m9 91 rfl) rfl
theorem q2112 : (Jvm.Cond.selects "PatchCordsModel" ({ cls := "PatchCordsModel", name := "speedOf", desc := "(I)I" } : Jvm.MethodName) ({ cls := "PatchCordsModel", name := "speedOf", desc := "(I)I" } : Jvm.MethodName)) ∈ lw_all := lw_g (lw_at lw_m9 92 rfl) rfl
theorem q2113 : (Jvm.Cond.code ({ cls := "PatchCordsModel", name := "speedOf", desc := "(I)I" } : Jvm.MethodName) prog_17_method_66_code (2 : Nat) (Option.some Jvm.ClassFile.FieldType.int)) ∈ lw_all := lw_g (lw_at lw_m9 93 rfl) rfl
theorem q2114 : (Jvm.Cond.methodLink "PatchCordsModel" (186 : Nat) ({ cls := "PatchCordsModel", name := "asksIntegrator", desc := "(I)Z" } : Jvm.MethodName)) ∈ lw_all := lw_g (lw_at lw_m9 94 rfl) rfl
theorem q2115 : (Jvm.Cond.privateMethod ({ cls := "PatchCordsModel", name := "asksIntegrator", desc := "(I)Z" } : Jvm.MethodName)) ∈ lw_tbl := lw_at lw_m9 95 rfl
theorem q2116 : (Jvm.Cond.instanceMethod ({ cls := "PatchCordsModel", name := "asksIntegrator", desc := "(I)Z" } : Jvm.MethodName)) ∈ lw_all := lw_g (lw_at lw_m9 96 rfl) rfl
theorem q2117 : (Jvm.Cond.code ({ cls := "PatchCordsModel", name := "asksIntegrator", desc := "(I)Z" } : Jvm.MethodName) prog_17_method_65_code (2 : Nat) (Option.some Jvm.ClassFile.FieldType.boolean)) ∈ lw_all := lw_g (lw_at lw_m9 97 rfl) rfl
theorem q2119 : (Jvm.Cond.instanceMethod ({ cls := "PatchCordsModel", name := "cords", desc := "()I" } : Jvm.MethodName)) ∈ lw_all := lw_g (lw_at lw_m9 99 rfl) rfl
theorem q2120 : (Jvm.Cond.selects "PatchCordsModel" ({ cls := "PatchCordsModel", name := "cords", desc := "()I" } : Jvm.MethodName) ({ cls := "PatchCordsModel", name := "cords", desc := "()I" } : Jvm.MethodName)) ∈ lw_all := lw_g (lw_at lw_m9 100 rfl) rfl
theorem q2121 : (Jvm.Cond.code ({ cls := "PatchCordsModel", name := "cords", desc := "()I" } : Jvm.MethodName) prog_17_method_68_code (1 : Nat) (Option.some Jvm.ClassFile.FieldType.int)) ∈ lw_all := lw_g (lw_at lw_m9 101 rfl) rfl
theorem q2122 : (Jvm.Cond.methodLink "PatchCordsModel" (189 : Nat) ({ cls := "PatchCordsModel", name := "manyCords", desc := "()I" } : Jvm.MethodName)) ∈ lw_all := lw_g (lw_at lw_m9 102 rfl) rfl
theorem q2123 : (Jvm.Cond.privateMethod ({ cls := "PatchCordsModel", name := "manyCords", desc := "()I" } : Jvm.MethodName)) ∈ lw_tbl := lw_at lw_m9 103 rfl
theorem q2124 : (Jvm.Cond.instanceMethod ({ cls := "PatchCordsModel", name := "manyCords", desc := "()I" } : Jvm.MethodName)) ∈ lw_all := lw_g (lw_at lw_m9 104 rfl) rfl
theorem q2125 : (Jvm.Cond.code ({ cls := "PatchCordsModel", name := "manyCords", desc := "()I" } : Jvm.MethodName) prog_17_method_67_code (4 : Nat) (Option.some Jvm.ClassFile.FieldType.int)) ∈ lw_all := lw_g (lw_at lw_m9 105 rfl) rfl
theorem q2127 : (Jvm.Cond.instanceMethod ({ cls := "PatchCordsModel", name := "mode", desc := "()I" } : Jvm.MethodName)) ∈ lw_all := lw_g (lw_at lw_m9 107 rfl) rfl
theorem q2128 : (Jvm.Cond.selects "PatchCordsModel" ({ cls := "PatchCordsModel", name := "mode", desc := "()I" } : Jvm.MethodName) ({ cls := "PatchCordsModel", name := "mode", desc := "()I" } : Jvm.MethodName)) ∈ lw_all := lw_g (lw_at lw_m9 108 rfl) rfl
theorem q2129 : (Jvm.Cond.code ({ cls := "PatchCordsModel", name := "mode", desc := "()I" } : Jvm.MethodName) prog_17_method_69_code (1 : Nat) (Option.some Jvm.ClassFile.FieldType.int)) ∈ lw_all := lw_g (lw_at lw_m9 109 rfl) rfl
theorem q2131 : (Jvm.Cond.instanceMethod ({ cls := "PatchCordsModel", name := "way", desc := "()I" } : Jvm.MethodName)) ∈ lw_all := lw_g (lw_at lw_m9 111 rfl) rfl
theorem q2132 : (Jvm.Cond.selects "PatchCordsModel" ({ cls := "PatchCordsModel", name := "way", desc := "()I" } : Jvm.MethodName) ({ cls := "PatchCordsModel", name := "way", desc := "()I" } : Jvm.MethodName)) ∈ lw_all := lw_g (lw_at lw_m9 112 rfl) rfl
theorem q2133 : (Jvm.Cond.code ({ cls := "PatchCordsModel", name := "way", desc := "()I" } : Jvm.MethodName) prog_17_method_70_code (1 : Nat) (Option.some Jvm.ClassFile.FieldType.int)) ∈ lw_all := lw_g (lw_at lw_m9 113 rfl) rfl
theorem q2135 : (Jvm.Cond.instanceMethod ({ cls := "PatchCordsModel", name := "isGuarded", desc := "()Z" } : Jvm.MethodName)) ∈ lw_all := lw_g (lw_at lw_m9 115 rfl) rfl
theorem q2136 : (Jvm.Cond.selects "PatchCordsModel" ({ cls := "PatchCordsModel", name := "isGuarded", desc := "()Z" } : Jvm.MethodName) ({ cls := "PatchCordsModel", name := "isGuarded", desc := "()Z" } : Jvm.MethodName)) ∈ lw_all := lw_g (lw_at lw_m9 116 rfl) rfl
theorem q2137 : (Jvm.Cond.code ({ cls := "PatchCordsModel", name := "isGuarded", desc := "()Z" } : Jvm.MethodName) prog_17_method_71_code (1 : Nat) (Option.some Jvm.ClassFile.FieldType.boolean)) ∈ lw_all := lw_g (lw_at lw_m9 117 rfl) rfl
theorem q2139 : (Jvm.Cond.instanceMethod ({ cls := "PatchCordsModel", name := "steps", desc := "()I" } : Jvm.MethodName)) ∈ lw_all := lw_g (lw_at lw_m9 119 rfl) rfl
theorem q2140 : (Jvm.Cond.selects "PatchCordsModel" ({ cls := "PatchCordsModel", name := "steps", desc := "()I" } : Jvm.MethodName) ({ cls := "PatchCordsModel", name := "steps", desc := "()I" } : Jvm.MethodName)) ∈ lw_all := lw_g (lw_at lw_m9 120 rfl) rfl
theorem q2141 : (Jvm.Cond.code ({ cls := "PatchCordsModel", name := "steps", desc := "()I" } : Jvm.MethodName) prog_17_method_72_code (1 : Nat) (Option.some Jvm.ClassFile.FieldType.int)) ∈ lw_all := lw_g (lw_at lw_m9 121 rfl) rfl
theorem q2143 : (Jvm.Cond.instanceMethod ({ cls := "PatchCordsModel", name := "outputOf", desc := "(I)I" } : Jvm.MethodName)) ∈ lw_all := lw_g (lw_at lw_m9 123 rfl) rfl
theorem q2144 : (Jvm.Cond.selects "PatchCordsModel" ({ cls := "PatchCordsModel", name := "outputOf", desc := "(I)I" } : Jvm.MethodName) ({ cls := "PatchCordsModel", name := "outputOf", desc := "(I)I" } : Jvm.MethodName)) ∈ lw_all := lw_g (lw_at lw_m9 124 rfl) rfl
theorem q2145 : (Jvm.Cond.code ({ cls := "PatchCordsModel", name := "outputOf", desc := "(I)I" } : Jvm.MethodName) prog_17_method_74_code (2 : Nat) (Option.some Jvm.ClassFile.FieldType.int)) ∈ lw_all := lw_g (lw_at lw_m9 125 rfl) rfl
theorem q2146 : (Jvm.Cond.methodLink "PatchCordsModel" (193 : Nat) ({ cls := "PatchCordsModel", name := "output", desc := "(I)I" } : Jvm.MethodName)) ∈ lw_all := lw_g (lw_at lw_m9 126 rfl) rfl
theorem q2147 : (Jvm.Cond.privateMethod ({ cls := "PatchCordsModel", name := "output", desc := "(I)I" } : Jvm.MethodName)) ∈ lw_tbl := lw_at lw_m9 127 rfl
theorem q2148 : (Jvm.Cond.instanceMethod ({ cls := "PatchCordsModel", name := "output", desc := "(I)I" } : Jvm.MethodName)) ∈ lw_all := lw_g (lw_at lw_m9 128 rfl) rfl
theorem q2149 : (Jvm.Cond.code ({ cls := "PatchCordsModel", name := "output", desc := "(I)I" } : Jvm.MethodName) prog_17_method_73_code (2 : Nat) (Option.some Jvm.ClassFile.FieldType.int)) ∈ lw_all := lw_g (lw_at lw_m9 129 rfl) rfl
theorem q2151 : (Jvm.Cond.instanceMethod ({ cls := "PatchCordsModel", name := "outputByAsking", desc := "(I)I" } : Jvm.MethodName)) ∈ lw_all := lw_g (lw_at lw_m9 131 rfl) rfl
theorem q2152 : (Jvm.Cond.selects "PatchCordsModel" ({ cls := "PatchCordsModel", name := "outputByAsking", desc := "(I)I" } : Jvm.MethodName) ({ cls := "PatchCordsModel", name := "outputByAsking", desc := "(I)I" } : Jvm.MethodName)) ∈ lw_all := lw_g (lw_at lw_m9 132 rfl) rfl
theorem q2153 : (Jvm.Cond.code ({ cls := "PatchCordsModel", name := "outputByAsking", desc := "(I)I" } : Jvm.MethodName) prog_17_method_75_code (2 : Nat) (Option.some Jvm.ClassFile.FieldType.int)) ∈ lw_all := lw_g (lw_at lw_m9 133 rfl) rfl
theorem q2155 : (Jvm.Cond.instanceMethod ({ cls := "PatchCordsModel", name := "inputOf", desc := "(II)I" } : Jvm.MethodName)) ∈ lw_all := lw_g (lw_at lw_m9 135 rfl) rfl
theorem q2156 : (Jvm.Cond.selects "PatchCordsModel" ({ cls := "PatchCordsModel", name := "inputOf", desc := "(II)I" } : Jvm.MethodName) ({ cls := "PatchCordsModel", name := "inputOf", desc := "(II)I" } : Jvm.MethodName)) ∈ lw_all := lw_g (lw_at lw_m9 136 rfl) rfl
theorem q2157 : (Jvm.Cond.code ({ cls := "PatchCordsModel", name := "inputOf", desc := "(II)I" } : Jvm.MethodName) prog_17_method_77_code (3 : Nat) (Option.some Jvm.ClassFile.FieldType.int)) ∈ lw_all := lw_g (lw_at lw_m9 137 rfl) rfl
theorem q2158 : (Jvm.Cond.methodLink "PatchCordsModel" (196 : Nat) ({ cls := "PatchCordsModel", name := "inputNow", desc := "(II)I" } : Jvm.MethodName)) ∈ lw_all := lw_g (lw_at lw_m9 138 rfl) rfl
theorem q2159 : (Jvm.Cond.privateMethod ({ cls := "PatchCordsModel", name := "inputNow", desc := "(II)I" } : Jvm.MethodName)) ∈ lw_tbl := lw_at lw_m9 139 rfl
theorem q2160 : (Jvm.Cond.instanceMethod ({ cls := "PatchCordsModel", name := "inputNow", desc := "(II)I" } : Jvm.MethodName)) ∈ lw_all := lw_g (lw_at lw_m9 140 rfl) rfl
theorem q2161 : (Jvm.Cond.code ({ cls := "PatchCordsModel", name := "inputNow", desc := "(II)I" } : Jvm.MethodName) prog_17_method_76_code (3 : Nat) (Option.some Jvm.ClassFile.FieldType.int)) ∈ lw_all := lw_g (lw_at lw_m9 141 rfl) rfl
theorem q2163 : (Jvm.Cond.instanceMethod ({ cls := "PatchCordsModel", name := "chargeOf", desc := "(I)I" } : Jvm.MethodName)) ∈ lw_all := lw_g (lw_at lw_m9 143 rfl) rfl
theorem q2164 : (Jvm.Cond.selects "PatchCordsModel" ({ cls := "PatchCordsModel", name := "chargeOf", desc := "(I)I" } : Jvm.MethodName) ({ cls := "PatchCordsModel", name := "chargeOf", desc := "(I)I" } : Jvm.MethodName)) ∈ lw_all := lw_g (lw_at lw_m9 144 rfl) rfl
theorem q2165 : (Jvm.Cond.code ({ cls := "PatchCordsModel", name := "chargeOf", desc := "(I)I" } : Jvm.MethodName) prog_17_method_78_code (2 : Nat) (Option.some Jvm.ClassFile.FieldType.int)) ∈ lw_all := lw_g (lw_at lw_m9 145 rfl) rfl
theorem q2167 : (Jvm.Cond.instanceMethod ({ cls := "PatchCordsModel", name := "rateOf", desc := "(I)I" } : Jvm.MethodName)) ∈ lw_all := lw_g (lw_at lw_m9 147 rfl) rfl
theorem q2168 : (Jvm.Cond.selects "PatchCordsModel" ({ cls := "PatchCordsModel", name := "rateOf", desc := "(I)I" } : Jvm.MethodName) ({ cls := "PatchCordsModel", name := "rateOf", desc := "(I)I" } : Jvm.MethodName)) ∈ lw_all := lw_g (lw_at lw_m9 148 rfl) rfl
theorem q2169 : (Jvm.Cond.code ({ cls := "PatchCordsModel", name := "rateOf", desc := "(I)I" } : Jvm.MethodName) prog_17_method_80_code (2 : Nat) (Option.some Jvm.ClassFile.FieldType.int)) ∈ lw_all := lw_g (lw_at lw_m9 149 rfl) rfl
theorem q2170 : (Jvm.Cond.methodLink "PatchCordsModel" (199 : Nat) ({ cls := "PatchCordsModel", name := "rateNow", desc := "(I)I" } : Jvm.MethodName)) ∈ lw_all := lw_g (lw_at lw_m9 150 rfl) rfl
theorem q2171 : (Jvm.Cond.privateMethod ({ cls := "PatchCordsModel", name := "rateNow", desc := "(I)I" } : Jvm.MethodName)) ∈ lw_tbl := lw_at lw_m9 151 rfl
theorem q2172 : (Jvm.Cond.instanceMethod ({ cls := "PatchCordsModel", name := "rateNow", desc := "(I)I" } : Jvm.MethodName)) ∈ lw_all := lw_g (lw_at lw_m9 152 rfl) rfl
theorem q2173 : (Jvm.Cond.code ({ cls := "PatchCordsModel", name := "rateNow", desc := "(I)I" } : Jvm.MethodName) prog_17_method_79_code (2 : Nat) (Option.some Jvm.ClassFile.FieldType.int)) ∈ lw_all := lw_g (lw_at lw_m9 153 rfl) rfl
theorem q2175 : (Jvm.Cond.instanceMethod ({ cls := "PatchCordsModel", name := "overloaded", desc := "()I" } : Jvm.MethodName)) ∈ lw_all := lw_g (lw_at lw_m9 155 rfl) rfl
theorem q2176 : (Jvm.Cond.selects "PatchCordsModel" ({ cls := "PatchCordsModel", name := "overloaded", desc := "()I" } : Jvm.MethodName) ({ cls := "PatchCordsModel", name := "overloaded", desc := "()I" } : Jvm.MethodName)) ∈ lw_all := lw_g (lw_at lw_m9 156 rfl) rfl
theorem q2177 : (Jvm.Cond.code ({ cls := "PatchCordsModel", name := "overloaded", desc := "()I" } : Jvm.MethodName) prog_17_method_82_code (1 : Nat) (Option.some Jvm.ClassFile.FieldType.int)) ∈ lw_all := lw_g (lw_at lw_m9 157 rfl) rfl
theorem q2178 : (Jvm.Cond.methodLink "PatchCordsModel" (202 : Nat) ({ cls := "PatchCordsModel", name := "overNow", desc := "()I" } : Jvm.MethodName)) ∈ lw_all := lw_g (lw_at lw_m9 158 rfl) rfl
theorem q2179 : (Jvm.Cond.privateMethod ({ cls := "PatchCordsModel", name := "overNow", desc := "()I" } : Jvm.MethodName)) ∈ lw_tbl := lw_at lw_m9 159 rfl
theorem q2180 : (Jvm.Cond.instanceMethod ({ cls := "PatchCordsModel", name := "overNow", desc := "()I" } : Jvm.MethodName)) ∈ lw_all := lw_g (lw_at lw_m9 160 rfl) rfl
theorem q2181 : (Jvm.Cond.code ({ cls := "PatchCordsModel", name := "overNow", desc := "()I" } : Jvm.MethodName) prog_17_method_81_code (1 : Nat) (Option.some Jvm.ClassFile.FieldType.int)) ∈ lw_all := lw_g (lw_at lw_m9 161 rfl) rfl
theorem q2183 : (Jvm.Cond.instanceMethod ({ cls := "PatchCordsModel", name := "peakOf", desc := "(I)I" } : Jvm.MethodName)) ∈ lw_all := lw_g (lw_at lw_m9 163 rfl) rfl
theorem q2184 : (Jvm.Cond.selects "PatchCordsModel" ({ cls := "PatchCordsModel", name := "peakOf", desc := "(I)I" } : Jvm.MethodName) ({ cls := "PatchCordsModel", name := "peakOf", desc := "(I)I" } : Jvm.MethodName)) ∈ lw_all := lw_g (lw_at lw_m9 164 rfl) rfl
theorem q2185 : (Jvm.Cond.code ({ cls := "PatchCordsModel", name := "peakOf", desc := "(I)I" } : Jvm.MethodName) prog_17_method_83_code (2 : Nat) (Option.some Jvm.ClassFile.FieldType.int)) ∈ lw_all := lw_g (lw_at lw_m9 165 rfl) rfl
theorem q2187 : (Jvm.Cond.instanceMethod ({ cls := "PatchCordsModel", name := "scaleOf", desc := "(I)I" } : Jvm.MethodName)) ∈ lw_all := lw_g (lw_at lw_m9 167 rfl) rfl
theorem q2188 : (Jvm.Cond.selects "PatchCordsModel" ({ cls := "PatchCordsModel", name := "scaleOf", desc := "(I)I" } : Jvm.MethodName) ({ cls := "PatchCordsModel", name := "scaleOf", desc := "(I)I" } : Jvm.MethodName)) ∈ lw_all := lw_g (lw_at lw_m9 168 rfl) rfl
theorem q2189 : (Jvm.Cond.code ({ cls := "PatchCordsModel", name := "scaleOf", desc := "(I)I" } : Jvm.MethodName) prog_17_method_85_code (2 : Nat) (Option.some Jvm.ClassFile.FieldType.int)) ∈ lw_all := lw_g (lw_at lw_m9 169 rfl) rfl
theorem q2190 : (Jvm.Cond.methodLink "PatchCordsModel" (205 : Nat) ({ cls := "PatchCordsModel", name := "scale", desc := "(I)I" } : Jvm.MethodName)) ∈ lw_all := lw_g (lw_at lw_m9 170 rfl) rfl
theorem q2191 : (Jvm.Cond.privateMethod ({ cls := "PatchCordsModel", name := "scale", desc := "(I)I" } : Jvm.MethodName)) ∈ lw_tbl := lw_at lw_m9 171 rfl
theorem q2192 : (Jvm.Cond.instanceMethod ({ cls := "PatchCordsModel", name := "scale", desc := "(I)I" } : Jvm.MethodName)) ∈ lw_all := lw_g (lw_at lw_m9 172 rfl) rfl
theorem q2193 : (Jvm.Cond.code ({ cls := "PatchCordsModel", name := "scale", desc := "(I)I" } : Jvm.MethodName) prog_17_method_84_code (2 : Nat) (Option.some Jvm.ClassFile.FieldType.int)) ∈ lw_all := lw_g (lw_at lw_m9 173 rfl) rfl
theorem q2195 : (Jvm.Cond.instanceMethod ({ cls := "PatchCordsModel", name := "levelOf", desc := "(I)I" } : Jvm.MethodName)) ∈ lw_all := lw_g (lw_at lw_m9 175 rfl) rfl
theorem q2196 : (Jvm.Cond.selects "PatchCordsModel" ({ cls := "PatchCordsModel", name := "levelOf", desc := "(I)I" } : Jvm.MethodName) ({ cls := "PatchCordsModel", name := "levelOf", desc := "(I)I" } : Jvm.MethodName)) ∈ lw_all := lw_g (lw_at lw_m9 176 rfl) rfl
theorem q2197 : (Jvm.Cond.code ({ cls := "PatchCordsModel", name := "levelOf", desc := "(I)I" } : Jvm.MethodName) prog_17_method_87_code (2 : Nat) (Option.some Jvm.ClassFile.FieldType.int)) ∈ lw_all := lw_g (lw_at lw_m9 177 rfl) rfl
theorem q2198 : (Jvm.Cond.methodLink "PatchCordsModel" (208 : Nat) ({ cls := "PatchCordsModel", name := "level", desc := "(I)I" } : Jvm.MethodName)) ∈ lw_all := lw_g (lw_at lw_m9 178 rfl) rfl
theorem q2199 : (Jvm.Cond.privateMethod ({ cls := "PatchCordsModel", name := "level", desc := "(I)I" } : Jvm.MethodName)) ∈ lw_tbl := lw_at lw_m9 179 rfl
theorem q2200 : (Jvm.Cond.instanceMethod ({ cls := "PatchCordsModel", name := "level", desc := "(I)I" } : Jvm.MethodName)) ∈ lw_all := lw_g (lw_at lw_m9 180 rfl) rfl
theorem q2201 : (Jvm.Cond.code ({ cls := "PatchCordsModel", name := "level", desc := "(I)I" } : Jvm.MethodName) prog_17_method_86_code (2 : Nat) (Option.some Jvm.ClassFile.FieldType.int)) ∈ lw_all := lw_g (lw_at lw_m9 181 rfl) rfl
theorem q2203 : (Jvm.Cond.instanceMethod ({ cls := "PatchCordsModel", name := "feeders", desc := "(I)I" } : Jvm.MethodName)) ∈ lw_all := lw_g (lw_at lw_m9 183 rfl) rfl
theorem q2204 : (Jvm.Cond.selects "PatchCordsModel" ({ cls := "PatchCordsModel", name := "feeders", desc := "(I)I" } : Jvm.MethodName) ({ cls := "PatchCordsModel", name := "feeders", desc := "(I)I" } : Jvm.MethodName)) ∈ lw_all := lw_g (lw_at lw_m9 184 rfl) rfl
theorem q2205 : (Jvm.Cond.code ({ cls := "PatchCordsModel", name := "feeders", desc := "(I)I" } : Jvm.MethodName) prog_17_method_88_code (2 : Nat) (Option.some Jvm.ClassFile.FieldType.int)) ∈ lw_all := lw_g (lw_at lw_m9 185 rfl) rfl
theorem q2207 : (Jvm.Cond.instanceMethod ({ cls := "PatchCordsModel", name := "dependsOn", desc := "(I)I" } : Jvm.MethodName)) ∈ lw_all := lw_g (lw_at lw_m9 187 rfl) rfl
theorem q2208 : (Jvm.Cond.selects "PatchCordsModel" ({ cls := "PatchCordsModel", name := "dependsOn", desc := "(I)I" } : Jvm.MethodName) ({ cls := "PatchCordsModel", name := "dependsOn", desc := "(I)I" } : Jvm.MethodName)) ∈ lw_all := lw_g (lw_at lw_m9 188 rfl) rfl
theorem q2209 : (Jvm.Cond.code ({ cls := "PatchCordsModel", name := "dependsOn", desc := "(I)I" } : Jvm.MethodName) prog_17_method_89_code (2 : Nat) (Option.some Jvm.ClassFile.FieldType.int)) ∈ lw_all := lw_g (lw_at lw_m9 189 rfl) rfl
theorem q2211 : (Jvm.Cond.instanceMethod ({ cls := "PatchCordsModel", name := "dependsByTable", desc := "(I)I" } : Jvm.MethodName)) ∈ lw_all := lw_g (lw_at lw_m9 191 rfl) rfl
theorem q2212 : (Jvm.Cond.selects "PatchCordsModel" ({ cls := "PatchCordsModel", name := "dependsByTable", desc := "(I)I" } : Jvm.MethodName) ({ cls := "PatchCordsModel", name := "dependsByTable", desc := "(I)I" } : Jvm.MethodName)) ∈ lw_all := lw_g (lw_at lw_m9 192 rfl) rfl
theorem q2213 : (Jvm.Cond.code ({ cls := "PatchCordsModel", name := "dependsByTable", desc := "(I)I" } : Jvm.MethodName) prog_17_method_90_code (2 : Nat) (Option.some Jvm.ClassFile.FieldType.int)) ∈ lw_all := lw_g (lw_at lw_m9 193 rfl) rfl
theorem q2215 : (Jvm.Cond.instanceMethod ({ cls := "PatchCordsModel", name := "inCircles", desc := "()I" } : Jvm.MethodName)) ∈ lw_all := lw_g (lw_at lw_m9 195 rfl) rfl
theorem q2216 : (Jvm.Cond.selects "PatchCordsModel" ({ cls := "PatchCordsModel", name := "inCircles", desc := "()I" } : Jvm.MethodName) ({ cls := "PatchCordsModel", name := "inCircles", desc := "()I" } : Jvm.MethodName)) ∈ lw_all := lw_g (lw_at lw_m9 196 rfl) rfl
theorem q2217 : (Jvm.Cond.code ({ cls := "PatchCordsModel", name := "inCircles", desc := "()I" } : Jvm.MethodName) prog_17_method_92_code (1 : Nat) (Option.some Jvm.ClassFile.FieldType.int)) ∈ lw_all := lw_g (lw_at lw_m9 197 rfl) rfl
theorem q2218 : (Jvm.Cond.methodLink "PatchCordsModel" (211 : Nat) ({ cls := "PatchCordsModel", name := "circling", desc := "()I" } : Jvm.MethodName)) ∈ lw_all := lw_g (lw_at lw_m9 198 rfl) rfl
theorem q2219 : (Jvm.Cond.privateMethod ({ cls := "PatchCordsModel", name := "circling", desc := "()I" } : Jvm.MethodName)) ∈ lw_tbl := lw_at lw_m9 199 rfl
theorem q2220 : (Jvm.Cond.instanceMethod ({ cls := "PatchCordsModel", name := "circling", desc := "()I" } : Jvm.MethodName)) ∈ lw_all := lw_g (lw_at lw_m9 200 rfl) rfl
theorem q2221 : (Jvm.Cond.code ({ cls := "PatchCordsModel", name := "circling", desc := "()I" } : Jvm.MethodName) prog_17_method_91_code (3 : Nat) (Option.some Jvm.ClassFile.FieldType.int)) ∈ lw_all := lw_g (lw_at lw_m9 201 rfl) rfl
theorem q2223 : (Jvm.Cond.instanceMethod ({ cls := "PatchCordsModel", name := "ends", desc := "()I" } : Jvm.MethodName)) ∈ lw_all := lw_g (lw_at lw_m9 203 rfl) rfl
theorem q2224 : (Jvm.Cond.selects "PatchCordsModel" ({ cls := "PatchCordsModel", name := "ends", desc := "()I" } : Jvm.MethodName) ({ cls := "PatchCordsModel", name := "ends", desc := "()I" } : Jvm.MethodName)) ∈ lw_all := lw_g (lw_at lw_m9 204 rfl) rfl
theorem q2225 : (Jvm.Cond.code ({ cls := "PatchCordsModel", name := "ends", desc := "()I" } : Jvm.MethodName) prog_17_method_94_code (1 : Nat) (Option.some Jvm.ClassFile.FieldType.int)) ∈ lw_all := lw_g (lw_at lw_m9 205 rfl) rfl
theorem q2226 : (Jvm.Cond.methodLink "PatchCordsModel" (214 : Nat) ({ cls := "PatchCordsModel", name := "endSet", desc := "()I" } : Jvm.MethodName)) ∈ lw_all := lw_g (lw_at lw_m9 206 rfl) rfl
theorem q2227 : (Jvm.Cond.privateMethod ({ cls := "PatchCordsModel", name := "endSet", desc := "()I" } : Jvm.MethodName)) ∈ lw_tbl := lw_at lw_m9 207 rfl
theorem q2228 : (Jvm.Cond.instanceMethod ({ cls := "PatchCordsModel", name := "endSet", desc := "()I" } : Jvm.MethodName)) ∈ lw_all := lw_g (lw_at lw_m9 208 rfl) rfl
theorem q2229 : (Jvm.Cond.code ({ cls := "PatchCordsModel", name := "endSet", desc := "()I" } : Jvm.MethodName) prog_17_method_93_code (3 : Nat) (Option.some Jvm.ClassFile.FieldType.int)) ∈ lw_all := lw_g (lw_at lw_m9 209 rfl) rfl
theorem q2231 : (Jvm.Cond.instanceMethod ({ cls := "PatchCordsModel", name := "recorded", desc := "()I" } : Jvm.MethodName)) ∈ lw_all := lw_g (lw_at lw_m9 211 rfl) rfl
theorem q2232 : (Jvm.Cond.selects "PatchCordsModel" ({ cls := "PatchCordsModel", name := "recorded", desc := "()I" } : Jvm.MethodName) ({ cls := "PatchCordsModel", name := "recorded", desc := "()I" } : Jvm.MethodName)) ∈ lw_all := lw_g (lw_at lw_m9 212 rfl) rfl
theorem q2233 : (Jvm.Cond.code ({ cls := "PatchCordsModel", name := "recorded", desc := "()I" } : Jvm.MethodName) prog_17_method_95_code (1 : Nat) (Option.some Jvm.ClassFile.FieldType.int)) ∈ lw_all := lw_g (lw_at lw_m9 213 rfl) rfl
theorem q2235 : (Jvm.Cond.instanceMethod ({ cls := "PatchCordsModel", name := "records", desc := "()I" } : Jvm.MethodName)) ∈ lw_all := lw_g (lw_at lw_m9 215 rfl) rfl
theorem q2236 : (Jvm.Cond.selects "PatchCordsModel" ({ cls := "PatchCordsModel", name := "records", desc := "()I" } : Jvm.MethodName) ({ cls := "PatchCordsModel", name := "records", desc := "()I" } : Jvm.MethodName)) ∈ lw_all := lw_g (lw_at lw_m9 216 rfl) rfl
theorem q2237 : (Jvm.Cond.code ({ cls := "PatchCordsModel", name := "records", desc := "()I" } : Jvm.MethodName) prog_17_method_96_code (1 : Nat) (Option.some Jvm.ClassFile.FieldType.int)) ∈ lw_all := lw_g (lw_at lw_m9 217 rfl) rfl
theorem q2239 : (Jvm.Cond.instanceMethod ({ cls := "PatchCordsModel", name := "recordAt", desc := "(I)I" } : Jvm.MethodName)) ∈ lw_all := lw_g (lw_at lw_m9 219 rfl) rfl
theorem q2240 : (Jvm.Cond.selects "PatchCordsModel" ({ cls := "PatchCordsModel", name := "recordAt", desc := "(I)I" } : Jvm.MethodName) ({ cls := "PatchCordsModel", name := "recordAt", desc := "(I)I" } : Jvm.MethodName)) ∈ lw_all := lw_g (lw_at lw_m9 220 rfl) rfl
theorem q2241 : (Jvm.Cond.code ({ cls := "PatchCordsModel", name := "recordAt", desc := "(I)I" } : Jvm.MethodName) prog_17_method_97_code (2 : Nat) (Option.some Jvm.ClassFile.FieldType.int)) ∈ lw_all := lw_g (lw_at lw_m9 221 rfl) rfl
theorem q2243 : (Jvm.Cond.instanceMethod ({ cls := "PatchCordsModel", name := "crossings", desc := "()I" } : Jvm.MethodName)) ∈ lw_all := lw_g (lw_at lw_m9 223 rfl) rfl
theorem q2244 : (Jvm.Cond.selects "PatchCordsModel" ({ cls := "PatchCordsModel", name := "crossings", desc := "()I" } : Jvm.MethodName) ({ cls := "PatchCordsModel", name := "crossings", desc := "()I" } : Jvm.MethodName)) ∈ lw_all := lw_g (lw_at lw_m9 224 rfl) rfl
theorem q2245 : (Jvm.Cond.code ({ cls := "PatchCordsModel", name := "crossings", desc := "()I" } : Jvm.MethodName) prog_17_method_98_code (1 : Nat) (Option.some Jvm.ClassFile.FieldType.int)) ∈ lw_all := lw_g (lw_at lw_m9 225 rfl) rfl
theorem q2247 : (Jvm.Cond.instanceMethod ({ cls := "PatchCordsModel", name := "beat", desc := "()I" } : Jvm.MethodName)) ∈ lw_all := lw_g (lw_at lw_m9 227 rfl) rfl
theorem q2248 : (Jvm.Cond.selects "PatchCordsModel" ({ cls := "PatchCordsModel", name := "beat", desc := "()I" } : Jvm.MethodName) ({ cls := "PatchCordsModel", name := "beat", desc := "()I" } : Jvm.MethodName)) ∈ lw_all := lw_g (lw_at lw_m9 228 rfl) rfl
theorem q2249 : (Jvm.Cond.code ({ cls := "PatchCordsModel", name := "beat", desc := "()I" } : Jvm.MethodName) prog_17_method_99_code (1 : Nat) (Option.some Jvm.ClassFile.FieldType.int)) ∈ lw_all := lw_g (lw_at lw_m9 229 rfl) rfl
theorem q2251 : (Jvm.Cond.instanceMethod ({ cls := "PatchCordsModel", name := "meanRecord", desc := "()D" } : Jvm.MethodName)) ∈ lw_all := lw_g (lw_at lw_m9 231 rfl) rfl
theorem q2252 : (Jvm.Cond.selects "PatchCordsModel" ({ cls := "PatchCordsModel", name := "meanRecord", desc := "()D" } : Jvm.MethodName) ({ cls := "PatchCordsModel", name := "meanRecord", desc := "()D" } : Jvm.MethodName)) ∈ lw_all := lw_g (lw_at lw_m9 232 rfl) rfl
theorem q2253 : (Jvm.Cond.code ({ cls := "PatchCordsModel", name := "meanRecord", desc := "()D" } : Jvm.MethodName) prog_17_method_101_code (1 : Nat) (Option.some Jvm.ClassFile.FieldType.double)) ∈ lw_all := lw_g (lw_at lw_m9 233 rfl) rfl
theorem q2254 : (Jvm.Cond.methodLink "PatchCordsModel" (217 : Nat) ({ cls := "PatchCordsModel", name := "mean", desc := "()D" } : Jvm.MethodName)) ∈ lw_all := lw_g (lw_at lw_m9 234 rfl) rfl
theorem q2255 : (Jvm.Cond.privateMethod ({ cls := "PatchCordsModel", name := "mean", desc := "()D" } : Jvm.MethodName)) ∈ lw_tbl := lw_at lw_m9 235 rfl
theorem q2256 : (Jvm.Cond.instanceMethod ({ cls := "PatchCordsModel", name := "mean", desc := "()D" } : Jvm.MethodName)) ∈ lw_all := lw_g (lw_at lw_m9 236 rfl) rfl
theorem q2257 : (Jvm.Cond.code ({ cls := "PatchCordsModel", name := "mean", desc := "()D" } : Jvm.MethodName) prog_17_method_100_code (3 : Nat) (Option.some Jvm.ClassFile.FieldType.double)) ∈ lw_all := lw_g (lw_at lw_m9 237 rfl) rfl
theorem q2259 : (Jvm.Cond.instanceMethod ({ cls := "PatchCordsModel", name := "wouldCircle", desc := "(II)Z" } : Jvm.MethodName)) ∈ lw_all := lw_g (lw_at lw_m9 239 rfl) rfl
theorem q2260 : (Jvm.Cond.selects "PatchCordsModel" ({ cls := "PatchCordsModel", name := "wouldCircle", desc := "(II)Z" } : Jvm.MethodName) ({ cls := "PatchCordsModel", name := "wouldCircle", desc := "(II)Z" } : Jvm.MethodName)) ∈ lw_all := lw_g (lw_at lw_m10 0 rfl) rfl
theorem q2261 : (Jvm.Cond.code ({ cls := "PatchCordsModel", name := "wouldCircle", desc := "(II)Z" } : Jvm.MethodName) prog_17_method_102_code (3 : Nat) (Option.some Jvm.ClassFile.FieldType.boolean)) ∈ lw_all := lw_g (lw_at lw_m10 1 rfl) rfl
theorem q2263 : (Jvm.Cond.instanceMethod ({ cls := "PatchCordsModel", name := "outputIn", desc := "(II)I" } : Jvm.MethodName)) ∈ lw_all := lw_g (lw_at lw_m10 3 rfl) rfl
theorem q2264 : (Jvm.Cond.selects "PatchCordsModel" ({ cls := "PatchCordsModel", name := "outputIn", desc := "(II)I" } : Jvm.MethodName) ({ cls := "PatchCordsModel", name := "outputIn", desc := "(II)I" } : Jvm.MethodName)) ∈ lw_all := lw_g (lw_at lw_m10 4 rfl) rfl
theorem q2265 : (Jvm.Cond.code ({ cls := "PatchCordsModel", name := "outputIn", desc := "(II)I" } : Jvm.MethodName) prog_17_method_104_code (3 : Nat) (Option.some Jvm.ClassFile.FieldType.int)) ∈ lw_all := lw_g (lw_at lw_m10 5 rfl) rfl
theorem q2266 : (Jvm.Cond.methodLink "PatchCordsModel" (227 : Nat) ({ cls := "PatchCordsModel", name := "outputThen", desc := "(II)I" } : Jvm.MethodName)) ∈ lw_all := lw_g (lw_at lw_m10 6 rfl) rfl
theorem q2267 : (Jvm.Cond.privateMethod ({ cls := "PatchCordsModel", name := "outputThen", desc := "(II)I" } : Jvm.MethodName)) ∈ lw_tbl := lw_at lw_m10 7 rfl
theorem q2268 : (Jvm.Cond.instanceMethod ({ cls := "PatchCordsModel", name := "outputThen", desc := "(II)I" } : Jvm.MethodName)) ∈ lw_all := lw_g (lw_at lw_m10 8 rfl) rfl
theorem q2269 : (Jvm.Cond.code ({ cls := "PatchCordsModel", name := "outputThen", desc := "(II)I" } : Jvm.MethodName) prog_17_method_103_code (4 : Nat) (Option.some Jvm.ClassFile.FieldType.int)) ∈ lw_all := lw_g (lw_at lw_m10 9 rfl) rfl
theorem q2270 : (Jvm.Cond.methodLink "PatchCordsModel" (221 : Nat) ({ cls := "PatchCordsModel", name := "keeps", desc := "()V" } : Jvm.MethodName)) ∈ lw_all := lw_g (lw_at lw_m10 10 rfl) rfl
theorem q2271 : (Jvm.Cond.privateMethod ({ cls := "PatchCordsModel", name := "keeps", desc := "()V" } : Jvm.MethodName)) ∈ lw_tbl := lw_at lw_m10 11 rfl
theorem q2272 : (Jvm.Cond.instanceMethod ({ cls := "PatchCordsModel", name := "keeps", desc := "()V" } : Jvm.MethodName)) ∈ lw_all := lw_g (lw_at lw_m10 12 rfl) rfl
theorem q2273 : (Jvm.Cond.code ({ cls := "PatchCordsModel", name := "keeps", desc := "()V" } : Jvm.MethodName) prog_17_method_8_code (2 : Nat) (Option.none : Option Jvm.ClassFile.FieldType)) ∈ lw_all := lw_g (lw_at lw_m10 13 rfl) rfl
theorem q2274 : (Jvm.Cond.methodLink "PatchCordsModel" (224 : Nat) ({ cls := "PatchCordsModel", name := "returns", desc := "()V" } : Jvm.MethodName)) ∈ lw_all := lw_g (lw_at lw_m10 14 rfl) rfl
theorem q2275 : (Jvm.Cond.privateMethod ({ cls := "PatchCordsModel", name := "returns", desc := "()V" } : Jvm.MethodName)) ∈ lw_tbl := lw_at lw_m10 15 rfl
theorem q2276 : (Jvm.Cond.instanceMethod ({ cls := "PatchCordsModel", name := "returns", desc := "()V" } : Jvm.MethodName)) ∈ lw_all := lw_g (lw_at lw_m10 16 rfl) rfl
theorem q2277 : (Jvm.Cond.code ({ cls := "PatchCordsModel", name := "returns", desc := "()V" } : Jvm.MethodName) prog_17_method_9_code (2 : Nat) (Option.none : Option Jvm.ClassFile.FieldType)) ∈ lw_all := lw_g (lw_at lw_m10 17 rfl) rfl
theorem q2279 : (Jvm.Cond.instanceMethod ({ cls := "PatchCordsModel", name := "stepsUntilOverload", desc := "()I" } : Jvm.MethodName)) ∈ lw_all := lw_g (lw_at lw_m10 19 rfl) rfl
theorem q2280 : (Jvm.Cond.selects "PatchCordsModel" ({ cls := "PatchCordsModel", name := "stepsUntilOverload", desc := "()I" } : Jvm.MethodName) ({ cls := "PatchCordsModel", name := "stepsUntilOverload", desc := "()I" } : Jvm.MethodName)) ∈ lw_all := lw_g (lw_at lw_m10 20 rfl) rfl
theorem q2281 : (Jvm.Cond.code ({ cls := "PatchCordsModel", name := "stepsUntilOverload", desc := "()I" } : Jvm.MethodName) prog_17_method_106_code (1 : Nat) (Option.some Jvm.ClassFile.FieldType.int)) ∈ lw_all := lw_g (lw_at lw_m10 21 rfl) rfl
theorem q2282 : (Jvm.Cond.methodLink "PatchCordsModel" (230 : Nat) ({ cls := "PatchCordsModel", name := "untilOver", desc := "()I" } : Jvm.MethodName)) ∈ lw_all := lw_g (lw_at lw_m10 22 rfl) rfl
theorem q2283 : (Jvm.Cond.privateMethod ({ cls := "PatchCordsModel", name := "untilOver", desc := "()I" } : Jvm.MethodName)) ∈ lw_tbl := lw_at lw_m10 23 rfl
theorem q2284 : (Jvm.Cond.instanceMethod ({ cls := "PatchCordsModel", name := "untilOver", desc := "()I" } : Jvm.MethodName)) ∈ lw_all := lw_g (lw_at lw_m10 24 rfl) rfl
theorem q2285 : (Jvm.Cond.code ({ cls := "PatchCordsModel", name := "untilOver", desc := "()I" } : Jvm.MethodName) prog_17_method_105_code (3 : Nat) (Option.some Jvm.ClassFile.FieldType.int)) ∈ lw_all := lw_g (lw_at lw_m10 25 rfl) rfl
theorem q2287 : (Jvm.Cond.instanceMethod ({ cls := "PatchCordsModel", name := "bestFactor", desc := "(III)I" } : Jvm.MethodName)) ∈ lw_all := lw_g (lw_at lw_m10 27 rfl) rfl
theorem q2288 : (Jvm.Cond.selects "PatchCordsModel" ({ cls := "PatchCordsModel", name := "bestFactor", desc := "(III)I" } : Jvm.MethodName) ({ cls := "PatchCordsModel", name := "bestFactor", desc := "(III)I" } : Jvm.MethodName)) ∈ lw_all := lw_g (lw_at lw_m10 28 rfl) rfl
theorem q2289 : (Jvm.Cond.code ({ cls := "PatchCordsModel", name := "bestFactor", desc := "(III)I" } : Jvm.MethodName) prog_17_method_108_code (4 : Nat) (Option.some Jvm.ClassFile.FieldType.int)) ∈ lw_all := lw_g (lw_at lw_m10 29 rfl) rfl
theorem q2290 : (Jvm.Cond.methodLink "PatchCordsModel" (233 : Nat) ({ cls := "PatchCordsModel", name := "best", desc := "(III)I" } : Jvm.MethodName)) ∈ lw_all := lw_g (lw_at lw_m10 30 rfl) rfl
theorem q2291 : (Jvm.Cond.privateMethod ({ cls := "PatchCordsModel", name := "best", desc := "(III)I" } : Jvm.MethodName)) ∈ lw_tbl := lw_at lw_m10 31 rfl
theorem q2292 : (Jvm.Cond.instanceMethod ({ cls := "PatchCordsModel", name := "best", desc := "(III)I" } : Jvm.MethodName)) ∈ lw_all := lw_g (lw_at lw_m10 32 rfl) rfl
theorem q2293 : (Jvm.Cond.code ({ cls := "PatchCordsModel", name := "best", desc := "(III)I" } : Jvm.MethodName) prog_17_method_107_code (9 : Nat) (Option.some Jvm.ClassFile.FieldType.int)) ∈ lw_all := lw_g (lw_at lw_m10 33 rfl) rfl
theorem q2295 : (Jvm.Cond.instanceMethod ({ cls := "PatchCordsModel", name := "keep", desc := "()I" } : Jvm.MethodName)) ∈ lw_all := lw_g (lw_at lw_m10 35 rfl) rfl
theorem q2296 : (Jvm.Cond.selects "PatchCordsModel" ({ cls := "PatchCordsModel", name := "keep", desc := "()I" } : Jvm.MethodName) ({ cls := "PatchCordsModel", name := "keep", desc := "()I" } : Jvm.MethodName)) ∈ lw_all := lw_g (lw_at lw_m10 36 rfl) rfl
theorem q2297 : (Jvm.Cond.code ({ cls := "PatchCordsModel", name := "keep", desc := "()I" } : Jvm.MethodName) prog_17_method_109_code (2 : Nat) (Option.some Jvm.ClassFile.FieldType.int)) ∈ lw_all := lw_g (lw_at lw_m10 37 rfl) rfl
theorem q2299 : (Jvm.Cond.instanceMethod ({ cls := "PatchCordsModel", name := "goBack", desc := "()I" } : Jvm.MethodName)) ∈ lw_all := lw_g (lw_at lw_m10 39 rfl) rfl
theorem q2300 : (Jvm.Cond.selects "PatchCordsModel" ({ cls := "PatchCordsModel", name := "goBack", desc := "()I" } : Jvm.MethodName) ({ cls := "PatchCordsModel", name := "goBack", desc := "()I" } : Jvm.MethodName)) ∈ lw_all := lw_g (lw_at lw_m10 40 rfl) rfl
theorem q2301 : (Jvm.Cond.code ({ cls := "PatchCordsModel", name := "goBack", desc := "()I" } : Jvm.MethodName) prog_17_method_110_code (2 : Nat) (Option.some Jvm.ClassFile.FieldType.int)) ∈ lw_all := lw_g (lw_at lw_m10 41 rfl) rfl
theorem q2303 : (Jvm.Cond.instanceMethod ({ cls := "PatchCordsModel", name := "append", desc := "(I)I" } : Jvm.MethodName)) ∈ lw_all := lw_g (lw_at lw_m10 43 rfl) rfl
theorem q2304 : (Jvm.Cond.selects "PatchCordsModel" ({ cls := "PatchCordsModel", name := "append", desc := "(I)I" } : Jvm.MethodName) ({ cls := "PatchCordsModel", name := "append", desc := "(I)I" } : Jvm.MethodName)) ∈ lw_all := lw_g (lw_at lw_m10 44 rfl) rfl
theorem q2305 : (Jvm.Cond.code ({ cls := "PatchCordsModel", name := "append", desc := "(I)I" } : Jvm.MethodName) prog_17_method_111_code (2 : Nat) (Option.some Jvm.ClassFile.FieldType.int)) ∈ lw_all := lw_g (lw_at lw_m10 45 rfl) rfl
theorem q2307 : (Jvm.Cond.instanceMethod ({ cls := "PatchCordsModel", name := "clearText", desc := "()I" } : Jvm.MethodName)) ∈ lw_all := lw_g (lw_at lw_m10 47 rfl) rfl
theorem q2308 : (Jvm.Cond.selects "PatchCordsModel" ({ cls := "PatchCordsModel", name := "clearText", desc := "()I" } : Jvm.MethodName) ({ cls := "PatchCordsModel", name := "clearText", desc := "()I" } : Jvm.MethodName)) ∈ lw_all := lw_g (lw_at lw_m10 48 rfl) rfl
theorem q2309 : (Jvm.Cond.code ({ cls := "PatchCordsModel", name := "clearText", desc := "()I" } : Jvm.MethodName) prog_17_method_112_code (2 : Nat) (Option.some Jvm.ClassFile.FieldType.int)) ∈ lw_all := lw_g (lw_at lw_m10 49 rfl) rfl
theorem q2311 : (Jvm.Cond.instanceMethod ({ cls := "PatchCordsModel", name := "firstError", desc := "()I" } : Jvm.MethodName)) ∈ lw_all := lw_g (lw_at lw_m10 51 rfl) rfl
theorem q2312 : (Jvm.Cond.selects "PatchCordsModel" ({ cls := "PatchCordsModel", name := "firstError", desc := "()I" } : Jvm.MethodName) ({ cls := "PatchCordsModel", name := "firstError", desc := "()I" } : Jvm.MethodName)) ∈ lw_all := lw_g (lw_at lw_m10 52 rfl) rfl
theorem q2313 : (Jvm.Cond.code ({ cls := "PatchCordsModel", name := "firstError", desc := "()I" } : Jvm.MethodName) prog_17_method_121_code (1 : Nat) (Option.some Jvm.ClassFile.FieldType.int)) ∈ lw_all := lw_g (lw_at lw_m10 53 rfl) rfl
theorem q2314 : (Jvm.Cond.methodLink "PatchCordsModel" (282 : Nat) ({ cls := "PatchCordsModel", name := "findError", desc := "()I" } : Jvm.MethodName)) ∈ lw_all := lw_g (lw_at lw_m10 54 rfl) rfl
theorem q2315 : (Jvm.Cond.privateMethod ({ cls := "PatchCordsModel", name := "findError", desc := "()I" } : Jvm.MethodName)) ∈ lw_tbl := lw_at lw_m10 55 rfl
theorem q2316 : (Jvm.Cond.instanceMethod ({ cls := "PatchCordsModel", name := "findError", desc := "()I" } : Jvm.MethodName)) ∈ lw_all := lw_g (lw_at lw_m10 56 rfl) rfl
theorem q2317 : (Jvm.Cond.code ({ cls := "PatchCordsModel", name := "findError", desc := "()I" } : Jvm.MethodName) prog_17_method_120_code (1 : Nat) (Option.some Jvm.ClassFile.FieldType.int)) ∈ lw_all := lw_g (lw_at lw_m10 57 rfl) rfl
theorem q2318 : (Jvm.Cond.methodLink "PatchCordsModel" (279 : Nat) ({ cls := "PatchCordsModel", name := "readsItem", desc := "()Z" } : Jvm.MethodName)) ∈ lw_all := lw_g (lw_at lw_m10 58 rfl) rfl
theorem q2319 : (Jvm.Cond.privateMethod ({ cls := "PatchCordsModel", name := "readsItem", desc := "()Z" } : Jvm.MethodName)) ∈ lw_tbl := lw_at lw_m10 59 rfl
theorem q2320 : (Jvm.Cond.instanceMethod ({ cls := "PatchCordsModel", name := "readsItem", desc := "()Z" } : Jvm.MethodName)) ∈ lw_all := lw_g (lw_at lw_m10 60 rfl) rfl
theorem q2321 : (Jvm.Cond.code ({ cls := "PatchCordsModel", name := "readsItem", desc := "()Z" } : Jvm.MethodName) prog_17_method_119_code (1 : Nat) (Option.some Jvm.ClassFile.FieldType.boolean)) ∈ lw_all := lw_g (lw_at lw_m10 61 rfl) rfl
theorem q2322 : (Jvm.Cond.methodLink "PatchCordsModel" (252 : Nat) ({ cls := "PatchCordsModel", name := "readsNumber", desc := "(II)Z" } : Jvm.MethodName)) ∈ lw_all := lw_g (lw_at lw_m10 62 rfl) rfl
theorem q2323 : (Jvm.Cond.privateMethod ({ cls := "PatchCordsModel", name := "readsNumber", desc := "(II)Z" } : Jvm.MethodName)) ∈ lw_tbl := lw_at lw_m10 63 rfl
theorem q2324 : (Jvm.Cond.instanceMethod ({ cls := "PatchCordsModel", name := "readsNumber", desc := "(II)Z" } : Jvm.MethodName)) ∈ lw_all := lw_g (lw_at lw_m10 64 rfl) rfl
theorem q2325 : (Jvm.Cond.code ({ cls := "PatchCordsModel", name := "readsNumber", desc := "(II)Z" } : Jvm.MethodName) prog_17_method_114_code (3 : Nat) (Option.some Jvm.ClassFile.FieldType.boolean)) ∈ lw_all := lw_g (lw_at lw_m10 65 rfl) rfl
theorem q2326 : (Jvm.Cond.methodLink "PatchCordsModel" (246 : Nat) ({ cls := "PatchCordsModel", name := "accepts", desc := "(II)Z" } : Jvm.MethodName)) ∈ lw_all := lw_g (lw_at lw_m10 66 rfl) rfl
theorem q2327 : (Jvm.Cond.privateMethod ({ cls := "PatchCordsModel", name := "accepts", desc := "(II)Z" } : Jvm.MethodName)) ∈ lw_tbl := lw_at lw_m10 67 rfl
theorem q2328 : (Jvm.Cond.instanceMethod ({ cls := "PatchCordsModel", name := "accepts", desc := "(II)Z" } : Jvm.MethodName)) ∈ lw_all := lw_g (lw_at lw_m10 68 rfl) rfl
theorem q2329 : (Jvm.Cond.code ({ cls := "PatchCordsModel", name := "accepts", desc := "(II)Z" } : Jvm.MethodName) prog_17_method_113_code (4 : Nat) (Option.some Jvm.ClassFile.FieldType.boolean)) ∈ lw_all := lw_g (lw_at lw_m10 69 rfl) rfl
theorem q2330 : (Jvm.Cond.methodLink "PatchCordsModel" (261 : Nat) ({ cls := "PatchCordsModel", name := "readsModule", desc := "()Z" } : Jvm.MethodName)) ∈ lw_all := lw_g (lw_at lw_m10 70 rfl) rfl
theorem q2331 : (Jvm.Cond.privateMethod ({ cls := "PatchCordsModel", name := "readsModule", desc := "()Z" } : Jvm.MethodName)) ∈ lw_tbl := lw_at lw_m10 71 rfl
theorem q2332 : (Jvm.Cond.instanceMethod ({ cls := "PatchCordsModel", name := "readsModule", desc := "()Z" } : Jvm.MethodName)) ∈ lw_all := lw_g (lw_at lw_m10 72 rfl) rfl
theorem q2333 : (Jvm.Cond.code ({ cls := "PatchCordsModel", name := "readsModule", desc := "()Z" } : Jvm.MethodName) prog_17_method_115_code (2 : Nat) (Option.some Jvm.ClassFile.FieldType.boolean)) ∈ lw_all := lw_g (lw_at lw_m10 73 rfl) rfl
theorem q2334 : (Jvm.Cond.methodLink "PatchCordsModel" (267 : Nat) ({ cls := "PatchCordsModel", name := "readsInput", desc := "()Z" } : Jvm.MethodName)) ∈ lw_all := lw_g (lw_at lw_m10 74 rfl) rfl
theorem q2335 : (Jvm.Cond.privateMethod ({ cls := "PatchCordsModel", name := "readsInput", desc := "()Z" } : Jvm.MethodName)) ∈ lw_tbl := lw_at lw_m10 75 rfl
theorem q2336 : (Jvm.Cond.instanceMethod ({ cls := "PatchCordsModel", name := "readsInput", desc := "()Z" } : Jvm.MethodName)) ∈ lw_all := lw_g (lw_at lw_m10 76 rfl) rfl
theorem q2337 : (Jvm.Cond.code ({ cls := "PatchCordsModel", name := "readsInput", desc := "()Z" } : Jvm.MethodName) prog_17_method_116_code (2 : Nat) (Option.some Jvm.ClassFile.FieldType.boolean)) ∈ lw_all := lw_g (lw_at lw_m10 77 rfl) rfl
theorem q2338 : (Jvm.Cond.methodLink "PatchCordsModel" (273 : Nat) ({ cls := "PatchCordsModel", name := "readsVoltage", desc := "()Z" } : Jvm.MethodName)) ∈ lw_all := lw_g (lw_at lw_m10 78 rfl) rfl
theorem q2339 : (Jvm.Cond.privateMethod ({ cls := "PatchCordsModel", name := "readsVoltage", desc := "()Z" } : Jvm.MethodName)) ∈ lw_tbl := lw_at lw_m10 79 rfl
theorem q2340 : (Jvm.Cond.instanceMethod ({ cls := "PatchCordsModel", name := "readsVoltage", desc := "()Z" } : Jvm.MethodName)) ∈ lw_all := lw_g (lw_at lw_m10 80 rfl) rfl
theorem q2341 : (Jvm.Cond.code ({ cls := "PatchCordsModel", name := "readsVoltage", desc := "()Z" } : Jvm.MethodName) prog_17_method_118_code (3 : Nat) (Option.some Jvm.ClassFile.FieldType.boolean)) ∈ lw_all := lw_g (lw_at lw_m10 81 rfl) rfl
theorem q2342 : (Jvm.Cond.methodLink "PatchCordsModel" (276 : Nat) ({ cls := "PatchCordsModel", name := "readsJoin", desc := "()Z" } : Jvm.MethodName)) ∈ lw_all := lw_g (lw_at lw_m10 82 rfl) rfl
theorem q2343 : (Jvm.Cond.privateMethod ({ cls := "PatchCordsModel", name := "readsJoin", desc := "()Z" } : Jvm.MethodName)) ∈ lw_tbl := lw_at lw_m10 83 rfl
theorem q2344 : (Jvm.Cond.instanceMethod ({ cls := "PatchCordsModel", name := "readsJoin", desc := "()Z" } : Jvm.MethodName)) ∈ lw_all := lw_g (lw_at lw_m10 84 rfl) rfl
theorem q2345 : (Jvm.Cond.code ({ cls := "PatchCordsModel", name := "readsJoin", desc := "()Z" } : Jvm.MethodName) prog_17_method_117_code (1 : Nat) (Option.some Jvm.ClassFile.FieldType.boolean)) ∈ lw_all := lw_g (lw_at lw_m10 85 rfl) rfl
theorem q2347 : (Jvm.Cond.instanceMethod ({ cls := "PatchCordsModel", name := "patch", desc := "()I" } : Jvm.MethodName)) ∈ lw_all := lw_g (lw_at lw_m10 87 rfl) rfl
theorem q2348 : (Jvm.Cond.selects "PatchCordsModel" ({ cls := "PatchCordsModel", name := "patch", desc := "()I" } : Jvm.MethodName) ({ cls := "PatchCordsModel", name := "patch", desc := "()I" } : Jvm.MethodName)) ∈ lw_all := lw_g (lw_at lw_m10 88 rfl) rfl
theorem q2349 : (Jvm.Cond.code ({ cls := "PatchCordsModel", name := "patch", desc := "()I" } : Jvm.MethodName) prog_17_method_124_code (3 : Nat) (Option.some Jvm.ClassFile.FieldType.int)) ∈ lw_all := lw_g (lw_at lw_m10 89 rfl) rfl
theorem q2350 : (Jvm.Cond.methodLink "PatchCordsModel" (285 : Nat) ({ cls := "PatchCordsModel", name := "canDo", desc := "()Z" } : Jvm.MethodName)) ∈ lw_all := lw_g (lw_at lw_m10 90 rfl) rfl
theorem q2351 : (Jvm.Cond.privateMethod ({ cls := "PatchCordsModel", name := "canDo", desc := "()Z" } : Jvm.MethodName)) ∈ lw_tbl := lw_at lw_m10 91 rfl
theorem q2352 : (Jvm.Cond.instanceMethod ({ cls := "PatchCordsModel", name := "canDo", desc := "()Z" } : Jvm.MethodName)) ∈ lw_all := lw_g (lw_at lw_m10 92 rfl) rfl
theorem q2353 : (Jvm.Cond.code ({ cls := "PatchCordsModel", name := "canDo", desc := "()Z" } : Jvm.MethodName) prog_17_method_122_code (1 : Nat) (Option.some Jvm.ClassFile.FieldType.boolean)) ∈ lw_all := lw_g (lw_at lw_m10 93 rfl) rfl
theorem q2354 : (Jvm.Cond.methodLink "PatchCordsModel" (288 : Nat) ({ cls := "PatchCordsModel", name := "does", desc := "()V" } : Jvm.MethodName)) ∈ lw_all := lw_g (lw_at lw_m10 94 rfl) rfl
theorem q2355 : (Jvm.Cond.privateMethod ({ cls := "PatchCordsModel", name := "does", desc := "()V" } : Jvm.MethodName)) ∈ lw_tbl := lw_at lw_m10 95 rfl
theorem q2356 : (Jvm.Cond.instanceMethod ({ cls := "PatchCordsModel", name := "does", desc := "()V" } : Jvm.MethodName)) ∈ lw_all := lw_g (lw_at lw_m10 96 rfl) rfl
theorem q2357 : (Jvm.Cond.code ({ cls := "PatchCordsModel", name := "does", desc := "()V" } : Jvm.MethodName) prog_17_method_123_code (1 : Nat) (Option.none : Option Jvm.ClassFile.FieldType)) ∈ lw_all := lw_g (lw_at lw_m10 97 rfl) rfl
theorem q2359 : (Jvm.Cond.instanceMethod ({ cls := "PatchCordsModel", name := "undo", desc := "()I" } : Jvm.MethodName)) ∈ lw_all := lw_g (lw_at lw_m10 99 rfl) rfl
theorem q2360 : (Jvm.Cond.selects "PatchCordsModel" ({ cls := "PatchCordsModel", name := "undo", desc := "()I" } : Jvm.MethodName) ({ cls := "PatchCordsModel", name := "undo", desc := "()I" } : Jvm.MethodName)) ∈ lw_all := lw_g (lw_at lw_m10 100 rfl) rfl
theorem q2361 : (Jvm.Cond.code ({ cls := "PatchCordsModel", name := "undo", desc := "()I" } : Jvm.MethodName) prog_17_method_125_code (2 : Nat) (Option.some Jvm.ClassFile.FieldType.int)) ∈ lw_all := lw_g (lw_at lw_m10 101 rfl) rfl
theorem q2363 : (Jvm.Cond.instanceMethod ({ cls := "PatchCordsModel", name := "digest", desc := "()J" } : Jvm.MethodName)) ∈ lw_all := lw_g (lw_at lw_m10 103 rfl) rfl
theorem q2364 : (Jvm.Cond.selects "PatchCordsModel" ({ cls := "PatchCordsModel", name := "digest", desc := "()J" } : Jvm.MethodName) ({ cls := "PatchCordsModel", name := "digest", desc := "()J" } : Jvm.MethodName)) ∈ lw_all := lw_g (lw_at lw_m10 104 rfl) rfl
theorem q2365 : (Jvm.Cond.code ({ cls := "PatchCordsModel", name := "digest", desc := "()J" } : Jvm.MethodName) prog_17_method_127_code (5 : Nat) (Option.some Jvm.ClassFile.FieldType.long)) ∈ lw_all := lw_g (lw_at lw_m10 105 rfl) rfl
theorem q2366 : (Jvm.Cond.constantLong "PatchCordsModel" (293 : Nat) (610 : Int64)) ∈ lw_all := lw_g (lw_at lw_m10 106 rfl) rfl
theorem q2367 : (Jvm.Cond.constantLong "PatchCordsModel" (291 : Nat) (31 : Int64)) ∈ lw_all := lw_g (lw_at lw_m10 107 rfl) rfl
theorem q2368 : (Jvm.Cond.methodLink "PatchCordsModel" (295 : Nat) ({ cls := "PatchCordsModel", name := "withModule", desc := "(JI)J" } : Jvm.MethodName)) ∈ lw_all := lw_g (lw_at lw_m10 108 rfl) rfl
theorem q2369 : (Jvm.Cond.privateMethod ({ cls := "PatchCordsModel", name := "withModule", desc := "(JI)J" } : Jvm.MethodName)) ∈ lw_tbl := lw_at lw_m10 109 rfl
theorem q2370 : (Jvm.Cond.instanceMethod ({ cls := "PatchCordsModel", name := "withModule", desc := "(JI)J" } : Jvm.MethodName)) ∈ lw_all := lw_g (lw_at lw_m10 110 rfl) rfl
theorem q2371 : (Jvm.Cond.code ({ cls := "PatchCordsModel", name := "withModule", desc := "(JI)J" } : Jvm.MethodName) prog_17_method_126_code (7 : Nat) (Option.some Jvm.ClassFile.FieldType.long)) ∈ lw_all := lw_g (lw_at lw_m10 111 rfl) rfl
theorem q2372 : (Jvm.Cond.methodLink "PatchCordsModel" (299 : Nat) ({ cls := "java/lang/Double", name := "doubleToLongBits", desc := "(D)J" } : Jvm.MethodName)) ∈ lw_all := lw_g (lw_at lw_m10 112 rfl) rfl
theorem q2405 : (Jvm.Cond.castable "PatchCordsModel" "java/lang/Object") ∈ lw_tbl := lw_at lw_m10 145 rfl
theorem in_X4 : ∀ w ∈ wsX40, w ∈ lw_all := lw_in wsX40 [1828, 1830, 1832, 1834, 1836, 1838, 1840, 1842, 1844, 1846, 1848, 1850, 1852, 1854, 1856, 1858, 1860, 1862, 1864, 1866] (by decide +kernel) (by decide +kernel)
