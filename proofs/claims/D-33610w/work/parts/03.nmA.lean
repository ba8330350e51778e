/-! PatchCords -/
set_option maxRecDepth 100000
def RX1 : String := "PatchCords"
def TX1 : u_T := fun k => match k with
  | 0 => ("PatchCords", "panel", "LPatchCords$Panel;", false)
  | 1 => ("PatchCords", "kept", "LPatchCords$Panel;", false)
  | 2 => ("PatchCords", "saved", "Ljava/util/ArrayList;", true)
  | _ => ("PatchCords", "text", "Ljava/lang/StringBuilder;", true)
def tyX1 : Nat → FieldType := fun k => match k with
  | 0 => .object "PatchCords$Panel"
  | 1 => .object "PatchCords$Panel"
  | 2 => .object "java/util/ArrayList"
  | _ => .object "java/lang/StringBuilder"
abbrev wsX10 : List Cond := u_ws RX1 TX1 4
theorem nmX1 : ∀ a, a < 4 → ∀ b, b < 4 → a ≠ b → (TX1 a).2.1 ≠ (TX1 b).2.1 := by decide +kernel
theorem tyX1_ok : ∀ k, k < 4 → parseFieldDescriptor (TX1 k).2.2.1 = some (tyX1 k) := by decide +kernel
abbrev cX1_init : ByteArray := prog_1_method_9_code
def yX1_init : MethodName := ⟨RX1, "<init>", "()V"⟩
def dkwX1_init_1 : List UInt8 := [181, 0, 59, 42, 187, 0, 63, 89, 16, 60, 183, 0, 65, 181, 0, 68, 177]
abbrev dktX1_init_1 : List UInt8 := dkwX1_init_1 ++ []
def dkwX1_init_0 : List UInt8 := [42, 183, 0, 46, 42, 187, 0, 49, 89, 183, 0, 51, 181, 0, 52, 42, 187, 0, 56, 89, 183, 0, 58]
abbrev dktX1_init_0 : List UInt8 := dkwX1_init_0 ++ dktX1_init_1
theorem dksX1_init_0 : cX1_init.data.toList.drop 0 = dktX1_init_0 := by decide +kernel
theorem dksX1_init_1 : cX1_init.data.toList.drop 23 = dktX1_init_1 := dk_seg dksX1_init_0 23 rfl rfl
theorem dX1_init_0 : decode cX1_init 0 = .ok (.aload_n 0, 1) := dk_42 (dk_at dksX1_init_0 0 rfl rfl)
theorem dX1_init_1 : decode cX1_init 1 = .ok (.invokespecial 46, 3) := dk_183 0 46 (dk_at dksX1_init_0 1 rfl rfl)
theorem dX1_init_4 : decode cX1_init 4 = .ok (.aload_n 0, 1) := dk_42 (dk_at dksX1_init_0 4 rfl rfl)
theorem dX1_init_5 : decode cX1_init 5 = .ok (.new 49, 3) := dk_187 0 49 (dk_at dksX1_init_0 5 rfl rfl)
theorem dX1_init_8 : decode cX1_init 8 = .ok (.dup, 1) := dk_89 (dk_at dksX1_init_0 8 rfl rfl)
theorem dX1_init_9 : decode cX1_init 9 = .ok (.invokespecial 51, 3) := dk_183 0 51 (dk_at dksX1_init_0 9 rfl rfl)
theorem dX1_init_12 : decode cX1_init 12 = .ok (.putfield 52, 3) := dk_181 0 52 (dk_at dksX1_init_0 12 rfl rfl)
theorem dX1_init_15 : decode cX1_init 15 = .ok (.aload_n 0, 1) := dk_42 (dk_at dksX1_init_0 15 rfl rfl)
theorem dX1_init_16 : decode cX1_init 16 = .ok (.new 56, 3) := dk_187 0 56 (dk_at dksX1_init_0 16 rfl rfl)
theorem dX1_init_19 : decode cX1_init 19 = .ok (.dup, 1) := dk_89 (dk_at dksX1_init_0 19 rfl rfl)
theorem dX1_init_20 : decode cX1_init 20 = .ok (.invokespecial 58, 3) := dk_183 0 58 (dk_at dksX1_init_0 20 rfl rfl)
theorem dX1_init_23 : decode cX1_init 23 = .ok (.putfield 59, 3) := dk_181 0 59 (dk_at dksX1_init_1 0 rfl rfl)
theorem dX1_init_26 : decode cX1_init 26 = .ok (.aload_n 0, 1) := dk_42 (dk_at dksX1_init_1 3 rfl rfl)
theorem dX1_init_27 : decode cX1_init 27 = .ok (.new 63, 3) := dk_187 0 63 (dk_at dksX1_init_1 4 rfl rfl)
theorem dX1_init_30 : decode cX1_init 30 = .ok (.dup, 1) := dk_89 (dk_at dksX1_init_1 7 rfl rfl)
theorem dX1_init_31 : decode cX1_init 31 = .ok (.bipush 60, 2) := dk_16 60 (dk_at dksX1_init_1 8 rfl rfl)
theorem dX1_init_33 : decode cX1_init 33 = .ok (.invokespecial 65, 3) := dk_183 0 65 (dk_at dksX1_init_1 10 rfl rfl)
theorem dX1_init_36 : decode cX1_init 36 = .ok (.putfield 68, 3) := dk_181 0 68 (dk_at dksX1_init_1 13 rfl rfl)
theorem dX1_init_39 : decode cX1_init 39 = .ok (.return_, 1) := dk_177 (dk_at dksX1_init_1 16 rfl rfl)
abbrev cX1_keep : ByteArray := prog_1_method_13_code
def yX1_keep : MethodName := ⟨RX1, "keep", "()I"⟩
def dkwX1_keep_0 : List UInt8 := [42, 42, 180, 0, 52, 182, 0, 84, 181, 0, 100, 42, 182, 0, 103, 172]
abbrev dktX1_keep_0 : List UInt8 := dkwX1_keep_0 ++ []
theorem dksX1_keep_0 : cX1_keep.data.toList.drop 0 = dktX1_keep_0 := by decide +kernel
theorem dX1_keep_0 : decode cX1_keep 0 = .ok (.aload_n 0, 1) := dk_42 (dk_at dksX1_keep_0 0 rfl rfl)
theorem dX1_keep_1 : decode cX1_keep 1 = .ok (.aload_n 0, 1) := dk_42 (dk_at dksX1_keep_0 1 rfl rfl)
theorem dX1_keep_2 : decode cX1_keep 2 = .ok (.getfield 52, 3) := dk_180 0 52 (dk_at dksX1_keep_0 2 rfl rfl)
theorem dX1_keep_5 : decode cX1_keep 5 = .ok (.invokevirtual 84, 3) := dk_182 0 84 (dk_at dksX1_keep_0 5 rfl rfl)
theorem dX1_keep_8 : decode cX1_keep 8 = .ok (.putfield 100, 3) := dk_181 0 100 (dk_at dksX1_keep_0 8 rfl rfl)
theorem dX1_keep_11 : decode cX1_keep 11 = .ok (.aload_n 0, 1) := dk_42 (dk_at dksX1_keep_0 11 rfl rfl)
theorem dX1_keep_12 : decode cX1_keep 12 = .ok (.invokevirtual 103, 3) := dk_182 0 103 (dk_at dksX1_keep_0 12 rfl rfl)
theorem dX1_keep_15 : decode cX1_keep 15 = .ok (.ireturn, 1) := dk_172 (dk_at dksX1_keep_0 15 rfl rfl)
abbrev cX1_modules : ByteArray := prog_1_method_34_code
def yX1_modules : MethodName := ⟨RX1, "modules", "()I"⟩
def dkwX1_modules_0 : List UInt8 := [42, 180, 0, 52, 182, 0, 227, 172]
abbrev dktX1_modules_0 : List UInt8 := dkwX1_modules_0 ++ []
theorem dksX1_modules_0 : cX1_modules.data.toList.drop 0 = dktX1_modules_0 := by decide +kernel
theorem dX1_modules_0 : decode cX1_modules 0 = .ok (.aload_n 0, 1) := dk_42 (dk_at dksX1_modules_0 0 rfl rfl)
theorem dX1_modules_1 : decode cX1_modules 1 = .ok (.getfield 52, 3) := dk_180 0 52 (dk_at dksX1_modules_0 1 rfl rfl)
theorem dX1_modules_4 : decode cX1_modules 4 = .ok (.invokevirtual 227, 3) := dk_182 0 227 (dk_at dksX1_modules_0 4 rfl rfl)
theorem dX1_modules_7 : decode cX1_modules 7 = .ok (.ireturn, 1) := dk_172 (dk_at dksX1_modules_0 7 rfl rfl)
abbrev cX1_turnGuard : ByteArray := prog_1_method_30_code
def yX1_turnGuard : MethodName := ⟨RX1, "turnGuard", "()Z"⟩
def dkwX1_turnGuard_1 : List UInt8 := [181, 0, 206, 42, 180, 0, 52, 180, 0, 206, 172]
abbrev dktX1_turnGuard_1 : List UInt8 := dkwX1_turnGuard_1 ++ []
def dkwX1_turnGuard_0 : List UInt8 := [42, 182, 0, 136, 42, 180, 0, 52, 42, 180, 0, 52, 180, 0, 206, 154, 0, 7, 4, 167, 0, 4, 3]
abbrev dktX1_turnGuard_0 : List UInt8 := dkwX1_turnGuard_0 ++ dktX1_turnGuard_1
theorem dksX1_turnGuard_0 : cX1_turnGuard.data.toList.drop 0 = dktX1_turnGuard_0 := by decide +kernel
theorem dksX1_turnGuard_1 : cX1_turnGuard.data.toList.drop 23 = dktX1_turnGuard_1 := dk_seg dksX1_turnGuard_0 23 rfl rfl
theorem dX1_turnGuard_0 : decode cX1_turnGuard 0 = .ok (.aload_n 0, 1) := dk_42 (dk_at dksX1_turnGuard_0 0 rfl rfl)
theorem dX1_turnGuard_1 : decode cX1_turnGuard 1 = .ok (.invokevirtual 136, 3) := dk_182 0 136 (dk_at dksX1_turnGuard_0 1 rfl rfl)
theorem dX1_turnGuard_4 : decode cX1_turnGuard 4 = .ok (.aload_n 0, 1) := dk_42 (dk_at dksX1_turnGuard_0 4 rfl rfl)
theorem dX1_turnGuard_5 : decode cX1_turnGuard 5 = .ok (.getfield 52, 3) := dk_180 0 52 (dk_at dksX1_turnGuard_0 5 rfl rfl)
theorem dX1_turnGuard_8 : decode cX1_turnGuard 8 = .ok (.aload_n 0, 1) := dk_42 (dk_at dksX1_turnGuard_0 8 rfl rfl)
theorem dX1_turnGuard_9 : decode cX1_turnGuard 9 = .ok (.getfield 52, 3) := dk_180 0 52 (dk_at dksX1_turnGuard_0 9 rfl rfl)
theorem dX1_turnGuard_12 : decode cX1_turnGuard 12 = .ok (.getfield 206, 3) := dk_180 0 206 (dk_at dksX1_turnGuard_0 12 rfl rfl)
theorem dX1_turnGuard_15 : decode cX1_turnGuard 15 = .ok (.ifCond .ne 7, 3) := dk_154 0 7 (dk_at dksX1_turnGuard_0 15 rfl rfl)
theorem dX1_turnGuard_18 : decode cX1_turnGuard 18 = .ok (.iconst 1, 1) := dk_4 (dk_at dksX1_turnGuard_0 18 rfl rfl)
theorem dX1_turnGuard_19 : decode cX1_turnGuard 19 = .ok (.goto 4, 3) := dk_167 0 4 (dk_at dksX1_turnGuard_0 19 rfl rfl)
theorem dX1_turnGuard_22 : decode cX1_turnGuard 22 = .ok (.iconst 0, 1) := dk_3 (dk_at dksX1_turnGuard_0 22 rfl rfl)
theorem dX1_turnGuard_23 : decode cX1_turnGuard 23 = .ok (.putfield 206, 3) := dk_181 0 206 (dk_at dksX1_turnGuard_1 0 rfl rfl)
theorem dX1_turnGuard_26 : decode cX1_turnGuard 26 = .ok (.aload_n 0, 1) := dk_42 (dk_at dksX1_turnGuard_1 3 rfl rfl)
theorem dX1_turnGuard_27 : decode cX1_turnGuard 27 = .ok (.getfield 52, 3) := dk_180 0 52 (dk_at dksX1_turnGuard_1 4 rfl rfl)
theorem dX1_turnGuard_30 : decode cX1_turnGuard 30 = .ok (.getfield 206, 3) := dk_180 0 206 (dk_at dksX1_turnGuard_1 7 rfl rfl)
theorem dX1_turnGuard_33 : decode cX1_turnGuard 33 = .ok (.ireturn, 1) := dk_172 (dk_at dksX1_turnGuard_1 10 rfl rfl)
abbrev cX1_save : ByteArray := prog_1_method_11_code
def yX1_save : MethodName := ⟨RX1, "save", "()V"⟩
def dkwX1_save_0 : List UInt8 := [42, 42, 180, 0, 52, 182, 0, 84, 182, 0, 88, 177]
abbrev dktX1_save_0 : List UInt8 := dkwX1_save_0 ++ []
theorem dksX1_save_0 : cX1_save.data.toList.drop 0 = dktX1_save_0 := by decide +kernel
theorem dX1_save_0 : decode cX1_save 0 = .ok (.aload_n 0, 1) := dk_42 (dk_at dksX1_save_0 0 rfl rfl)
theorem dX1_save_1 : decode cX1_save 1 = .ok (.aload_n 0, 1) := dk_42 (dk_at dksX1_save_0 1 rfl rfl)
theorem dX1_save_2 : decode cX1_save 2 = .ok (.getfield 52, 3) := dk_180 0 52 (dk_at dksX1_save_0 2 rfl rfl)
theorem dX1_save_5 : decode cX1_save 5 = .ok (.invokevirtual 84, 3) := dk_182 0 84 (dk_at dksX1_save_0 5 rfl rfl)
theorem dX1_save_8 : decode cX1_save 8 = .ok (.invokevirtual 88, 3) := dk_182 0 88 (dk_at dksX1_save_0 8 rfl rfl)
theorem dX1_save_11 : decode cX1_save 11 = .ok (.return_, 1) := dk_177 (dk_at dksX1_save_0 11 rfl rfl)
abbrev cX1_remember : ByteArray := prog_1_method_10_code
def yX1_remember : MethodName := ⟨RX1, "remember", "(LPatchCords$Panel;)V"⟩
def dkwX1_remember_1 : List UInt8 := [180, 0, 59, 43, 182, 0, 80, 87, 177]
abbrev dktX1_remember_1 : List UInt8 := dkwX1_remember_1 ++ []
def dkwX1_remember_0 : List UInt8 := [42, 180, 0, 59, 182, 0, 72, 16, 6, 160, 0, 12, 42, 180, 0, 59, 3, 182, 0, 76, 87, 42]
abbrev dktX1_remember_0 : List UInt8 := dkwX1_remember_0 ++ dktX1_remember_1
theorem dksX1_remember_0 : cX1_remember.data.toList.drop 0 = dktX1_remember_0 := by decide +kernel
theorem dksX1_remember_1 : cX1_remember.data.toList.drop 22 = dktX1_remember_1 := dk_seg dksX1_remember_0 22 rfl rfl
theorem dX1_remember_0 : decode cX1_remember 0 = .ok (.aload_n 0, 1) := dk_42 (dk_at dksX1_remember_0 0 rfl rfl)
theorem dX1_remember_1 : decode cX1_remember 1 = .ok (.getfield 59, 3) := dk_180 0 59 (dk_at dksX1_remember_0 1 rfl rfl)
theorem dX1_remember_4 : decode cX1_remember 4 = .ok (.invokevirtual 72, 3) := dk_182 0 72 (dk_at dksX1_remember_0 4 rfl rfl)
theorem dX1_remember_7 : decode cX1_remember 7 = .ok (.bipush 6, 2) := dk_16 6 (dk_at dksX1_remember_0 7 rfl rfl)
theorem dX1_remember_9 : decode cX1_remember 9 = .ok (.if_icmp .ne 12, 3) := dk_160 0 12 (dk_at dksX1_remember_0 9 rfl rfl)
theorem dX1_remember_12 : decode cX1_remember 12 = .ok (.aload_n 0, 1) := dk_42 (dk_at dksX1_remember_0 12 rfl rfl)
theorem dX1_remember_13 : decode cX1_remember 13 = .ok (.getfield 59, 3) := dk_180 0 59 (dk_at dksX1_remember_0 13 rfl rfl)
theorem dX1_remember_16 : decode cX1_remember 16 = .ok (.iconst 0, 1) := dk_3 (dk_at dksX1_remember_0 16 rfl rfl)
theorem dX1_remember_17 : decode cX1_remember 17 = .ok (.invokevirtual 76, 3) := dk_182 0 76 (dk_at dksX1_remember_0 17 rfl rfl)
theorem dX1_remember_20 : decode cX1_remember 20 = .ok (.pop, 1) := dk_87 (dk_at dksX1_remember_0 20 rfl rfl)
theorem dX1_remember_21 : decode cX1_remember 21 = .ok (.aload_n 0, 1) := dk_42 (dk_at dksX1_remember_0 21 rfl rfl)
theorem dX1_remember_22 : decode cX1_remember 22 = .ok (.getfield 59, 3) := dk_180 0 59 (dk_at dksX1_remember_1 0 rfl rfl)
theorem dX1_remember_25 : decode cX1_remember 25 = .ok (.aload_n 1, 1) := dk_43 (dk_at dksX1_remember_1 3 rfl rfl)
theorem dX1_remember_26 : decode cX1_remember 26 = .ok (.invokevirtual 80, 3) := dk_182 0 80 (dk_at dksX1_remember_1 4 rfl rfl)
theorem dX1_remember_29 : decode cX1_remember 29 = .ok (.pop, 1) := dk_87 (dk_at dksX1_remember_1 7 rfl rfl)
theorem dX1_remember_30 : decode cX1_remember 30 = .ok (.return_, 1) := dk_177 (dk_at dksX1_remember_1 8 rfl rfl)
abbrev cX1_cords : ByteArray := prog_1_method_41_code
def yX1_cords : MethodName := ⟨RX1, "cords", "()I"⟩
def dkwX1_cords_0 : List UInt8 := [42, 180, 0, 52, 182, 0, 234, 172]
abbrev dktX1_cords_0 : List UInt8 := dkwX1_cords_0 ++ []
theorem dksX1_cords_0 : cX1_cords.data.toList.drop 0 = dktX1_cords_0 := by decide +kernel
theorem dX1_cords_0 : decode cX1_cords 0 = .ok (.aload_n 0, 1) := dk_42 (dk_at dksX1_cords_0 0 rfl rfl)
theorem dX1_cords_1 : decode cX1_cords 1 = .ok (.getfield 52, 3) := dk_180 0 52 (dk_at dksX1_cords_0 1 rfl rfl)
theorem dX1_cords_4 : decode cX1_cords 4 = .ok (.invokevirtual 234, 3) := dk_182 0 234 (dk_at dksX1_cords_0 4 rfl rfl)
theorem dX1_cords_7 : decode cX1_cords 7 = .ok (.ireturn, 1) := dk_172 (dk_at dksX1_cords_0 7 rfl rfl)
abbrev cX1_mode : ByteArray := prog_1_method_42_code
def yX1_mode : MethodName := ⟨RX1, "mode", "()I"⟩
def dkwX1_mode_0 : List UInt8 := [42, 180, 0, 52, 180, 0, 187, 172]
abbrev dktX1_mode_0 : List UInt8 := dkwX1_mode_0 ++ []
theorem dksX1_mode_0 : cX1_mode.data.toList.drop 0 = dktX1_mode_0 := by decide +kernel
theorem dX1_mode_0 : decode cX1_mode 0 = .ok (.aload_n 0, 1) := dk_42 (dk_at dksX1_mode_0 0 rfl rfl)
theorem dX1_mode_1 : decode cX1_mode 1 = .ok (.getfield 52, 3) := dk_180 0 52 (dk_at dksX1_mode_0 1 rfl rfl)
theorem dX1_mode_4 : decode cX1_mode 4 = .ok (.getfield 187, 3) := dk_180 0 187 (dk_at dksX1_mode_0 4 rfl rfl)
theorem dX1_mode_7 : decode cX1_mode 7 = .ok (.ireturn, 1) := dk_172 (dk_at dksX1_mode_0 7 rfl rfl)
abbrev cX1_way : ByteArray := prog_1_method_43_code
def yX1_way : MethodName := ⟨RX1, "way", "()I"⟩
def dkwX1_way_0 : List UInt8 := [42, 180, 0, 52, 180, 0, 193, 182, 0, 197, 172]
abbrev dktX1_way_0 : List UInt8 := dkwX1_way_0 ++ []
theorem dksX1_way_0 : cX1_way.data.toList.drop 0 = dktX1_way_0 := by decide +kernel
theorem dX1_way_0 : decode cX1_way 0 = .ok (.aload_n 0, 1) := dk_42 (dk_at dksX1_way_0 0 rfl rfl)
theorem dX1_way_1 : decode cX1_way 1 = .ok (.getfield 52, 3) := dk_180 0 52 (dk_at dksX1_way_0 1 rfl rfl)
theorem dX1_way_4 : decode cX1_way 4 = .ok (.getfield 193, 3) := dk_180 0 193 (dk_at dksX1_way_0 4 rfl rfl)
theorem dX1_way_7 : decode cX1_way 7 = .ok (.invokevirtual 197, 3) := dk_182 0 197 (dk_at dksX1_way_0 7 rfl rfl)
theorem dX1_way_10 : decode cX1_way 10 = .ok (.ireturn, 1) := dk_172 (dk_at dksX1_way_0 10 rfl rfl)
abbrev cX1_isGuarded : ByteArray := prog_1_method_44_code
def yX1_isGuarded : MethodName := ⟨RX1, "isGuarded", "()Z"⟩
def dkwX1_isGuarded_0 : List UInt8 := [42, 180, 0, 52, 180, 0, 206, 172]
abbrev dktX1_isGuarded_0 : List UInt8 := dkwX1_isGuarded_0 ++ []
theorem dksX1_isGuarded_0 : cX1_isGuarded.data.toList.drop 0 = dktX1_isGuarded_0 := by decide +kernel
theorem dX1_isGuarded_0 : decode cX1_isGuarded 0 = .ok (.aload_n 0, 1) := dk_42 (dk_at dksX1_isGuarded_0 0 rfl rfl)
theorem dX1_isGuarded_1 : decode cX1_isGuarded 1 = .ok (.getfield 52, 3) := dk_180 0 52 (dk_at dksX1_isGuarded_0 1 rfl rfl)
theorem dX1_isGuarded_4 : decode cX1_isGuarded 4 = .ok (.getfield 206, 3) := dk_180 0 206 (dk_at dksX1_isGuarded_0 4 rfl rfl)
theorem dX1_isGuarded_7 : decode cX1_isGuarded 7 = .ok (.ireturn, 1) := dk_172 (dk_at dksX1_isGuarded_0 7 rfl rfl)
abbrev cX1_steps : ByteArray := prog_1_method_45_code
def yX1_steps : MethodName := ⟨RX1, "steps", "()I"⟩
def dkwX1_steps_0 : List UInt8 := [42, 180, 0, 52, 180, 0, 216, 172]
abbrev dktX1_steps_0 : List UInt8 := dkwX1_steps_0 ++ []
theorem dksX1_steps_0 : cX1_steps.data.toList.drop 0 = dktX1_steps_0 := by decide +kernel
theorem dX1_steps_0 : decode cX1_steps 0 = .ok (.aload_n 0, 1) := dk_42 (dk_at dksX1_steps_0 0 rfl rfl)
theorem dX1_steps_1 : decode cX1_steps 1 = .ok (.getfield 52, 3) := dk_180 0 52 (dk_at dksX1_steps_0 1 rfl rfl)
theorem dX1_steps_4 : decode cX1_steps 4 = .ok (.getfield 216, 3) := dk_180 0 216 (dk_at dksX1_steps_0 4 rfl rfl)
theorem dX1_steps_7 : decode cX1_steps 7 = .ok (.ireturn, 1) := dk_172 (dk_at dksX1_steps_0 7 rfl rfl)
abbrev cX1_overloaded : ByteArray := prog_1_method_51_code
def yX1_overloaded : MethodName := ⟨RX1, "overloaded", "()I"⟩
def dkwX1_overloaded_0 : List UInt8 := [42, 180, 0, 52, 182, 0, 252, 172]
abbrev dktX1_overloaded_0 : List UInt8 := dkwX1_overloaded_0 ++ []
theorem dksX1_overloaded_0 : cX1_overloaded.data.toList.drop 0 = dktX1_overloaded_0 := by decide +kernel
theorem dX1_overloaded_0 : decode cX1_overloaded 0 = .ok (.aload_n 0, 1) := dk_42 (dk_at dksX1_overloaded_0 0 rfl rfl)
theorem dX1_overloaded_1 : decode cX1_overloaded 1 = .ok (.getfield 52, 3) := dk_180 0 52 (dk_at dksX1_overloaded_0 1 rfl rfl)
theorem dX1_overloaded_4 : decode cX1_overloaded 4 = .ok (.invokevirtual 252, 3) := dk_182 0 252 (dk_at dksX1_overloaded_0 4 rfl rfl)
theorem dX1_overloaded_7 : decode cX1_overloaded 7 = .ok (.ireturn, 1) := dk_172 (dk_at dksX1_overloaded_0 7 rfl rfl)
abbrev cX1_has : ByteArray := prog_1_method_7_code
def yX1_has : MethodName := ⟨RX1, "has", "(II)Z"⟩
def dkwX1_has_0 : List UInt8 := [26, 27, 122, 4, 126, 4, 160, 0, 7, 4, 167, 0, 4, 3, 172]
abbrev dktX1_has_0 : List UInt8 := dkwX1_has_0 ++ []
theorem dksX1_has_0 : cX1_has.data.toList.drop 0 = dktX1_has_0 := by decide +kernel
theorem dX1_has_0 : decode cX1_has 0 = .ok (.iload_n 0, 1) := dk_26 (dk_at dksX1_has_0 0 rfl rfl)
theorem dX1_has_1 : decode cX1_has 1 = .ok (.iload_n 1, 1) := dk_27 (dk_at dksX1_has_0 1 rfl rfl)
theorem dX1_has_2 : decode cX1_has 2 = .ok (.ishr, 1) := dk_122 (dk_at dksX1_has_0 2 rfl rfl)
theorem dX1_has_3 : decode cX1_has 3 = .ok (.iconst 1, 1) := dk_4 (dk_at dksX1_has_0 3 rfl rfl)
theorem dX1_has_4 : decode cX1_has 4 = .ok (.iand, 1) := dk_126 (dk_at dksX1_has_0 4 rfl rfl)
theorem dX1_has_5 : decode cX1_has 5 = .ok (.iconst 1, 1) := dk_4 (dk_at dksX1_has_0 5 rfl rfl)
theorem dX1_has_6 : decode cX1_has 6 = .ok (.if_icmp .ne 7, 3) := dk_160 0 7 (dk_at dksX1_has_0 6 rfl rfl)
theorem dX1_has_9 : decode cX1_has 9 = .ok (.iconst 1, 1) := dk_4 (dk_at dksX1_has_0 9 rfl rfl)
theorem dX1_has_10 : decode cX1_has 10 = .ok (.goto 4, 3) := dk_167 0 4 (dk_at dksX1_has_0 10 rfl rfl)
theorem dX1_has_13 : decode cX1_has 13 = .ok (.iconst 0, 1) := dk_3 (dk_at dksX1_has_0 13 rfl rfl)
theorem dX1_has_14 : decode cX1_has 14 = .ok (.ireturn, 1) := dk_172 (dk_at dksX1_has_0 14 rfl rfl)
abbrev cX1_held : ByteArray := prog_1_method_6_code
def yX1_held : MethodName := ⟨RX1, "held", "(II)I"⟩
def dkwX1_held_0 : List UInt8 := [27, 116, 27, 26, 184, 0, 19, 184, 0, 25, 172]
abbrev dktX1_held_0 : List UInt8 := dkwX1_held_0 ++ []
theorem dksX1_held_0 : cX1_held.data.toList.drop 0 = dktX1_held_0 := by decide +kernel
theorem dX1_held_0 : decode cX1_held 0 = .ok (.iload_n 1, 1) := dk_27 (dk_at dksX1_held_0 0 rfl rfl)
theorem dX1_held_1 : decode cX1_held 1 = .ok (.ineg, 1) := dk_116 (dk_at dksX1_held_0 1 rfl rfl)
theorem dX1_held_2 : decode cX1_held 2 = .ok (.iload_n 1, 1) := dk_27 (dk_at dksX1_held_0 2 rfl rfl)
theorem dX1_held_3 : decode cX1_held 3 = .ok (.iload_n 0, 1) := dk_26 (dk_at dksX1_held_0 3 rfl rfl)
theorem dX1_held_4 : decode cX1_held 4 = .ok (.invokestatic 19, 3) := dk_184 0 19 (dk_at dksX1_held_0 4 rfl rfl)
theorem dX1_held_7 : decode cX1_held 7 = .ok (.invokestatic 25, 3) := dk_184 0 25 (dk_at dksX1_held_0 7 rfl rfl)
theorem dX1_held_10 : decode cX1_held 10 = .ok (.ireturn, 1) := dk_172 (dk_at dksX1_held_0 10 rfl rfl)
abbrev cX1_isWithin : ByteArray := prog_1_method_1_code
def yX1_isWithin : MethodName := ⟨RX1, "isWithin", "(III)Z"⟩
def dkwX1_isWithin_0 : List UInt8 := [26, 27, 161, 0, 12, 26, 28, 163, 0, 7, 4, 167, 0, 4, 3, 172]
abbrev dktX1_isWithin_0 : List UInt8 := dkwX1_isWithin_0 ++ []
theorem dksX1_isWithin_0 : cX1_isWithin.data.toList.drop 0 = dktX1_isWithin_0 := by decide +kernel
theorem dX1_isWithin_0 : decode cX1_isWithin 0 = .ok (.iload_n 0, 1) := dk_26 (dk_at dksX1_isWithin_0 0 rfl rfl)
theorem dX1_isWithin_1 : decode cX1_isWithin 1 = .ok (.iload_n 1, 1) := dk_27 (dk_at dksX1_isWithin_0 1 rfl rfl)
theorem dX1_isWithin_2 : decode cX1_isWithin 2 = .ok (.if_icmp .lt 12, 3) := dk_161 0 12 (dk_at dksX1_isWithin_0 2 rfl rfl)
theorem dX1_isWithin_5 : decode cX1_isWithin 5 = .ok (.iload_n 0, 1) := dk_26 (dk_at dksX1_isWithin_0 5 rfl rfl)
theorem dX1_isWithin_6 : decode cX1_isWithin 6 = .ok (.iload_n 2, 1) := dk_28 (dk_at dksX1_isWithin_0 6 rfl rfl)
theorem dX1_isWithin_7 : decode cX1_isWithin 7 = .ok (.if_icmp .gt 7, 3) := dk_163 0 7 (dk_at dksX1_isWithin_0 7 rfl rfl)
theorem dX1_isWithin_10 : decode cX1_isWithin 10 = .ok (.iconst 1, 1) := dk_4 (dk_at dksX1_isWithin_0 10 rfl rfl)
theorem dX1_isWithin_11 : decode cX1_isWithin 11 = .ok (.goto 4, 3) := dk_167 0 4 (dk_at dksX1_isWithin_0 11 rfl rfl)
theorem dX1_isWithin_14 : decode cX1_isWithin 14 = .ok (.iconst 0, 1) := dk_3 (dk_at dksX1_isWithin_0 14 rfl rfl)
theorem dX1_isWithin_15 : decode cX1_isWithin 15 = .ok (.ireturn, 1) := dk_172 (dk_at dksX1_isWithin_0 15 rfl rfl)
abbrev cX1_inCircles : ByteArray := prog_1_method_59_code
def yX1_inCircles : MethodName := ⟨RX1, "inCircles", "()I"⟩
def dkwX1_inCircles_0 : List UInt8 := [42, 180, 0, 52, 182, 1, 19, 172]
abbrev dktX1_inCircles_0 : List UInt8 := dkwX1_inCircles_0 ++ []
theorem dksX1_inCircles_0 : cX1_inCircles.data.toList.drop 0 = dktX1_inCircles_0 := by decide +kernel
theorem dX1_inCircles_0 : decode cX1_inCircles 0 = .ok (.aload_n 0, 1) := dk_42 (dk_at dksX1_inCircles_0 0 rfl rfl)
theorem dX1_inCircles_1 : decode cX1_inCircles 1 = .ok (.getfield 52, 3) := dk_180 0 52 (dk_at dksX1_inCircles_0 1 rfl rfl)
theorem dX1_inCircles_4 : decode cX1_inCircles 4 = .ok (.invokevirtual 275, 3) := dk_182 1 19 (dk_at dksX1_inCircles_0 4 rfl rfl)
theorem dX1_inCircles_7 : decode cX1_inCircles 7 = .ok (.ireturn, 1) := dk_172 (dk_at dksX1_inCircles_0 7 rfl rfl)
abbrev cX1_ends : ByteArray := prog_1_method_60_code
def yX1_ends : MethodName := ⟨RX1, "ends", "()I"⟩
def dkwX1_ends_0 : List UInt8 := [42, 180, 0, 52, 182, 1, 22, 172]
abbrev dktX1_ends_0 : List UInt8 := dkwX1_ends_0 ++ []
theorem dksX1_ends_0 : cX1_ends.data.toList.drop 0 = dktX1_ends_0 := by decide +kernel
theorem dX1_ends_0 : decode cX1_ends 0 = .ok (.aload_n 0, 1) := dk_42 (dk_at dksX1_ends_0 0 rfl rfl)
theorem dX1_ends_1 : decode cX1_ends 1 = .ok (.getfield 52, 3) := dk_180 0 52 (dk_at dksX1_ends_0 1 rfl rfl)
theorem dX1_ends_4 : decode cX1_ends 4 = .ok (.invokevirtual 278, 3) := dk_182 1 22 (dk_at dksX1_ends_0 4 rfl rfl)
theorem dX1_ends_7 : decode cX1_ends 7 = .ok (.ireturn, 1) := dk_172 (dk_at dksX1_ends_0 7 rfl rfl)
abbrev cX1_recorded : ByteArray := prog_1_method_61_code
def yX1_recorded : MethodName := ⟨RX1, "recorded", "()I"⟩
def dkwX1_recorded_0 : List UInt8 := [42, 180, 0, 52, 180, 0, 210, 172]
abbrev dktX1_recorded_0 : List UInt8 := dkwX1_recorded_0 ++ []
theorem dksX1_recorded_0 : cX1_recorded.data.toList.drop 0 = dktX1_recorded_0 := by decide +kernel
theorem dX1_recorded_0 : decode cX1_recorded 0 = .ok (.aload_n 0, 1) := dk_42 (dk_at dksX1_recorded_0 0 rfl rfl)
theorem dX1_recorded_1 : decode cX1_recorded 1 = .ok (.getfield 52, 3) := dk_180 0 52 (dk_at dksX1_recorded_0 1 rfl rfl)
theorem dX1_recorded_4 : decode cX1_recorded 4 = .ok (.getfield 210, 3) := dk_180 0 210 (dk_at dksX1_recorded_0 4 rfl rfl)
theorem dX1_recorded_7 : decode cX1_recorded 7 = .ok (.ireturn, 1) := dk_172 (dk_at dksX1_recorded_0 7 rfl rfl)
abbrev cX1_records : ByteArray := prog_1_method_62_code
def yX1_records : MethodName := ⟨RX1, "records", "()I"⟩
def dkwX1_records_0 : List UInt8 := [42, 180, 0, 52, 180, 1, 25, 172]
abbrev dktX1_records_0 : List UInt8 := dkwX1_records_0 ++ []
theorem dksX1_records_0 : cX1_records.data.toList.drop 0 = dktX1_records_0 := by decide +kernel
theorem dX1_records_0 : decode cX1_records 0 = .ok (.aload_n 0, 1) := dk_42 (dk_at dksX1_records_0 0 rfl rfl)
theorem dX1_records_1 : decode cX1_records 1 = .ok (.getfield 52, 3) := dk_180 0 52 (dk_at dksX1_records_0 1 rfl rfl)
theorem dX1_records_4 : decode cX1_records 4 = .ok (.getfield 281, 3) := dk_180 1 25 (dk_at dksX1_records_0 4 rfl rfl)
theorem dX1_records_7 : decode cX1_records 7 = .ok (.ireturn, 1) := dk_172 (dk_at dksX1_records_0 7 rfl rfl)
abbrev cX1_crossings : ByteArray := prog_1_method_64_code
def yX1_crossings : MethodName := ⟨RX1, "crossings", "()I"⟩
def dkwX1_crossings_0 : List UInt8 := [42, 180, 0, 52, 180, 1, 31, 172]
abbrev dktX1_crossings_0 : List UInt8 := dkwX1_crossings_0 ++ []
theorem dksX1_crossings_0 : cX1_crossings.data.toList.drop 0 = dktX1_crossings_0 := by decide +kernel
theorem dX1_crossings_0 : decode cX1_crossings 0 = .ok (.aload_n 0, 1) := dk_42 (dk_at dksX1_crossings_0 0 rfl rfl)
theorem dX1_crossings_1 : decode cX1_crossings 1 = .ok (.getfield 52, 3) := dk_180 0 52 (dk_at dksX1_crossings_0 1 rfl rfl)
theorem dX1_crossings_4 : decode cX1_crossings 4 = .ok (.getfield 287, 3) := dk_180 1 31 (dk_at dksX1_crossings_0 4 rfl rfl)
theorem dX1_crossings_7 : decode cX1_crossings 7 = .ok (.ireturn, 1) := dk_172 (dk_at dksX1_crossings_0 7 rfl rfl)
abbrev cX1_beat : ByteArray := prog_1_method_65_code
def yX1_beat : MethodName := ⟨RX1, "beat", "()I"⟩
def dkwX1_beat_0 : List UInt8 := [42, 180, 0, 52, 180, 1, 34, 172]
abbrev dktX1_beat_0 : List UInt8 := dkwX1_beat_0 ++ []
theorem dksX1_beat_0 : cX1_beat.data.toList.drop 0 = dktX1_beat_0 := by decide +kernel
theorem dX1_beat_0 : decode cX1_beat 0 = .ok (.aload_n 0, 1) := dk_42 (dk_at dksX1_beat_0 0 rfl rfl)
theorem dX1_beat_1 : decode cX1_beat 1 = .ok (.getfield 52, 3) := dk_180 0 52 (dk_at dksX1_beat_0 1 rfl rfl)
theorem dX1_beat_4 : decode cX1_beat 4 = .ok (.getfield 290, 3) := dk_180 1 34 (dk_at dksX1_beat_0 4 rfl rfl)
theorem dX1_beat_7 : decode cX1_beat 7 = .ok (.ireturn, 1) := dk_172 (dk_at dksX1_beat_0 7 rfl rfl)
abbrev cX1_meanRecord : ByteArray := prog_1_method_66_code
def yX1_meanRecord : MethodName := ⟨RX1, "meanRecord", "()D"⟩
def dkwX1_meanRecord_0 : List UInt8 := [42, 180, 0, 52, 182, 1, 37, 175]
abbrev dktX1_meanRecord_0 : List UInt8 := dkwX1_meanRecord_0 ++ []
theorem dksX1_meanRecord_0 : cX1_meanRecord.data.toList.drop 0 = dktX1_meanRecord_0 := by decide +kernel
theorem dX1_meanRecord_0 : decode cX1_meanRecord 0 = .ok (.aload_n 0, 1) := dk_42 (dk_at dksX1_meanRecord_0 0 rfl rfl)
theorem dX1_meanRecord_1 : decode cX1_meanRecord 1 = .ok (.getfield 52, 3) := dk_180 0 52 (dk_at dksX1_meanRecord_0 1 rfl rfl)
theorem dX1_meanRecord_4 : decode cX1_meanRecord 4 = .ok (.invokevirtual 293, 3) := dk_182 1 37 (dk_at dksX1_meanRecord_0 4 rfl rfl)
theorem dX1_meanRecord_7 : decode cX1_meanRecord 7 = .ok (.dreturn, 1) := dk_175 (dk_at dksX1_meanRecord_0 7 rfl rfl)
abbrev cX1_stepsUntilOverload : ByteArray := prog_1_method_69_code
def yX1_stepsUntilOverload : MethodName := ⟨RX1, "stepsUntilOverload", "()I"⟩
def dkwX1_stepsUntilOverload_0 : List UInt8 := [42, 180, 0, 52, 182, 1, 44, 172]
abbrev dktX1_stepsUntilOverload_0 : List UInt8 := dkwX1_stepsUntilOverload_0 ++ []
theorem dksX1_stepsUntilOverload_0 : cX1_stepsUntilOverload.data.toList.drop 0 = dktX1_stepsUntilOverload_0 := by decide +kernel
theorem dX1_stepsUntilOverload_0 : decode cX1_stepsUntilOverload 0 = .ok (.aload_n 0, 1) := dk_42 (dk_at dksX1_stepsUntilOverload_0 0 rfl rfl)
theorem dX1_stepsUntilOverload_1 : decode cX1_stepsUntilOverload 1 = .ok (.getfield 52, 3) := dk_180 0 52 (dk_at dksX1_stepsUntilOverload_0 1 rfl rfl)
theorem dX1_stepsUntilOverload_4 : decode cX1_stepsUntilOverload 4 = .ok (.invokevirtual 300, 3) := dk_182 1 44 (dk_at dksX1_stepsUntilOverload_0 4 rfl rfl)
theorem dX1_stepsUntilOverload_7 : decode cX1_stepsUntilOverload 7 = .ok (.ireturn, 1) := dk_172 (dk_at dksX1_stepsUntilOverload_0 7 rfl rfl)
abbrev cX1_clearText : ByteArray := prog_1_method_72_code
def yX1_clearText : MethodName := ⟨RX1, "clearText", "()I"⟩
def dkwX1_clearText_0 : List UInt8 := [42, 180, 0, 68, 182, 1, 50, 60, 42, 180, 0, 68, 3, 182, 1, 57, 27, 172]
abbrev dktX1_clearText_0 : List UInt8 := dkwX1_clearText_0 ++ []
theorem dksX1_clearText_0 : cX1_clearText.data.toList.drop 0 = dktX1_clearText_0 := by decide +kernel
theorem dX1_clearText_0 : decode cX1_clearText 0 = .ok (.aload_n 0, 1) := dk_42 (dk_at dksX1_clearText_0 0 rfl rfl)
theorem dX1_clearText_1 : decode cX1_clearText 1 = .ok (.getfield 68, 3) := dk_180 0 68 (dk_at dksX1_clearText_0 1 rfl rfl)
theorem dX1_clearText_4 : decode cX1_clearText 4 = .ok (.invokevirtual 306, 3) := dk_182 1 50 (dk_at dksX1_clearText_0 4 rfl rfl)
theorem dX1_clearText_7 : decode cX1_clearText 7 = .ok (.istore_n 1, 1) := dk_60 (dk_at dksX1_clearText_0 7 rfl rfl)
theorem dX1_clearText_8 : decode cX1_clearText 8 = .ok (.aload_n 0, 1) := dk_42 (dk_at dksX1_clearText_0 8 rfl rfl)
theorem dX1_clearText_9 : decode cX1_clearText 9 = .ok (.getfield 68, 3) := dk_180 0 68 (dk_at dksX1_clearText_0 9 rfl rfl)
theorem dX1_clearText_12 : decode cX1_clearText 12 = .ok (.iconst 0, 1) := dk_3 (dk_at dksX1_clearText_0 12 rfl rfl)
theorem dX1_clearText_13 : decode cX1_clearText 13 = .ok (.invokevirtual 313, 3) := dk_182 1 57 (dk_at dksX1_clearText_0 13 rfl rfl)
theorem dX1_clearText_16 : decode cX1_clearText 16 = .ok (.iload_n 1, 1) := dk_27 (dk_at dksX1_clearText_0 16 rfl rfl)
theorem dX1_clearText_17 : decode cX1_clearText 17 = .ok (.ireturn, 1) := dk_172 (dk_at dksX1_clearText_0 17 rfl rfl)
abbrev cX1_firstError : ByteArray := prog_1_method_73_code
def yX1_firstError : MethodName := ⟨RX1, "firstError", "()I"⟩
def dkwX1_firstError_0 : List UInt8 := [187, 1, 60, 89, 42, 180, 0, 68, 183, 1, 62, 182, 1, 65, 172]
abbrev dktX1_firstError_0 : List UInt8 := dkwX1_firstError_0 ++ []
theorem dksX1_firstError_0 : cX1_firstError.data.toList.drop 0 = dktX1_firstError_0 := by decide +kernel
theorem dX1_firstError_0 : decode cX1_firstError 0 = .ok (.new 316, 3) := dk_187 1 60 (dk_at dksX1_firstError_0 0 rfl rfl)
theorem dX1_firstError_3 : decode cX1_firstError 3 = .ok (.dup, 1) := dk_89 (dk_at dksX1_firstError_0 3 rfl rfl)
theorem dX1_firstError_4 : decode cX1_firstError 4 = .ok (.aload_n 0, 1) := dk_42 (dk_at dksX1_firstError_0 4 rfl rfl)
theorem dX1_firstError_5 : decode cX1_firstError 5 = .ok (.getfield 68, 3) := dk_180 0 68 (dk_at dksX1_firstError_0 5 rfl rfl)
theorem dX1_firstError_8 : decode cX1_firstError 8 = .ok (.invokespecial 318, 3) := dk_183 1 62 (dk_at dksX1_firstError_0 8 rfl rfl)
theorem dX1_firstError_11 : decode cX1_firstError 11 = .ok (.invokevirtual 321, 3) := dk_182 1 65 (dk_at dksX1_firstError_0 11 rfl rfl)
theorem dX1_firstError_14 : decode cX1_firstError 14 = .ok (.ireturn, 1) := dk_172 (dk_at dksX1_firstError_0 14 rfl rfl)
abbrev cX1_digest : ByteArray := prog_1_method_81_code
def yX1_digest : MethodName := ⟨RX1, "digest", "()J"⟩
def dkwX1_digest_8 : List UInt8 := [173]
abbrev dktX1_digest_8 : List UInt8 := dkwX1_digest_8 ++ []
def dkwX1_digest_7 : List UInt8 := [79, 184, 1, 107, 65, 132, 4, 1, 167, 255, 226, 20, 1, 99, 32, 105, 43, 182, 1, 37, 184, 1, 128, 97]
abbrev dktX1_digest_7 : List UInt8 := dkwX1_digest_7 ++ dktX1_digest_8
def dkwX1_digest_6 : List UInt8 := [54, 4, 21, 4, 43, 180, 1, 25, 162, 0, 27, 32, 4, 188, 10, 89, 3, 43, 180, 1, 28, 21, 4, 46]
abbrev dktX1_digest_6 : List UInt8 := dkwX1_digest_6 ++ dktX1_digest_7
def dkwX1_digest_5 : List UInt8 := [89, 16, 13, 43, 182, 1, 44, 79, 184, 1, 107, 65, 42, 42, 32, 182, 1, 121, 182, 1, 125, 65, 3]
abbrev dktX1_digest_5 : List UInt8 := dkwX1_digest_5 ++ dktX1_digest_6
def dkwX1_digest_4 : List UInt8 := [89, 16, 10, 43, 180, 1, 25, 79, 89, 16, 11, 43, 180, 1, 31, 79, 89, 16, 12, 43, 180, 1, 34, 79]
abbrev dktX1_digest_4 : List UInt8 := dkwX1_digest_4 ++ dktX1_digest_5
def dkwX1_digest_3 : List UInt8 := [89, 16, 7, 43, 182, 1, 19, 79, 89, 16, 8, 43, 182, 1, 22, 79, 89, 16, 9, 43, 180, 0, 210, 79]
abbrev dktX1_digest_3 : List UInt8 := dkwX1_digest_3 ++ dktX1_digest_4
def dkwX1_digest_2 : List UInt8 := [153, 0, 7, 4, 167, 0, 4, 3, 79, 89, 8, 43, 180, 0, 216, 79, 89, 16, 6, 43, 182, 0, 252, 79]
abbrev dktX1_digest_2 : List UInt8 := dkwX1_digest_2 ++ dktX1_digest_3
def dkwX1_digest_1 : List UInt8 := [182, 0, 234, 79, 89, 5, 43, 180, 0, 187, 79, 89, 6, 42, 182, 1, 119, 79, 89, 7, 43, 180, 0, 206]
abbrev dktX1_digest_1 : List UInt8 := dkwX1_digest_1 ++ dktX1_digest_2
def dkwX1_digest_0 : List UInt8 := [42, 180, 0, 52, 76, 20, 1, 117, 16, 14, 188, 10, 89, 3, 42, 182, 0, 103, 79, 89, 4, 43]
abbrev dktX1_digest_0 : List UInt8 := dkwX1_digest_0 ++ dktX1_digest_1
theorem dksX1_digest_0 : cX1_digest.data.toList.drop 0 = dktX1_digest_0 := by decide +kernel
theorem dksX1_digest_1 : cX1_digest.data.toList.drop 22 = dktX1_digest_1 := dk_seg dksX1_digest_0 22 rfl rfl
theorem dksX1_digest_2 : cX1_digest.data.toList.drop 46 = dktX1_digest_2 := dk_seg dksX1_digest_1 24 rfl rfl
theorem dksX1_digest_3 : cX1_digest.data.toList.drop 70 = dktX1_digest_3 := dk_seg dksX1_digest_2 24 rfl rfl
theorem dksX1_digest_4 : cX1_digest.data.toList.drop 94 = dktX1_digest_4 := dk_seg dksX1_digest_3 24 rfl rfl
theorem dksX1_digest_5 : cX1_digest.data.toList.drop 118 = dktX1_digest_5 := dk_seg dksX1_digest_4 24 rfl rfl
theorem dksX1_digest_6 : cX1_digest.data.toList.drop 141 = dktX1_digest_6 := dk_seg dksX1_digest_5 23 rfl rfl
theorem dksX1_digest_7 : cX1_digest.data.toList.drop 165 = dktX1_digest_7 := dk_seg dksX1_digest_6 24 rfl rfl
theorem dksX1_digest_8 : cX1_digest.data.toList.drop 189 = dktX1_digest_8 := dk_seg dksX1_digest_7 24 rfl rfl
theorem dX1_digest_0 : decode cX1_digest 0 = .ok (.aload_n 0, 1) := dk_42 (dk_at dksX1_digest_0 0 rfl rfl)
theorem dX1_digest_1 : decode cX1_digest 1 = .ok (.getfield 52, 3) := dk_180 0 52 (dk_at dksX1_digest_0 1 rfl rfl)
theorem dX1_digest_4 : decode cX1_digest 4 = .ok (.astore_n 1, 1) := dk_76 (dk_at dksX1_digest_0 4 rfl rfl)
theorem dX1_digest_5 : decode cX1_digest 5 = .ok (.ldc2_w 373, 3) := dk_20 1 117 (dk_at dksX1_digest_0 5 rfl rfl)
theorem dX1_digest_8 : decode cX1_digest 8 = .ok (.bipush 14, 2) := dk_16 14 (dk_at dksX1_digest_0 8 rfl rfl)
theorem dX1_digest_10 : decode cX1_digest 10 = .ok (.newarray .int, 2) := dk_188_10 (dk_at dksX1_digest_0 10 rfl rfl)
theorem dX1_digest_12 : decode cX1_digest 12 = .ok (.dup, 1) := dk_89 (dk_at dksX1_digest_0 12 rfl rfl)
theorem dX1_digest_13 : decode cX1_digest 13 = .ok (.iconst 0, 1) := dk_3 (dk_at dksX1_digest_0 13 rfl rfl)
theorem dX1_digest_14 : decode cX1_digest 14 = .ok (.aload_n 0, 1) := dk_42 (dk_at dksX1_digest_0 14 rfl rfl)
theorem dX1_digest_15 : decode cX1_digest 15 = .ok (.invokevirtual 103, 3) := dk_182 0 103 (dk_at dksX1_digest_0 15 rfl rfl)
theorem dX1_digest_18 : decode cX1_digest 18 = .ok (.iastore, 1) := dk_79 (dk_at dksX1_digest_0 18 rfl rfl)
theorem dX1_digest_19 : decode cX1_digest 19 = .ok (.dup, 1) := dk_89 (dk_at dksX1_digest_0 19 rfl rfl)
theorem dX1_digest_20 : decode cX1_digest 20 = .ok (.iconst 1, 1) := dk_4 (dk_at dksX1_digest_0 20 rfl rfl)
theorem dX1_digest_21 : decode cX1_digest 21 = .ok (.aload_n 1, 1) := dk_43 (dk_at dksX1_digest_0 21 rfl rfl)
theorem dX1_digest_22 : decode cX1_digest 22 = .ok (.invokevirtual 234, 3) := dk_182 0 234 (dk_at dksX1_digest_1 0 rfl rfl)
theorem dX1_digest_25 : decode cX1_digest 25 = .ok (.iastore, 1) := dk_79 (dk_at dksX1_digest_1 3 rfl rfl)
theorem dX1_digest_26 : decode cX1_digest 26 = .ok (.dup, 1) := dk_89 (dk_at dksX1_digest_1 4 rfl rfl)
theorem dX1_digest_27 : decode cX1_digest 27 = .ok (.iconst 2, 1) := dk_5 (dk_at dksX1_digest_1 5 rfl rfl)
theorem dX1_digest_28 : decode cX1_digest 28 = .ok (.aload_n 1, 1) := dk_43 (dk_at dksX1_digest_1 6 rfl rfl)
theorem dX1_digest_29 : decode cX1_digest 29 = .ok (.getfield 187, 3) := dk_180 0 187 (dk_at dksX1_digest_1 7 rfl rfl)
theorem dX1_digest_32 : decode cX1_digest 32 = .ok (.iastore, 1) := dk_79 (dk_at dksX1_digest_1 10 rfl rfl)
theorem dX1_digest_33 : decode cX1_digest 33 = .ok (.dup, 1) := dk_89 (dk_at dksX1_digest_1 11 rfl rfl)
theorem dX1_digest_34 : decode cX1_digest 34 = .ok (.iconst 3, 1) := dk_6 (dk_at dksX1_digest_1 12 rfl rfl)
theorem dX1_digest_35 : decode cX1_digest 35 = .ok (.aload_n 0, 1) := dk_42 (dk_at dksX1_digest_1 13 rfl rfl)
theorem dX1_digest_36 : decode cX1_digest 36 = .ok (.invokevirtual 375, 3) := dk_182 1 119 (dk_at dksX1_digest_1 14 rfl rfl)
theorem dX1_digest_39 : decode cX1_digest 39 = .ok (.iastore, 1) := dk_79 (dk_at dksX1_digest_1 17 rfl rfl)
theorem dX1_digest_40 : decode cX1_digest 40 = .ok (.dup, 1) := dk_89 (dk_at dksX1_digest_1 18 rfl rfl)
theorem dX1_digest_41 : decode cX1_digest 41 = .ok (.iconst 4, 1) := dk_7 (dk_at dksX1_digest_1 19 rfl rfl)
theorem dX1_digest_42 : decode cX1_digest 42 = .ok (.aload_n 1, 1) := dk_43 (dk_at dksX1_digest_1 20 rfl rfl)
theorem dX1_digest_43 : decode cX1_digest 43 = .ok (.getfield 206, 3) := dk_180 0 206 (dk_at dksX1_digest_1 21 rfl rfl)
theorem dX1_digest_46 : decode cX1_digest 46 = .ok (.ifCond .eq 7, 3) := dk_153 0 7 (dk_at dksX1_digest_2 0 rfl rfl)
theorem dX1_digest_49 : decode cX1_digest 49 = .ok (.iconst 1, 1) := dk_4 (dk_at dksX1_digest_2 3 rfl rfl)
theorem dX1_digest_50 : decode cX1_digest 50 = .ok (.goto 4, 3) := dk_167 0 4 (dk_at dksX1_digest_2 4 rfl rfl)
theorem dX1_digest_53 : decode cX1_digest 53 = .ok (.iconst 0, 1) := dk_3 (dk_at dksX1_digest_2 7 rfl rfl)
theorem dX1_digest_54 : decode cX1_digest 54 = .ok (.iastore, 1) := dk_79 (dk_at dksX1_digest_2 8 rfl rfl)
theorem dX1_digest_55 : decode cX1_digest 55 = .ok (.dup, 1) := dk_89 (dk_at dksX1_digest_2 9 rfl rfl)
theorem dX1_digest_56 : decode cX1_digest 56 = .ok (.iconst 5, 1) := dk_8 (dk_at dksX1_digest_2 10 rfl rfl)
theorem dX1_digest_57 : decode cX1_digest 57 = .ok (.aload_n 1, 1) := dk_43 (dk_at dksX1_digest_2 11 rfl rfl)
theorem dX1_digest_58 : decode cX1_digest 58 = .ok (.getfield 216, 3) := dk_180 0 216 (dk_at dksX1_digest_2 12 rfl rfl)
theorem dX1_digest_61 : decode cX1_digest 61 = .ok (.iastore, 1) := dk_79 (dk_at dksX1_digest_2 15 rfl rfl)
theorem dX1_digest_62 : decode cX1_digest 62 = .ok (.dup, 1) := dk_89 (dk_at dksX1_digest_2 16 rfl rfl)
theorem dX1_digest_63 : decode cX1_digest 63 = .ok (.bipush 6, 2) := dk_16 6 (dk_at dksX1_digest_2 17 rfl rfl)
theorem dX1_digest_65 : decode cX1_digest 65 = .ok (.aload_n 1, 1) := dk_43 (dk_at dksX1_digest_2 19 rfl rfl)
theorem dX1_digest_66 : decode cX1_digest 66 = .ok (.invokevirtual 252, 3) := dk_182 0 252 (dk_at dksX1_digest_2 20 rfl rfl)
theorem dX1_digest_69 : decode cX1_digest 69 = .ok (.iastore, 1) := dk_79 (dk_at dksX1_digest_2 23 rfl rfl)
theorem dX1_digest_70 : decode cX1_digest 70 = .ok (.dup, 1) := dk_89 (dk_at dksX1_digest_3 0 rfl rfl)
theorem dX1_digest_71 : decode cX1_digest 71 = .ok (.bipush 7, 2) := dk_16 7 (dk_at dksX1_digest_3 1 rfl rfl)
theorem dX1_digest_73 : decode cX1_digest 73 = .ok (.aload_n 1, 1) := dk_43 (dk_at dksX1_digest_3 3 rfl rfl)
theorem dX1_digest_74 : decode cX1_digest 74 = .ok (.invokevirtual 275, 3) := dk_182 1 19 (dk_at dksX1_digest_3 4 rfl rfl)
theorem dX1_digest_77 : decode cX1_digest 77 = .ok (.iastore, 1) := dk_79 (dk_at dksX1_digest_3 7 rfl rfl)
theorem dX1_digest_78 : decode cX1_digest 78 = .ok (.dup, 1) := dk_89 (dk_at dksX1_digest_3 8 rfl rfl)
theorem dX1_digest_79 : decode cX1_digest 79 = .ok (.bipush 8, 2) := dk_16 8 (dk_at dksX1_digest_3 9 rfl rfl)
theorem dX1_digest_81 : decode cX1_digest 81 = .ok (.aload_n 1, 1) := dk_43 (dk_at dksX1_digest_3 11 rfl rfl)
theorem dX1_digest_82 : decode cX1_digest 82 = .ok (.invokevirtual 278, 3) := dk_182 1 22 (dk_at dksX1_digest_3 12 rfl rfl)
theorem dX1_digest_85 : decode cX1_digest 85 = .ok (.iastore, 1) := dk_79 (dk_at dksX1_digest_3 15 rfl rfl)
theorem dX1_digest_86 : decode cX1_digest 86 = .ok (.dup, 1) := dk_89 (dk_at dksX1_digest_3 16 rfl rfl)
theorem dX1_digest_87 : decode cX1_digest 87 = .ok (.bipush 9, 2) := dk_16 9 (dk_at dksX1_digest_3 17 rfl rfl)
theorem dX1_digest_89 : decode cX1_digest 89 = .ok (.aload_n 1, 1) := dk_43 (dk_at dksX1_digest_3 19 rfl rfl)
theorem dX1_digest_90 : decode cX1_digest 90 = .ok (.getfield 210, 3) := dk_180 0 210 (dk_at dksX1_digest_3 20 rfl rfl)
theorem dX1_digest_93 : decode cX1_digest 93 = .ok (.iastore, 1) := dk_79 (dk_at dksX1_digest_3 23 rfl rfl)
theorem dX1_digest_94 : decode cX1_digest 94 = .ok (.dup, 1) := dk_89 (dk_at dksX1_digest_4 0 rfl rfl)
theorem dX1_digest_95 : decode cX1_digest 95 = .ok (.bipush 10, 2) := dk_16 10 (dk_at dksX1_digest_4 1 rfl rfl)
theorem dX1_digest_97 : decode cX1_digest 97 = .ok (.aload_n 1, 1) := dk_43 (dk_at dksX1_digest_4 3 rfl rfl)
theorem dX1_digest_98 : decode cX1_digest 98 = .ok (.getfield 281, 3) := dk_180 1 25 (dk_at dksX1_digest_4 4 rfl rfl)
theorem dX1_digest_101 : decode cX1_digest 101 = .ok (.iastore, 1) := dk_79 (dk_at dksX1_digest_4 7 rfl rfl)
theorem dX1_digest_102 : decode cX1_digest 102 = .ok (.dup, 1) := dk_89 (dk_at dksX1_digest_4 8 rfl rfl)
theorem dX1_digest_103 : decode cX1_digest 103 = .ok (.bipush 11, 2) := dk_16 11 (dk_at dksX1_digest_4 9 rfl rfl)
theorem dX1_digest_105 : decode cX1_digest 105 = .ok (.aload_n 1, 1) := dk_43 (dk_at dksX1_digest_4 11 rfl rfl)
theorem dX1_digest_106 : decode cX1_digest 106 = .ok (.getfield 287, 3) := dk_180 1 31 (dk_at dksX1_digest_4 12 rfl rfl)
theorem dX1_digest_109 : decode cX1_digest 109 = .ok (.iastore, 1) := dk_79 (dk_at dksX1_digest_4 15 rfl rfl)
theorem dX1_digest_110 : decode cX1_digest 110 = .ok (.dup, 1) := dk_89 (dk_at dksX1_digest_4 16 rfl rfl)
theorem dX1_digest_111 : decode cX1_digest 111 = .ok (.bipush 12, 2) := dk_16 12 (dk_at dksX1_digest_4 17 rfl rfl)
theorem dX1_digest_113 : decode cX1_digest 113 = .ok (.aload_n 1, 1) := dk_43 (dk_at dksX1_digest_4 19 rfl rfl)
theorem dX1_digest_114 : decode cX1_digest 114 = .ok (.getfield 290, 3) := dk_180 1 34 (dk_at dksX1_digest_4 20 rfl rfl)
theorem dX1_digest_117 : decode cX1_digest 117 = .ok (.iastore, 1) := dk_79 (dk_at dksX1_digest_4 23 rfl rfl)
theorem dX1_digest_118 : decode cX1_digest 118 = .ok (.dup, 1) := dk_89 (dk_at dksX1_digest_5 0 rfl rfl)
theorem dX1_digest_119 : decode cX1_digest 119 = .ok (.bipush 13, 2) := dk_16 13 (dk_at dksX1_digest_5 1 rfl rfl)
theorem dX1_digest_121 : decode cX1_digest 121 = .ok (.aload_n 1, 1) := dk_43 (dk_at dksX1_digest_5 3 rfl rfl)
theorem dX1_digest_122 : decode cX1_digest 122 = .ok (.invokevirtual 300, 3) := dk_182 1 44 (dk_at dksX1_digest_5 4 rfl rfl)
theorem dX1_digest_125 : decode cX1_digest 125 = .ok (.iastore, 1) := dk_79 (dk_at dksX1_digest_5 7 rfl rfl)
theorem dX1_digest_126 : decode cX1_digest 126 = .ok (.invokestatic 363, 3) := dk_184 1 107 (dk_at dksX1_digest_5 8 rfl rfl)
theorem dX1_digest_129 : decode cX1_digest 129 = .ok (.lstore_n 2, 1) := dk_65 (dk_at dksX1_digest_5 11 rfl rfl)
theorem dX1_digest_130 : decode cX1_digest 130 = .ok (.aload_n 0, 1) := dk_42 (dk_at dksX1_digest_5 12 rfl rfl)
theorem dX1_digest_131 : decode cX1_digest 131 = .ok (.aload_n 0, 1) := dk_42 (dk_at dksX1_digest_5 13 rfl rfl)
theorem dX1_digest_132 : decode cX1_digest 132 = .ok (.lload_n 2, 1) := dk_32 (dk_at dksX1_digest_5 14 rfl rfl)
theorem dX1_digest_133 : decode cX1_digest 133 = .ok (.invokevirtual 377, 3) := dk_182 1 121 (dk_at dksX1_digest_5 15 rfl rfl)
theorem dX1_digest_136 : decode cX1_digest 136 = .ok (.invokevirtual 381, 3) := dk_182 1 125 (dk_at dksX1_digest_5 18 rfl rfl)
theorem dX1_digest_139 : decode cX1_digest 139 = .ok (.lstore_n 2, 1) := dk_65 (dk_at dksX1_digest_5 21 rfl rfl)
theorem dX1_digest_140 : decode cX1_digest 140 = .ok (.iconst 0, 1) := dk_3 (dk_at dksX1_digest_5 22 rfl rfl)
theorem dX1_digest_141 : decode cX1_digest 141 = .ok (.istore 4, 2) := dk_54 4 (dk_at dksX1_digest_6 0 rfl rfl)
theorem dX1_digest_143 : decode cX1_digest 143 = .ok (.iload 4, 2) := dk_21 4 (dk_at dksX1_digest_6 2 rfl rfl)
theorem dX1_digest_145 : decode cX1_digest 145 = .ok (.aload_n 1, 1) := dk_43 (dk_at dksX1_digest_6 4 rfl rfl)
theorem dX1_digest_146 : decode cX1_digest 146 = .ok (.getfield 281, 3) := dk_180 1 25 (dk_at dksX1_digest_6 5 rfl rfl)
theorem dX1_digest_149 : decode cX1_digest 149 = .ok (.if_icmp .ge 27, 3) := dk_162 0 27 (dk_at dksX1_digest_6 8 rfl rfl)
theorem dX1_digest_152 : decode cX1_digest 152 = .ok (.lload_n 2, 1) := dk_32 (dk_at dksX1_digest_6 11 rfl rfl)
theorem dX1_digest_153 : decode cX1_digest 153 = .ok (.iconst 1, 1) := dk_4 (dk_at dksX1_digest_6 12 rfl rfl)
theorem dX1_digest_154 : decode cX1_digest 154 = .ok (.newarray .int, 2) := dk_188_10 (dk_at dksX1_digest_6 13 rfl rfl)
theorem dX1_digest_156 : decode cX1_digest 156 = .ok (.dup, 1) := dk_89 (dk_at dksX1_digest_6 15 rfl rfl)
theorem dX1_digest_157 : decode cX1_digest 157 = .ok (.iconst 0, 1) := dk_3 (dk_at dksX1_digest_6 16 rfl rfl)
theorem dX1_digest_158 : decode cX1_digest 158 = .ok (.aload_n 1, 1) := dk_43 (dk_at dksX1_digest_6 17 rfl rfl)
theorem dX1_digest_159 : decode cX1_digest 159 = .ok (.getfield 284, 3) := dk_180 1 28 (dk_at dksX1_digest_6 18 rfl rfl)
theorem dX1_digest_162 : decode cX1_digest 162 = .ok (.iload 4, 2) := dk_21 4 (dk_at dksX1_digest_6 21 rfl rfl)
theorem dX1_digest_164 : decode cX1_digest 164 = .ok (.iaload, 1) := dk_46 (dk_at dksX1_digest_6 23 rfl rfl)
theorem dX1_digest_165 : decode cX1_digest 165 = .ok (.iastore, 1) := dk_79 (dk_at dksX1_digest_7 0 rfl rfl)
theorem dX1_digest_166 : decode cX1_digest 166 = .ok (.invokestatic 363, 3) := dk_184 1 107 (dk_at dksX1_digest_7 1 rfl rfl)
theorem dX1_digest_169 : decode cX1_digest 169 = .ok (.lstore_n 2, 1) := dk_65 (dk_at dksX1_digest_7 4 rfl rfl)
theorem dX1_digest_170 : decode cX1_digest 170 = .ok (.iinc 4 1, 3) := dk_132 4 1 (dk_at dksX1_digest_7 5 rfl rfl)
theorem dX1_digest_173 : decode cX1_digest 173 = .ok (.goto (-30), 3) := dk_167 255 226 (dk_at dksX1_digest_7 8 rfl rfl)
theorem dX1_digest_176 : decode cX1_digest 176 = .ok (.ldc2_w 355, 3) := dk_20 1 99 (dk_at dksX1_digest_7 11 rfl rfl)
theorem dX1_digest_179 : decode cX1_digest 179 = .ok (.lload_n 2, 1) := dk_32 (dk_at dksX1_digest_7 14 rfl rfl)
theorem dX1_digest_180 : decode cX1_digest 180 = .ok (.lmul, 1) := dk_105 (dk_at dksX1_digest_7 15 rfl rfl)
theorem dX1_digest_181 : decode cX1_digest 181 = .ok (.aload_n 1, 1) := dk_43 (dk_at dksX1_digest_7 16 rfl rfl)
theorem dX1_digest_182 : decode cX1_digest 182 = .ok (.invokevirtual 293, 3) := dk_182 1 37 (dk_at dksX1_digest_7 17 rfl rfl)
theorem dX1_digest_185 : decode cX1_digest 185 = .ok (.invokestatic 384, 3) := dk_184 1 128 (dk_at dksX1_digest_7 20 rfl rfl)
theorem dX1_digest_188 : decode cX1_digest 188 = .ok (.ladd, 1) := dk_97 (dk_at dksX1_digest_7 23 rfl rfl)
theorem dX1_digest_189 : decode cX1_digest 189 = .ok (.lreturn, 1) := dk_173 (dk_at dksX1_digest_8 0 rfl rfl)
abbrev cX1_add : ByteArray := prog_1_method_78_code
def yX1_add : MethodName := ⟨RX1, "add", "(J[I)J"⟩
def dkwX1_add_1 : List UInt8 := [132, 5, 1, 167, 255, 234, 33, 173]
abbrev dktX1_add_1 : List UInt8 := dkwX1_add_1 ++ []
def dkwX1_add_0 : List UInt8 := [30, 66, 3, 54, 5, 21, 5, 44, 190, 162, 0, 21, 20, 1, 99, 33, 105, 44, 21, 5, 46, 133, 97, 66]
abbrev dktX1_add_0 : List UInt8 := dkwX1_add_0 ++ dktX1_add_1
theorem dksX1_add_0 : cX1_add.data.toList.drop 0 = dktX1_add_0 := by decide +kernel
theorem dksX1_add_1 : cX1_add.data.toList.drop 24 = dktX1_add_1 := dk_seg dksX1_add_0 24 rfl rfl
theorem dX1_add_0 : decode cX1_add 0 = .ok (.lload_n 0, 1) := dk_30 (dk_at dksX1_add_0 0 rfl rfl)
theorem dX1_add_1 : decode cX1_add 1 = .ok (.lstore_n 3, 1) := dk_66 (dk_at dksX1_add_0 1 rfl rfl)
theorem dX1_add_2 : decode cX1_add 2 = .ok (.iconst 0, 1) := dk_3 (dk_at dksX1_add_0 2 rfl rfl)
theorem dX1_add_3 : decode cX1_add 3 = .ok (.istore 5, 2) := dk_54 5 (dk_at dksX1_add_0 3 rfl rfl)
theorem dX1_add_5 : decode cX1_add 5 = .ok (.iload 5, 2) := dk_21 5 (dk_at dksX1_add_0 5 rfl rfl)
theorem dX1_add_7 : decode cX1_add 7 = .ok (.aload_n 2, 1) := dk_44 (dk_at dksX1_add_0 7 rfl rfl)
theorem dX1_add_8 : decode cX1_add 8 = .ok (.arraylength, 1) := dk_190 (dk_at dksX1_add_0 8 rfl rfl)
theorem dX1_add_9 : decode cX1_add 9 = .ok (.if_icmp .ge 21, 3) := dk_162 0 21 (dk_at dksX1_add_0 9 rfl rfl)
theorem dX1_add_12 : decode cX1_add 12 = .ok (.ldc2_w 355, 3) := dk_20 1 99 (dk_at dksX1_add_0 12 rfl rfl)
theorem dX1_add_15 : decode cX1_add 15 = .ok (.lload_n 3, 1) := dk_33 (dk_at dksX1_add_0 15 rfl rfl)
theorem dX1_add_16 : decode cX1_add 16 = .ok (.lmul, 1) := dk_105 (dk_at dksX1_add_0 16 rfl rfl)
theorem dX1_add_17 : decode cX1_add 17 = .ok (.aload_n 2, 1) := dk_44 (dk_at dksX1_add_0 17 rfl rfl)
theorem dX1_add_18 : decode cX1_add 18 = .ok (.iload 5, 2) := dk_21 5 (dk_at dksX1_add_0 18 rfl rfl)
theorem dX1_add_20 : decode cX1_add 20 = .ok (.iaload, 1) := dk_46 (dk_at dksX1_add_0 20 rfl rfl)
theorem dX1_add_21 : decode cX1_add 21 = .ok (.i2l, 1) := dk_133 (dk_at dksX1_add_0 21 rfl rfl)
theorem dX1_add_22 : decode cX1_add 22 = .ok (.ladd, 1) := dk_97 (dk_at dksX1_add_0 22 rfl rfl)
theorem dX1_add_23 : decode cX1_add 23 = .ok (.lstore_n 3, 1) := dk_66 (dk_at dksX1_add_0 23 rfl rfl)
theorem dX1_add_24 : decode cX1_add 24 = .ok (.iinc 5 1, 3) := dk_132 5 1 (dk_at dksX1_add_1 0 rfl rfl)
theorem dX1_add_27 : decode cX1_add 27 = .ok (.goto (-22), 3) := dk_167 255 234 (dk_at dksX1_add_1 3 rfl rfl)
theorem dX1_add_30 : decode cX1_add 30 = .ok (.lload_n 3, 1) := dk_33 (dk_at dksX1_add_1 6 rfl rfl)
theorem dX1_add_31 : decode cX1_add 31 = .ok (.lreturn, 1) := dk_173 (dk_at dksX1_add_1 7 rfl rfl)
abbrev cX1_addParts : ByteArray := prog_1_method_79_code
def yX1_addParts : MethodName := ⟨RX1, "addParts", "(J)J"⟩
def dkwX1_addParts_9 : List UInt8 := [184, 1, 107, 66, 132, 10, 1, 167, 255, 210, 132, 8, 1, 167, 255, 84, 33, 173]
abbrev dktX1_addParts_9 : List UInt8 := dkwX1_addParts_9 ++ []
def dkwX1_addParts_8 : List UInt8 := [25, 9, 180, 0, 117, 21, 10, 46, 79, 89, 4, 42, 180, 0, 52, 180, 1, 114, 21, 10, 46, 79]
abbrev dktX1_addParts_8 : List UInt8 := dkwX1_addParts_8 ++ dktX1_addParts_9
def dkwX1_addParts_7 : List UInt8 := [182, 1, 110, 3, 54, 10, 21, 10, 25, 9, 180, 0, 117, 190, 162, 0, 41, 33, 5, 188, 10, 89, 3]
abbrev dktX1_addParts_7 : List UInt8 := dkwX1_addParts_7 ++ dktX1_addParts_8
def dkwX1_addParts_6 : List UInt8 := [79, 89, 16, 7, 25, 7, 180, 1, 104, 21, 8, 46, 79, 184, 1, 107, 66, 42, 180, 0, 52, 25, 9]
abbrev dktX1_addParts_6 : List UInt8 := dkwX1_addParts_6 ++ dktX1_addParts_7
def dkwX1_addParts_5 : List UInt8 := [184, 1, 3, 79, 89, 8, 25, 6, 21, 8, 46, 79, 89, 16, 6, 42, 180, 0, 52, 21, 8, 182, 1, 13]
abbrev dktX1_addParts_5 : List UInt8 := dkwX1_addParts_5 ++ dktX1_addParts_6
def dkwX1_addParts_4 : List UInt8 := [180, 1, 104, 21, 8, 46, 79, 89, 6, 25, 9, 180, 0, 255, 79, 89, 7, 25, 9, 180, 0, 255]
abbrev dktX1_addParts_4 : List UInt8 := dkwX1_addParts_4 ++ dktX1_addParts_5
def dkwX1_addParts_3 : List UInt8 := [188, 10, 89, 3, 25, 9, 182, 0, 228, 79, 89, 4, 25, 9, 182, 0, 154, 79, 89, 5, 42, 180, 0, 52]
abbrev dktX1_addParts_3 : List UInt8 := dkwX1_addParts_3 ++ dktX1_addParts_4
def dkwX1_addParts_2 : List UInt8 := [54, 8, 21, 8, 21, 5, 162, 0, 171, 42, 180, 0, 52, 21, 8, 182, 0, 110, 58, 9, 33, 16, 8]
abbrev dktX1_addParts_2 : List UInt8 := dkwX1_addParts_2 ++ dktX1_addParts_3
def dkwX1_addParts_1 : List UInt8 := [58, 7, 25, 7, 16, 10, 182, 0, 224, 87, 25, 7, 182, 1, 101, 42, 180, 0, 52, 182, 1, 101, 3]
abbrev dktX1_addParts_1 : List UInt8 := dkwX1_addParts_1 ++ dktX1_addParts_2
def dkwX1_addParts_0 : List UInt8 := [31, 66, 42, 182, 0, 103, 54, 5, 42, 180, 0, 52, 182, 1, 6, 58, 6, 42, 180, 0, 52, 182, 1, 41]
abbrev dktX1_addParts_0 : List UInt8 := dkwX1_addParts_0 ++ dktX1_addParts_1
theorem dksX1_addParts_0 : cX1_addParts.data.toList.drop 0 = dktX1_addParts_0 := by decide +kernel
theorem dksX1_addParts_1 : cX1_addParts.data.toList.drop 24 = dktX1_addParts_1 := dk_seg dksX1_addParts_0 24 rfl rfl
theorem dksX1_addParts_2 : cX1_addParts.data.toList.drop 47 = dktX1_addParts_2 := dk_seg dksX1_addParts_1 23 rfl rfl
theorem dksX1_addParts_3 : cX1_addParts.data.toList.drop 70 = dktX1_addParts_3 := dk_seg dksX1_addParts_2 23 rfl rfl
theorem dksX1_addParts_4 : cX1_addParts.data.toList.drop 94 = dktX1_addParts_4 := dk_seg dksX1_addParts_3 24 rfl rfl
theorem dksX1_addParts_5 : cX1_addParts.data.toList.drop 116 = dktX1_addParts_5 := dk_seg dksX1_addParts_4 22 rfl rfl
theorem dksX1_addParts_6 : cX1_addParts.data.toList.drop 140 = dktX1_addParts_6 := dk_seg dksX1_addParts_5 24 rfl rfl
theorem dksX1_addParts_7 : cX1_addParts.data.toList.drop 163 = dktX1_addParts_7 := dk_seg dksX1_addParts_6 23 rfl rfl
theorem dksX1_addParts_8 : cX1_addParts.data.toList.drop 186 = dktX1_addParts_8 := dk_seg dksX1_addParts_7 23 rfl rfl
theorem dksX1_addParts_9 : cX1_addParts.data.toList.drop 208 = dktX1_addParts_9 := dk_seg dksX1_addParts_8 22 rfl rfl
theorem dX1_addParts_0 : decode cX1_addParts 0 = .ok (.lload_n 1, 1) := dk_31 (dk_at dksX1_addParts_0 0 rfl rfl)
theorem dX1_addParts_1 : decode cX1_addParts 1 = .ok (.lstore_n 3, 1) := dk_66 (dk_at dksX1_addParts_0 1 rfl rfl)
theorem dX1_addParts_2 : decode cX1_addParts 2 = .ok (.aload_n 0, 1) := dk_42 (dk_at dksX1_addParts_0 2 rfl rfl)
theorem dX1_addParts_3 : decode cX1_addParts 3 = .ok (.invokevirtual 103, 3) := dk_182 0 103 (dk_at dksX1_addParts_0 3 rfl rfl)
theorem dX1_addParts_6 : decode cX1_addParts 6 = .ok (.istore 5, 2) := dk_54 5 (dk_at dksX1_addParts_0 6 rfl rfl)
theorem dX1_addParts_8 : decode cX1_addParts 8 = .ok (.aload_n 0, 1) := dk_42 (dk_at dksX1_addParts_0 8 rfl rfl)
theorem dX1_addParts_9 : decode cX1_addParts 9 = .ok (.getfield 52, 3) := dk_180 0 52 (dk_at dksX1_addParts_0 9 rfl rfl)
theorem dX1_addParts_12 : decode cX1_addParts 12 = .ok (.invokevirtual 262, 3) := dk_182 1 6 (dk_at dksX1_addParts_0 12 rfl rfl)
theorem dX1_addParts_15 : decode cX1_addParts 15 = .ok (.astore 6, 2) := dk_58 6 (dk_at dksX1_addParts_0 15 rfl rfl)
theorem dX1_addParts_17 : decode cX1_addParts 17 = .ok (.aload_n 0, 1) := dk_42 (dk_at dksX1_addParts_0 17 rfl rfl)
theorem dX1_addParts_18 : decode cX1_addParts 18 = .ok (.getfield 52, 3) := dk_180 0 52 (dk_at dksX1_addParts_0 18 rfl rfl)
theorem dX1_addParts_21 : decode cX1_addParts 21 = .ok (.invokevirtual 297, 3) := dk_182 1 41 (dk_at dksX1_addParts_0 21 rfl rfl)
theorem dX1_addParts_24 : decode cX1_addParts 24 = .ok (.astore 7, 2) := dk_58 7 (dk_at dksX1_addParts_1 0 rfl rfl)
theorem dX1_addParts_26 : decode cX1_addParts 26 = .ok (.aload 7, 2) := dk_25 7 (dk_at dksX1_addParts_1 2 rfl rfl)
theorem dX1_addParts_28 : decode cX1_addParts 28 = .ok (.bipush 10, 2) := dk_16 10 (dk_at dksX1_addParts_1 4 rfl rfl)
theorem dX1_addParts_30 : decode cX1_addParts 30 = .ok (.invokevirtual 224, 3) := dk_182 0 224 (dk_at dksX1_addParts_1 6 rfl rfl)
theorem dX1_addParts_33 : decode cX1_addParts 33 = .ok (.pop, 1) := dk_87 (dk_at dksX1_addParts_1 9 rfl rfl)
theorem dX1_addParts_34 : decode cX1_addParts 34 = .ok (.aload 7, 2) := dk_25 7 (dk_at dksX1_addParts_1 10 rfl rfl)
theorem dX1_addParts_36 : decode cX1_addParts 36 = .ok (.invokevirtual 357, 3) := dk_182 1 101 (dk_at dksX1_addParts_1 12 rfl rfl)
theorem dX1_addParts_39 : decode cX1_addParts 39 = .ok (.aload_n 0, 1) := dk_42 (dk_at dksX1_addParts_1 15 rfl rfl)
theorem dX1_addParts_40 : decode cX1_addParts 40 = .ok (.getfield 52, 3) := dk_180 0 52 (dk_at dksX1_addParts_1 16 rfl rfl)
theorem dX1_addParts_43 : decode cX1_addParts 43 = .ok (.invokevirtual 357, 3) := dk_182 1 101 (dk_at dksX1_addParts_1 19 rfl rfl)
theorem dX1_addParts_46 : decode cX1_addParts 46 = .ok (.iconst 0, 1) := dk_3 (dk_at dksX1_addParts_1 22 rfl rfl)
theorem dX1_addParts_47 : decode cX1_addParts 47 = .ok (.istore 8, 2) := dk_54 8 (dk_at dksX1_addParts_2 0 rfl rfl)
theorem dX1_addParts_49 : decode cX1_addParts 49 = .ok (.iload 8, 2) := dk_21 8 (dk_at dksX1_addParts_2 2 rfl rfl)
theorem dX1_addParts_51 : decode cX1_addParts 51 = .ok (.iload 5, 2) := dk_21 5 (dk_at dksX1_addParts_2 4 rfl rfl)
theorem dX1_addParts_53 : decode cX1_addParts 53 = .ok (.if_icmp .ge 171, 3) := dk_162 0 171 (dk_at dksX1_addParts_2 6 rfl rfl)
theorem dX1_addParts_56 : decode cX1_addParts 56 = .ok (.aload_n 0, 1) := dk_42 (dk_at dksX1_addParts_2 9 rfl rfl)
theorem dX1_addParts_57 : decode cX1_addParts 57 = .ok (.getfield 52, 3) := dk_180 0 52 (dk_at dksX1_addParts_2 10 rfl rfl)
theorem dX1_addParts_60 : decode cX1_addParts 60 = .ok (.iload 8, 2) := dk_21 8 (dk_at dksX1_addParts_2 13 rfl rfl)
theorem dX1_addParts_62 : decode cX1_addParts 62 = .ok (.invokevirtual 110, 3) := dk_182 0 110 (dk_at dksX1_addParts_2 15 rfl rfl)
theorem dX1_addParts_65 : decode cX1_addParts 65 = .ok (.astore 9, 2) := dk_58 9 (dk_at dksX1_addParts_2 18 rfl rfl)
theorem dX1_addParts_67 : decode cX1_addParts 67 = .ok (.lload_n 3, 1) := dk_33 (dk_at dksX1_addParts_2 20 rfl rfl)
theorem dX1_addParts_68 : decode cX1_addParts 68 = .ok (.bipush 8, 2) := dk_16 8 (dk_at dksX1_addParts_2 21 rfl rfl)
theorem dX1_addParts_70 : decode cX1_addParts 70 = .ok (.newarray .int, 2) := dk_188_10 (dk_at dksX1_addParts_3 0 rfl rfl)
theorem dX1_addParts_72 : decode cX1_addParts 72 = .ok (.dup, 1) := dk_89 (dk_at dksX1_addParts_3 2 rfl rfl)
theorem dX1_addParts_73 : decode cX1_addParts 73 = .ok (.iconst 0, 1) := dk_3 (dk_at dksX1_addParts_3 3 rfl rfl)
theorem dX1_addParts_74 : decode cX1_addParts 74 = .ok (.aload 9, 2) := dk_25 9 (dk_at dksX1_addParts_3 4 rfl rfl)
theorem dX1_addParts_76 : decode cX1_addParts 76 = .ok (.invokevirtual 228, 3) := dk_182 0 228 (dk_at dksX1_addParts_3 6 rfl rfl)
theorem dX1_addParts_79 : decode cX1_addParts 79 = .ok (.iastore, 1) := dk_79 (dk_at dksX1_addParts_3 9 rfl rfl)
theorem dX1_addParts_80 : decode cX1_addParts 80 = .ok (.dup, 1) := dk_89 (dk_at dksX1_addParts_3 10 rfl rfl)
theorem dX1_addParts_81 : decode cX1_addParts 81 = .ok (.iconst 1, 1) := dk_4 (dk_at dksX1_addParts_3 11 rfl rfl)
theorem dX1_addParts_82 : decode cX1_addParts 82 = .ok (.aload 9, 2) := dk_25 9 (dk_at dksX1_addParts_3 12 rfl rfl)
theorem dX1_addParts_84 : decode cX1_addParts 84 = .ok (.invokevirtual 154, 3) := dk_182 0 154 (dk_at dksX1_addParts_3 14 rfl rfl)
theorem dX1_addParts_87 : decode cX1_addParts 87 = .ok (.iastore, 1) := dk_79 (dk_at dksX1_addParts_3 17 rfl rfl)
theorem dX1_addParts_88 : decode cX1_addParts 88 = .ok (.dup, 1) := dk_89 (dk_at dksX1_addParts_3 18 rfl rfl)
theorem dX1_addParts_89 : decode cX1_addParts 89 = .ok (.iconst 2, 1) := dk_5 (dk_at dksX1_addParts_3 19 rfl rfl)
theorem dX1_addParts_90 : decode cX1_addParts 90 = .ok (.aload_n 0, 1) := dk_42 (dk_at dksX1_addParts_3 20 rfl rfl)
theorem dX1_addParts_91 : decode cX1_addParts 91 = .ok (.getfield 52, 3) := dk_180 0 52 (dk_at dksX1_addParts_3 21 rfl rfl)
theorem dX1_addParts_94 : decode cX1_addParts 94 = .ok (.getfield 360, 3) := dk_180 1 104 (dk_at dksX1_addParts_4 0 rfl rfl)
theorem dX1_addParts_97 : decode cX1_addParts 97 = .ok (.iload 8, 2) := dk_21 8 (dk_at dksX1_addParts_4 3 rfl rfl)
theorem dX1_addParts_99 : decode cX1_addParts 99 = .ok (.iaload, 1) := dk_46 (dk_at dksX1_addParts_4 5 rfl rfl)
theorem dX1_addParts_100 : decode cX1_addParts 100 = .ok (.iastore, 1) := dk_79 (dk_at dksX1_addParts_4 6 rfl rfl)
theorem dX1_addParts_101 : decode cX1_addParts 101 = .ok (.dup, 1) := dk_89 (dk_at dksX1_addParts_4 7 rfl rfl)
theorem dX1_addParts_102 : decode cX1_addParts 102 = .ok (.iconst 3, 1) := dk_6 (dk_at dksX1_addParts_4 8 rfl rfl)
theorem dX1_addParts_103 : decode cX1_addParts 103 = .ok (.aload 9, 2) := dk_25 9 (dk_at dksX1_addParts_4 9 rfl rfl)
theorem dX1_addParts_105 : decode cX1_addParts 105 = .ok (.getfield 255, 3) := dk_180 0 255 (dk_at dksX1_addParts_4 11 rfl rfl)
theorem dX1_addParts_108 : decode cX1_addParts 108 = .ok (.iastore, 1) := dk_79 (dk_at dksX1_addParts_4 14 rfl rfl)
theorem dX1_addParts_109 : decode cX1_addParts 109 = .ok (.dup, 1) := dk_89 (dk_at dksX1_addParts_4 15 rfl rfl)
theorem dX1_addParts_110 : decode cX1_addParts 110 = .ok (.iconst 4, 1) := dk_7 (dk_at dksX1_addParts_4 16 rfl rfl)
theorem dX1_addParts_111 : decode cX1_addParts 111 = .ok (.aload 9, 2) := dk_25 9 (dk_at dksX1_addParts_4 17 rfl rfl)
theorem dX1_addParts_113 : decode cX1_addParts 113 = .ok (.getfield 255, 3) := dk_180 0 255 (dk_at dksX1_addParts_4 19 rfl rfl)
theorem dX1_addParts_116 : decode cX1_addParts 116 = .ok (.invokestatic 259, 3) := dk_184 1 3 (dk_at dksX1_addParts_5 0 rfl rfl)
theorem dX1_addParts_119 : decode cX1_addParts 119 = .ok (.iastore, 1) := dk_79 (dk_at dksX1_addParts_5 3 rfl rfl)
theorem dX1_addParts_120 : decode cX1_addParts 120 = .ok (.dup, 1) := dk_89 (dk_at dksX1_addParts_5 4 rfl rfl)
theorem dX1_addParts_121 : decode cX1_addParts 121 = .ok (.iconst 5, 1) := dk_8 (dk_at dksX1_addParts_5 5 rfl rfl)
theorem dX1_addParts_122 : decode cX1_addParts 122 = .ok (.aload 6, 2) := dk_25 6 (dk_at dksX1_addParts_5 6 rfl rfl)
theorem dX1_addParts_124 : decode cX1_addParts 124 = .ok (.iload 8, 2) := dk_21 8 (dk_at dksX1_addParts_5 8 rfl rfl)
theorem dX1_addParts_126 : decode cX1_addParts 126 = .ok (.iaload, 1) := dk_46 (dk_at dksX1_addParts_5 10 rfl rfl)
theorem dX1_addParts_127 : decode cX1_addParts 127 = .ok (.iastore, 1) := dk_79 (dk_at dksX1_addParts_5 11 rfl rfl)
theorem dX1_addParts_128 : decode cX1_addParts 128 = .ok (.dup, 1) := dk_89 (dk_at dksX1_addParts_5 12 rfl rfl)
theorem dX1_addParts_129 : decode cX1_addParts 129 = .ok (.bipush 6, 2) := dk_16 6 (dk_at dksX1_addParts_5 13 rfl rfl)
theorem dX1_addParts_131 : decode cX1_addParts 131 = .ok (.aload_n 0, 1) := dk_42 (dk_at dksX1_addParts_5 15 rfl rfl)
theorem dX1_addParts_132 : decode cX1_addParts 132 = .ok (.getfield 52, 3) := dk_180 0 52 (dk_at dksX1_addParts_5 16 rfl rfl)
theorem dX1_addParts_135 : decode cX1_addParts 135 = .ok (.iload 8, 2) := dk_21 8 (dk_at dksX1_addParts_5 19 rfl rfl)
theorem dX1_addParts_137 : decode cX1_addParts 137 = .ok (.invokevirtual 269, 3) := dk_182 1 13 (dk_at dksX1_addParts_5 21 rfl rfl)
theorem dX1_addParts_140 : decode cX1_addParts 140 = .ok (.iastore, 1) := dk_79 (dk_at dksX1_addParts_6 0 rfl rfl)
theorem dX1_addParts_141 : decode cX1_addParts 141 = .ok (.dup, 1) := dk_89 (dk_at dksX1_addParts_6 1 rfl rfl)
theorem dX1_addParts_142 : decode cX1_addParts 142 = .ok (.bipush 7, 2) := dk_16 7 (dk_at dksX1_addParts_6 2 rfl rfl)
theorem dX1_addParts_144 : decode cX1_addParts 144 = .ok (.aload 7, 2) := dk_25 7 (dk_at dksX1_addParts_6 4 rfl rfl)
theorem dX1_addParts_146 : decode cX1_addParts 146 = .ok (.getfield 360, 3) := dk_180 1 104 (dk_at dksX1_addParts_6 6 rfl rfl)
theorem dX1_addParts_149 : decode cX1_addParts 149 = .ok (.iload 8, 2) := dk_21 8 (dk_at dksX1_addParts_6 9 rfl rfl)
theorem dX1_addParts_151 : decode cX1_addParts 151 = .ok (.iaload, 1) := dk_46 (dk_at dksX1_addParts_6 11 rfl rfl)
theorem dX1_addParts_152 : decode cX1_addParts 152 = .ok (.iastore, 1) := dk_79 (dk_at dksX1_addParts_6 12 rfl rfl)
theorem dX1_addParts_153 : decode cX1_addParts 153 = .ok (.invokestatic 363, 3) := dk_184 1 107 (dk_at dksX1_addParts_6 13 rfl rfl)
theorem dX1_addParts_156 : decode cX1_addParts 156 = .ok (.lstore_n 3, 1) := dk_66 (dk_at dksX1_addParts_6 16 rfl rfl)
theorem dX1_addParts_157 : decode cX1_addParts 157 = .ok (.aload_n 0, 1) := dk_42 (dk_at dksX1_addParts_6 17 rfl rfl)
theorem dX1_addParts_158 : decode cX1_addParts 158 = .ok (.getfield 52, 3) := dk_180 0 52 (dk_at dksX1_addParts_6 18 rfl rfl)
theorem dX1_addParts_161 : decode cX1_addParts 161 = .ok (.aload 9, 2) := dk_25 9 (dk_at dksX1_addParts_6 21 rfl rfl)
theorem dX1_addParts_163 : decode cX1_addParts 163 = .ok (.invokevirtual 366, 3) := dk_182 1 110 (dk_at dksX1_addParts_7 0 rfl rfl)
theorem dX1_addParts_166 : decode cX1_addParts 166 = .ok (.iconst 0, 1) := dk_3 (dk_at dksX1_addParts_7 3 rfl rfl)
theorem dX1_addParts_167 : decode cX1_addParts 167 = .ok (.istore 10, 2) := dk_54 10 (dk_at dksX1_addParts_7 4 rfl rfl)
theorem dX1_addParts_169 : decode cX1_addParts 169 = .ok (.iload 10, 2) := dk_21 10 (dk_at dksX1_addParts_7 6 rfl rfl)
theorem dX1_addParts_171 : decode cX1_addParts 171 = .ok (.aload 9, 2) := dk_25 9 (dk_at dksX1_addParts_7 8 rfl rfl)
theorem dX1_addParts_173 : decode cX1_addParts 173 = .ok (.getfield 117, 3) := dk_180 0 117 (dk_at dksX1_addParts_7 10 rfl rfl)
theorem dX1_addParts_176 : decode cX1_addParts 176 = .ok (.arraylength, 1) := dk_190 (dk_at dksX1_addParts_7 13 rfl rfl)
theorem dX1_addParts_177 : decode cX1_addParts 177 = .ok (.if_icmp .ge 41, 3) := dk_162 0 41 (dk_at dksX1_addParts_7 14 rfl rfl)
theorem dX1_addParts_180 : decode cX1_addParts 180 = .ok (.lload_n 3, 1) := dk_33 (dk_at dksX1_addParts_7 17 rfl rfl)
theorem dX1_addParts_181 : decode cX1_addParts 181 = .ok (.iconst 2, 1) := dk_5 (dk_at dksX1_addParts_7 18 rfl rfl)
theorem dX1_addParts_182 : decode cX1_addParts 182 = .ok (.newarray .int, 2) := dk_188_10 (dk_at dksX1_addParts_7 19 rfl rfl)
theorem dX1_addParts_184 : decode cX1_addParts 184 = .ok (.dup, 1) := dk_89 (dk_at dksX1_addParts_7 21 rfl rfl)
theorem dX1_addParts_185 : decode cX1_addParts 185 = .ok (.iconst 0, 1) := dk_3 (dk_at dksX1_addParts_7 22 rfl rfl)
theorem dX1_addParts_186 : decode cX1_addParts 186 = .ok (.aload 9, 2) := dk_25 9 (dk_at dksX1_addParts_8 0 rfl rfl)
theorem dX1_addParts_188 : decode cX1_addParts 188 = .ok (.getfield 117, 3) := dk_180 0 117 (dk_at dksX1_addParts_8 2 rfl rfl)
theorem dX1_addParts_191 : decode cX1_addParts 191 = .ok (.iload 10, 2) := dk_21 10 (dk_at dksX1_addParts_8 5 rfl rfl)
theorem dX1_addParts_193 : decode cX1_addParts 193 = .ok (.iaload, 1) := dk_46 (dk_at dksX1_addParts_8 7 rfl rfl)
theorem dX1_addParts_194 : decode cX1_addParts 194 = .ok (.iastore, 1) := dk_79 (dk_at dksX1_addParts_8 8 rfl rfl)
theorem dX1_addParts_195 : decode cX1_addParts 195 = .ok (.dup, 1) := dk_89 (dk_at dksX1_addParts_8 9 rfl rfl)
theorem dX1_addParts_196 : decode cX1_addParts 196 = .ok (.iconst 1, 1) := dk_4 (dk_at dksX1_addParts_8 10 rfl rfl)
theorem dX1_addParts_197 : decode cX1_addParts 197 = .ok (.aload_n 0, 1) := dk_42 (dk_at dksX1_addParts_8 11 rfl rfl)
theorem dX1_addParts_198 : decode cX1_addParts 198 = .ok (.getfield 52, 3) := dk_180 0 52 (dk_at dksX1_addParts_8 12 rfl rfl)
theorem dX1_addParts_201 : decode cX1_addParts 201 = .ok (.getfield 370, 3) := dk_180 1 114 (dk_at dksX1_addParts_8 15 rfl rfl)
theorem dX1_addParts_204 : decode cX1_addParts 204 = .ok (.iload 10, 2) := dk_21 10 (dk_at dksX1_addParts_8 18 rfl rfl)
theorem dX1_addParts_206 : decode cX1_addParts 206 = .ok (.iaload, 1) := dk_46 (dk_at dksX1_addParts_8 20 rfl rfl)
theorem dX1_addParts_207 : decode cX1_addParts 207 = .ok (.iastore, 1) := dk_79 (dk_at dksX1_addParts_8 21 rfl rfl)
theorem dX1_addParts_208 : decode cX1_addParts 208 = .ok (.invokestatic 363, 3) := dk_184 1 107 (dk_at dksX1_addParts_9 0 rfl rfl)
theorem dX1_addParts_211 : decode cX1_addParts 211 = .ok (.lstore_n 3, 1) := dk_66 (dk_at dksX1_addParts_9 3 rfl rfl)
theorem dX1_addParts_212 : decode cX1_addParts 212 = .ok (.iinc 10 1, 3) := dk_132 10 1 (dk_at dksX1_addParts_9 4 rfl rfl)
theorem dX1_addParts_215 : decode cX1_addParts 215 = .ok (.goto (-46), 3) := dk_167 255 210 (dk_at dksX1_addParts_9 7 rfl rfl)
theorem dX1_addParts_218 : decode cX1_addParts 218 = .ok (.iinc 8 1, 3) := dk_132 8 1 (dk_at dksX1_addParts_9 10 rfl rfl)
theorem dX1_addParts_221 : decode cX1_addParts 221 = .ok (.goto (-172), 3) := dk_167 255 84 (dk_at dksX1_addParts_9 13 rfl rfl)
theorem dX1_addParts_224 : decode cX1_addParts 224 = .ok (.lload_n 3, 1) := dk_33 (dk_at dksX1_addParts_9 16 rfl rfl)
theorem dX1_addParts_225 : decode cX1_addParts 225 = .ok (.lreturn, 1) := dk_173 (dk_at dksX1_addParts_9 17 rfl rfl)
abbrev cX1_scaleFor : ByteArray := prog_1_method_53_code
def yX1_scaleFor : MethodName := ⟨RX1, "scaleFor", "(I)I"⟩
def dkwX1_scaleFor_0 : List UInt8 := [26, 154, 0, 7, 2, 167, 0, 8, 19, 1, 2, 26, 108, 172]
abbrev dktX1_scaleFor_0 : List UInt8 := dkwX1_scaleFor_0 ++ []
theorem dksX1_scaleFor_0 : cX1_scaleFor.data.toList.drop 0 = dktX1_scaleFor_0 := by decide +kernel
theorem dX1_scaleFor_0 : decode cX1_scaleFor 0 = .ok (.iload_n 0, 1) := dk_26 (dk_at dksX1_scaleFor_0 0 rfl rfl)
theorem dX1_scaleFor_1 : decode cX1_scaleFor 1 = .ok (.ifCond .ne 7, 3) := dk_154 0 7 (dk_at dksX1_scaleFor_0 1 rfl rfl)
theorem dX1_scaleFor_4 : decode cX1_scaleFor 4 = .ok (.iconst (-1), 1) := dk_2 (dk_at dksX1_scaleFor_0 4 rfl rfl)
theorem dX1_scaleFor_5 : decode cX1_scaleFor 5 = .ok (.goto 8, 3) := dk_167 0 8 (dk_at dksX1_scaleFor_0 5 rfl rfl)
theorem dX1_scaleFor_8 : decode cX1_scaleFor 8 = .ok (.ldc_w 258, 3) := dk_19 1 2 (dk_at dksX1_scaleFor_0 8 rfl rfl)
theorem dX1_scaleFor_11 : decode cX1_scaleFor 11 = .ok (.iload_n 0, 1) := dk_26 (dk_at dksX1_scaleFor_0 11 rfl rfl)
theorem dX1_scaleFor_12 : decode cX1_scaleFor 12 = .ok (.idiv, 1) := dk_108 (dk_at dksX1_scaleFor_0 12 rfl rfl)
theorem dX1_scaleFor_13 : decode cX1_scaleFor 13 = .ok (.ireturn, 1) := dk_172 (dk_at dksX1_scaleFor_0 13 rfl rfl)
abbrev cX1_addSettings : ByteArray := prog_1_method_80_code
def yX1_addSettings : MethodName := ⟨RX1, "addSettings", "(J)J"⟩
def dkwX1_addSettings_7 : List UInt8 := [182, 0, 248, 79, 184, 1, 107, 66, 132, 6, 1, 167, 255, 181, 33, 173]
abbrev dktX1_addSettings_7 : List UInt8 := dkwX1_addSettings_7 ++ []
def dkwX1_addSettings_6 : List UInt8 := [89, 3, 25, 7, 180, 0, 173, 79, 89, 4, 25, 7, 180, 0, 245, 79, 89, 5, 42, 180, 0, 52, 25, 7]
abbrev dktX1_addSettings_6 : List UInt8 := dkwX1_addSettings_6 ++ dktX1_addSettings_7
def dkwX1_addSettings_5 : List UInt8 := [193, 0, 31, 153, 0, 53, 42, 180, 0, 52, 21, 6, 182, 0, 110, 192, 0, 31, 58, 7, 33, 6, 188, 10]
abbrev dktX1_addSettings_5 : List UInt8 := dkwX1_addSettings_5 ++ dktX1_addSettings_6
def dkwX1_addSettings_4 : List UInt8 := [167, 255, 173, 3, 54, 6, 21, 6, 21, 5, 162, 0, 74, 42, 180, 0, 52, 21, 6, 182, 0, 110]
abbrev dktX1_addSettings_4 : List UInt8 := dkwX1_addSettings_4 ++ dktX1_addSettings_5
def dkwX1_addSettings_3 : List UInt8 := [25, 7, 5, 182, 0, 231, 79, 89, 6, 25, 7, 6, 182, 0, 231, 79, 184, 1, 107, 66, 132, 6, 1]
abbrev dktX1_addSettings_3 : List UInt8 := dkwX1_addSettings_3 ++ dktX1_addSettings_4
def dkwX1_addSettings_2 : List UInt8 := [7, 188, 10, 89, 3, 25, 7, 3, 182, 0, 231, 79, 89, 4, 25, 7, 4, 182, 0, 231, 79, 89, 5]
abbrev dktX1_addSettings_2 : List UInt8 := dkwX1_addSettings_2 ++ dktX1_addSettings_3
def dkwX1_addSettings_1 : List UInt8 := [182, 0, 110, 193, 0, 127, 153, 0, 61, 42, 180, 0, 52, 21, 6, 182, 0, 110, 192, 0, 127, 58, 7, 33]
abbrev dktX1_addSettings_1 : List UInt8 := dkwX1_addSettings_1 ++ dktX1_addSettings_2
def dkwX1_addSettings_0 : List UInt8 := [31, 66, 42, 182, 0, 103, 54, 5, 3, 54, 6, 21, 6, 21, 5, 162, 0, 82, 42, 180, 0, 52, 21, 6]
abbrev dktX1_addSettings_0 : List UInt8 := dkwX1_addSettings_0 ++ dktX1_addSettings_1
theorem dksX1_addSettings_0 : cX1_addSettings.data.toList.drop 0 = dktX1_addSettings_0 := by decide +kernel
theorem dksX1_addSettings_1 : cX1_addSettings.data.toList.drop 24 = dktX1_addSettings_1 := dk_seg dksX1_addSettings_0 24 rfl rfl
theorem dksX1_addSettings_2 : cX1_addSettings.data.toList.drop 48 = dktX1_addSettings_2 := dk_seg dksX1_addSettings_1 24 rfl rfl
theorem dksX1_addSettings_3 : cX1_addSettings.data.toList.drop 71 = dktX1_addSettings_3 := dk_seg dksX1_addSettings_2 23 rfl rfl
theorem dksX1_addSettings_4 : cX1_addSettings.data.toList.drop 94 = dktX1_addSettings_4 := dk_seg dksX1_addSettings_3 23 rfl rfl
theorem dksX1_addSettings_5 : cX1_addSettings.data.toList.drop 116 = dktX1_addSettings_5 := dk_seg dksX1_addSettings_4 22 rfl rfl
theorem dksX1_addSettings_6 : cX1_addSettings.data.toList.drop 140 = dktX1_addSettings_6 := dk_seg dksX1_addSettings_5 24 rfl rfl
theorem dksX1_addSettings_7 : cX1_addSettings.data.toList.drop 164 = dktX1_addSettings_7 := dk_seg dksX1_addSettings_6 24 rfl rfl
theorem dX1_addSettings_0 : decode cX1_addSettings 0 = .ok (.lload_n 1, 1) := dk_31 (dk_at dksX1_addSettings_0 0 rfl rfl)
theorem dX1_addSettings_1 : decode cX1_addSettings 1 = .ok (.lstore_n 3, 1) := dk_66 (dk_at dksX1_addSettings_0 1 rfl rfl)
theorem dX1_addSettings_2 : decode cX1_addSettings 2 = .ok (.aload_n 0, 1) := dk_42 (dk_at dksX1_addSettings_0 2 rfl rfl)
theorem dX1_addSettings_3 : decode cX1_addSettings 3 = .ok (.invokevirtual 103, 3) := dk_182 0 103 (dk_at dksX1_addSettings_0 3 rfl rfl)
theorem dX1_addSettings_6 : decode cX1_addSettings 6 = .ok (.istore 5, 2) := dk_54 5 (dk_at dksX1_addSettings_0 6 rfl rfl)
theorem dX1_addSettings_8 : decode cX1_addSettings 8 = .ok (.iconst 0, 1) := dk_3 (dk_at dksX1_addSettings_0 8 rfl rfl)
theorem dX1_addSettings_9 : decode cX1_addSettings 9 = .ok (.istore 6, 2) := dk_54 6 (dk_at dksX1_addSettings_0 9 rfl rfl)
theorem dX1_addSettings_11 : decode cX1_addSettings 11 = .ok (.iload 6, 2) := dk_21 6 (dk_at dksX1_addSettings_0 11 rfl rfl)
theorem dX1_addSettings_13 : decode cX1_addSettings 13 = .ok (.iload 5, 2) := dk_21 5 (dk_at dksX1_addSettings_0 13 rfl rfl)
theorem dX1_addSettings_15 : decode cX1_addSettings 15 = .ok (.if_icmp .ge 82, 3) := dk_162 0 82 (dk_at dksX1_addSettings_0 15 rfl rfl)
theorem dX1_addSettings_18 : decode cX1_addSettings 18 = .ok (.aload_n 0, 1) := dk_42 (dk_at dksX1_addSettings_0 18 rfl rfl)
theorem dX1_addSettings_19 : decode cX1_addSettings 19 = .ok (.getfield 52, 3) := dk_180 0 52 (dk_at dksX1_addSettings_0 19 rfl rfl)
theorem dX1_addSettings_22 : decode cX1_addSettings 22 = .ok (.iload 6, 2) := dk_21 6 (dk_at dksX1_addSettings_0 22 rfl rfl)
theorem dX1_addSettings_24 : decode cX1_addSettings 24 = .ok (.invokevirtual 110, 3) := dk_182 0 110 (dk_at dksX1_addSettings_1 0 rfl rfl)
theorem dX1_addSettings_27 : decode cX1_addSettings 27 = .ok (.instanceof 127, 3) := dk_193 0 127 (dk_at dksX1_addSettings_1 3 rfl rfl)
theorem dX1_addSettings_30 : decode cX1_addSettings 30 = .ok (.ifCond .eq 61, 3) := dk_153 0 61 (dk_at dksX1_addSettings_1 6 rfl rfl)
theorem dX1_addSettings_33 : decode cX1_addSettings 33 = .ok (.aload_n 0, 1) := dk_42 (dk_at dksX1_addSettings_1 9 rfl rfl)
theorem dX1_addSettings_34 : decode cX1_addSettings 34 = .ok (.getfield 52, 3) := dk_180 0 52 (dk_at dksX1_addSettings_1 10 rfl rfl)
theorem dX1_addSettings_37 : decode cX1_addSettings 37 = .ok (.iload 6, 2) := dk_21 6 (dk_at dksX1_addSettings_1 13 rfl rfl)
theorem dX1_addSettings_39 : decode cX1_addSettings 39 = .ok (.invokevirtual 110, 3) := dk_182 0 110 (dk_at dksX1_addSettings_1 15 rfl rfl)
theorem dX1_addSettings_42 : decode cX1_addSettings 42 = .ok (.checkcast 127, 3) := dk_192 0 127 (dk_at dksX1_addSettings_1 18 rfl rfl)
theorem dX1_addSettings_45 : decode cX1_addSettings 45 = .ok (.astore 7, 2) := dk_58 7 (dk_at dksX1_addSettings_1 21 rfl rfl)
theorem dX1_addSettings_47 : decode cX1_addSettings 47 = .ok (.lload_n 3, 1) := dk_33 (dk_at dksX1_addSettings_1 23 rfl rfl)
theorem dX1_addSettings_48 : decode cX1_addSettings 48 = .ok (.iconst 4, 1) := dk_7 (dk_at dksX1_addSettings_2 0 rfl rfl)
theorem dX1_addSettings_49 : decode cX1_addSettings 49 = .ok (.newarray .int, 2) := dk_188_10 (dk_at dksX1_addSettings_2 1 rfl rfl)
theorem dX1_addSettings_51 : decode cX1_addSettings 51 = .ok (.dup, 1) := dk_89 (dk_at dksX1_addSettings_2 3 rfl rfl)
theorem dX1_addSettings_52 : decode cX1_addSettings 52 = .ok (.iconst 0, 1) := dk_3 (dk_at dksX1_addSettings_2 4 rfl rfl)
theorem dX1_addSettings_53 : decode cX1_addSettings 53 = .ok (.aload 7, 2) := dk_25 7 (dk_at dksX1_addSettings_2 5 rfl rfl)
theorem dX1_addSettings_55 : decode cX1_addSettings 55 = .ok (.iconst 0, 1) := dk_3 (dk_at dksX1_addSettings_2 7 rfl rfl)
theorem dX1_addSettings_56 : decode cX1_addSettings 56 = .ok (.invokevirtual 231, 3) := dk_182 0 231 (dk_at dksX1_addSettings_2 8 rfl rfl)
theorem dX1_addSettings_59 : decode cX1_addSettings 59 = .ok (.iastore, 1) := dk_79 (dk_at dksX1_addSettings_2 11 rfl rfl)
theorem dX1_addSettings_60 : decode cX1_addSettings 60 = .ok (.dup, 1) := dk_89 (dk_at dksX1_addSettings_2 12 rfl rfl)
theorem dX1_addSettings_61 : decode cX1_addSettings 61 = .ok (.iconst 1, 1) := dk_4 (dk_at dksX1_addSettings_2 13 rfl rfl)
theorem dX1_addSettings_62 : decode cX1_addSettings 62 = .ok (.aload 7, 2) := dk_25 7 (dk_at dksX1_addSettings_2 14 rfl rfl)
theorem dX1_addSettings_64 : decode cX1_addSettings 64 = .ok (.iconst 1, 1) := dk_4 (dk_at dksX1_addSettings_2 16 rfl rfl)
theorem dX1_addSettings_65 : decode cX1_addSettings 65 = .ok (.invokevirtual 231, 3) := dk_182 0 231 (dk_at dksX1_addSettings_2 17 rfl rfl)
theorem dX1_addSettings_68 : decode cX1_addSettings 68 = .ok (.iastore, 1) := dk_79 (dk_at dksX1_addSettings_2 20 rfl rfl)
theorem dX1_addSettings_69 : decode cX1_addSettings 69 = .ok (.dup, 1) := dk_89 (dk_at dksX1_addSettings_2 21 rfl rfl)
theorem dX1_addSettings_70 : decode cX1_addSettings 70 = .ok (.iconst 2, 1) := dk_5 (dk_at dksX1_addSettings_2 22 rfl rfl)
theorem dX1_addSettings_71 : decode cX1_addSettings 71 = .ok (.aload 7, 2) := dk_25 7 (dk_at dksX1_addSettings_3 0 rfl rfl)
theorem dX1_addSettings_73 : decode cX1_addSettings 73 = .ok (.iconst 2, 1) := dk_5 (dk_at dksX1_addSettings_3 2 rfl rfl)
theorem dX1_addSettings_74 : decode cX1_addSettings 74 = .ok (.invokevirtual 231, 3) := dk_182 0 231 (dk_at dksX1_addSettings_3 3 rfl rfl)
theorem dX1_addSettings_77 : decode cX1_addSettings 77 = .ok (.iastore, 1) := dk_79 (dk_at dksX1_addSettings_3 6 rfl rfl)
theorem dX1_addSettings_78 : decode cX1_addSettings 78 = .ok (.dup, 1) := dk_89 (dk_at dksX1_addSettings_3 7 rfl rfl)
theorem dX1_addSettings_79 : decode cX1_addSettings 79 = .ok (.iconst 3, 1) := dk_6 (dk_at dksX1_addSettings_3 8 rfl rfl)
theorem dX1_addSettings_80 : decode cX1_addSettings 80 = .ok (.aload 7, 2) := dk_25 7 (dk_at dksX1_addSettings_3 9 rfl rfl)
theorem dX1_addSettings_82 : decode cX1_addSettings 82 = .ok (.iconst 3, 1) := dk_6 (dk_at dksX1_addSettings_3 11 rfl rfl)
theorem dX1_addSettings_83 : decode cX1_addSettings 83 = .ok (.invokevirtual 231, 3) := dk_182 0 231 (dk_at dksX1_addSettings_3 12 rfl rfl)
theorem dX1_addSettings_86 : decode cX1_addSettings 86 = .ok (.iastore, 1) := dk_79 (dk_at dksX1_addSettings_3 15 rfl rfl)
theorem dX1_addSettings_87 : decode cX1_addSettings 87 = .ok (.invokestatic 363, 3) := dk_184 1 107 (dk_at dksX1_addSettings_3 16 rfl rfl)
theorem dX1_addSettings_90 : decode cX1_addSettings 90 = .ok (.lstore_n 3, 1) := dk_66 (dk_at dksX1_addSettings_3 19 rfl rfl)
theorem dX1_addSettings_91 : decode cX1_addSettings 91 = .ok (.iinc 6 1, 3) := dk_132 6 1 (dk_at dksX1_addSettings_3 20 rfl rfl)
theorem dX1_addSettings_94 : decode cX1_addSettings 94 = .ok (.goto (-83), 3) := dk_167 255 173 (dk_at dksX1_addSettings_4 0 rfl rfl)
theorem dX1_addSettings_97 : decode cX1_addSettings 97 = .ok (.iconst 0, 1) := dk_3 (dk_at dksX1_addSettings_4 3 rfl rfl)
theorem dX1_addSettings_98 : decode cX1_addSettings 98 = .ok (.istore 6, 2) := dk_54 6 (dk_at dksX1_addSettings_4 4 rfl rfl)
theorem dX1_addSettings_100 : decode cX1_addSettings 100 = .ok (.iload 6, 2) := dk_21 6 (dk_at dksX1_addSettings_4 6 rfl rfl)
theorem dX1_addSettings_102 : decode cX1_addSettings 102 = .ok (.iload 5, 2) := dk_21 5 (dk_at dksX1_addSettings_4 8 rfl rfl)
theorem dX1_addSettings_104 : decode cX1_addSettings 104 = .ok (.if_icmp .ge 74, 3) := dk_162 0 74 (dk_at dksX1_addSettings_4 10 rfl rfl)
theorem dX1_addSettings_107 : decode cX1_addSettings 107 = .ok (.aload_n 0, 1) := dk_42 (dk_at dksX1_addSettings_4 13 rfl rfl)
theorem dX1_addSettings_108 : decode cX1_addSettings 108 = .ok (.getfield 52, 3) := dk_180 0 52 (dk_at dksX1_addSettings_4 14 rfl rfl)
theorem dX1_addSettings_111 : decode cX1_addSettings 111 = .ok (.iload 6, 2) := dk_21 6 (dk_at dksX1_addSettings_4 17 rfl rfl)
theorem dX1_addSettings_113 : decode cX1_addSettings 113 = .ok (.invokevirtual 110, 3) := dk_182 0 110 (dk_at dksX1_addSettings_4 19 rfl rfl)
theorem dX1_addSettings_116 : decode cX1_addSettings 116 = .ok (.instanceof 31, 3) := dk_193 0 31 (dk_at dksX1_addSettings_5 0 rfl rfl)
theorem dX1_addSettings_119 : decode cX1_addSettings 119 = .ok (.ifCond .eq 53, 3) := dk_153 0 53 (dk_at dksX1_addSettings_5 3 rfl rfl)
theorem dX1_addSettings_122 : decode cX1_addSettings 122 = .ok (.aload_n 0, 1) := dk_42 (dk_at dksX1_addSettings_5 6 rfl rfl)
theorem dX1_addSettings_123 : decode cX1_addSettings 123 = .ok (.getfield 52, 3) := dk_180 0 52 (dk_at dksX1_addSettings_5 7 rfl rfl)
theorem dX1_addSettings_126 : decode cX1_addSettings 126 = .ok (.iload 6, 2) := dk_21 6 (dk_at dksX1_addSettings_5 10 rfl rfl)
theorem dX1_addSettings_128 : decode cX1_addSettings 128 = .ok (.invokevirtual 110, 3) := dk_182 0 110 (dk_at dksX1_addSettings_5 12 rfl rfl)
theorem dX1_addSettings_131 : decode cX1_addSettings 131 = .ok (.checkcast 31, 3) := dk_192 0 31 (dk_at dksX1_addSettings_5 15 rfl rfl)
theorem dX1_addSettings_134 : decode cX1_addSettings 134 = .ok (.astore 7, 2) := dk_58 7 (dk_at dksX1_addSettings_5 18 rfl rfl)
theorem dX1_addSettings_136 : decode cX1_addSettings 136 = .ok (.lload_n 3, 1) := dk_33 (dk_at dksX1_addSettings_5 20 rfl rfl)
theorem dX1_addSettings_137 : decode cX1_addSettings 137 = .ok (.iconst 3, 1) := dk_6 (dk_at dksX1_addSettings_5 21 rfl rfl)
theorem dX1_addSettings_138 : decode cX1_addSettings 138 = .ok (.newarray .int, 2) := dk_188_10 (dk_at dksX1_addSettings_5 22 rfl rfl)
theorem dX1_addSettings_140 : decode cX1_addSettings 140 = .ok (.dup, 1) := dk_89 (dk_at dksX1_addSettings_6 0 rfl rfl)
theorem dX1_addSettings_141 : decode cX1_addSettings 141 = .ok (.iconst 0, 1) := dk_3 (dk_at dksX1_addSettings_6 1 rfl rfl)
theorem dX1_addSettings_142 : decode cX1_addSettings 142 = .ok (.aload 7, 2) := dk_25 7 (dk_at dksX1_addSettings_6 2 rfl rfl)
theorem dX1_addSettings_144 : decode cX1_addSettings 144 = .ok (.getfield 173, 3) := dk_180 0 173 (dk_at dksX1_addSettings_6 4 rfl rfl)
theorem dX1_addSettings_147 : decode cX1_addSettings 147 = .ok (.iastore, 1) := dk_79 (dk_at dksX1_addSettings_6 7 rfl rfl)
theorem dX1_addSettings_148 : decode cX1_addSettings 148 = .ok (.dup, 1) := dk_89 (dk_at dksX1_addSettings_6 8 rfl rfl)
theorem dX1_addSettings_149 : decode cX1_addSettings 149 = .ok (.iconst 1, 1) := dk_4 (dk_at dksX1_addSettings_6 9 rfl rfl)
theorem dX1_addSettings_150 : decode cX1_addSettings 150 = .ok (.aload 7, 2) := dk_25 7 (dk_at dksX1_addSettings_6 10 rfl rfl)
theorem dX1_addSettings_152 : decode cX1_addSettings 152 = .ok (.getfield 245, 3) := dk_180 0 245 (dk_at dksX1_addSettings_6 12 rfl rfl)
theorem dX1_addSettings_155 : decode cX1_addSettings 155 = .ok (.iastore, 1) := dk_79 (dk_at dksX1_addSettings_6 15 rfl rfl)
theorem dX1_addSettings_156 : decode cX1_addSettings 156 = .ok (.dup, 1) := dk_89 (dk_at dksX1_addSettings_6 16 rfl rfl)
theorem dX1_addSettings_157 : decode cX1_addSettings 157 = .ok (.iconst 2, 1) := dk_5 (dk_at dksX1_addSettings_6 17 rfl rfl)
theorem dX1_addSettings_158 : decode cX1_addSettings 158 = .ok (.aload_n 0, 1) := dk_42 (dk_at dksX1_addSettings_6 18 rfl rfl)
theorem dX1_addSettings_159 : decode cX1_addSettings 159 = .ok (.getfield 52, 3) := dk_180 0 52 (dk_at dksX1_addSettings_6 19 rfl rfl)
theorem dX1_addSettings_162 : decode cX1_addSettings 162 = .ok (.aload 7, 2) := dk_25 7 (dk_at dksX1_addSettings_6 22 rfl rfl)
theorem dX1_addSettings_164 : decode cX1_addSettings 164 = .ok (.invokevirtual 248, 3) := dk_182 0 248 (dk_at dksX1_addSettings_7 0 rfl rfl)
theorem dX1_addSettings_167 : decode cX1_addSettings 167 = .ok (.iastore, 1) := dk_79 (dk_at dksX1_addSettings_7 3 rfl rfl)
theorem dX1_addSettings_168 : decode cX1_addSettings 168 = .ok (.invokestatic 363, 3) := dk_184 1 107 (dk_at dksX1_addSettings_7 4 rfl rfl)
theorem dX1_addSettings_171 : decode cX1_addSettings 171 = .ok (.lstore_n 3, 1) := dk_66 (dk_at dksX1_addSettings_7 7 rfl rfl)
theorem dX1_addSettings_172 : decode cX1_addSettings 172 = .ok (.iinc 6 1, 3) := dk_132 6 1 (dk_at dksX1_addSettings_7 8 rfl rfl)
theorem dX1_addSettings_175 : decode cX1_addSettings 175 = .ok (.goto (-75), 3) := dk_167 255 181 (dk_at dksX1_addSettings_7 11 rfl rfl)
theorem dX1_addSettings_178 : decode cX1_addSettings 178 = .ok (.lload_n 3, 1) := dk_33 (dk_at dksX1_addSettings_7 14 rfl rfl)
theorem dX1_addSettings_179 : decode cX1_addSettings 179 = .ok (.lreturn, 1) := dk_173 (dk_at dksX1_addSettings_7 15 rfl rfl)
abbrev cX1_put : ByteArray := prog_1_method_21_code
def yX1_put : MethodName := ⟨RX1, "put", "(I)I"⟩
def dkwX1_put_1 : List UInt8 := [182, 0, 136, 42, 180, 0, 52, 27, 182, 0, 139, 172]
abbrev dktX1_put_1 : List UInt8 := dkwX1_put_1 ++ []
def dkwX1_put_0 : List UInt8 := [27, 3, 8, 184, 0, 132, 42, 182, 0, 103, 16, 16, 162, 0, 7, 4, 167, 0, 4, 3, 184, 0, 96, 42]
abbrev dktX1_put_0 : List UInt8 := dkwX1_put_0 ++ dktX1_put_1
theorem dksX1_put_0 : cX1_put.data.toList.drop 0 = dktX1_put_0 := by decide +kernel
theorem dksX1_put_1 : cX1_put.data.toList.drop 24 = dktX1_put_1 := dk_seg dksX1_put_0 24 rfl rfl
theorem dX1_put_0 : decode cX1_put 0 = .ok (.iload_n 1, 1) := dk_27 (dk_at dksX1_put_0 0 rfl rfl)
theorem dX1_put_1 : decode cX1_put 1 = .ok (.iconst 0, 1) := dk_3 (dk_at dksX1_put_0 1 rfl rfl)
theorem dX1_put_2 : decode cX1_put 2 = .ok (.iconst 5, 1) := dk_8 (dk_at dksX1_put_0 2 rfl rfl)
theorem dX1_put_3 : decode cX1_put 3 = .ok (.invokestatic 132, 3) := dk_184 0 132 (dk_at dksX1_put_0 3 rfl rfl)
theorem dX1_put_6 : decode cX1_put 6 = .ok (.aload_n 0, 1) := dk_42 (dk_at dksX1_put_0 6 rfl rfl)
theorem dX1_put_7 : decode cX1_put 7 = .ok (.invokevirtual 103, 3) := dk_182 0 103 (dk_at dksX1_put_0 7 rfl rfl)
theorem dX1_put_10 : decode cX1_put 10 = .ok (.bipush 16, 2) := dk_16 16 (dk_at dksX1_put_0 10 rfl rfl)
theorem dX1_put_12 : decode cX1_put 12 = .ok (.if_icmp .ge 7, 3) := dk_162 0 7 (dk_at dksX1_put_0 12 rfl rfl)
theorem dX1_put_15 : decode cX1_put 15 = .ok (.iconst 1, 1) := dk_4 (dk_at dksX1_put_0 15 rfl rfl)
theorem dX1_put_16 : decode cX1_put 16 = .ok (.goto 4, 3) := dk_167 0 4 (dk_at dksX1_put_0 16 rfl rfl)
theorem dX1_put_19 : decode cX1_put 19 = .ok (.iconst 0, 1) := dk_3 (dk_at dksX1_put_0 19 rfl rfl)
theorem dX1_put_20 : decode cX1_put 20 = .ok (.invokestatic 96, 3) := dk_184 0 96 (dk_at dksX1_put_0 20 rfl rfl)
theorem dX1_put_23 : decode cX1_put 23 = .ok (.aload_n 0, 1) := dk_42 (dk_at dksX1_put_0 23 rfl rfl)
theorem dX1_put_24 : decode cX1_put 24 = .ok (.invokevirtual 136, 3) := dk_182 0 136 (dk_at dksX1_put_1 0 rfl rfl)
theorem dX1_put_27 : decode cX1_put 27 = .ok (.aload_n 0, 1) := dk_42 (dk_at dksX1_put_1 3 rfl rfl)
theorem dX1_put_28 : decode cX1_put 28 = .ok (.getfield 52, 3) := dk_180 0 52 (dk_at dksX1_put_1 4 rfl rfl)
theorem dX1_put_31 : decode cX1_put 31 = .ok (.iload_n 1, 1) := dk_27 (dk_at dksX1_put_1 7 rfl rfl)
theorem dX1_put_32 : decode cX1_put 32 = .ok (.invokevirtual 139, 3) := dk_182 0 139 (dk_at dksX1_put_1 8 rfl rfl)
theorem dX1_put_35 : decode cX1_put 35 = .ok (.ireturn, 1) := dk_172 (dk_at dksX1_put_1 11 rfl rfl)
abbrev cX1_checkRange : ByteArray := prog_1_method_2_code
def yX1_checkRange : MethodName := ⟨RX1, "checkRange", "(III)V"⟩
def dkwX1_checkRange_0 : List UInt8 := [26, 27, 28, 184, 0, 3, 154, 0, 11, 187, 0, 7, 89, 183, 0, 9, 191, 177]
abbrev dktX1_checkRange_0 : List UInt8 := dkwX1_checkRange_0 ++ []
theorem dksX1_checkRange_0 : cX1_checkRange.data.toList.drop 0 = dktX1_checkRange_0 := by decide +kernel
theorem dX1_checkRange_0 : decode cX1_checkRange 0 = .ok (.iload_n 0, 1) := dk_26 (dk_at dksX1_checkRange_0 0 rfl rfl)
theorem dX1_checkRange_1 : decode cX1_checkRange 1 = .ok (.iload_n 1, 1) := dk_27 (dk_at dksX1_checkRange_0 1 rfl rfl)
theorem dX1_checkRange_2 : decode cX1_checkRange 2 = .ok (.iload_n 2, 1) := dk_28 (dk_at dksX1_checkRange_0 2 rfl rfl)
theorem dX1_checkRange_3 : decode cX1_checkRange 3 = .ok (.invokestatic 3, 3) := dk_184 0 3 (dk_at dksX1_checkRange_0 3 rfl rfl)
theorem dX1_checkRange_6 : decode cX1_checkRange 6 = .ok (.ifCond .ne 11, 3) := dk_154 0 11 (dk_at dksX1_checkRange_0 6 rfl rfl)
theorem dX1_checkRange_9 : decode cX1_checkRange 9 = .ok (.new 7, 3) := dk_187 0 7 (dk_at dksX1_checkRange_0 9 rfl rfl)
theorem dX1_checkRange_12 : decode cX1_checkRange 12 = .ok (.dup, 1) := dk_89 (dk_at dksX1_checkRange_0 12 rfl rfl)
theorem dX1_checkRange_13 : decode cX1_checkRange 13 = .ok (.invokespecial 9, 3) := dk_183 0 9 (dk_at dksX1_checkRange_0 13 rfl rfl)
theorem dX1_checkRange_16 : decode cX1_checkRange 16 = .ok (.athrow, 1) := dk_191 (dk_at dksX1_checkRange_0 16 rfl rfl)
theorem dX1_checkRange_17 : decode cX1_checkRange 17 = .ok (.return_, 1) := dk_177 (dk_at dksX1_checkRange_0 17 rfl rfl)
abbrev cX1_checkState : ByteArray := prog_1_method_5_code
def yX1_checkState : MethodName := ⟨RX1, "checkState", "(Z)V"⟩
def dkwX1_checkState_0 : List UInt8 := [26, 154, 0, 11, 187, 0, 16, 89, 183, 0, 18, 191, 177]
abbrev dktX1_checkState_0 : List UInt8 := dkwX1_checkState_0 ++ []
theorem dksX1_checkState_0 : cX1_checkState.data.toList.drop 0 = dktX1_checkState_0 := by decide +kernel
theorem dX1_checkState_0 : decode cX1_checkState 0 = .ok (.iload_n 0, 1) := dk_26 (dk_at dksX1_checkState_0 0 rfl rfl)
theorem dX1_checkState_1 : decode cX1_checkState 1 = .ok (.ifCond .ne 11, 3) := dk_154 0 11 (dk_at dksX1_checkState_0 1 rfl rfl)
theorem dX1_checkState_4 : decode cX1_checkState 4 = .ok (.new 16, 3) := dk_187 0 16 (dk_at dksX1_checkState_0 4 rfl rfl)
theorem dX1_checkState_7 : decode cX1_checkState 7 = .ok (.dup, 1) := dk_89 (dk_at dksX1_checkState_0 7 rfl rfl)
theorem dX1_checkState_8 : decode cX1_checkState 8 = .ok (.invokespecial 18, 3) := dk_183 0 18 (dk_at dksX1_checkState_0 8 rfl rfl)
theorem dX1_checkState_11 : decode cX1_checkState 11 = .ok (.athrow, 1) := dk_191 (dk_at dksX1_checkState_0 11 rfl rfl)
theorem dX1_checkState_12 : decode cX1_checkState 12 = .ok (.return_, 1) := dk_177 (dk_at dksX1_checkState_0 12 rfl rfl)
abbrev cX1_newPart : ByteArray := prog_1_method_8_code
def yX1_newPart : MethodName := ⟨RX1, "newPart", "(I)LPatchCords$Part;"⟩
def dkwX1_newPart_3 : List UInt8 := [187, 0, 37, 89, 183, 0, 39, 176, 187, 0, 40, 89, 183, 0, 42, 176, 187, 0, 43, 89, 183, 0, 45, 176]
abbrev dktX1_newPart_3 : List UInt8 := dkwX1_newPart_3 ++ []
def dkwX1_newPart_2 : List UInt8 := [187, 0, 28, 89, 183, 0, 30, 176, 187, 0, 31, 89, 183, 0, 33, 176, 187, 0, 34, 89, 183, 0, 36, 176]
abbrev dktX1_newPart_2 : List UInt8 := dkwX1_newPart_2 ++ dktX1_newPart_3
def dkwX1_newPart_1 : List UInt8 := [170, 0, 0, 0, 0, 0, 75, 0, 0, 0, 0, 0, 0, 0, 4, 0, 0, 0, 35, 0, 0, 0, 43, 0, 0, 0, 51, 0, 0, 0, 59, 0, 0, 0, 67]
abbrev dktX1_newPart_1 : List UInt8 := dkwX1_newPart_1 ++ dktX1_newPart_2
def dkwX1_newPart_0 : List UInt8 := [26]
abbrev dktX1_newPart_0 : List UInt8 := dkwX1_newPart_0 ++ dktX1_newPart_1
theorem dksX1_newPart_0 : cX1_newPart.data.toList.drop 0 = dktX1_newPart_0 := by decide +kernel
theorem dksX1_newPart_1 : cX1_newPart.data.toList.drop 1 = dktX1_newPart_1 := dk_seg dksX1_newPart_0 1 rfl rfl
theorem dksX1_newPart_2 : cX1_newPart.data.toList.drop 36 = dktX1_newPart_2 := dk_seg dksX1_newPart_1 35 rfl rfl
theorem dksX1_newPart_3 : cX1_newPart.data.toList.drop 60 = dktX1_newPart_3 := dk_seg dksX1_newPart_2 24 rfl rfl
theorem dX1_newPart_0 : decode cX1_newPart 0 = .ok (.iload_n 0, 1) := dk_26 (dk_at dksX1_newPart_0 0 rfl rfl)
theorem dX1_newPart_1 : decode cX1_newPart 1 = .ok (.tableswitch 75 0 4 #[35, 43, 51, 59, 67], 35) := by decide +kernel
theorem dX1_newPart_36 : decode cX1_newPart 36 = .ok (.new 28, 3) := dk_187 0 28 (dk_at dksX1_newPart_2 0 rfl rfl)
theorem dX1_newPart_39 : decode cX1_newPart 39 = .ok (.dup, 1) := dk_89 (dk_at dksX1_newPart_2 3 rfl rfl)
theorem dX1_newPart_40 : decode cX1_newPart 40 = .ok (.invokespecial 30, 3) := dk_183 0 30 (dk_at dksX1_newPart_2 4 rfl rfl)
theorem dX1_newPart_43 : decode cX1_newPart 43 = .ok (.areturn, 1) := dk_176 (dk_at dksX1_newPart_2 7 rfl rfl)
theorem dX1_newPart_44 : decode cX1_newPart 44 = .ok (.new 31, 3) := dk_187 0 31 (dk_at dksX1_newPart_2 8 rfl rfl)
theorem dX1_newPart_47 : decode cX1_newPart 47 = .ok (.dup, 1) := dk_89 (dk_at dksX1_newPart_2 11 rfl rfl)
theorem dX1_newPart_48 : decode cX1_newPart 48 = .ok (.invokespecial 33, 3) := dk_183 0 33 (dk_at dksX1_newPart_2 12 rfl rfl)
theorem dX1_newPart_51 : decode cX1_newPart 51 = .ok (.areturn, 1) := dk_176 (dk_at dksX1_newPart_2 15 rfl rfl)
theorem dX1_newPart_52 : decode cX1_newPart 52 = .ok (.new 34, 3) := dk_187 0 34 (dk_at dksX1_newPart_2 16 rfl rfl)
theorem dX1_newPart_55 : decode cX1_newPart 55 = .ok (.dup, 1) := dk_89 (dk_at dksX1_newPart_2 19 rfl rfl)
theorem dX1_newPart_56 : decode cX1_newPart 56 = .ok (.invokespecial 36, 3) := dk_183 0 36 (dk_at dksX1_newPart_2 20 rfl rfl)
theorem dX1_newPart_59 : decode cX1_newPart 59 = .ok (.areturn, 1) := dk_176 (dk_at dksX1_newPart_2 23 rfl rfl)
theorem dX1_newPart_60 : decode cX1_newPart 60 = .ok (.new 37, 3) := dk_187 0 37 (dk_at dksX1_newPart_3 0 rfl rfl)
theorem dX1_newPart_63 : decode cX1_newPart 63 = .ok (.dup, 1) := dk_89 (dk_at dksX1_newPart_3 3 rfl rfl)
theorem dX1_newPart_64 : decode cX1_newPart 64 = .ok (.invokespecial 39, 3) := dk_183 0 39 (dk_at dksX1_newPart_3 4 rfl rfl)
theorem dX1_newPart_67 : decode cX1_newPart 67 = .ok (.areturn, 1) := dk_176 (dk_at dksX1_newPart_3 7 rfl rfl)
theorem dX1_newPart_68 : decode cX1_newPart 68 = .ok (.new 40, 3) := dk_187 0 40 (dk_at dksX1_newPart_3 8 rfl rfl)
theorem dX1_newPart_71 : decode cX1_newPart 71 = .ok (.dup, 1) := dk_89 (dk_at dksX1_newPart_3 11 rfl rfl)
theorem dX1_newPart_72 : decode cX1_newPart 72 = .ok (.invokespecial 42, 3) := dk_183 0 42 (dk_at dksX1_newPart_3 12 rfl rfl)
theorem dX1_newPart_75 : decode cX1_newPart 75 = .ok (.areturn, 1) := dk_176 (dk_at dksX1_newPart_3 15 rfl rfl)
theorem dX1_newPart_76 : decode cX1_newPart 76 = .ok (.new 43, 3) := dk_187 0 43 (dk_at dksX1_newPart_3 16 rfl rfl)
theorem dX1_newPart_79 : decode cX1_newPart 79 = .ok (.dup, 1) := dk_89 (dk_at dksX1_newPart_3 19 rfl rfl)
theorem dX1_newPart_80 : decode cX1_newPart 80 = .ok (.invokespecial 45, 3) := dk_183 0 45 (dk_at dksX1_newPart_3 20 rfl rfl)
theorem dX1_newPart_83 : decode cX1_newPart 83 = .ok (.areturn, 1) := dk_176 (dk_at dksX1_newPart_3 23 rfl rfl)
abbrev cX1_turnWeight : ByteArray := prog_1_method_22_code
def yX1_turnWeight : MethodName := ⟨RX1, "turnWeight", "(II)I"⟩
def dkwX1_turnWeight_0 : List UInt8 := [42, 27, 28, 182, 0, 143, 78, 42, 182, 0, 136, 45, 28, 182, 0, 147, 172]
abbrev dktX1_turnWeight_0 : List UInt8 := dkwX1_turnWeight_0 ++ []
theorem dksX1_turnWeight_0 : cX1_turnWeight.data.toList.drop 0 = dktX1_turnWeight_0 := by decide +kernel
theorem dX1_turnWeight_0 : decode cX1_turnWeight 0 = .ok (.aload_n 0, 1) := dk_42 (dk_at dksX1_turnWeight_0 0 rfl rfl)
theorem dX1_turnWeight_1 : decode cX1_turnWeight 1 = .ok (.iload_n 1, 1) := dk_27 (dk_at dksX1_turnWeight_0 1 rfl rfl)
theorem dX1_turnWeight_2 : decode cX1_turnWeight 2 = .ok (.iload_n 2, 1) := dk_28 (dk_at dksX1_turnWeight_0 2 rfl rfl)
theorem dX1_turnWeight_3 : decode cX1_turnWeight 3 = .ok (.invokevirtual 143, 3) := dk_182 0 143 (dk_at dksX1_turnWeight_0 3 rfl rfl)
theorem dX1_turnWeight_6 : decode cX1_turnWeight 6 = .ok (.astore_n 3, 1) := dk_78 (dk_at dksX1_turnWeight_0 6 rfl rfl)
theorem dX1_turnWeight_7 : decode cX1_turnWeight 7 = .ok (.aload_n 0, 1) := dk_42 (dk_at dksX1_turnWeight_0 7 rfl rfl)
theorem dX1_turnWeight_8 : decode cX1_turnWeight 8 = .ok (.invokevirtual 136, 3) := dk_182 0 136 (dk_at dksX1_turnWeight_0 8 rfl rfl)
theorem dX1_turnWeight_11 : decode cX1_turnWeight 11 = .ok (.aload_n 3, 1) := dk_45 (dk_at dksX1_turnWeight_0 11 rfl rfl)
theorem dX1_turnWeight_12 : decode cX1_turnWeight 12 = .ok (.iload_n 2, 1) := dk_28 (dk_at dksX1_turnWeight_0 12 rfl rfl)
theorem dX1_turnWeight_13 : decode cX1_turnWeight 13 = .ok (.invokevirtual 147, 3) := dk_182 0 147 (dk_at dksX1_turnWeight_0 13 rfl rfl)
theorem dX1_turnWeight_16 : decode cX1_turnWeight 16 = .ok (.ireturn, 1) := dk_172 (dk_at dksX1_turnWeight_0 16 rfl rfl)
abbrev cX1_checkedWeighted : ByteArray := prog_1_method_17_code
def yX1_checkedWeighted : MethodName := ⟨RX1, "checkedWeighted", "(II)LPatchCords$Weighted;"⟩
def dkwX1_checkedWeighted_0 : List UInt8 := [42, 27, 28, 182, 0, 123, 78, 45, 193, 0, 127, 184, 0, 129, 45, 192, 0, 127, 176]
abbrev dktX1_checkedWeighted_0 : List UInt8 := dkwX1_checkedWeighted_0 ++ []
theorem dksX1_checkedWeighted_0 : cX1_checkedWeighted.data.toList.drop 0 = dktX1_checkedWeighted_0 := by decide +kernel
theorem dX1_checkedWeighted_0 : decode cX1_checkedWeighted 0 = .ok (.aload_n 0, 1) := dk_42 (dk_at dksX1_checkedWeighted_0 0 rfl rfl)
theorem dX1_checkedWeighted_1 : decode cX1_checkedWeighted 1 = .ok (.iload_n 1, 1) := dk_27 (dk_at dksX1_checkedWeighted_0 1 rfl rfl)
theorem dX1_checkedWeighted_2 : decode cX1_checkedWeighted 2 = .ok (.iload_n 2, 1) := dk_28 (dk_at dksX1_checkedWeighted_0 2 rfl rfl)
theorem dX1_checkedWeighted_3 : decode cX1_checkedWeighted 3 = .ok (.invokevirtual 123, 3) := dk_182 0 123 (dk_at dksX1_checkedWeighted_0 3 rfl rfl)
theorem dX1_checkedWeighted_6 : decode cX1_checkedWeighted 6 = .ok (.astore_n 3, 1) := dk_78 (dk_at dksX1_checkedWeighted_0 6 rfl rfl)
theorem dX1_checkedWeighted_7 : decode cX1_checkedWeighted 7 = .ok (.aload_n 3, 1) := dk_45 (dk_at dksX1_checkedWeighted_0 7 rfl rfl)
theorem dX1_checkedWeighted_8 : decode cX1_checkedWeighted 8 = .ok (.instanceof 127, 3) := dk_193 0 127 (dk_at dksX1_checkedWeighted_0 8 rfl rfl)
theorem dX1_checkedWeighted_11 : decode cX1_checkedWeighted 11 = .ok (.invokestatic 129, 3) := dk_184 0 129 (dk_at dksX1_checkedWeighted_0 11 rfl rfl)
theorem dX1_checkedWeighted_14 : decode cX1_checkedWeighted 14 = .ok (.aload_n 3, 1) := dk_45 (dk_at dksX1_checkedWeighted_0 14 rfl rfl)
theorem dX1_checkedWeighted_15 : decode cX1_checkedWeighted 15 = .ok (.checkcast 127, 3) := dk_192 0 127 (dk_at dksX1_checkedWeighted_0 15 rfl rfl)
theorem dX1_checkedWeighted_18 : decode cX1_checkedWeighted 18 = .ok (.areturn, 1) := dk_176 (dk_at dksX1_checkedWeighted_0 18 rfl rfl)
abbrev cX1_checkedInput : ByteArray := prog_1_method_16_code
def yX1_checkedInput : MethodName := ⟨RX1, "checkedInput", "(II)LPatchCords$Part;"⟩
def dkwX1_checkedInput_0 : List UInt8 := [42, 27, 182, 0, 114, 78, 28, 45, 180, 0, 117, 190, 184, 0, 106, 45, 176]
abbrev dktX1_checkedInput_0 : List UInt8 := dkwX1_checkedInput_0 ++ []
theorem dksX1_checkedInput_0 : cX1_checkedInput.data.toList.drop 0 = dktX1_checkedInput_0 := by decide +kernel
theorem dX1_checkedInput_0 : decode cX1_checkedInput 0 = .ok (.aload_n 0, 1) := dk_42 (dk_at dksX1_checkedInput_0 0 rfl rfl)
theorem dX1_checkedInput_1 : decode cX1_checkedInput 1 = .ok (.iload_n 1, 1) := dk_27 (dk_at dksX1_checkedInput_0 1 rfl rfl)
theorem dX1_checkedInput_2 : decode cX1_checkedInput 2 = .ok (.invokevirtual 114, 3) := dk_182 0 114 (dk_at dksX1_checkedInput_0 2 rfl rfl)
theorem dX1_checkedInput_5 : decode cX1_checkedInput 5 = .ok (.astore_n 3, 1) := dk_78 (dk_at dksX1_checkedInput_0 5 rfl rfl)
theorem dX1_checkedInput_6 : decode cX1_checkedInput 6 = .ok (.iload_n 2, 1) := dk_28 (dk_at dksX1_checkedInput_0 6 rfl rfl)
theorem dX1_checkedInput_7 : decode cX1_checkedInput 7 = .ok (.aload_n 3, 1) := dk_45 (dk_at dksX1_checkedInput_0 7 rfl rfl)
theorem dX1_checkedInput_8 : decode cX1_checkedInput 8 = .ok (.getfield 117, 3) := dk_180 0 117 (dk_at dksX1_checkedInput_0 8 rfl rfl)
theorem dX1_checkedInput_11 : decode cX1_checkedInput 11 = .ok (.arraylength, 1) := dk_190 (dk_at dksX1_checkedInput_0 11 rfl rfl)
theorem dX1_checkedInput_12 : decode cX1_checkedInput 12 = .ok (.invokestatic 106, 3) := dk_184 0 106 (dk_at dksX1_checkedInput_0 12 rfl rfl)
theorem dX1_checkedInput_15 : decode cX1_checkedInput 15 = .ok (.aload_n 3, 1) := dk_45 (dk_at dksX1_checkedInput_0 15 rfl rfl)
theorem dX1_checkedInput_16 : decode cX1_checkedInput 16 = .ok (.areturn, 1) := dk_176 (dk_at dksX1_checkedInput_0 16 rfl rfl)
abbrev cX1_checkedPart : ByteArray := prog_1_method_15_code
def yX1_checkedPart : MethodName := ⟨RX1, "checkedPart", "(I)LPatchCords$Part;"⟩
def dkwX1_checkedPart_0 : List UInt8 := [27, 42, 182, 0, 103, 184, 0, 106, 42, 180, 0, 52, 27, 182, 0, 110, 176]
abbrev dktX1_checkedPart_0 : List UInt8 := dkwX1_checkedPart_0 ++ []
theorem dksX1_checkedPart_0 : cX1_checkedPart.data.toList.drop 0 = dktX1_checkedPart_0 := by decide +kernel
theorem dX1_checkedPart_0 : decode cX1_checkedPart 0 = .ok (.iload_n 1, 1) := dk_27 (dk_at dksX1_checkedPart_0 0 rfl rfl)
theorem dX1_checkedPart_1 : decode cX1_checkedPart 1 = .ok (.aload_n 0, 1) := dk_42 (dk_at dksX1_checkedPart_0 1 rfl rfl)
theorem dX1_checkedPart_2 : decode cX1_checkedPart 2 = .ok (.invokevirtual 103, 3) := dk_182 0 103 (dk_at dksX1_checkedPart_0 2 rfl rfl)
theorem dX1_checkedPart_5 : decode cX1_checkedPart 5 = .ok (.invokestatic 106, 3) := dk_184 0 106 (dk_at dksX1_checkedPart_0 5 rfl rfl)
theorem dX1_checkedPart_8 : decode cX1_checkedPart 8 = .ok (.aload_n 0, 1) := dk_42 (dk_at dksX1_checkedPart_0 8 rfl rfl)
theorem dX1_checkedPart_9 : decode cX1_checkedPart 9 = .ok (.getfield 52, 3) := dk_180 0 52 (dk_at dksX1_checkedPart_0 9 rfl rfl)
theorem dX1_checkedPart_12 : decode cX1_checkedPart 12 = .ok (.iload_n 1, 1) := dk_27 (dk_at dksX1_checkedPart_0 12 rfl rfl)
theorem dX1_checkedPart_13 : decode cX1_checkedPart 13 = .ok (.invokevirtual 110, 3) := dk_182 0 110 (dk_at dksX1_checkedPart_0 13 rfl rfl)
theorem dX1_checkedPart_16 : decode cX1_checkedPart 16 = .ok (.areturn, 1) := dk_176 (dk_at dksX1_checkedPart_0 16 rfl rfl)
abbrev cX1_checkIndex : ByteArray := prog_1_method_4_code
def yX1_checkIndex : MethodName := ⟨RX1, "checkIndex", "(II)V"⟩
def dkwX1_checkIndex_0 : List UInt8 := [26, 3, 27, 4, 100, 184, 0, 3, 154, 0, 11, 187, 0, 13, 89, 183, 0, 15, 191, 177]
abbrev dktX1_checkIndex_0 : List UInt8 := dkwX1_checkIndex_0 ++ []
theorem dksX1_checkIndex_0 : cX1_checkIndex.data.toList.drop 0 = dktX1_checkIndex_0 := by decide +kernel
theorem dX1_checkIndex_0 : decode cX1_checkIndex 0 = .ok (.iload_n 0, 1) := dk_26 (dk_at dksX1_checkIndex_0 0 rfl rfl)
theorem dX1_checkIndex_1 : decode cX1_checkIndex 1 = .ok (.iconst 0, 1) := dk_3 (dk_at dksX1_checkIndex_0 1 rfl rfl)
theorem dX1_checkIndex_2 : decode cX1_checkIndex 2 = .ok (.iload_n 1, 1) := dk_27 (dk_at dksX1_checkIndex_0 2 rfl rfl)
theorem dX1_checkIndex_3 : decode cX1_checkIndex 3 = .ok (.iconst 1, 1) := dk_4 (dk_at dksX1_checkIndex_0 3 rfl rfl)
theorem dX1_checkIndex_4 : decode cX1_checkIndex 4 = .ok (.isub, 1) := dk_100 (dk_at dksX1_checkIndex_0 4 rfl rfl)
theorem dX1_checkIndex_5 : decode cX1_checkIndex 5 = .ok (.invokestatic 3, 3) := dk_184 0 3 (dk_at dksX1_checkIndex_0 5 rfl rfl)
theorem dX1_checkIndex_8 : decode cX1_checkIndex 8 = .ok (.ifCond .ne 11, 3) := dk_154 0 11 (dk_at dksX1_checkIndex_0 8 rfl rfl)
theorem dX1_checkIndex_11 : decode cX1_checkIndex 11 = .ok (.new 13, 3) := dk_187 0 13 (dk_at dksX1_checkIndex_0 11 rfl rfl)
theorem dX1_checkIndex_14 : decode cX1_checkIndex 14 = .ok (.dup, 1) := dk_89 (dk_at dksX1_checkIndex_0 14 rfl rfl)
theorem dX1_checkIndex_15 : decode cX1_checkIndex 15 = .ok (.invokespecial 15, 3) := dk_183 0 15 (dk_at dksX1_checkIndex_0 15 rfl rfl)
theorem dX1_checkIndex_18 : decode cX1_checkIndex 18 = .ok (.athrow, 1) := dk_191 (dk_at dksX1_checkIndex_0 18 rfl rfl)
theorem dX1_checkIndex_19 : decode cX1_checkIndex 19 = .ok (.return_, 1) := dk_177 (dk_at dksX1_checkIndex_0 19 rfl rfl)
abbrev cX1_checkThat : ByteArray := prog_1_method_3_code
def yX1_checkThat : MethodName := ⟨RX1, "checkThat", "(Z)V"⟩
def dkwX1_checkThat_0 : List UInt8 := [26, 154, 0, 11, 187, 0, 7, 89, 183, 0, 9, 191, 177]
abbrev dktX1_checkThat_0 : List UInt8 := dkwX1_checkThat_0 ++ []
theorem dksX1_checkThat_0 : cX1_checkThat.data.toList.drop 0 = dktX1_checkThat_0 := by decide +kernel
theorem dX1_checkThat_0 : decode cX1_checkThat 0 = .ok (.iload_n 0, 1) := dk_26 (dk_at dksX1_checkThat_0 0 rfl rfl)
theorem dX1_checkThat_1 : decode cX1_checkThat 1 = .ok (.ifCond .ne 11, 3) := dk_154 0 11 (dk_at dksX1_checkThat_0 1 rfl rfl)
theorem dX1_checkThat_4 : decode cX1_checkThat 4 = .ok (.new 7, 3) := dk_187 0 7 (dk_at dksX1_checkThat_0 4 rfl rfl)
theorem dX1_checkThat_7 : decode cX1_checkThat 7 = .ok (.dup, 1) := dk_89 (dk_at dksX1_checkThat_0 7 rfl rfl)
theorem dX1_checkThat_8 : decode cX1_checkThat 8 = .ok (.invokespecial 9, 3) := dk_183 0 9 (dk_at dksX1_checkThat_0 8 rfl rfl)
theorem dX1_checkThat_11 : decode cX1_checkThat 11 = .ok (.athrow, 1) := dk_191 (dk_at dksX1_checkThat_0 11 rfl rfl)
theorem dX1_checkThat_12 : decode cX1_checkThat 12 = .ok (.return_, 1) := dk_177 (dk_at dksX1_checkThat_0 12 rfl rfl)
abbrev cX1_setVoltage : ByteArray := prog_1_method_23_code
def yX1_setVoltage : MethodName := ⟨RX1, "setVoltage", "(II)I"⟩
def dkwX1_setVoltage_1 : List UInt8 := [182, 0, 136, 45, 182, 0, 154, 54, 4, 42, 180, 0, 52, 45, 28, 182, 0, 157, 21, 4, 172]
abbrev dktX1_setVoltage_1 : List UInt8 := dkwX1_setVoltage_1 ++ []
def dkwX1_setVoltage_0 : List UInt8 := [42, 27, 182, 0, 114, 78, 45, 184, 0, 150, 184, 0, 129, 28, 17, 216, 240, 17, 39, 16, 184, 0, 132, 42]
abbrev dktX1_setVoltage_0 : List UInt8 := dkwX1_setVoltage_0 ++ dktX1_setVoltage_1
theorem dksX1_setVoltage_0 : cX1_setVoltage.data.toList.drop 0 = dktX1_setVoltage_0 := by decide +kernel
theorem dksX1_setVoltage_1 : cX1_setVoltage.data.toList.drop 24 = dktX1_setVoltage_1 := dk_seg dksX1_setVoltage_0 24 rfl rfl
theorem dX1_setVoltage_0 : decode cX1_setVoltage 0 = .ok (.aload_n 0, 1) := dk_42 (dk_at dksX1_setVoltage_0 0 rfl rfl)
theorem dX1_setVoltage_1 : decode cX1_setVoltage 1 = .ok (.iload_n 1, 1) := dk_27 (dk_at dksX1_setVoltage_0 1 rfl rfl)
theorem dX1_setVoltage_2 : decode cX1_setVoltage 2 = .ok (.invokevirtual 114, 3) := dk_182 0 114 (dk_at dksX1_setVoltage_0 2 rfl rfl)
theorem dX1_setVoltage_5 : decode cX1_setVoltage 5 = .ok (.astore_n 3, 1) := dk_78 (dk_at dksX1_setVoltage_0 5 rfl rfl)
theorem dX1_setVoltage_6 : decode cX1_setVoltage 6 = .ok (.aload_n 3, 1) := dk_45 (dk_at dksX1_setVoltage_0 6 rfl rfl)
theorem dX1_setVoltage_7 : decode cX1_setVoltage 7 = .ok (.invokestatic 150, 3) := dk_184 0 150 (dk_at dksX1_setVoltage_0 7 rfl rfl)
theorem dX1_setVoltage_10 : decode cX1_setVoltage 10 = .ok (.invokestatic 129, 3) := dk_184 0 129 (dk_at dksX1_setVoltage_0 10 rfl rfl)
theorem dX1_setVoltage_13 : decode cX1_setVoltage 13 = .ok (.iload_n 2, 1) := dk_28 (dk_at dksX1_setVoltage_0 13 rfl rfl)
theorem dX1_setVoltage_14 : decode cX1_setVoltage 14 = .ok (.sipush (-10000), 3) := dk_17 216 240 (dk_at dksX1_setVoltage_0 14 rfl rfl)
theorem dX1_setVoltage_17 : decode cX1_setVoltage 17 = .ok (.sipush 10000, 3) := dk_17 39 16 (dk_at dksX1_setVoltage_0 17 rfl rfl)
theorem dX1_setVoltage_20 : decode cX1_setVoltage 20 = .ok (.invokestatic 132, 3) := dk_184 0 132 (dk_at dksX1_setVoltage_0 20 rfl rfl)
theorem dX1_setVoltage_23 : decode cX1_setVoltage 23 = .ok (.aload_n 0, 1) := dk_42 (dk_at dksX1_setVoltage_0 23 rfl rfl)
theorem dX1_setVoltage_24 : decode cX1_setVoltage 24 = .ok (.invokevirtual 136, 3) := dk_182 0 136 (dk_at dksX1_setVoltage_1 0 rfl rfl)
theorem dX1_setVoltage_27 : decode cX1_setVoltage 27 = .ok (.aload_n 3, 1) := dk_45 (dk_at dksX1_setVoltage_1 3 rfl rfl)
theorem dX1_setVoltage_28 : decode cX1_setVoltage 28 = .ok (.invokevirtual 154, 3) := dk_182 0 154 (dk_at dksX1_setVoltage_1 4 rfl rfl)
theorem dX1_setVoltage_31 : decode cX1_setVoltage 31 = .ok (.istore 4, 2) := dk_54 4 (dk_at dksX1_setVoltage_1 7 rfl rfl)
theorem dX1_setVoltage_33 : decode cX1_setVoltage 33 = .ok (.aload_n 0, 1) := dk_42 (dk_at dksX1_setVoltage_1 9 rfl rfl)
theorem dX1_setVoltage_34 : decode cX1_setVoltage 34 = .ok (.getfield 52, 3) := dk_180 0 52 (dk_at dksX1_setVoltage_1 10 rfl rfl)
theorem dX1_setVoltage_37 : decode cX1_setVoltage 37 = .ok (.aload_n 3, 1) := dk_45 (dk_at dksX1_setVoltage_1 13 rfl rfl)
theorem dX1_setVoltage_38 : decode cX1_setVoltage 38 = .ok (.iload_n 2, 1) := dk_28 (dk_at dksX1_setVoltage_1 14 rfl rfl)
theorem dX1_setVoltage_39 : decode cX1_setVoltage 39 = .ok (.invokevirtual 157, 3) := dk_182 0 157 (dk_at dksX1_setVoltage_1 15 rfl rfl)
theorem dX1_setVoltage_42 : decode cX1_setVoltage 42 = .ok (.iload 4, 2) := dk_21 4 (dk_at dksX1_setVoltage_1 18 rfl rfl)
theorem dX1_setVoltage_44 : decode cX1_setVoltage 44 = .ok (.ireturn, 1) := dk_172 (dk_at dksX1_setVoltage_1 20 rfl rfl)
abbrev cX1_hasVoltage : ByteArray := prog_1_method_20_code
def yX1_hasVoltage : MethodName := ⟨RX1, "hasVoltage", "(LPatchCords$Part;)Z"⟩
def dkwX1_hasVoltage_0 : List UInt8 := [42, 193, 0, 43, 154, 0, 10, 42, 193, 0, 31, 153, 0, 7, 4, 167, 0, 4, 3, 172]
abbrev dktX1_hasVoltage_0 : List UInt8 := dkwX1_hasVoltage_0 ++ []
theorem dksX1_hasVoltage_0 : cX1_hasVoltage.data.toList.drop 0 = dktX1_hasVoltage_0 := by decide +kernel
theorem dX1_hasVoltage_0 : decode cX1_hasVoltage 0 = .ok (.aload_n 0, 1) := dk_42 (dk_at dksX1_hasVoltage_0 0 rfl rfl)
theorem dX1_hasVoltage_1 : decode cX1_hasVoltage 1 = .ok (.instanceof 43, 3) := dk_193 0 43 (dk_at dksX1_hasVoltage_0 1 rfl rfl)
theorem dX1_hasVoltage_4 : decode cX1_hasVoltage 4 = .ok (.ifCond .ne 10, 3) := dk_154 0 10 (dk_at dksX1_hasVoltage_0 4 rfl rfl)
theorem dX1_hasVoltage_7 : decode cX1_hasVoltage 7 = .ok (.aload_n 0, 1) := dk_42 (dk_at dksX1_hasVoltage_0 7 rfl rfl)
theorem dX1_hasVoltage_8 : decode cX1_hasVoltage 8 = .ok (.instanceof 31, 3) := dk_193 0 31 (dk_at dksX1_hasVoltage_0 8 rfl rfl)
theorem dX1_hasVoltage_11 : decode cX1_hasVoltage 11 = .ok (.ifCond .eq 7, 3) := dk_153 0 7 (dk_at dksX1_hasVoltage_0 11 rfl rfl)
theorem dX1_hasVoltage_14 : decode cX1_hasVoltage 14 = .ok (.iconst 1, 1) := dk_4 (dk_at dksX1_hasVoltage_0 14 rfl rfl)
theorem dX1_hasVoltage_15 : decode cX1_hasVoltage 15 = .ok (.goto 4, 3) := dk_167 0 4 (dk_at dksX1_hasVoltage_0 15 rfl rfl)
theorem dX1_hasVoltage_18 : decode cX1_hasVoltage 18 = .ok (.iconst 0, 1) := dk_3 (dk_at dksX1_hasVoltage_0 18 rfl rfl)
theorem dX1_hasVoltage_19 : decode cX1_hasVoltage 19 = .ok (.ireturn, 1) := dk_172 (dk_at dksX1_hasVoltage_0 19 rfl rfl)
abbrev cX1_setFactor : ByteArray := prog_1_method_24_code
def yX1_setFactor : MethodName := ⟨RX1, "setFactor", "(II)I"⟩
def dkwX1_setFactor_1 : List UInt8 := [45, 28, 181, 0, 165, 21, 4, 172]
abbrev dktX1_setFactor_1 : List UInt8 := dkwX1_setFactor_1 ++ []
def dkwX1_setFactor_0 : List UInt8 := [42, 27, 182, 0, 161, 78, 28, 3, 17, 3, 232, 184, 0, 132, 42, 182, 0, 136, 45, 180, 0, 165, 54, 4]
abbrev dktX1_setFactor_0 : List UInt8 := dkwX1_setFactor_0 ++ dktX1_setFactor_1
theorem dksX1_setFactor_0 : cX1_setFactor.data.toList.drop 0 = dktX1_setFactor_0 := by decide +kernel
theorem dksX1_setFactor_1 : cX1_setFactor.data.toList.drop 24 = dktX1_setFactor_1 := dk_seg dksX1_setFactor_0 24 rfl rfl
theorem dX1_setFactor_0 : decode cX1_setFactor 0 = .ok (.aload_n 0, 1) := dk_42 (dk_at dksX1_setFactor_0 0 rfl rfl)
theorem dX1_setFactor_1 : decode cX1_setFactor 1 = .ok (.iload_n 1, 1) := dk_27 (dk_at dksX1_setFactor_0 1 rfl rfl)
theorem dX1_setFactor_2 : decode cX1_setFactor 2 = .ok (.invokevirtual 161, 3) := dk_182 0 161 (dk_at dksX1_setFactor_0 2 rfl rfl)
theorem dX1_setFactor_5 : decode cX1_setFactor 5 = .ok (.astore_n 3, 1) := dk_78 (dk_at dksX1_setFactor_0 5 rfl rfl)
theorem dX1_setFactor_6 : decode cX1_setFactor 6 = .ok (.iload_n 2, 1) := dk_28 (dk_at dksX1_setFactor_0 6 rfl rfl)
theorem dX1_setFactor_7 : decode cX1_setFactor 7 = .ok (.iconst 0, 1) := dk_3 (dk_at dksX1_setFactor_0 7 rfl rfl)
theorem dX1_setFactor_8 : decode cX1_setFactor 8 = .ok (.sipush 1000, 3) := dk_17 3 232 (dk_at dksX1_setFactor_0 8 rfl rfl)
theorem dX1_setFactor_11 : decode cX1_setFactor 11 = .ok (.invokestatic 132, 3) := dk_184 0 132 (dk_at dksX1_setFactor_0 11 rfl rfl)
theorem dX1_setFactor_14 : decode cX1_setFactor 14 = .ok (.aload_n 0, 1) := dk_42 (dk_at dksX1_setFactor_0 14 rfl rfl)
theorem dX1_setFactor_15 : decode cX1_setFactor 15 = .ok (.invokevirtual 136, 3) := dk_182 0 136 (dk_at dksX1_setFactor_0 15 rfl rfl)
theorem dX1_setFactor_18 : decode cX1_setFactor 18 = .ok (.aload_n 3, 1) := dk_45 (dk_at dksX1_setFactor_0 18 rfl rfl)
theorem dX1_setFactor_19 : decode cX1_setFactor 19 = .ok (.getfield 165, 3) := dk_180 0 165 (dk_at dksX1_setFactor_0 19 rfl rfl)
theorem dX1_setFactor_22 : decode cX1_setFactor 22 = .ok (.istore 4, 2) := dk_54 4 (dk_at dksX1_setFactor_0 22 rfl rfl)
theorem dX1_setFactor_24 : decode cX1_setFactor 24 = .ok (.aload_n 3, 1) := dk_45 (dk_at dksX1_setFactor_1 0 rfl rfl)
theorem dX1_setFactor_25 : decode cX1_setFactor 25 = .ok (.iload_n 2, 1) := dk_28 (dk_at dksX1_setFactor_1 1 rfl rfl)
theorem dX1_setFactor_26 : decode cX1_setFactor 26 = .ok (.putfield 165, 3) := dk_181 0 165 (dk_at dksX1_setFactor_1 2 rfl rfl)
theorem dX1_setFactor_29 : decode cX1_setFactor 29 = .ok (.iload 4, 2) := dk_21 4 (dk_at dksX1_setFactor_1 5 rfl rfl)
theorem dX1_setFactor_31 : decode cX1_setFactor 31 = .ok (.ireturn, 1) := dk_172 (dk_at dksX1_setFactor_1 7 rfl rfl)
abbrev cX1_checkedPot : ByteArray := prog_1_method_19_code
def yX1_checkedPot : MethodName := ⟨RX1, "checkedPot", "(I)LPatchCords$Pot;"⟩
def dkwX1_checkedPot_0 : List UInt8 := [42, 27, 182, 0, 114, 77, 44, 193, 0, 34, 184, 0, 129, 44, 192, 0, 34, 176]
abbrev dktX1_checkedPot_0 : List UInt8 := dkwX1_checkedPot_0 ++ []
theorem dksX1_checkedPot_0 : cX1_checkedPot.data.toList.drop 0 = dktX1_checkedPot_0 := by decide +kernel
theorem dX1_checkedPot_0 : decode cX1_checkedPot 0 = .ok (.aload_n 0, 1) := dk_42 (dk_at dksX1_checkedPot_0 0 rfl rfl)
theorem dX1_checkedPot_1 : decode cX1_checkedPot 1 = .ok (.iload_n 1, 1) := dk_27 (dk_at dksX1_checkedPot_0 1 rfl rfl)
theorem dX1_checkedPot_2 : decode cX1_checkedPot 2 = .ok (.invokevirtual 114, 3) := dk_182 0 114 (dk_at dksX1_checkedPot_0 2 rfl rfl)
theorem dX1_checkedPot_5 : decode cX1_checkedPot 5 = .ok (.astore_n 2, 1) := dk_77 (dk_at dksX1_checkedPot_0 5 rfl rfl)
theorem dX1_checkedPot_6 : decode cX1_checkedPot 6 = .ok (.aload_n 2, 1) := dk_44 (dk_at dksX1_checkedPot_0 6 rfl rfl)
theorem dX1_checkedPot_7 : decode cX1_checkedPot 7 = .ok (.instanceof 34, 3) := dk_193 0 34 (dk_at dksX1_checkedPot_0 7 rfl rfl)
theorem dX1_checkedPot_10 : decode cX1_checkedPot 10 = .ok (.invokestatic 129, 3) := dk_184 0 129 (dk_at dksX1_checkedPot_0 10 rfl rfl)
theorem dX1_checkedPot_13 : decode cX1_checkedPot 13 = .ok (.aload_n 2, 1) := dk_44 (dk_at dksX1_checkedPot_0 13 rfl rfl)
theorem dX1_checkedPot_14 : decode cX1_checkedPot 14 = .ok (.checkcast 34, 3) := dk_192 0 34 (dk_at dksX1_checkedPot_0 14 rfl rfl)
theorem dX1_checkedPot_17 : decode cX1_checkedPot 17 = .ok (.areturn, 1) := dk_176 (dk_at dksX1_checkedPot_0 17 rfl rfl)
abbrev cX1_setSpeed : ByteArray := prog_1_method_25_code
def yX1_setSpeed : MethodName := ⟨RX1, "setSpeed", "(II)I"⟩
def dkwX1_setSpeed_1 : List UInt8 := [45, 28, 181, 0, 173, 21, 4, 172]
abbrev dktX1_setSpeed_1 : List UInt8 := dkwX1_setSpeed_1 ++ []
def dkwX1_setSpeed_0 : List UInt8 := [42, 27, 182, 0, 169, 78, 28, 4, 17, 3, 232, 184, 0, 132, 42, 182, 0, 136, 45, 180, 0, 173, 54, 4]
abbrev dktX1_setSpeed_0 : List UInt8 := dkwX1_setSpeed_0 ++ dktX1_setSpeed_1
theorem dksX1_setSpeed_0 : cX1_setSpeed.data.toList.drop 0 = dktX1_setSpeed_0 := by decide +kernel
theorem dksX1_setSpeed_1 : cX1_setSpeed.data.toList.drop 24 = dktX1_setSpeed_1 := dk_seg dksX1_setSpeed_0 24 rfl rfl
theorem dX1_setSpeed_0 : decode cX1_setSpeed 0 = .ok (.aload_n 0, 1) := dk_42 (dk_at dksX1_setSpeed_0 0 rfl rfl)
theorem dX1_setSpeed_1 : decode cX1_setSpeed 1 = .ok (.iload_n 1, 1) := dk_27 (dk_at dksX1_setSpeed_0 1 rfl rfl)
theorem dX1_setSpeed_2 : decode cX1_setSpeed 2 = .ok (.invokevirtual 169, 3) := dk_182 0 169 (dk_at dksX1_setSpeed_0 2 rfl rfl)
theorem dX1_setSpeed_5 : decode cX1_setSpeed 5 = .ok (.astore_n 3, 1) := dk_78 (dk_at dksX1_setSpeed_0 5 rfl rfl)
theorem dX1_setSpeed_6 : decode cX1_setSpeed 6 = .ok (.iload_n 2, 1) := dk_28 (dk_at dksX1_setSpeed_0 6 rfl rfl)
theorem dX1_setSpeed_7 : decode cX1_setSpeed 7 = .ok (.iconst 1, 1) := dk_4 (dk_at dksX1_setSpeed_0 7 rfl rfl)
theorem dX1_setSpeed_8 : decode cX1_setSpeed 8 = .ok (.sipush 1000, 3) := dk_17 3 232 (dk_at dksX1_setSpeed_0 8 rfl rfl)
theorem dX1_setSpeed_11 : decode cX1_setSpeed 11 = .ok (.invokestatic 132, 3) := dk_184 0 132 (dk_at dksX1_setSpeed_0 11 rfl rfl)
theorem dX1_setSpeed_14 : decode cX1_setSpeed 14 = .ok (.aload_n 0, 1) := dk_42 (dk_at dksX1_setSpeed_0 14 rfl rfl)
theorem dX1_setSpeed_15 : decode cX1_setSpeed 15 = .ok (.invokevirtual 136, 3) := dk_182 0 136 (dk_at dksX1_setSpeed_0 15 rfl rfl)
theorem dX1_setSpeed_18 : decode cX1_setSpeed 18 = .ok (.aload_n 3, 1) := dk_45 (dk_at dksX1_setSpeed_0 18 rfl rfl)
theorem dX1_setSpeed_19 : decode cX1_setSpeed 19 = .ok (.getfield 173, 3) := dk_180 0 173 (dk_at dksX1_setSpeed_0 19 rfl rfl)
theorem dX1_setSpeed_22 : decode cX1_setSpeed 22 = .ok (.istore 4, 2) := dk_54 4 (dk_at dksX1_setSpeed_0 22 rfl rfl)
theorem dX1_setSpeed_24 : decode cX1_setSpeed 24 = .ok (.aload_n 3, 1) := dk_45 (dk_at dksX1_setSpeed_1 0 rfl rfl)
theorem dX1_setSpeed_25 : decode cX1_setSpeed 25 = .ok (.iload_n 2, 1) := dk_28 (dk_at dksX1_setSpeed_1 1 rfl rfl)
theorem dX1_setSpeed_26 : decode cX1_setSpeed 26 = .ok (.putfield 173, 3) := dk_181 0 173 (dk_at dksX1_setSpeed_1 2 rfl rfl)
theorem dX1_setSpeed_29 : decode cX1_setSpeed 29 = .ok (.iload 4, 2) := dk_21 4 (dk_at dksX1_setSpeed_1 5 rfl rfl)
theorem dX1_setSpeed_31 : decode cX1_setSpeed 31 = .ok (.ireturn, 1) := dk_172 (dk_at dksX1_setSpeed_1 7 rfl rfl)
abbrev cX1_checkedIntegrator : ByteArray := prog_1_method_18_code
def yX1_checkedIntegrator : MethodName := ⟨RX1, "checkedIntegrator", "(I)LPatchCords$Integrator;"⟩
def dkwX1_checkedIntegrator_0 : List UInt8 := [42, 27, 182, 0, 114, 77, 44, 193, 0, 31, 184, 0, 129, 44, 192, 0, 31, 176]
abbrev dktX1_checkedIntegrator_0 : List UInt8 := dkwX1_checkedIntegrator_0 ++ []
theorem dksX1_checkedIntegrator_0 : cX1_checkedIntegrator.data.toList.drop 0 = dktX1_checkedIntegrator_0 := by decide +kernel
theorem dX1_checkedIntegrator_0 : decode cX1_checkedIntegrator 0 = .ok (.aload_n 0, 1) := dk_42 (dk_at dksX1_checkedIntegrator_0 0 rfl rfl)
theorem dX1_checkedIntegrator_1 : decode cX1_checkedIntegrator 1 = .ok (.iload_n 1, 1) := dk_27 (dk_at dksX1_checkedIntegrator_0 1 rfl rfl)
theorem dX1_checkedIntegrator_2 : decode cX1_checkedIntegrator 2 = .ok (.invokevirtual 114, 3) := dk_182 0 114 (dk_at dksX1_checkedIntegrator_0 2 rfl rfl)
theorem dX1_checkedIntegrator_5 : decode cX1_checkedIntegrator 5 = .ok (.astore_n 2, 1) := dk_77 (dk_at dksX1_checkedIntegrator_0 5 rfl rfl)
theorem dX1_checkedIntegrator_6 : decode cX1_checkedIntegrator 6 = .ok (.aload_n 2, 1) := dk_44 (dk_at dksX1_checkedIntegrator_0 6 rfl rfl)
theorem dX1_checkedIntegrator_7 : decode cX1_checkedIntegrator 7 = .ok (.instanceof 31, 3) := dk_193 0 31 (dk_at dksX1_checkedIntegrator_0 7 rfl rfl)
theorem dX1_checkedIntegrator_10 : decode cX1_checkedIntegrator 10 = .ok (.invokestatic 129, 3) := dk_184 0 129 (dk_at dksX1_checkedIntegrator_0 10 rfl rfl)
theorem dX1_checkedIntegrator_13 : decode cX1_checkedIntegrator 13 = .ok (.aload_n 2, 1) := dk_44 (dk_at dksX1_checkedIntegrator_0 13 rfl rfl)
theorem dX1_checkedIntegrator_14 : decode cX1_checkedIntegrator 14 = .ok (.checkcast 31, 3) := dk_192 0 31 (dk_at dksX1_checkedIntegrator_0 14 rfl rfl)
theorem dX1_checkedIntegrator_17 : decode cX1_checkedIntegrator 17 = .ok (.areturn, 1) := dk_176 (dk_at dksX1_checkedIntegrator_0 17 rfl rfl)
abbrev cX1_join : ByteArray := prog_1_method_26_code
def yX1_join : MethodName := ⟨RX1, "join", "(III)I"⟩
def dkwX1_join_2 : List UInt8 := [182, 0, 180, 172]
abbrev dktX1_join_2 : List UInt8 := dkwX1_join_2 ++ []
def dkwX1_join_1 : List UInt8 := [154, 0, 7, 4, 167, 0, 4, 3, 184, 0, 96, 42, 182, 0, 136, 42, 180, 0, 52, 27, 28, 29]
abbrev dktX1_join_1 : List UInt8 := dkwX1_join_1 ++ dktX1_join_2
def dkwX1_join_0 : List UInt8 := [42, 27, 182, 0, 114, 87, 42, 28, 29, 182, 0, 123, 87, 42, 180, 0, 52, 27, 28, 182, 0, 176]
abbrev dktX1_join_0 : List UInt8 := dkwX1_join_0 ++ dktX1_join_1
theorem dksX1_join_0 : cX1_join.data.toList.drop 0 = dktX1_join_0 := by decide +kernel
theorem dksX1_join_1 : cX1_join.data.toList.drop 22 = dktX1_join_1 := dk_seg dksX1_join_0 22 rfl rfl
theorem dksX1_join_2 : cX1_join.data.toList.drop 44 = dktX1_join_2 := dk_seg dksX1_join_1 22 rfl rfl
theorem dX1_join_0 : decode cX1_join 0 = .ok (.aload_n 0, 1) := dk_42 (dk_at dksX1_join_0 0 rfl rfl)
theorem dX1_join_1 : decode cX1_join 1 = .ok (.iload_n 1, 1) := dk_27 (dk_at dksX1_join_0 1 rfl rfl)
theorem dX1_join_2 : decode cX1_join 2 = .ok (.invokevirtual 114, 3) := dk_182 0 114 (dk_at dksX1_join_0 2 rfl rfl)
theorem dX1_join_5 : decode cX1_join 5 = .ok (.pop, 1) := dk_87 (dk_at dksX1_join_0 5 rfl rfl)
theorem dX1_join_6 : decode cX1_join 6 = .ok (.aload_n 0, 1) := dk_42 (dk_at dksX1_join_0 6 rfl rfl)
theorem dX1_join_7 : decode cX1_join 7 = .ok (.iload_n 2, 1) := dk_28 (dk_at dksX1_join_0 7 rfl rfl)
theorem dX1_join_8 : decode cX1_join 8 = .ok (.iload_n 3, 1) := dk_29 (dk_at dksX1_join_0 8 rfl rfl)
theorem dX1_join_9 : decode cX1_join 9 = .ok (.invokevirtual 123, 3) := dk_182 0 123 (dk_at dksX1_join_0 9 rfl rfl)
theorem dX1_join_12 : decode cX1_join 12 = .ok (.pop, 1) := dk_87 (dk_at dksX1_join_0 12 rfl rfl)
theorem dX1_join_13 : decode cX1_join 13 = .ok (.aload_n 0, 1) := dk_42 (dk_at dksX1_join_0 13 rfl rfl)
theorem dX1_join_14 : decode cX1_join 14 = .ok (.getfield 52, 3) := dk_180 0 52 (dk_at dksX1_join_0 14 rfl rfl)
theorem dX1_join_17 : decode cX1_join 17 = .ok (.iload_n 1, 1) := dk_27 (dk_at dksX1_join_0 17 rfl rfl)
theorem dX1_join_18 : decode cX1_join 18 = .ok (.iload_n 2, 1) := dk_28 (dk_at dksX1_join_0 18 rfl rfl)
theorem dX1_join_19 : decode cX1_join 19 = .ok (.invokevirtual 176, 3) := dk_182 0 176 (dk_at dksX1_join_0 19 rfl rfl)
theorem dX1_join_22 : decode cX1_join 22 = .ok (.ifCond .ne 7, 3) := dk_154 0 7 (dk_at dksX1_join_1 0 rfl rfl)
theorem dX1_join_25 : decode cX1_join 25 = .ok (.iconst 1, 1) := dk_4 (dk_at dksX1_join_1 3 rfl rfl)
theorem dX1_join_26 : decode cX1_join 26 = .ok (.goto 4, 3) := dk_167 0 4 (dk_at dksX1_join_1 4 rfl rfl)
theorem dX1_join_29 : decode cX1_join 29 = .ok (.iconst 0, 1) := dk_3 (dk_at dksX1_join_1 7 rfl rfl)
theorem dX1_join_30 : decode cX1_join 30 = .ok (.invokestatic 96, 3) := dk_184 0 96 (dk_at dksX1_join_1 8 rfl rfl)
theorem dX1_join_33 : decode cX1_join 33 = .ok (.aload_n 0, 1) := dk_42 (dk_at dksX1_join_1 11 rfl rfl)
theorem dX1_join_34 : decode cX1_join 34 = .ok (.invokevirtual 136, 3) := dk_182 0 136 (dk_at dksX1_join_1 12 rfl rfl)
theorem dX1_join_37 : decode cX1_join 37 = .ok (.aload_n 0, 1) := dk_42 (dk_at dksX1_join_1 15 rfl rfl)
theorem dX1_join_38 : decode cX1_join 38 = .ok (.getfield 52, 3) := dk_180 0 52 (dk_at dksX1_join_1 16 rfl rfl)
theorem dX1_join_41 : decode cX1_join 41 = .ok (.iload_n 1, 1) := dk_27 (dk_at dksX1_join_1 19 rfl rfl)
theorem dX1_join_42 : decode cX1_join 42 = .ok (.iload_n 2, 1) := dk_28 (dk_at dksX1_join_1 20 rfl rfl)
theorem dX1_join_43 : decode cX1_join 43 = .ok (.iload_n 3, 1) := dk_29 (dk_at dksX1_join_1 21 rfl rfl)
theorem dX1_join_44 : decode cX1_join 44 = .ok (.invokevirtual 180, 3) := dk_182 0 180 (dk_at dksX1_join_2 0 rfl rfl)
theorem dX1_join_47 : decode cX1_join 47 = .ok (.ireturn, 1) := dk_172 (dk_at dksX1_join_2 3 rfl rfl)
abbrev cX1_takeOut : ByteArray := prog_1_method_27_code
def yX1_takeOut : MethodName := ⟨RX1, "takeOut", "(II)I"⟩
def dkwX1_takeOut_1 : List UInt8 := [184, 0, 96, 42, 182, 0, 136, 42, 180, 0, 52, 27, 28, 182, 0, 184, 172]
abbrev dktX1_takeOut_1 : List UInt8 := dkwX1_takeOut_1 ++ []
def dkwX1_takeOut_0 : List UInt8 := [42, 27, 28, 182, 0, 123, 78, 45, 180, 0, 117, 28, 46, 2, 159, 0, 7, 4, 167, 0, 4, 3]
abbrev dktX1_takeOut_0 : List UInt8 := dkwX1_takeOut_0 ++ dktX1_takeOut_1
theorem dksX1_takeOut_0 : cX1_takeOut.data.toList.drop 0 = dktX1_takeOut_0 := by decide +kernel
theorem dksX1_takeOut_1 : cX1_takeOut.data.toList.drop 22 = dktX1_takeOut_1 := dk_seg dksX1_takeOut_0 22 rfl rfl
theorem dX1_takeOut_0 : decode cX1_takeOut 0 = .ok (.aload_n 0, 1) := dk_42 (dk_at dksX1_takeOut_0 0 rfl rfl)
theorem dX1_takeOut_1 : decode cX1_takeOut 1 = .ok (.iload_n 1, 1) := dk_27 (dk_at dksX1_takeOut_0 1 rfl rfl)
theorem dX1_takeOut_2 : decode cX1_takeOut 2 = .ok (.iload_n 2, 1) := dk_28 (dk_at dksX1_takeOut_0 2 rfl rfl)
theorem dX1_takeOut_3 : decode cX1_takeOut 3 = .ok (.invokevirtual 123, 3) := dk_182 0 123 (dk_at dksX1_takeOut_0 3 rfl rfl)
theorem dX1_takeOut_6 : decode cX1_takeOut 6 = .ok (.astore_n 3, 1) := dk_78 (dk_at dksX1_takeOut_0 6 rfl rfl)
theorem dX1_takeOut_7 : decode cX1_takeOut 7 = .ok (.aload_n 3, 1) := dk_45 (dk_at dksX1_takeOut_0 7 rfl rfl)
theorem dX1_takeOut_8 : decode cX1_takeOut 8 = .ok (.getfield 117, 3) := dk_180 0 117 (dk_at dksX1_takeOut_0 8 rfl rfl)
theorem dX1_takeOut_11 : decode cX1_takeOut 11 = .ok (.iload_n 2, 1) := dk_28 (dk_at dksX1_takeOut_0 11 rfl rfl)
theorem dX1_takeOut_12 : decode cX1_takeOut 12 = .ok (.iaload, 1) := dk_46 (dk_at dksX1_takeOut_0 12 rfl rfl)
theorem dX1_takeOut_13 : decode cX1_takeOut 13 = .ok (.iconst (-1), 1) := dk_2 (dk_at dksX1_takeOut_0 13 rfl rfl)
theorem dX1_takeOut_14 : decode cX1_takeOut 14 = .ok (.if_icmp .eq 7, 3) := dk_159 0 7 (dk_at dksX1_takeOut_0 14 rfl rfl)
theorem dX1_takeOut_17 : decode cX1_takeOut 17 = .ok (.iconst 1, 1) := dk_4 (dk_at dksX1_takeOut_0 17 rfl rfl)
theorem dX1_takeOut_18 : decode cX1_takeOut 18 = .ok (.goto 4, 3) := dk_167 0 4 (dk_at dksX1_takeOut_0 18 rfl rfl)
theorem dX1_takeOut_21 : decode cX1_takeOut 21 = .ok (.iconst 0, 1) := dk_3 (dk_at dksX1_takeOut_0 21 rfl rfl)
theorem dX1_takeOut_22 : decode cX1_takeOut 22 = .ok (.invokestatic 96, 3) := dk_184 0 96 (dk_at dksX1_takeOut_1 0 rfl rfl)
theorem dX1_takeOut_25 : decode cX1_takeOut 25 = .ok (.aload_n 0, 1) := dk_42 (dk_at dksX1_takeOut_1 3 rfl rfl)
theorem dX1_takeOut_26 : decode cX1_takeOut 26 = .ok (.invokevirtual 136, 3) := dk_182 0 136 (dk_at dksX1_takeOut_1 4 rfl rfl)
theorem dX1_takeOut_29 : decode cX1_takeOut 29 = .ok (.aload_n 0, 1) := dk_42 (dk_at dksX1_takeOut_1 7 rfl rfl)
theorem dX1_takeOut_30 : decode cX1_takeOut 30 = .ok (.getfield 52, 3) := dk_180 0 52 (dk_at dksX1_takeOut_1 8 rfl rfl)
theorem dX1_takeOut_33 : decode cX1_takeOut 33 = .ok (.iload_n 1, 1) := dk_27 (dk_at dksX1_takeOut_1 11 rfl rfl)
theorem dX1_takeOut_34 : decode cX1_takeOut 34 = .ok (.iload_n 2, 1) := dk_28 (dk_at dksX1_takeOut_1 12 rfl rfl)
theorem dX1_takeOut_35 : decode cX1_takeOut 35 = .ok (.invokevirtual 184, 3) := dk_182 0 184 (dk_at dksX1_takeOut_1 13 rfl rfl)
theorem dX1_takeOut_38 : decode cX1_takeOut 38 = .ok (.ireturn, 1) := dk_172 (dk_at dksX1_takeOut_1 16 rfl rfl)
abbrev cX1_setMode : ByteArray := prog_1_method_28_code
def yX1_setMode : MethodName := ⟨RX1, "setMode", "(I)I"⟩
def dkwX1_setMode_1 : List UInt8 := [182, 0, 190, 28, 172]
abbrev dktX1_setMode_1 : List UInt8 := dkwX1_setMode_1 ++ []
def dkwX1_setMode_0 : List UInt8 := [27, 3, 5, 184, 0, 132, 42, 182, 0, 136, 42, 180, 0, 52, 180, 0, 187, 61, 42, 180, 0, 52, 27]
abbrev dktX1_setMode_0 : List UInt8 := dkwX1_setMode_0 ++ dktX1_setMode_1
theorem dksX1_setMode_0 : cX1_setMode.data.toList.drop 0 = dktX1_setMode_0 := by decide +kernel
theorem dksX1_setMode_1 : cX1_setMode.data.toList.drop 23 = dktX1_setMode_1 := dk_seg dksX1_setMode_0 23 rfl rfl
theorem dX1_setMode_0 : decode cX1_setMode 0 = .ok (.iload_n 1, 1) := dk_27 (dk_at dksX1_setMode_0 0 rfl rfl)
theorem dX1_setMode_1 : decode cX1_setMode 1 = .ok (.iconst 0, 1) := dk_3 (dk_at dksX1_setMode_0 1 rfl rfl)
theorem dX1_setMode_2 : decode cX1_setMode 2 = .ok (.iconst 2, 1) := dk_5 (dk_at dksX1_setMode_0 2 rfl rfl)
theorem dX1_setMode_3 : decode cX1_setMode 3 = .ok (.invokestatic 132, 3) := dk_184 0 132 (dk_at dksX1_setMode_0 3 rfl rfl)
theorem dX1_setMode_6 : decode cX1_setMode 6 = .ok (.aload_n 0, 1) := dk_42 (dk_at dksX1_setMode_0 6 rfl rfl)
theorem dX1_setMode_7 : decode cX1_setMode 7 = .ok (.invokevirtual 136, 3) := dk_182 0 136 (dk_at dksX1_setMode_0 7 rfl rfl)
theorem dX1_setMode_10 : decode cX1_setMode 10 = .ok (.aload_n 0, 1) := dk_42 (dk_at dksX1_setMode_0 10 rfl rfl)
theorem dX1_setMode_11 : decode cX1_setMode 11 = .ok (.getfield 52, 3) := dk_180 0 52 (dk_at dksX1_setMode_0 11 rfl rfl)
theorem dX1_setMode_14 : decode cX1_setMode 14 = .ok (.getfield 187, 3) := dk_180 0 187 (dk_at dksX1_setMode_0 14 rfl rfl)
theorem dX1_setMode_17 : decode cX1_setMode 17 = .ok (.istore_n 2, 1) := dk_61 (dk_at dksX1_setMode_0 17 rfl rfl)
theorem dX1_setMode_18 : decode cX1_setMode 18 = .ok (.aload_n 0, 1) := dk_42 (dk_at dksX1_setMode_0 18 rfl rfl)
theorem dX1_setMode_19 : decode cX1_setMode 19 = .ok (.getfield 52, 3) := dk_180 0 52 (dk_at dksX1_setMode_0 19 rfl rfl)
theorem dX1_setMode_22 : decode cX1_setMode 22 = .ok (.iload_n 1, 1) := dk_27 (dk_at dksX1_setMode_0 22 rfl rfl)
theorem dX1_setMode_23 : decode cX1_setMode 23 = .ok (.invokevirtual 190, 3) := dk_182 0 190 (dk_at dksX1_setMode_1 0 rfl rfl)
theorem dX1_setMode_26 : decode cX1_setMode 26 = .ok (.iload_n 2, 1) := dk_28 (dk_at dksX1_setMode_1 3 rfl rfl)
theorem dX1_setMode_27 : decode cX1_setMode 27 = .ok (.ireturn, 1) := dk_172 (dk_at dksX1_setMode_1 4 rfl rfl)
abbrev cX1_setWay : ByteArray := prog_1_method_29_code
def yX1_setWay : MethodName := ⟨RX1, "setWay", "(I)I"⟩
def dkwX1_setWay_1 : List UInt8 := [180, 0, 52, 184, 0, 202, 27, 50, 181, 0, 193, 28, 172]
abbrev dktX1_setWay_1 : List UInt8 := dkwX1_setWay_1 ++ []
def dkwX1_setWay_0 : List UInt8 := [27, 3, 4, 184, 0, 132, 42, 182, 0, 136, 42, 180, 0, 52, 180, 0, 193, 182, 0, 197, 61, 42]
abbrev dktX1_setWay_0 : List UInt8 := dkwX1_setWay_0 ++ dktX1_setWay_1
theorem dksX1_setWay_0 : cX1_setWay.data.toList.drop 0 = dktX1_setWay_0 := by decide +kernel
theorem dksX1_setWay_1 : cX1_setWay.data.toList.drop 22 = dktX1_setWay_1 := dk_seg dksX1_setWay_0 22 rfl rfl
theorem dX1_setWay_0 : decode cX1_setWay 0 = .ok (.iload_n 1, 1) := dk_27 (dk_at dksX1_setWay_0 0 rfl rfl)
theorem dX1_setWay_1 : decode cX1_setWay 1 = .ok (.iconst 0, 1) := dk_3 (dk_at dksX1_setWay_0 1 rfl rfl)
theorem dX1_setWay_2 : decode cX1_setWay 2 = .ok (.iconst 1, 1) := dk_4 (dk_at dksX1_setWay_0 2 rfl rfl)
theorem dX1_setWay_3 : decode cX1_setWay 3 = .ok (.invokestatic 132, 3) := dk_184 0 132 (dk_at dksX1_setWay_0 3 rfl rfl)
theorem dX1_setWay_6 : decode cX1_setWay 6 = .ok (.aload_n 0, 1) := dk_42 (dk_at dksX1_setWay_0 6 rfl rfl)
theorem dX1_setWay_7 : decode cX1_setWay 7 = .ok (.invokevirtual 136, 3) := dk_182 0 136 (dk_at dksX1_setWay_0 7 rfl rfl)
theorem dX1_setWay_10 : decode cX1_setWay 10 = .ok (.aload_n 0, 1) := dk_42 (dk_at dksX1_setWay_0 10 rfl rfl)
theorem dX1_setWay_11 : decode cX1_setWay 11 = .ok (.getfield 52, 3) := dk_180 0 52 (dk_at dksX1_setWay_0 11 rfl rfl)
theorem dX1_setWay_14 : decode cX1_setWay 14 = .ok (.getfield 193, 3) := dk_180 0 193 (dk_at dksX1_setWay_0 14 rfl rfl)
theorem dX1_setWay_17 : decode cX1_setWay 17 = .ok (.invokevirtual 197, 3) := dk_182 0 197 (dk_at dksX1_setWay_0 17 rfl rfl)
theorem dX1_setWay_20 : decode cX1_setWay 20 = .ok (.istore_n 2, 1) := dk_61 (dk_at dksX1_setWay_0 20 rfl rfl)
theorem dX1_setWay_21 : decode cX1_setWay 21 = .ok (.aload_n 0, 1) := dk_42 (dk_at dksX1_setWay_0 21 rfl rfl)
theorem dX1_setWay_22 : decode cX1_setWay 22 = .ok (.getfield 52, 3) := dk_180 0 52 (dk_at dksX1_setWay_1 0 rfl rfl)
theorem dX1_setWay_25 : decode cX1_setWay 25 = .ok (.invokestatic 202, 3) := dk_184 0 202 (dk_at dksX1_setWay_1 3 rfl rfl)
theorem dX1_setWay_28 : decode cX1_setWay 28 = .ok (.iload_n 1, 1) := dk_27 (dk_at dksX1_setWay_1 6 rfl rfl)
theorem dX1_setWay_29 : decode cX1_setWay 29 = .ok (.aaload, 1) := dk_50 (dk_at dksX1_setWay_1 7 rfl rfl)
theorem dX1_setWay_30 : decode cX1_setWay 30 = .ok (.putfield 193, 3) := dk_181 0 193 (dk_at dksX1_setWay_1 8 rfl rfl)
theorem dX1_setWay_33 : decode cX1_setWay 33 = .ok (.iload_n 2, 1) := dk_28 (dk_at dksX1_setWay_1 11 rfl rfl)
theorem dX1_setWay_34 : decode cX1_setWay 34 = .ok (.ireturn, 1) := dk_172 (dk_at dksX1_setWay_1 12 rfl rfl)
abbrev cX1_record : ByteArray := prog_1_method_31_code
def yX1_record : MethodName := ⟨RX1, "record", "(I)I"⟩
def dkwX1_record_1 : List UInt8 := [180, 0, 52, 27, 182, 0, 213, 28, 172]
abbrev dktX1_record_1 : List UInt8 := dkwX1_record_1 ++ []
def dkwX1_record_0 : List UInt8 := [27, 2, 159, 0, 9, 42, 27, 182, 0, 114, 87, 42, 182, 0, 136, 42, 180, 0, 52, 180, 0, 210, 61, 42]
abbrev dktX1_record_0 : List UInt8 := dkwX1_record_0 ++ dktX1_record_1
theorem dksX1_record_0 : cX1_record.data.toList.drop 0 = dktX1_record_0 := by decide +kernel
theorem dksX1_record_1 : cX1_record.data.toList.drop 24 = dktX1_record_1 := dk_seg dksX1_record_0 24 rfl rfl
theorem dX1_record_0 : decode cX1_record 0 = .ok (.iload_n 1, 1) := dk_27 (dk_at dksX1_record_0 0 rfl rfl)
theorem dX1_record_1 : decode cX1_record 1 = .ok (.iconst (-1), 1) := dk_2 (dk_at dksX1_record_0 1 rfl rfl)
theorem dX1_record_2 : decode cX1_record 2 = .ok (.if_icmp .eq 9, 3) := dk_159 0 9 (dk_at dksX1_record_0 2 rfl rfl)
theorem dX1_record_5 : decode cX1_record 5 = .ok (.aload_n 0, 1) := dk_42 (dk_at dksX1_record_0 5 rfl rfl)
theorem dX1_record_6 : decode cX1_record 6 = .ok (.iload_n 1, 1) := dk_27 (dk_at dksX1_record_0 6 rfl rfl)
theorem dX1_record_7 : decode cX1_record 7 = .ok (.invokevirtual 114, 3) := dk_182 0 114 (dk_at dksX1_record_0 7 rfl rfl)
theorem dX1_record_10 : decode cX1_record 10 = .ok (.pop, 1) := dk_87 (dk_at dksX1_record_0 10 rfl rfl)
theorem dX1_record_11 : decode cX1_record 11 = .ok (.aload_n 0, 1) := dk_42 (dk_at dksX1_record_0 11 rfl rfl)
theorem dX1_record_12 : decode cX1_record 12 = .ok (.invokevirtual 136, 3) := dk_182 0 136 (dk_at dksX1_record_0 12 rfl rfl)
theorem dX1_record_15 : decode cX1_record 15 = .ok (.aload_n 0, 1) := dk_42 (dk_at dksX1_record_0 15 rfl rfl)
theorem dX1_record_16 : decode cX1_record 16 = .ok (.getfield 52, 3) := dk_180 0 52 (dk_at dksX1_record_0 16 rfl rfl)
theorem dX1_record_19 : decode cX1_record 19 = .ok (.getfield 210, 3) := dk_180 0 210 (dk_at dksX1_record_0 19 rfl rfl)
theorem dX1_record_22 : decode cX1_record 22 = .ok (.istore_n 2, 1) := dk_61 (dk_at dksX1_record_0 22 rfl rfl)
theorem dX1_record_23 : decode cX1_record 23 = .ok (.aload_n 0, 1) := dk_42 (dk_at dksX1_record_0 23 rfl rfl)
theorem dX1_record_24 : decode cX1_record 24 = .ok (.getfield 52, 3) := dk_180 0 52 (dk_at dksX1_record_1 0 rfl rfl)
theorem dX1_record_27 : decode cX1_record 27 = .ok (.iload_n 1, 1) := dk_27 (dk_at dksX1_record_1 3 rfl rfl)
theorem dX1_record_28 : decode cX1_record 28 = .ok (.invokevirtual 213, 3) := dk_182 0 213 (dk_at dksX1_record_1 4 rfl rfl)
theorem dX1_record_31 : decode cX1_record 31 = .ok (.iload_n 2, 1) := dk_28 (dk_at dksX1_record_1 7 rfl rfl)
theorem dX1_record_32 : decode cX1_record 32 = .ok (.ireturn, 1) := dk_172 (dk_at dksX1_record_1 8 rfl rfl)
abbrev cX1_pass : ByteArray := prog_1_method_33_code
def yX1_pass : MethodName := ⟨RX1, "pass", "(I)I"⟩
def dkwX1_pass_1 : List UInt8 := [27, 182, 0, 224, 172]
abbrev dktX1_pass_1 : List UInt8 := dkwX1_pass_1 ++ []
def dkwX1_pass_0 : List UInt8 := [27, 4, 17, 3, 231, 184, 0, 132, 42, 27, 182, 0, 220, 184, 0, 96, 42, 182, 0, 136, 42, 180, 0, 52]
abbrev dktX1_pass_0 : List UInt8 := dkwX1_pass_0 ++ dktX1_pass_1
theorem dksX1_pass_0 : cX1_pass.data.toList.drop 0 = dktX1_pass_0 := by decide +kernel
theorem dksX1_pass_1 : cX1_pass.data.toList.drop 24 = dktX1_pass_1 := dk_seg dksX1_pass_0 24 rfl rfl
theorem dX1_pass_0 : decode cX1_pass 0 = .ok (.iload_n 1, 1) := dk_27 (dk_at dksX1_pass_0 0 rfl rfl)
theorem dX1_pass_1 : decode cX1_pass 1 = .ok (.iconst 1, 1) := dk_4 (dk_at dksX1_pass_0 1 rfl rfl)
theorem dX1_pass_2 : decode cX1_pass 2 = .ok (.sipush 999, 3) := dk_17 3 231 (dk_at dksX1_pass_0 2 rfl rfl)
theorem dX1_pass_5 : decode cX1_pass 5 = .ok (.invokestatic 132, 3) := dk_184 0 132 (dk_at dksX1_pass_0 5 rfl rfl)
theorem dX1_pass_8 : decode cX1_pass 8 = .ok (.aload_n 0, 1) := dk_42 (dk_at dksX1_pass_0 8 rfl rfl)
theorem dX1_pass_9 : decode cX1_pass 9 = .ok (.iload_n 1, 1) := dk_27 (dk_at dksX1_pass_0 9 rfl rfl)
theorem dX1_pass_10 : decode cX1_pass 10 = .ok (.invokevirtual 220, 3) := dk_182 0 220 (dk_at dksX1_pass_0 10 rfl rfl)
theorem dX1_pass_13 : decode cX1_pass 13 = .ok (.invokestatic 96, 3) := dk_184 0 96 (dk_at dksX1_pass_0 13 rfl rfl)
theorem dX1_pass_16 : decode cX1_pass 16 = .ok (.aload_n 0, 1) := dk_42 (dk_at dksX1_pass_0 16 rfl rfl)
theorem dX1_pass_17 : decode cX1_pass 17 = .ok (.invokevirtual 136, 3) := dk_182 0 136 (dk_at dksX1_pass_0 17 rfl rfl)
theorem dX1_pass_20 : decode cX1_pass 20 = .ok (.aload_n 0, 1) := dk_42 (dk_at dksX1_pass_0 20 rfl rfl)
theorem dX1_pass_21 : decode cX1_pass 21 = .ok (.getfield 52, 3) := dk_180 0 52 (dk_at dksX1_pass_0 21 rfl rfl)
theorem dX1_pass_24 : decode cX1_pass 24 = .ok (.iload_n 1, 1) := dk_27 (dk_at dksX1_pass_1 0 rfl rfl)
theorem dX1_pass_25 : decode cX1_pass 25 = .ok (.invokevirtual 224, 3) := dk_182 0 224 (dk_at dksX1_pass_1 1 rfl rfl)
theorem dX1_pass_28 : decode cX1_pass 28 = .ok (.ireturn, 1) := dk_172 (dk_at dksX1_pass_1 4 rfl rfl)
abbrev cX1_canPass : ByteArray := prog_1_method_32_code
def yX1_canPass : MethodName := ⟨RX1, "canPass", "(I)Z"⟩
def dkwX1_canPass_0 : List UInt8 := [42, 180, 0, 52, 180, 0, 216, 27, 96, 18, 219, 163, 0, 7, 4, 167, 0, 4, 3, 172]
abbrev dktX1_canPass_0 : List UInt8 := dkwX1_canPass_0 ++ []
theorem dksX1_canPass_0 : cX1_canPass.data.toList.drop 0 = dktX1_canPass_0 := by decide +kernel
theorem dX1_canPass_0 : decode cX1_canPass 0 = .ok (.aload_n 0, 1) := dk_42 (dk_at dksX1_canPass_0 0 rfl rfl)
theorem dX1_canPass_1 : decode cX1_canPass 1 = .ok (.getfield 52, 3) := dk_180 0 52 (dk_at dksX1_canPass_0 1 rfl rfl)
theorem dX1_canPass_4 : decode cX1_canPass 4 = .ok (.getfield 216, 3) := dk_180 0 216 (dk_at dksX1_canPass_0 4 rfl rfl)
theorem dX1_canPass_7 : decode cX1_canPass 7 = .ok (.iload_n 1, 1) := dk_27 (dk_at dksX1_canPass_0 7 rfl rfl)
theorem dX1_canPass_8 : decode cX1_canPass 8 = .ok (.iadd, 1) := dk_96 (dk_at dksX1_canPass_0 8 rfl rfl)
theorem dX1_canPass_9 : decode cX1_canPass 9 = .ok (.ldc 219, 2) := dk_18 219 (dk_at dksX1_canPass_0 9 rfl rfl)
theorem dX1_canPass_11 : decode cX1_canPass 11 = .ok (.if_icmp .gt 7, 3) := dk_163 0 7 (dk_at dksX1_canPass_0 11 rfl rfl)
theorem dX1_canPass_14 : decode cX1_canPass 14 = .ok (.iconst 1, 1) := dk_4 (dk_at dksX1_canPass_0 14 rfl rfl)
theorem dX1_canPass_15 : decode cX1_canPass 15 = .ok (.goto 4, 3) := dk_167 0 4 (dk_at dksX1_canPass_0 15 rfl rfl)
theorem dX1_canPass_18 : decode cX1_canPass 18 = .ok (.iconst 0, 1) := dk_3 (dk_at dksX1_canPass_0 18 rfl rfl)
theorem dX1_canPass_19 : decode cX1_canPass 19 = .ok (.ireturn, 1) := dk_172 (dk_at dksX1_canPass_0 19 rfl rfl)
abbrev cX1_kindOf : ByteArray := prog_1_method_35_code
def yX1_kindOf : MethodName := ⟨RX1, "kindOf", "(I)I"⟩
def dkwX1_kindOf_0 : List UInt8 := [42, 27, 182, 0, 114, 182, 0, 228, 172]
abbrev dktX1_kindOf_0 : List UInt8 := dkwX1_kindOf_0 ++ []
theorem dksX1_kindOf_0 : cX1_kindOf.data.toList.drop 0 = dktX1_kindOf_0 := by decide +kernel
theorem dX1_kindOf_0 : decode cX1_kindOf 0 = .ok (.aload_n 0, 1) := dk_42 (dk_at dksX1_kindOf_0 0 rfl rfl)
theorem dX1_kindOf_1 : decode cX1_kindOf 1 = .ok (.iload_n 1, 1) := dk_27 (dk_at dksX1_kindOf_0 1 rfl rfl)
theorem dX1_kindOf_2 : decode cX1_kindOf 2 = .ok (.invokevirtual 114, 3) := dk_182 0 114 (dk_at dksX1_kindOf_0 2 rfl rfl)
theorem dX1_kindOf_5 : decode cX1_kindOf 5 = .ok (.invokevirtual 228, 3) := dk_182 0 228 (dk_at dksX1_kindOf_0 5 rfl rfl)
theorem dX1_kindOf_8 : decode cX1_kindOf 8 = .ok (.ireturn, 1) := dk_172 (dk_at dksX1_kindOf_0 8 rfl rfl)
abbrev cX1_inputsOf : ByteArray := prog_1_method_36_code
def yX1_inputsOf : MethodName := ⟨RX1, "inputsOf", "(I)I"⟩
def dkwX1_inputsOf_0 : List UInt8 := [42, 27, 182, 0, 114, 180, 0, 117, 190, 172]
abbrev dktX1_inputsOf_0 : List UInt8 := dkwX1_inputsOf_0 ++ []
theorem dksX1_inputsOf_0 : cX1_inputsOf.data.toList.drop 0 = dktX1_inputsOf_0 := by decide +kernel
theorem dX1_inputsOf_0 : decode cX1_inputsOf 0 = .ok (.aload_n 0, 1) := dk_42 (dk_at dksX1_inputsOf_0 0 rfl rfl)
theorem dX1_inputsOf_1 : decode cX1_inputsOf 1 = .ok (.iload_n 1, 1) := dk_27 (dk_at dksX1_inputsOf_0 1 rfl rfl)
theorem dX1_inputsOf_2 : decode cX1_inputsOf 2 = .ok (.invokevirtual 114, 3) := dk_182 0 114 (dk_at dksX1_inputsOf_0 2 rfl rfl)
theorem dX1_inputsOf_5 : decode cX1_inputsOf 5 = .ok (.getfield 117, 3) := dk_180 0 117 (dk_at dksX1_inputsOf_0 5 rfl rfl)
theorem dX1_inputsOf_8 : decode cX1_inputsOf 8 = .ok (.arraylength, 1) := dk_190 (dk_at dksX1_inputsOf_0 8 rfl rfl)
theorem dX1_inputsOf_9 : decode cX1_inputsOf 9 = .ok (.ireturn, 1) := dk_172 (dk_at dksX1_inputsOf_0 9 rfl rfl)
abbrev cX1_cordIn : ByteArray := prog_1_method_37_code
def yX1_cordIn : MethodName := ⟨RX1, "cordIn", "(II)I"⟩
def dkwX1_cordIn_0 : List UInt8 := [42, 27, 28, 182, 0, 123, 180, 0, 117, 28, 46, 172]
abbrev dktX1_cordIn_0 : List UInt8 := dkwX1_cordIn_0 ++ []
theorem dksX1_cordIn_0 : cX1_cordIn.data.toList.drop 0 = dktX1_cordIn_0 := by decide +kernel
theorem dX1_cordIn_0 : decode cX1_cordIn 0 = .ok (.aload_n 0, 1) := dk_42 (dk_at dksX1_cordIn_0 0 rfl rfl)
theorem dX1_cordIn_1 : decode cX1_cordIn 1 = .ok (.iload_n 1, 1) := dk_27 (dk_at dksX1_cordIn_0 1 rfl rfl)
theorem dX1_cordIn_2 : decode cX1_cordIn 2 = .ok (.iload_n 2, 1) := dk_28 (dk_at dksX1_cordIn_0 2 rfl rfl)
theorem dX1_cordIn_3 : decode cX1_cordIn 3 = .ok (.invokevirtual 123, 3) := dk_182 0 123 (dk_at dksX1_cordIn_0 3 rfl rfl)
theorem dX1_cordIn_6 : decode cX1_cordIn 6 = .ok (.getfield 117, 3) := dk_180 0 117 (dk_at dksX1_cordIn_0 6 rfl rfl)
theorem dX1_cordIn_9 : decode cX1_cordIn 9 = .ok (.iload_n 2, 1) := dk_28 (dk_at dksX1_cordIn_0 9 rfl rfl)
theorem dX1_cordIn_10 : decode cX1_cordIn 10 = .ok (.iaload, 1) := dk_46 (dk_at dksX1_cordIn_0 10 rfl rfl)
theorem dX1_cordIn_11 : decode cX1_cordIn 11 = .ok (.ireturn, 1) := dk_172 (dk_at dksX1_cordIn_0 11 rfl rfl)
abbrev cX1_weightOf : ByteArray := prog_1_method_38_code
def yX1_weightOf : MethodName := ⟨RX1, "weightOf", "(II)I"⟩
def dkwX1_weightOf_0 : List UInt8 := [42, 27, 28, 182, 0, 143, 28, 182, 0, 231, 172]
abbrev dktX1_weightOf_0 : List UInt8 := dkwX1_weightOf_0 ++ []
theorem dksX1_weightOf_0 : cX1_weightOf.data.toList.drop 0 = dktX1_weightOf_0 := by decide +kernel
theorem dX1_weightOf_0 : decode cX1_weightOf 0 = .ok (.aload_n 0, 1) := dk_42 (dk_at dksX1_weightOf_0 0 rfl rfl)
theorem dX1_weightOf_1 : decode cX1_weightOf 1 = .ok (.iload_n 1, 1) := dk_27 (dk_at dksX1_weightOf_0 1 rfl rfl)
theorem dX1_weightOf_2 : decode cX1_weightOf 2 = .ok (.iload_n 2, 1) := dk_28 (dk_at dksX1_weightOf_0 2 rfl rfl)
theorem dX1_weightOf_3 : decode cX1_weightOf 3 = .ok (.invokevirtual 143, 3) := dk_182 0 143 (dk_at dksX1_weightOf_0 3 rfl rfl)
theorem dX1_weightOf_6 : decode cX1_weightOf 6 = .ok (.iload_n 2, 1) := dk_28 (dk_at dksX1_weightOf_0 6 rfl rfl)
theorem dX1_weightOf_7 : decode cX1_weightOf 7 = .ok (.invokevirtual 231, 3) := dk_182 0 231 (dk_at dksX1_weightOf_0 7 rfl rfl)
theorem dX1_weightOf_10 : decode cX1_weightOf 10 = .ok (.ireturn, 1) := dk_172 (dk_at dksX1_weightOf_0 10 rfl rfl)
abbrev cX1_settingOf : ByteArray := prog_1_method_39_code
def yX1_settingOf : MethodName := ⟨RX1, "settingOf", "(I)I"⟩
def dkwX1_settingOf_0 : List UInt8 := [42, 27, 182, 0, 114, 182, 0, 154, 172]
abbrev dktX1_settingOf_0 : List UInt8 := dkwX1_settingOf_0 ++ []
theorem dksX1_settingOf_0 : cX1_settingOf.data.toList.drop 0 = dktX1_settingOf_0 := by decide +kernel
theorem dX1_settingOf_0 : decode cX1_settingOf 0 = .ok (.aload_n 0, 1) := dk_42 (dk_at dksX1_settingOf_0 0 rfl rfl)
theorem dX1_settingOf_1 : decode cX1_settingOf 1 = .ok (.iload_n 1, 1) := dk_27 (dk_at dksX1_settingOf_0 1 rfl rfl)
theorem dX1_settingOf_2 : decode cX1_settingOf 2 = .ok (.invokevirtual 114, 3) := dk_182 0 114 (dk_at dksX1_settingOf_0 2 rfl rfl)
theorem dX1_settingOf_5 : decode cX1_settingOf 5 = .ok (.invokevirtual 154, 3) := dk_182 0 154 (dk_at dksX1_settingOf_0 5 rfl rfl)
theorem dX1_settingOf_8 : decode cX1_settingOf 8 = .ok (.ireturn, 1) := dk_172 (dk_at dksX1_settingOf_0 8 rfl rfl)
abbrev cX1_speedOf : ByteArray := prog_1_method_40_code
def yX1_speedOf : MethodName := ⟨RX1, "speedOf", "(I)I"⟩
def dkwX1_speedOf_0 : List UInt8 := [42, 27, 182, 0, 169, 180, 0, 173, 172]
abbrev dktX1_speedOf_0 : List UInt8 := dkwX1_speedOf_0 ++ []
theorem dksX1_speedOf_0 : cX1_speedOf.data.toList.drop 0 = dktX1_speedOf_0 := by decide +kernel
theorem dX1_speedOf_0 : decode cX1_speedOf 0 = .ok (.aload_n 0, 1) := dk_42 (dk_at dksX1_speedOf_0 0 rfl rfl)
theorem dX1_speedOf_1 : decode cX1_speedOf 1 = .ok (.iload_n 1, 1) := dk_27 (dk_at dksX1_speedOf_0 1 rfl rfl)
theorem dX1_speedOf_2 : decode cX1_speedOf 2 = .ok (.invokevirtual 169, 3) := dk_182 0 169 (dk_at dksX1_speedOf_0 2 rfl rfl)
theorem dX1_speedOf_5 : decode cX1_speedOf 5 = .ok (.getfield 173, 3) := dk_180 0 173 (dk_at dksX1_speedOf_0 5 rfl rfl)
theorem dX1_speedOf_8 : decode cX1_speedOf 8 = .ok (.ireturn, 1) := dk_172 (dk_at dksX1_speedOf_0 8 rfl rfl)
abbrev cX1_outputOf : ByteArray := prog_1_method_46_code
def yX1_outputOf : MethodName := ⟨RX1, "outputOf", "(I)I"⟩
def dkwX1_outputOf_0 : List UInt8 := [42, 27, 182, 0, 114, 87, 42, 180, 0, 52, 27, 182, 0, 236, 172]
abbrev dktX1_outputOf_0 : List UInt8 := dkwX1_outputOf_0 ++ []
theorem dksX1_outputOf_0 : cX1_outputOf.data.toList.drop 0 = dktX1_outputOf_0 := by decide +kernel
theorem dX1_outputOf_0 : decode cX1_outputOf 0 = .ok (.aload_n 0, 1) := dk_42 (dk_at dksX1_outputOf_0 0 rfl rfl)
theorem dX1_outputOf_1 : decode cX1_outputOf 1 = .ok (.iload_n 1, 1) := dk_27 (dk_at dksX1_outputOf_0 1 rfl rfl)
theorem dX1_outputOf_2 : decode cX1_outputOf 2 = .ok (.invokevirtual 114, 3) := dk_182 0 114 (dk_at dksX1_outputOf_0 2 rfl rfl)
theorem dX1_outputOf_5 : decode cX1_outputOf 5 = .ok (.pop, 1) := dk_87 (dk_at dksX1_outputOf_0 5 rfl rfl)
theorem dX1_outputOf_6 : decode cX1_outputOf 6 = .ok (.aload_n 0, 1) := dk_42 (dk_at dksX1_outputOf_0 6 rfl rfl)
theorem dX1_outputOf_7 : decode cX1_outputOf 7 = .ok (.getfield 52, 3) := dk_180 0 52 (dk_at dksX1_outputOf_0 7 rfl rfl)
theorem dX1_outputOf_10 : decode cX1_outputOf 10 = .ok (.iload_n 1, 1) := dk_27 (dk_at dksX1_outputOf_0 10 rfl rfl)
theorem dX1_outputOf_11 : decode cX1_outputOf 11 = .ok (.invokevirtual 236, 3) := dk_182 0 236 (dk_at dksX1_outputOf_0 11 rfl rfl)
theorem dX1_outputOf_14 : decode cX1_outputOf 14 = .ok (.ireturn, 1) := dk_172 (dk_at dksX1_outputOf_0 14 rfl rfl)
abbrev cX1_outputByAsking : ByteArray := prog_1_method_47_code
def yX1_outputByAsking : MethodName := ⟨RX1, "outputByAsking", "(I)I"⟩
def dkwX1_outputByAsking_0 : List UInt8 := [42, 27, 182, 0, 114, 87, 42, 180, 0, 52, 27, 182, 0, 239, 172]
abbrev dktX1_outputByAsking_0 : List UInt8 := dkwX1_outputByAsking_0 ++ []
theorem dksX1_outputByAsking_0 : cX1_outputByAsking.data.toList.drop 0 = dktX1_outputByAsking_0 := by decide +kernel
theorem dX1_outputByAsking_0 : decode cX1_outputByAsking 0 = .ok (.aload_n 0, 1) := dk_42 (dk_at dksX1_outputByAsking_0 0 rfl rfl)
theorem dX1_outputByAsking_1 : decode cX1_outputByAsking 1 = .ok (.iload_n 1, 1) := dk_27 (dk_at dksX1_outputByAsking_0 1 rfl rfl)
theorem dX1_outputByAsking_2 : decode cX1_outputByAsking 2 = .ok (.invokevirtual 114, 3) := dk_182 0 114 (dk_at dksX1_outputByAsking_0 2 rfl rfl)
theorem dX1_outputByAsking_5 : decode cX1_outputByAsking 5 = .ok (.pop, 1) := dk_87 (dk_at dksX1_outputByAsking_0 5 rfl rfl)
theorem dX1_outputByAsking_6 : decode cX1_outputByAsking 6 = .ok (.aload_n 0, 1) := dk_42 (dk_at dksX1_outputByAsking_0 6 rfl rfl)
theorem dX1_outputByAsking_7 : decode cX1_outputByAsking 7 = .ok (.getfield 52, 3) := dk_180 0 52 (dk_at dksX1_outputByAsking_0 7 rfl rfl)
theorem dX1_outputByAsking_10 : decode cX1_outputByAsking 10 = .ok (.iload_n 1, 1) := dk_27 (dk_at dksX1_outputByAsking_0 10 rfl rfl)
theorem dX1_outputByAsking_11 : decode cX1_outputByAsking 11 = .ok (.invokevirtual 239, 3) := dk_182 0 239 (dk_at dksX1_outputByAsking_0 11 rfl rfl)
theorem dX1_outputByAsking_14 : decode cX1_outputByAsking 14 = .ok (.ireturn, 1) := dk_172 (dk_at dksX1_outputByAsking_0 14 rfl rfl)
abbrev cX1_inputOf : ByteArray := prog_1_method_48_code
def yX1_inputOf : MethodName := ⟨RX1, "inputOf", "(II)I"⟩
def dkwX1_inputOf_0 : List UInt8 := [42, 27, 28, 182, 0, 123, 87, 42, 180, 0, 52, 27, 28, 182, 0, 242, 172]
abbrev dktX1_inputOf_0 : List UInt8 := dkwX1_inputOf_0 ++ []
theorem dksX1_inputOf_0 : cX1_inputOf.data.toList.drop 0 = dktX1_inputOf_0 := by decide +kernel
theorem dX1_inputOf_0 : decode cX1_inputOf 0 = .ok (.aload_n 0, 1) := dk_42 (dk_at dksX1_inputOf_0 0 rfl rfl)
theorem dX1_inputOf_1 : decode cX1_inputOf 1 = .ok (.iload_n 1, 1) := dk_27 (dk_at dksX1_inputOf_0 1 rfl rfl)
theorem dX1_inputOf_2 : decode cX1_inputOf 2 = .ok (.iload_n 2, 1) := dk_28 (dk_at dksX1_inputOf_0 2 rfl rfl)
theorem dX1_inputOf_3 : decode cX1_inputOf 3 = .ok (.invokevirtual 123, 3) := dk_182 0 123 (dk_at dksX1_inputOf_0 3 rfl rfl)
theorem dX1_inputOf_6 : decode cX1_inputOf 6 = .ok (.pop, 1) := dk_87 (dk_at dksX1_inputOf_0 6 rfl rfl)
theorem dX1_inputOf_7 : decode cX1_inputOf 7 = .ok (.aload_n 0, 1) := dk_42 (dk_at dksX1_inputOf_0 7 rfl rfl)
theorem dX1_inputOf_8 : decode cX1_inputOf 8 = .ok (.getfield 52, 3) := dk_180 0 52 (dk_at dksX1_inputOf_0 8 rfl rfl)
theorem dX1_inputOf_11 : decode cX1_inputOf 11 = .ok (.iload_n 1, 1) := dk_27 (dk_at dksX1_inputOf_0 11 rfl rfl)
theorem dX1_inputOf_12 : decode cX1_inputOf 12 = .ok (.iload_n 2, 1) := dk_28 (dk_at dksX1_inputOf_0 12 rfl rfl)
theorem dX1_inputOf_13 : decode cX1_inputOf 13 = .ok (.invokevirtual 242, 3) := dk_182 0 242 (dk_at dksX1_inputOf_0 13 rfl rfl)
theorem dX1_inputOf_16 : decode cX1_inputOf 16 = .ok (.ireturn, 1) := dk_172 (dk_at dksX1_inputOf_0 16 rfl rfl)
abbrev cX1_chargeOf : ByteArray := prog_1_method_49_code
def yX1_chargeOf : MethodName := ⟨RX1, "chargeOf", "(I)I"⟩
def dkwX1_chargeOf_0 : List UInt8 := [42, 27, 182, 0, 169, 180, 0, 245, 172]
abbrev dktX1_chargeOf_0 : List UInt8 := dkwX1_chargeOf_0 ++ []
theorem dksX1_chargeOf_0 : cX1_chargeOf.data.toList.drop 0 = dktX1_chargeOf_0 := by decide +kernel
theorem dX1_chargeOf_0 : decode cX1_chargeOf 0 = .ok (.aload_n 0, 1) := dk_42 (dk_at dksX1_chargeOf_0 0 rfl rfl)
theorem dX1_chargeOf_1 : decode cX1_chargeOf 1 = .ok (.iload_n 1, 1) := dk_27 (dk_at dksX1_chargeOf_0 1 rfl rfl)
theorem dX1_chargeOf_2 : decode cX1_chargeOf 2 = .ok (.invokevirtual 169, 3) := dk_182 0 169 (dk_at dksX1_chargeOf_0 2 rfl rfl)
theorem dX1_chargeOf_5 : decode cX1_chargeOf 5 = .ok (.getfield 245, 3) := dk_180 0 245 (dk_at dksX1_chargeOf_0 5 rfl rfl)
theorem dX1_chargeOf_8 : decode cX1_chargeOf 8 = .ok (.ireturn, 1) := dk_172 (dk_at dksX1_chargeOf_0 8 rfl rfl)
abbrev cX1_rateOf : ByteArray := prog_1_method_50_code
def yX1_rateOf : MethodName := ⟨RX1, "rateOf", "(I)I"⟩
def dkwX1_rateOf_0 : List UInt8 := [42, 180, 0, 52, 42, 27, 182, 0, 169, 182, 0, 248, 172]
abbrev dktX1_rateOf_0 : List UInt8 := dkwX1_rateOf_0 ++ []
theorem dksX1_rateOf_0 : cX1_rateOf.data.toList.drop 0 = dktX1_rateOf_0 := by decide +kernel
theorem dX1_rateOf_0 : decode cX1_rateOf 0 = .ok (.aload_n 0, 1) := dk_42 (dk_at dksX1_rateOf_0 0 rfl rfl)
theorem dX1_rateOf_1 : decode cX1_rateOf 1 = .ok (.getfield 52, 3) := dk_180 0 52 (dk_at dksX1_rateOf_0 1 rfl rfl)
theorem dX1_rateOf_4 : decode cX1_rateOf 4 = .ok (.aload_n 0, 1) := dk_42 (dk_at dksX1_rateOf_0 4 rfl rfl)
theorem dX1_rateOf_5 : decode cX1_rateOf 5 = .ok (.iload_n 1, 1) := dk_27 (dk_at dksX1_rateOf_0 5 rfl rfl)
theorem dX1_rateOf_6 : decode cX1_rateOf 6 = .ok (.invokevirtual 169, 3) := dk_182 0 169 (dk_at dksX1_rateOf_0 6 rfl rfl)
theorem dX1_rateOf_9 : decode cX1_rateOf 9 = .ok (.invokevirtual 248, 3) := dk_182 0 248 (dk_at dksX1_rateOf_0 9 rfl rfl)
theorem dX1_rateOf_12 : decode cX1_rateOf 12 = .ok (.ireturn, 1) := dk_172 (dk_at dksX1_rateOf_0 12 rfl rfl)
abbrev cX1_peakOf : ByteArray := prog_1_method_52_code
def yX1_peakOf : MethodName := ⟨RX1, "peakOf", "(I)I"⟩
def dkwX1_peakOf_0 : List UInt8 := [42, 27, 182, 0, 114, 180, 0, 255, 172]
abbrev dktX1_peakOf_0 : List UInt8 := dkwX1_peakOf_0 ++ []
theorem dksX1_peakOf_0 : cX1_peakOf.data.toList.drop 0 = dktX1_peakOf_0 := by decide +kernel
theorem dX1_peakOf_0 : decode cX1_peakOf 0 = .ok (.aload_n 0, 1) := dk_42 (dk_at dksX1_peakOf_0 0 rfl rfl)
theorem dX1_peakOf_1 : decode cX1_peakOf 1 = .ok (.iload_n 1, 1) := dk_27 (dk_at dksX1_peakOf_0 1 rfl rfl)
theorem dX1_peakOf_2 : decode cX1_peakOf 2 = .ok (.invokevirtual 114, 3) := dk_182 0 114 (dk_at dksX1_peakOf_0 2 rfl rfl)
theorem dX1_peakOf_5 : decode cX1_peakOf 5 = .ok (.getfield 255, 3) := dk_180 0 255 (dk_at dksX1_peakOf_0 5 rfl rfl)
theorem dX1_peakOf_8 : decode cX1_peakOf 8 = .ok (.ireturn, 1) := dk_172 (dk_at dksX1_peakOf_0 8 rfl rfl)
abbrev cX1_scaleOf : ByteArray := prog_1_method_54_code
def yX1_scaleOf : MethodName := ⟨RX1, "scaleOf", "(I)I"⟩
def dkwX1_scaleOf_0 : List UInt8 := [42, 27, 182, 0, 114, 180, 0, 255, 184, 1, 3, 172]
abbrev dktX1_scaleOf_0 : List UInt8 := dkwX1_scaleOf_0 ++ []
theorem dksX1_scaleOf_0 : cX1_scaleOf.data.toList.drop 0 = dktX1_scaleOf_0 := by decide +kernel
theorem dX1_scaleOf_0 : decode cX1_scaleOf 0 = .ok (.aload_n 0, 1) := dk_42 (dk_at dksX1_scaleOf_0 0 rfl rfl)
theorem dX1_scaleOf_1 : decode cX1_scaleOf 1 = .ok (.iload_n 1, 1) := dk_27 (dk_at dksX1_scaleOf_0 1 rfl rfl)
theorem dX1_scaleOf_2 : decode cX1_scaleOf 2 = .ok (.invokevirtual 114, 3) := dk_182 0 114 (dk_at dksX1_scaleOf_0 2 rfl rfl)
theorem dX1_scaleOf_5 : decode cX1_scaleOf 5 = .ok (.getfield 255, 3) := dk_180 0 255 (dk_at dksX1_scaleOf_0 5 rfl rfl)
theorem dX1_scaleOf_8 : decode cX1_scaleOf 8 = .ok (.invokestatic 259, 3) := dk_184 1 3 (dk_at dksX1_scaleOf_0 8 rfl rfl)
theorem dX1_scaleOf_11 : decode cX1_scaleOf 11 = .ok (.ireturn, 1) := dk_172 (dk_at dksX1_scaleOf_0 11 rfl rfl)
abbrev cX1_levelOf : ByteArray := prog_1_method_55_code
def yX1_levelOf : MethodName := ⟨RX1, "levelOf", "(I)I"⟩
def dkwX1_levelOf_0 : List UInt8 := [42, 27, 182, 0, 114, 87, 42, 180, 0, 52, 182, 1, 6, 27, 46, 172]
abbrev dktX1_levelOf_0 : List UInt8 := dkwX1_levelOf_0 ++ []
theorem dksX1_levelOf_0 : cX1_levelOf.data.toList.drop 0 = dktX1_levelOf_0 := by decide +kernel
theorem dX1_levelOf_0 : decode cX1_levelOf 0 = .ok (.aload_n 0, 1) := dk_42 (dk_at dksX1_levelOf_0 0 rfl rfl)
theorem dX1_levelOf_1 : decode cX1_levelOf 1 = .ok (.iload_n 1, 1) := dk_27 (dk_at dksX1_levelOf_0 1 rfl rfl)
theorem dX1_levelOf_2 : decode cX1_levelOf 2 = .ok (.invokevirtual 114, 3) := dk_182 0 114 (dk_at dksX1_levelOf_0 2 rfl rfl)
theorem dX1_levelOf_5 : decode cX1_levelOf 5 = .ok (.pop, 1) := dk_87 (dk_at dksX1_levelOf_0 5 rfl rfl)
theorem dX1_levelOf_6 : decode cX1_levelOf 6 = .ok (.aload_n 0, 1) := dk_42 (dk_at dksX1_levelOf_0 6 rfl rfl)
theorem dX1_levelOf_7 : decode cX1_levelOf 7 = .ok (.getfield 52, 3) := dk_180 0 52 (dk_at dksX1_levelOf_0 7 rfl rfl)
theorem dX1_levelOf_10 : decode cX1_levelOf 10 = .ok (.invokevirtual 262, 3) := dk_182 1 6 (dk_at dksX1_levelOf_0 10 rfl rfl)
theorem dX1_levelOf_13 : decode cX1_levelOf 13 = .ok (.iload_n 1, 1) := dk_27 (dk_at dksX1_levelOf_0 13 rfl rfl)
theorem dX1_levelOf_14 : decode cX1_levelOf 14 = .ok (.iaload, 1) := dk_46 (dk_at dksX1_levelOf_0 14 rfl rfl)
theorem dX1_levelOf_15 : decode cX1_levelOf 15 = .ok (.ireturn, 1) := dk_172 (dk_at dksX1_levelOf_0 15 rfl rfl)
abbrev cX1_feeders : ByteArray := prog_1_method_56_code
def yX1_feeders : MethodName := ⟨RX1, "feeders", "(I)I"⟩
def dkwX1_feeders_0 : List UInt8 := [42, 27, 182, 0, 114, 182, 1, 10, 172]
abbrev dktX1_feeders_0 : List UInt8 := dkwX1_feeders_0 ++ []
theorem dksX1_feeders_0 : cX1_feeders.data.toList.drop 0 = dktX1_feeders_0 := by decide +kernel
theorem dX1_feeders_0 : decode cX1_feeders 0 = .ok (.aload_n 0, 1) := dk_42 (dk_at dksX1_feeders_0 0 rfl rfl)
theorem dX1_feeders_1 : decode cX1_feeders 1 = .ok (.iload_n 1, 1) := dk_27 (dk_at dksX1_feeders_0 1 rfl rfl)
theorem dX1_feeders_2 : decode cX1_feeders 2 = .ok (.invokevirtual 114, 3) := dk_182 0 114 (dk_at dksX1_feeders_0 2 rfl rfl)
theorem dX1_feeders_5 : decode cX1_feeders 5 = .ok (.invokevirtual 266, 3) := dk_182 1 10 (dk_at dksX1_feeders_0 5 rfl rfl)
theorem dX1_feeders_8 : decode cX1_feeders 8 = .ok (.ireturn, 1) := dk_172 (dk_at dksX1_feeders_0 8 rfl rfl)
abbrev cX1_dependsOn : ByteArray := prog_1_method_57_code
def yX1_dependsOn : MethodName := ⟨RX1, "dependsOn", "(I)I"⟩
def dkwX1_dependsOn_0 : List UInt8 := [42, 27, 182, 0, 114, 87, 42, 180, 0, 52, 27, 182, 1, 13, 172]
abbrev dktX1_dependsOn_0 : List UInt8 := dkwX1_dependsOn_0 ++ []
theorem dksX1_dependsOn_0 : cX1_dependsOn.data.toList.drop 0 = dktX1_dependsOn_0 := by decide +kernel
theorem dX1_dependsOn_0 : decode cX1_dependsOn 0 = .ok (.aload_n 0, 1) := dk_42 (dk_at dksX1_dependsOn_0 0 rfl rfl)
theorem dX1_dependsOn_1 : decode cX1_dependsOn 1 = .ok (.iload_n 1, 1) := dk_27 (dk_at dksX1_dependsOn_0 1 rfl rfl)
theorem dX1_dependsOn_2 : decode cX1_dependsOn 2 = .ok (.invokevirtual 114, 3) := dk_182 0 114 (dk_at dksX1_dependsOn_0 2 rfl rfl)
theorem dX1_dependsOn_5 : decode cX1_dependsOn 5 = .ok (.pop, 1) := dk_87 (dk_at dksX1_dependsOn_0 5 rfl rfl)
theorem dX1_dependsOn_6 : decode cX1_dependsOn 6 = .ok (.aload_n 0, 1) := dk_42 (dk_at dksX1_dependsOn_0 6 rfl rfl)
theorem dX1_dependsOn_7 : decode cX1_dependsOn 7 = .ok (.getfield 52, 3) := dk_180 0 52 (dk_at dksX1_dependsOn_0 7 rfl rfl)
theorem dX1_dependsOn_10 : decode cX1_dependsOn 10 = .ok (.iload_n 1, 1) := dk_27 (dk_at dksX1_dependsOn_0 10 rfl rfl)
theorem dX1_dependsOn_11 : decode cX1_dependsOn 11 = .ok (.invokevirtual 269, 3) := dk_182 1 13 (dk_at dksX1_dependsOn_0 11 rfl rfl)
theorem dX1_dependsOn_14 : decode cX1_dependsOn 14 = .ok (.ireturn, 1) := dk_172 (dk_at dksX1_dependsOn_0 14 rfl rfl)
abbrev cX1_dependsByTable : ByteArray := prog_1_method_58_code
def yX1_dependsByTable : MethodName := ⟨RX1, "dependsByTable", "(I)I"⟩
def dkwX1_dependsByTable_0 : List UInt8 := [42, 27, 182, 0, 114, 87, 42, 180, 0, 52, 27, 182, 1, 16, 172]
abbrev dktX1_dependsByTable_0 : List UInt8 := dkwX1_dependsByTable_0 ++ []
theorem dksX1_dependsByTable_0 : cX1_dependsByTable.data.toList.drop 0 = dktX1_dependsByTable_0 := by decide +kernel
theorem dX1_dependsByTable_0 : decode cX1_dependsByTable 0 = .ok (.aload_n 0, 1) := dk_42 (dk_at dksX1_dependsByTable_0 0 rfl rfl)
theorem dX1_dependsByTable_1 : decode cX1_dependsByTable 1 = .ok (.iload_n 1, 1) := dk_27 (dk_at dksX1_dependsByTable_0 1 rfl rfl)
theorem dX1_dependsByTable_2 : decode cX1_dependsByTable 2 = .ok (.invokevirtual 114, 3) := dk_182 0 114 (dk_at dksX1_dependsByTable_0 2 rfl rfl)
theorem dX1_dependsByTable_5 : decode cX1_dependsByTable 5 = .ok (.pop, 1) := dk_87 (dk_at dksX1_dependsByTable_0 5 rfl rfl)
theorem dX1_dependsByTable_6 : decode cX1_dependsByTable 6 = .ok (.aload_n 0, 1) := dk_42 (dk_at dksX1_dependsByTable_0 6 rfl rfl)
theorem dX1_dependsByTable_7 : decode cX1_dependsByTable 7 = .ok (.getfield 52, 3) := dk_180 0 52 (dk_at dksX1_dependsByTable_0 7 rfl rfl)
theorem dX1_dependsByTable_10 : decode cX1_dependsByTable 10 = .ok (.iload_n 1, 1) := dk_27 (dk_at dksX1_dependsByTable_0 10 rfl rfl)
theorem dX1_dependsByTable_11 : decode cX1_dependsByTable 11 = .ok (.invokevirtual 272, 3) := dk_182 1 16 (dk_at dksX1_dependsByTable_0 11 rfl rfl)
theorem dX1_dependsByTable_14 : decode cX1_dependsByTable 14 = .ok (.ireturn, 1) := dk_172 (dk_at dksX1_dependsByTable_0 14 rfl rfl)
abbrev cX1_recordAt : ByteArray := prog_1_method_63_code
def yX1_recordAt : MethodName := ⟨RX1, "recordAt", "(I)I"⟩
def dkwX1_recordAt_0 : List UInt8 := [27, 42, 180, 0, 52, 180, 1, 25, 184, 0, 106, 42, 180, 0, 52, 180, 1, 28, 27, 46, 172]
abbrev dktX1_recordAt_0 : List UInt8 := dkwX1_recordAt_0 ++ []
theorem dksX1_recordAt_0 : cX1_recordAt.data.toList.drop 0 = dktX1_recordAt_0 := by decide +kernel
theorem dX1_recordAt_0 : decode cX1_recordAt 0 = .ok (.iload_n 1, 1) := dk_27 (dk_at dksX1_recordAt_0 0 rfl rfl)
theorem dX1_recordAt_1 : decode cX1_recordAt 1 = .ok (.aload_n 0, 1) := dk_42 (dk_at dksX1_recordAt_0 1 rfl rfl)
theorem dX1_recordAt_2 : decode cX1_recordAt 2 = .ok (.getfield 52, 3) := dk_180 0 52 (dk_at dksX1_recordAt_0 2 rfl rfl)
theorem dX1_recordAt_5 : decode cX1_recordAt 5 = .ok (.getfield 281, 3) := dk_180 1 25 (dk_at dksX1_recordAt_0 5 rfl rfl)
theorem dX1_recordAt_8 : decode cX1_recordAt 8 = .ok (.invokestatic 106, 3) := dk_184 0 106 (dk_at dksX1_recordAt_0 8 rfl rfl)
theorem dX1_recordAt_11 : decode cX1_recordAt 11 = .ok (.aload_n 0, 1) := dk_42 (dk_at dksX1_recordAt_0 11 rfl rfl)
theorem dX1_recordAt_12 : decode cX1_recordAt 12 = .ok (.getfield 52, 3) := dk_180 0 52 (dk_at dksX1_recordAt_0 12 rfl rfl)
theorem dX1_recordAt_15 : decode cX1_recordAt 15 = .ok (.getfield 284, 3) := dk_180 1 28 (dk_at dksX1_recordAt_0 15 rfl rfl)
theorem dX1_recordAt_18 : decode cX1_recordAt 18 = .ok (.iload_n 1, 1) := dk_27 (dk_at dksX1_recordAt_0 18 rfl rfl)
theorem dX1_recordAt_19 : decode cX1_recordAt 19 = .ok (.iaload, 1) := dk_46 (dk_at dksX1_recordAt_0 19 rfl rfl)
theorem dX1_recordAt_20 : decode cX1_recordAt 20 = .ok (.ireturn, 1) := dk_172 (dk_at dksX1_recordAt_0 20 rfl rfl)
abbrev cX1_wouldCircle : ByteArray := prog_1_method_67_code
def yX1_wouldCircle : MethodName := ⟨RX1, "wouldCircle", "(II)Z"⟩
def dkwX1_wouldCircle_0 : List UInt8 := [42, 27, 182, 0, 114, 87, 42, 28, 182, 0, 114, 87, 42, 180, 0, 52, 27, 28, 182, 0, 176, 172]
abbrev dktX1_wouldCircle_0 : List UInt8 := dkwX1_wouldCircle_0 ++ []
theorem dksX1_wouldCircle_0 : cX1_wouldCircle.data.toList.drop 0 = dktX1_wouldCircle_0 := by decide +kernel
theorem dX1_wouldCircle_0 : decode cX1_wouldCircle 0 = .ok (.aload_n 0, 1) := dk_42 (dk_at dksX1_wouldCircle_0 0 rfl rfl)
theorem dX1_wouldCircle_1 : decode cX1_wouldCircle 1 = .ok (.iload_n 1, 1) := dk_27 (dk_at dksX1_wouldCircle_0 1 rfl rfl)
theorem dX1_wouldCircle_2 : decode cX1_wouldCircle 2 = .ok (.invokevirtual 114, 3) := dk_182 0 114 (dk_at dksX1_wouldCircle_0 2 rfl rfl)
theorem dX1_wouldCircle_5 : decode cX1_wouldCircle 5 = .ok (.pop, 1) := dk_87 (dk_at dksX1_wouldCircle_0 5 rfl rfl)
theorem dX1_wouldCircle_6 : decode cX1_wouldCircle 6 = .ok (.aload_n 0, 1) := dk_42 (dk_at dksX1_wouldCircle_0 6 rfl rfl)
theorem dX1_wouldCircle_7 : decode cX1_wouldCircle 7 = .ok (.iload_n 2, 1) := dk_28 (dk_at dksX1_wouldCircle_0 7 rfl rfl)
theorem dX1_wouldCircle_8 : decode cX1_wouldCircle 8 = .ok (.invokevirtual 114, 3) := dk_182 0 114 (dk_at dksX1_wouldCircle_0 8 rfl rfl)
theorem dX1_wouldCircle_11 : decode cX1_wouldCircle 11 = .ok (.pop, 1) := dk_87 (dk_at dksX1_wouldCircle_0 11 rfl rfl)
theorem dX1_wouldCircle_12 : decode cX1_wouldCircle 12 = .ok (.aload_n 0, 1) := dk_42 (dk_at dksX1_wouldCircle_0 12 rfl rfl)
theorem dX1_wouldCircle_13 : decode cX1_wouldCircle 13 = .ok (.getfield 52, 3) := dk_180 0 52 (dk_at dksX1_wouldCircle_0 13 rfl rfl)
theorem dX1_wouldCircle_16 : decode cX1_wouldCircle 16 = .ok (.iload_n 1, 1) := dk_27 (dk_at dksX1_wouldCircle_0 16 rfl rfl)
theorem dX1_wouldCircle_17 : decode cX1_wouldCircle 17 = .ok (.iload_n 2, 1) := dk_28 (dk_at dksX1_wouldCircle_0 17 rfl rfl)
theorem dX1_wouldCircle_18 : decode cX1_wouldCircle 18 = .ok (.invokevirtual 176, 3) := dk_182 0 176 (dk_at dksX1_wouldCircle_0 18 rfl rfl)
theorem dX1_wouldCircle_21 : decode cX1_wouldCircle 21 = .ok (.ireturn, 1) := dk_172 (dk_at dksX1_wouldCircle_0 21 rfl rfl)
abbrev cX1_outputIn : ByteArray := prog_1_method_68_code
def yX1_outputIn : MethodName := ⟨RX1, "outputIn", "(II)I"⟩
def dkwX1_outputIn_1 : List UInt8 := [182, 0, 224, 87, 45, 27, 182, 0, 236, 172]
abbrev dktX1_outputIn_1 : List UInt8 := dkwX1_outputIn_1 ++ []
def dkwX1_outputIn_0 : List UInt8 := [42, 27, 182, 0, 114, 87, 28, 4, 17, 0, 200, 184, 0, 132, 42, 180, 0, 52, 182, 1, 41, 78, 45, 28]
abbrev dktX1_outputIn_0 : List UInt8 := dkwX1_outputIn_0 ++ dktX1_outputIn_1
theorem dksX1_outputIn_0 : cX1_outputIn.data.toList.drop 0 = dktX1_outputIn_0 := by decide +kernel
theorem dksX1_outputIn_1 : cX1_outputIn.data.toList.drop 24 = dktX1_outputIn_1 := dk_seg dksX1_outputIn_0 24 rfl rfl
theorem dX1_outputIn_0 : decode cX1_outputIn 0 = .ok (.aload_n 0, 1) := dk_42 (dk_at dksX1_outputIn_0 0 rfl rfl)
theorem dX1_outputIn_1 : decode cX1_outputIn 1 = .ok (.iload_n 1, 1) := dk_27 (dk_at dksX1_outputIn_0 1 rfl rfl)
theorem dX1_outputIn_2 : decode cX1_outputIn 2 = .ok (.invokevirtual 114, 3) := dk_182 0 114 (dk_at dksX1_outputIn_0 2 rfl rfl)
theorem dX1_outputIn_5 : decode cX1_outputIn 5 = .ok (.pop, 1) := dk_87 (dk_at dksX1_outputIn_0 5 rfl rfl)
theorem dX1_outputIn_6 : decode cX1_outputIn 6 = .ok (.iload_n 2, 1) := dk_28 (dk_at dksX1_outputIn_0 6 rfl rfl)
theorem dX1_outputIn_7 : decode cX1_outputIn 7 = .ok (.iconst 1, 1) := dk_4 (dk_at dksX1_outputIn_0 7 rfl rfl)
theorem dX1_outputIn_8 : decode cX1_outputIn 8 = .ok (.sipush 200, 3) := dk_17 0 200 (dk_at dksX1_outputIn_0 8 rfl rfl)
theorem dX1_outputIn_11 : decode cX1_outputIn 11 = .ok (.invokestatic 132, 3) := dk_184 0 132 (dk_at dksX1_outputIn_0 11 rfl rfl)
theorem dX1_outputIn_14 : decode cX1_outputIn 14 = .ok (.aload_n 0, 1) := dk_42 (dk_at dksX1_outputIn_0 14 rfl rfl)
theorem dX1_outputIn_15 : decode cX1_outputIn 15 = .ok (.getfield 52, 3) := dk_180 0 52 (dk_at dksX1_outputIn_0 15 rfl rfl)
theorem dX1_outputIn_18 : decode cX1_outputIn 18 = .ok (.invokevirtual 297, 3) := dk_182 1 41 (dk_at dksX1_outputIn_0 18 rfl rfl)
theorem dX1_outputIn_21 : decode cX1_outputIn 21 = .ok (.astore_n 3, 1) := dk_78 (dk_at dksX1_outputIn_0 21 rfl rfl)
theorem dX1_outputIn_22 : decode cX1_outputIn 22 = .ok (.aload_n 3, 1) := dk_45 (dk_at dksX1_outputIn_0 22 rfl rfl)
theorem dX1_outputIn_23 : decode cX1_outputIn 23 = .ok (.iload_n 2, 1) := dk_28 (dk_at dksX1_outputIn_0 23 rfl rfl)
theorem dX1_outputIn_24 : decode cX1_outputIn 24 = .ok (.invokevirtual 224, 3) := dk_182 0 224 (dk_at dksX1_outputIn_1 0 rfl rfl)
theorem dX1_outputIn_27 : decode cX1_outputIn 27 = .ok (.pop, 1) := dk_87 (dk_at dksX1_outputIn_1 3 rfl rfl)
theorem dX1_outputIn_28 : decode cX1_outputIn 28 = .ok (.aload_n 3, 1) := dk_45 (dk_at dksX1_outputIn_1 4 rfl rfl)
theorem dX1_outputIn_29 : decode cX1_outputIn 29 = .ok (.iload_n 1, 1) := dk_27 (dk_at dksX1_outputIn_1 5 rfl rfl)
theorem dX1_outputIn_30 : decode cX1_outputIn 30 = .ok (.invokevirtual 236, 3) := dk_182 0 236 (dk_at dksX1_outputIn_1 6 rfl rfl)
theorem dX1_outputIn_33 : decode cX1_outputIn 33 = .ok (.ireturn, 1) := dk_172 (dk_at dksX1_outputIn_1 9 rfl rfl)
abbrev cX1_bestFactor : ByteArray := prog_1_method_70_code
def yX1_bestFactor : MethodName := ⟨RX1, "bestFactor", "(III)I"⟩
def dkwX1_bestFactor_1 : List UInt8 := [184, 0, 132, 42, 180, 0, 52, 27, 28, 29, 182, 1, 47, 172]
abbrev dktX1_bestFactor_1 : List UInt8 := dkwX1_bestFactor_1 ++ []
def dkwX1_bestFactor_0 : List UInt8 := [42, 27, 182, 0, 114, 87, 42, 28, 182, 0, 114, 87, 42, 27, 182, 0, 161, 87, 29, 3, 17, 39, 16]
abbrev dktX1_bestFactor_0 : List UInt8 := dkwX1_bestFactor_0 ++ dktX1_bestFactor_1
theorem dksX1_bestFactor_0 : cX1_bestFactor.data.toList.drop 0 = dktX1_bestFactor_0 := by decide +kernel
theorem dksX1_bestFactor_1 : cX1_bestFactor.data.toList.drop 23 = dktX1_bestFactor_1 := dk_seg dksX1_bestFactor_0 23 rfl rfl
theorem dX1_bestFactor_0 : decode cX1_bestFactor 0 = .ok (.aload_n 0, 1) := dk_42 (dk_at dksX1_bestFactor_0 0 rfl rfl)
theorem dX1_bestFactor_1 : decode cX1_bestFactor 1 = .ok (.iload_n 1, 1) := dk_27 (dk_at dksX1_bestFactor_0 1 rfl rfl)
theorem dX1_bestFactor_2 : decode cX1_bestFactor 2 = .ok (.invokevirtual 114, 3) := dk_182 0 114 (dk_at dksX1_bestFactor_0 2 rfl rfl)
theorem dX1_bestFactor_5 : decode cX1_bestFactor 5 = .ok (.pop, 1) := dk_87 (dk_at dksX1_bestFactor_0 5 rfl rfl)
theorem dX1_bestFactor_6 : decode cX1_bestFactor 6 = .ok (.aload_n 0, 1) := dk_42 (dk_at dksX1_bestFactor_0 6 rfl rfl)
theorem dX1_bestFactor_7 : decode cX1_bestFactor 7 = .ok (.iload_n 2, 1) := dk_28 (dk_at dksX1_bestFactor_0 7 rfl rfl)
theorem dX1_bestFactor_8 : decode cX1_bestFactor 8 = .ok (.invokevirtual 114, 3) := dk_182 0 114 (dk_at dksX1_bestFactor_0 8 rfl rfl)
theorem dX1_bestFactor_11 : decode cX1_bestFactor 11 = .ok (.pop, 1) := dk_87 (dk_at dksX1_bestFactor_0 11 rfl rfl)
theorem dX1_bestFactor_12 : decode cX1_bestFactor 12 = .ok (.aload_n 0, 1) := dk_42 (dk_at dksX1_bestFactor_0 12 rfl rfl)
theorem dX1_bestFactor_13 : decode cX1_bestFactor 13 = .ok (.iload_n 1, 1) := dk_27 (dk_at dksX1_bestFactor_0 13 rfl rfl)
theorem dX1_bestFactor_14 : decode cX1_bestFactor 14 = .ok (.invokevirtual 161, 3) := dk_182 0 161 (dk_at dksX1_bestFactor_0 14 rfl rfl)
theorem dX1_bestFactor_17 : decode cX1_bestFactor 17 = .ok (.pop, 1) := dk_87 (dk_at dksX1_bestFactor_0 17 rfl rfl)
theorem dX1_bestFactor_18 : decode cX1_bestFactor 18 = .ok (.iload_n 3, 1) := dk_29 (dk_at dksX1_bestFactor_0 18 rfl rfl)
theorem dX1_bestFactor_19 : decode cX1_bestFactor 19 = .ok (.iconst 0, 1) := dk_3 (dk_at dksX1_bestFactor_0 19 rfl rfl)
theorem dX1_bestFactor_20 : decode cX1_bestFactor 20 = .ok (.sipush 10000, 3) := dk_17 39 16 (dk_at dksX1_bestFactor_0 20 rfl rfl)
theorem dX1_bestFactor_23 : decode cX1_bestFactor 23 = .ok (.invokestatic 132, 3) := dk_184 0 132 (dk_at dksX1_bestFactor_1 0 rfl rfl)
theorem dX1_bestFactor_26 : decode cX1_bestFactor 26 = .ok (.aload_n 0, 1) := dk_42 (dk_at dksX1_bestFactor_1 3 rfl rfl)
theorem dX1_bestFactor_27 : decode cX1_bestFactor 27 = .ok (.getfield 52, 3) := dk_180 0 52 (dk_at dksX1_bestFactor_1 4 rfl rfl)
theorem dX1_bestFactor_30 : decode cX1_bestFactor 30 = .ok (.iload_n 1, 1) := dk_27 (dk_at dksX1_bestFactor_1 7 rfl rfl)
theorem dX1_bestFactor_31 : decode cX1_bestFactor 31 = .ok (.iload_n 2, 1) := dk_28 (dk_at dksX1_bestFactor_1 8 rfl rfl)
theorem dX1_bestFactor_32 : decode cX1_bestFactor 32 = .ok (.iload_n 3, 1) := dk_29 (dk_at dksX1_bestFactor_1 9 rfl rfl)
theorem dX1_bestFactor_33 : decode cX1_bestFactor 33 = .ok (.invokevirtual 303, 3) := dk_182 1 47 (dk_at dksX1_bestFactor_1 10 rfl rfl)
theorem dX1_bestFactor_36 : decode cX1_bestFactor 36 = .ok (.ireturn, 1) := dk_172 (dk_at dksX1_bestFactor_1 13 rfl rfl)
abbrev cX1_goBack : ByteArray := prog_1_method_14_code
def yX1_goBack : MethodName := ⟨RX1, "goBack", "()I"⟩
def dkwX1_goBack_1 : List UInt8 := [42, 180, 0, 100, 182, 0, 84, 181, 0, 52, 42, 182, 0, 103, 172]
abbrev dktX1_goBack_1 : List UInt8 := dkwX1_goBack_1 ++ []
def dkwX1_goBack_0 : List UInt8 := [42, 180, 0, 100, 198, 0, 7, 4, 167, 0, 4, 3, 184, 0, 96, 42, 42, 180, 0, 52, 182, 0, 88, 42]
abbrev dktX1_goBack_0 : List UInt8 := dkwX1_goBack_0 ++ dktX1_goBack_1
theorem dksX1_goBack_0 : cX1_goBack.data.toList.drop 0 = dktX1_goBack_0 := by decide +kernel
theorem dksX1_goBack_1 : cX1_goBack.data.toList.drop 24 = dktX1_goBack_1 := dk_seg dksX1_goBack_0 24 rfl rfl
theorem dX1_goBack_0 : decode cX1_goBack 0 = .ok (.aload_n 0, 1) := dk_42 (dk_at dksX1_goBack_0 0 rfl rfl)
theorem dX1_goBack_1 : decode cX1_goBack 1 = .ok (.getfield 100, 3) := dk_180 0 100 (dk_at dksX1_goBack_0 1 rfl rfl)
theorem dX1_goBack_4 : decode cX1_goBack 4 = .ok (.ifnull 7, 3) := dk_198 0 7 (dk_at dksX1_goBack_0 4 rfl rfl)
theorem dX1_goBack_7 : decode cX1_goBack 7 = .ok (.iconst 1, 1) := dk_4 (dk_at dksX1_goBack_0 7 rfl rfl)
theorem dX1_goBack_8 : decode cX1_goBack 8 = .ok (.goto 4, 3) := dk_167 0 4 (dk_at dksX1_goBack_0 8 rfl rfl)
theorem dX1_goBack_11 : decode cX1_goBack 11 = .ok (.iconst 0, 1) := dk_3 (dk_at dksX1_goBack_0 11 rfl rfl)
theorem dX1_goBack_12 : decode cX1_goBack 12 = .ok (.invokestatic 96, 3) := dk_184 0 96 (dk_at dksX1_goBack_0 12 rfl rfl)
theorem dX1_goBack_15 : decode cX1_goBack 15 = .ok (.aload_n 0, 1) := dk_42 (dk_at dksX1_goBack_0 15 rfl rfl)
theorem dX1_goBack_16 : decode cX1_goBack 16 = .ok (.aload_n 0, 1) := dk_42 (dk_at dksX1_goBack_0 16 rfl rfl)
theorem dX1_goBack_17 : decode cX1_goBack 17 = .ok (.getfield 52, 3) := dk_180 0 52 (dk_at dksX1_goBack_0 17 rfl rfl)
theorem dX1_goBack_20 : decode cX1_goBack 20 = .ok (.invokevirtual 88, 3) := dk_182 0 88 (dk_at dksX1_goBack_0 20 rfl rfl)
theorem dX1_goBack_23 : decode cX1_goBack 23 = .ok (.aload_n 0, 1) := dk_42 (dk_at dksX1_goBack_0 23 rfl rfl)
theorem dX1_goBack_24 : decode cX1_goBack 24 = .ok (.aload_n 0, 1) := dk_42 (dk_at dksX1_goBack_1 0 rfl rfl)
theorem dX1_goBack_25 : decode cX1_goBack 25 = .ok (.getfield 100, 3) := dk_180 0 100 (dk_at dksX1_goBack_1 1 rfl rfl)
theorem dX1_goBack_28 : decode cX1_goBack 28 = .ok (.invokevirtual 84, 3) := dk_182 0 84 (dk_at dksX1_goBack_1 4 rfl rfl)
theorem dX1_goBack_31 : decode cX1_goBack 31 = .ok (.putfield 52, 3) := dk_181 0 52 (dk_at dksX1_goBack_1 7 rfl rfl)
theorem dX1_goBack_34 : decode cX1_goBack 34 = .ok (.aload_n 0, 1) := dk_42 (dk_at dksX1_goBack_1 10 rfl rfl)
theorem dX1_goBack_35 : decode cX1_goBack 35 = .ok (.invokevirtual 103, 3) := dk_182 0 103 (dk_at dksX1_goBack_1 11 rfl rfl)
theorem dX1_goBack_38 : decode cX1_goBack 38 = .ok (.ireturn, 1) := dk_172 (dk_at dksX1_goBack_1 14 rfl rfl)
abbrev cX1_append : ByteArray := prog_1_method_71_code
def yX1_append : MethodName := ⟨RX1, "append", "(I)I"⟩
def dkwX1_append_1 : List UInt8 := [3, 184, 0, 96, 42, 180, 0, 68, 27, 146, 182, 1, 53, 87, 42, 180, 0, 68, 182, 1, 50, 172]
abbrev dktX1_append_1 : List UInt8 := dkwX1_append_1 ++ []
def dkwX1_append_0 : List UInt8 := [27, 16, 33, 16, 126, 184, 0, 132, 42, 180, 0, 68, 182, 1, 50, 16, 60, 162, 0, 7, 4, 167, 0, 4]
abbrev dktX1_append_0 : List UInt8 := dkwX1_append_0 ++ dktX1_append_1
theorem dksX1_append_0 : cX1_append.data.toList.drop 0 = dktX1_append_0 := by decide +kernel
theorem dksX1_append_1 : cX1_append.data.toList.drop 24 = dktX1_append_1 := dk_seg dksX1_append_0 24 rfl rfl
theorem dX1_append_0 : decode cX1_append 0 = .ok (.iload_n 1, 1) := dk_27 (dk_at dksX1_append_0 0 rfl rfl)
theorem dX1_append_1 : decode cX1_append 1 = .ok (.bipush 33, 2) := dk_16 33 (dk_at dksX1_append_0 1 rfl rfl)
theorem dX1_append_3 : decode cX1_append 3 = .ok (.bipush 126, 2) := dk_16 126 (dk_at dksX1_append_0 3 rfl rfl)
theorem dX1_append_5 : decode cX1_append 5 = .ok (.invokestatic 132, 3) := dk_184 0 132 (dk_at dksX1_append_0 5 rfl rfl)
theorem dX1_append_8 : decode cX1_append 8 = .ok (.aload_n 0, 1) := dk_42 (dk_at dksX1_append_0 8 rfl rfl)
theorem dX1_append_9 : decode cX1_append 9 = .ok (.getfield 68, 3) := dk_180 0 68 (dk_at dksX1_append_0 9 rfl rfl)
theorem dX1_append_12 : decode cX1_append 12 = .ok (.invokevirtual 306, 3) := dk_182 1 50 (dk_at dksX1_append_0 12 rfl rfl)
theorem dX1_append_15 : decode cX1_append 15 = .ok (.bipush 60, 2) := dk_16 60 (dk_at dksX1_append_0 15 rfl rfl)
theorem dX1_append_17 : decode cX1_append 17 = .ok (.if_icmp .ge 7, 3) := dk_162 0 7 (dk_at dksX1_append_0 17 rfl rfl)
theorem dX1_append_20 : decode cX1_append 20 = .ok (.iconst 1, 1) := dk_4 (dk_at dksX1_append_0 20 rfl rfl)
theorem dX1_append_21 : decode cX1_append 21 = .ok (.goto 4, 3) := dk_167 0 4 (dk_at dksX1_append_0 21 rfl rfl)
theorem dX1_append_24 : decode cX1_append 24 = .ok (.iconst 0, 1) := dk_3 (dk_at dksX1_append_1 0 rfl rfl)
theorem dX1_append_25 : decode cX1_append 25 = .ok (.invokestatic 96, 3) := dk_184 0 96 (dk_at dksX1_append_1 1 rfl rfl)
theorem dX1_append_28 : decode cX1_append 28 = .ok (.aload_n 0, 1) := dk_42 (dk_at dksX1_append_1 4 rfl rfl)
theorem dX1_append_29 : decode cX1_append 29 = .ok (.getfield 68, 3) := dk_180 0 68 (dk_at dksX1_append_1 5 rfl rfl)
theorem dX1_append_32 : decode cX1_append 32 = .ok (.iload_n 1, 1) := dk_27 (dk_at dksX1_append_1 8 rfl rfl)
theorem dX1_append_33 : decode cX1_append 33 = .ok (.i2c, 1) := dk_146 (dk_at dksX1_append_1 9 rfl rfl)
theorem dX1_append_34 : decode cX1_append 34 = .ok (.invokevirtual 309, 3) := dk_182 1 53 (dk_at dksX1_append_1 10 rfl rfl)
theorem dX1_append_37 : decode cX1_append 37 = .ok (.pop, 1) := dk_87 (dk_at dksX1_append_1 13 rfl rfl)
theorem dX1_append_38 : decode cX1_append 38 = .ok (.aload_n 0, 1) := dk_42 (dk_at dksX1_append_1 14 rfl rfl)
theorem dX1_append_39 : decode cX1_append 39 = .ok (.getfield 68, 3) := dk_180 0 68 (dk_at dksX1_append_1 15 rfl rfl)
theorem dX1_append_42 : decode cX1_append 42 = .ok (.invokevirtual 306, 3) := dk_182 1 50 (dk_at dksX1_append_1 18 rfl rfl)
theorem dX1_append_45 : decode cX1_append 45 = .ok (.ireturn, 1) := dk_172 (dk_at dksX1_append_1 21 rfl rfl)
abbrev cX1_patch : ByteArray := prog_1_method_77_code
def yX1_patch : MethodName := ⟨RX1, "patch", "()I"⟩
def dkwX1_patch_4 : List UInt8 := [29, 172]
abbrev dktX1_patch_4 : List UInt8 := dkwX1_patch_4 ++ []
def dkwX1_patch_3 : List UInt8 := [153, 0, 24, 42, 43, 180, 1, 85, 29, 182, 1, 88, 192, 1, 69, 182, 1, 95, 132, 3, 1, 167, 255, 215]
abbrev dktX1_patch_3 : List UInt8 := dkwX1_patch_3 ++ dktX1_patch_4
def dkwX1_patch_2 : List UInt8 := [3, 62, 29, 28, 162, 0, 42, 42, 43, 180, 1, 85, 29, 182, 1, 88, 192, 1, 69, 182, 1, 91]
abbrev dktX1_patch_2 : List UInt8 := dkwX1_patch_2 ++ dktX1_patch_3
def dkwX1_patch_1 : List UInt8 := [3, 184, 0, 96, 42, 182, 0, 136, 42, 180, 0, 68, 3, 182, 1, 57, 43, 180, 1, 85, 182, 0, 72, 61]
abbrev dktX1_patch_1 : List UInt8 := dkwX1_patch_1 ++ dktX1_patch_2
def dkwX1_patch_0 : List UInt8 := [187, 1, 60, 89, 42, 180, 0, 68, 183, 1, 62, 76, 43, 182, 1, 65, 2, 160, 0, 7, 4, 167, 0, 4]
abbrev dktX1_patch_0 : List UInt8 := dkwX1_patch_0 ++ dktX1_patch_1
theorem dksX1_patch_0 : cX1_patch.data.toList.drop 0 = dktX1_patch_0 := by decide +kernel
theorem dksX1_patch_1 : cX1_patch.data.toList.drop 24 = dktX1_patch_1 := dk_seg dksX1_patch_0 24 rfl rfl
theorem dksX1_patch_2 : cX1_patch.data.toList.drop 48 = dktX1_patch_2 := dk_seg dksX1_patch_1 24 rfl rfl
theorem dksX1_patch_3 : cX1_patch.data.toList.drop 70 = dktX1_patch_3 := dk_seg dksX1_patch_2 22 rfl rfl
theorem dksX1_patch_4 : cX1_patch.data.toList.drop 94 = dktX1_patch_4 := dk_seg dksX1_patch_3 24 rfl rfl
theorem dX1_patch_0 : decode cX1_patch 0 = .ok (.new 316, 3) := dk_187 1 60 (dk_at dksX1_patch_0 0 rfl rfl)
theorem dX1_patch_3 : decode cX1_patch 3 = .ok (.dup, 1) := dk_89 (dk_at dksX1_patch_0 3 rfl rfl)
theorem dX1_patch_4 : decode cX1_patch 4 = .ok (.aload_n 0, 1) := dk_42 (dk_at dksX1_patch_0 4 rfl rfl)
theorem dX1_patch_5 : decode cX1_patch 5 = .ok (.getfield 68, 3) := dk_180 0 68 (dk_at dksX1_patch_0 5 rfl rfl)
theorem dX1_patch_8 : decode cX1_patch 8 = .ok (.invokespecial 318, 3) := dk_183 1 62 (dk_at dksX1_patch_0 8 rfl rfl)
theorem dX1_patch_11 : decode cX1_patch 11 = .ok (.astore_n 1, 1) := dk_76 (dk_at dksX1_patch_0 11 rfl rfl)
theorem dX1_patch_12 : decode cX1_patch 12 = .ok (.aload_n 1, 1) := dk_43 (dk_at dksX1_patch_0 12 rfl rfl)
theorem dX1_patch_13 : decode cX1_patch 13 = .ok (.invokevirtual 321, 3) := dk_182 1 65 (dk_at dksX1_patch_0 13 rfl rfl)
theorem dX1_patch_16 : decode cX1_patch 16 = .ok (.iconst (-1), 1) := dk_2 (dk_at dksX1_patch_0 16 rfl rfl)
theorem dX1_patch_17 : decode cX1_patch 17 = .ok (.if_icmp .ne 7, 3) := dk_160 0 7 (dk_at dksX1_patch_0 17 rfl rfl)
theorem dX1_patch_20 : decode cX1_patch 20 = .ok (.iconst 1, 1) := dk_4 (dk_at dksX1_patch_0 20 rfl rfl)
theorem dX1_patch_21 : decode cX1_patch 21 = .ok (.goto 4, 3) := dk_167 0 4 (dk_at dksX1_patch_0 21 rfl rfl)
theorem dX1_patch_24 : decode cX1_patch 24 = .ok (.iconst 0, 1) := dk_3 (dk_at dksX1_patch_1 0 rfl rfl)
theorem dX1_patch_25 : decode cX1_patch 25 = .ok (.invokestatic 96, 3) := dk_184 0 96 (dk_at dksX1_patch_1 1 rfl rfl)
theorem dX1_patch_28 : decode cX1_patch 28 = .ok (.aload_n 0, 1) := dk_42 (dk_at dksX1_patch_1 4 rfl rfl)
theorem dX1_patch_29 : decode cX1_patch 29 = .ok (.invokevirtual 136, 3) := dk_182 0 136 (dk_at dksX1_patch_1 5 rfl rfl)
theorem dX1_patch_32 : decode cX1_patch 32 = .ok (.aload_n 0, 1) := dk_42 (dk_at dksX1_patch_1 8 rfl rfl)
theorem dX1_patch_33 : decode cX1_patch 33 = .ok (.getfield 68, 3) := dk_180 0 68 (dk_at dksX1_patch_1 9 rfl rfl)
theorem dX1_patch_36 : decode cX1_patch 36 = .ok (.iconst 0, 1) := dk_3 (dk_at dksX1_patch_1 12 rfl rfl)
theorem dX1_patch_37 : decode cX1_patch 37 = .ok (.invokevirtual 313, 3) := dk_182 1 57 (dk_at dksX1_patch_1 13 rfl rfl)
theorem dX1_patch_40 : decode cX1_patch 40 = .ok (.aload_n 1, 1) := dk_43 (dk_at dksX1_patch_1 16 rfl rfl)
theorem dX1_patch_41 : decode cX1_patch 41 = .ok (.getfield 341, 3) := dk_180 1 85 (dk_at dksX1_patch_1 17 rfl rfl)
theorem dX1_patch_44 : decode cX1_patch 44 = .ok (.invokevirtual 72, 3) := dk_182 0 72 (dk_at dksX1_patch_1 20 rfl rfl)
theorem dX1_patch_47 : decode cX1_patch 47 = .ok (.istore_n 2, 1) := dk_61 (dk_at dksX1_patch_1 23 rfl rfl)
theorem dX1_patch_48 : decode cX1_patch 48 = .ok (.iconst 0, 1) := dk_3 (dk_at dksX1_patch_2 0 rfl rfl)
theorem dX1_patch_49 : decode cX1_patch 49 = .ok (.istore_n 3, 1) := dk_62 (dk_at dksX1_patch_2 1 rfl rfl)
theorem dX1_patch_50 : decode cX1_patch 50 = .ok (.iload_n 3, 1) := dk_29 (dk_at dksX1_patch_2 2 rfl rfl)
theorem dX1_patch_51 : decode cX1_patch 51 = .ok (.iload_n 2, 1) := dk_28 (dk_at dksX1_patch_2 3 rfl rfl)
theorem dX1_patch_52 : decode cX1_patch 52 = .ok (.if_icmp .ge 42, 3) := dk_162 0 42 (dk_at dksX1_patch_2 4 rfl rfl)
theorem dX1_patch_55 : decode cX1_patch 55 = .ok (.aload_n 0, 1) := dk_42 (dk_at dksX1_patch_2 7 rfl rfl)
theorem dX1_patch_56 : decode cX1_patch 56 = .ok (.aload_n 1, 1) := dk_43 (dk_at dksX1_patch_2 8 rfl rfl)
theorem dX1_patch_57 : decode cX1_patch 57 = .ok (.getfield 341, 3) := dk_180 1 85 (dk_at dksX1_patch_2 9 rfl rfl)
theorem dX1_patch_60 : decode cX1_patch 60 = .ok (.iload_n 3, 1) := dk_29 (dk_at dksX1_patch_2 12 rfl rfl)
theorem dX1_patch_61 : decode cX1_patch 61 = .ok (.invokevirtual 344, 3) := dk_182 1 88 (dk_at dksX1_patch_2 13 rfl rfl)
theorem dX1_patch_64 : decode cX1_patch 64 = .ok (.checkcast 325, 3) := dk_192 1 69 (dk_at dksX1_patch_2 16 rfl rfl)
theorem dX1_patch_67 : decode cX1_patch 67 = .ok (.invokevirtual 347, 3) := dk_182 1 91 (dk_at dksX1_patch_2 19 rfl rfl)
theorem dX1_patch_70 : decode cX1_patch 70 = .ok (.ifCond .eq 24, 3) := dk_153 0 24 (dk_at dksX1_patch_3 0 rfl rfl)
theorem dX1_patch_73 : decode cX1_patch 73 = .ok (.aload_n 0, 1) := dk_42 (dk_at dksX1_patch_3 3 rfl rfl)
theorem dX1_patch_74 : decode cX1_patch 74 = .ok (.aload_n 1, 1) := dk_43 (dk_at dksX1_patch_3 4 rfl rfl)
theorem dX1_patch_75 : decode cX1_patch 75 = .ok (.getfield 341, 3) := dk_180 1 85 (dk_at dksX1_patch_3 5 rfl rfl)
theorem dX1_patch_78 : decode cX1_patch 78 = .ok (.iload_n 3, 1) := dk_29 (dk_at dksX1_patch_3 8 rfl rfl)
theorem dX1_patch_79 : decode cX1_patch 79 = .ok (.invokevirtual 344, 3) := dk_182 1 88 (dk_at dksX1_patch_3 9 rfl rfl)
theorem dX1_patch_82 : decode cX1_patch 82 = .ok (.checkcast 325, 3) := dk_192 1 69 (dk_at dksX1_patch_3 12 rfl rfl)
theorem dX1_patch_85 : decode cX1_patch 85 = .ok (.invokevirtual 351, 3) := dk_182 1 95 (dk_at dksX1_patch_3 15 rfl rfl)
theorem dX1_patch_88 : decode cX1_patch 88 = .ok (.iinc 3 1, 3) := dk_132 3 1 (dk_at dksX1_patch_3 18 rfl rfl)
theorem dX1_patch_91 : decode cX1_patch 91 = .ok (.goto (-41), 3) := dk_167 255 215 (dk_at dksX1_patch_3 21 rfl rfl)
theorem dX1_patch_94 : decode cX1_patch 94 = .ok (.iload_n 3, 1) := dk_29 (dk_at dksX1_patch_4 0 rfl rfl)
theorem dX1_patch_95 : decode cX1_patch 95 = .ok (.ireturn, 1) := dk_172 (dk_at dksX1_patch_4 1 rfl rfl)
abbrev cX1_isPossible : ByteArray := prog_1_method_75_code
def yX1_isPossible : MethodName := ⟨RX1, "isPossible", "(LPatchCords$Item;)Z"⟩
def dkwX1_isPossible_9 : List UInt8 := [180, 0, 52, 43, 180, 1, 74, 43, 180, 1, 82, 182, 0, 176, 154, 0, 7, 4, 167, 0, 4, 3, 172]
abbrev dktX1_isPossible_9 : List UInt8 := dkwX1_isPossible_9 ++ []
def dkwX1_isPossible_8 : List UInt8 := [182, 0, 103, 162, 0, 40, 42, 43, 180, 1, 82, 43, 180, 1, 77, 182, 1, 79, 153, 0, 25, 42]
abbrev dktX1_isPossible_8 : List UInt8 := dkwX1_isPossible_8 ++ dktX1_isPossible_9
def dkwX1_isPossible_7 : List UInt8 := [43, 180, 1, 74, 182, 0, 110, 193, 0, 34, 153, 0, 7, 4, 167, 0, 4, 3, 172, 43, 180, 1, 74, 42]
abbrev dktX1_isPossible_7 : List UInt8 := dkwX1_isPossible_7 ++ dktX1_isPossible_8
def dkwX1_isPossible_6 : List UInt8 := [153, 0, 7, 4, 167, 0, 4, 3, 172, 43, 180, 1, 74, 42, 182, 0, 103, 162, 0, 24, 42, 180, 0, 52]
abbrev dktX1_isPossible_6 : List UInt8 := dkwX1_isPossible_6 ++ dktX1_isPossible_7
def dkwX1_isPossible_5 : List UInt8 := [180, 1, 74, 42, 182, 0, 103, 162, 0, 24, 42, 180, 0, 52, 43, 180, 1, 74, 182, 0, 110, 184, 0, 150]
abbrev dktX1_isPossible_5 : List UInt8 := dkwX1_isPossible_5 ++ dktX1_isPossible_6
def dkwX1_isPossible_4 : List UInt8 := [182, 0, 110, 180, 0, 117, 43, 180, 1, 77, 46, 2, 159, 0, 7, 4, 167, 0, 4, 3, 172, 43]
abbrev dktX1_isPossible_4 : List UInt8 := dkwX1_isPossible_4 ++ dktX1_isPossible_5
def dkwX1_isPossible_3 : List UInt8 := [42, 43, 180, 1, 74, 43, 180, 1, 77, 182, 1, 79, 153, 0, 30, 42, 180, 0, 52, 43, 180, 1, 74]
abbrev dktX1_isPossible_3 : List UInt8 := dkwX1_isPossible_3 ++ dktX1_isPossible_4
def dkwX1_isPossible_2 : List UInt8 := [42, 182, 0, 103, 16, 16, 162, 0, 7, 4, 167, 0, 4, 3, 172, 42, 43, 180, 1, 74, 182, 0, 220, 172]
abbrev dktX1_isPossible_2 : List UInt8 := dkwX1_isPossible_2 ++ dktX1_isPossible_3
def dkwX1_isPossible_1 : List UInt8 := [171, 0, 0, 0, 0, 0, 0, 188, 0, 0, 0, 5, 0, 0, 0, 43, 0, 0, 0, 67, 0, 0, 0, 102, 0, 0, 0, 154, 0, 0, 0, 110, 0, 0, 0, 52, 0, 0, 0, 118, 0, 0, 0, 120, 0, 0, 0, 120, 0, 0, 0, 76]
abbrev dktX1_isPossible_1 : List UInt8 := dkwX1_isPossible_1 ++ dktX1_isPossible_2
def dkwX1_isPossible_0 : List UInt8 := [43, 180, 1, 68]
abbrev dktX1_isPossible_0 : List UInt8 := dkwX1_isPossible_0 ++ dktX1_isPossible_1
theorem dksX1_isPossible_0 : cX1_isPossible.data.toList.drop 0 = dktX1_isPossible_0 := by decide +kernel
theorem dksX1_isPossible_1 : cX1_isPossible.data.toList.drop 4 = dktX1_isPossible_1 := dk_seg dksX1_isPossible_0 4 rfl rfl
theorem dksX1_isPossible_2 : cX1_isPossible.data.toList.drop 56 = dktX1_isPossible_2 := dk_seg dksX1_isPossible_1 52 rfl rfl
theorem dksX1_isPossible_3 : cX1_isPossible.data.toList.drop 80 = dktX1_isPossible_3 := dk_seg dksX1_isPossible_2 24 rfl rfl
theorem dksX1_isPossible_4 : cX1_isPossible.data.toList.drop 103 = dktX1_isPossible_4 := dk_seg dksX1_isPossible_3 23 rfl rfl
theorem dksX1_isPossible_5 : cX1_isPossible.data.toList.drop 125 = dktX1_isPossible_5 := dk_seg dksX1_isPossible_4 22 rfl rfl
theorem dksX1_isPossible_6 : cX1_isPossible.data.toList.drop 149 = dktX1_isPossible_6 := dk_seg dksX1_isPossible_5 24 rfl rfl
theorem dksX1_isPossible_7 : cX1_isPossible.data.toList.drop 173 = dktX1_isPossible_7 := dk_seg dksX1_isPossible_6 24 rfl rfl
theorem dksX1_isPossible_8 : cX1_isPossible.data.toList.drop 197 = dktX1_isPossible_8 := dk_seg dksX1_isPossible_7 24 rfl rfl
theorem dksX1_isPossible_9 : cX1_isPossible.data.toList.drop 219 = dktX1_isPossible_9 := dk_seg dksX1_isPossible_8 22 rfl rfl
theorem dX1_isPossible_0 : decode cX1_isPossible 0 = .ok (.aload_n 1, 1) := dk_43 (dk_at dksX1_isPossible_0 0 rfl rfl)
theorem dX1_isPossible_1 : decode cX1_isPossible 1 = .ok (.getfield 324, 3) := dk_180 1 68 (dk_at dksX1_isPossible_0 1 rfl rfl)
theorem dX1_isPossible_4 : decode cX1_isPossible 4 = .ok (.lookupswitch 188 #[(43, 67), (102, 154), (110, 52), (118, 120), (120, 76)], 52) := by decide +kernel
theorem dX1_isPossible_56 : decode cX1_isPossible 56 = .ok (.aload_n 0, 1) := dk_42 (dk_at dksX1_isPossible_2 0 rfl rfl)
theorem dX1_isPossible_57 : decode cX1_isPossible 57 = .ok (.invokevirtual 103, 3) := dk_182 0 103 (dk_at dksX1_isPossible_2 1 rfl rfl)
theorem dX1_isPossible_60 : decode cX1_isPossible 60 = .ok (.bipush 16, 2) := dk_16 16 (dk_at dksX1_isPossible_2 4 rfl rfl)
theorem dX1_isPossible_62 : decode cX1_isPossible 62 = .ok (.if_icmp .ge 7, 3) := dk_162 0 7 (dk_at dksX1_isPossible_2 6 rfl rfl)
theorem dX1_isPossible_65 : decode cX1_isPossible 65 = .ok (.iconst 1, 1) := dk_4 (dk_at dksX1_isPossible_2 9 rfl rfl)
theorem dX1_isPossible_66 : decode cX1_isPossible 66 = .ok (.goto 4, 3) := dk_167 0 4 (dk_at dksX1_isPossible_2 10 rfl rfl)
theorem dX1_isPossible_69 : decode cX1_isPossible 69 = .ok (.iconst 0, 1) := dk_3 (dk_at dksX1_isPossible_2 13 rfl rfl)
theorem dX1_isPossible_70 : decode cX1_isPossible 70 = .ok (.ireturn, 1) := dk_172 (dk_at dksX1_isPossible_2 14 rfl rfl)
theorem dX1_isPossible_71 : decode cX1_isPossible 71 = .ok (.aload_n 0, 1) := dk_42 (dk_at dksX1_isPossible_2 15 rfl rfl)
theorem dX1_isPossible_72 : decode cX1_isPossible 72 = .ok (.aload_n 1, 1) := dk_43 (dk_at dksX1_isPossible_2 16 rfl rfl)
theorem dX1_isPossible_73 : decode cX1_isPossible 73 = .ok (.getfield 330, 3) := dk_180 1 74 (dk_at dksX1_isPossible_2 17 rfl rfl)
theorem dX1_isPossible_76 : decode cX1_isPossible 76 = .ok (.invokevirtual 220, 3) := dk_182 0 220 (dk_at dksX1_isPossible_2 20 rfl rfl)
theorem dX1_isPossible_79 : decode cX1_isPossible 79 = .ok (.ireturn, 1) := dk_172 (dk_at dksX1_isPossible_2 23 rfl rfl)
theorem dX1_isPossible_80 : decode cX1_isPossible 80 = .ok (.aload_n 0, 1) := dk_42 (dk_at dksX1_isPossible_3 0 rfl rfl)
theorem dX1_isPossible_81 : decode cX1_isPossible 81 = .ok (.aload_n 1, 1) := dk_43 (dk_at dksX1_isPossible_3 1 rfl rfl)
theorem dX1_isPossible_82 : decode cX1_isPossible 82 = .ok (.getfield 330, 3) := dk_180 1 74 (dk_at dksX1_isPossible_3 2 rfl rfl)
theorem dX1_isPossible_85 : decode cX1_isPossible 85 = .ok (.aload_n 1, 1) := dk_43 (dk_at dksX1_isPossible_3 5 rfl rfl)
theorem dX1_isPossible_86 : decode cX1_isPossible 86 = .ok (.getfield 333, 3) := dk_180 1 77 (dk_at dksX1_isPossible_3 6 rfl rfl)
theorem dX1_isPossible_89 : decode cX1_isPossible 89 = .ok (.invokevirtual 335, 3) := dk_182 1 79 (dk_at dksX1_isPossible_3 9 rfl rfl)
theorem dX1_isPossible_92 : decode cX1_isPossible 92 = .ok (.ifCond .eq 30, 3) := dk_153 0 30 (dk_at dksX1_isPossible_3 12 rfl rfl)
theorem dX1_isPossible_95 : decode cX1_isPossible 95 = .ok (.aload_n 0, 1) := dk_42 (dk_at dksX1_isPossible_3 15 rfl rfl)
theorem dX1_isPossible_96 : decode cX1_isPossible 96 = .ok (.getfield 52, 3) := dk_180 0 52 (dk_at dksX1_isPossible_3 16 rfl rfl)
theorem dX1_isPossible_99 : decode cX1_isPossible 99 = .ok (.aload_n 1, 1) := dk_43 (dk_at dksX1_isPossible_3 19 rfl rfl)
theorem dX1_isPossible_100 : decode cX1_isPossible 100 = .ok (.getfield 330, 3) := dk_180 1 74 (dk_at dksX1_isPossible_3 20 rfl rfl)
theorem dX1_isPossible_103 : decode cX1_isPossible 103 = .ok (.invokevirtual 110, 3) := dk_182 0 110 (dk_at dksX1_isPossible_4 0 rfl rfl)
theorem dX1_isPossible_106 : decode cX1_isPossible 106 = .ok (.getfield 117, 3) := dk_180 0 117 (dk_at dksX1_isPossible_4 3 rfl rfl)
theorem dX1_isPossible_109 : decode cX1_isPossible 109 = .ok (.aload_n 1, 1) := dk_43 (dk_at dksX1_isPossible_4 6 rfl rfl)
theorem dX1_isPossible_110 : decode cX1_isPossible 110 = .ok (.getfield 333, 3) := dk_180 1 77 (dk_at dksX1_isPossible_4 7 rfl rfl)
theorem dX1_isPossible_113 : decode cX1_isPossible 113 = .ok (.iaload, 1) := dk_46 (dk_at dksX1_isPossible_4 10 rfl rfl)
theorem dX1_isPossible_114 : decode cX1_isPossible 114 = .ok (.iconst (-1), 1) := dk_2 (dk_at dksX1_isPossible_4 11 rfl rfl)
theorem dX1_isPossible_115 : decode cX1_isPossible 115 = .ok (.if_icmp .eq 7, 3) := dk_159 0 7 (dk_at dksX1_isPossible_4 12 rfl rfl)
theorem dX1_isPossible_118 : decode cX1_isPossible 118 = .ok (.iconst 1, 1) := dk_4 (dk_at dksX1_isPossible_4 15 rfl rfl)
theorem dX1_isPossible_119 : decode cX1_isPossible 119 = .ok (.goto 4, 3) := dk_167 0 4 (dk_at dksX1_isPossible_4 16 rfl rfl)
theorem dX1_isPossible_122 : decode cX1_isPossible 122 = .ok (.iconst 0, 1) := dk_3 (dk_at dksX1_isPossible_4 19 rfl rfl)
theorem dX1_isPossible_123 : decode cX1_isPossible 123 = .ok (.ireturn, 1) := dk_172 (dk_at dksX1_isPossible_4 20 rfl rfl)
theorem dX1_isPossible_124 : decode cX1_isPossible 124 = .ok (.aload_n 1, 1) := dk_43 (dk_at dksX1_isPossible_4 21 rfl rfl)
theorem dX1_isPossible_125 : decode cX1_isPossible 125 = .ok (.getfield 330, 3) := dk_180 1 74 (dk_at dksX1_isPossible_5 0 rfl rfl)
theorem dX1_isPossible_128 : decode cX1_isPossible 128 = .ok (.aload_n 0, 1) := dk_42 (dk_at dksX1_isPossible_5 3 rfl rfl)
theorem dX1_isPossible_129 : decode cX1_isPossible 129 = .ok (.invokevirtual 103, 3) := dk_182 0 103 (dk_at dksX1_isPossible_5 4 rfl rfl)
theorem dX1_isPossible_132 : decode cX1_isPossible 132 = .ok (.if_icmp .ge 24, 3) := dk_162 0 24 (dk_at dksX1_isPossible_5 7 rfl rfl)
theorem dX1_isPossible_135 : decode cX1_isPossible 135 = .ok (.aload_n 0, 1) := dk_42 (dk_at dksX1_isPossible_5 10 rfl rfl)
theorem dX1_isPossible_136 : decode cX1_isPossible 136 = .ok (.getfield 52, 3) := dk_180 0 52 (dk_at dksX1_isPossible_5 11 rfl rfl)
theorem dX1_isPossible_139 : decode cX1_isPossible 139 = .ok (.aload_n 1, 1) := dk_43 (dk_at dksX1_isPossible_5 14 rfl rfl)
theorem dX1_isPossible_140 : decode cX1_isPossible 140 = .ok (.getfield 330, 3) := dk_180 1 74 (dk_at dksX1_isPossible_5 15 rfl rfl)
theorem dX1_isPossible_143 : decode cX1_isPossible 143 = .ok (.invokevirtual 110, 3) := dk_182 0 110 (dk_at dksX1_isPossible_5 18 rfl rfl)
theorem dX1_isPossible_146 : decode cX1_isPossible 146 = .ok (.invokestatic 150, 3) := dk_184 0 150 (dk_at dksX1_isPossible_5 21 rfl rfl)
theorem dX1_isPossible_149 : decode cX1_isPossible 149 = .ok (.ifCond .eq 7, 3) := dk_153 0 7 (dk_at dksX1_isPossible_6 0 rfl rfl)
theorem dX1_isPossible_152 : decode cX1_isPossible 152 = .ok (.iconst 1, 1) := dk_4 (dk_at dksX1_isPossible_6 3 rfl rfl)
theorem dX1_isPossible_153 : decode cX1_isPossible 153 = .ok (.goto 4, 3) := dk_167 0 4 (dk_at dksX1_isPossible_6 4 rfl rfl)
theorem dX1_isPossible_156 : decode cX1_isPossible 156 = .ok (.iconst 0, 1) := dk_3 (dk_at dksX1_isPossible_6 7 rfl rfl)
theorem dX1_isPossible_157 : decode cX1_isPossible 157 = .ok (.ireturn, 1) := dk_172 (dk_at dksX1_isPossible_6 8 rfl rfl)
theorem dX1_isPossible_158 : decode cX1_isPossible 158 = .ok (.aload_n 1, 1) := dk_43 (dk_at dksX1_isPossible_6 9 rfl rfl)
theorem dX1_isPossible_159 : decode cX1_isPossible 159 = .ok (.getfield 330, 3) := dk_180 1 74 (dk_at dksX1_isPossible_6 10 rfl rfl)
theorem dX1_isPossible_162 : decode cX1_isPossible 162 = .ok (.aload_n 0, 1) := dk_42 (dk_at dksX1_isPossible_6 13 rfl rfl)
theorem dX1_isPossible_163 : decode cX1_isPossible 163 = .ok (.invokevirtual 103, 3) := dk_182 0 103 (dk_at dksX1_isPossible_6 14 rfl rfl)
theorem dX1_isPossible_166 : decode cX1_isPossible 166 = .ok (.if_icmp .ge 24, 3) := dk_162 0 24 (dk_at dksX1_isPossible_6 17 rfl rfl)
theorem dX1_isPossible_169 : decode cX1_isPossible 169 = .ok (.aload_n 0, 1) := dk_42 (dk_at dksX1_isPossible_6 20 rfl rfl)
theorem dX1_isPossible_170 : decode cX1_isPossible 170 = .ok (.getfield 52, 3) := dk_180 0 52 (dk_at dksX1_isPossible_6 21 rfl rfl)
theorem dX1_isPossible_173 : decode cX1_isPossible 173 = .ok (.aload_n 1, 1) := dk_43 (dk_at dksX1_isPossible_7 0 rfl rfl)
theorem dX1_isPossible_174 : decode cX1_isPossible 174 = .ok (.getfield 330, 3) := dk_180 1 74 (dk_at dksX1_isPossible_7 1 rfl rfl)
theorem dX1_isPossible_177 : decode cX1_isPossible 177 = .ok (.invokevirtual 110, 3) := dk_182 0 110 (dk_at dksX1_isPossible_7 4 rfl rfl)
theorem dX1_isPossible_180 : decode cX1_isPossible 180 = .ok (.instanceof 34, 3) := dk_193 0 34 (dk_at dksX1_isPossible_7 7 rfl rfl)
theorem dX1_isPossible_183 : decode cX1_isPossible 183 = .ok (.ifCond .eq 7, 3) := dk_153 0 7 (dk_at dksX1_isPossible_7 10 rfl rfl)
theorem dX1_isPossible_186 : decode cX1_isPossible 186 = .ok (.iconst 1, 1) := dk_4 (dk_at dksX1_isPossible_7 13 rfl rfl)
theorem dX1_isPossible_187 : decode cX1_isPossible 187 = .ok (.goto 4, 3) := dk_167 0 4 (dk_at dksX1_isPossible_7 14 rfl rfl)
theorem dX1_isPossible_190 : decode cX1_isPossible 190 = .ok (.iconst 0, 1) := dk_3 (dk_at dksX1_isPossible_7 17 rfl rfl)
theorem dX1_isPossible_191 : decode cX1_isPossible 191 = .ok (.ireturn, 1) := dk_172 (dk_at dksX1_isPossible_7 18 rfl rfl)
theorem dX1_isPossible_192 : decode cX1_isPossible 192 = .ok (.aload_n 1, 1) := dk_43 (dk_at dksX1_isPossible_7 19 rfl rfl)
theorem dX1_isPossible_193 : decode cX1_isPossible 193 = .ok (.getfield 330, 3) := dk_180 1 74 (dk_at dksX1_isPossible_7 20 rfl rfl)
theorem dX1_isPossible_196 : decode cX1_isPossible 196 = .ok (.aload_n 0, 1) := dk_42 (dk_at dksX1_isPossible_7 23 rfl rfl)
theorem dX1_isPossible_197 : decode cX1_isPossible 197 = .ok (.invokevirtual 103, 3) := dk_182 0 103 (dk_at dksX1_isPossible_8 0 rfl rfl)
theorem dX1_isPossible_200 : decode cX1_isPossible 200 = .ok (.if_icmp .ge 40, 3) := dk_162 0 40 (dk_at dksX1_isPossible_8 3 rfl rfl)
theorem dX1_isPossible_203 : decode cX1_isPossible 203 = .ok (.aload_n 0, 1) := dk_42 (dk_at dksX1_isPossible_8 6 rfl rfl)
theorem dX1_isPossible_204 : decode cX1_isPossible 204 = .ok (.aload_n 1, 1) := dk_43 (dk_at dksX1_isPossible_8 7 rfl rfl)
theorem dX1_isPossible_205 : decode cX1_isPossible 205 = .ok (.getfield 338, 3) := dk_180 1 82 (dk_at dksX1_isPossible_8 8 rfl rfl)
theorem dX1_isPossible_208 : decode cX1_isPossible 208 = .ok (.aload_n 1, 1) := dk_43 (dk_at dksX1_isPossible_8 11 rfl rfl)
theorem dX1_isPossible_209 : decode cX1_isPossible 209 = .ok (.getfield 333, 3) := dk_180 1 77 (dk_at dksX1_isPossible_8 12 rfl rfl)
theorem dX1_isPossible_212 : decode cX1_isPossible 212 = .ok (.invokevirtual 335, 3) := dk_182 1 79 (dk_at dksX1_isPossible_8 15 rfl rfl)
theorem dX1_isPossible_215 : decode cX1_isPossible 215 = .ok (.ifCond .eq 25, 3) := dk_153 0 25 (dk_at dksX1_isPossible_8 18 rfl rfl)
theorem dX1_isPossible_218 : decode cX1_isPossible 218 = .ok (.aload_n 0, 1) := dk_42 (dk_at dksX1_isPossible_8 21 rfl rfl)
theorem dX1_isPossible_219 : decode cX1_isPossible 219 = .ok (.getfield 52, 3) := dk_180 0 52 (dk_at dksX1_isPossible_9 0 rfl rfl)
theorem dX1_isPossible_222 : decode cX1_isPossible 222 = .ok (.aload_n 1, 1) := dk_43 (dk_at dksX1_isPossible_9 3 rfl rfl)
theorem dX1_isPossible_223 : decode cX1_isPossible 223 = .ok (.getfield 330, 3) := dk_180 1 74 (dk_at dksX1_isPossible_9 4 rfl rfl)
theorem dX1_isPossible_226 : decode cX1_isPossible 226 = .ok (.aload_n 1, 1) := dk_43 (dk_at dksX1_isPossible_9 7 rfl rfl)
theorem dX1_isPossible_227 : decode cX1_isPossible 227 = .ok (.getfield 338, 3) := dk_180 1 82 (dk_at dksX1_isPossible_9 8 rfl rfl)
theorem dX1_isPossible_230 : decode cX1_isPossible 230 = .ok (.invokevirtual 176, 3) := dk_182 0 176 (dk_at dksX1_isPossible_9 11 rfl rfl)
theorem dX1_isPossible_233 : decode cX1_isPossible 233 = .ok (.ifCond .ne 7, 3) := dk_154 0 7 (dk_at dksX1_isPossible_9 14 rfl rfl)
theorem dX1_isPossible_236 : decode cX1_isPossible 236 = .ok (.iconst 1, 1) := dk_4 (dk_at dksX1_isPossible_9 17 rfl rfl)
theorem dX1_isPossible_237 : decode cX1_isPossible 237 = .ok (.goto 4, 3) := dk_167 0 4 (dk_at dksX1_isPossible_9 18 rfl rfl)
theorem dX1_isPossible_240 : decode cX1_isPossible 240 = .ok (.iconst 0, 1) := dk_3 (dk_at dksX1_isPossible_9 21 rfl rfl)
theorem dX1_isPossible_241 : decode cX1_isPossible 241 = .ok (.ireturn, 1) := dk_172 (dk_at dksX1_isPossible_9 22 rfl rfl)
abbrev cX1_hasInput : ByteArray := prog_1_method_74_code
def yX1_hasInput : MethodName := ⟨RX1, "hasInput", "(II)Z"⟩
def dkwX1_hasInput_1 : List UInt8 := [4, 167, 0, 4, 3, 172]
abbrev dktX1_hasInput_1 : List UInt8 := dkwX1_hasInput_1 ++ []
def dkwX1_hasInput_0 : List UInt8 := [27, 42, 182, 0, 103, 162, 0, 23, 28, 42, 180, 0, 52, 27, 182, 0, 110, 180, 0, 117, 190, 162, 0, 7]
abbrev dktX1_hasInput_0 : List UInt8 := dkwX1_hasInput_0 ++ dktX1_hasInput_1
theorem dksX1_hasInput_0 : cX1_hasInput.data.toList.drop 0 = dktX1_hasInput_0 := by decide +kernel
theorem dksX1_hasInput_1 : cX1_hasInput.data.toList.drop 24 = dktX1_hasInput_1 := dk_seg dksX1_hasInput_0 24 rfl rfl
theorem dX1_hasInput_0 : decode cX1_hasInput 0 = .ok (.iload_n 1, 1) := dk_27 (dk_at dksX1_hasInput_0 0 rfl rfl)
theorem dX1_hasInput_1 : decode cX1_hasInput 1 = .ok (.aload_n 0, 1) := dk_42 (dk_at dksX1_hasInput_0 1 rfl rfl)
theorem dX1_hasInput_2 : decode cX1_hasInput 2 = .ok (.invokevirtual 103, 3) := dk_182 0 103 (dk_at dksX1_hasInput_0 2 rfl rfl)
theorem dX1_hasInput_5 : decode cX1_hasInput 5 = .ok (.if_icmp .ge 23, 3) := dk_162 0 23 (dk_at dksX1_hasInput_0 5 rfl rfl)
theorem dX1_hasInput_8 : decode cX1_hasInput 8 = .ok (.iload_n 2, 1) := dk_28 (dk_at dksX1_hasInput_0 8 rfl rfl)
theorem dX1_hasInput_9 : decode cX1_hasInput 9 = .ok (.aload_n 0, 1) := dk_42 (dk_at dksX1_hasInput_0 9 rfl rfl)
theorem dX1_hasInput_10 : decode cX1_hasInput 10 = .ok (.getfield 52, 3) := dk_180 0 52 (dk_at dksX1_hasInput_0 10 rfl rfl)
theorem dX1_hasInput_13 : decode cX1_hasInput 13 = .ok (.iload_n 1, 1) := dk_27 (dk_at dksX1_hasInput_0 13 rfl rfl)
theorem dX1_hasInput_14 : decode cX1_hasInput 14 = .ok (.invokevirtual 110, 3) := dk_182 0 110 (dk_at dksX1_hasInput_0 14 rfl rfl)
theorem dX1_hasInput_17 : decode cX1_hasInput 17 = .ok (.getfield 117, 3) := dk_180 0 117 (dk_at dksX1_hasInput_0 17 rfl rfl)
theorem dX1_hasInput_20 : decode cX1_hasInput 20 = .ok (.arraylength, 1) := dk_190 (dk_at dksX1_hasInput_0 20 rfl rfl)
theorem dX1_hasInput_21 : decode cX1_hasInput 21 = .ok (.if_icmp .ge 7, 3) := dk_162 0 7 (dk_at dksX1_hasInput_0 21 rfl rfl)
theorem dX1_hasInput_24 : decode cX1_hasInput 24 = .ok (.iconst 1, 1) := dk_4 (dk_at dksX1_hasInput_1 0 rfl rfl)
theorem dX1_hasInput_25 : decode cX1_hasInput 25 = .ok (.goto 4, 3) := dk_167 0 4 (dk_at dksX1_hasInput_1 1 rfl rfl)
theorem dX1_hasInput_28 : decode cX1_hasInput 28 = .ok (.iconst 0, 1) := dk_3 (dk_at dksX1_hasInput_1 4 rfl rfl)
theorem dX1_hasInput_29 : decode cX1_hasInput 29 = .ok (.ireturn, 1) := dk_172 (dk_at dksX1_hasInput_1 5 rfl rfl)
abbrev cX1_happen : ByteArray := prog_1_method_76_code
def yX1_happen : MethodName := ⟨RX1, "happen", "(LPatchCords$Item;)V"⟩
def dkwX1_happen_7 : List UInt8 := [182, 0, 180, 87, 177]
abbrev dktX1_happen_7 : List UInt8 := dkwX1_happen_7 ++ []
def dkwX1_happen_6 : List UInt8 := [181, 0, 165, 167, 0, 23, 42, 180, 0, 52, 43, 180, 1, 74, 43, 180, 1, 82, 43, 180, 1, 77]
abbrev dktX1_happen_6 : List UInt8 := dkwX1_happen_6 ++ dktX1_happen_7
def dkwX1_happen_5 : List UInt8 := [182, 0, 157, 167, 0, 47, 42, 180, 0, 52, 43, 180, 1, 74, 182, 0, 110, 192, 0, 34, 43, 180, 1, 82]
abbrev dktX1_happen_5 : List UInt8 := dkwX1_happen_5 ++ dktX1_happen_6
def dkwX1_happen_4 : List UInt8 := [167, 0, 72, 42, 180, 0, 52, 42, 180, 0, 52, 43, 180, 1, 74, 182, 0, 110, 43, 180, 1, 82]
abbrev dktX1_happen_4 : List UInt8 := dkwX1_happen_4 ++ dktX1_happen_5
def dkwX1_happen_3 : List UInt8 := [182, 0, 224, 87, 167, 0, 91, 42, 180, 0, 52, 43, 180, 1, 74, 43, 180, 1, 77, 182, 0, 184, 87]
abbrev dktX1_happen_3 : List UInt8 := dkwX1_happen_3 ++ dktX1_happen_4
def dkwX1_happen_2 : List UInt8 := [42, 180, 0, 52, 43, 180, 1, 74, 182, 0, 139, 87, 167, 0, 106, 42, 180, 0, 52, 43, 180, 1, 74]
abbrev dktX1_happen_2 : List UInt8 := dkwX1_happen_2 ++ dktX1_happen_3
def dkwX1_happen_1 : List UInt8 := [171, 0, 0, 0, 0, 0, 0, 150, 0, 0, 0, 5, 0, 0, 0, 43, 0, 0, 0, 67, 0, 0, 0, 102, 0, 0, 0, 126, 0, 0, 0, 110, 0, 0, 0, 52, 0, 0, 0, 118, 0, 0, 0, 101, 0, 0, 0, 120, 0, 0, 0, 82]
abbrev dktX1_happen_1 : List UInt8 := dkwX1_happen_1 ++ dktX1_happen_2
def dkwX1_happen_0 : List UInt8 := [43, 180, 1, 68]
abbrev dktX1_happen_0 : List UInt8 := dkwX1_happen_0 ++ dktX1_happen_1
theorem dksX1_happen_0 : cX1_happen.data.toList.drop 0 = dktX1_happen_0 := by decide +kernel
theorem dksX1_happen_1 : cX1_happen.data.toList.drop 4 = dktX1_happen_1 := dk_seg dksX1_happen_0 4 rfl rfl
theorem dksX1_happen_2 : cX1_happen.data.toList.drop 56 = dktX1_happen_2 := dk_seg dksX1_happen_1 52 rfl rfl
theorem dksX1_happen_3 : cX1_happen.data.toList.drop 79 = dktX1_happen_3 := dk_seg dksX1_happen_2 23 rfl rfl
theorem dksX1_happen_4 : cX1_happen.data.toList.drop 102 = dktX1_happen_4 := dk_seg dksX1_happen_3 23 rfl rfl
theorem dksX1_happen_5 : cX1_happen.data.toList.drop 124 = dktX1_happen_5 := dk_seg dksX1_happen_4 22 rfl rfl
theorem dksX1_happen_6 : cX1_happen.data.toList.drop 148 = dktX1_happen_6 := dk_seg dksX1_happen_5 24 rfl rfl
theorem dksX1_happen_7 : cX1_happen.data.toList.drop 170 = dktX1_happen_7 := dk_seg dksX1_happen_6 22 rfl rfl
theorem dX1_happen_0 : decode cX1_happen 0 = .ok (.aload_n 1, 1) := dk_43 (dk_at dksX1_happen_0 0 rfl rfl)
theorem dX1_happen_1 : decode cX1_happen 1 = .ok (.getfield 324, 3) := dk_180 1 68 (dk_at dksX1_happen_0 1 rfl rfl)
theorem dX1_happen_4 : decode cX1_happen 4 = .ok (.lookupswitch 150 #[(43, 67), (102, 126), (110, 52), (118, 101), (120, 82)], 52) := by decide +kernel
theorem dX1_happen_56 : decode cX1_happen 56 = .ok (.aload_n 0, 1) := dk_42 (dk_at dksX1_happen_2 0 rfl rfl)
theorem dX1_happen_57 : decode cX1_happen 57 = .ok (.getfield 52, 3) := dk_180 0 52 (dk_at dksX1_happen_2 1 rfl rfl)
theorem dX1_happen_60 : decode cX1_happen 60 = .ok (.aload_n 1, 1) := dk_43 (dk_at dksX1_happen_2 4 rfl rfl)
theorem dX1_happen_61 : decode cX1_happen 61 = .ok (.getfield 330, 3) := dk_180 1 74 (dk_at dksX1_happen_2 5 rfl rfl)
theorem dX1_happen_64 : decode cX1_happen 64 = .ok (.invokevirtual 139, 3) := dk_182 0 139 (dk_at dksX1_happen_2 8 rfl rfl)
theorem dX1_happen_67 : decode cX1_happen 67 = .ok (.pop, 1) := dk_87 (dk_at dksX1_happen_2 11 rfl rfl)
theorem dX1_happen_68 : decode cX1_happen 68 = .ok (.goto 106, 3) := dk_167 0 106 (dk_at dksX1_happen_2 12 rfl rfl)
theorem dX1_happen_71 : decode cX1_happen 71 = .ok (.aload_n 0, 1) := dk_42 (dk_at dksX1_happen_2 15 rfl rfl)
theorem dX1_happen_72 : decode cX1_happen 72 = .ok (.getfield 52, 3) := dk_180 0 52 (dk_at dksX1_happen_2 16 rfl rfl)
theorem dX1_happen_75 : decode cX1_happen 75 = .ok (.aload_n 1, 1) := dk_43 (dk_at dksX1_happen_2 19 rfl rfl)
theorem dX1_happen_76 : decode cX1_happen 76 = .ok (.getfield 330, 3) := dk_180 1 74 (dk_at dksX1_happen_2 20 rfl rfl)
theorem dX1_happen_79 : decode cX1_happen 79 = .ok (.invokevirtual 224, 3) := dk_182 0 224 (dk_at dksX1_happen_3 0 rfl rfl)
theorem dX1_happen_82 : decode cX1_happen 82 = .ok (.pop, 1) := dk_87 (dk_at dksX1_happen_3 3 rfl rfl)
theorem dX1_happen_83 : decode cX1_happen 83 = .ok (.goto 91, 3) := dk_167 0 91 (dk_at dksX1_happen_3 4 rfl rfl)
theorem dX1_happen_86 : decode cX1_happen 86 = .ok (.aload_n 0, 1) := dk_42 (dk_at dksX1_happen_3 7 rfl rfl)
theorem dX1_happen_87 : decode cX1_happen 87 = .ok (.getfield 52, 3) := dk_180 0 52 (dk_at dksX1_happen_3 8 rfl rfl)
theorem dX1_happen_90 : decode cX1_happen 90 = .ok (.aload_n 1, 1) := dk_43 (dk_at dksX1_happen_3 11 rfl rfl)
theorem dX1_happen_91 : decode cX1_happen 91 = .ok (.getfield 330, 3) := dk_180 1 74 (dk_at dksX1_happen_3 12 rfl rfl)
theorem dX1_happen_94 : decode cX1_happen 94 = .ok (.aload_n 1, 1) := dk_43 (dk_at dksX1_happen_3 15 rfl rfl)
theorem dX1_happen_95 : decode cX1_happen 95 = .ok (.getfield 333, 3) := dk_180 1 77 (dk_at dksX1_happen_3 16 rfl rfl)
theorem dX1_happen_98 : decode cX1_happen 98 = .ok (.invokevirtual 184, 3) := dk_182 0 184 (dk_at dksX1_happen_3 19 rfl rfl)
theorem dX1_happen_101 : decode cX1_happen 101 = .ok (.pop, 1) := dk_87 (dk_at dksX1_happen_3 22 rfl rfl)
theorem dX1_happen_102 : decode cX1_happen 102 = .ok (.goto 72, 3) := dk_167 0 72 (dk_at dksX1_happen_4 0 rfl rfl)
theorem dX1_happen_105 : decode cX1_happen 105 = .ok (.aload_n 0, 1) := dk_42 (dk_at dksX1_happen_4 3 rfl rfl)
theorem dX1_happen_106 : decode cX1_happen 106 = .ok (.getfield 52, 3) := dk_180 0 52 (dk_at dksX1_happen_4 4 rfl rfl)
theorem dX1_happen_109 : decode cX1_happen 109 = .ok (.aload_n 0, 1) := dk_42 (dk_at dksX1_happen_4 7 rfl rfl)
theorem dX1_happen_110 : decode cX1_happen 110 = .ok (.getfield 52, 3) := dk_180 0 52 (dk_at dksX1_happen_4 8 rfl rfl)
theorem dX1_happen_113 : decode cX1_happen 113 = .ok (.aload_n 1, 1) := dk_43 (dk_at dksX1_happen_4 11 rfl rfl)
theorem dX1_happen_114 : decode cX1_happen 114 = .ok (.getfield 330, 3) := dk_180 1 74 (dk_at dksX1_happen_4 12 rfl rfl)
theorem dX1_happen_117 : decode cX1_happen 117 = .ok (.invokevirtual 110, 3) := dk_182 0 110 (dk_at dksX1_happen_4 15 rfl rfl)
theorem dX1_happen_120 : decode cX1_happen 120 = .ok (.aload_n 1, 1) := dk_43 (dk_at dksX1_happen_4 18 rfl rfl)
theorem dX1_happen_121 : decode cX1_happen 121 = .ok (.getfield 338, 3) := dk_180 1 82 (dk_at dksX1_happen_4 19 rfl rfl)
theorem dX1_happen_124 : decode cX1_happen 124 = .ok (.invokevirtual 157, 3) := dk_182 0 157 (dk_at dksX1_happen_5 0 rfl rfl)
theorem dX1_happen_127 : decode cX1_happen 127 = .ok (.goto 47, 3) := dk_167 0 47 (dk_at dksX1_happen_5 3 rfl rfl)
theorem dX1_happen_130 : decode cX1_happen 130 = .ok (.aload_n 0, 1) := dk_42 (dk_at dksX1_happen_5 6 rfl rfl)
theorem dX1_happen_131 : decode cX1_happen 131 = .ok (.getfield 52, 3) := dk_180 0 52 (dk_at dksX1_happen_5 7 rfl rfl)
theorem dX1_happen_134 : decode cX1_happen 134 = .ok (.aload_n 1, 1) := dk_43 (dk_at dksX1_happen_5 10 rfl rfl)
theorem dX1_happen_135 : decode cX1_happen 135 = .ok (.getfield 330, 3) := dk_180 1 74 (dk_at dksX1_happen_5 11 rfl rfl)
theorem dX1_happen_138 : decode cX1_happen 138 = .ok (.invokevirtual 110, 3) := dk_182 0 110 (dk_at dksX1_happen_5 14 rfl rfl)
theorem dX1_happen_141 : decode cX1_happen 141 = .ok (.checkcast 34, 3) := dk_192 0 34 (dk_at dksX1_happen_5 17 rfl rfl)
theorem dX1_happen_144 : decode cX1_happen 144 = .ok (.aload_n 1, 1) := dk_43 (dk_at dksX1_happen_5 20 rfl rfl)
theorem dX1_happen_145 : decode cX1_happen 145 = .ok (.getfield 338, 3) := dk_180 1 82 (dk_at dksX1_happen_5 21 rfl rfl)
theorem dX1_happen_148 : decode cX1_happen 148 = .ok (.putfield 165, 3) := dk_181 0 165 (dk_at dksX1_happen_6 0 rfl rfl)
theorem dX1_happen_151 : decode cX1_happen 151 = .ok (.goto 23, 3) := dk_167 0 23 (dk_at dksX1_happen_6 3 rfl rfl)
theorem dX1_happen_154 : decode cX1_happen 154 = .ok (.aload_n 0, 1) := dk_42 (dk_at dksX1_happen_6 6 rfl rfl)
theorem dX1_happen_155 : decode cX1_happen 155 = .ok (.getfield 52, 3) := dk_180 0 52 (dk_at dksX1_happen_6 7 rfl rfl)
theorem dX1_happen_158 : decode cX1_happen 158 = .ok (.aload_n 1, 1) := dk_43 (dk_at dksX1_happen_6 10 rfl rfl)
theorem dX1_happen_159 : decode cX1_happen 159 = .ok (.getfield 330, 3) := dk_180 1 74 (dk_at dksX1_happen_6 11 rfl rfl)
theorem dX1_happen_162 : decode cX1_happen 162 = .ok (.aload_n 1, 1) := dk_43 (dk_at dksX1_happen_6 14 rfl rfl)
theorem dX1_happen_163 : decode cX1_happen 163 = .ok (.getfield 338, 3) := dk_180 1 82 (dk_at dksX1_happen_6 15 rfl rfl)
theorem dX1_happen_166 : decode cX1_happen 166 = .ok (.aload_n 1, 1) := dk_43 (dk_at dksX1_happen_6 18 rfl rfl)
theorem dX1_happen_167 : decode cX1_happen 167 = .ok (.getfield 333, 3) := dk_180 1 77 (dk_at dksX1_happen_6 19 rfl rfl)
theorem dX1_happen_170 : decode cX1_happen 170 = .ok (.invokevirtual 180, 3) := dk_182 0 180 (dk_at dksX1_happen_7 0 rfl rfl)
theorem dX1_happen_173 : decode cX1_happen 173 = .ok (.pop, 1) := dk_87 (dk_at dksX1_happen_7 3 rfl rfl)
theorem dX1_happen_174 : decode cX1_happen 174 = .ok (.return_, 1) := dk_177 (dk_at dksX1_happen_7 4 rfl rfl)
abbrev cX1_undo : ByteArray := prog_1_method_12_code
def yX1_undo : MethodName := ⟨RX1, "undo", "()I"⟩
def dkwX1_undo_2 : List UInt8 := [172]
abbrev dktX1_undo_2 : List UInt8 := dkwX1_undo_2 ++ []
def dkwX1_undo_1 : List UInt8 := [180, 0, 59, 182, 0, 72, 4, 100, 182, 0, 76, 192, 0, 49, 181, 0, 52, 42, 180, 0, 59, 182, 0, 72]
abbrev dktX1_undo_1 : List UInt8 := dkwX1_undo_1 ++ dktX1_undo_2
def dkwX1_undo_0 : List UInt8 := [42, 180, 0, 59, 182, 0, 92, 154, 0, 7, 4, 167, 0, 4, 3, 184, 0, 96, 42, 42, 180, 0, 59, 42]
abbrev dktX1_undo_0 : List UInt8 := dkwX1_undo_0 ++ dktX1_undo_1
theorem dksX1_undo_0 : cX1_undo.data.toList.drop 0 = dktX1_undo_0 := by decide +kernel
theorem dksX1_undo_1 : cX1_undo.data.toList.drop 24 = dktX1_undo_1 := dk_seg dksX1_undo_0 24 rfl rfl
theorem dksX1_undo_2 : cX1_undo.data.toList.drop 48 = dktX1_undo_2 := dk_seg dksX1_undo_1 24 rfl rfl
theorem dX1_undo_0 : decode cX1_undo 0 = .ok (.aload_n 0, 1) := dk_42 (dk_at dksX1_undo_0 0 rfl rfl)
theorem dX1_undo_1 : decode cX1_undo 1 = .ok (.getfield 59, 3) := dk_180 0 59 (dk_at dksX1_undo_0 1 rfl rfl)
theorem dX1_undo_4 : decode cX1_undo 4 = .ok (.invokevirtual 92, 3) := dk_182 0 92 (dk_at dksX1_undo_0 4 rfl rfl)
theorem dX1_undo_7 : decode cX1_undo 7 = .ok (.ifCond .ne 7, 3) := dk_154 0 7 (dk_at dksX1_undo_0 7 rfl rfl)
theorem dX1_undo_10 : decode cX1_undo 10 = .ok (.iconst 1, 1) := dk_4 (dk_at dksX1_undo_0 10 rfl rfl)
theorem dX1_undo_11 : decode cX1_undo 11 = .ok (.goto 4, 3) := dk_167 0 4 (dk_at dksX1_undo_0 11 rfl rfl)
theorem dX1_undo_14 : decode cX1_undo 14 = .ok (.iconst 0, 1) := dk_3 (dk_at dksX1_undo_0 14 rfl rfl)
theorem dX1_undo_15 : decode cX1_undo 15 = .ok (.invokestatic 96, 3) := dk_184 0 96 (dk_at dksX1_undo_0 15 rfl rfl)
theorem dX1_undo_18 : decode cX1_undo 18 = .ok (.aload_n 0, 1) := dk_42 (dk_at dksX1_undo_0 18 rfl rfl)
theorem dX1_undo_19 : decode cX1_undo 19 = .ok (.aload_n 0, 1) := dk_42 (dk_at dksX1_undo_0 19 rfl rfl)
theorem dX1_undo_20 : decode cX1_undo 20 = .ok (.getfield 59, 3) := dk_180 0 59 (dk_at dksX1_undo_0 20 rfl rfl)
theorem dX1_undo_23 : decode cX1_undo 23 = .ok (.aload_n 0, 1) := dk_42 (dk_at dksX1_undo_0 23 rfl rfl)
theorem dX1_undo_24 : decode cX1_undo 24 = .ok (.getfield 59, 3) := dk_180 0 59 (dk_at dksX1_undo_1 0 rfl rfl)
theorem dX1_undo_27 : decode cX1_undo 27 = .ok (.invokevirtual 72, 3) := dk_182 0 72 (dk_at dksX1_undo_1 3 rfl rfl)
theorem dX1_undo_30 : decode cX1_undo 30 = .ok (.iconst 1, 1) := dk_4 (dk_at dksX1_undo_1 6 rfl rfl)
theorem dX1_undo_31 : decode cX1_undo 31 = .ok (.isub, 1) := dk_100 (dk_at dksX1_undo_1 7 rfl rfl)
theorem dX1_undo_32 : decode cX1_undo 32 = .ok (.invokevirtual 76, 3) := dk_182 0 76 (dk_at dksX1_undo_1 8 rfl rfl)
theorem dX1_undo_35 : decode cX1_undo 35 = .ok (.checkcast 49, 3) := dk_192 0 49 (dk_at dksX1_undo_1 11 rfl rfl)
theorem dX1_undo_38 : decode cX1_undo 38 = .ok (.putfield 52, 3) := dk_181 0 52 (dk_at dksX1_undo_1 14 rfl rfl)
theorem dX1_undo_41 : decode cX1_undo 41 = .ok (.aload_n 0, 1) := dk_42 (dk_at dksX1_undo_1 17 rfl rfl)
theorem dX1_undo_42 : decode cX1_undo 42 = .ok (.getfield 59, 3) := dk_180 0 59 (dk_at dksX1_undo_1 18 rfl rfl)
theorem dX1_undo_45 : decode cX1_undo 45 = .ok (.invokevirtual 72, 3) := dk_182 0 72 (dk_at dksX1_undo_1 21 rfl rfl)
theorem dX1_undo_48 : decode cX1_undo 48 = .ok (.ireturn, 1) := dk_172 (dk_at dksX1_undo_2 0 rfl rfl)
theorem q101 : (Jvm.Cond.initialized "PatchCords") ∈ lw_all := lw_g (lw_at lw_m1 1 rfl) rfl
theorem q142 : (Jvm.Cond.instantiable "PatchCords" (4 : Nat)) ∈ lw_all := lw_g (lw_at lw_m1 42 rfl) rfl
theorem q144 : (Jvm.Cond.instanceMethod ({ cls := "PatchCords", name := "<init>", desc := "()V" } : Jvm.MethodName)) ∈ lw_all := lw_g (lw_at lw_m1 44 rfl) rfl
theorem q145 : (Jvm.Cond.code ({ cls := "PatchCords", name := "<init>", desc := "()V" } : Jvm.MethodName) prog_1_method_9_code (1 : Nat) (Option.none : Option Jvm.ClassFile.FieldType)) ∈ lw_all := lw_g (lw_at lw_m1 45 rfl) rfl
theorem q146 : (Jvm.Cond.methodLink "PatchCords" (46 : Nat) ({ cls := "java/lang/Object", name := "<init>", desc := "()V" } : Jvm.MethodName)) ∈ lw_all := lw_g (lw_at lw_m1 46 rfl) rfl
theorem q149 : (Jvm.Cond.classLink "PatchCords" (49 : Nat) "PatchCords$Panel") ∈ lw_all := lw_g (lw_at lw_m1 49 rfl) rfl
theorem q151 : (Jvm.Cond.methodLinkNest "PatchCords" (51 : Nat) ({ cls := "PatchCords$Panel", name := "<init>", desc := "()V" } : Jvm.MethodName) "PatchCords") ∈ lw_tbl := lw_at lw_m1 51 rfl
theorem q186 : (Jvm.Cond.fieldLinkNest "PatchCords" (360 : Nat) "PatchCords$Panel" "outputs" "[I" "PatchCords") ∈ lw_tbl := lw_at lw_m1 86 rfl
theorem q188 : (Jvm.Cond.fieldLinkNest "PatchCords" (370 : Nat) "PatchCords$Panel" "in" "[I" "PatchCords") ∈ lw_tbl := lw_at lw_m1 88 rfl
theorem q190 : (Jvm.Cond.fieldLinkNest "PatchCords" (284 : Nat) "PatchCords$Panel" "records" "[I" "PatchCords") ∈ lw_tbl := lw_at lw_m1 90 rfl
theorem q192 : (Jvm.Cond.fieldLinkNest "PatchCords" (193 : Nat) "PatchCords$Panel" "way" "LPatchCords$Way;" "PatchCords") ∈ lw_tbl := lw_at lw_m1 92 rfl
theorem q194 : (Jvm.Cond.fieldLinkNest "PatchCords" (206 : Nat) "PatchCords$Panel" "guarded" "Z" "PatchCords") ∈ lw_tbl := lw_at lw_m1 94 rfl
theorem q196 : (Jvm.Cond.fieldLinkNest "PatchCords" (187 : Nat) "PatchCords$Panel" "mode" "I" "PatchCords") ∈ lw_tbl := lw_at lw_m1 96 rfl
theorem q198 : (Jvm.Cond.fieldLinkNest "PatchCords" (216 : Nat) "PatchCords$Panel" "steps" "I" "PatchCords") ∈ lw_tbl := lw_at lw_m1 98 rfl
theorem q200 : (Jvm.Cond.fieldLinkNest "PatchCords" (210 : Nat) "PatchCords$Panel" "recorded" "I" "PatchCords") ∈ lw_tbl := lw_at lw_m1 100 rfl
theorem q202 : (Jvm.Cond.fieldLinkNest "PatchCords" (281 : Nat) "PatchCords$Panel" "recordCount" "I" "PatchCords") ∈ lw_tbl := lw_at lw_m1 102 rfl
theorem q204 : (Jvm.Cond.fieldLinkNest "PatchCords" (287 : Nat) "PatchCords$Panel" "crossings" "I" "PatchCords") ∈ lw_tbl := lw_at lw_m1 104 rfl
theorem q207 : (Jvm.Cond.fieldLinkNest "PatchCords" (290 : Nat) "PatchCords$Panel" "beat" "I" "PatchCords") ∈ lw_tbl := lw_at lw_m1 107 rfl
theorem q238 : (Jvm.Cond.classLink "PatchCords" (56 : Nat) "java/util/ArrayList") ∈ lw_all := lw_g (lw_at lw_m1 138 rfl) rfl
theorem q239 : (Jvm.Cond.methodLink "PatchCords" (58 : Nat) ({ cls := "java/util/ArrayList", name := "<init>", desc := "()V" } : Jvm.MethodName)) ∈ lw_all := lw_g (lw_at lw_m1 139 rfl) rfl
theorem q240 : (Jvm.Cond.classLink "PatchCords" (63 : Nat) "java/lang/StringBuilder") ∈ lw_all := lw_g (lw_at lw_m1 140 rfl) rfl
theorem q242 : (Jvm.Cond.methodLink "PatchCords" (65 : Nat) ({ cls := "java/lang/StringBuilder", name := "<init>", desc := "(I)V" } : Jvm.MethodName)) ∈ lw_all := lw_g (lw_at lw_m1 142 rfl) rfl
theorem q273 : (Jvm.Cond.fieldLink "PatchCords" (52 : Nat) "PatchCords" "panel" "LPatchCords$Panel;") ∈ lw_all := lw_g (lw_at lw_m1 173 rfl) rfl
theorem q274 : (Jvm.Cond.fieldLink "PatchCords" (100 : Nat) "PatchCords" "kept" "LPatchCords$Panel;") ∈ lw_all := lw_g (lw_at lw_m1 174 rfl) rfl
theorem q275 : (Jvm.Cond.fieldLink "PatchCords" (59 : Nat) "PatchCords" "saved" "Ljava/util/ArrayList;") ∈ lw_all := lw_g (lw_at lw_m1 175 rfl) rfl
theorem q276 : (Jvm.Cond.fieldLink "PatchCords" (68 : Nat) "PatchCords" "text" "Ljava/lang/StringBuilder;") ∈ lw_all := lw_g (lw_at lw_m1 176 rfl) rfl
theorem q277 : (Jvm.Cond.lays "PatchCords" "PatchCords" "panel" "LPatchCords$Panel;") ∈ lw_all := lw_g (lw_at lw_m1 177 rfl) rfl
theorem q278 : (Jvm.Cond.soleField "PatchCords" "panel") ∈ lw_all := lw_g (lw_at lw_m1 178 rfl) rfl
theorem q279 : (Jvm.Cond.lays "PatchCords" "PatchCords" "kept" "LPatchCords$Panel;") ∈ lw_all := lw_g (lw_at lw_m1 179 rfl) rfl
theorem q280 : (Jvm.Cond.soleField "PatchCords" "kept") ∈ lw_all := lw_g (lw_at lw_m1 180 rfl) rfl
theorem q281 : (Jvm.Cond.laysFinal "PatchCords" "PatchCords" "saved" "Ljava/util/ArrayList;") ∈ lw_all := lw_g (lw_at lw_m1 181 rfl) rfl
theorem q282 : (Jvm.Cond.soleField "PatchCords" "saved") ∈ lw_all := lw_g (lw_at lw_m1 182 rfl) rfl
theorem q283 : (Jvm.Cond.laysFinal "PatchCords" "PatchCords" "text" "Ljava/lang/StringBuilder;") ∈ lw_all := lw_g (lw_at lw_m1 183 rfl) rfl
theorem q284 : (Jvm.Cond.soleField "PatchCords" "text") ∈ lw_all := lw_g (lw_at lw_m1 184 rfl) rfl
theorem q285 : (Jvm.Cond.superclass "PatchCords" "java/lang/Object") ∈ lw_all := lw_g (lw_at lw_m1 185 rfl) rfl
theorem q287 : (Jvm.Cond.instanceMethod ({ cls := "PatchCords", name := "keep", desc := "()I" } : Jvm.MethodName)) ∈ lw_all := lw_g (lw_at lw_m1 187 rfl) rfl
theorem q288 : (Jvm.Cond.selects "PatchCords" ({ cls := "PatchCords", name := "keep", desc := "()I" } : Jvm.MethodName) ({ cls := "PatchCords", name := "keep", desc := "()I" } : Jvm.MethodName)) ∈ lw_all := lw_g (lw_at lw_m1 188 rfl) rfl
theorem q289 : (Jvm.Cond.code ({ cls := "PatchCords", name := "keep", desc := "()I" } : Jvm.MethodName) prog_1_method_13_code (1 : Nat) (Option.some Jvm.ClassFile.FieldType.int)) ∈ lw_all := lw_g (lw_at lw_m1 189 rfl) rfl
theorem q290 : (Jvm.Cond.methodLink "PatchCords" (84 : Nat) ({ cls := "PatchCords$Panel", name := "copy", desc := "()LPatchCords$Panel;" } : Jvm.MethodName)) ∈ lw_all := lw_g (lw_at lw_m1 190 rfl) rfl
theorem q342 : (Jvm.Cond.fieldLinkNest "PatchCords" (117 : Nat) "PatchCords$Part" "cords" "[I" "PatchCords") ∈ lw_tbl := lw_at lw_m2 2 rfl
theorem q345 : (Jvm.Cond.fieldLinkNest "PatchCords" (255 : Nat) "PatchCords$Part" "peak" "I" "PatchCords") ∈ lw_tbl := lw_at lw_m2 5 rfl
theorem q366 : (Jvm.Cond.fieldLinkNest "PatchCords" (173 : Nat) "PatchCords$Integrator" "speed" "I" "PatchCords") ∈ lw_tbl := lw_at lw_m2 26 rfl
theorem q369 : (Jvm.Cond.fieldLinkNest "PatchCords" (245 : Nat) "PatchCords$Integrator" "charge" "I" "PatchCords") ∈ lw_tbl := lw_at lw_m2 29 rfl
theorem q400 : (Jvm.Cond.fieldLinkNest "PatchCords" (165 : Nat) "PatchCords$Pot" "factor" "I" "PatchCords") ∈ lw_tbl := lw_at lw_m2 60 rfl
theorem q485 : (Jvm.Cond.selects "PatchCords" ({ cls := "java/lang/Object", name := "getClass", desc := "()Ljava/lang/Class;" } : Jvm.MethodName) ({ cls := "java/lang/Object", name := "getClass", desc := "()Ljava/lang/Class;" } : Jvm.MethodName)) ∈ lw_all := lw_g (lw_at lw_m2 145 rfl) rfl
theorem q521 : (Jvm.Cond.methodLink "PatchCords" (103 : Nat) ({ cls := "PatchCords", name := "modules", desc := "()I" } : Jvm.MethodName)) ∈ lw_all := lw_g (lw_at lw_m2 181 rfl) rfl
theorem q522 : (Jvm.Cond.instanceMethod ({ cls := "PatchCords", name := "modules", desc := "()I" } : Jvm.MethodName)) ∈ lw_all := lw_g (lw_at lw_m2 182 rfl) rfl
theorem q523 : (Jvm.Cond.selects "PatchCords" ({ cls := "PatchCords", name := "modules", desc := "()I" } : Jvm.MethodName) ({ cls := "PatchCords", name := "modules", desc := "()I" } : Jvm.MethodName)) ∈ lw_all := lw_g (lw_at lw_m2 183 rfl) rfl
theorem q524 : (Jvm.Cond.code ({ cls := "PatchCords", name := "modules", desc := "()I" } : Jvm.MethodName) prog_1_method_34_code (1 : Nat) (Option.some Jvm.ClassFile.FieldType.int)) ∈ lw_all := lw_g (lw_at lw_m2 184 rfl) rfl
theorem q525 : (Jvm.Cond.methodLink "PatchCords" (227 : Nat) ({ cls := "PatchCords$Panel", name := "size", desc := "()I" } : Jvm.MethodName)) ∈ lw_all := lw_g (lw_at lw_m2 185 rfl) rfl
theorem q530 : (Jvm.Cond.instanceMethod ({ cls := "PatchCords", name := "turnGuard", desc := "()Z" } : Jvm.MethodName)) ∈ lw_all := lw_g (lw_at lw_m2 190 rfl) rfl
theorem q531 : (Jvm.Cond.selects "PatchCords" ({ cls := "PatchCords", name := "turnGuard", desc := "()Z" } : Jvm.MethodName) ({ cls := "PatchCords", name := "turnGuard", desc := "()Z" } : Jvm.MethodName)) ∈ lw_all := lw_g (lw_at lw_m2 191 rfl) rfl
theorem q532 : (Jvm.Cond.code ({ cls := "PatchCords", name := "turnGuard", desc := "()Z" } : Jvm.MethodName) prog_1_method_30_code (1 : Nat) (Option.some Jvm.ClassFile.FieldType.boolean)) ∈ lw_all := lw_g (lw_at lw_m2 192 rfl) rfl
theorem q533 : (Jvm.Cond.methodLink "PatchCords" (136 : Nat) ({ cls := "PatchCords", name := "save", desc := "()V" } : Jvm.MethodName)) ∈ lw_all := lw_g (lw_at lw_m2 193 rfl) rfl
theorem q534 : (Jvm.Cond.privateMethod ({ cls := "PatchCords", name := "save", desc := "()V" } : Jvm.MethodName)) ∈ lw_tbl := lw_at lw_m2 194 rfl
theorem q535 : (Jvm.Cond.instanceMethod ({ cls := "PatchCords", name := "save", desc := "()V" } : Jvm.MethodName)) ∈ lw_all := lw_g (lw_at lw_m2 195 rfl) rfl
theorem q536 : (Jvm.Cond.code ({ cls := "PatchCords", name := "save", desc := "()V" } : Jvm.MethodName) prog_1_method_11_code (1 : Nat) (Option.none : Option Jvm.ClassFile.FieldType)) ∈ lw_all := lw_g (lw_at lw_m2 196 rfl) rfl
theorem q537 : (Jvm.Cond.methodLink "PatchCords" (88 : Nat) ({ cls := "PatchCords", name := "remember", desc := "(LPatchCords$Panel;)V" } : Jvm.MethodName)) ∈ lw_all := lw_g (lw_at lw_m2 197 rfl) rfl
theorem q538 : (Jvm.Cond.privateMethod ({ cls := "PatchCords", name := "remember", desc := "(LPatchCords$Panel;)V" } : Jvm.MethodName)) ∈ lw_tbl := lw_at lw_m2 198 rfl
theorem q539 : (Jvm.Cond.instanceMethod ({ cls := "PatchCords", name := "remember", desc := "(LPatchCords$Panel;)V" } : Jvm.MethodName)) ∈ lw_all := lw_g (lw_at lw_m2 199 rfl) rfl
theorem q540 : (Jvm.Cond.code ({ cls := "PatchCords", name := "remember", desc := "(LPatchCords$Panel;)V" } : Jvm.MethodName) prog_1_method_10_code (2 : Nat) (Option.none : Option Jvm.ClassFile.FieldType)) ∈ lw_all := lw_g (lw_at lw_m2 200 rfl) rfl
theorem q541 : (Jvm.Cond.methodLink "PatchCords" (72 : Nat) ({ cls := "java/util/ArrayList", name := "size", desc := "()I" } : Jvm.MethodName)) ∈ lw_all := lw_g (lw_at lw_m2 201 rfl) rfl
theorem q542 : (Jvm.Cond.methodLink "PatchCords" (76 : Nat) ({ cls := "java/util/ArrayList", name := "remove", desc := "(I)Ljava/lang/Object;" } : Jvm.MethodName)) ∈ lw_all := lw_g (lw_at lw_m2 202 rfl) rfl
theorem q551 : (Jvm.Cond.methodLink "PatchCords" (80 : Nat) ({ cls := "java/util/ArrayList", name := "add", desc := "(Ljava/lang/Object;)Z" } : Jvm.MethodName)) ∈ lw_all := lw_g (lw_at lw_m2 211 rfl) rfl
theorem q554 : (Jvm.Cond.instanceMethod ({ cls := "PatchCords", name := "cords", desc := "()I" } : Jvm.MethodName)) ∈ lw_all := lw_g (lw_at lw_m2 214 rfl) rfl
theorem q555 : (Jvm.Cond.selects "PatchCords" ({ cls := "PatchCords", name := "cords", desc := "()I" } : Jvm.MethodName) ({ cls := "PatchCords", name := "cords", desc := "()I" } : Jvm.MethodName)) ∈ lw_all := lw_g (lw_at lw_m2 215 rfl) rfl
theorem q556 : (Jvm.Cond.code ({ cls := "PatchCords", name := "cords", desc := "()I" } : Jvm.MethodName) prog_1_method_41_code (1 : Nat) (Option.some Jvm.ClassFile.FieldType.int)) ∈ lw_all := lw_g (lw_at lw_m2 216 rfl) rfl
theorem q557 : (Jvm.Cond.methodLink "PatchCords" (234 : Nat) ({ cls := "PatchCords$Panel", name := "cords", desc := "()I" } : Jvm.MethodName)) ∈ lw_all := lw_g (lw_at lw_m2 217 rfl) rfl
theorem q567 : (Jvm.Cond.instanceMethod ({ cls := "PatchCords", name := "mode", desc := "()I" } : Jvm.MethodName)) ∈ lw_all := lw_g (lw_at lw_m2 227 rfl) rfl
theorem q568 : (Jvm.Cond.selects "PatchCords" ({ cls := "PatchCords", name := "mode", desc := "()I" } : Jvm.MethodName) ({ cls := "PatchCords", name := "mode", desc := "()I" } : Jvm.MethodName)) ∈ lw_all := lw_g (lw_at lw_m2 228 rfl) rfl
theorem q569 : (Jvm.Cond.code ({ cls := "PatchCords", name := "mode", desc := "()I" } : Jvm.MethodName) prog_1_method_42_code (1 : Nat) (Option.some Jvm.ClassFile.FieldType.int)) ∈ lw_all := lw_g (lw_at lw_m2 229 rfl) rfl
theorem q571 : (Jvm.Cond.instanceMethod ({ cls := "PatchCords", name := "way", desc := "()I" } : Jvm.MethodName)) ∈ lw_all := lw_g (lw_at lw_m2 231 rfl) rfl
theorem q572 : (Jvm.Cond.selects "PatchCords" ({ cls := "PatchCords", name := "way", desc := "()I" } : Jvm.MethodName) ({ cls := "PatchCords", name := "way", desc := "()I" } : Jvm.MethodName)) ∈ lw_all := lw_g (lw_at lw_m2 232 rfl) rfl
theorem q573 : (Jvm.Cond.code ({ cls := "PatchCords", name := "way", desc := "()I" } : Jvm.MethodName) prog_1_method_43_code (1 : Nat) (Option.some Jvm.ClassFile.FieldType.int)) ∈ lw_all := lw_g (lw_at lw_m2 233 rfl) rfl
theorem q574 : (Jvm.Cond.methodLink "PatchCords" (197 : Nat) ({ cls := "PatchCords$Way", name := "ordinal", desc := "()I" } : Jvm.MethodName)) ∈ lw_all := lw_g (lw_at lw_m2 234 rfl) rfl
theorem q582 : (Jvm.Cond.instanceMethod ({ cls := "PatchCords", name := "isGuarded", desc := "()Z" } : Jvm.MethodName)) ∈ lw_all := lw_g (lw_at lw_m3 2 rfl) rfl
theorem q583 : (Jvm.Cond.selects "PatchCords" ({ cls := "PatchCords", name := "isGuarded", desc := "()Z" } : Jvm.MethodName) ({ cls := "PatchCords", name := "isGuarded", desc := "()Z" } : Jvm.MethodName)) ∈ lw_all := lw_g (lw_at lw_m3 3 rfl) rfl
theorem q584 : (Jvm.Cond.code ({ cls := "PatchCords", name := "isGuarded", desc := "()Z" } : Jvm.MethodName) prog_1_method_44_code (1 : Nat) (Option.some Jvm.ClassFile.FieldType.boolean)) ∈ lw_all := lw_g (lw_at lw_m3 4 rfl) rfl
theorem q586 : (Jvm.Cond.instanceMethod ({ cls := "PatchCords", name := "steps", desc := "()I" } : Jvm.MethodName)) ∈ lw_all := lw_g (lw_at lw_m3 6 rfl) rfl
theorem q587 : (Jvm.Cond.selects "PatchCords" ({ cls := "PatchCords", name := "steps", desc := "()I" } : Jvm.MethodName) ({ cls := "PatchCords", name := "steps", desc := "()I" } : Jvm.MethodName)) ∈ lw_all := lw_g (lw_at lw_m3 7 rfl) rfl
theorem q588 : (Jvm.Cond.code ({ cls := "PatchCords", name := "steps", desc := "()I" } : Jvm.MethodName) prog_1_method_45_code (1 : Nat) (Option.some Jvm.ClassFile.FieldType.int)) ∈ lw_all := lw_g (lw_at lw_m3 8 rfl) rfl
theorem q590 : (Jvm.Cond.instanceMethod ({ cls := "PatchCords", name := "overloaded", desc := "()I" } : Jvm.MethodName)) ∈ lw_all := lw_g (lw_at lw_m3 10 rfl) rfl
theorem q591 : (Jvm.Cond.selects "PatchCords" ({ cls := "PatchCords", name := "overloaded", desc := "()I" } : Jvm.MethodName) ({ cls := "PatchCords", name := "overloaded", desc := "()I" } : Jvm.MethodName)) ∈ lw_all := lw_g (lw_at lw_m3 11 rfl) rfl
theorem q592 : (Jvm.Cond.code ({ cls := "PatchCords", name := "overloaded", desc := "()I" } : Jvm.MethodName) prog_1_method_51_code (1 : Nat) (Option.some Jvm.ClassFile.FieldType.int)) ∈ lw_all := lw_g (lw_at lw_m3 12 rfl) rfl
theorem q593 : (Jvm.Cond.methodLink "PatchCords" (252 : Nat) ({ cls := "PatchCords$Panel", name := "overloaded", desc := "()I" } : Jvm.MethodName)) ∈ lw_all := lw_g (lw_at lw_m3 13 rfl) rfl
theorem q639 : (Jvm.Cond.static ({ cls := "PatchCords", name := "has", desc := "(II)Z" } : Jvm.MethodName)) ∈ lw_all := lw_g (lw_at lw_m3 59 rfl) rfl
theorem q640 : (Jvm.Cond.code ({ cls := "PatchCords", name := "has", desc := "(II)Z" } : Jvm.MethodName) prog_1_method_7_code (2 : Nat) (Option.some Jvm.ClassFile.FieldType.boolean)) ∈ lw_all := lw_g (lw_at lw_m3 60 rfl) rfl
theorem q642 : (Jvm.Cond.static ({ cls := "PatchCords", name := "held", desc := "(II)I" } : Jvm.MethodName)) ∈ lw_all := lw_g (lw_at lw_m3 62 rfl) rfl
theorem q643 : (Jvm.Cond.code ({ cls := "PatchCords", name := "held", desc := "(II)I" } : Jvm.MethodName) prog_1_method_6_code (2 : Nat) (Option.some Jvm.ClassFile.FieldType.int)) ∈ lw_all := lw_g (lw_at lw_m3 63 rfl) rfl
theorem q644 : (Jvm.Cond.methodLink "PatchCords" (19 : Nat) ({ cls := "java/lang/Math", name := "min", desc := "(II)I" } : Jvm.MethodName)) ∈ lw_all := lw_g (lw_at lw_m3 64 rfl) rfl
theorem q645 : (Jvm.Cond.methodLink "PatchCords" (25 : Nat) ({ cls := "java/lang/Math", name := "max", desc := "(II)I" } : Jvm.MethodName)) ∈ lw_all := lw_g (lw_at lw_m3 65 rfl) rfl
theorem q664 : (Jvm.Cond.static ({ cls := "PatchCords", name := "isWithin", desc := "(III)Z" } : Jvm.MethodName)) ∈ lw_all := lw_g (lw_at lw_m3 84 rfl) rfl
theorem q665 : (Jvm.Cond.code ({ cls := "PatchCords", name := "isWithin", desc := "(III)Z" } : Jvm.MethodName) prog_1_method_1_code (3 : Nat) (Option.some Jvm.ClassFile.FieldType.boolean)) ∈ lw_all := lw_g (lw_at lw_m3 85 rfl) rfl
theorem q667 : (Jvm.Cond.instanceMethod ({ cls := "PatchCords", name := "inCircles", desc := "()I" } : Jvm.MethodName)) ∈ lw_all := lw_g (lw_at lw_m3 87 rfl) rfl
theorem q668 : (Jvm.Cond.selects "PatchCords" ({ cls := "PatchCords", name := "inCircles", desc := "()I" } : Jvm.MethodName) ({ cls := "PatchCords", name := "inCircles", desc := "()I" } : Jvm.MethodName)) ∈ lw_all := lw_g (lw_at lw_m3 88 rfl) rfl
theorem q669 : (Jvm.Cond.code ({ cls := "PatchCords", name := "inCircles", desc := "()I" } : Jvm.MethodName) prog_1_method_59_code (1 : Nat) (Option.some Jvm.ClassFile.FieldType.int)) ∈ lw_all := lw_g (lw_at lw_m3 89 rfl) rfl
theorem q670 : (Jvm.Cond.methodLink "PatchCords" (275 : Nat) ({ cls := "PatchCords$Panel", name := "inCircles", desc := "()I" } : Jvm.MethodName)) ∈ lw_all := lw_g (lw_at lw_m3 90 rfl) rfl
theorem q690 : (Jvm.Cond.instanceMethod ({ cls := "PatchCords", name := "ends", desc := "()I" } : Jvm.MethodName)) ∈ lw_all := lw_g (lw_at lw_m3 110 rfl) rfl
theorem q691 : (Jvm.Cond.selects "PatchCords" ({ cls := "PatchCords", name := "ends", desc := "()I" } : Jvm.MethodName) ({ cls := "PatchCords", name := "ends", desc := "()I" } : Jvm.MethodName)) ∈ lw_all := lw_g (lw_at lw_m3 111 rfl) rfl
theorem q692 : (Jvm.Cond.code ({ cls := "PatchCords", name := "ends", desc := "()I" } : Jvm.MethodName) prog_1_method_60_code (1 : Nat) (Option.some Jvm.ClassFile.FieldType.int)) ∈ lw_all := lw_g (lw_at lw_m3 112 rfl) rfl
theorem q693 : (Jvm.Cond.methodLink "PatchCords" (278 : Nat) ({ cls := "PatchCords$Panel", name := "ends", desc := "()I" } : Jvm.MethodName)) ∈ lw_all := lw_g (lw_at lw_m3 113 rfl) rfl
theorem q698 : (Jvm.Cond.instanceMethod ({ cls := "PatchCords", name := "recorded", desc := "()I" } : Jvm.MethodName)) ∈ lw_all := lw_g (lw_at lw_m3 118 rfl) rfl
theorem q699 : (Jvm.Cond.selects "PatchCords" ({ cls := "PatchCords", name := "recorded", desc := "()I" } : Jvm.MethodName) ({ cls := "PatchCords", name := "recorded", desc := "()I" } : Jvm.MethodName)) ∈ lw_all := lw_g (lw_at lw_m3 119 rfl) rfl
theorem q700 : (Jvm.Cond.code ({ cls := "PatchCords", name := "recorded", desc := "()I" } : Jvm.MethodName) prog_1_method_61_code (1 : Nat) (Option.some Jvm.ClassFile.FieldType.int)) ∈ lw_all := lw_g (lw_at lw_m3 120 rfl) rfl
theorem q702 : (Jvm.Cond.instanceMethod ({ cls := "PatchCords", name := "records", desc := "()I" } : Jvm.MethodName)) ∈ lw_all := lw_g (lw_at lw_m3 122 rfl) rfl
theorem q703 : (Jvm.Cond.selects "PatchCords" ({ cls := "PatchCords", name := "records", desc := "()I" } : Jvm.MethodName) ({ cls := "PatchCords", name := "records", desc := "()I" } : Jvm.MethodName)) ∈ lw_all := lw_g (lw_at lw_m3 123 rfl) rfl
theorem q704 : (Jvm.Cond.code ({ cls := "PatchCords", name := "records", desc := "()I" } : Jvm.MethodName) prog_1_method_62_code (1 : Nat) (Option.some Jvm.ClassFile.FieldType.int)) ∈ lw_all := lw_g (lw_at lw_m3 124 rfl) rfl
theorem q706 : (Jvm.Cond.instanceMethod ({ cls := "PatchCords", name := "crossings", desc := "()I" } : Jvm.MethodName)) ∈ lw_all := lw_g (lw_at lw_m3 126 rfl) rfl
theorem q707 : (Jvm.Cond.selects "PatchCords" ({ cls := "PatchCords", name := "crossings", desc := "()I" } : Jvm.MethodName) ({ cls := "PatchCords", name := "crossings", desc := "()I" } : Jvm.MethodName)) ∈ lw_all := lw_g (lw_at lw_m3 127 rfl) rfl
theorem q708 : (Jvm.Cond.code ({ cls := "PatchCords", name := "crossings", desc := "()I" } : Jvm.MethodName) prog_1_method_64_code (1 : Nat) (Option.some Jvm.ClassFile.FieldType.int)) ∈ lw_all := lw_g (lw_at lw_m3 128 rfl) rfl
theorem q710 : (Jvm.Cond.instanceMethod ({ cls := "PatchCords", name := "beat", desc := "()I" } : Jvm.MethodName)) ∈ lw_all := lw_g (lw_at lw_m3 130 rfl) rfl
theorem q711 : (Jvm.Cond.selects "PatchCords" ({ cls := "PatchCords", name := "beat", desc := "()I" } : Jvm.MethodName) ({ cls := "PatchCords", name := "beat", desc := "()I" } : Jvm.MethodName)) ∈ lw_all := lw_g (lw_at lw_m3 131 rfl) rfl
theorem q712 : (Jvm.Cond.code ({ cls := "PatchCords", name := "beat", desc := "()I" } : Jvm.MethodName) prog_1_method_65_code (1 : Nat) (Option.some Jvm.ClassFile.FieldType.int)) ∈ lw_all := lw_g (lw_at lw_m3 132 rfl) rfl
theorem q714 : (Jvm.Cond.instanceMethod ({ cls := "PatchCords", name := "meanRecord", desc := "()D" } : Jvm.MethodName)) ∈ lw_all := lw_g (lw_at lw_m3 134 rfl) rfl
theorem q715 : (Jvm.Cond.selects "PatchCords" ({ cls := "PatchCords", name := "meanRecord", desc := "()D" } : Jvm.MethodName) ({ cls := "PatchCords", name := "meanRecord", desc := "()D" } : Jvm.MethodName)) ∈ lw_all := lw_g (lw_at lw_m3 135 rfl) rfl
theorem q716 : (Jvm.Cond.code ({ cls := "PatchCords", name := "meanRecord", desc := "()D" } : Jvm.MethodName) prog_1_method_66_code (1 : Nat) (Option.some Jvm.ClassFile.FieldType.double)) ∈ lw_all := lw_g (lw_at lw_m3 136 rfl) rfl
theorem q717 : (Jvm.Cond.methodLink "PatchCords" (293 : Nat) ({ cls := "PatchCords$Panel", name := "meanRecord", desc := "()D" } : Jvm.MethodName)) ∈ lw_all := lw_g (lw_at lw_m3 137 rfl) rfl
theorem q722 : (Jvm.Cond.instanceMethod ({ cls := "PatchCords", name := "stepsUntilOverload", desc := "()I" } : Jvm.MethodName)) ∈ lw_all := lw_g (lw_at lw_m3 142 rfl) rfl
theorem q723 : (Jvm.Cond.selects "PatchCords" ({ cls := "PatchCords", name := "stepsUntilOverload", desc := "()I" } : Jvm.MethodName) ({ cls := "PatchCords", name := "stepsUntilOverload", desc := "()I" } : Jvm.MethodName)) ∈ lw_all := lw_g (lw_at lw_m3 143 rfl) rfl
theorem q724 : (Jvm.Cond.code ({ cls := "PatchCords", name := "stepsUntilOverload", desc := "()I" } : Jvm.MethodName) prog_1_method_69_code (1 : Nat) (Option.some Jvm.ClassFile.FieldType.int)) ∈ lw_all := lw_g (lw_at lw_m3 144 rfl) rfl
theorem q725 : (Jvm.Cond.methodLink "PatchCords" (300 : Nat) ({ cls := "PatchCords$Panel", name := "untilOverload", desc := "()I" } : Jvm.MethodName)) ∈ lw_all := lw_g (lw_at lw_m3 145 rfl) rfl
theorem q783 : (Jvm.Cond.instanceMethod ({ cls := "PatchCords", name := "clearText", desc := "()I" } : Jvm.MethodName)) ∈ lw_all := lw_g (lw_at lw_m3 203 rfl) rfl
theorem q784 : (Jvm.Cond.selects "PatchCords" ({ cls := "PatchCords", name := "clearText", desc := "()I" } : Jvm.MethodName) ({ cls := "PatchCords", name := "clearText", desc := "()I" } : Jvm.MethodName)) ∈ lw_all := lw_g (lw_at lw_m3 204 rfl) rfl
theorem q785 : (Jvm.Cond.code ({ cls := "PatchCords", name := "clearText", desc := "()I" } : Jvm.MethodName) prog_1_method_72_code (2 : Nat) (Option.some Jvm.ClassFile.FieldType.int)) ∈ lw_all := lw_g (lw_at lw_m3 205 rfl) rfl
theorem q786 : (Jvm.Cond.methodLink "PatchCords" (306 : Nat) ({ cls := "java/lang/StringBuilder", name := "length", desc := "()I" } : Jvm.MethodName)) ∈ lw_all := lw_g (lw_at lw_m3 206 rfl) rfl
theorem q793 : (Jvm.Cond.methodLink "PatchCords" (313 : Nat) ({ cls := "java/lang/StringBuilder", name := "setLength", desc := "(I)V" } : Jvm.MethodName)) ∈ lw_all := lw_g (lw_at lw_m3 213 rfl) rfl
theorem q1118 : (Jvm.Cond.instanceMethod ({ cls := "PatchCords", name := "firstError", desc := "()I" } : Jvm.MethodName)) ∈ lw_all := lw_g (lw_at lw_m5 58 rfl) rfl
theorem q1119 : (Jvm.Cond.selects "PatchCords" ({ cls := "PatchCords", name := "firstError", desc := "()I" } : Jvm.MethodName) ({ cls := "PatchCords", name := "firstError", desc := "()I" } : Jvm.MethodName)) ∈ lw_all := lw_g (lw_at lw_m5 59 rfl) rfl
theorem q1120 : (Jvm.Cond.code ({ cls := "PatchCords", name := "firstError", desc := "()I" } : Jvm.MethodName) prog_1_method_73_code (1 : Nat) (Option.some Jvm.ClassFile.FieldType.int)) ∈ lw_all := lw_g (lw_at lw_m5 60 rfl) rfl
theorem q1121 : (Jvm.Cond.classLink "PatchCords" (316 : Nat) "PatchCords$Reader") ∈ lw_all := lw_g (lw_at lw_m5 61 rfl) rfl
theorem q1123 : (Jvm.Cond.methodLink "PatchCords" (318 : Nat) ({ cls := "PatchCords$Reader", name := "<init>", desc := "(Ljava/lang/StringBuilder;)V" } : Jvm.MethodName)) ∈ lw_all := lw_g (lw_at lw_m5 63 rfl) rfl
theorem q1131 : (Jvm.Cond.fieldLinkNest "PatchCords" (341 : Nat) "PatchCords$Reader" "items" "Ljava/util/ArrayList;" "PatchCords") ∈ lw_tbl := lw_at lw_m5 71 rfl
theorem q1143 : (Jvm.Cond.methodLink "PatchCords" (321 : Nat) ({ cls := "PatchCords$Reader", name := "read", desc := "()I" } : Jvm.MethodName)) ∈ lw_all := lw_g (lw_at lw_m5 83 rfl) rfl
theorem q1190 : (Jvm.Cond.fieldLinkNest "PatchCords" (324 : Nat) "PatchCords$Item" "sign" "C" "PatchCords") ∈ lw_tbl := lw_at lw_m5 130 rfl
theorem q1192 : (Jvm.Cond.fieldLinkNest "PatchCords" (330 : Nat) "PatchCords$Item" "one" "I" "PatchCords") ∈ lw_tbl := lw_at lw_m5 132 rfl
theorem q1194 : (Jvm.Cond.fieldLinkNest "PatchCords" (338 : Nat) "PatchCords$Item" "other" "I" "PatchCords") ∈ lw_tbl := lw_at lw_m5 134 rfl
theorem q1196 : (Jvm.Cond.fieldLinkNest "PatchCords" (333 : Nat) "PatchCords$Item" "input" "I" "PatchCords") ∈ lw_tbl := lw_at lw_m5 136 rfl
theorem q1220 : (Jvm.Cond.instanceMethod ({ cls := "PatchCords", name := "digest", desc := "()J" } : Jvm.MethodName)) ∈ lw_all := lw_g (lw_at lw_m5 160 rfl) rfl
theorem q1221 : (Jvm.Cond.selects "PatchCords" ({ cls := "PatchCords", name := "digest", desc := "()J" } : Jvm.MethodName) ({ cls := "PatchCords", name := "digest", desc := "()J" } : Jvm.MethodName)) ∈ lw_all := lw_g (lw_at lw_m5 161 rfl) rfl
theorem q1222 : (Jvm.Cond.code ({ cls := "PatchCords", name := "digest", desc := "()J" } : Jvm.MethodName) prog_1_method_81_code (5 : Nat) (Option.some Jvm.ClassFile.FieldType.long)) ∈ lw_all := lw_g (lw_at lw_m5 162 rfl) rfl
theorem q1223 : (Jvm.Cond.constantLong "PatchCords" (373 : Nat) (610 : Int64)) ∈ lw_all := lw_g (lw_at lw_m5 163 rfl) rfl
theorem q1224 : (Jvm.Cond.methodLink "PatchCords" (375 : Nat) ({ cls := "PatchCords", name := "way", desc := "()I" } : Jvm.MethodName)) ∈ lw_all := lw_g (lw_at lw_m5 164 rfl) rfl
theorem q1225 : (Jvm.Cond.methodLink "PatchCords" (363 : Nat) ({ cls := "PatchCords", name := "add", desc := "(J[I)J" } : Jvm.MethodName)) ∈ lw_all := lw_g (lw_at lw_m5 165 rfl) rfl
theorem q1226 : (Jvm.Cond.static ({ cls := "PatchCords", name := "add", desc := "(J[I)J" } : Jvm.MethodName)) ∈ lw_all := lw_g (lw_at lw_m5 166 rfl) rfl
theorem q1227 : (Jvm.Cond.code ({ cls := "PatchCords", name := "add", desc := "(J[I)J" } : Jvm.MethodName) prog_1_method_78_code (6 : Nat) (Option.some Jvm.ClassFile.FieldType.long)) ∈ lw_all := lw_g (lw_at lw_m5 167 rfl) rfl
theorem q1228 : (Jvm.Cond.constantLong "PatchCords" (355 : Nat) (31 : Int64)) ∈ lw_all := lw_g (lw_at lw_m5 168 rfl) rfl
theorem q1229 : (Jvm.Cond.methodLink "PatchCords" (377 : Nat) ({ cls := "PatchCords", name := "addParts", desc := "(J)J" } : Jvm.MethodName)) ∈ lw_all := lw_g (lw_at lw_m5 169 rfl) rfl
theorem q1230 : (Jvm.Cond.privateMethod ({ cls := "PatchCords", name := "addParts", desc := "(J)J" } : Jvm.MethodName)) ∈ lw_tbl := lw_at lw_m5 170 rfl
theorem q1231 : (Jvm.Cond.instanceMethod ({ cls := "PatchCords", name := "addParts", desc := "(J)J" } : Jvm.MethodName)) ∈ lw_all := lw_g (lw_at lw_m5 171 rfl) rfl
theorem q1232 : (Jvm.Cond.code ({ cls := "PatchCords", name := "addParts", desc := "(J)J" } : Jvm.MethodName) prog_1_method_79_code (11 : Nat) (Option.some Jvm.ClassFile.FieldType.long)) ∈ lw_all := lw_g (lw_at lw_m5 172 rfl) rfl
theorem q1233 : (Jvm.Cond.methodLink "PatchCords" (262 : Nat) ({ cls := "PatchCords$Panel", name := "levels", desc := "()[I" } : Jvm.MethodName)) ∈ lw_all := lw_g (lw_at lw_m5 173 rfl) rfl
theorem q1254 : (Jvm.Cond.methodLinkNest "PatchCords" (297 : Nat) ({ cls := "PatchCords$Panel", name := "running", desc := "()LPatchCords$Panel;" } : Jvm.MethodName) "PatchCords") ∈ lw_tbl := lw_at lw_m5 194 rfl
theorem q1255 : (Jvm.Cond.methodLink "PatchCords" (224 : Nat) ({ cls := "PatchCords$Panel", name := "pass", desc := "(I)I" } : Jvm.MethodName)) ∈ lw_all := lw_g (lw_at lw_m5 195 rfl) rfl
theorem q1259 : (Jvm.Cond.methodLinkNest "PatchCords" (357 : Nat) ({ cls := "PatchCords$Panel", name := "tellOutputs", desc := "()V" } : Jvm.MethodName) "PatchCords") ∈ lw_tbl := lw_at lw_m5 199 rfl
theorem q1260 : (Jvm.Cond.methodLink "PatchCords" (110 : Nat) ({ cls := "PatchCords$Panel", name := "part", desc := "(I)LPatchCords$Part;" } : Jvm.MethodName)) ∈ lw_all := lw_g (lw_at lw_m5 200 rfl) rfl
theorem q1261 : (Jvm.Cond.methodLink "PatchCords" (228 : Nat) ({ cls := "PatchCords$Part", name := "kind", desc := "()I" } : Jvm.MethodName)) ∈ lw_all := lw_g (lw_at lw_m5 201 rfl) rfl
theorem q1282 : (Jvm.Cond.methodLink "PatchCords" (154 : Nat) ({ cls := "PatchCords$Part", name := "setting", desc := "()I" } : Jvm.MethodName)) ∈ lw_all := lw_g (lw_at lw_m5 222 rfl) rfl
theorem q1298 : (Jvm.Cond.methodLink "PatchCords" (259 : Nat) ({ cls := "PatchCords", name := "scaleFor", desc := "(I)I" } : Jvm.MethodName)) ∈ lw_all := lw_g (lw_at lw_m5 238 rfl) rfl
theorem q1299 : (Jvm.Cond.static ({ cls := "PatchCords", name := "scaleFor", desc := "(I)I" } : Jvm.MethodName)) ∈ lw_all := lw_g (lw_at lw_m5 239 rfl) rfl
theorem q1300 : (Jvm.Cond.code ({ cls := "PatchCords", name := "scaleFor", desc := "(I)I" } : Jvm.MethodName) prog_1_method_53_code (1 : Nat) (Option.some Jvm.ClassFile.FieldType.int)) ∈ lw_all := lw_g (lw_at lw_m6 0 rfl) rfl
theorem q1301 : (Jvm.Cond.constant "PatchCords" (258 : Nat) (10000000 : Int32)) ∈ lw_all := lw_g (lw_at lw_m6 1 rfl) rfl
theorem q1302 : (Jvm.Cond.methodLink "PatchCords" (269 : Nat) ({ cls := "PatchCords$Panel", name := "dependsOn", desc := "(I)I" } : Jvm.MethodName)) ∈ lw_all := lw_g (lw_at lw_m6 2 rfl) rfl
theorem q1303 : (Jvm.Cond.methodLinkNest "PatchCords" (366 : Nat) ({ cls := "PatchCords$Panel", name := "tellInputs", desc := "(LPatchCords$Part;)V" } : Jvm.MethodName) "PatchCords") ∈ lw_tbl := lw_at lw_m6 3 rfl
theorem q1304 : (Jvm.Cond.methodLink "PatchCords" (381 : Nat) ({ cls := "PatchCords", name := "addSettings", desc := "(J)J" } : Jvm.MethodName)) ∈ lw_all := lw_g (lw_at lw_m6 4 rfl) rfl
theorem q1305 : (Jvm.Cond.privateMethod ({ cls := "PatchCords", name := "addSettings", desc := "(J)J" } : Jvm.MethodName)) ∈ lw_tbl := lw_at lw_m6 5 rfl
theorem q1306 : (Jvm.Cond.instanceMethod ({ cls := "PatchCords", name := "addSettings", desc := "(J)J" } : Jvm.MethodName)) ∈ lw_all := lw_g (lw_at lw_m6 6 rfl) rfl
theorem q1307 : (Jvm.Cond.code ({ cls := "PatchCords", name := "addSettings", desc := "(J)J" } : Jvm.MethodName) prog_1_method_80_code (8 : Nat) (Option.some Jvm.ClassFile.FieldType.long)) ∈ lw_all := lw_g (lw_at lw_m6 7 rfl) rfl
theorem q1308 : (Jvm.Cond.classLink "PatchCords" (127 : Nat) "PatchCords$Weighted") ∈ lw_all := lw_g (lw_at lw_m6 8 rfl) rfl
theorem q1309 : (Jvm.Cond.methodLink "PatchCords" (231 : Nat) ({ cls := "PatchCords$Weighted", name := "weight", desc := "(I)I" } : Jvm.MethodName)) ∈ lw_all := lw_g (lw_at lw_m6 9 rfl) rfl
theorem q1310 : (Jvm.Cond.classLink "PatchCords" (31 : Nat) "PatchCords$Integrator") ∈ lw_all := lw_g (lw_at lw_m6 10 rfl) rfl
theorem q1311 : (Jvm.Cond.methodLink "PatchCords" (248 : Nat) ({ cls := "PatchCords$Panel", name := "rate", desc := "(LPatchCords$Integrator;)I" } : Jvm.MethodName)) ∈ lw_all := lw_g (lw_at lw_m6 11 rfl) rfl
theorem q1316 : (Jvm.Cond.methodLink "PatchCords" (384 : Nat) ({ cls := "java/lang/Double", name := "doubleToLongBits", desc := "(D)J" } : Jvm.MethodName)) ∈ lw_all := lw_g (lw_at lw_m6 16 rfl) rfl
theorem q1332 : (Jvm.Cond.instanceMethod ({ cls := "PatchCords", name := "put", desc := "(I)I" } : Jvm.MethodName)) ∈ lw_all := lw_g (lw_at lw_m6 32 rfl) rfl
theorem q1333 : (Jvm.Cond.selects "PatchCords" ({ cls := "PatchCords", name := "put", desc := "(I)I" } : Jvm.MethodName) ({ cls := "PatchCords", name := "put", desc := "(I)I" } : Jvm.MethodName)) ∈ lw_all := lw_g (lw_at lw_m6 33 rfl) rfl
theorem q1334 : (Jvm.Cond.code ({ cls := "PatchCords", name := "put", desc := "(I)I" } : Jvm.MethodName) prog_1_method_21_code (2 : Nat) (Option.some Jvm.ClassFile.FieldType.int)) ∈ lw_all := lw_g (lw_at lw_m6 34 rfl) rfl
theorem q1335 : (Jvm.Cond.methodLink "PatchCords" (132 : Nat) ({ cls := "PatchCords", name := "checkRange", desc := "(III)V" } : Jvm.MethodName)) ∈ lw_all := lw_g (lw_at lw_m6 35 rfl) rfl
theorem q1336 : (Jvm.Cond.static ({ cls := "PatchCords", name := "checkRange", desc := "(III)V" } : Jvm.MethodName)) ∈ lw_all := lw_g (lw_at lw_m6 36 rfl) rfl
theorem q1337 : (Jvm.Cond.code ({ cls := "PatchCords", name := "checkRange", desc := "(III)V" } : Jvm.MethodName) prog_1_method_2_code (3 : Nat) (Option.none : Option Jvm.ClassFile.FieldType)) ∈ lw_all := lw_g (lw_at lw_m6 37 rfl) rfl
theorem q1338 : (Jvm.Cond.methodLink "PatchCords" (3 : Nat) ({ cls := "PatchCords", name := "isWithin", desc := "(III)Z" } : Jvm.MethodName)) ∈ lw_all := lw_g (lw_at lw_m6 38 rfl) rfl
theorem q1339 : (Jvm.Cond.classLink "PatchCords" (7 : Nat) "java/lang/IllegalArgumentException") ∈ lw_all := lw_g (lw_at lw_m6 39 rfl) rfl
theorem q1340 : (Jvm.Cond.methodLink "PatchCords" (9 : Nat) ({ cls := "java/lang/IllegalArgumentException", name := "<init>", desc := "()V" } : Jvm.MethodName)) ∈ lw_all := lw_g (lw_at lw_m6 40 rfl) rfl
theorem q1350 : (Jvm.Cond.methodLink "PatchCords" (96 : Nat) ({ cls := "PatchCords", name := "checkState", desc := "(Z)V" } : Jvm.MethodName)) ∈ lw_all := lw_g (lw_at lw_m6 50 rfl) rfl
theorem q1351 : (Jvm.Cond.static ({ cls := "PatchCords", name := "checkState", desc := "(Z)V" } : Jvm.MethodName)) ∈ lw_all := lw_g (lw_at lw_m6 51 rfl) rfl
theorem q1352 : (Jvm.Cond.code ({ cls := "PatchCords", name := "checkState", desc := "(Z)V" } : Jvm.MethodName) prog_1_method_5_code (1 : Nat) (Option.none : Option Jvm.ClassFile.FieldType)) ∈ lw_all := lw_g (lw_at lw_m6 52 rfl) rfl
theorem q1353 : (Jvm.Cond.classLink "PatchCords" (16 : Nat) "java/lang/IllegalStateException") ∈ lw_all := lw_g (lw_at lw_m6 53 rfl) rfl
theorem q1362 : (Jvm.Cond.methodLink "PatchCords" (18 : Nat) ({ cls := "java/lang/IllegalStateException", name := "<init>", desc := "()V" } : Jvm.MethodName)) ∈ lw_all := lw_g (lw_at lw_m6 62 rfl) rfl
theorem q1368 : (Jvm.Cond.methodLink "PatchCords" (139 : Nat) ({ cls := "PatchCords$Panel", name := "put", desc := "(I)I" } : Jvm.MethodName)) ∈ lw_all := lw_g (lw_at lw_m6 68 rfl) rfl
theorem q1373 : (Jvm.Cond.static ({ cls := "PatchCords", name := "newPart", desc := "(I)LPatchCords$Part;" } : Jvm.MethodName)) ∈ lw_all := lw_g (lw_at lw_m6 73 rfl) rfl
theorem q1374 : (Jvm.Cond.code ({ cls := "PatchCords", name := "newPart", desc := "(I)LPatchCords$Part;" } : Jvm.MethodName) prog_1_method_8_code (1 : Nat) (Option.some (Jvm.ClassFile.FieldType.object "PatchCords$Part"))) ∈ lw_all := lw_g (lw_at lw_m6 74 rfl) rfl
theorem q1375 : (Jvm.Cond.classLink "PatchCords" (28 : Nat) "PatchCords$Summer") ∈ lw_all := lw_g (lw_at lw_m6 75 rfl) rfl
theorem q1376 : (Jvm.Cond.methodLinkNest "PatchCords" (30 : Nat) ({ cls := "PatchCords$Summer", name := "<init>", desc := "()V" } : Jvm.MethodName) "PatchCords") ∈ lw_tbl := lw_at lw_m6 76 rfl
theorem q1377 : (Jvm.Cond.methodLinkNest "PatchCords" (33 : Nat) ({ cls := "PatchCords$Integrator", name := "<init>", desc := "()V" } : Jvm.MethodName) "PatchCords") ∈ lw_tbl := lw_at lw_m6 77 rfl
theorem q1378 : (Jvm.Cond.classLink "PatchCords" (34 : Nat) "PatchCords$Pot") ∈ lw_all := lw_g (lw_at lw_m6 78 rfl) rfl
theorem q1379 : (Jvm.Cond.methodLink "PatchCords" (36 : Nat) ({ cls := "PatchCords$Pot", name := "<init>", desc := "()V" } : Jvm.MethodName)) ∈ lw_all := lw_g (lw_at lw_m6 79 rfl) rfl
theorem q1380 : (Jvm.Cond.classLink "PatchCords" (37 : Nat) "PatchCords$Product") ∈ lw_all := lw_g (lw_at lw_m6 80 rfl) rfl
theorem q1381 : (Jvm.Cond.methodLink "PatchCords" (39 : Nat) ({ cls := "PatchCords$Product", name := "<init>", desc := "()V" } : Jvm.MethodName)) ∈ lw_all := lw_g (lw_at lw_m6 81 rfl) rfl
theorem q1382 : (Jvm.Cond.classLink "PatchCords" (40 : Nat) "PatchCords$Choice") ∈ lw_all := lw_g (lw_at lw_m6 82 rfl) rfl
theorem q1383 : (Jvm.Cond.methodLink "PatchCords" (42 : Nat) ({ cls := "PatchCords$Choice", name := "<init>", desc := "()V" } : Jvm.MethodName)) ∈ lw_all := lw_g (lw_at lw_m6 83 rfl) rfl
theorem q1384 : (Jvm.Cond.classLink "PatchCords" (43 : Nat) "PatchCords$Steady") ∈ lw_all := lw_g (lw_at lw_m6 84 rfl) rfl
theorem q1385 : (Jvm.Cond.methodLink "PatchCords" (45 : Nat) ({ cls := "PatchCords$Steady", name := "<init>", desc := "()V" } : Jvm.MethodName)) ∈ lw_all := lw_g (lw_at lw_m6 85 rfl) rfl
theorem q1398 : (Jvm.Cond.instanceMethod ({ cls := "PatchCords", name := "turnWeight", desc := "(II)I" } : Jvm.MethodName)) ∈ lw_all := lw_g (lw_at lw_m6 98 rfl) rfl
theorem q1399 : (Jvm.Cond.selects "PatchCords" ({ cls := "PatchCords", name := "turnWeight", desc := "(II)I" } : Jvm.MethodName) ({ cls := "PatchCords", name := "turnWeight", desc := "(II)I" } : Jvm.MethodName)) ∈ lw_all := lw_g (lw_at lw_m6 99 rfl) rfl
theorem q1400 : (Jvm.Cond.code ({ cls := "PatchCords", name := "turnWeight", desc := "(II)I" } : Jvm.MethodName) prog_1_method_22_code (4 : Nat) (Option.some Jvm.ClassFile.FieldType.int)) ∈ lw_all := lw_g (lw_at lw_m6 100 rfl) rfl
theorem q1401 : (Jvm.Cond.methodLink "PatchCords" (143 : Nat) ({ cls := "PatchCords", name := "checkedWeighted", desc := "(II)LPatchCords$Weighted;" } : Jvm.MethodName)) ∈ lw_all := lw_g (lw_at lw_m6 101 rfl) rfl
theorem q1402 : (Jvm.Cond.privateMethod ({ cls := "PatchCords", name := "checkedWeighted", desc := "(II)LPatchCords$Weighted;" } : Jvm.MethodName)) ∈ lw_tbl := lw_at lw_m6 102 rfl
theorem q1403 : (Jvm.Cond.instanceMethod ({ cls := "PatchCords", name := "checkedWeighted", desc := "(II)LPatchCords$Weighted;" } : Jvm.MethodName)) ∈ lw_all := lw_g (lw_at lw_m6 103 rfl) rfl
theorem q1404 : (Jvm.Cond.code ({ cls := "PatchCords", name := "checkedWeighted", desc := "(II)LPatchCords$Weighted;" } : Jvm.MethodName) prog_1_method_17_code (4 : Nat) (Option.some (Jvm.ClassFile.FieldType.object "PatchCords$Weighted"))) ∈ lw_all := lw_g (lw_at lw_m6 104 rfl) rfl
theorem q1405 : (Jvm.Cond.methodLink "PatchCords" (123 : Nat) ({ cls := "PatchCords", name := "checkedInput", desc := "(II)LPatchCords$Part;" } : Jvm.MethodName)) ∈ lw_all := lw_g (lw_at lw_m6 105 rfl) rfl
theorem q1406 : (Jvm.Cond.privateMethod ({ cls := "PatchCords", name := "checkedInput", desc := "(II)LPatchCords$Part;" } : Jvm.MethodName)) ∈ lw_tbl := lw_at lw_m6 106 rfl
theorem q1407 : (Jvm.Cond.instanceMethod ({ cls := "PatchCords", name := "checkedInput", desc := "(II)LPatchCords$Part;" } : Jvm.MethodName)) ∈ lw_all := lw_g (lw_at lw_m6 107 rfl) rfl
theorem q1408 : (Jvm.Cond.code ({ cls := "PatchCords", name := "checkedInput", desc := "(II)LPatchCords$Part;" } : Jvm.MethodName) prog_1_method_16_code (4 : Nat) (Option.some (Jvm.ClassFile.FieldType.object "PatchCords$Part"))) ∈ lw_all := lw_g (lw_at lw_m6 108 rfl) rfl
theorem q1409 : (Jvm.Cond.methodLink "PatchCords" (114 : Nat) ({ cls := "PatchCords", name := "checkedPart", desc := "(I)LPatchCords$Part;" } : Jvm.MethodName)) ∈ lw_all := lw_g (lw_at lw_m6 109 rfl) rfl
theorem q1410 : (Jvm.Cond.privateMethod ({ cls := "PatchCords", name := "checkedPart", desc := "(I)LPatchCords$Part;" } : Jvm.MethodName)) ∈ lw_tbl := lw_at lw_m6 110 rfl
theorem q1411 : (Jvm.Cond.instanceMethod ({ cls := "PatchCords", name := "checkedPart", desc := "(I)LPatchCords$Part;" } : Jvm.MethodName)) ∈ lw_all := lw_g (lw_at lw_m6 111 rfl) rfl
theorem q1412 : (Jvm.Cond.code ({ cls := "PatchCords", name := "checkedPart", desc := "(I)LPatchCords$Part;" } : Jvm.MethodName) prog_1_method_15_code (2 : Nat) (Option.some (Jvm.ClassFile.FieldType.object "PatchCords$Part"))) ∈ lw_all := lw_g (lw_at lw_m6 112 rfl) rfl
theorem q1413 : (Jvm.Cond.methodLink "PatchCords" (106 : Nat) ({ cls := "PatchCords", name := "checkIndex", desc := "(II)V" } : Jvm.MethodName)) ∈ lw_all := lw_g (lw_at lw_m6 113 rfl) rfl
theorem q1414 : (Jvm.Cond.static ({ cls := "PatchCords", name := "checkIndex", desc := "(II)V" } : Jvm.MethodName)) ∈ lw_all := lw_g (lw_at lw_m6 114 rfl) rfl
theorem q1415 : (Jvm.Cond.code ({ cls := "PatchCords", name := "checkIndex", desc := "(II)V" } : Jvm.MethodName) prog_1_method_4_code (2 : Nat) (Option.none : Option Jvm.ClassFile.FieldType)) ∈ lw_all := lw_g (lw_at lw_m6 115 rfl) rfl
theorem q1416 : (Jvm.Cond.classLink "PatchCords" (13 : Nat) "java/lang/IndexOutOfBoundsException") ∈ lw_all := lw_g (lw_at lw_m6 116 rfl) rfl
theorem q1425 : (Jvm.Cond.methodLink "PatchCords" (15 : Nat) ({ cls := "java/lang/IndexOutOfBoundsException", name := "<init>", desc := "()V" } : Jvm.MethodName)) ∈ lw_all := lw_g (lw_at lw_m6 125 rfl) rfl
theorem q1431 : (Jvm.Cond.methodLink "PatchCords" (129 : Nat) ({ cls := "PatchCords", name := "checkThat", desc := "(Z)V" } : Jvm.MethodName)) ∈ lw_all := lw_g (lw_at lw_m6 131 rfl) rfl
theorem q1432 : (Jvm.Cond.static ({ cls := "PatchCords", name := "checkThat", desc := "(Z)V" } : Jvm.MethodName)) ∈ lw_all := lw_g (lw_at lw_m6 132 rfl) rfl
theorem q1433 : (Jvm.Cond.code ({ cls := "PatchCords", name := "checkThat", desc := "(Z)V" } : Jvm.MethodName) prog_1_method_3_code (1 : Nat) (Option.none : Option Jvm.ClassFile.FieldType)) ∈ lw_all := lw_g (lw_at lw_m6 133 rfl) rfl
theorem q1434 : (Jvm.Cond.methodLink "PatchCords" (147 : Nat) ({ cls := "PatchCords$Weighted", name := "turnWeight", desc := "(I)I" } : Jvm.MethodName)) ∈ lw_all := lw_g (lw_at lw_m6 134 rfl) rfl
theorem q1444 : (Jvm.Cond.instanceMethod ({ cls := "PatchCords", name := "setVoltage", desc := "(II)I" } : Jvm.MethodName)) ∈ lw_all := lw_g (lw_at lw_m6 144 rfl) rfl
theorem q1445 : (Jvm.Cond.selects "PatchCords" ({ cls := "PatchCords", name := "setVoltage", desc := "(II)I" } : Jvm.MethodName) ({ cls := "PatchCords", name := "setVoltage", desc := "(II)I" } : Jvm.MethodName)) ∈ lw_all := lw_g (lw_at lw_m6 145 rfl) rfl
theorem q1446 : (Jvm.Cond.code ({ cls := "PatchCords", name := "setVoltage", desc := "(II)I" } : Jvm.MethodName) prog_1_method_23_code (5 : Nat) (Option.some Jvm.ClassFile.FieldType.int)) ∈ lw_all := lw_g (lw_at lw_m6 146 rfl) rfl
theorem q1447 : (Jvm.Cond.methodLink "PatchCords" (150 : Nat) ({ cls := "PatchCords", name := "hasVoltage", desc := "(LPatchCords$Part;)Z" } : Jvm.MethodName)) ∈ lw_all := lw_g (lw_at lw_m6 147 rfl) rfl
theorem q1448 : (Jvm.Cond.static ({ cls := "PatchCords", name := "hasVoltage", desc := "(LPatchCords$Part;)Z" } : Jvm.MethodName)) ∈ lw_all := lw_g (lw_at lw_m6 148 rfl) rfl
theorem q1449 : (Jvm.Cond.code ({ cls := "PatchCords", name := "hasVoltage", desc := "(LPatchCords$Part;)Z" } : Jvm.MethodName) prog_1_method_20_code (1 : Nat) (Option.some Jvm.ClassFile.FieldType.boolean)) ∈ lw_all := lw_g (lw_at lw_m6 149 rfl) rfl
theorem q1450 : (Jvm.Cond.methodLink "PatchCords" (157 : Nat) ({ cls := "PatchCords$Panel", name := "setVoltage", desc := "(LPatchCords$Part;I)V" } : Jvm.MethodName)) ∈ lw_all := lw_g (lw_at lw_m6 150 rfl) rfl
theorem q1463 : (Jvm.Cond.instanceMethod ({ cls := "PatchCords", name := "setFactor", desc := "(II)I" } : Jvm.MethodName)) ∈ lw_all := lw_g (lw_at lw_m6 163 rfl) rfl
theorem q1464 : (Jvm.Cond.selects "PatchCords" ({ cls := "PatchCords", name := "setFactor", desc := "(II)I" } : Jvm.MethodName) ({ cls := "PatchCords", name := "setFactor", desc := "(II)I" } : Jvm.MethodName)) ∈ lw_all := lw_g (lw_at lw_m6 164 rfl) rfl
theorem q1465 : (Jvm.Cond.code ({ cls := "PatchCords", name := "setFactor", desc := "(II)I" } : Jvm.MethodName) prog_1_method_24_code (5 : Nat) (Option.some Jvm.ClassFile.FieldType.int)) ∈ lw_all := lw_g (lw_at lw_m6 165 rfl) rfl
theorem q1466 : (Jvm.Cond.methodLink "PatchCords" (161 : Nat) ({ cls := "PatchCords", name := "checkedPot", desc := "(I)LPatchCords$Pot;" } : Jvm.MethodName)) ∈ lw_all := lw_g (lw_at lw_m6 166 rfl) rfl
theorem q1467 : (Jvm.Cond.privateMethod ({ cls := "PatchCords", name := "checkedPot", desc := "(I)LPatchCords$Pot;" } : Jvm.MethodName)) ∈ lw_tbl := lw_at lw_m6 167 rfl
theorem q1468 : (Jvm.Cond.instanceMethod ({ cls := "PatchCords", name := "checkedPot", desc := "(I)LPatchCords$Pot;" } : Jvm.MethodName)) ∈ lw_all := lw_g (lw_at lw_m6 168 rfl) rfl
theorem q1469 : (Jvm.Cond.code ({ cls := "PatchCords", name := "checkedPot", desc := "(I)LPatchCords$Pot;" } : Jvm.MethodName) prog_1_method_19_code (3 : Nat) (Option.some (Jvm.ClassFile.FieldType.object "PatchCords$Pot"))) ∈ lw_all := lw_g (lw_at lw_m6 169 rfl) rfl
theorem q1474 : (Jvm.Cond.instanceMethod ({ cls := "PatchCords", name := "setSpeed", desc := "(II)I" } : Jvm.MethodName)) ∈ lw_all := lw_g (lw_at lw_m6 174 rfl) rfl
theorem q1475 : (Jvm.Cond.selects "PatchCords" ({ cls := "PatchCords", name := "setSpeed", desc := "(II)I" } : Jvm.MethodName) ({ cls := "PatchCords", name := "setSpeed", desc := "(II)I" } : Jvm.MethodName)) ∈ lw_all := lw_g (lw_at lw_m6 175 rfl) rfl
theorem q1476 : (Jvm.Cond.code ({ cls := "PatchCords", name := "setSpeed", desc := "(II)I" } : Jvm.MethodName) prog_1_method_25_code (5 : Nat) (Option.some Jvm.ClassFile.FieldType.int)) ∈ lw_all := lw_g (lw_at lw_m6 176 rfl) rfl
theorem q1477 : (Jvm.Cond.methodLink "PatchCords" (169 : Nat) ({ cls := "PatchCords", name := "checkedIntegrator", desc := "(I)LPatchCords$Integrator;" } : Jvm.MethodName)) ∈ lw_all := lw_g (lw_at lw_m6 177 rfl) rfl
theorem q1478 : (Jvm.Cond.privateMethod ({ cls := "PatchCords", name := "checkedIntegrator", desc := "(I)LPatchCords$Integrator;" } : Jvm.MethodName)) ∈ lw_tbl := lw_at lw_m6 178 rfl
theorem q1479 : (Jvm.Cond.instanceMethod ({ cls := "PatchCords", name := "checkedIntegrator", desc := "(I)LPatchCords$Integrator;" } : Jvm.MethodName)) ∈ lw_all := lw_g (lw_at lw_m6 179 rfl) rfl
theorem q1480 : (Jvm.Cond.code ({ cls := "PatchCords", name := "checkedIntegrator", desc := "(I)LPatchCords$Integrator;" } : Jvm.MethodName) prog_1_method_18_code (3 : Nat) (Option.some (Jvm.ClassFile.FieldType.object "PatchCords$Integrator"))) ∈ lw_all := lw_g (lw_at lw_m6 180 rfl) rfl
theorem q1485 : (Jvm.Cond.instanceMethod ({ cls := "PatchCords", name := "join", desc := "(III)I" } : Jvm.MethodName)) ∈ lw_all := lw_g (lw_at lw_m6 185 rfl) rfl
theorem q1486 : (Jvm.Cond.selects "PatchCords" ({ cls := "PatchCords", name := "join", desc := "(III)I" } : Jvm.MethodName) ({ cls := "PatchCords", name := "join", desc := "(III)I" } : Jvm.MethodName)) ∈ lw_all := lw_g (lw_at lw_m6 186 rfl) rfl
theorem q1487 : (Jvm.Cond.code ({ cls := "PatchCords", name := "join", desc := "(III)I" } : Jvm.MethodName) prog_1_method_26_code (4 : Nat) (Option.some Jvm.ClassFile.FieldType.int)) ∈ lw_all := lw_g (lw_at lw_m6 187 rfl) rfl
theorem q1488 : (Jvm.Cond.methodLink "PatchCords" (176 : Nat) ({ cls := "PatchCords$Panel", name := "wouldCircle", desc := "(II)Z" } : Jvm.MethodName)) ∈ lw_all := lw_g (lw_at lw_m6 188 rfl) rfl
theorem q1496 : (Jvm.Cond.methodLink "PatchCords" (180 : Nat) ({ cls := "PatchCords$Panel", name := "join", desc := "(III)I" } : Jvm.MethodName)) ∈ lw_all := lw_g (lw_at lw_m6 196 rfl) rfl
theorem q1504 : (Jvm.Cond.instanceMethod ({ cls := "PatchCords", name := "takeOut", desc := "(II)I" } : Jvm.MethodName)) ∈ lw_all := lw_g (lw_at lw_m6 204 rfl) rfl
theorem q1505 : (Jvm.Cond.selects "PatchCords" ({ cls := "PatchCords", name := "takeOut", desc := "(II)I" } : Jvm.MethodName) ({ cls := "PatchCords", name := "takeOut", desc := "(II)I" } : Jvm.MethodName)) ∈ lw_all := lw_g (lw_at lw_m6 205 rfl) rfl
theorem q1506 : (Jvm.Cond.code ({ cls := "PatchCords", name := "takeOut", desc := "(II)I" } : Jvm.MethodName) prog_1_method_27_code (4 : Nat) (Option.some Jvm.ClassFile.FieldType.int)) ∈ lw_all := lw_g (lw_at lw_m6 206 rfl) rfl
theorem q1507 : (Jvm.Cond.methodLink "PatchCords" (184 : Nat) ({ cls := "PatchCords$Panel", name := "takeOut", desc := "(II)I" } : Jvm.MethodName)) ∈ lw_all := lw_g (lw_at lw_m6 207 rfl) rfl
theorem q1515 : (Jvm.Cond.instanceMethod ({ cls := "PatchCords", name := "setMode", desc := "(I)I" } : Jvm.MethodName)) ∈ lw_all := lw_g (lw_at lw_m6 215 rfl) rfl
theorem q1516 : (Jvm.Cond.selects "PatchCords" ({ cls := "PatchCords", name := "setMode", desc := "(I)I" } : Jvm.MethodName) ({ cls := "PatchCords", name := "setMode", desc := "(I)I" } : Jvm.MethodName)) ∈ lw_all := lw_g (lw_at lw_m6 216 rfl) rfl
theorem q1517 : (Jvm.Cond.code ({ cls := "PatchCords", name := "setMode", desc := "(I)I" } : Jvm.MethodName) prog_1_method_28_code (3 : Nat) (Option.some Jvm.ClassFile.FieldType.int)) ∈ lw_all := lw_g (lw_at lw_m6 217 rfl) rfl
theorem q1518 : (Jvm.Cond.methodLink "PatchCords" (190 : Nat) ({ cls := "PatchCords$Panel", name := "setMode", desc := "(I)V" } : Jvm.MethodName)) ∈ lw_all := lw_g (lw_at lw_m6 218 rfl) rfl
theorem q1526 : (Jvm.Cond.instanceMethod ({ cls := "PatchCords", name := "setWay", desc := "(I)I" } : Jvm.MethodName)) ∈ lw_all := lw_g (lw_at lw_m6 226 rfl) rfl
theorem q1527 : (Jvm.Cond.selects "PatchCords" ({ cls := "PatchCords", name := "setWay", desc := "(I)I" } : Jvm.MethodName) ({ cls := "PatchCords", name := "setWay", desc := "(I)I" } : Jvm.MethodName)) ∈ lw_all := lw_g (lw_at lw_m6 227 rfl) rfl
theorem q1528 : (Jvm.Cond.code ({ cls := "PatchCords", name := "setWay", desc := "(I)I" } : Jvm.MethodName) prog_1_method_29_code (3 : Nat) (Option.some Jvm.ClassFile.FieldType.int)) ∈ lw_all := lw_g (lw_at lw_m6 228 rfl) rfl
theorem q1529 : (Jvm.Cond.methodLink "PatchCords" (202 : Nat) ({ cls := "PatchCords$Way", name := "values", desc := "()[LPatchCords$Way;" } : Jvm.MethodName)) ∈ lw_all := lw_g (lw_at lw_m6 229 rfl) rfl
theorem q1544 : (Jvm.Cond.instanceMethod ({ cls := "PatchCords", name := "record", desc := "(I)I" } : Jvm.MethodName)) ∈ lw_all := lw_g (lw_at lw_m7 4 rfl) rfl
theorem q1545 : (Jvm.Cond.selects "PatchCords" ({ cls := "PatchCords", name := "record", desc := "(I)I" } : Jvm.MethodName) ({ cls := "PatchCords", name := "record", desc := "(I)I" } : Jvm.MethodName)) ∈ lw_all := lw_g (lw_at lw_m7 5 rfl) rfl
theorem q1546 : (Jvm.Cond.code ({ cls := "PatchCords", name := "record", desc := "(I)I" } : Jvm.MethodName) prog_1_method_31_code (3 : Nat) (Option.some Jvm.ClassFile.FieldType.int)) ∈ lw_all := lw_g (lw_at lw_m7 6 rfl) rfl
theorem q1547 : (Jvm.Cond.methodLink "PatchCords" (213 : Nat) ({ cls := "PatchCords$Panel", name := "setRecorder", desc := "(I)V" } : Jvm.MethodName)) ∈ lw_all := lw_g (lw_at lw_m7 7 rfl) rfl
theorem q1555 : (Jvm.Cond.instanceMethod ({ cls := "PatchCords", name := "pass", desc := "(I)I" } : Jvm.MethodName)) ∈ lw_all := lw_g (lw_at lw_m7 15 rfl) rfl
theorem q1556 : (Jvm.Cond.selects "PatchCords" ({ cls := "PatchCords", name := "pass", desc := "(I)I" } : Jvm.MethodName) ({ cls := "PatchCords", name := "pass", desc := "(I)I" } : Jvm.MethodName)) ∈ lw_all := lw_g (lw_at lw_m7 16 rfl) rfl
theorem q1557 : (Jvm.Cond.code ({ cls := "PatchCords", name := "pass", desc := "(I)I" } : Jvm.MethodName) prog_1_method_33_code (2 : Nat) (Option.some Jvm.ClassFile.FieldType.int)) ∈ lw_all := lw_g (lw_at lw_m7 17 rfl) rfl
theorem q1558 : (Jvm.Cond.methodLink "PatchCords" (220 : Nat) ({ cls := "PatchCords", name := "canPass", desc := "(I)Z" } : Jvm.MethodName)) ∈ lw_all := lw_g (lw_at lw_m7 18 rfl) rfl
theorem q1559 : (Jvm.Cond.privateMethod ({ cls := "PatchCords", name := "canPass", desc := "(I)Z" } : Jvm.MethodName)) ∈ lw_tbl := lw_at lw_m7 19 rfl
theorem q1560 : (Jvm.Cond.instanceMethod ({ cls := "PatchCords", name := "canPass", desc := "(I)Z" } : Jvm.MethodName)) ∈ lw_all := lw_g (lw_at lw_m7 20 rfl) rfl
theorem q1561 : (Jvm.Cond.code ({ cls := "PatchCords", name := "canPass", desc := "(I)Z" } : Jvm.MethodName) prog_1_method_32_code (2 : Nat) (Option.some Jvm.ClassFile.FieldType.boolean)) ∈ lw_all := lw_g (lw_at lw_m7 21 rfl) rfl
theorem q1562 : (Jvm.Cond.constant "PatchCords" (219 : Nat) (99999 : Int32)) ∈ lw_all := lw_g (lw_at lw_m7 22 rfl) rfl
theorem q1567 : (Jvm.Cond.instanceMethod ({ cls := "PatchCords", name := "kindOf", desc := "(I)I" } : Jvm.MethodName)) ∈ lw_all := lw_g (lw_at lw_m7 27 rfl) rfl
theorem q1568 : (Jvm.Cond.selects "PatchCords" ({ cls := "PatchCords", name := "kindOf", desc := "(I)I" } : Jvm.MethodName) ({ cls := "PatchCords", name := "kindOf", desc := "(I)I" } : Jvm.MethodName)) ∈ lw_all := lw_g (lw_at lw_m7 28 rfl) rfl
theorem q1569 : (Jvm.Cond.code ({ cls := "PatchCords", name := "kindOf", desc := "(I)I" } : Jvm.MethodName) prog_1_method_35_code (2 : Nat) (Option.some Jvm.ClassFile.FieldType.int)) ∈ lw_all := lw_g (lw_at lw_m7 29 rfl) rfl
theorem q1574 : (Jvm.Cond.instanceMethod ({ cls := "PatchCords", name := "inputsOf", desc := "(I)I" } : Jvm.MethodName)) ∈ lw_all := lw_g (lw_at lw_m7 34 rfl) rfl
theorem q1575 : (Jvm.Cond.selects "PatchCords" ({ cls := "PatchCords", name := "inputsOf", desc := "(I)I" } : Jvm.MethodName) ({ cls := "PatchCords", name := "inputsOf", desc := "(I)I" } : Jvm.MethodName)) ∈ lw_all := lw_g (lw_at lw_m7 35 rfl) rfl
theorem q1576 : (Jvm.Cond.code ({ cls := "PatchCords", name := "inputsOf", desc := "(I)I" } : Jvm.MethodName) prog_1_method_36_code (2 : Nat) (Option.some Jvm.ClassFile.FieldType.int)) ∈ lw_all := lw_g (lw_at lw_m7 36 rfl) rfl
theorem q1581 : (Jvm.Cond.instanceMethod ({ cls := "PatchCords", name := "cordIn", desc := "(II)I" } : Jvm.MethodName)) ∈ lw_all := lw_g (lw_at lw_m7 41 rfl) rfl
theorem q1582 : (Jvm.Cond.selects "PatchCords" ({ cls := "PatchCords", name := "cordIn", desc := "(II)I" } : Jvm.MethodName) ({ cls := "PatchCords", name := "cordIn", desc := "(II)I" } : Jvm.MethodName)) ∈ lw_all := lw_g (lw_at lw_m7 42 rfl) rfl
theorem q1583 : (Jvm.Cond.code ({ cls := "PatchCords", name := "cordIn", desc := "(II)I" } : Jvm.MethodName) prog_1_method_37_code (3 : Nat) (Option.some Jvm.ClassFile.FieldType.int)) ∈ lw_all := lw_g (lw_at lw_m7 43 rfl) rfl
theorem q1588 : (Jvm.Cond.instanceMethod ({ cls := "PatchCords", name := "weightOf", desc := "(II)I" } : Jvm.MethodName)) ∈ lw_all := lw_g (lw_at lw_m7 48 rfl) rfl
theorem q1589 : (Jvm.Cond.selects "PatchCords" ({ cls := "PatchCords", name := "weightOf", desc := "(II)I" } : Jvm.MethodName) ({ cls := "PatchCords", name := "weightOf", desc := "(II)I" } : Jvm.MethodName)) ∈ lw_all := lw_g (lw_at lw_m7 49 rfl) rfl
theorem q1590 : (Jvm.Cond.code ({ cls := "PatchCords", name := "weightOf", desc := "(II)I" } : Jvm.MethodName) prog_1_method_38_code (3 : Nat) (Option.some Jvm.ClassFile.FieldType.int)) ∈ lw_all := lw_g (lw_at lw_m7 50 rfl) rfl
theorem q1595 : (Jvm.Cond.instanceMethod ({ cls := "PatchCords", name := "settingOf", desc := "(I)I" } : Jvm.MethodName)) ∈ lw_all := lw_g (lw_at lw_m7 55 rfl) rfl
theorem q1596 : (Jvm.Cond.selects "PatchCords" ({ cls := "PatchCords", name := "settingOf", desc := "(I)I" } : Jvm.MethodName) ({ cls := "PatchCords", name := "settingOf", desc := "(I)I" } : Jvm.MethodName)) ∈ lw_all := lw_g (lw_at lw_m7 56 rfl) rfl
theorem q1597 : (Jvm.Cond.code ({ cls := "PatchCords", name := "settingOf", desc := "(I)I" } : Jvm.MethodName) prog_1_method_39_code (2 : Nat) (Option.some Jvm.ClassFile.FieldType.int)) ∈ lw_all := lw_g (lw_at lw_m7 57 rfl) rfl
theorem q1602 : (Jvm.Cond.instanceMethod ({ cls := "PatchCords", name := "speedOf", desc := "(I)I" } : Jvm.MethodName)) ∈ lw_all := lw_g (lw_at lw_m7 62 rfl) rfl
theorem q1603 : (Jvm.Cond.selects "PatchCords" ({ cls := "PatchCords", name := "speedOf", desc := "(I)I" } : Jvm.MethodName) ({ cls := "PatchCords", name := "speedOf", desc := "(I)I" } : Jvm.MethodName)) ∈ lw_all := lw_g (lw_at lw_m7 63 rfl) rfl
theorem q1604 : (Jvm.Cond.code ({ cls := "PatchCords", name := "speedOf", desc := "(I)I" } : Jvm.MethodName) prog_1_method_40_code (2 : Nat) (Option.some Jvm.ClassFile.FieldType.int)) ∈ lw_all := lw_g (lw_at lw_m7 64 rfl) rfl
theorem q1609 : (Jvm.Cond.instanceMethod ({ cls := "PatchCords", name := "outputOf", desc := "(I)I" } : Jvm.MethodName)) ∈ lw_all := lw_g (lw_at lw_m7 69 rfl) rfl
theorem q1610 : (Jvm.Cond.selects "PatchCords" ({ cls := "PatchCords", name := "outputOf", desc := "(I)I" } : Jvm.MethodName) ({ cls := "PatchCords", name := "outputOf", desc := "(I)I" } : Jvm.MethodName)) ∈ lw_all := lw_g (lw_at lw_m7 70 rfl) rfl
theorem q1611 : (Jvm.Cond.code ({ cls := "PatchCords", name := "outputOf", desc := "(I)I" } : Jvm.MethodName) prog_1_method_46_code (2 : Nat) (Option.some Jvm.ClassFile.FieldType.int)) ∈ lw_all := lw_g (lw_at lw_m7 71 rfl) rfl
theorem q1612 : (Jvm.Cond.methodLink "PatchCords" (236 : Nat) ({ cls := "PatchCords$Panel", name := "output", desc := "(I)I" } : Jvm.MethodName)) ∈ lw_all := lw_g (lw_at lw_m7 72 rfl) rfl
theorem q1620 : (Jvm.Cond.instanceMethod ({ cls := "PatchCords", name := "outputByAsking", desc := "(I)I" } : Jvm.MethodName)) ∈ lw_all := lw_g (lw_at lw_m7 80 rfl) rfl
theorem q1621 : (Jvm.Cond.selects "PatchCords" ({ cls := "PatchCords", name := "outputByAsking", desc := "(I)I" } : Jvm.MethodName) ({ cls := "PatchCords", name := "outputByAsking", desc := "(I)I" } : Jvm.MethodName)) ∈ lw_all := lw_g (lw_at lw_m7 81 rfl) rfl
theorem q1622 : (Jvm.Cond.code ({ cls := "PatchCords", name := "outputByAsking", desc := "(I)I" } : Jvm.MethodName) prog_1_method_47_code (2 : Nat) (Option.some Jvm.ClassFile.FieldType.int)) ∈ lw_all := lw_g (lw_at lw_m7 82 rfl) rfl
theorem q1623 : (Jvm.Cond.methodLink "PatchCords" (239 : Nat) ({ cls := "PatchCords$Panel", name := "outputByAsking", desc := "(I)I" } : Jvm.MethodName)) ∈ lw_all := lw_g (lw_at lw_m7 83 rfl) rfl
theorem q1636 : (Jvm.Cond.instanceMethod ({ cls := "PatchCords", name := "inputOf", desc := "(II)I" } : Jvm.MethodName)) ∈ lw_all := lw_g (lw_at lw_m7 96 rfl) rfl
theorem q1637 : (Jvm.Cond.selects "PatchCords" ({ cls := "PatchCords", name := "inputOf", desc := "(II)I" } : Jvm.MethodName) ({ cls := "PatchCords", name := "inputOf", desc := "(II)I" } : Jvm.MethodName)) ∈ lw_all := lw_g (lw_at lw_m7 97 rfl) rfl
theorem q1638 : (Jvm.Cond.code ({ cls := "PatchCords", name := "inputOf", desc := "(II)I" } : Jvm.MethodName) prog_1_method_48_code (3 : Nat) (Option.some Jvm.ClassFile.FieldType.int)) ∈ lw_all := lw_g (lw_at lw_m7 98 rfl) rfl
theorem q1639 : (Jvm.Cond.methodLink "PatchCords" (242 : Nat) ({ cls := "PatchCords$Panel", name := "input", desc := "(II)I" } : Jvm.MethodName)) ∈ lw_all := lw_g (lw_at lw_m7 99 rfl) rfl
theorem q1647 : (Jvm.Cond.instanceMethod ({ cls := "PatchCords", name := "chargeOf", desc := "(I)I" } : Jvm.MethodName)) ∈ lw_all := lw_g (lw_at lw_m7 107 rfl) rfl
theorem q1648 : (Jvm.Cond.selects "PatchCords" ({ cls := "PatchCords", name := "chargeOf", desc := "(I)I" } : Jvm.MethodName) ({ cls := "PatchCords", name := "chargeOf", desc := "(I)I" } : Jvm.MethodName)) ∈ lw_all := lw_g (lw_at lw_m7 108 rfl) rfl
theorem q1649 : (Jvm.Cond.code ({ cls := "PatchCords", name := "chargeOf", desc := "(I)I" } : Jvm.MethodName) prog_1_method_49_code (2 : Nat) (Option.some Jvm.ClassFile.FieldType.int)) ∈ lw_all := lw_g (lw_at lw_m7 109 rfl) rfl
theorem q1654 : (Jvm.Cond.instanceMethod ({ cls := "PatchCords", name := "rateOf", desc := "(I)I" } : Jvm.MethodName)) ∈ lw_all := lw_g (lw_at lw_m7 114 rfl) rfl
theorem q1655 : (Jvm.Cond.selects "PatchCords" ({ cls := "PatchCords", name := "rateOf", desc := "(I)I" } : Jvm.MethodName) ({ cls := "PatchCords", name := "rateOf", desc := "(I)I" } : Jvm.MethodName)) ∈ lw_all := lw_g (lw_at lw_m7 115 rfl) rfl
theorem q1656 : (Jvm.Cond.code ({ cls := "PatchCords", name := "rateOf", desc := "(I)I" } : Jvm.MethodName) prog_1_method_50_code (2 : Nat) (Option.some Jvm.ClassFile.FieldType.int)) ∈ lw_all := lw_g (lw_at lw_m7 116 rfl) rfl
theorem q1661 : (Jvm.Cond.instanceMethod ({ cls := "PatchCords", name := "peakOf", desc := "(I)I" } : Jvm.MethodName)) ∈ lw_all := lw_g (lw_at lw_m7 121 rfl) rfl
theorem q1662 : (Jvm.Cond.selects "PatchCords" ({ cls := "PatchCords", name := "peakOf", desc := "(I)I" } : Jvm.MethodName) ({ cls := "PatchCords", name := "peakOf", desc := "(I)I" } : Jvm.MethodName)) ∈ lw_all := lw_g (lw_at lw_m7 122 rfl) rfl
theorem q1663 : (Jvm.Cond.code ({ cls := "PatchCords", name := "peakOf", desc := "(I)I" } : Jvm.MethodName) prog_1_method_52_code (2 : Nat) (Option.some Jvm.ClassFile.FieldType.int)) ∈ lw_all := lw_g (lw_at lw_m7 123 rfl) rfl
theorem q1668 : (Jvm.Cond.instanceMethod ({ cls := "PatchCords", name := "scaleOf", desc := "(I)I" } : Jvm.MethodName)) ∈ lw_all := lw_g (lw_at lw_m7 128 rfl) rfl
theorem q1669 : (Jvm.Cond.selects "PatchCords" ({ cls := "PatchCords", name := "scaleOf", desc := "(I)I" } : Jvm.MethodName) ({ cls := "PatchCords", name := "scaleOf", desc := "(I)I" } : Jvm.MethodName)) ∈ lw_all := lw_g (lw_at lw_m7 129 rfl) rfl
theorem q1670 : (Jvm.Cond.code ({ cls := "PatchCords", name := "scaleOf", desc := "(I)I" } : Jvm.MethodName) prog_1_method_54_code (2 : Nat) (Option.some Jvm.ClassFile.FieldType.int)) ∈ lw_all := lw_g (lw_at lw_m7 130 rfl) rfl
theorem q1675 : (Jvm.Cond.instanceMethod ({ cls := "PatchCords", name := "levelOf", desc := "(I)I" } : Jvm.MethodName)) ∈ lw_all := lw_g (lw_at lw_m7 135 rfl) rfl
theorem q1676 : (Jvm.Cond.selects "PatchCords" ({ cls := "PatchCords", name := "levelOf", desc := "(I)I" } : Jvm.MethodName) ({ cls := "PatchCords", name := "levelOf", desc := "(I)I" } : Jvm.MethodName)) ∈ lw_all := lw_g (lw_at lw_m7 136 rfl) rfl
theorem q1677 : (Jvm.Cond.code ({ cls := "PatchCords", name := "levelOf", desc := "(I)I" } : Jvm.MethodName) prog_1_method_55_code (2 : Nat) (Option.some Jvm.ClassFile.FieldType.int)) ∈ lw_all := lw_g (lw_at lw_m7 137 rfl) rfl
theorem q1682 : (Jvm.Cond.instanceMethod ({ cls := "PatchCords", name := "feeders", desc := "(I)I" } : Jvm.MethodName)) ∈ lw_all := lw_g (lw_at lw_m7 142 rfl) rfl
theorem q1683 : (Jvm.Cond.selects "PatchCords" ({ cls := "PatchCords", name := "feeders", desc := "(I)I" } : Jvm.MethodName) ({ cls := "PatchCords", name := "feeders", desc := "(I)I" } : Jvm.MethodName)) ∈ lw_all := lw_g (lw_at lw_m7 143 rfl) rfl
theorem q1684 : (Jvm.Cond.code ({ cls := "PatchCords", name := "feeders", desc := "(I)I" } : Jvm.MethodName) prog_1_method_56_code (2 : Nat) (Option.some Jvm.ClassFile.FieldType.int)) ∈ lw_all := lw_g (lw_at lw_m7 144 rfl) rfl
theorem q1685 : (Jvm.Cond.methodLink "PatchCords" (266 : Nat) ({ cls := "PatchCords$Part", name := "feeders", desc := "()I" } : Jvm.MethodName)) ∈ lw_all := lw_g (lw_at lw_m7 145 rfl) rfl
theorem q1690 : (Jvm.Cond.instanceMethod ({ cls := "PatchCords", name := "dependsOn", desc := "(I)I" } : Jvm.MethodName)) ∈ lw_all := lw_g (lw_at lw_m7 150 rfl) rfl
theorem q1691 : (Jvm.Cond.selects "PatchCords" ({ cls := "PatchCords", name := "dependsOn", desc := "(I)I" } : Jvm.MethodName) ({ cls := "PatchCords", name := "dependsOn", desc := "(I)I" } : Jvm.MethodName)) ∈ lw_all := lw_g (lw_at lw_m7 151 rfl) rfl
theorem q1692 : (Jvm.Cond.code ({ cls := "PatchCords", name := "dependsOn", desc := "(I)I" } : Jvm.MethodName) prog_1_method_57_code (2 : Nat) (Option.some Jvm.ClassFile.FieldType.int)) ∈ lw_all := lw_g (lw_at lw_m7 152 rfl) rfl
theorem q1697 : (Jvm.Cond.instanceMethod ({ cls := "PatchCords", name := "dependsByTable", desc := "(I)I" } : Jvm.MethodName)) ∈ lw_all := lw_g (lw_at lw_m7 157 rfl) rfl
theorem q1698 : (Jvm.Cond.selects "PatchCords" ({ cls := "PatchCords", name := "dependsByTable", desc := "(I)I" } : Jvm.MethodName) ({ cls := "PatchCords", name := "dependsByTable", desc := "(I)I" } : Jvm.MethodName)) ∈ lw_all := lw_g (lw_at lw_m7 158 rfl) rfl
theorem q1699 : (Jvm.Cond.code ({ cls := "PatchCords", name := "dependsByTable", desc := "(I)I" } : Jvm.MethodName) prog_1_method_58_code (2 : Nat) (Option.some Jvm.ClassFile.FieldType.int)) ∈ lw_all := lw_g (lw_at lw_m7 159 rfl) rfl
theorem q1700 : (Jvm.Cond.methodLink "PatchCords" (272 : Nat) ({ cls := "PatchCords$Panel", name := "dependsByTable", desc := "(I)I" } : Jvm.MethodName)) ∈ lw_all := lw_g (lw_at lw_m7 160 rfl) rfl
theorem q1708 : (Jvm.Cond.instanceMethod ({ cls := "PatchCords", name := "recordAt", desc := "(I)I" } : Jvm.MethodName)) ∈ lw_all := lw_g (lw_at lw_m7 168 rfl) rfl
theorem q1709 : (Jvm.Cond.selects "PatchCords" ({ cls := "PatchCords", name := "recordAt", desc := "(I)I" } : Jvm.MethodName) ({ cls := "PatchCords", name := "recordAt", desc := "(I)I" } : Jvm.MethodName)) ∈ lw_all := lw_g (lw_at lw_m7 169 rfl) rfl
theorem q1710 : (Jvm.Cond.code ({ cls := "PatchCords", name := "recordAt", desc := "(I)I" } : Jvm.MethodName) prog_1_method_63_code (2 : Nat) (Option.some Jvm.ClassFile.FieldType.int)) ∈ lw_all := lw_g (lw_at lw_m7 170 rfl) rfl
theorem q1715 : (Jvm.Cond.instanceMethod ({ cls := "PatchCords", name := "wouldCircle", desc := "(II)Z" } : Jvm.MethodName)) ∈ lw_all := lw_g (lw_at lw_m7 175 rfl) rfl
theorem q1716 : (Jvm.Cond.selects "PatchCords" ({ cls := "PatchCords", name := "wouldCircle", desc := "(II)Z" } : Jvm.MethodName) ({ cls := "PatchCords", name := "wouldCircle", desc := "(II)Z" } : Jvm.MethodName)) ∈ lw_all := lw_g (lw_at lw_m7 176 rfl) rfl
theorem q1717 : (Jvm.Cond.code ({ cls := "PatchCords", name := "wouldCircle", desc := "(II)Z" } : Jvm.MethodName) prog_1_method_67_code (3 : Nat) (Option.some Jvm.ClassFile.FieldType.boolean)) ∈ lw_all := lw_g (lw_at lw_m7 177 rfl) rfl
theorem q1722 : (Jvm.Cond.instanceMethod ({ cls := "PatchCords", name := "outputIn", desc := "(II)I" } : Jvm.MethodName)) ∈ lw_all := lw_g (lw_at lw_m7 182 rfl) rfl
theorem q1723 : (Jvm.Cond.selects "PatchCords" ({ cls := "PatchCords", name := "outputIn", desc := "(II)I" } : Jvm.MethodName) ({ cls := "PatchCords", name := "outputIn", desc := "(II)I" } : Jvm.MethodName)) ∈ lw_all := lw_g (lw_at lw_m7 183 rfl) rfl
theorem q1724 : (Jvm.Cond.code ({ cls := "PatchCords", name := "outputIn", desc := "(II)I" } : Jvm.MethodName) prog_1_method_68_code (4 : Nat) (Option.some Jvm.ClassFile.FieldType.int)) ∈ lw_all := lw_g (lw_at lw_m7 184 rfl) rfl
theorem q1729 : (Jvm.Cond.instanceMethod ({ cls := "PatchCords", name := "bestFactor", desc := "(III)I" } : Jvm.MethodName)) ∈ lw_all := lw_g (lw_at lw_m7 189 rfl) rfl
theorem q1730 : (Jvm.Cond.selects "PatchCords" ({ cls := "PatchCords", name := "bestFactor", desc := "(III)I" } : Jvm.MethodName) ({ cls := "PatchCords", name := "bestFactor", desc := "(III)I" } : Jvm.MethodName)) ∈ lw_all := lw_g (lw_at lw_m7 190 rfl) rfl
theorem q1731 : (Jvm.Cond.code ({ cls := "PatchCords", name := "bestFactor", desc := "(III)I" } : Jvm.MethodName) prog_1_method_70_code (4 : Nat) (Option.some Jvm.ClassFile.FieldType.int)) ∈ lw_all := lw_g (lw_at lw_m7 191 rfl) rfl
theorem q1732 : (Jvm.Cond.methodLink "PatchCords" (303 : Nat) ({ cls := "PatchCords$Panel", name := "bestFactor", desc := "(III)I" } : Jvm.MethodName)) ∈ lw_all := lw_g (lw_at lw_m7 192 rfl) rfl
theorem q1743 : (Jvm.Cond.instanceMethod ({ cls := "PatchCords", name := "goBack", desc := "()I" } : Jvm.MethodName)) ∈ lw_all := lw_g (lw_at lw_m7 203 rfl) rfl
theorem q1744 : (Jvm.Cond.selects "PatchCords" ({ cls := "PatchCords", name := "goBack", desc := "()I" } : Jvm.MethodName) ({ cls := "PatchCords", name := "goBack", desc := "()I" } : Jvm.MethodName)) ∈ lw_all := lw_g (lw_at lw_m7 204 rfl) rfl
theorem q1745 : (Jvm.Cond.code ({ cls := "PatchCords", name := "goBack", desc := "()I" } : Jvm.MethodName) prog_1_method_14_code (1 : Nat) (Option.some Jvm.ClassFile.FieldType.int)) ∈ lw_all := lw_g (lw_at lw_m7 205 rfl) rfl
theorem q1750 : (Jvm.Cond.instanceMethod ({ cls := "PatchCords", name := "append", desc := "(I)I" } : Jvm.MethodName)) ∈ lw_all := lw_g (lw_at lw_m7 210 rfl) rfl
theorem q1751 : (Jvm.Cond.selects "PatchCords" ({ cls := "PatchCords", name := "append", desc := "(I)I" } : Jvm.MethodName) ({ cls := "PatchCords", name := "append", desc := "(I)I" } : Jvm.MethodName)) ∈ lw_all := lw_g (lw_at lw_m7 211 rfl) rfl
theorem q1752 : (Jvm.Cond.code ({ cls := "PatchCords", name := "append", desc := "(I)I" } : Jvm.MethodName) prog_1_method_71_code (2 : Nat) (Option.some Jvm.ClassFile.FieldType.int)) ∈ lw_all := lw_g (lw_at lw_m7 212 rfl) rfl
theorem q1753 : (Jvm.Cond.methodLink "PatchCords" (309 : Nat) ({ cls := "java/lang/StringBuilder", name := "append", desc := "(C)Ljava/lang/StringBuilder;" } : Jvm.MethodName)) ∈ lw_all := lw_g (lw_at lw_m7 213 rfl) rfl
theorem q1774 : (Jvm.Cond.instanceMethod ({ cls := "PatchCords", name := "patch", desc := "()I" } : Jvm.MethodName)) ∈ lw_all := lw_g (lw_at lw_m7 234 rfl) rfl
theorem q1775 : (Jvm.Cond.selects "PatchCords" ({ cls := "PatchCords", name := "patch", desc := "()I" } : Jvm.MethodName) ({ cls := "PatchCords", name := "patch", desc := "()I" } : Jvm.MethodName)) ∈ lw_all := lw_g (lw_at lw_m7 235 rfl) rfl
theorem q1776 : (Jvm.Cond.code ({ cls := "PatchCords", name := "patch", desc := "()I" } : Jvm.MethodName) prog_1_method_77_code (4 : Nat) (Option.some Jvm.ClassFile.FieldType.int)) ∈ lw_all := lw_g (lw_at lw_m7 236 rfl) rfl
theorem q1777 : (Jvm.Cond.methodLink "PatchCords" (344 : Nat) ({ cls := "java/util/ArrayList", name := "get", desc := "(I)Ljava/lang/Object;" } : Jvm.MethodName)) ∈ lw_all := lw_g (lw_at lw_m7 237 rfl) rfl
theorem q1778 : (Jvm.Cond.classLink "PatchCords" (325 : Nat) "PatchCords$Item") ∈ lw_all := lw_g (lw_at lw_m7 238 rfl) rfl
theorem q1779 : (Jvm.Cond.methodLink "PatchCords" (347 : Nat) ({ cls := "PatchCords", name := "isPossible", desc := "(LPatchCords$Item;)Z" } : Jvm.MethodName)) ∈ lw_all := lw_g (lw_at lw_m7 239 rfl) rfl
theorem q1780 : (Jvm.Cond.privateMethod ({ cls := "PatchCords", name := "isPossible", desc := "(LPatchCords$Item;)Z" } : Jvm.MethodName)) ∈ lw_tbl := lw_at lw_m8 0 rfl
theorem q1781 : (Jvm.Cond.instanceMethod ({ cls := "PatchCords", name := "isPossible", desc := "(LPatchCords$Item;)Z" } : Jvm.MethodName)) ∈ lw_all := lw_g (lw_at lw_m8 1 rfl) rfl
theorem q1782 : (Jvm.Cond.code ({ cls := "PatchCords", name := "isPossible", desc := "(LPatchCords$Item;)Z" } : Jvm.MethodName) prog_1_method_75_code (2 : Nat) (Option.some Jvm.ClassFile.FieldType.boolean)) ∈ lw_all := lw_g (lw_at lw_m8 2 rfl) rfl
theorem q1783 : (Jvm.Cond.methodLink "PatchCords" (335 : Nat) ({ cls := "PatchCords", name := "hasInput", desc := "(II)Z" } : Jvm.MethodName)) ∈ lw_all := lw_g (lw_at lw_m8 3 rfl) rfl
theorem q1784 : (Jvm.Cond.privateMethod ({ cls := "PatchCords", name := "hasInput", desc := "(II)Z" } : Jvm.MethodName)) ∈ lw_tbl := lw_at lw_m8 4 rfl
theorem q1785 : (Jvm.Cond.instanceMethod ({ cls := "PatchCords", name := "hasInput", desc := "(II)Z" } : Jvm.MethodName)) ∈ lw_all := lw_g (lw_at lw_m8 5 rfl) rfl
theorem q1786 : (Jvm.Cond.code ({ cls := "PatchCords", name := "hasInput", desc := "(II)Z" } : Jvm.MethodName) prog_1_method_74_code (3 : Nat) (Option.some Jvm.ClassFile.FieldType.boolean)) ∈ lw_all := lw_g (lw_at lw_m8 6 rfl) rfl
theorem q1787 : (Jvm.Cond.methodLink "PatchCords" (351 : Nat) ({ cls := "PatchCords", name := "happen", desc := "(LPatchCords$Item;)V" } : Jvm.MethodName)) ∈ lw_all := lw_g (lw_at lw_m8 7 rfl) rfl
theorem q1788 : (Jvm.Cond.privateMethod ({ cls := "PatchCords", name := "happen", desc := "(LPatchCords$Item;)V" } : Jvm.MethodName)) ∈ lw_tbl := lw_at lw_m8 8 rfl
theorem q1789 : (Jvm.Cond.instanceMethod ({ cls := "PatchCords", name := "happen", desc := "(LPatchCords$Item;)V" } : Jvm.MethodName)) ∈ lw_all := lw_g (lw_at lw_m8 9 rfl) rfl
theorem q1790 : (Jvm.Cond.code ({ cls := "PatchCords", name := "happen", desc := "(LPatchCords$Item;)V" } : Jvm.MethodName) prog_1_method_76_code (2 : Nat) (Option.none : Option Jvm.ClassFile.FieldType)) ∈ lw_all := lw_g (lw_at lw_m8 10 rfl) rfl
theorem q1795 : (Jvm.Cond.instanceMethod ({ cls := "PatchCords", name := "undo", desc := "()I" } : Jvm.MethodName)) ∈ lw_all := lw_g (lw_at lw_m8 15 rfl) rfl
theorem q1796 : (Jvm.Cond.selects "PatchCords" ({ cls := "PatchCords", name := "undo", desc := "()I" } : Jvm.MethodName) ({ cls := "PatchCords", name := "undo", desc := "()I" } : Jvm.MethodName)) ∈ lw_all := lw_g (lw_at lw_m8 16 rfl) rfl
theorem q1797 : (Jvm.Cond.code ({ cls := "PatchCords", name := "undo", desc := "()I" } : Jvm.MethodName) prog_1_method_12_code (1 : Nat) (Option.some Jvm.ClassFile.FieldType.int)) ∈ lw_all := lw_g (lw_at lw_m8 17 rfl) rfl
theorem q1798 : (Jvm.Cond.methodLink "PatchCords" (92 : Nat) ({ cls := "java/util/ArrayList", name := "isEmpty", desc := "()Z" } : Jvm.MethodName)) ∈ lw_all := lw_g (lw_at lw_m8 18 rfl) rfl
theorem q2400 : (Jvm.Cond.castable "PatchCords" "java/lang/Object") ∈ lw_tbl := lw_at lw_m10 140 rfl
theorem in_X1 : ∀ w ∈ wsX10, w ∈ lw_all := lw_in wsX10 [277, 279, 281, 283] (by decide +kernel) (by decide +kernel)
/-! PatchCords$Way -/
set_option maxRecDepth 100000
def RX3 : String := "PatchCords$Way"
abbrev cX3_values : ByteArray := prog_12_method_1_code
def yX3_values : MethodName := ⟨RX3, "values", "()[LPatchCords$Way;"⟩
def dkwX3_values_0 : List UInt8 := [178, 0, 10, 182, 0, 14, 192, 0, 15, 176]
abbrev dktX3_values_0 : List UInt8 := dkwX3_values_0 ++ []
theorem dksX3_values_0 : cX3_values.data.toList.drop 0 = dktX3_values_0 := by decide +kernel
theorem dX3_values_0 : decode cX3_values 0 = .ok (.getstatic 10, 3) := dk_178 0 10 (dk_at dksX3_values_0 0 rfl rfl)
theorem dX3_values_3 : decode cX3_values 3 = .ok (.invokevirtual 14, 3) := dk_182 0 14 (dk_at dksX3_values_0 3 rfl rfl)
theorem dX3_values_6 : decode cX3_values 6 = .ok (.checkcast 15, 3) := dk_192 0 15 (dk_at dksX3_values_0 6 rfl rfl)
theorem dX3_values_9 : decode cX3_values 9 = .ok (.areturn, 1) := dk_176 (dk_at dksX3_values_0 9 rfl rfl)
theorem q107 : (Jvm.Cond.initialized "PatchCords$Way") ∈ lw_all := lw_g (lw_at lw_m1 7 rfl) rfl
theorem q182 : (Jvm.Cond.laysStatic "PatchCords$Way" "AT_ONCE" "LPatchCords$Way;") ∈ lw_tbl := lw_at lw_m1 82 rfl
theorem q575 : (Jvm.Cond.sameMethod "PatchCords$Way" "java/lang/Enum" "ordinal" "()I") ∈ lw_all := lw_g (lw_at lw_m2 235 rfl) rfl
theorem q741 : (Jvm.Cond.declares ({ cls := "PatchCords$Way", name := "step", desc := "(LPatchCords$Panel;)V" } : Jvm.MethodName)) ∈ lw_tbl := lw_at lw_m3 161 rfl
theorem q742 : (Jvm.Cond.sameMethod "PatchCords$Way" "PatchCords$Way" "step" "(LPatchCords$Panel;)V") ∈ lw_all := lw_g (lw_at lw_m3 162 rfl) rfl
theorem q1530 : (Jvm.Cond.static ({ cls := "PatchCords$Way", name := "values", desc := "()[LPatchCords$Way;" } : Jvm.MethodName)) ∈ lw_all := lw_g (lw_at lw_m6 230 rfl) rfl
theorem q1531 : (Jvm.Cond.code ({ cls := "PatchCords$Way", name := "values", desc := "()[LPatchCords$Way;" } : Jvm.MethodName) prog_12_method_1_code (0 : Nat) (Option.some (Jvm.ClassFile.FieldType.array (Jvm.ClassFile.FieldType.object "PatchCords$Way")))) ∈ lw_all := lw_g (lw_at lw_m6 231 rfl) rfl
theorem q1532 : (Jvm.Cond.fieldLink "PatchCords$Way" (10 : Nat) "PatchCords$Way" "$VALUES" "[LPatchCords$Way;") ∈ lw_all := lw_g (lw_at lw_m6 232 rfl) rfl
theorem q1533 : (Jvm.Cond.laysStatic "PatchCords$Way" "$VALUES" "[LPatchCords$Way;") ∈ lw_tbl := lw_at lw_m6 233 rfl
theorem q1534 : (Jvm.Cond.methodLink "PatchCords$Way" (14 : Nat) ({ cls := "[LPatchCords$Way;", name := "clone", desc := "()Ljava/lang/Object;" } : Jvm.MethodName)) ∈ lw_all := lw_g (lw_at lw_m6 234 rfl) rfl
theorem q1539 : (Jvm.Cond.classLink "PatchCords$Way" (15 : Nat) "[LPatchCords$Way;") ∈ lw_all := lw_g (lw_at lw_m6 239 rfl) rfl
theorem q2399 : (Jvm.Cond.castable "PatchCords$Way" "java/lang/Object") ∈ lw_tbl := lw_at lw_m10 139 rfl
theorem q2434 : (Jvm.Cond.laysStatic "PatchCords$Way" "BY_MIDDLES" "LPatchCords$Way;") ∈ lw_tbl := lw_at lw_m10 174 rfl
