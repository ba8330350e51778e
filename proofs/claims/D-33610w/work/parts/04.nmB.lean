/-! PatchCords$Panel -/
set_option maxRecDepth 100000
def RX2 : String := "PatchCords$Panel"
def TX2 : u_T := fun k => match k with
  | 0 => ("PatchCords$Panel", "parts", "Ljava/util/ArrayList;", true)
  | 1 => ("PatchCords$Panel", "order", "[I", true)
  | 2 => ("PatchCords$Panel", "outputs", "[I", true)
  | 3 => ("PatchCords$Panel", "in", "[I", true)
  | 4 => ("PatchCords$Panel", "records", "[I", true)
  | 5 => ("PatchCords$Panel", "way", "LPatchCords$Way;", false)
  | 6 => ("PatchCords$Panel", "guarded", "Z", false)
  | 7 => ("PatchCords$Panel", "mode", "I", false)
  | 8 => ("PatchCords$Panel", "steps", "I", false)
  | 9 => ("PatchCords$Panel", "recorded", "I", false)
  | 10 => ("PatchCords$Panel", "recordCount", "I", false)
  | 11 => ("PatchCords$Panel", "crossings", "I", false)
  | 12 => ("PatchCords$Panel", "latestCrossing", "I", false)
  | _ => ("PatchCords$Panel", "beat", "I", false)
def tyX2 : Nat → FieldType := fun k => match k with
  | 0 => .object "java/util/ArrayList"
  | 1 => .array .int
  | 2 => .array .int
  | 3 => .array .int
  | 4 => .array .int
  | 5 => .object "PatchCords$Way"
  | 6 => .boolean
  | 7 => .int
  | 8 => .int
  | 9 => .int
  | 10 => .int
  | 11 => .int
  | 12 => .int
  | _ => .int
abbrev wsX20 : List Cond := u_ws RX2 TX2 14
set_option maxRecDepth 100000 in
theorem nmX2 : ∀ a, a < 14 → ∀ b, b < 14 → a ≠ b → (TX2 a).2.1 ≠ (TX2 b).2.1 := by decide +kernel
set_option maxRecDepth 100000 in
theorem tyX2_ok : ∀ k, k < 14 → parseFieldDescriptor (TX2 k).2.2.1 = some (tyX2 k) := by decide +kernel
abbrev cX2_init : ByteArray := prog_5_method_1_code
def yX2_init : MethodName := ⟨RX2, "<init>", "()V"⟩
def dkwX2_init_2 : List UInt8 := [178, 0, 31, 181, 0, 37, 42, 2, 181, 0, 40, 42, 2, 181, 0, 44, 177]
abbrev dktX2_init_2 : List UInt8 := dkwX2_init_2 ++ []
def dkwX2_init_1 : List UInt8 := [16, 16, 188, 10, 181, 0, 22, 42, 7, 188, 10, 181, 0, 25, 42, 16, 24, 188, 10, 181, 0, 28, 42]
abbrev dktX2_init_1 : List UInt8 := dkwX2_init_1 ++ dktX2_init_2
def dkwX2_init_0 : List UInt8 := [42, 183, 0, 3, 42, 187, 0, 9, 89, 183, 0, 11, 181, 0, 12, 42, 16, 16, 188, 10, 181, 0, 18, 42]
abbrev dktX2_init_0 : List UInt8 := dkwX2_init_0 ++ dktX2_init_1
theorem dksX2_init_0 : cX2_init.data.toList.drop 0 = dktX2_init_0 := by decide +kernel
theorem dksX2_init_1 : cX2_init.data.toList.drop 24 = dktX2_init_1 := dk_seg dksX2_init_0 24 rfl rfl
theorem dksX2_init_2 : cX2_init.data.toList.drop 47 = dktX2_init_2 := dk_seg dksX2_init_1 23 rfl rfl
theorem dX2_init_0 : decode cX2_init 0 = .ok (.aload_n 0, 1) := dk_42 (dk_at dksX2_init_0 0 rfl rfl)
theorem dX2_init_1 : decode cX2_init 1 = .ok (.invokespecial 3, 3) := dk_183 0 3 (dk_at dksX2_init_0 1 rfl rfl)
theorem dX2_init_4 : decode cX2_init 4 = .ok (.aload_n 0, 1) := dk_42 (dk_at dksX2_init_0 4 rfl rfl)
theorem dX2_init_5 : decode cX2_init 5 = .ok (.new 9, 3) := dk_187 0 9 (dk_at dksX2_init_0 5 rfl rfl)
theorem dX2_init_8 : decode cX2_init 8 = .ok (.dup, 1) := dk_89 (dk_at dksX2_init_0 8 rfl rfl)
theorem dX2_init_9 : decode cX2_init 9 = .ok (.invokespecial 11, 3) := dk_183 0 11 (dk_at dksX2_init_0 9 rfl rfl)
theorem dX2_init_12 : decode cX2_init 12 = .ok (.putfield 12, 3) := dk_181 0 12 (dk_at dksX2_init_0 12 rfl rfl)
theorem dX2_init_15 : decode cX2_init 15 = .ok (.aload_n 0, 1) := dk_42 (dk_at dksX2_init_0 15 rfl rfl)
theorem dX2_init_16 : decode cX2_init 16 = .ok (.bipush 16, 2) := dk_16 16 (dk_at dksX2_init_0 16 rfl rfl)
theorem dX2_init_18 : decode cX2_init 18 = .ok (.newarray .int, 2) := dk_188_10 (dk_at dksX2_init_0 18 rfl rfl)
theorem dX2_init_20 : decode cX2_init 20 = .ok (.putfield 18, 3) := dk_181 0 18 (dk_at dksX2_init_0 20 rfl rfl)
theorem dX2_init_23 : decode cX2_init 23 = .ok (.aload_n 0, 1) := dk_42 (dk_at dksX2_init_0 23 rfl rfl)
theorem dX2_init_24 : decode cX2_init 24 = .ok (.bipush 16, 2) := dk_16 16 (dk_at dksX2_init_1 0 rfl rfl)
theorem dX2_init_26 : decode cX2_init 26 = .ok (.newarray .int, 2) := dk_188_10 (dk_at dksX2_init_1 2 rfl rfl)
theorem dX2_init_28 : decode cX2_init 28 = .ok (.putfield 22, 3) := dk_181 0 22 (dk_at dksX2_init_1 4 rfl rfl)
theorem dX2_init_31 : decode cX2_init 31 = .ok (.aload_n 0, 1) := dk_42 (dk_at dksX2_init_1 7 rfl rfl)
theorem dX2_init_32 : decode cX2_init 32 = .ok (.iconst 4, 1) := dk_7 (dk_at dksX2_init_1 8 rfl rfl)
theorem dX2_init_33 : decode cX2_init 33 = .ok (.newarray .int, 2) := dk_188_10 (dk_at dksX2_init_1 9 rfl rfl)
theorem dX2_init_35 : decode cX2_init 35 = .ok (.putfield 25, 3) := dk_181 0 25 (dk_at dksX2_init_1 11 rfl rfl)
theorem dX2_init_38 : decode cX2_init 38 = .ok (.aload_n 0, 1) := dk_42 (dk_at dksX2_init_1 14 rfl rfl)
theorem dX2_init_39 : decode cX2_init 39 = .ok (.bipush 24, 2) := dk_16 24 (dk_at dksX2_init_1 15 rfl rfl)
theorem dX2_init_41 : decode cX2_init 41 = .ok (.newarray .int, 2) := dk_188_10 (dk_at dksX2_init_1 17 rfl rfl)
theorem dX2_init_43 : decode cX2_init 43 = .ok (.putfield 28, 3) := dk_181 0 28 (dk_at dksX2_init_1 19 rfl rfl)
theorem dX2_init_46 : decode cX2_init 46 = .ok (.aload_n 0, 1) := dk_42 (dk_at dksX2_init_1 22 rfl rfl)
theorem dX2_init_47 : decode cX2_init 47 = .ok (.getstatic 31, 3) := dk_178 0 31 (dk_at dksX2_init_2 0 rfl rfl)
theorem dX2_init_50 : decode cX2_init 50 = .ok (.putfield 37, 3) := dk_181 0 37 (dk_at dksX2_init_2 3 rfl rfl)
theorem dX2_init_53 : decode cX2_init 53 = .ok (.aload_n 0, 1) := dk_42 (dk_at dksX2_init_2 6 rfl rfl)
theorem dX2_init_54 : decode cX2_init 54 = .ok (.iconst (-1), 1) := dk_2 (dk_at dksX2_init_2 7 rfl rfl)
theorem dX2_init_55 : decode cX2_init 55 = .ok (.putfield 40, 3) := dk_181 0 40 (dk_at dksX2_init_2 8 rfl rfl)
theorem dX2_init_58 : decode cX2_init 58 = .ok (.aload_n 0, 1) := dk_42 (dk_at dksX2_init_2 11 rfl rfl)
theorem dX2_init_59 : decode cX2_init 59 = .ok (.iconst (-1), 1) := dk_2 (dk_at dksX2_init_2 12 rfl rfl)
theorem dX2_init_60 : decode cX2_init 60 = .ok (.putfield 44, 3) := dk_181 0 44 (dk_at dksX2_init_2 13 rfl rfl)
theorem dX2_init_63 : decode cX2_init 63 = .ok (.return_, 1) := dk_177 (dk_at dksX2_init_2 16 rfl rfl)
abbrev cX2_copy : ByteArray := prog_5_method_2_code
def yX2_copy : MethodName := ⟨RX2, "copy", "()LPatchCords$Panel;"⟩
def dkwX2_copy_6 : List UInt8 := [180, 0, 79, 181, 0, 79, 43, 42, 180, 0, 82, 181, 0, 82, 43, 42, 180, 0, 44, 181, 0, 44, 43, 176]
abbrev dktX2_copy_6 : List UInt8 := dkwX2_copy_6 ++ []
def dkwX2_copy_5 : List UInt8 := [180, 0, 76, 181, 0, 76, 43, 42, 180, 0, 40, 181, 0, 40, 43, 42, 180, 0, 66, 181, 0, 66, 43, 42]
abbrev dktX2_copy_5 : List UInt8 := dkwX2_copy_5 ++ dktX2_copy_6
def dkwX2_copy_4 : List UInt8 := [180, 0, 37, 181, 0, 37, 43, 42, 180, 0, 69, 181, 0, 69, 43, 42, 180, 0, 73, 181, 0, 73, 43, 42]
abbrev dktX2_copy_4 : List UInt8 := dkwX2_copy_4 ++ dktX2_copy_5
def dkwX2_copy_3 : List UInt8 := [162, 0, 21, 43, 180, 0, 28, 29, 42, 180, 0, 28, 29, 46, 79, 132, 3, 1, 167, 255, 233, 43, 42]
abbrev dktX2_copy_3 : List UInt8 := dkwX2_copy_3 ++ dktX2_copy_4
def dkwX2_copy_2 : List UInt8 := [180, 0, 18, 29, 42, 180, 0, 18, 29, 46, 79, 132, 3, 1, 167, 255, 214, 3, 62, 29, 42, 180, 0, 66]
abbrev dktX2_copy_2 : List UInt8 := dkwX2_copy_2 ++ dktX2_copy_3
def dkwX2_copy_1 : List UInt8 := [180, 0, 12, 42, 180, 0, 12, 29, 182, 0, 52, 192, 0, 56, 182, 0, 58, 182, 0, 62, 87, 43]
abbrev dktX2_copy_1 : List UInt8 := dkwX2_copy_1 ++ dktX2_copy_2
def dkwX2_copy_0 : List UInt8 := [187, 0, 13, 89, 183, 0, 47, 76, 42, 180, 0, 12, 182, 0, 48, 61, 3, 62, 29, 28, 162, 0, 43, 43]
abbrev dktX2_copy_0 : List UInt8 := dkwX2_copy_0 ++ dktX2_copy_1
theorem dksX2_copy_0 : cX2_copy.data.toList.drop 0 = dktX2_copy_0 := by decide +kernel
theorem dksX2_copy_1 : cX2_copy.data.toList.drop 24 = dktX2_copy_1 := dk_seg dksX2_copy_0 24 rfl rfl
theorem dksX2_copy_2 : cX2_copy.data.toList.drop 46 = dktX2_copy_2 := dk_seg dksX2_copy_1 22 rfl rfl
theorem dksX2_copy_3 : cX2_copy.data.toList.drop 70 = dktX2_copy_3 := dk_seg dksX2_copy_2 24 rfl rfl
theorem dksX2_copy_4 : cX2_copy.data.toList.drop 93 = dktX2_copy_4 := dk_seg dksX2_copy_3 23 rfl rfl
theorem dksX2_copy_5 : cX2_copy.data.toList.drop 117 = dktX2_copy_5 := dk_seg dksX2_copy_4 24 rfl rfl
theorem dksX2_copy_6 : cX2_copy.data.toList.drop 141 = dktX2_copy_6 := dk_seg dksX2_copy_5 24 rfl rfl
theorem dX2_copy_0 : decode cX2_copy 0 = .ok (.new 13, 3) := dk_187 0 13 (dk_at dksX2_copy_0 0 rfl rfl)
theorem dX2_copy_3 : decode cX2_copy 3 = .ok (.dup, 1) := dk_89 (dk_at dksX2_copy_0 3 rfl rfl)
theorem dX2_copy_4 : decode cX2_copy 4 = .ok (.invokespecial 47, 3) := dk_183 0 47 (dk_at dksX2_copy_0 4 rfl rfl)
theorem dX2_copy_7 : decode cX2_copy 7 = .ok (.astore_n 1, 1) := dk_76 (dk_at dksX2_copy_0 7 rfl rfl)
theorem dX2_copy_8 : decode cX2_copy 8 = .ok (.aload_n 0, 1) := dk_42 (dk_at dksX2_copy_0 8 rfl rfl)
theorem dX2_copy_9 : decode cX2_copy 9 = .ok (.getfield 12, 3) := dk_180 0 12 (dk_at dksX2_copy_0 9 rfl rfl)
theorem dX2_copy_12 : decode cX2_copy 12 = .ok (.invokevirtual 48, 3) := dk_182 0 48 (dk_at dksX2_copy_0 12 rfl rfl)
theorem dX2_copy_15 : decode cX2_copy 15 = .ok (.istore_n 2, 1) := dk_61 (dk_at dksX2_copy_0 15 rfl rfl)
theorem dX2_copy_16 : decode cX2_copy 16 = .ok (.iconst 0, 1) := dk_3 (dk_at dksX2_copy_0 16 rfl rfl)
theorem dX2_copy_17 : decode cX2_copy 17 = .ok (.istore_n 3, 1) := dk_62 (dk_at dksX2_copy_0 17 rfl rfl)
theorem dX2_copy_18 : decode cX2_copy 18 = .ok (.iload_n 3, 1) := dk_29 (dk_at dksX2_copy_0 18 rfl rfl)
theorem dX2_copy_19 : decode cX2_copy 19 = .ok (.iload_n 2, 1) := dk_28 (dk_at dksX2_copy_0 19 rfl rfl)
theorem dX2_copy_20 : decode cX2_copy 20 = .ok (.if_icmp .ge 43, 3) := dk_162 0 43 (dk_at dksX2_copy_0 20 rfl rfl)
theorem dX2_copy_23 : decode cX2_copy 23 = .ok (.aload_n 1, 1) := dk_43 (dk_at dksX2_copy_0 23 rfl rfl)
theorem dX2_copy_24 : decode cX2_copy 24 = .ok (.getfield 12, 3) := dk_180 0 12 (dk_at dksX2_copy_1 0 rfl rfl)
theorem dX2_copy_27 : decode cX2_copy 27 = .ok (.aload_n 0, 1) := dk_42 (dk_at dksX2_copy_1 3 rfl rfl)
theorem dX2_copy_28 : decode cX2_copy 28 = .ok (.getfield 12, 3) := dk_180 0 12 (dk_at dksX2_copy_1 4 rfl rfl)
theorem dX2_copy_31 : decode cX2_copy 31 = .ok (.iload_n 3, 1) := dk_29 (dk_at dksX2_copy_1 7 rfl rfl)
theorem dX2_copy_32 : decode cX2_copy 32 = .ok (.invokevirtual 52, 3) := dk_182 0 52 (dk_at dksX2_copy_1 8 rfl rfl)
theorem dX2_copy_35 : decode cX2_copy 35 = .ok (.checkcast 56, 3) := dk_192 0 56 (dk_at dksX2_copy_1 11 rfl rfl)
theorem dX2_copy_38 : decode cX2_copy 38 = .ok (.invokevirtual 58, 3) := dk_182 0 58 (dk_at dksX2_copy_1 14 rfl rfl)
theorem dX2_copy_41 : decode cX2_copy 41 = .ok (.invokevirtual 62, 3) := dk_182 0 62 (dk_at dksX2_copy_1 17 rfl rfl)
theorem dX2_copy_44 : decode cX2_copy 44 = .ok (.pop, 1) := dk_87 (dk_at dksX2_copy_1 20 rfl rfl)
theorem dX2_copy_45 : decode cX2_copy 45 = .ok (.aload_n 1, 1) := dk_43 (dk_at dksX2_copy_1 21 rfl rfl)
theorem dX2_copy_46 : decode cX2_copy 46 = .ok (.getfield 18, 3) := dk_180 0 18 (dk_at dksX2_copy_2 0 rfl rfl)
theorem dX2_copy_49 : decode cX2_copy 49 = .ok (.iload_n 3, 1) := dk_29 (dk_at dksX2_copy_2 3 rfl rfl)
theorem dX2_copy_50 : decode cX2_copy 50 = .ok (.aload_n 0, 1) := dk_42 (dk_at dksX2_copy_2 4 rfl rfl)
theorem dX2_copy_51 : decode cX2_copy 51 = .ok (.getfield 18, 3) := dk_180 0 18 (dk_at dksX2_copy_2 5 rfl rfl)
theorem dX2_copy_54 : decode cX2_copy 54 = .ok (.iload_n 3, 1) := dk_29 (dk_at dksX2_copy_2 8 rfl rfl)
theorem dX2_copy_55 : decode cX2_copy 55 = .ok (.iaload, 1) := dk_46 (dk_at dksX2_copy_2 9 rfl rfl)
theorem dX2_copy_56 : decode cX2_copy 56 = .ok (.iastore, 1) := dk_79 (dk_at dksX2_copy_2 10 rfl rfl)
theorem dX2_copy_57 : decode cX2_copy 57 = .ok (.iinc 3 1, 3) := dk_132 3 1 (dk_at dksX2_copy_2 11 rfl rfl)
theorem dX2_copy_60 : decode cX2_copy 60 = .ok (.goto (-42), 3) := dk_167 255 214 (dk_at dksX2_copy_2 14 rfl rfl)
theorem dX2_copy_63 : decode cX2_copy 63 = .ok (.iconst 0, 1) := dk_3 (dk_at dksX2_copy_2 17 rfl rfl)
theorem dX2_copy_64 : decode cX2_copy 64 = .ok (.istore_n 3, 1) := dk_62 (dk_at dksX2_copy_2 18 rfl rfl)
theorem dX2_copy_65 : decode cX2_copy 65 = .ok (.iload_n 3, 1) := dk_29 (dk_at dksX2_copy_2 19 rfl rfl)
theorem dX2_copy_66 : decode cX2_copy 66 = .ok (.aload_n 0, 1) := dk_42 (dk_at dksX2_copy_2 20 rfl rfl)
theorem dX2_copy_67 : decode cX2_copy 67 = .ok (.getfield 66, 3) := dk_180 0 66 (dk_at dksX2_copy_2 21 rfl rfl)
theorem dX2_copy_70 : decode cX2_copy 70 = .ok (.if_icmp .ge 21, 3) := dk_162 0 21 (dk_at dksX2_copy_3 0 rfl rfl)
theorem dX2_copy_73 : decode cX2_copy 73 = .ok (.aload_n 1, 1) := dk_43 (dk_at dksX2_copy_3 3 rfl rfl)
theorem dX2_copy_74 : decode cX2_copy 74 = .ok (.getfield 28, 3) := dk_180 0 28 (dk_at dksX2_copy_3 4 rfl rfl)
theorem dX2_copy_77 : decode cX2_copy 77 = .ok (.iload_n 3, 1) := dk_29 (dk_at dksX2_copy_3 7 rfl rfl)
theorem dX2_copy_78 : decode cX2_copy 78 = .ok (.aload_n 0, 1) := dk_42 (dk_at dksX2_copy_3 8 rfl rfl)
theorem dX2_copy_79 : decode cX2_copy 79 = .ok (.getfield 28, 3) := dk_180 0 28 (dk_at dksX2_copy_3 9 rfl rfl)
theorem dX2_copy_82 : decode cX2_copy 82 = .ok (.iload_n 3, 1) := dk_29 (dk_at dksX2_copy_3 12 rfl rfl)
theorem dX2_copy_83 : decode cX2_copy 83 = .ok (.iaload, 1) := dk_46 (dk_at dksX2_copy_3 13 rfl rfl)
theorem dX2_copy_84 : decode cX2_copy 84 = .ok (.iastore, 1) := dk_79 (dk_at dksX2_copy_3 14 rfl rfl)
theorem dX2_copy_85 : decode cX2_copy 85 = .ok (.iinc 3 1, 3) := dk_132 3 1 (dk_at dksX2_copy_3 15 rfl rfl)
theorem dX2_copy_88 : decode cX2_copy 88 = .ok (.goto (-23), 3) := dk_167 255 233 (dk_at dksX2_copy_3 18 rfl rfl)
theorem dX2_copy_91 : decode cX2_copy 91 = .ok (.aload_n 1, 1) := dk_43 (dk_at dksX2_copy_3 21 rfl rfl)
theorem dX2_copy_92 : decode cX2_copy 92 = .ok (.aload_n 0, 1) := dk_42 (dk_at dksX2_copy_3 22 rfl rfl)
theorem dX2_copy_93 : decode cX2_copy 93 = .ok (.getfield 37, 3) := dk_180 0 37 (dk_at dksX2_copy_4 0 rfl rfl)
theorem dX2_copy_96 : decode cX2_copy 96 = .ok (.putfield 37, 3) := dk_181 0 37 (dk_at dksX2_copy_4 3 rfl rfl)
theorem dX2_copy_99 : decode cX2_copy 99 = .ok (.aload_n 1, 1) := dk_43 (dk_at dksX2_copy_4 6 rfl rfl)
theorem dX2_copy_100 : decode cX2_copy 100 = .ok (.aload_n 0, 1) := dk_42 (dk_at dksX2_copy_4 7 rfl rfl)
theorem dX2_copy_101 : decode cX2_copy 101 = .ok (.getfield 69, 3) := dk_180 0 69 (dk_at dksX2_copy_4 8 rfl rfl)
theorem dX2_copy_104 : decode cX2_copy 104 = .ok (.putfield 69, 3) := dk_181 0 69 (dk_at dksX2_copy_4 11 rfl rfl)
theorem dX2_copy_107 : decode cX2_copy 107 = .ok (.aload_n 1, 1) := dk_43 (dk_at dksX2_copy_4 14 rfl rfl)
theorem dX2_copy_108 : decode cX2_copy 108 = .ok (.aload_n 0, 1) := dk_42 (dk_at dksX2_copy_4 15 rfl rfl)
theorem dX2_copy_109 : decode cX2_copy 109 = .ok (.getfield 73, 3) := dk_180 0 73 (dk_at dksX2_copy_4 16 rfl rfl)
theorem dX2_copy_112 : decode cX2_copy 112 = .ok (.putfield 73, 3) := dk_181 0 73 (dk_at dksX2_copy_4 19 rfl rfl)
theorem dX2_copy_115 : decode cX2_copy 115 = .ok (.aload_n 1, 1) := dk_43 (dk_at dksX2_copy_4 22 rfl rfl)
theorem dX2_copy_116 : decode cX2_copy 116 = .ok (.aload_n 0, 1) := dk_42 (dk_at dksX2_copy_4 23 rfl rfl)
theorem dX2_copy_117 : decode cX2_copy 117 = .ok (.getfield 76, 3) := dk_180 0 76 (dk_at dksX2_copy_5 0 rfl rfl)
theorem dX2_copy_120 : decode cX2_copy 120 = .ok (.putfield 76, 3) := dk_181 0 76 (dk_at dksX2_copy_5 3 rfl rfl)
theorem dX2_copy_123 : decode cX2_copy 123 = .ok (.aload_n 1, 1) := dk_43 (dk_at dksX2_copy_5 6 rfl rfl)
theorem dX2_copy_124 : decode cX2_copy 124 = .ok (.aload_n 0, 1) := dk_42 (dk_at dksX2_copy_5 7 rfl rfl)
theorem dX2_copy_125 : decode cX2_copy 125 = .ok (.getfield 40, 3) := dk_180 0 40 (dk_at dksX2_copy_5 8 rfl rfl)
theorem dX2_copy_128 : decode cX2_copy 128 = .ok (.putfield 40, 3) := dk_181 0 40 (dk_at dksX2_copy_5 11 rfl rfl)
theorem dX2_copy_131 : decode cX2_copy 131 = .ok (.aload_n 1, 1) := dk_43 (dk_at dksX2_copy_5 14 rfl rfl)
theorem dX2_copy_132 : decode cX2_copy 132 = .ok (.aload_n 0, 1) := dk_42 (dk_at dksX2_copy_5 15 rfl rfl)
theorem dX2_copy_133 : decode cX2_copy 133 = .ok (.getfield 66, 3) := dk_180 0 66 (dk_at dksX2_copy_5 16 rfl rfl)
theorem dX2_copy_136 : decode cX2_copy 136 = .ok (.putfield 66, 3) := dk_181 0 66 (dk_at dksX2_copy_5 19 rfl rfl)
theorem dX2_copy_139 : decode cX2_copy 139 = .ok (.aload_n 1, 1) := dk_43 (dk_at dksX2_copy_5 22 rfl rfl)
theorem dX2_copy_140 : decode cX2_copy 140 = .ok (.aload_n 0, 1) := dk_42 (dk_at dksX2_copy_5 23 rfl rfl)
theorem dX2_copy_141 : decode cX2_copy 141 = .ok (.getfield 79, 3) := dk_180 0 79 (dk_at dksX2_copy_6 0 rfl rfl)
theorem dX2_copy_144 : decode cX2_copy 144 = .ok (.putfield 79, 3) := dk_181 0 79 (dk_at dksX2_copy_6 3 rfl rfl)
theorem dX2_copy_147 : decode cX2_copy 147 = .ok (.aload_n 1, 1) := dk_43 (dk_at dksX2_copy_6 6 rfl rfl)
theorem dX2_copy_148 : decode cX2_copy 148 = .ok (.aload_n 0, 1) := dk_42 (dk_at dksX2_copy_6 7 rfl rfl)
theorem dX2_copy_149 : decode cX2_copy 149 = .ok (.getfield 82, 3) := dk_180 0 82 (dk_at dksX2_copy_6 8 rfl rfl)
theorem dX2_copy_152 : decode cX2_copy 152 = .ok (.putfield 82, 3) := dk_181 0 82 (dk_at dksX2_copy_6 11 rfl rfl)
theorem dX2_copy_155 : decode cX2_copy 155 = .ok (.aload_n 1, 1) := dk_43 (dk_at dksX2_copy_6 14 rfl rfl)
theorem dX2_copy_156 : decode cX2_copy 156 = .ok (.aload_n 0, 1) := dk_42 (dk_at dksX2_copy_6 15 rfl rfl)
theorem dX2_copy_157 : decode cX2_copy 157 = .ok (.getfield 44, 3) := dk_180 0 44 (dk_at dksX2_copy_6 16 rfl rfl)
theorem dX2_copy_160 : decode cX2_copy 160 = .ok (.putfield 44, 3) := dk_181 0 44 (dk_at dksX2_copy_6 19 rfl rfl)
theorem dX2_copy_163 : decode cX2_copy 163 = .ok (.aload_n 1, 1) := dk_43 (dk_at dksX2_copy_6 22 rfl rfl)
theorem dX2_copy_164 : decode cX2_copy 164 = .ok (.areturn, 1) := dk_176 (dk_at dksX2_copy_6 23 rfl rfl)
abbrev cX2_size : ByteArray := prog_5_method_3_code
def yX2_size : MethodName := ⟨RX2, "size", "()I"⟩
def dkwX2_size_0 : List UInt8 := [42, 180, 0, 12, 182, 0, 48, 172]
abbrev dktX2_size_0 : List UInt8 := dkwX2_size_0 ++ []
theorem dksX2_size_0 : cX2_size.data.toList.drop 0 = dktX2_size_0 := by decide +kernel
theorem dX2_size_0 : decode cX2_size 0 = .ok (.aload_n 0, 1) := dk_42 (dk_at dksX2_size_0 0 rfl rfl)
theorem dX2_size_1 : decode cX2_size 1 = .ok (.getfield 12, 3) := dk_180 0 12 (dk_at dksX2_size_0 1 rfl rfl)
theorem dX2_size_4 : decode cX2_size 4 = .ok (.invokevirtual 48, 3) := dk_182 0 48 (dk_at dksX2_size_0 4 rfl rfl)
theorem dX2_size_7 : decode cX2_size 7 = .ok (.ireturn, 1) := dk_172 (dk_at dksX2_size_0 7 rfl rfl)
abbrev cX2_cords : ByteArray := prog_5_method_23_code
def yX2_cords : MethodName := ⟨RX2, "cords", "()I"⟩
def dkwX2_cords_2 : List UInt8 := [132, 4, 1, 167, 255, 230, 132, 2, 1, 167, 255, 204, 27, 172]
abbrev dktX2_cords_2 : List UInt8 := dkwX2_cords_2 ++ []
def dkwX2_cords_1 : List UInt8 := [21, 4, 45, 190, 162, 0, 25, 27, 45, 21, 4, 46, 2, 160, 0, 7, 3, 167, 0, 4, 4, 96, 60]
abbrev dktX2_cords_1 : List UInt8 := dkwX2_cords_1 ++ dktX2_cords_2
def dkwX2_cords_0 : List UInt8 := [3, 60, 3, 61, 28, 42, 182, 0, 85, 162, 0, 50, 42, 28, 182, 0, 86, 180, 0, 98, 78, 3, 54, 4]
abbrev dktX2_cords_0 : List UInt8 := dkwX2_cords_0 ++ dktX2_cords_1
theorem dksX2_cords_0 : cX2_cords.data.toList.drop 0 = dktX2_cords_0 := by decide +kernel
theorem dksX2_cords_1 : cX2_cords.data.toList.drop 24 = dktX2_cords_1 := dk_seg dksX2_cords_0 24 rfl rfl
theorem dksX2_cords_2 : cX2_cords.data.toList.drop 47 = dktX2_cords_2 := dk_seg dksX2_cords_1 23 rfl rfl
theorem dX2_cords_0 : decode cX2_cords 0 = .ok (.iconst 0, 1) := dk_3 (dk_at dksX2_cords_0 0 rfl rfl)
theorem dX2_cords_1 : decode cX2_cords 1 = .ok (.istore_n 1, 1) := dk_60 (dk_at dksX2_cords_0 1 rfl rfl)
theorem dX2_cords_2 : decode cX2_cords 2 = .ok (.iconst 0, 1) := dk_3 (dk_at dksX2_cords_0 2 rfl rfl)
theorem dX2_cords_3 : decode cX2_cords 3 = .ok (.istore_n 2, 1) := dk_61 (dk_at dksX2_cords_0 3 rfl rfl)
theorem dX2_cords_4 : decode cX2_cords 4 = .ok (.iload_n 2, 1) := dk_28 (dk_at dksX2_cords_0 4 rfl rfl)
theorem dX2_cords_5 : decode cX2_cords 5 = .ok (.aload_n 0, 1) := dk_42 (dk_at dksX2_cords_0 5 rfl rfl)
theorem dX2_cords_6 : decode cX2_cords 6 = .ok (.invokevirtual 85, 3) := dk_182 0 85 (dk_at dksX2_cords_0 6 rfl rfl)
theorem dX2_cords_9 : decode cX2_cords 9 = .ok (.if_icmp .ge 50, 3) := dk_162 0 50 (dk_at dksX2_cords_0 9 rfl rfl)
theorem dX2_cords_12 : decode cX2_cords 12 = .ok (.aload_n 0, 1) := dk_42 (dk_at dksX2_cords_0 12 rfl rfl)
theorem dX2_cords_13 : decode cX2_cords 13 = .ok (.iload_n 2, 1) := dk_28 (dk_at dksX2_cords_0 13 rfl rfl)
theorem dX2_cords_14 : decode cX2_cords 14 = .ok (.invokevirtual 86, 3) := dk_182 0 86 (dk_at dksX2_cords_0 14 rfl rfl)
theorem dX2_cords_17 : decode cX2_cords 17 = .ok (.getfield 98, 3) := dk_180 0 98 (dk_at dksX2_cords_0 17 rfl rfl)
theorem dX2_cords_20 : decode cX2_cords 20 = .ok (.astore_n 3, 1) := dk_78 (dk_at dksX2_cords_0 20 rfl rfl)
theorem dX2_cords_21 : decode cX2_cords 21 = .ok (.iconst 0, 1) := dk_3 (dk_at dksX2_cords_0 21 rfl rfl)
theorem dX2_cords_22 : decode cX2_cords 22 = .ok (.istore 4, 2) := dk_54 4 (dk_at dksX2_cords_0 22 rfl rfl)
theorem dX2_cords_24 : decode cX2_cords 24 = .ok (.iload 4, 2) := dk_21 4 (dk_at dksX2_cords_1 0 rfl rfl)
theorem dX2_cords_26 : decode cX2_cords 26 = .ok (.aload_n 3, 1) := dk_45 (dk_at dksX2_cords_1 2 rfl rfl)
theorem dX2_cords_27 : decode cX2_cords 27 = .ok (.arraylength, 1) := dk_190 (dk_at dksX2_cords_1 3 rfl rfl)
theorem dX2_cords_28 : decode cX2_cords 28 = .ok (.if_icmp .ge 25, 3) := dk_162 0 25 (dk_at dksX2_cords_1 4 rfl rfl)
theorem dX2_cords_31 : decode cX2_cords 31 = .ok (.iload_n 1, 1) := dk_27 (dk_at dksX2_cords_1 7 rfl rfl)
theorem dX2_cords_32 : decode cX2_cords 32 = .ok (.aload_n 3, 1) := dk_45 (dk_at dksX2_cords_1 8 rfl rfl)
theorem dX2_cords_33 : decode cX2_cords 33 = .ok (.iload 4, 2) := dk_21 4 (dk_at dksX2_cords_1 9 rfl rfl)
theorem dX2_cords_35 : decode cX2_cords 35 = .ok (.iaload, 1) := dk_46 (dk_at dksX2_cords_1 11 rfl rfl)
theorem dX2_cords_36 : decode cX2_cords 36 = .ok (.iconst (-1), 1) := dk_2 (dk_at dksX2_cords_1 12 rfl rfl)
theorem dX2_cords_37 : decode cX2_cords 37 = .ok (.if_icmp .ne 7, 3) := dk_160 0 7 (dk_at dksX2_cords_1 13 rfl rfl)
theorem dX2_cords_40 : decode cX2_cords 40 = .ok (.iconst 0, 1) := dk_3 (dk_at dksX2_cords_1 16 rfl rfl)
theorem dX2_cords_41 : decode cX2_cords 41 = .ok (.goto 4, 3) := dk_167 0 4 (dk_at dksX2_cords_1 17 rfl rfl)
theorem dX2_cords_44 : decode cX2_cords 44 = .ok (.iconst 1, 1) := dk_4 (dk_at dksX2_cords_1 20 rfl rfl)
theorem dX2_cords_45 : decode cX2_cords 45 = .ok (.iadd, 1) := dk_96 (dk_at dksX2_cords_1 21 rfl rfl)
theorem dX2_cords_46 : decode cX2_cords 46 = .ok (.istore_n 1, 1) := dk_60 (dk_at dksX2_cords_1 22 rfl rfl)
theorem dX2_cords_47 : decode cX2_cords 47 = .ok (.iinc 4 1, 3) := dk_132 4 1 (dk_at dksX2_cords_2 0 rfl rfl)
theorem dX2_cords_50 : decode cX2_cords 50 = .ok (.goto (-26), 3) := dk_167 255 230 (dk_at dksX2_cords_2 3 rfl rfl)
theorem dX2_cords_53 : decode cX2_cords 53 = .ok (.iinc 2 1, 3) := dk_132 2 1 (dk_at dksX2_cords_2 6 rfl rfl)
theorem dX2_cords_56 : decode cX2_cords 56 = .ok (.goto (-52), 3) := dk_167 255 204 (dk_at dksX2_cords_2 9 rfl rfl)
theorem dX2_cords_59 : decode cX2_cords 59 = .ok (.iload_n 1, 1) := dk_27 (dk_at dksX2_cords_2 12 rfl rfl)
theorem dX2_cords_60 : decode cX2_cords 60 = .ok (.ireturn, 1) := dk_172 (dk_at dksX2_cords_2 13 rfl rfl)
abbrev cX2_part : ByteArray := prog_5_method_4_code
def yX2_part : MethodName := ⟨RX2, "part", "(I)LPatchCords$Part;"⟩
def dkwX2_part_0 : List UInt8 := [42, 180, 0, 12, 27, 182, 0, 52, 192, 0, 56, 176]
abbrev dktX2_part_0 : List UInt8 := dkwX2_part_0 ++ []
theorem dksX2_part_0 : cX2_part.data.toList.drop 0 = dktX2_part_0 := by decide +kernel
theorem dX2_part_0 : decode cX2_part 0 = .ok (.aload_n 0, 1) := dk_42 (dk_at dksX2_part_0 0 rfl rfl)
theorem dX2_part_1 : decode cX2_part 1 = .ok (.getfield 12, 3) := dk_180 0 12 (dk_at dksX2_part_0 1 rfl rfl)
theorem dX2_part_4 : decode cX2_part 4 = .ok (.iload_n 1, 1) := dk_27 (dk_at dksX2_part_0 4 rfl rfl)
theorem dX2_part_5 : decode cX2_part 5 = .ok (.invokevirtual 52, 3) := dk_182 0 52 (dk_at dksX2_part_0 5 rfl rfl)
theorem dX2_part_8 : decode cX2_part 8 = .ok (.checkcast 56, 3) := dk_192 0 56 (dk_at dksX2_part_0 8 rfl rfl)
theorem dX2_part_11 : decode cX2_part 11 = .ok (.areturn, 1) := dk_176 (dk_at dksX2_part_0 11 rfl rfl)
abbrev cX2_overloaded : ByteArray := prog_5_method_15_code
def yX2_overloaded : MethodName := ⟨RX2, "overloaded", "()I"⟩
def dkwX2_overloaded_2 : List UInt8 := [167, 0, 4, 3, 128, 60, 132, 2, 1, 167, 255, 211, 27, 172]
abbrev dktX2_overloaded_2 : List UInt8 := dkwX2_overloaded_2 ++ []
def dkwX2_overloaded_1 : List UInt8 := [182, 0, 117, 27, 42, 28, 182, 0, 86, 42, 180, 0, 25, 182, 0, 135, 153, 0, 9, 4, 28, 120]
abbrev dktX2_overloaded_1 : List UInt8 := dkwX2_overloaded_1 ++ dktX2_overloaded_2
def dkwX2_overloaded_0 : List UInt8 := [42, 182, 0, 128, 3, 60, 3, 61, 28, 42, 182, 0, 85, 162, 0, 43, 42, 42, 28, 182, 0, 86]
abbrev dktX2_overloaded_0 : List UInt8 := dkwX2_overloaded_0 ++ dktX2_overloaded_1
theorem dksX2_overloaded_0 : cX2_overloaded.data.toList.drop 0 = dktX2_overloaded_0 := by decide +kernel
theorem dksX2_overloaded_1 : cX2_overloaded.data.toList.drop 22 = dktX2_overloaded_1 := dk_seg dksX2_overloaded_0 22 rfl rfl
theorem dksX2_overloaded_2 : cX2_overloaded.data.toList.drop 44 = dktX2_overloaded_2 := dk_seg dksX2_overloaded_1 22 rfl rfl
theorem dX2_overloaded_0 : decode cX2_overloaded 0 = .ok (.aload_n 0, 1) := dk_42 (dk_at dksX2_overloaded_0 0 rfl rfl)
theorem dX2_overloaded_1 : decode cX2_overloaded 1 = .ok (.invokevirtual 128, 3) := dk_182 0 128 (dk_at dksX2_overloaded_0 1 rfl rfl)
theorem dX2_overloaded_4 : decode cX2_overloaded 4 = .ok (.iconst 0, 1) := dk_3 (dk_at dksX2_overloaded_0 4 rfl rfl)
theorem dX2_overloaded_5 : decode cX2_overloaded 5 = .ok (.istore_n 1, 1) := dk_60 (dk_at dksX2_overloaded_0 5 rfl rfl)
theorem dX2_overloaded_6 : decode cX2_overloaded 6 = .ok (.iconst 0, 1) := dk_3 (dk_at dksX2_overloaded_0 6 rfl rfl)
theorem dX2_overloaded_7 : decode cX2_overloaded 7 = .ok (.istore_n 2, 1) := dk_61 (dk_at dksX2_overloaded_0 7 rfl rfl)
theorem dX2_overloaded_8 : decode cX2_overloaded 8 = .ok (.iload_n 2, 1) := dk_28 (dk_at dksX2_overloaded_0 8 rfl rfl)
theorem dX2_overloaded_9 : decode cX2_overloaded 9 = .ok (.aload_n 0, 1) := dk_42 (dk_at dksX2_overloaded_0 9 rfl rfl)
theorem dX2_overloaded_10 : decode cX2_overloaded 10 = .ok (.invokevirtual 85, 3) := dk_182 0 85 (dk_at dksX2_overloaded_0 10 rfl rfl)
theorem dX2_overloaded_13 : decode cX2_overloaded 13 = .ok (.if_icmp .ge 43, 3) := dk_162 0 43 (dk_at dksX2_overloaded_0 13 rfl rfl)
theorem dX2_overloaded_16 : decode cX2_overloaded 16 = .ok (.aload_n 0, 1) := dk_42 (dk_at dksX2_overloaded_0 16 rfl rfl)
theorem dX2_overloaded_17 : decode cX2_overloaded 17 = .ok (.aload_n 0, 1) := dk_42 (dk_at dksX2_overloaded_0 17 rfl rfl)
theorem dX2_overloaded_18 : decode cX2_overloaded 18 = .ok (.iload_n 2, 1) := dk_28 (dk_at dksX2_overloaded_0 18 rfl rfl)
theorem dX2_overloaded_19 : decode cX2_overloaded 19 = .ok (.invokevirtual 86, 3) := dk_182 0 86 (dk_at dksX2_overloaded_0 19 rfl rfl)
theorem dX2_overloaded_22 : decode cX2_overloaded 22 = .ok (.invokevirtual 117, 3) := dk_182 0 117 (dk_at dksX2_overloaded_1 0 rfl rfl)
theorem dX2_overloaded_25 : decode cX2_overloaded 25 = .ok (.iload_n 1, 1) := dk_27 (dk_at dksX2_overloaded_1 3 rfl rfl)
theorem dX2_overloaded_26 : decode cX2_overloaded 26 = .ok (.aload_n 0, 1) := dk_42 (dk_at dksX2_overloaded_1 4 rfl rfl)
theorem dX2_overloaded_27 : decode cX2_overloaded 27 = .ok (.iload_n 2, 1) := dk_28 (dk_at dksX2_overloaded_1 5 rfl rfl)
theorem dX2_overloaded_28 : decode cX2_overloaded 28 = .ok (.invokevirtual 86, 3) := dk_182 0 86 (dk_at dksX2_overloaded_1 6 rfl rfl)
theorem dX2_overloaded_31 : decode cX2_overloaded 31 = .ok (.aload_n 0, 1) := dk_42 (dk_at dksX2_overloaded_1 9 rfl rfl)
theorem dX2_overloaded_32 : decode cX2_overloaded 32 = .ok (.getfield 25, 3) := dk_180 0 25 (dk_at dksX2_overloaded_1 10 rfl rfl)
theorem dX2_overloaded_35 : decode cX2_overloaded 35 = .ok (.invokevirtual 135, 3) := dk_182 0 135 (dk_at dksX2_overloaded_1 13 rfl rfl)
theorem dX2_overloaded_38 : decode cX2_overloaded 38 = .ok (.ifCond .eq 9, 3) := dk_153 0 9 (dk_at dksX2_overloaded_1 16 rfl rfl)
theorem dX2_overloaded_41 : decode cX2_overloaded 41 = .ok (.iconst 1, 1) := dk_4 (dk_at dksX2_overloaded_1 19 rfl rfl)
theorem dX2_overloaded_42 : decode cX2_overloaded 42 = .ok (.iload_n 2, 1) := dk_28 (dk_at dksX2_overloaded_1 20 rfl rfl)
theorem dX2_overloaded_43 : decode cX2_overloaded 43 = .ok (.ishl, 1) := dk_120 (dk_at dksX2_overloaded_1 21 rfl rfl)
theorem dX2_overloaded_44 : decode cX2_overloaded 44 = .ok (.goto 4, 3) := dk_167 0 4 (dk_at dksX2_overloaded_2 0 rfl rfl)
theorem dX2_overloaded_47 : decode cX2_overloaded 47 = .ok (.iconst 0, 1) := dk_3 (dk_at dksX2_overloaded_2 3 rfl rfl)
theorem dX2_overloaded_48 : decode cX2_overloaded 48 = .ok (.ior, 1) := dk_128 (dk_at dksX2_overloaded_2 4 rfl rfl)
theorem dX2_overloaded_49 : decode cX2_overloaded 49 = .ok (.istore_n 1, 1) := dk_60 (dk_at dksX2_overloaded_2 5 rfl rfl)
theorem dX2_overloaded_50 : decode cX2_overloaded 50 = .ok (.iinc 2 1, 3) := dk_132 2 1 (dk_at dksX2_overloaded_2 6 rfl rfl)
theorem dX2_overloaded_53 : decode cX2_overloaded 53 = .ok (.goto (-45), 3) := dk_167 255 211 (dk_at dksX2_overloaded_2 9 rfl rfl)
theorem dX2_overloaded_56 : decode cX2_overloaded 56 = .ok (.iload_n 1, 1) := dk_27 (dk_at dksX2_overloaded_2 12 rfl rfl)
theorem dX2_overloaded_57 : decode cX2_overloaded 57 = .ok (.ireturn, 1) := dk_172 (dk_at dksX2_overloaded_2 13 rfl rfl)
abbrev cX2_tellOutputs : ByteArray := prog_5_method_10_code
def yX2_tellOutputs : MethodName := ⟨RX2, "tellOutputs", "()V"⟩
def dkwX2_tellOutputs_2 : List UInt8 := [184, 0, 125, 79, 132, 1, 1, 167, 255, 204, 177]
abbrev dktX2_tellOutputs_2 : List UInt8 := dkwX2_tellOutputs_2 ++ []
def dkwX2_tellOutputs_1 : List UInt8 := [182, 0, 117, 42, 180, 0, 22, 42, 180, 0, 18, 27, 46, 44, 42, 180, 0, 25, 182, 0, 121, 17, 39, 16]
abbrev dktX2_tellOutputs_1 : List UInt8 := dkwX2_tellOutputs_1 ++ dktX2_tellOutputs_2
def dkwX2_tellOutputs_0 : List UInt8 := [3, 60, 27, 42, 182, 0, 85, 162, 0, 50, 42, 42, 180, 0, 18, 27, 46, 182, 0, 86, 77, 42, 44]
abbrev dktX2_tellOutputs_0 : List UInt8 := dkwX2_tellOutputs_0 ++ dktX2_tellOutputs_1
theorem dksX2_tellOutputs_0 : cX2_tellOutputs.data.toList.drop 0 = dktX2_tellOutputs_0 := by decide +kernel
theorem dksX2_tellOutputs_1 : cX2_tellOutputs.data.toList.drop 23 = dktX2_tellOutputs_1 := dk_seg dksX2_tellOutputs_0 23 rfl rfl
theorem dksX2_tellOutputs_2 : cX2_tellOutputs.data.toList.drop 47 = dktX2_tellOutputs_2 := dk_seg dksX2_tellOutputs_1 24 rfl rfl
theorem dX2_tellOutputs_0 : decode cX2_tellOutputs 0 = .ok (.iconst 0, 1) := dk_3 (dk_at dksX2_tellOutputs_0 0 rfl rfl)
theorem dX2_tellOutputs_1 : decode cX2_tellOutputs 1 = .ok (.istore_n 1, 1) := dk_60 (dk_at dksX2_tellOutputs_0 1 rfl rfl)
theorem dX2_tellOutputs_2 : decode cX2_tellOutputs 2 = .ok (.iload_n 1, 1) := dk_27 (dk_at dksX2_tellOutputs_0 2 rfl rfl)
theorem dX2_tellOutputs_3 : decode cX2_tellOutputs 3 = .ok (.aload_n 0, 1) := dk_42 (dk_at dksX2_tellOutputs_0 3 rfl rfl)
theorem dX2_tellOutputs_4 : decode cX2_tellOutputs 4 = .ok (.invokevirtual 85, 3) := dk_182 0 85 (dk_at dksX2_tellOutputs_0 4 rfl rfl)
theorem dX2_tellOutputs_7 : decode cX2_tellOutputs 7 = .ok (.if_icmp .ge 50, 3) := dk_162 0 50 (dk_at dksX2_tellOutputs_0 7 rfl rfl)
theorem dX2_tellOutputs_10 : decode cX2_tellOutputs 10 = .ok (.aload_n 0, 1) := dk_42 (dk_at dksX2_tellOutputs_0 10 rfl rfl)
theorem dX2_tellOutputs_11 : decode cX2_tellOutputs 11 = .ok (.aload_n 0, 1) := dk_42 (dk_at dksX2_tellOutputs_0 11 rfl rfl)
theorem dX2_tellOutputs_12 : decode cX2_tellOutputs 12 = .ok (.getfield 18, 3) := dk_180 0 18 (dk_at dksX2_tellOutputs_0 12 rfl rfl)
theorem dX2_tellOutputs_15 : decode cX2_tellOutputs 15 = .ok (.iload_n 1, 1) := dk_27 (dk_at dksX2_tellOutputs_0 15 rfl rfl)
theorem dX2_tellOutputs_16 : decode cX2_tellOutputs 16 = .ok (.iaload, 1) := dk_46 (dk_at dksX2_tellOutputs_0 16 rfl rfl)
theorem dX2_tellOutputs_17 : decode cX2_tellOutputs 17 = .ok (.invokevirtual 86, 3) := dk_182 0 86 (dk_at dksX2_tellOutputs_0 17 rfl rfl)
theorem dX2_tellOutputs_20 : decode cX2_tellOutputs 20 = .ok (.astore_n 2, 1) := dk_77 (dk_at dksX2_tellOutputs_0 20 rfl rfl)
theorem dX2_tellOutputs_21 : decode cX2_tellOutputs 21 = .ok (.aload_n 0, 1) := dk_42 (dk_at dksX2_tellOutputs_0 21 rfl rfl)
theorem dX2_tellOutputs_22 : decode cX2_tellOutputs 22 = .ok (.aload_n 2, 1) := dk_44 (dk_at dksX2_tellOutputs_0 22 rfl rfl)
theorem dX2_tellOutputs_23 : decode cX2_tellOutputs 23 = .ok (.invokevirtual 117, 3) := dk_182 0 117 (dk_at dksX2_tellOutputs_1 0 rfl rfl)
theorem dX2_tellOutputs_26 : decode cX2_tellOutputs 26 = .ok (.aload_n 0, 1) := dk_42 (dk_at dksX2_tellOutputs_1 3 rfl rfl)
theorem dX2_tellOutputs_27 : decode cX2_tellOutputs 27 = .ok (.getfield 22, 3) := dk_180 0 22 (dk_at dksX2_tellOutputs_1 4 rfl rfl)
theorem dX2_tellOutputs_30 : decode cX2_tellOutputs 30 = .ok (.aload_n 0, 1) := dk_42 (dk_at dksX2_tellOutputs_1 7 rfl rfl)
theorem dX2_tellOutputs_31 : decode cX2_tellOutputs 31 = .ok (.getfield 18, 3) := dk_180 0 18 (dk_at dksX2_tellOutputs_1 8 rfl rfl)
theorem dX2_tellOutputs_34 : decode cX2_tellOutputs 34 = .ok (.iload_n 1, 1) := dk_27 (dk_at dksX2_tellOutputs_1 11 rfl rfl)
theorem dX2_tellOutputs_35 : decode cX2_tellOutputs 35 = .ok (.iaload, 1) := dk_46 (dk_at dksX2_tellOutputs_1 12 rfl rfl)
theorem dX2_tellOutputs_36 : decode cX2_tellOutputs 36 = .ok (.aload_n 2, 1) := dk_44 (dk_at dksX2_tellOutputs_1 13 rfl rfl)
theorem dX2_tellOutputs_37 : decode cX2_tellOutputs 37 = .ok (.aload_n 0, 1) := dk_42 (dk_at dksX2_tellOutputs_1 14 rfl rfl)
theorem dX2_tellOutputs_38 : decode cX2_tellOutputs 38 = .ok (.getfield 25, 3) := dk_180 0 25 (dk_at dksX2_tellOutputs_1 15 rfl rfl)
theorem dX2_tellOutputs_41 : decode cX2_tellOutputs 41 = .ok (.invokevirtual 121, 3) := dk_182 0 121 (dk_at dksX2_tellOutputs_1 18 rfl rfl)
theorem dX2_tellOutputs_44 : decode cX2_tellOutputs 44 = .ok (.sipush 10000, 3) := dk_17 39 16 (dk_at dksX2_tellOutputs_1 21 rfl rfl)
theorem dX2_tellOutputs_47 : decode cX2_tellOutputs 47 = .ok (.invokestatic 125, 3) := dk_184 0 125 (dk_at dksX2_tellOutputs_2 0 rfl rfl)
theorem dX2_tellOutputs_50 : decode cX2_tellOutputs 50 = .ok (.iastore, 1) := dk_79 (dk_at dksX2_tellOutputs_2 3 rfl rfl)
theorem dX2_tellOutputs_51 : decode cX2_tellOutputs 51 = .ok (.iinc 1 1, 3) := dk_132 1 1 (dk_at dksX2_tellOutputs_2 4 rfl rfl)
theorem dX2_tellOutputs_54 : decode cX2_tellOutputs 54 = .ok (.goto (-52), 3) := dk_167 255 204 (dk_at dksX2_tellOutputs_2 7 rfl rfl)
theorem dX2_tellOutputs_57 : decode cX2_tellOutputs 57 = .ok (.return_, 1) := dk_177 (dk_at dksX2_tellOutputs_2 10 rfl rfl)
abbrev cX2_tellInputs : ByteArray := prog_5_method_9_code
def yX2_tellInputs : MethodName := ⟨RX2, "tellInputs", "(LPatchCords$Part;)V"⟩
def dkwX2_tellInputs_2 : List UInt8 := [167, 255, 213, 177]
abbrev dktX2_tellInputs_2 : List UInt8 := dkwX2_tellInputs_2 ++ []
def dkwX2_tellInputs_1 : List UInt8 := [160, 0, 7, 3, 167, 0, 14, 42, 180, 0, 22, 43, 180, 0, 98, 28, 46, 46, 79, 132, 2, 1]
abbrev dktX2_tellInputs_1 : List UInt8 := dkwX2_tellInputs_1 ++ dktX2_tellInputs_2
def dkwX2_tellInputs_0 : List UInt8 := [3, 61, 28, 43, 180, 0, 98, 190, 162, 0, 40, 42, 180, 0, 25, 28, 43, 180, 0, 98, 28, 46, 2]
abbrev dktX2_tellInputs_0 : List UInt8 := dkwX2_tellInputs_0 ++ dktX2_tellInputs_1
theorem dksX2_tellInputs_0 : cX2_tellInputs.data.toList.drop 0 = dktX2_tellInputs_0 := by decide +kernel
theorem dksX2_tellInputs_1 : cX2_tellInputs.data.toList.drop 23 = dktX2_tellInputs_1 := dk_seg dksX2_tellInputs_0 23 rfl rfl
theorem dksX2_tellInputs_2 : cX2_tellInputs.data.toList.drop 45 = dktX2_tellInputs_2 := dk_seg dksX2_tellInputs_1 22 rfl rfl
theorem dX2_tellInputs_0 : decode cX2_tellInputs 0 = .ok (.iconst 0, 1) := dk_3 (dk_at dksX2_tellInputs_0 0 rfl rfl)
theorem dX2_tellInputs_1 : decode cX2_tellInputs 1 = .ok (.istore_n 2, 1) := dk_61 (dk_at dksX2_tellInputs_0 1 rfl rfl)
theorem dX2_tellInputs_2 : decode cX2_tellInputs 2 = .ok (.iload_n 2, 1) := dk_28 (dk_at dksX2_tellInputs_0 2 rfl rfl)
theorem dX2_tellInputs_3 : decode cX2_tellInputs 3 = .ok (.aload_n 1, 1) := dk_43 (dk_at dksX2_tellInputs_0 3 rfl rfl)
theorem dX2_tellInputs_4 : decode cX2_tellInputs 4 = .ok (.getfield 98, 3) := dk_180 0 98 (dk_at dksX2_tellInputs_0 4 rfl rfl)
theorem dX2_tellInputs_7 : decode cX2_tellInputs 7 = .ok (.arraylength, 1) := dk_190 (dk_at dksX2_tellInputs_0 7 rfl rfl)
theorem dX2_tellInputs_8 : decode cX2_tellInputs 8 = .ok (.if_icmp .ge 40, 3) := dk_162 0 40 (dk_at dksX2_tellInputs_0 8 rfl rfl)
theorem dX2_tellInputs_11 : decode cX2_tellInputs 11 = .ok (.aload_n 0, 1) := dk_42 (dk_at dksX2_tellInputs_0 11 rfl rfl)
theorem dX2_tellInputs_12 : decode cX2_tellInputs 12 = .ok (.getfield 25, 3) := dk_180 0 25 (dk_at dksX2_tellInputs_0 12 rfl rfl)
theorem dX2_tellInputs_15 : decode cX2_tellInputs 15 = .ok (.iload_n 2, 1) := dk_28 (dk_at dksX2_tellInputs_0 15 rfl rfl)
theorem dX2_tellInputs_16 : decode cX2_tellInputs 16 = .ok (.aload_n 1, 1) := dk_43 (dk_at dksX2_tellInputs_0 16 rfl rfl)
theorem dX2_tellInputs_17 : decode cX2_tellInputs 17 = .ok (.getfield 98, 3) := dk_180 0 98 (dk_at dksX2_tellInputs_0 17 rfl rfl)
theorem dX2_tellInputs_20 : decode cX2_tellInputs 20 = .ok (.iload_n 2, 1) := dk_28 (dk_at dksX2_tellInputs_0 20 rfl rfl)
theorem dX2_tellInputs_21 : decode cX2_tellInputs 21 = .ok (.iaload, 1) := dk_46 (dk_at dksX2_tellInputs_0 21 rfl rfl)
theorem dX2_tellInputs_22 : decode cX2_tellInputs 22 = .ok (.iconst (-1), 1) := dk_2 (dk_at dksX2_tellInputs_0 22 rfl rfl)
theorem dX2_tellInputs_23 : decode cX2_tellInputs 23 = .ok (.if_icmp .ne 7, 3) := dk_160 0 7 (dk_at dksX2_tellInputs_1 0 rfl rfl)
theorem dX2_tellInputs_26 : decode cX2_tellInputs 26 = .ok (.iconst 0, 1) := dk_3 (dk_at dksX2_tellInputs_1 3 rfl rfl)
theorem dX2_tellInputs_27 : decode cX2_tellInputs 27 = .ok (.goto 14, 3) := dk_167 0 14 (dk_at dksX2_tellInputs_1 4 rfl rfl)
theorem dX2_tellInputs_30 : decode cX2_tellInputs 30 = .ok (.aload_n 0, 1) := dk_42 (dk_at dksX2_tellInputs_1 7 rfl rfl)
theorem dX2_tellInputs_31 : decode cX2_tellInputs 31 = .ok (.getfield 22, 3) := dk_180 0 22 (dk_at dksX2_tellInputs_1 8 rfl rfl)
theorem dX2_tellInputs_34 : decode cX2_tellInputs 34 = .ok (.aload_n 1, 1) := dk_43 (dk_at dksX2_tellInputs_1 11 rfl rfl)
theorem dX2_tellInputs_35 : decode cX2_tellInputs 35 = .ok (.getfield 98, 3) := dk_180 0 98 (dk_at dksX2_tellInputs_1 12 rfl rfl)
theorem dX2_tellInputs_38 : decode cX2_tellInputs 38 = .ok (.iload_n 2, 1) := dk_28 (dk_at dksX2_tellInputs_1 15 rfl rfl)
theorem dX2_tellInputs_39 : decode cX2_tellInputs 39 = .ok (.iaload, 1) := dk_46 (dk_at dksX2_tellInputs_1 16 rfl rfl)
theorem dX2_tellInputs_40 : decode cX2_tellInputs 40 = .ok (.iaload, 1) := dk_46 (dk_at dksX2_tellInputs_1 17 rfl rfl)
theorem dX2_tellInputs_41 : decode cX2_tellInputs 41 = .ok (.iastore, 1) := dk_79 (dk_at dksX2_tellInputs_1 18 rfl rfl)
theorem dX2_tellInputs_42 : decode cX2_tellInputs 42 = .ok (.iinc 2 1, 3) := dk_132 2 1 (dk_at dksX2_tellInputs_1 19 rfl rfl)
theorem dX2_tellInputs_45 : decode cX2_tellInputs 45 = .ok (.goto (-43), 3) := dk_167 255 213 (dk_at dksX2_tellInputs_2 0 rfl rfl)
theorem dX2_tellInputs_48 : decode cX2_tellInputs 48 = .ok (.return_, 1) := dk_177 (dk_at dksX2_tellInputs_2 3 rfl rfl)
abbrev cX2_inCircles : ByteArray := prog_5_method_21_code
def yX2_inCircles : MethodName := ⟨RX2, "inCircles", "()I"⟩
def dkwX2_inCircles_1 : List UInt8 := [153, 0, 9, 4, 28, 120, 167, 0, 4, 3, 128, 60, 132, 2, 1, 167, 255, 223, 27, 172]
abbrev dktX2_inCircles_1 : List UInt8 := dkwX2_inCircles_1 ++ []
def dkwX2_inCircles_0 : List UInt8 := [3, 60, 3, 61, 28, 42, 182, 0, 85, 162, 0, 31, 27, 42, 28, 182, 0, 155, 28, 184, 0, 147]
abbrev dktX2_inCircles_0 : List UInt8 := dkwX2_inCircles_0 ++ dktX2_inCircles_1
theorem dksX2_inCircles_0 : cX2_inCircles.data.toList.drop 0 = dktX2_inCircles_0 := by decide +kernel
theorem dksX2_inCircles_1 : cX2_inCircles.data.toList.drop 22 = dktX2_inCircles_1 := dk_seg dksX2_inCircles_0 22 rfl rfl
theorem dX2_inCircles_0 : decode cX2_inCircles 0 = .ok (.iconst 0, 1) := dk_3 (dk_at dksX2_inCircles_0 0 rfl rfl)
theorem dX2_inCircles_1 : decode cX2_inCircles 1 = .ok (.istore_n 1, 1) := dk_60 (dk_at dksX2_inCircles_0 1 rfl rfl)
theorem dX2_inCircles_2 : decode cX2_inCircles 2 = .ok (.iconst 0, 1) := dk_3 (dk_at dksX2_inCircles_0 2 rfl rfl)
theorem dX2_inCircles_3 : decode cX2_inCircles 3 = .ok (.istore_n 2, 1) := dk_61 (dk_at dksX2_inCircles_0 3 rfl rfl)
theorem dX2_inCircles_4 : decode cX2_inCircles 4 = .ok (.iload_n 2, 1) := dk_28 (dk_at dksX2_inCircles_0 4 rfl rfl)
theorem dX2_inCircles_5 : decode cX2_inCircles 5 = .ok (.aload_n 0, 1) := dk_42 (dk_at dksX2_inCircles_0 5 rfl rfl)
theorem dX2_inCircles_6 : decode cX2_inCircles 6 = .ok (.invokevirtual 85, 3) := dk_182 0 85 (dk_at dksX2_inCircles_0 6 rfl rfl)
theorem dX2_inCircles_9 : decode cX2_inCircles 9 = .ok (.if_icmp .ge 31, 3) := dk_162 0 31 (dk_at dksX2_inCircles_0 9 rfl rfl)
theorem dX2_inCircles_12 : decode cX2_inCircles 12 = .ok (.iload_n 1, 1) := dk_27 (dk_at dksX2_inCircles_0 12 rfl rfl)
theorem dX2_inCircles_13 : decode cX2_inCircles 13 = .ok (.aload_n 0, 1) := dk_42 (dk_at dksX2_inCircles_0 13 rfl rfl)
theorem dX2_inCircles_14 : decode cX2_inCircles 14 = .ok (.iload_n 2, 1) := dk_28 (dk_at dksX2_inCircles_0 14 rfl rfl)
theorem dX2_inCircles_15 : decode cX2_inCircles 15 = .ok (.invokevirtual 155, 3) := dk_182 0 155 (dk_at dksX2_inCircles_0 15 rfl rfl)
theorem dX2_inCircles_18 : decode cX2_inCircles 18 = .ok (.iload_n 2, 1) := dk_28 (dk_at dksX2_inCircles_0 18 rfl rfl)
theorem dX2_inCircles_19 : decode cX2_inCircles 19 = .ok (.invokestatic 147, 3) := dk_184 0 147 (dk_at dksX2_inCircles_0 19 rfl rfl)
theorem dX2_inCircles_22 : decode cX2_inCircles 22 = .ok (.ifCond .eq 9, 3) := dk_153 0 9 (dk_at dksX2_inCircles_1 0 rfl rfl)
theorem dX2_inCircles_25 : decode cX2_inCircles 25 = .ok (.iconst 1, 1) := dk_4 (dk_at dksX2_inCircles_1 3 rfl rfl)
theorem dX2_inCircles_26 : decode cX2_inCircles 26 = .ok (.iload_n 2, 1) := dk_28 (dk_at dksX2_inCircles_1 4 rfl rfl)
theorem dX2_inCircles_27 : decode cX2_inCircles 27 = .ok (.ishl, 1) := dk_120 (dk_at dksX2_inCircles_1 5 rfl rfl)
theorem dX2_inCircles_28 : decode cX2_inCircles 28 = .ok (.goto 4, 3) := dk_167 0 4 (dk_at dksX2_inCircles_1 6 rfl rfl)
theorem dX2_inCircles_31 : decode cX2_inCircles 31 = .ok (.iconst 0, 1) := dk_3 (dk_at dksX2_inCircles_1 9 rfl rfl)
theorem dX2_inCircles_32 : decode cX2_inCircles 32 = .ok (.ior, 1) := dk_128 (dk_at dksX2_inCircles_1 10 rfl rfl)
theorem dX2_inCircles_33 : decode cX2_inCircles 33 = .ok (.istore_n 1, 1) := dk_60 (dk_at dksX2_inCircles_1 11 rfl rfl)
theorem dX2_inCircles_34 : decode cX2_inCircles 34 = .ok (.iinc 2 1, 3) := dk_132 2 1 (dk_at dksX2_inCircles_1 12 rfl rfl)
theorem dX2_inCircles_37 : decode cX2_inCircles 37 = .ok (.goto (-33), 3) := dk_167 255 223 (dk_at dksX2_inCircles_1 15 rfl rfl)
theorem dX2_inCircles_40 : decode cX2_inCircles 40 = .ok (.iload_n 1, 1) := dk_27 (dk_at dksX2_inCircles_1 18 rfl rfl)
theorem dX2_inCircles_41 : decode cX2_inCircles 41 = .ok (.ireturn, 1) := dk_172 (dk_at dksX2_inCircles_1 19 rfl rfl)
abbrev cX2_dependsOn : ByteArray := prog_5_method_17_code
def yX2_dependsOn : MethodName := ⟨RX2, "dependsOn", "(I)I"⟩
def dkwX2_dependsOn_2 : List UInt8 := [182, 0, 144, 167, 0, 4, 3, 128, 61, 132, 4, 1, 167, 255, 219, 167, 255, 206, 28, 172]
abbrev dktX2_dependsOn_2 : List UInt8 := dkwX2_dependsOn_2 ++ []
def dkwX2_dependsOn_1 : List UInt8 := [182, 0, 85, 162, 0, 34, 28, 29, 21, 4, 184, 0, 147, 153, 0, 15, 42, 21, 4, 182, 0, 86]
abbrev dktX2_dependsOn_1 : List UInt8 := dkwX2_dependsOn_1 ++ dktX2_dependsOn_2
def dkwX2_dependsOn_0 : List UInt8 := [42, 27, 182, 0, 86, 182, 0, 144, 61, 3, 62, 28, 29, 159, 0, 51, 28, 62, 3, 54, 4, 21, 4, 42]
abbrev dktX2_dependsOn_0 : List UInt8 := dkwX2_dependsOn_0 ++ dktX2_dependsOn_1
theorem dksX2_dependsOn_0 : cX2_dependsOn.data.toList.drop 0 = dktX2_dependsOn_0 := by decide +kernel
theorem dksX2_dependsOn_1 : cX2_dependsOn.data.toList.drop 24 = dktX2_dependsOn_1 := dk_seg dksX2_dependsOn_0 24 rfl rfl
theorem dksX2_dependsOn_2 : cX2_dependsOn.data.toList.drop 46 = dktX2_dependsOn_2 := dk_seg dksX2_dependsOn_1 22 rfl rfl
theorem dX2_dependsOn_0 : decode cX2_dependsOn 0 = .ok (.aload_n 0, 1) := dk_42 (dk_at dksX2_dependsOn_0 0 rfl rfl)
theorem dX2_dependsOn_1 : decode cX2_dependsOn 1 = .ok (.iload_n 1, 1) := dk_27 (dk_at dksX2_dependsOn_0 1 rfl rfl)
theorem dX2_dependsOn_2 : decode cX2_dependsOn 2 = .ok (.invokevirtual 86, 3) := dk_182 0 86 (dk_at dksX2_dependsOn_0 2 rfl rfl)
theorem dX2_dependsOn_5 : decode cX2_dependsOn 5 = .ok (.invokevirtual 144, 3) := dk_182 0 144 (dk_at dksX2_dependsOn_0 5 rfl rfl)
theorem dX2_dependsOn_8 : decode cX2_dependsOn 8 = .ok (.istore_n 2, 1) := dk_61 (dk_at dksX2_dependsOn_0 8 rfl rfl)
theorem dX2_dependsOn_9 : decode cX2_dependsOn 9 = .ok (.iconst 0, 1) := dk_3 (dk_at dksX2_dependsOn_0 9 rfl rfl)
theorem dX2_dependsOn_10 : decode cX2_dependsOn 10 = .ok (.istore_n 3, 1) := dk_62 (dk_at dksX2_dependsOn_0 10 rfl rfl)
theorem dX2_dependsOn_11 : decode cX2_dependsOn 11 = .ok (.iload_n 2, 1) := dk_28 (dk_at dksX2_dependsOn_0 11 rfl rfl)
theorem dX2_dependsOn_12 : decode cX2_dependsOn 12 = .ok (.iload_n 3, 1) := dk_29 (dk_at dksX2_dependsOn_0 12 rfl rfl)
theorem dX2_dependsOn_13 : decode cX2_dependsOn 13 = .ok (.if_icmp .eq 51, 3) := dk_159 0 51 (dk_at dksX2_dependsOn_0 13 rfl rfl)
theorem dX2_dependsOn_16 : decode cX2_dependsOn 16 = .ok (.iload_n 2, 1) := dk_28 (dk_at dksX2_dependsOn_0 16 rfl rfl)
theorem dX2_dependsOn_17 : decode cX2_dependsOn 17 = .ok (.istore_n 3, 1) := dk_62 (dk_at dksX2_dependsOn_0 17 rfl rfl)
theorem dX2_dependsOn_18 : decode cX2_dependsOn 18 = .ok (.iconst 0, 1) := dk_3 (dk_at dksX2_dependsOn_0 18 rfl rfl)
theorem dX2_dependsOn_19 : decode cX2_dependsOn 19 = .ok (.istore 4, 2) := dk_54 4 (dk_at dksX2_dependsOn_0 19 rfl rfl)
theorem dX2_dependsOn_21 : decode cX2_dependsOn 21 = .ok (.iload 4, 2) := dk_21 4 (dk_at dksX2_dependsOn_0 21 rfl rfl)
theorem dX2_dependsOn_23 : decode cX2_dependsOn 23 = .ok (.aload_n 0, 1) := dk_42 (dk_at dksX2_dependsOn_0 23 rfl rfl)
theorem dX2_dependsOn_24 : decode cX2_dependsOn 24 = .ok (.invokevirtual 85, 3) := dk_182 0 85 (dk_at dksX2_dependsOn_1 0 rfl rfl)
theorem dX2_dependsOn_27 : decode cX2_dependsOn 27 = .ok (.if_icmp .ge 34, 3) := dk_162 0 34 (dk_at dksX2_dependsOn_1 3 rfl rfl)
theorem dX2_dependsOn_30 : decode cX2_dependsOn 30 = .ok (.iload_n 2, 1) := dk_28 (dk_at dksX2_dependsOn_1 6 rfl rfl)
theorem dX2_dependsOn_31 : decode cX2_dependsOn 31 = .ok (.iload_n 3, 1) := dk_29 (dk_at dksX2_dependsOn_1 7 rfl rfl)
theorem dX2_dependsOn_32 : decode cX2_dependsOn 32 = .ok (.iload 4, 2) := dk_21 4 (dk_at dksX2_dependsOn_1 8 rfl rfl)
theorem dX2_dependsOn_34 : decode cX2_dependsOn 34 = .ok (.invokestatic 147, 3) := dk_184 0 147 (dk_at dksX2_dependsOn_1 10 rfl rfl)
theorem dX2_dependsOn_37 : decode cX2_dependsOn 37 = .ok (.ifCond .eq 15, 3) := dk_153 0 15 (dk_at dksX2_dependsOn_1 13 rfl rfl)
theorem dX2_dependsOn_40 : decode cX2_dependsOn 40 = .ok (.aload_n 0, 1) := dk_42 (dk_at dksX2_dependsOn_1 16 rfl rfl)
theorem dX2_dependsOn_41 : decode cX2_dependsOn 41 = .ok (.iload 4, 2) := dk_21 4 (dk_at dksX2_dependsOn_1 17 rfl rfl)
theorem dX2_dependsOn_43 : decode cX2_dependsOn 43 = .ok (.invokevirtual 86, 3) := dk_182 0 86 (dk_at dksX2_dependsOn_1 19 rfl rfl)
theorem dX2_dependsOn_46 : decode cX2_dependsOn 46 = .ok (.invokevirtual 144, 3) := dk_182 0 144 (dk_at dksX2_dependsOn_2 0 rfl rfl)
theorem dX2_dependsOn_49 : decode cX2_dependsOn 49 = .ok (.goto 4, 3) := dk_167 0 4 (dk_at dksX2_dependsOn_2 3 rfl rfl)
theorem dX2_dependsOn_52 : decode cX2_dependsOn 52 = .ok (.iconst 0, 1) := dk_3 (dk_at dksX2_dependsOn_2 6 rfl rfl)
theorem dX2_dependsOn_53 : decode cX2_dependsOn 53 = .ok (.ior, 1) := dk_128 (dk_at dksX2_dependsOn_2 7 rfl rfl)
theorem dX2_dependsOn_54 : decode cX2_dependsOn 54 = .ok (.istore_n 2, 1) := dk_61 (dk_at dksX2_dependsOn_2 8 rfl rfl)
theorem dX2_dependsOn_55 : decode cX2_dependsOn 55 = .ok (.iinc 4 1, 3) := dk_132 4 1 (dk_at dksX2_dependsOn_2 9 rfl rfl)
theorem dX2_dependsOn_58 : decode cX2_dependsOn 58 = .ok (.goto (-37), 3) := dk_167 255 219 (dk_at dksX2_dependsOn_2 12 rfl rfl)
theorem dX2_dependsOn_61 : decode cX2_dependsOn 61 = .ok (.goto (-50), 3) := dk_167 255 206 (dk_at dksX2_dependsOn_2 15 rfl rfl)
theorem dX2_dependsOn_64 : decode cX2_dependsOn 64 = .ok (.iload_n 2, 1) := dk_28 (dk_at dksX2_dependsOn_2 18 rfl rfl)
theorem dX2_dependsOn_65 : decode cX2_dependsOn 65 = .ok (.ireturn, 1) := dk_172 (dk_at dksX2_dependsOn_2 19 rfl rfl)
abbrev cX2_ends : ByteArray := prog_5_method_22_code
def yX2_ends : MethodName := ⟨RX2, "ends", "()I"⟩
def dkwX2_ends_1 : List UInt8 := [182, 0, 86, 182, 0, 144, 2, 130, 126, 60, 132, 2, 1, 167, 255, 232, 27, 172]
abbrev dktX2_ends_1 : List UInt8 := dkwX2_ends_1 ++ []
def dkwX2_ends_0 : List UInt8 := [4, 42, 182, 0, 85, 120, 4, 100, 60, 3, 61, 28, 42, 182, 0, 85, 162, 0, 22, 27, 42, 28]
abbrev dktX2_ends_0 : List UInt8 := dkwX2_ends_0 ++ dktX2_ends_1
theorem dksX2_ends_0 : cX2_ends.data.toList.drop 0 = dktX2_ends_0 := by decide +kernel
theorem dksX2_ends_1 : cX2_ends.data.toList.drop 22 = dktX2_ends_1 := dk_seg dksX2_ends_0 22 rfl rfl
theorem dX2_ends_0 : decode cX2_ends 0 = .ok (.iconst 1, 1) := dk_4 (dk_at dksX2_ends_0 0 rfl rfl)
theorem dX2_ends_1 : decode cX2_ends 1 = .ok (.aload_n 0, 1) := dk_42 (dk_at dksX2_ends_0 1 rfl rfl)
theorem dX2_ends_2 : decode cX2_ends 2 = .ok (.invokevirtual 85, 3) := dk_182 0 85 (dk_at dksX2_ends_0 2 rfl rfl)
theorem dX2_ends_5 : decode cX2_ends 5 = .ok (.ishl, 1) := dk_120 (dk_at dksX2_ends_0 5 rfl rfl)
theorem dX2_ends_6 : decode cX2_ends 6 = .ok (.iconst 1, 1) := dk_4 (dk_at dksX2_ends_0 6 rfl rfl)
theorem dX2_ends_7 : decode cX2_ends 7 = .ok (.isub, 1) := dk_100 (dk_at dksX2_ends_0 7 rfl rfl)
theorem dX2_ends_8 : decode cX2_ends 8 = .ok (.istore_n 1, 1) := dk_60 (dk_at dksX2_ends_0 8 rfl rfl)
theorem dX2_ends_9 : decode cX2_ends 9 = .ok (.iconst 0, 1) := dk_3 (dk_at dksX2_ends_0 9 rfl rfl)
theorem dX2_ends_10 : decode cX2_ends 10 = .ok (.istore_n 2, 1) := dk_61 (dk_at dksX2_ends_0 10 rfl rfl)
theorem dX2_ends_11 : decode cX2_ends 11 = .ok (.iload_n 2, 1) := dk_28 (dk_at dksX2_ends_0 11 rfl rfl)
theorem dX2_ends_12 : decode cX2_ends 12 = .ok (.aload_n 0, 1) := dk_42 (dk_at dksX2_ends_0 12 rfl rfl)
theorem dX2_ends_13 : decode cX2_ends 13 = .ok (.invokevirtual 85, 3) := dk_182 0 85 (dk_at dksX2_ends_0 13 rfl rfl)
theorem dX2_ends_16 : decode cX2_ends 16 = .ok (.if_icmp .ge 22, 3) := dk_162 0 22 (dk_at dksX2_ends_0 16 rfl rfl)
theorem dX2_ends_19 : decode cX2_ends 19 = .ok (.iload_n 1, 1) := dk_27 (dk_at dksX2_ends_0 19 rfl rfl)
theorem dX2_ends_20 : decode cX2_ends 20 = .ok (.aload_n 0, 1) := dk_42 (dk_at dksX2_ends_0 20 rfl rfl)
theorem dX2_ends_21 : decode cX2_ends 21 = .ok (.iload_n 2, 1) := dk_28 (dk_at dksX2_ends_0 21 rfl rfl)
theorem dX2_ends_22 : decode cX2_ends 22 = .ok (.invokevirtual 86, 3) := dk_182 0 86 (dk_at dksX2_ends_1 0 rfl rfl)
theorem dX2_ends_25 : decode cX2_ends 25 = .ok (.invokevirtual 144, 3) := dk_182 0 144 (dk_at dksX2_ends_1 3 rfl rfl)
theorem dX2_ends_28 : decode cX2_ends 28 = .ok (.iconst (-1), 1) := dk_2 (dk_at dksX2_ends_1 6 rfl rfl)
theorem dX2_ends_29 : decode cX2_ends 29 = .ok (.ixor, 1) := dk_130 (dk_at dksX2_ends_1 7 rfl rfl)
theorem dX2_ends_30 : decode cX2_ends 30 = .ok (.iand, 1) := dk_126 (dk_at dksX2_ends_1 8 rfl rfl)
theorem dX2_ends_31 : decode cX2_ends 31 = .ok (.istore_n 1, 1) := dk_60 (dk_at dksX2_ends_1 9 rfl rfl)
theorem dX2_ends_32 : decode cX2_ends 32 = .ok (.iinc 2 1, 3) := dk_132 2 1 (dk_at dksX2_ends_1 10 rfl rfl)
theorem dX2_ends_35 : decode cX2_ends 35 = .ok (.goto (-24), 3) := dk_167 255 232 (dk_at dksX2_ends_1 13 rfl rfl)
theorem dX2_ends_38 : decode cX2_ends 38 = .ok (.iload_n 1, 1) := dk_27 (dk_at dksX2_ends_1 16 rfl rfl)
theorem dX2_ends_39 : decode cX2_ends 39 = .ok (.ireturn, 1) := dk_172 (dk_at dksX2_ends_1 17 rfl rfl)
abbrev cX2_meanRecord : ByteArray := prog_5_method_31_code
def yX2_meanRecord : MethodName := ⟨RX2, "meanRecord", "()D"⟩
def dkwX2_meanRecord_1 : List UInt8 := [167, 255, 236, 42, 180, 0, 66, 154, 0, 7, 14, 167, 0, 11, 27, 135, 42, 180, 0, 66, 135, 111, 175]
abbrev dktX2_meanRecord_1 : List UInt8 := dkwX2_meanRecord_1 ++ []
def dkwX2_meanRecord_0 : List UInt8 := [3, 60, 3, 61, 28, 42, 180, 0, 66, 162, 0, 18, 27, 42, 180, 0, 28, 28, 46, 96, 60, 132, 2, 1]
abbrev dktX2_meanRecord_0 : List UInt8 := dkwX2_meanRecord_0 ++ dktX2_meanRecord_1
theorem dksX2_meanRecord_0 : cX2_meanRecord.data.toList.drop 0 = dktX2_meanRecord_0 := by decide +kernel
theorem dksX2_meanRecord_1 : cX2_meanRecord.data.toList.drop 24 = dktX2_meanRecord_1 := dk_seg dksX2_meanRecord_0 24 rfl rfl
theorem dX2_meanRecord_0 : decode cX2_meanRecord 0 = .ok (.iconst 0, 1) := dk_3 (dk_at dksX2_meanRecord_0 0 rfl rfl)
theorem dX2_meanRecord_1 : decode cX2_meanRecord 1 = .ok (.istore_n 1, 1) := dk_60 (dk_at dksX2_meanRecord_0 1 rfl rfl)
theorem dX2_meanRecord_2 : decode cX2_meanRecord 2 = .ok (.iconst 0, 1) := dk_3 (dk_at dksX2_meanRecord_0 2 rfl rfl)
theorem dX2_meanRecord_3 : decode cX2_meanRecord 3 = .ok (.istore_n 2, 1) := dk_61 (dk_at dksX2_meanRecord_0 3 rfl rfl)
theorem dX2_meanRecord_4 : decode cX2_meanRecord 4 = .ok (.iload_n 2, 1) := dk_28 (dk_at dksX2_meanRecord_0 4 rfl rfl)
theorem dX2_meanRecord_5 : decode cX2_meanRecord 5 = .ok (.aload_n 0, 1) := dk_42 (dk_at dksX2_meanRecord_0 5 rfl rfl)
theorem dX2_meanRecord_6 : decode cX2_meanRecord 6 = .ok (.getfield 66, 3) := dk_180 0 66 (dk_at dksX2_meanRecord_0 6 rfl rfl)
theorem dX2_meanRecord_9 : decode cX2_meanRecord 9 = .ok (.if_icmp .ge 18, 3) := dk_162 0 18 (dk_at dksX2_meanRecord_0 9 rfl rfl)
theorem dX2_meanRecord_12 : decode cX2_meanRecord 12 = .ok (.iload_n 1, 1) := dk_27 (dk_at dksX2_meanRecord_0 12 rfl rfl)
theorem dX2_meanRecord_13 : decode cX2_meanRecord 13 = .ok (.aload_n 0, 1) := dk_42 (dk_at dksX2_meanRecord_0 13 rfl rfl)
theorem dX2_meanRecord_14 : decode cX2_meanRecord 14 = .ok (.getfield 28, 3) := dk_180 0 28 (dk_at dksX2_meanRecord_0 14 rfl rfl)
theorem dX2_meanRecord_17 : decode cX2_meanRecord 17 = .ok (.iload_n 2, 1) := dk_28 (dk_at dksX2_meanRecord_0 17 rfl rfl)
theorem dX2_meanRecord_18 : decode cX2_meanRecord 18 = .ok (.iaload, 1) := dk_46 (dk_at dksX2_meanRecord_0 18 rfl rfl)
theorem dX2_meanRecord_19 : decode cX2_meanRecord 19 = .ok (.iadd, 1) := dk_96 (dk_at dksX2_meanRecord_0 19 rfl rfl)
theorem dX2_meanRecord_20 : decode cX2_meanRecord 20 = .ok (.istore_n 1, 1) := dk_60 (dk_at dksX2_meanRecord_0 20 rfl rfl)
theorem dX2_meanRecord_21 : decode cX2_meanRecord 21 = .ok (.iinc 2 1, 3) := dk_132 2 1 (dk_at dksX2_meanRecord_0 21 rfl rfl)
theorem dX2_meanRecord_24 : decode cX2_meanRecord 24 = .ok (.goto (-20), 3) := dk_167 255 236 (dk_at dksX2_meanRecord_1 0 rfl rfl)
theorem dX2_meanRecord_27 : decode cX2_meanRecord 27 = .ok (.aload_n 0, 1) := dk_42 (dk_at dksX2_meanRecord_1 3 rfl rfl)
theorem dX2_meanRecord_28 : decode cX2_meanRecord 28 = .ok (.getfield 66, 3) := dk_180 0 66 (dk_at dksX2_meanRecord_1 4 rfl rfl)
theorem dX2_meanRecord_31 : decode cX2_meanRecord 31 = .ok (.ifCond .ne 7, 3) := dk_154 0 7 (dk_at dksX2_meanRecord_1 7 rfl rfl)
theorem dX2_meanRecord_34 : decode cX2_meanRecord 34 = .ok (.dconst 0, 1) := dk_14 (dk_at dksX2_meanRecord_1 10 rfl rfl)
theorem dX2_meanRecord_35 : decode cX2_meanRecord 35 = .ok (.goto 11, 3) := dk_167 0 11 (dk_at dksX2_meanRecord_1 11 rfl rfl)
theorem dX2_meanRecord_38 : decode cX2_meanRecord 38 = .ok (.iload_n 1, 1) := dk_27 (dk_at dksX2_meanRecord_1 14 rfl rfl)
theorem dX2_meanRecord_39 : decode cX2_meanRecord 39 = .ok (.i2d, 1) := dk_135 (dk_at dksX2_meanRecord_1 15 rfl rfl)
theorem dX2_meanRecord_40 : decode cX2_meanRecord 40 = .ok (.aload_n 0, 1) := dk_42 (dk_at dksX2_meanRecord_1 16 rfl rfl)
theorem dX2_meanRecord_41 : decode cX2_meanRecord 41 = .ok (.getfield 66, 3) := dk_180 0 66 (dk_at dksX2_meanRecord_1 17 rfl rfl)
theorem dX2_meanRecord_44 : decode cX2_meanRecord 44 = .ok (.i2d, 1) := dk_135 (dk_at dksX2_meanRecord_1 20 rfl rfl)
theorem dX2_meanRecord_45 : decode cX2_meanRecord 45 = .ok (.ddiv, 1) := dk_111 (dk_at dksX2_meanRecord_1 21 rfl rfl)
theorem dX2_meanRecord_46 : decode cX2_meanRecord 46 = .ok (.dreturn, 1) := dk_175 (dk_at dksX2_meanRecord_1 22 rfl rfl)
abbrev cX2_untilOverload : ByteArray := prog_5_method_36_code
def yX2_untilOverload : MethodName := ⟨RX2, "untilOverload", "()I"⟩
def dkwX2_untilOverload_1 : List UInt8 := [182, 0, 193, 132, 2, 1, 167, 255, 233, 2, 172]
abbrev dktX2_untilOverload_1 : List UInt8 := dkwX2_untilOverload_1 ++ []
def dkwX2_untilOverload_0 : List UInt8 := [42, 182, 0, 209, 76, 3, 61, 28, 17, 0, 200, 163, 0, 22, 43, 182, 0, 190, 153, 0, 5, 28, 172, 43]
abbrev dktX2_untilOverload_0 : List UInt8 := dkwX2_untilOverload_0 ++ dktX2_untilOverload_1
theorem dksX2_untilOverload_0 : cX2_untilOverload.data.toList.drop 0 = dktX2_untilOverload_0 := by decide +kernel
theorem dksX2_untilOverload_1 : cX2_untilOverload.data.toList.drop 24 = dktX2_untilOverload_1 := dk_seg dksX2_untilOverload_0 24 rfl rfl
theorem dX2_untilOverload_0 : decode cX2_untilOverload 0 = .ok (.aload_n 0, 1) := dk_42 (dk_at dksX2_untilOverload_0 0 rfl rfl)
theorem dX2_untilOverload_1 : decode cX2_untilOverload 1 = .ok (.invokevirtual 209, 3) := dk_182 0 209 (dk_at dksX2_untilOverload_0 1 rfl rfl)
theorem dX2_untilOverload_4 : decode cX2_untilOverload 4 = .ok (.astore_n 1, 1) := dk_76 (dk_at dksX2_untilOverload_0 4 rfl rfl)
theorem dX2_untilOverload_5 : decode cX2_untilOverload 5 = .ok (.iconst 0, 1) := dk_3 (dk_at dksX2_untilOverload_0 5 rfl rfl)
theorem dX2_untilOverload_6 : decode cX2_untilOverload 6 = .ok (.istore_n 2, 1) := dk_61 (dk_at dksX2_untilOverload_0 6 rfl rfl)
theorem dX2_untilOverload_7 : decode cX2_untilOverload 7 = .ok (.iload_n 2, 1) := dk_28 (dk_at dksX2_untilOverload_0 7 rfl rfl)
theorem dX2_untilOverload_8 : decode cX2_untilOverload 8 = .ok (.sipush 200, 3) := dk_17 0 200 (dk_at dksX2_untilOverload_0 8 rfl rfl)
theorem dX2_untilOverload_11 : decode cX2_untilOverload 11 = .ok (.if_icmp .gt 22, 3) := dk_163 0 22 (dk_at dksX2_untilOverload_0 11 rfl rfl)
theorem dX2_untilOverload_14 : decode cX2_untilOverload 14 = .ok (.aload_n 1, 1) := dk_43 (dk_at dksX2_untilOverload_0 14 rfl rfl)
theorem dX2_untilOverload_15 : decode cX2_untilOverload 15 = .ok (.invokevirtual 190, 3) := dk_182 0 190 (dk_at dksX2_untilOverload_0 15 rfl rfl)
theorem dX2_untilOverload_18 : decode cX2_untilOverload 18 = .ok (.ifCond .eq 5, 3) := dk_153 0 5 (dk_at dksX2_untilOverload_0 18 rfl rfl)
theorem dX2_untilOverload_21 : decode cX2_untilOverload 21 = .ok (.iload_n 2, 1) := dk_28 (dk_at dksX2_untilOverload_0 21 rfl rfl)
theorem dX2_untilOverload_22 : decode cX2_untilOverload 22 = .ok (.ireturn, 1) := dk_172 (dk_at dksX2_untilOverload_0 22 rfl rfl)
theorem dX2_untilOverload_23 : decode cX2_untilOverload 23 = .ok (.aload_n 1, 1) := dk_43 (dk_at dksX2_untilOverload_0 23 rfl rfl)
theorem dX2_untilOverload_24 : decode cX2_untilOverload 24 = .ok (.invokevirtual 193, 3) := dk_182 0 193 (dk_at dksX2_untilOverload_1 0 rfl rfl)
theorem dX2_untilOverload_27 : decode cX2_untilOverload 27 = .ok (.iinc 2 1, 3) := dk_132 2 1 (dk_at dksX2_untilOverload_1 3 rfl rfl)
theorem dX2_untilOverload_30 : decode cX2_untilOverload 30 = .ok (.goto (-23), 3) := dk_167 255 233 (dk_at dksX2_untilOverload_1 6 rfl rfl)
theorem dX2_untilOverload_33 : decode cX2_untilOverload 33 = .ok (.iconst (-1), 1) := dk_2 (dk_at dksX2_untilOverload_1 9 rfl rfl)
theorem dX2_untilOverload_34 : decode cX2_untilOverload 34 = .ok (.ireturn, 1) := dk_172 (dk_at dksX2_untilOverload_1 10 rfl rfl)
abbrev cX2_running : ByteArray := prog_5_method_35_code
def yX2_running : MethodName := ⟨RX2, "running", "()LPatchCords$Panel;"⟩
def dkwX2_running_0 : List UInt8 := [42, 182, 0, 206, 76, 43, 4, 181, 0, 73, 43, 176]
abbrev dktX2_running_0 : List UInt8 := dkwX2_running_0 ++ []
theorem dksX2_running_0 : cX2_running.data.toList.drop 0 = dktX2_running_0 := by decide +kernel
theorem dX2_running_0 : decode cX2_running 0 = .ok (.aload_n 0, 1) := dk_42 (dk_at dksX2_running_0 0 rfl rfl)
theorem dX2_running_1 : decode cX2_running 1 = .ok (.invokevirtual 206, 3) := dk_182 0 206 (dk_at dksX2_running_0 1 rfl rfl)
theorem dX2_running_4 : decode cX2_running 4 = .ok (.astore_n 1, 1) := dk_76 (dk_at dksX2_running_0 4 rfl rfl)
theorem dX2_running_5 : decode cX2_running 5 = .ok (.aload_n 1, 1) := dk_43 (dk_at dksX2_running_0 5 rfl rfl)
theorem dX2_running_6 : decode cX2_running 6 = .ok (.iconst 1, 1) := dk_4 (dk_at dksX2_running_0 6 rfl rfl)
theorem dX2_running_7 : decode cX2_running 7 = .ok (.putfield 73, 3) := dk_181 0 73 (dk_at dksX2_running_0 7 rfl rfl)
theorem dX2_running_10 : decode cX2_running 10 = .ok (.aload_n 1, 1) := dk_43 (dk_at dksX2_running_0 10 rfl rfl)
theorem dX2_running_11 : decode cX2_running 11 = .ok (.areturn, 1) := dk_176 (dk_at dksX2_running_0 11 rfl rfl)
abbrev cX2_step : ByteArray := prog_5_method_27_code
def yX2_step : MethodName := ⟨RX2, "step", "()V"⟩
def dkwX2_step_6 : List UInt8 := [181, 0, 73, 177]
abbrev dktX2_step_6 : List UInt8 := dkwX2_step_6 ++ []
def dkwX2_step_5 : List UInt8 := [159, 0, 7, 42, 182, 0, 187, 42, 180, 0, 69, 153, 0, 15, 42, 182, 0, 190, 153, 0, 8, 42, 5]
abbrev dktX2_step_5 : List UInt8 := dkwX2_step_5 ++ dktX2_step_6
def dkwX2_step_4 : List UInt8 := [27, 46, 184, 0, 184, 184, 0, 101, 181, 0, 181, 132, 1, 1, 167, 255, 217, 42, 180, 0, 40, 2]
abbrev dktX2_step_4 : List UInt8 := dkwX2_step_4 ++ dktX2_step_5
def dkwX2_step_3 : List UInt8 := [42, 182, 0, 85, 162, 0, 37, 42, 27, 182, 0, 86, 42, 27, 182, 0, 86, 180, 0, 181, 42, 180, 0, 22]
abbrev dktX2_step_3 : List UInt8 := dkwX2_step_3 ++ dktX2_step_4
def dkwX2_step_2 : List UInt8 := [180, 0, 37, 42, 182, 0, 177, 42, 89, 180, 0, 76, 4, 96, 181, 0, 76, 42, 182, 0, 128, 3, 60, 27]
abbrev dktX2_step_2 : List UInt8 := dkwX2_step_2 ++ dktX2_step_3
def dkwX2_step_1 : List UInt8 := [182, 0, 86, 192, 0, 140, 77, 44, 44, 180, 0, 171, 181, 0, 174, 132, 1, 1, 167, 255, 217, 42]
abbrev dktX2_step_1 : List UInt8 := dkwX2_step_1 ++ dktX2_step_2
def dkwX2_step_0 : List UInt8 := [3, 60, 27, 42, 182, 0, 85, 162, 0, 37, 42, 27, 182, 0, 86, 193, 0, 140, 153, 0, 20, 42, 27]
abbrev dktX2_step_0 : List UInt8 := dkwX2_step_0 ++ dktX2_step_1
theorem dksX2_step_0 : cX2_step.data.toList.drop 0 = dktX2_step_0 := by decide +kernel
theorem dksX2_step_1 : cX2_step.data.toList.drop 23 = dktX2_step_1 := dk_seg dksX2_step_0 23 rfl rfl
theorem dksX2_step_2 : cX2_step.data.toList.drop 45 = dktX2_step_2 := dk_seg dksX2_step_1 22 rfl rfl
theorem dksX2_step_3 : cX2_step.data.toList.drop 69 = dktX2_step_3 := dk_seg dksX2_step_2 24 rfl rfl
theorem dksX2_step_4 : cX2_step.data.toList.drop 93 = dktX2_step_4 := dk_seg dksX2_step_3 24 rfl rfl
theorem dksX2_step_5 : cX2_step.data.toList.drop 115 = dktX2_step_5 := dk_seg dksX2_step_4 22 rfl rfl
theorem dksX2_step_6 : cX2_step.data.toList.drop 138 = dktX2_step_6 := dk_seg dksX2_step_5 23 rfl rfl
theorem dX2_step_0 : decode cX2_step 0 = .ok (.iconst 0, 1) := dk_3 (dk_at dksX2_step_0 0 rfl rfl)
theorem dX2_step_1 : decode cX2_step 1 = .ok (.istore_n 1, 1) := dk_60 (dk_at dksX2_step_0 1 rfl rfl)
theorem dX2_step_2 : decode cX2_step 2 = .ok (.iload_n 1, 1) := dk_27 (dk_at dksX2_step_0 2 rfl rfl)
theorem dX2_step_3 : decode cX2_step 3 = .ok (.aload_n 0, 1) := dk_42 (dk_at dksX2_step_0 3 rfl rfl)
theorem dX2_step_4 : decode cX2_step 4 = .ok (.invokevirtual 85, 3) := dk_182 0 85 (dk_at dksX2_step_0 4 rfl rfl)
theorem dX2_step_7 : decode cX2_step 7 = .ok (.if_icmp .ge 37, 3) := dk_162 0 37 (dk_at dksX2_step_0 7 rfl rfl)
theorem dX2_step_10 : decode cX2_step 10 = .ok (.aload_n 0, 1) := dk_42 (dk_at dksX2_step_0 10 rfl rfl)
theorem dX2_step_11 : decode cX2_step 11 = .ok (.iload_n 1, 1) := dk_27 (dk_at dksX2_step_0 11 rfl rfl)
theorem dX2_step_12 : decode cX2_step 12 = .ok (.invokevirtual 86, 3) := dk_182 0 86 (dk_at dksX2_step_0 12 rfl rfl)
theorem dX2_step_15 : decode cX2_step 15 = .ok (.instanceof 140, 3) := dk_193 0 140 (dk_at dksX2_step_0 15 rfl rfl)
theorem dX2_step_18 : decode cX2_step 18 = .ok (.ifCond .eq 20, 3) := dk_153 0 20 (dk_at dksX2_step_0 18 rfl rfl)
theorem dX2_step_21 : decode cX2_step 21 = .ok (.aload_n 0, 1) := dk_42 (dk_at dksX2_step_0 21 rfl rfl)
theorem dX2_step_22 : decode cX2_step 22 = .ok (.iload_n 1, 1) := dk_27 (dk_at dksX2_step_0 22 rfl rfl)
theorem dX2_step_23 : decode cX2_step 23 = .ok (.invokevirtual 86, 3) := dk_182 0 86 (dk_at dksX2_step_1 0 rfl rfl)
theorem dX2_step_26 : decode cX2_step 26 = .ok (.checkcast 140, 3) := dk_192 0 140 (dk_at dksX2_step_1 3 rfl rfl)
theorem dX2_step_29 : decode cX2_step 29 = .ok (.astore_n 2, 1) := dk_77 (dk_at dksX2_step_1 6 rfl rfl)
theorem dX2_step_30 : decode cX2_step 30 = .ok (.aload_n 2, 1) := dk_44 (dk_at dksX2_step_1 7 rfl rfl)
theorem dX2_step_31 : decode cX2_step 31 = .ok (.aload_n 2, 1) := dk_44 (dk_at dksX2_step_1 8 rfl rfl)
theorem dX2_step_32 : decode cX2_step 32 = .ok (.getfield 171, 3) := dk_180 0 171 (dk_at dksX2_step_1 9 rfl rfl)
theorem dX2_step_35 : decode cX2_step 35 = .ok (.putfield 174, 3) := dk_181 0 174 (dk_at dksX2_step_1 12 rfl rfl)
theorem dX2_step_38 : decode cX2_step 38 = .ok (.iinc 1 1, 3) := dk_132 1 1 (dk_at dksX2_step_1 15 rfl rfl)
theorem dX2_step_41 : decode cX2_step 41 = .ok (.goto (-39), 3) := dk_167 255 217 (dk_at dksX2_step_1 18 rfl rfl)
theorem dX2_step_44 : decode cX2_step 44 = .ok (.aload_n 0, 1) := dk_42 (dk_at dksX2_step_1 21 rfl rfl)
theorem dX2_step_45 : decode cX2_step 45 = .ok (.getfield 37, 3) := dk_180 0 37 (dk_at dksX2_step_2 0 rfl rfl)
theorem dX2_step_48 : decode cX2_step 48 = .ok (.aload_n 0, 1) := dk_42 (dk_at dksX2_step_2 3 rfl rfl)
theorem dX2_step_49 : decode cX2_step 49 = .ok (.invokevirtual 177, 3) := dk_182 0 177 (dk_at dksX2_step_2 4 rfl rfl)
theorem dX2_step_52 : decode cX2_step 52 = .ok (.aload_n 0, 1) := dk_42 (dk_at dksX2_step_2 7 rfl rfl)
theorem dX2_step_53 : decode cX2_step 53 = .ok (.dup, 1) := dk_89 (dk_at dksX2_step_2 8 rfl rfl)
theorem dX2_step_54 : decode cX2_step 54 = .ok (.getfield 76, 3) := dk_180 0 76 (dk_at dksX2_step_2 9 rfl rfl)
theorem dX2_step_57 : decode cX2_step 57 = .ok (.iconst 1, 1) := dk_4 (dk_at dksX2_step_2 12 rfl rfl)
theorem dX2_step_58 : decode cX2_step 58 = .ok (.iadd, 1) := dk_96 (dk_at dksX2_step_2 13 rfl rfl)
theorem dX2_step_59 : decode cX2_step 59 = .ok (.putfield 76, 3) := dk_181 0 76 (dk_at dksX2_step_2 14 rfl rfl)
theorem dX2_step_62 : decode cX2_step 62 = .ok (.aload_n 0, 1) := dk_42 (dk_at dksX2_step_2 17 rfl rfl)
theorem dX2_step_63 : decode cX2_step 63 = .ok (.invokevirtual 128, 3) := dk_182 0 128 (dk_at dksX2_step_2 18 rfl rfl)
theorem dX2_step_66 : decode cX2_step 66 = .ok (.iconst 0, 1) := dk_3 (dk_at dksX2_step_2 21 rfl rfl)
theorem dX2_step_67 : decode cX2_step 67 = .ok (.istore_n 1, 1) := dk_60 (dk_at dksX2_step_2 22 rfl rfl)
theorem dX2_step_68 : decode cX2_step 68 = .ok (.iload_n 1, 1) := dk_27 (dk_at dksX2_step_2 23 rfl rfl)
theorem dX2_step_69 : decode cX2_step 69 = .ok (.aload_n 0, 1) := dk_42 (dk_at dksX2_step_3 0 rfl rfl)
theorem dX2_step_70 : decode cX2_step 70 = .ok (.invokevirtual 85, 3) := dk_182 0 85 (dk_at dksX2_step_3 1 rfl rfl)
theorem dX2_step_73 : decode cX2_step 73 = .ok (.if_icmp .ge 37, 3) := dk_162 0 37 (dk_at dksX2_step_3 4 rfl rfl)
theorem dX2_step_76 : decode cX2_step 76 = .ok (.aload_n 0, 1) := dk_42 (dk_at dksX2_step_3 7 rfl rfl)
theorem dX2_step_77 : decode cX2_step 77 = .ok (.iload_n 1, 1) := dk_27 (dk_at dksX2_step_3 8 rfl rfl)
theorem dX2_step_78 : decode cX2_step 78 = .ok (.invokevirtual 86, 3) := dk_182 0 86 (dk_at dksX2_step_3 9 rfl rfl)
theorem dX2_step_81 : decode cX2_step 81 = .ok (.aload_n 0, 1) := dk_42 (dk_at dksX2_step_3 12 rfl rfl)
theorem dX2_step_82 : decode cX2_step 82 = .ok (.iload_n 1, 1) := dk_27 (dk_at dksX2_step_3 13 rfl rfl)
theorem dX2_step_83 : decode cX2_step 83 = .ok (.invokevirtual 86, 3) := dk_182 0 86 (dk_at dksX2_step_3 14 rfl rfl)
theorem dX2_step_86 : decode cX2_step 86 = .ok (.getfield 181, 3) := dk_180 0 181 (dk_at dksX2_step_3 17 rfl rfl)
theorem dX2_step_89 : decode cX2_step 89 = .ok (.aload_n 0, 1) := dk_42 (dk_at dksX2_step_3 20 rfl rfl)
theorem dX2_step_90 : decode cX2_step 90 = .ok (.getfield 22, 3) := dk_180 0 22 (dk_at dksX2_step_3 21 rfl rfl)
theorem dX2_step_93 : decode cX2_step 93 = .ok (.iload_n 1, 1) := dk_27 (dk_at dksX2_step_4 0 rfl rfl)
theorem dX2_step_94 : decode cX2_step 94 = .ok (.iaload, 1) := dk_46 (dk_at dksX2_step_4 1 rfl rfl)
theorem dX2_step_95 : decode cX2_step 95 = .ok (.invokestatic 184, 3) := dk_184 0 184 (dk_at dksX2_step_4 2 rfl rfl)
theorem dX2_step_98 : decode cX2_step 98 = .ok (.invokestatic 101, 3) := dk_184 0 101 (dk_at dksX2_step_4 5 rfl rfl)
theorem dX2_step_101 : decode cX2_step 101 = .ok (.putfield 181, 3) := dk_181 0 181 (dk_at dksX2_step_4 8 rfl rfl)
theorem dX2_step_104 : decode cX2_step 104 = .ok (.iinc 1 1, 3) := dk_132 1 1 (dk_at dksX2_step_4 11 rfl rfl)
theorem dX2_step_107 : decode cX2_step 107 = .ok (.goto (-39), 3) := dk_167 255 217 (dk_at dksX2_step_4 14 rfl rfl)
theorem dX2_step_110 : decode cX2_step 110 = .ok (.aload_n 0, 1) := dk_42 (dk_at dksX2_step_4 17 rfl rfl)
theorem dX2_step_111 : decode cX2_step 111 = .ok (.getfield 40, 3) := dk_180 0 40 (dk_at dksX2_step_4 18 rfl rfl)
theorem dX2_step_114 : decode cX2_step 114 = .ok (.iconst (-1), 1) := dk_2 (dk_at dksX2_step_4 21 rfl rfl)
theorem dX2_step_115 : decode cX2_step 115 = .ok (.if_icmp .eq 7, 3) := dk_159 0 7 (dk_at dksX2_step_5 0 rfl rfl)
theorem dX2_step_118 : decode cX2_step 118 = .ok (.aload_n 0, 1) := dk_42 (dk_at dksX2_step_5 3 rfl rfl)
theorem dX2_step_119 : decode cX2_step 119 = .ok (.invokevirtual 187, 3) := dk_182 0 187 (dk_at dksX2_step_5 4 rfl rfl)
theorem dX2_step_122 : decode cX2_step 122 = .ok (.aload_n 0, 1) := dk_42 (dk_at dksX2_step_5 7 rfl rfl)
theorem dX2_step_123 : decode cX2_step 123 = .ok (.getfield 69, 3) := dk_180 0 69 (dk_at dksX2_step_5 8 rfl rfl)
theorem dX2_step_126 : decode cX2_step 126 = .ok (.ifCond .eq 15, 3) := dk_153 0 15 (dk_at dksX2_step_5 11 rfl rfl)
theorem dX2_step_129 : decode cX2_step 129 = .ok (.aload_n 0, 1) := dk_42 (dk_at dksX2_step_5 14 rfl rfl)
theorem dX2_step_130 : decode cX2_step 130 = .ok (.invokevirtual 190, 3) := dk_182 0 190 (dk_at dksX2_step_5 15 rfl rfl)
theorem dX2_step_133 : decode cX2_step 133 = .ok (.ifCond .eq 8, 3) := dk_153 0 8 (dk_at dksX2_step_5 18 rfl rfl)
theorem dX2_step_136 : decode cX2_step 136 = .ok (.aload_n 0, 1) := dk_42 (dk_at dksX2_step_5 21 rfl rfl)
theorem dX2_step_137 : decode cX2_step 137 = .ok (.iconst 2, 1) := dk_5 (dk_at dksX2_step_5 22 rfl rfl)
theorem dX2_step_138 : decode cX2_step 138 = .ok (.putfield 73, 3) := dk_181 0 73 (dk_at dksX2_step_6 0 rfl rfl)
theorem dX2_step_141 : decode cX2_step 141 = .ok (.return_, 1) := dk_177 (dk_at dksX2_step_6 3 rfl rfl)
abbrev cX2_tellRates : ByteArray := prog_5_method_24_code
def yX2_tellRates : MethodName := ⟨RX2, "tellRates", "()V"⟩
def dkwX2_tellRates_2 : List UInt8 := [182, 0, 158, 132, 1, 1, 167, 255, 210, 177]
abbrev dktX2_tellRates_2 : List UInt8 := dkwX2_tellRates_2 ++ []
def dkwX2_tellRates_1 : List UInt8 := [153, 0, 27, 42, 42, 27, 182, 0, 86, 182, 0, 117, 42, 27, 182, 0, 86, 192, 0, 140, 42, 180, 0, 25]
abbrev dktX2_tellRates_1 : List UInt8 := dkwX2_tellRates_1 ++ dktX2_tellRates_2
def dkwX2_tellRates_0 : List UInt8 := [42, 182, 0, 128, 3, 60, 27, 42, 182, 0, 85, 162, 0, 44, 42, 27, 182, 0, 86, 193, 0, 140]
abbrev dktX2_tellRates_0 : List UInt8 := dkwX2_tellRates_0 ++ dktX2_tellRates_1
theorem dksX2_tellRates_0 : cX2_tellRates.data.toList.drop 0 = dktX2_tellRates_0 := by decide +kernel
theorem dksX2_tellRates_1 : cX2_tellRates.data.toList.drop 22 = dktX2_tellRates_1 := dk_seg dksX2_tellRates_0 22 rfl rfl
theorem dksX2_tellRates_2 : cX2_tellRates.data.toList.drop 46 = dktX2_tellRates_2 := dk_seg dksX2_tellRates_1 24 rfl rfl
theorem dX2_tellRates_0 : decode cX2_tellRates 0 = .ok (.aload_n 0, 1) := dk_42 (dk_at dksX2_tellRates_0 0 rfl rfl)
theorem dX2_tellRates_1 : decode cX2_tellRates 1 = .ok (.invokevirtual 128, 3) := dk_182 0 128 (dk_at dksX2_tellRates_0 1 rfl rfl)
theorem dX2_tellRates_4 : decode cX2_tellRates 4 = .ok (.iconst 0, 1) := dk_3 (dk_at dksX2_tellRates_0 4 rfl rfl)
theorem dX2_tellRates_5 : decode cX2_tellRates 5 = .ok (.istore_n 1, 1) := dk_60 (dk_at dksX2_tellRates_0 5 rfl rfl)
theorem dX2_tellRates_6 : decode cX2_tellRates 6 = .ok (.iload_n 1, 1) := dk_27 (dk_at dksX2_tellRates_0 6 rfl rfl)
theorem dX2_tellRates_7 : decode cX2_tellRates 7 = .ok (.aload_n 0, 1) := dk_42 (dk_at dksX2_tellRates_0 7 rfl rfl)
theorem dX2_tellRates_8 : decode cX2_tellRates 8 = .ok (.invokevirtual 85, 3) := dk_182 0 85 (dk_at dksX2_tellRates_0 8 rfl rfl)
theorem dX2_tellRates_11 : decode cX2_tellRates 11 = .ok (.if_icmp .ge 44, 3) := dk_162 0 44 (dk_at dksX2_tellRates_0 11 rfl rfl)
theorem dX2_tellRates_14 : decode cX2_tellRates 14 = .ok (.aload_n 0, 1) := dk_42 (dk_at dksX2_tellRates_0 14 rfl rfl)
theorem dX2_tellRates_15 : decode cX2_tellRates 15 = .ok (.iload_n 1, 1) := dk_27 (dk_at dksX2_tellRates_0 15 rfl rfl)
theorem dX2_tellRates_16 : decode cX2_tellRates 16 = .ok (.invokevirtual 86, 3) := dk_182 0 86 (dk_at dksX2_tellRates_0 16 rfl rfl)
theorem dX2_tellRates_19 : decode cX2_tellRates 19 = .ok (.instanceof 140, 3) := dk_193 0 140 (dk_at dksX2_tellRates_0 19 rfl rfl)
theorem dX2_tellRates_22 : decode cX2_tellRates 22 = .ok (.ifCond .eq 27, 3) := dk_153 0 27 (dk_at dksX2_tellRates_1 0 rfl rfl)
theorem dX2_tellRates_25 : decode cX2_tellRates 25 = .ok (.aload_n 0, 1) := dk_42 (dk_at dksX2_tellRates_1 3 rfl rfl)
theorem dX2_tellRates_26 : decode cX2_tellRates 26 = .ok (.aload_n 0, 1) := dk_42 (dk_at dksX2_tellRates_1 4 rfl rfl)
theorem dX2_tellRates_27 : decode cX2_tellRates 27 = .ok (.iload_n 1, 1) := dk_27 (dk_at dksX2_tellRates_1 5 rfl rfl)
theorem dX2_tellRates_28 : decode cX2_tellRates 28 = .ok (.invokevirtual 86, 3) := dk_182 0 86 (dk_at dksX2_tellRates_1 6 rfl rfl)
theorem dX2_tellRates_31 : decode cX2_tellRates 31 = .ok (.invokevirtual 117, 3) := dk_182 0 117 (dk_at dksX2_tellRates_1 9 rfl rfl)
theorem dX2_tellRates_34 : decode cX2_tellRates 34 = .ok (.aload_n 0, 1) := dk_42 (dk_at dksX2_tellRates_1 12 rfl rfl)
theorem dX2_tellRates_35 : decode cX2_tellRates 35 = .ok (.iload_n 1, 1) := dk_27 (dk_at dksX2_tellRates_1 13 rfl rfl)
theorem dX2_tellRates_36 : decode cX2_tellRates 36 = .ok (.invokevirtual 86, 3) := dk_182 0 86 (dk_at dksX2_tellRates_1 14 rfl rfl)
theorem dX2_tellRates_39 : decode cX2_tellRates 39 = .ok (.checkcast 140, 3) := dk_192 0 140 (dk_at dksX2_tellRates_1 17 rfl rfl)
theorem dX2_tellRates_42 : decode cX2_tellRates 42 = .ok (.aload_n 0, 1) := dk_42 (dk_at dksX2_tellRates_1 20 rfl rfl)
theorem dX2_tellRates_43 : decode cX2_tellRates 43 = .ok (.getfield 25, 3) := dk_180 0 25 (dk_at dksX2_tellRates_1 21 rfl rfl)
theorem dX2_tellRates_46 : decode cX2_tellRates 46 = .ok (.invokevirtual 158, 3) := dk_182 0 158 (dk_at dksX2_tellRates_2 0 rfl rfl)
theorem dX2_tellRates_49 : decode cX2_tellRates 49 = .ok (.iinc 1 1, 3) := dk_132 1 1 (dk_at dksX2_tellRates_2 3 rfl rfl)
theorem dX2_tellRates_52 : decode cX2_tellRates 52 = .ok (.goto (-46), 3) := dk_167 255 210 (dk_at dksX2_tellRates_2 6 rfl rfl)
theorem dX2_tellRates_55 : decode cX2_tellRates 55 = .ok (.return_, 1) := dk_177 (dk_at dksX2_tellRates_2 9 rfl rfl)
abbrev cX2_moveAll : ByteArray := prog_5_method_25_code
def yX2_moveAll : MethodName := ⟨RX2, "moveAll", "(I)V"⟩
def dkwX2_moveAll_1 : List UInt8 := [182, 0, 86, 192, 0, 140, 78, 45, 45, 180, 0, 162, 27, 108, 182, 0, 164, 132, 2, 1, 167, 255, 215, 177]
abbrev dktX2_moveAll_1 : List UInt8 := dkwX2_moveAll_1 ++ []
def dkwX2_moveAll_0 : List UInt8 := [3, 61, 28, 42, 182, 0, 85, 162, 0, 39, 42, 28, 182, 0, 86, 193, 0, 140, 153, 0, 22, 42, 28]
abbrev dktX2_moveAll_0 : List UInt8 := dkwX2_moveAll_0 ++ dktX2_moveAll_1
theorem dksX2_moveAll_0 : cX2_moveAll.data.toList.drop 0 = dktX2_moveAll_0 := by decide +kernel
theorem dksX2_moveAll_1 : cX2_moveAll.data.toList.drop 23 = dktX2_moveAll_1 := dk_seg dksX2_moveAll_0 23 rfl rfl
theorem dX2_moveAll_0 : decode cX2_moveAll 0 = .ok (.iconst 0, 1) := dk_3 (dk_at dksX2_moveAll_0 0 rfl rfl)
theorem dX2_moveAll_1 : decode cX2_moveAll 1 = .ok (.istore_n 2, 1) := dk_61 (dk_at dksX2_moveAll_0 1 rfl rfl)
theorem dX2_moveAll_2 : decode cX2_moveAll 2 = .ok (.iload_n 2, 1) := dk_28 (dk_at dksX2_moveAll_0 2 rfl rfl)
theorem dX2_moveAll_3 : decode cX2_moveAll 3 = .ok (.aload_n 0, 1) := dk_42 (dk_at dksX2_moveAll_0 3 rfl rfl)
theorem dX2_moveAll_4 : decode cX2_moveAll 4 = .ok (.invokevirtual 85, 3) := dk_182 0 85 (dk_at dksX2_moveAll_0 4 rfl rfl)
theorem dX2_moveAll_7 : decode cX2_moveAll 7 = .ok (.if_icmp .ge 39, 3) := dk_162 0 39 (dk_at dksX2_moveAll_0 7 rfl rfl)
theorem dX2_moveAll_10 : decode cX2_moveAll 10 = .ok (.aload_n 0, 1) := dk_42 (dk_at dksX2_moveAll_0 10 rfl rfl)
theorem dX2_moveAll_11 : decode cX2_moveAll 11 = .ok (.iload_n 2, 1) := dk_28 (dk_at dksX2_moveAll_0 11 rfl rfl)
theorem dX2_moveAll_12 : decode cX2_moveAll 12 = .ok (.invokevirtual 86, 3) := dk_182 0 86 (dk_at dksX2_moveAll_0 12 rfl rfl)
theorem dX2_moveAll_15 : decode cX2_moveAll 15 = .ok (.instanceof 140, 3) := dk_193 0 140 (dk_at dksX2_moveAll_0 15 rfl rfl)
theorem dX2_moveAll_18 : decode cX2_moveAll 18 = .ok (.ifCond .eq 22, 3) := dk_153 0 22 (dk_at dksX2_moveAll_0 18 rfl rfl)
theorem dX2_moveAll_21 : decode cX2_moveAll 21 = .ok (.aload_n 0, 1) := dk_42 (dk_at dksX2_moveAll_0 21 rfl rfl)
theorem dX2_moveAll_22 : decode cX2_moveAll 22 = .ok (.iload_n 2, 1) := dk_28 (dk_at dksX2_moveAll_0 22 rfl rfl)
theorem dX2_moveAll_23 : decode cX2_moveAll 23 = .ok (.invokevirtual 86, 3) := dk_182 0 86 (dk_at dksX2_moveAll_1 0 rfl rfl)
theorem dX2_moveAll_26 : decode cX2_moveAll 26 = .ok (.checkcast 140, 3) := dk_192 0 140 (dk_at dksX2_moveAll_1 3 rfl rfl)
theorem dX2_moveAll_29 : decode cX2_moveAll 29 = .ok (.astore_n 3, 1) := dk_78 (dk_at dksX2_moveAll_1 6 rfl rfl)
theorem dX2_moveAll_30 : decode cX2_moveAll 30 = .ok (.aload_n 3, 1) := dk_45 (dk_at dksX2_moveAll_1 7 rfl rfl)
theorem dX2_moveAll_31 : decode cX2_moveAll 31 = .ok (.aload_n 3, 1) := dk_45 (dk_at dksX2_moveAll_1 8 rfl rfl)
theorem dX2_moveAll_32 : decode cX2_moveAll 32 = .ok (.getfield 162, 3) := dk_180 0 162 (dk_at dksX2_moveAll_1 9 rfl rfl)
theorem dX2_moveAll_35 : decode cX2_moveAll 35 = .ok (.iload_n 1, 1) := dk_27 (dk_at dksX2_moveAll_1 12 rfl rfl)
theorem dX2_moveAll_36 : decode cX2_moveAll 36 = .ok (.idiv, 1) := dk_108 (dk_at dksX2_moveAll_1 13 rfl rfl)
theorem dX2_moveAll_37 : decode cX2_moveAll 37 = .ok (.invokevirtual 164, 3) := dk_182 0 164 (dk_at dksX2_moveAll_1 14 rfl rfl)
theorem dX2_moveAll_40 : decode cX2_moveAll 40 = .ok (.iinc 2 1, 3) := dk_132 2 1 (dk_at dksX2_moveAll_1 17 rfl rfl)
theorem dX2_moveAll_43 : decode cX2_moveAll 43 = .ok (.goto (-41), 3) := dk_167 255 215 (dk_at dksX2_moveAll_1 20 rfl rfl)
theorem dX2_moveAll_46 : decode cX2_moveAll 46 = .ok (.return_, 1) := dk_177 (dk_at dksX2_moveAll_1 23 rfl rfl)
abbrev cX2_recordNow : ByteArray := prog_5_method_26_code
def yX2_recordNow : MethodName := ⟨RX2, "recordNow", "()V"⟩
def dkwX2_recordNow_5 : List UInt8 := [181, 0, 82, 42, 89, 180, 0, 79, 4, 96, 181, 0, 79, 177]
abbrev dktX2_recordNow_5 : List UInt8 := dkwX2_recordNow_5 ++ []
def dkwX2_recordNow_4 : List UInt8 := [154, 0, 7, 2, 167, 0, 12, 42, 180, 0, 76, 42, 180, 0, 82, 100, 181, 0, 44, 42, 42, 180, 0, 76]
abbrev dktX2_recordNow_4 : List UInt8 := dkwX2_recordNow_4 ++ dktX2_recordNow_5
def dkwX2_recordNow_3 : List UInt8 := [42, 180, 0, 66, 4, 96, 16, 24, 184, 0, 168, 181, 0, 66, 28, 153, 0, 45, 42, 42, 180, 0, 79]
abbrev dktX2_recordNow_3 : List UInt8 := dkwX2_recordNow_3 ++ dktX2_recordNow_4
def dkwX2_recordNow_2 : List UInt8 := [29, 42, 180, 0, 28, 29, 4, 100, 46, 79, 132, 3, 255, 167, 255, 235, 42, 180, 0, 28, 3, 27, 79, 42]
abbrev dktX2_recordNow_2 : List UInt8 := dkwX2_recordNow_2 ++ dktX2_recordNow_3
def dkwX2_recordNow_1 : List UInt8 := [156, 0, 11, 27, 155, 0, 7, 4, 167, 0, 4, 3, 61, 16, 23, 62, 29, 158, 0, 23, 42, 180, 0, 28]
abbrev dktX2_recordNow_1 : List UInt8 := dkwX2_recordNow_1 ++ dktX2_recordNow_2
def dkwX2_recordNow_0 : List UInt8 := [42, 180, 0, 22, 42, 180, 0, 40, 46, 60, 42, 180, 0, 66, 158, 0, 20, 42, 180, 0, 28, 3, 46]
abbrev dktX2_recordNow_0 : List UInt8 := dkwX2_recordNow_0 ++ dktX2_recordNow_1
theorem dksX2_recordNow_0 : cX2_recordNow.data.toList.drop 0 = dktX2_recordNow_0 := by decide +kernel
theorem dksX2_recordNow_1 : cX2_recordNow.data.toList.drop 23 = dktX2_recordNow_1 := dk_seg dksX2_recordNow_0 23 rfl rfl
theorem dksX2_recordNow_2 : cX2_recordNow.data.toList.drop 47 = dktX2_recordNow_2 := dk_seg dksX2_recordNow_1 24 rfl rfl
theorem dksX2_recordNow_3 : cX2_recordNow.data.toList.drop 71 = dktX2_recordNow_3 := dk_seg dksX2_recordNow_2 24 rfl rfl
theorem dksX2_recordNow_4 : cX2_recordNow.data.toList.drop 94 = dktX2_recordNow_4 := dk_seg dksX2_recordNow_3 23 rfl rfl
theorem dksX2_recordNow_5 : cX2_recordNow.data.toList.drop 118 = dktX2_recordNow_5 := dk_seg dksX2_recordNow_4 24 rfl rfl
theorem dX2_recordNow_0 : decode cX2_recordNow 0 = .ok (.aload_n 0, 1) := dk_42 (dk_at dksX2_recordNow_0 0 rfl rfl)
theorem dX2_recordNow_1 : decode cX2_recordNow 1 = .ok (.getfield 22, 3) := dk_180 0 22 (dk_at dksX2_recordNow_0 1 rfl rfl)
theorem dX2_recordNow_4 : decode cX2_recordNow 4 = .ok (.aload_n 0, 1) := dk_42 (dk_at dksX2_recordNow_0 4 rfl rfl)
theorem dX2_recordNow_5 : decode cX2_recordNow 5 = .ok (.getfield 40, 3) := dk_180 0 40 (dk_at dksX2_recordNow_0 5 rfl rfl)
theorem dX2_recordNow_8 : decode cX2_recordNow 8 = .ok (.iaload, 1) := dk_46 (dk_at dksX2_recordNow_0 8 rfl rfl)
theorem dX2_recordNow_9 : decode cX2_recordNow 9 = .ok (.istore_n 1, 1) := dk_60 (dk_at dksX2_recordNow_0 9 rfl rfl)
theorem dX2_recordNow_10 : decode cX2_recordNow 10 = .ok (.aload_n 0, 1) := dk_42 (dk_at dksX2_recordNow_0 10 rfl rfl)
theorem dX2_recordNow_11 : decode cX2_recordNow 11 = .ok (.getfield 66, 3) := dk_180 0 66 (dk_at dksX2_recordNow_0 11 rfl rfl)
theorem dX2_recordNow_14 : decode cX2_recordNow 14 = .ok (.ifCond .le 20, 3) := dk_158 0 20 (dk_at dksX2_recordNow_0 14 rfl rfl)
theorem dX2_recordNow_17 : decode cX2_recordNow 17 = .ok (.aload_n 0, 1) := dk_42 (dk_at dksX2_recordNow_0 17 rfl rfl)
theorem dX2_recordNow_18 : decode cX2_recordNow 18 = .ok (.getfield 28, 3) := dk_180 0 28 (dk_at dksX2_recordNow_0 18 rfl rfl)
theorem dX2_recordNow_21 : decode cX2_recordNow 21 = .ok (.iconst 0, 1) := dk_3 (dk_at dksX2_recordNow_0 21 rfl rfl)
theorem dX2_recordNow_22 : decode cX2_recordNow 22 = .ok (.iaload, 1) := dk_46 (dk_at dksX2_recordNow_0 22 rfl rfl)
theorem dX2_recordNow_23 : decode cX2_recordNow 23 = .ok (.ifCond .ge 11, 3) := dk_156 0 11 (dk_at dksX2_recordNow_1 0 rfl rfl)
theorem dX2_recordNow_26 : decode cX2_recordNow 26 = .ok (.iload_n 1, 1) := dk_27 (dk_at dksX2_recordNow_1 3 rfl rfl)
theorem dX2_recordNow_27 : decode cX2_recordNow 27 = .ok (.ifCond .lt 7, 3) := dk_155 0 7 (dk_at dksX2_recordNow_1 4 rfl rfl)
theorem dX2_recordNow_30 : decode cX2_recordNow 30 = .ok (.iconst 1, 1) := dk_4 (dk_at dksX2_recordNow_1 7 rfl rfl)
theorem dX2_recordNow_31 : decode cX2_recordNow 31 = .ok (.goto 4, 3) := dk_167 0 4 (dk_at dksX2_recordNow_1 8 rfl rfl)
theorem dX2_recordNow_34 : decode cX2_recordNow 34 = .ok (.iconst 0, 1) := dk_3 (dk_at dksX2_recordNow_1 11 rfl rfl)
theorem dX2_recordNow_35 : decode cX2_recordNow 35 = .ok (.istore_n 2, 1) := dk_61 (dk_at dksX2_recordNow_1 12 rfl rfl)
theorem dX2_recordNow_36 : decode cX2_recordNow 36 = .ok (.bipush 23, 2) := dk_16 23 (dk_at dksX2_recordNow_1 13 rfl rfl)
theorem dX2_recordNow_38 : decode cX2_recordNow 38 = .ok (.istore_n 3, 1) := dk_62 (dk_at dksX2_recordNow_1 15 rfl rfl)
theorem dX2_recordNow_39 : decode cX2_recordNow 39 = .ok (.iload_n 3, 1) := dk_29 (dk_at dksX2_recordNow_1 16 rfl rfl)
theorem dX2_recordNow_40 : decode cX2_recordNow 40 = .ok (.ifCond .le 23, 3) := dk_158 0 23 (dk_at dksX2_recordNow_1 17 rfl rfl)
theorem dX2_recordNow_43 : decode cX2_recordNow 43 = .ok (.aload_n 0, 1) := dk_42 (dk_at dksX2_recordNow_1 20 rfl rfl)
theorem dX2_recordNow_44 : decode cX2_recordNow 44 = .ok (.getfield 28, 3) := dk_180 0 28 (dk_at dksX2_recordNow_1 21 rfl rfl)
theorem dX2_recordNow_47 : decode cX2_recordNow 47 = .ok (.iload_n 3, 1) := dk_29 (dk_at dksX2_recordNow_2 0 rfl rfl)
theorem dX2_recordNow_48 : decode cX2_recordNow 48 = .ok (.aload_n 0, 1) := dk_42 (dk_at dksX2_recordNow_2 1 rfl rfl)
theorem dX2_recordNow_49 : decode cX2_recordNow 49 = .ok (.getfield 28, 3) := dk_180 0 28 (dk_at dksX2_recordNow_2 2 rfl rfl)
theorem dX2_recordNow_52 : decode cX2_recordNow 52 = .ok (.iload_n 3, 1) := dk_29 (dk_at dksX2_recordNow_2 5 rfl rfl)
theorem dX2_recordNow_53 : decode cX2_recordNow 53 = .ok (.iconst 1, 1) := dk_4 (dk_at dksX2_recordNow_2 6 rfl rfl)
theorem dX2_recordNow_54 : decode cX2_recordNow 54 = .ok (.isub, 1) := dk_100 (dk_at dksX2_recordNow_2 7 rfl rfl)
theorem dX2_recordNow_55 : decode cX2_recordNow 55 = .ok (.iaload, 1) := dk_46 (dk_at dksX2_recordNow_2 8 rfl rfl)
theorem dX2_recordNow_56 : decode cX2_recordNow 56 = .ok (.iastore, 1) := dk_79 (dk_at dksX2_recordNow_2 9 rfl rfl)
theorem dX2_recordNow_57 : decode cX2_recordNow 57 = .ok (.iinc 3 (-1), 3) := dk_132 3 255 (dk_at dksX2_recordNow_2 10 rfl rfl)
theorem dX2_recordNow_60 : decode cX2_recordNow 60 = .ok (.goto (-21), 3) := dk_167 255 235 (dk_at dksX2_recordNow_2 13 rfl rfl)
theorem dX2_recordNow_63 : decode cX2_recordNow 63 = .ok (.aload_n 0, 1) := dk_42 (dk_at dksX2_recordNow_2 16 rfl rfl)
theorem dX2_recordNow_64 : decode cX2_recordNow 64 = .ok (.getfield 28, 3) := dk_180 0 28 (dk_at dksX2_recordNow_2 17 rfl rfl)
theorem dX2_recordNow_67 : decode cX2_recordNow 67 = .ok (.iconst 0, 1) := dk_3 (dk_at dksX2_recordNow_2 20 rfl rfl)
theorem dX2_recordNow_68 : decode cX2_recordNow 68 = .ok (.iload_n 1, 1) := dk_27 (dk_at dksX2_recordNow_2 21 rfl rfl)
theorem dX2_recordNow_69 : decode cX2_recordNow 69 = .ok (.iastore, 1) := dk_79 (dk_at dksX2_recordNow_2 22 rfl rfl)
theorem dX2_recordNow_70 : decode cX2_recordNow 70 = .ok (.aload_n 0, 1) := dk_42 (dk_at dksX2_recordNow_2 23 rfl rfl)
theorem dX2_recordNow_71 : decode cX2_recordNow 71 = .ok (.aload_n 0, 1) := dk_42 (dk_at dksX2_recordNow_3 0 rfl rfl)
theorem dX2_recordNow_72 : decode cX2_recordNow 72 = .ok (.getfield 66, 3) := dk_180 0 66 (dk_at dksX2_recordNow_3 1 rfl rfl)
theorem dX2_recordNow_75 : decode cX2_recordNow 75 = .ok (.iconst 1, 1) := dk_4 (dk_at dksX2_recordNow_3 4 rfl rfl)
theorem dX2_recordNow_76 : decode cX2_recordNow 76 = .ok (.iadd, 1) := dk_96 (dk_at dksX2_recordNow_3 5 rfl rfl)
theorem dX2_recordNow_77 : decode cX2_recordNow 77 = .ok (.bipush 24, 2) := dk_16 24 (dk_at dksX2_recordNow_3 6 rfl rfl)
theorem dX2_recordNow_79 : decode cX2_recordNow 79 = .ok (.invokestatic 168, 3) := dk_184 0 168 (dk_at dksX2_recordNow_3 8 rfl rfl)
theorem dX2_recordNow_82 : decode cX2_recordNow 82 = .ok (.putfield 66, 3) := dk_181 0 66 (dk_at dksX2_recordNow_3 11 rfl rfl)
theorem dX2_recordNow_85 : decode cX2_recordNow 85 = .ok (.iload_n 2, 1) := dk_28 (dk_at dksX2_recordNow_3 14 rfl rfl)
theorem dX2_recordNow_86 : decode cX2_recordNow 86 = .ok (.ifCond .eq 45, 3) := dk_153 0 45 (dk_at dksX2_recordNow_3 15 rfl rfl)
theorem dX2_recordNow_89 : decode cX2_recordNow 89 = .ok (.aload_n 0, 1) := dk_42 (dk_at dksX2_recordNow_3 18 rfl rfl)
theorem dX2_recordNow_90 : decode cX2_recordNow 90 = .ok (.aload_n 0, 1) := dk_42 (dk_at dksX2_recordNow_3 19 rfl rfl)
theorem dX2_recordNow_91 : decode cX2_recordNow 91 = .ok (.getfield 79, 3) := dk_180 0 79 (dk_at dksX2_recordNow_3 20 rfl rfl)
theorem dX2_recordNow_94 : decode cX2_recordNow 94 = .ok (.ifCond .ne 7, 3) := dk_154 0 7 (dk_at dksX2_recordNow_4 0 rfl rfl)
theorem dX2_recordNow_97 : decode cX2_recordNow 97 = .ok (.iconst (-1), 1) := dk_2 (dk_at dksX2_recordNow_4 3 rfl rfl)
theorem dX2_recordNow_98 : decode cX2_recordNow 98 = .ok (.goto 12, 3) := dk_167 0 12 (dk_at dksX2_recordNow_4 4 rfl rfl)
theorem dX2_recordNow_101 : decode cX2_recordNow 101 = .ok (.aload_n 0, 1) := dk_42 (dk_at dksX2_recordNow_4 7 rfl rfl)
theorem dX2_recordNow_102 : decode cX2_recordNow 102 = .ok (.getfield 76, 3) := dk_180 0 76 (dk_at dksX2_recordNow_4 8 rfl rfl)
theorem dX2_recordNow_105 : decode cX2_recordNow 105 = .ok (.aload_n 0, 1) := dk_42 (dk_at dksX2_recordNow_4 11 rfl rfl)
theorem dX2_recordNow_106 : decode cX2_recordNow 106 = .ok (.getfield 82, 3) := dk_180 0 82 (dk_at dksX2_recordNow_4 12 rfl rfl)
theorem dX2_recordNow_109 : decode cX2_recordNow 109 = .ok (.isub, 1) := dk_100 (dk_at dksX2_recordNow_4 15 rfl rfl)
theorem dX2_recordNow_110 : decode cX2_recordNow 110 = .ok (.putfield 44, 3) := dk_181 0 44 (dk_at dksX2_recordNow_4 16 rfl rfl)
theorem dX2_recordNow_113 : decode cX2_recordNow 113 = .ok (.aload_n 0, 1) := dk_42 (dk_at dksX2_recordNow_4 19 rfl rfl)
theorem dX2_recordNow_114 : decode cX2_recordNow 114 = .ok (.aload_n 0, 1) := dk_42 (dk_at dksX2_recordNow_4 20 rfl rfl)
theorem dX2_recordNow_115 : decode cX2_recordNow 115 = .ok (.getfield 76, 3) := dk_180 0 76 (dk_at dksX2_recordNow_4 21 rfl rfl)
theorem dX2_recordNow_118 : decode cX2_recordNow 118 = .ok (.putfield 82, 3) := dk_181 0 82 (dk_at dksX2_recordNow_5 0 rfl rfl)
theorem dX2_recordNow_121 : decode cX2_recordNow 121 = .ok (.aload_n 0, 1) := dk_42 (dk_at dksX2_recordNow_5 3 rfl rfl)
theorem dX2_recordNow_122 : decode cX2_recordNow 122 = .ok (.dup, 1) := dk_89 (dk_at dksX2_recordNow_5 4 rfl rfl)
theorem dX2_recordNow_123 : decode cX2_recordNow 123 = .ok (.getfield 79, 3) := dk_180 0 79 (dk_at dksX2_recordNow_5 5 rfl rfl)
theorem dX2_recordNow_126 : decode cX2_recordNow 126 = .ok (.iconst 1, 1) := dk_4 (dk_at dksX2_recordNow_5 8 rfl rfl)
theorem dX2_recordNow_127 : decode cX2_recordNow 127 = .ok (.iadd, 1) := dk_96 (dk_at dksX2_recordNow_5 9 rfl rfl)
theorem dX2_recordNow_128 : decode cX2_recordNow 128 = .ok (.putfield 79, 3) := dk_181 0 79 (dk_at dksX2_recordNow_5 10 rfl rfl)
theorem dX2_recordNow_131 : decode cX2_recordNow 131 = .ok (.return_, 1) := dk_177 (dk_at dksX2_recordNow_5 13 rfl rfl)
abbrev cX2_levels : ByteArray := prog_5_method_5_code
def yX2_levels : MethodName := ⟨RX2, "levels", "()[I"⟩
def dkwX2_levels_3 : List UInt8 := [21, 4, 79, 132, 3, 1, 167, 255, 194, 167, 255, 183, 43, 176]
abbrev dktX2_levels_3 : List UInt8 := dkwX2_levels_3 ++ []
def dkwX2_levels_2 : List UInt8 := [96, 54, 4, 28, 154, 0, 11, 21, 4, 43, 29, 46, 164, 0, 7, 4, 167, 0, 4, 3, 61, 43, 29]
abbrev dktX2_levels_2 : List UInt8 := dkwX2_levels_2 ++ dktX2_levels_3
def dkwX2_levels_1 : List UInt8 := [29, 182, 0, 86, 182, 0, 90, 153, 0, 7, 3, 167, 0, 14, 4, 43, 42, 29, 182, 0, 86, 184, 0, 94]
abbrev dktX2_levels_1 : List UInt8 := dkwX2_levels_1 ++ dktX2_levels_2
def dkwX2_levels_0 : List UInt8 := [16, 16, 188, 10, 76, 4, 61, 28, 153, 0, 75, 3, 61, 3, 62, 29, 42, 182, 0, 85, 162, 0, 60, 42]
abbrev dktX2_levels_0 : List UInt8 := dkwX2_levels_0 ++ dktX2_levels_1
theorem dksX2_levels_0 : cX2_levels.data.toList.drop 0 = dktX2_levels_0 := by decide +kernel
theorem dksX2_levels_1 : cX2_levels.data.toList.drop 24 = dktX2_levels_1 := dk_seg dksX2_levels_0 24 rfl rfl
theorem dksX2_levels_2 : cX2_levels.data.toList.drop 48 = dktX2_levels_2 := dk_seg dksX2_levels_1 24 rfl rfl
theorem dksX2_levels_3 : cX2_levels.data.toList.drop 71 = dktX2_levels_3 := dk_seg dksX2_levels_2 23 rfl rfl
theorem dX2_levels_0 : decode cX2_levels 0 = .ok (.bipush 16, 2) := dk_16 16 (dk_at dksX2_levels_0 0 rfl rfl)
theorem dX2_levels_2 : decode cX2_levels 2 = .ok (.newarray .int, 2) := dk_188_10 (dk_at dksX2_levels_0 2 rfl rfl)
theorem dX2_levels_4 : decode cX2_levels 4 = .ok (.astore_n 1, 1) := dk_76 (dk_at dksX2_levels_0 4 rfl rfl)
theorem dX2_levels_5 : decode cX2_levels 5 = .ok (.iconst 1, 1) := dk_4 (dk_at dksX2_levels_0 5 rfl rfl)
theorem dX2_levels_6 : decode cX2_levels 6 = .ok (.istore_n 2, 1) := dk_61 (dk_at dksX2_levels_0 6 rfl rfl)
theorem dX2_levels_7 : decode cX2_levels 7 = .ok (.iload_n 2, 1) := dk_28 (dk_at dksX2_levels_0 7 rfl rfl)
theorem dX2_levels_8 : decode cX2_levels 8 = .ok (.ifCond .eq 75, 3) := dk_153 0 75 (dk_at dksX2_levels_0 8 rfl rfl)
theorem dX2_levels_11 : decode cX2_levels 11 = .ok (.iconst 0, 1) := dk_3 (dk_at dksX2_levels_0 11 rfl rfl)
theorem dX2_levels_12 : decode cX2_levels 12 = .ok (.istore_n 2, 1) := dk_61 (dk_at dksX2_levels_0 12 rfl rfl)
theorem dX2_levels_13 : decode cX2_levels 13 = .ok (.iconst 0, 1) := dk_3 (dk_at dksX2_levels_0 13 rfl rfl)
theorem dX2_levels_14 : decode cX2_levels 14 = .ok (.istore_n 3, 1) := dk_62 (dk_at dksX2_levels_0 14 rfl rfl)
theorem dX2_levels_15 : decode cX2_levels 15 = .ok (.iload_n 3, 1) := dk_29 (dk_at dksX2_levels_0 15 rfl rfl)
theorem dX2_levels_16 : decode cX2_levels 16 = .ok (.aload_n 0, 1) := dk_42 (dk_at dksX2_levels_0 16 rfl rfl)
theorem dX2_levels_17 : decode cX2_levels 17 = .ok (.invokevirtual 85, 3) := dk_182 0 85 (dk_at dksX2_levels_0 17 rfl rfl)
theorem dX2_levels_20 : decode cX2_levels 20 = .ok (.if_icmp .ge 60, 3) := dk_162 0 60 (dk_at dksX2_levels_0 20 rfl rfl)
theorem dX2_levels_23 : decode cX2_levels 23 = .ok (.aload_n 0, 1) := dk_42 (dk_at dksX2_levels_0 23 rfl rfl)
theorem dX2_levels_24 : decode cX2_levels 24 = .ok (.iload_n 3, 1) := dk_29 (dk_at dksX2_levels_1 0 rfl rfl)
theorem dX2_levels_25 : decode cX2_levels 25 = .ok (.invokevirtual 86, 3) := dk_182 0 86 (dk_at dksX2_levels_1 1 rfl rfl)
theorem dX2_levels_28 : decode cX2_levels 28 = .ok (.invokevirtual 90, 3) := dk_182 0 90 (dk_at dksX2_levels_1 4 rfl rfl)
theorem dX2_levels_31 : decode cX2_levels 31 = .ok (.ifCond .eq 7, 3) := dk_153 0 7 (dk_at dksX2_levels_1 7 rfl rfl)
theorem dX2_levels_34 : decode cX2_levels 34 = .ok (.iconst 0, 1) := dk_3 (dk_at dksX2_levels_1 10 rfl rfl)
theorem dX2_levels_35 : decode cX2_levels 35 = .ok (.goto 14, 3) := dk_167 0 14 (dk_at dksX2_levels_1 11 rfl rfl)
theorem dX2_levels_38 : decode cX2_levels 38 = .ok (.iconst 1, 1) := dk_4 (dk_at dksX2_levels_1 14 rfl rfl)
theorem dX2_levels_39 : decode cX2_levels 39 = .ok (.aload_n 1, 1) := dk_43 (dk_at dksX2_levels_1 15 rfl rfl)
theorem dX2_levels_40 : decode cX2_levels 40 = .ok (.aload_n 0, 1) := dk_42 (dk_at dksX2_levels_1 16 rfl rfl)
theorem dX2_levels_41 : decode cX2_levels 41 = .ok (.iload_n 3, 1) := dk_29 (dk_at dksX2_levels_1 17 rfl rfl)
theorem dX2_levels_42 : decode cX2_levels 42 = .ok (.invokevirtual 86, 3) := dk_182 0 86 (dk_at dksX2_levels_1 18 rfl rfl)
theorem dX2_levels_45 : decode cX2_levels 45 = .ok (.invokestatic 94, 3) := dk_184 0 94 (dk_at dksX2_levels_1 21 rfl rfl)
theorem dX2_levels_48 : decode cX2_levels 48 = .ok (.iadd, 1) := dk_96 (dk_at dksX2_levels_2 0 rfl rfl)
theorem dX2_levels_49 : decode cX2_levels 49 = .ok (.istore 4, 2) := dk_54 4 (dk_at dksX2_levels_2 1 rfl rfl)
theorem dX2_levels_51 : decode cX2_levels 51 = .ok (.iload_n 2, 1) := dk_28 (dk_at dksX2_levels_2 3 rfl rfl)
theorem dX2_levels_52 : decode cX2_levels 52 = .ok (.ifCond .ne 11, 3) := dk_154 0 11 (dk_at dksX2_levels_2 4 rfl rfl)
theorem dX2_levels_55 : decode cX2_levels 55 = .ok (.iload 4, 2) := dk_21 4 (dk_at dksX2_levels_2 7 rfl rfl)
theorem dX2_levels_57 : decode cX2_levels 57 = .ok (.aload_n 1, 1) := dk_43 (dk_at dksX2_levels_2 9 rfl rfl)
theorem dX2_levels_58 : decode cX2_levels 58 = .ok (.iload_n 3, 1) := dk_29 (dk_at dksX2_levels_2 10 rfl rfl)
theorem dX2_levels_59 : decode cX2_levels 59 = .ok (.iaload, 1) := dk_46 (dk_at dksX2_levels_2 11 rfl rfl)
theorem dX2_levels_60 : decode cX2_levels 60 = .ok (.if_icmp .le 7, 3) := dk_164 0 7 (dk_at dksX2_levels_2 12 rfl rfl)
theorem dX2_levels_63 : decode cX2_levels 63 = .ok (.iconst 1, 1) := dk_4 (dk_at dksX2_levels_2 15 rfl rfl)
theorem dX2_levels_64 : decode cX2_levels 64 = .ok (.goto 4, 3) := dk_167 0 4 (dk_at dksX2_levels_2 16 rfl rfl)
theorem dX2_levels_67 : decode cX2_levels 67 = .ok (.iconst 0, 1) := dk_3 (dk_at dksX2_levels_2 19 rfl rfl)
theorem dX2_levels_68 : decode cX2_levels 68 = .ok (.istore_n 2, 1) := dk_61 (dk_at dksX2_levels_2 20 rfl rfl)
theorem dX2_levels_69 : decode cX2_levels 69 = .ok (.aload_n 1, 1) := dk_43 (dk_at dksX2_levels_2 21 rfl rfl)
theorem dX2_levels_70 : decode cX2_levels 70 = .ok (.iload_n 3, 1) := dk_29 (dk_at dksX2_levels_2 22 rfl rfl)
theorem dX2_levels_71 : decode cX2_levels 71 = .ok (.iload 4, 2) := dk_21 4 (dk_at dksX2_levels_3 0 rfl rfl)
theorem dX2_levels_73 : decode cX2_levels 73 = .ok (.iastore, 1) := dk_79 (dk_at dksX2_levels_3 2 rfl rfl)
theorem dX2_levels_74 : decode cX2_levels 74 = .ok (.iinc 3 1, 3) := dk_132 3 1 (dk_at dksX2_levels_3 3 rfl rfl)
theorem dX2_levels_77 : decode cX2_levels 77 = .ok (.goto (-62), 3) := dk_167 255 194 (dk_at dksX2_levels_3 6 rfl rfl)
theorem dX2_levels_80 : decode cX2_levels 80 = .ok (.goto (-73), 3) := dk_167 255 183 (dk_at dksX2_levels_3 9 rfl rfl)
theorem dX2_levels_83 : decode cX2_levels 83 = .ok (.aload_n 1, 1) := dk_43 (dk_at dksX2_levels_3 12 rfl rfl)
theorem dX2_levels_84 : decode cX2_levels 84 = .ok (.areturn, 1) := dk_176 (dk_at dksX2_levels_3 13 rfl rfl)
abbrev cX2_highest : ByteArray := prog_5_method_6_code
def yX2_highest : MethodName := ⟨RX2, "highest", "([ILPatchCords$Part;)I"⟩
def dkwX2_highest_1 : List UInt8 := [167, 0, 15, 28, 42, 43, 180, 0, 98, 29, 46, 46, 184, 0, 101, 61, 132, 3, 1, 167, 255, 217, 28, 172]
abbrev dktX2_highest_1 : List UInt8 := dkwX2_highest_1 ++ []
def dkwX2_highest_0 : List UInt8 := [3, 61, 3, 62, 29, 43, 180, 0, 98, 190, 162, 0, 36, 43, 180, 0, 98, 29, 46, 2, 160, 0, 7, 28]
abbrev dktX2_highest_0 : List UInt8 := dkwX2_highest_0 ++ dktX2_highest_1
theorem dksX2_highest_0 : cX2_highest.data.toList.drop 0 = dktX2_highest_0 := by decide +kernel
theorem dksX2_highest_1 : cX2_highest.data.toList.drop 24 = dktX2_highest_1 := dk_seg dksX2_highest_0 24 rfl rfl
theorem dX2_highest_0 : decode cX2_highest 0 = .ok (.iconst 0, 1) := dk_3 (dk_at dksX2_highest_0 0 rfl rfl)
theorem dX2_highest_1 : decode cX2_highest 1 = .ok (.istore_n 2, 1) := dk_61 (dk_at dksX2_highest_0 1 rfl rfl)
theorem dX2_highest_2 : decode cX2_highest 2 = .ok (.iconst 0, 1) := dk_3 (dk_at dksX2_highest_0 2 rfl rfl)
theorem dX2_highest_3 : decode cX2_highest 3 = .ok (.istore_n 3, 1) := dk_62 (dk_at dksX2_highest_0 3 rfl rfl)
theorem dX2_highest_4 : decode cX2_highest 4 = .ok (.iload_n 3, 1) := dk_29 (dk_at dksX2_highest_0 4 rfl rfl)
theorem dX2_highest_5 : decode cX2_highest 5 = .ok (.aload_n 1, 1) := dk_43 (dk_at dksX2_highest_0 5 rfl rfl)
theorem dX2_highest_6 : decode cX2_highest 6 = .ok (.getfield 98, 3) := dk_180 0 98 (dk_at dksX2_highest_0 6 rfl rfl)
theorem dX2_highest_9 : decode cX2_highest 9 = .ok (.arraylength, 1) := dk_190 (dk_at dksX2_highest_0 9 rfl rfl)
theorem dX2_highest_10 : decode cX2_highest 10 = .ok (.if_icmp .ge 36, 3) := dk_162 0 36 (dk_at dksX2_highest_0 10 rfl rfl)
theorem dX2_highest_13 : decode cX2_highest 13 = .ok (.aload_n 1, 1) := dk_43 (dk_at dksX2_highest_0 13 rfl rfl)
theorem dX2_highest_14 : decode cX2_highest 14 = .ok (.getfield 98, 3) := dk_180 0 98 (dk_at dksX2_highest_0 14 rfl rfl)
theorem dX2_highest_17 : decode cX2_highest 17 = .ok (.iload_n 3, 1) := dk_29 (dk_at dksX2_highest_0 17 rfl rfl)
theorem dX2_highest_18 : decode cX2_highest 18 = .ok (.iaload, 1) := dk_46 (dk_at dksX2_highest_0 18 rfl rfl)
theorem dX2_highest_19 : decode cX2_highest 19 = .ok (.iconst (-1), 1) := dk_2 (dk_at dksX2_highest_0 19 rfl rfl)
theorem dX2_highest_20 : decode cX2_highest 20 = .ok (.if_icmp .ne 7, 3) := dk_160 0 7 (dk_at dksX2_highest_0 20 rfl rfl)
theorem dX2_highest_23 : decode cX2_highest 23 = .ok (.iload_n 2, 1) := dk_28 (dk_at dksX2_highest_0 23 rfl rfl)
theorem dX2_highest_24 : decode cX2_highest 24 = .ok (.goto 15, 3) := dk_167 0 15 (dk_at dksX2_highest_1 0 rfl rfl)
theorem dX2_highest_27 : decode cX2_highest 27 = .ok (.iload_n 2, 1) := dk_28 (dk_at dksX2_highest_1 3 rfl rfl)
theorem dX2_highest_28 : decode cX2_highest 28 = .ok (.aload_n 0, 1) := dk_42 (dk_at dksX2_highest_1 4 rfl rfl)
theorem dX2_highest_29 : decode cX2_highest 29 = .ok (.aload_n 1, 1) := dk_43 (dk_at dksX2_highest_1 5 rfl rfl)
theorem dX2_highest_30 : decode cX2_highest 30 = .ok (.getfield 98, 3) := dk_180 0 98 (dk_at dksX2_highest_1 6 rfl rfl)
theorem dX2_highest_33 : decode cX2_highest 33 = .ok (.iload_n 3, 1) := dk_29 (dk_at dksX2_highest_1 9 rfl rfl)
theorem dX2_highest_34 : decode cX2_highest 34 = .ok (.iaload, 1) := dk_46 (dk_at dksX2_highest_1 10 rfl rfl)
theorem dX2_highest_35 : decode cX2_highest 35 = .ok (.iaload, 1) := dk_46 (dk_at dksX2_highest_1 11 rfl rfl)
theorem dX2_highest_36 : decode cX2_highest 36 = .ok (.invokestatic 101, 3) := dk_184 0 101 (dk_at dksX2_highest_1 12 rfl rfl)
theorem dX2_highest_39 : decode cX2_highest 39 = .ok (.istore_n 2, 1) := dk_61 (dk_at dksX2_highest_1 15 rfl rfl)
theorem dX2_highest_40 : decode cX2_highest 40 = .ok (.iinc 3 1, 3) := dk_132 3 1 (dk_at dksX2_highest_1 16 rfl rfl)
theorem dX2_highest_43 : decode cX2_highest 43 = .ok (.goto (-39), 3) := dk_167 255 217 (dk_at dksX2_highest_1 19 rfl rfl)
theorem dX2_highest_46 : decode cX2_highest 46 = .ok (.iload_n 2, 1) := dk_28 (dk_at dksX2_highest_1 22 rfl rfl)
theorem dX2_highest_47 : decode cX2_highest 47 = .ok (.ireturn, 1) := dk_172 (dk_at dksX2_highest_1 23 rfl rfl)
abbrev cX2_pass : ByteArray := prog_5_method_28_code
def yX2_pass : MethodName := ⟨RX2, "pass", "(I)I"⟩
def dkwX2_pass_1 : List UInt8 := [167, 255, 236, 28, 172]
abbrev dktX2_pass_1 : List UInt8 := dkwX2_pass_1 ++ []
def dkwX2_pass_0 : List UInt8 := [3, 61, 28, 27, 162, 0, 21, 42, 180, 0, 73, 4, 160, 0, 13, 42, 182, 0, 193, 132, 2, 1]
abbrev dktX2_pass_0 : List UInt8 := dkwX2_pass_0 ++ dktX2_pass_1
theorem dksX2_pass_0 : cX2_pass.data.toList.drop 0 = dktX2_pass_0 := by decide +kernel
theorem dksX2_pass_1 : cX2_pass.data.toList.drop 22 = dktX2_pass_1 := dk_seg dksX2_pass_0 22 rfl rfl
theorem dX2_pass_0 : decode cX2_pass 0 = .ok (.iconst 0, 1) := dk_3 (dk_at dksX2_pass_0 0 rfl rfl)
theorem dX2_pass_1 : decode cX2_pass 1 = .ok (.istore_n 2, 1) := dk_61 (dk_at dksX2_pass_0 1 rfl rfl)
theorem dX2_pass_2 : decode cX2_pass 2 = .ok (.iload_n 2, 1) := dk_28 (dk_at dksX2_pass_0 2 rfl rfl)
theorem dX2_pass_3 : decode cX2_pass 3 = .ok (.iload_n 1, 1) := dk_27 (dk_at dksX2_pass_0 3 rfl rfl)
theorem dX2_pass_4 : decode cX2_pass 4 = .ok (.if_icmp .ge 21, 3) := dk_162 0 21 (dk_at dksX2_pass_0 4 rfl rfl)
theorem dX2_pass_7 : decode cX2_pass 7 = .ok (.aload_n 0, 1) := dk_42 (dk_at dksX2_pass_0 7 rfl rfl)
theorem dX2_pass_8 : decode cX2_pass 8 = .ok (.getfield 73, 3) := dk_180 0 73 (dk_at dksX2_pass_0 8 rfl rfl)
theorem dX2_pass_11 : decode cX2_pass 11 = .ok (.iconst 1, 1) := dk_4 (dk_at dksX2_pass_0 11 rfl rfl)
theorem dX2_pass_12 : decode cX2_pass 12 = .ok (.if_icmp .ne 13, 3) := dk_160 0 13 (dk_at dksX2_pass_0 12 rfl rfl)
theorem dX2_pass_15 : decode cX2_pass 15 = .ok (.aload_n 0, 1) := dk_42 (dk_at dksX2_pass_0 15 rfl rfl)
theorem dX2_pass_16 : decode cX2_pass 16 = .ok (.invokevirtual 193, 3) := dk_182 0 193 (dk_at dksX2_pass_0 16 rfl rfl)
theorem dX2_pass_19 : decode cX2_pass 19 = .ok (.iinc 2 1, 3) := dk_132 2 1 (dk_at dksX2_pass_0 19 rfl rfl)
theorem dX2_pass_22 : decode cX2_pass 22 = .ok (.goto (-20), 3) := dk_167 255 236 (dk_at dksX2_pass_1 0 rfl rfl)
theorem dX2_pass_25 : decode cX2_pass 25 = .ok (.iload_n 2, 1) := dk_28 (dk_at dksX2_pass_1 3 rfl rfl)
theorem dX2_pass_26 : decode cX2_pass 26 = .ok (.ireturn, 1) := dk_172 (dk_at dksX2_pass_1 4 rfl rfl)
abbrev cX2_rate : ByteArray := prog_5_method_16_code
def yX2_rate : MethodName := ⟨RX2, "rate", "(LPatchCords$Integrator;)I"⟩
def dkwX2_rate_0 : List UInt8 := [42, 182, 0, 128, 42, 43, 182, 0, 117, 43, 42, 180, 0, 25, 182, 0, 139, 172]
abbrev dktX2_rate_0 : List UInt8 := dkwX2_rate_0 ++ []
theorem dksX2_rate_0 : cX2_rate.data.toList.drop 0 = dktX2_rate_0 := by decide +kernel
theorem dX2_rate_0 : decode cX2_rate 0 = .ok (.aload_n 0, 1) := dk_42 (dk_at dksX2_rate_0 0 rfl rfl)
theorem dX2_rate_1 : decode cX2_rate 1 = .ok (.invokevirtual 128, 3) := dk_182 0 128 (dk_at dksX2_rate_0 1 rfl rfl)
theorem dX2_rate_4 : decode cX2_rate 4 = .ok (.aload_n 0, 1) := dk_42 (dk_at dksX2_rate_0 4 rfl rfl)
theorem dX2_rate_5 : decode cX2_rate 5 = .ok (.aload_n 1, 1) := dk_43 (dk_at dksX2_rate_0 5 rfl rfl)
theorem dX2_rate_6 : decode cX2_rate 6 = .ok (.invokevirtual 117, 3) := dk_182 0 117 (dk_at dksX2_rate_0 6 rfl rfl)
theorem dX2_rate_9 : decode cX2_rate 9 = .ok (.aload_n 1, 1) := dk_43 (dk_at dksX2_rate_0 9 rfl rfl)
theorem dX2_rate_10 : decode cX2_rate 10 = .ok (.aload_n 0, 1) := dk_42 (dk_at dksX2_rate_0 10 rfl rfl)
theorem dX2_rate_11 : decode cX2_rate 11 = .ok (.getfield 25, 3) := dk_180 0 25 (dk_at dksX2_rate_0 11 rfl rfl)
theorem dX2_rate_14 : decode cX2_rate 14 = .ok (.invokevirtual 139, 3) := dk_182 0 139 (dk_at dksX2_rate_0 14 rfl rfl)
theorem dX2_rate_17 : decode cX2_rate 17 = .ok (.ireturn, 1) := dk_172 (dk_at dksX2_rate_0 17 rfl rfl)
abbrev cX2_put : ByteArray := prog_5_method_8_code
def yX2_put : MethodName := ⟨RX2, "put", "(I)I"⟩
def dkwX2_put_0 : List UInt8 := [42, 180, 0, 12, 27, 184, 0, 111, 182, 0, 62, 87, 42, 182, 0, 114, 42, 182, 0, 85, 4, 100, 172]
abbrev dktX2_put_0 : List UInt8 := dkwX2_put_0 ++ []
theorem dksX2_put_0 : cX2_put.data.toList.drop 0 = dktX2_put_0 := by decide +kernel
theorem dX2_put_0 : decode cX2_put 0 = .ok (.aload_n 0, 1) := dk_42 (dk_at dksX2_put_0 0 rfl rfl)
theorem dX2_put_1 : decode cX2_put 1 = .ok (.getfield 12, 3) := dk_180 0 12 (dk_at dksX2_put_0 1 rfl rfl)
theorem dX2_put_4 : decode cX2_put 4 = .ok (.iload_n 1, 1) := dk_27 (dk_at dksX2_put_0 4 rfl rfl)
theorem dX2_put_5 : decode cX2_put 5 = .ok (.invokestatic 111, 3) := dk_184 0 111 (dk_at dksX2_put_0 5 rfl rfl)
theorem dX2_put_8 : decode cX2_put 8 = .ok (.invokevirtual 62, 3) := dk_182 0 62 (dk_at dksX2_put_0 8 rfl rfl)
theorem dX2_put_11 : decode cX2_put 11 = .ok (.pop, 1) := dk_87 (dk_at dksX2_put_0 11 rfl rfl)
theorem dX2_put_12 : decode cX2_put 12 = .ok (.aload_n 0, 1) := dk_42 (dk_at dksX2_put_0 12 rfl rfl)
theorem dX2_put_13 : decode cX2_put 13 = .ok (.invokevirtual 114, 3) := dk_182 0 114 (dk_at dksX2_put_0 13 rfl rfl)
theorem dX2_put_16 : decode cX2_put 16 = .ok (.aload_n 0, 1) := dk_42 (dk_at dksX2_put_0 16 rfl rfl)
theorem dX2_put_17 : decode cX2_put 17 = .ok (.invokevirtual 85, 3) := dk_182 0 85 (dk_at dksX2_put_0 17 rfl rfl)
theorem dX2_put_20 : decode cX2_put 20 = .ok (.iconst 1, 1) := dk_4 (dk_at dksX2_put_0 20 rfl rfl)
theorem dX2_put_21 : decode cX2_put 21 = .ok (.isub, 1) := dk_100 (dk_at dksX2_put_0 21 rfl rfl)
theorem dX2_put_22 : decode cX2_put 22 = .ok (.ireturn, 1) := dk_172 (dk_at dksX2_put_0 22 rfl rfl)
abbrev cX2_tellOrder : ByteArray := prog_5_method_7_code
def yX2_tellOrder : MethodName := ⟨RX2, "tellOrder", "()V"⟩
def dkwX2_tellOrder_2 : List UInt8 := [132, 2, 1, 132, 4, 1, 167, 255, 225, 132, 3, 1, 167, 255, 208, 177]
abbrev dktX2_tellOrder_2 : List UInt8 := dkwX2_tellOrder_2 ++ []
def dkwX2_tellOrder_1 : List UInt8 := [182, 0, 85, 162, 0, 28, 43, 21, 4, 46, 29, 160, 0, 14, 42, 180, 0, 18, 28, 21, 4, 79]
abbrev dktX2_tellOrder_1 : List UInt8 := dkwX2_tellOrder_1 ++ dktX2_tellOrder_2
def dkwX2_tellOrder_0 : List UInt8 := [42, 182, 0, 107, 76, 3, 61, 3, 62, 28, 42, 182, 0, 85, 162, 0, 46, 3, 54, 4, 21, 4, 42]
abbrev dktX2_tellOrder_0 : List UInt8 := dkwX2_tellOrder_0 ++ dktX2_tellOrder_1
theorem dksX2_tellOrder_0 : cX2_tellOrder.data.toList.drop 0 = dktX2_tellOrder_0 := by decide +kernel
theorem dksX2_tellOrder_1 : cX2_tellOrder.data.toList.drop 23 = dktX2_tellOrder_1 := dk_seg dksX2_tellOrder_0 23 rfl rfl
theorem dksX2_tellOrder_2 : cX2_tellOrder.data.toList.drop 45 = dktX2_tellOrder_2 := dk_seg dksX2_tellOrder_1 22 rfl rfl
theorem dX2_tellOrder_0 : decode cX2_tellOrder 0 = .ok (.aload_n 0, 1) := dk_42 (dk_at dksX2_tellOrder_0 0 rfl rfl)
theorem dX2_tellOrder_1 : decode cX2_tellOrder 1 = .ok (.invokevirtual 107, 3) := dk_182 0 107 (dk_at dksX2_tellOrder_0 1 rfl rfl)
theorem dX2_tellOrder_4 : decode cX2_tellOrder 4 = .ok (.astore_n 1, 1) := dk_76 (dk_at dksX2_tellOrder_0 4 rfl rfl)
theorem dX2_tellOrder_5 : decode cX2_tellOrder 5 = .ok (.iconst 0, 1) := dk_3 (dk_at dksX2_tellOrder_0 5 rfl rfl)
theorem dX2_tellOrder_6 : decode cX2_tellOrder 6 = .ok (.istore_n 2, 1) := dk_61 (dk_at dksX2_tellOrder_0 6 rfl rfl)
theorem dX2_tellOrder_7 : decode cX2_tellOrder 7 = .ok (.iconst 0, 1) := dk_3 (dk_at dksX2_tellOrder_0 7 rfl rfl)
theorem dX2_tellOrder_8 : decode cX2_tellOrder 8 = .ok (.istore_n 3, 1) := dk_62 (dk_at dksX2_tellOrder_0 8 rfl rfl)
theorem dX2_tellOrder_9 : decode cX2_tellOrder 9 = .ok (.iload_n 2, 1) := dk_28 (dk_at dksX2_tellOrder_0 9 rfl rfl)
theorem dX2_tellOrder_10 : decode cX2_tellOrder 10 = .ok (.aload_n 0, 1) := dk_42 (dk_at dksX2_tellOrder_0 10 rfl rfl)
theorem dX2_tellOrder_11 : decode cX2_tellOrder 11 = .ok (.invokevirtual 85, 3) := dk_182 0 85 (dk_at dksX2_tellOrder_0 11 rfl rfl)
theorem dX2_tellOrder_14 : decode cX2_tellOrder 14 = .ok (.if_icmp .ge 46, 3) := dk_162 0 46 (dk_at dksX2_tellOrder_0 14 rfl rfl)
theorem dX2_tellOrder_17 : decode cX2_tellOrder 17 = .ok (.iconst 0, 1) := dk_3 (dk_at dksX2_tellOrder_0 17 rfl rfl)
theorem dX2_tellOrder_18 : decode cX2_tellOrder 18 = .ok (.istore 4, 2) := dk_54 4 (dk_at dksX2_tellOrder_0 18 rfl rfl)
theorem dX2_tellOrder_20 : decode cX2_tellOrder 20 = .ok (.iload 4, 2) := dk_21 4 (dk_at dksX2_tellOrder_0 20 rfl rfl)
theorem dX2_tellOrder_22 : decode cX2_tellOrder 22 = .ok (.aload_n 0, 1) := dk_42 (dk_at dksX2_tellOrder_0 22 rfl rfl)
theorem dX2_tellOrder_23 : decode cX2_tellOrder 23 = .ok (.invokevirtual 85, 3) := dk_182 0 85 (dk_at dksX2_tellOrder_1 0 rfl rfl)
theorem dX2_tellOrder_26 : decode cX2_tellOrder 26 = .ok (.if_icmp .ge 28, 3) := dk_162 0 28 (dk_at dksX2_tellOrder_1 3 rfl rfl)
theorem dX2_tellOrder_29 : decode cX2_tellOrder 29 = .ok (.aload_n 1, 1) := dk_43 (dk_at dksX2_tellOrder_1 6 rfl rfl)
theorem dX2_tellOrder_30 : decode cX2_tellOrder 30 = .ok (.iload 4, 2) := dk_21 4 (dk_at dksX2_tellOrder_1 7 rfl rfl)
theorem dX2_tellOrder_32 : decode cX2_tellOrder 32 = .ok (.iaload, 1) := dk_46 (dk_at dksX2_tellOrder_1 9 rfl rfl)
theorem dX2_tellOrder_33 : decode cX2_tellOrder 33 = .ok (.iload_n 3, 1) := dk_29 (dk_at dksX2_tellOrder_1 10 rfl rfl)
theorem dX2_tellOrder_34 : decode cX2_tellOrder 34 = .ok (.if_icmp .ne 14, 3) := dk_160 0 14 (dk_at dksX2_tellOrder_1 11 rfl rfl)
theorem dX2_tellOrder_37 : decode cX2_tellOrder 37 = .ok (.aload_n 0, 1) := dk_42 (dk_at dksX2_tellOrder_1 14 rfl rfl)
theorem dX2_tellOrder_38 : decode cX2_tellOrder 38 = .ok (.getfield 18, 3) := dk_180 0 18 (dk_at dksX2_tellOrder_1 15 rfl rfl)
theorem dX2_tellOrder_41 : decode cX2_tellOrder 41 = .ok (.iload_n 2, 1) := dk_28 (dk_at dksX2_tellOrder_1 18 rfl rfl)
theorem dX2_tellOrder_42 : decode cX2_tellOrder 42 = .ok (.iload 4, 2) := dk_21 4 (dk_at dksX2_tellOrder_1 19 rfl rfl)
theorem dX2_tellOrder_44 : decode cX2_tellOrder 44 = .ok (.iastore, 1) := dk_79 (dk_at dksX2_tellOrder_1 21 rfl rfl)
theorem dX2_tellOrder_45 : decode cX2_tellOrder 45 = .ok (.iinc 2 1, 3) := dk_132 2 1 (dk_at dksX2_tellOrder_2 0 rfl rfl)
theorem dX2_tellOrder_48 : decode cX2_tellOrder 48 = .ok (.iinc 4 1, 3) := dk_132 4 1 (dk_at dksX2_tellOrder_2 3 rfl rfl)
theorem dX2_tellOrder_51 : decode cX2_tellOrder 51 = .ok (.goto (-31), 3) := dk_167 255 225 (dk_at dksX2_tellOrder_2 6 rfl rfl)
theorem dX2_tellOrder_54 : decode cX2_tellOrder 54 = .ok (.iinc 3 1, 3) := dk_132 3 1 (dk_at dksX2_tellOrder_2 9 rfl rfl)
theorem dX2_tellOrder_57 : decode cX2_tellOrder 57 = .ok (.goto (-48), 3) := dk_167 255 208 (dk_at dksX2_tellOrder_2 12 rfl rfl)
theorem dX2_tellOrder_60 : decode cX2_tellOrder 60 = .ok (.return_, 1) := dk_177 (dk_at dksX2_tellOrder_2 15 rfl rfl)
abbrev cX2_setVoltage : ByteArray := prog_5_method_32_code
def yX2_setVoltage : MethodName := ⟨RX2, "setVoltage", "(LPatchCords$Part;I)V"⟩
def dkwX2_setVoltage_1 : List UInt8 := [28, 181, 0, 203, 42, 180, 0, 73, 154, 0, 7, 45, 182, 0, 195, 177]
abbrev dktX2_setVoltage_1 : List UInt8 := dkwX2_setVoltage_1 ++ []
def dkwX2_setVoltage_0 : List UInt8 := [43, 193, 0, 198, 153, 0, 14, 43, 192, 0, 198, 28, 181, 0, 200, 167, 0, 24, 43, 192, 0, 140, 78, 45]
abbrev dktX2_setVoltage_0 : List UInt8 := dkwX2_setVoltage_0 ++ dktX2_setVoltage_1
theorem dksX2_setVoltage_0 : cX2_setVoltage.data.toList.drop 0 = dktX2_setVoltage_0 := by decide +kernel
theorem dksX2_setVoltage_1 : cX2_setVoltage.data.toList.drop 24 = dktX2_setVoltage_1 := dk_seg dksX2_setVoltage_0 24 rfl rfl
theorem dX2_setVoltage_0 : decode cX2_setVoltage 0 = .ok (.aload_n 1, 1) := dk_43 (dk_at dksX2_setVoltage_0 0 rfl rfl)
theorem dX2_setVoltage_1 : decode cX2_setVoltage 1 = .ok (.instanceof 198, 3) := dk_193 0 198 (dk_at dksX2_setVoltage_0 1 rfl rfl)
theorem dX2_setVoltage_4 : decode cX2_setVoltage 4 = .ok (.ifCond .eq 14, 3) := dk_153 0 14 (dk_at dksX2_setVoltage_0 4 rfl rfl)
theorem dX2_setVoltage_7 : decode cX2_setVoltage 7 = .ok (.aload_n 1, 1) := dk_43 (dk_at dksX2_setVoltage_0 7 rfl rfl)
theorem dX2_setVoltage_8 : decode cX2_setVoltage 8 = .ok (.checkcast 198, 3) := dk_192 0 198 (dk_at dksX2_setVoltage_0 8 rfl rfl)
theorem dX2_setVoltage_11 : decode cX2_setVoltage 11 = .ok (.iload_n 2, 1) := dk_28 (dk_at dksX2_setVoltage_0 11 rfl rfl)
theorem dX2_setVoltage_12 : decode cX2_setVoltage 12 = .ok (.putfield 200, 3) := dk_181 0 200 (dk_at dksX2_setVoltage_0 12 rfl rfl)
theorem dX2_setVoltage_15 : decode cX2_setVoltage 15 = .ok (.goto 24, 3) := dk_167 0 24 (dk_at dksX2_setVoltage_0 15 rfl rfl)
theorem dX2_setVoltage_18 : decode cX2_setVoltage 18 = .ok (.aload_n 1, 1) := dk_43 (dk_at dksX2_setVoltage_0 18 rfl rfl)
theorem dX2_setVoltage_19 : decode cX2_setVoltage 19 = .ok (.checkcast 140, 3) := dk_192 0 140 (dk_at dksX2_setVoltage_0 19 rfl rfl)
theorem dX2_setVoltage_22 : decode cX2_setVoltage 22 = .ok (.astore_n 3, 1) := dk_78 (dk_at dksX2_setVoltage_0 22 rfl rfl)
theorem dX2_setVoltage_23 : decode cX2_setVoltage 23 = .ok (.aload_n 3, 1) := dk_45 (dk_at dksX2_setVoltage_0 23 rfl rfl)
theorem dX2_setVoltage_24 : decode cX2_setVoltage 24 = .ok (.iload_n 2, 1) := dk_28 (dk_at dksX2_setVoltage_1 0 rfl rfl)
theorem dX2_setVoltage_25 : decode cX2_setVoltage 25 = .ok (.putfield 203, 3) := dk_181 0 203 (dk_at dksX2_setVoltage_1 1 rfl rfl)
theorem dX2_setVoltage_28 : decode cX2_setVoltage 28 = .ok (.aload_n 0, 1) := dk_42 (dk_at dksX2_setVoltage_1 4 rfl rfl)
theorem dX2_setVoltage_29 : decode cX2_setVoltage 29 = .ok (.getfield 73, 3) := dk_180 0 73 (dk_at dksX2_setVoltage_1 5 rfl rfl)
theorem dX2_setVoltage_32 : decode cX2_setVoltage 32 = .ok (.ifCond .ne 7, 3) := dk_154 0 7 (dk_at dksX2_setVoltage_1 8 rfl rfl)
theorem dX2_setVoltage_35 : decode cX2_setVoltage 35 = .ok (.aload_n 3, 1) := dk_45 (dk_at dksX2_setVoltage_1 11 rfl rfl)
theorem dX2_setVoltage_36 : decode cX2_setVoltage 36 = .ok (.invokevirtual 195, 3) := dk_182 0 195 (dk_at dksX2_setVoltage_1 12 rfl rfl)
theorem dX2_setVoltage_39 : decode cX2_setVoltage 39 = .ok (.return_, 1) := dk_177 (dk_at dksX2_setVoltage_1 15 rfl rfl)
abbrev cX2_wouldCircle : ByteArray := prog_5_method_20_code
def yX2_wouldCircle : MethodName := ⟨RX2, "wouldCircle", "(II)Z"⟩
def dkwX2_wouldCircle_2 : List UInt8 := [167, 0, 4, 3, 172]
abbrev dktX2_wouldCircle_2 : List UInt8 := dkwX2_wouldCircle_2 ++ []
def dkwX2_wouldCircle_1 : List UInt8 := [167, 0, 4, 3, 62, 29, 154, 0, 19, 42, 27, 182, 0, 151, 28, 184, 0, 147, 153, 0, 7, 4]
abbrev dktX2_wouldCircle_1 : List UInt8 := dkwX2_wouldCircle_1 ++ dktX2_wouldCircle_2
def dkwX2_wouldCircle_0 : List UInt8 := [42, 27, 182, 0, 86, 193, 0, 140, 154, 0, 14, 42, 28, 182, 0, 86, 193, 0, 140, 153, 0, 7, 4]
abbrev dktX2_wouldCircle_0 : List UInt8 := dkwX2_wouldCircle_0 ++ dktX2_wouldCircle_1
theorem dksX2_wouldCircle_0 : cX2_wouldCircle.data.toList.drop 0 = dktX2_wouldCircle_0 := by decide +kernel
theorem dksX2_wouldCircle_1 : cX2_wouldCircle.data.toList.drop 23 = dktX2_wouldCircle_1 := dk_seg dksX2_wouldCircle_0 23 rfl rfl
theorem dksX2_wouldCircle_2 : cX2_wouldCircle.data.toList.drop 45 = dktX2_wouldCircle_2 := dk_seg dksX2_wouldCircle_1 22 rfl rfl
theorem dX2_wouldCircle_0 : decode cX2_wouldCircle 0 = .ok (.aload_n 0, 1) := dk_42 (dk_at dksX2_wouldCircle_0 0 rfl rfl)
theorem dX2_wouldCircle_1 : decode cX2_wouldCircle 1 = .ok (.iload_n 1, 1) := dk_27 (dk_at dksX2_wouldCircle_0 1 rfl rfl)
theorem dX2_wouldCircle_2 : decode cX2_wouldCircle 2 = .ok (.invokevirtual 86, 3) := dk_182 0 86 (dk_at dksX2_wouldCircle_0 2 rfl rfl)
theorem dX2_wouldCircle_5 : decode cX2_wouldCircle 5 = .ok (.instanceof 140, 3) := dk_193 0 140 (dk_at dksX2_wouldCircle_0 5 rfl rfl)
theorem dX2_wouldCircle_8 : decode cX2_wouldCircle 8 = .ok (.ifCond .ne 14, 3) := dk_154 0 14 (dk_at dksX2_wouldCircle_0 8 rfl rfl)
theorem dX2_wouldCircle_11 : decode cX2_wouldCircle 11 = .ok (.aload_n 0, 1) := dk_42 (dk_at dksX2_wouldCircle_0 11 rfl rfl)
theorem dX2_wouldCircle_12 : decode cX2_wouldCircle 12 = .ok (.iload_n 2, 1) := dk_28 (dk_at dksX2_wouldCircle_0 12 rfl rfl)
theorem dX2_wouldCircle_13 : decode cX2_wouldCircle 13 = .ok (.invokevirtual 86, 3) := dk_182 0 86 (dk_at dksX2_wouldCircle_0 13 rfl rfl)
theorem dX2_wouldCircle_16 : decode cX2_wouldCircle 16 = .ok (.instanceof 140, 3) := dk_193 0 140 (dk_at dksX2_wouldCircle_0 16 rfl rfl)
theorem dX2_wouldCircle_19 : decode cX2_wouldCircle 19 = .ok (.ifCond .eq 7, 3) := dk_153 0 7 (dk_at dksX2_wouldCircle_0 19 rfl rfl)
theorem dX2_wouldCircle_22 : decode cX2_wouldCircle 22 = .ok (.iconst 1, 1) := dk_4 (dk_at dksX2_wouldCircle_0 22 rfl rfl)
theorem dX2_wouldCircle_23 : decode cX2_wouldCircle 23 = .ok (.goto 4, 3) := dk_167 0 4 (dk_at dksX2_wouldCircle_1 0 rfl rfl)
theorem dX2_wouldCircle_26 : decode cX2_wouldCircle 26 = .ok (.iconst 0, 1) := dk_3 (dk_at dksX2_wouldCircle_1 3 rfl rfl)
theorem dX2_wouldCircle_27 : decode cX2_wouldCircle 27 = .ok (.istore_n 3, 1) := dk_62 (dk_at dksX2_wouldCircle_1 4 rfl rfl)
theorem dX2_wouldCircle_28 : decode cX2_wouldCircle 28 = .ok (.iload_n 3, 1) := dk_29 (dk_at dksX2_wouldCircle_1 5 rfl rfl)
theorem dX2_wouldCircle_29 : decode cX2_wouldCircle 29 = .ok (.ifCond .ne 19, 3) := dk_154 0 19 (dk_at dksX2_wouldCircle_1 6 rfl rfl)
theorem dX2_wouldCircle_32 : decode cX2_wouldCircle 32 = .ok (.aload_n 0, 1) := dk_42 (dk_at dksX2_wouldCircle_1 9 rfl rfl)
theorem dX2_wouldCircle_33 : decode cX2_wouldCircle 33 = .ok (.iload_n 1, 1) := dk_27 (dk_at dksX2_wouldCircle_1 10 rfl rfl)
theorem dX2_wouldCircle_34 : decode cX2_wouldCircle 34 = .ok (.invokevirtual 151, 3) := dk_182 0 151 (dk_at dksX2_wouldCircle_1 11 rfl rfl)
theorem dX2_wouldCircle_37 : decode cX2_wouldCircle 37 = .ok (.iload_n 2, 1) := dk_28 (dk_at dksX2_wouldCircle_1 14 rfl rfl)
theorem dX2_wouldCircle_38 : decode cX2_wouldCircle 38 = .ok (.invokestatic 147, 3) := dk_184 0 147 (dk_at dksX2_wouldCircle_1 15 rfl rfl)
theorem dX2_wouldCircle_41 : decode cX2_wouldCircle 41 = .ok (.ifCond .eq 7, 3) := dk_153 0 7 (dk_at dksX2_wouldCircle_1 18 rfl rfl)
theorem dX2_wouldCircle_44 : decode cX2_wouldCircle 44 = .ok (.iconst 1, 1) := dk_4 (dk_at dksX2_wouldCircle_1 21 rfl rfl)
theorem dX2_wouldCircle_45 : decode cX2_wouldCircle 45 = .ok (.goto 4, 3) := dk_167 0 4 (dk_at dksX2_wouldCircle_2 0 rfl rfl)
theorem dX2_wouldCircle_48 : decode cX2_wouldCircle 48 = .ok (.iconst 0, 1) := dk_3 (dk_at dksX2_wouldCircle_2 3 rfl rfl)
theorem dX2_wouldCircle_49 : decode cX2_wouldCircle 49 = .ok (.ireturn, 1) := dk_172 (dk_at dksX2_wouldCircle_2 4 rfl rfl)
abbrev cX2_dependsAtOnce : ByteArray := prog_5_method_19_code
def yX2_dependsAtOnce : MethodName := ⟨RX2, "dependsAtOnce", "(I)I"⟩
def dkwX2_dependsAtOnce_3 : List UInt8 := [167, 255, 194, 28, 172]
abbrev dktX2_dependsAtOnce_3 : List UInt8 := dkwX2_dependsAtOnce_3 ++ []
def dkwX2_dependsAtOnce_2 : List UInt8 := [154, 0, 15, 42, 21, 4, 182, 0, 86, 182, 0, 144, 167, 0, 4, 3, 128, 61, 132, 4, 1, 167, 255, 207]
abbrev dktX2_dependsAtOnce_2 : List UInt8 := dkwX2_dependsAtOnce_2 ++ dktX2_dependsAtOnce_3
def dkwX2_dependsAtOnce_1 : List UInt8 := [162, 0, 46, 28, 29, 21, 4, 184, 0, 147, 153, 0, 27, 42, 21, 4, 182, 0, 86, 193, 0, 140]
abbrev dktX2_dependsAtOnce_1 : List UInt8 := dkwX2_dependsAtOnce_1 ++ dktX2_dependsAtOnce_2
def dkwX2_dependsAtOnce_0 : List UInt8 := [4, 27, 120, 61, 3, 62, 28, 29, 159, 0, 63, 28, 62, 3, 54, 4, 21, 4, 42, 182, 0, 85]
abbrev dktX2_dependsAtOnce_0 : List UInt8 := dkwX2_dependsAtOnce_0 ++ dktX2_dependsAtOnce_1
theorem dksX2_dependsAtOnce_0 : cX2_dependsAtOnce.data.toList.drop 0 = dktX2_dependsAtOnce_0 := by decide +kernel
theorem dksX2_dependsAtOnce_1 : cX2_dependsAtOnce.data.toList.drop 22 = dktX2_dependsAtOnce_1 := dk_seg dksX2_dependsAtOnce_0 22 rfl rfl
theorem dksX2_dependsAtOnce_2 : cX2_dependsAtOnce.data.toList.drop 44 = dktX2_dependsAtOnce_2 := dk_seg dksX2_dependsAtOnce_1 22 rfl rfl
theorem dksX2_dependsAtOnce_3 : cX2_dependsAtOnce.data.toList.drop 68 = dktX2_dependsAtOnce_3 := dk_seg dksX2_dependsAtOnce_2 24 rfl rfl
theorem dX2_dependsAtOnce_0 : decode cX2_dependsAtOnce 0 = .ok (.iconst 1, 1) := dk_4 (dk_at dksX2_dependsAtOnce_0 0 rfl rfl)
theorem dX2_dependsAtOnce_1 : decode cX2_dependsAtOnce 1 = .ok (.iload_n 1, 1) := dk_27 (dk_at dksX2_dependsAtOnce_0 1 rfl rfl)
theorem dX2_dependsAtOnce_2 : decode cX2_dependsAtOnce 2 = .ok (.ishl, 1) := dk_120 (dk_at dksX2_dependsAtOnce_0 2 rfl rfl)
theorem dX2_dependsAtOnce_3 : decode cX2_dependsAtOnce 3 = .ok (.istore_n 2, 1) := dk_61 (dk_at dksX2_dependsAtOnce_0 3 rfl rfl)
theorem dX2_dependsAtOnce_4 : decode cX2_dependsAtOnce 4 = .ok (.iconst 0, 1) := dk_3 (dk_at dksX2_dependsAtOnce_0 4 rfl rfl)
theorem dX2_dependsAtOnce_5 : decode cX2_dependsAtOnce 5 = .ok (.istore_n 3, 1) := dk_62 (dk_at dksX2_dependsAtOnce_0 5 rfl rfl)
theorem dX2_dependsAtOnce_6 : decode cX2_dependsAtOnce 6 = .ok (.iload_n 2, 1) := dk_28 (dk_at dksX2_dependsAtOnce_0 6 rfl rfl)
theorem dX2_dependsAtOnce_7 : decode cX2_dependsAtOnce 7 = .ok (.iload_n 3, 1) := dk_29 (dk_at dksX2_dependsAtOnce_0 7 rfl rfl)
theorem dX2_dependsAtOnce_8 : decode cX2_dependsAtOnce 8 = .ok (.if_icmp .eq 63, 3) := dk_159 0 63 (dk_at dksX2_dependsAtOnce_0 8 rfl rfl)
theorem dX2_dependsAtOnce_11 : decode cX2_dependsAtOnce 11 = .ok (.iload_n 2, 1) := dk_28 (dk_at dksX2_dependsAtOnce_0 11 rfl rfl)
theorem dX2_dependsAtOnce_12 : decode cX2_dependsAtOnce 12 = .ok (.istore_n 3, 1) := dk_62 (dk_at dksX2_dependsAtOnce_0 12 rfl rfl)
theorem dX2_dependsAtOnce_13 : decode cX2_dependsAtOnce 13 = .ok (.iconst 0, 1) := dk_3 (dk_at dksX2_dependsAtOnce_0 13 rfl rfl)
theorem dX2_dependsAtOnce_14 : decode cX2_dependsAtOnce 14 = .ok (.istore 4, 2) := dk_54 4 (dk_at dksX2_dependsAtOnce_0 14 rfl rfl)
theorem dX2_dependsAtOnce_16 : decode cX2_dependsAtOnce 16 = .ok (.iload 4, 2) := dk_21 4 (dk_at dksX2_dependsAtOnce_0 16 rfl rfl)
theorem dX2_dependsAtOnce_18 : decode cX2_dependsAtOnce 18 = .ok (.aload_n 0, 1) := dk_42 (dk_at dksX2_dependsAtOnce_0 18 rfl rfl)
theorem dX2_dependsAtOnce_19 : decode cX2_dependsAtOnce 19 = .ok (.invokevirtual 85, 3) := dk_182 0 85 (dk_at dksX2_dependsAtOnce_0 19 rfl rfl)
theorem dX2_dependsAtOnce_22 : decode cX2_dependsAtOnce 22 = .ok (.if_icmp .ge 46, 3) := dk_162 0 46 (dk_at dksX2_dependsAtOnce_1 0 rfl rfl)
theorem dX2_dependsAtOnce_25 : decode cX2_dependsAtOnce 25 = .ok (.iload_n 2, 1) := dk_28 (dk_at dksX2_dependsAtOnce_1 3 rfl rfl)
theorem dX2_dependsAtOnce_26 : decode cX2_dependsAtOnce 26 = .ok (.iload_n 3, 1) := dk_29 (dk_at dksX2_dependsAtOnce_1 4 rfl rfl)
theorem dX2_dependsAtOnce_27 : decode cX2_dependsAtOnce 27 = .ok (.iload 4, 2) := dk_21 4 (dk_at dksX2_dependsAtOnce_1 5 rfl rfl)
theorem dX2_dependsAtOnce_29 : decode cX2_dependsAtOnce 29 = .ok (.invokestatic 147, 3) := dk_184 0 147 (dk_at dksX2_dependsAtOnce_1 7 rfl rfl)
theorem dX2_dependsAtOnce_32 : decode cX2_dependsAtOnce 32 = .ok (.ifCond .eq 27, 3) := dk_153 0 27 (dk_at dksX2_dependsAtOnce_1 10 rfl rfl)
theorem dX2_dependsAtOnce_35 : decode cX2_dependsAtOnce 35 = .ok (.aload_n 0, 1) := dk_42 (dk_at dksX2_dependsAtOnce_1 13 rfl rfl)
theorem dX2_dependsAtOnce_36 : decode cX2_dependsAtOnce 36 = .ok (.iload 4, 2) := dk_21 4 (dk_at dksX2_dependsAtOnce_1 14 rfl rfl)
theorem dX2_dependsAtOnce_38 : decode cX2_dependsAtOnce 38 = .ok (.invokevirtual 86, 3) := dk_182 0 86 (dk_at dksX2_dependsAtOnce_1 16 rfl rfl)
theorem dX2_dependsAtOnce_41 : decode cX2_dependsAtOnce 41 = .ok (.instanceof 140, 3) := dk_193 0 140 (dk_at dksX2_dependsAtOnce_1 19 rfl rfl)
theorem dX2_dependsAtOnce_44 : decode cX2_dependsAtOnce 44 = .ok (.ifCond .ne 15, 3) := dk_154 0 15 (dk_at dksX2_dependsAtOnce_2 0 rfl rfl)
theorem dX2_dependsAtOnce_47 : decode cX2_dependsAtOnce 47 = .ok (.aload_n 0, 1) := dk_42 (dk_at dksX2_dependsAtOnce_2 3 rfl rfl)
theorem dX2_dependsAtOnce_48 : decode cX2_dependsAtOnce 48 = .ok (.iload 4, 2) := dk_21 4 (dk_at dksX2_dependsAtOnce_2 4 rfl rfl)
theorem dX2_dependsAtOnce_50 : decode cX2_dependsAtOnce 50 = .ok (.invokevirtual 86, 3) := dk_182 0 86 (dk_at dksX2_dependsAtOnce_2 6 rfl rfl)
theorem dX2_dependsAtOnce_53 : decode cX2_dependsAtOnce 53 = .ok (.invokevirtual 144, 3) := dk_182 0 144 (dk_at dksX2_dependsAtOnce_2 9 rfl rfl)
theorem dX2_dependsAtOnce_56 : decode cX2_dependsAtOnce 56 = .ok (.goto 4, 3) := dk_167 0 4 (dk_at dksX2_dependsAtOnce_2 12 rfl rfl)
theorem dX2_dependsAtOnce_59 : decode cX2_dependsAtOnce 59 = .ok (.iconst 0, 1) := dk_3 (dk_at dksX2_dependsAtOnce_2 15 rfl rfl)
theorem dX2_dependsAtOnce_60 : decode cX2_dependsAtOnce 60 = .ok (.ior, 1) := dk_128 (dk_at dksX2_dependsAtOnce_2 16 rfl rfl)
theorem dX2_dependsAtOnce_61 : decode cX2_dependsAtOnce 61 = .ok (.istore_n 2, 1) := dk_61 (dk_at dksX2_dependsAtOnce_2 17 rfl rfl)
theorem dX2_dependsAtOnce_62 : decode cX2_dependsAtOnce 62 = .ok (.iinc 4 1, 3) := dk_132 4 1 (dk_at dksX2_dependsAtOnce_2 18 rfl rfl)
theorem dX2_dependsAtOnce_65 : decode cX2_dependsAtOnce 65 = .ok (.goto (-49), 3) := dk_167 255 207 (dk_at dksX2_dependsAtOnce_2 21 rfl rfl)
theorem dX2_dependsAtOnce_68 : decode cX2_dependsAtOnce 68 = .ok (.goto (-62), 3) := dk_167 255 194 (dk_at dksX2_dependsAtOnce_3 0 rfl rfl)
theorem dX2_dependsAtOnce_71 : decode cX2_dependsAtOnce 71 = .ok (.iload_n 2, 1) := dk_28 (dk_at dksX2_dependsAtOnce_3 3 rfl rfl)
theorem dX2_dependsAtOnce_72 : decode cX2_dependsAtOnce 72 = .ok (.ireturn, 1) := dk_172 (dk_at dksX2_dependsAtOnce_3 4 rfl rfl)
abbrev cX2_join : ByteArray := prog_5_method_33_code
def yX2_join : MethodName := ⟨RX2, "join", "(III)I"⟩
def dkwX2_join_1 : List UInt8 := [182, 0, 114, 21, 4, 172]
abbrev dktX2_join_1 : List UInt8 := dkwX2_join_1 ++ []
def dkwX2_join_0 : List UInt8 := [42, 28, 182, 0, 86, 180, 0, 98, 29, 46, 54, 4, 42, 28, 182, 0, 86, 180, 0, 98, 29, 27, 79, 42]
abbrev dktX2_join_0 : List UInt8 := dkwX2_join_0 ++ dktX2_join_1
theorem dksX2_join_0 : cX2_join.data.toList.drop 0 = dktX2_join_0 := by decide +kernel
theorem dksX2_join_1 : cX2_join.data.toList.drop 24 = dktX2_join_1 := dk_seg dksX2_join_0 24 rfl rfl
theorem dX2_join_0 : decode cX2_join 0 = .ok (.aload_n 0, 1) := dk_42 (dk_at dksX2_join_0 0 rfl rfl)
theorem dX2_join_1 : decode cX2_join 1 = .ok (.iload_n 2, 1) := dk_28 (dk_at dksX2_join_0 1 rfl rfl)
theorem dX2_join_2 : decode cX2_join 2 = .ok (.invokevirtual 86, 3) := dk_182 0 86 (dk_at dksX2_join_0 2 rfl rfl)
theorem dX2_join_5 : decode cX2_join 5 = .ok (.getfield 98, 3) := dk_180 0 98 (dk_at dksX2_join_0 5 rfl rfl)
theorem dX2_join_8 : decode cX2_join 8 = .ok (.iload_n 3, 1) := dk_29 (dk_at dksX2_join_0 8 rfl rfl)
theorem dX2_join_9 : decode cX2_join 9 = .ok (.iaload, 1) := dk_46 (dk_at dksX2_join_0 9 rfl rfl)
theorem dX2_join_10 : decode cX2_join 10 = .ok (.istore 4, 2) := dk_54 4 (dk_at dksX2_join_0 10 rfl rfl)
theorem dX2_join_12 : decode cX2_join 12 = .ok (.aload_n 0, 1) := dk_42 (dk_at dksX2_join_0 12 rfl rfl)
theorem dX2_join_13 : decode cX2_join 13 = .ok (.iload_n 2, 1) := dk_28 (dk_at dksX2_join_0 13 rfl rfl)
theorem dX2_join_14 : decode cX2_join 14 = .ok (.invokevirtual 86, 3) := dk_182 0 86 (dk_at dksX2_join_0 14 rfl rfl)
theorem dX2_join_17 : decode cX2_join 17 = .ok (.getfield 98, 3) := dk_180 0 98 (dk_at dksX2_join_0 17 rfl rfl)
theorem dX2_join_20 : decode cX2_join 20 = .ok (.iload_n 3, 1) := dk_29 (dk_at dksX2_join_0 20 rfl rfl)
theorem dX2_join_21 : decode cX2_join 21 = .ok (.iload_n 1, 1) := dk_27 (dk_at dksX2_join_0 21 rfl rfl)
theorem dX2_join_22 : decode cX2_join 22 = .ok (.iastore, 1) := dk_79 (dk_at dksX2_join_0 22 rfl rfl)
theorem dX2_join_23 : decode cX2_join 23 = .ok (.aload_n 0, 1) := dk_42 (dk_at dksX2_join_0 23 rfl rfl)
theorem dX2_join_24 : decode cX2_join 24 = .ok (.invokevirtual 114, 3) := dk_182 0 114 (dk_at dksX2_join_1 0 rfl rfl)
theorem dX2_join_27 : decode cX2_join 27 = .ok (.iload 4, 2) := dk_21 4 (dk_at dksX2_join_1 3 rfl rfl)
theorem dX2_join_29 : decode cX2_join 29 = .ok (.ireturn, 1) := dk_172 (dk_at dksX2_join_1 5 rfl rfl)
abbrev cX2_takeOut : ByteArray := prog_5_method_34_code
def yX2_takeOut : MethodName := ⟨RX2, "takeOut", "(II)I"⟩
def dkwX2_takeOut_1 : List UInt8 := [182, 0, 114, 29, 172]
abbrev dktX2_takeOut_1 : List UInt8 := dkwX2_takeOut_1 ++ []
def dkwX2_takeOut_0 : List UInt8 := [42, 27, 182, 0, 86, 180, 0, 98, 28, 46, 62, 42, 27, 182, 0, 86, 180, 0, 98, 28, 2, 79, 42]
abbrev dktX2_takeOut_0 : List UInt8 := dkwX2_takeOut_0 ++ dktX2_takeOut_1
theorem dksX2_takeOut_0 : cX2_takeOut.data.toList.drop 0 = dktX2_takeOut_0 := by decide +kernel
theorem dksX2_takeOut_1 : cX2_takeOut.data.toList.drop 23 = dktX2_takeOut_1 := dk_seg dksX2_takeOut_0 23 rfl rfl
theorem dX2_takeOut_0 : decode cX2_takeOut 0 = .ok (.aload_n 0, 1) := dk_42 (dk_at dksX2_takeOut_0 0 rfl rfl)
theorem dX2_takeOut_1 : decode cX2_takeOut 1 = .ok (.iload_n 1, 1) := dk_27 (dk_at dksX2_takeOut_0 1 rfl rfl)
theorem dX2_takeOut_2 : decode cX2_takeOut 2 = .ok (.invokevirtual 86, 3) := dk_182 0 86 (dk_at dksX2_takeOut_0 2 rfl rfl)
theorem dX2_takeOut_5 : decode cX2_takeOut 5 = .ok (.getfield 98, 3) := dk_180 0 98 (dk_at dksX2_takeOut_0 5 rfl rfl)
theorem dX2_takeOut_8 : decode cX2_takeOut 8 = .ok (.iload_n 2, 1) := dk_28 (dk_at dksX2_takeOut_0 8 rfl rfl)
theorem dX2_takeOut_9 : decode cX2_takeOut 9 = .ok (.iaload, 1) := dk_46 (dk_at dksX2_takeOut_0 9 rfl rfl)
theorem dX2_takeOut_10 : decode cX2_takeOut 10 = .ok (.istore_n 3, 1) := dk_62 (dk_at dksX2_takeOut_0 10 rfl rfl)
theorem dX2_takeOut_11 : decode cX2_takeOut 11 = .ok (.aload_n 0, 1) := dk_42 (dk_at dksX2_takeOut_0 11 rfl rfl)
theorem dX2_takeOut_12 : decode cX2_takeOut 12 = .ok (.iload_n 1, 1) := dk_27 (dk_at dksX2_takeOut_0 12 rfl rfl)
theorem dX2_takeOut_13 : decode cX2_takeOut 13 = .ok (.invokevirtual 86, 3) := dk_182 0 86 (dk_at dksX2_takeOut_0 13 rfl rfl)
theorem dX2_takeOut_16 : decode cX2_takeOut 16 = .ok (.getfield 98, 3) := dk_180 0 98 (dk_at dksX2_takeOut_0 16 rfl rfl)
theorem dX2_takeOut_19 : decode cX2_takeOut 19 = .ok (.iload_n 2, 1) := dk_28 (dk_at dksX2_takeOut_0 19 rfl rfl)
theorem dX2_takeOut_20 : decode cX2_takeOut 20 = .ok (.iconst (-1), 1) := dk_2 (dk_at dksX2_takeOut_0 20 rfl rfl)
theorem dX2_takeOut_21 : decode cX2_takeOut 21 = .ok (.iastore, 1) := dk_79 (dk_at dksX2_takeOut_0 21 rfl rfl)
theorem dX2_takeOut_22 : decode cX2_takeOut 22 = .ok (.aload_n 0, 1) := dk_42 (dk_at dksX2_takeOut_0 22 rfl rfl)
theorem dX2_takeOut_23 : decode cX2_takeOut 23 = .ok (.invokevirtual 114, 3) := dk_182 0 114 (dk_at dksX2_takeOut_1 0 rfl rfl)
theorem dX2_takeOut_26 : decode cX2_takeOut 26 = .ok (.iload_n 3, 1) := dk_29 (dk_at dksX2_takeOut_1 3 rfl rfl)
theorem dX2_takeOut_27 : decode cX2_takeOut 27 = .ok (.ireturn, 1) := dk_172 (dk_at dksX2_takeOut_1 4 rfl rfl)
abbrev cX2_setMode : ByteArray := prog_5_method_29_code
def yX2_setMode : MethodName := ⟨RX2, "setMode", "(I)V"⟩
def dkwX2_setMode_2 : List UInt8 := [182, 0, 195, 132, 2, 1, 167, 255, 210, 177]
abbrev dktX2_setMode_2 : List UInt8 := dkwX2_setMode_2 ++ []
def dkwX2_setMode_1 : List UInt8 := [3, 181, 0, 181, 42, 28, 182, 0, 86, 193, 0, 140, 153, 0, 14, 42, 28, 182, 0, 86, 192, 0, 140]
abbrev dktX2_setMode_1 : List UInt8 := dkwX2_setMode_1 ++ dktX2_setMode_2
def dkwX2_setMode_0 : List UInt8 := [42, 27, 181, 0, 73, 3, 61, 28, 42, 182, 0, 85, 162, 0, 44, 27, 154, 0, 40, 42, 28, 182, 0, 86]
abbrev dktX2_setMode_0 : List UInt8 := dkwX2_setMode_0 ++ dktX2_setMode_1
theorem dksX2_setMode_0 : cX2_setMode.data.toList.drop 0 = dktX2_setMode_0 := by decide +kernel
theorem dksX2_setMode_1 : cX2_setMode.data.toList.drop 24 = dktX2_setMode_1 := dk_seg dksX2_setMode_0 24 rfl rfl
theorem dksX2_setMode_2 : cX2_setMode.data.toList.drop 47 = dktX2_setMode_2 := dk_seg dksX2_setMode_1 23 rfl rfl
theorem dX2_setMode_0 : decode cX2_setMode 0 = .ok (.aload_n 0, 1) := dk_42 (dk_at dksX2_setMode_0 0 rfl rfl)
theorem dX2_setMode_1 : decode cX2_setMode 1 = .ok (.iload_n 1, 1) := dk_27 (dk_at dksX2_setMode_0 1 rfl rfl)
theorem dX2_setMode_2 : decode cX2_setMode 2 = .ok (.putfield 73, 3) := dk_181 0 73 (dk_at dksX2_setMode_0 2 rfl rfl)
theorem dX2_setMode_5 : decode cX2_setMode 5 = .ok (.iconst 0, 1) := dk_3 (dk_at dksX2_setMode_0 5 rfl rfl)
theorem dX2_setMode_6 : decode cX2_setMode 6 = .ok (.istore_n 2, 1) := dk_61 (dk_at dksX2_setMode_0 6 rfl rfl)
theorem dX2_setMode_7 : decode cX2_setMode 7 = .ok (.iload_n 2, 1) := dk_28 (dk_at dksX2_setMode_0 7 rfl rfl)
theorem dX2_setMode_8 : decode cX2_setMode 8 = .ok (.aload_n 0, 1) := dk_42 (dk_at dksX2_setMode_0 8 rfl rfl)
theorem dX2_setMode_9 : decode cX2_setMode 9 = .ok (.invokevirtual 85, 3) := dk_182 0 85 (dk_at dksX2_setMode_0 9 rfl rfl)
theorem dX2_setMode_12 : decode cX2_setMode 12 = .ok (.if_icmp .ge 44, 3) := dk_162 0 44 (dk_at dksX2_setMode_0 12 rfl rfl)
theorem dX2_setMode_15 : decode cX2_setMode 15 = .ok (.iload_n 1, 1) := dk_27 (dk_at dksX2_setMode_0 15 rfl rfl)
theorem dX2_setMode_16 : decode cX2_setMode 16 = .ok (.ifCond .ne 40, 3) := dk_154 0 40 (dk_at dksX2_setMode_0 16 rfl rfl)
theorem dX2_setMode_19 : decode cX2_setMode 19 = .ok (.aload_n 0, 1) := dk_42 (dk_at dksX2_setMode_0 19 rfl rfl)
theorem dX2_setMode_20 : decode cX2_setMode 20 = .ok (.iload_n 2, 1) := dk_28 (dk_at dksX2_setMode_0 20 rfl rfl)
theorem dX2_setMode_21 : decode cX2_setMode 21 = .ok (.invokevirtual 86, 3) := dk_182 0 86 (dk_at dksX2_setMode_0 21 rfl rfl)
theorem dX2_setMode_24 : decode cX2_setMode 24 = .ok (.iconst 0, 1) := dk_3 (dk_at dksX2_setMode_1 0 rfl rfl)
theorem dX2_setMode_25 : decode cX2_setMode 25 = .ok (.putfield 181, 3) := dk_181 0 181 (dk_at dksX2_setMode_1 1 rfl rfl)
theorem dX2_setMode_28 : decode cX2_setMode 28 = .ok (.aload_n 0, 1) := dk_42 (dk_at dksX2_setMode_1 4 rfl rfl)
theorem dX2_setMode_29 : decode cX2_setMode 29 = .ok (.iload_n 2, 1) := dk_28 (dk_at dksX2_setMode_1 5 rfl rfl)
theorem dX2_setMode_30 : decode cX2_setMode 30 = .ok (.invokevirtual 86, 3) := dk_182 0 86 (dk_at dksX2_setMode_1 6 rfl rfl)
theorem dX2_setMode_33 : decode cX2_setMode 33 = .ok (.instanceof 140, 3) := dk_193 0 140 (dk_at dksX2_setMode_1 9 rfl rfl)
theorem dX2_setMode_36 : decode cX2_setMode 36 = .ok (.ifCond .eq 14, 3) := dk_153 0 14 (dk_at dksX2_setMode_1 12 rfl rfl)
theorem dX2_setMode_39 : decode cX2_setMode 39 = .ok (.aload_n 0, 1) := dk_42 (dk_at dksX2_setMode_1 15 rfl rfl)
theorem dX2_setMode_40 : decode cX2_setMode 40 = .ok (.iload_n 2, 1) := dk_28 (dk_at dksX2_setMode_1 16 rfl rfl)
theorem dX2_setMode_41 : decode cX2_setMode 41 = .ok (.invokevirtual 86, 3) := dk_182 0 86 (dk_at dksX2_setMode_1 17 rfl rfl)
theorem dX2_setMode_44 : decode cX2_setMode 44 = .ok (.checkcast 140, 3) := dk_192 0 140 (dk_at dksX2_setMode_1 20 rfl rfl)
theorem dX2_setMode_47 : decode cX2_setMode 47 = .ok (.invokevirtual 195, 3) := dk_182 0 195 (dk_at dksX2_setMode_2 0 rfl rfl)
theorem dX2_setMode_50 : decode cX2_setMode 50 = .ok (.iinc 2 1, 3) := dk_132 2 1 (dk_at dksX2_setMode_2 3 rfl rfl)
theorem dX2_setMode_53 : decode cX2_setMode 53 = .ok (.goto (-46), 3) := dk_167 255 210 (dk_at dksX2_setMode_2 6 rfl rfl)
theorem dX2_setMode_56 : decode cX2_setMode 56 = .ok (.return_, 1) := dk_177 (dk_at dksX2_setMode_2 9 rfl rfl)
abbrev cX2_setRecorder : ByteArray := prog_5_method_30_code
def yX2_setRecorder : MethodName := ⟨RX2, "setRecorder", "(I)V"⟩
def dkwX2_setRecorder_0 : List UInt8 := [42, 27, 181, 0, 40, 42, 3, 181, 0, 66, 42, 3, 181, 0, 79, 42, 2, 181, 0, 44, 177]
abbrev dktX2_setRecorder_0 : List UInt8 := dkwX2_setRecorder_0 ++ []
theorem dksX2_setRecorder_0 : cX2_setRecorder.data.toList.drop 0 = dktX2_setRecorder_0 := by decide +kernel
theorem dX2_setRecorder_0 : decode cX2_setRecorder 0 = .ok (.aload_n 0, 1) := dk_42 (dk_at dksX2_setRecorder_0 0 rfl rfl)
theorem dX2_setRecorder_1 : decode cX2_setRecorder 1 = .ok (.iload_n 1, 1) := dk_27 (dk_at dksX2_setRecorder_0 1 rfl rfl)
theorem dX2_setRecorder_2 : decode cX2_setRecorder 2 = .ok (.putfield 40, 3) := dk_181 0 40 (dk_at dksX2_setRecorder_0 2 rfl rfl)
theorem dX2_setRecorder_5 : decode cX2_setRecorder 5 = .ok (.aload_n 0, 1) := dk_42 (dk_at dksX2_setRecorder_0 5 rfl rfl)
theorem dX2_setRecorder_6 : decode cX2_setRecorder 6 = .ok (.iconst 0, 1) := dk_3 (dk_at dksX2_setRecorder_0 6 rfl rfl)
theorem dX2_setRecorder_7 : decode cX2_setRecorder 7 = .ok (.putfield 66, 3) := dk_181 0 66 (dk_at dksX2_setRecorder_0 7 rfl rfl)
theorem dX2_setRecorder_10 : decode cX2_setRecorder 10 = .ok (.aload_n 0, 1) := dk_42 (dk_at dksX2_setRecorder_0 10 rfl rfl)
theorem dX2_setRecorder_11 : decode cX2_setRecorder 11 = .ok (.iconst 0, 1) := dk_3 (dk_at dksX2_setRecorder_0 11 rfl rfl)
theorem dX2_setRecorder_12 : decode cX2_setRecorder 12 = .ok (.putfield 79, 3) := dk_181 0 79 (dk_at dksX2_setRecorder_0 12 rfl rfl)
theorem dX2_setRecorder_15 : decode cX2_setRecorder 15 = .ok (.aload_n 0, 1) := dk_42 (dk_at dksX2_setRecorder_0 15 rfl rfl)
theorem dX2_setRecorder_16 : decode cX2_setRecorder 16 = .ok (.iconst (-1), 1) := dk_2 (dk_at dksX2_setRecorder_0 16 rfl rfl)
theorem dX2_setRecorder_17 : decode cX2_setRecorder 17 = .ok (.putfield 44, 3) := dk_181 0 44 (dk_at dksX2_setRecorder_0 17 rfl rfl)
theorem dX2_setRecorder_20 : decode cX2_setRecorder 20 = .ok (.return_, 1) := dk_177 (dk_at dksX2_setRecorder_0 20 rfl rfl)
abbrev cX2_output : ByteArray := prog_5_method_11_code
def yX2_output : MethodName := ⟨RX2, "output", "(I)I"⟩
def dkwX2_output_0 : List UInt8 := [42, 182, 0, 128, 42, 180, 0, 22, 27, 46, 172]
abbrev dktX2_output_0 : List UInt8 := dkwX2_output_0 ++ []
theorem dksX2_output_0 : cX2_output.data.toList.drop 0 = dktX2_output_0 := by decide +kernel
theorem dX2_output_0 : decode cX2_output 0 = .ok (.aload_n 0, 1) := dk_42 (dk_at dksX2_output_0 0 rfl rfl)
theorem dX2_output_1 : decode cX2_output 1 = .ok (.invokevirtual 128, 3) := dk_182 0 128 (dk_at dksX2_output_0 1 rfl rfl)
theorem dX2_output_4 : decode cX2_output 4 = .ok (.aload_n 0, 1) := dk_42 (dk_at dksX2_output_0 4 rfl rfl)
theorem dX2_output_5 : decode cX2_output 5 = .ok (.getfield 22, 3) := dk_180 0 22 (dk_at dksX2_output_0 5 rfl rfl)
theorem dX2_output_8 : decode cX2_output 8 = .ok (.iload_n 1, 1) := dk_27 (dk_at dksX2_output_0 8 rfl rfl)
theorem dX2_output_9 : decode cX2_output 9 = .ok (.iaload, 1) := dk_46 (dk_at dksX2_output_0 9 rfl rfl)
theorem dX2_output_10 : decode cX2_output 10 = .ok (.ireturn, 1) := dk_172 (dk_at dksX2_output_0 10 rfl rfl)
abbrev cX2_outputByAsking : ByteArray := prog_5_method_13_code
def yX2_outputByAsking : MethodName := ⟨RX2, "outputByAsking", "(I)I"⟩
def dkwX2_outputByAsking_0 : List UInt8 := [42, 27, 16, 16, 188, 10, 16, 16, 188, 4, 182, 0, 131, 172]
abbrev dktX2_outputByAsking_0 : List UInt8 := dkwX2_outputByAsking_0 ++ []
theorem dksX2_outputByAsking_0 : cX2_outputByAsking.data.toList.drop 0 = dktX2_outputByAsking_0 := by decide +kernel
theorem dX2_outputByAsking_0 : decode cX2_outputByAsking 0 = .ok (.aload_n 0, 1) := dk_42 (dk_at dksX2_outputByAsking_0 0 rfl rfl)
theorem dX2_outputByAsking_1 : decode cX2_outputByAsking 1 = .ok (.iload_n 1, 1) := dk_27 (dk_at dksX2_outputByAsking_0 1 rfl rfl)
theorem dX2_outputByAsking_2 : decode cX2_outputByAsking 2 = .ok (.bipush 16, 2) := dk_16 16 (dk_at dksX2_outputByAsking_0 2 rfl rfl)
theorem dX2_outputByAsking_4 : decode cX2_outputByAsking 4 = .ok (.newarray .int, 2) := dk_188_10 (dk_at dksX2_outputByAsking_0 4 rfl rfl)
theorem dX2_outputByAsking_6 : decode cX2_outputByAsking 6 = .ok (.bipush 16, 2) := dk_16 16 (dk_at dksX2_outputByAsking_0 6 rfl rfl)
theorem dX2_outputByAsking_8 : decode cX2_outputByAsking 8 = .ok (.newarray .boolean, 2) := dk_188_4 (dk_at dksX2_outputByAsking_0 8 rfl rfl)
theorem dX2_outputByAsking_10 : decode cX2_outputByAsking 10 = .ok (.invokevirtual 131, 3) := dk_182 0 131 (dk_at dksX2_outputByAsking_0 10 rfl rfl)
theorem dX2_outputByAsking_13 : decode cX2_outputByAsking 13 = .ok (.ireturn, 1) := dk_172 (dk_at dksX2_outputByAsking_0 13 rfl rfl)
abbrev cX2_ask : ByteArray := prog_5_method_14_code
def yX2_ask : MethodName := ⟨RX2, "ask", "(I[I[Z)I"⟩
def dkwX2_ask_4 : List UInt8 := [184, 0, 125, 79, 45, 27, 4, 84, 44, 27, 46, 172]
abbrev dktX2_ask_4 : List UInt8 := dkwX2_ask_4 ++ []
def dkwX2_ask_3 : List UInt8 := [45, 182, 0, 131, 79, 132, 6, 1, 167, 255, 199, 44, 27, 25, 4, 25, 5, 182, 0, 121, 17, 39, 16]
abbrev dktX2_ask_3 : List UInt8 := dkwX2_ask_3 ++ dktX2_ask_4
def dkwX2_ask_2 : List UInt8 := [180, 0, 98, 21, 6, 46, 2, 160, 0, 7, 3, 167, 0, 17, 42, 25, 4, 180, 0, 98, 21, 6, 46, 44]
abbrev dktX2_ask_2 : List UInt8 := dkwX2_ask_2 ++ dktX2_ask_3
def dkwX2_ask_1 : List UInt8 := [25, 4, 180, 0, 98, 190, 162, 0, 52, 25, 4, 182, 0, 90, 154, 0, 44, 25, 5, 21, 6, 25, 4]
abbrev dktX2_ask_1 : List UInt8 := dkwX2_ask_1 ++ dktX2_ask_2
def dkwX2_ask_0 : List UInt8 := [45, 27, 51, 154, 0, 98, 42, 27, 182, 0, 86, 58, 4, 7, 188, 10, 58, 5, 3, 54, 6, 21, 6]
abbrev dktX2_ask_0 : List UInt8 := dkwX2_ask_0 ++ dktX2_ask_1
theorem dksX2_ask_0 : cX2_ask.data.toList.drop 0 = dktX2_ask_0 := by decide +kernel
theorem dksX2_ask_1 : cX2_ask.data.toList.drop 23 = dktX2_ask_1 := dk_seg dksX2_ask_0 23 rfl rfl
theorem dksX2_ask_2 : cX2_ask.data.toList.drop 46 = dktX2_ask_2 := dk_seg dksX2_ask_1 23 rfl rfl
theorem dksX2_ask_3 : cX2_ask.data.toList.drop 70 = dktX2_ask_3 := dk_seg dksX2_ask_2 24 rfl rfl
theorem dksX2_ask_4 : cX2_ask.data.toList.drop 93 = dktX2_ask_4 := dk_seg dksX2_ask_3 23 rfl rfl
theorem dX2_ask_0 : decode cX2_ask 0 = .ok (.aload_n 3, 1) := dk_45 (dk_at dksX2_ask_0 0 rfl rfl)
theorem dX2_ask_1 : decode cX2_ask 1 = .ok (.iload_n 1, 1) := dk_27 (dk_at dksX2_ask_0 1 rfl rfl)
theorem dX2_ask_2 : decode cX2_ask 2 = .ok (.baload, 1) := dk_51 (dk_at dksX2_ask_0 2 rfl rfl)
theorem dX2_ask_3 : decode cX2_ask 3 = .ok (.ifCond .ne 98, 3) := dk_154 0 98 (dk_at dksX2_ask_0 3 rfl rfl)
theorem dX2_ask_6 : decode cX2_ask 6 = .ok (.aload_n 0, 1) := dk_42 (dk_at dksX2_ask_0 6 rfl rfl)
theorem dX2_ask_7 : decode cX2_ask 7 = .ok (.iload_n 1, 1) := dk_27 (dk_at dksX2_ask_0 7 rfl rfl)
theorem dX2_ask_8 : decode cX2_ask 8 = .ok (.invokevirtual 86, 3) := dk_182 0 86 (dk_at dksX2_ask_0 8 rfl rfl)
theorem dX2_ask_11 : decode cX2_ask 11 = .ok (.astore 4, 2) := dk_58 4 (dk_at dksX2_ask_0 11 rfl rfl)
theorem dX2_ask_13 : decode cX2_ask 13 = .ok (.iconst 4, 1) := dk_7 (dk_at dksX2_ask_0 13 rfl rfl)
theorem dX2_ask_14 : decode cX2_ask 14 = .ok (.newarray .int, 2) := dk_188_10 (dk_at dksX2_ask_0 14 rfl rfl)
theorem dX2_ask_16 : decode cX2_ask 16 = .ok (.astore 5, 2) := dk_58 5 (dk_at dksX2_ask_0 16 rfl rfl)
theorem dX2_ask_18 : decode cX2_ask 18 = .ok (.iconst 0, 1) := dk_3 (dk_at dksX2_ask_0 18 rfl rfl)
theorem dX2_ask_19 : decode cX2_ask 19 = .ok (.istore 6, 2) := dk_54 6 (dk_at dksX2_ask_0 19 rfl rfl)
theorem dX2_ask_21 : decode cX2_ask 21 = .ok (.iload 6, 2) := dk_21 6 (dk_at dksX2_ask_0 21 rfl rfl)
theorem dX2_ask_23 : decode cX2_ask 23 = .ok (.aload 4, 2) := dk_25 4 (dk_at dksX2_ask_1 0 rfl rfl)
theorem dX2_ask_25 : decode cX2_ask 25 = .ok (.getfield 98, 3) := dk_180 0 98 (dk_at dksX2_ask_1 2 rfl rfl)
theorem dX2_ask_28 : decode cX2_ask 28 = .ok (.arraylength, 1) := dk_190 (dk_at dksX2_ask_1 5 rfl rfl)
theorem dX2_ask_29 : decode cX2_ask 29 = .ok (.if_icmp .ge 52, 3) := dk_162 0 52 (dk_at dksX2_ask_1 6 rfl rfl)
theorem dX2_ask_32 : decode cX2_ask 32 = .ok (.aload 4, 2) := dk_25 4 (dk_at dksX2_ask_1 9 rfl rfl)
theorem dX2_ask_34 : decode cX2_ask 34 = .ok (.invokevirtual 90, 3) := dk_182 0 90 (dk_at dksX2_ask_1 11 rfl rfl)
theorem dX2_ask_37 : decode cX2_ask 37 = .ok (.ifCond .ne 44, 3) := dk_154 0 44 (dk_at dksX2_ask_1 14 rfl rfl)
theorem dX2_ask_40 : decode cX2_ask 40 = .ok (.aload 5, 2) := dk_25 5 (dk_at dksX2_ask_1 17 rfl rfl)
theorem dX2_ask_42 : decode cX2_ask 42 = .ok (.iload 6, 2) := dk_21 6 (dk_at dksX2_ask_1 19 rfl rfl)
theorem dX2_ask_44 : decode cX2_ask 44 = .ok (.aload 4, 2) := dk_25 4 (dk_at dksX2_ask_1 21 rfl rfl)
theorem dX2_ask_46 : decode cX2_ask 46 = .ok (.getfield 98, 3) := dk_180 0 98 (dk_at dksX2_ask_2 0 rfl rfl)
theorem dX2_ask_49 : decode cX2_ask 49 = .ok (.iload 6, 2) := dk_21 6 (dk_at dksX2_ask_2 3 rfl rfl)
theorem dX2_ask_51 : decode cX2_ask 51 = .ok (.iaload, 1) := dk_46 (dk_at dksX2_ask_2 5 rfl rfl)
theorem dX2_ask_52 : decode cX2_ask 52 = .ok (.iconst (-1), 1) := dk_2 (dk_at dksX2_ask_2 6 rfl rfl)
theorem dX2_ask_53 : decode cX2_ask 53 = .ok (.if_icmp .ne 7, 3) := dk_160 0 7 (dk_at dksX2_ask_2 7 rfl rfl)
theorem dX2_ask_56 : decode cX2_ask 56 = .ok (.iconst 0, 1) := dk_3 (dk_at dksX2_ask_2 10 rfl rfl)
theorem dX2_ask_57 : decode cX2_ask 57 = .ok (.goto 17, 3) := dk_167 0 17 (dk_at dksX2_ask_2 11 rfl rfl)
theorem dX2_ask_60 : decode cX2_ask 60 = .ok (.aload_n 0, 1) := dk_42 (dk_at dksX2_ask_2 14 rfl rfl)
theorem dX2_ask_61 : decode cX2_ask 61 = .ok (.aload 4, 2) := dk_25 4 (dk_at dksX2_ask_2 15 rfl rfl)
theorem dX2_ask_63 : decode cX2_ask 63 = .ok (.getfield 98, 3) := dk_180 0 98 (dk_at dksX2_ask_2 17 rfl rfl)
theorem dX2_ask_66 : decode cX2_ask 66 = .ok (.iload 6, 2) := dk_21 6 (dk_at dksX2_ask_2 20 rfl rfl)
theorem dX2_ask_68 : decode cX2_ask 68 = .ok (.iaload, 1) := dk_46 (dk_at dksX2_ask_2 22 rfl rfl)
theorem dX2_ask_69 : decode cX2_ask 69 = .ok (.aload_n 2, 1) := dk_44 (dk_at dksX2_ask_2 23 rfl rfl)
theorem dX2_ask_70 : decode cX2_ask 70 = .ok (.aload_n 3, 1) := dk_45 (dk_at dksX2_ask_3 0 rfl rfl)
theorem dX2_ask_71 : decode cX2_ask 71 = .ok (.invokevirtual 131, 3) := dk_182 0 131 (dk_at dksX2_ask_3 1 rfl rfl)
theorem dX2_ask_74 : decode cX2_ask 74 = .ok (.iastore, 1) := dk_79 (dk_at dksX2_ask_3 4 rfl rfl)
theorem dX2_ask_75 : decode cX2_ask 75 = .ok (.iinc 6 1, 3) := dk_132 6 1 (dk_at dksX2_ask_3 5 rfl rfl)
theorem dX2_ask_78 : decode cX2_ask 78 = .ok (.goto (-57), 3) := dk_167 255 199 (dk_at dksX2_ask_3 8 rfl rfl)
theorem dX2_ask_81 : decode cX2_ask 81 = .ok (.aload_n 2, 1) := dk_44 (dk_at dksX2_ask_3 11 rfl rfl)
theorem dX2_ask_82 : decode cX2_ask 82 = .ok (.iload_n 1, 1) := dk_27 (dk_at dksX2_ask_3 12 rfl rfl)
theorem dX2_ask_83 : decode cX2_ask 83 = .ok (.aload 4, 2) := dk_25 4 (dk_at dksX2_ask_3 13 rfl rfl)
theorem dX2_ask_85 : decode cX2_ask 85 = .ok (.aload 5, 2) := dk_25 5 (dk_at dksX2_ask_3 15 rfl rfl)
theorem dX2_ask_87 : decode cX2_ask 87 = .ok (.invokevirtual 121, 3) := dk_182 0 121 (dk_at dksX2_ask_3 17 rfl rfl)
theorem dX2_ask_90 : decode cX2_ask 90 = .ok (.sipush 10000, 3) := dk_17 39 16 (dk_at dksX2_ask_3 20 rfl rfl)
theorem dX2_ask_93 : decode cX2_ask 93 = .ok (.invokestatic 125, 3) := dk_184 0 125 (dk_at dksX2_ask_4 0 rfl rfl)
theorem dX2_ask_96 : decode cX2_ask 96 = .ok (.iastore, 1) := dk_79 (dk_at dksX2_ask_4 3 rfl rfl)
theorem dX2_ask_97 : decode cX2_ask 97 = .ok (.aload_n 3, 1) := dk_45 (dk_at dksX2_ask_4 4 rfl rfl)
theorem dX2_ask_98 : decode cX2_ask 98 = .ok (.iload_n 1, 1) := dk_27 (dk_at dksX2_ask_4 5 rfl rfl)
theorem dX2_ask_99 : decode cX2_ask 99 = .ok (.iconst 1, 1) := dk_4 (dk_at dksX2_ask_4 6 rfl rfl)
theorem dX2_ask_100 : decode cX2_ask 100 = .ok (.bastore, 1) := dk_84 (dk_at dksX2_ask_4 7 rfl rfl)
theorem dX2_ask_101 : decode cX2_ask 101 = .ok (.aload_n 2, 1) := dk_44 (dk_at dksX2_ask_4 8 rfl rfl)
theorem dX2_ask_102 : decode cX2_ask 102 = .ok (.iload_n 1, 1) := dk_27 (dk_at dksX2_ask_4 9 rfl rfl)
theorem dX2_ask_103 : decode cX2_ask 103 = .ok (.iaload, 1) := dk_46 (dk_at dksX2_ask_4 10 rfl rfl)
theorem dX2_ask_104 : decode cX2_ask 104 = .ok (.ireturn, 1) := dk_172 (dk_at dksX2_ask_4 11 rfl rfl)
abbrev cX2_input : ByteArray := prog_5_method_12_code
def yX2_input : MethodName := ⟨RX2, "input", "(II)I"⟩
def dkwX2_input_0 : List UInt8 := [42, 182, 0, 128, 42, 42, 27, 182, 0, 86, 182, 0, 117, 42, 180, 0, 25, 28, 46, 172]
abbrev dktX2_input_0 : List UInt8 := dkwX2_input_0 ++ []
theorem dksX2_input_0 : cX2_input.data.toList.drop 0 = dktX2_input_0 := by decide +kernel
theorem dX2_input_0 : decode cX2_input 0 = .ok (.aload_n 0, 1) := dk_42 (dk_at dksX2_input_0 0 rfl rfl)
theorem dX2_input_1 : decode cX2_input 1 = .ok (.invokevirtual 128, 3) := dk_182 0 128 (dk_at dksX2_input_0 1 rfl rfl)
theorem dX2_input_4 : decode cX2_input 4 = .ok (.aload_n 0, 1) := dk_42 (dk_at dksX2_input_0 4 rfl rfl)
theorem dX2_input_5 : decode cX2_input 5 = .ok (.aload_n 0, 1) := dk_42 (dk_at dksX2_input_0 5 rfl rfl)
theorem dX2_input_6 : decode cX2_input 6 = .ok (.iload_n 1, 1) := dk_27 (dk_at dksX2_input_0 6 rfl rfl)
theorem dX2_input_7 : decode cX2_input 7 = .ok (.invokevirtual 86, 3) := dk_182 0 86 (dk_at dksX2_input_0 7 rfl rfl)
theorem dX2_input_10 : decode cX2_input 10 = .ok (.invokevirtual 117, 3) := dk_182 0 117 (dk_at dksX2_input_0 10 rfl rfl)
theorem dX2_input_13 : decode cX2_input 13 = .ok (.aload_n 0, 1) := dk_42 (dk_at dksX2_input_0 13 rfl rfl)
theorem dX2_input_14 : decode cX2_input 14 = .ok (.getfield 25, 3) := dk_180 0 25 (dk_at dksX2_input_0 14 rfl rfl)
theorem dX2_input_17 : decode cX2_input 17 = .ok (.iload_n 2, 1) := dk_28 (dk_at dksX2_input_0 17 rfl rfl)
theorem dX2_input_18 : decode cX2_input 18 = .ok (.iaload, 1) := dk_46 (dk_at dksX2_input_0 18 rfl rfl)
theorem dX2_input_19 : decode cX2_input 19 = .ok (.ireturn, 1) := dk_172 (dk_at dksX2_input_0 19 rfl rfl)
abbrev cX2_dependsByTable : ByteArray := prog_5_method_18_code
def yX2_dependsByTable : MethodName := ⟨RX2, "dependsByTable", "(I)I"⟩
def dkwX2_dependsByTable_4 : List UInt8 := [44, 27, 46, 172]
abbrev dktX2_dependsByTable_4 : List UInt8 := dkwX2_dependsByTable_4 ++ []
def dkwX2_dependsByTable_3 : List UInt8 := [153, 0, 9, 44, 29, 46, 167, 0, 4, 3, 128, 79, 132, 4, 1, 167, 255, 219, 132, 3, 1, 167, 255, 202]
abbrev dktX2_dependsByTable_3 : List UInt8 := dkwX2_dependsByTable_3 ++ dktX2_dependsByTable_4
def dkwX2_dependsByTable_2 : List UInt8 := [21, 4, 42, 182, 0, 85, 162, 0, 34, 44, 21, 4, 92, 46, 44, 21, 4, 46, 29, 184, 0, 147]
abbrev dktX2_dependsByTable_2 : List UInt8 := dkwX2_dependsByTable_2 ++ dktX2_dependsByTable_3
def dkwX2_dependsByTable_1 : List UInt8 := [182, 0, 144, 79, 132, 3, 1, 167, 255, 234, 3, 62, 29, 42, 182, 0, 85, 162, 0, 52, 3, 54, 4]
abbrev dktX2_dependsByTable_1 : List UInt8 := dkwX2_dependsByTable_1 ++ dktX2_dependsByTable_2
def dkwX2_dependsByTable_0 : List UInt8 := [16, 16, 188, 10, 77, 3, 62, 29, 42, 182, 0, 85, 162, 0, 20, 44, 29, 42, 29, 182, 0, 86]
abbrev dktX2_dependsByTable_0 : List UInt8 := dkwX2_dependsByTable_0 ++ dktX2_dependsByTable_1
theorem dksX2_dependsByTable_0 : cX2_dependsByTable.data.toList.drop 0 = dktX2_dependsByTable_0 := by decide +kernel
theorem dksX2_dependsByTable_1 : cX2_dependsByTable.data.toList.drop 22 = dktX2_dependsByTable_1 := dk_seg dksX2_dependsByTable_0 22 rfl rfl
theorem dksX2_dependsByTable_2 : cX2_dependsByTable.data.toList.drop 45 = dktX2_dependsByTable_2 := dk_seg dksX2_dependsByTable_1 23 rfl rfl
theorem dksX2_dependsByTable_3 : cX2_dependsByTable.data.toList.drop 67 = dktX2_dependsByTable_3 := dk_seg dksX2_dependsByTable_2 22 rfl rfl
theorem dksX2_dependsByTable_4 : cX2_dependsByTable.data.toList.drop 91 = dktX2_dependsByTable_4 := dk_seg dksX2_dependsByTable_3 24 rfl rfl
theorem dX2_dependsByTable_0 : decode cX2_dependsByTable 0 = .ok (.bipush 16, 2) := dk_16 16 (dk_at dksX2_dependsByTable_0 0 rfl rfl)
theorem dX2_dependsByTable_2 : decode cX2_dependsByTable 2 = .ok (.newarray .int, 2) := dk_188_10 (dk_at dksX2_dependsByTable_0 2 rfl rfl)
theorem dX2_dependsByTable_4 : decode cX2_dependsByTable 4 = .ok (.astore_n 2, 1) := dk_77 (dk_at dksX2_dependsByTable_0 4 rfl rfl)
theorem dX2_dependsByTable_5 : decode cX2_dependsByTable 5 = .ok (.iconst 0, 1) := dk_3 (dk_at dksX2_dependsByTable_0 5 rfl rfl)
theorem dX2_dependsByTable_6 : decode cX2_dependsByTable 6 = .ok (.istore_n 3, 1) := dk_62 (dk_at dksX2_dependsByTable_0 6 rfl rfl)
theorem dX2_dependsByTable_7 : decode cX2_dependsByTable 7 = .ok (.iload_n 3, 1) := dk_29 (dk_at dksX2_dependsByTable_0 7 rfl rfl)
theorem dX2_dependsByTable_8 : decode cX2_dependsByTable 8 = .ok (.aload_n 0, 1) := dk_42 (dk_at dksX2_dependsByTable_0 8 rfl rfl)
theorem dX2_dependsByTable_9 : decode cX2_dependsByTable 9 = .ok (.invokevirtual 85, 3) := dk_182 0 85 (dk_at dksX2_dependsByTable_0 9 rfl rfl)
theorem dX2_dependsByTable_12 : decode cX2_dependsByTable 12 = .ok (.if_icmp .ge 20, 3) := dk_162 0 20 (dk_at dksX2_dependsByTable_0 12 rfl rfl)
theorem dX2_dependsByTable_15 : decode cX2_dependsByTable 15 = .ok (.aload_n 2, 1) := dk_44 (dk_at dksX2_dependsByTable_0 15 rfl rfl)
theorem dX2_dependsByTable_16 : decode cX2_dependsByTable 16 = .ok (.iload_n 3, 1) := dk_29 (dk_at dksX2_dependsByTable_0 16 rfl rfl)
theorem dX2_dependsByTable_17 : decode cX2_dependsByTable 17 = .ok (.aload_n 0, 1) := dk_42 (dk_at dksX2_dependsByTable_0 17 rfl rfl)
theorem dX2_dependsByTable_18 : decode cX2_dependsByTable 18 = .ok (.iload_n 3, 1) := dk_29 (dk_at dksX2_dependsByTable_0 18 rfl rfl)
theorem dX2_dependsByTable_19 : decode cX2_dependsByTable 19 = .ok (.invokevirtual 86, 3) := dk_182 0 86 (dk_at dksX2_dependsByTable_0 19 rfl rfl)
theorem dX2_dependsByTable_22 : decode cX2_dependsByTable 22 = .ok (.invokevirtual 144, 3) := dk_182 0 144 (dk_at dksX2_dependsByTable_1 0 rfl rfl)
theorem dX2_dependsByTable_25 : decode cX2_dependsByTable 25 = .ok (.iastore, 1) := dk_79 (dk_at dksX2_dependsByTable_1 3 rfl rfl)
theorem dX2_dependsByTable_26 : decode cX2_dependsByTable 26 = .ok (.iinc 3 1, 3) := dk_132 3 1 (dk_at dksX2_dependsByTable_1 4 rfl rfl)
theorem dX2_dependsByTable_29 : decode cX2_dependsByTable 29 = .ok (.goto (-22), 3) := dk_167 255 234 (dk_at dksX2_dependsByTable_1 7 rfl rfl)
theorem dX2_dependsByTable_32 : decode cX2_dependsByTable 32 = .ok (.iconst 0, 1) := dk_3 (dk_at dksX2_dependsByTable_1 10 rfl rfl)
theorem dX2_dependsByTable_33 : decode cX2_dependsByTable 33 = .ok (.istore_n 3, 1) := dk_62 (dk_at dksX2_dependsByTable_1 11 rfl rfl)
theorem dX2_dependsByTable_34 : decode cX2_dependsByTable 34 = .ok (.iload_n 3, 1) := dk_29 (dk_at dksX2_dependsByTable_1 12 rfl rfl)
theorem dX2_dependsByTable_35 : decode cX2_dependsByTable 35 = .ok (.aload_n 0, 1) := dk_42 (dk_at dksX2_dependsByTable_1 13 rfl rfl)
theorem dX2_dependsByTable_36 : decode cX2_dependsByTable 36 = .ok (.invokevirtual 85, 3) := dk_182 0 85 (dk_at dksX2_dependsByTable_1 14 rfl rfl)
theorem dX2_dependsByTable_39 : decode cX2_dependsByTable 39 = .ok (.if_icmp .ge 52, 3) := dk_162 0 52 (dk_at dksX2_dependsByTable_1 17 rfl rfl)
theorem dX2_dependsByTable_42 : decode cX2_dependsByTable 42 = .ok (.iconst 0, 1) := dk_3 (dk_at dksX2_dependsByTable_1 20 rfl rfl)
theorem dX2_dependsByTable_43 : decode cX2_dependsByTable 43 = .ok (.istore 4, 2) := dk_54 4 (dk_at dksX2_dependsByTable_1 21 rfl rfl)
theorem dX2_dependsByTable_45 : decode cX2_dependsByTable 45 = .ok (.iload 4, 2) := dk_21 4 (dk_at dksX2_dependsByTable_2 0 rfl rfl)
theorem dX2_dependsByTable_47 : decode cX2_dependsByTable 47 = .ok (.aload_n 0, 1) := dk_42 (dk_at dksX2_dependsByTable_2 2 rfl rfl)
theorem dX2_dependsByTable_48 : decode cX2_dependsByTable 48 = .ok (.invokevirtual 85, 3) := dk_182 0 85 (dk_at dksX2_dependsByTable_2 3 rfl rfl)
theorem dX2_dependsByTable_51 : decode cX2_dependsByTable 51 = .ok (.if_icmp .ge 34, 3) := dk_162 0 34 (dk_at dksX2_dependsByTable_2 6 rfl rfl)
theorem dX2_dependsByTable_54 : decode cX2_dependsByTable 54 = .ok (.aload_n 2, 1) := dk_44 (dk_at dksX2_dependsByTable_2 9 rfl rfl)
theorem dX2_dependsByTable_55 : decode cX2_dependsByTable 55 = .ok (.iload 4, 2) := dk_21 4 (dk_at dksX2_dependsByTable_2 10 rfl rfl)
theorem dX2_dependsByTable_57 : decode cX2_dependsByTable 57 = .ok (.dup2, 1) := dk_92 (dk_at dksX2_dependsByTable_2 12 rfl rfl)
theorem dX2_dependsByTable_58 : decode cX2_dependsByTable 58 = .ok (.iaload, 1) := dk_46 (dk_at dksX2_dependsByTable_2 13 rfl rfl)
theorem dX2_dependsByTable_59 : decode cX2_dependsByTable 59 = .ok (.aload_n 2, 1) := dk_44 (dk_at dksX2_dependsByTable_2 14 rfl rfl)
theorem dX2_dependsByTable_60 : decode cX2_dependsByTable 60 = .ok (.iload 4, 2) := dk_21 4 (dk_at dksX2_dependsByTable_2 15 rfl rfl)
theorem dX2_dependsByTable_62 : decode cX2_dependsByTable 62 = .ok (.iaload, 1) := dk_46 (dk_at dksX2_dependsByTable_2 17 rfl rfl)
theorem dX2_dependsByTable_63 : decode cX2_dependsByTable 63 = .ok (.iload_n 3, 1) := dk_29 (dk_at dksX2_dependsByTable_2 18 rfl rfl)
theorem dX2_dependsByTable_64 : decode cX2_dependsByTable 64 = .ok (.invokestatic 147, 3) := dk_184 0 147 (dk_at dksX2_dependsByTable_2 19 rfl rfl)
theorem dX2_dependsByTable_67 : decode cX2_dependsByTable 67 = .ok (.ifCond .eq 9, 3) := dk_153 0 9 (dk_at dksX2_dependsByTable_3 0 rfl rfl)
theorem dX2_dependsByTable_70 : decode cX2_dependsByTable 70 = .ok (.aload_n 2, 1) := dk_44 (dk_at dksX2_dependsByTable_3 3 rfl rfl)
theorem dX2_dependsByTable_71 : decode cX2_dependsByTable 71 = .ok (.iload_n 3, 1) := dk_29 (dk_at dksX2_dependsByTable_3 4 rfl rfl)
theorem dX2_dependsByTable_72 : decode cX2_dependsByTable 72 = .ok (.iaload, 1) := dk_46 (dk_at dksX2_dependsByTable_3 5 rfl rfl)
theorem dX2_dependsByTable_73 : decode cX2_dependsByTable 73 = .ok (.goto 4, 3) := dk_167 0 4 (dk_at dksX2_dependsByTable_3 6 rfl rfl)
theorem dX2_dependsByTable_76 : decode cX2_dependsByTable 76 = .ok (.iconst 0, 1) := dk_3 (dk_at dksX2_dependsByTable_3 9 rfl rfl)
theorem dX2_dependsByTable_77 : decode cX2_dependsByTable 77 = .ok (.ior, 1) := dk_128 (dk_at dksX2_dependsByTable_3 10 rfl rfl)
theorem dX2_dependsByTable_78 : decode cX2_dependsByTable 78 = .ok (.iastore, 1) := dk_79 (dk_at dksX2_dependsByTable_3 11 rfl rfl)
theorem dX2_dependsByTable_79 : decode cX2_dependsByTable 79 = .ok (.iinc 4 1, 3) := dk_132 4 1 (dk_at dksX2_dependsByTable_3 12 rfl rfl)
theorem dX2_dependsByTable_82 : decode cX2_dependsByTable 82 = .ok (.goto (-37), 3) := dk_167 255 219 (dk_at dksX2_dependsByTable_3 15 rfl rfl)
theorem dX2_dependsByTable_85 : decode cX2_dependsByTable 85 = .ok (.iinc 3 1, 3) := dk_132 3 1 (dk_at dksX2_dependsByTable_3 18 rfl rfl)
theorem dX2_dependsByTable_88 : decode cX2_dependsByTable 88 = .ok (.goto (-54), 3) := dk_167 255 202 (dk_at dksX2_dependsByTable_3 21 rfl rfl)
theorem dX2_dependsByTable_91 : decode cX2_dependsByTable 91 = .ok (.aload_n 2, 1) := dk_44 (dk_at dksX2_dependsByTable_4 0 rfl rfl)
theorem dX2_dependsByTable_92 : decode cX2_dependsByTable 92 = .ok (.iload_n 1, 1) := dk_27 (dk_at dksX2_dependsByTable_4 1 rfl rfl)
theorem dX2_dependsByTable_93 : decode cX2_dependsByTable 93 = .ok (.iaload, 1) := dk_46 (dk_at dksX2_dependsByTable_4 2 rfl rfl)
theorem dX2_dependsByTable_94 : decode cX2_dependsByTable 94 = .ok (.ireturn, 1) := dk_172 (dk_at dksX2_dependsByTable_4 3 rfl rfl)
abbrev cX2_bestFactor : ByteArray := prog_5_method_37_code
def yX2_bestFactor : MethodName := ⟨RX2, "bestFactor", "(III)I"⟩
def dkwX2_bestFactor_4 : List UInt8 := [21, 5, 54, 5, 132, 6, 50, 167, 255, 163, 21, 4, 172]
abbrev dktX2_bestFactor_4 : List UInt8 := dkwX2_bestFactor_4 ++ []
def dkwX2_bestFactor_3 : List UInt8 := [162, 0, 8, 21, 6, 167, 0, 5, 21, 4, 54, 4, 21, 4, 21, 6, 160, 0, 8, 21, 8, 167, 0, 5]
abbrev dktX2_bestFactor_3 : List UInt8 := dkwX2_bestFactor_3 ++ dktX2_bestFactor_4
def dkwX2_bestFactor_2 : List UInt8 := [28, 182, 0, 220, 184, 0, 184, 29, 100, 184, 0, 184, 54, 8, 21, 4, 2, 159, 0, 10, 21, 8, 21, 5]
abbrev dktX2_bestFactor_2 : List UInt8 := dkwX2_bestFactor_2 ++ dktX2_bestFactor_3
def dkwX2_bestFactor_1 : List UInt8 := [25, 7, 27, 182, 0, 86, 192, 0, 212, 21, 6, 181, 0, 214, 25, 7, 16, 20, 182, 0, 217, 87, 25, 7]
abbrev dktX2_bestFactor_1 : List UInt8 := dkwX2_bestFactor_1 ++ dktX2_bestFactor_2
def dkwX2_bestFactor_0 : List UInt8 := [2, 54, 4, 3, 54, 5, 3, 54, 6, 21, 6, 17, 3, 232, 163, 0, 91, 42, 182, 0, 209, 58, 7]
abbrev dktX2_bestFactor_0 : List UInt8 := dkwX2_bestFactor_0 ++ dktX2_bestFactor_1
theorem dksX2_bestFactor_0 : cX2_bestFactor.data.toList.drop 0 = dktX2_bestFactor_0 := by decide +kernel
theorem dksX2_bestFactor_1 : cX2_bestFactor.data.toList.drop 23 = dktX2_bestFactor_1 := dk_seg dksX2_bestFactor_0 23 rfl rfl
theorem dksX2_bestFactor_2 : cX2_bestFactor.data.toList.drop 47 = dktX2_bestFactor_2 := dk_seg dksX2_bestFactor_1 24 rfl rfl
theorem dksX2_bestFactor_3 : cX2_bestFactor.data.toList.drop 71 = dktX2_bestFactor_3 := dk_seg dksX2_bestFactor_2 24 rfl rfl
theorem dksX2_bestFactor_4 : cX2_bestFactor.data.toList.drop 95 = dktX2_bestFactor_4 := dk_seg dksX2_bestFactor_3 24 rfl rfl
theorem dX2_bestFactor_0 : decode cX2_bestFactor 0 = .ok (.iconst (-1), 1) := dk_2 (dk_at dksX2_bestFactor_0 0 rfl rfl)
theorem dX2_bestFactor_1 : decode cX2_bestFactor 1 = .ok (.istore 4, 2) := dk_54 4 (dk_at dksX2_bestFactor_0 1 rfl rfl)
theorem dX2_bestFactor_3 : decode cX2_bestFactor 3 = .ok (.iconst 0, 1) := dk_3 (dk_at dksX2_bestFactor_0 3 rfl rfl)
theorem dX2_bestFactor_4 : decode cX2_bestFactor 4 = .ok (.istore 5, 2) := dk_54 5 (dk_at dksX2_bestFactor_0 4 rfl rfl)
theorem dX2_bestFactor_6 : decode cX2_bestFactor 6 = .ok (.iconst 0, 1) := dk_3 (dk_at dksX2_bestFactor_0 6 rfl rfl)
theorem dX2_bestFactor_7 : decode cX2_bestFactor 7 = .ok (.istore 6, 2) := dk_54 6 (dk_at dksX2_bestFactor_0 7 rfl rfl)
theorem dX2_bestFactor_9 : decode cX2_bestFactor 9 = .ok (.iload 6, 2) := dk_21 6 (dk_at dksX2_bestFactor_0 9 rfl rfl)
theorem dX2_bestFactor_11 : decode cX2_bestFactor 11 = .ok (.sipush 1000, 3) := dk_17 3 232 (dk_at dksX2_bestFactor_0 11 rfl rfl)
theorem dX2_bestFactor_14 : decode cX2_bestFactor 14 = .ok (.if_icmp .gt 91, 3) := dk_163 0 91 (dk_at dksX2_bestFactor_0 14 rfl rfl)
theorem dX2_bestFactor_17 : decode cX2_bestFactor 17 = .ok (.aload_n 0, 1) := dk_42 (dk_at dksX2_bestFactor_0 17 rfl rfl)
theorem dX2_bestFactor_18 : decode cX2_bestFactor 18 = .ok (.invokevirtual 209, 3) := dk_182 0 209 (dk_at dksX2_bestFactor_0 18 rfl rfl)
theorem dX2_bestFactor_21 : decode cX2_bestFactor 21 = .ok (.astore 7, 2) := dk_58 7 (dk_at dksX2_bestFactor_0 21 rfl rfl)
theorem dX2_bestFactor_23 : decode cX2_bestFactor 23 = .ok (.aload 7, 2) := dk_25 7 (dk_at dksX2_bestFactor_1 0 rfl rfl)
theorem dX2_bestFactor_25 : decode cX2_bestFactor 25 = .ok (.iload_n 1, 1) := dk_27 (dk_at dksX2_bestFactor_1 2 rfl rfl)
theorem dX2_bestFactor_26 : decode cX2_bestFactor 26 = .ok (.invokevirtual 86, 3) := dk_182 0 86 (dk_at dksX2_bestFactor_1 3 rfl rfl)
theorem dX2_bestFactor_29 : decode cX2_bestFactor 29 = .ok (.checkcast 212, 3) := dk_192 0 212 (dk_at dksX2_bestFactor_1 6 rfl rfl)
theorem dX2_bestFactor_32 : decode cX2_bestFactor 32 = .ok (.iload 6, 2) := dk_21 6 (dk_at dksX2_bestFactor_1 9 rfl rfl)
theorem dX2_bestFactor_34 : decode cX2_bestFactor 34 = .ok (.putfield 214, 3) := dk_181 0 214 (dk_at dksX2_bestFactor_1 11 rfl rfl)
theorem dX2_bestFactor_37 : decode cX2_bestFactor 37 = .ok (.aload 7, 2) := dk_25 7 (dk_at dksX2_bestFactor_1 14 rfl rfl)
theorem dX2_bestFactor_39 : decode cX2_bestFactor 39 = .ok (.bipush 20, 2) := dk_16 20 (dk_at dksX2_bestFactor_1 16 rfl rfl)
theorem dX2_bestFactor_41 : decode cX2_bestFactor 41 = .ok (.invokevirtual 217, 3) := dk_182 0 217 (dk_at dksX2_bestFactor_1 18 rfl rfl)
theorem dX2_bestFactor_44 : decode cX2_bestFactor 44 = .ok (.pop, 1) := dk_87 (dk_at dksX2_bestFactor_1 21 rfl rfl)
theorem dX2_bestFactor_45 : decode cX2_bestFactor 45 = .ok (.aload 7, 2) := dk_25 7 (dk_at dksX2_bestFactor_1 22 rfl rfl)
theorem dX2_bestFactor_47 : decode cX2_bestFactor 47 = .ok (.iload_n 2, 1) := dk_28 (dk_at dksX2_bestFactor_2 0 rfl rfl)
theorem dX2_bestFactor_48 : decode cX2_bestFactor 48 = .ok (.invokevirtual 220, 3) := dk_182 0 220 (dk_at dksX2_bestFactor_2 1 rfl rfl)
theorem dX2_bestFactor_51 : decode cX2_bestFactor 51 = .ok (.invokestatic 184, 3) := dk_184 0 184 (dk_at dksX2_bestFactor_2 4 rfl rfl)
theorem dX2_bestFactor_54 : decode cX2_bestFactor 54 = .ok (.iload_n 3, 1) := dk_29 (dk_at dksX2_bestFactor_2 7 rfl rfl)
theorem dX2_bestFactor_55 : decode cX2_bestFactor 55 = .ok (.isub, 1) := dk_100 (dk_at dksX2_bestFactor_2 8 rfl rfl)
theorem dX2_bestFactor_56 : decode cX2_bestFactor 56 = .ok (.invokestatic 184, 3) := dk_184 0 184 (dk_at dksX2_bestFactor_2 9 rfl rfl)
theorem dX2_bestFactor_59 : decode cX2_bestFactor 59 = .ok (.istore 8, 2) := dk_54 8 (dk_at dksX2_bestFactor_2 12 rfl rfl)
theorem dX2_bestFactor_61 : decode cX2_bestFactor 61 = .ok (.iload 4, 2) := dk_21 4 (dk_at dksX2_bestFactor_2 14 rfl rfl)
theorem dX2_bestFactor_63 : decode cX2_bestFactor 63 = .ok (.iconst (-1), 1) := dk_2 (dk_at dksX2_bestFactor_2 16 rfl rfl)
theorem dX2_bestFactor_64 : decode cX2_bestFactor 64 = .ok (.if_icmp .eq 10, 3) := dk_159 0 10 (dk_at dksX2_bestFactor_2 17 rfl rfl)
theorem dX2_bestFactor_67 : decode cX2_bestFactor 67 = .ok (.iload 8, 2) := dk_21 8 (dk_at dksX2_bestFactor_2 20 rfl rfl)
theorem dX2_bestFactor_69 : decode cX2_bestFactor 69 = .ok (.iload 5, 2) := dk_21 5 (dk_at dksX2_bestFactor_2 22 rfl rfl)
theorem dX2_bestFactor_71 : decode cX2_bestFactor 71 = .ok (.if_icmp .ge 8, 3) := dk_162 0 8 (dk_at dksX2_bestFactor_3 0 rfl rfl)
theorem dX2_bestFactor_74 : decode cX2_bestFactor 74 = .ok (.iload 6, 2) := dk_21 6 (dk_at dksX2_bestFactor_3 3 rfl rfl)
theorem dX2_bestFactor_76 : decode cX2_bestFactor 76 = .ok (.goto 5, 3) := dk_167 0 5 (dk_at dksX2_bestFactor_3 5 rfl rfl)
theorem dX2_bestFactor_79 : decode cX2_bestFactor 79 = .ok (.iload 4, 2) := dk_21 4 (dk_at dksX2_bestFactor_3 8 rfl rfl)
theorem dX2_bestFactor_81 : decode cX2_bestFactor 81 = .ok (.istore 4, 2) := dk_54 4 (dk_at dksX2_bestFactor_3 10 rfl rfl)
theorem dX2_bestFactor_83 : decode cX2_bestFactor 83 = .ok (.iload 4, 2) := dk_21 4 (dk_at dksX2_bestFactor_3 12 rfl rfl)
theorem dX2_bestFactor_85 : decode cX2_bestFactor 85 = .ok (.iload 6, 2) := dk_21 6 (dk_at dksX2_bestFactor_3 14 rfl rfl)
theorem dX2_bestFactor_87 : decode cX2_bestFactor 87 = .ok (.if_icmp .ne 8, 3) := dk_160 0 8 (dk_at dksX2_bestFactor_3 16 rfl rfl)
theorem dX2_bestFactor_90 : decode cX2_bestFactor 90 = .ok (.iload 8, 2) := dk_21 8 (dk_at dksX2_bestFactor_3 19 rfl rfl)
theorem dX2_bestFactor_92 : decode cX2_bestFactor 92 = .ok (.goto 5, 3) := dk_167 0 5 (dk_at dksX2_bestFactor_3 21 rfl rfl)
theorem dX2_bestFactor_95 : decode cX2_bestFactor 95 = .ok (.iload 5, 2) := dk_21 5 (dk_at dksX2_bestFactor_4 0 rfl rfl)
theorem dX2_bestFactor_97 : decode cX2_bestFactor 97 = .ok (.istore 5, 2) := dk_54 5 (dk_at dksX2_bestFactor_4 2 rfl rfl)
theorem dX2_bestFactor_99 : decode cX2_bestFactor 99 = .ok (.iinc 6 50, 3) := dk_132 6 50 (dk_at dksX2_bestFactor_4 4 rfl rfl)
theorem dX2_bestFactor_102 : decode cX2_bestFactor 102 = .ok (.goto (-93), 3) := dk_167 255 163 (dk_at dksX2_bestFactor_4 7 rfl rfl)
theorem dX2_bestFactor_105 : decode cX2_bestFactor 105 = .ok (.iload 4, 2) := dk_21 4 (dk_at dksX2_bestFactor_4 10 rfl rfl)
theorem dX2_bestFactor_107 : decode cX2_bestFactor 107 = .ok (.ireturn, 1) := dk_172 (dk_at dksX2_bestFactor_4 12 rfl rfl)
theorem q102 : (Jvm.Cond.initialized "PatchCords$Panel") ∈ lw_all := lw_g (lw_at lw_m1 2 rfl) rfl
theorem q150 : (Jvm.Cond.instantiable "PatchCords$Panel" (14 : Nat)) ∈ lw_all := lw_g (lw_at lw_m1 50 rfl) rfl
theorem q152 : (Jvm.Cond.instanceMethod ({ cls := "PatchCords$Panel", name := "<init>", desc := "()V" } : Jvm.MethodName)) ∈ lw_all := lw_g (lw_at lw_m1 52 rfl) rfl
theorem q153 : (Jvm.Cond.code ({ cls := "PatchCords$Panel", name := "<init>", desc := "()V" } : Jvm.MethodName) prog_5_method_1_code (1 : Nat) (Option.none : Option Jvm.ClassFile.FieldType)) ∈ lw_all := lw_g (lw_at lw_m1 53 rfl) rfl
theorem q154 : (Jvm.Cond.methodLink "PatchCords$Panel" (3 : Nat) ({ cls := "java/lang/Object", name := "<init>", desc := "()V" } : Jvm.MethodName)) ∈ lw_all := lw_g (lw_at lw_m1 54 rfl) rfl
theorem q155 : (Jvm.Cond.classLink "PatchCords$Panel" (9 : Nat) "java/util/ArrayList") ∈ lw_all := lw_g (lw_at lw_m1 55 rfl) rfl
theorem q157 : (Jvm.Cond.methodLink "PatchCords$Panel" (11 : Nat) ({ cls := "java/util/ArrayList", name := "<init>", desc := "()V" } : Jvm.MethodName)) ∈ lw_all := lw_g (lw_at lw_m1 57 rfl) rfl
theorem q181 : (Jvm.Cond.fieldLink "PatchCords$Panel" (31 : Nat) "PatchCords$Way" "AT_ONCE" "LPatchCords$Way;") ∈ lw_all := lw_g (lw_at lw_m1 81 rfl) rfl
theorem q183 : (Jvm.Cond.fieldLink "PatchCords$Panel" (12 : Nat) "PatchCords$Panel" "parts" "Ljava/util/ArrayList;") ∈ lw_all := lw_g (lw_at lw_m1 83 rfl) rfl
theorem q184 : (Jvm.Cond.fieldLink "PatchCords$Panel" (18 : Nat) "PatchCords$Panel" "order" "[I") ∈ lw_all := lw_g (lw_at lw_m1 84 rfl) rfl
theorem q185 : (Jvm.Cond.fieldLink "PatchCords$Panel" (22 : Nat) "PatchCords$Panel" "outputs" "[I") ∈ lw_all := lw_g (lw_at lw_m1 85 rfl) rfl
theorem q187 : (Jvm.Cond.fieldLink "PatchCords$Panel" (25 : Nat) "PatchCords$Panel" "in" "[I") ∈ lw_all := lw_g (lw_at lw_m1 87 rfl) rfl
theorem q189 : (Jvm.Cond.fieldLink "PatchCords$Panel" (28 : Nat) "PatchCords$Panel" "records" "[I") ∈ lw_all := lw_g (lw_at lw_m1 89 rfl) rfl
theorem q191 : (Jvm.Cond.fieldLink "PatchCords$Panel" (37 : Nat) "PatchCords$Panel" "way" "LPatchCords$Way;") ∈ lw_all := lw_g (lw_at lw_m1 91 rfl) rfl
theorem q193 : (Jvm.Cond.fieldLink "PatchCords$Panel" (69 : Nat) "PatchCords$Panel" "guarded" "Z") ∈ lw_all := lw_g (lw_at lw_m1 93 rfl) rfl
theorem q195 : (Jvm.Cond.fieldLink "PatchCords$Panel" (73 : Nat) "PatchCords$Panel" "mode" "I") ∈ lw_all := lw_g (lw_at lw_m1 95 rfl) rfl
theorem q197 : (Jvm.Cond.fieldLink "PatchCords$Panel" (76 : Nat) "PatchCords$Panel" "steps" "I") ∈ lw_all := lw_g (lw_at lw_m1 97 rfl) rfl
theorem q199 : (Jvm.Cond.fieldLink "PatchCords$Panel" (40 : Nat) "PatchCords$Panel" "recorded" "I") ∈ lw_all := lw_g (lw_at lw_m1 99 rfl) rfl
theorem q201 : (Jvm.Cond.fieldLink "PatchCords$Panel" (66 : Nat) "PatchCords$Panel" "recordCount" "I") ∈ lw_all := lw_g (lw_at lw_m1 101 rfl) rfl
theorem q203 : (Jvm.Cond.fieldLink "PatchCords$Panel" (79 : Nat) "PatchCords$Panel" "crossings" "I") ∈ lw_all := lw_g (lw_at lw_m1 103 rfl) rfl
theorem q205 : (Jvm.Cond.fieldLink "PatchCords$Panel" (82 : Nat) "PatchCords$Panel" "latestCrossing" "I") ∈ lw_all := lw_g (lw_at lw_m1 105 rfl) rfl
theorem q206 : (Jvm.Cond.fieldLink "PatchCords$Panel" (44 : Nat) "PatchCords$Panel" "beat" "I") ∈ lw_all := lw_g (lw_at lw_m1 106 rfl) rfl
theorem q208 : (Jvm.Cond.laysFinal "PatchCords$Panel" "PatchCords$Panel" "parts" "Ljava/util/ArrayList;") ∈ lw_all := lw_g (lw_at lw_m1 108 rfl) rfl
theorem q209 : (Jvm.Cond.soleField "PatchCords$Panel" "parts") ∈ lw_all := lw_g (lw_at lw_m1 109 rfl) rfl
theorem q210 : (Jvm.Cond.laysFinal "PatchCords$Panel" "PatchCords$Panel" "order" "[I") ∈ lw_all := lw_g (lw_at lw_m1 110 rfl) rfl
theorem q211 : (Jvm.Cond.soleField "PatchCords$Panel" "order") ∈ lw_all := lw_g (lw_at lw_m1 111 rfl) rfl
theorem q212 : (Jvm.Cond.laysFinal "PatchCords$Panel" "PatchCords$Panel" "outputs" "[I") ∈ lw_all := lw_g (lw_at lw_m1 112 rfl) rfl
theorem q213 : (Jvm.Cond.soleField "PatchCords$Panel" "outputs") ∈ lw_all := lw_g (lw_at lw_m1 113 rfl) rfl
theorem q214 : (Jvm.Cond.laysFinal "PatchCords$Panel" "PatchCords$Panel" "in" "[I") ∈ lw_all := lw_g (lw_at lw_m1 114 rfl) rfl
theorem q215 : (Jvm.Cond.soleField "PatchCords$Panel" "in") ∈ lw_all := lw_g (lw_at lw_m1 115 rfl) rfl
theorem q216 : (Jvm.Cond.laysFinal "PatchCords$Panel" "PatchCords$Panel" "records" "[I") ∈ lw_all := lw_g (lw_at lw_m1 116 rfl) rfl
theorem q217 : (Jvm.Cond.soleField "PatchCords$Panel" "records") ∈ lw_all := lw_g (lw_at lw_m1 117 rfl) rfl
theorem q218 : (Jvm.Cond.lays "PatchCords$Panel" "PatchCords$Panel" "way" "LPatchCords$Way;") ∈ lw_all := lw_g (lw_at lw_m1 118 rfl) rfl
theorem q219 : (Jvm.Cond.soleField "PatchCords$Panel" "way") ∈ lw_all := lw_g (lw_at lw_m1 119 rfl) rfl
theorem q220 : (Jvm.Cond.lays "PatchCords$Panel" "PatchCords$Panel" "guarded" "Z") ∈ lw_all := lw_g (lw_at lw_m1 120 rfl) rfl
theorem q221 : (Jvm.Cond.soleField "PatchCords$Panel" "guarded") ∈ lw_all := lw_g (lw_at lw_m1 121 rfl) rfl
theorem q222 : (Jvm.Cond.lays "PatchCords$Panel" "PatchCords$Panel" "mode" "I") ∈ lw_all := lw_g (lw_at lw_m1 122 rfl) rfl
theorem q223 : (Jvm.Cond.soleField "PatchCords$Panel" "mode") ∈ lw_all := lw_g (lw_at lw_m1 123 rfl) rfl
theorem q224 : (Jvm.Cond.lays "PatchCords$Panel" "PatchCords$Panel" "steps" "I") ∈ lw_all := lw_g (lw_at lw_m1 124 rfl) rfl
theorem q225 : (Jvm.Cond.soleField "PatchCords$Panel" "steps") ∈ lw_all := lw_g (lw_at lw_m1 125 rfl) rfl
theorem q226 : (Jvm.Cond.lays "PatchCords$Panel" "PatchCords$Panel" "recorded" "I") ∈ lw_all := lw_g (lw_at lw_m1 126 rfl) rfl
theorem q227 : (Jvm.Cond.soleField "PatchCords$Panel" "recorded") ∈ lw_all := lw_g (lw_at lw_m1 127 rfl) rfl
theorem q228 : (Jvm.Cond.lays "PatchCords$Panel" "PatchCords$Panel" "recordCount" "I") ∈ lw_all := lw_g (lw_at lw_m1 128 rfl) rfl
theorem q229 : (Jvm.Cond.soleField "PatchCords$Panel" "recordCount") ∈ lw_all := lw_g (lw_at lw_m1 129 rfl) rfl
theorem q230 : (Jvm.Cond.lays "PatchCords$Panel" "PatchCords$Panel" "crossings" "I") ∈ lw_all := lw_g (lw_at lw_m1 130 rfl) rfl
theorem q231 : (Jvm.Cond.soleField "PatchCords$Panel" "crossings") ∈ lw_all := lw_g (lw_at lw_m1 131 rfl) rfl
theorem q232 : (Jvm.Cond.lays "PatchCords$Panel" "PatchCords$Panel" "latestCrossing" "I") ∈ lw_all := lw_g (lw_at lw_m1 132 rfl) rfl
theorem q233 : (Jvm.Cond.soleField "PatchCords$Panel" "latestCrossing") ∈ lw_all := lw_g (lw_at lw_m1 133 rfl) rfl
theorem q234 : (Jvm.Cond.lays "PatchCords$Panel" "PatchCords$Panel" "beat" "I") ∈ lw_all := lw_g (lw_at lw_m1 134 rfl) rfl
theorem q235 : (Jvm.Cond.soleField "PatchCords$Panel" "beat") ∈ lw_all := lw_g (lw_at lw_m1 135 rfl) rfl
theorem q236 : (Jvm.Cond.superclass "PatchCords$Panel" "java/lang/Object") ∈ lw_all := lw_g (lw_at lw_m1 136 rfl) rfl
theorem q291 : (Jvm.Cond.instanceMethod ({ cls := "PatchCords$Panel", name := "copy", desc := "()LPatchCords$Panel;" } : Jvm.MethodName)) ∈ lw_all := lw_g (lw_at lw_m1 191 rfl) rfl
theorem q292 : (Jvm.Cond.selects "PatchCords$Panel" ({ cls := "PatchCords$Panel", name := "copy", desc := "()LPatchCords$Panel;" } : Jvm.MethodName) ({ cls := "PatchCords$Panel", name := "copy", desc := "()LPatchCords$Panel;" } : Jvm.MethodName)) ∈ lw_all := lw_g (lw_at lw_m1 192 rfl) rfl
theorem q293 : (Jvm.Cond.code ({ cls := "PatchCords$Panel", name := "copy", desc := "()LPatchCords$Panel;" } : Jvm.MethodName) prog_5_method_2_code (4 : Nat) (Option.some (Jvm.ClassFile.FieldType.object "PatchCords$Panel"))) ∈ lw_all := lw_g (lw_at lw_m1 193 rfl) rfl
theorem q294 : (Jvm.Cond.classLink "PatchCords$Panel" (13 : Nat) "PatchCords$Panel") ∈ lw_all := lw_g (lw_at lw_m1 194 rfl) rfl
theorem q295 : (Jvm.Cond.methodLink "PatchCords$Panel" (47 : Nat) ({ cls := "PatchCords$Panel", name := "<init>", desc := "()V" } : Jvm.MethodName)) ∈ lw_all := lw_g (lw_at lw_m1 195 rfl) rfl
theorem q296 : (Jvm.Cond.methodLink "PatchCords$Panel" (48 : Nat) ({ cls := "java/util/ArrayList", name := "size", desc := "()I" } : Jvm.MethodName)) ∈ lw_all := lw_g (lw_at lw_m1 196 rfl) rfl
theorem q300 : (Jvm.Cond.methodLink "PatchCords$Panel" (52 : Nat) ({ cls := "java/util/ArrayList", name := "get", desc := "(I)Ljava/lang/Object;" } : Jvm.MethodName)) ∈ lw_all := lw_g (lw_at lw_m1 200 rfl) rfl
theorem q314 : (Jvm.Cond.classLink "PatchCords$Panel" (56 : Nat) "PatchCords$Part") ∈ lw_all := lw_g (lw_at lw_m1 214 rfl) rfl
theorem q315 : (Jvm.Cond.methodLink "PatchCords$Panel" (58 : Nat) ({ cls := "PatchCords$Part", name := "copy", desc := "()LPatchCords$Part;" } : Jvm.MethodName)) ∈ lw_all := lw_g (lw_at lw_m1 215 rfl) rfl
theorem q341 : (Jvm.Cond.fieldLinkNest "PatchCords$Panel" (98 : Nat) "PatchCords$Part" "cords" "[I" "PatchCords") ∈ lw_tbl := lw_at lw_m2 1 rfl
theorem q344 : (Jvm.Cond.fieldLinkNest "PatchCords$Panel" (181 : Nat) "PatchCords$Part" "peak" "I" "PatchCords") ∈ lw_tbl := lw_at lw_m2 4 rfl
theorem q364 : (Jvm.Cond.fieldLinkNest "PatchCords$Panel" (203 : Nat) "PatchCords$Integrator" "initial" "I" "PatchCords") ∈ lw_tbl := lw_at lw_m2 24 rfl
theorem q368 : (Jvm.Cond.fieldLinkNest "PatchCords$Panel" (171 : Nat) "PatchCords$Integrator" "charge" "I" "PatchCords") ∈ lw_tbl := lw_at lw_m2 28 rfl
theorem q371 : (Jvm.Cond.fieldLinkNest "PatchCords$Panel" (174 : Nat) "PatchCords$Integrator" "before" "I" "PatchCords") ∈ lw_tbl := lw_at lw_m2 31 rfl
theorem q373 : (Jvm.Cond.fieldLinkNest "PatchCords$Panel" (162 : Nat) "PatchCords$Integrator" "rate" "I" "PatchCords") ∈ lw_tbl := lw_at lw_m2 33 rfl
theorem q401 : (Jvm.Cond.fieldLinkNest "PatchCords$Panel" (214 : Nat) "PatchCords$Pot" "factor" "I" "PatchCords") ∈ lw_tbl := lw_at lw_m2 61 rfl
theorem q429 : (Jvm.Cond.fieldLinkNest "PatchCords$Panel" (200 : Nat) "PatchCords$Steady" "voltage" "I" "PatchCords") ∈ lw_tbl := lw_at lw_m2 89 rfl
theorem q453 : (Jvm.Cond.methodLink "PatchCords$Panel" (62 : Nat) ({ cls := "java/util/ArrayList", name := "add", desc := "(Ljava/lang/Object;)Z" } : Jvm.MethodName)) ∈ lw_all := lw_g (lw_at lw_m2 113 rfl) rfl
theorem q489 : (Jvm.Cond.selects "PatchCords$Panel" ({ cls := "java/lang/Object", name := "getClass", desc := "()Ljava/lang/Class;" } : Jvm.MethodName) ({ cls := "java/lang/Object", name := "getClass", desc := "()Ljava/lang/Class;" } : Jvm.MethodName)) ∈ lw_all := lw_g (lw_at lw_m2 149 rfl) rfl
theorem q526 : (Jvm.Cond.instanceMethod ({ cls := "PatchCords$Panel", name := "size", desc := "()I" } : Jvm.MethodName)) ∈ lw_all := lw_g (lw_at lw_m2 186 rfl) rfl
theorem q527 : (Jvm.Cond.selects "PatchCords$Panel" ({ cls := "PatchCords$Panel", name := "size", desc := "()I" } : Jvm.MethodName) ({ cls := "PatchCords$Panel", name := "size", desc := "()I" } : Jvm.MethodName)) ∈ lw_all := lw_g (lw_at lw_m2 187 rfl) rfl
theorem q528 : (Jvm.Cond.code ({ cls := "PatchCords$Panel", name := "size", desc := "()I" } : Jvm.MethodName) prog_5_method_3_code (1 : Nat) (Option.some Jvm.ClassFile.FieldType.int)) ∈ lw_all := lw_g (lw_at lw_m2 188 rfl) rfl
theorem q558 : (Jvm.Cond.instanceMethod ({ cls := "PatchCords$Panel", name := "cords", desc := "()I" } : Jvm.MethodName)) ∈ lw_all := lw_g (lw_at lw_m2 218 rfl) rfl
theorem q559 : (Jvm.Cond.selects "PatchCords$Panel" ({ cls := "PatchCords$Panel", name := "cords", desc := "()I" } : Jvm.MethodName) ({ cls := "PatchCords$Panel", name := "cords", desc := "()I" } : Jvm.MethodName)) ∈ lw_all := lw_g (lw_at lw_m2 219 rfl) rfl
theorem q560 : (Jvm.Cond.code ({ cls := "PatchCords$Panel", name := "cords", desc := "()I" } : Jvm.MethodName) prog_5_method_23_code (5 : Nat) (Option.some Jvm.ClassFile.FieldType.int)) ∈ lw_all := lw_g (lw_at lw_m2 220 rfl) rfl
theorem q561 : (Jvm.Cond.methodLink "PatchCords$Panel" (85 : Nat) ({ cls := "PatchCords$Panel", name := "size", desc := "()I" } : Jvm.MethodName)) ∈ lw_all := lw_g (lw_at lw_m2 221 rfl) rfl
theorem q562 : (Jvm.Cond.methodLink "PatchCords$Panel" (86 : Nat) ({ cls := "PatchCords$Panel", name := "part", desc := "(I)LPatchCords$Part;" } : Jvm.MethodName)) ∈ lw_all := lw_g (lw_at lw_m2 222 rfl) rfl
theorem q563 : (Jvm.Cond.instanceMethod ({ cls := "PatchCords$Panel", name := "part", desc := "(I)LPatchCords$Part;" } : Jvm.MethodName)) ∈ lw_all := lw_g (lw_at lw_m2 223 rfl) rfl
theorem q564 : (Jvm.Cond.selects "PatchCords$Panel" ({ cls := "PatchCords$Panel", name := "part", desc := "(I)LPatchCords$Part;" } : Jvm.MethodName) ({ cls := "PatchCords$Panel", name := "part", desc := "(I)LPatchCords$Part;" } : Jvm.MethodName)) ∈ lw_all := lw_g (lw_at lw_m2 224 rfl) rfl
theorem q565 : (Jvm.Cond.code ({ cls := "PatchCords$Panel", name := "part", desc := "(I)LPatchCords$Part;" } : Jvm.MethodName) prog_5_method_4_code (2 : Nat) (Option.some (Jvm.ClassFile.FieldType.object "PatchCords$Part"))) ∈ lw_all := lw_g (lw_at lw_m2 225 rfl) rfl
theorem q594 : (Jvm.Cond.instanceMethod ({ cls := "PatchCords$Panel", name := "overloaded", desc := "()I" } : Jvm.MethodName)) ∈ lw_all := lw_g (lw_at lw_m3 14 rfl) rfl
theorem q595 : (Jvm.Cond.selects "PatchCords$Panel" ({ cls := "PatchCords$Panel", name := "overloaded", desc := "()I" } : Jvm.MethodName) ({ cls := "PatchCords$Panel", name := "overloaded", desc := "()I" } : Jvm.MethodName)) ∈ lw_all := lw_g (lw_at lw_m3 15 rfl) rfl
theorem q596 : (Jvm.Cond.code ({ cls := "PatchCords$Panel", name := "overloaded", desc := "()I" } : Jvm.MethodName) prog_5_method_15_code (3 : Nat) (Option.some Jvm.ClassFile.FieldType.int)) ∈ lw_all := lw_g (lw_at lw_m3 16 rfl) rfl
theorem q597 : (Jvm.Cond.methodLink "PatchCords$Panel" (128 : Nat) ({ cls := "PatchCords$Panel", name := "tellOutputs", desc := "()V" } : Jvm.MethodName)) ∈ lw_all := lw_g (lw_at lw_m3 17 rfl) rfl
theorem q598 : (Jvm.Cond.privateMethod ({ cls := "PatchCords$Panel", name := "tellOutputs", desc := "()V" } : Jvm.MethodName)) ∈ lw_tbl := lw_at lw_m3 18 rfl
theorem q599 : (Jvm.Cond.instanceMethod ({ cls := "PatchCords$Panel", name := "tellOutputs", desc := "()V" } : Jvm.MethodName)) ∈ lw_all := lw_g (lw_at lw_m3 19 rfl) rfl
theorem q600 : (Jvm.Cond.code ({ cls := "PatchCords$Panel", name := "tellOutputs", desc := "()V" } : Jvm.MethodName) prog_5_method_10_code (3 : Nat) (Option.none : Option Jvm.ClassFile.FieldType)) ∈ lw_all := lw_g (lw_at lw_m3 20 rfl) rfl
theorem q601 : (Jvm.Cond.methodLink "PatchCords$Panel" (117 : Nat) ({ cls := "PatchCords$Panel", name := "tellInputs", desc := "(LPatchCords$Part;)V" } : Jvm.MethodName)) ∈ lw_all := lw_g (lw_at lw_m3 21 rfl) rfl
theorem q602 : (Jvm.Cond.privateMethod ({ cls := "PatchCords$Panel", name := "tellInputs", desc := "(LPatchCords$Part;)V" } : Jvm.MethodName)) ∈ lw_tbl := lw_at lw_m3 22 rfl
theorem q603 : (Jvm.Cond.instanceMethod ({ cls := "PatchCords$Panel", name := "tellInputs", desc := "(LPatchCords$Part;)V" } : Jvm.MethodName)) ∈ lw_all := lw_g (lw_at lw_m3 23 rfl) rfl
theorem q604 : (Jvm.Cond.code ({ cls := "PatchCords$Panel", name := "tellInputs", desc := "(LPatchCords$Part;)V" } : Jvm.MethodName) prog_5_method_9_code (3 : Nat) (Option.none : Option Jvm.ClassFile.FieldType)) ∈ lw_all := lw_g (lw_at lw_m3 24 rfl) rfl
theorem q605 : (Jvm.Cond.methodLink "PatchCords$Panel" (121 : Nat) ({ cls := "PatchCords$Part", name := "raw", desc := "([I)I" } : Jvm.MethodName)) ∈ lw_all := lw_g (lw_at lw_m3 25 rfl) rfl
theorem q641 : (Jvm.Cond.methodLinkNest "PatchCords$Panel" (125 : Nat) ({ cls := "PatchCords", name := "held", desc := "(II)I" } : Jvm.MethodName) "PatchCords") ∈ lw_tbl := lw_at lw_m3 61 rfl
theorem q646 : (Jvm.Cond.methodLink "PatchCords$Panel" (135 : Nat) ({ cls := "PatchCords$Part", name := "isOverloaded", desc := "([I)Z" } : Jvm.MethodName)) ∈ lw_all := lw_g (lw_at lw_m3 66 rfl) rfl
theorem q671 : (Jvm.Cond.instanceMethod ({ cls := "PatchCords$Panel", name := "inCircles", desc := "()I" } : Jvm.MethodName)) ∈ lw_all := lw_g (lw_at lw_m3 91 rfl) rfl
theorem q672 : (Jvm.Cond.selects "PatchCords$Panel" ({ cls := "PatchCords$Panel", name := "inCircles", desc := "()I" } : Jvm.MethodName) ({ cls := "PatchCords$Panel", name := "inCircles", desc := "()I" } : Jvm.MethodName)) ∈ lw_all := lw_g (lw_at lw_m3 92 rfl) rfl
theorem q673 : (Jvm.Cond.code ({ cls := "PatchCords$Panel", name := "inCircles", desc := "()I" } : Jvm.MethodName) prog_5_method_21_code (3 : Nat) (Option.some Jvm.ClassFile.FieldType.int)) ∈ lw_all := lw_g (lw_at lw_m3 93 rfl) rfl
theorem q674 : (Jvm.Cond.methodLink "PatchCords$Panel" (155 : Nat) ({ cls := "PatchCords$Panel", name := "dependsOn", desc := "(I)I" } : Jvm.MethodName)) ∈ lw_all := lw_g (lw_at lw_m3 94 rfl) rfl
theorem q675 : (Jvm.Cond.instanceMethod ({ cls := "PatchCords$Panel", name := "dependsOn", desc := "(I)I" } : Jvm.MethodName)) ∈ lw_all := lw_g (lw_at lw_m3 95 rfl) rfl
theorem q676 : (Jvm.Cond.selects "PatchCords$Panel" ({ cls := "PatchCords$Panel", name := "dependsOn", desc := "(I)I" } : Jvm.MethodName) ({ cls := "PatchCords$Panel", name := "dependsOn", desc := "(I)I" } : Jvm.MethodName)) ∈ lw_all := lw_g (lw_at lw_m3 96 rfl) rfl
theorem q677 : (Jvm.Cond.code ({ cls := "PatchCords$Panel", name := "dependsOn", desc := "(I)I" } : Jvm.MethodName) prog_5_method_17_code (5 : Nat) (Option.some Jvm.ClassFile.FieldType.int)) ∈ lw_all := lw_g (lw_at lw_m3 97 rfl) rfl
theorem q678 : (Jvm.Cond.methodLink "PatchCords$Panel" (144 : Nat) ({ cls := "PatchCords$Part", name := "feeders", desc := "()I" } : Jvm.MethodName)) ∈ lw_all := lw_g (lw_at lw_m3 98 rfl) rfl
theorem q688 : (Jvm.Cond.methodLinkNest "PatchCords$Panel" (147 : Nat) ({ cls := "PatchCords", name := "has", desc := "(II)Z" } : Jvm.MethodName) "PatchCords") ∈ lw_tbl := lw_at lw_m3 108 rfl
theorem q694 : (Jvm.Cond.instanceMethod ({ cls := "PatchCords$Panel", name := "ends", desc := "()I" } : Jvm.MethodName)) ∈ lw_all := lw_g (lw_at lw_m3 114 rfl) rfl
theorem q695 : (Jvm.Cond.selects "PatchCords$Panel" ({ cls := "PatchCords$Panel", name := "ends", desc := "()I" } : Jvm.MethodName) ({ cls := "PatchCords$Panel", name := "ends", desc := "()I" } : Jvm.MethodName)) ∈ lw_all := lw_g (lw_at lw_m3 115 rfl) rfl
theorem q696 : (Jvm.Cond.code ({ cls := "PatchCords$Panel", name := "ends", desc := "()I" } : Jvm.MethodName) prog_5_method_22_code (3 : Nat) (Option.some Jvm.ClassFile.FieldType.int)) ∈ lw_all := lw_g (lw_at lw_m3 116 rfl) rfl
theorem q718 : (Jvm.Cond.instanceMethod ({ cls := "PatchCords$Panel", name := "meanRecord", desc := "()D" } : Jvm.MethodName)) ∈ lw_all := lw_g (lw_at lw_m3 138 rfl) rfl
theorem q719 : (Jvm.Cond.selects "PatchCords$Panel" ({ cls := "PatchCords$Panel", name := "meanRecord", desc := "()D" } : Jvm.MethodName) ({ cls := "PatchCords$Panel", name := "meanRecord", desc := "()D" } : Jvm.MethodName)) ∈ lw_all := lw_g (lw_at lw_m3 139 rfl) rfl
theorem q720 : (Jvm.Cond.code ({ cls := "PatchCords$Panel", name := "meanRecord", desc := "()D" } : Jvm.MethodName) prog_5_method_31_code (3 : Nat) (Option.some Jvm.ClassFile.FieldType.double)) ∈ lw_all := lw_g (lw_at lw_m3 140 rfl) rfl
theorem q726 : (Jvm.Cond.instanceMethod ({ cls := "PatchCords$Panel", name := "untilOverload", desc := "()I" } : Jvm.MethodName)) ∈ lw_all := lw_g (lw_at lw_m3 146 rfl) rfl
theorem q727 : (Jvm.Cond.selects "PatchCords$Panel" ({ cls := "PatchCords$Panel", name := "untilOverload", desc := "()I" } : Jvm.MethodName) ({ cls := "PatchCords$Panel", name := "untilOverload", desc := "()I" } : Jvm.MethodName)) ∈ lw_all := lw_g (lw_at lw_m3 147 rfl) rfl
theorem q728 : (Jvm.Cond.code ({ cls := "PatchCords$Panel", name := "untilOverload", desc := "()I" } : Jvm.MethodName) prog_5_method_36_code (3 : Nat) (Option.some Jvm.ClassFile.FieldType.int)) ∈ lw_all := lw_g (lw_at lw_m3 148 rfl) rfl
theorem q729 : (Jvm.Cond.methodLink "PatchCords$Panel" (209 : Nat) ({ cls := "PatchCords$Panel", name := "running", desc := "()LPatchCords$Panel;" } : Jvm.MethodName)) ∈ lw_all := lw_g (lw_at lw_m3 149 rfl) rfl
theorem q730 : (Jvm.Cond.privateMethod ({ cls := "PatchCords$Panel", name := "running", desc := "()LPatchCords$Panel;" } : Jvm.MethodName)) ∈ lw_tbl := lw_at lw_m3 150 rfl
theorem q731 : (Jvm.Cond.instanceMethod ({ cls := "PatchCords$Panel", name := "running", desc := "()LPatchCords$Panel;" } : Jvm.MethodName)) ∈ lw_all := lw_g (lw_at lw_m3 151 rfl) rfl
theorem q732 : (Jvm.Cond.code ({ cls := "PatchCords$Panel", name := "running", desc := "()LPatchCords$Panel;" } : Jvm.MethodName) prog_5_method_35_code (2 : Nat) (Option.some (Jvm.ClassFile.FieldType.object "PatchCords$Panel"))) ∈ lw_all := lw_g (lw_at lw_m3 152 rfl) rfl
theorem q733 : (Jvm.Cond.methodLink "PatchCords$Panel" (206 : Nat) ({ cls := "PatchCords$Panel", name := "copy", desc := "()LPatchCords$Panel;" } : Jvm.MethodName)) ∈ lw_all := lw_g (lw_at lw_m3 153 rfl) rfl
theorem q734 : (Jvm.Cond.methodLink "PatchCords$Panel" (190 : Nat) ({ cls := "PatchCords$Panel", name := "overloaded", desc := "()I" } : Jvm.MethodName)) ∈ lw_all := lw_g (lw_at lw_m3 154 rfl) rfl
theorem q735 : (Jvm.Cond.methodLink "PatchCords$Panel" (193 : Nat) ({ cls := "PatchCords$Panel", name := "step", desc := "()V" } : Jvm.MethodName)) ∈ lw_all := lw_g (lw_at lw_m3 155 rfl) rfl
theorem q736 : (Jvm.Cond.privateMethod ({ cls := "PatchCords$Panel", name := "step", desc := "()V" } : Jvm.MethodName)) ∈ lw_tbl := lw_at lw_m3 156 rfl
theorem q737 : (Jvm.Cond.instanceMethod ({ cls := "PatchCords$Panel", name := "step", desc := "()V" } : Jvm.MethodName)) ∈ lw_all := lw_g (lw_at lw_m3 157 rfl) rfl
theorem q738 : (Jvm.Cond.code ({ cls := "PatchCords$Panel", name := "step", desc := "()V" } : Jvm.MethodName) prog_5_method_27_code (3 : Nat) (Option.none : Option Jvm.ClassFile.FieldType)) ∈ lw_all := lw_g (lw_at lw_m3 158 rfl) rfl
theorem q739 : (Jvm.Cond.classLink "PatchCords$Panel" (140 : Nat) "PatchCords$Integrator") ∈ lw_all := lw_g (lw_at lw_m3 159 rfl) rfl
theorem q740 : (Jvm.Cond.methodLink "PatchCords$Panel" (177 : Nat) ({ cls := "PatchCords$Way", name := "step", desc := "(LPatchCords$Panel;)V" } : Jvm.MethodName)) ∈ lw_all := lw_g (lw_at lw_m3 160 rfl) rfl
theorem q747 : (Jvm.Cond.privateMethod ({ cls := "PatchCords$Panel", name := "tellRates", desc := "()V" } : Jvm.MethodName)) ∈ lw_tbl := lw_at lw_m3 167 rfl
theorem q748 : (Jvm.Cond.instanceMethod ({ cls := "PatchCords$Panel", name := "tellRates", desc := "()V" } : Jvm.MethodName)) ∈ lw_all := lw_g (lw_at lw_m3 168 rfl) rfl
theorem q749 : (Jvm.Cond.code ({ cls := "PatchCords$Panel", name := "tellRates", desc := "()V" } : Jvm.MethodName) prog_5_method_24_code (2 : Nat) (Option.none : Option Jvm.ClassFile.FieldType)) ∈ lw_all := lw_g (lw_at lw_m3 169 rfl) rfl
theorem q750 : (Jvm.Cond.methodLink "PatchCords$Panel" (158 : Nat) ({ cls := "PatchCords$Integrator", name := "tellRate", desc := "([I)V" } : Jvm.MethodName)) ∈ lw_all := lw_g (lw_at lw_m3 170 rfl) rfl
theorem q762 : (Jvm.Cond.privateMethod ({ cls := "PatchCords$Panel", name := "moveAll", desc := "(I)V" } : Jvm.MethodName)) ∈ lw_tbl := lw_at lw_m3 182 rfl
theorem q763 : (Jvm.Cond.instanceMethod ({ cls := "PatchCords$Panel", name := "moveAll", desc := "(I)V" } : Jvm.MethodName)) ∈ lw_all := lw_g (lw_at lw_m3 183 rfl) rfl
theorem q764 : (Jvm.Cond.code ({ cls := "PatchCords$Panel", name := "moveAll", desc := "(I)V" } : Jvm.MethodName) prog_5_method_25_code (4 : Nat) (Option.none : Option Jvm.ClassFile.FieldType)) ∈ lw_all := lw_g (lw_at lw_m3 184 rfl) rfl
theorem q765 : (Jvm.Cond.methodLink "PatchCords$Panel" (164 : Nat) ({ cls := "PatchCords$Integrator", name := "move", desc := "(I)V" } : Jvm.MethodName)) ∈ lw_all := lw_g (lw_at lw_m3 185 rfl) rfl
theorem q775 : (Jvm.Cond.methodLink "PatchCords$Panel" (184 : Nat) ({ cls := "java/lang/Math", name := "abs", desc := "(I)I" } : Jvm.MethodName)) ∈ lw_all := lw_g (lw_at lw_m3 195 rfl) rfl
theorem q776 : (Jvm.Cond.methodLink "PatchCords$Panel" (101 : Nat) ({ cls := "java/lang/Math", name := "max", desc := "(II)I" } : Jvm.MethodName)) ∈ lw_all := lw_g (lw_at lw_m3 196 rfl) rfl
theorem q777 : (Jvm.Cond.methodLink "PatchCords$Panel" (187 : Nat) ({ cls := "PatchCords$Panel", name := "recordNow", desc := "()V" } : Jvm.MethodName)) ∈ lw_all := lw_g (lw_at lw_m3 197 rfl) rfl
theorem q778 : (Jvm.Cond.privateMethod ({ cls := "PatchCords$Panel", name := "recordNow", desc := "()V" } : Jvm.MethodName)) ∈ lw_tbl := lw_at lw_m3 198 rfl
theorem q779 : (Jvm.Cond.instanceMethod ({ cls := "PatchCords$Panel", name := "recordNow", desc := "()V" } : Jvm.MethodName)) ∈ lw_all := lw_g (lw_at lw_m3 199 rfl) rfl
theorem q780 : (Jvm.Cond.code ({ cls := "PatchCords$Panel", name := "recordNow", desc := "()V" } : Jvm.MethodName) prog_5_method_26_code (4 : Nat) (Option.none : Option Jvm.ClassFile.FieldType)) ∈ lw_all := lw_g (lw_at lw_m3 200 rfl) rfl
theorem q781 : (Jvm.Cond.methodLink "PatchCords$Panel" (168 : Nat) ({ cls := "java/lang/Math", name := "min", desc := "(II)I" } : Jvm.MethodName)) ∈ lw_all := lw_g (lw_at lw_m3 201 rfl) rfl
theorem q1234 : (Jvm.Cond.instanceMethod ({ cls := "PatchCords$Panel", name := "levels", desc := "()[I" } : Jvm.MethodName)) ∈ lw_all := lw_g (lw_at lw_m5 174 rfl) rfl
theorem q1235 : (Jvm.Cond.selects "PatchCords$Panel" ({ cls := "PatchCords$Panel", name := "levels", desc := "()[I" } : Jvm.MethodName) ({ cls := "PatchCords$Panel", name := "levels", desc := "()[I" } : Jvm.MethodName)) ∈ lw_all := lw_g (lw_at lw_m5 175 rfl) rfl
theorem q1236 : (Jvm.Cond.code ({ cls := "PatchCords$Panel", name := "levels", desc := "()[I" } : Jvm.MethodName) prog_5_method_5_code (5 : Nat) (Option.some (Jvm.ClassFile.FieldType.array Jvm.ClassFile.FieldType.int))) ∈ lw_all := lw_g (lw_at lw_m5 176 rfl) rfl
theorem q1237 : (Jvm.Cond.methodLink "PatchCords$Panel" (90 : Nat) ({ cls := "PatchCords$Part", name := "isSource", desc := "()Z" } : Jvm.MethodName)) ∈ lw_all := lw_g (lw_at lw_m5 177 rfl) rfl
theorem q1251 : (Jvm.Cond.methodLink "PatchCords$Panel" (94 : Nat) ({ cls := "PatchCords$Panel", name := "highest", desc := "([ILPatchCords$Part;)I" } : Jvm.MethodName)) ∈ lw_all := lw_g (lw_at lw_m5 191 rfl) rfl
theorem q1252 : (Jvm.Cond.static ({ cls := "PatchCords$Panel", name := "highest", desc := "([ILPatchCords$Part;)I" } : Jvm.MethodName)) ∈ lw_all := lw_g (lw_at lw_m5 192 rfl) rfl
theorem q1253 : (Jvm.Cond.code ({ cls := "PatchCords$Panel", name := "highest", desc := "([ILPatchCords$Part;)I" } : Jvm.MethodName) prog_5_method_6_code (4 : Nat) (Option.some Jvm.ClassFile.FieldType.int)) ∈ lw_all := lw_g (lw_at lw_m5 193 rfl) rfl
theorem q1256 : (Jvm.Cond.instanceMethod ({ cls := "PatchCords$Panel", name := "pass", desc := "(I)I" } : Jvm.MethodName)) ∈ lw_all := lw_g (lw_at lw_m5 196 rfl) rfl
theorem q1257 : (Jvm.Cond.selects "PatchCords$Panel" ({ cls := "PatchCords$Panel", name := "pass", desc := "(I)I" } : Jvm.MethodName) ({ cls := "PatchCords$Panel", name := "pass", desc := "(I)I" } : Jvm.MethodName)) ∈ lw_all := lw_g (lw_at lw_m5 197 rfl) rfl
theorem q1258 : (Jvm.Cond.code ({ cls := "PatchCords$Panel", name := "pass", desc := "(I)I" } : Jvm.MethodName) prog_5_method_28_code (3 : Nat) (Option.some Jvm.ClassFile.FieldType.int)) ∈ lw_all := lw_g (lw_at lw_m5 198 rfl) rfl
theorem q1312 : (Jvm.Cond.instanceMethod ({ cls := "PatchCords$Panel", name := "rate", desc := "(LPatchCords$Integrator;)I" } : Jvm.MethodName)) ∈ lw_all := lw_g (lw_at lw_m6 12 rfl) rfl
theorem q1313 : (Jvm.Cond.selects "PatchCords$Panel" ({ cls := "PatchCords$Panel", name := "rate", desc := "(LPatchCords$Integrator;)I" } : Jvm.MethodName) ({ cls := "PatchCords$Panel", name := "rate", desc := "(LPatchCords$Integrator;)I" } : Jvm.MethodName)) ∈ lw_all := lw_g (lw_at lw_m6 13 rfl) rfl
theorem q1314 : (Jvm.Cond.code ({ cls := "PatchCords$Panel", name := "rate", desc := "(LPatchCords$Integrator;)I" } : Jvm.MethodName) prog_5_method_16_code (2 : Nat) (Option.some Jvm.ClassFile.FieldType.int)) ∈ lw_all := lw_g (lw_at lw_m6 14 rfl) rfl
theorem q1315 : (Jvm.Cond.methodLink "PatchCords$Panel" (139 : Nat) ({ cls := "PatchCords$Integrator", name := "rate", desc := "([I)I" } : Jvm.MethodName)) ∈ lw_all := lw_g (lw_at lw_m6 15 rfl) rfl
theorem q1369 : (Jvm.Cond.instanceMethod ({ cls := "PatchCords$Panel", name := "put", desc := "(I)I" } : Jvm.MethodName)) ∈ lw_all := lw_g (lw_at lw_m6 69 rfl) rfl
theorem q1370 : (Jvm.Cond.selects "PatchCords$Panel" ({ cls := "PatchCords$Panel", name := "put", desc := "(I)I" } : Jvm.MethodName) ({ cls := "PatchCords$Panel", name := "put", desc := "(I)I" } : Jvm.MethodName)) ∈ lw_all := lw_g (lw_at lw_m6 70 rfl) rfl
theorem q1371 : (Jvm.Cond.code ({ cls := "PatchCords$Panel", name := "put", desc := "(I)I" } : Jvm.MethodName) prog_5_method_8_code (2 : Nat) (Option.some Jvm.ClassFile.FieldType.int)) ∈ lw_all := lw_g (lw_at lw_m6 71 rfl) rfl
theorem q1372 : (Jvm.Cond.methodLinkNest "PatchCords$Panel" (111 : Nat) ({ cls := "PatchCords", name := "newPart", desc := "(I)LPatchCords$Part;" } : Jvm.MethodName) "PatchCords") ∈ lw_tbl := lw_at lw_m6 72 rfl
theorem q1386 : (Jvm.Cond.methodLink "PatchCords$Panel" (114 : Nat) ({ cls := "PatchCords$Panel", name := "tellOrder", desc := "()V" } : Jvm.MethodName)) ∈ lw_all := lw_g (lw_at lw_m6 86 rfl) rfl
theorem q1387 : (Jvm.Cond.privateMethod ({ cls := "PatchCords$Panel", name := "tellOrder", desc := "()V" } : Jvm.MethodName)) ∈ lw_tbl := lw_at lw_m6 87 rfl
theorem q1388 : (Jvm.Cond.instanceMethod ({ cls := "PatchCords$Panel", name := "tellOrder", desc := "()V" } : Jvm.MethodName)) ∈ lw_all := lw_g (lw_at lw_m6 88 rfl) rfl
theorem q1389 : (Jvm.Cond.code ({ cls := "PatchCords$Panel", name := "tellOrder", desc := "()V" } : Jvm.MethodName) prog_5_method_7_code (5 : Nat) (Option.none : Option Jvm.ClassFile.FieldType)) ∈ lw_all := lw_g (lw_at lw_m6 89 rfl) rfl
theorem q1390 : (Jvm.Cond.methodLink "PatchCords$Panel" (107 : Nat) ({ cls := "PatchCords$Panel", name := "levels", desc := "()[I" } : Jvm.MethodName)) ∈ lw_all := lw_g (lw_at lw_m6 90 rfl) rfl
theorem q1451 : (Jvm.Cond.instanceMethod ({ cls := "PatchCords$Panel", name := "setVoltage", desc := "(LPatchCords$Part;I)V" } : Jvm.MethodName)) ∈ lw_all := lw_g (lw_at lw_m6 151 rfl) rfl
theorem q1452 : (Jvm.Cond.selects "PatchCords$Panel" ({ cls := "PatchCords$Panel", name := "setVoltage", desc := "(LPatchCords$Part;I)V" } : Jvm.MethodName) ({ cls := "PatchCords$Panel", name := "setVoltage", desc := "(LPatchCords$Part;I)V" } : Jvm.MethodName)) ∈ lw_all := lw_g (lw_at lw_m6 152 rfl) rfl
theorem q1453 : (Jvm.Cond.code ({ cls := "PatchCords$Panel", name := "setVoltage", desc := "(LPatchCords$Part;I)V" } : Jvm.MethodName) prog_5_method_32_code (4 : Nat) (Option.none : Option Jvm.ClassFile.FieldType)) ∈ lw_all := lw_g (lw_at lw_m6 153 rfl) rfl
theorem q1454 : (Jvm.Cond.classLink "PatchCords$Panel" (198 : Nat) "PatchCords$Steady") ∈ lw_all := lw_g (lw_at lw_m6 154 rfl) rfl
theorem q1455 : (Jvm.Cond.methodLink "PatchCords$Panel" (195 : Nat) ({ cls := "PatchCords$Integrator", name := "reset", desc := "()V" } : Jvm.MethodName)) ∈ lw_all := lw_g (lw_at lw_m6 155 rfl) rfl
theorem q1489 : (Jvm.Cond.instanceMethod ({ cls := "PatchCords$Panel", name := "wouldCircle", desc := "(II)Z" } : Jvm.MethodName)) ∈ lw_all := lw_g (lw_at lw_m6 189 rfl) rfl
theorem q1490 : (Jvm.Cond.selects "PatchCords$Panel" ({ cls := "PatchCords$Panel", name := "wouldCircle", desc := "(II)Z" } : Jvm.MethodName) ({ cls := "PatchCords$Panel", name := "wouldCircle", desc := "(II)Z" } : Jvm.MethodName)) ∈ lw_all := lw_g (lw_at lw_m6 190 rfl) rfl
theorem q1491 : (Jvm.Cond.code ({ cls := "PatchCords$Panel", name := "wouldCircle", desc := "(II)Z" } : Jvm.MethodName) prog_5_method_20_code (4 : Nat) (Option.some Jvm.ClassFile.FieldType.boolean)) ∈ lw_all := lw_g (lw_at lw_m6 191 rfl) rfl
theorem q1492 : (Jvm.Cond.methodLink "PatchCords$Panel" (151 : Nat) ({ cls := "PatchCords$Panel", name := "dependsAtOnce", desc := "(I)I" } : Jvm.MethodName)) ∈ lw_all := lw_g (lw_at lw_m6 192 rfl) rfl
theorem q1493 : (Jvm.Cond.privateMethod ({ cls := "PatchCords$Panel", name := "dependsAtOnce", desc := "(I)I" } : Jvm.MethodName)) ∈ lw_tbl := lw_at lw_m6 193 rfl
theorem q1494 : (Jvm.Cond.instanceMethod ({ cls := "PatchCords$Panel", name := "dependsAtOnce", desc := "(I)I" } : Jvm.MethodName)) ∈ lw_all := lw_g (lw_at lw_m6 194 rfl) rfl
theorem q1495 : (Jvm.Cond.code ({ cls := "PatchCords$Panel", name := "dependsAtOnce", desc := "(I)I" } : Jvm.MethodName) prog_5_method_19_code (5 : Nat) (Option.some Jvm.ClassFile.FieldType.int)) ∈ lw_all := lw_g (lw_at lw_m6 195 rfl) rfl
theorem q1497 : (Jvm.Cond.instanceMethod ({ cls := "PatchCords$Panel", name := "join", desc := "(III)I" } : Jvm.MethodName)) ∈ lw_all := lw_g (lw_at lw_m6 197 rfl) rfl
theorem q1498 : (Jvm.Cond.selects "PatchCords$Panel" ({ cls := "PatchCords$Panel", name := "join", desc := "(III)I" } : Jvm.MethodName) ({ cls := "PatchCords$Panel", name := "join", desc := "(III)I" } : Jvm.MethodName)) ∈ lw_all := lw_g (lw_at lw_m6 198 rfl) rfl
theorem q1499 : (Jvm.Cond.code ({ cls := "PatchCords$Panel", name := "join", desc := "(III)I" } : Jvm.MethodName) prog_5_method_33_code (5 : Nat) (Option.some Jvm.ClassFile.FieldType.int)) ∈ lw_all := lw_g (lw_at lw_m6 199 rfl) rfl
theorem q1508 : (Jvm.Cond.instanceMethod ({ cls := "PatchCords$Panel", name := "takeOut", desc := "(II)I" } : Jvm.MethodName)) ∈ lw_all := lw_g (lw_at lw_m6 208 rfl) rfl
theorem q1509 : (Jvm.Cond.selects "PatchCords$Panel" ({ cls := "PatchCords$Panel", name := "takeOut", desc := "(II)I" } : Jvm.MethodName) ({ cls := "PatchCords$Panel", name := "takeOut", desc := "(II)I" } : Jvm.MethodName)) ∈ lw_all := lw_g (lw_at lw_m6 209 rfl) rfl
theorem q1510 : (Jvm.Cond.code ({ cls := "PatchCords$Panel", name := "takeOut", desc := "(II)I" } : Jvm.MethodName) prog_5_method_34_code (4 : Nat) (Option.some Jvm.ClassFile.FieldType.int)) ∈ lw_all := lw_g (lw_at lw_m6 210 rfl) rfl
theorem q1519 : (Jvm.Cond.instanceMethod ({ cls := "PatchCords$Panel", name := "setMode", desc := "(I)V" } : Jvm.MethodName)) ∈ lw_all := lw_g (lw_at lw_m6 219 rfl) rfl
theorem q1520 : (Jvm.Cond.selects "PatchCords$Panel" ({ cls := "PatchCords$Panel", name := "setMode", desc := "(I)V" } : Jvm.MethodName) ({ cls := "PatchCords$Panel", name := "setMode", desc := "(I)V" } : Jvm.MethodName)) ∈ lw_all := lw_g (lw_at lw_m6 220 rfl) rfl
theorem q1521 : (Jvm.Cond.code ({ cls := "PatchCords$Panel", name := "setMode", desc := "(I)V" } : Jvm.MethodName) prog_5_method_29_code (3 : Nat) (Option.none : Option Jvm.ClassFile.FieldType)) ∈ lw_all := lw_g (lw_at lw_m6 221 rfl) rfl
theorem q1548 : (Jvm.Cond.instanceMethod ({ cls := "PatchCords$Panel", name := "setRecorder", desc := "(I)V" } : Jvm.MethodName)) ∈ lw_all := lw_g (lw_at lw_m7 8 rfl) rfl
theorem q1549 : (Jvm.Cond.selects "PatchCords$Panel" ({ cls := "PatchCords$Panel", name := "setRecorder", desc := "(I)V" } : Jvm.MethodName) ({ cls := "PatchCords$Panel", name := "setRecorder", desc := "(I)V" } : Jvm.MethodName)) ∈ lw_all := lw_g (lw_at lw_m7 9 rfl) rfl
theorem q1550 : (Jvm.Cond.code ({ cls := "PatchCords$Panel", name := "setRecorder", desc := "(I)V" } : Jvm.MethodName) prog_5_method_30_code (2 : Nat) (Option.none : Option Jvm.ClassFile.FieldType)) ∈ lw_all := lw_g (lw_at lw_m7 10 rfl) rfl
theorem q1613 : (Jvm.Cond.instanceMethod ({ cls := "PatchCords$Panel", name := "output", desc := "(I)I" } : Jvm.MethodName)) ∈ lw_all := lw_g (lw_at lw_m7 73 rfl) rfl
theorem q1614 : (Jvm.Cond.selects "PatchCords$Panel" ({ cls := "PatchCords$Panel", name := "output", desc := "(I)I" } : Jvm.MethodName) ({ cls := "PatchCords$Panel", name := "output", desc := "(I)I" } : Jvm.MethodName)) ∈ lw_all := lw_g (lw_at lw_m7 74 rfl) rfl
theorem q1615 : (Jvm.Cond.code ({ cls := "PatchCords$Panel", name := "output", desc := "(I)I" } : Jvm.MethodName) prog_5_method_11_code (2 : Nat) (Option.some Jvm.ClassFile.FieldType.int)) ∈ lw_all := lw_g (lw_at lw_m7 75 rfl) rfl
theorem q1624 : (Jvm.Cond.instanceMethod ({ cls := "PatchCords$Panel", name := "outputByAsking", desc := "(I)I" } : Jvm.MethodName)) ∈ lw_all := lw_g (lw_at lw_m7 84 rfl) rfl
theorem q1625 : (Jvm.Cond.selects "PatchCords$Panel" ({ cls := "PatchCords$Panel", name := "outputByAsking", desc := "(I)I" } : Jvm.MethodName) ({ cls := "PatchCords$Panel", name := "outputByAsking", desc := "(I)I" } : Jvm.MethodName)) ∈ lw_all := lw_g (lw_at lw_m7 85 rfl) rfl
theorem q1626 : (Jvm.Cond.code ({ cls := "PatchCords$Panel", name := "outputByAsking", desc := "(I)I" } : Jvm.MethodName) prog_5_method_13_code (2 : Nat) (Option.some Jvm.ClassFile.FieldType.int)) ∈ lw_all := lw_g (lw_at lw_m7 86 rfl) rfl
theorem q1627 : (Jvm.Cond.methodLink "PatchCords$Panel" (131 : Nat) ({ cls := "PatchCords$Panel", name := "ask", desc := "(I[I[Z)I" } : Jvm.MethodName)) ∈ lw_all := lw_g (lw_at lw_m7 87 rfl) rfl
theorem q1628 : (Jvm.Cond.privateMethod ({ cls := "PatchCords$Panel", name := "ask", desc := "(I[I[Z)I" } : Jvm.MethodName)) ∈ lw_tbl := lw_at lw_m7 88 rfl
theorem q1629 : (Jvm.Cond.instanceMethod ({ cls := "PatchCords$Panel", name := "ask", desc := "(I[I[Z)I" } : Jvm.MethodName)) ∈ lw_all := lw_g (lw_at lw_m7 89 rfl) rfl
theorem q1630 : (Jvm.Cond.code ({ cls := "PatchCords$Panel", name := "ask", desc := "(I[I[Z)I" } : Jvm.MethodName) prog_5_method_14_code (7 : Nat) (Option.some Jvm.ClassFile.FieldType.int)) ∈ lw_all := lw_g (lw_at lw_m7 90 rfl) rfl
theorem q1640 : (Jvm.Cond.instanceMethod ({ cls := "PatchCords$Panel", name := "input", desc := "(II)I" } : Jvm.MethodName)) ∈ lw_all := lw_g (lw_at lw_m7 100 rfl) rfl
theorem q1641 : (Jvm.Cond.selects "PatchCords$Panel" ({ cls := "PatchCords$Panel", name := "input", desc := "(II)I" } : Jvm.MethodName) ({ cls := "PatchCords$Panel", name := "input", desc := "(II)I" } : Jvm.MethodName)) ∈ lw_all := lw_g (lw_at lw_m7 101 rfl) rfl
theorem q1642 : (Jvm.Cond.code ({ cls := "PatchCords$Panel", name := "input", desc := "(II)I" } : Jvm.MethodName) prog_5_method_12_code (3 : Nat) (Option.some Jvm.ClassFile.FieldType.int)) ∈ lw_all := lw_g (lw_at lw_m7 102 rfl) rfl
theorem q1701 : (Jvm.Cond.instanceMethod ({ cls := "PatchCords$Panel", name := "dependsByTable", desc := "(I)I" } : Jvm.MethodName)) ∈ lw_all := lw_g (lw_at lw_m7 161 rfl) rfl
theorem q1702 : (Jvm.Cond.selects "PatchCords$Panel" ({ cls := "PatchCords$Panel", name := "dependsByTable", desc := "(I)I" } : Jvm.MethodName) ({ cls := "PatchCords$Panel", name := "dependsByTable", desc := "(I)I" } : Jvm.MethodName)) ∈ lw_all := lw_g (lw_at lw_m7 162 rfl) rfl
theorem q1703 : (Jvm.Cond.code ({ cls := "PatchCords$Panel", name := "dependsByTable", desc := "(I)I" } : Jvm.MethodName) prog_5_method_18_code (5 : Nat) (Option.some Jvm.ClassFile.FieldType.int)) ∈ lw_all := lw_g (lw_at lw_m7 163 rfl) rfl
theorem q1733 : (Jvm.Cond.instanceMethod ({ cls := "PatchCords$Panel", name := "bestFactor", desc := "(III)I" } : Jvm.MethodName)) ∈ lw_all := lw_g (lw_at lw_m7 193 rfl) rfl
theorem q1734 : (Jvm.Cond.selects "PatchCords$Panel" ({ cls := "PatchCords$Panel", name := "bestFactor", desc := "(III)I" } : Jvm.MethodName) ({ cls := "PatchCords$Panel", name := "bestFactor", desc := "(III)I" } : Jvm.MethodName)) ∈ lw_all := lw_g (lw_at lw_m7 194 rfl) rfl
theorem q1735 : (Jvm.Cond.code ({ cls := "PatchCords$Panel", name := "bestFactor", desc := "(III)I" } : Jvm.MethodName) prog_5_method_37_code (9 : Nat) (Option.some Jvm.ClassFile.FieldType.int)) ∈ lw_all := lw_g (lw_at lw_m7 195 rfl) rfl
theorem q1736 : (Jvm.Cond.classLink "PatchCords$Panel" (212 : Nat) "PatchCords$Pot") ∈ lw_all := lw_g (lw_at lw_m7 196 rfl) rfl
theorem q1737 : (Jvm.Cond.methodLink "PatchCords$Panel" (217 : Nat) ({ cls := "PatchCords$Panel", name := "pass", desc := "(I)I" } : Jvm.MethodName)) ∈ lw_all := lw_g (lw_at lw_m7 197 rfl) rfl
theorem q1738 : (Jvm.Cond.methodLink "PatchCords$Panel" (220 : Nat) ({ cls := "PatchCords$Panel", name := "output", desc := "(I)I" } : Jvm.MethodName)) ∈ lw_all := lw_g (lw_at lw_m7 198 rfl) rfl
theorem q2401 : (Jvm.Cond.castable "PatchCords$Panel" "java/lang/Object") ∈ lw_tbl := lw_at lw_m10 141 rfl
theorem in_X2 : ∀ w ∈ wsX20, w ∈ lw_all := lw_in wsX20 [208, 210, 212, 214, 216, 218, 220, 222, 224, 226, 228, 230, 232, 234] (by decide +kernel) (by decide +kernel)
/-! PatchCords$Part -/
set_option maxRecDepth 100000
def RX5 : String := "PatchCords$Part"
abbrev cX5_copy : ByteArray := prog_6_method_8_code
def yX5_copy : MethodName := ⟨RX5, "copy", "()LPatchCords$Part;"⟩
def dkwX5_copy_1 : List UInt8 := [180, 0, 9, 28, 46, 79, 132, 2, 1, 167, 255, 232, 43, 42, 180, 0, 27, 181, 0, 27, 43, 176]
abbrev dktX5_copy_1 : List UInt8 := dkwX5_copy_1 ++ []
def dkwX5_copy_0 : List UInt8 := [42, 182, 0, 23, 76, 3, 61, 28, 42, 180, 0, 9, 190, 162, 0, 21, 43, 180, 0, 9, 28, 42]
abbrev dktX5_copy_0 : List UInt8 := dkwX5_copy_0 ++ dktX5_copy_1
theorem dksX5_copy_0 : cX5_copy.data.toList.drop 0 = dktX5_copy_0 := by decide +kernel
theorem dksX5_copy_1 : cX5_copy.data.toList.drop 22 = dktX5_copy_1 := dk_seg dksX5_copy_0 22 rfl rfl
theorem dX5_copy_0 : decode cX5_copy 0 = .ok (.aload_n 0, 1) := dk_42 (dk_at dksX5_copy_0 0 rfl rfl)
theorem dX5_copy_1 : decode cX5_copy 1 = .ok (.invokevirtual 23, 3) := dk_182 0 23 (dk_at dksX5_copy_0 1 rfl rfl)
theorem dX5_copy_4 : decode cX5_copy 4 = .ok (.astore_n 1, 1) := dk_76 (dk_at dksX5_copy_0 4 rfl rfl)
theorem dX5_copy_5 : decode cX5_copy 5 = .ok (.iconst 0, 1) := dk_3 (dk_at dksX5_copy_0 5 rfl rfl)
theorem dX5_copy_6 : decode cX5_copy 6 = .ok (.istore_n 2, 1) := dk_61 (dk_at dksX5_copy_0 6 rfl rfl)
theorem dX5_copy_7 : decode cX5_copy 7 = .ok (.iload_n 2, 1) := dk_28 (dk_at dksX5_copy_0 7 rfl rfl)
theorem dX5_copy_8 : decode cX5_copy 8 = .ok (.aload_n 0, 1) := dk_42 (dk_at dksX5_copy_0 8 rfl rfl)
theorem dX5_copy_9 : decode cX5_copy 9 = .ok (.getfield 9, 3) := dk_180 0 9 (dk_at dksX5_copy_0 9 rfl rfl)
theorem dX5_copy_12 : decode cX5_copy 12 = .ok (.arraylength, 1) := dk_190 (dk_at dksX5_copy_0 12 rfl rfl)
theorem dX5_copy_13 : decode cX5_copy 13 = .ok (.if_icmp .ge 21, 3) := dk_162 0 21 (dk_at dksX5_copy_0 13 rfl rfl)
theorem dX5_copy_16 : decode cX5_copy 16 = .ok (.aload_n 1, 1) := dk_43 (dk_at dksX5_copy_0 16 rfl rfl)
theorem dX5_copy_17 : decode cX5_copy 17 = .ok (.getfield 9, 3) := dk_180 0 9 (dk_at dksX5_copy_0 17 rfl rfl)
theorem dX5_copy_20 : decode cX5_copy 20 = .ok (.iload_n 2, 1) := dk_28 (dk_at dksX5_copy_0 20 rfl rfl)
theorem dX5_copy_21 : decode cX5_copy 21 = .ok (.aload_n 0, 1) := dk_42 (dk_at dksX5_copy_0 21 rfl rfl)
theorem dX5_copy_22 : decode cX5_copy 22 = .ok (.getfield 9, 3) := dk_180 0 9 (dk_at dksX5_copy_1 0 rfl rfl)
theorem dX5_copy_25 : decode cX5_copy 25 = .ok (.iload_n 2, 1) := dk_28 (dk_at dksX5_copy_1 3 rfl rfl)
theorem dX5_copy_26 : decode cX5_copy 26 = .ok (.iaload, 1) := dk_46 (dk_at dksX5_copy_1 4 rfl rfl)
theorem dX5_copy_27 : decode cX5_copy 27 = .ok (.iastore, 1) := dk_79 (dk_at dksX5_copy_1 5 rfl rfl)
theorem dX5_copy_28 : decode cX5_copy 28 = .ok (.iinc 2 1, 3) := dk_132 2 1 (dk_at dksX5_copy_1 6 rfl rfl)
theorem dX5_copy_31 : decode cX5_copy 31 = .ok (.goto (-24), 3) := dk_167 255 232 (dk_at dksX5_copy_1 9 rfl rfl)
theorem dX5_copy_34 : decode cX5_copy 34 = .ok (.aload_n 1, 1) := dk_43 (dk_at dksX5_copy_1 12 rfl rfl)
theorem dX5_copy_35 : decode cX5_copy 35 = .ok (.aload_n 0, 1) := dk_42 (dk_at dksX5_copy_1 13 rfl rfl)
theorem dX5_copy_36 : decode cX5_copy 36 = .ok (.getfield 27, 3) := dk_180 0 27 (dk_at dksX5_copy_1 14 rfl rfl)
theorem dX5_copy_39 : decode cX5_copy 39 = .ok (.putfield 27, 3) := dk_181 0 27 (dk_at dksX5_copy_1 17 rfl rfl)
theorem dX5_copy_42 : decode cX5_copy 42 = .ok (.aload_n 1, 1) := dk_43 (dk_at dksX5_copy_1 20 rfl rfl)
theorem dX5_copy_43 : decode cX5_copy 43 = .ok (.areturn, 1) := dk_176 (dk_at dksX5_copy_1 21 rfl rfl)
abbrev cX5_init : ByteArray := prog_6_method_1_code
def yX5_init : MethodName := ⟨RX5, "<init>", "(I)V"⟩
def dkwX5_init_1 : List UInt8 := [79, 132, 2, 1, 167, 255, 241, 177]
abbrev dktX5_init_1 : List UInt8 := dkwX5_init_1 ++ []
def dkwX5_init_0 : List UInt8 := [42, 183, 0, 3, 42, 27, 188, 10, 181, 0, 9, 3, 61, 28, 27, 162, 0, 16, 42, 180, 0, 9, 28, 2]
abbrev dktX5_init_0 : List UInt8 := dkwX5_init_0 ++ dktX5_init_1
theorem dksX5_init_0 : cX5_init.data.toList.drop 0 = dktX5_init_0 := by decide +kernel
theorem dksX5_init_1 : cX5_init.data.toList.drop 24 = dktX5_init_1 := dk_seg dksX5_init_0 24 rfl rfl
theorem dX5_init_0 : decode cX5_init 0 = .ok (.aload_n 0, 1) := dk_42 (dk_at dksX5_init_0 0 rfl rfl)
theorem dX5_init_1 : decode cX5_init 1 = .ok (.invokespecial 3, 3) := dk_183 0 3 (dk_at dksX5_init_0 1 rfl rfl)
theorem dX5_init_4 : decode cX5_init 4 = .ok (.aload_n 0, 1) := dk_42 (dk_at dksX5_init_0 4 rfl rfl)
theorem dX5_init_5 : decode cX5_init 5 = .ok (.iload_n 1, 1) := dk_27 (dk_at dksX5_init_0 5 rfl rfl)
theorem dX5_init_6 : decode cX5_init 6 = .ok (.newarray .int, 2) := dk_188_10 (dk_at dksX5_init_0 6 rfl rfl)
theorem dX5_init_8 : decode cX5_init 8 = .ok (.putfield 9, 3) := dk_181 0 9 (dk_at dksX5_init_0 8 rfl rfl)
theorem dX5_init_11 : decode cX5_init 11 = .ok (.iconst 0, 1) := dk_3 (dk_at dksX5_init_0 11 rfl rfl)
theorem dX5_init_12 : decode cX5_init 12 = .ok (.istore_n 2, 1) := dk_61 (dk_at dksX5_init_0 12 rfl rfl)
theorem dX5_init_13 : decode cX5_init 13 = .ok (.iload_n 2, 1) := dk_28 (dk_at dksX5_init_0 13 rfl rfl)
theorem dX5_init_14 : decode cX5_init 14 = .ok (.iload_n 1, 1) := dk_27 (dk_at dksX5_init_0 14 rfl rfl)
theorem dX5_init_15 : decode cX5_init 15 = .ok (.if_icmp .ge 16, 3) := dk_162 0 16 (dk_at dksX5_init_0 15 rfl rfl)
theorem dX5_init_18 : decode cX5_init 18 = .ok (.aload_n 0, 1) := dk_42 (dk_at dksX5_init_0 18 rfl rfl)
theorem dX5_init_19 : decode cX5_init 19 = .ok (.getfield 9, 3) := dk_180 0 9 (dk_at dksX5_init_0 19 rfl rfl)
theorem dX5_init_22 : decode cX5_init 22 = .ok (.iload_n 2, 1) := dk_28 (dk_at dksX5_init_0 22 rfl rfl)
theorem dX5_init_23 : decode cX5_init 23 = .ok (.iconst (-1), 1) := dk_2 (dk_at dksX5_init_0 23 rfl rfl)
theorem dX5_init_24 : decode cX5_init 24 = .ok (.iastore, 1) := dk_79 (dk_at dksX5_init_1 0 rfl rfl)
theorem dX5_init_25 : decode cX5_init 25 = .ok (.iinc 2 1, 3) := dk_132 2 1 (dk_at dksX5_init_1 1 rfl rfl)
theorem dX5_init_28 : decode cX5_init 28 = .ok (.goto (-15), 3) := dk_167 255 241 (dk_at dksX5_init_1 4 rfl rfl)
theorem dX5_init_31 : decode cX5_init 31 = .ok (.return_, 1) := dk_177 (dk_at dksX5_init_1 7 rfl rfl)
abbrev cX5_isOverloaded : ByteArray := prog_6_method_6_code
def yX5_isOverloaded : MethodName := ⟨RX5, "isOverloaded", "([I)Z"⟩
def dkwX5_isOverloaded_0 : List UInt8 := [42, 43, 182, 0, 15, 17, 216, 240, 17, 39, 16, 184, 0, 19, 154, 0, 7, 4, 167, 0, 4, 3, 172]
abbrev dktX5_isOverloaded_0 : List UInt8 := dkwX5_isOverloaded_0 ++ []
theorem dksX5_isOverloaded_0 : cX5_isOverloaded.data.toList.drop 0 = dktX5_isOverloaded_0 := by decide +kernel
theorem dX5_isOverloaded_0 : decode cX5_isOverloaded 0 = .ok (.aload_n 0, 1) := dk_42 (dk_at dksX5_isOverloaded_0 0 rfl rfl)
theorem dX5_isOverloaded_1 : decode cX5_isOverloaded 1 = .ok (.aload_n 1, 1) := dk_43 (dk_at dksX5_isOverloaded_0 1 rfl rfl)
theorem dX5_isOverloaded_2 : decode cX5_isOverloaded 2 = .ok (.invokevirtual 15, 3) := dk_182 0 15 (dk_at dksX5_isOverloaded_0 2 rfl rfl)
theorem dX5_isOverloaded_5 : decode cX5_isOverloaded 5 = .ok (.sipush (-10000), 3) := dk_17 216 240 (dk_at dksX5_isOverloaded_0 5 rfl rfl)
theorem dX5_isOverloaded_8 : decode cX5_isOverloaded 8 = .ok (.sipush 10000, 3) := dk_17 39 16 (dk_at dksX5_isOverloaded_0 8 rfl rfl)
theorem dX5_isOverloaded_11 : decode cX5_isOverloaded 11 = .ok (.invokestatic 19, 3) := dk_184 0 19 (dk_at dksX5_isOverloaded_0 11 rfl rfl)
theorem dX5_isOverloaded_14 : decode cX5_isOverloaded 14 = .ok (.ifCond .ne 7, 3) := dk_154 0 7 (dk_at dksX5_isOverloaded_0 14 rfl rfl)
theorem dX5_isOverloaded_17 : decode cX5_isOverloaded 17 = .ok (.iconst 1, 1) := dk_4 (dk_at dksX5_isOverloaded_0 17 rfl rfl)
theorem dX5_isOverloaded_18 : decode cX5_isOverloaded 18 = .ok (.goto 4, 3) := dk_167 0 4 (dk_at dksX5_isOverloaded_0 18 rfl rfl)
theorem dX5_isOverloaded_21 : decode cX5_isOverloaded 21 = .ok (.iconst 0, 1) := dk_3 (dk_at dksX5_isOverloaded_0 21 rfl rfl)
theorem dX5_isOverloaded_22 : decode cX5_isOverloaded 22 = .ok (.ireturn, 1) := dk_172 (dk_at dksX5_isOverloaded_0 22 rfl rfl)
abbrev cX5_feeders : ByteArray := prog_6_method_9_code
def yX5_feeders : MethodName := ⟨RX5, "feeders", "()I"⟩
def dkwX5_feeders_1 : List UInt8 := [3, 167, 0, 11, 4, 42, 180, 0, 9, 28, 46, 120, 128, 60, 132, 2, 1, 167, 255, 219, 27, 172]
abbrev dktX5_feeders_1 : List UInt8 := dkwX5_feeders_1 ++ []
def dkwX5_feeders_0 : List UInt8 := [3, 60, 3, 61, 28, 42, 180, 0, 9, 190, 162, 0, 34, 27, 42, 180, 0, 9, 28, 46, 2, 160, 0, 7]
abbrev dktX5_feeders_0 : List UInt8 := dkwX5_feeders_0 ++ dktX5_feeders_1
theorem dksX5_feeders_0 : cX5_feeders.data.toList.drop 0 = dktX5_feeders_0 := by decide +kernel
theorem dksX5_feeders_1 : cX5_feeders.data.toList.drop 24 = dktX5_feeders_1 := dk_seg dksX5_feeders_0 24 rfl rfl
theorem dX5_feeders_0 : decode cX5_feeders 0 = .ok (.iconst 0, 1) := dk_3 (dk_at dksX5_feeders_0 0 rfl rfl)
theorem dX5_feeders_1 : decode cX5_feeders 1 = .ok (.istore_n 1, 1) := dk_60 (dk_at dksX5_feeders_0 1 rfl rfl)
theorem dX5_feeders_2 : decode cX5_feeders 2 = .ok (.iconst 0, 1) := dk_3 (dk_at dksX5_feeders_0 2 rfl rfl)
theorem dX5_feeders_3 : decode cX5_feeders 3 = .ok (.istore_n 2, 1) := dk_61 (dk_at dksX5_feeders_0 3 rfl rfl)
theorem dX5_feeders_4 : decode cX5_feeders 4 = .ok (.iload_n 2, 1) := dk_28 (dk_at dksX5_feeders_0 4 rfl rfl)
theorem dX5_feeders_5 : decode cX5_feeders 5 = .ok (.aload_n 0, 1) := dk_42 (dk_at dksX5_feeders_0 5 rfl rfl)
theorem dX5_feeders_6 : decode cX5_feeders 6 = .ok (.getfield 9, 3) := dk_180 0 9 (dk_at dksX5_feeders_0 6 rfl rfl)
theorem dX5_feeders_9 : decode cX5_feeders 9 = .ok (.arraylength, 1) := dk_190 (dk_at dksX5_feeders_0 9 rfl rfl)
theorem dX5_feeders_10 : decode cX5_feeders 10 = .ok (.if_icmp .ge 34, 3) := dk_162 0 34 (dk_at dksX5_feeders_0 10 rfl rfl)
theorem dX5_feeders_13 : decode cX5_feeders 13 = .ok (.iload_n 1, 1) := dk_27 (dk_at dksX5_feeders_0 13 rfl rfl)
theorem dX5_feeders_14 : decode cX5_feeders 14 = .ok (.aload_n 0, 1) := dk_42 (dk_at dksX5_feeders_0 14 rfl rfl)
theorem dX5_feeders_15 : decode cX5_feeders 15 = .ok (.getfield 9, 3) := dk_180 0 9 (dk_at dksX5_feeders_0 15 rfl rfl)
theorem dX5_feeders_18 : decode cX5_feeders 18 = .ok (.iload_n 2, 1) := dk_28 (dk_at dksX5_feeders_0 18 rfl rfl)
theorem dX5_feeders_19 : decode cX5_feeders 19 = .ok (.iaload, 1) := dk_46 (dk_at dksX5_feeders_0 19 rfl rfl)
theorem dX5_feeders_20 : decode cX5_feeders 20 = .ok (.iconst (-1), 1) := dk_2 (dk_at dksX5_feeders_0 20 rfl rfl)
theorem dX5_feeders_21 : decode cX5_feeders 21 = .ok (.if_icmp .ne 7, 3) := dk_160 0 7 (dk_at dksX5_feeders_0 21 rfl rfl)
theorem dX5_feeders_24 : decode cX5_feeders 24 = .ok (.iconst 0, 1) := dk_3 (dk_at dksX5_feeders_1 0 rfl rfl)
theorem dX5_feeders_25 : decode cX5_feeders 25 = .ok (.goto 11, 3) := dk_167 0 11 (dk_at dksX5_feeders_1 1 rfl rfl)
theorem dX5_feeders_28 : decode cX5_feeders 28 = .ok (.iconst 1, 1) := dk_4 (dk_at dksX5_feeders_1 4 rfl rfl)
theorem dX5_feeders_29 : decode cX5_feeders 29 = .ok (.aload_n 0, 1) := dk_42 (dk_at dksX5_feeders_1 5 rfl rfl)
theorem dX5_feeders_30 : decode cX5_feeders 30 = .ok (.getfield 9, 3) := dk_180 0 9 (dk_at dksX5_feeders_1 6 rfl rfl)
theorem dX5_feeders_33 : decode cX5_feeders 33 = .ok (.iload_n 2, 1) := dk_28 (dk_at dksX5_feeders_1 9 rfl rfl)
theorem dX5_feeders_34 : decode cX5_feeders 34 = .ok (.iaload, 1) := dk_46 (dk_at dksX5_feeders_1 10 rfl rfl)
theorem dX5_feeders_35 : decode cX5_feeders 35 = .ok (.ishl, 1) := dk_120 (dk_at dksX5_feeders_1 11 rfl rfl)
theorem dX5_feeders_36 : decode cX5_feeders 36 = .ok (.ior, 1) := dk_128 (dk_at dksX5_feeders_1 12 rfl rfl)
theorem dX5_feeders_37 : decode cX5_feeders 37 = .ok (.istore_n 1, 1) := dk_60 (dk_at dksX5_feeders_1 13 rfl rfl)
theorem dX5_feeders_38 : decode cX5_feeders 38 = .ok (.iinc 2 1, 3) := dk_132 2 1 (dk_at dksX5_feeders_1 14 rfl rfl)
theorem dX5_feeders_41 : decode cX5_feeders 41 = .ok (.goto (-37), 3) := dk_167 255 219 (dk_at dksX5_feeders_1 17 rfl rfl)
theorem dX5_feeders_44 : decode cX5_feeders 44 = .ok (.iload_n 1, 1) := dk_27 (dk_at dksX5_feeders_1 20 rfl rfl)
theorem dX5_feeders_45 : decode cX5_feeders 45 = .ok (.ireturn, 1) := dk_172 (dk_at dksX5_feeders_1 21 rfl rfl)
abbrev cX5_isSource : ByteArray := prog_6_method_5_code
def yX5_isSource : MethodName := ⟨RX5, "isSource", "()Z"⟩
theorem dX5_isSource_0 : decode cX5_isSource 0 = .ok (.iconst 0, 1) := by decide +kernel
theorem dX5_isSource_1 : decode cX5_isSource 1 = .ok (.ireturn, 1) := by decide +kernel
abbrev cX5_setting : ByteArray := prog_6_method_7_code
def yX5_setting : MethodName := ⟨RX5, "setting", "()I"⟩
theorem dX5_setting_0 : decode cX5_setting 0 = .ok (.iconst 0, 1) := by decide +kernel
theorem dX5_setting_1 : decode cX5_setting 1 = .ok (.ireturn, 1) := by decide +kernel
theorem q120 : (Jvm.Cond.initialized "PatchCords$Part") ∈ lw_all := lw_g (lw_at lw_m1 20 rfl) rfl
theorem q316 : (Jvm.Cond.instanceMethod ({ cls := "PatchCords$Part", name := "copy", desc := "()LPatchCords$Part;" } : Jvm.MethodName)) ∈ lw_all := lw_g (lw_at lw_m1 216 rfl) rfl
theorem q317 : (Jvm.Cond.sameMethod "PatchCords$Part" "PatchCords$Part" "copy" "()LPatchCords$Part;") ∈ lw_all := lw_g (lw_at lw_m1 217 rfl) rfl
theorem q324 : (Jvm.Cond.code ({ cls := "PatchCords$Part", name := "copy", desc := "()LPatchCords$Part;" } : Jvm.MethodName) prog_6_method_8_code (3 : Nat) (Option.some (Jvm.ClassFile.FieldType.object "PatchCords$Part"))) ∈ lw_all := lw_g (lw_at lw_m1 224 rfl) rfl
theorem q325 : (Jvm.Cond.methodLink "PatchCords$Part" (23 : Nat) ({ cls := "PatchCords$Part", name := "bare", desc := "()LPatchCords$Part;" } : Jvm.MethodName)) ∈ lw_all := lw_g (lw_at lw_m1 225 rfl) rfl
theorem q326 : (Jvm.Cond.declares ({ cls := "PatchCords$Part", name := "bare", desc := "()LPatchCords$Part;" } : Jvm.MethodName)) ∈ lw_tbl := lw_at lw_m1 226 rfl
theorem q327 : (Jvm.Cond.sameMethod "PatchCords$Part" "PatchCords$Part" "bare" "()LPatchCords$Part;") ∈ lw_all := lw_g (lw_at lw_m1 227 rfl) rfl
theorem q337 : (Jvm.Cond.instanceMethod ({ cls := "PatchCords$Part", name := "<init>", desc := "(I)V" } : Jvm.MethodName)) ∈ lw_all := lw_g (lw_at lw_m1 237 rfl) rfl
theorem q338 : (Jvm.Cond.code ({ cls := "PatchCords$Part", name := "<init>", desc := "(I)V" } : Jvm.MethodName) prog_6_method_1_code (3 : Nat) (Option.none : Option Jvm.ClassFile.FieldType)) ∈ lw_all := lw_g (lw_at lw_m1 238 rfl) rfl
theorem q339 : (Jvm.Cond.methodLink "PatchCords$Part" (3 : Nat) ({ cls := "java/lang/Object", name := "<init>", desc := "()V" } : Jvm.MethodName)) ∈ lw_all := lw_g (lw_at lw_m1 239 rfl) rfl
theorem q340 : (Jvm.Cond.fieldLink "PatchCords$Part" (9 : Nat) "PatchCords$Part" "cords" "[I") ∈ lw_all := lw_g (lw_at lw_m2 0 rfl) rfl
theorem q343 : (Jvm.Cond.fieldLink "PatchCords$Part" (27 : Nat) "PatchCords$Part" "peak" "I") ∈ lw_all := lw_g (lw_at lw_m2 3 rfl) rfl
theorem q347 : (Jvm.Cond.soleField "PatchCords$Part" "cords") ∈ lw_all := lw_g (lw_at lw_m2 7 rfl) rfl
theorem q349 : (Jvm.Cond.soleField "PatchCords$Part" "peak") ∈ lw_all := lw_g (lw_at lw_m2 9 rfl) rfl
theorem q606 : (Jvm.Cond.declares ({ cls := "PatchCords$Part", name := "raw", desc := "([I)I" } : Jvm.MethodName)) ∈ lw_tbl := lw_at lw_m3 26 rfl
theorem q607 : (Jvm.Cond.sameMethod "PatchCords$Part" "PatchCords$Part" "raw" "([I)I") ∈ lw_all := lw_g (lw_at lw_m3 27 rfl) rfl
theorem q647 : (Jvm.Cond.instanceMethod ({ cls := "PatchCords$Part", name := "isOverloaded", desc := "([I)Z" } : Jvm.MethodName)) ∈ lw_all := lw_g (lw_at lw_m3 67 rfl) rfl
theorem q648 : (Jvm.Cond.sameMethod "PatchCords$Part" "PatchCords$Part" "isOverloaded" "([I)Z") ∈ lw_all := lw_g (lw_at lw_m3 68 rfl) rfl
theorem q661 : (Jvm.Cond.code ({ cls := "PatchCords$Part", name := "isOverloaded", desc := "([I)Z" } : Jvm.MethodName) prog_6_method_6_code (2 : Nat) (Option.some Jvm.ClassFile.FieldType.boolean)) ∈ lw_all := lw_g (lw_at lw_m3 81 rfl) rfl
theorem q662 : (Jvm.Cond.methodLink "PatchCords$Part" (15 : Nat) ({ cls := "PatchCords$Part", name := "raw", desc := "([I)I" } : Jvm.MethodName)) ∈ lw_all := lw_g (lw_at lw_m3 82 rfl) rfl
theorem q663 : (Jvm.Cond.methodLinkNest "PatchCords$Part" (19 : Nat) ({ cls := "PatchCords", name := "isWithin", desc := "(III)Z" } : Jvm.MethodName) "PatchCords") ∈ lw_tbl := lw_at lw_m3 83 rfl
theorem q679 : (Jvm.Cond.instanceMethod ({ cls := "PatchCords$Part", name := "feeders", desc := "()I" } : Jvm.MethodName)) ∈ lw_all := lw_g (lw_at lw_m3 99 rfl) rfl
theorem q680 : (Jvm.Cond.sameMethod "PatchCords$Part" "PatchCords$Part" "feeders" "()I") ∈ lw_all := lw_g (lw_at lw_m3 100 rfl) rfl
theorem q687 : (Jvm.Cond.code ({ cls := "PatchCords$Part", name := "feeders", desc := "()I" } : Jvm.MethodName) prog_6_method_9_code (3 : Nat) (Option.some Jvm.ClassFile.FieldType.int)) ∈ lw_all := lw_g (lw_at lw_m3 107 rfl) rfl
theorem q1238 : (Jvm.Cond.instanceMethod ({ cls := "PatchCords$Part", name := "isSource", desc := "()Z" } : Jvm.MethodName)) ∈ lw_all := lw_g (lw_at lw_m5 178 rfl) rfl
theorem q1239 : (Jvm.Cond.sameMethod "PatchCords$Part" "PatchCords$Part" "isSource" "()Z") ∈ lw_all := lw_g (lw_at lw_m5 179 rfl) rfl
theorem q1250 : (Jvm.Cond.code ({ cls := "PatchCords$Part", name := "isSource", desc := "()Z" } : Jvm.MethodName) prog_6_method_5_code (1 : Nat) (Option.some Jvm.ClassFile.FieldType.boolean)) ∈ lw_all := lw_g (lw_at lw_m5 190 rfl) rfl
theorem q1262 : (Jvm.Cond.declares ({ cls := "PatchCords$Part", name := "kind", desc := "()I" } : Jvm.MethodName)) ∈ lw_tbl := lw_at lw_m5 202 rfl
theorem q1263 : (Jvm.Cond.sameMethod "PatchCords$Part" "PatchCords$Part" "kind" "()I") ∈ lw_all := lw_g (lw_at lw_m5 203 rfl) rfl
theorem q1283 : (Jvm.Cond.instanceMethod ({ cls := "PatchCords$Part", name := "setting", desc := "()I" } : Jvm.MethodName)) ∈ lw_all := lw_g (lw_at lw_m5 223 rfl) rfl
theorem q1284 : (Jvm.Cond.sameMethod "PatchCords$Part" "PatchCords$Part" "setting" "()I") ∈ lw_all := lw_g (lw_at lw_m5 224 rfl) rfl
theorem q1297 : (Jvm.Cond.code ({ cls := "PatchCords$Part", name := "setting", desc := "()I" } : Jvm.MethodName) prog_6_method_7_code (1 : Nat) (Option.some Jvm.ClassFile.FieldType.int)) ∈ lw_all := lw_g (lw_at lw_m5 237 rfl) rfl
/-! PatchCords$Choice -/
set_option maxRecDepth 100000
def RX6 : String := "PatchCords$Choice"
def TX6 : u_T := fun k => match k with
  | 0 => ("PatchCords$Part", "cords", "[I", true)
  | _ => ("PatchCords$Part", "peak", "I", false)
def tyX6 : Nat → FieldType := fun k => match k with
  | 0 => .array .int
  | _ => .int
abbrev wsX60 : List Cond := u_ws RX6 TX6 2
theorem nmX6 : ∀ a, a < 2 → ∀ b, b < 2 → a ≠ b → (TX6 a).2.1 ≠ (TX6 b).2.1 := by decide +kernel
theorem tyX6_ok : ∀ k, k < 2 → parseFieldDescriptor (TX6 k).2.2.1 = some (tyX6 k) := by decide +kernel
abbrev cX6_bare : ByteArray := prog_2_method_4_code
def yX6_bare : MethodName := ⟨RX6, "bare", "()LPatchCords$Part;"⟩
def dkwX6_bare_0 : List UInt8 := [187, 0, 9, 89, 183, 0, 11, 176]
abbrev dktX6_bare_0 : List UInt8 := dkwX6_bare_0 ++ []
theorem dksX6_bare_0 : cX6_bare.data.toList.drop 0 = dktX6_bare_0 := by decide +kernel
theorem dX6_bare_0 : decode cX6_bare 0 = .ok (.new 9, 3) := dk_187 0 9 (dk_at dksX6_bare_0 0 rfl rfl)
theorem dX6_bare_3 : decode cX6_bare 3 = .ok (.dup, 1) := dk_89 (dk_at dksX6_bare_0 3 rfl rfl)
theorem dX6_bare_4 : decode cX6_bare 4 = .ok (.invokespecial 11, 3) := dk_183 0 11 (dk_at dksX6_bare_0 4 rfl rfl)
theorem dX6_bare_7 : decode cX6_bare 7 = .ok (.areturn, 1) := dk_176 (dk_at dksX6_bare_0 7 rfl rfl)
abbrev cX6_init : ByteArray := prog_2_method_1_code
def yX6_init : MethodName := ⟨RX6, "<init>", "()V"⟩
def dkwX6_init_0 : List UInt8 := [42, 7, 183, 0, 3, 177]
abbrev dktX6_init_0 : List UInt8 := dkwX6_init_0 ++ []
theorem dksX6_init_0 : cX6_init.data.toList.drop 0 = dktX6_init_0 := by decide +kernel
theorem dX6_init_0 : decode cX6_init 0 = .ok (.aload_n 0, 1) := dk_42 (dk_at dksX6_init_0 0 rfl rfl)
theorem dX6_init_1 : decode cX6_init 1 = .ok (.iconst 4, 1) := dk_7 (dk_at dksX6_init_0 1 rfl rfl)
theorem dX6_init_2 : decode cX6_init 2 = .ok (.invokespecial 3, 3) := dk_183 0 3 (dk_at dksX6_init_0 2 rfl rfl)
theorem dX6_init_5 : decode cX6_init 5 = .ok (.return_, 1) := dk_177 (dk_at dksX6_init_0 5 rfl rfl)
abbrev cX6_raw : ByteArray := prog_2_method_3_code
def yX6_raw : MethodName := ⟨RX6, "raw", "([I)I"⟩
def dkwX6_raw_0 : List UInt8 := [43, 3, 46, 43, 4, 46, 161, 0, 9, 43, 5, 46, 167, 0, 6, 43, 6, 46, 172]
abbrev dktX6_raw_0 : List UInt8 := dkwX6_raw_0 ++ []
theorem dksX6_raw_0 : cX6_raw.data.toList.drop 0 = dktX6_raw_0 := by decide +kernel
theorem dX6_raw_0 : decode cX6_raw 0 = .ok (.aload_n 1, 1) := dk_43 (dk_at dksX6_raw_0 0 rfl rfl)
theorem dX6_raw_1 : decode cX6_raw 1 = .ok (.iconst 0, 1) := dk_3 (dk_at dksX6_raw_0 1 rfl rfl)
theorem dX6_raw_2 : decode cX6_raw 2 = .ok (.iaload, 1) := dk_46 (dk_at dksX6_raw_0 2 rfl rfl)
theorem dX6_raw_3 : decode cX6_raw 3 = .ok (.aload_n 1, 1) := dk_43 (dk_at dksX6_raw_0 3 rfl rfl)
theorem dX6_raw_4 : decode cX6_raw 4 = .ok (.iconst 1, 1) := dk_4 (dk_at dksX6_raw_0 4 rfl rfl)
theorem dX6_raw_5 : decode cX6_raw 5 = .ok (.iaload, 1) := dk_46 (dk_at dksX6_raw_0 5 rfl rfl)
theorem dX6_raw_6 : decode cX6_raw 6 = .ok (.if_icmp .lt 9, 3) := dk_161 0 9 (dk_at dksX6_raw_0 6 rfl rfl)
theorem dX6_raw_9 : decode cX6_raw 9 = .ok (.aload_n 1, 1) := dk_43 (dk_at dksX6_raw_0 9 rfl rfl)
theorem dX6_raw_10 : decode cX6_raw 10 = .ok (.iconst 2, 1) := dk_5 (dk_at dksX6_raw_0 10 rfl rfl)
theorem dX6_raw_11 : decode cX6_raw 11 = .ok (.iaload, 1) := dk_46 (dk_at dksX6_raw_0 11 rfl rfl)
theorem dX6_raw_12 : decode cX6_raw 12 = .ok (.goto 6, 3) := dk_167 0 6 (dk_at dksX6_raw_0 12 rfl rfl)
theorem dX6_raw_15 : decode cX6_raw 15 = .ok (.aload_n 1, 1) := dk_43 (dk_at dksX6_raw_0 15 rfl rfl)
theorem dX6_raw_16 : decode cX6_raw 16 = .ok (.iconst 3, 1) := dk_6 (dk_at dksX6_raw_0 16 rfl rfl)
theorem dX6_raw_17 : decode cX6_raw 17 = .ok (.iaload, 1) := dk_46 (dk_at dksX6_raw_0 17 rfl rfl)
theorem dX6_raw_18 : decode cX6_raw 18 = .ok (.ireturn, 1) := dk_172 (dk_at dksX6_raw_0 18 rfl rfl)
abbrev cX6_kind : ByteArray := prog_2_method_2_code
def yX6_kind : MethodName := ⟨RX6, "kind", "()I"⟩
theorem dX6_kind_0 : decode cX6_kind 0 = .ok (.iconst 4, 1) := by decide +kernel
theorem dX6_kind_1 : decode cX6_kind 1 = .ok (.ireturn, 1) := by decide +kernel
theorem q121 : (Jvm.Cond.initialized "PatchCords$Choice") ∈ lw_all := lw_g (lw_at lw_m1 21 rfl) rfl
theorem q318 : (Jvm.Cond.selects "PatchCords$Choice" ({ cls := "PatchCords$Part", name := "copy", desc := "()LPatchCords$Part;" } : Jvm.MethodName) ({ cls := "PatchCords$Part", name := "copy", desc := "()LPatchCords$Part;" } : Jvm.MethodName)) ∈ lw_all := lw_g (lw_at lw_m1 218 rfl) rfl
theorem q328 : (Jvm.Cond.selects "PatchCords$Choice" ({ cls := "PatchCords$Part", name := "bare", desc := "()LPatchCords$Part;" } : Jvm.MethodName) ({ cls := "PatchCords$Choice", name := "bare", desc := "()LPatchCords$Part;" } : Jvm.MethodName)) ∈ lw_all := lw_g (lw_at lw_m1 228 rfl) rfl
theorem q329 : (Jvm.Cond.instanceMethod ({ cls := "PatchCords$Choice", name := "bare", desc := "()LPatchCords$Part;" } : Jvm.MethodName)) ∈ lw_all := lw_g (lw_at lw_m1 229 rfl) rfl
theorem q330 : (Jvm.Cond.code ({ cls := "PatchCords$Choice", name := "bare", desc := "()LPatchCords$Part;" } : Jvm.MethodName) prog_2_method_4_code (1 : Nat) (Option.some (Jvm.ClassFile.FieldType.object "PatchCords$Part"))) ∈ lw_all := lw_g (lw_at lw_m1 230 rfl) rfl
theorem q331 : (Jvm.Cond.classLink "PatchCords$Choice" (9 : Nat) "PatchCords$Choice") ∈ lw_all := lw_g (lw_at lw_m1 231 rfl) rfl
theorem q332 : (Jvm.Cond.instantiable "PatchCords$Choice" (2 : Nat)) ∈ lw_all := lw_g (lw_at lw_m1 232 rfl) rfl
theorem q333 : (Jvm.Cond.methodLink "PatchCords$Choice" (11 : Nat) ({ cls := "PatchCords$Choice", name := "<init>", desc := "()V" } : Jvm.MethodName)) ∈ lw_all := lw_g (lw_at lw_m1 233 rfl) rfl
theorem q334 : (Jvm.Cond.instanceMethod ({ cls := "PatchCords$Choice", name := "<init>", desc := "()V" } : Jvm.MethodName)) ∈ lw_all := lw_g (lw_at lw_m1 234 rfl) rfl
theorem q335 : (Jvm.Cond.code ({ cls := "PatchCords$Choice", name := "<init>", desc := "()V" } : Jvm.MethodName) prog_2_method_1_code (1 : Nat) (Option.none : Option Jvm.ClassFile.FieldType)) ∈ lw_all := lw_g (lw_at lw_m1 235 rfl) rfl
theorem q336 : (Jvm.Cond.methodLink "PatchCords$Choice" (3 : Nat) ({ cls := "PatchCords$Part", name := "<init>", desc := "(I)V" } : Jvm.MethodName)) ∈ lw_all := lw_g (lw_at lw_m1 236 rfl) rfl
theorem q346 : (Jvm.Cond.laysFinal "PatchCords$Choice" "PatchCords$Part" "cords" "[I") ∈ lw_all := lw_g (lw_at lw_m2 6 rfl) rfl
theorem q348 : (Jvm.Cond.lays "PatchCords$Choice" "PatchCords$Part" "peak" "I") ∈ lw_all := lw_g (lw_at lw_m2 8 rfl) rfl
theorem q350 : (Jvm.Cond.superclass "PatchCords$Choice" "PatchCords$Part") ∈ lw_all := lw_g (lw_at lw_m2 10 rfl) rfl
theorem q486 : (Jvm.Cond.selects "PatchCords$Choice" ({ cls := "java/lang/Object", name := "getClass", desc := "()Ljava/lang/Class;" } : Jvm.MethodName) ({ cls := "java/lang/Object", name := "getClass", desc := "()Ljava/lang/Class;" } : Jvm.MethodName)) ∈ lw_all := lw_g (lw_at lw_m2 146 rfl) rfl
theorem q608 : (Jvm.Cond.selects "PatchCords$Choice" ({ cls := "PatchCords$Part", name := "raw", desc := "([I)I" } : Jvm.MethodName) ({ cls := "PatchCords$Choice", name := "raw", desc := "([I)I" } : Jvm.MethodName)) ∈ lw_all := lw_g (lw_at lw_m3 28 rfl) rfl
theorem q609 : (Jvm.Cond.instanceMethod ({ cls := "PatchCords$Choice", name := "raw", desc := "([I)I" } : Jvm.MethodName)) ∈ lw_all := lw_g (lw_at lw_m3 29 rfl) rfl
theorem q610 : (Jvm.Cond.code ({ cls := "PatchCords$Choice", name := "raw", desc := "([I)I" } : Jvm.MethodName) prog_2_method_3_code (2 : Nat) (Option.some Jvm.ClassFile.FieldType.int)) ∈ lw_all := lw_g (lw_at lw_m3 30 rfl) rfl
theorem q649 : (Jvm.Cond.selects "PatchCords$Choice" ({ cls := "PatchCords$Part", name := "isOverloaded", desc := "([I)Z" } : Jvm.MethodName) ({ cls := "PatchCords$Part", name := "isOverloaded", desc := "([I)Z" } : Jvm.MethodName)) ∈ lw_all := lw_g (lw_at lw_m3 69 rfl) rfl
theorem q681 : (Jvm.Cond.selects "PatchCords$Choice" ({ cls := "PatchCords$Part", name := "feeders", desc := "()I" } : Jvm.MethodName) ({ cls := "PatchCords$Part", name := "feeders", desc := "()I" } : Jvm.MethodName)) ∈ lw_all := lw_g (lw_at lw_m3 101 rfl) rfl
theorem q1240 : (Jvm.Cond.selects "PatchCords$Choice" ({ cls := "PatchCords$Part", name := "isSource", desc := "()Z" } : Jvm.MethodName) ({ cls := "PatchCords$Part", name := "isSource", desc := "()Z" } : Jvm.MethodName)) ∈ lw_all := lw_g (lw_at lw_m5 180 rfl) rfl
theorem q1264 : (Jvm.Cond.selects "PatchCords$Choice" ({ cls := "PatchCords$Part", name := "kind", desc := "()I" } : Jvm.MethodName) ({ cls := "PatchCords$Choice", name := "kind", desc := "()I" } : Jvm.MethodName)) ∈ lw_all := lw_g (lw_at lw_m5 204 rfl) rfl
theorem q1265 : (Jvm.Cond.instanceMethod ({ cls := "PatchCords$Choice", name := "kind", desc := "()I" } : Jvm.MethodName)) ∈ lw_all := lw_g (lw_at lw_m5 205 rfl) rfl
theorem q1266 : (Jvm.Cond.code ({ cls := "PatchCords$Choice", name := "kind", desc := "()I" } : Jvm.MethodName) prog_2_method_2_code (1 : Nat) (Option.some Jvm.ClassFile.FieldType.int)) ∈ lw_all := lw_g (lw_at lw_m5 206 rfl) rfl
theorem q1285 : (Jvm.Cond.selects "PatchCords$Choice" ({ cls := "PatchCords$Part", name := "setting", desc := "()I" } : Jvm.MethodName) ({ cls := "PatchCords$Part", name := "setting", desc := "()I" } : Jvm.MethodName)) ∈ lw_all := lw_g (lw_at lw_m5 225 rfl) rfl
theorem q2391 : (Jvm.Cond.castable "PatchCords$Choice" "PatchCords$Part") ∈ lw_tbl := lw_at lw_m10 131 rfl
theorem q2412 : (Jvm.Cond.castable "PatchCords$Choice" "java/lang/Object") ∈ lw_tbl := lw_at lw_m10 152 rfl
theorem in_X6 : ∀ w ∈ wsX60, w ∈ lw_all := lw_in wsX60 [346, 348] (by decide +kernel) (by decide +kernel)
/-! PatchCords$Weighted -/
set_option maxRecDepth 100000
def RX7 : String := "PatchCords$Weighted"
abbrev cX7_copy : ByteArray := prog_15_method_5_code
def yX7_copy : MethodName := ⟨RX7, "copy", "()LPatchCords$Part;"⟩
def dkwX7_copy_0 : List UInt8 := [42, 183, 0, 23, 192, 0, 10, 76, 43, 42, 180, 0, 9, 181, 0, 9, 43, 176]
abbrev dktX7_copy_0 : List UInt8 := dkwX7_copy_0 ++ []
theorem dksX7_copy_0 : cX7_copy.data.toList.drop 0 = dktX7_copy_0 := by decide +kernel
theorem dX7_copy_0 : decode cX7_copy 0 = .ok (.aload_n 0, 1) := dk_42 (dk_at dksX7_copy_0 0 rfl rfl)
theorem dX7_copy_1 : decode cX7_copy 1 = .ok (.invokespecial 23, 3) := dk_183 0 23 (dk_at dksX7_copy_0 1 rfl rfl)
theorem dX7_copy_4 : decode cX7_copy 4 = .ok (.checkcast 10, 3) := dk_192 0 10 (dk_at dksX7_copy_0 4 rfl rfl)
theorem dX7_copy_7 : decode cX7_copy 7 = .ok (.astore_n 1, 1) := dk_76 (dk_at dksX7_copy_0 7 rfl rfl)
theorem dX7_copy_8 : decode cX7_copy 8 = .ok (.aload_n 1, 1) := dk_43 (dk_at dksX7_copy_0 8 rfl rfl)
theorem dX7_copy_9 : decode cX7_copy 9 = .ok (.aload_n 0, 1) := dk_42 (dk_at dksX7_copy_0 9 rfl rfl)
theorem dX7_copy_10 : decode cX7_copy 10 = .ok (.getfield 9, 3) := dk_180 0 9 (dk_at dksX7_copy_0 10 rfl rfl)
theorem dX7_copy_13 : decode cX7_copy 13 = .ok (.putfield 9, 3) := dk_181 0 9 (dk_at dksX7_copy_0 13 rfl rfl)
theorem dX7_copy_16 : decode cX7_copy 16 = .ok (.aload_n 1, 1) := dk_43 (dk_at dksX7_copy_0 16 rfl rfl)
theorem dX7_copy_17 : decode cX7_copy 17 = .ok (.areturn, 1) := dk_176 (dk_at dksX7_copy_0 17 rfl rfl)
abbrev cX7_init : ByteArray := prog_15_method_1_code
def yX7_init : MethodName := ⟨RX7, "<init>", "()V"⟩
def dkwX7_init_0 : List UInt8 := [42, 7, 183, 0, 3, 177]
abbrev dktX7_init_0 : List UInt8 := dkwX7_init_0 ++ []
theorem dksX7_init_0 : cX7_init.data.toList.drop 0 = dktX7_init_0 := by decide +kernel
theorem dX7_init_0 : decode cX7_init 0 = .ok (.aload_n 0, 1) := dk_42 (dk_at dksX7_init_0 0 rfl rfl)
theorem dX7_init_1 : decode cX7_init 1 = .ok (.iconst 4, 1) := dk_7 (dk_at dksX7_init_0 1 rfl rfl)
theorem dX7_init_2 : decode cX7_init 2 = .ok (.invokespecial 3, 3) := dk_183 0 3 (dk_at dksX7_init_0 2 rfl rfl)
theorem dX7_init_5 : decode cX7_init 5 = .ok (.return_, 1) := dk_177 (dk_at dksX7_init_0 5 rfl rfl)
abbrev cX7_turnedSum : ByteArray := prog_15_method_4_code
def yX7_turnedSum : MethodName := ⟨RX7, "turnedSum", "([I)I"⟩
def dkwX7_turnedSum_1 : List UInt8 := [167, 255, 236, 28, 172]
abbrev dktX7_turnedSum_1 : List UInt8 := dkwX7_turnedSum_1 ++ []
def dkwX7_turnedSum_0 : List UInt8 := [3, 61, 3, 62, 29, 7, 162, 0, 21, 28, 42, 29, 182, 0, 19, 43, 29, 46, 104, 100, 61, 132, 3, 1]
abbrev dktX7_turnedSum_0 : List UInt8 := dkwX7_turnedSum_0 ++ dktX7_turnedSum_1
theorem dksX7_turnedSum_0 : cX7_turnedSum.data.toList.drop 0 = dktX7_turnedSum_0 := by decide +kernel
theorem dksX7_turnedSum_1 : cX7_turnedSum.data.toList.drop 24 = dktX7_turnedSum_1 := dk_seg dksX7_turnedSum_0 24 rfl rfl
theorem dX7_turnedSum_0 : decode cX7_turnedSum 0 = .ok (.iconst 0, 1) := dk_3 (dk_at dksX7_turnedSum_0 0 rfl rfl)
theorem dX7_turnedSum_1 : decode cX7_turnedSum 1 = .ok (.istore_n 2, 1) := dk_61 (dk_at dksX7_turnedSum_0 1 rfl rfl)
theorem dX7_turnedSum_2 : decode cX7_turnedSum 2 = .ok (.iconst 0, 1) := dk_3 (dk_at dksX7_turnedSum_0 2 rfl rfl)
theorem dX7_turnedSum_3 : decode cX7_turnedSum 3 = .ok (.istore_n 3, 1) := dk_62 (dk_at dksX7_turnedSum_0 3 rfl rfl)
theorem dX7_turnedSum_4 : decode cX7_turnedSum 4 = .ok (.iload_n 3, 1) := dk_29 (dk_at dksX7_turnedSum_0 4 rfl rfl)
theorem dX7_turnedSum_5 : decode cX7_turnedSum 5 = .ok (.iconst 4, 1) := dk_7 (dk_at dksX7_turnedSum_0 5 rfl rfl)
theorem dX7_turnedSum_6 : decode cX7_turnedSum 6 = .ok (.if_icmp .ge 21, 3) := dk_162 0 21 (dk_at dksX7_turnedSum_0 6 rfl rfl)
theorem dX7_turnedSum_9 : decode cX7_turnedSum 9 = .ok (.iload_n 2, 1) := dk_28 (dk_at dksX7_turnedSum_0 9 rfl rfl)
theorem dX7_turnedSum_10 : decode cX7_turnedSum 10 = .ok (.aload_n 0, 1) := dk_42 (dk_at dksX7_turnedSum_0 10 rfl rfl)
theorem dX7_turnedSum_11 : decode cX7_turnedSum 11 = .ok (.iload_n 3, 1) := dk_29 (dk_at dksX7_turnedSum_0 11 rfl rfl)
theorem dX7_turnedSum_12 : decode cX7_turnedSum 12 = .ok (.invokevirtual 19, 3) := dk_182 0 19 (dk_at dksX7_turnedSum_0 12 rfl rfl)
theorem dX7_turnedSum_15 : decode cX7_turnedSum 15 = .ok (.aload_n 1, 1) := dk_43 (dk_at dksX7_turnedSum_0 15 rfl rfl)
theorem dX7_turnedSum_16 : decode cX7_turnedSum 16 = .ok (.iload_n 3, 1) := dk_29 (dk_at dksX7_turnedSum_0 16 rfl rfl)
theorem dX7_turnedSum_17 : decode cX7_turnedSum 17 = .ok (.iaload, 1) := dk_46 (dk_at dksX7_turnedSum_0 17 rfl rfl)
theorem dX7_turnedSum_18 : decode cX7_turnedSum 18 = .ok (.imul, 1) := dk_104 (dk_at dksX7_turnedSum_0 18 rfl rfl)
theorem dX7_turnedSum_19 : decode cX7_turnedSum 19 = .ok (.isub, 1) := dk_100 (dk_at dksX7_turnedSum_0 19 rfl rfl)
theorem dX7_turnedSum_20 : decode cX7_turnedSum 20 = .ok (.istore_n 2, 1) := dk_61 (dk_at dksX7_turnedSum_0 20 rfl rfl)
theorem dX7_turnedSum_21 : decode cX7_turnedSum 21 = .ok (.iinc 3 1, 3) := dk_132 3 1 (dk_at dksX7_turnedSum_0 21 rfl rfl)
theorem dX7_turnedSum_24 : decode cX7_turnedSum 24 = .ok (.goto (-20), 3) := dk_167 255 236 (dk_at dksX7_turnedSum_1 0 rfl rfl)
theorem dX7_turnedSum_27 : decode cX7_turnedSum 27 = .ok (.iload_n 2, 1) := dk_28 (dk_at dksX7_turnedSum_1 3 rfl rfl)
theorem dX7_turnedSum_28 : decode cX7_turnedSum 28 = .ok (.ireturn, 1) := dk_172 (dk_at dksX7_turnedSum_1 4 rfl rfl)
abbrev cX7_weight : ByteArray := prog_15_method_2_code
def yX7_weight : MethodName := ⟨RX7, "weight", "(I)I"⟩
def dkwX7_weight_0 : List UInt8 := [42, 180, 0, 9, 27, 184, 0, 15, 153, 0, 8, 16, 10, 167, 0, 4, 4, 172]
abbrev dktX7_weight_0 : List UInt8 := dkwX7_weight_0 ++ []
theorem dksX7_weight_0 : cX7_weight.data.toList.drop 0 = dktX7_weight_0 := by decide +kernel
theorem dX7_weight_0 : decode cX7_weight 0 = .ok (.aload_n 0, 1) := dk_42 (dk_at dksX7_weight_0 0 rfl rfl)
theorem dX7_weight_1 : decode cX7_weight 1 = .ok (.getfield 9, 3) := dk_180 0 9 (dk_at dksX7_weight_0 1 rfl rfl)
theorem dX7_weight_4 : decode cX7_weight 4 = .ok (.iload_n 1, 1) := dk_27 (dk_at dksX7_weight_0 4 rfl rfl)
theorem dX7_weight_5 : decode cX7_weight 5 = .ok (.invokestatic 15, 3) := dk_184 0 15 (dk_at dksX7_weight_0 5 rfl rfl)
theorem dX7_weight_8 : decode cX7_weight 8 = .ok (.ifCond .eq 8, 3) := dk_153 0 8 (dk_at dksX7_weight_0 8 rfl rfl)
theorem dX7_weight_11 : decode cX7_weight 11 = .ok (.bipush 10, 2) := dk_16 10 (dk_at dksX7_weight_0 11 rfl rfl)
theorem dX7_weight_13 : decode cX7_weight 13 = .ok (.goto 4, 3) := dk_167 0 4 (dk_at dksX7_weight_0 13 rfl rfl)
theorem dX7_weight_16 : decode cX7_weight 16 = .ok (.iconst 1, 1) := dk_4 (dk_at dksX7_weight_0 16 rfl rfl)
theorem dX7_weight_17 : decode cX7_weight 17 = .ok (.ireturn, 1) := dk_172 (dk_at dksX7_weight_0 17 rfl rfl)
abbrev cX7_turnWeight : ByteArray := prog_15_method_3_code
def yX7_turnWeight : MethodName := ⟨RX7, "turnWeight", "(I)I"⟩
def dkwX7_turnWeight_0 : List UInt8 := [42, 89, 180, 0, 9, 4, 27, 120, 130, 181, 0, 9, 42, 27, 182, 0, 19, 172]
abbrev dktX7_turnWeight_0 : List UInt8 := dkwX7_turnWeight_0 ++ []
theorem dksX7_turnWeight_0 : cX7_turnWeight.data.toList.drop 0 = dktX7_turnWeight_0 := by decide +kernel
theorem dX7_turnWeight_0 : decode cX7_turnWeight 0 = .ok (.aload_n 0, 1) := dk_42 (dk_at dksX7_turnWeight_0 0 rfl rfl)
theorem dX7_turnWeight_1 : decode cX7_turnWeight 1 = .ok (.dup, 1) := dk_89 (dk_at dksX7_turnWeight_0 1 rfl rfl)
theorem dX7_turnWeight_2 : decode cX7_turnWeight 2 = .ok (.getfield 9, 3) := dk_180 0 9 (dk_at dksX7_turnWeight_0 2 rfl rfl)
theorem dX7_turnWeight_5 : decode cX7_turnWeight 5 = .ok (.iconst 1, 1) := dk_4 (dk_at dksX7_turnWeight_0 5 rfl rfl)
theorem dX7_turnWeight_6 : decode cX7_turnWeight 6 = .ok (.iload_n 1, 1) := dk_27 (dk_at dksX7_turnWeight_0 6 rfl rfl)
theorem dX7_turnWeight_7 : decode cX7_turnWeight 7 = .ok (.ishl, 1) := dk_120 (dk_at dksX7_turnWeight_0 7 rfl rfl)
theorem dX7_turnWeight_8 : decode cX7_turnWeight 8 = .ok (.ixor, 1) := dk_130 (dk_at dksX7_turnWeight_0 8 rfl rfl)
theorem dX7_turnWeight_9 : decode cX7_turnWeight 9 = .ok (.putfield 9, 3) := dk_181 0 9 (dk_at dksX7_turnWeight_0 9 rfl rfl)
theorem dX7_turnWeight_12 : decode cX7_turnWeight 12 = .ok (.aload_n 0, 1) := dk_42 (dk_at dksX7_turnWeight_0 12 rfl rfl)
theorem dX7_turnWeight_13 : decode cX7_turnWeight 13 = .ok (.iload_n 1, 1) := dk_27 (dk_at dksX7_turnWeight_0 13 rfl rfl)
theorem dX7_turnWeight_14 : decode cX7_turnWeight 14 = .ok (.invokevirtual 19, 3) := dk_182 0 19 (dk_at dksX7_turnWeight_0 14 rfl rfl)
theorem dX7_turnWeight_17 : decode cX7_turnWeight 17 = .ok (.ireturn, 1) := dk_172 (dk_at dksX7_turnWeight_0 17 rfl rfl)
theorem q122 : (Jvm.Cond.initialized "PatchCords$Weighted") ∈ lw_all := lw_g (lw_at lw_m1 22 rfl) rfl
theorem q320 : (Jvm.Cond.instanceMethod ({ cls := "PatchCords$Weighted", name := "copy", desc := "()LPatchCords$Part;" } : Jvm.MethodName)) ∈ lw_all := lw_g (lw_at lw_m1 220 rfl) rfl
theorem q321 : (Jvm.Cond.code ({ cls := "PatchCords$Weighted", name := "copy", desc := "()LPatchCords$Part;" } : Jvm.MethodName) prog_15_method_5_code (2 : Nat) (Option.some (Jvm.ClassFile.FieldType.object "PatchCords$Part"))) ∈ lw_all := lw_g (lw_at lw_m1 221 rfl) rfl
theorem q322 : (Jvm.Cond.methodLink "PatchCords$Weighted" (23 : Nat) ({ cls := "PatchCords$Part", name := "copy", desc := "()LPatchCords$Part;" } : Jvm.MethodName)) ∈ lw_all := lw_g (lw_at lw_m1 222 rfl) rfl
theorem q323 : (Jvm.Cond.superclass "PatchCords$Weighted" "PatchCords$Part") ∈ lw_all := lw_g (lw_at lw_m1 223 rfl) rfl
theorem q360 : (Jvm.Cond.instanceMethod ({ cls := "PatchCords$Weighted", name := "<init>", desc := "()V" } : Jvm.MethodName)) ∈ lw_all := lw_g (lw_at lw_m2 20 rfl) rfl
theorem q361 : (Jvm.Cond.code ({ cls := "PatchCords$Weighted", name := "<init>", desc := "()V" } : Jvm.MethodName) prog_15_method_1_code (1 : Nat) (Option.none : Option Jvm.ClassFile.FieldType)) ∈ lw_all := lw_g (lw_at lw_m2 21 rfl) rfl
theorem q362 : (Jvm.Cond.methodLink "PatchCords$Weighted" (3 : Nat) ({ cls := "PatchCords$Part", name := "<init>", desc := "(I)V" } : Jvm.MethodName)) ∈ lw_all := lw_g (lw_at lw_m2 22 rfl) rfl
theorem q374 : (Jvm.Cond.fieldLink "PatchCords$Weighted" (9 : Nat) "PatchCords$Weighted" "heavy" "I") ∈ lw_all := lw_g (lw_at lw_m2 34 rfl) rfl
theorem q386 : (Jvm.Cond.soleField "PatchCords$Weighted" "heavy") ∈ lw_all := lw_g (lw_at lw_m2 46 rfl) rfl
theorem q448 : (Jvm.Cond.classLink "PatchCords$Weighted" (10 : Nat) "PatchCords$Weighted") ∈ lw_all := lw_g (lw_at lw_m2 108 rfl) rfl
theorem q628 : (Jvm.Cond.declares ({ cls := "PatchCords$Weighted", name := "turnedSum", desc := "([I)I" } : Jvm.MethodName)) ∈ lw_tbl := lw_at lw_m3 48 rfl
theorem q630 : (Jvm.Cond.instanceMethod ({ cls := "PatchCords$Weighted", name := "turnedSum", desc := "([I)I" } : Jvm.MethodName)) ∈ lw_all := lw_g (lw_at lw_m3 50 rfl) rfl
theorem q631 : (Jvm.Cond.code ({ cls := "PatchCords$Weighted", name := "turnedSum", desc := "([I)I" } : Jvm.MethodName) prog_15_method_4_code (4 : Nat) (Option.some Jvm.ClassFile.FieldType.int)) ∈ lw_all := lw_g (lw_at lw_m3 51 rfl) rfl
theorem q632 : (Jvm.Cond.methodLink "PatchCords$Weighted" (19 : Nat) ({ cls := "PatchCords$Weighted", name := "weight", desc := "(I)I" } : Jvm.MethodName)) ∈ lw_all := lw_g (lw_at lw_m3 52 rfl) rfl
theorem q633 : (Jvm.Cond.instanceMethod ({ cls := "PatchCords$Weighted", name := "weight", desc := "(I)I" } : Jvm.MethodName)) ∈ lw_all := lw_g (lw_at lw_m3 53 rfl) rfl
theorem q634 : (Jvm.Cond.sameMethod "PatchCords$Weighted" "PatchCords$Weighted" "weight" "(I)I") ∈ lw_all := lw_g (lw_at lw_m3 54 rfl) rfl
theorem q637 : (Jvm.Cond.code ({ cls := "PatchCords$Weighted", name := "weight", desc := "(I)I" } : Jvm.MethodName) prog_15_method_2_code (2 : Nat) (Option.some Jvm.ClassFile.FieldType.int)) ∈ lw_all := lw_g (lw_at lw_m3 57 rfl) rfl
theorem q638 : (Jvm.Cond.methodLinkNest "PatchCords$Weighted" (15 : Nat) ({ cls := "PatchCords", name := "has", desc := "(II)Z" } : Jvm.MethodName) "PatchCords") ∈ lw_tbl := lw_at lw_m3 58 rfl
theorem q1435 : (Jvm.Cond.instanceMethod ({ cls := "PatchCords$Weighted", name := "turnWeight", desc := "(I)I" } : Jvm.MethodName)) ∈ lw_all := lw_g (lw_at lw_m6 135 rfl) rfl
theorem q1436 : (Jvm.Cond.sameMethod "PatchCords$Weighted" "PatchCords$Weighted" "turnWeight" "(I)I") ∈ lw_all := lw_g (lw_at lw_m6 136 rfl) rfl
theorem q1439 : (Jvm.Cond.code ({ cls := "PatchCords$Weighted", name := "turnWeight", desc := "(I)I" } : Jvm.MethodName) prog_15_method_3_code (2 : Nat) (Option.some Jvm.ClassFile.FieldType.int)) ∈ lw_all := lw_g (lw_at lw_m6 139 rfl) rfl
/-! PatchCords$Integrator -/
set_option maxRecDepth 100000
def RX8 : String := "PatchCords$Integrator"
def TX8 : u_T := fun k => match k with
  | 0 => ("PatchCords$Part", "cords", "[I", true)
  | 1 => ("PatchCords$Part", "peak", "I", false)
  | 2 => ("PatchCords$Weighted", "heavy", "I", false)
  | 3 => ("PatchCords$Integrator", "initial", "I", false)
  | 4 => ("PatchCords$Integrator", "speed", "I", false)
  | 5 => ("PatchCords$Integrator", "charge", "I", false)
  | 6 => ("PatchCords$Integrator", "before", "I", false)
  | _ => ("PatchCords$Integrator", "rate", "I", false)
def tyX8 : Nat → FieldType := fun k => match k with
  | 0 => .array .int
  | 1 => .int
  | 2 => .int
  | 3 => .int
  | 4 => .int
  | 5 => .int
  | 6 => .int
  | _ => .int
abbrev wsX80 : List Cond := u_ws RX8 TX8 8
theorem nmX8 : ∀ a, a < 8 → ∀ b, b < 8 → a ≠ b → (TX8 a).2.1 ≠ (TX8 b).2.1 := by decide +kernel
theorem tyX8_ok : ∀ k, k < 8 → parseFieldDescriptor (TX8 k).2.2.1 = some (tyX8 k) := by decide +kernel
abbrev cX8_bare : ByteArray := prog_3_method_7_code
def yX8_bare : MethodName := ⟨RX8, "bare", "()LPatchCords$Part;"⟩
def dkwX8_bare_1 : List UInt8 := [43, 42, 180, 0, 15, 181, 0, 15, 43, 176]
abbrev dktX8_bare_1 : List UInt8 := dkwX8_bare_1 ++ []
def dkwX8_bare_0 : List UInt8 := [187, 0, 10, 89, 183, 0, 28, 76, 43, 42, 180, 0, 25, 181, 0, 25, 43, 42, 180, 0, 9, 181, 0, 9]
abbrev dktX8_bare_0 : List UInt8 := dkwX8_bare_0 ++ dktX8_bare_1
theorem dksX8_bare_0 : cX8_bare.data.toList.drop 0 = dktX8_bare_0 := by decide +kernel
theorem dksX8_bare_1 : cX8_bare.data.toList.drop 24 = dktX8_bare_1 := dk_seg dksX8_bare_0 24 rfl rfl
theorem dX8_bare_0 : decode cX8_bare 0 = .ok (.new 10, 3) := dk_187 0 10 (dk_at dksX8_bare_0 0 rfl rfl)
theorem dX8_bare_3 : decode cX8_bare 3 = .ok (.dup, 1) := dk_89 (dk_at dksX8_bare_0 3 rfl rfl)
theorem dX8_bare_4 : decode cX8_bare 4 = .ok (.invokespecial 28, 3) := dk_183 0 28 (dk_at dksX8_bare_0 4 rfl rfl)
theorem dX8_bare_7 : decode cX8_bare 7 = .ok (.astore_n 1, 1) := dk_76 (dk_at dksX8_bare_0 7 rfl rfl)
theorem dX8_bare_8 : decode cX8_bare 8 = .ok (.aload_n 1, 1) := dk_43 (dk_at dksX8_bare_0 8 rfl rfl)
theorem dX8_bare_9 : decode cX8_bare 9 = .ok (.aload_n 0, 1) := dk_42 (dk_at dksX8_bare_0 9 rfl rfl)
theorem dX8_bare_10 : decode cX8_bare 10 = .ok (.getfield 25, 3) := dk_180 0 25 (dk_at dksX8_bare_0 10 rfl rfl)
theorem dX8_bare_13 : decode cX8_bare 13 = .ok (.putfield 25, 3) := dk_181 0 25 (dk_at dksX8_bare_0 13 rfl rfl)
theorem dX8_bare_16 : decode cX8_bare 16 = .ok (.aload_n 1, 1) := dk_43 (dk_at dksX8_bare_0 16 rfl rfl)
theorem dX8_bare_17 : decode cX8_bare 17 = .ok (.aload_n 0, 1) := dk_42 (dk_at dksX8_bare_0 17 rfl rfl)
theorem dX8_bare_18 : decode cX8_bare 18 = .ok (.getfield 9, 3) := dk_180 0 9 (dk_at dksX8_bare_0 18 rfl rfl)
theorem dX8_bare_21 : decode cX8_bare 21 = .ok (.putfield 9, 3) := dk_181 0 9 (dk_at dksX8_bare_0 21 rfl rfl)
theorem dX8_bare_24 : decode cX8_bare 24 = .ok (.aload_n 1, 1) := dk_43 (dk_at dksX8_bare_1 0 rfl rfl)
theorem dX8_bare_25 : decode cX8_bare 25 = .ok (.aload_n 0, 1) := dk_42 (dk_at dksX8_bare_1 1 rfl rfl)
theorem dX8_bare_26 : decode cX8_bare 26 = .ok (.getfield 15, 3) := dk_180 0 15 (dk_at dksX8_bare_1 2 rfl rfl)
theorem dX8_bare_29 : decode cX8_bare 29 = .ok (.putfield 15, 3) := dk_181 0 15 (dk_at dksX8_bare_1 5 rfl rfl)
theorem dX8_bare_32 : decode cX8_bare 32 = .ok (.aload_n 1, 1) := dk_43 (dk_at dksX8_bare_1 8 rfl rfl)
theorem dX8_bare_33 : decode cX8_bare 33 = .ok (.areturn, 1) := dk_176 (dk_at dksX8_bare_1 9 rfl rfl)
abbrev cX8_init : ByteArray := prog_3_method_1_code
def yX8_init : MethodName := ⟨RX8, "<init>", "()V"⟩
def dkwX8_init_0 : List UInt8 := [42, 183, 0, 3, 42, 16, 100, 181, 0, 9, 177]
abbrev dktX8_init_0 : List UInt8 := dkwX8_init_0 ++ []
theorem dksX8_init_0 : cX8_init.data.toList.drop 0 = dktX8_init_0 := by decide +kernel
theorem dX8_init_0 : decode cX8_init 0 = .ok (.aload_n 0, 1) := dk_42 (dk_at dksX8_init_0 0 rfl rfl)
theorem dX8_init_1 : decode cX8_init 1 = .ok (.invokespecial 3, 3) := dk_183 0 3 (dk_at dksX8_init_0 1 rfl rfl)
theorem dX8_init_4 : decode cX8_init 4 = .ok (.aload_n 0, 1) := dk_42 (dk_at dksX8_init_0 4 rfl rfl)
theorem dX8_init_5 : decode cX8_init 5 = .ok (.bipush 100, 2) := dk_16 100 (dk_at dksX8_init_0 5 rfl rfl)
theorem dX8_init_7 : decode cX8_init 7 = .ok (.putfield 9, 3) := dk_181 0 9 (dk_at dksX8_init_0 7 rfl rfl)
theorem dX8_init_10 : decode cX8_init 10 = .ok (.return_, 1) := dk_177 (dk_at dksX8_init_0 10 rfl rfl)
abbrev cX8_raw : ByteArray := prog_3_method_3_code
def yX8_raw : MethodName := ⟨RX8, "raw", "([I)I"⟩
def dkwX8_raw_0 : List UInt8 := [42, 180, 0, 15, 17, 3, 232, 108, 172]
abbrev dktX8_raw_0 : List UInt8 := dkwX8_raw_0 ++ []
theorem dksX8_raw_0 : cX8_raw.data.toList.drop 0 = dktX8_raw_0 := by decide +kernel
theorem dX8_raw_0 : decode cX8_raw 0 = .ok (.aload_n 0, 1) := dk_42 (dk_at dksX8_raw_0 0 rfl rfl)
theorem dX8_raw_1 : decode cX8_raw 1 = .ok (.getfield 15, 3) := dk_180 0 15 (dk_at dksX8_raw_0 1 rfl rfl)
theorem dX8_raw_4 : decode cX8_raw 4 = .ok (.sipush 1000, 3) := dk_17 3 232 (dk_at dksX8_raw_0 4 rfl rfl)
theorem dX8_raw_7 : decode cX8_raw 7 = .ok (.idiv, 1) := dk_108 (dk_at dksX8_raw_0 7 rfl rfl)
theorem dX8_raw_8 : decode cX8_raw 8 = .ok (.ireturn, 1) := dk_172 (dk_at dksX8_raw_0 8 rfl rfl)
abbrev cX8_isOverloaded : ByteArray := prog_3_method_5_code
def yX8_isOverloaded : MethodName := ⟨RX8, "isOverloaded", "([I)Z"⟩
def dkwX8_isOverloaded_0 : List UInt8 := [42, 180, 0, 15, 184, 0, 18, 18, 24, 160, 0, 7, 4, 167, 0, 4, 3, 172]
abbrev dktX8_isOverloaded_0 : List UInt8 := dkwX8_isOverloaded_0 ++ []
theorem dksX8_isOverloaded_0 : cX8_isOverloaded.data.toList.drop 0 = dktX8_isOverloaded_0 := by decide +kernel
theorem dX8_isOverloaded_0 : decode cX8_isOverloaded 0 = .ok (.aload_n 0, 1) := dk_42 (dk_at dksX8_isOverloaded_0 0 rfl rfl)
theorem dX8_isOverloaded_1 : decode cX8_isOverloaded 1 = .ok (.getfield 15, 3) := dk_180 0 15 (dk_at dksX8_isOverloaded_0 1 rfl rfl)
theorem dX8_isOverloaded_4 : decode cX8_isOverloaded 4 = .ok (.invokestatic 18, 3) := dk_184 0 18 (dk_at dksX8_isOverloaded_0 4 rfl rfl)
theorem dX8_isOverloaded_7 : decode cX8_isOverloaded 7 = .ok (.ldc 24, 2) := dk_18 24 (dk_at dksX8_isOverloaded_0 7 rfl rfl)
theorem dX8_isOverloaded_9 : decode cX8_isOverloaded 9 = .ok (.if_icmp .ne 7, 3) := dk_160 0 7 (dk_at dksX8_isOverloaded_0 9 rfl rfl)
theorem dX8_isOverloaded_12 : decode cX8_isOverloaded 12 = .ok (.iconst 1, 1) := dk_4 (dk_at dksX8_isOverloaded_0 12 rfl rfl)
theorem dX8_isOverloaded_13 : decode cX8_isOverloaded 13 = .ok (.goto 4, 3) := dk_167 0 4 (dk_at dksX8_isOverloaded_0 13 rfl rfl)
theorem dX8_isOverloaded_16 : decode cX8_isOverloaded 16 = .ok (.iconst 0, 1) := dk_3 (dk_at dksX8_isOverloaded_0 16 rfl rfl)
theorem dX8_isOverloaded_17 : decode cX8_isOverloaded 17 = .ok (.ireturn, 1) := dk_172 (dk_at dksX8_isOverloaded_0 17 rfl rfl)
abbrev cX8_tellRate : ByteArray := prog_3_method_10_code
def yX8_tellRate : MethodName := ⟨RX8, "tellRate", "([I)V"⟩
def dkwX8_tellRate_0 : List UInt8 := [42, 42, 43, 182, 0, 33, 181, 0, 36, 177]
abbrev dktX8_tellRate_0 : List UInt8 := dkwX8_tellRate_0 ++ []
theorem dksX8_tellRate_0 : cX8_tellRate.data.toList.drop 0 = dktX8_tellRate_0 := by decide +kernel
theorem dX8_tellRate_0 : decode cX8_tellRate 0 = .ok (.aload_n 0, 1) := dk_42 (dk_at dksX8_tellRate_0 0 rfl rfl)
theorem dX8_tellRate_1 : decode cX8_tellRate 1 = .ok (.aload_n 0, 1) := dk_42 (dk_at dksX8_tellRate_0 1 rfl rfl)
theorem dX8_tellRate_2 : decode cX8_tellRate 2 = .ok (.aload_n 1, 1) := dk_43 (dk_at dksX8_tellRate_0 2 rfl rfl)
theorem dX8_tellRate_3 : decode cX8_tellRate 3 = .ok (.invokevirtual 33, 3) := dk_182 0 33 (dk_at dksX8_tellRate_0 3 rfl rfl)
theorem dX8_tellRate_6 : decode cX8_tellRate 6 = .ok (.putfield 36, 3) := dk_181 0 36 (dk_at dksX8_tellRate_0 6 rfl rfl)
theorem dX8_tellRate_9 : decode cX8_tellRate 9 = .ok (.return_, 1) := dk_177 (dk_at dksX8_tellRate_0 9 rfl rfl)
abbrev cX8_rate : ByteArray := prog_3_method_9_code
def yX8_rate : MethodName := ⟨RX8, "rate", "([I)I"⟩
def dkwX8_rate_0 : List UInt8 := [42, 43, 182, 0, 29, 17, 3, 232, 104, 42, 180, 0, 9, 108, 172]
abbrev dktX8_rate_0 : List UInt8 := dkwX8_rate_0 ++ []
theorem dksX8_rate_0 : cX8_rate.data.toList.drop 0 = dktX8_rate_0 := by decide +kernel
theorem dX8_rate_0 : decode cX8_rate 0 = .ok (.aload_n 0, 1) := dk_42 (dk_at dksX8_rate_0 0 rfl rfl)
theorem dX8_rate_1 : decode cX8_rate 1 = .ok (.aload_n 1, 1) := dk_43 (dk_at dksX8_rate_0 1 rfl rfl)
theorem dX8_rate_2 : decode cX8_rate 2 = .ok (.invokevirtual 29, 3) := dk_182 0 29 (dk_at dksX8_rate_0 2 rfl rfl)
theorem dX8_rate_5 : decode cX8_rate 5 = .ok (.sipush 1000, 3) := dk_17 3 232 (dk_at dksX8_rate_0 5 rfl rfl)
theorem dX8_rate_8 : decode cX8_rate 8 = .ok (.imul, 1) := dk_104 (dk_at dksX8_rate_0 8 rfl rfl)
theorem dX8_rate_9 : decode cX8_rate 9 = .ok (.aload_n 0, 1) := dk_42 (dk_at dksX8_rate_0 9 rfl rfl)
theorem dX8_rate_10 : decode cX8_rate 10 = .ok (.getfield 9, 3) := dk_180 0 9 (dk_at dksX8_rate_0 10 rfl rfl)
theorem dX8_rate_13 : decode cX8_rate 13 = .ok (.idiv, 1) := dk_108 (dk_at dksX8_rate_0 13 rfl rfl)
theorem dX8_rate_14 : decode cX8_rate 14 = .ok (.ireturn, 1) := dk_172 (dk_at dksX8_rate_0 14 rfl rfl)
abbrev cX8_move : ByteArray := prog_3_method_11_code
def yX8_move : MethodName := ⟨RX8, "move", "(I)V"⟩
def dkwX8_move_0 : List UInt8 := [42, 42, 180, 0, 38, 27, 96, 18, 24, 184, 0, 41, 181, 0, 15, 177]
abbrev dktX8_move_0 : List UInt8 := dkwX8_move_0 ++ []
theorem dksX8_move_0 : cX8_move.data.toList.drop 0 = dktX8_move_0 := by decide +kernel
theorem dX8_move_0 : decode cX8_move 0 = .ok (.aload_n 0, 1) := dk_42 (dk_at dksX8_move_0 0 rfl rfl)
theorem dX8_move_1 : decode cX8_move 1 = .ok (.aload_n 0, 1) := dk_42 (dk_at dksX8_move_0 1 rfl rfl)
theorem dX8_move_2 : decode cX8_move 2 = .ok (.getfield 38, 3) := dk_180 0 38 (dk_at dksX8_move_0 2 rfl rfl)
theorem dX8_move_5 : decode cX8_move 5 = .ok (.iload_n 1, 1) := dk_27 (dk_at dksX8_move_0 5 rfl rfl)
theorem dX8_move_6 : decode cX8_move 6 = .ok (.iadd, 1) := dk_96 (dk_at dksX8_move_0 6 rfl rfl)
theorem dX8_move_7 : decode cX8_move 7 = .ok (.ldc 24, 2) := dk_18 24 (dk_at dksX8_move_0 7 rfl rfl)
theorem dX8_move_9 : decode cX8_move 9 = .ok (.invokestatic 41, 3) := dk_184 0 41 (dk_at dksX8_move_0 9 rfl rfl)
theorem dX8_move_12 : decode cX8_move 12 = .ok (.putfield 15, 3) := dk_181 0 15 (dk_at dksX8_move_0 12 rfl rfl)
theorem dX8_move_15 : decode cX8_move 15 = .ok (.return_, 1) := dk_177 (dk_at dksX8_move_0 15 rfl rfl)
abbrev cX8_isSource : ByteArray := prog_3_method_4_code
def yX8_isSource : MethodName := ⟨RX8, "isSource", "()Z"⟩
theorem dX8_isSource_0 : decode cX8_isSource 0 = .ok (.iconst 1, 1) := by decide +kernel
theorem dX8_isSource_1 : decode cX8_isSource 1 = .ok (.ireturn, 1) := by decide +kernel
abbrev cX8_kind : ByteArray := prog_3_method_2_code
def yX8_kind : MethodName := ⟨RX8, "kind", "()I"⟩
theorem dX8_kind_0 : decode cX8_kind 0 = .ok (.iconst 1, 1) := by decide +kernel
theorem dX8_kind_1 : decode cX8_kind 1 = .ok (.ireturn, 1) := by decide +kernel
abbrev cX8_setting : ByteArray := prog_3_method_6_code
def yX8_setting : MethodName := ⟨RX8, "setting", "()I"⟩
theorem dX8_setting_0 : decode cX8_setting 0 = .ok (.aload_n 0, 1) := by decide +kernel
theorem dX8_setting_1 : decode cX8_setting 1 = .ok (.getfield 25, 3) := by decide +kernel
theorem dX8_setting_4 : decode cX8_setting 4 = .ok (.ireturn, 1) := by decide +kernel
abbrev cX8_reset : ByteArray := prog_3_method_8_code
def yX8_reset : MethodName := ⟨RX8, "reset", "()V"⟩
def dkwX8_reset_0 : List UInt8 := [42, 17, 3, 232, 42, 180, 0, 25, 104, 181, 0, 15, 177]
abbrev dktX8_reset_0 : List UInt8 := dkwX8_reset_0 ++ []
theorem dksX8_reset_0 : cX8_reset.data.toList.drop 0 = dktX8_reset_0 := by decide +kernel
theorem dX8_reset_0 : decode cX8_reset 0 = .ok (.aload_n 0, 1) := dk_42 (dk_at dksX8_reset_0 0 rfl rfl)
theorem dX8_reset_1 : decode cX8_reset 1 = .ok (.sipush 1000, 3) := dk_17 3 232 (dk_at dksX8_reset_0 1 rfl rfl)
theorem dX8_reset_4 : decode cX8_reset 4 = .ok (.aload_n 0, 1) := dk_42 (dk_at dksX8_reset_0 4 rfl rfl)
theorem dX8_reset_5 : decode cX8_reset 5 = .ok (.getfield 25, 3) := dk_180 0 25 (dk_at dksX8_reset_0 5 rfl rfl)
theorem dX8_reset_8 : decode cX8_reset 8 = .ok (.imul, 1) := dk_104 (dk_at dksX8_reset_0 8 rfl rfl)
theorem dX8_reset_9 : decode cX8_reset 9 = .ok (.putfield 15, 3) := dk_181 0 15 (dk_at dksX8_reset_0 9 rfl rfl)
theorem dX8_reset_12 : decode cX8_reset 12 = .ok (.return_, 1) := dk_177 (dk_at dksX8_reset_0 12 rfl rfl)
theorem q123 : (Jvm.Cond.initialized "PatchCords$Integrator") ∈ lw_all := lw_g (lw_at lw_m1 23 rfl) rfl
theorem q319 : (Jvm.Cond.selects "PatchCords$Integrator" ({ cls := "PatchCords$Part", name := "copy", desc := "()LPatchCords$Part;" } : Jvm.MethodName) ({ cls := "PatchCords$Weighted", name := "copy", desc := "()LPatchCords$Part;" } : Jvm.MethodName)) ∈ lw_all := lw_g (lw_at lw_m1 219 rfl) rfl
theorem q351 : (Jvm.Cond.selects "PatchCords$Integrator" ({ cls := "PatchCords$Part", name := "bare", desc := "()LPatchCords$Part;" } : Jvm.MethodName) ({ cls := "PatchCords$Integrator", name := "bare", desc := "()LPatchCords$Part;" } : Jvm.MethodName)) ∈ lw_all := lw_g (lw_at lw_m2 11 rfl) rfl
theorem q352 : (Jvm.Cond.instanceMethod ({ cls := "PatchCords$Integrator", name := "bare", desc := "()LPatchCords$Part;" } : Jvm.MethodName)) ∈ lw_all := lw_g (lw_at lw_m2 12 rfl) rfl
theorem q353 : (Jvm.Cond.code ({ cls := "PatchCords$Integrator", name := "bare", desc := "()LPatchCords$Part;" } : Jvm.MethodName) prog_3_method_7_code (2 : Nat) (Option.some (Jvm.ClassFile.FieldType.object "PatchCords$Part"))) ∈ lw_all := lw_g (lw_at lw_m2 13 rfl) rfl
theorem q354 : (Jvm.Cond.classLink "PatchCords$Integrator" (10 : Nat) "PatchCords$Integrator") ∈ lw_all := lw_g (lw_at lw_m2 14 rfl) rfl
theorem q355 : (Jvm.Cond.instantiable "PatchCords$Integrator" (8 : Nat)) ∈ lw_all := lw_g (lw_at lw_m2 15 rfl) rfl
theorem q356 : (Jvm.Cond.methodLink "PatchCords$Integrator" (28 : Nat) ({ cls := "PatchCords$Integrator", name := "<init>", desc := "()V" } : Jvm.MethodName)) ∈ lw_all := lw_g (lw_at lw_m2 16 rfl) rfl
theorem q357 : (Jvm.Cond.instanceMethod ({ cls := "PatchCords$Integrator", name := "<init>", desc := "()V" } : Jvm.MethodName)) ∈ lw_all := lw_g (lw_at lw_m2 17 rfl) rfl
theorem q358 : (Jvm.Cond.code ({ cls := "PatchCords$Integrator", name := "<init>", desc := "()V" } : Jvm.MethodName) prog_3_method_1_code (1 : Nat) (Option.none : Option Jvm.ClassFile.FieldType)) ∈ lw_all := lw_g (lw_at lw_m2 18 rfl) rfl
theorem q359 : (Jvm.Cond.methodLink "PatchCords$Integrator" (3 : Nat) ({ cls := "PatchCords$Weighted", name := "<init>", desc := "()V" } : Jvm.MethodName)) ∈ lw_all := lw_g (lw_at lw_m2 19 rfl) rfl
theorem q363 : (Jvm.Cond.fieldLink "PatchCords$Integrator" (25 : Nat) "PatchCords$Integrator" "initial" "I") ∈ lw_all := lw_g (lw_at lw_m2 23 rfl) rfl
theorem q365 : (Jvm.Cond.fieldLink "PatchCords$Integrator" (9 : Nat) "PatchCords$Integrator" "speed" "I") ∈ lw_all := lw_g (lw_at lw_m2 25 rfl) rfl
theorem q367 : (Jvm.Cond.fieldLink "PatchCords$Integrator" (15 : Nat) "PatchCords$Integrator" "charge" "I") ∈ lw_all := lw_g (lw_at lw_m2 27 rfl) rfl
theorem q370 : (Jvm.Cond.fieldLink "PatchCords$Integrator" (38 : Nat) "PatchCords$Integrator" "before" "I") ∈ lw_all := lw_g (lw_at lw_m2 30 rfl) rfl
theorem q372 : (Jvm.Cond.fieldLink "PatchCords$Integrator" (36 : Nat) "PatchCords$Integrator" "rate" "I") ∈ lw_all := lw_g (lw_at lw_m2 32 rfl) rfl
theorem q375 : (Jvm.Cond.lays "PatchCords$Integrator" "PatchCords$Integrator" "initial" "I") ∈ lw_all := lw_g (lw_at lw_m2 35 rfl) rfl
theorem q376 : (Jvm.Cond.soleField "PatchCords$Integrator" "initial") ∈ lw_all := lw_g (lw_at lw_m2 36 rfl) rfl
theorem q377 : (Jvm.Cond.lays "PatchCords$Integrator" "PatchCords$Integrator" "speed" "I") ∈ lw_all := lw_g (lw_at lw_m2 37 rfl) rfl
theorem q378 : (Jvm.Cond.soleField "PatchCords$Integrator" "speed") ∈ lw_all := lw_g (lw_at lw_m2 38 rfl) rfl
theorem q379 : (Jvm.Cond.lays "PatchCords$Integrator" "PatchCords$Integrator" "charge" "I") ∈ lw_all := lw_g (lw_at lw_m2 39 rfl) rfl
theorem q380 : (Jvm.Cond.soleField "PatchCords$Integrator" "charge") ∈ lw_all := lw_g (lw_at lw_m2 40 rfl) rfl
theorem q381 : (Jvm.Cond.lays "PatchCords$Integrator" "PatchCords$Integrator" "before" "I") ∈ lw_all := lw_g (lw_at lw_m2 41 rfl) rfl
theorem q382 : (Jvm.Cond.soleField "PatchCords$Integrator" "before") ∈ lw_all := lw_g (lw_at lw_m2 42 rfl) rfl
theorem q383 : (Jvm.Cond.lays "PatchCords$Integrator" "PatchCords$Integrator" "rate" "I") ∈ lw_all := lw_g (lw_at lw_m2 43 rfl) rfl
theorem q384 : (Jvm.Cond.soleField "PatchCords$Integrator" "rate") ∈ lw_all := lw_g (lw_at lw_m2 44 rfl) rfl
theorem q385 : (Jvm.Cond.lays "PatchCords$Integrator" "PatchCords$Weighted" "heavy" "I") ∈ lw_all := lw_g (lw_at lw_m2 45 rfl) rfl
theorem q387 : (Jvm.Cond.laysFinal "PatchCords$Integrator" "PatchCords$Part" "cords" "[I") ∈ lw_all := lw_g (lw_at lw_m2 47 rfl) rfl
theorem q388 : (Jvm.Cond.lays "PatchCords$Integrator" "PatchCords$Part" "peak" "I") ∈ lw_all := lw_g (lw_at lw_m2 48 rfl) rfl
theorem q389 : (Jvm.Cond.superclass "PatchCords$Integrator" "PatchCords$Weighted") ∈ lw_all := lw_g (lw_at lw_m2 49 rfl) rfl
theorem q487 : (Jvm.Cond.selects "PatchCords$Integrator" ({ cls := "java/lang/Object", name := "getClass", desc := "()Ljava/lang/Class;" } : Jvm.MethodName) ({ cls := "java/lang/Object", name := "getClass", desc := "()Ljava/lang/Class;" } : Jvm.MethodName)) ∈ lw_all := lw_g (lw_at lw_m2 147 rfl) rfl
theorem q611 : (Jvm.Cond.selects "PatchCords$Integrator" ({ cls := "PatchCords$Part", name := "raw", desc := "([I)I" } : Jvm.MethodName) ({ cls := "PatchCords$Integrator", name := "raw", desc := "([I)I" } : Jvm.MethodName)) ∈ lw_all := lw_g (lw_at lw_m3 31 rfl) rfl
theorem q612 : (Jvm.Cond.instanceMethod ({ cls := "PatchCords$Integrator", name := "raw", desc := "([I)I" } : Jvm.MethodName)) ∈ lw_all := lw_g (lw_at lw_m3 32 rfl) rfl
theorem q613 : (Jvm.Cond.code ({ cls := "PatchCords$Integrator", name := "raw", desc := "([I)I" } : Jvm.MethodName) prog_3_method_3_code (2 : Nat) (Option.some Jvm.ClassFile.FieldType.int)) ∈ lw_all := lw_g (lw_at lw_m3 33 rfl) rfl
theorem q635 : (Jvm.Cond.selects "PatchCords$Integrator" ({ cls := "PatchCords$Weighted", name := "weight", desc := "(I)I" } : Jvm.MethodName) ({ cls := "PatchCords$Weighted", name := "weight", desc := "(I)I" } : Jvm.MethodName)) ∈ lw_all := lw_g (lw_at lw_m3 55 rfl) rfl
theorem q650 : (Jvm.Cond.selects "PatchCords$Integrator" ({ cls := "PatchCords$Part", name := "isOverloaded", desc := "([I)Z" } : Jvm.MethodName) ({ cls := "PatchCords$Integrator", name := "isOverloaded", desc := "([I)Z" } : Jvm.MethodName)) ∈ lw_all := lw_g (lw_at lw_m3 70 rfl) rfl
theorem q651 : (Jvm.Cond.instanceMethod ({ cls := "PatchCords$Integrator", name := "isOverloaded", desc := "([I)Z" } : Jvm.MethodName)) ∈ lw_all := lw_g (lw_at lw_m3 71 rfl) rfl
theorem q652 : (Jvm.Cond.code ({ cls := "PatchCords$Integrator", name := "isOverloaded", desc := "([I)Z" } : Jvm.MethodName) prog_3_method_5_code (2 : Nat) (Option.some Jvm.ClassFile.FieldType.boolean)) ∈ lw_all := lw_g (lw_at lw_m3 72 rfl) rfl
theorem q653 : (Jvm.Cond.methodLink "PatchCords$Integrator" (18 : Nat) ({ cls := "java/lang/Math", name := "abs", desc := "(I)I" } : Jvm.MethodName)) ∈ lw_all := lw_g (lw_at lw_m3 73 rfl) rfl
theorem q656 : (Jvm.Cond.constant "PatchCords$Integrator" (24 : Nat) (10000000 : Int32)) ∈ lw_all := lw_g (lw_at lw_m3 76 rfl) rfl
theorem q682 : (Jvm.Cond.selects "PatchCords$Integrator" ({ cls := "PatchCords$Part", name := "feeders", desc := "()I" } : Jvm.MethodName) ({ cls := "PatchCords$Part", name := "feeders", desc := "()I" } : Jvm.MethodName)) ∈ lw_all := lw_g (lw_at lw_m3 102 rfl) rfl
theorem q751 : (Jvm.Cond.instanceMethod ({ cls := "PatchCords$Integrator", name := "tellRate", desc := "([I)V" } : Jvm.MethodName)) ∈ lw_all := lw_g (lw_at lw_m3 171 rfl) rfl
theorem q752 : (Jvm.Cond.selects "PatchCords$Integrator" ({ cls := "PatchCords$Integrator", name := "tellRate", desc := "([I)V" } : Jvm.MethodName) ({ cls := "PatchCords$Integrator", name := "tellRate", desc := "([I)V" } : Jvm.MethodName)) ∈ lw_all := lw_g (lw_at lw_m3 172 rfl) rfl
theorem q753 : (Jvm.Cond.code ({ cls := "PatchCords$Integrator", name := "tellRate", desc := "([I)V" } : Jvm.MethodName) prog_3_method_10_code (2 : Nat) (Option.none : Option Jvm.ClassFile.FieldType)) ∈ lw_all := lw_g (lw_at lw_m3 173 rfl) rfl
theorem q754 : (Jvm.Cond.methodLink "PatchCords$Integrator" (33 : Nat) ({ cls := "PatchCords$Integrator", name := "rate", desc := "([I)I" } : Jvm.MethodName)) ∈ lw_all := lw_g (lw_at lw_m3 174 rfl) rfl
theorem q755 : (Jvm.Cond.instanceMethod ({ cls := "PatchCords$Integrator", name := "rate", desc := "([I)I" } : Jvm.MethodName)) ∈ lw_all := lw_g (lw_at lw_m3 175 rfl) rfl
theorem q756 : (Jvm.Cond.selects "PatchCords$Integrator" ({ cls := "PatchCords$Integrator", name := "rate", desc := "([I)I" } : Jvm.MethodName) ({ cls := "PatchCords$Integrator", name := "rate", desc := "([I)I" } : Jvm.MethodName)) ∈ lw_all := lw_g (lw_at lw_m3 176 rfl) rfl
theorem q757 : (Jvm.Cond.code ({ cls := "PatchCords$Integrator", name := "rate", desc := "([I)I" } : Jvm.MethodName) prog_3_method_9_code (2 : Nat) (Option.some Jvm.ClassFile.FieldType.int)) ∈ lw_all := lw_g (lw_at lw_m3 177 rfl) rfl
theorem q758 : (Jvm.Cond.methodLink "PatchCords$Integrator" (29 : Nat) ({ cls := "PatchCords$Integrator", name := "turnedSum", desc := "([I)I" } : Jvm.MethodName)) ∈ lw_all := lw_g (lw_at lw_m3 178 rfl) rfl
theorem q759 : (Jvm.Cond.sameMethod "PatchCords$Integrator" "PatchCords$Weighted" "turnedSum" "([I)I") ∈ lw_all := lw_g (lw_at lw_m3 179 rfl) rfl
theorem q760 : (Jvm.Cond.selects "PatchCords$Integrator" ({ cls := "PatchCords$Integrator", name := "turnedSum", desc := "([I)I" } : Jvm.MethodName) ({ cls := "PatchCords$Weighted", name := "turnedSum", desc := "([I)I" } : Jvm.MethodName)) ∈ lw_all := lw_g (lw_at lw_m3 180 rfl) rfl
theorem q766 : (Jvm.Cond.instanceMethod ({ cls := "PatchCords$Integrator", name := "move", desc := "(I)V" } : Jvm.MethodName)) ∈ lw_all := lw_g (lw_at lw_m3 186 rfl) rfl
theorem q767 : (Jvm.Cond.selects "PatchCords$Integrator" ({ cls := "PatchCords$Integrator", name := "move", desc := "(I)V" } : Jvm.MethodName) ({ cls := "PatchCords$Integrator", name := "move", desc := "(I)V" } : Jvm.MethodName)) ∈ lw_all := lw_g (lw_at lw_m3 187 rfl) rfl
theorem q768 : (Jvm.Cond.code ({ cls := "PatchCords$Integrator", name := "move", desc := "(I)V" } : Jvm.MethodName) prog_3_method_11_code (2 : Nat) (Option.none : Option Jvm.ClassFile.FieldType)) ∈ lw_all := lw_g (lw_at lw_m3 188 rfl) rfl
theorem q769 : (Jvm.Cond.methodLinkNest "PatchCords$Integrator" (41 : Nat) ({ cls := "PatchCords", name := "held", desc := "(II)I" } : Jvm.MethodName) "PatchCords") ∈ lw_tbl := lw_at lw_m3 189 rfl
theorem q1241 : (Jvm.Cond.selects "PatchCords$Integrator" ({ cls := "PatchCords$Part", name := "isSource", desc := "()Z" } : Jvm.MethodName) ({ cls := "PatchCords$Integrator", name := "isSource", desc := "()Z" } : Jvm.MethodName)) ∈ lw_all := lw_g (lw_at lw_m5 181 rfl) rfl
theorem q1242 : (Jvm.Cond.instanceMethod ({ cls := "PatchCords$Integrator", name := "isSource", desc := "()Z" } : Jvm.MethodName)) ∈ lw_all := lw_g (lw_at lw_m5 182 rfl) rfl
theorem q1243 : (Jvm.Cond.code ({ cls := "PatchCords$Integrator", name := "isSource", desc := "()Z" } : Jvm.MethodName) prog_3_method_4_code (1 : Nat) (Option.some Jvm.ClassFile.FieldType.boolean)) ∈ lw_all := lw_g (lw_at lw_m5 183 rfl) rfl
theorem q1267 : (Jvm.Cond.selects "PatchCords$Integrator" ({ cls := "PatchCords$Part", name := "kind", desc := "()I" } : Jvm.MethodName) ({ cls := "PatchCords$Integrator", name := "kind", desc := "()I" } : Jvm.MethodName)) ∈ lw_all := lw_g (lw_at lw_m5 207 rfl) rfl
theorem q1268 : (Jvm.Cond.instanceMethod ({ cls := "PatchCords$Integrator", name := "kind", desc := "()I" } : Jvm.MethodName)) ∈ lw_all := lw_g (lw_at lw_m5 208 rfl) rfl
theorem q1269 : (Jvm.Cond.code ({ cls := "PatchCords$Integrator", name := "kind", desc := "()I" } : Jvm.MethodName) prog_3_method_2_code (1 : Nat) (Option.some Jvm.ClassFile.FieldType.int)) ∈ lw_all := lw_g (lw_at lw_m5 209 rfl) rfl
theorem q1286 : (Jvm.Cond.selects "PatchCords$Integrator" ({ cls := "PatchCords$Part", name := "setting", desc := "()I" } : Jvm.MethodName) ({ cls := "PatchCords$Integrator", name := "setting", desc := "()I" } : Jvm.MethodName)) ∈ lw_all := lw_g (lw_at lw_m5 226 rfl) rfl
theorem q1287 : (Jvm.Cond.instanceMethod ({ cls := "PatchCords$Integrator", name := "setting", desc := "()I" } : Jvm.MethodName)) ∈ lw_all := lw_g (lw_at lw_m5 227 rfl) rfl
theorem q1288 : (Jvm.Cond.code ({ cls := "PatchCords$Integrator", name := "setting", desc := "()I" } : Jvm.MethodName) prog_3_method_6_code (1 : Nat) (Option.some Jvm.ClassFile.FieldType.int)) ∈ lw_all := lw_g (lw_at lw_m5 228 rfl) rfl
theorem q1437 : (Jvm.Cond.selects "PatchCords$Integrator" ({ cls := "PatchCords$Weighted", name := "turnWeight", desc := "(I)I" } : Jvm.MethodName) ({ cls := "PatchCords$Weighted", name := "turnWeight", desc := "(I)I" } : Jvm.MethodName)) ∈ lw_all := lw_g (lw_at lw_m6 137 rfl) rfl
theorem q1456 : (Jvm.Cond.instanceMethod ({ cls := "PatchCords$Integrator", name := "reset", desc := "()V" } : Jvm.MethodName)) ∈ lw_all := lw_g (lw_at lw_m6 156 rfl) rfl
theorem q1457 : (Jvm.Cond.selects "PatchCords$Integrator" ({ cls := "PatchCords$Integrator", name := "reset", desc := "()V" } : Jvm.MethodName) ({ cls := "PatchCords$Integrator", name := "reset", desc := "()V" } : Jvm.MethodName)) ∈ lw_all := lw_g (lw_at lw_m6 157 rfl) rfl
theorem q1458 : (Jvm.Cond.code ({ cls := "PatchCords$Integrator", name := "reset", desc := "()V" } : Jvm.MethodName) prog_3_method_8_code (1 : Nat) (Option.none : Option Jvm.ClassFile.FieldType)) ∈ lw_all := lw_g (lw_at lw_m6 158 rfl) rfl
theorem q2392 : (Jvm.Cond.castable "PatchCords$Integrator" "PatchCords$Part") ∈ lw_tbl := lw_at lw_m10 132 rfl
theorem q2397 : (Jvm.Cond.castable "PatchCords$Integrator" "PatchCords$Weighted") ∈ lw_tbl := lw_at lw_m10 137 rfl
theorem q2409 : (Jvm.Cond.castable "PatchCords$Integrator" "java/lang/Object") ∈ lw_tbl := lw_at lw_m10 149 rfl
theorem in_X8 : ∀ w ∈ wsX80, w ∈ lw_all := lw_in wsX80 [387, 388, 385, 375, 377, 379, 381, 383] (by decide +kernel) (by decide +kernel)
/-! PatchCords$Pot -/
set_option maxRecDepth 100000
def RX9 : String := "PatchCords$Pot"
def TX9 : u_T := fun k => match k with
  | 0 => ("PatchCords$Part", "cords", "[I", true)
  | 1 => ("PatchCords$Part", "peak", "I", false)
  | _ => ("PatchCords$Pot", "factor", "I", false)
def tyX9 : Nat → FieldType := fun k => match k with
  | 0 => .array .int
  | 1 => .int
  | _ => .int
abbrev wsX90 : List Cond := u_ws RX9 TX9 3
theorem nmX9 : ∀ a, a < 3 → ∀ b, b < 3 → a ≠ b → (TX9 a).2.1 ≠ (TX9 b).2.1 := by decide +kernel
theorem tyX9_ok : ∀ k, k < 3 → parseFieldDescriptor (TX9 k).2.2.1 = some (tyX9 k) := by decide +kernel
abbrev cX9_bare : ByteArray := prog_7_method_5_code
def yX9_bare : MethodName := ⟨RX9, "bare", "()LPatchCords$Part;"⟩
def dkwX9_bare_0 : List UInt8 := [187, 0, 10, 89, 183, 0, 15, 76, 43, 42, 180, 0, 9, 181, 0, 9, 43, 176]
abbrev dktX9_bare_0 : List UInt8 := dkwX9_bare_0 ++ []
theorem dksX9_bare_0 : cX9_bare.data.toList.drop 0 = dktX9_bare_0 := by decide +kernel
theorem dX9_bare_0 : decode cX9_bare 0 = .ok (.new 10, 3) := dk_187 0 10 (dk_at dksX9_bare_0 0 rfl rfl)
theorem dX9_bare_3 : decode cX9_bare 3 = .ok (.dup, 1) := dk_89 (dk_at dksX9_bare_0 3 rfl rfl)
theorem dX9_bare_4 : decode cX9_bare 4 = .ok (.invokespecial 15, 3) := dk_183 0 15 (dk_at dksX9_bare_0 4 rfl rfl)
theorem dX9_bare_7 : decode cX9_bare 7 = .ok (.astore_n 1, 1) := dk_76 (dk_at dksX9_bare_0 7 rfl rfl)
theorem dX9_bare_8 : decode cX9_bare 8 = .ok (.aload_n 1, 1) := dk_43 (dk_at dksX9_bare_0 8 rfl rfl)
theorem dX9_bare_9 : decode cX9_bare 9 = .ok (.aload_n 0, 1) := dk_42 (dk_at dksX9_bare_0 9 rfl rfl)
theorem dX9_bare_10 : decode cX9_bare 10 = .ok (.getfield 9, 3) := dk_180 0 9 (dk_at dksX9_bare_0 10 rfl rfl)
theorem dX9_bare_13 : decode cX9_bare 13 = .ok (.putfield 9, 3) := dk_181 0 9 (dk_at dksX9_bare_0 13 rfl rfl)
theorem dX9_bare_16 : decode cX9_bare 16 = .ok (.aload_n 1, 1) := dk_43 (dk_at dksX9_bare_0 16 rfl rfl)
theorem dX9_bare_17 : decode cX9_bare 17 = .ok (.areturn, 1) := dk_176 (dk_at dksX9_bare_0 17 rfl rfl)
abbrev cX9_init : ByteArray := prog_7_method_1_code
def yX9_init : MethodName := ⟨RX9, "<init>", "()V"⟩
def dkwX9_init_0 : List UInt8 := [42, 4, 183, 0, 3, 42, 17, 1, 244, 181, 0, 9, 177]
abbrev dktX9_init_0 : List UInt8 := dkwX9_init_0 ++ []
theorem dksX9_init_0 : cX9_init.data.toList.drop 0 = dktX9_init_0 := by decide +kernel
theorem dX9_init_0 : decode cX9_init 0 = .ok (.aload_n 0, 1) := dk_42 (dk_at dksX9_init_0 0 rfl rfl)
theorem dX9_init_1 : decode cX9_init 1 = .ok (.iconst 1, 1) := dk_4 (dk_at dksX9_init_0 1 rfl rfl)
theorem dX9_init_2 : decode cX9_init 2 = .ok (.invokespecial 3, 3) := dk_183 0 3 (dk_at dksX9_init_0 2 rfl rfl)
theorem dX9_init_5 : decode cX9_init 5 = .ok (.aload_n 0, 1) := dk_42 (dk_at dksX9_init_0 5 rfl rfl)
theorem dX9_init_6 : decode cX9_init 6 = .ok (.sipush 500, 3) := dk_17 1 244 (dk_at dksX9_init_0 6 rfl rfl)
theorem dX9_init_9 : decode cX9_init 9 = .ok (.putfield 9, 3) := dk_181 0 9 (dk_at dksX9_init_0 9 rfl rfl)
theorem dX9_init_12 : decode cX9_init 12 = .ok (.return_, 1) := dk_177 (dk_at dksX9_init_0 12 rfl rfl)
abbrev cX9_raw : ByteArray := prog_7_method_3_code
def yX9_raw : MethodName := ⟨RX9, "raw", "([I)I"⟩
def dkwX9_raw_0 : List UInt8 := [43, 3, 46, 42, 180, 0, 9, 104, 17, 3, 232, 108, 172]
abbrev dktX9_raw_0 : List UInt8 := dkwX9_raw_0 ++ []
theorem dksX9_raw_0 : cX9_raw.data.toList.drop 0 = dktX9_raw_0 := by decide +kernel
theorem dX9_raw_0 : decode cX9_raw 0 = .ok (.aload_n 1, 1) := dk_43 (dk_at dksX9_raw_0 0 rfl rfl)
theorem dX9_raw_1 : decode cX9_raw 1 = .ok (.iconst 0, 1) := dk_3 (dk_at dksX9_raw_0 1 rfl rfl)
theorem dX9_raw_2 : decode cX9_raw 2 = .ok (.iaload, 1) := dk_46 (dk_at dksX9_raw_0 2 rfl rfl)
theorem dX9_raw_3 : decode cX9_raw 3 = .ok (.aload_n 0, 1) := dk_42 (dk_at dksX9_raw_0 3 rfl rfl)
theorem dX9_raw_4 : decode cX9_raw 4 = .ok (.getfield 9, 3) := dk_180 0 9 (dk_at dksX9_raw_0 4 rfl rfl)
theorem dX9_raw_7 : decode cX9_raw 7 = .ok (.imul, 1) := dk_104 (dk_at dksX9_raw_0 7 rfl rfl)
theorem dX9_raw_8 : decode cX9_raw 8 = .ok (.sipush 1000, 3) := dk_17 3 232 (dk_at dksX9_raw_0 8 rfl rfl)
theorem dX9_raw_11 : decode cX9_raw 11 = .ok (.idiv, 1) := dk_108 (dk_at dksX9_raw_0 11 rfl rfl)
theorem dX9_raw_12 : decode cX9_raw 12 = .ok (.ireturn, 1) := dk_172 (dk_at dksX9_raw_0 12 rfl rfl)
abbrev cX9_kind : ByteArray := prog_7_method_2_code
def yX9_kind : MethodName := ⟨RX9, "kind", "()I"⟩
theorem dX9_kind_0 : decode cX9_kind 0 = .ok (.iconst 2, 1) := by decide +kernel
theorem dX9_kind_1 : decode cX9_kind 1 = .ok (.ireturn, 1) := by decide +kernel
abbrev cX9_setting : ByteArray := prog_7_method_4_code
def yX9_setting : MethodName := ⟨RX9, "setting", "()I"⟩
theorem dX9_setting_0 : decode cX9_setting 0 = .ok (.aload_n 0, 1) := by decide +kernel
theorem dX9_setting_1 : decode cX9_setting 1 = .ok (.getfield 9, 3) := by decide +kernel
theorem dX9_setting_4 : decode cX9_setting 4 = .ok (.ireturn, 1) := by decide +kernel
theorem q124 : (Jvm.Cond.initialized "PatchCords$Pot") ∈ lw_all := lw_g (lw_at lw_m1 24 rfl) rfl
theorem q390 : (Jvm.Cond.selects "PatchCords$Pot" ({ cls := "PatchCords$Part", name := "bare", desc := "()LPatchCords$Part;" } : Jvm.MethodName) ({ cls := "PatchCords$Pot", name := "bare", desc := "()LPatchCords$Part;" } : Jvm.MethodName)) ∈ lw_all := lw_g (lw_at lw_m2 50 rfl) rfl
theorem q391 : (Jvm.Cond.instanceMethod ({ cls := "PatchCords$Pot", name := "bare", desc := "()LPatchCords$Part;" } : Jvm.MethodName)) ∈ lw_all := lw_g (lw_at lw_m2 51 rfl) rfl
theorem q392 : (Jvm.Cond.code ({ cls := "PatchCords$Pot", name := "bare", desc := "()LPatchCords$Part;" } : Jvm.MethodName) prog_7_method_5_code (2 : Nat) (Option.some (Jvm.ClassFile.FieldType.object "PatchCords$Part"))) ∈ lw_all := lw_g (lw_at lw_m2 52 rfl) rfl
theorem q393 : (Jvm.Cond.classLink "PatchCords$Pot" (10 : Nat) "PatchCords$Pot") ∈ lw_all := lw_g (lw_at lw_m2 53 rfl) rfl
theorem q394 : (Jvm.Cond.instantiable "PatchCords$Pot" (3 : Nat)) ∈ lw_all := lw_g (lw_at lw_m2 54 rfl) rfl
theorem q395 : (Jvm.Cond.methodLink "PatchCords$Pot" (15 : Nat) ({ cls := "PatchCords$Pot", name := "<init>", desc := "()V" } : Jvm.MethodName)) ∈ lw_all := lw_g (lw_at lw_m2 55 rfl) rfl
theorem q396 : (Jvm.Cond.instanceMethod ({ cls := "PatchCords$Pot", name := "<init>", desc := "()V" } : Jvm.MethodName)) ∈ lw_all := lw_g (lw_at lw_m2 56 rfl) rfl
theorem q397 : (Jvm.Cond.code ({ cls := "PatchCords$Pot", name := "<init>", desc := "()V" } : Jvm.MethodName) prog_7_method_1_code (1 : Nat) (Option.none : Option Jvm.ClassFile.FieldType)) ∈ lw_all := lw_g (lw_at lw_m2 57 rfl) rfl
theorem q398 : (Jvm.Cond.methodLink "PatchCords$Pot" (3 : Nat) ({ cls := "PatchCords$Part", name := "<init>", desc := "(I)V" } : Jvm.MethodName)) ∈ lw_all := lw_g (lw_at lw_m2 58 rfl) rfl
theorem q399 : (Jvm.Cond.fieldLink "PatchCords$Pot" (9 : Nat) "PatchCords$Pot" "factor" "I") ∈ lw_all := lw_g (lw_at lw_m2 59 rfl) rfl
theorem q402 : (Jvm.Cond.lays "PatchCords$Pot" "PatchCords$Pot" "factor" "I") ∈ lw_all := lw_g (lw_at lw_m2 62 rfl) rfl
theorem q403 : (Jvm.Cond.soleField "PatchCords$Pot" "factor") ∈ lw_all := lw_g (lw_at lw_m2 63 rfl) rfl
theorem q404 : (Jvm.Cond.laysFinal "PatchCords$Pot" "PatchCords$Part" "cords" "[I") ∈ lw_all := lw_g (lw_at lw_m2 64 rfl) rfl
theorem q405 : (Jvm.Cond.lays "PatchCords$Pot" "PatchCords$Part" "peak" "I") ∈ lw_all := lw_g (lw_at lw_m2 65 rfl) rfl
theorem q406 : (Jvm.Cond.superclass "PatchCords$Pot" "PatchCords$Part") ∈ lw_all := lw_g (lw_at lw_m2 66 rfl) rfl
theorem q449 : (Jvm.Cond.selects "PatchCords$Pot" ({ cls := "PatchCords$Part", name := "copy", desc := "()LPatchCords$Part;" } : Jvm.MethodName) ({ cls := "PatchCords$Part", name := "copy", desc := "()LPatchCords$Part;" } : Jvm.MethodName)) ∈ lw_all := lw_g (lw_at lw_m2 109 rfl) rfl
theorem q490 : (Jvm.Cond.selects "PatchCords$Pot" ({ cls := "java/lang/Object", name := "getClass", desc := "()Ljava/lang/Class;" } : Jvm.MethodName) ({ cls := "java/lang/Object", name := "getClass", desc := "()Ljava/lang/Class;" } : Jvm.MethodName)) ∈ lw_all := lw_g (lw_at lw_m2 150 rfl) rfl
theorem q614 : (Jvm.Cond.selects "PatchCords$Pot" ({ cls := "PatchCords$Part", name := "raw", desc := "([I)I" } : Jvm.MethodName) ({ cls := "PatchCords$Pot", name := "raw", desc := "([I)I" } : Jvm.MethodName)) ∈ lw_all := lw_g (lw_at lw_m3 34 rfl) rfl
theorem q615 : (Jvm.Cond.instanceMethod ({ cls := "PatchCords$Pot", name := "raw", desc := "([I)I" } : Jvm.MethodName)) ∈ lw_all := lw_g (lw_at lw_m3 35 rfl) rfl
theorem q616 : (Jvm.Cond.code ({ cls := "PatchCords$Pot", name := "raw", desc := "([I)I" } : Jvm.MethodName) prog_7_method_3_code (2 : Nat) (Option.some Jvm.ClassFile.FieldType.int)) ∈ lw_all := lw_g (lw_at lw_m3 36 rfl) rfl
theorem q657 : (Jvm.Cond.selects "PatchCords$Pot" ({ cls := "PatchCords$Part", name := "isOverloaded", desc := "([I)Z" } : Jvm.MethodName) ({ cls := "PatchCords$Part", name := "isOverloaded", desc := "([I)Z" } : Jvm.MethodName)) ∈ lw_all := lw_g (lw_at lw_m3 77 rfl) rfl
theorem q683 : (Jvm.Cond.selects "PatchCords$Pot" ({ cls := "PatchCords$Part", name := "feeders", desc := "()I" } : Jvm.MethodName) ({ cls := "PatchCords$Part", name := "feeders", desc := "()I" } : Jvm.MethodName)) ∈ lw_all := lw_g (lw_at lw_m3 103 rfl) rfl
theorem q1244 : (Jvm.Cond.selects "PatchCords$Pot" ({ cls := "PatchCords$Part", name := "isSource", desc := "()Z" } : Jvm.MethodName) ({ cls := "PatchCords$Part", name := "isSource", desc := "()Z" } : Jvm.MethodName)) ∈ lw_all := lw_g (lw_at lw_m5 184 rfl) rfl
theorem q1270 : (Jvm.Cond.selects "PatchCords$Pot" ({ cls := "PatchCords$Part", name := "kind", desc := "()I" } : Jvm.MethodName) ({ cls := "PatchCords$Pot", name := "kind", desc := "()I" } : Jvm.MethodName)) ∈ lw_all := lw_g (lw_at lw_m5 210 rfl) rfl
theorem q1271 : (Jvm.Cond.instanceMethod ({ cls := "PatchCords$Pot", name := "kind", desc := "()I" } : Jvm.MethodName)) ∈ lw_all := lw_g (lw_at lw_m5 211 rfl) rfl
theorem q1272 : (Jvm.Cond.code ({ cls := "PatchCords$Pot", name := "kind", desc := "()I" } : Jvm.MethodName) prog_7_method_2_code (1 : Nat) (Option.some Jvm.ClassFile.FieldType.int)) ∈ lw_all := lw_g (lw_at lw_m5 212 rfl) rfl
theorem q1289 : (Jvm.Cond.selects "PatchCords$Pot" ({ cls := "PatchCords$Part", name := "setting", desc := "()I" } : Jvm.MethodName) ({ cls := "PatchCords$Pot", name := "setting", desc := "()I" } : Jvm.MethodName)) ∈ lw_all := lw_g (lw_at lw_m5 229 rfl) rfl
theorem q1290 : (Jvm.Cond.instanceMethod ({ cls := "PatchCords$Pot", name := "setting", desc := "()I" } : Jvm.MethodName)) ∈ lw_all := lw_g (lw_at lw_m5 230 rfl) rfl
theorem q1291 : (Jvm.Cond.code ({ cls := "PatchCords$Pot", name := "setting", desc := "()I" } : Jvm.MethodName) prog_7_method_4_code (1 : Nat) (Option.some Jvm.ClassFile.FieldType.int)) ∈ lw_all := lw_g (lw_at lw_m5 231 rfl) rfl
theorem q2393 : (Jvm.Cond.castable "PatchCords$Pot" "PatchCords$Part") ∈ lw_tbl := lw_at lw_m10 133 rfl
theorem q2410 : (Jvm.Cond.castable "PatchCords$Pot" "java/lang/Object") ∈ lw_tbl := lw_at lw_m10 150 rfl
theorem in_X9 : ∀ w ∈ wsX90, w ∈ lw_all := lw_in wsX90 [404, 405, 402] (by decide +kernel) (by decide +kernel)
/-! PatchCords$Product -/
set_option maxRecDepth 100000
def RX10 : String := "PatchCords$Product"
def TX10 : u_T := fun k => match k with
  | 0 => ("PatchCords$Part", "cords", "[I", true)
  | _ => ("PatchCords$Part", "peak", "I", false)
def tyX10 : Nat → FieldType := fun k => match k with
  | 0 => .array .int
  | _ => .int
abbrev wsX100 : List Cond := u_ws RX10 TX10 2
theorem nmX10 : ∀ a, a < 2 → ∀ b, b < 2 → a ≠ b → (TX10 a).2.1 ≠ (TX10 b).2.1 := by decide +kernel
theorem tyX10_ok : ∀ k, k < 2 → parseFieldDescriptor (TX10 k).2.2.1 = some (tyX10 k) := by decide +kernel
abbrev cX10_bare : ByteArray := prog_8_method_4_code
def yX10_bare : MethodName := ⟨RX10, "bare", "()LPatchCords$Part;"⟩
def dkwX10_bare_0 : List UInt8 := [187, 0, 9, 89, 183, 0, 11, 176]
abbrev dktX10_bare_0 : List UInt8 := dkwX10_bare_0 ++ []
theorem dksX10_bare_0 : cX10_bare.data.toList.drop 0 = dktX10_bare_0 := by decide +kernel
theorem dX10_bare_0 : decode cX10_bare 0 = .ok (.new 9, 3) := dk_187 0 9 (dk_at dksX10_bare_0 0 rfl rfl)
theorem dX10_bare_3 : decode cX10_bare 3 = .ok (.dup, 1) := dk_89 (dk_at dksX10_bare_0 3 rfl rfl)
theorem dX10_bare_4 : decode cX10_bare 4 = .ok (.invokespecial 11, 3) := dk_183 0 11 (dk_at dksX10_bare_0 4 rfl rfl)
theorem dX10_bare_7 : decode cX10_bare 7 = .ok (.areturn, 1) := dk_176 (dk_at dksX10_bare_0 7 rfl rfl)
abbrev cX10_init : ByteArray := prog_8_method_1_code
def yX10_init : MethodName := ⟨RX10, "<init>", "()V"⟩
def dkwX10_init_0 : List UInt8 := [42, 5, 183, 0, 3, 177]
abbrev dktX10_init_0 : List UInt8 := dkwX10_init_0 ++ []
theorem dksX10_init_0 : cX10_init.data.toList.drop 0 = dktX10_init_0 := by decide +kernel
theorem dX10_init_0 : decode cX10_init 0 = .ok (.aload_n 0, 1) := dk_42 (dk_at dksX10_init_0 0 rfl rfl)
theorem dX10_init_1 : decode cX10_init 1 = .ok (.iconst 2, 1) := dk_5 (dk_at dksX10_init_0 1 rfl rfl)
theorem dX10_init_2 : decode cX10_init 2 = .ok (.invokespecial 3, 3) := dk_183 0 3 (dk_at dksX10_init_0 2 rfl rfl)
theorem dX10_init_5 : decode cX10_init 5 = .ok (.return_, 1) := dk_177 (dk_at dksX10_init_0 5 rfl rfl)
abbrev cX10_raw : ByteArray := prog_8_method_3_code
def yX10_raw : MethodName := ⟨RX10, "raw", "([I)I"⟩
def dkwX10_raw_0 : List UInt8 := [43, 3, 46, 43, 4, 46, 104, 17, 39, 16, 108, 172]
abbrev dktX10_raw_0 : List UInt8 := dkwX10_raw_0 ++ []
theorem dksX10_raw_0 : cX10_raw.data.toList.drop 0 = dktX10_raw_0 := by decide +kernel
theorem dX10_raw_0 : decode cX10_raw 0 = .ok (.aload_n 1, 1) := dk_43 (dk_at dksX10_raw_0 0 rfl rfl)
theorem dX10_raw_1 : decode cX10_raw 1 = .ok (.iconst 0, 1) := dk_3 (dk_at dksX10_raw_0 1 rfl rfl)
theorem dX10_raw_2 : decode cX10_raw 2 = .ok (.iaload, 1) := dk_46 (dk_at dksX10_raw_0 2 rfl rfl)
theorem dX10_raw_3 : decode cX10_raw 3 = .ok (.aload_n 1, 1) := dk_43 (dk_at dksX10_raw_0 3 rfl rfl)
theorem dX10_raw_4 : decode cX10_raw 4 = .ok (.iconst 1, 1) := dk_4 (dk_at dksX10_raw_0 4 rfl rfl)
theorem dX10_raw_5 : decode cX10_raw 5 = .ok (.iaload, 1) := dk_46 (dk_at dksX10_raw_0 5 rfl rfl)
theorem dX10_raw_6 : decode cX10_raw 6 = .ok (.imul, 1) := dk_104 (dk_at dksX10_raw_0 6 rfl rfl)
theorem dX10_raw_7 : decode cX10_raw 7 = .ok (.sipush 10000, 3) := dk_17 39 16 (dk_at dksX10_raw_0 7 rfl rfl)
theorem dX10_raw_10 : decode cX10_raw 10 = .ok (.idiv, 1) := dk_108 (dk_at dksX10_raw_0 10 rfl rfl)
theorem dX10_raw_11 : decode cX10_raw 11 = .ok (.ireturn, 1) := dk_172 (dk_at dksX10_raw_0 11 rfl rfl)
abbrev cX10_kind : ByteArray := prog_8_method_2_code
def yX10_kind : MethodName := ⟨RX10, "kind", "()I"⟩
theorem dX10_kind_0 : decode cX10_kind 0 = .ok (.iconst 3, 1) := by decide +kernel
theorem dX10_kind_1 : decode cX10_kind 1 = .ok (.ireturn, 1) := by decide +kernel
theorem q125 : (Jvm.Cond.initialized "PatchCords$Product") ∈ lw_all := lw_g (lw_at lw_m1 25 rfl) rfl
theorem q407 : (Jvm.Cond.selects "PatchCords$Product" ({ cls := "PatchCords$Part", name := "bare", desc := "()LPatchCords$Part;" } : Jvm.MethodName) ({ cls := "PatchCords$Product", name := "bare", desc := "()LPatchCords$Part;" } : Jvm.MethodName)) ∈ lw_all := lw_g (lw_at lw_m2 67 rfl) rfl
theorem q408 : (Jvm.Cond.instanceMethod ({ cls := "PatchCords$Product", name := "bare", desc := "()LPatchCords$Part;" } : Jvm.MethodName)) ∈ lw_all := lw_g (lw_at lw_m2 68 rfl) rfl
theorem q409 : (Jvm.Cond.code ({ cls := "PatchCords$Product", name := "bare", desc := "()LPatchCords$Part;" } : Jvm.MethodName) prog_8_method_4_code (1 : Nat) (Option.some (Jvm.ClassFile.FieldType.object "PatchCords$Part"))) ∈ lw_all := lw_g (lw_at lw_m2 69 rfl) rfl
theorem q410 : (Jvm.Cond.classLink "PatchCords$Product" (9 : Nat) "PatchCords$Product") ∈ lw_all := lw_g (lw_at lw_m2 70 rfl) rfl
theorem q411 : (Jvm.Cond.instantiable "PatchCords$Product" (2 : Nat)) ∈ lw_all := lw_g (lw_at lw_m2 71 rfl) rfl
theorem q412 : (Jvm.Cond.methodLink "PatchCords$Product" (11 : Nat) ({ cls := "PatchCords$Product", name := "<init>", desc := "()V" } : Jvm.MethodName)) ∈ lw_all := lw_g (lw_at lw_m2 72 rfl) rfl
theorem q413 : (Jvm.Cond.instanceMethod ({ cls := "PatchCords$Product", name := "<init>", desc := "()V" } : Jvm.MethodName)) ∈ lw_all := lw_g (lw_at lw_m2 73 rfl) rfl
theorem q414 : (Jvm.Cond.code ({ cls := "PatchCords$Product", name := "<init>", desc := "()V" } : Jvm.MethodName) prog_8_method_1_code (1 : Nat) (Option.none : Option Jvm.ClassFile.FieldType)) ∈ lw_all := lw_g (lw_at lw_m2 74 rfl) rfl
theorem q415 : (Jvm.Cond.methodLink "PatchCords$Product" (3 : Nat) ({ cls := "PatchCords$Part", name := "<init>", desc := "(I)V" } : Jvm.MethodName)) ∈ lw_all := lw_g (lw_at lw_m2 75 rfl) rfl
theorem q416 : (Jvm.Cond.laysFinal "PatchCords$Product" "PatchCords$Part" "cords" "[I") ∈ lw_all := lw_g (lw_at lw_m2 76 rfl) rfl
theorem q417 : (Jvm.Cond.lays "PatchCords$Product" "PatchCords$Part" "peak" "I") ∈ lw_all := lw_g (lw_at lw_m2 77 rfl) rfl
theorem q418 : (Jvm.Cond.superclass "PatchCords$Product" "PatchCords$Part") ∈ lw_all := lw_g (lw_at lw_m2 78 rfl) rfl
theorem q450 : (Jvm.Cond.selects "PatchCords$Product" ({ cls := "PatchCords$Part", name := "copy", desc := "()LPatchCords$Part;" } : Jvm.MethodName) ({ cls := "PatchCords$Part", name := "copy", desc := "()LPatchCords$Part;" } : Jvm.MethodName)) ∈ lw_all := lw_g (lw_at lw_m2 110 rfl) rfl
theorem q491 : (Jvm.Cond.selects "PatchCords$Product" ({ cls := "java/lang/Object", name := "getClass", desc := "()Ljava/lang/Class;" } : Jvm.MethodName) ({ cls := "java/lang/Object", name := "getClass", desc := "()Ljava/lang/Class;" } : Jvm.MethodName)) ∈ lw_all := lw_g (lw_at lw_m2 151 rfl) rfl
theorem q617 : (Jvm.Cond.selects "PatchCords$Product" ({ cls := "PatchCords$Part", name := "raw", desc := "([I)I" } : Jvm.MethodName) ({ cls := "PatchCords$Product", name := "raw", desc := "([I)I" } : Jvm.MethodName)) ∈ lw_all := lw_g (lw_at lw_m3 37 rfl) rfl
theorem q618 : (Jvm.Cond.instanceMethod ({ cls := "PatchCords$Product", name := "raw", desc := "([I)I" } : Jvm.MethodName)) ∈ lw_all := lw_g (lw_at lw_m3 38 rfl) rfl
theorem q619 : (Jvm.Cond.code ({ cls := "PatchCords$Product", name := "raw", desc := "([I)I" } : Jvm.MethodName) prog_8_method_3_code (2 : Nat) (Option.some Jvm.ClassFile.FieldType.int)) ∈ lw_all := lw_g (lw_at lw_m3 39 rfl) rfl
theorem q658 : (Jvm.Cond.selects "PatchCords$Product" ({ cls := "PatchCords$Part", name := "isOverloaded", desc := "([I)Z" } : Jvm.MethodName) ({ cls := "PatchCords$Part", name := "isOverloaded", desc := "([I)Z" } : Jvm.MethodName)) ∈ lw_all := lw_g (lw_at lw_m3 78 rfl) rfl
theorem q684 : (Jvm.Cond.selects "PatchCords$Product" ({ cls := "PatchCords$Part", name := "feeders", desc := "()I" } : Jvm.MethodName) ({ cls := "PatchCords$Part", name := "feeders", desc := "()I" } : Jvm.MethodName)) ∈ lw_all := lw_g (lw_at lw_m3 104 rfl) rfl
theorem q1245 : (Jvm.Cond.selects "PatchCords$Product" ({ cls := "PatchCords$Part", name := "isSource", desc := "()Z" } : Jvm.MethodName) ({ cls := "PatchCords$Part", name := "isSource", desc := "()Z" } : Jvm.MethodName)) ∈ lw_all := lw_g (lw_at lw_m5 185 rfl) rfl
theorem q1273 : (Jvm.Cond.selects "PatchCords$Product" ({ cls := "PatchCords$Part", name := "kind", desc := "()I" } : Jvm.MethodName) ({ cls := "PatchCords$Product", name := "kind", desc := "()I" } : Jvm.MethodName)) ∈ lw_all := lw_g (lw_at lw_m5 213 rfl) rfl
theorem q1274 : (Jvm.Cond.instanceMethod ({ cls := "PatchCords$Product", name := "kind", desc := "()I" } : Jvm.MethodName)) ∈ lw_all := lw_g (lw_at lw_m5 214 rfl) rfl
theorem q1275 : (Jvm.Cond.code ({ cls := "PatchCords$Product", name := "kind", desc := "()I" } : Jvm.MethodName) prog_8_method_2_code (1 : Nat) (Option.some Jvm.ClassFile.FieldType.int)) ∈ lw_all := lw_g (lw_at lw_m5 215 rfl) rfl
theorem q1292 : (Jvm.Cond.selects "PatchCords$Product" ({ cls := "PatchCords$Part", name := "setting", desc := "()I" } : Jvm.MethodName) ({ cls := "PatchCords$Part", name := "setting", desc := "()I" } : Jvm.MethodName)) ∈ lw_all := lw_g (lw_at lw_m5 232 rfl) rfl
theorem q2394 : (Jvm.Cond.castable "PatchCords$Product" "PatchCords$Part") ∈ lw_tbl := lw_at lw_m10 134 rfl
theorem q2411 : (Jvm.Cond.castable "PatchCords$Product" "java/lang/Object") ∈ lw_tbl := lw_at lw_m10 151 rfl
theorem in_X10 : ∀ w ∈ wsX100, w ∈ lw_all := lw_in wsX100 [416, 417] (by decide +kernel) (by decide +kernel)
/-! PatchCords$Steady -/
set_option maxRecDepth 100000
def RX11 : String := "PatchCords$Steady"
def TX11 : u_T := fun k => match k with
  | 0 => ("PatchCords$Part", "cords", "[I", true)
  | 1 => ("PatchCords$Part", "peak", "I", false)
  | _ => ("PatchCords$Steady", "voltage", "I", false)
def tyX11 : Nat → FieldType := fun k => match k with
  | 0 => .array .int
  | 1 => .int
  | _ => .int
abbrev wsX110 : List Cond := u_ws RX11 TX11 3
theorem nmX11 : ∀ a, a < 3 → ∀ b, b < 3 → a ≠ b → (TX11 a).2.1 ≠ (TX11 b).2.1 := by decide +kernel
theorem tyX11_ok : ∀ k, k < 3 → parseFieldDescriptor (TX11 k).2.2.1 = some (tyX11 k) := by decide +kernel
abbrev cX11_bare : ByteArray := prog_10_method_6_code
def yX11_bare : MethodName := ⟨RX11, "bare", "()LPatchCords$Part;"⟩
def dkwX11_bare_0 : List UInt8 := [187, 0, 10, 89, 183, 0, 15, 76, 43, 42, 180, 0, 9, 181, 0, 9, 43, 176]
abbrev dktX11_bare_0 : List UInt8 := dkwX11_bare_0 ++ []
theorem dksX11_bare_0 : cX11_bare.data.toList.drop 0 = dktX11_bare_0 := by decide +kernel
theorem dX11_bare_0 : decode cX11_bare 0 = .ok (.new 10, 3) := dk_187 0 10 (dk_at dksX11_bare_0 0 rfl rfl)
theorem dX11_bare_3 : decode cX11_bare 3 = .ok (.dup, 1) := dk_89 (dk_at dksX11_bare_0 3 rfl rfl)
theorem dX11_bare_4 : decode cX11_bare 4 = .ok (.invokespecial 15, 3) := dk_183 0 15 (dk_at dksX11_bare_0 4 rfl rfl)
theorem dX11_bare_7 : decode cX11_bare 7 = .ok (.astore_n 1, 1) := dk_76 (dk_at dksX11_bare_0 7 rfl rfl)
theorem dX11_bare_8 : decode cX11_bare 8 = .ok (.aload_n 1, 1) := dk_43 (dk_at dksX11_bare_0 8 rfl rfl)
theorem dX11_bare_9 : decode cX11_bare 9 = .ok (.aload_n 0, 1) := dk_42 (dk_at dksX11_bare_0 9 rfl rfl)
theorem dX11_bare_10 : decode cX11_bare 10 = .ok (.getfield 9, 3) := dk_180 0 9 (dk_at dksX11_bare_0 10 rfl rfl)
theorem dX11_bare_13 : decode cX11_bare 13 = .ok (.putfield 9, 3) := dk_181 0 9 (dk_at dksX11_bare_0 13 rfl rfl)
theorem dX11_bare_16 : decode cX11_bare 16 = .ok (.aload_n 1, 1) := dk_43 (dk_at dksX11_bare_0 16 rfl rfl)
theorem dX11_bare_17 : decode cX11_bare 17 = .ok (.areturn, 1) := dk_176 (dk_at dksX11_bare_0 17 rfl rfl)
abbrev cX11_init : ByteArray := prog_10_method_1_code
def yX11_init : MethodName := ⟨RX11, "<init>", "()V"⟩
def dkwX11_init_0 : List UInt8 := [42, 3, 183, 0, 3, 42, 17, 39, 16, 181, 0, 9, 177]
abbrev dktX11_init_0 : List UInt8 := dkwX11_init_0 ++ []
theorem dksX11_init_0 : cX11_init.data.toList.drop 0 = dktX11_init_0 := by decide +kernel
theorem dX11_init_0 : decode cX11_init 0 = .ok (.aload_n 0, 1) := dk_42 (dk_at dksX11_init_0 0 rfl rfl)
theorem dX11_init_1 : decode cX11_init 1 = .ok (.iconst 0, 1) := dk_3 (dk_at dksX11_init_0 1 rfl rfl)
theorem dX11_init_2 : decode cX11_init 2 = .ok (.invokespecial 3, 3) := dk_183 0 3 (dk_at dksX11_init_0 2 rfl rfl)
theorem dX11_init_5 : decode cX11_init 5 = .ok (.aload_n 0, 1) := dk_42 (dk_at dksX11_init_0 5 rfl rfl)
theorem dX11_init_6 : decode cX11_init 6 = .ok (.sipush 10000, 3) := dk_17 39 16 (dk_at dksX11_init_0 6 rfl rfl)
theorem dX11_init_9 : decode cX11_init 9 = .ok (.putfield 9, 3) := dk_181 0 9 (dk_at dksX11_init_0 9 rfl rfl)
theorem dX11_init_12 : decode cX11_init 12 = .ok (.return_, 1) := dk_177 (dk_at dksX11_init_0 12 rfl rfl)
abbrev cX11_raw : ByteArray := prog_10_method_3_code
def yX11_raw : MethodName := ⟨RX11, "raw", "([I)I"⟩
theorem dX11_raw_0 : decode cX11_raw 0 = .ok (.aload_n 0, 1) := by decide +kernel
theorem dX11_raw_1 : decode cX11_raw 1 = .ok (.getfield 9, 3) := by decide +kernel
theorem dX11_raw_4 : decode cX11_raw 4 = .ok (.ireturn, 1) := by decide +kernel
abbrev cX11_isSource : ByteArray := prog_10_method_4_code
def yX11_isSource : MethodName := ⟨RX11, "isSource", "()Z"⟩
theorem dX11_isSource_0 : decode cX11_isSource 0 = .ok (.iconst 1, 1) := by decide +kernel
theorem dX11_isSource_1 : decode cX11_isSource 1 = .ok (.ireturn, 1) := by decide +kernel
abbrev cX11_kind : ByteArray := prog_10_method_2_code
def yX11_kind : MethodName := ⟨RX11, "kind", "()I"⟩
theorem dX11_kind_0 : decode cX11_kind 0 = .ok (.iconst 5, 1) := by decide +kernel
theorem dX11_kind_1 : decode cX11_kind 1 = .ok (.ireturn, 1) := by decide +kernel
abbrev cX11_setting : ByteArray := prog_10_method_5_code
def yX11_setting : MethodName := ⟨RX11, "setting", "()I"⟩
theorem dX11_setting_0 : decode cX11_setting 0 = .ok (.aload_n 0, 1) := by decide +kernel
theorem dX11_setting_1 : decode cX11_setting 1 = .ok (.getfield 9, 3) := by decide +kernel
theorem dX11_setting_4 : decode cX11_setting 4 = .ok (.ireturn, 1) := by decide +kernel
theorem q126 : (Jvm.Cond.initialized "PatchCords$Steady") ∈ lw_all := lw_g (lw_at lw_m1 26 rfl) rfl
theorem q419 : (Jvm.Cond.selects "PatchCords$Steady" ({ cls := "PatchCords$Part", name := "bare", desc := "()LPatchCords$Part;" } : Jvm.MethodName) ({ cls := "PatchCords$Steady", name := "bare", desc := "()LPatchCords$Part;" } : Jvm.MethodName)) ∈ lw_all := lw_g (lw_at lw_m2 79 rfl) rfl
theorem q420 : (Jvm.Cond.instanceMethod ({ cls := "PatchCords$Steady", name := "bare", desc := "()LPatchCords$Part;" } : Jvm.MethodName)) ∈ lw_all := lw_g (lw_at lw_m2 80 rfl) rfl
theorem q421 : (Jvm.Cond.code ({ cls := "PatchCords$Steady", name := "bare", desc := "()LPatchCords$Part;" } : Jvm.MethodName) prog_10_method_6_code (2 : Nat) (Option.some (Jvm.ClassFile.FieldType.object "PatchCords$Part"))) ∈ lw_all := lw_g (lw_at lw_m2 81 rfl) rfl
theorem q422 : (Jvm.Cond.classLink "PatchCords$Steady" (10 : Nat) "PatchCords$Steady") ∈ lw_all := lw_g (lw_at lw_m2 82 rfl) rfl
theorem q423 : (Jvm.Cond.instantiable "PatchCords$Steady" (3 : Nat)) ∈ lw_all := lw_g (lw_at lw_m2 83 rfl) rfl
theorem q424 : (Jvm.Cond.methodLink "PatchCords$Steady" (15 : Nat) ({ cls := "PatchCords$Steady", name := "<init>", desc := "()V" } : Jvm.MethodName)) ∈ lw_all := lw_g (lw_at lw_m2 84 rfl) rfl
theorem q425 : (Jvm.Cond.instanceMethod ({ cls := "PatchCords$Steady", name := "<init>", desc := "()V" } : Jvm.MethodName)) ∈ lw_all := lw_g (lw_at lw_m2 85 rfl) rfl
theorem q426 : (Jvm.Cond.code ({ cls := "PatchCords$Steady", name := "<init>", desc := "()V" } : Jvm.MethodName) prog_10_method_1_code (1 : Nat) (Option.none : Option Jvm.ClassFile.FieldType)) ∈ lw_all := lw_g (lw_at lw_m2 86 rfl) rfl
theorem q427 : (Jvm.Cond.methodLink "PatchCords$Steady" (3 : Nat) ({ cls := "PatchCords$Part", name := "<init>", desc := "(I)V" } : Jvm.MethodName)) ∈ lw_all := lw_g (lw_at lw_m2 87 rfl) rfl
theorem q428 : (Jvm.Cond.fieldLink "PatchCords$Steady" (9 : Nat) "PatchCords$Steady" "voltage" "I") ∈ lw_all := lw_g (lw_at lw_m2 88 rfl) rfl
theorem q430 : (Jvm.Cond.lays "PatchCords$Steady" "PatchCords$Steady" "voltage" "I") ∈ lw_all := lw_g (lw_at lw_m2 90 rfl) rfl
theorem q431 : (Jvm.Cond.soleField "PatchCords$Steady" "voltage") ∈ lw_all := lw_g (lw_at lw_m2 91 rfl) rfl
theorem q432 : (Jvm.Cond.laysFinal "PatchCords$Steady" "PatchCords$Part" "cords" "[I") ∈ lw_all := lw_g (lw_at lw_m2 92 rfl) rfl
theorem q433 : (Jvm.Cond.lays "PatchCords$Steady" "PatchCords$Part" "peak" "I") ∈ lw_all := lw_g (lw_at lw_m2 93 rfl) rfl
theorem q434 : (Jvm.Cond.superclass "PatchCords$Steady" "PatchCords$Part") ∈ lw_all := lw_g (lw_at lw_m2 94 rfl) rfl
theorem q451 : (Jvm.Cond.selects "PatchCords$Steady" ({ cls := "PatchCords$Part", name := "copy", desc := "()LPatchCords$Part;" } : Jvm.MethodName) ({ cls := "PatchCords$Part", name := "copy", desc := "()LPatchCords$Part;" } : Jvm.MethodName)) ∈ lw_all := lw_g (lw_at lw_m2 111 rfl) rfl
theorem q493 : (Jvm.Cond.selects "PatchCords$Steady" ({ cls := "java/lang/Object", name := "getClass", desc := "()Ljava/lang/Class;" } : Jvm.MethodName) ({ cls := "java/lang/Object", name := "getClass", desc := "()Ljava/lang/Class;" } : Jvm.MethodName)) ∈ lw_all := lw_g (lw_at lw_m2 153 rfl) rfl
theorem q620 : (Jvm.Cond.selects "PatchCords$Steady" ({ cls := "PatchCords$Part", name := "raw", desc := "([I)I" } : Jvm.MethodName) ({ cls := "PatchCords$Steady", name := "raw", desc := "([I)I" } : Jvm.MethodName)) ∈ lw_all := lw_g (lw_at lw_m3 40 rfl) rfl
theorem q621 : (Jvm.Cond.instanceMethod ({ cls := "PatchCords$Steady", name := "raw", desc := "([I)I" } : Jvm.MethodName)) ∈ lw_all := lw_g (lw_at lw_m3 41 rfl) rfl
theorem q622 : (Jvm.Cond.code ({ cls := "PatchCords$Steady", name := "raw", desc := "([I)I" } : Jvm.MethodName) prog_10_method_3_code (2 : Nat) (Option.some Jvm.ClassFile.FieldType.int)) ∈ lw_all := lw_g (lw_at lw_m3 42 rfl) rfl
theorem q659 : (Jvm.Cond.selects "PatchCords$Steady" ({ cls := "PatchCords$Part", name := "isOverloaded", desc := "([I)Z" } : Jvm.MethodName) ({ cls := "PatchCords$Part", name := "isOverloaded", desc := "([I)Z" } : Jvm.MethodName)) ∈ lw_all := lw_g (lw_at lw_m3 79 rfl) rfl
theorem q685 : (Jvm.Cond.selects "PatchCords$Steady" ({ cls := "PatchCords$Part", name := "feeders", desc := "()I" } : Jvm.MethodName) ({ cls := "PatchCords$Part", name := "feeders", desc := "()I" } : Jvm.MethodName)) ∈ lw_all := lw_g (lw_at lw_m3 105 rfl) rfl
theorem q1246 : (Jvm.Cond.selects "PatchCords$Steady" ({ cls := "PatchCords$Part", name := "isSource", desc := "()Z" } : Jvm.MethodName) ({ cls := "PatchCords$Steady", name := "isSource", desc := "()Z" } : Jvm.MethodName)) ∈ lw_all := lw_g (lw_at lw_m5 186 rfl) rfl
theorem q1247 : (Jvm.Cond.instanceMethod ({ cls := "PatchCords$Steady", name := "isSource", desc := "()Z" } : Jvm.MethodName)) ∈ lw_all := lw_g (lw_at lw_m5 187 rfl) rfl
theorem q1248 : (Jvm.Cond.code ({ cls := "PatchCords$Steady", name := "isSource", desc := "()Z" } : Jvm.MethodName) prog_10_method_4_code (1 : Nat) (Option.some Jvm.ClassFile.FieldType.boolean)) ∈ lw_all := lw_g (lw_at lw_m5 188 rfl) rfl
theorem q1276 : (Jvm.Cond.selects "PatchCords$Steady" ({ cls := "PatchCords$Part", name := "kind", desc := "()I" } : Jvm.MethodName) ({ cls := "PatchCords$Steady", name := "kind", desc := "()I" } : Jvm.MethodName)) ∈ lw_all := lw_g (lw_at lw_m5 216 rfl) rfl
theorem q1277 : (Jvm.Cond.instanceMethod ({ cls := "PatchCords$Steady", name := "kind", desc := "()I" } : Jvm.MethodName)) ∈ lw_all := lw_g (lw_at lw_m5 217 rfl) rfl
theorem q1278 : (Jvm.Cond.code ({ cls := "PatchCords$Steady", name := "kind", desc := "()I" } : Jvm.MethodName) prog_10_method_2_code (1 : Nat) (Option.some Jvm.ClassFile.FieldType.int)) ∈ lw_all := lw_g (lw_at lw_m5 218 rfl) rfl
theorem q1293 : (Jvm.Cond.selects "PatchCords$Steady" ({ cls := "PatchCords$Part", name := "setting", desc := "()I" } : Jvm.MethodName) ({ cls := "PatchCords$Steady", name := "setting", desc := "()I" } : Jvm.MethodName)) ∈ lw_all := lw_g (lw_at lw_m5 233 rfl) rfl
theorem q1294 : (Jvm.Cond.instanceMethod ({ cls := "PatchCords$Steady", name := "setting", desc := "()I" } : Jvm.MethodName)) ∈ lw_all := lw_g (lw_at lw_m5 234 rfl) rfl
theorem q1295 : (Jvm.Cond.code ({ cls := "PatchCords$Steady", name := "setting", desc := "()I" } : Jvm.MethodName) prog_10_method_5_code (1 : Nat) (Option.some Jvm.ClassFile.FieldType.int)) ∈ lw_all := lw_g (lw_at lw_m5 235 rfl) rfl
theorem q2395 : (Jvm.Cond.castable "PatchCords$Steady" "PatchCords$Part") ∈ lw_tbl := lw_at lw_m10 135 rfl
theorem q2413 : (Jvm.Cond.castable "PatchCords$Steady" "java/lang/Object") ∈ lw_tbl := lw_at lw_m10 153 rfl
theorem in_X11 : ∀ w ∈ wsX110, w ∈ lw_all := lw_in wsX110 [432, 433, 430] (by decide +kernel) (by decide +kernel)
/-! PatchCords$Summer -/
set_option maxRecDepth 100000
def RX12 : String := "PatchCords$Summer"
def TX12 : u_T := fun k => match k with
  | 0 => ("PatchCords$Part", "cords", "[I", true)
  | 1 => ("PatchCords$Part", "peak", "I", false)
  | _ => ("PatchCords$Weighted", "heavy", "I", false)
def tyX12 : Nat → FieldType := fun k => match k with
  | 0 => .array .int
  | 1 => .int
  | _ => .int
abbrev wsX120 : List Cond := u_ws RX12 TX12 3
theorem nmX12 : ∀ a, a < 3 → ∀ b, b < 3 → a ≠ b → (TX12 a).2.1 ≠ (TX12 b).2.1 := by decide +kernel
theorem tyX12_ok : ∀ k, k < 3 → parseFieldDescriptor (TX12 k).2.2.1 = some (tyX12 k) := by decide +kernel
abbrev cX12_bare : ByteArray := prog_11_method_4_code
def yX12_bare : MethodName := ⟨RX12, "bare", "()LPatchCords$Part;"⟩
def dkwX12_bare_0 : List UInt8 := [187, 0, 10, 89, 183, 0, 15, 176]
abbrev dktX12_bare_0 : List UInt8 := dkwX12_bare_0 ++ []
theorem dksX12_bare_0 : cX12_bare.data.toList.drop 0 = dktX12_bare_0 := by decide +kernel
theorem dX12_bare_0 : decode cX12_bare 0 = .ok (.new 10, 3) := dk_187 0 10 (dk_at dksX12_bare_0 0 rfl rfl)
theorem dX12_bare_3 : decode cX12_bare 3 = .ok (.dup, 1) := dk_89 (dk_at dksX12_bare_0 3 rfl rfl)
theorem dX12_bare_4 : decode cX12_bare 4 = .ok (.invokespecial 15, 3) := dk_183 0 15 (dk_at dksX12_bare_0 4 rfl rfl)
theorem dX12_bare_7 : decode cX12_bare 7 = .ok (.areturn, 1) := dk_176 (dk_at dksX12_bare_0 7 rfl rfl)
abbrev cX12_init : ByteArray := prog_11_method_1_code
def yX12_init : MethodName := ⟨RX12, "<init>", "()V"⟩
theorem dX12_init_0 : decode cX12_init 0 = .ok (.aload_n 0, 1) := by decide +kernel
theorem dX12_init_1 : decode cX12_init 1 = .ok (.invokespecial 3, 3) := by decide +kernel
theorem dX12_init_4 : decode cX12_init 4 = .ok (.return_, 1) := by decide +kernel
abbrev cX12_raw : ByteArray := prog_11_method_3_code
def yX12_raw : MethodName := ⟨RX12, "raw", "([I)I"⟩
def dkwX12_raw_0 : List UInt8 := [42, 43, 182, 0, 9, 172]
abbrev dktX12_raw_0 : List UInt8 := dkwX12_raw_0 ++ []
theorem dksX12_raw_0 : cX12_raw.data.toList.drop 0 = dktX12_raw_0 := by decide +kernel
theorem dX12_raw_0 : decode cX12_raw 0 = .ok (.aload_n 0, 1) := dk_42 (dk_at dksX12_raw_0 0 rfl rfl)
theorem dX12_raw_1 : decode cX12_raw 1 = .ok (.aload_n 1, 1) := dk_43 (dk_at dksX12_raw_0 1 rfl rfl)
theorem dX12_raw_2 : decode cX12_raw 2 = .ok (.invokevirtual 9, 3) := dk_182 0 9 (dk_at dksX12_raw_0 2 rfl rfl)
theorem dX12_raw_5 : decode cX12_raw 5 = .ok (.ireturn, 1) := dk_172 (dk_at dksX12_raw_0 5 rfl rfl)
abbrev cX12_kind : ByteArray := prog_11_method_2_code
def yX12_kind : MethodName := ⟨RX12, "kind", "()I"⟩
theorem dX12_kind_0 : decode cX12_kind 0 = .ok (.iconst 0, 1) := by decide +kernel
theorem dX12_kind_1 : decode cX12_kind 1 = .ok (.ireturn, 1) := by decide +kernel
theorem q127 : (Jvm.Cond.initialized "PatchCords$Summer") ∈ lw_all := lw_g (lw_at lw_m1 27 rfl) rfl
theorem q435 : (Jvm.Cond.selects "PatchCords$Summer" ({ cls := "PatchCords$Part", name := "bare", desc := "()LPatchCords$Part;" } : Jvm.MethodName) ({ cls := "PatchCords$Summer", name := "bare", desc := "()LPatchCords$Part;" } : Jvm.MethodName)) ∈ lw_all := lw_g (lw_at lw_m2 95 rfl) rfl
theorem q436 : (Jvm.Cond.instanceMethod ({ cls := "PatchCords$Summer", name := "bare", desc := "()LPatchCords$Part;" } : Jvm.MethodName)) ∈ lw_all := lw_g (lw_at lw_m2 96 rfl) rfl
theorem q437 : (Jvm.Cond.code ({ cls := "PatchCords$Summer", name := "bare", desc := "()LPatchCords$Part;" } : Jvm.MethodName) prog_11_method_4_code (1 : Nat) (Option.some (Jvm.ClassFile.FieldType.object "PatchCords$Part"))) ∈ lw_all := lw_g (lw_at lw_m2 97 rfl) rfl
theorem q438 : (Jvm.Cond.classLink "PatchCords$Summer" (10 : Nat) "PatchCords$Summer") ∈ lw_all := lw_g (lw_at lw_m2 98 rfl) rfl
theorem q439 : (Jvm.Cond.instantiable "PatchCords$Summer" (3 : Nat)) ∈ lw_all := lw_g (lw_at lw_m2 99 rfl) rfl
theorem q440 : (Jvm.Cond.methodLink "PatchCords$Summer" (15 : Nat) ({ cls := "PatchCords$Summer", name := "<init>", desc := "()V" } : Jvm.MethodName)) ∈ lw_all := lw_g (lw_at lw_m2 100 rfl) rfl
theorem q441 : (Jvm.Cond.instanceMethod ({ cls := "PatchCords$Summer", name := "<init>", desc := "()V" } : Jvm.MethodName)) ∈ lw_all := lw_g (lw_at lw_m2 101 rfl) rfl
theorem q442 : (Jvm.Cond.code ({ cls := "PatchCords$Summer", name := "<init>", desc := "()V" } : Jvm.MethodName) prog_11_method_1_code (1 : Nat) (Option.none : Option Jvm.ClassFile.FieldType)) ∈ lw_all := lw_g (lw_at lw_m2 102 rfl) rfl
theorem q443 : (Jvm.Cond.methodLink "PatchCords$Summer" (3 : Nat) ({ cls := "PatchCords$Weighted", name := "<init>", desc := "()V" } : Jvm.MethodName)) ∈ lw_all := lw_g (lw_at lw_m2 103 rfl) rfl
theorem q444 : (Jvm.Cond.lays "PatchCords$Summer" "PatchCords$Weighted" "heavy" "I") ∈ lw_all := lw_g (lw_at lw_m2 104 rfl) rfl
theorem q445 : (Jvm.Cond.laysFinal "PatchCords$Summer" "PatchCords$Part" "cords" "[I") ∈ lw_all := lw_g (lw_at lw_m2 105 rfl) rfl
theorem q446 : (Jvm.Cond.lays "PatchCords$Summer" "PatchCords$Part" "peak" "I") ∈ lw_all := lw_g (lw_at lw_m2 106 rfl) rfl
theorem q447 : (Jvm.Cond.superclass "PatchCords$Summer" "PatchCords$Weighted") ∈ lw_all := lw_g (lw_at lw_m2 107 rfl) rfl
theorem q452 : (Jvm.Cond.selects "PatchCords$Summer" ({ cls := "PatchCords$Part", name := "copy", desc := "()LPatchCords$Part;" } : Jvm.MethodName) ({ cls := "PatchCords$Weighted", name := "copy", desc := "()LPatchCords$Part;" } : Jvm.MethodName)) ∈ lw_all := lw_g (lw_at lw_m2 112 rfl) rfl
theorem q494 : (Jvm.Cond.selects "PatchCords$Summer" ({ cls := "java/lang/Object", name := "getClass", desc := "()Ljava/lang/Class;" } : Jvm.MethodName) ({ cls := "java/lang/Object", name := "getClass", desc := "()Ljava/lang/Class;" } : Jvm.MethodName)) ∈ lw_all := lw_g (lw_at lw_m2 154 rfl) rfl
theorem q623 : (Jvm.Cond.selects "PatchCords$Summer" ({ cls := "PatchCords$Part", name := "raw", desc := "([I)I" } : Jvm.MethodName) ({ cls := "PatchCords$Summer", name := "raw", desc := "([I)I" } : Jvm.MethodName)) ∈ lw_all := lw_g (lw_at lw_m3 43 rfl) rfl
theorem q624 : (Jvm.Cond.instanceMethod ({ cls := "PatchCords$Summer", name := "raw", desc := "([I)I" } : Jvm.MethodName)) ∈ lw_all := lw_g (lw_at lw_m3 44 rfl) rfl
theorem q625 : (Jvm.Cond.code ({ cls := "PatchCords$Summer", name := "raw", desc := "([I)I" } : Jvm.MethodName) prog_11_method_3_code (2 : Nat) (Option.some Jvm.ClassFile.FieldType.int)) ∈ lw_all := lw_g (lw_at lw_m3 45 rfl) rfl
theorem q626 : (Jvm.Cond.methodLink "PatchCords$Summer" (9 : Nat) ({ cls := "PatchCords$Summer", name := "turnedSum", desc := "([I)I" } : Jvm.MethodName)) ∈ lw_all := lw_g (lw_at lw_m3 46 rfl) rfl
theorem q627 : (Jvm.Cond.sameMethod "PatchCords$Summer" "PatchCords$Weighted" "turnedSum" "([I)I") ∈ lw_all := lw_g (lw_at lw_m3 47 rfl) rfl
theorem q629 : (Jvm.Cond.selects "PatchCords$Summer" ({ cls := "PatchCords$Summer", name := "turnedSum", desc := "([I)I" } : Jvm.MethodName) ({ cls := "PatchCords$Weighted", name := "turnedSum", desc := "([I)I" } : Jvm.MethodName)) ∈ lw_all := lw_g (lw_at lw_m3 49 rfl) rfl
theorem q636 : (Jvm.Cond.selects "PatchCords$Summer" ({ cls := "PatchCords$Weighted", name := "weight", desc := "(I)I" } : Jvm.MethodName) ({ cls := "PatchCords$Weighted", name := "weight", desc := "(I)I" } : Jvm.MethodName)) ∈ lw_all := lw_g (lw_at lw_m3 56 rfl) rfl
theorem q660 : (Jvm.Cond.selects "PatchCords$Summer" ({ cls := "PatchCords$Part", name := "isOverloaded", desc := "([I)Z" } : Jvm.MethodName) ({ cls := "PatchCords$Part", name := "isOverloaded", desc := "([I)Z" } : Jvm.MethodName)) ∈ lw_all := lw_g (lw_at lw_m3 80 rfl) rfl
theorem q686 : (Jvm.Cond.selects "PatchCords$Summer" ({ cls := "PatchCords$Part", name := "feeders", desc := "()I" } : Jvm.MethodName) ({ cls := "PatchCords$Part", name := "feeders", desc := "()I" } : Jvm.MethodName)) ∈ lw_all := lw_g (lw_at lw_m3 106 rfl) rfl
theorem q1249 : (Jvm.Cond.selects "PatchCords$Summer" ({ cls := "PatchCords$Part", name := "isSource", desc := "()Z" } : Jvm.MethodName) ({ cls := "PatchCords$Part", name := "isSource", desc := "()Z" } : Jvm.MethodName)) ∈ lw_all := lw_g (lw_at lw_m5 189 rfl) rfl
theorem q1279 : (Jvm.Cond.selects "PatchCords$Summer" ({ cls := "PatchCords$Part", name := "kind", desc := "()I" } : Jvm.MethodName) ({ cls := "PatchCords$Summer", name := "kind", desc := "()I" } : Jvm.MethodName)) ∈ lw_all := lw_g (lw_at lw_m5 219 rfl) rfl
theorem q1280 : (Jvm.Cond.instanceMethod ({ cls := "PatchCords$Summer", name := "kind", desc := "()I" } : Jvm.MethodName)) ∈ lw_all := lw_g (lw_at lw_m5 220 rfl) rfl
theorem q1281 : (Jvm.Cond.code ({ cls := "PatchCords$Summer", name := "kind", desc := "()I" } : Jvm.MethodName) prog_11_method_2_code (1 : Nat) (Option.some Jvm.ClassFile.FieldType.int)) ∈ lw_all := lw_g (lw_at lw_m5 221 rfl) rfl
theorem q1296 : (Jvm.Cond.selects "PatchCords$Summer" ({ cls := "PatchCords$Part", name := "setting", desc := "()I" } : Jvm.MethodName) ({ cls := "PatchCords$Part", name := "setting", desc := "()I" } : Jvm.MethodName)) ∈ lw_all := lw_g (lw_at lw_m5 236 rfl) rfl
theorem q1438 : (Jvm.Cond.selects "PatchCords$Summer" ({ cls := "PatchCords$Weighted", name := "turnWeight", desc := "(I)I" } : Jvm.MethodName) ({ cls := "PatchCords$Weighted", name := "turnWeight", desc := "(I)I" } : Jvm.MethodName)) ∈ lw_all := lw_g (lw_at lw_m6 138 rfl) rfl
theorem q2396 : (Jvm.Cond.castable "PatchCords$Summer" "PatchCords$Part") ∈ lw_tbl := lw_at lw_m10 136 rfl
theorem q2398 : (Jvm.Cond.castable "PatchCords$Summer" "PatchCords$Weighted") ∈ lw_tbl := lw_at lw_m10 138 rfl
theorem q2408 : (Jvm.Cond.castable "PatchCords$Summer" "java/lang/Object") ∈ lw_tbl := lw_at lw_m10 148 rfl
theorem in_X12 : ∀ w ∈ wsX120, w ∈ lw_all := lw_in wsX120 [445, 446, 444] (by decide +kernel) (by decide +kernel)
/-! PatchCords$Reader -/
set_option maxRecDepth 100000
def RX13 : String := "PatchCords$Reader"
def TX13 : u_T := fun k => match k with
  | 0 => ("PatchCords$Reader", "source", "Ljava/lang/StringBuilder;", true)
  | 1 => ("PatchCords$Reader", "items", "Ljava/util/ArrayList;", true)
  | 2 => ("PatchCords$Reader", "at", "I", false)
  | _ => ("PatchCords$Reader", "failed", "Z", false)
def tyX13 : Nat → FieldType := fun k => match k with
  | 0 => .object "java/lang/StringBuilder"
  | 1 => .object "java/util/ArrayList"
  | 2 => .int
  | _ => .boolean
abbrev wsX130 : List Cond := u_ws RX13 TX13 4
theorem nmX13 : ∀ a, a < 4 → ∀ b, b < 4 → a ≠ b → (TX13 a).2.1 ≠ (TX13 b).2.1 := by decide +kernel
theorem tyX13_ok : ∀ k, k < 4 → parseFieldDescriptor (TX13 k).2.2.1 = some (tyX13 k) := by decide +kernel
abbrev cX13_init : ByteArray := prog_9_method_1_code
def yX13_init : MethodName := ⟨RX13, "<init>", "(Ljava/lang/StringBuilder;)V"⟩
def dkwX13_init_0 : List UInt8 := [42, 183, 0, 3, 42, 187, 0, 9, 89, 183, 0, 11, 181, 0, 12, 42, 43, 181, 0, 18, 177]
abbrev dktX13_init_0 : List UInt8 := dkwX13_init_0 ++ []
theorem dksX13_init_0 : cX13_init.data.toList.drop 0 = dktX13_init_0 := by decide +kernel
theorem dX13_init_0 : decode cX13_init 0 = .ok (.aload_n 0, 1) := dk_42 (dk_at dksX13_init_0 0 rfl rfl)
theorem dX13_init_1 : decode cX13_init 1 = .ok (.invokespecial 3, 3) := dk_183 0 3 (dk_at dksX13_init_0 1 rfl rfl)
theorem dX13_init_4 : decode cX13_init 4 = .ok (.aload_n 0, 1) := dk_42 (dk_at dksX13_init_0 4 rfl rfl)
theorem dX13_init_5 : decode cX13_init 5 = .ok (.new 9, 3) := dk_187 0 9 (dk_at dksX13_init_0 5 rfl rfl)
theorem dX13_init_8 : decode cX13_init 8 = .ok (.dup, 1) := dk_89 (dk_at dksX13_init_0 8 rfl rfl)
theorem dX13_init_9 : decode cX13_init 9 = .ok (.invokespecial 11, 3) := dk_183 0 11 (dk_at dksX13_init_0 9 rfl rfl)
theorem dX13_init_12 : decode cX13_init 12 = .ok (.putfield 12, 3) := dk_181 0 12 (dk_at dksX13_init_0 12 rfl rfl)
theorem dX13_init_15 : decode cX13_init 15 = .ok (.aload_n 0, 1) := dk_42 (dk_at dksX13_init_0 15 rfl rfl)
theorem dX13_init_16 : decode cX13_init 16 = .ok (.aload_n 1, 1) := dk_43 (dk_at dksX13_init_0 16 rfl rfl)
theorem dX13_init_17 : decode cX13_init 17 = .ok (.putfield 18, 3) := dk_181 0 18 (dk_at dksX13_init_0 17 rfl rfl)
theorem dX13_init_20 : decode cX13_init 20 = .ok (.return_, 1) := dk_177 (dk_at dksX13_init_0 20 rfl rfl)
abbrev cX13_read : ByteArray := prog_9_method_10_code
def yX13_read : MethodName := ⟨RX13, "read", "()I"⟩
def dkwX13_read_3 : List UInt8 := [167, 255, 198, 42, 180, 0, 36, 153, 0, 10, 42, 180, 0, 22, 167, 0, 4, 2, 172]
abbrev dktX13_read_3 : List UInt8 := dkwX13_read_3 ++ []
def dkwX13_read_2 : List UInt8 := [182, 0, 54, 42, 180, 0, 36, 154, 255, 213, 42, 180, 0, 12, 42, 182, 0, 79, 182, 0, 83, 87]
abbrev dktX13_read_2 : List UInt8 := dkwX13_read_2 ++ dktX13_read_3
def dkwX13_read_1 : List UInt8 := [180, 0, 18, 182, 0, 26, 162, 0, 43, 42, 42, 182, 0, 40, 16, 59, 160, 0, 7, 4, 167, 0, 4, 3]
abbrev dktX13_read_1 : List UInt8 := dkwX13_read_1 ++ dktX13_read_2
def dkwX13_read_0 : List UInt8 := [42, 180, 0, 12, 42, 182, 0, 79, 182, 0, 83, 87, 42, 180, 0, 36, 154, 0, 57, 42, 180, 0, 22, 42]
abbrev dktX13_read_0 : List UInt8 := dkwX13_read_0 ++ dktX13_read_1
theorem dksX13_read_0 : cX13_read.data.toList.drop 0 = dktX13_read_0 := by decide +kernel
theorem dksX13_read_1 : cX13_read.data.toList.drop 24 = dktX13_read_1 := dk_seg dksX13_read_0 24 rfl rfl
theorem dksX13_read_2 : cX13_read.data.toList.drop 48 = dktX13_read_2 := dk_seg dksX13_read_1 24 rfl rfl
theorem dksX13_read_3 : cX13_read.data.toList.drop 70 = dktX13_read_3 := dk_seg dksX13_read_2 22 rfl rfl
theorem dX13_read_0 : decode cX13_read 0 = .ok (.aload_n 0, 1) := dk_42 (dk_at dksX13_read_0 0 rfl rfl)
theorem dX13_read_1 : decode cX13_read 1 = .ok (.getfield 12, 3) := dk_180 0 12 (dk_at dksX13_read_0 1 rfl rfl)
theorem dX13_read_4 : decode cX13_read 4 = .ok (.aload_n 0, 1) := dk_42 (dk_at dksX13_read_0 4 rfl rfl)
theorem dX13_read_5 : decode cX13_read 5 = .ok (.invokevirtual 79, 3) := dk_182 0 79 (dk_at dksX13_read_0 5 rfl rfl)
theorem dX13_read_8 : decode cX13_read 8 = .ok (.invokevirtual 83, 3) := dk_182 0 83 (dk_at dksX13_read_0 8 rfl rfl)
theorem dX13_read_11 : decode cX13_read 11 = .ok (.pop, 1) := dk_87 (dk_at dksX13_read_0 11 rfl rfl)
theorem dX13_read_12 : decode cX13_read 12 = .ok (.aload_n 0, 1) := dk_42 (dk_at dksX13_read_0 12 rfl rfl)
theorem dX13_read_13 : decode cX13_read 13 = .ok (.getfield 36, 3) := dk_180 0 36 (dk_at dksX13_read_0 13 rfl rfl)
theorem dX13_read_16 : decode cX13_read 16 = .ok (.ifCond .ne 57, 3) := dk_154 0 57 (dk_at dksX13_read_0 16 rfl rfl)
theorem dX13_read_19 : decode cX13_read 19 = .ok (.aload_n 0, 1) := dk_42 (dk_at dksX13_read_0 19 rfl rfl)
theorem dX13_read_20 : decode cX13_read 20 = .ok (.getfield 22, 3) := dk_180 0 22 (dk_at dksX13_read_0 20 rfl rfl)
theorem dX13_read_23 : decode cX13_read 23 = .ok (.aload_n 0, 1) := dk_42 (dk_at dksX13_read_0 23 rfl rfl)
theorem dX13_read_24 : decode cX13_read 24 = .ok (.getfield 18, 3) := dk_180 0 18 (dk_at dksX13_read_1 0 rfl rfl)
theorem dX13_read_27 : decode cX13_read 27 = .ok (.invokevirtual 26, 3) := dk_182 0 26 (dk_at dksX13_read_1 3 rfl rfl)
theorem dX13_read_30 : decode cX13_read 30 = .ok (.if_icmp .ge 43, 3) := dk_162 0 43 (dk_at dksX13_read_1 6 rfl rfl)
theorem dX13_read_33 : decode cX13_read 33 = .ok (.aload_n 0, 1) := dk_42 (dk_at dksX13_read_1 9 rfl rfl)
theorem dX13_read_34 : decode cX13_read 34 = .ok (.aload_n 0, 1) := dk_42 (dk_at dksX13_read_1 10 rfl rfl)
theorem dX13_read_35 : decode cX13_read 35 = .ok (.invokevirtual 40, 3) := dk_182 0 40 (dk_at dksX13_read_1 11 rfl rfl)
theorem dX13_read_38 : decode cX13_read 38 = .ok (.bipush 59, 2) := dk_16 59 (dk_at dksX13_read_1 14 rfl rfl)
theorem dX13_read_40 : decode cX13_read 40 = .ok (.if_icmp .ne 7, 3) := dk_160 0 7 (dk_at dksX13_read_1 16 rfl rfl)
theorem dX13_read_43 : decode cX13_read 43 = .ok (.iconst 1, 1) := dk_4 (dk_at dksX13_read_1 19 rfl rfl)
theorem dX13_read_44 : decode cX13_read 44 = .ok (.goto 4, 3) := dk_167 0 4 (dk_at dksX13_read_1 20 rfl rfl)
theorem dX13_read_47 : decode cX13_read 47 = .ok (.iconst 0, 1) := dk_3 (dk_at dksX13_read_1 23 rfl rfl)
theorem dX13_read_48 : decode cX13_read 48 = .ok (.invokevirtual 54, 3) := dk_182 0 54 (dk_at dksX13_read_2 0 rfl rfl)
theorem dX13_read_51 : decode cX13_read 51 = .ok (.aload_n 0, 1) := dk_42 (dk_at dksX13_read_2 3 rfl rfl)
theorem dX13_read_52 : decode cX13_read 52 = .ok (.getfield 36, 3) := dk_180 0 36 (dk_at dksX13_read_2 4 rfl rfl)
theorem dX13_read_55 : decode cX13_read 55 = .ok (.ifCond .ne (-43), 3) := dk_154 255 213 (dk_at dksX13_read_2 7 rfl rfl)
theorem dX13_read_58 : decode cX13_read 58 = .ok (.aload_n 0, 1) := dk_42 (dk_at dksX13_read_2 10 rfl rfl)
theorem dX13_read_59 : decode cX13_read 59 = .ok (.getfield 12, 3) := dk_180 0 12 (dk_at dksX13_read_2 11 rfl rfl)
theorem dX13_read_62 : decode cX13_read 62 = .ok (.aload_n 0, 1) := dk_42 (dk_at dksX13_read_2 14 rfl rfl)
theorem dX13_read_63 : decode cX13_read 63 = .ok (.invokevirtual 79, 3) := dk_182 0 79 (dk_at dksX13_read_2 15 rfl rfl)
theorem dX13_read_66 : decode cX13_read 66 = .ok (.invokevirtual 83, 3) := dk_182 0 83 (dk_at dksX13_read_2 18 rfl rfl)
theorem dX13_read_69 : decode cX13_read 69 = .ok (.pop, 1) := dk_87 (dk_at dksX13_read_2 21 rfl rfl)
theorem dX13_read_70 : decode cX13_read 70 = .ok (.goto (-58), 3) := dk_167 255 198 (dk_at dksX13_read_3 0 rfl rfl)
theorem dX13_read_73 : decode cX13_read 73 = .ok (.aload_n 0, 1) := dk_42 (dk_at dksX13_read_3 3 rfl rfl)
theorem dX13_read_74 : decode cX13_read 74 = .ok (.getfield 36, 3) := dk_180 0 36 (dk_at dksX13_read_3 4 rfl rfl)
theorem dX13_read_77 : decode cX13_read 77 = .ok (.ifCond .eq 10, 3) := dk_153 0 10 (dk_at dksX13_read_3 7 rfl rfl)
theorem dX13_read_80 : decode cX13_read 80 = .ok (.aload_n 0, 1) := dk_42 (dk_at dksX13_read_3 10 rfl rfl)
theorem dX13_read_81 : decode cX13_read 81 = .ok (.getfield 22, 3) := dk_180 0 22 (dk_at dksX13_read_3 11 rfl rfl)
theorem dX13_read_84 : decode cX13_read 84 = .ok (.goto 4, 3) := dk_167 0 4 (dk_at dksX13_read_3 14 rfl rfl)
theorem dX13_read_87 : decode cX13_read 87 = .ok (.iconst (-1), 1) := dk_2 (dk_at dksX13_read_3 17 rfl rfl)
theorem dX13_read_88 : decode cX13_read 88 = .ok (.ireturn, 1) := dk_172 (dk_at dksX13_read_3 18 rfl rfl)
abbrev cX13_item : ByteArray := prog_9_method_8_code
def yX13_item : MethodName := ⟨RX13, "item", "()LPatchCords$Item;"⟩
def dkwX13_item_4 : List UInt8 := [28, 29, 42, 182, 0, 70, 183, 0, 73, 176]
abbrev dktX13_item_4 : List UInt8 := dkwX13_item_4 ++ []
def dkwX13_item_3 : List UInt8 := [16, 62, 160, 0, 7, 4, 167, 0, 4, 3, 182, 0, 54, 42, 182, 0, 65, 62, 187, 0, 68, 89, 16, 62]
abbrev dktX13_item_3 : List UInt8 := dkwX13_item_3 ++ dktX13_item_4
def dkwX13_item_2 : List UInt8 := [167, 0, 4, 3, 182, 0, 54, 42, 27, 182, 0, 61, 176, 42, 182, 0, 65, 61, 42, 42, 182, 0, 40]
abbrev dktX13_item_2 : List UInt8 := dkwX13_item_2 ++ dktX13_item_3
def dkwX13_item_1 : List UInt8 := [16, 120, 159, 0, 21, 27, 16, 118, 159, 0, 15, 27, 16, 102, 159, 0, 9, 27, 16, 43, 160, 0, 7, 4]
abbrev dktX13_item_1 : List UInt8 := dkwX13_item_1 ++ dktX13_item_2
def dkwX13_item_0 : List UInt8 := [42, 182, 0, 40, 60, 27, 16, 48, 16, 57, 184, 0, 50, 154, 0, 48, 42, 27, 16, 110, 159, 0, 27, 27]
abbrev dktX13_item_0 : List UInt8 := dkwX13_item_0 ++ dktX13_item_1
theorem dksX13_item_0 : cX13_item.data.toList.drop 0 = dktX13_item_0 := by decide +kernel
theorem dksX13_item_1 : cX13_item.data.toList.drop 24 = dktX13_item_1 := dk_seg dksX13_item_0 24 rfl rfl
theorem dksX13_item_2 : cX13_item.data.toList.drop 48 = dktX13_item_2 := dk_seg dksX13_item_1 24 rfl rfl
theorem dksX13_item_3 : cX13_item.data.toList.drop 71 = dktX13_item_3 := dk_seg dksX13_item_2 23 rfl rfl
theorem dksX13_item_4 : cX13_item.data.toList.drop 95 = dktX13_item_4 := dk_seg dksX13_item_3 24 rfl rfl
theorem dX13_item_0 : decode cX13_item 0 = .ok (.aload_n 0, 1) := dk_42 (dk_at dksX13_item_0 0 rfl rfl)
theorem dX13_item_1 : decode cX13_item 1 = .ok (.invokevirtual 40, 3) := dk_182 0 40 (dk_at dksX13_item_0 1 rfl rfl)
theorem dX13_item_4 : decode cX13_item 4 = .ok (.istore_n 1, 1) := dk_60 (dk_at dksX13_item_0 4 rfl rfl)
theorem dX13_item_5 : decode cX13_item 5 = .ok (.iload_n 1, 1) := dk_27 (dk_at dksX13_item_0 5 rfl rfl)
theorem dX13_item_6 : decode cX13_item 6 = .ok (.bipush 48, 2) := dk_16 48 (dk_at dksX13_item_0 6 rfl rfl)
theorem dX13_item_8 : decode cX13_item 8 = .ok (.bipush 57, 2) := dk_16 57 (dk_at dksX13_item_0 8 rfl rfl)
theorem dX13_item_10 : decode cX13_item 10 = .ok (.invokestatic 50, 3) := dk_184 0 50 (dk_at dksX13_item_0 10 rfl rfl)
theorem dX13_item_13 : decode cX13_item 13 = .ok (.ifCond .ne 48, 3) := dk_154 0 48 (dk_at dksX13_item_0 13 rfl rfl)
theorem dX13_item_16 : decode cX13_item 16 = .ok (.aload_n 0, 1) := dk_42 (dk_at dksX13_item_0 16 rfl rfl)
theorem dX13_item_17 : decode cX13_item 17 = .ok (.iload_n 1, 1) := dk_27 (dk_at dksX13_item_0 17 rfl rfl)
theorem dX13_item_18 : decode cX13_item 18 = .ok (.bipush 110, 2) := dk_16 110 (dk_at dksX13_item_0 18 rfl rfl)
theorem dX13_item_20 : decode cX13_item 20 = .ok (.if_icmp .eq 27, 3) := dk_159 0 27 (dk_at dksX13_item_0 20 rfl rfl)
theorem dX13_item_23 : decode cX13_item 23 = .ok (.iload_n 1, 1) := dk_27 (dk_at dksX13_item_0 23 rfl rfl)
theorem dX13_item_24 : decode cX13_item 24 = .ok (.bipush 120, 2) := dk_16 120 (dk_at dksX13_item_1 0 rfl rfl)
theorem dX13_item_26 : decode cX13_item 26 = .ok (.if_icmp .eq 21, 3) := dk_159 0 21 (dk_at dksX13_item_1 2 rfl rfl)
theorem dX13_item_29 : decode cX13_item 29 = .ok (.iload_n 1, 1) := dk_27 (dk_at dksX13_item_1 5 rfl rfl)
theorem dX13_item_30 : decode cX13_item 30 = .ok (.bipush 118, 2) := dk_16 118 (dk_at dksX13_item_1 6 rfl rfl)
theorem dX13_item_32 : decode cX13_item 32 = .ok (.if_icmp .eq 15, 3) := dk_159 0 15 (dk_at dksX13_item_1 8 rfl rfl)
theorem dX13_item_35 : decode cX13_item 35 = .ok (.iload_n 1, 1) := dk_27 (dk_at dksX13_item_1 11 rfl rfl)
theorem dX13_item_36 : decode cX13_item 36 = .ok (.bipush 102, 2) := dk_16 102 (dk_at dksX13_item_1 12 rfl rfl)
theorem dX13_item_38 : decode cX13_item 38 = .ok (.if_icmp .eq 9, 3) := dk_159 0 9 (dk_at dksX13_item_1 14 rfl rfl)
theorem dX13_item_41 : decode cX13_item 41 = .ok (.iload_n 1, 1) := dk_27 (dk_at dksX13_item_1 17 rfl rfl)
theorem dX13_item_42 : decode cX13_item 42 = .ok (.bipush 43, 2) := dk_16 43 (dk_at dksX13_item_1 18 rfl rfl)
theorem dX13_item_44 : decode cX13_item 44 = .ok (.if_icmp .ne 7, 3) := dk_160 0 7 (dk_at dksX13_item_1 20 rfl rfl)
theorem dX13_item_47 : decode cX13_item 47 = .ok (.iconst 1, 1) := dk_4 (dk_at dksX13_item_1 23 rfl rfl)
theorem dX13_item_48 : decode cX13_item 48 = .ok (.goto 4, 3) := dk_167 0 4 (dk_at dksX13_item_2 0 rfl rfl)
theorem dX13_item_51 : decode cX13_item 51 = .ok (.iconst 0, 1) := dk_3 (dk_at dksX13_item_2 3 rfl rfl)
theorem dX13_item_52 : decode cX13_item 52 = .ok (.invokevirtual 54, 3) := dk_182 0 54 (dk_at dksX13_item_2 4 rfl rfl)
theorem dX13_item_55 : decode cX13_item 55 = .ok (.aload_n 0, 1) := dk_42 (dk_at dksX13_item_2 7 rfl rfl)
theorem dX13_item_56 : decode cX13_item 56 = .ok (.iload_n 1, 1) := dk_27 (dk_at dksX13_item_2 8 rfl rfl)
theorem dX13_item_57 : decode cX13_item 57 = .ok (.invokevirtual 61, 3) := dk_182 0 61 (dk_at dksX13_item_2 9 rfl rfl)
theorem dX13_item_60 : decode cX13_item 60 = .ok (.areturn, 1) := dk_176 (dk_at dksX13_item_2 12 rfl rfl)
theorem dX13_item_61 : decode cX13_item 61 = .ok (.aload_n 0, 1) := dk_42 (dk_at dksX13_item_2 13 rfl rfl)
theorem dX13_item_62 : decode cX13_item 62 = .ok (.invokevirtual 65, 3) := dk_182 0 65 (dk_at dksX13_item_2 14 rfl rfl)
theorem dX13_item_65 : decode cX13_item 65 = .ok (.istore_n 2, 1) := dk_61 (dk_at dksX13_item_2 17 rfl rfl)
theorem dX13_item_66 : decode cX13_item 66 = .ok (.aload_n 0, 1) := dk_42 (dk_at dksX13_item_2 18 rfl rfl)
theorem dX13_item_67 : decode cX13_item 67 = .ok (.aload_n 0, 1) := dk_42 (dk_at dksX13_item_2 19 rfl rfl)
theorem dX13_item_68 : decode cX13_item 68 = .ok (.invokevirtual 40, 3) := dk_182 0 40 (dk_at dksX13_item_2 20 rfl rfl)
theorem dX13_item_71 : decode cX13_item 71 = .ok (.bipush 62, 2) := dk_16 62 (dk_at dksX13_item_3 0 rfl rfl)
theorem dX13_item_73 : decode cX13_item 73 = .ok (.if_icmp .ne 7, 3) := dk_160 0 7 (dk_at dksX13_item_3 2 rfl rfl)
theorem dX13_item_76 : decode cX13_item 76 = .ok (.iconst 1, 1) := dk_4 (dk_at dksX13_item_3 5 rfl rfl)
theorem dX13_item_77 : decode cX13_item 77 = .ok (.goto 4, 3) := dk_167 0 4 (dk_at dksX13_item_3 6 rfl rfl)
theorem dX13_item_80 : decode cX13_item 80 = .ok (.iconst 0, 1) := dk_3 (dk_at dksX13_item_3 9 rfl rfl)
theorem dX13_item_81 : decode cX13_item 81 = .ok (.invokevirtual 54, 3) := dk_182 0 54 (dk_at dksX13_item_3 10 rfl rfl)
theorem dX13_item_84 : decode cX13_item 84 = .ok (.aload_n 0, 1) := dk_42 (dk_at dksX13_item_3 13 rfl rfl)
theorem dX13_item_85 : decode cX13_item 85 = .ok (.invokevirtual 65, 3) := dk_182 0 65 (dk_at dksX13_item_3 14 rfl rfl)
theorem dX13_item_88 : decode cX13_item 88 = .ok (.istore_n 3, 1) := dk_62 (dk_at dksX13_item_3 17 rfl rfl)
theorem dX13_item_89 : decode cX13_item 89 = .ok (.new 68, 3) := dk_187 0 68 (dk_at dksX13_item_3 18 rfl rfl)
theorem dX13_item_92 : decode cX13_item 92 = .ok (.dup, 1) := dk_89 (dk_at dksX13_item_3 21 rfl rfl)
theorem dX13_item_93 : decode cX13_item 93 = .ok (.bipush 62, 2) := dk_16 62 (dk_at dksX13_item_3 22 rfl rfl)
theorem dX13_item_95 : decode cX13_item 95 = .ok (.iload_n 2, 1) := dk_28 (dk_at dksX13_item_4 0 rfl rfl)
theorem dX13_item_96 : decode cX13_item 96 = .ok (.iload_n 3, 1) := dk_29 (dk_at dksX13_item_4 1 rfl rfl)
theorem dX13_item_97 : decode cX13_item 97 = .ok (.aload_n 0, 1) := dk_42 (dk_at dksX13_item_4 2 rfl rfl)
theorem dX13_item_98 : decode cX13_item 98 = .ok (.invokevirtual 70, 3) := dk_182 0 70 (dk_at dksX13_item_4 3 rfl rfl)
theorem dX13_item_101 : decode cX13_item 101 = .ok (.invokespecial 73, 3) := dk_183 0 73 (dk_at dksX13_item_4 6 rfl rfl)
theorem dX13_item_104 : decode cX13_item 104 = .ok (.areturn, 1) := dk_176 (dk_at dksX13_item_4 9 rfl rfl)
abbrev cX13_here : ByteArray := prog_9_method_2_code
def yX13_here : MethodName := ⟨RX13, "here", "()C"⟩
def dkwX13_here_1 : List UInt8 := [182, 0, 32, 167, 0, 5, 16, 32, 172]
abbrev dktX13_here_1 : List UInt8 := dkwX13_here_1 ++ []
def dkwX13_here_0 : List UInt8 := [42, 180, 0, 22, 42, 180, 0, 18, 182, 0, 26, 162, 0, 17, 42, 180, 0, 18, 42, 180, 0, 22]
abbrev dktX13_here_0 : List UInt8 := dkwX13_here_0 ++ dktX13_here_1
theorem dksX13_here_0 : cX13_here.data.toList.drop 0 = dktX13_here_0 := by decide +kernel
theorem dksX13_here_1 : cX13_here.data.toList.drop 22 = dktX13_here_1 := dk_seg dksX13_here_0 22 rfl rfl
theorem dX13_here_0 : decode cX13_here 0 = .ok (.aload_n 0, 1) := dk_42 (dk_at dksX13_here_0 0 rfl rfl)
theorem dX13_here_1 : decode cX13_here 1 = .ok (.getfield 22, 3) := dk_180 0 22 (dk_at dksX13_here_0 1 rfl rfl)
theorem dX13_here_4 : decode cX13_here 4 = .ok (.aload_n 0, 1) := dk_42 (dk_at dksX13_here_0 4 rfl rfl)
theorem dX13_here_5 : decode cX13_here 5 = .ok (.getfield 18, 3) := dk_180 0 18 (dk_at dksX13_here_0 5 rfl rfl)
theorem dX13_here_8 : decode cX13_here 8 = .ok (.invokevirtual 26, 3) := dk_182 0 26 (dk_at dksX13_here_0 8 rfl rfl)
theorem dX13_here_11 : decode cX13_here 11 = .ok (.if_icmp .ge 17, 3) := dk_162 0 17 (dk_at dksX13_here_0 11 rfl rfl)
theorem dX13_here_14 : decode cX13_here 14 = .ok (.aload_n 0, 1) := dk_42 (dk_at dksX13_here_0 14 rfl rfl)
theorem dX13_here_15 : decode cX13_here 15 = .ok (.getfield 18, 3) := dk_180 0 18 (dk_at dksX13_here_0 15 rfl rfl)
theorem dX13_here_18 : decode cX13_here 18 = .ok (.aload_n 0, 1) := dk_42 (dk_at dksX13_here_0 18 rfl rfl)
theorem dX13_here_19 : decode cX13_here 19 = .ok (.getfield 22, 3) := dk_180 0 22 (dk_at dksX13_here_0 19 rfl rfl)
theorem dX13_here_22 : decode cX13_here 22 = .ok (.invokevirtual 32, 3) := dk_182 0 32 (dk_at dksX13_here_1 0 rfl rfl)
theorem dX13_here_25 : decode cX13_here 25 = .ok (.goto 5, 3) := dk_167 0 5 (dk_at dksX13_here_1 3 rfl rfl)
theorem dX13_here_28 : decode cX13_here 28 = .ok (.bipush 32, 2) := dk_16 32 (dk_at dksX13_here_1 6 rfl rfl)
theorem dX13_here_30 : decode cX13_here 30 = .ok (.ireturn, 1) := dk_172 (dk_at dksX13_here_1 8 rfl rfl)
abbrev cX13_step : ByteArray := prog_9_method_3_code
def yX13_step : MethodName := ⟨RX13, "step", "(Z)V"⟩
def dkwX13_step_1 : List UInt8 := [180, 0, 22, 42, 180, 0, 36, 153, 0, 7, 3, 167, 0, 4, 4, 96, 181, 0, 22, 177]
abbrev dktX13_step_1 : List UInt8 := dkwX13_step_1 ++ []
def dkwX13_step_0 : List UInt8 := [42, 42, 180, 0, 36, 154, 0, 7, 27, 154, 0, 7, 4, 167, 0, 4, 3, 181, 0, 36, 42, 89]
abbrev dktX13_step_0 : List UInt8 := dkwX13_step_0 ++ dktX13_step_1
theorem dksX13_step_0 : cX13_step.data.toList.drop 0 = dktX13_step_0 := by decide +kernel
theorem dksX13_step_1 : cX13_step.data.toList.drop 22 = dktX13_step_1 := dk_seg dksX13_step_0 22 rfl rfl
theorem dX13_step_0 : decode cX13_step 0 = .ok (.aload_n 0, 1) := dk_42 (dk_at dksX13_step_0 0 rfl rfl)
theorem dX13_step_1 : decode cX13_step 1 = .ok (.aload_n 0, 1) := dk_42 (dk_at dksX13_step_0 1 rfl rfl)
theorem dX13_step_2 : decode cX13_step 2 = .ok (.getfield 36, 3) := dk_180 0 36 (dk_at dksX13_step_0 2 rfl rfl)
theorem dX13_step_5 : decode cX13_step 5 = .ok (.ifCond .ne 7, 3) := dk_154 0 7 (dk_at dksX13_step_0 5 rfl rfl)
theorem dX13_step_8 : decode cX13_step 8 = .ok (.iload_n 1, 1) := dk_27 (dk_at dksX13_step_0 8 rfl rfl)
theorem dX13_step_9 : decode cX13_step 9 = .ok (.ifCond .ne 7, 3) := dk_154 0 7 (dk_at dksX13_step_0 9 rfl rfl)
theorem dX13_step_12 : decode cX13_step 12 = .ok (.iconst 1, 1) := dk_4 (dk_at dksX13_step_0 12 rfl rfl)
theorem dX13_step_13 : decode cX13_step 13 = .ok (.goto 4, 3) := dk_167 0 4 (dk_at dksX13_step_0 13 rfl rfl)
theorem dX13_step_16 : decode cX13_step 16 = .ok (.iconst 0, 1) := dk_3 (dk_at dksX13_step_0 16 rfl rfl)
theorem dX13_step_17 : decode cX13_step 17 = .ok (.putfield 36, 3) := dk_181 0 36 (dk_at dksX13_step_0 17 rfl rfl)
theorem dX13_step_20 : decode cX13_step 20 = .ok (.aload_n 0, 1) := dk_42 (dk_at dksX13_step_0 20 rfl rfl)
theorem dX13_step_21 : decode cX13_step 21 = .ok (.dup, 1) := dk_89 (dk_at dksX13_step_0 21 rfl rfl)
theorem dX13_step_22 : decode cX13_step 22 = .ok (.getfield 22, 3) := dk_180 0 22 (dk_at dksX13_step_1 0 rfl rfl)
theorem dX13_step_25 : decode cX13_step 25 = .ok (.aload_n 0, 1) := dk_42 (dk_at dksX13_step_1 3 rfl rfl)
theorem dX13_step_26 : decode cX13_step 26 = .ok (.getfield 36, 3) := dk_180 0 36 (dk_at dksX13_step_1 4 rfl rfl)
theorem dX13_step_29 : decode cX13_step 29 = .ok (.ifCond .eq 7, 3) := dk_153 0 7 (dk_at dksX13_step_1 7 rfl rfl)
theorem dX13_step_32 : decode cX13_step 32 = .ok (.iconst 0, 1) := dk_3 (dk_at dksX13_step_1 10 rfl rfl)
theorem dX13_step_33 : decode cX13_step 33 = .ok (.goto 4, 3) := dk_167 0 4 (dk_at dksX13_step_1 11 rfl rfl)
theorem dX13_step_36 : decode cX13_step 36 = .ok (.iconst 1, 1) := dk_4 (dk_at dksX13_step_1 14 rfl rfl)
theorem dX13_step_37 : decode cX13_step 37 = .ok (.iadd, 1) := dk_96 (dk_at dksX13_step_1 15 rfl rfl)
theorem dX13_step_38 : decode cX13_step 38 = .ok (.putfield 22, 3) := dk_181 0 22 (dk_at dksX13_step_1 16 rfl rfl)
theorem dX13_step_41 : decode cX13_step 41 = .ok (.return_, 1) := dk_177 (dk_at dksX13_step_1 19 rfl rfl)
abbrev cX13_setting : ByteArray := prog_9_method_9_code
def yX13_setting : MethodName := ⟨RX13, "setting", "(C)LPatchCords$Item;"⟩
def dkwX13_setting_6 : List UInt8 := [167, 0, 11, 42, 3, 17, 3, 232, 182, 0, 58, 3, 183, 0, 73, 176]
abbrev dktX13_setting_6 : List UInt8 := dkwX13_setting_6 ++ []
def dkwX13_setting_5 : List UInt8 := [167, 0, 4, 3, 182, 0, 54, 187, 0, 68, 89, 27, 29, 27, 16, 118, 160, 0, 10, 42, 182, 0, 76]
abbrev dktX13_setting_5 : List UInt8 := dkwX13_setting_5 ++ dktX13_setting_6
def dkwX13_setting_4 : List UInt8 := [42, 182, 0, 70, 183, 0, 73, 176, 42, 182, 0, 65, 62, 42, 42, 182, 0, 40, 16, 58, 160, 0, 7, 4]
abbrev dktX13_setting_4 : List UInt8 := dkwX13_setting_4 ++ dktX13_setting_5
def dkwX13_setting_3 : List UInt8 := [17, 3, 231, 182, 0, 58, 3, 3, 183, 0, 73, 176, 42, 182, 0, 65, 61, 187, 0, 68, 89, 27, 28, 3]
abbrev dktX13_setting_3 : List UInt8 := dkwX13_setting_3 ++ dktX13_setting_4
def dkwX13_setting_2 : List UInt8 := [187, 0, 68, 89, 27, 42, 3, 8, 182, 0, 58, 3, 3, 183, 0, 73, 176, 187, 0, 68, 89, 27, 42, 4]
abbrev dktX13_setting_2 : List UInt8 := dkwX13_setting_2 ++ dktX13_setting_3
def dkwX13_setting_1 : List UInt8 := [171, 0, 0, 0, 0, 0, 91, 0, 0, 0, 3, 0, 0, 0, 43, 0, 0, 0, 52, 0, 0, 0, 110, 0, 0, 0, 35, 0, 0, 0, 120, 0, 0, 0, 71]
abbrev dktX13_setting_1 : List UInt8 := dkwX13_setting_1 ++ dktX13_setting_2
def dkwX13_setting_0 : List UInt8 := [27]
abbrev dktX13_setting_0 : List UInt8 := dkwX13_setting_0 ++ dktX13_setting_1
theorem dksX13_setting_0 : cX13_setting.data.toList.drop 0 = dktX13_setting_0 := by decide +kernel
theorem dksX13_setting_1 : cX13_setting.data.toList.drop 1 = dktX13_setting_1 := dk_seg dksX13_setting_0 1 rfl rfl
theorem dksX13_setting_2 : cX13_setting.data.toList.drop 36 = dktX13_setting_2 := dk_seg dksX13_setting_1 35 rfl rfl
theorem dksX13_setting_3 : cX13_setting.data.toList.drop 60 = dktX13_setting_3 := dk_seg dksX13_setting_2 24 rfl rfl
theorem dksX13_setting_4 : cX13_setting.data.toList.drop 84 = dktX13_setting_4 := dk_seg dksX13_setting_3 24 rfl rfl
theorem dksX13_setting_5 : cX13_setting.data.toList.drop 108 = dktX13_setting_5 := dk_seg dksX13_setting_4 24 rfl rfl
theorem dksX13_setting_6 : cX13_setting.data.toList.drop 131 = dktX13_setting_6 := dk_seg dksX13_setting_5 23 rfl rfl
theorem dX13_setting_0 : decode cX13_setting 0 = .ok (.iload_n 1, 1) := dk_27 (dk_at dksX13_setting_0 0 rfl rfl)
theorem dX13_setting_1 : decode cX13_setting 1 = .ok (.lookupswitch 91 #[(43, 52), (110, 35), (120, 71)], 35) := by decide +kernel
theorem dX13_setting_36 : decode cX13_setting 36 = .ok (.new 68, 3) := dk_187 0 68 (dk_at dksX13_setting_2 0 rfl rfl)
theorem dX13_setting_39 : decode cX13_setting 39 = .ok (.dup, 1) := dk_89 (dk_at dksX13_setting_2 3 rfl rfl)
theorem dX13_setting_40 : decode cX13_setting 40 = .ok (.iload_n 1, 1) := dk_27 (dk_at dksX13_setting_2 4 rfl rfl)
theorem dX13_setting_41 : decode cX13_setting 41 = .ok (.aload_n 0, 1) := dk_42 (dk_at dksX13_setting_2 5 rfl rfl)
theorem dX13_setting_42 : decode cX13_setting 42 = .ok (.iconst 0, 1) := dk_3 (dk_at dksX13_setting_2 6 rfl rfl)
theorem dX13_setting_43 : decode cX13_setting 43 = .ok (.iconst 5, 1) := dk_8 (dk_at dksX13_setting_2 7 rfl rfl)
theorem dX13_setting_44 : decode cX13_setting 44 = .ok (.invokevirtual 58, 3) := dk_182 0 58 (dk_at dksX13_setting_2 8 rfl rfl)
theorem dX13_setting_47 : decode cX13_setting 47 = .ok (.iconst 0, 1) := dk_3 (dk_at dksX13_setting_2 11 rfl rfl)
theorem dX13_setting_48 : decode cX13_setting 48 = .ok (.iconst 0, 1) := dk_3 (dk_at dksX13_setting_2 12 rfl rfl)
theorem dX13_setting_49 : decode cX13_setting 49 = .ok (.invokespecial 73, 3) := dk_183 0 73 (dk_at dksX13_setting_2 13 rfl rfl)
theorem dX13_setting_52 : decode cX13_setting 52 = .ok (.areturn, 1) := dk_176 (dk_at dksX13_setting_2 16 rfl rfl)
theorem dX13_setting_53 : decode cX13_setting 53 = .ok (.new 68, 3) := dk_187 0 68 (dk_at dksX13_setting_2 17 rfl rfl)
theorem dX13_setting_56 : decode cX13_setting 56 = .ok (.dup, 1) := dk_89 (dk_at dksX13_setting_2 20 rfl rfl)
theorem dX13_setting_57 : decode cX13_setting 57 = .ok (.iload_n 1, 1) := dk_27 (dk_at dksX13_setting_2 21 rfl rfl)
theorem dX13_setting_58 : decode cX13_setting 58 = .ok (.aload_n 0, 1) := dk_42 (dk_at dksX13_setting_2 22 rfl rfl)
theorem dX13_setting_59 : decode cX13_setting 59 = .ok (.iconst 1, 1) := dk_4 (dk_at dksX13_setting_2 23 rfl rfl)
theorem dX13_setting_60 : decode cX13_setting 60 = .ok (.sipush 999, 3) := dk_17 3 231 (dk_at dksX13_setting_3 0 rfl rfl)
theorem dX13_setting_63 : decode cX13_setting 63 = .ok (.invokevirtual 58, 3) := dk_182 0 58 (dk_at dksX13_setting_3 3 rfl rfl)
theorem dX13_setting_66 : decode cX13_setting 66 = .ok (.iconst 0, 1) := dk_3 (dk_at dksX13_setting_3 6 rfl rfl)
theorem dX13_setting_67 : decode cX13_setting 67 = .ok (.iconst 0, 1) := dk_3 (dk_at dksX13_setting_3 7 rfl rfl)
theorem dX13_setting_68 : decode cX13_setting 68 = .ok (.invokespecial 73, 3) := dk_183 0 73 (dk_at dksX13_setting_3 8 rfl rfl)
theorem dX13_setting_71 : decode cX13_setting 71 = .ok (.areturn, 1) := dk_176 (dk_at dksX13_setting_3 11 rfl rfl)
theorem dX13_setting_72 : decode cX13_setting 72 = .ok (.aload_n 0, 1) := dk_42 (dk_at dksX13_setting_3 12 rfl rfl)
theorem dX13_setting_73 : decode cX13_setting 73 = .ok (.invokevirtual 65, 3) := dk_182 0 65 (dk_at dksX13_setting_3 13 rfl rfl)
theorem dX13_setting_76 : decode cX13_setting 76 = .ok (.istore_n 2, 1) := dk_61 (dk_at dksX13_setting_3 16 rfl rfl)
theorem dX13_setting_77 : decode cX13_setting 77 = .ok (.new 68, 3) := dk_187 0 68 (dk_at dksX13_setting_3 17 rfl rfl)
theorem dX13_setting_80 : decode cX13_setting 80 = .ok (.dup, 1) := dk_89 (dk_at dksX13_setting_3 20 rfl rfl)
theorem dX13_setting_81 : decode cX13_setting 81 = .ok (.iload_n 1, 1) := dk_27 (dk_at dksX13_setting_3 21 rfl rfl)
theorem dX13_setting_82 : decode cX13_setting 82 = .ok (.iload_n 2, 1) := dk_28 (dk_at dksX13_setting_3 22 rfl rfl)
theorem dX13_setting_83 : decode cX13_setting 83 = .ok (.iconst 0, 1) := dk_3 (dk_at dksX13_setting_3 23 rfl rfl)
theorem dX13_setting_84 : decode cX13_setting 84 = .ok (.aload_n 0, 1) := dk_42 (dk_at dksX13_setting_4 0 rfl rfl)
theorem dX13_setting_85 : decode cX13_setting 85 = .ok (.invokevirtual 70, 3) := dk_182 0 70 (dk_at dksX13_setting_4 1 rfl rfl)
theorem dX13_setting_88 : decode cX13_setting 88 = .ok (.invokespecial 73, 3) := dk_183 0 73 (dk_at dksX13_setting_4 4 rfl rfl)
theorem dX13_setting_91 : decode cX13_setting 91 = .ok (.areturn, 1) := dk_176 (dk_at dksX13_setting_4 7 rfl rfl)
theorem dX13_setting_92 : decode cX13_setting 92 = .ok (.aload_n 0, 1) := dk_42 (dk_at dksX13_setting_4 8 rfl rfl)
theorem dX13_setting_93 : decode cX13_setting 93 = .ok (.invokevirtual 65, 3) := dk_182 0 65 (dk_at dksX13_setting_4 9 rfl rfl)
theorem dX13_setting_96 : decode cX13_setting 96 = .ok (.istore_n 3, 1) := dk_62 (dk_at dksX13_setting_4 12 rfl rfl)
theorem dX13_setting_97 : decode cX13_setting 97 = .ok (.aload_n 0, 1) := dk_42 (dk_at dksX13_setting_4 13 rfl rfl)
theorem dX13_setting_98 : decode cX13_setting 98 = .ok (.aload_n 0, 1) := dk_42 (dk_at dksX13_setting_4 14 rfl rfl)
theorem dX13_setting_99 : decode cX13_setting 99 = .ok (.invokevirtual 40, 3) := dk_182 0 40 (dk_at dksX13_setting_4 15 rfl rfl)
theorem dX13_setting_102 : decode cX13_setting 102 = .ok (.bipush 58, 2) := dk_16 58 (dk_at dksX13_setting_4 18 rfl rfl)
theorem dX13_setting_104 : decode cX13_setting 104 = .ok (.if_icmp .ne 7, 3) := dk_160 0 7 (dk_at dksX13_setting_4 20 rfl rfl)
theorem dX13_setting_107 : decode cX13_setting 107 = .ok (.iconst 1, 1) := dk_4 (dk_at dksX13_setting_4 23 rfl rfl)
theorem dX13_setting_108 : decode cX13_setting 108 = .ok (.goto 4, 3) := dk_167 0 4 (dk_at dksX13_setting_5 0 rfl rfl)
theorem dX13_setting_111 : decode cX13_setting 111 = .ok (.iconst 0, 1) := dk_3 (dk_at dksX13_setting_5 3 rfl rfl)
theorem dX13_setting_112 : decode cX13_setting 112 = .ok (.invokevirtual 54, 3) := dk_182 0 54 (dk_at dksX13_setting_5 4 rfl rfl)
theorem dX13_setting_115 : decode cX13_setting 115 = .ok (.new 68, 3) := dk_187 0 68 (dk_at dksX13_setting_5 7 rfl rfl)
theorem dX13_setting_118 : decode cX13_setting 118 = .ok (.dup, 1) := dk_89 (dk_at dksX13_setting_5 10 rfl rfl)
theorem dX13_setting_119 : decode cX13_setting 119 = .ok (.iload_n 1, 1) := dk_27 (dk_at dksX13_setting_5 11 rfl rfl)
theorem dX13_setting_120 : decode cX13_setting 120 = .ok (.iload_n 3, 1) := dk_29 (dk_at dksX13_setting_5 12 rfl rfl)
theorem dX13_setting_121 : decode cX13_setting 121 = .ok (.iload_n 1, 1) := dk_27 (dk_at dksX13_setting_5 13 rfl rfl)
theorem dX13_setting_122 : decode cX13_setting 122 = .ok (.bipush 118, 2) := dk_16 118 (dk_at dksX13_setting_5 14 rfl rfl)
theorem dX13_setting_124 : decode cX13_setting 124 = .ok (.if_icmp .ne 10, 3) := dk_160 0 10 (dk_at dksX13_setting_5 16 rfl rfl)
theorem dX13_setting_127 : decode cX13_setting 127 = .ok (.aload_n 0, 1) := dk_42 (dk_at dksX13_setting_5 19 rfl rfl)
theorem dX13_setting_128 : decode cX13_setting 128 = .ok (.invokevirtual 76, 3) := dk_182 0 76 (dk_at dksX13_setting_5 20 rfl rfl)
theorem dX13_setting_131 : decode cX13_setting 131 = .ok (.goto 11, 3) := dk_167 0 11 (dk_at dksX13_setting_6 0 rfl rfl)
theorem dX13_setting_134 : decode cX13_setting 134 = .ok (.aload_n 0, 1) := dk_42 (dk_at dksX13_setting_6 3 rfl rfl)
theorem dX13_setting_135 : decode cX13_setting 135 = .ok (.iconst 0, 1) := dk_3 (dk_at dksX13_setting_6 4 rfl rfl)
theorem dX13_setting_136 : decode cX13_setting 136 = .ok (.sipush 1000, 3) := dk_17 3 232 (dk_at dksX13_setting_6 5 rfl rfl)
theorem dX13_setting_139 : decode cX13_setting 139 = .ok (.invokevirtual 58, 3) := dk_182 0 58 (dk_at dksX13_setting_6 8 rfl rfl)
theorem dX13_setting_142 : decode cX13_setting 142 = .ok (.iconst 0, 1) := dk_3 (dk_at dksX13_setting_6 11 rfl rfl)
theorem dX13_setting_143 : decode cX13_setting 143 = .ok (.invokespecial 73, 3) := dk_183 0 73 (dk_at dksX13_setting_6 12 rfl rfl)
theorem dX13_setting_146 : decode cX13_setting 146 = .ok (.areturn, 1) := dk_176 (dk_at dksX13_setting_6 15 rfl rfl)
abbrev cX13_number : ByteArray := prog_9_method_4_code
def yX13_number : MethodName := ⟨RX13, "number", "(II)I"⟩
def dkwX13_number_3 : List UInt8 := [100, 62, 42, 29, 28, 163, 0, 7, 4, 167, 0, 4, 3, 182, 0, 54, 167, 255, 196, 29, 172]
abbrev dktX13_number_3 : List UInt8 := dkwX13_number_3 ++ []
def dkwX13_number_2 : List UInt8 := [182, 0, 40, 16, 48, 16, 57, 184, 0, 50, 153, 0, 33, 16, 10, 29, 104, 42, 182, 0, 40, 96, 16, 48]
abbrev dktX13_number_2 : List UInt8 := dkwX13_number_2 ++ dktX13_number_3
def dkwX13_number_1 : List UInt8 := [182, 0, 54, 42, 180, 0, 36, 154, 0, 59, 29, 158, 0, 55, 16, 10, 29, 104, 28, 163, 0, 47, 42]
abbrev dktX13_number_1 : List UInt8 := dkwX13_number_1 ++ dktX13_number_2
def dkwX13_number_0 : List UInt8 := [42, 182, 0, 40, 16, 48, 100, 62, 42, 29, 27, 4, 184, 0, 44, 28, 16, 9, 184, 0, 44, 184, 0, 50]
abbrev dktX13_number_0 : List UInt8 := dkwX13_number_0 ++ dktX13_number_1
theorem dksX13_number_0 : cX13_number.data.toList.drop 0 = dktX13_number_0 := by decide +kernel
theorem dksX13_number_1 : cX13_number.data.toList.drop 24 = dktX13_number_1 := dk_seg dksX13_number_0 24 rfl rfl
theorem dksX13_number_2 : cX13_number.data.toList.drop 47 = dktX13_number_2 := dk_seg dksX13_number_1 23 rfl rfl
theorem dksX13_number_3 : cX13_number.data.toList.drop 71 = dktX13_number_3 := dk_seg dksX13_number_2 24 rfl rfl
theorem dX13_number_0 : decode cX13_number 0 = .ok (.aload_n 0, 1) := dk_42 (dk_at dksX13_number_0 0 rfl rfl)
theorem dX13_number_1 : decode cX13_number 1 = .ok (.invokevirtual 40, 3) := dk_182 0 40 (dk_at dksX13_number_0 1 rfl rfl)
theorem dX13_number_4 : decode cX13_number 4 = .ok (.bipush 48, 2) := dk_16 48 (dk_at dksX13_number_0 4 rfl rfl)
theorem dX13_number_6 : decode cX13_number 6 = .ok (.isub, 1) := dk_100 (dk_at dksX13_number_0 6 rfl rfl)
theorem dX13_number_7 : decode cX13_number 7 = .ok (.istore_n 3, 1) := dk_62 (dk_at dksX13_number_0 7 rfl rfl)
theorem dX13_number_8 : decode cX13_number 8 = .ok (.aload_n 0, 1) := dk_42 (dk_at dksX13_number_0 8 rfl rfl)
theorem dX13_number_9 : decode cX13_number 9 = .ok (.iload_n 3, 1) := dk_29 (dk_at dksX13_number_0 9 rfl rfl)
theorem dX13_number_10 : decode cX13_number 10 = .ok (.iload_n 1, 1) := dk_27 (dk_at dksX13_number_0 10 rfl rfl)
theorem dX13_number_11 : decode cX13_number 11 = .ok (.iconst 1, 1) := dk_4 (dk_at dksX13_number_0 11 rfl rfl)
theorem dX13_number_12 : decode cX13_number 12 = .ok (.invokestatic 44, 3) := dk_184 0 44 (dk_at dksX13_number_0 12 rfl rfl)
theorem dX13_number_15 : decode cX13_number 15 = .ok (.iload_n 2, 1) := dk_28 (dk_at dksX13_number_0 15 rfl rfl)
theorem dX13_number_16 : decode cX13_number 16 = .ok (.bipush 9, 2) := dk_16 9 (dk_at dksX13_number_0 16 rfl rfl)
theorem dX13_number_18 : decode cX13_number 18 = .ok (.invokestatic 44, 3) := dk_184 0 44 (dk_at dksX13_number_0 18 rfl rfl)
theorem dX13_number_21 : decode cX13_number 21 = .ok (.invokestatic 50, 3) := dk_184 0 50 (dk_at dksX13_number_0 21 rfl rfl)
theorem dX13_number_24 : decode cX13_number 24 = .ok (.invokevirtual 54, 3) := dk_182 0 54 (dk_at dksX13_number_1 0 rfl rfl)
theorem dX13_number_27 : decode cX13_number 27 = .ok (.aload_n 0, 1) := dk_42 (dk_at dksX13_number_1 3 rfl rfl)
theorem dX13_number_28 : decode cX13_number 28 = .ok (.getfield 36, 3) := dk_180 0 36 (dk_at dksX13_number_1 4 rfl rfl)
theorem dX13_number_31 : decode cX13_number 31 = .ok (.ifCond .ne 59, 3) := dk_154 0 59 (dk_at dksX13_number_1 7 rfl rfl)
theorem dX13_number_34 : decode cX13_number 34 = .ok (.iload_n 3, 1) := dk_29 (dk_at dksX13_number_1 10 rfl rfl)
theorem dX13_number_35 : decode cX13_number 35 = .ok (.ifCond .le 55, 3) := dk_158 0 55 (dk_at dksX13_number_1 11 rfl rfl)
theorem dX13_number_38 : decode cX13_number 38 = .ok (.bipush 10, 2) := dk_16 10 (dk_at dksX13_number_1 14 rfl rfl)
theorem dX13_number_40 : decode cX13_number 40 = .ok (.iload_n 3, 1) := dk_29 (dk_at dksX13_number_1 16 rfl rfl)
theorem dX13_number_41 : decode cX13_number 41 = .ok (.imul, 1) := dk_104 (dk_at dksX13_number_1 17 rfl rfl)
theorem dX13_number_42 : decode cX13_number 42 = .ok (.iload_n 2, 1) := dk_28 (dk_at dksX13_number_1 18 rfl rfl)
theorem dX13_number_43 : decode cX13_number 43 = .ok (.if_icmp .gt 47, 3) := dk_163 0 47 (dk_at dksX13_number_1 19 rfl rfl)
theorem dX13_number_46 : decode cX13_number 46 = .ok (.aload_n 0, 1) := dk_42 (dk_at dksX13_number_1 22 rfl rfl)
theorem dX13_number_47 : decode cX13_number 47 = .ok (.invokevirtual 40, 3) := dk_182 0 40 (dk_at dksX13_number_2 0 rfl rfl)
theorem dX13_number_50 : decode cX13_number 50 = .ok (.bipush 48, 2) := dk_16 48 (dk_at dksX13_number_2 3 rfl rfl)
theorem dX13_number_52 : decode cX13_number 52 = .ok (.bipush 57, 2) := dk_16 57 (dk_at dksX13_number_2 5 rfl rfl)
theorem dX13_number_54 : decode cX13_number 54 = .ok (.invokestatic 50, 3) := dk_184 0 50 (dk_at dksX13_number_2 7 rfl rfl)
theorem dX13_number_57 : decode cX13_number 57 = .ok (.ifCond .eq 33, 3) := dk_153 0 33 (dk_at dksX13_number_2 10 rfl rfl)
theorem dX13_number_60 : decode cX13_number 60 = .ok (.bipush 10, 2) := dk_16 10 (dk_at dksX13_number_2 13 rfl rfl)
theorem dX13_number_62 : decode cX13_number 62 = .ok (.iload_n 3, 1) := dk_29 (dk_at dksX13_number_2 15 rfl rfl)
theorem dX13_number_63 : decode cX13_number 63 = .ok (.imul, 1) := dk_104 (dk_at dksX13_number_2 16 rfl rfl)
theorem dX13_number_64 : decode cX13_number 64 = .ok (.aload_n 0, 1) := dk_42 (dk_at dksX13_number_2 17 rfl rfl)
theorem dX13_number_65 : decode cX13_number 65 = .ok (.invokevirtual 40, 3) := dk_182 0 40 (dk_at dksX13_number_2 18 rfl rfl)
theorem dX13_number_68 : decode cX13_number 68 = .ok (.iadd, 1) := dk_96 (dk_at dksX13_number_2 21 rfl rfl)
theorem dX13_number_69 : decode cX13_number 69 = .ok (.bipush 48, 2) := dk_16 48 (dk_at dksX13_number_2 22 rfl rfl)
theorem dX13_number_71 : decode cX13_number 71 = .ok (.isub, 1) := dk_100 (dk_at dksX13_number_3 0 rfl rfl)
theorem dX13_number_72 : decode cX13_number 72 = .ok (.istore_n 3, 1) := dk_62 (dk_at dksX13_number_3 1 rfl rfl)
theorem dX13_number_73 : decode cX13_number 73 = .ok (.aload_n 0, 1) := dk_42 (dk_at dksX13_number_3 2 rfl rfl)
theorem dX13_number_74 : decode cX13_number 74 = .ok (.iload_n 3, 1) := dk_29 (dk_at dksX13_number_3 3 rfl rfl)
theorem dX13_number_75 : decode cX13_number 75 = .ok (.iload_n 2, 1) := dk_28 (dk_at dksX13_number_3 4 rfl rfl)
theorem dX13_number_76 : decode cX13_number 76 = .ok (.if_icmp .gt 7, 3) := dk_163 0 7 (dk_at dksX13_number_3 5 rfl rfl)
theorem dX13_number_79 : decode cX13_number 79 = .ok (.iconst 1, 1) := dk_4 (dk_at dksX13_number_3 8 rfl rfl)
theorem dX13_number_80 : decode cX13_number 80 = .ok (.goto 4, 3) := dk_167 0 4 (dk_at dksX13_number_3 9 rfl rfl)
theorem dX13_number_83 : decode cX13_number 83 = .ok (.iconst 0, 1) := dk_3 (dk_at dksX13_number_3 12 rfl rfl)
theorem dX13_number_84 : decode cX13_number 84 = .ok (.invokevirtual 54, 3) := dk_182 0 54 (dk_at dksX13_number_3 13 rfl rfl)
theorem dX13_number_87 : decode cX13_number 87 = .ok (.goto (-60), 3) := dk_167 255 196 (dk_at dksX13_number_3 16 rfl rfl)
theorem dX13_number_90 : decode cX13_number 90 = .ok (.iload_n 3, 1) := dk_29 (dk_at dksX13_number_3 19 rfl rfl)
theorem dX13_number_91 : decode cX13_number 91 = .ok (.ireturn, 1) := dk_172 (dk_at dksX13_number_3 20 rfl rfl)
abbrev cX13_module : ByteArray := prog_9_method_5_code
def yX13_module : MethodName := ⟨RX13, "module", "()I"⟩
def dkwX13_module_0 : List UInt8 := [42, 3, 16, 15, 182, 0, 58, 172]
abbrev dktX13_module_0 : List UInt8 := dkwX13_module_0 ++ []
theorem dksX13_module_0 : cX13_module.data.toList.drop 0 = dktX13_module_0 := by decide +kernel
theorem dX13_module_0 : decode cX13_module 0 = .ok (.aload_n 0, 1) := dk_42 (dk_at dksX13_module_0 0 rfl rfl)
theorem dX13_module_1 : decode cX13_module 1 = .ok (.iconst 0, 1) := dk_3 (dk_at dksX13_module_0 1 rfl rfl)
theorem dX13_module_2 : decode cX13_module 2 = .ok (.bipush 15, 2) := dk_16 15 (dk_at dksX13_module_0 2 rfl rfl)
theorem dX13_module_4 : decode cX13_module 4 = .ok (.invokevirtual 58, 3) := dk_182 0 58 (dk_at dksX13_module_0 4 rfl rfl)
theorem dX13_module_7 : decode cX13_module 7 = .ok (.ireturn, 1) := dk_172 (dk_at dksX13_module_0 7 rfl rfl)
abbrev cX13_input : ByteArray := prog_9_method_6_code
def yX13_input : MethodName := ⟨RX13, "input", "()I"⟩
def dkwX13_input_1 : List UInt8 := [172]
abbrev dktX13_input_1 : List UInt8 := dkwX13_input_1 ++ []
def dkwX13_input_0 : List UInt8 := [42, 42, 182, 0, 40, 16, 46, 160, 0, 7, 4, 167, 0, 4, 3, 182, 0, 54, 42, 3, 6, 182, 0, 58]
abbrev dktX13_input_0 : List UInt8 := dkwX13_input_0 ++ dktX13_input_1
theorem dksX13_input_0 : cX13_input.data.toList.drop 0 = dktX13_input_0 := by decide +kernel
theorem dksX13_input_1 : cX13_input.data.toList.drop 24 = dktX13_input_1 := dk_seg dksX13_input_0 24 rfl rfl
theorem dX13_input_0 : decode cX13_input 0 = .ok (.aload_n 0, 1) := dk_42 (dk_at dksX13_input_0 0 rfl rfl)
theorem dX13_input_1 : decode cX13_input 1 = .ok (.aload_n 0, 1) := dk_42 (dk_at dksX13_input_0 1 rfl rfl)
theorem dX13_input_2 : decode cX13_input 2 = .ok (.invokevirtual 40, 3) := dk_182 0 40 (dk_at dksX13_input_0 2 rfl rfl)
theorem dX13_input_5 : decode cX13_input 5 = .ok (.bipush 46, 2) := dk_16 46 (dk_at dksX13_input_0 5 rfl rfl)
theorem dX13_input_7 : decode cX13_input 7 = .ok (.if_icmp .ne 7, 3) := dk_160 0 7 (dk_at dksX13_input_0 7 rfl rfl)
theorem dX13_input_10 : decode cX13_input 10 = .ok (.iconst 1, 1) := dk_4 (dk_at dksX13_input_0 10 rfl rfl)
theorem dX13_input_11 : decode cX13_input 11 = .ok (.goto 4, 3) := dk_167 0 4 (dk_at dksX13_input_0 11 rfl rfl)
theorem dX13_input_14 : decode cX13_input 14 = .ok (.iconst 0, 1) := dk_3 (dk_at dksX13_input_0 14 rfl rfl)
theorem dX13_input_15 : decode cX13_input 15 = .ok (.invokevirtual 54, 3) := dk_182 0 54 (dk_at dksX13_input_0 15 rfl rfl)
theorem dX13_input_18 : decode cX13_input 18 = .ok (.aload_n 0, 1) := dk_42 (dk_at dksX13_input_0 18 rfl rfl)
theorem dX13_input_19 : decode cX13_input 19 = .ok (.iconst 0, 1) := dk_3 (dk_at dksX13_input_0 19 rfl rfl)
theorem dX13_input_20 : decode cX13_input 20 = .ok (.iconst 3, 1) := dk_6 (dk_at dksX13_input_0 20 rfl rfl)
theorem dX13_input_21 : decode cX13_input 21 = .ok (.invokevirtual 58, 3) := dk_182 0 58 (dk_at dksX13_input_0 21 rfl rfl)
theorem dX13_input_24 : decode cX13_input 24 = .ok (.ireturn, 1) := dk_172 (dk_at dksX13_input_1 0 rfl rfl)
abbrev cX13_voltage : ByteArray := prog_9_method_7_code
def yX13_voltage : MethodName := ⟨RX13, "voltage", "()I"⟩
def dkwX13_voltage_1 : List UInt8 := [42, 3, 17, 39, 16, 182, 0, 58, 61, 27, 153, 0, 8, 28, 116, 167, 0, 4, 28, 172]
abbrev dktX13_voltage_1 : List UInt8 := dkwX13_voltage_1 ++ []
def dkwX13_voltage_0 : List UInt8 := [42, 182, 0, 40, 16, 45, 160, 0, 7, 4, 167, 0, 4, 3, 60, 27, 153, 0, 8, 42, 4, 182, 0, 54]
abbrev dktX13_voltage_0 : List UInt8 := dkwX13_voltage_0 ++ dktX13_voltage_1
theorem dksX13_voltage_0 : cX13_voltage.data.toList.drop 0 = dktX13_voltage_0 := by decide +kernel
theorem dksX13_voltage_1 : cX13_voltage.data.toList.drop 24 = dktX13_voltage_1 := dk_seg dksX13_voltage_0 24 rfl rfl
theorem dX13_voltage_0 : decode cX13_voltage 0 = .ok (.aload_n 0, 1) := dk_42 (dk_at dksX13_voltage_0 0 rfl rfl)
theorem dX13_voltage_1 : decode cX13_voltage 1 = .ok (.invokevirtual 40, 3) := dk_182 0 40 (dk_at dksX13_voltage_0 1 rfl rfl)
theorem dX13_voltage_4 : decode cX13_voltage 4 = .ok (.bipush 45, 2) := dk_16 45 (dk_at dksX13_voltage_0 4 rfl rfl)
theorem dX13_voltage_6 : decode cX13_voltage 6 = .ok (.if_icmp .ne 7, 3) := dk_160 0 7 (dk_at dksX13_voltage_0 6 rfl rfl)
theorem dX13_voltage_9 : decode cX13_voltage 9 = .ok (.iconst 1, 1) := dk_4 (dk_at dksX13_voltage_0 9 rfl rfl)
theorem dX13_voltage_10 : decode cX13_voltage 10 = .ok (.goto 4, 3) := dk_167 0 4 (dk_at dksX13_voltage_0 10 rfl rfl)
theorem dX13_voltage_13 : decode cX13_voltage 13 = .ok (.iconst 0, 1) := dk_3 (dk_at dksX13_voltage_0 13 rfl rfl)
theorem dX13_voltage_14 : decode cX13_voltage 14 = .ok (.istore_n 1, 1) := dk_60 (dk_at dksX13_voltage_0 14 rfl rfl)
theorem dX13_voltage_15 : decode cX13_voltage 15 = .ok (.iload_n 1, 1) := dk_27 (dk_at dksX13_voltage_0 15 rfl rfl)
theorem dX13_voltage_16 : decode cX13_voltage 16 = .ok (.ifCond .eq 8, 3) := dk_153 0 8 (dk_at dksX13_voltage_0 16 rfl rfl)
theorem dX13_voltage_19 : decode cX13_voltage 19 = .ok (.aload_n 0, 1) := dk_42 (dk_at dksX13_voltage_0 19 rfl rfl)
theorem dX13_voltage_20 : decode cX13_voltage 20 = .ok (.iconst 1, 1) := dk_4 (dk_at dksX13_voltage_0 20 rfl rfl)
theorem dX13_voltage_21 : decode cX13_voltage 21 = .ok (.invokevirtual 54, 3) := dk_182 0 54 (dk_at dksX13_voltage_0 21 rfl rfl)
theorem dX13_voltage_24 : decode cX13_voltage 24 = .ok (.aload_n 0, 1) := dk_42 (dk_at dksX13_voltage_1 0 rfl rfl)
theorem dX13_voltage_25 : decode cX13_voltage 25 = .ok (.iconst 0, 1) := dk_3 (dk_at dksX13_voltage_1 1 rfl rfl)
theorem dX13_voltage_26 : decode cX13_voltage 26 = .ok (.sipush 10000, 3) := dk_17 39 16 (dk_at dksX13_voltage_1 2 rfl rfl)
theorem dX13_voltage_29 : decode cX13_voltage 29 = .ok (.invokevirtual 58, 3) := dk_182 0 58 (dk_at dksX13_voltage_1 5 rfl rfl)
theorem dX13_voltage_32 : decode cX13_voltage 32 = .ok (.istore_n 2, 1) := dk_61 (dk_at dksX13_voltage_1 8 rfl rfl)
theorem dX13_voltage_33 : decode cX13_voltage 33 = .ok (.iload_n 1, 1) := dk_27 (dk_at dksX13_voltage_1 9 rfl rfl)
theorem dX13_voltage_34 : decode cX13_voltage 34 = .ok (.ifCond .eq 8, 3) := dk_153 0 8 (dk_at dksX13_voltage_1 10 rfl rfl)
theorem dX13_voltage_37 : decode cX13_voltage 37 = .ok (.iload_n 2, 1) := dk_28 (dk_at dksX13_voltage_1 13 rfl rfl)
theorem dX13_voltage_38 : decode cX13_voltage 38 = .ok (.ineg, 1) := dk_116 (dk_at dksX13_voltage_1 14 rfl rfl)
theorem dX13_voltage_39 : decode cX13_voltage 39 = .ok (.goto 4, 3) := dk_167 0 4 (dk_at dksX13_voltage_1 15 rfl rfl)
theorem dX13_voltage_42 : decode cX13_voltage 42 = .ok (.iload_n 2, 1) := dk_28 (dk_at dksX13_voltage_1 18 rfl rfl)
theorem dX13_voltage_43 : decode cX13_voltage 43 = .ok (.ireturn, 1) := dk_172 (dk_at dksX13_voltage_1 19 rfl rfl)
theorem q138 : (Jvm.Cond.initialized "PatchCords$Reader") ∈ lw_all := lw_g (lw_at lw_m1 38 rfl) rfl
theorem q492 : (Jvm.Cond.selects "PatchCords$Reader" ({ cls := "java/lang/Object", name := "getClass", desc := "()Ljava/lang/Class;" } : Jvm.MethodName) ({ cls := "java/lang/Object", name := "getClass", desc := "()Ljava/lang/Class;" } : Jvm.MethodName)) ∈ lw_all := lw_g (lw_at lw_m2 152 rfl) rfl
theorem q1122 : (Jvm.Cond.instantiable "PatchCords$Reader" (4 : Nat)) ∈ lw_all := lw_g (lw_at lw_m5 62 rfl) rfl
theorem q1124 : (Jvm.Cond.instanceMethod ({ cls := "PatchCords$Reader", name := "<init>", desc := "(Ljava/lang/StringBuilder;)V" } : Jvm.MethodName)) ∈ lw_all := lw_g (lw_at lw_m5 64 rfl) rfl
theorem q1125 : (Jvm.Cond.code ({ cls := "PatchCords$Reader", name := "<init>", desc := "(Ljava/lang/StringBuilder;)V" } : Jvm.MethodName) prog_9_method_1_code (2 : Nat) (Option.none : Option Jvm.ClassFile.FieldType)) ∈ lw_all := lw_g (lw_at lw_m5 65 rfl) rfl
theorem q1126 : (Jvm.Cond.methodLink "PatchCords$Reader" (3 : Nat) ({ cls := "java/lang/Object", name := "<init>", desc := "()V" } : Jvm.MethodName)) ∈ lw_all := lw_g (lw_at lw_m5 66 rfl) rfl
theorem q1127 : (Jvm.Cond.classLink "PatchCords$Reader" (9 : Nat) "java/util/ArrayList") ∈ lw_all := lw_g (lw_at lw_m5 67 rfl) rfl
theorem q1128 : (Jvm.Cond.methodLink "PatchCords$Reader" (11 : Nat) ({ cls := "java/util/ArrayList", name := "<init>", desc := "()V" } : Jvm.MethodName)) ∈ lw_all := lw_g (lw_at lw_m5 68 rfl) rfl
theorem q1129 : (Jvm.Cond.fieldLink "PatchCords$Reader" (18 : Nat) "PatchCords$Reader" "source" "Ljava/lang/StringBuilder;") ∈ lw_all := lw_g (lw_at lw_m5 69 rfl) rfl
theorem q1130 : (Jvm.Cond.fieldLink "PatchCords$Reader" (12 : Nat) "PatchCords$Reader" "items" "Ljava/util/ArrayList;") ∈ lw_all := lw_g (lw_at lw_m5 70 rfl) rfl
theorem q1132 : (Jvm.Cond.fieldLink "PatchCords$Reader" (22 : Nat) "PatchCords$Reader" "at" "I") ∈ lw_all := lw_g (lw_at lw_m5 72 rfl) rfl
theorem q1133 : (Jvm.Cond.fieldLink "PatchCords$Reader" (36 : Nat) "PatchCords$Reader" "failed" "Z") ∈ lw_all := lw_g (lw_at lw_m5 73 rfl) rfl
theorem q1134 : (Jvm.Cond.laysFinal "PatchCords$Reader" "PatchCords$Reader" "source" "Ljava/lang/StringBuilder;") ∈ lw_all := lw_g (lw_at lw_m5 74 rfl) rfl
theorem q1135 : (Jvm.Cond.soleField "PatchCords$Reader" "source") ∈ lw_all := lw_g (lw_at lw_m5 75 rfl) rfl
theorem q1136 : (Jvm.Cond.laysFinal "PatchCords$Reader" "PatchCords$Reader" "items" "Ljava/util/ArrayList;") ∈ lw_all := lw_g (lw_at lw_m5 76 rfl) rfl
theorem q1137 : (Jvm.Cond.soleField "PatchCords$Reader" "items") ∈ lw_all := lw_g (lw_at lw_m5 77 rfl) rfl
theorem q1138 : (Jvm.Cond.lays "PatchCords$Reader" "PatchCords$Reader" "at" "I") ∈ lw_all := lw_g (lw_at lw_m5 78 rfl) rfl
theorem q1139 : (Jvm.Cond.soleField "PatchCords$Reader" "at") ∈ lw_all := lw_g (lw_at lw_m5 79 rfl) rfl
theorem q1140 : (Jvm.Cond.lays "PatchCords$Reader" "PatchCords$Reader" "failed" "Z") ∈ lw_all := lw_g (lw_at lw_m5 80 rfl) rfl
theorem q1141 : (Jvm.Cond.soleField "PatchCords$Reader" "failed") ∈ lw_all := lw_g (lw_at lw_m5 81 rfl) rfl
theorem q1142 : (Jvm.Cond.superclass "PatchCords$Reader" "java/lang/Object") ∈ lw_all := lw_g (lw_at lw_m5 82 rfl) rfl
theorem q1144 : (Jvm.Cond.instanceMethod ({ cls := "PatchCords$Reader", name := "read", desc := "()I" } : Jvm.MethodName)) ∈ lw_all := lw_g (lw_at lw_m5 84 rfl) rfl
theorem q1145 : (Jvm.Cond.selects "PatchCords$Reader" ({ cls := "PatchCords$Reader", name := "read", desc := "()I" } : Jvm.MethodName) ({ cls := "PatchCords$Reader", name := "read", desc := "()I" } : Jvm.MethodName)) ∈ lw_all := lw_g (lw_at lw_m5 85 rfl) rfl
theorem q1146 : (Jvm.Cond.code ({ cls := "PatchCords$Reader", name := "read", desc := "()I" } : Jvm.MethodName) prog_9_method_10_code (1 : Nat) (Option.some Jvm.ClassFile.FieldType.int)) ∈ lw_all := lw_g (lw_at lw_m5 86 rfl) rfl
theorem q1147 : (Jvm.Cond.methodLink "PatchCords$Reader" (79 : Nat) ({ cls := "PatchCords$Reader", name := "item", desc := "()LPatchCords$Item;" } : Jvm.MethodName)) ∈ lw_all := lw_g (lw_at lw_m5 87 rfl) rfl
theorem q1148 : (Jvm.Cond.privateMethod ({ cls := "PatchCords$Reader", name := "item", desc := "()LPatchCords$Item;" } : Jvm.MethodName)) ∈ lw_tbl := lw_at lw_m5 88 rfl
theorem q1149 : (Jvm.Cond.instanceMethod ({ cls := "PatchCords$Reader", name := "item", desc := "()LPatchCords$Item;" } : Jvm.MethodName)) ∈ lw_all := lw_g (lw_at lw_m5 89 rfl) rfl
theorem q1150 : (Jvm.Cond.code ({ cls := "PatchCords$Reader", name := "item", desc := "()LPatchCords$Item;" } : Jvm.MethodName) prog_9_method_8_code (4 : Nat) (Option.some (Jvm.ClassFile.FieldType.object "PatchCords$Item"))) ∈ lw_all := lw_g (lw_at lw_m5 90 rfl) rfl
theorem q1151 : (Jvm.Cond.methodLink "PatchCords$Reader" (40 : Nat) ({ cls := "PatchCords$Reader", name := "here", desc := "()C" } : Jvm.MethodName)) ∈ lw_all := lw_g (lw_at lw_m5 91 rfl) rfl
theorem q1152 : (Jvm.Cond.privateMethod ({ cls := "PatchCords$Reader", name := "here", desc := "()C" } : Jvm.MethodName)) ∈ lw_tbl := lw_at lw_m5 92 rfl
theorem q1153 : (Jvm.Cond.instanceMethod ({ cls := "PatchCords$Reader", name := "here", desc := "()C" } : Jvm.MethodName)) ∈ lw_all := lw_g (lw_at lw_m5 93 rfl) rfl
theorem q1154 : (Jvm.Cond.code ({ cls := "PatchCords$Reader", name := "here", desc := "()C" } : Jvm.MethodName) prog_9_method_2_code (1 : Nat) (Option.some Jvm.ClassFile.FieldType.char)) ∈ lw_all := lw_g (lw_at lw_m5 94 rfl) rfl
theorem q1155 : (Jvm.Cond.methodLink "PatchCords$Reader" (26 : Nat) ({ cls := "java/lang/StringBuilder", name := "length", desc := "()I" } : Jvm.MethodName)) ∈ lw_all := lw_g (lw_at lw_m5 95 rfl) rfl
theorem q1156 : (Jvm.Cond.methodLink "PatchCords$Reader" (32 : Nat) ({ cls := "java/lang/StringBuilder", name := "charAt", desc := "(I)C" } : Jvm.MethodName)) ∈ lw_all := lw_g (lw_at lw_m5 96 rfl) rfl
theorem q1169 : (Jvm.Cond.methodLinkNest "PatchCords$Reader" (50 : Nat) ({ cls := "PatchCords", name := "isWithin", desc := "(III)Z" } : Jvm.MethodName) "PatchCords") ∈ lw_tbl := lw_at lw_m5 109 rfl
theorem q1170 : (Jvm.Cond.methodLink "PatchCords$Reader" (54 : Nat) ({ cls := "PatchCords$Reader", name := "step", desc := "(Z)V" } : Jvm.MethodName)) ∈ lw_all := lw_g (lw_at lw_m5 110 rfl) rfl
theorem q1171 : (Jvm.Cond.privateMethod ({ cls := "PatchCords$Reader", name := "step", desc := "(Z)V" } : Jvm.MethodName)) ∈ lw_tbl := lw_at lw_m5 111 rfl
theorem q1172 : (Jvm.Cond.instanceMethod ({ cls := "PatchCords$Reader", name := "step", desc := "(Z)V" } : Jvm.MethodName)) ∈ lw_all := lw_g (lw_at lw_m5 112 rfl) rfl
theorem q1173 : (Jvm.Cond.code ({ cls := "PatchCords$Reader", name := "step", desc := "(Z)V" } : Jvm.MethodName) prog_9_method_3_code (2 : Nat) (Option.none : Option Jvm.ClassFile.FieldType)) ∈ lw_all := lw_g (lw_at lw_m5 113 rfl) rfl
theorem q1174 : (Jvm.Cond.methodLink "PatchCords$Reader" (61 : Nat) ({ cls := "PatchCords$Reader", name := "setting", desc := "(C)LPatchCords$Item;" } : Jvm.MethodName)) ∈ lw_all := lw_g (lw_at lw_m5 114 rfl) rfl
theorem q1175 : (Jvm.Cond.privateMethod ({ cls := "PatchCords$Reader", name := "setting", desc := "(C)LPatchCords$Item;" } : Jvm.MethodName)) ∈ lw_tbl := lw_at lw_m5 115 rfl
theorem q1176 : (Jvm.Cond.instanceMethod ({ cls := "PatchCords$Reader", name := "setting", desc := "(C)LPatchCords$Item;" } : Jvm.MethodName)) ∈ lw_all := lw_g (lw_at lw_m5 116 rfl) rfl
theorem q1177 : (Jvm.Cond.code ({ cls := "PatchCords$Reader", name := "setting", desc := "(C)LPatchCords$Item;" } : Jvm.MethodName) prog_9_method_9_code (4 : Nat) (Option.some (Jvm.ClassFile.FieldType.object "PatchCords$Item"))) ∈ lw_all := lw_g (lw_at lw_m5 117 rfl) rfl
theorem q1178 : (Jvm.Cond.classLink "PatchCords$Reader" (68 : Nat) "PatchCords$Item") ∈ lw_all := lw_g (lw_at lw_m5 118 rfl) rfl
theorem q1180 : (Jvm.Cond.methodLink "PatchCords$Reader" (58 : Nat) ({ cls := "PatchCords$Reader", name := "number", desc := "(II)I" } : Jvm.MethodName)) ∈ lw_all := lw_g (lw_at lw_m5 120 rfl) rfl
theorem q1181 : (Jvm.Cond.privateMethod ({ cls := "PatchCords$Reader", name := "number", desc := "(II)I" } : Jvm.MethodName)) ∈ lw_tbl := lw_at lw_m5 121 rfl
theorem q1182 : (Jvm.Cond.instanceMethod ({ cls := "PatchCords$Reader", name := "number", desc := "(II)I" } : Jvm.MethodName)) ∈ lw_all := lw_g (lw_at lw_m5 122 rfl) rfl
theorem q1183 : (Jvm.Cond.code ({ cls := "PatchCords$Reader", name := "number", desc := "(II)I" } : Jvm.MethodName) prog_9_method_4_code (4 : Nat) (Option.some Jvm.ClassFile.FieldType.int)) ∈ lw_all := lw_g (lw_at lw_m5 123 rfl) rfl
theorem q1184 : (Jvm.Cond.methodLink "PatchCords$Reader" (44 : Nat) ({ cls := "java/lang/Math", name := "min", desc := "(II)I" } : Jvm.MethodName)) ∈ lw_all := lw_g (lw_at lw_m5 124 rfl) rfl
theorem q1185 : (Jvm.Cond.methodLink "PatchCords$Reader" (73 : Nat) ({ cls := "PatchCords$Item", name := "<init>", desc := "(CIII)V" } : Jvm.MethodName)) ∈ lw_all := lw_g (lw_at lw_m5 125 rfl) rfl
theorem q1206 : (Jvm.Cond.methodLink "PatchCords$Reader" (65 : Nat) ({ cls := "PatchCords$Reader", name := "module", desc := "()I" } : Jvm.MethodName)) ∈ lw_all := lw_g (lw_at lw_m5 146 rfl) rfl
theorem q1207 : (Jvm.Cond.privateMethod ({ cls := "PatchCords$Reader", name := "module", desc := "()I" } : Jvm.MethodName)) ∈ lw_tbl := lw_at lw_m5 147 rfl
theorem q1208 : (Jvm.Cond.instanceMethod ({ cls := "PatchCords$Reader", name := "module", desc := "()I" } : Jvm.MethodName)) ∈ lw_all := lw_g (lw_at lw_m5 148 rfl) rfl
theorem q1209 : (Jvm.Cond.code ({ cls := "PatchCords$Reader", name := "module", desc := "()I" } : Jvm.MethodName) prog_9_method_5_code (1 : Nat) (Option.some Jvm.ClassFile.FieldType.int)) ∈ lw_all := lw_g (lw_at lw_m5 149 rfl) rfl
theorem q1210 : (Jvm.Cond.methodLink "PatchCords$Reader" (70 : Nat) ({ cls := "PatchCords$Reader", name := "input", desc := "()I" } : Jvm.MethodName)) ∈ lw_all := lw_g (lw_at lw_m5 150 rfl) rfl
theorem q1211 : (Jvm.Cond.privateMethod ({ cls := "PatchCords$Reader", name := "input", desc := "()I" } : Jvm.MethodName)) ∈ lw_tbl := lw_at lw_m5 151 rfl
theorem q1212 : (Jvm.Cond.instanceMethod ({ cls := "PatchCords$Reader", name := "input", desc := "()I" } : Jvm.MethodName)) ∈ lw_all := lw_g (lw_at lw_m5 152 rfl) rfl
theorem q1213 : (Jvm.Cond.code ({ cls := "PatchCords$Reader", name := "input", desc := "()I" } : Jvm.MethodName) prog_9_method_6_code (1 : Nat) (Option.some Jvm.ClassFile.FieldType.int)) ∈ lw_all := lw_g (lw_at lw_m5 153 rfl) rfl
theorem q1214 : (Jvm.Cond.methodLink "PatchCords$Reader" (76 : Nat) ({ cls := "PatchCords$Reader", name := "voltage", desc := "()I" } : Jvm.MethodName)) ∈ lw_all := lw_g (lw_at lw_m5 154 rfl) rfl
theorem q1215 : (Jvm.Cond.privateMethod ({ cls := "PatchCords$Reader", name := "voltage", desc := "()I" } : Jvm.MethodName)) ∈ lw_tbl := lw_at lw_m5 155 rfl
theorem q1216 : (Jvm.Cond.instanceMethod ({ cls := "PatchCords$Reader", name := "voltage", desc := "()I" } : Jvm.MethodName)) ∈ lw_all := lw_g (lw_at lw_m5 156 rfl) rfl
theorem q1217 : (Jvm.Cond.code ({ cls := "PatchCords$Reader", name := "voltage", desc := "()I" } : Jvm.MethodName) prog_9_method_7_code (3 : Nat) (Option.some Jvm.ClassFile.FieldType.int)) ∈ lw_all := lw_g (lw_at lw_m5 157 rfl) rfl
theorem q1218 : (Jvm.Cond.methodLink "PatchCords$Reader" (83 : Nat) ({ cls := "java/util/ArrayList", name := "add", desc := "(Ljava/lang/Object;)Z" } : Jvm.MethodName)) ∈ lw_all := lw_g (lw_at lw_m5 158 rfl) rfl
theorem q2419 : (Jvm.Cond.castable "PatchCords$Reader" "java/lang/Object") ∈ lw_tbl := lw_at lw_m10 159 rfl
theorem in_X13 : ∀ w ∈ wsX130, w ∈ lw_all := lw_in wsX130 [1134, 1136, 1138, 1140] (by decide +kernel) (by decide +kernel)
/-! PatchCords$Item -/
set_option maxRecDepth 100000
def RX14 : String := "PatchCords$Item"
def TX14 : u_T := fun k => match k with
  | 0 => ("PatchCords$Item", "sign", "C", true)
  | 1 => ("PatchCords$Item", "one", "I", true)
  | 2 => ("PatchCords$Item", "other", "I", true)
  | _ => ("PatchCords$Item", "input", "I", true)
def tyX14 : Nat → FieldType := fun k => match k with
  | 0 => .char
  | 1 => .int
  | 2 => .int
  | _ => .int
abbrev wsX140 : List Cond := u_ws RX14 TX14 4
theorem nmX14 : ∀ a, a < 4 → ∀ b, b < 4 → a ≠ b → (TX14 a).2.1 ≠ (TX14 b).2.1 := by decide +kernel
theorem tyX14_ok : ∀ k, k < 4 → parseFieldDescriptor (TX14 k).2.2.1 = some (tyX14 k) := by decide +kernel
abbrev cX14_init : ByteArray := prog_4_method_1_code
def yX14_init : MethodName := ⟨RX14, "<init>", "(CIII)V"⟩
def dkwX14_init_1 : List UInt8 := [181, 0, 20, 177]
abbrev dktX14_init_1 : List UInt8 := dkwX14_init_1 ++ []
def dkwX14_init_0 : List UInt8 := [42, 183, 0, 1, 42, 27, 181, 0, 7, 42, 28, 181, 0, 13, 42, 29, 181, 0, 17, 42, 21, 4]
abbrev dktX14_init_0 : List UInt8 := dkwX14_init_0 ++ dktX14_init_1
theorem dksX14_init_0 : cX14_init.data.toList.drop 0 = dktX14_init_0 := by decide +kernel
theorem dksX14_init_1 : cX14_init.data.toList.drop 22 = dktX14_init_1 := dk_seg dksX14_init_0 22 rfl rfl
theorem dX14_init_0 : decode cX14_init 0 = .ok (.aload_n 0, 1) := dk_42 (dk_at dksX14_init_0 0 rfl rfl)
theorem dX14_init_1 : decode cX14_init 1 = .ok (.invokespecial 1, 3) := dk_183 0 1 (dk_at dksX14_init_0 1 rfl rfl)
theorem dX14_init_4 : decode cX14_init 4 = .ok (.aload_n 0, 1) := dk_42 (dk_at dksX14_init_0 4 rfl rfl)
theorem dX14_init_5 : decode cX14_init 5 = .ok (.iload_n 1, 1) := dk_27 (dk_at dksX14_init_0 5 rfl rfl)
theorem dX14_init_6 : decode cX14_init 6 = .ok (.putfield 7, 3) := dk_181 0 7 (dk_at dksX14_init_0 6 rfl rfl)
theorem dX14_init_9 : decode cX14_init 9 = .ok (.aload_n 0, 1) := dk_42 (dk_at dksX14_init_0 9 rfl rfl)
theorem dX14_init_10 : decode cX14_init 10 = .ok (.iload_n 2, 1) := dk_28 (dk_at dksX14_init_0 10 rfl rfl)
theorem dX14_init_11 : decode cX14_init 11 = .ok (.putfield 13, 3) := dk_181 0 13 (dk_at dksX14_init_0 11 rfl rfl)
theorem dX14_init_14 : decode cX14_init 14 = .ok (.aload_n 0, 1) := dk_42 (dk_at dksX14_init_0 14 rfl rfl)
theorem dX14_init_15 : decode cX14_init 15 = .ok (.iload_n 3, 1) := dk_29 (dk_at dksX14_init_0 15 rfl rfl)
theorem dX14_init_16 : decode cX14_init 16 = .ok (.putfield 17, 3) := dk_181 0 17 (dk_at dksX14_init_0 16 rfl rfl)
theorem dX14_init_19 : decode cX14_init 19 = .ok (.aload_n 0, 1) := dk_42 (dk_at dksX14_init_0 19 rfl rfl)
theorem dX14_init_20 : decode cX14_init 20 = .ok (.iload 4, 2) := dk_21 4 (dk_at dksX14_init_0 20 rfl rfl)
theorem dX14_init_22 : decode cX14_init 22 = .ok (.putfield 20, 3) := dk_181 0 20 (dk_at dksX14_init_1 0 rfl rfl)
theorem dX14_init_25 : decode cX14_init 25 = .ok (.return_, 1) := dk_177 (dk_at dksX14_init_1 3 rfl rfl)
theorem q139 : (Jvm.Cond.initialized "PatchCords$Item") ∈ lw_all := lw_g (lw_at lw_m1 39 rfl) rfl
theorem q488 : (Jvm.Cond.selects "PatchCords$Item" ({ cls := "java/lang/Object", name := "getClass", desc := "()Ljava/lang/Class;" } : Jvm.MethodName) ({ cls := "java/lang/Object", name := "getClass", desc := "()Ljava/lang/Class;" } : Jvm.MethodName)) ∈ lw_all := lw_g (lw_at lw_m2 148 rfl) rfl
theorem q1179 : (Jvm.Cond.instantiable "PatchCords$Item" (4 : Nat)) ∈ lw_all := lw_g (lw_at lw_m5 119 rfl) rfl
theorem q1186 : (Jvm.Cond.instanceMethod ({ cls := "PatchCords$Item", name := "<init>", desc := "(CIII)V" } : Jvm.MethodName)) ∈ lw_all := lw_g (lw_at lw_m5 126 rfl) rfl
theorem q1187 : (Jvm.Cond.code ({ cls := "PatchCords$Item", name := "<init>", desc := "(CIII)V" } : Jvm.MethodName) prog_4_method_1_code (5 : Nat) (Option.none : Option Jvm.ClassFile.FieldType)) ∈ lw_all := lw_g (lw_at lw_m5 127 rfl) rfl
theorem q1188 : (Jvm.Cond.methodLink "PatchCords$Item" (1 : Nat) ({ cls := "java/lang/Object", name := "<init>", desc := "()V" } : Jvm.MethodName)) ∈ lw_all := lw_g (lw_at lw_m5 128 rfl) rfl
theorem q1189 : (Jvm.Cond.fieldLink "PatchCords$Item" (7 : Nat) "PatchCords$Item" "sign" "C") ∈ lw_all := lw_g (lw_at lw_m5 129 rfl) rfl
theorem q1191 : (Jvm.Cond.fieldLink "PatchCords$Item" (13 : Nat) "PatchCords$Item" "one" "I") ∈ lw_all := lw_g (lw_at lw_m5 131 rfl) rfl
theorem q1193 : (Jvm.Cond.fieldLink "PatchCords$Item" (17 : Nat) "PatchCords$Item" "other" "I") ∈ lw_all := lw_g (lw_at lw_m5 133 rfl) rfl
theorem q1195 : (Jvm.Cond.fieldLink "PatchCords$Item" (20 : Nat) "PatchCords$Item" "input" "I") ∈ lw_all := lw_g (lw_at lw_m5 135 rfl) rfl
theorem q1197 : (Jvm.Cond.laysFinal "PatchCords$Item" "PatchCords$Item" "sign" "C") ∈ lw_all := lw_g (lw_at lw_m5 137 rfl) rfl
theorem q1198 : (Jvm.Cond.soleField "PatchCords$Item" "sign") ∈ lw_all := lw_g (lw_at lw_m5 138 rfl) rfl
theorem q1199 : (Jvm.Cond.laysFinal "PatchCords$Item" "PatchCords$Item" "one" "I") ∈ lw_all := lw_g (lw_at lw_m5 139 rfl) rfl
theorem q1200 : (Jvm.Cond.soleField "PatchCords$Item" "one") ∈ lw_all := lw_g (lw_at lw_m5 140 rfl) rfl
theorem q1201 : (Jvm.Cond.laysFinal "PatchCords$Item" "PatchCords$Item" "other" "I") ∈ lw_all := lw_g (lw_at lw_m5 141 rfl) rfl
theorem q1202 : (Jvm.Cond.soleField "PatchCords$Item" "other") ∈ lw_all := lw_g (lw_at lw_m5 142 rfl) rfl
theorem q1203 : (Jvm.Cond.laysFinal "PatchCords$Item" "PatchCords$Item" "input" "I") ∈ lw_all := lw_g (lw_at lw_m5 143 rfl) rfl
theorem q1204 : (Jvm.Cond.soleField "PatchCords$Item" "input") ∈ lw_all := lw_g (lw_at lw_m5 144 rfl) rfl
theorem q1205 : (Jvm.Cond.superclass "PatchCords$Item" "java/lang/Object") ∈ lw_all := lw_g (lw_at lw_m5 145 rfl) rfl
theorem q2420 : (Jvm.Cond.castable "PatchCords$Item" "java/lang/Object") ∈ lw_tbl := lw_at lw_m10 160 rfl
theorem in_X14 : ∀ w ∈ wsX140, w ∈ lw_all := lw_in wsX140 [1197, 1199, 1201, 1203] (by decide +kernel) (by decide +kernel)
/-! PatchCords$Way$1 -/
set_option maxRecDepth 100000
def RX15 : String := "PatchCords$Way$1"
abbrev cX15_step : ByteArray := prog_13_method_2_code
def yX15_step : MethodName := ⟨RX15, "step", "(LPatchCords$Panel;)V"⟩
def dkwX15_step_0 : List UInt8 := [43, 182, 0, 7, 43, 4, 182, 0, 13, 177]
abbrev dktX15_step_0 : List UInt8 := dkwX15_step_0 ++ []
theorem dksX15_step_0 : cX15_step.data.toList.drop 0 = dktX15_step_0 := by decide +kernel
theorem dX15_step_0 : decode cX15_step 0 = .ok (.aload_n 1, 1) := dk_43 (dk_at dksX15_step_0 0 rfl rfl)
theorem dX15_step_1 : decode cX15_step 1 = .ok (.invokevirtual 7, 3) := dk_182 0 7 (dk_at dksX15_step_0 1 rfl rfl)
theorem dX15_step_4 : decode cX15_step 4 = .ok (.aload_n 1, 1) := dk_43 (dk_at dksX15_step_0 4 rfl rfl)
theorem dX15_step_5 : decode cX15_step 5 = .ok (.iconst 1, 1) := dk_4 (dk_at dksX15_step_0 5 rfl rfl)
theorem dX15_step_6 : decode cX15_step 6 = .ok (.invokevirtual 13, 3) := dk_182 0 13 (dk_at dksX15_step_0 6 rfl rfl)
theorem dX15_step_9 : decode cX15_step 9 = .ok (.return_, 1) := dk_177 (dk_at dksX15_step_0 9 rfl rfl)
theorem q495 : (Jvm.Cond.selects "PatchCords$Way$1" ({ cls := "java/lang/Object", name := "getClass", desc := "()Ljava/lang/Class;" } : Jvm.MethodName) ({ cls := "java/lang/Object", name := "getClass", desc := "()Ljava/lang/Class;" } : Jvm.MethodName)) ∈ lw_all := lw_g (lw_at lw_m2 155 rfl) rfl
theorem q577 : (Jvm.Cond.selects "PatchCords$Way$1" ({ cls := "PatchCords$Way", name := "ordinal", desc := "()I" } : Jvm.MethodName) ({ cls := "java/lang/Enum", name := "ordinal", desc := "()I" } : Jvm.MethodName)) ∈ lw_all := lw_g (lw_at lw_m2 237 rfl) rfl
theorem q743 : (Jvm.Cond.selects "PatchCords$Way$1" ({ cls := "PatchCords$Way", name := "step", desc := "(LPatchCords$Panel;)V" } : Jvm.MethodName) ({ cls := "PatchCords$Way$1", name := "step", desc := "(LPatchCords$Panel;)V" } : Jvm.MethodName)) ∈ lw_all := lw_g (lw_at lw_m3 163 rfl) rfl
theorem q744 : (Jvm.Cond.instanceMethod ({ cls := "PatchCords$Way$1", name := "step", desc := "(LPatchCords$Panel;)V" } : Jvm.MethodName)) ∈ lw_all := lw_g (lw_at lw_m3 164 rfl) rfl
theorem q745 : (Jvm.Cond.code ({ cls := "PatchCords$Way$1", name := "step", desc := "(LPatchCords$Panel;)V" } : Jvm.MethodName) prog_13_method_2_code (2 : Nat) (Option.none : Option Jvm.ClassFile.FieldType)) ∈ lw_all := lw_g (lw_at lw_m3 165 rfl) rfl
theorem q746 : (Jvm.Cond.methodLinkNest "PatchCords$Way$1" (7 : Nat) ({ cls := "PatchCords$Panel", name := "tellRates", desc := "()V" } : Jvm.MethodName) "PatchCords") ∈ lw_tbl := lw_at lw_m3 166 rfl
theorem q761 : (Jvm.Cond.methodLinkNest "PatchCords$Way$1" (13 : Nat) ({ cls := "PatchCords$Panel", name := "moveAll", desc := "(I)V" } : Jvm.MethodName) "PatchCords") ∈ lw_tbl := lw_at lw_m3 181 rfl
theorem q2403 : (Jvm.Cond.castable "PatchCords$Way$1" "java/lang/Object") ∈ lw_tbl := lw_at lw_m10 143 rfl
theorem q2422 : (Jvm.Cond.castable "PatchCords$Way$1" "PatchCords$Way") ∈ lw_tbl := lw_at lw_m10 162 rfl
/-! PatchCords$Way$2 -/
set_option maxRecDepth 100000
def RX16 : String := "PatchCords$Way$2"
abbrev cX16_step : ByteArray := prog_14_method_2_code
def yX16_step : MethodName := ⟨RX16, "step", "(LPatchCords$Panel;)V"⟩
def dkwX16_step_0 : List UInt8 := [43, 182, 0, 7, 43, 5, 182, 0, 13, 43, 182, 0, 7, 43, 4, 182, 0, 13, 177]
abbrev dktX16_step_0 : List UInt8 := dkwX16_step_0 ++ []
theorem dksX16_step_0 : cX16_step.data.toList.drop 0 = dktX16_step_0 := by decide +kernel
theorem dX16_step_0 : decode cX16_step 0 = .ok (.aload_n 1, 1) := dk_43 (dk_at dksX16_step_0 0 rfl rfl)
theorem dX16_step_1 : decode cX16_step 1 = .ok (.invokevirtual 7, 3) := dk_182 0 7 (dk_at dksX16_step_0 1 rfl rfl)
theorem dX16_step_4 : decode cX16_step 4 = .ok (.aload_n 1, 1) := dk_43 (dk_at dksX16_step_0 4 rfl rfl)
theorem dX16_step_5 : decode cX16_step 5 = .ok (.iconst 2, 1) := dk_5 (dk_at dksX16_step_0 5 rfl rfl)
theorem dX16_step_6 : decode cX16_step 6 = .ok (.invokevirtual 13, 3) := dk_182 0 13 (dk_at dksX16_step_0 6 rfl rfl)
theorem dX16_step_9 : decode cX16_step 9 = .ok (.aload_n 1, 1) := dk_43 (dk_at dksX16_step_0 9 rfl rfl)
theorem dX16_step_10 : decode cX16_step 10 = .ok (.invokevirtual 7, 3) := dk_182 0 7 (dk_at dksX16_step_0 10 rfl rfl)
theorem dX16_step_13 : decode cX16_step 13 = .ok (.aload_n 1, 1) := dk_43 (dk_at dksX16_step_0 13 rfl rfl)
theorem dX16_step_14 : decode cX16_step 14 = .ok (.iconst 1, 1) := dk_4 (dk_at dksX16_step_0 14 rfl rfl)
theorem dX16_step_15 : decode cX16_step 15 = .ok (.invokevirtual 13, 3) := dk_182 0 13 (dk_at dksX16_step_0 15 rfl rfl)
theorem dX16_step_18 : decode cX16_step 18 = .ok (.return_, 1) := dk_177 (dk_at dksX16_step_0 18 rfl rfl)
theorem q496 : (Jvm.Cond.selects "PatchCords$Way$2" ({ cls := "java/lang/Object", name := "getClass", desc := "()Ljava/lang/Class;" } : Jvm.MethodName) ({ cls := "java/lang/Object", name := "getClass", desc := "()Ljava/lang/Class;" } : Jvm.MethodName)) ∈ lw_all := lw_g (lw_at lw_m2 156 rfl) rfl
theorem q578 : (Jvm.Cond.selects "PatchCords$Way$2" ({ cls := "PatchCords$Way", name := "ordinal", desc := "()I" } : Jvm.MethodName) ({ cls := "java/lang/Enum", name := "ordinal", desc := "()I" } : Jvm.MethodName)) ∈ lw_all := lw_g (lw_at lw_m2 238 rfl) rfl
theorem q770 : (Jvm.Cond.selects "PatchCords$Way$2" ({ cls := "PatchCords$Way", name := "step", desc := "(LPatchCords$Panel;)V" } : Jvm.MethodName) ({ cls := "PatchCords$Way$2", name := "step", desc := "(LPatchCords$Panel;)V" } : Jvm.MethodName)) ∈ lw_all := lw_g (lw_at lw_m3 190 rfl) rfl
theorem q771 : (Jvm.Cond.instanceMethod ({ cls := "PatchCords$Way$2", name := "step", desc := "(LPatchCords$Panel;)V" } : Jvm.MethodName)) ∈ lw_all := lw_g (lw_at lw_m3 191 rfl) rfl
theorem q772 : (Jvm.Cond.code ({ cls := "PatchCords$Way$2", name := "step", desc := "(LPatchCords$Panel;)V" } : Jvm.MethodName) prog_14_method_2_code (2 : Nat) (Option.none : Option Jvm.ClassFile.FieldType)) ∈ lw_all := lw_g (lw_at lw_m3 192 rfl) rfl
theorem q773 : (Jvm.Cond.methodLinkNest "PatchCords$Way$2" (7 : Nat) ({ cls := "PatchCords$Panel", name := "tellRates", desc := "()V" } : Jvm.MethodName) "PatchCords") ∈ lw_tbl := lw_at lw_m3 193 rfl
theorem q774 : (Jvm.Cond.methodLinkNest "PatchCords$Way$2" (13 : Nat) ({ cls := "PatchCords$Panel", name := "moveAll", desc := "(I)V" } : Jvm.MethodName) "PatchCords") ∈ lw_tbl := lw_at lw_m3 194 rfl
theorem q2416 : (Jvm.Cond.castable "PatchCords$Way$2" "java/lang/Object") ∈ lw_tbl := lw_at lw_m10 156 rfl
theorem q2423 : (Jvm.Cond.castable "PatchCords$Way$2" "PatchCords$Way") ∈ lw_tbl := lw_at lw_m10 163 rfl
