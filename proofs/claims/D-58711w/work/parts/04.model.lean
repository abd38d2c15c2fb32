/-! LiarMapsModel -/
set_option maxRecDepth 100000
def RX3 : String := "LiarMapsModel"
def TX3 : u_T := fun k => match k with
  | 0 => ("LiarMapsModel", "s", "[I", true)
  | 1 => ("LiarMapsModel", "past", "[I", true)
  | 2 => ("LiarMapsModel", "pasts", "I", false)
  | 3 => ("LiarMapsModel", "slots", "[I", true)
  | 4 => ("LiarMapsModel", "isKept", "[Z", true)
  | 5 => ("LiarMapsModel", "pad", "[I", true)
  | 6 => ("LiarMapsModel", "length", "I", false)
  | 7 => ("LiarMapsModel", "known", "I", false)
  | 8 => ("LiarMapsModel", "there", "I", false)
  | 9 => ("LiarMapsModel", "far", "[I", true)
  | 10 => ("LiarMapsModel", "spot", "I", false)
  | 11 => ("LiarMapsModel", "isWrong", "Z", false)
  | 12 => ("LiarMapsModel", "sign", "I", false)
  | 13 => ("LiarMapsModel", "digit", "I", false)
  | 14 => ("LiarMapsModel", "first", "I", false)
  | _ => ("LiarMapsModel", "second", "I", false)
def tyX3 : Nat → FieldType := fun k => match k with
  | 0 => .array .int
  | 1 => .array .int
  | 2 => .int
  | 3 => .array .int
  | 4 => .array .boolean
  | 5 => .array .int
  | 6 => .int
  | 7 => .int
  | 8 => .int
  | 9 => .array .int
  | 10 => .int
  | 11 => .boolean
  | 12 => .int
  | 13 => .int
  | 14 => .int
  | _ => .int
abbrev wsX30 : List Cond := u_ws RX3 TX3 16
set_option maxRecDepth 100000 in
theorem nmX3 : ∀ a, a < 16 → ∀ b, b < 16 → a ≠ b → (TX3 a).2.1 ≠ (TX3 b).2.1 := by decide +kernel
set_option maxRecDepth 100000 in
theorem tyX3_ok : ∀ k, k < 16 → parseFieldDescriptor (TX3 k).2.2.1 = some (tyX3 k) := by decide +kernel
abbrev cX3_init : ByteArray := prog_9_method_1_code
def yX3_init : MethodName := ⟨RX3, "<init>", "()V"⟩
def dkwX3_init_4 : List UInt8 := [180, 0, 7, 7, 7, 79, 42, 180, 0, 7, 8, 16, 40, 79, 42, 180, 0, 7, 16, 30, 16, 250, 79, 177]
abbrev dktX3_init_4 : List UInt8 := dkwX3_init_4 ++ []
def dkwX3_init_3 : List UInt8 := [79, 132, 1, 1, 167, 255, 237, 42, 180, 0, 7, 5, 5, 79, 42, 180, 0, 7, 6, 8, 79, 42]
abbrev dktX3_init_3 : List UInt8 := dkwX3_init_3 ++ dktX3_init_4
def dkwX3_init_2 : List UInt8 := [16, 8, 188, 10, 181, 0, 26, 3, 60, 27, 6, 162, 0, 20, 42, 180, 0, 7, 16, 8, 27, 96, 16, 20]
abbrev dktX3_init_2 : List UInt8 := dkwX3_init_2 ++ dktX3_init_3
def dkwX3_init_1 : List UInt8 := [17, 1, 108, 188, 10, 181, 0, 16, 42, 5, 188, 4, 181, 0, 19, 42, 16, 80, 188, 10, 181, 0, 23, 42]
abbrev dktX3_init_1 : List UInt8 := dkwX3_init_1 ++ dktX3_init_2
def dkwX3_init_0 : List UInt8 := [42, 183, 0, 1, 42, 17, 0, 182, 188, 10, 181, 0, 7, 42, 17, 4, 68, 188, 10, 181, 0, 13, 42]
abbrev dktX3_init_0 : List UInt8 := dkwX3_init_0 ++ dktX3_init_1
theorem dksX3_init_0 : cX3_init.data.toList.drop 0 = dktX3_init_0 := by decide +kernel
theorem dksX3_init_1 : cX3_init.data.toList.drop 23 = dktX3_init_1 := dk_seg dksX3_init_0 23 rfl rfl
theorem dksX3_init_2 : cX3_init.data.toList.drop 47 = dktX3_init_2 := dk_seg dksX3_init_1 24 rfl rfl
theorem dksX3_init_3 : cX3_init.data.toList.drop 71 = dktX3_init_3 := dk_seg dksX3_init_2 24 rfl rfl
theorem dksX3_init_4 : cX3_init.data.toList.drop 93 = dktX3_init_4 := dk_seg dksX3_init_3 22 rfl rfl
theorem dX3_init_0 : decode cX3_init 0 = .ok (.aload_n 0, 1) := dk_42 (dk_at dksX3_init_0 0 rfl rfl)
theorem dX3_init_1 : decode cX3_init 1 = .ok (.invokespecial 1, 3) := dk_183 0 1 (dk_at dksX3_init_0 1 rfl rfl)
theorem dX3_init_4 : decode cX3_init 4 = .ok (.aload_n 0, 1) := dk_42 (dk_at dksX3_init_0 4 rfl rfl)
theorem dX3_init_5 : decode cX3_init 5 = .ok (.sipush 182, 3) := dk_17 0 182 (dk_at dksX3_init_0 5 rfl rfl)
theorem dX3_init_8 : decode cX3_init 8 = .ok (.newarray .int, 2) := dk_188_10 (dk_at dksX3_init_0 8 rfl rfl)
theorem dX3_init_10 : decode cX3_init 10 = .ok (.putfield 7, 3) := dk_181 0 7 (dk_at dksX3_init_0 10 rfl rfl)
theorem dX3_init_13 : decode cX3_init 13 = .ok (.aload_n 0, 1) := dk_42 (dk_at dksX3_init_0 13 rfl rfl)
theorem dX3_init_14 : decode cX3_init 14 = .ok (.sipush 1092, 3) := dk_17 4 68 (dk_at dksX3_init_0 14 rfl rfl)
theorem dX3_init_17 : decode cX3_init 17 = .ok (.newarray .int, 2) := dk_188_10 (dk_at dksX3_init_0 17 rfl rfl)
theorem dX3_init_19 : decode cX3_init 19 = .ok (.putfield 13, 3) := dk_181 0 13 (dk_at dksX3_init_0 19 rfl rfl)
theorem dX3_init_22 : decode cX3_init 22 = .ok (.aload_n 0, 1) := dk_42 (dk_at dksX3_init_0 22 rfl rfl)
theorem dX3_init_23 : decode cX3_init 23 = .ok (.sipush 364, 3) := dk_17 1 108 (dk_at dksX3_init_1 0 rfl rfl)
theorem dX3_init_26 : decode cX3_init 26 = .ok (.newarray .int, 2) := dk_188_10 (dk_at dksX3_init_1 3 rfl rfl)
theorem dX3_init_28 : decode cX3_init 28 = .ok (.putfield 16, 3) := dk_181 0 16 (dk_at dksX3_init_1 5 rfl rfl)
theorem dX3_init_31 : decode cX3_init 31 = .ok (.aload_n 0, 1) := dk_42 (dk_at dksX3_init_1 8 rfl rfl)
theorem dX3_init_32 : decode cX3_init 32 = .ok (.iconst 2, 1) := dk_5 (dk_at dksX3_init_1 9 rfl rfl)
theorem dX3_init_33 : decode cX3_init 33 = .ok (.newarray .boolean, 2) := dk_188_4 (dk_at dksX3_init_1 10 rfl rfl)
theorem dX3_init_35 : decode cX3_init 35 = .ok (.putfield 19, 3) := dk_181 0 19 (dk_at dksX3_init_1 12 rfl rfl)
theorem dX3_init_38 : decode cX3_init 38 = .ok (.aload_n 0, 1) := dk_42 (dk_at dksX3_init_1 15 rfl rfl)
theorem dX3_init_39 : decode cX3_init 39 = .ok (.bipush 80, 2) := dk_16 80 (dk_at dksX3_init_1 16 rfl rfl)
theorem dX3_init_41 : decode cX3_init 41 = .ok (.newarray .int, 2) := dk_188_10 (dk_at dksX3_init_1 18 rfl rfl)
theorem dX3_init_43 : decode cX3_init 43 = .ok (.putfield 23, 3) := dk_181 0 23 (dk_at dksX3_init_1 20 rfl rfl)
theorem dX3_init_46 : decode cX3_init 46 = .ok (.aload_n 0, 1) := dk_42 (dk_at dksX3_init_1 23 rfl rfl)
theorem dX3_init_47 : decode cX3_init 47 = .ok (.bipush 8, 2) := dk_16 8 (dk_at dksX3_init_2 0 rfl rfl)
theorem dX3_init_49 : decode cX3_init 49 = .ok (.newarray .int, 2) := dk_188_10 (dk_at dksX3_init_2 2 rfl rfl)
theorem dX3_init_51 : decode cX3_init 51 = .ok (.putfield 26, 3) := dk_181 0 26 (dk_at dksX3_init_2 4 rfl rfl)
theorem dX3_init_54 : decode cX3_init 54 = .ok (.iconst 0, 1) := dk_3 (dk_at dksX3_init_2 7 rfl rfl)
theorem dX3_init_55 : decode cX3_init 55 = .ok (.istore_n 1, 1) := dk_60 (dk_at dksX3_init_2 8 rfl rfl)
theorem dX3_init_56 : decode cX3_init 56 = .ok (.iload_n 1, 1) := dk_27 (dk_at dksX3_init_2 9 rfl rfl)
theorem dX3_init_57 : decode cX3_init 57 = .ok (.iconst 3, 1) := dk_6 (dk_at dksX3_init_2 10 rfl rfl)
theorem dX3_init_58 : decode cX3_init 58 = .ok (.if_icmp .ge 20, 3) := dk_162 0 20 (dk_at dksX3_init_2 11 rfl rfl)
theorem dX3_init_61 : decode cX3_init 61 = .ok (.aload_n 0, 1) := dk_42 (dk_at dksX3_init_2 14 rfl rfl)
theorem dX3_init_62 : decode cX3_init 62 = .ok (.getfield 7, 3) := dk_180 0 7 (dk_at dksX3_init_2 15 rfl rfl)
theorem dX3_init_65 : decode cX3_init 65 = .ok (.bipush 8, 2) := dk_16 8 (dk_at dksX3_init_2 18 rfl rfl)
theorem dX3_init_67 : decode cX3_init 67 = .ok (.iload_n 1, 1) := dk_27 (dk_at dksX3_init_2 20 rfl rfl)
theorem dX3_init_68 : decode cX3_init 68 = .ok (.iadd, 1) := dk_96 (dk_at dksX3_init_2 21 rfl rfl)
theorem dX3_init_69 : decode cX3_init 69 = .ok (.bipush 20, 2) := dk_16 20 (dk_at dksX3_init_2 22 rfl rfl)
theorem dX3_init_71 : decode cX3_init 71 = .ok (.iastore, 1) := dk_79 (dk_at dksX3_init_3 0 rfl rfl)
theorem dX3_init_72 : decode cX3_init 72 = .ok (.iinc 1 1, 3) := dk_132 1 1 (dk_at dksX3_init_3 1 rfl rfl)
theorem dX3_init_75 : decode cX3_init 75 = .ok (.goto (-19), 3) := dk_167 255 237 (dk_at dksX3_init_3 4 rfl rfl)
theorem dX3_init_78 : decode cX3_init 78 = .ok (.aload_n 0, 1) := dk_42 (dk_at dksX3_init_3 7 rfl rfl)
theorem dX3_init_79 : decode cX3_init 79 = .ok (.getfield 7, 3) := dk_180 0 7 (dk_at dksX3_init_3 8 rfl rfl)
theorem dX3_init_82 : decode cX3_init 82 = .ok (.iconst 2, 1) := dk_5 (dk_at dksX3_init_3 11 rfl rfl)
theorem dX3_init_83 : decode cX3_init 83 = .ok (.iconst 2, 1) := dk_5 (dk_at dksX3_init_3 12 rfl rfl)
theorem dX3_init_84 : decode cX3_init 84 = .ok (.iastore, 1) := dk_79 (dk_at dksX3_init_3 13 rfl rfl)
theorem dX3_init_85 : decode cX3_init 85 = .ok (.aload_n 0, 1) := dk_42 (dk_at dksX3_init_3 14 rfl rfl)
theorem dX3_init_86 : decode cX3_init 86 = .ok (.getfield 7, 3) := dk_180 0 7 (dk_at dksX3_init_3 15 rfl rfl)
theorem dX3_init_89 : decode cX3_init 89 = .ok (.iconst 3, 1) := dk_6 (dk_at dksX3_init_3 18 rfl rfl)
theorem dX3_init_90 : decode cX3_init 90 = .ok (.iconst 5, 1) := dk_8 (dk_at dksX3_init_3 19 rfl rfl)
theorem dX3_init_91 : decode cX3_init 91 = .ok (.iastore, 1) := dk_79 (dk_at dksX3_init_3 20 rfl rfl)
theorem dX3_init_92 : decode cX3_init 92 = .ok (.aload_n 0, 1) := dk_42 (dk_at dksX3_init_3 21 rfl rfl)
theorem dX3_init_93 : decode cX3_init 93 = .ok (.getfield 7, 3) := dk_180 0 7 (dk_at dksX3_init_4 0 rfl rfl)
theorem dX3_init_96 : decode cX3_init 96 = .ok (.iconst 4, 1) := dk_7 (dk_at dksX3_init_4 3 rfl rfl)
theorem dX3_init_97 : decode cX3_init 97 = .ok (.iconst 4, 1) := dk_7 (dk_at dksX3_init_4 4 rfl rfl)
theorem dX3_init_98 : decode cX3_init 98 = .ok (.iastore, 1) := dk_79 (dk_at dksX3_init_4 5 rfl rfl)
theorem dX3_init_99 : decode cX3_init 99 = .ok (.aload_n 0, 1) := dk_42 (dk_at dksX3_init_4 6 rfl rfl)
theorem dX3_init_100 : decode cX3_init 100 = .ok (.getfield 7, 3) := dk_180 0 7 (dk_at dksX3_init_4 7 rfl rfl)
theorem dX3_init_103 : decode cX3_init 103 = .ok (.iconst 5, 1) := dk_8 (dk_at dksX3_init_4 10 rfl rfl)
theorem dX3_init_104 : decode cX3_init 104 = .ok (.bipush 40, 2) := dk_16 40 (dk_at dksX3_init_4 11 rfl rfl)
theorem dX3_init_106 : decode cX3_init 106 = .ok (.iastore, 1) := dk_79 (dk_at dksX3_init_4 13 rfl rfl)
theorem dX3_init_107 : decode cX3_init 107 = .ok (.aload_n 0, 1) := dk_42 (dk_at dksX3_init_4 14 rfl rfl)
theorem dX3_init_108 : decode cX3_init 108 = .ok (.getfield 7, 3) := dk_180 0 7 (dk_at dksX3_init_4 15 rfl rfl)
theorem dX3_init_111 : decode cX3_init 111 = .ok (.bipush 30, 2) := dk_16 30 (dk_at dksX3_init_4 18 rfl rfl)
theorem dX3_init_113 : decode cX3_init 113 = .ok (.bipush (-6), 2) := dk_16 250 (dk_at dksX3_init_4 20 rfl rfl)
theorem dX3_init_115 : decode cX3_init 115 = .ok (.iastore, 1) := dk_79 (dk_at dksX3_init_4 22 rfl rfl)
theorem dX3_init_116 : decode cX3_init 116 = .ok (.return_, 1) := dk_177 (dk_at dksX3_init_4 23 rfl rfl)
abbrev cX3_set : ByteArray := prog_9_method_15_code
def yX3_set : MethodName := ⟨RX3, "set", "(II)I"⟩
def dkwX3_set_2 : List UInt8 := [79, 29, 172]
abbrev dktX3_set_2 : List UInt8 := dkwX3_set_2 ++ []
def dkwX3_set_1 : List UInt8 := [16, 254, 172, 42, 182, 0, 64, 42, 180, 0, 7, 5, 27, 96, 46, 62, 42, 180, 0, 7, 5, 27, 96, 28]
abbrev dktX3_set_1 : List UInt8 := dkwX3_set_1 ++ dktX3_set_2
def dkwX3_set_0 : List UInt8 := [27, 3, 6, 184, 0, 29, 153, 0, 18, 28, 27, 184, 0, 58, 27, 184, 0, 61, 184, 0, 29, 154, 0, 6]
abbrev dktX3_set_0 : List UInt8 := dkwX3_set_0 ++ dktX3_set_1
theorem dksX3_set_0 : cX3_set.data.toList.drop 0 = dktX3_set_0 := by decide +kernel
theorem dksX3_set_1 : cX3_set.data.toList.drop 24 = dktX3_set_1 := dk_seg dksX3_set_0 24 rfl rfl
theorem dksX3_set_2 : cX3_set.data.toList.drop 48 = dktX3_set_2 := dk_seg dksX3_set_1 24 rfl rfl
theorem dX3_set_0 : decode cX3_set 0 = .ok (.iload_n 1, 1) := dk_27 (dk_at dksX3_set_0 0 rfl rfl)
theorem dX3_set_1 : decode cX3_set 1 = .ok (.iconst 0, 1) := dk_3 (dk_at dksX3_set_0 1 rfl rfl)
theorem dX3_set_2 : decode cX3_set 2 = .ok (.iconst 3, 1) := dk_6 (dk_at dksX3_set_0 2 rfl rfl)
theorem dX3_set_3 : decode cX3_set 3 = .ok (.invokestatic 29, 3) := dk_184 0 29 (dk_at dksX3_set_0 3 rfl rfl)
theorem dX3_set_6 : decode cX3_set 6 = .ok (.ifCond .eq 18, 3) := dk_153 0 18 (dk_at dksX3_set_0 6 rfl rfl)
theorem dX3_set_9 : decode cX3_set 9 = .ok (.iload_n 2, 1) := dk_28 (dk_at dksX3_set_0 9 rfl rfl)
theorem dX3_set_10 : decode cX3_set 10 = .ok (.iload_n 1, 1) := dk_27 (dk_at dksX3_set_0 10 rfl rfl)
theorem dX3_set_11 : decode cX3_set 11 = .ok (.invokestatic 58, 3) := dk_184 0 58 (dk_at dksX3_set_0 11 rfl rfl)
theorem dX3_set_14 : decode cX3_set 14 = .ok (.iload_n 1, 1) := dk_27 (dk_at dksX3_set_0 14 rfl rfl)
theorem dX3_set_15 : decode cX3_set 15 = .ok (.invokestatic 61, 3) := dk_184 0 61 (dk_at dksX3_set_0 15 rfl rfl)
theorem dX3_set_18 : decode cX3_set 18 = .ok (.invokestatic 29, 3) := dk_184 0 29 (dk_at dksX3_set_0 18 rfl rfl)
theorem dX3_set_21 : decode cX3_set 21 = .ok (.ifCond .ne 6, 3) := dk_154 0 6 (dk_at dksX3_set_0 21 rfl rfl)
theorem dX3_set_24 : decode cX3_set 24 = .ok (.bipush (-2), 2) := dk_16 254 (dk_at dksX3_set_1 0 rfl rfl)
theorem dX3_set_26 : decode cX3_set 26 = .ok (.ireturn, 1) := dk_172 (dk_at dksX3_set_1 2 rfl rfl)
theorem dX3_set_27 : decode cX3_set 27 = .ok (.aload_n 0, 1) := dk_42 (dk_at dksX3_set_1 3 rfl rfl)
theorem dX3_set_28 : decode cX3_set 28 = .ok (.invokevirtual 64, 3) := dk_182 0 64 (dk_at dksX3_set_1 4 rfl rfl)
theorem dX3_set_31 : decode cX3_set 31 = .ok (.aload_n 0, 1) := dk_42 (dk_at dksX3_set_1 7 rfl rfl)
theorem dX3_set_32 : decode cX3_set 32 = .ok (.getfield 7, 3) := dk_180 0 7 (dk_at dksX3_set_1 8 rfl rfl)
theorem dX3_set_35 : decode cX3_set 35 = .ok (.iconst 2, 1) := dk_5 (dk_at dksX3_set_1 11 rfl rfl)
theorem dX3_set_36 : decode cX3_set 36 = .ok (.iload_n 1, 1) := dk_27 (dk_at dksX3_set_1 12 rfl rfl)
theorem dX3_set_37 : decode cX3_set 37 = .ok (.iadd, 1) := dk_96 (dk_at dksX3_set_1 13 rfl rfl)
theorem dX3_set_38 : decode cX3_set 38 = .ok (.iaload, 1) := dk_46 (dk_at dksX3_set_1 14 rfl rfl)
theorem dX3_set_39 : decode cX3_set 39 = .ok (.istore_n 3, 1) := dk_62 (dk_at dksX3_set_1 15 rfl rfl)
theorem dX3_set_40 : decode cX3_set 40 = .ok (.aload_n 0, 1) := dk_42 (dk_at dksX3_set_1 16 rfl rfl)
theorem dX3_set_41 : decode cX3_set 41 = .ok (.getfield 7, 3) := dk_180 0 7 (dk_at dksX3_set_1 17 rfl rfl)
theorem dX3_set_44 : decode cX3_set 44 = .ok (.iconst 2, 1) := dk_5 (dk_at dksX3_set_1 20 rfl rfl)
theorem dX3_set_45 : decode cX3_set 45 = .ok (.iload_n 1, 1) := dk_27 (dk_at dksX3_set_1 21 rfl rfl)
theorem dX3_set_46 : decode cX3_set 46 = .ok (.iadd, 1) := dk_96 (dk_at dksX3_set_1 22 rfl rfl)
theorem dX3_set_47 : decode cX3_set 47 = .ok (.iload_n 2, 1) := dk_28 (dk_at dksX3_set_1 23 rfl rfl)
theorem dX3_set_48 : decode cX3_set 48 = .ok (.iastore, 1) := dk_79 (dk_at dksX3_set_2 0 rfl rfl)
theorem dX3_set_49 : decode cX3_set 49 = .ok (.iload_n 3, 1) := dk_29 (dk_at dksX3_set_2 1 rfl rfl)
theorem dX3_set_50 : decode cX3_set 50 = .ok (.ireturn, 1) := dk_172 (dk_at dksX3_set_2 2 rfl rfl)
abbrev cX3_in : ByteArray := prog_9_method_3_code
def yX3_in : MethodName := ⟨RX3, "in", "(III)Z"⟩
def dkwX3_in_0 : List UInt8 := [26, 27, 161, 0, 12, 26, 28, 163, 0, 7, 4, 167, 0, 4, 3, 172]
abbrev dktX3_in_0 : List UInt8 := dkwX3_in_0 ++ []
theorem dksX3_in_0 : cX3_in.data.toList.drop 0 = dktX3_in_0 := by decide +kernel
theorem dX3_in_0 : decode cX3_in 0 = .ok (.iload_n 0, 1) := dk_26 (dk_at dksX3_in_0 0 rfl rfl)
theorem dX3_in_1 : decode cX3_in 1 = .ok (.iload_n 1, 1) := dk_27 (dk_at dksX3_in_0 1 rfl rfl)
theorem dX3_in_2 : decode cX3_in 2 = .ok (.if_icmp .lt 12, 3) := dk_161 0 12 (dk_at dksX3_in_0 2 rfl rfl)
theorem dX3_in_5 : decode cX3_in 5 = .ok (.iload_n 0, 1) := dk_26 (dk_at dksX3_in_0 5 rfl rfl)
theorem dX3_in_6 : decode cX3_in 6 = .ok (.iload_n 2, 1) := dk_28 (dk_at dksX3_in_0 6 rfl rfl)
theorem dX3_in_7 : decode cX3_in 7 = .ok (.if_icmp .gt 7, 3) := dk_163 0 7 (dk_at dksX3_in_0 7 rfl rfl)
theorem dX3_in_10 : decode cX3_in 10 = .ok (.iconst 1, 1) := dk_4 (dk_at dksX3_in_0 10 rfl rfl)
theorem dX3_in_11 : decode cX3_in 11 = .ok (.goto 4, 3) := dk_167 0 4 (dk_at dksX3_in_0 11 rfl rfl)
theorem dX3_in_14 : decode cX3_in 14 = .ok (.iconst 0, 1) := dk_3 (dk_at dksX3_in_0 14 rfl rfl)
theorem dX3_in_15 : decode cX3_in 15 = .ok (.ireturn, 1) := dk_172 (dk_at dksX3_in_0 15 rfl rfl)
abbrev cX3_least : ByteArray := prog_9_method_13_code
def yX3_least : MethodName := ⟨RX3, "least", "(I)I"⟩
def dkwX3_least_0 : List UInt8 := [26, 4, 159, 0, 8, 26, 6, 160, 0, 7, 4, 167, 0, 4, 3, 172]
abbrev dktX3_least_0 : List UInt8 := dkwX3_least_0 ++ []
theorem dksX3_least_0 : cX3_least.data.toList.drop 0 = dktX3_least_0 := by decide +kernel
theorem dX3_least_0 : decode cX3_least 0 = .ok (.iload_n 0, 1) := dk_26 (dk_at dksX3_least_0 0 rfl rfl)
theorem dX3_least_1 : decode cX3_least 1 = .ok (.iconst 1, 1) := dk_4 (dk_at dksX3_least_0 1 rfl rfl)
theorem dX3_least_2 : decode cX3_least 2 = .ok (.if_icmp .eq 8, 3) := dk_159 0 8 (dk_at dksX3_least_0 2 rfl rfl)
theorem dX3_least_5 : decode cX3_least 5 = .ok (.iload_n 0, 1) := dk_26 (dk_at dksX3_least_0 5 rfl rfl)
theorem dX3_least_6 : decode cX3_least 6 = .ok (.iconst 3, 1) := dk_6 (dk_at dksX3_least_0 6 rfl rfl)
theorem dX3_least_7 : decode cX3_least 7 = .ok (.if_icmp .ne 7, 3) := dk_160 0 7 (dk_at dksX3_least_0 7 rfl rfl)
theorem dX3_least_10 : decode cX3_least 10 = .ok (.iconst 1, 1) := dk_4 (dk_at dksX3_least_0 10 rfl rfl)
theorem dX3_least_11 : decode cX3_least 11 = .ok (.goto 4, 3) := dk_167 0 4 (dk_at dksX3_least_0 11 rfl rfl)
theorem dX3_least_14 : decode cX3_least 14 = .ok (.iconst 0, 1) := dk_3 (dk_at dksX3_least_0 14 rfl rfl)
theorem dX3_least_15 : decode cX3_least 15 = .ok (.ireturn, 1) := dk_172 (dk_at dksX3_least_0 15 rfl rfl)
abbrev cX3_most : ByteArray := prog_9_method_14_code
def yX3_most : MethodName := ⟨RX3, "most", "(I)I"⟩
def dkwX3_most_0 : List UInt8 := [26, 154, 0, 8, 16, 20, 167, 0, 16, 26, 6, 160, 0, 9, 17, 0, 200, 167, 0, 5, 16, 50, 172]
abbrev dktX3_most_0 : List UInt8 := dkwX3_most_0 ++ []
theorem dksX3_most_0 : cX3_most.data.toList.drop 0 = dktX3_most_0 := by decide +kernel
theorem dX3_most_0 : decode cX3_most 0 = .ok (.iload_n 0, 1) := dk_26 (dk_at dksX3_most_0 0 rfl rfl)
theorem dX3_most_1 : decode cX3_most 1 = .ok (.ifCond .ne 8, 3) := dk_154 0 8 (dk_at dksX3_most_0 1 rfl rfl)
theorem dX3_most_4 : decode cX3_most 4 = .ok (.bipush 20, 2) := dk_16 20 (dk_at dksX3_most_0 4 rfl rfl)
theorem dX3_most_6 : decode cX3_most 6 = .ok (.goto 16, 3) := dk_167 0 16 (dk_at dksX3_most_0 6 rfl rfl)
theorem dX3_most_9 : decode cX3_most 9 = .ok (.iload_n 0, 1) := dk_26 (dk_at dksX3_most_0 9 rfl rfl)
theorem dX3_most_10 : decode cX3_most 10 = .ok (.iconst 3, 1) := dk_6 (dk_at dksX3_most_0 10 rfl rfl)
theorem dX3_most_11 : decode cX3_most 11 = .ok (.if_icmp .ne 9, 3) := dk_160 0 9 (dk_at dksX3_most_0 11 rfl rfl)
theorem dX3_most_14 : decode cX3_most 14 = .ok (.sipush 200, 3) := dk_17 0 200 (dk_at dksX3_most_0 14 rfl rfl)
theorem dX3_most_17 : decode cX3_most 17 = .ok (.goto 5, 3) := dk_167 0 5 (dk_at dksX3_most_0 17 rfl rfl)
theorem dX3_most_20 : decode cX3_most 20 = .ok (.bipush 50, 2) := dk_16 50 (dk_at dksX3_most_0 20 rfl rfl)
theorem dX3_most_22 : decode cX3_most 22 = .ok (.ireturn, 1) := dk_172 (dk_at dksX3_most_0 22 rfl rfl)
abbrev cX3_records : ByteArray := prog_9_method_6_code
def yX3_records : MethodName := ⟨RX3, "records", "()V"⟩
def dkwX3_records_4 : List UInt8 := [181, 0, 33, 177]
abbrev dktX3_records_4 : List UInt8 := dkwX3_records_4 ++ []
def dkwX3_records_3 : List UInt8 := [27, 96, 42, 180, 0, 7, 27, 46, 79, 132, 1, 1, 167, 255, 225, 42, 89, 180, 0, 33, 4, 96]
abbrev dktX3_records_3 : List UInt8 := dkwX3_records_3 ++ dktX3_records_4
def dkwX3_records_2 : List UInt8 := [181, 0, 33, 3, 60, 27, 17, 0, 182, 162, 0, 30, 42, 180, 0, 13, 17, 0, 182, 42, 180, 0, 33, 104]
abbrev dktX3_records_2 : List UInt8 := dkwX3_records_2 ++ dktX3_records_3
def dkwX3_records_1 : List UInt8 := [180, 0, 13, 17, 0, 182, 27, 96, 46, 79, 132, 1, 1, 167, 255, 230, 42, 89, 180, 0, 33, 4, 100]
abbrev dktX3_records_1 : List UInt8 := dkwX3_records_1 ++ dktX3_records_2
def dkwX3_records_0 : List UInt8 := [42, 180, 0, 33, 16, 6, 160, 0, 44, 3, 60, 27, 17, 3, 142, 162, 0, 25, 42, 180, 0, 13, 27, 42]
abbrev dktX3_records_0 : List UInt8 := dkwX3_records_0 ++ dktX3_records_1
theorem dksX3_records_0 : cX3_records.data.toList.drop 0 = dktX3_records_0 := by decide +kernel
theorem dksX3_records_1 : cX3_records.data.toList.drop 24 = dktX3_records_1 := dk_seg dksX3_records_0 24 rfl rfl
theorem dksX3_records_2 : cX3_records.data.toList.drop 47 = dktX3_records_2 := dk_seg dksX3_records_1 23 rfl rfl
theorem dksX3_records_3 : cX3_records.data.toList.drop 71 = dktX3_records_3 := dk_seg dksX3_records_2 24 rfl rfl
theorem dksX3_records_4 : cX3_records.data.toList.drop 93 = dktX3_records_4 := dk_seg dksX3_records_3 22 rfl rfl
theorem dX3_records_0 : decode cX3_records 0 = .ok (.aload_n 0, 1) := dk_42 (dk_at dksX3_records_0 0 rfl rfl)
theorem dX3_records_1 : decode cX3_records 1 = .ok (.getfield 33, 3) := dk_180 0 33 (dk_at dksX3_records_0 1 rfl rfl)
theorem dX3_records_4 : decode cX3_records 4 = .ok (.bipush 6, 2) := dk_16 6 (dk_at dksX3_records_0 4 rfl rfl)
theorem dX3_records_6 : decode cX3_records 6 = .ok (.if_icmp .ne 44, 3) := dk_160 0 44 (dk_at dksX3_records_0 6 rfl rfl)
theorem dX3_records_9 : decode cX3_records 9 = .ok (.iconst 0, 1) := dk_3 (dk_at dksX3_records_0 9 rfl rfl)
theorem dX3_records_10 : decode cX3_records 10 = .ok (.istore_n 1, 1) := dk_60 (dk_at dksX3_records_0 10 rfl rfl)
theorem dX3_records_11 : decode cX3_records 11 = .ok (.iload_n 1, 1) := dk_27 (dk_at dksX3_records_0 11 rfl rfl)
theorem dX3_records_12 : decode cX3_records 12 = .ok (.sipush 910, 3) := dk_17 3 142 (dk_at dksX3_records_0 12 rfl rfl)
theorem dX3_records_15 : decode cX3_records 15 = .ok (.if_icmp .ge 25, 3) := dk_162 0 25 (dk_at dksX3_records_0 15 rfl rfl)
theorem dX3_records_18 : decode cX3_records 18 = .ok (.aload_n 0, 1) := dk_42 (dk_at dksX3_records_0 18 rfl rfl)
theorem dX3_records_19 : decode cX3_records 19 = .ok (.getfield 13, 3) := dk_180 0 13 (dk_at dksX3_records_0 19 rfl rfl)
theorem dX3_records_22 : decode cX3_records 22 = .ok (.iload_n 1, 1) := dk_27 (dk_at dksX3_records_0 22 rfl rfl)
theorem dX3_records_23 : decode cX3_records 23 = .ok (.aload_n 0, 1) := dk_42 (dk_at dksX3_records_0 23 rfl rfl)
theorem dX3_records_24 : decode cX3_records 24 = .ok (.getfield 13, 3) := dk_180 0 13 (dk_at dksX3_records_1 0 rfl rfl)
theorem dX3_records_27 : decode cX3_records 27 = .ok (.sipush 182, 3) := dk_17 0 182 (dk_at dksX3_records_1 3 rfl rfl)
theorem dX3_records_30 : decode cX3_records 30 = .ok (.iload_n 1, 1) := dk_27 (dk_at dksX3_records_1 6 rfl rfl)
theorem dX3_records_31 : decode cX3_records 31 = .ok (.iadd, 1) := dk_96 (dk_at dksX3_records_1 7 rfl rfl)
theorem dX3_records_32 : decode cX3_records 32 = .ok (.iaload, 1) := dk_46 (dk_at dksX3_records_1 8 rfl rfl)
theorem dX3_records_33 : decode cX3_records 33 = .ok (.iastore, 1) := dk_79 (dk_at dksX3_records_1 9 rfl rfl)
theorem dX3_records_34 : decode cX3_records 34 = .ok (.iinc 1 1, 3) := dk_132 1 1 (dk_at dksX3_records_1 10 rfl rfl)
theorem dX3_records_37 : decode cX3_records 37 = .ok (.goto (-26), 3) := dk_167 255 230 (dk_at dksX3_records_1 13 rfl rfl)
theorem dX3_records_40 : decode cX3_records 40 = .ok (.aload_n 0, 1) := dk_42 (dk_at dksX3_records_1 16 rfl rfl)
theorem dX3_records_41 : decode cX3_records 41 = .ok (.dup, 1) := dk_89 (dk_at dksX3_records_1 17 rfl rfl)
theorem dX3_records_42 : decode cX3_records 42 = .ok (.getfield 33, 3) := dk_180 0 33 (dk_at dksX3_records_1 18 rfl rfl)
theorem dX3_records_45 : decode cX3_records 45 = .ok (.iconst 1, 1) := dk_4 (dk_at dksX3_records_1 21 rfl rfl)
theorem dX3_records_46 : decode cX3_records 46 = .ok (.isub, 1) := dk_100 (dk_at dksX3_records_1 22 rfl rfl)
theorem dX3_records_47 : decode cX3_records 47 = .ok (.putfield 33, 3) := dk_181 0 33 (dk_at dksX3_records_2 0 rfl rfl)
theorem dX3_records_50 : decode cX3_records 50 = .ok (.iconst 0, 1) := dk_3 (dk_at dksX3_records_2 3 rfl rfl)
theorem dX3_records_51 : decode cX3_records 51 = .ok (.istore_n 1, 1) := dk_60 (dk_at dksX3_records_2 4 rfl rfl)
theorem dX3_records_52 : decode cX3_records 52 = .ok (.iload_n 1, 1) := dk_27 (dk_at dksX3_records_2 5 rfl rfl)
theorem dX3_records_53 : decode cX3_records 53 = .ok (.sipush 182, 3) := dk_17 0 182 (dk_at dksX3_records_2 6 rfl rfl)
theorem dX3_records_56 : decode cX3_records 56 = .ok (.if_icmp .ge 30, 3) := dk_162 0 30 (dk_at dksX3_records_2 9 rfl rfl)
theorem dX3_records_59 : decode cX3_records 59 = .ok (.aload_n 0, 1) := dk_42 (dk_at dksX3_records_2 12 rfl rfl)
theorem dX3_records_60 : decode cX3_records 60 = .ok (.getfield 13, 3) := dk_180 0 13 (dk_at dksX3_records_2 13 rfl rfl)
theorem dX3_records_63 : decode cX3_records 63 = .ok (.sipush 182, 3) := dk_17 0 182 (dk_at dksX3_records_2 16 rfl rfl)
theorem dX3_records_66 : decode cX3_records 66 = .ok (.aload_n 0, 1) := dk_42 (dk_at dksX3_records_2 19 rfl rfl)
theorem dX3_records_67 : decode cX3_records 67 = .ok (.getfield 33, 3) := dk_180 0 33 (dk_at dksX3_records_2 20 rfl rfl)
theorem dX3_records_70 : decode cX3_records 70 = .ok (.imul, 1) := dk_104 (dk_at dksX3_records_2 23 rfl rfl)
theorem dX3_records_71 : decode cX3_records 71 = .ok (.iload_n 1, 1) := dk_27 (dk_at dksX3_records_3 0 rfl rfl)
theorem dX3_records_72 : decode cX3_records 72 = .ok (.iadd, 1) := dk_96 (dk_at dksX3_records_3 1 rfl rfl)
theorem dX3_records_73 : decode cX3_records 73 = .ok (.aload_n 0, 1) := dk_42 (dk_at dksX3_records_3 2 rfl rfl)
theorem dX3_records_74 : decode cX3_records 74 = .ok (.getfield 7, 3) := dk_180 0 7 (dk_at dksX3_records_3 3 rfl rfl)
theorem dX3_records_77 : decode cX3_records 77 = .ok (.iload_n 1, 1) := dk_27 (dk_at dksX3_records_3 6 rfl rfl)
theorem dX3_records_78 : decode cX3_records 78 = .ok (.iaload, 1) := dk_46 (dk_at dksX3_records_3 7 rfl rfl)
theorem dX3_records_79 : decode cX3_records 79 = .ok (.iastore, 1) := dk_79 (dk_at dksX3_records_3 8 rfl rfl)
theorem dX3_records_80 : decode cX3_records 80 = .ok (.iinc 1 1, 3) := dk_132 1 1 (dk_at dksX3_records_3 9 rfl rfl)
theorem dX3_records_83 : decode cX3_records 83 = .ok (.goto (-31), 3) := dk_167 255 225 (dk_at dksX3_records_3 12 rfl rfl)
theorem dX3_records_86 : decode cX3_records 86 = .ok (.aload_n 0, 1) := dk_42 (dk_at dksX3_records_3 15 rfl rfl)
theorem dX3_records_87 : decode cX3_records 87 = .ok (.dup, 1) := dk_89 (dk_at dksX3_records_3 16 rfl rfl)
theorem dX3_records_88 : decode cX3_records 88 = .ok (.getfield 33, 3) := dk_180 0 33 (dk_at dksX3_records_3 17 rfl rfl)
theorem dX3_records_91 : decode cX3_records 91 = .ok (.iconst 1, 1) := dk_4 (dk_at dksX3_records_3 20 rfl rfl)
theorem dX3_records_92 : decode cX3_records 92 = .ok (.iadd, 1) := dk_96 (dk_at dksX3_records_3 21 rfl rfl)
theorem dX3_records_93 : decode cX3_records 93 = .ok (.putfield 33, 3) := dk_181 0 33 (dk_at dksX3_records_4 0 rfl rfl)
theorem dX3_records_96 : decode cX3_records 96 = .ok (.return_, 1) := dk_177 (dk_at dksX3_records_4 3 rfl rfl)
abbrev cX3_road : ByteArray := prog_9_method_18_code
def yX3_road : MethodName := ⟨RX3, "road", "(II)I"⟩
def dkwX3_road_0 : List UInt8 := [42, 27, 28, 182, 0, 71, 62, 29, 156, 0, 5, 29, 172, 42, 182, 0, 64, 42, 27, 28, 182, 0, 74, 172]
abbrev dktX3_road_0 : List UInt8 := dkwX3_road_0 ++ []
theorem dksX3_road_0 : cX3_road.data.toList.drop 0 = dktX3_road_0 := by decide +kernel
theorem dX3_road_0 : decode cX3_road 0 = .ok (.aload_n 0, 1) := dk_42 (dk_at dksX3_road_0 0 rfl rfl)
theorem dX3_road_1 : decode cX3_road 1 = .ok (.iload_n 1, 1) := dk_27 (dk_at dksX3_road_0 1 rfl rfl)
theorem dX3_road_2 : decode cX3_road 2 = .ok (.iload_n 2, 1) := dk_28 (dk_at dksX3_road_0 2 rfl rfl)
theorem dX3_road_3 : decode cX3_road 3 = .ok (.invokevirtual 71, 3) := dk_182 0 71 (dk_at dksX3_road_0 3 rfl rfl)
theorem dX3_road_6 : decode cX3_road 6 = .ok (.istore_n 3, 1) := dk_62 (dk_at dksX3_road_0 6 rfl rfl)
theorem dX3_road_7 : decode cX3_road 7 = .ok (.iload_n 3, 1) := dk_29 (dk_at dksX3_road_0 7 rfl rfl)
theorem dX3_road_8 : decode cX3_road 8 = .ok (.ifCond .ge 5, 3) := dk_156 0 5 (dk_at dksX3_road_0 8 rfl rfl)
theorem dX3_road_11 : decode cX3_road 11 = .ok (.iload_n 3, 1) := dk_29 (dk_at dksX3_road_0 11 rfl rfl)
theorem dX3_road_12 : decode cX3_road 12 = .ok (.ireturn, 1) := dk_172 (dk_at dksX3_road_0 12 rfl rfl)
theorem dX3_road_13 : decode cX3_road 13 = .ok (.aload_n 0, 1) := dk_42 (dk_at dksX3_road_0 13 rfl rfl)
theorem dX3_road_14 : decode cX3_road 14 = .ok (.invokevirtual 64, 3) := dk_182 0 64 (dk_at dksX3_road_0 14 rfl rfl)
theorem dX3_road_17 : decode cX3_road 17 = .ok (.aload_n 0, 1) := dk_42 (dk_at dksX3_road_0 17 rfl rfl)
theorem dX3_road_18 : decode cX3_road 18 = .ok (.iload_n 1, 1) := dk_27 (dk_at dksX3_road_0 18 rfl rfl)
theorem dX3_road_19 : decode cX3_road 19 = .ok (.iload_n 2, 1) := dk_28 (dk_at dksX3_road_0 19 rfl rfl)
theorem dX3_road_20 : decode cX3_road 20 = .ok (.invokevirtual 74, 3) := dk_182 0 74 (dk_at dksX3_road_0 20 rfl rfl)
theorem dX3_road_23 : decode cX3_road 23 = .ok (.ireturn, 1) := dk_172 (dk_at dksX3_road_0 23 rfl rfl)
abbrev cX3_barRoad : ByteArray := prog_9_method_16_code
def yX3_barRoad : MethodName := ⟨RX3, "barRoad", "(II)I"⟩
def dkwX3_barRoad_1 : List UInt8 := [16, 254, 167, 0, 16, 42, 182, 0, 41, 153, 0, 8, 16, 251, 167, 0, 4, 3, 172]
abbrev dktX3_barRoad_1 : List UInt8 := dkwX3_barRoad_1 ++ []
def dkwX3_barRoad_0 : List UInt8 := [27, 184, 0, 67, 153, 0, 10, 28, 184, 0, 67, 154, 0, 7, 2, 167, 0, 26, 27, 28, 160, 0, 8]
abbrev dktX3_barRoad_0 : List UInt8 := dkwX3_barRoad_0 ++ dktX3_barRoad_1
theorem dksX3_barRoad_0 : cX3_barRoad.data.toList.drop 0 = dktX3_barRoad_0 := by decide +kernel
theorem dksX3_barRoad_1 : cX3_barRoad.data.toList.drop 23 = dktX3_barRoad_1 := dk_seg dksX3_barRoad_0 23 rfl rfl
theorem dX3_barRoad_0 : decode cX3_barRoad 0 = .ok (.iload_n 1, 1) := dk_27 (dk_at dksX3_barRoad_0 0 rfl rfl)
theorem dX3_barRoad_1 : decode cX3_barRoad 1 = .ok (.invokestatic 67, 3) := dk_184 0 67 (dk_at dksX3_barRoad_0 1 rfl rfl)
theorem dX3_barRoad_4 : decode cX3_barRoad 4 = .ok (.ifCond .eq 10, 3) := dk_153 0 10 (dk_at dksX3_barRoad_0 4 rfl rfl)
theorem dX3_barRoad_7 : decode cX3_barRoad 7 = .ok (.iload_n 2, 1) := dk_28 (dk_at dksX3_barRoad_0 7 rfl rfl)
theorem dX3_barRoad_8 : decode cX3_barRoad 8 = .ok (.invokestatic 67, 3) := dk_184 0 67 (dk_at dksX3_barRoad_0 8 rfl rfl)
theorem dX3_barRoad_11 : decode cX3_barRoad 11 = .ok (.ifCond .ne 7, 3) := dk_154 0 7 (dk_at dksX3_barRoad_0 11 rfl rfl)
theorem dX3_barRoad_14 : decode cX3_barRoad 14 = .ok (.iconst (-1), 1) := dk_2 (dk_at dksX3_barRoad_0 14 rfl rfl)
theorem dX3_barRoad_15 : decode cX3_barRoad 15 = .ok (.goto 26, 3) := dk_167 0 26 (dk_at dksX3_barRoad_0 15 rfl rfl)
theorem dX3_barRoad_18 : decode cX3_barRoad 18 = .ok (.iload_n 1, 1) := dk_27 (dk_at dksX3_barRoad_0 18 rfl rfl)
theorem dX3_barRoad_19 : decode cX3_barRoad 19 = .ok (.iload_n 2, 1) := dk_28 (dk_at dksX3_barRoad_0 19 rfl rfl)
theorem dX3_barRoad_20 : decode cX3_barRoad 20 = .ok (.if_icmp .ne 8, 3) := dk_160 0 8 (dk_at dksX3_barRoad_0 20 rfl rfl)
theorem dX3_barRoad_23 : decode cX3_barRoad 23 = .ok (.bipush (-2), 2) := dk_16 254 (dk_at dksX3_barRoad_1 0 rfl rfl)
theorem dX3_barRoad_25 : decode cX3_barRoad 25 = .ok (.goto 16, 3) := dk_167 0 16 (dk_at dksX3_barRoad_1 2 rfl rfl)
theorem dX3_barRoad_28 : decode cX3_barRoad 28 = .ok (.aload_n 0, 1) := dk_42 (dk_at dksX3_barRoad_1 5 rfl rfl)
theorem dX3_barRoad_29 : decode cX3_barRoad 29 = .ok (.invokevirtual 41, 3) := dk_182 0 41 (dk_at dksX3_barRoad_1 6 rfl rfl)
theorem dX3_barRoad_32 : decode cX3_barRoad 32 = .ok (.ifCond .eq 8, 3) := dk_153 0 8 (dk_at dksX3_barRoad_1 9 rfl rfl)
theorem dX3_barRoad_35 : decode cX3_barRoad 35 = .ok (.bipush (-5), 2) := dk_16 251 (dk_at dksX3_barRoad_1 12 rfl rfl)
theorem dX3_barRoad_37 : decode cX3_barRoad 37 = .ok (.goto 4, 3) := dk_167 0 4 (dk_at dksX3_barRoad_1 14 rfl rfl)
theorem dX3_barRoad_40 : decode cX3_barRoad 40 = .ok (.iconst 0, 1) := dk_3 (dk_at dksX3_barRoad_1 17 rfl rfl)
theorem dX3_barRoad_41 : decode cX3_barRoad 41 = .ok (.ireturn, 1) := dk_172 (dk_at dksX3_barRoad_1 18 rfl rfl)
abbrev cX3_isPlace : ByteArray := prog_9_method_4_code
def yX3_isPlace : MethodName := ⟨RX3, "isPlace", "(I)Z"⟩
def dkwX3_isPlace_0 : List UInt8 := [26, 3, 16, 7, 184, 0, 29, 172]
abbrev dktX3_isPlace_0 : List UInt8 := dkwX3_isPlace_0 ++ []
theorem dksX3_isPlace_0 : cX3_isPlace.data.toList.drop 0 = dktX3_isPlace_0 := by decide +kernel
theorem dX3_isPlace_0 : decode cX3_isPlace 0 = .ok (.iload_n 0, 1) := dk_26 (dk_at dksX3_isPlace_0 0 rfl rfl)
theorem dX3_isPlace_1 : decode cX3_isPlace 1 = .ok (.iconst 0, 1) := dk_3 (dk_at dksX3_isPlace_0 1 rfl rfl)
theorem dX3_isPlace_2 : decode cX3_isPlace 2 = .ok (.bipush 7, 2) := dk_16 7 (dk_at dksX3_isPlace_0 2 rfl rfl)
theorem dX3_isPlace_4 : decode cX3_isPlace 4 = .ok (.invokestatic 29, 3) := dk_184 0 29 (dk_at dksX3_isPlace_0 4 rfl rfl)
theorem dX3_isPlace_7 : decode cX3_isPlace 7 = .ok (.ireturn, 1) := dk_172 (dk_at dksX3_isPlace_0 7 rfl rfl)
abbrev cX3_hasBegun : ByteArray := prog_9_method_11_code
def yX3_hasBegun : MethodName := ⟨RX3, "hasBegun", "()Z"⟩
def dkwX3_hasBegun_0 : List UInt8 := [42, 180, 0, 7, 16, 6, 46, 158, 0, 7, 4, 167, 0, 4, 3, 172]
abbrev dktX3_hasBegun_0 : List UInt8 := dkwX3_hasBegun_0 ++ []
theorem dksX3_hasBegun_0 : cX3_hasBegun.data.toList.drop 0 = dktX3_hasBegun_0 := by decide +kernel
theorem dX3_hasBegun_0 : decode cX3_hasBegun 0 = .ok (.aload_n 0, 1) := dk_42 (dk_at dksX3_hasBegun_0 0 rfl rfl)
theorem dX3_hasBegun_1 : decode cX3_hasBegun 1 = .ok (.getfield 7, 3) := dk_180 0 7 (dk_at dksX3_hasBegun_0 1 rfl rfl)
theorem dX3_hasBegun_4 : decode cX3_hasBegun 4 = .ok (.bipush 6, 2) := dk_16 6 (dk_at dksX3_hasBegun_0 4 rfl rfl)
theorem dX3_hasBegun_6 : decode cX3_hasBegun 6 = .ok (.iaload, 1) := dk_46 (dk_at dksX3_hasBegun_0 6 rfl rfl)
theorem dX3_hasBegun_7 : decode cX3_hasBegun 7 = .ok (.ifCond .le 7, 3) := dk_158 0 7 (dk_at dksX3_hasBegun_0 7 rfl rfl)
theorem dX3_hasBegun_10 : decode cX3_hasBegun 10 = .ok (.iconst 1, 1) := dk_4 (dk_at dksX3_hasBegun_0 10 rfl rfl)
theorem dX3_hasBegun_11 : decode cX3_hasBegun 11 = .ok (.goto 4, 3) := dk_167 0 4 (dk_at dksX3_hasBegun_0 11 rfl rfl)
theorem dX3_hasBegun_14 : decode cX3_hasBegun 14 = .ok (.iconst 0, 1) := dk_3 (dk_at dksX3_hasBegun_0 14 rfl rfl)
theorem dX3_hasBegun_15 : decode cX3_hasBegun 15 = .ok (.ireturn, 1) := dk_172 (dk_at dksX3_hasBegun_0 15 rfl rfl)
abbrev cX3_lays : ByteArray := prog_9_method_17_code
def yX3_lays : MethodName := ⟨RX3, "lays", "(II)I"⟩
def dkwX3_lays_1 : List UInt8 := [184, 0, 55, 172]
abbrev dktX3_lays_1 : List UInt8 := dkwX3_lays_1 ++ []
def dkwX3_lays_0 : List UInt8 := [42, 180, 0, 7, 3, 92, 46, 4, 27, 28, 184, 0, 37, 120, 130, 79, 42, 180, 0, 7, 3, 46]
abbrev dktX3_lays_0 : List UInt8 := dkwX3_lays_0 ++ dktX3_lays_1
theorem dksX3_lays_0 : cX3_lays.data.toList.drop 0 = dktX3_lays_0 := by decide +kernel
theorem dksX3_lays_1 : cX3_lays.data.toList.drop 22 = dktX3_lays_1 := dk_seg dksX3_lays_0 22 rfl rfl
theorem dX3_lays_0 : decode cX3_lays 0 = .ok (.aload_n 0, 1) := dk_42 (dk_at dksX3_lays_0 0 rfl rfl)
theorem dX3_lays_1 : decode cX3_lays 1 = .ok (.getfield 7, 3) := dk_180 0 7 (dk_at dksX3_lays_0 1 rfl rfl)
theorem dX3_lays_4 : decode cX3_lays 4 = .ok (.iconst 0, 1) := dk_3 (dk_at dksX3_lays_0 4 rfl rfl)
theorem dX3_lays_5 : decode cX3_lays 5 = .ok (.dup2, 1) := dk_92 (dk_at dksX3_lays_0 5 rfl rfl)
theorem dX3_lays_6 : decode cX3_lays 6 = .ok (.iaload, 1) := dk_46 (dk_at dksX3_lays_0 6 rfl rfl)
theorem dX3_lays_7 : decode cX3_lays 7 = .ok (.iconst 1, 1) := dk_4 (dk_at dksX3_lays_0 7 rfl rfl)
theorem dX3_lays_8 : decode cX3_lays 8 = .ok (.iload_n 1, 1) := dk_27 (dk_at dksX3_lays_0 8 rfl rfl)
theorem dX3_lays_9 : decode cX3_lays 9 = .ok (.iload_n 2, 1) := dk_28 (dk_at dksX3_lays_0 9 rfl rfl)
theorem dX3_lays_10 : decode cX3_lays 10 = .ok (.invokestatic 37, 3) := dk_184 0 37 (dk_at dksX3_lays_0 10 rfl rfl)
theorem dX3_lays_13 : decode cX3_lays 13 = .ok (.ishl, 1) := dk_120 (dk_at dksX3_lays_0 13 rfl rfl)
theorem dX3_lays_14 : decode cX3_lays 14 = .ok (.ixor, 1) := dk_130 (dk_at dksX3_lays_0 14 rfl rfl)
theorem dX3_lays_15 : decode cX3_lays 15 = .ok (.iastore, 1) := dk_79 (dk_at dksX3_lays_0 15 rfl rfl)
theorem dX3_lays_16 : decode cX3_lays 16 = .ok (.aload_n 0, 1) := dk_42 (dk_at dksX3_lays_0 16 rfl rfl)
theorem dX3_lays_17 : decode cX3_lays 17 = .ok (.getfield 7, 3) := dk_180 0 7 (dk_at dksX3_lays_0 17 rfl rfl)
theorem dX3_lays_20 : decode cX3_lays 20 = .ok (.iconst 0, 1) := dk_3 (dk_at dksX3_lays_0 20 rfl rfl)
theorem dX3_lays_21 : decode cX3_lays 21 = .ok (.iaload, 1) := dk_46 (dk_at dksX3_lays_0 21 rfl rfl)
theorem dX3_lays_22 : decode cX3_lays 22 = .ok (.invokestatic 55, 3) := dk_184 0 55 (dk_at dksX3_lays_1 0 rfl rfl)
theorem dX3_lays_25 : decode cX3_lays 25 = .ok (.ireturn, 1) := dk_172 (dk_at dksX3_lays_1 3 rfl rfl)
abbrev cX3_edge : ByteArray := prog_9_method_7_code
def yX3_edge : MethodName := ⟨RX3, "edge", "(II)I"⟩
def dkwX3_edge_1 : List UInt8 := [16, 15, 28, 100, 104, 5, 108, 29, 96, 28, 100, 4, 100, 172]
abbrev dktX3_edge_1 : List UInt8 := dkwX3_edge_1 ++ []
def dkwX3_edge_0 : List UInt8 := [26, 27, 162, 0, 7, 26, 167, 0, 4, 27, 61, 26, 27, 162, 0, 7, 27, 167, 0, 4, 26, 62, 28]
abbrev dktX3_edge_0 : List UInt8 := dkwX3_edge_0 ++ dktX3_edge_1
theorem dksX3_edge_0 : cX3_edge.data.toList.drop 0 = dktX3_edge_0 := by decide +kernel
theorem dksX3_edge_1 : cX3_edge.data.toList.drop 23 = dktX3_edge_1 := dk_seg dksX3_edge_0 23 rfl rfl
theorem dX3_edge_0 : decode cX3_edge 0 = .ok (.iload_n 0, 1) := dk_26 (dk_at dksX3_edge_0 0 rfl rfl)
theorem dX3_edge_1 : decode cX3_edge 1 = .ok (.iload_n 1, 1) := dk_27 (dk_at dksX3_edge_0 1 rfl rfl)
theorem dX3_edge_2 : decode cX3_edge 2 = .ok (.if_icmp .ge 7, 3) := dk_162 0 7 (dk_at dksX3_edge_0 2 rfl rfl)
theorem dX3_edge_5 : decode cX3_edge 5 = .ok (.iload_n 0, 1) := dk_26 (dk_at dksX3_edge_0 5 rfl rfl)
theorem dX3_edge_6 : decode cX3_edge 6 = .ok (.goto 4, 3) := dk_167 0 4 (dk_at dksX3_edge_0 6 rfl rfl)
theorem dX3_edge_9 : decode cX3_edge 9 = .ok (.iload_n 1, 1) := dk_27 (dk_at dksX3_edge_0 9 rfl rfl)
theorem dX3_edge_10 : decode cX3_edge 10 = .ok (.istore_n 2, 1) := dk_61 (dk_at dksX3_edge_0 10 rfl rfl)
theorem dX3_edge_11 : decode cX3_edge 11 = .ok (.iload_n 0, 1) := dk_26 (dk_at dksX3_edge_0 11 rfl rfl)
theorem dX3_edge_12 : decode cX3_edge 12 = .ok (.iload_n 1, 1) := dk_27 (dk_at dksX3_edge_0 12 rfl rfl)
theorem dX3_edge_13 : decode cX3_edge 13 = .ok (.if_icmp .ge 7, 3) := dk_162 0 7 (dk_at dksX3_edge_0 13 rfl rfl)
theorem dX3_edge_16 : decode cX3_edge 16 = .ok (.iload_n 1, 1) := dk_27 (dk_at dksX3_edge_0 16 rfl rfl)
theorem dX3_edge_17 : decode cX3_edge 17 = .ok (.goto 4, 3) := dk_167 0 4 (dk_at dksX3_edge_0 17 rfl rfl)
theorem dX3_edge_20 : decode cX3_edge 20 = .ok (.iload_n 0, 1) := dk_26 (dk_at dksX3_edge_0 20 rfl rfl)
theorem dX3_edge_21 : decode cX3_edge 21 = .ok (.istore_n 3, 1) := dk_62 (dk_at dksX3_edge_0 21 rfl rfl)
theorem dX3_edge_22 : decode cX3_edge 22 = .ok (.iload_n 2, 1) := dk_28 (dk_at dksX3_edge_0 22 rfl rfl)
theorem dX3_edge_23 : decode cX3_edge 23 = .ok (.bipush 15, 2) := dk_16 15 (dk_at dksX3_edge_1 0 rfl rfl)
theorem dX3_edge_25 : decode cX3_edge 25 = .ok (.iload_n 2, 1) := dk_28 (dk_at dksX3_edge_1 2 rfl rfl)
theorem dX3_edge_26 : decode cX3_edge 26 = .ok (.isub, 1) := dk_100 (dk_at dksX3_edge_1 3 rfl rfl)
theorem dX3_edge_27 : decode cX3_edge 27 = .ok (.imul, 1) := dk_104 (dk_at dksX3_edge_1 4 rfl rfl)
theorem dX3_edge_28 : decode cX3_edge 28 = .ok (.iconst 2, 1) := dk_5 (dk_at dksX3_edge_1 5 rfl rfl)
theorem dX3_edge_29 : decode cX3_edge 29 = .ok (.idiv, 1) := dk_108 (dk_at dksX3_edge_1 6 rfl rfl)
theorem dX3_edge_30 : decode cX3_edge 30 = .ok (.iload_n 3, 1) := dk_29 (dk_at dksX3_edge_1 7 rfl rfl)
theorem dX3_edge_31 : decode cX3_edge 31 = .ok (.iadd, 1) := dk_96 (dk_at dksX3_edge_1 8 rfl rfl)
theorem dX3_edge_32 : decode cX3_edge 32 = .ok (.iload_n 2, 1) := dk_28 (dk_at dksX3_edge_1 9 rfl rfl)
theorem dX3_edge_33 : decode cX3_edge 33 = .ok (.isub, 1) := dk_100 (dk_at dksX3_edge_1 10 rfl rfl)
theorem dX3_edge_34 : decode cX3_edge 34 = .ok (.iconst 1, 1) := dk_4 (dk_at dksX3_edge_1 11 rfl rfl)
theorem dX3_edge_35 : decode cX3_edge 35 = .ok (.isub, 1) := dk_100 (dk_at dksX3_edge_1 12 rfl rfl)
theorem dX3_edge_36 : decode cX3_edge 36 = .ok (.ireturn, 1) := dk_172 (dk_at dksX3_edge_1 13 rfl rfl)
abbrev cX3_many : ByteArray := prog_9_method_9_code
def yX3_many : MethodName := ⟨RX3, "many", "(I)I"⟩
def dkwX3_many_0 : List UInt8 := [3, 60, 26, 61, 28, 153, 0, 15, 132, 1, 1, 28, 28, 4, 100, 126, 61, 167, 255, 243, 27, 172]
abbrev dktX3_many_0 : List UInt8 := dkwX3_many_0 ++ []
theorem dksX3_many_0 : cX3_many.data.toList.drop 0 = dktX3_many_0 := by decide +kernel
theorem dX3_many_0 : decode cX3_many 0 = .ok (.iconst 0, 1) := dk_3 (dk_at dksX3_many_0 0 rfl rfl)
theorem dX3_many_1 : decode cX3_many 1 = .ok (.istore_n 1, 1) := dk_60 (dk_at dksX3_many_0 1 rfl rfl)
theorem dX3_many_2 : decode cX3_many 2 = .ok (.iload_n 0, 1) := dk_26 (dk_at dksX3_many_0 2 rfl rfl)
theorem dX3_many_3 : decode cX3_many 3 = .ok (.istore_n 2, 1) := dk_61 (dk_at dksX3_many_0 3 rfl rfl)
theorem dX3_many_4 : decode cX3_many 4 = .ok (.iload_n 2, 1) := dk_28 (dk_at dksX3_many_0 4 rfl rfl)
theorem dX3_many_5 : decode cX3_many 5 = .ok (.ifCond .eq 15, 3) := dk_153 0 15 (dk_at dksX3_many_0 5 rfl rfl)
theorem dX3_many_8 : decode cX3_many 8 = .ok (.iinc 1 1, 3) := dk_132 1 1 (dk_at dksX3_many_0 8 rfl rfl)
theorem dX3_many_11 : decode cX3_many 11 = .ok (.iload_n 2, 1) := dk_28 (dk_at dksX3_many_0 11 rfl rfl)
theorem dX3_many_12 : decode cX3_many 12 = .ok (.iload_n 2, 1) := dk_28 (dk_at dksX3_many_0 12 rfl rfl)
theorem dX3_many_13 : decode cX3_many 13 = .ok (.iconst 1, 1) := dk_4 (dk_at dksX3_many_0 13 rfl rfl)
theorem dX3_many_14 : decode cX3_many 14 = .ok (.isub, 1) := dk_100 (dk_at dksX3_many_0 14 rfl rfl)
theorem dX3_many_15 : decode cX3_many 15 = .ok (.iand, 1) := dk_126 (dk_at dksX3_many_0 15 rfl rfl)
theorem dX3_many_16 : decode cX3_many 16 = .ok (.istore_n 2, 1) := dk_61 (dk_at dksX3_many_0 16 rfl rfl)
theorem dX3_many_17 : decode cX3_many 17 = .ok (.goto (-13), 3) := dk_167 255 243 (dk_at dksX3_many_0 17 rfl rfl)
theorem dX3_many_20 : decode cX3_many 20 = .ok (.iload_n 1, 1) := dk_27 (dk_at dksX3_many_0 20 rfl rfl)
theorem dX3_many_21 : decode cX3_many 21 = .ok (.ireturn, 1) := dk_172 (dk_at dksX3_many_0 21 rfl rfl)
abbrev cX3_treasure : ByteArray := prog_9_method_20_code
def yX3_treasure : MethodName := ⟨RX3, "treasure", "(I)I"⟩
def dkwX3_treasure_1 : List UInt8 := [180, 0, 7, 4, 27, 79, 29, 172]
abbrev dktX3_treasure_1 : List UInt8 := dkwX3_treasure_1 ++ []
def dkwX3_treasure_0 : List UInt8 := [42, 27, 182, 0, 77, 61, 28, 156, 0, 5, 28, 172, 42, 182, 0, 64, 42, 180, 0, 7, 4, 46, 62, 42]
abbrev dktX3_treasure_0 : List UInt8 := dkwX3_treasure_0 ++ dktX3_treasure_1
theorem dksX3_treasure_0 : cX3_treasure.data.toList.drop 0 = dktX3_treasure_0 := by decide +kernel
theorem dksX3_treasure_1 : cX3_treasure.data.toList.drop 24 = dktX3_treasure_1 := dk_seg dksX3_treasure_0 24 rfl rfl
theorem dX3_treasure_0 : decode cX3_treasure 0 = .ok (.aload_n 0, 1) := dk_42 (dk_at dksX3_treasure_0 0 rfl rfl)
theorem dX3_treasure_1 : decode cX3_treasure 1 = .ok (.iload_n 1, 1) := dk_27 (dk_at dksX3_treasure_0 1 rfl rfl)
theorem dX3_treasure_2 : decode cX3_treasure 2 = .ok (.invokevirtual 77, 3) := dk_182 0 77 (dk_at dksX3_treasure_0 2 rfl rfl)
theorem dX3_treasure_5 : decode cX3_treasure 5 = .ok (.istore_n 2, 1) := dk_61 (dk_at dksX3_treasure_0 5 rfl rfl)
theorem dX3_treasure_6 : decode cX3_treasure 6 = .ok (.iload_n 2, 1) := dk_28 (dk_at dksX3_treasure_0 6 rfl rfl)
theorem dX3_treasure_7 : decode cX3_treasure 7 = .ok (.ifCond .ge 5, 3) := dk_156 0 5 (dk_at dksX3_treasure_0 7 rfl rfl)
theorem dX3_treasure_10 : decode cX3_treasure 10 = .ok (.iload_n 2, 1) := dk_28 (dk_at dksX3_treasure_0 10 rfl rfl)
theorem dX3_treasure_11 : decode cX3_treasure 11 = .ok (.ireturn, 1) := dk_172 (dk_at dksX3_treasure_0 11 rfl rfl)
theorem dX3_treasure_12 : decode cX3_treasure 12 = .ok (.aload_n 0, 1) := dk_42 (dk_at dksX3_treasure_0 12 rfl rfl)
theorem dX3_treasure_13 : decode cX3_treasure 13 = .ok (.invokevirtual 64, 3) := dk_182 0 64 (dk_at dksX3_treasure_0 13 rfl rfl)
theorem dX3_treasure_16 : decode cX3_treasure 16 = .ok (.aload_n 0, 1) := dk_42 (dk_at dksX3_treasure_0 16 rfl rfl)
theorem dX3_treasure_17 : decode cX3_treasure 17 = .ok (.getfield 7, 3) := dk_180 0 7 (dk_at dksX3_treasure_0 17 rfl rfl)
theorem dX3_treasure_20 : decode cX3_treasure 20 = .ok (.iconst 1, 1) := dk_4 (dk_at dksX3_treasure_0 20 rfl rfl)
theorem dX3_treasure_21 : decode cX3_treasure 21 = .ok (.iaload, 1) := dk_46 (dk_at dksX3_treasure_0 21 rfl rfl)
theorem dX3_treasure_22 : decode cX3_treasure 22 = .ok (.istore_n 3, 1) := dk_62 (dk_at dksX3_treasure_0 22 rfl rfl)
theorem dX3_treasure_23 : decode cX3_treasure 23 = .ok (.aload_n 0, 1) := dk_42 (dk_at dksX3_treasure_0 23 rfl rfl)
theorem dX3_treasure_24 : decode cX3_treasure 24 = .ok (.getfield 7, 3) := dk_180 0 7 (dk_at dksX3_treasure_1 0 rfl rfl)
theorem dX3_treasure_27 : decode cX3_treasure 27 = .ok (.iconst 1, 1) := dk_4 (dk_at dksX3_treasure_1 3 rfl rfl)
theorem dX3_treasure_28 : decode cX3_treasure 28 = .ok (.iload_n 1, 1) := dk_27 (dk_at dksX3_treasure_1 4 rfl rfl)
theorem dX3_treasure_29 : decode cX3_treasure 29 = .ok (.iastore, 1) := dk_79 (dk_at dksX3_treasure_1 5 rfl rfl)
theorem dX3_treasure_30 : decode cX3_treasure 30 = .ok (.iload_n 3, 1) := dk_29 (dk_at dksX3_treasure_1 6 rfl rfl)
theorem dX3_treasure_31 : decode cX3_treasure 31 = .ok (.ireturn, 1) := dk_172 (dk_at dksX3_treasure_1 7 rfl rfl)
abbrev cX3_barTreasure : ByteArray := prog_9_method_19_code
def yX3_barTreasure : MethodName := ⟨RX3, "barTreasure", "(I)I"⟩
def dkwX3_barTreasure_1 : List UInt8 := [172]
abbrev dktX3_barTreasure_1 : List UInt8 := dkwX3_barTreasure_1 ++ []
def dkwX3_barTreasure_0 : List UInt8 := [27, 184, 0, 67, 154, 0, 7, 2, 167, 0, 16, 42, 182, 0, 41, 153, 0, 8, 16, 251, 167, 0, 4, 3]
abbrev dktX3_barTreasure_0 : List UInt8 := dkwX3_barTreasure_0 ++ dktX3_barTreasure_1
theorem dksX3_barTreasure_0 : cX3_barTreasure.data.toList.drop 0 = dktX3_barTreasure_0 := by decide +kernel
theorem dksX3_barTreasure_1 : cX3_barTreasure.data.toList.drop 24 = dktX3_barTreasure_1 := dk_seg dksX3_barTreasure_0 24 rfl rfl
theorem dX3_barTreasure_0 : decode cX3_barTreasure 0 = .ok (.iload_n 1, 1) := dk_27 (dk_at dksX3_barTreasure_0 0 rfl rfl)
theorem dX3_barTreasure_1 : decode cX3_barTreasure 1 = .ok (.invokestatic 67, 3) := dk_184 0 67 (dk_at dksX3_barTreasure_0 1 rfl rfl)
theorem dX3_barTreasure_4 : decode cX3_barTreasure 4 = .ok (.ifCond .ne 7, 3) := dk_154 0 7 (dk_at dksX3_barTreasure_0 4 rfl rfl)
theorem dX3_barTreasure_7 : decode cX3_barTreasure 7 = .ok (.iconst (-1), 1) := dk_2 (dk_at dksX3_barTreasure_0 7 rfl rfl)
theorem dX3_barTreasure_8 : decode cX3_barTreasure 8 = .ok (.goto 16, 3) := dk_167 0 16 (dk_at dksX3_barTreasure_0 8 rfl rfl)
theorem dX3_barTreasure_11 : decode cX3_barTreasure 11 = .ok (.aload_n 0, 1) := dk_42 (dk_at dksX3_barTreasure_0 11 rfl rfl)
theorem dX3_barTreasure_12 : decode cX3_barTreasure 12 = .ok (.invokevirtual 41, 3) := dk_182 0 41 (dk_at dksX3_barTreasure_0 12 rfl rfl)
theorem dX3_barTreasure_15 : decode cX3_barTreasure 15 = .ok (.ifCond .eq 8, 3) := dk_153 0 8 (dk_at dksX3_barTreasure_0 15 rfl rfl)
theorem dX3_barTreasure_18 : decode cX3_barTreasure 18 = .ok (.bipush (-5), 2) := dk_16 251 (dk_at dksX3_barTreasure_0 18 rfl rfl)
theorem dX3_barTreasure_20 : decode cX3_barTreasure 20 = .ok (.goto 4, 3) := dk_167 0 4 (dk_at dksX3_barTreasure_0 20 rfl rfl)
theorem dX3_barTreasure_23 : decode cX3_barTreasure 23 = .ok (.iconst 0, 1) := dk_3 (dk_at dksX3_barTreasure_0 23 rfl rfl)
theorem dX3_barTreasure_24 : decode cX3_barTreasure 24 = .ok (.ireturn, 1) := dk_172 (dk_at dksX3_barTreasure_1 0 rfl rfl)
abbrev cX3_begin : ByteArray := prog_9_method_21_code
def yX3_begin : MethodName := ⟨RX3, "begin", "()I"⟩
def dkwX3_begin_1 : List UInt8 := [180, 0, 7, 16, 17, 46, 182, 0, 80, 42, 180, 0, 45, 184, 0, 55, 172]
abbrev dktX3_begin_1 : List UInt8 := dkwX3_begin_1 ++ []
def dkwX3_begin_0 : List UInt8 := [42, 182, 0, 41, 153, 0, 6, 16, 251, 172, 42, 182, 0, 64, 42, 180, 0, 7, 16, 6, 4, 79, 42, 42]
abbrev dktX3_begin_0 : List UInt8 := dkwX3_begin_0 ++ dktX3_begin_1
theorem dksX3_begin_0 : cX3_begin.data.toList.drop 0 = dktX3_begin_0 := by decide +kernel
theorem dksX3_begin_1 : cX3_begin.data.toList.drop 24 = dktX3_begin_1 := dk_seg dksX3_begin_0 24 rfl rfl
theorem dX3_begin_0 : decode cX3_begin 0 = .ok (.aload_n 0, 1) := dk_42 (dk_at dksX3_begin_0 0 rfl rfl)
theorem dX3_begin_1 : decode cX3_begin 1 = .ok (.invokevirtual 41, 3) := dk_182 0 41 (dk_at dksX3_begin_0 1 rfl rfl)
theorem dX3_begin_4 : decode cX3_begin 4 = .ok (.ifCond .eq 6, 3) := dk_153 0 6 (dk_at dksX3_begin_0 4 rfl rfl)
theorem dX3_begin_7 : decode cX3_begin 7 = .ok (.bipush (-5), 2) := dk_16 251 (dk_at dksX3_begin_0 7 rfl rfl)
theorem dX3_begin_9 : decode cX3_begin 9 = .ok (.ireturn, 1) := dk_172 (dk_at dksX3_begin_0 9 rfl rfl)
theorem dX3_begin_10 : decode cX3_begin 10 = .ok (.aload_n 0, 1) := dk_42 (dk_at dksX3_begin_0 10 rfl rfl)
theorem dX3_begin_11 : decode cX3_begin 11 = .ok (.invokevirtual 64, 3) := dk_182 0 64 (dk_at dksX3_begin_0 11 rfl rfl)
theorem dX3_begin_14 : decode cX3_begin 14 = .ok (.aload_n 0, 1) := dk_42 (dk_at dksX3_begin_0 14 rfl rfl)
theorem dX3_begin_15 : decode cX3_begin 15 = .ok (.getfield 7, 3) := dk_180 0 7 (dk_at dksX3_begin_0 15 rfl rfl)
theorem dX3_begin_18 : decode cX3_begin 18 = .ok (.bipush 6, 2) := dk_16 6 (dk_at dksX3_begin_0 18 rfl rfl)
theorem dX3_begin_20 : decode cX3_begin 20 = .ok (.iconst 1, 1) := dk_4 (dk_at dksX3_begin_0 20 rfl rfl)
theorem dX3_begin_21 : decode cX3_begin 21 = .ok (.iastore, 1) := dk_79 (dk_at dksX3_begin_0 21 rfl rfl)
theorem dX3_begin_22 : decode cX3_begin 22 = .ok (.aload_n 0, 1) := dk_42 (dk_at dksX3_begin_0 22 rfl rfl)
theorem dX3_begin_23 : decode cX3_begin 23 = .ok (.aload_n 0, 1) := dk_42 (dk_at dksX3_begin_0 23 rfl rfl)
theorem dX3_begin_24 : decode cX3_begin 24 = .ok (.getfield 7, 3) := dk_180 0 7 (dk_at dksX3_begin_1 0 rfl rfl)
theorem dX3_begin_27 : decode cX3_begin 27 = .ok (.bipush 17, 2) := dk_16 17 (dk_at dksX3_begin_1 3 rfl rfl)
theorem dX3_begin_29 : decode cX3_begin 29 = .ok (.iaload, 1) := dk_46 (dk_at dksX3_begin_1 5 rfl rfl)
theorem dX3_begin_30 : decode cX3_begin 30 = .ok (.invokevirtual 80, 3) := dk_182 0 80 (dk_at dksX3_begin_1 6 rfl rfl)
theorem dX3_begin_33 : decode cX3_begin 33 = .ok (.aload_n 0, 1) := dk_42 (dk_at dksX3_begin_1 9 rfl rfl)
theorem dX3_begin_34 : decode cX3_begin 34 = .ok (.getfield 45, 3) := dk_180 0 45 (dk_at dksX3_begin_1 10 rfl rfl)
theorem dX3_begin_37 : decode cX3_begin 37 = .ok (.invokestatic 55, 3) := dk_184 0 55 (dk_at dksX3_begin_1 13 rfl rfl)
theorem dX3_begin_40 : decode cX3_begin 40 = .ok (.ireturn, 1) := dk_172 (dk_at dksX3_begin_1 16 rfl rfl)
abbrev cX3_follows : ByteArray := prog_9_method_12_code
def yX3_follows : MethodName := ⟨RX3, "follows", "(I)V"⟩
def dkwX3_follows_7 : List UInt8 := [167, 255, 133, 177]
abbrev dktX3_follows_7 : List UInt8 := dkwX3_follows_7 ++ []
def dkwX3_follows_6 : List UInt8 := [181, 0, 48, 42, 89, 180, 0, 45, 21, 5, 128, 181, 0, 45, 4, 61, 132, 3, 1, 167, 255, 144]
abbrev dktX3_follows_6 : List UInt8 := dkwX3_follows_6 ++ dktX3_follows_7
def dkwX3_follows_5 : List UInt8 := [160, 0, 38, 42, 89, 180, 0, 48, 21, 7, 21, 6, 160, 0, 7, 3, 167, 0, 5, 21, 5, 128]
abbrev dktX3_follows_5 : List UInt8 := dkwX3_follows_5 ++ dktX3_follows_6
def dkwX3_follows_4 : List UInt8 := [21, 5, 153, 0, 58, 21, 7, 21, 6, 159, 0, 16, 21, 7, 21, 5, 184, 0, 55, 96, 21, 6]
abbrev dktX3_follows_4 : List UInt8 := dkwX3_follows_4 ++ dktX3_follows_5
def dkwX3_follows_3 : List UInt8 := [42, 180, 0, 7, 3, 46, 126, 184, 0, 55, 54, 6, 21, 4, 42, 180, 0, 48, 126, 184, 0, 55, 54, 7]
abbrev dktX3_follows_3 : List UInt8 := dkwX3_follows_3 ++ dktX3_follows_4
def dkwX3_follows_2 : List UInt8 := [16, 8, 162, 0, 112, 29, 184, 0, 51, 54, 4, 21, 4, 42, 180, 0, 45, 2, 130, 126, 54, 5, 21, 4]
abbrev dktX3_follows_2 : List UInt8 := dkwX3_follows_2 ++ dktX3_follows_3
def dkwX3_follows_1 : List UInt8 := [180, 0, 7, 3, 46, 126, 181, 0, 48, 42, 182, 0, 41, 61, 28, 153, 0, 125, 3, 61, 3, 62, 29]
abbrev dktX3_follows_1 : List UInt8 := dkwX3_follows_1 ++ dktX3_follows_2
def dkwX3_follows_0 : List UInt8 := [42, 42, 182, 0, 41, 153, 0, 7, 27, 167, 0, 4, 3, 181, 0, 45, 42, 42, 180, 0, 45, 42]
abbrev dktX3_follows_0 : List UInt8 := dkwX3_follows_0 ++ dktX3_follows_1
theorem dksX3_follows_0 : cX3_follows.data.toList.drop 0 = dktX3_follows_0 := by decide +kernel
theorem dksX3_follows_1 : cX3_follows.data.toList.drop 22 = dktX3_follows_1 := dk_seg dksX3_follows_0 22 rfl rfl
theorem dksX3_follows_2 : cX3_follows.data.toList.drop 45 = dktX3_follows_2 := dk_seg dksX3_follows_1 23 rfl rfl
theorem dksX3_follows_3 : cX3_follows.data.toList.drop 69 = dktX3_follows_3 := dk_seg dksX3_follows_2 24 rfl rfl
theorem dksX3_follows_4 : cX3_follows.data.toList.drop 93 = dktX3_follows_4 := dk_seg dksX3_follows_3 24 rfl rfl
theorem dksX3_follows_5 : cX3_follows.data.toList.drop 115 = dktX3_follows_5 := dk_seg dksX3_follows_4 22 rfl rfl
theorem dksX3_follows_6 : cX3_follows.data.toList.drop 137 = dktX3_follows_6 := dk_seg dksX3_follows_5 22 rfl rfl
theorem dksX3_follows_7 : cX3_follows.data.toList.drop 159 = dktX3_follows_7 := dk_seg dksX3_follows_6 22 rfl rfl
theorem dX3_follows_0 : decode cX3_follows 0 = .ok (.aload_n 0, 1) := dk_42 (dk_at dksX3_follows_0 0 rfl rfl)
theorem dX3_follows_1 : decode cX3_follows 1 = .ok (.aload_n 0, 1) := dk_42 (dk_at dksX3_follows_0 1 rfl rfl)
theorem dX3_follows_2 : decode cX3_follows 2 = .ok (.invokevirtual 41, 3) := dk_182 0 41 (dk_at dksX3_follows_0 2 rfl rfl)
theorem dX3_follows_5 : decode cX3_follows 5 = .ok (.ifCond .eq 7, 3) := dk_153 0 7 (dk_at dksX3_follows_0 5 rfl rfl)
theorem dX3_follows_8 : decode cX3_follows 8 = .ok (.iload_n 1, 1) := dk_27 (dk_at dksX3_follows_0 8 rfl rfl)
theorem dX3_follows_9 : decode cX3_follows 9 = .ok (.goto 4, 3) := dk_167 0 4 (dk_at dksX3_follows_0 9 rfl rfl)
theorem dX3_follows_12 : decode cX3_follows 12 = .ok (.iconst 0, 1) := dk_3 (dk_at dksX3_follows_0 12 rfl rfl)
theorem dX3_follows_13 : decode cX3_follows 13 = .ok (.putfield 45, 3) := dk_181 0 45 (dk_at dksX3_follows_0 13 rfl rfl)
theorem dX3_follows_16 : decode cX3_follows 16 = .ok (.aload_n 0, 1) := dk_42 (dk_at dksX3_follows_0 16 rfl rfl)
theorem dX3_follows_17 : decode cX3_follows 17 = .ok (.aload_n 0, 1) := dk_42 (dk_at dksX3_follows_0 17 rfl rfl)
theorem dX3_follows_18 : decode cX3_follows 18 = .ok (.getfield 45, 3) := dk_180 0 45 (dk_at dksX3_follows_0 18 rfl rfl)
theorem dX3_follows_21 : decode cX3_follows 21 = .ok (.aload_n 0, 1) := dk_42 (dk_at dksX3_follows_0 21 rfl rfl)
theorem dX3_follows_22 : decode cX3_follows 22 = .ok (.getfield 7, 3) := dk_180 0 7 (dk_at dksX3_follows_1 0 rfl rfl)
theorem dX3_follows_25 : decode cX3_follows 25 = .ok (.iconst 0, 1) := dk_3 (dk_at dksX3_follows_1 3 rfl rfl)
theorem dX3_follows_26 : decode cX3_follows 26 = .ok (.iaload, 1) := dk_46 (dk_at dksX3_follows_1 4 rfl rfl)
theorem dX3_follows_27 : decode cX3_follows 27 = .ok (.iand, 1) := dk_126 (dk_at dksX3_follows_1 5 rfl rfl)
theorem dX3_follows_28 : decode cX3_follows 28 = .ok (.putfield 48, 3) := dk_181 0 48 (dk_at dksX3_follows_1 6 rfl rfl)
theorem dX3_follows_31 : decode cX3_follows 31 = .ok (.aload_n 0, 1) := dk_42 (dk_at dksX3_follows_1 9 rfl rfl)
theorem dX3_follows_32 : decode cX3_follows 32 = .ok (.invokevirtual 41, 3) := dk_182 0 41 (dk_at dksX3_follows_1 10 rfl rfl)
theorem dX3_follows_35 : decode cX3_follows 35 = .ok (.istore_n 2, 1) := dk_61 (dk_at dksX3_follows_1 13 rfl rfl)
theorem dX3_follows_36 : decode cX3_follows 36 = .ok (.iload_n 2, 1) := dk_28 (dk_at dksX3_follows_1 14 rfl rfl)
theorem dX3_follows_37 : decode cX3_follows 37 = .ok (.ifCond .eq 125, 3) := dk_153 0 125 (dk_at dksX3_follows_1 15 rfl rfl)
theorem dX3_follows_40 : decode cX3_follows 40 = .ok (.iconst 0, 1) := dk_3 (dk_at dksX3_follows_1 18 rfl rfl)
theorem dX3_follows_41 : decode cX3_follows 41 = .ok (.istore_n 2, 1) := dk_61 (dk_at dksX3_follows_1 19 rfl rfl)
theorem dX3_follows_42 : decode cX3_follows 42 = .ok (.iconst 0, 1) := dk_3 (dk_at dksX3_follows_1 20 rfl rfl)
theorem dX3_follows_43 : decode cX3_follows 43 = .ok (.istore_n 3, 1) := dk_62 (dk_at dksX3_follows_1 21 rfl rfl)
theorem dX3_follows_44 : decode cX3_follows 44 = .ok (.iload_n 3, 1) := dk_29 (dk_at dksX3_follows_1 22 rfl rfl)
theorem dX3_follows_45 : decode cX3_follows 45 = .ok (.bipush 8, 2) := dk_16 8 (dk_at dksX3_follows_2 0 rfl rfl)
theorem dX3_follows_47 : decode cX3_follows 47 = .ok (.if_icmp .ge 112, 3) := dk_162 0 112 (dk_at dksX3_follows_2 2 rfl rfl)
theorem dX3_follows_50 : decode cX3_follows 50 = .ok (.iload_n 3, 1) := dk_29 (dk_at dksX3_follows_2 5 rfl rfl)
theorem dX3_follows_51 : decode cX3_follows 51 = .ok (.invokestatic 51, 3) := dk_184 0 51 (dk_at dksX3_follows_2 6 rfl rfl)
theorem dX3_follows_54 : decode cX3_follows 54 = .ok (.istore 4, 2) := dk_54 4 (dk_at dksX3_follows_2 9 rfl rfl)
theorem dX3_follows_56 : decode cX3_follows 56 = .ok (.iload 4, 2) := dk_21 4 (dk_at dksX3_follows_2 11 rfl rfl)
theorem dX3_follows_58 : decode cX3_follows 58 = .ok (.aload_n 0, 1) := dk_42 (dk_at dksX3_follows_2 13 rfl rfl)
theorem dX3_follows_59 : decode cX3_follows 59 = .ok (.getfield 45, 3) := dk_180 0 45 (dk_at dksX3_follows_2 14 rfl rfl)
theorem dX3_follows_62 : decode cX3_follows 62 = .ok (.iconst (-1), 1) := dk_2 (dk_at dksX3_follows_2 17 rfl rfl)
theorem dX3_follows_63 : decode cX3_follows 63 = .ok (.ixor, 1) := dk_130 (dk_at dksX3_follows_2 18 rfl rfl)
theorem dX3_follows_64 : decode cX3_follows 64 = .ok (.iand, 1) := dk_126 (dk_at dksX3_follows_2 19 rfl rfl)
theorem dX3_follows_65 : decode cX3_follows 65 = .ok (.istore 5, 2) := dk_54 5 (dk_at dksX3_follows_2 20 rfl rfl)
theorem dX3_follows_67 : decode cX3_follows 67 = .ok (.iload 4, 2) := dk_21 4 (dk_at dksX3_follows_2 22 rfl rfl)
theorem dX3_follows_69 : decode cX3_follows 69 = .ok (.aload_n 0, 1) := dk_42 (dk_at dksX3_follows_3 0 rfl rfl)
theorem dX3_follows_70 : decode cX3_follows 70 = .ok (.getfield 7, 3) := dk_180 0 7 (dk_at dksX3_follows_3 1 rfl rfl)
theorem dX3_follows_73 : decode cX3_follows 73 = .ok (.iconst 0, 1) := dk_3 (dk_at dksX3_follows_3 4 rfl rfl)
theorem dX3_follows_74 : decode cX3_follows 74 = .ok (.iaload, 1) := dk_46 (dk_at dksX3_follows_3 5 rfl rfl)
theorem dX3_follows_75 : decode cX3_follows 75 = .ok (.iand, 1) := dk_126 (dk_at dksX3_follows_3 6 rfl rfl)
theorem dX3_follows_76 : decode cX3_follows 76 = .ok (.invokestatic 55, 3) := dk_184 0 55 (dk_at dksX3_follows_3 7 rfl rfl)
theorem dX3_follows_79 : decode cX3_follows 79 = .ok (.istore 6, 2) := dk_54 6 (dk_at dksX3_follows_3 10 rfl rfl)
theorem dX3_follows_81 : decode cX3_follows 81 = .ok (.iload 4, 2) := dk_21 4 (dk_at dksX3_follows_3 12 rfl rfl)
theorem dX3_follows_83 : decode cX3_follows 83 = .ok (.aload_n 0, 1) := dk_42 (dk_at dksX3_follows_3 14 rfl rfl)
theorem dX3_follows_84 : decode cX3_follows 84 = .ok (.getfield 48, 3) := dk_180 0 48 (dk_at dksX3_follows_3 15 rfl rfl)
theorem dX3_follows_87 : decode cX3_follows 87 = .ok (.iand, 1) := dk_126 (dk_at dksX3_follows_3 18 rfl rfl)
theorem dX3_follows_88 : decode cX3_follows 88 = .ok (.invokestatic 55, 3) := dk_184 0 55 (dk_at dksX3_follows_3 19 rfl rfl)
theorem dX3_follows_91 : decode cX3_follows 91 = .ok (.istore 7, 2) := dk_54 7 (dk_at dksX3_follows_3 22 rfl rfl)
theorem dX3_follows_93 : decode cX3_follows 93 = .ok (.iload 5, 2) := dk_21 5 (dk_at dksX3_follows_4 0 rfl rfl)
theorem dX3_follows_95 : decode cX3_follows 95 = .ok (.ifCond .eq 58, 3) := dk_153 0 58 (dk_at dksX3_follows_4 2 rfl rfl)
theorem dX3_follows_98 : decode cX3_follows 98 = .ok (.iload 7, 2) := dk_21 7 (dk_at dksX3_follows_4 5 rfl rfl)
theorem dX3_follows_100 : decode cX3_follows 100 = .ok (.iload 6, 2) := dk_21 6 (dk_at dksX3_follows_4 7 rfl rfl)
theorem dX3_follows_102 : decode cX3_follows 102 = .ok (.if_icmp .eq 16, 3) := dk_159 0 16 (dk_at dksX3_follows_4 9 rfl rfl)
theorem dX3_follows_105 : decode cX3_follows 105 = .ok (.iload 7, 2) := dk_21 7 (dk_at dksX3_follows_4 12 rfl rfl)
theorem dX3_follows_107 : decode cX3_follows 107 = .ok (.iload 5, 2) := dk_21 5 (dk_at dksX3_follows_4 14 rfl rfl)
theorem dX3_follows_109 : decode cX3_follows 109 = .ok (.invokestatic 55, 3) := dk_184 0 55 (dk_at dksX3_follows_4 16 rfl rfl)
theorem dX3_follows_112 : decode cX3_follows 112 = .ok (.iadd, 1) := dk_96 (dk_at dksX3_follows_4 19 rfl rfl)
theorem dX3_follows_113 : decode cX3_follows 113 = .ok (.iload 6, 2) := dk_21 6 (dk_at dksX3_follows_4 20 rfl rfl)
theorem dX3_follows_115 : decode cX3_follows 115 = .ok (.if_icmp .ne 38, 3) := dk_160 0 38 (dk_at dksX3_follows_5 0 rfl rfl)
theorem dX3_follows_118 : decode cX3_follows 118 = .ok (.aload_n 0, 1) := dk_42 (dk_at dksX3_follows_5 3 rfl rfl)
theorem dX3_follows_119 : decode cX3_follows 119 = .ok (.dup, 1) := dk_89 (dk_at dksX3_follows_5 4 rfl rfl)
theorem dX3_follows_120 : decode cX3_follows 120 = .ok (.getfield 48, 3) := dk_180 0 48 (dk_at dksX3_follows_5 5 rfl rfl)
theorem dX3_follows_123 : decode cX3_follows 123 = .ok (.iload 7, 2) := dk_21 7 (dk_at dksX3_follows_5 8 rfl rfl)
theorem dX3_follows_125 : decode cX3_follows 125 = .ok (.iload 6, 2) := dk_21 6 (dk_at dksX3_follows_5 10 rfl rfl)
theorem dX3_follows_127 : decode cX3_follows 127 = .ok (.if_icmp .ne 7, 3) := dk_160 0 7 (dk_at dksX3_follows_5 12 rfl rfl)
theorem dX3_follows_130 : decode cX3_follows 130 = .ok (.iconst 0, 1) := dk_3 (dk_at dksX3_follows_5 15 rfl rfl)
theorem dX3_follows_131 : decode cX3_follows 131 = .ok (.goto 5, 3) := dk_167 0 5 (dk_at dksX3_follows_5 16 rfl rfl)
theorem dX3_follows_134 : decode cX3_follows 134 = .ok (.iload 5, 2) := dk_21 5 (dk_at dksX3_follows_5 19 rfl rfl)
theorem dX3_follows_136 : decode cX3_follows 136 = .ok (.ior, 1) := dk_128 (dk_at dksX3_follows_5 21 rfl rfl)
theorem dX3_follows_137 : decode cX3_follows 137 = .ok (.putfield 48, 3) := dk_181 0 48 (dk_at dksX3_follows_6 0 rfl rfl)
theorem dX3_follows_140 : decode cX3_follows 140 = .ok (.aload_n 0, 1) := dk_42 (dk_at dksX3_follows_6 3 rfl rfl)
theorem dX3_follows_141 : decode cX3_follows 141 = .ok (.dup, 1) := dk_89 (dk_at dksX3_follows_6 4 rfl rfl)
theorem dX3_follows_142 : decode cX3_follows 142 = .ok (.getfield 45, 3) := dk_180 0 45 (dk_at dksX3_follows_6 5 rfl rfl)
theorem dX3_follows_145 : decode cX3_follows 145 = .ok (.iload 5, 2) := dk_21 5 (dk_at dksX3_follows_6 8 rfl rfl)
theorem dX3_follows_147 : decode cX3_follows 147 = .ok (.ior, 1) := dk_128 (dk_at dksX3_follows_6 10 rfl rfl)
theorem dX3_follows_148 : decode cX3_follows 148 = .ok (.putfield 45, 3) := dk_181 0 45 (dk_at dksX3_follows_6 11 rfl rfl)
theorem dX3_follows_151 : decode cX3_follows 151 = .ok (.iconst 1, 1) := dk_4 (dk_at dksX3_follows_6 14 rfl rfl)
theorem dX3_follows_152 : decode cX3_follows 152 = .ok (.istore_n 2, 1) := dk_61 (dk_at dksX3_follows_6 15 rfl rfl)
theorem dX3_follows_153 : decode cX3_follows 153 = .ok (.iinc 3 1, 3) := dk_132 3 1 (dk_at dksX3_follows_6 16 rfl rfl)
theorem dX3_follows_156 : decode cX3_follows 156 = .ok (.goto (-112), 3) := dk_167 255 144 (dk_at dksX3_follows_6 19 rfl rfl)
theorem dX3_follows_159 : decode cX3_follows 159 = .ok (.goto (-123), 3) := dk_167 255 133 (dk_at dksX3_follows_7 0 rfl rfl)
theorem dX3_follows_162 : decode cX3_follows 162 = .ok (.return_, 1) := dk_177 (dk_at dksX3_follows_7 3 rfl rfl)
abbrev cX3_around : ByteArray := prog_9_method_8_code
def yX3_around : MethodName := ⟨RX3, "around", "(I)I"⟩
def dkwX3_around_1 : List UInt8 := [184, 0, 37, 120, 128, 60, 132, 2, 1, 167, 255, 228, 27, 172]
abbrev dktX3_around_1 : List UInt8 := dkwX3_around_1 ++ []
def dkwX3_around_0 : List UInt8 := [3, 60, 3, 61, 28, 16, 8, 162, 0, 28, 27, 28, 26, 160, 0, 7, 3, 167, 0, 10, 4, 26, 28]
abbrev dktX3_around_0 : List UInt8 := dkwX3_around_0 ++ dktX3_around_1
theorem dksX3_around_0 : cX3_around.data.toList.drop 0 = dktX3_around_0 := by decide +kernel
theorem dksX3_around_1 : cX3_around.data.toList.drop 23 = dktX3_around_1 := dk_seg dksX3_around_0 23 rfl rfl
theorem dX3_around_0 : decode cX3_around 0 = .ok (.iconst 0, 1) := dk_3 (dk_at dksX3_around_0 0 rfl rfl)
theorem dX3_around_1 : decode cX3_around 1 = .ok (.istore_n 1, 1) := dk_60 (dk_at dksX3_around_0 1 rfl rfl)
theorem dX3_around_2 : decode cX3_around 2 = .ok (.iconst 0, 1) := dk_3 (dk_at dksX3_around_0 2 rfl rfl)
theorem dX3_around_3 : decode cX3_around 3 = .ok (.istore_n 2, 1) := dk_61 (dk_at dksX3_around_0 3 rfl rfl)
theorem dX3_around_4 : decode cX3_around 4 = .ok (.iload_n 2, 1) := dk_28 (dk_at dksX3_around_0 4 rfl rfl)
theorem dX3_around_5 : decode cX3_around 5 = .ok (.bipush 8, 2) := dk_16 8 (dk_at dksX3_around_0 5 rfl rfl)
theorem dX3_around_7 : decode cX3_around 7 = .ok (.if_icmp .ge 28, 3) := dk_162 0 28 (dk_at dksX3_around_0 7 rfl rfl)
theorem dX3_around_10 : decode cX3_around 10 = .ok (.iload_n 1, 1) := dk_27 (dk_at dksX3_around_0 10 rfl rfl)
theorem dX3_around_11 : decode cX3_around 11 = .ok (.iload_n 2, 1) := dk_28 (dk_at dksX3_around_0 11 rfl rfl)
theorem dX3_around_12 : decode cX3_around 12 = .ok (.iload_n 0, 1) := dk_26 (dk_at dksX3_around_0 12 rfl rfl)
theorem dX3_around_13 : decode cX3_around 13 = .ok (.if_icmp .ne 7, 3) := dk_160 0 7 (dk_at dksX3_around_0 13 rfl rfl)
theorem dX3_around_16 : decode cX3_around 16 = .ok (.iconst 0, 1) := dk_3 (dk_at dksX3_around_0 16 rfl rfl)
theorem dX3_around_17 : decode cX3_around 17 = .ok (.goto 10, 3) := dk_167 0 10 (dk_at dksX3_around_0 17 rfl rfl)
theorem dX3_around_20 : decode cX3_around 20 = .ok (.iconst 1, 1) := dk_4 (dk_at dksX3_around_0 20 rfl rfl)
theorem dX3_around_21 : decode cX3_around 21 = .ok (.iload_n 0, 1) := dk_26 (dk_at dksX3_around_0 21 rfl rfl)
theorem dX3_around_22 : decode cX3_around 22 = .ok (.iload_n 2, 1) := dk_28 (dk_at dksX3_around_0 22 rfl rfl)
theorem dX3_around_23 : decode cX3_around 23 = .ok (.invokestatic 37, 3) := dk_184 0 37 (dk_at dksX3_around_1 0 rfl rfl)
theorem dX3_around_26 : decode cX3_around 26 = .ok (.ishl, 1) := dk_120 (dk_at dksX3_around_1 3 rfl rfl)
theorem dX3_around_27 : decode cX3_around 27 = .ok (.ior, 1) := dk_128 (dk_at dksX3_around_1 4 rfl rfl)
theorem dX3_around_28 : decode cX3_around 28 = .ok (.istore_n 1, 1) := dk_60 (dk_at dksX3_around_1 5 rfl rfl)
theorem dX3_around_29 : decode cX3_around 29 = .ok (.iinc 2 1, 3) := dk_132 2 1 (dk_at dksX3_around_1 6 rfl rfl)
theorem dX3_around_32 : decode cX3_around 32 = .ok (.goto (-28), 3) := dk_167 255 228 (dk_at dksX3_around_1 9 rfl rfl)
theorem dX3_around_35 : decode cX3_around 35 = .ok (.iload_n 1, 1) := dk_27 (dk_at dksX3_around_1 12 rfl rfl)
theorem dX3_around_36 : decode cX3_around 36 = .ok (.ireturn, 1) := dk_172 (dk_at dksX3_around_1 13 rfl rfl)
abbrev cX3_claim : ByteArray := prog_9_method_29_code
def yX3_claim : MethodName := ⟨RX3, "claim", "(III)I"⟩
def dkwX3_claim_1 : List UInt8 := [29, 182, 0, 101, 172]
abbrev dktX3_claim_1 : List UInt8 := dkwX3_claim_1 ++ []
def dkwX3_claim_0 : List UInt8 := [42, 27, 28, 29, 182, 0, 97, 54, 4, 21, 4, 156, 0, 6, 21, 4, 172, 42, 182, 0, 64, 42, 27, 28]
abbrev dktX3_claim_0 : List UInt8 := dkwX3_claim_0 ++ dktX3_claim_1
theorem dksX3_claim_0 : cX3_claim.data.toList.drop 0 = dktX3_claim_0 := by decide +kernel
theorem dksX3_claim_1 : cX3_claim.data.toList.drop 24 = dktX3_claim_1 := dk_seg dksX3_claim_0 24 rfl rfl
theorem dX3_claim_0 : decode cX3_claim 0 = .ok (.aload_n 0, 1) := dk_42 (dk_at dksX3_claim_0 0 rfl rfl)
theorem dX3_claim_1 : decode cX3_claim 1 = .ok (.iload_n 1, 1) := dk_27 (dk_at dksX3_claim_0 1 rfl rfl)
theorem dX3_claim_2 : decode cX3_claim 2 = .ok (.iload_n 2, 1) := dk_28 (dk_at dksX3_claim_0 2 rfl rfl)
theorem dX3_claim_3 : decode cX3_claim 3 = .ok (.iload_n 3, 1) := dk_29 (dk_at dksX3_claim_0 3 rfl rfl)
theorem dX3_claim_4 : decode cX3_claim 4 = .ok (.invokevirtual 97, 3) := dk_182 0 97 (dk_at dksX3_claim_0 4 rfl rfl)
theorem dX3_claim_7 : decode cX3_claim 7 = .ok (.istore 4, 2) := dk_54 4 (dk_at dksX3_claim_0 7 rfl rfl)
theorem dX3_claim_9 : decode cX3_claim 9 = .ok (.iload 4, 2) := dk_21 4 (dk_at dksX3_claim_0 9 rfl rfl)
theorem dX3_claim_11 : decode cX3_claim 11 = .ok (.ifCond .ge 6, 3) := dk_156 0 6 (dk_at dksX3_claim_0 11 rfl rfl)
theorem dX3_claim_14 : decode cX3_claim 14 = .ok (.iload 4, 2) := dk_21 4 (dk_at dksX3_claim_0 14 rfl rfl)
theorem dX3_claim_16 : decode cX3_claim 16 = .ok (.ireturn, 1) := dk_172 (dk_at dksX3_claim_0 16 rfl rfl)
theorem dX3_claim_17 : decode cX3_claim 17 = .ok (.aload_n 0, 1) := dk_42 (dk_at dksX3_claim_0 17 rfl rfl)
theorem dX3_claim_18 : decode cX3_claim 18 = .ok (.invokevirtual 64, 3) := dk_182 0 64 (dk_at dksX3_claim_0 18 rfl rfl)
theorem dX3_claim_21 : decode cX3_claim 21 = .ok (.aload_n 0, 1) := dk_42 (dk_at dksX3_claim_0 21 rfl rfl)
theorem dX3_claim_22 : decode cX3_claim 22 = .ok (.iload_n 1, 1) := dk_27 (dk_at dksX3_claim_0 22 rfl rfl)
theorem dX3_claim_23 : decode cX3_claim 23 = .ok (.iload_n 2, 1) := dk_28 (dk_at dksX3_claim_0 23 rfl rfl)
theorem dX3_claim_24 : decode cX3_claim 24 = .ok (.iload_n 3, 1) := dk_29 (dk_at dksX3_claim_1 0 rfl rfl)
theorem dX3_claim_25 : decode cX3_claim 25 = .ok (.invokevirtual 101, 3) := dk_182 0 101 (dk_at dksX3_claim_1 1 rfl rfl)
theorem dX3_claim_28 : decode cX3_claim 28 = .ok (.ireturn, 1) := dk_172 (dk_at dksX3_claim_1 4 rfl rfl)
abbrev cX3_barClaim : ByteArray := prog_9_method_27_code
def yX3_barClaim : MethodName := ⟨RX3, "barClaim", "(III)I"⟩
def dkwX3_barClaim_2 : List UInt8 := [16, 251, 172]
abbrev dktX3_barClaim_2 : List UInt8 := dkwX3_barClaim_2 ++ []
def dkwX3_barClaim_1 : List UInt8 := [3, 4, 184, 0, 29, 154, 0, 8, 16, 254, 167, 0, 16, 42, 182, 0, 84, 153, 0, 7, 3, 167, 0, 5]
abbrev dktX3_barClaim_1 : List UInt8 := dkwX3_barClaim_1 ++ dktX3_barClaim_2
def dkwX3_barClaim_0 : List UInt8 := [27, 184, 0, 67, 153, 0, 10, 28, 184, 0, 67, 154, 0, 7, 2, 167, 0, 35, 27, 28, 159, 0, 12, 29]
abbrev dktX3_barClaim_0 : List UInt8 := dkwX3_barClaim_0 ++ dktX3_barClaim_1
theorem dksX3_barClaim_0 : cX3_barClaim.data.toList.drop 0 = dktX3_barClaim_0 := by decide +kernel
theorem dksX3_barClaim_1 : cX3_barClaim.data.toList.drop 24 = dktX3_barClaim_1 := dk_seg dksX3_barClaim_0 24 rfl rfl
theorem dksX3_barClaim_2 : cX3_barClaim.data.toList.drop 48 = dktX3_barClaim_2 := dk_seg dksX3_barClaim_1 24 rfl rfl
theorem dX3_barClaim_0 : decode cX3_barClaim 0 = .ok (.iload_n 1, 1) := dk_27 (dk_at dksX3_barClaim_0 0 rfl rfl)
theorem dX3_barClaim_1 : decode cX3_barClaim 1 = .ok (.invokestatic 67, 3) := dk_184 0 67 (dk_at dksX3_barClaim_0 1 rfl rfl)
theorem dX3_barClaim_4 : decode cX3_barClaim 4 = .ok (.ifCond .eq 10, 3) := dk_153 0 10 (dk_at dksX3_barClaim_0 4 rfl rfl)
theorem dX3_barClaim_7 : decode cX3_barClaim 7 = .ok (.iload_n 2, 1) := dk_28 (dk_at dksX3_barClaim_0 7 rfl rfl)
theorem dX3_barClaim_8 : decode cX3_barClaim 8 = .ok (.invokestatic 67, 3) := dk_184 0 67 (dk_at dksX3_barClaim_0 8 rfl rfl)
theorem dX3_barClaim_11 : decode cX3_barClaim 11 = .ok (.ifCond .ne 7, 3) := dk_154 0 7 (dk_at dksX3_barClaim_0 11 rfl rfl)
theorem dX3_barClaim_14 : decode cX3_barClaim 14 = .ok (.iconst (-1), 1) := dk_2 (dk_at dksX3_barClaim_0 14 rfl rfl)
theorem dX3_barClaim_15 : decode cX3_barClaim 15 = .ok (.goto 35, 3) := dk_167 0 35 (dk_at dksX3_barClaim_0 15 rfl rfl)
theorem dX3_barClaim_18 : decode cX3_barClaim 18 = .ok (.iload_n 1, 1) := dk_27 (dk_at dksX3_barClaim_0 18 rfl rfl)
theorem dX3_barClaim_19 : decode cX3_barClaim 19 = .ok (.iload_n 2, 1) := dk_28 (dk_at dksX3_barClaim_0 19 rfl rfl)
theorem dX3_barClaim_20 : decode cX3_barClaim 20 = .ok (.if_icmp .eq 12, 3) := dk_159 0 12 (dk_at dksX3_barClaim_0 20 rfl rfl)
theorem dX3_barClaim_23 : decode cX3_barClaim 23 = .ok (.iload_n 3, 1) := dk_29 (dk_at dksX3_barClaim_0 23 rfl rfl)
theorem dX3_barClaim_24 : decode cX3_barClaim 24 = .ok (.iconst 0, 1) := dk_3 (dk_at dksX3_barClaim_1 0 rfl rfl)
theorem dX3_barClaim_25 : decode cX3_barClaim 25 = .ok (.iconst 1, 1) := dk_4 (dk_at dksX3_barClaim_1 1 rfl rfl)
theorem dX3_barClaim_26 : decode cX3_barClaim 26 = .ok (.invokestatic 29, 3) := dk_184 0 29 (dk_at dksX3_barClaim_1 2 rfl rfl)
theorem dX3_barClaim_29 : decode cX3_barClaim 29 = .ok (.ifCond .ne 8, 3) := dk_154 0 8 (dk_at dksX3_barClaim_1 5 rfl rfl)
theorem dX3_barClaim_32 : decode cX3_barClaim 32 = .ok (.bipush (-2), 2) := dk_16 254 (dk_at dksX3_barClaim_1 8 rfl rfl)
theorem dX3_barClaim_34 : decode cX3_barClaim 34 = .ok (.goto 16, 3) := dk_167 0 16 (dk_at dksX3_barClaim_1 10 rfl rfl)
theorem dX3_barClaim_37 : decode cX3_barClaim 37 = .ok (.aload_n 0, 1) := dk_42 (dk_at dksX3_barClaim_1 13 rfl rfl)
theorem dX3_barClaim_38 : decode cX3_barClaim 38 = .ok (.invokevirtual 84, 3) := dk_182 0 84 (dk_at dksX3_barClaim_1 14 rfl rfl)
theorem dX3_barClaim_41 : decode cX3_barClaim 41 = .ok (.ifCond .eq 7, 3) := dk_153 0 7 (dk_at dksX3_barClaim_1 17 rfl rfl)
theorem dX3_barClaim_44 : decode cX3_barClaim 44 = .ok (.iconst 0, 1) := dk_3 (dk_at dksX3_barClaim_1 20 rfl rfl)
theorem dX3_barClaim_45 : decode cX3_barClaim 45 = .ok (.goto 5, 3) := dk_167 0 5 (dk_at dksX3_barClaim_1 21 rfl rfl)
theorem dX3_barClaim_48 : decode cX3_barClaim 48 = .ok (.bipush (-5), 2) := dk_16 251 (dk_at dksX3_barClaim_2 0 rfl rfl)
theorem dX3_barClaim_50 : decode cX3_barClaim 50 = .ok (.ireturn, 1) := dk_172 (dk_at dksX3_barClaim_2 2 rfl rfl)
abbrev cX3_goes : ByteArray := prog_9_method_22_code
def yX3_goes : MethodName := ⟨RX3, "goes", "()Z"⟩
def dkwX3_goes_0 : List UInt8 := [42, 180, 0, 7, 16, 6, 46, 4, 160, 0, 7, 4, 167, 0, 4, 3, 172]
abbrev dktX3_goes_0 : List UInt8 := dkwX3_goes_0 ++ []
theorem dksX3_goes_0 : cX3_goes.data.toList.drop 0 = dktX3_goes_0 := by decide +kernel
theorem dX3_goes_0 : decode cX3_goes 0 = .ok (.aload_n 0, 1) := dk_42 (dk_at dksX3_goes_0 0 rfl rfl)
theorem dX3_goes_1 : decode cX3_goes 1 = .ok (.getfield 7, 3) := dk_180 0 7 (dk_at dksX3_goes_0 1 rfl rfl)
theorem dX3_goes_4 : decode cX3_goes 4 = .ok (.bipush 6, 2) := dk_16 6 (dk_at dksX3_goes_0 4 rfl rfl)
theorem dX3_goes_6 : decode cX3_goes 6 = .ok (.iaload, 1) := dk_46 (dk_at dksX3_goes_0 6 rfl rfl)
theorem dX3_goes_7 : decode cX3_goes 7 = .ok (.iconst 1, 1) := dk_4 (dk_at dksX3_goes_0 7 rfl rfl)
theorem dX3_goes_8 : decode cX3_goes 8 = .ok (.if_icmp .ne 7, 3) := dk_160 0 7 (dk_at dksX3_goes_0 8 rfl rfl)
theorem dX3_goes_11 : decode cX3_goes 11 = .ok (.iconst 1, 1) := dk_4 (dk_at dksX3_goes_0 11 rfl rfl)
theorem dX3_goes_12 : decode cX3_goes 12 = .ok (.goto 4, 3) := dk_167 0 4 (dk_at dksX3_goes_0 12 rfl rfl)
theorem dX3_goes_15 : decode cX3_goes 15 = .ok (.iconst 0, 1) := dk_3 (dk_at dksX3_goes_0 15 rfl rfl)
theorem dX3_goes_16 : decode cX3_goes 16 = .ok (.ireturn, 1) := dk_172 (dk_at dksX3_goes_0 16 rfl rfl)
abbrev cX3_says : ByteArray := prog_9_method_28_code
def yX3_says : MethodName := ⟨RX3, "says", "(III)I"⟩
def dkwX3_says_4 : List UInt8 := [16, 14, 21, 5, 96, 46, 21, 4, 2, 130, 126, 79, 42, 182, 0, 91, 42, 21, 5, 182, 0, 94, 172]
abbrev dktX3_says_4 : List UInt8 := dkwX3_says_4 ++ []
def dkwX3_says_3 : List UInt8 := [29, 154, 0, 19, 42, 180, 0, 7, 16, 14, 21, 5, 96, 46, 21, 4, 128, 167, 0, 18, 42, 180, 0, 7]
abbrev dktX3_says_3 : List UInt8 := dkwX3_says_3 ++ dktX3_says_4
def dkwX3_says_2 : List UInt8 := [180, 0, 7, 16, 11, 21, 5, 96, 46, 21, 4, 2, 130, 126, 79, 42, 180, 0, 7, 16, 14, 21, 5, 96]
abbrev dktX3_says_2 : List UInt8 := dkwX3_says_2 ++ dktX3_says_3
def dkwX3_says_1 : List UInt8 := [29, 4, 160, 0, 19, 42, 180, 0, 7, 16, 11, 21, 5, 96, 46, 21, 4, 128, 167, 0, 18, 42]
abbrev dktX3_says_1 : List UInt8 := dkwX3_says_1 ++ dktX3_says_2
def dkwX3_says_0 : List UInt8 := [4, 27, 28, 184, 0, 37, 120, 54, 4, 42, 182, 0, 87, 54, 5, 42, 180, 0, 7, 16, 11, 21, 5, 96]
abbrev dktX3_says_0 : List UInt8 := dkwX3_says_0 ++ dktX3_says_1
theorem dksX3_says_0 : cX3_says.data.toList.drop 0 = dktX3_says_0 := by decide +kernel
theorem dksX3_says_1 : cX3_says.data.toList.drop 24 = dktX3_says_1 := dk_seg dksX3_says_0 24 rfl rfl
theorem dksX3_says_2 : cX3_says.data.toList.drop 46 = dktX3_says_2 := dk_seg dksX3_says_1 22 rfl rfl
theorem dksX3_says_3 : cX3_says.data.toList.drop 70 = dktX3_says_3 := dk_seg dksX3_says_2 24 rfl rfl
theorem dksX3_says_4 : cX3_says.data.toList.drop 94 = dktX3_says_4 := dk_seg dksX3_says_3 24 rfl rfl
theorem dX3_says_0 : decode cX3_says 0 = .ok (.iconst 1, 1) := dk_4 (dk_at dksX3_says_0 0 rfl rfl)
theorem dX3_says_1 : decode cX3_says 1 = .ok (.iload_n 1, 1) := dk_27 (dk_at dksX3_says_0 1 rfl rfl)
theorem dX3_says_2 : decode cX3_says 2 = .ok (.iload_n 2, 1) := dk_28 (dk_at dksX3_says_0 2 rfl rfl)
theorem dX3_says_3 : decode cX3_says 3 = .ok (.invokestatic 37, 3) := dk_184 0 37 (dk_at dksX3_says_0 3 rfl rfl)
theorem dX3_says_6 : decode cX3_says 6 = .ok (.ishl, 1) := dk_120 (dk_at dksX3_says_0 6 rfl rfl)
theorem dX3_says_7 : decode cX3_says 7 = .ok (.istore 4, 2) := dk_54 4 (dk_at dksX3_says_0 7 rfl rfl)
theorem dX3_says_9 : decode cX3_says 9 = .ok (.aload_n 0, 1) := dk_42 (dk_at dksX3_says_0 9 rfl rfl)
theorem dX3_says_10 : decode cX3_says 10 = .ok (.invokevirtual 87, 3) := dk_182 0 87 (dk_at dksX3_says_0 10 rfl rfl)
theorem dX3_says_13 : decode cX3_says 13 = .ok (.istore 5, 2) := dk_54 5 (dk_at dksX3_says_0 13 rfl rfl)
theorem dX3_says_15 : decode cX3_says 15 = .ok (.aload_n 0, 1) := dk_42 (dk_at dksX3_says_0 15 rfl rfl)
theorem dX3_says_16 : decode cX3_says 16 = .ok (.getfield 7, 3) := dk_180 0 7 (dk_at dksX3_says_0 16 rfl rfl)
theorem dX3_says_19 : decode cX3_says 19 = .ok (.bipush 11, 2) := dk_16 11 (dk_at dksX3_says_0 19 rfl rfl)
theorem dX3_says_21 : decode cX3_says 21 = .ok (.iload 5, 2) := dk_21 5 (dk_at dksX3_says_0 21 rfl rfl)
theorem dX3_says_23 : decode cX3_says 23 = .ok (.iadd, 1) := dk_96 (dk_at dksX3_says_0 23 rfl rfl)
theorem dX3_says_24 : decode cX3_says 24 = .ok (.iload_n 3, 1) := dk_29 (dk_at dksX3_says_1 0 rfl rfl)
theorem dX3_says_25 : decode cX3_says 25 = .ok (.iconst 1, 1) := dk_4 (dk_at dksX3_says_1 1 rfl rfl)
theorem dX3_says_26 : decode cX3_says 26 = .ok (.if_icmp .ne 19, 3) := dk_160 0 19 (dk_at dksX3_says_1 2 rfl rfl)
theorem dX3_says_29 : decode cX3_says 29 = .ok (.aload_n 0, 1) := dk_42 (dk_at dksX3_says_1 5 rfl rfl)
theorem dX3_says_30 : decode cX3_says 30 = .ok (.getfield 7, 3) := dk_180 0 7 (dk_at dksX3_says_1 6 rfl rfl)
theorem dX3_says_33 : decode cX3_says 33 = .ok (.bipush 11, 2) := dk_16 11 (dk_at dksX3_says_1 9 rfl rfl)
theorem dX3_says_35 : decode cX3_says 35 = .ok (.iload 5, 2) := dk_21 5 (dk_at dksX3_says_1 11 rfl rfl)
theorem dX3_says_37 : decode cX3_says 37 = .ok (.iadd, 1) := dk_96 (dk_at dksX3_says_1 13 rfl rfl)
theorem dX3_says_38 : decode cX3_says 38 = .ok (.iaload, 1) := dk_46 (dk_at dksX3_says_1 14 rfl rfl)
theorem dX3_says_39 : decode cX3_says 39 = .ok (.iload 4, 2) := dk_21 4 (dk_at dksX3_says_1 15 rfl rfl)
theorem dX3_says_41 : decode cX3_says 41 = .ok (.ior, 1) := dk_128 (dk_at dksX3_says_1 17 rfl rfl)
theorem dX3_says_42 : decode cX3_says 42 = .ok (.goto 18, 3) := dk_167 0 18 (dk_at dksX3_says_1 18 rfl rfl)
theorem dX3_says_45 : decode cX3_says 45 = .ok (.aload_n 0, 1) := dk_42 (dk_at dksX3_says_1 21 rfl rfl)
theorem dX3_says_46 : decode cX3_says 46 = .ok (.getfield 7, 3) := dk_180 0 7 (dk_at dksX3_says_2 0 rfl rfl)
theorem dX3_says_49 : decode cX3_says 49 = .ok (.bipush 11, 2) := dk_16 11 (dk_at dksX3_says_2 3 rfl rfl)
theorem dX3_says_51 : decode cX3_says 51 = .ok (.iload 5, 2) := dk_21 5 (dk_at dksX3_says_2 5 rfl rfl)
theorem dX3_says_53 : decode cX3_says 53 = .ok (.iadd, 1) := dk_96 (dk_at dksX3_says_2 7 rfl rfl)
theorem dX3_says_54 : decode cX3_says 54 = .ok (.iaload, 1) := dk_46 (dk_at dksX3_says_2 8 rfl rfl)
theorem dX3_says_55 : decode cX3_says 55 = .ok (.iload 4, 2) := dk_21 4 (dk_at dksX3_says_2 9 rfl rfl)
theorem dX3_says_57 : decode cX3_says 57 = .ok (.iconst (-1), 1) := dk_2 (dk_at dksX3_says_2 11 rfl rfl)
theorem dX3_says_58 : decode cX3_says 58 = .ok (.ixor, 1) := dk_130 (dk_at dksX3_says_2 12 rfl rfl)
theorem dX3_says_59 : decode cX3_says 59 = .ok (.iand, 1) := dk_126 (dk_at dksX3_says_2 13 rfl rfl)
theorem dX3_says_60 : decode cX3_says 60 = .ok (.iastore, 1) := dk_79 (dk_at dksX3_says_2 14 rfl rfl)
theorem dX3_says_61 : decode cX3_says 61 = .ok (.aload_n 0, 1) := dk_42 (dk_at dksX3_says_2 15 rfl rfl)
theorem dX3_says_62 : decode cX3_says 62 = .ok (.getfield 7, 3) := dk_180 0 7 (dk_at dksX3_says_2 16 rfl rfl)
theorem dX3_says_65 : decode cX3_says 65 = .ok (.bipush 14, 2) := dk_16 14 (dk_at dksX3_says_2 19 rfl rfl)
theorem dX3_says_67 : decode cX3_says 67 = .ok (.iload 5, 2) := dk_21 5 (dk_at dksX3_says_2 21 rfl rfl)
theorem dX3_says_69 : decode cX3_says 69 = .ok (.iadd, 1) := dk_96 (dk_at dksX3_says_2 23 rfl rfl)
theorem dX3_says_70 : decode cX3_says 70 = .ok (.iload_n 3, 1) := dk_29 (dk_at dksX3_says_3 0 rfl rfl)
theorem dX3_says_71 : decode cX3_says 71 = .ok (.ifCond .ne 19, 3) := dk_154 0 19 (dk_at dksX3_says_3 1 rfl rfl)
theorem dX3_says_74 : decode cX3_says 74 = .ok (.aload_n 0, 1) := dk_42 (dk_at dksX3_says_3 4 rfl rfl)
theorem dX3_says_75 : decode cX3_says 75 = .ok (.getfield 7, 3) := dk_180 0 7 (dk_at dksX3_says_3 5 rfl rfl)
theorem dX3_says_78 : decode cX3_says 78 = .ok (.bipush 14, 2) := dk_16 14 (dk_at dksX3_says_3 8 rfl rfl)
theorem dX3_says_80 : decode cX3_says 80 = .ok (.iload 5, 2) := dk_21 5 (dk_at dksX3_says_3 10 rfl rfl)
theorem dX3_says_82 : decode cX3_says 82 = .ok (.iadd, 1) := dk_96 (dk_at dksX3_says_3 12 rfl rfl)
theorem dX3_says_83 : decode cX3_says 83 = .ok (.iaload, 1) := dk_46 (dk_at dksX3_says_3 13 rfl rfl)
theorem dX3_says_84 : decode cX3_says 84 = .ok (.iload 4, 2) := dk_21 4 (dk_at dksX3_says_3 14 rfl rfl)
theorem dX3_says_86 : decode cX3_says 86 = .ok (.ior, 1) := dk_128 (dk_at dksX3_says_3 16 rfl rfl)
theorem dX3_says_87 : decode cX3_says 87 = .ok (.goto 18, 3) := dk_167 0 18 (dk_at dksX3_says_3 17 rfl rfl)
theorem dX3_says_90 : decode cX3_says 90 = .ok (.aload_n 0, 1) := dk_42 (dk_at dksX3_says_3 20 rfl rfl)
theorem dX3_says_91 : decode cX3_says 91 = .ok (.getfield 7, 3) := dk_180 0 7 (dk_at dksX3_says_3 21 rfl rfl)
theorem dX3_says_94 : decode cX3_says 94 = .ok (.bipush 14, 2) := dk_16 14 (dk_at dksX3_says_4 0 rfl rfl)
theorem dX3_says_96 : decode cX3_says 96 = .ok (.iload 5, 2) := dk_21 5 (dk_at dksX3_says_4 2 rfl rfl)
theorem dX3_says_98 : decode cX3_says 98 = .ok (.iadd, 1) := dk_96 (dk_at dksX3_says_4 4 rfl rfl)
theorem dX3_says_99 : decode cX3_says 99 = .ok (.iaload, 1) := dk_46 (dk_at dksX3_says_4 5 rfl rfl)
theorem dX3_says_100 : decode cX3_says 100 = .ok (.iload 4, 2) := dk_21 4 (dk_at dksX3_says_4 6 rfl rfl)
theorem dX3_says_102 : decode cX3_says 102 = .ok (.iconst (-1), 1) := dk_2 (dk_at dksX3_says_4 8 rfl rfl)
theorem dX3_says_103 : decode cX3_says 103 = .ok (.ixor, 1) := dk_130 (dk_at dksX3_says_4 9 rfl rfl)
theorem dX3_says_104 : decode cX3_says 104 = .ok (.iand, 1) := dk_126 (dk_at dksX3_says_4 10 rfl rfl)
theorem dX3_says_105 : decode cX3_says 105 = .ok (.iastore, 1) := dk_79 (dk_at dksX3_says_4 11 rfl rfl)
theorem dX3_says_106 : decode cX3_says 106 = .ok (.aload_n 0, 1) := dk_42 (dk_at dksX3_says_4 12 rfl rfl)
theorem dX3_says_107 : decode cX3_says 107 = .ok (.invokevirtual 91, 3) := dk_182 0 91 (dk_at dksX3_says_4 13 rfl rfl)
theorem dX3_says_110 : decode cX3_says 110 = .ok (.aload_n 0, 1) := dk_42 (dk_at dksX3_says_4 16 rfl rfl)
theorem dX3_says_111 : decode cX3_says 111 = .ok (.iload 5, 2) := dk_21 5 (dk_at dksX3_says_4 17 rfl rfl)
theorem dX3_says_113 : decode cX3_says 113 = .ok (.invokevirtual 94, 3) := dk_182 0 94 (dk_at dksX3_says_4 19 rfl rfl)
theorem dX3_says_116 : decode cX3_says 116 = .ok (.ireturn, 1) := dk_172 (dk_at dksX3_says_4 22 rfl rfl)
abbrev cX3_turn : ByteArray := prog_9_method_23_code
def yX3_turn : MethodName := ⟨RX3, "turn", "()I"⟩
def dkwX3_turn_0 : List UInt8 := [42, 180, 0, 7, 16, 7, 46, 6, 112, 172]
abbrev dktX3_turn_0 : List UInt8 := dkwX3_turn_0 ++ []
theorem dksX3_turn_0 : cX3_turn.data.toList.drop 0 = dktX3_turn_0 := by decide +kernel
theorem dX3_turn_0 : decode cX3_turn 0 = .ok (.aload_n 0, 1) := dk_42 (dk_at dksX3_turn_0 0 rfl rfl)
theorem dX3_turn_1 : decode cX3_turn 1 = .ok (.getfield 7, 3) := dk_180 0 7 (dk_at dksX3_turn_0 1 rfl rfl)
theorem dX3_turn_4 : decode cX3_turn 4 = .ok (.bipush 7, 2) := dk_16 7 (dk_at dksX3_turn_0 4 rfl rfl)
theorem dX3_turn_6 : decode cX3_turn 6 = .ok (.iaload, 1) := dk_46 (dk_at dksX3_turn_0 6 rfl rfl)
theorem dX3_turn_7 : decode cX3_turn 7 = .ok (.iconst 3, 1) := dk_6 (dk_at dksX3_turn_0 7 rfl rfl)
theorem dX3_turn_8 : decode cX3_turn 8 = .ok (.irem, 1) := dk_112 (dk_at dksX3_turn_0 8 rfl rfl)
theorem dX3_turn_9 : decode cX3_turn 9 = .ok (.ireturn, 1) := dk_172 (dk_at dksX3_turn_0 9 rfl rfl)
abbrev cX3_ends : ByteArray := prog_9_method_24_code
def yX3_ends : MethodName := ⟨RX3, "ends", "()V"⟩
def dkwX3_ends_1 : List UInt8 := [17, 0, 150, 160, 0, 7, 5, 167, 0, 10, 42, 180, 0, 7, 16, 6, 46, 79, 177]
abbrev dktX3_ends_1 : List UInt8 := dkwX3_ends_1 ++ []
def dkwX3_ends_0 : List UInt8 := [42, 180, 0, 7, 16, 7, 92, 46, 4, 96, 79, 42, 180, 0, 7, 16, 6, 42, 180, 0, 7, 16, 7, 46]
abbrev dktX3_ends_0 : List UInt8 := dkwX3_ends_0 ++ dktX3_ends_1
theorem dksX3_ends_0 : cX3_ends.data.toList.drop 0 = dktX3_ends_0 := by decide +kernel
theorem dksX3_ends_1 : cX3_ends.data.toList.drop 24 = dktX3_ends_1 := dk_seg dksX3_ends_0 24 rfl rfl
theorem dX3_ends_0 : decode cX3_ends 0 = .ok (.aload_n 0, 1) := dk_42 (dk_at dksX3_ends_0 0 rfl rfl)
theorem dX3_ends_1 : decode cX3_ends 1 = .ok (.getfield 7, 3) := dk_180 0 7 (dk_at dksX3_ends_0 1 rfl rfl)
theorem dX3_ends_4 : decode cX3_ends 4 = .ok (.bipush 7, 2) := dk_16 7 (dk_at dksX3_ends_0 4 rfl rfl)
theorem dX3_ends_6 : decode cX3_ends 6 = .ok (.dup2, 1) := dk_92 (dk_at dksX3_ends_0 6 rfl rfl)
theorem dX3_ends_7 : decode cX3_ends 7 = .ok (.iaload, 1) := dk_46 (dk_at dksX3_ends_0 7 rfl rfl)
theorem dX3_ends_8 : decode cX3_ends 8 = .ok (.iconst 1, 1) := dk_4 (dk_at dksX3_ends_0 8 rfl rfl)
theorem dX3_ends_9 : decode cX3_ends 9 = .ok (.iadd, 1) := dk_96 (dk_at dksX3_ends_0 9 rfl rfl)
theorem dX3_ends_10 : decode cX3_ends 10 = .ok (.iastore, 1) := dk_79 (dk_at dksX3_ends_0 10 rfl rfl)
theorem dX3_ends_11 : decode cX3_ends 11 = .ok (.aload_n 0, 1) := dk_42 (dk_at dksX3_ends_0 11 rfl rfl)
theorem dX3_ends_12 : decode cX3_ends 12 = .ok (.getfield 7, 3) := dk_180 0 7 (dk_at dksX3_ends_0 12 rfl rfl)
theorem dX3_ends_15 : decode cX3_ends 15 = .ok (.bipush 6, 2) := dk_16 6 (dk_at dksX3_ends_0 15 rfl rfl)
theorem dX3_ends_17 : decode cX3_ends 17 = .ok (.aload_n 0, 1) := dk_42 (dk_at dksX3_ends_0 17 rfl rfl)
theorem dX3_ends_18 : decode cX3_ends 18 = .ok (.getfield 7, 3) := dk_180 0 7 (dk_at dksX3_ends_0 18 rfl rfl)
theorem dX3_ends_21 : decode cX3_ends 21 = .ok (.bipush 7, 2) := dk_16 7 (dk_at dksX3_ends_0 21 rfl rfl)
theorem dX3_ends_23 : decode cX3_ends 23 = .ok (.iaload, 1) := dk_46 (dk_at dksX3_ends_0 23 rfl rfl)
theorem dX3_ends_24 : decode cX3_ends 24 = .ok (.sipush 150, 3) := dk_17 0 150 (dk_at dksX3_ends_1 0 rfl rfl)
theorem dX3_ends_27 : decode cX3_ends 27 = .ok (.if_icmp .ne 7, 3) := dk_160 0 7 (dk_at dksX3_ends_1 3 rfl rfl)
theorem dX3_ends_30 : decode cX3_ends 30 = .ok (.iconst 2, 1) := dk_5 (dk_at dksX3_ends_1 6 rfl rfl)
theorem dX3_ends_31 : decode cX3_ends 31 = .ok (.goto 10, 3) := dk_167 0 10 (dk_at dksX3_ends_1 7 rfl rfl)
theorem dX3_ends_34 : decode cX3_ends 34 = .ok (.aload_n 0, 1) := dk_42 (dk_at dksX3_ends_1 10 rfl rfl)
theorem dX3_ends_35 : decode cX3_ends 35 = .ok (.getfield 7, 3) := dk_180 0 7 (dk_at dksX3_ends_1 11 rfl rfl)
theorem dX3_ends_38 : decode cX3_ends 38 = .ok (.bipush 6, 2) := dk_16 6 (dk_at dksX3_ends_1 14 rfl rfl)
theorem dX3_ends_40 : decode cX3_ends 40 = .ok (.iaload, 1) := dk_46 (dk_at dksX3_ends_1 16 rfl rfl)
theorem dX3_ends_41 : decode cX3_ends 41 = .ok (.iastore, 1) := dk_79 (dk_at dksX3_ends_1 17 rfl rfl)
theorem dX3_ends_42 : decode cX3_ends 42 = .ok (.return_, 1) := dk_177 (dk_at dksX3_ends_1 18 rfl rfl)
abbrev cX3_claims : ByteArray := prog_9_method_26_code
def yX3_claims : MethodName := ⟨RX3, "claims", "(I)I"⟩
def dkwX3_claims_0 : List UInt8 := [42, 180, 0, 7, 16, 11, 27, 96, 46, 42, 180, 0, 7, 16, 14, 27, 96, 46, 128, 184, 0, 55, 172]
abbrev dktX3_claims_0 : List UInt8 := dkwX3_claims_0 ++ []
theorem dksX3_claims_0 : cX3_claims.data.toList.drop 0 = dktX3_claims_0 := by decide +kernel
theorem dX3_claims_0 : decode cX3_claims 0 = .ok (.aload_n 0, 1) := dk_42 (dk_at dksX3_claims_0 0 rfl rfl)
theorem dX3_claims_1 : decode cX3_claims 1 = .ok (.getfield 7, 3) := dk_180 0 7 (dk_at dksX3_claims_0 1 rfl rfl)
theorem dX3_claims_4 : decode cX3_claims 4 = .ok (.bipush 11, 2) := dk_16 11 (dk_at dksX3_claims_0 4 rfl rfl)
theorem dX3_claims_6 : decode cX3_claims 6 = .ok (.iload_n 1, 1) := dk_27 (dk_at dksX3_claims_0 6 rfl rfl)
theorem dX3_claims_7 : decode cX3_claims 7 = .ok (.iadd, 1) := dk_96 (dk_at dksX3_claims_0 7 rfl rfl)
theorem dX3_claims_8 : decode cX3_claims 8 = .ok (.iaload, 1) := dk_46 (dk_at dksX3_claims_0 8 rfl rfl)
theorem dX3_claims_9 : decode cX3_claims 9 = .ok (.aload_n 0, 1) := dk_42 (dk_at dksX3_claims_0 9 rfl rfl)
theorem dX3_claims_10 : decode cX3_claims 10 = .ok (.getfield 7, 3) := dk_180 0 7 (dk_at dksX3_claims_0 10 rfl rfl)
theorem dX3_claims_13 : decode cX3_claims 13 = .ok (.bipush 14, 2) := dk_16 14 (dk_at dksX3_claims_0 13 rfl rfl)
theorem dX3_claims_15 : decode cX3_claims 15 = .ok (.iload_n 1, 1) := dk_27 (dk_at dksX3_claims_0 15 rfl rfl)
theorem dX3_claims_16 : decode cX3_claims 16 = .ok (.iadd, 1) := dk_96 (dk_at dksX3_claims_0 16 rfl rfl)
theorem dX3_claims_17 : decode cX3_claims 17 = .ok (.iaload, 1) := dk_46 (dk_at dksX3_claims_0 17 rfl rfl)
theorem dX3_claims_18 : decode cX3_claims 18 = .ok (.ior, 1) := dk_128 (dk_at dksX3_claims_0 18 rfl rfl)
theorem dX3_claims_19 : decode cX3_claims 19 = .ok (.invokestatic 55, 3) := dk_184 0 55 (dk_at dksX3_claims_0 19 rfl rfl)
theorem dX3_claims_22 : decode cX3_claims 22 = .ok (.ireturn, 1) := dk_172 (dk_at dksX3_claims_0 22 rfl rfl)
abbrev cX3_check : ByteArray := prog_9_method_33_code
def yX3_check : MethodName := ⟨RX3, "check", "(III)I"⟩
def dkwX3_check_1 : List UInt8 := [29, 182, 0, 118, 172]
abbrev dktX3_check_1 : List UInt8 := dkwX3_check_1 ++ []
def dkwX3_check_0 : List UInt8 := [42, 27, 28, 29, 182, 0, 115, 54, 4, 21, 4, 156, 0, 6, 21, 4, 172, 42, 182, 0, 64, 42, 27, 28]
abbrev dktX3_check_0 : List UInt8 := dkwX3_check_0 ++ dktX3_check_1
theorem dksX3_check_0 : cX3_check.data.toList.drop 0 = dktX3_check_0 := by decide +kernel
theorem dksX3_check_1 : cX3_check.data.toList.drop 24 = dktX3_check_1 := dk_seg dksX3_check_0 24 rfl rfl
theorem dX3_check_0 : decode cX3_check 0 = .ok (.aload_n 0, 1) := dk_42 (dk_at dksX3_check_0 0 rfl rfl)
theorem dX3_check_1 : decode cX3_check 1 = .ok (.iload_n 1, 1) := dk_27 (dk_at dksX3_check_0 1 rfl rfl)
theorem dX3_check_2 : decode cX3_check 2 = .ok (.iload_n 2, 1) := dk_28 (dk_at dksX3_check_0 2 rfl rfl)
theorem dX3_check_3 : decode cX3_check 3 = .ok (.iload_n 3, 1) := dk_29 (dk_at dksX3_check_0 3 rfl rfl)
theorem dX3_check_4 : decode cX3_check 4 = .ok (.invokevirtual 115, 3) := dk_182 0 115 (dk_at dksX3_check_0 4 rfl rfl)
theorem dX3_check_7 : decode cX3_check 7 = .ok (.istore 4, 2) := dk_54 4 (dk_at dksX3_check_0 7 rfl rfl)
theorem dX3_check_9 : decode cX3_check 9 = .ok (.iload 4, 2) := dk_21 4 (dk_at dksX3_check_0 9 rfl rfl)
theorem dX3_check_11 : decode cX3_check 11 = .ok (.ifCond .ge 6, 3) := dk_156 0 6 (dk_at dksX3_check_0 11 rfl rfl)
theorem dX3_check_14 : decode cX3_check 14 = .ok (.iload 4, 2) := dk_21 4 (dk_at dksX3_check_0 14 rfl rfl)
theorem dX3_check_16 : decode cX3_check 16 = .ok (.ireturn, 1) := dk_172 (dk_at dksX3_check_0 16 rfl rfl)
theorem dX3_check_17 : decode cX3_check 17 = .ok (.aload_n 0, 1) := dk_42 (dk_at dksX3_check_0 17 rfl rfl)
theorem dX3_check_18 : decode cX3_check 18 = .ok (.invokevirtual 64, 3) := dk_182 0 64 (dk_at dksX3_check_0 18 rfl rfl)
theorem dX3_check_21 : decode cX3_check 21 = .ok (.aload_n 0, 1) := dk_42 (dk_at dksX3_check_0 21 rfl rfl)
theorem dX3_check_22 : decode cX3_check 22 = .ok (.iload_n 1, 1) := dk_27 (dk_at dksX3_check_0 22 rfl rfl)
theorem dX3_check_23 : decode cX3_check 23 = .ok (.iload_n 2, 1) := dk_28 (dk_at dksX3_check_0 23 rfl rfl)
theorem dX3_check_24 : decode cX3_check 24 = .ok (.iload_n 3, 1) := dk_29 (dk_at dksX3_check_1 0 rfl rfl)
theorem dX3_check_25 : decode cX3_check 25 = .ok (.invokevirtual 118, 3) := dk_182 0 118 (dk_at dksX3_check_1 1 rfl rfl)
theorem dX3_check_28 : decode cX3_check 28 = .ok (.ireturn, 1) := dk_172 (dk_at dksX3_check_1 4 rfl rfl)
abbrev cX3_barCheck : ByteArray := prog_9_method_30_code
def yX3_barCheck : MethodName := ⟨RX3, "barCheck", "(III)I"⟩
def dkwX3_barCheck_4 : List UInt8 := [167, 0, 4, 3, 172]
abbrev dktX3_barCheck_4 : List UInt8 := dkwX3_barCheck_4 ++ []
def dkwX3_barCheck_3 : List UInt8 := [46, 128, 21, 4, 126, 153, 0, 16, 42, 180, 0, 7, 16, 17, 46, 21, 4, 126, 153, 0, 8, 16, 251]
abbrev dktX3_barCheck_3 : List UInt8 := dkwX3_barCheck_3 ++ dktX3_barCheck_4
def dkwX3_barCheck_2 : List UInt8 := [42, 182, 0, 84, 153, 0, 41, 42, 180, 0, 7, 16, 11, 27, 96, 46, 42, 180, 0, 7, 16, 14, 27, 96]
abbrev dktX3_barCheck_2 : List UInt8 := dkwX3_barCheck_2 ++ dktX3_barCheck_3
def dkwX3_barCheck_1 : List UInt8 := [42, 182, 0, 87, 159, 0, 8, 28, 29, 160, 0, 6, 16, 254, 172, 4, 28, 29, 184, 0, 37, 120, 54, 4]
abbrev dktX3_barCheck_1 : List UInt8 := dkwX3_barCheck_1 ++ dktX3_barCheck_2
def dkwX3_barCheck_0 : List UInt8 := [27, 184, 0, 104, 153, 0, 17, 28, 184, 0, 67, 153, 0, 10, 29, 184, 0, 67, 154, 0, 5, 2, 172, 27]
abbrev dktX3_barCheck_0 : List UInt8 := dkwX3_barCheck_0 ++ dktX3_barCheck_1
theorem dksX3_barCheck_0 : cX3_barCheck.data.toList.drop 0 = dktX3_barCheck_0 := by decide +kernel
theorem dksX3_barCheck_1 : cX3_barCheck.data.toList.drop 24 = dktX3_barCheck_1 := dk_seg dksX3_barCheck_0 24 rfl rfl
theorem dksX3_barCheck_2 : cX3_barCheck.data.toList.drop 48 = dktX3_barCheck_2 := dk_seg dksX3_barCheck_1 24 rfl rfl
theorem dksX3_barCheck_3 : cX3_barCheck.data.toList.drop 72 = dktX3_barCheck_3 := dk_seg dksX3_barCheck_2 24 rfl rfl
theorem dksX3_barCheck_4 : cX3_barCheck.data.toList.drop 95 = dktX3_barCheck_4 := dk_seg dksX3_barCheck_3 23 rfl rfl
theorem dX3_barCheck_0 : decode cX3_barCheck 0 = .ok (.iload_n 1, 1) := dk_27 (dk_at dksX3_barCheck_0 0 rfl rfl)
theorem dX3_barCheck_1 : decode cX3_barCheck 1 = .ok (.invokestatic 104, 3) := dk_184 0 104 (dk_at dksX3_barCheck_0 1 rfl rfl)
theorem dX3_barCheck_4 : decode cX3_barCheck 4 = .ok (.ifCond .eq 17, 3) := dk_153 0 17 (dk_at dksX3_barCheck_0 4 rfl rfl)
theorem dX3_barCheck_7 : decode cX3_barCheck 7 = .ok (.iload_n 2, 1) := dk_28 (dk_at dksX3_barCheck_0 7 rfl rfl)
theorem dX3_barCheck_8 : decode cX3_barCheck 8 = .ok (.invokestatic 67, 3) := dk_184 0 67 (dk_at dksX3_barCheck_0 8 rfl rfl)
theorem dX3_barCheck_11 : decode cX3_barCheck 11 = .ok (.ifCond .eq 10, 3) := dk_153 0 10 (dk_at dksX3_barCheck_0 11 rfl rfl)
theorem dX3_barCheck_14 : decode cX3_barCheck 14 = .ok (.iload_n 3, 1) := dk_29 (dk_at dksX3_barCheck_0 14 rfl rfl)
theorem dX3_barCheck_15 : decode cX3_barCheck 15 = .ok (.invokestatic 67, 3) := dk_184 0 67 (dk_at dksX3_barCheck_0 15 rfl rfl)
theorem dX3_barCheck_18 : decode cX3_barCheck 18 = .ok (.ifCond .ne 5, 3) := dk_154 0 5 (dk_at dksX3_barCheck_0 18 rfl rfl)
theorem dX3_barCheck_21 : decode cX3_barCheck 21 = .ok (.iconst (-1), 1) := dk_2 (dk_at dksX3_barCheck_0 21 rfl rfl)
theorem dX3_barCheck_22 : decode cX3_barCheck 22 = .ok (.ireturn, 1) := dk_172 (dk_at dksX3_barCheck_0 22 rfl rfl)
theorem dX3_barCheck_23 : decode cX3_barCheck 23 = .ok (.iload_n 1, 1) := dk_27 (dk_at dksX3_barCheck_0 23 rfl rfl)
theorem dX3_barCheck_24 : decode cX3_barCheck 24 = .ok (.aload_n 0, 1) := dk_42 (dk_at dksX3_barCheck_1 0 rfl rfl)
theorem dX3_barCheck_25 : decode cX3_barCheck 25 = .ok (.invokevirtual 87, 3) := dk_182 0 87 (dk_at dksX3_barCheck_1 1 rfl rfl)
theorem dX3_barCheck_28 : decode cX3_barCheck 28 = .ok (.if_icmp .eq 8, 3) := dk_159 0 8 (dk_at dksX3_barCheck_1 4 rfl rfl)
theorem dX3_barCheck_31 : decode cX3_barCheck 31 = .ok (.iload_n 2, 1) := dk_28 (dk_at dksX3_barCheck_1 7 rfl rfl)
theorem dX3_barCheck_32 : decode cX3_barCheck 32 = .ok (.iload_n 3, 1) := dk_29 (dk_at dksX3_barCheck_1 8 rfl rfl)
theorem dX3_barCheck_33 : decode cX3_barCheck 33 = .ok (.if_icmp .ne 6, 3) := dk_160 0 6 (dk_at dksX3_barCheck_1 9 rfl rfl)
theorem dX3_barCheck_36 : decode cX3_barCheck 36 = .ok (.bipush (-2), 2) := dk_16 254 (dk_at dksX3_barCheck_1 12 rfl rfl)
theorem dX3_barCheck_38 : decode cX3_barCheck 38 = .ok (.ireturn, 1) := dk_172 (dk_at dksX3_barCheck_1 14 rfl rfl)
theorem dX3_barCheck_39 : decode cX3_barCheck 39 = .ok (.iconst 1, 1) := dk_4 (dk_at dksX3_barCheck_1 15 rfl rfl)
theorem dX3_barCheck_40 : decode cX3_barCheck 40 = .ok (.iload_n 2, 1) := dk_28 (dk_at dksX3_barCheck_1 16 rfl rfl)
theorem dX3_barCheck_41 : decode cX3_barCheck 41 = .ok (.iload_n 3, 1) := dk_29 (dk_at dksX3_barCheck_1 17 rfl rfl)
theorem dX3_barCheck_42 : decode cX3_barCheck 42 = .ok (.invokestatic 37, 3) := dk_184 0 37 (dk_at dksX3_barCheck_1 18 rfl rfl)
theorem dX3_barCheck_45 : decode cX3_barCheck 45 = .ok (.ishl, 1) := dk_120 (dk_at dksX3_barCheck_1 21 rfl rfl)
theorem dX3_barCheck_46 : decode cX3_barCheck 46 = .ok (.istore 4, 2) := dk_54 4 (dk_at dksX3_barCheck_1 22 rfl rfl)
theorem dX3_barCheck_48 : decode cX3_barCheck 48 = .ok (.aload_n 0, 1) := dk_42 (dk_at dksX3_barCheck_2 0 rfl rfl)
theorem dX3_barCheck_49 : decode cX3_barCheck 49 = .ok (.invokevirtual 84, 3) := dk_182 0 84 (dk_at dksX3_barCheck_2 1 rfl rfl)
theorem dX3_barCheck_52 : decode cX3_barCheck 52 = .ok (.ifCond .eq 41, 3) := dk_153 0 41 (dk_at dksX3_barCheck_2 4 rfl rfl)
theorem dX3_barCheck_55 : decode cX3_barCheck 55 = .ok (.aload_n 0, 1) := dk_42 (dk_at dksX3_barCheck_2 7 rfl rfl)
theorem dX3_barCheck_56 : decode cX3_barCheck 56 = .ok (.getfield 7, 3) := dk_180 0 7 (dk_at dksX3_barCheck_2 8 rfl rfl)
theorem dX3_barCheck_59 : decode cX3_barCheck 59 = .ok (.bipush 11, 2) := dk_16 11 (dk_at dksX3_barCheck_2 11 rfl rfl)
theorem dX3_barCheck_61 : decode cX3_barCheck 61 = .ok (.iload_n 1, 1) := dk_27 (dk_at dksX3_barCheck_2 13 rfl rfl)
theorem dX3_barCheck_62 : decode cX3_barCheck 62 = .ok (.iadd, 1) := dk_96 (dk_at dksX3_barCheck_2 14 rfl rfl)
theorem dX3_barCheck_63 : decode cX3_barCheck 63 = .ok (.iaload, 1) := dk_46 (dk_at dksX3_barCheck_2 15 rfl rfl)
theorem dX3_barCheck_64 : decode cX3_barCheck 64 = .ok (.aload_n 0, 1) := dk_42 (dk_at dksX3_barCheck_2 16 rfl rfl)
theorem dX3_barCheck_65 : decode cX3_barCheck 65 = .ok (.getfield 7, 3) := dk_180 0 7 (dk_at dksX3_barCheck_2 17 rfl rfl)
theorem dX3_barCheck_68 : decode cX3_barCheck 68 = .ok (.bipush 14, 2) := dk_16 14 (dk_at dksX3_barCheck_2 20 rfl rfl)
theorem dX3_barCheck_70 : decode cX3_barCheck 70 = .ok (.iload_n 1, 1) := dk_27 (dk_at dksX3_barCheck_2 22 rfl rfl)
theorem dX3_barCheck_71 : decode cX3_barCheck 71 = .ok (.iadd, 1) := dk_96 (dk_at dksX3_barCheck_2 23 rfl rfl)
theorem dX3_barCheck_72 : decode cX3_barCheck 72 = .ok (.iaload, 1) := dk_46 (dk_at dksX3_barCheck_3 0 rfl rfl)
theorem dX3_barCheck_73 : decode cX3_barCheck 73 = .ok (.ior, 1) := dk_128 (dk_at dksX3_barCheck_3 1 rfl rfl)
theorem dX3_barCheck_74 : decode cX3_barCheck 74 = .ok (.iload 4, 2) := dk_21 4 (dk_at dksX3_barCheck_3 2 rfl rfl)
theorem dX3_barCheck_76 : decode cX3_barCheck 76 = .ok (.iand, 1) := dk_126 (dk_at dksX3_barCheck_3 4 rfl rfl)
theorem dX3_barCheck_77 : decode cX3_barCheck 77 = .ok (.ifCond .eq 16, 3) := dk_153 0 16 (dk_at dksX3_barCheck_3 5 rfl rfl)
theorem dX3_barCheck_80 : decode cX3_barCheck 80 = .ok (.aload_n 0, 1) := dk_42 (dk_at dksX3_barCheck_3 8 rfl rfl)
theorem dX3_barCheck_81 : decode cX3_barCheck 81 = .ok (.getfield 7, 3) := dk_180 0 7 (dk_at dksX3_barCheck_3 9 rfl rfl)
theorem dX3_barCheck_84 : decode cX3_barCheck 84 = .ok (.bipush 17, 2) := dk_16 17 (dk_at dksX3_barCheck_3 12 rfl rfl)
theorem dX3_barCheck_86 : decode cX3_barCheck 86 = .ok (.iaload, 1) := dk_46 (dk_at dksX3_barCheck_3 14 rfl rfl)
theorem dX3_barCheck_87 : decode cX3_barCheck 87 = .ok (.iload 4, 2) := dk_21 4 (dk_at dksX3_barCheck_3 15 rfl rfl)
theorem dX3_barCheck_89 : decode cX3_barCheck 89 = .ok (.iand, 1) := dk_126 (dk_at dksX3_barCheck_3 17 rfl rfl)
theorem dX3_barCheck_90 : decode cX3_barCheck 90 = .ok (.ifCond .eq 8, 3) := dk_153 0 8 (dk_at dksX3_barCheck_3 18 rfl rfl)
theorem dX3_barCheck_93 : decode cX3_barCheck 93 = .ok (.bipush (-5), 2) := dk_16 251 (dk_at dksX3_barCheck_3 21 rfl rfl)
theorem dX3_barCheck_95 : decode cX3_barCheck 95 = .ok (.goto 4, 3) := dk_167 0 4 (dk_at dksX3_barCheck_4 0 rfl rfl)
theorem dX3_barCheck_98 : decode cX3_barCheck 98 = .ok (.iconst 0, 1) := dk_3 (dk_at dksX3_barCheck_4 3 rfl rfl)
theorem dX3_barCheck_99 : decode cX3_barCheck 99 = .ok (.ireturn, 1) := dk_172 (dk_at dksX3_barCheck_4 4 rfl rfl)
abbrev cX3_isPlayer : ByteArray := prog_9_method_5_code
def yX3_isPlayer : MethodName := ⟨RX3, "isPlayer", "(I)Z"⟩
def dkwX3_isPlayer_0 : List UInt8 := [26, 3, 5, 184, 0, 29, 172]
abbrev dktX3_isPlayer_0 : List UInt8 := dkwX3_isPlayer_0 ++ []
theorem dksX3_isPlayer_0 : cX3_isPlayer.data.toList.drop 0 = dktX3_isPlayer_0 := by decide +kernel
theorem dX3_isPlayer_0 : decode cX3_isPlayer 0 = .ok (.iload_n 0, 1) := dk_26 (dk_at dksX3_isPlayer_0 0 rfl rfl)
theorem dX3_isPlayer_1 : decode cX3_isPlayer 1 = .ok (.iconst 0, 1) := dk_3 (dk_at dksX3_isPlayer_0 1 rfl rfl)
theorem dX3_isPlayer_2 : decode cX3_isPlayer 2 = .ok (.iconst 2, 1) := dk_5 (dk_at dksX3_isPlayer_0 2 rfl rfl)
theorem dX3_isPlayer_3 : decode cX3_isPlayer 3 = .ok (.invokestatic 29, 3) := dk_184 0 29 (dk_at dksX3_isPlayer_0 3 rfl rfl)
theorem dX3_isPlayer_6 : decode cX3_isPlayer 6 = .ok (.ireturn, 1) := dk_172 (dk_at dksX3_isPlayer_0 6 rfl rfl)
abbrev cX3_checks : ByteArray := prog_9_method_32_code
def yX3_checks : MethodName := ⟨RX3, "checks", "(III)I"⟩
def dkwX3_checks_6 : List UInt8 := [96, 79, 42, 182, 0, 91, 21, 6, 153, 0, 7, 4, 167, 0, 4, 3, 172]
abbrev dktX3_checks_6 : List UInt8 := dkwX3_checks_6 ++ []
def dkwX3_checks_5 : List UInt8 := [180, 0, 7, 16, 18, 27, 96, 92, 46, 4, 96, 79, 42, 180, 0, 7, 16, 24, 21, 5, 96, 92, 46, 4]
abbrev dktX3_checks_5 : List UInt8 := dkwX3_checks_5 ++ dktX3_checks_6
def dkwX3_checks_4 : List UInt8 := [92, 46, 4, 96, 79, 21, 6, 153, 0, 43, 42, 27, 21, 5, 42, 180, 0, 7, 6, 46, 182, 0, 111, 42]
abbrev dktX3_checks_4 : List UInt8 := dkwX3_checks_4 ++ dktX3_checks_5
def dkwX3_checks_3 : List UInt8 := [182, 0, 111, 42, 180, 0, 7, 16, 17, 92, 46, 21, 4, 128, 79, 42, 180, 0, 7, 16, 21, 21, 5, 96]
abbrev dktX3_checks_3 : List UInt8 := dkwX3_checks_3 ++ dktX3_checks_4
def dkwX3_checks_2 : List UInt8 := [167, 0, 4, 3, 159, 0, 7, 4, 167, 0, 4, 3, 54, 6, 42, 21, 5, 27, 42, 180, 0, 7, 5, 46]
abbrev dktX3_checks_2 : List UInt8 := dkwX3_checks_2 ++ dktX3_checks_3
def dkwX3_checks_1 : List UInt8 := [21, 4, 126, 153, 0, 7, 4, 167, 0, 4, 3, 42, 180, 0, 7, 3, 46, 21, 4, 126, 153, 0, 7, 4]
abbrev dktX3_checks_1 : List UInt8 := dkwX3_checks_1 ++ dktX3_checks_2
def dkwX3_checks_0 : List UInt8 := [4, 28, 29, 184, 0, 37, 120, 54, 4, 42, 182, 0, 87, 54, 5, 42, 180, 0, 7, 16, 11, 27, 96, 46]
abbrev dktX3_checks_0 : List UInt8 := dkwX3_checks_0 ++ dktX3_checks_1
theorem dksX3_checks_0 : cX3_checks.data.toList.drop 0 = dktX3_checks_0 := by decide +kernel
theorem dksX3_checks_1 : cX3_checks.data.toList.drop 24 = dktX3_checks_1 := dk_seg dksX3_checks_0 24 rfl rfl
theorem dksX3_checks_2 : cX3_checks.data.toList.drop 48 = dktX3_checks_2 := dk_seg dksX3_checks_1 24 rfl rfl
theorem dksX3_checks_3 : cX3_checks.data.toList.drop 72 = dktX3_checks_3 := dk_seg dksX3_checks_2 24 rfl rfl
theorem dksX3_checks_4 : cX3_checks.data.toList.drop 96 = dktX3_checks_4 := dk_seg dksX3_checks_3 24 rfl rfl
theorem dksX3_checks_5 : cX3_checks.data.toList.drop 120 = dktX3_checks_5 := dk_seg dksX3_checks_4 24 rfl rfl
theorem dksX3_checks_6 : cX3_checks.data.toList.drop 144 = dktX3_checks_6 := dk_seg dksX3_checks_5 24 rfl rfl
theorem dX3_checks_0 : decode cX3_checks 0 = .ok (.iconst 1, 1) := dk_4 (dk_at dksX3_checks_0 0 rfl rfl)
theorem dX3_checks_1 : decode cX3_checks 1 = .ok (.iload_n 2, 1) := dk_28 (dk_at dksX3_checks_0 1 rfl rfl)
theorem dX3_checks_2 : decode cX3_checks 2 = .ok (.iload_n 3, 1) := dk_29 (dk_at dksX3_checks_0 2 rfl rfl)
theorem dX3_checks_3 : decode cX3_checks 3 = .ok (.invokestatic 37, 3) := dk_184 0 37 (dk_at dksX3_checks_0 3 rfl rfl)
theorem dX3_checks_6 : decode cX3_checks 6 = .ok (.ishl, 1) := dk_120 (dk_at dksX3_checks_0 6 rfl rfl)
theorem dX3_checks_7 : decode cX3_checks 7 = .ok (.istore 4, 2) := dk_54 4 (dk_at dksX3_checks_0 7 rfl rfl)
theorem dX3_checks_9 : decode cX3_checks 9 = .ok (.aload_n 0, 1) := dk_42 (dk_at dksX3_checks_0 9 rfl rfl)
theorem dX3_checks_10 : decode cX3_checks 10 = .ok (.invokevirtual 87, 3) := dk_182 0 87 (dk_at dksX3_checks_0 10 rfl rfl)
theorem dX3_checks_13 : decode cX3_checks 13 = .ok (.istore 5, 2) := dk_54 5 (dk_at dksX3_checks_0 13 rfl rfl)
theorem dX3_checks_15 : decode cX3_checks 15 = .ok (.aload_n 0, 1) := dk_42 (dk_at dksX3_checks_0 15 rfl rfl)
theorem dX3_checks_16 : decode cX3_checks 16 = .ok (.getfield 7, 3) := dk_180 0 7 (dk_at dksX3_checks_0 16 rfl rfl)
theorem dX3_checks_19 : decode cX3_checks 19 = .ok (.bipush 11, 2) := dk_16 11 (dk_at dksX3_checks_0 19 rfl rfl)
theorem dX3_checks_21 : decode cX3_checks 21 = .ok (.iload_n 1, 1) := dk_27 (dk_at dksX3_checks_0 21 rfl rfl)
theorem dX3_checks_22 : decode cX3_checks 22 = .ok (.iadd, 1) := dk_96 (dk_at dksX3_checks_0 22 rfl rfl)
theorem dX3_checks_23 : decode cX3_checks 23 = .ok (.iaload, 1) := dk_46 (dk_at dksX3_checks_0 23 rfl rfl)
theorem dX3_checks_24 : decode cX3_checks 24 = .ok (.iload 4, 2) := dk_21 4 (dk_at dksX3_checks_1 0 rfl rfl)
theorem dX3_checks_26 : decode cX3_checks 26 = .ok (.iand, 1) := dk_126 (dk_at dksX3_checks_1 2 rfl rfl)
theorem dX3_checks_27 : decode cX3_checks 27 = .ok (.ifCond .eq 7, 3) := dk_153 0 7 (dk_at dksX3_checks_1 3 rfl rfl)
theorem dX3_checks_30 : decode cX3_checks 30 = .ok (.iconst 1, 1) := dk_4 (dk_at dksX3_checks_1 6 rfl rfl)
theorem dX3_checks_31 : decode cX3_checks 31 = .ok (.goto 4, 3) := dk_167 0 4 (dk_at dksX3_checks_1 7 rfl rfl)
theorem dX3_checks_34 : decode cX3_checks 34 = .ok (.iconst 0, 1) := dk_3 (dk_at dksX3_checks_1 10 rfl rfl)
theorem dX3_checks_35 : decode cX3_checks 35 = .ok (.aload_n 0, 1) := dk_42 (dk_at dksX3_checks_1 11 rfl rfl)
theorem dX3_checks_36 : decode cX3_checks 36 = .ok (.getfield 7, 3) := dk_180 0 7 (dk_at dksX3_checks_1 12 rfl rfl)
theorem dX3_checks_39 : decode cX3_checks 39 = .ok (.iconst 0, 1) := dk_3 (dk_at dksX3_checks_1 15 rfl rfl)
theorem dX3_checks_40 : decode cX3_checks 40 = .ok (.iaload, 1) := dk_46 (dk_at dksX3_checks_1 16 rfl rfl)
theorem dX3_checks_41 : decode cX3_checks 41 = .ok (.iload 4, 2) := dk_21 4 (dk_at dksX3_checks_1 17 rfl rfl)
theorem dX3_checks_43 : decode cX3_checks 43 = .ok (.iand, 1) := dk_126 (dk_at dksX3_checks_1 19 rfl rfl)
theorem dX3_checks_44 : decode cX3_checks 44 = .ok (.ifCond .eq 7, 3) := dk_153 0 7 (dk_at dksX3_checks_1 20 rfl rfl)
theorem dX3_checks_47 : decode cX3_checks 47 = .ok (.iconst 1, 1) := dk_4 (dk_at dksX3_checks_1 23 rfl rfl)
theorem dX3_checks_48 : decode cX3_checks 48 = .ok (.goto 4, 3) := dk_167 0 4 (dk_at dksX3_checks_2 0 rfl rfl)
theorem dX3_checks_51 : decode cX3_checks 51 = .ok (.iconst 0, 1) := dk_3 (dk_at dksX3_checks_2 3 rfl rfl)
theorem dX3_checks_52 : decode cX3_checks 52 = .ok (.if_icmp .eq 7, 3) := dk_159 0 7 (dk_at dksX3_checks_2 4 rfl rfl)
theorem dX3_checks_55 : decode cX3_checks 55 = .ok (.iconst 1, 1) := dk_4 (dk_at dksX3_checks_2 7 rfl rfl)
theorem dX3_checks_56 : decode cX3_checks 56 = .ok (.goto 4, 3) := dk_167 0 4 (dk_at dksX3_checks_2 8 rfl rfl)
theorem dX3_checks_59 : decode cX3_checks 59 = .ok (.iconst 0, 1) := dk_3 (dk_at dksX3_checks_2 11 rfl rfl)
theorem dX3_checks_60 : decode cX3_checks 60 = .ok (.istore 6, 2) := dk_54 6 (dk_at dksX3_checks_2 12 rfl rfl)
theorem dX3_checks_62 : decode cX3_checks 62 = .ok (.aload_n 0, 1) := dk_42 (dk_at dksX3_checks_2 14 rfl rfl)
theorem dX3_checks_63 : decode cX3_checks 63 = .ok (.iload 5, 2) := dk_21 5 (dk_at dksX3_checks_2 15 rfl rfl)
theorem dX3_checks_65 : decode cX3_checks 65 = .ok (.iload_n 1, 1) := dk_27 (dk_at dksX3_checks_2 17 rfl rfl)
theorem dX3_checks_66 : decode cX3_checks 66 = .ok (.aload_n 0, 1) := dk_42 (dk_at dksX3_checks_2 18 rfl rfl)
theorem dX3_checks_67 : decode cX3_checks 67 = .ok (.getfield 7, 3) := dk_180 0 7 (dk_at dksX3_checks_2 19 rfl rfl)
theorem dX3_checks_70 : decode cX3_checks 70 = .ok (.iconst 2, 1) := dk_5 (dk_at dksX3_checks_2 22 rfl rfl)
theorem dX3_checks_71 : decode cX3_checks 71 = .ok (.iaload, 1) := dk_46 (dk_at dksX3_checks_2 23 rfl rfl)
theorem dX3_checks_72 : decode cX3_checks 72 = .ok (.invokevirtual 111, 3) := dk_182 0 111 (dk_at dksX3_checks_3 0 rfl rfl)
theorem dX3_checks_75 : decode cX3_checks 75 = .ok (.aload_n 0, 1) := dk_42 (dk_at dksX3_checks_3 3 rfl rfl)
theorem dX3_checks_76 : decode cX3_checks 76 = .ok (.getfield 7, 3) := dk_180 0 7 (dk_at dksX3_checks_3 4 rfl rfl)
theorem dX3_checks_79 : decode cX3_checks 79 = .ok (.bipush 17, 2) := dk_16 17 (dk_at dksX3_checks_3 7 rfl rfl)
theorem dX3_checks_81 : decode cX3_checks 81 = .ok (.dup2, 1) := dk_92 (dk_at dksX3_checks_3 9 rfl rfl)
theorem dX3_checks_82 : decode cX3_checks 82 = .ok (.iaload, 1) := dk_46 (dk_at dksX3_checks_3 10 rfl rfl)
theorem dX3_checks_83 : decode cX3_checks 83 = .ok (.iload 4, 2) := dk_21 4 (dk_at dksX3_checks_3 11 rfl rfl)
theorem dX3_checks_85 : decode cX3_checks 85 = .ok (.ior, 1) := dk_128 (dk_at dksX3_checks_3 13 rfl rfl)
theorem dX3_checks_86 : decode cX3_checks 86 = .ok (.iastore, 1) := dk_79 (dk_at dksX3_checks_3 14 rfl rfl)
theorem dX3_checks_87 : decode cX3_checks 87 = .ok (.aload_n 0, 1) := dk_42 (dk_at dksX3_checks_3 15 rfl rfl)
theorem dX3_checks_88 : decode cX3_checks 88 = .ok (.getfield 7, 3) := dk_180 0 7 (dk_at dksX3_checks_3 16 rfl rfl)
theorem dX3_checks_91 : decode cX3_checks 91 = .ok (.bipush 21, 2) := dk_16 21 (dk_at dksX3_checks_3 19 rfl rfl)
theorem dX3_checks_93 : decode cX3_checks 93 = .ok (.iload 5, 2) := dk_21 5 (dk_at dksX3_checks_3 21 rfl rfl)
theorem dX3_checks_95 : decode cX3_checks 95 = .ok (.iadd, 1) := dk_96 (dk_at dksX3_checks_3 23 rfl rfl)
theorem dX3_checks_96 : decode cX3_checks 96 = .ok (.dup2, 1) := dk_92 (dk_at dksX3_checks_4 0 rfl rfl)
theorem dX3_checks_97 : decode cX3_checks 97 = .ok (.iaload, 1) := dk_46 (dk_at dksX3_checks_4 1 rfl rfl)
theorem dX3_checks_98 : decode cX3_checks 98 = .ok (.iconst 1, 1) := dk_4 (dk_at dksX3_checks_4 2 rfl rfl)
theorem dX3_checks_99 : decode cX3_checks 99 = .ok (.iadd, 1) := dk_96 (dk_at dksX3_checks_4 3 rfl rfl)
theorem dX3_checks_100 : decode cX3_checks 100 = .ok (.iastore, 1) := dk_79 (dk_at dksX3_checks_4 4 rfl rfl)
theorem dX3_checks_101 : decode cX3_checks 101 = .ok (.iload 6, 2) := dk_21 6 (dk_at dksX3_checks_4 5 rfl rfl)
theorem dX3_checks_103 : decode cX3_checks 103 = .ok (.ifCond .eq 43, 3) := dk_153 0 43 (dk_at dksX3_checks_4 7 rfl rfl)
theorem dX3_checks_106 : decode cX3_checks 106 = .ok (.aload_n 0, 1) := dk_42 (dk_at dksX3_checks_4 10 rfl rfl)
theorem dX3_checks_107 : decode cX3_checks 107 = .ok (.iload_n 1, 1) := dk_27 (dk_at dksX3_checks_4 11 rfl rfl)
theorem dX3_checks_108 : decode cX3_checks 108 = .ok (.iload 5, 2) := dk_21 5 (dk_at dksX3_checks_4 12 rfl rfl)
theorem dX3_checks_110 : decode cX3_checks 110 = .ok (.aload_n 0, 1) := dk_42 (dk_at dksX3_checks_4 14 rfl rfl)
theorem dX3_checks_111 : decode cX3_checks 111 = .ok (.getfield 7, 3) := dk_180 0 7 (dk_at dksX3_checks_4 15 rfl rfl)
theorem dX3_checks_114 : decode cX3_checks 114 = .ok (.iconst 3, 1) := dk_6 (dk_at dksX3_checks_4 18 rfl rfl)
theorem dX3_checks_115 : decode cX3_checks 115 = .ok (.iaload, 1) := dk_46 (dk_at dksX3_checks_4 19 rfl rfl)
theorem dX3_checks_116 : decode cX3_checks 116 = .ok (.invokevirtual 111, 3) := dk_182 0 111 (dk_at dksX3_checks_4 20 rfl rfl)
theorem dX3_checks_119 : decode cX3_checks 119 = .ok (.aload_n 0, 1) := dk_42 (dk_at dksX3_checks_4 23 rfl rfl)
theorem dX3_checks_120 : decode cX3_checks 120 = .ok (.getfield 7, 3) := dk_180 0 7 (dk_at dksX3_checks_5 0 rfl rfl)
theorem dX3_checks_123 : decode cX3_checks 123 = .ok (.bipush 18, 2) := dk_16 18 (dk_at dksX3_checks_5 3 rfl rfl)
theorem dX3_checks_125 : decode cX3_checks 125 = .ok (.iload_n 1, 1) := dk_27 (dk_at dksX3_checks_5 5 rfl rfl)
theorem dX3_checks_126 : decode cX3_checks 126 = .ok (.iadd, 1) := dk_96 (dk_at dksX3_checks_5 6 rfl rfl)
theorem dX3_checks_127 : decode cX3_checks 127 = .ok (.dup2, 1) := dk_92 (dk_at dksX3_checks_5 7 rfl rfl)
theorem dX3_checks_128 : decode cX3_checks 128 = .ok (.iaload, 1) := dk_46 (dk_at dksX3_checks_5 8 rfl rfl)
theorem dX3_checks_129 : decode cX3_checks 129 = .ok (.iconst 1, 1) := dk_4 (dk_at dksX3_checks_5 9 rfl rfl)
theorem dX3_checks_130 : decode cX3_checks 130 = .ok (.iadd, 1) := dk_96 (dk_at dksX3_checks_5 10 rfl rfl)
theorem dX3_checks_131 : decode cX3_checks 131 = .ok (.iastore, 1) := dk_79 (dk_at dksX3_checks_5 11 rfl rfl)
theorem dX3_checks_132 : decode cX3_checks 132 = .ok (.aload_n 0, 1) := dk_42 (dk_at dksX3_checks_5 12 rfl rfl)
theorem dX3_checks_133 : decode cX3_checks 133 = .ok (.getfield 7, 3) := dk_180 0 7 (dk_at dksX3_checks_5 13 rfl rfl)
theorem dX3_checks_136 : decode cX3_checks 136 = .ok (.bipush 24, 2) := dk_16 24 (dk_at dksX3_checks_5 16 rfl rfl)
theorem dX3_checks_138 : decode cX3_checks 138 = .ok (.iload 5, 2) := dk_21 5 (dk_at dksX3_checks_5 18 rfl rfl)
theorem dX3_checks_140 : decode cX3_checks 140 = .ok (.iadd, 1) := dk_96 (dk_at dksX3_checks_5 20 rfl rfl)
theorem dX3_checks_141 : decode cX3_checks 141 = .ok (.dup2, 1) := dk_92 (dk_at dksX3_checks_5 21 rfl rfl)
theorem dX3_checks_142 : decode cX3_checks 142 = .ok (.iaload, 1) := dk_46 (dk_at dksX3_checks_5 22 rfl rfl)
theorem dX3_checks_143 : decode cX3_checks 143 = .ok (.iconst 1, 1) := dk_4 (dk_at dksX3_checks_5 23 rfl rfl)
theorem dX3_checks_144 : decode cX3_checks 144 = .ok (.iadd, 1) := dk_96 (dk_at dksX3_checks_6 0 rfl rfl)
theorem dX3_checks_145 : decode cX3_checks 145 = .ok (.iastore, 1) := dk_79 (dk_at dksX3_checks_6 1 rfl rfl)
theorem dX3_checks_146 : decode cX3_checks 146 = .ok (.aload_n 0, 1) := dk_42 (dk_at dksX3_checks_6 2 rfl rfl)
theorem dX3_checks_147 : decode cX3_checks 147 = .ok (.invokevirtual 91, 3) := dk_182 0 91 (dk_at dksX3_checks_6 3 rfl rfl)
theorem dX3_checks_150 : decode cX3_checks 150 = .ok (.iload 6, 2) := dk_21 6 (dk_at dksX3_checks_6 6 rfl rfl)
theorem dX3_checks_152 : decode cX3_checks 152 = .ok (.ifCond .eq 7, 3) := dk_153 0 7 (dk_at dksX3_checks_6 8 rfl rfl)
theorem dX3_checks_155 : decode cX3_checks 155 = .ok (.iconst 1, 1) := dk_4 (dk_at dksX3_checks_6 11 rfl rfl)
theorem dX3_checks_156 : decode cX3_checks 156 = .ok (.goto 4, 3) := dk_167 0 4 (dk_at dksX3_checks_6 12 rfl rfl)
theorem dX3_checks_159 : decode cX3_checks 159 = .ok (.iconst 0, 1) := dk_3 (dk_at dksX3_checks_6 15 rfl rfl)
theorem dX3_checks_160 : decode cX3_checks 160 = .ok (.ireturn, 1) := dk_172 (dk_at dksX3_checks_6 16 rfl rfl)
abbrev cX3_pays : ByteArray := prog_9_method_31_code
def yX3_pays : MethodName := ⟨RX3, "pays", "(III)V"⟩
def dkwX3_pays_2 : List UInt8 := [182, 0, 107, 177]
abbrev dktX3_pays_2 : List UInt8 := dkwX3_pays_2 ++ []
def dkwX3_pays_1 : List UInt8 := [167, 0, 4, 29, 54, 4, 42, 180, 0, 7, 16, 8, 27, 96, 92, 46, 21, 4, 100, 79, 42, 28, 21, 4]
abbrev dktX3_pays_1 : List UInt8 := dkwX3_pays_1 ++ dktX3_pays_2
def dkwX3_pays_0 : List UInt8 := [42, 180, 0, 7, 16, 8, 27, 96, 46, 29, 162, 0, 15, 42, 180, 0, 7, 16, 8, 27, 96, 46]
abbrev dktX3_pays_0 : List UInt8 := dkwX3_pays_0 ++ dktX3_pays_1
theorem dksX3_pays_0 : cX3_pays.data.toList.drop 0 = dktX3_pays_0 := by decide +kernel
theorem dksX3_pays_1 : cX3_pays.data.toList.drop 22 = dktX3_pays_1 := dk_seg dksX3_pays_0 22 rfl rfl
theorem dksX3_pays_2 : cX3_pays.data.toList.drop 46 = dktX3_pays_2 := dk_seg dksX3_pays_1 24 rfl rfl
theorem dX3_pays_0 : decode cX3_pays 0 = .ok (.aload_n 0, 1) := dk_42 (dk_at dksX3_pays_0 0 rfl rfl)
theorem dX3_pays_1 : decode cX3_pays 1 = .ok (.getfield 7, 3) := dk_180 0 7 (dk_at dksX3_pays_0 1 rfl rfl)
theorem dX3_pays_4 : decode cX3_pays 4 = .ok (.bipush 8, 2) := dk_16 8 (dk_at dksX3_pays_0 4 rfl rfl)
theorem dX3_pays_6 : decode cX3_pays 6 = .ok (.iload_n 1, 1) := dk_27 (dk_at dksX3_pays_0 6 rfl rfl)
theorem dX3_pays_7 : decode cX3_pays 7 = .ok (.iadd, 1) := dk_96 (dk_at dksX3_pays_0 7 rfl rfl)
theorem dX3_pays_8 : decode cX3_pays 8 = .ok (.iaload, 1) := dk_46 (dk_at dksX3_pays_0 8 rfl rfl)
theorem dX3_pays_9 : decode cX3_pays 9 = .ok (.iload_n 3, 1) := dk_29 (dk_at dksX3_pays_0 9 rfl rfl)
theorem dX3_pays_10 : decode cX3_pays 10 = .ok (.if_icmp .ge 15, 3) := dk_162 0 15 (dk_at dksX3_pays_0 10 rfl rfl)
theorem dX3_pays_13 : decode cX3_pays 13 = .ok (.aload_n 0, 1) := dk_42 (dk_at dksX3_pays_0 13 rfl rfl)
theorem dX3_pays_14 : decode cX3_pays 14 = .ok (.getfield 7, 3) := dk_180 0 7 (dk_at dksX3_pays_0 14 rfl rfl)
theorem dX3_pays_17 : decode cX3_pays 17 = .ok (.bipush 8, 2) := dk_16 8 (dk_at dksX3_pays_0 17 rfl rfl)
theorem dX3_pays_19 : decode cX3_pays 19 = .ok (.iload_n 1, 1) := dk_27 (dk_at dksX3_pays_0 19 rfl rfl)
theorem dX3_pays_20 : decode cX3_pays 20 = .ok (.iadd, 1) := dk_96 (dk_at dksX3_pays_0 20 rfl rfl)
theorem dX3_pays_21 : decode cX3_pays 21 = .ok (.iaload, 1) := dk_46 (dk_at dksX3_pays_0 21 rfl rfl)
theorem dX3_pays_22 : decode cX3_pays 22 = .ok (.goto 4, 3) := dk_167 0 4 (dk_at dksX3_pays_1 0 rfl rfl)
theorem dX3_pays_25 : decode cX3_pays 25 = .ok (.iload_n 3, 1) := dk_29 (dk_at dksX3_pays_1 3 rfl rfl)
theorem dX3_pays_26 : decode cX3_pays 26 = .ok (.istore 4, 2) := dk_54 4 (dk_at dksX3_pays_1 4 rfl rfl)
theorem dX3_pays_28 : decode cX3_pays 28 = .ok (.aload_n 0, 1) := dk_42 (dk_at dksX3_pays_1 6 rfl rfl)
theorem dX3_pays_29 : decode cX3_pays 29 = .ok (.getfield 7, 3) := dk_180 0 7 (dk_at dksX3_pays_1 7 rfl rfl)
theorem dX3_pays_32 : decode cX3_pays 32 = .ok (.bipush 8, 2) := dk_16 8 (dk_at dksX3_pays_1 10 rfl rfl)
theorem dX3_pays_34 : decode cX3_pays 34 = .ok (.iload_n 1, 1) := dk_27 (dk_at dksX3_pays_1 12 rfl rfl)
theorem dX3_pays_35 : decode cX3_pays 35 = .ok (.iadd, 1) := dk_96 (dk_at dksX3_pays_1 13 rfl rfl)
theorem dX3_pays_36 : decode cX3_pays 36 = .ok (.dup2, 1) := dk_92 (dk_at dksX3_pays_1 14 rfl rfl)
theorem dX3_pays_37 : decode cX3_pays 37 = .ok (.iaload, 1) := dk_46 (dk_at dksX3_pays_1 15 rfl rfl)
theorem dX3_pays_38 : decode cX3_pays 38 = .ok (.iload 4, 2) := dk_21 4 (dk_at dksX3_pays_1 16 rfl rfl)
theorem dX3_pays_40 : decode cX3_pays 40 = .ok (.isub, 1) := dk_100 (dk_at dksX3_pays_1 18 rfl rfl)
theorem dX3_pays_41 : decode cX3_pays 41 = .ok (.iastore, 1) := dk_79 (dk_at dksX3_pays_1 19 rfl rfl)
theorem dX3_pays_42 : decode cX3_pays 42 = .ok (.aload_n 0, 1) := dk_42 (dk_at dksX3_pays_1 20 rfl rfl)
theorem dX3_pays_43 : decode cX3_pays 43 = .ok (.iload_n 2, 1) := dk_28 (dk_at dksX3_pays_1 21 rfl rfl)
theorem dX3_pays_44 : decode cX3_pays 44 = .ok (.iload 4, 2) := dk_21 4 (dk_at dksX3_pays_1 22 rfl rfl)
theorem dX3_pays_46 : decode cX3_pays 46 = .ok (.invokevirtual 107, 3) := dk_182 0 107 (dk_at dksX3_pays_2 0 rfl rfl)
theorem dX3_pays_49 : decode cX3_pays 49 = .ok (.return_, 1) := dk_177 (dk_at dksX3_pays_2 3 rfl rfl)
abbrev cX3_gets : ByteArray := prog_9_method_25_code
def yX3_gets : MethodName := ⟨RX3, "gets", "(II)V"⟩
def dkwX3_gets_1 : List UInt8 := [164, 0, 9, 17, 39, 15, 167, 0, 14, 42, 180, 0, 7, 16, 8, 27, 96, 46, 28, 96, 79, 177]
abbrev dktX3_gets_1 : List UInt8 := dkwX3_gets_1 ++ []
def dkwX3_gets_0 : List UInt8 := [42, 180, 0, 7, 16, 8, 27, 96, 42, 180, 0, 7, 16, 8, 27, 96, 46, 28, 96, 17, 39, 15]
abbrev dktX3_gets_0 : List UInt8 := dkwX3_gets_0 ++ dktX3_gets_1
theorem dksX3_gets_0 : cX3_gets.data.toList.drop 0 = dktX3_gets_0 := by decide +kernel
theorem dksX3_gets_1 : cX3_gets.data.toList.drop 22 = dktX3_gets_1 := dk_seg dksX3_gets_0 22 rfl rfl
theorem dX3_gets_0 : decode cX3_gets 0 = .ok (.aload_n 0, 1) := dk_42 (dk_at dksX3_gets_0 0 rfl rfl)
theorem dX3_gets_1 : decode cX3_gets 1 = .ok (.getfield 7, 3) := dk_180 0 7 (dk_at dksX3_gets_0 1 rfl rfl)
theorem dX3_gets_4 : decode cX3_gets 4 = .ok (.bipush 8, 2) := dk_16 8 (dk_at dksX3_gets_0 4 rfl rfl)
theorem dX3_gets_6 : decode cX3_gets 6 = .ok (.iload_n 1, 1) := dk_27 (dk_at dksX3_gets_0 6 rfl rfl)
theorem dX3_gets_7 : decode cX3_gets 7 = .ok (.iadd, 1) := dk_96 (dk_at dksX3_gets_0 7 rfl rfl)
theorem dX3_gets_8 : decode cX3_gets 8 = .ok (.aload_n 0, 1) := dk_42 (dk_at dksX3_gets_0 8 rfl rfl)
theorem dX3_gets_9 : decode cX3_gets 9 = .ok (.getfield 7, 3) := dk_180 0 7 (dk_at dksX3_gets_0 9 rfl rfl)
theorem dX3_gets_12 : decode cX3_gets 12 = .ok (.bipush 8, 2) := dk_16 8 (dk_at dksX3_gets_0 12 rfl rfl)
theorem dX3_gets_14 : decode cX3_gets 14 = .ok (.iload_n 1, 1) := dk_27 (dk_at dksX3_gets_0 14 rfl rfl)
theorem dX3_gets_15 : decode cX3_gets 15 = .ok (.iadd, 1) := dk_96 (dk_at dksX3_gets_0 15 rfl rfl)
theorem dX3_gets_16 : decode cX3_gets 16 = .ok (.iaload, 1) := dk_46 (dk_at dksX3_gets_0 16 rfl rfl)
theorem dX3_gets_17 : decode cX3_gets 17 = .ok (.iload_n 2, 1) := dk_28 (dk_at dksX3_gets_0 17 rfl rfl)
theorem dX3_gets_18 : decode cX3_gets 18 = .ok (.iadd, 1) := dk_96 (dk_at dksX3_gets_0 18 rfl rfl)
theorem dX3_gets_19 : decode cX3_gets 19 = .ok (.sipush 9999, 3) := dk_17 39 15 (dk_at dksX3_gets_0 19 rfl rfl)
theorem dX3_gets_22 : decode cX3_gets 22 = .ok (.if_icmp .le 9, 3) := dk_164 0 9 (dk_at dksX3_gets_1 0 rfl rfl)
theorem dX3_gets_25 : decode cX3_gets 25 = .ok (.sipush 9999, 3) := dk_17 39 15 (dk_at dksX3_gets_1 3 rfl rfl)
theorem dX3_gets_28 : decode cX3_gets 28 = .ok (.goto 14, 3) := dk_167 0 14 (dk_at dksX3_gets_1 6 rfl rfl)
theorem dX3_gets_31 : decode cX3_gets 31 = .ok (.aload_n 0, 1) := dk_42 (dk_at dksX3_gets_1 9 rfl rfl)
theorem dX3_gets_32 : decode cX3_gets 32 = .ok (.getfield 7, 3) := dk_180 0 7 (dk_at dksX3_gets_1 10 rfl rfl)
theorem dX3_gets_35 : decode cX3_gets 35 = .ok (.bipush 8, 2) := dk_16 8 (dk_at dksX3_gets_1 13 rfl rfl)
theorem dX3_gets_37 : decode cX3_gets 37 = .ok (.iload_n 1, 1) := dk_27 (dk_at dksX3_gets_1 15 rfl rfl)
theorem dX3_gets_38 : decode cX3_gets 38 = .ok (.iadd, 1) := dk_96 (dk_at dksX3_gets_1 16 rfl rfl)
theorem dX3_gets_39 : decode cX3_gets 39 = .ok (.iaload, 1) := dk_46 (dk_at dksX3_gets_1 17 rfl rfl)
theorem dX3_gets_40 : decode cX3_gets 40 = .ok (.iload_n 2, 1) := dk_28 (dk_at dksX3_gets_1 18 rfl rfl)
theorem dX3_gets_41 : decode cX3_gets 41 = .ok (.iadd, 1) := dk_96 (dk_at dksX3_gets_1 19 rfl rfl)
theorem dX3_gets_42 : decode cX3_gets 42 = .ok (.iastore, 1) := dk_79 (dk_at dksX3_gets_1 20 rfl rfl)
theorem dX3_gets_43 : decode cX3_gets 43 = .ok (.return_, 1) := dk_177 (dk_at dksX3_gets_1 21 rfl rfl)
abbrev cX3_dig : ByteArray := prog_9_method_36_code
def yX3_dig : MethodName := ⟨RX3, "dig", "(I)I"⟩
def dkwX3_dig_0 : List UInt8 := [42, 27, 182, 0, 124, 61, 28, 156, 0, 5, 28, 172, 42, 182, 0, 64, 42, 27, 182, 0, 127, 172]
abbrev dktX3_dig_0 : List UInt8 := dkwX3_dig_0 ++ []
theorem dksX3_dig_0 : cX3_dig.data.toList.drop 0 = dktX3_dig_0 := by decide +kernel
theorem dX3_dig_0 : decode cX3_dig 0 = .ok (.aload_n 0, 1) := dk_42 (dk_at dksX3_dig_0 0 rfl rfl)
theorem dX3_dig_1 : decode cX3_dig 1 = .ok (.iload_n 1, 1) := dk_27 (dk_at dksX3_dig_0 1 rfl rfl)
theorem dX3_dig_2 : decode cX3_dig 2 = .ok (.invokevirtual 124, 3) := dk_182 0 124 (dk_at dksX3_dig_0 2 rfl rfl)
theorem dX3_dig_5 : decode cX3_dig 5 = .ok (.istore_n 2, 1) := dk_61 (dk_at dksX3_dig_0 5 rfl rfl)
theorem dX3_dig_6 : decode cX3_dig 6 = .ok (.iload_n 2, 1) := dk_28 (dk_at dksX3_dig_0 6 rfl rfl)
theorem dX3_dig_7 : decode cX3_dig 7 = .ok (.ifCond .ge 5, 3) := dk_156 0 5 (dk_at dksX3_dig_0 7 rfl rfl)
theorem dX3_dig_10 : decode cX3_dig 10 = .ok (.iload_n 2, 1) := dk_28 (dk_at dksX3_dig_0 10 rfl rfl)
theorem dX3_dig_11 : decode cX3_dig 11 = .ok (.ireturn, 1) := dk_172 (dk_at dksX3_dig_0 11 rfl rfl)
theorem dX3_dig_12 : decode cX3_dig 12 = .ok (.aload_n 0, 1) := dk_42 (dk_at dksX3_dig_0 12 rfl rfl)
theorem dX3_dig_13 : decode cX3_dig 13 = .ok (.invokevirtual 64, 3) := dk_182 0 64 (dk_at dksX3_dig_0 13 rfl rfl)
theorem dX3_dig_16 : decode cX3_dig 16 = .ok (.aload_n 0, 1) := dk_42 (dk_at dksX3_dig_0 16 rfl rfl)
theorem dX3_dig_17 : decode cX3_dig 17 = .ok (.iload_n 1, 1) := dk_27 (dk_at dksX3_dig_0 17 rfl rfl)
theorem dX3_dig_18 : decode cX3_dig 18 = .ok (.invokevirtual 127, 3) := dk_182 0 127 (dk_at dksX3_dig_0 18 rfl rfl)
theorem dX3_dig_21 : decode cX3_dig 21 = .ok (.ireturn, 1) := dk_172 (dk_at dksX3_dig_0 21 rfl rfl)
abbrev cX3_barDig : ByteArray := prog_9_method_34_code
def yX3_barDig : MethodName := ⟨RX3, "barDig", "(I)I"⟩
def dkwX3_barDig_1 : List UInt8 := [42, 182, 0, 87, 96, 46, 42, 180, 0, 7, 7, 46, 162, 0, 8, 16, 251, 167, 0, 4, 3, 172]
abbrev dktX3_barDig_1 : List UInt8 := dkwX3_barDig_1 ++ []
def dkwX3_barDig_0 : List UInt8 := [27, 184, 0, 67, 154, 0, 7, 2, 167, 0, 37, 42, 182, 0, 84, 153, 0, 24, 42, 180, 0, 7, 16, 8]
abbrev dktX3_barDig_0 : List UInt8 := dkwX3_barDig_0 ++ dktX3_barDig_1
theorem dksX3_barDig_0 : cX3_barDig.data.toList.drop 0 = dktX3_barDig_0 := by decide +kernel
theorem dksX3_barDig_1 : cX3_barDig.data.toList.drop 24 = dktX3_barDig_1 := dk_seg dksX3_barDig_0 24 rfl rfl
theorem dX3_barDig_0 : decode cX3_barDig 0 = .ok (.iload_n 1, 1) := dk_27 (dk_at dksX3_barDig_0 0 rfl rfl)
theorem dX3_barDig_1 : decode cX3_barDig 1 = .ok (.invokestatic 67, 3) := dk_184 0 67 (dk_at dksX3_barDig_0 1 rfl rfl)
theorem dX3_barDig_4 : decode cX3_barDig 4 = .ok (.ifCond .ne 7, 3) := dk_154 0 7 (dk_at dksX3_barDig_0 4 rfl rfl)
theorem dX3_barDig_7 : decode cX3_barDig 7 = .ok (.iconst (-1), 1) := dk_2 (dk_at dksX3_barDig_0 7 rfl rfl)
theorem dX3_barDig_8 : decode cX3_barDig 8 = .ok (.goto 37, 3) := dk_167 0 37 (dk_at dksX3_barDig_0 8 rfl rfl)
theorem dX3_barDig_11 : decode cX3_barDig 11 = .ok (.aload_n 0, 1) := dk_42 (dk_at dksX3_barDig_0 11 rfl rfl)
theorem dX3_barDig_12 : decode cX3_barDig 12 = .ok (.invokevirtual 84, 3) := dk_182 0 84 (dk_at dksX3_barDig_0 12 rfl rfl)
theorem dX3_barDig_15 : decode cX3_barDig 15 = .ok (.ifCond .eq 24, 3) := dk_153 0 24 (dk_at dksX3_barDig_0 15 rfl rfl)
theorem dX3_barDig_18 : decode cX3_barDig 18 = .ok (.aload_n 0, 1) := dk_42 (dk_at dksX3_barDig_0 18 rfl rfl)
theorem dX3_barDig_19 : decode cX3_barDig 19 = .ok (.getfield 7, 3) := dk_180 0 7 (dk_at dksX3_barDig_0 19 rfl rfl)
theorem dX3_barDig_22 : decode cX3_barDig 22 = .ok (.bipush 8, 2) := dk_16 8 (dk_at dksX3_barDig_0 22 rfl rfl)
theorem dX3_barDig_24 : decode cX3_barDig 24 = .ok (.aload_n 0, 1) := dk_42 (dk_at dksX3_barDig_1 0 rfl rfl)
theorem dX3_barDig_25 : decode cX3_barDig 25 = .ok (.invokevirtual 87, 3) := dk_182 0 87 (dk_at dksX3_barDig_1 1 rfl rfl)
theorem dX3_barDig_28 : decode cX3_barDig 28 = .ok (.iadd, 1) := dk_96 (dk_at dksX3_barDig_1 4 rfl rfl)
theorem dX3_barDig_29 : decode cX3_barDig 29 = .ok (.iaload, 1) := dk_46 (dk_at dksX3_barDig_1 5 rfl rfl)
theorem dX3_barDig_30 : decode cX3_barDig 30 = .ok (.aload_n 0, 1) := dk_42 (dk_at dksX3_barDig_1 6 rfl rfl)
theorem dX3_barDig_31 : decode cX3_barDig 31 = .ok (.getfield 7, 3) := dk_180 0 7 (dk_at dksX3_barDig_1 7 rfl rfl)
theorem dX3_barDig_34 : decode cX3_barDig 34 = .ok (.iconst 4, 1) := dk_7 (dk_at dksX3_barDig_1 10 rfl rfl)
theorem dX3_barDig_35 : decode cX3_barDig 35 = .ok (.iaload, 1) := dk_46 (dk_at dksX3_barDig_1 11 rfl rfl)
theorem dX3_barDig_36 : decode cX3_barDig 36 = .ok (.if_icmp .ge 8, 3) := dk_162 0 8 (dk_at dksX3_barDig_1 12 rfl rfl)
theorem dX3_barDig_39 : decode cX3_barDig 39 = .ok (.bipush (-5), 2) := dk_16 251 (dk_at dksX3_barDig_1 15 rfl rfl)
theorem dX3_barDig_41 : decode cX3_barDig 41 = .ok (.goto 4, 3) := dk_167 0 4 (dk_at dksX3_barDig_1 17 rfl rfl)
theorem dX3_barDig_44 : decode cX3_barDig 44 = .ok (.iconst 0, 1) := dk_3 (dk_at dksX3_barDig_1 20 rfl rfl)
theorem dX3_barDig_45 : decode cX3_barDig 45 = .ok (.ireturn, 1) := dk_172 (dk_at dksX3_barDig_1 21 rfl rfl)
abbrev cX3_digs : ByteArray := prog_9_method_35_code
def yX3_digs : MethodName := ⟨RX3, "digs", "(I)I"⟩
def dkwX3_digs_5 : List UInt8 := [5, 79, 29, 172]
abbrev dktX3_digs_5 : List UInt8 := dkwX3_digs_5 ++ []
def dkwX3_digs_4 : List UInt8 := [28, 42, 180, 0, 7, 8, 46, 182, 0, 107, 42, 180, 0, 7, 16, 30, 28, 79, 42, 180, 0, 7, 16, 6]
abbrev dktX3_digs_4 : List UInt8 := dkwX3_digs_4 ++ dktX3_digs_5
def dkwX3_digs_3 : List UInt8 := [182, 0, 121, 42, 180, 0, 26, 42, 180, 0, 7, 4, 46, 46, 62, 42, 182, 0, 91, 29, 154, 0, 30, 42]
abbrev dktX3_digs_3 : List UInt8 := dkwX3_digs_3 ++ dktX3_digs_4
def dkwX3_digs_2 : List UInt8 := [46, 96, 27, 79, 42, 180, 0, 7, 16, 31, 92, 46, 4, 96, 79, 42, 27, 42, 180, 0, 7, 3, 46]
abbrev dktX3_digs_2 : List UInt8 := dkwX3_digs_2 ++ dktX3_digs_3
def dkwX3_digs_1 : List UInt8 := [180, 0, 7, 16, 27, 28, 96, 92, 46, 4, 96, 79, 42, 180, 0, 7, 16, 32, 42, 180, 0, 7, 16, 31]
abbrev dktX3_digs_1 : List UInt8 := dkwX3_digs_1 ++ dktX3_digs_2
def dkwX3_digs_0 : List UInt8 := [42, 182, 0, 87, 61, 42, 180, 0, 7, 16, 8, 28, 96, 92, 46, 42, 180, 0, 7, 7, 46, 100, 79, 42]
abbrev dktX3_digs_0 : List UInt8 := dkwX3_digs_0 ++ dktX3_digs_1
theorem dksX3_digs_0 : cX3_digs.data.toList.drop 0 = dktX3_digs_0 := by decide +kernel
theorem dksX3_digs_1 : cX3_digs.data.toList.drop 24 = dktX3_digs_1 := dk_seg dksX3_digs_0 24 rfl rfl
theorem dksX3_digs_2 : cX3_digs.data.toList.drop 48 = dktX3_digs_2 := dk_seg dksX3_digs_1 24 rfl rfl
theorem dksX3_digs_3 : cX3_digs.data.toList.drop 71 = dktX3_digs_3 := dk_seg dksX3_digs_2 23 rfl rfl
theorem dksX3_digs_4 : cX3_digs.data.toList.drop 95 = dktX3_digs_4 := dk_seg dksX3_digs_3 24 rfl rfl
theorem dksX3_digs_5 : cX3_digs.data.toList.drop 119 = dktX3_digs_5 := dk_seg dksX3_digs_4 24 rfl rfl
theorem dX3_digs_0 : decode cX3_digs 0 = .ok (.aload_n 0, 1) := dk_42 (dk_at dksX3_digs_0 0 rfl rfl)
theorem dX3_digs_1 : decode cX3_digs 1 = .ok (.invokevirtual 87, 3) := dk_182 0 87 (dk_at dksX3_digs_0 1 rfl rfl)
theorem dX3_digs_4 : decode cX3_digs 4 = .ok (.istore_n 2, 1) := dk_61 (dk_at dksX3_digs_0 4 rfl rfl)
theorem dX3_digs_5 : decode cX3_digs 5 = .ok (.aload_n 0, 1) := dk_42 (dk_at dksX3_digs_0 5 rfl rfl)
theorem dX3_digs_6 : decode cX3_digs 6 = .ok (.getfield 7, 3) := dk_180 0 7 (dk_at dksX3_digs_0 6 rfl rfl)
theorem dX3_digs_9 : decode cX3_digs 9 = .ok (.bipush 8, 2) := dk_16 8 (dk_at dksX3_digs_0 9 rfl rfl)
theorem dX3_digs_11 : decode cX3_digs 11 = .ok (.iload_n 2, 1) := dk_28 (dk_at dksX3_digs_0 11 rfl rfl)
theorem dX3_digs_12 : decode cX3_digs 12 = .ok (.iadd, 1) := dk_96 (dk_at dksX3_digs_0 12 rfl rfl)
theorem dX3_digs_13 : decode cX3_digs 13 = .ok (.dup2, 1) := dk_92 (dk_at dksX3_digs_0 13 rfl rfl)
theorem dX3_digs_14 : decode cX3_digs 14 = .ok (.iaload, 1) := dk_46 (dk_at dksX3_digs_0 14 rfl rfl)
theorem dX3_digs_15 : decode cX3_digs 15 = .ok (.aload_n 0, 1) := dk_42 (dk_at dksX3_digs_0 15 rfl rfl)
theorem dX3_digs_16 : decode cX3_digs 16 = .ok (.getfield 7, 3) := dk_180 0 7 (dk_at dksX3_digs_0 16 rfl rfl)
theorem dX3_digs_19 : decode cX3_digs 19 = .ok (.iconst 4, 1) := dk_7 (dk_at dksX3_digs_0 19 rfl rfl)
theorem dX3_digs_20 : decode cX3_digs 20 = .ok (.iaload, 1) := dk_46 (dk_at dksX3_digs_0 20 rfl rfl)
theorem dX3_digs_21 : decode cX3_digs 21 = .ok (.isub, 1) := dk_100 (dk_at dksX3_digs_0 21 rfl rfl)
theorem dX3_digs_22 : decode cX3_digs 22 = .ok (.iastore, 1) := dk_79 (dk_at dksX3_digs_0 22 rfl rfl)
theorem dX3_digs_23 : decode cX3_digs 23 = .ok (.aload_n 0, 1) := dk_42 (dk_at dksX3_digs_0 23 rfl rfl)
theorem dX3_digs_24 : decode cX3_digs 24 = .ok (.getfield 7, 3) := dk_180 0 7 (dk_at dksX3_digs_1 0 rfl rfl)
theorem dX3_digs_27 : decode cX3_digs 27 = .ok (.bipush 27, 2) := dk_16 27 (dk_at dksX3_digs_1 3 rfl rfl)
theorem dX3_digs_29 : decode cX3_digs 29 = .ok (.iload_n 2, 1) := dk_28 (dk_at dksX3_digs_1 5 rfl rfl)
theorem dX3_digs_30 : decode cX3_digs 30 = .ok (.iadd, 1) := dk_96 (dk_at dksX3_digs_1 6 rfl rfl)
theorem dX3_digs_31 : decode cX3_digs 31 = .ok (.dup2, 1) := dk_92 (dk_at dksX3_digs_1 7 rfl rfl)
theorem dX3_digs_32 : decode cX3_digs 32 = .ok (.iaload, 1) := dk_46 (dk_at dksX3_digs_1 8 rfl rfl)
theorem dX3_digs_33 : decode cX3_digs 33 = .ok (.iconst 1, 1) := dk_4 (dk_at dksX3_digs_1 9 rfl rfl)
theorem dX3_digs_34 : decode cX3_digs 34 = .ok (.iadd, 1) := dk_96 (dk_at dksX3_digs_1 10 rfl rfl)
theorem dX3_digs_35 : decode cX3_digs 35 = .ok (.iastore, 1) := dk_79 (dk_at dksX3_digs_1 11 rfl rfl)
theorem dX3_digs_36 : decode cX3_digs 36 = .ok (.aload_n 0, 1) := dk_42 (dk_at dksX3_digs_1 12 rfl rfl)
theorem dX3_digs_37 : decode cX3_digs 37 = .ok (.getfield 7, 3) := dk_180 0 7 (dk_at dksX3_digs_1 13 rfl rfl)
theorem dX3_digs_40 : decode cX3_digs 40 = .ok (.bipush 32, 2) := dk_16 32 (dk_at dksX3_digs_1 16 rfl rfl)
theorem dX3_digs_42 : decode cX3_digs 42 = .ok (.aload_n 0, 1) := dk_42 (dk_at dksX3_digs_1 18 rfl rfl)
theorem dX3_digs_43 : decode cX3_digs 43 = .ok (.getfield 7, 3) := dk_180 0 7 (dk_at dksX3_digs_1 19 rfl rfl)
theorem dX3_digs_46 : decode cX3_digs 46 = .ok (.bipush 31, 2) := dk_16 31 (dk_at dksX3_digs_1 22 rfl rfl)
theorem dX3_digs_48 : decode cX3_digs 48 = .ok (.iaload, 1) := dk_46 (dk_at dksX3_digs_2 0 rfl rfl)
theorem dX3_digs_49 : decode cX3_digs 49 = .ok (.iadd, 1) := dk_96 (dk_at dksX3_digs_2 1 rfl rfl)
theorem dX3_digs_50 : decode cX3_digs 50 = .ok (.iload_n 1, 1) := dk_27 (dk_at dksX3_digs_2 2 rfl rfl)
theorem dX3_digs_51 : decode cX3_digs 51 = .ok (.iastore, 1) := dk_79 (dk_at dksX3_digs_2 3 rfl rfl)
theorem dX3_digs_52 : decode cX3_digs 52 = .ok (.aload_n 0, 1) := dk_42 (dk_at dksX3_digs_2 4 rfl rfl)
theorem dX3_digs_53 : decode cX3_digs 53 = .ok (.getfield 7, 3) := dk_180 0 7 (dk_at dksX3_digs_2 5 rfl rfl)
theorem dX3_digs_56 : decode cX3_digs 56 = .ok (.bipush 31, 2) := dk_16 31 (dk_at dksX3_digs_2 8 rfl rfl)
theorem dX3_digs_58 : decode cX3_digs 58 = .ok (.dup2, 1) := dk_92 (dk_at dksX3_digs_2 10 rfl rfl)
theorem dX3_digs_59 : decode cX3_digs 59 = .ok (.iaload, 1) := dk_46 (dk_at dksX3_digs_2 11 rfl rfl)
theorem dX3_digs_60 : decode cX3_digs 60 = .ok (.iconst 1, 1) := dk_4 (dk_at dksX3_digs_2 12 rfl rfl)
theorem dX3_digs_61 : decode cX3_digs 61 = .ok (.iadd, 1) := dk_96 (dk_at dksX3_digs_2 13 rfl rfl)
theorem dX3_digs_62 : decode cX3_digs 62 = .ok (.iastore, 1) := dk_79 (dk_at dksX3_digs_2 14 rfl rfl)
theorem dX3_digs_63 : decode cX3_digs 63 = .ok (.aload_n 0, 1) := dk_42 (dk_at dksX3_digs_2 15 rfl rfl)
theorem dX3_digs_64 : decode cX3_digs 64 = .ok (.iload_n 1, 1) := dk_27 (dk_at dksX3_digs_2 16 rfl rfl)
theorem dX3_digs_65 : decode cX3_digs 65 = .ok (.aload_n 0, 1) := dk_42 (dk_at dksX3_digs_2 17 rfl rfl)
theorem dX3_digs_66 : decode cX3_digs 66 = .ok (.getfield 7, 3) := dk_180 0 7 (dk_at dksX3_digs_2 18 rfl rfl)
theorem dX3_digs_69 : decode cX3_digs 69 = .ok (.iconst 0, 1) := dk_3 (dk_at dksX3_digs_2 21 rfl rfl)
theorem dX3_digs_70 : decode cX3_digs 70 = .ok (.iaload, 1) := dk_46 (dk_at dksX3_digs_2 22 rfl rfl)
theorem dX3_digs_71 : decode cX3_digs 71 = .ok (.invokevirtual 121, 3) := dk_182 0 121 (dk_at dksX3_digs_3 0 rfl rfl)
theorem dX3_digs_74 : decode cX3_digs 74 = .ok (.aload_n 0, 1) := dk_42 (dk_at dksX3_digs_3 3 rfl rfl)
theorem dX3_digs_75 : decode cX3_digs 75 = .ok (.getfield 26, 3) := dk_180 0 26 (dk_at dksX3_digs_3 4 rfl rfl)
theorem dX3_digs_78 : decode cX3_digs 78 = .ok (.aload_n 0, 1) := dk_42 (dk_at dksX3_digs_3 7 rfl rfl)
theorem dX3_digs_79 : decode cX3_digs 79 = .ok (.getfield 7, 3) := dk_180 0 7 (dk_at dksX3_digs_3 8 rfl rfl)
theorem dX3_digs_82 : decode cX3_digs 82 = .ok (.iconst 1, 1) := dk_4 (dk_at dksX3_digs_3 11 rfl rfl)
theorem dX3_digs_83 : decode cX3_digs 83 = .ok (.iaload, 1) := dk_46 (dk_at dksX3_digs_3 12 rfl rfl)
theorem dX3_digs_84 : decode cX3_digs 84 = .ok (.iaload, 1) := dk_46 (dk_at dksX3_digs_3 13 rfl rfl)
theorem dX3_digs_85 : decode cX3_digs 85 = .ok (.istore_n 3, 1) := dk_62 (dk_at dksX3_digs_3 14 rfl rfl)
theorem dX3_digs_86 : decode cX3_digs 86 = .ok (.aload_n 0, 1) := dk_42 (dk_at dksX3_digs_3 15 rfl rfl)
theorem dX3_digs_87 : decode cX3_digs 87 = .ok (.invokevirtual 91, 3) := dk_182 0 91 (dk_at dksX3_digs_3 16 rfl rfl)
theorem dX3_digs_90 : decode cX3_digs 90 = .ok (.iload_n 3, 1) := dk_29 (dk_at dksX3_digs_3 19 rfl rfl)
theorem dX3_digs_91 : decode cX3_digs 91 = .ok (.ifCond .ne 30, 3) := dk_154 0 30 (dk_at dksX3_digs_3 20 rfl rfl)
theorem dX3_digs_94 : decode cX3_digs 94 = .ok (.aload_n 0, 1) := dk_42 (dk_at dksX3_digs_3 23 rfl rfl)
theorem dX3_digs_95 : decode cX3_digs 95 = .ok (.iload_n 2, 1) := dk_28 (dk_at dksX3_digs_4 0 rfl rfl)
theorem dX3_digs_96 : decode cX3_digs 96 = .ok (.aload_n 0, 1) := dk_42 (dk_at dksX3_digs_4 1 rfl rfl)
theorem dX3_digs_97 : decode cX3_digs 97 = .ok (.getfield 7, 3) := dk_180 0 7 (dk_at dksX3_digs_4 2 rfl rfl)
theorem dX3_digs_100 : decode cX3_digs 100 = .ok (.iconst 5, 1) := dk_8 (dk_at dksX3_digs_4 5 rfl rfl)
theorem dX3_digs_101 : decode cX3_digs 101 = .ok (.iaload, 1) := dk_46 (dk_at dksX3_digs_4 6 rfl rfl)
theorem dX3_digs_102 : decode cX3_digs 102 = .ok (.invokevirtual 107, 3) := dk_182 0 107 (dk_at dksX3_digs_4 7 rfl rfl)
theorem dX3_digs_105 : decode cX3_digs 105 = .ok (.aload_n 0, 1) := dk_42 (dk_at dksX3_digs_4 10 rfl rfl)
theorem dX3_digs_106 : decode cX3_digs 106 = .ok (.getfield 7, 3) := dk_180 0 7 (dk_at dksX3_digs_4 11 rfl rfl)
theorem dX3_digs_109 : decode cX3_digs 109 = .ok (.bipush 30, 2) := dk_16 30 (dk_at dksX3_digs_4 14 rfl rfl)
theorem dX3_digs_111 : decode cX3_digs 111 = .ok (.iload_n 2, 1) := dk_28 (dk_at dksX3_digs_4 16 rfl rfl)
theorem dX3_digs_112 : decode cX3_digs 112 = .ok (.iastore, 1) := dk_79 (dk_at dksX3_digs_4 17 rfl rfl)
theorem dX3_digs_113 : decode cX3_digs 113 = .ok (.aload_n 0, 1) := dk_42 (dk_at dksX3_digs_4 18 rfl rfl)
theorem dX3_digs_114 : decode cX3_digs 114 = .ok (.getfield 7, 3) := dk_180 0 7 (dk_at dksX3_digs_4 19 rfl rfl)
theorem dX3_digs_117 : decode cX3_digs 117 = .ok (.bipush 6, 2) := dk_16 6 (dk_at dksX3_digs_4 22 rfl rfl)
theorem dX3_digs_119 : decode cX3_digs 119 = .ok (.iconst 2, 1) := dk_5 (dk_at dksX3_digs_5 0 rfl rfl)
theorem dX3_digs_120 : decode cX3_digs 120 = .ok (.iastore, 1) := dk_79 (dk_at dksX3_digs_5 1 rfl rfl)
theorem dX3_digs_121 : decode cX3_digs 121 = .ok (.iload_n 3, 1) := dk_29 (dk_at dksX3_digs_5 2 rfl rfl)
theorem dX3_digs_122 : decode cX3_digs 122 = .ok (.ireturn, 1) := dk_172 (dk_at dksX3_digs_5 3 rfl rfl)
abbrev cX3_measures : ByteArray := prog_9_method_10_code
def yX3_measures : MethodName := ⟨RX3, "measures", "(II)V"⟩
def dkwX3_measures_7 : List UInt8 := [132, 3, 1, 167, 255, 124, 177]
abbrev dktX3_measures_7 : List UInt8 := dkwX3_measures_7 ++ []
def dkwX3_measures_6 : List UInt8 := [167, 0, 10, 42, 180, 0, 26, 21, 5, 46, 79, 132, 5, 1, 167, 255, 155, 132, 4, 1, 167, 255, 139]
abbrev dktX3_measures_6 : List UInt8 := dkwX3_measures_6 ++ dktX3_measures_7
def dkwX3_measures_5 : List UInt8 := [46, 4, 96, 42, 180, 0, 26, 21, 5, 46, 162, 0, 15, 42, 180, 0, 26, 21, 4, 46, 4, 96]
abbrev dktX3_measures_5 : List UInt8 := dkwX3_measures_5 ++ dktX3_measures_6
def dkwX3_measures_4 : List UInt8 := [4, 167, 0, 4, 3, 54, 6, 42, 180, 0, 26, 21, 5, 21, 6, 153, 0, 34, 42, 180, 0, 26, 21, 4]
abbrev dktX3_measures_4 : List UInt8 := dkwX3_measures_4 ++ dktX3_measures_5
def dkwX3_measures_3 : List UInt8 := [21, 5, 184, 0, 37, 122, 4, 126, 4, 160, 0, 19, 42, 180, 0, 26, 21, 4, 46, 16, 99, 162, 0, 7]
abbrev dktX3_measures_3 : List UInt8 := dkwX3_measures_3 ++ dktX3_measures_4
def dkwX3_measures_2 : List UInt8 := [162, 0, 116, 3, 54, 5, 21, 5, 16, 8, 162, 0, 100, 21, 4, 21, 5, 159, 0, 34, 28, 21, 4]
abbrev dktX3_measures_2 : List UInt8 := dkwX3_measures_2 ++ dktX3_measures_3
def dkwX3_measures_1 : List UInt8 := [79, 132, 3, 1, 167, 255, 230, 3, 62, 29, 16, 8, 162, 0, 132, 3, 54, 4, 21, 4, 16, 8]
abbrev dktX3_measures_1 : List UInt8 := dkwX3_measures_1 ++ dktX3_measures_2
def dkwX3_measures_0 : List UInt8 := [3, 62, 29, 16, 8, 162, 0, 26, 42, 180, 0, 26, 29, 29, 27, 160, 0, 7, 3, 167, 0, 5, 16, 99]
abbrev dktX3_measures_0 : List UInt8 := dkwX3_measures_0 ++ dktX3_measures_1
theorem dksX3_measures_0 : cX3_measures.data.toList.drop 0 = dktX3_measures_0 := by decide +kernel
theorem dksX3_measures_1 : cX3_measures.data.toList.drop 24 = dktX3_measures_1 := dk_seg dksX3_measures_0 24 rfl rfl
theorem dksX3_measures_2 : cX3_measures.data.toList.drop 46 = dktX3_measures_2 := dk_seg dksX3_measures_1 22 rfl rfl
theorem dksX3_measures_3 : cX3_measures.data.toList.drop 69 = dktX3_measures_3 := dk_seg dksX3_measures_2 23 rfl rfl
theorem dksX3_measures_4 : cX3_measures.data.toList.drop 93 = dktX3_measures_4 := dk_seg dksX3_measures_3 24 rfl rfl
theorem dksX3_measures_5 : cX3_measures.data.toList.drop 117 = dktX3_measures_5 := dk_seg dksX3_measures_4 24 rfl rfl
theorem dksX3_measures_6 : cX3_measures.data.toList.drop 139 = dktX3_measures_6 := dk_seg dksX3_measures_5 22 rfl rfl
theorem dksX3_measures_7 : cX3_measures.data.toList.drop 162 = dktX3_measures_7 := dk_seg dksX3_measures_6 23 rfl rfl
theorem dX3_measures_0 : decode cX3_measures 0 = .ok (.iconst 0, 1) := dk_3 (dk_at dksX3_measures_0 0 rfl rfl)
theorem dX3_measures_1 : decode cX3_measures 1 = .ok (.istore_n 3, 1) := dk_62 (dk_at dksX3_measures_0 1 rfl rfl)
theorem dX3_measures_2 : decode cX3_measures 2 = .ok (.iload_n 3, 1) := dk_29 (dk_at dksX3_measures_0 2 rfl rfl)
theorem dX3_measures_3 : decode cX3_measures 3 = .ok (.bipush 8, 2) := dk_16 8 (dk_at dksX3_measures_0 3 rfl rfl)
theorem dX3_measures_5 : decode cX3_measures 5 = .ok (.if_icmp .ge 26, 3) := dk_162 0 26 (dk_at dksX3_measures_0 5 rfl rfl)
theorem dX3_measures_8 : decode cX3_measures 8 = .ok (.aload_n 0, 1) := dk_42 (dk_at dksX3_measures_0 8 rfl rfl)
theorem dX3_measures_9 : decode cX3_measures 9 = .ok (.getfield 26, 3) := dk_180 0 26 (dk_at dksX3_measures_0 9 rfl rfl)
theorem dX3_measures_12 : decode cX3_measures 12 = .ok (.iload_n 3, 1) := dk_29 (dk_at dksX3_measures_0 12 rfl rfl)
theorem dX3_measures_13 : decode cX3_measures 13 = .ok (.iload_n 3, 1) := dk_29 (dk_at dksX3_measures_0 13 rfl rfl)
theorem dX3_measures_14 : decode cX3_measures 14 = .ok (.iload_n 1, 1) := dk_27 (dk_at dksX3_measures_0 14 rfl rfl)
theorem dX3_measures_15 : decode cX3_measures 15 = .ok (.if_icmp .ne 7, 3) := dk_160 0 7 (dk_at dksX3_measures_0 15 rfl rfl)
theorem dX3_measures_18 : decode cX3_measures 18 = .ok (.iconst 0, 1) := dk_3 (dk_at dksX3_measures_0 18 rfl rfl)
theorem dX3_measures_19 : decode cX3_measures 19 = .ok (.goto 5, 3) := dk_167 0 5 (dk_at dksX3_measures_0 19 rfl rfl)
theorem dX3_measures_22 : decode cX3_measures 22 = .ok (.bipush 99, 2) := dk_16 99 (dk_at dksX3_measures_0 22 rfl rfl)
theorem dX3_measures_24 : decode cX3_measures 24 = .ok (.iastore, 1) := dk_79 (dk_at dksX3_measures_1 0 rfl rfl)
theorem dX3_measures_25 : decode cX3_measures 25 = .ok (.iinc 3 1, 3) := dk_132 3 1 (dk_at dksX3_measures_1 1 rfl rfl)
theorem dX3_measures_28 : decode cX3_measures 28 = .ok (.goto (-26), 3) := dk_167 255 230 (dk_at dksX3_measures_1 4 rfl rfl)
theorem dX3_measures_31 : decode cX3_measures 31 = .ok (.iconst 0, 1) := dk_3 (dk_at dksX3_measures_1 7 rfl rfl)
theorem dX3_measures_32 : decode cX3_measures 32 = .ok (.istore_n 3, 1) := dk_62 (dk_at dksX3_measures_1 8 rfl rfl)
theorem dX3_measures_33 : decode cX3_measures 33 = .ok (.iload_n 3, 1) := dk_29 (dk_at dksX3_measures_1 9 rfl rfl)
theorem dX3_measures_34 : decode cX3_measures 34 = .ok (.bipush 8, 2) := dk_16 8 (dk_at dksX3_measures_1 10 rfl rfl)
theorem dX3_measures_36 : decode cX3_measures 36 = .ok (.if_icmp .ge 132, 3) := dk_162 0 132 (dk_at dksX3_measures_1 12 rfl rfl)
theorem dX3_measures_39 : decode cX3_measures 39 = .ok (.iconst 0, 1) := dk_3 (dk_at dksX3_measures_1 15 rfl rfl)
theorem dX3_measures_40 : decode cX3_measures 40 = .ok (.istore 4, 2) := dk_54 4 (dk_at dksX3_measures_1 16 rfl rfl)
theorem dX3_measures_42 : decode cX3_measures 42 = .ok (.iload 4, 2) := dk_21 4 (dk_at dksX3_measures_1 18 rfl rfl)
theorem dX3_measures_44 : decode cX3_measures 44 = .ok (.bipush 8, 2) := dk_16 8 (dk_at dksX3_measures_1 20 rfl rfl)
theorem dX3_measures_46 : decode cX3_measures 46 = .ok (.if_icmp .ge 116, 3) := dk_162 0 116 (dk_at dksX3_measures_2 0 rfl rfl)
theorem dX3_measures_49 : decode cX3_measures 49 = .ok (.iconst 0, 1) := dk_3 (dk_at dksX3_measures_2 3 rfl rfl)
theorem dX3_measures_50 : decode cX3_measures 50 = .ok (.istore 5, 2) := dk_54 5 (dk_at dksX3_measures_2 4 rfl rfl)
theorem dX3_measures_52 : decode cX3_measures 52 = .ok (.iload 5, 2) := dk_21 5 (dk_at dksX3_measures_2 6 rfl rfl)
theorem dX3_measures_54 : decode cX3_measures 54 = .ok (.bipush 8, 2) := dk_16 8 (dk_at dksX3_measures_2 8 rfl rfl)
theorem dX3_measures_56 : decode cX3_measures 56 = .ok (.if_icmp .ge 100, 3) := dk_162 0 100 (dk_at dksX3_measures_2 10 rfl rfl)
theorem dX3_measures_59 : decode cX3_measures 59 = .ok (.iload 4, 2) := dk_21 4 (dk_at dksX3_measures_2 13 rfl rfl)
theorem dX3_measures_61 : decode cX3_measures 61 = .ok (.iload 5, 2) := dk_21 5 (dk_at dksX3_measures_2 15 rfl rfl)
theorem dX3_measures_63 : decode cX3_measures 63 = .ok (.if_icmp .eq 34, 3) := dk_159 0 34 (dk_at dksX3_measures_2 17 rfl rfl)
theorem dX3_measures_66 : decode cX3_measures 66 = .ok (.iload_n 2, 1) := dk_28 (dk_at dksX3_measures_2 20 rfl rfl)
theorem dX3_measures_67 : decode cX3_measures 67 = .ok (.iload 4, 2) := dk_21 4 (dk_at dksX3_measures_2 21 rfl rfl)
theorem dX3_measures_69 : decode cX3_measures 69 = .ok (.iload 5, 2) := dk_21 5 (dk_at dksX3_measures_3 0 rfl rfl)
theorem dX3_measures_71 : decode cX3_measures 71 = .ok (.invokestatic 37, 3) := dk_184 0 37 (dk_at dksX3_measures_3 2 rfl rfl)
theorem dX3_measures_74 : decode cX3_measures 74 = .ok (.ishr, 1) := dk_122 (dk_at dksX3_measures_3 5 rfl rfl)
theorem dX3_measures_75 : decode cX3_measures 75 = .ok (.iconst 1, 1) := dk_4 (dk_at dksX3_measures_3 6 rfl rfl)
theorem dX3_measures_76 : decode cX3_measures 76 = .ok (.iand, 1) := dk_126 (dk_at dksX3_measures_3 7 rfl rfl)
theorem dX3_measures_77 : decode cX3_measures 77 = .ok (.iconst 1, 1) := dk_4 (dk_at dksX3_measures_3 8 rfl rfl)
theorem dX3_measures_78 : decode cX3_measures 78 = .ok (.if_icmp .ne 19, 3) := dk_160 0 19 (dk_at dksX3_measures_3 9 rfl rfl)
theorem dX3_measures_81 : decode cX3_measures 81 = .ok (.aload_n 0, 1) := dk_42 (dk_at dksX3_measures_3 12 rfl rfl)
theorem dX3_measures_82 : decode cX3_measures 82 = .ok (.getfield 26, 3) := dk_180 0 26 (dk_at dksX3_measures_3 13 rfl rfl)
theorem dX3_measures_85 : decode cX3_measures 85 = .ok (.iload 4, 2) := dk_21 4 (dk_at dksX3_measures_3 16 rfl rfl)
theorem dX3_measures_87 : decode cX3_measures 87 = .ok (.iaload, 1) := dk_46 (dk_at dksX3_measures_3 18 rfl rfl)
theorem dX3_measures_88 : decode cX3_measures 88 = .ok (.bipush 99, 2) := dk_16 99 (dk_at dksX3_measures_3 19 rfl rfl)
theorem dX3_measures_90 : decode cX3_measures 90 = .ok (.if_icmp .ge 7, 3) := dk_162 0 7 (dk_at dksX3_measures_3 21 rfl rfl)
theorem dX3_measures_93 : decode cX3_measures 93 = .ok (.iconst 1, 1) := dk_4 (dk_at dksX3_measures_4 0 rfl rfl)
theorem dX3_measures_94 : decode cX3_measures 94 = .ok (.goto 4, 3) := dk_167 0 4 (dk_at dksX3_measures_4 1 rfl rfl)
theorem dX3_measures_97 : decode cX3_measures 97 = .ok (.iconst 0, 1) := dk_3 (dk_at dksX3_measures_4 4 rfl rfl)
theorem dX3_measures_98 : decode cX3_measures 98 = .ok (.istore 6, 2) := dk_54 6 (dk_at dksX3_measures_4 5 rfl rfl)
theorem dX3_measures_100 : decode cX3_measures 100 = .ok (.aload_n 0, 1) := dk_42 (dk_at dksX3_measures_4 7 rfl rfl)
theorem dX3_measures_101 : decode cX3_measures 101 = .ok (.getfield 26, 3) := dk_180 0 26 (dk_at dksX3_measures_4 8 rfl rfl)
theorem dX3_measures_104 : decode cX3_measures 104 = .ok (.iload 5, 2) := dk_21 5 (dk_at dksX3_measures_4 11 rfl rfl)
theorem dX3_measures_106 : decode cX3_measures 106 = .ok (.iload 6, 2) := dk_21 6 (dk_at dksX3_measures_4 13 rfl rfl)
theorem dX3_measures_108 : decode cX3_measures 108 = .ok (.ifCond .eq 34, 3) := dk_153 0 34 (dk_at dksX3_measures_4 15 rfl rfl)
theorem dX3_measures_111 : decode cX3_measures 111 = .ok (.aload_n 0, 1) := dk_42 (dk_at dksX3_measures_4 18 rfl rfl)
theorem dX3_measures_112 : decode cX3_measures 112 = .ok (.getfield 26, 3) := dk_180 0 26 (dk_at dksX3_measures_4 19 rfl rfl)
theorem dX3_measures_115 : decode cX3_measures 115 = .ok (.iload 4, 2) := dk_21 4 (dk_at dksX3_measures_4 22 rfl rfl)
theorem dX3_measures_117 : decode cX3_measures 117 = .ok (.iaload, 1) := dk_46 (dk_at dksX3_measures_5 0 rfl rfl)
theorem dX3_measures_118 : decode cX3_measures 118 = .ok (.iconst 1, 1) := dk_4 (dk_at dksX3_measures_5 1 rfl rfl)
theorem dX3_measures_119 : decode cX3_measures 119 = .ok (.iadd, 1) := dk_96 (dk_at dksX3_measures_5 2 rfl rfl)
theorem dX3_measures_120 : decode cX3_measures 120 = .ok (.aload_n 0, 1) := dk_42 (dk_at dksX3_measures_5 3 rfl rfl)
theorem dX3_measures_121 : decode cX3_measures 121 = .ok (.getfield 26, 3) := dk_180 0 26 (dk_at dksX3_measures_5 4 rfl rfl)
theorem dX3_measures_124 : decode cX3_measures 124 = .ok (.iload 5, 2) := dk_21 5 (dk_at dksX3_measures_5 7 rfl rfl)
theorem dX3_measures_126 : decode cX3_measures 126 = .ok (.iaload, 1) := dk_46 (dk_at dksX3_measures_5 9 rfl rfl)
theorem dX3_measures_127 : decode cX3_measures 127 = .ok (.if_icmp .ge 15, 3) := dk_162 0 15 (dk_at dksX3_measures_5 10 rfl rfl)
theorem dX3_measures_130 : decode cX3_measures 130 = .ok (.aload_n 0, 1) := dk_42 (dk_at dksX3_measures_5 13 rfl rfl)
theorem dX3_measures_131 : decode cX3_measures 131 = .ok (.getfield 26, 3) := dk_180 0 26 (dk_at dksX3_measures_5 14 rfl rfl)
theorem dX3_measures_134 : decode cX3_measures 134 = .ok (.iload 4, 2) := dk_21 4 (dk_at dksX3_measures_5 17 rfl rfl)
theorem dX3_measures_136 : decode cX3_measures 136 = .ok (.iaload, 1) := dk_46 (dk_at dksX3_measures_5 19 rfl rfl)
theorem dX3_measures_137 : decode cX3_measures 137 = .ok (.iconst 1, 1) := dk_4 (dk_at dksX3_measures_5 20 rfl rfl)
theorem dX3_measures_138 : decode cX3_measures 138 = .ok (.iadd, 1) := dk_96 (dk_at dksX3_measures_5 21 rfl rfl)
theorem dX3_measures_139 : decode cX3_measures 139 = .ok (.goto 10, 3) := dk_167 0 10 (dk_at dksX3_measures_6 0 rfl rfl)
theorem dX3_measures_142 : decode cX3_measures 142 = .ok (.aload_n 0, 1) := dk_42 (dk_at dksX3_measures_6 3 rfl rfl)
theorem dX3_measures_143 : decode cX3_measures 143 = .ok (.getfield 26, 3) := dk_180 0 26 (dk_at dksX3_measures_6 4 rfl rfl)
theorem dX3_measures_146 : decode cX3_measures 146 = .ok (.iload 5, 2) := dk_21 5 (dk_at dksX3_measures_6 7 rfl rfl)
theorem dX3_measures_148 : decode cX3_measures 148 = .ok (.iaload, 1) := dk_46 (dk_at dksX3_measures_6 9 rfl rfl)
theorem dX3_measures_149 : decode cX3_measures 149 = .ok (.iastore, 1) := dk_79 (dk_at dksX3_measures_6 10 rfl rfl)
theorem dX3_measures_150 : decode cX3_measures 150 = .ok (.iinc 5 1, 3) := dk_132 5 1 (dk_at dksX3_measures_6 11 rfl rfl)
theorem dX3_measures_153 : decode cX3_measures 153 = .ok (.goto (-101), 3) := dk_167 255 155 (dk_at dksX3_measures_6 14 rfl rfl)
theorem dX3_measures_156 : decode cX3_measures 156 = .ok (.iinc 4 1, 3) := dk_132 4 1 (dk_at dksX3_measures_6 17 rfl rfl)
theorem dX3_measures_159 : decode cX3_measures 159 = .ok (.goto (-117), 3) := dk_167 255 139 (dk_at dksX3_measures_6 20 rfl rfl)
theorem dX3_measures_162 : decode cX3_measures 162 = .ok (.iinc 3 1, 3) := dk_132 3 1 (dk_at dksX3_measures_7 0 rfl rfl)
theorem dX3_measures_165 : decode cX3_measures 165 = .ok (.goto (-132), 3) := dk_167 255 124 (dk_at dksX3_measures_7 3 rfl rfl)
theorem dX3_measures_168 : decode cX3_measures 168 = .ok (.return_, 1) := dk_177 (dk_at dksX3_measures_7 6 rfl rfl)
abbrev cX3_pass : ByteArray := prog_9_method_37_code
def yX3_pass : MethodName := ⟨RX3, "pass", "()I"⟩
def dkwX3_pass_0 : List UInt8 := [42, 182, 0, 84, 154, 0, 6, 16, 251, 172, 42, 182, 0, 64, 42, 182, 0, 91, 42, 182, 0, 87, 172]
abbrev dktX3_pass_0 : List UInt8 := dkwX3_pass_0 ++ []
theorem dksX3_pass_0 : cX3_pass.data.toList.drop 0 = dktX3_pass_0 := by decide +kernel
theorem dX3_pass_0 : decode cX3_pass 0 = .ok (.aload_n 0, 1) := dk_42 (dk_at dksX3_pass_0 0 rfl rfl)
theorem dX3_pass_1 : decode cX3_pass 1 = .ok (.invokevirtual 84, 3) := dk_182 0 84 (dk_at dksX3_pass_0 1 rfl rfl)
theorem dX3_pass_4 : decode cX3_pass 4 = .ok (.ifCond .ne 6, 3) := dk_154 0 6 (dk_at dksX3_pass_0 4 rfl rfl)
theorem dX3_pass_7 : decode cX3_pass 7 = .ok (.bipush (-5), 2) := dk_16 251 (dk_at dksX3_pass_0 7 rfl rfl)
theorem dX3_pass_9 : decode cX3_pass 9 = .ok (.ireturn, 1) := dk_172 (dk_at dksX3_pass_0 9 rfl rfl)
theorem dX3_pass_10 : decode cX3_pass 10 = .ok (.aload_n 0, 1) := dk_42 (dk_at dksX3_pass_0 10 rfl rfl)
theorem dX3_pass_11 : decode cX3_pass 11 = .ok (.invokevirtual 64, 3) := dk_182 0 64 (dk_at dksX3_pass_0 11 rfl rfl)
theorem dX3_pass_14 : decode cX3_pass 14 = .ok (.aload_n 0, 1) := dk_42 (dk_at dksX3_pass_0 14 rfl rfl)
theorem dX3_pass_15 : decode cX3_pass 15 = .ok (.invokevirtual 91, 3) := dk_182 0 91 (dk_at dksX3_pass_0 15 rfl rfl)
theorem dX3_pass_18 : decode cX3_pass 18 = .ok (.aload_n 0, 1) := dk_42 (dk_at dksX3_pass_0 18 rfl rfl)
theorem dX3_pass_19 : decode cX3_pass 19 = .ok (.invokevirtual 87, 3) := dk_182 0 87 (dk_at dksX3_pass_0 19 rfl rfl)
theorem dX3_pass_22 : decode cX3_pass 22 = .ok (.ireturn, 1) := dk_172 (dk_at dksX3_pass_0 22 rfl rfl)
abbrev cX3_ofRoad : ByteArray := prog_9_method_41_code
def yX3_ofRoad : MethodName := ⟨RX3, "ofRoad", "(III)I"⟩
def dkwX3_ofRoad_5 : List UInt8 := [172]
abbrev dktX3_ofRoad_5 : List UInt8 := dkwX3_ofRoad_5 ++ []
def dkwX3_ofRoad_4 : List UInt8 := [182, 0, 133, 172, 42, 16, 11, 21, 5, 182, 0, 136, 172, 42, 16, 14, 21, 5, 182, 0, 136, 172, 16, 254]
abbrev dktX3_ofRoad_4 : List UInt8 := dkwX3_ofRoad_4 ++ dktX3_ofRoad_5
def dkwX3_ofRoad_3 : List UInt8 := [21, 5, 172, 21, 5, 6, 112, 172, 42, 180, 0, 7, 16, 17, 46, 21, 5, 122, 4, 126, 172, 42, 21, 5]
abbrev dktX3_ofRoad_3 : List UInt8 := dkwX3_ofRoad_3 ++ dktX3_ofRoad_4
def dkwX3_ofRoad_2 : List UInt8 := [170, 0, 0, 0, 0, 84, 0, 0, 0, 0, 0, 0, 0, 5, 0, 0, 0, 38, 0, 0, 0, 41, 0, 0, 0, 46, 0, 0, 0, 59, 0, 0, 0, 66, 0, 0, 0, 75]
abbrev dktX3_ofRoad_2 : List UInt8 := dkwX3_ofRoad_2 ++ dktX3_ofRoad_3
def dkwX3_ofRoad_1 : List UInt8 := [180, 0, 7, 16, 17, 46, 182, 0, 80, 29]
abbrev dktX3_ofRoad_1 : List UInt8 := dkwX3_ofRoad_1 ++ dktX3_ofRoad_2
def dkwX3_ofRoad_0 : List UInt8 := [27, 28, 184, 0, 130, 54, 4, 21, 4, 156, 0, 6, 21, 4, 172, 27, 28, 184, 0, 37, 54, 5, 42, 42]
abbrev dktX3_ofRoad_0 : List UInt8 := dkwX3_ofRoad_0 ++ dktX3_ofRoad_1
theorem dksX3_ofRoad_0 : cX3_ofRoad.data.toList.drop 0 = dktX3_ofRoad_0 := by decide +kernel
theorem dksX3_ofRoad_1 : cX3_ofRoad.data.toList.drop 24 = dktX3_ofRoad_1 := dk_seg dksX3_ofRoad_0 24 rfl rfl
theorem dksX3_ofRoad_2 : cX3_ofRoad.data.toList.drop 34 = dktX3_ofRoad_2 := dk_seg dksX3_ofRoad_1 10 rfl rfl
theorem dksX3_ofRoad_3 : cX3_ofRoad.data.toList.drop 72 = dktX3_ofRoad_3 := dk_seg dksX3_ofRoad_2 38 rfl rfl
theorem dksX3_ofRoad_4 : cX3_ofRoad.data.toList.drop 96 = dktX3_ofRoad_4 := dk_seg dksX3_ofRoad_3 24 rfl rfl
theorem dksX3_ofRoad_5 : cX3_ofRoad.data.toList.drop 120 = dktX3_ofRoad_5 := dk_seg dksX3_ofRoad_4 24 rfl rfl
theorem dX3_ofRoad_0 : decode cX3_ofRoad 0 = .ok (.iload_n 1, 1) := dk_27 (dk_at dksX3_ofRoad_0 0 rfl rfl)
theorem dX3_ofRoad_1 : decode cX3_ofRoad 1 = .ok (.iload_n 2, 1) := dk_28 (dk_at dksX3_ofRoad_0 1 rfl rfl)
theorem dX3_ofRoad_2 : decode cX3_ofRoad 2 = .ok (.invokestatic 130, 3) := dk_184 0 130 (dk_at dksX3_ofRoad_0 2 rfl rfl)
theorem dX3_ofRoad_5 : decode cX3_ofRoad 5 = .ok (.istore 4, 2) := dk_54 4 (dk_at dksX3_ofRoad_0 5 rfl rfl)
theorem dX3_ofRoad_7 : decode cX3_ofRoad 7 = .ok (.iload 4, 2) := dk_21 4 (dk_at dksX3_ofRoad_0 7 rfl rfl)
theorem dX3_ofRoad_9 : decode cX3_ofRoad 9 = .ok (.ifCond .ge 6, 3) := dk_156 0 6 (dk_at dksX3_ofRoad_0 9 rfl rfl)
theorem dX3_ofRoad_12 : decode cX3_ofRoad 12 = .ok (.iload 4, 2) := dk_21 4 (dk_at dksX3_ofRoad_0 12 rfl rfl)
theorem dX3_ofRoad_14 : decode cX3_ofRoad 14 = .ok (.ireturn, 1) := dk_172 (dk_at dksX3_ofRoad_0 14 rfl rfl)
theorem dX3_ofRoad_15 : decode cX3_ofRoad 15 = .ok (.iload_n 1, 1) := dk_27 (dk_at dksX3_ofRoad_0 15 rfl rfl)
theorem dX3_ofRoad_16 : decode cX3_ofRoad 16 = .ok (.iload_n 2, 1) := dk_28 (dk_at dksX3_ofRoad_0 16 rfl rfl)
theorem dX3_ofRoad_17 : decode cX3_ofRoad 17 = .ok (.invokestatic 37, 3) := dk_184 0 37 (dk_at dksX3_ofRoad_0 17 rfl rfl)
theorem dX3_ofRoad_20 : decode cX3_ofRoad 20 = .ok (.istore 5, 2) := dk_54 5 (dk_at dksX3_ofRoad_0 20 rfl rfl)
theorem dX3_ofRoad_22 : decode cX3_ofRoad 22 = .ok (.aload_n 0, 1) := dk_42 (dk_at dksX3_ofRoad_0 22 rfl rfl)
theorem dX3_ofRoad_23 : decode cX3_ofRoad 23 = .ok (.aload_n 0, 1) := dk_42 (dk_at dksX3_ofRoad_0 23 rfl rfl)
theorem dX3_ofRoad_24 : decode cX3_ofRoad 24 = .ok (.getfield 7, 3) := dk_180 0 7 (dk_at dksX3_ofRoad_1 0 rfl rfl)
theorem dX3_ofRoad_27 : decode cX3_ofRoad 27 = .ok (.bipush 17, 2) := dk_16 17 (dk_at dksX3_ofRoad_1 3 rfl rfl)
theorem dX3_ofRoad_29 : decode cX3_ofRoad 29 = .ok (.iaload, 1) := dk_46 (dk_at dksX3_ofRoad_1 5 rfl rfl)
theorem dX3_ofRoad_30 : decode cX3_ofRoad 30 = .ok (.invokevirtual 80, 3) := dk_182 0 80 (dk_at dksX3_ofRoad_1 6 rfl rfl)
theorem dX3_ofRoad_33 : decode cX3_ofRoad 33 = .ok (.iload_n 3, 1) := dk_29 (dk_at dksX3_ofRoad_1 9 rfl rfl)
theorem dX3_ofRoad_34 : decode cX3_ofRoad 34 = .ok (.tableswitch 84 0 5 #[38, 41, 46, 59, 66, 75], 38) := by decide +kernel
theorem dX3_ofRoad_72 : decode cX3_ofRoad 72 = .ok (.iload 5, 2) := dk_21 5 (dk_at dksX3_ofRoad_3 0 rfl rfl)
theorem dX3_ofRoad_74 : decode cX3_ofRoad 74 = .ok (.ireturn, 1) := dk_172 (dk_at dksX3_ofRoad_3 2 rfl rfl)
theorem dX3_ofRoad_75 : decode cX3_ofRoad 75 = .ok (.iload 5, 2) := dk_21 5 (dk_at dksX3_ofRoad_3 3 rfl rfl)
theorem dX3_ofRoad_77 : decode cX3_ofRoad 77 = .ok (.iconst 3, 1) := dk_6 (dk_at dksX3_ofRoad_3 5 rfl rfl)
theorem dX3_ofRoad_78 : decode cX3_ofRoad 78 = .ok (.irem, 1) := dk_112 (dk_at dksX3_ofRoad_3 6 rfl rfl)
theorem dX3_ofRoad_79 : decode cX3_ofRoad 79 = .ok (.ireturn, 1) := dk_172 (dk_at dksX3_ofRoad_3 7 rfl rfl)
theorem dX3_ofRoad_80 : decode cX3_ofRoad 80 = .ok (.aload_n 0, 1) := dk_42 (dk_at dksX3_ofRoad_3 8 rfl rfl)
theorem dX3_ofRoad_81 : decode cX3_ofRoad 81 = .ok (.getfield 7, 3) := dk_180 0 7 (dk_at dksX3_ofRoad_3 9 rfl rfl)
theorem dX3_ofRoad_84 : decode cX3_ofRoad 84 = .ok (.bipush 17, 2) := dk_16 17 (dk_at dksX3_ofRoad_3 12 rfl rfl)
theorem dX3_ofRoad_86 : decode cX3_ofRoad 86 = .ok (.iaload, 1) := dk_46 (dk_at dksX3_ofRoad_3 14 rfl rfl)
theorem dX3_ofRoad_87 : decode cX3_ofRoad 87 = .ok (.iload 5, 2) := dk_21 5 (dk_at dksX3_ofRoad_3 15 rfl rfl)
theorem dX3_ofRoad_89 : decode cX3_ofRoad 89 = .ok (.ishr, 1) := dk_122 (dk_at dksX3_ofRoad_3 17 rfl rfl)
theorem dX3_ofRoad_90 : decode cX3_ofRoad 90 = .ok (.iconst 1, 1) := dk_4 (dk_at dksX3_ofRoad_3 18 rfl rfl)
theorem dX3_ofRoad_91 : decode cX3_ofRoad 91 = .ok (.iand, 1) := dk_126 (dk_at dksX3_ofRoad_3 19 rfl rfl)
theorem dX3_ofRoad_92 : decode cX3_ofRoad 92 = .ok (.ireturn, 1) := dk_172 (dk_at dksX3_ofRoad_3 20 rfl rfl)
theorem dX3_ofRoad_93 : decode cX3_ofRoad 93 = .ok (.aload_n 0, 1) := dk_42 (dk_at dksX3_ofRoad_3 21 rfl rfl)
theorem dX3_ofRoad_94 : decode cX3_ofRoad 94 = .ok (.iload 5, 2) := dk_21 5 (dk_at dksX3_ofRoad_3 22 rfl rfl)
theorem dX3_ofRoad_96 : decode cX3_ofRoad 96 = .ok (.invokevirtual 133, 3) := dk_182 0 133 (dk_at dksX3_ofRoad_4 0 rfl rfl)
theorem dX3_ofRoad_99 : decode cX3_ofRoad 99 = .ok (.ireturn, 1) := dk_172 (dk_at dksX3_ofRoad_4 3 rfl rfl)
theorem dX3_ofRoad_100 : decode cX3_ofRoad 100 = .ok (.aload_n 0, 1) := dk_42 (dk_at dksX3_ofRoad_4 4 rfl rfl)
theorem dX3_ofRoad_101 : decode cX3_ofRoad 101 = .ok (.bipush 11, 2) := dk_16 11 (dk_at dksX3_ofRoad_4 5 rfl rfl)
theorem dX3_ofRoad_103 : decode cX3_ofRoad 103 = .ok (.iload 5, 2) := dk_21 5 (dk_at dksX3_ofRoad_4 7 rfl rfl)
theorem dX3_ofRoad_105 : decode cX3_ofRoad 105 = .ok (.invokevirtual 136, 3) := dk_182 0 136 (dk_at dksX3_ofRoad_4 9 rfl rfl)
theorem dX3_ofRoad_108 : decode cX3_ofRoad 108 = .ok (.ireturn, 1) := dk_172 (dk_at dksX3_ofRoad_4 12 rfl rfl)
theorem dX3_ofRoad_109 : decode cX3_ofRoad 109 = .ok (.aload_n 0, 1) := dk_42 (dk_at dksX3_ofRoad_4 13 rfl rfl)
theorem dX3_ofRoad_110 : decode cX3_ofRoad 110 = .ok (.bipush 14, 2) := dk_16 14 (dk_at dksX3_ofRoad_4 14 rfl rfl)
theorem dX3_ofRoad_112 : decode cX3_ofRoad 112 = .ok (.iload 5, 2) := dk_21 5 (dk_at dksX3_ofRoad_4 16 rfl rfl)
theorem dX3_ofRoad_114 : decode cX3_ofRoad 114 = .ok (.invokevirtual 136, 3) := dk_182 0 136 (dk_at dksX3_ofRoad_4 18 rfl rfl)
theorem dX3_ofRoad_117 : decode cX3_ofRoad 117 = .ok (.ireturn, 1) := dk_172 (dk_at dksX3_ofRoad_4 21 rfl rfl)
theorem dX3_ofRoad_118 : decode cX3_ofRoad 118 = .ok (.bipush (-2), 2) := dk_16 254 (dk_at dksX3_ofRoad_4 22 rfl rfl)
theorem dX3_ofRoad_120 : decode cX3_ofRoad 120 = .ok (.ireturn, 1) := dk_172 (dk_at dksX3_ofRoad_5 0 rfl rfl)
abbrev cX3_barPair : ByteArray := prog_9_method_38_code
def yX3_barPair : MethodName := ⟨RX3, "barPair", "(II)I"⟩
def dkwX3_barPair_1 : List UInt8 := [16, 254, 167, 0, 4, 3, 172]
abbrev dktX3_barPair_1 : List UInt8 := dkwX3_barPair_1 ++ []
def dkwX3_barPair_0 : List UInt8 := [26, 184, 0, 67, 153, 0, 10, 27, 184, 0, 67, 154, 0, 7, 2, 167, 0, 14, 26, 27, 160, 0, 8]
abbrev dktX3_barPair_0 : List UInt8 := dkwX3_barPair_0 ++ dktX3_barPair_1
theorem dksX3_barPair_0 : cX3_barPair.data.toList.drop 0 = dktX3_barPair_0 := by decide +kernel
theorem dksX3_barPair_1 : cX3_barPair.data.toList.drop 23 = dktX3_barPair_1 := dk_seg dksX3_barPair_0 23 rfl rfl
theorem dX3_barPair_0 : decode cX3_barPair 0 = .ok (.iload_n 0, 1) := dk_26 (dk_at dksX3_barPair_0 0 rfl rfl)
theorem dX3_barPair_1 : decode cX3_barPair 1 = .ok (.invokestatic 67, 3) := dk_184 0 67 (dk_at dksX3_barPair_0 1 rfl rfl)
theorem dX3_barPair_4 : decode cX3_barPair 4 = .ok (.ifCond .eq 10, 3) := dk_153 0 10 (dk_at dksX3_barPair_0 4 rfl rfl)
theorem dX3_barPair_7 : decode cX3_barPair 7 = .ok (.iload_n 1, 1) := dk_27 (dk_at dksX3_barPair_0 7 rfl rfl)
theorem dX3_barPair_8 : decode cX3_barPair 8 = .ok (.invokestatic 67, 3) := dk_184 0 67 (dk_at dksX3_barPair_0 8 rfl rfl)
theorem dX3_barPair_11 : decode cX3_barPair 11 = .ok (.ifCond .ne 7, 3) := dk_154 0 7 (dk_at dksX3_barPair_0 11 rfl rfl)
theorem dX3_barPair_14 : decode cX3_barPair 14 = .ok (.iconst (-1), 1) := dk_2 (dk_at dksX3_barPair_0 14 rfl rfl)
theorem dX3_barPair_15 : decode cX3_barPair 15 = .ok (.goto 14, 3) := dk_167 0 14 (dk_at dksX3_barPair_0 15 rfl rfl)
theorem dX3_barPair_18 : decode cX3_barPair 18 = .ok (.iload_n 0, 1) := dk_26 (dk_at dksX3_barPair_0 18 rfl rfl)
theorem dX3_barPair_19 : decode cX3_barPair 19 = .ok (.iload_n 1, 1) := dk_27 (dk_at dksX3_barPair_0 19 rfl rfl)
theorem dX3_barPair_20 : decode cX3_barPair 20 = .ok (.if_icmp .ne 8, 3) := dk_160 0 8 (dk_at dksX3_barPair_0 20 rfl rfl)
theorem dX3_barPair_23 : decode cX3_barPair 23 = .ok (.bipush (-2), 2) := dk_16 254 (dk_at dksX3_barPair_1 0 rfl rfl)
theorem dX3_barPair_25 : decode cX3_barPair 25 = .ok (.goto 4, 3) := dk_167 0 4 (dk_at dksX3_barPair_1 2 rfl rfl)
theorem dX3_barPair_28 : decode cX3_barPair 28 = .ok (.iconst 0, 1) := dk_3 (dk_at dksX3_barPair_1 5 rfl rfl)
theorem dX3_barPair_29 : decode cX3_barPair 29 = .ok (.ireturn, 1) := dk_172 (dk_at dksX3_barPair_1 6 rfl rfl)
abbrev cX3_seen : ByteArray := prog_9_method_39_code
def yX3_seen : MethodName := ⟨RX3, "seen", "(I)I"⟩
def dkwX3_seen_1 : List UInt8 := [172]
abbrev dktX3_seen_1 : List UInt8 := dkwX3_seen_1 ++ []
def dkwX3_seen_0 : List UInt8 := [42, 180, 0, 45, 27, 122, 4, 126, 154, 0, 8, 16, 250, 167, 0, 11, 42, 180, 0, 48, 27, 122, 4, 126]
abbrev dktX3_seen_0 : List UInt8 := dkwX3_seen_0 ++ dktX3_seen_1
theorem dksX3_seen_0 : cX3_seen.data.toList.drop 0 = dktX3_seen_0 := by decide +kernel
theorem dksX3_seen_1 : cX3_seen.data.toList.drop 24 = dktX3_seen_1 := dk_seg dksX3_seen_0 24 rfl rfl
theorem dX3_seen_0 : decode cX3_seen 0 = .ok (.aload_n 0, 1) := dk_42 (dk_at dksX3_seen_0 0 rfl rfl)
theorem dX3_seen_1 : decode cX3_seen 1 = .ok (.getfield 45, 3) := dk_180 0 45 (dk_at dksX3_seen_0 1 rfl rfl)
theorem dX3_seen_4 : decode cX3_seen 4 = .ok (.iload_n 1, 1) := dk_27 (dk_at dksX3_seen_0 4 rfl rfl)
theorem dX3_seen_5 : decode cX3_seen 5 = .ok (.ishr, 1) := dk_122 (dk_at dksX3_seen_0 5 rfl rfl)
theorem dX3_seen_6 : decode cX3_seen 6 = .ok (.iconst 1, 1) := dk_4 (dk_at dksX3_seen_0 6 rfl rfl)
theorem dX3_seen_7 : decode cX3_seen 7 = .ok (.iand, 1) := dk_126 (dk_at dksX3_seen_0 7 rfl rfl)
theorem dX3_seen_8 : decode cX3_seen 8 = .ok (.ifCond .ne 8, 3) := dk_154 0 8 (dk_at dksX3_seen_0 8 rfl rfl)
theorem dX3_seen_11 : decode cX3_seen 11 = .ok (.bipush (-6), 2) := dk_16 250 (dk_at dksX3_seen_0 11 rfl rfl)
theorem dX3_seen_13 : decode cX3_seen 13 = .ok (.goto 11, 3) := dk_167 0 11 (dk_at dksX3_seen_0 13 rfl rfl)
theorem dX3_seen_16 : decode cX3_seen 16 = .ok (.aload_n 0, 1) := dk_42 (dk_at dksX3_seen_0 16 rfl rfl)
theorem dX3_seen_17 : decode cX3_seen 17 = .ok (.getfield 48, 3) := dk_180 0 48 (dk_at dksX3_seen_0 17 rfl rfl)
theorem dX3_seen_20 : decode cX3_seen 20 = .ok (.iload_n 1, 1) := dk_27 (dk_at dksX3_seen_0 20 rfl rfl)
theorem dX3_seen_21 : decode cX3_seen 21 = .ok (.ishr, 1) := dk_122 (dk_at dksX3_seen_0 21 rfl rfl)
theorem dX3_seen_22 : decode cX3_seen 22 = .ok (.iconst 1, 1) := dk_4 (dk_at dksX3_seen_0 22 rfl rfl)
theorem dX3_seen_23 : decode cX3_seen 23 = .ok (.iand, 1) := dk_126 (dk_at dksX3_seen_0 23 rfl rfl)
theorem dX3_seen_24 : decode cX3_seen 24 = .ok (.ireturn, 1) := dk_172 (dk_at dksX3_seen_1 0 rfl rfl)
abbrev cX3_claimers : ByteArray := prog_9_method_40_code
def yX3_claimers : MethodName := ⟨RX3, "claimers", "(II)I"⟩
def dkwX3_claimers_1 : List UInt8 := [126, 21, 4, 120, 128, 62, 132, 4, 1, 167, 255, 228, 29, 172]
abbrev dktX3_claimers_1 : List UInt8 := dkwX3_claimers_1 ++ []
def dkwX3_claimers_0 : List UInt8 := [3, 62, 3, 54, 4, 21, 4, 6, 162, 0, 28, 29, 42, 180, 0, 7, 27, 21, 4, 96, 46, 28, 122, 4]
abbrev dktX3_claimers_0 : List UInt8 := dkwX3_claimers_0 ++ dktX3_claimers_1
theorem dksX3_claimers_0 : cX3_claimers.data.toList.drop 0 = dktX3_claimers_0 := by decide +kernel
theorem dksX3_claimers_1 : cX3_claimers.data.toList.drop 24 = dktX3_claimers_1 := dk_seg dksX3_claimers_0 24 rfl rfl
theorem dX3_claimers_0 : decode cX3_claimers 0 = .ok (.iconst 0, 1) := dk_3 (dk_at dksX3_claimers_0 0 rfl rfl)
theorem dX3_claimers_1 : decode cX3_claimers 1 = .ok (.istore_n 3, 1) := dk_62 (dk_at dksX3_claimers_0 1 rfl rfl)
theorem dX3_claimers_2 : decode cX3_claimers 2 = .ok (.iconst 0, 1) := dk_3 (dk_at dksX3_claimers_0 2 rfl rfl)
theorem dX3_claimers_3 : decode cX3_claimers 3 = .ok (.istore 4, 2) := dk_54 4 (dk_at dksX3_claimers_0 3 rfl rfl)
theorem dX3_claimers_5 : decode cX3_claimers 5 = .ok (.iload 4, 2) := dk_21 4 (dk_at dksX3_claimers_0 5 rfl rfl)
theorem dX3_claimers_7 : decode cX3_claimers 7 = .ok (.iconst 3, 1) := dk_6 (dk_at dksX3_claimers_0 7 rfl rfl)
theorem dX3_claimers_8 : decode cX3_claimers 8 = .ok (.if_icmp .ge 28, 3) := dk_162 0 28 (dk_at dksX3_claimers_0 8 rfl rfl)
theorem dX3_claimers_11 : decode cX3_claimers 11 = .ok (.iload_n 3, 1) := dk_29 (dk_at dksX3_claimers_0 11 rfl rfl)
theorem dX3_claimers_12 : decode cX3_claimers 12 = .ok (.aload_n 0, 1) := dk_42 (dk_at dksX3_claimers_0 12 rfl rfl)
theorem dX3_claimers_13 : decode cX3_claimers 13 = .ok (.getfield 7, 3) := dk_180 0 7 (dk_at dksX3_claimers_0 13 rfl rfl)
theorem dX3_claimers_16 : decode cX3_claimers 16 = .ok (.iload_n 1, 1) := dk_27 (dk_at dksX3_claimers_0 16 rfl rfl)
theorem dX3_claimers_17 : decode cX3_claimers 17 = .ok (.iload 4, 2) := dk_21 4 (dk_at dksX3_claimers_0 17 rfl rfl)
theorem dX3_claimers_19 : decode cX3_claimers 19 = .ok (.iadd, 1) := dk_96 (dk_at dksX3_claimers_0 19 rfl rfl)
theorem dX3_claimers_20 : decode cX3_claimers 20 = .ok (.iaload, 1) := dk_46 (dk_at dksX3_claimers_0 20 rfl rfl)
theorem dX3_claimers_21 : decode cX3_claimers 21 = .ok (.iload_n 2, 1) := dk_28 (dk_at dksX3_claimers_0 21 rfl rfl)
theorem dX3_claimers_22 : decode cX3_claimers 22 = .ok (.ishr, 1) := dk_122 (dk_at dksX3_claimers_0 22 rfl rfl)
theorem dX3_claimers_23 : decode cX3_claimers 23 = .ok (.iconst 1, 1) := dk_4 (dk_at dksX3_claimers_0 23 rfl rfl)
theorem dX3_claimers_24 : decode cX3_claimers 24 = .ok (.iand, 1) := dk_126 (dk_at dksX3_claimers_1 0 rfl rfl)
theorem dX3_claimers_25 : decode cX3_claimers 25 = .ok (.iload 4, 2) := dk_21 4 (dk_at dksX3_claimers_1 1 rfl rfl)
theorem dX3_claimers_27 : decode cX3_claimers 27 = .ok (.ishl, 1) := dk_120 (dk_at dksX3_claimers_1 3 rfl rfl)
theorem dX3_claimers_28 : decode cX3_claimers 28 = .ok (.ior, 1) := dk_128 (dk_at dksX3_claimers_1 4 rfl rfl)
theorem dX3_claimers_29 : decode cX3_claimers 29 = .ok (.istore_n 3, 1) := dk_62 (dk_at dksX3_claimers_1 5 rfl rfl)
theorem dX3_claimers_30 : decode cX3_claimers 30 = .ok (.iinc 4 1, 3) := dk_132 4 1 (dk_at dksX3_claimers_1 6 rfl rfl)
theorem dX3_claimers_33 : decode cX3_claimers 33 = .ok (.goto (-28), 3) := dk_167 255 228 (dk_at dksX3_claimers_1 9 rfl rfl)
theorem dX3_claimers_36 : decode cX3_claimers 36 = .ok (.iload_n 3, 1) := dk_29 (dk_at dksX3_claimers_1 12 rfl rfl)
theorem dX3_claimers_37 : decode cX3_claimers 37 = .ok (.ireturn, 1) := dk_172 (dk_at dksX3_claimers_1 13 rfl rfl)
abbrev cX3_knows : ByteArray := prog_9_method_42_code
def yX3_knows : MethodName := ⟨RX3, "knows", "(III)I"⟩
def dkwX3_knows_2 : List UInt8 := [160, 0, 17, 42, 180, 0, 7, 3, 46, 21, 5, 122, 4, 126, 167, 0, 9, 42, 21, 5, 182, 0, 133, 172]
abbrev dktX3_knows_2 : List UInt8 := dkwX3_knows_2 ++ []
def dkwX3_knows_1 : List UInt8 := [28, 29, 184, 0, 37, 54, 5, 42, 42, 180, 0, 7, 16, 17, 46, 182, 0, 80, 21, 5, 6, 112, 27]
abbrev dktX3_knows_1 : List UInt8 := dkwX3_knows_1 ++ dktX3_knows_2
def dkwX3_knows_0 : List UInt8 := [27, 184, 0, 104, 154, 0, 5, 2, 172, 28, 29, 184, 0, 130, 54, 4, 21, 4, 156, 0, 6, 21, 4, 172]
abbrev dktX3_knows_0 : List UInt8 := dkwX3_knows_0 ++ dktX3_knows_1
theorem dksX3_knows_0 : cX3_knows.data.toList.drop 0 = dktX3_knows_0 := by decide +kernel
theorem dksX3_knows_1 : cX3_knows.data.toList.drop 24 = dktX3_knows_1 := dk_seg dksX3_knows_0 24 rfl rfl
theorem dksX3_knows_2 : cX3_knows.data.toList.drop 47 = dktX3_knows_2 := dk_seg dksX3_knows_1 23 rfl rfl
theorem dX3_knows_0 : decode cX3_knows 0 = .ok (.iload_n 1, 1) := dk_27 (dk_at dksX3_knows_0 0 rfl rfl)
theorem dX3_knows_1 : decode cX3_knows 1 = .ok (.invokestatic 104, 3) := dk_184 0 104 (dk_at dksX3_knows_0 1 rfl rfl)
theorem dX3_knows_4 : decode cX3_knows 4 = .ok (.ifCond .ne 5, 3) := dk_154 0 5 (dk_at dksX3_knows_0 4 rfl rfl)
theorem dX3_knows_7 : decode cX3_knows 7 = .ok (.iconst (-1), 1) := dk_2 (dk_at dksX3_knows_0 7 rfl rfl)
theorem dX3_knows_8 : decode cX3_knows 8 = .ok (.ireturn, 1) := dk_172 (dk_at dksX3_knows_0 8 rfl rfl)
theorem dX3_knows_9 : decode cX3_knows 9 = .ok (.iload_n 2, 1) := dk_28 (dk_at dksX3_knows_0 9 rfl rfl)
theorem dX3_knows_10 : decode cX3_knows 10 = .ok (.iload_n 3, 1) := dk_29 (dk_at dksX3_knows_0 10 rfl rfl)
theorem dX3_knows_11 : decode cX3_knows 11 = .ok (.invokestatic 130, 3) := dk_184 0 130 (dk_at dksX3_knows_0 11 rfl rfl)
theorem dX3_knows_14 : decode cX3_knows 14 = .ok (.istore 4, 2) := dk_54 4 (dk_at dksX3_knows_0 14 rfl rfl)
theorem dX3_knows_16 : decode cX3_knows 16 = .ok (.iload 4, 2) := dk_21 4 (dk_at dksX3_knows_0 16 rfl rfl)
theorem dX3_knows_18 : decode cX3_knows 18 = .ok (.ifCond .ge 6, 3) := dk_156 0 6 (dk_at dksX3_knows_0 18 rfl rfl)
theorem dX3_knows_21 : decode cX3_knows 21 = .ok (.iload 4, 2) := dk_21 4 (dk_at dksX3_knows_0 21 rfl rfl)
theorem dX3_knows_23 : decode cX3_knows 23 = .ok (.ireturn, 1) := dk_172 (dk_at dksX3_knows_0 23 rfl rfl)
theorem dX3_knows_24 : decode cX3_knows 24 = .ok (.iload_n 2, 1) := dk_28 (dk_at dksX3_knows_1 0 rfl rfl)
theorem dX3_knows_25 : decode cX3_knows 25 = .ok (.iload_n 3, 1) := dk_29 (dk_at dksX3_knows_1 1 rfl rfl)
theorem dX3_knows_26 : decode cX3_knows 26 = .ok (.invokestatic 37, 3) := dk_184 0 37 (dk_at dksX3_knows_1 2 rfl rfl)
theorem dX3_knows_29 : decode cX3_knows 29 = .ok (.istore 5, 2) := dk_54 5 (dk_at dksX3_knows_1 5 rfl rfl)
theorem dX3_knows_31 : decode cX3_knows 31 = .ok (.aload_n 0, 1) := dk_42 (dk_at dksX3_knows_1 7 rfl rfl)
theorem dX3_knows_32 : decode cX3_knows 32 = .ok (.aload_n 0, 1) := dk_42 (dk_at dksX3_knows_1 8 rfl rfl)
theorem dX3_knows_33 : decode cX3_knows 33 = .ok (.getfield 7, 3) := dk_180 0 7 (dk_at dksX3_knows_1 9 rfl rfl)
theorem dX3_knows_36 : decode cX3_knows 36 = .ok (.bipush 17, 2) := dk_16 17 (dk_at dksX3_knows_1 12 rfl rfl)
theorem dX3_knows_38 : decode cX3_knows 38 = .ok (.iaload, 1) := dk_46 (dk_at dksX3_knows_1 14 rfl rfl)
theorem dX3_knows_39 : decode cX3_knows 39 = .ok (.invokevirtual 80, 3) := dk_182 0 80 (dk_at dksX3_knows_1 15 rfl rfl)
theorem dX3_knows_42 : decode cX3_knows 42 = .ok (.iload 5, 2) := dk_21 5 (dk_at dksX3_knows_1 18 rfl rfl)
theorem dX3_knows_44 : decode cX3_knows 44 = .ok (.iconst 3, 1) := dk_6 (dk_at dksX3_knows_1 20 rfl rfl)
theorem dX3_knows_45 : decode cX3_knows 45 = .ok (.irem, 1) := dk_112 (dk_at dksX3_knows_1 21 rfl rfl)
theorem dX3_knows_46 : decode cX3_knows 46 = .ok (.iload_n 1, 1) := dk_27 (dk_at dksX3_knows_1 22 rfl rfl)
theorem dX3_knows_47 : decode cX3_knows 47 = .ok (.if_icmp .ne 17, 3) := dk_160 0 17 (dk_at dksX3_knows_2 0 rfl rfl)
theorem dX3_knows_50 : decode cX3_knows 50 = .ok (.aload_n 0, 1) := dk_42 (dk_at dksX3_knows_2 3 rfl rfl)
theorem dX3_knows_51 : decode cX3_knows 51 = .ok (.getfield 7, 3) := dk_180 0 7 (dk_at dksX3_knows_2 4 rfl rfl)
theorem dX3_knows_54 : decode cX3_knows 54 = .ok (.iconst 0, 1) := dk_3 (dk_at dksX3_knows_2 7 rfl rfl)
theorem dX3_knows_55 : decode cX3_knows 55 = .ok (.iaload, 1) := dk_46 (dk_at dksX3_knows_2 8 rfl rfl)
theorem dX3_knows_56 : decode cX3_knows 56 = .ok (.iload 5, 2) := dk_21 5 (dk_at dksX3_knows_2 9 rfl rfl)
theorem dX3_knows_58 : decode cX3_knows 58 = .ok (.ishr, 1) := dk_122 (dk_at dksX3_knows_2 11 rfl rfl)
theorem dX3_knows_59 : decode cX3_knows 59 = .ok (.iconst 1, 1) := dk_4 (dk_at dksX3_knows_2 12 rfl rfl)
theorem dX3_knows_60 : decode cX3_knows 60 = .ok (.iand, 1) := dk_126 (dk_at dksX3_knows_2 13 rfl rfl)
theorem dX3_knows_61 : decode cX3_knows 61 = .ok (.goto 9, 3) := dk_167 0 9 (dk_at dksX3_knows_2 14 rfl rfl)
theorem dX3_knows_64 : decode cX3_knows 64 = .ok (.aload_n 0, 1) := dk_42 (dk_at dksX3_knows_2 17 rfl rfl)
theorem dX3_knows_65 : decode cX3_knows 65 = .ok (.iload 5, 2) := dk_21 5 (dk_at dksX3_knows_2 18 rfl rfl)
theorem dX3_knows_67 : decode cX3_knows 67 = .ok (.invokevirtual 133, 3) := dk_182 0 133 (dk_at dksX3_knows_2 20 rfl rfl)
theorem dX3_knows_70 : decode cX3_knows 70 = .ok (.ireturn, 1) := dk_172 (dk_at dksX3_knows_2 23 rfl rfl)
abbrev cX3_player : ByteArray := prog_9_method_45_code
def yX3_player : MethodName := ⟨RX3, "player", "(II)I"⟩
def dkwX3_player_5 : List UInt8 := [128, 184, 0, 55, 172, 16, 254, 172]
abbrev dktX3_player_5 : List UInt8 := dkwX3_player_5 ++ []
def dkwX3_player_4 : List UInt8 := [16, 24, 27, 96, 46, 172, 42, 180, 0, 7, 16, 27, 27, 96, 46, 172, 27, 184, 0, 142, 42, 180, 0, 45]
abbrev dktX3_player_4 : List UInt8 := dkwX3_player_4 ++ dktX3_player_5
def dkwX3_player_3 : List UInt8 := [180, 0, 7, 16, 18, 27, 96, 46, 172, 42, 180, 0, 7, 16, 21, 27, 96, 46, 172, 42, 180, 0, 7]
abbrev dktX3_player_3 : List UInt8 := dkwX3_player_3 ++ dktX3_player_4
def dkwX3_player_2 : List UInt8 := [42, 180, 0, 7, 16, 8, 27, 96, 46, 172, 42, 27, 182, 0, 94, 172, 42, 27, 182, 0, 139, 172, 42]
abbrev dktX3_player_2 : List UInt8 := dkwX3_player_2 ++ dktX3_player_3
def dkwX3_player_1 : List UInt8 := [170, 0, 0, 0, 0, 0, 122, 0, 0, 0, 0, 0, 0, 0, 7, 0, 0, 0, 47, 0, 0, 0, 57, 0, 0, 0, 63, 0, 0, 0, 69, 0, 0, 0, 79, 0, 0, 0, 89, 0, 0, 0, 99, 0, 0, 0, 109]
abbrev dktX3_player_1 : List UInt8 := dkwX3_player_1 ++ dktX3_player_2
def dkwX3_player_0 : List UInt8 := [27, 184, 0, 104, 154, 0, 5, 2, 172, 42, 42, 180, 0, 7, 16, 17, 46, 182, 0, 80, 28]
abbrev dktX3_player_0 : List UInt8 := dkwX3_player_0 ++ dktX3_player_1
theorem dksX3_player_0 : cX3_player.data.toList.drop 0 = dktX3_player_0 := by decide +kernel
theorem dksX3_player_1 : cX3_player.data.toList.drop 21 = dktX3_player_1 := dk_seg dksX3_player_0 21 rfl rfl
theorem dksX3_player_2 : cX3_player.data.toList.drop 68 = dktX3_player_2 := dk_seg dksX3_player_1 47 rfl rfl
theorem dksX3_player_3 : cX3_player.data.toList.drop 91 = dktX3_player_3 := dk_seg dksX3_player_2 23 rfl rfl
theorem dksX3_player_4 : cX3_player.data.toList.drop 114 = dktX3_player_4 := dk_seg dksX3_player_3 23 rfl rfl
theorem dksX3_player_5 : cX3_player.data.toList.drop 138 = dktX3_player_5 := dk_seg dksX3_player_4 24 rfl rfl
theorem dX3_player_0 : decode cX3_player 0 = .ok (.iload_n 1, 1) := dk_27 (dk_at dksX3_player_0 0 rfl rfl)
theorem dX3_player_1 : decode cX3_player 1 = .ok (.invokestatic 104, 3) := dk_184 0 104 (dk_at dksX3_player_0 1 rfl rfl)
theorem dX3_player_4 : decode cX3_player 4 = .ok (.ifCond .ne 5, 3) := dk_154 0 5 (dk_at dksX3_player_0 4 rfl rfl)
theorem dX3_player_7 : decode cX3_player 7 = .ok (.iconst (-1), 1) := dk_2 (dk_at dksX3_player_0 7 rfl rfl)
theorem dX3_player_8 : decode cX3_player 8 = .ok (.ireturn, 1) := dk_172 (dk_at dksX3_player_0 8 rfl rfl)
theorem dX3_player_9 : decode cX3_player 9 = .ok (.aload_n 0, 1) := dk_42 (dk_at dksX3_player_0 9 rfl rfl)
theorem dX3_player_10 : decode cX3_player 10 = .ok (.aload_n 0, 1) := dk_42 (dk_at dksX3_player_0 10 rfl rfl)
theorem dX3_player_11 : decode cX3_player 11 = .ok (.getfield 7, 3) := dk_180 0 7 (dk_at dksX3_player_0 11 rfl rfl)
theorem dX3_player_14 : decode cX3_player 14 = .ok (.bipush 17, 2) := dk_16 17 (dk_at dksX3_player_0 14 rfl rfl)
theorem dX3_player_16 : decode cX3_player 16 = .ok (.iaload, 1) := dk_46 (dk_at dksX3_player_0 16 rfl rfl)
theorem dX3_player_17 : decode cX3_player 17 = .ok (.invokevirtual 80, 3) := dk_182 0 80 (dk_at dksX3_player_0 17 rfl rfl)
theorem dX3_player_20 : decode cX3_player 20 = .ok (.iload_n 2, 1) := dk_28 (dk_at dksX3_player_0 20 rfl rfl)
theorem dX3_player_21 : decode cX3_player 21 = .ok (.tableswitch 122 0 7 #[47, 57, 63, 69, 79, 89, 99, 109], 47) := by decide +kernel
theorem dX3_player_68 : decode cX3_player 68 = .ok (.aload_n 0, 1) := dk_42 (dk_at dksX3_player_2 0 rfl rfl)
theorem dX3_player_69 : decode cX3_player 69 = .ok (.getfield 7, 3) := dk_180 0 7 (dk_at dksX3_player_2 1 rfl rfl)
theorem dX3_player_72 : decode cX3_player 72 = .ok (.bipush 8, 2) := dk_16 8 (dk_at dksX3_player_2 4 rfl rfl)
theorem dX3_player_74 : decode cX3_player 74 = .ok (.iload_n 1, 1) := dk_27 (dk_at dksX3_player_2 6 rfl rfl)
theorem dX3_player_75 : decode cX3_player 75 = .ok (.iadd, 1) := dk_96 (dk_at dksX3_player_2 7 rfl rfl)
theorem dX3_player_76 : decode cX3_player 76 = .ok (.iaload, 1) := dk_46 (dk_at dksX3_player_2 8 rfl rfl)
theorem dX3_player_77 : decode cX3_player 77 = .ok (.ireturn, 1) := dk_172 (dk_at dksX3_player_2 9 rfl rfl)
theorem dX3_player_78 : decode cX3_player 78 = .ok (.aload_n 0, 1) := dk_42 (dk_at dksX3_player_2 10 rfl rfl)
theorem dX3_player_79 : decode cX3_player 79 = .ok (.iload_n 1, 1) := dk_27 (dk_at dksX3_player_2 11 rfl rfl)
theorem dX3_player_80 : decode cX3_player 80 = .ok (.invokevirtual 94, 3) := dk_182 0 94 (dk_at dksX3_player_2 12 rfl rfl)
theorem dX3_player_83 : decode cX3_player 83 = .ok (.ireturn, 1) := dk_172 (dk_at dksX3_player_2 15 rfl rfl)
theorem dX3_player_84 : decode cX3_player 84 = .ok (.aload_n 0, 1) := dk_42 (dk_at dksX3_player_2 16 rfl rfl)
theorem dX3_player_85 : decode cX3_player 85 = .ok (.iload_n 1, 1) := dk_27 (dk_at dksX3_player_2 17 rfl rfl)
theorem dX3_player_86 : decode cX3_player 86 = .ok (.invokevirtual 139, 3) := dk_182 0 139 (dk_at dksX3_player_2 18 rfl rfl)
theorem dX3_player_89 : decode cX3_player 89 = .ok (.ireturn, 1) := dk_172 (dk_at dksX3_player_2 21 rfl rfl)
theorem dX3_player_90 : decode cX3_player 90 = .ok (.aload_n 0, 1) := dk_42 (dk_at dksX3_player_2 22 rfl rfl)
theorem dX3_player_91 : decode cX3_player 91 = .ok (.getfield 7, 3) := dk_180 0 7 (dk_at dksX3_player_3 0 rfl rfl)
theorem dX3_player_94 : decode cX3_player 94 = .ok (.bipush 18, 2) := dk_16 18 (dk_at dksX3_player_3 3 rfl rfl)
theorem dX3_player_96 : decode cX3_player 96 = .ok (.iload_n 1, 1) := dk_27 (dk_at dksX3_player_3 5 rfl rfl)
theorem dX3_player_97 : decode cX3_player 97 = .ok (.iadd, 1) := dk_96 (dk_at dksX3_player_3 6 rfl rfl)
theorem dX3_player_98 : decode cX3_player 98 = .ok (.iaload, 1) := dk_46 (dk_at dksX3_player_3 7 rfl rfl)
theorem dX3_player_99 : decode cX3_player 99 = .ok (.ireturn, 1) := dk_172 (dk_at dksX3_player_3 8 rfl rfl)
theorem dX3_player_100 : decode cX3_player 100 = .ok (.aload_n 0, 1) := dk_42 (dk_at dksX3_player_3 9 rfl rfl)
theorem dX3_player_101 : decode cX3_player 101 = .ok (.getfield 7, 3) := dk_180 0 7 (dk_at dksX3_player_3 10 rfl rfl)
theorem dX3_player_104 : decode cX3_player 104 = .ok (.bipush 21, 2) := dk_16 21 (dk_at dksX3_player_3 13 rfl rfl)
theorem dX3_player_106 : decode cX3_player 106 = .ok (.iload_n 1, 1) := dk_27 (dk_at dksX3_player_3 15 rfl rfl)
theorem dX3_player_107 : decode cX3_player 107 = .ok (.iadd, 1) := dk_96 (dk_at dksX3_player_3 16 rfl rfl)
theorem dX3_player_108 : decode cX3_player 108 = .ok (.iaload, 1) := dk_46 (dk_at dksX3_player_3 17 rfl rfl)
theorem dX3_player_109 : decode cX3_player 109 = .ok (.ireturn, 1) := dk_172 (dk_at dksX3_player_3 18 rfl rfl)
theorem dX3_player_110 : decode cX3_player 110 = .ok (.aload_n 0, 1) := dk_42 (dk_at dksX3_player_3 19 rfl rfl)
theorem dX3_player_111 : decode cX3_player 111 = .ok (.getfield 7, 3) := dk_180 0 7 (dk_at dksX3_player_3 20 rfl rfl)
theorem dX3_player_114 : decode cX3_player 114 = .ok (.bipush 24, 2) := dk_16 24 (dk_at dksX3_player_4 0 rfl rfl)
theorem dX3_player_116 : decode cX3_player 116 = .ok (.iload_n 1, 1) := dk_27 (dk_at dksX3_player_4 2 rfl rfl)
theorem dX3_player_117 : decode cX3_player 117 = .ok (.iadd, 1) := dk_96 (dk_at dksX3_player_4 3 rfl rfl)
theorem dX3_player_118 : decode cX3_player 118 = .ok (.iaload, 1) := dk_46 (dk_at dksX3_player_4 4 rfl rfl)
theorem dX3_player_119 : decode cX3_player 119 = .ok (.ireturn, 1) := dk_172 (dk_at dksX3_player_4 5 rfl rfl)
theorem dX3_player_120 : decode cX3_player 120 = .ok (.aload_n 0, 1) := dk_42 (dk_at dksX3_player_4 6 rfl rfl)
theorem dX3_player_121 : decode cX3_player 121 = .ok (.getfield 7, 3) := dk_180 0 7 (dk_at dksX3_player_4 7 rfl rfl)
theorem dX3_player_124 : decode cX3_player 124 = .ok (.bipush 27, 2) := dk_16 27 (dk_at dksX3_player_4 10 rfl rfl)
theorem dX3_player_126 : decode cX3_player 126 = .ok (.iload_n 1, 1) := dk_27 (dk_at dksX3_player_4 12 rfl rfl)
theorem dX3_player_127 : decode cX3_player 127 = .ok (.iadd, 1) := dk_96 (dk_at dksX3_player_4 13 rfl rfl)
theorem dX3_player_128 : decode cX3_player 128 = .ok (.iaload, 1) := dk_46 (dk_at dksX3_player_4 14 rfl rfl)
theorem dX3_player_129 : decode cX3_player 129 = .ok (.ireturn, 1) := dk_172 (dk_at dksX3_player_4 15 rfl rfl)
theorem dX3_player_130 : decode cX3_player 130 = .ok (.iload_n 1, 1) := dk_27 (dk_at dksX3_player_4 16 rfl rfl)
theorem dX3_player_131 : decode cX3_player 131 = .ok (.invokestatic 142, 3) := dk_184 0 142 (dk_at dksX3_player_4 17 rfl rfl)
theorem dX3_player_134 : decode cX3_player 134 = .ok (.aload_n 0, 1) := dk_42 (dk_at dksX3_player_4 20 rfl rfl)
theorem dX3_player_135 : decode cX3_player 135 = .ok (.getfield 45, 3) := dk_180 0 45 (dk_at dksX3_player_4 21 rfl rfl)
theorem dX3_player_138 : decode cX3_player 138 = .ok (.ior, 1) := dk_128 (dk_at dksX3_player_5 0 rfl rfl)
theorem dX3_player_139 : decode cX3_player 139 = .ok (.invokestatic 55, 3) := dk_184 0 55 (dk_at dksX3_player_5 1 rfl rfl)
theorem dX3_player_142 : decode cX3_player 142 = .ok (.ireturn, 1) := dk_172 (dk_at dksX3_player_5 4 rfl rfl)
theorem dX3_player_143 : decode cX3_player 143 = .ok (.bipush (-2), 2) := dk_16 254 (dk_at dksX3_player_5 5 rfl rfl)
theorem dX3_player_145 : decode cX3_player 145 = .ok (.ireturn, 1) := dk_172 (dk_at dksX3_player_5 7 rfl rfl)
abbrev cX3_shown : ByteArray := prog_9_method_44_code
def yX3_shown : MethodName := ⟨RX3, "shown", "(I)I"⟩
def dkwX3_shown_1 : List UInt8 := [16, 14, 27, 96, 46, 42, 180, 0, 48, 126, 128, 126, 184, 0, 55, 172]
abbrev dktX3_shown_1 : List UInt8 := dkwX3_shown_1 ++ []
def dkwX3_shown_0 : List UInt8 := [42, 180, 0, 45, 42, 180, 0, 7, 16, 11, 27, 96, 46, 42, 180, 0, 48, 2, 130, 126, 42, 180, 0, 7]
abbrev dktX3_shown_0 : List UInt8 := dkwX3_shown_0 ++ dktX3_shown_1
theorem dksX3_shown_0 : cX3_shown.data.toList.drop 0 = dktX3_shown_0 := by decide +kernel
theorem dksX3_shown_1 : cX3_shown.data.toList.drop 24 = dktX3_shown_1 := dk_seg dksX3_shown_0 24 rfl rfl
theorem dX3_shown_0 : decode cX3_shown 0 = .ok (.aload_n 0, 1) := dk_42 (dk_at dksX3_shown_0 0 rfl rfl)
theorem dX3_shown_1 : decode cX3_shown 1 = .ok (.getfield 45, 3) := dk_180 0 45 (dk_at dksX3_shown_0 1 rfl rfl)
theorem dX3_shown_4 : decode cX3_shown 4 = .ok (.aload_n 0, 1) := dk_42 (dk_at dksX3_shown_0 4 rfl rfl)
theorem dX3_shown_5 : decode cX3_shown 5 = .ok (.getfield 7, 3) := dk_180 0 7 (dk_at dksX3_shown_0 5 rfl rfl)
theorem dX3_shown_8 : decode cX3_shown 8 = .ok (.bipush 11, 2) := dk_16 11 (dk_at dksX3_shown_0 8 rfl rfl)
theorem dX3_shown_10 : decode cX3_shown 10 = .ok (.iload_n 1, 1) := dk_27 (dk_at dksX3_shown_0 10 rfl rfl)
theorem dX3_shown_11 : decode cX3_shown 11 = .ok (.iadd, 1) := dk_96 (dk_at dksX3_shown_0 11 rfl rfl)
theorem dX3_shown_12 : decode cX3_shown 12 = .ok (.iaload, 1) := dk_46 (dk_at dksX3_shown_0 12 rfl rfl)
theorem dX3_shown_13 : decode cX3_shown 13 = .ok (.aload_n 0, 1) := dk_42 (dk_at dksX3_shown_0 13 rfl rfl)
theorem dX3_shown_14 : decode cX3_shown 14 = .ok (.getfield 48, 3) := dk_180 0 48 (dk_at dksX3_shown_0 14 rfl rfl)
theorem dX3_shown_17 : decode cX3_shown 17 = .ok (.iconst (-1), 1) := dk_2 (dk_at dksX3_shown_0 17 rfl rfl)
theorem dX3_shown_18 : decode cX3_shown 18 = .ok (.ixor, 1) := dk_130 (dk_at dksX3_shown_0 18 rfl rfl)
theorem dX3_shown_19 : decode cX3_shown 19 = .ok (.iand, 1) := dk_126 (dk_at dksX3_shown_0 19 rfl rfl)
theorem dX3_shown_20 : decode cX3_shown 20 = .ok (.aload_n 0, 1) := dk_42 (dk_at dksX3_shown_0 20 rfl rfl)
theorem dX3_shown_21 : decode cX3_shown 21 = .ok (.getfield 7, 3) := dk_180 0 7 (dk_at dksX3_shown_0 21 rfl rfl)
theorem dX3_shown_24 : decode cX3_shown 24 = .ok (.bipush 14, 2) := dk_16 14 (dk_at dksX3_shown_1 0 rfl rfl)
theorem dX3_shown_26 : decode cX3_shown 26 = .ok (.iload_n 1, 1) := dk_27 (dk_at dksX3_shown_1 2 rfl rfl)
theorem dX3_shown_27 : decode cX3_shown 27 = .ok (.iadd, 1) := dk_96 (dk_at dksX3_shown_1 3 rfl rfl)
theorem dX3_shown_28 : decode cX3_shown 28 = .ok (.iaload, 1) := dk_46 (dk_at dksX3_shown_1 4 rfl rfl)
theorem dX3_shown_29 : decode cX3_shown 29 = .ok (.aload_n 0, 1) := dk_42 (dk_at dksX3_shown_1 5 rfl rfl)
theorem dX3_shown_30 : decode cX3_shown 30 = .ok (.getfield 48, 3) := dk_180 0 48 (dk_at dksX3_shown_1 6 rfl rfl)
theorem dX3_shown_33 : decode cX3_shown 33 = .ok (.iand, 1) := dk_126 (dk_at dksX3_shown_1 9 rfl rfl)
theorem dX3_shown_34 : decode cX3_shown 34 = .ok (.ior, 1) := dk_128 (dk_at dksX3_shown_1 10 rfl rfl)
theorem dX3_shown_35 : decode cX3_shown 35 = .ok (.iand, 1) := dk_126 (dk_at dksX3_shown_1 11 rfl rfl)
theorem dX3_shown_36 : decode cX3_shown 36 = .ok (.invokestatic 55, 3) := dk_184 0 55 (dk_at dksX3_shown_1 12 rfl rfl)
theorem dX3_shown_39 : decode cX3_shown 39 = .ok (.ireturn, 1) := dk_172 (dk_at dksX3_shown_1 15 rfl rfl)
abbrev cX3_third : ByteArray := prog_9_method_43_code
def yX3_third : MethodName := ⟨RX3, "third", "(I)I"⟩
def dkwX3_third_0 : List UInt8 := [3, 60, 26, 61, 28, 16, 28, 162, 0, 15, 27, 4, 28, 120, 128, 60, 132, 2, 3, 167, 255, 241, 27, 172]
abbrev dktX3_third_0 : List UInt8 := dkwX3_third_0 ++ []
theorem dksX3_third_0 : cX3_third.data.toList.drop 0 = dktX3_third_0 := by decide +kernel
theorem dX3_third_0 : decode cX3_third 0 = .ok (.iconst 0, 1) := dk_3 (dk_at dksX3_third_0 0 rfl rfl)
theorem dX3_third_1 : decode cX3_third 1 = .ok (.istore_n 1, 1) := dk_60 (dk_at dksX3_third_0 1 rfl rfl)
theorem dX3_third_2 : decode cX3_third 2 = .ok (.iload_n 0, 1) := dk_26 (dk_at dksX3_third_0 2 rfl rfl)
theorem dX3_third_3 : decode cX3_third 3 = .ok (.istore_n 2, 1) := dk_61 (dk_at dksX3_third_0 3 rfl rfl)
theorem dX3_third_4 : decode cX3_third 4 = .ok (.iload_n 2, 1) := dk_28 (dk_at dksX3_third_0 4 rfl rfl)
theorem dX3_third_5 : decode cX3_third 5 = .ok (.bipush 28, 2) := dk_16 28 (dk_at dksX3_third_0 5 rfl rfl)
theorem dX3_third_7 : decode cX3_third 7 = .ok (.if_icmp .ge 15, 3) := dk_162 0 15 (dk_at dksX3_third_0 7 rfl rfl)
theorem dX3_third_10 : decode cX3_third 10 = .ok (.iload_n 1, 1) := dk_27 (dk_at dksX3_third_0 10 rfl rfl)
theorem dX3_third_11 : decode cX3_third 11 = .ok (.iconst 1, 1) := dk_4 (dk_at dksX3_third_0 11 rfl rfl)
theorem dX3_third_12 : decode cX3_third 12 = .ok (.iload_n 2, 1) := dk_28 (dk_at dksX3_third_0 12 rfl rfl)
theorem dX3_third_13 : decode cX3_third 13 = .ok (.ishl, 1) := dk_120 (dk_at dksX3_third_0 13 rfl rfl)
theorem dX3_third_14 : decode cX3_third 14 = .ok (.ior, 1) := dk_128 (dk_at dksX3_third_0 14 rfl rfl)
theorem dX3_third_15 : decode cX3_third 15 = .ok (.istore_n 1, 1) := dk_60 (dk_at dksX3_third_0 15 rfl rfl)
theorem dX3_third_16 : decode cX3_third 16 = .ok (.iinc 2 3, 3) := dk_132 2 3 (dk_at dksX3_third_0 16 rfl rfl)
theorem dX3_third_19 : decode cX3_third 19 = .ok (.goto (-15), 3) := dk_167 255 241 (dk_at dksX3_third_0 19 rfl rfl)
theorem dX3_third_22 : decode cX3_third 22 = .ok (.iload_n 1, 1) := dk_27 (dk_at dksX3_third_0 22 rfl rfl)
theorem dX3_third_23 : decode cX3_third 23 = .ok (.ireturn, 1) := dk_172 (dk_at dksX3_third_0 23 rfl rfl)
abbrev cX3_place : ByteArray := prog_9_method_48_code
def yX3_place : MethodName := ⟨RX3, "place", "(II)I"⟩
def dkwX3_place_4 : List UInt8 := [2, 130, 126, 184, 0, 55, 172, 42, 27, 182, 0, 145, 172, 42, 27, 182, 0, 148, 172, 16, 254, 172]
abbrev dktX3_place_4 : List UInt8 := dkwX3_place_4 ++ []
def dkwX3_place_3 : List UInt8 := [16, 250, 172, 27, 184, 0, 51, 42, 180, 0, 48, 126, 184, 0, 55, 172, 27, 184, 0, 51, 42, 180, 0, 45]
abbrev dktX3_place_3 : List UInt8 := dkwX3_place_3 ++ dktX3_place_4
def dkwX3_place_2 : List UInt8 := [42, 182, 0, 41, 153, 0, 20, 27, 184, 0, 51, 42, 180, 0, 7, 3, 46, 126, 184, 0, 55, 167, 0, 5]
abbrev dktX3_place_2 : List UInt8 := dkwX3_place_2 ++ dktX3_place_3
def dkwX3_place_1 : List UInt8 := [170, 0, 0, 0, 0, 0, 102, 0, 0, 0, 0, 0, 0, 0, 4, 0, 0, 0, 35, 0, 0, 0, 62, 0, 0, 0, 75, 0, 0, 0, 90, 0, 0, 0, 96]
abbrev dktX3_place_1 : List UInt8 := dkwX3_place_1 ++ dktX3_place_2
def dkwX3_place_0 : List UInt8 := [27, 184, 0, 67, 154, 0, 5, 2, 172, 42, 42, 180, 0, 7, 16, 17, 46, 182, 0, 80, 28]
abbrev dktX3_place_0 : List UInt8 := dkwX3_place_0 ++ dktX3_place_1
theorem dksX3_place_0 : cX3_place.data.toList.drop 0 = dktX3_place_0 := by decide +kernel
theorem dksX3_place_1 : cX3_place.data.toList.drop 21 = dktX3_place_1 := dk_seg dksX3_place_0 21 rfl rfl
theorem dksX3_place_2 : cX3_place.data.toList.drop 56 = dktX3_place_2 := dk_seg dksX3_place_1 35 rfl rfl
theorem dksX3_place_3 : cX3_place.data.toList.drop 80 = dktX3_place_3 := dk_seg dksX3_place_2 24 rfl rfl
theorem dksX3_place_4 : cX3_place.data.toList.drop 104 = dktX3_place_4 := dk_seg dksX3_place_3 24 rfl rfl
theorem dX3_place_0 : decode cX3_place 0 = .ok (.iload_n 1, 1) := dk_27 (dk_at dksX3_place_0 0 rfl rfl)
theorem dX3_place_1 : decode cX3_place 1 = .ok (.invokestatic 67, 3) := dk_184 0 67 (dk_at dksX3_place_0 1 rfl rfl)
theorem dX3_place_4 : decode cX3_place 4 = .ok (.ifCond .ne 5, 3) := dk_154 0 5 (dk_at dksX3_place_0 4 rfl rfl)
theorem dX3_place_7 : decode cX3_place 7 = .ok (.iconst (-1), 1) := dk_2 (dk_at dksX3_place_0 7 rfl rfl)
theorem dX3_place_8 : decode cX3_place 8 = .ok (.ireturn, 1) := dk_172 (dk_at dksX3_place_0 8 rfl rfl)
theorem dX3_place_9 : decode cX3_place 9 = .ok (.aload_n 0, 1) := dk_42 (dk_at dksX3_place_0 9 rfl rfl)
theorem dX3_place_10 : decode cX3_place 10 = .ok (.aload_n 0, 1) := dk_42 (dk_at dksX3_place_0 10 rfl rfl)
theorem dX3_place_11 : decode cX3_place 11 = .ok (.getfield 7, 3) := dk_180 0 7 (dk_at dksX3_place_0 11 rfl rfl)
theorem dX3_place_14 : decode cX3_place 14 = .ok (.bipush 17, 2) := dk_16 17 (dk_at dksX3_place_0 14 rfl rfl)
theorem dX3_place_16 : decode cX3_place 16 = .ok (.iaload, 1) := dk_46 (dk_at dksX3_place_0 16 rfl rfl)
theorem dX3_place_17 : decode cX3_place 17 = .ok (.invokevirtual 80, 3) := dk_182 0 80 (dk_at dksX3_place_0 17 rfl rfl)
theorem dX3_place_20 : decode cX3_place 20 = .ok (.iload_n 2, 1) := dk_28 (dk_at dksX3_place_0 20 rfl rfl)
theorem dX3_place_21 : decode cX3_place 21 = .ok (.tableswitch 102 0 4 #[35, 62, 75, 90, 96], 35) := by decide +kernel
theorem dX3_place_56 : decode cX3_place 56 = .ok (.aload_n 0, 1) := dk_42 (dk_at dksX3_place_2 0 rfl rfl)
theorem dX3_place_57 : decode cX3_place 57 = .ok (.invokevirtual 41, 3) := dk_182 0 41 (dk_at dksX3_place_2 1 rfl rfl)
theorem dX3_place_60 : decode cX3_place 60 = .ok (.ifCond .eq 20, 3) := dk_153 0 20 (dk_at dksX3_place_2 4 rfl rfl)
theorem dX3_place_63 : decode cX3_place 63 = .ok (.iload_n 1, 1) := dk_27 (dk_at dksX3_place_2 7 rfl rfl)
theorem dX3_place_64 : decode cX3_place 64 = .ok (.invokestatic 51, 3) := dk_184 0 51 (dk_at dksX3_place_2 8 rfl rfl)
theorem dX3_place_67 : decode cX3_place 67 = .ok (.aload_n 0, 1) := dk_42 (dk_at dksX3_place_2 11 rfl rfl)
theorem dX3_place_68 : decode cX3_place 68 = .ok (.getfield 7, 3) := dk_180 0 7 (dk_at dksX3_place_2 12 rfl rfl)
theorem dX3_place_71 : decode cX3_place 71 = .ok (.iconst 0, 1) := dk_3 (dk_at dksX3_place_2 15 rfl rfl)
theorem dX3_place_72 : decode cX3_place 72 = .ok (.iaload, 1) := dk_46 (dk_at dksX3_place_2 16 rfl rfl)
theorem dX3_place_73 : decode cX3_place 73 = .ok (.iand, 1) := dk_126 (dk_at dksX3_place_2 17 rfl rfl)
theorem dX3_place_74 : decode cX3_place 74 = .ok (.invokestatic 55, 3) := dk_184 0 55 (dk_at dksX3_place_2 18 rfl rfl)
theorem dX3_place_77 : decode cX3_place 77 = .ok (.goto 5, 3) := dk_167 0 5 (dk_at dksX3_place_2 21 rfl rfl)
theorem dX3_place_80 : decode cX3_place 80 = .ok (.bipush (-6), 2) := dk_16 250 (dk_at dksX3_place_3 0 rfl rfl)
theorem dX3_place_82 : decode cX3_place 82 = .ok (.ireturn, 1) := dk_172 (dk_at dksX3_place_3 2 rfl rfl)
theorem dX3_place_83 : decode cX3_place 83 = .ok (.iload_n 1, 1) := dk_27 (dk_at dksX3_place_3 3 rfl rfl)
theorem dX3_place_84 : decode cX3_place 84 = .ok (.invokestatic 51, 3) := dk_184 0 51 (dk_at dksX3_place_3 4 rfl rfl)
theorem dX3_place_87 : decode cX3_place 87 = .ok (.aload_n 0, 1) := dk_42 (dk_at dksX3_place_3 7 rfl rfl)
theorem dX3_place_88 : decode cX3_place 88 = .ok (.getfield 48, 3) := dk_180 0 48 (dk_at dksX3_place_3 8 rfl rfl)
theorem dX3_place_91 : decode cX3_place 91 = .ok (.iand, 1) := dk_126 (dk_at dksX3_place_3 11 rfl rfl)
theorem dX3_place_92 : decode cX3_place 92 = .ok (.invokestatic 55, 3) := dk_184 0 55 (dk_at dksX3_place_3 12 rfl rfl)
theorem dX3_place_95 : decode cX3_place 95 = .ok (.ireturn, 1) := dk_172 (dk_at dksX3_place_3 15 rfl rfl)
theorem dX3_place_96 : decode cX3_place 96 = .ok (.iload_n 1, 1) := dk_27 (dk_at dksX3_place_3 16 rfl rfl)
theorem dX3_place_97 : decode cX3_place 97 = .ok (.invokestatic 51, 3) := dk_184 0 51 (dk_at dksX3_place_3 17 rfl rfl)
theorem dX3_place_100 : decode cX3_place 100 = .ok (.aload_n 0, 1) := dk_42 (dk_at dksX3_place_3 20 rfl rfl)
theorem dX3_place_101 : decode cX3_place 101 = .ok (.getfield 45, 3) := dk_180 0 45 (dk_at dksX3_place_3 21 rfl rfl)
theorem dX3_place_104 : decode cX3_place 104 = .ok (.iconst (-1), 1) := dk_2 (dk_at dksX3_place_4 0 rfl rfl)
theorem dX3_place_105 : decode cX3_place 105 = .ok (.ixor, 1) := dk_130 (dk_at dksX3_place_4 1 rfl rfl)
theorem dX3_place_106 : decode cX3_place 106 = .ok (.iand, 1) := dk_126 (dk_at dksX3_place_4 2 rfl rfl)
theorem dX3_place_107 : decode cX3_place 107 = .ok (.invokestatic 55, 3) := dk_184 0 55 (dk_at dksX3_place_4 3 rfl rfl)
theorem dX3_place_110 : decode cX3_place 110 = .ok (.ireturn, 1) := dk_172 (dk_at dksX3_place_4 6 rfl rfl)
theorem dX3_place_111 : decode cX3_place 111 = .ok (.aload_n 0, 1) := dk_42 (dk_at dksX3_place_4 7 rfl rfl)
theorem dX3_place_112 : decode cX3_place 112 = .ok (.iload_n 1, 1) := dk_27 (dk_at dksX3_place_4 8 rfl rfl)
theorem dX3_place_113 : decode cX3_place 113 = .ok (.invokevirtual 145, 3) := dk_182 0 145 (dk_at dksX3_place_4 9 rfl rfl)
theorem dX3_place_116 : decode cX3_place 116 = .ok (.ireturn, 1) := dk_172 (dk_at dksX3_place_4 12 rfl rfl)
theorem dX3_place_117 : decode cX3_place 117 = .ok (.aload_n 0, 1) := dk_42 (dk_at dksX3_place_4 13 rfl rfl)
theorem dX3_place_118 : decode cX3_place 118 = .ok (.iload_n 1, 1) := dk_27 (dk_at dksX3_place_4 14 rfl rfl)
theorem dX3_place_119 : decode cX3_place 119 = .ok (.invokevirtual 148, 3) := dk_182 0 148 (dk_at dksX3_place_4 15 rfl rfl)
theorem dX3_place_122 : decode cX3_place 122 = .ok (.ireturn, 1) := dk_172 (dk_at dksX3_place_4 18 rfl rfl)
theorem dX3_place_123 : decode cX3_place 123 = .ok (.bipush (-2), 2) := dk_16 254 (dk_at dksX3_place_4 19 rfl rfl)
theorem dX3_place_125 : decode cX3_place 125 = .ok (.ireturn, 1) := dk_172 (dk_at dksX3_place_4 21 rfl rfl)
abbrev cX3_told : ByteArray := prog_9_method_46_code
def yX3_told : MethodName := ⟨RX3, "told", "(I)I"⟩
def dkwX3_told_2 : List UInt8 := [46, 172, 132, 2, 1, 167, 255, 206, 16, 250, 172]
abbrev dktX3_told_2 : List UInt8 := dkwX3_told_2 ++ []
def dkwX3_told_1 : List UInt8 := [160, 0, 26, 42, 27, 42, 180, 0, 7, 3, 46, 182, 0, 121, 42, 180, 0, 26, 42, 180, 0, 7, 4, 46]
abbrev dktX3_told_1 : List UInt8 := dkwX3_told_1 ++ dktX3_told_2
def dkwX3_told_0 : List UInt8 := [3, 61, 28, 42, 180, 0, 7, 16, 31, 46, 162, 0, 45, 42, 180, 0, 7, 16, 32, 28, 96, 46, 27]
abbrev dktX3_told_0 : List UInt8 := dkwX3_told_0 ++ dktX3_told_1
theorem dksX3_told_0 : cX3_told.data.toList.drop 0 = dktX3_told_0 := by decide +kernel
theorem dksX3_told_1 : cX3_told.data.toList.drop 23 = dktX3_told_1 := dk_seg dksX3_told_0 23 rfl rfl
theorem dksX3_told_2 : cX3_told.data.toList.drop 47 = dktX3_told_2 := dk_seg dksX3_told_1 24 rfl rfl
theorem dX3_told_0 : decode cX3_told 0 = .ok (.iconst 0, 1) := dk_3 (dk_at dksX3_told_0 0 rfl rfl)
theorem dX3_told_1 : decode cX3_told 1 = .ok (.istore_n 2, 1) := dk_61 (dk_at dksX3_told_0 1 rfl rfl)
theorem dX3_told_2 : decode cX3_told 2 = .ok (.iload_n 2, 1) := dk_28 (dk_at dksX3_told_0 2 rfl rfl)
theorem dX3_told_3 : decode cX3_told 3 = .ok (.aload_n 0, 1) := dk_42 (dk_at dksX3_told_0 3 rfl rfl)
theorem dX3_told_4 : decode cX3_told 4 = .ok (.getfield 7, 3) := dk_180 0 7 (dk_at dksX3_told_0 4 rfl rfl)
theorem dX3_told_7 : decode cX3_told 7 = .ok (.bipush 31, 2) := dk_16 31 (dk_at dksX3_told_0 7 rfl rfl)
theorem dX3_told_9 : decode cX3_told 9 = .ok (.iaload, 1) := dk_46 (dk_at dksX3_told_0 9 rfl rfl)
theorem dX3_told_10 : decode cX3_told 10 = .ok (.if_icmp .ge 45, 3) := dk_162 0 45 (dk_at dksX3_told_0 10 rfl rfl)
theorem dX3_told_13 : decode cX3_told 13 = .ok (.aload_n 0, 1) := dk_42 (dk_at dksX3_told_0 13 rfl rfl)
theorem dX3_told_14 : decode cX3_told 14 = .ok (.getfield 7, 3) := dk_180 0 7 (dk_at dksX3_told_0 14 rfl rfl)
theorem dX3_told_17 : decode cX3_told 17 = .ok (.bipush 32, 2) := dk_16 32 (dk_at dksX3_told_0 17 rfl rfl)
theorem dX3_told_19 : decode cX3_told 19 = .ok (.iload_n 2, 1) := dk_28 (dk_at dksX3_told_0 19 rfl rfl)
theorem dX3_told_20 : decode cX3_told 20 = .ok (.iadd, 1) := dk_96 (dk_at dksX3_told_0 20 rfl rfl)
theorem dX3_told_21 : decode cX3_told 21 = .ok (.iaload, 1) := dk_46 (dk_at dksX3_told_0 21 rfl rfl)
theorem dX3_told_22 : decode cX3_told 22 = .ok (.iload_n 1, 1) := dk_27 (dk_at dksX3_told_0 22 rfl rfl)
theorem dX3_told_23 : decode cX3_told 23 = .ok (.if_icmp .ne 26, 3) := dk_160 0 26 (dk_at dksX3_told_1 0 rfl rfl)
theorem dX3_told_26 : decode cX3_told 26 = .ok (.aload_n 0, 1) := dk_42 (dk_at dksX3_told_1 3 rfl rfl)
theorem dX3_told_27 : decode cX3_told 27 = .ok (.iload_n 1, 1) := dk_27 (dk_at dksX3_told_1 4 rfl rfl)
theorem dX3_told_28 : decode cX3_told 28 = .ok (.aload_n 0, 1) := dk_42 (dk_at dksX3_told_1 5 rfl rfl)
theorem dX3_told_29 : decode cX3_told 29 = .ok (.getfield 7, 3) := dk_180 0 7 (dk_at dksX3_told_1 6 rfl rfl)
theorem dX3_told_32 : decode cX3_told 32 = .ok (.iconst 0, 1) := dk_3 (dk_at dksX3_told_1 9 rfl rfl)
theorem dX3_told_33 : decode cX3_told 33 = .ok (.iaload, 1) := dk_46 (dk_at dksX3_told_1 10 rfl rfl)
theorem dX3_told_34 : decode cX3_told 34 = .ok (.invokevirtual 121, 3) := dk_182 0 121 (dk_at dksX3_told_1 11 rfl rfl)
theorem dX3_told_37 : decode cX3_told 37 = .ok (.aload_n 0, 1) := dk_42 (dk_at dksX3_told_1 14 rfl rfl)
theorem dX3_told_38 : decode cX3_told 38 = .ok (.getfield 26, 3) := dk_180 0 26 (dk_at dksX3_told_1 15 rfl rfl)
theorem dX3_told_41 : decode cX3_told 41 = .ok (.aload_n 0, 1) := dk_42 (dk_at dksX3_told_1 18 rfl rfl)
theorem dX3_told_42 : decode cX3_told 42 = .ok (.getfield 7, 3) := dk_180 0 7 (dk_at dksX3_told_1 19 rfl rfl)
theorem dX3_told_45 : decode cX3_told 45 = .ok (.iconst 1, 1) := dk_4 (dk_at dksX3_told_1 22 rfl rfl)
theorem dX3_told_46 : decode cX3_told 46 = .ok (.iaload, 1) := dk_46 (dk_at dksX3_told_1 23 rfl rfl)
theorem dX3_told_47 : decode cX3_told 47 = .ok (.iaload, 1) := dk_46 (dk_at dksX3_told_2 0 rfl rfl)
theorem dX3_told_48 : decode cX3_told 48 = .ok (.ireturn, 1) := dk_172 (dk_at dksX3_told_2 1 rfl rfl)
theorem dX3_told_49 : decode cX3_told 49 = .ok (.iinc 2 1, 3) := dk_132 2 1 (dk_at dksX3_told_2 2 rfl rfl)
theorem dX3_told_52 : decode cX3_told 52 = .ok (.goto (-50), 3) := dk_167 255 206 (dk_at dksX3_told_2 5 rfl rfl)
theorem dX3_told_55 : decode cX3_told 55 = .ok (.bipush (-6), 2) := dk_16 250 (dk_at dksX3_told_2 8 rfl rfl)
theorem dX3_told_57 : decode cX3_told 57 = .ok (.ireturn, 1) := dk_172 (dk_at dksX3_told_2 10 rfl rfl)
abbrev cX3_neighbours : ByteArray := prog_9_method_47_code
def yX3_neighbours : MethodName := ⟨RX3, "neighbours", "(I)I"⟩
def dkwX3_neighbours_2 : List UInt8 := [167, 255, 216, 28, 172]
abbrev dktX3_neighbours_2 : List UInt8 := dkwX3_neighbours_2 ++ []
def dkwX3_neighbours_1 : List UInt8 := [184, 0, 37, 122, 4, 126, 4, 160, 0, 9, 4, 29, 120, 167, 0, 4, 3, 128, 61, 132, 3, 1]
abbrev dktX3_neighbours_1 : List UInt8 := dkwX3_neighbours_1 ++ dktX3_neighbours_2
def dkwX3_neighbours_0 : List UInt8 := [3, 61, 3, 62, 29, 16, 8, 162, 0, 40, 28, 29, 27, 159, 0, 25, 42, 180, 0, 48, 27, 29]
abbrev dktX3_neighbours_0 : List UInt8 := dkwX3_neighbours_0 ++ dktX3_neighbours_1
theorem dksX3_neighbours_0 : cX3_neighbours.data.toList.drop 0 = dktX3_neighbours_0 := by decide +kernel
theorem dksX3_neighbours_1 : cX3_neighbours.data.toList.drop 22 = dktX3_neighbours_1 := dk_seg dksX3_neighbours_0 22 rfl rfl
theorem dksX3_neighbours_2 : cX3_neighbours.data.toList.drop 44 = dktX3_neighbours_2 := dk_seg dksX3_neighbours_1 22 rfl rfl
theorem dX3_neighbours_0 : decode cX3_neighbours 0 = .ok (.iconst 0, 1) := dk_3 (dk_at dksX3_neighbours_0 0 rfl rfl)
theorem dX3_neighbours_1 : decode cX3_neighbours 1 = .ok (.istore_n 2, 1) := dk_61 (dk_at dksX3_neighbours_0 1 rfl rfl)
theorem dX3_neighbours_2 : decode cX3_neighbours 2 = .ok (.iconst 0, 1) := dk_3 (dk_at dksX3_neighbours_0 2 rfl rfl)
theorem dX3_neighbours_3 : decode cX3_neighbours 3 = .ok (.istore_n 3, 1) := dk_62 (dk_at dksX3_neighbours_0 3 rfl rfl)
theorem dX3_neighbours_4 : decode cX3_neighbours 4 = .ok (.iload_n 3, 1) := dk_29 (dk_at dksX3_neighbours_0 4 rfl rfl)
theorem dX3_neighbours_5 : decode cX3_neighbours 5 = .ok (.bipush 8, 2) := dk_16 8 (dk_at dksX3_neighbours_0 5 rfl rfl)
theorem dX3_neighbours_7 : decode cX3_neighbours 7 = .ok (.if_icmp .ge 40, 3) := dk_162 0 40 (dk_at dksX3_neighbours_0 7 rfl rfl)
theorem dX3_neighbours_10 : decode cX3_neighbours 10 = .ok (.iload_n 2, 1) := dk_28 (dk_at dksX3_neighbours_0 10 rfl rfl)
theorem dX3_neighbours_11 : decode cX3_neighbours 11 = .ok (.iload_n 3, 1) := dk_29 (dk_at dksX3_neighbours_0 11 rfl rfl)
theorem dX3_neighbours_12 : decode cX3_neighbours 12 = .ok (.iload_n 1, 1) := dk_27 (dk_at dksX3_neighbours_0 12 rfl rfl)
theorem dX3_neighbours_13 : decode cX3_neighbours 13 = .ok (.if_icmp .eq 25, 3) := dk_159 0 25 (dk_at dksX3_neighbours_0 13 rfl rfl)
theorem dX3_neighbours_16 : decode cX3_neighbours 16 = .ok (.aload_n 0, 1) := dk_42 (dk_at dksX3_neighbours_0 16 rfl rfl)
theorem dX3_neighbours_17 : decode cX3_neighbours 17 = .ok (.getfield 48, 3) := dk_180 0 48 (dk_at dksX3_neighbours_0 17 rfl rfl)
theorem dX3_neighbours_20 : decode cX3_neighbours 20 = .ok (.iload_n 1, 1) := dk_27 (dk_at dksX3_neighbours_0 20 rfl rfl)
theorem dX3_neighbours_21 : decode cX3_neighbours 21 = .ok (.iload_n 3, 1) := dk_29 (dk_at dksX3_neighbours_0 21 rfl rfl)
theorem dX3_neighbours_22 : decode cX3_neighbours 22 = .ok (.invokestatic 37, 3) := dk_184 0 37 (dk_at dksX3_neighbours_1 0 rfl rfl)
theorem dX3_neighbours_25 : decode cX3_neighbours 25 = .ok (.ishr, 1) := dk_122 (dk_at dksX3_neighbours_1 3 rfl rfl)
theorem dX3_neighbours_26 : decode cX3_neighbours 26 = .ok (.iconst 1, 1) := dk_4 (dk_at dksX3_neighbours_1 4 rfl rfl)
theorem dX3_neighbours_27 : decode cX3_neighbours 27 = .ok (.iand, 1) := dk_126 (dk_at dksX3_neighbours_1 5 rfl rfl)
theorem dX3_neighbours_28 : decode cX3_neighbours 28 = .ok (.iconst 1, 1) := dk_4 (dk_at dksX3_neighbours_1 6 rfl rfl)
theorem dX3_neighbours_29 : decode cX3_neighbours 29 = .ok (.if_icmp .ne 9, 3) := dk_160 0 9 (dk_at dksX3_neighbours_1 7 rfl rfl)
theorem dX3_neighbours_32 : decode cX3_neighbours 32 = .ok (.iconst 1, 1) := dk_4 (dk_at dksX3_neighbours_1 10 rfl rfl)
theorem dX3_neighbours_33 : decode cX3_neighbours 33 = .ok (.iload_n 3, 1) := dk_29 (dk_at dksX3_neighbours_1 11 rfl rfl)
theorem dX3_neighbours_34 : decode cX3_neighbours 34 = .ok (.ishl, 1) := dk_120 (dk_at dksX3_neighbours_1 12 rfl rfl)
theorem dX3_neighbours_35 : decode cX3_neighbours 35 = .ok (.goto 4, 3) := dk_167 0 4 (dk_at dksX3_neighbours_1 13 rfl rfl)
theorem dX3_neighbours_38 : decode cX3_neighbours 38 = .ok (.iconst 0, 1) := dk_3 (dk_at dksX3_neighbours_1 16 rfl rfl)
theorem dX3_neighbours_39 : decode cX3_neighbours 39 = .ok (.ior, 1) := dk_128 (dk_at dksX3_neighbours_1 17 rfl rfl)
theorem dX3_neighbours_40 : decode cX3_neighbours 40 = .ok (.istore_n 2, 1) := dk_61 (dk_at dksX3_neighbours_1 18 rfl rfl)
theorem dX3_neighbours_41 : decode cX3_neighbours 41 = .ok (.iinc 3 1, 3) := dk_132 3 1 (dk_at dksX3_neighbours_1 19 rfl rfl)
theorem dX3_neighbours_44 : decode cX3_neighbours 44 = .ok (.goto (-40), 3) := dk_167 255 216 (dk_at dksX3_neighbours_2 0 rfl rfl)
theorem dX3_neighbours_47 : decode cX3_neighbours 47 = .ok (.iload_n 2, 1) := dk_28 (dk_at dksX3_neighbours_2 3 rfl rfl)
theorem dX3_neighbours_48 : decode cX3_neighbours 48 = .ok (.ireturn, 1) := dk_172 (dk_at dksX3_neighbours_2 4 rfl rfl)
abbrev cX3_dug : ByteArray := prog_9_method_49_code
def yX3_dug : MethodName := ⟨RX3, "dug", "(I)I"⟩
def dkwX3_dug_1 : List UInt8 := [96, 46, 167, 0, 4, 2, 172]
abbrev dktX3_dug_1 : List UInt8 := dkwX3_dug_1 ++ []
def dkwX3_dug_0 : List UInt8 := [27, 3, 42, 180, 0, 7, 16, 31, 46, 4, 100, 184, 0, 29, 153, 0, 15, 42, 180, 0, 7, 16, 32, 27]
abbrev dktX3_dug_0 : List UInt8 := dkwX3_dug_0 ++ dktX3_dug_1
theorem dksX3_dug_0 : cX3_dug.data.toList.drop 0 = dktX3_dug_0 := by decide +kernel
theorem dksX3_dug_1 : cX3_dug.data.toList.drop 24 = dktX3_dug_1 := dk_seg dksX3_dug_0 24 rfl rfl
theorem dX3_dug_0 : decode cX3_dug 0 = .ok (.iload_n 1, 1) := dk_27 (dk_at dksX3_dug_0 0 rfl rfl)
theorem dX3_dug_1 : decode cX3_dug 1 = .ok (.iconst 0, 1) := dk_3 (dk_at dksX3_dug_0 1 rfl rfl)
theorem dX3_dug_2 : decode cX3_dug 2 = .ok (.aload_n 0, 1) := dk_42 (dk_at dksX3_dug_0 2 rfl rfl)
theorem dX3_dug_3 : decode cX3_dug 3 = .ok (.getfield 7, 3) := dk_180 0 7 (dk_at dksX3_dug_0 3 rfl rfl)
theorem dX3_dug_6 : decode cX3_dug 6 = .ok (.bipush 31, 2) := dk_16 31 (dk_at dksX3_dug_0 6 rfl rfl)
theorem dX3_dug_8 : decode cX3_dug 8 = .ok (.iaload, 1) := dk_46 (dk_at dksX3_dug_0 8 rfl rfl)
theorem dX3_dug_9 : decode cX3_dug 9 = .ok (.iconst 1, 1) := dk_4 (dk_at dksX3_dug_0 9 rfl rfl)
theorem dX3_dug_10 : decode cX3_dug 10 = .ok (.isub, 1) := dk_100 (dk_at dksX3_dug_0 10 rfl rfl)
theorem dX3_dug_11 : decode cX3_dug 11 = .ok (.invokestatic 29, 3) := dk_184 0 29 (dk_at dksX3_dug_0 11 rfl rfl)
theorem dX3_dug_14 : decode cX3_dug 14 = .ok (.ifCond .eq 15, 3) := dk_153 0 15 (dk_at dksX3_dug_0 14 rfl rfl)
theorem dX3_dug_17 : decode cX3_dug 17 = .ok (.aload_n 0, 1) := dk_42 (dk_at dksX3_dug_0 17 rfl rfl)
theorem dX3_dug_18 : decode cX3_dug 18 = .ok (.getfield 7, 3) := dk_180 0 7 (dk_at dksX3_dug_0 18 rfl rfl)
theorem dX3_dug_21 : decode cX3_dug 21 = .ok (.bipush 32, 2) := dk_16 32 (dk_at dksX3_dug_0 21 rfl rfl)
theorem dX3_dug_23 : decode cX3_dug 23 = .ok (.iload_n 1, 1) := dk_27 (dk_at dksX3_dug_0 23 rfl rfl)
theorem dX3_dug_24 : decode cX3_dug 24 = .ok (.iadd, 1) := dk_96 (dk_at dksX3_dug_1 0 rfl rfl)
theorem dX3_dug_25 : decode cX3_dug 25 = .ok (.iaload, 1) := dk_46 (dk_at dksX3_dug_1 1 rfl rfl)
theorem dX3_dug_26 : decode cX3_dug 26 = .ok (.goto 4, 3) := dk_167 0 4 (dk_at dksX3_dug_1 2 rfl rfl)
theorem dX3_dug_29 : decode cX3_dug 29 = .ok (.iconst (-1), 1) := dk_2 (dk_at dksX3_dug_1 5 rfl rfl)
theorem dX3_dug_30 : decode cX3_dug 30 = .ok (.ireturn, 1) := dk_172 (dk_at dksX3_dug_1 6 rfl rfl)
abbrev cX3_count : ByteArray := prog_9_method_50_code
def yX3_count : MethodName := ⟨RX3, "count", "(I)I"⟩
def dkwX3_count_6 : List UInt8 := [180, 0, 33, 172, 16, 254, 172]
abbrev dktX3_count_6 : List UInt8 := dkwX3_count_6 ++ []
def dkwX3_count_5 : List UInt8 := [184, 0, 55, 172, 42, 180, 0, 7, 5, 27, 96, 16, 8, 100, 46, 172, 42, 180, 0, 151, 172, 42]
abbrev dktX3_count_5 : List UInt8 := dkwX3_count_5 ++ dktX3_count_6
def dkwX3_count_4 : List UInt8 := [3, 182, 0, 139, 42, 4, 182, 0, 139, 96, 42, 5, 182, 0, 139, 96, 172, 42, 180, 0, 7, 16, 17, 46]
abbrev dktX3_count_4 : List UInt8 := dkwX3_count_4 ++ dktX3_count_5
def dkwX3_count_3 : List UInt8 := [180, 0, 7, 16, 30, 46, 172, 42, 180, 0, 45, 184, 0, 55, 172, 42, 180, 0, 48, 184, 0, 55, 172, 42]
abbrev dktX3_count_3 : List UInt8 := dkwX3_count_3 ++ dktX3_count_4
def dkwX3_count_2 : List UInt8 := [42, 180, 0, 7, 16, 7, 46, 172, 42, 182, 0, 87, 172, 42, 180, 0, 7, 16, 6, 46, 172, 42]
abbrev dktX3_count_2 : List UInt8 := dkwX3_count_2 ++ dktX3_count_3
def dkwX3_count_1 : List UInt8 := [170, 0, 0, 0, 0, 0, 0, 168, 0, 0, 0, 0, 0, 0, 0, 13, 0, 0, 0, 72, 0, 0, 0, 80, 0, 0, 0, 85, 0, 0, 0, 93, 0, 0, 0, 101, 0, 0, 0, 109, 0, 0, 0, 117, 0, 0, 0, 135, 0, 0, 0, 146, 0, 0, 0, 146, 0, 0, 0, 146, 0, 0, 0, 146, 0, 0, 0, 158, 0, 0, 0, 163]
abbrev dktX3_count_1 : List UInt8 := dkwX3_count_1 ++ dktX3_count_2
def dkwX3_count_0 : List UInt8 := [42, 42, 180, 0, 7, 16, 17, 46, 182, 0, 80, 27]
abbrev dktX3_count_0 : List UInt8 := dkwX3_count_0 ++ dktX3_count_1
theorem dksX3_count_0 : cX3_count.data.toList.drop 0 = dktX3_count_0 := by decide +kernel
theorem dksX3_count_1 : cX3_count.data.toList.drop 12 = dktX3_count_1 := dk_seg dksX3_count_0 12 rfl rfl
theorem dksX3_count_2 : cX3_count.data.toList.drop 84 = dktX3_count_2 := dk_seg dksX3_count_1 72 rfl rfl
theorem dksX3_count_3 : cX3_count.data.toList.drop 106 = dktX3_count_3 := dk_seg dksX3_count_2 22 rfl rfl
theorem dksX3_count_4 : cX3_count.data.toList.drop 130 = dktX3_count_4 := dk_seg dksX3_count_3 24 rfl rfl
theorem dksX3_count_5 : cX3_count.data.toList.drop 154 = dktX3_count_5 := dk_seg dksX3_count_4 24 rfl rfl
theorem dksX3_count_6 : cX3_count.data.toList.drop 176 = dktX3_count_6 := dk_seg dksX3_count_5 22 rfl rfl
theorem dX3_count_0 : decode cX3_count 0 = .ok (.aload_n 0, 1) := dk_42 (dk_at dksX3_count_0 0 rfl rfl)
theorem dX3_count_1 : decode cX3_count 1 = .ok (.aload_n 0, 1) := dk_42 (dk_at dksX3_count_0 1 rfl rfl)
theorem dX3_count_2 : decode cX3_count 2 = .ok (.getfield 7, 3) := dk_180 0 7 (dk_at dksX3_count_0 2 rfl rfl)
theorem dX3_count_5 : decode cX3_count 5 = .ok (.bipush 17, 2) := dk_16 17 (dk_at dksX3_count_0 5 rfl rfl)
theorem dX3_count_7 : decode cX3_count 7 = .ok (.iaload, 1) := dk_46 (dk_at dksX3_count_0 7 rfl rfl)
theorem dX3_count_8 : decode cX3_count 8 = .ok (.invokevirtual 80, 3) := dk_182 0 80 (dk_at dksX3_count_0 8 rfl rfl)
theorem dX3_count_11 : decode cX3_count 11 = .ok (.iload_n 1, 1) := dk_27 (dk_at dksX3_count_0 11 rfl rfl)
theorem dX3_count_12 : decode cX3_count 12 = .ok (.tableswitch 168 0 13 #[72, 80, 85, 93, 101, 109, 117, 135, 146, 146, 146, 146, 158, 163], 72) := by decide +kernel
theorem dX3_count_84 : decode cX3_count 84 = .ok (.aload_n 0, 1) := dk_42 (dk_at dksX3_count_2 0 rfl rfl)
theorem dX3_count_85 : decode cX3_count 85 = .ok (.getfield 7, 3) := dk_180 0 7 (dk_at dksX3_count_2 1 rfl rfl)
theorem dX3_count_88 : decode cX3_count 88 = .ok (.bipush 7, 2) := dk_16 7 (dk_at dksX3_count_2 4 rfl rfl)
theorem dX3_count_90 : decode cX3_count 90 = .ok (.iaload, 1) := dk_46 (dk_at dksX3_count_2 6 rfl rfl)
theorem dX3_count_91 : decode cX3_count 91 = .ok (.ireturn, 1) := dk_172 (dk_at dksX3_count_2 7 rfl rfl)
theorem dX3_count_92 : decode cX3_count 92 = .ok (.aload_n 0, 1) := dk_42 (dk_at dksX3_count_2 8 rfl rfl)
theorem dX3_count_93 : decode cX3_count 93 = .ok (.invokevirtual 87, 3) := dk_182 0 87 (dk_at dksX3_count_2 9 rfl rfl)
theorem dX3_count_96 : decode cX3_count 96 = .ok (.ireturn, 1) := dk_172 (dk_at dksX3_count_2 12 rfl rfl)
theorem dX3_count_97 : decode cX3_count 97 = .ok (.aload_n 0, 1) := dk_42 (dk_at dksX3_count_2 13 rfl rfl)
theorem dX3_count_98 : decode cX3_count 98 = .ok (.getfield 7, 3) := dk_180 0 7 (dk_at dksX3_count_2 14 rfl rfl)
theorem dX3_count_101 : decode cX3_count 101 = .ok (.bipush 6, 2) := dk_16 6 (dk_at dksX3_count_2 17 rfl rfl)
theorem dX3_count_103 : decode cX3_count 103 = .ok (.iaload, 1) := dk_46 (dk_at dksX3_count_2 19 rfl rfl)
theorem dX3_count_104 : decode cX3_count 104 = .ok (.ireturn, 1) := dk_172 (dk_at dksX3_count_2 20 rfl rfl)
theorem dX3_count_105 : decode cX3_count 105 = .ok (.aload_n 0, 1) := dk_42 (dk_at dksX3_count_2 21 rfl rfl)
theorem dX3_count_106 : decode cX3_count 106 = .ok (.getfield 7, 3) := dk_180 0 7 (dk_at dksX3_count_3 0 rfl rfl)
theorem dX3_count_109 : decode cX3_count 109 = .ok (.bipush 30, 2) := dk_16 30 (dk_at dksX3_count_3 3 rfl rfl)
theorem dX3_count_111 : decode cX3_count 111 = .ok (.iaload, 1) := dk_46 (dk_at dksX3_count_3 5 rfl rfl)
theorem dX3_count_112 : decode cX3_count 112 = .ok (.ireturn, 1) := dk_172 (dk_at dksX3_count_3 6 rfl rfl)
theorem dX3_count_113 : decode cX3_count 113 = .ok (.aload_n 0, 1) := dk_42 (dk_at dksX3_count_3 7 rfl rfl)
theorem dX3_count_114 : decode cX3_count 114 = .ok (.getfield 45, 3) := dk_180 0 45 (dk_at dksX3_count_3 8 rfl rfl)
theorem dX3_count_117 : decode cX3_count 117 = .ok (.invokestatic 55, 3) := dk_184 0 55 (dk_at dksX3_count_3 11 rfl rfl)
theorem dX3_count_120 : decode cX3_count 120 = .ok (.ireturn, 1) := dk_172 (dk_at dksX3_count_3 14 rfl rfl)
theorem dX3_count_121 : decode cX3_count 121 = .ok (.aload_n 0, 1) := dk_42 (dk_at dksX3_count_3 15 rfl rfl)
theorem dX3_count_122 : decode cX3_count 122 = .ok (.getfield 48, 3) := dk_180 0 48 (dk_at dksX3_count_3 16 rfl rfl)
theorem dX3_count_125 : decode cX3_count 125 = .ok (.invokestatic 55, 3) := dk_184 0 55 (dk_at dksX3_count_3 19 rfl rfl)
theorem dX3_count_128 : decode cX3_count 128 = .ok (.ireturn, 1) := dk_172 (dk_at dksX3_count_3 22 rfl rfl)
theorem dX3_count_129 : decode cX3_count 129 = .ok (.aload_n 0, 1) := dk_42 (dk_at dksX3_count_3 23 rfl rfl)
theorem dX3_count_130 : decode cX3_count 130 = .ok (.iconst 0, 1) := dk_3 (dk_at dksX3_count_4 0 rfl rfl)
theorem dX3_count_131 : decode cX3_count 131 = .ok (.invokevirtual 139, 3) := dk_182 0 139 (dk_at dksX3_count_4 1 rfl rfl)
theorem dX3_count_134 : decode cX3_count 134 = .ok (.aload_n 0, 1) := dk_42 (dk_at dksX3_count_4 4 rfl rfl)
theorem dX3_count_135 : decode cX3_count 135 = .ok (.iconst 1, 1) := dk_4 (dk_at dksX3_count_4 5 rfl rfl)
theorem dX3_count_136 : decode cX3_count 136 = .ok (.invokevirtual 139, 3) := dk_182 0 139 (dk_at dksX3_count_4 6 rfl rfl)
theorem dX3_count_139 : decode cX3_count 139 = .ok (.iadd, 1) := dk_96 (dk_at dksX3_count_4 9 rfl rfl)
theorem dX3_count_140 : decode cX3_count 140 = .ok (.aload_n 0, 1) := dk_42 (dk_at dksX3_count_4 10 rfl rfl)
theorem dX3_count_141 : decode cX3_count 141 = .ok (.iconst 2, 1) := dk_5 (dk_at dksX3_count_4 11 rfl rfl)
theorem dX3_count_142 : decode cX3_count 142 = .ok (.invokevirtual 139, 3) := dk_182 0 139 (dk_at dksX3_count_4 12 rfl rfl)
theorem dX3_count_145 : decode cX3_count 145 = .ok (.iadd, 1) := dk_96 (dk_at dksX3_count_4 15 rfl rfl)
theorem dX3_count_146 : decode cX3_count 146 = .ok (.ireturn, 1) := dk_172 (dk_at dksX3_count_4 16 rfl rfl)
theorem dX3_count_147 : decode cX3_count 147 = .ok (.aload_n 0, 1) := dk_42 (dk_at dksX3_count_4 17 rfl rfl)
theorem dX3_count_148 : decode cX3_count 148 = .ok (.getfield 7, 3) := dk_180 0 7 (dk_at dksX3_count_4 18 rfl rfl)
theorem dX3_count_151 : decode cX3_count 151 = .ok (.bipush 17, 2) := dk_16 17 (dk_at dksX3_count_4 21 rfl rfl)
theorem dX3_count_153 : decode cX3_count 153 = .ok (.iaload, 1) := dk_46 (dk_at dksX3_count_4 23 rfl rfl)
theorem dX3_count_154 : decode cX3_count 154 = .ok (.invokestatic 55, 3) := dk_184 0 55 (dk_at dksX3_count_5 0 rfl rfl)
theorem dX3_count_157 : decode cX3_count 157 = .ok (.ireturn, 1) := dk_172 (dk_at dksX3_count_5 3 rfl rfl)
theorem dX3_count_158 : decode cX3_count 158 = .ok (.aload_n 0, 1) := dk_42 (dk_at dksX3_count_5 4 rfl rfl)
theorem dX3_count_159 : decode cX3_count 159 = .ok (.getfield 7, 3) := dk_180 0 7 (dk_at dksX3_count_5 5 rfl rfl)
theorem dX3_count_162 : decode cX3_count 162 = .ok (.iconst 2, 1) := dk_5 (dk_at dksX3_count_5 8 rfl rfl)
theorem dX3_count_163 : decode cX3_count 163 = .ok (.iload_n 1, 1) := dk_27 (dk_at dksX3_count_5 9 rfl rfl)
theorem dX3_count_164 : decode cX3_count 164 = .ok (.iadd, 1) := dk_96 (dk_at dksX3_count_5 10 rfl rfl)
theorem dX3_count_165 : decode cX3_count 165 = .ok (.bipush 8, 2) := dk_16 8 (dk_at dksX3_count_5 11 rfl rfl)
theorem dX3_count_167 : decode cX3_count 167 = .ok (.isub, 1) := dk_100 (dk_at dksX3_count_5 13 rfl rfl)
theorem dX3_count_168 : decode cX3_count 168 = .ok (.iaload, 1) := dk_46 (dk_at dksX3_count_5 14 rfl rfl)
theorem dX3_count_169 : decode cX3_count 169 = .ok (.ireturn, 1) := dk_172 (dk_at dksX3_count_5 15 rfl rfl)
theorem dX3_count_170 : decode cX3_count 170 = .ok (.aload_n 0, 1) := dk_42 (dk_at dksX3_count_5 16 rfl rfl)
theorem dX3_count_171 : decode cX3_count 171 = .ok (.getfield 151, 3) := dk_180 0 151 (dk_at dksX3_count_5 17 rfl rfl)
theorem dX3_count_174 : decode cX3_count 174 = .ok (.ireturn, 1) := dk_172 (dk_at dksX3_count_5 20 rfl rfl)
theorem dX3_count_175 : decode cX3_count 175 = .ok (.aload_n 0, 1) := dk_42 (dk_at dksX3_count_5 21 rfl rfl)
theorem dX3_count_176 : decode cX3_count 176 = .ok (.getfield 33, 3) := dk_180 0 33 (dk_at dksX3_count_6 0 rfl rfl)
theorem dX3_count_179 : decode cX3_count 179 = .ok (.ireturn, 1) := dk_172 (dk_at dksX3_count_6 3 rfl rfl)
theorem dX3_count_180 : decode cX3_count 180 = .ok (.bipush (-2), 2) := dk_16 254 (dk_at dksX3_count_6 4 rfl rfl)
theorem dX3_count_182 : decode cX3_count 182 = .ok (.ireturn, 1) := dk_172 (dk_at dksX3_count_6 6 rfl rfl)
abbrev cX3_canBe : ByteArray := prog_9_method_51_code
def yX3_canBe : MethodName := ⟨RX3, "canBe", "()I"⟩
def dkwX3_canBe_4 : List UInt8 := [167, 255, 177, 27, 172]
abbrev dktX3_canBe_4 : List UInt8 := dkwX3_canBe_4 ++ []
def dkwX3_canBe_3 : List UInt8 := [46, 160, 0, 7, 2, 167, 0, 8, 4, 29, 120, 2, 130, 126, 60, 132, 3, 1, 167, 255, 215, 132, 2, 1]
abbrev dktX3_canBe_3 : List UInt8 := dkwX3_canBe_3 ++ dktX3_canBe_4
def dkwX3_canBe_2 : List UInt8 := [62, 29, 16, 8, 162, 0, 41, 27, 42, 180, 0, 26, 29, 46, 42, 180, 0, 26, 42, 180, 0, 7, 4, 46]
abbrev dktX3_canBe_2 : List UInt8 := dkwX3_canBe_2 ++ dktX3_canBe_3
def dkwX3_canBe_1 : List UInt8 := [46, 162, 0, 74, 42, 42, 180, 0, 7, 16, 32, 28, 96, 46, 42, 180, 0, 7, 3, 46, 182, 0, 121, 3]
abbrev dktX3_canBe_1 : List UInt8 := dkwX3_canBe_1 ++ dktX3_canBe_2
def dkwX3_canBe_0 : List UInt8 := [42, 182, 0, 41, 153, 0, 9, 17, 0, 255, 167, 0, 4, 3, 60, 3, 61, 28, 42, 180, 0, 7, 16, 31]
abbrev dktX3_canBe_0 : List UInt8 := dkwX3_canBe_0 ++ dktX3_canBe_1
theorem dksX3_canBe_0 : cX3_canBe.data.toList.drop 0 = dktX3_canBe_0 := by decide +kernel
theorem dksX3_canBe_1 : cX3_canBe.data.toList.drop 24 = dktX3_canBe_1 := dk_seg dksX3_canBe_0 24 rfl rfl
theorem dksX3_canBe_2 : cX3_canBe.data.toList.drop 48 = dktX3_canBe_2 := dk_seg dksX3_canBe_1 24 rfl rfl
theorem dksX3_canBe_3 : cX3_canBe.data.toList.drop 72 = dktX3_canBe_3 := dk_seg dksX3_canBe_2 24 rfl rfl
theorem dksX3_canBe_4 : cX3_canBe.data.toList.drop 96 = dktX3_canBe_4 := dk_seg dksX3_canBe_3 24 rfl rfl
theorem dX3_canBe_0 : decode cX3_canBe 0 = .ok (.aload_n 0, 1) := dk_42 (dk_at dksX3_canBe_0 0 rfl rfl)
theorem dX3_canBe_1 : decode cX3_canBe 1 = .ok (.invokevirtual 41, 3) := dk_182 0 41 (dk_at dksX3_canBe_0 1 rfl rfl)
theorem dX3_canBe_4 : decode cX3_canBe 4 = .ok (.ifCond .eq 9, 3) := dk_153 0 9 (dk_at dksX3_canBe_0 4 rfl rfl)
theorem dX3_canBe_7 : decode cX3_canBe 7 = .ok (.sipush 255, 3) := dk_17 0 255 (dk_at dksX3_canBe_0 7 rfl rfl)
theorem dX3_canBe_10 : decode cX3_canBe 10 = .ok (.goto 4, 3) := dk_167 0 4 (dk_at dksX3_canBe_0 10 rfl rfl)
theorem dX3_canBe_13 : decode cX3_canBe 13 = .ok (.iconst 0, 1) := dk_3 (dk_at dksX3_canBe_0 13 rfl rfl)
theorem dX3_canBe_14 : decode cX3_canBe 14 = .ok (.istore_n 1, 1) := dk_60 (dk_at dksX3_canBe_0 14 rfl rfl)
theorem dX3_canBe_15 : decode cX3_canBe 15 = .ok (.iconst 0, 1) := dk_3 (dk_at dksX3_canBe_0 15 rfl rfl)
theorem dX3_canBe_16 : decode cX3_canBe 16 = .ok (.istore_n 2, 1) := dk_61 (dk_at dksX3_canBe_0 16 rfl rfl)
theorem dX3_canBe_17 : decode cX3_canBe 17 = .ok (.iload_n 2, 1) := dk_28 (dk_at dksX3_canBe_0 17 rfl rfl)
theorem dX3_canBe_18 : decode cX3_canBe 18 = .ok (.aload_n 0, 1) := dk_42 (dk_at dksX3_canBe_0 18 rfl rfl)
theorem dX3_canBe_19 : decode cX3_canBe 19 = .ok (.getfield 7, 3) := dk_180 0 7 (dk_at dksX3_canBe_0 19 rfl rfl)
theorem dX3_canBe_22 : decode cX3_canBe 22 = .ok (.bipush 31, 2) := dk_16 31 (dk_at dksX3_canBe_0 22 rfl rfl)
theorem dX3_canBe_24 : decode cX3_canBe 24 = .ok (.iaload, 1) := dk_46 (dk_at dksX3_canBe_1 0 rfl rfl)
theorem dX3_canBe_25 : decode cX3_canBe 25 = .ok (.if_icmp .ge 74, 3) := dk_162 0 74 (dk_at dksX3_canBe_1 1 rfl rfl)
theorem dX3_canBe_28 : decode cX3_canBe 28 = .ok (.aload_n 0, 1) := dk_42 (dk_at dksX3_canBe_1 4 rfl rfl)
theorem dX3_canBe_29 : decode cX3_canBe 29 = .ok (.aload_n 0, 1) := dk_42 (dk_at dksX3_canBe_1 5 rfl rfl)
theorem dX3_canBe_30 : decode cX3_canBe 30 = .ok (.getfield 7, 3) := dk_180 0 7 (dk_at dksX3_canBe_1 6 rfl rfl)
theorem dX3_canBe_33 : decode cX3_canBe 33 = .ok (.bipush 32, 2) := dk_16 32 (dk_at dksX3_canBe_1 9 rfl rfl)
theorem dX3_canBe_35 : decode cX3_canBe 35 = .ok (.iload_n 2, 1) := dk_28 (dk_at dksX3_canBe_1 11 rfl rfl)
theorem dX3_canBe_36 : decode cX3_canBe 36 = .ok (.iadd, 1) := dk_96 (dk_at dksX3_canBe_1 12 rfl rfl)
theorem dX3_canBe_37 : decode cX3_canBe 37 = .ok (.iaload, 1) := dk_46 (dk_at dksX3_canBe_1 13 rfl rfl)
theorem dX3_canBe_38 : decode cX3_canBe 38 = .ok (.aload_n 0, 1) := dk_42 (dk_at dksX3_canBe_1 14 rfl rfl)
theorem dX3_canBe_39 : decode cX3_canBe 39 = .ok (.getfield 7, 3) := dk_180 0 7 (dk_at dksX3_canBe_1 15 rfl rfl)
theorem dX3_canBe_42 : decode cX3_canBe 42 = .ok (.iconst 0, 1) := dk_3 (dk_at dksX3_canBe_1 18 rfl rfl)
theorem dX3_canBe_43 : decode cX3_canBe 43 = .ok (.iaload, 1) := dk_46 (dk_at dksX3_canBe_1 19 rfl rfl)
theorem dX3_canBe_44 : decode cX3_canBe 44 = .ok (.invokevirtual 121, 3) := dk_182 0 121 (dk_at dksX3_canBe_1 20 rfl rfl)
theorem dX3_canBe_47 : decode cX3_canBe 47 = .ok (.iconst 0, 1) := dk_3 (dk_at dksX3_canBe_1 23 rfl rfl)
theorem dX3_canBe_48 : decode cX3_canBe 48 = .ok (.istore_n 3, 1) := dk_62 (dk_at dksX3_canBe_2 0 rfl rfl)
theorem dX3_canBe_49 : decode cX3_canBe 49 = .ok (.iload_n 3, 1) := dk_29 (dk_at dksX3_canBe_2 1 rfl rfl)
theorem dX3_canBe_50 : decode cX3_canBe 50 = .ok (.bipush 8, 2) := dk_16 8 (dk_at dksX3_canBe_2 2 rfl rfl)
theorem dX3_canBe_52 : decode cX3_canBe 52 = .ok (.if_icmp .ge 41, 3) := dk_162 0 41 (dk_at dksX3_canBe_2 4 rfl rfl)
theorem dX3_canBe_55 : decode cX3_canBe 55 = .ok (.iload_n 1, 1) := dk_27 (dk_at dksX3_canBe_2 7 rfl rfl)
theorem dX3_canBe_56 : decode cX3_canBe 56 = .ok (.aload_n 0, 1) := dk_42 (dk_at dksX3_canBe_2 8 rfl rfl)
theorem dX3_canBe_57 : decode cX3_canBe 57 = .ok (.getfield 26, 3) := dk_180 0 26 (dk_at dksX3_canBe_2 9 rfl rfl)
theorem dX3_canBe_60 : decode cX3_canBe 60 = .ok (.iload_n 3, 1) := dk_29 (dk_at dksX3_canBe_2 12 rfl rfl)
theorem dX3_canBe_61 : decode cX3_canBe 61 = .ok (.iaload, 1) := dk_46 (dk_at dksX3_canBe_2 13 rfl rfl)
theorem dX3_canBe_62 : decode cX3_canBe 62 = .ok (.aload_n 0, 1) := dk_42 (dk_at dksX3_canBe_2 14 rfl rfl)
theorem dX3_canBe_63 : decode cX3_canBe 63 = .ok (.getfield 26, 3) := dk_180 0 26 (dk_at dksX3_canBe_2 15 rfl rfl)
theorem dX3_canBe_66 : decode cX3_canBe 66 = .ok (.aload_n 0, 1) := dk_42 (dk_at dksX3_canBe_2 18 rfl rfl)
theorem dX3_canBe_67 : decode cX3_canBe 67 = .ok (.getfield 7, 3) := dk_180 0 7 (dk_at dksX3_canBe_2 19 rfl rfl)
theorem dX3_canBe_70 : decode cX3_canBe 70 = .ok (.iconst 1, 1) := dk_4 (dk_at dksX3_canBe_2 22 rfl rfl)
theorem dX3_canBe_71 : decode cX3_canBe 71 = .ok (.iaload, 1) := dk_46 (dk_at dksX3_canBe_2 23 rfl rfl)
theorem dX3_canBe_72 : decode cX3_canBe 72 = .ok (.iaload, 1) := dk_46 (dk_at dksX3_canBe_3 0 rfl rfl)
theorem dX3_canBe_73 : decode cX3_canBe 73 = .ok (.if_icmp .ne 7, 3) := dk_160 0 7 (dk_at dksX3_canBe_3 1 rfl rfl)
theorem dX3_canBe_76 : decode cX3_canBe 76 = .ok (.iconst (-1), 1) := dk_2 (dk_at dksX3_canBe_3 4 rfl rfl)
theorem dX3_canBe_77 : decode cX3_canBe 77 = .ok (.goto 8, 3) := dk_167 0 8 (dk_at dksX3_canBe_3 5 rfl rfl)
theorem dX3_canBe_80 : decode cX3_canBe 80 = .ok (.iconst 1, 1) := dk_4 (dk_at dksX3_canBe_3 8 rfl rfl)
theorem dX3_canBe_81 : decode cX3_canBe 81 = .ok (.iload_n 3, 1) := dk_29 (dk_at dksX3_canBe_3 9 rfl rfl)
theorem dX3_canBe_82 : decode cX3_canBe 82 = .ok (.ishl, 1) := dk_120 (dk_at dksX3_canBe_3 10 rfl rfl)
theorem dX3_canBe_83 : decode cX3_canBe 83 = .ok (.iconst (-1), 1) := dk_2 (dk_at dksX3_canBe_3 11 rfl rfl)
theorem dX3_canBe_84 : decode cX3_canBe 84 = .ok (.ixor, 1) := dk_130 (dk_at dksX3_canBe_3 12 rfl rfl)
theorem dX3_canBe_85 : decode cX3_canBe 85 = .ok (.iand, 1) := dk_126 (dk_at dksX3_canBe_3 13 rfl rfl)
theorem dX3_canBe_86 : decode cX3_canBe 86 = .ok (.istore_n 1, 1) := dk_60 (dk_at dksX3_canBe_3 14 rfl rfl)
theorem dX3_canBe_87 : decode cX3_canBe 87 = .ok (.iinc 3 1, 3) := dk_132 3 1 (dk_at dksX3_canBe_3 15 rfl rfl)
theorem dX3_canBe_90 : decode cX3_canBe 90 = .ok (.goto (-41), 3) := dk_167 255 215 (dk_at dksX3_canBe_3 18 rfl rfl)
theorem dX3_canBe_93 : decode cX3_canBe 93 = .ok (.iinc 2 1, 3) := dk_132 2 1 (dk_at dksX3_canBe_3 21 rfl rfl)
theorem dX3_canBe_96 : decode cX3_canBe 96 = .ok (.goto (-79), 3) := dk_167 255 177 (dk_at dksX3_canBe_4 0 rfl rfl)
theorem dX3_canBe_99 : decode cX3_canBe 99 = .ok (.iload_n 1, 1) := dk_27 (dk_at dksX3_canBe_4 3 rfl rfl)
theorem dX3_canBe_100 : decode cX3_canBe 100 = .ok (.ireturn, 1) := dk_172 (dk_at dksX3_canBe_4 4 rfl rfl)
abbrev cX3_shows : ByteArray := prog_9_method_53_code
def yX3_shows : MethodName := ⟨RX3, "shows", "(II)I"⟩
def dkwX3_shows_1 : List UInt8 := [184, 0, 37, 182, 0, 154, 167, 0, 5, 16, 251, 172]
abbrev dktX3_shows_1 : List UInt8 := dkwX3_shows_1 ++ []
def dkwX3_shows_0 : List UInt8 := [27, 28, 184, 0, 130, 62, 29, 156, 0, 7, 29, 167, 0, 24, 42, 182, 0, 41, 153, 0, 15, 42, 27, 28]
abbrev dktX3_shows_0 : List UInt8 := dkwX3_shows_0 ++ dktX3_shows_1
theorem dksX3_shows_0 : cX3_shows.data.toList.drop 0 = dktX3_shows_0 := by decide +kernel
theorem dksX3_shows_1 : cX3_shows.data.toList.drop 24 = dktX3_shows_1 := dk_seg dksX3_shows_0 24 rfl rfl
theorem dX3_shows_0 : decode cX3_shows 0 = .ok (.iload_n 1, 1) := dk_27 (dk_at dksX3_shows_0 0 rfl rfl)
theorem dX3_shows_1 : decode cX3_shows 1 = .ok (.iload_n 2, 1) := dk_28 (dk_at dksX3_shows_0 1 rfl rfl)
theorem dX3_shows_2 : decode cX3_shows 2 = .ok (.invokestatic 130, 3) := dk_184 0 130 (dk_at dksX3_shows_0 2 rfl rfl)
theorem dX3_shows_5 : decode cX3_shows 5 = .ok (.istore_n 3, 1) := dk_62 (dk_at dksX3_shows_0 5 rfl rfl)
theorem dX3_shows_6 : decode cX3_shows 6 = .ok (.iload_n 3, 1) := dk_29 (dk_at dksX3_shows_0 6 rfl rfl)
theorem dX3_shows_7 : decode cX3_shows 7 = .ok (.ifCond .ge 7, 3) := dk_156 0 7 (dk_at dksX3_shows_0 7 rfl rfl)
theorem dX3_shows_10 : decode cX3_shows 10 = .ok (.iload_n 3, 1) := dk_29 (dk_at dksX3_shows_0 10 rfl rfl)
theorem dX3_shows_11 : decode cX3_shows 11 = .ok (.goto 24, 3) := dk_167 0 24 (dk_at dksX3_shows_0 11 rfl rfl)
theorem dX3_shows_14 : decode cX3_shows 14 = .ok (.aload_n 0, 1) := dk_42 (dk_at dksX3_shows_0 14 rfl rfl)
theorem dX3_shows_15 : decode cX3_shows 15 = .ok (.invokevirtual 41, 3) := dk_182 0 41 (dk_at dksX3_shows_0 15 rfl rfl)
theorem dX3_shows_18 : decode cX3_shows 18 = .ok (.ifCond .eq 15, 3) := dk_153 0 15 (dk_at dksX3_shows_0 18 rfl rfl)
theorem dX3_shows_21 : decode cX3_shows 21 = .ok (.aload_n 0, 1) := dk_42 (dk_at dksX3_shows_0 21 rfl rfl)
theorem dX3_shows_22 : decode cX3_shows 22 = .ok (.iload_n 1, 1) := dk_27 (dk_at dksX3_shows_0 22 rfl rfl)
theorem dX3_shows_23 : decode cX3_shows 23 = .ok (.iload_n 2, 1) := dk_28 (dk_at dksX3_shows_0 23 rfl rfl)
theorem dX3_shows_24 : decode cX3_shows 24 = .ok (.invokestatic 37, 3) := dk_184 0 37 (dk_at dksX3_shows_1 0 rfl rfl)
theorem dX3_shows_27 : decode cX3_shows 27 = .ok (.invokevirtual 154, 3) := dk_182 0 154 (dk_at dksX3_shows_1 3 rfl rfl)
theorem dX3_shows_30 : decode cX3_shows 30 = .ok (.goto 5, 3) := dk_167 0 5 (dk_at dksX3_shows_1 6 rfl rfl)
theorem dX3_shows_33 : decode cX3_shows 33 = .ok (.bipush (-5), 2) := dk_16 251 (dk_at dksX3_shows_1 9 rfl rfl)
theorem dX3_shows_35 : decode cX3_shows 35 = .ok (.ireturn, 1) := dk_172 (dk_at dksX3_shows_1 11 rfl rfl)
abbrev cX3_more : ByteArray := prog_9_method_52_code
def yX3_more : MethodName := ⟨RX3, "more", "(I)I"⟩
def dkwX3_more_2 : List UInt8 := [42, 180, 0, 45, 184, 0, 55, 28, 100, 172]
abbrev dktX3_more_2 : List UInt8 := dkwX3_more_2 ++ []
def dkwX3_more_1 : List UInt8 := [122, 4, 126, 4, 160, 0, 5, 3, 172, 42, 42, 180, 0, 7, 16, 17, 46, 4, 27, 120, 128, 182, 0, 80]
abbrev dktX3_more_1 : List UInt8 := dkwX3_more_1 ++ dktX3_more_2
def dkwX3_more_0 : List UInt8 := [42, 42, 180, 0, 7, 16, 17, 46, 182, 0, 80, 42, 180, 0, 45, 184, 0, 55, 61, 42, 180, 0, 45, 27]
abbrev dktX3_more_0 : List UInt8 := dkwX3_more_0 ++ dktX3_more_1
theorem dksX3_more_0 : cX3_more.data.toList.drop 0 = dktX3_more_0 := by decide +kernel
theorem dksX3_more_1 : cX3_more.data.toList.drop 24 = dktX3_more_1 := dk_seg dksX3_more_0 24 rfl rfl
theorem dksX3_more_2 : cX3_more.data.toList.drop 48 = dktX3_more_2 := dk_seg dksX3_more_1 24 rfl rfl
theorem dX3_more_0 : decode cX3_more 0 = .ok (.aload_n 0, 1) := dk_42 (dk_at dksX3_more_0 0 rfl rfl)
theorem dX3_more_1 : decode cX3_more 1 = .ok (.aload_n 0, 1) := dk_42 (dk_at dksX3_more_0 1 rfl rfl)
theorem dX3_more_2 : decode cX3_more 2 = .ok (.getfield 7, 3) := dk_180 0 7 (dk_at dksX3_more_0 2 rfl rfl)
theorem dX3_more_5 : decode cX3_more 5 = .ok (.bipush 17, 2) := dk_16 17 (dk_at dksX3_more_0 5 rfl rfl)
theorem dX3_more_7 : decode cX3_more 7 = .ok (.iaload, 1) := dk_46 (dk_at dksX3_more_0 7 rfl rfl)
theorem dX3_more_8 : decode cX3_more 8 = .ok (.invokevirtual 80, 3) := dk_182 0 80 (dk_at dksX3_more_0 8 rfl rfl)
theorem dX3_more_11 : decode cX3_more 11 = .ok (.aload_n 0, 1) := dk_42 (dk_at dksX3_more_0 11 rfl rfl)
theorem dX3_more_12 : decode cX3_more 12 = .ok (.getfield 45, 3) := dk_180 0 45 (dk_at dksX3_more_0 12 rfl rfl)
theorem dX3_more_15 : decode cX3_more 15 = .ok (.invokestatic 55, 3) := dk_184 0 55 (dk_at dksX3_more_0 15 rfl rfl)
theorem dX3_more_18 : decode cX3_more 18 = .ok (.istore_n 2, 1) := dk_61 (dk_at dksX3_more_0 18 rfl rfl)
theorem dX3_more_19 : decode cX3_more 19 = .ok (.aload_n 0, 1) := dk_42 (dk_at dksX3_more_0 19 rfl rfl)
theorem dX3_more_20 : decode cX3_more 20 = .ok (.getfield 45, 3) := dk_180 0 45 (dk_at dksX3_more_0 20 rfl rfl)
theorem dX3_more_23 : decode cX3_more 23 = .ok (.iload_n 1, 1) := dk_27 (dk_at dksX3_more_0 23 rfl rfl)
theorem dX3_more_24 : decode cX3_more 24 = .ok (.ishr, 1) := dk_122 (dk_at dksX3_more_1 0 rfl rfl)
theorem dX3_more_25 : decode cX3_more 25 = .ok (.iconst 1, 1) := dk_4 (dk_at dksX3_more_1 1 rfl rfl)
theorem dX3_more_26 : decode cX3_more 26 = .ok (.iand, 1) := dk_126 (dk_at dksX3_more_1 2 rfl rfl)
theorem dX3_more_27 : decode cX3_more 27 = .ok (.iconst 1, 1) := dk_4 (dk_at dksX3_more_1 3 rfl rfl)
theorem dX3_more_28 : decode cX3_more 28 = .ok (.if_icmp .ne 5, 3) := dk_160 0 5 (dk_at dksX3_more_1 4 rfl rfl)
theorem dX3_more_31 : decode cX3_more 31 = .ok (.iconst 0, 1) := dk_3 (dk_at dksX3_more_1 7 rfl rfl)
theorem dX3_more_32 : decode cX3_more 32 = .ok (.ireturn, 1) := dk_172 (dk_at dksX3_more_1 8 rfl rfl)
theorem dX3_more_33 : decode cX3_more 33 = .ok (.aload_n 0, 1) := dk_42 (dk_at dksX3_more_1 9 rfl rfl)
theorem dX3_more_34 : decode cX3_more 34 = .ok (.aload_n 0, 1) := dk_42 (dk_at dksX3_more_1 10 rfl rfl)
theorem dX3_more_35 : decode cX3_more 35 = .ok (.getfield 7, 3) := dk_180 0 7 (dk_at dksX3_more_1 11 rfl rfl)
theorem dX3_more_38 : decode cX3_more 38 = .ok (.bipush 17, 2) := dk_16 17 (dk_at dksX3_more_1 14 rfl rfl)
theorem dX3_more_40 : decode cX3_more 40 = .ok (.iaload, 1) := dk_46 (dk_at dksX3_more_1 16 rfl rfl)
theorem dX3_more_41 : decode cX3_more 41 = .ok (.iconst 1, 1) := dk_4 (dk_at dksX3_more_1 17 rfl rfl)
theorem dX3_more_42 : decode cX3_more 42 = .ok (.iload_n 1, 1) := dk_27 (dk_at dksX3_more_1 18 rfl rfl)
theorem dX3_more_43 : decode cX3_more 43 = .ok (.ishl, 1) := dk_120 (dk_at dksX3_more_1 19 rfl rfl)
theorem dX3_more_44 : decode cX3_more 44 = .ok (.ior, 1) := dk_128 (dk_at dksX3_more_1 20 rfl rfl)
theorem dX3_more_45 : decode cX3_more 45 = .ok (.invokevirtual 80, 3) := dk_182 0 80 (dk_at dksX3_more_1 21 rfl rfl)
theorem dX3_more_48 : decode cX3_more 48 = .ok (.aload_n 0, 1) := dk_42 (dk_at dksX3_more_2 0 rfl rfl)
theorem dX3_more_49 : decode cX3_more 49 = .ok (.getfield 45, 3) := dk_180 0 45 (dk_at dksX3_more_2 1 rfl rfl)
theorem dX3_more_52 : decode cX3_more 52 = .ok (.invokestatic 55, 3) := dk_184 0 55 (dk_at dksX3_more_2 4 rfl rfl)
theorem dX3_more_55 : decode cX3_more 55 = .ok (.iload_n 2, 1) := dk_28 (dk_at dksX3_more_2 7 rfl rfl)
theorem dX3_more_56 : decode cX3_more 56 = .ok (.isub, 1) := dk_100 (dk_at dksX3_more_2 8 rfl rfl)
theorem dX3_more_57 : decode cX3_more 57 = .ok (.ireturn, 1) := dk_172 (dk_at dksX3_more_2 9 rfl rfl)
abbrev cX3_bestShow : ByteArray := prog_9_method_54_code
def yX3_bestShow : MethodName := ⟨RX3, "bestShow", "(I)I"⟩
def dkwX3_bestShow_3 : List UInt8 := [132, 4, 1, 167, 255, 212, 28, 16, 250, 159, 0, 7, 27, 154, 0, 7, 28, 167, 0, 4, 29, 172]
abbrev dktX3_bestShow_3 : List UInt8 := dkwX3_bestShow_3 ++ []
def dkwX3_bestShow_2 : List UInt8 := [164, 0, 8, 21, 4, 167, 0, 4, 28, 61, 21, 5, 29, 164, 0, 8, 21, 5, 167, 0, 4, 29, 62]
abbrev dktX3_bestShow_2 : List UInt8 := dkwX3_bestShow_2 ++ dktX3_bestShow_3
def dkwX3_bestShow_1 : List UInt8 := [61, 3, 62, 3, 54, 4, 21, 4, 16, 28, 162, 0, 43, 42, 21, 4, 182, 0, 154, 54, 5, 21, 5, 29]
abbrev dktX3_bestShow_1 : List UInt8 := dkwX3_bestShow_1 ++ dktX3_bestShow_2
def dkwX3_bestShow_0 : List UInt8 := [27, 3, 4, 184, 0, 29, 154, 0, 6, 16, 254, 172, 42, 182, 0, 41, 154, 0, 6, 16, 251, 172, 16, 250]
abbrev dktX3_bestShow_0 : List UInt8 := dkwX3_bestShow_0 ++ dktX3_bestShow_1
theorem dksX3_bestShow_0 : cX3_bestShow.data.toList.drop 0 = dktX3_bestShow_0 := by decide +kernel
theorem dksX3_bestShow_1 : cX3_bestShow.data.toList.drop 24 = dktX3_bestShow_1 := dk_seg dksX3_bestShow_0 24 rfl rfl
theorem dksX3_bestShow_2 : cX3_bestShow.data.toList.drop 48 = dktX3_bestShow_2 := dk_seg dksX3_bestShow_1 24 rfl rfl
theorem dksX3_bestShow_3 : cX3_bestShow.data.toList.drop 71 = dktX3_bestShow_3 := dk_seg dksX3_bestShow_2 23 rfl rfl
theorem dX3_bestShow_0 : decode cX3_bestShow 0 = .ok (.iload_n 1, 1) := dk_27 (dk_at dksX3_bestShow_0 0 rfl rfl)
theorem dX3_bestShow_1 : decode cX3_bestShow 1 = .ok (.iconst 0, 1) := dk_3 (dk_at dksX3_bestShow_0 1 rfl rfl)
theorem dX3_bestShow_2 : decode cX3_bestShow 2 = .ok (.iconst 1, 1) := dk_4 (dk_at dksX3_bestShow_0 2 rfl rfl)
theorem dX3_bestShow_3 : decode cX3_bestShow 3 = .ok (.invokestatic 29, 3) := dk_184 0 29 (dk_at dksX3_bestShow_0 3 rfl rfl)
theorem dX3_bestShow_6 : decode cX3_bestShow 6 = .ok (.ifCond .ne 6, 3) := dk_154 0 6 (dk_at dksX3_bestShow_0 6 rfl rfl)
theorem dX3_bestShow_9 : decode cX3_bestShow 9 = .ok (.bipush (-2), 2) := dk_16 254 (dk_at dksX3_bestShow_0 9 rfl rfl)
theorem dX3_bestShow_11 : decode cX3_bestShow 11 = .ok (.ireturn, 1) := dk_172 (dk_at dksX3_bestShow_0 11 rfl rfl)
theorem dX3_bestShow_12 : decode cX3_bestShow 12 = .ok (.aload_n 0, 1) := dk_42 (dk_at dksX3_bestShow_0 12 rfl rfl)
theorem dX3_bestShow_13 : decode cX3_bestShow 13 = .ok (.invokevirtual 41, 3) := dk_182 0 41 (dk_at dksX3_bestShow_0 13 rfl rfl)
theorem dX3_bestShow_16 : decode cX3_bestShow 16 = .ok (.ifCond .ne 6, 3) := dk_154 0 6 (dk_at dksX3_bestShow_0 16 rfl rfl)
theorem dX3_bestShow_19 : decode cX3_bestShow 19 = .ok (.bipush (-5), 2) := dk_16 251 (dk_at dksX3_bestShow_0 19 rfl rfl)
theorem dX3_bestShow_21 : decode cX3_bestShow 21 = .ok (.ireturn, 1) := dk_172 (dk_at dksX3_bestShow_0 21 rfl rfl)
theorem dX3_bestShow_22 : decode cX3_bestShow 22 = .ok (.bipush (-6), 2) := dk_16 250 (dk_at dksX3_bestShow_0 22 rfl rfl)
theorem dX3_bestShow_24 : decode cX3_bestShow 24 = .ok (.istore_n 2, 1) := dk_61 (dk_at dksX3_bestShow_1 0 rfl rfl)
theorem dX3_bestShow_25 : decode cX3_bestShow 25 = .ok (.iconst 0, 1) := dk_3 (dk_at dksX3_bestShow_1 1 rfl rfl)
theorem dX3_bestShow_26 : decode cX3_bestShow 26 = .ok (.istore_n 3, 1) := dk_62 (dk_at dksX3_bestShow_1 2 rfl rfl)
theorem dX3_bestShow_27 : decode cX3_bestShow 27 = .ok (.iconst 0, 1) := dk_3 (dk_at dksX3_bestShow_1 3 rfl rfl)
theorem dX3_bestShow_28 : decode cX3_bestShow 28 = .ok (.istore 4, 2) := dk_54 4 (dk_at dksX3_bestShow_1 4 rfl rfl)
theorem dX3_bestShow_30 : decode cX3_bestShow 30 = .ok (.iload 4, 2) := dk_21 4 (dk_at dksX3_bestShow_1 6 rfl rfl)
theorem dX3_bestShow_32 : decode cX3_bestShow 32 = .ok (.bipush 28, 2) := dk_16 28 (dk_at dksX3_bestShow_1 8 rfl rfl)
theorem dX3_bestShow_34 : decode cX3_bestShow 34 = .ok (.if_icmp .ge 43, 3) := dk_162 0 43 (dk_at dksX3_bestShow_1 10 rfl rfl)
theorem dX3_bestShow_37 : decode cX3_bestShow 37 = .ok (.aload_n 0, 1) := dk_42 (dk_at dksX3_bestShow_1 13 rfl rfl)
theorem dX3_bestShow_38 : decode cX3_bestShow 38 = .ok (.iload 4, 2) := dk_21 4 (dk_at dksX3_bestShow_1 14 rfl rfl)
theorem dX3_bestShow_40 : decode cX3_bestShow 40 = .ok (.invokevirtual 154, 3) := dk_182 0 154 (dk_at dksX3_bestShow_1 16 rfl rfl)
theorem dX3_bestShow_43 : decode cX3_bestShow 43 = .ok (.istore 5, 2) := dk_54 5 (dk_at dksX3_bestShow_1 19 rfl rfl)
theorem dX3_bestShow_45 : decode cX3_bestShow 45 = .ok (.iload 5, 2) := dk_21 5 (dk_at dksX3_bestShow_1 21 rfl rfl)
theorem dX3_bestShow_47 : decode cX3_bestShow 47 = .ok (.iload_n 3, 1) := dk_29 (dk_at dksX3_bestShow_1 23 rfl rfl)
theorem dX3_bestShow_48 : decode cX3_bestShow 48 = .ok (.if_icmp .le 8, 3) := dk_164 0 8 (dk_at dksX3_bestShow_2 0 rfl rfl)
theorem dX3_bestShow_51 : decode cX3_bestShow 51 = .ok (.iload 4, 2) := dk_21 4 (dk_at dksX3_bestShow_2 3 rfl rfl)
theorem dX3_bestShow_53 : decode cX3_bestShow 53 = .ok (.goto 4, 3) := dk_167 0 4 (dk_at dksX3_bestShow_2 5 rfl rfl)
theorem dX3_bestShow_56 : decode cX3_bestShow 56 = .ok (.iload_n 2, 1) := dk_28 (dk_at dksX3_bestShow_2 8 rfl rfl)
theorem dX3_bestShow_57 : decode cX3_bestShow 57 = .ok (.istore_n 2, 1) := dk_61 (dk_at dksX3_bestShow_2 9 rfl rfl)
theorem dX3_bestShow_58 : decode cX3_bestShow 58 = .ok (.iload 5, 2) := dk_21 5 (dk_at dksX3_bestShow_2 10 rfl rfl)
theorem dX3_bestShow_60 : decode cX3_bestShow 60 = .ok (.iload_n 3, 1) := dk_29 (dk_at dksX3_bestShow_2 12 rfl rfl)
theorem dX3_bestShow_61 : decode cX3_bestShow 61 = .ok (.if_icmp .le 8, 3) := dk_164 0 8 (dk_at dksX3_bestShow_2 13 rfl rfl)
theorem dX3_bestShow_64 : decode cX3_bestShow 64 = .ok (.iload 5, 2) := dk_21 5 (dk_at dksX3_bestShow_2 16 rfl rfl)
theorem dX3_bestShow_66 : decode cX3_bestShow 66 = .ok (.goto 4, 3) := dk_167 0 4 (dk_at dksX3_bestShow_2 18 rfl rfl)
theorem dX3_bestShow_69 : decode cX3_bestShow 69 = .ok (.iload_n 3, 1) := dk_29 (dk_at dksX3_bestShow_2 21 rfl rfl)
theorem dX3_bestShow_70 : decode cX3_bestShow 70 = .ok (.istore_n 3, 1) := dk_62 (dk_at dksX3_bestShow_2 22 rfl rfl)
theorem dX3_bestShow_71 : decode cX3_bestShow 71 = .ok (.iinc 4 1, 3) := dk_132 4 1 (dk_at dksX3_bestShow_3 0 rfl rfl)
theorem dX3_bestShow_74 : decode cX3_bestShow 74 = .ok (.goto (-44), 3) := dk_167 255 212 (dk_at dksX3_bestShow_3 3 rfl rfl)
theorem dX3_bestShow_77 : decode cX3_bestShow 77 = .ok (.iload_n 2, 1) := dk_28 (dk_at dksX3_bestShow_3 6 rfl rfl)
theorem dX3_bestShow_78 : decode cX3_bestShow 78 = .ok (.bipush (-6), 2) := dk_16 250 (dk_at dksX3_bestShow_3 7 rfl rfl)
theorem dX3_bestShow_80 : decode cX3_bestShow 80 = .ok (.if_icmp .eq 7, 3) := dk_159 0 7 (dk_at dksX3_bestShow_3 9 rfl rfl)
theorem dX3_bestShow_83 : decode cX3_bestShow 83 = .ok (.iload_n 1, 1) := dk_27 (dk_at dksX3_bestShow_3 12 rfl rfl)
theorem dX3_bestShow_84 : decode cX3_bestShow 84 = .ok (.ifCond .ne 7, 3) := dk_154 0 7 (dk_at dksX3_bestShow_3 13 rfl rfl)
theorem dX3_bestShow_87 : decode cX3_bestShow 87 = .ok (.iload_n 2, 1) := dk_28 (dk_at dksX3_bestShow_3 16 rfl rfl)
theorem dX3_bestShow_88 : decode cX3_bestShow 88 = .ok (.goto 4, 3) := dk_167 0 4 (dk_at dksX3_bestShow_3 17 rfl rfl)
theorem dX3_bestShow_91 : decode cX3_bestShow 91 = .ok (.iload_n 3, 1) := dk_29 (dk_at dksX3_bestShow_3 20 rfl rfl)
theorem dX3_bestShow_92 : decode cX3_bestShow 92 = .ok (.ireturn, 1) := dk_172 (dk_at dksX3_bestShow_3 21 rfl rfl)
abbrev cX3_knownWay : ByteArray := prog_9_method_55_code
def yX3_knownWay : MethodName := ⟨RX3, "knownWay", "(II)I"⟩
def dkwX3_knownWay_2 : List UInt8 := [16, 250, 167, 0, 9, 42, 180, 0, 26, 28, 46, 172]
abbrev dktX3_knownWay_2 : List UInt8 := dkwX3_knownWay_2 ++ []
def dkwX3_knownWay_1 : List UInt8 := [182, 0, 80, 42, 27, 42, 180, 0, 48, 182, 0, 121, 42, 180, 0, 26, 28, 46, 16, 99, 160, 0, 8]
abbrev dktX3_knownWay_1 : List UInt8 := dkwX3_knownWay_1 ++ dktX3_knownWay_2
def dkwX3_knownWay_0 : List UInt8 := [27, 184, 0, 67, 153, 0, 10, 28, 184, 0, 67, 154, 0, 5, 2, 172, 42, 42, 180, 0, 7, 16, 17, 46]
abbrev dktX3_knownWay_0 : List UInt8 := dkwX3_knownWay_0 ++ dktX3_knownWay_1
theorem dksX3_knownWay_0 : cX3_knownWay.data.toList.drop 0 = dktX3_knownWay_0 := by decide +kernel
theorem dksX3_knownWay_1 : cX3_knownWay.data.toList.drop 24 = dktX3_knownWay_1 := dk_seg dksX3_knownWay_0 24 rfl rfl
theorem dksX3_knownWay_2 : cX3_knownWay.data.toList.drop 47 = dktX3_knownWay_2 := dk_seg dksX3_knownWay_1 23 rfl rfl
theorem dX3_knownWay_0 : decode cX3_knownWay 0 = .ok (.iload_n 1, 1) := dk_27 (dk_at dksX3_knownWay_0 0 rfl rfl)
theorem dX3_knownWay_1 : decode cX3_knownWay 1 = .ok (.invokestatic 67, 3) := dk_184 0 67 (dk_at dksX3_knownWay_0 1 rfl rfl)
theorem dX3_knownWay_4 : decode cX3_knownWay 4 = .ok (.ifCond .eq 10, 3) := dk_153 0 10 (dk_at dksX3_knownWay_0 4 rfl rfl)
theorem dX3_knownWay_7 : decode cX3_knownWay 7 = .ok (.iload_n 2, 1) := dk_28 (dk_at dksX3_knownWay_0 7 rfl rfl)
theorem dX3_knownWay_8 : decode cX3_knownWay 8 = .ok (.invokestatic 67, 3) := dk_184 0 67 (dk_at dksX3_knownWay_0 8 rfl rfl)
theorem dX3_knownWay_11 : decode cX3_knownWay 11 = .ok (.ifCond .ne 5, 3) := dk_154 0 5 (dk_at dksX3_knownWay_0 11 rfl rfl)
theorem dX3_knownWay_14 : decode cX3_knownWay 14 = .ok (.iconst (-1), 1) := dk_2 (dk_at dksX3_knownWay_0 14 rfl rfl)
theorem dX3_knownWay_15 : decode cX3_knownWay 15 = .ok (.ireturn, 1) := dk_172 (dk_at dksX3_knownWay_0 15 rfl rfl)
theorem dX3_knownWay_16 : decode cX3_knownWay 16 = .ok (.aload_n 0, 1) := dk_42 (dk_at dksX3_knownWay_0 16 rfl rfl)
theorem dX3_knownWay_17 : decode cX3_knownWay 17 = .ok (.aload_n 0, 1) := dk_42 (dk_at dksX3_knownWay_0 17 rfl rfl)
theorem dX3_knownWay_18 : decode cX3_knownWay 18 = .ok (.getfield 7, 3) := dk_180 0 7 (dk_at dksX3_knownWay_0 18 rfl rfl)
theorem dX3_knownWay_21 : decode cX3_knownWay 21 = .ok (.bipush 17, 2) := dk_16 17 (dk_at dksX3_knownWay_0 21 rfl rfl)
theorem dX3_knownWay_23 : decode cX3_knownWay 23 = .ok (.iaload, 1) := dk_46 (dk_at dksX3_knownWay_0 23 rfl rfl)
theorem dX3_knownWay_24 : decode cX3_knownWay 24 = .ok (.invokevirtual 80, 3) := dk_182 0 80 (dk_at dksX3_knownWay_1 0 rfl rfl)
theorem dX3_knownWay_27 : decode cX3_knownWay 27 = .ok (.aload_n 0, 1) := dk_42 (dk_at dksX3_knownWay_1 3 rfl rfl)
theorem dX3_knownWay_28 : decode cX3_knownWay 28 = .ok (.iload_n 1, 1) := dk_27 (dk_at dksX3_knownWay_1 4 rfl rfl)
theorem dX3_knownWay_29 : decode cX3_knownWay 29 = .ok (.aload_n 0, 1) := dk_42 (dk_at dksX3_knownWay_1 5 rfl rfl)
theorem dX3_knownWay_30 : decode cX3_knownWay 30 = .ok (.getfield 48, 3) := dk_180 0 48 (dk_at dksX3_knownWay_1 6 rfl rfl)
theorem dX3_knownWay_33 : decode cX3_knownWay 33 = .ok (.invokevirtual 121, 3) := dk_182 0 121 (dk_at dksX3_knownWay_1 9 rfl rfl)
theorem dX3_knownWay_36 : decode cX3_knownWay 36 = .ok (.aload_n 0, 1) := dk_42 (dk_at dksX3_knownWay_1 12 rfl rfl)
theorem dX3_knownWay_37 : decode cX3_knownWay 37 = .ok (.getfield 26, 3) := dk_180 0 26 (dk_at dksX3_knownWay_1 13 rfl rfl)
theorem dX3_knownWay_40 : decode cX3_knownWay 40 = .ok (.iload_n 2, 1) := dk_28 (dk_at dksX3_knownWay_1 16 rfl rfl)
theorem dX3_knownWay_41 : decode cX3_knownWay 41 = .ok (.iaload, 1) := dk_46 (dk_at dksX3_knownWay_1 17 rfl rfl)
theorem dX3_knownWay_42 : decode cX3_knownWay 42 = .ok (.bipush 99, 2) := dk_16 99 (dk_at dksX3_knownWay_1 18 rfl rfl)
theorem dX3_knownWay_44 : decode cX3_knownWay 44 = .ok (.if_icmp .ne 8, 3) := dk_160 0 8 (dk_at dksX3_knownWay_1 20 rfl rfl)
theorem dX3_knownWay_47 : decode cX3_knownWay 47 = .ok (.bipush (-6), 2) := dk_16 250 (dk_at dksX3_knownWay_2 0 rfl rfl)
theorem dX3_knownWay_49 : decode cX3_knownWay 49 = .ok (.goto 9, 3) := dk_167 0 9 (dk_at dksX3_knownWay_2 2 rfl rfl)
theorem dX3_knownWay_52 : decode cX3_knownWay 52 = .ok (.aload_n 0, 1) := dk_42 (dk_at dksX3_knownWay_2 5 rfl rfl)
theorem dX3_knownWay_53 : decode cX3_knownWay 53 = .ok (.getfield 26, 3) := dk_180 0 26 (dk_at dksX3_knownWay_2 6 rfl rfl)
theorem dX3_knownWay_56 : decode cX3_knownWay 56 = .ok (.iload_n 2, 1) := dk_28 (dk_at dksX3_knownWay_2 9 rfl rfl)
theorem dX3_knownWay_57 : decode cX3_knownWay 57 = .ok (.iaload, 1) := dk_46 (dk_at dksX3_knownWay_2 10 rfl rfl)
theorem dX3_knownWay_58 : decode cX3_knownWay 58 = .ok (.ireturn, 1) := dk_172 (dk_at dksX3_knownWay_2 11 rfl rfl)
abbrev cX3_put : ByteArray := prog_9_method_56_code
def yX3_put : MethodName := ⟨RX3, "put", "(J)I"⟩
def dkwX3_put_7 : List UInt8 := [180, 0, 151, 172]
abbrev dktX3_put_7 : List UInt8 := dkwX3_put_7 ++ []
def dkwX3_put_6 : List UInt8 := [20, 0, 157, 127, 136, 79, 42, 89, 180, 0, 151, 4, 96, 181, 0, 151, 132, 5, 255, 167, 255, 217, 42]
abbrev dktX3_put_6 : List UInt8 := dkwX3_put_6 ++ dktX3_put_7
def dkwX3_put_5 : List UInt8 := [54, 5, 21, 5, 155, 0, 40, 42, 180, 0, 23, 42, 180, 0, 151, 31, 16, 8, 21, 5, 104, 125]
abbrev dktX3_put_5 : List UInt8 := dkwX3_put_5 ++ dktX3_put_6
def dkwX3_put_4 : List UInt8 := [154, 0, 6, 16, 254, 172, 42, 180, 0, 151, 29, 96, 16, 80, 164, 0, 6, 16, 252, 172, 29, 4, 100]
abbrev dktX3_put_4 : List UInt8 := dkwX3_put_4 ++ dktX3_put_5
def dkwX3_put_3 : List UInt8 := [154, 0, 7, 3, 167, 0, 4, 4, 96, 62, 132, 5, 1, 167, 255, 184, 29, 153, 0, 8, 21, 4]
abbrev dktX3_put_3 : List UInt8 := dkwX3_put_3 ++ dktX3_put_4
def dkwX3_put_2 : List UInt8 := [184, 0, 29, 153, 0, 13, 29, 21, 5, 160, 0, 7, 4, 167, 0, 4, 3, 54, 4, 29, 21, 6]
abbrev dktX3_put_2 : List UInt8 := dkwX3_put_2 ++ dktX3_put_3
def dkwX3_put_1 : List UInt8 := [20, 0, 157, 127, 136, 54, 6, 21, 4, 153, 0, 30, 21, 6, 153, 0, 21, 21, 6, 16, 33, 16, 126]
abbrev dktX3_put_1 : List UInt8 := dkwX3_put_1 ++ dktX3_put_2
def dkwX3_put_0 : List UInt8 := [3, 62, 4, 54, 4, 3, 54, 5, 21, 5, 16, 8, 162, 0, 71, 31, 16, 8, 21, 5, 104, 125]
abbrev dktX3_put_0 : List UInt8 := dkwX3_put_0 ++ dktX3_put_1
theorem dksX3_put_0 : cX3_put.data.toList.drop 0 = dktX3_put_0 := by decide +kernel
theorem dksX3_put_1 : cX3_put.data.toList.drop 22 = dktX3_put_1 := dk_seg dksX3_put_0 22 rfl rfl
theorem dksX3_put_2 : cX3_put.data.toList.drop 45 = dktX3_put_2 := dk_seg dksX3_put_1 23 rfl rfl
theorem dksX3_put_3 : cX3_put.data.toList.drop 67 = dktX3_put_3 := dk_seg dksX3_put_2 22 rfl rfl
theorem dksX3_put_4 : cX3_put.data.toList.drop 89 = dktX3_put_4 := dk_seg dksX3_put_3 22 rfl rfl
theorem dksX3_put_5 : cX3_put.data.toList.drop 112 = dktX3_put_5 := dk_seg dksX3_put_4 23 rfl rfl
theorem dksX3_put_6 : cX3_put.data.toList.drop 134 = dktX3_put_6 := dk_seg dksX3_put_5 22 rfl rfl
theorem dksX3_put_7 : cX3_put.data.toList.drop 157 = dktX3_put_7 := dk_seg dksX3_put_6 23 rfl rfl
theorem dX3_put_0 : decode cX3_put 0 = .ok (.iconst 0, 1) := dk_3 (dk_at dksX3_put_0 0 rfl rfl)
theorem dX3_put_1 : decode cX3_put 1 = .ok (.istore_n 3, 1) := dk_62 (dk_at dksX3_put_0 1 rfl rfl)
theorem dX3_put_2 : decode cX3_put 2 = .ok (.iconst 1, 1) := dk_4 (dk_at dksX3_put_0 2 rfl rfl)
theorem dX3_put_3 : decode cX3_put 3 = .ok (.istore 4, 2) := dk_54 4 (dk_at dksX3_put_0 3 rfl rfl)
theorem dX3_put_5 : decode cX3_put 5 = .ok (.iconst 0, 1) := dk_3 (dk_at dksX3_put_0 5 rfl rfl)
theorem dX3_put_6 : decode cX3_put 6 = .ok (.istore 5, 2) := dk_54 5 (dk_at dksX3_put_0 6 rfl rfl)
theorem dX3_put_8 : decode cX3_put 8 = .ok (.iload 5, 2) := dk_21 5 (dk_at dksX3_put_0 8 rfl rfl)
theorem dX3_put_10 : decode cX3_put 10 = .ok (.bipush 8, 2) := dk_16 8 (dk_at dksX3_put_0 10 rfl rfl)
theorem dX3_put_12 : decode cX3_put 12 = .ok (.if_icmp .ge 71, 3) := dk_162 0 71 (dk_at dksX3_put_0 12 rfl rfl)
theorem dX3_put_15 : decode cX3_put 15 = .ok (.lload_n 1, 1) := dk_31 (dk_at dksX3_put_0 15 rfl rfl)
theorem dX3_put_16 : decode cX3_put 16 = .ok (.bipush 8, 2) := dk_16 8 (dk_at dksX3_put_0 16 rfl rfl)
theorem dX3_put_18 : decode cX3_put 18 = .ok (.iload 5, 2) := dk_21 5 (dk_at dksX3_put_0 18 rfl rfl)
theorem dX3_put_20 : decode cX3_put 20 = .ok (.imul, 1) := dk_104 (dk_at dksX3_put_0 20 rfl rfl)
theorem dX3_put_21 : decode cX3_put 21 = .ok (.lushr, 1) := dk_125 (dk_at dksX3_put_0 21 rfl rfl)
theorem dX3_put_22 : decode cX3_put 22 = .ok (.ldc2_w 157, 3) := dk_20 0 157 (dk_at dksX3_put_1 0 rfl rfl)
theorem dX3_put_25 : decode cX3_put 25 = .ok (.land, 1) := dk_127 (dk_at dksX3_put_1 3 rfl rfl)
theorem dX3_put_26 : decode cX3_put 26 = .ok (.l2i, 1) := dk_136 (dk_at dksX3_put_1 4 rfl rfl)
theorem dX3_put_27 : decode cX3_put 27 = .ok (.istore 6, 2) := dk_54 6 (dk_at dksX3_put_1 5 rfl rfl)
theorem dX3_put_29 : decode cX3_put 29 = .ok (.iload 4, 2) := dk_21 4 (dk_at dksX3_put_1 7 rfl rfl)
theorem dX3_put_31 : decode cX3_put 31 = .ok (.ifCond .eq 30, 3) := dk_153 0 30 (dk_at dksX3_put_1 9 rfl rfl)
theorem dX3_put_34 : decode cX3_put 34 = .ok (.iload 6, 2) := dk_21 6 (dk_at dksX3_put_1 12 rfl rfl)
theorem dX3_put_36 : decode cX3_put 36 = .ok (.ifCond .eq 21, 3) := dk_153 0 21 (dk_at dksX3_put_1 14 rfl rfl)
theorem dX3_put_39 : decode cX3_put 39 = .ok (.iload 6, 2) := dk_21 6 (dk_at dksX3_put_1 17 rfl rfl)
theorem dX3_put_41 : decode cX3_put 41 = .ok (.bipush 33, 2) := dk_16 33 (dk_at dksX3_put_1 19 rfl rfl)
theorem dX3_put_43 : decode cX3_put 43 = .ok (.bipush 126, 2) := dk_16 126 (dk_at dksX3_put_1 21 rfl rfl)
theorem dX3_put_45 : decode cX3_put 45 = .ok (.invokestatic 29, 3) := dk_184 0 29 (dk_at dksX3_put_2 0 rfl rfl)
theorem dX3_put_48 : decode cX3_put 48 = .ok (.ifCond .eq 13, 3) := dk_153 0 13 (dk_at dksX3_put_2 3 rfl rfl)
theorem dX3_put_51 : decode cX3_put 51 = .ok (.iload_n 3, 1) := dk_29 (dk_at dksX3_put_2 6 rfl rfl)
theorem dX3_put_52 : decode cX3_put 52 = .ok (.iload 5, 2) := dk_21 5 (dk_at dksX3_put_2 7 rfl rfl)
theorem dX3_put_54 : decode cX3_put 54 = .ok (.if_icmp .ne 7, 3) := dk_160 0 7 (dk_at dksX3_put_2 9 rfl rfl)
theorem dX3_put_57 : decode cX3_put 57 = .ok (.iconst 1, 1) := dk_4 (dk_at dksX3_put_2 12 rfl rfl)
theorem dX3_put_58 : decode cX3_put 58 = .ok (.goto 4, 3) := dk_167 0 4 (dk_at dksX3_put_2 13 rfl rfl)
theorem dX3_put_61 : decode cX3_put 61 = .ok (.iconst 0, 1) := dk_3 (dk_at dksX3_put_2 16 rfl rfl)
theorem dX3_put_62 : decode cX3_put 62 = .ok (.istore 4, 2) := dk_54 4 (dk_at dksX3_put_2 17 rfl rfl)
theorem dX3_put_64 : decode cX3_put 64 = .ok (.iload_n 3, 1) := dk_29 (dk_at dksX3_put_2 19 rfl rfl)
theorem dX3_put_65 : decode cX3_put 65 = .ok (.iload 6, 2) := dk_21 6 (dk_at dksX3_put_2 20 rfl rfl)
theorem dX3_put_67 : decode cX3_put 67 = .ok (.ifCond .ne 7, 3) := dk_154 0 7 (dk_at dksX3_put_3 0 rfl rfl)
theorem dX3_put_70 : decode cX3_put 70 = .ok (.iconst 0, 1) := dk_3 (dk_at dksX3_put_3 3 rfl rfl)
theorem dX3_put_71 : decode cX3_put 71 = .ok (.goto 4, 3) := dk_167 0 4 (dk_at dksX3_put_3 4 rfl rfl)
theorem dX3_put_74 : decode cX3_put 74 = .ok (.iconst 1, 1) := dk_4 (dk_at dksX3_put_3 7 rfl rfl)
theorem dX3_put_75 : decode cX3_put 75 = .ok (.iadd, 1) := dk_96 (dk_at dksX3_put_3 8 rfl rfl)
theorem dX3_put_76 : decode cX3_put 76 = .ok (.istore_n 3, 1) := dk_62 (dk_at dksX3_put_3 9 rfl rfl)
theorem dX3_put_77 : decode cX3_put 77 = .ok (.iinc 5 1, 3) := dk_132 5 1 (dk_at dksX3_put_3 10 rfl rfl)
theorem dX3_put_80 : decode cX3_put 80 = .ok (.goto (-72), 3) := dk_167 255 184 (dk_at dksX3_put_3 13 rfl rfl)
theorem dX3_put_83 : decode cX3_put 83 = .ok (.iload_n 3, 1) := dk_29 (dk_at dksX3_put_3 16 rfl rfl)
theorem dX3_put_84 : decode cX3_put 84 = .ok (.ifCond .eq 8, 3) := dk_153 0 8 (dk_at dksX3_put_3 17 rfl rfl)
theorem dX3_put_87 : decode cX3_put 87 = .ok (.iload 4, 2) := dk_21 4 (dk_at dksX3_put_3 20 rfl rfl)
theorem dX3_put_89 : decode cX3_put 89 = .ok (.ifCond .ne 6, 3) := dk_154 0 6 (dk_at dksX3_put_4 0 rfl rfl)
theorem dX3_put_92 : decode cX3_put 92 = .ok (.bipush (-2), 2) := dk_16 254 (dk_at dksX3_put_4 3 rfl rfl)
theorem dX3_put_94 : decode cX3_put 94 = .ok (.ireturn, 1) := dk_172 (dk_at dksX3_put_4 5 rfl rfl)
theorem dX3_put_95 : decode cX3_put 95 = .ok (.aload_n 0, 1) := dk_42 (dk_at dksX3_put_4 6 rfl rfl)
theorem dX3_put_96 : decode cX3_put 96 = .ok (.getfield 151, 3) := dk_180 0 151 (dk_at dksX3_put_4 7 rfl rfl)
theorem dX3_put_99 : decode cX3_put 99 = .ok (.iload_n 3, 1) := dk_29 (dk_at dksX3_put_4 10 rfl rfl)
theorem dX3_put_100 : decode cX3_put 100 = .ok (.iadd, 1) := dk_96 (dk_at dksX3_put_4 11 rfl rfl)
theorem dX3_put_101 : decode cX3_put 101 = .ok (.bipush 80, 2) := dk_16 80 (dk_at dksX3_put_4 12 rfl rfl)
theorem dX3_put_103 : decode cX3_put 103 = .ok (.if_icmp .le 6, 3) := dk_164 0 6 (dk_at dksX3_put_4 14 rfl rfl)
theorem dX3_put_106 : decode cX3_put 106 = .ok (.bipush (-4), 2) := dk_16 252 (dk_at dksX3_put_4 17 rfl rfl)
theorem dX3_put_108 : decode cX3_put 108 = .ok (.ireturn, 1) := dk_172 (dk_at dksX3_put_4 19 rfl rfl)
theorem dX3_put_109 : decode cX3_put 109 = .ok (.iload_n 3, 1) := dk_29 (dk_at dksX3_put_4 20 rfl rfl)
theorem dX3_put_110 : decode cX3_put 110 = .ok (.iconst 1, 1) := dk_4 (dk_at dksX3_put_4 21 rfl rfl)
theorem dX3_put_111 : decode cX3_put 111 = .ok (.isub, 1) := dk_100 (dk_at dksX3_put_4 22 rfl rfl)
theorem dX3_put_112 : decode cX3_put 112 = .ok (.istore 5, 2) := dk_54 5 (dk_at dksX3_put_5 0 rfl rfl)
theorem dX3_put_114 : decode cX3_put 114 = .ok (.iload 5, 2) := dk_21 5 (dk_at dksX3_put_5 2 rfl rfl)
theorem dX3_put_116 : decode cX3_put 116 = .ok (.ifCond .lt 40, 3) := dk_155 0 40 (dk_at dksX3_put_5 4 rfl rfl)
theorem dX3_put_119 : decode cX3_put 119 = .ok (.aload_n 0, 1) := dk_42 (dk_at dksX3_put_5 7 rfl rfl)
theorem dX3_put_120 : decode cX3_put 120 = .ok (.getfield 23, 3) := dk_180 0 23 (dk_at dksX3_put_5 8 rfl rfl)
theorem dX3_put_123 : decode cX3_put 123 = .ok (.aload_n 0, 1) := dk_42 (dk_at dksX3_put_5 11 rfl rfl)
theorem dX3_put_124 : decode cX3_put 124 = .ok (.getfield 151, 3) := dk_180 0 151 (dk_at dksX3_put_5 12 rfl rfl)
theorem dX3_put_127 : decode cX3_put 127 = .ok (.lload_n 1, 1) := dk_31 (dk_at dksX3_put_5 15 rfl rfl)
theorem dX3_put_128 : decode cX3_put 128 = .ok (.bipush 8, 2) := dk_16 8 (dk_at dksX3_put_5 16 rfl rfl)
theorem dX3_put_130 : decode cX3_put 130 = .ok (.iload 5, 2) := dk_21 5 (dk_at dksX3_put_5 18 rfl rfl)
theorem dX3_put_132 : decode cX3_put 132 = .ok (.imul, 1) := dk_104 (dk_at dksX3_put_5 20 rfl rfl)
theorem dX3_put_133 : decode cX3_put 133 = .ok (.lushr, 1) := dk_125 (dk_at dksX3_put_5 21 rfl rfl)
theorem dX3_put_134 : decode cX3_put 134 = .ok (.ldc2_w 157, 3) := dk_20 0 157 (dk_at dksX3_put_6 0 rfl rfl)
theorem dX3_put_137 : decode cX3_put 137 = .ok (.land, 1) := dk_127 (dk_at dksX3_put_6 3 rfl rfl)
theorem dX3_put_138 : decode cX3_put 138 = .ok (.l2i, 1) := dk_136 (dk_at dksX3_put_6 4 rfl rfl)
theorem dX3_put_139 : decode cX3_put 139 = .ok (.iastore, 1) := dk_79 (dk_at dksX3_put_6 5 rfl rfl)
theorem dX3_put_140 : decode cX3_put 140 = .ok (.aload_n 0, 1) := dk_42 (dk_at dksX3_put_6 6 rfl rfl)
theorem dX3_put_141 : decode cX3_put 141 = .ok (.dup, 1) := dk_89 (dk_at dksX3_put_6 7 rfl rfl)
theorem dX3_put_142 : decode cX3_put 142 = .ok (.getfield 151, 3) := dk_180 0 151 (dk_at dksX3_put_6 8 rfl rfl)
theorem dX3_put_145 : decode cX3_put 145 = .ok (.iconst 1, 1) := dk_4 (dk_at dksX3_put_6 11 rfl rfl)
theorem dX3_put_146 : decode cX3_put 146 = .ok (.iadd, 1) := dk_96 (dk_at dksX3_put_6 12 rfl rfl)
theorem dX3_put_147 : decode cX3_put 147 = .ok (.putfield 151, 3) := dk_181 0 151 (dk_at dksX3_put_6 13 rfl rfl)
theorem dX3_put_150 : decode cX3_put 150 = .ok (.iinc 5 (-1), 3) := dk_132 5 255 (dk_at dksX3_put_6 16 rfl rfl)
theorem dX3_put_153 : decode cX3_put 153 = .ok (.goto (-39), 3) := dk_167 255 217 (dk_at dksX3_put_6 19 rfl rfl)
theorem dX3_put_156 : decode cX3_put 156 = .ok (.aload_n 0, 1) := dk_42 (dk_at dksX3_put_6 22 rfl rfl)
theorem dX3_put_157 : decode cX3_put 157 = .ok (.getfield 151, 3) := dk_180 0 151 (dk_at dksX3_put_7 0 rfl rfl)
theorem dX3_put_160 : decode cX3_put 160 = .ok (.ireturn, 1) := dk_172 (dk_at dksX3_put_7 3 rfl rfl)
abbrev cX3_wipe : ByteArray := prog_9_method_57_code
def yX3_wipe : MethodName := ⟨RX3, "wipe", "()I"⟩
def dkwX3_wipe_0 : List UInt8 := [42, 180, 0, 151, 60, 42, 3, 181, 0, 151, 27, 172]
abbrev dktX3_wipe_0 : List UInt8 := dkwX3_wipe_0 ++ []
theorem dksX3_wipe_0 : cX3_wipe.data.toList.drop 0 = dktX3_wipe_0 := by decide +kernel
theorem dX3_wipe_0 : decode cX3_wipe 0 = .ok (.aload_n 0, 1) := dk_42 (dk_at dksX3_wipe_0 0 rfl rfl)
theorem dX3_wipe_1 : decode cX3_wipe 1 = .ok (.getfield 151, 3) := dk_180 0 151 (dk_at dksX3_wipe_0 1 rfl rfl)
theorem dX3_wipe_4 : decode cX3_wipe 4 = .ok (.istore_n 1, 1) := dk_60 (dk_at dksX3_wipe_0 4 rfl rfl)
theorem dX3_wipe_5 : decode cX3_wipe 5 = .ok (.aload_n 0, 1) := dk_42 (dk_at dksX3_wipe_0 5 rfl rfl)
theorem dX3_wipe_6 : decode cX3_wipe 6 = .ok (.iconst 0, 1) := dk_3 (dk_at dksX3_wipe_0 6 rfl rfl)
theorem dX3_wipe_7 : decode cX3_wipe 7 = .ok (.putfield 151, 3) := dk_181 0 151 (dk_at dksX3_wipe_0 7 rfl rfl)
theorem dX3_wipe_10 : decode cX3_wipe 10 = .ok (.iload_n 1, 1) := dk_27 (dk_at dksX3_wipe_0 10 rfl rfl)
theorem dX3_wipe_11 : decode cX3_wipe 11 = .ok (.ireturn, 1) := dk_172 (dk_at dksX3_wipe_0 11 rfl rfl)
abbrev cX3_fault : ByteArray := prog_9_method_61_code
def yX3_fault : MethodName := ⟨RX3, "fault", "()I"⟩
def dkwX3_fault_0 : List UInt8 := [42, 182, 0, 184, 153, 0, 8, 16, 250, 167, 0, 7, 42, 180, 0, 159, 172]
abbrev dktX3_fault_0 : List UInt8 := dkwX3_fault_0 ++ []
theorem dksX3_fault_0 : cX3_fault.data.toList.drop 0 = dktX3_fault_0 := by decide +kernel
theorem dX3_fault_0 : decode cX3_fault 0 = .ok (.aload_n 0, 1) := dk_42 (dk_at dksX3_fault_0 0 rfl rfl)
theorem dX3_fault_1 : decode cX3_fault 1 = .ok (.invokevirtual 184, 3) := dk_182 0 184 (dk_at dksX3_fault_0 1 rfl rfl)
theorem dX3_fault_4 : decode cX3_fault 4 = .ok (.ifCond .eq 8, 3) := dk_153 0 8 (dk_at dksX3_fault_0 4 rfl rfl)
theorem dX3_fault_7 : decode cX3_fault 7 = .ok (.bipush (-6), 2) := dk_16 250 (dk_at dksX3_fault_0 7 rfl rfl)
theorem dX3_fault_9 : decode cX3_fault 9 = .ok (.goto 7, 3) := dk_167 0 7 (dk_at dksX3_fault_0 9 rfl rfl)
theorem dX3_fault_12 : decode cX3_fault 12 = .ok (.aload_n 0, 1) := dk_42 (dk_at dksX3_fault_0 12 rfl rfl)
theorem dX3_fault_13 : decode cX3_fault 13 = .ok (.getfield 159, 3) := dk_180 0 159 (dk_at dksX3_fault_0 13 rfl rfl)
theorem dX3_fault_16 : decode cX3_fault 16 = .ok (.ireturn, 1) := dk_172 (dk_at dksX3_fault_0 16 rfl rfl)
abbrev cX3_isWhole : ByteArray := prog_9_method_60_code
def yX3_isWhole : MethodName := ⟨RX3, "isWhole", "()Z"⟩
def dkwX3_isWhole_3 : List UInt8 := [167, 255, 198, 42, 180, 0, 162, 154, 0, 7, 4, 167, 0, 4, 3, 172]
abbrev dktX3_isWhole_3 : List UInt8 := dkwX3_isWhole_3 ++ []
def dkwX3_isWhole_2 : List UInt8 := [42, 16, 59, 16, 59, 182, 0, 169, 61, 42, 180, 0, 162, 154, 0, 7, 4, 167, 0, 4, 3, 60]
abbrev dktX3_isWhole_2 : List UInt8 := dkwX3_isWhole_2 ++ dktX3_isWhole_3
def dkwX3_isWhole_1 : List UInt8 := [154, 0, 18, 42, 180, 0, 159, 42, 180, 0, 151, 162, 0, 7, 4, 167, 0, 4, 3, 60, 27, 153, 255, 223]
abbrev dktX3_isWhole_1 : List UInt8 := dkwX3_isWhole_1 ++ dktX3_isWhole_2
def dkwX3_isWhole_0 : List UInt8 := [42, 3, 181, 0, 159, 42, 3, 181, 0, 162, 4, 60, 27, 153, 0, 60, 42, 182, 0, 181, 42, 180, 0, 162]
abbrev dktX3_isWhole_0 : List UInt8 := dkwX3_isWhole_0 ++ dktX3_isWhole_1
theorem dksX3_isWhole_0 : cX3_isWhole.data.toList.drop 0 = dktX3_isWhole_0 := by decide +kernel
theorem dksX3_isWhole_1 : cX3_isWhole.data.toList.drop 24 = dktX3_isWhole_1 := dk_seg dksX3_isWhole_0 24 rfl rfl
theorem dksX3_isWhole_2 : cX3_isWhole.data.toList.drop 48 = dktX3_isWhole_2 := dk_seg dksX3_isWhole_1 24 rfl rfl
theorem dksX3_isWhole_3 : cX3_isWhole.data.toList.drop 70 = dktX3_isWhole_3 := dk_seg dksX3_isWhole_2 22 rfl rfl
theorem dX3_isWhole_0 : decode cX3_isWhole 0 = .ok (.aload_n 0, 1) := dk_42 (dk_at dksX3_isWhole_0 0 rfl rfl)
theorem dX3_isWhole_1 : decode cX3_isWhole 1 = .ok (.iconst 0, 1) := dk_3 (dk_at dksX3_isWhole_0 1 rfl rfl)
theorem dX3_isWhole_2 : decode cX3_isWhole 2 = .ok (.putfield 159, 3) := dk_181 0 159 (dk_at dksX3_isWhole_0 2 rfl rfl)
theorem dX3_isWhole_5 : decode cX3_isWhole 5 = .ok (.aload_n 0, 1) := dk_42 (dk_at dksX3_isWhole_0 5 rfl rfl)
theorem dX3_isWhole_6 : decode cX3_isWhole 6 = .ok (.iconst 0, 1) := dk_3 (dk_at dksX3_isWhole_0 6 rfl rfl)
theorem dX3_isWhole_7 : decode cX3_isWhole 7 = .ok (.putfield 162, 3) := dk_181 0 162 (dk_at dksX3_isWhole_0 7 rfl rfl)
theorem dX3_isWhole_10 : decode cX3_isWhole 10 = .ok (.iconst 1, 1) := dk_4 (dk_at dksX3_isWhole_0 10 rfl rfl)
theorem dX3_isWhole_11 : decode cX3_isWhole 11 = .ok (.istore_n 1, 1) := dk_60 (dk_at dksX3_isWhole_0 11 rfl rfl)
theorem dX3_isWhole_12 : decode cX3_isWhole 12 = .ok (.iload_n 1, 1) := dk_27 (dk_at dksX3_isWhole_0 12 rfl rfl)
theorem dX3_isWhole_13 : decode cX3_isWhole 13 = .ok (.ifCond .eq 60, 3) := dk_153 0 60 (dk_at dksX3_isWhole_0 13 rfl rfl)
theorem dX3_isWhole_16 : decode cX3_isWhole 16 = .ok (.aload_n 0, 1) := dk_42 (dk_at dksX3_isWhole_0 16 rfl rfl)
theorem dX3_isWhole_17 : decode cX3_isWhole 17 = .ok (.invokevirtual 181, 3) := dk_182 0 181 (dk_at dksX3_isWhole_0 17 rfl rfl)
theorem dX3_isWhole_20 : decode cX3_isWhole 20 = .ok (.aload_n 0, 1) := dk_42 (dk_at dksX3_isWhole_0 20 rfl rfl)
theorem dX3_isWhole_21 : decode cX3_isWhole 21 = .ok (.getfield 162, 3) := dk_180 0 162 (dk_at dksX3_isWhole_0 21 rfl rfl)
theorem dX3_isWhole_24 : decode cX3_isWhole 24 = .ok (.ifCond .ne 18, 3) := dk_154 0 18 (dk_at dksX3_isWhole_1 0 rfl rfl)
theorem dX3_isWhole_27 : decode cX3_isWhole 27 = .ok (.aload_n 0, 1) := dk_42 (dk_at dksX3_isWhole_1 3 rfl rfl)
theorem dX3_isWhole_28 : decode cX3_isWhole 28 = .ok (.getfield 159, 3) := dk_180 0 159 (dk_at dksX3_isWhole_1 4 rfl rfl)
theorem dX3_isWhole_31 : decode cX3_isWhole 31 = .ok (.aload_n 0, 1) := dk_42 (dk_at dksX3_isWhole_1 7 rfl rfl)
theorem dX3_isWhole_32 : decode cX3_isWhole 32 = .ok (.getfield 151, 3) := dk_180 0 151 (dk_at dksX3_isWhole_1 8 rfl rfl)
theorem dX3_isWhole_35 : decode cX3_isWhole 35 = .ok (.if_icmp .ge 7, 3) := dk_162 0 7 (dk_at dksX3_isWhole_1 11 rfl rfl)
theorem dX3_isWhole_38 : decode cX3_isWhole 38 = .ok (.iconst 1, 1) := dk_4 (dk_at dksX3_isWhole_1 14 rfl rfl)
theorem dX3_isWhole_39 : decode cX3_isWhole 39 = .ok (.goto 4, 3) := dk_167 0 4 (dk_at dksX3_isWhole_1 15 rfl rfl)
theorem dX3_isWhole_42 : decode cX3_isWhole 42 = .ok (.iconst 0, 1) := dk_3 (dk_at dksX3_isWhole_1 18 rfl rfl)
theorem dX3_isWhole_43 : decode cX3_isWhole 43 = .ok (.istore_n 1, 1) := dk_60 (dk_at dksX3_isWhole_1 19 rfl rfl)
theorem dX3_isWhole_44 : decode cX3_isWhole 44 = .ok (.iload_n 1, 1) := dk_27 (dk_at dksX3_isWhole_1 20 rfl rfl)
theorem dX3_isWhole_45 : decode cX3_isWhole 45 = .ok (.ifCond .eq (-33), 3) := dk_153 255 223 (dk_at dksX3_isWhole_1 21 rfl rfl)
theorem dX3_isWhole_48 : decode cX3_isWhole 48 = .ok (.aload_n 0, 1) := dk_42 (dk_at dksX3_isWhole_2 0 rfl rfl)
theorem dX3_isWhole_49 : decode cX3_isWhole 49 = .ok (.bipush 59, 2) := dk_16 59 (dk_at dksX3_isWhole_2 1 rfl rfl)
theorem dX3_isWhole_51 : decode cX3_isWhole 51 = .ok (.bipush 59, 2) := dk_16 59 (dk_at dksX3_isWhole_2 3 rfl rfl)
theorem dX3_isWhole_53 : decode cX3_isWhole 53 = .ok (.invokevirtual 169, 3) := dk_182 0 169 (dk_at dksX3_isWhole_2 5 rfl rfl)
theorem dX3_isWhole_56 : decode cX3_isWhole 56 = .ok (.istore_n 2, 1) := dk_61 (dk_at dksX3_isWhole_2 8 rfl rfl)
theorem dX3_isWhole_57 : decode cX3_isWhole 57 = .ok (.aload_n 0, 1) := dk_42 (dk_at dksX3_isWhole_2 9 rfl rfl)
theorem dX3_isWhole_58 : decode cX3_isWhole 58 = .ok (.getfield 162, 3) := dk_180 0 162 (dk_at dksX3_isWhole_2 10 rfl rfl)
theorem dX3_isWhole_61 : decode cX3_isWhole 61 = .ok (.ifCond .ne 7, 3) := dk_154 0 7 (dk_at dksX3_isWhole_2 13 rfl rfl)
theorem dX3_isWhole_64 : decode cX3_isWhole 64 = .ok (.iconst 1, 1) := dk_4 (dk_at dksX3_isWhole_2 16 rfl rfl)
theorem dX3_isWhole_65 : decode cX3_isWhole 65 = .ok (.goto 4, 3) := dk_167 0 4 (dk_at dksX3_isWhole_2 17 rfl rfl)
theorem dX3_isWhole_68 : decode cX3_isWhole 68 = .ok (.iconst 0, 1) := dk_3 (dk_at dksX3_isWhole_2 20 rfl rfl)
theorem dX3_isWhole_69 : decode cX3_isWhole 69 = .ok (.istore_n 1, 1) := dk_60 (dk_at dksX3_isWhole_2 21 rfl rfl)
theorem dX3_isWhole_70 : decode cX3_isWhole 70 = .ok (.goto (-58), 3) := dk_167 255 198 (dk_at dksX3_isWhole_3 0 rfl rfl)
theorem dX3_isWhole_73 : decode cX3_isWhole 73 = .ok (.aload_n 0, 1) := dk_42 (dk_at dksX3_isWhole_3 3 rfl rfl)
theorem dX3_isWhole_74 : decode cX3_isWhole 74 = .ok (.getfield 162, 3) := dk_180 0 162 (dk_at dksX3_isWhole_3 4 rfl rfl)
theorem dX3_isWhole_77 : decode cX3_isWhole 77 = .ok (.ifCond .ne 7, 3) := dk_154 0 7 (dk_at dksX3_isWhole_3 7 rfl rfl)
theorem dX3_isWhole_80 : decode cX3_isWhole 80 = .ok (.iconst 1, 1) := dk_4 (dk_at dksX3_isWhole_3 10 rfl rfl)
theorem dX3_isWhole_81 : decode cX3_isWhole 81 = .ok (.goto 4, 3) := dk_167 0 4 (dk_at dksX3_isWhole_3 11 rfl rfl)
theorem dX3_isWhole_84 : decode cX3_isWhole 84 = .ok (.iconst 0, 1) := dk_3 (dk_at dksX3_isWhole_3 14 rfl rfl)
theorem dX3_isWhole_85 : decode cX3_isWhole 85 = .ok (.ireturn, 1) := dk_172 (dk_at dksX3_isWhole_3 15 rfl rfl)
abbrev cX3_order : ByteArray := prog_9_method_59_code
def yX3_order : MethodName := ⟨RX3, "order", "()V"⟩
def dkwX3_order_9 : List UInt8 := [27, 153, 0, 14, 42, 16, 97, 16, 104, 182, 0, 169, 167, 0, 4, 3, 181, 0, 178, 177]
abbrev dktX3_order_9 : List UInt8 := dkwX3_order_9 ++ []
def dkwX3_order_8 : List UInt8 := [181, 0, 172, 42, 28, 153, 0, 14, 42, 16, 97, 16, 104, 182, 0, 169, 167, 0, 4, 3, 181, 0, 175, 42]
abbrev dktX3_order_8 : List UInt8 := dkwX3_order_8 ++ dktX3_order_9
def dkwX3_order_7 : List UInt8 := [42, 42, 180, 0, 166, 16, 99, 160, 0, 14, 42, 16, 48, 16, 57, 182, 0, 169, 167, 0, 4, 3]
abbrev dktX3_order_7 : List UInt8 := dkwX3_order_7 ++ dktX3_order_8
def dkwX3_order_6 : List UInt8 := [181, 0, 162, 42, 89, 180, 0, 159, 42, 180, 0, 162, 153, 0, 7, 3, 167, 0, 4, 4, 96, 181, 0, 159]
abbrev dktX3_order_6 : List UInt8 := dkwX3_order_6 ++ dktX3_order_7
def dkwX3_order_5 : List UInt8 := [180, 0, 166, 16, 98, 159, 0, 16, 42, 180, 0, 166, 16, 112, 159, 0, 7, 4, 167, 0, 4, 3]
abbrev dktX3_order_5 : List UInt8 := dkwX3_order_5 ++ dktX3_order_6
def dkwX3_order_4 : List UInt8 := [160, 0, 7, 4, 167, 0, 4, 3, 61, 42, 42, 180, 0, 162, 154, 0, 25, 28, 154, 0, 25, 42]
abbrev dktX3_order_4 : List UInt8 := dkwX3_order_4 ++ dktX3_order_5
def dkwX3_order_3 : List UInt8 := [167, 0, 4, 3, 60, 27, 154, 0, 21, 42, 180, 0, 166, 16, 116, 159, 0, 12, 42, 180, 0, 166, 16, 100]
abbrev dktX3_order_3 : List UInt8 := dkwX3_order_3 ++ dktX3_order_4
def dkwX3_order_2 : List UInt8 := [16, 43, 159, 0, 21, 42, 180, 0, 166, 16, 45, 159, 0, 12, 42, 180, 0, 166, 16, 99, 160, 0, 7, 4]
abbrev dktX3_order_2 : List UInt8 := dkwX3_order_2 ++ dktX3_order_3
def dkwX3_order_1 : List UInt8 := [180, 0, 23, 42, 180, 0, 159, 46, 181, 0, 166, 42, 180, 0, 166, 16, 114, 159, 0, 30, 42, 180, 0, 166]
abbrev dktX3_order_1 : List UInt8 := dkwX3_order_1 ++ dktX3_order_2
def dkwX3_order_0 : List UInt8 := [42, 42, 180, 0, 162, 154, 0, 14, 42, 180, 0, 159, 42, 180, 0, 151, 160, 0, 7, 3, 167, 0, 12, 42]
abbrev dktX3_order_0 : List UInt8 := dkwX3_order_0 ++ dktX3_order_1
theorem dksX3_order_0 : cX3_order.data.toList.drop 0 = dktX3_order_0 := by decide +kernel
theorem dksX3_order_1 : cX3_order.data.toList.drop 24 = dktX3_order_1 := dk_seg dksX3_order_0 24 rfl rfl
theorem dksX3_order_2 : cX3_order.data.toList.drop 48 = dktX3_order_2 := dk_seg dksX3_order_1 24 rfl rfl
theorem dksX3_order_3 : cX3_order.data.toList.drop 72 = dktX3_order_3 := dk_seg dksX3_order_2 24 rfl rfl
theorem dksX3_order_4 : cX3_order.data.toList.drop 96 = dktX3_order_4 := dk_seg dksX3_order_3 24 rfl rfl
theorem dksX3_order_5 : cX3_order.data.toList.drop 118 = dktX3_order_5 := dk_seg dksX3_order_4 22 rfl rfl
theorem dksX3_order_6 : cX3_order.data.toList.drop 140 = dktX3_order_6 := dk_seg dksX3_order_5 22 rfl rfl
theorem dksX3_order_7 : cX3_order.data.toList.drop 164 = dktX3_order_7 := dk_seg dksX3_order_6 24 rfl rfl
theorem dksX3_order_8 : cX3_order.data.toList.drop 186 = dktX3_order_8 := dk_seg dksX3_order_7 22 rfl rfl
theorem dksX3_order_9 : cX3_order.data.toList.drop 210 = dktX3_order_9 := dk_seg dksX3_order_8 24 rfl rfl
theorem dX3_order_0 : decode cX3_order 0 = .ok (.aload_n 0, 1) := dk_42 (dk_at dksX3_order_0 0 rfl rfl)
theorem dX3_order_1 : decode cX3_order 1 = .ok (.aload_n 0, 1) := dk_42 (dk_at dksX3_order_0 1 rfl rfl)
theorem dX3_order_2 : decode cX3_order 2 = .ok (.getfield 162, 3) := dk_180 0 162 (dk_at dksX3_order_0 2 rfl rfl)
theorem dX3_order_5 : decode cX3_order 5 = .ok (.ifCond .ne 14, 3) := dk_154 0 14 (dk_at dksX3_order_0 5 rfl rfl)
theorem dX3_order_8 : decode cX3_order 8 = .ok (.aload_n 0, 1) := dk_42 (dk_at dksX3_order_0 8 rfl rfl)
theorem dX3_order_9 : decode cX3_order 9 = .ok (.getfield 159, 3) := dk_180 0 159 (dk_at dksX3_order_0 9 rfl rfl)
theorem dX3_order_12 : decode cX3_order 12 = .ok (.aload_n 0, 1) := dk_42 (dk_at dksX3_order_0 12 rfl rfl)
theorem dX3_order_13 : decode cX3_order 13 = .ok (.getfield 151, 3) := dk_180 0 151 (dk_at dksX3_order_0 13 rfl rfl)
theorem dX3_order_16 : decode cX3_order 16 = .ok (.if_icmp .ne 7, 3) := dk_160 0 7 (dk_at dksX3_order_0 16 rfl rfl)
theorem dX3_order_19 : decode cX3_order 19 = .ok (.iconst 0, 1) := dk_3 (dk_at dksX3_order_0 19 rfl rfl)
theorem dX3_order_20 : decode cX3_order 20 = .ok (.goto 12, 3) := dk_167 0 12 (dk_at dksX3_order_0 20 rfl rfl)
theorem dX3_order_23 : decode cX3_order 23 = .ok (.aload_n 0, 1) := dk_42 (dk_at dksX3_order_0 23 rfl rfl)
theorem dX3_order_24 : decode cX3_order 24 = .ok (.getfield 23, 3) := dk_180 0 23 (dk_at dksX3_order_1 0 rfl rfl)
theorem dX3_order_27 : decode cX3_order 27 = .ok (.aload_n 0, 1) := dk_42 (dk_at dksX3_order_1 3 rfl rfl)
theorem dX3_order_28 : decode cX3_order 28 = .ok (.getfield 159, 3) := dk_180 0 159 (dk_at dksX3_order_1 4 rfl rfl)
theorem dX3_order_31 : decode cX3_order 31 = .ok (.iaload, 1) := dk_46 (dk_at dksX3_order_1 7 rfl rfl)
theorem dX3_order_32 : decode cX3_order 32 = .ok (.putfield 166, 3) := dk_181 0 166 (dk_at dksX3_order_1 8 rfl rfl)
theorem dX3_order_35 : decode cX3_order 35 = .ok (.aload_n 0, 1) := dk_42 (dk_at dksX3_order_1 11 rfl rfl)
theorem dX3_order_36 : decode cX3_order 36 = .ok (.getfield 166, 3) := dk_180 0 166 (dk_at dksX3_order_1 12 rfl rfl)
theorem dX3_order_39 : decode cX3_order 39 = .ok (.bipush 114, 2) := dk_16 114 (dk_at dksX3_order_1 15 rfl rfl)
theorem dX3_order_41 : decode cX3_order 41 = .ok (.if_icmp .eq 30, 3) := dk_159 0 30 (dk_at dksX3_order_1 17 rfl rfl)
theorem dX3_order_44 : decode cX3_order 44 = .ok (.aload_n 0, 1) := dk_42 (dk_at dksX3_order_1 20 rfl rfl)
theorem dX3_order_45 : decode cX3_order 45 = .ok (.getfield 166, 3) := dk_180 0 166 (dk_at dksX3_order_1 21 rfl rfl)
theorem dX3_order_48 : decode cX3_order 48 = .ok (.bipush 43, 2) := dk_16 43 (dk_at dksX3_order_2 0 rfl rfl)
theorem dX3_order_50 : decode cX3_order 50 = .ok (.if_icmp .eq 21, 3) := dk_159 0 21 (dk_at dksX3_order_2 2 rfl rfl)
theorem dX3_order_53 : decode cX3_order 53 = .ok (.aload_n 0, 1) := dk_42 (dk_at dksX3_order_2 5 rfl rfl)
theorem dX3_order_54 : decode cX3_order 54 = .ok (.getfield 166, 3) := dk_180 0 166 (dk_at dksX3_order_2 6 rfl rfl)
theorem dX3_order_57 : decode cX3_order 57 = .ok (.bipush 45, 2) := dk_16 45 (dk_at dksX3_order_2 9 rfl rfl)
theorem dX3_order_59 : decode cX3_order 59 = .ok (.if_icmp .eq 12, 3) := dk_159 0 12 (dk_at dksX3_order_2 11 rfl rfl)
theorem dX3_order_62 : decode cX3_order 62 = .ok (.aload_n 0, 1) := dk_42 (dk_at dksX3_order_2 14 rfl rfl)
theorem dX3_order_63 : decode cX3_order 63 = .ok (.getfield 166, 3) := dk_180 0 166 (dk_at dksX3_order_2 15 rfl rfl)
theorem dX3_order_66 : decode cX3_order 66 = .ok (.bipush 99, 2) := dk_16 99 (dk_at dksX3_order_2 18 rfl rfl)
theorem dX3_order_68 : decode cX3_order 68 = .ok (.if_icmp .ne 7, 3) := dk_160 0 7 (dk_at dksX3_order_2 20 rfl rfl)
theorem dX3_order_71 : decode cX3_order 71 = .ok (.iconst 1, 1) := dk_4 (dk_at dksX3_order_2 23 rfl rfl)
theorem dX3_order_72 : decode cX3_order 72 = .ok (.goto 4, 3) := dk_167 0 4 (dk_at dksX3_order_3 0 rfl rfl)
theorem dX3_order_75 : decode cX3_order 75 = .ok (.iconst 0, 1) := dk_3 (dk_at dksX3_order_3 3 rfl rfl)
theorem dX3_order_76 : decode cX3_order 76 = .ok (.istore_n 1, 1) := dk_60 (dk_at dksX3_order_3 4 rfl rfl)
theorem dX3_order_77 : decode cX3_order 77 = .ok (.iload_n 1, 1) := dk_27 (dk_at dksX3_order_3 5 rfl rfl)
theorem dX3_order_78 : decode cX3_order 78 = .ok (.ifCond .ne 21, 3) := dk_154 0 21 (dk_at dksX3_order_3 6 rfl rfl)
theorem dX3_order_81 : decode cX3_order 81 = .ok (.aload_n 0, 1) := dk_42 (dk_at dksX3_order_3 9 rfl rfl)
theorem dX3_order_82 : decode cX3_order 82 = .ok (.getfield 166, 3) := dk_180 0 166 (dk_at dksX3_order_3 10 rfl rfl)
theorem dX3_order_85 : decode cX3_order 85 = .ok (.bipush 116, 2) := dk_16 116 (dk_at dksX3_order_3 13 rfl rfl)
theorem dX3_order_87 : decode cX3_order 87 = .ok (.if_icmp .eq 12, 3) := dk_159 0 12 (dk_at dksX3_order_3 15 rfl rfl)
theorem dX3_order_90 : decode cX3_order 90 = .ok (.aload_n 0, 1) := dk_42 (dk_at dksX3_order_3 18 rfl rfl)
theorem dX3_order_91 : decode cX3_order 91 = .ok (.getfield 166, 3) := dk_180 0 166 (dk_at dksX3_order_3 19 rfl rfl)
theorem dX3_order_94 : decode cX3_order 94 = .ok (.bipush 100, 2) := dk_16 100 (dk_at dksX3_order_3 22 rfl rfl)
theorem dX3_order_96 : decode cX3_order 96 = .ok (.if_icmp .ne 7, 3) := dk_160 0 7 (dk_at dksX3_order_4 0 rfl rfl)
theorem dX3_order_99 : decode cX3_order 99 = .ok (.iconst 1, 1) := dk_4 (dk_at dksX3_order_4 3 rfl rfl)
theorem dX3_order_100 : decode cX3_order 100 = .ok (.goto 4, 3) := dk_167 0 4 (dk_at dksX3_order_4 4 rfl rfl)
theorem dX3_order_103 : decode cX3_order 103 = .ok (.iconst 0, 1) := dk_3 (dk_at dksX3_order_4 7 rfl rfl)
theorem dX3_order_104 : decode cX3_order 104 = .ok (.istore_n 2, 1) := dk_61 (dk_at dksX3_order_4 8 rfl rfl)
theorem dX3_order_105 : decode cX3_order 105 = .ok (.aload_n 0, 1) := dk_42 (dk_at dksX3_order_4 9 rfl rfl)
theorem dX3_order_106 : decode cX3_order 106 = .ok (.aload_n 0, 1) := dk_42 (dk_at dksX3_order_4 10 rfl rfl)
theorem dX3_order_107 : decode cX3_order 107 = .ok (.getfield 162, 3) := dk_180 0 162 (dk_at dksX3_order_4 11 rfl rfl)
theorem dX3_order_110 : decode cX3_order 110 = .ok (.ifCond .ne 25, 3) := dk_154 0 25 (dk_at dksX3_order_4 14 rfl rfl)
theorem dX3_order_113 : decode cX3_order 113 = .ok (.iload_n 2, 1) := dk_28 (dk_at dksX3_order_4 17 rfl rfl)
theorem dX3_order_114 : decode cX3_order 114 = .ok (.ifCond .ne 25, 3) := dk_154 0 25 (dk_at dksX3_order_4 18 rfl rfl)
theorem dX3_order_117 : decode cX3_order 117 = .ok (.aload_n 0, 1) := dk_42 (dk_at dksX3_order_4 21 rfl rfl)
theorem dX3_order_118 : decode cX3_order 118 = .ok (.getfield 166, 3) := dk_180 0 166 (dk_at dksX3_order_5 0 rfl rfl)
theorem dX3_order_121 : decode cX3_order 121 = .ok (.bipush 98, 2) := dk_16 98 (dk_at dksX3_order_5 3 rfl rfl)
theorem dX3_order_123 : decode cX3_order 123 = .ok (.if_icmp .eq 16, 3) := dk_159 0 16 (dk_at dksX3_order_5 5 rfl rfl)
theorem dX3_order_126 : decode cX3_order 126 = .ok (.aload_n 0, 1) := dk_42 (dk_at dksX3_order_5 8 rfl rfl)
theorem dX3_order_127 : decode cX3_order 127 = .ok (.getfield 166, 3) := dk_180 0 166 (dk_at dksX3_order_5 9 rfl rfl)
theorem dX3_order_130 : decode cX3_order 130 = .ok (.bipush 112, 2) := dk_16 112 (dk_at dksX3_order_5 12 rfl rfl)
theorem dX3_order_132 : decode cX3_order 132 = .ok (.if_icmp .eq 7, 3) := dk_159 0 7 (dk_at dksX3_order_5 14 rfl rfl)
theorem dX3_order_135 : decode cX3_order 135 = .ok (.iconst 1, 1) := dk_4 (dk_at dksX3_order_5 17 rfl rfl)
theorem dX3_order_136 : decode cX3_order 136 = .ok (.goto 4, 3) := dk_167 0 4 (dk_at dksX3_order_5 18 rfl rfl)
theorem dX3_order_139 : decode cX3_order 139 = .ok (.iconst 0, 1) := dk_3 (dk_at dksX3_order_5 21 rfl rfl)
theorem dX3_order_140 : decode cX3_order 140 = .ok (.putfield 162, 3) := dk_181 0 162 (dk_at dksX3_order_6 0 rfl rfl)
theorem dX3_order_143 : decode cX3_order 143 = .ok (.aload_n 0, 1) := dk_42 (dk_at dksX3_order_6 3 rfl rfl)
theorem dX3_order_144 : decode cX3_order 144 = .ok (.dup, 1) := dk_89 (dk_at dksX3_order_6 4 rfl rfl)
theorem dX3_order_145 : decode cX3_order 145 = .ok (.getfield 159, 3) := dk_180 0 159 (dk_at dksX3_order_6 5 rfl rfl)
theorem dX3_order_148 : decode cX3_order 148 = .ok (.aload_n 0, 1) := dk_42 (dk_at dksX3_order_6 8 rfl rfl)
theorem dX3_order_149 : decode cX3_order 149 = .ok (.getfield 162, 3) := dk_180 0 162 (dk_at dksX3_order_6 9 rfl rfl)
theorem dX3_order_152 : decode cX3_order 152 = .ok (.ifCond .eq 7, 3) := dk_153 0 7 (dk_at dksX3_order_6 12 rfl rfl)
theorem dX3_order_155 : decode cX3_order 155 = .ok (.iconst 0, 1) := dk_3 (dk_at dksX3_order_6 15 rfl rfl)
theorem dX3_order_156 : decode cX3_order 156 = .ok (.goto 4, 3) := dk_167 0 4 (dk_at dksX3_order_6 16 rfl rfl)
theorem dX3_order_159 : decode cX3_order 159 = .ok (.iconst 1, 1) := dk_4 (dk_at dksX3_order_6 19 rfl rfl)
theorem dX3_order_160 : decode cX3_order 160 = .ok (.iadd, 1) := dk_96 (dk_at dksX3_order_6 20 rfl rfl)
theorem dX3_order_161 : decode cX3_order 161 = .ok (.putfield 159, 3) := dk_181 0 159 (dk_at dksX3_order_6 21 rfl rfl)
theorem dX3_order_164 : decode cX3_order 164 = .ok (.aload_n 0, 1) := dk_42 (dk_at dksX3_order_7 0 rfl rfl)
theorem dX3_order_165 : decode cX3_order 165 = .ok (.aload_n 0, 1) := dk_42 (dk_at dksX3_order_7 1 rfl rfl)
theorem dX3_order_166 : decode cX3_order 166 = .ok (.getfield 166, 3) := dk_180 0 166 (dk_at dksX3_order_7 2 rfl rfl)
theorem dX3_order_169 : decode cX3_order 169 = .ok (.bipush 99, 2) := dk_16 99 (dk_at dksX3_order_7 5 rfl rfl)
theorem dX3_order_171 : decode cX3_order 171 = .ok (.if_icmp .ne 14, 3) := dk_160 0 14 (dk_at dksX3_order_7 7 rfl rfl)
theorem dX3_order_174 : decode cX3_order 174 = .ok (.aload_n 0, 1) := dk_42 (dk_at dksX3_order_7 10 rfl rfl)
theorem dX3_order_175 : decode cX3_order 175 = .ok (.bipush 48, 2) := dk_16 48 (dk_at dksX3_order_7 11 rfl rfl)
theorem dX3_order_177 : decode cX3_order 177 = .ok (.bipush 57, 2) := dk_16 57 (dk_at dksX3_order_7 13 rfl rfl)
theorem dX3_order_179 : decode cX3_order 179 = .ok (.invokevirtual 169, 3) := dk_182 0 169 (dk_at dksX3_order_7 15 rfl rfl)
theorem dX3_order_182 : decode cX3_order 182 = .ok (.goto 4, 3) := dk_167 0 4 (dk_at dksX3_order_7 18 rfl rfl)
theorem dX3_order_185 : decode cX3_order 185 = .ok (.iconst 0, 1) := dk_3 (dk_at dksX3_order_7 21 rfl rfl)
theorem dX3_order_186 : decode cX3_order 186 = .ok (.putfield 172, 3) := dk_181 0 172 (dk_at dksX3_order_8 0 rfl rfl)
theorem dX3_order_189 : decode cX3_order 189 = .ok (.aload_n 0, 1) := dk_42 (dk_at dksX3_order_8 3 rfl rfl)
theorem dX3_order_190 : decode cX3_order 190 = .ok (.iload_n 2, 1) := dk_28 (dk_at dksX3_order_8 4 rfl rfl)
theorem dX3_order_191 : decode cX3_order 191 = .ok (.ifCond .eq 14, 3) := dk_153 0 14 (dk_at dksX3_order_8 5 rfl rfl)
theorem dX3_order_194 : decode cX3_order 194 = .ok (.aload_n 0, 1) := dk_42 (dk_at dksX3_order_8 8 rfl rfl)
theorem dX3_order_195 : decode cX3_order 195 = .ok (.bipush 97, 2) := dk_16 97 (dk_at dksX3_order_8 9 rfl rfl)
theorem dX3_order_197 : decode cX3_order 197 = .ok (.bipush 104, 2) := dk_16 104 (dk_at dksX3_order_8 11 rfl rfl)
theorem dX3_order_199 : decode cX3_order 199 = .ok (.invokevirtual 169, 3) := dk_182 0 169 (dk_at dksX3_order_8 13 rfl rfl)
theorem dX3_order_202 : decode cX3_order 202 = .ok (.goto 4, 3) := dk_167 0 4 (dk_at dksX3_order_8 16 rfl rfl)
theorem dX3_order_205 : decode cX3_order 205 = .ok (.iconst 0, 1) := dk_3 (dk_at dksX3_order_8 19 rfl rfl)
theorem dX3_order_206 : decode cX3_order 206 = .ok (.putfield 175, 3) := dk_181 0 175 (dk_at dksX3_order_8 20 rfl rfl)
theorem dX3_order_209 : decode cX3_order 209 = .ok (.aload_n 0, 1) := dk_42 (dk_at dksX3_order_8 23 rfl rfl)
theorem dX3_order_210 : decode cX3_order 210 = .ok (.iload_n 1, 1) := dk_27 (dk_at dksX3_order_9 0 rfl rfl)
theorem dX3_order_211 : decode cX3_order 211 = .ok (.ifCond .eq 14, 3) := dk_153 0 14 (dk_at dksX3_order_9 1 rfl rfl)
theorem dX3_order_214 : decode cX3_order 214 = .ok (.aload_n 0, 1) := dk_42 (dk_at dksX3_order_9 4 rfl rfl)
theorem dX3_order_215 : decode cX3_order 215 = .ok (.bipush 97, 2) := dk_16 97 (dk_at dksX3_order_9 5 rfl rfl)
theorem dX3_order_217 : decode cX3_order 217 = .ok (.bipush 104, 2) := dk_16 104 (dk_at dksX3_order_9 7 rfl rfl)
theorem dX3_order_219 : decode cX3_order 219 = .ok (.invokevirtual 169, 3) := dk_182 0 169 (dk_at dksX3_order_9 9 rfl rfl)
theorem dX3_order_222 : decode cX3_order 222 = .ok (.goto 4, 3) := dk_167 0 4 (dk_at dksX3_order_9 12 rfl rfl)
theorem dX3_order_225 : decode cX3_order 225 = .ok (.iconst 0, 1) := dk_3 (dk_at dksX3_order_9 15 rfl rfl)
theorem dX3_order_226 : decode cX3_order 226 = .ok (.putfield 178, 3) := dk_181 0 178 (dk_at dksX3_order_9 16 rfl rfl)
theorem dX3_order_229 : decode cX3_order 229 = .ok (.return_, 1) := dk_177 (dk_at dksX3_order_9 19 rfl rfl)
abbrev cX3_within : ByteArray := prog_9_method_58_code
def yX3_within : MethodName := ⟨RX3, "within", "(II)I"⟩
def dkwX3_within_3 : List UInt8 := [29, 27, 100, 172]
abbrev dktX3_within_3 : List UInt8 := dkwX3_within_3 ++ []
def dkwX3_within_2 : List UInt8 := [181, 0, 162, 42, 89, 180, 0, 159, 42, 180, 0, 162, 153, 0, 7, 3, 167, 0, 4, 4, 96, 181, 0, 159]
abbrev dktX3_within_2 : List UInt8 := dkwX3_within_2 ++ dktX3_within_3
def dkwX3_within_1 : List UInt8 := [62, 42, 42, 180, 0, 162, 154, 0, 12, 29, 27, 28, 184, 0, 29, 154, 0, 7, 4, 167, 0, 4, 3]
abbrev dktX3_within_1 : List UInt8 := dkwX3_within_1 ++ dktX3_within_2
def dkwX3_within_0 : List UInt8 := [42, 180, 0, 159, 42, 180, 0, 151, 162, 0, 15, 42, 180, 0, 23, 42, 180, 0, 159, 46, 167, 0, 4, 3]
abbrev dktX3_within_0 : List UInt8 := dkwX3_within_0 ++ dktX3_within_1
theorem dksX3_within_0 : cX3_within.data.toList.drop 0 = dktX3_within_0 := by decide +kernel
theorem dksX3_within_1 : cX3_within.data.toList.drop 24 = dktX3_within_1 := dk_seg dksX3_within_0 24 rfl rfl
theorem dksX3_within_2 : cX3_within.data.toList.drop 47 = dktX3_within_2 := dk_seg dksX3_within_1 23 rfl rfl
theorem dksX3_within_3 : cX3_within.data.toList.drop 71 = dktX3_within_3 := dk_seg dksX3_within_2 24 rfl rfl
theorem dX3_within_0 : decode cX3_within 0 = .ok (.aload_n 0, 1) := dk_42 (dk_at dksX3_within_0 0 rfl rfl)
theorem dX3_within_1 : decode cX3_within 1 = .ok (.getfield 159, 3) := dk_180 0 159 (dk_at dksX3_within_0 1 rfl rfl)
theorem dX3_within_4 : decode cX3_within 4 = .ok (.aload_n 0, 1) := dk_42 (dk_at dksX3_within_0 4 rfl rfl)
theorem dX3_within_5 : decode cX3_within 5 = .ok (.getfield 151, 3) := dk_180 0 151 (dk_at dksX3_within_0 5 rfl rfl)
theorem dX3_within_8 : decode cX3_within 8 = .ok (.if_icmp .ge 15, 3) := dk_162 0 15 (dk_at dksX3_within_0 8 rfl rfl)
theorem dX3_within_11 : decode cX3_within 11 = .ok (.aload_n 0, 1) := dk_42 (dk_at dksX3_within_0 11 rfl rfl)
theorem dX3_within_12 : decode cX3_within 12 = .ok (.getfield 23, 3) := dk_180 0 23 (dk_at dksX3_within_0 12 rfl rfl)
theorem dX3_within_15 : decode cX3_within 15 = .ok (.aload_n 0, 1) := dk_42 (dk_at dksX3_within_0 15 rfl rfl)
theorem dX3_within_16 : decode cX3_within 16 = .ok (.getfield 159, 3) := dk_180 0 159 (dk_at dksX3_within_0 16 rfl rfl)
theorem dX3_within_19 : decode cX3_within 19 = .ok (.iaload, 1) := dk_46 (dk_at dksX3_within_0 19 rfl rfl)
theorem dX3_within_20 : decode cX3_within 20 = .ok (.goto 4, 3) := dk_167 0 4 (dk_at dksX3_within_0 20 rfl rfl)
theorem dX3_within_23 : decode cX3_within 23 = .ok (.iconst 0, 1) := dk_3 (dk_at dksX3_within_0 23 rfl rfl)
theorem dX3_within_24 : decode cX3_within 24 = .ok (.istore_n 3, 1) := dk_62 (dk_at dksX3_within_1 0 rfl rfl)
theorem dX3_within_25 : decode cX3_within 25 = .ok (.aload_n 0, 1) := dk_42 (dk_at dksX3_within_1 1 rfl rfl)
theorem dX3_within_26 : decode cX3_within 26 = .ok (.aload_n 0, 1) := dk_42 (dk_at dksX3_within_1 2 rfl rfl)
theorem dX3_within_27 : decode cX3_within 27 = .ok (.getfield 162, 3) := dk_180 0 162 (dk_at dksX3_within_1 3 rfl rfl)
theorem dX3_within_30 : decode cX3_within 30 = .ok (.ifCond .ne 12, 3) := dk_154 0 12 (dk_at dksX3_within_1 6 rfl rfl)
theorem dX3_within_33 : decode cX3_within 33 = .ok (.iload_n 3, 1) := dk_29 (dk_at dksX3_within_1 9 rfl rfl)
theorem dX3_within_34 : decode cX3_within 34 = .ok (.iload_n 1, 1) := dk_27 (dk_at dksX3_within_1 10 rfl rfl)
theorem dX3_within_35 : decode cX3_within 35 = .ok (.iload_n 2, 1) := dk_28 (dk_at dksX3_within_1 11 rfl rfl)
theorem dX3_within_36 : decode cX3_within 36 = .ok (.invokestatic 29, 3) := dk_184 0 29 (dk_at dksX3_within_1 12 rfl rfl)
theorem dX3_within_39 : decode cX3_within 39 = .ok (.ifCond .ne 7, 3) := dk_154 0 7 (dk_at dksX3_within_1 15 rfl rfl)
theorem dX3_within_42 : decode cX3_within 42 = .ok (.iconst 1, 1) := dk_4 (dk_at dksX3_within_1 18 rfl rfl)
theorem dX3_within_43 : decode cX3_within 43 = .ok (.goto 4, 3) := dk_167 0 4 (dk_at dksX3_within_1 19 rfl rfl)
theorem dX3_within_46 : decode cX3_within 46 = .ok (.iconst 0, 1) := dk_3 (dk_at dksX3_within_1 22 rfl rfl)
theorem dX3_within_47 : decode cX3_within 47 = .ok (.putfield 162, 3) := dk_181 0 162 (dk_at dksX3_within_2 0 rfl rfl)
theorem dX3_within_50 : decode cX3_within 50 = .ok (.aload_n 0, 1) := dk_42 (dk_at dksX3_within_2 3 rfl rfl)
theorem dX3_within_51 : decode cX3_within 51 = .ok (.dup, 1) := dk_89 (dk_at dksX3_within_2 4 rfl rfl)
theorem dX3_within_52 : decode cX3_within 52 = .ok (.getfield 159, 3) := dk_180 0 159 (dk_at dksX3_within_2 5 rfl rfl)
theorem dX3_within_55 : decode cX3_within 55 = .ok (.aload_n 0, 1) := dk_42 (dk_at dksX3_within_2 8 rfl rfl)
theorem dX3_within_56 : decode cX3_within 56 = .ok (.getfield 162, 3) := dk_180 0 162 (dk_at dksX3_within_2 9 rfl rfl)
theorem dX3_within_59 : decode cX3_within 59 = .ok (.ifCond .eq 7, 3) := dk_153 0 7 (dk_at dksX3_within_2 12 rfl rfl)
theorem dX3_within_62 : decode cX3_within 62 = .ok (.iconst 0, 1) := dk_3 (dk_at dksX3_within_2 15 rfl rfl)
theorem dX3_within_63 : decode cX3_within 63 = .ok (.goto 4, 3) := dk_167 0 4 (dk_at dksX3_within_2 16 rfl rfl)
theorem dX3_within_66 : decode cX3_within 66 = .ok (.iconst 1, 1) := dk_4 (dk_at dksX3_within_2 19 rfl rfl)
theorem dX3_within_67 : decode cX3_within 67 = .ok (.iadd, 1) := dk_96 (dk_at dksX3_within_2 20 rfl rfl)
theorem dX3_within_68 : decode cX3_within 68 = .ok (.putfield 159, 3) := dk_181 0 159 (dk_at dksX3_within_2 21 rfl rfl)
theorem dX3_within_71 : decode cX3_within 71 = .ok (.iload_n 3, 1) := dk_29 (dk_at dksX3_within_3 0 rfl rfl)
theorem dX3_within_72 : decode cX3_within 72 = .ok (.iload_n 1, 1) := dk_27 (dk_at dksX3_within_3 1 rfl rfl)
theorem dX3_within_73 : decode cX3_within 73 = .ok (.isub, 1) := dk_100 (dk_at dksX3_within_3 2 rfl rfl)
theorem dX3_within_74 : decode cX3_within 74 = .ok (.ireturn, 1) := dk_172 (dk_at dksX3_within_3 3 rfl rfl)
abbrev cX3_carryOut : ByteArray := prog_9_method_64_code
def yX3_carryOut : MethodName := ⟨RX3, "carryOut", "()I"⟩
def dkwX3_carryOut_3 : List UInt8 := [182, 0, 190, 62, 132, 1, 1, 167, 255, 202, 42, 3, 181, 0, 151, 27, 172]
abbrev dktX3_carryOut_3 : List UInt8 := dkwX3_carryOut_3 ++ []
def dkwX3_carryOut_2 : List UInt8 := [96, 181, 0, 159, 42, 182, 0, 187, 154, 0, 7, 4, 167, 0, 4, 3, 61, 28, 153, 255, 213, 42]
abbrev dktX3_carryOut_2 : List UInt8 := dkwX3_carryOut_2 ++ dktX3_carryOut_3
def dkwX3_carryOut_1 : List UInt8 := [153, 0, 56, 42, 180, 0, 159, 42, 180, 0, 151, 162, 0, 45, 42, 182, 0, 181, 42, 89, 180, 0, 159, 4]
abbrev dktX3_carryOut_1 : List UInt8 := dkwX3_carryOut_1 ++ dktX3_carryOut_2
def dkwX3_carryOut_0 : List UInt8 := [42, 182, 0, 184, 154, 0, 6, 16, 253, 172, 42, 182, 0, 64, 3, 60, 42, 3, 181, 0, 159, 4, 61, 28]
abbrev dktX3_carryOut_0 : List UInt8 := dkwX3_carryOut_0 ++ dktX3_carryOut_1
theorem dksX3_carryOut_0 : cX3_carryOut.data.toList.drop 0 = dktX3_carryOut_0 := by decide +kernel
theorem dksX3_carryOut_1 : cX3_carryOut.data.toList.drop 24 = dktX3_carryOut_1 := dk_seg dksX3_carryOut_0 24 rfl rfl
theorem dksX3_carryOut_2 : cX3_carryOut.data.toList.drop 48 = dktX3_carryOut_2 := dk_seg dksX3_carryOut_1 24 rfl rfl
theorem dksX3_carryOut_3 : cX3_carryOut.data.toList.drop 70 = dktX3_carryOut_3 := dk_seg dksX3_carryOut_2 22 rfl rfl
theorem dX3_carryOut_0 : decode cX3_carryOut 0 = .ok (.aload_n 0, 1) := dk_42 (dk_at dksX3_carryOut_0 0 rfl rfl)
theorem dX3_carryOut_1 : decode cX3_carryOut 1 = .ok (.invokevirtual 184, 3) := dk_182 0 184 (dk_at dksX3_carryOut_0 1 rfl rfl)
theorem dX3_carryOut_4 : decode cX3_carryOut 4 = .ok (.ifCond .ne 6, 3) := dk_154 0 6 (dk_at dksX3_carryOut_0 4 rfl rfl)
theorem dX3_carryOut_7 : decode cX3_carryOut 7 = .ok (.bipush (-3), 2) := dk_16 253 (dk_at dksX3_carryOut_0 7 rfl rfl)
theorem dX3_carryOut_9 : decode cX3_carryOut 9 = .ok (.ireturn, 1) := dk_172 (dk_at dksX3_carryOut_0 9 rfl rfl)
theorem dX3_carryOut_10 : decode cX3_carryOut 10 = .ok (.aload_n 0, 1) := dk_42 (dk_at dksX3_carryOut_0 10 rfl rfl)
theorem dX3_carryOut_11 : decode cX3_carryOut 11 = .ok (.invokevirtual 64, 3) := dk_182 0 64 (dk_at dksX3_carryOut_0 11 rfl rfl)
theorem dX3_carryOut_14 : decode cX3_carryOut 14 = .ok (.iconst 0, 1) := dk_3 (dk_at dksX3_carryOut_0 14 rfl rfl)
theorem dX3_carryOut_15 : decode cX3_carryOut 15 = .ok (.istore_n 1, 1) := dk_60 (dk_at dksX3_carryOut_0 15 rfl rfl)
theorem dX3_carryOut_16 : decode cX3_carryOut 16 = .ok (.aload_n 0, 1) := dk_42 (dk_at dksX3_carryOut_0 16 rfl rfl)
theorem dX3_carryOut_17 : decode cX3_carryOut 17 = .ok (.iconst 0, 1) := dk_3 (dk_at dksX3_carryOut_0 17 rfl rfl)
theorem dX3_carryOut_18 : decode cX3_carryOut 18 = .ok (.putfield 159, 3) := dk_181 0 159 (dk_at dksX3_carryOut_0 18 rfl rfl)
theorem dX3_carryOut_21 : decode cX3_carryOut 21 = .ok (.iconst 1, 1) := dk_4 (dk_at dksX3_carryOut_0 21 rfl rfl)
theorem dX3_carryOut_22 : decode cX3_carryOut 22 = .ok (.istore_n 2, 1) := dk_61 (dk_at dksX3_carryOut_0 22 rfl rfl)
theorem dX3_carryOut_23 : decode cX3_carryOut 23 = .ok (.iload_n 2, 1) := dk_28 (dk_at dksX3_carryOut_0 23 rfl rfl)
theorem dX3_carryOut_24 : decode cX3_carryOut 24 = .ok (.ifCond .eq 56, 3) := dk_153 0 56 (dk_at dksX3_carryOut_1 0 rfl rfl)
theorem dX3_carryOut_27 : decode cX3_carryOut 27 = .ok (.aload_n 0, 1) := dk_42 (dk_at dksX3_carryOut_1 3 rfl rfl)
theorem dX3_carryOut_28 : decode cX3_carryOut 28 = .ok (.getfield 159, 3) := dk_180 0 159 (dk_at dksX3_carryOut_1 4 rfl rfl)
theorem dX3_carryOut_31 : decode cX3_carryOut 31 = .ok (.aload_n 0, 1) := dk_42 (dk_at dksX3_carryOut_1 7 rfl rfl)
theorem dX3_carryOut_32 : decode cX3_carryOut 32 = .ok (.getfield 151, 3) := dk_180 0 151 (dk_at dksX3_carryOut_1 8 rfl rfl)
theorem dX3_carryOut_35 : decode cX3_carryOut 35 = .ok (.if_icmp .ge 45, 3) := dk_162 0 45 (dk_at dksX3_carryOut_1 11 rfl rfl)
theorem dX3_carryOut_38 : decode cX3_carryOut 38 = .ok (.aload_n 0, 1) := dk_42 (dk_at dksX3_carryOut_1 14 rfl rfl)
theorem dX3_carryOut_39 : decode cX3_carryOut 39 = .ok (.invokevirtual 181, 3) := dk_182 0 181 (dk_at dksX3_carryOut_1 15 rfl rfl)
theorem dX3_carryOut_42 : decode cX3_carryOut 42 = .ok (.aload_n 0, 1) := dk_42 (dk_at dksX3_carryOut_1 18 rfl rfl)
theorem dX3_carryOut_43 : decode cX3_carryOut 43 = .ok (.dup, 1) := dk_89 (dk_at dksX3_carryOut_1 19 rfl rfl)
theorem dX3_carryOut_44 : decode cX3_carryOut 44 = .ok (.getfield 159, 3) := dk_180 0 159 (dk_at dksX3_carryOut_1 20 rfl rfl)
theorem dX3_carryOut_47 : decode cX3_carryOut 47 = .ok (.iconst 1, 1) := dk_4 (dk_at dksX3_carryOut_1 23 rfl rfl)
theorem dX3_carryOut_48 : decode cX3_carryOut 48 = .ok (.iadd, 1) := dk_96 (dk_at dksX3_carryOut_2 0 rfl rfl)
theorem dX3_carryOut_49 : decode cX3_carryOut 49 = .ok (.putfield 159, 3) := dk_181 0 159 (dk_at dksX3_carryOut_2 1 rfl rfl)
theorem dX3_carryOut_52 : decode cX3_carryOut 52 = .ok (.aload_n 0, 1) := dk_42 (dk_at dksX3_carryOut_2 4 rfl rfl)
theorem dX3_carryOut_53 : decode cX3_carryOut 53 = .ok (.invokevirtual 187, 3) := dk_182 0 187 (dk_at dksX3_carryOut_2 5 rfl rfl)
theorem dX3_carryOut_56 : decode cX3_carryOut 56 = .ok (.ifCond .ne 7, 3) := dk_154 0 7 (dk_at dksX3_carryOut_2 8 rfl rfl)
theorem dX3_carryOut_59 : decode cX3_carryOut 59 = .ok (.iconst 1, 1) := dk_4 (dk_at dksX3_carryOut_2 11 rfl rfl)
theorem dX3_carryOut_60 : decode cX3_carryOut 60 = .ok (.goto 4, 3) := dk_167 0 4 (dk_at dksX3_carryOut_2 12 rfl rfl)
theorem dX3_carryOut_63 : decode cX3_carryOut 63 = .ok (.iconst 0, 1) := dk_3 (dk_at dksX3_carryOut_2 15 rfl rfl)
theorem dX3_carryOut_64 : decode cX3_carryOut 64 = .ok (.istore_n 2, 1) := dk_61 (dk_at dksX3_carryOut_2 16 rfl rfl)
theorem dX3_carryOut_65 : decode cX3_carryOut 65 = .ok (.iload_n 2, 1) := dk_28 (dk_at dksX3_carryOut_2 17 rfl rfl)
theorem dX3_carryOut_66 : decode cX3_carryOut 66 = .ok (.ifCond .eq (-43), 3) := dk_153 255 213 (dk_at dksX3_carryOut_2 18 rfl rfl)
theorem dX3_carryOut_69 : decode cX3_carryOut 69 = .ok (.aload_n 0, 1) := dk_42 (dk_at dksX3_carryOut_2 21 rfl rfl)
theorem dX3_carryOut_70 : decode cX3_carryOut 70 = .ok (.invokevirtual 190, 3) := dk_182 0 190 (dk_at dksX3_carryOut_3 0 rfl rfl)
theorem dX3_carryOut_73 : decode cX3_carryOut 73 = .ok (.istore_n 3, 1) := dk_62 (dk_at dksX3_carryOut_3 3 rfl rfl)
theorem dX3_carryOut_74 : decode cX3_carryOut 74 = .ok (.iinc 1 1, 3) := dk_132 1 1 (dk_at dksX3_carryOut_3 4 rfl rfl)
theorem dX3_carryOut_77 : decode cX3_carryOut 77 = .ok (.goto (-54), 3) := dk_167 255 202 (dk_at dksX3_carryOut_3 7 rfl rfl)
theorem dX3_carryOut_80 : decode cX3_carryOut 80 = .ok (.aload_n 0, 1) := dk_42 (dk_at dksX3_carryOut_3 10 rfl rfl)
theorem dX3_carryOut_81 : decode cX3_carryOut 81 = .ok (.iconst 0, 1) := dk_3 (dk_at dksX3_carryOut_3 11 rfl rfl)
theorem dX3_carryOut_82 : decode cX3_carryOut 82 = .ok (.putfield 151, 3) := dk_181 0 151 (dk_at dksX3_carryOut_3 12 rfl rfl)
theorem dX3_carryOut_85 : decode cX3_carryOut 85 = .ok (.iload_n 1, 1) := dk_27 (dk_at dksX3_carryOut_3 15 rfl rfl)
theorem dX3_carryOut_86 : decode cX3_carryOut 86 = .ok (.ireturn, 1) := dk_172 (dk_at dksX3_carryOut_3 16 rfl rfl)
abbrev cX3_bar : ByteArray := prog_9_method_62_code
def yX3_bar : MethodName := ⟨RX3, "bar", "()I"⟩
def dkwX3_bar_5 : List UInt8 := [180, 0, 175, 182, 0, 124, 172, 42, 182, 0, 84, 153, 0, 7, 3, 167, 0, 5, 16, 251, 172]
abbrev dktX3_bar_5 : List UInt8 := dkwX3_bar_5 ++ []
def dkwX3_bar_4 : List UInt8 := [182, 0, 97, 172, 42, 42, 180, 0, 172, 42, 180, 0, 175, 42, 180, 0, 178, 182, 0, 115, 172, 42, 42]
abbrev dktX3_bar_4 : List UInt8 := dkwX3_bar_4 ++ dktX3_bar_5
def dkwX3_bar_3 : List UInt8 := [182, 0, 41, 153, 0, 8, 16, 251, 167, 0, 4, 3, 172, 42, 42, 180, 0, 175, 42, 180, 0, 178, 4]
abbrev dktX3_bar_3 : List UInt8 := dkwX3_bar_3 ++ dktX3_bar_4
def dkwX3_bar_2 : List UInt8 := [42, 42, 180, 0, 175, 42, 180, 0, 178, 182, 0, 71, 172, 42, 42, 180, 0, 175, 182, 0, 77, 172, 42]
abbrev dktX3_bar_2 : List UInt8 := dkwX3_bar_2 ++ dktX3_bar_3
def dkwX3_bar_1 : List UInt8 := [171, 0, 0, 0, 0, 0, 0, 144, 0, 0, 0, 7, 0, 0, 0, 43, 0, 0, 0, 104, 0, 0, 0, 45, 0, 0, 0, 104, 0, 0, 0, 98, 0, 0, 0, 90, 0, 0, 0, 99, 0, 0, 0, 118, 0, 0, 0, 100, 0, 0, 0, 135, 0, 0, 0, 114, 0, 0, 0, 68, 0, 0, 0, 116, 0, 0, 0, 81]
abbrev dktX3_bar_1 : List UInt8 := dkwX3_bar_1 ++ dktX3_bar_2
def dkwX3_bar_0 : List UInt8 := [42, 180, 0, 166]
abbrev dktX3_bar_0 : List UInt8 := dkwX3_bar_0 ++ dktX3_bar_1
theorem dksX3_bar_0 : cX3_bar.data.toList.drop 0 = dktX3_bar_0 := by decide +kernel
theorem dksX3_bar_1 : cX3_bar.data.toList.drop 4 = dktX3_bar_1 := dk_seg dksX3_bar_0 4 rfl rfl
theorem dksX3_bar_2 : cX3_bar.data.toList.drop 72 = dktX3_bar_2 := dk_seg dksX3_bar_1 68 rfl rfl
theorem dksX3_bar_3 : cX3_bar.data.toList.drop 95 = dktX3_bar_3 := dk_seg dksX3_bar_2 23 rfl rfl
theorem dksX3_bar_4 : cX3_bar.data.toList.drop 118 = dktX3_bar_4 := dk_seg dksX3_bar_3 23 rfl rfl
theorem dksX3_bar_5 : cX3_bar.data.toList.drop 141 = dktX3_bar_5 := dk_seg dksX3_bar_4 23 rfl rfl
theorem dX3_bar_0 : decode cX3_bar 0 = .ok (.aload_n 0, 1) := dk_42 (dk_at dksX3_bar_0 0 rfl rfl)
theorem dX3_bar_1 : decode cX3_bar 1 = .ok (.getfield 166, 3) := dk_180 0 166 (dk_at dksX3_bar_0 1 rfl rfl)
theorem dX3_bar_4 : decode cX3_bar 4 = .ok (.lookupswitch 144 #[(43, 104), (45, 104), (98, 90), (99, 118), (100, 135), (114, 68), (116, 81)], 68) := by decide +kernel
theorem dX3_bar_72 : decode cX3_bar 72 = .ok (.aload_n 0, 1) := dk_42 (dk_at dksX3_bar_2 0 rfl rfl)
theorem dX3_bar_73 : decode cX3_bar 73 = .ok (.aload_n 0, 1) := dk_42 (dk_at dksX3_bar_2 1 rfl rfl)
theorem dX3_bar_74 : decode cX3_bar 74 = .ok (.getfield 175, 3) := dk_180 0 175 (dk_at dksX3_bar_2 2 rfl rfl)
theorem dX3_bar_77 : decode cX3_bar 77 = .ok (.aload_n 0, 1) := dk_42 (dk_at dksX3_bar_2 5 rfl rfl)
theorem dX3_bar_78 : decode cX3_bar 78 = .ok (.getfield 178, 3) := dk_180 0 178 (dk_at dksX3_bar_2 6 rfl rfl)
theorem dX3_bar_81 : decode cX3_bar 81 = .ok (.invokevirtual 71, 3) := dk_182 0 71 (dk_at dksX3_bar_2 9 rfl rfl)
theorem dX3_bar_84 : decode cX3_bar 84 = .ok (.ireturn, 1) := dk_172 (dk_at dksX3_bar_2 12 rfl rfl)
theorem dX3_bar_85 : decode cX3_bar 85 = .ok (.aload_n 0, 1) := dk_42 (dk_at dksX3_bar_2 13 rfl rfl)
theorem dX3_bar_86 : decode cX3_bar 86 = .ok (.aload_n 0, 1) := dk_42 (dk_at dksX3_bar_2 14 rfl rfl)
theorem dX3_bar_87 : decode cX3_bar 87 = .ok (.getfield 175, 3) := dk_180 0 175 (dk_at dksX3_bar_2 15 rfl rfl)
theorem dX3_bar_90 : decode cX3_bar 90 = .ok (.invokevirtual 77, 3) := dk_182 0 77 (dk_at dksX3_bar_2 18 rfl rfl)
theorem dX3_bar_93 : decode cX3_bar 93 = .ok (.ireturn, 1) := dk_172 (dk_at dksX3_bar_2 21 rfl rfl)
theorem dX3_bar_94 : decode cX3_bar 94 = .ok (.aload_n 0, 1) := dk_42 (dk_at dksX3_bar_2 22 rfl rfl)
theorem dX3_bar_95 : decode cX3_bar 95 = .ok (.invokevirtual 41, 3) := dk_182 0 41 (dk_at dksX3_bar_3 0 rfl rfl)
theorem dX3_bar_98 : decode cX3_bar 98 = .ok (.ifCond .eq 8, 3) := dk_153 0 8 (dk_at dksX3_bar_3 3 rfl rfl)
theorem dX3_bar_101 : decode cX3_bar 101 = .ok (.bipush (-5), 2) := dk_16 251 (dk_at dksX3_bar_3 6 rfl rfl)
theorem dX3_bar_103 : decode cX3_bar 103 = .ok (.goto 4, 3) := dk_167 0 4 (dk_at dksX3_bar_3 8 rfl rfl)
theorem dX3_bar_106 : decode cX3_bar 106 = .ok (.iconst 0, 1) := dk_3 (dk_at dksX3_bar_3 11 rfl rfl)
theorem dX3_bar_107 : decode cX3_bar 107 = .ok (.ireturn, 1) := dk_172 (dk_at dksX3_bar_3 12 rfl rfl)
theorem dX3_bar_108 : decode cX3_bar 108 = .ok (.aload_n 0, 1) := dk_42 (dk_at dksX3_bar_3 13 rfl rfl)
theorem dX3_bar_109 : decode cX3_bar 109 = .ok (.aload_n 0, 1) := dk_42 (dk_at dksX3_bar_3 14 rfl rfl)
theorem dX3_bar_110 : decode cX3_bar 110 = .ok (.getfield 175, 3) := dk_180 0 175 (dk_at dksX3_bar_3 15 rfl rfl)
theorem dX3_bar_113 : decode cX3_bar 113 = .ok (.aload_n 0, 1) := dk_42 (dk_at dksX3_bar_3 18 rfl rfl)
theorem dX3_bar_114 : decode cX3_bar 114 = .ok (.getfield 178, 3) := dk_180 0 178 (dk_at dksX3_bar_3 19 rfl rfl)
theorem dX3_bar_117 : decode cX3_bar 117 = .ok (.iconst 1, 1) := dk_4 (dk_at dksX3_bar_3 22 rfl rfl)
theorem dX3_bar_118 : decode cX3_bar 118 = .ok (.invokevirtual 97, 3) := dk_182 0 97 (dk_at dksX3_bar_4 0 rfl rfl)
theorem dX3_bar_121 : decode cX3_bar 121 = .ok (.ireturn, 1) := dk_172 (dk_at dksX3_bar_4 3 rfl rfl)
theorem dX3_bar_122 : decode cX3_bar 122 = .ok (.aload_n 0, 1) := dk_42 (dk_at dksX3_bar_4 4 rfl rfl)
theorem dX3_bar_123 : decode cX3_bar 123 = .ok (.aload_n 0, 1) := dk_42 (dk_at dksX3_bar_4 5 rfl rfl)
theorem dX3_bar_124 : decode cX3_bar 124 = .ok (.getfield 172, 3) := dk_180 0 172 (dk_at dksX3_bar_4 6 rfl rfl)
theorem dX3_bar_127 : decode cX3_bar 127 = .ok (.aload_n 0, 1) := dk_42 (dk_at dksX3_bar_4 9 rfl rfl)
theorem dX3_bar_128 : decode cX3_bar 128 = .ok (.getfield 175, 3) := dk_180 0 175 (dk_at dksX3_bar_4 10 rfl rfl)
theorem dX3_bar_131 : decode cX3_bar 131 = .ok (.aload_n 0, 1) := dk_42 (dk_at dksX3_bar_4 13 rfl rfl)
theorem dX3_bar_132 : decode cX3_bar 132 = .ok (.getfield 178, 3) := dk_180 0 178 (dk_at dksX3_bar_4 14 rfl rfl)
theorem dX3_bar_135 : decode cX3_bar 135 = .ok (.invokevirtual 115, 3) := dk_182 0 115 (dk_at dksX3_bar_4 17 rfl rfl)
theorem dX3_bar_138 : decode cX3_bar 138 = .ok (.ireturn, 1) := dk_172 (dk_at dksX3_bar_4 20 rfl rfl)
theorem dX3_bar_139 : decode cX3_bar 139 = .ok (.aload_n 0, 1) := dk_42 (dk_at dksX3_bar_4 21 rfl rfl)
theorem dX3_bar_140 : decode cX3_bar 140 = .ok (.aload_n 0, 1) := dk_42 (dk_at dksX3_bar_4 22 rfl rfl)
theorem dX3_bar_141 : decode cX3_bar 141 = .ok (.getfield 175, 3) := dk_180 0 175 (dk_at dksX3_bar_5 0 rfl rfl)
theorem dX3_bar_144 : decode cX3_bar 144 = .ok (.invokevirtual 124, 3) := dk_182 0 124 (dk_at dksX3_bar_5 3 rfl rfl)
theorem dX3_bar_147 : decode cX3_bar 147 = .ok (.ireturn, 1) := dk_172 (dk_at dksX3_bar_5 6 rfl rfl)
theorem dX3_bar_148 : decode cX3_bar 148 = .ok (.aload_n 0, 1) := dk_42 (dk_at dksX3_bar_5 7 rfl rfl)
theorem dX3_bar_149 : decode cX3_bar 149 = .ok (.invokevirtual 84, 3) := dk_182 0 84 (dk_at dksX3_bar_5 8 rfl rfl)
theorem dX3_bar_152 : decode cX3_bar 152 = .ok (.ifCond .eq 7, 3) := dk_153 0 7 (dk_at dksX3_bar_5 11 rfl rfl)
theorem dX3_bar_155 : decode cX3_bar 155 = .ok (.iconst 0, 1) := dk_3 (dk_at dksX3_bar_5 14 rfl rfl)
theorem dX3_bar_156 : decode cX3_bar 156 = .ok (.goto 5, 3) := dk_167 0 5 (dk_at dksX3_bar_5 15 rfl rfl)
theorem dX3_bar_159 : decode cX3_bar 159 = .ok (.bipush (-5), 2) := dk_16 251 (dk_at dksX3_bar_5 18 rfl rfl)
theorem dX3_bar_161 : decode cX3_bar 161 = .ok (.ireturn, 1) := dk_172 (dk_at dksX3_bar_5 20 rfl rfl)
abbrev cX3_does : ByteArray := prog_9_method_63_code
def yX3_does : MethodName := ⟨RX3, "does", "()I"⟩
def dkwX3_does_5 : List UInt8 := [42, 180, 0, 178, 182, 0, 118, 172, 42, 42, 180, 0, 175, 182, 0, 127, 172, 42, 182, 0, 91, 3, 172]
abbrev dktX3_does_5 : List UInt8 := dkwX3_does_5 ++ []
def dkwX3_does_4 : List UInt8 := [172, 42, 42, 180, 0, 175, 42, 180, 0, 178, 3, 182, 0, 101, 172, 42, 42, 180, 0, 172, 42, 180, 0, 175]
abbrev dktX3_does_4 : List UInt8 := dkwX3_does_4 ++ dktX3_does_5
def dkwX3_does_3 : List UInt8 := [172, 42, 180, 0, 7, 16, 6, 4, 79, 3, 172, 42, 42, 180, 0, 175, 42, 180, 0, 178, 4, 182, 0, 101]
abbrev dktX3_does_3 : List UInt8 := dkwX3_does_3 ++ dktX3_does_4
def dkwX3_does_2 : List UInt8 := [42, 42, 180, 0, 175, 42, 180, 0, 178, 182, 0, 74, 172, 42, 180, 0, 7, 4, 42, 180, 0, 175, 79, 3]
abbrev dktX3_does_2 : List UInt8 := dkwX3_does_2 ++ dktX3_does_3
def dkwX3_does_1 : List UInt8 := [171, 0, 0, 0, 0, 0, 0, 157, 0, 0, 0, 7, 0, 0, 0, 43, 0, 0, 0, 103, 0, 0, 0, 45, 0, 0, 0, 117, 0, 0, 0, 98, 0, 0, 0, 93, 0, 0, 0, 99, 0, 0, 0, 131, 0, 0, 0, 100, 0, 0, 0, 148, 0, 0, 0, 114, 0, 0, 0, 68, 0, 0, 0, 116, 0, 0, 0, 81]
abbrev dktX3_does_1 : List UInt8 := dkwX3_does_1 ++ dktX3_does_2
def dkwX3_does_0 : List UInt8 := [42, 180, 0, 166]
abbrev dktX3_does_0 : List UInt8 := dkwX3_does_0 ++ dktX3_does_1
theorem dksX3_does_0 : cX3_does.data.toList.drop 0 = dktX3_does_0 := by decide +kernel
theorem dksX3_does_1 : cX3_does.data.toList.drop 4 = dktX3_does_1 := dk_seg dksX3_does_0 4 rfl rfl
theorem dksX3_does_2 : cX3_does.data.toList.drop 72 = dktX3_does_2 := dk_seg dksX3_does_1 68 rfl rfl
theorem dksX3_does_3 : cX3_does.data.toList.drop 96 = dktX3_does_3 := dk_seg dksX3_does_2 24 rfl rfl
theorem dksX3_does_4 : cX3_does.data.toList.drop 120 = dktX3_does_4 := dk_seg dksX3_does_3 24 rfl rfl
theorem dksX3_does_5 : cX3_does.data.toList.drop 144 = dktX3_does_5 := dk_seg dksX3_does_4 24 rfl rfl
theorem dX3_does_0 : decode cX3_does 0 = .ok (.aload_n 0, 1) := dk_42 (dk_at dksX3_does_0 0 rfl rfl)
theorem dX3_does_1 : decode cX3_does 1 = .ok (.getfield 166, 3) := dk_180 0 166 (dk_at dksX3_does_0 1 rfl rfl)
theorem dX3_does_4 : decode cX3_does 4 = .ok (.lookupswitch 157 #[(43, 103), (45, 117), (98, 93), (99, 131), (100, 148), (114, 68), (116, 81)], 68) := by decide +kernel
theorem dX3_does_72 : decode cX3_does 72 = .ok (.aload_n 0, 1) := dk_42 (dk_at dksX3_does_2 0 rfl rfl)
theorem dX3_does_73 : decode cX3_does 73 = .ok (.aload_n 0, 1) := dk_42 (dk_at dksX3_does_2 1 rfl rfl)
theorem dX3_does_74 : decode cX3_does 74 = .ok (.getfield 175, 3) := dk_180 0 175 (dk_at dksX3_does_2 2 rfl rfl)
theorem dX3_does_77 : decode cX3_does 77 = .ok (.aload_n 0, 1) := dk_42 (dk_at dksX3_does_2 5 rfl rfl)
theorem dX3_does_78 : decode cX3_does 78 = .ok (.getfield 178, 3) := dk_180 0 178 (dk_at dksX3_does_2 6 rfl rfl)
theorem dX3_does_81 : decode cX3_does 81 = .ok (.invokevirtual 74, 3) := dk_182 0 74 (dk_at dksX3_does_2 9 rfl rfl)
theorem dX3_does_84 : decode cX3_does 84 = .ok (.ireturn, 1) := dk_172 (dk_at dksX3_does_2 12 rfl rfl)
theorem dX3_does_85 : decode cX3_does 85 = .ok (.aload_n 0, 1) := dk_42 (dk_at dksX3_does_2 13 rfl rfl)
theorem dX3_does_86 : decode cX3_does 86 = .ok (.getfield 7, 3) := dk_180 0 7 (dk_at dksX3_does_2 14 rfl rfl)
theorem dX3_does_89 : decode cX3_does 89 = .ok (.iconst 1, 1) := dk_4 (dk_at dksX3_does_2 17 rfl rfl)
theorem dX3_does_90 : decode cX3_does 90 = .ok (.aload_n 0, 1) := dk_42 (dk_at dksX3_does_2 18 rfl rfl)
theorem dX3_does_91 : decode cX3_does 91 = .ok (.getfield 175, 3) := dk_180 0 175 (dk_at dksX3_does_2 19 rfl rfl)
theorem dX3_does_94 : decode cX3_does 94 = .ok (.iastore, 1) := dk_79 (dk_at dksX3_does_2 22 rfl rfl)
theorem dX3_does_95 : decode cX3_does 95 = .ok (.iconst 0, 1) := dk_3 (dk_at dksX3_does_2 23 rfl rfl)
theorem dX3_does_96 : decode cX3_does 96 = .ok (.ireturn, 1) := dk_172 (dk_at dksX3_does_3 0 rfl rfl)
theorem dX3_does_97 : decode cX3_does 97 = .ok (.aload_n 0, 1) := dk_42 (dk_at dksX3_does_3 1 rfl rfl)
theorem dX3_does_98 : decode cX3_does 98 = .ok (.getfield 7, 3) := dk_180 0 7 (dk_at dksX3_does_3 2 rfl rfl)
theorem dX3_does_101 : decode cX3_does 101 = .ok (.bipush 6, 2) := dk_16 6 (dk_at dksX3_does_3 5 rfl rfl)
theorem dX3_does_103 : decode cX3_does 103 = .ok (.iconst 1, 1) := dk_4 (dk_at dksX3_does_3 7 rfl rfl)
theorem dX3_does_104 : decode cX3_does 104 = .ok (.iastore, 1) := dk_79 (dk_at dksX3_does_3 8 rfl rfl)
theorem dX3_does_105 : decode cX3_does 105 = .ok (.iconst 0, 1) := dk_3 (dk_at dksX3_does_3 9 rfl rfl)
theorem dX3_does_106 : decode cX3_does 106 = .ok (.ireturn, 1) := dk_172 (dk_at dksX3_does_3 10 rfl rfl)
theorem dX3_does_107 : decode cX3_does 107 = .ok (.aload_n 0, 1) := dk_42 (dk_at dksX3_does_3 11 rfl rfl)
theorem dX3_does_108 : decode cX3_does 108 = .ok (.aload_n 0, 1) := dk_42 (dk_at dksX3_does_3 12 rfl rfl)
theorem dX3_does_109 : decode cX3_does 109 = .ok (.getfield 175, 3) := dk_180 0 175 (dk_at dksX3_does_3 13 rfl rfl)
theorem dX3_does_112 : decode cX3_does 112 = .ok (.aload_n 0, 1) := dk_42 (dk_at dksX3_does_3 16 rfl rfl)
theorem dX3_does_113 : decode cX3_does 113 = .ok (.getfield 178, 3) := dk_180 0 178 (dk_at dksX3_does_3 17 rfl rfl)
theorem dX3_does_116 : decode cX3_does 116 = .ok (.iconst 1, 1) := dk_4 (dk_at dksX3_does_3 20 rfl rfl)
theorem dX3_does_117 : decode cX3_does 117 = .ok (.invokevirtual 101, 3) := dk_182 0 101 (dk_at dksX3_does_3 21 rfl rfl)
theorem dX3_does_120 : decode cX3_does 120 = .ok (.ireturn, 1) := dk_172 (dk_at dksX3_does_4 0 rfl rfl)
theorem dX3_does_121 : decode cX3_does 121 = .ok (.aload_n 0, 1) := dk_42 (dk_at dksX3_does_4 1 rfl rfl)
theorem dX3_does_122 : decode cX3_does 122 = .ok (.aload_n 0, 1) := dk_42 (dk_at dksX3_does_4 2 rfl rfl)
theorem dX3_does_123 : decode cX3_does 123 = .ok (.getfield 175, 3) := dk_180 0 175 (dk_at dksX3_does_4 3 rfl rfl)
theorem dX3_does_126 : decode cX3_does 126 = .ok (.aload_n 0, 1) := dk_42 (dk_at dksX3_does_4 6 rfl rfl)
theorem dX3_does_127 : decode cX3_does 127 = .ok (.getfield 178, 3) := dk_180 0 178 (dk_at dksX3_does_4 7 rfl rfl)
theorem dX3_does_130 : decode cX3_does 130 = .ok (.iconst 0, 1) := dk_3 (dk_at dksX3_does_4 10 rfl rfl)
theorem dX3_does_131 : decode cX3_does 131 = .ok (.invokevirtual 101, 3) := dk_182 0 101 (dk_at dksX3_does_4 11 rfl rfl)
theorem dX3_does_134 : decode cX3_does 134 = .ok (.ireturn, 1) := dk_172 (dk_at dksX3_does_4 14 rfl rfl)
theorem dX3_does_135 : decode cX3_does 135 = .ok (.aload_n 0, 1) := dk_42 (dk_at dksX3_does_4 15 rfl rfl)
theorem dX3_does_136 : decode cX3_does 136 = .ok (.aload_n 0, 1) := dk_42 (dk_at dksX3_does_4 16 rfl rfl)
theorem dX3_does_137 : decode cX3_does 137 = .ok (.getfield 172, 3) := dk_180 0 172 (dk_at dksX3_does_4 17 rfl rfl)
theorem dX3_does_140 : decode cX3_does 140 = .ok (.aload_n 0, 1) := dk_42 (dk_at dksX3_does_4 20 rfl rfl)
theorem dX3_does_141 : decode cX3_does 141 = .ok (.getfield 175, 3) := dk_180 0 175 (dk_at dksX3_does_4 21 rfl rfl)
theorem dX3_does_144 : decode cX3_does 144 = .ok (.aload_n 0, 1) := dk_42 (dk_at dksX3_does_5 0 rfl rfl)
theorem dX3_does_145 : decode cX3_does 145 = .ok (.getfield 178, 3) := dk_180 0 178 (dk_at dksX3_does_5 1 rfl rfl)
theorem dX3_does_148 : decode cX3_does 148 = .ok (.invokevirtual 118, 3) := dk_182 0 118 (dk_at dksX3_does_5 4 rfl rfl)
theorem dX3_does_151 : decode cX3_does 151 = .ok (.ireturn, 1) := dk_172 (dk_at dksX3_does_5 7 rfl rfl)
theorem dX3_does_152 : decode cX3_does 152 = .ok (.aload_n 0, 1) := dk_42 (dk_at dksX3_does_5 8 rfl rfl)
theorem dX3_does_153 : decode cX3_does 153 = .ok (.aload_n 0, 1) := dk_42 (dk_at dksX3_does_5 9 rfl rfl)
theorem dX3_does_154 : decode cX3_does 154 = .ok (.getfield 175, 3) := dk_180 0 175 (dk_at dksX3_does_5 10 rfl rfl)
theorem dX3_does_157 : decode cX3_does 157 = .ok (.invokevirtual 127, 3) := dk_182 0 127 (dk_at dksX3_does_5 13 rfl rfl)
theorem dX3_does_160 : decode cX3_does 160 = .ok (.ireturn, 1) := dk_172 (dk_at dksX3_does_5 16 rfl rfl)
theorem dX3_does_161 : decode cX3_does 161 = .ok (.aload_n 0, 1) := dk_42 (dk_at dksX3_does_5 17 rfl rfl)
theorem dX3_does_162 : decode cX3_does 162 = .ok (.invokevirtual 91, 3) := dk_182 0 91 (dk_at dksX3_does_5 18 rfl rfl)
theorem dX3_does_165 : decode cX3_does 165 = .ok (.iconst 0, 1) := dk_3 (dk_at dksX3_does_5 21 rfl rfl)
theorem dX3_does_166 : decode cX3_does 166 = .ok (.ireturn, 1) := dk_172 (dk_at dksX3_does_5 22 rfl rfl)
abbrev cX3_undo : ByteArray := prog_9_method_65_code
def yX3_undo : MethodName := ⟨RX3, "undo", "()I"⟩
def dkwX3_undo_2 : List UInt8 := [96, 46, 79, 132, 1, 1, 167, 255, 225, 42, 180, 0, 33, 172]
abbrev dktX3_undo_2 : List UInt8 := dkwX3_undo_2 ++ []
def dkwX3_undo_1 : List UInt8 := [17, 0, 182, 162, 0, 30, 42, 180, 0, 7, 27, 42, 180, 0, 13, 17, 0, 182, 42, 180, 0, 33, 104, 27]
abbrev dktX3_undo_1 : List UInt8 := dkwX3_undo_1 ++ dktX3_undo_2
def dkwX3_undo_0 : List UInt8 := [42, 180, 0, 33, 154, 0, 6, 16, 251, 172, 42, 89, 180, 0, 33, 4, 100, 181, 0, 33, 3, 60, 27]
abbrev dktX3_undo_0 : List UInt8 := dkwX3_undo_0 ++ dktX3_undo_1
theorem dksX3_undo_0 : cX3_undo.data.toList.drop 0 = dktX3_undo_0 := by decide +kernel
theorem dksX3_undo_1 : cX3_undo.data.toList.drop 23 = dktX3_undo_1 := dk_seg dksX3_undo_0 23 rfl rfl
theorem dksX3_undo_2 : cX3_undo.data.toList.drop 47 = dktX3_undo_2 := dk_seg dksX3_undo_1 24 rfl rfl
theorem dX3_undo_0 : decode cX3_undo 0 = .ok (.aload_n 0, 1) := dk_42 (dk_at dksX3_undo_0 0 rfl rfl)
theorem dX3_undo_1 : decode cX3_undo 1 = .ok (.getfield 33, 3) := dk_180 0 33 (dk_at dksX3_undo_0 1 rfl rfl)
theorem dX3_undo_4 : decode cX3_undo 4 = .ok (.ifCond .ne 6, 3) := dk_154 0 6 (dk_at dksX3_undo_0 4 rfl rfl)
theorem dX3_undo_7 : decode cX3_undo 7 = .ok (.bipush (-5), 2) := dk_16 251 (dk_at dksX3_undo_0 7 rfl rfl)
theorem dX3_undo_9 : decode cX3_undo 9 = .ok (.ireturn, 1) := dk_172 (dk_at dksX3_undo_0 9 rfl rfl)
theorem dX3_undo_10 : decode cX3_undo 10 = .ok (.aload_n 0, 1) := dk_42 (dk_at dksX3_undo_0 10 rfl rfl)
theorem dX3_undo_11 : decode cX3_undo 11 = .ok (.dup, 1) := dk_89 (dk_at dksX3_undo_0 11 rfl rfl)
theorem dX3_undo_12 : decode cX3_undo 12 = .ok (.getfield 33, 3) := dk_180 0 33 (dk_at dksX3_undo_0 12 rfl rfl)
theorem dX3_undo_15 : decode cX3_undo 15 = .ok (.iconst 1, 1) := dk_4 (dk_at dksX3_undo_0 15 rfl rfl)
theorem dX3_undo_16 : decode cX3_undo 16 = .ok (.isub, 1) := dk_100 (dk_at dksX3_undo_0 16 rfl rfl)
theorem dX3_undo_17 : decode cX3_undo 17 = .ok (.putfield 33, 3) := dk_181 0 33 (dk_at dksX3_undo_0 17 rfl rfl)
theorem dX3_undo_20 : decode cX3_undo 20 = .ok (.iconst 0, 1) := dk_3 (dk_at dksX3_undo_0 20 rfl rfl)
theorem dX3_undo_21 : decode cX3_undo 21 = .ok (.istore_n 1, 1) := dk_60 (dk_at dksX3_undo_0 21 rfl rfl)
theorem dX3_undo_22 : decode cX3_undo 22 = .ok (.iload_n 1, 1) := dk_27 (dk_at dksX3_undo_0 22 rfl rfl)
theorem dX3_undo_23 : decode cX3_undo 23 = .ok (.sipush 182, 3) := dk_17 0 182 (dk_at dksX3_undo_1 0 rfl rfl)
theorem dX3_undo_26 : decode cX3_undo 26 = .ok (.if_icmp .ge 30, 3) := dk_162 0 30 (dk_at dksX3_undo_1 3 rfl rfl)
theorem dX3_undo_29 : decode cX3_undo 29 = .ok (.aload_n 0, 1) := dk_42 (dk_at dksX3_undo_1 6 rfl rfl)
theorem dX3_undo_30 : decode cX3_undo 30 = .ok (.getfield 7, 3) := dk_180 0 7 (dk_at dksX3_undo_1 7 rfl rfl)
theorem dX3_undo_33 : decode cX3_undo 33 = .ok (.iload_n 1, 1) := dk_27 (dk_at dksX3_undo_1 10 rfl rfl)
theorem dX3_undo_34 : decode cX3_undo 34 = .ok (.aload_n 0, 1) := dk_42 (dk_at dksX3_undo_1 11 rfl rfl)
theorem dX3_undo_35 : decode cX3_undo 35 = .ok (.getfield 13, 3) := dk_180 0 13 (dk_at dksX3_undo_1 12 rfl rfl)
theorem dX3_undo_38 : decode cX3_undo 38 = .ok (.sipush 182, 3) := dk_17 0 182 (dk_at dksX3_undo_1 15 rfl rfl)
theorem dX3_undo_41 : decode cX3_undo 41 = .ok (.aload_n 0, 1) := dk_42 (dk_at dksX3_undo_1 18 rfl rfl)
theorem dX3_undo_42 : decode cX3_undo 42 = .ok (.getfield 33, 3) := dk_180 0 33 (dk_at dksX3_undo_1 19 rfl rfl)
theorem dX3_undo_45 : decode cX3_undo 45 = .ok (.imul, 1) := dk_104 (dk_at dksX3_undo_1 22 rfl rfl)
theorem dX3_undo_46 : decode cX3_undo 46 = .ok (.iload_n 1, 1) := dk_27 (dk_at dksX3_undo_1 23 rfl rfl)
theorem dX3_undo_47 : decode cX3_undo 47 = .ok (.iadd, 1) := dk_96 (dk_at dksX3_undo_2 0 rfl rfl)
theorem dX3_undo_48 : decode cX3_undo 48 = .ok (.iaload, 1) := dk_46 (dk_at dksX3_undo_2 1 rfl rfl)
theorem dX3_undo_49 : decode cX3_undo 49 = .ok (.iastore, 1) := dk_79 (dk_at dksX3_undo_2 2 rfl rfl)
theorem dX3_undo_50 : decode cX3_undo 50 = .ok (.iinc 1 1, 3) := dk_132 1 1 (dk_at dksX3_undo_2 3 rfl rfl)
theorem dX3_undo_53 : decode cX3_undo 53 = .ok (.goto (-31), 3) := dk_167 255 225 (dk_at dksX3_undo_2 6 rfl rfl)
theorem dX3_undo_56 : decode cX3_undo 56 = .ok (.aload_n 0, 1) := dk_42 (dk_at dksX3_undo_2 9 rfl rfl)
theorem dX3_undo_57 : decode cX3_undo 57 = .ok (.getfield 33, 3) := dk_180 0 33 (dk_at dksX3_undo_2 10 rfl rfl)
theorem dX3_undo_60 : decode cX3_undo 60 = .ok (.ireturn, 1) := dk_172 (dk_at dksX3_undo_2 13 rfl rfl)
abbrev cX3_save : ByteArray := prog_9_method_66_code
def yX3_save : MethodName := ⟨RX3, "save", "(I)I"⟩
def dkwX3_save_2 : List UInt8 := [180, 0, 19, 27, 4, 84, 42, 180, 0, 7, 3, 46, 184, 0, 55, 172]
abbrev dktX3_save_2 : List UInt8 := dkwX3_save_2 ++ []
def dkwX3_save_1 : List UInt8 := [180, 0, 16, 17, 0, 182, 27, 104, 28, 96, 42, 180, 0, 7, 28, 46, 79, 132, 2, 1, 167, 255, 228, 42]
abbrev dktX3_save_1 : List UInt8 := dkwX3_save_1 ++ dktX3_save_2
def dkwX3_save_0 : List UInt8 := [27, 3, 4, 184, 0, 29, 154, 0, 6, 16, 254, 172, 3, 61, 28, 17, 0, 182, 162, 0, 27, 42]
abbrev dktX3_save_0 : List UInt8 := dkwX3_save_0 ++ dktX3_save_1
theorem dksX3_save_0 : cX3_save.data.toList.drop 0 = dktX3_save_0 := by decide +kernel
theorem dksX3_save_1 : cX3_save.data.toList.drop 22 = dktX3_save_1 := dk_seg dksX3_save_0 22 rfl rfl
theorem dksX3_save_2 : cX3_save.data.toList.drop 46 = dktX3_save_2 := dk_seg dksX3_save_1 24 rfl rfl
theorem dX3_save_0 : decode cX3_save 0 = .ok (.iload_n 1, 1) := dk_27 (dk_at dksX3_save_0 0 rfl rfl)
theorem dX3_save_1 : decode cX3_save 1 = .ok (.iconst 0, 1) := dk_3 (dk_at dksX3_save_0 1 rfl rfl)
theorem dX3_save_2 : decode cX3_save 2 = .ok (.iconst 1, 1) := dk_4 (dk_at dksX3_save_0 2 rfl rfl)
theorem dX3_save_3 : decode cX3_save 3 = .ok (.invokestatic 29, 3) := dk_184 0 29 (dk_at dksX3_save_0 3 rfl rfl)
theorem dX3_save_6 : decode cX3_save 6 = .ok (.ifCond .ne 6, 3) := dk_154 0 6 (dk_at dksX3_save_0 6 rfl rfl)
theorem dX3_save_9 : decode cX3_save 9 = .ok (.bipush (-2), 2) := dk_16 254 (dk_at dksX3_save_0 9 rfl rfl)
theorem dX3_save_11 : decode cX3_save 11 = .ok (.ireturn, 1) := dk_172 (dk_at dksX3_save_0 11 rfl rfl)
theorem dX3_save_12 : decode cX3_save 12 = .ok (.iconst 0, 1) := dk_3 (dk_at dksX3_save_0 12 rfl rfl)
theorem dX3_save_13 : decode cX3_save 13 = .ok (.istore_n 2, 1) := dk_61 (dk_at dksX3_save_0 13 rfl rfl)
theorem dX3_save_14 : decode cX3_save 14 = .ok (.iload_n 2, 1) := dk_28 (dk_at dksX3_save_0 14 rfl rfl)
theorem dX3_save_15 : decode cX3_save 15 = .ok (.sipush 182, 3) := dk_17 0 182 (dk_at dksX3_save_0 15 rfl rfl)
theorem dX3_save_18 : decode cX3_save 18 = .ok (.if_icmp .ge 27, 3) := dk_162 0 27 (dk_at dksX3_save_0 18 rfl rfl)
theorem dX3_save_21 : decode cX3_save 21 = .ok (.aload_n 0, 1) := dk_42 (dk_at dksX3_save_0 21 rfl rfl)
theorem dX3_save_22 : decode cX3_save 22 = .ok (.getfield 16, 3) := dk_180 0 16 (dk_at dksX3_save_1 0 rfl rfl)
theorem dX3_save_25 : decode cX3_save 25 = .ok (.sipush 182, 3) := dk_17 0 182 (dk_at dksX3_save_1 3 rfl rfl)
theorem dX3_save_28 : decode cX3_save 28 = .ok (.iload_n 1, 1) := dk_27 (dk_at dksX3_save_1 6 rfl rfl)
theorem dX3_save_29 : decode cX3_save 29 = .ok (.imul, 1) := dk_104 (dk_at dksX3_save_1 7 rfl rfl)
theorem dX3_save_30 : decode cX3_save 30 = .ok (.iload_n 2, 1) := dk_28 (dk_at dksX3_save_1 8 rfl rfl)
theorem dX3_save_31 : decode cX3_save 31 = .ok (.iadd, 1) := dk_96 (dk_at dksX3_save_1 9 rfl rfl)
theorem dX3_save_32 : decode cX3_save 32 = .ok (.aload_n 0, 1) := dk_42 (dk_at dksX3_save_1 10 rfl rfl)
theorem dX3_save_33 : decode cX3_save 33 = .ok (.getfield 7, 3) := dk_180 0 7 (dk_at dksX3_save_1 11 rfl rfl)
theorem dX3_save_36 : decode cX3_save 36 = .ok (.iload_n 2, 1) := dk_28 (dk_at dksX3_save_1 14 rfl rfl)
theorem dX3_save_37 : decode cX3_save 37 = .ok (.iaload, 1) := dk_46 (dk_at dksX3_save_1 15 rfl rfl)
theorem dX3_save_38 : decode cX3_save 38 = .ok (.iastore, 1) := dk_79 (dk_at dksX3_save_1 16 rfl rfl)
theorem dX3_save_39 : decode cX3_save 39 = .ok (.iinc 2 1, 3) := dk_132 2 1 (dk_at dksX3_save_1 17 rfl rfl)
theorem dX3_save_42 : decode cX3_save 42 = .ok (.goto (-28), 3) := dk_167 255 228 (dk_at dksX3_save_1 20 rfl rfl)
theorem dX3_save_45 : decode cX3_save 45 = .ok (.aload_n 0, 1) := dk_42 (dk_at dksX3_save_1 23 rfl rfl)
theorem dX3_save_46 : decode cX3_save 46 = .ok (.getfield 19, 3) := dk_180 0 19 (dk_at dksX3_save_2 0 rfl rfl)
theorem dX3_save_49 : decode cX3_save 49 = .ok (.iload_n 1, 1) := dk_27 (dk_at dksX3_save_2 3 rfl rfl)
theorem dX3_save_50 : decode cX3_save 50 = .ok (.iconst 1, 1) := dk_4 (dk_at dksX3_save_2 4 rfl rfl)
theorem dX3_save_51 : decode cX3_save 51 = .ok (.bastore, 1) := dk_84 (dk_at dksX3_save_2 5 rfl rfl)
theorem dX3_save_52 : decode cX3_save 52 = .ok (.aload_n 0, 1) := dk_42 (dk_at dksX3_save_2 6 rfl rfl)
theorem dX3_save_53 : decode cX3_save 53 = .ok (.getfield 7, 3) := dk_180 0 7 (dk_at dksX3_save_2 7 rfl rfl)
theorem dX3_save_56 : decode cX3_save 56 = .ok (.iconst 0, 1) := dk_3 (dk_at dksX3_save_2 10 rfl rfl)
theorem dX3_save_57 : decode cX3_save 57 = .ok (.iaload, 1) := dk_46 (dk_at dksX3_save_2 11 rfl rfl)
theorem dX3_save_58 : decode cX3_save 58 = .ok (.invokestatic 55, 3) := dk_184 0 55 (dk_at dksX3_save_2 12 rfl rfl)
theorem dX3_save_61 : decode cX3_save 61 = .ok (.ireturn, 1) := dk_172 (dk_at dksX3_save_2 15 rfl rfl)
abbrev cX3_restore : ByteArray := prog_9_method_67_code
def yX3_restore : MethodName := ⟨RX3, "restore", "(I)I"⟩
def dkwX3_restore_3 : List UInt8 := [172]
abbrev dktX3_restore_3 : List UInt8 := dkwX3_restore_3 ++ []
def dkwX3_restore_2 : List UInt8 := [17, 0, 182, 27, 104, 28, 96, 46, 79, 132, 2, 1, 167, 255, 228, 42, 180, 0, 7, 3, 46, 184, 0, 55]
abbrev dktX3_restore_2 : List UInt8 := dkwX3_restore_2 ++ dktX3_restore_3
def dkwX3_restore_1 : List UInt8 := [42, 182, 0, 64, 3, 61, 28, 17, 0, 182, 162, 0, 27, 42, 180, 0, 7, 28, 42, 180, 0, 16]
abbrev dktX3_restore_1 : List UInt8 := dkwX3_restore_1 ++ dktX3_restore_2
def dkwX3_restore_0 : List UInt8 := [27, 3, 4, 184, 0, 29, 154, 0, 6, 16, 254, 172, 42, 180, 0, 19, 27, 51, 154, 0, 6, 16, 251, 172]
abbrev dktX3_restore_0 : List UInt8 := dkwX3_restore_0 ++ dktX3_restore_1
theorem dksX3_restore_0 : cX3_restore.data.toList.drop 0 = dktX3_restore_0 := by decide +kernel
theorem dksX3_restore_1 : cX3_restore.data.toList.drop 24 = dktX3_restore_1 := dk_seg dksX3_restore_0 24 rfl rfl
theorem dksX3_restore_2 : cX3_restore.data.toList.drop 46 = dktX3_restore_2 := dk_seg dksX3_restore_1 22 rfl rfl
theorem dksX3_restore_3 : cX3_restore.data.toList.drop 70 = dktX3_restore_3 := dk_seg dksX3_restore_2 24 rfl rfl
theorem dX3_restore_0 : decode cX3_restore 0 = .ok (.iload_n 1, 1) := dk_27 (dk_at dksX3_restore_0 0 rfl rfl)
theorem dX3_restore_1 : decode cX3_restore 1 = .ok (.iconst 0, 1) := dk_3 (dk_at dksX3_restore_0 1 rfl rfl)
theorem dX3_restore_2 : decode cX3_restore 2 = .ok (.iconst 1, 1) := dk_4 (dk_at dksX3_restore_0 2 rfl rfl)
theorem dX3_restore_3 : decode cX3_restore 3 = .ok (.invokestatic 29, 3) := dk_184 0 29 (dk_at dksX3_restore_0 3 rfl rfl)
theorem dX3_restore_6 : decode cX3_restore 6 = .ok (.ifCond .ne 6, 3) := dk_154 0 6 (dk_at dksX3_restore_0 6 rfl rfl)
theorem dX3_restore_9 : decode cX3_restore 9 = .ok (.bipush (-2), 2) := dk_16 254 (dk_at dksX3_restore_0 9 rfl rfl)
theorem dX3_restore_11 : decode cX3_restore 11 = .ok (.ireturn, 1) := dk_172 (dk_at dksX3_restore_0 11 rfl rfl)
theorem dX3_restore_12 : decode cX3_restore 12 = .ok (.aload_n 0, 1) := dk_42 (dk_at dksX3_restore_0 12 rfl rfl)
theorem dX3_restore_13 : decode cX3_restore 13 = .ok (.getfield 19, 3) := dk_180 0 19 (dk_at dksX3_restore_0 13 rfl rfl)
theorem dX3_restore_16 : decode cX3_restore 16 = .ok (.iload_n 1, 1) := dk_27 (dk_at dksX3_restore_0 16 rfl rfl)
theorem dX3_restore_17 : decode cX3_restore 17 = .ok (.baload, 1) := dk_51 (dk_at dksX3_restore_0 17 rfl rfl)
theorem dX3_restore_18 : decode cX3_restore 18 = .ok (.ifCond .ne 6, 3) := dk_154 0 6 (dk_at dksX3_restore_0 18 rfl rfl)
theorem dX3_restore_21 : decode cX3_restore 21 = .ok (.bipush (-5), 2) := dk_16 251 (dk_at dksX3_restore_0 21 rfl rfl)
theorem dX3_restore_23 : decode cX3_restore 23 = .ok (.ireturn, 1) := dk_172 (dk_at dksX3_restore_0 23 rfl rfl)
theorem dX3_restore_24 : decode cX3_restore 24 = .ok (.aload_n 0, 1) := dk_42 (dk_at dksX3_restore_1 0 rfl rfl)
theorem dX3_restore_25 : decode cX3_restore 25 = .ok (.invokevirtual 64, 3) := dk_182 0 64 (dk_at dksX3_restore_1 1 rfl rfl)
theorem dX3_restore_28 : decode cX3_restore 28 = .ok (.iconst 0, 1) := dk_3 (dk_at dksX3_restore_1 4 rfl rfl)
theorem dX3_restore_29 : decode cX3_restore 29 = .ok (.istore_n 2, 1) := dk_61 (dk_at dksX3_restore_1 5 rfl rfl)
theorem dX3_restore_30 : decode cX3_restore 30 = .ok (.iload_n 2, 1) := dk_28 (dk_at dksX3_restore_1 6 rfl rfl)
theorem dX3_restore_31 : decode cX3_restore 31 = .ok (.sipush 182, 3) := dk_17 0 182 (dk_at dksX3_restore_1 7 rfl rfl)
theorem dX3_restore_34 : decode cX3_restore 34 = .ok (.if_icmp .ge 27, 3) := dk_162 0 27 (dk_at dksX3_restore_1 10 rfl rfl)
theorem dX3_restore_37 : decode cX3_restore 37 = .ok (.aload_n 0, 1) := dk_42 (dk_at dksX3_restore_1 13 rfl rfl)
theorem dX3_restore_38 : decode cX3_restore 38 = .ok (.getfield 7, 3) := dk_180 0 7 (dk_at dksX3_restore_1 14 rfl rfl)
theorem dX3_restore_41 : decode cX3_restore 41 = .ok (.iload_n 2, 1) := dk_28 (dk_at dksX3_restore_1 17 rfl rfl)
theorem dX3_restore_42 : decode cX3_restore 42 = .ok (.aload_n 0, 1) := dk_42 (dk_at dksX3_restore_1 18 rfl rfl)
theorem dX3_restore_43 : decode cX3_restore 43 = .ok (.getfield 16, 3) := dk_180 0 16 (dk_at dksX3_restore_1 19 rfl rfl)
theorem dX3_restore_46 : decode cX3_restore 46 = .ok (.sipush 182, 3) := dk_17 0 182 (dk_at dksX3_restore_2 0 rfl rfl)
theorem dX3_restore_49 : decode cX3_restore 49 = .ok (.iload_n 1, 1) := dk_27 (dk_at dksX3_restore_2 3 rfl rfl)
theorem dX3_restore_50 : decode cX3_restore 50 = .ok (.imul, 1) := dk_104 (dk_at dksX3_restore_2 4 rfl rfl)
theorem dX3_restore_51 : decode cX3_restore 51 = .ok (.iload_n 2, 1) := dk_28 (dk_at dksX3_restore_2 5 rfl rfl)
theorem dX3_restore_52 : decode cX3_restore 52 = .ok (.iadd, 1) := dk_96 (dk_at dksX3_restore_2 6 rfl rfl)
theorem dX3_restore_53 : decode cX3_restore 53 = .ok (.iaload, 1) := dk_46 (dk_at dksX3_restore_2 7 rfl rfl)
theorem dX3_restore_54 : decode cX3_restore 54 = .ok (.iastore, 1) := dk_79 (dk_at dksX3_restore_2 8 rfl rfl)
theorem dX3_restore_55 : decode cX3_restore 55 = .ok (.iinc 2 1, 3) := dk_132 2 1 (dk_at dksX3_restore_2 9 rfl rfl)
theorem dX3_restore_58 : decode cX3_restore 58 = .ok (.goto (-28), 3) := dk_167 255 228 (dk_at dksX3_restore_2 12 rfl rfl)
theorem dX3_restore_61 : decode cX3_restore 61 = .ok (.aload_n 0, 1) := dk_42 (dk_at dksX3_restore_2 15 rfl rfl)
theorem dX3_restore_62 : decode cX3_restore 62 = .ok (.getfield 7, 3) := dk_180 0 7 (dk_at dksX3_restore_2 16 rfl rfl)
theorem dX3_restore_65 : decode cX3_restore 65 = .ok (.iconst 0, 1) := dk_3 (dk_at dksX3_restore_2 19 rfl rfl)
theorem dX3_restore_66 : decode cX3_restore 66 = .ok (.iaload, 1) := dk_46 (dk_at dksX3_restore_2 20 rfl rfl)
theorem dX3_restore_67 : decode cX3_restore 67 = .ok (.invokestatic 55, 3) := dk_184 0 55 (dk_at dksX3_restore_2 21 rfl rfl)
theorem dX3_restore_70 : decode cX3_restore 70 = .ok (.ireturn, 1) := dk_172 (dk_at dksX3_restore_3 0 rfl rfl)
theorem q90 : (Jvm.Cond.initialized "LiarMapsModel") ∈ lw_all := lw_g (lw_at lw_m1 14 rfl) rfl
theorem q691 : (Jvm.Cond.selects "LiarMapsModel" ({ cls := "java/lang/Object", name := "getClass", desc := "()Ljava/lang/Class;" } : Jvm.MethodName) ({ cls := "java/lang/Object", name := "getClass", desc := "()Ljava/lang/Class;" } : Jvm.MethodName)) ∈ lw_all := lw_g (lw_at lw_m3 135 rfl) rfl
theorem q1707 : (Jvm.Cond.instantiable "LiarMapsModel" (16 : Nat)) ∈ lw_all := lw_g (lw_at lw_m7 191 rfl) rfl
theorem q1709 : (Jvm.Cond.instanceMethod ({ cls := "LiarMapsModel", name := "<init>", desc := "()V" } : Jvm.MethodName)) ∈ lw_all := lw_g (lw_at lw_m7 193 rfl) rfl
theorem q1710 : (Jvm.Cond.code ({ cls := "LiarMapsModel", name := "<init>", desc := "()V" } : Jvm.MethodName) prog_9_method_1_code (2 : Nat) (Option.none : Option Jvm.ClassFile.FieldType)) ∈ lw_all := lw_g (lw_at lw_m7 194 rfl) rfl
theorem q1711 : (Jvm.Cond.methodLink "LiarMapsModel" (1 : Nat) ({ cls := "java/lang/Object", name := "<init>", desc := "()V" } : Jvm.MethodName)) ∈ lw_all := lw_g (lw_at lw_m7 195 rfl) rfl
theorem q1712 : (Jvm.Cond.fieldLink "LiarMapsModel" (7 : Nat) "LiarMapsModel" "s" "[I") ∈ lw_all := lw_g (lw_at lw_m7 196 rfl) rfl
theorem q1713 : (Jvm.Cond.fieldLink "LiarMapsModel" (13 : Nat) "LiarMapsModel" "past" "[I") ∈ lw_all := lw_g (lw_at lw_m7 197 rfl) rfl
theorem q1714 : (Jvm.Cond.fieldLink "LiarMapsModel" (33 : Nat) "LiarMapsModel" "pasts" "I") ∈ lw_all := lw_g (lw_at lw_m7 198 rfl) rfl
theorem q1715 : (Jvm.Cond.fieldLink "LiarMapsModel" (16 : Nat) "LiarMapsModel" "slots" "[I") ∈ lw_all := lw_g (lw_at lw_m7 199 rfl) rfl
theorem q1716 : (Jvm.Cond.fieldLink "LiarMapsModel" (19 : Nat) "LiarMapsModel" "isKept" "[Z") ∈ lw_all := lw_g (lw_at lw_m7 200 rfl) rfl
theorem q1717 : (Jvm.Cond.fieldLink "LiarMapsModel" (23 : Nat) "LiarMapsModel" "pad" "[I") ∈ lw_all := lw_g (lw_at lw_m7 201 rfl) rfl
theorem q1718 : (Jvm.Cond.fieldLink "LiarMapsModel" (151 : Nat) "LiarMapsModel" "length" "I") ∈ lw_all := lw_g (lw_at lw_m7 202 rfl) rfl
theorem q1719 : (Jvm.Cond.fieldLink "LiarMapsModel" (45 : Nat) "LiarMapsModel" "known" "I") ∈ lw_all := lw_g (lw_at lw_m7 203 rfl) rfl
theorem q1720 : (Jvm.Cond.fieldLink "LiarMapsModel" (48 : Nat) "LiarMapsModel" "there" "I") ∈ lw_all := lw_g (lw_at lw_m7 204 rfl) rfl
theorem q1721 : (Jvm.Cond.fieldLink "LiarMapsModel" (26 : Nat) "LiarMapsModel" "far" "[I") ∈ lw_all := lw_g (lw_at lw_m7 205 rfl) rfl
theorem q1722 : (Jvm.Cond.fieldLink "LiarMapsModel" (159 : Nat) "LiarMapsModel" "spot" "I") ∈ lw_all := lw_g (lw_at lw_m7 206 rfl) rfl
theorem q1723 : (Jvm.Cond.fieldLink "LiarMapsModel" (162 : Nat) "LiarMapsModel" "isWrong" "Z") ∈ lw_all := lw_g (lw_at lw_m7 207 rfl) rfl
theorem q1724 : (Jvm.Cond.fieldLink "LiarMapsModel" (166 : Nat) "LiarMapsModel" "sign" "I") ∈ lw_all := lw_g (lw_at lw_m7 208 rfl) rfl
theorem q1725 : (Jvm.Cond.fieldLink "LiarMapsModel" (172 : Nat) "LiarMapsModel" "digit" "I") ∈ lw_all := lw_g (lw_at lw_m7 209 rfl) rfl
theorem q1726 : (Jvm.Cond.fieldLink "LiarMapsModel" (175 : Nat) "LiarMapsModel" "first" "I") ∈ lw_all := lw_g (lw_at lw_m7 210 rfl) rfl
theorem q1727 : (Jvm.Cond.fieldLink "LiarMapsModel" (178 : Nat) "LiarMapsModel" "second" "I") ∈ lw_all := lw_g (lw_at lw_m7 211 rfl) rfl
theorem q1728 : (Jvm.Cond.laysFinal "LiarMapsModel" "LiarMapsModel" "s" "[I") ∈ lw_all := lw_g (lw_at lw_m7 212 rfl) rfl
theorem q1729 : (Jvm.Cond.soleField "LiarMapsModel" "s") ∈ lw_all := lw_g (lw_at lw_m7 213 rfl) rfl
theorem q1730 : (Jvm.Cond.laysFinal "LiarMapsModel" "LiarMapsModel" "past" "[I") ∈ lw_all := lw_g (lw_at lw_m7 214 rfl) rfl
theorem q1731 : (Jvm.Cond.soleField "LiarMapsModel" "past") ∈ lw_all := lw_g (lw_at lw_m7 215 rfl) rfl
theorem q1732 : (Jvm.Cond.lays "LiarMapsModel" "LiarMapsModel" "pasts" "I") ∈ lw_all := lw_g (lw_at lw_m7 216 rfl) rfl
theorem q1733 : (Jvm.Cond.soleField "LiarMapsModel" "pasts") ∈ lw_all := lw_g (lw_at lw_m7 217 rfl) rfl
theorem q1734 : (Jvm.Cond.laysFinal "LiarMapsModel" "LiarMapsModel" "slots" "[I") ∈ lw_all := lw_g (lw_at lw_m7 218 rfl) rfl
theorem q1735 : (Jvm.Cond.soleField "LiarMapsModel" "slots") ∈ lw_all := lw_g (lw_at lw_m7 219 rfl) rfl
theorem q1736 : (Jvm.Cond.laysFinal "LiarMapsModel" "LiarMapsModel" "isKept" "[Z") ∈ lw_all := lw_g (lw_at lw_m7 220 rfl) rfl
theorem q1737 : (Jvm.Cond.soleField "LiarMapsModel" "isKept") ∈ lw_all := lw_g (lw_at lw_m7 221 rfl) rfl
theorem q1738 : (Jvm.Cond.laysFinal "LiarMapsModel" "LiarMapsModel" "pad" "[I") ∈ lw_all := lw_g (lw_at lw_m7 222 rfl) rfl
theorem q1739 : (Jvm.Cond.soleField "LiarMapsModel" "pad") ∈ lw_all := lw_g (lw_at lw_m7 223 rfl) rfl
theorem q1740 : (Jvm.Cond.lays "LiarMapsModel" "LiarMapsModel" "length" "I") ∈ lw_all := lw_g (lw_at lw_m7 224 rfl) rfl
theorem q1741 : (Jvm.Cond.soleField "LiarMapsModel" "length") ∈ lw_all := lw_g (lw_at lw_m7 225 rfl) rfl
theorem q1742 : (Jvm.Cond.lays "LiarMapsModel" "LiarMapsModel" "known" "I") ∈ lw_all := lw_g (lw_at lw_m7 226 rfl) rfl
theorem q1743 : (Jvm.Cond.soleField "LiarMapsModel" "known") ∈ lw_all := lw_g (lw_at lw_m7 227 rfl) rfl
theorem q1744 : (Jvm.Cond.lays "LiarMapsModel" "LiarMapsModel" "there" "I") ∈ lw_all := lw_g (lw_at lw_m7 228 rfl) rfl
theorem q1745 : (Jvm.Cond.soleField "LiarMapsModel" "there") ∈ lw_all := lw_g (lw_at lw_m7 229 rfl) rfl
theorem q1746 : (Jvm.Cond.laysFinal "LiarMapsModel" "LiarMapsModel" "far" "[I") ∈ lw_all := lw_g (lw_at lw_m7 230 rfl) rfl
theorem q1747 : (Jvm.Cond.soleField "LiarMapsModel" "far") ∈ lw_all := lw_g (lw_at lw_m7 231 rfl) rfl
theorem q1748 : (Jvm.Cond.lays "LiarMapsModel" "LiarMapsModel" "spot" "I") ∈ lw_all := lw_g (lw_at lw_m7 232 rfl) rfl
theorem q1749 : (Jvm.Cond.soleField "LiarMapsModel" "spot") ∈ lw_all := lw_g (lw_at lw_m7 233 rfl) rfl
theorem q1750 : (Jvm.Cond.lays "LiarMapsModel" "LiarMapsModel" "isWrong" "Z") ∈ lw_all := lw_g (lw_at lw_m7 234 rfl) rfl
theorem q1751 : (Jvm.Cond.soleField "LiarMapsModel" "isWrong") ∈ lw_all := lw_g (lw_at lw_m7 235 rfl) rfl
theorem q1752 : (Jvm.Cond.lays "LiarMapsModel" "LiarMapsModel" "sign" "I") ∈ lw_all := lw_g (lw_at lw_m7 236 rfl) rfl
theorem q1753 : (Jvm.Cond.soleField "LiarMapsModel" "sign") ∈ lw_all := lw_g (lw_at lw_m7 237 rfl) rfl
theorem q1754 : (Jvm.Cond.lays "LiarMapsModel" "LiarMapsModel" "digit" "I") ∈ lw_all := lw_g (lw_at lw_m7 238 rfl) rfl
theorem q1755 : (Jvm.Cond.soleField "LiarMapsModel" "digit") ∈ lw_all := lw_g (lw_at lw_m7 239 rfl) rfl
theorem q1756 : (Jvm.Cond.lays "LiarMapsModel" "LiarMapsModel" "first" "I") ∈ lw_all := lw_g (lw_at lw_m8 0 rfl) rfl
theorem q1757 : (Jvm.Cond.soleField "LiarMapsModel" "first") ∈ lw_all := lw_g (lw_at lw_m8 1 rfl) rfl
theorem q1758 : (Jvm.Cond.lays "LiarMapsModel" "LiarMapsModel" "second" "I") ∈ lw_all := lw_g (lw_at lw_m8 2 rfl) rfl
theorem q1759 : (Jvm.Cond.soleField "LiarMapsModel" "second") ∈ lw_all := lw_g (lw_at lw_m8 3 rfl) rfl
theorem q1760 : (Jvm.Cond.superclass "LiarMapsModel" "java/lang/Object") ∈ lw_all := lw_g (lw_at lw_m8 4 rfl) rfl
theorem q1763 : (Jvm.Cond.instanceMethod ({ cls := "LiarMapsModel", name := "set", desc := "(II)I" } : Jvm.MethodName)) ∈ lw_all := lw_g (lw_at lw_m8 7 rfl) rfl
theorem q1764 : (Jvm.Cond.selects "LiarMapsModel" ({ cls := "LiarMapsModel", name := "set", desc := "(II)I" } : Jvm.MethodName) ({ cls := "LiarMapsModel", name := "set", desc := "(II)I" } : Jvm.MethodName)) ∈ lw_all := lw_g (lw_at lw_m8 8 rfl) rfl
theorem q1765 : (Jvm.Cond.code ({ cls := "LiarMapsModel", name := "set", desc := "(II)I" } : Jvm.MethodName) prog_9_method_15_code (4 : Nat) (Option.some Jvm.ClassFile.FieldType.int)) ∈ lw_all := lw_g (lw_at lw_m8 9 rfl) rfl
theorem q1766 : (Jvm.Cond.methodLink "LiarMapsModel" (29 : Nat) ({ cls := "LiarMapsModel", name := "in", desc := "(III)Z" } : Jvm.MethodName)) ∈ lw_all := lw_g (lw_at lw_m8 10 rfl) rfl
theorem q1767 : (Jvm.Cond.static ({ cls := "LiarMapsModel", name := "in", desc := "(III)Z" } : Jvm.MethodName)) ∈ lw_all := lw_g (lw_at lw_m8 11 rfl) rfl
theorem q1768 : (Jvm.Cond.code ({ cls := "LiarMapsModel", name := "in", desc := "(III)Z" } : Jvm.MethodName) prog_9_method_3_code (3 : Nat) (Option.some Jvm.ClassFile.FieldType.boolean)) ∈ lw_all := lw_g (lw_at lw_m8 12 rfl) rfl
theorem q1769 : (Jvm.Cond.methodLink "LiarMapsModel" (58 : Nat) ({ cls := "LiarMapsModel", name := "least", desc := "(I)I" } : Jvm.MethodName)) ∈ lw_all := lw_g (lw_at lw_m8 13 rfl) rfl
theorem q1770 : (Jvm.Cond.static ({ cls := "LiarMapsModel", name := "least", desc := "(I)I" } : Jvm.MethodName)) ∈ lw_all := lw_g (lw_at lw_m8 14 rfl) rfl
theorem q1771 : (Jvm.Cond.code ({ cls := "LiarMapsModel", name := "least", desc := "(I)I" } : Jvm.MethodName) prog_9_method_13_code (1 : Nat) (Option.some Jvm.ClassFile.FieldType.int)) ∈ lw_all := lw_g (lw_at lw_m8 15 rfl) rfl
theorem q1772 : (Jvm.Cond.methodLink "LiarMapsModel" (61 : Nat) ({ cls := "LiarMapsModel", name := "most", desc := "(I)I" } : Jvm.MethodName)) ∈ lw_all := lw_g (lw_at lw_m8 16 rfl) rfl
theorem q1773 : (Jvm.Cond.static ({ cls := "LiarMapsModel", name := "most", desc := "(I)I" } : Jvm.MethodName)) ∈ lw_all := lw_g (lw_at lw_m8 17 rfl) rfl
theorem q1774 : (Jvm.Cond.code ({ cls := "LiarMapsModel", name := "most", desc := "(I)I" } : Jvm.MethodName) prog_9_method_14_code (1 : Nat) (Option.some Jvm.ClassFile.FieldType.int)) ∈ lw_all := lw_g (lw_at lw_m8 18 rfl) rfl
theorem q1775 : (Jvm.Cond.methodLink "LiarMapsModel" (64 : Nat) ({ cls := "LiarMapsModel", name := "records", desc := "()V" } : Jvm.MethodName)) ∈ lw_all := lw_g (lw_at lw_m8 19 rfl) rfl
theorem q1776 : (Jvm.Cond.privateMethod ({ cls := "LiarMapsModel", name := "records", desc := "()V" } : Jvm.MethodName)) ∈ lw_tbl := lw_at lw_m8 20 rfl
theorem q1777 : (Jvm.Cond.instanceMethod ({ cls := "LiarMapsModel", name := "records", desc := "()V" } : Jvm.MethodName)) ∈ lw_all := lw_g (lw_at lw_m8 21 rfl) rfl
theorem q1778 : (Jvm.Cond.code ({ cls := "LiarMapsModel", name := "records", desc := "()V" } : Jvm.MethodName) prog_9_method_6_code (2 : Nat) (Option.none : Option Jvm.ClassFile.FieldType)) ∈ lw_all := lw_g (lw_at lw_m8 22 rfl) rfl
theorem q1780 : (Jvm.Cond.instanceMethod ({ cls := "LiarMapsModel", name := "road", desc := "(II)I" } : Jvm.MethodName)) ∈ lw_all := lw_g (lw_at lw_m8 24 rfl) rfl
theorem q1781 : (Jvm.Cond.selects "LiarMapsModel" ({ cls := "LiarMapsModel", name := "road", desc := "(II)I" } : Jvm.MethodName) ({ cls := "LiarMapsModel", name := "road", desc := "(II)I" } : Jvm.MethodName)) ∈ lw_all := lw_g (lw_at lw_m8 25 rfl) rfl
theorem q1782 : (Jvm.Cond.code ({ cls := "LiarMapsModel", name := "road", desc := "(II)I" } : Jvm.MethodName) prog_9_method_18_code (4 : Nat) (Option.some Jvm.ClassFile.FieldType.int)) ∈ lw_all := lw_g (lw_at lw_m8 26 rfl) rfl
theorem q1783 : (Jvm.Cond.methodLink "LiarMapsModel" (71 : Nat) ({ cls := "LiarMapsModel", name := "barRoad", desc := "(II)I" } : Jvm.MethodName)) ∈ lw_all := lw_g (lw_at lw_m8 27 rfl) rfl
theorem q1784 : (Jvm.Cond.privateMethod ({ cls := "LiarMapsModel", name := "barRoad", desc := "(II)I" } : Jvm.MethodName)) ∈ lw_tbl := lw_at lw_m8 28 rfl
theorem q1785 : (Jvm.Cond.instanceMethod ({ cls := "LiarMapsModel", name := "barRoad", desc := "(II)I" } : Jvm.MethodName)) ∈ lw_all := lw_g (lw_at lw_m8 29 rfl) rfl
theorem q1786 : (Jvm.Cond.code ({ cls := "LiarMapsModel", name := "barRoad", desc := "(II)I" } : Jvm.MethodName) prog_9_method_16_code (3 : Nat) (Option.some Jvm.ClassFile.FieldType.int)) ∈ lw_all := lw_g (lw_at lw_m8 30 rfl) rfl
theorem q1787 : (Jvm.Cond.methodLink "LiarMapsModel" (67 : Nat) ({ cls := "LiarMapsModel", name := "isPlace", desc := "(I)Z" } : Jvm.MethodName)) ∈ lw_all := lw_g (lw_at lw_m8 31 rfl) rfl
theorem q1788 : (Jvm.Cond.static ({ cls := "LiarMapsModel", name := "isPlace", desc := "(I)Z" } : Jvm.MethodName)) ∈ lw_all := lw_g (lw_at lw_m8 32 rfl) rfl
theorem q1789 : (Jvm.Cond.code ({ cls := "LiarMapsModel", name := "isPlace", desc := "(I)Z" } : Jvm.MethodName) prog_9_method_4_code (1 : Nat) (Option.some Jvm.ClassFile.FieldType.boolean)) ∈ lw_all := lw_g (lw_at lw_m8 33 rfl) rfl
theorem q1790 : (Jvm.Cond.methodLink "LiarMapsModel" (41 : Nat) ({ cls := "LiarMapsModel", name := "hasBegun", desc := "()Z" } : Jvm.MethodName)) ∈ lw_all := lw_g (lw_at lw_m8 34 rfl) rfl
theorem q1791 : (Jvm.Cond.privateMethod ({ cls := "LiarMapsModel", name := "hasBegun", desc := "()Z" } : Jvm.MethodName)) ∈ lw_tbl := lw_at lw_m8 35 rfl
theorem q1792 : (Jvm.Cond.instanceMethod ({ cls := "LiarMapsModel", name := "hasBegun", desc := "()Z" } : Jvm.MethodName)) ∈ lw_all := lw_g (lw_at lw_m8 36 rfl) rfl
theorem q1793 : (Jvm.Cond.code ({ cls := "LiarMapsModel", name := "hasBegun", desc := "()Z" } : Jvm.MethodName) prog_9_method_11_code (1 : Nat) (Option.some Jvm.ClassFile.FieldType.boolean)) ∈ lw_all := lw_g (lw_at lw_m8 37 rfl) rfl
theorem q1794 : (Jvm.Cond.methodLink "LiarMapsModel" (74 : Nat) ({ cls := "LiarMapsModel", name := "lays", desc := "(II)I" } : Jvm.MethodName)) ∈ lw_all := lw_g (lw_at lw_m8 38 rfl) rfl
theorem q1795 : (Jvm.Cond.privateMethod ({ cls := "LiarMapsModel", name := "lays", desc := "(II)I" } : Jvm.MethodName)) ∈ lw_tbl := lw_at lw_m8 39 rfl
theorem q1796 : (Jvm.Cond.instanceMethod ({ cls := "LiarMapsModel", name := "lays", desc := "(II)I" } : Jvm.MethodName)) ∈ lw_all := lw_g (lw_at lw_m8 40 rfl) rfl
theorem q1797 : (Jvm.Cond.code ({ cls := "LiarMapsModel", name := "lays", desc := "(II)I" } : Jvm.MethodName) prog_9_method_17_code (3 : Nat) (Option.some Jvm.ClassFile.FieldType.int)) ∈ lw_all := lw_g (lw_at lw_m8 41 rfl) rfl
theorem q1798 : (Jvm.Cond.methodLink "LiarMapsModel" (37 : Nat) ({ cls := "LiarMapsModel", name := "edge", desc := "(II)I" } : Jvm.MethodName)) ∈ lw_all := lw_g (lw_at lw_m8 42 rfl) rfl
theorem q1799 : (Jvm.Cond.static ({ cls := "LiarMapsModel", name := "edge", desc := "(II)I" } : Jvm.MethodName)) ∈ lw_all := lw_g (lw_at lw_m8 43 rfl) rfl
theorem q1800 : (Jvm.Cond.code ({ cls := "LiarMapsModel", name := "edge", desc := "(II)I" } : Jvm.MethodName) prog_9_method_7_code (4 : Nat) (Option.some Jvm.ClassFile.FieldType.int)) ∈ lw_all := lw_g (lw_at lw_m8 44 rfl) rfl
theorem q1801 : (Jvm.Cond.methodLink "LiarMapsModel" (55 : Nat) ({ cls := "LiarMapsModel", name := "many", desc := "(I)I" } : Jvm.MethodName)) ∈ lw_all := lw_g (lw_at lw_m8 45 rfl) rfl
theorem q1802 : (Jvm.Cond.static ({ cls := "LiarMapsModel", name := "many", desc := "(I)I" } : Jvm.MethodName)) ∈ lw_all := lw_g (lw_at lw_m8 46 rfl) rfl
theorem q1803 : (Jvm.Cond.code ({ cls := "LiarMapsModel", name := "many", desc := "(I)I" } : Jvm.MethodName) prog_9_method_9_code (3 : Nat) (Option.some Jvm.ClassFile.FieldType.int)) ∈ lw_all := lw_g (lw_at lw_m8 47 rfl) rfl
theorem q1805 : (Jvm.Cond.instanceMethod ({ cls := "LiarMapsModel", name := "treasure", desc := "(I)I" } : Jvm.MethodName)) ∈ lw_all := lw_g (lw_at lw_m8 49 rfl) rfl
theorem q1806 : (Jvm.Cond.selects "LiarMapsModel" ({ cls := "LiarMapsModel", name := "treasure", desc := "(I)I" } : Jvm.MethodName) ({ cls := "LiarMapsModel", name := "treasure", desc := "(I)I" } : Jvm.MethodName)) ∈ lw_all := lw_g (lw_at lw_m8 50 rfl) rfl
theorem q1807 : (Jvm.Cond.code ({ cls := "LiarMapsModel", name := "treasure", desc := "(I)I" } : Jvm.MethodName) prog_9_method_20_code (4 : Nat) (Option.some Jvm.ClassFile.FieldType.int)) ∈ lw_all := lw_g (lw_at lw_m8 51 rfl) rfl
theorem q1808 : (Jvm.Cond.methodLink "LiarMapsModel" (77 : Nat) ({ cls := "LiarMapsModel", name := "barTreasure", desc := "(I)I" } : Jvm.MethodName)) ∈ lw_all := lw_g (lw_at lw_m8 52 rfl) rfl
theorem q1809 : (Jvm.Cond.privateMethod ({ cls := "LiarMapsModel", name := "barTreasure", desc := "(I)I" } : Jvm.MethodName)) ∈ lw_tbl := lw_at lw_m8 53 rfl
theorem q1810 : (Jvm.Cond.instanceMethod ({ cls := "LiarMapsModel", name := "barTreasure", desc := "(I)I" } : Jvm.MethodName)) ∈ lw_all := lw_g (lw_at lw_m8 54 rfl) rfl
theorem q1811 : (Jvm.Cond.code ({ cls := "LiarMapsModel", name := "barTreasure", desc := "(I)I" } : Jvm.MethodName) prog_9_method_19_code (2 : Nat) (Option.some Jvm.ClassFile.FieldType.int)) ∈ lw_all := lw_g (lw_at lw_m8 55 rfl) rfl
theorem q1813 : (Jvm.Cond.instanceMethod ({ cls := "LiarMapsModel", name := "begin", desc := "()I" } : Jvm.MethodName)) ∈ lw_all := lw_g (lw_at lw_m8 57 rfl) rfl
theorem q1814 : (Jvm.Cond.selects "LiarMapsModel" ({ cls := "LiarMapsModel", name := "begin", desc := "()I" } : Jvm.MethodName) ({ cls := "LiarMapsModel", name := "begin", desc := "()I" } : Jvm.MethodName)) ∈ lw_all := lw_g (lw_at lw_m8 58 rfl) rfl
theorem q1815 : (Jvm.Cond.code ({ cls := "LiarMapsModel", name := "begin", desc := "()I" } : Jvm.MethodName) prog_9_method_21_code (1 : Nat) (Option.some Jvm.ClassFile.FieldType.int)) ∈ lw_all := lw_g (lw_at lw_m8 59 rfl) rfl
theorem q1816 : (Jvm.Cond.methodLink "LiarMapsModel" (80 : Nat) ({ cls := "LiarMapsModel", name := "follows", desc := "(I)V" } : Jvm.MethodName)) ∈ lw_all := lw_g (lw_at lw_m8 60 rfl) rfl
theorem q1817 : (Jvm.Cond.privateMethod ({ cls := "LiarMapsModel", name := "follows", desc := "(I)V" } : Jvm.MethodName)) ∈ lw_tbl := lw_at lw_m8 61 rfl
theorem q1818 : (Jvm.Cond.instanceMethod ({ cls := "LiarMapsModel", name := "follows", desc := "(I)V" } : Jvm.MethodName)) ∈ lw_all := lw_g (lw_at lw_m8 62 rfl) rfl
theorem q1819 : (Jvm.Cond.code ({ cls := "LiarMapsModel", name := "follows", desc := "(I)V" } : Jvm.MethodName) prog_9_method_12_code (8 : Nat) (Option.none : Option Jvm.ClassFile.FieldType)) ∈ lw_all := lw_g (lw_at lw_m8 63 rfl) rfl
theorem q1820 : (Jvm.Cond.methodLink "LiarMapsModel" (51 : Nat) ({ cls := "LiarMapsModel", name := "around", desc := "(I)I" } : Jvm.MethodName)) ∈ lw_all := lw_g (lw_at lw_m8 64 rfl) rfl
theorem q1821 : (Jvm.Cond.static ({ cls := "LiarMapsModel", name := "around", desc := "(I)I" } : Jvm.MethodName)) ∈ lw_all := lw_g (lw_at lw_m8 65 rfl) rfl
theorem q1822 : (Jvm.Cond.code ({ cls := "LiarMapsModel", name := "around", desc := "(I)I" } : Jvm.MethodName) prog_9_method_8_code (3 : Nat) (Option.some Jvm.ClassFile.FieldType.int)) ∈ lw_all := lw_g (lw_at lw_m8 66 rfl) rfl
theorem q1824 : (Jvm.Cond.instanceMethod ({ cls := "LiarMapsModel", name := "claim", desc := "(III)I" } : Jvm.MethodName)) ∈ lw_all := lw_g (lw_at lw_m8 68 rfl) rfl
theorem q1825 : (Jvm.Cond.selects "LiarMapsModel" ({ cls := "LiarMapsModel", name := "claim", desc := "(III)I" } : Jvm.MethodName) ({ cls := "LiarMapsModel", name := "claim", desc := "(III)I" } : Jvm.MethodName)) ∈ lw_all := lw_g (lw_at lw_m8 69 rfl) rfl
theorem q1826 : (Jvm.Cond.code ({ cls := "LiarMapsModel", name := "claim", desc := "(III)I" } : Jvm.MethodName) prog_9_method_29_code (5 : Nat) (Option.some Jvm.ClassFile.FieldType.int)) ∈ lw_all := lw_g (lw_at lw_m8 70 rfl) rfl
theorem q1827 : (Jvm.Cond.methodLink "LiarMapsModel" (97 : Nat) ({ cls := "LiarMapsModel", name := "barClaim", desc := "(III)I" } : Jvm.MethodName)) ∈ lw_all := lw_g (lw_at lw_m8 71 rfl) rfl
theorem q1828 : (Jvm.Cond.privateMethod ({ cls := "LiarMapsModel", name := "barClaim", desc := "(III)I" } : Jvm.MethodName)) ∈ lw_tbl := lw_at lw_m8 72 rfl
theorem q1829 : (Jvm.Cond.instanceMethod ({ cls := "LiarMapsModel", name := "barClaim", desc := "(III)I" } : Jvm.MethodName)) ∈ lw_all := lw_g (lw_at lw_m8 73 rfl) rfl
theorem q1830 : (Jvm.Cond.code ({ cls := "LiarMapsModel", name := "barClaim", desc := "(III)I" } : Jvm.MethodName) prog_9_method_27_code (4 : Nat) (Option.some Jvm.ClassFile.FieldType.int)) ∈ lw_all := lw_g (lw_at lw_m8 74 rfl) rfl
theorem q1831 : (Jvm.Cond.methodLink "LiarMapsModel" (84 : Nat) ({ cls := "LiarMapsModel", name := "goes", desc := "()Z" } : Jvm.MethodName)) ∈ lw_all := lw_g (lw_at lw_m8 75 rfl) rfl
theorem q1832 : (Jvm.Cond.privateMethod ({ cls := "LiarMapsModel", name := "goes", desc := "()Z" } : Jvm.MethodName)) ∈ lw_tbl := lw_at lw_m8 76 rfl
theorem q1833 : (Jvm.Cond.instanceMethod ({ cls := "LiarMapsModel", name := "goes", desc := "()Z" } : Jvm.MethodName)) ∈ lw_all := lw_g (lw_at lw_m8 77 rfl) rfl
theorem q1834 : (Jvm.Cond.code ({ cls := "LiarMapsModel", name := "goes", desc := "()Z" } : Jvm.MethodName) prog_9_method_22_code (1 : Nat) (Option.some Jvm.ClassFile.FieldType.boolean)) ∈ lw_all := lw_g (lw_at lw_m8 78 rfl) rfl
theorem q1835 : (Jvm.Cond.methodLink "LiarMapsModel" (101 : Nat) ({ cls := "LiarMapsModel", name := "says", desc := "(III)I" } : Jvm.MethodName)) ∈ lw_all := lw_g (lw_at lw_m8 79 rfl) rfl
theorem q1836 : (Jvm.Cond.privateMethod ({ cls := "LiarMapsModel", name := "says", desc := "(III)I" } : Jvm.MethodName)) ∈ lw_tbl := lw_at lw_m8 80 rfl
theorem q1837 : (Jvm.Cond.instanceMethod ({ cls := "LiarMapsModel", name := "says", desc := "(III)I" } : Jvm.MethodName)) ∈ lw_all := lw_g (lw_at lw_m8 81 rfl) rfl
theorem q1838 : (Jvm.Cond.code ({ cls := "LiarMapsModel", name := "says", desc := "(III)I" } : Jvm.MethodName) prog_9_method_28_code (6 : Nat) (Option.some Jvm.ClassFile.FieldType.int)) ∈ lw_all := lw_g (lw_at lw_m8 82 rfl) rfl
theorem q1839 : (Jvm.Cond.methodLink "LiarMapsModel" (87 : Nat) ({ cls := "LiarMapsModel", name := "turn", desc := "()I" } : Jvm.MethodName)) ∈ lw_all := lw_g (lw_at lw_m8 83 rfl) rfl
theorem q1840 : (Jvm.Cond.privateMethod ({ cls := "LiarMapsModel", name := "turn", desc := "()I" } : Jvm.MethodName)) ∈ lw_tbl := lw_at lw_m8 84 rfl
theorem q1841 : (Jvm.Cond.instanceMethod ({ cls := "LiarMapsModel", name := "turn", desc := "()I" } : Jvm.MethodName)) ∈ lw_all := lw_g (lw_at lw_m8 85 rfl) rfl
theorem q1842 : (Jvm.Cond.code ({ cls := "LiarMapsModel", name := "turn", desc := "()I" } : Jvm.MethodName) prog_9_method_23_code (1 : Nat) (Option.some Jvm.ClassFile.FieldType.int)) ∈ lw_all := lw_g (lw_at lw_m8 86 rfl) rfl
theorem q1843 : (Jvm.Cond.methodLink "LiarMapsModel" (91 : Nat) ({ cls := "LiarMapsModel", name := "ends", desc := "()V" } : Jvm.MethodName)) ∈ lw_all := lw_g (lw_at lw_m8 87 rfl) rfl
theorem q1844 : (Jvm.Cond.privateMethod ({ cls := "LiarMapsModel", name := "ends", desc := "()V" } : Jvm.MethodName)) ∈ lw_tbl := lw_at lw_m8 88 rfl
theorem q1845 : (Jvm.Cond.instanceMethod ({ cls := "LiarMapsModel", name := "ends", desc := "()V" } : Jvm.MethodName)) ∈ lw_all := lw_g (lw_at lw_m8 89 rfl) rfl
theorem q1846 : (Jvm.Cond.code ({ cls := "LiarMapsModel", name := "ends", desc := "()V" } : Jvm.MethodName) prog_9_method_24_code (1 : Nat) (Option.none : Option Jvm.ClassFile.FieldType)) ∈ lw_all := lw_g (lw_at lw_m8 90 rfl) rfl
theorem q1847 : (Jvm.Cond.methodLink "LiarMapsModel" (94 : Nat) ({ cls := "LiarMapsModel", name := "claims", desc := "(I)I" } : Jvm.MethodName)) ∈ lw_all := lw_g (lw_at lw_m8 91 rfl) rfl
theorem q1848 : (Jvm.Cond.privateMethod ({ cls := "LiarMapsModel", name := "claims", desc := "(I)I" } : Jvm.MethodName)) ∈ lw_tbl := lw_at lw_m8 92 rfl
theorem q1849 : (Jvm.Cond.instanceMethod ({ cls := "LiarMapsModel", name := "claims", desc := "(I)I" } : Jvm.MethodName)) ∈ lw_all := lw_g (lw_at lw_m8 93 rfl) rfl
theorem q1850 : (Jvm.Cond.code ({ cls := "LiarMapsModel", name := "claims", desc := "(I)I" } : Jvm.MethodName) prog_9_method_26_code (2 : Nat) (Option.some Jvm.ClassFile.FieldType.int)) ∈ lw_all := lw_g (lw_at lw_m8 94 rfl) rfl
theorem q1852 : (Jvm.Cond.instanceMethod ({ cls := "LiarMapsModel", name := "check", desc := "(III)I" } : Jvm.MethodName)) ∈ lw_all := lw_g (lw_at lw_m8 96 rfl) rfl
theorem q1853 : (Jvm.Cond.selects "LiarMapsModel" ({ cls := "LiarMapsModel", name := "check", desc := "(III)I" } : Jvm.MethodName) ({ cls := "LiarMapsModel", name := "check", desc := "(III)I" } : Jvm.MethodName)) ∈ lw_all := lw_g (lw_at lw_m8 97 rfl) rfl
theorem q1854 : (Jvm.Cond.code ({ cls := "LiarMapsModel", name := "check", desc := "(III)I" } : Jvm.MethodName) prog_9_method_33_code (5 : Nat) (Option.some Jvm.ClassFile.FieldType.int)) ∈ lw_all := lw_g (lw_at lw_m8 98 rfl) rfl
theorem q1855 : (Jvm.Cond.methodLink "LiarMapsModel" (115 : Nat) ({ cls := "LiarMapsModel", name := "barCheck", desc := "(III)I" } : Jvm.MethodName)) ∈ lw_all := lw_g (lw_at lw_m8 99 rfl) rfl
theorem q1856 : (Jvm.Cond.privateMethod ({ cls := "LiarMapsModel", name := "barCheck", desc := "(III)I" } : Jvm.MethodName)) ∈ lw_tbl := lw_at lw_m8 100 rfl
theorem q1857 : (Jvm.Cond.instanceMethod ({ cls := "LiarMapsModel", name := "barCheck", desc := "(III)I" } : Jvm.MethodName)) ∈ lw_all := lw_g (lw_at lw_m8 101 rfl) rfl
theorem q1858 : (Jvm.Cond.code ({ cls := "LiarMapsModel", name := "barCheck", desc := "(III)I" } : Jvm.MethodName) prog_9_method_30_code (5 : Nat) (Option.some Jvm.ClassFile.FieldType.int)) ∈ lw_all := lw_g (lw_at lw_m8 102 rfl) rfl
theorem q1859 : (Jvm.Cond.methodLink "LiarMapsModel" (104 : Nat) ({ cls := "LiarMapsModel", name := "isPlayer", desc := "(I)Z" } : Jvm.MethodName)) ∈ lw_all := lw_g (lw_at lw_m8 103 rfl) rfl
theorem q1860 : (Jvm.Cond.static ({ cls := "LiarMapsModel", name := "isPlayer", desc := "(I)Z" } : Jvm.MethodName)) ∈ lw_all := lw_g (lw_at lw_m8 104 rfl) rfl
theorem q1861 : (Jvm.Cond.code ({ cls := "LiarMapsModel", name := "isPlayer", desc := "(I)Z" } : Jvm.MethodName) prog_9_method_5_code (1 : Nat) (Option.some Jvm.ClassFile.FieldType.boolean)) ∈ lw_all := lw_g (lw_at lw_m8 105 rfl) rfl
theorem q1862 : (Jvm.Cond.methodLink "LiarMapsModel" (118 : Nat) ({ cls := "LiarMapsModel", name := "checks", desc := "(III)I" } : Jvm.MethodName)) ∈ lw_all := lw_g (lw_at lw_m8 106 rfl) rfl
theorem q1863 : (Jvm.Cond.privateMethod ({ cls := "LiarMapsModel", name := "checks", desc := "(III)I" } : Jvm.MethodName)) ∈ lw_tbl := lw_at lw_m8 107 rfl
theorem q1864 : (Jvm.Cond.instanceMethod ({ cls := "LiarMapsModel", name := "checks", desc := "(III)I" } : Jvm.MethodName)) ∈ lw_all := lw_g (lw_at lw_m8 108 rfl) rfl
theorem q1865 : (Jvm.Cond.code ({ cls := "LiarMapsModel", name := "checks", desc := "(III)I" } : Jvm.MethodName) prog_9_method_32_code (7 : Nat) (Option.some Jvm.ClassFile.FieldType.int)) ∈ lw_all := lw_g (lw_at lw_m8 109 rfl) rfl
theorem q1866 : (Jvm.Cond.methodLink "LiarMapsModel" (111 : Nat) ({ cls := "LiarMapsModel", name := "pays", desc := "(III)V" } : Jvm.MethodName)) ∈ lw_all := lw_g (lw_at lw_m8 110 rfl) rfl
theorem q1867 : (Jvm.Cond.privateMethod ({ cls := "LiarMapsModel", name := "pays", desc := "(III)V" } : Jvm.MethodName)) ∈ lw_tbl := lw_at lw_m8 111 rfl
theorem q1868 : (Jvm.Cond.instanceMethod ({ cls := "LiarMapsModel", name := "pays", desc := "(III)V" } : Jvm.MethodName)) ∈ lw_all := lw_g (lw_at lw_m8 112 rfl) rfl
theorem q1869 : (Jvm.Cond.code ({ cls := "LiarMapsModel", name := "pays", desc := "(III)V" } : Jvm.MethodName) prog_9_method_31_code (5 : Nat) (Option.none : Option Jvm.ClassFile.FieldType)) ∈ lw_all := lw_g (lw_at lw_m8 113 rfl) rfl
theorem q1870 : (Jvm.Cond.methodLink "LiarMapsModel" (107 : Nat) ({ cls := "LiarMapsModel", name := "gets", desc := "(II)V" } : Jvm.MethodName)) ∈ lw_all := lw_g (lw_at lw_m8 114 rfl) rfl
theorem q1871 : (Jvm.Cond.privateMethod ({ cls := "LiarMapsModel", name := "gets", desc := "(II)V" } : Jvm.MethodName)) ∈ lw_tbl := lw_at lw_m8 115 rfl
theorem q1872 : (Jvm.Cond.instanceMethod ({ cls := "LiarMapsModel", name := "gets", desc := "(II)V" } : Jvm.MethodName)) ∈ lw_all := lw_g (lw_at lw_m8 116 rfl) rfl
theorem q1873 : (Jvm.Cond.code ({ cls := "LiarMapsModel", name := "gets", desc := "(II)V" } : Jvm.MethodName) prog_9_method_25_code (3 : Nat) (Option.none : Option Jvm.ClassFile.FieldType)) ∈ lw_all := lw_g (lw_at lw_m8 117 rfl) rfl
theorem q1875 : (Jvm.Cond.instanceMethod ({ cls := "LiarMapsModel", name := "dig", desc := "(I)I" } : Jvm.MethodName)) ∈ lw_all := lw_g (lw_at lw_m8 119 rfl) rfl
theorem q1876 : (Jvm.Cond.selects "LiarMapsModel" ({ cls := "LiarMapsModel", name := "dig", desc := "(I)I" } : Jvm.MethodName) ({ cls := "LiarMapsModel", name := "dig", desc := "(I)I" } : Jvm.MethodName)) ∈ lw_all := lw_g (lw_at lw_m8 120 rfl) rfl
theorem q1877 : (Jvm.Cond.code ({ cls := "LiarMapsModel", name := "dig", desc := "(I)I" } : Jvm.MethodName) prog_9_method_36_code (3 : Nat) (Option.some Jvm.ClassFile.FieldType.int)) ∈ lw_all := lw_g (lw_at lw_m8 121 rfl) rfl
theorem q1878 : (Jvm.Cond.methodLink "LiarMapsModel" (124 : Nat) ({ cls := "LiarMapsModel", name := "barDig", desc := "(I)I" } : Jvm.MethodName)) ∈ lw_all := lw_g (lw_at lw_m8 122 rfl) rfl
theorem q1879 : (Jvm.Cond.privateMethod ({ cls := "LiarMapsModel", name := "barDig", desc := "(I)I" } : Jvm.MethodName)) ∈ lw_tbl := lw_at lw_m8 123 rfl
theorem q1880 : (Jvm.Cond.instanceMethod ({ cls := "LiarMapsModel", name := "barDig", desc := "(I)I" } : Jvm.MethodName)) ∈ lw_all := lw_g (lw_at lw_m8 124 rfl) rfl
theorem q1881 : (Jvm.Cond.code ({ cls := "LiarMapsModel", name := "barDig", desc := "(I)I" } : Jvm.MethodName) prog_9_method_34_code (2 : Nat) (Option.some Jvm.ClassFile.FieldType.int)) ∈ lw_all := lw_g (lw_at lw_m8 125 rfl) rfl
theorem q1882 : (Jvm.Cond.methodLink "LiarMapsModel" (127 : Nat) ({ cls := "LiarMapsModel", name := "digs", desc := "(I)I" } : Jvm.MethodName)) ∈ lw_all := lw_g (lw_at lw_m8 126 rfl) rfl
theorem q1883 : (Jvm.Cond.privateMethod ({ cls := "LiarMapsModel", name := "digs", desc := "(I)I" } : Jvm.MethodName)) ∈ lw_tbl := lw_at lw_m8 127 rfl
theorem q1884 : (Jvm.Cond.instanceMethod ({ cls := "LiarMapsModel", name := "digs", desc := "(I)I" } : Jvm.MethodName)) ∈ lw_all := lw_g (lw_at lw_m8 128 rfl) rfl
theorem q1885 : (Jvm.Cond.code ({ cls := "LiarMapsModel", name := "digs", desc := "(I)I" } : Jvm.MethodName) prog_9_method_35_code (4 : Nat) (Option.some Jvm.ClassFile.FieldType.int)) ∈ lw_all := lw_g (lw_at lw_m8 129 rfl) rfl
theorem q1886 : (Jvm.Cond.methodLink "LiarMapsModel" (121 : Nat) ({ cls := "LiarMapsModel", name := "measures", desc := "(II)V" } : Jvm.MethodName)) ∈ lw_all := lw_g (lw_at lw_m8 130 rfl) rfl
theorem q1887 : (Jvm.Cond.privateMethod ({ cls := "LiarMapsModel", name := "measures", desc := "(II)V" } : Jvm.MethodName)) ∈ lw_tbl := lw_at lw_m8 131 rfl
theorem q1888 : (Jvm.Cond.instanceMethod ({ cls := "LiarMapsModel", name := "measures", desc := "(II)V" } : Jvm.MethodName)) ∈ lw_all := lw_g (lw_at lw_m8 132 rfl) rfl
theorem q1889 : (Jvm.Cond.code ({ cls := "LiarMapsModel", name := "measures", desc := "(II)V" } : Jvm.MethodName) prog_9_method_10_code (7 : Nat) (Option.none : Option Jvm.ClassFile.FieldType)) ∈ lw_all := lw_g (lw_at lw_m8 133 rfl) rfl
theorem q1891 : (Jvm.Cond.instanceMethod ({ cls := "LiarMapsModel", name := "pass", desc := "()I" } : Jvm.MethodName)) ∈ lw_all := lw_g (lw_at lw_m8 135 rfl) rfl
theorem q1892 : (Jvm.Cond.selects "LiarMapsModel" ({ cls := "LiarMapsModel", name := "pass", desc := "()I" } : Jvm.MethodName) ({ cls := "LiarMapsModel", name := "pass", desc := "()I" } : Jvm.MethodName)) ∈ lw_all := lw_g (lw_at lw_m8 136 rfl) rfl
theorem q1893 : (Jvm.Cond.code ({ cls := "LiarMapsModel", name := "pass", desc := "()I" } : Jvm.MethodName) prog_9_method_37_code (1 : Nat) (Option.some Jvm.ClassFile.FieldType.int)) ∈ lw_all := lw_g (lw_at lw_m8 137 rfl) rfl
theorem q1895 : (Jvm.Cond.instanceMethod ({ cls := "LiarMapsModel", name := "ofRoad", desc := "(III)I" } : Jvm.MethodName)) ∈ lw_all := lw_g (lw_at lw_m8 139 rfl) rfl
theorem q1896 : (Jvm.Cond.selects "LiarMapsModel" ({ cls := "LiarMapsModel", name := "ofRoad", desc := "(III)I" } : Jvm.MethodName) ({ cls := "LiarMapsModel", name := "ofRoad", desc := "(III)I" } : Jvm.MethodName)) ∈ lw_all := lw_g (lw_at lw_m8 140 rfl) rfl
theorem q1897 : (Jvm.Cond.code ({ cls := "LiarMapsModel", name := "ofRoad", desc := "(III)I" } : Jvm.MethodName) prog_9_method_41_code (6 : Nat) (Option.some Jvm.ClassFile.FieldType.int)) ∈ lw_all := lw_g (lw_at lw_m8 141 rfl) rfl
theorem q1898 : (Jvm.Cond.methodLink "LiarMapsModel" (130 : Nat) ({ cls := "LiarMapsModel", name := "barPair", desc := "(II)I" } : Jvm.MethodName)) ∈ lw_all := lw_g (lw_at lw_m8 142 rfl) rfl
theorem q1899 : (Jvm.Cond.static ({ cls := "LiarMapsModel", name := "barPair", desc := "(II)I" } : Jvm.MethodName)) ∈ lw_all := lw_g (lw_at lw_m8 143 rfl) rfl
theorem q1900 : (Jvm.Cond.code ({ cls := "LiarMapsModel", name := "barPair", desc := "(II)I" } : Jvm.MethodName) prog_9_method_38_code (2 : Nat) (Option.some Jvm.ClassFile.FieldType.int)) ∈ lw_all := lw_g (lw_at lw_m8 144 rfl) rfl
theorem q1901 : (Jvm.Cond.methodLink "LiarMapsModel" (133 : Nat) ({ cls := "LiarMapsModel", name := "seen", desc := "(I)I" } : Jvm.MethodName)) ∈ lw_all := lw_g (lw_at lw_m8 145 rfl) rfl
theorem q1902 : (Jvm.Cond.privateMethod ({ cls := "LiarMapsModel", name := "seen", desc := "(I)I" } : Jvm.MethodName)) ∈ lw_tbl := lw_at lw_m8 146 rfl
theorem q1903 : (Jvm.Cond.instanceMethod ({ cls := "LiarMapsModel", name := "seen", desc := "(I)I" } : Jvm.MethodName)) ∈ lw_all := lw_g (lw_at lw_m8 147 rfl) rfl
theorem q1904 : (Jvm.Cond.code ({ cls := "LiarMapsModel", name := "seen", desc := "(I)I" } : Jvm.MethodName) prog_9_method_39_code (2 : Nat) (Option.some Jvm.ClassFile.FieldType.int)) ∈ lw_all := lw_g (lw_at lw_m8 148 rfl) rfl
theorem q1905 : (Jvm.Cond.methodLink "LiarMapsModel" (136 : Nat) ({ cls := "LiarMapsModel", name := "claimers", desc := "(II)I" } : Jvm.MethodName)) ∈ lw_all := lw_g (lw_at lw_m8 149 rfl) rfl
theorem q1906 : (Jvm.Cond.privateMethod ({ cls := "LiarMapsModel", name := "claimers", desc := "(II)I" } : Jvm.MethodName)) ∈ lw_tbl := lw_at lw_m8 150 rfl
theorem q1907 : (Jvm.Cond.instanceMethod ({ cls := "LiarMapsModel", name := "claimers", desc := "(II)I" } : Jvm.MethodName)) ∈ lw_all := lw_g (lw_at lw_m8 151 rfl) rfl
theorem q1908 : (Jvm.Cond.code ({ cls := "LiarMapsModel", name := "claimers", desc := "(II)I" } : Jvm.MethodName) prog_9_method_40_code (5 : Nat) (Option.some Jvm.ClassFile.FieldType.int)) ∈ lw_all := lw_g (lw_at lw_m8 152 rfl) rfl
theorem q1910 : (Jvm.Cond.instanceMethod ({ cls := "LiarMapsModel", name := "knows", desc := "(III)I" } : Jvm.MethodName)) ∈ lw_all := lw_g (lw_at lw_m8 154 rfl) rfl
theorem q1911 : (Jvm.Cond.selects "LiarMapsModel" ({ cls := "LiarMapsModel", name := "knows", desc := "(III)I" } : Jvm.MethodName) ({ cls := "LiarMapsModel", name := "knows", desc := "(III)I" } : Jvm.MethodName)) ∈ lw_all := lw_g (lw_at lw_m8 155 rfl) rfl
theorem q1912 : (Jvm.Cond.code ({ cls := "LiarMapsModel", name := "knows", desc := "(III)I" } : Jvm.MethodName) prog_9_method_42_code (6 : Nat) (Option.some Jvm.ClassFile.FieldType.int)) ∈ lw_all := lw_g (lw_at lw_m8 156 rfl) rfl
theorem q1914 : (Jvm.Cond.instanceMethod ({ cls := "LiarMapsModel", name := "player", desc := "(II)I" } : Jvm.MethodName)) ∈ lw_all := lw_g (lw_at lw_m8 158 rfl) rfl
theorem q1915 : (Jvm.Cond.selects "LiarMapsModel" ({ cls := "LiarMapsModel", name := "player", desc := "(II)I" } : Jvm.MethodName) ({ cls := "LiarMapsModel", name := "player", desc := "(II)I" } : Jvm.MethodName)) ∈ lw_all := lw_g (lw_at lw_m8 159 rfl) rfl
theorem q1916 : (Jvm.Cond.code ({ cls := "LiarMapsModel", name := "player", desc := "(II)I" } : Jvm.MethodName) prog_9_method_45_code (3 : Nat) (Option.some Jvm.ClassFile.FieldType.int)) ∈ lw_all := lw_g (lw_at lw_m8 160 rfl) rfl
theorem q1917 : (Jvm.Cond.methodLink "LiarMapsModel" (139 : Nat) ({ cls := "LiarMapsModel", name := "shown", desc := "(I)I" } : Jvm.MethodName)) ∈ lw_all := lw_g (lw_at lw_m8 161 rfl) rfl
theorem q1918 : (Jvm.Cond.privateMethod ({ cls := "LiarMapsModel", name := "shown", desc := "(I)I" } : Jvm.MethodName)) ∈ lw_tbl := lw_at lw_m8 162 rfl
theorem q1919 : (Jvm.Cond.instanceMethod ({ cls := "LiarMapsModel", name := "shown", desc := "(I)I" } : Jvm.MethodName)) ∈ lw_all := lw_g (lw_at lw_m8 163 rfl) rfl
theorem q1920 : (Jvm.Cond.code ({ cls := "LiarMapsModel", name := "shown", desc := "(I)I" } : Jvm.MethodName) prog_9_method_44_code (2 : Nat) (Option.some Jvm.ClassFile.FieldType.int)) ∈ lw_all := lw_g (lw_at lw_m8 164 rfl) rfl
theorem q1921 : (Jvm.Cond.methodLink "LiarMapsModel" (142 : Nat) ({ cls := "LiarMapsModel", name := "third", desc := "(I)I" } : Jvm.MethodName)) ∈ lw_all := lw_g (lw_at lw_m8 165 rfl) rfl
theorem q1922 : (Jvm.Cond.static ({ cls := "LiarMapsModel", name := "third", desc := "(I)I" } : Jvm.MethodName)) ∈ lw_all := lw_g (lw_at lw_m8 166 rfl) rfl
theorem q1923 : (Jvm.Cond.code ({ cls := "LiarMapsModel", name := "third", desc := "(I)I" } : Jvm.MethodName) prog_9_method_43_code (3 : Nat) (Option.some Jvm.ClassFile.FieldType.int)) ∈ lw_all := lw_g (lw_at lw_m8 167 rfl) rfl
theorem q1925 : (Jvm.Cond.instanceMethod ({ cls := "LiarMapsModel", name := "place", desc := "(II)I" } : Jvm.MethodName)) ∈ lw_all := lw_g (lw_at lw_m8 169 rfl) rfl
theorem q1926 : (Jvm.Cond.selects "LiarMapsModel" ({ cls := "LiarMapsModel", name := "place", desc := "(II)I" } : Jvm.MethodName) ({ cls := "LiarMapsModel", name := "place", desc := "(II)I" } : Jvm.MethodName)) ∈ lw_all := lw_g (lw_at lw_m8 170 rfl) rfl
theorem q1927 : (Jvm.Cond.code ({ cls := "LiarMapsModel", name := "place", desc := "(II)I" } : Jvm.MethodName) prog_9_method_48_code (3 : Nat) (Option.some Jvm.ClassFile.FieldType.int)) ∈ lw_all := lw_g (lw_at lw_m8 171 rfl) rfl
theorem q1928 : (Jvm.Cond.methodLink "LiarMapsModel" (145 : Nat) ({ cls := "LiarMapsModel", name := "told", desc := "(I)I" } : Jvm.MethodName)) ∈ lw_all := lw_g (lw_at lw_m8 172 rfl) rfl
theorem q1929 : (Jvm.Cond.privateMethod ({ cls := "LiarMapsModel", name := "told", desc := "(I)I" } : Jvm.MethodName)) ∈ lw_tbl := lw_at lw_m8 173 rfl
theorem q1930 : (Jvm.Cond.instanceMethod ({ cls := "LiarMapsModel", name := "told", desc := "(I)I" } : Jvm.MethodName)) ∈ lw_all := lw_g (lw_at lw_m8 174 rfl) rfl
theorem q1931 : (Jvm.Cond.code ({ cls := "LiarMapsModel", name := "told", desc := "(I)I" } : Jvm.MethodName) prog_9_method_46_code (3 : Nat) (Option.some Jvm.ClassFile.FieldType.int)) ∈ lw_all := lw_g (lw_at lw_m8 175 rfl) rfl
theorem q1932 : (Jvm.Cond.methodLink "LiarMapsModel" (148 : Nat) ({ cls := "LiarMapsModel", name := "neighbours", desc := "(I)I" } : Jvm.MethodName)) ∈ lw_all := lw_g (lw_at lw_m8 176 rfl) rfl
theorem q1933 : (Jvm.Cond.privateMethod ({ cls := "LiarMapsModel", name := "neighbours", desc := "(I)I" } : Jvm.MethodName)) ∈ lw_tbl := lw_at lw_m8 177 rfl
theorem q1934 : (Jvm.Cond.instanceMethod ({ cls := "LiarMapsModel", name := "neighbours", desc := "(I)I" } : Jvm.MethodName)) ∈ lw_all := lw_g (lw_at lw_m8 178 rfl) rfl
theorem q1935 : (Jvm.Cond.code ({ cls := "LiarMapsModel", name := "neighbours", desc := "(I)I" } : Jvm.MethodName) prog_9_method_47_code (4 : Nat) (Option.some Jvm.ClassFile.FieldType.int)) ∈ lw_all := lw_g (lw_at lw_m8 179 rfl) rfl
theorem q1937 : (Jvm.Cond.instanceMethod ({ cls := "LiarMapsModel", name := "dug", desc := "(I)I" } : Jvm.MethodName)) ∈ lw_all := lw_g (lw_at lw_m8 181 rfl) rfl
theorem q1938 : (Jvm.Cond.selects "LiarMapsModel" ({ cls := "LiarMapsModel", name := "dug", desc := "(I)I" } : Jvm.MethodName) ({ cls := "LiarMapsModel", name := "dug", desc := "(I)I" } : Jvm.MethodName)) ∈ lw_all := lw_g (lw_at lw_m8 182 rfl) rfl
theorem q1939 : (Jvm.Cond.code ({ cls := "LiarMapsModel", name := "dug", desc := "(I)I" } : Jvm.MethodName) prog_9_method_49_code (2 : Nat) (Option.some Jvm.ClassFile.FieldType.int)) ∈ lw_all := lw_g (lw_at lw_m8 183 rfl) rfl
theorem q1941 : (Jvm.Cond.instanceMethod ({ cls := "LiarMapsModel", name := "count", desc := "(I)I" } : Jvm.MethodName)) ∈ lw_all := lw_g (lw_at lw_m8 185 rfl) rfl
theorem q1942 : (Jvm.Cond.selects "LiarMapsModel" ({ cls := "LiarMapsModel", name := "count", desc := "(I)I" } : Jvm.MethodName) ({ cls := "LiarMapsModel", name := "count", desc := "(I)I" } : Jvm.MethodName)) ∈ lw_all := lw_g (lw_at lw_m8 186 rfl) rfl
theorem q1943 : (Jvm.Cond.code ({ cls := "LiarMapsModel", name := "count", desc := "(I)I" } : Jvm.MethodName) prog_9_method_50_code (2 : Nat) (Option.some Jvm.ClassFile.FieldType.int)) ∈ lw_all := lw_g (lw_at lw_m8 187 rfl) rfl
theorem q1945 : (Jvm.Cond.instanceMethod ({ cls := "LiarMapsModel", name := "canBe", desc := "()I" } : Jvm.MethodName)) ∈ lw_all := lw_g (lw_at lw_m8 189 rfl) rfl
theorem q1946 : (Jvm.Cond.selects "LiarMapsModel" ({ cls := "LiarMapsModel", name := "canBe", desc := "()I" } : Jvm.MethodName) ({ cls := "LiarMapsModel", name := "canBe", desc := "()I" } : Jvm.MethodName)) ∈ lw_all := lw_g (lw_at lw_m8 190 rfl) rfl
theorem q1947 : (Jvm.Cond.code ({ cls := "LiarMapsModel", name := "canBe", desc := "()I" } : Jvm.MethodName) prog_9_method_51_code (4 : Nat) (Option.some Jvm.ClassFile.FieldType.int)) ∈ lw_all := lw_g (lw_at lw_m8 191 rfl) rfl
theorem q1949 : (Jvm.Cond.instanceMethod ({ cls := "LiarMapsModel", name := "shows", desc := "(II)I" } : Jvm.MethodName)) ∈ lw_all := lw_g (lw_at lw_m8 193 rfl) rfl
theorem q1950 : (Jvm.Cond.selects "LiarMapsModel" ({ cls := "LiarMapsModel", name := "shows", desc := "(II)I" } : Jvm.MethodName) ({ cls := "LiarMapsModel", name := "shows", desc := "(II)I" } : Jvm.MethodName)) ∈ lw_all := lw_g (lw_at lw_m8 194 rfl) rfl
theorem q1951 : (Jvm.Cond.code ({ cls := "LiarMapsModel", name := "shows", desc := "(II)I" } : Jvm.MethodName) prog_9_method_53_code (4 : Nat) (Option.some Jvm.ClassFile.FieldType.int)) ∈ lw_all := lw_g (lw_at lw_m8 195 rfl) rfl
theorem q1952 : (Jvm.Cond.methodLink "LiarMapsModel" (154 : Nat) ({ cls := "LiarMapsModel", name := "more", desc := "(I)I" } : Jvm.MethodName)) ∈ lw_all := lw_g (lw_at lw_m8 196 rfl) rfl
theorem q1953 : (Jvm.Cond.privateMethod ({ cls := "LiarMapsModel", name := "more", desc := "(I)I" } : Jvm.MethodName)) ∈ lw_tbl := lw_at lw_m8 197 rfl
theorem q1954 : (Jvm.Cond.instanceMethod ({ cls := "LiarMapsModel", name := "more", desc := "(I)I" } : Jvm.MethodName)) ∈ lw_all := lw_g (lw_at lw_m8 198 rfl) rfl
theorem q1955 : (Jvm.Cond.code ({ cls := "LiarMapsModel", name := "more", desc := "(I)I" } : Jvm.MethodName) prog_9_method_52_code (3 : Nat) (Option.some Jvm.ClassFile.FieldType.int)) ∈ lw_all := lw_g (lw_at lw_m8 199 rfl) rfl
theorem q1957 : (Jvm.Cond.instanceMethod ({ cls := "LiarMapsModel", name := "bestShow", desc := "(I)I" } : Jvm.MethodName)) ∈ lw_all := lw_g (lw_at lw_m8 201 rfl) rfl
theorem q1958 : (Jvm.Cond.selects "LiarMapsModel" ({ cls := "LiarMapsModel", name := "bestShow", desc := "(I)I" } : Jvm.MethodName) ({ cls := "LiarMapsModel", name := "bestShow", desc := "(I)I" } : Jvm.MethodName)) ∈ lw_all := lw_g (lw_at lw_m8 202 rfl) rfl
theorem q1959 : (Jvm.Cond.code ({ cls := "LiarMapsModel", name := "bestShow", desc := "(I)I" } : Jvm.MethodName) prog_9_method_54_code (6 : Nat) (Option.some Jvm.ClassFile.FieldType.int)) ∈ lw_all := lw_g (lw_at lw_m8 203 rfl) rfl
theorem q1961 : (Jvm.Cond.instanceMethod ({ cls := "LiarMapsModel", name := "knownWay", desc := "(II)I" } : Jvm.MethodName)) ∈ lw_all := lw_g (lw_at lw_m8 205 rfl) rfl
theorem q1962 : (Jvm.Cond.selects "LiarMapsModel" ({ cls := "LiarMapsModel", name := "knownWay", desc := "(II)I" } : Jvm.MethodName) ({ cls := "LiarMapsModel", name := "knownWay", desc := "(II)I" } : Jvm.MethodName)) ∈ lw_all := lw_g (lw_at lw_m8 206 rfl) rfl
theorem q1963 : (Jvm.Cond.code ({ cls := "LiarMapsModel", name := "knownWay", desc := "(II)I" } : Jvm.MethodName) prog_9_method_55_code (3 : Nat) (Option.some Jvm.ClassFile.FieldType.int)) ∈ lw_all := lw_g (lw_at lw_m8 207 rfl) rfl
theorem q1965 : (Jvm.Cond.instanceMethod ({ cls := "LiarMapsModel", name := "put", desc := "(J)I" } : Jvm.MethodName)) ∈ lw_all := lw_g (lw_at lw_m8 209 rfl) rfl
theorem q1966 : (Jvm.Cond.selects "LiarMapsModel" ({ cls := "LiarMapsModel", name := "put", desc := "(J)I" } : Jvm.MethodName) ({ cls := "LiarMapsModel", name := "put", desc := "(J)I" } : Jvm.MethodName)) ∈ lw_all := lw_g (lw_at lw_m8 210 rfl) rfl
theorem q1967 : (Jvm.Cond.code ({ cls := "LiarMapsModel", name := "put", desc := "(J)I" } : Jvm.MethodName) prog_9_method_56_code (7 : Nat) (Option.some Jvm.ClassFile.FieldType.int)) ∈ lw_all := lw_g (lw_at lw_m8 211 rfl) rfl
theorem q1968 : (Jvm.Cond.constantLong "LiarMapsModel" (157 : Nat) (255 : Int64)) ∈ lw_all := lw_g (lw_at lw_m8 212 rfl) rfl
theorem q1970 : (Jvm.Cond.instanceMethod ({ cls := "LiarMapsModel", name := "wipe", desc := "()I" } : Jvm.MethodName)) ∈ lw_all := lw_g (lw_at lw_m8 214 rfl) rfl
theorem q1971 : (Jvm.Cond.selects "LiarMapsModel" ({ cls := "LiarMapsModel", name := "wipe", desc := "()I" } : Jvm.MethodName) ({ cls := "LiarMapsModel", name := "wipe", desc := "()I" } : Jvm.MethodName)) ∈ lw_all := lw_g (lw_at lw_m8 215 rfl) rfl
theorem q1972 : (Jvm.Cond.code ({ cls := "LiarMapsModel", name := "wipe", desc := "()I" } : Jvm.MethodName) prog_9_method_57_code (2 : Nat) (Option.some Jvm.ClassFile.FieldType.int)) ∈ lw_all := lw_g (lw_at lw_m8 216 rfl) rfl
theorem q1974 : (Jvm.Cond.instanceMethod ({ cls := "LiarMapsModel", name := "fault", desc := "()I" } : Jvm.MethodName)) ∈ lw_all := lw_g (lw_at lw_m8 218 rfl) rfl
theorem q1975 : (Jvm.Cond.selects "LiarMapsModel" ({ cls := "LiarMapsModel", name := "fault", desc := "()I" } : Jvm.MethodName) ({ cls := "LiarMapsModel", name := "fault", desc := "()I" } : Jvm.MethodName)) ∈ lw_all := lw_g (lw_at lw_m8 219 rfl) rfl
theorem q1976 : (Jvm.Cond.code ({ cls := "LiarMapsModel", name := "fault", desc := "()I" } : Jvm.MethodName) prog_9_method_61_code (1 : Nat) (Option.some Jvm.ClassFile.FieldType.int)) ∈ lw_all := lw_g (lw_at lw_m8 220 rfl) rfl
theorem q1977 : (Jvm.Cond.methodLink "LiarMapsModel" (184 : Nat) ({ cls := "LiarMapsModel", name := "isWhole", desc := "()Z" } : Jvm.MethodName)) ∈ lw_all := lw_g (lw_at lw_m8 221 rfl) rfl
theorem q1978 : (Jvm.Cond.privateMethod ({ cls := "LiarMapsModel", name := "isWhole", desc := "()Z" } : Jvm.MethodName)) ∈ lw_tbl := lw_at lw_m8 222 rfl
theorem q1979 : (Jvm.Cond.instanceMethod ({ cls := "LiarMapsModel", name := "isWhole", desc := "()Z" } : Jvm.MethodName)) ∈ lw_all := lw_g (lw_at lw_m8 223 rfl) rfl
theorem q1980 : (Jvm.Cond.code ({ cls := "LiarMapsModel", name := "isWhole", desc := "()Z" } : Jvm.MethodName) prog_9_method_60_code (3 : Nat) (Option.some Jvm.ClassFile.FieldType.boolean)) ∈ lw_all := lw_g (lw_at lw_m8 224 rfl) rfl
theorem q1981 : (Jvm.Cond.methodLink "LiarMapsModel" (181 : Nat) ({ cls := "LiarMapsModel", name := "order", desc := "()V" } : Jvm.MethodName)) ∈ lw_all := lw_g (lw_at lw_m8 225 rfl) rfl
theorem q1982 : (Jvm.Cond.privateMethod ({ cls := "LiarMapsModel", name := "order", desc := "()V" } : Jvm.MethodName)) ∈ lw_tbl := lw_at lw_m8 226 rfl
theorem q1983 : (Jvm.Cond.instanceMethod ({ cls := "LiarMapsModel", name := "order", desc := "()V" } : Jvm.MethodName)) ∈ lw_all := lw_g (lw_at lw_m8 227 rfl) rfl
theorem q1984 : (Jvm.Cond.code ({ cls := "LiarMapsModel", name := "order", desc := "()V" } : Jvm.MethodName) prog_9_method_59_code (3 : Nat) (Option.none : Option Jvm.ClassFile.FieldType)) ∈ lw_all := lw_g (lw_at lw_m8 228 rfl) rfl
theorem q1985 : (Jvm.Cond.methodLink "LiarMapsModel" (169 : Nat) ({ cls := "LiarMapsModel", name := "within", desc := "(II)I" } : Jvm.MethodName)) ∈ lw_all := lw_g (lw_at lw_m8 229 rfl) rfl
theorem q1986 : (Jvm.Cond.privateMethod ({ cls := "LiarMapsModel", name := "within", desc := "(II)I" } : Jvm.MethodName)) ∈ lw_tbl := lw_at lw_m8 230 rfl
theorem q1987 : (Jvm.Cond.instanceMethod ({ cls := "LiarMapsModel", name := "within", desc := "(II)I" } : Jvm.MethodName)) ∈ lw_all := lw_g (lw_at lw_m8 231 rfl) rfl
theorem q1988 : (Jvm.Cond.code ({ cls := "LiarMapsModel", name := "within", desc := "(II)I" } : Jvm.MethodName) prog_9_method_58_code (4 : Nat) (Option.some Jvm.ClassFile.FieldType.int)) ∈ lw_all := lw_g (lw_at lw_m8 232 rfl) rfl
theorem q1990 : (Jvm.Cond.instanceMethod ({ cls := "LiarMapsModel", name := "carryOut", desc := "()I" } : Jvm.MethodName)) ∈ lw_all := lw_g (lw_at lw_m8 234 rfl) rfl
theorem q1991 : (Jvm.Cond.selects "LiarMapsModel" ({ cls := "LiarMapsModel", name := "carryOut", desc := "()I" } : Jvm.MethodName) ({ cls := "LiarMapsModel", name := "carryOut", desc := "()I" } : Jvm.MethodName)) ∈ lw_all := lw_g (lw_at lw_m8 235 rfl) rfl
theorem q1992 : (Jvm.Cond.code ({ cls := "LiarMapsModel", name := "carryOut", desc := "()I" } : Jvm.MethodName) prog_9_method_64_code (4 : Nat) (Option.some Jvm.ClassFile.FieldType.int)) ∈ lw_all := lw_g (lw_at lw_m8 236 rfl) rfl
theorem q1993 : (Jvm.Cond.methodLink "LiarMapsModel" (187 : Nat) ({ cls := "LiarMapsModel", name := "bar", desc := "()I" } : Jvm.MethodName)) ∈ lw_all := lw_g (lw_at lw_m8 237 rfl) rfl
theorem q1994 : (Jvm.Cond.privateMethod ({ cls := "LiarMapsModel", name := "bar", desc := "()I" } : Jvm.MethodName)) ∈ lw_tbl := lw_at lw_m8 238 rfl
theorem q1995 : (Jvm.Cond.instanceMethod ({ cls := "LiarMapsModel", name := "bar", desc := "()I" } : Jvm.MethodName)) ∈ lw_all := lw_g (lw_at lw_m8 239 rfl) rfl
theorem q1996 : (Jvm.Cond.code ({ cls := "LiarMapsModel", name := "bar", desc := "()I" } : Jvm.MethodName) prog_9_method_62_code (1 : Nat) (Option.some Jvm.ClassFile.FieldType.int)) ∈ lw_all := lw_g (lw_at lw_m9 0 rfl) rfl
theorem q1997 : (Jvm.Cond.methodLink "LiarMapsModel" (190 : Nat) ({ cls := "LiarMapsModel", name := "does", desc := "()I" } : Jvm.MethodName)) ∈ lw_all := lw_g (lw_at lw_m9 1 rfl) rfl
theorem q1998 : (Jvm.Cond.privateMethod ({ cls := "LiarMapsModel", name := "does", desc := "()I" } : Jvm.MethodName)) ∈ lw_tbl := lw_at lw_m9 2 rfl
theorem q1999 : (Jvm.Cond.instanceMethod ({ cls := "LiarMapsModel", name := "does", desc := "()I" } : Jvm.MethodName)) ∈ lw_all := lw_g (lw_at lw_m9 3 rfl) rfl
theorem q2000 : (Jvm.Cond.code ({ cls := "LiarMapsModel", name := "does", desc := "()I" } : Jvm.MethodName) prog_9_method_63_code (1 : Nat) (Option.some Jvm.ClassFile.FieldType.int)) ∈ lw_all := lw_g (lw_at lw_m9 4 rfl) rfl
theorem q2002 : (Jvm.Cond.instanceMethod ({ cls := "LiarMapsModel", name := "undo", desc := "()I" } : Jvm.MethodName)) ∈ lw_all := lw_g (lw_at lw_m9 6 rfl) rfl
theorem q2003 : (Jvm.Cond.selects "LiarMapsModel" ({ cls := "LiarMapsModel", name := "undo", desc := "()I" } : Jvm.MethodName) ({ cls := "LiarMapsModel", name := "undo", desc := "()I" } : Jvm.MethodName)) ∈ lw_all := lw_g (lw_at lw_m9 7 rfl) rfl
theorem q2004 : (Jvm.Cond.code ({ cls := "LiarMapsModel", name := "undo", desc := "()I" } : Jvm.MethodName) prog_9_method_65_code (2 : Nat) (Option.some Jvm.ClassFile.FieldType.int)) ∈ lw_all := lw_g (lw_at lw_m9 8 rfl) rfl
theorem q2006 : (Jvm.Cond.instanceMethod ({ cls := "LiarMapsModel", name := "save", desc := "(I)I" } : Jvm.MethodName)) ∈ lw_all := lw_g (lw_at lw_m9 10 rfl) rfl
theorem q2007 : (Jvm.Cond.selects "LiarMapsModel" ({ cls := "LiarMapsModel", name := "save", desc := "(I)I" } : Jvm.MethodName) ({ cls := "LiarMapsModel", name := "save", desc := "(I)I" } : Jvm.MethodName)) ∈ lw_all := lw_g (lw_at lw_m9 11 rfl) rfl
theorem q2008 : (Jvm.Cond.code ({ cls := "LiarMapsModel", name := "save", desc := "(I)I" } : Jvm.MethodName) prog_9_method_66_code (3 : Nat) (Option.some Jvm.ClassFile.FieldType.int)) ∈ lw_all := lw_g (lw_at lw_m9 12 rfl) rfl
theorem q2010 : (Jvm.Cond.instanceMethod ({ cls := "LiarMapsModel", name := "restore", desc := "(I)I" } : Jvm.MethodName)) ∈ lw_all := lw_g (lw_at lw_m9 14 rfl) rfl
theorem q2011 : (Jvm.Cond.selects "LiarMapsModel" ({ cls := "LiarMapsModel", name := "restore", desc := "(I)I" } : Jvm.MethodName) ({ cls := "LiarMapsModel", name := "restore", desc := "(I)I" } : Jvm.MethodName)) ∈ lw_all := lw_g (lw_at lw_m9 15 rfl) rfl
theorem q2012 : (Jvm.Cond.code ({ cls := "LiarMapsModel", name := "restore", desc := "(I)I" } : Jvm.MethodName) prog_9_method_67_code (3 : Nat) (Option.some Jvm.ClassFile.FieldType.int)) ∈ lw_all := lw_g (lw_at lw_m9 16 rfl) rfl
theorem q2041 : (Jvm.Cond.castable "LiarMapsModel" "java/lang/Object") ∈ lw_tbl := lw_at lw_m9 45 rfl
theorem in_X3 : ∀ w ∈ wsX30, w ∈ lw_all := lw_in wsX30 [1728, 1730, 1732, 1734, 1736, 1738, 1740, 1742, 1744, 1746, 1748, 1750, 1752, 1754, 1756, 1758] (by decide +kernel) (by decide +kernel)
